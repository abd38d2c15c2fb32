/-! LiarMaps -/
set_option maxRecDepth 100000
def RX0 : String := "LiarMaps"
def TX0 : u_T := fun k => match k with
  | 0 => ("LiarMaps", "now", "LLiarMaps$Chart;", false)
  | 1 => ("LiarMaps", "past", "Ljava/util/Deque;", true)
  | 2 => ("LiarMaps", "saved", "[LLiarMaps$Chart;", true)
  | _ => ("LiarMaps", "pad", "Ljava/lang/StringBuilder;", true)
def tyX0 : Nat → FieldType := fun k => match k with
  | 0 => .object "LiarMaps$Chart"
  | 1 => .object "java/util/Deque"
  | 2 => .array (.object "LiarMaps$Chart")
  | _ => .object "java/lang/StringBuilder"
abbrev wsX00 : List Cond := u_ws RX0 TX0 4
theorem nmX0 : ∀ a, a < 4 → ∀ b, b < 4 → a ≠ b → (TX0 a).2.1 ≠ (TX0 b).2.1 := by decide +kernel
theorem tyX0_ok : ∀ k, k < 4 → parseFieldDescriptor (TX0 k).2.2.1 = some (tyX0 k) := by decide +kernel
abbrev cX0_init : ByteArray := prog_1_method_6_code
def yX0_init : MethodName := ⟨RX0, "<init>", "()V"⟩
def dkwX0_init_2 : List UInt8 := [181, 0, 51, 177]
abbrev dktX0_init_2 : List UInt8 := dkwX0_init_2 ++ []
def dkwX0_init_1 : List UInt8 := [183, 0, 37, 181, 0, 40, 42, 5, 189, 0, 28, 181, 0, 44, 42, 187, 0, 48, 89, 183, 0, 50]
abbrev dktX0_init_1 : List UInt8 := dkwX0_init_1 ++ dktX0_init_2
def dkwX0_init_0 : List UInt8 := [42, 183, 0, 22, 42, 187, 0, 28, 89, 183, 0, 30, 181, 0, 31, 42, 187, 0, 35, 89, 16, 8]
abbrev dktX0_init_0 : List UInt8 := dkwX0_init_0 ++ dktX0_init_1
theorem dksX0_init_0 : cX0_init.data.toList.drop 0 = dktX0_init_0 := by decide +kernel
theorem dksX0_init_1 : cX0_init.data.toList.drop 22 = dktX0_init_1 := dk_seg dksX0_init_0 22 rfl rfl
theorem dksX0_init_2 : cX0_init.data.toList.drop 44 = dktX0_init_2 := dk_seg dksX0_init_1 22 rfl rfl
theorem dX0_init_0 : decode cX0_init 0 = .ok (.aload_n 0, 1) := dk_42 (dk_at dksX0_init_0 0 rfl rfl)
theorem dX0_init_1 : decode cX0_init 1 = .ok (.invokespecial 22, 3) := dk_183 0 22 (dk_at dksX0_init_0 1 rfl rfl)
theorem dX0_init_4 : decode cX0_init 4 = .ok (.aload_n 0, 1) := dk_42 (dk_at dksX0_init_0 4 rfl rfl)
theorem dX0_init_5 : decode cX0_init 5 = .ok (.new 28, 3) := dk_187 0 28 (dk_at dksX0_init_0 5 rfl rfl)
theorem dX0_init_8 : decode cX0_init 8 = .ok (.dup, 1) := dk_89 (dk_at dksX0_init_0 8 rfl rfl)
theorem dX0_init_9 : decode cX0_init 9 = .ok (.invokespecial 30, 3) := dk_183 0 30 (dk_at dksX0_init_0 9 rfl rfl)
theorem dX0_init_12 : decode cX0_init 12 = .ok (.putfield 31, 3) := dk_181 0 31 (dk_at dksX0_init_0 12 rfl rfl)
theorem dX0_init_15 : decode cX0_init 15 = .ok (.aload_n 0, 1) := dk_42 (dk_at dksX0_init_0 15 rfl rfl)
theorem dX0_init_16 : decode cX0_init 16 = .ok (.new 35, 3) := dk_187 0 35 (dk_at dksX0_init_0 16 rfl rfl)
theorem dX0_init_19 : decode cX0_init 19 = .ok (.dup, 1) := dk_89 (dk_at dksX0_init_0 19 rfl rfl)
theorem dX0_init_20 : decode cX0_init 20 = .ok (.bipush 8, 2) := dk_16 8 (dk_at dksX0_init_0 20 rfl rfl)
theorem dX0_init_22 : decode cX0_init 22 = .ok (.invokespecial 37, 3) := dk_183 0 37 (dk_at dksX0_init_1 0 rfl rfl)
theorem dX0_init_25 : decode cX0_init 25 = .ok (.putfield 40, 3) := dk_181 0 40 (dk_at dksX0_init_1 3 rfl rfl)
theorem dX0_init_28 : decode cX0_init 28 = .ok (.aload_n 0, 1) := dk_42 (dk_at dksX0_init_1 6 rfl rfl)
theorem dX0_init_29 : decode cX0_init 29 = .ok (.iconst 2, 1) := dk_5 (dk_at dksX0_init_1 7 rfl rfl)
theorem dX0_init_30 : decode cX0_init 30 = .ok (.anewarray 28, 3) := dk_189 0 28 (dk_at dksX0_init_1 8 rfl rfl)
theorem dX0_init_33 : decode cX0_init 33 = .ok (.putfield 44, 3) := dk_181 0 44 (dk_at dksX0_init_1 11 rfl rfl)
theorem dX0_init_36 : decode cX0_init 36 = .ok (.aload_n 0, 1) := dk_42 (dk_at dksX0_init_1 14 rfl rfl)
theorem dX0_init_37 : decode cX0_init 37 = .ok (.new 48, 3) := dk_187 0 48 (dk_at dksX0_init_1 15 rfl rfl)
theorem dX0_init_40 : decode cX0_init 40 = .ok (.dup, 1) := dk_89 (dk_at dksX0_init_1 18 rfl rfl)
theorem dX0_init_41 : decode cX0_init 41 = .ok (.invokespecial 50, 3) := dk_183 0 50 (dk_at dksX0_init_1 19 rfl rfl)
theorem dX0_init_44 : decode cX0_init 44 = .ok (.putfield 51, 3) := dk_181 0 51 (dk_at dksX0_init_2 0 rfl rfl)
theorem dX0_init_47 : decode cX0_init 47 = .ok (.return_, 1) := dk_177 (dk_at dksX0_init_2 3 rfl rfl)
abbrev cX0_set : ByteArray := prog_1_method_15_code
def yX0_set : MethodName := ⟨RX0, "set", "(II)I"⟩
def dkwX0_set_3 : List UInt8 := [180, 0, 31, 180, 0, 123, 27, 28, 79, 21, 5, 172]
abbrev dktX0_set_3 : List UInt8 := dkwX0_set_3 ++ []
def dkwX0_set_2 : List UInt8 := [54, 4, 21, 4, 156, 0, 6, 21, 4, 172, 42, 180, 0, 31, 180, 0, 123, 27, 46, 54, 5, 42]
abbrev dktX0_set_2 : List UInt8 := dkwX0_set_2 ++ dktX0_set_3
def dkwX0_set_1 : List UInt8 := [153, 0, 7, 4, 167, 0, 4, 3, 62, 42, 29, 153, 0, 7, 3, 167, 0, 5, 16, 254, 4, 182, 0, 132]
abbrev dktX0_set_1 : List UInt8 := dkwX0_set_1 ++ dktX0_set_2
def dkwX0_set_0 : List UInt8 := [27, 3, 6, 184, 0, 3, 153, 0, 24, 28, 178, 0, 126, 27, 46, 178, 0, 129, 27, 46, 184, 0, 3]
abbrev dktX0_set_0 : List UInt8 := dkwX0_set_0 ++ dktX0_set_1
theorem dksX0_set_0 : cX0_set.data.toList.drop 0 = dktX0_set_0 := by decide +kernel
theorem dksX0_set_1 : cX0_set.data.toList.drop 23 = dktX0_set_1 := dk_seg dksX0_set_0 23 rfl rfl
theorem dksX0_set_2 : cX0_set.data.toList.drop 47 = dktX0_set_2 := dk_seg dksX0_set_1 24 rfl rfl
theorem dksX0_set_3 : cX0_set.data.toList.drop 69 = dktX0_set_3 := dk_seg dksX0_set_2 22 rfl rfl
theorem dX0_set_0 : decode cX0_set 0 = .ok (.iload_n 1, 1) := dk_27 (dk_at dksX0_set_0 0 rfl rfl)
theorem dX0_set_1 : decode cX0_set 1 = .ok (.iconst 0, 1) := dk_3 (dk_at dksX0_set_0 1 rfl rfl)
theorem dX0_set_2 : decode cX0_set 2 = .ok (.iconst 3, 1) := dk_6 (dk_at dksX0_set_0 2 rfl rfl)
theorem dX0_set_3 : decode cX0_set 3 = .ok (.invokestatic 3, 3) := dk_184 0 3 (dk_at dksX0_set_0 3 rfl rfl)
theorem dX0_set_6 : decode cX0_set 6 = .ok (.ifCond .eq 24, 3) := dk_153 0 24 (dk_at dksX0_set_0 6 rfl rfl)
theorem dX0_set_9 : decode cX0_set 9 = .ok (.iload_n 2, 1) := dk_28 (dk_at dksX0_set_0 9 rfl rfl)
theorem dX0_set_10 : decode cX0_set 10 = .ok (.getstatic 126, 3) := dk_178 0 126 (dk_at dksX0_set_0 10 rfl rfl)
theorem dX0_set_13 : decode cX0_set 13 = .ok (.iload_n 1, 1) := dk_27 (dk_at dksX0_set_0 13 rfl rfl)
theorem dX0_set_14 : decode cX0_set 14 = .ok (.iaload, 1) := dk_46 (dk_at dksX0_set_0 14 rfl rfl)
theorem dX0_set_15 : decode cX0_set 15 = .ok (.getstatic 129, 3) := dk_178 0 129 (dk_at dksX0_set_0 15 rfl rfl)
theorem dX0_set_18 : decode cX0_set 18 = .ok (.iload_n 1, 1) := dk_27 (dk_at dksX0_set_0 18 rfl rfl)
theorem dX0_set_19 : decode cX0_set 19 = .ok (.iaload, 1) := dk_46 (dk_at dksX0_set_0 19 rfl rfl)
theorem dX0_set_20 : decode cX0_set 20 = .ok (.invokestatic 3, 3) := dk_184 0 3 (dk_at dksX0_set_0 20 rfl rfl)
theorem dX0_set_23 : decode cX0_set 23 = .ok (.ifCond .eq 7, 3) := dk_153 0 7 (dk_at dksX0_set_1 0 rfl rfl)
theorem dX0_set_26 : decode cX0_set 26 = .ok (.iconst 1, 1) := dk_4 (dk_at dksX0_set_1 3 rfl rfl)
theorem dX0_set_27 : decode cX0_set 27 = .ok (.goto 4, 3) := dk_167 0 4 (dk_at dksX0_set_1 4 rfl rfl)
theorem dX0_set_30 : decode cX0_set 30 = .ok (.iconst 0, 1) := dk_3 (dk_at dksX0_set_1 7 rfl rfl)
theorem dX0_set_31 : decode cX0_set 31 = .ok (.istore_n 3, 1) := dk_62 (dk_at dksX0_set_1 8 rfl rfl)
theorem dX0_set_32 : decode cX0_set 32 = .ok (.aload_n 0, 1) := dk_42 (dk_at dksX0_set_1 9 rfl rfl)
theorem dX0_set_33 : decode cX0_set 33 = .ok (.iload_n 3, 1) := dk_29 (dk_at dksX0_set_1 10 rfl rfl)
theorem dX0_set_34 : decode cX0_set 34 = .ok (.ifCond .eq 7, 3) := dk_153 0 7 (dk_at dksX0_set_1 11 rfl rfl)
theorem dX0_set_37 : decode cX0_set 37 = .ok (.iconst 0, 1) := dk_3 (dk_at dksX0_set_1 14 rfl rfl)
theorem dX0_set_38 : decode cX0_set 38 = .ok (.goto 5, 3) := dk_167 0 5 (dk_at dksX0_set_1 15 rfl rfl)
theorem dX0_set_41 : decode cX0_set 41 = .ok (.bipush (-2), 2) := dk_16 254 (dk_at dksX0_set_1 18 rfl rfl)
theorem dX0_set_43 : decode cX0_set 43 = .ok (.iconst 1, 1) := dk_4 (dk_at dksX0_set_1 20 rfl rfl)
theorem dX0_set_44 : decode cX0_set 44 = .ok (.invokevirtual 132, 3) := dk_182 0 132 (dk_at dksX0_set_1 21 rfl rfl)
theorem dX0_set_47 : decode cX0_set 47 = .ok (.istore 4, 2) := dk_54 4 (dk_at dksX0_set_2 0 rfl rfl)
theorem dX0_set_49 : decode cX0_set 49 = .ok (.iload 4, 2) := dk_21 4 (dk_at dksX0_set_2 2 rfl rfl)
theorem dX0_set_51 : decode cX0_set 51 = .ok (.ifCond .ge 6, 3) := dk_156 0 6 (dk_at dksX0_set_2 4 rfl rfl)
theorem dX0_set_54 : decode cX0_set 54 = .ok (.iload 4, 2) := dk_21 4 (dk_at dksX0_set_2 7 rfl rfl)
theorem dX0_set_56 : decode cX0_set 56 = .ok (.ireturn, 1) := dk_172 (dk_at dksX0_set_2 9 rfl rfl)
theorem dX0_set_57 : decode cX0_set 57 = .ok (.aload_n 0, 1) := dk_42 (dk_at dksX0_set_2 10 rfl rfl)
theorem dX0_set_58 : decode cX0_set 58 = .ok (.getfield 31, 3) := dk_180 0 31 (dk_at dksX0_set_2 11 rfl rfl)
theorem dX0_set_61 : decode cX0_set 61 = .ok (.getfield 123, 3) := dk_180 0 123 (dk_at dksX0_set_2 14 rfl rfl)
theorem dX0_set_64 : decode cX0_set 64 = .ok (.iload_n 1, 1) := dk_27 (dk_at dksX0_set_2 17 rfl rfl)
theorem dX0_set_65 : decode cX0_set 65 = .ok (.iaload, 1) := dk_46 (dk_at dksX0_set_2 18 rfl rfl)
theorem dX0_set_66 : decode cX0_set 66 = .ok (.istore 5, 2) := dk_54 5 (dk_at dksX0_set_2 19 rfl rfl)
theorem dX0_set_68 : decode cX0_set 68 = .ok (.aload_n 0, 1) := dk_42 (dk_at dksX0_set_2 21 rfl rfl)
theorem dX0_set_69 : decode cX0_set 69 = .ok (.getfield 31, 3) := dk_180 0 31 (dk_at dksX0_set_3 0 rfl rfl)
theorem dX0_set_72 : decode cX0_set 72 = .ok (.getfield 123, 3) := dk_180 0 123 (dk_at dksX0_set_3 3 rfl rfl)
theorem dX0_set_75 : decode cX0_set 75 = .ok (.iload_n 1, 1) := dk_27 (dk_at dksX0_set_3 6 rfl rfl)
theorem dX0_set_76 : decode cX0_set 76 = .ok (.iload_n 2, 1) := dk_28 (dk_at dksX0_set_3 7 rfl rfl)
theorem dX0_set_77 : decode cX0_set 77 = .ok (.iastore, 1) := dk_79 (dk_at dksX0_set_3 8 rfl rfl)
theorem dX0_set_78 : decode cX0_set 78 = .ok (.iload 5, 2) := dk_21 5 (dk_at dksX0_set_3 9 rfl rfl)
theorem dX0_set_80 : decode cX0_set 80 = .ok (.ireturn, 1) := dk_172 (dk_at dksX0_set_3 11 rfl rfl)
abbrev cX0_isIn : ByteArray := prog_1_method_1_code
def yX0_isIn : MethodName := ⟨RX0, "isIn", "(III)Z"⟩
def dkwX0_isIn_0 : List UInt8 := [26, 27, 161, 0, 12, 26, 28, 163, 0, 7, 4, 167, 0, 4, 3, 172]
abbrev dktX0_isIn_0 : List UInt8 := dkwX0_isIn_0 ++ []
theorem dksX0_isIn_0 : cX0_isIn.data.toList.drop 0 = dktX0_isIn_0 := by decide +kernel
theorem dX0_isIn_0 : decode cX0_isIn 0 = .ok (.iload_n 0, 1) := dk_26 (dk_at dksX0_isIn_0 0 rfl rfl)
theorem dX0_isIn_1 : decode cX0_isIn 1 = .ok (.iload_n 1, 1) := dk_27 (dk_at dksX0_isIn_0 1 rfl rfl)
theorem dX0_isIn_2 : decode cX0_isIn 2 = .ok (.if_icmp .lt 12, 3) := dk_161 0 12 (dk_at dksX0_isIn_0 2 rfl rfl)
theorem dX0_isIn_5 : decode cX0_isIn 5 = .ok (.iload_n 0, 1) := dk_26 (dk_at dksX0_isIn_0 5 rfl rfl)
theorem dX0_isIn_6 : decode cX0_isIn 6 = .ok (.iload_n 2, 1) := dk_28 (dk_at dksX0_isIn_0 6 rfl rfl)
theorem dX0_isIn_7 : decode cX0_isIn 7 = .ok (.if_icmp .gt 7, 3) := dk_163 0 7 (dk_at dksX0_isIn_0 7 rfl rfl)
theorem dX0_isIn_10 : decode cX0_isIn 10 = .ok (.iconst 1, 1) := dk_4 (dk_at dksX0_isIn_0 10 rfl rfl)
theorem dX0_isIn_11 : decode cX0_isIn 11 = .ok (.goto 4, 3) := dk_167 0 4 (dk_at dksX0_isIn_0 11 rfl rfl)
theorem dX0_isIn_14 : decode cX0_isIn 14 = .ok (.iconst 0, 1) := dk_3 (dk_at dksX0_isIn_0 14 rfl rfl)
theorem dX0_isIn_15 : decode cX0_isIn 15 = .ok (.ireturn, 1) := dk_172 (dk_at dksX0_isIn_0 15 rfl rfl)
abbrev cX0_begun : ByteArray := prog_1_method_8_code
def yX0_begun : MethodName := ⟨RX0, "begun", "(IZ)I"⟩
def dkwX0_begun_0 : List UInt8 := [27, 154, 0, 11, 28, 153, 0, 7, 42, 182, 0, 73, 27, 172]
abbrev dktX0_begun_0 : List UInt8 := dkwX0_begun_0 ++ []
theorem dksX0_begun_0 : cX0_begun.data.toList.drop 0 = dktX0_begun_0 := by decide +kernel
theorem dX0_begun_0 : decode cX0_begun 0 = .ok (.iload_n 1, 1) := dk_27 (dk_at dksX0_begun_0 0 rfl rfl)
theorem dX0_begun_1 : decode cX0_begun 1 = .ok (.ifCond .ne 11, 3) := dk_154 0 11 (dk_at dksX0_begun_0 1 rfl rfl)
theorem dX0_begun_4 : decode cX0_begun 4 = .ok (.iload_n 2, 1) := dk_28 (dk_at dksX0_begun_0 4 rfl rfl)
theorem dX0_begun_5 : decode cX0_begun 5 = .ok (.ifCond .eq 7, 3) := dk_153 0 7 (dk_at dksX0_begun_0 5 rfl rfl)
theorem dX0_begun_8 : decode cX0_begun 8 = .ok (.aload_n 0, 1) := dk_42 (dk_at dksX0_begun_0 8 rfl rfl)
theorem dX0_begun_9 : decode cX0_begun 9 = .ok (.invokevirtual 73, 3) := dk_182 0 73 (dk_at dksX0_begun_0 9 rfl rfl)
theorem dX0_begun_12 : decode cX0_begun 12 = .ok (.iload_n 1, 1) := dk_27 (dk_at dksX0_begun_0 12 rfl rfl)
theorem dX0_begun_13 : decode cX0_begun 13 = .ok (.ireturn, 1) := dk_172 (dk_at dksX0_begun_0 13 rfl rfl)
abbrev cX0_record : ByteArray := prog_1_method_7_code
def yX0_record : MethodName := ⟨RX0, "record", "()V"⟩
def dkwX0_record_1 : List UInt8 := [42, 180, 0, 40, 42, 180, 0, 31, 182, 0, 65, 185, 0, 69, 2, 0, 177]
abbrev dktX0_record_1 : List UInt8 := dkwX0_record_1 ++ []
def dkwX0_record_0 : List UInt8 := [42, 180, 0, 40, 185, 0, 55, 1, 0, 16, 6, 160, 0, 13, 42, 180, 0, 40, 185, 0, 61, 1, 0, 87]
abbrev dktX0_record_0 : List UInt8 := dkwX0_record_0 ++ dktX0_record_1
theorem dksX0_record_0 : cX0_record.data.toList.drop 0 = dktX0_record_0 := by decide +kernel
theorem dksX0_record_1 : cX0_record.data.toList.drop 24 = dktX0_record_1 := dk_seg dksX0_record_0 24 rfl rfl
theorem dX0_record_0 : decode cX0_record 0 = .ok (.aload_n 0, 1) := dk_42 (dk_at dksX0_record_0 0 rfl rfl)
theorem dX0_record_1 : decode cX0_record 1 = .ok (.getfield 40, 3) := dk_180 0 40 (dk_at dksX0_record_0 1 rfl rfl)
theorem dX0_record_4 : decode cX0_record 4 = .ok (.invokeinterface 55 1, 5) := by decide +kernel
theorem dX0_record_9 : decode cX0_record 9 = .ok (.bipush 6, 2) := dk_16 6 (dk_at dksX0_record_0 9 rfl rfl)
theorem dX0_record_11 : decode cX0_record 11 = .ok (.if_icmp .ne 13, 3) := dk_160 0 13 (dk_at dksX0_record_0 11 rfl rfl)
theorem dX0_record_14 : decode cX0_record 14 = .ok (.aload_n 0, 1) := dk_42 (dk_at dksX0_record_0 14 rfl rfl)
theorem dX0_record_15 : decode cX0_record 15 = .ok (.getfield 40, 3) := dk_180 0 40 (dk_at dksX0_record_0 15 rfl rfl)
theorem dX0_record_18 : decode cX0_record 18 = .ok (.invokeinterface 61 1, 5) := by decide +kernel
theorem dX0_record_23 : decode cX0_record 23 = .ok (.pop, 1) := dk_87 (dk_at dksX0_record_0 23 rfl rfl)
theorem dX0_record_24 : decode cX0_record 24 = .ok (.aload_n 0, 1) := dk_42 (dk_at dksX0_record_1 0 rfl rfl)
theorem dX0_record_25 : decode cX0_record 25 = .ok (.getfield 40, 3) := dk_180 0 40 (dk_at dksX0_record_1 1 rfl rfl)
theorem dX0_record_28 : decode cX0_record 28 = .ok (.aload_n 0, 1) := dk_42 (dk_at dksX0_record_1 4 rfl rfl)
theorem dX0_record_29 : decode cX0_record 29 = .ok (.getfield 31, 3) := dk_180 0 31 (dk_at dksX0_record_1 5 rfl rfl)
theorem dX0_record_32 : decode cX0_record 32 = .ok (.invokevirtual 65, 3) := dk_182 0 65 (dk_at dksX0_record_1 8 rfl rfl)
theorem dX0_record_35 : decode cX0_record 35 = .ok (.invokeinterface 69 2, 5) := by decide +kernel
theorem dX0_record_40 : decode cX0_record 40 = .ok (.return_, 1) := dk_177 (dk_at dksX0_record_1 16 rfl rfl)
abbrev cX0_road : ByteArray := prog_1_method_17_code
def yX0_road : MethodName := ⟨RX0, "road", "(II)I"⟩
def dkwX0_road_0 : List UInt8 := [42, 27, 28, 4, 182, 0, 142, 172]
abbrev dktX0_road_0 : List UInt8 := dkwX0_road_0 ++ []
theorem dksX0_road_0 : cX0_road.data.toList.drop 0 = dktX0_road_0 := by decide +kernel
theorem dX0_road_0 : decode cX0_road 0 = .ok (.aload_n 0, 1) := dk_42 (dk_at dksX0_road_0 0 rfl rfl)
theorem dX0_road_1 : decode cX0_road 1 = .ok (.iload_n 1, 1) := dk_27 (dk_at dksX0_road_0 1 rfl rfl)
theorem dX0_road_2 : decode cX0_road 2 = .ok (.iload_n 2, 1) := dk_28 (dk_at dksX0_road_0 2 rfl rfl)
theorem dX0_road_3 : decode cX0_road 3 = .ok (.iconst 1, 1) := dk_4 (dk_at dksX0_road_0 3 rfl rfl)
theorem dX0_road_4 : decode cX0_road 4 = .ok (.invokevirtual 142, 3) := dk_182 0 142 (dk_at dksX0_road_0 4 rfl rfl)
theorem dX0_road_7 : decode cX0_road 7 = .ok (.ireturn, 1) := dk_172 (dk_at dksX0_road_0 7 rfl rfl)
abbrev cX0_roads : ByteArray := prog_1_method_16_code
def yX0_roads : MethodName := ⟨RX0, "roads", "(IIZ)I"⟩
def dkwX0_roads_2 : List UInt8 := [182, 0, 139, 172]
abbrev dktX0_roads_2 : List UInt8 := dkwX0_roads_2 ++ []
def dkwX0_roads_1 : List UInt8 := [182, 0, 132, 54, 5, 21, 5, 156, 0, 8, 21, 5, 167, 0, 15, 42, 180, 0, 31, 27, 28, 184, 0, 96]
abbrev dktX0_roads_1 : List UInt8 := dkwX0_roads_1 ++ dktX0_roads_2
def dkwX0_roads_0 : List UInt8 := [27, 28, 184, 0, 84, 54, 4, 42, 21, 4, 156, 0, 8, 21, 4, 167, 0, 7, 42, 182, 0, 136, 29]
abbrev dktX0_roads_0 : List UInt8 := dkwX0_roads_0 ++ dktX0_roads_1
theorem dksX0_roads_0 : cX0_roads.data.toList.drop 0 = dktX0_roads_0 := by decide +kernel
theorem dksX0_roads_1 : cX0_roads.data.toList.drop 23 = dktX0_roads_1 := dk_seg dksX0_roads_0 23 rfl rfl
theorem dksX0_roads_2 : cX0_roads.data.toList.drop 47 = dktX0_roads_2 := dk_seg dksX0_roads_1 24 rfl rfl
theorem dX0_roads_0 : decode cX0_roads 0 = .ok (.iload_n 1, 1) := dk_27 (dk_at dksX0_roads_0 0 rfl rfl)
theorem dX0_roads_1 : decode cX0_roads 1 = .ok (.iload_n 2, 1) := dk_28 (dk_at dksX0_roads_0 1 rfl rfl)
theorem dX0_roads_2 : decode cX0_roads 2 = .ok (.invokestatic 84, 3) := dk_184 0 84 (dk_at dksX0_roads_0 2 rfl rfl)
theorem dX0_roads_5 : decode cX0_roads 5 = .ok (.istore 4, 2) := dk_54 4 (dk_at dksX0_roads_0 5 rfl rfl)
theorem dX0_roads_7 : decode cX0_roads 7 = .ok (.aload_n 0, 1) := dk_42 (dk_at dksX0_roads_0 7 rfl rfl)
theorem dX0_roads_8 : decode cX0_roads 8 = .ok (.iload 4, 2) := dk_21 4 (dk_at dksX0_roads_0 8 rfl rfl)
theorem dX0_roads_10 : decode cX0_roads 10 = .ok (.ifCond .ge 8, 3) := dk_156 0 8 (dk_at dksX0_roads_0 10 rfl rfl)
theorem dX0_roads_13 : decode cX0_roads 13 = .ok (.iload 4, 2) := dk_21 4 (dk_at dksX0_roads_0 13 rfl rfl)
theorem dX0_roads_15 : decode cX0_roads 15 = .ok (.goto 7, 3) := dk_167 0 7 (dk_at dksX0_roads_0 15 rfl rfl)
theorem dX0_roads_18 : decode cX0_roads 18 = .ok (.aload_n 0, 1) := dk_42 (dk_at dksX0_roads_0 18 rfl rfl)
theorem dX0_roads_19 : decode cX0_roads 19 = .ok (.invokevirtual 136, 3) := dk_182 0 136 (dk_at dksX0_roads_0 19 rfl rfl)
theorem dX0_roads_22 : decode cX0_roads 22 = .ok (.iload_n 3, 1) := dk_29 (dk_at dksX0_roads_0 22 rfl rfl)
theorem dX0_roads_23 : decode cX0_roads 23 = .ok (.invokevirtual 132, 3) := dk_182 0 132 (dk_at dksX0_roads_1 0 rfl rfl)
theorem dX0_roads_26 : decode cX0_roads 26 = .ok (.istore 5, 2) := dk_54 5 (dk_at dksX0_roads_1 3 rfl rfl)
theorem dX0_roads_28 : decode cX0_roads 28 = .ok (.iload 5, 2) := dk_21 5 (dk_at dksX0_roads_1 5 rfl rfl)
theorem dX0_roads_30 : decode cX0_roads 30 = .ok (.ifCond .ge 8, 3) := dk_156 0 8 (dk_at dksX0_roads_1 7 rfl rfl)
theorem dX0_roads_33 : decode cX0_roads 33 = .ok (.iload 5, 2) := dk_21 5 (dk_at dksX0_roads_1 10 rfl rfl)
theorem dX0_roads_35 : decode cX0_roads 35 = .ok (.goto 15, 3) := dk_167 0 15 (dk_at dksX0_roads_1 12 rfl rfl)
theorem dX0_roads_38 : decode cX0_roads 38 = .ok (.aload_n 0, 1) := dk_42 (dk_at dksX0_roads_1 15 rfl rfl)
theorem dX0_roads_39 : decode cX0_roads 39 = .ok (.getfield 31, 3) := dk_180 0 31 (dk_at dksX0_roads_1 16 rfl rfl)
theorem dX0_roads_42 : decode cX0_roads 42 = .ok (.iload_n 1, 1) := dk_27 (dk_at dksX0_roads_1 19 rfl rfl)
theorem dX0_roads_43 : decode cX0_roads 43 = .ok (.iload_n 2, 1) := dk_28 (dk_at dksX0_roads_1 20 rfl rfl)
theorem dX0_roads_44 : decode cX0_roads 44 = .ok (.invokestatic 96, 3) := dk_184 0 96 (dk_at dksX0_roads_1 21 rfl rfl)
theorem dX0_roads_47 : decode cX0_roads 47 = .ok (.invokevirtual 139, 3) := dk_182 0 139 (dk_at dksX0_roads_2 0 rfl rfl)
theorem dX0_roads_50 : decode cX0_roads 50 = .ok (.ireturn, 1) := dk_172 (dk_at dksX0_roads_2 3 rfl rfl)
abbrev cX0_whyNotTwo : ByteArray := prog_1_method_9_code
def yX0_whyNotTwo : MethodName := ⟨RX0, "whyNotTwo", "(II)I"⟩
def dkwX0_whyNotTwo_1 : List UInt8 := [16, 254, 167, 0, 4, 3, 172]
abbrev dktX0_whyNotTwo_1 : List UInt8 := dkwX0_whyNotTwo_1 ++ []
def dkwX0_whyNotTwo_0 : List UInt8 := [26, 184, 0, 76, 153, 0, 10, 27, 184, 0, 76, 154, 0, 7, 2, 167, 0, 14, 26, 27, 160, 0, 8]
abbrev dktX0_whyNotTwo_0 : List UInt8 := dkwX0_whyNotTwo_0 ++ dktX0_whyNotTwo_1
theorem dksX0_whyNotTwo_0 : cX0_whyNotTwo.data.toList.drop 0 = dktX0_whyNotTwo_0 := by decide +kernel
theorem dksX0_whyNotTwo_1 : cX0_whyNotTwo.data.toList.drop 23 = dktX0_whyNotTwo_1 := dk_seg dksX0_whyNotTwo_0 23 rfl rfl
theorem dX0_whyNotTwo_0 : decode cX0_whyNotTwo 0 = .ok (.iload_n 0, 1) := dk_26 (dk_at dksX0_whyNotTwo_0 0 rfl rfl)
theorem dX0_whyNotTwo_1 : decode cX0_whyNotTwo 1 = .ok (.invokestatic 76, 3) := dk_184 0 76 (dk_at dksX0_whyNotTwo_0 1 rfl rfl)
theorem dX0_whyNotTwo_4 : decode cX0_whyNotTwo 4 = .ok (.ifCond .eq 10, 3) := dk_153 0 10 (dk_at dksX0_whyNotTwo_0 4 rfl rfl)
theorem dX0_whyNotTwo_7 : decode cX0_whyNotTwo 7 = .ok (.iload_n 1, 1) := dk_27 (dk_at dksX0_whyNotTwo_0 7 rfl rfl)
theorem dX0_whyNotTwo_8 : decode cX0_whyNotTwo 8 = .ok (.invokestatic 76, 3) := dk_184 0 76 (dk_at dksX0_whyNotTwo_0 8 rfl rfl)
theorem dX0_whyNotTwo_11 : decode cX0_whyNotTwo 11 = .ok (.ifCond .ne 7, 3) := dk_154 0 7 (dk_at dksX0_whyNotTwo_0 11 rfl rfl)
theorem dX0_whyNotTwo_14 : decode cX0_whyNotTwo 14 = .ok (.iconst (-1), 1) := dk_2 (dk_at dksX0_whyNotTwo_0 14 rfl rfl)
theorem dX0_whyNotTwo_15 : decode cX0_whyNotTwo 15 = .ok (.goto 14, 3) := dk_167 0 14 (dk_at dksX0_whyNotTwo_0 15 rfl rfl)
theorem dX0_whyNotTwo_18 : decode cX0_whyNotTwo 18 = .ok (.iload_n 0, 1) := dk_26 (dk_at dksX0_whyNotTwo_0 18 rfl rfl)
theorem dX0_whyNotTwo_19 : decode cX0_whyNotTwo 19 = .ok (.iload_n 1, 1) := dk_27 (dk_at dksX0_whyNotTwo_0 19 rfl rfl)
theorem dX0_whyNotTwo_20 : decode cX0_whyNotTwo 20 = .ok (.if_icmp .ne 8, 3) := dk_160 0 8 (dk_at dksX0_whyNotTwo_0 20 rfl rfl)
theorem dX0_whyNotTwo_23 : decode cX0_whyNotTwo 23 = .ok (.bipush (-2), 2) := dk_16 254 (dk_at dksX0_whyNotTwo_1 0 rfl rfl)
theorem dX0_whyNotTwo_25 : decode cX0_whyNotTwo 25 = .ok (.goto 4, 3) := dk_167 0 4 (dk_at dksX0_whyNotTwo_1 2 rfl rfl)
theorem dX0_whyNotTwo_28 : decode cX0_whyNotTwo 28 = .ok (.iconst 0, 1) := dk_3 (dk_at dksX0_whyNotTwo_1 5 rfl rfl)
theorem dX0_whyNotTwo_29 : decode cX0_whyNotTwo 29 = .ok (.ireturn, 1) := dk_172 (dk_at dksX0_whyNotTwo_1 6 rfl rfl)
abbrev cX0_isPlace : ByteArray := prog_1_method_2_code
def yX0_isPlace : MethodName := ⟨RX0, "isPlace", "(I)Z"⟩
def dkwX0_isPlace_0 : List UInt8 := [26, 3, 16, 7, 184, 0, 3, 172]
abbrev dktX0_isPlace_0 : List UInt8 := dkwX0_isPlace_0 ++ []
theorem dksX0_isPlace_0 : cX0_isPlace.data.toList.drop 0 = dktX0_isPlace_0 := by decide +kernel
theorem dX0_isPlace_0 : decode cX0_isPlace 0 = .ok (.iload_n 0, 1) := dk_26 (dk_at dksX0_isPlace_0 0 rfl rfl)
theorem dX0_isPlace_1 : decode cX0_isPlace 1 = .ok (.iconst 0, 1) := dk_3 (dk_at dksX0_isPlace_0 1 rfl rfl)
theorem dX0_isPlace_2 : decode cX0_isPlace 2 = .ok (.bipush 7, 2) := dk_16 7 (dk_at dksX0_isPlace_0 2 rfl rfl)
theorem dX0_isPlace_4 : decode cX0_isPlace 4 = .ok (.invokestatic 3, 3) := dk_184 0 3 (dk_at dksX0_isPlace_0 4 rfl rfl)
theorem dX0_isPlace_7 : decode cX0_isPlace 7 = .ok (.ireturn, 1) := dk_172 (dk_at dksX0_isPlace_0 7 rfl rfl)
abbrev cX0_ifNotBegun : ByteArray := prog_1_method_11_code
def yX0_ifNotBegun : MethodName := ⟨RX0, "ifNotBegun", "()I"⟩
def dkwX0_ifNotBegun_0 : List UInt8 := [42, 180, 0, 31, 180, 0, 80, 154, 0, 7, 3, 167, 0, 5, 16, 251, 172]
abbrev dktX0_ifNotBegun_0 : List UInt8 := dkwX0_ifNotBegun_0 ++ []
theorem dksX0_ifNotBegun_0 : cX0_ifNotBegun.data.toList.drop 0 = dktX0_ifNotBegun_0 := by decide +kernel
theorem dX0_ifNotBegun_0 : decode cX0_ifNotBegun 0 = .ok (.aload_n 0, 1) := dk_42 (dk_at dksX0_ifNotBegun_0 0 rfl rfl)
theorem dX0_ifNotBegun_1 : decode cX0_ifNotBegun 1 = .ok (.getfield 31, 3) := dk_180 0 31 (dk_at dksX0_ifNotBegun_0 1 rfl rfl)
theorem dX0_ifNotBegun_4 : decode cX0_ifNotBegun 4 = .ok (.getfield 80, 3) := dk_180 0 80 (dk_at dksX0_ifNotBegun_0 4 rfl rfl)
theorem dX0_ifNotBegun_7 : decode cX0_ifNotBegun 7 = .ok (.ifCond .ne 7, 3) := dk_154 0 7 (dk_at dksX0_ifNotBegun_0 7 rfl rfl)
theorem dX0_ifNotBegun_10 : decode cX0_ifNotBegun 10 = .ok (.iconst 0, 1) := dk_3 (dk_at dksX0_ifNotBegun_0 10 rfl rfl)
theorem dX0_ifNotBegun_11 : decode cX0_ifNotBegun 11 = .ok (.goto 5, 3) := dk_167 0 5 (dk_at dksX0_ifNotBegun_0 11 rfl rfl)
theorem dX0_ifNotBegun_14 : decode cX0_ifNotBegun 14 = .ok (.bipush (-5), 2) := dk_16 251 (dk_at dksX0_ifNotBegun_0 14 rfl rfl)
theorem dX0_ifNotBegun_16 : decode cX0_ifNotBegun 16 = .ok (.ireturn, 1) := dk_172 (dk_at dksX0_ifNotBegun_0 16 rfl rfl)
abbrev cX0_road0 : ByteArray := prog_1_method_4_code
def yX0_road0 : MethodName := ⟨RX0, "road0", "(II)I"⟩
def dkwX0_road0_1 : List UInt8 := [4, 100, 172]
abbrev dktX0_road0_1 : List UInt8 := dkwX0_road0_1 ++ []
def dkwX0_road0_0 : List UInt8 := [26, 27, 184, 0, 7, 61, 26, 27, 184, 0, 13, 62, 28, 16, 15, 28, 100, 104, 5, 108, 29, 96, 28, 100]
abbrev dktX0_road0_0 : List UInt8 := dkwX0_road0_0 ++ dktX0_road0_1
theorem dksX0_road0_0 : cX0_road0.data.toList.drop 0 = dktX0_road0_0 := by decide +kernel
theorem dksX0_road0_1 : cX0_road0.data.toList.drop 24 = dktX0_road0_1 := dk_seg dksX0_road0_0 24 rfl rfl
theorem dX0_road0_0 : decode cX0_road0 0 = .ok (.iload_n 0, 1) := dk_26 (dk_at dksX0_road0_0 0 rfl rfl)
theorem dX0_road0_1 : decode cX0_road0 1 = .ok (.iload_n 1, 1) := dk_27 (dk_at dksX0_road0_0 1 rfl rfl)
theorem dX0_road0_2 : decode cX0_road0 2 = .ok (.invokestatic 7, 3) := dk_184 0 7 (dk_at dksX0_road0_0 2 rfl rfl)
theorem dX0_road0_5 : decode cX0_road0 5 = .ok (.istore_n 2, 1) := dk_61 (dk_at dksX0_road0_0 5 rfl rfl)
theorem dX0_road0_6 : decode cX0_road0 6 = .ok (.iload_n 0, 1) := dk_26 (dk_at dksX0_road0_0 6 rfl rfl)
theorem dX0_road0_7 : decode cX0_road0 7 = .ok (.iload_n 1, 1) := dk_27 (dk_at dksX0_road0_0 7 rfl rfl)
theorem dX0_road0_8 : decode cX0_road0 8 = .ok (.invokestatic 13, 3) := dk_184 0 13 (dk_at dksX0_road0_0 8 rfl rfl)
theorem dX0_road0_11 : decode cX0_road0 11 = .ok (.istore_n 3, 1) := dk_62 (dk_at dksX0_road0_0 11 rfl rfl)
theorem dX0_road0_12 : decode cX0_road0 12 = .ok (.iload_n 2, 1) := dk_28 (dk_at dksX0_road0_0 12 rfl rfl)
theorem dX0_road0_13 : decode cX0_road0 13 = .ok (.bipush 15, 2) := dk_16 15 (dk_at dksX0_road0_0 13 rfl rfl)
theorem dX0_road0_15 : decode cX0_road0 15 = .ok (.iload_n 2, 1) := dk_28 (dk_at dksX0_road0_0 15 rfl rfl)
theorem dX0_road0_16 : decode cX0_road0 16 = .ok (.isub, 1) := dk_100 (dk_at dksX0_road0_0 16 rfl rfl)
theorem dX0_road0_17 : decode cX0_road0 17 = .ok (.imul, 1) := dk_104 (dk_at dksX0_road0_0 17 rfl rfl)
theorem dX0_road0_18 : decode cX0_road0 18 = .ok (.iconst 2, 1) := dk_5 (dk_at dksX0_road0_0 18 rfl rfl)
theorem dX0_road0_19 : decode cX0_road0 19 = .ok (.idiv, 1) := dk_108 (dk_at dksX0_road0_0 19 rfl rfl)
theorem dX0_road0_20 : decode cX0_road0 20 = .ok (.iload_n 3, 1) := dk_29 (dk_at dksX0_road0_0 20 rfl rfl)
theorem dX0_road0_21 : decode cX0_road0 21 = .ok (.iadd, 1) := dk_96 (dk_at dksX0_road0_0 21 rfl rfl)
theorem dX0_road0_22 : decode cX0_road0 22 = .ok (.iload_n 2, 1) := dk_28 (dk_at dksX0_road0_0 22 rfl rfl)
theorem dX0_road0_23 : decode cX0_road0 23 = .ok (.isub, 1) := dk_100 (dk_at dksX0_road0_0 23 rfl rfl)
theorem dX0_road0_24 : decode cX0_road0 24 = .ok (.iconst 1, 1) := dk_4 (dk_at dksX0_road0_1 0 rfl rfl)
theorem dX0_road0_25 : decode cX0_road0 25 = .ok (.isub, 1) := dk_100 (dk_at dksX0_road0_1 1 rfl rfl)
theorem dX0_road0_26 : decode cX0_road0 26 = .ok (.ireturn, 1) := dk_172 (dk_at dksX0_road0_1 2 rfl rfl)
abbrev cX0_treasure : ByteArray := prog_1_method_19_code
def yX0_treasure : MethodName := ⟨RX0, "treasure", "(I)I"⟩
def dkwX0_treasure_0 : List UInt8 := [42, 27, 4, 182, 0, 149, 172]
abbrev dktX0_treasure_0 : List UInt8 := dkwX0_treasure_0 ++ []
theorem dksX0_treasure_0 : cX0_treasure.data.toList.drop 0 = dktX0_treasure_0 := by decide +kernel
theorem dX0_treasure_0 : decode cX0_treasure 0 = .ok (.aload_n 0, 1) := dk_42 (dk_at dksX0_treasure_0 0 rfl rfl)
theorem dX0_treasure_1 : decode cX0_treasure 1 = .ok (.iload_n 1, 1) := dk_27 (dk_at dksX0_treasure_0 1 rfl rfl)
theorem dX0_treasure_2 : decode cX0_treasure 2 = .ok (.iconst 1, 1) := dk_4 (dk_at dksX0_treasure_0 2 rfl rfl)
theorem dX0_treasure_3 : decode cX0_treasure 3 = .ok (.invokevirtual 149, 3) := dk_182 0 149 (dk_at dksX0_treasure_0 3 rfl rfl)
theorem dX0_treasure_6 : decode cX0_treasure 6 = .ok (.ireturn, 1) := dk_172 (dk_at dksX0_treasure_0 6 rfl rfl)
abbrev cX0_hides : ByteArray := prog_1_method_18_code
def yX0_hides : MethodName := ⟨RX0, "hides", "(IZ)I"⟩
def dkwX0_hides_2 : List UInt8 := [172]
abbrev dktX0_hides_2 : List UInt8 := dkwX0_hides_2 ++ []
def dkwX0_hides_1 : List UInt8 := [156, 0, 5, 29, 172, 42, 180, 0, 31, 180, 0, 146, 54, 4, 42, 180, 0, 31, 27, 181, 0, 146, 21, 4]
abbrev dktX0_hides_1 : List UInt8 := dkwX0_hides_1 ++ dktX0_hides_2
def dkwX0_hides_0 : List UInt8 := [42, 27, 184, 0, 76, 153, 0, 10, 42, 182, 0, 136, 167, 0, 4, 2, 28, 182, 0, 132, 62, 29]
abbrev dktX0_hides_0 : List UInt8 := dkwX0_hides_0 ++ dktX0_hides_1
theorem dksX0_hides_0 : cX0_hides.data.toList.drop 0 = dktX0_hides_0 := by decide +kernel
theorem dksX0_hides_1 : cX0_hides.data.toList.drop 22 = dktX0_hides_1 := dk_seg dksX0_hides_0 22 rfl rfl
theorem dksX0_hides_2 : cX0_hides.data.toList.drop 46 = dktX0_hides_2 := dk_seg dksX0_hides_1 24 rfl rfl
theorem dX0_hides_0 : decode cX0_hides 0 = .ok (.aload_n 0, 1) := dk_42 (dk_at dksX0_hides_0 0 rfl rfl)
theorem dX0_hides_1 : decode cX0_hides 1 = .ok (.iload_n 1, 1) := dk_27 (dk_at dksX0_hides_0 1 rfl rfl)
theorem dX0_hides_2 : decode cX0_hides 2 = .ok (.invokestatic 76, 3) := dk_184 0 76 (dk_at dksX0_hides_0 2 rfl rfl)
theorem dX0_hides_5 : decode cX0_hides 5 = .ok (.ifCond .eq 10, 3) := dk_153 0 10 (dk_at dksX0_hides_0 5 rfl rfl)
theorem dX0_hides_8 : decode cX0_hides 8 = .ok (.aload_n 0, 1) := dk_42 (dk_at dksX0_hides_0 8 rfl rfl)
theorem dX0_hides_9 : decode cX0_hides 9 = .ok (.invokevirtual 136, 3) := dk_182 0 136 (dk_at dksX0_hides_0 9 rfl rfl)
theorem dX0_hides_12 : decode cX0_hides 12 = .ok (.goto 4, 3) := dk_167 0 4 (dk_at dksX0_hides_0 12 rfl rfl)
theorem dX0_hides_15 : decode cX0_hides 15 = .ok (.iconst (-1), 1) := dk_2 (dk_at dksX0_hides_0 15 rfl rfl)
theorem dX0_hides_16 : decode cX0_hides 16 = .ok (.iload_n 2, 1) := dk_28 (dk_at dksX0_hides_0 16 rfl rfl)
theorem dX0_hides_17 : decode cX0_hides 17 = .ok (.invokevirtual 132, 3) := dk_182 0 132 (dk_at dksX0_hides_0 17 rfl rfl)
theorem dX0_hides_20 : decode cX0_hides 20 = .ok (.istore_n 3, 1) := dk_62 (dk_at dksX0_hides_0 20 rfl rfl)
theorem dX0_hides_21 : decode cX0_hides 21 = .ok (.iload_n 3, 1) := dk_29 (dk_at dksX0_hides_0 21 rfl rfl)
theorem dX0_hides_22 : decode cX0_hides 22 = .ok (.ifCond .ge 5, 3) := dk_156 0 5 (dk_at dksX0_hides_1 0 rfl rfl)
theorem dX0_hides_25 : decode cX0_hides 25 = .ok (.iload_n 3, 1) := dk_29 (dk_at dksX0_hides_1 3 rfl rfl)
theorem dX0_hides_26 : decode cX0_hides 26 = .ok (.ireturn, 1) := dk_172 (dk_at dksX0_hides_1 4 rfl rfl)
theorem dX0_hides_27 : decode cX0_hides 27 = .ok (.aload_n 0, 1) := dk_42 (dk_at dksX0_hides_1 5 rfl rfl)
theorem dX0_hides_28 : decode cX0_hides 28 = .ok (.getfield 31, 3) := dk_180 0 31 (dk_at dksX0_hides_1 6 rfl rfl)
theorem dX0_hides_31 : decode cX0_hides 31 = .ok (.getfield 146, 3) := dk_180 0 146 (dk_at dksX0_hides_1 9 rfl rfl)
theorem dX0_hides_34 : decode cX0_hides 34 = .ok (.istore 4, 2) := dk_54 4 (dk_at dksX0_hides_1 12 rfl rfl)
theorem dX0_hides_36 : decode cX0_hides 36 = .ok (.aload_n 0, 1) := dk_42 (dk_at dksX0_hides_1 14 rfl rfl)
theorem dX0_hides_37 : decode cX0_hides 37 = .ok (.getfield 31, 3) := dk_180 0 31 (dk_at dksX0_hides_1 15 rfl rfl)
theorem dX0_hides_40 : decode cX0_hides 40 = .ok (.iload_n 1, 1) := dk_27 (dk_at dksX0_hides_1 18 rfl rfl)
theorem dX0_hides_41 : decode cX0_hides 41 = .ok (.putfield 146, 3) := dk_181 0 146 (dk_at dksX0_hides_1 19 rfl rfl)
theorem dX0_hides_44 : decode cX0_hides 44 = .ok (.iload 4, 2) := dk_21 4 (dk_at dksX0_hides_1 22 rfl rfl)
theorem dX0_hides_46 : decode cX0_hides 46 = .ok (.ireturn, 1) := dk_172 (dk_at dksX0_hides_2 0 rfl rfl)
abbrev cX0_begin : ByteArray := prog_1_method_21_code
def yX0_begin : MethodName := ⟨RX0, "begin", "()I"⟩
def dkwX0_begin_0 : List UInt8 := [42, 4, 182, 0, 160, 172]
abbrev dktX0_begin_0 : List UInt8 := dkwX0_begin_0 ++ []
theorem dksX0_begin_0 : cX0_begin.data.toList.drop 0 = dktX0_begin_0 := by decide +kernel
theorem dX0_begin_0 : decode cX0_begin 0 = .ok (.aload_n 0, 1) := dk_42 (dk_at dksX0_begin_0 0 rfl rfl)
theorem dX0_begin_1 : decode cX0_begin 1 = .ok (.iconst 1, 1) := dk_4 (dk_at dksX0_begin_0 1 rfl rfl)
theorem dX0_begin_2 : decode cX0_begin 2 = .ok (.invokevirtual 160, 3) := dk_182 0 160 (dk_at dksX0_begin_0 2 rfl rfl)
theorem dX0_begin_5 : decode cX0_begin 5 = .ok (.ireturn, 1) := dk_172 (dk_at dksX0_begin_0 5 rfl rfl)
abbrev cX0_begins : ByteArray := prog_1_method_20_code
def yX0_begins : MethodName := ⟨RX0, "begins", "(Z)I"⟩
def dkwX0_begins_1 : List UInt8 := [3, 42, 180, 0, 31, 16, 250, 182, 0, 152, 184, 0, 156, 172]
abbrev dktX0_begins_1 : List UInt8 := dkwX0_begins_1 ++ []
def dkwX0_begins_0 : List UInt8 := [42, 42, 182, 0, 136, 27, 182, 0, 132, 61, 28, 156, 0, 5, 28, 172, 42, 180, 0, 31, 4, 181, 0, 80]
abbrev dktX0_begins_0 : List UInt8 := dkwX0_begins_0 ++ dktX0_begins_1
theorem dksX0_begins_0 : cX0_begins.data.toList.drop 0 = dktX0_begins_0 := by decide +kernel
theorem dksX0_begins_1 : cX0_begins.data.toList.drop 24 = dktX0_begins_1 := dk_seg dksX0_begins_0 24 rfl rfl
theorem dX0_begins_0 : decode cX0_begins 0 = .ok (.aload_n 0, 1) := dk_42 (dk_at dksX0_begins_0 0 rfl rfl)
theorem dX0_begins_1 : decode cX0_begins 1 = .ok (.aload_n 0, 1) := dk_42 (dk_at dksX0_begins_0 1 rfl rfl)
theorem dX0_begins_2 : decode cX0_begins 2 = .ok (.invokevirtual 136, 3) := dk_182 0 136 (dk_at dksX0_begins_0 2 rfl rfl)
theorem dX0_begins_5 : decode cX0_begins 5 = .ok (.iload_n 1, 1) := dk_27 (dk_at dksX0_begins_0 5 rfl rfl)
theorem dX0_begins_6 : decode cX0_begins 6 = .ok (.invokevirtual 132, 3) := dk_182 0 132 (dk_at dksX0_begins_0 6 rfl rfl)
theorem dX0_begins_9 : decode cX0_begins 9 = .ok (.istore_n 2, 1) := dk_61 (dk_at dksX0_begins_0 9 rfl rfl)
theorem dX0_begins_10 : decode cX0_begins 10 = .ok (.iload_n 2, 1) := dk_28 (dk_at dksX0_begins_0 10 rfl rfl)
theorem dX0_begins_11 : decode cX0_begins 11 = .ok (.ifCond .ge 5, 3) := dk_156 0 5 (dk_at dksX0_begins_0 11 rfl rfl)
theorem dX0_begins_14 : decode cX0_begins 14 = .ok (.iload_n 2, 1) := dk_28 (dk_at dksX0_begins_0 14 rfl rfl)
theorem dX0_begins_15 : decode cX0_begins 15 = .ok (.ireturn, 1) := dk_172 (dk_at dksX0_begins_0 15 rfl rfl)
theorem dX0_begins_16 : decode cX0_begins 16 = .ok (.aload_n 0, 1) := dk_42 (dk_at dksX0_begins_0 16 rfl rfl)
theorem dX0_begins_17 : decode cX0_begins 17 = .ok (.getfield 31, 3) := dk_180 0 31 (dk_at dksX0_begins_0 17 rfl rfl)
theorem dX0_begins_20 : decode cX0_begins 20 = .ok (.iconst 1, 1) := dk_4 (dk_at dksX0_begins_0 20 rfl rfl)
theorem dX0_begins_21 : decode cX0_begins 21 = .ok (.putfield 80, 3) := dk_181 0 80 (dk_at dksX0_begins_0 21 rfl rfl)
theorem dX0_begins_24 : decode cX0_begins 24 = .ok (.iconst 0, 1) := dk_3 (dk_at dksX0_begins_1 0 rfl rfl)
theorem dX0_begins_25 : decode cX0_begins 25 = .ok (.aload_n 0, 1) := dk_42 (dk_at dksX0_begins_1 1 rfl rfl)
theorem dX0_begins_26 : decode cX0_begins 26 = .ok (.getfield 31, 3) := dk_180 0 31 (dk_at dksX0_begins_1 2 rfl rfl)
theorem dX0_begins_29 : decode cX0_begins 29 = .ok (.bipush (-6), 2) := dk_16 250 (dk_at dksX0_begins_1 5 rfl rfl)
theorem dX0_begins_31 : decode cX0_begins 31 = .ok (.invokevirtual 152, 3) := dk_182 0 152 (dk_at dksX0_begins_1 7 rfl rfl)
theorem dX0_begins_34 : decode cX0_begins 34 = .ok (.invokestatic 156, 3) := dk_184 0 156 (dk_at dksX0_begins_1 10 rfl rfl)
theorem dX0_begins_37 : decode cX0_begins 37 = .ok (.ireturn, 1) := dk_172 (dk_at dksX0_begins_1 13 rfl rfl)
abbrev cX0_claim : ByteArray := prog_1_method_23_code
def yX0_claim : MethodName := ⟨RX0, "claim", "(III)I"⟩
def dkwX0_claim_0 : List UInt8 := [42, 4, 27, 28, 29, 182, 0, 171, 172]
abbrev dktX0_claim_0 : List UInt8 := dkwX0_claim_0 ++ []
theorem dksX0_claim_0 : cX0_claim.data.toList.drop 0 = dktX0_claim_0 := by decide +kernel
theorem dX0_claim_0 : decode cX0_claim 0 = .ok (.aload_n 0, 1) := dk_42 (dk_at dksX0_claim_0 0 rfl rfl)
theorem dX0_claim_1 : decode cX0_claim 1 = .ok (.iconst 1, 1) := dk_4 (dk_at dksX0_claim_0 1 rfl rfl)
theorem dX0_claim_2 : decode cX0_claim 2 = .ok (.iload_n 1, 1) := dk_27 (dk_at dksX0_claim_0 2 rfl rfl)
theorem dX0_claim_3 : decode cX0_claim 3 = .ok (.iload_n 2, 1) := dk_28 (dk_at dksX0_claim_0 3 rfl rfl)
theorem dX0_claim_4 : decode cX0_claim 4 = .ok (.iload_n 3, 1) := dk_29 (dk_at dksX0_claim_0 4 rfl rfl)
theorem dX0_claim_5 : decode cX0_claim 5 = .ok (.invokevirtual 171, 3) := dk_182 0 171 (dk_at dksX0_claim_0 5 rfl rfl)
theorem dX0_claim_8 : decode cX0_claim 8 = .ok (.ireturn, 1) := dk_172 (dk_at dksX0_claim_0 8 rfl rfl)
abbrev cX0_claims : ByteArray := prog_1_method_22_code
def yX0_claims : MethodName := ⟨RX0, "claims", "(ZIII)I"⟩
def dkwX0_claims_2 : List UInt8 := [182, 0, 168, 172]
abbrev dktX0_claims_2 : List UInt8 := dkwX0_claims_2 ++ []
def dkwX0_claims_1 : List UInt8 := [167, 0, 26, 42, 180, 0, 31, 28, 29, 184, 0, 96, 21, 4, 4, 160, 0, 7, 4, 167, 0, 4, 5]
abbrev dktX0_claims_1 : List UInt8 := dkwX0_claims_1 ++ dktX0_claims_2
def dkwX0_claims_0 : List UInt8 := [42, 42, 28, 29, 21, 4, 182, 0, 164, 27, 182, 0, 132, 54, 5, 21, 5, 156, 0, 8, 21, 5]
abbrev dktX0_claims_0 : List UInt8 := dkwX0_claims_0 ++ dktX0_claims_1
theorem dksX0_claims_0 : cX0_claims.data.toList.drop 0 = dktX0_claims_0 := by decide +kernel
theorem dksX0_claims_1 : cX0_claims.data.toList.drop 22 = dktX0_claims_1 := dk_seg dksX0_claims_0 22 rfl rfl
theorem dksX0_claims_2 : cX0_claims.data.toList.drop 45 = dktX0_claims_2 := dk_seg dksX0_claims_1 23 rfl rfl
theorem dX0_claims_0 : decode cX0_claims 0 = .ok (.aload_n 0, 1) := dk_42 (dk_at dksX0_claims_0 0 rfl rfl)
theorem dX0_claims_1 : decode cX0_claims 1 = .ok (.aload_n 0, 1) := dk_42 (dk_at dksX0_claims_0 1 rfl rfl)
theorem dX0_claims_2 : decode cX0_claims 2 = .ok (.iload_n 2, 1) := dk_28 (dk_at dksX0_claims_0 2 rfl rfl)
theorem dX0_claims_3 : decode cX0_claims 3 = .ok (.iload_n 3, 1) := dk_29 (dk_at dksX0_claims_0 3 rfl rfl)
theorem dX0_claims_4 : decode cX0_claims 4 = .ok (.iload 4, 2) := dk_21 4 (dk_at dksX0_claims_0 4 rfl rfl)
theorem dX0_claims_6 : decode cX0_claims 6 = .ok (.invokevirtual 164, 3) := dk_182 0 164 (dk_at dksX0_claims_0 6 rfl rfl)
theorem dX0_claims_9 : decode cX0_claims 9 = .ok (.iload_n 1, 1) := dk_27 (dk_at dksX0_claims_0 9 rfl rfl)
theorem dX0_claims_10 : decode cX0_claims 10 = .ok (.invokevirtual 132, 3) := dk_182 0 132 (dk_at dksX0_claims_0 10 rfl rfl)
theorem dX0_claims_13 : decode cX0_claims 13 = .ok (.istore 5, 2) := dk_54 5 (dk_at dksX0_claims_0 13 rfl rfl)
theorem dX0_claims_15 : decode cX0_claims 15 = .ok (.iload 5, 2) := dk_21 5 (dk_at dksX0_claims_0 15 rfl rfl)
theorem dX0_claims_17 : decode cX0_claims 17 = .ok (.ifCond .ge 8, 3) := dk_156 0 8 (dk_at dksX0_claims_0 17 rfl rfl)
theorem dX0_claims_20 : decode cX0_claims 20 = .ok (.iload 5, 2) := dk_21 5 (dk_at dksX0_claims_0 20 rfl rfl)
theorem dX0_claims_22 : decode cX0_claims 22 = .ok (.goto 26, 3) := dk_167 0 26 (dk_at dksX0_claims_1 0 rfl rfl)
theorem dX0_claims_25 : decode cX0_claims 25 = .ok (.aload_n 0, 1) := dk_42 (dk_at dksX0_claims_1 3 rfl rfl)
theorem dX0_claims_26 : decode cX0_claims 26 = .ok (.getfield 31, 3) := dk_180 0 31 (dk_at dksX0_claims_1 4 rfl rfl)
theorem dX0_claims_29 : decode cX0_claims 29 = .ok (.iload_n 2, 1) := dk_28 (dk_at dksX0_claims_1 7 rfl rfl)
theorem dX0_claims_30 : decode cX0_claims 30 = .ok (.iload_n 3, 1) := dk_29 (dk_at dksX0_claims_1 8 rfl rfl)
theorem dX0_claims_31 : decode cX0_claims 31 = .ok (.invokestatic 96, 3) := dk_184 0 96 (dk_at dksX0_claims_1 9 rfl rfl)
theorem dX0_claims_34 : decode cX0_claims 34 = .ok (.iload 4, 2) := dk_21 4 (dk_at dksX0_claims_1 12 rfl rfl)
theorem dX0_claims_36 : decode cX0_claims 36 = .ok (.iconst 1, 1) := dk_4 (dk_at dksX0_claims_1 14 rfl rfl)
theorem dX0_claims_37 : decode cX0_claims 37 = .ok (.if_icmp .ne 7, 3) := dk_160 0 7 (dk_at dksX0_claims_1 15 rfl rfl)
theorem dX0_claims_40 : decode cX0_claims 40 = .ok (.iconst 1, 1) := dk_4 (dk_at dksX0_claims_1 18 rfl rfl)
theorem dX0_claims_41 : decode cX0_claims 41 = .ok (.goto 4, 3) := dk_167 0 4 (dk_at dksX0_claims_1 19 rfl rfl)
theorem dX0_claims_44 : decode cX0_claims 44 = .ok (.iconst 2, 1) := dk_5 (dk_at dksX0_claims_1 22 rfl rfl)
theorem dX0_claims_45 : decode cX0_claims 45 = .ok (.invokevirtual 168, 3) := dk_182 0 168 (dk_at dksX0_claims_2 0 rfl rfl)
theorem dX0_claims_48 : decode cX0_claims 48 = .ok (.ireturn, 1) := dk_172 (dk_at dksX0_claims_2 3 rfl rfl)
abbrev cX0_whyNotClaim : ByteArray := prog_1_method_12_code
def yX0_whyNotClaim : MethodName := ⟨RX0, "whyNotClaim", "(III)I"⟩
def dkwX0_whyNotClaim_1 : List UInt8 := [153, 0, 10, 42, 182, 0, 87, 167, 0, 5, 16, 254, 172]
abbrev dktX0_whyNotClaim_1 : List UInt8 := dkwX0_whyNotClaim_1 ++ []
def dkwX0_whyNotClaim_0 : List UInt8 := [27, 28, 184, 0, 84, 54, 4, 21, 4, 156, 0, 8, 21, 4, 167, 0, 21, 29, 3, 4, 184, 0, 3]
abbrev dktX0_whyNotClaim_0 : List UInt8 := dkwX0_whyNotClaim_0 ++ dktX0_whyNotClaim_1
theorem dksX0_whyNotClaim_0 : cX0_whyNotClaim.data.toList.drop 0 = dktX0_whyNotClaim_0 := by decide +kernel
theorem dksX0_whyNotClaim_1 : cX0_whyNotClaim.data.toList.drop 23 = dktX0_whyNotClaim_1 := dk_seg dksX0_whyNotClaim_0 23 rfl rfl
theorem dX0_whyNotClaim_0 : decode cX0_whyNotClaim 0 = .ok (.iload_n 1, 1) := dk_27 (dk_at dksX0_whyNotClaim_0 0 rfl rfl)
theorem dX0_whyNotClaim_1 : decode cX0_whyNotClaim 1 = .ok (.iload_n 2, 1) := dk_28 (dk_at dksX0_whyNotClaim_0 1 rfl rfl)
theorem dX0_whyNotClaim_2 : decode cX0_whyNotClaim 2 = .ok (.invokestatic 84, 3) := dk_184 0 84 (dk_at dksX0_whyNotClaim_0 2 rfl rfl)
theorem dX0_whyNotClaim_5 : decode cX0_whyNotClaim 5 = .ok (.istore 4, 2) := dk_54 4 (dk_at dksX0_whyNotClaim_0 5 rfl rfl)
theorem dX0_whyNotClaim_7 : decode cX0_whyNotClaim 7 = .ok (.iload 4, 2) := dk_21 4 (dk_at dksX0_whyNotClaim_0 7 rfl rfl)
theorem dX0_whyNotClaim_9 : decode cX0_whyNotClaim 9 = .ok (.ifCond .ge 8, 3) := dk_156 0 8 (dk_at dksX0_whyNotClaim_0 9 rfl rfl)
theorem dX0_whyNotClaim_12 : decode cX0_whyNotClaim 12 = .ok (.iload 4, 2) := dk_21 4 (dk_at dksX0_whyNotClaim_0 12 rfl rfl)
theorem dX0_whyNotClaim_14 : decode cX0_whyNotClaim 14 = .ok (.goto 21, 3) := dk_167 0 21 (dk_at dksX0_whyNotClaim_0 14 rfl rfl)
theorem dX0_whyNotClaim_17 : decode cX0_whyNotClaim 17 = .ok (.iload_n 3, 1) := dk_29 (dk_at dksX0_whyNotClaim_0 17 rfl rfl)
theorem dX0_whyNotClaim_18 : decode cX0_whyNotClaim 18 = .ok (.iconst 0, 1) := dk_3 (dk_at dksX0_whyNotClaim_0 18 rfl rfl)
theorem dX0_whyNotClaim_19 : decode cX0_whyNotClaim 19 = .ok (.iconst 1, 1) := dk_4 (dk_at dksX0_whyNotClaim_0 19 rfl rfl)
theorem dX0_whyNotClaim_20 : decode cX0_whyNotClaim 20 = .ok (.invokestatic 3, 3) := dk_184 0 3 (dk_at dksX0_whyNotClaim_0 20 rfl rfl)
theorem dX0_whyNotClaim_23 : decode cX0_whyNotClaim 23 = .ok (.ifCond .eq 10, 3) := dk_153 0 10 (dk_at dksX0_whyNotClaim_1 0 rfl rfl)
theorem dX0_whyNotClaim_26 : decode cX0_whyNotClaim 26 = .ok (.aload_n 0, 1) := dk_42 (dk_at dksX0_whyNotClaim_1 3 rfl rfl)
theorem dX0_whyNotClaim_27 : decode cX0_whyNotClaim 27 = .ok (.invokevirtual 87, 3) := dk_182 0 87 (dk_at dksX0_whyNotClaim_1 4 rfl rfl)
theorem dX0_whyNotClaim_30 : decode cX0_whyNotClaim 30 = .ok (.goto 5, 3) := dk_167 0 5 (dk_at dksX0_whyNotClaim_1 7 rfl rfl)
theorem dX0_whyNotClaim_33 : decode cX0_whyNotClaim 33 = .ok (.bipush (-2), 2) := dk_16 254 (dk_at dksX0_whyNotClaim_1 10 rfl rfl)
theorem dX0_whyNotClaim_35 : decode cX0_whyNotClaim 35 = .ok (.ireturn, 1) := dk_172 (dk_at dksX0_whyNotClaim_1 12 rfl rfl)
abbrev cX0_ifGoingOn : ByteArray := prog_1_method_10_code
def yX0_ifGoingOn : MethodName := ⟨RX0, "ifGoingOn", "()I"⟩
def dkwX0_ifGoingOn_0 : List UInt8 := [42, 180, 0, 31, 180, 0, 80, 4, 160, 0, 7, 3, 167, 0, 5, 16, 251, 172]
abbrev dktX0_ifGoingOn_0 : List UInt8 := dkwX0_ifGoingOn_0 ++ []
theorem dksX0_ifGoingOn_0 : cX0_ifGoingOn.data.toList.drop 0 = dktX0_ifGoingOn_0 := by decide +kernel
theorem dX0_ifGoingOn_0 : decode cX0_ifGoingOn 0 = .ok (.aload_n 0, 1) := dk_42 (dk_at dksX0_ifGoingOn_0 0 rfl rfl)
theorem dX0_ifGoingOn_1 : decode cX0_ifGoingOn 1 = .ok (.getfield 31, 3) := dk_180 0 31 (dk_at dksX0_ifGoingOn_0 1 rfl rfl)
theorem dX0_ifGoingOn_4 : decode cX0_ifGoingOn 4 = .ok (.getfield 80, 3) := dk_180 0 80 (dk_at dksX0_ifGoingOn_0 4 rfl rfl)
theorem dX0_ifGoingOn_7 : decode cX0_ifGoingOn 7 = .ok (.iconst 1, 1) := dk_4 (dk_at dksX0_ifGoingOn_0 7 rfl rfl)
theorem dX0_ifGoingOn_8 : decode cX0_ifGoingOn 8 = .ok (.if_icmp .ne 7, 3) := dk_160 0 7 (dk_at dksX0_ifGoingOn_0 8 rfl rfl)
theorem dX0_ifGoingOn_11 : decode cX0_ifGoingOn 11 = .ok (.iconst 0, 1) := dk_3 (dk_at dksX0_ifGoingOn_0 11 rfl rfl)
theorem dX0_ifGoingOn_12 : decode cX0_ifGoingOn 12 = .ok (.goto 5, 3) := dk_167 0 5 (dk_at dksX0_ifGoingOn_0 12 rfl rfl)
theorem dX0_ifGoingOn_15 : decode cX0_ifGoingOn 15 = .ok (.bipush (-5), 2) := dk_16 251 (dk_at dksX0_ifGoingOn_0 15 rfl rfl)
theorem dX0_ifGoingOn_17 : decode cX0_ifGoingOn 17 = .ok (.ireturn, 1) := dk_172 (dk_at dksX0_ifGoingOn_0 17 rfl rfl)
abbrev cX0_check : ByteArray := prog_1_method_25_code
def yX0_check : MethodName := ⟨RX0, "check", "(III)I"⟩
def dkwX0_check_0 : List UInt8 := [42, 4, 27, 28, 29, 182, 0, 181, 172]
abbrev dktX0_check_0 : List UInt8 := dkwX0_check_0 ++ []
theorem dksX0_check_0 : cX0_check.data.toList.drop 0 = dktX0_check_0 := by decide +kernel
theorem dX0_check_0 : decode cX0_check 0 = .ok (.aload_n 0, 1) := dk_42 (dk_at dksX0_check_0 0 rfl rfl)
theorem dX0_check_1 : decode cX0_check 1 = .ok (.iconst 1, 1) := dk_4 (dk_at dksX0_check_0 1 rfl rfl)
theorem dX0_check_2 : decode cX0_check 2 = .ok (.iload_n 1, 1) := dk_27 (dk_at dksX0_check_0 2 rfl rfl)
theorem dX0_check_3 : decode cX0_check 3 = .ok (.iload_n 2, 1) := dk_28 (dk_at dksX0_check_0 3 rfl rfl)
theorem dX0_check_4 : decode cX0_check 4 = .ok (.iload_n 3, 1) := dk_29 (dk_at dksX0_check_0 4 rfl rfl)
theorem dX0_check_5 : decode cX0_check 5 = .ok (.invokevirtual 181, 3) := dk_182 0 181 (dk_at dksX0_check_0 5 rfl rfl)
theorem dX0_check_8 : decode cX0_check 8 = .ok (.ireturn, 1) := dk_172 (dk_at dksX0_check_0 8 rfl rfl)
abbrev cX0_checks : ByteArray := prog_1_method_24_code
def yX0_checks : MethodName := ⟨RX0, "checks", "(ZIII)I"⟩
def dkwX0_checks_2 : List UInt8 := [182, 0, 177, 172]
abbrev dktX0_checks_2 : List UInt8 := dkwX0_checks_2 ++ []
def dkwX0_checks_1 : List UInt8 := [167, 0, 25, 42, 180, 0, 31, 42, 180, 0, 31, 180, 0, 99, 28, 50, 29, 21, 4, 184, 0, 96]
abbrev dktX0_checks_1 : List UInt8 := dkwX0_checks_1 ++ dktX0_checks_2
def dkwX0_checks_0 : List UInt8 := [42, 42, 28, 29, 21, 4, 182, 0, 174, 27, 182, 0, 132, 54, 5, 21, 5, 156, 0, 8, 21, 5]
abbrev dktX0_checks_0 : List UInt8 := dkwX0_checks_0 ++ dktX0_checks_1
theorem dksX0_checks_0 : cX0_checks.data.toList.drop 0 = dktX0_checks_0 := by decide +kernel
theorem dksX0_checks_1 : cX0_checks.data.toList.drop 22 = dktX0_checks_1 := dk_seg dksX0_checks_0 22 rfl rfl
theorem dksX0_checks_2 : cX0_checks.data.toList.drop 44 = dktX0_checks_2 := dk_seg dksX0_checks_1 22 rfl rfl
theorem dX0_checks_0 : decode cX0_checks 0 = .ok (.aload_n 0, 1) := dk_42 (dk_at dksX0_checks_0 0 rfl rfl)
theorem dX0_checks_1 : decode cX0_checks 1 = .ok (.aload_n 0, 1) := dk_42 (dk_at dksX0_checks_0 1 rfl rfl)
theorem dX0_checks_2 : decode cX0_checks 2 = .ok (.iload_n 2, 1) := dk_28 (dk_at dksX0_checks_0 2 rfl rfl)
theorem dX0_checks_3 : decode cX0_checks 3 = .ok (.iload_n 3, 1) := dk_29 (dk_at dksX0_checks_0 3 rfl rfl)
theorem dX0_checks_4 : decode cX0_checks 4 = .ok (.iload 4, 2) := dk_21 4 (dk_at dksX0_checks_0 4 rfl rfl)
theorem dX0_checks_6 : decode cX0_checks 6 = .ok (.invokevirtual 174, 3) := dk_182 0 174 (dk_at dksX0_checks_0 6 rfl rfl)
theorem dX0_checks_9 : decode cX0_checks 9 = .ok (.iload_n 1, 1) := dk_27 (dk_at dksX0_checks_0 9 rfl rfl)
theorem dX0_checks_10 : decode cX0_checks 10 = .ok (.invokevirtual 132, 3) := dk_182 0 132 (dk_at dksX0_checks_0 10 rfl rfl)
theorem dX0_checks_13 : decode cX0_checks 13 = .ok (.istore 5, 2) := dk_54 5 (dk_at dksX0_checks_0 13 rfl rfl)
theorem dX0_checks_15 : decode cX0_checks 15 = .ok (.iload 5, 2) := dk_21 5 (dk_at dksX0_checks_0 15 rfl rfl)
theorem dX0_checks_17 : decode cX0_checks 17 = .ok (.ifCond .ge 8, 3) := dk_156 0 8 (dk_at dksX0_checks_0 17 rfl rfl)
theorem dX0_checks_20 : decode cX0_checks 20 = .ok (.iload 5, 2) := dk_21 5 (dk_at dksX0_checks_0 20 rfl rfl)
theorem dX0_checks_22 : decode cX0_checks 22 = .ok (.goto 25, 3) := dk_167 0 25 (dk_at dksX0_checks_1 0 rfl rfl)
theorem dX0_checks_25 : decode cX0_checks 25 = .ok (.aload_n 0, 1) := dk_42 (dk_at dksX0_checks_1 3 rfl rfl)
theorem dX0_checks_26 : decode cX0_checks 26 = .ok (.getfield 31, 3) := dk_180 0 31 (dk_at dksX0_checks_1 4 rfl rfl)
theorem dX0_checks_29 : decode cX0_checks 29 = .ok (.aload_n 0, 1) := dk_42 (dk_at dksX0_checks_1 7 rfl rfl)
theorem dX0_checks_30 : decode cX0_checks 30 = .ok (.getfield 31, 3) := dk_180 0 31 (dk_at dksX0_checks_1 8 rfl rfl)
theorem dX0_checks_33 : decode cX0_checks 33 = .ok (.getfield 99, 3) := dk_180 0 99 (dk_at dksX0_checks_1 11 rfl rfl)
theorem dX0_checks_36 : decode cX0_checks 36 = .ok (.iload_n 2, 1) := dk_28 (dk_at dksX0_checks_1 14 rfl rfl)
theorem dX0_checks_37 : decode cX0_checks 37 = .ok (.aaload, 1) := dk_50 (dk_at dksX0_checks_1 15 rfl rfl)
theorem dX0_checks_38 : decode cX0_checks 38 = .ok (.iload_n 3, 1) := dk_29 (dk_at dksX0_checks_1 16 rfl rfl)
theorem dX0_checks_39 : decode cX0_checks 39 = .ok (.iload 4, 2) := dk_21 4 (dk_at dksX0_checks_1 17 rfl rfl)
theorem dX0_checks_41 : decode cX0_checks 41 = .ok (.invokestatic 96, 3) := dk_184 0 96 (dk_at dksX0_checks_1 19 rfl rfl)
theorem dX0_checks_44 : decode cX0_checks 44 = .ok (.invokevirtual 177, 3) := dk_182 0 177 (dk_at dksX0_checks_2 0 rfl rfl)
theorem dX0_checks_47 : decode cX0_checks 47 = .ok (.ireturn, 1) := dk_172 (dk_at dksX0_checks_2 3 rfl rfl)
abbrev cX0_whyNotCheck : ByteArray := prog_1_method_13_code
def yX0_whyNotCheck : MethodName := ⟨RX0, "whyNotCheck", "(III)I"⟩
def dkwX0_whyNotCheck_4 : List UInt8 := [54, 5, 21, 5, 153, 0, 7, 3, 167, 0, 5, 16, 251, 172]
abbrev dktX0_whyNotCheck_4 : List UInt8 := dkwX0_whyNotCheck_4 ++ []
def dkwX0_whyNotCheck_3 : List UInt8 := [46, 158, 0, 22, 42, 180, 0, 31, 180, 0, 109, 21, 4, 182, 0, 113, 154, 0, 7, 4, 167, 0, 4, 3]
abbrev dktX0_whyNotCheck_3 : List UInt8 := dkwX0_whyNotCheck_3 ++ dktX0_whyNotCheck_4
def dkwX0_whyNotCheck_2 : List UInt8 := [180, 0, 31, 180, 0, 80, 4, 160, 0, 40, 42, 180, 0, 31, 180, 0, 99, 27, 50, 180, 0, 103, 21, 4]
abbrev dktX0_whyNotCheck_2 : List UInt8 := dkwX0_whyNotCheck_2 ++ dktX0_whyNotCheck_3
def dkwX0_whyNotCheck_1 : List UInt8 := [180, 0, 93, 6, 112, 159, 0, 8, 28, 29, 160, 0, 6, 16, 254, 172, 28, 29, 184, 0, 96, 54, 4, 42]
abbrev dktX0_whyNotCheck_1 : List UInt8 := dkwX0_whyNotCheck_1 ++ dktX0_whyNotCheck_2
def dkwX0_whyNotCheck_0 : List UInt8 := [27, 184, 0, 90, 153, 0, 12, 28, 29, 184, 0, 84, 2, 160, 0, 5, 2, 172, 27, 42, 180, 0, 31]
abbrev dktX0_whyNotCheck_0 : List UInt8 := dkwX0_whyNotCheck_0 ++ dktX0_whyNotCheck_1
theorem dksX0_whyNotCheck_0 : cX0_whyNotCheck.data.toList.drop 0 = dktX0_whyNotCheck_0 := by decide +kernel
theorem dksX0_whyNotCheck_1 : cX0_whyNotCheck.data.toList.drop 23 = dktX0_whyNotCheck_1 := dk_seg dksX0_whyNotCheck_0 23 rfl rfl
theorem dksX0_whyNotCheck_2 : cX0_whyNotCheck.data.toList.drop 47 = dktX0_whyNotCheck_2 := dk_seg dksX0_whyNotCheck_1 24 rfl rfl
theorem dksX0_whyNotCheck_3 : cX0_whyNotCheck.data.toList.drop 71 = dktX0_whyNotCheck_3 := dk_seg dksX0_whyNotCheck_2 24 rfl rfl
theorem dksX0_whyNotCheck_4 : cX0_whyNotCheck.data.toList.drop 95 = dktX0_whyNotCheck_4 := dk_seg dksX0_whyNotCheck_3 24 rfl rfl
theorem dX0_whyNotCheck_0 : decode cX0_whyNotCheck 0 = .ok (.iload_n 1, 1) := dk_27 (dk_at dksX0_whyNotCheck_0 0 rfl rfl)
theorem dX0_whyNotCheck_1 : decode cX0_whyNotCheck 1 = .ok (.invokestatic 90, 3) := dk_184 0 90 (dk_at dksX0_whyNotCheck_0 1 rfl rfl)
theorem dX0_whyNotCheck_4 : decode cX0_whyNotCheck 4 = .ok (.ifCond .eq 12, 3) := dk_153 0 12 (dk_at dksX0_whyNotCheck_0 4 rfl rfl)
theorem dX0_whyNotCheck_7 : decode cX0_whyNotCheck 7 = .ok (.iload_n 2, 1) := dk_28 (dk_at dksX0_whyNotCheck_0 7 rfl rfl)
theorem dX0_whyNotCheck_8 : decode cX0_whyNotCheck 8 = .ok (.iload_n 3, 1) := dk_29 (dk_at dksX0_whyNotCheck_0 8 rfl rfl)
theorem dX0_whyNotCheck_9 : decode cX0_whyNotCheck 9 = .ok (.invokestatic 84, 3) := dk_184 0 84 (dk_at dksX0_whyNotCheck_0 9 rfl rfl)
theorem dX0_whyNotCheck_12 : decode cX0_whyNotCheck 12 = .ok (.iconst (-1), 1) := dk_2 (dk_at dksX0_whyNotCheck_0 12 rfl rfl)
theorem dX0_whyNotCheck_13 : decode cX0_whyNotCheck 13 = .ok (.if_icmp .ne 5, 3) := dk_160 0 5 (dk_at dksX0_whyNotCheck_0 13 rfl rfl)
theorem dX0_whyNotCheck_16 : decode cX0_whyNotCheck 16 = .ok (.iconst (-1), 1) := dk_2 (dk_at dksX0_whyNotCheck_0 16 rfl rfl)
theorem dX0_whyNotCheck_17 : decode cX0_whyNotCheck 17 = .ok (.ireturn, 1) := dk_172 (dk_at dksX0_whyNotCheck_0 17 rfl rfl)
theorem dX0_whyNotCheck_18 : decode cX0_whyNotCheck 18 = .ok (.iload_n 1, 1) := dk_27 (dk_at dksX0_whyNotCheck_0 18 rfl rfl)
theorem dX0_whyNotCheck_19 : decode cX0_whyNotCheck 19 = .ok (.aload_n 0, 1) := dk_42 (dk_at dksX0_whyNotCheck_0 19 rfl rfl)
theorem dX0_whyNotCheck_20 : decode cX0_whyNotCheck 20 = .ok (.getfield 31, 3) := dk_180 0 31 (dk_at dksX0_whyNotCheck_0 20 rfl rfl)
theorem dX0_whyNotCheck_23 : decode cX0_whyNotCheck 23 = .ok (.getfield 93, 3) := dk_180 0 93 (dk_at dksX0_whyNotCheck_1 0 rfl rfl)
theorem dX0_whyNotCheck_26 : decode cX0_whyNotCheck 26 = .ok (.iconst 3, 1) := dk_6 (dk_at dksX0_whyNotCheck_1 3 rfl rfl)
theorem dX0_whyNotCheck_27 : decode cX0_whyNotCheck 27 = .ok (.irem, 1) := dk_112 (dk_at dksX0_whyNotCheck_1 4 rfl rfl)
theorem dX0_whyNotCheck_28 : decode cX0_whyNotCheck 28 = .ok (.if_icmp .eq 8, 3) := dk_159 0 8 (dk_at dksX0_whyNotCheck_1 5 rfl rfl)
theorem dX0_whyNotCheck_31 : decode cX0_whyNotCheck 31 = .ok (.iload_n 2, 1) := dk_28 (dk_at dksX0_whyNotCheck_1 8 rfl rfl)
theorem dX0_whyNotCheck_32 : decode cX0_whyNotCheck 32 = .ok (.iload_n 3, 1) := dk_29 (dk_at dksX0_whyNotCheck_1 9 rfl rfl)
theorem dX0_whyNotCheck_33 : decode cX0_whyNotCheck 33 = .ok (.if_icmp .ne 6, 3) := dk_160 0 6 (dk_at dksX0_whyNotCheck_1 10 rfl rfl)
theorem dX0_whyNotCheck_36 : decode cX0_whyNotCheck 36 = .ok (.bipush (-2), 2) := dk_16 254 (dk_at dksX0_whyNotCheck_1 13 rfl rfl)
theorem dX0_whyNotCheck_38 : decode cX0_whyNotCheck 38 = .ok (.ireturn, 1) := dk_172 (dk_at dksX0_whyNotCheck_1 15 rfl rfl)
theorem dX0_whyNotCheck_39 : decode cX0_whyNotCheck 39 = .ok (.iload_n 2, 1) := dk_28 (dk_at dksX0_whyNotCheck_1 16 rfl rfl)
theorem dX0_whyNotCheck_40 : decode cX0_whyNotCheck 40 = .ok (.iload_n 3, 1) := dk_29 (dk_at dksX0_whyNotCheck_1 17 rfl rfl)
theorem dX0_whyNotCheck_41 : decode cX0_whyNotCheck 41 = .ok (.invokestatic 96, 3) := dk_184 0 96 (dk_at dksX0_whyNotCheck_1 18 rfl rfl)
theorem dX0_whyNotCheck_44 : decode cX0_whyNotCheck 44 = .ok (.istore 4, 2) := dk_54 4 (dk_at dksX0_whyNotCheck_1 21 rfl rfl)
theorem dX0_whyNotCheck_46 : decode cX0_whyNotCheck 46 = .ok (.aload_n 0, 1) := dk_42 (dk_at dksX0_whyNotCheck_1 23 rfl rfl)
theorem dX0_whyNotCheck_47 : decode cX0_whyNotCheck 47 = .ok (.getfield 31, 3) := dk_180 0 31 (dk_at dksX0_whyNotCheck_2 0 rfl rfl)
theorem dX0_whyNotCheck_50 : decode cX0_whyNotCheck 50 = .ok (.getfield 80, 3) := dk_180 0 80 (dk_at dksX0_whyNotCheck_2 3 rfl rfl)
theorem dX0_whyNotCheck_53 : decode cX0_whyNotCheck 53 = .ok (.iconst 1, 1) := dk_4 (dk_at dksX0_whyNotCheck_2 6 rfl rfl)
theorem dX0_whyNotCheck_54 : decode cX0_whyNotCheck 54 = .ok (.if_icmp .ne 40, 3) := dk_160 0 40 (dk_at dksX0_whyNotCheck_2 7 rfl rfl)
theorem dX0_whyNotCheck_57 : decode cX0_whyNotCheck 57 = .ok (.aload_n 0, 1) := dk_42 (dk_at dksX0_whyNotCheck_2 10 rfl rfl)
theorem dX0_whyNotCheck_58 : decode cX0_whyNotCheck 58 = .ok (.getfield 31, 3) := dk_180 0 31 (dk_at dksX0_whyNotCheck_2 11 rfl rfl)
theorem dX0_whyNotCheck_61 : decode cX0_whyNotCheck 61 = .ok (.getfield 99, 3) := dk_180 0 99 (dk_at dksX0_whyNotCheck_2 14 rfl rfl)
theorem dX0_whyNotCheck_64 : decode cX0_whyNotCheck 64 = .ok (.iload_n 1, 1) := dk_27 (dk_at dksX0_whyNotCheck_2 17 rfl rfl)
theorem dX0_whyNotCheck_65 : decode cX0_whyNotCheck 65 = .ok (.aaload, 1) := dk_50 (dk_at dksX0_whyNotCheck_2 18 rfl rfl)
theorem dX0_whyNotCheck_66 : decode cX0_whyNotCheck 66 = .ok (.getfield 103, 3) := dk_180 0 103 (dk_at dksX0_whyNotCheck_2 19 rfl rfl)
theorem dX0_whyNotCheck_69 : decode cX0_whyNotCheck 69 = .ok (.iload 4, 2) := dk_21 4 (dk_at dksX0_whyNotCheck_2 22 rfl rfl)
theorem dX0_whyNotCheck_71 : decode cX0_whyNotCheck 71 = .ok (.iaload, 1) := dk_46 (dk_at dksX0_whyNotCheck_3 0 rfl rfl)
theorem dX0_whyNotCheck_72 : decode cX0_whyNotCheck 72 = .ok (.ifCond .le 22, 3) := dk_158 0 22 (dk_at dksX0_whyNotCheck_3 1 rfl rfl)
theorem dX0_whyNotCheck_75 : decode cX0_whyNotCheck 75 = .ok (.aload_n 0, 1) := dk_42 (dk_at dksX0_whyNotCheck_3 4 rfl rfl)
theorem dX0_whyNotCheck_76 : decode cX0_whyNotCheck 76 = .ok (.getfield 31, 3) := dk_180 0 31 (dk_at dksX0_whyNotCheck_3 5 rfl rfl)
theorem dX0_whyNotCheck_79 : decode cX0_whyNotCheck 79 = .ok (.getfield 109, 3) := dk_180 0 109 (dk_at dksX0_whyNotCheck_3 8 rfl rfl)
theorem dX0_whyNotCheck_82 : decode cX0_whyNotCheck 82 = .ok (.iload 4, 2) := dk_21 4 (dk_at dksX0_whyNotCheck_3 11 rfl rfl)
theorem dX0_whyNotCheck_84 : decode cX0_whyNotCheck 84 = .ok (.invokevirtual 113, 3) := dk_182 0 113 (dk_at dksX0_whyNotCheck_3 13 rfl rfl)
theorem dX0_whyNotCheck_87 : decode cX0_whyNotCheck 87 = .ok (.ifCond .ne 7, 3) := dk_154 0 7 (dk_at dksX0_whyNotCheck_3 16 rfl rfl)
theorem dX0_whyNotCheck_90 : decode cX0_whyNotCheck 90 = .ok (.iconst 1, 1) := dk_4 (dk_at dksX0_whyNotCheck_3 19 rfl rfl)
theorem dX0_whyNotCheck_91 : decode cX0_whyNotCheck 91 = .ok (.goto 4, 3) := dk_167 0 4 (dk_at dksX0_whyNotCheck_3 20 rfl rfl)
theorem dX0_whyNotCheck_94 : decode cX0_whyNotCheck 94 = .ok (.iconst 0, 1) := dk_3 (dk_at dksX0_whyNotCheck_3 23 rfl rfl)
theorem dX0_whyNotCheck_95 : decode cX0_whyNotCheck 95 = .ok (.istore 5, 2) := dk_54 5 (dk_at dksX0_whyNotCheck_4 0 rfl rfl)
theorem dX0_whyNotCheck_97 : decode cX0_whyNotCheck 97 = .ok (.iload 5, 2) := dk_21 5 (dk_at dksX0_whyNotCheck_4 2 rfl rfl)
theorem dX0_whyNotCheck_99 : decode cX0_whyNotCheck 99 = .ok (.ifCond .eq 7, 3) := dk_153 0 7 (dk_at dksX0_whyNotCheck_4 4 rfl rfl)
theorem dX0_whyNotCheck_102 : decode cX0_whyNotCheck 102 = .ok (.iconst 0, 1) := dk_3 (dk_at dksX0_whyNotCheck_4 7 rfl rfl)
theorem dX0_whyNotCheck_103 : decode cX0_whyNotCheck 103 = .ok (.goto 5, 3) := dk_167 0 5 (dk_at dksX0_whyNotCheck_4 8 rfl rfl)
theorem dX0_whyNotCheck_106 : decode cX0_whyNotCheck 106 = .ok (.bipush (-5), 2) := dk_16 251 (dk_at dksX0_whyNotCheck_4 11 rfl rfl)
theorem dX0_whyNotCheck_108 : decode cX0_whyNotCheck 108 = .ok (.ireturn, 1) := dk_172 (dk_at dksX0_whyNotCheck_4 13 rfl rfl)
abbrev cX0_isPlayer : ByteArray := prog_1_method_3_code
def yX0_isPlayer : MethodName := ⟨RX0, "isPlayer", "(I)Z"⟩
def dkwX0_isPlayer_0 : List UInt8 := [26, 3, 5, 184, 0, 3, 172]
abbrev dktX0_isPlayer_0 : List UInt8 := dkwX0_isPlayer_0 ++ []
theorem dksX0_isPlayer_0 : cX0_isPlayer.data.toList.drop 0 = dktX0_isPlayer_0 := by decide +kernel
theorem dX0_isPlayer_0 : decode cX0_isPlayer 0 = .ok (.iload_n 0, 1) := dk_26 (dk_at dksX0_isPlayer_0 0 rfl rfl)
theorem dX0_isPlayer_1 : decode cX0_isPlayer 1 = .ok (.iconst 0, 1) := dk_3 (dk_at dksX0_isPlayer_0 1 rfl rfl)
theorem dX0_isPlayer_2 : decode cX0_isPlayer 2 = .ok (.iconst 2, 1) := dk_5 (dk_at dksX0_isPlayer_0 2 rfl rfl)
theorem dX0_isPlayer_3 : decode cX0_isPlayer 3 = .ok (.invokestatic 3, 3) := dk_184 0 3 (dk_at dksX0_isPlayer_0 3 rfl rfl)
theorem dX0_isPlayer_6 : decode cX0_isPlayer 6 = .ok (.ireturn, 1) := dk_172 (dk_at dksX0_isPlayer_0 6 rfl rfl)
abbrev cX0_dig : ByteArray := prog_1_method_27_code
def yX0_dig : MethodName := ⟨RX0, "dig", "(I)I"⟩
def dkwX0_dig_0 : List UInt8 := [42, 27, 4, 182, 0, 190, 172]
abbrev dktX0_dig_0 : List UInt8 := dkwX0_dig_0 ++ []
theorem dksX0_dig_0 : cX0_dig.data.toList.drop 0 = dktX0_dig_0 := by decide +kernel
theorem dX0_dig_0 : decode cX0_dig 0 = .ok (.aload_n 0, 1) := dk_42 (dk_at dksX0_dig_0 0 rfl rfl)
theorem dX0_dig_1 : decode cX0_dig 1 = .ok (.iload_n 1, 1) := dk_27 (dk_at dksX0_dig_0 1 rfl rfl)
theorem dX0_dig_2 : decode cX0_dig 2 = .ok (.iconst 1, 1) := dk_4 (dk_at dksX0_dig_0 2 rfl rfl)
theorem dX0_dig_3 : decode cX0_dig 3 = .ok (.invokevirtual 190, 3) := dk_182 0 190 (dk_at dksX0_dig_0 3 rfl rfl)
theorem dX0_dig_6 : decode cX0_dig 6 = .ok (.ireturn, 1) := dk_172 (dk_at dksX0_dig_0 6 rfl rfl)
abbrev cX0_digs : ByteArray := prog_1_method_26_code
def yX0_digs : MethodName := ⟨RX0, "digs", "(IZ)I"⟩
def dkwX0_digs_1 : List UInt8 := [182, 0, 187, 172]
abbrev dktX0_digs_1 : List UInt8 := dkwX0_digs_1 ++ []
def dkwX0_digs_0 : List UInt8 := [42, 42, 27, 182, 0, 184, 28, 182, 0, 132, 62, 29, 156, 0, 7, 29, 167, 0, 11, 42, 180, 0, 31, 27]
abbrev dktX0_digs_0 : List UInt8 := dkwX0_digs_0 ++ dktX0_digs_1
theorem dksX0_digs_0 : cX0_digs.data.toList.drop 0 = dktX0_digs_0 := by decide +kernel
theorem dksX0_digs_1 : cX0_digs.data.toList.drop 24 = dktX0_digs_1 := dk_seg dksX0_digs_0 24 rfl rfl
theorem dX0_digs_0 : decode cX0_digs 0 = .ok (.aload_n 0, 1) := dk_42 (dk_at dksX0_digs_0 0 rfl rfl)
theorem dX0_digs_1 : decode cX0_digs 1 = .ok (.aload_n 0, 1) := dk_42 (dk_at dksX0_digs_0 1 rfl rfl)
theorem dX0_digs_2 : decode cX0_digs 2 = .ok (.iload_n 1, 1) := dk_27 (dk_at dksX0_digs_0 2 rfl rfl)
theorem dX0_digs_3 : decode cX0_digs 3 = .ok (.invokevirtual 184, 3) := dk_182 0 184 (dk_at dksX0_digs_0 3 rfl rfl)
theorem dX0_digs_6 : decode cX0_digs 6 = .ok (.iload_n 2, 1) := dk_28 (dk_at dksX0_digs_0 6 rfl rfl)
theorem dX0_digs_7 : decode cX0_digs 7 = .ok (.invokevirtual 132, 3) := dk_182 0 132 (dk_at dksX0_digs_0 7 rfl rfl)
theorem dX0_digs_10 : decode cX0_digs 10 = .ok (.istore_n 3, 1) := dk_62 (dk_at dksX0_digs_0 10 rfl rfl)
theorem dX0_digs_11 : decode cX0_digs 11 = .ok (.iload_n 3, 1) := dk_29 (dk_at dksX0_digs_0 11 rfl rfl)
theorem dX0_digs_12 : decode cX0_digs 12 = .ok (.ifCond .ge 7, 3) := dk_156 0 7 (dk_at dksX0_digs_0 12 rfl rfl)
theorem dX0_digs_15 : decode cX0_digs 15 = .ok (.iload_n 3, 1) := dk_29 (dk_at dksX0_digs_0 15 rfl rfl)
theorem dX0_digs_16 : decode cX0_digs 16 = .ok (.goto 11, 3) := dk_167 0 11 (dk_at dksX0_digs_0 16 rfl rfl)
theorem dX0_digs_19 : decode cX0_digs 19 = .ok (.aload_n 0, 1) := dk_42 (dk_at dksX0_digs_0 19 rfl rfl)
theorem dX0_digs_20 : decode cX0_digs 20 = .ok (.getfield 31, 3) := dk_180 0 31 (dk_at dksX0_digs_0 20 rfl rfl)
theorem dX0_digs_23 : decode cX0_digs 23 = .ok (.iload_n 1, 1) := dk_27 (dk_at dksX0_digs_0 23 rfl rfl)
theorem dX0_digs_24 : decode cX0_digs 24 = .ok (.invokevirtual 187, 3) := dk_182 0 187 (dk_at dksX0_digs_1 0 rfl rfl)
theorem dX0_digs_27 : decode cX0_digs 27 = .ok (.ireturn, 1) := dk_172 (dk_at dksX0_digs_1 3 rfl rfl)
abbrev cX0_whyNotDig : ByteArray := prog_1_method_14_code
def yX0_whyNotDig : MethodName := ⟨RX0, "whyNotDig", "(I)I"⟩
def dkwX0_whyNotDig_1 : List UInt8 := [180, 0, 123, 5, 46, 162, 0, 8, 16, 251, 167, 0, 7, 42, 182, 0, 87, 172]
abbrev dktX0_whyNotDig_1 : List UInt8 := dkwX0_whyNotDig_1 ++ []
def dkwX0_whyNotDig_0 : List UInt8 := [27, 184, 0, 76, 154, 0, 5, 2, 172, 42, 180, 0, 31, 182, 0, 116, 180, 0, 120, 42, 180, 0, 31]
abbrev dktX0_whyNotDig_0 : List UInt8 := dkwX0_whyNotDig_0 ++ dktX0_whyNotDig_1
theorem dksX0_whyNotDig_0 : cX0_whyNotDig.data.toList.drop 0 = dktX0_whyNotDig_0 := by decide +kernel
theorem dksX0_whyNotDig_1 : cX0_whyNotDig.data.toList.drop 23 = dktX0_whyNotDig_1 := dk_seg dksX0_whyNotDig_0 23 rfl rfl
theorem dX0_whyNotDig_0 : decode cX0_whyNotDig 0 = .ok (.iload_n 1, 1) := dk_27 (dk_at dksX0_whyNotDig_0 0 rfl rfl)
theorem dX0_whyNotDig_1 : decode cX0_whyNotDig 1 = .ok (.invokestatic 76, 3) := dk_184 0 76 (dk_at dksX0_whyNotDig_0 1 rfl rfl)
theorem dX0_whyNotDig_4 : decode cX0_whyNotDig 4 = .ok (.ifCond .ne 5, 3) := dk_154 0 5 (dk_at dksX0_whyNotDig_0 4 rfl rfl)
theorem dX0_whyNotDig_7 : decode cX0_whyNotDig 7 = .ok (.iconst (-1), 1) := dk_2 (dk_at dksX0_whyNotDig_0 7 rfl rfl)
theorem dX0_whyNotDig_8 : decode cX0_whyNotDig 8 = .ok (.ireturn, 1) := dk_172 (dk_at dksX0_whyNotDig_0 8 rfl rfl)
theorem dX0_whyNotDig_9 : decode cX0_whyNotDig 9 = .ok (.aload_n 0, 1) := dk_42 (dk_at dksX0_whyNotDig_0 9 rfl rfl)
theorem dX0_whyNotDig_10 : decode cX0_whyNotDig 10 = .ok (.getfield 31, 3) := dk_180 0 31 (dk_at dksX0_whyNotDig_0 10 rfl rfl)
theorem dX0_whyNotDig_13 : decode cX0_whyNotDig 13 = .ok (.invokevirtual 116, 3) := dk_182 0 116 (dk_at dksX0_whyNotDig_0 13 rfl rfl)
theorem dX0_whyNotDig_16 : decode cX0_whyNotDig 16 = .ok (.getfield 120, 3) := dk_180 0 120 (dk_at dksX0_whyNotDig_0 16 rfl rfl)
theorem dX0_whyNotDig_19 : decode cX0_whyNotDig 19 = .ok (.aload_n 0, 1) := dk_42 (dk_at dksX0_whyNotDig_0 19 rfl rfl)
theorem dX0_whyNotDig_20 : decode cX0_whyNotDig 20 = .ok (.getfield 31, 3) := dk_180 0 31 (dk_at dksX0_whyNotDig_0 20 rfl rfl)
theorem dX0_whyNotDig_23 : decode cX0_whyNotDig 23 = .ok (.getfield 123, 3) := dk_180 0 123 (dk_at dksX0_whyNotDig_1 0 rfl rfl)
theorem dX0_whyNotDig_26 : decode cX0_whyNotDig 26 = .ok (.iconst 2, 1) := dk_5 (dk_at dksX0_whyNotDig_1 3 rfl rfl)
theorem dX0_whyNotDig_27 : decode cX0_whyNotDig 27 = .ok (.iaload, 1) := dk_46 (dk_at dksX0_whyNotDig_1 4 rfl rfl)
theorem dX0_whyNotDig_28 : decode cX0_whyNotDig 28 = .ok (.if_icmp .ge 8, 3) := dk_162 0 8 (dk_at dksX0_whyNotDig_1 5 rfl rfl)
theorem dX0_whyNotDig_31 : decode cX0_whyNotDig 31 = .ok (.bipush (-5), 2) := dk_16 251 (dk_at dksX0_whyNotDig_1 8 rfl rfl)
theorem dX0_whyNotDig_33 : decode cX0_whyNotDig 33 = .ok (.goto 7, 3) := dk_167 0 7 (dk_at dksX0_whyNotDig_1 10 rfl rfl)
theorem dX0_whyNotDig_36 : decode cX0_whyNotDig 36 = .ok (.aload_n 0, 1) := dk_42 (dk_at dksX0_whyNotDig_1 13 rfl rfl)
theorem dX0_whyNotDig_37 : decode cX0_whyNotDig 37 = .ok (.invokevirtual 87, 3) := dk_182 0 87 (dk_at dksX0_whyNotDig_1 14 rfl rfl)
theorem dX0_whyNotDig_40 : decode cX0_whyNotDig 40 = .ok (.ireturn, 1) := dk_172 (dk_at dksX0_whyNotDig_1 17 rfl rfl)
abbrev cX0_pass : ByteArray := prog_1_method_29_code
def yX0_pass : MethodName := ⟨RX0, "pass", "()I"⟩
def dkwX0_pass_0 : List UInt8 := [42, 4, 182, 0, 196, 172]
abbrev dktX0_pass_0 : List UInt8 := dkwX0_pass_0 ++ []
theorem dksX0_pass_0 : cX0_pass.data.toList.drop 0 = dktX0_pass_0 := by decide +kernel
theorem dX0_pass_0 : decode cX0_pass 0 = .ok (.aload_n 0, 1) := dk_42 (dk_at dksX0_pass_0 0 rfl rfl)
theorem dX0_pass_1 : decode cX0_pass 1 = .ok (.iconst 1, 1) := dk_4 (dk_at dksX0_pass_0 1 rfl rfl)
theorem dX0_pass_2 : decode cX0_pass 2 = .ok (.invokevirtual 196, 3) := dk_182 0 196 (dk_at dksX0_pass_0 2 rfl rfl)
theorem dX0_pass_5 : decode cX0_pass 5 = .ok (.ireturn, 1) := dk_172 (dk_at dksX0_pass_0 5 rfl rfl)
abbrev cX0_passes : ByteArray := prog_1_method_28_code
def yX0_passes : MethodName := ⟨RX0, "passes", "(Z)I"⟩
def dkwX0_passes_1 : List UInt8 := [180, 0, 31, 180, 0, 93, 6, 112, 172]
abbrev dktX0_passes_1 : List UInt8 := dkwX0_passes_1 ++ []
def dkwX0_passes_0 : List UInt8 := [42, 42, 182, 0, 87, 27, 182, 0, 132, 61, 28, 156, 0, 5, 28, 172, 42, 180, 0, 31, 182, 0, 193, 42]
abbrev dktX0_passes_0 : List UInt8 := dkwX0_passes_0 ++ dktX0_passes_1
theorem dksX0_passes_0 : cX0_passes.data.toList.drop 0 = dktX0_passes_0 := by decide +kernel
theorem dksX0_passes_1 : cX0_passes.data.toList.drop 24 = dktX0_passes_1 := dk_seg dksX0_passes_0 24 rfl rfl
theorem dX0_passes_0 : decode cX0_passes 0 = .ok (.aload_n 0, 1) := dk_42 (dk_at dksX0_passes_0 0 rfl rfl)
theorem dX0_passes_1 : decode cX0_passes 1 = .ok (.aload_n 0, 1) := dk_42 (dk_at dksX0_passes_0 1 rfl rfl)
theorem dX0_passes_2 : decode cX0_passes 2 = .ok (.invokevirtual 87, 3) := dk_182 0 87 (dk_at dksX0_passes_0 2 rfl rfl)
theorem dX0_passes_5 : decode cX0_passes 5 = .ok (.iload_n 1, 1) := dk_27 (dk_at dksX0_passes_0 5 rfl rfl)
theorem dX0_passes_6 : decode cX0_passes 6 = .ok (.invokevirtual 132, 3) := dk_182 0 132 (dk_at dksX0_passes_0 6 rfl rfl)
theorem dX0_passes_9 : decode cX0_passes 9 = .ok (.istore_n 2, 1) := dk_61 (dk_at dksX0_passes_0 9 rfl rfl)
theorem dX0_passes_10 : decode cX0_passes 10 = .ok (.iload_n 2, 1) := dk_28 (dk_at dksX0_passes_0 10 rfl rfl)
theorem dX0_passes_11 : decode cX0_passes 11 = .ok (.ifCond .ge 5, 3) := dk_156 0 5 (dk_at dksX0_passes_0 11 rfl rfl)
theorem dX0_passes_14 : decode cX0_passes 14 = .ok (.iload_n 2, 1) := dk_28 (dk_at dksX0_passes_0 14 rfl rfl)
theorem dX0_passes_15 : decode cX0_passes 15 = .ok (.ireturn, 1) := dk_172 (dk_at dksX0_passes_0 15 rfl rfl)
theorem dX0_passes_16 : decode cX0_passes 16 = .ok (.aload_n 0, 1) := dk_42 (dk_at dksX0_passes_0 16 rfl rfl)
theorem dX0_passes_17 : decode cX0_passes 17 = .ok (.getfield 31, 3) := dk_180 0 31 (dk_at dksX0_passes_0 17 rfl rfl)
theorem dX0_passes_20 : decode cX0_passes 20 = .ok (.invokevirtual 193, 3) := dk_182 0 193 (dk_at dksX0_passes_0 20 rfl rfl)
theorem dX0_passes_23 : decode cX0_passes 23 = .ok (.aload_n 0, 1) := dk_42 (dk_at dksX0_passes_0 23 rfl rfl)
theorem dX0_passes_24 : decode cX0_passes 24 = .ok (.getfield 31, 3) := dk_180 0 31 (dk_at dksX0_passes_1 0 rfl rfl)
theorem dX0_passes_27 : decode cX0_passes 27 = .ok (.getfield 93, 3) := dk_180 0 93 (dk_at dksX0_passes_1 3 rfl rfl)
theorem dX0_passes_30 : decode cX0_passes 30 = .ok (.iconst 3, 1) := dk_6 (dk_at dksX0_passes_1 6 rfl rfl)
theorem dX0_passes_31 : decode cX0_passes 31 = .ok (.irem, 1) := dk_112 (dk_at dksX0_passes_1 7 rfl rfl)
theorem dX0_passes_32 : decode cX0_passes 32 = .ok (.ireturn, 1) := dk_172 (dk_at dksX0_passes_1 8 rfl rfl)
abbrev cX0_ofRoad : ByteArray := prog_1_method_31_code
def yX0_ofRoad : MethodName := ⟨RX0, "ofRoad", "(III)I"⟩
def dkwX0_ofRoad_4 : List UInt8 := [182, 0, 199, 172, 16, 254, 172]
abbrev dktX0_ofRoad_4 : List UInt8 := dkwX0_ofRoad_4 ++ []
def dkwX0_ofRoad_3 : List UInt8 := [167, 0, 4, 3, 172, 42, 180, 0, 31, 16, 250, 182, 0, 152, 21, 5, 46, 172, 42, 21, 5, 29, 6, 100]
abbrev dktX0_ofRoad_3 : List UInt8 := dkwX0_ofRoad_3 ++ dktX0_ofRoad_4
def dkwX0_ofRoad_2 : List UInt8 := [21, 5, 172, 21, 5, 6, 112, 172, 42, 180, 0, 31, 180, 0, 109, 21, 5, 182, 0, 113, 153, 0, 7, 4]
abbrev dktX0_ofRoad_2 : List UInt8 := dkwX0_ofRoad_2 ++ dktX0_ofRoad_3
def dkwX0_ofRoad_1 : List UInt8 := [170, 0, 0, 0, 89, 0, 0, 0, 0, 0, 0, 0, 5, 0, 0, 0, 37, 0, 0, 0, 40, 0, 0, 0, 45, 0, 0, 0, 66, 0, 0, 0, 79, 0, 0, 0, 79]
abbrev dktX0_ofRoad_1 : List UInt8 := dkwX0_ofRoad_1 ++ dktX0_ofRoad_2
def dkwX0_ofRoad_0 : List UInt8 := [27, 28, 184, 0, 84, 54, 4, 21, 4, 156, 0, 6, 21, 4, 172, 27, 28, 184, 0, 96, 54, 5, 29]
abbrev dktX0_ofRoad_0 : List UInt8 := dkwX0_ofRoad_0 ++ dktX0_ofRoad_1
theorem dksX0_ofRoad_0 : cX0_ofRoad.data.toList.drop 0 = dktX0_ofRoad_0 := by decide +kernel
theorem dksX0_ofRoad_1 : cX0_ofRoad.data.toList.drop 23 = dktX0_ofRoad_1 := dk_seg dksX0_ofRoad_0 23 rfl rfl
theorem dksX0_ofRoad_2 : cX0_ofRoad.data.toList.drop 60 = dktX0_ofRoad_2 := dk_seg dksX0_ofRoad_1 37 rfl rfl
theorem dksX0_ofRoad_3 : cX0_ofRoad.data.toList.drop 84 = dktX0_ofRoad_3 := dk_seg dksX0_ofRoad_2 24 rfl rfl
theorem dksX0_ofRoad_4 : cX0_ofRoad.data.toList.drop 108 = dktX0_ofRoad_4 := dk_seg dksX0_ofRoad_3 24 rfl rfl
theorem dX0_ofRoad_0 : decode cX0_ofRoad 0 = .ok (.iload_n 1, 1) := dk_27 (dk_at dksX0_ofRoad_0 0 rfl rfl)
theorem dX0_ofRoad_1 : decode cX0_ofRoad 1 = .ok (.iload_n 2, 1) := dk_28 (dk_at dksX0_ofRoad_0 1 rfl rfl)
theorem dX0_ofRoad_2 : decode cX0_ofRoad 2 = .ok (.invokestatic 84, 3) := dk_184 0 84 (dk_at dksX0_ofRoad_0 2 rfl rfl)
theorem dX0_ofRoad_5 : decode cX0_ofRoad 5 = .ok (.istore 4, 2) := dk_54 4 (dk_at dksX0_ofRoad_0 5 rfl rfl)
theorem dX0_ofRoad_7 : decode cX0_ofRoad 7 = .ok (.iload 4, 2) := dk_21 4 (dk_at dksX0_ofRoad_0 7 rfl rfl)
theorem dX0_ofRoad_9 : decode cX0_ofRoad 9 = .ok (.ifCond .ge 6, 3) := dk_156 0 6 (dk_at dksX0_ofRoad_0 9 rfl rfl)
theorem dX0_ofRoad_12 : decode cX0_ofRoad 12 = .ok (.iload 4, 2) := dk_21 4 (dk_at dksX0_ofRoad_0 12 rfl rfl)
theorem dX0_ofRoad_14 : decode cX0_ofRoad 14 = .ok (.ireturn, 1) := dk_172 (dk_at dksX0_ofRoad_0 14 rfl rfl)
theorem dX0_ofRoad_15 : decode cX0_ofRoad 15 = .ok (.iload_n 1, 1) := dk_27 (dk_at dksX0_ofRoad_0 15 rfl rfl)
theorem dX0_ofRoad_16 : decode cX0_ofRoad 16 = .ok (.iload_n 2, 1) := dk_28 (dk_at dksX0_ofRoad_0 16 rfl rfl)
theorem dX0_ofRoad_17 : decode cX0_ofRoad 17 = .ok (.invokestatic 96, 3) := dk_184 0 96 (dk_at dksX0_ofRoad_0 17 rfl rfl)
theorem dX0_ofRoad_20 : decode cX0_ofRoad 20 = .ok (.istore 5, 2) := dk_54 5 (dk_at dksX0_ofRoad_0 20 rfl rfl)
theorem dX0_ofRoad_22 : decode cX0_ofRoad 22 = .ok (.iload_n 3, 1) := dk_29 (dk_at dksX0_ofRoad_0 22 rfl rfl)
theorem dX0_ofRoad_23 : decode cX0_ofRoad 23 = .ok (.tableswitch 89 0 5 #[37, 40, 45, 66, 79, 79], 37) := by decide +kernel
theorem dX0_ofRoad_60 : decode cX0_ofRoad 60 = .ok (.iload 5, 2) := dk_21 5 (dk_at dksX0_ofRoad_2 0 rfl rfl)
theorem dX0_ofRoad_62 : decode cX0_ofRoad 62 = .ok (.ireturn, 1) := dk_172 (dk_at dksX0_ofRoad_2 2 rfl rfl)
theorem dX0_ofRoad_63 : decode cX0_ofRoad 63 = .ok (.iload 5, 2) := dk_21 5 (dk_at dksX0_ofRoad_2 3 rfl rfl)
theorem dX0_ofRoad_65 : decode cX0_ofRoad 65 = .ok (.iconst 3, 1) := dk_6 (dk_at dksX0_ofRoad_2 5 rfl rfl)
theorem dX0_ofRoad_66 : decode cX0_ofRoad 66 = .ok (.irem, 1) := dk_112 (dk_at dksX0_ofRoad_2 6 rfl rfl)
theorem dX0_ofRoad_67 : decode cX0_ofRoad 67 = .ok (.ireturn, 1) := dk_172 (dk_at dksX0_ofRoad_2 7 rfl rfl)
theorem dX0_ofRoad_68 : decode cX0_ofRoad 68 = .ok (.aload_n 0, 1) := dk_42 (dk_at dksX0_ofRoad_2 8 rfl rfl)
theorem dX0_ofRoad_69 : decode cX0_ofRoad 69 = .ok (.getfield 31, 3) := dk_180 0 31 (dk_at dksX0_ofRoad_2 9 rfl rfl)
theorem dX0_ofRoad_72 : decode cX0_ofRoad 72 = .ok (.getfield 109, 3) := dk_180 0 109 (dk_at dksX0_ofRoad_2 12 rfl rfl)
theorem dX0_ofRoad_75 : decode cX0_ofRoad 75 = .ok (.iload 5, 2) := dk_21 5 (dk_at dksX0_ofRoad_2 15 rfl rfl)
theorem dX0_ofRoad_77 : decode cX0_ofRoad 77 = .ok (.invokevirtual 113, 3) := dk_182 0 113 (dk_at dksX0_ofRoad_2 17 rfl rfl)
theorem dX0_ofRoad_80 : decode cX0_ofRoad 80 = .ok (.ifCond .eq 7, 3) := dk_153 0 7 (dk_at dksX0_ofRoad_2 20 rfl rfl)
theorem dX0_ofRoad_83 : decode cX0_ofRoad 83 = .ok (.iconst 1, 1) := dk_4 (dk_at dksX0_ofRoad_2 23 rfl rfl)
theorem dX0_ofRoad_84 : decode cX0_ofRoad 84 = .ok (.goto 4, 3) := dk_167 0 4 (dk_at dksX0_ofRoad_3 0 rfl rfl)
theorem dX0_ofRoad_87 : decode cX0_ofRoad 87 = .ok (.iconst 0, 1) := dk_3 (dk_at dksX0_ofRoad_3 3 rfl rfl)
theorem dX0_ofRoad_88 : decode cX0_ofRoad 88 = .ok (.ireturn, 1) := dk_172 (dk_at dksX0_ofRoad_3 4 rfl rfl)
theorem dX0_ofRoad_89 : decode cX0_ofRoad 89 = .ok (.aload_n 0, 1) := dk_42 (dk_at dksX0_ofRoad_3 5 rfl rfl)
theorem dX0_ofRoad_90 : decode cX0_ofRoad 90 = .ok (.getfield 31, 3) := dk_180 0 31 (dk_at dksX0_ofRoad_3 6 rfl rfl)
theorem dX0_ofRoad_93 : decode cX0_ofRoad 93 = .ok (.bipush (-6), 2) := dk_16 250 (dk_at dksX0_ofRoad_3 9 rfl rfl)
theorem dX0_ofRoad_95 : decode cX0_ofRoad 95 = .ok (.invokevirtual 152, 3) := dk_182 0 152 (dk_at dksX0_ofRoad_3 11 rfl rfl)
theorem dX0_ofRoad_98 : decode cX0_ofRoad 98 = .ok (.iload 5, 2) := dk_21 5 (dk_at dksX0_ofRoad_3 14 rfl rfl)
theorem dX0_ofRoad_100 : decode cX0_ofRoad 100 = .ok (.iaload, 1) := dk_46 (dk_at dksX0_ofRoad_3 16 rfl rfl)
theorem dX0_ofRoad_101 : decode cX0_ofRoad 101 = .ok (.ireturn, 1) := dk_172 (dk_at dksX0_ofRoad_3 17 rfl rfl)
theorem dX0_ofRoad_102 : decode cX0_ofRoad 102 = .ok (.aload_n 0, 1) := dk_42 (dk_at dksX0_ofRoad_3 18 rfl rfl)
theorem dX0_ofRoad_103 : decode cX0_ofRoad 103 = .ok (.iload 5, 2) := dk_21 5 (dk_at dksX0_ofRoad_3 19 rfl rfl)
theorem dX0_ofRoad_105 : decode cX0_ofRoad 105 = .ok (.iload_n 3, 1) := dk_29 (dk_at dksX0_ofRoad_3 21 rfl rfl)
theorem dX0_ofRoad_106 : decode cX0_ofRoad 106 = .ok (.iconst 3, 1) := dk_6 (dk_at dksX0_ofRoad_3 22 rfl rfl)
theorem dX0_ofRoad_107 : decode cX0_ofRoad 107 = .ok (.isub, 1) := dk_100 (dk_at dksX0_ofRoad_3 23 rfl rfl)
theorem dX0_ofRoad_108 : decode cX0_ofRoad 108 = .ok (.invokevirtual 199, 3) := dk_182 0 199 (dk_at dksX0_ofRoad_4 0 rfl rfl)
theorem dX0_ofRoad_111 : decode cX0_ofRoad 111 = .ok (.ireturn, 1) := dk_172 (dk_at dksX0_ofRoad_4 3 rfl rfl)
theorem dX0_ofRoad_112 : decode cX0_ofRoad 112 = .ok (.bipush (-2), 2) := dk_16 254 (dk_at dksX0_ofRoad_4 4 rfl rfl)
theorem dX0_ofRoad_114 : decode cX0_ofRoad 114 = .ok (.ireturn, 1) := dk_172 (dk_at dksX0_ofRoad_4 6 rfl rfl)
abbrev cX0_claimers : ByteArray := prog_1_method_30_code
def yX0_claimers : MethodName := ⟨RX0, "claimers", "(II)I"⟩
def dkwX0_claimers_2 : List UInt8 := [167, 255, 217, 29, 172]
abbrev dktX0_claimers_2 : List UInt8 := dkwX0_claimers_2 ++ []
def dkwX0_claimers_1 : List UInt8 := [180, 0, 103, 27, 46, 28, 160, 0, 10, 4, 21, 4, 120, 167, 0, 4, 3, 128, 62, 132, 4, 1]
abbrev dktX0_claimers_1 : List UInt8 := dkwX0_claimers_1 ++ dktX0_claimers_2
def dkwX0_claimers_0 : List UInt8 := [3, 62, 3, 54, 4, 21, 4, 6, 162, 0, 39, 29, 42, 180, 0, 31, 180, 0, 99, 21, 4, 50]
abbrev dktX0_claimers_0 : List UInt8 := dkwX0_claimers_0 ++ dktX0_claimers_1
theorem dksX0_claimers_0 : cX0_claimers.data.toList.drop 0 = dktX0_claimers_0 := by decide +kernel
theorem dksX0_claimers_1 : cX0_claimers.data.toList.drop 22 = dktX0_claimers_1 := dk_seg dksX0_claimers_0 22 rfl rfl
theorem dksX0_claimers_2 : cX0_claimers.data.toList.drop 44 = dktX0_claimers_2 := dk_seg dksX0_claimers_1 22 rfl rfl
theorem dX0_claimers_0 : decode cX0_claimers 0 = .ok (.iconst 0, 1) := dk_3 (dk_at dksX0_claimers_0 0 rfl rfl)
theorem dX0_claimers_1 : decode cX0_claimers 1 = .ok (.istore_n 3, 1) := dk_62 (dk_at dksX0_claimers_0 1 rfl rfl)
theorem dX0_claimers_2 : decode cX0_claimers 2 = .ok (.iconst 0, 1) := dk_3 (dk_at dksX0_claimers_0 2 rfl rfl)
theorem dX0_claimers_3 : decode cX0_claimers 3 = .ok (.istore 4, 2) := dk_54 4 (dk_at dksX0_claimers_0 3 rfl rfl)
theorem dX0_claimers_5 : decode cX0_claimers 5 = .ok (.iload 4, 2) := dk_21 4 (dk_at dksX0_claimers_0 5 rfl rfl)
theorem dX0_claimers_7 : decode cX0_claimers 7 = .ok (.iconst 3, 1) := dk_6 (dk_at dksX0_claimers_0 7 rfl rfl)
theorem dX0_claimers_8 : decode cX0_claimers 8 = .ok (.if_icmp .ge 39, 3) := dk_162 0 39 (dk_at dksX0_claimers_0 8 rfl rfl)
theorem dX0_claimers_11 : decode cX0_claimers 11 = .ok (.iload_n 3, 1) := dk_29 (dk_at dksX0_claimers_0 11 rfl rfl)
theorem dX0_claimers_12 : decode cX0_claimers 12 = .ok (.aload_n 0, 1) := dk_42 (dk_at dksX0_claimers_0 12 rfl rfl)
theorem dX0_claimers_13 : decode cX0_claimers 13 = .ok (.getfield 31, 3) := dk_180 0 31 (dk_at dksX0_claimers_0 13 rfl rfl)
theorem dX0_claimers_16 : decode cX0_claimers 16 = .ok (.getfield 99, 3) := dk_180 0 99 (dk_at dksX0_claimers_0 16 rfl rfl)
theorem dX0_claimers_19 : decode cX0_claimers 19 = .ok (.iload 4, 2) := dk_21 4 (dk_at dksX0_claimers_0 19 rfl rfl)
theorem dX0_claimers_21 : decode cX0_claimers 21 = .ok (.aaload, 1) := dk_50 (dk_at dksX0_claimers_0 21 rfl rfl)
theorem dX0_claimers_22 : decode cX0_claimers 22 = .ok (.getfield 103, 3) := dk_180 0 103 (dk_at dksX0_claimers_1 0 rfl rfl)
theorem dX0_claimers_25 : decode cX0_claimers 25 = .ok (.iload_n 1, 1) := dk_27 (dk_at dksX0_claimers_1 3 rfl rfl)
theorem dX0_claimers_26 : decode cX0_claimers 26 = .ok (.iaload, 1) := dk_46 (dk_at dksX0_claimers_1 4 rfl rfl)
theorem dX0_claimers_27 : decode cX0_claimers 27 = .ok (.iload_n 2, 1) := dk_28 (dk_at dksX0_claimers_1 5 rfl rfl)
theorem dX0_claimers_28 : decode cX0_claimers 28 = .ok (.if_icmp .ne 10, 3) := dk_160 0 10 (dk_at dksX0_claimers_1 6 rfl rfl)
theorem dX0_claimers_31 : decode cX0_claimers 31 = .ok (.iconst 1, 1) := dk_4 (dk_at dksX0_claimers_1 9 rfl rfl)
theorem dX0_claimers_32 : decode cX0_claimers 32 = .ok (.iload 4, 2) := dk_21 4 (dk_at dksX0_claimers_1 10 rfl rfl)
theorem dX0_claimers_34 : decode cX0_claimers 34 = .ok (.ishl, 1) := dk_120 (dk_at dksX0_claimers_1 12 rfl rfl)
theorem dX0_claimers_35 : decode cX0_claimers 35 = .ok (.goto 4, 3) := dk_167 0 4 (dk_at dksX0_claimers_1 13 rfl rfl)
theorem dX0_claimers_38 : decode cX0_claimers 38 = .ok (.iconst 0, 1) := dk_3 (dk_at dksX0_claimers_1 16 rfl rfl)
theorem dX0_claimers_39 : decode cX0_claimers 39 = .ok (.ior, 1) := dk_128 (dk_at dksX0_claimers_1 17 rfl rfl)
theorem dX0_claimers_40 : decode cX0_claimers 40 = .ok (.istore_n 3, 1) := dk_62 (dk_at dksX0_claimers_1 18 rfl rfl)
theorem dX0_claimers_41 : decode cX0_claimers 41 = .ok (.iinc 4 1, 3) := dk_132 4 1 (dk_at dksX0_claimers_1 19 rfl rfl)
theorem dX0_claimers_44 : decode cX0_claimers 44 = .ok (.goto (-39), 3) := dk_167 255 217 (dk_at dksX0_claimers_2 0 rfl rfl)
theorem dX0_claimers_47 : decode cX0_claimers 47 = .ok (.iload_n 3, 1) := dk_29 (dk_at dksX0_claimers_2 3 rfl rfl)
theorem dX0_claimers_48 : decode cX0_claimers 48 = .ok (.ireturn, 1) := dk_172 (dk_at dksX0_claimers_2 4 rfl rfl)
abbrev cX0_knows : ByteArray := prog_1_method_33_code
def yX0_knows : MethodName := ⟨RX0, "knows", "(III)I"⟩
def dkwX0_knows_2 : List UInt8 := [172]
abbrev dktX0_knows_2 : List UInt8 := dkwX0_knows_2 ++ []
def dkwX0_knows_1 : List UInt8 := [21, 4, 167, 0, 22, 42, 27, 28, 29, 184, 0, 96, 42, 180, 0, 31, 16, 250, 182, 0, 152, 182, 0, 204]
abbrev dktX0_knows_1 : List UInt8 := dkwX0_knows_1 ++ dktX0_knows_2
def dkwX0_knows_0 : List UInt8 := [27, 184, 0, 90, 153, 0, 11, 28, 29, 184, 0, 84, 167, 0, 4, 2, 54, 4, 21, 4, 156, 0, 8]
abbrev dktX0_knows_0 : List UInt8 := dkwX0_knows_0 ++ dktX0_knows_1
theorem dksX0_knows_0 : cX0_knows.data.toList.drop 0 = dktX0_knows_0 := by decide +kernel
theorem dksX0_knows_1 : cX0_knows.data.toList.drop 23 = dktX0_knows_1 := dk_seg dksX0_knows_0 23 rfl rfl
theorem dksX0_knows_2 : cX0_knows.data.toList.drop 47 = dktX0_knows_2 := dk_seg dksX0_knows_1 24 rfl rfl
theorem dX0_knows_0 : decode cX0_knows 0 = .ok (.iload_n 1, 1) := dk_27 (dk_at dksX0_knows_0 0 rfl rfl)
theorem dX0_knows_1 : decode cX0_knows 1 = .ok (.invokestatic 90, 3) := dk_184 0 90 (dk_at dksX0_knows_0 1 rfl rfl)
theorem dX0_knows_4 : decode cX0_knows 4 = .ok (.ifCond .eq 11, 3) := dk_153 0 11 (dk_at dksX0_knows_0 4 rfl rfl)
theorem dX0_knows_7 : decode cX0_knows 7 = .ok (.iload_n 2, 1) := dk_28 (dk_at dksX0_knows_0 7 rfl rfl)
theorem dX0_knows_8 : decode cX0_knows 8 = .ok (.iload_n 3, 1) := dk_29 (dk_at dksX0_knows_0 8 rfl rfl)
theorem dX0_knows_9 : decode cX0_knows 9 = .ok (.invokestatic 84, 3) := dk_184 0 84 (dk_at dksX0_knows_0 9 rfl rfl)
theorem dX0_knows_12 : decode cX0_knows 12 = .ok (.goto 4, 3) := dk_167 0 4 (dk_at dksX0_knows_0 12 rfl rfl)
theorem dX0_knows_15 : decode cX0_knows 15 = .ok (.iconst (-1), 1) := dk_2 (dk_at dksX0_knows_0 15 rfl rfl)
theorem dX0_knows_16 : decode cX0_knows 16 = .ok (.istore 4, 2) := dk_54 4 (dk_at dksX0_knows_0 16 rfl rfl)
theorem dX0_knows_18 : decode cX0_knows 18 = .ok (.iload 4, 2) := dk_21 4 (dk_at dksX0_knows_0 18 rfl rfl)
theorem dX0_knows_20 : decode cX0_knows 20 = .ok (.ifCond .ge 8, 3) := dk_156 0 8 (dk_at dksX0_knows_0 20 rfl rfl)
theorem dX0_knows_23 : decode cX0_knows 23 = .ok (.iload 4, 2) := dk_21 4 (dk_at dksX0_knows_1 0 rfl rfl)
theorem dX0_knows_25 : decode cX0_knows 25 = .ok (.goto 22, 3) := dk_167 0 22 (dk_at dksX0_knows_1 2 rfl rfl)
theorem dX0_knows_28 : decode cX0_knows 28 = .ok (.aload_n 0, 1) := dk_42 (dk_at dksX0_knows_1 5 rfl rfl)
theorem dX0_knows_29 : decode cX0_knows 29 = .ok (.iload_n 1, 1) := dk_27 (dk_at dksX0_knows_1 6 rfl rfl)
theorem dX0_knows_30 : decode cX0_knows 30 = .ok (.iload_n 2, 1) := dk_28 (dk_at dksX0_knows_1 7 rfl rfl)
theorem dX0_knows_31 : decode cX0_knows 31 = .ok (.iload_n 3, 1) := dk_29 (dk_at dksX0_knows_1 8 rfl rfl)
theorem dX0_knows_32 : decode cX0_knows 32 = .ok (.invokestatic 96, 3) := dk_184 0 96 (dk_at dksX0_knows_1 9 rfl rfl)
theorem dX0_knows_35 : decode cX0_knows 35 = .ok (.aload_n 0, 1) := dk_42 (dk_at dksX0_knows_1 12 rfl rfl)
theorem dX0_knows_36 : decode cX0_knows 36 = .ok (.getfield 31, 3) := dk_180 0 31 (dk_at dksX0_knows_1 13 rfl rfl)
theorem dX0_knows_39 : decode cX0_knows 39 = .ok (.bipush (-6), 2) := dk_16 250 (dk_at dksX0_knows_1 16 rfl rfl)
theorem dX0_knows_41 : decode cX0_knows 41 = .ok (.invokevirtual 152, 3) := dk_182 0 152 (dk_at dksX0_knows_1 18 rfl rfl)
theorem dX0_knows_44 : decode cX0_knows 44 = .ok (.invokevirtual 204, 3) := dk_182 0 204 (dk_at dksX0_knows_1 21 rfl rfl)
theorem dX0_knows_47 : decode cX0_knows 47 = .ok (.ireturn, 1) := dk_172 (dk_at dksX0_knows_2 0 rfl rfl)
abbrev cX0_knowsRoad : ByteArray := prog_1_method_32_code
def yX0_knowsRoad : MethodName := ⟨RX0, "knowsRoad", "(II[I)I"⟩
def dkwX0_knowsRoad_1 : List UInt8 := [153, 0, 7, 4, 167, 0, 4, 3, 172]
abbrev dktX0_knowsRoad_1 : List UInt8 := dkwX0_knowsRoad_1 ++ []
def dkwX0_knowsRoad_0 : List UInt8 := [28, 6, 112, 27, 159, 0, 9, 45, 28, 46, 167, 0, 22, 42, 180, 0, 31, 180, 0, 202, 28, 182, 0, 113]
abbrev dktX0_knowsRoad_0 : List UInt8 := dkwX0_knowsRoad_0 ++ dktX0_knowsRoad_1
theorem dksX0_knowsRoad_0 : cX0_knowsRoad.data.toList.drop 0 = dktX0_knowsRoad_0 := by decide +kernel
theorem dksX0_knowsRoad_1 : cX0_knowsRoad.data.toList.drop 24 = dktX0_knowsRoad_1 := dk_seg dksX0_knowsRoad_0 24 rfl rfl
theorem dX0_knowsRoad_0 : decode cX0_knowsRoad 0 = .ok (.iload_n 2, 1) := dk_28 (dk_at dksX0_knowsRoad_0 0 rfl rfl)
theorem dX0_knowsRoad_1 : decode cX0_knowsRoad 1 = .ok (.iconst 3, 1) := dk_6 (dk_at dksX0_knowsRoad_0 1 rfl rfl)
theorem dX0_knowsRoad_2 : decode cX0_knowsRoad 2 = .ok (.irem, 1) := dk_112 (dk_at dksX0_knowsRoad_0 2 rfl rfl)
theorem dX0_knowsRoad_3 : decode cX0_knowsRoad 3 = .ok (.iload_n 1, 1) := dk_27 (dk_at dksX0_knowsRoad_0 3 rfl rfl)
theorem dX0_knowsRoad_4 : decode cX0_knowsRoad 4 = .ok (.if_icmp .eq 9, 3) := dk_159 0 9 (dk_at dksX0_knowsRoad_0 4 rfl rfl)
theorem dX0_knowsRoad_7 : decode cX0_knowsRoad 7 = .ok (.aload_n 3, 1) := dk_45 (dk_at dksX0_knowsRoad_0 7 rfl rfl)
theorem dX0_knowsRoad_8 : decode cX0_knowsRoad 8 = .ok (.iload_n 2, 1) := dk_28 (dk_at dksX0_knowsRoad_0 8 rfl rfl)
theorem dX0_knowsRoad_9 : decode cX0_knowsRoad 9 = .ok (.iaload, 1) := dk_46 (dk_at dksX0_knowsRoad_0 9 rfl rfl)
theorem dX0_knowsRoad_10 : decode cX0_knowsRoad 10 = .ok (.goto 22, 3) := dk_167 0 22 (dk_at dksX0_knowsRoad_0 10 rfl rfl)
theorem dX0_knowsRoad_13 : decode cX0_knowsRoad 13 = .ok (.aload_n 0, 1) := dk_42 (dk_at dksX0_knowsRoad_0 13 rfl rfl)
theorem dX0_knowsRoad_14 : decode cX0_knowsRoad 14 = .ok (.getfield 31, 3) := dk_180 0 31 (dk_at dksX0_knowsRoad_0 14 rfl rfl)
theorem dX0_knowsRoad_17 : decode cX0_knowsRoad 17 = .ok (.getfield 202, 3) := dk_180 0 202 (dk_at dksX0_knowsRoad_0 17 rfl rfl)
theorem dX0_knowsRoad_20 : decode cX0_knowsRoad 20 = .ok (.iload_n 2, 1) := dk_28 (dk_at dksX0_knowsRoad_0 20 rfl rfl)
theorem dX0_knowsRoad_21 : decode cX0_knowsRoad 21 = .ok (.invokevirtual 113, 3) := dk_182 0 113 (dk_at dksX0_knowsRoad_0 21 rfl rfl)
theorem dX0_knowsRoad_24 : decode cX0_knowsRoad 24 = .ok (.ifCond .eq 7, 3) := dk_153 0 7 (dk_at dksX0_knowsRoad_1 0 rfl rfl)
theorem dX0_knowsRoad_27 : decode cX0_knowsRoad 27 = .ok (.iconst 1, 1) := dk_4 (dk_at dksX0_knowsRoad_1 3 rfl rfl)
theorem dX0_knowsRoad_28 : decode cX0_knowsRoad 28 = .ok (.goto 4, 3) := dk_167 0 4 (dk_at dksX0_knowsRoad_1 4 rfl rfl)
theorem dX0_knowsRoad_31 : decode cX0_knowsRoad 31 = .ok (.iconst 0, 1) := dk_3 (dk_at dksX0_knowsRoad_1 7 rfl rfl)
theorem dX0_knowsRoad_32 : decode cX0_knowsRoad 32 = .ok (.ireturn, 1) := dk_172 (dk_at dksX0_knowsRoad_1 8 rfl rfl)
abbrev cX0_player : ByteArray := prog_1_method_35_code
def yX0_player : MethodName := ⟨RX0, "player", "(II)I"⟩
def dkwX0_player_4 : List UInt8 := [182, 0, 225, 172, 16, 254, 172]
abbrev dktX0_player_4 : List UInt8 := dkwX0_player_4 ++ []
def dkwX0_player_3 : List UInt8 := [45, 180, 0, 215, 172, 45, 180, 0, 218, 172, 45, 180, 0, 220, 172, 45, 180, 0, 223, 172, 42, 27]
abbrev dktX0_player_3 : List UInt8 := dkwX0_player_3 ++ dktX0_player_4
def dkwX0_player_2 : List UInt8 := [45, 180, 0, 120, 172, 45, 182, 0, 208, 172, 45, 42, 180, 0, 31, 16, 250, 182, 0, 152, 184, 0, 211, 172]
abbrev dktX0_player_2 : List UInt8 := dkwX0_player_2 ++ dktX0_player_3
def dkwX0_player_1 : List UInt8 := [170, 0, 0, 0, 0, 0, 0, 98, 0, 0, 0, 0, 0, 0, 0, 7, 0, 0, 0, 48, 0, 0, 0, 53, 0, 0, 0, 58, 0, 0, 0, 72, 0, 0, 0, 77, 0, 0, 0, 82, 0, 0, 0, 87, 0, 0, 0, 92]
abbrev dktX0_player_1 : List UInt8 := dkwX0_player_1 ++ dktX0_player_2
def dkwX0_player_0 : List UInt8 := [27, 184, 0, 90, 154, 0, 5, 2, 172, 42, 180, 0, 31, 180, 0, 99, 27, 50, 78, 28]
abbrev dktX0_player_0 : List UInt8 := dkwX0_player_0 ++ dktX0_player_1
theorem dksX0_player_0 : cX0_player.data.toList.drop 0 = dktX0_player_0 := by decide +kernel
theorem dksX0_player_1 : cX0_player.data.toList.drop 20 = dktX0_player_1 := dk_seg dksX0_player_0 20 rfl rfl
theorem dksX0_player_2 : cX0_player.data.toList.drop 68 = dktX0_player_2 := dk_seg dksX0_player_1 48 rfl rfl
theorem dksX0_player_3 : cX0_player.data.toList.drop 92 = dktX0_player_3 := dk_seg dksX0_player_2 24 rfl rfl
theorem dksX0_player_4 : cX0_player.data.toList.drop 114 = dktX0_player_4 := dk_seg dksX0_player_3 22 rfl rfl
theorem dX0_player_0 : decode cX0_player 0 = .ok (.iload_n 1, 1) := dk_27 (dk_at dksX0_player_0 0 rfl rfl)
theorem dX0_player_1 : decode cX0_player 1 = .ok (.invokestatic 90, 3) := dk_184 0 90 (dk_at dksX0_player_0 1 rfl rfl)
theorem dX0_player_4 : decode cX0_player 4 = .ok (.ifCond .ne 5, 3) := dk_154 0 5 (dk_at dksX0_player_0 4 rfl rfl)
theorem dX0_player_7 : decode cX0_player 7 = .ok (.iconst (-1), 1) := dk_2 (dk_at dksX0_player_0 7 rfl rfl)
theorem dX0_player_8 : decode cX0_player 8 = .ok (.ireturn, 1) := dk_172 (dk_at dksX0_player_0 8 rfl rfl)
theorem dX0_player_9 : decode cX0_player 9 = .ok (.aload_n 0, 1) := dk_42 (dk_at dksX0_player_0 9 rfl rfl)
theorem dX0_player_10 : decode cX0_player 10 = .ok (.getfield 31, 3) := dk_180 0 31 (dk_at dksX0_player_0 10 rfl rfl)
theorem dX0_player_13 : decode cX0_player 13 = .ok (.getfield 99, 3) := dk_180 0 99 (dk_at dksX0_player_0 13 rfl rfl)
theorem dX0_player_16 : decode cX0_player 16 = .ok (.iload_n 1, 1) := dk_27 (dk_at dksX0_player_0 16 rfl rfl)
theorem dX0_player_17 : decode cX0_player 17 = .ok (.aaload, 1) := dk_50 (dk_at dksX0_player_0 17 rfl rfl)
theorem dX0_player_18 : decode cX0_player 18 = .ok (.astore_n 3, 1) := dk_78 (dk_at dksX0_player_0 18 rfl rfl)
theorem dX0_player_19 : decode cX0_player 19 = .ok (.iload_n 2, 1) := dk_28 (dk_at dksX0_player_0 19 rfl rfl)
theorem dX0_player_20 : decode cX0_player 20 = .ok (.tableswitch 98 0 7 #[48, 53, 58, 72, 77, 82, 87, 92], 48) := by decide +kernel
theorem dX0_player_68 : decode cX0_player 68 = .ok (.aload_n 3, 1) := dk_45 (dk_at dksX0_player_2 0 rfl rfl)
theorem dX0_player_69 : decode cX0_player 69 = .ok (.getfield 120, 3) := dk_180 0 120 (dk_at dksX0_player_2 1 rfl rfl)
theorem dX0_player_72 : decode cX0_player 72 = .ok (.ireturn, 1) := dk_172 (dk_at dksX0_player_2 4 rfl rfl)
theorem dX0_player_73 : decode cX0_player 73 = .ok (.aload_n 3, 1) := dk_45 (dk_at dksX0_player_2 5 rfl rfl)
theorem dX0_player_74 : decode cX0_player 74 = .ok (.invokevirtual 208, 3) := dk_182 0 208 (dk_at dksX0_player_2 6 rfl rfl)
theorem dX0_player_77 : decode cX0_player 77 = .ok (.ireturn, 1) := dk_172 (dk_at dksX0_player_2 9 rfl rfl)
theorem dX0_player_78 : decode cX0_player 78 = .ok (.aload_n 3, 1) := dk_45 (dk_at dksX0_player_2 10 rfl rfl)
theorem dX0_player_79 : decode cX0_player 79 = .ok (.aload_n 0, 1) := dk_42 (dk_at dksX0_player_2 11 rfl rfl)
theorem dX0_player_80 : decode cX0_player 80 = .ok (.getfield 31, 3) := dk_180 0 31 (dk_at dksX0_player_2 12 rfl rfl)
theorem dX0_player_83 : decode cX0_player 83 = .ok (.bipush (-6), 2) := dk_16 250 (dk_at dksX0_player_2 15 rfl rfl)
theorem dX0_player_85 : decode cX0_player 85 = .ok (.invokevirtual 152, 3) := dk_182 0 152 (dk_at dksX0_player_2 17 rfl rfl)
theorem dX0_player_88 : decode cX0_player 88 = .ok (.invokestatic 211, 3) := dk_184 0 211 (dk_at dksX0_player_2 20 rfl rfl)
theorem dX0_player_91 : decode cX0_player 91 = .ok (.ireturn, 1) := dk_172 (dk_at dksX0_player_2 23 rfl rfl)
theorem dX0_player_92 : decode cX0_player 92 = .ok (.aload_n 3, 1) := dk_45 (dk_at dksX0_player_3 0 rfl rfl)
theorem dX0_player_93 : decode cX0_player 93 = .ok (.getfield 215, 3) := dk_180 0 215 (dk_at dksX0_player_3 1 rfl rfl)
theorem dX0_player_96 : decode cX0_player 96 = .ok (.ireturn, 1) := dk_172 (dk_at dksX0_player_3 4 rfl rfl)
theorem dX0_player_97 : decode cX0_player 97 = .ok (.aload_n 3, 1) := dk_45 (dk_at dksX0_player_3 5 rfl rfl)
theorem dX0_player_98 : decode cX0_player 98 = .ok (.getfield 218, 3) := dk_180 0 218 (dk_at dksX0_player_3 6 rfl rfl)
theorem dX0_player_101 : decode cX0_player 101 = .ok (.ireturn, 1) := dk_172 (dk_at dksX0_player_3 9 rfl rfl)
theorem dX0_player_102 : decode cX0_player 102 = .ok (.aload_n 3, 1) := dk_45 (dk_at dksX0_player_3 10 rfl rfl)
theorem dX0_player_103 : decode cX0_player 103 = .ok (.getfield 220, 3) := dk_180 0 220 (dk_at dksX0_player_3 11 rfl rfl)
theorem dX0_player_106 : decode cX0_player 106 = .ok (.ireturn, 1) := dk_172 (dk_at dksX0_player_3 14 rfl rfl)
theorem dX0_player_107 : decode cX0_player 107 = .ok (.aload_n 3, 1) := dk_45 (dk_at dksX0_player_3 15 rfl rfl)
theorem dX0_player_108 : decode cX0_player 108 = .ok (.getfield 223, 3) := dk_180 0 223 (dk_at dksX0_player_3 16 rfl rfl)
theorem dX0_player_111 : decode cX0_player 111 = .ok (.ireturn, 1) := dk_172 (dk_at dksX0_player_3 19 rfl rfl)
theorem dX0_player_112 : decode cX0_player 112 = .ok (.aload_n 0, 1) := dk_42 (dk_at dksX0_player_3 20 rfl rfl)
theorem dX0_player_113 : decode cX0_player 113 = .ok (.iload_n 1, 1) := dk_27 (dk_at dksX0_player_3 21 rfl rfl)
theorem dX0_player_114 : decode cX0_player 114 = .ok (.invokevirtual 225, 3) := dk_182 0 225 (dk_at dksX0_player_4 0 rfl rfl)
theorem dX0_player_117 : decode cX0_player 117 = .ok (.ireturn, 1) := dk_172 (dk_at dksX0_player_4 3 rfl rfl)
theorem dX0_player_118 : decode cX0_player 118 = .ok (.bipush (-2), 2) := dk_16 254 (dk_at dksX0_player_4 4 rfl rfl)
theorem dX0_player_120 : decode cX0_player 120 = .ok (.ireturn, 1) := dk_172 (dk_at dksX0_player_4 6 rfl rfl)
abbrev cX0_manyKnown : ByteArray := prog_1_method_34_code
def yX0_manyKnown : MethodName := ⟨RX0, "manyKnown", "(I)I"⟩
def dkwX0_manyKnown_2 : List UInt8 := [167, 255, 225, 29, 172]
abbrev dktX0_manyKnown_2 : List UInt8 := dkwX0_manyKnown_2 ++ []
def dkwX0_manyKnown_1 : List UInt8 := [27, 21, 4, 44, 182, 0, 204, 16, 250, 160, 0, 7, 3, 167, 0, 4, 4, 96, 62, 132, 4, 1]
abbrev dktX0_manyKnown_1 : List UInt8 := dkwX0_manyKnown_1 ++ dktX0_manyKnown_2
def dkwX0_manyKnown_0 : List UInt8 := [42, 180, 0, 31, 16, 250, 182, 0, 152, 77, 3, 62, 3, 54, 4, 21, 4, 16, 28, 162, 0, 30, 29, 42]
abbrev dktX0_manyKnown_0 : List UInt8 := dkwX0_manyKnown_0 ++ dktX0_manyKnown_1
theorem dksX0_manyKnown_0 : cX0_manyKnown.data.toList.drop 0 = dktX0_manyKnown_0 := by decide +kernel
theorem dksX0_manyKnown_1 : cX0_manyKnown.data.toList.drop 24 = dktX0_manyKnown_1 := dk_seg dksX0_manyKnown_0 24 rfl rfl
theorem dksX0_manyKnown_2 : cX0_manyKnown.data.toList.drop 46 = dktX0_manyKnown_2 := dk_seg dksX0_manyKnown_1 22 rfl rfl
theorem dX0_manyKnown_0 : decode cX0_manyKnown 0 = .ok (.aload_n 0, 1) := dk_42 (dk_at dksX0_manyKnown_0 0 rfl rfl)
theorem dX0_manyKnown_1 : decode cX0_manyKnown 1 = .ok (.getfield 31, 3) := dk_180 0 31 (dk_at dksX0_manyKnown_0 1 rfl rfl)
theorem dX0_manyKnown_4 : decode cX0_manyKnown 4 = .ok (.bipush (-6), 2) := dk_16 250 (dk_at dksX0_manyKnown_0 4 rfl rfl)
theorem dX0_manyKnown_6 : decode cX0_manyKnown 6 = .ok (.invokevirtual 152, 3) := dk_182 0 152 (dk_at dksX0_manyKnown_0 6 rfl rfl)
theorem dX0_manyKnown_9 : decode cX0_manyKnown 9 = .ok (.astore_n 2, 1) := dk_77 (dk_at dksX0_manyKnown_0 9 rfl rfl)
theorem dX0_manyKnown_10 : decode cX0_manyKnown 10 = .ok (.iconst 0, 1) := dk_3 (dk_at dksX0_manyKnown_0 10 rfl rfl)
theorem dX0_manyKnown_11 : decode cX0_manyKnown 11 = .ok (.istore_n 3, 1) := dk_62 (dk_at dksX0_manyKnown_0 11 rfl rfl)
theorem dX0_manyKnown_12 : decode cX0_manyKnown 12 = .ok (.iconst 0, 1) := dk_3 (dk_at dksX0_manyKnown_0 12 rfl rfl)
theorem dX0_manyKnown_13 : decode cX0_manyKnown 13 = .ok (.istore 4, 2) := dk_54 4 (dk_at dksX0_manyKnown_0 13 rfl rfl)
theorem dX0_manyKnown_15 : decode cX0_manyKnown 15 = .ok (.iload 4, 2) := dk_21 4 (dk_at dksX0_manyKnown_0 15 rfl rfl)
theorem dX0_manyKnown_17 : decode cX0_manyKnown 17 = .ok (.bipush 28, 2) := dk_16 28 (dk_at dksX0_manyKnown_0 17 rfl rfl)
theorem dX0_manyKnown_19 : decode cX0_manyKnown 19 = .ok (.if_icmp .ge 30, 3) := dk_162 0 30 (dk_at dksX0_manyKnown_0 19 rfl rfl)
theorem dX0_manyKnown_22 : decode cX0_manyKnown 22 = .ok (.iload_n 3, 1) := dk_29 (dk_at dksX0_manyKnown_0 22 rfl rfl)
theorem dX0_manyKnown_23 : decode cX0_manyKnown 23 = .ok (.aload_n 0, 1) := dk_42 (dk_at dksX0_manyKnown_0 23 rfl rfl)
theorem dX0_manyKnown_24 : decode cX0_manyKnown 24 = .ok (.iload_n 1, 1) := dk_27 (dk_at dksX0_manyKnown_1 0 rfl rfl)
theorem dX0_manyKnown_25 : decode cX0_manyKnown 25 = .ok (.iload 4, 2) := dk_21 4 (dk_at dksX0_manyKnown_1 1 rfl rfl)
theorem dX0_manyKnown_27 : decode cX0_manyKnown 27 = .ok (.aload_n 2, 1) := dk_44 (dk_at dksX0_manyKnown_1 3 rfl rfl)
theorem dX0_manyKnown_28 : decode cX0_manyKnown 28 = .ok (.invokevirtual 204, 3) := dk_182 0 204 (dk_at dksX0_manyKnown_1 4 rfl rfl)
theorem dX0_manyKnown_31 : decode cX0_manyKnown 31 = .ok (.bipush (-6), 2) := dk_16 250 (dk_at dksX0_manyKnown_1 7 rfl rfl)
theorem dX0_manyKnown_33 : decode cX0_manyKnown 33 = .ok (.if_icmp .ne 7, 3) := dk_160 0 7 (dk_at dksX0_manyKnown_1 9 rfl rfl)
theorem dX0_manyKnown_36 : decode cX0_manyKnown 36 = .ok (.iconst 0, 1) := dk_3 (dk_at dksX0_manyKnown_1 12 rfl rfl)
theorem dX0_manyKnown_37 : decode cX0_manyKnown 37 = .ok (.goto 4, 3) := dk_167 0 4 (dk_at dksX0_manyKnown_1 13 rfl rfl)
theorem dX0_manyKnown_40 : decode cX0_manyKnown 40 = .ok (.iconst 1, 1) := dk_4 (dk_at dksX0_manyKnown_1 16 rfl rfl)
theorem dX0_manyKnown_41 : decode cX0_manyKnown 41 = .ok (.iadd, 1) := dk_96 (dk_at dksX0_manyKnown_1 17 rfl rfl)
theorem dX0_manyKnown_42 : decode cX0_manyKnown 42 = .ok (.istore_n 3, 1) := dk_62 (dk_at dksX0_manyKnown_1 18 rfl rfl)
theorem dX0_manyKnown_43 : decode cX0_manyKnown 43 = .ok (.iinc 4 1, 3) := dk_132 4 1 (dk_at dksX0_manyKnown_1 19 rfl rfl)
theorem dX0_manyKnown_46 : decode cX0_manyKnown 46 = .ok (.goto (-31), 3) := dk_167 255 225 (dk_at dksX0_manyKnown_2 0 rfl rfl)
theorem dX0_manyKnown_49 : decode cX0_manyKnown 49 = .ok (.iload_n 3, 1) := dk_29 (dk_at dksX0_manyKnown_2 3 rfl rfl)
theorem dX0_manyKnown_50 : decode cX0_manyKnown 50 = .ok (.ireturn, 1) := dk_172 (dk_at dksX0_manyKnown_2 4 rfl rfl)
abbrev cX0_place : ByteArray := prog_1_method_37_code
def yX0_place : MethodName := ⟨RX0, "place", "(II)I"⟩
def dkwX0_place_5 : List UInt8 := [172, 16, 254, 172]
abbrev dktX0_place_5 : List UInt8 := dkwX0_place_5 ++ []
def dkwX0_place_4 : List UInt8 := [182, 0, 152, 184, 0, 235, 172, 42, 180, 0, 31, 27, 182, 0, 238, 172, 42, 27, 182, 0, 241, 184, 0, 245]
abbrev dktX0_place_4 : List UInt8 := dkwX0_place_4 ++ dktX0_place_5
def dkwX0_place_3 : List UInt8 := [27, 4, 42, 180, 0, 31, 16, 250, 182, 0, 152, 184, 0, 235, 172, 27, 16, 250, 42, 180, 0, 31, 16, 250]
abbrev dktX0_place_3 : List UInt8 := dkwX0_place_3 ++ dktX0_place_4
def dkwX0_place_2 : List UInt8 := [42, 180, 0, 31, 180, 0, 80, 154, 0, 8, 16, 250, 167, 0, 11, 42, 180, 0, 31, 27, 182, 0, 232, 172]
abbrev dktX0_place_2 : List UInt8 := dkwX0_place_2 ++ dktX0_place_3
def dkwX0_place_1 : List UInt8 := [170, 0, 0, 0, 0, 107, 0, 0, 0, 0, 0, 0, 0, 4, 0, 0, 0, 34, 0, 0, 0, 58, 0, 0, 0, 73, 0, 0, 0, 89, 0, 0, 0, 98]
abbrev dktX0_place_1 : List UInt8 := dkwX0_place_1 ++ dktX0_place_2
def dkwX0_place_0 : List UInt8 := [27, 184, 0, 76, 154, 0, 5, 2, 172, 28]
abbrev dktX0_place_0 : List UInt8 := dkwX0_place_0 ++ dktX0_place_1
theorem dksX0_place_0 : cX0_place.data.toList.drop 0 = dktX0_place_0 := by decide +kernel
theorem dksX0_place_1 : cX0_place.data.toList.drop 10 = dktX0_place_1 := dk_seg dksX0_place_0 10 rfl rfl
theorem dksX0_place_2 : cX0_place.data.toList.drop 44 = dktX0_place_2 := dk_seg dksX0_place_1 34 rfl rfl
theorem dksX0_place_3 : cX0_place.data.toList.drop 68 = dktX0_place_3 := dk_seg dksX0_place_2 24 rfl rfl
theorem dksX0_place_4 : cX0_place.data.toList.drop 92 = dktX0_place_4 := dk_seg dksX0_place_3 24 rfl rfl
theorem dksX0_place_5 : cX0_place.data.toList.drop 116 = dktX0_place_5 := dk_seg dksX0_place_4 24 rfl rfl
theorem dX0_place_0 : decode cX0_place 0 = .ok (.iload_n 1, 1) := dk_27 (dk_at dksX0_place_0 0 rfl rfl)
theorem dX0_place_1 : decode cX0_place 1 = .ok (.invokestatic 76, 3) := dk_184 0 76 (dk_at dksX0_place_0 1 rfl rfl)
theorem dX0_place_4 : decode cX0_place 4 = .ok (.ifCond .ne 5, 3) := dk_154 0 5 (dk_at dksX0_place_0 4 rfl rfl)
theorem dX0_place_7 : decode cX0_place 7 = .ok (.iconst (-1), 1) := dk_2 (dk_at dksX0_place_0 7 rfl rfl)
theorem dX0_place_8 : decode cX0_place 8 = .ok (.ireturn, 1) := dk_172 (dk_at dksX0_place_0 8 rfl rfl)
theorem dX0_place_9 : decode cX0_place 9 = .ok (.iload_n 2, 1) := dk_28 (dk_at dksX0_place_0 9 rfl rfl)
theorem dX0_place_10 : decode cX0_place 10 = .ok (.tableswitch 107 0 4 #[34, 58, 73, 89, 98], 34) := by decide +kernel
theorem dX0_place_44 : decode cX0_place 44 = .ok (.aload_n 0, 1) := dk_42 (dk_at dksX0_place_2 0 rfl rfl)
theorem dX0_place_45 : decode cX0_place 45 = .ok (.getfield 31, 3) := dk_180 0 31 (dk_at dksX0_place_2 1 rfl rfl)
theorem dX0_place_48 : decode cX0_place 48 = .ok (.getfield 80, 3) := dk_180 0 80 (dk_at dksX0_place_2 4 rfl rfl)
theorem dX0_place_51 : decode cX0_place 51 = .ok (.ifCond .ne 8, 3) := dk_154 0 8 (dk_at dksX0_place_2 7 rfl rfl)
theorem dX0_place_54 : decode cX0_place 54 = .ok (.bipush (-6), 2) := dk_16 250 (dk_at dksX0_place_2 10 rfl rfl)
theorem dX0_place_56 : decode cX0_place 56 = .ok (.goto 11, 3) := dk_167 0 11 (dk_at dksX0_place_2 12 rfl rfl)
theorem dX0_place_59 : decode cX0_place 59 = .ok (.aload_n 0, 1) := dk_42 (dk_at dksX0_place_2 15 rfl rfl)
theorem dX0_place_60 : decode cX0_place 60 = .ok (.getfield 31, 3) := dk_180 0 31 (dk_at dksX0_place_2 16 rfl rfl)
theorem dX0_place_63 : decode cX0_place 63 = .ok (.iload_n 1, 1) := dk_27 (dk_at dksX0_place_2 19 rfl rfl)
theorem dX0_place_64 : decode cX0_place 64 = .ok (.invokevirtual 232, 3) := dk_182 0 232 (dk_at dksX0_place_2 20 rfl rfl)
theorem dX0_place_67 : decode cX0_place 67 = .ok (.ireturn, 1) := dk_172 (dk_at dksX0_place_2 23 rfl rfl)
theorem dX0_place_68 : decode cX0_place 68 = .ok (.iload_n 1, 1) := dk_27 (dk_at dksX0_place_3 0 rfl rfl)
theorem dX0_place_69 : decode cX0_place 69 = .ok (.iconst 1, 1) := dk_4 (dk_at dksX0_place_3 1 rfl rfl)
theorem dX0_place_70 : decode cX0_place 70 = .ok (.aload_n 0, 1) := dk_42 (dk_at dksX0_place_3 2 rfl rfl)
theorem dX0_place_71 : decode cX0_place 71 = .ok (.getfield 31, 3) := dk_180 0 31 (dk_at dksX0_place_3 3 rfl rfl)
theorem dX0_place_74 : decode cX0_place 74 = .ok (.bipush (-6), 2) := dk_16 250 (dk_at dksX0_place_3 6 rfl rfl)
theorem dX0_place_76 : decode cX0_place 76 = .ok (.invokevirtual 152, 3) := dk_182 0 152 (dk_at dksX0_place_3 8 rfl rfl)
theorem dX0_place_79 : decode cX0_place 79 = .ok (.invokestatic 235, 3) := dk_184 0 235 (dk_at dksX0_place_3 11 rfl rfl)
theorem dX0_place_82 : decode cX0_place 82 = .ok (.ireturn, 1) := dk_172 (dk_at dksX0_place_3 14 rfl rfl)
theorem dX0_place_83 : decode cX0_place 83 = .ok (.iload_n 1, 1) := dk_27 (dk_at dksX0_place_3 15 rfl rfl)
theorem dX0_place_84 : decode cX0_place 84 = .ok (.bipush (-6), 2) := dk_16 250 (dk_at dksX0_place_3 16 rfl rfl)
theorem dX0_place_86 : decode cX0_place 86 = .ok (.aload_n 0, 1) := dk_42 (dk_at dksX0_place_3 18 rfl rfl)
theorem dX0_place_87 : decode cX0_place 87 = .ok (.getfield 31, 3) := dk_180 0 31 (dk_at dksX0_place_3 19 rfl rfl)
theorem dX0_place_90 : decode cX0_place 90 = .ok (.bipush (-6), 2) := dk_16 250 (dk_at dksX0_place_3 22 rfl rfl)
theorem dX0_place_92 : decode cX0_place 92 = .ok (.invokevirtual 152, 3) := dk_182 0 152 (dk_at dksX0_place_4 0 rfl rfl)
theorem dX0_place_95 : decode cX0_place 95 = .ok (.invokestatic 235, 3) := dk_184 0 235 (dk_at dksX0_place_4 3 rfl rfl)
theorem dX0_place_98 : decode cX0_place 98 = .ok (.ireturn, 1) := dk_172 (dk_at dksX0_place_4 6 rfl rfl)
theorem dX0_place_99 : decode cX0_place 99 = .ok (.aload_n 0, 1) := dk_42 (dk_at dksX0_place_4 7 rfl rfl)
theorem dX0_place_100 : decode cX0_place 100 = .ok (.getfield 31, 3) := dk_180 0 31 (dk_at dksX0_place_4 8 rfl rfl)
theorem dX0_place_103 : decode cX0_place 103 = .ok (.iload_n 1, 1) := dk_27 (dk_at dksX0_place_4 11 rfl rfl)
theorem dX0_place_104 : decode cX0_place 104 = .ok (.invokevirtual 238, 3) := dk_182 0 238 (dk_at dksX0_place_4 12 rfl rfl)
theorem dX0_place_107 : decode cX0_place 107 = .ok (.ireturn, 1) := dk_172 (dk_at dksX0_place_4 15 rfl rfl)
theorem dX0_place_108 : decode cX0_place 108 = .ok (.aload_n 0, 1) := dk_42 (dk_at dksX0_place_4 16 rfl rfl)
theorem dX0_place_109 : decode cX0_place 109 = .ok (.iload_n 1, 1) := dk_27 (dk_at dksX0_place_4 17 rfl rfl)
theorem dX0_place_110 : decode cX0_place 110 = .ok (.invokevirtual 241, 3) := dk_182 0 241 (dk_at dksX0_place_4 18 rfl rfl)
theorem dX0_place_113 : decode cX0_place 113 = .ok (.invokestatic 245, 3) := dk_184 0 245 (dk_at dksX0_place_4 21 rfl rfl)
theorem dX0_place_116 : decode cX0_place 116 = .ok (.ireturn, 1) := dk_172 (dk_at dksX0_place_5 0 rfl rfl)
theorem dX0_place_117 : decode cX0_place 117 = .ok (.bipush (-2), 2) := dk_16 254 (dk_at dksX0_place_5 1 rfl rfl)
theorem dX0_place_119 : decode cX0_place 119 = .ok (.ireturn, 1) := dk_172 (dk_at dksX0_place_5 3 rfl rfl)
abbrev cX0_knownFrom : ByteArray := prog_1_method_36_code
def yX0_knownFrom : MethodName := ⟨RX0, "knownFrom", "(I)Ljava/util/BitSet;"⟩
def dkwX0_knownFrom_2 : List UInt8 := [160, 0, 9, 45, 21, 4, 182, 0, 229, 132, 4, 1, 167, 255, 222, 45, 176]
abbrev dktX0_knownFrom_2 : List UInt8 := dkwX0_knownFrom_2 ++ []
def dkwX0_knownFrom_1 : List UInt8 := [21, 4, 16, 8, 162, 0, 33, 21, 4, 27, 159, 0, 21, 44, 27, 21, 4, 184, 0, 96, 46, 4]
abbrev dktX0_knownFrom_1 : List UInt8 := dkwX0_knownFrom_1 ++ dktX0_knownFrom_2
def dkwX0_knownFrom_0 : List UInt8 := [42, 180, 0, 31, 16, 250, 182, 0, 152, 77, 187, 0, 17, 89, 16, 8, 183, 0, 228, 78, 3, 54, 4]
abbrev dktX0_knownFrom_0 : List UInt8 := dkwX0_knownFrom_0 ++ dktX0_knownFrom_1
theorem dksX0_knownFrom_0 : cX0_knownFrom.data.toList.drop 0 = dktX0_knownFrom_0 := by decide +kernel
theorem dksX0_knownFrom_1 : cX0_knownFrom.data.toList.drop 23 = dktX0_knownFrom_1 := dk_seg dksX0_knownFrom_0 23 rfl rfl
theorem dksX0_knownFrom_2 : cX0_knownFrom.data.toList.drop 45 = dktX0_knownFrom_2 := dk_seg dksX0_knownFrom_1 22 rfl rfl
theorem dX0_knownFrom_0 : decode cX0_knownFrom 0 = .ok (.aload_n 0, 1) := dk_42 (dk_at dksX0_knownFrom_0 0 rfl rfl)
theorem dX0_knownFrom_1 : decode cX0_knownFrom 1 = .ok (.getfield 31, 3) := dk_180 0 31 (dk_at dksX0_knownFrom_0 1 rfl rfl)
theorem dX0_knownFrom_4 : decode cX0_knownFrom 4 = .ok (.bipush (-6), 2) := dk_16 250 (dk_at dksX0_knownFrom_0 4 rfl rfl)
theorem dX0_knownFrom_6 : decode cX0_knownFrom 6 = .ok (.invokevirtual 152, 3) := dk_182 0 152 (dk_at dksX0_knownFrom_0 6 rfl rfl)
theorem dX0_knownFrom_9 : decode cX0_knownFrom 9 = .ok (.astore_n 2, 1) := dk_77 (dk_at dksX0_knownFrom_0 9 rfl rfl)
theorem dX0_knownFrom_10 : decode cX0_knownFrom 10 = .ok (.new 17, 3) := dk_187 0 17 (dk_at dksX0_knownFrom_0 10 rfl rfl)
theorem dX0_knownFrom_13 : decode cX0_knownFrom 13 = .ok (.dup, 1) := dk_89 (dk_at dksX0_knownFrom_0 13 rfl rfl)
theorem dX0_knownFrom_14 : decode cX0_knownFrom 14 = .ok (.bipush 8, 2) := dk_16 8 (dk_at dksX0_knownFrom_0 14 rfl rfl)
theorem dX0_knownFrom_16 : decode cX0_knownFrom 16 = .ok (.invokespecial 228, 3) := dk_183 0 228 (dk_at dksX0_knownFrom_0 16 rfl rfl)
theorem dX0_knownFrom_19 : decode cX0_knownFrom 19 = .ok (.astore_n 3, 1) := dk_78 (dk_at dksX0_knownFrom_0 19 rfl rfl)
theorem dX0_knownFrom_20 : decode cX0_knownFrom 20 = .ok (.iconst 0, 1) := dk_3 (dk_at dksX0_knownFrom_0 20 rfl rfl)
theorem dX0_knownFrom_21 : decode cX0_knownFrom 21 = .ok (.istore 4, 2) := dk_54 4 (dk_at dksX0_knownFrom_0 21 rfl rfl)
theorem dX0_knownFrom_23 : decode cX0_knownFrom 23 = .ok (.iload 4, 2) := dk_21 4 (dk_at dksX0_knownFrom_1 0 rfl rfl)
theorem dX0_knownFrom_25 : decode cX0_knownFrom 25 = .ok (.bipush 8, 2) := dk_16 8 (dk_at dksX0_knownFrom_1 2 rfl rfl)
theorem dX0_knownFrom_27 : decode cX0_knownFrom 27 = .ok (.if_icmp .ge 33, 3) := dk_162 0 33 (dk_at dksX0_knownFrom_1 4 rfl rfl)
theorem dX0_knownFrom_30 : decode cX0_knownFrom 30 = .ok (.iload 4, 2) := dk_21 4 (dk_at dksX0_knownFrom_1 7 rfl rfl)
theorem dX0_knownFrom_32 : decode cX0_knownFrom 32 = .ok (.iload_n 1, 1) := dk_27 (dk_at dksX0_knownFrom_1 9 rfl rfl)
theorem dX0_knownFrom_33 : decode cX0_knownFrom 33 = .ok (.if_icmp .eq 21, 3) := dk_159 0 21 (dk_at dksX0_knownFrom_1 10 rfl rfl)
theorem dX0_knownFrom_36 : decode cX0_knownFrom 36 = .ok (.aload_n 2, 1) := dk_44 (dk_at dksX0_knownFrom_1 13 rfl rfl)
theorem dX0_knownFrom_37 : decode cX0_knownFrom 37 = .ok (.iload_n 1, 1) := dk_27 (dk_at dksX0_knownFrom_1 14 rfl rfl)
theorem dX0_knownFrom_38 : decode cX0_knownFrom 38 = .ok (.iload 4, 2) := dk_21 4 (dk_at dksX0_knownFrom_1 15 rfl rfl)
theorem dX0_knownFrom_40 : decode cX0_knownFrom 40 = .ok (.invokestatic 96, 3) := dk_184 0 96 (dk_at dksX0_knownFrom_1 17 rfl rfl)
theorem dX0_knownFrom_43 : decode cX0_knownFrom 43 = .ok (.iaload, 1) := dk_46 (dk_at dksX0_knownFrom_1 20 rfl rfl)
theorem dX0_knownFrom_44 : decode cX0_knownFrom 44 = .ok (.iconst 1, 1) := dk_4 (dk_at dksX0_knownFrom_1 21 rfl rfl)
theorem dX0_knownFrom_45 : decode cX0_knownFrom 45 = .ok (.if_icmp .ne 9, 3) := dk_160 0 9 (dk_at dksX0_knownFrom_2 0 rfl rfl)
theorem dX0_knownFrom_48 : decode cX0_knownFrom 48 = .ok (.aload_n 3, 1) := dk_45 (dk_at dksX0_knownFrom_2 3 rfl rfl)
theorem dX0_knownFrom_49 : decode cX0_knownFrom 49 = .ok (.iload 4, 2) := dk_21 4 (dk_at dksX0_knownFrom_2 4 rfl rfl)
theorem dX0_knownFrom_51 : decode cX0_knownFrom 51 = .ok (.invokevirtual 229, 3) := dk_182 0 229 (dk_at dksX0_knownFrom_2 6 rfl rfl)
theorem dX0_knownFrom_54 : decode cX0_knownFrom 54 = .ok (.iinc 4 1, 3) := dk_132 4 1 (dk_at dksX0_knownFrom_2 9 rfl rfl)
theorem dX0_knownFrom_57 : decode cX0_knownFrom 57 = .ok (.goto (-34), 3) := dk_167 255 222 (dk_at dksX0_knownFrom_2 12 rfl rfl)
theorem dX0_knownFrom_60 : decode cX0_knownFrom 60 = .ok (.aload_n 3, 1) := dk_45 (dk_at dksX0_knownFrom_2 15 rfl rfl)
theorem dX0_knownFrom_61 : decode cX0_knownFrom 61 = .ok (.areturn, 1) := dk_176 (dk_at dksX0_knownFrom_2 16 rfl rfl)
abbrev cX0_setOf : ByteArray := prog_1_method_5_code
def yX0_setOf : MethodName := ⟨RX0, "setOf", "(Ljava/util/BitSet;)I"⟩
def dkwX0_setOf_1 : List UInt8 := [182, 0, 16, 61, 167, 255, 238, 27, 172]
abbrev dktX0_setOf_1 : List UInt8 := dkwX0_setOf_1 ++ []
def dkwX0_setOf_0 : List UInt8 := [3, 60, 42, 3, 182, 0, 16, 61, 28, 155, 0, 20, 27, 4, 28, 120, 128, 60, 42, 28, 4, 96]
abbrev dktX0_setOf_0 : List UInt8 := dkwX0_setOf_0 ++ dktX0_setOf_1
theorem dksX0_setOf_0 : cX0_setOf.data.toList.drop 0 = dktX0_setOf_0 := by decide +kernel
theorem dksX0_setOf_1 : cX0_setOf.data.toList.drop 22 = dktX0_setOf_1 := dk_seg dksX0_setOf_0 22 rfl rfl
theorem dX0_setOf_0 : decode cX0_setOf 0 = .ok (.iconst 0, 1) := dk_3 (dk_at dksX0_setOf_0 0 rfl rfl)
theorem dX0_setOf_1 : decode cX0_setOf 1 = .ok (.istore_n 1, 1) := dk_60 (dk_at dksX0_setOf_0 1 rfl rfl)
theorem dX0_setOf_2 : decode cX0_setOf 2 = .ok (.aload_n 0, 1) := dk_42 (dk_at dksX0_setOf_0 2 rfl rfl)
theorem dX0_setOf_3 : decode cX0_setOf 3 = .ok (.iconst 0, 1) := dk_3 (dk_at dksX0_setOf_0 3 rfl rfl)
theorem dX0_setOf_4 : decode cX0_setOf 4 = .ok (.invokevirtual 16, 3) := dk_182 0 16 (dk_at dksX0_setOf_0 4 rfl rfl)
theorem dX0_setOf_7 : decode cX0_setOf 7 = .ok (.istore_n 2, 1) := dk_61 (dk_at dksX0_setOf_0 7 rfl rfl)
theorem dX0_setOf_8 : decode cX0_setOf 8 = .ok (.iload_n 2, 1) := dk_28 (dk_at dksX0_setOf_0 8 rfl rfl)
theorem dX0_setOf_9 : decode cX0_setOf 9 = .ok (.ifCond .lt 20, 3) := dk_155 0 20 (dk_at dksX0_setOf_0 9 rfl rfl)
theorem dX0_setOf_12 : decode cX0_setOf 12 = .ok (.iload_n 1, 1) := dk_27 (dk_at dksX0_setOf_0 12 rfl rfl)
theorem dX0_setOf_13 : decode cX0_setOf 13 = .ok (.iconst 1, 1) := dk_4 (dk_at dksX0_setOf_0 13 rfl rfl)
theorem dX0_setOf_14 : decode cX0_setOf 14 = .ok (.iload_n 2, 1) := dk_28 (dk_at dksX0_setOf_0 14 rfl rfl)
theorem dX0_setOf_15 : decode cX0_setOf 15 = .ok (.ishl, 1) := dk_120 (dk_at dksX0_setOf_0 15 rfl rfl)
theorem dX0_setOf_16 : decode cX0_setOf 16 = .ok (.ior, 1) := dk_128 (dk_at dksX0_setOf_0 16 rfl rfl)
theorem dX0_setOf_17 : decode cX0_setOf 17 = .ok (.istore_n 1, 1) := dk_60 (dk_at dksX0_setOf_0 17 rfl rfl)
theorem dX0_setOf_18 : decode cX0_setOf 18 = .ok (.aload_n 0, 1) := dk_42 (dk_at dksX0_setOf_0 18 rfl rfl)
theorem dX0_setOf_19 : decode cX0_setOf 19 = .ok (.iload_n 2, 1) := dk_28 (dk_at dksX0_setOf_0 19 rfl rfl)
theorem dX0_setOf_20 : decode cX0_setOf 20 = .ok (.iconst 1, 1) := dk_4 (dk_at dksX0_setOf_0 20 rfl rfl)
theorem dX0_setOf_21 : decode cX0_setOf 21 = .ok (.iadd, 1) := dk_96 (dk_at dksX0_setOf_0 21 rfl rfl)
theorem dX0_setOf_22 : decode cX0_setOf 22 = .ok (.invokevirtual 16, 3) := dk_182 0 16 (dk_at dksX0_setOf_1 0 rfl rfl)
theorem dX0_setOf_25 : decode cX0_setOf 25 = .ok (.istore_n 2, 1) := dk_61 (dk_at dksX0_setOf_1 3 rfl rfl)
theorem dX0_setOf_26 : decode cX0_setOf 26 = .ok (.goto (-18), 3) := dk_167 255 238 (dk_at dksX0_setOf_1 4 rfl rfl)
theorem dX0_setOf_29 : decode cX0_setOf 29 = .ok (.iload_n 1, 1) := dk_27 (dk_at dksX0_setOf_1 7 rfl rfl)
theorem dX0_setOf_30 : decode cX0_setOf 30 = .ok (.ireturn, 1) := dk_172 (dk_at dksX0_setOf_1 8 rfl rfl)
abbrev cX0_dug : ByteArray := prog_1_method_38_code
def yX0_dug : MethodName := ⟨RX0, "dug", "(I)I"⟩
def dkwX0_dug_1 : List UInt8 := [180, 0, 249, 27, 182, 0, 255, 192, 1, 2, 180, 1, 4, 167, 0, 4, 2, 172]
abbrev dktX0_dug_1 : List UInt8 := dkwX0_dug_1 ++ []
def dkwX0_dug_0 : List UInt8 := [27, 3, 42, 180, 0, 31, 180, 0, 249, 182, 0, 252, 4, 100, 184, 0, 3, 153, 0, 23, 42, 180, 0, 31]
abbrev dktX0_dug_0 : List UInt8 := dkwX0_dug_0 ++ dktX0_dug_1
theorem dksX0_dug_0 : cX0_dug.data.toList.drop 0 = dktX0_dug_0 := by decide +kernel
theorem dksX0_dug_1 : cX0_dug.data.toList.drop 24 = dktX0_dug_1 := dk_seg dksX0_dug_0 24 rfl rfl
theorem dX0_dug_0 : decode cX0_dug 0 = .ok (.iload_n 1, 1) := dk_27 (dk_at dksX0_dug_0 0 rfl rfl)
theorem dX0_dug_1 : decode cX0_dug 1 = .ok (.iconst 0, 1) := dk_3 (dk_at dksX0_dug_0 1 rfl rfl)
theorem dX0_dug_2 : decode cX0_dug 2 = .ok (.aload_n 0, 1) := dk_42 (dk_at dksX0_dug_0 2 rfl rfl)
theorem dX0_dug_3 : decode cX0_dug 3 = .ok (.getfield 31, 3) := dk_180 0 31 (dk_at dksX0_dug_0 3 rfl rfl)
theorem dX0_dug_6 : decode cX0_dug 6 = .ok (.getfield 249, 3) := dk_180 0 249 (dk_at dksX0_dug_0 6 rfl rfl)
theorem dX0_dug_9 : decode cX0_dug 9 = .ok (.invokevirtual 252, 3) := dk_182 0 252 (dk_at dksX0_dug_0 9 rfl rfl)
theorem dX0_dug_12 : decode cX0_dug 12 = .ok (.iconst 1, 1) := dk_4 (dk_at dksX0_dug_0 12 rfl rfl)
theorem dX0_dug_13 : decode cX0_dug 13 = .ok (.isub, 1) := dk_100 (dk_at dksX0_dug_0 13 rfl rfl)
theorem dX0_dug_14 : decode cX0_dug 14 = .ok (.invokestatic 3, 3) := dk_184 0 3 (dk_at dksX0_dug_0 14 rfl rfl)
theorem dX0_dug_17 : decode cX0_dug 17 = .ok (.ifCond .eq 23, 3) := dk_153 0 23 (dk_at dksX0_dug_0 17 rfl rfl)
theorem dX0_dug_20 : decode cX0_dug 20 = .ok (.aload_n 0, 1) := dk_42 (dk_at dksX0_dug_0 20 rfl rfl)
theorem dX0_dug_21 : decode cX0_dug 21 = .ok (.getfield 31, 3) := dk_180 0 31 (dk_at dksX0_dug_0 21 rfl rfl)
theorem dX0_dug_24 : decode cX0_dug 24 = .ok (.getfield 249, 3) := dk_180 0 249 (dk_at dksX0_dug_1 0 rfl rfl)
theorem dX0_dug_27 : decode cX0_dug 27 = .ok (.iload_n 1, 1) := dk_27 (dk_at dksX0_dug_1 3 rfl rfl)
theorem dX0_dug_28 : decode cX0_dug 28 = .ok (.invokevirtual 255, 3) := dk_182 0 255 (dk_at dksX0_dug_1 4 rfl rfl)
theorem dX0_dug_31 : decode cX0_dug 31 = .ok (.checkcast 258, 3) := dk_192 1 2 (dk_at dksX0_dug_1 7 rfl rfl)
theorem dX0_dug_34 : decode cX0_dug 34 = .ok (.getfield 260, 3) := dk_180 1 4 (dk_at dksX0_dug_1 10 rfl rfl)
theorem dX0_dug_37 : decode cX0_dug 37 = .ok (.goto 4, 3) := dk_167 0 4 (dk_at dksX0_dug_1 13 rfl rfl)
theorem dX0_dug_40 : decode cX0_dug 40 = .ok (.iconst (-1), 1) := dk_2 (dk_at dksX0_dug_1 16 rfl rfl)
theorem dX0_dug_41 : decode cX0_dug 41 = .ok (.ireturn, 1) := dk_172 (dk_at dksX0_dug_1 17 rfl rfl)
abbrev cX0_count : ByteArray := prog_1_method_40_code
def yX0_count : MethodName := ⟨RX0, "count", "(I)I"⟩
def dkwX0_count_6 : List UInt8 := [172, 42, 180, 0, 40, 185, 0, 55, 1, 0, 172, 16, 254, 172]
abbrev dktX0_count_6 : List UInt8 := dkwX0_count_6 ++ []
def dkwX0_count_5 : List UInt8 := [182, 1, 13, 172, 42, 180, 0, 31, 180, 0, 123, 27, 16, 8, 100, 46, 172, 42, 180, 0, 51, 182, 1, 16]
abbrev dktX0_count_5 : List UInt8 := dkwX0_count_5 ++ dktX0_count_6
def dkwX0_count_4 : List UInt8 := [180, 0, 31, 16, 250, 182, 0, 152, 184, 0, 156, 172, 42, 182, 1, 10, 172, 42, 180, 0, 31, 180, 0, 109]
abbrev dktX0_count_4 : List UInt8 := dkwX0_count_4 ++ dktX0_count_5
def dkwX0_count_3 : List UInt8 := [180, 0, 80, 172, 42, 180, 0, 31, 180, 1, 7, 172, 27, 8, 160, 0, 7, 4, 167, 0, 4, 3, 42]
abbrev dktX0_count_3 : List UInt8 := dkwX0_count_3 ++ dktX0_count_4
def dkwX0_count_2 : List UInt8 := [42, 180, 0, 31, 180, 0, 93, 172, 42, 180, 0, 31, 180, 0, 93, 6, 112, 172, 42, 180, 0, 31]
abbrev dktX0_count_2 : List UInt8 := dkwX0_count_2 ++ dktX0_count_3
def dkwX0_count_1 : List UInt8 := [170, 0, 0, 0, 0, 0, 175, 0, 0, 0, 0, 0, 0, 0, 13, 0, 0, 0, 71, 0, 0, 0, 79, 0, 0, 0, 89, 0, 0, 0, 97, 0, 0, 0, 105, 0, 0, 0, 105, 0, 0, 0, 128, 0, 0, 0, 133, 0, 0, 0, 144, 0, 0, 0, 144, 0, 0, 0, 144, 0, 0, 0, 144, 0, 0, 0, 157, 0, 0, 0, 165]
abbrev dktX0_count_1 : List UInt8 := dkwX0_count_1 ++ dktX0_count_2
def dkwX0_count_0 : List UInt8 := [27]
abbrev dktX0_count_0 : List UInt8 := dkwX0_count_0 ++ dktX0_count_1
theorem dksX0_count_0 : cX0_count.data.toList.drop 0 = dktX0_count_0 := by decide +kernel
theorem dksX0_count_1 : cX0_count.data.toList.drop 1 = dktX0_count_1 := dk_seg dksX0_count_0 1 rfl rfl
theorem dksX0_count_2 : cX0_count.data.toList.drop 72 = dktX0_count_2 := dk_seg dksX0_count_1 71 rfl rfl
theorem dksX0_count_3 : cX0_count.data.toList.drop 94 = dktX0_count_3 := dk_seg dksX0_count_2 22 rfl rfl
theorem dksX0_count_4 : cX0_count.data.toList.drop 117 = dktX0_count_4 := dk_seg dksX0_count_3 23 rfl rfl
theorem dksX0_count_5 : cX0_count.data.toList.drop 141 = dktX0_count_5 := dk_seg dksX0_count_4 24 rfl rfl
theorem dksX0_count_6 : cX0_count.data.toList.drop 165 = dktX0_count_6 := dk_seg dksX0_count_5 24 rfl rfl
theorem dX0_count_0 : decode cX0_count 0 = .ok (.iload_n 1, 1) := dk_27 (dk_at dksX0_count_0 0 rfl rfl)
theorem dX0_count_1 : decode cX0_count 1 = .ok (.tableswitch 175 0 13 #[71, 79, 89, 97, 105, 105, 128, 133, 144, 144, 144, 144, 157, 165], 71) := by decide +kernel
theorem dX0_count_72 : decode cX0_count 72 = .ok (.aload_n 0, 1) := dk_42 (dk_at dksX0_count_2 0 rfl rfl)
theorem dX0_count_73 : decode cX0_count 73 = .ok (.getfield 31, 3) := dk_180 0 31 (dk_at dksX0_count_2 1 rfl rfl)
theorem dX0_count_76 : decode cX0_count 76 = .ok (.getfield 93, 3) := dk_180 0 93 (dk_at dksX0_count_2 4 rfl rfl)
theorem dX0_count_79 : decode cX0_count 79 = .ok (.ireturn, 1) := dk_172 (dk_at dksX0_count_2 7 rfl rfl)
theorem dX0_count_80 : decode cX0_count 80 = .ok (.aload_n 0, 1) := dk_42 (dk_at dksX0_count_2 8 rfl rfl)
theorem dX0_count_81 : decode cX0_count 81 = .ok (.getfield 31, 3) := dk_180 0 31 (dk_at dksX0_count_2 9 rfl rfl)
theorem dX0_count_84 : decode cX0_count 84 = .ok (.getfield 93, 3) := dk_180 0 93 (dk_at dksX0_count_2 12 rfl rfl)
theorem dX0_count_87 : decode cX0_count 87 = .ok (.iconst 3, 1) := dk_6 (dk_at dksX0_count_2 15 rfl rfl)
theorem dX0_count_88 : decode cX0_count 88 = .ok (.irem, 1) := dk_112 (dk_at dksX0_count_2 16 rfl rfl)
theorem dX0_count_89 : decode cX0_count 89 = .ok (.ireturn, 1) := dk_172 (dk_at dksX0_count_2 17 rfl rfl)
theorem dX0_count_90 : decode cX0_count 90 = .ok (.aload_n 0, 1) := dk_42 (dk_at dksX0_count_2 18 rfl rfl)
theorem dX0_count_91 : decode cX0_count 91 = .ok (.getfield 31, 3) := dk_180 0 31 (dk_at dksX0_count_2 19 rfl rfl)
theorem dX0_count_94 : decode cX0_count 94 = .ok (.getfield 80, 3) := dk_180 0 80 (dk_at dksX0_count_3 0 rfl rfl)
theorem dX0_count_97 : decode cX0_count 97 = .ok (.ireturn, 1) := dk_172 (dk_at dksX0_count_3 3 rfl rfl)
theorem dX0_count_98 : decode cX0_count 98 = .ok (.aload_n 0, 1) := dk_42 (dk_at dksX0_count_3 4 rfl rfl)
theorem dX0_count_99 : decode cX0_count 99 = .ok (.getfield 31, 3) := dk_180 0 31 (dk_at dksX0_count_3 5 rfl rfl)
theorem dX0_count_102 : decode cX0_count 102 = .ok (.getfield 263, 3) := dk_180 1 7 (dk_at dksX0_count_3 8 rfl rfl)
theorem dX0_count_105 : decode cX0_count 105 = .ok (.ireturn, 1) := dk_172 (dk_at dksX0_count_3 11 rfl rfl)
theorem dX0_count_106 : decode cX0_count 106 = .ok (.iload_n 1, 1) := dk_27 (dk_at dksX0_count_3 12 rfl rfl)
theorem dX0_count_107 : decode cX0_count 107 = .ok (.iconst 5, 1) := dk_8 (dk_at dksX0_count_3 13 rfl rfl)
theorem dX0_count_108 : decode cX0_count 108 = .ok (.if_icmp .ne 7, 3) := dk_160 0 7 (dk_at dksX0_count_3 14 rfl rfl)
theorem dX0_count_111 : decode cX0_count 111 = .ok (.iconst 1, 1) := dk_4 (dk_at dksX0_count_3 17 rfl rfl)
theorem dX0_count_112 : decode cX0_count 112 = .ok (.goto 4, 3) := dk_167 0 4 (dk_at dksX0_count_3 18 rfl rfl)
theorem dX0_count_115 : decode cX0_count 115 = .ok (.iconst 0, 1) := dk_3 (dk_at dksX0_count_3 21 rfl rfl)
theorem dX0_count_116 : decode cX0_count 116 = .ok (.aload_n 0, 1) := dk_42 (dk_at dksX0_count_3 22 rfl rfl)
theorem dX0_count_117 : decode cX0_count 117 = .ok (.getfield 31, 3) := dk_180 0 31 (dk_at dksX0_count_4 0 rfl rfl)
theorem dX0_count_120 : decode cX0_count 120 = .ok (.bipush (-6), 2) := dk_16 250 (dk_at dksX0_count_4 3 rfl rfl)
theorem dX0_count_122 : decode cX0_count 122 = .ok (.invokevirtual 152, 3) := dk_182 0 152 (dk_at dksX0_count_4 5 rfl rfl)
theorem dX0_count_125 : decode cX0_count 125 = .ok (.invokestatic 156, 3) := dk_184 0 156 (dk_at dksX0_count_4 8 rfl rfl)
theorem dX0_count_128 : decode cX0_count 128 = .ok (.ireturn, 1) := dk_172 (dk_at dksX0_count_4 11 rfl rfl)
theorem dX0_count_129 : decode cX0_count 129 = .ok (.aload_n 0, 1) := dk_42 (dk_at dksX0_count_4 12 rfl rfl)
theorem dX0_count_130 : decode cX0_count 130 = .ok (.invokevirtual 266, 3) := dk_182 1 10 (dk_at dksX0_count_4 13 rfl rfl)
theorem dX0_count_133 : decode cX0_count 133 = .ok (.ireturn, 1) := dk_172 (dk_at dksX0_count_4 16 rfl rfl)
theorem dX0_count_134 : decode cX0_count 134 = .ok (.aload_n 0, 1) := dk_42 (dk_at dksX0_count_4 17 rfl rfl)
theorem dX0_count_135 : decode cX0_count 135 = .ok (.getfield 31, 3) := dk_180 0 31 (dk_at dksX0_count_4 18 rfl rfl)
theorem dX0_count_138 : decode cX0_count 138 = .ok (.getfield 109, 3) := dk_180 0 109 (dk_at dksX0_count_4 21 rfl rfl)
theorem dX0_count_141 : decode cX0_count 141 = .ok (.invokevirtual 269, 3) := dk_182 1 13 (dk_at dksX0_count_5 0 rfl rfl)
theorem dX0_count_144 : decode cX0_count 144 = .ok (.ireturn, 1) := dk_172 (dk_at dksX0_count_5 3 rfl rfl)
theorem dX0_count_145 : decode cX0_count 145 = .ok (.aload_n 0, 1) := dk_42 (dk_at dksX0_count_5 4 rfl rfl)
theorem dX0_count_146 : decode cX0_count 146 = .ok (.getfield 31, 3) := dk_180 0 31 (dk_at dksX0_count_5 5 rfl rfl)
theorem dX0_count_149 : decode cX0_count 149 = .ok (.getfield 123, 3) := dk_180 0 123 (dk_at dksX0_count_5 8 rfl rfl)
theorem dX0_count_152 : decode cX0_count 152 = .ok (.iload_n 1, 1) := dk_27 (dk_at dksX0_count_5 11 rfl rfl)
theorem dX0_count_153 : decode cX0_count 153 = .ok (.bipush 8, 2) := dk_16 8 (dk_at dksX0_count_5 12 rfl rfl)
theorem dX0_count_155 : decode cX0_count 155 = .ok (.isub, 1) := dk_100 (dk_at dksX0_count_5 14 rfl rfl)
theorem dX0_count_156 : decode cX0_count 156 = .ok (.iaload, 1) := dk_46 (dk_at dksX0_count_5 15 rfl rfl)
theorem dX0_count_157 : decode cX0_count 157 = .ok (.ireturn, 1) := dk_172 (dk_at dksX0_count_5 16 rfl rfl)
theorem dX0_count_158 : decode cX0_count 158 = .ok (.aload_n 0, 1) := dk_42 (dk_at dksX0_count_5 17 rfl rfl)
theorem dX0_count_159 : decode cX0_count 159 = .ok (.getfield 51, 3) := dk_180 0 51 (dk_at dksX0_count_5 18 rfl rfl)
theorem dX0_count_162 : decode cX0_count 162 = .ok (.invokevirtual 272, 3) := dk_182 1 16 (dk_at dksX0_count_5 21 rfl rfl)
theorem dX0_count_165 : decode cX0_count 165 = .ok (.ireturn, 1) := dk_172 (dk_at dksX0_count_6 0 rfl rfl)
theorem dX0_count_166 : decode cX0_count 166 = .ok (.aload_n 0, 1) := dk_42 (dk_at dksX0_count_6 1 rfl rfl)
theorem dX0_count_167 : decode cX0_count 167 = .ok (.getfield 40, 3) := dk_180 0 40 (dk_at dksX0_count_6 2 rfl rfl)
theorem dX0_count_170 : decode cX0_count 170 = .ok (.invokeinterface 55 1, 5) := by decide +kernel
theorem dX0_count_175 : decode cX0_count 175 = .ok (.ireturn, 1) := dk_172 (dk_at dksX0_count_6 10 rfl rfl)
theorem dX0_count_176 : decode cX0_count 176 = .ok (.bipush (-2), 2) := dk_16 254 (dk_at dksX0_count_6 11 rfl rfl)
theorem dX0_count_178 : decode cX0_count 178 = .ok (.ireturn, 1) := dk_172 (dk_at dksX0_count_6 13 rfl rfl)
abbrev cX0_allShown : ByteArray := prog_1_method_39_code
def yX0_allShown : MethodName := ⟨RX0, "allShown", "()I"⟩
def dkwX0_allShown_2 : List UInt8 := [61, 132, 5, 1, 167, 255, 231, 28, 172]
abbrev dktX0_allShown_2 : List UInt8 := dkwX0_allShown_2 ++ []
def dkwX0_allShown_1 : List UInt8 := [3, 54, 5, 21, 5, 21, 4, 162, 0, 24, 45, 21, 5, 50, 58, 6, 28, 25, 6, 43, 184, 0, 211, 96]
abbrev dktX0_allShown_1 : List UInt8 := dkwX0_allShown_1 ++ dktX0_allShown_2
def dkwX0_allShown_0 : List UInt8 := [42, 180, 0, 31, 16, 250, 182, 0, 152, 76, 3, 61, 42, 180, 0, 31, 180, 0, 99, 78, 45, 190, 54, 4]
abbrev dktX0_allShown_0 : List UInt8 := dkwX0_allShown_0 ++ dktX0_allShown_1
theorem dksX0_allShown_0 : cX0_allShown.data.toList.drop 0 = dktX0_allShown_0 := by decide +kernel
theorem dksX0_allShown_1 : cX0_allShown.data.toList.drop 24 = dktX0_allShown_1 := dk_seg dksX0_allShown_0 24 rfl rfl
theorem dksX0_allShown_2 : cX0_allShown.data.toList.drop 48 = dktX0_allShown_2 := dk_seg dksX0_allShown_1 24 rfl rfl
theorem dX0_allShown_0 : decode cX0_allShown 0 = .ok (.aload_n 0, 1) := dk_42 (dk_at dksX0_allShown_0 0 rfl rfl)
theorem dX0_allShown_1 : decode cX0_allShown 1 = .ok (.getfield 31, 3) := dk_180 0 31 (dk_at dksX0_allShown_0 1 rfl rfl)
theorem dX0_allShown_4 : decode cX0_allShown 4 = .ok (.bipush (-6), 2) := dk_16 250 (dk_at dksX0_allShown_0 4 rfl rfl)
theorem dX0_allShown_6 : decode cX0_allShown 6 = .ok (.invokevirtual 152, 3) := dk_182 0 152 (dk_at dksX0_allShown_0 6 rfl rfl)
theorem dX0_allShown_9 : decode cX0_allShown 9 = .ok (.astore_n 1, 1) := dk_76 (dk_at dksX0_allShown_0 9 rfl rfl)
theorem dX0_allShown_10 : decode cX0_allShown 10 = .ok (.iconst 0, 1) := dk_3 (dk_at dksX0_allShown_0 10 rfl rfl)
theorem dX0_allShown_11 : decode cX0_allShown 11 = .ok (.istore_n 2, 1) := dk_61 (dk_at dksX0_allShown_0 11 rfl rfl)
theorem dX0_allShown_12 : decode cX0_allShown 12 = .ok (.aload_n 0, 1) := dk_42 (dk_at dksX0_allShown_0 12 rfl rfl)
theorem dX0_allShown_13 : decode cX0_allShown 13 = .ok (.getfield 31, 3) := dk_180 0 31 (dk_at dksX0_allShown_0 13 rfl rfl)
theorem dX0_allShown_16 : decode cX0_allShown 16 = .ok (.getfield 99, 3) := dk_180 0 99 (dk_at dksX0_allShown_0 16 rfl rfl)
theorem dX0_allShown_19 : decode cX0_allShown 19 = .ok (.astore_n 3, 1) := dk_78 (dk_at dksX0_allShown_0 19 rfl rfl)
theorem dX0_allShown_20 : decode cX0_allShown 20 = .ok (.aload_n 3, 1) := dk_45 (dk_at dksX0_allShown_0 20 rfl rfl)
theorem dX0_allShown_21 : decode cX0_allShown 21 = .ok (.arraylength, 1) := dk_190 (dk_at dksX0_allShown_0 21 rfl rfl)
theorem dX0_allShown_22 : decode cX0_allShown 22 = .ok (.istore 4, 2) := dk_54 4 (dk_at dksX0_allShown_0 22 rfl rfl)
theorem dX0_allShown_24 : decode cX0_allShown 24 = .ok (.iconst 0, 1) := dk_3 (dk_at dksX0_allShown_1 0 rfl rfl)
theorem dX0_allShown_25 : decode cX0_allShown 25 = .ok (.istore 5, 2) := dk_54 5 (dk_at dksX0_allShown_1 1 rfl rfl)
theorem dX0_allShown_27 : decode cX0_allShown 27 = .ok (.iload 5, 2) := dk_21 5 (dk_at dksX0_allShown_1 3 rfl rfl)
theorem dX0_allShown_29 : decode cX0_allShown 29 = .ok (.iload 4, 2) := dk_21 4 (dk_at dksX0_allShown_1 5 rfl rfl)
theorem dX0_allShown_31 : decode cX0_allShown 31 = .ok (.if_icmp .ge 24, 3) := dk_162 0 24 (dk_at dksX0_allShown_1 7 rfl rfl)
theorem dX0_allShown_34 : decode cX0_allShown 34 = .ok (.aload_n 3, 1) := dk_45 (dk_at dksX0_allShown_1 10 rfl rfl)
theorem dX0_allShown_35 : decode cX0_allShown 35 = .ok (.iload 5, 2) := dk_21 5 (dk_at dksX0_allShown_1 11 rfl rfl)
theorem dX0_allShown_37 : decode cX0_allShown 37 = .ok (.aaload, 1) := dk_50 (dk_at dksX0_allShown_1 13 rfl rfl)
theorem dX0_allShown_38 : decode cX0_allShown 38 = .ok (.astore 6, 2) := dk_58 6 (dk_at dksX0_allShown_1 14 rfl rfl)
theorem dX0_allShown_40 : decode cX0_allShown 40 = .ok (.iload_n 2, 1) := dk_28 (dk_at dksX0_allShown_1 16 rfl rfl)
theorem dX0_allShown_41 : decode cX0_allShown 41 = .ok (.aload 6, 2) := dk_25 6 (dk_at dksX0_allShown_1 17 rfl rfl)
theorem dX0_allShown_43 : decode cX0_allShown 43 = .ok (.aload_n 1, 1) := dk_43 (dk_at dksX0_allShown_1 19 rfl rfl)
theorem dX0_allShown_44 : decode cX0_allShown 44 = .ok (.invokestatic 211, 3) := dk_184 0 211 (dk_at dksX0_allShown_1 20 rfl rfl)
theorem dX0_allShown_47 : decode cX0_allShown 47 = .ok (.iadd, 1) := dk_96 (dk_at dksX0_allShown_1 23 rfl rfl)
theorem dX0_allShown_48 : decode cX0_allShown 48 = .ok (.istore_n 2, 1) := dk_61 (dk_at dksX0_allShown_2 0 rfl rfl)
theorem dX0_allShown_49 : decode cX0_allShown 49 = .ok (.iinc 5 1, 3) := dk_132 5 1 (dk_at dksX0_allShown_2 1 rfl rfl)
theorem dX0_allShown_52 : decode cX0_allShown 52 = .ok (.goto (-25), 3) := dk_167 255 231 (dk_at dksX0_allShown_2 4 rfl rfl)
theorem dX0_allShown_55 : decode cX0_allShown 55 = .ok (.iload_n 2, 1) := dk_28 (dk_at dksX0_allShown_2 7 rfl rfl)
theorem dX0_allShown_56 : decode cX0_allShown 56 = .ok (.ireturn, 1) := dk_172 (dk_at dksX0_allShown_2 8 rfl rfl)
abbrev cX0_canBe : ByteArray := prog_1_method_41_code
def yX0_canBe : MethodName := ⟨RX0, "canBe", "()I"⟩
def dkwX0_canBe_0 : List UInt8 := [42, 180, 0, 31, 182, 1, 19, 184, 0, 245, 172]
abbrev dktX0_canBe_0 : List UInt8 := dkwX0_canBe_0 ++ []
theorem dksX0_canBe_0 : cX0_canBe.data.toList.drop 0 = dktX0_canBe_0 := by decide +kernel
theorem dX0_canBe_0 : decode cX0_canBe 0 = .ok (.aload_n 0, 1) := dk_42 (dk_at dksX0_canBe_0 0 rfl rfl)
theorem dX0_canBe_1 : decode cX0_canBe 1 = .ok (.getfield 31, 3) := dk_180 0 31 (dk_at dksX0_canBe_0 1 rfl rfl)
theorem dX0_canBe_4 : decode cX0_canBe 4 = .ok (.invokevirtual 275, 3) := dk_182 1 19 (dk_at dksX0_canBe_0 4 rfl rfl)
theorem dX0_canBe_7 : decode cX0_canBe 7 = .ok (.invokestatic 245, 3) := dk_184 0 245 (dk_at dksX0_canBe_0 7 rfl rfl)
theorem dX0_canBe_10 : decode cX0_canBe 10 = .ok (.ireturn, 1) := dk_172 (dk_at dksX0_canBe_0 10 rfl rfl)
abbrev cX0_shows : ByteArray := prog_1_method_43_code
def yX0_shows : MethodName := ⟨RX0, "shows", "(II)I"⟩
def dkwX0_shows_1 : List UInt8 := [16, 251, 167, 0, 12, 42, 27, 28, 184, 0, 96, 182, 1, 23, 172]
abbrev dktX0_shows_1 : List UInt8 := dkwX0_shows_1 ++ []
def dkwX0_shows_0 : List UInt8 := [27, 28, 184, 0, 84, 62, 29, 156, 0, 7, 29, 167, 0, 27, 42, 180, 0, 31, 180, 0, 80, 154, 0, 8]
abbrev dktX0_shows_0 : List UInt8 := dkwX0_shows_0 ++ dktX0_shows_1
theorem dksX0_shows_0 : cX0_shows.data.toList.drop 0 = dktX0_shows_0 := by decide +kernel
theorem dksX0_shows_1 : cX0_shows.data.toList.drop 24 = dktX0_shows_1 := dk_seg dksX0_shows_0 24 rfl rfl
theorem dX0_shows_0 : decode cX0_shows 0 = .ok (.iload_n 1, 1) := dk_27 (dk_at dksX0_shows_0 0 rfl rfl)
theorem dX0_shows_1 : decode cX0_shows 1 = .ok (.iload_n 2, 1) := dk_28 (dk_at dksX0_shows_0 1 rfl rfl)
theorem dX0_shows_2 : decode cX0_shows 2 = .ok (.invokestatic 84, 3) := dk_184 0 84 (dk_at dksX0_shows_0 2 rfl rfl)
theorem dX0_shows_5 : decode cX0_shows 5 = .ok (.istore_n 3, 1) := dk_62 (dk_at dksX0_shows_0 5 rfl rfl)
theorem dX0_shows_6 : decode cX0_shows 6 = .ok (.iload_n 3, 1) := dk_29 (dk_at dksX0_shows_0 6 rfl rfl)
theorem dX0_shows_7 : decode cX0_shows 7 = .ok (.ifCond .ge 7, 3) := dk_156 0 7 (dk_at dksX0_shows_0 7 rfl rfl)
theorem dX0_shows_10 : decode cX0_shows 10 = .ok (.iload_n 3, 1) := dk_29 (dk_at dksX0_shows_0 10 rfl rfl)
theorem dX0_shows_11 : decode cX0_shows 11 = .ok (.goto 27, 3) := dk_167 0 27 (dk_at dksX0_shows_0 11 rfl rfl)
theorem dX0_shows_14 : decode cX0_shows 14 = .ok (.aload_n 0, 1) := dk_42 (dk_at dksX0_shows_0 14 rfl rfl)
theorem dX0_shows_15 : decode cX0_shows 15 = .ok (.getfield 31, 3) := dk_180 0 31 (dk_at dksX0_shows_0 15 rfl rfl)
theorem dX0_shows_18 : decode cX0_shows 18 = .ok (.getfield 80, 3) := dk_180 0 80 (dk_at dksX0_shows_0 18 rfl rfl)
theorem dX0_shows_21 : decode cX0_shows 21 = .ok (.ifCond .ne 8, 3) := dk_154 0 8 (dk_at dksX0_shows_0 21 rfl rfl)
theorem dX0_shows_24 : decode cX0_shows 24 = .ok (.bipush (-5), 2) := dk_16 251 (dk_at dksX0_shows_1 0 rfl rfl)
theorem dX0_shows_26 : decode cX0_shows 26 = .ok (.goto 12, 3) := dk_167 0 12 (dk_at dksX0_shows_1 2 rfl rfl)
theorem dX0_shows_29 : decode cX0_shows 29 = .ok (.aload_n 0, 1) := dk_42 (dk_at dksX0_shows_1 5 rfl rfl)
theorem dX0_shows_30 : decode cX0_shows 30 = .ok (.iload_n 1, 1) := dk_27 (dk_at dksX0_shows_1 6 rfl rfl)
theorem dX0_shows_31 : decode cX0_shows 31 = .ok (.iload_n 2, 1) := dk_28 (dk_at dksX0_shows_1 7 rfl rfl)
theorem dX0_shows_32 : decode cX0_shows 32 = .ok (.invokestatic 96, 3) := dk_184 0 96 (dk_at dksX0_shows_1 8 rfl rfl)
theorem dX0_shows_35 : decode cX0_shows 35 = .ok (.invokevirtual 279, 3) := dk_182 1 23 (dk_at dksX0_shows_1 11 rfl rfl)
theorem dX0_shows_38 : decode cX0_shows 38 = .ok (.ireturn, 1) := dk_172 (dk_at dksX0_shows_1 14 rfl rfl)
abbrev cX0_showsRoad : ByteArray := prog_1_method_42_code
def yX0_showsRoad : MethodName := ⟨RX0, "showsRoad", "(I)I"⟩
def dkwX0_showsRoad_1 : List UInt8 := [184, 0, 156, 100, 172]
abbrev dktX0_showsRoad_1 : List UInt8 := dkwX0_showsRoad_1 ++ []
def dkwX0_showsRoad_0 : List UInt8 := [3, 42, 180, 0, 31, 27, 182, 0, 152, 184, 0, 156, 3, 42, 180, 0, 31, 16, 250, 182, 0, 152]
abbrev dktX0_showsRoad_0 : List UInt8 := dkwX0_showsRoad_0 ++ dktX0_showsRoad_1
theorem dksX0_showsRoad_0 : cX0_showsRoad.data.toList.drop 0 = dktX0_showsRoad_0 := by decide +kernel
theorem dksX0_showsRoad_1 : cX0_showsRoad.data.toList.drop 22 = dktX0_showsRoad_1 := dk_seg dksX0_showsRoad_0 22 rfl rfl
theorem dX0_showsRoad_0 : decode cX0_showsRoad 0 = .ok (.iconst 0, 1) := dk_3 (dk_at dksX0_showsRoad_0 0 rfl rfl)
theorem dX0_showsRoad_1 : decode cX0_showsRoad 1 = .ok (.aload_n 0, 1) := dk_42 (dk_at dksX0_showsRoad_0 1 rfl rfl)
theorem dX0_showsRoad_2 : decode cX0_showsRoad 2 = .ok (.getfield 31, 3) := dk_180 0 31 (dk_at dksX0_showsRoad_0 2 rfl rfl)
theorem dX0_showsRoad_5 : decode cX0_showsRoad 5 = .ok (.iload_n 1, 1) := dk_27 (dk_at dksX0_showsRoad_0 5 rfl rfl)
theorem dX0_showsRoad_6 : decode cX0_showsRoad 6 = .ok (.invokevirtual 152, 3) := dk_182 0 152 (dk_at dksX0_showsRoad_0 6 rfl rfl)
theorem dX0_showsRoad_9 : decode cX0_showsRoad 9 = .ok (.invokestatic 156, 3) := dk_184 0 156 (dk_at dksX0_showsRoad_0 9 rfl rfl)
theorem dX0_showsRoad_12 : decode cX0_showsRoad 12 = .ok (.iconst 0, 1) := dk_3 (dk_at dksX0_showsRoad_0 12 rfl rfl)
theorem dX0_showsRoad_13 : decode cX0_showsRoad 13 = .ok (.aload_n 0, 1) := dk_42 (dk_at dksX0_showsRoad_0 13 rfl rfl)
theorem dX0_showsRoad_14 : decode cX0_showsRoad 14 = .ok (.getfield 31, 3) := dk_180 0 31 (dk_at dksX0_showsRoad_0 14 rfl rfl)
theorem dX0_showsRoad_17 : decode cX0_showsRoad 17 = .ok (.bipush (-6), 2) := dk_16 250 (dk_at dksX0_showsRoad_0 17 rfl rfl)
theorem dX0_showsRoad_19 : decode cX0_showsRoad 19 = .ok (.invokevirtual 152, 3) := dk_182 0 152 (dk_at dksX0_showsRoad_0 19 rfl rfl)
theorem dX0_showsRoad_22 : decode cX0_showsRoad 22 = .ok (.invokestatic 156, 3) := dk_184 0 156 (dk_at dksX0_showsRoad_1 0 rfl rfl)
theorem dX0_showsRoad_25 : decode cX0_showsRoad 25 = .ok (.isub, 1) := dk_100 (dk_at dksX0_showsRoad_1 3 rfl rfl)
theorem dX0_showsRoad_26 : decode cX0_showsRoad 26 = .ok (.ireturn, 1) := dk_172 (dk_at dksX0_showsRoad_1 4 rfl rfl)
abbrev cX0_bestShow : ByteArray := prog_1_method_44_code
def yX0_bestShow : MethodName := ⟨RX0, "bestShow", "(I)I"⟩
def dkwX0_bestShow_3 : List UInt8 := [167, 255, 218, 28, 155, 0, 7, 27, 154, 0, 7, 28, 167, 0, 4, 29, 172]
abbrev dktX0_bestShow_3 : List UInt8 := dkwX0_bestShow_3 ++ []
def dkwX0_bestShow_2 : List UInt8 := [21, 5, 29, 164, 0, 8, 21, 4, 167, 0, 4, 28, 61, 29, 21, 5, 184, 0, 13, 62, 132, 4, 1]
abbrev dktX0_bestShow_2 : List UInt8 := dkwX0_bestShow_2 ++ dktX0_bestShow_3
def dkwX0_bestShow_1 : List UInt8 := [172, 16, 250, 61, 3, 62, 3, 54, 4, 21, 4, 16, 28, 162, 0, 37, 42, 21, 4, 182, 1, 23, 54, 5]
abbrev dktX0_bestShow_1 : List UInt8 := dkwX0_bestShow_1 ++ dktX0_bestShow_2
def dkwX0_bestShow_0 : List UInt8 := [27, 3, 4, 184, 0, 3, 154, 0, 6, 16, 254, 172, 42, 180, 0, 31, 180, 0, 80, 154, 0, 6, 16, 251]
abbrev dktX0_bestShow_0 : List UInt8 := dkwX0_bestShow_0 ++ dktX0_bestShow_1
theorem dksX0_bestShow_0 : cX0_bestShow.data.toList.drop 0 = dktX0_bestShow_0 := by decide +kernel
theorem dksX0_bestShow_1 : cX0_bestShow.data.toList.drop 24 = dktX0_bestShow_1 := dk_seg dksX0_bestShow_0 24 rfl rfl
theorem dksX0_bestShow_2 : cX0_bestShow.data.toList.drop 48 = dktX0_bestShow_2 := dk_seg dksX0_bestShow_1 24 rfl rfl
theorem dksX0_bestShow_3 : cX0_bestShow.data.toList.drop 71 = dktX0_bestShow_3 := dk_seg dksX0_bestShow_2 23 rfl rfl
theorem dX0_bestShow_0 : decode cX0_bestShow 0 = .ok (.iload_n 1, 1) := dk_27 (dk_at dksX0_bestShow_0 0 rfl rfl)
theorem dX0_bestShow_1 : decode cX0_bestShow 1 = .ok (.iconst 0, 1) := dk_3 (dk_at dksX0_bestShow_0 1 rfl rfl)
theorem dX0_bestShow_2 : decode cX0_bestShow 2 = .ok (.iconst 1, 1) := dk_4 (dk_at dksX0_bestShow_0 2 rfl rfl)
theorem dX0_bestShow_3 : decode cX0_bestShow 3 = .ok (.invokestatic 3, 3) := dk_184 0 3 (dk_at dksX0_bestShow_0 3 rfl rfl)
theorem dX0_bestShow_6 : decode cX0_bestShow 6 = .ok (.ifCond .ne 6, 3) := dk_154 0 6 (dk_at dksX0_bestShow_0 6 rfl rfl)
theorem dX0_bestShow_9 : decode cX0_bestShow 9 = .ok (.bipush (-2), 2) := dk_16 254 (dk_at dksX0_bestShow_0 9 rfl rfl)
theorem dX0_bestShow_11 : decode cX0_bestShow 11 = .ok (.ireturn, 1) := dk_172 (dk_at dksX0_bestShow_0 11 rfl rfl)
theorem dX0_bestShow_12 : decode cX0_bestShow 12 = .ok (.aload_n 0, 1) := dk_42 (dk_at dksX0_bestShow_0 12 rfl rfl)
theorem dX0_bestShow_13 : decode cX0_bestShow 13 = .ok (.getfield 31, 3) := dk_180 0 31 (dk_at dksX0_bestShow_0 13 rfl rfl)
theorem dX0_bestShow_16 : decode cX0_bestShow 16 = .ok (.getfield 80, 3) := dk_180 0 80 (dk_at dksX0_bestShow_0 16 rfl rfl)
theorem dX0_bestShow_19 : decode cX0_bestShow 19 = .ok (.ifCond .ne 6, 3) := dk_154 0 6 (dk_at dksX0_bestShow_0 19 rfl rfl)
theorem dX0_bestShow_22 : decode cX0_bestShow 22 = .ok (.bipush (-5), 2) := dk_16 251 (dk_at dksX0_bestShow_0 22 rfl rfl)
theorem dX0_bestShow_24 : decode cX0_bestShow 24 = .ok (.ireturn, 1) := dk_172 (dk_at dksX0_bestShow_1 0 rfl rfl)
theorem dX0_bestShow_25 : decode cX0_bestShow 25 = .ok (.bipush (-6), 2) := dk_16 250 (dk_at dksX0_bestShow_1 1 rfl rfl)
theorem dX0_bestShow_27 : decode cX0_bestShow 27 = .ok (.istore_n 2, 1) := dk_61 (dk_at dksX0_bestShow_1 3 rfl rfl)
theorem dX0_bestShow_28 : decode cX0_bestShow 28 = .ok (.iconst 0, 1) := dk_3 (dk_at dksX0_bestShow_1 4 rfl rfl)
theorem dX0_bestShow_29 : decode cX0_bestShow 29 = .ok (.istore_n 3, 1) := dk_62 (dk_at dksX0_bestShow_1 5 rfl rfl)
theorem dX0_bestShow_30 : decode cX0_bestShow 30 = .ok (.iconst 0, 1) := dk_3 (dk_at dksX0_bestShow_1 6 rfl rfl)
theorem dX0_bestShow_31 : decode cX0_bestShow 31 = .ok (.istore 4, 2) := dk_54 4 (dk_at dksX0_bestShow_1 7 rfl rfl)
theorem dX0_bestShow_33 : decode cX0_bestShow 33 = .ok (.iload 4, 2) := dk_21 4 (dk_at dksX0_bestShow_1 9 rfl rfl)
theorem dX0_bestShow_35 : decode cX0_bestShow 35 = .ok (.bipush 28, 2) := dk_16 28 (dk_at dksX0_bestShow_1 11 rfl rfl)
theorem dX0_bestShow_37 : decode cX0_bestShow 37 = .ok (.if_icmp .ge 37, 3) := dk_162 0 37 (dk_at dksX0_bestShow_1 13 rfl rfl)
theorem dX0_bestShow_40 : decode cX0_bestShow 40 = .ok (.aload_n 0, 1) := dk_42 (dk_at dksX0_bestShow_1 16 rfl rfl)
theorem dX0_bestShow_41 : decode cX0_bestShow 41 = .ok (.iload 4, 2) := dk_21 4 (dk_at dksX0_bestShow_1 17 rfl rfl)
theorem dX0_bestShow_43 : decode cX0_bestShow 43 = .ok (.invokevirtual 279, 3) := dk_182 1 23 (dk_at dksX0_bestShow_1 19 rfl rfl)
theorem dX0_bestShow_46 : decode cX0_bestShow 46 = .ok (.istore 5, 2) := dk_54 5 (dk_at dksX0_bestShow_1 22 rfl rfl)
theorem dX0_bestShow_48 : decode cX0_bestShow 48 = .ok (.iload 5, 2) := dk_21 5 (dk_at dksX0_bestShow_2 0 rfl rfl)
theorem dX0_bestShow_50 : decode cX0_bestShow 50 = .ok (.iload_n 3, 1) := dk_29 (dk_at dksX0_bestShow_2 2 rfl rfl)
theorem dX0_bestShow_51 : decode cX0_bestShow 51 = .ok (.if_icmp .le 8, 3) := dk_164 0 8 (dk_at dksX0_bestShow_2 3 rfl rfl)
theorem dX0_bestShow_54 : decode cX0_bestShow 54 = .ok (.iload 4, 2) := dk_21 4 (dk_at dksX0_bestShow_2 6 rfl rfl)
theorem dX0_bestShow_56 : decode cX0_bestShow 56 = .ok (.goto 4, 3) := dk_167 0 4 (dk_at dksX0_bestShow_2 8 rfl rfl)
theorem dX0_bestShow_59 : decode cX0_bestShow 59 = .ok (.iload_n 2, 1) := dk_28 (dk_at dksX0_bestShow_2 11 rfl rfl)
theorem dX0_bestShow_60 : decode cX0_bestShow 60 = .ok (.istore_n 2, 1) := dk_61 (dk_at dksX0_bestShow_2 12 rfl rfl)
theorem dX0_bestShow_61 : decode cX0_bestShow 61 = .ok (.iload_n 3, 1) := dk_29 (dk_at dksX0_bestShow_2 13 rfl rfl)
theorem dX0_bestShow_62 : decode cX0_bestShow 62 = .ok (.iload 5, 2) := dk_21 5 (dk_at dksX0_bestShow_2 14 rfl rfl)
theorem dX0_bestShow_64 : decode cX0_bestShow 64 = .ok (.invokestatic 13, 3) := dk_184 0 13 (dk_at dksX0_bestShow_2 16 rfl rfl)
theorem dX0_bestShow_67 : decode cX0_bestShow 67 = .ok (.istore_n 3, 1) := dk_62 (dk_at dksX0_bestShow_2 19 rfl rfl)
theorem dX0_bestShow_68 : decode cX0_bestShow 68 = .ok (.iinc 4 1, 3) := dk_132 4 1 (dk_at dksX0_bestShow_2 20 rfl rfl)
theorem dX0_bestShow_71 : decode cX0_bestShow 71 = .ok (.goto (-38), 3) := dk_167 255 218 (dk_at dksX0_bestShow_3 0 rfl rfl)
theorem dX0_bestShow_74 : decode cX0_bestShow 74 = .ok (.iload_n 2, 1) := dk_28 (dk_at dksX0_bestShow_3 3 rfl rfl)
theorem dX0_bestShow_75 : decode cX0_bestShow 75 = .ok (.ifCond .lt 7, 3) := dk_155 0 7 (dk_at dksX0_bestShow_3 4 rfl rfl)
theorem dX0_bestShow_78 : decode cX0_bestShow 78 = .ok (.iload_n 1, 1) := dk_27 (dk_at dksX0_bestShow_3 7 rfl rfl)
theorem dX0_bestShow_79 : decode cX0_bestShow 79 = .ok (.ifCond .ne 7, 3) := dk_154 0 7 (dk_at dksX0_bestShow_3 8 rfl rfl)
theorem dX0_bestShow_82 : decode cX0_bestShow 82 = .ok (.iload_n 2, 1) := dk_28 (dk_at dksX0_bestShow_3 11 rfl rfl)
theorem dX0_bestShow_83 : decode cX0_bestShow 83 = .ok (.goto 4, 3) := dk_167 0 4 (dk_at dksX0_bestShow_3 12 rfl rfl)
theorem dX0_bestShow_86 : decode cX0_bestShow 86 = .ok (.iload_n 3, 1) := dk_29 (dk_at dksX0_bestShow_3 15 rfl rfl)
theorem dX0_bestShow_87 : decode cX0_bestShow 87 = .ok (.ireturn, 1) := dk_172 (dk_at dksX0_bestShow_3 16 rfl rfl)
abbrev cX0_knownWay : ByteArray := prog_1_method_45_code
def yX0_knownWay : MethodName := ⟨RX0, "knownWay", "(II)I"⟩
def dkwX0_knownWay_1 : List UInt8 := [167, 0, 4, 2, 172]
abbrev dktX0_knownWay_1 : List UInt8 := dkwX0_knownWay_1 ++ []
def dkwX0_knownWay_0 : List UInt8 := [27, 184, 0, 76, 153, 0, 22, 28, 184, 0, 76, 153, 0, 15, 42, 180, 0, 31, 27, 28, 182, 1, 26]
abbrev dktX0_knownWay_0 : List UInt8 := dkwX0_knownWay_0 ++ dktX0_knownWay_1
theorem dksX0_knownWay_0 : cX0_knownWay.data.toList.drop 0 = dktX0_knownWay_0 := by decide +kernel
theorem dksX0_knownWay_1 : cX0_knownWay.data.toList.drop 23 = dktX0_knownWay_1 := dk_seg dksX0_knownWay_0 23 rfl rfl
theorem dX0_knownWay_0 : decode cX0_knownWay 0 = .ok (.iload_n 1, 1) := dk_27 (dk_at dksX0_knownWay_0 0 rfl rfl)
theorem dX0_knownWay_1 : decode cX0_knownWay 1 = .ok (.invokestatic 76, 3) := dk_184 0 76 (dk_at dksX0_knownWay_0 1 rfl rfl)
theorem dX0_knownWay_4 : decode cX0_knownWay 4 = .ok (.ifCond .eq 22, 3) := dk_153 0 22 (dk_at dksX0_knownWay_0 4 rfl rfl)
theorem dX0_knownWay_7 : decode cX0_knownWay 7 = .ok (.iload_n 2, 1) := dk_28 (dk_at dksX0_knownWay_0 7 rfl rfl)
theorem dX0_knownWay_8 : decode cX0_knownWay 8 = .ok (.invokestatic 76, 3) := dk_184 0 76 (dk_at dksX0_knownWay_0 8 rfl rfl)
theorem dX0_knownWay_11 : decode cX0_knownWay 11 = .ok (.ifCond .eq 15, 3) := dk_153 0 15 (dk_at dksX0_knownWay_0 11 rfl rfl)
theorem dX0_knownWay_14 : decode cX0_knownWay 14 = .ok (.aload_n 0, 1) := dk_42 (dk_at dksX0_knownWay_0 14 rfl rfl)
theorem dX0_knownWay_15 : decode cX0_knownWay 15 = .ok (.getfield 31, 3) := dk_180 0 31 (dk_at dksX0_knownWay_0 15 rfl rfl)
theorem dX0_knownWay_18 : decode cX0_knownWay 18 = .ok (.iload_n 1, 1) := dk_27 (dk_at dksX0_knownWay_0 18 rfl rfl)
theorem dX0_knownWay_19 : decode cX0_knownWay 19 = .ok (.iload_n 2, 1) := dk_28 (dk_at dksX0_knownWay_0 19 rfl rfl)
theorem dX0_knownWay_20 : decode cX0_knownWay 20 = .ok (.invokevirtual 282, 3) := dk_182 1 26 (dk_at dksX0_knownWay_0 20 rfl rfl)
theorem dX0_knownWay_23 : decode cX0_knownWay 23 = .ok (.goto 4, 3) := dk_167 0 4 (dk_at dksX0_knownWay_1 0 rfl rfl)
theorem dX0_knownWay_26 : decode cX0_knownWay 26 = .ok (.iconst (-1), 1) := dk_2 (dk_at dksX0_knownWay_1 3 rfl rfl)
theorem dX0_knownWay_27 : decode cX0_knownWay 27 = .ok (.ireturn, 1) := dk_172 (dk_at dksX0_knownWay_1 4 rfl rfl)
abbrev cX0_put : ByteArray := prog_1_method_46_code
def yX0_put : MethodName := ⟨RX0, "put", "(J)I"⟩
def dkwX0_put_5 : List UInt8 := [132, 6, 255, 167, 255, 227, 42, 180, 0, 51, 182, 1, 16, 172]
abbrev dktX0_put_5 : List UInt8 := dkwX0_put_5 ++ []
def dkwX0_put_4 : List UInt8 := [155, 0, 30, 42, 180, 0, 51, 31, 16, 8, 21, 6, 104, 123, 20, 1, 29, 127, 136, 146, 182, 1, 31, 87]
abbrev dktX0_put_4 : List UInt8 := dkwX0_put_4 ++ dktX0_put_5
def dkwX0_put_3 : List UInt8 := [180, 0, 51, 182, 1, 16, 29, 96, 16, 80, 164, 0, 6, 16, 252, 172, 29, 4, 100, 54, 6, 21, 6]
abbrev dktX0_put_3 : List UInt8 := dkwX0_put_3 ++ dktX0_put_4
def dkwX0_put_2 : List UInt8 := [16, 8, 125, 55, 4, 167, 255, 209, 29, 153, 0, 10, 22, 4, 9, 148, 153, 0, 6, 16, 254, 172, 42]
abbrev dktX0_put_2 : List UInt8 := dkwX0_put_2 ++ dktX0_put_3
def dkwX0_put_1 : List UInt8 := [20, 1, 29, 127, 136, 16, 33, 16, 126, 184, 0, 3, 154, 0, 6, 16, 254, 172, 132, 3, 1, 22, 4]
abbrev dktX0_put_1 : List UInt8 := dkwX0_put_1 ++ dktX0_put_2
def dkwX0_put_0 : List UInt8 := [3, 62, 31, 55, 4, 29, 16, 8, 162, 0, 47, 22, 4, 20, 1, 29, 127, 9, 148, 153, 0, 36, 22, 4]
abbrev dktX0_put_0 : List UInt8 := dkwX0_put_0 ++ dktX0_put_1
theorem dksX0_put_0 : cX0_put.data.toList.drop 0 = dktX0_put_0 := by decide +kernel
theorem dksX0_put_1 : cX0_put.data.toList.drop 24 = dktX0_put_1 := dk_seg dksX0_put_0 24 rfl rfl
theorem dksX0_put_2 : cX0_put.data.toList.drop 47 = dktX0_put_2 := dk_seg dksX0_put_1 23 rfl rfl
theorem dksX0_put_3 : cX0_put.data.toList.drop 70 = dktX0_put_3 := dk_seg dksX0_put_2 23 rfl rfl
theorem dksX0_put_4 : cX0_put.data.toList.drop 93 = dktX0_put_4 := dk_seg dksX0_put_3 23 rfl rfl
theorem dksX0_put_5 : cX0_put.data.toList.drop 117 = dktX0_put_5 := dk_seg dksX0_put_4 24 rfl rfl
theorem dX0_put_0 : decode cX0_put 0 = .ok (.iconst 0, 1) := dk_3 (dk_at dksX0_put_0 0 rfl rfl)
theorem dX0_put_1 : decode cX0_put 1 = .ok (.istore_n 3, 1) := dk_62 (dk_at dksX0_put_0 1 rfl rfl)
theorem dX0_put_2 : decode cX0_put 2 = .ok (.lload_n 1, 1) := dk_31 (dk_at dksX0_put_0 2 rfl rfl)
theorem dX0_put_3 : decode cX0_put 3 = .ok (.lstore 4, 2) := dk_55 4 (dk_at dksX0_put_0 3 rfl rfl)
theorem dX0_put_5 : decode cX0_put 5 = .ok (.iload_n 3, 1) := dk_29 (dk_at dksX0_put_0 5 rfl rfl)
theorem dX0_put_6 : decode cX0_put 6 = .ok (.bipush 8, 2) := dk_16 8 (dk_at dksX0_put_0 6 rfl rfl)
theorem dX0_put_8 : decode cX0_put 8 = .ok (.if_icmp .ge 47, 3) := dk_162 0 47 (dk_at dksX0_put_0 8 rfl rfl)
theorem dX0_put_11 : decode cX0_put 11 = .ok (.lload 4, 2) := dk_22 4 (dk_at dksX0_put_0 11 rfl rfl)
theorem dX0_put_13 : decode cX0_put 13 = .ok (.ldc2_w 285, 3) := dk_20 1 29 (dk_at dksX0_put_0 13 rfl rfl)
theorem dX0_put_16 : decode cX0_put 16 = .ok (.land, 1) := dk_127 (dk_at dksX0_put_0 16 rfl rfl)
theorem dX0_put_17 : decode cX0_put 17 = .ok (.lconst 0, 1) := dk_9 (dk_at dksX0_put_0 17 rfl rfl)
theorem dX0_put_18 : decode cX0_put 18 = .ok (.lcmp, 1) := dk_148 (dk_at dksX0_put_0 18 rfl rfl)
theorem dX0_put_19 : decode cX0_put 19 = .ok (.ifCond .eq 36, 3) := dk_153 0 36 (dk_at dksX0_put_0 19 rfl rfl)
theorem dX0_put_22 : decode cX0_put 22 = .ok (.lload 4, 2) := dk_22 4 (dk_at dksX0_put_0 22 rfl rfl)
theorem dX0_put_24 : decode cX0_put 24 = .ok (.ldc2_w 285, 3) := dk_20 1 29 (dk_at dksX0_put_1 0 rfl rfl)
theorem dX0_put_27 : decode cX0_put 27 = .ok (.land, 1) := dk_127 (dk_at dksX0_put_1 3 rfl rfl)
theorem dX0_put_28 : decode cX0_put 28 = .ok (.l2i, 1) := dk_136 (dk_at dksX0_put_1 4 rfl rfl)
theorem dX0_put_29 : decode cX0_put 29 = .ok (.bipush 33, 2) := dk_16 33 (dk_at dksX0_put_1 5 rfl rfl)
theorem dX0_put_31 : decode cX0_put 31 = .ok (.bipush 126, 2) := dk_16 126 (dk_at dksX0_put_1 7 rfl rfl)
theorem dX0_put_33 : decode cX0_put 33 = .ok (.invokestatic 3, 3) := dk_184 0 3 (dk_at dksX0_put_1 9 rfl rfl)
theorem dX0_put_36 : decode cX0_put 36 = .ok (.ifCond .ne 6, 3) := dk_154 0 6 (dk_at dksX0_put_1 12 rfl rfl)
theorem dX0_put_39 : decode cX0_put 39 = .ok (.bipush (-2), 2) := dk_16 254 (dk_at dksX0_put_1 15 rfl rfl)
theorem dX0_put_41 : decode cX0_put 41 = .ok (.ireturn, 1) := dk_172 (dk_at dksX0_put_1 17 rfl rfl)
theorem dX0_put_42 : decode cX0_put 42 = .ok (.iinc 3 1, 3) := dk_132 3 1 (dk_at dksX0_put_1 18 rfl rfl)
theorem dX0_put_45 : decode cX0_put 45 = .ok (.lload 4, 2) := dk_22 4 (dk_at dksX0_put_1 21 rfl rfl)
theorem dX0_put_47 : decode cX0_put 47 = .ok (.bipush 8, 2) := dk_16 8 (dk_at dksX0_put_2 0 rfl rfl)
theorem dX0_put_49 : decode cX0_put 49 = .ok (.lushr, 1) := dk_125 (dk_at dksX0_put_2 2 rfl rfl)
theorem dX0_put_50 : decode cX0_put 50 = .ok (.lstore 4, 2) := dk_55 4 (dk_at dksX0_put_2 3 rfl rfl)
theorem dX0_put_52 : decode cX0_put 52 = .ok (.goto (-47), 3) := dk_167 255 209 (dk_at dksX0_put_2 5 rfl rfl)
theorem dX0_put_55 : decode cX0_put 55 = .ok (.iload_n 3, 1) := dk_29 (dk_at dksX0_put_2 8 rfl rfl)
theorem dX0_put_56 : decode cX0_put 56 = .ok (.ifCond .eq 10, 3) := dk_153 0 10 (dk_at dksX0_put_2 9 rfl rfl)
theorem dX0_put_59 : decode cX0_put 59 = .ok (.lload 4, 2) := dk_22 4 (dk_at dksX0_put_2 12 rfl rfl)
theorem dX0_put_61 : decode cX0_put 61 = .ok (.lconst 0, 1) := dk_9 (dk_at dksX0_put_2 14 rfl rfl)
theorem dX0_put_62 : decode cX0_put 62 = .ok (.lcmp, 1) := dk_148 (dk_at dksX0_put_2 15 rfl rfl)
theorem dX0_put_63 : decode cX0_put 63 = .ok (.ifCond .eq 6, 3) := dk_153 0 6 (dk_at dksX0_put_2 16 rfl rfl)
theorem dX0_put_66 : decode cX0_put 66 = .ok (.bipush (-2), 2) := dk_16 254 (dk_at dksX0_put_2 19 rfl rfl)
theorem dX0_put_68 : decode cX0_put 68 = .ok (.ireturn, 1) := dk_172 (dk_at dksX0_put_2 21 rfl rfl)
theorem dX0_put_69 : decode cX0_put 69 = .ok (.aload_n 0, 1) := dk_42 (dk_at dksX0_put_2 22 rfl rfl)
theorem dX0_put_70 : decode cX0_put 70 = .ok (.getfield 51, 3) := dk_180 0 51 (dk_at dksX0_put_3 0 rfl rfl)
theorem dX0_put_73 : decode cX0_put 73 = .ok (.invokevirtual 272, 3) := dk_182 1 16 (dk_at dksX0_put_3 3 rfl rfl)
theorem dX0_put_76 : decode cX0_put 76 = .ok (.iload_n 3, 1) := dk_29 (dk_at dksX0_put_3 6 rfl rfl)
theorem dX0_put_77 : decode cX0_put 77 = .ok (.iadd, 1) := dk_96 (dk_at dksX0_put_3 7 rfl rfl)
theorem dX0_put_78 : decode cX0_put 78 = .ok (.bipush 80, 2) := dk_16 80 (dk_at dksX0_put_3 8 rfl rfl)
theorem dX0_put_80 : decode cX0_put 80 = .ok (.if_icmp .le 6, 3) := dk_164 0 6 (dk_at dksX0_put_3 10 rfl rfl)
theorem dX0_put_83 : decode cX0_put 83 = .ok (.bipush (-4), 2) := dk_16 252 (dk_at dksX0_put_3 13 rfl rfl)
theorem dX0_put_85 : decode cX0_put 85 = .ok (.ireturn, 1) := dk_172 (dk_at dksX0_put_3 15 rfl rfl)
theorem dX0_put_86 : decode cX0_put 86 = .ok (.iload_n 3, 1) := dk_29 (dk_at dksX0_put_3 16 rfl rfl)
theorem dX0_put_87 : decode cX0_put 87 = .ok (.iconst 1, 1) := dk_4 (dk_at dksX0_put_3 17 rfl rfl)
theorem dX0_put_88 : decode cX0_put 88 = .ok (.isub, 1) := dk_100 (dk_at dksX0_put_3 18 rfl rfl)
theorem dX0_put_89 : decode cX0_put 89 = .ok (.istore 6, 2) := dk_54 6 (dk_at dksX0_put_3 19 rfl rfl)
theorem dX0_put_91 : decode cX0_put 91 = .ok (.iload 6, 2) := dk_21 6 (dk_at dksX0_put_3 21 rfl rfl)
theorem dX0_put_93 : decode cX0_put 93 = .ok (.ifCond .lt 30, 3) := dk_155 0 30 (dk_at dksX0_put_4 0 rfl rfl)
theorem dX0_put_96 : decode cX0_put 96 = .ok (.aload_n 0, 1) := dk_42 (dk_at dksX0_put_4 3 rfl rfl)
theorem dX0_put_97 : decode cX0_put 97 = .ok (.getfield 51, 3) := dk_180 0 51 (dk_at dksX0_put_4 4 rfl rfl)
theorem dX0_put_100 : decode cX0_put 100 = .ok (.lload_n 1, 1) := dk_31 (dk_at dksX0_put_4 7 rfl rfl)
theorem dX0_put_101 : decode cX0_put 101 = .ok (.bipush 8, 2) := dk_16 8 (dk_at dksX0_put_4 8 rfl rfl)
theorem dX0_put_103 : decode cX0_put 103 = .ok (.iload 6, 2) := dk_21 6 (dk_at dksX0_put_4 10 rfl rfl)
theorem dX0_put_105 : decode cX0_put 105 = .ok (.imul, 1) := dk_104 (dk_at dksX0_put_4 12 rfl rfl)
theorem dX0_put_106 : decode cX0_put 106 = .ok (.lshr, 1) := dk_123 (dk_at dksX0_put_4 13 rfl rfl)
theorem dX0_put_107 : decode cX0_put 107 = .ok (.ldc2_w 285, 3) := dk_20 1 29 (dk_at dksX0_put_4 14 rfl rfl)
theorem dX0_put_110 : decode cX0_put 110 = .ok (.land, 1) := dk_127 (dk_at dksX0_put_4 17 rfl rfl)
theorem dX0_put_111 : decode cX0_put 111 = .ok (.l2i, 1) := dk_136 (dk_at dksX0_put_4 18 rfl rfl)
theorem dX0_put_112 : decode cX0_put 112 = .ok (.i2c, 1) := dk_146 (dk_at dksX0_put_4 19 rfl rfl)
theorem dX0_put_113 : decode cX0_put 113 = .ok (.invokevirtual 287, 3) := dk_182 1 31 (dk_at dksX0_put_4 20 rfl rfl)
theorem dX0_put_116 : decode cX0_put 116 = .ok (.pop, 1) := dk_87 (dk_at dksX0_put_4 23 rfl rfl)
theorem dX0_put_117 : decode cX0_put 117 = .ok (.iinc 6 (-1), 3) := dk_132 6 255 (dk_at dksX0_put_5 0 rfl rfl)
theorem dX0_put_120 : decode cX0_put 120 = .ok (.goto (-29), 3) := dk_167 255 227 (dk_at dksX0_put_5 3 rfl rfl)
theorem dX0_put_123 : decode cX0_put 123 = .ok (.aload_n 0, 1) := dk_42 (dk_at dksX0_put_5 6 rfl rfl)
theorem dX0_put_124 : decode cX0_put 124 = .ok (.getfield 51, 3) := dk_180 0 51 (dk_at dksX0_put_5 7 rfl rfl)
theorem dX0_put_127 : decode cX0_put 127 = .ok (.invokevirtual 272, 3) := dk_182 1 16 (dk_at dksX0_put_5 10 rfl rfl)
theorem dX0_put_130 : decode cX0_put 130 = .ok (.ireturn, 1) := dk_172 (dk_at dksX0_put_5 13 rfl rfl)
abbrev cX0_wipe : ByteArray := prog_1_method_47_code
def yX0_wipe : MethodName := ⟨RX0, "wipe", "()I"⟩
def dkwX0_wipe_0 : List UInt8 := [42, 180, 0, 51, 182, 1, 16, 60, 42, 180, 0, 51, 3, 182, 1, 35, 27, 172]
abbrev dktX0_wipe_0 : List UInt8 := dkwX0_wipe_0 ++ []
theorem dksX0_wipe_0 : cX0_wipe.data.toList.drop 0 = dktX0_wipe_0 := by decide +kernel
theorem dX0_wipe_0 : decode cX0_wipe 0 = .ok (.aload_n 0, 1) := dk_42 (dk_at dksX0_wipe_0 0 rfl rfl)
theorem dX0_wipe_1 : decode cX0_wipe 1 = .ok (.getfield 51, 3) := dk_180 0 51 (dk_at dksX0_wipe_0 1 rfl rfl)
theorem dX0_wipe_4 : decode cX0_wipe 4 = .ok (.invokevirtual 272, 3) := dk_182 1 16 (dk_at dksX0_wipe_0 4 rfl rfl)
theorem dX0_wipe_7 : decode cX0_wipe 7 = .ok (.istore_n 1, 1) := dk_60 (dk_at dksX0_wipe_0 7 rfl rfl)
theorem dX0_wipe_8 : decode cX0_wipe 8 = .ok (.aload_n 0, 1) := dk_42 (dk_at dksX0_wipe_0 8 rfl rfl)
theorem dX0_wipe_9 : decode cX0_wipe 9 = .ok (.getfield 51, 3) := dk_180 0 51 (dk_at dksX0_wipe_0 9 rfl rfl)
theorem dX0_wipe_12 : decode cX0_wipe 12 = .ok (.iconst 0, 1) := dk_3 (dk_at dksX0_wipe_0 12 rfl rfl)
theorem dX0_wipe_13 : decode cX0_wipe 13 = .ok (.invokevirtual 291, 3) := dk_182 1 35 (dk_at dksX0_wipe_0 13 rfl rfl)
theorem dX0_wipe_16 : decode cX0_wipe 16 = .ok (.iload_n 1, 1) := dk_27 (dk_at dksX0_wipe_0 16 rfl rfl)
theorem dX0_wipe_17 : decode cX0_wipe 17 = .ok (.ireturn, 1) := dk_172 (dk_at dksX0_wipe_0 17 rfl rfl)
abbrev cX0_fault : ByteArray := prog_1_method_48_code
def yX0_fault : MethodName := ⟨RX0, "fault", "()I"⟩
def dkwX0_fault_1 : List UInt8 := [16, 250, 172]
abbrev dktX0_fault_1 : List UInt8 := dkwX0_fault_1 ++ []
def dkwX0_fault_0 : List UInt8 := [187, 1, 38, 89, 42, 183, 1, 40, 76, 43, 180, 1, 43, 153, 0, 10, 43, 180, 1, 47, 167, 0, 5]
abbrev dktX0_fault_0 : List UInt8 := dkwX0_fault_0 ++ dktX0_fault_1
theorem dksX0_fault_0 : cX0_fault.data.toList.drop 0 = dktX0_fault_0 := by decide +kernel
theorem dksX0_fault_1 : cX0_fault.data.toList.drop 23 = dktX0_fault_1 := dk_seg dksX0_fault_0 23 rfl rfl
theorem dX0_fault_0 : decode cX0_fault 0 = .ok (.new 294, 3) := dk_187 1 38 (dk_at dksX0_fault_0 0 rfl rfl)
theorem dX0_fault_3 : decode cX0_fault 3 = .ok (.dup, 1) := dk_89 (dk_at dksX0_fault_0 3 rfl rfl)
theorem dX0_fault_4 : decode cX0_fault 4 = .ok (.aload_n 0, 1) := dk_42 (dk_at dksX0_fault_0 4 rfl rfl)
theorem dX0_fault_5 : decode cX0_fault 5 = .ok (.invokespecial 296, 3) := dk_183 1 40 (dk_at dksX0_fault_0 5 rfl rfl)
theorem dX0_fault_8 : decode cX0_fault 8 = .ok (.astore_n 1, 1) := dk_76 (dk_at dksX0_fault_0 8 rfl rfl)
theorem dX0_fault_9 : decode cX0_fault 9 = .ok (.aload_n 1, 1) := dk_43 (dk_at dksX0_fault_0 9 rfl rfl)
theorem dX0_fault_10 : decode cX0_fault 10 = .ok (.getfield 299, 3) := dk_180 1 43 (dk_at dksX0_fault_0 10 rfl rfl)
theorem dX0_fault_13 : decode cX0_fault 13 = .ok (.ifCond .eq 10, 3) := dk_153 0 10 (dk_at dksX0_fault_0 13 rfl rfl)
theorem dX0_fault_16 : decode cX0_fault 16 = .ok (.aload_n 1, 1) := dk_43 (dk_at dksX0_fault_0 16 rfl rfl)
theorem dX0_fault_17 : decode cX0_fault 17 = .ok (.getfield 303, 3) := dk_180 1 47 (dk_at dksX0_fault_0 17 rfl rfl)
theorem dX0_fault_20 : decode cX0_fault 20 = .ok (.goto 5, 3) := dk_167 0 5 (dk_at dksX0_fault_0 20 rfl rfl)
theorem dX0_fault_23 : decode cX0_fault 23 = .ok (.bipush (-6), 2) := dk_16 250 (dk_at dksX0_fault_1 0 rfl rfl)
theorem dX0_fault_25 : decode cX0_fault 25 = .ok (.ireturn, 1) := dk_172 (dk_at dksX0_fault_1 2 rfl rfl)
abbrev cX0_carryOut : ByteArray := prog_1_method_50_code
def yX0_carryOut : MethodName := ⟨RX0, "carryOut", "()I"⟩
def dkwX0_carryOut_3 : List UInt8 := [28, 172]
abbrev dktX0_carryOut_3 : List UInt8 := dkwX0_carryOut_3 ++ []
def dkwX0_carryOut_2 : List UInt8 := [180, 1, 83, 28, 185, 1, 90, 2, 0, 192, 1, 51, 182, 1, 91, 155, 0, 9, 132, 2, 1, 167, 255, 220]
abbrev dktX0_carryOut_2 : List UInt8 := dkwX0_carryOut_2 ++ dktX0_carryOut_3
def dkwX0_carryOut_1 : List UInt8 := [180, 0, 51, 3, 182, 1, 35, 3, 61, 28, 43, 180, 1, 83, 185, 1, 87, 1, 0, 162, 0, 29, 42, 43]
abbrev dktX0_carryOut_1 : List UInt8 := dkwX0_carryOut_1 ++ dktX0_carryOut_2
def dkwX0_carryOut_0 : List UInt8 := [187, 1, 38, 89, 42, 183, 1, 40, 76, 43, 180, 1, 43, 153, 0, 6, 16, 253, 172, 42, 182, 0, 73, 42]
abbrev dktX0_carryOut_0 : List UInt8 := dkwX0_carryOut_0 ++ dktX0_carryOut_1
theorem dksX0_carryOut_0 : cX0_carryOut.data.toList.drop 0 = dktX0_carryOut_0 := by decide +kernel
theorem dksX0_carryOut_1 : cX0_carryOut.data.toList.drop 24 = dktX0_carryOut_1 := dk_seg dksX0_carryOut_0 24 rfl rfl
theorem dksX0_carryOut_2 : cX0_carryOut.data.toList.drop 48 = dktX0_carryOut_2 := dk_seg dksX0_carryOut_1 24 rfl rfl
theorem dksX0_carryOut_3 : cX0_carryOut.data.toList.drop 72 = dktX0_carryOut_3 := dk_seg dksX0_carryOut_2 24 rfl rfl
theorem dX0_carryOut_0 : decode cX0_carryOut 0 = .ok (.new 294, 3) := dk_187 1 38 (dk_at dksX0_carryOut_0 0 rfl rfl)
theorem dX0_carryOut_3 : decode cX0_carryOut 3 = .ok (.dup, 1) := dk_89 (dk_at dksX0_carryOut_0 3 rfl rfl)
theorem dX0_carryOut_4 : decode cX0_carryOut 4 = .ok (.aload_n 0, 1) := dk_42 (dk_at dksX0_carryOut_0 4 rfl rfl)
theorem dX0_carryOut_5 : decode cX0_carryOut 5 = .ok (.invokespecial 296, 3) := dk_183 1 40 (dk_at dksX0_carryOut_0 5 rfl rfl)
theorem dX0_carryOut_8 : decode cX0_carryOut 8 = .ok (.astore_n 1, 1) := dk_76 (dk_at dksX0_carryOut_0 8 rfl rfl)
theorem dX0_carryOut_9 : decode cX0_carryOut 9 = .ok (.aload_n 1, 1) := dk_43 (dk_at dksX0_carryOut_0 9 rfl rfl)
theorem dX0_carryOut_10 : decode cX0_carryOut 10 = .ok (.getfield 299, 3) := dk_180 1 43 (dk_at dksX0_carryOut_0 10 rfl rfl)
theorem dX0_carryOut_13 : decode cX0_carryOut 13 = .ok (.ifCond .eq 6, 3) := dk_153 0 6 (dk_at dksX0_carryOut_0 13 rfl rfl)
theorem dX0_carryOut_16 : decode cX0_carryOut 16 = .ok (.bipush (-3), 2) := dk_16 253 (dk_at dksX0_carryOut_0 16 rfl rfl)
theorem dX0_carryOut_18 : decode cX0_carryOut 18 = .ok (.ireturn, 1) := dk_172 (dk_at dksX0_carryOut_0 18 rfl rfl)
theorem dX0_carryOut_19 : decode cX0_carryOut 19 = .ok (.aload_n 0, 1) := dk_42 (dk_at dksX0_carryOut_0 19 rfl rfl)
theorem dX0_carryOut_20 : decode cX0_carryOut 20 = .ok (.invokevirtual 73, 3) := dk_182 0 73 (dk_at dksX0_carryOut_0 20 rfl rfl)
theorem dX0_carryOut_23 : decode cX0_carryOut 23 = .ok (.aload_n 0, 1) := dk_42 (dk_at dksX0_carryOut_0 23 rfl rfl)
theorem dX0_carryOut_24 : decode cX0_carryOut 24 = .ok (.getfield 51, 3) := dk_180 0 51 (dk_at dksX0_carryOut_1 0 rfl rfl)
theorem dX0_carryOut_27 : decode cX0_carryOut 27 = .ok (.iconst 0, 1) := dk_3 (dk_at dksX0_carryOut_1 3 rfl rfl)
theorem dX0_carryOut_28 : decode cX0_carryOut 28 = .ok (.invokevirtual 291, 3) := dk_182 1 35 (dk_at dksX0_carryOut_1 4 rfl rfl)
theorem dX0_carryOut_31 : decode cX0_carryOut 31 = .ok (.iconst 0, 1) := dk_3 (dk_at dksX0_carryOut_1 7 rfl rfl)
theorem dX0_carryOut_32 : decode cX0_carryOut 32 = .ok (.istore_n 2, 1) := dk_61 (dk_at dksX0_carryOut_1 8 rfl rfl)
theorem dX0_carryOut_33 : decode cX0_carryOut 33 = .ok (.iload_n 2, 1) := dk_28 (dk_at dksX0_carryOut_1 9 rfl rfl)
theorem dX0_carryOut_34 : decode cX0_carryOut 34 = .ok (.aload_n 1, 1) := dk_43 (dk_at dksX0_carryOut_1 10 rfl rfl)
theorem dX0_carryOut_35 : decode cX0_carryOut 35 = .ok (.getfield 339, 3) := dk_180 1 83 (dk_at dksX0_carryOut_1 11 rfl rfl)
theorem dX0_carryOut_38 : decode cX0_carryOut 38 = .ok (.invokeinterface 343 1, 5) := by decide +kernel
theorem dX0_carryOut_43 : decode cX0_carryOut 43 = .ok (.if_icmp .ge 29, 3) := dk_162 0 29 (dk_at dksX0_carryOut_1 19 rfl rfl)
theorem dX0_carryOut_46 : decode cX0_carryOut 46 = .ok (.aload_n 0, 1) := dk_42 (dk_at dksX0_carryOut_1 22 rfl rfl)
theorem dX0_carryOut_47 : decode cX0_carryOut 47 = .ok (.aload_n 1, 1) := dk_43 (dk_at dksX0_carryOut_1 23 rfl rfl)
theorem dX0_carryOut_48 : decode cX0_carryOut 48 = .ok (.getfield 339, 3) := dk_180 1 83 (dk_at dksX0_carryOut_2 0 rfl rfl)
theorem dX0_carryOut_51 : decode cX0_carryOut 51 = .ok (.iload_n 2, 1) := dk_28 (dk_at dksX0_carryOut_2 3 rfl rfl)
theorem dX0_carryOut_52 : decode cX0_carryOut 52 = .ok (.invokeinterface 346 2, 5) := by decide +kernel
theorem dX0_carryOut_57 : decode cX0_carryOut 57 = .ok (.checkcast 307, 3) := dk_192 1 51 (dk_at dksX0_carryOut_2 9 rfl rfl)
theorem dX0_carryOut_60 : decode cX0_carryOut 60 = .ok (.invokevirtual 347, 3) := dk_182 1 91 (dk_at dksX0_carryOut_2 12 rfl rfl)
theorem dX0_carryOut_63 : decode cX0_carryOut 63 = .ok (.ifCond .lt 9, 3) := dk_155 0 9 (dk_at dksX0_carryOut_2 15 rfl rfl)
theorem dX0_carryOut_66 : decode cX0_carryOut 66 = .ok (.iinc 2 1, 3) := dk_132 2 1 (dk_at dksX0_carryOut_2 18 rfl rfl)
theorem dX0_carryOut_69 : decode cX0_carryOut 69 = .ok (.goto (-36), 3) := dk_167 255 220 (dk_at dksX0_carryOut_2 21 rfl rfl)
theorem dX0_carryOut_72 : decode cX0_carryOut 72 = .ok (.iload_n 2, 1) := dk_28 (dk_at dksX0_carryOut_3 0 rfl rfl)
theorem dX0_carryOut_73 : decode cX0_carryOut 73 = .ok (.ireturn, 1) := dk_172 (dk_at dksX0_carryOut_3 1 rfl rfl)
abbrev cX0_doIt : ByteArray := prog_1_method_49_code
def yX0_doIt : MethodName := ⟨RX0, "doIt", "(LLiarMaps$Order;)I"⟩
def dkwX0_doIt_12 : List UInt8 := [180, 1, 76, 3, 182, 0, 190, 167, 0, 8, 42, 3, 182, 0, 196, 172]
abbrev dktX0_doIt_12 : List UInt8 := dkwX0_doIt_12 ++ []
def dkwX0_doIt_11 : List UInt8 := [42, 3, 43, 180, 1, 80, 43, 180, 1, 76, 43, 180, 1, 77, 182, 0, 181, 167, 0, 20, 42, 43]
abbrev dktX0_doIt_11 : List UInt8 := dkwX0_doIt_11 ++ dktX0_doIt_12
def dkwX0_doIt_10 : List UInt8 := [4, 182, 0, 171, 167, 0, 57, 42, 3, 43, 180, 1, 76, 43, 180, 1, 77, 3, 182, 0, 171, 167, 0, 40]
abbrev dktX0_doIt_10 : List UInt8 := dkwX0_doIt_10 ++ dktX0_doIt_11
def dkwX0_doIt_9 : List UInt8 := [182, 0, 149, 167, 0, 82, 42, 3, 182, 0, 160, 167, 0, 74, 42, 3, 43, 180, 1, 76, 43, 180, 1, 77]
abbrev dktX0_doIt_9 : List UInt8 := dkwX0_doIt_9 ++ dktX0_doIt_10
def dkwX0_doIt_8 : List UInt8 := [42, 43, 180, 1, 76, 43, 180, 1, 77, 3, 182, 0, 142, 167, 0, 94, 42, 43, 180, 1, 76, 3]
abbrev dktX0_doIt_8 : List UInt8 := dkwX0_doIt_8 ++ dktX0_doIt_9
def dkwX0_doIt_7 : List UInt8 := [170, 0, 0, 0, 0, 0, 0, 146, 0, 0, 0, 0, 0, 0, 0, 6, 0, 0, 0, 44, 0, 0, 0, 60, 0, 0, 0, 72, 0, 0, 0, 80, 0, 0, 0, 97, 0, 0, 0, 114, 0, 0, 0, 134]
abbrev dktX0_doIt_7 : List UInt8 := dkwX0_doIt_7 ++ dktX0_doIt_8
def dkwX0_doIt_6 : List UInt8 := [182, 1, 63, 153, 0, 6, 16, 6, 62, 29]
abbrev dktX0_doIt_6 : List UInt8 := dkwX0_doIt_6 ++ dktX0_doIt_7
def dkwX0_doIt_5 : List UInt8 := [7, 62, 167, 0, 31, 44, 19, 1, 74, 182, 1, 63, 153, 0, 21, 8, 62, 167, 0, 16, 44, 19, 1, 75]
abbrev dktX0_doIt_5 : List UInt8 := dkwX0_doIt_5 ++ dktX0_doIt_6
def dkwX0_doIt_4 : List UInt8 := [19, 1, 70, 182, 1, 63, 153, 0, 51, 6, 62, 167, 0, 46, 44, 19, 1, 72, 182, 1, 63, 153, 0, 36]
abbrev dktX0_doIt_4 : List UInt8 := dkwX0_doIt_4 ++ dktX0_doIt_5
def dkwX0_doIt_3 : List UInt8 := [153, 0, 81, 4, 62, 167, 0, 76, 44, 19, 1, 68, 182, 1, 63, 153, 0, 66, 5, 62, 167, 0, 61, 44]
abbrev dktX0_doIt_3 : List UInt8 := dkwX0_doIt_3 ++ dktX0_doIt_4
def dkwX0_doIt_2 : List UInt8 := [44, 19, 1, 61, 182, 1, 63, 153, 0, 96, 3, 62, 167, 0, 91, 44, 19, 1, 67, 182, 1, 63]
abbrev dktX0_doIt_2 : List UInt8 := dkwX0_doIt_2 ++ dktX0_doIt_3
def dkwX0_doIt_1 : List UInt8 := [171, 0, 0, 0, 168, 0, 0, 0, 7, 0, 1, 132, 130, 0, 0, 0, 155, 0, 1, 170, 211, 0, 0, 0, 125, 0, 53, 127, 32, 0, 0, 0, 65, 5, 148, 120, 169, 0, 0, 0, 95, 5, 163, 229, 8, 0, 0, 0, 140, 6, 147, 118, 100, 0, 0, 0, 110, 82, 117, 34, 175, 0, 0, 0, 80]
abbrev dktX0_doIt_1 : List UInt8 := dkwX0_doIt_1 ++ dktX0_doIt_2
def dkwX0_doIt_0 : List UInt8 := [43, 180, 1, 50, 77, 2, 62, 44, 182, 1, 56]
abbrev dktX0_doIt_0 : List UInt8 := dkwX0_doIt_0 ++ dktX0_doIt_1
theorem dksX0_doIt_0 : cX0_doIt.data.toList.drop 0 = dktX0_doIt_0 := by decide +kernel
theorem dksX0_doIt_1 : cX0_doIt.data.toList.drop 11 = dktX0_doIt_1 := dk_seg dksX0_doIt_0 11 rfl rfl
theorem dksX0_doIt_2 : cX0_doIt.data.toList.drop 76 = dktX0_doIt_2 := dk_seg dksX0_doIt_1 65 rfl rfl
theorem dksX0_doIt_3 : cX0_doIt.data.toList.drop 98 = dktX0_doIt_3 := dk_seg dksX0_doIt_2 22 rfl rfl
theorem dksX0_doIt_4 : cX0_doIt.data.toList.drop 122 = dktX0_doIt_4 := dk_seg dksX0_doIt_3 24 rfl rfl
theorem dksX0_doIt_5 : cX0_doIt.data.toList.drop 146 = dktX0_doIt_5 := dk_seg dksX0_doIt_4 24 rfl rfl
theorem dksX0_doIt_6 : cX0_doIt.data.toList.drop 170 = dktX0_doIt_6 := dk_seg dksX0_doIt_5 24 rfl rfl
theorem dksX0_doIt_7 : cX0_doIt.data.toList.drop 180 = dktX0_doIt_7 := dk_seg dksX0_doIt_6 10 rfl rfl
theorem dksX0_doIt_8 : cX0_doIt.data.toList.drop 224 = dktX0_doIt_8 := dk_seg dksX0_doIt_7 44 rfl rfl
theorem dksX0_doIt_9 : cX0_doIt.data.toList.drop 246 = dktX0_doIt_9 := dk_seg dksX0_doIt_8 22 rfl rfl
theorem dksX0_doIt_10 : cX0_doIt.data.toList.drop 270 = dktX0_doIt_10 := dk_seg dksX0_doIt_9 24 rfl rfl
theorem dksX0_doIt_11 : cX0_doIt.data.toList.drop 294 = dktX0_doIt_11 := dk_seg dksX0_doIt_10 24 rfl rfl
theorem dksX0_doIt_12 : cX0_doIt.data.toList.drop 316 = dktX0_doIt_12 := dk_seg dksX0_doIt_11 22 rfl rfl
theorem dX0_doIt_0 : decode cX0_doIt 0 = .ok (.aload_n 1, 1) := dk_43 (dk_at dksX0_doIt_0 0 rfl rfl)
theorem dX0_doIt_1 : decode cX0_doIt 1 = .ok (.getfield 306, 3) := dk_180 1 50 (dk_at dksX0_doIt_0 1 rfl rfl)
theorem dX0_doIt_4 : decode cX0_doIt 4 = .ok (.astore_n 2, 1) := dk_77 (dk_at dksX0_doIt_0 4 rfl rfl)
theorem dX0_doIt_5 : decode cX0_doIt 5 = .ok (.iconst (-1), 1) := dk_2 (dk_at dksX0_doIt_0 5 rfl rfl)
theorem dX0_doIt_6 : decode cX0_doIt 6 = .ok (.istore_n 3, 1) := dk_62 (dk_at dksX0_doIt_0 6 rfl rfl)
theorem dX0_doIt_7 : decode cX0_doIt 7 = .ok (.aload_n 2, 1) := dk_44 (dk_at dksX0_doIt_0 7 rfl rfl)
theorem dX0_doIt_8 : decode cX0_doIt 8 = .ok (.invokevirtual 312, 3) := dk_182 1 56 (dk_at dksX0_doIt_0 8 rfl rfl)
theorem dX0_doIt_11 : decode cX0_doIt 11 = .ok (.lookupswitch 168 #[(99458, 155), (109267, 125), (3505952, 65), (93616297, 95), (94627080, 140), (110327396, 110), (1383408303, 80)], 65) := by decide +kernel
theorem dX0_doIt_76 : decode cX0_doIt 76 = .ok (.aload_n 2, 1) := dk_44 (dk_at dksX0_doIt_2 0 rfl rfl)
theorem dX0_doIt_77 : decode cX0_doIt 77 = .ok (.ldc_w 317, 3) := dk_19 1 61 (dk_at dksX0_doIt_2 1 rfl rfl)
theorem dX0_doIt_80 : decode cX0_doIt 80 = .ok (.invokevirtual 319, 3) := dk_182 1 63 (dk_at dksX0_doIt_2 4 rfl rfl)
theorem dX0_doIt_83 : decode cX0_doIt 83 = .ok (.ifCond .eq 96, 3) := dk_153 0 96 (dk_at dksX0_doIt_2 7 rfl rfl)
theorem dX0_doIt_86 : decode cX0_doIt 86 = .ok (.iconst 0, 1) := dk_3 (dk_at dksX0_doIt_2 10 rfl rfl)
theorem dX0_doIt_87 : decode cX0_doIt 87 = .ok (.istore_n 3, 1) := dk_62 (dk_at dksX0_doIt_2 11 rfl rfl)
theorem dX0_doIt_88 : decode cX0_doIt 88 = .ok (.goto 91, 3) := dk_167 0 91 (dk_at dksX0_doIt_2 12 rfl rfl)
theorem dX0_doIt_91 : decode cX0_doIt 91 = .ok (.aload_n 2, 1) := dk_44 (dk_at dksX0_doIt_2 15 rfl rfl)
theorem dX0_doIt_92 : decode cX0_doIt 92 = .ok (.ldc_w 323, 3) := dk_19 1 67 (dk_at dksX0_doIt_2 16 rfl rfl)
theorem dX0_doIt_95 : decode cX0_doIt 95 = .ok (.invokevirtual 319, 3) := dk_182 1 63 (dk_at dksX0_doIt_2 19 rfl rfl)
theorem dX0_doIt_98 : decode cX0_doIt 98 = .ok (.ifCond .eq 81, 3) := dk_153 0 81 (dk_at dksX0_doIt_3 0 rfl rfl)
theorem dX0_doIt_101 : decode cX0_doIt 101 = .ok (.iconst 1, 1) := dk_4 (dk_at dksX0_doIt_3 3 rfl rfl)
theorem dX0_doIt_102 : decode cX0_doIt 102 = .ok (.istore_n 3, 1) := dk_62 (dk_at dksX0_doIt_3 4 rfl rfl)
theorem dX0_doIt_103 : decode cX0_doIt 103 = .ok (.goto 76, 3) := dk_167 0 76 (dk_at dksX0_doIt_3 5 rfl rfl)
theorem dX0_doIt_106 : decode cX0_doIt 106 = .ok (.aload_n 2, 1) := dk_44 (dk_at dksX0_doIt_3 8 rfl rfl)
theorem dX0_doIt_107 : decode cX0_doIt 107 = .ok (.ldc_w 324, 3) := dk_19 1 68 (dk_at dksX0_doIt_3 9 rfl rfl)
theorem dX0_doIt_110 : decode cX0_doIt 110 = .ok (.invokevirtual 319, 3) := dk_182 1 63 (dk_at dksX0_doIt_3 12 rfl rfl)
theorem dX0_doIt_113 : decode cX0_doIt 113 = .ok (.ifCond .eq 66, 3) := dk_153 0 66 (dk_at dksX0_doIt_3 15 rfl rfl)
theorem dX0_doIt_116 : decode cX0_doIt 116 = .ok (.iconst 2, 1) := dk_5 (dk_at dksX0_doIt_3 18 rfl rfl)
theorem dX0_doIt_117 : decode cX0_doIt 117 = .ok (.istore_n 3, 1) := dk_62 (dk_at dksX0_doIt_3 19 rfl rfl)
theorem dX0_doIt_118 : decode cX0_doIt 118 = .ok (.goto 61, 3) := dk_167 0 61 (dk_at dksX0_doIt_3 20 rfl rfl)
theorem dX0_doIt_121 : decode cX0_doIt 121 = .ok (.aload_n 2, 1) := dk_44 (dk_at dksX0_doIt_3 23 rfl rfl)
theorem dX0_doIt_122 : decode cX0_doIt 122 = .ok (.ldc_w 326, 3) := dk_19 1 70 (dk_at dksX0_doIt_4 0 rfl rfl)
theorem dX0_doIt_125 : decode cX0_doIt 125 = .ok (.invokevirtual 319, 3) := dk_182 1 63 (dk_at dksX0_doIt_4 3 rfl rfl)
theorem dX0_doIt_128 : decode cX0_doIt 128 = .ok (.ifCond .eq 51, 3) := dk_153 0 51 (dk_at dksX0_doIt_4 6 rfl rfl)
theorem dX0_doIt_131 : decode cX0_doIt 131 = .ok (.iconst 3, 1) := dk_6 (dk_at dksX0_doIt_4 9 rfl rfl)
theorem dX0_doIt_132 : decode cX0_doIt 132 = .ok (.istore_n 3, 1) := dk_62 (dk_at dksX0_doIt_4 10 rfl rfl)
theorem dX0_doIt_133 : decode cX0_doIt 133 = .ok (.goto 46, 3) := dk_167 0 46 (dk_at dksX0_doIt_4 11 rfl rfl)
theorem dX0_doIt_136 : decode cX0_doIt 136 = .ok (.aload_n 2, 1) := dk_44 (dk_at dksX0_doIt_4 14 rfl rfl)
theorem dX0_doIt_137 : decode cX0_doIt 137 = .ok (.ldc_w 328, 3) := dk_19 1 72 (dk_at dksX0_doIt_4 15 rfl rfl)
theorem dX0_doIt_140 : decode cX0_doIt 140 = .ok (.invokevirtual 319, 3) := dk_182 1 63 (dk_at dksX0_doIt_4 18 rfl rfl)
theorem dX0_doIt_143 : decode cX0_doIt 143 = .ok (.ifCond .eq 36, 3) := dk_153 0 36 (dk_at dksX0_doIt_4 21 rfl rfl)
theorem dX0_doIt_146 : decode cX0_doIt 146 = .ok (.iconst 4, 1) := dk_7 (dk_at dksX0_doIt_5 0 rfl rfl)
theorem dX0_doIt_147 : decode cX0_doIt 147 = .ok (.istore_n 3, 1) := dk_62 (dk_at dksX0_doIt_5 1 rfl rfl)
theorem dX0_doIt_148 : decode cX0_doIt 148 = .ok (.goto 31, 3) := dk_167 0 31 (dk_at dksX0_doIt_5 2 rfl rfl)
theorem dX0_doIt_151 : decode cX0_doIt 151 = .ok (.aload_n 2, 1) := dk_44 (dk_at dksX0_doIt_5 5 rfl rfl)
theorem dX0_doIt_152 : decode cX0_doIt 152 = .ok (.ldc_w 330, 3) := dk_19 1 74 (dk_at dksX0_doIt_5 6 rfl rfl)
theorem dX0_doIt_155 : decode cX0_doIt 155 = .ok (.invokevirtual 319, 3) := dk_182 1 63 (dk_at dksX0_doIt_5 9 rfl rfl)
theorem dX0_doIt_158 : decode cX0_doIt 158 = .ok (.ifCond .eq 21, 3) := dk_153 0 21 (dk_at dksX0_doIt_5 12 rfl rfl)
theorem dX0_doIt_161 : decode cX0_doIt 161 = .ok (.iconst 5, 1) := dk_8 (dk_at dksX0_doIt_5 15 rfl rfl)
theorem dX0_doIt_162 : decode cX0_doIt 162 = .ok (.istore_n 3, 1) := dk_62 (dk_at dksX0_doIt_5 16 rfl rfl)
theorem dX0_doIt_163 : decode cX0_doIt 163 = .ok (.goto 16, 3) := dk_167 0 16 (dk_at dksX0_doIt_5 17 rfl rfl)
theorem dX0_doIt_166 : decode cX0_doIt 166 = .ok (.aload_n 2, 1) := dk_44 (dk_at dksX0_doIt_5 20 rfl rfl)
theorem dX0_doIt_167 : decode cX0_doIt 167 = .ok (.ldc_w 331, 3) := dk_19 1 75 (dk_at dksX0_doIt_5 21 rfl rfl)
theorem dX0_doIt_170 : decode cX0_doIt 170 = .ok (.invokevirtual 319, 3) := dk_182 1 63 (dk_at dksX0_doIt_6 0 rfl rfl)
theorem dX0_doIt_173 : decode cX0_doIt 173 = .ok (.ifCond .eq 6, 3) := dk_153 0 6 (dk_at dksX0_doIt_6 3 rfl rfl)
theorem dX0_doIt_176 : decode cX0_doIt 176 = .ok (.bipush 6, 2) := dk_16 6 (dk_at dksX0_doIt_6 6 rfl rfl)
theorem dX0_doIt_178 : decode cX0_doIt 178 = .ok (.istore_n 3, 1) := dk_62 (dk_at dksX0_doIt_6 8 rfl rfl)
theorem dX0_doIt_179 : decode cX0_doIt 179 = .ok (.iload_n 3, 1) := dk_29 (dk_at dksX0_doIt_6 9 rfl rfl)
theorem dX0_doIt_180 : decode cX0_doIt 180 = .ok (.tableswitch 146 0 6 #[44, 60, 72, 80, 97, 114, 134], 44) := by decide +kernel
theorem dX0_doIt_224 : decode cX0_doIt 224 = .ok (.aload_n 0, 1) := dk_42 (dk_at dksX0_doIt_8 0 rfl rfl)
theorem dX0_doIt_225 : decode cX0_doIt 225 = .ok (.aload_n 1, 1) := dk_43 (dk_at dksX0_doIt_8 1 rfl rfl)
theorem dX0_doIt_226 : decode cX0_doIt 226 = .ok (.getfield 332, 3) := dk_180 1 76 (dk_at dksX0_doIt_8 2 rfl rfl)
theorem dX0_doIt_229 : decode cX0_doIt 229 = .ok (.aload_n 1, 1) := dk_43 (dk_at dksX0_doIt_8 5 rfl rfl)
theorem dX0_doIt_230 : decode cX0_doIt 230 = .ok (.getfield 333, 3) := dk_180 1 77 (dk_at dksX0_doIt_8 6 rfl rfl)
theorem dX0_doIt_233 : decode cX0_doIt 233 = .ok (.iconst 0, 1) := dk_3 (dk_at dksX0_doIt_8 9 rfl rfl)
theorem dX0_doIt_234 : decode cX0_doIt 234 = .ok (.invokevirtual 142, 3) := dk_182 0 142 (dk_at dksX0_doIt_8 10 rfl rfl)
theorem dX0_doIt_237 : decode cX0_doIt 237 = .ok (.goto 94, 3) := dk_167 0 94 (dk_at dksX0_doIt_8 13 rfl rfl)
theorem dX0_doIt_240 : decode cX0_doIt 240 = .ok (.aload_n 0, 1) := dk_42 (dk_at dksX0_doIt_8 16 rfl rfl)
theorem dX0_doIt_241 : decode cX0_doIt 241 = .ok (.aload_n 1, 1) := dk_43 (dk_at dksX0_doIt_8 17 rfl rfl)
theorem dX0_doIt_242 : decode cX0_doIt 242 = .ok (.getfield 332, 3) := dk_180 1 76 (dk_at dksX0_doIt_8 18 rfl rfl)
theorem dX0_doIt_245 : decode cX0_doIt 245 = .ok (.iconst 0, 1) := dk_3 (dk_at dksX0_doIt_8 21 rfl rfl)
theorem dX0_doIt_246 : decode cX0_doIt 246 = .ok (.invokevirtual 149, 3) := dk_182 0 149 (dk_at dksX0_doIt_9 0 rfl rfl)
theorem dX0_doIt_249 : decode cX0_doIt 249 = .ok (.goto 82, 3) := dk_167 0 82 (dk_at dksX0_doIt_9 3 rfl rfl)
theorem dX0_doIt_252 : decode cX0_doIt 252 = .ok (.aload_n 0, 1) := dk_42 (dk_at dksX0_doIt_9 6 rfl rfl)
theorem dX0_doIt_253 : decode cX0_doIt 253 = .ok (.iconst 0, 1) := dk_3 (dk_at dksX0_doIt_9 7 rfl rfl)
theorem dX0_doIt_254 : decode cX0_doIt 254 = .ok (.invokevirtual 160, 3) := dk_182 0 160 (dk_at dksX0_doIt_9 8 rfl rfl)
theorem dX0_doIt_257 : decode cX0_doIt 257 = .ok (.goto 74, 3) := dk_167 0 74 (dk_at dksX0_doIt_9 11 rfl rfl)
theorem dX0_doIt_260 : decode cX0_doIt 260 = .ok (.aload_n 0, 1) := dk_42 (dk_at dksX0_doIt_9 14 rfl rfl)
theorem dX0_doIt_261 : decode cX0_doIt 261 = .ok (.iconst 0, 1) := dk_3 (dk_at dksX0_doIt_9 15 rfl rfl)
theorem dX0_doIt_262 : decode cX0_doIt 262 = .ok (.aload_n 1, 1) := dk_43 (dk_at dksX0_doIt_9 16 rfl rfl)
theorem dX0_doIt_263 : decode cX0_doIt 263 = .ok (.getfield 332, 3) := dk_180 1 76 (dk_at dksX0_doIt_9 17 rfl rfl)
theorem dX0_doIt_266 : decode cX0_doIt 266 = .ok (.aload_n 1, 1) := dk_43 (dk_at dksX0_doIt_9 20 rfl rfl)
theorem dX0_doIt_267 : decode cX0_doIt 267 = .ok (.getfield 333, 3) := dk_180 1 77 (dk_at dksX0_doIt_9 21 rfl rfl)
theorem dX0_doIt_270 : decode cX0_doIt 270 = .ok (.iconst 1, 1) := dk_4 (dk_at dksX0_doIt_10 0 rfl rfl)
theorem dX0_doIt_271 : decode cX0_doIt 271 = .ok (.invokevirtual 171, 3) := dk_182 0 171 (dk_at dksX0_doIt_10 1 rfl rfl)
theorem dX0_doIt_274 : decode cX0_doIt 274 = .ok (.goto 57, 3) := dk_167 0 57 (dk_at dksX0_doIt_10 4 rfl rfl)
theorem dX0_doIt_277 : decode cX0_doIt 277 = .ok (.aload_n 0, 1) := dk_42 (dk_at dksX0_doIt_10 7 rfl rfl)
theorem dX0_doIt_278 : decode cX0_doIt 278 = .ok (.iconst 0, 1) := dk_3 (dk_at dksX0_doIt_10 8 rfl rfl)
theorem dX0_doIt_279 : decode cX0_doIt 279 = .ok (.aload_n 1, 1) := dk_43 (dk_at dksX0_doIt_10 9 rfl rfl)
theorem dX0_doIt_280 : decode cX0_doIt 280 = .ok (.getfield 332, 3) := dk_180 1 76 (dk_at dksX0_doIt_10 10 rfl rfl)
theorem dX0_doIt_283 : decode cX0_doIt 283 = .ok (.aload_n 1, 1) := dk_43 (dk_at dksX0_doIt_10 13 rfl rfl)
theorem dX0_doIt_284 : decode cX0_doIt 284 = .ok (.getfield 333, 3) := dk_180 1 77 (dk_at dksX0_doIt_10 14 rfl rfl)
theorem dX0_doIt_287 : decode cX0_doIt 287 = .ok (.iconst 0, 1) := dk_3 (dk_at dksX0_doIt_10 17 rfl rfl)
theorem dX0_doIt_288 : decode cX0_doIt 288 = .ok (.invokevirtual 171, 3) := dk_182 0 171 (dk_at dksX0_doIt_10 18 rfl rfl)
theorem dX0_doIt_291 : decode cX0_doIt 291 = .ok (.goto 40, 3) := dk_167 0 40 (dk_at dksX0_doIt_10 21 rfl rfl)
theorem dX0_doIt_294 : decode cX0_doIt 294 = .ok (.aload_n 0, 1) := dk_42 (dk_at dksX0_doIt_11 0 rfl rfl)
theorem dX0_doIt_295 : decode cX0_doIt 295 = .ok (.iconst 0, 1) := dk_3 (dk_at dksX0_doIt_11 1 rfl rfl)
theorem dX0_doIt_296 : decode cX0_doIt 296 = .ok (.aload_n 1, 1) := dk_43 (dk_at dksX0_doIt_11 2 rfl rfl)
theorem dX0_doIt_297 : decode cX0_doIt 297 = .ok (.getfield 336, 3) := dk_180 1 80 (dk_at dksX0_doIt_11 3 rfl rfl)
theorem dX0_doIt_300 : decode cX0_doIt 300 = .ok (.aload_n 1, 1) := dk_43 (dk_at dksX0_doIt_11 6 rfl rfl)
theorem dX0_doIt_301 : decode cX0_doIt 301 = .ok (.getfield 332, 3) := dk_180 1 76 (dk_at dksX0_doIt_11 7 rfl rfl)
theorem dX0_doIt_304 : decode cX0_doIt 304 = .ok (.aload_n 1, 1) := dk_43 (dk_at dksX0_doIt_11 10 rfl rfl)
theorem dX0_doIt_305 : decode cX0_doIt 305 = .ok (.getfield 333, 3) := dk_180 1 77 (dk_at dksX0_doIt_11 11 rfl rfl)
theorem dX0_doIt_308 : decode cX0_doIt 308 = .ok (.invokevirtual 181, 3) := dk_182 0 181 (dk_at dksX0_doIt_11 14 rfl rfl)
theorem dX0_doIt_311 : decode cX0_doIt 311 = .ok (.goto 20, 3) := dk_167 0 20 (dk_at dksX0_doIt_11 17 rfl rfl)
theorem dX0_doIt_314 : decode cX0_doIt 314 = .ok (.aload_n 0, 1) := dk_42 (dk_at dksX0_doIt_11 20 rfl rfl)
theorem dX0_doIt_315 : decode cX0_doIt 315 = .ok (.aload_n 1, 1) := dk_43 (dk_at dksX0_doIt_11 21 rfl rfl)
theorem dX0_doIt_316 : decode cX0_doIt 316 = .ok (.getfield 332, 3) := dk_180 1 76 (dk_at dksX0_doIt_12 0 rfl rfl)
theorem dX0_doIt_319 : decode cX0_doIt 319 = .ok (.iconst 0, 1) := dk_3 (dk_at dksX0_doIt_12 3 rfl rfl)
theorem dX0_doIt_320 : decode cX0_doIt 320 = .ok (.invokevirtual 190, 3) := dk_182 0 190 (dk_at dksX0_doIt_12 4 rfl rfl)
theorem dX0_doIt_323 : decode cX0_doIt 323 = .ok (.goto 8, 3) := dk_167 0 8 (dk_at dksX0_doIt_12 7 rfl rfl)
theorem dX0_doIt_326 : decode cX0_doIt 326 = .ok (.aload_n 0, 1) := dk_42 (dk_at dksX0_doIt_12 10 rfl rfl)
theorem dX0_doIt_327 : decode cX0_doIt 327 = .ok (.iconst 0, 1) := dk_3 (dk_at dksX0_doIt_12 11 rfl rfl)
theorem dX0_doIt_328 : decode cX0_doIt 328 = .ok (.invokevirtual 196, 3) := dk_182 0 196 (dk_at dksX0_doIt_12 12 rfl rfl)
theorem dX0_doIt_331 : decode cX0_doIt 331 = .ok (.ireturn, 1) := dk_172 (dk_at dksX0_doIt_12 15 rfl rfl)
abbrev cX0_undo : ByteArray := prog_1_method_51_code
def yX0_undo : MethodName := ⟨RX0, "undo", "()I"⟩
def dkwX0_undo_1 : List UInt8 := [185, 1, 99, 1, 0, 192, 0, 28, 181, 0, 31, 42, 180, 0, 40, 185, 0, 55, 1, 0, 172]
abbrev dktX0_undo_1 : List UInt8 := dkwX0_undo_1 ++ []
def dkwX0_undo_0 : List UInt8 := [42, 180, 0, 40, 185, 1, 95, 1, 0, 153, 0, 6, 16, 251, 172, 42, 42, 180, 0, 40]
abbrev dktX0_undo_0 : List UInt8 := dkwX0_undo_0 ++ dktX0_undo_1
theorem dksX0_undo_0 : cX0_undo.data.toList.drop 0 = dktX0_undo_0 := by decide +kernel
theorem dksX0_undo_1 : cX0_undo.data.toList.drop 20 = dktX0_undo_1 := dk_seg dksX0_undo_0 20 rfl rfl
theorem dX0_undo_0 : decode cX0_undo 0 = .ok (.aload_n 0, 1) := dk_42 (dk_at dksX0_undo_0 0 rfl rfl)
theorem dX0_undo_1 : decode cX0_undo 1 = .ok (.getfield 40, 3) := dk_180 0 40 (dk_at dksX0_undo_0 1 rfl rfl)
theorem dX0_undo_4 : decode cX0_undo 4 = .ok (.invokeinterface 351 1, 5) := by decide +kernel
theorem dX0_undo_9 : decode cX0_undo 9 = .ok (.ifCond .eq 6, 3) := dk_153 0 6 (dk_at dksX0_undo_0 9 rfl rfl)
theorem dX0_undo_12 : decode cX0_undo 12 = .ok (.bipush (-5), 2) := dk_16 251 (dk_at dksX0_undo_0 12 rfl rfl)
theorem dX0_undo_14 : decode cX0_undo 14 = .ok (.ireturn, 1) := dk_172 (dk_at dksX0_undo_0 14 rfl rfl)
theorem dX0_undo_15 : decode cX0_undo 15 = .ok (.aload_n 0, 1) := dk_42 (dk_at dksX0_undo_0 15 rfl rfl)
theorem dX0_undo_16 : decode cX0_undo 16 = .ok (.aload_n 0, 1) := dk_42 (dk_at dksX0_undo_0 16 rfl rfl)
theorem dX0_undo_17 : decode cX0_undo 17 = .ok (.getfield 40, 3) := dk_180 0 40 (dk_at dksX0_undo_0 17 rfl rfl)
theorem dX0_undo_20 : decode cX0_undo 20 = .ok (.invokeinterface 355 1, 5) := by decide +kernel
theorem dX0_undo_25 : decode cX0_undo 25 = .ok (.checkcast 28, 3) := dk_192 0 28 (dk_at dksX0_undo_1 5 rfl rfl)
theorem dX0_undo_28 : decode cX0_undo 28 = .ok (.putfield 31, 3) := dk_181 0 31 (dk_at dksX0_undo_1 8 rfl rfl)
theorem dX0_undo_31 : decode cX0_undo 31 = .ok (.aload_n 0, 1) := dk_42 (dk_at dksX0_undo_1 11 rfl rfl)
theorem dX0_undo_32 : decode cX0_undo 32 = .ok (.getfield 40, 3) := dk_180 0 40 (dk_at dksX0_undo_1 12 rfl rfl)
theorem dX0_undo_35 : decode cX0_undo 35 = .ok (.invokeinterface 55 1, 5) := by decide +kernel
theorem dX0_undo_40 : decode cX0_undo 40 = .ok (.ireturn, 1) := dk_172 (dk_at dksX0_undo_1 20 rfl rfl)
abbrev cX0_save : ByteArray := prog_1_method_52_code
def yX0_save : MethodName := ⟨RX0, "save", "(I)I"⟩
def dkwX0_save_1 : List UInt8 := [83, 42, 180, 0, 31, 180, 0, 202, 182, 1, 13, 172]
abbrev dktX0_save_1 : List UInt8 := dkwX0_save_1 ++ []
def dkwX0_save_0 : List UInt8 := [27, 3, 4, 184, 0, 3, 154, 0, 6, 16, 254, 172, 42, 180, 0, 44, 27, 42, 180, 0, 31, 182, 0, 65]
abbrev dktX0_save_0 : List UInt8 := dkwX0_save_0 ++ dktX0_save_1
theorem dksX0_save_0 : cX0_save.data.toList.drop 0 = dktX0_save_0 := by decide +kernel
theorem dksX0_save_1 : cX0_save.data.toList.drop 24 = dktX0_save_1 := dk_seg dksX0_save_0 24 rfl rfl
theorem dX0_save_0 : decode cX0_save 0 = .ok (.iload_n 1, 1) := dk_27 (dk_at dksX0_save_0 0 rfl rfl)
theorem dX0_save_1 : decode cX0_save 1 = .ok (.iconst 0, 1) := dk_3 (dk_at dksX0_save_0 1 rfl rfl)
theorem dX0_save_2 : decode cX0_save 2 = .ok (.iconst 1, 1) := dk_4 (dk_at dksX0_save_0 2 rfl rfl)
theorem dX0_save_3 : decode cX0_save 3 = .ok (.invokestatic 3, 3) := dk_184 0 3 (dk_at dksX0_save_0 3 rfl rfl)
theorem dX0_save_6 : decode cX0_save 6 = .ok (.ifCond .ne 6, 3) := dk_154 0 6 (dk_at dksX0_save_0 6 rfl rfl)
theorem dX0_save_9 : decode cX0_save 9 = .ok (.bipush (-2), 2) := dk_16 254 (dk_at dksX0_save_0 9 rfl rfl)
theorem dX0_save_11 : decode cX0_save 11 = .ok (.ireturn, 1) := dk_172 (dk_at dksX0_save_0 11 rfl rfl)
theorem dX0_save_12 : decode cX0_save 12 = .ok (.aload_n 0, 1) := dk_42 (dk_at dksX0_save_0 12 rfl rfl)
theorem dX0_save_13 : decode cX0_save 13 = .ok (.getfield 44, 3) := dk_180 0 44 (dk_at dksX0_save_0 13 rfl rfl)
theorem dX0_save_16 : decode cX0_save 16 = .ok (.iload_n 1, 1) := dk_27 (dk_at dksX0_save_0 16 rfl rfl)
theorem dX0_save_17 : decode cX0_save 17 = .ok (.aload_n 0, 1) := dk_42 (dk_at dksX0_save_0 17 rfl rfl)
theorem dX0_save_18 : decode cX0_save 18 = .ok (.getfield 31, 3) := dk_180 0 31 (dk_at dksX0_save_0 18 rfl rfl)
theorem dX0_save_21 : decode cX0_save 21 = .ok (.invokevirtual 65, 3) := dk_182 0 65 (dk_at dksX0_save_0 21 rfl rfl)
theorem dX0_save_24 : decode cX0_save 24 = .ok (.aastore, 1) := dk_83 (dk_at dksX0_save_1 0 rfl rfl)
theorem dX0_save_25 : decode cX0_save 25 = .ok (.aload_n 0, 1) := dk_42 (dk_at dksX0_save_1 1 rfl rfl)
theorem dX0_save_26 : decode cX0_save 26 = .ok (.getfield 31, 3) := dk_180 0 31 (dk_at dksX0_save_1 2 rfl rfl)
theorem dX0_save_29 : decode cX0_save 29 = .ok (.getfield 202, 3) := dk_180 0 202 (dk_at dksX0_save_1 5 rfl rfl)
theorem dX0_save_32 : decode cX0_save 32 = .ok (.invokevirtual 269, 3) := dk_182 1 13 (dk_at dksX0_save_1 8 rfl rfl)
theorem dX0_save_35 : decode cX0_save 35 = .ok (.ireturn, 1) := dk_172 (dk_at dksX0_save_1 11 rfl rfl)
abbrev cX0_restore : ByteArray := prog_1_method_53_code
def yX0_restore : MethodName := ⟨RX0, "restore", "(I)I"⟩
def dkwX0_restore_2 : List UInt8 := [182, 1, 13, 172]
abbrev dktX0_restore_2 : List UInt8 := dkwX0_restore_2 ++ []
def dkwX0_restore_1 : List UInt8 := [42, 182, 0, 73, 42, 42, 180, 0, 44, 27, 50, 182, 0, 65, 181, 0, 31, 42, 180, 0, 31, 180, 0, 202]
abbrev dktX0_restore_1 : List UInt8 := dkwX0_restore_1 ++ dktX0_restore_2
def dkwX0_restore_0 : List UInt8 := [27, 3, 4, 184, 0, 3, 154, 0, 6, 16, 254, 172, 42, 180, 0, 44, 27, 50, 199, 0, 6, 16, 251, 172]
abbrev dktX0_restore_0 : List UInt8 := dkwX0_restore_0 ++ dktX0_restore_1
theorem dksX0_restore_0 : cX0_restore.data.toList.drop 0 = dktX0_restore_0 := by decide +kernel
theorem dksX0_restore_1 : cX0_restore.data.toList.drop 24 = dktX0_restore_1 := dk_seg dksX0_restore_0 24 rfl rfl
theorem dksX0_restore_2 : cX0_restore.data.toList.drop 48 = dktX0_restore_2 := dk_seg dksX0_restore_1 24 rfl rfl
theorem dX0_restore_0 : decode cX0_restore 0 = .ok (.iload_n 1, 1) := dk_27 (dk_at dksX0_restore_0 0 rfl rfl)
theorem dX0_restore_1 : decode cX0_restore 1 = .ok (.iconst 0, 1) := dk_3 (dk_at dksX0_restore_0 1 rfl rfl)
theorem dX0_restore_2 : decode cX0_restore 2 = .ok (.iconst 1, 1) := dk_4 (dk_at dksX0_restore_0 2 rfl rfl)
theorem dX0_restore_3 : decode cX0_restore 3 = .ok (.invokestatic 3, 3) := dk_184 0 3 (dk_at dksX0_restore_0 3 rfl rfl)
theorem dX0_restore_6 : decode cX0_restore 6 = .ok (.ifCond .ne 6, 3) := dk_154 0 6 (dk_at dksX0_restore_0 6 rfl rfl)
theorem dX0_restore_9 : decode cX0_restore 9 = .ok (.bipush (-2), 2) := dk_16 254 (dk_at dksX0_restore_0 9 rfl rfl)
theorem dX0_restore_11 : decode cX0_restore 11 = .ok (.ireturn, 1) := dk_172 (dk_at dksX0_restore_0 11 rfl rfl)
theorem dX0_restore_12 : decode cX0_restore 12 = .ok (.aload_n 0, 1) := dk_42 (dk_at dksX0_restore_0 12 rfl rfl)
theorem dX0_restore_13 : decode cX0_restore 13 = .ok (.getfield 44, 3) := dk_180 0 44 (dk_at dksX0_restore_0 13 rfl rfl)
theorem dX0_restore_16 : decode cX0_restore 16 = .ok (.iload_n 1, 1) := dk_27 (dk_at dksX0_restore_0 16 rfl rfl)
theorem dX0_restore_17 : decode cX0_restore 17 = .ok (.aaload, 1) := dk_50 (dk_at dksX0_restore_0 17 rfl rfl)
theorem dX0_restore_18 : decode cX0_restore 18 = .ok (.ifnonnull 6, 3) := dk_199 0 6 (dk_at dksX0_restore_0 18 rfl rfl)
theorem dX0_restore_21 : decode cX0_restore 21 = .ok (.bipush (-5), 2) := dk_16 251 (dk_at dksX0_restore_0 21 rfl rfl)
theorem dX0_restore_23 : decode cX0_restore 23 = .ok (.ireturn, 1) := dk_172 (dk_at dksX0_restore_0 23 rfl rfl)
theorem dX0_restore_24 : decode cX0_restore 24 = .ok (.aload_n 0, 1) := dk_42 (dk_at dksX0_restore_1 0 rfl rfl)
theorem dX0_restore_25 : decode cX0_restore 25 = .ok (.invokevirtual 73, 3) := dk_182 0 73 (dk_at dksX0_restore_1 1 rfl rfl)
theorem dX0_restore_28 : decode cX0_restore 28 = .ok (.aload_n 0, 1) := dk_42 (dk_at dksX0_restore_1 4 rfl rfl)
theorem dX0_restore_29 : decode cX0_restore 29 = .ok (.aload_n 0, 1) := dk_42 (dk_at dksX0_restore_1 5 rfl rfl)
theorem dX0_restore_30 : decode cX0_restore 30 = .ok (.getfield 44, 3) := dk_180 0 44 (dk_at dksX0_restore_1 6 rfl rfl)
theorem dX0_restore_33 : decode cX0_restore 33 = .ok (.iload_n 1, 1) := dk_27 (dk_at dksX0_restore_1 9 rfl rfl)
theorem dX0_restore_34 : decode cX0_restore 34 = .ok (.aaload, 1) := dk_50 (dk_at dksX0_restore_1 10 rfl rfl)
theorem dX0_restore_35 : decode cX0_restore 35 = .ok (.invokevirtual 65, 3) := dk_182 0 65 (dk_at dksX0_restore_1 11 rfl rfl)
theorem dX0_restore_38 : decode cX0_restore 38 = .ok (.putfield 31, 3) := dk_181 0 31 (dk_at dksX0_restore_1 14 rfl rfl)
theorem dX0_restore_41 : decode cX0_restore 41 = .ok (.aload_n 0, 1) := dk_42 (dk_at dksX0_restore_1 17 rfl rfl)
theorem dX0_restore_42 : decode cX0_restore 42 = .ok (.getfield 31, 3) := dk_180 0 31 (dk_at dksX0_restore_1 18 rfl rfl)
theorem dX0_restore_45 : decode cX0_restore 45 = .ok (.getfield 202, 3) := dk_180 0 202 (dk_at dksX0_restore_1 21 rfl rfl)
theorem dX0_restore_48 : decode cX0_restore 48 = .ok (.invokevirtual 269, 3) := dk_182 1 13 (dk_at dksX0_restore_2 0 rfl rfl)
theorem dX0_restore_51 : decode cX0_restore 51 = .ok (.ireturn, 1) := dk_172 (dk_at dksX0_restore_2 3 rfl rfl)
theorem q77 : (Jvm.Cond.initialized "LiarMaps") ∈ lw_all := lw_g (lw_at lw_m1 1 rfl) rfl
theorem q118 : (Jvm.Cond.instantiable "LiarMaps" (4 : Nat)) ∈ lw_all := lw_g (lw_at lw_m1 42 rfl) rfl
theorem q120 : (Jvm.Cond.instanceMethod ({ cls := "LiarMaps", name := "<init>", desc := "()V" } : Jvm.MethodName)) ∈ lw_all := lw_g (lw_at lw_m1 44 rfl) rfl
theorem q121 : (Jvm.Cond.code ({ cls := "LiarMaps", name := "<init>", desc := "()V" } : Jvm.MethodName) prog_1_method_6_code (1 : Nat) (Option.none : Option Jvm.ClassFile.FieldType)) ∈ lw_all := lw_g (lw_at lw_m1 45 rfl) rfl
theorem q122 : (Jvm.Cond.methodLink "LiarMaps" (22 : Nat) ({ cls := "java/lang/Object", name := "<init>", desc := "()V" } : Jvm.MethodName)) ∈ lw_all := lw_g (lw_at lw_m1 46 rfl) rfl
theorem q125 : (Jvm.Cond.classLink "LiarMaps" (28 : Nat) "LiarMaps$Chart") ∈ lw_all := lw_g (lw_at lw_m1 49 rfl) rfl
theorem q127 : (Jvm.Cond.methodLinkNest "LiarMaps" (30 : Nat) ({ cls := "LiarMaps$Chart", name := "<init>", desc := "()V" } : Jvm.MethodName) "LiarMaps") ∈ lw_tbl := lw_at lw_m1 51 rfl
theorem q165 : (Jvm.Cond.fieldLinkNest "LiarMaps" (103 : Nat) "LiarMaps$Player" "claims" "[I" "LiarMaps") ∈ lw_tbl := lw_at lw_m1 89 rfl
theorem q167 : (Jvm.Cond.fieldLinkNest "LiarMaps" (120 : Nat) "LiarMaps$Player" "purse" "I" "LiarMaps") ∈ lw_tbl := lw_at lw_m1 91 rfl
theorem q171 : (Jvm.Cond.fieldLinkNest "LiarMaps" (215 : Nat) "LiarMaps$Player" "lies" "I" "LiarMaps") ∈ lw_tbl := lw_at lw_m1 95 rfl
theorem q174 : (Jvm.Cond.fieldLinkNest "LiarMaps" (218 : Nat) "LiarMaps$Player" "checks" "I" "LiarMaps") ∈ lw_tbl := lw_at lw_m1 98 rfl
theorem q177 : (Jvm.Cond.fieldLinkNest "LiarMaps" (220 : Nat) "LiarMaps$Player" "found" "I" "LiarMaps") ∈ lw_tbl := lw_at lw_m1 101 rfl
theorem q180 : (Jvm.Cond.fieldLinkNest "LiarMaps" (223 : Nat) "LiarMaps$Player" "digs" "I" "LiarMaps") ∈ lw_tbl := lw_at lw_m1 104 rfl
theorem q231 : (Jvm.Cond.fieldLinkNest "LiarMaps" (123 : Nat) "LiarMaps$Chart" "settings" "[I" "LiarMaps") ∈ lw_tbl := lw_at lw_m1 155 rfl
theorem q233 : (Jvm.Cond.fieldLinkNest "LiarMaps" (202 : Nat) "LiarMaps$Chart" "roads" "Ljava/util/BitSet;" "LiarMaps") ∈ lw_tbl := lw_at lw_m1 157 rfl
theorem q235 : (Jvm.Cond.fieldLinkNest "LiarMaps" (109 : Nat) "LiarMaps$Chart" "revealed" "Ljava/util/BitSet;" "LiarMaps") ∈ lw_tbl := lw_at lw_m1 159 rfl
theorem q237 : (Jvm.Cond.fieldLinkNest "LiarMaps" (99 : Nat) "LiarMaps$Chart" "players" "[LLiarMaps$Player;" "LiarMaps") ∈ lw_tbl := lw_at lw_m1 161 rfl
theorem q239 : (Jvm.Cond.fieldLinkNest "LiarMaps" (249 : Nat) "LiarMaps$Chart" "digs" "Ljava/util/LinkedList;" "LiarMaps") ∈ lw_tbl := lw_at lw_m1 163 rfl
theorem q241 : (Jvm.Cond.fieldLinkNest "LiarMaps" (146 : Nat) "LiarMaps$Chart" "treasure" "I" "LiarMaps") ∈ lw_tbl := lw_at lw_m1 165 rfl
theorem q243 : (Jvm.Cond.fieldLinkNest "LiarMaps" (80 : Nat) "LiarMaps$Chart" "state" "I" "LiarMaps") ∈ lw_tbl := lw_at lw_m1 167 rfl
theorem q245 : (Jvm.Cond.fieldLinkNest "LiarMaps" (93 : Nat) "LiarMaps$Chart" "turns" "I" "LiarMaps") ∈ lw_tbl := lw_at lw_m1 169 rfl
theorem q247 : (Jvm.Cond.fieldLinkNest "LiarMaps" (263 : Nat) "LiarMaps$Chart" "finder" "I" "LiarMaps") ∈ lw_tbl := lw_at lw_m1 171 rfl
theorem q267 : (Jvm.Cond.classLink "LiarMaps" (35 : Nat) "java/util/ArrayDeque") ∈ lw_all := lw_g (lw_at lw_m1 191 rfl) rfl
theorem q269 : (Jvm.Cond.methodLink "LiarMaps" (37 : Nat) ({ cls := "java/util/ArrayDeque", name := "<init>", desc := "(I)V" } : Jvm.MethodName)) ∈ lw_all := lw_g (lw_at lw_m1 193 rfl) rfl
theorem q287 : (Jvm.Cond.classLink "LiarMaps" (48 : Nat) "java/lang/StringBuilder") ∈ lw_all := lw_g (lw_at lw_m1 211 rfl) rfl
theorem q289 : (Jvm.Cond.methodLink "LiarMaps" (50 : Nat) ({ cls := "java/lang/StringBuilder", name := "<init>", desc := "()V" } : Jvm.MethodName)) ∈ lw_all := lw_g (lw_at lw_m1 213 rfl) rfl
theorem q320 : (Jvm.Cond.fieldLink "LiarMaps" (31 : Nat) "LiarMaps" "now" "LLiarMaps$Chart;") ∈ lw_all := lw_g (lw_at lw_m2 4 rfl) rfl
theorem q321 : (Jvm.Cond.fieldLink "LiarMaps" (40 : Nat) "LiarMaps" "past" "Ljava/util/Deque;") ∈ lw_all := lw_g (lw_at lw_m2 5 rfl) rfl
theorem q322 : (Jvm.Cond.fieldLink "LiarMaps" (44 : Nat) "LiarMaps" "saved" "[LLiarMaps$Chart;") ∈ lw_all := lw_g (lw_at lw_m2 6 rfl) rfl
theorem q324 : (Jvm.Cond.fieldLink "LiarMaps" (51 : Nat) "LiarMaps" "pad" "Ljava/lang/StringBuilder;") ∈ lw_all := lw_g (lw_at lw_m2 8 rfl) rfl
theorem q325 : (Jvm.Cond.lays "LiarMaps" "LiarMaps" "now" "LLiarMaps$Chart;") ∈ lw_all := lw_g (lw_at lw_m2 9 rfl) rfl
theorem q326 : (Jvm.Cond.soleField "LiarMaps" "now") ∈ lw_all := lw_g (lw_at lw_m2 10 rfl) rfl
theorem q327 : (Jvm.Cond.laysFinal "LiarMaps" "LiarMaps" "past" "Ljava/util/Deque;") ∈ lw_all := lw_g (lw_at lw_m2 11 rfl) rfl
theorem q328 : (Jvm.Cond.soleField "LiarMaps" "past") ∈ lw_all := lw_g (lw_at lw_m2 12 rfl) rfl
theorem q329 : (Jvm.Cond.laysFinal "LiarMaps" "LiarMaps" "saved" "[LLiarMaps$Chart;") ∈ lw_all := lw_g (lw_at lw_m2 13 rfl) rfl
theorem q330 : (Jvm.Cond.soleField "LiarMaps" "saved") ∈ lw_all := lw_g (lw_at lw_m2 14 rfl) rfl
theorem q331 : (Jvm.Cond.laysFinal "LiarMaps" "LiarMaps" "pad" "Ljava/lang/StringBuilder;") ∈ lw_all := lw_g (lw_at lw_m2 15 rfl) rfl
theorem q332 : (Jvm.Cond.soleField "LiarMaps" "pad") ∈ lw_all := lw_g (lw_at lw_m2 16 rfl) rfl
theorem q333 : (Jvm.Cond.superclass "LiarMaps" "java/lang/Object") ∈ lw_all := lw_g (lw_at lw_m2 17 rfl) rfl
theorem q335 : (Jvm.Cond.instanceMethod ({ cls := "LiarMaps", name := "set", desc := "(II)I" } : Jvm.MethodName)) ∈ lw_all := lw_g (lw_at lw_m2 19 rfl) rfl
theorem q336 : (Jvm.Cond.selects "LiarMaps" ({ cls := "LiarMaps", name := "set", desc := "(II)I" } : Jvm.MethodName) ({ cls := "LiarMaps", name := "set", desc := "(II)I" } : Jvm.MethodName)) ∈ lw_all := lw_g (lw_at lw_m2 20 rfl) rfl
theorem q337 : (Jvm.Cond.code ({ cls := "LiarMaps", name := "set", desc := "(II)I" } : Jvm.MethodName) prog_1_method_15_code (6 : Nat) (Option.some Jvm.ClassFile.FieldType.int)) ∈ lw_all := lw_g (lw_at lw_m2 21 rfl) rfl
theorem q338 : (Jvm.Cond.methodLink "LiarMaps" (3 : Nat) ({ cls := "LiarMaps", name := "isIn", desc := "(III)Z" } : Jvm.MethodName)) ∈ lw_all := lw_g (lw_at lw_m2 22 rfl) rfl
theorem q339 : (Jvm.Cond.static ({ cls := "LiarMaps", name := "isIn", desc := "(III)Z" } : Jvm.MethodName)) ∈ lw_all := lw_g (lw_at lw_m2 23 rfl) rfl
theorem q340 : (Jvm.Cond.code ({ cls := "LiarMaps", name := "isIn", desc := "(III)Z" } : Jvm.MethodName) prog_1_method_1_code (3 : Nat) (Option.some Jvm.ClassFile.FieldType.boolean)) ∈ lw_all := lw_g (lw_at lw_m2 24 rfl) rfl
theorem q341 : (Jvm.Cond.fieldLink "LiarMaps" (126 : Nat) "LiarMaps" "LEAST" "[I") ∈ lw_all := lw_g (lw_at lw_m2 25 rfl) rfl
theorem q342 : (Jvm.Cond.laysStatic "LiarMaps" "LEAST" "[I") ∈ lw_tbl := lw_at lw_m2 26 rfl
theorem q343 : (Jvm.Cond.fieldLink "LiarMaps" (129 : Nat) "LiarMaps" "MOST" "[I") ∈ lw_all := lw_g (lw_at lw_m2 27 rfl) rfl
theorem q344 : (Jvm.Cond.laysStatic "LiarMaps" "MOST" "[I") ∈ lw_tbl := lw_at lw_m2 28 rfl
theorem q345 : (Jvm.Cond.methodLink "LiarMaps" (132 : Nat) ({ cls := "LiarMaps", name := "begun", desc := "(IZ)I" } : Jvm.MethodName)) ∈ lw_all := lw_g (lw_at lw_m2 29 rfl) rfl
theorem q346 : (Jvm.Cond.privateMethod ({ cls := "LiarMaps", name := "begun", desc := "(IZ)I" } : Jvm.MethodName)) ∈ lw_tbl := lw_at lw_m2 30 rfl
theorem q347 : (Jvm.Cond.instanceMethod ({ cls := "LiarMaps", name := "begun", desc := "(IZ)I" } : Jvm.MethodName)) ∈ lw_all := lw_g (lw_at lw_m2 31 rfl) rfl
theorem q348 : (Jvm.Cond.code ({ cls := "LiarMaps", name := "begun", desc := "(IZ)I" } : Jvm.MethodName) prog_1_method_8_code (3 : Nat) (Option.some Jvm.ClassFile.FieldType.int)) ∈ lw_all := lw_g (lw_at lw_m2 32 rfl) rfl
theorem q349 : (Jvm.Cond.methodLink "LiarMaps" (73 : Nat) ({ cls := "LiarMaps", name := "record", desc := "()V" } : Jvm.MethodName)) ∈ lw_all := lw_g (lw_at lw_m2 33 rfl) rfl
theorem q350 : (Jvm.Cond.privateMethod ({ cls := "LiarMaps", name := "record", desc := "()V" } : Jvm.MethodName)) ∈ lw_tbl := lw_at lw_m2 34 rfl
theorem q351 : (Jvm.Cond.instanceMethod ({ cls := "LiarMaps", name := "record", desc := "()V" } : Jvm.MethodName)) ∈ lw_all := lw_g (lw_at lw_m2 35 rfl) rfl
theorem q352 : (Jvm.Cond.code ({ cls := "LiarMaps", name := "record", desc := "()V" } : Jvm.MethodName) prog_1_method_7_code (1 : Nat) (Option.none : Option Jvm.ClassFile.FieldType)) ∈ lw_all := lw_g (lw_at lw_m2 36 rfl) rfl
theorem q353 : (Jvm.Cond.interfaceEntry "LiarMaps" (55 : Nat)) ∈ lw_tbl := lw_at lw_m2 37 rfl
theorem q354 : (Jvm.Cond.methodLink "LiarMaps" (55 : Nat) ({ cls := "java/util/Deque", name := "size", desc := "()I" } : Jvm.MethodName)) ∈ lw_all := lw_g (lw_at lw_m2 38 rfl) rfl
theorem q372 : (Jvm.Cond.interfaceEntry "LiarMaps" (61 : Nat)) ∈ lw_tbl := lw_at lw_m2 56 rfl
theorem q373 : (Jvm.Cond.methodLink "LiarMaps" (61 : Nat) ({ cls := "java/util/Deque", name := "removeFirst", desc := "()Ljava/lang/Object;" } : Jvm.MethodName)) ∈ lw_all := lw_g (lw_at lw_m2 57 rfl) rfl
theorem q400 : (Jvm.Cond.methodLink "LiarMaps" (65 : Nat) ({ cls := "LiarMaps$Chart", name := "copy", desc := "()LLiarMaps$Chart;" } : Jvm.MethodName)) ∈ lw_all := lw_g (lw_at lw_m2 84 rfl) rfl
theorem q685 : (Jvm.Cond.selects "LiarMaps" ({ cls := "java/lang/Object", name := "getClass", desc := "()Ljava/lang/Class;" } : Jvm.MethodName) ({ cls := "java/lang/Object", name := "getClass", desc := "()Ljava/lang/Class;" } : Jvm.MethodName)) ∈ lw_all := lw_g (lw_at lw_m3 129 rfl) rfl
theorem q954 : (Jvm.Cond.interfaceEntry "LiarMaps" (69 : Nat)) ∈ lw_tbl := lw_at lw_m4 158 rfl
theorem q955 : (Jvm.Cond.methodLink "LiarMaps" (69 : Nat) ({ cls := "java/util/Deque", name := "addLast", desc := "(Ljava/lang/Object;)V" } : Jvm.MethodName)) ∈ lw_all := lw_g (lw_at lw_m4 159 rfl) rfl
theorem q986 : (Jvm.Cond.instanceMethod ({ cls := "LiarMaps", name := "road", desc := "(II)I" } : Jvm.MethodName)) ∈ lw_all := lw_g (lw_at lw_m4 190 rfl) rfl
theorem q987 : (Jvm.Cond.selects "LiarMaps" ({ cls := "LiarMaps", name := "road", desc := "(II)I" } : Jvm.MethodName) ({ cls := "LiarMaps", name := "road", desc := "(II)I" } : Jvm.MethodName)) ∈ lw_all := lw_g (lw_at lw_m4 191 rfl) rfl
theorem q988 : (Jvm.Cond.code ({ cls := "LiarMaps", name := "road", desc := "(II)I" } : Jvm.MethodName) prog_1_method_17_code (3 : Nat) (Option.some Jvm.ClassFile.FieldType.int)) ∈ lw_all := lw_g (lw_at lw_m4 192 rfl) rfl
theorem q989 : (Jvm.Cond.methodLink "LiarMaps" (142 : Nat) ({ cls := "LiarMaps", name := "roads", desc := "(IIZ)I" } : Jvm.MethodName)) ∈ lw_all := lw_g (lw_at lw_m4 193 rfl) rfl
theorem q990 : (Jvm.Cond.privateMethod ({ cls := "LiarMaps", name := "roads", desc := "(IIZ)I" } : Jvm.MethodName)) ∈ lw_tbl := lw_at lw_m4 194 rfl
theorem q991 : (Jvm.Cond.instanceMethod ({ cls := "LiarMaps", name := "roads", desc := "(IIZ)I" } : Jvm.MethodName)) ∈ lw_all := lw_g (lw_at lw_m4 195 rfl) rfl
theorem q992 : (Jvm.Cond.code ({ cls := "LiarMaps", name := "roads", desc := "(IIZ)I" } : Jvm.MethodName) prog_1_method_16_code (6 : Nat) (Option.some Jvm.ClassFile.FieldType.int)) ∈ lw_all := lw_g (lw_at lw_m4 196 rfl) rfl
theorem q993 : (Jvm.Cond.methodLink "LiarMaps" (84 : Nat) ({ cls := "LiarMaps", name := "whyNotTwo", desc := "(II)I" } : Jvm.MethodName)) ∈ lw_all := lw_g (lw_at lw_m4 197 rfl) rfl
theorem q994 : (Jvm.Cond.static ({ cls := "LiarMaps", name := "whyNotTwo", desc := "(II)I" } : Jvm.MethodName)) ∈ lw_all := lw_g (lw_at lw_m4 198 rfl) rfl
theorem q995 : (Jvm.Cond.code ({ cls := "LiarMaps", name := "whyNotTwo", desc := "(II)I" } : Jvm.MethodName) prog_1_method_9_code (2 : Nat) (Option.some Jvm.ClassFile.FieldType.int)) ∈ lw_all := lw_g (lw_at lw_m4 199 rfl) rfl
theorem q996 : (Jvm.Cond.methodLink "LiarMaps" (76 : Nat) ({ cls := "LiarMaps", name := "isPlace", desc := "(I)Z" } : Jvm.MethodName)) ∈ lw_all := lw_g (lw_at lw_m4 200 rfl) rfl
theorem q997 : (Jvm.Cond.static ({ cls := "LiarMaps", name := "isPlace", desc := "(I)Z" } : Jvm.MethodName)) ∈ lw_all := lw_g (lw_at lw_m4 201 rfl) rfl
theorem q998 : (Jvm.Cond.code ({ cls := "LiarMaps", name := "isPlace", desc := "(I)Z" } : Jvm.MethodName) prog_1_method_2_code (1 : Nat) (Option.some Jvm.ClassFile.FieldType.boolean)) ∈ lw_all := lw_g (lw_at lw_m4 202 rfl) rfl
theorem q999 : (Jvm.Cond.methodLink "LiarMaps" (136 : Nat) ({ cls := "LiarMaps", name := "ifNotBegun", desc := "()I" } : Jvm.MethodName)) ∈ lw_all := lw_g (lw_at lw_m4 203 rfl) rfl
theorem q1000 : (Jvm.Cond.privateMethod ({ cls := "LiarMaps", name := "ifNotBegun", desc := "()I" } : Jvm.MethodName)) ∈ lw_tbl := lw_at lw_m4 204 rfl
theorem q1001 : (Jvm.Cond.instanceMethod ({ cls := "LiarMaps", name := "ifNotBegun", desc := "()I" } : Jvm.MethodName)) ∈ lw_all := lw_g (lw_at lw_m4 205 rfl) rfl
theorem q1002 : (Jvm.Cond.code ({ cls := "LiarMaps", name := "ifNotBegun", desc := "()I" } : Jvm.MethodName) prog_1_method_11_code (1 : Nat) (Option.some Jvm.ClassFile.FieldType.int)) ∈ lw_all := lw_g (lw_at lw_m4 206 rfl) rfl
theorem q1003 : (Jvm.Cond.methodLink "LiarMaps" (96 : Nat) ({ cls := "LiarMaps", name := "road0", desc := "(II)I" } : Jvm.MethodName)) ∈ lw_all := lw_g (lw_at lw_m4 207 rfl) rfl
theorem q1004 : (Jvm.Cond.static ({ cls := "LiarMaps", name := "road0", desc := "(II)I" } : Jvm.MethodName)) ∈ lw_all := lw_g (lw_at lw_m4 208 rfl) rfl
theorem q1005 : (Jvm.Cond.code ({ cls := "LiarMaps", name := "road0", desc := "(II)I" } : Jvm.MethodName) prog_1_method_4_code (4 : Nat) (Option.some Jvm.ClassFile.FieldType.int)) ∈ lw_all := lw_g (lw_at lw_m4 209 rfl) rfl
theorem q1006 : (Jvm.Cond.methodLink "LiarMaps" (7 : Nat) ({ cls := "java/lang/Math", name := "min", desc := "(II)I" } : Jvm.MethodName)) ∈ lw_all := lw_g (lw_at lw_m4 210 rfl) rfl
theorem q1007 : (Jvm.Cond.methodLink "LiarMaps" (13 : Nat) ({ cls := "java/lang/Math", name := "max", desc := "(II)I" } : Jvm.MethodName)) ∈ lw_all := lw_g (lw_at lw_m4 211 rfl) rfl
theorem q1008 : (Jvm.Cond.methodLink "LiarMaps" (139 : Nat) ({ cls := "LiarMaps$Chart", name := "toggle", desc := "(I)I" } : Jvm.MethodName)) ∈ lw_all := lw_g (lw_at lw_m4 212 rfl) rfl
theorem q1023 : (Jvm.Cond.instanceMethod ({ cls := "LiarMaps", name := "treasure", desc := "(I)I" } : Jvm.MethodName)) ∈ lw_all := lw_g (lw_at lw_m4 227 rfl) rfl
theorem q1024 : (Jvm.Cond.selects "LiarMaps" ({ cls := "LiarMaps", name := "treasure", desc := "(I)I" } : Jvm.MethodName) ({ cls := "LiarMaps", name := "treasure", desc := "(I)I" } : Jvm.MethodName)) ∈ lw_all := lw_g (lw_at lw_m4 228 rfl) rfl
theorem q1025 : (Jvm.Cond.code ({ cls := "LiarMaps", name := "treasure", desc := "(I)I" } : Jvm.MethodName) prog_1_method_19_code (2 : Nat) (Option.some Jvm.ClassFile.FieldType.int)) ∈ lw_all := lw_g (lw_at lw_m4 229 rfl) rfl
theorem q1026 : (Jvm.Cond.methodLink "LiarMaps" (149 : Nat) ({ cls := "LiarMaps", name := "hides", desc := "(IZ)I" } : Jvm.MethodName)) ∈ lw_all := lw_g (lw_at lw_m4 230 rfl) rfl
theorem q1027 : (Jvm.Cond.privateMethod ({ cls := "LiarMaps", name := "hides", desc := "(IZ)I" } : Jvm.MethodName)) ∈ lw_tbl := lw_at lw_m4 231 rfl
theorem q1028 : (Jvm.Cond.instanceMethod ({ cls := "LiarMaps", name := "hides", desc := "(IZ)I" } : Jvm.MethodName)) ∈ lw_all := lw_g (lw_at lw_m4 232 rfl) rfl
theorem q1029 : (Jvm.Cond.code ({ cls := "LiarMaps", name := "hides", desc := "(IZ)I" } : Jvm.MethodName) prog_1_method_18_code (5 : Nat) (Option.some Jvm.ClassFile.FieldType.int)) ∈ lw_all := lw_g (lw_at lw_m4 233 rfl) rfl
theorem q1031 : (Jvm.Cond.instanceMethod ({ cls := "LiarMaps", name := "begin", desc := "()I" } : Jvm.MethodName)) ∈ lw_all := lw_g (lw_at lw_m4 235 rfl) rfl
theorem q1032 : (Jvm.Cond.selects "LiarMaps" ({ cls := "LiarMaps", name := "begin", desc := "()I" } : Jvm.MethodName) ({ cls := "LiarMaps", name := "begin", desc := "()I" } : Jvm.MethodName)) ∈ lw_all := lw_g (lw_at lw_m4 236 rfl) rfl
theorem q1033 : (Jvm.Cond.code ({ cls := "LiarMaps", name := "begin", desc := "()I" } : Jvm.MethodName) prog_1_method_21_code (1 : Nat) (Option.some Jvm.ClassFile.FieldType.int)) ∈ lw_all := lw_g (lw_at lw_m4 237 rfl) rfl
theorem q1034 : (Jvm.Cond.methodLink "LiarMaps" (160 : Nat) ({ cls := "LiarMaps", name := "begins", desc := "(Z)I" } : Jvm.MethodName)) ∈ lw_all := lw_g (lw_at lw_m4 238 rfl) rfl
theorem q1035 : (Jvm.Cond.privateMethod ({ cls := "LiarMaps", name := "begins", desc := "(Z)I" } : Jvm.MethodName)) ∈ lw_tbl := lw_at lw_m4 239 rfl
theorem q1036 : (Jvm.Cond.instanceMethod ({ cls := "LiarMaps", name := "begins", desc := "(Z)I" } : Jvm.MethodName)) ∈ lw_all := lw_g (lw_at lw_m5 0 rfl) rfl
theorem q1037 : (Jvm.Cond.code ({ cls := "LiarMaps", name := "begins", desc := "(Z)I" } : Jvm.MethodName) prog_1_method_20_code (3 : Nat) (Option.some Jvm.ClassFile.FieldType.int)) ∈ lw_all := lw_g (lw_at lw_m5 1 rfl) rfl
theorem q1038 : (Jvm.Cond.methodLink "LiarMaps" (152 : Nat) ({ cls := "LiarMaps$Chart", name := "known", desc := "(I)[I" } : Jvm.MethodName)) ∈ lw_all := lw_g (lw_at lw_m5 2 rfl) rfl
theorem q1057 : (Jvm.Cond.methodLink "LiarMaps" (156 : Nat) ({ cls := "LiarMaps$Chart", name := "count", desc := "(Z[I)I" } : Jvm.MethodName)) ∈ lw_all := lw_g (lw_at lw_m5 21 rfl) rfl
theorem q1061 : (Jvm.Cond.instanceMethod ({ cls := "LiarMaps", name := "claim", desc := "(III)I" } : Jvm.MethodName)) ∈ lw_all := lw_g (lw_at lw_m5 25 rfl) rfl
theorem q1062 : (Jvm.Cond.selects "LiarMaps" ({ cls := "LiarMaps", name := "claim", desc := "(III)I" } : Jvm.MethodName) ({ cls := "LiarMaps", name := "claim", desc := "(III)I" } : Jvm.MethodName)) ∈ lw_all := lw_g (lw_at lw_m5 26 rfl) rfl
theorem q1063 : (Jvm.Cond.code ({ cls := "LiarMaps", name := "claim", desc := "(III)I" } : Jvm.MethodName) prog_1_method_23_code (4 : Nat) (Option.some Jvm.ClassFile.FieldType.int)) ∈ lw_all := lw_g (lw_at lw_m5 27 rfl) rfl
theorem q1064 : (Jvm.Cond.methodLink "LiarMaps" (171 : Nat) ({ cls := "LiarMaps", name := "claims", desc := "(ZIII)I" } : Jvm.MethodName)) ∈ lw_all := lw_g (lw_at lw_m5 28 rfl) rfl
theorem q1065 : (Jvm.Cond.privateMethod ({ cls := "LiarMaps", name := "claims", desc := "(ZIII)I" } : Jvm.MethodName)) ∈ lw_tbl := lw_at lw_m5 29 rfl
theorem q1066 : (Jvm.Cond.instanceMethod ({ cls := "LiarMaps", name := "claims", desc := "(ZIII)I" } : Jvm.MethodName)) ∈ lw_all := lw_g (lw_at lw_m5 30 rfl) rfl
theorem q1067 : (Jvm.Cond.code ({ cls := "LiarMaps", name := "claims", desc := "(ZIII)I" } : Jvm.MethodName) prog_1_method_22_code (6 : Nat) (Option.some Jvm.ClassFile.FieldType.int)) ∈ lw_all := lw_g (lw_at lw_m5 31 rfl) rfl
theorem q1068 : (Jvm.Cond.methodLink "LiarMaps" (164 : Nat) ({ cls := "LiarMaps", name := "whyNotClaim", desc := "(III)I" } : Jvm.MethodName)) ∈ lw_all := lw_g (lw_at lw_m5 32 rfl) rfl
theorem q1069 : (Jvm.Cond.privateMethod ({ cls := "LiarMaps", name := "whyNotClaim", desc := "(III)I" } : Jvm.MethodName)) ∈ lw_tbl := lw_at lw_m5 33 rfl
theorem q1070 : (Jvm.Cond.instanceMethod ({ cls := "LiarMaps", name := "whyNotClaim", desc := "(III)I" } : Jvm.MethodName)) ∈ lw_all := lw_g (lw_at lw_m5 34 rfl) rfl
theorem q1071 : (Jvm.Cond.code ({ cls := "LiarMaps", name := "whyNotClaim", desc := "(III)I" } : Jvm.MethodName) prog_1_method_12_code (5 : Nat) (Option.some Jvm.ClassFile.FieldType.int)) ∈ lw_all := lw_g (lw_at lw_m5 35 rfl) rfl
theorem q1072 : (Jvm.Cond.methodLink "LiarMaps" (87 : Nat) ({ cls := "LiarMaps", name := "ifGoingOn", desc := "()I" } : Jvm.MethodName)) ∈ lw_all := lw_g (lw_at lw_m5 36 rfl) rfl
theorem q1073 : (Jvm.Cond.privateMethod ({ cls := "LiarMaps", name := "ifGoingOn", desc := "()I" } : Jvm.MethodName)) ∈ lw_tbl := lw_at lw_m5 37 rfl
theorem q1074 : (Jvm.Cond.instanceMethod ({ cls := "LiarMaps", name := "ifGoingOn", desc := "()I" } : Jvm.MethodName)) ∈ lw_all := lw_g (lw_at lw_m5 38 rfl) rfl
theorem q1075 : (Jvm.Cond.code ({ cls := "LiarMaps", name := "ifGoingOn", desc := "()I" } : Jvm.MethodName) prog_1_method_10_code (1 : Nat) (Option.some Jvm.ClassFile.FieldType.int)) ∈ lw_all := lw_g (lw_at lw_m5 39 rfl) rfl
theorem q1076 : (Jvm.Cond.methodLink "LiarMaps" (168 : Nat) ({ cls := "LiarMaps$Chart", name := "claim", desc := "(II)I" } : Jvm.MethodName)) ∈ lw_all := lw_g (lw_at lw_m5 40 rfl) rfl
theorem q1093 : (Jvm.Cond.instanceMethod ({ cls := "LiarMaps", name := "check", desc := "(III)I" } : Jvm.MethodName)) ∈ lw_all := lw_g (lw_at lw_m5 57 rfl) rfl
theorem q1094 : (Jvm.Cond.selects "LiarMaps" ({ cls := "LiarMaps", name := "check", desc := "(III)I" } : Jvm.MethodName) ({ cls := "LiarMaps", name := "check", desc := "(III)I" } : Jvm.MethodName)) ∈ lw_all := lw_g (lw_at lw_m5 58 rfl) rfl
theorem q1095 : (Jvm.Cond.code ({ cls := "LiarMaps", name := "check", desc := "(III)I" } : Jvm.MethodName) prog_1_method_25_code (4 : Nat) (Option.some Jvm.ClassFile.FieldType.int)) ∈ lw_all := lw_g (lw_at lw_m5 59 rfl) rfl
theorem q1096 : (Jvm.Cond.methodLink "LiarMaps" (181 : Nat) ({ cls := "LiarMaps", name := "checks", desc := "(ZIII)I" } : Jvm.MethodName)) ∈ lw_all := lw_g (lw_at lw_m5 60 rfl) rfl
theorem q1097 : (Jvm.Cond.privateMethod ({ cls := "LiarMaps", name := "checks", desc := "(ZIII)I" } : Jvm.MethodName)) ∈ lw_tbl := lw_at lw_m5 61 rfl
theorem q1098 : (Jvm.Cond.instanceMethod ({ cls := "LiarMaps", name := "checks", desc := "(ZIII)I" } : Jvm.MethodName)) ∈ lw_all := lw_g (lw_at lw_m5 62 rfl) rfl
theorem q1099 : (Jvm.Cond.code ({ cls := "LiarMaps", name := "checks", desc := "(ZIII)I" } : Jvm.MethodName) prog_1_method_24_code (6 : Nat) (Option.some Jvm.ClassFile.FieldType.int)) ∈ lw_all := lw_g (lw_at lw_m5 63 rfl) rfl
theorem q1100 : (Jvm.Cond.methodLink "LiarMaps" (174 : Nat) ({ cls := "LiarMaps", name := "whyNotCheck", desc := "(III)I" } : Jvm.MethodName)) ∈ lw_all := lw_g (lw_at lw_m5 64 rfl) rfl
theorem q1101 : (Jvm.Cond.privateMethod ({ cls := "LiarMaps", name := "whyNotCheck", desc := "(III)I" } : Jvm.MethodName)) ∈ lw_tbl := lw_at lw_m5 65 rfl
theorem q1102 : (Jvm.Cond.instanceMethod ({ cls := "LiarMaps", name := "whyNotCheck", desc := "(III)I" } : Jvm.MethodName)) ∈ lw_all := lw_g (lw_at lw_m5 66 rfl) rfl
theorem q1103 : (Jvm.Cond.code ({ cls := "LiarMaps", name := "whyNotCheck", desc := "(III)I" } : Jvm.MethodName) prog_1_method_13_code (6 : Nat) (Option.some Jvm.ClassFile.FieldType.int)) ∈ lw_all := lw_g (lw_at lw_m5 67 rfl) rfl
theorem q1104 : (Jvm.Cond.methodLink "LiarMaps" (90 : Nat) ({ cls := "LiarMaps", name := "isPlayer", desc := "(I)Z" } : Jvm.MethodName)) ∈ lw_all := lw_g (lw_at lw_m5 68 rfl) rfl
theorem q1105 : (Jvm.Cond.static ({ cls := "LiarMaps", name := "isPlayer", desc := "(I)Z" } : Jvm.MethodName)) ∈ lw_all := lw_g (lw_at lw_m5 69 rfl) rfl
theorem q1106 : (Jvm.Cond.code ({ cls := "LiarMaps", name := "isPlayer", desc := "(I)Z" } : Jvm.MethodName) prog_1_method_3_code (1 : Nat) (Option.some Jvm.ClassFile.FieldType.boolean)) ∈ lw_all := lw_g (lw_at lw_m5 70 rfl) rfl
theorem q1107 : (Jvm.Cond.methodLink "LiarMaps" (113 : Nat) ({ cls := "java/util/BitSet", name := "get", desc := "(I)Z" } : Jvm.MethodName)) ∈ lw_all := lw_g (lw_at lw_m5 71 rfl) rfl
theorem q1108 : (Jvm.Cond.methodLink "LiarMaps" (177 : Nat) ({ cls := "LiarMaps$Chart", name := "check", desc := "(LLiarMaps$Player;I)I" } : Jvm.MethodName)) ∈ lw_all := lw_g (lw_at lw_m5 72 rfl) rfl
theorem q1125 : (Jvm.Cond.instanceMethod ({ cls := "LiarMaps", name := "dig", desc := "(I)I" } : Jvm.MethodName)) ∈ lw_all := lw_g (lw_at lw_m5 89 rfl) rfl
theorem q1126 : (Jvm.Cond.selects "LiarMaps" ({ cls := "LiarMaps", name := "dig", desc := "(I)I" } : Jvm.MethodName) ({ cls := "LiarMaps", name := "dig", desc := "(I)I" } : Jvm.MethodName)) ∈ lw_all := lw_g (lw_at lw_m5 90 rfl) rfl
theorem q1127 : (Jvm.Cond.code ({ cls := "LiarMaps", name := "dig", desc := "(I)I" } : Jvm.MethodName) prog_1_method_27_code (2 : Nat) (Option.some Jvm.ClassFile.FieldType.int)) ∈ lw_all := lw_g (lw_at lw_m5 91 rfl) rfl
theorem q1128 : (Jvm.Cond.methodLink "LiarMaps" (190 : Nat) ({ cls := "LiarMaps", name := "digs", desc := "(IZ)I" } : Jvm.MethodName)) ∈ lw_all := lw_g (lw_at lw_m5 92 rfl) rfl
theorem q1129 : (Jvm.Cond.privateMethod ({ cls := "LiarMaps", name := "digs", desc := "(IZ)I" } : Jvm.MethodName)) ∈ lw_tbl := lw_at lw_m5 93 rfl
theorem q1130 : (Jvm.Cond.instanceMethod ({ cls := "LiarMaps", name := "digs", desc := "(IZ)I" } : Jvm.MethodName)) ∈ lw_all := lw_g (lw_at lw_m5 94 rfl) rfl
theorem q1131 : (Jvm.Cond.code ({ cls := "LiarMaps", name := "digs", desc := "(IZ)I" } : Jvm.MethodName) prog_1_method_26_code (4 : Nat) (Option.some Jvm.ClassFile.FieldType.int)) ∈ lw_all := lw_g (lw_at lw_m5 95 rfl) rfl
theorem q1132 : (Jvm.Cond.methodLink "LiarMaps" (184 : Nat) ({ cls := "LiarMaps", name := "whyNotDig", desc := "(I)I" } : Jvm.MethodName)) ∈ lw_all := lw_g (lw_at lw_m5 96 rfl) rfl
theorem q1133 : (Jvm.Cond.privateMethod ({ cls := "LiarMaps", name := "whyNotDig", desc := "(I)I" } : Jvm.MethodName)) ∈ lw_tbl := lw_at lw_m5 97 rfl
theorem q1134 : (Jvm.Cond.instanceMethod ({ cls := "LiarMaps", name := "whyNotDig", desc := "(I)I" } : Jvm.MethodName)) ∈ lw_all := lw_g (lw_at lw_m5 98 rfl) rfl
theorem q1135 : (Jvm.Cond.code ({ cls := "LiarMaps", name := "whyNotDig", desc := "(I)I" } : Jvm.MethodName) prog_1_method_14_code (2 : Nat) (Option.some Jvm.ClassFile.FieldType.int)) ∈ lw_all := lw_g (lw_at lw_m5 99 rfl) rfl
theorem q1136 : (Jvm.Cond.methodLink "LiarMaps" (116 : Nat) ({ cls := "LiarMaps$Chart", name := "mover", desc := "()LLiarMaps$Player;" } : Jvm.MethodName)) ∈ lw_all := lw_g (lw_at lw_m5 100 rfl) rfl
theorem q1137 : (Jvm.Cond.methodLink "LiarMaps" (187 : Nat) ({ cls := "LiarMaps$Chart", name := "dig", desc := "(I)I" } : Jvm.MethodName)) ∈ lw_all := lw_g (lw_at lw_m5 101 rfl) rfl
theorem q1204 : (Jvm.Cond.fieldLinkNest "LiarMaps" (260 : Nat) "LiarMaps$Digging" "place" "I" "LiarMaps") ∈ lw_tbl := lw_at lw_m5 168 rfl
theorem q1214 : (Jvm.Cond.instanceMethod ({ cls := "LiarMaps", name := "pass", desc := "()I" } : Jvm.MethodName)) ∈ lw_all := lw_g (lw_at lw_m5 178 rfl) rfl
theorem q1215 : (Jvm.Cond.selects "LiarMaps" ({ cls := "LiarMaps", name := "pass", desc := "()I" } : Jvm.MethodName) ({ cls := "LiarMaps", name := "pass", desc := "()I" } : Jvm.MethodName)) ∈ lw_all := lw_g (lw_at lw_m5 179 rfl) rfl
theorem q1216 : (Jvm.Cond.code ({ cls := "LiarMaps", name := "pass", desc := "()I" } : Jvm.MethodName) prog_1_method_29_code (1 : Nat) (Option.some Jvm.ClassFile.FieldType.int)) ∈ lw_all := lw_g (lw_at lw_m5 180 rfl) rfl
theorem q1217 : (Jvm.Cond.methodLink "LiarMaps" (196 : Nat) ({ cls := "LiarMaps", name := "passes", desc := "(Z)I" } : Jvm.MethodName)) ∈ lw_all := lw_g (lw_at lw_m5 181 rfl) rfl
theorem q1218 : (Jvm.Cond.privateMethod ({ cls := "LiarMaps", name := "passes", desc := "(Z)I" } : Jvm.MethodName)) ∈ lw_tbl := lw_at lw_m5 182 rfl
theorem q1219 : (Jvm.Cond.instanceMethod ({ cls := "LiarMaps", name := "passes", desc := "(Z)I" } : Jvm.MethodName)) ∈ lw_all := lw_g (lw_at lw_m5 183 rfl) rfl
theorem q1220 : (Jvm.Cond.code ({ cls := "LiarMaps", name := "passes", desc := "(Z)I" } : Jvm.MethodName) prog_1_method_28_code (3 : Nat) (Option.some Jvm.ClassFile.FieldType.int)) ∈ lw_all := lw_g (lw_at lw_m5 184 rfl) rfl
theorem q1221 : (Jvm.Cond.methodLinkNest "LiarMaps" (193 : Nat) ({ cls := "LiarMaps$Chart", name := "endTurn", desc := "()V" } : Jvm.MethodName) "LiarMaps") ∈ lw_tbl := lw_at lw_m5 185 rfl
theorem q1223 : (Jvm.Cond.instanceMethod ({ cls := "LiarMaps", name := "ofRoad", desc := "(III)I" } : Jvm.MethodName)) ∈ lw_all := lw_g (lw_at lw_m5 187 rfl) rfl
theorem q1224 : (Jvm.Cond.selects "LiarMaps" ({ cls := "LiarMaps", name := "ofRoad", desc := "(III)I" } : Jvm.MethodName) ({ cls := "LiarMaps", name := "ofRoad", desc := "(III)I" } : Jvm.MethodName)) ∈ lw_all := lw_g (lw_at lw_m5 188 rfl) rfl
theorem q1225 : (Jvm.Cond.code ({ cls := "LiarMaps", name := "ofRoad", desc := "(III)I" } : Jvm.MethodName) prog_1_method_31_code (6 : Nat) (Option.some Jvm.ClassFile.FieldType.int)) ∈ lw_all := lw_g (lw_at lw_m5 189 rfl) rfl
theorem q1226 : (Jvm.Cond.methodLink "LiarMaps" (199 : Nat) ({ cls := "LiarMaps", name := "claimers", desc := "(II)I" } : Jvm.MethodName)) ∈ lw_all := lw_g (lw_at lw_m5 190 rfl) rfl
theorem q1227 : (Jvm.Cond.privateMethod ({ cls := "LiarMaps", name := "claimers", desc := "(II)I" } : Jvm.MethodName)) ∈ lw_tbl := lw_at lw_m5 191 rfl
theorem q1228 : (Jvm.Cond.instanceMethod ({ cls := "LiarMaps", name := "claimers", desc := "(II)I" } : Jvm.MethodName)) ∈ lw_all := lw_g (lw_at lw_m5 192 rfl) rfl
theorem q1229 : (Jvm.Cond.code ({ cls := "LiarMaps", name := "claimers", desc := "(II)I" } : Jvm.MethodName) prog_1_method_30_code (5 : Nat) (Option.some Jvm.ClassFile.FieldType.int)) ∈ lw_all := lw_g (lw_at lw_m5 193 rfl) rfl
theorem q1231 : (Jvm.Cond.instanceMethod ({ cls := "LiarMaps", name := "knows", desc := "(III)I" } : Jvm.MethodName)) ∈ lw_all := lw_g (lw_at lw_m5 195 rfl) rfl
theorem q1232 : (Jvm.Cond.selects "LiarMaps" ({ cls := "LiarMaps", name := "knows", desc := "(III)I" } : Jvm.MethodName) ({ cls := "LiarMaps", name := "knows", desc := "(III)I" } : Jvm.MethodName)) ∈ lw_all := lw_g (lw_at lw_m5 196 rfl) rfl
theorem q1233 : (Jvm.Cond.code ({ cls := "LiarMaps", name := "knows", desc := "(III)I" } : Jvm.MethodName) prog_1_method_33_code (5 : Nat) (Option.some Jvm.ClassFile.FieldType.int)) ∈ lw_all := lw_g (lw_at lw_m5 197 rfl) rfl
theorem q1234 : (Jvm.Cond.methodLink "LiarMaps" (204 : Nat) ({ cls := "LiarMaps", name := "knowsRoad", desc := "(II[I)I" } : Jvm.MethodName)) ∈ lw_all := lw_g (lw_at lw_m5 198 rfl) rfl
theorem q1235 : (Jvm.Cond.privateMethod ({ cls := "LiarMaps", name := "knowsRoad", desc := "(II[I)I" } : Jvm.MethodName)) ∈ lw_tbl := lw_at lw_m5 199 rfl
theorem q1236 : (Jvm.Cond.instanceMethod ({ cls := "LiarMaps", name := "knowsRoad", desc := "(II[I)I" } : Jvm.MethodName)) ∈ lw_all := lw_g (lw_at lw_m5 200 rfl) rfl
theorem q1237 : (Jvm.Cond.code ({ cls := "LiarMaps", name := "knowsRoad", desc := "(II[I)I" } : Jvm.MethodName) prog_1_method_32_code (4 : Nat) (Option.some Jvm.ClassFile.FieldType.int)) ∈ lw_all := lw_g (lw_at lw_m5 201 rfl) rfl
theorem q1239 : (Jvm.Cond.instanceMethod ({ cls := "LiarMaps", name := "player", desc := "(II)I" } : Jvm.MethodName)) ∈ lw_all := lw_g (lw_at lw_m5 203 rfl) rfl
theorem q1240 : (Jvm.Cond.selects "LiarMaps" ({ cls := "LiarMaps", name := "player", desc := "(II)I" } : Jvm.MethodName) ({ cls := "LiarMaps", name := "player", desc := "(II)I" } : Jvm.MethodName)) ∈ lw_all := lw_g (lw_at lw_m5 204 rfl) rfl
theorem q1241 : (Jvm.Cond.code ({ cls := "LiarMaps", name := "player", desc := "(II)I" } : Jvm.MethodName) prog_1_method_35_code (4 : Nat) (Option.some Jvm.ClassFile.FieldType.int)) ∈ lw_all := lw_g (lw_at lw_m5 205 rfl) rfl
theorem q1242 : (Jvm.Cond.methodLink "LiarMaps" (208 : Nat) ({ cls := "LiarMaps$Player", name := "claimed", desc := "()I" } : Jvm.MethodName)) ∈ lw_all := lw_g (lw_at lw_m5 206 rfl) rfl
theorem q1243 : (Jvm.Cond.methodLink "LiarMaps" (211 : Nat) ({ cls := "LiarMaps$Chart", name := "shown", desc := "(LLiarMaps$Player;[I)I" } : Jvm.MethodName)) ∈ lw_all := lw_g (lw_at lw_m5 207 rfl) rfl
theorem q1246 : (Jvm.Cond.methodLink "LiarMaps" (225 : Nat) ({ cls := "LiarMaps", name := "manyKnown", desc := "(I)I" } : Jvm.MethodName)) ∈ lw_all := lw_g (lw_at lw_m5 210 rfl) rfl
theorem q1247 : (Jvm.Cond.privateMethod ({ cls := "LiarMaps", name := "manyKnown", desc := "(I)I" } : Jvm.MethodName)) ∈ lw_tbl := lw_at lw_m5 211 rfl
theorem q1248 : (Jvm.Cond.instanceMethod ({ cls := "LiarMaps", name := "manyKnown", desc := "(I)I" } : Jvm.MethodName)) ∈ lw_all := lw_g (lw_at lw_m5 212 rfl) rfl
theorem q1249 : (Jvm.Cond.code ({ cls := "LiarMaps", name := "manyKnown", desc := "(I)I" } : Jvm.MethodName) prog_1_method_34_code (5 : Nat) (Option.some Jvm.ClassFile.FieldType.int)) ∈ lw_all := lw_g (lw_at lw_m5 213 rfl) rfl
theorem q1251 : (Jvm.Cond.instanceMethod ({ cls := "LiarMaps", name := "place", desc := "(II)I" } : Jvm.MethodName)) ∈ lw_all := lw_g (lw_at lw_m5 215 rfl) rfl
theorem q1252 : (Jvm.Cond.selects "LiarMaps" ({ cls := "LiarMaps", name := "place", desc := "(II)I" } : Jvm.MethodName) ({ cls := "LiarMaps", name := "place", desc := "(II)I" } : Jvm.MethodName)) ∈ lw_all := lw_g (lw_at lw_m5 216 rfl) rfl
theorem q1253 : (Jvm.Cond.code ({ cls := "LiarMaps", name := "place", desc := "(II)I" } : Jvm.MethodName) prog_1_method_37_code (3 : Nat) (Option.some Jvm.ClassFile.FieldType.int)) ∈ lw_all := lw_g (lw_at lw_m5 217 rfl) rfl
theorem q1254 : (Jvm.Cond.methodLink "LiarMaps" (232 : Nat) ({ cls := "LiarMaps$Chart", name := "degree", desc := "(I)I" } : Jvm.MethodName)) ∈ lw_all := lw_g (lw_at lw_m5 218 rfl) rfl
theorem q1255 : (Jvm.Cond.methodLinkNest "LiarMaps" (235 : Nat) ({ cls := "LiarMaps$Chart", name := "many", desc := "(II[I)I" } : Jvm.MethodName) "LiarMaps") ∈ lw_tbl := lw_at lw_m5 219 rfl
theorem q1256 : (Jvm.Cond.methodLink "LiarMaps" (238 : Nat) ({ cls := "LiarMaps$Chart", name := "toldOf", desc := "(I)I" } : Jvm.MethodName)) ∈ lw_all := lw_g (lw_at lw_m5 220 rfl) rfl
theorem q1260 : (Jvm.Cond.methodLink "LiarMaps" (241 : Nat) ({ cls := "LiarMaps", name := "knownFrom", desc := "(I)Ljava/util/BitSet;" } : Jvm.MethodName)) ∈ lw_all := lw_g (lw_at lw_m5 224 rfl) rfl
theorem q1261 : (Jvm.Cond.privateMethod ({ cls := "LiarMaps", name := "knownFrom", desc := "(I)Ljava/util/BitSet;" } : Jvm.MethodName)) ∈ lw_tbl := lw_at lw_m5 225 rfl
theorem q1262 : (Jvm.Cond.instanceMethod ({ cls := "LiarMaps", name := "knownFrom", desc := "(I)Ljava/util/BitSet;" } : Jvm.MethodName)) ∈ lw_all := lw_g (lw_at lw_m5 226 rfl) rfl
theorem q1263 : (Jvm.Cond.code ({ cls := "LiarMaps", name := "knownFrom", desc := "(I)Ljava/util/BitSet;" } : Jvm.MethodName) prog_1_method_36_code (5 : Nat) (Option.some (Jvm.ClassFile.FieldType.object "java/util/BitSet"))) ∈ lw_all := lw_g (lw_at lw_m5 227 rfl) rfl
theorem q1264 : (Jvm.Cond.classLink "LiarMaps" (17 : Nat) "java/util/BitSet") ∈ lw_all := lw_g (lw_at lw_m5 228 rfl) rfl
theorem q1265 : (Jvm.Cond.methodLink "LiarMaps" (228 : Nat) ({ cls := "java/util/BitSet", name := "<init>", desc := "(I)V" } : Jvm.MethodName)) ∈ lw_all := lw_g (lw_at lw_m5 229 rfl) rfl
theorem q1266 : (Jvm.Cond.methodLink "LiarMaps" (229 : Nat) ({ cls := "java/util/BitSet", name := "set", desc := "(I)V" } : Jvm.MethodName)) ∈ lw_all := lw_g (lw_at lw_m5 230 rfl) rfl
theorem q1267 : (Jvm.Cond.methodLink "LiarMaps" (245 : Nat) ({ cls := "LiarMaps", name := "setOf", desc := "(Ljava/util/BitSet;)I" } : Jvm.MethodName)) ∈ lw_all := lw_g (lw_at lw_m5 231 rfl) rfl
theorem q1268 : (Jvm.Cond.static ({ cls := "LiarMaps", name := "setOf", desc := "(Ljava/util/BitSet;)I" } : Jvm.MethodName)) ∈ lw_all := lw_g (lw_at lw_m5 232 rfl) rfl
theorem q1269 : (Jvm.Cond.code ({ cls := "LiarMaps", name := "setOf", desc := "(Ljava/util/BitSet;)I" } : Jvm.MethodName) prog_1_method_5_code (3 : Nat) (Option.some Jvm.ClassFile.FieldType.int)) ∈ lw_all := lw_g (lw_at lw_m5 233 rfl) rfl
theorem q1270 : (Jvm.Cond.methodLink "LiarMaps" (16 : Nat) ({ cls := "java/util/BitSet", name := "nextSetBit", desc := "(I)I" } : Jvm.MethodName)) ∈ lw_all := lw_g (lw_at lw_m5 234 rfl) rfl
theorem q1282 : (Jvm.Cond.instanceMethod ({ cls := "LiarMaps", name := "dug", desc := "(I)I" } : Jvm.MethodName)) ∈ lw_all := lw_g (lw_at lw_m6 6 rfl) rfl
theorem q1283 : (Jvm.Cond.selects "LiarMaps" ({ cls := "LiarMaps", name := "dug", desc := "(I)I" } : Jvm.MethodName) ({ cls := "LiarMaps", name := "dug", desc := "(I)I" } : Jvm.MethodName)) ∈ lw_all := lw_g (lw_at lw_m6 7 rfl) rfl
theorem q1284 : (Jvm.Cond.code ({ cls := "LiarMaps", name := "dug", desc := "(I)I" } : Jvm.MethodName) prog_1_method_38_code (2 : Nat) (Option.some Jvm.ClassFile.FieldType.int)) ∈ lw_all := lw_g (lw_at lw_m6 8 rfl) rfl
theorem q1285 : (Jvm.Cond.methodLink "LiarMaps" (252 : Nat) ({ cls := "java/util/LinkedList", name := "size", desc := "()I" } : Jvm.MethodName)) ∈ lw_all := lw_g (lw_at lw_m6 9 rfl) rfl
theorem q1286 : (Jvm.Cond.methodLink "LiarMaps" (255 : Nat) ({ cls := "java/util/LinkedList", name := "get", desc := "(I)Ljava/lang/Object;" } : Jvm.MethodName)) ∈ lw_all := lw_g (lw_at lw_m6 10 rfl) rfl
theorem q1287 : (Jvm.Cond.classLink "LiarMaps" (258 : Nat) "LiarMaps$Digging") ∈ lw_all := lw_g (lw_at lw_m6 11 rfl) rfl
theorem q1289 : (Jvm.Cond.instanceMethod ({ cls := "LiarMaps", name := "count", desc := "(I)I" } : Jvm.MethodName)) ∈ lw_all := lw_g (lw_at lw_m6 13 rfl) rfl
theorem q1290 : (Jvm.Cond.selects "LiarMaps" ({ cls := "LiarMaps", name := "count", desc := "(I)I" } : Jvm.MethodName) ({ cls := "LiarMaps", name := "count", desc := "(I)I" } : Jvm.MethodName)) ∈ lw_all := lw_g (lw_at lw_m6 14 rfl) rfl
theorem q1291 : (Jvm.Cond.code ({ cls := "LiarMaps", name := "count", desc := "(I)I" } : Jvm.MethodName) prog_1_method_40_code (2 : Nat) (Option.some Jvm.ClassFile.FieldType.int)) ∈ lw_all := lw_g (lw_at lw_m6 15 rfl) rfl
theorem q1292 : (Jvm.Cond.methodLink "LiarMaps" (266 : Nat) ({ cls := "LiarMaps", name := "allShown", desc := "()I" } : Jvm.MethodName)) ∈ lw_all := lw_g (lw_at lw_m6 16 rfl) rfl
theorem q1293 : (Jvm.Cond.privateMethod ({ cls := "LiarMaps", name := "allShown", desc := "()I" } : Jvm.MethodName)) ∈ lw_tbl := lw_at lw_m6 17 rfl
theorem q1294 : (Jvm.Cond.instanceMethod ({ cls := "LiarMaps", name := "allShown", desc := "()I" } : Jvm.MethodName)) ∈ lw_all := lw_g (lw_at lw_m6 18 rfl) rfl
theorem q1295 : (Jvm.Cond.code ({ cls := "LiarMaps", name := "allShown", desc := "()I" } : Jvm.MethodName) prog_1_method_39_code (7 : Nat) (Option.some Jvm.ClassFile.FieldType.int)) ∈ lw_all := lw_g (lw_at lw_m6 19 rfl) rfl
theorem q1296 : (Jvm.Cond.methodLink "LiarMaps" (269 : Nat) ({ cls := "java/util/BitSet", name := "cardinality", desc := "()I" } : Jvm.MethodName)) ∈ lw_all := lw_g (lw_at lw_m6 20 rfl) rfl
theorem q1297 : (Jvm.Cond.methodLink "LiarMaps" (272 : Nat) ({ cls := "java/lang/StringBuilder", name := "length", desc := "()I" } : Jvm.MethodName)) ∈ lw_all := lw_g (lw_at lw_m6 21 rfl) rfl
theorem q1299 : (Jvm.Cond.instanceMethod ({ cls := "LiarMaps", name := "canBe", desc := "()I" } : Jvm.MethodName)) ∈ lw_all := lw_g (lw_at lw_m6 23 rfl) rfl
theorem q1300 : (Jvm.Cond.selects "LiarMaps" ({ cls := "LiarMaps", name := "canBe", desc := "()I" } : Jvm.MethodName) ({ cls := "LiarMaps", name := "canBe", desc := "()I" } : Jvm.MethodName)) ∈ lw_all := lw_g (lw_at lw_m6 24 rfl) rfl
theorem q1301 : (Jvm.Cond.code ({ cls := "LiarMaps", name := "canBe", desc := "()I" } : Jvm.MethodName) prog_1_method_41_code (1 : Nat) (Option.some Jvm.ClassFile.FieldType.int)) ∈ lw_all := lw_g (lw_at lw_m6 25 rfl) rfl
theorem q1302 : (Jvm.Cond.methodLink "LiarMaps" (275 : Nat) ({ cls := "LiarMaps$Chart", name := "canBe", desc := "()Ljava/util/BitSet;" } : Jvm.MethodName)) ∈ lw_all := lw_g (lw_at lw_m6 26 rfl) rfl
theorem q1307 : (Jvm.Cond.instanceMethod ({ cls := "LiarMaps", name := "shows", desc := "(II)I" } : Jvm.MethodName)) ∈ lw_all := lw_g (lw_at lw_m6 31 rfl) rfl
theorem q1308 : (Jvm.Cond.selects "LiarMaps" ({ cls := "LiarMaps", name := "shows", desc := "(II)I" } : Jvm.MethodName) ({ cls := "LiarMaps", name := "shows", desc := "(II)I" } : Jvm.MethodName)) ∈ lw_all := lw_g (lw_at lw_m6 32 rfl) rfl
theorem q1309 : (Jvm.Cond.code ({ cls := "LiarMaps", name := "shows", desc := "(II)I" } : Jvm.MethodName) prog_1_method_43_code (4 : Nat) (Option.some Jvm.ClassFile.FieldType.int)) ∈ lw_all := lw_g (lw_at lw_m6 33 rfl) rfl
theorem q1310 : (Jvm.Cond.methodLink "LiarMaps" (279 : Nat) ({ cls := "LiarMaps", name := "showsRoad", desc := "(I)I" } : Jvm.MethodName)) ∈ lw_all := lw_g (lw_at lw_m6 34 rfl) rfl
theorem q1311 : (Jvm.Cond.privateMethod ({ cls := "LiarMaps", name := "showsRoad", desc := "(I)I" } : Jvm.MethodName)) ∈ lw_tbl := lw_at lw_m6 35 rfl
theorem q1312 : (Jvm.Cond.instanceMethod ({ cls := "LiarMaps", name := "showsRoad", desc := "(I)I" } : Jvm.MethodName)) ∈ lw_all := lw_g (lw_at lw_m6 36 rfl) rfl
theorem q1313 : (Jvm.Cond.code ({ cls := "LiarMaps", name := "showsRoad", desc := "(I)I" } : Jvm.MethodName) prog_1_method_42_code (2 : Nat) (Option.some Jvm.ClassFile.FieldType.int)) ∈ lw_all := lw_g (lw_at lw_m6 37 rfl) rfl
theorem q1315 : (Jvm.Cond.instanceMethod ({ cls := "LiarMaps", name := "bestShow", desc := "(I)I" } : Jvm.MethodName)) ∈ lw_all := lw_g (lw_at lw_m6 39 rfl) rfl
theorem q1316 : (Jvm.Cond.selects "LiarMaps" ({ cls := "LiarMaps", name := "bestShow", desc := "(I)I" } : Jvm.MethodName) ({ cls := "LiarMaps", name := "bestShow", desc := "(I)I" } : Jvm.MethodName)) ∈ lw_all := lw_g (lw_at lw_m6 40 rfl) rfl
theorem q1317 : (Jvm.Cond.code ({ cls := "LiarMaps", name := "bestShow", desc := "(I)I" } : Jvm.MethodName) prog_1_method_44_code (6 : Nat) (Option.some Jvm.ClassFile.FieldType.int)) ∈ lw_all := lw_g (lw_at lw_m6 41 rfl) rfl
theorem q1319 : (Jvm.Cond.instanceMethod ({ cls := "LiarMaps", name := "knownWay", desc := "(II)I" } : Jvm.MethodName)) ∈ lw_all := lw_g (lw_at lw_m6 43 rfl) rfl
theorem q1320 : (Jvm.Cond.selects "LiarMaps" ({ cls := "LiarMaps", name := "knownWay", desc := "(II)I" } : Jvm.MethodName) ({ cls := "LiarMaps", name := "knownWay", desc := "(II)I" } : Jvm.MethodName)) ∈ lw_all := lw_g (lw_at lw_m6 44 rfl) rfl
theorem q1321 : (Jvm.Cond.code ({ cls := "LiarMaps", name := "knownWay", desc := "(II)I" } : Jvm.MethodName) prog_1_method_45_code (3 : Nat) (Option.some Jvm.ClassFile.FieldType.int)) ∈ lw_all := lw_g (lw_at lw_m6 45 rfl) rfl
theorem q1322 : (Jvm.Cond.methodLink "LiarMaps" (282 : Nat) ({ cls := "LiarMaps$Chart", name := "knownWay", desc := "(II)I" } : Jvm.MethodName)) ∈ lw_all := lw_g (lw_at lw_m6 46 rfl) rfl
theorem q1328 : (Jvm.Cond.instanceMethod ({ cls := "LiarMaps", name := "put", desc := "(J)I" } : Jvm.MethodName)) ∈ lw_all := lw_g (lw_at lw_m6 52 rfl) rfl
theorem q1329 : (Jvm.Cond.selects "LiarMaps" ({ cls := "LiarMaps", name := "put", desc := "(J)I" } : Jvm.MethodName) ({ cls := "LiarMaps", name := "put", desc := "(J)I" } : Jvm.MethodName)) ∈ lw_all := lw_g (lw_at lw_m6 53 rfl) rfl
theorem q1330 : (Jvm.Cond.code ({ cls := "LiarMaps", name := "put", desc := "(J)I" } : Jvm.MethodName) prog_1_method_46_code (7 : Nat) (Option.some Jvm.ClassFile.FieldType.int)) ∈ lw_all := lw_g (lw_at lw_m6 54 rfl) rfl
theorem q1331 : (Jvm.Cond.constantLong "LiarMaps" (285 : Nat) (255 : Int64)) ∈ lw_all := lw_g (lw_at lw_m6 55 rfl) rfl
theorem q1332 : (Jvm.Cond.methodLink "LiarMaps" (287 : Nat) ({ cls := "java/lang/StringBuilder", name := "append", desc := "(C)Ljava/lang/StringBuilder;" } : Jvm.MethodName)) ∈ lw_all := lw_g (lw_at lw_m6 56 rfl) rfl
theorem q1353 : (Jvm.Cond.instanceMethod ({ cls := "LiarMaps", name := "wipe", desc := "()I" } : Jvm.MethodName)) ∈ lw_all := lw_g (lw_at lw_m6 77 rfl) rfl
theorem q1354 : (Jvm.Cond.selects "LiarMaps" ({ cls := "LiarMaps", name := "wipe", desc := "()I" } : Jvm.MethodName) ({ cls := "LiarMaps", name := "wipe", desc := "()I" } : Jvm.MethodName)) ∈ lw_all := lw_g (lw_at lw_m6 78 rfl) rfl
theorem q1355 : (Jvm.Cond.code ({ cls := "LiarMaps", name := "wipe", desc := "()I" } : Jvm.MethodName) prog_1_method_47_code (2 : Nat) (Option.some Jvm.ClassFile.FieldType.int)) ∈ lw_all := lw_g (lw_at lw_m6 79 rfl) rfl
theorem q1356 : (Jvm.Cond.methodLink "LiarMaps" (291 : Nat) ({ cls := "java/lang/StringBuilder", name := "setLength", desc := "(I)V" } : Jvm.MethodName)) ∈ lw_all := lw_g (lw_at lw_m6 80 rfl) rfl
theorem q1377 : (Jvm.Cond.instanceMethod ({ cls := "LiarMaps", name := "fault", desc := "()I" } : Jvm.MethodName)) ∈ lw_all := lw_g (lw_at lw_m6 101 rfl) rfl
theorem q1378 : (Jvm.Cond.selects "LiarMaps" ({ cls := "LiarMaps", name := "fault", desc := "()I" } : Jvm.MethodName) ({ cls := "LiarMaps", name := "fault", desc := "()I" } : Jvm.MethodName)) ∈ lw_all := lw_g (lw_at lw_m6 102 rfl) rfl
theorem q1379 : (Jvm.Cond.code ({ cls := "LiarMaps", name := "fault", desc := "()I" } : Jvm.MethodName) prog_1_method_48_code (2 : Nat) (Option.some Jvm.ClassFile.FieldType.int)) ∈ lw_all := lw_g (lw_at lw_m6 103 rfl) rfl
theorem q1380 : (Jvm.Cond.classLink "LiarMaps" (294 : Nat) "LiarMaps$Reader") ∈ lw_all := lw_g (lw_at lw_m6 104 rfl) rfl
theorem q1382 : (Jvm.Cond.methodLink "LiarMaps" (296 : Nat) ({ cls := "LiarMaps$Reader", name := "<init>", desc := "(LLiarMaps;)V" } : Jvm.MethodName)) ∈ lw_all := lw_g (lw_at lw_m6 106 rfl) rfl
theorem q1555 : (Jvm.Cond.fieldLinkNest "LiarMaps" (306 : Nat) "LiarMaps$Order" "word" "Ljava/lang/String;" "LiarMaps") ∈ lw_tbl := lw_at lw_m7 39 rfl
theorem q1557 : (Jvm.Cond.fieldLinkNest "LiarMaps" (336 : Nat) "LiarMaps$Order" "number" "I" "LiarMaps") ∈ lw_tbl := lw_at lw_m7 41 rfl
theorem q1559 : (Jvm.Cond.fieldLinkNest "LiarMaps" (332 : Nat) "LiarMaps$Order" "place" "I" "LiarMaps") ∈ lw_tbl := lw_at lw_m7 43 rfl
theorem q1561 : (Jvm.Cond.fieldLinkNest "LiarMaps" (333 : Nat) "LiarMaps$Order" "other" "I" "LiarMaps") ∈ lw_tbl := lw_at lw_m7 45 rfl
theorem q1618 : (Jvm.Cond.fieldLinkNest "LiarMaps" (339 : Nat) "LiarMaps$Reader" "orders" "Ljava/util/List;" "LiarMaps") ∈ lw_tbl := lw_at lw_m7 102 rfl
theorem q1620 : (Jvm.Cond.fieldLinkNest "LiarMaps" (303 : Nat) "LiarMaps$Reader" "spot" "I" "LiarMaps") ∈ lw_tbl := lw_at lw_m7 104 rfl
theorem q1622 : (Jvm.Cond.fieldLinkNest "LiarMaps" (299 : Nat) "LiarMaps$Reader" "isWrong" "Z" "LiarMaps") ∈ lw_tbl := lw_at lw_m7 106 rfl
theorem q1633 : (Jvm.Cond.instanceMethod ({ cls := "LiarMaps", name := "carryOut", desc := "()I" } : Jvm.MethodName)) ∈ lw_all := lw_g (lw_at lw_m7 117 rfl) rfl
theorem q1634 : (Jvm.Cond.selects "LiarMaps" ({ cls := "LiarMaps", name := "carryOut", desc := "()I" } : Jvm.MethodName) ({ cls := "LiarMaps", name := "carryOut", desc := "()I" } : Jvm.MethodName)) ∈ lw_all := lw_g (lw_at lw_m7 118 rfl) rfl
theorem q1635 : (Jvm.Cond.code ({ cls := "LiarMaps", name := "carryOut", desc := "()I" } : Jvm.MethodName) prog_1_method_50_code (3 : Nat) (Option.some Jvm.ClassFile.FieldType.int)) ∈ lw_all := lw_g (lw_at lw_m7 119 rfl) rfl
theorem q1636 : (Jvm.Cond.interfaceEntry "LiarMaps" (343 : Nat)) ∈ lw_tbl := lw_at lw_m7 120 rfl
theorem q1637 : (Jvm.Cond.methodLink "LiarMaps" (343 : Nat) ({ cls := "java/util/List", name := "size", desc := "()I" } : Jvm.MethodName)) ∈ lw_all := lw_g (lw_at lw_m7 121 rfl) rfl
theorem q1644 : (Jvm.Cond.interfaceEntry "LiarMaps" (346 : Nat)) ∈ lw_tbl := lw_at lw_m7 128 rfl
theorem q1645 : (Jvm.Cond.methodLink "LiarMaps" (346 : Nat) ({ cls := "java/util/List", name := "get", desc := "(I)Ljava/lang/Object;" } : Jvm.MethodName)) ∈ lw_all := lw_g (lw_at lw_m7 129 rfl) rfl
theorem q1654 : (Jvm.Cond.classLink "LiarMaps" (307 : Nat) "LiarMaps$Order") ∈ lw_all := lw_g (lw_at lw_m7 138 rfl) rfl
theorem q1655 : (Jvm.Cond.methodLink "LiarMaps" (347 : Nat) ({ cls := "LiarMaps", name := "doIt", desc := "(LLiarMaps$Order;)I" } : Jvm.MethodName)) ∈ lw_all := lw_g (lw_at lw_m7 139 rfl) rfl
theorem q1656 : (Jvm.Cond.privateMethod ({ cls := "LiarMaps", name := "doIt", desc := "(LLiarMaps$Order;)I" } : Jvm.MethodName)) ∈ lw_tbl := lw_at lw_m7 140 rfl
theorem q1657 : (Jvm.Cond.instanceMethod ({ cls := "LiarMaps", name := "doIt", desc := "(LLiarMaps$Order;)I" } : Jvm.MethodName)) ∈ lw_all := lw_g (lw_at lw_m7 141 rfl) rfl
theorem q1658 : (Jvm.Cond.code ({ cls := "LiarMaps", name := "doIt", desc := "(LLiarMaps$Order;)I" } : Jvm.MethodName) prog_1_method_49_code (4 : Nat) (Option.some Jvm.ClassFile.FieldType.int)) ∈ lw_all := lw_g (lw_at lw_m7 142 rfl) rfl
theorem q1659 : (Jvm.Cond.methodLink "LiarMaps" (312 : Nat) ({ cls := "java/lang/String", name := "hashCode", desc := "()I" } : Jvm.MethodName)) ∈ lw_all := lw_g (lw_at lw_m7 143 rfl) rfl
theorem q1660 : (Jvm.Cond.stringRef "LiarMaps" (317 : Nat) "road") ∈ lw_tbl := lw_at lw_m7 144 rfl
theorem q1661 : (Jvm.Cond.methodLink "LiarMaps" (319 : Nat) ({ cls := "java/lang/String", name := "equals", desc := "(Ljava/lang/Object;)Z" } : Jvm.MethodName)) ∈ lw_all := lw_g (lw_at lw_m7 145 rfl) rfl
theorem q1662 : (Jvm.Cond.stringRef "LiarMaps" (323 : Nat) "treasure") ∈ lw_tbl := lw_at lw_m7 146 rfl
theorem q1663 : (Jvm.Cond.stringRef "LiarMaps" (324 : Nat) "begin") ∈ lw_tbl := lw_at lw_m7 147 rfl
theorem q1664 : (Jvm.Cond.stringRef "LiarMaps" (326 : Nat) "there") ∈ lw_tbl := lw_at lw_m7 148 rfl
theorem q1665 : (Jvm.Cond.stringRef "LiarMaps" (328 : Nat) "not") ∈ lw_tbl := lw_at lw_m7 149 rfl
theorem q1666 : (Jvm.Cond.stringRef "LiarMaps" (330 : Nat) "check") ∈ lw_tbl := lw_at lw_m7 150 rfl
theorem q1667 : (Jvm.Cond.stringRef "LiarMaps" (331 : Nat) "dig") ∈ lw_tbl := lw_at lw_m7 151 rfl
theorem q1669 : (Jvm.Cond.instanceMethod ({ cls := "LiarMaps", name := "undo", desc := "()I" } : Jvm.MethodName)) ∈ lw_all := lw_g (lw_at lw_m7 153 rfl) rfl
theorem q1670 : (Jvm.Cond.selects "LiarMaps" ({ cls := "LiarMaps", name := "undo", desc := "()I" } : Jvm.MethodName) ({ cls := "LiarMaps", name := "undo", desc := "()I" } : Jvm.MethodName)) ∈ lw_all := lw_g (lw_at lw_m7 154 rfl) rfl
theorem q1671 : (Jvm.Cond.code ({ cls := "LiarMaps", name := "undo", desc := "()I" } : Jvm.MethodName) prog_1_method_51_code (1 : Nat) (Option.some Jvm.ClassFile.FieldType.int)) ∈ lw_all := lw_g (lw_at lw_m7 155 rfl) rfl
theorem q1672 : (Jvm.Cond.interfaceEntry "LiarMaps" (351 : Nat)) ∈ lw_tbl := lw_at lw_m7 156 rfl
theorem q1673 : (Jvm.Cond.interfaceEntry "LiarMaps" (355 : Nat)) ∈ lw_tbl := lw_at lw_m7 157 rfl
theorem q1674 : (Jvm.Cond.methodLink "LiarMaps" (355 : Nat) ({ cls := "java/util/Deque", name := "removeLast", desc := "()Ljava/lang/Object;" } : Jvm.MethodName)) ∈ lw_all := lw_g (lw_at lw_m7 158 rfl) rfl
theorem q1699 : (Jvm.Cond.instanceMethod ({ cls := "LiarMaps", name := "save", desc := "(I)I" } : Jvm.MethodName)) ∈ lw_all := lw_g (lw_at lw_m7 183 rfl) rfl
theorem q1700 : (Jvm.Cond.selects "LiarMaps" ({ cls := "LiarMaps", name := "save", desc := "(I)I" } : Jvm.MethodName) ({ cls := "LiarMaps", name := "save", desc := "(I)I" } : Jvm.MethodName)) ∈ lw_all := lw_g (lw_at lw_m7 184 rfl) rfl
theorem q1701 : (Jvm.Cond.code ({ cls := "LiarMaps", name := "save", desc := "(I)I" } : Jvm.MethodName) prog_1_method_52_code (2 : Nat) (Option.some Jvm.ClassFile.FieldType.int)) ∈ lw_all := lw_g (lw_at lw_m7 185 rfl) rfl
theorem q1703 : (Jvm.Cond.instanceMethod ({ cls := "LiarMaps", name := "restore", desc := "(I)I" } : Jvm.MethodName)) ∈ lw_all := lw_g (lw_at lw_m7 187 rfl) rfl
theorem q1704 : (Jvm.Cond.selects "LiarMaps" ({ cls := "LiarMaps", name := "restore", desc := "(I)I" } : Jvm.MethodName) ({ cls := "LiarMaps", name := "restore", desc := "(I)I" } : Jvm.MethodName)) ∈ lw_all := lw_g (lw_at lw_m7 188 rfl) rfl
theorem q1705 : (Jvm.Cond.code ({ cls := "LiarMaps", name := "restore", desc := "(I)I" } : Jvm.MethodName) prog_1_method_53_code (2 : Nat) (Option.some Jvm.ClassFile.FieldType.int)) ∈ lw_all := lw_g (lw_at lw_m7 189 rfl) rfl
theorem q2036 : (Jvm.Cond.castable "LiarMaps" "java/lang/Object") ∈ lw_tbl := lw_at lw_m9 40 rfl
theorem in_X0 : ∀ w ∈ wsX00, w ∈ lw_all := lw_in wsX00 [325, 327, 329, 331] (by decide +kernel) (by decide +kernel)
/-! LiarMaps$Chart -/
set_option maxRecDepth 100000
def RX1 : String := "LiarMaps$Chart"
def TX1 : u_T := fun k => match k with
  | 0 => ("LiarMaps$Chart", "settings", "[I", true)
  | 1 => ("LiarMaps$Chart", "roads", "Ljava/util/BitSet;", true)
  | 2 => ("LiarMaps$Chart", "revealed", "Ljava/util/BitSet;", true)
  | 3 => ("LiarMaps$Chart", "players", "[LLiarMaps$Player;", true)
  | 4 => ("LiarMaps$Chart", "digs", "Ljava/util/LinkedList;", true)
  | 5 => ("LiarMaps$Chart", "treasure", "I", false)
  | 6 => ("LiarMaps$Chart", "state", "I", false)
  | 7 => ("LiarMaps$Chart", "turns", "I", false)
  | _ => ("LiarMaps$Chart", "finder", "I", false)
def tyX1 : Nat → FieldType := fun k => match k with
  | 0 => .array .int
  | 1 => .object "java/util/BitSet"
  | 2 => .object "java/util/BitSet"
  | 3 => .array (.object "LiarMaps$Player")
  | 4 => .object "java/util/LinkedList"
  | 5 => .int
  | 6 => .int
  | 7 => .int
  | _ => .int
abbrev wsX10 : List Cond := u_ws RX1 TX1 9
theorem nmX1 : ∀ a, a < 9 → ∀ b, b < 9 → a ≠ b → (TX1 a).2.1 ≠ (TX1 b).2.1 := by decide +kernel
theorem tyX1_ok : ∀ k, k < 9 → parseFieldDescriptor (TX1 k).2.2.1 = some (tyX1 k) := by decide +kernel
abbrev cX1_init : ByteArray := prog_2_method_1_code
def yX1_init : MethodName := ⟨RX1, "<init>", "()V"⟩
def dkwX1_init_4 : List UInt8 := [187, 0, 34, 89, 183, 0, 36, 181, 0, 37, 42, 16, 250, 181, 0, 41, 177]
abbrev dktX1_init_4 : List UInt8 := dkwX1_init_4 ++ []
def dkwX1_init_3 : List UInt8 := [187, 0, 27, 89, 183, 0, 29, 83, 89, 5, 187, 0, 27, 89, 183, 0, 29, 83, 181, 0, 30, 42]
abbrev dktX1_init_3 : List UInt8 := dkwX1_init_3 ++ dktX1_init_4
def dkwX1_init_2 : List UInt8 := [183, 0, 17, 181, 0, 24, 42, 6, 189, 0, 27, 89, 3, 187, 0, 27, 89, 183, 0, 29, 83, 89, 4]
abbrev dktX1_init_2 : List UInt8 := dkwX1_init_2 ++ dktX1_init_3
def dkwX1_init_1 : List UInt8 := [79, 181, 0, 9, 42, 187, 0, 15, 89, 16, 28, 183, 0, 17, 181, 0, 20, 42, 187, 0, 15, 89, 16, 28]
abbrev dktX1_init_1 : List UInt8 := dkwX1_init_1 ++ dktX1_init_2
def dkwX1_init_0 : List UInt8 := [42, 183, 0, 3, 42, 7, 188, 10, 89, 3, 5, 79, 89, 4, 8, 79, 89, 5, 7, 79, 89, 6, 16, 40]
abbrev dktX1_init_0 : List UInt8 := dkwX1_init_0 ++ dktX1_init_1
theorem dksX1_init_0 : cX1_init.data.toList.drop 0 = dktX1_init_0 := by decide +kernel
theorem dksX1_init_1 : cX1_init.data.toList.drop 24 = dktX1_init_1 := dk_seg dksX1_init_0 24 rfl rfl
theorem dksX1_init_2 : cX1_init.data.toList.drop 48 = dktX1_init_2 := dk_seg dksX1_init_1 24 rfl rfl
theorem dksX1_init_3 : cX1_init.data.toList.drop 71 = dktX1_init_3 := dk_seg dksX1_init_2 23 rfl rfl
theorem dksX1_init_4 : cX1_init.data.toList.drop 93 = dktX1_init_4 := dk_seg dksX1_init_3 22 rfl rfl
theorem dX1_init_0 : decode cX1_init 0 = .ok (.aload_n 0, 1) := dk_42 (dk_at dksX1_init_0 0 rfl rfl)
theorem dX1_init_1 : decode cX1_init 1 = .ok (.invokespecial 3, 3) := dk_183 0 3 (dk_at dksX1_init_0 1 rfl rfl)
theorem dX1_init_4 : decode cX1_init 4 = .ok (.aload_n 0, 1) := dk_42 (dk_at dksX1_init_0 4 rfl rfl)
theorem dX1_init_5 : decode cX1_init 5 = .ok (.iconst 4, 1) := dk_7 (dk_at dksX1_init_0 5 rfl rfl)
theorem dX1_init_6 : decode cX1_init 6 = .ok (.newarray .int, 2) := dk_188_10 (dk_at dksX1_init_0 6 rfl rfl)
theorem dX1_init_8 : decode cX1_init 8 = .ok (.dup, 1) := dk_89 (dk_at dksX1_init_0 8 rfl rfl)
theorem dX1_init_9 : decode cX1_init 9 = .ok (.iconst 0, 1) := dk_3 (dk_at dksX1_init_0 9 rfl rfl)
theorem dX1_init_10 : decode cX1_init 10 = .ok (.iconst 2, 1) := dk_5 (dk_at dksX1_init_0 10 rfl rfl)
theorem dX1_init_11 : decode cX1_init 11 = .ok (.iastore, 1) := dk_79 (dk_at dksX1_init_0 11 rfl rfl)
theorem dX1_init_12 : decode cX1_init 12 = .ok (.dup, 1) := dk_89 (dk_at dksX1_init_0 12 rfl rfl)
theorem dX1_init_13 : decode cX1_init 13 = .ok (.iconst 1, 1) := dk_4 (dk_at dksX1_init_0 13 rfl rfl)
theorem dX1_init_14 : decode cX1_init 14 = .ok (.iconst 5, 1) := dk_8 (dk_at dksX1_init_0 14 rfl rfl)
theorem dX1_init_15 : decode cX1_init 15 = .ok (.iastore, 1) := dk_79 (dk_at dksX1_init_0 15 rfl rfl)
theorem dX1_init_16 : decode cX1_init 16 = .ok (.dup, 1) := dk_89 (dk_at dksX1_init_0 16 rfl rfl)
theorem dX1_init_17 : decode cX1_init 17 = .ok (.iconst 2, 1) := dk_5 (dk_at dksX1_init_0 17 rfl rfl)
theorem dX1_init_18 : decode cX1_init 18 = .ok (.iconst 4, 1) := dk_7 (dk_at dksX1_init_0 18 rfl rfl)
theorem dX1_init_19 : decode cX1_init 19 = .ok (.iastore, 1) := dk_79 (dk_at dksX1_init_0 19 rfl rfl)
theorem dX1_init_20 : decode cX1_init 20 = .ok (.dup, 1) := dk_89 (dk_at dksX1_init_0 20 rfl rfl)
theorem dX1_init_21 : decode cX1_init 21 = .ok (.iconst 3, 1) := dk_6 (dk_at dksX1_init_0 21 rfl rfl)
theorem dX1_init_22 : decode cX1_init 22 = .ok (.bipush 40, 2) := dk_16 40 (dk_at dksX1_init_0 22 rfl rfl)
theorem dX1_init_24 : decode cX1_init 24 = .ok (.iastore, 1) := dk_79 (dk_at dksX1_init_1 0 rfl rfl)
theorem dX1_init_25 : decode cX1_init 25 = .ok (.putfield 9, 3) := dk_181 0 9 (dk_at dksX1_init_1 1 rfl rfl)
theorem dX1_init_28 : decode cX1_init 28 = .ok (.aload_n 0, 1) := dk_42 (dk_at dksX1_init_1 4 rfl rfl)
theorem dX1_init_29 : decode cX1_init 29 = .ok (.new 15, 3) := dk_187 0 15 (dk_at dksX1_init_1 5 rfl rfl)
theorem dX1_init_32 : decode cX1_init 32 = .ok (.dup, 1) := dk_89 (dk_at dksX1_init_1 8 rfl rfl)
theorem dX1_init_33 : decode cX1_init 33 = .ok (.bipush 28, 2) := dk_16 28 (dk_at dksX1_init_1 9 rfl rfl)
theorem dX1_init_35 : decode cX1_init 35 = .ok (.invokespecial 17, 3) := dk_183 0 17 (dk_at dksX1_init_1 11 rfl rfl)
theorem dX1_init_38 : decode cX1_init 38 = .ok (.putfield 20, 3) := dk_181 0 20 (dk_at dksX1_init_1 14 rfl rfl)
theorem dX1_init_41 : decode cX1_init 41 = .ok (.aload_n 0, 1) := dk_42 (dk_at dksX1_init_1 17 rfl rfl)
theorem dX1_init_42 : decode cX1_init 42 = .ok (.new 15, 3) := dk_187 0 15 (dk_at dksX1_init_1 18 rfl rfl)
theorem dX1_init_45 : decode cX1_init 45 = .ok (.dup, 1) := dk_89 (dk_at dksX1_init_1 21 rfl rfl)
theorem dX1_init_46 : decode cX1_init 46 = .ok (.bipush 28, 2) := dk_16 28 (dk_at dksX1_init_1 22 rfl rfl)
theorem dX1_init_48 : decode cX1_init 48 = .ok (.invokespecial 17, 3) := dk_183 0 17 (dk_at dksX1_init_2 0 rfl rfl)
theorem dX1_init_51 : decode cX1_init 51 = .ok (.putfield 24, 3) := dk_181 0 24 (dk_at dksX1_init_2 3 rfl rfl)
theorem dX1_init_54 : decode cX1_init 54 = .ok (.aload_n 0, 1) := dk_42 (dk_at dksX1_init_2 6 rfl rfl)
theorem dX1_init_55 : decode cX1_init 55 = .ok (.iconst 3, 1) := dk_6 (dk_at dksX1_init_2 7 rfl rfl)
theorem dX1_init_56 : decode cX1_init 56 = .ok (.anewarray 27, 3) := dk_189 0 27 (dk_at dksX1_init_2 8 rfl rfl)
theorem dX1_init_59 : decode cX1_init 59 = .ok (.dup, 1) := dk_89 (dk_at dksX1_init_2 11 rfl rfl)
theorem dX1_init_60 : decode cX1_init 60 = .ok (.iconst 0, 1) := dk_3 (dk_at dksX1_init_2 12 rfl rfl)
theorem dX1_init_61 : decode cX1_init 61 = .ok (.new 27, 3) := dk_187 0 27 (dk_at dksX1_init_2 13 rfl rfl)
theorem dX1_init_64 : decode cX1_init 64 = .ok (.dup, 1) := dk_89 (dk_at dksX1_init_2 16 rfl rfl)
theorem dX1_init_65 : decode cX1_init 65 = .ok (.invokespecial 29, 3) := dk_183 0 29 (dk_at dksX1_init_2 17 rfl rfl)
theorem dX1_init_68 : decode cX1_init 68 = .ok (.aastore, 1) := dk_83 (dk_at dksX1_init_2 20 rfl rfl)
theorem dX1_init_69 : decode cX1_init 69 = .ok (.dup, 1) := dk_89 (dk_at dksX1_init_2 21 rfl rfl)
theorem dX1_init_70 : decode cX1_init 70 = .ok (.iconst 1, 1) := dk_4 (dk_at dksX1_init_2 22 rfl rfl)
theorem dX1_init_71 : decode cX1_init 71 = .ok (.new 27, 3) := dk_187 0 27 (dk_at dksX1_init_3 0 rfl rfl)
theorem dX1_init_74 : decode cX1_init 74 = .ok (.dup, 1) := dk_89 (dk_at dksX1_init_3 3 rfl rfl)
theorem dX1_init_75 : decode cX1_init 75 = .ok (.invokespecial 29, 3) := dk_183 0 29 (dk_at dksX1_init_3 4 rfl rfl)
theorem dX1_init_78 : decode cX1_init 78 = .ok (.aastore, 1) := dk_83 (dk_at dksX1_init_3 7 rfl rfl)
theorem dX1_init_79 : decode cX1_init 79 = .ok (.dup, 1) := dk_89 (dk_at dksX1_init_3 8 rfl rfl)
theorem dX1_init_80 : decode cX1_init 80 = .ok (.iconst 2, 1) := dk_5 (dk_at dksX1_init_3 9 rfl rfl)
theorem dX1_init_81 : decode cX1_init 81 = .ok (.new 27, 3) := dk_187 0 27 (dk_at dksX1_init_3 10 rfl rfl)
theorem dX1_init_84 : decode cX1_init 84 = .ok (.dup, 1) := dk_89 (dk_at dksX1_init_3 13 rfl rfl)
theorem dX1_init_85 : decode cX1_init 85 = .ok (.invokespecial 29, 3) := dk_183 0 29 (dk_at dksX1_init_3 14 rfl rfl)
theorem dX1_init_88 : decode cX1_init 88 = .ok (.aastore, 1) := dk_83 (dk_at dksX1_init_3 17 rfl rfl)
theorem dX1_init_89 : decode cX1_init 89 = .ok (.putfield 30, 3) := dk_181 0 30 (dk_at dksX1_init_3 18 rfl rfl)
theorem dX1_init_92 : decode cX1_init 92 = .ok (.aload_n 0, 1) := dk_42 (dk_at dksX1_init_3 21 rfl rfl)
theorem dX1_init_93 : decode cX1_init 93 = .ok (.new 34, 3) := dk_187 0 34 (dk_at dksX1_init_4 0 rfl rfl)
theorem dX1_init_96 : decode cX1_init 96 = .ok (.dup, 1) := dk_89 (dk_at dksX1_init_4 3 rfl rfl)
theorem dX1_init_97 : decode cX1_init 97 = .ok (.invokespecial 36, 3) := dk_183 0 36 (dk_at dksX1_init_4 4 rfl rfl)
theorem dX1_init_100 : decode cX1_init 100 = .ok (.putfield 37, 3) := dk_181 0 37 (dk_at dksX1_init_4 7 rfl rfl)
theorem dX1_init_103 : decode cX1_init 103 = .ok (.aload_n 0, 1) := dk_42 (dk_at dksX1_init_4 10 rfl rfl)
theorem dX1_init_104 : decode cX1_init 104 = .ok (.bipush (-6), 2) := dk_16 250 (dk_at dksX1_init_4 11 rfl rfl)
theorem dX1_init_106 : decode cX1_init 106 = .ok (.putfield 41, 3) := dk_181 0 41 (dk_at dksX1_init_4 13 rfl rfl)
theorem dX1_init_109 : decode cX1_init 109 = .ok (.return_, 1) := dk_177 (dk_at dksX1_init_4 16 rfl rfl)
abbrev cX1_copy : ByteArray := prog_2_method_2_code
def yX1_copy : MethodName := ⟨RX1, "copy", "()LLiarMaps$Chart;"⟩
def dkwX1_copy_7 : List UInt8 := [180, 0, 41, 181, 0, 41, 43, 176]
abbrev dktX1_copy_7 : List UInt8 := dkwX1_copy_7 ++ []
def dkwX1_copy_6 : List UInt8 := [180, 0, 84, 181, 0, 84, 43, 42, 180, 0, 87, 181, 0, 87, 43, 42, 180, 0, 90, 181, 0, 90, 43, 42]
abbrev dktX1_copy_6 : List UInt8 := dkwX1_copy_6 ++ dktX1_copy_7
def dkwX1_copy_5 : List UInt8 := [44, 185, 0, 74, 1, 0, 192, 0, 78, 78, 43, 180, 0, 37, 45, 182, 0, 80, 167, 255, 229, 43, 42]
abbrev dktX1_copy_5 : List UInt8 := dkwX1_copy_5 ++ dktX1_copy_6
def dkwX1_copy_4 : List UInt8 := [83, 132, 2, 1, 167, 255, 233, 42, 180, 0, 37, 182, 0, 64, 77, 44, 185, 0, 68, 1, 0, 153, 0, 24]
abbrev dktX1_copy_4 : List UInt8 := dkwX1_copy_4 ++ dktX1_copy_5
def dkwX1_copy_3 : List UInt8 := [167, 255, 215, 3, 61, 28, 6, 162, 0, 24, 43, 180, 0, 30, 28, 42, 180, 0, 30, 28, 50, 182, 0, 60]
abbrev dktX1_copy_3 : List UInt8 := dkwX1_copy_3 ++ dktX1_copy_4
def dkwX1_copy_2 : List UInt8 := [184, 0, 56, 43, 180, 0, 24, 28, 42, 180, 0, 24, 28, 182, 0, 52, 184, 0, 56, 132, 2, 1]
abbrev dktX1_copy_2 : List UInt8 := dkwX1_copy_2 ++ dktX1_copy_3
def dkwX1_copy_1 : List UInt8 := [184, 0, 46, 3, 61, 28, 16, 28, 162, 0, 41, 43, 180, 0, 20, 28, 42, 180, 0, 20, 28, 182, 0, 52]
abbrev dktX1_copy_1 : List UInt8 := dkwX1_copy_1 ++ dktX1_copy_2
def dkwX1_copy_0 : List UInt8 := [187, 0, 10, 89, 183, 0, 45, 76, 42, 180, 0, 9, 3, 43, 180, 0, 9, 3, 42, 180, 0, 9, 190]
abbrev dktX1_copy_0 : List UInt8 := dkwX1_copy_0 ++ dktX1_copy_1
theorem dksX1_copy_0 : cX1_copy.data.toList.drop 0 = dktX1_copy_0 := by decide +kernel
theorem dksX1_copy_1 : cX1_copy.data.toList.drop 23 = dktX1_copy_1 := dk_seg dksX1_copy_0 23 rfl rfl
theorem dksX1_copy_2 : cX1_copy.data.toList.drop 47 = dktX1_copy_2 := dk_seg dksX1_copy_1 24 rfl rfl
theorem dksX1_copy_3 : cX1_copy.data.toList.drop 69 = dktX1_copy_3 := dk_seg dksX1_copy_2 22 rfl rfl
theorem dksX1_copy_4 : cX1_copy.data.toList.drop 93 = dktX1_copy_4 := dk_seg dksX1_copy_3 24 rfl rfl
theorem dksX1_copy_5 : cX1_copy.data.toList.drop 117 = dktX1_copy_5 := dk_seg dksX1_copy_4 24 rfl rfl
theorem dksX1_copy_6 : cX1_copy.data.toList.drop 140 = dktX1_copy_6 := dk_seg dksX1_copy_5 23 rfl rfl
theorem dksX1_copy_7 : cX1_copy.data.toList.drop 164 = dktX1_copy_7 := dk_seg dksX1_copy_6 24 rfl rfl
theorem dX1_copy_0 : decode cX1_copy 0 = .ok (.new 10, 3) := dk_187 0 10 (dk_at dksX1_copy_0 0 rfl rfl)
theorem dX1_copy_3 : decode cX1_copy 3 = .ok (.dup, 1) := dk_89 (dk_at dksX1_copy_0 3 rfl rfl)
theorem dX1_copy_4 : decode cX1_copy 4 = .ok (.invokespecial 45, 3) := dk_183 0 45 (dk_at dksX1_copy_0 4 rfl rfl)
theorem dX1_copy_7 : decode cX1_copy 7 = .ok (.astore_n 1, 1) := dk_76 (dk_at dksX1_copy_0 7 rfl rfl)
theorem dX1_copy_8 : decode cX1_copy 8 = .ok (.aload_n 0, 1) := dk_42 (dk_at dksX1_copy_0 8 rfl rfl)
theorem dX1_copy_9 : decode cX1_copy 9 = .ok (.getfield 9, 3) := dk_180 0 9 (dk_at dksX1_copy_0 9 rfl rfl)
theorem dX1_copy_12 : decode cX1_copy 12 = .ok (.iconst 0, 1) := dk_3 (dk_at dksX1_copy_0 12 rfl rfl)
theorem dX1_copy_13 : decode cX1_copy 13 = .ok (.aload_n 1, 1) := dk_43 (dk_at dksX1_copy_0 13 rfl rfl)
theorem dX1_copy_14 : decode cX1_copy 14 = .ok (.getfield 9, 3) := dk_180 0 9 (dk_at dksX1_copy_0 14 rfl rfl)
theorem dX1_copy_17 : decode cX1_copy 17 = .ok (.iconst 0, 1) := dk_3 (dk_at dksX1_copy_0 17 rfl rfl)
theorem dX1_copy_18 : decode cX1_copy 18 = .ok (.aload_n 0, 1) := dk_42 (dk_at dksX1_copy_0 18 rfl rfl)
theorem dX1_copy_19 : decode cX1_copy 19 = .ok (.getfield 9, 3) := dk_180 0 9 (dk_at dksX1_copy_0 19 rfl rfl)
theorem dX1_copy_22 : decode cX1_copy 22 = .ok (.arraylength, 1) := dk_190 (dk_at dksX1_copy_0 22 rfl rfl)
theorem dX1_copy_23 : decode cX1_copy 23 = .ok (.invokestatic 46, 3) := dk_184 0 46 (dk_at dksX1_copy_1 0 rfl rfl)
theorem dX1_copy_26 : decode cX1_copy 26 = .ok (.iconst 0, 1) := dk_3 (dk_at dksX1_copy_1 3 rfl rfl)
theorem dX1_copy_27 : decode cX1_copy 27 = .ok (.istore_n 2, 1) := dk_61 (dk_at dksX1_copy_1 4 rfl rfl)
theorem dX1_copy_28 : decode cX1_copy 28 = .ok (.iload_n 2, 1) := dk_28 (dk_at dksX1_copy_1 5 rfl rfl)
theorem dX1_copy_29 : decode cX1_copy 29 = .ok (.bipush 28, 2) := dk_16 28 (dk_at dksX1_copy_1 6 rfl rfl)
theorem dX1_copy_31 : decode cX1_copy 31 = .ok (.if_icmp .ge 41, 3) := dk_162 0 41 (dk_at dksX1_copy_1 8 rfl rfl)
theorem dX1_copy_34 : decode cX1_copy 34 = .ok (.aload_n 1, 1) := dk_43 (dk_at dksX1_copy_1 11 rfl rfl)
theorem dX1_copy_35 : decode cX1_copy 35 = .ok (.getfield 20, 3) := dk_180 0 20 (dk_at dksX1_copy_1 12 rfl rfl)
theorem dX1_copy_38 : decode cX1_copy 38 = .ok (.iload_n 2, 1) := dk_28 (dk_at dksX1_copy_1 15 rfl rfl)
theorem dX1_copy_39 : decode cX1_copy 39 = .ok (.aload_n 0, 1) := dk_42 (dk_at dksX1_copy_1 16 rfl rfl)
theorem dX1_copy_40 : decode cX1_copy 40 = .ok (.getfield 20, 3) := dk_180 0 20 (dk_at dksX1_copy_1 17 rfl rfl)
theorem dX1_copy_43 : decode cX1_copy 43 = .ok (.iload_n 2, 1) := dk_28 (dk_at dksX1_copy_1 20 rfl rfl)
theorem dX1_copy_44 : decode cX1_copy 44 = .ok (.invokevirtual 52, 3) := dk_182 0 52 (dk_at dksX1_copy_1 21 rfl rfl)
theorem dX1_copy_47 : decode cX1_copy 47 = .ok (.invokestatic 56, 3) := dk_184 0 56 (dk_at dksX1_copy_2 0 rfl rfl)
theorem dX1_copy_50 : decode cX1_copy 50 = .ok (.aload_n 1, 1) := dk_43 (dk_at dksX1_copy_2 3 rfl rfl)
theorem dX1_copy_51 : decode cX1_copy 51 = .ok (.getfield 24, 3) := dk_180 0 24 (dk_at dksX1_copy_2 4 rfl rfl)
theorem dX1_copy_54 : decode cX1_copy 54 = .ok (.iload_n 2, 1) := dk_28 (dk_at dksX1_copy_2 7 rfl rfl)
theorem dX1_copy_55 : decode cX1_copy 55 = .ok (.aload_n 0, 1) := dk_42 (dk_at dksX1_copy_2 8 rfl rfl)
theorem dX1_copy_56 : decode cX1_copy 56 = .ok (.getfield 24, 3) := dk_180 0 24 (dk_at dksX1_copy_2 9 rfl rfl)
theorem dX1_copy_59 : decode cX1_copy 59 = .ok (.iload_n 2, 1) := dk_28 (dk_at dksX1_copy_2 12 rfl rfl)
theorem dX1_copy_60 : decode cX1_copy 60 = .ok (.invokevirtual 52, 3) := dk_182 0 52 (dk_at dksX1_copy_2 13 rfl rfl)
theorem dX1_copy_63 : decode cX1_copy 63 = .ok (.invokestatic 56, 3) := dk_184 0 56 (dk_at dksX1_copy_2 16 rfl rfl)
theorem dX1_copy_66 : decode cX1_copy 66 = .ok (.iinc 2 1, 3) := dk_132 2 1 (dk_at dksX1_copy_2 19 rfl rfl)
theorem dX1_copy_69 : decode cX1_copy 69 = .ok (.goto (-41), 3) := dk_167 255 215 (dk_at dksX1_copy_3 0 rfl rfl)
theorem dX1_copy_72 : decode cX1_copy 72 = .ok (.iconst 0, 1) := dk_3 (dk_at dksX1_copy_3 3 rfl rfl)
theorem dX1_copy_73 : decode cX1_copy 73 = .ok (.istore_n 2, 1) := dk_61 (dk_at dksX1_copy_3 4 rfl rfl)
theorem dX1_copy_74 : decode cX1_copy 74 = .ok (.iload_n 2, 1) := dk_28 (dk_at dksX1_copy_3 5 rfl rfl)
theorem dX1_copy_75 : decode cX1_copy 75 = .ok (.iconst 3, 1) := dk_6 (dk_at dksX1_copy_3 6 rfl rfl)
theorem dX1_copy_76 : decode cX1_copy 76 = .ok (.if_icmp .ge 24, 3) := dk_162 0 24 (dk_at dksX1_copy_3 7 rfl rfl)
theorem dX1_copy_79 : decode cX1_copy 79 = .ok (.aload_n 1, 1) := dk_43 (dk_at dksX1_copy_3 10 rfl rfl)
theorem dX1_copy_80 : decode cX1_copy 80 = .ok (.getfield 30, 3) := dk_180 0 30 (dk_at dksX1_copy_3 11 rfl rfl)
theorem dX1_copy_83 : decode cX1_copy 83 = .ok (.iload_n 2, 1) := dk_28 (dk_at dksX1_copy_3 14 rfl rfl)
theorem dX1_copy_84 : decode cX1_copy 84 = .ok (.aload_n 0, 1) := dk_42 (dk_at dksX1_copy_3 15 rfl rfl)
theorem dX1_copy_85 : decode cX1_copy 85 = .ok (.getfield 30, 3) := dk_180 0 30 (dk_at dksX1_copy_3 16 rfl rfl)
theorem dX1_copy_88 : decode cX1_copy 88 = .ok (.iload_n 2, 1) := dk_28 (dk_at dksX1_copy_3 19 rfl rfl)
theorem dX1_copy_89 : decode cX1_copy 89 = .ok (.aaload, 1) := dk_50 (dk_at dksX1_copy_3 20 rfl rfl)
theorem dX1_copy_90 : decode cX1_copy 90 = .ok (.invokevirtual 60, 3) := dk_182 0 60 (dk_at dksX1_copy_3 21 rfl rfl)
theorem dX1_copy_93 : decode cX1_copy 93 = .ok (.aastore, 1) := dk_83 (dk_at dksX1_copy_4 0 rfl rfl)
theorem dX1_copy_94 : decode cX1_copy 94 = .ok (.iinc 2 1, 3) := dk_132 2 1 (dk_at dksX1_copy_4 1 rfl rfl)
theorem dX1_copy_97 : decode cX1_copy 97 = .ok (.goto (-23), 3) := dk_167 255 233 (dk_at dksX1_copy_4 4 rfl rfl)
theorem dX1_copy_100 : decode cX1_copy 100 = .ok (.aload_n 0, 1) := dk_42 (dk_at dksX1_copy_4 7 rfl rfl)
theorem dX1_copy_101 : decode cX1_copy 101 = .ok (.getfield 37, 3) := dk_180 0 37 (dk_at dksX1_copy_4 8 rfl rfl)
theorem dX1_copy_104 : decode cX1_copy 104 = .ok (.invokevirtual 64, 3) := dk_182 0 64 (dk_at dksX1_copy_4 11 rfl rfl)
theorem dX1_copy_107 : decode cX1_copy 107 = .ok (.astore_n 2, 1) := dk_77 (dk_at dksX1_copy_4 14 rfl rfl)
theorem dX1_copy_108 : decode cX1_copy 108 = .ok (.aload_n 2, 1) := dk_44 (dk_at dksX1_copy_4 15 rfl rfl)
theorem dX1_copy_109 : decode cX1_copy 109 = .ok (.invokeinterface 68 1, 5) := by decide +kernel
theorem dX1_copy_114 : decode cX1_copy 114 = .ok (.ifCond .eq 24, 3) := dk_153 0 24 (dk_at dksX1_copy_4 21 rfl rfl)
theorem dX1_copy_117 : decode cX1_copy 117 = .ok (.aload_n 2, 1) := dk_44 (dk_at dksX1_copy_5 0 rfl rfl)
theorem dX1_copy_118 : decode cX1_copy 118 = .ok (.invokeinterface 74 1, 5) := by decide +kernel
theorem dX1_copy_123 : decode cX1_copy 123 = .ok (.checkcast 78, 3) := dk_192 0 78 (dk_at dksX1_copy_5 6 rfl rfl)
theorem dX1_copy_126 : decode cX1_copy 126 = .ok (.astore_n 3, 1) := dk_78 (dk_at dksX1_copy_5 9 rfl rfl)
theorem dX1_copy_127 : decode cX1_copy 127 = .ok (.aload_n 1, 1) := dk_43 (dk_at dksX1_copy_5 10 rfl rfl)
theorem dX1_copy_128 : decode cX1_copy 128 = .ok (.getfield 37, 3) := dk_180 0 37 (dk_at dksX1_copy_5 11 rfl rfl)
theorem dX1_copy_131 : decode cX1_copy 131 = .ok (.aload_n 3, 1) := dk_45 (dk_at dksX1_copy_5 14 rfl rfl)
theorem dX1_copy_132 : decode cX1_copy 132 = .ok (.invokevirtual 80, 3) := dk_182 0 80 (dk_at dksX1_copy_5 15 rfl rfl)
theorem dX1_copy_135 : decode cX1_copy 135 = .ok (.goto (-27), 3) := dk_167 255 229 (dk_at dksX1_copy_5 18 rfl rfl)
theorem dX1_copy_138 : decode cX1_copy 138 = .ok (.aload_n 1, 1) := dk_43 (dk_at dksX1_copy_5 21 rfl rfl)
theorem dX1_copy_139 : decode cX1_copy 139 = .ok (.aload_n 0, 1) := dk_42 (dk_at dksX1_copy_5 22 rfl rfl)
theorem dX1_copy_140 : decode cX1_copy 140 = .ok (.getfield 84, 3) := dk_180 0 84 (dk_at dksX1_copy_6 0 rfl rfl)
theorem dX1_copy_143 : decode cX1_copy 143 = .ok (.putfield 84, 3) := dk_181 0 84 (dk_at dksX1_copy_6 3 rfl rfl)
theorem dX1_copy_146 : decode cX1_copy 146 = .ok (.aload_n 1, 1) := dk_43 (dk_at dksX1_copy_6 6 rfl rfl)
theorem dX1_copy_147 : decode cX1_copy 147 = .ok (.aload_n 0, 1) := dk_42 (dk_at dksX1_copy_6 7 rfl rfl)
theorem dX1_copy_148 : decode cX1_copy 148 = .ok (.getfield 87, 3) := dk_180 0 87 (dk_at dksX1_copy_6 8 rfl rfl)
theorem dX1_copy_151 : decode cX1_copy 151 = .ok (.putfield 87, 3) := dk_181 0 87 (dk_at dksX1_copy_6 11 rfl rfl)
theorem dX1_copy_154 : decode cX1_copy 154 = .ok (.aload_n 1, 1) := dk_43 (dk_at dksX1_copy_6 14 rfl rfl)
theorem dX1_copy_155 : decode cX1_copy 155 = .ok (.aload_n 0, 1) := dk_42 (dk_at dksX1_copy_6 15 rfl rfl)
theorem dX1_copy_156 : decode cX1_copy 156 = .ok (.getfield 90, 3) := dk_180 0 90 (dk_at dksX1_copy_6 16 rfl rfl)
theorem dX1_copy_159 : decode cX1_copy 159 = .ok (.putfield 90, 3) := dk_181 0 90 (dk_at dksX1_copy_6 19 rfl rfl)
theorem dX1_copy_162 : decode cX1_copy 162 = .ok (.aload_n 1, 1) := dk_43 (dk_at dksX1_copy_6 22 rfl rfl)
theorem dX1_copy_163 : decode cX1_copy 163 = .ok (.aload_n 0, 1) := dk_42 (dk_at dksX1_copy_6 23 rfl rfl)
theorem dX1_copy_164 : decode cX1_copy 164 = .ok (.getfield 41, 3) := dk_180 0 41 (dk_at dksX1_copy_7 0 rfl rfl)
theorem dX1_copy_167 : decode cX1_copy 167 = .ok (.putfield 41, 3) := dk_181 0 41 (dk_at dksX1_copy_7 3 rfl rfl)
theorem dX1_copy_170 : decode cX1_copy 170 = .ok (.aload_n 1, 1) := dk_43 (dk_at dksX1_copy_7 6 rfl rfl)
theorem dX1_copy_171 : decode cX1_copy 171 = .ok (.areturn, 1) := dk_176 (dk_at dksX1_copy_7 7 rfl rfl)
abbrev cX1_lay : ByteArray := prog_2_method_3_code
def yX1_lay : MethodName := ⟨RX1, "lay", "(Ljava/util/BitSet;IZ)V"⟩
def dkwX1_lay_0 : List UInt8 := [28, 153, 0, 11, 42, 27, 182, 0, 93, 167, 0, 8, 42, 27, 182, 0, 96, 177]
abbrev dktX1_lay_0 : List UInt8 := dkwX1_lay_0 ++ []
theorem dksX1_lay_0 : cX1_lay.data.toList.drop 0 = dktX1_lay_0 := by decide +kernel
theorem dX1_lay_0 : decode cX1_lay 0 = .ok (.iload_n 2, 1) := dk_28 (dk_at dksX1_lay_0 0 rfl rfl)
theorem dX1_lay_1 : decode cX1_lay 1 = .ok (.ifCond .eq 11, 3) := dk_153 0 11 (dk_at dksX1_lay_0 1 rfl rfl)
theorem dX1_lay_4 : decode cX1_lay 4 = .ok (.aload_n 0, 1) := dk_42 (dk_at dksX1_lay_0 4 rfl rfl)
theorem dX1_lay_5 : decode cX1_lay 5 = .ok (.iload_n 1, 1) := dk_27 (dk_at dksX1_lay_0 5 rfl rfl)
theorem dX1_lay_6 : decode cX1_lay 6 = .ok (.invokevirtual 93, 3) := dk_182 0 93 (dk_at dksX1_lay_0 6 rfl rfl)
theorem dX1_lay_9 : decode cX1_lay 9 = .ok (.goto 8, 3) := dk_167 0 8 (dk_at dksX1_lay_0 9 rfl rfl)
theorem dX1_lay_12 : decode cX1_lay 12 = .ok (.aload_n 0, 1) := dk_42 (dk_at dksX1_lay_0 12 rfl rfl)
theorem dX1_lay_13 : decode cX1_lay 13 = .ok (.iload_n 1, 1) := dk_27 (dk_at dksX1_lay_0 13 rfl rfl)
theorem dX1_lay_14 : decode cX1_lay 14 = .ok (.invokevirtual 96, 3) := dk_182 0 96 (dk_at dksX1_lay_0 14 rfl rfl)
theorem dX1_lay_17 : decode cX1_lay 17 = .ok (.return_, 1) := dk_177 (dk_at dksX1_lay_0 17 rfl rfl)
abbrev cX1_toggle : ByteArray := prog_2_method_4_code
def yX1_toggle : MethodName := ⟨RX1, "toggle", "(I)I"⟩
def dkwX1_toggle_1 : List UInt8 := [42, 180, 0, 20, 182, 0, 99, 172]
abbrev dktX1_toggle_1 : List UInt8 := dkwX1_toggle_1 ++ []
def dkwX1_toggle_0 : List UInt8 := [42, 180, 0, 20, 27, 42, 180, 0, 20, 27, 182, 0, 52, 154, 0, 7, 4, 167, 0, 4, 3, 184, 0, 56]
abbrev dktX1_toggle_0 : List UInt8 := dkwX1_toggle_0 ++ dktX1_toggle_1
theorem dksX1_toggle_0 : cX1_toggle.data.toList.drop 0 = dktX1_toggle_0 := by decide +kernel
theorem dksX1_toggle_1 : cX1_toggle.data.toList.drop 24 = dktX1_toggle_1 := dk_seg dksX1_toggle_0 24 rfl rfl
theorem dX1_toggle_0 : decode cX1_toggle 0 = .ok (.aload_n 0, 1) := dk_42 (dk_at dksX1_toggle_0 0 rfl rfl)
theorem dX1_toggle_1 : decode cX1_toggle 1 = .ok (.getfield 20, 3) := dk_180 0 20 (dk_at dksX1_toggle_0 1 rfl rfl)
theorem dX1_toggle_4 : decode cX1_toggle 4 = .ok (.iload_n 1, 1) := dk_27 (dk_at dksX1_toggle_0 4 rfl rfl)
theorem dX1_toggle_5 : decode cX1_toggle 5 = .ok (.aload_n 0, 1) := dk_42 (dk_at dksX1_toggle_0 5 rfl rfl)
theorem dX1_toggle_6 : decode cX1_toggle 6 = .ok (.getfield 20, 3) := dk_180 0 20 (dk_at dksX1_toggle_0 6 rfl rfl)
theorem dX1_toggle_9 : decode cX1_toggle 9 = .ok (.iload_n 1, 1) := dk_27 (dk_at dksX1_toggle_0 9 rfl rfl)
theorem dX1_toggle_10 : decode cX1_toggle 10 = .ok (.invokevirtual 52, 3) := dk_182 0 52 (dk_at dksX1_toggle_0 10 rfl rfl)
theorem dX1_toggle_13 : decode cX1_toggle 13 = .ok (.ifCond .ne 7, 3) := dk_154 0 7 (dk_at dksX1_toggle_0 13 rfl rfl)
theorem dX1_toggle_16 : decode cX1_toggle 16 = .ok (.iconst 1, 1) := dk_4 (dk_at dksX1_toggle_0 16 rfl rfl)
theorem dX1_toggle_17 : decode cX1_toggle 17 = .ok (.goto 4, 3) := dk_167 0 4 (dk_at dksX1_toggle_0 17 rfl rfl)
theorem dX1_toggle_20 : decode cX1_toggle 20 = .ok (.iconst 0, 1) := dk_3 (dk_at dksX1_toggle_0 20 rfl rfl)
theorem dX1_toggle_21 : decode cX1_toggle 21 = .ok (.invokestatic 56, 3) := dk_184 0 56 (dk_at dksX1_toggle_0 21 rfl rfl)
theorem dX1_toggle_24 : decode cX1_toggle 24 = .ok (.aload_n 0, 1) := dk_42 (dk_at dksX1_toggle_1 0 rfl rfl)
theorem dX1_toggle_25 : decode cX1_toggle 25 = .ok (.getfield 20, 3) := dk_180 0 20 (dk_at dksX1_toggle_1 1 rfl rfl)
theorem dX1_toggle_28 : decode cX1_toggle 28 = .ok (.invokevirtual 99, 3) := dk_182 0 99 (dk_at dksX1_toggle_1 4 rfl rfl)
theorem dX1_toggle_31 : decode cX1_toggle 31 = .ok (.ireturn, 1) := dk_172 (dk_at dksX1_toggle_1 7 rfl rfl)
abbrev cX1_known : ByteArray := prog_2_method_10_code
def yX1_known : MethodName := ⟨RX1, "known", "(I)[I"⟩
def dkwX1_known_4 : List UInt8 := [42, 44, 182, 0, 119, 62, 167, 255, 246, 44, 176]
abbrev dktX1_known_4 : List UInt8 := dkwX1_known_4 ++ []
def dkwX1_known_3 : List UInt8 := [79, 132, 3, 1, 167, 255, 188, 42, 180, 0, 87, 153, 0, 7, 4, 167, 0, 4, 3, 62, 29, 153, 0, 12]
abbrev dktX1_known_3 : List UInt8 := dkwX1_known_3 ++ dktX1_known_4
def dkwX1_known_2 : List UInt8 := [154, 0, 8, 16, 250, 167, 0, 19, 42, 180, 0, 20, 29, 182, 0, 52, 153, 0, 7, 4, 167, 0, 4, 3]
abbrev dktX1_known_2 : List UInt8 := dkwX1_known_2 ++ dktX1_known_3
def dkwX1_known_1 : List UInt8 := [29, 182, 0, 52, 154, 0, 8, 29, 27, 160, 0, 7, 4, 167, 0, 4, 3, 54, 4, 44, 29, 21, 4]
abbrev dktX1_known_1 : List UInt8 := dkwX1_known_1 ++ dktX1_known_2
def dkwX1_known_0 : List UInt8 := [16, 28, 188, 10, 77, 3, 62, 29, 16, 28, 162, 0, 68, 42, 180, 0, 87, 153, 0, 23, 42, 180, 0, 24]
abbrev dktX1_known_0 : List UInt8 := dkwX1_known_0 ++ dktX1_known_1
theorem dksX1_known_0 : cX1_known.data.toList.drop 0 = dktX1_known_0 := by decide +kernel
theorem dksX1_known_1 : cX1_known.data.toList.drop 24 = dktX1_known_1 := dk_seg dksX1_known_0 24 rfl rfl
theorem dksX1_known_2 : cX1_known.data.toList.drop 47 = dktX1_known_2 := dk_seg dksX1_known_1 23 rfl rfl
theorem dksX1_known_3 : cX1_known.data.toList.drop 71 = dktX1_known_3 := dk_seg dksX1_known_2 24 rfl rfl
theorem dksX1_known_4 : cX1_known.data.toList.drop 95 = dktX1_known_4 := dk_seg dksX1_known_3 24 rfl rfl
theorem dX1_known_0 : decode cX1_known 0 = .ok (.bipush 28, 2) := dk_16 28 (dk_at dksX1_known_0 0 rfl rfl)
theorem dX1_known_2 : decode cX1_known 2 = .ok (.newarray .int, 2) := dk_188_10 (dk_at dksX1_known_0 2 rfl rfl)
theorem dX1_known_4 : decode cX1_known 4 = .ok (.astore_n 2, 1) := dk_77 (dk_at dksX1_known_0 4 rfl rfl)
theorem dX1_known_5 : decode cX1_known 5 = .ok (.iconst 0, 1) := dk_3 (dk_at dksX1_known_0 5 rfl rfl)
theorem dX1_known_6 : decode cX1_known 6 = .ok (.istore_n 3, 1) := dk_62 (dk_at dksX1_known_0 6 rfl rfl)
theorem dX1_known_7 : decode cX1_known 7 = .ok (.iload_n 3, 1) := dk_29 (dk_at dksX1_known_0 7 rfl rfl)
theorem dX1_known_8 : decode cX1_known 8 = .ok (.bipush 28, 2) := dk_16 28 (dk_at dksX1_known_0 8 rfl rfl)
theorem dX1_known_10 : decode cX1_known 10 = .ok (.if_icmp .ge 68, 3) := dk_162 0 68 (dk_at dksX1_known_0 10 rfl rfl)
theorem dX1_known_13 : decode cX1_known 13 = .ok (.aload_n 0, 1) := dk_42 (dk_at dksX1_known_0 13 rfl rfl)
theorem dX1_known_14 : decode cX1_known 14 = .ok (.getfield 87, 3) := dk_180 0 87 (dk_at dksX1_known_0 14 rfl rfl)
theorem dX1_known_17 : decode cX1_known 17 = .ok (.ifCond .eq 23, 3) := dk_153 0 23 (dk_at dksX1_known_0 17 rfl rfl)
theorem dX1_known_20 : decode cX1_known 20 = .ok (.aload_n 0, 1) := dk_42 (dk_at dksX1_known_0 20 rfl rfl)
theorem dX1_known_21 : decode cX1_known 21 = .ok (.getfield 24, 3) := dk_180 0 24 (dk_at dksX1_known_0 21 rfl rfl)
theorem dX1_known_24 : decode cX1_known 24 = .ok (.iload_n 3, 1) := dk_29 (dk_at dksX1_known_1 0 rfl rfl)
theorem dX1_known_25 : decode cX1_known 25 = .ok (.invokevirtual 52, 3) := dk_182 0 52 (dk_at dksX1_known_1 1 rfl rfl)
theorem dX1_known_28 : decode cX1_known 28 = .ok (.ifCond .ne 8, 3) := dk_154 0 8 (dk_at dksX1_known_1 4 rfl rfl)
theorem dX1_known_31 : decode cX1_known 31 = .ok (.iload_n 3, 1) := dk_29 (dk_at dksX1_known_1 7 rfl rfl)
theorem dX1_known_32 : decode cX1_known 32 = .ok (.iload_n 1, 1) := dk_27 (dk_at dksX1_known_1 8 rfl rfl)
theorem dX1_known_33 : decode cX1_known 33 = .ok (.if_icmp .ne 7, 3) := dk_160 0 7 (dk_at dksX1_known_1 9 rfl rfl)
theorem dX1_known_36 : decode cX1_known 36 = .ok (.iconst 1, 1) := dk_4 (dk_at dksX1_known_1 12 rfl rfl)
theorem dX1_known_37 : decode cX1_known 37 = .ok (.goto 4, 3) := dk_167 0 4 (dk_at dksX1_known_1 13 rfl rfl)
theorem dX1_known_40 : decode cX1_known 40 = .ok (.iconst 0, 1) := dk_3 (dk_at dksX1_known_1 16 rfl rfl)
theorem dX1_known_41 : decode cX1_known 41 = .ok (.istore 4, 2) := dk_54 4 (dk_at dksX1_known_1 17 rfl rfl)
theorem dX1_known_43 : decode cX1_known 43 = .ok (.aload_n 2, 1) := dk_44 (dk_at dksX1_known_1 19 rfl rfl)
theorem dX1_known_44 : decode cX1_known 44 = .ok (.iload_n 3, 1) := dk_29 (dk_at dksX1_known_1 20 rfl rfl)
theorem dX1_known_45 : decode cX1_known 45 = .ok (.iload 4, 2) := dk_21 4 (dk_at dksX1_known_1 21 rfl rfl)
theorem dX1_known_47 : decode cX1_known 47 = .ok (.ifCond .ne 8, 3) := dk_154 0 8 (dk_at dksX1_known_2 0 rfl rfl)
theorem dX1_known_50 : decode cX1_known 50 = .ok (.bipush (-6), 2) := dk_16 250 (dk_at dksX1_known_2 3 rfl rfl)
theorem dX1_known_52 : decode cX1_known 52 = .ok (.goto 19, 3) := dk_167 0 19 (dk_at dksX1_known_2 5 rfl rfl)
theorem dX1_known_55 : decode cX1_known 55 = .ok (.aload_n 0, 1) := dk_42 (dk_at dksX1_known_2 8 rfl rfl)
theorem dX1_known_56 : decode cX1_known 56 = .ok (.getfield 20, 3) := dk_180 0 20 (dk_at dksX1_known_2 9 rfl rfl)
theorem dX1_known_59 : decode cX1_known 59 = .ok (.iload_n 3, 1) := dk_29 (dk_at dksX1_known_2 12 rfl rfl)
theorem dX1_known_60 : decode cX1_known 60 = .ok (.invokevirtual 52, 3) := dk_182 0 52 (dk_at dksX1_known_2 13 rfl rfl)
theorem dX1_known_63 : decode cX1_known 63 = .ok (.ifCond .eq 7, 3) := dk_153 0 7 (dk_at dksX1_known_2 16 rfl rfl)
theorem dX1_known_66 : decode cX1_known 66 = .ok (.iconst 1, 1) := dk_4 (dk_at dksX1_known_2 19 rfl rfl)
theorem dX1_known_67 : decode cX1_known 67 = .ok (.goto 4, 3) := dk_167 0 4 (dk_at dksX1_known_2 20 rfl rfl)
theorem dX1_known_70 : decode cX1_known 70 = .ok (.iconst 0, 1) := dk_3 (dk_at dksX1_known_2 23 rfl rfl)
theorem dX1_known_71 : decode cX1_known 71 = .ok (.iastore, 1) := dk_79 (dk_at dksX1_known_3 0 rfl rfl)
theorem dX1_known_72 : decode cX1_known 72 = .ok (.iinc 3 1, 3) := dk_132 3 1 (dk_at dksX1_known_3 1 rfl rfl)
theorem dX1_known_75 : decode cX1_known 75 = .ok (.goto (-68), 3) := dk_167 255 188 (dk_at dksX1_known_3 4 rfl rfl)
theorem dX1_known_78 : decode cX1_known 78 = .ok (.aload_n 0, 1) := dk_42 (dk_at dksX1_known_3 7 rfl rfl)
theorem dX1_known_79 : decode cX1_known 79 = .ok (.getfield 87, 3) := dk_180 0 87 (dk_at dksX1_known_3 8 rfl rfl)
theorem dX1_known_82 : decode cX1_known 82 = .ok (.ifCond .eq 7, 3) := dk_153 0 7 (dk_at dksX1_known_3 11 rfl rfl)
theorem dX1_known_85 : decode cX1_known 85 = .ok (.iconst 1, 1) := dk_4 (dk_at dksX1_known_3 14 rfl rfl)
theorem dX1_known_86 : decode cX1_known 86 = .ok (.goto 4, 3) := dk_167 0 4 (dk_at dksX1_known_3 15 rfl rfl)
theorem dX1_known_89 : decode cX1_known 89 = .ok (.iconst 0, 1) := dk_3 (dk_at dksX1_known_3 18 rfl rfl)
theorem dX1_known_90 : decode cX1_known 90 = .ok (.istore_n 3, 1) := dk_62 (dk_at dksX1_known_3 19 rfl rfl)
theorem dX1_known_91 : decode cX1_known 91 = .ok (.iload_n 3, 1) := dk_29 (dk_at dksX1_known_3 20 rfl rfl)
theorem dX1_known_92 : decode cX1_known 92 = .ok (.ifCond .eq 12, 3) := dk_153 0 12 (dk_at dksX1_known_3 21 rfl rfl)
theorem dX1_known_95 : decode cX1_known 95 = .ok (.aload_n 0, 1) := dk_42 (dk_at dksX1_known_4 0 rfl rfl)
theorem dX1_known_96 : decode cX1_known 96 = .ok (.aload_n 2, 1) := dk_44 (dk_at dksX1_known_4 1 rfl rfl)
theorem dX1_known_97 : decode cX1_known 97 = .ok (.invokevirtual 119, 3) := dk_182 0 119 (dk_at dksX1_known_4 2 rfl rfl)
theorem dX1_known_100 : decode cX1_known 100 = .ok (.istore_n 3, 1) := dk_62 (dk_at dksX1_known_4 5 rfl rfl)
theorem dX1_known_101 : decode cX1_known 101 = .ok (.goto (-10), 3) := dk_167 255 246 (dk_at dksX1_known_4 6 rfl rfl)
theorem dX1_known_104 : decode cX1_known 104 = .ok (.aload_n 2, 1) := dk_44 (dk_at dksX1_known_4 9 rfl rfl)
theorem dX1_known_105 : decode cX1_known 105 = .ok (.areturn, 1) := dk_176 (dk_at dksX1_known_4 10 rfl rfl)
abbrev cX1_follow : ByteArray := prog_2_method_9_code
def yX1_follow : MethodName := ⟨RX1, "follow", "([I)Z"⟩
def dkwX1_follow_3 : List UInt8 := [4, 43, 184, 0, 115, 4, 61, 132, 3, 1, 167, 255, 180, 28, 172]
abbrev dktX1_follow_3 : List UInt8 := dkwX1_follow_3 ++ []
def dkwX1_follow_2 : List UInt8 := [96, 42, 29, 182, 0, 111, 160, 0, 25, 29, 21, 4, 42, 29, 182, 0, 111, 160, 0, 7, 3, 167, 0, 4]
abbrev dktX1_follow_2 : List UInt8 := dkwX1_follow_2 ++ dktX1_follow_3
def dkwX1_follow_1 : List UInt8 := [184, 0, 107, 54, 5, 21, 5, 158, 0, 48, 21, 4, 42, 29, 182, 0, 111, 159, 0, 16, 21, 4, 21, 5]
abbrev dktX1_follow_1 : List UInt8 := dkwX1_follow_1 ++ dktX1_follow_2
def dkwX1_follow_0 : List UInt8 := [3, 61, 3, 62, 29, 16, 8, 162, 0, 76, 29, 4, 43, 184, 0, 107, 54, 4, 29, 16, 250, 43]
abbrev dktX1_follow_0 : List UInt8 := dkwX1_follow_0 ++ dktX1_follow_1
theorem dksX1_follow_0 : cX1_follow.data.toList.drop 0 = dktX1_follow_0 := by decide +kernel
theorem dksX1_follow_1 : cX1_follow.data.toList.drop 22 = dktX1_follow_1 := dk_seg dksX1_follow_0 22 rfl rfl
theorem dksX1_follow_2 : cX1_follow.data.toList.drop 46 = dktX1_follow_2 := dk_seg dksX1_follow_1 24 rfl rfl
theorem dksX1_follow_3 : cX1_follow.data.toList.drop 70 = dktX1_follow_3 := dk_seg dksX1_follow_2 24 rfl rfl
theorem dX1_follow_0 : decode cX1_follow 0 = .ok (.iconst 0, 1) := dk_3 (dk_at dksX1_follow_0 0 rfl rfl)
theorem dX1_follow_1 : decode cX1_follow 1 = .ok (.istore_n 2, 1) := dk_61 (dk_at dksX1_follow_0 1 rfl rfl)
theorem dX1_follow_2 : decode cX1_follow 2 = .ok (.iconst 0, 1) := dk_3 (dk_at dksX1_follow_0 2 rfl rfl)
theorem dX1_follow_3 : decode cX1_follow 3 = .ok (.istore_n 3, 1) := dk_62 (dk_at dksX1_follow_0 3 rfl rfl)
theorem dX1_follow_4 : decode cX1_follow 4 = .ok (.iload_n 3, 1) := dk_29 (dk_at dksX1_follow_0 4 rfl rfl)
theorem dX1_follow_5 : decode cX1_follow 5 = .ok (.bipush 8, 2) := dk_16 8 (dk_at dksX1_follow_0 5 rfl rfl)
theorem dX1_follow_7 : decode cX1_follow 7 = .ok (.if_icmp .ge 76, 3) := dk_162 0 76 (dk_at dksX1_follow_0 7 rfl rfl)
theorem dX1_follow_10 : decode cX1_follow 10 = .ok (.iload_n 3, 1) := dk_29 (dk_at dksX1_follow_0 10 rfl rfl)
theorem dX1_follow_11 : decode cX1_follow 11 = .ok (.iconst 1, 1) := dk_4 (dk_at dksX1_follow_0 11 rfl rfl)
theorem dX1_follow_12 : decode cX1_follow 12 = .ok (.aload_n 1, 1) := dk_43 (dk_at dksX1_follow_0 12 rfl rfl)
theorem dX1_follow_13 : decode cX1_follow 13 = .ok (.invokestatic 107, 3) := dk_184 0 107 (dk_at dksX1_follow_0 13 rfl rfl)
theorem dX1_follow_16 : decode cX1_follow 16 = .ok (.istore 4, 2) := dk_54 4 (dk_at dksX1_follow_0 16 rfl rfl)
theorem dX1_follow_18 : decode cX1_follow 18 = .ok (.iload_n 3, 1) := dk_29 (dk_at dksX1_follow_0 18 rfl rfl)
theorem dX1_follow_19 : decode cX1_follow 19 = .ok (.bipush (-6), 2) := dk_16 250 (dk_at dksX1_follow_0 19 rfl rfl)
theorem dX1_follow_21 : decode cX1_follow 21 = .ok (.aload_n 1, 1) := dk_43 (dk_at dksX1_follow_0 21 rfl rfl)
theorem dX1_follow_22 : decode cX1_follow 22 = .ok (.invokestatic 107, 3) := dk_184 0 107 (dk_at dksX1_follow_1 0 rfl rfl)
theorem dX1_follow_25 : decode cX1_follow 25 = .ok (.istore 5, 2) := dk_54 5 (dk_at dksX1_follow_1 3 rfl rfl)
theorem dX1_follow_27 : decode cX1_follow 27 = .ok (.iload 5, 2) := dk_21 5 (dk_at dksX1_follow_1 5 rfl rfl)
theorem dX1_follow_29 : decode cX1_follow 29 = .ok (.ifCond .le 48, 3) := dk_158 0 48 (dk_at dksX1_follow_1 7 rfl rfl)
theorem dX1_follow_32 : decode cX1_follow 32 = .ok (.iload 4, 2) := dk_21 4 (dk_at dksX1_follow_1 10 rfl rfl)
theorem dX1_follow_34 : decode cX1_follow 34 = .ok (.aload_n 0, 1) := dk_42 (dk_at dksX1_follow_1 12 rfl rfl)
theorem dX1_follow_35 : decode cX1_follow 35 = .ok (.iload_n 3, 1) := dk_29 (dk_at dksX1_follow_1 13 rfl rfl)
theorem dX1_follow_36 : decode cX1_follow 36 = .ok (.invokevirtual 111, 3) := dk_182 0 111 (dk_at dksX1_follow_1 14 rfl rfl)
theorem dX1_follow_39 : decode cX1_follow 39 = .ok (.if_icmp .eq 16, 3) := dk_159 0 16 (dk_at dksX1_follow_1 17 rfl rfl)
theorem dX1_follow_42 : decode cX1_follow 42 = .ok (.iload 4, 2) := dk_21 4 (dk_at dksX1_follow_1 20 rfl rfl)
theorem dX1_follow_44 : decode cX1_follow 44 = .ok (.iload 5, 2) := dk_21 5 (dk_at dksX1_follow_1 22 rfl rfl)
theorem dX1_follow_46 : decode cX1_follow 46 = .ok (.iadd, 1) := dk_96 (dk_at dksX1_follow_2 0 rfl rfl)
theorem dX1_follow_47 : decode cX1_follow 47 = .ok (.aload_n 0, 1) := dk_42 (dk_at dksX1_follow_2 1 rfl rfl)
theorem dX1_follow_48 : decode cX1_follow 48 = .ok (.iload_n 3, 1) := dk_29 (dk_at dksX1_follow_2 2 rfl rfl)
theorem dX1_follow_49 : decode cX1_follow 49 = .ok (.invokevirtual 111, 3) := dk_182 0 111 (dk_at dksX1_follow_2 3 rfl rfl)
theorem dX1_follow_52 : decode cX1_follow 52 = .ok (.if_icmp .ne 25, 3) := dk_160 0 25 (dk_at dksX1_follow_2 6 rfl rfl)
theorem dX1_follow_55 : decode cX1_follow 55 = .ok (.iload_n 3, 1) := dk_29 (dk_at dksX1_follow_2 9 rfl rfl)
theorem dX1_follow_56 : decode cX1_follow 56 = .ok (.iload 4, 2) := dk_21 4 (dk_at dksX1_follow_2 10 rfl rfl)
theorem dX1_follow_58 : decode cX1_follow 58 = .ok (.aload_n 0, 1) := dk_42 (dk_at dksX1_follow_2 12 rfl rfl)
theorem dX1_follow_59 : decode cX1_follow 59 = .ok (.iload_n 3, 1) := dk_29 (dk_at dksX1_follow_2 13 rfl rfl)
theorem dX1_follow_60 : decode cX1_follow 60 = .ok (.invokevirtual 111, 3) := dk_182 0 111 (dk_at dksX1_follow_2 14 rfl rfl)
theorem dX1_follow_63 : decode cX1_follow 63 = .ok (.if_icmp .ne 7, 3) := dk_160 0 7 (dk_at dksX1_follow_2 17 rfl rfl)
theorem dX1_follow_66 : decode cX1_follow 66 = .ok (.iconst 0, 1) := dk_3 (dk_at dksX1_follow_2 20 rfl rfl)
theorem dX1_follow_67 : decode cX1_follow 67 = .ok (.goto 4, 3) := dk_167 0 4 (dk_at dksX1_follow_2 21 rfl rfl)
theorem dX1_follow_70 : decode cX1_follow 70 = .ok (.iconst 1, 1) := dk_4 (dk_at dksX1_follow_3 0 rfl rfl)
theorem dX1_follow_71 : decode cX1_follow 71 = .ok (.aload_n 1, 1) := dk_43 (dk_at dksX1_follow_3 1 rfl rfl)
theorem dX1_follow_72 : decode cX1_follow 72 = .ok (.invokestatic 115, 3) := dk_184 0 115 (dk_at dksX1_follow_3 2 rfl rfl)
theorem dX1_follow_75 : decode cX1_follow 75 = .ok (.iconst 1, 1) := dk_4 (dk_at dksX1_follow_3 5 rfl rfl)
theorem dX1_follow_76 : decode cX1_follow 76 = .ok (.istore_n 2, 1) := dk_61 (dk_at dksX1_follow_3 6 rfl rfl)
theorem dX1_follow_77 : decode cX1_follow 77 = .ok (.iinc 3 1, 3) := dk_132 3 1 (dk_at dksX1_follow_3 7 rfl rfl)
theorem dX1_follow_80 : decode cX1_follow 80 = .ok (.goto (-76), 3) := dk_167 255 180 (dk_at dksX1_follow_3 10 rfl rfl)
theorem dX1_follow_83 : decode cX1_follow 83 = .ok (.iload_n 2, 1) := dk_28 (dk_at dksX1_follow_3 13 rfl rfl)
theorem dX1_follow_84 : decode cX1_follow 84 = .ok (.ireturn, 1) := dk_172 (dk_at dksX1_follow_3 14 rfl rfl)
abbrev cX1_many : ByteArray := prog_2_method_7_code
def yX1_many : MethodName := ⟨RX1, "many", "(II[I)I"⟩
def dkwX1_many_1 : List UInt8 := [184, 0, 103, 46, 27, 160, 0, 7, 4, 167, 0, 4, 3, 96, 62, 132, 4, 1, 167, 255, 220, 29, 172]
abbrev dktX1_many_1 : List UInt8 := dkwX1_many_1 ++ []
def dkwX1_many_0 : List UInt8 := [3, 62, 3, 54, 4, 21, 4, 16, 8, 162, 0, 35, 29, 21, 4, 26, 159, 0, 19, 44, 26, 21, 4]
abbrev dktX1_many_0 : List UInt8 := dkwX1_many_0 ++ dktX1_many_1
theorem dksX1_many_0 : cX1_many.data.toList.drop 0 = dktX1_many_0 := by decide +kernel
theorem dksX1_many_1 : cX1_many.data.toList.drop 23 = dktX1_many_1 := dk_seg dksX1_many_0 23 rfl rfl
theorem dX1_many_0 : decode cX1_many 0 = .ok (.iconst 0, 1) := dk_3 (dk_at dksX1_many_0 0 rfl rfl)
theorem dX1_many_1 : decode cX1_many 1 = .ok (.istore_n 3, 1) := dk_62 (dk_at dksX1_many_0 1 rfl rfl)
theorem dX1_many_2 : decode cX1_many 2 = .ok (.iconst 0, 1) := dk_3 (dk_at dksX1_many_0 2 rfl rfl)
theorem dX1_many_3 : decode cX1_many 3 = .ok (.istore 4, 2) := dk_54 4 (dk_at dksX1_many_0 3 rfl rfl)
theorem dX1_many_5 : decode cX1_many 5 = .ok (.iload 4, 2) := dk_21 4 (dk_at dksX1_many_0 5 rfl rfl)
theorem dX1_many_7 : decode cX1_many 7 = .ok (.bipush 8, 2) := dk_16 8 (dk_at dksX1_many_0 7 rfl rfl)
theorem dX1_many_9 : decode cX1_many 9 = .ok (.if_icmp .ge 35, 3) := dk_162 0 35 (dk_at dksX1_many_0 9 rfl rfl)
theorem dX1_many_12 : decode cX1_many 12 = .ok (.iload_n 3, 1) := dk_29 (dk_at dksX1_many_0 12 rfl rfl)
theorem dX1_many_13 : decode cX1_many 13 = .ok (.iload 4, 2) := dk_21 4 (dk_at dksX1_many_0 13 rfl rfl)
theorem dX1_many_15 : decode cX1_many 15 = .ok (.iload_n 0, 1) := dk_26 (dk_at dksX1_many_0 15 rfl rfl)
theorem dX1_many_16 : decode cX1_many 16 = .ok (.if_icmp .eq 19, 3) := dk_159 0 19 (dk_at dksX1_many_0 16 rfl rfl)
theorem dX1_many_19 : decode cX1_many 19 = .ok (.aload_n 2, 1) := dk_44 (dk_at dksX1_many_0 19 rfl rfl)
theorem dX1_many_20 : decode cX1_many 20 = .ok (.iload_n 0, 1) := dk_26 (dk_at dksX1_many_0 20 rfl rfl)
theorem dX1_many_21 : decode cX1_many 21 = .ok (.iload 4, 2) := dk_21 4 (dk_at dksX1_many_0 21 rfl rfl)
theorem dX1_many_23 : decode cX1_many 23 = .ok (.invokestatic 103, 3) := dk_184 0 103 (dk_at dksX1_many_1 0 rfl rfl)
theorem dX1_many_26 : decode cX1_many 26 = .ok (.iaload, 1) := dk_46 (dk_at dksX1_many_1 3 rfl rfl)
theorem dX1_many_27 : decode cX1_many 27 = .ok (.iload_n 1, 1) := dk_27 (dk_at dksX1_many_1 4 rfl rfl)
theorem dX1_many_28 : decode cX1_many 28 = .ok (.if_icmp .ne 7, 3) := dk_160 0 7 (dk_at dksX1_many_1 5 rfl rfl)
theorem dX1_many_31 : decode cX1_many 31 = .ok (.iconst 1, 1) := dk_4 (dk_at dksX1_many_1 8 rfl rfl)
theorem dX1_many_32 : decode cX1_many 32 = .ok (.goto 4, 3) := dk_167 0 4 (dk_at dksX1_many_1 9 rfl rfl)
theorem dX1_many_35 : decode cX1_many 35 = .ok (.iconst 0, 1) := dk_3 (dk_at dksX1_many_1 12 rfl rfl)
theorem dX1_many_36 : decode cX1_many 36 = .ok (.iadd, 1) := dk_96 (dk_at dksX1_many_1 13 rfl rfl)
theorem dX1_many_37 : decode cX1_many 37 = .ok (.istore_n 3, 1) := dk_62 (dk_at dksX1_many_1 14 rfl rfl)
theorem dX1_many_38 : decode cX1_many 38 = .ok (.iinc 4 1, 3) := dk_132 4 1 (dk_at dksX1_many_1 15 rfl rfl)
theorem dX1_many_41 : decode cX1_many 41 = .ok (.goto (-36), 3) := dk_167 255 220 (dk_at dksX1_many_1 18 rfl rfl)
theorem dX1_many_44 : decode cX1_many 44 = .ok (.iload_n 3, 1) := dk_29 (dk_at dksX1_many_1 21 rfl rfl)
theorem dX1_many_45 : decode cX1_many 45 = .ok (.ireturn, 1) := dk_172 (dk_at dksX1_many_1 22 rfl rfl)
abbrev cX1_degree : ByteArray := prog_2_method_6_code
def yX1_degree : MethodName := ⟨RX1, "degree", "(I)I"⟩
def dkwX1_degree_1 : List UInt8 := [184, 0, 103, 182, 0, 52, 153, 0, 7, 4, 167, 0, 4, 3, 96, 61, 132, 3, 1, 167, 255, 219, 28, 172]
abbrev dktX1_degree_1 : List UInt8 := dkwX1_degree_1 ++ []
def dkwX1_degree_0 : List UInt8 := [3, 61, 3, 62, 29, 16, 8, 162, 0, 37, 28, 29, 27, 159, 0, 22, 42, 180, 0, 20, 27, 29]
abbrev dktX1_degree_0 : List UInt8 := dkwX1_degree_0 ++ dktX1_degree_1
theorem dksX1_degree_0 : cX1_degree.data.toList.drop 0 = dktX1_degree_0 := by decide +kernel
theorem dksX1_degree_1 : cX1_degree.data.toList.drop 22 = dktX1_degree_1 := dk_seg dksX1_degree_0 22 rfl rfl
theorem dX1_degree_0 : decode cX1_degree 0 = .ok (.iconst 0, 1) := dk_3 (dk_at dksX1_degree_0 0 rfl rfl)
theorem dX1_degree_1 : decode cX1_degree 1 = .ok (.istore_n 2, 1) := dk_61 (dk_at dksX1_degree_0 1 rfl rfl)
theorem dX1_degree_2 : decode cX1_degree 2 = .ok (.iconst 0, 1) := dk_3 (dk_at dksX1_degree_0 2 rfl rfl)
theorem dX1_degree_3 : decode cX1_degree 3 = .ok (.istore_n 3, 1) := dk_62 (dk_at dksX1_degree_0 3 rfl rfl)
theorem dX1_degree_4 : decode cX1_degree 4 = .ok (.iload_n 3, 1) := dk_29 (dk_at dksX1_degree_0 4 rfl rfl)
theorem dX1_degree_5 : decode cX1_degree 5 = .ok (.bipush 8, 2) := dk_16 8 (dk_at dksX1_degree_0 5 rfl rfl)
theorem dX1_degree_7 : decode cX1_degree 7 = .ok (.if_icmp .ge 37, 3) := dk_162 0 37 (dk_at dksX1_degree_0 7 rfl rfl)
theorem dX1_degree_10 : decode cX1_degree 10 = .ok (.iload_n 2, 1) := dk_28 (dk_at dksX1_degree_0 10 rfl rfl)
theorem dX1_degree_11 : decode cX1_degree 11 = .ok (.iload_n 3, 1) := dk_29 (dk_at dksX1_degree_0 11 rfl rfl)
theorem dX1_degree_12 : decode cX1_degree 12 = .ok (.iload_n 1, 1) := dk_27 (dk_at dksX1_degree_0 12 rfl rfl)
theorem dX1_degree_13 : decode cX1_degree 13 = .ok (.if_icmp .eq 22, 3) := dk_159 0 22 (dk_at dksX1_degree_0 13 rfl rfl)
theorem dX1_degree_16 : decode cX1_degree 16 = .ok (.aload_n 0, 1) := dk_42 (dk_at dksX1_degree_0 16 rfl rfl)
theorem dX1_degree_17 : decode cX1_degree 17 = .ok (.getfield 20, 3) := dk_180 0 20 (dk_at dksX1_degree_0 17 rfl rfl)
theorem dX1_degree_20 : decode cX1_degree 20 = .ok (.iload_n 1, 1) := dk_27 (dk_at dksX1_degree_0 20 rfl rfl)
theorem dX1_degree_21 : decode cX1_degree 21 = .ok (.iload_n 3, 1) := dk_29 (dk_at dksX1_degree_0 21 rfl rfl)
theorem dX1_degree_22 : decode cX1_degree 22 = .ok (.invokestatic 103, 3) := dk_184 0 103 (dk_at dksX1_degree_1 0 rfl rfl)
theorem dX1_degree_25 : decode cX1_degree 25 = .ok (.invokevirtual 52, 3) := dk_182 0 52 (dk_at dksX1_degree_1 3 rfl rfl)
theorem dX1_degree_28 : decode cX1_degree 28 = .ok (.ifCond .eq 7, 3) := dk_153 0 7 (dk_at dksX1_degree_1 6 rfl rfl)
theorem dX1_degree_31 : decode cX1_degree 31 = .ok (.iconst 1, 1) := dk_4 (dk_at dksX1_degree_1 9 rfl rfl)
theorem dX1_degree_32 : decode cX1_degree 32 = .ok (.goto 4, 3) := dk_167 0 4 (dk_at dksX1_degree_1 10 rfl rfl)
theorem dX1_degree_35 : decode cX1_degree 35 = .ok (.iconst 0, 1) := dk_3 (dk_at dksX1_degree_1 13 rfl rfl)
theorem dX1_degree_36 : decode cX1_degree 36 = .ok (.iadd, 1) := dk_96 (dk_at dksX1_degree_1 14 rfl rfl)
theorem dX1_degree_37 : decode cX1_degree 37 = .ok (.istore_n 2, 1) := dk_61 (dk_at dksX1_degree_1 15 rfl rfl)
theorem dX1_degree_38 : decode cX1_degree 38 = .ok (.iinc 3 1, 3) := dk_132 3 1 (dk_at dksX1_degree_1 16 rfl rfl)
theorem dX1_degree_41 : decode cX1_degree 41 = .ok (.goto (-37), 3) := dk_167 255 219 (dk_at dksX1_degree_1 19 rfl rfl)
theorem dX1_degree_44 : decode cX1_degree 44 = .ok (.iload_n 2, 1) := dk_28 (dk_at dksX1_degree_1 22 rfl rfl)
theorem dX1_degree_45 : decode cX1_degree 45 = .ok (.ireturn, 1) := dk_172 (dk_at dksX1_degree_1 23 rfl rfl)
abbrev cX1_fillUnknown : ByteArray := prog_2_method_8_code
def yX1_fillUnknown : MethodName := ⟨RX1, "fillUnknown", "(II[I)V"⟩
def dkwX1_fillUnknown_1 : List UInt8 := [160, 0, 11, 44, 26, 29, 184, 0, 103, 27, 79, 132, 3, 1, 167, 255, 222, 177]
abbrev dktX1_fillUnknown_1 : List UInt8 := dkwX1_fillUnknown_1 ++ []
def dkwX1_fillUnknown_0 : List UInt8 := [3, 62, 29, 16, 8, 162, 0, 34, 29, 26, 159, 0, 23, 44, 26, 29, 184, 0, 103, 46, 16, 250]
abbrev dktX1_fillUnknown_0 : List UInt8 := dkwX1_fillUnknown_0 ++ dktX1_fillUnknown_1
theorem dksX1_fillUnknown_0 : cX1_fillUnknown.data.toList.drop 0 = dktX1_fillUnknown_0 := by decide +kernel
theorem dksX1_fillUnknown_1 : cX1_fillUnknown.data.toList.drop 22 = dktX1_fillUnknown_1 := dk_seg dksX1_fillUnknown_0 22 rfl rfl
theorem dX1_fillUnknown_0 : decode cX1_fillUnknown 0 = .ok (.iconst 0, 1) := dk_3 (dk_at dksX1_fillUnknown_0 0 rfl rfl)
theorem dX1_fillUnknown_1 : decode cX1_fillUnknown 1 = .ok (.istore_n 3, 1) := dk_62 (dk_at dksX1_fillUnknown_0 1 rfl rfl)
theorem dX1_fillUnknown_2 : decode cX1_fillUnknown 2 = .ok (.iload_n 3, 1) := dk_29 (dk_at dksX1_fillUnknown_0 2 rfl rfl)
theorem dX1_fillUnknown_3 : decode cX1_fillUnknown 3 = .ok (.bipush 8, 2) := dk_16 8 (dk_at dksX1_fillUnknown_0 3 rfl rfl)
theorem dX1_fillUnknown_5 : decode cX1_fillUnknown 5 = .ok (.if_icmp .ge 34, 3) := dk_162 0 34 (dk_at dksX1_fillUnknown_0 5 rfl rfl)
theorem dX1_fillUnknown_8 : decode cX1_fillUnknown 8 = .ok (.iload_n 3, 1) := dk_29 (dk_at dksX1_fillUnknown_0 8 rfl rfl)
theorem dX1_fillUnknown_9 : decode cX1_fillUnknown 9 = .ok (.iload_n 0, 1) := dk_26 (dk_at dksX1_fillUnknown_0 9 rfl rfl)
theorem dX1_fillUnknown_10 : decode cX1_fillUnknown 10 = .ok (.if_icmp .eq 23, 3) := dk_159 0 23 (dk_at dksX1_fillUnknown_0 10 rfl rfl)
theorem dX1_fillUnknown_13 : decode cX1_fillUnknown 13 = .ok (.aload_n 2, 1) := dk_44 (dk_at dksX1_fillUnknown_0 13 rfl rfl)
theorem dX1_fillUnknown_14 : decode cX1_fillUnknown 14 = .ok (.iload_n 0, 1) := dk_26 (dk_at dksX1_fillUnknown_0 14 rfl rfl)
theorem dX1_fillUnknown_15 : decode cX1_fillUnknown 15 = .ok (.iload_n 3, 1) := dk_29 (dk_at dksX1_fillUnknown_0 15 rfl rfl)
theorem dX1_fillUnknown_16 : decode cX1_fillUnknown 16 = .ok (.invokestatic 103, 3) := dk_184 0 103 (dk_at dksX1_fillUnknown_0 16 rfl rfl)
theorem dX1_fillUnknown_19 : decode cX1_fillUnknown 19 = .ok (.iaload, 1) := dk_46 (dk_at dksX1_fillUnknown_0 19 rfl rfl)
theorem dX1_fillUnknown_20 : decode cX1_fillUnknown 20 = .ok (.bipush (-6), 2) := dk_16 250 (dk_at dksX1_fillUnknown_0 20 rfl rfl)
theorem dX1_fillUnknown_22 : decode cX1_fillUnknown 22 = .ok (.if_icmp .ne 11, 3) := dk_160 0 11 (dk_at dksX1_fillUnknown_1 0 rfl rfl)
theorem dX1_fillUnknown_25 : decode cX1_fillUnknown 25 = .ok (.aload_n 2, 1) := dk_44 (dk_at dksX1_fillUnknown_1 3 rfl rfl)
theorem dX1_fillUnknown_26 : decode cX1_fillUnknown 26 = .ok (.iload_n 0, 1) := dk_26 (dk_at dksX1_fillUnknown_1 4 rfl rfl)
theorem dX1_fillUnknown_27 : decode cX1_fillUnknown 27 = .ok (.iload_n 3, 1) := dk_29 (dk_at dksX1_fillUnknown_1 5 rfl rfl)
theorem dX1_fillUnknown_28 : decode cX1_fillUnknown 28 = .ok (.invokestatic 103, 3) := dk_184 0 103 (dk_at dksX1_fillUnknown_1 6 rfl rfl)
theorem dX1_fillUnknown_31 : decode cX1_fillUnknown 31 = .ok (.iload_n 1, 1) := dk_27 (dk_at dksX1_fillUnknown_1 9 rfl rfl)
theorem dX1_fillUnknown_32 : decode cX1_fillUnknown 32 = .ok (.iastore, 1) := dk_79 (dk_at dksX1_fillUnknown_1 10 rfl rfl)
theorem dX1_fillUnknown_33 : decode cX1_fillUnknown 33 = .ok (.iinc 3 1, 3) := dk_132 3 1 (dk_at dksX1_fillUnknown_1 11 rfl rfl)
theorem dX1_fillUnknown_36 : decode cX1_fillUnknown 36 = .ok (.goto (-34), 3) := dk_167 255 222 (dk_at dksX1_fillUnknown_1 14 rfl rfl)
theorem dX1_fillUnknown_39 : decode cX1_fillUnknown 39 = .ok (.return_, 1) := dk_177 (dk_at dksX1_fillUnknown_1 17 rfl rfl)
abbrev cX1_count : ByteArray := prog_2_method_11_code
def yX1_count : MethodName := ⟨RX1, "count", "(Z[I)I"⟩
def dkwX1_count_2 : List UInt8 := [132, 5, 1, 167, 255, 217, 28, 172]
abbrev dktX1_count_2 : List UInt8 := dkwX1_count_2 ++ []
def dkwX1_count_1 : List UInt8 := [28, 21, 6, 4, 159, 0, 12, 26, 154, 0, 12, 21, 6, 154, 0, 7, 4, 167, 0, 4, 3, 96, 61]
abbrev dktX1_count_1 : List UInt8 := dkwX1_count_1 ++ dktX1_count_2
def dkwX1_count_0 : List UInt8 := [3, 61, 43, 78, 45, 190, 54, 4, 3, 54, 5, 21, 5, 21, 4, 162, 0, 38, 45, 21, 5, 46, 54, 6]
abbrev dktX1_count_0 : List UInt8 := dkwX1_count_0 ++ dktX1_count_1
theorem dksX1_count_0 : cX1_count.data.toList.drop 0 = dktX1_count_0 := by decide +kernel
theorem dksX1_count_1 : cX1_count.data.toList.drop 24 = dktX1_count_1 := dk_seg dksX1_count_0 24 rfl rfl
theorem dksX1_count_2 : cX1_count.data.toList.drop 47 = dktX1_count_2 := dk_seg dksX1_count_1 23 rfl rfl
theorem dX1_count_0 : decode cX1_count 0 = .ok (.iconst 0, 1) := dk_3 (dk_at dksX1_count_0 0 rfl rfl)
theorem dX1_count_1 : decode cX1_count 1 = .ok (.istore_n 2, 1) := dk_61 (dk_at dksX1_count_0 1 rfl rfl)
theorem dX1_count_2 : decode cX1_count 2 = .ok (.aload_n 1, 1) := dk_43 (dk_at dksX1_count_0 2 rfl rfl)
theorem dX1_count_3 : decode cX1_count 3 = .ok (.astore_n 3, 1) := dk_78 (dk_at dksX1_count_0 3 rfl rfl)
theorem dX1_count_4 : decode cX1_count 4 = .ok (.aload_n 3, 1) := dk_45 (dk_at dksX1_count_0 4 rfl rfl)
theorem dX1_count_5 : decode cX1_count 5 = .ok (.arraylength, 1) := dk_190 (dk_at dksX1_count_0 5 rfl rfl)
theorem dX1_count_6 : decode cX1_count 6 = .ok (.istore 4, 2) := dk_54 4 (dk_at dksX1_count_0 6 rfl rfl)
theorem dX1_count_8 : decode cX1_count 8 = .ok (.iconst 0, 1) := dk_3 (dk_at dksX1_count_0 8 rfl rfl)
theorem dX1_count_9 : decode cX1_count 9 = .ok (.istore 5, 2) := dk_54 5 (dk_at dksX1_count_0 9 rfl rfl)
theorem dX1_count_11 : decode cX1_count 11 = .ok (.iload 5, 2) := dk_21 5 (dk_at dksX1_count_0 11 rfl rfl)
theorem dX1_count_13 : decode cX1_count 13 = .ok (.iload 4, 2) := dk_21 4 (dk_at dksX1_count_0 13 rfl rfl)
theorem dX1_count_15 : decode cX1_count 15 = .ok (.if_icmp .ge 38, 3) := dk_162 0 38 (dk_at dksX1_count_0 15 rfl rfl)
theorem dX1_count_18 : decode cX1_count 18 = .ok (.aload_n 3, 1) := dk_45 (dk_at dksX1_count_0 18 rfl rfl)
theorem dX1_count_19 : decode cX1_count 19 = .ok (.iload 5, 2) := dk_21 5 (dk_at dksX1_count_0 19 rfl rfl)
theorem dX1_count_21 : decode cX1_count 21 = .ok (.iaload, 1) := dk_46 (dk_at dksX1_count_0 21 rfl rfl)
theorem dX1_count_22 : decode cX1_count 22 = .ok (.istore 6, 2) := dk_54 6 (dk_at dksX1_count_0 22 rfl rfl)
theorem dX1_count_24 : decode cX1_count 24 = .ok (.iload_n 2, 1) := dk_28 (dk_at dksX1_count_1 0 rfl rfl)
theorem dX1_count_25 : decode cX1_count 25 = .ok (.iload 6, 2) := dk_21 6 (dk_at dksX1_count_1 1 rfl rfl)
theorem dX1_count_27 : decode cX1_count 27 = .ok (.iconst 1, 1) := dk_4 (dk_at dksX1_count_1 3 rfl rfl)
theorem dX1_count_28 : decode cX1_count 28 = .ok (.if_icmp .eq 12, 3) := dk_159 0 12 (dk_at dksX1_count_1 4 rfl rfl)
theorem dX1_count_31 : decode cX1_count 31 = .ok (.iload_n 0, 1) := dk_26 (dk_at dksX1_count_1 7 rfl rfl)
theorem dX1_count_32 : decode cX1_count 32 = .ok (.ifCond .ne 12, 3) := dk_154 0 12 (dk_at dksX1_count_1 8 rfl rfl)
theorem dX1_count_35 : decode cX1_count 35 = .ok (.iload 6, 2) := dk_21 6 (dk_at dksX1_count_1 11 rfl rfl)
theorem dX1_count_37 : decode cX1_count 37 = .ok (.ifCond .ne 7, 3) := dk_154 0 7 (dk_at dksX1_count_1 13 rfl rfl)
theorem dX1_count_40 : decode cX1_count 40 = .ok (.iconst 1, 1) := dk_4 (dk_at dksX1_count_1 16 rfl rfl)
theorem dX1_count_41 : decode cX1_count 41 = .ok (.goto 4, 3) := dk_167 0 4 (dk_at dksX1_count_1 17 rfl rfl)
theorem dX1_count_44 : decode cX1_count 44 = .ok (.iconst 0, 1) := dk_3 (dk_at dksX1_count_1 20 rfl rfl)
theorem dX1_count_45 : decode cX1_count 45 = .ok (.iadd, 1) := dk_96 (dk_at dksX1_count_1 21 rfl rfl)
theorem dX1_count_46 : decode cX1_count 46 = .ok (.istore_n 2, 1) := dk_61 (dk_at dksX1_count_1 22 rfl rfl)
theorem dX1_count_47 : decode cX1_count 47 = .ok (.iinc 5 1, 3) := dk_132 5 1 (dk_at dksX1_count_2 0 rfl rfl)
theorem dX1_count_50 : decode cX1_count 50 = .ok (.goto (-39), 3) := dk_167 255 217 (dk_at dksX1_count_2 3 rfl rfl)
theorem dX1_count_53 : decode cX1_count 53 = .ok (.iload_n 2, 1) := dk_28 (dk_at dksX1_count_2 6 rfl rfl)
theorem dX1_count_54 : decode cX1_count 54 = .ok (.ireturn, 1) := dk_172 (dk_at dksX1_count_2 7 rfl rfl)
abbrev cX1_claim : ByteArray := prog_2_method_15_code
def yX1_claim : MethodName := ⟨RX1, "claim", "(II)I"⟩
def dkwX1_claim_0 : List UInt8 := [42, 182, 0, 130, 78, 45, 180, 0, 123, 27, 28, 79, 42, 182, 0, 133, 45, 182, 0, 136, 172]
abbrev dktX1_claim_0 : List UInt8 := dkwX1_claim_0 ++ []
theorem dksX1_claim_0 : cX1_claim.data.toList.drop 0 = dktX1_claim_0 := by decide +kernel
theorem dX1_claim_0 : decode cX1_claim 0 = .ok (.aload_n 0, 1) := dk_42 (dk_at dksX1_claim_0 0 rfl rfl)
theorem dX1_claim_1 : decode cX1_claim 1 = .ok (.invokevirtual 130, 3) := dk_182 0 130 (dk_at dksX1_claim_0 1 rfl rfl)
theorem dX1_claim_4 : decode cX1_claim 4 = .ok (.astore_n 3, 1) := dk_78 (dk_at dksX1_claim_0 4 rfl rfl)
theorem dX1_claim_5 : decode cX1_claim 5 = .ok (.aload_n 3, 1) := dk_45 (dk_at dksX1_claim_0 5 rfl rfl)
theorem dX1_claim_6 : decode cX1_claim 6 = .ok (.getfield 123, 3) := dk_180 0 123 (dk_at dksX1_claim_0 6 rfl rfl)
theorem dX1_claim_9 : decode cX1_claim 9 = .ok (.iload_n 1, 1) := dk_27 (dk_at dksX1_claim_0 9 rfl rfl)
theorem dX1_claim_10 : decode cX1_claim 10 = .ok (.iload_n 2, 1) := dk_28 (dk_at dksX1_claim_0 10 rfl rfl)
theorem dX1_claim_11 : decode cX1_claim 11 = .ok (.iastore, 1) := dk_79 (dk_at dksX1_claim_0 11 rfl rfl)
theorem dX1_claim_12 : decode cX1_claim 12 = .ok (.aload_n 0, 1) := dk_42 (dk_at dksX1_claim_0 12 rfl rfl)
theorem dX1_claim_13 : decode cX1_claim 13 = .ok (.invokevirtual 133, 3) := dk_182 0 133 (dk_at dksX1_claim_0 13 rfl rfl)
theorem dX1_claim_16 : decode cX1_claim 16 = .ok (.aload_n 3, 1) := dk_45 (dk_at dksX1_claim_0 16 rfl rfl)
theorem dX1_claim_17 : decode cX1_claim 17 = .ok (.invokevirtual 136, 3) := dk_182 0 136 (dk_at dksX1_claim_0 17 rfl rfl)
theorem dX1_claim_20 : decode cX1_claim 20 = .ok (.ireturn, 1) := dk_172 (dk_at dksX1_claim_0 20 rfl rfl)
abbrev cX1_mover : ByteArray := prog_2_method_5_code
def yX1_mover : MethodName := ⟨RX1, "mover", "()LLiarMaps$Player;"⟩
def dkwX1_mover_0 : List UInt8 := [42, 180, 0, 30, 42, 180, 0, 90, 6, 112, 50, 176]
abbrev dktX1_mover_0 : List UInt8 := dkwX1_mover_0 ++ []
theorem dksX1_mover_0 : cX1_mover.data.toList.drop 0 = dktX1_mover_0 := by decide +kernel
theorem dX1_mover_0 : decode cX1_mover 0 = .ok (.aload_n 0, 1) := dk_42 (dk_at dksX1_mover_0 0 rfl rfl)
theorem dX1_mover_1 : decode cX1_mover 1 = .ok (.getfield 30, 3) := dk_180 0 30 (dk_at dksX1_mover_0 1 rfl rfl)
theorem dX1_mover_4 : decode cX1_mover 4 = .ok (.aload_n 0, 1) := dk_42 (dk_at dksX1_mover_0 4 rfl rfl)
theorem dX1_mover_5 : decode cX1_mover 5 = .ok (.getfield 90, 3) := dk_180 0 90 (dk_at dksX1_mover_0 5 rfl rfl)
theorem dX1_mover_8 : decode cX1_mover 8 = .ok (.iconst 3, 1) := dk_6 (dk_at dksX1_mover_0 8 rfl rfl)
theorem dX1_mover_9 : decode cX1_mover 9 = .ok (.irem, 1) := dk_112 (dk_at dksX1_mover_0 9 rfl rfl)
theorem dX1_mover_10 : decode cX1_mover 10 = .ok (.aaload, 1) := dk_50 (dk_at dksX1_mover_0 10 rfl rfl)
theorem dX1_mover_11 : decode cX1_mover 11 = .ok (.areturn, 1) := dk_176 (dk_at dksX1_mover_0 11 rfl rfl)
abbrev cX1_endTurn : ByteArray := prog_2_method_14_code
def yX1_endTurn : MethodName := ⟨RX1, "endTurn", "()V"⟩
def dkwX1_endTurn_1 : List UInt8 := [17, 0, 150, 161, 0, 7, 5, 167, 0, 7, 42, 180, 0, 87, 181, 0, 87, 177]
abbrev dktX1_endTurn_1 : List UInt8 := dkwX1_endTurn_1 ++ []
def dkwX1_endTurn_0 : List UInt8 := [42, 89, 180, 0, 90, 4, 96, 181, 0, 90, 42, 42, 180, 0, 87, 5, 159, 0, 13, 42, 180, 0, 90]
abbrev dktX1_endTurn_0 : List UInt8 := dkwX1_endTurn_0 ++ dktX1_endTurn_1
theorem dksX1_endTurn_0 : cX1_endTurn.data.toList.drop 0 = dktX1_endTurn_0 := by decide +kernel
theorem dksX1_endTurn_1 : cX1_endTurn.data.toList.drop 23 = dktX1_endTurn_1 := dk_seg dksX1_endTurn_0 23 rfl rfl
theorem dX1_endTurn_0 : decode cX1_endTurn 0 = .ok (.aload_n 0, 1) := dk_42 (dk_at dksX1_endTurn_0 0 rfl rfl)
theorem dX1_endTurn_1 : decode cX1_endTurn 1 = .ok (.dup, 1) := dk_89 (dk_at dksX1_endTurn_0 1 rfl rfl)
theorem dX1_endTurn_2 : decode cX1_endTurn 2 = .ok (.getfield 90, 3) := dk_180 0 90 (dk_at dksX1_endTurn_0 2 rfl rfl)
theorem dX1_endTurn_5 : decode cX1_endTurn 5 = .ok (.iconst 1, 1) := dk_4 (dk_at dksX1_endTurn_0 5 rfl rfl)
theorem dX1_endTurn_6 : decode cX1_endTurn 6 = .ok (.iadd, 1) := dk_96 (dk_at dksX1_endTurn_0 6 rfl rfl)
theorem dX1_endTurn_7 : decode cX1_endTurn 7 = .ok (.putfield 90, 3) := dk_181 0 90 (dk_at dksX1_endTurn_0 7 rfl rfl)
theorem dX1_endTurn_10 : decode cX1_endTurn 10 = .ok (.aload_n 0, 1) := dk_42 (dk_at dksX1_endTurn_0 10 rfl rfl)
theorem dX1_endTurn_11 : decode cX1_endTurn 11 = .ok (.aload_n 0, 1) := dk_42 (dk_at dksX1_endTurn_0 11 rfl rfl)
theorem dX1_endTurn_12 : decode cX1_endTurn 12 = .ok (.getfield 87, 3) := dk_180 0 87 (dk_at dksX1_endTurn_0 12 rfl rfl)
theorem dX1_endTurn_15 : decode cX1_endTurn 15 = .ok (.iconst 2, 1) := dk_5 (dk_at dksX1_endTurn_0 15 rfl rfl)
theorem dX1_endTurn_16 : decode cX1_endTurn 16 = .ok (.if_icmp .eq 13, 3) := dk_159 0 13 (dk_at dksX1_endTurn_0 16 rfl rfl)
theorem dX1_endTurn_19 : decode cX1_endTurn 19 = .ok (.aload_n 0, 1) := dk_42 (dk_at dksX1_endTurn_0 19 rfl rfl)
theorem dX1_endTurn_20 : decode cX1_endTurn 20 = .ok (.getfield 90, 3) := dk_180 0 90 (dk_at dksX1_endTurn_0 20 rfl rfl)
theorem dX1_endTurn_23 : decode cX1_endTurn 23 = .ok (.sipush 150, 3) := dk_17 0 150 (dk_at dksX1_endTurn_1 0 rfl rfl)
theorem dX1_endTurn_26 : decode cX1_endTurn 26 = .ok (.if_icmp .lt 7, 3) := dk_161 0 7 (dk_at dksX1_endTurn_1 3 rfl rfl)
theorem dX1_endTurn_29 : decode cX1_endTurn 29 = .ok (.iconst 2, 1) := dk_5 (dk_at dksX1_endTurn_1 6 rfl rfl)
theorem dX1_endTurn_30 : decode cX1_endTurn 30 = .ok (.goto 7, 3) := dk_167 0 7 (dk_at dksX1_endTurn_1 7 rfl rfl)
theorem dX1_endTurn_33 : decode cX1_endTurn 33 = .ok (.aload_n 0, 1) := dk_42 (dk_at dksX1_endTurn_1 10 rfl rfl)
theorem dX1_endTurn_34 : decode cX1_endTurn 34 = .ok (.getfield 87, 3) := dk_180 0 87 (dk_at dksX1_endTurn_1 11 rfl rfl)
theorem dX1_endTurn_37 : decode cX1_endTurn 37 = .ok (.putfield 87, 3) := dk_181 0 87 (dk_at dksX1_endTurn_1 14 rfl rfl)
theorem dX1_endTurn_40 : decode cX1_endTurn 40 = .ok (.return_, 1) := dk_177 (dk_at dksX1_endTurn_1 17 rfl rfl)
abbrev cX1_check : ByteArray := prog_2_method_16_code
def yX1_check : MethodName := ⟨RX1, "check", "(LLiarMaps$Player;I)I"⟩
def dkwX1_check_4 : List UInt8 := [181, 0, 149, 42, 182, 0, 133, 21, 4, 153, 0, 7, 4, 167, 0, 4, 3, 172]
abbrev dktX1_check_4 : List UInt8 := dkwX1_check_4 ++ []
def dkwX1_check_3 : List UInt8 := [4, 46, 182, 0, 139, 43, 89, 180, 0, 146, 4, 96, 181, 0, 146, 45, 89, 180, 0, 149, 4, 96]
abbrev dktX1_check_3 : List UInt8 := dkwX1_check_3 ++ dktX1_check_4
def dkwX1_check_2 : List UInt8 := [153, 0, 7, 4, 167, 0, 4, 3, 184, 0, 126, 54, 4, 21, 4, 153, 0, 34, 43, 45, 42, 180, 0, 9]
abbrev dktX1_check_2 : List UInt8 := dkwX1_check_2 ++ dktX1_check_3
def dkwX1_check_1 : List UInt8 := [45, 89, 180, 0, 143, 4, 96, 181, 0, 143, 43, 180, 0, 123, 28, 46, 42, 180, 0, 20, 28, 182, 0, 52]
abbrev dktX1_check_1 : List UInt8 := dkwX1_check_1 ++ dktX1_check_2
def dkwX1_check_0 : List UInt8 := [42, 182, 0, 130, 78, 45, 43, 42, 180, 0, 9, 3, 46, 182, 0, 139, 42, 180, 0, 24, 28, 182, 0, 93]
abbrev dktX1_check_0 : List UInt8 := dkwX1_check_0 ++ dktX1_check_1
theorem dksX1_check_0 : cX1_check.data.toList.drop 0 = dktX1_check_0 := by decide +kernel
theorem dksX1_check_1 : cX1_check.data.toList.drop 24 = dktX1_check_1 := dk_seg dksX1_check_0 24 rfl rfl
theorem dksX1_check_2 : cX1_check.data.toList.drop 48 = dktX1_check_2 := dk_seg dksX1_check_1 24 rfl rfl
theorem dksX1_check_3 : cX1_check.data.toList.drop 72 = dktX1_check_3 := dk_seg dksX1_check_2 24 rfl rfl
theorem dksX1_check_4 : cX1_check.data.toList.drop 94 = dktX1_check_4 := dk_seg dksX1_check_3 22 rfl rfl
theorem dX1_check_0 : decode cX1_check 0 = .ok (.aload_n 0, 1) := dk_42 (dk_at dksX1_check_0 0 rfl rfl)
theorem dX1_check_1 : decode cX1_check 1 = .ok (.invokevirtual 130, 3) := dk_182 0 130 (dk_at dksX1_check_0 1 rfl rfl)
theorem dX1_check_4 : decode cX1_check 4 = .ok (.astore_n 3, 1) := dk_78 (dk_at dksX1_check_0 4 rfl rfl)
theorem dX1_check_5 : decode cX1_check 5 = .ok (.aload_n 3, 1) := dk_45 (dk_at dksX1_check_0 5 rfl rfl)
theorem dX1_check_6 : decode cX1_check 6 = .ok (.aload_n 1, 1) := dk_43 (dk_at dksX1_check_0 6 rfl rfl)
theorem dX1_check_7 : decode cX1_check 7 = .ok (.aload_n 0, 1) := dk_42 (dk_at dksX1_check_0 7 rfl rfl)
theorem dX1_check_8 : decode cX1_check 8 = .ok (.getfield 9, 3) := dk_180 0 9 (dk_at dksX1_check_0 8 rfl rfl)
theorem dX1_check_11 : decode cX1_check 11 = .ok (.iconst 0, 1) := dk_3 (dk_at dksX1_check_0 11 rfl rfl)
theorem dX1_check_12 : decode cX1_check 12 = .ok (.iaload, 1) := dk_46 (dk_at dksX1_check_0 12 rfl rfl)
theorem dX1_check_13 : decode cX1_check 13 = .ok (.invokevirtual 139, 3) := dk_182 0 139 (dk_at dksX1_check_0 13 rfl rfl)
theorem dX1_check_16 : decode cX1_check 16 = .ok (.aload_n 0, 1) := dk_42 (dk_at dksX1_check_0 16 rfl rfl)
theorem dX1_check_17 : decode cX1_check 17 = .ok (.getfield 24, 3) := dk_180 0 24 (dk_at dksX1_check_0 17 rfl rfl)
theorem dX1_check_20 : decode cX1_check 20 = .ok (.iload_n 2, 1) := dk_28 (dk_at dksX1_check_0 20 rfl rfl)
theorem dX1_check_21 : decode cX1_check 21 = .ok (.invokevirtual 93, 3) := dk_182 0 93 (dk_at dksX1_check_0 21 rfl rfl)
theorem dX1_check_24 : decode cX1_check 24 = .ok (.aload_n 3, 1) := dk_45 (dk_at dksX1_check_1 0 rfl rfl)
theorem dX1_check_25 : decode cX1_check 25 = .ok (.dup, 1) := dk_89 (dk_at dksX1_check_1 1 rfl rfl)
theorem dX1_check_26 : decode cX1_check 26 = .ok (.getfield 143, 3) := dk_180 0 143 (dk_at dksX1_check_1 2 rfl rfl)
theorem dX1_check_29 : decode cX1_check 29 = .ok (.iconst 1, 1) := dk_4 (dk_at dksX1_check_1 5 rfl rfl)
theorem dX1_check_30 : decode cX1_check 30 = .ok (.iadd, 1) := dk_96 (dk_at dksX1_check_1 6 rfl rfl)
theorem dX1_check_31 : decode cX1_check 31 = .ok (.putfield 143, 3) := dk_181 0 143 (dk_at dksX1_check_1 7 rfl rfl)
theorem dX1_check_34 : decode cX1_check 34 = .ok (.aload_n 1, 1) := dk_43 (dk_at dksX1_check_1 10 rfl rfl)
theorem dX1_check_35 : decode cX1_check 35 = .ok (.getfield 123, 3) := dk_180 0 123 (dk_at dksX1_check_1 11 rfl rfl)
theorem dX1_check_38 : decode cX1_check 38 = .ok (.iload_n 2, 1) := dk_28 (dk_at dksX1_check_1 14 rfl rfl)
theorem dX1_check_39 : decode cX1_check 39 = .ok (.iaload, 1) := dk_46 (dk_at dksX1_check_1 15 rfl rfl)
theorem dX1_check_40 : decode cX1_check 40 = .ok (.aload_n 0, 1) := dk_42 (dk_at dksX1_check_1 16 rfl rfl)
theorem dX1_check_41 : decode cX1_check 41 = .ok (.getfield 20, 3) := dk_180 0 20 (dk_at dksX1_check_1 17 rfl rfl)
theorem dX1_check_44 : decode cX1_check 44 = .ok (.iload_n 2, 1) := dk_28 (dk_at dksX1_check_1 20 rfl rfl)
theorem dX1_check_45 : decode cX1_check 45 = .ok (.invokevirtual 52, 3) := dk_182 0 52 (dk_at dksX1_check_1 21 rfl rfl)
theorem dX1_check_48 : decode cX1_check 48 = .ok (.ifCond .eq 7, 3) := dk_153 0 7 (dk_at dksX1_check_2 0 rfl rfl)
theorem dX1_check_51 : decode cX1_check 51 = .ok (.iconst 1, 1) := dk_4 (dk_at dksX1_check_2 3 rfl rfl)
theorem dX1_check_52 : decode cX1_check 52 = .ok (.goto 4, 3) := dk_167 0 4 (dk_at dksX1_check_2 4 rfl rfl)
theorem dX1_check_55 : decode cX1_check 55 = .ok (.iconst 0, 1) := dk_3 (dk_at dksX1_check_2 7 rfl rfl)
theorem dX1_check_56 : decode cX1_check 56 = .ok (.invokestatic 126, 3) := dk_184 0 126 (dk_at dksX1_check_2 8 rfl rfl)
theorem dX1_check_59 : decode cX1_check 59 = .ok (.istore 4, 2) := dk_54 4 (dk_at dksX1_check_2 11 rfl rfl)
theorem dX1_check_61 : decode cX1_check 61 = .ok (.iload 4, 2) := dk_21 4 (dk_at dksX1_check_2 13 rfl rfl)
theorem dX1_check_63 : decode cX1_check 63 = .ok (.ifCond .eq 34, 3) := dk_153 0 34 (dk_at dksX1_check_2 15 rfl rfl)
theorem dX1_check_66 : decode cX1_check 66 = .ok (.aload_n 1, 1) := dk_43 (dk_at dksX1_check_2 18 rfl rfl)
theorem dX1_check_67 : decode cX1_check 67 = .ok (.aload_n 3, 1) := dk_45 (dk_at dksX1_check_2 19 rfl rfl)
theorem dX1_check_68 : decode cX1_check 68 = .ok (.aload_n 0, 1) := dk_42 (dk_at dksX1_check_2 20 rfl rfl)
theorem dX1_check_69 : decode cX1_check 69 = .ok (.getfield 9, 3) := dk_180 0 9 (dk_at dksX1_check_2 21 rfl rfl)
theorem dX1_check_72 : decode cX1_check 72 = .ok (.iconst 1, 1) := dk_4 (dk_at dksX1_check_3 0 rfl rfl)
theorem dX1_check_73 : decode cX1_check 73 = .ok (.iaload, 1) := dk_46 (dk_at dksX1_check_3 1 rfl rfl)
theorem dX1_check_74 : decode cX1_check 74 = .ok (.invokevirtual 139, 3) := dk_182 0 139 (dk_at dksX1_check_3 2 rfl rfl)
theorem dX1_check_77 : decode cX1_check 77 = .ok (.aload_n 1, 1) := dk_43 (dk_at dksX1_check_3 5 rfl rfl)
theorem dX1_check_78 : decode cX1_check 78 = .ok (.dup, 1) := dk_89 (dk_at dksX1_check_3 6 rfl rfl)
theorem dX1_check_79 : decode cX1_check 79 = .ok (.getfield 146, 3) := dk_180 0 146 (dk_at dksX1_check_3 7 rfl rfl)
theorem dX1_check_82 : decode cX1_check 82 = .ok (.iconst 1, 1) := dk_4 (dk_at dksX1_check_3 10 rfl rfl)
theorem dX1_check_83 : decode cX1_check 83 = .ok (.iadd, 1) := dk_96 (dk_at dksX1_check_3 11 rfl rfl)
theorem dX1_check_84 : decode cX1_check 84 = .ok (.putfield 146, 3) := dk_181 0 146 (dk_at dksX1_check_3 12 rfl rfl)
theorem dX1_check_87 : decode cX1_check 87 = .ok (.aload_n 3, 1) := dk_45 (dk_at dksX1_check_3 15 rfl rfl)
theorem dX1_check_88 : decode cX1_check 88 = .ok (.dup, 1) := dk_89 (dk_at dksX1_check_3 16 rfl rfl)
theorem dX1_check_89 : decode cX1_check 89 = .ok (.getfield 149, 3) := dk_180 0 149 (dk_at dksX1_check_3 17 rfl rfl)
theorem dX1_check_92 : decode cX1_check 92 = .ok (.iconst 1, 1) := dk_4 (dk_at dksX1_check_3 20 rfl rfl)
theorem dX1_check_93 : decode cX1_check 93 = .ok (.iadd, 1) := dk_96 (dk_at dksX1_check_3 21 rfl rfl)
theorem dX1_check_94 : decode cX1_check 94 = .ok (.putfield 149, 3) := dk_181 0 149 (dk_at dksX1_check_4 0 rfl rfl)
theorem dX1_check_97 : decode cX1_check 97 = .ok (.aload_n 0, 1) := dk_42 (dk_at dksX1_check_4 3 rfl rfl)
theorem dX1_check_98 : decode cX1_check 98 = .ok (.invokevirtual 133, 3) := dk_182 0 133 (dk_at dksX1_check_4 4 rfl rfl)
theorem dX1_check_101 : decode cX1_check 101 = .ok (.iload 4, 2) := dk_21 4 (dk_at dksX1_check_4 7 rfl rfl)
theorem dX1_check_103 : decode cX1_check 103 = .ok (.ifCond .eq 7, 3) := dk_153 0 7 (dk_at dksX1_check_4 9 rfl rfl)
theorem dX1_check_106 : decode cX1_check 106 = .ok (.iconst 1, 1) := dk_4 (dk_at dksX1_check_4 12 rfl rfl)
theorem dX1_check_107 : decode cX1_check 107 = .ok (.goto 4, 3) := dk_167 0 4 (dk_at dksX1_check_4 13 rfl rfl)
theorem dX1_check_110 : decode cX1_check 110 = .ok (.iconst 0, 1) := dk_3 (dk_at dksX1_check_4 16 rfl rfl)
theorem dX1_check_111 : decode cX1_check 111 = .ok (.ireturn, 1) := dk_172 (dk_at dksX1_check_4 17 rfl rfl)
abbrev cX1_isFalse : ByteArray := prog_2_method_12_code
def yX1_isFalse : MethodName := ⟨RX1, "isFalse", "(II)Z"⟩
def dkwX1_isFalse_1 : List UInt8 := [172]
abbrev dktX1_isFalse_1 : List UInt8 := dkwX1_isFalse_1 ++ []
def dkwX1_isFalse_0 : List UInt8 := [26, 4, 160, 0, 7, 27, 153, 0, 13, 26, 5, 160, 0, 12, 27, 4, 160, 0, 7, 4, 167, 0, 4, 3]
abbrev dktX1_isFalse_0 : List UInt8 := dkwX1_isFalse_0 ++ dktX1_isFalse_1
theorem dksX1_isFalse_0 : cX1_isFalse.data.toList.drop 0 = dktX1_isFalse_0 := by decide +kernel
theorem dksX1_isFalse_1 : cX1_isFalse.data.toList.drop 24 = dktX1_isFalse_1 := dk_seg dksX1_isFalse_0 24 rfl rfl
theorem dX1_isFalse_0 : decode cX1_isFalse 0 = .ok (.iload_n 0, 1) := dk_26 (dk_at dksX1_isFalse_0 0 rfl rfl)
theorem dX1_isFalse_1 : decode cX1_isFalse 1 = .ok (.iconst 1, 1) := dk_4 (dk_at dksX1_isFalse_0 1 rfl rfl)
theorem dX1_isFalse_2 : decode cX1_isFalse 2 = .ok (.if_icmp .ne 7, 3) := dk_160 0 7 (dk_at dksX1_isFalse_0 2 rfl rfl)
theorem dX1_isFalse_5 : decode cX1_isFalse 5 = .ok (.iload_n 1, 1) := dk_27 (dk_at dksX1_isFalse_0 5 rfl rfl)
theorem dX1_isFalse_6 : decode cX1_isFalse 6 = .ok (.ifCond .eq 13, 3) := dk_153 0 13 (dk_at dksX1_isFalse_0 6 rfl rfl)
theorem dX1_isFalse_9 : decode cX1_isFalse 9 = .ok (.iload_n 0, 1) := dk_26 (dk_at dksX1_isFalse_0 9 rfl rfl)
theorem dX1_isFalse_10 : decode cX1_isFalse 10 = .ok (.iconst 2, 1) := dk_5 (dk_at dksX1_isFalse_0 10 rfl rfl)
theorem dX1_isFalse_11 : decode cX1_isFalse 11 = .ok (.if_icmp .ne 12, 3) := dk_160 0 12 (dk_at dksX1_isFalse_0 11 rfl rfl)
theorem dX1_isFalse_14 : decode cX1_isFalse 14 = .ok (.iload_n 1, 1) := dk_27 (dk_at dksX1_isFalse_0 14 rfl rfl)
theorem dX1_isFalse_15 : decode cX1_isFalse 15 = .ok (.iconst 1, 1) := dk_4 (dk_at dksX1_isFalse_0 15 rfl rfl)
theorem dX1_isFalse_16 : decode cX1_isFalse 16 = .ok (.if_icmp .ne 7, 3) := dk_160 0 7 (dk_at dksX1_isFalse_0 16 rfl rfl)
theorem dX1_isFalse_19 : decode cX1_isFalse 19 = .ok (.iconst 1, 1) := dk_4 (dk_at dksX1_isFalse_0 19 rfl rfl)
theorem dX1_isFalse_20 : decode cX1_isFalse 20 = .ok (.goto 4, 3) := dk_167 0 4 (dk_at dksX1_isFalse_0 20 rfl rfl)
theorem dX1_isFalse_23 : decode cX1_isFalse 23 = .ok (.iconst 0, 1) := dk_3 (dk_at dksX1_isFalse_0 23 rfl rfl)
theorem dX1_isFalse_24 : decode cX1_isFalse 24 = .ok (.ireturn, 1) := dk_172 (dk_at dksX1_isFalse_1 0 rfl rfl)
abbrev cX1_dig : ByteArray := prog_2_method_17_code
def yX1_dig : MethodName := ⟨RX1, "dig", "(I)I"⟩
def dkwX1_dig_3 : List UInt8 := [180, 0, 90, 6, 112, 181, 0, 41, 42, 5, 181, 0, 87, 42, 182, 0, 133, 29, 172]
abbrev dktX1_dig_3 : List UInt8 := dkwX1_dig_3 ++ []
def dkwX1_dig_2 : List UInt8 := [27, 29, 183, 0, 160, 182, 0, 80, 29, 154, 0, 28, 44, 42, 180, 0, 9, 6, 46, 182, 0, 163, 42, 42]
abbrev dktX1_dig_2 : List UInt8 := dkwX1_dig_2 ++ dktX1_dig_3
def dkwX1_dig_1 : List UInt8 := [5, 46, 100, 181, 0, 155, 44, 89, 180, 0, 158, 4, 96, 181, 0, 158, 42, 180, 0, 37, 187, 0, 78, 89]
abbrev dktX1_dig_1 : List UInt8 := dkwX1_dig_1 ++ dktX1_dig_2
def dkwX1_dig_0 : List UInt8 := [42, 182, 0, 130, 77, 42, 27, 42, 180, 0, 84, 182, 0, 152, 62, 44, 89, 180, 0, 155, 42, 180, 0, 9]
abbrev dktX1_dig_0 : List UInt8 := dkwX1_dig_0 ++ dktX1_dig_1
theorem dksX1_dig_0 : cX1_dig.data.toList.drop 0 = dktX1_dig_0 := by decide +kernel
theorem dksX1_dig_1 : cX1_dig.data.toList.drop 24 = dktX1_dig_1 := dk_seg dksX1_dig_0 24 rfl rfl
theorem dksX1_dig_2 : cX1_dig.data.toList.drop 48 = dktX1_dig_2 := dk_seg dksX1_dig_1 24 rfl rfl
theorem dksX1_dig_3 : cX1_dig.data.toList.drop 72 = dktX1_dig_3 := dk_seg dksX1_dig_2 24 rfl rfl
theorem dX1_dig_0 : decode cX1_dig 0 = .ok (.aload_n 0, 1) := dk_42 (dk_at dksX1_dig_0 0 rfl rfl)
theorem dX1_dig_1 : decode cX1_dig 1 = .ok (.invokevirtual 130, 3) := dk_182 0 130 (dk_at dksX1_dig_0 1 rfl rfl)
theorem dX1_dig_4 : decode cX1_dig 4 = .ok (.astore_n 2, 1) := dk_77 (dk_at dksX1_dig_0 4 rfl rfl)
theorem dX1_dig_5 : decode cX1_dig 5 = .ok (.aload_n 0, 1) := dk_42 (dk_at dksX1_dig_0 5 rfl rfl)
theorem dX1_dig_6 : decode cX1_dig 6 = .ok (.iload_n 1, 1) := dk_27 (dk_at dksX1_dig_0 6 rfl rfl)
theorem dX1_dig_7 : decode cX1_dig 7 = .ok (.aload_n 0, 1) := dk_42 (dk_at dksX1_dig_0 7 rfl rfl)
theorem dX1_dig_8 : decode cX1_dig 8 = .ok (.getfield 84, 3) := dk_180 0 84 (dk_at dksX1_dig_0 8 rfl rfl)
theorem dX1_dig_11 : decode cX1_dig 11 = .ok (.invokevirtual 152, 3) := dk_182 0 152 (dk_at dksX1_dig_0 11 rfl rfl)
theorem dX1_dig_14 : decode cX1_dig 14 = .ok (.istore_n 3, 1) := dk_62 (dk_at dksX1_dig_0 14 rfl rfl)
theorem dX1_dig_15 : decode cX1_dig 15 = .ok (.aload_n 2, 1) := dk_44 (dk_at dksX1_dig_0 15 rfl rfl)
theorem dX1_dig_16 : decode cX1_dig 16 = .ok (.dup, 1) := dk_89 (dk_at dksX1_dig_0 16 rfl rfl)
theorem dX1_dig_17 : decode cX1_dig 17 = .ok (.getfield 155, 3) := dk_180 0 155 (dk_at dksX1_dig_0 17 rfl rfl)
theorem dX1_dig_20 : decode cX1_dig 20 = .ok (.aload_n 0, 1) := dk_42 (dk_at dksX1_dig_0 20 rfl rfl)
theorem dX1_dig_21 : decode cX1_dig 21 = .ok (.getfield 9, 3) := dk_180 0 9 (dk_at dksX1_dig_0 21 rfl rfl)
theorem dX1_dig_24 : decode cX1_dig 24 = .ok (.iconst 2, 1) := dk_5 (dk_at dksX1_dig_1 0 rfl rfl)
theorem dX1_dig_25 : decode cX1_dig 25 = .ok (.iaload, 1) := dk_46 (dk_at dksX1_dig_1 1 rfl rfl)
theorem dX1_dig_26 : decode cX1_dig 26 = .ok (.isub, 1) := dk_100 (dk_at dksX1_dig_1 2 rfl rfl)
theorem dX1_dig_27 : decode cX1_dig 27 = .ok (.putfield 155, 3) := dk_181 0 155 (dk_at dksX1_dig_1 3 rfl rfl)
theorem dX1_dig_30 : decode cX1_dig 30 = .ok (.aload_n 2, 1) := dk_44 (dk_at dksX1_dig_1 6 rfl rfl)
theorem dX1_dig_31 : decode cX1_dig 31 = .ok (.dup, 1) := dk_89 (dk_at dksX1_dig_1 7 rfl rfl)
theorem dX1_dig_32 : decode cX1_dig 32 = .ok (.getfield 158, 3) := dk_180 0 158 (dk_at dksX1_dig_1 8 rfl rfl)
theorem dX1_dig_35 : decode cX1_dig 35 = .ok (.iconst 1, 1) := dk_4 (dk_at dksX1_dig_1 11 rfl rfl)
theorem dX1_dig_36 : decode cX1_dig 36 = .ok (.iadd, 1) := dk_96 (dk_at dksX1_dig_1 12 rfl rfl)
theorem dX1_dig_37 : decode cX1_dig 37 = .ok (.putfield 158, 3) := dk_181 0 158 (dk_at dksX1_dig_1 13 rfl rfl)
theorem dX1_dig_40 : decode cX1_dig 40 = .ok (.aload_n 0, 1) := dk_42 (dk_at dksX1_dig_1 16 rfl rfl)
theorem dX1_dig_41 : decode cX1_dig 41 = .ok (.getfield 37, 3) := dk_180 0 37 (dk_at dksX1_dig_1 17 rfl rfl)
theorem dX1_dig_44 : decode cX1_dig 44 = .ok (.new 78, 3) := dk_187 0 78 (dk_at dksX1_dig_1 20 rfl rfl)
theorem dX1_dig_47 : decode cX1_dig 47 = .ok (.dup, 1) := dk_89 (dk_at dksX1_dig_1 23 rfl rfl)
theorem dX1_dig_48 : decode cX1_dig 48 = .ok (.iload_n 1, 1) := dk_27 (dk_at dksX1_dig_2 0 rfl rfl)
theorem dX1_dig_49 : decode cX1_dig 49 = .ok (.iload_n 3, 1) := dk_29 (dk_at dksX1_dig_2 1 rfl rfl)
theorem dX1_dig_50 : decode cX1_dig 50 = .ok (.invokespecial 160, 3) := dk_183 0 160 (dk_at dksX1_dig_2 2 rfl rfl)
theorem dX1_dig_53 : decode cX1_dig 53 = .ok (.invokevirtual 80, 3) := dk_182 0 80 (dk_at dksX1_dig_2 5 rfl rfl)
theorem dX1_dig_56 : decode cX1_dig 56 = .ok (.iload_n 3, 1) := dk_29 (dk_at dksX1_dig_2 8 rfl rfl)
theorem dX1_dig_57 : decode cX1_dig 57 = .ok (.ifCond .ne 28, 3) := dk_154 0 28 (dk_at dksX1_dig_2 9 rfl rfl)
theorem dX1_dig_60 : decode cX1_dig 60 = .ok (.aload_n 2, 1) := dk_44 (dk_at dksX1_dig_2 12 rfl rfl)
theorem dX1_dig_61 : decode cX1_dig 61 = .ok (.aload_n 0, 1) := dk_42 (dk_at dksX1_dig_2 13 rfl rfl)
theorem dX1_dig_62 : decode cX1_dig 62 = .ok (.getfield 9, 3) := dk_180 0 9 (dk_at dksX1_dig_2 14 rfl rfl)
theorem dX1_dig_65 : decode cX1_dig 65 = .ok (.iconst 3, 1) := dk_6 (dk_at dksX1_dig_2 17 rfl rfl)
theorem dX1_dig_66 : decode cX1_dig 66 = .ok (.iaload, 1) := dk_46 (dk_at dksX1_dig_2 18 rfl rfl)
theorem dX1_dig_67 : decode cX1_dig 67 = .ok (.invokevirtual 163, 3) := dk_182 0 163 (dk_at dksX1_dig_2 19 rfl rfl)
theorem dX1_dig_70 : decode cX1_dig 70 = .ok (.aload_n 0, 1) := dk_42 (dk_at dksX1_dig_2 22 rfl rfl)
theorem dX1_dig_71 : decode cX1_dig 71 = .ok (.aload_n 0, 1) := dk_42 (dk_at dksX1_dig_2 23 rfl rfl)
theorem dX1_dig_72 : decode cX1_dig 72 = .ok (.getfield 90, 3) := dk_180 0 90 (dk_at dksX1_dig_3 0 rfl rfl)
theorem dX1_dig_75 : decode cX1_dig 75 = .ok (.iconst 3, 1) := dk_6 (dk_at dksX1_dig_3 3 rfl rfl)
theorem dX1_dig_76 : decode cX1_dig 76 = .ok (.irem, 1) := dk_112 (dk_at dksX1_dig_3 4 rfl rfl)
theorem dX1_dig_77 : decode cX1_dig 77 = .ok (.putfield 41, 3) := dk_181 0 41 (dk_at dksX1_dig_3 5 rfl rfl)
theorem dX1_dig_80 : decode cX1_dig 80 = .ok (.aload_n 0, 1) := dk_42 (dk_at dksX1_dig_3 8 rfl rfl)
theorem dX1_dig_81 : decode cX1_dig 81 = .ok (.iconst 2, 1) := dk_5 (dk_at dksX1_dig_3 9 rfl rfl)
theorem dX1_dig_82 : decode cX1_dig 82 = .ok (.putfield 87, 3) := dk_181 0 87 (dk_at dksX1_dig_3 10 rfl rfl)
theorem dX1_dig_85 : decode cX1_dig 85 = .ok (.aload_n 0, 1) := dk_42 (dk_at dksX1_dig_3 13 rfl rfl)
theorem dX1_dig_86 : decode cX1_dig 86 = .ok (.invokevirtual 133, 3) := dk_182 0 133 (dk_at dksX1_dig_3 14 rfl rfl)
theorem dX1_dig_89 : decode cX1_dig 89 = .ok (.iload_n 3, 1) := dk_29 (dk_at dksX1_dig_3 17 rfl rfl)
theorem dX1_dig_90 : decode cX1_dig 90 = .ok (.ireturn, 1) := dk_172 (dk_at dksX1_dig_3 18 rfl rfl)
abbrev cX1_far : ByteArray := prog_2_method_20_code
def yX1_far : MethodName := ⟨RX1, "far", "(II)I"⟩
def dkwX1_far_0 : List UInt8 := [27, 28, 42, 182, 0, 186, 184, 0, 190, 172]
abbrev dktX1_far_0 : List UInt8 := dkwX1_far_0 ++ []
theorem dksX1_far_0 : cX1_far.data.toList.drop 0 = dktX1_far_0 := by decide +kernel
theorem dX1_far_0 : decode cX1_far 0 = .ok (.iload_n 1, 1) := dk_27 (dk_at dksX1_far_0 0 rfl rfl)
theorem dX1_far_1 : decode cX1_far 1 = .ok (.iload_n 2, 1) := dk_28 (dk_at dksX1_far_0 1 rfl rfl)
theorem dX1_far_2 : decode cX1_far 2 = .ok (.aload_n 0, 1) := dk_42 (dk_at dksX1_far_0 2 rfl rfl)
theorem dX1_far_3 : decode cX1_far 3 = .ok (.invokevirtual 186, 3) := dk_182 0 186 (dk_at dksX1_far_0 3 rfl rfl)
theorem dX1_far_6 : decode cX1_far 6 = .ok (.invokestatic 190, 3) := dk_184 0 190 (dk_at dksX1_far_0 6 rfl rfl)
theorem dX1_far_9 : decode cX1_far 9 = .ok (.ireturn, 1) := dk_172 (dk_at dksX1_far_0 9 rfl rfl)
abbrev cX1_truth : ByteArray := prog_2_method_19_code
def yX1_truth : MethodName := ⟨RX1, "truth", "()[I"⟩
def dkwX1_truth_1 : List UInt8 := [153, 0, 7, 4, 167, 0, 4, 3, 79, 132, 2, 1, 167, 255, 228, 43, 176]
abbrev dktX1_truth_1 : List UInt8 := dkwX1_truth_1 ++ []
def dkwX1_truth_0 : List UInt8 := [16, 28, 188, 10, 76, 3, 61, 28, 16, 28, 162, 0, 28, 43, 28, 42, 180, 0, 20, 28, 182, 0, 52]
abbrev dktX1_truth_0 : List UInt8 := dkwX1_truth_0 ++ dktX1_truth_1
theorem dksX1_truth_0 : cX1_truth.data.toList.drop 0 = dktX1_truth_0 := by decide +kernel
theorem dksX1_truth_1 : cX1_truth.data.toList.drop 23 = dktX1_truth_1 := dk_seg dksX1_truth_0 23 rfl rfl
theorem dX1_truth_0 : decode cX1_truth 0 = .ok (.bipush 28, 2) := dk_16 28 (dk_at dksX1_truth_0 0 rfl rfl)
theorem dX1_truth_2 : decode cX1_truth 2 = .ok (.newarray .int, 2) := dk_188_10 (dk_at dksX1_truth_0 2 rfl rfl)
theorem dX1_truth_4 : decode cX1_truth 4 = .ok (.astore_n 1, 1) := dk_76 (dk_at dksX1_truth_0 4 rfl rfl)
theorem dX1_truth_5 : decode cX1_truth 5 = .ok (.iconst 0, 1) := dk_3 (dk_at dksX1_truth_0 5 rfl rfl)
theorem dX1_truth_6 : decode cX1_truth 6 = .ok (.istore_n 2, 1) := dk_61 (dk_at dksX1_truth_0 6 rfl rfl)
theorem dX1_truth_7 : decode cX1_truth 7 = .ok (.iload_n 2, 1) := dk_28 (dk_at dksX1_truth_0 7 rfl rfl)
theorem dX1_truth_8 : decode cX1_truth 8 = .ok (.bipush 28, 2) := dk_16 28 (dk_at dksX1_truth_0 8 rfl rfl)
theorem dX1_truth_10 : decode cX1_truth 10 = .ok (.if_icmp .ge 28, 3) := dk_162 0 28 (dk_at dksX1_truth_0 10 rfl rfl)
theorem dX1_truth_13 : decode cX1_truth 13 = .ok (.aload_n 1, 1) := dk_43 (dk_at dksX1_truth_0 13 rfl rfl)
theorem dX1_truth_14 : decode cX1_truth 14 = .ok (.iload_n 2, 1) := dk_28 (dk_at dksX1_truth_0 14 rfl rfl)
theorem dX1_truth_15 : decode cX1_truth 15 = .ok (.aload_n 0, 1) := dk_42 (dk_at dksX1_truth_0 15 rfl rfl)
theorem dX1_truth_16 : decode cX1_truth 16 = .ok (.getfield 20, 3) := dk_180 0 20 (dk_at dksX1_truth_0 16 rfl rfl)
theorem dX1_truth_19 : decode cX1_truth 19 = .ok (.iload_n 2, 1) := dk_28 (dk_at dksX1_truth_0 19 rfl rfl)
theorem dX1_truth_20 : decode cX1_truth 20 = .ok (.invokevirtual 52, 3) := dk_182 0 52 (dk_at dksX1_truth_0 20 rfl rfl)
theorem dX1_truth_23 : decode cX1_truth 23 = .ok (.ifCond .eq 7, 3) := dk_153 0 7 (dk_at dksX1_truth_1 0 rfl rfl)
theorem dX1_truth_26 : decode cX1_truth 26 = .ok (.iconst 1, 1) := dk_4 (dk_at dksX1_truth_1 3 rfl rfl)
theorem dX1_truth_27 : decode cX1_truth 27 = .ok (.goto 4, 3) := dk_167 0 4 (dk_at dksX1_truth_1 4 rfl rfl)
theorem dX1_truth_30 : decode cX1_truth 30 = .ok (.iconst 0, 1) := dk_3 (dk_at dksX1_truth_1 7 rfl rfl)
theorem dX1_truth_31 : decode cX1_truth 31 = .ok (.iastore, 1) := dk_79 (dk_at dksX1_truth_1 8 rfl rfl)
theorem dX1_truth_32 : decode cX1_truth 32 = .ok (.iinc 2 1, 3) := dk_132 2 1 (dk_at dksX1_truth_1 9 rfl rfl)
theorem dX1_truth_35 : decode cX1_truth 35 = .ok (.goto (-28), 3) := dk_167 255 228 (dk_at dksX1_truth_1 12 rfl rfl)
theorem dX1_truth_38 : decode cX1_truth 38 = .ok (.aload_n 1, 1) := dk_43 (dk_at dksX1_truth_1 15 rfl rfl)
theorem dX1_truth_39 : decode cX1_truth 39 = .ok (.areturn, 1) := dk_176 (dk_at dksX1_truth_1 16 rfl rfl)
abbrev cX1_way : ByteArray := prog_2_method_18_code
def yX1_way : MethodName := ⟨RX1, "way", "(II[I)I"⟩
def dkwX1_way_6 : List UInt8 := [185, 0, 174, 2, 0, 132, 7, 1, 167, 255, 194, 167, 255, 152, 16, 99, 172]
abbrev dktX1_way_6 : List UInt8 := dkwX1_way_6 ++ []
def dkwX1_way_5 : List UInt8 := [21, 7, 182, 0, 93, 45, 21, 7, 45, 21, 6, 46, 4, 96, 79, 25, 5, 21, 7, 184, 0, 168]
abbrev dktX1_way_5 : List UInt8 := dkwX1_way_5 ++ dktX1_way_6
def dkwX1_way_4 : List UInt8 := [21, 7, 182, 0, 52, 154, 0, 45, 44, 21, 6, 21, 7, 184, 0, 103, 46, 4, 160, 0, 32, 25, 4]
abbrev dktX1_way_4 : List UInt8 := dkwX1_way_4 ++ dktX1_way_5
def dkwX1_way_3 : List UInt8 := [21, 6, 27, 160, 0, 8, 45, 21, 6, 46, 172, 3, 54, 7, 21, 7, 16, 8, 162, 0, 61, 25, 4]
abbrev dktX1_way_3 : List UInt8 := dkwX1_way_3 ++ dktX1_way_4
def dkwX1_way_2 : List UInt8 := [185, 0, 177, 1, 0, 154, 0, 100, 25, 5, 185, 0, 180, 1, 0, 192, 0, 169, 182, 0, 183, 54, 6]
abbrev dktX1_way_2 : List UInt8 := dkwX1_way_2 ++ dktX1_way_3
def dkwX1_way_1 : List UInt8 := [183, 0, 167, 58, 5, 25, 4, 26, 182, 0, 93, 25, 5, 26, 184, 0, 168, 185, 0, 174, 2, 0, 25, 5]
abbrev dktX1_way_1 : List UInt8 := dkwX1_way_1 ++ dktX1_way_2
def dkwX1_way_0 : List UInt8 := [16, 8, 188, 10, 78, 187, 0, 15, 89, 16, 8, 183, 0, 17, 58, 4, 187, 0, 165, 89, 16, 9]
abbrev dktX1_way_0 : List UInt8 := dkwX1_way_0 ++ dktX1_way_1
theorem dksX1_way_0 : cX1_way.data.toList.drop 0 = dktX1_way_0 := by decide +kernel
theorem dksX1_way_1 : cX1_way.data.toList.drop 22 = dktX1_way_1 := dk_seg dksX1_way_0 22 rfl rfl
theorem dksX1_way_2 : cX1_way.data.toList.drop 46 = dktX1_way_2 := dk_seg dksX1_way_1 24 rfl rfl
theorem dksX1_way_3 : cX1_way.data.toList.drop 69 = dktX1_way_3 := dk_seg dksX1_way_2 23 rfl rfl
theorem dksX1_way_4 : cX1_way.data.toList.drop 92 = dktX1_way_4 := dk_seg dksX1_way_3 23 rfl rfl
theorem dksX1_way_5 : cX1_way.data.toList.drop 115 = dktX1_way_5 := dk_seg dksX1_way_4 23 rfl rfl
theorem dksX1_way_6 : cX1_way.data.toList.drop 137 = dktX1_way_6 := dk_seg dksX1_way_5 22 rfl rfl
theorem dX1_way_0 : decode cX1_way 0 = .ok (.bipush 8, 2) := dk_16 8 (dk_at dksX1_way_0 0 rfl rfl)
theorem dX1_way_2 : decode cX1_way 2 = .ok (.newarray .int, 2) := dk_188_10 (dk_at dksX1_way_0 2 rfl rfl)
theorem dX1_way_4 : decode cX1_way 4 = .ok (.astore_n 3, 1) := dk_78 (dk_at dksX1_way_0 4 rfl rfl)
theorem dX1_way_5 : decode cX1_way 5 = .ok (.new 15, 3) := dk_187 0 15 (dk_at dksX1_way_0 5 rfl rfl)
theorem dX1_way_8 : decode cX1_way 8 = .ok (.dup, 1) := dk_89 (dk_at dksX1_way_0 8 rfl rfl)
theorem dX1_way_9 : decode cX1_way 9 = .ok (.bipush 8, 2) := dk_16 8 (dk_at dksX1_way_0 9 rfl rfl)
theorem dX1_way_11 : decode cX1_way 11 = .ok (.invokespecial 17, 3) := dk_183 0 17 (dk_at dksX1_way_0 11 rfl rfl)
theorem dX1_way_14 : decode cX1_way 14 = .ok (.astore 4, 2) := dk_58 4 (dk_at dksX1_way_0 14 rfl rfl)
theorem dX1_way_16 : decode cX1_way 16 = .ok (.new 165, 3) := dk_187 0 165 (dk_at dksX1_way_0 16 rfl rfl)
theorem dX1_way_19 : decode cX1_way 19 = .ok (.dup, 1) := dk_89 (dk_at dksX1_way_0 19 rfl rfl)
theorem dX1_way_20 : decode cX1_way 20 = .ok (.bipush 9, 2) := dk_16 9 (dk_at dksX1_way_0 20 rfl rfl)
theorem dX1_way_22 : decode cX1_way 22 = .ok (.invokespecial 167, 3) := dk_183 0 167 (dk_at dksX1_way_1 0 rfl rfl)
theorem dX1_way_25 : decode cX1_way 25 = .ok (.astore 5, 2) := dk_58 5 (dk_at dksX1_way_1 3 rfl rfl)
theorem dX1_way_27 : decode cX1_way 27 = .ok (.aload 4, 2) := dk_25 4 (dk_at dksX1_way_1 5 rfl rfl)
theorem dX1_way_29 : decode cX1_way 29 = .ok (.iload_n 0, 1) := dk_26 (dk_at dksX1_way_1 7 rfl rfl)
theorem dX1_way_30 : decode cX1_way 30 = .ok (.invokevirtual 93, 3) := dk_182 0 93 (dk_at dksX1_way_1 8 rfl rfl)
theorem dX1_way_33 : decode cX1_way 33 = .ok (.aload 5, 2) := dk_25 5 (dk_at dksX1_way_1 11 rfl rfl)
theorem dX1_way_35 : decode cX1_way 35 = .ok (.iload_n 0, 1) := dk_26 (dk_at dksX1_way_1 13 rfl rfl)
theorem dX1_way_36 : decode cX1_way 36 = .ok (.invokestatic 168, 3) := dk_184 0 168 (dk_at dksX1_way_1 14 rfl rfl)
theorem dX1_way_39 : decode cX1_way 39 = .ok (.invokeinterface 174 2, 5) := by decide +kernel
theorem dX1_way_44 : decode cX1_way 44 = .ok (.aload 5, 2) := dk_25 5 (dk_at dksX1_way_1 22 rfl rfl)
theorem dX1_way_46 : decode cX1_way 46 = .ok (.invokeinterface 177 1, 5) := by decide +kernel
theorem dX1_way_51 : decode cX1_way 51 = .ok (.ifCond .ne 100, 3) := dk_154 0 100 (dk_at dksX1_way_2 5 rfl rfl)
theorem dX1_way_54 : decode cX1_way 54 = .ok (.aload 5, 2) := dk_25 5 (dk_at dksX1_way_2 8 rfl rfl)
theorem dX1_way_56 : decode cX1_way 56 = .ok (.invokeinterface 180 1, 5) := by decide +kernel
theorem dX1_way_61 : decode cX1_way 61 = .ok (.checkcast 169, 3) := dk_192 0 169 (dk_at dksX1_way_2 15 rfl rfl)
theorem dX1_way_64 : decode cX1_way 64 = .ok (.invokevirtual 183, 3) := dk_182 0 183 (dk_at dksX1_way_2 18 rfl rfl)
theorem dX1_way_67 : decode cX1_way 67 = .ok (.istore 6, 2) := dk_54 6 (dk_at dksX1_way_2 21 rfl rfl)
theorem dX1_way_69 : decode cX1_way 69 = .ok (.iload 6, 2) := dk_21 6 (dk_at dksX1_way_3 0 rfl rfl)
theorem dX1_way_71 : decode cX1_way 71 = .ok (.iload_n 1, 1) := dk_27 (dk_at dksX1_way_3 2 rfl rfl)
theorem dX1_way_72 : decode cX1_way 72 = .ok (.if_icmp .ne 8, 3) := dk_160 0 8 (dk_at dksX1_way_3 3 rfl rfl)
theorem dX1_way_75 : decode cX1_way 75 = .ok (.aload_n 3, 1) := dk_45 (dk_at dksX1_way_3 6 rfl rfl)
theorem dX1_way_76 : decode cX1_way 76 = .ok (.iload 6, 2) := dk_21 6 (dk_at dksX1_way_3 7 rfl rfl)
theorem dX1_way_78 : decode cX1_way 78 = .ok (.iaload, 1) := dk_46 (dk_at dksX1_way_3 9 rfl rfl)
theorem dX1_way_79 : decode cX1_way 79 = .ok (.ireturn, 1) := dk_172 (dk_at dksX1_way_3 10 rfl rfl)
theorem dX1_way_80 : decode cX1_way 80 = .ok (.iconst 0, 1) := dk_3 (dk_at dksX1_way_3 11 rfl rfl)
theorem dX1_way_81 : decode cX1_way 81 = .ok (.istore 7, 2) := dk_54 7 (dk_at dksX1_way_3 12 rfl rfl)
theorem dX1_way_83 : decode cX1_way 83 = .ok (.iload 7, 2) := dk_21 7 (dk_at dksX1_way_3 14 rfl rfl)
theorem dX1_way_85 : decode cX1_way 85 = .ok (.bipush 8, 2) := dk_16 8 (dk_at dksX1_way_3 16 rfl rfl)
theorem dX1_way_87 : decode cX1_way 87 = .ok (.if_icmp .ge 61, 3) := dk_162 0 61 (dk_at dksX1_way_3 18 rfl rfl)
theorem dX1_way_90 : decode cX1_way 90 = .ok (.aload 4, 2) := dk_25 4 (dk_at dksX1_way_3 21 rfl rfl)
theorem dX1_way_92 : decode cX1_way 92 = .ok (.iload 7, 2) := dk_21 7 (dk_at dksX1_way_4 0 rfl rfl)
theorem dX1_way_94 : decode cX1_way 94 = .ok (.invokevirtual 52, 3) := dk_182 0 52 (dk_at dksX1_way_4 2 rfl rfl)
theorem dX1_way_97 : decode cX1_way 97 = .ok (.ifCond .ne 45, 3) := dk_154 0 45 (dk_at dksX1_way_4 5 rfl rfl)
theorem dX1_way_100 : decode cX1_way 100 = .ok (.aload_n 2, 1) := dk_44 (dk_at dksX1_way_4 8 rfl rfl)
theorem dX1_way_101 : decode cX1_way 101 = .ok (.iload 6, 2) := dk_21 6 (dk_at dksX1_way_4 9 rfl rfl)
theorem dX1_way_103 : decode cX1_way 103 = .ok (.iload 7, 2) := dk_21 7 (dk_at dksX1_way_4 11 rfl rfl)
theorem dX1_way_105 : decode cX1_way 105 = .ok (.invokestatic 103, 3) := dk_184 0 103 (dk_at dksX1_way_4 13 rfl rfl)
theorem dX1_way_108 : decode cX1_way 108 = .ok (.iaload, 1) := dk_46 (dk_at dksX1_way_4 16 rfl rfl)
theorem dX1_way_109 : decode cX1_way 109 = .ok (.iconst 1, 1) := dk_4 (dk_at dksX1_way_4 17 rfl rfl)
theorem dX1_way_110 : decode cX1_way 110 = .ok (.if_icmp .ne 32, 3) := dk_160 0 32 (dk_at dksX1_way_4 18 rfl rfl)
theorem dX1_way_113 : decode cX1_way 113 = .ok (.aload 4, 2) := dk_25 4 (dk_at dksX1_way_4 21 rfl rfl)
theorem dX1_way_115 : decode cX1_way 115 = .ok (.iload 7, 2) := dk_21 7 (dk_at dksX1_way_5 0 rfl rfl)
theorem dX1_way_117 : decode cX1_way 117 = .ok (.invokevirtual 93, 3) := dk_182 0 93 (dk_at dksX1_way_5 2 rfl rfl)
theorem dX1_way_120 : decode cX1_way 120 = .ok (.aload_n 3, 1) := dk_45 (dk_at dksX1_way_5 5 rfl rfl)
theorem dX1_way_121 : decode cX1_way 121 = .ok (.iload 7, 2) := dk_21 7 (dk_at dksX1_way_5 6 rfl rfl)
theorem dX1_way_123 : decode cX1_way 123 = .ok (.aload_n 3, 1) := dk_45 (dk_at dksX1_way_5 8 rfl rfl)
theorem dX1_way_124 : decode cX1_way 124 = .ok (.iload 6, 2) := dk_21 6 (dk_at dksX1_way_5 9 rfl rfl)
theorem dX1_way_126 : decode cX1_way 126 = .ok (.iaload, 1) := dk_46 (dk_at dksX1_way_5 11 rfl rfl)
theorem dX1_way_127 : decode cX1_way 127 = .ok (.iconst 1, 1) := dk_4 (dk_at dksX1_way_5 12 rfl rfl)
theorem dX1_way_128 : decode cX1_way 128 = .ok (.iadd, 1) := dk_96 (dk_at dksX1_way_5 13 rfl rfl)
theorem dX1_way_129 : decode cX1_way 129 = .ok (.iastore, 1) := dk_79 (dk_at dksX1_way_5 14 rfl rfl)
theorem dX1_way_130 : decode cX1_way 130 = .ok (.aload 5, 2) := dk_25 5 (dk_at dksX1_way_5 15 rfl rfl)
theorem dX1_way_132 : decode cX1_way 132 = .ok (.iload 7, 2) := dk_21 7 (dk_at dksX1_way_5 17 rfl rfl)
theorem dX1_way_134 : decode cX1_way 134 = .ok (.invokestatic 168, 3) := dk_184 0 168 (dk_at dksX1_way_5 19 rfl rfl)
theorem dX1_way_137 : decode cX1_way 137 = .ok (.invokeinterface 174 2, 5) := by decide +kernel
theorem dX1_way_142 : decode cX1_way 142 = .ok (.iinc 7 1, 3) := dk_132 7 1 (dk_at dksX1_way_6 5 rfl rfl)
theorem dX1_way_145 : decode cX1_way 145 = .ok (.goto (-62), 3) := dk_167 255 194 (dk_at dksX1_way_6 8 rfl rfl)
theorem dX1_way_148 : decode cX1_way 148 = .ok (.goto (-104), 3) := dk_167 255 152 (dk_at dksX1_way_6 11 rfl rfl)
theorem dX1_way_151 : decode cX1_way 151 = .ok (.bipush 99, 2) := dk_16 99 (dk_at dksX1_way_6 14 rfl rfl)
theorem dX1_way_153 : decode cX1_way 153 = .ok (.ireturn, 1) := dk_172 (dk_at dksX1_way_6 16 rfl rfl)
abbrev cX1_shown : ByteArray := prog_2_method_13_code
def yX1_shown : MethodName := ⟨RX1, "shown", "(LLiarMaps$Player;[I)I"⟩
def dkwX1_shown_1 : List UInt8 := [153, 0, 7, 4, 167, 0, 4, 3, 96, 61, 132, 3, 1, 167, 255, 224, 28, 172]
abbrev dktX1_shown_1 : List UInt8 := dkwX1_shown_1 ++ []
def dkwX1_shown_0 : List UInt8 := [3, 61, 3, 62, 29, 16, 28, 162, 0, 32, 28, 42, 180, 0, 123, 29, 46, 43, 29, 46, 184, 0, 126]
abbrev dktX1_shown_0 : List UInt8 := dkwX1_shown_0 ++ dktX1_shown_1
theorem dksX1_shown_0 : cX1_shown.data.toList.drop 0 = dktX1_shown_0 := by decide +kernel
theorem dksX1_shown_1 : cX1_shown.data.toList.drop 23 = dktX1_shown_1 := dk_seg dksX1_shown_0 23 rfl rfl
theorem dX1_shown_0 : decode cX1_shown 0 = .ok (.iconst 0, 1) := dk_3 (dk_at dksX1_shown_0 0 rfl rfl)
theorem dX1_shown_1 : decode cX1_shown 1 = .ok (.istore_n 2, 1) := dk_61 (dk_at dksX1_shown_0 1 rfl rfl)
theorem dX1_shown_2 : decode cX1_shown 2 = .ok (.iconst 0, 1) := dk_3 (dk_at dksX1_shown_0 2 rfl rfl)
theorem dX1_shown_3 : decode cX1_shown 3 = .ok (.istore_n 3, 1) := dk_62 (dk_at dksX1_shown_0 3 rfl rfl)
theorem dX1_shown_4 : decode cX1_shown 4 = .ok (.iload_n 3, 1) := dk_29 (dk_at dksX1_shown_0 4 rfl rfl)
theorem dX1_shown_5 : decode cX1_shown 5 = .ok (.bipush 28, 2) := dk_16 28 (dk_at dksX1_shown_0 5 rfl rfl)
theorem dX1_shown_7 : decode cX1_shown 7 = .ok (.if_icmp .ge 32, 3) := dk_162 0 32 (dk_at dksX1_shown_0 7 rfl rfl)
theorem dX1_shown_10 : decode cX1_shown 10 = .ok (.iload_n 2, 1) := dk_28 (dk_at dksX1_shown_0 10 rfl rfl)
theorem dX1_shown_11 : decode cX1_shown 11 = .ok (.aload_n 0, 1) := dk_42 (dk_at dksX1_shown_0 11 rfl rfl)
theorem dX1_shown_12 : decode cX1_shown 12 = .ok (.getfield 123, 3) := dk_180 0 123 (dk_at dksX1_shown_0 12 rfl rfl)
theorem dX1_shown_15 : decode cX1_shown 15 = .ok (.iload_n 3, 1) := dk_29 (dk_at dksX1_shown_0 15 rfl rfl)
theorem dX1_shown_16 : decode cX1_shown 16 = .ok (.iaload, 1) := dk_46 (dk_at dksX1_shown_0 16 rfl rfl)
theorem dX1_shown_17 : decode cX1_shown 17 = .ok (.aload_n 1, 1) := dk_43 (dk_at dksX1_shown_0 17 rfl rfl)
theorem dX1_shown_18 : decode cX1_shown 18 = .ok (.iload_n 3, 1) := dk_29 (dk_at dksX1_shown_0 18 rfl rfl)
theorem dX1_shown_19 : decode cX1_shown 19 = .ok (.iaload, 1) := dk_46 (dk_at dksX1_shown_0 19 rfl rfl)
theorem dX1_shown_20 : decode cX1_shown 20 = .ok (.invokestatic 126, 3) := dk_184 0 126 (dk_at dksX1_shown_0 20 rfl rfl)
theorem dX1_shown_23 : decode cX1_shown 23 = .ok (.ifCond .eq 7, 3) := dk_153 0 7 (dk_at dksX1_shown_1 0 rfl rfl)
theorem dX1_shown_26 : decode cX1_shown 26 = .ok (.iconst 1, 1) := dk_4 (dk_at dksX1_shown_1 3 rfl rfl)
theorem dX1_shown_27 : decode cX1_shown 27 = .ok (.goto 4, 3) := dk_167 0 4 (dk_at dksX1_shown_1 4 rfl rfl)
theorem dX1_shown_30 : decode cX1_shown 30 = .ok (.iconst 0, 1) := dk_3 (dk_at dksX1_shown_1 7 rfl rfl)
theorem dX1_shown_31 : decode cX1_shown 31 = .ok (.iadd, 1) := dk_96 (dk_at dksX1_shown_1 8 rfl rfl)
theorem dX1_shown_32 : decode cX1_shown 32 = .ok (.istore_n 2, 1) := dk_61 (dk_at dksX1_shown_1 9 rfl rfl)
theorem dX1_shown_33 : decode cX1_shown 33 = .ok (.iinc 3 1, 3) := dk_132 3 1 (dk_at dksX1_shown_1 10 rfl rfl)
theorem dX1_shown_36 : decode cX1_shown 36 = .ok (.goto (-32), 3) := dk_167 255 224 (dk_at dksX1_shown_1 13 rfl rfl)
theorem dX1_shown_39 : decode cX1_shown 39 = .ok (.iload_n 2, 1) := dk_28 (dk_at dksX1_shown_1 16 rfl rfl)
theorem dX1_shown_40 : decode cX1_shown 40 = .ok (.ireturn, 1) := dk_172 (dk_at dksX1_shown_1 17 rfl rfl)
abbrev cX1_toldOf : ByteArray := prog_2_method_23_code
def yX1_toldOf : MethodName := ⟨RX1, "toldOf", "(I)I"⟩
def dkwX1_toldOf_2 : List UInt8 := [167, 0, 4, 28, 61, 167, 255, 217, 28, 172]
abbrev dktX1_toldOf_2 : List UInt8 := dkwX1_toldOf_2 ++ []
def dkwX1_toldOf_1 : List UInt8 := [185, 0, 74, 1, 0, 192, 0, 78, 58, 4, 25, 4, 180, 0, 197, 27, 160, 0, 11, 25, 4, 180, 0, 200]
abbrev dktX1_toldOf_1 : List UInt8 := dkwX1_toldOf_1 ++ dktX1_toldOf_2
def dkwX1_toldOf_0 : List UInt8 := [16, 250, 61, 42, 180, 0, 37, 182, 0, 64, 78, 45, 185, 0, 68, 1, 0, 153, 0, 36, 45]
abbrev dktX1_toldOf_0 : List UInt8 := dkwX1_toldOf_0 ++ dktX1_toldOf_1
theorem dksX1_toldOf_0 : cX1_toldOf.data.toList.drop 0 = dktX1_toldOf_0 := by decide +kernel
theorem dksX1_toldOf_1 : cX1_toldOf.data.toList.drop 21 = dktX1_toldOf_1 := dk_seg dksX1_toldOf_0 21 rfl rfl
theorem dksX1_toldOf_2 : cX1_toldOf.data.toList.drop 45 = dktX1_toldOf_2 := dk_seg dksX1_toldOf_1 24 rfl rfl
theorem dX1_toldOf_0 : decode cX1_toldOf 0 = .ok (.bipush (-6), 2) := dk_16 250 (dk_at dksX1_toldOf_0 0 rfl rfl)
theorem dX1_toldOf_2 : decode cX1_toldOf 2 = .ok (.istore_n 2, 1) := dk_61 (dk_at dksX1_toldOf_0 2 rfl rfl)
theorem dX1_toldOf_3 : decode cX1_toldOf 3 = .ok (.aload_n 0, 1) := dk_42 (dk_at dksX1_toldOf_0 3 rfl rfl)
theorem dX1_toldOf_4 : decode cX1_toldOf 4 = .ok (.getfield 37, 3) := dk_180 0 37 (dk_at dksX1_toldOf_0 4 rfl rfl)
theorem dX1_toldOf_7 : decode cX1_toldOf 7 = .ok (.invokevirtual 64, 3) := dk_182 0 64 (dk_at dksX1_toldOf_0 7 rfl rfl)
theorem dX1_toldOf_10 : decode cX1_toldOf 10 = .ok (.astore_n 3, 1) := dk_78 (dk_at dksX1_toldOf_0 10 rfl rfl)
theorem dX1_toldOf_11 : decode cX1_toldOf 11 = .ok (.aload_n 3, 1) := dk_45 (dk_at dksX1_toldOf_0 11 rfl rfl)
theorem dX1_toldOf_12 : decode cX1_toldOf 12 = .ok (.invokeinterface 68 1, 5) := by decide +kernel
theorem dX1_toldOf_17 : decode cX1_toldOf 17 = .ok (.ifCond .eq 36, 3) := dk_153 0 36 (dk_at dksX1_toldOf_0 17 rfl rfl)
theorem dX1_toldOf_20 : decode cX1_toldOf 20 = .ok (.aload_n 3, 1) := dk_45 (dk_at dksX1_toldOf_0 20 rfl rfl)
theorem dX1_toldOf_21 : decode cX1_toldOf 21 = .ok (.invokeinterface 74 1, 5) := by decide +kernel
theorem dX1_toldOf_26 : decode cX1_toldOf 26 = .ok (.checkcast 78, 3) := dk_192 0 78 (dk_at dksX1_toldOf_1 5 rfl rfl)
theorem dX1_toldOf_29 : decode cX1_toldOf 29 = .ok (.astore 4, 2) := dk_58 4 (dk_at dksX1_toldOf_1 8 rfl rfl)
theorem dX1_toldOf_31 : decode cX1_toldOf 31 = .ok (.aload 4, 2) := dk_25 4 (dk_at dksX1_toldOf_1 10 rfl rfl)
theorem dX1_toldOf_33 : decode cX1_toldOf 33 = .ok (.getfield 197, 3) := dk_180 0 197 (dk_at dksX1_toldOf_1 12 rfl rfl)
theorem dX1_toldOf_36 : decode cX1_toldOf 36 = .ok (.iload_n 1, 1) := dk_27 (dk_at dksX1_toldOf_1 15 rfl rfl)
theorem dX1_toldOf_37 : decode cX1_toldOf 37 = .ok (.if_icmp .ne 11, 3) := dk_160 0 11 (dk_at dksX1_toldOf_1 16 rfl rfl)
theorem dX1_toldOf_40 : decode cX1_toldOf 40 = .ok (.aload 4, 2) := dk_25 4 (dk_at dksX1_toldOf_1 19 rfl rfl)
theorem dX1_toldOf_42 : decode cX1_toldOf 42 = .ok (.getfield 200, 3) := dk_180 0 200 (dk_at dksX1_toldOf_1 21 rfl rfl)
theorem dX1_toldOf_45 : decode cX1_toldOf 45 = .ok (.goto 4, 3) := dk_167 0 4 (dk_at dksX1_toldOf_2 0 rfl rfl)
theorem dX1_toldOf_48 : decode cX1_toldOf 48 = .ok (.iload_n 2, 1) := dk_28 (dk_at dksX1_toldOf_2 3 rfl rfl)
theorem dX1_toldOf_49 : decode cX1_toldOf 49 = .ok (.istore_n 2, 1) := dk_61 (dk_at dksX1_toldOf_2 4 rfl rfl)
theorem dX1_toldOf_50 : decode cX1_toldOf 50 = .ok (.goto (-39), 3) := dk_167 255 217 (dk_at dksX1_toldOf_2 5 rfl rfl)
theorem dX1_toldOf_53 : decode cX1_toldOf 53 = .ok (.iload_n 2, 1) := dk_28 (dk_at dksX1_toldOf_2 8 rfl rfl)
theorem dX1_toldOf_54 : decode cX1_toldOf 54 = .ok (.ireturn, 1) := dk_172 (dk_at dksX1_toldOf_2 9 rfl rfl)
abbrev cX1_canBe : ByteArray := prog_2_method_22_code
def yX1_canBe : MethodName := ⟨RX1, "canBe", "()Ljava/util/BitSet;"⟩
def dkwX1_canBe_4 : List UInt8 := [167, 255, 206, 21, 4, 153, 0, 8, 43, 29, 182, 0, 93, 132, 3, 1, 167, 255, 165, 43, 176]
abbrev dktX1_canBe_4 : List UInt8 := dkwX1_canBe_4 ++ []
def dkwX1_canBe_3 : List UInt8 := [180, 0, 197, 29, 44, 184, 0, 190, 25, 6, 180, 0, 200, 160, 0, 7, 4, 167, 0, 4, 3, 126, 54, 4]
abbrev dktX1_canBe_3 : List UInt8 := dkwX1_canBe_3 ++ dktX1_canBe_4
def dkwX1_canBe_2 : List UInt8 := [185, 0, 68, 1, 0, 153, 0, 46, 25, 5, 185, 0, 74, 1, 0, 192, 0, 78, 58, 6, 21, 4, 25, 6]
abbrev dktX1_canBe_2 : List UInt8 := dkwX1_canBe_2 ++ dktX1_canBe_3
def dkwX1_canBe_1 : List UInt8 := [180, 0, 87, 153, 0, 84, 4, 54, 4, 42, 180, 0, 37, 182, 0, 64, 58, 5, 25, 5]
abbrev dktX1_canBe_1 : List UInt8 := dkwX1_canBe_1 ++ dktX1_canBe_2
def dkwX1_canBe_0 : List UInt8 := [187, 0, 15, 89, 16, 8, 183, 0, 17, 76, 42, 182, 0, 186, 77, 3, 62, 29, 16, 8, 162, 0, 91, 42]
abbrev dktX1_canBe_0 : List UInt8 := dkwX1_canBe_0 ++ dktX1_canBe_1
theorem dksX1_canBe_0 : cX1_canBe.data.toList.drop 0 = dktX1_canBe_0 := by decide +kernel
theorem dksX1_canBe_1 : cX1_canBe.data.toList.drop 24 = dktX1_canBe_1 := dk_seg dksX1_canBe_0 24 rfl rfl
theorem dksX1_canBe_2 : cX1_canBe.data.toList.drop 44 = dktX1_canBe_2 := dk_seg dksX1_canBe_1 20 rfl rfl
theorem dksX1_canBe_3 : cX1_canBe.data.toList.drop 68 = dktX1_canBe_3 := dk_seg dksX1_canBe_2 24 rfl rfl
theorem dksX1_canBe_4 : cX1_canBe.data.toList.drop 92 = dktX1_canBe_4 := dk_seg dksX1_canBe_3 24 rfl rfl
theorem dX1_canBe_0 : decode cX1_canBe 0 = .ok (.new 15, 3) := dk_187 0 15 (dk_at dksX1_canBe_0 0 rfl rfl)
theorem dX1_canBe_3 : decode cX1_canBe 3 = .ok (.dup, 1) := dk_89 (dk_at dksX1_canBe_0 3 rfl rfl)
theorem dX1_canBe_4 : decode cX1_canBe 4 = .ok (.bipush 8, 2) := dk_16 8 (dk_at dksX1_canBe_0 4 rfl rfl)
theorem dX1_canBe_6 : decode cX1_canBe 6 = .ok (.invokespecial 17, 3) := dk_183 0 17 (dk_at dksX1_canBe_0 6 rfl rfl)
theorem dX1_canBe_9 : decode cX1_canBe 9 = .ok (.astore_n 1, 1) := dk_76 (dk_at dksX1_canBe_0 9 rfl rfl)
theorem dX1_canBe_10 : decode cX1_canBe 10 = .ok (.aload_n 0, 1) := dk_42 (dk_at dksX1_canBe_0 10 rfl rfl)
theorem dX1_canBe_11 : decode cX1_canBe 11 = .ok (.invokevirtual 186, 3) := dk_182 0 186 (dk_at dksX1_canBe_0 11 rfl rfl)
theorem dX1_canBe_14 : decode cX1_canBe 14 = .ok (.astore_n 2, 1) := dk_77 (dk_at dksX1_canBe_0 14 rfl rfl)
theorem dX1_canBe_15 : decode cX1_canBe 15 = .ok (.iconst 0, 1) := dk_3 (dk_at dksX1_canBe_0 15 rfl rfl)
theorem dX1_canBe_16 : decode cX1_canBe 16 = .ok (.istore_n 3, 1) := dk_62 (dk_at dksX1_canBe_0 16 rfl rfl)
theorem dX1_canBe_17 : decode cX1_canBe 17 = .ok (.iload_n 3, 1) := dk_29 (dk_at dksX1_canBe_0 17 rfl rfl)
theorem dX1_canBe_18 : decode cX1_canBe 18 = .ok (.bipush 8, 2) := dk_16 8 (dk_at dksX1_canBe_0 18 rfl rfl)
theorem dX1_canBe_20 : decode cX1_canBe 20 = .ok (.if_icmp .ge 91, 3) := dk_162 0 91 (dk_at dksX1_canBe_0 20 rfl rfl)
theorem dX1_canBe_23 : decode cX1_canBe 23 = .ok (.aload_n 0, 1) := dk_42 (dk_at dksX1_canBe_0 23 rfl rfl)
theorem dX1_canBe_24 : decode cX1_canBe 24 = .ok (.getfield 87, 3) := dk_180 0 87 (dk_at dksX1_canBe_1 0 rfl rfl)
theorem dX1_canBe_27 : decode cX1_canBe 27 = .ok (.ifCond .eq 84, 3) := dk_153 0 84 (dk_at dksX1_canBe_1 3 rfl rfl)
theorem dX1_canBe_30 : decode cX1_canBe 30 = .ok (.iconst 1, 1) := dk_4 (dk_at dksX1_canBe_1 6 rfl rfl)
theorem dX1_canBe_31 : decode cX1_canBe 31 = .ok (.istore 4, 2) := dk_54 4 (dk_at dksX1_canBe_1 7 rfl rfl)
theorem dX1_canBe_33 : decode cX1_canBe 33 = .ok (.aload_n 0, 1) := dk_42 (dk_at dksX1_canBe_1 9 rfl rfl)
theorem dX1_canBe_34 : decode cX1_canBe 34 = .ok (.getfield 37, 3) := dk_180 0 37 (dk_at dksX1_canBe_1 10 rfl rfl)
theorem dX1_canBe_37 : decode cX1_canBe 37 = .ok (.invokevirtual 64, 3) := dk_182 0 64 (dk_at dksX1_canBe_1 13 rfl rfl)
theorem dX1_canBe_40 : decode cX1_canBe 40 = .ok (.astore 5, 2) := dk_58 5 (dk_at dksX1_canBe_1 16 rfl rfl)
theorem dX1_canBe_42 : decode cX1_canBe 42 = .ok (.aload 5, 2) := dk_25 5 (dk_at dksX1_canBe_1 18 rfl rfl)
theorem dX1_canBe_44 : decode cX1_canBe 44 = .ok (.invokeinterface 68 1, 5) := by decide +kernel
theorem dX1_canBe_49 : decode cX1_canBe 49 = .ok (.ifCond .eq 46, 3) := dk_153 0 46 (dk_at dksX1_canBe_2 5 rfl rfl)
theorem dX1_canBe_52 : decode cX1_canBe 52 = .ok (.aload 5, 2) := dk_25 5 (dk_at dksX1_canBe_2 8 rfl rfl)
theorem dX1_canBe_54 : decode cX1_canBe 54 = .ok (.invokeinterface 74 1, 5) := by decide +kernel
theorem dX1_canBe_59 : decode cX1_canBe 59 = .ok (.checkcast 78, 3) := dk_192 0 78 (dk_at dksX1_canBe_2 15 rfl rfl)
theorem dX1_canBe_62 : decode cX1_canBe 62 = .ok (.astore 6, 2) := dk_58 6 (dk_at dksX1_canBe_2 18 rfl rfl)
theorem dX1_canBe_64 : decode cX1_canBe 64 = .ok (.iload 4, 2) := dk_21 4 (dk_at dksX1_canBe_2 20 rfl rfl)
theorem dX1_canBe_66 : decode cX1_canBe 66 = .ok (.aload 6, 2) := dk_25 6 (dk_at dksX1_canBe_2 22 rfl rfl)
theorem dX1_canBe_68 : decode cX1_canBe 68 = .ok (.getfield 197, 3) := dk_180 0 197 (dk_at dksX1_canBe_3 0 rfl rfl)
theorem dX1_canBe_71 : decode cX1_canBe 71 = .ok (.iload_n 3, 1) := dk_29 (dk_at dksX1_canBe_3 3 rfl rfl)
theorem dX1_canBe_72 : decode cX1_canBe 72 = .ok (.aload_n 2, 1) := dk_44 (dk_at dksX1_canBe_3 4 rfl rfl)
theorem dX1_canBe_73 : decode cX1_canBe 73 = .ok (.invokestatic 190, 3) := dk_184 0 190 (dk_at dksX1_canBe_3 5 rfl rfl)
theorem dX1_canBe_76 : decode cX1_canBe 76 = .ok (.aload 6, 2) := dk_25 6 (dk_at dksX1_canBe_3 8 rfl rfl)
theorem dX1_canBe_78 : decode cX1_canBe 78 = .ok (.getfield 200, 3) := dk_180 0 200 (dk_at dksX1_canBe_3 10 rfl rfl)
theorem dX1_canBe_81 : decode cX1_canBe 81 = .ok (.if_icmp .ne 7, 3) := dk_160 0 7 (dk_at dksX1_canBe_3 13 rfl rfl)
theorem dX1_canBe_84 : decode cX1_canBe 84 = .ok (.iconst 1, 1) := dk_4 (dk_at dksX1_canBe_3 16 rfl rfl)
theorem dX1_canBe_85 : decode cX1_canBe 85 = .ok (.goto 4, 3) := dk_167 0 4 (dk_at dksX1_canBe_3 17 rfl rfl)
theorem dX1_canBe_88 : decode cX1_canBe 88 = .ok (.iconst 0, 1) := dk_3 (dk_at dksX1_canBe_3 20 rfl rfl)
theorem dX1_canBe_89 : decode cX1_canBe 89 = .ok (.iand, 1) := dk_126 (dk_at dksX1_canBe_3 21 rfl rfl)
theorem dX1_canBe_90 : decode cX1_canBe 90 = .ok (.istore 4, 2) := dk_54 4 (dk_at dksX1_canBe_3 22 rfl rfl)
theorem dX1_canBe_92 : decode cX1_canBe 92 = .ok (.goto (-50), 3) := dk_167 255 206 (dk_at dksX1_canBe_4 0 rfl rfl)
theorem dX1_canBe_95 : decode cX1_canBe 95 = .ok (.iload 4, 2) := dk_21 4 (dk_at dksX1_canBe_4 3 rfl rfl)
theorem dX1_canBe_97 : decode cX1_canBe 97 = .ok (.ifCond .eq 8, 3) := dk_153 0 8 (dk_at dksX1_canBe_4 5 rfl rfl)
theorem dX1_canBe_100 : decode cX1_canBe 100 = .ok (.aload_n 1, 1) := dk_43 (dk_at dksX1_canBe_4 8 rfl rfl)
theorem dX1_canBe_101 : decode cX1_canBe 101 = .ok (.iload_n 3, 1) := dk_29 (dk_at dksX1_canBe_4 9 rfl rfl)
theorem dX1_canBe_102 : decode cX1_canBe 102 = .ok (.invokevirtual 93, 3) := dk_182 0 93 (dk_at dksX1_canBe_4 10 rfl rfl)
theorem dX1_canBe_105 : decode cX1_canBe 105 = .ok (.iinc 3 1, 3) := dk_132 3 1 (dk_at dksX1_canBe_4 13 rfl rfl)
theorem dX1_canBe_108 : decode cX1_canBe 108 = .ok (.goto (-91), 3) := dk_167 255 165 (dk_at dksX1_canBe_4 16 rfl rfl)
theorem dX1_canBe_111 : decode cX1_canBe 111 = .ok (.aload_n 1, 1) := dk_43 (dk_at dksX1_canBe_4 19 rfl rfl)
theorem dX1_canBe_112 : decode cX1_canBe 112 = .ok (.areturn, 1) := dk_176 (dk_at dksX1_canBe_4 20 rfl rfl)
abbrev cX1_knownWay : ByteArray := prog_2_method_21_code
def yX1_knownWay : MethodName := ⟨RX1, "knownWay", "(II)I"⟩
def dkwX1_knownWay_1 : List UInt8 := [172]
abbrev dktX1_knownWay_1 : List UInt8 := dkwX1_knownWay_1 ++ []
def dkwX1_knownWay_0 : List UInt8 := [27, 28, 42, 16, 250, 182, 0, 193, 184, 0, 190, 62, 29, 16, 99, 160, 0, 8, 16, 250, 167, 0, 4, 29]
abbrev dktX1_knownWay_0 : List UInt8 := dkwX1_knownWay_0 ++ dktX1_knownWay_1
theorem dksX1_knownWay_0 : cX1_knownWay.data.toList.drop 0 = dktX1_knownWay_0 := by decide +kernel
theorem dksX1_knownWay_1 : cX1_knownWay.data.toList.drop 24 = dktX1_knownWay_1 := dk_seg dksX1_knownWay_0 24 rfl rfl
theorem dX1_knownWay_0 : decode cX1_knownWay 0 = .ok (.iload_n 1, 1) := dk_27 (dk_at dksX1_knownWay_0 0 rfl rfl)
theorem dX1_knownWay_1 : decode cX1_knownWay 1 = .ok (.iload_n 2, 1) := dk_28 (dk_at dksX1_knownWay_0 1 rfl rfl)
theorem dX1_knownWay_2 : decode cX1_knownWay 2 = .ok (.aload_n 0, 1) := dk_42 (dk_at dksX1_knownWay_0 2 rfl rfl)
theorem dX1_knownWay_3 : decode cX1_knownWay 3 = .ok (.bipush (-6), 2) := dk_16 250 (dk_at dksX1_knownWay_0 3 rfl rfl)
theorem dX1_knownWay_5 : decode cX1_knownWay 5 = .ok (.invokevirtual 193, 3) := dk_182 0 193 (dk_at dksX1_knownWay_0 5 rfl rfl)
theorem dX1_knownWay_8 : decode cX1_knownWay 8 = .ok (.invokestatic 190, 3) := dk_184 0 190 (dk_at dksX1_knownWay_0 8 rfl rfl)
theorem dX1_knownWay_11 : decode cX1_knownWay 11 = .ok (.istore_n 3, 1) := dk_62 (dk_at dksX1_knownWay_0 11 rfl rfl)
theorem dX1_knownWay_12 : decode cX1_knownWay 12 = .ok (.iload_n 3, 1) := dk_29 (dk_at dksX1_knownWay_0 12 rfl rfl)
theorem dX1_knownWay_13 : decode cX1_knownWay 13 = .ok (.bipush 99, 2) := dk_16 99 (dk_at dksX1_knownWay_0 13 rfl rfl)
theorem dX1_knownWay_15 : decode cX1_knownWay 15 = .ok (.if_icmp .ne 8, 3) := dk_160 0 8 (dk_at dksX1_knownWay_0 15 rfl rfl)
theorem dX1_knownWay_18 : decode cX1_knownWay 18 = .ok (.bipush (-6), 2) := dk_16 250 (dk_at dksX1_knownWay_0 18 rfl rfl)
theorem dX1_knownWay_20 : decode cX1_knownWay 20 = .ok (.goto 4, 3) := dk_167 0 4 (dk_at dksX1_knownWay_0 20 rfl rfl)
theorem dX1_knownWay_23 : decode cX1_knownWay 23 = .ok (.iload_n 3, 1) := dk_29 (dk_at dksX1_knownWay_0 23 rfl rfl)
theorem dX1_knownWay_24 : decode cX1_knownWay 24 = .ok (.ireturn, 1) := dk_172 (dk_at dksX1_knownWay_1 0 rfl rfl)
theorem q78 : (Jvm.Cond.initialized "LiarMaps$Chart") ∈ lw_all := lw_g (lw_at lw_m1 2 rfl) rfl
theorem q126 : (Jvm.Cond.instantiable "LiarMaps$Chart" (9 : Nat)) ∈ lw_all := lw_g (lw_at lw_m1 50 rfl) rfl
theorem q128 : (Jvm.Cond.instanceMethod ({ cls := "LiarMaps$Chart", name := "<init>", desc := "()V" } : Jvm.MethodName)) ∈ lw_all := lw_g (lw_at lw_m1 52 rfl) rfl
theorem q129 : (Jvm.Cond.code ({ cls := "LiarMaps$Chart", name := "<init>", desc := "()V" } : Jvm.MethodName) prog_2_method_1_code (1 : Nat) (Option.none : Option Jvm.ClassFile.FieldType)) ∈ lw_all := lw_g (lw_at lw_m1 53 rfl) rfl
theorem q130 : (Jvm.Cond.methodLink "LiarMaps$Chart" (3 : Nat) ({ cls := "java/lang/Object", name := "<init>", desc := "()V" } : Jvm.MethodName)) ∈ lw_all := lw_g (lw_at lw_m1 54 rfl) rfl
theorem q131 : (Jvm.Cond.classLink "LiarMaps$Chart" (15 : Nat) "java/util/BitSet") ∈ lw_all := lw_g (lw_at lw_m1 55 rfl) rfl
theorem q133 : (Jvm.Cond.methodLink "LiarMaps$Chart" (17 : Nat) ({ cls := "java/util/BitSet", name := "<init>", desc := "(I)V" } : Jvm.MethodName)) ∈ lw_all := lw_g (lw_at lw_m1 57 rfl) rfl
theorem q156 : (Jvm.Cond.classLink "LiarMaps$Chart" (27 : Nat) "LiarMaps$Player") ∈ lw_all := lw_g (lw_at lw_m1 80 rfl) rfl
theorem q159 : (Jvm.Cond.methodLinkNest "LiarMaps$Chart" (29 : Nat) ({ cls := "LiarMaps$Player", name := "<init>", desc := "()V" } : Jvm.MethodName) "LiarMaps") ∈ lw_tbl := lw_at lw_m1 83 rfl
theorem q164 : (Jvm.Cond.fieldLinkNest "LiarMaps$Chart" (123 : Nat) "LiarMaps$Player" "claims" "[I" "LiarMaps") ∈ lw_tbl := lw_at lw_m1 88 rfl
theorem q168 : (Jvm.Cond.fieldLinkNest "LiarMaps$Chart" (155 : Nat) "LiarMaps$Player" "purse" "I" "LiarMaps") ∈ lw_tbl := lw_at lw_m1 92 rfl
theorem q170 : (Jvm.Cond.fieldLinkNest "LiarMaps$Chart" (146 : Nat) "LiarMaps$Player" "lies" "I" "LiarMaps") ∈ lw_tbl := lw_at lw_m1 94 rfl
theorem q173 : (Jvm.Cond.fieldLinkNest "LiarMaps$Chart" (143 : Nat) "LiarMaps$Player" "checks" "I" "LiarMaps") ∈ lw_tbl := lw_at lw_m1 97 rfl
theorem q176 : (Jvm.Cond.fieldLinkNest "LiarMaps$Chart" (149 : Nat) "LiarMaps$Player" "found" "I" "LiarMaps") ∈ lw_tbl := lw_at lw_m1 100 rfl
theorem q179 : (Jvm.Cond.fieldLinkNest "LiarMaps$Chart" (158 : Nat) "LiarMaps$Player" "digs" "I" "LiarMaps") ∈ lw_tbl := lw_at lw_m1 103 rfl
theorem q194 : (Jvm.Cond.classLink "LiarMaps$Chart" (34 : Nat) "java/util/LinkedList") ∈ lw_all := lw_g (lw_at lw_m1 118 rfl) rfl
theorem q196 : (Jvm.Cond.methodLink "LiarMaps$Chart" (36 : Nat) ({ cls := "java/util/LinkedList", name := "<init>", desc := "()V" } : Jvm.MethodName)) ∈ lw_all := lw_g (lw_at lw_m1 120 rfl) rfl
theorem q230 : (Jvm.Cond.fieldLink "LiarMaps$Chart" (9 : Nat) "LiarMaps$Chart" "settings" "[I") ∈ lw_all := lw_g (lw_at lw_m1 154 rfl) rfl
theorem q232 : (Jvm.Cond.fieldLink "LiarMaps$Chart" (20 : Nat) "LiarMaps$Chart" "roads" "Ljava/util/BitSet;") ∈ lw_all := lw_g (lw_at lw_m1 156 rfl) rfl
theorem q234 : (Jvm.Cond.fieldLink "LiarMaps$Chart" (24 : Nat) "LiarMaps$Chart" "revealed" "Ljava/util/BitSet;") ∈ lw_all := lw_g (lw_at lw_m1 158 rfl) rfl
theorem q236 : (Jvm.Cond.fieldLink "LiarMaps$Chart" (30 : Nat) "LiarMaps$Chart" "players" "[LLiarMaps$Player;") ∈ lw_all := lw_g (lw_at lw_m1 160 rfl) rfl
theorem q238 : (Jvm.Cond.fieldLink "LiarMaps$Chart" (37 : Nat) "LiarMaps$Chart" "digs" "Ljava/util/LinkedList;") ∈ lw_all := lw_g (lw_at lw_m1 162 rfl) rfl
theorem q240 : (Jvm.Cond.fieldLink "LiarMaps$Chart" (84 : Nat) "LiarMaps$Chart" "treasure" "I") ∈ lw_all := lw_g (lw_at lw_m1 164 rfl) rfl
theorem q242 : (Jvm.Cond.fieldLink "LiarMaps$Chart" (87 : Nat) "LiarMaps$Chart" "state" "I") ∈ lw_all := lw_g (lw_at lw_m1 166 rfl) rfl
theorem q244 : (Jvm.Cond.fieldLink "LiarMaps$Chart" (90 : Nat) "LiarMaps$Chart" "turns" "I") ∈ lw_all := lw_g (lw_at lw_m1 168 rfl) rfl
theorem q246 : (Jvm.Cond.fieldLink "LiarMaps$Chart" (41 : Nat) "LiarMaps$Chart" "finder" "I") ∈ lw_all := lw_g (lw_at lw_m1 170 rfl) rfl
theorem q248 : (Jvm.Cond.laysFinal "LiarMaps$Chart" "LiarMaps$Chart" "settings" "[I") ∈ lw_all := lw_g (lw_at lw_m1 172 rfl) rfl
theorem q249 : (Jvm.Cond.soleField "LiarMaps$Chart" "settings") ∈ lw_all := lw_g (lw_at lw_m1 173 rfl) rfl
theorem q250 : (Jvm.Cond.laysFinal "LiarMaps$Chart" "LiarMaps$Chart" "roads" "Ljava/util/BitSet;") ∈ lw_all := lw_g (lw_at lw_m1 174 rfl) rfl
theorem q251 : (Jvm.Cond.soleField "LiarMaps$Chart" "roads") ∈ lw_all := lw_g (lw_at lw_m1 175 rfl) rfl
theorem q252 : (Jvm.Cond.laysFinal "LiarMaps$Chart" "LiarMaps$Chart" "revealed" "Ljava/util/BitSet;") ∈ lw_all := lw_g (lw_at lw_m1 176 rfl) rfl
theorem q253 : (Jvm.Cond.soleField "LiarMaps$Chart" "revealed") ∈ lw_all := lw_g (lw_at lw_m1 177 rfl) rfl
theorem q254 : (Jvm.Cond.laysFinal "LiarMaps$Chart" "LiarMaps$Chart" "players" "[LLiarMaps$Player;") ∈ lw_all := lw_g (lw_at lw_m1 178 rfl) rfl
theorem q255 : (Jvm.Cond.soleField "LiarMaps$Chart" "players") ∈ lw_all := lw_g (lw_at lw_m1 179 rfl) rfl
theorem q256 : (Jvm.Cond.laysFinal "LiarMaps$Chart" "LiarMaps$Chart" "digs" "Ljava/util/LinkedList;") ∈ lw_all := lw_g (lw_at lw_m1 180 rfl) rfl
theorem q257 : (Jvm.Cond.soleField "LiarMaps$Chart" "digs") ∈ lw_all := lw_g (lw_at lw_m1 181 rfl) rfl
theorem q258 : (Jvm.Cond.lays "LiarMaps$Chart" "LiarMaps$Chart" "treasure" "I") ∈ lw_all := lw_g (lw_at lw_m1 182 rfl) rfl
theorem q259 : (Jvm.Cond.soleField "LiarMaps$Chart" "treasure") ∈ lw_all := lw_g (lw_at lw_m1 183 rfl) rfl
theorem q260 : (Jvm.Cond.lays "LiarMaps$Chart" "LiarMaps$Chart" "state" "I") ∈ lw_all := lw_g (lw_at lw_m1 184 rfl) rfl
theorem q261 : (Jvm.Cond.soleField "LiarMaps$Chart" "state") ∈ lw_all := lw_g (lw_at lw_m1 185 rfl) rfl
theorem q262 : (Jvm.Cond.lays "LiarMaps$Chart" "LiarMaps$Chart" "turns" "I") ∈ lw_all := lw_g (lw_at lw_m1 186 rfl) rfl
theorem q263 : (Jvm.Cond.soleField "LiarMaps$Chart" "turns") ∈ lw_all := lw_g (lw_at lw_m1 187 rfl) rfl
theorem q264 : (Jvm.Cond.lays "LiarMaps$Chart" "LiarMaps$Chart" "finder" "I") ∈ lw_all := lw_g (lw_at lw_m1 188 rfl) rfl
theorem q265 : (Jvm.Cond.soleField "LiarMaps$Chart" "finder") ∈ lw_all := lw_g (lw_at lw_m1 189 rfl) rfl
theorem q266 : (Jvm.Cond.superclass "LiarMaps$Chart" "java/lang/Object") ∈ lw_all := lw_g (lw_at lw_m1 190 rfl) rfl
theorem q401 : (Jvm.Cond.instanceMethod ({ cls := "LiarMaps$Chart", name := "copy", desc := "()LLiarMaps$Chart;" } : Jvm.MethodName)) ∈ lw_all := lw_g (lw_at lw_m2 85 rfl) rfl
theorem q402 : (Jvm.Cond.selects "LiarMaps$Chart" ({ cls := "LiarMaps$Chart", name := "copy", desc := "()LLiarMaps$Chart;" } : Jvm.MethodName) ({ cls := "LiarMaps$Chart", name := "copy", desc := "()LLiarMaps$Chart;" } : Jvm.MethodName)) ∈ lw_all := lw_g (lw_at lw_m2 86 rfl) rfl
theorem q403 : (Jvm.Cond.code ({ cls := "LiarMaps$Chart", name := "copy", desc := "()LLiarMaps$Chart;" } : Jvm.MethodName) prog_2_method_2_code (4 : Nat) (Option.some (Jvm.ClassFile.FieldType.object "LiarMaps$Chart"))) ∈ lw_all := lw_g (lw_at lw_m2 87 rfl) rfl
theorem q404 : (Jvm.Cond.classLink "LiarMaps$Chart" (10 : Nat) "LiarMaps$Chart") ∈ lw_all := lw_g (lw_at lw_m2 88 rfl) rfl
theorem q405 : (Jvm.Cond.methodLink "LiarMaps$Chart" (45 : Nat) ({ cls := "LiarMaps$Chart", name := "<init>", desc := "()V" } : Jvm.MethodName)) ∈ lw_all := lw_g (lw_at lw_m2 89 rfl) rfl
theorem q406 : (Jvm.Cond.methodLink "LiarMaps$Chart" (46 : Nat) ({ cls := "java/lang/System", name := "arraycopy", desc := "(Ljava/lang/Object;ILjava/lang/Object;II)V" } : Jvm.MethodName)) ∈ lw_all := lw_g (lw_at lw_m2 90 rfl) rfl
theorem q409 : (Jvm.Cond.methodLink "LiarMaps$Chart" (52 : Nat) ({ cls := "java/util/BitSet", name := "get", desc := "(I)Z" } : Jvm.MethodName)) ∈ lw_all := lw_g (lw_at lw_m2 93 rfl) rfl
theorem q419 : (Jvm.Cond.methodLink "LiarMaps$Chart" (56 : Nat) ({ cls := "LiarMaps$Chart", name := "lay", desc := "(Ljava/util/BitSet;IZ)V" } : Jvm.MethodName)) ∈ lw_all := lw_g (lw_at lw_m2 103 rfl) rfl
theorem q420 : (Jvm.Cond.static ({ cls := "LiarMaps$Chart", name := "lay", desc := "(Ljava/util/BitSet;IZ)V" } : Jvm.MethodName)) ∈ lw_all := lw_g (lw_at lw_m2 104 rfl) rfl
theorem q421 : (Jvm.Cond.code ({ cls := "LiarMaps$Chart", name := "lay", desc := "(Ljava/util/BitSet;IZ)V" } : Jvm.MethodName) prog_2_method_3_code (3 : Nat) (Option.none : Option Jvm.ClassFile.FieldType)) ∈ lw_all := lw_g (lw_at lw_m2 105 rfl) rfl
theorem q422 : (Jvm.Cond.methodLink "LiarMaps$Chart" (93 : Nat) ({ cls := "java/util/BitSet", name := "set", desc := "(I)V" } : Jvm.MethodName)) ∈ lw_all := lw_g (lw_at lw_m2 106 rfl) rfl
theorem q451 : (Jvm.Cond.methodLink "LiarMaps$Chart" (96 : Nat) ({ cls := "java/util/BitSet", name := "clear", desc := "(I)V" } : Jvm.MethodName)) ∈ lw_all := lw_g (lw_at lw_m2 135 rfl) rfl
theorem q460 : (Jvm.Cond.methodLink "LiarMaps$Chart" (60 : Nat) ({ cls := "LiarMaps$Player", name := "copy", desc := "()LLiarMaps$Player;" } : Jvm.MethodName)) ∈ lw_all := lw_g (lw_at lw_m2 144 rfl) rfl
theorem q467 : (Jvm.Cond.methodLink "LiarMaps$Chart" (64 : Nat) ({ cls := "java/util/LinkedList", name := "iterator", desc := "()Ljava/util/Iterator;" } : Jvm.MethodName)) ∈ lw_all := lw_g (lw_at lw_m2 151 rfl) rfl
theorem q555 : (Jvm.Cond.interfaceEntry "LiarMaps$Chart" (68 : Nat)) ∈ lw_tbl := lw_at lw_m2 239 rfl
theorem q556 : (Jvm.Cond.methodLink "LiarMaps$Chart" (68 : Nat) ({ cls := "java/util/Iterator", name := "hasNext", desc := "()Z" } : Jvm.MethodName)) ∈ lw_all := lw_g (lw_at lw_m3 0 rfl) rfl
theorem q584 : (Jvm.Cond.interfaceEntry "LiarMaps$Chart" (74 : Nat)) ∈ lw_tbl := lw_at lw_m3 28 rfl
theorem q585 : (Jvm.Cond.methodLink "LiarMaps$Chart" (74 : Nat) ({ cls := "java/util/Iterator", name := "next", desc := "()Ljava/lang/Object;" } : Jvm.MethodName)) ∈ lw_all := lw_g (lw_at lw_m3 29 rfl) rfl
theorem q686 : (Jvm.Cond.selects "LiarMaps$Chart" ({ cls := "java/lang/Object", name := "getClass", desc := "()Ljava/lang/Class;" } : Jvm.MethodName) ({ cls := "java/lang/Object", name := "getClass", desc := "()Ljava/lang/Class;" } : Jvm.MethodName)) ∈ lw_all := lw_g (lw_at lw_m3 130 rfl) rfl
theorem q924 : (Jvm.Cond.classLink "LiarMaps$Chart" (78 : Nat) "LiarMaps$Digging") ∈ lw_all := lw_g (lw_at lw_m4 128 rfl) rfl
theorem q925 : (Jvm.Cond.methodLink "LiarMaps$Chart" (80 : Nat) ({ cls := "java/util/LinkedList", name := "addLast", desc := "(Ljava/lang/Object;)V" } : Jvm.MethodName)) ∈ lw_all := lw_g (lw_at lw_m4 129 rfl) rfl
theorem q1009 : (Jvm.Cond.instanceMethod ({ cls := "LiarMaps$Chart", name := "toggle", desc := "(I)I" } : Jvm.MethodName)) ∈ lw_all := lw_g (lw_at lw_m4 213 rfl) rfl
theorem q1010 : (Jvm.Cond.selects "LiarMaps$Chart" ({ cls := "LiarMaps$Chart", name := "toggle", desc := "(I)I" } : Jvm.MethodName) ({ cls := "LiarMaps$Chart", name := "toggle", desc := "(I)I" } : Jvm.MethodName)) ∈ lw_all := lw_g (lw_at lw_m4 214 rfl) rfl
theorem q1011 : (Jvm.Cond.code ({ cls := "LiarMaps$Chart", name := "toggle", desc := "(I)I" } : Jvm.MethodName) prog_2_method_4_code (2 : Nat) (Option.some Jvm.ClassFile.FieldType.int)) ∈ lw_all := lw_g (lw_at lw_m4 215 rfl) rfl
theorem q1012 : (Jvm.Cond.methodLink "LiarMaps$Chart" (99 : Nat) ({ cls := "java/util/BitSet", name := "cardinality", desc := "()I" } : Jvm.MethodName)) ∈ lw_all := lw_g (lw_at lw_m4 216 rfl) rfl
theorem q1039 : (Jvm.Cond.instanceMethod ({ cls := "LiarMaps$Chart", name := "known", desc := "(I)[I" } : Jvm.MethodName)) ∈ lw_all := lw_g (lw_at lw_m5 3 rfl) rfl
theorem q1040 : (Jvm.Cond.selects "LiarMaps$Chart" ({ cls := "LiarMaps$Chart", name := "known", desc := "(I)[I" } : Jvm.MethodName) ({ cls := "LiarMaps$Chart", name := "known", desc := "(I)[I" } : Jvm.MethodName)) ∈ lw_all := lw_g (lw_at lw_m5 4 rfl) rfl
theorem q1041 : (Jvm.Cond.code ({ cls := "LiarMaps$Chart", name := "known", desc := "(I)[I" } : Jvm.MethodName) prog_2_method_10_code (5 : Nat) (Option.some (Jvm.ClassFile.FieldType.array Jvm.ClassFile.FieldType.int))) ∈ lw_all := lw_g (lw_at lw_m5 5 rfl) rfl
theorem q1042 : (Jvm.Cond.methodLink "LiarMaps$Chart" (119 : Nat) ({ cls := "LiarMaps$Chart", name := "follow", desc := "([I)Z" } : Jvm.MethodName)) ∈ lw_all := lw_g (lw_at lw_m5 6 rfl) rfl
theorem q1043 : (Jvm.Cond.privateMethod ({ cls := "LiarMaps$Chart", name := "follow", desc := "([I)Z" } : Jvm.MethodName)) ∈ lw_tbl := lw_at lw_m5 7 rfl
theorem q1044 : (Jvm.Cond.instanceMethod ({ cls := "LiarMaps$Chart", name := "follow", desc := "([I)Z" } : Jvm.MethodName)) ∈ lw_all := lw_g (lw_at lw_m5 8 rfl) rfl
theorem q1045 : (Jvm.Cond.code ({ cls := "LiarMaps$Chart", name := "follow", desc := "([I)Z" } : Jvm.MethodName) prog_2_method_9_code (6 : Nat) (Option.some Jvm.ClassFile.FieldType.boolean)) ∈ lw_all := lw_g (lw_at lw_m5 9 rfl) rfl
theorem q1046 : (Jvm.Cond.methodLink "LiarMaps$Chart" (107 : Nat) ({ cls := "LiarMaps$Chart", name := "many", desc := "(II[I)I" } : Jvm.MethodName)) ∈ lw_all := lw_g (lw_at lw_m5 10 rfl) rfl
theorem q1047 : (Jvm.Cond.static ({ cls := "LiarMaps$Chart", name := "many", desc := "(II[I)I" } : Jvm.MethodName)) ∈ lw_all := lw_g (lw_at lw_m5 11 rfl) rfl
theorem q1048 : (Jvm.Cond.code ({ cls := "LiarMaps$Chart", name := "many", desc := "(II[I)I" } : Jvm.MethodName) prog_2_method_7_code (5 : Nat) (Option.some Jvm.ClassFile.FieldType.int)) ∈ lw_all := lw_g (lw_at lw_m5 12 rfl) rfl
theorem q1049 : (Jvm.Cond.methodLinkNest "LiarMaps$Chart" (103 : Nat) ({ cls := "LiarMaps", name := "road0", desc := "(II)I" } : Jvm.MethodName) "LiarMaps") ∈ lw_tbl := lw_at lw_m5 13 rfl
theorem q1050 : (Jvm.Cond.methodLink "LiarMaps$Chart" (111 : Nat) ({ cls := "LiarMaps$Chart", name := "degree", desc := "(I)I" } : Jvm.MethodName)) ∈ lw_all := lw_g (lw_at lw_m5 14 rfl) rfl
theorem q1051 : (Jvm.Cond.instanceMethod ({ cls := "LiarMaps$Chart", name := "degree", desc := "(I)I" } : Jvm.MethodName)) ∈ lw_all := lw_g (lw_at lw_m5 15 rfl) rfl
theorem q1052 : (Jvm.Cond.selects "LiarMaps$Chart" ({ cls := "LiarMaps$Chart", name := "degree", desc := "(I)I" } : Jvm.MethodName) ({ cls := "LiarMaps$Chart", name := "degree", desc := "(I)I" } : Jvm.MethodName)) ∈ lw_all := lw_g (lw_at lw_m5 16 rfl) rfl
theorem q1053 : (Jvm.Cond.code ({ cls := "LiarMaps$Chart", name := "degree", desc := "(I)I" } : Jvm.MethodName) prog_2_method_6_code (4 : Nat) (Option.some Jvm.ClassFile.FieldType.int)) ∈ lw_all := lw_g (lw_at lw_m5 17 rfl) rfl
theorem q1054 : (Jvm.Cond.methodLink "LiarMaps$Chart" (115 : Nat) ({ cls := "LiarMaps$Chart", name := "fillUnknown", desc := "(II[I)V" } : Jvm.MethodName)) ∈ lw_all := lw_g (lw_at lw_m5 18 rfl) rfl
theorem q1055 : (Jvm.Cond.static ({ cls := "LiarMaps$Chart", name := "fillUnknown", desc := "(II[I)V" } : Jvm.MethodName)) ∈ lw_all := lw_g (lw_at lw_m5 19 rfl) rfl
theorem q1056 : (Jvm.Cond.code ({ cls := "LiarMaps$Chart", name := "fillUnknown", desc := "(II[I)V" } : Jvm.MethodName) prog_2_method_8_code (4 : Nat) (Option.none : Option Jvm.ClassFile.FieldType)) ∈ lw_all := lw_g (lw_at lw_m5 20 rfl) rfl
theorem q1058 : (Jvm.Cond.static ({ cls := "LiarMaps$Chart", name := "count", desc := "(Z[I)I" } : Jvm.MethodName)) ∈ lw_all := lw_g (lw_at lw_m5 22 rfl) rfl
theorem q1059 : (Jvm.Cond.code ({ cls := "LiarMaps$Chart", name := "count", desc := "(Z[I)I" } : Jvm.MethodName) prog_2_method_11_code (7 : Nat) (Option.some Jvm.ClassFile.FieldType.int)) ∈ lw_all := lw_g (lw_at lw_m5 23 rfl) rfl
theorem q1077 : (Jvm.Cond.instanceMethod ({ cls := "LiarMaps$Chart", name := "claim", desc := "(II)I" } : Jvm.MethodName)) ∈ lw_all := lw_g (lw_at lw_m5 41 rfl) rfl
theorem q1078 : (Jvm.Cond.selects "LiarMaps$Chart" ({ cls := "LiarMaps$Chart", name := "claim", desc := "(II)I" } : Jvm.MethodName) ({ cls := "LiarMaps$Chart", name := "claim", desc := "(II)I" } : Jvm.MethodName)) ∈ lw_all := lw_g (lw_at lw_m5 42 rfl) rfl
theorem q1079 : (Jvm.Cond.code ({ cls := "LiarMaps$Chart", name := "claim", desc := "(II)I" } : Jvm.MethodName) prog_2_method_15_code (4 : Nat) (Option.some Jvm.ClassFile.FieldType.int)) ∈ lw_all := lw_g (lw_at lw_m5 43 rfl) rfl
theorem q1080 : (Jvm.Cond.methodLink "LiarMaps$Chart" (130 : Nat) ({ cls := "LiarMaps$Chart", name := "mover", desc := "()LLiarMaps$Player;" } : Jvm.MethodName)) ∈ lw_all := lw_g (lw_at lw_m5 44 rfl) rfl
theorem q1081 : (Jvm.Cond.instanceMethod ({ cls := "LiarMaps$Chart", name := "mover", desc := "()LLiarMaps$Player;" } : Jvm.MethodName)) ∈ lw_all := lw_g (lw_at lw_m5 45 rfl) rfl
theorem q1082 : (Jvm.Cond.selects "LiarMaps$Chart" ({ cls := "LiarMaps$Chart", name := "mover", desc := "()LLiarMaps$Player;" } : Jvm.MethodName) ({ cls := "LiarMaps$Chart", name := "mover", desc := "()LLiarMaps$Player;" } : Jvm.MethodName)) ∈ lw_all := lw_g (lw_at lw_m5 46 rfl) rfl
theorem q1083 : (Jvm.Cond.code ({ cls := "LiarMaps$Chart", name := "mover", desc := "()LLiarMaps$Player;" } : Jvm.MethodName) prog_2_method_5_code (1 : Nat) (Option.some (Jvm.ClassFile.FieldType.object "LiarMaps$Player"))) ∈ lw_all := lw_g (lw_at lw_m5 47 rfl) rfl
theorem q1084 : (Jvm.Cond.methodLink "LiarMaps$Chart" (133 : Nat) ({ cls := "LiarMaps$Chart", name := "endTurn", desc := "()V" } : Jvm.MethodName)) ∈ lw_all := lw_g (lw_at lw_m5 48 rfl) rfl
theorem q1085 : (Jvm.Cond.privateMethod ({ cls := "LiarMaps$Chart", name := "endTurn", desc := "()V" } : Jvm.MethodName)) ∈ lw_tbl := lw_at lw_m5 49 rfl
theorem q1086 : (Jvm.Cond.instanceMethod ({ cls := "LiarMaps$Chart", name := "endTurn", desc := "()V" } : Jvm.MethodName)) ∈ lw_all := lw_g (lw_at lw_m5 50 rfl) rfl
theorem q1087 : (Jvm.Cond.code ({ cls := "LiarMaps$Chart", name := "endTurn", desc := "()V" } : Jvm.MethodName) prog_2_method_14_code (1 : Nat) (Option.none : Option Jvm.ClassFile.FieldType)) ∈ lw_all := lw_g (lw_at lw_m5 51 rfl) rfl
theorem q1088 : (Jvm.Cond.methodLink "LiarMaps$Chart" (136 : Nat) ({ cls := "LiarMaps$Player", name := "claimed", desc := "()I" } : Jvm.MethodName)) ∈ lw_all := lw_g (lw_at lw_m5 52 rfl) rfl
theorem q1109 : (Jvm.Cond.instanceMethod ({ cls := "LiarMaps$Chart", name := "check", desc := "(LLiarMaps$Player;I)I" } : Jvm.MethodName)) ∈ lw_all := lw_g (lw_at lw_m5 73 rfl) rfl
theorem q1110 : (Jvm.Cond.selects "LiarMaps$Chart" ({ cls := "LiarMaps$Chart", name := "check", desc := "(LLiarMaps$Player;I)I" } : Jvm.MethodName) ({ cls := "LiarMaps$Chart", name := "check", desc := "(LLiarMaps$Player;I)I" } : Jvm.MethodName)) ∈ lw_all := lw_g (lw_at lw_m5 74 rfl) rfl
theorem q1111 : (Jvm.Cond.code ({ cls := "LiarMaps$Chart", name := "check", desc := "(LLiarMaps$Player;I)I" } : Jvm.MethodName) prog_2_method_16_code (5 : Nat) (Option.some Jvm.ClassFile.FieldType.int)) ∈ lw_all := lw_g (lw_at lw_m5 75 rfl) rfl
theorem q1112 : (Jvm.Cond.methodLink "LiarMaps$Chart" (139 : Nat) ({ cls := "LiarMaps$Player", name := "pay", desc := "(LLiarMaps$Player;I)V" } : Jvm.MethodName)) ∈ lw_all := lw_g (lw_at lw_m5 76 rfl) rfl
theorem q1121 : (Jvm.Cond.methodLink "LiarMaps$Chart" (126 : Nat) ({ cls := "LiarMaps$Chart", name := "isFalse", desc := "(II)Z" } : Jvm.MethodName)) ∈ lw_all := lw_g (lw_at lw_m5 85 rfl) rfl
theorem q1122 : (Jvm.Cond.static ({ cls := "LiarMaps$Chart", name := "isFalse", desc := "(II)Z" } : Jvm.MethodName)) ∈ lw_all := lw_g (lw_at lw_m5 86 rfl) rfl
theorem q1123 : (Jvm.Cond.code ({ cls := "LiarMaps$Chart", name := "isFalse", desc := "(II)Z" } : Jvm.MethodName) prog_2_method_12_code (2 : Nat) (Option.some Jvm.ClassFile.FieldType.boolean)) ∈ lw_all := lw_g (lw_at lw_m5 87 rfl) rfl
theorem q1138 : (Jvm.Cond.instanceMethod ({ cls := "LiarMaps$Chart", name := "dig", desc := "(I)I" } : Jvm.MethodName)) ∈ lw_all := lw_g (lw_at lw_m5 102 rfl) rfl
theorem q1139 : (Jvm.Cond.selects "LiarMaps$Chart" ({ cls := "LiarMaps$Chart", name := "dig", desc := "(I)I" } : Jvm.MethodName) ({ cls := "LiarMaps$Chart", name := "dig", desc := "(I)I" } : Jvm.MethodName)) ∈ lw_all := lw_g (lw_at lw_m5 103 rfl) rfl
theorem q1140 : (Jvm.Cond.code ({ cls := "LiarMaps$Chart", name := "dig", desc := "(I)I" } : Jvm.MethodName) prog_2_method_17_code (4 : Nat) (Option.some Jvm.ClassFile.FieldType.int)) ∈ lw_all := lw_g (lw_at lw_m5 104 rfl) rfl
theorem q1141 : (Jvm.Cond.methodLink "LiarMaps$Chart" (152 : Nat) ({ cls := "LiarMaps$Chart", name := "far", desc := "(II)I" } : Jvm.MethodName)) ∈ lw_all := lw_g (lw_at lw_m5 105 rfl) rfl
theorem q1142 : (Jvm.Cond.instanceMethod ({ cls := "LiarMaps$Chart", name := "far", desc := "(II)I" } : Jvm.MethodName)) ∈ lw_all := lw_g (lw_at lw_m5 106 rfl) rfl
theorem q1143 : (Jvm.Cond.selects "LiarMaps$Chart" ({ cls := "LiarMaps$Chart", name := "far", desc := "(II)I" } : Jvm.MethodName) ({ cls := "LiarMaps$Chart", name := "far", desc := "(II)I" } : Jvm.MethodName)) ∈ lw_all := lw_g (lw_at lw_m5 107 rfl) rfl
theorem q1144 : (Jvm.Cond.code ({ cls := "LiarMaps$Chart", name := "far", desc := "(II)I" } : Jvm.MethodName) prog_2_method_20_code (3 : Nat) (Option.some Jvm.ClassFile.FieldType.int)) ∈ lw_all := lw_g (lw_at lw_m5 108 rfl) rfl
theorem q1145 : (Jvm.Cond.methodLink "LiarMaps$Chart" (186 : Nat) ({ cls := "LiarMaps$Chart", name := "truth", desc := "()[I" } : Jvm.MethodName)) ∈ lw_all := lw_g (lw_at lw_m5 109 rfl) rfl
theorem q1146 : (Jvm.Cond.privateMethod ({ cls := "LiarMaps$Chart", name := "truth", desc := "()[I" } : Jvm.MethodName)) ∈ lw_tbl := lw_at lw_m5 110 rfl
theorem q1147 : (Jvm.Cond.instanceMethod ({ cls := "LiarMaps$Chart", name := "truth", desc := "()[I" } : Jvm.MethodName)) ∈ lw_all := lw_g (lw_at lw_m5 111 rfl) rfl
theorem q1148 : (Jvm.Cond.code ({ cls := "LiarMaps$Chart", name := "truth", desc := "()[I" } : Jvm.MethodName) prog_2_method_19_code (3 : Nat) (Option.some (Jvm.ClassFile.FieldType.array Jvm.ClassFile.FieldType.int))) ∈ lw_all := lw_g (lw_at lw_m5 112 rfl) rfl
theorem q1149 : (Jvm.Cond.methodLink "LiarMaps$Chart" (190 : Nat) ({ cls := "LiarMaps$Chart", name := "way", desc := "(II[I)I" } : Jvm.MethodName)) ∈ lw_all := lw_g (lw_at lw_m5 113 rfl) rfl
theorem q1150 : (Jvm.Cond.static ({ cls := "LiarMaps$Chart", name := "way", desc := "(II[I)I" } : Jvm.MethodName)) ∈ lw_all := lw_g (lw_at lw_m5 114 rfl) rfl
theorem q1151 : (Jvm.Cond.code ({ cls := "LiarMaps$Chart", name := "way", desc := "(II[I)I" } : Jvm.MethodName) prog_2_method_18_code (8 : Nat) (Option.some Jvm.ClassFile.FieldType.int)) ∈ lw_all := lw_g (lw_at lw_m5 115 rfl) rfl
theorem q1152 : (Jvm.Cond.classLink "LiarMaps$Chart" (165 : Nat) "java/util/ArrayDeque") ∈ lw_all := lw_g (lw_at lw_m5 116 rfl) rfl
theorem q1153 : (Jvm.Cond.methodLink "LiarMaps$Chart" (167 : Nat) ({ cls := "java/util/ArrayDeque", name := "<init>", desc := "(I)V" } : Jvm.MethodName)) ∈ lw_all := lw_g (lw_at lw_m5 117 rfl) rfl
theorem q1154 : (Jvm.Cond.methodLink "LiarMaps$Chart" (168 : Nat) ({ cls := "java/lang/Integer", name := "valueOf", desc := "(I)Ljava/lang/Integer;" } : Jvm.MethodName)) ∈ lw_all := lw_g (lw_at lw_m5 118 rfl) rfl
theorem q1174 : (Jvm.Cond.interfaceEntry "LiarMaps$Chart" (174 : Nat)) ∈ lw_tbl := lw_at lw_m5 138 rfl
theorem q1175 : (Jvm.Cond.methodLink "LiarMaps$Chart" (174 : Nat) ({ cls := "java/util/Deque", name := "addLast", desc := "(Ljava/lang/Object;)V" } : Jvm.MethodName)) ∈ lw_all := lw_g (lw_at lw_m5 139 rfl) rfl
theorem q1176 : (Jvm.Cond.interfaceEntry "LiarMaps$Chart" (177 : Nat)) ∈ lw_tbl := lw_at lw_m5 140 rfl
theorem q1190 : (Jvm.Cond.interfaceEntry "LiarMaps$Chart" (180 : Nat)) ∈ lw_tbl := lw_at lw_m5 154 rfl
theorem q1191 : (Jvm.Cond.methodLink "LiarMaps$Chart" (180 : Nat) ({ cls := "java/util/Deque", name := "removeFirst", desc := "()Ljava/lang/Object;" } : Jvm.MethodName)) ∈ lw_all := lw_g (lw_at lw_m5 155 rfl) rfl
theorem q1192 : (Jvm.Cond.classLink "LiarMaps$Chart" (169 : Nat) "java/lang/Integer") ∈ lw_all := lw_g (lw_at lw_m5 156 rfl) rfl
theorem q1193 : (Jvm.Cond.methodLink "LiarMaps$Chart" (183 : Nat) ({ cls := "java/lang/Integer", name := "intValue", desc := "()I" } : Jvm.MethodName)) ∈ lw_all := lw_g (lw_at lw_m5 157 rfl) rfl
theorem q1198 : (Jvm.Cond.methodLink "LiarMaps$Chart" (160 : Nat) ({ cls := "LiarMaps$Digging", name := "<init>", desc := "(II)V" } : Jvm.MethodName)) ∈ lw_all := lw_g (lw_at lw_m5 162 rfl) rfl
theorem q1203 : (Jvm.Cond.fieldLinkNest "LiarMaps$Chart" (197 : Nat) "LiarMaps$Digging" "place" "I" "LiarMaps") ∈ lw_tbl := lw_at lw_m5 167 rfl
theorem q1206 : (Jvm.Cond.fieldLinkNest "LiarMaps$Chart" (200 : Nat) "LiarMaps$Digging" "distance" "I" "LiarMaps") ∈ lw_tbl := lw_at lw_m5 170 rfl
theorem q1212 : (Jvm.Cond.methodLink "LiarMaps$Chart" (163 : Nat) ({ cls := "LiarMaps$Player", name := "get", desc := "(I)V" } : Jvm.MethodName)) ∈ lw_all := lw_g (lw_at lw_m5 176 rfl) rfl
theorem q1244 : (Jvm.Cond.static ({ cls := "LiarMaps$Chart", name := "shown", desc := "(LLiarMaps$Player;[I)I" } : Jvm.MethodName)) ∈ lw_all := lw_g (lw_at lw_m5 208 rfl) rfl
theorem q1245 : (Jvm.Cond.code ({ cls := "LiarMaps$Chart", name := "shown", desc := "(LLiarMaps$Player;[I)I" } : Jvm.MethodName) prog_2_method_13_code (4 : Nat) (Option.some Jvm.ClassFile.FieldType.int)) ∈ lw_all := lw_g (lw_at lw_m5 209 rfl) rfl
theorem q1257 : (Jvm.Cond.instanceMethod ({ cls := "LiarMaps$Chart", name := "toldOf", desc := "(I)I" } : Jvm.MethodName)) ∈ lw_all := lw_g (lw_at lw_m5 221 rfl) rfl
theorem q1258 : (Jvm.Cond.selects "LiarMaps$Chart" ({ cls := "LiarMaps$Chart", name := "toldOf", desc := "(I)I" } : Jvm.MethodName) ({ cls := "LiarMaps$Chart", name := "toldOf", desc := "(I)I" } : Jvm.MethodName)) ∈ lw_all := lw_g (lw_at lw_m5 222 rfl) rfl
theorem q1259 : (Jvm.Cond.code ({ cls := "LiarMaps$Chart", name := "toldOf", desc := "(I)I" } : Jvm.MethodName) prog_2_method_23_code (5 : Nat) (Option.some Jvm.ClassFile.FieldType.int)) ∈ lw_all := lw_g (lw_at lw_m5 223 rfl) rfl
theorem q1303 : (Jvm.Cond.instanceMethod ({ cls := "LiarMaps$Chart", name := "canBe", desc := "()Ljava/util/BitSet;" } : Jvm.MethodName)) ∈ lw_all := lw_g (lw_at lw_m6 27 rfl) rfl
theorem q1304 : (Jvm.Cond.selects "LiarMaps$Chart" ({ cls := "LiarMaps$Chart", name := "canBe", desc := "()Ljava/util/BitSet;" } : Jvm.MethodName) ({ cls := "LiarMaps$Chart", name := "canBe", desc := "()Ljava/util/BitSet;" } : Jvm.MethodName)) ∈ lw_all := lw_g (lw_at lw_m6 28 rfl) rfl
theorem q1305 : (Jvm.Cond.code ({ cls := "LiarMaps$Chart", name := "canBe", desc := "()Ljava/util/BitSet;" } : Jvm.MethodName) prog_2_method_22_code (7 : Nat) (Option.some (Jvm.ClassFile.FieldType.object "java/util/BitSet"))) ∈ lw_all := lw_g (lw_at lw_m6 29 rfl) rfl
theorem q1323 : (Jvm.Cond.instanceMethod ({ cls := "LiarMaps$Chart", name := "knownWay", desc := "(II)I" } : Jvm.MethodName)) ∈ lw_all := lw_g (lw_at lw_m6 47 rfl) rfl
theorem q1324 : (Jvm.Cond.selects "LiarMaps$Chart" ({ cls := "LiarMaps$Chart", name := "knownWay", desc := "(II)I" } : Jvm.MethodName) ({ cls := "LiarMaps$Chart", name := "knownWay", desc := "(II)I" } : Jvm.MethodName)) ∈ lw_all := lw_g (lw_at lw_m6 48 rfl) rfl
theorem q1325 : (Jvm.Cond.code ({ cls := "LiarMaps$Chart", name := "knownWay", desc := "(II)I" } : Jvm.MethodName) prog_2_method_21_code (4 : Nat) (Option.some Jvm.ClassFile.FieldType.int)) ∈ lw_all := lw_g (lw_at lw_m6 49 rfl) rfl
theorem q1326 : (Jvm.Cond.methodLink "LiarMaps$Chart" (193 : Nat) ({ cls := "LiarMaps$Chart", name := "known", desc := "(I)[I" } : Jvm.MethodName)) ∈ lw_all := lw_g (lw_at lw_m6 50 rfl) rfl
theorem q2035 : (Jvm.Cond.castable "LiarMaps$Chart" "java/lang/Object") ∈ lw_tbl := lw_at lw_m9 39 rfl
theorem in_X1 : ∀ w ∈ wsX10, w ∈ lw_all := lw_in wsX10 [248, 250, 252, 254, 256, 258, 260, 262, 264] (by decide +kernel) (by decide +kernel)
/-! LiarMaps$Player -/
set_option maxRecDepth 100000
def RX2 : String := "LiarMaps$Player"
def TX2 : u_T := fun k => match k with
  | 0 => ("LiarMaps$Player", "claims", "[I", true)
  | 1 => ("LiarMaps$Player", "purse", "I", false)
  | 2 => ("LiarMaps$Player", "lies", "I", false)
  | 3 => ("LiarMaps$Player", "checks", "I", false)
  | 4 => ("LiarMaps$Player", "found", "I", false)
  | _ => ("LiarMaps$Player", "digs", "I", false)
def tyX2 : Nat → FieldType := fun k => match k with
  | 0 => .array .int
  | 1 => .int
  | 2 => .int
  | 3 => .int
  | 4 => .int
  | _ => .int
abbrev wsX20 : List Cond := u_ws RX2 TX2 6
theorem nmX2 : ∀ a, a < 6 → ∀ b, b < 6 → a ≠ b → (TX2 a).2.1 ≠ (TX2 b).2.1 := by decide +kernel
theorem tyX2_ok : ∀ k, k < 6 → parseFieldDescriptor (TX2 k).2.2.1 = some (tyX2 k) := by decide +kernel
abbrev cX2_init : ByteArray := prog_5_method_1_code
def yX2_init : MethodName := ⟨RX2, "<init>", "()V"⟩
def dkwX2_init_0 : List UInt8 := [42, 183, 0, 3, 42, 16, 28, 188, 10, 181, 0, 9, 42, 16, 20, 181, 0, 15, 177]
abbrev dktX2_init_0 : List UInt8 := dkwX2_init_0 ++ []
theorem dksX2_init_0 : cX2_init.data.toList.drop 0 = dktX2_init_0 := by decide +kernel
theorem dX2_init_0 : decode cX2_init 0 = .ok (.aload_n 0, 1) := dk_42 (dk_at dksX2_init_0 0 rfl rfl)
theorem dX2_init_1 : decode cX2_init 1 = .ok (.invokespecial 3, 3) := dk_183 0 3 (dk_at dksX2_init_0 1 rfl rfl)
theorem dX2_init_4 : decode cX2_init 4 = .ok (.aload_n 0, 1) := dk_42 (dk_at dksX2_init_0 4 rfl rfl)
theorem dX2_init_5 : decode cX2_init 5 = .ok (.bipush 28, 2) := dk_16 28 (dk_at dksX2_init_0 5 rfl rfl)
theorem dX2_init_7 : decode cX2_init 7 = .ok (.newarray .int, 2) := dk_188_10 (dk_at dksX2_init_0 7 rfl rfl)
theorem dX2_init_9 : decode cX2_init 9 = .ok (.putfield 9, 3) := dk_181 0 9 (dk_at dksX2_init_0 9 rfl rfl)
theorem dX2_init_12 : decode cX2_init 12 = .ok (.aload_n 0, 1) := dk_42 (dk_at dksX2_init_0 12 rfl rfl)
theorem dX2_init_13 : decode cX2_init 13 = .ok (.bipush 20, 2) := dk_16 20 (dk_at dksX2_init_0 13 rfl rfl)
theorem dX2_init_15 : decode cX2_init 15 = .ok (.putfield 15, 3) := dk_181 0 15 (dk_at dksX2_init_0 15 rfl rfl)
theorem dX2_init_18 : decode cX2_init 18 = .ok (.return_, 1) := dk_177 (dk_at dksX2_init_0 18 rfl rfl)
abbrev cX2_copy : ByteArray := prog_5_method_2_code
def yX2_copy : MethodName := ⟨RX2, "copy", "()LLiarMaps$Player;"⟩
def dkwX2_copy_2 : List UInt8 := [42, 180, 0, 32, 181, 0, 32, 43, 42, 180, 0, 35, 181, 0, 35, 43, 176]
abbrev dktX2_copy_2 : List UInt8 := dkwX2_copy_2 ++ []
def dkwX2_copy_1 : List UInt8 := [42, 180, 0, 15, 181, 0, 15, 43, 42, 180, 0, 26, 181, 0, 26, 43, 42, 180, 0, 29, 181, 0, 29, 43]
abbrev dktX2_copy_1 : List UInt8 := dkwX2_copy_1 ++ dktX2_copy_2
def dkwX2_copy_0 : List UInt8 := [187, 0, 10, 89, 183, 0, 19, 76, 42, 180, 0, 9, 3, 43, 180, 0, 9, 3, 16, 28, 184, 0, 20, 43]
abbrev dktX2_copy_0 : List UInt8 := dkwX2_copy_0 ++ dktX2_copy_1
theorem dksX2_copy_0 : cX2_copy.data.toList.drop 0 = dktX2_copy_0 := by decide +kernel
theorem dksX2_copy_1 : cX2_copy.data.toList.drop 24 = dktX2_copy_1 := dk_seg dksX2_copy_0 24 rfl rfl
theorem dksX2_copy_2 : cX2_copy.data.toList.drop 48 = dktX2_copy_2 := dk_seg dksX2_copy_1 24 rfl rfl
theorem dX2_copy_0 : decode cX2_copy 0 = .ok (.new 10, 3) := dk_187 0 10 (dk_at dksX2_copy_0 0 rfl rfl)
theorem dX2_copy_3 : decode cX2_copy 3 = .ok (.dup, 1) := dk_89 (dk_at dksX2_copy_0 3 rfl rfl)
theorem dX2_copy_4 : decode cX2_copy 4 = .ok (.invokespecial 19, 3) := dk_183 0 19 (dk_at dksX2_copy_0 4 rfl rfl)
theorem dX2_copy_7 : decode cX2_copy 7 = .ok (.astore_n 1, 1) := dk_76 (dk_at dksX2_copy_0 7 rfl rfl)
theorem dX2_copy_8 : decode cX2_copy 8 = .ok (.aload_n 0, 1) := dk_42 (dk_at dksX2_copy_0 8 rfl rfl)
theorem dX2_copy_9 : decode cX2_copy 9 = .ok (.getfield 9, 3) := dk_180 0 9 (dk_at dksX2_copy_0 9 rfl rfl)
theorem dX2_copy_12 : decode cX2_copy 12 = .ok (.iconst 0, 1) := dk_3 (dk_at dksX2_copy_0 12 rfl rfl)
theorem dX2_copy_13 : decode cX2_copy 13 = .ok (.aload_n 1, 1) := dk_43 (dk_at dksX2_copy_0 13 rfl rfl)
theorem dX2_copy_14 : decode cX2_copy 14 = .ok (.getfield 9, 3) := dk_180 0 9 (dk_at dksX2_copy_0 14 rfl rfl)
theorem dX2_copy_17 : decode cX2_copy 17 = .ok (.iconst 0, 1) := dk_3 (dk_at dksX2_copy_0 17 rfl rfl)
theorem dX2_copy_18 : decode cX2_copy 18 = .ok (.bipush 28, 2) := dk_16 28 (dk_at dksX2_copy_0 18 rfl rfl)
theorem dX2_copy_20 : decode cX2_copy 20 = .ok (.invokestatic 20, 3) := dk_184 0 20 (dk_at dksX2_copy_0 20 rfl rfl)
theorem dX2_copy_23 : decode cX2_copy 23 = .ok (.aload_n 1, 1) := dk_43 (dk_at dksX2_copy_0 23 rfl rfl)
theorem dX2_copy_24 : decode cX2_copy 24 = .ok (.aload_n 0, 1) := dk_42 (dk_at dksX2_copy_1 0 rfl rfl)
theorem dX2_copy_25 : decode cX2_copy 25 = .ok (.getfield 15, 3) := dk_180 0 15 (dk_at dksX2_copy_1 1 rfl rfl)
theorem dX2_copy_28 : decode cX2_copy 28 = .ok (.putfield 15, 3) := dk_181 0 15 (dk_at dksX2_copy_1 4 rfl rfl)
theorem dX2_copy_31 : decode cX2_copy 31 = .ok (.aload_n 1, 1) := dk_43 (dk_at dksX2_copy_1 7 rfl rfl)
theorem dX2_copy_32 : decode cX2_copy 32 = .ok (.aload_n 0, 1) := dk_42 (dk_at dksX2_copy_1 8 rfl rfl)
theorem dX2_copy_33 : decode cX2_copy 33 = .ok (.getfield 26, 3) := dk_180 0 26 (dk_at dksX2_copy_1 9 rfl rfl)
theorem dX2_copy_36 : decode cX2_copy 36 = .ok (.putfield 26, 3) := dk_181 0 26 (dk_at dksX2_copy_1 12 rfl rfl)
theorem dX2_copy_39 : decode cX2_copy 39 = .ok (.aload_n 1, 1) := dk_43 (dk_at dksX2_copy_1 15 rfl rfl)
theorem dX2_copy_40 : decode cX2_copy 40 = .ok (.aload_n 0, 1) := dk_42 (dk_at dksX2_copy_1 16 rfl rfl)
theorem dX2_copy_41 : decode cX2_copy 41 = .ok (.getfield 29, 3) := dk_180 0 29 (dk_at dksX2_copy_1 17 rfl rfl)
theorem dX2_copy_44 : decode cX2_copy 44 = .ok (.putfield 29, 3) := dk_181 0 29 (dk_at dksX2_copy_1 20 rfl rfl)
theorem dX2_copy_47 : decode cX2_copy 47 = .ok (.aload_n 1, 1) := dk_43 (dk_at dksX2_copy_1 23 rfl rfl)
theorem dX2_copy_48 : decode cX2_copy 48 = .ok (.aload_n 0, 1) := dk_42 (dk_at dksX2_copy_2 0 rfl rfl)
theorem dX2_copy_49 : decode cX2_copy 49 = .ok (.getfield 32, 3) := dk_180 0 32 (dk_at dksX2_copy_2 1 rfl rfl)
theorem dX2_copy_52 : decode cX2_copy 52 = .ok (.putfield 32, 3) := dk_181 0 32 (dk_at dksX2_copy_2 4 rfl rfl)
theorem dX2_copy_55 : decode cX2_copy 55 = .ok (.aload_n 1, 1) := dk_43 (dk_at dksX2_copy_2 7 rfl rfl)
theorem dX2_copy_56 : decode cX2_copy 56 = .ok (.aload_n 0, 1) := dk_42 (dk_at dksX2_copy_2 8 rfl rfl)
theorem dX2_copy_57 : decode cX2_copy 57 = .ok (.getfield 35, 3) := dk_180 0 35 (dk_at dksX2_copy_2 9 rfl rfl)
theorem dX2_copy_60 : decode cX2_copy 60 = .ok (.putfield 35, 3) := dk_181 0 35 (dk_at dksX2_copy_2 12 rfl rfl)
theorem dX2_copy_63 : decode cX2_copy 63 = .ok (.aload_n 1, 1) := dk_43 (dk_at dksX2_copy_2 15 rfl rfl)
theorem dX2_copy_64 : decode cX2_copy 64 = .ok (.areturn, 1) := dk_176 (dk_at dksX2_copy_2 16 rfl rfl)
abbrev cX2_claimed : ByteArray := prog_5_method_3_code
def yX2_claimed : MethodName := ⟨RX2, "claimed", "()I"⟩
def dkwX2_claimed_1 : List UInt8 := [54, 5, 27, 21, 5, 158, 0, 7, 4, 167, 0, 4, 3, 96, 60, 132, 4, 1, 167, 255, 228, 27, 172]
abbrev dktX2_claimed_1 : List UInt8 := dkwX2_claimed_1 ++ []
def dkwX2_claimed_0 : List UInt8 := [3, 60, 42, 180, 0, 9, 77, 44, 190, 62, 3, 54, 4, 21, 4, 29, 162, 0, 28, 44, 21, 4, 46]
abbrev dktX2_claimed_0 : List UInt8 := dkwX2_claimed_0 ++ dktX2_claimed_1
theorem dksX2_claimed_0 : cX2_claimed.data.toList.drop 0 = dktX2_claimed_0 := by decide +kernel
theorem dksX2_claimed_1 : cX2_claimed.data.toList.drop 23 = dktX2_claimed_1 := dk_seg dksX2_claimed_0 23 rfl rfl
theorem dX2_claimed_0 : decode cX2_claimed 0 = .ok (.iconst 0, 1) := dk_3 (dk_at dksX2_claimed_0 0 rfl rfl)
theorem dX2_claimed_1 : decode cX2_claimed 1 = .ok (.istore_n 1, 1) := dk_60 (dk_at dksX2_claimed_0 1 rfl rfl)
theorem dX2_claimed_2 : decode cX2_claimed 2 = .ok (.aload_n 0, 1) := dk_42 (dk_at dksX2_claimed_0 2 rfl rfl)
theorem dX2_claimed_3 : decode cX2_claimed 3 = .ok (.getfield 9, 3) := dk_180 0 9 (dk_at dksX2_claimed_0 3 rfl rfl)
theorem dX2_claimed_6 : decode cX2_claimed 6 = .ok (.astore_n 2, 1) := dk_77 (dk_at dksX2_claimed_0 6 rfl rfl)
theorem dX2_claimed_7 : decode cX2_claimed 7 = .ok (.aload_n 2, 1) := dk_44 (dk_at dksX2_claimed_0 7 rfl rfl)
theorem dX2_claimed_8 : decode cX2_claimed 8 = .ok (.arraylength, 1) := dk_190 (dk_at dksX2_claimed_0 8 rfl rfl)
theorem dX2_claimed_9 : decode cX2_claimed 9 = .ok (.istore_n 3, 1) := dk_62 (dk_at dksX2_claimed_0 9 rfl rfl)
theorem dX2_claimed_10 : decode cX2_claimed 10 = .ok (.iconst 0, 1) := dk_3 (dk_at dksX2_claimed_0 10 rfl rfl)
theorem dX2_claimed_11 : decode cX2_claimed 11 = .ok (.istore 4, 2) := dk_54 4 (dk_at dksX2_claimed_0 11 rfl rfl)
theorem dX2_claimed_13 : decode cX2_claimed 13 = .ok (.iload 4, 2) := dk_21 4 (dk_at dksX2_claimed_0 13 rfl rfl)
theorem dX2_claimed_15 : decode cX2_claimed 15 = .ok (.iload_n 3, 1) := dk_29 (dk_at dksX2_claimed_0 15 rfl rfl)
theorem dX2_claimed_16 : decode cX2_claimed 16 = .ok (.if_icmp .ge 28, 3) := dk_162 0 28 (dk_at dksX2_claimed_0 16 rfl rfl)
theorem dX2_claimed_19 : decode cX2_claimed 19 = .ok (.aload_n 2, 1) := dk_44 (dk_at dksX2_claimed_0 19 rfl rfl)
theorem dX2_claimed_20 : decode cX2_claimed 20 = .ok (.iload 4, 2) := dk_21 4 (dk_at dksX2_claimed_0 20 rfl rfl)
theorem dX2_claimed_22 : decode cX2_claimed 22 = .ok (.iaload, 1) := dk_46 (dk_at dksX2_claimed_0 22 rfl rfl)
theorem dX2_claimed_23 : decode cX2_claimed 23 = .ok (.istore 5, 2) := dk_54 5 (dk_at dksX2_claimed_1 0 rfl rfl)
theorem dX2_claimed_25 : decode cX2_claimed 25 = .ok (.iload_n 1, 1) := dk_27 (dk_at dksX2_claimed_1 2 rfl rfl)
theorem dX2_claimed_26 : decode cX2_claimed 26 = .ok (.iload 5, 2) := dk_21 5 (dk_at dksX2_claimed_1 3 rfl rfl)
theorem dX2_claimed_28 : decode cX2_claimed 28 = .ok (.ifCond .le 7, 3) := dk_158 0 7 (dk_at dksX2_claimed_1 5 rfl rfl)
theorem dX2_claimed_31 : decode cX2_claimed 31 = .ok (.iconst 1, 1) := dk_4 (dk_at dksX2_claimed_1 8 rfl rfl)
theorem dX2_claimed_32 : decode cX2_claimed 32 = .ok (.goto 4, 3) := dk_167 0 4 (dk_at dksX2_claimed_1 9 rfl rfl)
theorem dX2_claimed_35 : decode cX2_claimed 35 = .ok (.iconst 0, 1) := dk_3 (dk_at dksX2_claimed_1 12 rfl rfl)
theorem dX2_claimed_36 : decode cX2_claimed 36 = .ok (.iadd, 1) := dk_96 (dk_at dksX2_claimed_1 13 rfl rfl)
theorem dX2_claimed_37 : decode cX2_claimed 37 = .ok (.istore_n 1, 1) := dk_60 (dk_at dksX2_claimed_1 14 rfl rfl)
theorem dX2_claimed_38 : decode cX2_claimed 38 = .ok (.iinc 4 1, 3) := dk_132 4 1 (dk_at dksX2_claimed_1 15 rfl rfl)
theorem dX2_claimed_41 : decode cX2_claimed 41 = .ok (.goto (-28), 3) := dk_167 255 228 (dk_at dksX2_claimed_1 18 rfl rfl)
theorem dX2_claimed_44 : decode cX2_claimed 44 = .ok (.iload_n 1, 1) := dk_27 (dk_at dksX2_claimed_1 21 rfl rfl)
theorem dX2_claimed_45 : decode cX2_claimed 45 = .ok (.ireturn, 1) := dk_172 (dk_at dksX2_claimed_1 22 rfl rfl)
abbrev cX2_pay : ByteArray := prog_5_method_5_code
def yX2_pay : MethodName := ⟨RX2, "pay", "(LLiarMaps$Player;I)V"⟩
def dkwX2_pay_1 : List UInt8 := [177]
abbrev dktX2_pay_1 : List UInt8 := dkwX2_pay_1 ++ []
def dkwX2_pay_0 : List UInt8 := [42, 180, 0, 15, 28, 184, 0, 38, 62, 42, 89, 180, 0, 15, 29, 100, 181, 0, 15, 43, 29, 182, 0, 44]
abbrev dktX2_pay_0 : List UInt8 := dkwX2_pay_0 ++ dktX2_pay_1
theorem dksX2_pay_0 : cX2_pay.data.toList.drop 0 = dktX2_pay_0 := by decide +kernel
theorem dksX2_pay_1 : cX2_pay.data.toList.drop 24 = dktX2_pay_1 := dk_seg dksX2_pay_0 24 rfl rfl
theorem dX2_pay_0 : decode cX2_pay 0 = .ok (.aload_n 0, 1) := dk_42 (dk_at dksX2_pay_0 0 rfl rfl)
theorem dX2_pay_1 : decode cX2_pay 1 = .ok (.getfield 15, 3) := dk_180 0 15 (dk_at dksX2_pay_0 1 rfl rfl)
theorem dX2_pay_4 : decode cX2_pay 4 = .ok (.iload_n 2, 1) := dk_28 (dk_at dksX2_pay_0 4 rfl rfl)
theorem dX2_pay_5 : decode cX2_pay 5 = .ok (.invokestatic 38, 3) := dk_184 0 38 (dk_at dksX2_pay_0 5 rfl rfl)
theorem dX2_pay_8 : decode cX2_pay 8 = .ok (.istore_n 3, 1) := dk_62 (dk_at dksX2_pay_0 8 rfl rfl)
theorem dX2_pay_9 : decode cX2_pay 9 = .ok (.aload_n 0, 1) := dk_42 (dk_at dksX2_pay_0 9 rfl rfl)
theorem dX2_pay_10 : decode cX2_pay 10 = .ok (.dup, 1) := dk_89 (dk_at dksX2_pay_0 10 rfl rfl)
theorem dX2_pay_11 : decode cX2_pay 11 = .ok (.getfield 15, 3) := dk_180 0 15 (dk_at dksX2_pay_0 11 rfl rfl)
theorem dX2_pay_14 : decode cX2_pay 14 = .ok (.iload_n 3, 1) := dk_29 (dk_at dksX2_pay_0 14 rfl rfl)
theorem dX2_pay_15 : decode cX2_pay 15 = .ok (.isub, 1) := dk_100 (dk_at dksX2_pay_0 15 rfl rfl)
theorem dX2_pay_16 : decode cX2_pay 16 = .ok (.putfield 15, 3) := dk_181 0 15 (dk_at dksX2_pay_0 16 rfl rfl)
theorem dX2_pay_19 : decode cX2_pay 19 = .ok (.aload_n 1, 1) := dk_43 (dk_at dksX2_pay_0 19 rfl rfl)
theorem dX2_pay_20 : decode cX2_pay 20 = .ok (.iload_n 3, 1) := dk_29 (dk_at dksX2_pay_0 20 rfl rfl)
theorem dX2_pay_21 : decode cX2_pay 21 = .ok (.invokevirtual 44, 3) := dk_182 0 44 (dk_at dksX2_pay_0 21 rfl rfl)
theorem dX2_pay_24 : decode cX2_pay 24 = .ok (.return_, 1) := dk_177 (dk_at dksX2_pay_1 0 rfl rfl)
abbrev cX2_get : ByteArray := prog_5_method_4_code
def yX2_get : MethodName := ⟨RX2, "get", "(I)V"⟩
def dkwX2_get_0 : List UInt8 := [42, 17, 39, 15, 42, 180, 0, 15, 27, 96, 184, 0, 38, 181, 0, 15, 177]
abbrev dktX2_get_0 : List UInt8 := dkwX2_get_0 ++ []
theorem dksX2_get_0 : cX2_get.data.toList.drop 0 = dktX2_get_0 := by decide +kernel
theorem dX2_get_0 : decode cX2_get 0 = .ok (.aload_n 0, 1) := dk_42 (dk_at dksX2_get_0 0 rfl rfl)
theorem dX2_get_1 : decode cX2_get 1 = .ok (.sipush 9999, 3) := dk_17 39 15 (dk_at dksX2_get_0 1 rfl rfl)
theorem dX2_get_4 : decode cX2_get 4 = .ok (.aload_n 0, 1) := dk_42 (dk_at dksX2_get_0 4 rfl rfl)
theorem dX2_get_5 : decode cX2_get 5 = .ok (.getfield 15, 3) := dk_180 0 15 (dk_at dksX2_get_0 5 rfl rfl)
theorem dX2_get_8 : decode cX2_get 8 = .ok (.iload_n 1, 1) := dk_27 (dk_at dksX2_get_0 8 rfl rfl)
theorem dX2_get_9 : decode cX2_get 9 = .ok (.iadd, 1) := dk_96 (dk_at dksX2_get_0 9 rfl rfl)
theorem dX2_get_10 : decode cX2_get 10 = .ok (.invokestatic 38, 3) := dk_184 0 38 (dk_at dksX2_get_0 10 rfl rfl)
theorem dX2_get_13 : decode cX2_get 13 = .ok (.putfield 15, 3) := dk_181 0 15 (dk_at dksX2_get_0 13 rfl rfl)
theorem dX2_get_16 : decode cX2_get 16 = .ok (.return_, 1) := dk_177 (dk_at dksX2_get_0 16 rfl rfl)
theorem q80 : (Jvm.Cond.initialized "LiarMaps$Player") ∈ lw_all := lw_g (lw_at lw_m1 4 rfl) rfl
theorem q158 : (Jvm.Cond.instantiable "LiarMaps$Player" (6 : Nat)) ∈ lw_all := lw_g (lw_at lw_m1 82 rfl) rfl
theorem q160 : (Jvm.Cond.instanceMethod ({ cls := "LiarMaps$Player", name := "<init>", desc := "()V" } : Jvm.MethodName)) ∈ lw_all := lw_g (lw_at lw_m1 84 rfl) rfl
theorem q161 : (Jvm.Cond.code ({ cls := "LiarMaps$Player", name := "<init>", desc := "()V" } : Jvm.MethodName) prog_5_method_1_code (1 : Nat) (Option.none : Option Jvm.ClassFile.FieldType)) ∈ lw_all := lw_g (lw_at lw_m1 85 rfl) rfl
theorem q162 : (Jvm.Cond.methodLink "LiarMaps$Player" (3 : Nat) ({ cls := "java/lang/Object", name := "<init>", desc := "()V" } : Jvm.MethodName)) ∈ lw_all := lw_g (lw_at lw_m1 86 rfl) rfl
theorem q163 : (Jvm.Cond.fieldLink "LiarMaps$Player" (9 : Nat) "LiarMaps$Player" "claims" "[I") ∈ lw_all := lw_g (lw_at lw_m1 87 rfl) rfl
theorem q166 : (Jvm.Cond.fieldLink "LiarMaps$Player" (15 : Nat) "LiarMaps$Player" "purse" "I") ∈ lw_all := lw_g (lw_at lw_m1 90 rfl) rfl
theorem q169 : (Jvm.Cond.fieldLink "LiarMaps$Player" (26 : Nat) "LiarMaps$Player" "lies" "I") ∈ lw_all := lw_g (lw_at lw_m1 93 rfl) rfl
theorem q172 : (Jvm.Cond.fieldLink "LiarMaps$Player" (29 : Nat) "LiarMaps$Player" "checks" "I") ∈ lw_all := lw_g (lw_at lw_m1 96 rfl) rfl
theorem q175 : (Jvm.Cond.fieldLink "LiarMaps$Player" (32 : Nat) "LiarMaps$Player" "found" "I") ∈ lw_all := lw_g (lw_at lw_m1 99 rfl) rfl
theorem q178 : (Jvm.Cond.fieldLink "LiarMaps$Player" (35 : Nat) "LiarMaps$Player" "digs" "I") ∈ lw_all := lw_g (lw_at lw_m1 102 rfl) rfl
theorem q181 : (Jvm.Cond.laysFinal "LiarMaps$Player" "LiarMaps$Player" "claims" "[I") ∈ lw_all := lw_g (lw_at lw_m1 105 rfl) rfl
theorem q182 : (Jvm.Cond.soleField "LiarMaps$Player" "claims") ∈ lw_all := lw_g (lw_at lw_m1 106 rfl) rfl
theorem q183 : (Jvm.Cond.lays "LiarMaps$Player" "LiarMaps$Player" "purse" "I") ∈ lw_all := lw_g (lw_at lw_m1 107 rfl) rfl
theorem q184 : (Jvm.Cond.soleField "LiarMaps$Player" "purse") ∈ lw_all := lw_g (lw_at lw_m1 108 rfl) rfl
theorem q185 : (Jvm.Cond.lays "LiarMaps$Player" "LiarMaps$Player" "lies" "I") ∈ lw_all := lw_g (lw_at lw_m1 109 rfl) rfl
theorem q186 : (Jvm.Cond.soleField "LiarMaps$Player" "lies") ∈ lw_all := lw_g (lw_at lw_m1 110 rfl) rfl
theorem q187 : (Jvm.Cond.lays "LiarMaps$Player" "LiarMaps$Player" "checks" "I") ∈ lw_all := lw_g (lw_at lw_m1 111 rfl) rfl
theorem q188 : (Jvm.Cond.soleField "LiarMaps$Player" "checks") ∈ lw_all := lw_g (lw_at lw_m1 112 rfl) rfl
theorem q189 : (Jvm.Cond.lays "LiarMaps$Player" "LiarMaps$Player" "found" "I") ∈ lw_all := lw_g (lw_at lw_m1 113 rfl) rfl
theorem q190 : (Jvm.Cond.soleField "LiarMaps$Player" "found") ∈ lw_all := lw_g (lw_at lw_m1 114 rfl) rfl
theorem q191 : (Jvm.Cond.lays "LiarMaps$Player" "LiarMaps$Player" "digs" "I") ∈ lw_all := lw_g (lw_at lw_m1 115 rfl) rfl
theorem q192 : (Jvm.Cond.soleField "LiarMaps$Player" "digs") ∈ lw_all := lw_g (lw_at lw_m1 116 rfl) rfl
theorem q193 : (Jvm.Cond.superclass "LiarMaps$Player" "java/lang/Object") ∈ lw_all := lw_g (lw_at lw_m1 117 rfl) rfl
theorem q461 : (Jvm.Cond.instanceMethod ({ cls := "LiarMaps$Player", name := "copy", desc := "()LLiarMaps$Player;" } : Jvm.MethodName)) ∈ lw_all := lw_g (lw_at lw_m2 145 rfl) rfl
theorem q462 : (Jvm.Cond.selects "LiarMaps$Player" ({ cls := "LiarMaps$Player", name := "copy", desc := "()LLiarMaps$Player;" } : Jvm.MethodName) ({ cls := "LiarMaps$Player", name := "copy", desc := "()LLiarMaps$Player;" } : Jvm.MethodName)) ∈ lw_all := lw_g (lw_at lw_m2 146 rfl) rfl
theorem q463 : (Jvm.Cond.code ({ cls := "LiarMaps$Player", name := "copy", desc := "()LLiarMaps$Player;" } : Jvm.MethodName) prog_5_method_2_code (2 : Nat) (Option.some (Jvm.ClassFile.FieldType.object "LiarMaps$Player"))) ∈ lw_all := lw_g (lw_at lw_m2 147 rfl) rfl
theorem q464 : (Jvm.Cond.classLink "LiarMaps$Player" (10 : Nat) "LiarMaps$Player") ∈ lw_all := lw_g (lw_at lw_m2 148 rfl) rfl
theorem q465 : (Jvm.Cond.methodLink "LiarMaps$Player" (19 : Nat) ({ cls := "LiarMaps$Player", name := "<init>", desc := "()V" } : Jvm.MethodName)) ∈ lw_all := lw_g (lw_at lw_m2 149 rfl) rfl
theorem q466 : (Jvm.Cond.methodLink "LiarMaps$Player" (20 : Nat) ({ cls := "java/lang/System", name := "arraycopy", desc := "(Ljava/lang/Object;ILjava/lang/Object;II)V" } : Jvm.MethodName)) ∈ lw_all := lw_g (lw_at lw_m2 150 rfl) rfl
theorem q689 : (Jvm.Cond.selects "LiarMaps$Player" ({ cls := "java/lang/Object", name := "getClass", desc := "()Ljava/lang/Class;" } : Jvm.MethodName) ({ cls := "java/lang/Object", name := "getClass", desc := "()Ljava/lang/Class;" } : Jvm.MethodName)) ∈ lw_all := lw_g (lw_at lw_m3 133 rfl) rfl
theorem q1089 : (Jvm.Cond.instanceMethod ({ cls := "LiarMaps$Player", name := "claimed", desc := "()I" } : Jvm.MethodName)) ∈ lw_all := lw_g (lw_at lw_m5 53 rfl) rfl
theorem q1090 : (Jvm.Cond.selects "LiarMaps$Player" ({ cls := "LiarMaps$Player", name := "claimed", desc := "()I" } : Jvm.MethodName) ({ cls := "LiarMaps$Player", name := "claimed", desc := "()I" } : Jvm.MethodName)) ∈ lw_all := lw_g (lw_at lw_m5 54 rfl) rfl
theorem q1091 : (Jvm.Cond.code ({ cls := "LiarMaps$Player", name := "claimed", desc := "()I" } : Jvm.MethodName) prog_5_method_3_code (6 : Nat) (Option.some Jvm.ClassFile.FieldType.int)) ∈ lw_all := lw_g (lw_at lw_m5 55 rfl) rfl
theorem q1113 : (Jvm.Cond.instanceMethod ({ cls := "LiarMaps$Player", name := "pay", desc := "(LLiarMaps$Player;I)V" } : Jvm.MethodName)) ∈ lw_all := lw_g (lw_at lw_m5 77 rfl) rfl
theorem q1114 : (Jvm.Cond.selects "LiarMaps$Player" ({ cls := "LiarMaps$Player", name := "pay", desc := "(LLiarMaps$Player;I)V" } : Jvm.MethodName) ({ cls := "LiarMaps$Player", name := "pay", desc := "(LLiarMaps$Player;I)V" } : Jvm.MethodName)) ∈ lw_all := lw_g (lw_at lw_m5 78 rfl) rfl
theorem q1115 : (Jvm.Cond.code ({ cls := "LiarMaps$Player", name := "pay", desc := "(LLiarMaps$Player;I)V" } : Jvm.MethodName) prog_5_method_5_code (4 : Nat) (Option.none : Option Jvm.ClassFile.FieldType)) ∈ lw_all := lw_g (lw_at lw_m5 79 rfl) rfl
theorem q1116 : (Jvm.Cond.methodLink "LiarMaps$Player" (38 : Nat) ({ cls := "java/lang/Math", name := "min", desc := "(II)I" } : Jvm.MethodName)) ∈ lw_all := lw_g (lw_at lw_m5 80 rfl) rfl
theorem q1117 : (Jvm.Cond.methodLink "LiarMaps$Player" (44 : Nat) ({ cls := "LiarMaps$Player", name := "get", desc := "(I)V" } : Jvm.MethodName)) ∈ lw_all := lw_g (lw_at lw_m5 81 rfl) rfl
theorem q1118 : (Jvm.Cond.instanceMethod ({ cls := "LiarMaps$Player", name := "get", desc := "(I)V" } : Jvm.MethodName)) ∈ lw_all := lw_g (lw_at lw_m5 82 rfl) rfl
theorem q1119 : (Jvm.Cond.selects "LiarMaps$Player" ({ cls := "LiarMaps$Player", name := "get", desc := "(I)V" } : Jvm.MethodName) ({ cls := "LiarMaps$Player", name := "get", desc := "(I)V" } : Jvm.MethodName)) ∈ lw_all := lw_g (lw_at lw_m5 83 rfl) rfl
theorem q1120 : (Jvm.Cond.code ({ cls := "LiarMaps$Player", name := "get", desc := "(I)V" } : Jvm.MethodName) prog_5_method_4_code (2 : Nat) (Option.none : Option Jvm.ClassFile.FieldType)) ∈ lw_all := lw_g (lw_at lw_m5 84 rfl) rfl
theorem q2034 : (Jvm.Cond.castable "LiarMaps$Player" "java/lang/Object") ∈ lw_tbl := lw_at lw_m9 38 rfl
theorem in_X2 : ∀ w ∈ wsX20, w ∈ lw_all := lw_in wsX20 [181, 183, 185, 187, 189, 191] (by decide +kernel) (by decide +kernel)
/-! LiarMaps$Digging -/
set_option maxRecDepth 100000
def RX4 : String := "LiarMaps$Digging"
def TX4 : u_T := fun k => match k with
  | 0 => ("LiarMaps$Digging", "place", "I", true)
  | _ => ("LiarMaps$Digging", "distance", "I", true)
def tyX4 : Nat → FieldType := fun k => match k with
  | 0 => .int
  | _ => .int
abbrev wsX40 : List Cond := u_ws RX4 TX4 2
theorem nmX4 : ∀ a, a < 2 → ∀ b, b < 2 → a ≠ b → (TX4 a).2.1 ≠ (TX4 b).2.1 := by decide +kernel
theorem tyX4_ok : ∀ k, k < 2 → parseFieldDescriptor (TX4 k).2.2.1 = some (tyX4 k) := by decide +kernel
abbrev cX4_init : ByteArray := prog_3_method_1_code
def yX4_init : MethodName := ⟨RX4, "<init>", "(II)V"⟩
def dkwX4_init_0 : List UInt8 := [42, 183, 0, 1, 42, 27, 181, 0, 7, 42, 28, 181, 0, 13, 177]
abbrev dktX4_init_0 : List UInt8 := dkwX4_init_0 ++ []
theorem dksX4_init_0 : cX4_init.data.toList.drop 0 = dktX4_init_0 := by decide +kernel
theorem dX4_init_0 : decode cX4_init 0 = .ok (.aload_n 0, 1) := dk_42 (dk_at dksX4_init_0 0 rfl rfl)
theorem dX4_init_1 : decode cX4_init 1 = .ok (.invokespecial 1, 3) := dk_183 0 1 (dk_at dksX4_init_0 1 rfl rfl)
theorem dX4_init_4 : decode cX4_init 4 = .ok (.aload_n 0, 1) := dk_42 (dk_at dksX4_init_0 4 rfl rfl)
theorem dX4_init_5 : decode cX4_init 5 = .ok (.iload_n 1, 1) := dk_27 (dk_at dksX4_init_0 5 rfl rfl)
theorem dX4_init_6 : decode cX4_init 6 = .ok (.putfield 7, 3) := dk_181 0 7 (dk_at dksX4_init_0 6 rfl rfl)
theorem dX4_init_9 : decode cX4_init 9 = .ok (.aload_n 0, 1) := dk_42 (dk_at dksX4_init_0 9 rfl rfl)
theorem dX4_init_10 : decode cX4_init 10 = .ok (.iload_n 2, 1) := dk_28 (dk_at dksX4_init_0 10 rfl rfl)
theorem dX4_init_11 : decode cX4_init 11 = .ok (.putfield 13, 3) := dk_181 0 13 (dk_at dksX4_init_0 11 rfl rfl)
theorem dX4_init_14 : decode cX4_init 14 = .ok (.return_, 1) := dk_177 (dk_at dksX4_init_0 14 rfl rfl)
theorem q112 : (Jvm.Cond.initialized "LiarMaps$Digging") ∈ lw_all := lw_g (lw_at lw_m1 36 rfl) rfl
theorem q687 : (Jvm.Cond.selects "LiarMaps$Digging" ({ cls := "java/lang/Object", name := "getClass", desc := "()Ljava/lang/Class;" } : Jvm.MethodName) ({ cls := "java/lang/Object", name := "getClass", desc := "()Ljava/lang/Class;" } : Jvm.MethodName)) ∈ lw_all := lw_g (lw_at lw_m3 131 rfl) rfl
theorem q1197 : (Jvm.Cond.instantiable "LiarMaps$Digging" (2 : Nat)) ∈ lw_all := lw_g (lw_at lw_m5 161 rfl) rfl
theorem q1199 : (Jvm.Cond.instanceMethod ({ cls := "LiarMaps$Digging", name := "<init>", desc := "(II)V" } : Jvm.MethodName)) ∈ lw_all := lw_g (lw_at lw_m5 163 rfl) rfl
theorem q1200 : (Jvm.Cond.code ({ cls := "LiarMaps$Digging", name := "<init>", desc := "(II)V" } : Jvm.MethodName) prog_3_method_1_code (3 : Nat) (Option.none : Option Jvm.ClassFile.FieldType)) ∈ lw_all := lw_g (lw_at lw_m5 164 rfl) rfl
theorem q1201 : (Jvm.Cond.methodLink "LiarMaps$Digging" (1 : Nat) ({ cls := "java/lang/Object", name := "<init>", desc := "()V" } : Jvm.MethodName)) ∈ lw_all := lw_g (lw_at lw_m5 165 rfl) rfl
theorem q1202 : (Jvm.Cond.fieldLink "LiarMaps$Digging" (7 : Nat) "LiarMaps$Digging" "place" "I") ∈ lw_all := lw_g (lw_at lw_m5 166 rfl) rfl
theorem q1205 : (Jvm.Cond.fieldLink "LiarMaps$Digging" (13 : Nat) "LiarMaps$Digging" "distance" "I") ∈ lw_all := lw_g (lw_at lw_m5 169 rfl) rfl
theorem q1207 : (Jvm.Cond.laysFinal "LiarMaps$Digging" "LiarMaps$Digging" "place" "I") ∈ lw_all := lw_g (lw_at lw_m5 171 rfl) rfl
theorem q1208 : (Jvm.Cond.soleField "LiarMaps$Digging" "place") ∈ lw_all := lw_g (lw_at lw_m5 172 rfl) rfl
theorem q1209 : (Jvm.Cond.laysFinal "LiarMaps$Digging" "LiarMaps$Digging" "distance" "I") ∈ lw_all := lw_g (lw_at lw_m5 173 rfl) rfl
theorem q1210 : (Jvm.Cond.soleField "LiarMaps$Digging" "distance") ∈ lw_all := lw_g (lw_at lw_m5 174 rfl) rfl
theorem q1211 : (Jvm.Cond.superclass "LiarMaps$Digging" "java/lang/Object") ∈ lw_all := lw_g (lw_at lw_m5 175 rfl) rfl
theorem q2048 : (Jvm.Cond.castable "LiarMaps$Digging" "java/lang/Object") ∈ lw_tbl := lw_at lw_m9 52 rfl
theorem in_X4 : ∀ w ∈ wsX40, w ∈ lw_all := lw_in wsX40 [1207, 1209] (by decide +kernel) (by decide +kernel)
/-! LiarMaps$Reader -/
set_option maxRecDepth 100000
def RX5 : String := "LiarMaps$Reader"
def TX5 : u_T := fun k => match k with
  | 0 => ("LiarMaps$Reader", "orders", "Ljava/util/List;", true)
  | 1 => ("LiarMaps$Reader", "spot", "I", false)
  | 2 => ("LiarMaps$Reader", "isWrong", "Z", false)
  | _ => ("LiarMaps$Reader", "this$0", "LLiarMaps;", true)
def tyX5 : Nat → FieldType := fun k => match k with
  | 0 => .object "java/util/List"
  | 1 => .int
  | 2 => .boolean
  | _ => .object "LiarMaps"
abbrev wsX50 : List Cond := u_ws RX5 TX5 4
theorem nmX5 : ∀ a, a < 4 → ∀ b, b < 4 → a ≠ b → (TX5 a).2.1 ≠ (TX5 b).2.1 := by decide +kernel
theorem tyX5_ok : ∀ k, k < 4 → parseFieldDescriptor (TX5 k).2.2.1 = some (tyX5 k) := by decide +kernel
abbrev cX5_init : ByteArray := prog_6_method_1_code
def yX5_init : MethodName := ⟨RX5, "<init>", "(LLiarMaps;)V"⟩
def dkwX5_init_3 : List UInt8 := [42, 180, 0, 23, 153, 0, 7, 3, 167, 0, 4, 4, 96, 181, 0, 27, 42, 182, 0, 20, 167, 255, 188, 177]
abbrev dktX5_init_3 : List UInt8 := dkwX5_init_3 ++ []
def dkwX5_init_2 : List UInt8 := [180, 0, 27, 182, 0, 43, 16, 59, 159, 0, 7, 4, 167, 0, 4, 3, 181, 0, 23, 42, 89, 180, 0, 27]
abbrev dktX5_init_2 : List UInt8 := dkwX5_init_2 ++ dktX5_init_3
def dkwX5_init_1 : List UInt8 := [42, 180, 0, 23, 154, 0, 67, 42, 180, 0, 27, 43, 180, 0, 31, 182, 0, 37, 162, 0, 53, 42, 42, 42]
abbrev dktX5_init_1 : List UInt8 := dkwX5_init_1 ++ dktX5_init_2
def dkwX5_init_0 : List UInt8 := [42, 43, 181, 0, 1, 42, 183, 0, 7, 42, 187, 0, 13, 89, 183, 0, 15, 181, 0, 16, 42, 182, 0, 20]
abbrev dktX5_init_0 : List UInt8 := dkwX5_init_0 ++ dktX5_init_1
theorem dksX5_init_0 : cX5_init.data.toList.drop 0 = dktX5_init_0 := by decide +kernel
theorem dksX5_init_1 : cX5_init.data.toList.drop 24 = dktX5_init_1 := dk_seg dksX5_init_0 24 rfl rfl
theorem dksX5_init_2 : cX5_init.data.toList.drop 48 = dktX5_init_2 := dk_seg dksX5_init_1 24 rfl rfl
theorem dksX5_init_3 : cX5_init.data.toList.drop 72 = dktX5_init_3 := dk_seg dksX5_init_2 24 rfl rfl
theorem dX5_init_0 : decode cX5_init 0 = .ok (.aload_n 0, 1) := dk_42 (dk_at dksX5_init_0 0 rfl rfl)
theorem dX5_init_1 : decode cX5_init 1 = .ok (.aload_n 1, 1) := dk_43 (dk_at dksX5_init_0 1 rfl rfl)
theorem dX5_init_2 : decode cX5_init 2 = .ok (.putfield 1, 3) := dk_181 0 1 (dk_at dksX5_init_0 2 rfl rfl)
theorem dX5_init_5 : decode cX5_init 5 = .ok (.aload_n 0, 1) := dk_42 (dk_at dksX5_init_0 5 rfl rfl)
theorem dX5_init_6 : decode cX5_init 6 = .ok (.invokespecial 7, 3) := dk_183 0 7 (dk_at dksX5_init_0 6 rfl rfl)
theorem dX5_init_9 : decode cX5_init 9 = .ok (.aload_n 0, 1) := dk_42 (dk_at dksX5_init_0 9 rfl rfl)
theorem dX5_init_10 : decode cX5_init 10 = .ok (.new 13, 3) := dk_187 0 13 (dk_at dksX5_init_0 10 rfl rfl)
theorem dX5_init_13 : decode cX5_init 13 = .ok (.dup, 1) := dk_89 (dk_at dksX5_init_0 13 rfl rfl)
theorem dX5_init_14 : decode cX5_init 14 = .ok (.invokespecial 15, 3) := dk_183 0 15 (dk_at dksX5_init_0 14 rfl rfl)
theorem dX5_init_17 : decode cX5_init 17 = .ok (.putfield 16, 3) := dk_181 0 16 (dk_at dksX5_init_0 17 rfl rfl)
theorem dX5_init_20 : decode cX5_init 20 = .ok (.aload_n 0, 1) := dk_42 (dk_at dksX5_init_0 20 rfl rfl)
theorem dX5_init_21 : decode cX5_init 21 = .ok (.invokevirtual 20, 3) := dk_182 0 20 (dk_at dksX5_init_0 21 rfl rfl)
theorem dX5_init_24 : decode cX5_init 24 = .ok (.aload_n 0, 1) := dk_42 (dk_at dksX5_init_1 0 rfl rfl)
theorem dX5_init_25 : decode cX5_init 25 = .ok (.getfield 23, 3) := dk_180 0 23 (dk_at dksX5_init_1 1 rfl rfl)
theorem dX5_init_28 : decode cX5_init 28 = .ok (.ifCond .ne 67, 3) := dk_154 0 67 (dk_at dksX5_init_1 4 rfl rfl)
theorem dX5_init_31 : decode cX5_init 31 = .ok (.aload_n 0, 1) := dk_42 (dk_at dksX5_init_1 7 rfl rfl)
theorem dX5_init_32 : decode cX5_init 32 = .ok (.getfield 27, 3) := dk_180 0 27 (dk_at dksX5_init_1 8 rfl rfl)
theorem dX5_init_35 : decode cX5_init 35 = .ok (.aload_n 1, 1) := dk_43 (dk_at dksX5_init_1 11 rfl rfl)
theorem dX5_init_36 : decode cX5_init 36 = .ok (.getfield 31, 3) := dk_180 0 31 (dk_at dksX5_init_1 12 rfl rfl)
theorem dX5_init_39 : decode cX5_init 39 = .ok (.invokevirtual 37, 3) := dk_182 0 37 (dk_at dksX5_init_1 15 rfl rfl)
theorem dX5_init_42 : decode cX5_init 42 = .ok (.if_icmp .ge 53, 3) := dk_162 0 53 (dk_at dksX5_init_1 18 rfl rfl)
theorem dX5_init_45 : decode cX5_init 45 = .ok (.aload_n 0, 1) := dk_42 (dk_at dksX5_init_1 21 rfl rfl)
theorem dX5_init_46 : decode cX5_init 46 = .ok (.aload_n 0, 1) := dk_42 (dk_at dksX5_init_1 22 rfl rfl)
theorem dX5_init_47 : decode cX5_init 47 = .ok (.aload_n 0, 1) := dk_42 (dk_at dksX5_init_1 23 rfl rfl)
theorem dX5_init_48 : decode cX5_init 48 = .ok (.getfield 27, 3) := dk_180 0 27 (dk_at dksX5_init_2 0 rfl rfl)
theorem dX5_init_51 : decode cX5_init 51 = .ok (.invokevirtual 43, 3) := dk_182 0 43 (dk_at dksX5_init_2 3 rfl rfl)
theorem dX5_init_54 : decode cX5_init 54 = .ok (.bipush 59, 2) := dk_16 59 (dk_at dksX5_init_2 6 rfl rfl)
theorem dX5_init_56 : decode cX5_init 56 = .ok (.if_icmp .eq 7, 3) := dk_159 0 7 (dk_at dksX5_init_2 8 rfl rfl)
theorem dX5_init_59 : decode cX5_init 59 = .ok (.iconst 1, 1) := dk_4 (dk_at dksX5_init_2 11 rfl rfl)
theorem dX5_init_60 : decode cX5_init 60 = .ok (.goto 4, 3) := dk_167 0 4 (dk_at dksX5_init_2 12 rfl rfl)
theorem dX5_init_63 : decode cX5_init 63 = .ok (.iconst 0, 1) := dk_3 (dk_at dksX5_init_2 15 rfl rfl)
theorem dX5_init_64 : decode cX5_init 64 = .ok (.putfield 23, 3) := dk_181 0 23 (dk_at dksX5_init_2 16 rfl rfl)
theorem dX5_init_67 : decode cX5_init 67 = .ok (.aload_n 0, 1) := dk_42 (dk_at dksX5_init_2 19 rfl rfl)
theorem dX5_init_68 : decode cX5_init 68 = .ok (.dup, 1) := dk_89 (dk_at dksX5_init_2 20 rfl rfl)
theorem dX5_init_69 : decode cX5_init 69 = .ok (.getfield 27, 3) := dk_180 0 27 (dk_at dksX5_init_2 21 rfl rfl)
theorem dX5_init_72 : decode cX5_init 72 = .ok (.aload_n 0, 1) := dk_42 (dk_at dksX5_init_3 0 rfl rfl)
theorem dX5_init_73 : decode cX5_init 73 = .ok (.getfield 23, 3) := dk_180 0 23 (dk_at dksX5_init_3 1 rfl rfl)
theorem dX5_init_76 : decode cX5_init 76 = .ok (.ifCond .eq 7, 3) := dk_153 0 7 (dk_at dksX5_init_3 4 rfl rfl)
theorem dX5_init_79 : decode cX5_init 79 = .ok (.iconst 0, 1) := dk_3 (dk_at dksX5_init_3 7 rfl rfl)
theorem dX5_init_80 : decode cX5_init 80 = .ok (.goto 4, 3) := dk_167 0 4 (dk_at dksX5_init_3 8 rfl rfl)
theorem dX5_init_83 : decode cX5_init 83 = .ok (.iconst 1, 1) := dk_4 (dk_at dksX5_init_3 11 rfl rfl)
theorem dX5_init_84 : decode cX5_init 84 = .ok (.iadd, 1) := dk_96 (dk_at dksX5_init_3 12 rfl rfl)
theorem dX5_init_85 : decode cX5_init 85 = .ok (.putfield 27, 3) := dk_181 0 27 (dk_at dksX5_init_3 13 rfl rfl)
theorem dX5_init_88 : decode cX5_init 88 = .ok (.aload_n 0, 1) := dk_42 (dk_at dksX5_init_3 16 rfl rfl)
theorem dX5_init_89 : decode cX5_init 89 = .ok (.invokevirtual 20, 3) := dk_182 0 20 (dk_at dksX5_init_3 17 rfl rfl)
theorem dX5_init_92 : decode cX5_init 92 = .ok (.goto (-68), 3) := dk_167 255 188 (dk_at dksX5_init_3 20 rfl rfl)
theorem dX5_init_95 : decode cX5_init 95 = .ok (.return_, 1) := dk_177 (dk_at dksX5_init_3 23 rfl rfl)
abbrev cX5_readOrder : ByteArray := prog_6_method_6_code
def yX5_readOrder : MethodName := ⟨RX5, "readOrder", "()V"⟩
def dkwX5_readOrder_3 : List UInt8 := [182, 0, 97, 185, 0, 101, 2, 0, 87, 177]
abbrev dktX5_readOrder_3 : List UInt8 := dkwX5_readOrder_3 ++ []
def dkwX5_readOrder_2 : List UInt8 := [180, 0, 23, 154, 0, 28, 42, 89, 180, 0, 27, 4, 96, 181, 0, 27, 42, 180, 0, 16, 42, 43]
abbrev dktX5_readOrder_2 : List UInt8 := dkwX5_readOrder_2 ++ dktX5_readOrder_3
def dkwX5_readOrder_1 : List UInt8 := [42, 42, 180, 0, 23, 154, 0, 10, 43, 182, 0, 93, 153, 0, 7, 4, 167, 0, 4, 3, 181, 0, 23, 42]
abbrev dktX5_readOrder_1 : List UInt8 := dkwX5_readOrder_1 ++ dktX5_readOrder_2
def dkwX5_readOrder_0 : List UInt8 := [42, 180, 0, 23, 153, 0, 8, 18, 87, 167, 0, 14, 42, 42, 180, 0, 27, 182, 0, 43, 184, 0, 89, 76]
abbrev dktX5_readOrder_0 : List UInt8 := dkwX5_readOrder_0 ++ dktX5_readOrder_1
theorem dksX5_readOrder_0 : cX5_readOrder.data.toList.drop 0 = dktX5_readOrder_0 := by decide +kernel
theorem dksX5_readOrder_1 : cX5_readOrder.data.toList.drop 24 = dktX5_readOrder_1 := dk_seg dksX5_readOrder_0 24 rfl rfl
theorem dksX5_readOrder_2 : cX5_readOrder.data.toList.drop 48 = dktX5_readOrder_2 := dk_seg dksX5_readOrder_1 24 rfl rfl
theorem dksX5_readOrder_3 : cX5_readOrder.data.toList.drop 70 = dktX5_readOrder_3 := dk_seg dksX5_readOrder_2 22 rfl rfl
theorem dX5_readOrder_0 : decode cX5_readOrder 0 = .ok (.aload_n 0, 1) := dk_42 (dk_at dksX5_readOrder_0 0 rfl rfl)
theorem dX5_readOrder_1 : decode cX5_readOrder 1 = .ok (.getfield 23, 3) := dk_180 0 23 (dk_at dksX5_readOrder_0 1 rfl rfl)
theorem dX5_readOrder_4 : decode cX5_readOrder 4 = .ok (.ifCond .eq 8, 3) := dk_153 0 8 (dk_at dksX5_readOrder_0 4 rfl rfl)
theorem dX5_readOrder_7 : decode cX5_readOrder 7 = .ok (.ldc 87, 2) := dk_18 87 (dk_at dksX5_readOrder_0 7 rfl rfl)
theorem dX5_readOrder_9 : decode cX5_readOrder 9 = .ok (.goto 14, 3) := dk_167 0 14 (dk_at dksX5_readOrder_0 9 rfl rfl)
theorem dX5_readOrder_12 : decode cX5_readOrder 12 = .ok (.aload_n 0, 1) := dk_42 (dk_at dksX5_readOrder_0 12 rfl rfl)
theorem dX5_readOrder_13 : decode cX5_readOrder 13 = .ok (.aload_n 0, 1) := dk_42 (dk_at dksX5_readOrder_0 13 rfl rfl)
theorem dX5_readOrder_14 : decode cX5_readOrder 14 = .ok (.getfield 27, 3) := dk_180 0 27 (dk_at dksX5_readOrder_0 14 rfl rfl)
theorem dX5_readOrder_17 : decode cX5_readOrder 17 = .ok (.invokevirtual 43, 3) := dk_182 0 43 (dk_at dksX5_readOrder_0 17 rfl rfl)
theorem dX5_readOrder_20 : decode cX5_readOrder 20 = .ok (.invokestatic 89, 3) := dk_184 0 89 (dk_at dksX5_readOrder_0 20 rfl rfl)
theorem dX5_readOrder_23 : decode cX5_readOrder 23 = .ok (.astore_n 1, 1) := dk_76 (dk_at dksX5_readOrder_0 23 rfl rfl)
theorem dX5_readOrder_24 : decode cX5_readOrder 24 = .ok (.aload_n 0, 1) := dk_42 (dk_at dksX5_readOrder_1 0 rfl rfl)
theorem dX5_readOrder_25 : decode cX5_readOrder 25 = .ok (.aload_n 0, 1) := dk_42 (dk_at dksX5_readOrder_1 1 rfl rfl)
theorem dX5_readOrder_26 : decode cX5_readOrder 26 = .ok (.getfield 23, 3) := dk_180 0 23 (dk_at dksX5_readOrder_1 2 rfl rfl)
theorem dX5_readOrder_29 : decode cX5_readOrder 29 = .ok (.ifCond .ne 10, 3) := dk_154 0 10 (dk_at dksX5_readOrder_1 5 rfl rfl)
theorem dX5_readOrder_32 : decode cX5_readOrder 32 = .ok (.aload_n 1, 1) := dk_43 (dk_at dksX5_readOrder_1 8 rfl rfl)
theorem dX5_readOrder_33 : decode cX5_readOrder 33 = .ok (.invokevirtual 93, 3) := dk_182 0 93 (dk_at dksX5_readOrder_1 9 rfl rfl)
theorem dX5_readOrder_36 : decode cX5_readOrder 36 = .ok (.ifCond .eq 7, 3) := dk_153 0 7 (dk_at dksX5_readOrder_1 12 rfl rfl)
theorem dX5_readOrder_39 : decode cX5_readOrder 39 = .ok (.iconst 1, 1) := dk_4 (dk_at dksX5_readOrder_1 15 rfl rfl)
theorem dX5_readOrder_40 : decode cX5_readOrder 40 = .ok (.goto 4, 3) := dk_167 0 4 (dk_at dksX5_readOrder_1 16 rfl rfl)
theorem dX5_readOrder_43 : decode cX5_readOrder 43 = .ok (.iconst 0, 1) := dk_3 (dk_at dksX5_readOrder_1 19 rfl rfl)
theorem dX5_readOrder_44 : decode cX5_readOrder 44 = .ok (.putfield 23, 3) := dk_181 0 23 (dk_at dksX5_readOrder_1 20 rfl rfl)
theorem dX5_readOrder_47 : decode cX5_readOrder 47 = .ok (.aload_n 0, 1) := dk_42 (dk_at dksX5_readOrder_1 23 rfl rfl)
theorem dX5_readOrder_48 : decode cX5_readOrder 48 = .ok (.getfield 23, 3) := dk_180 0 23 (dk_at dksX5_readOrder_2 0 rfl rfl)
theorem dX5_readOrder_51 : decode cX5_readOrder 51 = .ok (.ifCond .ne 28, 3) := dk_154 0 28 (dk_at dksX5_readOrder_2 3 rfl rfl)
theorem dX5_readOrder_54 : decode cX5_readOrder 54 = .ok (.aload_n 0, 1) := dk_42 (dk_at dksX5_readOrder_2 6 rfl rfl)
theorem dX5_readOrder_55 : decode cX5_readOrder 55 = .ok (.dup, 1) := dk_89 (dk_at dksX5_readOrder_2 7 rfl rfl)
theorem dX5_readOrder_56 : decode cX5_readOrder 56 = .ok (.getfield 27, 3) := dk_180 0 27 (dk_at dksX5_readOrder_2 8 rfl rfl)
theorem dX5_readOrder_59 : decode cX5_readOrder 59 = .ok (.iconst 1, 1) := dk_4 (dk_at dksX5_readOrder_2 11 rfl rfl)
theorem dX5_readOrder_60 : decode cX5_readOrder 60 = .ok (.iadd, 1) := dk_96 (dk_at dksX5_readOrder_2 12 rfl rfl)
theorem dX5_readOrder_61 : decode cX5_readOrder 61 = .ok (.putfield 27, 3) := dk_181 0 27 (dk_at dksX5_readOrder_2 13 rfl rfl)
theorem dX5_readOrder_64 : decode cX5_readOrder 64 = .ok (.aload_n 0, 1) := dk_42 (dk_at dksX5_readOrder_2 16 rfl rfl)
theorem dX5_readOrder_65 : decode cX5_readOrder 65 = .ok (.getfield 16, 3) := dk_180 0 16 (dk_at dksX5_readOrder_2 17 rfl rfl)
theorem dX5_readOrder_68 : decode cX5_readOrder 68 = .ok (.aload_n 0, 1) := dk_42 (dk_at dksX5_readOrder_2 20 rfl rfl)
theorem dX5_readOrder_69 : decode cX5_readOrder 69 = .ok (.aload_n 1, 1) := dk_43 (dk_at dksX5_readOrder_2 21 rfl rfl)
theorem dX5_readOrder_70 : decode cX5_readOrder 70 = .ok (.invokevirtual 97, 3) := dk_182 0 97 (dk_at dksX5_readOrder_3 0 rfl rfl)
theorem dX5_readOrder_73 : decode cX5_readOrder 73 = .ok (.invokeinterface 101 2, 5) := by decide +kernel
theorem dX5_readOrder_78 : decode cX5_readOrder 78 = .ok (.pop, 1) := dk_87 (dk_at dksX5_readOrder_3 8 rfl rfl)
theorem dX5_readOrder_79 : decode cX5_readOrder 79 = .ok (.return_, 1) := dk_177 (dk_at dksX5_readOrder_3 9 rfl rfl)
abbrev cX5_text : ByteArray := prog_6_method_2_code
def yX5_text : MethodName := ⟨RX5, "text", "()Ljava/lang/CharSequence;"⟩
def dkwX5_text_0 : List UInt8 := [42, 180, 0, 1, 180, 0, 31, 176]
abbrev dktX5_text_0 : List UInt8 := dkwX5_text_0 ++ []
theorem dksX5_text_0 : cX5_text.data.toList.drop 0 = dktX5_text_0 := by decide +kernel
theorem dX5_text_0 : decode cX5_text 0 = .ok (.aload_n 0, 1) := dk_42 (dk_at dksX5_text_0 0 rfl rfl)
theorem dX5_text_1 : decode cX5_text 1 = .ok (.getfield 1, 3) := dk_180 0 1 (dk_at dksX5_text_0 1 rfl rfl)
theorem dX5_text_4 : decode cX5_text 4 = .ok (.getfield 31, 3) := dk_180 0 31 (dk_at dksX5_text_0 4 rfl rfl)
theorem dX5_text_7 : decode cX5_text 7 = .ok (.areturn, 1) := dk_176 (dk_at dksX5_text_0 7 rfl rfl)
abbrev cX5_order : ByteArray := prog_6_method_5_code
def yX5_order : MethodName := ⟨RX5, "order", "(Ljava/lang/String;)LLiarMaps$Order;"⟩
def dkwX5_order_9 : List UInt8 := [167, 0, 3, 176]
abbrev dktX5_order_9 : List UInt8 := dkwX5_order_9 ++ []
def dkwX5_order_8 : List UInt8 := [54, 4, 42, 182, 0, 79, 54, 5, 187, 0, 74, 89, 43, 21, 4, 21, 5, 42, 182, 0, 79, 183, 0, 76]
abbrev dktX5_order_8 : List UInt8 := dkwX5_order_8 ++ dktX5_order_9
def dkwX5_order_7 : List UInt8 := [3, 183, 0, 76, 167, 0, 47, 43, 18, 82, 182, 0, 64, 153, 0, 10, 42, 182, 0, 84, 167, 0, 4, 3]
abbrev dktX5_order_7 : List UInt8 := dkwX5_order_7 ++ dktX5_order_8
def dkwX5_order_6 : List UInt8 := [187, 0, 74, 89, 43, 3, 3, 3, 183, 0, 76, 167, 0, 64, 187, 0, 74, 89, 43, 3, 42, 182, 0, 79]
abbrev dktX5_order_6 : List UInt8 := dkwX5_order_6 ++ dktX5_order_7
def dkwX5_order_5 : List UInt8 := [170, 0, 0, 0, 0, 61, 0, 0, 0, 0, 0, 0, 0, 3, 0, 0, 0, 30, 0, 0, 0, 30, 0, 0, 0, 44, 0, 0, 0, 44]
abbrev dktX5_order_5 : List UInt8 := dkwX5_order_5 ++ dktX5_order_6
def dkwX5_order_4 : List UInt8 := [153, 0, 5, 6, 62, 29]
abbrev dktX5_order_4 : List UInt8 := dkwX5_order_4 ++ dktX5_order_5
def dkwX5_order_3 : List UInt8 := [62, 167, 0, 28, 44, 18, 70, 182, 0, 64, 153, 0, 19, 5, 62, 167, 0, 14, 44, 18, 72, 182, 0, 64]
abbrev dktX5_order_3 : List UInt8 := dkwX5_order_3 ++ dktX5_order_4
def dkwX5_order_2 : List UInt8 := [44, 18, 62, 182, 0, 64, 153, 0, 47, 3, 62, 167, 0, 42, 44, 18, 68, 182, 0, 64, 153, 0, 33, 4]
abbrev dktX5_order_2 : List UInt8 := dkwX5_order_2 ++ dktX5_order_3
def dkwX5_order_1 : List UInt8 := [171, 0, 0, 0, 0, 0, 0, 97, 0, 0, 0, 4, 0, 1, 132, 130, 0, 0, 0, 86, 0, 52, 100, 17, 0, 0, 0, 58, 5, 148, 120, 169, 0, 0, 0, 44, 82, 117, 34, 175, 0, 0, 0, 72]
abbrev dktX5_order_1 : List UInt8 := dkwX5_order_1 ++ dktX5_order_2
def dkwX5_order_0 : List UInt8 := [43, 77, 2, 62, 44, 182, 0, 57]
abbrev dktX5_order_0 : List UInt8 := dkwX5_order_0 ++ dktX5_order_1
theorem dksX5_order_0 : cX5_order.data.toList.drop 0 = dktX5_order_0 := by decide +kernel
theorem dksX5_order_1 : cX5_order.data.toList.drop 8 = dktX5_order_1 := dk_seg dksX5_order_0 8 rfl rfl
theorem dksX5_order_2 : cX5_order.data.toList.drop 52 = dktX5_order_2 := dk_seg dksX5_order_1 44 rfl rfl
theorem dksX5_order_3 : cX5_order.data.toList.drop 76 = dktX5_order_3 := dk_seg dksX5_order_2 24 rfl rfl
theorem dksX5_order_4 : cX5_order.data.toList.drop 100 = dktX5_order_4 := dk_seg dksX5_order_3 24 rfl rfl
theorem dksX5_order_5 : cX5_order.data.toList.drop 106 = dktX5_order_5 := dk_seg dksX5_order_4 6 rfl rfl
theorem dksX5_order_6 : cX5_order.data.toList.drop 136 = dktX5_order_6 := dk_seg dksX5_order_5 30 rfl rfl
theorem dksX5_order_7 : cX5_order.data.toList.drop 160 = dktX5_order_7 := dk_seg dksX5_order_6 24 rfl rfl
theorem dksX5_order_8 : cX5_order.data.toList.drop 184 = dktX5_order_8 := dk_seg dksX5_order_7 24 rfl rfl
theorem dksX5_order_9 : cX5_order.data.toList.drop 208 = dktX5_order_9 := dk_seg dksX5_order_8 24 rfl rfl
theorem dX5_order_0 : decode cX5_order 0 = .ok (.aload_n 1, 1) := dk_43 (dk_at dksX5_order_0 0 rfl rfl)
theorem dX5_order_1 : decode cX5_order 1 = .ok (.astore_n 2, 1) := dk_77 (dk_at dksX5_order_0 1 rfl rfl)
theorem dX5_order_2 : decode cX5_order 2 = .ok (.iconst (-1), 1) := dk_2 (dk_at dksX5_order_0 2 rfl rfl)
theorem dX5_order_3 : decode cX5_order 3 = .ok (.istore_n 3, 1) := dk_62 (dk_at dksX5_order_0 3 rfl rfl)
theorem dX5_order_4 : decode cX5_order 4 = .ok (.aload_n 2, 1) := dk_44 (dk_at dksX5_order_0 4 rfl rfl)
theorem dX5_order_5 : decode cX5_order 5 = .ok (.invokevirtual 57, 3) := dk_182 0 57 (dk_at dksX5_order_0 5 rfl rfl)
theorem dX5_order_8 : decode cX5_order 8 = .ok (.lookupswitch 97 #[(99458, 86), (3433489, 58), (93616297, 44), (1383408303, 72)], 44) := by decide +kernel
theorem dX5_order_52 : decode cX5_order 52 = .ok (.aload_n 2, 1) := dk_44 (dk_at dksX5_order_2 0 rfl rfl)
theorem dX5_order_53 : decode cX5_order 53 = .ok (.ldc 62, 2) := dk_18 62 (dk_at dksX5_order_2 1 rfl rfl)
theorem dX5_order_55 : decode cX5_order 55 = .ok (.invokevirtual 64, 3) := dk_182 0 64 (dk_at dksX5_order_2 3 rfl rfl)
theorem dX5_order_58 : decode cX5_order 58 = .ok (.ifCond .eq 47, 3) := dk_153 0 47 (dk_at dksX5_order_2 6 rfl rfl)
theorem dX5_order_61 : decode cX5_order 61 = .ok (.iconst 0, 1) := dk_3 (dk_at dksX5_order_2 9 rfl rfl)
theorem dX5_order_62 : decode cX5_order 62 = .ok (.istore_n 3, 1) := dk_62 (dk_at dksX5_order_2 10 rfl rfl)
theorem dX5_order_63 : decode cX5_order 63 = .ok (.goto 42, 3) := dk_167 0 42 (dk_at dksX5_order_2 11 rfl rfl)
theorem dX5_order_66 : decode cX5_order 66 = .ok (.aload_n 2, 1) := dk_44 (dk_at dksX5_order_2 14 rfl rfl)
theorem dX5_order_67 : decode cX5_order 67 = .ok (.ldc 68, 2) := dk_18 68 (dk_at dksX5_order_2 15 rfl rfl)
theorem dX5_order_69 : decode cX5_order 69 = .ok (.invokevirtual 64, 3) := dk_182 0 64 (dk_at dksX5_order_2 17 rfl rfl)
theorem dX5_order_72 : decode cX5_order 72 = .ok (.ifCond .eq 33, 3) := dk_153 0 33 (dk_at dksX5_order_2 20 rfl rfl)
theorem dX5_order_75 : decode cX5_order 75 = .ok (.iconst 1, 1) := dk_4 (dk_at dksX5_order_2 23 rfl rfl)
theorem dX5_order_76 : decode cX5_order 76 = .ok (.istore_n 3, 1) := dk_62 (dk_at dksX5_order_3 0 rfl rfl)
theorem dX5_order_77 : decode cX5_order 77 = .ok (.goto 28, 3) := dk_167 0 28 (dk_at dksX5_order_3 1 rfl rfl)
theorem dX5_order_80 : decode cX5_order 80 = .ok (.aload_n 2, 1) := dk_44 (dk_at dksX5_order_3 4 rfl rfl)
theorem dX5_order_81 : decode cX5_order 81 = .ok (.ldc 70, 2) := dk_18 70 (dk_at dksX5_order_3 5 rfl rfl)
theorem dX5_order_83 : decode cX5_order 83 = .ok (.invokevirtual 64, 3) := dk_182 0 64 (dk_at dksX5_order_3 7 rfl rfl)
theorem dX5_order_86 : decode cX5_order 86 = .ok (.ifCond .eq 19, 3) := dk_153 0 19 (dk_at dksX5_order_3 10 rfl rfl)
theorem dX5_order_89 : decode cX5_order 89 = .ok (.iconst 2, 1) := dk_5 (dk_at dksX5_order_3 13 rfl rfl)
theorem dX5_order_90 : decode cX5_order 90 = .ok (.istore_n 3, 1) := dk_62 (dk_at dksX5_order_3 14 rfl rfl)
theorem dX5_order_91 : decode cX5_order 91 = .ok (.goto 14, 3) := dk_167 0 14 (dk_at dksX5_order_3 15 rfl rfl)
theorem dX5_order_94 : decode cX5_order 94 = .ok (.aload_n 2, 1) := dk_44 (dk_at dksX5_order_3 18 rfl rfl)
theorem dX5_order_95 : decode cX5_order 95 = .ok (.ldc 72, 2) := dk_18 72 (dk_at dksX5_order_3 19 rfl rfl)
theorem dX5_order_97 : decode cX5_order 97 = .ok (.invokevirtual 64, 3) := dk_182 0 64 (dk_at dksX5_order_3 21 rfl rfl)
theorem dX5_order_100 : decode cX5_order 100 = .ok (.ifCond .eq 5, 3) := dk_153 0 5 (dk_at dksX5_order_4 0 rfl rfl)
theorem dX5_order_103 : decode cX5_order 103 = .ok (.iconst 3, 1) := dk_6 (dk_at dksX5_order_4 3 rfl rfl)
theorem dX5_order_104 : decode cX5_order 104 = .ok (.istore_n 3, 1) := dk_62 (dk_at dksX5_order_4 4 rfl rfl)
theorem dX5_order_105 : decode cX5_order 105 = .ok (.iload_n 3, 1) := dk_29 (dk_at dksX5_order_4 5 rfl rfl)
theorem dX5_order_106 : decode cX5_order 106 = .ok (.tableswitch 61 0 3 #[30, 30, 44, 44], 30) := by decide +kernel
theorem dX5_order_136 : decode cX5_order 136 = .ok (.new 74, 3) := dk_187 0 74 (dk_at dksX5_order_6 0 rfl rfl)
theorem dX5_order_139 : decode cX5_order 139 = .ok (.dup, 1) := dk_89 (dk_at dksX5_order_6 3 rfl rfl)
theorem dX5_order_140 : decode cX5_order 140 = .ok (.aload_n 1, 1) := dk_43 (dk_at dksX5_order_6 4 rfl rfl)
theorem dX5_order_141 : decode cX5_order 141 = .ok (.iconst 0, 1) := dk_3 (dk_at dksX5_order_6 5 rfl rfl)
theorem dX5_order_142 : decode cX5_order 142 = .ok (.iconst 0, 1) := dk_3 (dk_at dksX5_order_6 6 rfl rfl)
theorem dX5_order_143 : decode cX5_order 143 = .ok (.iconst 0, 1) := dk_3 (dk_at dksX5_order_6 7 rfl rfl)
theorem dX5_order_144 : decode cX5_order 144 = .ok (.invokespecial 76, 3) := dk_183 0 76 (dk_at dksX5_order_6 8 rfl rfl)
theorem dX5_order_147 : decode cX5_order 147 = .ok (.goto 64, 3) := dk_167 0 64 (dk_at dksX5_order_6 11 rfl rfl)
theorem dX5_order_150 : decode cX5_order 150 = .ok (.new 74, 3) := dk_187 0 74 (dk_at dksX5_order_6 14 rfl rfl)
theorem dX5_order_153 : decode cX5_order 153 = .ok (.dup, 1) := dk_89 (dk_at dksX5_order_6 17 rfl rfl)
theorem dX5_order_154 : decode cX5_order 154 = .ok (.aload_n 1, 1) := dk_43 (dk_at dksX5_order_6 18 rfl rfl)
theorem dX5_order_155 : decode cX5_order 155 = .ok (.iconst 0, 1) := dk_3 (dk_at dksX5_order_6 19 rfl rfl)
theorem dX5_order_156 : decode cX5_order 156 = .ok (.aload_n 0, 1) := dk_42 (dk_at dksX5_order_6 20 rfl rfl)
theorem dX5_order_157 : decode cX5_order 157 = .ok (.invokevirtual 79, 3) := dk_182 0 79 (dk_at dksX5_order_6 21 rfl rfl)
theorem dX5_order_160 : decode cX5_order 160 = .ok (.iconst 0, 1) := dk_3 (dk_at dksX5_order_7 0 rfl rfl)
theorem dX5_order_161 : decode cX5_order 161 = .ok (.invokespecial 76, 3) := dk_183 0 76 (dk_at dksX5_order_7 1 rfl rfl)
theorem dX5_order_164 : decode cX5_order 164 = .ok (.goto 47, 3) := dk_167 0 47 (dk_at dksX5_order_7 4 rfl rfl)
theorem dX5_order_167 : decode cX5_order 167 = .ok (.aload_n 1, 1) := dk_43 (dk_at dksX5_order_7 7 rfl rfl)
theorem dX5_order_168 : decode cX5_order 168 = .ok (.ldc 82, 2) := dk_18 82 (dk_at dksX5_order_7 8 rfl rfl)
theorem dX5_order_170 : decode cX5_order 170 = .ok (.invokevirtual 64, 3) := dk_182 0 64 (dk_at dksX5_order_7 10 rfl rfl)
theorem dX5_order_173 : decode cX5_order 173 = .ok (.ifCond .eq 10, 3) := dk_153 0 10 (dk_at dksX5_order_7 13 rfl rfl)
theorem dX5_order_176 : decode cX5_order 176 = .ok (.aload_n 0, 1) := dk_42 (dk_at dksX5_order_7 16 rfl rfl)
theorem dX5_order_177 : decode cX5_order 177 = .ok (.invokevirtual 84, 3) := dk_182 0 84 (dk_at dksX5_order_7 17 rfl rfl)
theorem dX5_order_180 : decode cX5_order 180 = .ok (.goto 4, 3) := dk_167 0 4 (dk_at dksX5_order_7 20 rfl rfl)
theorem dX5_order_183 : decode cX5_order 183 = .ok (.iconst 0, 1) := dk_3 (dk_at dksX5_order_7 23 rfl rfl)
theorem dX5_order_184 : decode cX5_order 184 = .ok (.istore 4, 2) := dk_54 4 (dk_at dksX5_order_8 0 rfl rfl)
theorem dX5_order_186 : decode cX5_order 186 = .ok (.aload_n 0, 1) := dk_42 (dk_at dksX5_order_8 2 rfl rfl)
theorem dX5_order_187 : decode cX5_order 187 = .ok (.invokevirtual 79, 3) := dk_182 0 79 (dk_at dksX5_order_8 3 rfl rfl)
theorem dX5_order_190 : decode cX5_order 190 = .ok (.istore 5, 2) := dk_54 5 (dk_at dksX5_order_8 6 rfl rfl)
theorem dX5_order_192 : decode cX5_order 192 = .ok (.new 74, 3) := dk_187 0 74 (dk_at dksX5_order_8 8 rfl rfl)
theorem dX5_order_195 : decode cX5_order 195 = .ok (.dup, 1) := dk_89 (dk_at dksX5_order_8 11 rfl rfl)
theorem dX5_order_196 : decode cX5_order 196 = .ok (.aload_n 1, 1) := dk_43 (dk_at dksX5_order_8 12 rfl rfl)
theorem dX5_order_197 : decode cX5_order 197 = .ok (.iload 4, 2) := dk_21 4 (dk_at dksX5_order_8 13 rfl rfl)
theorem dX5_order_199 : decode cX5_order 199 = .ok (.iload 5, 2) := dk_21 5 (dk_at dksX5_order_8 15 rfl rfl)
theorem dX5_order_201 : decode cX5_order 201 = .ok (.aload_n 0, 1) := dk_42 (dk_at dksX5_order_8 17 rfl rfl)
theorem dX5_order_202 : decode cX5_order 202 = .ok (.invokevirtual 79, 3) := dk_182 0 79 (dk_at dksX5_order_8 18 rfl rfl)
theorem dX5_order_205 : decode cX5_order 205 = .ok (.invokespecial 76, 3) := dk_183 0 76 (dk_at dksX5_order_8 21 rfl rfl)
theorem dX5_order_208 : decode cX5_order 208 = .ok (.goto 3, 3) := dk_167 0 3 (dk_at dksX5_order_9 0 rfl rfl)
theorem dX5_order_211 : decode cX5_order 211 = .ok (.areturn, 1) := dk_176 (dk_at dksX5_order_9 3 rfl rfl)
abbrev cX5_place : ByteArray := prog_6_method_4_code
def yX5_place : MethodName := ⟨RX5, "place", "()I"⟩
def dkwX5_place_2 : List UInt8 := [180, 0, 27, 4, 96, 181, 0, 27, 42, 42, 180, 0, 27, 4, 100, 182, 0, 43, 16, 97, 100, 172]
abbrev dktX5_place_2 : List UInt8 := dkwX5_place_2 ++ []
def dkwX5_place_1 : List UInt8 := [154, 0, 7, 4, 167, 0, 4, 3, 181, 0, 23, 42, 180, 0, 23, 153, 0, 5, 3, 172, 42, 89]
abbrev dktX5_place_1 : List UInt8 := dkwX5_place_1 ++ dktX5_place_2
def dkwX5_place_0 : List UInt8 := [42, 42, 180, 0, 23, 154, 0, 21, 42, 42, 180, 0, 27, 182, 0, 43, 16, 97, 16, 104, 184, 0, 53]
abbrev dktX5_place_0 : List UInt8 := dkwX5_place_0 ++ dktX5_place_1
theorem dksX5_place_0 : cX5_place.data.toList.drop 0 = dktX5_place_0 := by decide +kernel
theorem dksX5_place_1 : cX5_place.data.toList.drop 23 = dktX5_place_1 := dk_seg dksX5_place_0 23 rfl rfl
theorem dksX5_place_2 : cX5_place.data.toList.drop 45 = dktX5_place_2 := dk_seg dksX5_place_1 22 rfl rfl
theorem dX5_place_0 : decode cX5_place 0 = .ok (.aload_n 0, 1) := dk_42 (dk_at dksX5_place_0 0 rfl rfl)
theorem dX5_place_1 : decode cX5_place 1 = .ok (.aload_n 0, 1) := dk_42 (dk_at dksX5_place_0 1 rfl rfl)
theorem dX5_place_2 : decode cX5_place 2 = .ok (.getfield 23, 3) := dk_180 0 23 (dk_at dksX5_place_0 2 rfl rfl)
theorem dX5_place_5 : decode cX5_place 5 = .ok (.ifCond .ne 21, 3) := dk_154 0 21 (dk_at dksX5_place_0 5 rfl rfl)
theorem dX5_place_8 : decode cX5_place 8 = .ok (.aload_n 0, 1) := dk_42 (dk_at dksX5_place_0 8 rfl rfl)
theorem dX5_place_9 : decode cX5_place 9 = .ok (.aload_n 0, 1) := dk_42 (dk_at dksX5_place_0 9 rfl rfl)
theorem dX5_place_10 : decode cX5_place 10 = .ok (.getfield 27, 3) := dk_180 0 27 (dk_at dksX5_place_0 10 rfl rfl)
theorem dX5_place_13 : decode cX5_place 13 = .ok (.invokevirtual 43, 3) := dk_182 0 43 (dk_at dksX5_place_0 13 rfl rfl)
theorem dX5_place_16 : decode cX5_place 16 = .ok (.bipush 97, 2) := dk_16 97 (dk_at dksX5_place_0 16 rfl rfl)
theorem dX5_place_18 : decode cX5_place 18 = .ok (.bipush 104, 2) := dk_16 104 (dk_at dksX5_place_0 18 rfl rfl)
theorem dX5_place_20 : decode cX5_place 20 = .ok (.invokestatic 53, 3) := dk_184 0 53 (dk_at dksX5_place_0 20 rfl rfl)
theorem dX5_place_23 : decode cX5_place 23 = .ok (.ifCond .ne 7, 3) := dk_154 0 7 (dk_at dksX5_place_1 0 rfl rfl)
theorem dX5_place_26 : decode cX5_place 26 = .ok (.iconst 1, 1) := dk_4 (dk_at dksX5_place_1 3 rfl rfl)
theorem dX5_place_27 : decode cX5_place 27 = .ok (.goto 4, 3) := dk_167 0 4 (dk_at dksX5_place_1 4 rfl rfl)
theorem dX5_place_30 : decode cX5_place 30 = .ok (.iconst 0, 1) := dk_3 (dk_at dksX5_place_1 7 rfl rfl)
theorem dX5_place_31 : decode cX5_place 31 = .ok (.putfield 23, 3) := dk_181 0 23 (dk_at dksX5_place_1 8 rfl rfl)
theorem dX5_place_34 : decode cX5_place 34 = .ok (.aload_n 0, 1) := dk_42 (dk_at dksX5_place_1 11 rfl rfl)
theorem dX5_place_35 : decode cX5_place 35 = .ok (.getfield 23, 3) := dk_180 0 23 (dk_at dksX5_place_1 12 rfl rfl)
theorem dX5_place_38 : decode cX5_place 38 = .ok (.ifCond .eq 5, 3) := dk_153 0 5 (dk_at dksX5_place_1 15 rfl rfl)
theorem dX5_place_41 : decode cX5_place 41 = .ok (.iconst 0, 1) := dk_3 (dk_at dksX5_place_1 18 rfl rfl)
theorem dX5_place_42 : decode cX5_place 42 = .ok (.ireturn, 1) := dk_172 (dk_at dksX5_place_1 19 rfl rfl)
theorem dX5_place_43 : decode cX5_place 43 = .ok (.aload_n 0, 1) := dk_42 (dk_at dksX5_place_1 20 rfl rfl)
theorem dX5_place_44 : decode cX5_place 44 = .ok (.dup, 1) := dk_89 (dk_at dksX5_place_1 21 rfl rfl)
theorem dX5_place_45 : decode cX5_place 45 = .ok (.getfield 27, 3) := dk_180 0 27 (dk_at dksX5_place_2 0 rfl rfl)
theorem dX5_place_48 : decode cX5_place 48 = .ok (.iconst 1, 1) := dk_4 (dk_at dksX5_place_2 3 rfl rfl)
theorem dX5_place_49 : decode cX5_place 49 = .ok (.iadd, 1) := dk_96 (dk_at dksX5_place_2 4 rfl rfl)
theorem dX5_place_50 : decode cX5_place 50 = .ok (.putfield 27, 3) := dk_181 0 27 (dk_at dksX5_place_2 5 rfl rfl)
theorem dX5_place_53 : decode cX5_place 53 = .ok (.aload_n 0, 1) := dk_42 (dk_at dksX5_place_2 8 rfl rfl)
theorem dX5_place_54 : decode cX5_place 54 = .ok (.aload_n 0, 1) := dk_42 (dk_at dksX5_place_2 9 rfl rfl)
theorem dX5_place_55 : decode cX5_place 55 = .ok (.getfield 27, 3) := dk_180 0 27 (dk_at dksX5_place_2 10 rfl rfl)
theorem dX5_place_58 : decode cX5_place 58 = .ok (.iconst 1, 1) := dk_4 (dk_at dksX5_place_2 13 rfl rfl)
theorem dX5_place_59 : decode cX5_place 59 = .ok (.isub, 1) := dk_100 (dk_at dksX5_place_2 14 rfl rfl)
theorem dX5_place_60 : decode cX5_place 60 = .ok (.invokevirtual 43, 3) := dk_182 0 43 (dk_at dksX5_place_2 15 rfl rfl)
theorem dX5_place_63 : decode cX5_place 63 = .ok (.bipush 97, 2) := dk_16 97 (dk_at dksX5_place_2 18 rfl rfl)
theorem dX5_place_65 : decode cX5_place 65 = .ok (.isub, 1) := dk_100 (dk_at dksX5_place_2 20 rfl rfl)
theorem dX5_place_66 : decode cX5_place 66 = .ok (.ireturn, 1) := dk_172 (dk_at dksX5_place_2 21 rfl rfl)
abbrev cX5_digit : ByteArray := prog_6_method_3_code
def yX5_digit : MethodName := ⟨RX5, "digit", "()I"⟩
def dkwX5_digit_2 : List UInt8 := [181, 0, 27, 42, 42, 180, 0, 27, 4, 100, 182, 0, 43, 16, 48, 100, 172]
abbrev dktX5_digit_2 : List UInt8 := dkwX5_digit_2 ++ []
def dkwX5_digit_1 : List UInt8 := [167, 0, 4, 3, 181, 0, 23, 42, 180, 0, 23, 153, 0, 5, 3, 172, 42, 89, 180, 0, 27, 4, 96]
abbrev dktX5_digit_1 : List UInt8 := dkwX5_digit_1 ++ dktX5_digit_2
def dkwX5_digit_0 : List UInt8 := [42, 42, 180, 0, 23, 154, 0, 17, 42, 42, 180, 0, 27, 182, 0, 43, 184, 0, 47, 154, 0, 7, 4]
abbrev dktX5_digit_0 : List UInt8 := dkwX5_digit_0 ++ dktX5_digit_1
theorem dksX5_digit_0 : cX5_digit.data.toList.drop 0 = dktX5_digit_0 := by decide +kernel
theorem dksX5_digit_1 : cX5_digit.data.toList.drop 23 = dktX5_digit_1 := dk_seg dksX5_digit_0 23 rfl rfl
theorem dksX5_digit_2 : cX5_digit.data.toList.drop 46 = dktX5_digit_2 := dk_seg dksX5_digit_1 23 rfl rfl
theorem dX5_digit_0 : decode cX5_digit 0 = .ok (.aload_n 0, 1) := dk_42 (dk_at dksX5_digit_0 0 rfl rfl)
theorem dX5_digit_1 : decode cX5_digit 1 = .ok (.aload_n 0, 1) := dk_42 (dk_at dksX5_digit_0 1 rfl rfl)
theorem dX5_digit_2 : decode cX5_digit 2 = .ok (.getfield 23, 3) := dk_180 0 23 (dk_at dksX5_digit_0 2 rfl rfl)
theorem dX5_digit_5 : decode cX5_digit 5 = .ok (.ifCond .ne 17, 3) := dk_154 0 17 (dk_at dksX5_digit_0 5 rfl rfl)
theorem dX5_digit_8 : decode cX5_digit 8 = .ok (.aload_n 0, 1) := dk_42 (dk_at dksX5_digit_0 8 rfl rfl)
theorem dX5_digit_9 : decode cX5_digit 9 = .ok (.aload_n 0, 1) := dk_42 (dk_at dksX5_digit_0 9 rfl rfl)
theorem dX5_digit_10 : decode cX5_digit 10 = .ok (.getfield 27, 3) := dk_180 0 27 (dk_at dksX5_digit_0 10 rfl rfl)
theorem dX5_digit_13 : decode cX5_digit 13 = .ok (.invokevirtual 43, 3) := dk_182 0 43 (dk_at dksX5_digit_0 13 rfl rfl)
theorem dX5_digit_16 : decode cX5_digit 16 = .ok (.invokestatic 47, 3) := dk_184 0 47 (dk_at dksX5_digit_0 16 rfl rfl)
theorem dX5_digit_19 : decode cX5_digit 19 = .ok (.ifCond .ne 7, 3) := dk_154 0 7 (dk_at dksX5_digit_0 19 rfl rfl)
theorem dX5_digit_22 : decode cX5_digit 22 = .ok (.iconst 1, 1) := dk_4 (dk_at dksX5_digit_0 22 rfl rfl)
theorem dX5_digit_23 : decode cX5_digit 23 = .ok (.goto 4, 3) := dk_167 0 4 (dk_at dksX5_digit_1 0 rfl rfl)
theorem dX5_digit_26 : decode cX5_digit 26 = .ok (.iconst 0, 1) := dk_3 (dk_at dksX5_digit_1 3 rfl rfl)
theorem dX5_digit_27 : decode cX5_digit 27 = .ok (.putfield 23, 3) := dk_181 0 23 (dk_at dksX5_digit_1 4 rfl rfl)
theorem dX5_digit_30 : decode cX5_digit 30 = .ok (.aload_n 0, 1) := dk_42 (dk_at dksX5_digit_1 7 rfl rfl)
theorem dX5_digit_31 : decode cX5_digit 31 = .ok (.getfield 23, 3) := dk_180 0 23 (dk_at dksX5_digit_1 8 rfl rfl)
theorem dX5_digit_34 : decode cX5_digit 34 = .ok (.ifCond .eq 5, 3) := dk_153 0 5 (dk_at dksX5_digit_1 11 rfl rfl)
theorem dX5_digit_37 : decode cX5_digit 37 = .ok (.iconst 0, 1) := dk_3 (dk_at dksX5_digit_1 14 rfl rfl)
theorem dX5_digit_38 : decode cX5_digit 38 = .ok (.ireturn, 1) := dk_172 (dk_at dksX5_digit_1 15 rfl rfl)
theorem dX5_digit_39 : decode cX5_digit 39 = .ok (.aload_n 0, 1) := dk_42 (dk_at dksX5_digit_1 16 rfl rfl)
theorem dX5_digit_40 : decode cX5_digit 40 = .ok (.dup, 1) := dk_89 (dk_at dksX5_digit_1 17 rfl rfl)
theorem dX5_digit_41 : decode cX5_digit 41 = .ok (.getfield 27, 3) := dk_180 0 27 (dk_at dksX5_digit_1 18 rfl rfl)
theorem dX5_digit_44 : decode cX5_digit 44 = .ok (.iconst 1, 1) := dk_4 (dk_at dksX5_digit_1 21 rfl rfl)
theorem dX5_digit_45 : decode cX5_digit 45 = .ok (.iadd, 1) := dk_96 (dk_at dksX5_digit_1 22 rfl rfl)
theorem dX5_digit_46 : decode cX5_digit 46 = .ok (.putfield 27, 3) := dk_181 0 27 (dk_at dksX5_digit_2 0 rfl rfl)
theorem dX5_digit_49 : decode cX5_digit 49 = .ok (.aload_n 0, 1) := dk_42 (dk_at dksX5_digit_2 3 rfl rfl)
theorem dX5_digit_50 : decode cX5_digit 50 = .ok (.aload_n 0, 1) := dk_42 (dk_at dksX5_digit_2 4 rfl rfl)
theorem dX5_digit_51 : decode cX5_digit 51 = .ok (.getfield 27, 3) := dk_180 0 27 (dk_at dksX5_digit_2 5 rfl rfl)
theorem dX5_digit_54 : decode cX5_digit 54 = .ok (.iconst 1, 1) := dk_4 (dk_at dksX5_digit_2 8 rfl rfl)
theorem dX5_digit_55 : decode cX5_digit 55 = .ok (.isub, 1) := dk_100 (dk_at dksX5_digit_2 9 rfl rfl)
theorem dX5_digit_56 : decode cX5_digit 56 = .ok (.invokevirtual 43, 3) := dk_182 0 43 (dk_at dksX5_digit_2 10 rfl rfl)
theorem dX5_digit_59 : decode cX5_digit 59 = .ok (.bipush 48, 2) := dk_16 48 (dk_at dksX5_digit_2 13 rfl rfl)
theorem dX5_digit_61 : decode cX5_digit 61 = .ok (.isub, 1) := dk_100 (dk_at dksX5_digit_2 15 rfl rfl)
theorem dX5_digit_62 : decode cX5_digit 62 = .ok (.ireturn, 1) := dk_172 (dk_at dksX5_digit_2 16 rfl rfl)
theorem q113 : (Jvm.Cond.initialized "LiarMaps$Reader") ∈ lw_all := lw_g (lw_at lw_m1 37 rfl) rfl
theorem q323 : (Jvm.Cond.fieldLinkNest "LiarMaps$Reader" (31 : Nat) "LiarMaps" "pad" "Ljava/lang/StringBuilder;" "LiarMaps") ∈ lw_tbl := lw_at lw_m2 7 rfl
theorem q690 : (Jvm.Cond.selects "LiarMaps$Reader" ({ cls := "java/lang/Object", name := "getClass", desc := "()Ljava/lang/Class;" } : Jvm.MethodName) ({ cls := "java/lang/Object", name := "getClass", desc := "()Ljava/lang/Class;" } : Jvm.MethodName)) ∈ lw_all := lw_g (lw_at lw_m3 134 rfl) rfl
theorem q1381 : (Jvm.Cond.instantiable "LiarMaps$Reader" (4 : Nat)) ∈ lw_all := lw_g (lw_at lw_m6 105 rfl) rfl
theorem q1383 : (Jvm.Cond.instanceMethod ({ cls := "LiarMaps$Reader", name := "<init>", desc := "(LLiarMaps;)V" } : Jvm.MethodName)) ∈ lw_all := lw_g (lw_at lw_m6 107 rfl) rfl
theorem q1384 : (Jvm.Cond.code ({ cls := "LiarMaps$Reader", name := "<init>", desc := "(LLiarMaps;)V" } : Jvm.MethodName) prog_6_method_1_code (2 : Nat) (Option.none : Option Jvm.ClassFile.FieldType)) ∈ lw_all := lw_g (lw_at lw_m6 108 rfl) rfl
theorem q1385 : (Jvm.Cond.methodLink "LiarMaps$Reader" (7 : Nat) ({ cls := "java/lang/Object", name := "<init>", desc := "()V" } : Jvm.MethodName)) ∈ lw_all := lw_g (lw_at lw_m6 109 rfl) rfl
theorem q1386 : (Jvm.Cond.classLink "LiarMaps$Reader" (13 : Nat) "java/util/ArrayList") ∈ lw_all := lw_g (lw_at lw_m6 110 rfl) rfl
theorem q1387 : (Jvm.Cond.methodLink "LiarMaps$Reader" (15 : Nat) ({ cls := "java/util/ArrayList", name := "<init>", desc := "()V" } : Jvm.MethodName)) ∈ lw_all := lw_g (lw_at lw_m6 111 rfl) rfl
theorem q1403 : (Jvm.Cond.methodLink "LiarMaps$Reader" (20 : Nat) ({ cls := "LiarMaps$Reader", name := "readOrder", desc := "()V" } : Jvm.MethodName)) ∈ lw_all := lw_g (lw_at lw_m6 127 rfl) rfl
theorem q1404 : (Jvm.Cond.privateMethod ({ cls := "LiarMaps$Reader", name := "readOrder", desc := "()V" } : Jvm.MethodName)) ∈ lw_tbl := lw_at lw_m6 128 rfl
theorem q1405 : (Jvm.Cond.instanceMethod ({ cls := "LiarMaps$Reader", name := "readOrder", desc := "()V" } : Jvm.MethodName)) ∈ lw_all := lw_g (lw_at lw_m6 129 rfl) rfl
theorem q1406 : (Jvm.Cond.code ({ cls := "LiarMaps$Reader", name := "readOrder", desc := "()V" } : Jvm.MethodName) prog_6_method_6_code (2 : Nat) (Option.none : Option Jvm.ClassFile.FieldType)) ∈ lw_all := lw_g (lw_at lw_m6 130 rfl) rfl
theorem q1407 : (Jvm.Cond.stringRef "LiarMaps$Reader" (87 : Nat) "") ∈ lw_tbl := lw_at lw_m6 131 rfl
theorem q1408 : (Jvm.Cond.superclass "LiarMaps$Reader" "java/lang/Object") ∈ lw_all := lw_g (lw_at lw_m6 132 rfl) rfl
theorem q1410 : (Jvm.Cond.unhidden "LiarMaps$Reader" "at" "(I)C") ∈ lw_tbl := lw_at lw_m6 134 rfl
theorem q1418 : (Jvm.Cond.castable "LiarMaps$Reader" "LiarMaps$Sign") ∈ lw_tbl := lw_at lw_m6 142 rfl
theorem q1419 : (Jvm.Cond.selects "LiarMaps$Reader" ({ cls := "LiarMaps$Sign", name := "text", desc := "()Ljava/lang/CharSequence;" } : Jvm.MethodName) ({ cls := "LiarMaps$Reader", name := "text", desc := "()Ljava/lang/CharSequence;" } : Jvm.MethodName)) ∈ lw_all := lw_g (lw_at lw_m6 143 rfl) rfl
theorem q1420 : (Jvm.Cond.unhidden "LiarMaps$Reader" "text" "()Ljava/lang/CharSequence;") ∈ lw_tbl := lw_at lw_m6 144 rfl
theorem q1421 : (Jvm.Cond.instanceMethod ({ cls := "LiarMaps$Reader", name := "text", desc := "()Ljava/lang/CharSequence;" } : Jvm.MethodName)) ∈ lw_all := lw_g (lw_at lw_m6 145 rfl) rfl
theorem q1422 : (Jvm.Cond.publicMethod ({ cls := "LiarMaps$Reader", name := "text", desc := "()Ljava/lang/CharSequence;" } : Jvm.MethodName)) ∈ lw_tbl := lw_at lw_m6 146 rfl
theorem q1423 : (Jvm.Cond.code ({ cls := "LiarMaps$Reader", name := "text", desc := "()Ljava/lang/CharSequence;" } : Jvm.MethodName) prog_6_method_2_code (1 : Nat) (Option.some (Jvm.ClassFile.FieldType.object "java/lang/CharSequence"))) ∈ lw_all := lw_g (lw_at lw_m6 147 rfl) rfl
theorem q1467 : (Jvm.Cond.methodLink "LiarMaps$Reader" (89 : Nat) ({ cls := "LiarMaps$Sign", name := "word", desc := "(C)Ljava/lang/String;" } : Jvm.MethodName)) ∈ lw_all := lw_g (lw_at lw_m6 191 rfl) rfl
theorem q1479 : (Jvm.Cond.methodLink "LiarMaps$Reader" (93 : Nat) ({ cls := "java/lang/String", name := "isEmpty", desc := "()Z" } : Jvm.MethodName)) ∈ lw_all := lw_g (lw_at lw_m6 203 rfl) rfl
theorem q1483 : (Jvm.Cond.methodLink "LiarMaps$Reader" (97 : Nat) ({ cls := "LiarMaps$Reader", name := "order", desc := "(Ljava/lang/String;)LLiarMaps$Order;" } : Jvm.MethodName)) ∈ lw_all := lw_g (lw_at lw_m6 207 rfl) rfl
theorem q1484 : (Jvm.Cond.privateMethod ({ cls := "LiarMaps$Reader", name := "order", desc := "(Ljava/lang/String;)LLiarMaps$Order;" } : Jvm.MethodName)) ∈ lw_tbl := lw_at lw_m6 208 rfl
theorem q1485 : (Jvm.Cond.instanceMethod ({ cls := "LiarMaps$Reader", name := "order", desc := "(Ljava/lang/String;)LLiarMaps$Order;" } : Jvm.MethodName)) ∈ lw_all := lw_g (lw_at lw_m6 209 rfl) rfl
theorem q1486 : (Jvm.Cond.code ({ cls := "LiarMaps$Reader", name := "order", desc := "(Ljava/lang/String;)LLiarMaps$Order;" } : Jvm.MethodName) prog_6_method_5_code (6 : Nat) (Option.some (Jvm.ClassFile.FieldType.object "LiarMaps$Order"))) ∈ lw_all := lw_g (lw_at lw_m6 210 rfl) rfl
theorem q1487 : (Jvm.Cond.methodLink "LiarMaps$Reader" (57 : Nat) ({ cls := "java/lang/String", name := "hashCode", desc := "()I" } : Jvm.MethodName)) ∈ lw_all := lw_g (lw_at lw_m6 211 rfl) rfl
theorem q1536 : (Jvm.Cond.stringRef "LiarMaps$Reader" (62 : Nat) "begin") ∈ lw_tbl := lw_at lw_m7 20 rfl
theorem q1537 : (Jvm.Cond.methodLink "LiarMaps$Reader" (64 : Nat) ({ cls := "java/lang/String", name := "equals", desc := "(Ljava/lang/Object;)Z" } : Jvm.MethodName)) ∈ lw_all := lw_g (lw_at lw_m7 21 rfl) rfl
theorem q1545 : (Jvm.Cond.stringRef "LiarMaps$Reader" (68 : Nat) "pass") ∈ lw_tbl := lw_at lw_m7 29 rfl
theorem q1546 : (Jvm.Cond.stringRef "LiarMaps$Reader" (70 : Nat) "treasure") ∈ lw_tbl := lw_at lw_m7 30 rfl
theorem q1547 : (Jvm.Cond.stringRef "LiarMaps$Reader" (72 : Nat) "dig") ∈ lw_tbl := lw_at lw_m7 31 rfl
theorem q1548 : (Jvm.Cond.classLink "LiarMaps$Reader" (74 : Nat) "LiarMaps$Order") ∈ lw_all := lw_g (lw_at lw_m7 32 rfl) rfl
theorem q1550 : (Jvm.Cond.methodLink "LiarMaps$Reader" (76 : Nat) ({ cls := "LiarMaps$Order", name := "<init>", desc := "(Ljava/lang/String;III)V" } : Jvm.MethodName)) ∈ lw_all := lw_g (lw_at lw_m7 34 rfl) rfl
theorem q1571 : (Jvm.Cond.methodLink "LiarMaps$Reader" (79 : Nat) ({ cls := "LiarMaps$Reader", name := "place", desc := "()I" } : Jvm.MethodName)) ∈ lw_all := lw_g (lw_at lw_m7 55 rfl) rfl
theorem q1572 : (Jvm.Cond.privateMethod ({ cls := "LiarMaps$Reader", name := "place", desc := "()I" } : Jvm.MethodName)) ∈ lw_tbl := lw_at lw_m7 56 rfl
theorem q1573 : (Jvm.Cond.instanceMethod ({ cls := "LiarMaps$Reader", name := "place", desc := "()I" } : Jvm.MethodName)) ∈ lw_all := lw_g (lw_at lw_m7 57 rfl) rfl
theorem q1574 : (Jvm.Cond.code ({ cls := "LiarMaps$Reader", name := "place", desc := "()I" } : Jvm.MethodName) prog_6_method_4_code (1 : Nat) (Option.some Jvm.ClassFile.FieldType.int)) ∈ lw_all := lw_g (lw_at lw_m7 58 rfl) rfl
theorem q1575 : (Jvm.Cond.methodLinkNest "LiarMaps$Reader" (53 : Nat) ({ cls := "LiarMaps", name := "isIn", desc := "(III)Z" } : Jvm.MethodName) "LiarMaps") ∈ lw_tbl := lw_at lw_m7 59 rfl
theorem q1576 : (Jvm.Cond.stringRef "LiarMaps$Reader" (82 : Nat) "check") ∈ lw_tbl := lw_at lw_m7 60 rfl
theorem q1577 : (Jvm.Cond.methodLink "LiarMaps$Reader" (84 : Nat) ({ cls := "LiarMaps$Reader", name := "digit", desc := "()I" } : Jvm.MethodName)) ∈ lw_all := lw_g (lw_at lw_m7 61 rfl) rfl
theorem q1578 : (Jvm.Cond.privateMethod ({ cls := "LiarMaps$Reader", name := "digit", desc := "()I" } : Jvm.MethodName)) ∈ lw_tbl := lw_at lw_m7 62 rfl
theorem q1579 : (Jvm.Cond.instanceMethod ({ cls := "LiarMaps$Reader", name := "digit", desc := "()I" } : Jvm.MethodName)) ∈ lw_all := lw_g (lw_at lw_m7 63 rfl) rfl
theorem q1580 : (Jvm.Cond.code ({ cls := "LiarMaps$Reader", name := "digit", desc := "()I" } : Jvm.MethodName) prog_6_method_3_code (1 : Nat) (Option.some Jvm.ClassFile.FieldType.int)) ∈ lw_all := lw_g (lw_at lw_m7 64 rfl) rfl
theorem q1581 : (Jvm.Cond.methodLink "LiarMaps$Reader" (47 : Nat) ({ cls := "LiarMaps$Sign", name := "isDigit", desc := "(C)Z" } : Jvm.MethodName)) ∈ lw_all := lw_g (lw_at lw_m7 65 rfl) rfl
theorem q1584 : (Jvm.Cond.interfaceEntry "LiarMaps$Reader" (101 : Nat)) ∈ lw_tbl := lw_at lw_m7 68 rfl
theorem q1585 : (Jvm.Cond.methodLink "LiarMaps$Reader" (101 : Nat) ({ cls := "java/util/List", name := "add", desc := "(Ljava/lang/Object;)Z" } : Jvm.MethodName)) ∈ lw_all := lw_g (lw_at lw_m7 69 rfl) rfl
theorem q1616 : (Jvm.Cond.methodLink "LiarMaps$Reader" (37 : Nat) ({ cls := "java/lang/StringBuilder", name := "length", desc := "()I" } : Jvm.MethodName)) ∈ lw_all := lw_g (lw_at lw_m7 100 rfl) rfl
theorem q1617 : (Jvm.Cond.fieldLink "LiarMaps$Reader" (16 : Nat) "LiarMaps$Reader" "orders" "Ljava/util/List;") ∈ lw_all := lw_g (lw_at lw_m7 101 rfl) rfl
theorem q1619 : (Jvm.Cond.fieldLink "LiarMaps$Reader" (27 : Nat) "LiarMaps$Reader" "spot" "I") ∈ lw_all := lw_g (lw_at lw_m7 103 rfl) rfl
theorem q1621 : (Jvm.Cond.fieldLink "LiarMaps$Reader" (23 : Nat) "LiarMaps$Reader" "isWrong" "Z") ∈ lw_all := lw_g (lw_at lw_m7 105 rfl) rfl
theorem q1623 : (Jvm.Cond.fieldLink "LiarMaps$Reader" (1 : Nat) "LiarMaps$Reader" "this$0" "LLiarMaps;") ∈ lw_all := lw_g (lw_at lw_m7 107 rfl) rfl
theorem q1624 : (Jvm.Cond.laysFinal "LiarMaps$Reader" "LiarMaps$Reader" "orders" "Ljava/util/List;") ∈ lw_all := lw_g (lw_at lw_m7 108 rfl) rfl
theorem q1625 : (Jvm.Cond.soleField "LiarMaps$Reader" "orders") ∈ lw_all := lw_g (lw_at lw_m7 109 rfl) rfl
theorem q1626 : (Jvm.Cond.lays "LiarMaps$Reader" "LiarMaps$Reader" "spot" "I") ∈ lw_all := lw_g (lw_at lw_m7 110 rfl) rfl
theorem q1627 : (Jvm.Cond.soleField "LiarMaps$Reader" "spot") ∈ lw_all := lw_g (lw_at lw_m7 111 rfl) rfl
theorem q1628 : (Jvm.Cond.lays "LiarMaps$Reader" "LiarMaps$Reader" "isWrong" "Z") ∈ lw_all := lw_g (lw_at lw_m7 112 rfl) rfl
theorem q1629 : (Jvm.Cond.soleField "LiarMaps$Reader" "isWrong") ∈ lw_all := lw_g (lw_at lw_m7 113 rfl) rfl
theorem q1630 : (Jvm.Cond.laysFinal "LiarMaps$Reader" "LiarMaps$Reader" "this$0" "LLiarMaps;") ∈ lw_all := lw_g (lw_at lw_m7 114 rfl) rfl
theorem q1631 : (Jvm.Cond.soleField "LiarMaps$Reader" "this$0") ∈ lw_all := lw_g (lw_at lw_m7 115 rfl) rfl
theorem q2049 : (Jvm.Cond.castable "LiarMaps$Reader" "java/lang/Object") ∈ lw_tbl := lw_at lw_m9 53 rfl
theorem in_X5 : ∀ w ∈ wsX50, w ∈ lw_all := lw_in wsX50 [1624, 1626, 1628, 1630] (by decide +kernel) (by decide +kernel)
/-! LiarMaps$Sign -/
set_option maxRecDepth 100000
def RX6 : String := "LiarMaps$Sign"
abbrev cX6_at : ByteArray := prog_7_method_2_code
def yX6_at : MethodName := ⟨RX6, "at", "(I)C"⟩
def dkwX6_at_1 : List UInt8 := [185, 0, 13, 2, 0, 167, 0, 4, 3, 172]
abbrev dktX6_at_1 : List UInt8 := dkwX6_at_1 ++ []
def dkwX6_at_0 : List UInt8 := [27, 42, 185, 0, 1, 1, 0, 185, 0, 7, 1, 0, 162, 0, 18, 42, 185, 0, 1, 1, 0, 27]
abbrev dktX6_at_0 : List UInt8 := dkwX6_at_0 ++ dktX6_at_1
theorem dksX6_at_0 : cX6_at.data.toList.drop 0 = dktX6_at_0 := by decide +kernel
theorem dksX6_at_1 : cX6_at.data.toList.drop 22 = dktX6_at_1 := dk_seg dksX6_at_0 22 rfl rfl
theorem dX6_at_0 : decode cX6_at 0 = .ok (.iload_n 1, 1) := dk_27 (dk_at dksX6_at_0 0 rfl rfl)
theorem dX6_at_1 : decode cX6_at 1 = .ok (.aload_n 0, 1) := dk_42 (dk_at dksX6_at_0 1 rfl rfl)
theorem dX6_at_2 : decode cX6_at 2 = .ok (.invokeinterface 1 1, 5) := by decide +kernel
theorem dX6_at_7 : decode cX6_at 7 = .ok (.invokeinterface 7 1, 5) := by decide +kernel
theorem dX6_at_12 : decode cX6_at 12 = .ok (.if_icmp .ge 18, 3) := dk_162 0 18 (dk_at dksX6_at_0 12 rfl rfl)
theorem dX6_at_15 : decode cX6_at 15 = .ok (.aload_n 0, 1) := dk_42 (dk_at dksX6_at_0 15 rfl rfl)
theorem dX6_at_16 : decode cX6_at 16 = .ok (.invokeinterface 1 1, 5) := by decide +kernel
theorem dX6_at_21 : decode cX6_at 21 = .ok (.iload_n 1, 1) := dk_27 (dk_at dksX6_at_0 21 rfl rfl)
theorem dX6_at_22 : decode cX6_at 22 = .ok (.invokeinterface 13 2, 5) := by decide +kernel
theorem dX6_at_27 : decode cX6_at 27 = .ok (.goto 4, 3) := dk_167 0 4 (dk_at dksX6_at_1 5 rfl rfl)
theorem dX6_at_30 : decode cX6_at 30 = .ok (.iconst 0, 1) := dk_3 (dk_at dksX6_at_1 8 rfl rfl)
theorem dX6_at_31 : decode cX6_at 31 = .ok (.ireturn, 1) := dk_172 (dk_at dksX6_at_1 9 rfl rfl)
abbrev cX6_word : ByteArray := prog_7_method_4_code
def yX6_word : MethodName := ⟨RX6, "word", "(C)Ljava/lang/String;"⟩
def dkwX6_word_3 : List UInt8 := [167, 0, 20, 18, 27, 167, 0, 15, 18, 29, 167, 0, 10, 18, 31, 167, 0, 5, 18, 33, 176]
abbrev dktX6_word_3 : List UInt8 := dkwX6_word_3 ++ []
def dkwX6_word_2 : List UInt8 := [18, 17, 167, 0, 40, 18, 19, 167, 0, 35, 18, 21, 167, 0, 30, 18, 23, 167, 0, 25, 18, 25]
abbrev dktX6_word_2 : List UInt8 := dkwX6_word_2 ++ dktX6_word_3
def dkwX6_word_1 : List UInt8 := [171, 0, 0, 0, 0, 0, 115, 0, 0, 0, 8, 0, 0, 0, 43, 0, 0, 0, 90, 0, 0, 0, 45, 0, 0, 0, 95, 0, 0, 0, 98, 0, 0, 0, 85, 0, 0, 0, 99, 0, 0, 0, 100, 0, 0, 0, 100, 0, 0, 0, 105, 0, 0, 0, 112, 0, 0, 0, 110, 0, 0, 0, 114, 0, 0, 0, 75, 0, 0, 0, 116, 0, 0, 0, 80]
abbrev dktX6_word_1 : List UInt8 := dkwX6_word_1 ++ dktX6_word_2
def dkwX6_word_0 : List UInt8 := [26]
abbrev dktX6_word_0 : List UInt8 := dkwX6_word_0 ++ dktX6_word_1
theorem dksX6_word_0 : cX6_word.data.toList.drop 0 = dktX6_word_0 := by decide +kernel
theorem dksX6_word_1 : cX6_word.data.toList.drop 1 = dktX6_word_1 := dk_seg dksX6_word_0 1 rfl rfl
theorem dksX6_word_2 : cX6_word.data.toList.drop 76 = dktX6_word_2 := dk_seg dksX6_word_1 75 rfl rfl
theorem dksX6_word_3 : cX6_word.data.toList.drop 98 = dktX6_word_3 := dk_seg dksX6_word_2 22 rfl rfl
theorem dX6_word_0 : decode cX6_word 0 = .ok (.iload_n 0, 1) := dk_26 (dk_at dksX6_word_0 0 rfl rfl)
theorem dX6_word_1 : decode cX6_word 1 = .ok (.lookupswitch 115 #[(43, 90), (45, 95), (98, 85), (99, 100), (100, 105), (112, 110), (114, 75), (116, 80)], 75) := by decide +kernel
theorem dX6_word_76 : decode cX6_word 76 = .ok (.ldc 17, 2) := dk_18 17 (dk_at dksX6_word_2 0 rfl rfl)
theorem dX6_word_78 : decode cX6_word 78 = .ok (.goto 40, 3) := dk_167 0 40 (dk_at dksX6_word_2 2 rfl rfl)
theorem dX6_word_81 : decode cX6_word 81 = .ok (.ldc 19, 2) := dk_18 19 (dk_at dksX6_word_2 5 rfl rfl)
theorem dX6_word_83 : decode cX6_word 83 = .ok (.goto 35, 3) := dk_167 0 35 (dk_at dksX6_word_2 7 rfl rfl)
theorem dX6_word_86 : decode cX6_word 86 = .ok (.ldc 21, 2) := dk_18 21 (dk_at dksX6_word_2 10 rfl rfl)
theorem dX6_word_88 : decode cX6_word 88 = .ok (.goto 30, 3) := dk_167 0 30 (dk_at dksX6_word_2 12 rfl rfl)
theorem dX6_word_91 : decode cX6_word 91 = .ok (.ldc 23, 2) := dk_18 23 (dk_at dksX6_word_2 15 rfl rfl)
theorem dX6_word_93 : decode cX6_word 93 = .ok (.goto 25, 3) := dk_167 0 25 (dk_at dksX6_word_2 17 rfl rfl)
theorem dX6_word_96 : decode cX6_word 96 = .ok (.ldc 25, 2) := dk_18 25 (dk_at dksX6_word_2 20 rfl rfl)
theorem dX6_word_98 : decode cX6_word 98 = .ok (.goto 20, 3) := dk_167 0 20 (dk_at dksX6_word_3 0 rfl rfl)
theorem dX6_word_101 : decode cX6_word 101 = .ok (.ldc 27, 2) := dk_18 27 (dk_at dksX6_word_3 3 rfl rfl)
theorem dX6_word_103 : decode cX6_word 103 = .ok (.goto 15, 3) := dk_167 0 15 (dk_at dksX6_word_3 5 rfl rfl)
theorem dX6_word_106 : decode cX6_word 106 = .ok (.ldc 29, 2) := dk_18 29 (dk_at dksX6_word_3 8 rfl rfl)
theorem dX6_word_108 : decode cX6_word 108 = .ok (.goto 10, 3) := dk_167 0 10 (dk_at dksX6_word_3 10 rfl rfl)
theorem dX6_word_111 : decode cX6_word 111 = .ok (.ldc 31, 2) := dk_18 31 (dk_at dksX6_word_3 13 rfl rfl)
theorem dX6_word_113 : decode cX6_word 113 = .ok (.goto 5, 3) := dk_167 0 5 (dk_at dksX6_word_3 15 rfl rfl)
theorem dX6_word_116 : decode cX6_word 116 = .ok (.ldc 33, 2) := dk_18 33 (dk_at dksX6_word_3 18 rfl rfl)
theorem dX6_word_118 : decode cX6_word 118 = .ok (.areturn, 1) := dk_176 (dk_at dksX6_word_3 20 rfl rfl)
abbrev cX6_isDigit : ByteArray := prog_7_method_3_code
def yX6_isDigit : MethodName := ⟨RX6, "isDigit", "(C)Z"⟩
def dkwX6_isDigit_0 : List UInt8 := [26, 16, 48, 161, 0, 13, 26, 16, 57, 163, 0, 7, 4, 167, 0, 4, 3, 172]
abbrev dktX6_isDigit_0 : List UInt8 := dkwX6_isDigit_0 ++ []
theorem dksX6_isDigit_0 : cX6_isDigit.data.toList.drop 0 = dktX6_isDigit_0 := by decide +kernel
theorem dX6_isDigit_0 : decode cX6_isDigit 0 = .ok (.iload_n 0, 1) := dk_26 (dk_at dksX6_isDigit_0 0 rfl rfl)
theorem dX6_isDigit_1 : decode cX6_isDigit 1 = .ok (.bipush 48, 2) := dk_16 48 (dk_at dksX6_isDigit_0 1 rfl rfl)
theorem dX6_isDigit_3 : decode cX6_isDigit 3 = .ok (.if_icmp .lt 13, 3) := dk_161 0 13 (dk_at dksX6_isDigit_0 3 rfl rfl)
theorem dX6_isDigit_6 : decode cX6_isDigit 6 = .ok (.iload_n 0, 1) := dk_26 (dk_at dksX6_isDigit_0 6 rfl rfl)
theorem dX6_isDigit_7 : decode cX6_isDigit 7 = .ok (.bipush 57, 2) := dk_16 57 (dk_at dksX6_isDigit_0 7 rfl rfl)
theorem dX6_isDigit_9 : decode cX6_isDigit 9 = .ok (.if_icmp .gt 7, 3) := dk_163 0 7 (dk_at dksX6_isDigit_0 9 rfl rfl)
theorem dX6_isDigit_12 : decode cX6_isDigit 12 = .ok (.iconst 1, 1) := dk_4 (dk_at dksX6_isDigit_0 12 rfl rfl)
theorem dX6_isDigit_13 : decode cX6_isDigit 13 = .ok (.goto 4, 3) := dk_167 0 4 (dk_at dksX6_isDigit_0 13 rfl rfl)
theorem dX6_isDigit_16 : decode cX6_isDigit 16 = .ok (.iconst 0, 1) := dk_3 (dk_at dksX6_isDigit_0 16 rfl rfl)
theorem dX6_isDigit_17 : decode cX6_isDigit 17 = .ok (.ireturn, 1) := dk_172 (dk_at dksX6_isDigit_0 17 rfl rfl)
theorem q115 : (Jvm.Cond.initialized "LiarMaps$Sign") ∈ lw_all := lw_g (lw_at lw_m1 39 rfl) rfl
theorem q1409 : (Jvm.Cond.declares ({ cls := "LiarMaps$Sign", name := "at", desc := "(I)C" } : Jvm.MethodName)) ∈ lw_tbl := lw_at lw_m6 133 rfl
theorem q1411 : (Jvm.Cond.instanceMethod ({ cls := "LiarMaps$Sign", name := "at", desc := "(I)C" } : Jvm.MethodName)) ∈ lw_all := lw_g (lw_at lw_m6 135 rfl) rfl
theorem q1412 : (Jvm.Cond.publicMethod ({ cls := "LiarMaps$Sign", name := "at", desc := "(I)C" } : Jvm.MethodName)) ∈ lw_tbl := lw_at lw_m6 136 rfl
theorem q1413 : (Jvm.Cond.code ({ cls := "LiarMaps$Sign", name := "at", desc := "(I)C" } : Jvm.MethodName) prog_7_method_2_code (2 : Nat) (Option.some Jvm.ClassFile.FieldType.char)) ∈ lw_all := lw_g (lw_at lw_m6 137 rfl) rfl
theorem q1414 : (Jvm.Cond.interfaceEntry "LiarMaps$Sign" (1 : Nat)) ∈ lw_tbl := lw_at lw_m6 138 rfl
theorem q1415 : (Jvm.Cond.methodLink "LiarMaps$Sign" (1 : Nat) ({ cls := "LiarMaps$Sign", name := "text", desc := "()Ljava/lang/CharSequence;" } : Jvm.MethodName)) ∈ lw_all := lw_g (lw_at lw_m6 139 rfl) rfl
theorem q1416 : (Jvm.Cond.interfaceMethod "LiarMaps$Sign" "LiarMaps$Sign" "text" "()Ljava/lang/CharSequence;") ∈ lw_tbl := lw_at lw_m6 140 rfl
theorem q1417 : (Jvm.Cond.declares ({ cls := "LiarMaps$Sign", name := "text", desc := "()Ljava/lang/CharSequence;" } : Jvm.MethodName)) ∈ lw_tbl := lw_at lw_m6 141 rfl
theorem q1424 : (Jvm.Cond.interfaceEntry "LiarMaps$Sign" (7 : Nat)) ∈ lw_tbl := lw_at lw_m6 148 rfl
theorem q1425 : (Jvm.Cond.methodLink "LiarMaps$Sign" (7 : Nat) ({ cls := "java/lang/CharSequence", name := "length", desc := "()I" } : Jvm.MethodName)) ∈ lw_all := lw_g (lw_at lw_m6 149 rfl) rfl
theorem q1436 : (Jvm.Cond.interfaceEntry "LiarMaps$Sign" (13 : Nat)) ∈ lw_tbl := lw_at lw_m6 160 rfl
theorem q1437 : (Jvm.Cond.methodLink "LiarMaps$Sign" (13 : Nat) ({ cls := "java/lang/CharSequence", name := "charAt", desc := "(I)C" } : Jvm.MethodName)) ∈ lw_all := lw_g (lw_at lw_m6 161 rfl) rfl
theorem q1468 : (Jvm.Cond.static ({ cls := "LiarMaps$Sign", name := "word", desc := "(C)Ljava/lang/String;" } : Jvm.MethodName)) ∈ lw_all := lw_g (lw_at lw_m6 192 rfl) rfl
theorem q1469 : (Jvm.Cond.code ({ cls := "LiarMaps$Sign", name := "word", desc := "(C)Ljava/lang/String;" } : Jvm.MethodName) prog_7_method_4_code (1 : Nat) (Option.some (Jvm.ClassFile.FieldType.object "java/lang/String"))) ∈ lw_all := lw_g (lw_at lw_m6 193 rfl) rfl
theorem q1470 : (Jvm.Cond.stringRef "LiarMaps$Sign" (17 : Nat) "road") ∈ lw_tbl := lw_at lw_m6 194 rfl
theorem q1471 : (Jvm.Cond.stringRef "LiarMaps$Sign" (19 : Nat) "treasure") ∈ lw_tbl := lw_at lw_m6 195 rfl
theorem q1472 : (Jvm.Cond.stringRef "LiarMaps$Sign" (21 : Nat) "begin") ∈ lw_tbl := lw_at lw_m6 196 rfl
theorem q1473 : (Jvm.Cond.stringRef "LiarMaps$Sign" (23 : Nat) "there") ∈ lw_tbl := lw_at lw_m6 197 rfl
theorem q1474 : (Jvm.Cond.stringRef "LiarMaps$Sign" (25 : Nat) "not") ∈ lw_tbl := lw_at lw_m6 198 rfl
theorem q1475 : (Jvm.Cond.stringRef "LiarMaps$Sign" (27 : Nat) "check") ∈ lw_tbl := lw_at lw_m6 199 rfl
theorem q1476 : (Jvm.Cond.stringRef "LiarMaps$Sign" (29 : Nat) "dig") ∈ lw_tbl := lw_at lw_m6 200 rfl
theorem q1477 : (Jvm.Cond.stringRef "LiarMaps$Sign" (31 : Nat) "pass") ∈ lw_tbl := lw_at lw_m6 201 rfl
theorem q1478 : (Jvm.Cond.stringRef "LiarMaps$Sign" (33 : Nat) "") ∈ lw_tbl := lw_at lw_m6 202 rfl
theorem q1582 : (Jvm.Cond.static ({ cls := "LiarMaps$Sign", name := "isDigit", desc := "(C)Z" } : Jvm.MethodName)) ∈ lw_all := lw_g (lw_at lw_m7 66 rfl) rfl
theorem q1583 : (Jvm.Cond.code ({ cls := "LiarMaps$Sign", name := "isDigit", desc := "(C)Z" } : Jvm.MethodName) prog_7_method_3_code (1 : Nat) (Option.some Jvm.ClassFile.FieldType.boolean)) ∈ lw_all := lw_g (lw_at lw_m7 67 rfl) rfl
/-! LiarMaps$Order -/
set_option maxRecDepth 100000
def RX7 : String := "LiarMaps$Order"
def TX7 : u_T := fun k => match k with
  | 0 => ("LiarMaps$Order", "word", "Ljava/lang/String;", true)
  | 1 => ("LiarMaps$Order", "number", "I", true)
  | 2 => ("LiarMaps$Order", "place", "I", true)
  | _ => ("LiarMaps$Order", "other", "I", true)
def tyX7 : Nat → FieldType := fun k => match k with
  | 0 => .object "java/lang/String"
  | 1 => .int
  | 2 => .int
  | _ => .int
abbrev wsX70 : List Cond := u_ws RX7 TX7 4
theorem nmX7 : ∀ a, a < 4 → ∀ b, b < 4 → a ≠ b → (TX7 a).2.1 ≠ (TX7 b).2.1 := by decide +kernel
theorem tyX7_ok : ∀ k, k < 4 → parseFieldDescriptor (TX7 k).2.2.1 = some (tyX7 k) := by decide +kernel
abbrev cX7_init : ByteArray := prog_4_method_1_code
def yX7_init : MethodName := ⟨RX7, "<init>", "(Ljava/lang/String;III)V"⟩
def dkwX7_init_1 : List UInt8 := [181, 0, 20, 177]
abbrev dktX7_init_1 : List UInt8 := dkwX7_init_1 ++ []
def dkwX7_init_0 : List UInt8 := [42, 183, 0, 1, 42, 43, 181, 0, 7, 42, 28, 181, 0, 13, 42, 29, 181, 0, 17, 42, 21, 4]
abbrev dktX7_init_0 : List UInt8 := dkwX7_init_0 ++ dktX7_init_1
theorem dksX7_init_0 : cX7_init.data.toList.drop 0 = dktX7_init_0 := by decide +kernel
theorem dksX7_init_1 : cX7_init.data.toList.drop 22 = dktX7_init_1 := dk_seg dksX7_init_0 22 rfl rfl
theorem dX7_init_0 : decode cX7_init 0 = .ok (.aload_n 0, 1) := dk_42 (dk_at dksX7_init_0 0 rfl rfl)
theorem dX7_init_1 : decode cX7_init 1 = .ok (.invokespecial 1, 3) := dk_183 0 1 (dk_at dksX7_init_0 1 rfl rfl)
theorem dX7_init_4 : decode cX7_init 4 = .ok (.aload_n 0, 1) := dk_42 (dk_at dksX7_init_0 4 rfl rfl)
theorem dX7_init_5 : decode cX7_init 5 = .ok (.aload_n 1, 1) := dk_43 (dk_at dksX7_init_0 5 rfl rfl)
theorem dX7_init_6 : decode cX7_init 6 = .ok (.putfield 7, 3) := dk_181 0 7 (dk_at dksX7_init_0 6 rfl rfl)
theorem dX7_init_9 : decode cX7_init 9 = .ok (.aload_n 0, 1) := dk_42 (dk_at dksX7_init_0 9 rfl rfl)
theorem dX7_init_10 : decode cX7_init 10 = .ok (.iload_n 2, 1) := dk_28 (dk_at dksX7_init_0 10 rfl rfl)
theorem dX7_init_11 : decode cX7_init 11 = .ok (.putfield 13, 3) := dk_181 0 13 (dk_at dksX7_init_0 11 rfl rfl)
theorem dX7_init_14 : decode cX7_init 14 = .ok (.aload_n 0, 1) := dk_42 (dk_at dksX7_init_0 14 rfl rfl)
theorem dX7_init_15 : decode cX7_init 15 = .ok (.iload_n 3, 1) := dk_29 (dk_at dksX7_init_0 15 rfl rfl)
theorem dX7_init_16 : decode cX7_init 16 = .ok (.putfield 17, 3) := dk_181 0 17 (dk_at dksX7_init_0 16 rfl rfl)
theorem dX7_init_19 : decode cX7_init 19 = .ok (.aload_n 0, 1) := dk_42 (dk_at dksX7_init_0 19 rfl rfl)
theorem dX7_init_20 : decode cX7_init 20 = .ok (.iload 4, 2) := dk_21 4 (dk_at dksX7_init_0 20 rfl rfl)
theorem dX7_init_22 : decode cX7_init 22 = .ok (.putfield 20, 3) := dk_181 0 20 (dk_at dksX7_init_1 0 rfl rfl)
theorem dX7_init_25 : decode cX7_init 25 = .ok (.return_, 1) := dk_177 (dk_at dksX7_init_1 3 rfl rfl)
theorem q116 : (Jvm.Cond.initialized "LiarMaps$Order") ∈ lw_all := lw_g (lw_at lw_m1 40 rfl) rfl
theorem q688 : (Jvm.Cond.selects "LiarMaps$Order" ({ cls := "java/lang/Object", name := "getClass", desc := "()Ljava/lang/Class;" } : Jvm.MethodName) ({ cls := "java/lang/Object", name := "getClass", desc := "()Ljava/lang/Class;" } : Jvm.MethodName)) ∈ lw_all := lw_g (lw_at lw_m3 132 rfl) rfl
theorem q1549 : (Jvm.Cond.instantiable "LiarMaps$Order" (4 : Nat)) ∈ lw_all := lw_g (lw_at lw_m7 33 rfl) rfl
theorem q1551 : (Jvm.Cond.instanceMethod ({ cls := "LiarMaps$Order", name := "<init>", desc := "(Ljava/lang/String;III)V" } : Jvm.MethodName)) ∈ lw_all := lw_g (lw_at lw_m7 35 rfl) rfl
theorem q1552 : (Jvm.Cond.code ({ cls := "LiarMaps$Order", name := "<init>", desc := "(Ljava/lang/String;III)V" } : Jvm.MethodName) prog_4_method_1_code (5 : Nat) (Option.none : Option Jvm.ClassFile.FieldType)) ∈ lw_all := lw_g (lw_at lw_m7 36 rfl) rfl
theorem q1553 : (Jvm.Cond.methodLink "LiarMaps$Order" (1 : Nat) ({ cls := "java/lang/Object", name := "<init>", desc := "()V" } : Jvm.MethodName)) ∈ lw_all := lw_g (lw_at lw_m7 37 rfl) rfl
theorem q1554 : (Jvm.Cond.fieldLink "LiarMaps$Order" (7 : Nat) "LiarMaps$Order" "word" "Ljava/lang/String;") ∈ lw_all := lw_g (lw_at lw_m7 38 rfl) rfl
theorem q1556 : (Jvm.Cond.fieldLink "LiarMaps$Order" (13 : Nat) "LiarMaps$Order" "number" "I") ∈ lw_all := lw_g (lw_at lw_m7 40 rfl) rfl
theorem q1558 : (Jvm.Cond.fieldLink "LiarMaps$Order" (17 : Nat) "LiarMaps$Order" "place" "I") ∈ lw_all := lw_g (lw_at lw_m7 42 rfl) rfl
theorem q1560 : (Jvm.Cond.fieldLink "LiarMaps$Order" (20 : Nat) "LiarMaps$Order" "other" "I") ∈ lw_all := lw_g (lw_at lw_m7 44 rfl) rfl
theorem q1562 : (Jvm.Cond.laysFinal "LiarMaps$Order" "LiarMaps$Order" "word" "Ljava/lang/String;") ∈ lw_all := lw_g (lw_at lw_m7 46 rfl) rfl
theorem q1563 : (Jvm.Cond.soleField "LiarMaps$Order" "word") ∈ lw_all := lw_g (lw_at lw_m7 47 rfl) rfl
theorem q1564 : (Jvm.Cond.laysFinal "LiarMaps$Order" "LiarMaps$Order" "number" "I") ∈ lw_all := lw_g (lw_at lw_m7 48 rfl) rfl
theorem q1565 : (Jvm.Cond.soleField "LiarMaps$Order" "number") ∈ lw_all := lw_g (lw_at lw_m7 49 rfl) rfl
theorem q1566 : (Jvm.Cond.laysFinal "LiarMaps$Order" "LiarMaps$Order" "place" "I") ∈ lw_all := lw_g (lw_at lw_m7 50 rfl) rfl
theorem q1567 : (Jvm.Cond.soleField "LiarMaps$Order" "place") ∈ lw_all := lw_g (lw_at lw_m7 51 rfl) rfl
theorem q1568 : (Jvm.Cond.laysFinal "LiarMaps$Order" "LiarMaps$Order" "other" "I") ∈ lw_all := lw_g (lw_at lw_m7 52 rfl) rfl
theorem q1569 : (Jvm.Cond.soleField "LiarMaps$Order" "other") ∈ lw_all := lw_g (lw_at lw_m7 53 rfl) rfl
theorem q1570 : (Jvm.Cond.superclass "LiarMaps$Order" "java/lang/Object") ∈ lw_all := lw_g (lw_at lw_m7 54 rfl) rfl
theorem q2052 : (Jvm.Cond.castable "LiarMaps$Order" "java/lang/Object") ∈ lw_tbl := lw_at lw_m9 56 rfl
theorem in_X7 : ∀ w ∈ wsX70, w ∈ lw_all := lw_in wsX70 [1562, 1564, 1566, 1568] (by decide +kernel) (by decide +kernel)
