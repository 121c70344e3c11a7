/-! WhalingLogs -/
set_option maxRecDepth 100000
def RX0 : String := "WhalingLogs"
def TX0 : u_T := fun k => match k with
  | 0 => ("WhalingLogs", "archive", "LWhalingLogs$Archive;", false)
  | 1 => ("WhalingLogs", "saved", "LWhalingLogs$Archive;", false)
  | 2 => ("WhalingLogs", "past", "Ljava/util/ArrayDeque;", true)
  | 3 => ("WhalingLogs", "reason", "I", false)
  | 4 => ("WhalingLogs", "detail", "I", false)
  | 5 => ("WhalingLogs", "waters", "LWhalingLogs$Waters;", true)
  | 6 => ("WhalingLogs", "list", "LWhalingLogs$Listing;", true)
  | 7 => ("WhalingLogs", "far", "[I", true)
  | 8 => ("WhalingLogs", "text", "Ljava/lang/StringBuilder;", true)
  | _ => ("WhalingLogs", "line", "Ljava/lang/StringBuilder;", true)
def tyX0 : Nat → FieldType := fun k => match k with
  | 0 => .object "WhalingLogs$Archive"
  | 1 => .object "WhalingLogs$Archive"
  | 2 => .object "java/util/ArrayDeque"
  | 3 => .int
  | 4 => .int
  | 5 => .object "WhalingLogs$Waters"
  | 6 => .object "WhalingLogs$Listing"
  | 7 => .array .int
  | 8 => .object "java/lang/StringBuilder"
  | _ => .object "java/lang/StringBuilder"
abbrev wsX00 : List Cond := u_ws RX0 TX0 10
theorem nmX0 : ∀ a, a < 10 → ∀ b, b < 10 → a ≠ b → (TX0 a).2.1 ≠ (TX0 b).2.1 := by decide +kernel
theorem tyX0_ok : ∀ k, k < 10 → parseFieldDescriptor (TX0 k).2.2.1 = some (tyX0 k) := by decide +kernel
abbrev cX0_init : ByteArray := prog_1_method_1_code
def yX0_init : MethodName := ⟨RX0, "<init>", "()V"⟩
def dkwX0_init_3 : List UInt8 := [187, 0, 41, 89, 183, 0, 43, 181, 0, 48, 177]
abbrev dktX0_init_3 : List UInt8 := dkwX0_init_3 ++ []
def dkwX0_init_2 : List UInt8 := [181, 0, 33, 42, 17, 0, 192, 188, 10, 181, 0, 37, 42, 187, 0, 41, 89, 183, 0, 43, 181, 0, 44, 42]
abbrev dktX0_init_2 : List UInt8 := dkwX0_init_2 ++ dktX0_init_3
def dkwX0_init_1 : List UInt8 := [181, 0, 19, 42, 187, 0, 23, 89, 183, 0, 25, 181, 0, 26, 42, 187, 0, 30, 89, 183, 0, 32]
abbrev dktX0_init_1 : List UInt8 := dkwX0_init_1 ++ dktX0_init_2
def dkwX0_init_0 : List UInt8 := [42, 183, 0, 3, 42, 187, 0, 9, 89, 183, 0, 11, 181, 0, 12, 42, 187, 0, 16, 89, 183, 0, 18]
abbrev dktX0_init_0 : List UInt8 := dkwX0_init_0 ++ dktX0_init_1
theorem dksX0_init_0 : cX0_init.data.toList.drop 0 = dktX0_init_0 := by decide +kernel
theorem dksX0_init_1 : cX0_init.data.toList.drop 23 = dktX0_init_1 := dk_seg dksX0_init_0 23 rfl rfl
theorem dksX0_init_2 : cX0_init.data.toList.drop 45 = dktX0_init_2 := dk_seg dksX0_init_1 22 rfl rfl
theorem dksX0_init_3 : cX0_init.data.toList.drop 69 = dktX0_init_3 := dk_seg dksX0_init_2 24 rfl rfl
theorem dX0_init_0 : decode cX0_init 0 = .ok (.aload_n 0, 1) := dk_42 (dk_at dksX0_init_0 0 rfl rfl)
theorem dX0_init_1 : decode cX0_init 1 = .ok (.invokespecial 3, 3) := dk_183 0 3 (dk_at dksX0_init_0 1 rfl rfl)
theorem dX0_init_4 : decode cX0_init 4 = .ok (.aload_n 0, 1) := dk_42 (dk_at dksX0_init_0 4 rfl rfl)
theorem dX0_init_5 : decode cX0_init 5 = .ok (.new 9, 3) := dk_187 0 9 (dk_at dksX0_init_0 5 rfl rfl)
theorem dX0_init_8 : decode cX0_init 8 = .ok (.dup, 1) := dk_89 (dk_at dksX0_init_0 8 rfl rfl)
theorem dX0_init_9 : decode cX0_init 9 = .ok (.invokespecial 11, 3) := dk_183 0 11 (dk_at dksX0_init_0 9 rfl rfl)
theorem dX0_init_12 : decode cX0_init 12 = .ok (.putfield 12, 3) := dk_181 0 12 (dk_at dksX0_init_0 12 rfl rfl)
theorem dX0_init_15 : decode cX0_init 15 = .ok (.aload_n 0, 1) := dk_42 (dk_at dksX0_init_0 15 rfl rfl)
theorem dX0_init_16 : decode cX0_init 16 = .ok (.new 16, 3) := dk_187 0 16 (dk_at dksX0_init_0 16 rfl rfl)
theorem dX0_init_19 : decode cX0_init 19 = .ok (.dup, 1) := dk_89 (dk_at dksX0_init_0 19 rfl rfl)
theorem dX0_init_20 : decode cX0_init 20 = .ok (.invokespecial 18, 3) := dk_183 0 18 (dk_at dksX0_init_0 20 rfl rfl)
theorem dX0_init_23 : decode cX0_init 23 = .ok (.putfield 19, 3) := dk_181 0 19 (dk_at dksX0_init_1 0 rfl rfl)
theorem dX0_init_26 : decode cX0_init 26 = .ok (.aload_n 0, 1) := dk_42 (dk_at dksX0_init_1 3 rfl rfl)
theorem dX0_init_27 : decode cX0_init 27 = .ok (.new 23, 3) := dk_187 0 23 (dk_at dksX0_init_1 4 rfl rfl)
theorem dX0_init_30 : decode cX0_init 30 = .ok (.dup, 1) := dk_89 (dk_at dksX0_init_1 7 rfl rfl)
theorem dX0_init_31 : decode cX0_init 31 = .ok (.invokespecial 25, 3) := dk_183 0 25 (dk_at dksX0_init_1 8 rfl rfl)
theorem dX0_init_34 : decode cX0_init 34 = .ok (.putfield 26, 3) := dk_181 0 26 (dk_at dksX0_init_1 11 rfl rfl)
theorem dX0_init_37 : decode cX0_init 37 = .ok (.aload_n 0, 1) := dk_42 (dk_at dksX0_init_1 14 rfl rfl)
theorem dX0_init_38 : decode cX0_init 38 = .ok (.new 30, 3) := dk_187 0 30 (dk_at dksX0_init_1 15 rfl rfl)
theorem dX0_init_41 : decode cX0_init 41 = .ok (.dup, 1) := dk_89 (dk_at dksX0_init_1 18 rfl rfl)
theorem dX0_init_42 : decode cX0_init 42 = .ok (.invokespecial 32, 3) := dk_183 0 32 (dk_at dksX0_init_1 19 rfl rfl)
theorem dX0_init_45 : decode cX0_init 45 = .ok (.putfield 33, 3) := dk_181 0 33 (dk_at dksX0_init_2 0 rfl rfl)
theorem dX0_init_48 : decode cX0_init 48 = .ok (.aload_n 0, 1) := dk_42 (dk_at dksX0_init_2 3 rfl rfl)
theorem dX0_init_49 : decode cX0_init 49 = .ok (.sipush 192, 3) := dk_17 0 192 (dk_at dksX0_init_2 4 rfl rfl)
theorem dX0_init_52 : decode cX0_init 52 = .ok (.newarray .int, 2) := dk_188_10 (dk_at dksX0_init_2 7 rfl rfl)
theorem dX0_init_54 : decode cX0_init 54 = .ok (.putfield 37, 3) := dk_181 0 37 (dk_at dksX0_init_2 9 rfl rfl)
theorem dX0_init_57 : decode cX0_init 57 = .ok (.aload_n 0, 1) := dk_42 (dk_at dksX0_init_2 12 rfl rfl)
theorem dX0_init_58 : decode cX0_init 58 = .ok (.new 41, 3) := dk_187 0 41 (dk_at dksX0_init_2 13 rfl rfl)
theorem dX0_init_61 : decode cX0_init 61 = .ok (.dup, 1) := dk_89 (dk_at dksX0_init_2 16 rfl rfl)
theorem dX0_init_62 : decode cX0_init 62 = .ok (.invokespecial 43, 3) := dk_183 0 43 (dk_at dksX0_init_2 17 rfl rfl)
theorem dX0_init_65 : decode cX0_init 65 = .ok (.putfield 44, 3) := dk_181 0 44 (dk_at dksX0_init_2 20 rfl rfl)
theorem dX0_init_68 : decode cX0_init 68 = .ok (.aload_n 0, 1) := dk_42 (dk_at dksX0_init_2 23 rfl rfl)
theorem dX0_init_69 : decode cX0_init 69 = .ok (.new 41, 3) := dk_187 0 41 (dk_at dksX0_init_3 0 rfl rfl)
theorem dX0_init_72 : decode cX0_init 72 = .ok (.dup, 1) := dk_89 (dk_at dksX0_init_3 3 rfl rfl)
theorem dX0_init_73 : decode cX0_init 73 = .ok (.invokespecial 43, 3) := dk_183 0 43 (dk_at dksX0_init_3 4 rfl rfl)
theorem dX0_init_76 : decode cX0_init 76 = .ok (.putfield 48, 3) := dk_181 0 48 (dk_at dksX0_init_3 7 rfl rfl)
theorem dX0_init_79 : decode cX0_init 79 = .ok (.return_, 1) := dk_177 (dk_at dksX0_init_3 10 rfl rfl)
abbrev cX0_land : ByteArray := prog_1_method_11_code
def yX0_land : MethodName := ⟨RX0, "land", "(IZ)I"⟩
def dkwX0_land_1 : List UInt8 := [27, 28, 182, 0, 115, 182, 0, 118, 172, 58, 4, 42, 25, 4, 182, 0, 122, 172]
abbrev dktX0_land_1 : List UInt8 := dkwX0_land_1 ++ []
def dkwX0_land_0 : List UInt8 := [27, 184, 0, 107, 154, 0, 5, 2, 172, 42, 180, 0, 12, 182, 0, 111, 78, 42, 45, 42, 42, 180, 0, 12]
abbrev dktX0_land_0 : List UInt8 := dkwX0_land_0 ++ dktX0_land_1
theorem dksX0_land_0 : cX0_land.data.toList.drop 0 = dktX0_land_0 := by decide +kernel
theorem dksX0_land_1 : cX0_land.data.toList.drop 24 = dktX0_land_1 := dk_seg dksX0_land_0 24 rfl rfl
theorem dX0_land_0 : decode cX0_land 0 = .ok (.iload_n 1, 1) := dk_27 (dk_at dksX0_land_0 0 rfl rfl)
theorem dX0_land_1 : decode cX0_land 1 = .ok (.invokestatic 107, 3) := dk_184 0 107 (dk_at dksX0_land_0 1 rfl rfl)
theorem dX0_land_4 : decode cX0_land 4 = .ok (.ifCond .ne 5, 3) := dk_154 0 5 (dk_at dksX0_land_0 4 rfl rfl)
theorem dX0_land_7 : decode cX0_land 7 = .ok (.iconst (-1), 1) := dk_2 (dk_at dksX0_land_0 7 rfl rfl)
theorem dX0_land_8 : decode cX0_land 8 = .ok (.ireturn, 1) := dk_172 (dk_at dksX0_land_0 8 rfl rfl)
theorem dX0_land_9 : decode cX0_land 9 = .ok (.aload_n 0, 1) := dk_42 (dk_at dksX0_land_0 9 rfl rfl)
theorem dX0_land_10 : decode cX0_land 10 = .ok (.getfield 12, 3) := dk_180 0 12 (dk_at dksX0_land_0 10 rfl rfl)
theorem dX0_land_13 : decode cX0_land 13 = .ok (.invokevirtual 111, 3) := dk_182 0 111 (dk_at dksX0_land_0 13 rfl rfl)
theorem dX0_land_16 : decode cX0_land 16 = .ok (.astore_n 3, 1) := dk_78 (dk_at dksX0_land_0 16 rfl rfl)
theorem dX0_land_17 : decode cX0_land 17 = .ok (.aload_n 0, 1) := dk_42 (dk_at dksX0_land_0 17 rfl rfl)
theorem dX0_land_18 : decode cX0_land 18 = .ok (.aload_n 3, 1) := dk_45 (dk_at dksX0_land_0 18 rfl rfl)
theorem dX0_land_19 : decode cX0_land 19 = .ok (.aload_n 0, 1) := dk_42 (dk_at dksX0_land_0 19 rfl rfl)
theorem dX0_land_20 : decode cX0_land 20 = .ok (.aload_n 0, 1) := dk_42 (dk_at dksX0_land_0 20 rfl rfl)
theorem dX0_land_21 : decode cX0_land 21 = .ok (.getfield 12, 3) := dk_180 0 12 (dk_at dksX0_land_0 21 rfl rfl)
theorem dX0_land_24 : decode cX0_land 24 = .ok (.iload_n 1, 1) := dk_27 (dk_at dksX0_land_1 0 rfl rfl)
theorem dX0_land_25 : decode cX0_land 25 = .ok (.iload_n 2, 1) := dk_28 (dk_at dksX0_land_1 1 rfl rfl)
theorem dX0_land_26 : decode cX0_land 26 = .ok (.invokevirtual 115, 3) := dk_182 0 115 (dk_at dksX0_land_1 2 rfl rfl)
theorem dX0_land_29 : decode cX0_land 29 = .ok (.invokevirtual 118, 3) := dk_182 0 118 (dk_at dksX0_land_1 5 rfl rfl)
theorem dX0_land_32 : decode cX0_land 32 = .ok (.ireturn, 1) := dk_172 (dk_at dksX0_land_1 8 rfl rfl)
theorem dX0_land_33 : decode cX0_land 33 = .ok (.astore 4, 2) := dk_58 4 (dk_at dksX0_land_1 9 rfl rfl)
theorem dX0_land_35 : decode cX0_land 35 = .ok (.aload_n 0, 1) := dk_42 (dk_at dksX0_land_1 11 rfl rfl)
theorem dX0_land_36 : decode cX0_land 36 = .ok (.aload 4, 2) := dk_25 4 (dk_at dksX0_land_1 12 rfl rfl)
theorem dX0_land_38 : decode cX0_land 38 = .ok (.invokevirtual 122, 3) := dk_182 0 122 (dk_at dksX0_land_1 14 rfl rfl)
theorem dX0_land_41 : decode cX0_land 41 = .ok (.ireturn, 1) := dk_172 (dk_at dksX0_land_1 17 rfl rfl)
abbrev cX0_isCell : ByteArray := prog_1_method_3_code
def yX0_isCell : MethodName := ⟨RX0, "isCell", "(I)Z"⟩
def dkwX0_isCell_0 : List UInt8 := [26, 3, 17, 0, 191, 184, 0, 51, 172]
abbrev dktX0_isCell_0 : List UInt8 := dkwX0_isCell_0 ++ []
theorem dksX0_isCell_0 : cX0_isCell.data.toList.drop 0 = dktX0_isCell_0 := by decide +kernel
theorem dX0_isCell_0 : decode cX0_isCell 0 = .ok (.iload_n 0, 1) := dk_26 (dk_at dksX0_isCell_0 0 rfl rfl)
theorem dX0_isCell_1 : decode cX0_isCell 1 = .ok (.iconst 0, 1) := dk_3 (dk_at dksX0_isCell_0 1 rfl rfl)
theorem dX0_isCell_2 : decode cX0_isCell 2 = .ok (.sipush 191, 3) := dk_17 0 191 (dk_at dksX0_isCell_0 2 rfl rfl)
theorem dX0_isCell_5 : decode cX0_isCell 5 = .ok (.invokestatic 51, 3) := dk_184 0 51 (dk_at dksX0_isCell_0 5 rfl rfl)
theorem dX0_isCell_8 : decode cX0_isCell 8 = .ok (.ireturn, 1) := dk_172 (dk_at dksX0_isCell_0 8 rfl rfl)
abbrev cX0_isIn : ByteArray := prog_1_method_2_code
def yX0_isIn : MethodName := ⟨RX0, "isIn", "(III)Z"⟩
def dkwX0_isIn_0 : List UInt8 := [26, 27, 161, 0, 12, 26, 28, 163, 0, 7, 4, 167, 0, 4, 3, 172]
abbrev dktX0_isIn_0 : List UInt8 := dkwX0_isIn_0 ++ []
theorem dksX0_isIn_0 : cX0_isIn.data.toList.drop 0 = dktX0_isIn_0 := by decide +kernel
theorem dX0_isIn_0 : decode cX0_isIn 0 = .ok (.iload_n 0, 1) := dk_26 (dk_at dksX0_isIn_0 0 rfl rfl)
theorem dX0_isIn_1 : decode cX0_isIn 1 = .ok (.iload_n 1, 1) := dk_27 (dk_at dksX0_isIn_0 1 rfl rfl)
theorem dX0_isIn_2 : decode cX0_isIn 2 = .ok (.if_icmp .lt 12, 3) := dk_161 0 12 (dk_at dksX0_isIn_0 2 rfl rfl)
theorem dX0_isIn_5 : decode cX0_isIn 5 = .ok (.iload_n 0, 1) := dk_26 (dk_at dksX0_isIn_0 5 rfl rfl)
theorem dX0_isIn_6 : decode cX0_isIn 6 = .ok (.iload_n 2, 1) := dk_28 (dk_at dksX0_isIn_0 6 rfl rfl)
theorem dX0_isIn_7 : decode cX0_isIn 7 = .ok (.if_icmp .gt 7, 3) := dk_163 0 7 (dk_at dksX0_isIn_0 7 rfl rfl)
theorem dX0_isIn_10 : decode cX0_isIn 10 = .ok (.iconst 1, 1) := dk_4 (dk_at dksX0_isIn_0 10 rfl rfl)
theorem dX0_isIn_11 : decode cX0_isIn 11 = .ok (.goto 4, 3) := dk_167 0 4 (dk_at dksX0_isIn_0 11 rfl rfl)
theorem dX0_isIn_14 : decode cX0_isIn 14 = .ok (.iconst 0, 1) := dk_3 (dk_at dksX0_isIn_0 14 rfl rfl)
theorem dX0_isIn_15 : decode cX0_isIn 15 = .ok (.ireturn, 1) := dk_172 (dk_at dksX0_isIn_0 15 rfl rfl)
abbrev cX0_becomes : ByteArray := prog_1_method_10_code
def yX0_becomes : MethodName := ⟨RX0, "becomes", "(LWhalingLogs$Archive;IZ)I"⟩
def dkwX0_becomes_0 : List UInt8 := [43, 28, 29, 42, 180, 0, 33, 43, 182, 0, 81, 28, 182, 0, 99, 182, 0, 103, 172]
abbrev dktX0_becomes_0 : List UInt8 := dkwX0_becomes_0 ++ []
theorem dksX0_becomes_0 : cX0_becomes.data.toList.drop 0 = dktX0_becomes_0 := by decide +kernel
theorem dX0_becomes_0 : decode cX0_becomes 0 = .ok (.aload_n 1, 1) := dk_43 (dk_at dksX0_becomes_0 0 rfl rfl)
theorem dX0_becomes_1 : decode cX0_becomes 1 = .ok (.iload_n 2, 1) := dk_28 (dk_at dksX0_becomes_0 1 rfl rfl)
theorem dX0_becomes_2 : decode cX0_becomes 2 = .ok (.iload_n 3, 1) := dk_29 (dk_at dksX0_becomes_0 2 rfl rfl)
theorem dX0_becomes_3 : decode cX0_becomes 3 = .ok (.aload_n 0, 1) := dk_42 (dk_at dksX0_becomes_0 3 rfl rfl)
theorem dX0_becomes_4 : decode cX0_becomes 4 = .ok (.getfield 33, 3) := dk_180 0 33 (dk_at dksX0_becomes_0 4 rfl rfl)
theorem dX0_becomes_7 : decode cX0_becomes 7 = .ok (.aload_n 1, 1) := dk_43 (dk_at dksX0_becomes_0 7 rfl rfl)
theorem dX0_becomes_8 : decode cX0_becomes 8 = .ok (.invokevirtual 81, 3) := dk_182 0 81 (dk_at dksX0_becomes_0 8 rfl rfl)
theorem dX0_becomes_11 : decode cX0_becomes 11 = .ok (.iload_n 2, 1) := dk_28 (dk_at dksX0_becomes_0 11 rfl rfl)
theorem dX0_becomes_12 : decode cX0_becomes 12 = .ok (.invokevirtual 99, 3) := dk_182 0 99 (dk_at dksX0_becomes_0 12 rfl rfl)
theorem dX0_becomes_15 : decode cX0_becomes 15 = .ok (.invokevirtual 103, 3) := dk_182 0 103 (dk_at dksX0_becomes_0 15 rfl rfl)
theorem dX0_becomes_18 : decode cX0_becomes 18 = .ok (.ireturn, 1) := dk_172 (dk_at dksX0_becomes_0 18 rfl rfl)
abbrev cX0_refuse : ByteArray := prog_1_method_4_code
def yX0_refuse : MethodName := ⟨RX0, "refuse", "(ZII)V"⟩
def dkwX0_refuse_0 : List UInt8 := [26, 153, 0, 13, 187, 0, 55, 89, 27, 28, 183, 0, 57, 191, 177]
abbrev dktX0_refuse_0 : List UInt8 := dkwX0_refuse_0 ++ []
theorem dksX0_refuse_0 : cX0_refuse.data.toList.drop 0 = dktX0_refuse_0 := by decide +kernel
theorem dX0_refuse_0 : decode cX0_refuse 0 = .ok (.iload_n 0, 1) := dk_26 (dk_at dksX0_refuse_0 0 rfl rfl)
theorem dX0_refuse_1 : decode cX0_refuse 1 = .ok (.ifCond .eq 13, 3) := dk_153 0 13 (dk_at dksX0_refuse_0 1 rfl rfl)
theorem dX0_refuse_4 : decode cX0_refuse 4 = .ok (.new 55, 3) := dk_187 0 55 (dk_at dksX0_refuse_0 4 rfl rfl)
theorem dX0_refuse_7 : decode cX0_refuse 7 = .ok (.dup, 1) := dk_89 (dk_at dksX0_refuse_0 7 rfl rfl)
theorem dX0_refuse_8 : decode cX0_refuse 8 = .ok (.iload_n 1, 1) := dk_27 (dk_at dksX0_refuse_0 8 rfl rfl)
theorem dX0_refuse_9 : decode cX0_refuse 9 = .ok (.iload_n 2, 1) := dk_28 (dk_at dksX0_refuse_0 9 rfl rfl)
theorem dX0_refuse_10 : decode cX0_refuse 10 = .ok (.invokespecial 57, 3) := dk_183 0 57 (dk_at dksX0_refuse_0 10 rfl rfl)
theorem dX0_refuse_13 : decode cX0_refuse 13 = .ok (.athrow, 1) := dk_191 (dk_at dksX0_refuse_0 13 rfl rfl)
theorem dX0_refuse_14 : decode cX0_refuse 14 = .ok (.return_, 1) := dk_177 (dk_at dksX0_refuse_0 14 rfl rfl)
abbrev cX0_changed : ByteArray := prog_1_method_6_code
def yX0_changed : MethodName := ⟨RX0, "changed", "(LWhalingLogs$Archive;I)I"⟩
def dkwX0_changed_1 : List UInt8 := [182, 0, 77, 87, 28, 172]
abbrev dktX0_changed_1 : List UInt8 := dkwX0_changed_1 ++ []
def dkwX0_changed_0 : List UInt8 := [42, 180, 0, 19, 43, 182, 0, 69, 42, 180, 0, 19, 182, 0, 73, 16, 8, 164, 0, 11, 42, 180, 0, 19]
abbrev dktX0_changed_0 : List UInt8 := dkwX0_changed_0 ++ dktX0_changed_1
theorem dksX0_changed_0 : cX0_changed.data.toList.drop 0 = dktX0_changed_0 := by decide +kernel
theorem dksX0_changed_1 : cX0_changed.data.toList.drop 24 = dktX0_changed_1 := dk_seg dksX0_changed_0 24 rfl rfl
theorem dX0_changed_0 : decode cX0_changed 0 = .ok (.aload_n 0, 1) := dk_42 (dk_at dksX0_changed_0 0 rfl rfl)
theorem dX0_changed_1 : decode cX0_changed 1 = .ok (.getfield 19, 3) := dk_180 0 19 (dk_at dksX0_changed_0 1 rfl rfl)
theorem dX0_changed_4 : decode cX0_changed 4 = .ok (.aload_n 1, 1) := dk_43 (dk_at dksX0_changed_0 4 rfl rfl)
theorem dX0_changed_5 : decode cX0_changed 5 = .ok (.invokevirtual 69, 3) := dk_182 0 69 (dk_at dksX0_changed_0 5 rfl rfl)
theorem dX0_changed_8 : decode cX0_changed 8 = .ok (.aload_n 0, 1) := dk_42 (dk_at dksX0_changed_0 8 rfl rfl)
theorem dX0_changed_9 : decode cX0_changed 9 = .ok (.getfield 19, 3) := dk_180 0 19 (dk_at dksX0_changed_0 9 rfl rfl)
theorem dX0_changed_12 : decode cX0_changed 12 = .ok (.invokevirtual 73, 3) := dk_182 0 73 (dk_at dksX0_changed_0 12 rfl rfl)
theorem dX0_changed_15 : decode cX0_changed 15 = .ok (.bipush 8, 2) := dk_16 8 (dk_at dksX0_changed_0 15 rfl rfl)
theorem dX0_changed_17 : decode cX0_changed 17 = .ok (.if_icmp .le 11, 3) := dk_164 0 11 (dk_at dksX0_changed_0 17 rfl rfl)
theorem dX0_changed_20 : decode cX0_changed 20 = .ok (.aload_n 0, 1) := dk_42 (dk_at dksX0_changed_0 20 rfl rfl)
theorem dX0_changed_21 : decode cX0_changed 21 = .ok (.getfield 19, 3) := dk_180 0 19 (dk_at dksX0_changed_0 21 rfl rfl)
theorem dX0_changed_24 : decode cX0_changed 24 = .ok (.invokevirtual 77, 3) := dk_182 0 77 (dk_at dksX0_changed_1 0 rfl rfl)
theorem dX0_changed_27 : decode cX0_changed 27 = .ok (.pop, 1) := dk_87 (dk_at dksX0_changed_1 3 rfl rfl)
theorem dX0_changed_28 : decode cX0_changed 28 = .ok (.iload_n 2, 1) := dk_28 (dk_at dksX0_changed_1 4 rfl rfl)
theorem dX0_changed_29 : decode cX0_changed 29 = .ok (.ireturn, 1) := dk_172 (dk_at dksX0_changed_1 5 rfl rfl)
abbrev cX0_refused : ByteArray := prog_1_method_5_code
def yX0_refused : MethodName := ⟨RX0, "refused", "(LWhalingLogs$Refused;)I"⟩
def dkwX0_refused_0 : List UInt8 := [42, 43, 180, 0, 60, 181, 0, 64, 42, 43, 180, 0, 65, 181, 0, 68, 16, 252, 172]
abbrev dktX0_refused_0 : List UInt8 := dkwX0_refused_0 ++ []
theorem dksX0_refused_0 : cX0_refused.data.toList.drop 0 = dktX0_refused_0 := by decide +kernel
theorem dX0_refused_0 : decode cX0_refused 0 = .ok (.aload_n 0, 1) := dk_42 (dk_at dksX0_refused_0 0 rfl rfl)
theorem dX0_refused_1 : decode cX0_refused 1 = .ok (.aload_n 1, 1) := dk_43 (dk_at dksX0_refused_0 1 rfl rfl)
theorem dX0_refused_2 : decode cX0_refused 2 = .ok (.getfield 60, 3) := dk_180 0 60 (dk_at dksX0_refused_0 2 rfl rfl)
theorem dX0_refused_5 : decode cX0_refused 5 = .ok (.putfield 64, 3) := dk_181 0 64 (dk_at dksX0_refused_0 5 rfl rfl)
theorem dX0_refused_8 : decode cX0_refused 8 = .ok (.aload_n 0, 1) := dk_42 (dk_at dksX0_refused_0 8 rfl rfl)
theorem dX0_refused_9 : decode cX0_refused 9 = .ok (.aload_n 1, 1) := dk_43 (dk_at dksX0_refused_0 9 rfl rfl)
theorem dX0_refused_10 : decode cX0_refused 10 = .ok (.getfield 65, 3) := dk_180 0 65 (dk_at dksX0_refused_0 10 rfl rfl)
theorem dX0_refused_13 : decode cX0_refused 13 = .ok (.putfield 68, 3) := dk_181 0 68 (dk_at dksX0_refused_0 13 rfl rfl)
theorem dX0_refused_16 : decode cX0_refused 16 = .ok (.bipush (-4), 2) := dk_16 252 (dk_at dksX0_refused_0 16 rfl rfl)
theorem dX0_refused_18 : decode cX0_refused 18 = .ok (.ireturn, 1) := dk_172 (dk_at dksX0_refused_0 18 rfl rfl)
abbrev cX0_set : ByteArray := prog_1_method_13_code
def yX0_set : MethodName := ⟨RX0, "set", "(II)I"⟩
def dkwX0_set_4 : List UInt8 := [28, 79, 42, 45, 21, 4, 182, 0, 118, 172]
abbrev dktX0_set_4 : List UInt8 := dkwX0_set_4 ++ []
def dkwX0_set_3 : List UInt8 := [154, 0, 14, 42, 180, 0, 12, 28, 181, 0, 129, 167, 0, 15, 42, 180, 0, 12, 180, 0, 132, 27, 4, 100]
abbrev dktX0_set_3 : List UInt8 := dkwX0_set_3 ++ dktX0_set_4
def dkwX0_set_2 : List UInt8 := [42, 180, 0, 12, 180, 0, 129, 167, 0, 14, 42, 180, 0, 12, 180, 0, 132, 27, 4, 100, 46, 54, 4, 27]
abbrev dktX0_set_2 : List UInt8 := dkwX0_set_2 ++ dktX0_set_3
def dkwX0_set_1 : List UInt8 := [3, 16, 99, 184, 0, 51, 154, 0, 6, 16, 254, 172, 42, 180, 0, 12, 182, 0, 111, 78, 27, 154, 0, 13]
abbrev dktX0_set_1 : List UInt8 := dkwX0_set_1 ++ dktX0_set_2
def dkwX0_set_0 : List UInt8 := [27, 3, 6, 184, 0, 51, 153, 0, 27, 27, 154, 0, 13, 28, 184, 0, 126, 154, 0, 19, 167, 0, 13, 28]
abbrev dktX0_set_0 : List UInt8 := dkwX0_set_0 ++ dktX0_set_1
theorem dksX0_set_0 : cX0_set.data.toList.drop 0 = dktX0_set_0 := by decide +kernel
theorem dksX0_set_1 : cX0_set.data.toList.drop 24 = dktX0_set_1 := dk_seg dksX0_set_0 24 rfl rfl
theorem dksX0_set_2 : cX0_set.data.toList.drop 48 = dktX0_set_2 := dk_seg dksX0_set_1 24 rfl rfl
theorem dksX0_set_3 : cX0_set.data.toList.drop 72 = dktX0_set_3 := dk_seg dksX0_set_2 24 rfl rfl
theorem dksX0_set_4 : cX0_set.data.toList.drop 96 = dktX0_set_4 := dk_seg dksX0_set_3 24 rfl rfl
theorem dX0_set_0 : decode cX0_set 0 = .ok (.iload_n 1, 1) := dk_27 (dk_at dksX0_set_0 0 rfl rfl)
theorem dX0_set_1 : decode cX0_set 1 = .ok (.iconst 0, 1) := dk_3 (dk_at dksX0_set_0 1 rfl rfl)
theorem dX0_set_2 : decode cX0_set 2 = .ok (.iconst 3, 1) := dk_6 (dk_at dksX0_set_0 2 rfl rfl)
theorem dX0_set_3 : decode cX0_set 3 = .ok (.invokestatic 51, 3) := dk_184 0 51 (dk_at dksX0_set_0 3 rfl rfl)
theorem dX0_set_6 : decode cX0_set 6 = .ok (.ifCond .eq 27, 3) := dk_153 0 27 (dk_at dksX0_set_0 6 rfl rfl)
theorem dX0_set_9 : decode cX0_set 9 = .ok (.iload_n 1, 1) := dk_27 (dk_at dksX0_set_0 9 rfl rfl)
theorem dX0_set_10 : decode cX0_set 10 = .ok (.ifCond .ne 13, 3) := dk_154 0 13 (dk_at dksX0_set_0 10 rfl rfl)
theorem dX0_set_13 : decode cX0_set 13 = .ok (.iload_n 2, 1) := dk_28 (dk_at dksX0_set_0 13 rfl rfl)
theorem dX0_set_14 : decode cX0_set 14 = .ok (.invokestatic 126, 3) := dk_184 0 126 (dk_at dksX0_set_0 14 rfl rfl)
theorem dX0_set_17 : decode cX0_set 17 = .ok (.ifCond .ne 19, 3) := dk_154 0 19 (dk_at dksX0_set_0 17 rfl rfl)
theorem dX0_set_20 : decode cX0_set 20 = .ok (.goto 13, 3) := dk_167 0 13 (dk_at dksX0_set_0 20 rfl rfl)
theorem dX0_set_23 : decode cX0_set 23 = .ok (.iload_n 2, 1) := dk_28 (dk_at dksX0_set_0 23 rfl rfl)
theorem dX0_set_24 : decode cX0_set 24 = .ok (.iconst 0, 1) := dk_3 (dk_at dksX0_set_1 0 rfl rfl)
theorem dX0_set_25 : decode cX0_set 25 = .ok (.bipush 99, 2) := dk_16 99 (dk_at dksX0_set_1 1 rfl rfl)
theorem dX0_set_27 : decode cX0_set 27 = .ok (.invokestatic 51, 3) := dk_184 0 51 (dk_at dksX0_set_1 3 rfl rfl)
theorem dX0_set_30 : decode cX0_set 30 = .ok (.ifCond .ne 6, 3) := dk_154 0 6 (dk_at dksX0_set_1 6 rfl rfl)
theorem dX0_set_33 : decode cX0_set 33 = .ok (.bipush (-2), 2) := dk_16 254 (dk_at dksX0_set_1 9 rfl rfl)
theorem dX0_set_35 : decode cX0_set 35 = .ok (.ireturn, 1) := dk_172 (dk_at dksX0_set_1 11 rfl rfl)
theorem dX0_set_36 : decode cX0_set 36 = .ok (.aload_n 0, 1) := dk_42 (dk_at dksX0_set_1 12 rfl rfl)
theorem dX0_set_37 : decode cX0_set 37 = .ok (.getfield 12, 3) := dk_180 0 12 (dk_at dksX0_set_1 13 rfl rfl)
theorem dX0_set_40 : decode cX0_set 40 = .ok (.invokevirtual 111, 3) := dk_182 0 111 (dk_at dksX0_set_1 16 rfl rfl)
theorem dX0_set_43 : decode cX0_set 43 = .ok (.astore_n 3, 1) := dk_78 (dk_at dksX0_set_1 19 rfl rfl)
theorem dX0_set_44 : decode cX0_set 44 = .ok (.iload_n 1, 1) := dk_27 (dk_at dksX0_set_1 20 rfl rfl)
theorem dX0_set_45 : decode cX0_set 45 = .ok (.ifCond .ne 13, 3) := dk_154 0 13 (dk_at dksX0_set_1 21 rfl rfl)
theorem dX0_set_48 : decode cX0_set 48 = .ok (.aload_n 0, 1) := dk_42 (dk_at dksX0_set_2 0 rfl rfl)
theorem dX0_set_49 : decode cX0_set 49 = .ok (.getfield 12, 3) := dk_180 0 12 (dk_at dksX0_set_2 1 rfl rfl)
theorem dX0_set_52 : decode cX0_set 52 = .ok (.getfield 129, 3) := dk_180 0 129 (dk_at dksX0_set_2 4 rfl rfl)
theorem dX0_set_55 : decode cX0_set 55 = .ok (.goto 14, 3) := dk_167 0 14 (dk_at dksX0_set_2 7 rfl rfl)
theorem dX0_set_58 : decode cX0_set 58 = .ok (.aload_n 0, 1) := dk_42 (dk_at dksX0_set_2 10 rfl rfl)
theorem dX0_set_59 : decode cX0_set 59 = .ok (.getfield 12, 3) := dk_180 0 12 (dk_at dksX0_set_2 11 rfl rfl)
theorem dX0_set_62 : decode cX0_set 62 = .ok (.getfield 132, 3) := dk_180 0 132 (dk_at dksX0_set_2 14 rfl rfl)
theorem dX0_set_65 : decode cX0_set 65 = .ok (.iload_n 1, 1) := dk_27 (dk_at dksX0_set_2 17 rfl rfl)
theorem dX0_set_66 : decode cX0_set 66 = .ok (.iconst 1, 1) := dk_4 (dk_at dksX0_set_2 18 rfl rfl)
theorem dX0_set_67 : decode cX0_set 67 = .ok (.isub, 1) := dk_100 (dk_at dksX0_set_2 19 rfl rfl)
theorem dX0_set_68 : decode cX0_set 68 = .ok (.iaload, 1) := dk_46 (dk_at dksX0_set_2 20 rfl rfl)
theorem dX0_set_69 : decode cX0_set 69 = .ok (.istore 4, 2) := dk_54 4 (dk_at dksX0_set_2 21 rfl rfl)
theorem dX0_set_71 : decode cX0_set 71 = .ok (.iload_n 1, 1) := dk_27 (dk_at dksX0_set_2 23 rfl rfl)
theorem dX0_set_72 : decode cX0_set 72 = .ok (.ifCond .ne 14, 3) := dk_154 0 14 (dk_at dksX0_set_3 0 rfl rfl)
theorem dX0_set_75 : decode cX0_set 75 = .ok (.aload_n 0, 1) := dk_42 (dk_at dksX0_set_3 3 rfl rfl)
theorem dX0_set_76 : decode cX0_set 76 = .ok (.getfield 12, 3) := dk_180 0 12 (dk_at dksX0_set_3 4 rfl rfl)
theorem dX0_set_79 : decode cX0_set 79 = .ok (.iload_n 2, 1) := dk_28 (dk_at dksX0_set_3 7 rfl rfl)
theorem dX0_set_80 : decode cX0_set 80 = .ok (.putfield 129, 3) := dk_181 0 129 (dk_at dksX0_set_3 8 rfl rfl)
theorem dX0_set_83 : decode cX0_set 83 = .ok (.goto 15, 3) := dk_167 0 15 (dk_at dksX0_set_3 11 rfl rfl)
theorem dX0_set_86 : decode cX0_set 86 = .ok (.aload_n 0, 1) := dk_42 (dk_at dksX0_set_3 14 rfl rfl)
theorem dX0_set_87 : decode cX0_set 87 = .ok (.getfield 12, 3) := dk_180 0 12 (dk_at dksX0_set_3 15 rfl rfl)
theorem dX0_set_90 : decode cX0_set 90 = .ok (.getfield 132, 3) := dk_180 0 132 (dk_at dksX0_set_3 18 rfl rfl)
theorem dX0_set_93 : decode cX0_set 93 = .ok (.iload_n 1, 1) := dk_27 (dk_at dksX0_set_3 21 rfl rfl)
theorem dX0_set_94 : decode cX0_set 94 = .ok (.iconst 1, 1) := dk_4 (dk_at dksX0_set_3 22 rfl rfl)
theorem dX0_set_95 : decode cX0_set 95 = .ok (.isub, 1) := dk_100 (dk_at dksX0_set_3 23 rfl rfl)
theorem dX0_set_96 : decode cX0_set 96 = .ok (.iload_n 2, 1) := dk_28 (dk_at dksX0_set_4 0 rfl rfl)
theorem dX0_set_97 : decode cX0_set 97 = .ok (.iastore, 1) := dk_79 (dk_at dksX0_set_4 1 rfl rfl)
theorem dX0_set_98 : decode cX0_set 98 = .ok (.aload_n 0, 1) := dk_42 (dk_at dksX0_set_4 2 rfl rfl)
theorem dX0_set_99 : decode cX0_set 99 = .ok (.aload_n 3, 1) := dk_45 (dk_at dksX0_set_4 3 rfl rfl)
theorem dX0_set_100 : decode cX0_set 100 = .ok (.iload 4, 2) := dk_21 4 (dk_at dksX0_set_4 4 rfl rfl)
theorem dX0_set_102 : decode cX0_set 102 = .ok (.invokevirtual 118, 3) := dk_182 0 118 (dk_at dksX0_set_4 6 rfl rfl)
theorem dX0_set_105 : decode cX0_set 105 = .ok (.ireturn, 1) := dk_172 (dk_at dksX0_set_4 9 rfl rfl)
abbrev cX0_isSpeed : ByteArray := prog_1_method_12_code
def yX0_isSpeed : MethodName := ⟨RX0, "isSpeed", "(I)Z"⟩
def dkwX0_isSpeed_0 : List UInt8 := [26, 4, 16, 9, 184, 0, 51, 172]
abbrev dktX0_isSpeed_0 : List UInt8 := dkwX0_isSpeed_0 ++ []
theorem dksX0_isSpeed_0 : cX0_isSpeed.data.toList.drop 0 = dktX0_isSpeed_0 := by decide +kernel
theorem dX0_isSpeed_0 : decode cX0_isSpeed 0 = .ok (.iload_n 0, 1) := dk_26 (dk_at dksX0_isSpeed_0 0 rfl rfl)
theorem dX0_isSpeed_1 : decode cX0_isSpeed 1 = .ok (.iconst 1, 1) := dk_4 (dk_at dksX0_isSpeed_0 1 rfl rfl)
theorem dX0_isSpeed_2 : decode cX0_isSpeed 2 = .ok (.bipush 9, 2) := dk_16 9 (dk_at dksX0_isSpeed_0 2 rfl rfl)
theorem dX0_isSpeed_4 : decode cX0_isSpeed 4 = .ok (.invokestatic 51, 3) := dk_184 0 51 (dk_at dksX0_isSpeed_0 4 rfl rfl)
theorem dX0_isSpeed_7 : decode cX0_isSpeed 7 = .ok (.ireturn, 1) := dk_172 (dk_at dksX0_isSpeed_0 7 rfl rfl)
abbrev cX0_distance : ByteArray := prog_1_method_15_code
def yX0_distance : MethodName := ⟨RX0, "distance", "(II)I"⟩
def dkwX0_distance_1 : List UInt8 := [172]
abbrev dktX0_distance_1 : List UInt8 := dkwX0_distance_1 ++ []
def dkwX0_distance_0 : List UInt8 := [27, 184, 0, 107, 153, 0, 19, 28, 184, 0, 107, 153, 0, 12, 42, 27, 28, 182, 0, 143, 167, 0, 4, 2]
abbrev dktX0_distance_0 : List UInt8 := dkwX0_distance_0 ++ dktX0_distance_1
theorem dksX0_distance_0 : cX0_distance.data.toList.drop 0 = dktX0_distance_0 := by decide +kernel
theorem dksX0_distance_1 : cX0_distance.data.toList.drop 24 = dktX0_distance_1 := dk_seg dksX0_distance_0 24 rfl rfl
theorem dX0_distance_0 : decode cX0_distance 0 = .ok (.iload_n 1, 1) := dk_27 (dk_at dksX0_distance_0 0 rfl rfl)
theorem dX0_distance_1 : decode cX0_distance 1 = .ok (.invokestatic 107, 3) := dk_184 0 107 (dk_at dksX0_distance_0 1 rfl rfl)
theorem dX0_distance_4 : decode cX0_distance 4 = .ok (.ifCond .eq 19, 3) := dk_153 0 19 (dk_at dksX0_distance_0 4 rfl rfl)
theorem dX0_distance_7 : decode cX0_distance 7 = .ok (.iload_n 2, 1) := dk_28 (dk_at dksX0_distance_0 7 rfl rfl)
theorem dX0_distance_8 : decode cX0_distance 8 = .ok (.invokestatic 107, 3) := dk_184 0 107 (dk_at dksX0_distance_0 8 rfl rfl)
theorem dX0_distance_11 : decode cX0_distance 11 = .ok (.ifCond .eq 12, 3) := dk_153 0 12 (dk_at dksX0_distance_0 11 rfl rfl)
theorem dX0_distance_14 : decode cX0_distance 14 = .ok (.aload_n 0, 1) := dk_42 (dk_at dksX0_distance_0 14 rfl rfl)
theorem dX0_distance_15 : decode cX0_distance 15 = .ok (.iload_n 1, 1) := dk_27 (dk_at dksX0_distance_0 15 rfl rfl)
theorem dX0_distance_16 : decode cX0_distance 16 = .ok (.iload_n 2, 1) := dk_28 (dk_at dksX0_distance_0 16 rfl rfl)
theorem dX0_distance_17 : decode cX0_distance 17 = .ok (.invokevirtual 143, 3) := dk_182 0 143 (dk_at dksX0_distance_0 17 rfl rfl)
theorem dX0_distance_20 : decode cX0_distance 20 = .ok (.goto 4, 3) := dk_167 0 4 (dk_at dksX0_distance_0 20 rfl rfl)
theorem dX0_distance_23 : decode cX0_distance 23 = .ok (.iconst (-1), 1) := dk_2 (dk_at dksX0_distance_0 23 rfl rfl)
theorem dX0_distance_24 : decode cX0_distance 24 = .ok (.ireturn, 1) := dk_172 (dk_at dksX0_distance_1 0 rfl rfl)
abbrev cX0_distanceOf : ByteArray := prog_1_method_14_code
def yX0_distanceOf : MethodName := ⟨RX0, "distanceOf", "(II)I"⟩
def dkwX0_distanceOf_1 : List UInt8 := [28, 46, 18, 142, 160, 0, 8, 16, 251, 167, 0, 9, 42, 180, 0, 37, 28, 46, 172]
abbrev dktX0_distanceOf_1 : List UInt8 := dkwX0_distanceOf_1 ++ []
def dkwX0_distanceOf_0 : List UInt8 := [42, 180, 0, 26, 42, 180, 0, 12, 180, 0, 135, 27, 42, 180, 0, 37, 3, 182, 0, 139, 42, 180, 0, 37]
abbrev dktX0_distanceOf_0 : List UInt8 := dkwX0_distanceOf_0 ++ dktX0_distanceOf_1
theorem dksX0_distanceOf_0 : cX0_distanceOf.data.toList.drop 0 = dktX0_distanceOf_0 := by decide +kernel
theorem dksX0_distanceOf_1 : cX0_distanceOf.data.toList.drop 24 = dktX0_distanceOf_1 := dk_seg dksX0_distanceOf_0 24 rfl rfl
theorem dX0_distanceOf_0 : decode cX0_distanceOf 0 = .ok (.aload_n 0, 1) := dk_42 (dk_at dksX0_distanceOf_0 0 rfl rfl)
theorem dX0_distanceOf_1 : decode cX0_distanceOf 1 = .ok (.getfield 26, 3) := dk_180 0 26 (dk_at dksX0_distanceOf_0 1 rfl rfl)
theorem dX0_distanceOf_4 : decode cX0_distanceOf 4 = .ok (.aload_n 0, 1) := dk_42 (dk_at dksX0_distanceOf_0 4 rfl rfl)
theorem dX0_distanceOf_5 : decode cX0_distanceOf 5 = .ok (.getfield 12, 3) := dk_180 0 12 (dk_at dksX0_distanceOf_0 5 rfl rfl)
theorem dX0_distanceOf_8 : decode cX0_distanceOf 8 = .ok (.getfield 135, 3) := dk_180 0 135 (dk_at dksX0_distanceOf_0 8 rfl rfl)
theorem dX0_distanceOf_11 : decode cX0_distanceOf 11 = .ok (.iload_n 1, 1) := dk_27 (dk_at dksX0_distanceOf_0 11 rfl rfl)
theorem dX0_distanceOf_12 : decode cX0_distanceOf 12 = .ok (.aload_n 0, 1) := dk_42 (dk_at dksX0_distanceOf_0 12 rfl rfl)
theorem dX0_distanceOf_13 : decode cX0_distanceOf 13 = .ok (.getfield 37, 3) := dk_180 0 37 (dk_at dksX0_distanceOf_0 13 rfl rfl)
theorem dX0_distanceOf_16 : decode cX0_distanceOf 16 = .ok (.iconst 0, 1) := dk_3 (dk_at dksX0_distanceOf_0 16 rfl rfl)
theorem dX0_distanceOf_17 : decode cX0_distanceOf 17 = .ok (.invokevirtual 139, 3) := dk_182 0 139 (dk_at dksX0_distanceOf_0 17 rfl rfl)
theorem dX0_distanceOf_20 : decode cX0_distanceOf 20 = .ok (.aload_n 0, 1) := dk_42 (dk_at dksX0_distanceOf_0 20 rfl rfl)
theorem dX0_distanceOf_21 : decode cX0_distanceOf 21 = .ok (.getfield 37, 3) := dk_180 0 37 (dk_at dksX0_distanceOf_0 21 rfl rfl)
theorem dX0_distanceOf_24 : decode cX0_distanceOf 24 = .ok (.iload_n 2, 1) := dk_28 (dk_at dksX0_distanceOf_1 0 rfl rfl)
theorem dX0_distanceOf_25 : decode cX0_distanceOf 25 = .ok (.iaload, 1) := dk_46 (dk_at dksX0_distanceOf_1 1 rfl rfl)
theorem dX0_distanceOf_26 : decode cX0_distanceOf 26 = .ok (.ldc 142, 2) := dk_18 142 (dk_at dksX0_distanceOf_1 2 rfl rfl)
theorem dX0_distanceOf_28 : decode cX0_distanceOf 28 = .ok (.if_icmp .ne 8, 3) := dk_160 0 8 (dk_at dksX0_distanceOf_1 4 rfl rfl)
theorem dX0_distanceOf_31 : decode cX0_distanceOf 31 = .ok (.bipush (-5), 2) := dk_16 251 (dk_at dksX0_distanceOf_1 7 rfl rfl)
theorem dX0_distanceOf_33 : decode cX0_distanceOf 33 = .ok (.goto 9, 3) := dk_167 0 9 (dk_at dksX0_distanceOf_1 9 rfl rfl)
theorem dX0_distanceOf_36 : decode cX0_distanceOf 36 = .ok (.aload_n 0, 1) := dk_42 (dk_at dksX0_distanceOf_1 12 rfl rfl)
theorem dX0_distanceOf_37 : decode cX0_distanceOf 37 = .ok (.getfield 37, 3) := dk_180 0 37 (dk_at dksX0_distanceOf_1 13 rfl rfl)
theorem dX0_distanceOf_40 : decode cX0_distanceOf 40 = .ok (.iload_n 2, 1) := dk_28 (dk_at dksX0_distanceOf_1 16 rfl rfl)
theorem dX0_distanceOf_41 : decode cX0_distanceOf 41 = .ok (.iaload, 1) := dk_46 (dk_at dksX0_distanceOf_1 17 rfl rfl)
theorem dX0_distanceOf_42 : decode cX0_distanceOf 42 = .ok (.ireturn, 1) := dk_172 (dk_at dksX0_distanceOf_1 18 rfl rfl)
abbrev cX0_days : ByteArray := prog_1_method_16_code
def yX0_days : MethodName := ⟨RX0, "days", "(II)I"⟩
def dkwX0_days_1 : List UInt8 := [4, 100, 42, 180, 0, 12, 180, 0, 129, 108, 172]
abbrev dktX0_days_1 : List UInt8 := dkwX0_days_1 ++ []
def dkwX0_days_0 : List UInt8 := [42, 27, 28, 182, 0, 147, 62, 29, 156, 0, 7, 29, 167, 0, 22, 29, 42, 180, 0, 12, 180, 0, 129, 96]
abbrev dktX0_days_0 : List UInt8 := dkwX0_days_0 ++ dktX0_days_1
theorem dksX0_days_0 : cX0_days.data.toList.drop 0 = dktX0_days_0 := by decide +kernel
theorem dksX0_days_1 : cX0_days.data.toList.drop 24 = dktX0_days_1 := dk_seg dksX0_days_0 24 rfl rfl
theorem dX0_days_0 : decode cX0_days 0 = .ok (.aload_n 0, 1) := dk_42 (dk_at dksX0_days_0 0 rfl rfl)
theorem dX0_days_1 : decode cX0_days 1 = .ok (.iload_n 1, 1) := dk_27 (dk_at dksX0_days_0 1 rfl rfl)
theorem dX0_days_2 : decode cX0_days 2 = .ok (.iload_n 2, 1) := dk_28 (dk_at dksX0_days_0 2 rfl rfl)
theorem dX0_days_3 : decode cX0_days 3 = .ok (.invokevirtual 147, 3) := dk_182 0 147 (dk_at dksX0_days_0 3 rfl rfl)
theorem dX0_days_6 : decode cX0_days 6 = .ok (.istore_n 3, 1) := dk_62 (dk_at dksX0_days_0 6 rfl rfl)
theorem dX0_days_7 : decode cX0_days 7 = .ok (.iload_n 3, 1) := dk_29 (dk_at dksX0_days_0 7 rfl rfl)
theorem dX0_days_8 : decode cX0_days 8 = .ok (.ifCond .ge 7, 3) := dk_156 0 7 (dk_at dksX0_days_0 8 rfl rfl)
theorem dX0_days_11 : decode cX0_days 11 = .ok (.iload_n 3, 1) := dk_29 (dk_at dksX0_days_0 11 rfl rfl)
theorem dX0_days_12 : decode cX0_days 12 = .ok (.goto 22, 3) := dk_167 0 22 (dk_at dksX0_days_0 12 rfl rfl)
theorem dX0_days_15 : decode cX0_days 15 = .ok (.iload_n 3, 1) := dk_29 (dk_at dksX0_days_0 15 rfl rfl)
theorem dX0_days_16 : decode cX0_days 16 = .ok (.aload_n 0, 1) := dk_42 (dk_at dksX0_days_0 16 rfl rfl)
theorem dX0_days_17 : decode cX0_days 17 = .ok (.getfield 12, 3) := dk_180 0 12 (dk_at dksX0_days_0 17 rfl rfl)
theorem dX0_days_20 : decode cX0_days 20 = .ok (.getfield 129, 3) := dk_180 0 129 (dk_at dksX0_days_0 20 rfl rfl)
theorem dX0_days_23 : decode cX0_days 23 = .ok (.iadd, 1) := dk_96 (dk_at dksX0_days_0 23 rfl rfl)
theorem dX0_days_24 : decode cX0_days 24 = .ok (.iconst 1, 1) := dk_4 (dk_at dksX0_days_1 0 rfl rfl)
theorem dX0_days_25 : decode cX0_days 25 = .ok (.isub, 1) := dk_100 (dk_at dksX0_days_1 1 rfl rfl)
theorem dX0_days_26 : decode cX0_days 26 = .ok (.aload_n 0, 1) := dk_42 (dk_at dksX0_days_1 2 rfl rfl)
theorem dX0_days_27 : decode cX0_days 27 = .ok (.getfield 12, 3) := dk_180 0 12 (dk_at dksX0_days_1 3 rfl rfl)
theorem dX0_days_30 : decode cX0_days 30 = .ok (.getfield 129, 3) := dk_180 0 129 (dk_at dksX0_days_1 6 rfl rfl)
theorem dX0_days_33 : decode cX0_days 33 = .ok (.idiv, 1) := dk_108 (dk_at dksX0_days_1 9 rfl rfl)
theorem dX0_days_34 : decode cX0_days 34 = .ok (.ireturn, 1) := dk_172 (dk_at dksX0_days_1 10 rfl rfl)
abbrev cX0_page : ByteArray := prog_1_method_17_code
def yX0_page : MethodName := ⟨RX0, "page", "(II)I"⟩
def dkwX0_page_2 : List UInt8 := [42, 25, 4, 182, 0, 122, 172]
abbrev dktX0_page_2 : List UInt8 := dkwX0_page_2 ++ []
def dkwX0_page_1 : List UInt8 := [180, 0, 12, 182, 0, 111, 78, 42, 45, 42, 180, 0, 12, 27, 28, 182, 0, 150, 182, 0, 118, 172, 58, 4]
abbrev dktX0_page_1 : List UInt8 := dkwX0_page_1 ++ dktX0_page_2
def dkwX0_page_0 : List UInt8 := [27, 3, 5, 184, 0, 51, 153, 0, 13, 28, 3, 16, 99, 184, 0, 51, 154, 0, 6, 16, 254, 172, 42]
abbrev dktX0_page_0 : List UInt8 := dkwX0_page_0 ++ dktX0_page_1
theorem dksX0_page_0 : cX0_page.data.toList.drop 0 = dktX0_page_0 := by decide +kernel
theorem dksX0_page_1 : cX0_page.data.toList.drop 23 = dktX0_page_1 := dk_seg dksX0_page_0 23 rfl rfl
theorem dksX0_page_2 : cX0_page.data.toList.drop 47 = dktX0_page_2 := dk_seg dksX0_page_1 24 rfl rfl
theorem dX0_page_0 : decode cX0_page 0 = .ok (.iload_n 1, 1) := dk_27 (dk_at dksX0_page_0 0 rfl rfl)
theorem dX0_page_1 : decode cX0_page 1 = .ok (.iconst 0, 1) := dk_3 (dk_at dksX0_page_0 1 rfl rfl)
theorem dX0_page_2 : decode cX0_page 2 = .ok (.iconst 2, 1) := dk_5 (dk_at dksX0_page_0 2 rfl rfl)
theorem dX0_page_3 : decode cX0_page 3 = .ok (.invokestatic 51, 3) := dk_184 0 51 (dk_at dksX0_page_0 3 rfl rfl)
theorem dX0_page_6 : decode cX0_page 6 = .ok (.ifCond .eq 13, 3) := dk_153 0 13 (dk_at dksX0_page_0 6 rfl rfl)
theorem dX0_page_9 : decode cX0_page 9 = .ok (.iload_n 2, 1) := dk_28 (dk_at dksX0_page_0 9 rfl rfl)
theorem dX0_page_10 : decode cX0_page 10 = .ok (.iconst 0, 1) := dk_3 (dk_at dksX0_page_0 10 rfl rfl)
theorem dX0_page_11 : decode cX0_page 11 = .ok (.bipush 99, 2) := dk_16 99 (dk_at dksX0_page_0 11 rfl rfl)
theorem dX0_page_13 : decode cX0_page 13 = .ok (.invokestatic 51, 3) := dk_184 0 51 (dk_at dksX0_page_0 13 rfl rfl)
theorem dX0_page_16 : decode cX0_page 16 = .ok (.ifCond .ne 6, 3) := dk_154 0 6 (dk_at dksX0_page_0 16 rfl rfl)
theorem dX0_page_19 : decode cX0_page 19 = .ok (.bipush (-2), 2) := dk_16 254 (dk_at dksX0_page_0 19 rfl rfl)
theorem dX0_page_21 : decode cX0_page 21 = .ok (.ireturn, 1) := dk_172 (dk_at dksX0_page_0 21 rfl rfl)
theorem dX0_page_22 : decode cX0_page 22 = .ok (.aload_n 0, 1) := dk_42 (dk_at dksX0_page_0 22 rfl rfl)
theorem dX0_page_23 : decode cX0_page 23 = .ok (.getfield 12, 3) := dk_180 0 12 (dk_at dksX0_page_1 0 rfl rfl)
theorem dX0_page_26 : decode cX0_page 26 = .ok (.invokevirtual 111, 3) := dk_182 0 111 (dk_at dksX0_page_1 3 rfl rfl)
theorem dX0_page_29 : decode cX0_page 29 = .ok (.astore_n 3, 1) := dk_78 (dk_at dksX0_page_1 6 rfl rfl)
theorem dX0_page_30 : decode cX0_page 30 = .ok (.aload_n 0, 1) := dk_42 (dk_at dksX0_page_1 7 rfl rfl)
theorem dX0_page_31 : decode cX0_page 31 = .ok (.aload_n 3, 1) := dk_45 (dk_at dksX0_page_1 8 rfl rfl)
theorem dX0_page_32 : decode cX0_page 32 = .ok (.aload_n 0, 1) := dk_42 (dk_at dksX0_page_1 9 rfl rfl)
theorem dX0_page_33 : decode cX0_page 33 = .ok (.getfield 12, 3) := dk_180 0 12 (dk_at dksX0_page_1 10 rfl rfl)
theorem dX0_page_36 : decode cX0_page 36 = .ok (.iload_n 1, 1) := dk_27 (dk_at dksX0_page_1 13 rfl rfl)
theorem dX0_page_37 : decode cX0_page 37 = .ok (.iload_n 2, 1) := dk_28 (dk_at dksX0_page_1 14 rfl rfl)
theorem dX0_page_38 : decode cX0_page 38 = .ok (.invokevirtual 150, 3) := dk_182 0 150 (dk_at dksX0_page_1 15 rfl rfl)
theorem dX0_page_41 : decode cX0_page 41 = .ok (.invokevirtual 118, 3) := dk_182 0 118 (dk_at dksX0_page_1 18 rfl rfl)
theorem dX0_page_44 : decode cX0_page 44 = .ok (.ireturn, 1) := dk_172 (dk_at dksX0_page_1 21 rfl rfl)
theorem dX0_page_45 : decode cX0_page 45 = .ok (.astore 4, 2) := dk_58 4 (dk_at dksX0_page_1 22 rfl rfl)
theorem dX0_page_47 : decode cX0_page 47 = .ok (.aload_n 0, 1) := dk_42 (dk_at dksX0_page_2 0 rfl rfl)
theorem dX0_page_48 : decode cX0_page 48 = .ok (.aload 4, 2) := dk_25 4 (dk_at dksX0_page_2 1 rfl rfl)
theorem dX0_page_50 : decode cX0_page 50 = .ok (.invokevirtual 122, 3) := dk_182 0 122 (dk_at dksX0_page_2 3 rfl rfl)
theorem dX0_page_53 : decode cX0_page 53 = .ok (.ireturn, 1) := dk_172 (dk_at dksX0_page_2 6 rfl rfl)
abbrev cX0_entry : ByteArray := prog_1_method_18_code
def yX0_entry : MethodName := ⟨RX0, "entry", "(IIII)I"⟩
def dkwX0_entry_2 : List UInt8 := [28, 29, 21, 4, 182, 0, 156, 182, 0, 118, 172, 58, 6, 42, 25, 6, 182, 0, 122, 172]
abbrev dktX0_entry_2 : List UInt8 := dkwX0_entry_2 ++ []
def dkwX0_entry_1 : List UInt8 := [184, 0, 51, 153, 0, 10, 29, 184, 0, 107, 154, 0, 6, 16, 254, 172, 42, 25, 5, 42, 180, 0, 12, 27]
abbrev dktX0_entry_1 : List UInt8 := dkwX0_entry_1 ++ dktX0_entry_2
def dkwX0_entry_0 : List UInt8 := [42, 180, 0, 12, 182, 0, 111, 58, 5, 42, 180, 0, 12, 27, 21, 4, 182, 0, 153, 28, 3, 17, 3, 231]
abbrev dktX0_entry_0 : List UInt8 := dkwX0_entry_0 ++ dktX0_entry_1
theorem dksX0_entry_0 : cX0_entry.data.toList.drop 0 = dktX0_entry_0 := by decide +kernel
theorem dksX0_entry_1 : cX0_entry.data.toList.drop 24 = dktX0_entry_1 := dk_seg dksX0_entry_0 24 rfl rfl
theorem dksX0_entry_2 : cX0_entry.data.toList.drop 48 = dktX0_entry_2 := dk_seg dksX0_entry_1 24 rfl rfl
theorem dX0_entry_0 : decode cX0_entry 0 = .ok (.aload_n 0, 1) := dk_42 (dk_at dksX0_entry_0 0 rfl rfl)
theorem dX0_entry_1 : decode cX0_entry 1 = .ok (.getfield 12, 3) := dk_180 0 12 (dk_at dksX0_entry_0 1 rfl rfl)
theorem dX0_entry_4 : decode cX0_entry 4 = .ok (.invokevirtual 111, 3) := dk_182 0 111 (dk_at dksX0_entry_0 4 rfl rfl)
theorem dX0_entry_7 : decode cX0_entry 7 = .ok (.astore 5, 2) := dk_58 5 (dk_at dksX0_entry_0 7 rfl rfl)
theorem dX0_entry_9 : decode cX0_entry 9 = .ok (.aload_n 0, 1) := dk_42 (dk_at dksX0_entry_0 9 rfl rfl)
theorem dX0_entry_10 : decode cX0_entry 10 = .ok (.getfield 12, 3) := dk_180 0 12 (dk_at dksX0_entry_0 10 rfl rfl)
theorem dX0_entry_13 : decode cX0_entry 13 = .ok (.iload_n 1, 1) := dk_27 (dk_at dksX0_entry_0 13 rfl rfl)
theorem dX0_entry_14 : decode cX0_entry 14 = .ok (.iload 4, 2) := dk_21 4 (dk_at dksX0_entry_0 14 rfl rfl)
theorem dX0_entry_16 : decode cX0_entry 16 = .ok (.invokevirtual 153, 3) := dk_182 0 153 (dk_at dksX0_entry_0 16 rfl rfl)
theorem dX0_entry_19 : decode cX0_entry 19 = .ok (.iload_n 2, 1) := dk_28 (dk_at dksX0_entry_0 19 rfl rfl)
theorem dX0_entry_20 : decode cX0_entry 20 = .ok (.iconst 0, 1) := dk_3 (dk_at dksX0_entry_0 20 rfl rfl)
theorem dX0_entry_21 : decode cX0_entry 21 = .ok (.sipush 999, 3) := dk_17 3 231 (dk_at dksX0_entry_0 21 rfl rfl)
theorem dX0_entry_24 : decode cX0_entry 24 = .ok (.invokestatic 51, 3) := dk_184 0 51 (dk_at dksX0_entry_1 0 rfl rfl)
theorem dX0_entry_27 : decode cX0_entry 27 = .ok (.ifCond .eq 10, 3) := dk_153 0 10 (dk_at dksX0_entry_1 3 rfl rfl)
theorem dX0_entry_30 : decode cX0_entry 30 = .ok (.iload_n 3, 1) := dk_29 (dk_at dksX0_entry_1 6 rfl rfl)
theorem dX0_entry_31 : decode cX0_entry 31 = .ok (.invokestatic 107, 3) := dk_184 0 107 (dk_at dksX0_entry_1 7 rfl rfl)
theorem dX0_entry_34 : decode cX0_entry 34 = .ok (.ifCond .ne 6, 3) := dk_154 0 6 (dk_at dksX0_entry_1 10 rfl rfl)
theorem dX0_entry_37 : decode cX0_entry 37 = .ok (.bipush (-2), 2) := dk_16 254 (dk_at dksX0_entry_1 13 rfl rfl)
theorem dX0_entry_39 : decode cX0_entry 39 = .ok (.ireturn, 1) := dk_172 (dk_at dksX0_entry_1 15 rfl rfl)
theorem dX0_entry_40 : decode cX0_entry 40 = .ok (.aload_n 0, 1) := dk_42 (dk_at dksX0_entry_1 16 rfl rfl)
theorem dX0_entry_41 : decode cX0_entry 41 = .ok (.aload 5, 2) := dk_25 5 (dk_at dksX0_entry_1 17 rfl rfl)
theorem dX0_entry_43 : decode cX0_entry 43 = .ok (.aload_n 0, 1) := dk_42 (dk_at dksX0_entry_1 19 rfl rfl)
theorem dX0_entry_44 : decode cX0_entry 44 = .ok (.getfield 12, 3) := dk_180 0 12 (dk_at dksX0_entry_1 20 rfl rfl)
theorem dX0_entry_47 : decode cX0_entry 47 = .ok (.iload_n 1, 1) := dk_27 (dk_at dksX0_entry_1 23 rfl rfl)
theorem dX0_entry_48 : decode cX0_entry 48 = .ok (.iload_n 2, 1) := dk_28 (dk_at dksX0_entry_2 0 rfl rfl)
theorem dX0_entry_49 : decode cX0_entry 49 = .ok (.iload_n 3, 1) := dk_29 (dk_at dksX0_entry_2 1 rfl rfl)
theorem dX0_entry_50 : decode cX0_entry 50 = .ok (.iload 4, 2) := dk_21 4 (dk_at dksX0_entry_2 2 rfl rfl)
theorem dX0_entry_52 : decode cX0_entry 52 = .ok (.invokevirtual 156, 3) := dk_182 0 156 (dk_at dksX0_entry_2 4 rfl rfl)
theorem dX0_entry_55 : decode cX0_entry 55 = .ok (.invokevirtual 118, 3) := dk_182 0 118 (dk_at dksX0_entry_2 7 rfl rfl)
theorem dX0_entry_58 : decode cX0_entry 58 = .ok (.ireturn, 1) := dk_172 (dk_at dksX0_entry_2 10 rfl rfl)
theorem dX0_entry_59 : decode cX0_entry 59 = .ok (.astore 6, 2) := dk_58 6 (dk_at dksX0_entry_2 11 rfl rfl)
theorem dX0_entry_61 : decode cX0_entry 61 = .ok (.aload_n 0, 1) := dk_42 (dk_at dksX0_entry_2 13 rfl rfl)
theorem dX0_entry_62 : decode cX0_entry 62 = .ok (.aload 6, 2) := dk_25 6 (dk_at dksX0_entry_2 14 rfl rfl)
theorem dX0_entry_64 : decode cX0_entry 64 = .ok (.invokevirtual 122, 3) := dk_182 0 122 (dk_at dksX0_entry_2 16 rfl rfl)
theorem dX0_entry_67 : decode cX0_entry 67 = .ok (.ireturn, 1) := dk_172 (dk_at dksX0_entry_2 19 rfl rfl)
abbrev cX0_move : ByteArray := prog_1_method_19_code
def yX0_move : MethodName := ⟨RX0, "move", "(II)I"⟩
def dkwX0_move_3 : List UInt8 := [182, 0, 118, 172]
abbrev dktX0_move_3 : List UInt8 := dkwX0_move_3 ++ []
def dkwX0_move_2 : List UInt8 := [42, 180, 0, 12, 180, 0, 163, 28, 25, 4, 182, 0, 175, 42, 45, 42, 182, 0, 85, 182, 0, 179]
abbrev dktX0_move_2 : List UInt8 := dkwX0_move_2 ++ dktX0_move_3
def dkwX0_move_1 : List UInt8 := [42, 180, 0, 12, 182, 0, 111, 78, 42, 180, 0, 12, 180, 0, 163, 27, 182, 0, 167, 192, 0, 173, 58, 4]
abbrev dktX0_move_1 : List UInt8 := dkwX0_move_1 ++ dktX0_move_2
def dkwX0_move_0 : List UInt8 := [42, 180, 0, 12, 27, 182, 0, 160, 153, 0, 14, 42, 180, 0, 12, 28, 182, 0, 160, 154, 0, 5, 2, 172]
abbrev dktX0_move_0 : List UInt8 := dkwX0_move_0 ++ dktX0_move_1
theorem dksX0_move_0 : cX0_move.data.toList.drop 0 = dktX0_move_0 := by decide +kernel
theorem dksX0_move_1 : cX0_move.data.toList.drop 24 = dktX0_move_1 := dk_seg dksX0_move_0 24 rfl rfl
theorem dksX0_move_2 : cX0_move.data.toList.drop 48 = dktX0_move_2 := dk_seg dksX0_move_1 24 rfl rfl
theorem dksX0_move_3 : cX0_move.data.toList.drop 70 = dktX0_move_3 := dk_seg dksX0_move_2 22 rfl rfl
theorem dX0_move_0 : decode cX0_move 0 = .ok (.aload_n 0, 1) := dk_42 (dk_at dksX0_move_0 0 rfl rfl)
theorem dX0_move_1 : decode cX0_move 1 = .ok (.getfield 12, 3) := dk_180 0 12 (dk_at dksX0_move_0 1 rfl rfl)
theorem dX0_move_4 : decode cX0_move 4 = .ok (.iload_n 1, 1) := dk_27 (dk_at dksX0_move_0 4 rfl rfl)
theorem dX0_move_5 : decode cX0_move 5 = .ok (.invokevirtual 160, 3) := dk_182 0 160 (dk_at dksX0_move_0 5 rfl rfl)
theorem dX0_move_8 : decode cX0_move 8 = .ok (.ifCond .eq 14, 3) := dk_153 0 14 (dk_at dksX0_move_0 8 rfl rfl)
theorem dX0_move_11 : decode cX0_move 11 = .ok (.aload_n 0, 1) := dk_42 (dk_at dksX0_move_0 11 rfl rfl)
theorem dX0_move_12 : decode cX0_move 12 = .ok (.getfield 12, 3) := dk_180 0 12 (dk_at dksX0_move_0 12 rfl rfl)
theorem dX0_move_15 : decode cX0_move 15 = .ok (.iload_n 2, 1) := dk_28 (dk_at dksX0_move_0 15 rfl rfl)
theorem dX0_move_16 : decode cX0_move 16 = .ok (.invokevirtual 160, 3) := dk_182 0 160 (dk_at dksX0_move_0 16 rfl rfl)
theorem dX0_move_19 : decode cX0_move 19 = .ok (.ifCond .ne 5, 3) := dk_154 0 5 (dk_at dksX0_move_0 19 rfl rfl)
theorem dX0_move_22 : decode cX0_move 22 = .ok (.iconst (-1), 1) := dk_2 (dk_at dksX0_move_0 22 rfl rfl)
theorem dX0_move_23 : decode cX0_move 23 = .ok (.ireturn, 1) := dk_172 (dk_at dksX0_move_0 23 rfl rfl)
theorem dX0_move_24 : decode cX0_move 24 = .ok (.aload_n 0, 1) := dk_42 (dk_at dksX0_move_1 0 rfl rfl)
theorem dX0_move_25 : decode cX0_move 25 = .ok (.getfield 12, 3) := dk_180 0 12 (dk_at dksX0_move_1 1 rfl rfl)
theorem dX0_move_28 : decode cX0_move 28 = .ok (.invokevirtual 111, 3) := dk_182 0 111 (dk_at dksX0_move_1 4 rfl rfl)
theorem dX0_move_31 : decode cX0_move 31 = .ok (.astore_n 3, 1) := dk_78 (dk_at dksX0_move_1 7 rfl rfl)
theorem dX0_move_32 : decode cX0_move 32 = .ok (.aload_n 0, 1) := dk_42 (dk_at dksX0_move_1 8 rfl rfl)
theorem dX0_move_33 : decode cX0_move 33 = .ok (.getfield 12, 3) := dk_180 0 12 (dk_at dksX0_move_1 9 rfl rfl)
theorem dX0_move_36 : decode cX0_move 36 = .ok (.getfield 163, 3) := dk_180 0 163 (dk_at dksX0_move_1 12 rfl rfl)
theorem dX0_move_39 : decode cX0_move 39 = .ok (.iload_n 1, 1) := dk_27 (dk_at dksX0_move_1 15 rfl rfl)
theorem dX0_move_40 : decode cX0_move 40 = .ok (.invokevirtual 167, 3) := dk_182 0 167 (dk_at dksX0_move_1 16 rfl rfl)
theorem dX0_move_43 : decode cX0_move 43 = .ok (.checkcast 173, 3) := dk_192 0 173 (dk_at dksX0_move_1 19 rfl rfl)
theorem dX0_move_46 : decode cX0_move 46 = .ok (.astore 4, 2) := dk_58 4 (dk_at dksX0_move_1 22 rfl rfl)
theorem dX0_move_48 : decode cX0_move 48 = .ok (.aload_n 0, 1) := dk_42 (dk_at dksX0_move_2 0 rfl rfl)
theorem dX0_move_49 : decode cX0_move 49 = .ok (.getfield 12, 3) := dk_180 0 12 (dk_at dksX0_move_2 1 rfl rfl)
theorem dX0_move_52 : decode cX0_move 52 = .ok (.getfield 163, 3) := dk_180 0 163 (dk_at dksX0_move_2 4 rfl rfl)
theorem dX0_move_55 : decode cX0_move 55 = .ok (.iload_n 2, 1) := dk_28 (dk_at dksX0_move_2 7 rfl rfl)
theorem dX0_move_56 : decode cX0_move 56 = .ok (.aload 4, 2) := dk_25 4 (dk_at dksX0_move_2 8 rfl rfl)
theorem dX0_move_58 : decode cX0_move 58 = .ok (.invokevirtual 175, 3) := dk_182 0 175 (dk_at dksX0_move_2 10 rfl rfl)
theorem dX0_move_61 : decode cX0_move 61 = .ok (.aload_n 0, 1) := dk_42 (dk_at dksX0_move_2 13 rfl rfl)
theorem dX0_move_62 : decode cX0_move 62 = .ok (.aload_n 3, 1) := dk_45 (dk_at dksX0_move_2 14 rfl rfl)
theorem dX0_move_63 : decode cX0_move 63 = .ok (.aload_n 0, 1) := dk_42 (dk_at dksX0_move_2 15 rfl rfl)
theorem dX0_move_64 : decode cX0_move 64 = .ok (.invokevirtual 85, 3) := dk_182 0 85 (dk_at dksX0_move_2 16 rfl rfl)
theorem dX0_move_67 : decode cX0_move 67 = .ok (.invokevirtual 179, 3) := dk_182 0 179 (dk_at dksX0_move_2 19 rfl rfl)
theorem dX0_move_70 : decode cX0_move 70 = .ok (.invokevirtual 118, 3) := dk_182 0 118 (dk_at dksX0_move_3 0 rfl rfl)
theorem dX0_move_73 : decode cX0_move 73 = .ok (.ireturn, 1) := dk_172 (dk_at dksX0_move_3 3 rfl rfl)
abbrev cX0_listed : ByteArray := prog_1_method_7_code
def yX0_listed : MethodName := ⟨RX0, "listed", "()LWhalingLogs$Listing;"⟩
def dkwX0_listed_0 : List UInt8 := [42, 180, 0, 33, 42, 180, 0, 12, 182, 0, 81, 176]
abbrev dktX0_listed_0 : List UInt8 := dkwX0_listed_0 ++ []
theorem dksX0_listed_0 : cX0_listed.data.toList.drop 0 = dktX0_listed_0 := by decide +kernel
theorem dX0_listed_0 : decode cX0_listed 0 = .ok (.aload_n 0, 1) := dk_42 (dk_at dksX0_listed_0 0 rfl rfl)
theorem dX0_listed_1 : decode cX0_listed 1 = .ok (.getfield 33, 3) := dk_180 0 33 (dk_at dksX0_listed_0 1 rfl rfl)
theorem dX0_listed_4 : decode cX0_listed 4 = .ok (.aload_n 0, 1) := dk_42 (dk_at dksX0_listed_0 4 rfl rfl)
theorem dX0_listed_5 : decode cX0_listed 5 = .ok (.getfield 12, 3) := dk_180 0 12 (dk_at dksX0_listed_0 5 rfl rfl)
theorem dX0_listed_8 : decode cX0_listed 8 = .ok (.invokevirtual 81, 3) := dk_182 0 81 (dk_at dksX0_listed_0 8 rfl rfl)
theorem dX0_listed_11 : decode cX0_listed 11 = .ok (.areturn, 1) := dk_176 (dk_at dksX0_listed_0 11 rfl rfl)
abbrev cX0_drop : ByteArray := prog_1_method_20_code
def yX0_drop : MethodName := ⟨RX0, "drop", "(I)I"⟩
def dkwX0_drop_2 : List UInt8 := [182, 0, 182, 182, 0, 118, 172]
abbrev dktX0_drop_2 : List UInt8 := dkwX0_drop_2 ++ []
def dkwX0_drop_1 : List UInt8 := [180, 0, 12, 180, 0, 163, 27, 182, 0, 167, 192, 0, 173, 78, 42, 44, 42, 180, 0, 12, 180, 0, 163]
abbrev dktX0_drop_1 : List UInt8 := dkwX0_drop_1 ++ dktX0_drop_2
def dkwX0_drop_0 : List UInt8 := [42, 180, 0, 12, 27, 182, 0, 160, 154, 0, 5, 2, 172, 42, 180, 0, 12, 182, 0, 111, 77, 42]
abbrev dktX0_drop_0 : List UInt8 := dkwX0_drop_0 ++ dktX0_drop_1
theorem dksX0_drop_0 : cX0_drop.data.toList.drop 0 = dktX0_drop_0 := by decide +kernel
theorem dksX0_drop_1 : cX0_drop.data.toList.drop 22 = dktX0_drop_1 := dk_seg dksX0_drop_0 22 rfl rfl
theorem dksX0_drop_2 : cX0_drop.data.toList.drop 45 = dktX0_drop_2 := dk_seg dksX0_drop_1 23 rfl rfl
theorem dX0_drop_0 : decode cX0_drop 0 = .ok (.aload_n 0, 1) := dk_42 (dk_at dksX0_drop_0 0 rfl rfl)
theorem dX0_drop_1 : decode cX0_drop 1 = .ok (.getfield 12, 3) := dk_180 0 12 (dk_at dksX0_drop_0 1 rfl rfl)
theorem dX0_drop_4 : decode cX0_drop 4 = .ok (.iload_n 1, 1) := dk_27 (dk_at dksX0_drop_0 4 rfl rfl)
theorem dX0_drop_5 : decode cX0_drop 5 = .ok (.invokevirtual 160, 3) := dk_182 0 160 (dk_at dksX0_drop_0 5 rfl rfl)
theorem dX0_drop_8 : decode cX0_drop 8 = .ok (.ifCond .ne 5, 3) := dk_154 0 5 (dk_at dksX0_drop_0 8 rfl rfl)
theorem dX0_drop_11 : decode cX0_drop 11 = .ok (.iconst (-1), 1) := dk_2 (dk_at dksX0_drop_0 11 rfl rfl)
theorem dX0_drop_12 : decode cX0_drop 12 = .ok (.ireturn, 1) := dk_172 (dk_at dksX0_drop_0 12 rfl rfl)
theorem dX0_drop_13 : decode cX0_drop 13 = .ok (.aload_n 0, 1) := dk_42 (dk_at dksX0_drop_0 13 rfl rfl)
theorem dX0_drop_14 : decode cX0_drop 14 = .ok (.getfield 12, 3) := dk_180 0 12 (dk_at dksX0_drop_0 14 rfl rfl)
theorem dX0_drop_17 : decode cX0_drop 17 = .ok (.invokevirtual 111, 3) := dk_182 0 111 (dk_at dksX0_drop_0 17 rfl rfl)
theorem dX0_drop_20 : decode cX0_drop 20 = .ok (.astore_n 2, 1) := dk_77 (dk_at dksX0_drop_0 20 rfl rfl)
theorem dX0_drop_21 : decode cX0_drop 21 = .ok (.aload_n 0, 1) := dk_42 (dk_at dksX0_drop_0 21 rfl rfl)
theorem dX0_drop_22 : decode cX0_drop 22 = .ok (.getfield 12, 3) := dk_180 0 12 (dk_at dksX0_drop_1 0 rfl rfl)
theorem dX0_drop_25 : decode cX0_drop 25 = .ok (.getfield 163, 3) := dk_180 0 163 (dk_at dksX0_drop_1 3 rfl rfl)
theorem dX0_drop_28 : decode cX0_drop 28 = .ok (.iload_n 1, 1) := dk_27 (dk_at dksX0_drop_1 6 rfl rfl)
theorem dX0_drop_29 : decode cX0_drop 29 = .ok (.invokevirtual 167, 3) := dk_182 0 167 (dk_at dksX0_drop_1 7 rfl rfl)
theorem dX0_drop_32 : decode cX0_drop 32 = .ok (.checkcast 173, 3) := dk_192 0 173 (dk_at dksX0_drop_1 10 rfl rfl)
theorem dX0_drop_35 : decode cX0_drop 35 = .ok (.astore_n 3, 1) := dk_78 (dk_at dksX0_drop_1 13 rfl rfl)
theorem dX0_drop_36 : decode cX0_drop 36 = .ok (.aload_n 0, 1) := dk_42 (dk_at dksX0_drop_1 14 rfl rfl)
theorem dX0_drop_37 : decode cX0_drop 37 = .ok (.aload_n 2, 1) := dk_44 (dk_at dksX0_drop_1 15 rfl rfl)
theorem dX0_drop_38 : decode cX0_drop 38 = .ok (.aload_n 0, 1) := dk_42 (dk_at dksX0_drop_1 16 rfl rfl)
theorem dX0_drop_39 : decode cX0_drop 39 = .ok (.getfield 12, 3) := dk_180 0 12 (dk_at dksX0_drop_1 17 rfl rfl)
theorem dX0_drop_42 : decode cX0_drop 42 = .ok (.getfield 163, 3) := dk_180 0 163 (dk_at dksX0_drop_1 20 rfl rfl)
theorem dX0_drop_45 : decode cX0_drop 45 = .ok (.invokevirtual 182, 3) := dk_182 0 182 (dk_at dksX0_drop_2 0 rfl rfl)
theorem dX0_drop_48 : decode cX0_drop 48 = .ok (.invokevirtual 118, 3) := dk_182 0 118 (dk_at dksX0_drop_2 3 rfl rfl)
theorem dX0_drop_51 : decode cX0_drop 51 = .ok (.ireturn, 1) := dk_172 (dk_at dksX0_drop_2 6 rfl rfl)
abbrev cX0_read : ByteArray := prog_1_method_21_code
def yX0_read : MethodName := ⟨RX0, "read", "(II)I"⟩
def dkwX0_read_1 : List UInt8 := [58, 4, 42, 25, 4, 182, 0, 122, 172]
abbrev dktX0_read_1 : List UInt8 := dkwX0_read_1 ++ []
def dkwX0_read_0 : List UInt8 := [42, 180, 0, 12, 182, 0, 111, 78, 42, 45, 42, 180, 0, 12, 27, 28, 182, 0, 183, 182, 0, 118, 172]
abbrev dktX0_read_0 : List UInt8 := dkwX0_read_0 ++ dktX0_read_1
theorem dksX0_read_0 : cX0_read.data.toList.drop 0 = dktX0_read_0 := by decide +kernel
theorem dksX0_read_1 : cX0_read.data.toList.drop 23 = dktX0_read_1 := dk_seg dksX0_read_0 23 rfl rfl
theorem dX0_read_0 : decode cX0_read 0 = .ok (.aload_n 0, 1) := dk_42 (dk_at dksX0_read_0 0 rfl rfl)
theorem dX0_read_1 : decode cX0_read 1 = .ok (.getfield 12, 3) := dk_180 0 12 (dk_at dksX0_read_0 1 rfl rfl)
theorem dX0_read_4 : decode cX0_read 4 = .ok (.invokevirtual 111, 3) := dk_182 0 111 (dk_at dksX0_read_0 4 rfl rfl)
theorem dX0_read_7 : decode cX0_read 7 = .ok (.astore_n 3, 1) := dk_78 (dk_at dksX0_read_0 7 rfl rfl)
theorem dX0_read_8 : decode cX0_read 8 = .ok (.aload_n 0, 1) := dk_42 (dk_at dksX0_read_0 8 rfl rfl)
theorem dX0_read_9 : decode cX0_read 9 = .ok (.aload_n 3, 1) := dk_45 (dk_at dksX0_read_0 9 rfl rfl)
theorem dX0_read_10 : decode cX0_read 10 = .ok (.aload_n 0, 1) := dk_42 (dk_at dksX0_read_0 10 rfl rfl)
theorem dX0_read_11 : decode cX0_read 11 = .ok (.getfield 12, 3) := dk_180 0 12 (dk_at dksX0_read_0 11 rfl rfl)
theorem dX0_read_14 : decode cX0_read 14 = .ok (.iload_n 1, 1) := dk_27 (dk_at dksX0_read_0 14 rfl rfl)
theorem dX0_read_15 : decode cX0_read 15 = .ok (.iload_n 2, 1) := dk_28 (dk_at dksX0_read_0 15 rfl rfl)
theorem dX0_read_16 : decode cX0_read 16 = .ok (.invokevirtual 183, 3) := dk_182 0 183 (dk_at dksX0_read_0 16 rfl rfl)
theorem dX0_read_19 : decode cX0_read 19 = .ok (.invokevirtual 118, 3) := dk_182 0 118 (dk_at dksX0_read_0 19 rfl rfl)
theorem dX0_read_22 : decode cX0_read 22 = .ok (.ireturn, 1) := dk_172 (dk_at dksX0_read_0 22 rfl rfl)
theorem dX0_read_23 : decode cX0_read 23 = .ok (.astore 4, 2) := dk_58 4 (dk_at dksX0_read_1 0 rfl rfl)
theorem dX0_read_25 : decode cX0_read 25 = .ok (.aload_n 0, 1) := dk_42 (dk_at dksX0_read_1 2 rfl rfl)
theorem dX0_read_26 : decode cX0_read 26 = .ok (.aload 4, 2) := dk_25 4 (dk_at dksX0_read_1 3 rfl rfl)
theorem dX0_read_28 : decode cX0_read 28 = .ok (.invokevirtual 122, 3) := dk_182 0 122 (dk_at dksX0_read_1 5 rfl rfl)
theorem dX0_read_31 : decode cX0_read 31 = .ok (.ireturn, 1) := dk_172 (dk_at dksX0_read_1 8 rfl rfl)
abbrev cX0_strike : ByteArray := prog_1_method_22_code
def yX0_strike : MethodName := ⟨RX0, "strike", "(II)I"⟩
def dkwX0_strike_1 : List UInt8 := [58, 4, 42, 25, 4, 182, 0, 122, 172]
abbrev dktX0_strike_1 : List UInt8 := dkwX0_strike_1 ++ []
def dkwX0_strike_0 : List UInt8 := [42, 180, 0, 12, 182, 0, 111, 78, 42, 45, 42, 180, 0, 12, 27, 28, 182, 0, 186, 182, 0, 118, 172]
abbrev dktX0_strike_0 : List UInt8 := dkwX0_strike_0 ++ dktX0_strike_1
theorem dksX0_strike_0 : cX0_strike.data.toList.drop 0 = dktX0_strike_0 := by decide +kernel
theorem dksX0_strike_1 : cX0_strike.data.toList.drop 23 = dktX0_strike_1 := dk_seg dksX0_strike_0 23 rfl rfl
theorem dX0_strike_0 : decode cX0_strike 0 = .ok (.aload_n 0, 1) := dk_42 (dk_at dksX0_strike_0 0 rfl rfl)
theorem dX0_strike_1 : decode cX0_strike 1 = .ok (.getfield 12, 3) := dk_180 0 12 (dk_at dksX0_strike_0 1 rfl rfl)
theorem dX0_strike_4 : decode cX0_strike 4 = .ok (.invokevirtual 111, 3) := dk_182 0 111 (dk_at dksX0_strike_0 4 rfl rfl)
theorem dX0_strike_7 : decode cX0_strike 7 = .ok (.astore_n 3, 1) := dk_78 (dk_at dksX0_strike_0 7 rfl rfl)
theorem dX0_strike_8 : decode cX0_strike 8 = .ok (.aload_n 0, 1) := dk_42 (dk_at dksX0_strike_0 8 rfl rfl)
theorem dX0_strike_9 : decode cX0_strike 9 = .ok (.aload_n 3, 1) := dk_45 (dk_at dksX0_strike_0 9 rfl rfl)
theorem dX0_strike_10 : decode cX0_strike 10 = .ok (.aload_n 0, 1) := dk_42 (dk_at dksX0_strike_0 10 rfl rfl)
theorem dX0_strike_11 : decode cX0_strike 11 = .ok (.getfield 12, 3) := dk_180 0 12 (dk_at dksX0_strike_0 11 rfl rfl)
theorem dX0_strike_14 : decode cX0_strike 14 = .ok (.iload_n 1, 1) := dk_27 (dk_at dksX0_strike_0 14 rfl rfl)
theorem dX0_strike_15 : decode cX0_strike 15 = .ok (.iload_n 2, 1) := dk_28 (dk_at dksX0_strike_0 15 rfl rfl)
theorem dX0_strike_16 : decode cX0_strike 16 = .ok (.invokevirtual 186, 3) := dk_182 0 186 (dk_at dksX0_strike_0 16 rfl rfl)
theorem dX0_strike_19 : decode cX0_strike 19 = .ok (.invokevirtual 118, 3) := dk_182 0 118 (dk_at dksX0_strike_0 19 rfl rfl)
theorem dX0_strike_22 : decode cX0_strike 22 = .ok (.ireturn, 1) := dk_172 (dk_at dksX0_strike_0 22 rfl rfl)
theorem dX0_strike_23 : decode cX0_strike 23 = .ok (.astore 4, 2) := dk_58 4 (dk_at dksX0_strike_1 0 rfl rfl)
theorem dX0_strike_25 : decode cX0_strike 25 = .ok (.aload_n 0, 1) := dk_42 (dk_at dksX0_strike_1 2 rfl rfl)
theorem dX0_strike_26 : decode cX0_strike 26 = .ok (.aload 4, 2) := dk_25 4 (dk_at dksX0_strike_1 3 rfl rfl)
theorem dX0_strike_28 : decode cX0_strike 28 = .ok (.invokevirtual 122, 3) := dk_182 0 122 (dk_at dksX0_strike_1 5 rfl rfl)
theorem dX0_strike_31 : decode cX0_strike 31 = .ok (.ireturn, 1) := dk_172 (dk_at dksX0_strike_1 8 rfl rfl)
abbrev cX0_blame : ByteArray := prog_1_method_23_code
def yX0_blame : MethodName := ⟨RX0, "blame", "(I)I"⟩
def dkwX0_blame_1 : List UInt8 := [45, 182, 0, 122, 172]
abbrev dktX0_blame_1 : List UInt8 := dkwX0_blame_1 ++ []
def dkwX0_blame_0 : List UInt8 := [42, 180, 0, 12, 182, 0, 111, 77, 42, 44, 42, 180, 0, 12, 27, 182, 0, 189, 182, 0, 118, 172, 78, 42]
abbrev dktX0_blame_0 : List UInt8 := dkwX0_blame_0 ++ dktX0_blame_1
theorem dksX0_blame_0 : cX0_blame.data.toList.drop 0 = dktX0_blame_0 := by decide +kernel
theorem dksX0_blame_1 : cX0_blame.data.toList.drop 24 = dktX0_blame_1 := dk_seg dksX0_blame_0 24 rfl rfl
theorem dX0_blame_0 : decode cX0_blame 0 = .ok (.aload_n 0, 1) := dk_42 (dk_at dksX0_blame_0 0 rfl rfl)
theorem dX0_blame_1 : decode cX0_blame 1 = .ok (.getfield 12, 3) := dk_180 0 12 (dk_at dksX0_blame_0 1 rfl rfl)
theorem dX0_blame_4 : decode cX0_blame 4 = .ok (.invokevirtual 111, 3) := dk_182 0 111 (dk_at dksX0_blame_0 4 rfl rfl)
theorem dX0_blame_7 : decode cX0_blame 7 = .ok (.astore_n 2, 1) := dk_77 (dk_at dksX0_blame_0 7 rfl rfl)
theorem dX0_blame_8 : decode cX0_blame 8 = .ok (.aload_n 0, 1) := dk_42 (dk_at dksX0_blame_0 8 rfl rfl)
theorem dX0_blame_9 : decode cX0_blame 9 = .ok (.aload_n 2, 1) := dk_44 (dk_at dksX0_blame_0 9 rfl rfl)
theorem dX0_blame_10 : decode cX0_blame 10 = .ok (.aload_n 0, 1) := dk_42 (dk_at dksX0_blame_0 10 rfl rfl)
theorem dX0_blame_11 : decode cX0_blame 11 = .ok (.getfield 12, 3) := dk_180 0 12 (dk_at dksX0_blame_0 11 rfl rfl)
theorem dX0_blame_14 : decode cX0_blame 14 = .ok (.iload_n 1, 1) := dk_27 (dk_at dksX0_blame_0 14 rfl rfl)
theorem dX0_blame_15 : decode cX0_blame 15 = .ok (.invokevirtual 189, 3) := dk_182 0 189 (dk_at dksX0_blame_0 15 rfl rfl)
theorem dX0_blame_18 : decode cX0_blame 18 = .ok (.invokevirtual 118, 3) := dk_182 0 118 (dk_at dksX0_blame_0 18 rfl rfl)
theorem dX0_blame_21 : decode cX0_blame 21 = .ok (.ireturn, 1) := dk_172 (dk_at dksX0_blame_0 21 rfl rfl)
theorem dX0_blame_22 : decode cX0_blame 22 = .ok (.astore_n 3, 1) := dk_78 (dk_at dksX0_blame_0 22 rfl rfl)
theorem dX0_blame_23 : decode cX0_blame 23 = .ok (.aload_n 0, 1) := dk_42 (dk_at dksX0_blame_0 23 rfl rfl)
theorem dX0_blame_24 : decode cX0_blame 24 = .ok (.aload_n 3, 1) := dk_45 (dk_at dksX0_blame_1 0 rfl rfl)
theorem dX0_blame_25 : decode cX0_blame 25 = .ok (.invokevirtual 122, 3) := dk_182 0 122 (dk_at dksX0_blame_1 1 rfl rfl)
theorem dX0_blame_28 : decode cX0_blame 28 = .ok (.ireturn, 1) := dk_172 (dk_at dksX0_blame_1 4 rfl rfl)
abbrev cX0_pageOf : ByteArray := prog_1_method_25_code
def yX0_pageOf : MethodName := ⟨RX0, "pageOf", "(II)I"⟩
def dkwX0_pageOf_5 : List UInt8 := [182, 0, 211, 184, 0, 215, 167, 0, 5, 16, 254, 172]
abbrev dktX0_pageOf_5 : List UInt8 := dkwX0_pageOf_5 ++ []
def dkwX0_pageOf_4 : List UInt8 := [45, 4, 182, 0, 208, 167, 0, 30, 42, 180, 0, 12, 45, 182, 0, 211, 167, 0, 19, 42, 180, 0, 12, 45]
abbrev dktX0_pageOf_4 : List UInt8 := dkwX0_pageOf_4 ++ dktX0_pageOf_5
def dkwX0_pageOf_3 : List UInt8 := [45, 180, 0, 195, 167, 0, 55, 45, 180, 0, 198, 167, 0, 48, 45, 180, 0, 201, 182, 0, 205, 167, 0, 38]
abbrev dktX0_pageOf_3 : List UInt8 := dkwX0_pageOf_3 ++ dktX0_pageOf_4
def dkwX0_pageOf_2 : List UInt8 := [170, 0, 0, 0, 0, 0, 96, 0, 0, 0, 0, 0, 0, 0, 5, 0, 0, 0, 39, 0, 0, 0, 46, 0, 0, 0, 53, 0, 0, 0, 63, 0, 0, 0, 71, 0, 0, 0, 82]
abbrev dktX0_pageOf_2 : List UInt8 := dkwX0_pageOf_2 ++ dktX0_pageOf_3
def dkwX0_pageOf_1 : List UInt8 := [192, 0, 173, 78, 28]
abbrev dktX0_pageOf_1 : List UInt8 := dkwX0_pageOf_1 ++ dktX0_pageOf_2
def dkwX0_pageOf_0 : List UInt8 := [42, 180, 0, 12, 27, 182, 0, 160, 154, 0, 5, 2, 172, 42, 180, 0, 12, 180, 0, 163, 27, 182, 0, 192]
abbrev dktX0_pageOf_0 : List UInt8 := dkwX0_pageOf_0 ++ dktX0_pageOf_1
theorem dksX0_pageOf_0 : cX0_pageOf.data.toList.drop 0 = dktX0_pageOf_0 := by decide +kernel
theorem dksX0_pageOf_1 : cX0_pageOf.data.toList.drop 24 = dktX0_pageOf_1 := dk_seg dksX0_pageOf_0 24 rfl rfl
theorem dksX0_pageOf_2 : cX0_pageOf.data.toList.drop 29 = dktX0_pageOf_2 := dk_seg dksX0_pageOf_1 5 rfl rfl
theorem dksX0_pageOf_3 : cX0_pageOf.data.toList.drop 68 = dktX0_pageOf_3 := dk_seg dksX0_pageOf_2 39 rfl rfl
theorem dksX0_pageOf_4 : cX0_pageOf.data.toList.drop 92 = dktX0_pageOf_4 := dk_seg dksX0_pageOf_3 24 rfl rfl
theorem dksX0_pageOf_5 : cX0_pageOf.data.toList.drop 116 = dktX0_pageOf_5 := dk_seg dksX0_pageOf_4 24 rfl rfl
theorem dX0_pageOf_0 : decode cX0_pageOf 0 = .ok (.aload_n 0, 1) := dk_42 (dk_at dksX0_pageOf_0 0 rfl rfl)
theorem dX0_pageOf_1 : decode cX0_pageOf 1 = .ok (.getfield 12, 3) := dk_180 0 12 (dk_at dksX0_pageOf_0 1 rfl rfl)
theorem dX0_pageOf_4 : decode cX0_pageOf 4 = .ok (.iload_n 1, 1) := dk_27 (dk_at dksX0_pageOf_0 4 rfl rfl)
theorem dX0_pageOf_5 : decode cX0_pageOf 5 = .ok (.invokevirtual 160, 3) := dk_182 0 160 (dk_at dksX0_pageOf_0 5 rfl rfl)
theorem dX0_pageOf_8 : decode cX0_pageOf 8 = .ok (.ifCond .ne 5, 3) := dk_154 0 5 (dk_at dksX0_pageOf_0 8 rfl rfl)
theorem dX0_pageOf_11 : decode cX0_pageOf 11 = .ok (.iconst (-1), 1) := dk_2 (dk_at dksX0_pageOf_0 11 rfl rfl)
theorem dX0_pageOf_12 : decode cX0_pageOf 12 = .ok (.ireturn, 1) := dk_172 (dk_at dksX0_pageOf_0 12 rfl rfl)
theorem dX0_pageOf_13 : decode cX0_pageOf 13 = .ok (.aload_n 0, 1) := dk_42 (dk_at dksX0_pageOf_0 13 rfl rfl)
theorem dX0_pageOf_14 : decode cX0_pageOf 14 = .ok (.getfield 12, 3) := dk_180 0 12 (dk_at dksX0_pageOf_0 14 rfl rfl)
theorem dX0_pageOf_17 : decode cX0_pageOf 17 = .ok (.getfield 163, 3) := dk_180 0 163 (dk_at dksX0_pageOf_0 17 rfl rfl)
theorem dX0_pageOf_20 : decode cX0_pageOf 20 = .ok (.iload_n 1, 1) := dk_27 (dk_at dksX0_pageOf_0 20 rfl rfl)
theorem dX0_pageOf_21 : decode cX0_pageOf 21 = .ok (.invokevirtual 192, 3) := dk_182 0 192 (dk_at dksX0_pageOf_0 21 rfl rfl)
theorem dX0_pageOf_24 : decode cX0_pageOf 24 = .ok (.checkcast 173, 3) := dk_192 0 173 (dk_at dksX0_pageOf_1 0 rfl rfl)
theorem dX0_pageOf_27 : decode cX0_pageOf 27 = .ok (.astore_n 3, 1) := dk_78 (dk_at dksX0_pageOf_1 3 rfl rfl)
theorem dX0_pageOf_28 : decode cX0_pageOf 28 = .ok (.iload_n 2, 1) := dk_28 (dk_at dksX0_pageOf_1 4 rfl rfl)
theorem dX0_pageOf_29 : decode cX0_pageOf 29 = .ok (.tableswitch 96 0 5 #[39, 46, 53, 63, 71, 82], 39) := by decide +kernel
theorem dX0_pageOf_68 : decode cX0_pageOf 68 = .ok (.aload_n 3, 1) := dk_45 (dk_at dksX0_pageOf_3 0 rfl rfl)
theorem dX0_pageOf_69 : decode cX0_pageOf 69 = .ok (.getfield 195, 3) := dk_180 0 195 (dk_at dksX0_pageOf_3 1 rfl rfl)
theorem dX0_pageOf_72 : decode cX0_pageOf 72 = .ok (.goto 55, 3) := dk_167 0 55 (dk_at dksX0_pageOf_3 4 rfl rfl)
theorem dX0_pageOf_75 : decode cX0_pageOf 75 = .ok (.aload_n 3, 1) := dk_45 (dk_at dksX0_pageOf_3 7 rfl rfl)
theorem dX0_pageOf_76 : decode cX0_pageOf 76 = .ok (.getfield 198, 3) := dk_180 0 198 (dk_at dksX0_pageOf_3 8 rfl rfl)
theorem dX0_pageOf_79 : decode cX0_pageOf 79 = .ok (.goto 48, 3) := dk_167 0 48 (dk_at dksX0_pageOf_3 11 rfl rfl)
theorem dX0_pageOf_82 : decode cX0_pageOf 82 = .ok (.aload_n 3, 1) := dk_45 (dk_at dksX0_pageOf_3 14 rfl rfl)
theorem dX0_pageOf_83 : decode cX0_pageOf 83 = .ok (.getfield 201, 3) := dk_180 0 201 (dk_at dksX0_pageOf_3 15 rfl rfl)
theorem dX0_pageOf_86 : decode cX0_pageOf 86 = .ok (.invokevirtual 205, 3) := dk_182 0 205 (dk_at dksX0_pageOf_3 18 rfl rfl)
theorem dX0_pageOf_89 : decode cX0_pageOf 89 = .ok (.goto 38, 3) := dk_167 0 38 (dk_at dksX0_pageOf_3 21 rfl rfl)
theorem dX0_pageOf_92 : decode cX0_pageOf 92 = .ok (.aload_n 3, 1) := dk_45 (dk_at dksX0_pageOf_4 0 rfl rfl)
theorem dX0_pageOf_93 : decode cX0_pageOf 93 = .ok (.iconst 1, 1) := dk_4 (dk_at dksX0_pageOf_4 1 rfl rfl)
theorem dX0_pageOf_94 : decode cX0_pageOf 94 = .ok (.invokevirtual 208, 3) := dk_182 0 208 (dk_at dksX0_pageOf_4 2 rfl rfl)
theorem dX0_pageOf_97 : decode cX0_pageOf 97 = .ok (.goto 30, 3) := dk_167 0 30 (dk_at dksX0_pageOf_4 5 rfl rfl)
theorem dX0_pageOf_100 : decode cX0_pageOf 100 = .ok (.aload_n 0, 1) := dk_42 (dk_at dksX0_pageOf_4 8 rfl rfl)
theorem dX0_pageOf_101 : decode cX0_pageOf 101 = .ok (.getfield 12, 3) := dk_180 0 12 (dk_at dksX0_pageOf_4 9 rfl rfl)
theorem dX0_pageOf_104 : decode cX0_pageOf 104 = .ok (.aload_n 3, 1) := dk_45 (dk_at dksX0_pageOf_4 12 rfl rfl)
theorem dX0_pageOf_105 : decode cX0_pageOf 105 = .ok (.invokevirtual 211, 3) := dk_182 0 211 (dk_at dksX0_pageOf_4 13 rfl rfl)
theorem dX0_pageOf_108 : decode cX0_pageOf 108 = .ok (.goto 19, 3) := dk_167 0 19 (dk_at dksX0_pageOf_4 16 rfl rfl)
theorem dX0_pageOf_111 : decode cX0_pageOf 111 = .ok (.aload_n 0, 1) := dk_42 (dk_at dksX0_pageOf_4 19 rfl rfl)
theorem dX0_pageOf_112 : decode cX0_pageOf 112 = .ok (.getfield 12, 3) := dk_180 0 12 (dk_at dksX0_pageOf_4 20 rfl rfl)
theorem dX0_pageOf_115 : decode cX0_pageOf 115 = .ok (.aload_n 3, 1) := dk_45 (dk_at dksX0_pageOf_4 23 rfl rfl)
theorem dX0_pageOf_116 : decode cX0_pageOf 116 = .ok (.invokevirtual 211, 3) := dk_182 0 211 (dk_at dksX0_pageOf_5 0 rfl rfl)
theorem dX0_pageOf_119 : decode cX0_pageOf 119 = .ok (.invokestatic 215, 3) := dk_184 0 215 (dk_at dksX0_pageOf_5 3 rfl rfl)
theorem dX0_pageOf_122 : decode cX0_pageOf 122 = .ok (.goto 5, 3) := dk_167 0 5 (dk_at dksX0_pageOf_5 6 rfl rfl)
theorem dX0_pageOf_125 : decode cX0_pageOf 125 = .ok (.bipush (-2), 2) := dk_16 254 (dk_at dksX0_pageOf_5 9 rfl rfl)
theorem dX0_pageOf_127 : decode cX0_pageOf 127 = .ok (.ireturn, 1) := dk_172 (dk_at dksX0_pageOf_5 11 rfl rfl)
abbrev cX0_leastOf : ByteArray := prog_1_method_24_code
def yX0_leastOf : MethodName := ⟨RX0, "leastOf", "(I)I"⟩
def dkwX0_leastOf_1 : List UInt8 := [160, 0, 8, 16, 251, 167, 0, 4, 27, 172]
abbrev dktX0_leastOf_1 : List UInt8 := dkwX0_leastOf_1 ++ []
def dkwX0_leastOf_0 : List UInt8 := [3, 60, 27, 6, 162, 0, 17, 26, 27, 122, 4, 126, 154, 0, 9, 132, 1, 1, 167, 255, 240, 27, 6]
abbrev dktX0_leastOf_0 : List UInt8 := dkwX0_leastOf_0 ++ dktX0_leastOf_1
theorem dksX0_leastOf_0 : cX0_leastOf.data.toList.drop 0 = dktX0_leastOf_0 := by decide +kernel
theorem dksX0_leastOf_1 : cX0_leastOf.data.toList.drop 23 = dktX0_leastOf_1 := dk_seg dksX0_leastOf_0 23 rfl rfl
theorem dX0_leastOf_0 : decode cX0_leastOf 0 = .ok (.iconst 0, 1) := dk_3 (dk_at dksX0_leastOf_0 0 rfl rfl)
theorem dX0_leastOf_1 : decode cX0_leastOf 1 = .ok (.istore_n 1, 1) := dk_60 (dk_at dksX0_leastOf_0 1 rfl rfl)
theorem dX0_leastOf_2 : decode cX0_leastOf 2 = .ok (.iload_n 1, 1) := dk_27 (dk_at dksX0_leastOf_0 2 rfl rfl)
theorem dX0_leastOf_3 : decode cX0_leastOf 3 = .ok (.iconst 3, 1) := dk_6 (dk_at dksX0_leastOf_0 3 rfl rfl)
theorem dX0_leastOf_4 : decode cX0_leastOf 4 = .ok (.if_icmp .ge 17, 3) := dk_162 0 17 (dk_at dksX0_leastOf_0 4 rfl rfl)
theorem dX0_leastOf_7 : decode cX0_leastOf 7 = .ok (.iload_n 0, 1) := dk_26 (dk_at dksX0_leastOf_0 7 rfl rfl)
theorem dX0_leastOf_8 : decode cX0_leastOf 8 = .ok (.iload_n 1, 1) := dk_27 (dk_at dksX0_leastOf_0 8 rfl rfl)
theorem dX0_leastOf_9 : decode cX0_leastOf 9 = .ok (.ishr, 1) := dk_122 (dk_at dksX0_leastOf_0 9 rfl rfl)
theorem dX0_leastOf_10 : decode cX0_leastOf 10 = .ok (.iconst 1, 1) := dk_4 (dk_at dksX0_leastOf_0 10 rfl rfl)
theorem dX0_leastOf_11 : decode cX0_leastOf 11 = .ok (.iand, 1) := dk_126 (dk_at dksX0_leastOf_0 11 rfl rfl)
theorem dX0_leastOf_12 : decode cX0_leastOf 12 = .ok (.ifCond .ne 9, 3) := dk_154 0 9 (dk_at dksX0_leastOf_0 12 rfl rfl)
theorem dX0_leastOf_15 : decode cX0_leastOf 15 = .ok (.iinc 1 1, 3) := dk_132 1 1 (dk_at dksX0_leastOf_0 15 rfl rfl)
theorem dX0_leastOf_18 : decode cX0_leastOf 18 = .ok (.goto (-16), 3) := dk_167 255 240 (dk_at dksX0_leastOf_0 18 rfl rfl)
theorem dX0_leastOf_21 : decode cX0_leastOf 21 = .ok (.iload_n 1, 1) := dk_27 (dk_at dksX0_leastOf_0 21 rfl rfl)
theorem dX0_leastOf_22 : decode cX0_leastOf 22 = .ok (.iconst 3, 1) := dk_6 (dk_at dksX0_leastOf_0 22 rfl rfl)
theorem dX0_leastOf_23 : decode cX0_leastOf 23 = .ok (.if_icmp .ne 8, 3) := dk_160 0 8 (dk_at dksX0_leastOf_1 0 rfl rfl)
theorem dX0_leastOf_26 : decode cX0_leastOf 26 = .ok (.bipush (-5), 2) := dk_16 251 (dk_at dksX0_leastOf_1 3 rfl rfl)
theorem dX0_leastOf_28 : decode cX0_leastOf 28 = .ok (.goto 4, 3) := dk_167 0 4 (dk_at dksX0_leastOf_1 5 rfl rfl)
theorem dX0_leastOf_31 : decode cX0_leastOf 31 = .ok (.iload_n 1, 1) := dk_27 (dk_at dksX0_leastOf_1 8 rfl rfl)
theorem dX0_leastOf_32 : decode cX0_leastOf 32 = .ok (.ireturn, 1) := dk_172 (dk_at dksX0_leastOf_1 9 rfl rfl)
abbrev cX0_entryOf : ByteArray := prog_1_method_26_code
def yX0_entryOf : MethodName := ⟨RX0, "entryOf", "(III)I"⟩
def dkwX0_entryOf_2 : List UInt8 := [182, 0, 225, 167, 0, 5, 16, 254, 172]
abbrev dktX0_entryOf_2 : List UInt8 := dkwX0_entryOf_2 ++ []
def dkwX0_entryOf_1 : List UInt8 := [180, 0, 12, 180, 0, 163, 27, 182, 0, 192, 192, 0, 173, 180, 0, 201, 28, 182, 0, 222, 192, 0, 223, 29]
abbrev dktX0_entryOf_1 : List UInt8 := dkwX0_entryOf_1 ++ dktX0_entryOf_2
def dkwX0_entryOf_0 : List UInt8 := [42, 180, 0, 12, 27, 28, 182, 0, 218, 154, 0, 5, 2, 172, 29, 3, 6, 184, 0, 51, 153, 0, 34, 42]
abbrev dktX0_entryOf_0 : List UInt8 := dkwX0_entryOf_0 ++ dktX0_entryOf_1
theorem dksX0_entryOf_0 : cX0_entryOf.data.toList.drop 0 = dktX0_entryOf_0 := by decide +kernel
theorem dksX0_entryOf_1 : cX0_entryOf.data.toList.drop 24 = dktX0_entryOf_1 := dk_seg dksX0_entryOf_0 24 rfl rfl
theorem dksX0_entryOf_2 : cX0_entryOf.data.toList.drop 48 = dktX0_entryOf_2 := dk_seg dksX0_entryOf_1 24 rfl rfl
theorem dX0_entryOf_0 : decode cX0_entryOf 0 = .ok (.aload_n 0, 1) := dk_42 (dk_at dksX0_entryOf_0 0 rfl rfl)
theorem dX0_entryOf_1 : decode cX0_entryOf 1 = .ok (.getfield 12, 3) := dk_180 0 12 (dk_at dksX0_entryOf_0 1 rfl rfl)
theorem dX0_entryOf_4 : decode cX0_entryOf 4 = .ok (.iload_n 1, 1) := dk_27 (dk_at dksX0_entryOf_0 4 rfl rfl)
theorem dX0_entryOf_5 : decode cX0_entryOf 5 = .ok (.iload_n 2, 1) := dk_28 (dk_at dksX0_entryOf_0 5 rfl rfl)
theorem dX0_entryOf_6 : decode cX0_entryOf 6 = .ok (.invokevirtual 218, 3) := dk_182 0 218 (dk_at dksX0_entryOf_0 6 rfl rfl)
theorem dX0_entryOf_9 : decode cX0_entryOf 9 = .ok (.ifCond .ne 5, 3) := dk_154 0 5 (dk_at dksX0_entryOf_0 9 rfl rfl)
theorem dX0_entryOf_12 : decode cX0_entryOf 12 = .ok (.iconst (-1), 1) := dk_2 (dk_at dksX0_entryOf_0 12 rfl rfl)
theorem dX0_entryOf_13 : decode cX0_entryOf 13 = .ok (.ireturn, 1) := dk_172 (dk_at dksX0_entryOf_0 13 rfl rfl)
theorem dX0_entryOf_14 : decode cX0_entryOf 14 = .ok (.iload_n 3, 1) := dk_29 (dk_at dksX0_entryOf_0 14 rfl rfl)
theorem dX0_entryOf_15 : decode cX0_entryOf 15 = .ok (.iconst 0, 1) := dk_3 (dk_at dksX0_entryOf_0 15 rfl rfl)
theorem dX0_entryOf_16 : decode cX0_entryOf 16 = .ok (.iconst 3, 1) := dk_6 (dk_at dksX0_entryOf_0 16 rfl rfl)
theorem dX0_entryOf_17 : decode cX0_entryOf 17 = .ok (.invokestatic 51, 3) := dk_184 0 51 (dk_at dksX0_entryOf_0 17 rfl rfl)
theorem dX0_entryOf_20 : decode cX0_entryOf 20 = .ok (.ifCond .eq 34, 3) := dk_153 0 34 (dk_at dksX0_entryOf_0 20 rfl rfl)
theorem dX0_entryOf_23 : decode cX0_entryOf 23 = .ok (.aload_n 0, 1) := dk_42 (dk_at dksX0_entryOf_0 23 rfl rfl)
theorem dX0_entryOf_24 : decode cX0_entryOf 24 = .ok (.getfield 12, 3) := dk_180 0 12 (dk_at dksX0_entryOf_1 0 rfl rfl)
theorem dX0_entryOf_27 : decode cX0_entryOf 27 = .ok (.getfield 163, 3) := dk_180 0 163 (dk_at dksX0_entryOf_1 3 rfl rfl)
theorem dX0_entryOf_30 : decode cX0_entryOf 30 = .ok (.iload_n 1, 1) := dk_27 (dk_at dksX0_entryOf_1 6 rfl rfl)
theorem dX0_entryOf_31 : decode cX0_entryOf 31 = .ok (.invokevirtual 192, 3) := dk_182 0 192 (dk_at dksX0_entryOf_1 7 rfl rfl)
theorem dX0_entryOf_34 : decode cX0_entryOf 34 = .ok (.checkcast 173, 3) := dk_192 0 173 (dk_at dksX0_entryOf_1 10 rfl rfl)
theorem dX0_entryOf_37 : decode cX0_entryOf 37 = .ok (.getfield 201, 3) := dk_180 0 201 (dk_at dksX0_entryOf_1 13 rfl rfl)
theorem dX0_entryOf_40 : decode cX0_entryOf 40 = .ok (.iload_n 2, 1) := dk_28 (dk_at dksX0_entryOf_1 16 rfl rfl)
theorem dX0_entryOf_41 : decode cX0_entryOf 41 = .ok (.invokevirtual 222, 3) := dk_182 0 222 (dk_at dksX0_entryOf_1 17 rfl rfl)
theorem dX0_entryOf_44 : decode cX0_entryOf 44 = .ok (.checkcast 223, 3) := dk_192 0 223 (dk_at dksX0_entryOf_1 20 rfl rfl)
theorem dX0_entryOf_47 : decode cX0_entryOf 47 = .ok (.iload_n 3, 1) := dk_29 (dk_at dksX0_entryOf_1 23 rfl rfl)
theorem dX0_entryOf_48 : decode cX0_entryOf 48 = .ok (.invokevirtual 225, 3) := dk_182 0 225 (dk_at dksX0_entryOf_2 0 rfl rfl)
theorem dX0_entryOf_51 : decode cX0_entryOf 51 = .ok (.goto 5, 3) := dk_167 0 5 (dk_at dksX0_entryOf_2 3 rfl rfl)
theorem dX0_entryOf_54 : decode cX0_entryOf 54 = .ok (.bipush (-2), 2) := dk_16 254 (dk_at dksX0_entryOf_2 6 rfl rfl)
theorem dX0_entryOf_56 : decode cX0_entryOf 56 = .ok (.ireturn, 1) := dk_172 (dk_at dksX0_entryOf_2 8 rfl rfl)
abbrev cX0_witnessOf : ByteArray := prog_1_method_28_code
def yX0_witnessOf : MethodName := ⟨RX0, "witnessOf", "(II)I"⟩
def dkwX0_witnessOf_3 : List UInt8 := [27, 3, 182, 0, 248, 167, 0, 14, 42, 27, 4, 182, 0, 248, 167, 0, 5, 16, 254, 172]
abbrev dktX0_witnessOf_3 : List UInt8 := dkwX0_witnessOf_3 ++ []
def dkwX0_witnessOf_2 : List UInt8 := [42, 180, 0, 12, 180, 0, 242, 27, 46, 167, 0, 34, 42, 180, 0, 12, 27, 182, 0, 245, 167, 0, 23, 42]
abbrev dktX0_witnessOf_2 : List UInt8 := dkwX0_witnessOf_2 ++ dktX0_witnessOf_3
def dkwX0_witnessOf_1 : List UInt8 := [170, 0, 0, 0, 0, 0, 0, 73, 0, 0, 0, 0, 0, 0, 0, 3, 0, 0, 0, 32, 0, 0, 0, 44, 0, 0, 0, 55, 0, 0, 0, 64]
abbrev dktX0_witnessOf_1 : List UInt8 := dkwX0_witnessOf_1 ++ dktX0_witnessOf_2
def dkwX0_witnessOf_0 : List UInt8 := [27, 3, 8, 184, 0, 51, 154, 0, 5, 2, 172, 28]
abbrev dktX0_witnessOf_0 : List UInt8 := dkwX0_witnessOf_0 ++ dktX0_witnessOf_1
theorem dksX0_witnessOf_0 : cX0_witnessOf.data.toList.drop 0 = dktX0_witnessOf_0 := by decide +kernel
theorem dksX0_witnessOf_1 : cX0_witnessOf.data.toList.drop 12 = dktX0_witnessOf_1 := dk_seg dksX0_witnessOf_0 12 rfl rfl
theorem dksX0_witnessOf_2 : cX0_witnessOf.data.toList.drop 44 = dktX0_witnessOf_2 := dk_seg dksX0_witnessOf_1 32 rfl rfl
theorem dksX0_witnessOf_3 : cX0_witnessOf.data.toList.drop 68 = dktX0_witnessOf_3 := dk_seg dksX0_witnessOf_2 24 rfl rfl
theorem dX0_witnessOf_0 : decode cX0_witnessOf 0 = .ok (.iload_n 1, 1) := dk_27 (dk_at dksX0_witnessOf_0 0 rfl rfl)
theorem dX0_witnessOf_1 : decode cX0_witnessOf 1 = .ok (.iconst 0, 1) := dk_3 (dk_at dksX0_witnessOf_0 1 rfl rfl)
theorem dX0_witnessOf_2 : decode cX0_witnessOf 2 = .ok (.iconst 5, 1) := dk_8 (dk_at dksX0_witnessOf_0 2 rfl rfl)
theorem dX0_witnessOf_3 : decode cX0_witnessOf 3 = .ok (.invokestatic 51, 3) := dk_184 0 51 (dk_at dksX0_witnessOf_0 3 rfl rfl)
theorem dX0_witnessOf_6 : decode cX0_witnessOf 6 = .ok (.ifCond .ne 5, 3) := dk_154 0 5 (dk_at dksX0_witnessOf_0 6 rfl rfl)
theorem dX0_witnessOf_9 : decode cX0_witnessOf 9 = .ok (.iconst (-1), 1) := dk_2 (dk_at dksX0_witnessOf_0 9 rfl rfl)
theorem dX0_witnessOf_10 : decode cX0_witnessOf 10 = .ok (.ireturn, 1) := dk_172 (dk_at dksX0_witnessOf_0 10 rfl rfl)
theorem dX0_witnessOf_11 : decode cX0_witnessOf 11 = .ok (.iload_n 2, 1) := dk_28 (dk_at dksX0_witnessOf_0 11 rfl rfl)
theorem dX0_witnessOf_12 : decode cX0_witnessOf 12 = .ok (.tableswitch 73 0 3 #[32, 44, 55, 64], 32) := by decide +kernel
theorem dX0_witnessOf_44 : decode cX0_witnessOf 44 = .ok (.aload_n 0, 1) := dk_42 (dk_at dksX0_witnessOf_2 0 rfl rfl)
theorem dX0_witnessOf_45 : decode cX0_witnessOf 45 = .ok (.getfield 12, 3) := dk_180 0 12 (dk_at dksX0_witnessOf_2 1 rfl rfl)
theorem dX0_witnessOf_48 : decode cX0_witnessOf 48 = .ok (.getfield 242, 3) := dk_180 0 242 (dk_at dksX0_witnessOf_2 4 rfl rfl)
theorem dX0_witnessOf_51 : decode cX0_witnessOf 51 = .ok (.iload_n 1, 1) := dk_27 (dk_at dksX0_witnessOf_2 7 rfl rfl)
theorem dX0_witnessOf_52 : decode cX0_witnessOf 52 = .ok (.iaload, 1) := dk_46 (dk_at dksX0_witnessOf_2 8 rfl rfl)
theorem dX0_witnessOf_53 : decode cX0_witnessOf 53 = .ok (.goto 34, 3) := dk_167 0 34 (dk_at dksX0_witnessOf_2 9 rfl rfl)
theorem dX0_witnessOf_56 : decode cX0_witnessOf 56 = .ok (.aload_n 0, 1) := dk_42 (dk_at dksX0_witnessOf_2 12 rfl rfl)
theorem dX0_witnessOf_57 : decode cX0_witnessOf 57 = .ok (.getfield 12, 3) := dk_180 0 12 (dk_at dksX0_witnessOf_2 13 rfl rfl)
theorem dX0_witnessOf_60 : decode cX0_witnessOf 60 = .ok (.iload_n 1, 1) := dk_27 (dk_at dksX0_witnessOf_2 16 rfl rfl)
theorem dX0_witnessOf_61 : decode cX0_witnessOf 61 = .ok (.invokevirtual 245, 3) := dk_182 0 245 (dk_at dksX0_witnessOf_2 17 rfl rfl)
theorem dX0_witnessOf_64 : decode cX0_witnessOf 64 = .ok (.goto 23, 3) := dk_167 0 23 (dk_at dksX0_witnessOf_2 20 rfl rfl)
theorem dX0_witnessOf_67 : decode cX0_witnessOf 67 = .ok (.aload_n 0, 1) := dk_42 (dk_at dksX0_witnessOf_2 23 rfl rfl)
theorem dX0_witnessOf_68 : decode cX0_witnessOf 68 = .ok (.iload_n 1, 1) := dk_27 (dk_at dksX0_witnessOf_3 0 rfl rfl)
theorem dX0_witnessOf_69 : decode cX0_witnessOf 69 = .ok (.iconst 0, 1) := dk_3 (dk_at dksX0_witnessOf_3 1 rfl rfl)
theorem dX0_witnessOf_70 : decode cX0_witnessOf 70 = .ok (.invokevirtual 248, 3) := dk_182 0 248 (dk_at dksX0_witnessOf_3 2 rfl rfl)
theorem dX0_witnessOf_73 : decode cX0_witnessOf 73 = .ok (.goto 14, 3) := dk_167 0 14 (dk_at dksX0_witnessOf_3 5 rfl rfl)
theorem dX0_witnessOf_76 : decode cX0_witnessOf 76 = .ok (.aload_n 0, 1) := dk_42 (dk_at dksX0_witnessOf_3 8 rfl rfl)
theorem dX0_witnessOf_77 : decode cX0_witnessOf 77 = .ok (.iload_n 1, 1) := dk_27 (dk_at dksX0_witnessOf_3 9 rfl rfl)
theorem dX0_witnessOf_78 : decode cX0_witnessOf 78 = .ok (.iconst 1, 1) := dk_4 (dk_at dksX0_witnessOf_3 10 rfl rfl)
theorem dX0_witnessOf_79 : decode cX0_witnessOf 79 = .ok (.invokevirtual 248, 3) := dk_182 0 248 (dk_at dksX0_witnessOf_3 11 rfl rfl)
theorem dX0_witnessOf_82 : decode cX0_witnessOf 82 = .ok (.goto 5, 3) := dk_167 0 5 (dk_at dksX0_witnessOf_3 14 rfl rfl)
theorem dX0_witnessOf_85 : decode cX0_witnessOf 85 = .ok (.bipush (-2), 2) := dk_16 254 (dk_at dksX0_witnessOf_3 17 rfl rfl)
theorem dX0_witnessOf_87 : decode cX0_witnessOf 87 = .ok (.ireturn, 1) := dk_172 (dk_at dksX0_witnessOf_3 19 rfl rfl)
abbrev cX0_knownOf : ByteArray := prog_1_method_27_code
def yX0_knownOf : MethodName := ⟨RX0, "knownOf", "(IZ)I"⟩
def dkwX0_knownOf_2 : List UInt8 := [154, 0, 7, 4, 167, 0, 4, 3, 96, 54, 4, 132, 5, 1, 167, 255, 207, 21, 4, 172]
abbrev dktX0_knownOf_2 : List UInt8 := dkwX0_knownOf_2 ++ []
def dkwX0_knownOf_1 : List UInt8 := [180, 0, 233, 21, 5, 50, 180, 0, 236, 27, 160, 0, 20, 28, 153, 0, 12, 45, 21, 5, 182, 0, 239]
abbrev dktX0_knownOf_1 : List UInt8 := dkwX0_knownOf_1 ++ dktX0_knownOf_2
def dkwX0_knownOf_0 : List UInt8 := [42, 182, 0, 228, 78, 3, 54, 4, 3, 54, 5, 21, 5, 45, 180, 0, 231, 162, 0, 46, 21, 4, 45]
abbrev dktX0_knownOf_0 : List UInt8 := dkwX0_knownOf_0 ++ dktX0_knownOf_1
theorem dksX0_knownOf_0 : cX0_knownOf.data.toList.drop 0 = dktX0_knownOf_0 := by decide +kernel
theorem dksX0_knownOf_1 : cX0_knownOf.data.toList.drop 23 = dktX0_knownOf_1 := dk_seg dksX0_knownOf_0 23 rfl rfl
theorem dksX0_knownOf_2 : cX0_knownOf.data.toList.drop 46 = dktX0_knownOf_2 := dk_seg dksX0_knownOf_1 23 rfl rfl
theorem dX0_knownOf_0 : decode cX0_knownOf 0 = .ok (.aload_n 0, 1) := dk_42 (dk_at dksX0_knownOf_0 0 rfl rfl)
theorem dX0_knownOf_1 : decode cX0_knownOf 1 = .ok (.invokevirtual 228, 3) := dk_182 0 228 (dk_at dksX0_knownOf_0 1 rfl rfl)
theorem dX0_knownOf_4 : decode cX0_knownOf 4 = .ok (.astore_n 3, 1) := dk_78 (dk_at dksX0_knownOf_0 4 rfl rfl)
theorem dX0_knownOf_5 : decode cX0_knownOf 5 = .ok (.iconst 0, 1) := dk_3 (dk_at dksX0_knownOf_0 5 rfl rfl)
theorem dX0_knownOf_6 : decode cX0_knownOf 6 = .ok (.istore 4, 2) := dk_54 4 (dk_at dksX0_knownOf_0 6 rfl rfl)
theorem dX0_knownOf_8 : decode cX0_knownOf 8 = .ok (.iconst 0, 1) := dk_3 (dk_at dksX0_knownOf_0 8 rfl rfl)
theorem dX0_knownOf_9 : decode cX0_knownOf 9 = .ok (.istore 5, 2) := dk_54 5 (dk_at dksX0_knownOf_0 9 rfl rfl)
theorem dX0_knownOf_11 : decode cX0_knownOf 11 = .ok (.iload 5, 2) := dk_21 5 (dk_at dksX0_knownOf_0 11 rfl rfl)
theorem dX0_knownOf_13 : decode cX0_knownOf 13 = .ok (.aload_n 3, 1) := dk_45 (dk_at dksX0_knownOf_0 13 rfl rfl)
theorem dX0_knownOf_14 : decode cX0_knownOf 14 = .ok (.getfield 231, 3) := dk_180 0 231 (dk_at dksX0_knownOf_0 14 rfl rfl)
theorem dX0_knownOf_17 : decode cX0_knownOf 17 = .ok (.if_icmp .ge 46, 3) := dk_162 0 46 (dk_at dksX0_knownOf_0 17 rfl rfl)
theorem dX0_knownOf_20 : decode cX0_knownOf 20 = .ok (.iload 4, 2) := dk_21 4 (dk_at dksX0_knownOf_0 20 rfl rfl)
theorem dX0_knownOf_22 : decode cX0_knownOf 22 = .ok (.aload_n 3, 1) := dk_45 (dk_at dksX0_knownOf_0 22 rfl rfl)
theorem dX0_knownOf_23 : decode cX0_knownOf 23 = .ok (.getfield 233, 3) := dk_180 0 233 (dk_at dksX0_knownOf_1 0 rfl rfl)
theorem dX0_knownOf_26 : decode cX0_knownOf 26 = .ok (.iload 5, 2) := dk_21 5 (dk_at dksX0_knownOf_1 3 rfl rfl)
theorem dX0_knownOf_28 : decode cX0_knownOf 28 = .ok (.aaload, 1) := dk_50 (dk_at dksX0_knownOf_1 5 rfl rfl)
theorem dX0_knownOf_29 : decode cX0_knownOf 29 = .ok (.getfield 236, 3) := dk_180 0 236 (dk_at dksX0_knownOf_1 6 rfl rfl)
theorem dX0_knownOf_32 : decode cX0_knownOf 32 = .ok (.iload_n 1, 1) := dk_27 (dk_at dksX0_knownOf_1 9 rfl rfl)
theorem dX0_knownOf_33 : decode cX0_knownOf 33 = .ok (.if_icmp .ne 20, 3) := dk_160 0 20 (dk_at dksX0_knownOf_1 10 rfl rfl)
theorem dX0_knownOf_36 : decode cX0_knownOf 36 = .ok (.iload_n 2, 1) := dk_28 (dk_at dksX0_knownOf_1 13 rfl rfl)
theorem dX0_knownOf_37 : decode cX0_knownOf 37 = .ok (.ifCond .eq 12, 3) := dk_153 0 12 (dk_at dksX0_knownOf_1 14 rfl rfl)
theorem dX0_knownOf_40 : decode cX0_knownOf 40 = .ok (.aload_n 3, 1) := dk_45 (dk_at dksX0_knownOf_1 17 rfl rfl)
theorem dX0_knownOf_41 : decode cX0_knownOf 41 = .ok (.iload 5, 2) := dk_21 5 (dk_at dksX0_knownOf_1 18 rfl rfl)
theorem dX0_knownOf_43 : decode cX0_knownOf 43 = .ok (.invokevirtual 239, 3) := dk_182 0 239 (dk_at dksX0_knownOf_1 20 rfl rfl)
theorem dX0_knownOf_46 : decode cX0_knownOf 46 = .ok (.ifCond .ne 7, 3) := dk_154 0 7 (dk_at dksX0_knownOf_2 0 rfl rfl)
theorem dX0_knownOf_49 : decode cX0_knownOf 49 = .ok (.iconst 1, 1) := dk_4 (dk_at dksX0_knownOf_2 3 rfl rfl)
theorem dX0_knownOf_50 : decode cX0_knownOf 50 = .ok (.goto 4, 3) := dk_167 0 4 (dk_at dksX0_knownOf_2 4 rfl rfl)
theorem dX0_knownOf_53 : decode cX0_knownOf 53 = .ok (.iconst 0, 1) := dk_3 (dk_at dksX0_knownOf_2 7 rfl rfl)
theorem dX0_knownOf_54 : decode cX0_knownOf 54 = .ok (.iadd, 1) := dk_96 (dk_at dksX0_knownOf_2 8 rfl rfl)
theorem dX0_knownOf_55 : decode cX0_knownOf 55 = .ok (.istore 4, 2) := dk_54 4 (dk_at dksX0_knownOf_2 9 rfl rfl)
theorem dX0_knownOf_57 : decode cX0_knownOf 57 = .ok (.iinc 5 1, 3) := dk_132 5 1 (dk_at dksX0_knownOf_2 11 rfl rfl)
theorem dX0_knownOf_60 : decode cX0_knownOf 60 = .ok (.goto (-49), 3) := dk_167 255 207 (dk_at dksX0_knownOf_2 14 rfl rfl)
theorem dX0_knownOf_63 : decode cX0_knownOf 63 = .ok (.iload 4, 2) := dk_21 4 (dk_at dksX0_knownOf_2 17 rfl rfl)
theorem dX0_knownOf_65 : decode cX0_knownOf 65 = .ok (.ireturn, 1) := dk_172 (dk_at dksX0_knownOf_2 19 rfl rfl)
abbrev cX0_tracked : ByteArray := prog_1_method_9_code
def yX0_tracked : MethodName := ⟨RX0, "tracked", "()LWhalingLogs$Listing;"⟩
def dkwX0_tracked_0 : List UInt8 := [42, 182, 0, 93, 182, 0, 96, 176]
abbrev dktX0_tracked_0 : List UInt8 := dkwX0_tracked_0 ++ []
theorem dksX0_tracked_0 : cX0_tracked.data.toList.drop 0 = dktX0_tracked_0 := by decide +kernel
theorem dX0_tracked_0 : decode cX0_tracked 0 = .ok (.aload_n 0, 1) := dk_42 (dk_at dksX0_tracked_0 0 rfl rfl)
theorem dX0_tracked_1 : decode cX0_tracked 1 = .ok (.invokevirtual 93, 3) := dk_182 0 93 (dk_at dksX0_tracked_0 1 rfl rfl)
theorem dX0_tracked_4 : decode cX0_tracked 4 = .ok (.invokevirtual 96, 3) := dk_182 0 96 (dk_at dksX0_tracked_0 4 rfl rfl)
theorem dX0_tracked_7 : decode cX0_tracked 7 = .ok (.areturn, 1) := dk_176 (dk_at dksX0_tracked_0 7 rfl rfl)
abbrev cX0_spread : ByteArray := prog_1_method_8_code
def yX0_spread : MethodName := ⟨RX0, "spread", "()LWhalingLogs$Listing;"⟩
def dkwX0_spread_0 : List UInt8 := [42, 182, 0, 85, 42, 180, 0, 26, 182, 0, 89, 176]
abbrev dktX0_spread_0 : List UInt8 := dkwX0_spread_0 ++ []
theorem dksX0_spread_0 : cX0_spread.data.toList.drop 0 = dktX0_spread_0 := by decide +kernel
theorem dX0_spread_0 : decode cX0_spread 0 = .ok (.aload_n 0, 1) := dk_42 (dk_at dksX0_spread_0 0 rfl rfl)
theorem dX0_spread_1 : decode cX0_spread 1 = .ok (.invokevirtual 85, 3) := dk_182 0 85 (dk_at dksX0_spread_0 1 rfl rfl)
theorem dX0_spread_4 : decode cX0_spread 4 = .ok (.aload_n 0, 1) := dk_42 (dk_at dksX0_spread_0 4 rfl rfl)
theorem dX0_spread_5 : decode cX0_spread 5 = .ok (.getfield 26, 3) := dk_180 0 26 (dk_at dksX0_spread_0 5 rfl rfl)
theorem dX0_spread_8 : decode cX0_spread 8 = .ok (.invokevirtual 89, 3) := dk_182 0 89 (dk_at dksX0_spread_0 8 rfl rfl)
theorem dX0_spread_11 : decode cX0_spread 11 = .ok (.areturn, 1) := dk_176 (dk_at dksX0_spread_0 11 rfl rfl)
abbrev cX0_listed_2 : ByteArray := prog_1_method_29_code
def yX0_listed_2 : MethodName := ⟨RX0, "listed", "(II)I"⟩
def dkwX0_listed_2_3 : List UInt8 := [180, 1, 4, 167, 0, 17, 45, 180, 0, 233, 27, 50, 180, 1, 7, 167, 0, 5, 16, 254, 172]
abbrev dktX0_listed_2_3 : List UInt8 := dkwX0_listed_2_3 ++ []
def dkwX0_listed_2_2 : List UInt8 := [45, 180, 0, 255, 27, 46, 167, 0, 38, 45, 180, 1, 1, 27, 46, 167, 0, 29, 45, 180, 0, 233, 27, 50]
abbrev dktX0_listed_2_2 : List UInt8 := dkwX0_listed_2_2 ++ dktX0_listed_2_3
def dkwX0_listed_2_1 : List UInt8 := [170, 0, 0, 0, 0, 0, 0, 74, 0, 0, 0, 0, 0, 0, 0, 3, 0, 0, 0, 32, 0, 0, 0, 41, 0, 0, 0, 50, 0, 0, 0, 62]
abbrev dktX0_listed_2_1 : List UInt8 := dkwX0_listed_2_1 ++ dktX0_listed_2_2
def dkwX0_listed_2_0 : List UInt8 := [42, 182, 0, 85, 78, 45, 27, 182, 0, 252, 154, 0, 5, 2, 172, 28]
abbrev dktX0_listed_2_0 : List UInt8 := dkwX0_listed_2_0 ++ dktX0_listed_2_1
theorem dksX0_listed_2_0 : cX0_listed_2.data.toList.drop 0 = dktX0_listed_2_0 := by decide +kernel
theorem dksX0_listed_2_1 : cX0_listed_2.data.toList.drop 16 = dktX0_listed_2_1 := dk_seg dksX0_listed_2_0 16 rfl rfl
theorem dksX0_listed_2_2 : cX0_listed_2.data.toList.drop 48 = dktX0_listed_2_2 := dk_seg dksX0_listed_2_1 32 rfl rfl
theorem dksX0_listed_2_3 : cX0_listed_2.data.toList.drop 72 = dktX0_listed_2_3 := dk_seg dksX0_listed_2_2 24 rfl rfl
theorem dX0_listed_2_0 : decode cX0_listed_2 0 = .ok (.aload_n 0, 1) := dk_42 (dk_at dksX0_listed_2_0 0 rfl rfl)
theorem dX0_listed_2_1 : decode cX0_listed_2 1 = .ok (.invokevirtual 85, 3) := dk_182 0 85 (dk_at dksX0_listed_2_0 1 rfl rfl)
theorem dX0_listed_2_4 : decode cX0_listed_2 4 = .ok (.astore_n 3, 1) := dk_78 (dk_at dksX0_listed_2_0 4 rfl rfl)
theorem dX0_listed_2_5 : decode cX0_listed_2 5 = .ok (.aload_n 3, 1) := dk_45 (dk_at dksX0_listed_2_0 5 rfl rfl)
theorem dX0_listed_2_6 : decode cX0_listed_2 6 = .ok (.iload_n 1, 1) := dk_27 (dk_at dksX0_listed_2_0 6 rfl rfl)
theorem dX0_listed_2_7 : decode cX0_listed_2 7 = .ok (.invokevirtual 252, 3) := dk_182 0 252 (dk_at dksX0_listed_2_0 7 rfl rfl)
theorem dX0_listed_2_10 : decode cX0_listed_2 10 = .ok (.ifCond .ne 5, 3) := dk_154 0 5 (dk_at dksX0_listed_2_0 10 rfl rfl)
theorem dX0_listed_2_13 : decode cX0_listed_2 13 = .ok (.iconst (-1), 1) := dk_2 (dk_at dksX0_listed_2_0 13 rfl rfl)
theorem dX0_listed_2_14 : decode cX0_listed_2 14 = .ok (.ireturn, 1) := dk_172 (dk_at dksX0_listed_2_0 14 rfl rfl)
theorem dX0_listed_2_15 : decode cX0_listed_2 15 = .ok (.iload_n 2, 1) := dk_28 (dk_at dksX0_listed_2_0 15 rfl rfl)
theorem dX0_listed_2_16 : decode cX0_listed_2 16 = .ok (.tableswitch 74 0 3 #[32, 41, 50, 62], 32) := by decide +kernel
theorem dX0_listed_2_48 : decode cX0_listed_2 48 = .ok (.aload_n 3, 1) := dk_45 (dk_at dksX0_listed_2_2 0 rfl rfl)
theorem dX0_listed_2_49 : decode cX0_listed_2 49 = .ok (.getfield 255, 3) := dk_180 0 255 (dk_at dksX0_listed_2_2 1 rfl rfl)
theorem dX0_listed_2_52 : decode cX0_listed_2 52 = .ok (.iload_n 1, 1) := dk_27 (dk_at dksX0_listed_2_2 4 rfl rfl)
theorem dX0_listed_2_53 : decode cX0_listed_2 53 = .ok (.iaload, 1) := dk_46 (dk_at dksX0_listed_2_2 5 rfl rfl)
theorem dX0_listed_2_54 : decode cX0_listed_2 54 = .ok (.goto 38, 3) := dk_167 0 38 (dk_at dksX0_listed_2_2 6 rfl rfl)
theorem dX0_listed_2_57 : decode cX0_listed_2 57 = .ok (.aload_n 3, 1) := dk_45 (dk_at dksX0_listed_2_2 9 rfl rfl)
theorem dX0_listed_2_58 : decode cX0_listed_2 58 = .ok (.getfield 257, 3) := dk_180 1 1 (dk_at dksX0_listed_2_2 10 rfl rfl)
theorem dX0_listed_2_61 : decode cX0_listed_2 61 = .ok (.iload_n 1, 1) := dk_27 (dk_at dksX0_listed_2_2 13 rfl rfl)
theorem dX0_listed_2_62 : decode cX0_listed_2 62 = .ok (.iaload, 1) := dk_46 (dk_at dksX0_listed_2_2 14 rfl rfl)
theorem dX0_listed_2_63 : decode cX0_listed_2 63 = .ok (.goto 29, 3) := dk_167 0 29 (dk_at dksX0_listed_2_2 15 rfl rfl)
theorem dX0_listed_2_66 : decode cX0_listed_2 66 = .ok (.aload_n 3, 1) := dk_45 (dk_at dksX0_listed_2_2 18 rfl rfl)
theorem dX0_listed_2_67 : decode cX0_listed_2 67 = .ok (.getfield 233, 3) := dk_180 0 233 (dk_at dksX0_listed_2_2 19 rfl rfl)
theorem dX0_listed_2_70 : decode cX0_listed_2 70 = .ok (.iload_n 1, 1) := dk_27 (dk_at dksX0_listed_2_2 22 rfl rfl)
theorem dX0_listed_2_71 : decode cX0_listed_2 71 = .ok (.aaload, 1) := dk_50 (dk_at dksX0_listed_2_2 23 rfl rfl)
theorem dX0_listed_2_72 : decode cX0_listed_2 72 = .ok (.getfield 260, 3) := dk_180 1 4 (dk_at dksX0_listed_2_3 0 rfl rfl)
theorem dX0_listed_2_75 : decode cX0_listed_2 75 = .ok (.goto 17, 3) := dk_167 0 17 (dk_at dksX0_listed_2_3 3 rfl rfl)
theorem dX0_listed_2_78 : decode cX0_listed_2 78 = .ok (.aload_n 3, 1) := dk_45 (dk_at dksX0_listed_2_3 6 rfl rfl)
theorem dX0_listed_2_79 : decode cX0_listed_2 79 = .ok (.getfield 233, 3) := dk_180 0 233 (dk_at dksX0_listed_2_3 7 rfl rfl)
theorem dX0_listed_2_82 : decode cX0_listed_2 82 = .ok (.iload_n 1, 1) := dk_27 (dk_at dksX0_listed_2_3 10 rfl rfl)
theorem dX0_listed_2_83 : decode cX0_listed_2 83 = .ok (.aaload, 1) := dk_50 (dk_at dksX0_listed_2_3 11 rfl rfl)
theorem dX0_listed_2_84 : decode cX0_listed_2 84 = .ok (.getfield 263, 3) := dk_180 1 7 (dk_at dksX0_listed_2_3 12 rfl rfl)
theorem dX0_listed_2_87 : decode cX0_listed_2 87 = .ok (.goto 5, 3) := dk_167 0 5 (dk_at dksX0_listed_2_3 15 rfl rfl)
theorem dX0_listed_2_90 : decode cX0_listed_2 90 = .ok (.bipush (-2), 2) := dk_16 254 (dk_at dksX0_listed_2_3 18 rfl rfl)
theorem dX0_listed_2_92 : decode cX0_listed_2 92 = .ok (.ireturn, 1) := dk_172 (dk_at dksX0_listed_2_3 20 rfl rfl)
abbrev cX0_canBoth : ByteArray := prog_1_method_30_code
def yX0_canBoth : MethodName := ⟨RX0, "canBoth", "(II)I"⟩
def dkwX0_canBoth_1 : List UInt8 := [27, 28, 182, 1, 10, 153, 0, 7, 4, 167, 0, 4, 3, 172]
abbrev dktX0_canBoth_1 : List UInt8 := dkwX0_canBoth_1 ++ []
def dkwX0_canBoth_0 : List UInt8 := [42, 182, 0, 93, 78, 45, 27, 182, 0, 252, 153, 0, 11, 45, 28, 182, 0, 252, 154, 0, 5, 2, 172, 45]
abbrev dktX0_canBoth_0 : List UInt8 := dkwX0_canBoth_0 ++ dktX0_canBoth_1
theorem dksX0_canBoth_0 : cX0_canBoth.data.toList.drop 0 = dktX0_canBoth_0 := by decide +kernel
theorem dksX0_canBoth_1 : cX0_canBoth.data.toList.drop 24 = dktX0_canBoth_1 := dk_seg dksX0_canBoth_0 24 rfl rfl
theorem dX0_canBoth_0 : decode cX0_canBoth 0 = .ok (.aload_n 0, 1) := dk_42 (dk_at dksX0_canBoth_0 0 rfl rfl)
theorem dX0_canBoth_1 : decode cX0_canBoth 1 = .ok (.invokevirtual 93, 3) := dk_182 0 93 (dk_at dksX0_canBoth_0 1 rfl rfl)
theorem dX0_canBoth_4 : decode cX0_canBoth 4 = .ok (.astore_n 3, 1) := dk_78 (dk_at dksX0_canBoth_0 4 rfl rfl)
theorem dX0_canBoth_5 : decode cX0_canBoth 5 = .ok (.aload_n 3, 1) := dk_45 (dk_at dksX0_canBoth_0 5 rfl rfl)
theorem dX0_canBoth_6 : decode cX0_canBoth 6 = .ok (.iload_n 1, 1) := dk_27 (dk_at dksX0_canBoth_0 6 rfl rfl)
theorem dX0_canBoth_7 : decode cX0_canBoth 7 = .ok (.invokevirtual 252, 3) := dk_182 0 252 (dk_at dksX0_canBoth_0 7 rfl rfl)
theorem dX0_canBoth_10 : decode cX0_canBoth 10 = .ok (.ifCond .eq 11, 3) := dk_153 0 11 (dk_at dksX0_canBoth_0 10 rfl rfl)
theorem dX0_canBoth_13 : decode cX0_canBoth 13 = .ok (.aload_n 3, 1) := dk_45 (dk_at dksX0_canBoth_0 13 rfl rfl)
theorem dX0_canBoth_14 : decode cX0_canBoth 14 = .ok (.iload_n 2, 1) := dk_28 (dk_at dksX0_canBoth_0 14 rfl rfl)
theorem dX0_canBoth_15 : decode cX0_canBoth 15 = .ok (.invokevirtual 252, 3) := dk_182 0 252 (dk_at dksX0_canBoth_0 15 rfl rfl)
theorem dX0_canBoth_18 : decode cX0_canBoth 18 = .ok (.ifCond .ne 5, 3) := dk_154 0 5 (dk_at dksX0_canBoth_0 18 rfl rfl)
theorem dX0_canBoth_21 : decode cX0_canBoth 21 = .ok (.iconst (-1), 1) := dk_2 (dk_at dksX0_canBoth_0 21 rfl rfl)
theorem dX0_canBoth_22 : decode cX0_canBoth 22 = .ok (.ireturn, 1) := dk_172 (dk_at dksX0_canBoth_0 22 rfl rfl)
theorem dX0_canBoth_23 : decode cX0_canBoth 23 = .ok (.aload_n 3, 1) := dk_45 (dk_at dksX0_canBoth_0 23 rfl rfl)
theorem dX0_canBoth_24 : decode cX0_canBoth 24 = .ok (.iload_n 1, 1) := dk_27 (dk_at dksX0_canBoth_1 0 rfl rfl)
theorem dX0_canBoth_25 : decode cX0_canBoth 25 = .ok (.iload_n 2, 1) := dk_28 (dk_at dksX0_canBoth_1 1 rfl rfl)
theorem dX0_canBoth_26 : decode cX0_canBoth 26 = .ok (.invokevirtual 266, 3) := dk_182 1 10 (dk_at dksX0_canBoth_1 2 rfl rfl)
theorem dX0_canBoth_29 : decode cX0_canBoth 29 = .ok (.ifCond .eq 7, 3) := dk_153 0 7 (dk_at dksX0_canBoth_1 5 rfl rfl)
theorem dX0_canBoth_32 : decode cX0_canBoth 32 = .ok (.iconst 1, 1) := dk_4 (dk_at dksX0_canBoth_1 8 rfl rfl)
theorem dX0_canBoth_33 : decode cX0_canBoth 33 = .ok (.goto 4, 3) := dk_167 0 4 (dk_at dksX0_canBoth_1 9 rfl rfl)
theorem dX0_canBoth_36 : decode cX0_canBoth 36 = .ok (.iconst 0, 1) := dk_3 (dk_at dksX0_canBoth_1 12 rfl rfl)
theorem dX0_canBoth_37 : decode cX0_canBoth 37 = .ok (.ireturn, 1) := dk_172 (dk_at dksX0_canBoth_1 13 rfl rfl)
abbrev cX0_conflicts : ByteArray := prog_1_method_31_code
def yX0_conflicts : MethodName := ⟨RX0, "conflicts", "()I"⟩
def dkwX0_conflicts_0 : List UInt8 := [42, 182, 0, 93, 182, 1, 13, 172]
abbrev dktX0_conflicts_0 : List UInt8 := dkwX0_conflicts_0 ++ []
theorem dksX0_conflicts_0 : cX0_conflicts.data.toList.drop 0 = dktX0_conflicts_0 := by decide +kernel
theorem dX0_conflicts_0 : decode cX0_conflicts 0 = .ok (.aload_n 0, 1) := dk_42 (dk_at dksX0_conflicts_0 0 rfl rfl)
theorem dX0_conflicts_1 : decode cX0_conflicts 1 = .ok (.invokevirtual 93, 3) := dk_182 0 93 (dk_at dksX0_conflicts_0 1 rfl rfl)
theorem dX0_conflicts_4 : decode cX0_conflicts 4 = .ok (.invokevirtual 269, 3) := dk_182 1 13 (dk_at dksX0_conflicts_0 4 rfl rfl)
theorem dX0_conflicts_7 : decode cX0_conflicts 7 = .ok (.ireturn, 1) := dk_172 (dk_at dksX0_conflicts_0 7 rfl rfl)
abbrev cX0_worst : ByteArray := prog_1_method_33_code
def yX0_worst : MethodName := ⟨RX0, "worst", "()I"⟩
def dkwX0_worst_0 : List UInt8 := [42, 182, 0, 93, 182, 1, 16, 184, 1, 19, 172]
abbrev dktX0_worst_0 : List UInt8 := dkwX0_worst_0 ++ []
theorem dksX0_worst_0 : cX0_worst.data.toList.drop 0 = dktX0_worst_0 := by decide +kernel
theorem dX0_worst_0 : decode cX0_worst 0 = .ok (.aload_n 0, 1) := dk_42 (dk_at dksX0_worst_0 0 rfl rfl)
theorem dX0_worst_1 : decode cX0_worst 1 = .ok (.invokevirtual 93, 3) := dk_182 0 93 (dk_at dksX0_worst_0 1 rfl rfl)
theorem dX0_worst_4 : decode cX0_worst 4 = .ok (.invokevirtual 272, 3) := dk_182 1 16 (dk_at dksX0_worst_0 4 rfl rfl)
theorem dX0_worst_7 : decode cX0_worst 7 = .ok (.invokestatic 275, 3) := dk_184 1 19 (dk_at dksX0_worst_0 7 rfl rfl)
theorem dX0_worst_10 : decode cX0_worst 10 = .ok (.ireturn, 1) := dk_172 (dk_at dksX0_worst_0 10 rfl rfl)
abbrev cX0_orNothing : ByteArray := prog_1_method_32_code
def yX0_orNothing : MethodName := ⟨RX0, "orNothing", "(I)I"⟩
def dkwX0_orNothing_0 : List UInt8 := [26, 2, 160, 0, 8, 16, 251, 167, 0, 4, 26, 172]
abbrev dktX0_orNothing_0 : List UInt8 := dkwX0_orNothing_0 ++ []
theorem dksX0_orNothing_0 : cX0_orNothing.data.toList.drop 0 = dktX0_orNothing_0 := by decide +kernel
theorem dX0_orNothing_0 : decode cX0_orNothing 0 = .ok (.iload_n 0, 1) := dk_26 (dk_at dksX0_orNothing_0 0 rfl rfl)
theorem dX0_orNothing_1 : decode cX0_orNothing 1 = .ok (.iconst (-1), 1) := dk_2 (dk_at dksX0_orNothing_0 1 rfl rfl)
theorem dX0_orNothing_2 : decode cX0_orNothing 2 = .ok (.if_icmp .ne 8, 3) := dk_160 0 8 (dk_at dksX0_orNothing_0 2 rfl rfl)
theorem dX0_orNothing_5 : decode cX0_orNothing 5 = .ok (.bipush (-5), 2) := dk_16 251 (dk_at dksX0_orNothing_0 5 rfl rfl)
theorem dX0_orNothing_7 : decode cX0_orNothing 7 = .ok (.goto 4, 3) := dk_167 0 4 (dk_at dksX0_orNothing_0 7 rfl rfl)
theorem dX0_orNothing_10 : decode cX0_orNothing 10 = .ok (.iload_n 0, 1) := dk_26 (dk_at dksX0_orNothing_0 10 rfl rfl)
theorem dX0_orNothing_11 : decode cX0_orNothing 11 = .ok (.ireturn, 1) := dk_172 (dk_at dksX0_orNothing_0 11 rfl rfl)
abbrev cX0_crossings : ByteArray := prog_1_method_34_code
def yX0_crossings : MethodName := ⟨RX0, "crossings", "()I"⟩
def dkwX0_crossings_0 : List UInt8 := [42, 182, 0, 85, 182, 0, 179, 172]
abbrev dktX0_crossings_0 : List UInt8 := dkwX0_crossings_0 ++ []
theorem dksX0_crossings_0 : cX0_crossings.data.toList.drop 0 = dktX0_crossings_0 := by decide +kernel
theorem dX0_crossings_0 : decode cX0_crossings 0 = .ok (.aload_n 0, 1) := dk_42 (dk_at dksX0_crossings_0 0 rfl rfl)
theorem dX0_crossings_1 : decode cX0_crossings 1 = .ok (.invokevirtual 85, 3) := dk_182 0 85 (dk_at dksX0_crossings_0 1 rfl rfl)
theorem dX0_crossings_4 : decode cX0_crossings 4 = .ok (.invokevirtual 179, 3) := dk_182 0 179 (dk_at dksX0_crossings_0 4 rfl rfl)
theorem dX0_crossings_7 : decode cX0_crossings 7 = .ok (.ireturn, 1) := dk_172 (dk_at dksX0_crossings_0 7 rfl rfl)
abbrev cX0_crossingsAgain : ByteArray := prog_1_method_37_code
def yX0_crossingsAgain : MethodName := ⟨RX0, "crossingsAgain", "()I"⟩
def dkwX0_crossingsAgain_6 : List UInt8 := [192, 0, 223, 184, 1, 46, 167, 0, 4, 3, 54, 6, 132, 5, 1, 167, 255, 206, 167, 255, 120, 28, 172]
abbrev dktX0_crossingsAgain_6 : List UInt8 := dkwX0_crossingsAgain_6 ++ []
def dkwX0_crossingsAgain_5 : List UInt8 := [21, 5, 182, 0, 222, 192, 0, 223, 180, 1, 39, 4, 160, 0, 20, 43, 25, 4, 21, 5, 182, 0, 222]
abbrev dktX0_crossingsAgain_5 : List UInt8 := dkwX0_crossingsAgain_5 ++ dktX0_crossingsAgain_6
def dkwX0_crossingsAgain_4 : List UInt8 := [3, 96, 61, 132, 5, 1, 167, 255, 205, 3, 54, 5, 21, 5, 25, 4, 182, 0, 205, 162, 0, 46, 25, 4]
abbrev dktX0_crossingsAgain_4 : List UInt8 := dkwX0_crossingsAgain_4 ++ dktX0_crossingsAgain_5
def dkwX0_crossingsAgain_3 : List UInt8 := [180, 1, 39, 4, 160, 0, 20, 43, 25, 4, 21, 5, 182, 0, 222, 192, 0, 223, 184, 1, 42, 167, 0, 4]
abbrev dktX0_crossingsAgain_3 : List UInt8 := dkwX0_crossingsAgain_3 ++ dktX0_crossingsAgain_4
def dkwX0_crossingsAgain_2 : List UInt8 := [54, 5, 21, 5, 25, 4, 182, 0, 205, 162, 0, 47, 28, 25, 4, 21, 5, 182, 0, 222, 192, 0, 223]
abbrev dktX0_crossingsAgain_2 : List UInt8 := dkwX0_crossingsAgain_2 ++ dktX0_crossingsAgain_3
def dkwX0_crossingsAgain_1 : List UInt8 := [185, 1, 26, 1, 0, 153, 0, 133, 45, 185, 1, 32, 1, 0, 192, 0, 173, 180, 0, 201, 58, 4, 3]
abbrev dktX0_crossingsAgain_1 : List UInt8 := dkwX0_crossingsAgain_1 ++ dktX0_crossingsAgain_2
def dkwX0_crossingsAgain_0 : List UInt8 := [187, 0, 168, 89, 183, 1, 35, 76, 3, 61, 42, 180, 0, 12, 180, 0, 163, 182, 1, 36, 78, 45]
abbrev dktX0_crossingsAgain_0 : List UInt8 := dkwX0_crossingsAgain_0 ++ dktX0_crossingsAgain_1
theorem dksX0_crossingsAgain_0 : cX0_crossingsAgain.data.toList.drop 0 = dktX0_crossingsAgain_0 := by decide +kernel
theorem dksX0_crossingsAgain_1 : cX0_crossingsAgain.data.toList.drop 22 = dktX0_crossingsAgain_1 := dk_seg dksX0_crossingsAgain_0 22 rfl rfl
theorem dksX0_crossingsAgain_2 : cX0_crossingsAgain.data.toList.drop 45 = dktX0_crossingsAgain_2 := dk_seg dksX0_crossingsAgain_1 23 rfl rfl
theorem dksX0_crossingsAgain_3 : cX0_crossingsAgain.data.toList.drop 68 = dktX0_crossingsAgain_3 := dk_seg dksX0_crossingsAgain_2 23 rfl rfl
theorem dksX0_crossingsAgain_4 : cX0_crossingsAgain.data.toList.drop 92 = dktX0_crossingsAgain_4 := dk_seg dksX0_crossingsAgain_3 24 rfl rfl
theorem dksX0_crossingsAgain_5 : cX0_crossingsAgain.data.toList.drop 116 = dktX0_crossingsAgain_5 := dk_seg dksX0_crossingsAgain_4 24 rfl rfl
theorem dksX0_crossingsAgain_6 : cX0_crossingsAgain.data.toList.drop 139 = dktX0_crossingsAgain_6 := dk_seg dksX0_crossingsAgain_5 23 rfl rfl
theorem dX0_crossingsAgain_0 : decode cX0_crossingsAgain 0 = .ok (.new 168, 3) := dk_187 0 168 (dk_at dksX0_crossingsAgain_0 0 rfl rfl)
theorem dX0_crossingsAgain_3 : decode cX0_crossingsAgain 3 = .ok (.dup, 1) := dk_89 (dk_at dksX0_crossingsAgain_0 3 rfl rfl)
theorem dX0_crossingsAgain_4 : decode cX0_crossingsAgain 4 = .ok (.invokespecial 291, 3) := dk_183 1 35 (dk_at dksX0_crossingsAgain_0 4 rfl rfl)
theorem dX0_crossingsAgain_7 : decode cX0_crossingsAgain 7 = .ok (.astore_n 1, 1) := dk_76 (dk_at dksX0_crossingsAgain_0 7 rfl rfl)
theorem dX0_crossingsAgain_8 : decode cX0_crossingsAgain 8 = .ok (.iconst 0, 1) := dk_3 (dk_at dksX0_crossingsAgain_0 8 rfl rfl)
theorem dX0_crossingsAgain_9 : decode cX0_crossingsAgain 9 = .ok (.istore_n 2, 1) := dk_61 (dk_at dksX0_crossingsAgain_0 9 rfl rfl)
theorem dX0_crossingsAgain_10 : decode cX0_crossingsAgain 10 = .ok (.aload_n 0, 1) := dk_42 (dk_at dksX0_crossingsAgain_0 10 rfl rfl)
theorem dX0_crossingsAgain_11 : decode cX0_crossingsAgain 11 = .ok (.getfield 12, 3) := dk_180 0 12 (dk_at dksX0_crossingsAgain_0 11 rfl rfl)
theorem dX0_crossingsAgain_14 : decode cX0_crossingsAgain 14 = .ok (.getfield 163, 3) := dk_180 0 163 (dk_at dksX0_crossingsAgain_0 14 rfl rfl)
theorem dX0_crossingsAgain_17 : decode cX0_crossingsAgain 17 = .ok (.invokevirtual 292, 3) := dk_182 1 36 (dk_at dksX0_crossingsAgain_0 17 rfl rfl)
theorem dX0_crossingsAgain_20 : decode cX0_crossingsAgain 20 = .ok (.astore_n 3, 1) := dk_78 (dk_at dksX0_crossingsAgain_0 20 rfl rfl)
theorem dX0_crossingsAgain_21 : decode cX0_crossingsAgain 21 = .ok (.aload_n 3, 1) := dk_45 (dk_at dksX0_crossingsAgain_0 21 rfl rfl)
theorem dX0_crossingsAgain_22 : decode cX0_crossingsAgain 22 = .ok (.invokeinterface 282 1, 5) := by decide +kernel
theorem dX0_crossingsAgain_27 : decode cX0_crossingsAgain 27 = .ok (.ifCond .eq 133, 3) := dk_153 0 133 (dk_at dksX0_crossingsAgain_1 5 rfl rfl)
theorem dX0_crossingsAgain_30 : decode cX0_crossingsAgain 30 = .ok (.aload_n 3, 1) := dk_45 (dk_at dksX0_crossingsAgain_1 8 rfl rfl)
theorem dX0_crossingsAgain_31 : decode cX0_crossingsAgain 31 = .ok (.invokeinterface 288 1, 5) := by decide +kernel
theorem dX0_crossingsAgain_36 : decode cX0_crossingsAgain 36 = .ok (.checkcast 173, 3) := dk_192 0 173 (dk_at dksX0_crossingsAgain_1 14 rfl rfl)
theorem dX0_crossingsAgain_39 : decode cX0_crossingsAgain 39 = .ok (.getfield 201, 3) := dk_180 0 201 (dk_at dksX0_crossingsAgain_1 17 rfl rfl)
theorem dX0_crossingsAgain_42 : decode cX0_crossingsAgain 42 = .ok (.astore 4, 2) := dk_58 4 (dk_at dksX0_crossingsAgain_1 20 rfl rfl)
theorem dX0_crossingsAgain_44 : decode cX0_crossingsAgain 44 = .ok (.iconst 0, 1) := dk_3 (dk_at dksX0_crossingsAgain_1 22 rfl rfl)
theorem dX0_crossingsAgain_45 : decode cX0_crossingsAgain 45 = .ok (.istore 5, 2) := dk_54 5 (dk_at dksX0_crossingsAgain_2 0 rfl rfl)
theorem dX0_crossingsAgain_47 : decode cX0_crossingsAgain 47 = .ok (.iload 5, 2) := dk_21 5 (dk_at dksX0_crossingsAgain_2 2 rfl rfl)
theorem dX0_crossingsAgain_49 : decode cX0_crossingsAgain 49 = .ok (.aload 4, 2) := dk_25 4 (dk_at dksX0_crossingsAgain_2 4 rfl rfl)
theorem dX0_crossingsAgain_51 : decode cX0_crossingsAgain 51 = .ok (.invokevirtual 205, 3) := dk_182 0 205 (dk_at dksX0_crossingsAgain_2 6 rfl rfl)
theorem dX0_crossingsAgain_54 : decode cX0_crossingsAgain 54 = .ok (.if_icmp .ge 47, 3) := dk_162 0 47 (dk_at dksX0_crossingsAgain_2 9 rfl rfl)
theorem dX0_crossingsAgain_57 : decode cX0_crossingsAgain 57 = .ok (.iload_n 2, 1) := dk_28 (dk_at dksX0_crossingsAgain_2 12 rfl rfl)
theorem dX0_crossingsAgain_58 : decode cX0_crossingsAgain 58 = .ok (.aload 4, 2) := dk_25 4 (dk_at dksX0_crossingsAgain_2 13 rfl rfl)
theorem dX0_crossingsAgain_60 : decode cX0_crossingsAgain 60 = .ok (.iload 5, 2) := dk_21 5 (dk_at dksX0_crossingsAgain_2 15 rfl rfl)
theorem dX0_crossingsAgain_62 : decode cX0_crossingsAgain 62 = .ok (.invokevirtual 222, 3) := dk_182 0 222 (dk_at dksX0_crossingsAgain_2 17 rfl rfl)
theorem dX0_crossingsAgain_65 : decode cX0_crossingsAgain 65 = .ok (.checkcast 223, 3) := dk_192 0 223 (dk_at dksX0_crossingsAgain_2 20 rfl rfl)
theorem dX0_crossingsAgain_68 : decode cX0_crossingsAgain 68 = .ok (.getfield 295, 3) := dk_180 1 39 (dk_at dksX0_crossingsAgain_3 0 rfl rfl)
theorem dX0_crossingsAgain_71 : decode cX0_crossingsAgain 71 = .ok (.iconst 1, 1) := dk_4 (dk_at dksX0_crossingsAgain_3 3 rfl rfl)
theorem dX0_crossingsAgain_72 : decode cX0_crossingsAgain 72 = .ok (.if_icmp .ne 20, 3) := dk_160 0 20 (dk_at dksX0_crossingsAgain_3 4 rfl rfl)
theorem dX0_crossingsAgain_75 : decode cX0_crossingsAgain 75 = .ok (.aload_n 1, 1) := dk_43 (dk_at dksX0_crossingsAgain_3 7 rfl rfl)
theorem dX0_crossingsAgain_76 : decode cX0_crossingsAgain 76 = .ok (.aload 4, 2) := dk_25 4 (dk_at dksX0_crossingsAgain_3 8 rfl rfl)
theorem dX0_crossingsAgain_78 : decode cX0_crossingsAgain 78 = .ok (.iload 5, 2) := dk_21 5 (dk_at dksX0_crossingsAgain_3 10 rfl rfl)
theorem dX0_crossingsAgain_80 : decode cX0_crossingsAgain 80 = .ok (.invokevirtual 222, 3) := dk_182 0 222 (dk_at dksX0_crossingsAgain_3 12 rfl rfl)
theorem dX0_crossingsAgain_83 : decode cX0_crossingsAgain 83 = .ok (.checkcast 223, 3) := dk_192 0 223 (dk_at dksX0_crossingsAgain_3 15 rfl rfl)
theorem dX0_crossingsAgain_86 : decode cX0_crossingsAgain 86 = .ok (.invokestatic 298, 3) := dk_184 1 42 (dk_at dksX0_crossingsAgain_3 18 rfl rfl)
theorem dX0_crossingsAgain_89 : decode cX0_crossingsAgain 89 = .ok (.goto 4, 3) := dk_167 0 4 (dk_at dksX0_crossingsAgain_3 21 rfl rfl)
theorem dX0_crossingsAgain_92 : decode cX0_crossingsAgain 92 = .ok (.iconst 0, 1) := dk_3 (dk_at dksX0_crossingsAgain_4 0 rfl rfl)
theorem dX0_crossingsAgain_93 : decode cX0_crossingsAgain 93 = .ok (.iadd, 1) := dk_96 (dk_at dksX0_crossingsAgain_4 1 rfl rfl)
theorem dX0_crossingsAgain_94 : decode cX0_crossingsAgain 94 = .ok (.istore_n 2, 1) := dk_61 (dk_at dksX0_crossingsAgain_4 2 rfl rfl)
theorem dX0_crossingsAgain_95 : decode cX0_crossingsAgain 95 = .ok (.iinc 5 1, 3) := dk_132 5 1 (dk_at dksX0_crossingsAgain_4 3 rfl rfl)
theorem dX0_crossingsAgain_98 : decode cX0_crossingsAgain 98 = .ok (.goto (-51), 3) := dk_167 255 205 (dk_at dksX0_crossingsAgain_4 6 rfl rfl)
theorem dX0_crossingsAgain_101 : decode cX0_crossingsAgain 101 = .ok (.iconst 0, 1) := dk_3 (dk_at dksX0_crossingsAgain_4 9 rfl rfl)
theorem dX0_crossingsAgain_102 : decode cX0_crossingsAgain 102 = .ok (.istore 5, 2) := dk_54 5 (dk_at dksX0_crossingsAgain_4 10 rfl rfl)
theorem dX0_crossingsAgain_104 : decode cX0_crossingsAgain 104 = .ok (.iload 5, 2) := dk_21 5 (dk_at dksX0_crossingsAgain_4 12 rfl rfl)
theorem dX0_crossingsAgain_106 : decode cX0_crossingsAgain 106 = .ok (.aload 4, 2) := dk_25 4 (dk_at dksX0_crossingsAgain_4 14 rfl rfl)
theorem dX0_crossingsAgain_108 : decode cX0_crossingsAgain 108 = .ok (.invokevirtual 205, 3) := dk_182 0 205 (dk_at dksX0_crossingsAgain_4 16 rfl rfl)
theorem dX0_crossingsAgain_111 : decode cX0_crossingsAgain 111 = .ok (.if_icmp .ge 46, 3) := dk_162 0 46 (dk_at dksX0_crossingsAgain_4 19 rfl rfl)
theorem dX0_crossingsAgain_114 : decode cX0_crossingsAgain 114 = .ok (.aload 4, 2) := dk_25 4 (dk_at dksX0_crossingsAgain_4 22 rfl rfl)
theorem dX0_crossingsAgain_116 : decode cX0_crossingsAgain 116 = .ok (.iload 5, 2) := dk_21 5 (dk_at dksX0_crossingsAgain_5 0 rfl rfl)
theorem dX0_crossingsAgain_118 : decode cX0_crossingsAgain 118 = .ok (.invokevirtual 222, 3) := dk_182 0 222 (dk_at dksX0_crossingsAgain_5 2 rfl rfl)
theorem dX0_crossingsAgain_121 : decode cX0_crossingsAgain 121 = .ok (.checkcast 223, 3) := dk_192 0 223 (dk_at dksX0_crossingsAgain_5 5 rfl rfl)
theorem dX0_crossingsAgain_124 : decode cX0_crossingsAgain 124 = .ok (.getfield 295, 3) := dk_180 1 39 (dk_at dksX0_crossingsAgain_5 8 rfl rfl)
theorem dX0_crossingsAgain_127 : decode cX0_crossingsAgain 127 = .ok (.iconst 1, 1) := dk_4 (dk_at dksX0_crossingsAgain_5 11 rfl rfl)
theorem dX0_crossingsAgain_128 : decode cX0_crossingsAgain 128 = .ok (.if_icmp .ne 20, 3) := dk_160 0 20 (dk_at dksX0_crossingsAgain_5 12 rfl rfl)
theorem dX0_crossingsAgain_131 : decode cX0_crossingsAgain 131 = .ok (.aload_n 1, 1) := dk_43 (dk_at dksX0_crossingsAgain_5 15 rfl rfl)
theorem dX0_crossingsAgain_132 : decode cX0_crossingsAgain 132 = .ok (.aload 4, 2) := dk_25 4 (dk_at dksX0_crossingsAgain_5 16 rfl rfl)
theorem dX0_crossingsAgain_134 : decode cX0_crossingsAgain 134 = .ok (.iload 5, 2) := dk_21 5 (dk_at dksX0_crossingsAgain_5 18 rfl rfl)
theorem dX0_crossingsAgain_136 : decode cX0_crossingsAgain 136 = .ok (.invokevirtual 222, 3) := dk_182 0 222 (dk_at dksX0_crossingsAgain_5 20 rfl rfl)
theorem dX0_crossingsAgain_139 : decode cX0_crossingsAgain 139 = .ok (.checkcast 223, 3) := dk_192 0 223 (dk_at dksX0_crossingsAgain_6 0 rfl rfl)
theorem dX0_crossingsAgain_142 : decode cX0_crossingsAgain 142 = .ok (.invokestatic 302, 3) := dk_184 1 46 (dk_at dksX0_crossingsAgain_6 3 rfl rfl)
theorem dX0_crossingsAgain_145 : decode cX0_crossingsAgain 145 = .ok (.goto 4, 3) := dk_167 0 4 (dk_at dksX0_crossingsAgain_6 6 rfl rfl)
theorem dX0_crossingsAgain_148 : decode cX0_crossingsAgain 148 = .ok (.iconst 0, 1) := dk_3 (dk_at dksX0_crossingsAgain_6 9 rfl rfl)
theorem dX0_crossingsAgain_149 : decode cX0_crossingsAgain 149 = .ok (.istore 6, 2) := dk_54 6 (dk_at dksX0_crossingsAgain_6 10 rfl rfl)
theorem dX0_crossingsAgain_151 : decode cX0_crossingsAgain 151 = .ok (.iinc 5 1, 3) := dk_132 5 1 (dk_at dksX0_crossingsAgain_6 12 rfl rfl)
theorem dX0_crossingsAgain_154 : decode cX0_crossingsAgain 154 = .ok (.goto (-50), 3) := dk_167 255 206 (dk_at dksX0_crossingsAgain_6 15 rfl rfl)
theorem dX0_crossingsAgain_157 : decode cX0_crossingsAgain 157 = .ok (.goto (-136), 3) := dk_167 255 120 (dk_at dksX0_crossingsAgain_6 18 rfl rfl)
theorem dX0_crossingsAgain_160 : decode cX0_crossingsAgain 160 = .ok (.iload_n 2, 1) := dk_28 (dk_at dksX0_crossingsAgain_6 21 rfl rfl)
theorem dX0_crossingsAgain_161 : decode cX0_crossingsAgain 161 = .ok (.ireturn, 1) := dk_172 (dk_at dksX0_crossingsAgain_6 22 rfl rfl)
abbrev cX0_later : ByteArray := prog_1_method_36_code
def yX0_later : MethodName := ⟨RX0, "later", "(Ljava/util/LinkedList;LWhalingLogs$Entry;)I"⟩
def dkwX0_later_1 : List UInt8 := [192, 0, 223, 180, 1, 4, 43, 180, 1, 4, 164, 0, 9, 132, 2, 1, 167, 255, 225, 28, 172]
abbrev dktX0_later_1 : List UInt8 := dkwX0_later_1 ++ []
def dkwX0_later_0 : List UInt8 := [3, 61, 42, 182, 1, 22, 78, 45, 185, 1, 26, 1, 0, 153, 0, 28, 45, 185, 1, 32, 1, 0]
abbrev dktX0_later_0 : List UInt8 := dkwX0_later_0 ++ dktX0_later_1
theorem dksX0_later_0 : cX0_later.data.toList.drop 0 = dktX0_later_0 := by decide +kernel
theorem dksX0_later_1 : cX0_later.data.toList.drop 22 = dktX0_later_1 := dk_seg dksX0_later_0 22 rfl rfl
theorem dX0_later_0 : decode cX0_later 0 = .ok (.iconst 0, 1) := dk_3 (dk_at dksX0_later_0 0 rfl rfl)
theorem dX0_later_1 : decode cX0_later 1 = .ok (.istore_n 2, 1) := dk_61 (dk_at dksX0_later_0 1 rfl rfl)
theorem dX0_later_2 : decode cX0_later 2 = .ok (.aload_n 0, 1) := dk_42 (dk_at dksX0_later_0 2 rfl rfl)
theorem dX0_later_3 : decode cX0_later 3 = .ok (.invokevirtual 278, 3) := dk_182 1 22 (dk_at dksX0_later_0 3 rfl rfl)
theorem dX0_later_6 : decode cX0_later 6 = .ok (.astore_n 3, 1) := dk_78 (dk_at dksX0_later_0 6 rfl rfl)
theorem dX0_later_7 : decode cX0_later 7 = .ok (.aload_n 3, 1) := dk_45 (dk_at dksX0_later_0 7 rfl rfl)
theorem dX0_later_8 : decode cX0_later 8 = .ok (.invokeinterface 282 1, 5) := by decide +kernel
theorem dX0_later_13 : decode cX0_later 13 = .ok (.ifCond .eq 28, 3) := dk_153 0 28 (dk_at dksX0_later_0 13 rfl rfl)
theorem dX0_later_16 : decode cX0_later 16 = .ok (.aload_n 3, 1) := dk_45 (dk_at dksX0_later_0 16 rfl rfl)
theorem dX0_later_17 : decode cX0_later 17 = .ok (.invokeinterface 288 1, 5) := by decide +kernel
theorem dX0_later_22 : decode cX0_later 22 = .ok (.checkcast 223, 3) := dk_192 0 223 (dk_at dksX0_later_1 0 rfl rfl)
theorem dX0_later_25 : decode cX0_later 25 = .ok (.getfield 260, 3) := dk_180 1 4 (dk_at dksX0_later_1 3 rfl rfl)
theorem dX0_later_28 : decode cX0_later 28 = .ok (.aload_n 1, 1) := dk_43 (dk_at dksX0_later_1 6 rfl rfl)
theorem dX0_later_29 : decode cX0_later 29 = .ok (.getfield 260, 3) := dk_180 1 4 (dk_at dksX0_later_1 7 rfl rfl)
theorem dX0_later_32 : decode cX0_later 32 = .ok (.if_icmp .le 9, 3) := dk_164 0 9 (dk_at dksX0_later_1 10 rfl rfl)
theorem dX0_later_35 : decode cX0_later 35 = .ok (.iinc 2 1, 3) := dk_132 2 1 (dk_at dksX0_later_1 13 rfl rfl)
theorem dX0_later_38 : decode cX0_later 38 = .ok (.goto (-31), 3) := dk_167 255 225 (dk_at dksX0_later_1 16 rfl rfl)
theorem dX0_later_41 : decode cX0_later 41 = .ok (.iload_n 2, 1) := dk_28 (dk_at dksX0_later_1 19 rfl rfl)
theorem dX0_later_42 : decode cX0_later 42 = .ok (.ireturn, 1) := dk_172 (dk_at dksX0_later_1 20 rfl rfl)
abbrev cX0_passes : ByteArray := prog_1_method_35_code
def yX0_passes : MethodName := ⟨RX0, "passes", "(Ljava/util/LinkedList;LWhalingLogs$Entry;)I"⟩
def dkwX0_passes_2 : List UInt8 := [42, 182, 0, 182, 28, 100, 62, 42, 28, 43, 182, 0, 175, 29, 172]
abbrev dktX0_passes_2 : List UInt8 := dkwX0_passes_2 ++ []
def dkwX0_passes_1 : List UInt8 := [185, 1, 32, 1, 0, 192, 0, 223, 180, 1, 4, 43, 180, 1, 4, 164, 0, 9, 132, 2, 255, 167, 255, 225]
abbrev dktX0_passes_1 : List UInt8 := dkwX0_passes_1 ++ dktX0_passes_2
def dkwX0_passes_0 : List UInt8 := [42, 182, 0, 182, 61, 42, 182, 1, 22, 78, 45, 185, 1, 26, 1, 0, 153, 0, 28, 45]
abbrev dktX0_passes_0 : List UInt8 := dkwX0_passes_0 ++ dktX0_passes_1
theorem dksX0_passes_0 : cX0_passes.data.toList.drop 0 = dktX0_passes_0 := by decide +kernel
theorem dksX0_passes_1 : cX0_passes.data.toList.drop 20 = dktX0_passes_1 := dk_seg dksX0_passes_0 20 rfl rfl
theorem dksX0_passes_2 : cX0_passes.data.toList.drop 44 = dktX0_passes_2 := dk_seg dksX0_passes_1 24 rfl rfl
theorem dX0_passes_0 : decode cX0_passes 0 = .ok (.aload_n 0, 1) := dk_42 (dk_at dksX0_passes_0 0 rfl rfl)
theorem dX0_passes_1 : decode cX0_passes 1 = .ok (.invokevirtual 182, 3) := dk_182 0 182 (dk_at dksX0_passes_0 1 rfl rfl)
theorem dX0_passes_4 : decode cX0_passes 4 = .ok (.istore_n 2, 1) := dk_61 (dk_at dksX0_passes_0 4 rfl rfl)
theorem dX0_passes_5 : decode cX0_passes 5 = .ok (.aload_n 0, 1) := dk_42 (dk_at dksX0_passes_0 5 rfl rfl)
theorem dX0_passes_6 : decode cX0_passes 6 = .ok (.invokevirtual 278, 3) := dk_182 1 22 (dk_at dksX0_passes_0 6 rfl rfl)
theorem dX0_passes_9 : decode cX0_passes 9 = .ok (.astore_n 3, 1) := dk_78 (dk_at dksX0_passes_0 9 rfl rfl)
theorem dX0_passes_10 : decode cX0_passes 10 = .ok (.aload_n 3, 1) := dk_45 (dk_at dksX0_passes_0 10 rfl rfl)
theorem dX0_passes_11 : decode cX0_passes 11 = .ok (.invokeinterface 282 1, 5) := by decide +kernel
theorem dX0_passes_16 : decode cX0_passes 16 = .ok (.ifCond .eq 28, 3) := dk_153 0 28 (dk_at dksX0_passes_0 16 rfl rfl)
theorem dX0_passes_19 : decode cX0_passes 19 = .ok (.aload_n 3, 1) := dk_45 (dk_at dksX0_passes_0 19 rfl rfl)
theorem dX0_passes_20 : decode cX0_passes 20 = .ok (.invokeinterface 288 1, 5) := by decide +kernel
theorem dX0_passes_25 : decode cX0_passes 25 = .ok (.checkcast 223, 3) := dk_192 0 223 (dk_at dksX0_passes_1 5 rfl rfl)
theorem dX0_passes_28 : decode cX0_passes 28 = .ok (.getfield 260, 3) := dk_180 1 4 (dk_at dksX0_passes_1 8 rfl rfl)
theorem dX0_passes_31 : decode cX0_passes 31 = .ok (.aload_n 1, 1) := dk_43 (dk_at dksX0_passes_1 11 rfl rfl)
theorem dX0_passes_32 : decode cX0_passes 32 = .ok (.getfield 260, 3) := dk_180 1 4 (dk_at dksX0_passes_1 12 rfl rfl)
theorem dX0_passes_35 : decode cX0_passes 35 = .ok (.if_icmp .le 9, 3) := dk_164 0 9 (dk_at dksX0_passes_1 15 rfl rfl)
theorem dX0_passes_38 : decode cX0_passes 38 = .ok (.iinc 2 (-1), 3) := dk_132 2 255 (dk_at dksX0_passes_1 18 rfl rfl)
theorem dX0_passes_41 : decode cX0_passes 41 = .ok (.goto (-31), 3) := dk_167 255 225 (dk_at dksX0_passes_1 21 rfl rfl)
theorem dX0_passes_44 : decode cX0_passes 44 = .ok (.aload_n 0, 1) := dk_42 (dk_at dksX0_passes_2 0 rfl rfl)
theorem dX0_passes_45 : decode cX0_passes 45 = .ok (.invokevirtual 182, 3) := dk_182 0 182 (dk_at dksX0_passes_2 1 rfl rfl)
theorem dX0_passes_48 : decode cX0_passes 48 = .ok (.iload_n 2, 1) := dk_28 (dk_at dksX0_passes_2 4 rfl rfl)
theorem dX0_passes_49 : decode cX0_passes 49 = .ok (.isub, 1) := dk_100 (dk_at dksX0_passes_2 5 rfl rfl)
theorem dX0_passes_50 : decode cX0_passes 50 = .ok (.istore_n 3, 1) := dk_62 (dk_at dksX0_passes_2 6 rfl rfl)
theorem dX0_passes_51 : decode cX0_passes 51 = .ok (.aload_n 0, 1) := dk_42 (dk_at dksX0_passes_2 7 rfl rfl)
theorem dX0_passes_52 : decode cX0_passes 52 = .ok (.iload_n 2, 1) := dk_28 (dk_at dksX0_passes_2 8 rfl rfl)
theorem dX0_passes_53 : decode cX0_passes 53 = .ok (.aload_n 1, 1) := dk_43 (dk_at dksX0_passes_2 9 rfl rfl)
theorem dX0_passes_54 : decode cX0_passes 54 = .ok (.invokevirtual 175, 3) := dk_182 0 175 (dk_at dksX0_passes_2 10 rfl rfl)
theorem dX0_passes_57 : decode cX0_passes 57 = .ok (.iload_n 3, 1) := dk_29 (dk_at dksX0_passes_2 13 rfl rfl)
theorem dX0_passes_58 : decode cX0_passes 58 = .ok (.ireturn, 1) := dk_172 (dk_at dksX0_passes_2 14 rfl rfl)
abbrev cX0_track : ByteArray := prog_1_method_38_code
def yX0_track : MethodName := ⟨RX0, "track", "(I)I"⟩
def dkwX0_track_1 : List UInt8 := [182, 1, 49, 167, 0, 19, 27, 4, 160, 0, 10, 44, 180, 1, 52, 167, 0, 7, 44, 182, 1, 54, 172]
abbrev dktX0_track_1 : List UInt8 := dkwX0_track_1 ++ []
def dkwX0_track_0 : List UInt8 := [27, 3, 5, 184, 0, 51, 154, 0, 6, 16, 254, 172, 42, 182, 0, 228, 77, 27, 154, 0, 10, 44]
abbrev dktX0_track_0 : List UInt8 := dkwX0_track_0 ++ dktX0_track_1
theorem dksX0_track_0 : cX0_track.data.toList.drop 0 = dktX0_track_0 := by decide +kernel
theorem dksX0_track_1 : cX0_track.data.toList.drop 22 = dktX0_track_1 := dk_seg dksX0_track_0 22 rfl rfl
theorem dX0_track_0 : decode cX0_track 0 = .ok (.iload_n 1, 1) := dk_27 (dk_at dksX0_track_0 0 rfl rfl)
theorem dX0_track_1 : decode cX0_track 1 = .ok (.iconst 0, 1) := dk_3 (dk_at dksX0_track_0 1 rfl rfl)
theorem dX0_track_2 : decode cX0_track 2 = .ok (.iconst 2, 1) := dk_5 (dk_at dksX0_track_0 2 rfl rfl)
theorem dX0_track_3 : decode cX0_track 3 = .ok (.invokestatic 51, 3) := dk_184 0 51 (dk_at dksX0_track_0 3 rfl rfl)
theorem dX0_track_6 : decode cX0_track 6 = .ok (.ifCond .ne 6, 3) := dk_154 0 6 (dk_at dksX0_track_0 6 rfl rfl)
theorem dX0_track_9 : decode cX0_track 9 = .ok (.bipush (-2), 2) := dk_16 254 (dk_at dksX0_track_0 9 rfl rfl)
theorem dX0_track_11 : decode cX0_track 11 = .ok (.ireturn, 1) := dk_172 (dk_at dksX0_track_0 11 rfl rfl)
theorem dX0_track_12 : decode cX0_track 12 = .ok (.aload_n 0, 1) := dk_42 (dk_at dksX0_track_0 12 rfl rfl)
theorem dX0_track_13 : decode cX0_track 13 = .ok (.invokevirtual 228, 3) := dk_182 0 228 (dk_at dksX0_track_0 13 rfl rfl)
theorem dX0_track_16 : decode cX0_track 16 = .ok (.astore_n 2, 1) := dk_77 (dk_at dksX0_track_0 16 rfl rfl)
theorem dX0_track_17 : decode cX0_track 17 = .ok (.iload_n 1, 1) := dk_27 (dk_at dksX0_track_0 17 rfl rfl)
theorem dX0_track_18 : decode cX0_track 18 = .ok (.ifCond .ne 10, 3) := dk_154 0 10 (dk_at dksX0_track_0 18 rfl rfl)
theorem dX0_track_21 : decode cX0_track 21 = .ok (.aload_n 2, 1) := dk_44 (dk_at dksX0_track_0 21 rfl rfl)
theorem dX0_track_22 : decode cX0_track 22 = .ok (.invokevirtual 305, 3) := dk_182 1 49 (dk_at dksX0_track_1 0 rfl rfl)
theorem dX0_track_25 : decode cX0_track 25 = .ok (.goto 19, 3) := dk_167 0 19 (dk_at dksX0_track_1 3 rfl rfl)
theorem dX0_track_28 : decode cX0_track 28 = .ok (.iload_n 1, 1) := dk_27 (dk_at dksX0_track_1 6 rfl rfl)
theorem dX0_track_29 : decode cX0_track 29 = .ok (.iconst 1, 1) := dk_4 (dk_at dksX0_track_1 7 rfl rfl)
theorem dX0_track_30 : decode cX0_track 30 = .ok (.if_icmp .ne 10, 3) := dk_160 0 10 (dk_at dksX0_track_1 8 rfl rfl)
theorem dX0_track_33 : decode cX0_track 33 = .ok (.aload_n 2, 1) := dk_44 (dk_at dksX0_track_1 11 rfl rfl)
theorem dX0_track_34 : decode cX0_track 34 = .ok (.getfield 308, 3) := dk_180 1 52 (dk_at dksX0_track_1 12 rfl rfl)
theorem dX0_track_37 : decode cX0_track 37 = .ok (.goto 7, 3) := dk_167 0 7 (dk_at dksX0_track_1 15 rfl rfl)
theorem dX0_track_40 : decode cX0_track 40 = .ok (.aload_n 2, 1) := dk_44 (dk_at dksX0_track_1 18 rfl rfl)
theorem dX0_track_41 : decode cX0_track 41 = .ok (.invokevirtual 310, 3) := dk_182 1 54 (dk_at dksX0_track_1 19 rfl rfl)
theorem dX0_track_44 : decode cX0_track 44 = .ok (.ireturn, 1) := dk_172 (dk_at dksX0_track_1 22 rfl rfl)
abbrev cX0_trackAt : ByteArray := prog_1_method_39_code
def yX0_trackAt : MethodName := ⟨RX0, "trackAt", "(I)I"⟩
def dkwX0_trackAt_1 : List UInt8 := [46, 167, 0, 4, 2, 172]
abbrev dktX0_trackAt_1 : List UInt8 := dkwX0_trackAt_1 ++ []
def dkwX0_trackAt_0 : List UInt8 := [42, 182, 0, 228, 77, 27, 3, 44, 180, 1, 52, 4, 100, 184, 0, 51, 153, 0, 12, 44, 180, 1, 57, 27]
abbrev dktX0_trackAt_0 : List UInt8 := dkwX0_trackAt_0 ++ dktX0_trackAt_1
theorem dksX0_trackAt_0 : cX0_trackAt.data.toList.drop 0 = dktX0_trackAt_0 := by decide +kernel
theorem dksX0_trackAt_1 : cX0_trackAt.data.toList.drop 24 = dktX0_trackAt_1 := dk_seg dksX0_trackAt_0 24 rfl rfl
theorem dX0_trackAt_0 : decode cX0_trackAt 0 = .ok (.aload_n 0, 1) := dk_42 (dk_at dksX0_trackAt_0 0 rfl rfl)
theorem dX0_trackAt_1 : decode cX0_trackAt 1 = .ok (.invokevirtual 228, 3) := dk_182 0 228 (dk_at dksX0_trackAt_0 1 rfl rfl)
theorem dX0_trackAt_4 : decode cX0_trackAt 4 = .ok (.astore_n 2, 1) := dk_77 (dk_at dksX0_trackAt_0 4 rfl rfl)
theorem dX0_trackAt_5 : decode cX0_trackAt 5 = .ok (.iload_n 1, 1) := dk_27 (dk_at dksX0_trackAt_0 5 rfl rfl)
theorem dX0_trackAt_6 : decode cX0_trackAt 6 = .ok (.iconst 0, 1) := dk_3 (dk_at dksX0_trackAt_0 6 rfl rfl)
theorem dX0_trackAt_7 : decode cX0_trackAt 7 = .ok (.aload_n 2, 1) := dk_44 (dk_at dksX0_trackAt_0 7 rfl rfl)
theorem dX0_trackAt_8 : decode cX0_trackAt 8 = .ok (.getfield 308, 3) := dk_180 1 52 (dk_at dksX0_trackAt_0 8 rfl rfl)
theorem dX0_trackAt_11 : decode cX0_trackAt 11 = .ok (.iconst 1, 1) := dk_4 (dk_at dksX0_trackAt_0 11 rfl rfl)
theorem dX0_trackAt_12 : decode cX0_trackAt 12 = .ok (.isub, 1) := dk_100 (dk_at dksX0_trackAt_0 12 rfl rfl)
theorem dX0_trackAt_13 : decode cX0_trackAt 13 = .ok (.invokestatic 51, 3) := dk_184 0 51 (dk_at dksX0_trackAt_0 13 rfl rfl)
theorem dX0_trackAt_16 : decode cX0_trackAt 16 = .ok (.ifCond .eq 12, 3) := dk_153 0 12 (dk_at dksX0_trackAt_0 16 rfl rfl)
theorem dX0_trackAt_19 : decode cX0_trackAt 19 = .ok (.aload_n 2, 1) := dk_44 (dk_at dksX0_trackAt_0 19 rfl rfl)
theorem dX0_trackAt_20 : decode cX0_trackAt 20 = .ok (.getfield 313, 3) := dk_180 1 57 (dk_at dksX0_trackAt_0 20 rfl rfl)
theorem dX0_trackAt_23 : decode cX0_trackAt 23 = .ok (.iload_n 1, 1) := dk_27 (dk_at dksX0_trackAt_0 23 rfl rfl)
theorem dX0_trackAt_24 : decode cX0_trackAt 24 = .ok (.iaload, 1) := dk_46 (dk_at dksX0_trackAt_1 0 rfl rfl)
theorem dX0_trackAt_25 : decode cX0_trackAt 25 = .ok (.goto 4, 3) := dk_167 0 4 (dk_at dksX0_trackAt_1 1 rfl rfl)
theorem dX0_trackAt_28 : decode cX0_trackAt 28 = .ok (.iconst (-1), 1) := dk_2 (dk_at dksX0_trackAt_1 4 rfl rfl)
theorem dX0_trackAt_29 : decode cX0_trackAt 29 = .ok (.ireturn, 1) := dk_172 (dk_at dksX0_trackAt_1 5 rfl rfl)
abbrev cX0_weightAgain : ByteArray := prog_1_method_40_code
def yX0_weightAgain : MethodName := ⟨RX0, "weightAgain", "()I"⟩
def dkwX0_weightAgain_0 : List UInt8 := [42, 182, 0, 93, 76, 43, 180, 0, 231, 16, 10, 164, 0, 8, 16, 253, 167, 0, 7, 43, 182, 1, 60, 172]
abbrev dktX0_weightAgain_0 : List UInt8 := dkwX0_weightAgain_0 ++ []
theorem dksX0_weightAgain_0 : cX0_weightAgain.data.toList.drop 0 = dktX0_weightAgain_0 := by decide +kernel
theorem dX0_weightAgain_0 : decode cX0_weightAgain 0 = .ok (.aload_n 0, 1) := dk_42 (dk_at dksX0_weightAgain_0 0 rfl rfl)
theorem dX0_weightAgain_1 : decode cX0_weightAgain 1 = .ok (.invokevirtual 93, 3) := dk_182 0 93 (dk_at dksX0_weightAgain_0 1 rfl rfl)
theorem dX0_weightAgain_4 : decode cX0_weightAgain 4 = .ok (.astore_n 1, 1) := dk_76 (dk_at dksX0_weightAgain_0 4 rfl rfl)
theorem dX0_weightAgain_5 : decode cX0_weightAgain 5 = .ok (.aload_n 1, 1) := dk_43 (dk_at dksX0_weightAgain_0 5 rfl rfl)
theorem dX0_weightAgain_6 : decode cX0_weightAgain 6 = .ok (.getfield 231, 3) := dk_180 0 231 (dk_at dksX0_weightAgain_0 6 rfl rfl)
theorem dX0_weightAgain_9 : decode cX0_weightAgain 9 = .ok (.bipush 10, 2) := dk_16 10 (dk_at dksX0_weightAgain_0 9 rfl rfl)
theorem dX0_weightAgain_11 : decode cX0_weightAgain 11 = .ok (.if_icmp .le 8, 3) := dk_164 0 8 (dk_at dksX0_weightAgain_0 11 rfl rfl)
theorem dX0_weightAgain_14 : decode cX0_weightAgain 14 = .ok (.bipush (-3), 2) := dk_16 253 (dk_at dksX0_weightAgain_0 14 rfl rfl)
theorem dX0_weightAgain_16 : decode cX0_weightAgain 16 = .ok (.goto 7, 3) := dk_167 0 7 (dk_at dksX0_weightAgain_0 16 rfl rfl)
theorem dX0_weightAgain_19 : decode cX0_weightAgain 19 = .ok (.aload_n 1, 1) := dk_43 (dk_at dksX0_weightAgain_0 19 rfl rfl)
theorem dX0_weightAgain_20 : decode cX0_weightAgain 20 = .ok (.invokevirtual 316, 3) := dk_182 1 60 (dk_at dksX0_weightAgain_0 20 rfl rfl)
theorem dX0_weightAgain_23 : decode cX0_weightAgain 23 = .ok (.ireturn, 1) := dk_172 (dk_at dksX0_weightAgain_0 23 rfl rfl)
abbrev cX0_could : ByteArray := prog_1_method_41_code
def yX0_could : MethodName := ⟨RX0, "could", "(II)I"⟩
def dkwX0_could_1 : List UInt8 := [182, 0, 228, 27, 28, 182, 1, 63, 153, 0, 7, 4, 167, 0, 4, 3, 172]
abbrev dktX0_could_1 : List UInt8 := dkwX0_could_1 ++ []
def dkwX0_could_0 : List UInt8 := [28, 184, 0, 107, 154, 0, 5, 2, 172, 27, 3, 17, 3, 231, 184, 0, 51, 154, 0, 6, 16, 254, 172, 42]
abbrev dktX0_could_0 : List UInt8 := dkwX0_could_0 ++ dktX0_could_1
theorem dksX0_could_0 : cX0_could.data.toList.drop 0 = dktX0_could_0 := by decide +kernel
theorem dksX0_could_1 : cX0_could.data.toList.drop 24 = dktX0_could_1 := dk_seg dksX0_could_0 24 rfl rfl
theorem dX0_could_0 : decode cX0_could 0 = .ok (.iload_n 2, 1) := dk_28 (dk_at dksX0_could_0 0 rfl rfl)
theorem dX0_could_1 : decode cX0_could 1 = .ok (.invokestatic 107, 3) := dk_184 0 107 (dk_at dksX0_could_0 1 rfl rfl)
theorem dX0_could_4 : decode cX0_could 4 = .ok (.ifCond .ne 5, 3) := dk_154 0 5 (dk_at dksX0_could_0 4 rfl rfl)
theorem dX0_could_7 : decode cX0_could 7 = .ok (.iconst (-1), 1) := dk_2 (dk_at dksX0_could_0 7 rfl rfl)
theorem dX0_could_8 : decode cX0_could 8 = .ok (.ireturn, 1) := dk_172 (dk_at dksX0_could_0 8 rfl rfl)
theorem dX0_could_9 : decode cX0_could 9 = .ok (.iload_n 1, 1) := dk_27 (dk_at dksX0_could_0 9 rfl rfl)
theorem dX0_could_10 : decode cX0_could 10 = .ok (.iconst 0, 1) := dk_3 (dk_at dksX0_could_0 10 rfl rfl)
theorem dX0_could_11 : decode cX0_could 11 = .ok (.sipush 999, 3) := dk_17 3 231 (dk_at dksX0_could_0 11 rfl rfl)
theorem dX0_could_14 : decode cX0_could 14 = .ok (.invokestatic 51, 3) := dk_184 0 51 (dk_at dksX0_could_0 14 rfl rfl)
theorem dX0_could_17 : decode cX0_could 17 = .ok (.ifCond .ne 6, 3) := dk_154 0 6 (dk_at dksX0_could_0 17 rfl rfl)
theorem dX0_could_20 : decode cX0_could 20 = .ok (.bipush (-2), 2) := dk_16 254 (dk_at dksX0_could_0 20 rfl rfl)
theorem dX0_could_22 : decode cX0_could 22 = .ok (.ireturn, 1) := dk_172 (dk_at dksX0_could_0 22 rfl rfl)
theorem dX0_could_23 : decode cX0_could 23 = .ok (.aload_n 0, 1) := dk_42 (dk_at dksX0_could_0 23 rfl rfl)
theorem dX0_could_24 : decode cX0_could 24 = .ok (.invokevirtual 228, 3) := dk_182 0 228 (dk_at dksX0_could_1 0 rfl rfl)
theorem dX0_could_27 : decode cX0_could 27 = .ok (.iload_n 1, 1) := dk_27 (dk_at dksX0_could_1 3 rfl rfl)
theorem dX0_could_28 : decode cX0_could 28 = .ok (.iload_n 2, 1) := dk_28 (dk_at dksX0_could_1 4 rfl rfl)
theorem dX0_could_29 : decode cX0_could 29 = .ok (.invokevirtual 319, 3) := dk_182 1 63 (dk_at dksX0_could_1 5 rfl rfl)
theorem dX0_could_32 : decode cX0_could 32 = .ok (.ifCond .eq 7, 3) := dk_153 0 7 (dk_at dksX0_could_1 8 rfl rfl)
theorem dX0_could_35 : decode cX0_could 35 = .ok (.iconst 1, 1) := dk_4 (dk_at dksX0_could_1 11 rfl rfl)
theorem dX0_could_36 : decode cX0_could 36 = .ok (.goto 4, 3) := dk_167 0 4 (dk_at dksX0_could_1 12 rfl rfl)
theorem dX0_could_39 : decode cX0_could 39 = .ok (.iconst 0, 1) := dk_3 (dk_at dksX0_could_1 15 rfl rfl)
theorem dX0_could_40 : decode cX0_could 40 = .ok (.ireturn, 1) := dk_172 (dk_at dksX0_could_1 16 rfl rfl)
abbrev cX0_chart : ByteArray := prog_1_method_42_code
def yX0_chart : MethodName := ⟨RX0, "chart", "(I)I"⟩
def dkwX0_chart_1 : List UInt8 := [172]
abbrev dktX0_chart_1 : List UInt8 := dkwX0_chart_1 ++ []
def dkwX0_chart_0 : List UInt8 := [27, 3, 17, 3, 231, 184, 0, 51, 153, 0, 14, 42, 182, 0, 228, 27, 182, 1, 66, 167, 0, 5, 16, 254]
abbrev dktX0_chart_0 : List UInt8 := dkwX0_chart_0 ++ dktX0_chart_1
theorem dksX0_chart_0 : cX0_chart.data.toList.drop 0 = dktX0_chart_0 := by decide +kernel
theorem dksX0_chart_1 : cX0_chart.data.toList.drop 24 = dktX0_chart_1 := dk_seg dksX0_chart_0 24 rfl rfl
theorem dX0_chart_0 : decode cX0_chart 0 = .ok (.iload_n 1, 1) := dk_27 (dk_at dksX0_chart_0 0 rfl rfl)
theorem dX0_chart_1 : decode cX0_chart 1 = .ok (.iconst 0, 1) := dk_3 (dk_at dksX0_chart_0 1 rfl rfl)
theorem dX0_chart_2 : decode cX0_chart 2 = .ok (.sipush 999, 3) := dk_17 3 231 (dk_at dksX0_chart_0 2 rfl rfl)
theorem dX0_chart_5 : decode cX0_chart 5 = .ok (.invokestatic 51, 3) := dk_184 0 51 (dk_at dksX0_chart_0 5 rfl rfl)
theorem dX0_chart_8 : decode cX0_chart 8 = .ok (.ifCond .eq 14, 3) := dk_153 0 14 (dk_at dksX0_chart_0 8 rfl rfl)
theorem dX0_chart_11 : decode cX0_chart 11 = .ok (.aload_n 0, 1) := dk_42 (dk_at dksX0_chart_0 11 rfl rfl)
theorem dX0_chart_12 : decode cX0_chart 12 = .ok (.invokevirtual 228, 3) := dk_182 0 228 (dk_at dksX0_chart_0 12 rfl rfl)
theorem dX0_chart_15 : decode cX0_chart 15 = .ok (.iload_n 1, 1) := dk_27 (dk_at dksX0_chart_0 15 rfl rfl)
theorem dX0_chart_16 : decode cX0_chart 16 = .ok (.invokevirtual 322, 3) := dk_182 1 66 (dk_at dksX0_chart_0 16 rfl rfl)
theorem dX0_chart_19 : decode cX0_chart 19 = .ok (.goto 5, 3) := dk_167 0 5 (dk_at dksX0_chart_0 19 rfl rfl)
theorem dX0_chart_22 : decode cX0_chart 22 = .ok (.bipush (-2), 2) := dk_16 254 (dk_at dksX0_chart_0 22 rfl rfl)
theorem dX0_chart_24 : decode cX0_chart 24 = .ok (.ireturn, 1) := dk_172 (dk_at dksX0_chart_1 0 rfl rfl)
abbrev cX0_append : ByteArray := prog_1_method_43_code
def yX0_append : MethodName := ⟨RX0, "append", "(I)I"⟩
def dkwX0_append_1 : List UInt8 := [160, 0, 6, 16, 253, 172, 42, 180, 0, 44, 27, 146, 182, 1, 72, 87, 42, 180, 0, 44, 182, 1, 69, 172]
abbrev dktX0_append_1 : List UInt8 := dkwX0_append_1 ++ []
def dkwX0_append_0 : List UInt8 := [27, 16, 32, 16, 126, 184, 0, 51, 154, 0, 6, 16, 254, 172, 42, 180, 0, 44, 182, 1, 69, 16, 70]
abbrev dktX0_append_0 : List UInt8 := dkwX0_append_0 ++ dktX0_append_1
theorem dksX0_append_0 : cX0_append.data.toList.drop 0 = dktX0_append_0 := by decide +kernel
theorem dksX0_append_1 : cX0_append.data.toList.drop 23 = dktX0_append_1 := dk_seg dksX0_append_0 23 rfl rfl
theorem dX0_append_0 : decode cX0_append 0 = .ok (.iload_n 1, 1) := dk_27 (dk_at dksX0_append_0 0 rfl rfl)
theorem dX0_append_1 : decode cX0_append 1 = .ok (.bipush 32, 2) := dk_16 32 (dk_at dksX0_append_0 1 rfl rfl)
theorem dX0_append_3 : decode cX0_append 3 = .ok (.bipush 126, 2) := dk_16 126 (dk_at dksX0_append_0 3 rfl rfl)
theorem dX0_append_5 : decode cX0_append 5 = .ok (.invokestatic 51, 3) := dk_184 0 51 (dk_at dksX0_append_0 5 rfl rfl)
theorem dX0_append_8 : decode cX0_append 8 = .ok (.ifCond .ne 6, 3) := dk_154 0 6 (dk_at dksX0_append_0 8 rfl rfl)
theorem dX0_append_11 : decode cX0_append 11 = .ok (.bipush (-2), 2) := dk_16 254 (dk_at dksX0_append_0 11 rfl rfl)
theorem dX0_append_13 : decode cX0_append 13 = .ok (.ireturn, 1) := dk_172 (dk_at dksX0_append_0 13 rfl rfl)
theorem dX0_append_14 : decode cX0_append 14 = .ok (.aload_n 0, 1) := dk_42 (dk_at dksX0_append_0 14 rfl rfl)
theorem dX0_append_15 : decode cX0_append 15 = .ok (.getfield 44, 3) := dk_180 0 44 (dk_at dksX0_append_0 15 rfl rfl)
theorem dX0_append_18 : decode cX0_append 18 = .ok (.invokevirtual 325, 3) := dk_182 1 69 (dk_at dksX0_append_0 18 rfl rfl)
theorem dX0_append_21 : decode cX0_append 21 = .ok (.bipush 70, 2) := dk_16 70 (dk_at dksX0_append_0 21 rfl rfl)
theorem dX0_append_23 : decode cX0_append 23 = .ok (.if_icmp .ne 6, 3) := dk_160 0 6 (dk_at dksX0_append_1 0 rfl rfl)
theorem dX0_append_26 : decode cX0_append 26 = .ok (.bipush (-3), 2) := dk_16 253 (dk_at dksX0_append_1 3 rfl rfl)
theorem dX0_append_28 : decode cX0_append 28 = .ok (.ireturn, 1) := dk_172 (dk_at dksX0_append_1 5 rfl rfl)
theorem dX0_append_29 : decode cX0_append 29 = .ok (.aload_n 0, 1) := dk_42 (dk_at dksX0_append_1 6 rfl rfl)
theorem dX0_append_30 : decode cX0_append 30 = .ok (.getfield 44, 3) := dk_180 0 44 (dk_at dksX0_append_1 7 rfl rfl)
theorem dX0_append_33 : decode cX0_append 33 = .ok (.iload_n 1, 1) := dk_27 (dk_at dksX0_append_1 10 rfl rfl)
theorem dX0_append_34 : decode cX0_append 34 = .ok (.i2c, 1) := dk_146 (dk_at dksX0_append_1 11 rfl rfl)
theorem dX0_append_35 : decode cX0_append 35 = .ok (.invokevirtual 328, 3) := dk_182 1 72 (dk_at dksX0_append_1 12 rfl rfl)
theorem dX0_append_38 : decode cX0_append 38 = .ok (.pop, 1) := dk_87 (dk_at dksX0_append_1 15 rfl rfl)
theorem dX0_append_39 : decode cX0_append 39 = .ok (.aload_n 0, 1) := dk_42 (dk_at dksX0_append_1 16 rfl rfl)
theorem dX0_append_40 : decode cX0_append 40 = .ok (.getfield 44, 3) := dk_180 0 44 (dk_at dksX0_append_1 17 rfl rfl)
theorem dX0_append_43 : decode cX0_append 43 = .ok (.invokevirtual 325, 3) := dk_182 1 69 (dk_at dksX0_append_1 20 rfl rfl)
theorem dX0_append_46 : decode cX0_append 46 = .ok (.ireturn, 1) := dk_172 (dk_at dksX0_append_1 23 rfl rfl)
abbrev cX0_run : ByteArray := prog_1_method_44_code
def yX0_run : MethodName := ⟨RX0, "run", "()I"⟩
def dkwX0_run_5 : List UInt8 := [182, 1, 91, 28, 172, 58, 5, 42, 180, 0, 44, 3, 182, 1, 91, 25, 5, 191]
abbrev dktX0_run_5 : List UInt8 := dkwX0_run_5 ++ []
def dkwX0_run_4 : List UInt8 := [100, 61, 42, 180, 0, 44, 3, 182, 1, 91, 28, 172, 76, 42, 43, 182, 0, 122, 61, 42, 180, 0, 44, 3]
abbrev dktX0_run_4 : List UInt8 := dkwX0_run_4 ++ dktX0_run_5
def dkwX0_run_3 : List UInt8 := [182, 0, 118, 54, 4, 42, 180, 0, 44, 3, 182, 1, 91, 21, 4, 172, 76, 17, 252, 24, 43, 180, 1, 97]
abbrev dktX0_run_3 : List UInt8 := dkwX0_run_3 ++ dktX0_run_4
def dkwX0_run_2 : List UInt8 := [185, 1, 87, 2, 0, 167, 255, 232, 42, 180, 0, 12, 78, 42, 44, 181, 0, 12, 42, 45, 43, 182, 0, 182]
abbrev dktX0_run_2 : List UInt8 := dkwX0_run_2 ++ dktX0_run_3
def dkwX0_run_1 : List UInt8 := [43, 182, 1, 36, 78, 45, 185, 1, 26, 1, 0, 153, 0, 21, 45, 185, 1, 32, 1, 0, 192, 1, 85, 44]
abbrev dktX0_run_1 : List UInt8 := dkwX0_run_1 ++ dktX0_run_2
def dkwX0_run_0 : List UInt8 := [187, 1, 76, 89, 42, 42, 180, 0, 44, 183, 1, 78, 182, 1, 81, 76, 42, 180, 0, 12, 182, 0, 111, 77]
abbrev dktX0_run_0 : List UInt8 := dkwX0_run_0 ++ dktX0_run_1
theorem dksX0_run_0 : cX0_run.data.toList.drop 0 = dktX0_run_0 := by decide +kernel
theorem dksX0_run_1 : cX0_run.data.toList.drop 24 = dktX0_run_1 := dk_seg dksX0_run_0 24 rfl rfl
theorem dksX0_run_2 : cX0_run.data.toList.drop 48 = dktX0_run_2 := dk_seg dksX0_run_1 24 rfl rfl
theorem dksX0_run_3 : cX0_run.data.toList.drop 72 = dktX0_run_3 := dk_seg dksX0_run_2 24 rfl rfl
theorem dksX0_run_4 : cX0_run.data.toList.drop 96 = dktX0_run_4 := dk_seg dksX0_run_3 24 rfl rfl
theorem dksX0_run_5 : cX0_run.data.toList.drop 120 = dktX0_run_5 := dk_seg dksX0_run_4 24 rfl rfl
theorem dX0_run_0 : decode cX0_run 0 = .ok (.new 332, 3) := dk_187 1 76 (dk_at dksX0_run_0 0 rfl rfl)
theorem dX0_run_3 : decode cX0_run 3 = .ok (.dup, 1) := dk_89 (dk_at dksX0_run_0 3 rfl rfl)
theorem dX0_run_4 : decode cX0_run 4 = .ok (.aload_n 0, 1) := dk_42 (dk_at dksX0_run_0 4 rfl rfl)
theorem dX0_run_5 : decode cX0_run 5 = .ok (.aload_n 0, 1) := dk_42 (dk_at dksX0_run_0 5 rfl rfl)
theorem dX0_run_6 : decode cX0_run 6 = .ok (.getfield 44, 3) := dk_180 0 44 (dk_at dksX0_run_0 6 rfl rfl)
theorem dX0_run_9 : decode cX0_run 9 = .ok (.invokespecial 334, 3) := dk_183 1 78 (dk_at dksX0_run_0 9 rfl rfl)
theorem dX0_run_12 : decode cX0_run 12 = .ok (.invokevirtual 337, 3) := dk_182 1 81 (dk_at dksX0_run_0 12 rfl rfl)
theorem dX0_run_15 : decode cX0_run 15 = .ok (.astore_n 1, 1) := dk_76 (dk_at dksX0_run_0 15 rfl rfl)
theorem dX0_run_16 : decode cX0_run 16 = .ok (.aload_n 0, 1) := dk_42 (dk_at dksX0_run_0 16 rfl rfl)
theorem dX0_run_17 : decode cX0_run 17 = .ok (.getfield 12, 3) := dk_180 0 12 (dk_at dksX0_run_0 17 rfl rfl)
theorem dX0_run_20 : decode cX0_run 20 = .ok (.invokevirtual 111, 3) := dk_182 0 111 (dk_at dksX0_run_0 20 rfl rfl)
theorem dX0_run_23 : decode cX0_run 23 = .ok (.astore_n 2, 1) := dk_77 (dk_at dksX0_run_0 23 rfl rfl)
theorem dX0_run_24 : decode cX0_run 24 = .ok (.aload_n 1, 1) := dk_43 (dk_at dksX0_run_1 0 rfl rfl)
theorem dX0_run_25 : decode cX0_run 25 = .ok (.invokevirtual 292, 3) := dk_182 1 36 (dk_at dksX0_run_1 1 rfl rfl)
theorem dX0_run_28 : decode cX0_run 28 = .ok (.astore_n 3, 1) := dk_78 (dk_at dksX0_run_1 4 rfl rfl)
theorem dX0_run_29 : decode cX0_run 29 = .ok (.aload_n 3, 1) := dk_45 (dk_at dksX0_run_1 5 rfl rfl)
theorem dX0_run_30 : decode cX0_run 30 = .ok (.invokeinterface 282 1, 5) := by decide +kernel
theorem dX0_run_35 : decode cX0_run 35 = .ok (.ifCond .eq 21, 3) := dk_153 0 21 (dk_at dksX0_run_1 11 rfl rfl)
theorem dX0_run_38 : decode cX0_run 38 = .ok (.aload_n 3, 1) := dk_45 (dk_at dksX0_run_1 14 rfl rfl)
theorem dX0_run_39 : decode cX0_run 39 = .ok (.invokeinterface 288 1, 5) := by decide +kernel
theorem dX0_run_44 : decode cX0_run 44 = .ok (.checkcast 341, 3) := dk_192 1 85 (dk_at dksX0_run_1 20 rfl rfl)
theorem dX0_run_47 : decode cX0_run 47 = .ok (.aload_n 2, 1) := dk_44 (dk_at dksX0_run_1 23 rfl rfl)
theorem dX0_run_48 : decode cX0_run 48 = .ok (.invokeinterface 343 2, 5) := by decide +kernel
theorem dX0_run_53 : decode cX0_run 53 = .ok (.goto (-24), 3) := dk_167 255 232 (dk_at dksX0_run_2 5 rfl rfl)
theorem dX0_run_56 : decode cX0_run 56 = .ok (.aload_n 0, 1) := dk_42 (dk_at dksX0_run_2 8 rfl rfl)
theorem dX0_run_57 : decode cX0_run 57 = .ok (.getfield 12, 3) := dk_180 0 12 (dk_at dksX0_run_2 9 rfl rfl)
theorem dX0_run_60 : decode cX0_run 60 = .ok (.astore_n 3, 1) := dk_78 (dk_at dksX0_run_2 12 rfl rfl)
theorem dX0_run_61 : decode cX0_run 61 = .ok (.aload_n 0, 1) := dk_42 (dk_at dksX0_run_2 13 rfl rfl)
theorem dX0_run_62 : decode cX0_run 62 = .ok (.aload_n 2, 1) := dk_44 (dk_at dksX0_run_2 14 rfl rfl)
theorem dX0_run_63 : decode cX0_run 63 = .ok (.putfield 12, 3) := dk_181 0 12 (dk_at dksX0_run_2 15 rfl rfl)
theorem dX0_run_66 : decode cX0_run 66 = .ok (.aload_n 0, 1) := dk_42 (dk_at dksX0_run_2 18 rfl rfl)
theorem dX0_run_67 : decode cX0_run 67 = .ok (.aload_n 3, 1) := dk_45 (dk_at dksX0_run_2 19 rfl rfl)
theorem dX0_run_68 : decode cX0_run 68 = .ok (.aload_n 1, 1) := dk_43 (dk_at dksX0_run_2 20 rfl rfl)
theorem dX0_run_69 : decode cX0_run 69 = .ok (.invokevirtual 182, 3) := dk_182 0 182 (dk_at dksX0_run_2 21 rfl rfl)
theorem dX0_run_72 : decode cX0_run 72 = .ok (.invokevirtual 118, 3) := dk_182 0 118 (dk_at dksX0_run_3 0 rfl rfl)
theorem dX0_run_75 : decode cX0_run 75 = .ok (.istore 4, 2) := dk_54 4 (dk_at dksX0_run_3 3 rfl rfl)
theorem dX0_run_77 : decode cX0_run 77 = .ok (.aload_n 0, 1) := dk_42 (dk_at dksX0_run_3 5 rfl rfl)
theorem dX0_run_78 : decode cX0_run 78 = .ok (.getfield 44, 3) := dk_180 0 44 (dk_at dksX0_run_3 6 rfl rfl)
theorem dX0_run_81 : decode cX0_run 81 = .ok (.iconst 0, 1) := dk_3 (dk_at dksX0_run_3 9 rfl rfl)
theorem dX0_run_82 : decode cX0_run 82 = .ok (.invokevirtual 347, 3) := dk_182 1 91 (dk_at dksX0_run_3 10 rfl rfl)
theorem dX0_run_85 : decode cX0_run 85 = .ok (.iload 4, 2) := dk_21 4 (dk_at dksX0_run_3 13 rfl rfl)
theorem dX0_run_87 : decode cX0_run 87 = .ok (.ireturn, 1) := dk_172 (dk_at dksX0_run_3 15 rfl rfl)
theorem dX0_run_88 : decode cX0_run 88 = .ok (.astore_n 1, 1) := dk_76 (dk_at dksX0_run_3 16 rfl rfl)
theorem dX0_run_89 : decode cX0_run 89 = .ok (.sipush (-1000), 3) := dk_17 252 24 (dk_at dksX0_run_3 17 rfl rfl)
theorem dX0_run_92 : decode cX0_run 92 = .ok (.aload_n 1, 1) := dk_43 (dk_at dksX0_run_3 20 rfl rfl)
theorem dX0_run_93 : decode cX0_run 93 = .ok (.getfield 353, 3) := dk_180 1 97 (dk_at dksX0_run_3 21 rfl rfl)
theorem dX0_run_96 : decode cX0_run 96 = .ok (.isub, 1) := dk_100 (dk_at dksX0_run_4 0 rfl rfl)
theorem dX0_run_97 : decode cX0_run 97 = .ok (.istore_n 2, 1) := dk_61 (dk_at dksX0_run_4 1 rfl rfl)
theorem dX0_run_98 : decode cX0_run 98 = .ok (.aload_n 0, 1) := dk_42 (dk_at dksX0_run_4 2 rfl rfl)
theorem dX0_run_99 : decode cX0_run 99 = .ok (.getfield 44, 3) := dk_180 0 44 (dk_at dksX0_run_4 3 rfl rfl)
theorem dX0_run_102 : decode cX0_run 102 = .ok (.iconst 0, 1) := dk_3 (dk_at dksX0_run_4 6 rfl rfl)
theorem dX0_run_103 : decode cX0_run 103 = .ok (.invokevirtual 347, 3) := dk_182 1 91 (dk_at dksX0_run_4 7 rfl rfl)
theorem dX0_run_106 : decode cX0_run 106 = .ok (.iload_n 2, 1) := dk_28 (dk_at dksX0_run_4 10 rfl rfl)
theorem dX0_run_107 : decode cX0_run 107 = .ok (.ireturn, 1) := dk_172 (dk_at dksX0_run_4 11 rfl rfl)
theorem dX0_run_108 : decode cX0_run 108 = .ok (.astore_n 1, 1) := dk_76 (dk_at dksX0_run_4 12 rfl rfl)
theorem dX0_run_109 : decode cX0_run 109 = .ok (.aload_n 0, 1) := dk_42 (dk_at dksX0_run_4 13 rfl rfl)
theorem dX0_run_110 : decode cX0_run 110 = .ok (.aload_n 1, 1) := dk_43 (dk_at dksX0_run_4 14 rfl rfl)
theorem dX0_run_111 : decode cX0_run 111 = .ok (.invokevirtual 122, 3) := dk_182 0 122 (dk_at dksX0_run_4 15 rfl rfl)
theorem dX0_run_114 : decode cX0_run 114 = .ok (.istore_n 2, 1) := dk_61 (dk_at dksX0_run_4 18 rfl rfl)
theorem dX0_run_115 : decode cX0_run 115 = .ok (.aload_n 0, 1) := dk_42 (dk_at dksX0_run_4 19 rfl rfl)
theorem dX0_run_116 : decode cX0_run 116 = .ok (.getfield 44, 3) := dk_180 0 44 (dk_at dksX0_run_4 20 rfl rfl)
theorem dX0_run_119 : decode cX0_run 119 = .ok (.iconst 0, 1) := dk_3 (dk_at dksX0_run_4 23 rfl rfl)
theorem dX0_run_120 : decode cX0_run 120 = .ok (.invokevirtual 347, 3) := dk_182 1 91 (dk_at dksX0_run_5 0 rfl rfl)
theorem dX0_run_123 : decode cX0_run 123 = .ok (.iload_n 2, 1) := dk_28 (dk_at dksX0_run_5 3 rfl rfl)
theorem dX0_run_124 : decode cX0_run 124 = .ok (.ireturn, 1) := dk_172 (dk_at dksX0_run_5 4 rfl rfl)
theorem dX0_run_125 : decode cX0_run 125 = .ok (.astore 5, 2) := dk_58 5 (dk_at dksX0_run_5 5 rfl rfl)
theorem dX0_run_127 : decode cX0_run 127 = .ok (.aload_n 0, 1) := dk_42 (dk_at dksX0_run_5 7 rfl rfl)
theorem dX0_run_128 : decode cX0_run 128 = .ok (.getfield 44, 3) := dk_180 0 44 (dk_at dksX0_run_5 8 rfl rfl)
theorem dX0_run_131 : decode cX0_run 131 = .ok (.iconst 0, 1) := dk_3 (dk_at dksX0_run_5 11 rfl rfl)
theorem dX0_run_132 : decode cX0_run 132 = .ok (.invokevirtual 347, 3) := dk_182 1 91 (dk_at dksX0_run_5 12 rfl rfl)
theorem dX0_run_135 : decode cX0_run 135 = .ok (.aload 5, 2) := dk_25 5 (dk_at dksX0_run_5 15 rfl rfl)
theorem dX0_run_137 : decode cX0_run 137 = .ok (.athrow, 1) := dk_191 (dk_at dksX0_run_5 17 rfl rfl)
abbrev cX0_tell : ByteArray := prog_1_method_45_code
def yX0_tell : MethodName := ⟨RX0, "tell", "(I)I"⟩
def dkwX0_tell_4 : List UInt8 := [182, 1, 69, 172]
abbrev dktX0_tell_4 : List UInt8 := dkwX0_tell_4 ++ []
def dkwX0_tell_3 : List UInt8 := [58, 4, 25, 4, 42, 180, 0, 48, 185, 1, 104, 2, 0, 132, 3, 1, 167, 255, 218, 42, 180, 0, 48]
abbrev dktX0_tell_3 : List UInt8 := dkwX0_tell_3 ++ dktX0_tell_4
def dkwX0_tell_2 : List UInt8 := [3, 62, 29, 44, 180, 0, 201, 182, 0, 205, 162, 0, 33, 44, 180, 0, 201, 29, 182, 0, 222, 192, 1, 102]
abbrev dktX0_tell_2 : List UInt8 := dkwX0_tell_2 ++ dktX0_tell_3
def dkwX0_tell_1 : List UInt8 := [192, 0, 173, 77, 42, 180, 0, 48, 3, 182, 1, 91, 42, 180, 0, 48, 44, 180, 0, 198, 182, 1, 99, 87]
abbrev dktX0_tell_1 : List UInt8 := dkwX0_tell_1 ++ dktX0_tell_2
def dkwX0_tell_0 : List UInt8 := [42, 180, 0, 12, 27, 182, 0, 160, 154, 0, 5, 2, 172, 42, 180, 0, 12, 180, 0, 163, 27, 182, 0, 192]
abbrev dktX0_tell_0 : List UInt8 := dkwX0_tell_0 ++ dktX0_tell_1
theorem dksX0_tell_0 : cX0_tell.data.toList.drop 0 = dktX0_tell_0 := by decide +kernel
theorem dksX0_tell_1 : cX0_tell.data.toList.drop 24 = dktX0_tell_1 := dk_seg dksX0_tell_0 24 rfl rfl
theorem dksX0_tell_2 : cX0_tell.data.toList.drop 48 = dktX0_tell_2 := dk_seg dksX0_tell_1 24 rfl rfl
theorem dksX0_tell_3 : cX0_tell.data.toList.drop 72 = dktX0_tell_3 := dk_seg dksX0_tell_2 24 rfl rfl
theorem dksX0_tell_4 : cX0_tell.data.toList.drop 95 = dktX0_tell_4 := dk_seg dksX0_tell_3 23 rfl rfl
theorem dX0_tell_0 : decode cX0_tell 0 = .ok (.aload_n 0, 1) := dk_42 (dk_at dksX0_tell_0 0 rfl rfl)
theorem dX0_tell_1 : decode cX0_tell 1 = .ok (.getfield 12, 3) := dk_180 0 12 (dk_at dksX0_tell_0 1 rfl rfl)
theorem dX0_tell_4 : decode cX0_tell 4 = .ok (.iload_n 1, 1) := dk_27 (dk_at dksX0_tell_0 4 rfl rfl)
theorem dX0_tell_5 : decode cX0_tell 5 = .ok (.invokevirtual 160, 3) := dk_182 0 160 (dk_at dksX0_tell_0 5 rfl rfl)
theorem dX0_tell_8 : decode cX0_tell 8 = .ok (.ifCond .ne 5, 3) := dk_154 0 5 (dk_at dksX0_tell_0 8 rfl rfl)
theorem dX0_tell_11 : decode cX0_tell 11 = .ok (.iconst (-1), 1) := dk_2 (dk_at dksX0_tell_0 11 rfl rfl)
theorem dX0_tell_12 : decode cX0_tell 12 = .ok (.ireturn, 1) := dk_172 (dk_at dksX0_tell_0 12 rfl rfl)
theorem dX0_tell_13 : decode cX0_tell 13 = .ok (.aload_n 0, 1) := dk_42 (dk_at dksX0_tell_0 13 rfl rfl)
theorem dX0_tell_14 : decode cX0_tell 14 = .ok (.getfield 12, 3) := dk_180 0 12 (dk_at dksX0_tell_0 14 rfl rfl)
theorem dX0_tell_17 : decode cX0_tell 17 = .ok (.getfield 163, 3) := dk_180 0 163 (dk_at dksX0_tell_0 17 rfl rfl)
theorem dX0_tell_20 : decode cX0_tell 20 = .ok (.iload_n 1, 1) := dk_27 (dk_at dksX0_tell_0 20 rfl rfl)
theorem dX0_tell_21 : decode cX0_tell 21 = .ok (.invokevirtual 192, 3) := dk_182 0 192 (dk_at dksX0_tell_0 21 rfl rfl)
theorem dX0_tell_24 : decode cX0_tell 24 = .ok (.checkcast 173, 3) := dk_192 0 173 (dk_at dksX0_tell_1 0 rfl rfl)
theorem dX0_tell_27 : decode cX0_tell 27 = .ok (.astore_n 2, 1) := dk_77 (dk_at dksX0_tell_1 3 rfl rfl)
theorem dX0_tell_28 : decode cX0_tell 28 = .ok (.aload_n 0, 1) := dk_42 (dk_at dksX0_tell_1 4 rfl rfl)
theorem dX0_tell_29 : decode cX0_tell 29 = .ok (.getfield 48, 3) := dk_180 0 48 (dk_at dksX0_tell_1 5 rfl rfl)
theorem dX0_tell_32 : decode cX0_tell 32 = .ok (.iconst 0, 1) := dk_3 (dk_at dksX0_tell_1 8 rfl rfl)
theorem dX0_tell_33 : decode cX0_tell 33 = .ok (.invokevirtual 347, 3) := dk_182 1 91 (dk_at dksX0_tell_1 9 rfl rfl)
theorem dX0_tell_36 : decode cX0_tell 36 = .ok (.aload_n 0, 1) := dk_42 (dk_at dksX0_tell_1 12 rfl rfl)
theorem dX0_tell_37 : decode cX0_tell 37 = .ok (.getfield 48, 3) := dk_180 0 48 (dk_at dksX0_tell_1 13 rfl rfl)
theorem dX0_tell_40 : decode cX0_tell 40 = .ok (.aload_n 2, 1) := dk_44 (dk_at dksX0_tell_1 16 rfl rfl)
theorem dX0_tell_41 : decode cX0_tell 41 = .ok (.getfield 198, 3) := dk_180 0 198 (dk_at dksX0_tell_1 17 rfl rfl)
theorem dX0_tell_44 : decode cX0_tell 44 = .ok (.invokevirtual 355, 3) := dk_182 1 99 (dk_at dksX0_tell_1 20 rfl rfl)
theorem dX0_tell_47 : decode cX0_tell 47 = .ok (.pop, 1) := dk_87 (dk_at dksX0_tell_1 23 rfl rfl)
theorem dX0_tell_48 : decode cX0_tell 48 = .ok (.iconst 0, 1) := dk_3 (dk_at dksX0_tell_2 0 rfl rfl)
theorem dX0_tell_49 : decode cX0_tell 49 = .ok (.istore_n 3, 1) := dk_62 (dk_at dksX0_tell_2 1 rfl rfl)
theorem dX0_tell_50 : decode cX0_tell 50 = .ok (.iload_n 3, 1) := dk_29 (dk_at dksX0_tell_2 2 rfl rfl)
theorem dX0_tell_51 : decode cX0_tell 51 = .ok (.aload_n 2, 1) := dk_44 (dk_at dksX0_tell_2 3 rfl rfl)
theorem dX0_tell_52 : decode cX0_tell 52 = .ok (.getfield 201, 3) := dk_180 0 201 (dk_at dksX0_tell_2 4 rfl rfl)
theorem dX0_tell_55 : decode cX0_tell 55 = .ok (.invokevirtual 205, 3) := dk_182 0 205 (dk_at dksX0_tell_2 7 rfl rfl)
theorem dX0_tell_58 : decode cX0_tell 58 = .ok (.if_icmp .ge 33, 3) := dk_162 0 33 (dk_at dksX0_tell_2 10 rfl rfl)
theorem dX0_tell_61 : decode cX0_tell 61 = .ok (.aload_n 2, 1) := dk_44 (dk_at dksX0_tell_2 13 rfl rfl)
theorem dX0_tell_62 : decode cX0_tell 62 = .ok (.getfield 201, 3) := dk_180 0 201 (dk_at dksX0_tell_2 14 rfl rfl)
theorem dX0_tell_65 : decode cX0_tell 65 = .ok (.iload_n 3, 1) := dk_29 (dk_at dksX0_tell_2 17 rfl rfl)
theorem dX0_tell_66 : decode cX0_tell 66 = .ok (.invokevirtual 222, 3) := dk_182 0 222 (dk_at dksX0_tell_2 18 rfl rfl)
theorem dX0_tell_69 : decode cX0_tell 69 = .ok (.checkcast 358, 3) := dk_192 1 102 (dk_at dksX0_tell_2 21 rfl rfl)
theorem dX0_tell_72 : decode cX0_tell 72 = .ok (.astore 4, 2) := dk_58 4 (dk_at dksX0_tell_3 0 rfl rfl)
theorem dX0_tell_74 : decode cX0_tell 74 = .ok (.aload 4, 2) := dk_25 4 (dk_at dksX0_tell_3 2 rfl rfl)
theorem dX0_tell_76 : decode cX0_tell 76 = .ok (.aload_n 0, 1) := dk_42 (dk_at dksX0_tell_3 4 rfl rfl)
theorem dX0_tell_77 : decode cX0_tell 77 = .ok (.getfield 48, 3) := dk_180 0 48 (dk_at dksX0_tell_3 5 rfl rfl)
theorem dX0_tell_80 : decode cX0_tell 80 = .ok (.invokeinterface 360 2, 5) := by decide +kernel
theorem dX0_tell_85 : decode cX0_tell 85 = .ok (.iinc 3 1, 3) := dk_132 3 1 (dk_at dksX0_tell_3 13 rfl rfl)
theorem dX0_tell_88 : decode cX0_tell 88 = .ok (.goto (-38), 3) := dk_167 255 218 (dk_at dksX0_tell_3 16 rfl rfl)
theorem dX0_tell_91 : decode cX0_tell 91 = .ok (.aload_n 0, 1) := dk_42 (dk_at dksX0_tell_3 19 rfl rfl)
theorem dX0_tell_92 : decode cX0_tell 92 = .ok (.getfield 48, 3) := dk_180 0 48 (dk_at dksX0_tell_3 20 rfl rfl)
theorem dX0_tell_95 : decode cX0_tell 95 = .ok (.invokevirtual 325, 3) := dk_182 1 69 (dk_at dksX0_tell_4 0 rfl rfl)
theorem dX0_tell_98 : decode cX0_tell 98 = .ok (.ireturn, 1) := dk_172 (dk_at dksX0_tell_4 3 rfl rfl)
abbrev cX0_character : ByteArray := prog_1_method_46_code
def yX0_character : MethodName := ⟨RX0, "character", "(I)I"⟩
def dkwX0_character_1 : List UInt8 := [182, 1, 108, 167, 0, 4, 2, 172]
abbrev dktX0_character_1 : List UInt8 := dkwX0_character_1 ++ []
def dkwX0_character_0 : List UInt8 := [27, 3, 42, 180, 0, 48, 182, 1, 69, 4, 100, 184, 0, 51, 153, 0, 14, 42, 180, 0, 48, 27]
abbrev dktX0_character_0 : List UInt8 := dkwX0_character_0 ++ dktX0_character_1
theorem dksX0_character_0 : cX0_character.data.toList.drop 0 = dktX0_character_0 := by decide +kernel
theorem dksX0_character_1 : cX0_character.data.toList.drop 22 = dktX0_character_1 := dk_seg dksX0_character_0 22 rfl rfl
theorem dX0_character_0 : decode cX0_character 0 = .ok (.iload_n 1, 1) := dk_27 (dk_at dksX0_character_0 0 rfl rfl)
theorem dX0_character_1 : decode cX0_character 1 = .ok (.iconst 0, 1) := dk_3 (dk_at dksX0_character_0 1 rfl rfl)
theorem dX0_character_2 : decode cX0_character 2 = .ok (.aload_n 0, 1) := dk_42 (dk_at dksX0_character_0 2 rfl rfl)
theorem dX0_character_3 : decode cX0_character 3 = .ok (.getfield 48, 3) := dk_180 0 48 (dk_at dksX0_character_0 3 rfl rfl)
theorem dX0_character_6 : decode cX0_character 6 = .ok (.invokevirtual 325, 3) := dk_182 1 69 (dk_at dksX0_character_0 6 rfl rfl)
theorem dX0_character_9 : decode cX0_character 9 = .ok (.iconst 1, 1) := dk_4 (dk_at dksX0_character_0 9 rfl rfl)
theorem dX0_character_10 : decode cX0_character 10 = .ok (.isub, 1) := dk_100 (dk_at dksX0_character_0 10 rfl rfl)
theorem dX0_character_11 : decode cX0_character 11 = .ok (.invokestatic 51, 3) := dk_184 0 51 (dk_at dksX0_character_0 11 rfl rfl)
theorem dX0_character_14 : decode cX0_character 14 = .ok (.ifCond .eq 14, 3) := dk_153 0 14 (dk_at dksX0_character_0 14 rfl rfl)
theorem dX0_character_17 : decode cX0_character 17 = .ok (.aload_n 0, 1) := dk_42 (dk_at dksX0_character_0 17 rfl rfl)
theorem dX0_character_18 : decode cX0_character 18 = .ok (.getfield 48, 3) := dk_180 0 48 (dk_at dksX0_character_0 18 rfl rfl)
theorem dX0_character_21 : decode cX0_character 21 = .ok (.iload_n 1, 1) := dk_27 (dk_at dksX0_character_0 21 rfl rfl)
theorem dX0_character_22 : decode cX0_character 22 = .ok (.invokevirtual 364, 3) := dk_182 1 108 (dk_at dksX0_character_1 0 rfl rfl)
theorem dX0_character_25 : decode cX0_character 25 = .ok (.goto 4, 3) := dk_167 0 4 (dk_at dksX0_character_1 3 rfl rfl)
theorem dX0_character_28 : decode cX0_character 28 = .ok (.iconst (-1), 1) := dk_2 (dk_at dksX0_character_1 6 rfl rfl)
theorem dX0_character_29 : decode cX0_character 29 = .ok (.ireturn, 1) := dk_172 (dk_at dksX0_character_1 7 rfl rfl)
abbrev cX0_reason : ByteArray := prog_1_method_47_code
def yX0_reason : MethodName := ⟨RX0, "reason", "(Z)I"⟩
def dkwX0_reason_1 : List UInt8 := [180, 0, 64, 172]
abbrev dktX0_reason_1 : List UInt8 := dkwX0_reason_1 ++ []
def dkwX0_reason_0 : List UInt8 := [42, 180, 0, 64, 154, 0, 8, 16, 251, 167, 0, 18, 27, 153, 0, 10, 42, 180, 0, 68, 167, 0, 7, 42]
abbrev dktX0_reason_0 : List UInt8 := dkwX0_reason_0 ++ dktX0_reason_1
theorem dksX0_reason_0 : cX0_reason.data.toList.drop 0 = dktX0_reason_0 := by decide +kernel
theorem dksX0_reason_1 : cX0_reason.data.toList.drop 24 = dktX0_reason_1 := dk_seg dksX0_reason_0 24 rfl rfl
theorem dX0_reason_0 : decode cX0_reason 0 = .ok (.aload_n 0, 1) := dk_42 (dk_at dksX0_reason_0 0 rfl rfl)
theorem dX0_reason_1 : decode cX0_reason 1 = .ok (.getfield 64, 3) := dk_180 0 64 (dk_at dksX0_reason_0 1 rfl rfl)
theorem dX0_reason_4 : decode cX0_reason 4 = .ok (.ifCond .ne 8, 3) := dk_154 0 8 (dk_at dksX0_reason_0 4 rfl rfl)
theorem dX0_reason_7 : decode cX0_reason 7 = .ok (.bipush (-5), 2) := dk_16 251 (dk_at dksX0_reason_0 7 rfl rfl)
theorem dX0_reason_9 : decode cX0_reason 9 = .ok (.goto 18, 3) := dk_167 0 18 (dk_at dksX0_reason_0 9 rfl rfl)
theorem dX0_reason_12 : decode cX0_reason 12 = .ok (.iload_n 1, 1) := dk_27 (dk_at dksX0_reason_0 12 rfl rfl)
theorem dX0_reason_13 : decode cX0_reason 13 = .ok (.ifCond .eq 10, 3) := dk_153 0 10 (dk_at dksX0_reason_0 13 rfl rfl)
theorem dX0_reason_16 : decode cX0_reason 16 = .ok (.aload_n 0, 1) := dk_42 (dk_at dksX0_reason_0 16 rfl rfl)
theorem dX0_reason_17 : decode cX0_reason 17 = .ok (.getfield 68, 3) := dk_180 0 68 (dk_at dksX0_reason_0 17 rfl rfl)
theorem dX0_reason_20 : decode cX0_reason 20 = .ok (.goto 7, 3) := dk_167 0 7 (dk_at dksX0_reason_0 20 rfl rfl)
theorem dX0_reason_23 : decode cX0_reason 23 = .ok (.aload_n 0, 1) := dk_42 (dk_at dksX0_reason_0 23 rfl rfl)
theorem dX0_reason_24 : decode cX0_reason 24 = .ok (.getfield 64, 3) := dk_180 0 64 (dk_at dksX0_reason_1 0 rfl rfl)
theorem dX0_reason_27 : decode cX0_reason 27 = .ok (.ireturn, 1) := dk_172 (dk_at dksX0_reason_1 3 rfl rfl)
abbrev cX0_account : ByteArray := prog_1_method_48_code
def yX0_account : MethodName := ⟨RX0, "account", "(I)I"⟩
def dkwX0_account_9 : List UInt8 := [167, 0, 5, 16, 254, 172]
abbrev dktX0_account_9 : List UInt8 := dkwX0_account_9 ++ []
def dkwX0_account_8 : List UInt8 := [182, 1, 124, 167, 0, 25, 42, 180, 0, 44, 182, 1, 69, 167, 0, 15, 42, 180, 0, 19, 182, 0, 73]
abbrev dktX0_account_8 : List UInt8 := dkwX0_account_8 ++ dktX0_account_9
def dkwX0_account_7 : List UInt8 := [180, 0, 12, 182, 1, 118, 167, 0, 45, 42, 180, 0, 12, 180, 1, 121, 167, 0, 35, 42, 180, 0, 12]
abbrev dktX0_account_7 : List UInt8 := dkwX0_account_7 ++ dktX0_account_8
def dkwX0_account_6 : List UInt8 := [180, 0, 129, 167, 0, 70, 42, 180, 0, 12, 180, 0, 132, 27, 16, 7, 100, 46, 167, 0, 55, 42]
abbrev dktX0_account_6 : List UInt8 := dkwX0_account_6 ++ dktX0_account_7
def dkwX0_account_5 : List UInt8 := [182, 1, 112, 167, 0, 93, 42, 180, 0, 12, 180, 0, 135, 182, 1, 113, 167, 0, 80, 42, 180, 0, 12]
abbrev dktX0_account_5 : List UInt8 := dkwX0_account_5 ++ dktX0_account_6
def dkwX0_account_4 : List UInt8 := [3, 182, 1, 112, 167, 0, 115, 42, 180, 0, 12, 4, 182, 1, 112, 167, 0, 104, 42, 180, 0, 12, 5]
abbrev dktX0_account_4 : List UInt8 := dkwX0_account_4 ++ dktX0_account_5
def dkwX0_account_3 : List UInt8 := [180, 0, 12, 4, 182, 1, 112, 96, 42, 180, 0, 12, 5, 182, 1, 112, 96, 167, 0, 126, 42, 180, 0, 12]
abbrev dktX0_account_3 : List UInt8 := dkwX0_account_3 ++ dktX0_account_4
def dkwX0_account_2 : List UInt8 := [42, 180, 0, 12, 180, 0, 163, 182, 0, 182, 167, 0, 155, 42, 180, 0, 12, 3, 182, 1, 112, 42]
abbrev dktX0_account_2 : List UInt8 := dkwX0_account_2 ++ dktX0_account_3
def dkwX0_account_1 : List UInt8 := [170, 0, 0, 0, 0, 0, 238, 0, 0, 0, 0, 0, 0, 0, 14, 0, 0, 0, 75, 0, 0, 0, 88, 0, 0, 0, 117, 0, 0, 0, 128, 0, 0, 0, 139, 0, 0, 0, 150, 0, 0, 0, 163, 0, 0, 0, 173, 0, 0, 0, 173, 0, 0, 0, 173, 0, 0, 0, 188, 0, 0, 0, 198, 0, 0, 0, 208, 0, 0, 0, 218, 0, 0, 0, 228]
abbrev dktX0_account_1 : List UInt8 := dkwX0_account_1 ++ dktX0_account_2
def dkwX0_account_0 : List UInt8 := [27]
abbrev dktX0_account_0 : List UInt8 := dkwX0_account_0 ++ dktX0_account_1
theorem dksX0_account_0 : cX0_account.data.toList.drop 0 = dktX0_account_0 := by decide +kernel
theorem dksX0_account_1 : cX0_account.data.toList.drop 1 = dktX0_account_1 := dk_seg dksX0_account_0 1 rfl rfl
theorem dksX0_account_2 : cX0_account.data.toList.drop 76 = dktX0_account_2 := dk_seg dksX0_account_1 75 rfl rfl
theorem dksX0_account_3 : cX0_account.data.toList.drop 98 = dktX0_account_3 := dk_seg dksX0_account_2 22 rfl rfl
theorem dksX0_account_4 : cX0_account.data.toList.drop 122 = dktX0_account_4 := dk_seg dksX0_account_3 24 rfl rfl
theorem dksX0_account_5 : cX0_account.data.toList.drop 145 = dktX0_account_5 := dk_seg dksX0_account_4 23 rfl rfl
theorem dksX0_account_6 : cX0_account.data.toList.drop 168 = dktX0_account_6 := dk_seg dksX0_account_5 23 rfl rfl
theorem dksX0_account_7 : cX0_account.data.toList.drop 190 = dktX0_account_7 := dk_seg dksX0_account_6 22 rfl rfl
theorem dksX0_account_8 : cX0_account.data.toList.drop 213 = dktX0_account_8 := dk_seg dksX0_account_7 23 rfl rfl
theorem dksX0_account_9 : cX0_account.data.toList.drop 236 = dktX0_account_9 := dk_seg dksX0_account_8 23 rfl rfl
theorem dX0_account_0 : decode cX0_account 0 = .ok (.iload_n 1, 1) := dk_27 (dk_at dksX0_account_0 0 rfl rfl)
theorem dX0_account_1 : decode cX0_account 1 = .ok (.tableswitch 238 0 14 #[75, 88, 117, 128, 139, 150, 163, 173, 173, 173, 188, 198, 208, 218, 228], 75) := by decide +kernel
theorem dX0_account_76 : decode cX0_account 76 = .ok (.aload_n 0, 1) := dk_42 (dk_at dksX0_account_2 0 rfl rfl)
theorem dX0_account_77 : decode cX0_account 77 = .ok (.getfield 12, 3) := dk_180 0 12 (dk_at dksX0_account_2 1 rfl rfl)
theorem dX0_account_80 : decode cX0_account 80 = .ok (.getfield 163, 3) := dk_180 0 163 (dk_at dksX0_account_2 4 rfl rfl)
theorem dX0_account_83 : decode cX0_account 83 = .ok (.invokevirtual 182, 3) := dk_182 0 182 (dk_at dksX0_account_2 7 rfl rfl)
theorem dX0_account_86 : decode cX0_account 86 = .ok (.goto 155, 3) := dk_167 0 155 (dk_at dksX0_account_2 10 rfl rfl)
theorem dX0_account_89 : decode cX0_account 89 = .ok (.aload_n 0, 1) := dk_42 (dk_at dksX0_account_2 13 rfl rfl)
theorem dX0_account_90 : decode cX0_account 90 = .ok (.getfield 12, 3) := dk_180 0 12 (dk_at dksX0_account_2 14 rfl rfl)
theorem dX0_account_93 : decode cX0_account 93 = .ok (.iconst 0, 1) := dk_3 (dk_at dksX0_account_2 17 rfl rfl)
theorem dX0_account_94 : decode cX0_account 94 = .ok (.invokevirtual 368, 3) := dk_182 1 112 (dk_at dksX0_account_2 18 rfl rfl)
theorem dX0_account_97 : decode cX0_account 97 = .ok (.aload_n 0, 1) := dk_42 (dk_at dksX0_account_2 21 rfl rfl)
theorem dX0_account_98 : decode cX0_account 98 = .ok (.getfield 12, 3) := dk_180 0 12 (dk_at dksX0_account_3 0 rfl rfl)
theorem dX0_account_101 : decode cX0_account 101 = .ok (.iconst 1, 1) := dk_4 (dk_at dksX0_account_3 3 rfl rfl)
theorem dX0_account_102 : decode cX0_account 102 = .ok (.invokevirtual 368, 3) := dk_182 1 112 (dk_at dksX0_account_3 4 rfl rfl)
theorem dX0_account_105 : decode cX0_account 105 = .ok (.iadd, 1) := dk_96 (dk_at dksX0_account_3 7 rfl rfl)
theorem dX0_account_106 : decode cX0_account 106 = .ok (.aload_n 0, 1) := dk_42 (dk_at dksX0_account_3 8 rfl rfl)
theorem dX0_account_107 : decode cX0_account 107 = .ok (.getfield 12, 3) := dk_180 0 12 (dk_at dksX0_account_3 9 rfl rfl)
theorem dX0_account_110 : decode cX0_account 110 = .ok (.iconst 2, 1) := dk_5 (dk_at dksX0_account_3 12 rfl rfl)
theorem dX0_account_111 : decode cX0_account 111 = .ok (.invokevirtual 368, 3) := dk_182 1 112 (dk_at dksX0_account_3 13 rfl rfl)
theorem dX0_account_114 : decode cX0_account 114 = .ok (.iadd, 1) := dk_96 (dk_at dksX0_account_3 16 rfl rfl)
theorem dX0_account_115 : decode cX0_account 115 = .ok (.goto 126, 3) := dk_167 0 126 (dk_at dksX0_account_3 17 rfl rfl)
theorem dX0_account_118 : decode cX0_account 118 = .ok (.aload_n 0, 1) := dk_42 (dk_at dksX0_account_3 20 rfl rfl)
theorem dX0_account_119 : decode cX0_account 119 = .ok (.getfield 12, 3) := dk_180 0 12 (dk_at dksX0_account_3 21 rfl rfl)
theorem dX0_account_122 : decode cX0_account 122 = .ok (.iconst 0, 1) := dk_3 (dk_at dksX0_account_4 0 rfl rfl)
theorem dX0_account_123 : decode cX0_account 123 = .ok (.invokevirtual 368, 3) := dk_182 1 112 (dk_at dksX0_account_4 1 rfl rfl)
theorem dX0_account_126 : decode cX0_account 126 = .ok (.goto 115, 3) := dk_167 0 115 (dk_at dksX0_account_4 4 rfl rfl)
theorem dX0_account_129 : decode cX0_account 129 = .ok (.aload_n 0, 1) := dk_42 (dk_at dksX0_account_4 7 rfl rfl)
theorem dX0_account_130 : decode cX0_account 130 = .ok (.getfield 12, 3) := dk_180 0 12 (dk_at dksX0_account_4 8 rfl rfl)
theorem dX0_account_133 : decode cX0_account 133 = .ok (.iconst 1, 1) := dk_4 (dk_at dksX0_account_4 11 rfl rfl)
theorem dX0_account_134 : decode cX0_account 134 = .ok (.invokevirtual 368, 3) := dk_182 1 112 (dk_at dksX0_account_4 12 rfl rfl)
theorem dX0_account_137 : decode cX0_account 137 = .ok (.goto 104, 3) := dk_167 0 104 (dk_at dksX0_account_4 15 rfl rfl)
theorem dX0_account_140 : decode cX0_account 140 = .ok (.aload_n 0, 1) := dk_42 (dk_at dksX0_account_4 18 rfl rfl)
theorem dX0_account_141 : decode cX0_account 141 = .ok (.getfield 12, 3) := dk_180 0 12 (dk_at dksX0_account_4 19 rfl rfl)
theorem dX0_account_144 : decode cX0_account 144 = .ok (.iconst 2, 1) := dk_5 (dk_at dksX0_account_4 22 rfl rfl)
theorem dX0_account_145 : decode cX0_account 145 = .ok (.invokevirtual 368, 3) := dk_182 1 112 (dk_at dksX0_account_5 0 rfl rfl)
theorem dX0_account_148 : decode cX0_account 148 = .ok (.goto 93, 3) := dk_167 0 93 (dk_at dksX0_account_5 3 rfl rfl)
theorem dX0_account_151 : decode cX0_account 151 = .ok (.aload_n 0, 1) := dk_42 (dk_at dksX0_account_5 6 rfl rfl)
theorem dX0_account_152 : decode cX0_account 152 = .ok (.getfield 12, 3) := dk_180 0 12 (dk_at dksX0_account_5 7 rfl rfl)
theorem dX0_account_155 : decode cX0_account 155 = .ok (.getfield 135, 3) := dk_180 0 135 (dk_at dksX0_account_5 10 rfl rfl)
theorem dX0_account_158 : decode cX0_account 158 = .ok (.invokevirtual 369, 3) := dk_182 1 113 (dk_at dksX0_account_5 13 rfl rfl)
theorem dX0_account_161 : decode cX0_account 161 = .ok (.goto 80, 3) := dk_167 0 80 (dk_at dksX0_account_5 16 rfl rfl)
theorem dX0_account_164 : decode cX0_account 164 = .ok (.aload_n 0, 1) := dk_42 (dk_at dksX0_account_5 19 rfl rfl)
theorem dX0_account_165 : decode cX0_account 165 = .ok (.getfield 12, 3) := dk_180 0 12 (dk_at dksX0_account_5 20 rfl rfl)
theorem dX0_account_168 : decode cX0_account 168 = .ok (.getfield 129, 3) := dk_180 0 129 (dk_at dksX0_account_6 0 rfl rfl)
theorem dX0_account_171 : decode cX0_account 171 = .ok (.goto 70, 3) := dk_167 0 70 (dk_at dksX0_account_6 3 rfl rfl)
theorem dX0_account_174 : decode cX0_account 174 = .ok (.aload_n 0, 1) := dk_42 (dk_at dksX0_account_6 6 rfl rfl)
theorem dX0_account_175 : decode cX0_account 175 = .ok (.getfield 12, 3) := dk_180 0 12 (dk_at dksX0_account_6 7 rfl rfl)
theorem dX0_account_178 : decode cX0_account 178 = .ok (.getfield 132, 3) := dk_180 0 132 (dk_at dksX0_account_6 10 rfl rfl)
theorem dX0_account_181 : decode cX0_account 181 = .ok (.iload_n 1, 1) := dk_27 (dk_at dksX0_account_6 13 rfl rfl)
theorem dX0_account_182 : decode cX0_account 182 = .ok (.bipush 7, 2) := dk_16 7 (dk_at dksX0_account_6 14 rfl rfl)
theorem dX0_account_184 : decode cX0_account 184 = .ok (.isub, 1) := dk_100 (dk_at dksX0_account_6 16 rfl rfl)
theorem dX0_account_185 : decode cX0_account 185 = .ok (.iaload, 1) := dk_46 (dk_at dksX0_account_6 17 rfl rfl)
theorem dX0_account_186 : decode cX0_account 186 = .ok (.goto 55, 3) := dk_167 0 55 (dk_at dksX0_account_6 18 rfl rfl)
theorem dX0_account_189 : decode cX0_account 189 = .ok (.aload_n 0, 1) := dk_42 (dk_at dksX0_account_6 21 rfl rfl)
theorem dX0_account_190 : decode cX0_account 190 = .ok (.getfield 12, 3) := dk_180 0 12 (dk_at dksX0_account_7 0 rfl rfl)
theorem dX0_account_193 : decode cX0_account 193 = .ok (.invokevirtual 374, 3) := dk_182 1 118 (dk_at dksX0_account_7 3 rfl rfl)
theorem dX0_account_196 : decode cX0_account 196 = .ok (.goto 45, 3) := dk_167 0 45 (dk_at dksX0_account_7 6 rfl rfl)
theorem dX0_account_199 : decode cX0_account 199 = .ok (.aload_n 0, 1) := dk_42 (dk_at dksX0_account_7 9 rfl rfl)
theorem dX0_account_200 : decode cX0_account 200 = .ok (.getfield 12, 3) := dk_180 0 12 (dk_at dksX0_account_7 10 rfl rfl)
theorem dX0_account_203 : decode cX0_account 203 = .ok (.getfield 377, 3) := dk_180 1 121 (dk_at dksX0_account_7 13 rfl rfl)
theorem dX0_account_206 : decode cX0_account 206 = .ok (.goto 35, 3) := dk_167 0 35 (dk_at dksX0_account_7 16 rfl rfl)
theorem dX0_account_209 : decode cX0_account 209 = .ok (.aload_n 0, 1) := dk_42 (dk_at dksX0_account_7 19 rfl rfl)
theorem dX0_account_210 : decode cX0_account 210 = .ok (.getfield 12, 3) := dk_180 0 12 (dk_at dksX0_account_7 20 rfl rfl)
theorem dX0_account_213 : decode cX0_account 213 = .ok (.invokevirtual 380, 3) := dk_182 1 124 (dk_at dksX0_account_8 0 rfl rfl)
theorem dX0_account_216 : decode cX0_account 216 = .ok (.goto 25, 3) := dk_167 0 25 (dk_at dksX0_account_8 3 rfl rfl)
theorem dX0_account_219 : decode cX0_account 219 = .ok (.aload_n 0, 1) := dk_42 (dk_at dksX0_account_8 6 rfl rfl)
theorem dX0_account_220 : decode cX0_account 220 = .ok (.getfield 44, 3) := dk_180 0 44 (dk_at dksX0_account_8 7 rfl rfl)
theorem dX0_account_223 : decode cX0_account 223 = .ok (.invokevirtual 325, 3) := dk_182 1 69 (dk_at dksX0_account_8 10 rfl rfl)
theorem dX0_account_226 : decode cX0_account 226 = .ok (.goto 15, 3) := dk_167 0 15 (dk_at dksX0_account_8 13 rfl rfl)
theorem dX0_account_229 : decode cX0_account 229 = .ok (.aload_n 0, 1) := dk_42 (dk_at dksX0_account_8 16 rfl rfl)
theorem dX0_account_230 : decode cX0_account 230 = .ok (.getfield 19, 3) := dk_180 0 19 (dk_at dksX0_account_8 17 rfl rfl)
theorem dX0_account_233 : decode cX0_account 233 = .ok (.invokevirtual 73, 3) := dk_182 0 73 (dk_at dksX0_account_8 20 rfl rfl)
theorem dX0_account_236 : decode cX0_account 236 = .ok (.goto 5, 3) := dk_167 0 5 (dk_at dksX0_account_9 0 rfl rfl)
theorem dX0_account_239 : decode cX0_account 239 = .ok (.bipush (-2), 2) := dk_16 254 (dk_at dksX0_account_9 3 rfl rfl)
theorem dX0_account_241 : decode cX0_account 241 = .ok (.ireturn, 1) := dk_172 (dk_at dksX0_account_9 5 rfl rfl)
abbrev cX0_undo : ByteArray := prog_1_method_49_code
def yX0_undo : MethodName := ⟨RX0, "undo", "()I"⟩
def dkwX0_undo_1 : List UInt8 := [181, 0, 12, 42, 180, 0, 19, 182, 0, 73, 172]
abbrev dktX0_undo_1 : List UInt8 := dkwX0_undo_1 ++ []
def dkwX0_undo_0 : List UInt8 := [42, 180, 0, 19, 182, 1, 127, 153, 0, 6, 16, 251, 172, 42, 42, 180, 0, 19, 182, 1, 130, 192, 0, 9]
abbrev dktX0_undo_0 : List UInt8 := dkwX0_undo_0 ++ dktX0_undo_1
theorem dksX0_undo_0 : cX0_undo.data.toList.drop 0 = dktX0_undo_0 := by decide +kernel
theorem dksX0_undo_1 : cX0_undo.data.toList.drop 24 = dktX0_undo_1 := dk_seg dksX0_undo_0 24 rfl rfl
theorem dX0_undo_0 : decode cX0_undo 0 = .ok (.aload_n 0, 1) := dk_42 (dk_at dksX0_undo_0 0 rfl rfl)
theorem dX0_undo_1 : decode cX0_undo 1 = .ok (.getfield 19, 3) := dk_180 0 19 (dk_at dksX0_undo_0 1 rfl rfl)
theorem dX0_undo_4 : decode cX0_undo 4 = .ok (.invokevirtual 383, 3) := dk_182 1 127 (dk_at dksX0_undo_0 4 rfl rfl)
theorem dX0_undo_7 : decode cX0_undo 7 = .ok (.ifCond .eq 6, 3) := dk_153 0 6 (dk_at dksX0_undo_0 7 rfl rfl)
theorem dX0_undo_10 : decode cX0_undo 10 = .ok (.bipush (-5), 2) := dk_16 251 (dk_at dksX0_undo_0 10 rfl rfl)
theorem dX0_undo_12 : decode cX0_undo 12 = .ok (.ireturn, 1) := dk_172 (dk_at dksX0_undo_0 12 rfl rfl)
theorem dX0_undo_13 : decode cX0_undo 13 = .ok (.aload_n 0, 1) := dk_42 (dk_at dksX0_undo_0 13 rfl rfl)
theorem dX0_undo_14 : decode cX0_undo 14 = .ok (.aload_n 0, 1) := dk_42 (dk_at dksX0_undo_0 14 rfl rfl)
theorem dX0_undo_15 : decode cX0_undo 15 = .ok (.getfield 19, 3) := dk_180 0 19 (dk_at dksX0_undo_0 15 rfl rfl)
theorem dX0_undo_18 : decode cX0_undo 18 = .ok (.invokevirtual 386, 3) := dk_182 1 130 (dk_at dksX0_undo_0 18 rfl rfl)
theorem dX0_undo_21 : decode cX0_undo 21 = .ok (.checkcast 9, 3) := dk_192 0 9 (dk_at dksX0_undo_0 21 rfl rfl)
theorem dX0_undo_24 : decode cX0_undo 24 = .ok (.putfield 12, 3) := dk_181 0 12 (dk_at dksX0_undo_1 0 rfl rfl)
theorem dX0_undo_27 : decode cX0_undo 27 = .ok (.aload_n 0, 1) := dk_42 (dk_at dksX0_undo_1 3 rfl rfl)
theorem dX0_undo_28 : decode cX0_undo 28 = .ok (.getfield 19, 3) := dk_180 0 19 (dk_at dksX0_undo_1 4 rfl rfl)
theorem dX0_undo_31 : decode cX0_undo 31 = .ok (.invokevirtual 73, 3) := dk_182 0 73 (dk_at dksX0_undo_1 7 rfl rfl)
theorem dX0_undo_34 : decode cX0_undo 34 = .ok (.ireturn, 1) := dk_172 (dk_at dksX0_undo_1 10 rfl rfl)
abbrev cX0_save : ByteArray := prog_1_method_50_code
def yX0_save : MethodName := ⟨RX0, "save", "()I"⟩
def dkwX0_save_0 : List UInt8 := [42, 42, 180, 0, 12, 182, 0, 111, 181, 1, 133, 42, 180, 1, 133, 180, 0, 163, 182, 0, 182, 172]
abbrev dktX0_save_0 : List UInt8 := dkwX0_save_0 ++ []
theorem dksX0_save_0 : cX0_save.data.toList.drop 0 = dktX0_save_0 := by decide +kernel
theorem dX0_save_0 : decode cX0_save 0 = .ok (.aload_n 0, 1) := dk_42 (dk_at dksX0_save_0 0 rfl rfl)
theorem dX0_save_1 : decode cX0_save 1 = .ok (.aload_n 0, 1) := dk_42 (dk_at dksX0_save_0 1 rfl rfl)
theorem dX0_save_2 : decode cX0_save 2 = .ok (.getfield 12, 3) := dk_180 0 12 (dk_at dksX0_save_0 2 rfl rfl)
theorem dX0_save_5 : decode cX0_save 5 = .ok (.invokevirtual 111, 3) := dk_182 0 111 (dk_at dksX0_save_0 5 rfl rfl)
theorem dX0_save_8 : decode cX0_save 8 = .ok (.putfield 389, 3) := dk_181 1 133 (dk_at dksX0_save_0 8 rfl rfl)
theorem dX0_save_11 : decode cX0_save 11 = .ok (.aload_n 0, 1) := dk_42 (dk_at dksX0_save_0 11 rfl rfl)
theorem dX0_save_12 : decode cX0_save 12 = .ok (.getfield 389, 3) := dk_180 1 133 (dk_at dksX0_save_0 12 rfl rfl)
theorem dX0_save_15 : decode cX0_save 15 = .ok (.getfield 163, 3) := dk_180 0 163 (dk_at dksX0_save_0 15 rfl rfl)
theorem dX0_save_18 : decode cX0_save 18 = .ok (.invokevirtual 182, 3) := dk_182 0 182 (dk_at dksX0_save_0 18 rfl rfl)
theorem dX0_save_21 : decode cX0_save 21 = .ok (.ireturn, 1) := dk_172 (dk_at dksX0_save_0 21 rfl rfl)
abbrev cX0_restore : ByteArray := prog_1_method_51_code
def yX0_restore : MethodName := ⟨RX0, "restore", "()I"⟩
def dkwX0_restore_1 : List UInt8 := [180, 0, 19, 182, 1, 136, 42, 180, 0, 12, 180, 0, 163, 182, 0, 182, 172]
abbrev dktX0_restore_1 : List UInt8 := dkwX0_restore_1 ++ []
def dkwX0_restore_0 : List UInt8 := [42, 180, 1, 133, 199, 0, 6, 16, 251, 172, 42, 42, 180, 1, 133, 182, 0, 111, 181, 0, 12, 42]
abbrev dktX0_restore_0 : List UInt8 := dkwX0_restore_0 ++ dktX0_restore_1
theorem dksX0_restore_0 : cX0_restore.data.toList.drop 0 = dktX0_restore_0 := by decide +kernel
theorem dksX0_restore_1 : cX0_restore.data.toList.drop 22 = dktX0_restore_1 := dk_seg dksX0_restore_0 22 rfl rfl
theorem dX0_restore_0 : decode cX0_restore 0 = .ok (.aload_n 0, 1) := dk_42 (dk_at dksX0_restore_0 0 rfl rfl)
theorem dX0_restore_1 : decode cX0_restore 1 = .ok (.getfield 389, 3) := dk_180 1 133 (dk_at dksX0_restore_0 1 rfl rfl)
theorem dX0_restore_4 : decode cX0_restore 4 = .ok (.ifnonnull 6, 3) := dk_199 0 6 (dk_at dksX0_restore_0 4 rfl rfl)
theorem dX0_restore_7 : decode cX0_restore 7 = .ok (.bipush (-5), 2) := dk_16 251 (dk_at dksX0_restore_0 7 rfl rfl)
theorem dX0_restore_9 : decode cX0_restore 9 = .ok (.ireturn, 1) := dk_172 (dk_at dksX0_restore_0 9 rfl rfl)
theorem dX0_restore_10 : decode cX0_restore 10 = .ok (.aload_n 0, 1) := dk_42 (dk_at dksX0_restore_0 10 rfl rfl)
theorem dX0_restore_11 : decode cX0_restore 11 = .ok (.aload_n 0, 1) := dk_42 (dk_at dksX0_restore_0 11 rfl rfl)
theorem dX0_restore_12 : decode cX0_restore 12 = .ok (.getfield 389, 3) := dk_180 1 133 (dk_at dksX0_restore_0 12 rfl rfl)
theorem dX0_restore_15 : decode cX0_restore 15 = .ok (.invokevirtual 111, 3) := dk_182 0 111 (dk_at dksX0_restore_0 15 rfl rfl)
theorem dX0_restore_18 : decode cX0_restore 18 = .ok (.putfield 12, 3) := dk_181 0 12 (dk_at dksX0_restore_0 18 rfl rfl)
theorem dX0_restore_21 : decode cX0_restore 21 = .ok (.aload_n 0, 1) := dk_42 (dk_at dksX0_restore_0 21 rfl rfl)
theorem dX0_restore_22 : decode cX0_restore 22 = .ok (.getfield 19, 3) := dk_180 0 19 (dk_at dksX0_restore_1 0 rfl rfl)
theorem dX0_restore_25 : decode cX0_restore 25 = .ok (.invokevirtual 392, 3) := dk_182 1 136 (dk_at dksX0_restore_1 3 rfl rfl)
theorem dX0_restore_28 : decode cX0_restore 28 = .ok (.aload_n 0, 1) := dk_42 (dk_at dksX0_restore_1 6 rfl rfl)
theorem dX0_restore_29 : decode cX0_restore 29 = .ok (.getfield 12, 3) := dk_180 0 12 (dk_at dksX0_restore_1 7 rfl rfl)
theorem dX0_restore_32 : decode cX0_restore 32 = .ok (.getfield 163, 3) := dk_180 0 163 (dk_at dksX0_restore_1 10 rfl rfl)
theorem dX0_restore_35 : decode cX0_restore 35 = .ok (.invokevirtual 182, 3) := dk_182 0 182 (dk_at dksX0_restore_1 13 rfl rfl)
theorem dX0_restore_38 : decode cX0_restore 38 = .ok (.ireturn, 1) := dk_172 (dk_at dksX0_restore_1 16 rfl rfl)
theorem q94 : (Jvm.Cond.initialized "WhalingLogs") ∈ lw_all := lw_g (lw_at lw_m1 1 rfl) rfl
theorem q146 : (Jvm.Cond.instantiable "WhalingLogs" (10 : Nat)) ∈ lw_all := lw_g (lw_at lw_m1 53 rfl) rfl
theorem q148 : (Jvm.Cond.instanceMethod ({ cls := "WhalingLogs", name := "<init>", desc := "()V" } : Jvm.MethodName)) ∈ lw_all := lw_g (lw_at lw_m1 55 rfl) rfl
theorem q149 : (Jvm.Cond.code ({ cls := "WhalingLogs", name := "<init>", desc := "()V" } : Jvm.MethodName) prog_1_method_1_code (1 : Nat) (Option.none : Option Jvm.ClassFile.FieldType)) ∈ lw_all := lw_g (lw_at lw_m1 56 rfl) rfl
theorem q150 : (Jvm.Cond.methodLink "WhalingLogs" (3 : Nat) ({ cls := "java/lang/Object", name := "<init>", desc := "()V" } : Jvm.MethodName)) ∈ lw_all := lw_g (lw_at lw_m1 57 rfl) rfl
theorem q153 : (Jvm.Cond.classLink "WhalingLogs" (9 : Nat) "WhalingLogs$Archive") ∈ lw_all := lw_g (lw_at lw_m1 60 rfl) rfl
theorem q155 : (Jvm.Cond.methodLinkNest "WhalingLogs" (11 : Nat) ({ cls := "WhalingLogs$Archive", name := "<init>", desc := "()V" } : Jvm.MethodName) "WhalingLogs") ∈ lw_tbl := lw_at lw_m1 62 rfl
theorem q222 : (Jvm.Cond.fieldLinkNest "WhalingLogs" (135 : Nat) "WhalingLogs$Archive" "land" "Ljava/util/BitSet;" "WhalingLogs") ∈ lw_tbl := lw_at lw_m1 129 rfl
theorem q225 : (Jvm.Cond.fieldLinkNest "WhalingLogs" (163 : Nat) "WhalingLogs$Archive" "pages" "Ljava/util/LinkedList;" "WhalingLogs") ∈ lw_tbl := lw_at lw_m1 132 rfl
theorem q227 : (Jvm.Cond.fieldLinkNest "WhalingLogs" (132 : Nat) "WhalingLogs$Archive" "strengths" "[I" "WhalingLogs") ∈ lw_tbl := lw_at lw_m1 134 rfl
theorem q229 : (Jvm.Cond.fieldLinkNest "WhalingLogs" (242 : Nat) "WhalingLogs$Archive" "errors" "[I" "WhalingLogs") ∈ lw_tbl := lw_at lw_m1 136 rfl
theorem q233 : (Jvm.Cond.fieldLinkNest "WhalingLogs" (129 : Nat) "WhalingLogs$Archive" "speed" "I" "WhalingLogs") ∈ lw_tbl := lw_at lw_m1 140 rfl
theorem q235 : (Jvm.Cond.fieldLinkNest "WhalingLogs" (377 : Nat) "WhalingLogs$Archive" "reads" "I" "WhalingLogs") ∈ lw_tbl := lw_at lw_m1 142 rfl
theorem q250 : (Jvm.Cond.classLink "WhalingLogs" (16 : Nat) "java/util/ArrayDeque") ∈ lw_all := lw_g (lw_at lw_m1 157 rfl) rfl
theorem q252 : (Jvm.Cond.methodLink "WhalingLogs" (18 : Nat) ({ cls := "java/util/ArrayDeque", name := "<init>", desc := "()V" } : Jvm.MethodName)) ∈ lw_all := lw_g (lw_at lw_m1 159 rfl) rfl
theorem q268 : (Jvm.Cond.classLink "WhalingLogs" (23 : Nat) "WhalingLogs$Waters") ∈ lw_all := lw_g (lw_at lw_m1 175 rfl) rfl
theorem q270 : (Jvm.Cond.methodLinkNest "WhalingLogs" (25 : Nat) ({ cls := "WhalingLogs$Waters", name := "<init>", desc := "()V" } : Jvm.MethodName) "WhalingLogs") ∈ lw_tbl := lw_at lw_m1 177 rfl
theorem q278 : (Jvm.Cond.classLink "WhalingLogs" (30 : Nat) "WhalingLogs$Listing") ∈ lw_all := lw_g (lw_at lw_m1 185 rfl) rfl
theorem q280 : (Jvm.Cond.methodLinkNest "WhalingLogs" (32 : Nat) ({ cls := "WhalingLogs$Listing", name := "<init>", desc := "()V" } : Jvm.MethodName) "WhalingLogs") ∈ lw_tbl := lw_at lw_m1 187 rfl
theorem q287 : (Jvm.Cond.fieldLinkNest "WhalingLogs" (233 : Nat) "WhalingLogs$Listing" "entries" "[LWhalingLogs$Entry;" "WhalingLogs") ∈ lw_tbl := lw_at lw_m1 194 rfl
theorem q289 : (Jvm.Cond.fieldLinkNest "WhalingLogs" (255 : Nat) "WhalingLogs$Listing" "pages" "[I" "WhalingLogs") ∈ lw_tbl := lw_at lw_m1 196 rfl
theorem q291 : (Jvm.Cond.fieldLinkNest "WhalingLogs" (257 : Nat) "WhalingLogs$Listing" "numbers" "[I" "WhalingLogs") ∈ lw_tbl := lw_at lw_m1 198 rfl
theorem q295 : (Jvm.Cond.fieldLinkNest "WhalingLogs" (313 : Nat) "WhalingLogs$Listing" "track" "[I" "WhalingLogs") ∈ lw_tbl := lw_at lw_m1 202 rfl
theorem q298 : (Jvm.Cond.fieldLinkNest "WhalingLogs" (231 : Nat) "WhalingLogs$Listing" "many" "I" "WhalingLogs") ∈ lw_tbl := lw_at lw_m1 205 rfl
theorem q300 : (Jvm.Cond.fieldLinkNest "WhalingLogs" (308 : Nat) "WhalingLogs$Listing" "tracked" "I" "WhalingLogs") ∈ lw_tbl := lw_at lw_m1 207 rfl
theorem q320 : (Jvm.Cond.classLink "WhalingLogs" (41 : Nat) "java/lang/StringBuilder") ∈ lw_all := lw_g (lw_at lw_m1 227 rfl) rfl
theorem q322 : (Jvm.Cond.methodLink "WhalingLogs" (43 : Nat) ({ cls := "java/lang/StringBuilder", name := "<init>", desc := "()V" } : Jvm.MethodName)) ∈ lw_all := lw_g (lw_at lw_m1 229 rfl) rfl
theorem q353 : (Jvm.Cond.fieldLink "WhalingLogs" (12 : Nat) "WhalingLogs" "archive" "LWhalingLogs$Archive;") ∈ lw_all := lw_g (lw_at lw_m2 20 rfl) rfl
theorem q354 : (Jvm.Cond.fieldLink "WhalingLogs" (389 : Nat) "WhalingLogs" "saved" "LWhalingLogs$Archive;") ∈ lw_all := lw_g (lw_at lw_m2 21 rfl) rfl
theorem q355 : (Jvm.Cond.fieldLink "WhalingLogs" (19 : Nat) "WhalingLogs" "past" "Ljava/util/ArrayDeque;") ∈ lw_all := lw_g (lw_at lw_m2 22 rfl) rfl
theorem q356 : (Jvm.Cond.fieldLink "WhalingLogs" (64 : Nat) "WhalingLogs" "reason" "I") ∈ lw_all := lw_g (lw_at lw_m2 23 rfl) rfl
theorem q357 : (Jvm.Cond.fieldLink "WhalingLogs" (68 : Nat) "WhalingLogs" "detail" "I") ∈ lw_all := lw_g (lw_at lw_m2 24 rfl) rfl
theorem q358 : (Jvm.Cond.fieldLink "WhalingLogs" (26 : Nat) "WhalingLogs" "waters" "LWhalingLogs$Waters;") ∈ lw_all := lw_g (lw_at lw_m2 25 rfl) rfl
theorem q359 : (Jvm.Cond.fieldLink "WhalingLogs" (33 : Nat) "WhalingLogs" "list" "LWhalingLogs$Listing;") ∈ lw_all := lw_g (lw_at lw_m2 26 rfl) rfl
theorem q360 : (Jvm.Cond.fieldLink "WhalingLogs" (37 : Nat) "WhalingLogs" "far" "[I") ∈ lw_all := lw_g (lw_at lw_m2 27 rfl) rfl
theorem q361 : (Jvm.Cond.fieldLink "WhalingLogs" (44 : Nat) "WhalingLogs" "text" "Ljava/lang/StringBuilder;") ∈ lw_all := lw_g (lw_at lw_m2 28 rfl) rfl
theorem q362 : (Jvm.Cond.fieldLink "WhalingLogs" (48 : Nat) "WhalingLogs" "line" "Ljava/lang/StringBuilder;") ∈ lw_all := lw_g (lw_at lw_m2 29 rfl) rfl
theorem q363 : (Jvm.Cond.lays "WhalingLogs" "WhalingLogs" "archive" "LWhalingLogs$Archive;") ∈ lw_all := lw_g (lw_at lw_m2 30 rfl) rfl
theorem q364 : (Jvm.Cond.soleField "WhalingLogs" "archive") ∈ lw_all := lw_g (lw_at lw_m2 31 rfl) rfl
theorem q365 : (Jvm.Cond.lays "WhalingLogs" "WhalingLogs" "saved" "LWhalingLogs$Archive;") ∈ lw_all := lw_g (lw_at lw_m2 32 rfl) rfl
theorem q366 : (Jvm.Cond.soleField "WhalingLogs" "saved") ∈ lw_all := lw_g (lw_at lw_m2 33 rfl) rfl
theorem q367 : (Jvm.Cond.laysFinal "WhalingLogs" "WhalingLogs" "past" "Ljava/util/ArrayDeque;") ∈ lw_all := lw_g (lw_at lw_m2 34 rfl) rfl
theorem q368 : (Jvm.Cond.soleField "WhalingLogs" "past") ∈ lw_all := lw_g (lw_at lw_m2 35 rfl) rfl
theorem q369 : (Jvm.Cond.lays "WhalingLogs" "WhalingLogs" "reason" "I") ∈ lw_all := lw_g (lw_at lw_m2 36 rfl) rfl
theorem q370 : (Jvm.Cond.soleField "WhalingLogs" "reason") ∈ lw_all := lw_g (lw_at lw_m2 37 rfl) rfl
theorem q371 : (Jvm.Cond.lays "WhalingLogs" "WhalingLogs" "detail" "I") ∈ lw_all := lw_g (lw_at lw_m2 38 rfl) rfl
theorem q372 : (Jvm.Cond.soleField "WhalingLogs" "detail") ∈ lw_all := lw_g (lw_at lw_m2 39 rfl) rfl
theorem q373 : (Jvm.Cond.laysFinal "WhalingLogs" "WhalingLogs" "waters" "LWhalingLogs$Waters;") ∈ lw_all := lw_g (lw_at lw_m2 40 rfl) rfl
theorem q374 : (Jvm.Cond.soleField "WhalingLogs" "waters") ∈ lw_all := lw_g (lw_at lw_m2 41 rfl) rfl
theorem q375 : (Jvm.Cond.laysFinal "WhalingLogs" "WhalingLogs" "list" "LWhalingLogs$Listing;") ∈ lw_all := lw_g (lw_at lw_m2 42 rfl) rfl
theorem q376 : (Jvm.Cond.soleField "WhalingLogs" "list") ∈ lw_all := lw_g (lw_at lw_m2 43 rfl) rfl
theorem q377 : (Jvm.Cond.laysFinal "WhalingLogs" "WhalingLogs" "far" "[I") ∈ lw_all := lw_g (lw_at lw_m2 44 rfl) rfl
theorem q378 : (Jvm.Cond.soleField "WhalingLogs" "far") ∈ lw_all := lw_g (lw_at lw_m2 45 rfl) rfl
theorem q379 : (Jvm.Cond.laysFinal "WhalingLogs" "WhalingLogs" "text" "Ljava/lang/StringBuilder;") ∈ lw_all := lw_g (lw_at lw_m2 46 rfl) rfl
theorem q380 : (Jvm.Cond.soleField "WhalingLogs" "text") ∈ lw_all := lw_g (lw_at lw_m2 47 rfl) rfl
theorem q381 : (Jvm.Cond.laysFinal "WhalingLogs" "WhalingLogs" "line" "Ljava/lang/StringBuilder;") ∈ lw_all := lw_g (lw_at lw_m2 48 rfl) rfl
theorem q382 : (Jvm.Cond.soleField "WhalingLogs" "line") ∈ lw_all := lw_g (lw_at lw_m2 49 rfl) rfl
theorem q383 : (Jvm.Cond.superclass "WhalingLogs" "java/lang/Object") ∈ lw_all := lw_g (lw_at lw_m2 50 rfl) rfl
theorem q385 : (Jvm.Cond.instanceMethod ({ cls := "WhalingLogs", name := "land", desc := "(IZ)I" } : Jvm.MethodName)) ∈ lw_all := lw_g (lw_at lw_m2 52 rfl) rfl
theorem q386 : (Jvm.Cond.selects "WhalingLogs" ({ cls := "WhalingLogs", name := "land", desc := "(IZ)I" } : Jvm.MethodName) ({ cls := "WhalingLogs", name := "land", desc := "(IZ)I" } : Jvm.MethodName)) ∈ lw_all := lw_g (lw_at lw_m2 53 rfl) rfl
theorem q387 : (Jvm.Cond.codeWith ({ cls := "WhalingLogs", name := "land", desc := "(IZ)I" } : Jvm.MethodName) prog_1_method_11_code (5 : Nat) (Option.some Jvm.ClassFile.FieldType.int) [((17 : Nat), (32 : Nat), (33 : Nat), (55 : Nat))]) ∈ lw_all := lw_g (lw_at lw_m2 54 rfl) rfl
theorem q388 : (Jvm.Cond.classLink "WhalingLogs" (55 : Nat) "WhalingLogs$Refused") ∈ lw_all := lw_g (lw_at lw_m2 55 rfl) rfl
theorem q389 : (Jvm.Cond.methodLink "WhalingLogs" (107 : Nat) ({ cls := "WhalingLogs", name := "isCell", desc := "(I)Z" } : Jvm.MethodName)) ∈ lw_all := lw_g (lw_at lw_m2 56 rfl) rfl
theorem q390 : (Jvm.Cond.static ({ cls := "WhalingLogs", name := "isCell", desc := "(I)Z" } : Jvm.MethodName)) ∈ lw_all := lw_g (lw_at lw_m2 57 rfl) rfl
theorem q391 : (Jvm.Cond.code ({ cls := "WhalingLogs", name := "isCell", desc := "(I)Z" } : Jvm.MethodName) prog_1_method_3_code (1 : Nat) (Option.some Jvm.ClassFile.FieldType.boolean)) ∈ lw_all := lw_g (lw_at lw_m2 58 rfl) rfl
theorem q392 : (Jvm.Cond.methodLink "WhalingLogs" (51 : Nat) ({ cls := "WhalingLogs", name := "isIn", desc := "(III)Z" } : Jvm.MethodName)) ∈ lw_all := lw_g (lw_at lw_m2 59 rfl) rfl
theorem q393 : (Jvm.Cond.static ({ cls := "WhalingLogs", name := "isIn", desc := "(III)Z" } : Jvm.MethodName)) ∈ lw_all := lw_g (lw_at lw_m2 60 rfl) rfl
theorem q394 : (Jvm.Cond.code ({ cls := "WhalingLogs", name := "isIn", desc := "(III)Z" } : Jvm.MethodName) prog_1_method_2_code (3 : Nat) (Option.some Jvm.ClassFile.FieldType.boolean)) ∈ lw_all := lw_g (lw_at lw_m2 61 rfl) rfl
theorem q395 : (Jvm.Cond.methodLink "WhalingLogs" (111 : Nat) ({ cls := "WhalingLogs$Archive", name := "copy", desc := "()LWhalingLogs$Archive;" } : Jvm.MethodName)) ∈ lw_all := lw_g (lw_at lw_m2 62 rfl) rfl
theorem q670 : (Jvm.Cond.selects "WhalingLogs" ({ cls := "java/lang/Object", name := "getClass", desc := "()Ljava/lang/Class;" } : Jvm.MethodName) ({ cls := "java/lang/Object", name := "getClass", desc := "()Ljava/lang/Class;" } : Jvm.MethodName)) ∈ lw_all := lw_g (lw_at lw_m3 97 rfl) rfl
theorem q963 : (Jvm.Cond.fieldLinkNest "WhalingLogs" (195 : Nat) "WhalingLogs$Page" "ink" "I" "WhalingLogs") ∈ lw_tbl := lw_at lw_m4 150 rfl
theorem q967 : (Jvm.Cond.fieldLinkNest "WhalingLogs" (201 : Nat) "WhalingLogs$Page" "entries" "Ljava/util/ArrayList;" "WhalingLogs") ∈ lw_tbl := lw_at lw_m4 154 rfl
theorem q970 : (Jvm.Cond.fieldLinkNest "WhalingLogs" (198 : Nat) "WhalingLogs$Page" "fade" "I" "WhalingLogs") ∈ lw_tbl := lw_at lw_m4 157 rfl
theorem q993 : (Jvm.Cond.fieldLinkNest "WhalingLogs" (260 : Nat) "WhalingLogs$Entry" "day" "I" "WhalingLogs") ∈ lw_tbl := lw_at lw_m4 180 rfl
theorem q996 : (Jvm.Cond.fieldLinkNest "WhalingLogs" (263 : Nat) "WhalingLogs$Entry" "cell" "I" "WhalingLogs") ∈ lw_tbl := lw_at lw_m4 183 rfl
theorem q999 : (Jvm.Cond.fieldLinkNest "WhalingLogs" (236 : Nat) "WhalingLogs$Entry" "witness" "I" "WhalingLogs") ∈ lw_tbl := lw_at lw_m4 186 rfl
theorem q1004 : (Jvm.Cond.fieldLinkNest "WhalingLogs" (295 : Nat) "WhalingLogs$Entry" "state" "I" "WhalingLogs") ∈ lw_tbl := lw_at lw_m4 191 rfl
theorem q1074 : (Jvm.Cond.methodLink "WhalingLogs" (115 : Nat) ({ cls := "WhalingLogs", name := "becomes", desc := "(LWhalingLogs$Archive;IZ)I" } : Jvm.MethodName)) ∈ lw_all := lw_g (lw_at lw_m5 21 rfl) rfl
theorem q1075 : (Jvm.Cond.privateMethod ({ cls := "WhalingLogs", name := "becomes", desc := "(LWhalingLogs$Archive;IZ)I" } : Jvm.MethodName)) ∈ lw_tbl := lw_at lw_m5 22 rfl
theorem q1076 : (Jvm.Cond.instanceMethod ({ cls := "WhalingLogs", name := "becomes", desc := "(LWhalingLogs$Archive;IZ)I" } : Jvm.MethodName)) ∈ lw_all := lw_g (lw_at lw_m5 23 rfl) rfl
theorem q1077 : (Jvm.Cond.code ({ cls := "WhalingLogs", name := "becomes", desc := "(LWhalingLogs$Archive;IZ)I" } : Jvm.MethodName) prog_1_method_10_code (4 : Nat) (Option.some Jvm.ClassFile.FieldType.int)) ∈ lw_all := lw_g (lw_at lw_m5 24 rfl) rfl
theorem q1078 : (Jvm.Cond.methodLink "WhalingLogs" (81 : Nat) ({ cls := "WhalingLogs$Listing", name := "lists", desc := "(LWhalingLogs$Archive;)LWhalingLogs$Listing;" } : Jvm.MethodName)) ∈ lw_all := lw_g (lw_at lw_m5 25 rfl) rfl
theorem q1094 : (Jvm.Cond.methodLink "WhalingLogs" (99 : Nat) ({ cls := "WhalingLogs$Listing", name := "at", desc := "(I)I" } : Jvm.MethodName)) ∈ lw_all := lw_g (lw_at lw_m5 41 rfl) rfl
theorem q1098 : (Jvm.Cond.methodLink "WhalingLogs" (103 : Nat) ({ cls := "WhalingLogs$Archive", name := "becomes", desc := "(IZI)I" } : Jvm.MethodName)) ∈ lw_all := lw_g (lw_at lw_m5 45 rfl) rfl
theorem q1103 : (Jvm.Cond.static ({ cls := "WhalingLogs", name := "refuse", desc := "(ZII)V" } : Jvm.MethodName)) ∈ lw_all := lw_g (lw_at lw_m5 50 rfl) rfl
theorem q1104 : (Jvm.Cond.code ({ cls := "WhalingLogs", name := "refuse", desc := "(ZII)V" } : Jvm.MethodName) prog_1_method_4_code (3 : Nat) (Option.none : Option Jvm.ClassFile.FieldType)) ∈ lw_all := lw_g (lw_at lw_m5 51 rfl) rfl
theorem q1113 : (Jvm.Cond.methodLink "WhalingLogs" (57 : Nat) ({ cls := "WhalingLogs$Refused", name := "<init>", desc := "(II)V" } : Jvm.MethodName)) ∈ lw_all := lw_g (lw_at lw_m5 60 rfl) rfl
theorem q1123 : (Jvm.Cond.fieldLinkNest "WhalingLogs" (60 : Nat) "WhalingLogs$Refused" "reason" "I" "WhalingLogs") ∈ lw_tbl := lw_at lw_m5 70 rfl
theorem q1125 : (Jvm.Cond.fieldLinkNest "WhalingLogs" (65 : Nat) "WhalingLogs$Refused" "detail" "I" "WhalingLogs") ∈ lw_tbl := lw_at lw_m5 72 rfl
theorem q1163 : (Jvm.Cond.methodLink "WhalingLogs" (118 : Nat) ({ cls := "WhalingLogs", name := "changed", desc := "(LWhalingLogs$Archive;I)I" } : Jvm.MethodName)) ∈ lw_all := lw_g (lw_at lw_m5 110 rfl) rfl
theorem q1164 : (Jvm.Cond.privateMethod ({ cls := "WhalingLogs", name := "changed", desc := "(LWhalingLogs$Archive;I)I" } : Jvm.MethodName)) ∈ lw_tbl := lw_at lw_m5 111 rfl
theorem q1165 : (Jvm.Cond.instanceMethod ({ cls := "WhalingLogs", name := "changed", desc := "(LWhalingLogs$Archive;I)I" } : Jvm.MethodName)) ∈ lw_all := lw_g (lw_at lw_m5 112 rfl) rfl
theorem q1166 : (Jvm.Cond.code ({ cls := "WhalingLogs", name := "changed", desc := "(LWhalingLogs$Archive;I)I" } : Jvm.MethodName) prog_1_method_6_code (3 : Nat) (Option.some Jvm.ClassFile.FieldType.int)) ∈ lw_all := lw_g (lw_at lw_m5 113 rfl) rfl
theorem q1167 : (Jvm.Cond.methodLink "WhalingLogs" (69 : Nat) ({ cls := "java/util/ArrayDeque", name := "addLast", desc := "(Ljava/lang/Object;)V" } : Jvm.MethodName)) ∈ lw_all := lw_g (lw_at lw_m5 114 rfl) rfl
theorem q1186 : (Jvm.Cond.methodLink "WhalingLogs" (73 : Nat) ({ cls := "java/util/ArrayDeque", name := "size", desc := "()I" } : Jvm.MethodName)) ∈ lw_all := lw_g (lw_at lw_m5 133 rfl) rfl
theorem q1193 : (Jvm.Cond.methodLink "WhalingLogs" (77 : Nat) ({ cls := "java/util/ArrayDeque", name := "removeFirst", desc := "()Ljava/lang/Object;" } : Jvm.MethodName)) ∈ lw_all := lw_g (lw_at lw_m5 140 rfl) rfl
theorem q1204 : (Jvm.Cond.methodLink "WhalingLogs" (122 : Nat) ({ cls := "WhalingLogs", name := "refused", desc := "(LWhalingLogs$Refused;)I" } : Jvm.MethodName)) ∈ lw_all := lw_g (lw_at lw_m5 151 rfl) rfl
theorem q1205 : (Jvm.Cond.privateMethod ({ cls := "WhalingLogs", name := "refused", desc := "(LWhalingLogs$Refused;)I" } : Jvm.MethodName)) ∈ lw_tbl := lw_at lw_m5 152 rfl
theorem q1206 : (Jvm.Cond.instanceMethod ({ cls := "WhalingLogs", name := "refused", desc := "(LWhalingLogs$Refused;)I" } : Jvm.MethodName)) ∈ lw_all := lw_g (lw_at lw_m5 153 rfl) rfl
theorem q1207 : (Jvm.Cond.code ({ cls := "WhalingLogs", name := "refused", desc := "(LWhalingLogs$Refused;)I" } : Jvm.MethodName) prog_1_method_5_code (2 : Nat) (Option.some Jvm.ClassFile.FieldType.int)) ∈ lw_all := lw_g (lw_at lw_m5 154 rfl) rfl
theorem q1209 : (Jvm.Cond.instanceMethod ({ cls := "WhalingLogs", name := "set", desc := "(II)I" } : Jvm.MethodName)) ∈ lw_all := lw_g (lw_at lw_m5 156 rfl) rfl
theorem q1210 : (Jvm.Cond.selects "WhalingLogs" ({ cls := "WhalingLogs", name := "set", desc := "(II)I" } : Jvm.MethodName) ({ cls := "WhalingLogs", name := "set", desc := "(II)I" } : Jvm.MethodName)) ∈ lw_all := lw_g (lw_at lw_m5 157 rfl) rfl
theorem q1211 : (Jvm.Cond.code ({ cls := "WhalingLogs", name := "set", desc := "(II)I" } : Jvm.MethodName) prog_1_method_13_code (5 : Nat) (Option.some Jvm.ClassFile.FieldType.int)) ∈ lw_all := lw_g (lw_at lw_m5 158 rfl) rfl
theorem q1212 : (Jvm.Cond.methodLink "WhalingLogs" (126 : Nat) ({ cls := "WhalingLogs", name := "isSpeed", desc := "(I)Z" } : Jvm.MethodName)) ∈ lw_all := lw_g (lw_at lw_m5 159 rfl) rfl
theorem q1213 : (Jvm.Cond.static ({ cls := "WhalingLogs", name := "isSpeed", desc := "(I)Z" } : Jvm.MethodName)) ∈ lw_all := lw_g (lw_at lw_m5 160 rfl) rfl
theorem q1214 : (Jvm.Cond.code ({ cls := "WhalingLogs", name := "isSpeed", desc := "(I)Z" } : Jvm.MethodName) prog_1_method_12_code (1 : Nat) (Option.some Jvm.ClassFile.FieldType.boolean)) ∈ lw_all := lw_g (lw_at lw_m5 161 rfl) rfl
theorem q1216 : (Jvm.Cond.instanceMethod ({ cls := "WhalingLogs", name := "distance", desc := "(II)I" } : Jvm.MethodName)) ∈ lw_all := lw_g (lw_at lw_m5 163 rfl) rfl
theorem q1217 : (Jvm.Cond.selects "WhalingLogs" ({ cls := "WhalingLogs", name := "distance", desc := "(II)I" } : Jvm.MethodName) ({ cls := "WhalingLogs", name := "distance", desc := "(II)I" } : Jvm.MethodName)) ∈ lw_all := lw_g (lw_at lw_m5 164 rfl) rfl
theorem q1218 : (Jvm.Cond.code ({ cls := "WhalingLogs", name := "distance", desc := "(II)I" } : Jvm.MethodName) prog_1_method_15_code (3 : Nat) (Option.some Jvm.ClassFile.FieldType.int)) ∈ lw_all := lw_g (lw_at lw_m5 165 rfl) rfl
theorem q1219 : (Jvm.Cond.methodLink "WhalingLogs" (143 : Nat) ({ cls := "WhalingLogs", name := "distanceOf", desc := "(II)I" } : Jvm.MethodName)) ∈ lw_all := lw_g (lw_at lw_m5 166 rfl) rfl
theorem q1220 : (Jvm.Cond.privateMethod ({ cls := "WhalingLogs", name := "distanceOf", desc := "(II)I" } : Jvm.MethodName)) ∈ lw_tbl := lw_at lw_m5 167 rfl
theorem q1221 : (Jvm.Cond.instanceMethod ({ cls := "WhalingLogs", name := "distanceOf", desc := "(II)I" } : Jvm.MethodName)) ∈ lw_all := lw_g (lw_at lw_m5 168 rfl) rfl
theorem q1222 : (Jvm.Cond.code ({ cls := "WhalingLogs", name := "distanceOf", desc := "(II)I" } : Jvm.MethodName) prog_1_method_14_code (3 : Nat) (Option.some Jvm.ClassFile.FieldType.int)) ∈ lw_all := lw_g (lw_at lw_m5 169 rfl) rfl
theorem q1223 : (Jvm.Cond.methodLink "WhalingLogs" (139 : Nat) ({ cls := "WhalingLogs$Waters", name := "spreads", desc := "(Ljava/util/BitSet;I[II)V" } : Jvm.MethodName)) ∈ lw_all := lw_g (lw_at lw_m5 170 rfl) rfl
theorem q1236 : (Jvm.Cond.constant "WhalingLogs" (142 : Nat) (1048576 : Int32)) ∈ lw_all := lw_g (lw_at lw_m5 183 rfl) rfl
theorem q1238 : (Jvm.Cond.instanceMethod ({ cls := "WhalingLogs", name := "days", desc := "(II)I" } : Jvm.MethodName)) ∈ lw_all := lw_g (lw_at lw_m5 185 rfl) rfl
theorem q1239 : (Jvm.Cond.selects "WhalingLogs" ({ cls := "WhalingLogs", name := "days", desc := "(II)I" } : Jvm.MethodName) ({ cls := "WhalingLogs", name := "days", desc := "(II)I" } : Jvm.MethodName)) ∈ lw_all := lw_g (lw_at lw_m5 186 rfl) rfl
theorem q1240 : (Jvm.Cond.code ({ cls := "WhalingLogs", name := "days", desc := "(II)I" } : Jvm.MethodName) prog_1_method_16_code (4 : Nat) (Option.some Jvm.ClassFile.FieldType.int)) ∈ lw_all := lw_g (lw_at lw_m5 187 rfl) rfl
theorem q1241 : (Jvm.Cond.methodLink "WhalingLogs" (147 : Nat) ({ cls := "WhalingLogs", name := "distance", desc := "(II)I" } : Jvm.MethodName)) ∈ lw_all := lw_g (lw_at lw_m5 188 rfl) rfl
theorem q1243 : (Jvm.Cond.instanceMethod ({ cls := "WhalingLogs", name := "page", desc := "(II)I" } : Jvm.MethodName)) ∈ lw_all := lw_g (lw_at lw_m5 190 rfl) rfl
theorem q1244 : (Jvm.Cond.selects "WhalingLogs" ({ cls := "WhalingLogs", name := "page", desc := "(II)I" } : Jvm.MethodName) ({ cls := "WhalingLogs", name := "page", desc := "(II)I" } : Jvm.MethodName)) ∈ lw_all := lw_g (lw_at lw_m5 191 rfl) rfl
theorem q1245 : (Jvm.Cond.codeWith ({ cls := "WhalingLogs", name := "page", desc := "(II)I" } : Jvm.MethodName) prog_1_method_17_code (5 : Nat) (Option.some Jvm.ClassFile.FieldType.int) [((30 : Nat), (44 : Nat), (45 : Nat), (55 : Nat))]) ∈ lw_all := lw_g (lw_at lw_m5 192 rfl) rfl
theorem q1246 : (Jvm.Cond.methodLink "WhalingLogs" (150 : Nat) ({ cls := "WhalingLogs$Archive", name := "addsPage", desc := "(II)I" } : Jvm.MethodName)) ∈ lw_all := lw_g (lw_at lw_m5 193 rfl) rfl
theorem q1253 : (Jvm.Cond.instanceMethod ({ cls := "WhalingLogs", name := "entry", desc := "(IIII)I" } : Jvm.MethodName)) ∈ lw_all := lw_g (lw_at lw_m5 200 rfl) rfl
theorem q1254 : (Jvm.Cond.selects "WhalingLogs" ({ cls := "WhalingLogs", name := "entry", desc := "(IIII)I" } : Jvm.MethodName) ({ cls := "WhalingLogs", name := "entry", desc := "(IIII)I" } : Jvm.MethodName)) ∈ lw_all := lw_g (lw_at lw_m5 201 rfl) rfl
theorem q1255 : (Jvm.Cond.codeWith ({ cls := "WhalingLogs", name := "entry", desc := "(IIII)I" } : Jvm.MethodName) prog_1_method_18_code (7 : Nat) (Option.some Jvm.ClassFile.FieldType.int) [((9 : Nat), (39 : Nat), (59 : Nat), (55 : Nat)), ((40 : Nat), (58 : Nat), (59 : Nat), (55 : Nat))]) ∈ lw_all := lw_g (lw_at lw_m5 202 rfl) rfl
theorem q1256 : (Jvm.Cond.methodLink "WhalingLogs" (153 : Nat) ({ cls := "WhalingLogs$Archive", name := "checkForEntry", desc := "(II)V" } : Jvm.MethodName)) ∈ lw_all := lw_g (lw_at lw_m5 203 rfl) rfl
theorem q1269 : (Jvm.Cond.methodLink "WhalingLogs" (156 : Nat) ({ cls := "WhalingLogs$Archive", name := "addsEntry", desc := "(IIII)I" } : Jvm.MethodName)) ∈ lw_all := lw_g (lw_at lw_m5 216 rfl) rfl
theorem q1279 : (Jvm.Cond.instanceMethod ({ cls := "WhalingLogs", name := "move", desc := "(II)I" } : Jvm.MethodName)) ∈ lw_all := lw_g (lw_at lw_m5 226 rfl) rfl
theorem q1280 : (Jvm.Cond.selects "WhalingLogs" ({ cls := "WhalingLogs", name := "move", desc := "(II)I" } : Jvm.MethodName) ({ cls := "WhalingLogs", name := "move", desc := "(II)I" } : Jvm.MethodName)) ∈ lw_all := lw_g (lw_at lw_m5 227 rfl) rfl
theorem q1281 : (Jvm.Cond.code ({ cls := "WhalingLogs", name := "move", desc := "(II)I" } : Jvm.MethodName) prog_1_method_19_code (5 : Nat) (Option.some Jvm.ClassFile.FieldType.int)) ∈ lw_all := lw_g (lw_at lw_m5 228 rfl) rfl
theorem q1282 : (Jvm.Cond.methodLink "WhalingLogs" (160 : Nat) ({ cls := "WhalingLogs$Archive", name := "isPage", desc := "(I)Z" } : Jvm.MethodName)) ∈ lw_all := lw_g (lw_at lw_m5 229 rfl) rfl
theorem q1283 : (Jvm.Cond.methodLink "WhalingLogs" (167 : Nat) ({ cls := "java/util/LinkedList", name := "remove", desc := "(I)Ljava/lang/Object;" } : Jvm.MethodName)) ∈ lw_all := lw_g (lw_at lw_m5 230 rfl) rfl
theorem q1291 : (Jvm.Cond.classLink "WhalingLogs" (173 : Nat) "WhalingLogs$Page") ∈ lw_all := lw_g (lw_at lw_m5 238 rfl) rfl
theorem q1292 : (Jvm.Cond.methodLink "WhalingLogs" (175 : Nat) ({ cls := "java/util/LinkedList", name := "add", desc := "(ILjava/lang/Object;)V" } : Jvm.MethodName)) ∈ lw_all := lw_g (lw_at lw_m5 239 rfl) rfl
theorem q1300 : (Jvm.Cond.methodLink "WhalingLogs" (85 : Nat) ({ cls := "WhalingLogs", name := "listed", desc := "()LWhalingLogs$Listing;" } : Jvm.MethodName)) ∈ lw_all := lw_g (lw_at lw_m6 7 rfl) rfl
theorem q1301 : (Jvm.Cond.privateMethod ({ cls := "WhalingLogs", name := "listed", desc := "()LWhalingLogs$Listing;" } : Jvm.MethodName)) ∈ lw_tbl := lw_at lw_m6 8 rfl
theorem q1302 : (Jvm.Cond.instanceMethod ({ cls := "WhalingLogs", name := "listed", desc := "()LWhalingLogs$Listing;" } : Jvm.MethodName)) ∈ lw_all := lw_g (lw_at lw_m6 9 rfl) rfl
theorem q1303 : (Jvm.Cond.code ({ cls := "WhalingLogs", name := "listed", desc := "()LWhalingLogs$Listing;" } : Jvm.MethodName) prog_1_method_7_code (1 : Nat) (Option.some (Jvm.ClassFile.FieldType.object "WhalingLogs$Listing"))) ∈ lw_all := lw_g (lw_at lw_m6 10 rfl) rfl
theorem q1304 : (Jvm.Cond.methodLink "WhalingLogs" (179 : Nat) ({ cls := "WhalingLogs$Listing", name := "crossings", desc := "()I" } : Jvm.MethodName)) ∈ lw_all := lw_g (lw_at lw_m6 11 rfl) rfl
theorem q1309 : (Jvm.Cond.instanceMethod ({ cls := "WhalingLogs", name := "drop", desc := "(I)I" } : Jvm.MethodName)) ∈ lw_all := lw_g (lw_at lw_m6 16 rfl) rfl
theorem q1310 : (Jvm.Cond.selects "WhalingLogs" ({ cls := "WhalingLogs", name := "drop", desc := "(I)I" } : Jvm.MethodName) ({ cls := "WhalingLogs", name := "drop", desc := "(I)I" } : Jvm.MethodName)) ∈ lw_all := lw_g (lw_at lw_m6 17 rfl) rfl
theorem q1311 : (Jvm.Cond.code ({ cls := "WhalingLogs", name := "drop", desc := "(I)I" } : Jvm.MethodName) prog_1_method_20_code (4 : Nat) (Option.some Jvm.ClassFile.FieldType.int)) ∈ lw_all := lw_g (lw_at lw_m6 18 rfl) rfl
theorem q1312 : (Jvm.Cond.methodLink "WhalingLogs" (182 : Nat) ({ cls := "java/util/LinkedList", name := "size", desc := "()I" } : Jvm.MethodName)) ∈ lw_all := lw_g (lw_at lw_m6 19 rfl) rfl
theorem q1314 : (Jvm.Cond.instanceMethod ({ cls := "WhalingLogs", name := "read", desc := "(II)I" } : Jvm.MethodName)) ∈ lw_all := lw_g (lw_at lw_m6 21 rfl) rfl
theorem q1315 : (Jvm.Cond.selects "WhalingLogs" ({ cls := "WhalingLogs", name := "read", desc := "(II)I" } : Jvm.MethodName) ({ cls := "WhalingLogs", name := "read", desc := "(II)I" } : Jvm.MethodName)) ∈ lw_all := lw_g (lw_at lw_m6 22 rfl) rfl
theorem q1316 : (Jvm.Cond.codeWith ({ cls := "WhalingLogs", name := "read", desc := "(II)I" } : Jvm.MethodName) prog_1_method_21_code (5 : Nat) (Option.some Jvm.ClassFile.FieldType.int) [((8 : Nat), (22 : Nat), (23 : Nat), (55 : Nat))]) ∈ lw_all := lw_g (lw_at lw_m6 23 rfl) rfl
theorem q1317 : (Jvm.Cond.methodLink "WhalingLogs" (183 : Nat) ({ cls := "WhalingLogs$Archive", name := "readsPage", desc := "(II)I" } : Jvm.MethodName)) ∈ lw_all := lw_g (lw_at lw_m6 24 rfl) rfl
theorem q1343 : (Jvm.Cond.instanceMethod ({ cls := "WhalingLogs", name := "strike", desc := "(II)I" } : Jvm.MethodName)) ∈ lw_all := lw_g (lw_at lw_m6 50 rfl) rfl
theorem q1344 : (Jvm.Cond.selects "WhalingLogs" ({ cls := "WhalingLogs", name := "strike", desc := "(II)I" } : Jvm.MethodName) ({ cls := "WhalingLogs", name := "strike", desc := "(II)I" } : Jvm.MethodName)) ∈ lw_all := lw_g (lw_at lw_m6 51 rfl) rfl
theorem q1345 : (Jvm.Cond.codeWith ({ cls := "WhalingLogs", name := "strike", desc := "(II)I" } : Jvm.MethodName) prog_1_method_22_code (5 : Nat) (Option.some Jvm.ClassFile.FieldType.int) [((8 : Nat), (22 : Nat), (23 : Nat), (55 : Nat))]) ∈ lw_all := lw_g (lw_at lw_m6 52 rfl) rfl
theorem q1346 : (Jvm.Cond.methodLink "WhalingLogs" (186 : Nat) ({ cls := "WhalingLogs$Archive", name := "strikes", desc := "(II)I" } : Jvm.MethodName)) ∈ lw_all := lw_g (lw_at lw_m6 53 rfl) rfl
theorem q1360 : (Jvm.Cond.instanceMethod ({ cls := "WhalingLogs", name := "blame", desc := "(I)I" } : Jvm.MethodName)) ∈ lw_all := lw_g (lw_at lw_m6 67 rfl) rfl
theorem q1361 : (Jvm.Cond.selects "WhalingLogs" ({ cls := "WhalingLogs", name := "blame", desc := "(I)I" } : Jvm.MethodName) ({ cls := "WhalingLogs", name := "blame", desc := "(I)I" } : Jvm.MethodName)) ∈ lw_all := lw_g (lw_at lw_m6 68 rfl) rfl
theorem q1362 : (Jvm.Cond.codeWith ({ cls := "WhalingLogs", name := "blame", desc := "(I)I" } : Jvm.MethodName) prog_1_method_23_code (4 : Nat) (Option.some Jvm.ClassFile.FieldType.int) [((8 : Nat), (21 : Nat), (22 : Nat), (55 : Nat))]) ∈ lw_all := lw_g (lw_at lw_m6 69 rfl) rfl
theorem q1363 : (Jvm.Cond.methodLink "WhalingLogs" (189 : Nat) ({ cls := "WhalingLogs$Archive", name := "blames", desc := "(I)I" } : Jvm.MethodName)) ∈ lw_all := lw_g (lw_at lw_m6 70 rfl) rfl
theorem q1372 : (Jvm.Cond.instanceMethod ({ cls := "WhalingLogs", name := "pageOf", desc := "(II)I" } : Jvm.MethodName)) ∈ lw_all := lw_g (lw_at lw_m6 79 rfl) rfl
theorem q1373 : (Jvm.Cond.selects "WhalingLogs" ({ cls := "WhalingLogs", name := "pageOf", desc := "(II)I" } : Jvm.MethodName) ({ cls := "WhalingLogs", name := "pageOf", desc := "(II)I" } : Jvm.MethodName)) ∈ lw_all := lw_g (lw_at lw_m6 80 rfl) rfl
theorem q1374 : (Jvm.Cond.code ({ cls := "WhalingLogs", name := "pageOf", desc := "(II)I" } : Jvm.MethodName) prog_1_method_25_code (4 : Nat) (Option.some Jvm.ClassFile.FieldType.int)) ∈ lw_all := lw_g (lw_at lw_m6 81 rfl) rfl
theorem q1375 : (Jvm.Cond.methodLink "WhalingLogs" (192 : Nat) ({ cls := "java/util/LinkedList", name := "get", desc := "(I)Ljava/lang/Object;" } : Jvm.MethodName)) ∈ lw_all := lw_g (lw_at lw_m6 82 rfl) rfl
theorem q1376 : (Jvm.Cond.methodLink "WhalingLogs" (205 : Nat) ({ cls := "java/util/ArrayList", name := "size", desc := "()I" } : Jvm.MethodName)) ∈ lw_all := lw_g (lw_at lw_m6 83 rfl) rfl
theorem q1377 : (Jvm.Cond.methodLink "WhalingLogs" (208 : Nat) ({ cls := "WhalingLogs$Page", name := "many", desc := "(I)I" } : Jvm.MethodName)) ∈ lw_all := lw_g (lw_at lw_m6 84 rfl) rfl
theorem q1378 : (Jvm.Cond.methodLink "WhalingLogs" (211 : Nat) ({ cls := "WhalingLogs$Archive", name := "rays", desc := "(LWhalingLogs$Page;)I" } : Jvm.MethodName)) ∈ lw_all := lw_g (lw_at lw_m6 85 rfl) rfl
theorem q1382 : (Jvm.Cond.methodLink "WhalingLogs" (215 : Nat) ({ cls := "WhalingLogs", name := "leastOf", desc := "(I)I" } : Jvm.MethodName)) ∈ lw_all := lw_g (lw_at lw_m6 89 rfl) rfl
theorem q1383 : (Jvm.Cond.static ({ cls := "WhalingLogs", name := "leastOf", desc := "(I)I" } : Jvm.MethodName)) ∈ lw_all := lw_g (lw_at lw_m6 90 rfl) rfl
theorem q1384 : (Jvm.Cond.code ({ cls := "WhalingLogs", name := "leastOf", desc := "(I)I" } : Jvm.MethodName) prog_1_method_24_code (2 : Nat) (Option.some Jvm.ClassFile.FieldType.int)) ∈ lw_all := lw_g (lw_at lw_m6 91 rfl) rfl
theorem q1386 : (Jvm.Cond.instanceMethod ({ cls := "WhalingLogs", name := "entryOf", desc := "(III)I" } : Jvm.MethodName)) ∈ lw_all := lw_g (lw_at lw_m6 93 rfl) rfl
theorem q1387 : (Jvm.Cond.selects "WhalingLogs" ({ cls := "WhalingLogs", name := "entryOf", desc := "(III)I" } : Jvm.MethodName) ({ cls := "WhalingLogs", name := "entryOf", desc := "(III)I" } : Jvm.MethodName)) ∈ lw_all := lw_g (lw_at lw_m6 94 rfl) rfl
theorem q1388 : (Jvm.Cond.code ({ cls := "WhalingLogs", name := "entryOf", desc := "(III)I" } : Jvm.MethodName) prog_1_method_26_code (4 : Nat) (Option.some Jvm.ClassFile.FieldType.int)) ∈ lw_all := lw_g (lw_at lw_m6 95 rfl) rfl
theorem q1389 : (Jvm.Cond.methodLink "WhalingLogs" (218 : Nat) ({ cls := "WhalingLogs$Archive", name := "isEntry", desc := "(II)Z" } : Jvm.MethodName)) ∈ lw_all := lw_g (lw_at lw_m6 96 rfl) rfl
theorem q1390 : (Jvm.Cond.methodLink "WhalingLogs" (222 : Nat) ({ cls := "java/util/ArrayList", name := "get", desc := "(I)Ljava/lang/Object;" } : Jvm.MethodName)) ∈ lw_all := lw_g (lw_at lw_m6 97 rfl) rfl
theorem q1391 : (Jvm.Cond.classLink "WhalingLogs" (223 : Nat) "WhalingLogs$Entry") ∈ lw_all := lw_g (lw_at lw_m6 98 rfl) rfl
theorem q1392 : (Jvm.Cond.methodLink "WhalingLogs" (225 : Nat) ({ cls := "WhalingLogs$Entry", name := "number", desc := "(I)I" } : Jvm.MethodName)) ∈ lw_all := lw_g (lw_at lw_m6 99 rfl) rfl
theorem q1397 : (Jvm.Cond.instanceMethod ({ cls := "WhalingLogs", name := "witnessOf", desc := "(II)I" } : Jvm.MethodName)) ∈ lw_all := lw_g (lw_at lw_m6 104 rfl) rfl
theorem q1398 : (Jvm.Cond.selects "WhalingLogs" ({ cls := "WhalingLogs", name := "witnessOf", desc := "(II)I" } : Jvm.MethodName) ({ cls := "WhalingLogs", name := "witnessOf", desc := "(II)I" } : Jvm.MethodName)) ∈ lw_all := lw_g (lw_at lw_m6 105 rfl) rfl
theorem q1399 : (Jvm.Cond.code ({ cls := "WhalingLogs", name := "witnessOf", desc := "(II)I" } : Jvm.MethodName) prog_1_method_28_code (3 : Nat) (Option.some Jvm.ClassFile.FieldType.int)) ∈ lw_all := lw_g (lw_at lw_m6 106 rfl) rfl
theorem q1400 : (Jvm.Cond.methodLink "WhalingLogs" (245 : Nat) ({ cls := "WhalingLogs$Archive", name := "weight", desc := "(I)I" } : Jvm.MethodName)) ∈ lw_all := lw_g (lw_at lw_m6 107 rfl) rfl
theorem q1401 : (Jvm.Cond.methodLink "WhalingLogs" (248 : Nat) ({ cls := "WhalingLogs", name := "knownOf", desc := "(IZ)I" } : Jvm.MethodName)) ∈ lw_all := lw_g (lw_at lw_m6 108 rfl) rfl
theorem q1402 : (Jvm.Cond.privateMethod ({ cls := "WhalingLogs", name := "knownOf", desc := "(IZ)I" } : Jvm.MethodName)) ∈ lw_tbl := lw_at lw_m6 109 rfl
theorem q1403 : (Jvm.Cond.instanceMethod ({ cls := "WhalingLogs", name := "knownOf", desc := "(IZ)I" } : Jvm.MethodName)) ∈ lw_all := lw_g (lw_at lw_m6 110 rfl) rfl
theorem q1404 : (Jvm.Cond.code ({ cls := "WhalingLogs", name := "knownOf", desc := "(IZ)I" } : Jvm.MethodName) prog_1_method_27_code (6 : Nat) (Option.some Jvm.ClassFile.FieldType.int)) ∈ lw_all := lw_g (lw_at lw_m6 111 rfl) rfl
theorem q1405 : (Jvm.Cond.methodLink "WhalingLogs" (228 : Nat) ({ cls := "WhalingLogs", name := "tracked", desc := "()LWhalingLogs$Listing;" } : Jvm.MethodName)) ∈ lw_all := lw_g (lw_at lw_m6 112 rfl) rfl
theorem q1406 : (Jvm.Cond.privateMethod ({ cls := "WhalingLogs", name := "tracked", desc := "()LWhalingLogs$Listing;" } : Jvm.MethodName)) ∈ lw_tbl := lw_at lw_m6 113 rfl
theorem q1407 : (Jvm.Cond.instanceMethod ({ cls := "WhalingLogs", name := "tracked", desc := "()LWhalingLogs$Listing;" } : Jvm.MethodName)) ∈ lw_all := lw_g (lw_at lw_m6 114 rfl) rfl
theorem q1408 : (Jvm.Cond.code ({ cls := "WhalingLogs", name := "tracked", desc := "()LWhalingLogs$Listing;" } : Jvm.MethodName) prog_1_method_9_code (1 : Nat) (Option.some (Jvm.ClassFile.FieldType.object "WhalingLogs$Listing"))) ∈ lw_all := lw_g (lw_at lw_m6 115 rfl) rfl
theorem q1409 : (Jvm.Cond.methodLink "WhalingLogs" (93 : Nat) ({ cls := "WhalingLogs", name := "spread", desc := "()LWhalingLogs$Listing;" } : Jvm.MethodName)) ∈ lw_all := lw_g (lw_at lw_m6 116 rfl) rfl
theorem q1410 : (Jvm.Cond.privateMethod ({ cls := "WhalingLogs", name := "spread", desc := "()LWhalingLogs$Listing;" } : Jvm.MethodName)) ∈ lw_tbl := lw_at lw_m6 117 rfl
theorem q1411 : (Jvm.Cond.instanceMethod ({ cls := "WhalingLogs", name := "spread", desc := "()LWhalingLogs$Listing;" } : Jvm.MethodName)) ∈ lw_all := lw_g (lw_at lw_m6 118 rfl) rfl
theorem q1412 : (Jvm.Cond.code ({ cls := "WhalingLogs", name := "spread", desc := "()LWhalingLogs$Listing;" } : Jvm.MethodName) prog_1_method_8_code (1 : Nat) (Option.some (Jvm.ClassFile.FieldType.object "WhalingLogs$Listing"))) ∈ lw_all := lw_g (lw_at lw_m6 119 rfl) rfl
theorem q1413 : (Jvm.Cond.methodLink "WhalingLogs" (89 : Nat) ({ cls := "WhalingLogs$Listing", name := "spreads", desc := "(LWhalingLogs$Waters;)LWhalingLogs$Listing;" } : Jvm.MethodName)) ∈ lw_all := lw_g (lw_at lw_m6 120 rfl) rfl
theorem q1418 : (Jvm.Cond.methodLink "WhalingLogs" (96 : Nat) ({ cls := "WhalingLogs$Listing", name := "tracks", desc := "()LWhalingLogs$Listing;" } : Jvm.MethodName)) ∈ lw_all := lw_g (lw_at lw_m6 125 rfl) rfl
theorem q1445 : (Jvm.Cond.methodLink "WhalingLogs" (239 : Nat) ({ cls := "WhalingLogs$Listing", name := "isOnTrack", desc := "(I)Z" } : Jvm.MethodName)) ∈ lw_all := lw_g (lw_at lw_m6 152 rfl) rfl
theorem q1450 : (Jvm.Cond.instanceMethod ({ cls := "WhalingLogs", name := "listed", desc := "(II)I" } : Jvm.MethodName)) ∈ lw_all := lw_g (lw_at lw_m6 157 rfl) rfl
theorem q1451 : (Jvm.Cond.selects "WhalingLogs" ({ cls := "WhalingLogs", name := "listed", desc := "(II)I" } : Jvm.MethodName) ({ cls := "WhalingLogs", name := "listed", desc := "(II)I" } : Jvm.MethodName)) ∈ lw_all := lw_g (lw_at lw_m6 158 rfl) rfl
theorem q1452 : (Jvm.Cond.code ({ cls := "WhalingLogs", name := "listed", desc := "(II)I" } : Jvm.MethodName) prog_1_method_29_code (4 : Nat) (Option.some Jvm.ClassFile.FieldType.int)) ∈ lw_all := lw_g (lw_at lw_m6 159 rfl) rfl
theorem q1453 : (Jvm.Cond.methodLink "WhalingLogs" (252 : Nat) ({ cls := "WhalingLogs$Listing", name := "isPlace", desc := "(I)Z" } : Jvm.MethodName)) ∈ lw_all := lw_g (lw_at lw_m6 160 rfl) rfl
theorem q1459 : (Jvm.Cond.instanceMethod ({ cls := "WhalingLogs", name := "canBoth", desc := "(II)I" } : Jvm.MethodName)) ∈ lw_all := lw_g (lw_at lw_m6 166 rfl) rfl
theorem q1460 : (Jvm.Cond.selects "WhalingLogs" ({ cls := "WhalingLogs", name := "canBoth", desc := "(II)I" } : Jvm.MethodName) ({ cls := "WhalingLogs", name := "canBoth", desc := "(II)I" } : Jvm.MethodName)) ∈ lw_all := lw_g (lw_at lw_m6 167 rfl) rfl
theorem q1461 : (Jvm.Cond.code ({ cls := "WhalingLogs", name := "canBoth", desc := "(II)I" } : Jvm.MethodName) prog_1_method_30_code (4 : Nat) (Option.some Jvm.ClassFile.FieldType.int)) ∈ lw_all := lw_g (lw_at lw_m6 168 rfl) rfl
theorem q1462 : (Jvm.Cond.methodLink "WhalingLogs" (266 : Nat) ({ cls := "WhalingLogs$Listing", name := "canBoth", desc := "(II)Z" } : Jvm.MethodName)) ∈ lw_all := lw_g (lw_at lw_m6 169 rfl) rfl
theorem q1464 : (Jvm.Cond.instanceMethod ({ cls := "WhalingLogs", name := "conflicts", desc := "()I" } : Jvm.MethodName)) ∈ lw_all := lw_g (lw_at lw_m6 171 rfl) rfl
theorem q1465 : (Jvm.Cond.selects "WhalingLogs" ({ cls := "WhalingLogs", name := "conflicts", desc := "()I" } : Jvm.MethodName) ({ cls := "WhalingLogs", name := "conflicts", desc := "()I" } : Jvm.MethodName)) ∈ lw_all := lw_g (lw_at lw_m6 172 rfl) rfl
theorem q1466 : (Jvm.Cond.code ({ cls := "WhalingLogs", name := "conflicts", desc := "()I" } : Jvm.MethodName) prog_1_method_31_code (1 : Nat) (Option.some Jvm.ClassFile.FieldType.int)) ∈ lw_all := lw_g (lw_at lw_m6 173 rfl) rfl
theorem q1467 : (Jvm.Cond.methodLink "WhalingLogs" (269 : Nat) ({ cls := "WhalingLogs$Listing", name := "conflicts", desc := "()I" } : Jvm.MethodName)) ∈ lw_all := lw_g (lw_at lw_m6 174 rfl) rfl
theorem q1476 : (Jvm.Cond.instanceMethod ({ cls := "WhalingLogs", name := "worst", desc := "()I" } : Jvm.MethodName)) ∈ lw_all := lw_g (lw_at lw_m6 183 rfl) rfl
theorem q1477 : (Jvm.Cond.selects "WhalingLogs" ({ cls := "WhalingLogs", name := "worst", desc := "()I" } : Jvm.MethodName) ({ cls := "WhalingLogs", name := "worst", desc := "()I" } : Jvm.MethodName)) ∈ lw_all := lw_g (lw_at lw_m6 184 rfl) rfl
theorem q1478 : (Jvm.Cond.code ({ cls := "WhalingLogs", name := "worst", desc := "()I" } : Jvm.MethodName) prog_1_method_33_code (1 : Nat) (Option.some Jvm.ClassFile.FieldType.int)) ∈ lw_all := lw_g (lw_at lw_m6 185 rfl) rfl
theorem q1479 : (Jvm.Cond.methodLink "WhalingLogs" (272 : Nat) ({ cls := "WhalingLogs$Listing", name := "worst", desc := "()I" } : Jvm.MethodName)) ∈ lw_all := lw_g (lw_at lw_m6 186 rfl) rfl
theorem q1484 : (Jvm.Cond.methodLink "WhalingLogs" (275 : Nat) ({ cls := "WhalingLogs", name := "orNothing", desc := "(I)I" } : Jvm.MethodName)) ∈ lw_all := lw_g (lw_at lw_m6 191 rfl) rfl
theorem q1485 : (Jvm.Cond.static ({ cls := "WhalingLogs", name := "orNothing", desc := "(I)I" } : Jvm.MethodName)) ∈ lw_all := lw_g (lw_at lw_m6 192 rfl) rfl
theorem q1486 : (Jvm.Cond.code ({ cls := "WhalingLogs", name := "orNothing", desc := "(I)I" } : Jvm.MethodName) prog_1_method_32_code (1 : Nat) (Option.some Jvm.ClassFile.FieldType.int)) ∈ lw_all := lw_g (lw_at lw_m6 193 rfl) rfl
theorem q1488 : (Jvm.Cond.instanceMethod ({ cls := "WhalingLogs", name := "crossings", desc := "()I" } : Jvm.MethodName)) ∈ lw_all := lw_g (lw_at lw_m6 195 rfl) rfl
theorem q1489 : (Jvm.Cond.selects "WhalingLogs" ({ cls := "WhalingLogs", name := "crossings", desc := "()I" } : Jvm.MethodName) ({ cls := "WhalingLogs", name := "crossings", desc := "()I" } : Jvm.MethodName)) ∈ lw_all := lw_g (lw_at lw_m6 196 rfl) rfl
theorem q1490 : (Jvm.Cond.code ({ cls := "WhalingLogs", name := "crossings", desc := "()I" } : Jvm.MethodName) prog_1_method_34_code (1 : Nat) (Option.some Jvm.ClassFile.FieldType.int)) ∈ lw_all := lw_g (lw_at lw_m6 197 rfl) rfl
theorem q1492 : (Jvm.Cond.instanceMethod ({ cls := "WhalingLogs", name := "crossingsAgain", desc := "()I" } : Jvm.MethodName)) ∈ lw_all := lw_g (lw_at lw_m6 199 rfl) rfl
theorem q1493 : (Jvm.Cond.selects "WhalingLogs" ({ cls := "WhalingLogs", name := "crossingsAgain", desc := "()I" } : Jvm.MethodName) ({ cls := "WhalingLogs", name := "crossingsAgain", desc := "()I" } : Jvm.MethodName)) ∈ lw_all := lw_g (lw_at lw_m6 200 rfl) rfl
theorem q1494 : (Jvm.Cond.code ({ cls := "WhalingLogs", name := "crossingsAgain", desc := "()I" } : Jvm.MethodName) prog_1_method_37_code (7 : Nat) (Option.some Jvm.ClassFile.FieldType.int)) ∈ lw_all := lw_g (lw_at lw_m6 201 rfl) rfl
theorem q1495 : (Jvm.Cond.classLink "WhalingLogs" (168 : Nat) "java/util/LinkedList") ∈ lw_all := lw_g (lw_at lw_m6 202 rfl) rfl
theorem q1496 : (Jvm.Cond.methodLink "WhalingLogs" (291 : Nat) ({ cls := "java/util/LinkedList", name := "<init>", desc := "()V" } : Jvm.MethodName)) ∈ lw_all := lw_g (lw_at lw_m6 203 rfl) rfl
theorem q1497 : (Jvm.Cond.methodLink "WhalingLogs" (292 : Nat) ({ cls := "java/util/LinkedList", name := "iterator", desc := "()Ljava/util/Iterator;" } : Jvm.MethodName)) ∈ lw_all := lw_g (lw_at lw_m6 204 rfl) rfl
theorem q1498 : (Jvm.Cond.interfaceEntry "WhalingLogs" (282 : Nat)) ∈ lw_tbl := lw_at lw_m6 205 rfl
theorem q1499 : (Jvm.Cond.methodLink "WhalingLogs" (282 : Nat) ({ cls := "java/util/Iterator", name := "hasNext", desc := "()Z" } : Jvm.MethodName)) ∈ lw_all := lw_g (lw_at lw_m6 206 rfl) rfl
theorem q1500 : (Jvm.Cond.interfaceEntry "WhalingLogs" (288 : Nat)) ∈ lw_tbl := lw_at lw_m6 207 rfl
theorem q1501 : (Jvm.Cond.methodLink "WhalingLogs" (288 : Nat) ({ cls := "java/util/Iterator", name := "next", desc := "()Ljava/lang/Object;" } : Jvm.MethodName)) ∈ lw_all := lw_g (lw_at lw_m6 208 rfl) rfl
theorem q1502 : (Jvm.Cond.methodLink "WhalingLogs" (298 : Nat) ({ cls := "WhalingLogs", name := "later", desc := "(Ljava/util/LinkedList;LWhalingLogs$Entry;)I" } : Jvm.MethodName)) ∈ lw_all := lw_g (lw_at lw_m6 209 rfl) rfl
theorem q1503 : (Jvm.Cond.static ({ cls := "WhalingLogs", name := "later", desc := "(Ljava/util/LinkedList;LWhalingLogs$Entry;)I" } : Jvm.MethodName)) ∈ lw_all := lw_g (lw_at lw_m6 210 rfl) rfl
theorem q1504 : (Jvm.Cond.code ({ cls := "WhalingLogs", name := "later", desc := "(Ljava/util/LinkedList;LWhalingLogs$Entry;)I" } : Jvm.MethodName) prog_1_method_36_code (4 : Nat) (Option.some Jvm.ClassFile.FieldType.int)) ∈ lw_all := lw_g (lw_at lw_m6 211 rfl) rfl
theorem q1505 : (Jvm.Cond.methodLink "WhalingLogs" (278 : Nat) ({ cls := "java/util/LinkedList", name := "descendingIterator", desc := "()Ljava/util/Iterator;" } : Jvm.MethodName)) ∈ lw_all := lw_g (lw_at lw_m6 212 rfl) rfl
theorem q1525 : (Jvm.Cond.methodLink "WhalingLogs" (302 : Nat) ({ cls := "WhalingLogs", name := "passes", desc := "(Ljava/util/LinkedList;LWhalingLogs$Entry;)I" } : Jvm.MethodName)) ∈ lw_all := lw_g (lw_at lw_m6 232 rfl) rfl
theorem q1526 : (Jvm.Cond.static ({ cls := "WhalingLogs", name := "passes", desc := "(Ljava/util/LinkedList;LWhalingLogs$Entry;)I" } : Jvm.MethodName)) ∈ lw_all := lw_g (lw_at lw_m6 233 rfl) rfl
theorem q1527 : (Jvm.Cond.code ({ cls := "WhalingLogs", name := "passes", desc := "(Ljava/util/LinkedList;LWhalingLogs$Entry;)I" } : Jvm.MethodName) prog_1_method_35_code (4 : Nat) (Option.some Jvm.ClassFile.FieldType.int)) ∈ lw_all := lw_g (lw_at lw_m6 234 rfl) rfl
theorem q1529 : (Jvm.Cond.instanceMethod ({ cls := "WhalingLogs", name := "track", desc := "(I)I" } : Jvm.MethodName)) ∈ lw_all := lw_g (lw_at lw_m6 236 rfl) rfl
theorem q1530 : (Jvm.Cond.selects "WhalingLogs" ({ cls := "WhalingLogs", name := "track", desc := "(I)I" } : Jvm.MethodName) ({ cls := "WhalingLogs", name := "track", desc := "(I)I" } : Jvm.MethodName)) ∈ lw_all := lw_g (lw_at lw_m6 237 rfl) rfl
theorem q1531 : (Jvm.Cond.code ({ cls := "WhalingLogs", name := "track", desc := "(I)I" } : Jvm.MethodName) prog_1_method_38_code (3 : Nat) (Option.some Jvm.ClassFile.FieldType.int)) ∈ lw_all := lw_g (lw_at lw_m6 238 rfl) rfl
theorem q1532 : (Jvm.Cond.methodLink "WhalingLogs" (305 : Nat) ({ cls := "WhalingLogs$Listing", name := "weightOfTrack", desc := "()I" } : Jvm.MethodName)) ∈ lw_all := lw_g (lw_at lw_m6 239 rfl) rfl
theorem q1536 : (Jvm.Cond.methodLink "WhalingLogs" (310 : Nat) ({ cls := "WhalingLogs$Listing", name := "stepsOfTrack", desc := "()I" } : Jvm.MethodName)) ∈ lw_all := lw_g (lw_at lw_m7 3 rfl) rfl
theorem q1541 : (Jvm.Cond.instanceMethod ({ cls := "WhalingLogs", name := "trackAt", desc := "(I)I" } : Jvm.MethodName)) ∈ lw_all := lw_g (lw_at lw_m7 8 rfl) rfl
theorem q1542 : (Jvm.Cond.selects "WhalingLogs" ({ cls := "WhalingLogs", name := "trackAt", desc := "(I)I" } : Jvm.MethodName) ({ cls := "WhalingLogs", name := "trackAt", desc := "(I)I" } : Jvm.MethodName)) ∈ lw_all := lw_g (lw_at lw_m7 9 rfl) rfl
theorem q1543 : (Jvm.Cond.code ({ cls := "WhalingLogs", name := "trackAt", desc := "(I)I" } : Jvm.MethodName) prog_1_method_39_code (3 : Nat) (Option.some Jvm.ClassFile.FieldType.int)) ∈ lw_all := lw_g (lw_at lw_m7 10 rfl) rfl
theorem q1545 : (Jvm.Cond.instanceMethod ({ cls := "WhalingLogs", name := "weightAgain", desc := "()I" } : Jvm.MethodName)) ∈ lw_all := lw_g (lw_at lw_m7 12 rfl) rfl
theorem q1546 : (Jvm.Cond.selects "WhalingLogs" ({ cls := "WhalingLogs", name := "weightAgain", desc := "()I" } : Jvm.MethodName) ({ cls := "WhalingLogs", name := "weightAgain", desc := "()I" } : Jvm.MethodName)) ∈ lw_all := lw_g (lw_at lw_m7 13 rfl) rfl
theorem q1547 : (Jvm.Cond.code ({ cls := "WhalingLogs", name := "weightAgain", desc := "()I" } : Jvm.MethodName) prog_1_method_40_code (2 : Nat) (Option.some Jvm.ClassFile.FieldType.int)) ∈ lw_all := lw_g (lw_at lw_m7 14 rfl) rfl
theorem q1548 : (Jvm.Cond.methodLink "WhalingLogs" (316 : Nat) ({ cls := "WhalingLogs$Listing", name := "heaviest", desc := "()I" } : Jvm.MethodName)) ∈ lw_all := lw_g (lw_at lw_m7 15 rfl) rfl
theorem q1561 : (Jvm.Cond.instanceMethod ({ cls := "WhalingLogs", name := "could", desc := "(II)I" } : Jvm.MethodName)) ∈ lw_all := lw_g (lw_at lw_m7 28 rfl) rfl
theorem q1562 : (Jvm.Cond.selects "WhalingLogs" ({ cls := "WhalingLogs", name := "could", desc := "(II)I" } : Jvm.MethodName) ({ cls := "WhalingLogs", name := "could", desc := "(II)I" } : Jvm.MethodName)) ∈ lw_all := lw_g (lw_at lw_m7 29 rfl) rfl
theorem q1563 : (Jvm.Cond.code ({ cls := "WhalingLogs", name := "could", desc := "(II)I" } : Jvm.MethodName) prog_1_method_41_code (3 : Nat) (Option.some Jvm.ClassFile.FieldType.int)) ∈ lw_all := lw_g (lw_at lw_m7 30 rfl) rfl
theorem q1564 : (Jvm.Cond.methodLink "WhalingLogs" (319 : Nat) ({ cls := "WhalingLogs$Listing", name := "could", desc := "(II)Z" } : Jvm.MethodName)) ∈ lw_all := lw_g (lw_at lw_m7 31 rfl) rfl
theorem q1581 : (Jvm.Cond.instanceMethod ({ cls := "WhalingLogs", name := "chart", desc := "(I)I" } : Jvm.MethodName)) ∈ lw_all := lw_g (lw_at lw_m7 48 rfl) rfl
theorem q1582 : (Jvm.Cond.selects "WhalingLogs" ({ cls := "WhalingLogs", name := "chart", desc := "(I)I" } : Jvm.MethodName) ({ cls := "WhalingLogs", name := "chart", desc := "(I)I" } : Jvm.MethodName)) ∈ lw_all := lw_g (lw_at lw_m7 49 rfl) rfl
theorem q1583 : (Jvm.Cond.code ({ cls := "WhalingLogs", name := "chart", desc := "(I)I" } : Jvm.MethodName) prog_1_method_42_code (2 : Nat) (Option.some Jvm.ClassFile.FieldType.int)) ∈ lw_all := lw_g (lw_at lw_m7 50 rfl) rfl
theorem q1584 : (Jvm.Cond.methodLink "WhalingLogs" (322 : Nat) ({ cls := "WhalingLogs$Listing", name := "chart", desc := "(I)I" } : Jvm.MethodName)) ∈ lw_all := lw_g (lw_at lw_m7 51 rfl) rfl
theorem q1589 : (Jvm.Cond.instanceMethod ({ cls := "WhalingLogs", name := "append", desc := "(I)I" } : Jvm.MethodName)) ∈ lw_all := lw_g (lw_at lw_m7 56 rfl) rfl
theorem q1590 : (Jvm.Cond.selects "WhalingLogs" ({ cls := "WhalingLogs", name := "append", desc := "(I)I" } : Jvm.MethodName) ({ cls := "WhalingLogs", name := "append", desc := "(I)I" } : Jvm.MethodName)) ∈ lw_all := lw_g (lw_at lw_m7 57 rfl) rfl
theorem q1591 : (Jvm.Cond.code ({ cls := "WhalingLogs", name := "append", desc := "(I)I" } : Jvm.MethodName) prog_1_method_43_code (2 : Nat) (Option.some Jvm.ClassFile.FieldType.int)) ∈ lw_all := lw_g (lw_at lw_m7 58 rfl) rfl
theorem q1592 : (Jvm.Cond.methodLink "WhalingLogs" (325 : Nat) ({ cls := "java/lang/StringBuilder", name := "length", desc := "()I" } : Jvm.MethodName)) ∈ lw_all := lw_g (lw_at lw_m7 59 rfl) rfl
theorem q1593 : (Jvm.Cond.methodLink "WhalingLogs" (328 : Nat) ({ cls := "java/lang/StringBuilder", name := "append", desc := "(C)Ljava/lang/StringBuilder;" } : Jvm.MethodName)) ∈ lw_all := lw_g (lw_at lw_m7 60 rfl) rfl
theorem q1614 : (Jvm.Cond.instanceMethod ({ cls := "WhalingLogs", name := "run", desc := "()I" } : Jvm.MethodName)) ∈ lw_all := lw_g (lw_at lw_m7 81 rfl) rfl
theorem q1615 : (Jvm.Cond.selects "WhalingLogs" ({ cls := "WhalingLogs", name := "run", desc := "()I" } : Jvm.MethodName) ({ cls := "WhalingLogs", name := "run", desc := "()I" } : Jvm.MethodName)) ∈ lw_all := lw_g (lw_at lw_m7 82 rfl) rfl
theorem q1616 : (Jvm.Cond.codeWith ({ cls := "WhalingLogs", name := "run", desc := "()I" } : Jvm.MethodName) prog_1_method_44_code (6 : Nat) (Option.some Jvm.ClassFile.FieldType.int) [((0 : Nat), (77 : Nat), (88 : Nat), (351 : Nat)), ((0 : Nat), (77 : Nat), (108 : Nat), (55 : Nat)), ((0 : Nat), (77 : Nat), (125 : Nat), (0 : Nat)), ((88 : Nat), (98 : Nat), (125 : Nat), (0 : Nat)), ((108 : Nat), (115 : Nat), (125 : Nat), (0 : Nat)), ((125 : Nat), (127 : Nat), (125 : Nat), (0 : Nat))]) ∈ lw_all := lw_g (lw_at lw_m7 83 rfl) rfl
theorem q1617 : (Jvm.Cond.classLink "WhalingLogs" (351 : Nat) "WhalingLogs$Wrong") ∈ lw_all := lw_g (lw_at lw_m7 84 rfl) rfl
theorem q1618 : (Jvm.Cond.classLink "WhalingLogs" (332 : Nat) "WhalingLogs$Reader") ∈ lw_all := lw_g (lw_at lw_m7 85 rfl) rfl
theorem q1620 : (Jvm.Cond.methodLink "WhalingLogs" (334 : Nat) ({ cls := "WhalingLogs$Reader", name := "<init>", desc := "(LWhalingLogs;Ljava/lang/CharSequence;)V" } : Jvm.MethodName)) ∈ lw_all := lw_g (lw_at lw_m7 87 rfl) rfl
theorem q1634 : (Jvm.Cond.methodLink "WhalingLogs" (337 : Nat) ({ cls := "WhalingLogs$Reader", name := "orders", desc := "()Ljava/util/LinkedList;" } : Jvm.MethodName)) ∈ lw_all := lw_g (lw_at lw_m7 101 rfl) rfl
theorem q1795 : (Jvm.Cond.fieldLinkNest "WhalingLogs" (353 : Nat) "WhalingLogs$Wrong" "at" "I" "WhalingLogs") ∈ lw_tbl := lw_at lw_m8 22 rfl
theorem q1929 : (Jvm.Cond.classLink "WhalingLogs" (341 : Nat) "WhalingLogs$Order") ∈ lw_all := lw_g (lw_at lw_m8 156 rfl) rfl
theorem q1930 : (Jvm.Cond.interfaceEntry "WhalingLogs" (343 : Nat)) ∈ lw_tbl := lw_at lw_m8 157 rfl
theorem q1931 : (Jvm.Cond.methodLink "WhalingLogs" (343 : Nat) ({ cls := "WhalingLogs$Order", name := "does", desc := "(LWhalingLogs$Archive;)V" } : Jvm.MethodName)) ∈ lw_all := lw_g (lw_at lw_m8 158 rfl) rfl
theorem q1991 : (Jvm.Cond.methodLink "WhalingLogs" (347 : Nat) ({ cls := "java/lang/StringBuilder", name := "setLength", desc := "(I)V" } : Jvm.MethodName)) ∈ lw_all := lw_g (lw_at lw_m8 218 rfl) rfl
theorem q2012 : (Jvm.Cond.instanceMethod ({ cls := "WhalingLogs", name := "tell", desc := "(I)I" } : Jvm.MethodName)) ∈ lw_all := lw_g (lw_at lw_m8 239 rfl) rfl
theorem q2013 : (Jvm.Cond.selects "WhalingLogs" ({ cls := "WhalingLogs", name := "tell", desc := "(I)I" } : Jvm.MethodName) ({ cls := "WhalingLogs", name := "tell", desc := "(I)I" } : Jvm.MethodName)) ∈ lw_all := lw_g (lw_at lw_m9 0 rfl) rfl
theorem q2014 : (Jvm.Cond.code ({ cls := "WhalingLogs", name := "tell", desc := "(I)I" } : Jvm.MethodName) prog_1_method_45_code (5 : Nat) (Option.some Jvm.ClassFile.FieldType.int)) ∈ lw_all := lw_g (lw_at lw_m9 1 rfl) rfl
theorem q2015 : (Jvm.Cond.methodLink "WhalingLogs" (355 : Nat) ({ cls := "java/lang/StringBuilder", name := "append", desc := "(I)Ljava/lang/StringBuilder;" } : Jvm.MethodName)) ∈ lw_all := lw_g (lw_at lw_m9 2 rfl) rfl
theorem q2040 : (Jvm.Cond.classLink "WhalingLogs" (358 : Nat) "WhalingLogs$Written") ∈ lw_all := lw_g (lw_at lw_m9 27 rfl) rfl
theorem q2041 : (Jvm.Cond.interfaceEntry "WhalingLogs" (360 : Nat)) ∈ lw_tbl := lw_at lw_m9 28 rfl
theorem q2042 : (Jvm.Cond.methodLink "WhalingLogs" (360 : Nat) ({ cls := "WhalingLogs$Written", name := "tells", desc := "(Ljava/lang/StringBuilder;)V" } : Jvm.MethodName)) ∈ lw_all := lw_g (lw_at lw_m9 29 rfl) rfl
theorem q2078 : (Jvm.Cond.instanceMethod ({ cls := "WhalingLogs", name := "character", desc := "(I)I" } : Jvm.MethodName)) ∈ lw_all := lw_g (lw_at lw_m9 65 rfl) rfl
theorem q2079 : (Jvm.Cond.selects "WhalingLogs" ({ cls := "WhalingLogs", name := "character", desc := "(I)I" } : Jvm.MethodName) ({ cls := "WhalingLogs", name := "character", desc := "(I)I" } : Jvm.MethodName)) ∈ lw_all := lw_g (lw_at lw_m9 66 rfl) rfl
theorem q2080 : (Jvm.Cond.code ({ cls := "WhalingLogs", name := "character", desc := "(I)I" } : Jvm.MethodName) prog_1_method_46_code (2 : Nat) (Option.some Jvm.ClassFile.FieldType.int)) ∈ lw_all := lw_g (lw_at lw_m9 67 rfl) rfl
theorem q2081 : (Jvm.Cond.methodLink "WhalingLogs" (364 : Nat) ({ cls := "java/lang/StringBuilder", name := "charAt", desc := "(I)C" } : Jvm.MethodName)) ∈ lw_all := lw_g (lw_at lw_m9 68 rfl) rfl
theorem q2083 : (Jvm.Cond.instanceMethod ({ cls := "WhalingLogs", name := "reason", desc := "(Z)I" } : Jvm.MethodName)) ∈ lw_all := lw_g (lw_at lw_m9 70 rfl) rfl
theorem q2084 : (Jvm.Cond.selects "WhalingLogs" ({ cls := "WhalingLogs", name := "reason", desc := "(Z)I" } : Jvm.MethodName) ({ cls := "WhalingLogs", name := "reason", desc := "(Z)I" } : Jvm.MethodName)) ∈ lw_all := lw_g (lw_at lw_m9 71 rfl) rfl
theorem q2085 : (Jvm.Cond.code ({ cls := "WhalingLogs", name := "reason", desc := "(Z)I" } : Jvm.MethodName) prog_1_method_47_code (2 : Nat) (Option.some Jvm.ClassFile.FieldType.int)) ∈ lw_all := lw_g (lw_at lw_m9 72 rfl) rfl
theorem q2087 : (Jvm.Cond.instanceMethod ({ cls := "WhalingLogs", name := "account", desc := "(I)I" } : Jvm.MethodName)) ∈ lw_all := lw_g (lw_at lw_m9 74 rfl) rfl
theorem q2088 : (Jvm.Cond.selects "WhalingLogs" ({ cls := "WhalingLogs", name := "account", desc := "(I)I" } : Jvm.MethodName) ({ cls := "WhalingLogs", name := "account", desc := "(I)I" } : Jvm.MethodName)) ∈ lw_all := lw_g (lw_at lw_m9 75 rfl) rfl
theorem q2089 : (Jvm.Cond.code ({ cls := "WhalingLogs", name := "account", desc := "(I)I" } : Jvm.MethodName) prog_1_method_48_code (2 : Nat) (Option.some Jvm.ClassFile.FieldType.int)) ∈ lw_all := lw_g (lw_at lw_m9 76 rfl) rfl
theorem q2090 : (Jvm.Cond.methodLink "WhalingLogs" (368 : Nat) ({ cls := "WhalingLogs$Archive", name := "many", desc := "(I)I" } : Jvm.MethodName)) ∈ lw_all := lw_g (lw_at lw_m9 77 rfl) rfl
theorem q2091 : (Jvm.Cond.methodLink "WhalingLogs" (369 : Nat) ({ cls := "java/util/BitSet", name := "cardinality", desc := "()I" } : Jvm.MethodName)) ∈ lw_all := lw_g (lw_at lw_m9 78 rfl) rfl
theorem q2092 : (Jvm.Cond.methodLink "WhalingLogs" (374 : Nat) ({ cls := "WhalingLogs$Archive", name := "errorsInAll", desc := "()I" } : Jvm.MethodName)) ∈ lw_all := lw_g (lw_at lw_m9 79 rfl) rfl
theorem q2096 : (Jvm.Cond.methodLink "WhalingLogs" (380 : Nat) ({ cls := "WhalingLogs$Archive", name := "fades", desc := "()I" } : Jvm.MethodName)) ∈ lw_all := lw_g (lw_at lw_m9 83 rfl) rfl
theorem q2101 : (Jvm.Cond.instanceMethod ({ cls := "WhalingLogs", name := "undo", desc := "()I" } : Jvm.MethodName)) ∈ lw_all := lw_g (lw_at lw_m9 88 rfl) rfl
theorem q2102 : (Jvm.Cond.selects "WhalingLogs" ({ cls := "WhalingLogs", name := "undo", desc := "()I" } : Jvm.MethodName) ({ cls := "WhalingLogs", name := "undo", desc := "()I" } : Jvm.MethodName)) ∈ lw_all := lw_g (lw_at lw_m9 89 rfl) rfl
theorem q2103 : (Jvm.Cond.code ({ cls := "WhalingLogs", name := "undo", desc := "()I" } : Jvm.MethodName) prog_1_method_49_code (1 : Nat) (Option.some Jvm.ClassFile.FieldType.int)) ∈ lw_all := lw_g (lw_at lw_m9 90 rfl) rfl
theorem q2104 : (Jvm.Cond.methodLink "WhalingLogs" (383 : Nat) ({ cls := "java/util/ArrayDeque", name := "isEmpty", desc := "()Z" } : Jvm.MethodName)) ∈ lw_all := lw_g (lw_at lw_m9 91 rfl) rfl
theorem q2108 : (Jvm.Cond.methodLink "WhalingLogs" (386 : Nat) ({ cls := "java/util/ArrayDeque", name := "removeLast", desc := "()Ljava/lang/Object;" } : Jvm.MethodName)) ∈ lw_all := lw_g (lw_at lw_m9 95 rfl) rfl
theorem q2120 : (Jvm.Cond.instanceMethod ({ cls := "WhalingLogs", name := "save", desc := "()I" } : Jvm.MethodName)) ∈ lw_all := lw_g (lw_at lw_m9 107 rfl) rfl
theorem q2121 : (Jvm.Cond.selects "WhalingLogs" ({ cls := "WhalingLogs", name := "save", desc := "()I" } : Jvm.MethodName) ({ cls := "WhalingLogs", name := "save", desc := "()I" } : Jvm.MethodName)) ∈ lw_all := lw_g (lw_at lw_m9 108 rfl) rfl
theorem q2122 : (Jvm.Cond.code ({ cls := "WhalingLogs", name := "save", desc := "()I" } : Jvm.MethodName) prog_1_method_50_code (1 : Nat) (Option.some Jvm.ClassFile.FieldType.int)) ∈ lw_all := lw_g (lw_at lw_m9 109 rfl) rfl
theorem q2124 : (Jvm.Cond.instanceMethod ({ cls := "WhalingLogs", name := "restore", desc := "()I" } : Jvm.MethodName)) ∈ lw_all := lw_g (lw_at lw_m9 111 rfl) rfl
theorem q2125 : (Jvm.Cond.selects "WhalingLogs" ({ cls := "WhalingLogs", name := "restore", desc := "()I" } : Jvm.MethodName) ({ cls := "WhalingLogs", name := "restore", desc := "()I" } : Jvm.MethodName)) ∈ lw_all := lw_g (lw_at lw_m9 112 rfl) rfl
theorem q2126 : (Jvm.Cond.code ({ cls := "WhalingLogs", name := "restore", desc := "()I" } : Jvm.MethodName) prog_1_method_51_code (1 : Nat) (Option.some Jvm.ClassFile.FieldType.int)) ∈ lw_all := lw_g (lw_at lw_m9 113 rfl) rfl
theorem q2127 : (Jvm.Cond.methodLink "WhalingLogs" (392 : Nat) ({ cls := "java/util/ArrayDeque", name := "clear", desc := "()V" } : Jvm.MethodName)) ∈ lw_all := lw_g (lw_at lw_m9 114 rfl) rfl
theorem q2604 : (Jvm.Cond.castable "WhalingLogs" "java/lang/Object") ∈ lw_tbl := lw_at lw_m11 111 rfl
theorem in_X0 : ∀ w ∈ wsX00, w ∈ lw_all := lw_in wsX00 [363, 365, 367, 369, 371, 373, 375, 377, 379, 381] (by decide +kernel) (by decide +kernel)
/-! WhalingLogs$Written -/
set_option maxRecDepth 100000
def RX18 : String := "WhalingLogs$Written"
abbrev cX18_tells : ByteArray := prog_17_method_2_code
def yX18_tells : MethodName := ⟨RX18, "tells", "(Ljava/lang/StringBuilder;)V"⟩
def dkwX18_tells_0 : List UInt8 := [43, 16, 32, 182, 0, 3, 42, 185, 0, 9, 1, 0, 182, 0, 15, 87, 177]
abbrev dktX18_tells_0 : List UInt8 := dkwX18_tells_0 ++ []
theorem dksX18_tells_0 : cX18_tells.data.toList.drop 0 = dktX18_tells_0 := by decide +kernel
theorem dX18_tells_0 : decode cX18_tells 0 = .ok (.aload_n 1, 1) := dk_43 (dk_at dksX18_tells_0 0 rfl rfl)
theorem dX18_tells_1 : decode cX18_tells 1 = .ok (.bipush 32, 2) := dk_16 32 (dk_at dksX18_tells_0 1 rfl rfl)
theorem dX18_tells_3 : decode cX18_tells 3 = .ok (.invokevirtual 3, 3) := dk_182 0 3 (dk_at dksX18_tells_0 3 rfl rfl)
theorem dX18_tells_6 : decode cX18_tells 6 = .ok (.aload_n 0, 1) := dk_42 (dk_at dksX18_tells_0 6 rfl rfl)
theorem dX18_tells_7 : decode cX18_tells 7 = .ok (.invokeinterface 9 1, 5) := by decide +kernel
theorem dX18_tells_12 : decode cX18_tells 12 = .ok (.invokevirtual 15, 3) := dk_182 0 15 (dk_at dksX18_tells_0 12 rfl rfl)
theorem dX18_tells_15 : decode cX18_tells 15 = .ok (.pop, 1) := dk_87 (dk_at dksX18_tells_0 15 rfl rfl)
theorem dX18_tells_16 : decode cX18_tells 16 = .ok (.return_, 1) := dk_177 (dk_at dksX18_tells_0 16 rfl rfl)
abbrev cX18_cellTold : ByteArray := prog_17_method_3_code
def yX18_cellTold : MethodName := ⟨RX18, "cellTold", "(I)Ljava/lang/String;"⟩
def dkwX18_cellTold_1 : List UInt8 := [16, 16, 108, 182, 0, 24, 182, 0, 27, 176]
abbrev dktX18_cellTold_1 : List UInt8 := dkwX18_cellTold_1 ++ []
def dkwX18_cellTold_0 : List UInt8 := [187, 0, 4, 89, 183, 0, 18, 18, 22, 182, 0, 15, 16, 97, 26, 16, 16, 112, 96, 146, 182, 0, 3, 26]
abbrev dktX18_cellTold_0 : List UInt8 := dkwX18_cellTold_0 ++ dktX18_cellTold_1
theorem dksX18_cellTold_0 : cX18_cellTold.data.toList.drop 0 = dktX18_cellTold_0 := by decide +kernel
theorem dksX18_cellTold_1 : cX18_cellTold.data.toList.drop 24 = dktX18_cellTold_1 := dk_seg dksX18_cellTold_0 24 rfl rfl
theorem dX18_cellTold_0 : decode cX18_cellTold 0 = .ok (.new 4, 3) := dk_187 0 4 (dk_at dksX18_cellTold_0 0 rfl rfl)
theorem dX18_cellTold_3 : decode cX18_cellTold 3 = .ok (.dup, 1) := dk_89 (dk_at dksX18_cellTold_0 3 rfl rfl)
theorem dX18_cellTold_4 : decode cX18_cellTold 4 = .ok (.invokespecial 18, 3) := dk_183 0 18 (dk_at dksX18_cellTold_0 4 rfl rfl)
theorem dX18_cellTold_7 : decode cX18_cellTold 7 = .ok (.ldc 22, 2) := dk_18 22 (dk_at dksX18_cellTold_0 7 rfl rfl)
theorem dX18_cellTold_9 : decode cX18_cellTold 9 = .ok (.invokevirtual 15, 3) := dk_182 0 15 (dk_at dksX18_cellTold_0 9 rfl rfl)
theorem dX18_cellTold_12 : decode cX18_cellTold 12 = .ok (.bipush 97, 2) := dk_16 97 (dk_at dksX18_cellTold_0 12 rfl rfl)
theorem dX18_cellTold_14 : decode cX18_cellTold 14 = .ok (.iload_n 0, 1) := dk_26 (dk_at dksX18_cellTold_0 14 rfl rfl)
theorem dX18_cellTold_15 : decode cX18_cellTold 15 = .ok (.bipush 16, 2) := dk_16 16 (dk_at dksX18_cellTold_0 15 rfl rfl)
theorem dX18_cellTold_17 : decode cX18_cellTold 17 = .ok (.irem, 1) := dk_112 (dk_at dksX18_cellTold_0 17 rfl rfl)
theorem dX18_cellTold_18 : decode cX18_cellTold 18 = .ok (.iadd, 1) := dk_96 (dk_at dksX18_cellTold_0 18 rfl rfl)
theorem dX18_cellTold_19 : decode cX18_cellTold 19 = .ok (.i2c, 1) := dk_146 (dk_at dksX18_cellTold_0 19 rfl rfl)
theorem dX18_cellTold_20 : decode cX18_cellTold 20 = .ok (.invokevirtual 3, 3) := dk_182 0 3 (dk_at dksX18_cellTold_0 20 rfl rfl)
theorem dX18_cellTold_23 : decode cX18_cellTold 23 = .ok (.iload_n 0, 1) := dk_26 (dk_at dksX18_cellTold_0 23 rfl rfl)
theorem dX18_cellTold_24 : decode cX18_cellTold 24 = .ok (.bipush 16, 2) := dk_16 16 (dk_at dksX18_cellTold_1 0 rfl rfl)
theorem dX18_cellTold_26 : decode cX18_cellTold 26 = .ok (.idiv, 1) := dk_108 (dk_at dksX18_cellTold_1 2 rfl rfl)
theorem dX18_cellTold_27 : decode cX18_cellTold 27 = .ok (.invokevirtual 24, 3) := dk_182 0 24 (dk_at dksX18_cellTold_1 3 rfl rfl)
theorem dX18_cellTold_30 : decode cX18_cellTold 30 = .ok (.invokevirtual 27, 3) := dk_182 0 27 (dk_at dksX18_cellTold_1 6 rfl rfl)
theorem dX18_cellTold_33 : decode cX18_cellTold 33 = .ok (.areturn, 1) := dk_176 (dk_at dksX18_cellTold_1 9 rfl rfl)
theorem q144 : (Jvm.Cond.initialized "WhalingLogs$Written") ∈ lw_all := lw_g (lw_at lw_m1 51 rfl) rfl
theorem q2043 : (Jvm.Cond.interfaceMethod "WhalingLogs$Written" "WhalingLogs$Written" "tells" "(Ljava/lang/StringBuilder;)V") ∈ lw_tbl := lw_at lw_m9 30 rfl
theorem q2044 : (Jvm.Cond.declares ({ cls := "WhalingLogs$Written", name := "tells", desc := "(Ljava/lang/StringBuilder;)V" } : Jvm.MethodName)) ∈ lw_tbl := lw_at lw_m9 31 rfl
theorem q2047 : (Jvm.Cond.instanceMethod ({ cls := "WhalingLogs$Written", name := "tells", desc := "(Ljava/lang/StringBuilder;)V" } : Jvm.MethodName)) ∈ lw_all := lw_g (lw_at lw_m9 34 rfl) rfl
theorem q2048 : (Jvm.Cond.publicMethod ({ cls := "WhalingLogs$Written", name := "tells", desc := "(Ljava/lang/StringBuilder;)V" } : Jvm.MethodName)) ∈ lw_tbl := lw_at lw_m9 35 rfl
theorem q2049 : (Jvm.Cond.code ({ cls := "WhalingLogs$Written", name := "tells", desc := "(Ljava/lang/StringBuilder;)V" } : Jvm.MethodName) prog_17_method_2_code (2 : Nat) (Option.none : Option Jvm.ClassFile.FieldType)) ∈ lw_all := lw_g (lw_at lw_m9 36 rfl) rfl
theorem q2050 : (Jvm.Cond.methodLink "WhalingLogs$Written" (3 : Nat) ({ cls := "java/lang/StringBuilder", name := "append", desc := "(C)Ljava/lang/StringBuilder;" } : Jvm.MethodName)) ∈ lw_all := lw_g (lw_at lw_m9 37 rfl) rfl
theorem q2051 : (Jvm.Cond.interfaceEntry "WhalingLogs$Written" (9 : Nat)) ∈ lw_tbl := lw_at lw_m9 38 rfl
theorem q2052 : (Jvm.Cond.methodLink "WhalingLogs$Written" (9 : Nat) ({ cls := "WhalingLogs$Written", name := "told", desc := "()Ljava/lang/String;" } : Jvm.MethodName)) ∈ lw_all := lw_g (lw_at lw_m9 39 rfl) rfl
theorem q2053 : (Jvm.Cond.interfaceMethod "WhalingLogs$Written" "WhalingLogs$Written" "told" "()Ljava/lang/String;") ∈ lw_tbl := lw_at lw_m9 40 rfl
theorem q2054 : (Jvm.Cond.declares ({ cls := "WhalingLogs$Written", name := "told", desc := "()Ljava/lang/String;" } : Jvm.MethodName)) ∈ lw_tbl := lw_at lw_m9 41 rfl
theorem q2064 : (Jvm.Cond.static ({ cls := "WhalingLogs$Written", name := "cellTold", desc := "(I)Ljava/lang/String;" } : Jvm.MethodName)) ∈ lw_all := lw_g (lw_at lw_m9 51 rfl) rfl
theorem q2065 : (Jvm.Cond.code ({ cls := "WhalingLogs$Written", name := "cellTold", desc := "(I)Ljava/lang/String;" } : Jvm.MethodName) prog_17_method_3_code (1 : Nat) (Option.some (Jvm.ClassFile.FieldType.object "java/lang/String"))) ∈ lw_all := lw_g (lw_at lw_m9 52 rfl) rfl
theorem q2066 : (Jvm.Cond.classLink "WhalingLogs$Written" (4 : Nat) "java/lang/StringBuilder") ∈ lw_all := lw_g (lw_at lw_m9 53 rfl) rfl
theorem q2067 : (Jvm.Cond.methodLink "WhalingLogs$Written" (18 : Nat) ({ cls := "java/lang/StringBuilder", name := "<init>", desc := "()V" } : Jvm.MethodName)) ∈ lw_all := lw_g (lw_at lw_m9 54 rfl) rfl
theorem q2068 : (Jvm.Cond.stringRef "WhalingLogs$Written" (22 : Nat) "") ∈ lw_tbl := lw_at lw_m9 55 rfl
theorem q2069 : (Jvm.Cond.methodLink "WhalingLogs$Written" (15 : Nat) ({ cls := "java/lang/StringBuilder", name := "append", desc := "(Ljava/lang/String;)Ljava/lang/StringBuilder;" } : Jvm.MethodName)) ∈ lw_all := lw_g (lw_at lw_m9 56 rfl) rfl
theorem q2070 : (Jvm.Cond.methodLink "WhalingLogs$Written" (24 : Nat) ({ cls := "java/lang/StringBuilder", name := "append", desc := "(I)Ljava/lang/StringBuilder;" } : Jvm.MethodName)) ∈ lw_all := lw_g (lw_at lw_m9 57 rfl) rfl
theorem q2071 : (Jvm.Cond.methodLink "WhalingLogs$Written" (27 : Nat) ({ cls := "java/lang/StringBuilder", name := "toString", desc := "()Ljava/lang/String;" } : Jvm.MethodName)) ∈ lw_all := lw_g (lw_at lw_m9 58 rfl) rfl
/-! WhalingLogs$Order -/
set_option maxRecDepth 100000
def RX17 : String := "WhalingLogs$Order"
abbrev cX17_needs : ByteArray := prog_8_method_2_code
def yX17_needs : MethodName := ⟨RX17, "needs", "(III)V"⟩
def dkwX17_needs_0 : List UInt8 := [26, 27, 28, 184, 0, 3, 154, 0, 7, 4, 167, 0, 4, 3, 16, 8, 26, 184, 0, 7, 177]
abbrev dktX17_needs_0 : List UInt8 := dkwX17_needs_0 ++ []
theorem dksX17_needs_0 : cX17_needs.data.toList.drop 0 = dktX17_needs_0 := by decide +kernel
theorem dX17_needs_0 : decode cX17_needs 0 = .ok (.iload_n 0, 1) := dk_26 (dk_at dksX17_needs_0 0 rfl rfl)
theorem dX17_needs_1 : decode cX17_needs 1 = .ok (.iload_n 1, 1) := dk_27 (dk_at dksX17_needs_0 1 rfl rfl)
theorem dX17_needs_2 : decode cX17_needs 2 = .ok (.iload_n 2, 1) := dk_28 (dk_at dksX17_needs_0 2 rfl rfl)
theorem dX17_needs_3 : decode cX17_needs 3 = .ok (.invokestatic 3, 3) := dk_184 0 3 (dk_at dksX17_needs_0 3 rfl rfl)
theorem dX17_needs_6 : decode cX17_needs 6 = .ok (.ifCond .ne 7, 3) := dk_154 0 7 (dk_at dksX17_needs_0 6 rfl rfl)
theorem dX17_needs_9 : decode cX17_needs 9 = .ok (.iconst 1, 1) := dk_4 (dk_at dksX17_needs_0 9 rfl rfl)
theorem dX17_needs_10 : decode cX17_needs 10 = .ok (.goto 4, 3) := dk_167 0 4 (dk_at dksX17_needs_0 10 rfl rfl)
theorem dX17_needs_13 : decode cX17_needs 13 = .ok (.iconst 0, 1) := dk_3 (dk_at dksX17_needs_0 13 rfl rfl)
theorem dX17_needs_14 : decode cX17_needs 14 = .ok (.bipush 8, 2) := dk_16 8 (dk_at dksX17_needs_0 14 rfl rfl)
theorem dX17_needs_16 : decode cX17_needs 16 = .ok (.iload_n 0, 1) := dk_26 (dk_at dksX17_needs_0 16 rfl rfl)
theorem dX17_needs_17 : decode cX17_needs 17 = .ok (.invokestatic 7, 3) := dk_184 0 7 (dk_at dksX17_needs_0 17 rfl rfl)
theorem dX17_needs_20 : decode cX17_needs 20 = .ok (.return_, 1) := dk_177 (dk_at dksX17_needs_0 20 rfl rfl)
theorem q142 : (Jvm.Cond.initialized "WhalingLogs$Order") ∈ lw_all := lw_g (lw_at lw_m1 49 rfl) rfl
theorem q1932 : (Jvm.Cond.interfaceMethod "WhalingLogs$Order" "WhalingLogs$Order" "does" "(LWhalingLogs$Archive;)V") ∈ lw_tbl := lw_at lw_m8 159 rfl
theorem q1933 : (Jvm.Cond.declares ({ cls := "WhalingLogs$Order", name := "does", desc := "(LWhalingLogs$Archive;)V" } : Jvm.MethodName)) ∈ lw_tbl := lw_at lw_m8 160 rfl
theorem q1948 : (Jvm.Cond.static ({ cls := "WhalingLogs$Order", name := "needs", desc := "(III)V" } : Jvm.MethodName)) ∈ lw_all := lw_g (lw_at lw_m8 175 rfl) rfl
theorem q1949 : (Jvm.Cond.code ({ cls := "WhalingLogs$Order", name := "needs", desc := "(III)V" } : Jvm.MethodName) prog_8_method_2_code (3 : Nat) (Option.none : Option Jvm.ClassFile.FieldType)) ∈ lw_all := lw_g (lw_at lw_m8 176 rfl) rfl
theorem q1950 : (Jvm.Cond.methodLinkNest "WhalingLogs$Order" (3 : Nat) ({ cls := "WhalingLogs", name := "isIn", desc := "(III)Z" } : Jvm.MethodName) "WhalingLogs") ∈ lw_tbl := lw_at lw_m8 177 rfl
theorem q1951 : (Jvm.Cond.methodLinkNest "WhalingLogs$Order" (7 : Nat) ({ cls := "WhalingLogs", name := "refuse", desc := "(ZII)V" } : Jvm.MethodName) "WhalingLogs") ∈ lw_tbl := lw_at lw_m8 178 rfl
