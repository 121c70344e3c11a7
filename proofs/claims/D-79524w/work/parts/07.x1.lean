/-! WhalingLogs$Archive -/
set_option maxRecDepth 100000
def RX1 : String := "WhalingLogs$Archive"
def TX1 : u_T := fun k => match k with
  | 0 => ("WhalingLogs$Archive", "land", "Ljava/util/BitSet;", true)
  | 1 => ("WhalingLogs$Archive", "pages", "Ljava/util/LinkedList;", true)
  | 2 => ("WhalingLogs$Archive", "strengths", "[I", true)
  | 3 => ("WhalingLogs$Archive", "errors", "[I", true)
  | 4 => ("WhalingLogs$Archive", "speed", "I", false)
  | _ => ("WhalingLogs$Archive", "reads", "I", false)
def tyX1 : Nat → FieldType := fun k => match k with
  | 0 => .object "java/util/BitSet"
  | 1 => .object "java/util/LinkedList"
  | 2 => .array .int
  | 3 => .array .int
  | 4 => .int
  | _ => .int
abbrev wsX10 : List Cond := u_ws RX1 TX1 6
theorem nmX1 : ∀ a, a < 6 → ∀ b, b < 6 → a ≠ b → (TX1 a).2.1 ≠ (TX1 b).2.1 := by decide +kernel
theorem tyX1_ok : ∀ k, k < 6 → parseFieldDescriptor (TX1 k).2.2.1 = some (tyX1 k) := by decide +kernel
abbrev cX1_init : ByteArray := prog_2_method_1_code
def yX1_init : MethodName := ⟨RX1, "<init>", "()V"⟩
def dkwX1_init_2 : List UInt8 := [79, 181, 0, 27, 42, 16, 6, 188, 10, 181, 0, 31, 42, 6, 181, 0, 34, 177]
abbrev dktX1_init_2 : List UInt8 := dkwX1_init_2 ++ []
def dkwX1_init_1 : List UInt8 := [183, 0, 22, 181, 0, 23, 42, 6, 188, 10, 89, 3, 16, 30, 79, 89, 4, 16, 50, 79, 89, 5, 16, 70]
abbrev dktX1_init_1 : List UInt8 := dkwX1_init_1 ++ dktX1_init_2
def dkwX1_init_0 : List UInt8 := [42, 183, 0, 3, 42, 187, 0, 9, 89, 17, 0, 192, 183, 0, 11, 181, 0, 14, 42, 187, 0, 20, 89]
abbrev dktX1_init_0 : List UInt8 := dkwX1_init_0 ++ dktX1_init_1
theorem dksX1_init_0 : cX1_init.data.toList.drop 0 = dktX1_init_0 := by decide +kernel
theorem dksX1_init_1 : cX1_init.data.toList.drop 23 = dktX1_init_1 := dk_seg dksX1_init_0 23 rfl rfl
theorem dksX1_init_2 : cX1_init.data.toList.drop 47 = dktX1_init_2 := dk_seg dksX1_init_1 24 rfl rfl
theorem dX1_init_0 : decode cX1_init 0 = .ok (.aload_n 0, 1) := dk_42 (dk_at dksX1_init_0 0 rfl rfl)
theorem dX1_init_1 : decode cX1_init 1 = .ok (.invokespecial 3, 3) := dk_183 0 3 (dk_at dksX1_init_0 1 rfl rfl)
theorem dX1_init_4 : decode cX1_init 4 = .ok (.aload_n 0, 1) := dk_42 (dk_at dksX1_init_0 4 rfl rfl)
theorem dX1_init_5 : decode cX1_init 5 = .ok (.new 9, 3) := dk_187 0 9 (dk_at dksX1_init_0 5 rfl rfl)
theorem dX1_init_8 : decode cX1_init 8 = .ok (.dup, 1) := dk_89 (dk_at dksX1_init_0 8 rfl rfl)
theorem dX1_init_9 : decode cX1_init 9 = .ok (.sipush 192, 3) := dk_17 0 192 (dk_at dksX1_init_0 9 rfl rfl)
theorem dX1_init_12 : decode cX1_init 12 = .ok (.invokespecial 11, 3) := dk_183 0 11 (dk_at dksX1_init_0 12 rfl rfl)
theorem dX1_init_15 : decode cX1_init 15 = .ok (.putfield 14, 3) := dk_181 0 14 (dk_at dksX1_init_0 15 rfl rfl)
theorem dX1_init_18 : decode cX1_init 18 = .ok (.aload_n 0, 1) := dk_42 (dk_at dksX1_init_0 18 rfl rfl)
theorem dX1_init_19 : decode cX1_init 19 = .ok (.new 20, 3) := dk_187 0 20 (dk_at dksX1_init_0 19 rfl rfl)
theorem dX1_init_22 : decode cX1_init 22 = .ok (.dup, 1) := dk_89 (dk_at dksX1_init_0 22 rfl rfl)
theorem dX1_init_23 : decode cX1_init 23 = .ok (.invokespecial 22, 3) := dk_183 0 22 (dk_at dksX1_init_1 0 rfl rfl)
theorem dX1_init_26 : decode cX1_init 26 = .ok (.putfield 23, 3) := dk_181 0 23 (dk_at dksX1_init_1 3 rfl rfl)
theorem dX1_init_29 : decode cX1_init 29 = .ok (.aload_n 0, 1) := dk_42 (dk_at dksX1_init_1 6 rfl rfl)
theorem dX1_init_30 : decode cX1_init 30 = .ok (.iconst 3, 1) := dk_6 (dk_at dksX1_init_1 7 rfl rfl)
theorem dX1_init_31 : decode cX1_init 31 = .ok (.newarray .int, 2) := dk_188_10 (dk_at dksX1_init_1 8 rfl rfl)
theorem dX1_init_33 : decode cX1_init 33 = .ok (.dup, 1) := dk_89 (dk_at dksX1_init_1 10 rfl rfl)
theorem dX1_init_34 : decode cX1_init 34 = .ok (.iconst 0, 1) := dk_3 (dk_at dksX1_init_1 11 rfl rfl)
theorem dX1_init_35 : decode cX1_init 35 = .ok (.bipush 30, 2) := dk_16 30 (dk_at dksX1_init_1 12 rfl rfl)
theorem dX1_init_37 : decode cX1_init 37 = .ok (.iastore, 1) := dk_79 (dk_at dksX1_init_1 14 rfl rfl)
theorem dX1_init_38 : decode cX1_init 38 = .ok (.dup, 1) := dk_89 (dk_at dksX1_init_1 15 rfl rfl)
theorem dX1_init_39 : decode cX1_init 39 = .ok (.iconst 1, 1) := dk_4 (dk_at dksX1_init_1 16 rfl rfl)
theorem dX1_init_40 : decode cX1_init 40 = .ok (.bipush 50, 2) := dk_16 50 (dk_at dksX1_init_1 17 rfl rfl)
theorem dX1_init_42 : decode cX1_init 42 = .ok (.iastore, 1) := dk_79 (dk_at dksX1_init_1 19 rfl rfl)
theorem dX1_init_43 : decode cX1_init 43 = .ok (.dup, 1) := dk_89 (dk_at dksX1_init_1 20 rfl rfl)
theorem dX1_init_44 : decode cX1_init 44 = .ok (.iconst 2, 1) := dk_5 (dk_at dksX1_init_1 21 rfl rfl)
theorem dX1_init_45 : decode cX1_init 45 = .ok (.bipush 70, 2) := dk_16 70 (dk_at dksX1_init_1 22 rfl rfl)
theorem dX1_init_47 : decode cX1_init 47 = .ok (.iastore, 1) := dk_79 (dk_at dksX1_init_2 0 rfl rfl)
theorem dX1_init_48 : decode cX1_init 48 = .ok (.putfield 27, 3) := dk_181 0 27 (dk_at dksX1_init_2 1 rfl rfl)
theorem dX1_init_51 : decode cX1_init 51 = .ok (.aload_n 0, 1) := dk_42 (dk_at dksX1_init_2 4 rfl rfl)
theorem dX1_init_52 : decode cX1_init 52 = .ok (.bipush 6, 2) := dk_16 6 (dk_at dksX1_init_2 5 rfl rfl)
theorem dX1_init_54 : decode cX1_init 54 = .ok (.newarray .int, 2) := dk_188_10 (dk_at dksX1_init_2 7 rfl rfl)
theorem dX1_init_56 : decode cX1_init 56 = .ok (.putfield 31, 3) := dk_181 0 31 (dk_at dksX1_init_2 9 rfl rfl)
theorem dX1_init_59 : decode cX1_init 59 = .ok (.aload_n 0, 1) := dk_42 (dk_at dksX1_init_2 12 rfl rfl)
theorem dX1_init_60 : decode cX1_init 60 = .ok (.iconst 3, 1) := dk_6 (dk_at dksX1_init_2 13 rfl rfl)
theorem dX1_init_61 : decode cX1_init 61 = .ok (.putfield 34, 3) := dk_181 0 34 (dk_at dksX1_init_2 14 rfl rfl)
theorem dX1_init_64 : decode cX1_init 64 = .ok (.return_, 1) := dk_177 (dk_at dksX1_init_2 17 rfl rfl)
abbrev cX1_copy : ByteArray := prog_2_method_2_code
def yX1_copy : MethodName := ⟨RX1, "copy", "()LWhalingLogs$Archive;"⟩
def dkwX1_copy_4 : List UInt8 := [181, 0, 34, 43, 42, 180, 0, 73, 181, 0, 73, 43, 176]
abbrev dktX1_copy_4 : List UInt8 := dkwX1_copy_4 ++ []
def dkwX1_copy_3 : List UInt8 := [184, 0, 67, 42, 180, 0, 31, 3, 43, 180, 0, 31, 3, 16, 6, 184, 0, 67, 43, 42, 180, 0, 34]
abbrev dktX1_copy_3 : List UInt8 := dkwX1_copy_3 ++ dktX1_copy_4
def dkwX1_copy_2 : List UInt8 := [192, 0, 57, 182, 0, 59, 182, 0, 63, 167, 255, 228, 42, 180, 0, 27, 3, 43, 180, 0, 27, 3, 6]
abbrev dktX1_copy_2 : List UInt8 := dkwX1_copy_2 ++ dktX1_copy_3
def dkwX1_copy_1 : List UInt8 := [182, 0, 43, 77, 44, 185, 0, 47, 1, 0, 153, 0, 25, 43, 180, 0, 23, 44, 185, 0, 53, 1, 0]
abbrev dktX1_copy_1 : List UInt8 := dkwX1_copy_1 ++ dktX1_copy_2
def dkwX1_copy_0 : List UInt8 := [187, 0, 15, 89, 183, 0, 38, 76, 43, 180, 0, 14, 42, 180, 0, 14, 182, 0, 39, 42, 180, 0, 23]
abbrev dktX1_copy_0 : List UInt8 := dkwX1_copy_0 ++ dktX1_copy_1
theorem dksX1_copy_0 : cX1_copy.data.toList.drop 0 = dktX1_copy_0 := by decide +kernel
theorem dksX1_copy_1 : cX1_copy.data.toList.drop 23 = dktX1_copy_1 := dk_seg dksX1_copy_0 23 rfl rfl
theorem dksX1_copy_2 : cX1_copy.data.toList.drop 46 = dktX1_copy_2 := dk_seg dksX1_copy_1 23 rfl rfl
theorem dksX1_copy_3 : cX1_copy.data.toList.drop 69 = dktX1_copy_3 := dk_seg dksX1_copy_2 23 rfl rfl
theorem dksX1_copy_4 : cX1_copy.data.toList.drop 92 = dktX1_copy_4 := dk_seg dksX1_copy_3 23 rfl rfl
theorem dX1_copy_0 : decode cX1_copy 0 = .ok (.new 15, 3) := dk_187 0 15 (dk_at dksX1_copy_0 0 rfl rfl)
theorem dX1_copy_3 : decode cX1_copy 3 = .ok (.dup, 1) := dk_89 (dk_at dksX1_copy_0 3 rfl rfl)
theorem dX1_copy_4 : decode cX1_copy 4 = .ok (.invokespecial 38, 3) := dk_183 0 38 (dk_at dksX1_copy_0 4 rfl rfl)
theorem dX1_copy_7 : decode cX1_copy 7 = .ok (.astore_n 1, 1) := dk_76 (dk_at dksX1_copy_0 7 rfl rfl)
theorem dX1_copy_8 : decode cX1_copy 8 = .ok (.aload_n 1, 1) := dk_43 (dk_at dksX1_copy_0 8 rfl rfl)
theorem dX1_copy_9 : decode cX1_copy 9 = .ok (.getfield 14, 3) := dk_180 0 14 (dk_at dksX1_copy_0 9 rfl rfl)
theorem dX1_copy_12 : decode cX1_copy 12 = .ok (.aload_n 0, 1) := dk_42 (dk_at dksX1_copy_0 12 rfl rfl)
theorem dX1_copy_13 : decode cX1_copy 13 = .ok (.getfield 14, 3) := dk_180 0 14 (dk_at dksX1_copy_0 13 rfl rfl)
theorem dX1_copy_16 : decode cX1_copy 16 = .ok (.invokevirtual 39, 3) := dk_182 0 39 (dk_at dksX1_copy_0 16 rfl rfl)
theorem dX1_copy_19 : decode cX1_copy 19 = .ok (.aload_n 0, 1) := dk_42 (dk_at dksX1_copy_0 19 rfl rfl)
theorem dX1_copy_20 : decode cX1_copy 20 = .ok (.getfield 23, 3) := dk_180 0 23 (dk_at dksX1_copy_0 20 rfl rfl)
theorem dX1_copy_23 : decode cX1_copy 23 = .ok (.invokevirtual 43, 3) := dk_182 0 43 (dk_at dksX1_copy_1 0 rfl rfl)
theorem dX1_copy_26 : decode cX1_copy 26 = .ok (.astore_n 2, 1) := dk_77 (dk_at dksX1_copy_1 3 rfl rfl)
theorem dX1_copy_27 : decode cX1_copy 27 = .ok (.aload_n 2, 1) := dk_44 (dk_at dksX1_copy_1 4 rfl rfl)
theorem dX1_copy_28 : decode cX1_copy 28 = .ok (.invokeinterface 47 1, 5) := by decide +kernel
theorem dX1_copy_33 : decode cX1_copy 33 = .ok (.ifCond .eq 25, 3) := dk_153 0 25 (dk_at dksX1_copy_1 10 rfl rfl)
theorem dX1_copy_36 : decode cX1_copy 36 = .ok (.aload_n 1, 1) := dk_43 (dk_at dksX1_copy_1 13 rfl rfl)
theorem dX1_copy_37 : decode cX1_copy 37 = .ok (.getfield 23, 3) := dk_180 0 23 (dk_at dksX1_copy_1 14 rfl rfl)
theorem dX1_copy_40 : decode cX1_copy 40 = .ok (.aload_n 2, 1) := dk_44 (dk_at dksX1_copy_1 17 rfl rfl)
theorem dX1_copy_41 : decode cX1_copy 41 = .ok (.invokeinterface 53 1, 5) := by decide +kernel
theorem dX1_copy_46 : decode cX1_copy 46 = .ok (.checkcast 57, 3) := dk_192 0 57 (dk_at dksX1_copy_2 0 rfl rfl)
theorem dX1_copy_49 : decode cX1_copy 49 = .ok (.invokevirtual 59, 3) := dk_182 0 59 (dk_at dksX1_copy_2 3 rfl rfl)
theorem dX1_copy_52 : decode cX1_copy 52 = .ok (.invokevirtual 63, 3) := dk_182 0 63 (dk_at dksX1_copy_2 6 rfl rfl)
theorem dX1_copy_55 : decode cX1_copy 55 = .ok (.goto (-28), 3) := dk_167 255 228 (dk_at dksX1_copy_2 9 rfl rfl)
theorem dX1_copy_58 : decode cX1_copy 58 = .ok (.aload_n 0, 1) := dk_42 (dk_at dksX1_copy_2 12 rfl rfl)
theorem dX1_copy_59 : decode cX1_copy 59 = .ok (.getfield 27, 3) := dk_180 0 27 (dk_at dksX1_copy_2 13 rfl rfl)
theorem dX1_copy_62 : decode cX1_copy 62 = .ok (.iconst 0, 1) := dk_3 (dk_at dksX1_copy_2 16 rfl rfl)
theorem dX1_copy_63 : decode cX1_copy 63 = .ok (.aload_n 1, 1) := dk_43 (dk_at dksX1_copy_2 17 rfl rfl)
theorem dX1_copy_64 : decode cX1_copy 64 = .ok (.getfield 27, 3) := dk_180 0 27 (dk_at dksX1_copy_2 18 rfl rfl)
theorem dX1_copy_67 : decode cX1_copy 67 = .ok (.iconst 0, 1) := dk_3 (dk_at dksX1_copy_2 21 rfl rfl)
theorem dX1_copy_68 : decode cX1_copy 68 = .ok (.iconst 3, 1) := dk_6 (dk_at dksX1_copy_2 22 rfl rfl)
theorem dX1_copy_69 : decode cX1_copy 69 = .ok (.invokestatic 67, 3) := dk_184 0 67 (dk_at dksX1_copy_3 0 rfl rfl)
theorem dX1_copy_72 : decode cX1_copy 72 = .ok (.aload_n 0, 1) := dk_42 (dk_at dksX1_copy_3 3 rfl rfl)
theorem dX1_copy_73 : decode cX1_copy 73 = .ok (.getfield 31, 3) := dk_180 0 31 (dk_at dksX1_copy_3 4 rfl rfl)
theorem dX1_copy_76 : decode cX1_copy 76 = .ok (.iconst 0, 1) := dk_3 (dk_at dksX1_copy_3 7 rfl rfl)
theorem dX1_copy_77 : decode cX1_copy 77 = .ok (.aload_n 1, 1) := dk_43 (dk_at dksX1_copy_3 8 rfl rfl)
theorem dX1_copy_78 : decode cX1_copy 78 = .ok (.getfield 31, 3) := dk_180 0 31 (dk_at dksX1_copy_3 9 rfl rfl)
theorem dX1_copy_81 : decode cX1_copy 81 = .ok (.iconst 0, 1) := dk_3 (dk_at dksX1_copy_3 12 rfl rfl)
theorem dX1_copy_82 : decode cX1_copy 82 = .ok (.bipush 6, 2) := dk_16 6 (dk_at dksX1_copy_3 13 rfl rfl)
theorem dX1_copy_84 : decode cX1_copy 84 = .ok (.invokestatic 67, 3) := dk_184 0 67 (dk_at dksX1_copy_3 15 rfl rfl)
theorem dX1_copy_87 : decode cX1_copy 87 = .ok (.aload_n 1, 1) := dk_43 (dk_at dksX1_copy_3 18 rfl rfl)
theorem dX1_copy_88 : decode cX1_copy 88 = .ok (.aload_n 0, 1) := dk_42 (dk_at dksX1_copy_3 19 rfl rfl)
theorem dX1_copy_89 : decode cX1_copy 89 = .ok (.getfield 34, 3) := dk_180 0 34 (dk_at dksX1_copy_3 20 rfl rfl)
theorem dX1_copy_92 : decode cX1_copy 92 = .ok (.putfield 34, 3) := dk_181 0 34 (dk_at dksX1_copy_4 0 rfl rfl)
theorem dX1_copy_95 : decode cX1_copy 95 = .ok (.aload_n 1, 1) := dk_43 (dk_at dksX1_copy_4 3 rfl rfl)
theorem dX1_copy_96 : decode cX1_copy 96 = .ok (.aload_n 0, 1) := dk_42 (dk_at dksX1_copy_4 4 rfl rfl)
theorem dX1_copy_97 : decode cX1_copy 97 = .ok (.getfield 73, 3) := dk_180 0 73 (dk_at dksX1_copy_4 5 rfl rfl)
theorem dX1_copy_100 : decode cX1_copy 100 = .ok (.putfield 73, 3) := dk_181 0 73 (dk_at dksX1_copy_4 8 rfl rfl)
theorem dX1_copy_103 : decode cX1_copy 103 = .ok (.aload_n 1, 1) := dk_43 (dk_at dksX1_copy_4 11 rfl rfl)
theorem dX1_copy_104 : decode cX1_copy 104 = .ok (.areturn, 1) := dk_176 (dk_at dksX1_copy_4 12 rfl rfl)
abbrev cX1_becomes : ByteArray := prog_2_method_11_code
def yX1_becomes : MethodName := ⟨RX1, "becomes", "(IZI)I"⟩
def dkwX1_becomes_1 : List UInt8 := [27, 28, 182, 0, 114, 42, 180, 0, 14, 182, 0, 118, 172]
abbrev dktX1_becomes_1 : List UInt8 := dkwX1_becomes_1 ++ []
def dkwX1_becomes_0 : List UInt8 := [28, 153, 0, 12, 29, 2, 159, 0, 7, 4, 167, 0, 4, 3, 16, 6, 29, 184, 0, 99, 42, 180, 0, 14]
abbrev dktX1_becomes_0 : List UInt8 := dkwX1_becomes_0 ++ dktX1_becomes_1
theorem dksX1_becomes_0 : cX1_becomes.data.toList.drop 0 = dktX1_becomes_0 := by decide +kernel
theorem dksX1_becomes_1 : cX1_becomes.data.toList.drop 24 = dktX1_becomes_1 := dk_seg dksX1_becomes_0 24 rfl rfl
theorem dX1_becomes_0 : decode cX1_becomes 0 = .ok (.iload_n 2, 1) := dk_28 (dk_at dksX1_becomes_0 0 rfl rfl)
theorem dX1_becomes_1 : decode cX1_becomes 1 = .ok (.ifCond .eq 12, 3) := dk_153 0 12 (dk_at dksX1_becomes_0 1 rfl rfl)
theorem dX1_becomes_4 : decode cX1_becomes 4 = .ok (.iload_n 3, 1) := dk_29 (dk_at dksX1_becomes_0 4 rfl rfl)
theorem dX1_becomes_5 : decode cX1_becomes 5 = .ok (.iconst (-1), 1) := dk_2 (dk_at dksX1_becomes_0 5 rfl rfl)
theorem dX1_becomes_6 : decode cX1_becomes 6 = .ok (.if_icmp .eq 7, 3) := dk_159 0 7 (dk_at dksX1_becomes_0 6 rfl rfl)
theorem dX1_becomes_9 : decode cX1_becomes 9 = .ok (.iconst 1, 1) := dk_4 (dk_at dksX1_becomes_0 9 rfl rfl)
theorem dX1_becomes_10 : decode cX1_becomes 10 = .ok (.goto 4, 3) := dk_167 0 4 (dk_at dksX1_becomes_0 10 rfl rfl)
theorem dX1_becomes_13 : decode cX1_becomes 13 = .ok (.iconst 0, 1) := dk_3 (dk_at dksX1_becomes_0 13 rfl rfl)
theorem dX1_becomes_14 : decode cX1_becomes 14 = .ok (.bipush 6, 2) := dk_16 6 (dk_at dksX1_becomes_0 14 rfl rfl)
theorem dX1_becomes_16 : decode cX1_becomes 16 = .ok (.iload_n 3, 1) := dk_29 (dk_at dksX1_becomes_0 16 rfl rfl)
theorem dX1_becomes_17 : decode cX1_becomes 17 = .ok (.invokestatic 99, 3) := dk_184 0 99 (dk_at dksX1_becomes_0 17 rfl rfl)
theorem dX1_becomes_20 : decode cX1_becomes 20 = .ok (.aload_n 0, 1) := dk_42 (dk_at dksX1_becomes_0 20 rfl rfl)
theorem dX1_becomes_21 : decode cX1_becomes 21 = .ok (.getfield 14, 3) := dk_180 0 14 (dk_at dksX1_becomes_0 21 rfl rfl)
theorem dX1_becomes_24 : decode cX1_becomes 24 = .ok (.iload_n 1, 1) := dk_27 (dk_at dksX1_becomes_1 0 rfl rfl)
theorem dX1_becomes_25 : decode cX1_becomes 25 = .ok (.iload_n 2, 1) := dk_28 (dk_at dksX1_becomes_1 1 rfl rfl)
theorem dX1_becomes_26 : decode cX1_becomes 26 = .ok (.invokevirtual 114, 3) := dk_182 0 114 (dk_at dksX1_becomes_1 2 rfl rfl)
theorem dX1_becomes_29 : decode cX1_becomes 29 = .ok (.aload_n 0, 1) := dk_42 (dk_at dksX1_becomes_1 5 rfl rfl)
theorem dX1_becomes_30 : decode cX1_becomes 30 = .ok (.getfield 14, 3) := dk_180 0 14 (dk_at dksX1_becomes_1 6 rfl rfl)
theorem dX1_becomes_33 : decode cX1_becomes 33 = .ok (.invokevirtual 118, 3) := dk_182 0 118 (dk_at dksX1_becomes_1 9 rfl rfl)
theorem dX1_becomes_36 : decode cX1_becomes 36 = .ok (.ireturn, 1) := dk_172 (dk_at dksX1_becomes_1 12 rfl rfl)
abbrev cX1_addsPage : ByteArray := prog_2_method_12_code
def yX1_addsPage : MethodName := ⟨RX1, "addsPage", "(II)I"⟩
def dkwX1_addsPage_2 : List UInt8 := [172]
abbrev dktX1_addsPage_2 : List UInt8 := dkwX1_addsPage_2 ++ []
def dkwX1_addsPage_1 : List UInt8 := [180, 0, 23, 187, 0, 57, 89, 27, 28, 183, 0, 121, 182, 0, 63, 42, 180, 0, 23, 182, 0, 76, 4, 100]
abbrev dktX1_addsPage_1 : List UInt8 := dkwX1_addsPage_1 ++ dktX1_addsPage_2
def dkwX1_addsPage_0 : List UInt8 := [42, 180, 0, 23, 182, 0, 76, 16, 10, 160, 0, 7, 4, 167, 0, 4, 3, 5, 16, 10, 184, 0, 99, 42]
abbrev dktX1_addsPage_0 : List UInt8 := dkwX1_addsPage_0 ++ dktX1_addsPage_1
theorem dksX1_addsPage_0 : cX1_addsPage.data.toList.drop 0 = dktX1_addsPage_0 := by decide +kernel
theorem dksX1_addsPage_1 : cX1_addsPage.data.toList.drop 24 = dktX1_addsPage_1 := dk_seg dksX1_addsPage_0 24 rfl rfl
theorem dksX1_addsPage_2 : cX1_addsPage.data.toList.drop 48 = dktX1_addsPage_2 := dk_seg dksX1_addsPage_1 24 rfl rfl
theorem dX1_addsPage_0 : decode cX1_addsPage 0 = .ok (.aload_n 0, 1) := dk_42 (dk_at dksX1_addsPage_0 0 rfl rfl)
theorem dX1_addsPage_1 : decode cX1_addsPage 1 = .ok (.getfield 23, 3) := dk_180 0 23 (dk_at dksX1_addsPage_0 1 rfl rfl)
theorem dX1_addsPage_4 : decode cX1_addsPage 4 = .ok (.invokevirtual 76, 3) := dk_182 0 76 (dk_at dksX1_addsPage_0 4 rfl rfl)
theorem dX1_addsPage_7 : decode cX1_addsPage 7 = .ok (.bipush 10, 2) := dk_16 10 (dk_at dksX1_addsPage_0 7 rfl rfl)
theorem dX1_addsPage_9 : decode cX1_addsPage 9 = .ok (.if_icmp .ne 7, 3) := dk_160 0 7 (dk_at dksX1_addsPage_0 9 rfl rfl)
theorem dX1_addsPage_12 : decode cX1_addsPage 12 = .ok (.iconst 1, 1) := dk_4 (dk_at dksX1_addsPage_0 12 rfl rfl)
theorem dX1_addsPage_13 : decode cX1_addsPage 13 = .ok (.goto 4, 3) := dk_167 0 4 (dk_at dksX1_addsPage_0 13 rfl rfl)
theorem dX1_addsPage_16 : decode cX1_addsPage 16 = .ok (.iconst 0, 1) := dk_3 (dk_at dksX1_addsPage_0 16 rfl rfl)
theorem dX1_addsPage_17 : decode cX1_addsPage 17 = .ok (.iconst 2, 1) := dk_5 (dk_at dksX1_addsPage_0 17 rfl rfl)
theorem dX1_addsPage_18 : decode cX1_addsPage 18 = .ok (.bipush 10, 2) := dk_16 10 (dk_at dksX1_addsPage_0 18 rfl rfl)
theorem dX1_addsPage_20 : decode cX1_addsPage 20 = .ok (.invokestatic 99, 3) := dk_184 0 99 (dk_at dksX1_addsPage_0 20 rfl rfl)
theorem dX1_addsPage_23 : decode cX1_addsPage 23 = .ok (.aload_n 0, 1) := dk_42 (dk_at dksX1_addsPage_0 23 rfl rfl)
theorem dX1_addsPage_24 : decode cX1_addsPage 24 = .ok (.getfield 23, 3) := dk_180 0 23 (dk_at dksX1_addsPage_1 0 rfl rfl)
theorem dX1_addsPage_27 : decode cX1_addsPage 27 = .ok (.new 57, 3) := dk_187 0 57 (dk_at dksX1_addsPage_1 3 rfl rfl)
theorem dX1_addsPage_30 : decode cX1_addsPage 30 = .ok (.dup, 1) := dk_89 (dk_at dksX1_addsPage_1 6 rfl rfl)
theorem dX1_addsPage_31 : decode cX1_addsPage 31 = .ok (.iload_n 1, 1) := dk_27 (dk_at dksX1_addsPage_1 7 rfl rfl)
theorem dX1_addsPage_32 : decode cX1_addsPage 32 = .ok (.iload_n 2, 1) := dk_28 (dk_at dksX1_addsPage_1 8 rfl rfl)
theorem dX1_addsPage_33 : decode cX1_addsPage 33 = .ok (.invokespecial 121, 3) := dk_183 0 121 (dk_at dksX1_addsPage_1 9 rfl rfl)
theorem dX1_addsPage_36 : decode cX1_addsPage 36 = .ok (.invokevirtual 63, 3) := dk_182 0 63 (dk_at dksX1_addsPage_1 12 rfl rfl)
theorem dX1_addsPage_39 : decode cX1_addsPage 39 = .ok (.aload_n 0, 1) := dk_42 (dk_at dksX1_addsPage_1 15 rfl rfl)
theorem dX1_addsPage_40 : decode cX1_addsPage 40 = .ok (.getfield 23, 3) := dk_180 0 23 (dk_at dksX1_addsPage_1 16 rfl rfl)
theorem dX1_addsPage_43 : decode cX1_addsPage 43 = .ok (.invokevirtual 76, 3) := dk_182 0 76 (dk_at dksX1_addsPage_1 19 rfl rfl)
theorem dX1_addsPage_46 : decode cX1_addsPage 46 = .ok (.iconst 1, 1) := dk_4 (dk_at dksX1_addsPage_1 22 rfl rfl)
theorem dX1_addsPage_47 : decode cX1_addsPage 47 = .ok (.isub, 1) := dk_100 (dk_at dksX1_addsPage_1 23 rfl rfl)
theorem dX1_addsPage_48 : decode cX1_addsPage 48 = .ok (.ireturn, 1) := dk_172 (dk_at dksX1_addsPage_2 0 rfl rfl)
abbrev cX1_checkForEntry : ByteArray := prog_2_method_13_code
def yX1_checkForEntry : MethodName := ⟨RX1, "checkForEntry", "(II)V"⟩
def dkwX1_checkForEntry_1 : List UInt8 := [177]
abbrev dktX1_checkForEntry_1 : List UInt8 := dkwX1_checkForEntry_1 ++ []
def dkwX1_checkForEntry_0 : List UInt8 := [42, 27, 182, 0, 124, 28, 3, 8, 184, 0, 80, 154, 0, 7, 4, 167, 0, 4, 3, 4, 28, 184, 0, 99]
abbrev dktX1_checkForEntry_0 : List UInt8 := dkwX1_checkForEntry_0 ++ dktX1_checkForEntry_1
theorem dksX1_checkForEntry_0 : cX1_checkForEntry.data.toList.drop 0 = dktX1_checkForEntry_0 := by decide +kernel
theorem dksX1_checkForEntry_1 : cX1_checkForEntry.data.toList.drop 24 = dktX1_checkForEntry_1 := dk_seg dksX1_checkForEntry_0 24 rfl rfl
theorem dX1_checkForEntry_0 : decode cX1_checkForEntry 0 = .ok (.aload_n 0, 1) := dk_42 (dk_at dksX1_checkForEntry_0 0 rfl rfl)
theorem dX1_checkForEntry_1 : decode cX1_checkForEntry 1 = .ok (.iload_n 1, 1) := dk_27 (dk_at dksX1_checkForEntry_0 1 rfl rfl)
theorem dX1_checkForEntry_2 : decode cX1_checkForEntry 2 = .ok (.invokevirtual 124, 3) := dk_182 0 124 (dk_at dksX1_checkForEntry_0 2 rfl rfl)
theorem dX1_checkForEntry_5 : decode cX1_checkForEntry 5 = .ok (.iload_n 2, 1) := dk_28 (dk_at dksX1_checkForEntry_0 5 rfl rfl)
theorem dX1_checkForEntry_6 : decode cX1_checkForEntry 6 = .ok (.iconst 0, 1) := dk_3 (dk_at dksX1_checkForEntry_0 6 rfl rfl)
theorem dX1_checkForEntry_7 : decode cX1_checkForEntry 7 = .ok (.iconst 5, 1) := dk_8 (dk_at dksX1_checkForEntry_0 7 rfl rfl)
theorem dX1_checkForEntry_8 : decode cX1_checkForEntry 8 = .ok (.invokestatic 80, 3) := dk_184 0 80 (dk_at dksX1_checkForEntry_0 8 rfl rfl)
theorem dX1_checkForEntry_11 : decode cX1_checkForEntry 11 = .ok (.ifCond .ne 7, 3) := dk_154 0 7 (dk_at dksX1_checkForEntry_0 11 rfl rfl)
theorem dX1_checkForEntry_14 : decode cX1_checkForEntry 14 = .ok (.iconst 1, 1) := dk_4 (dk_at dksX1_checkForEntry_0 14 rfl rfl)
theorem dX1_checkForEntry_15 : decode cX1_checkForEntry 15 = .ok (.goto 4, 3) := dk_167 0 4 (dk_at dksX1_checkForEntry_0 15 rfl rfl)
theorem dX1_checkForEntry_18 : decode cX1_checkForEntry 18 = .ok (.iconst 0, 1) := dk_3 (dk_at dksX1_checkForEntry_0 18 rfl rfl)
theorem dX1_checkForEntry_19 : decode cX1_checkForEntry 19 = .ok (.iconst 1, 1) := dk_4 (dk_at dksX1_checkForEntry_0 19 rfl rfl)
theorem dX1_checkForEntry_20 : decode cX1_checkForEntry 20 = .ok (.iload_n 2, 1) := dk_28 (dk_at dksX1_checkForEntry_0 20 rfl rfl)
theorem dX1_checkForEntry_21 : decode cX1_checkForEntry 21 = .ok (.invokestatic 99, 3) := dk_184 0 99 (dk_at dksX1_checkForEntry_0 21 rfl rfl)
theorem dX1_checkForEntry_24 : decode cX1_checkForEntry 24 = .ok (.return_, 1) := dk_177 (dk_at dksX1_checkForEntry_1 0 rfl rfl)
abbrev cX1_checkPage : ByteArray := prog_2_method_5_code
def yX1_checkPage : MethodName := ⟨RX1, "checkPage", "(I)V"⟩
def dkwX1_checkPage_0 : List UInt8 := [42, 27, 182, 0, 84, 154, 0, 7, 4, 167, 0, 4, 3, 4, 27, 184, 0, 99, 177]
abbrev dktX1_checkPage_0 : List UInt8 := dkwX1_checkPage_0 ++ []
theorem dksX1_checkPage_0 : cX1_checkPage.data.toList.drop 0 = dktX1_checkPage_0 := by decide +kernel
theorem dX1_checkPage_0 : decode cX1_checkPage 0 = .ok (.aload_n 0, 1) := dk_42 (dk_at dksX1_checkPage_0 0 rfl rfl)
theorem dX1_checkPage_1 : decode cX1_checkPage 1 = .ok (.iload_n 1, 1) := dk_27 (dk_at dksX1_checkPage_0 1 rfl rfl)
theorem dX1_checkPage_2 : decode cX1_checkPage 2 = .ok (.invokevirtual 84, 3) := dk_182 0 84 (dk_at dksX1_checkPage_0 2 rfl rfl)
theorem dX1_checkPage_5 : decode cX1_checkPage 5 = .ok (.ifCond .ne 7, 3) := dk_154 0 7 (dk_at dksX1_checkPage_0 5 rfl rfl)
theorem dX1_checkPage_8 : decode cX1_checkPage 8 = .ok (.iconst 1, 1) := dk_4 (dk_at dksX1_checkPage_0 8 rfl rfl)
theorem dX1_checkPage_9 : decode cX1_checkPage 9 = .ok (.goto 4, 3) := dk_167 0 4 (dk_at dksX1_checkPage_0 9 rfl rfl)
theorem dX1_checkPage_12 : decode cX1_checkPage 12 = .ok (.iconst 0, 1) := dk_3 (dk_at dksX1_checkPage_0 12 rfl rfl)
theorem dX1_checkPage_13 : decode cX1_checkPage 13 = .ok (.iconst 1, 1) := dk_4 (dk_at dksX1_checkPage_0 13 rfl rfl)
theorem dX1_checkPage_14 : decode cX1_checkPage 14 = .ok (.iload_n 1, 1) := dk_27 (dk_at dksX1_checkPage_0 14 rfl rfl)
theorem dX1_checkPage_15 : decode cX1_checkPage 15 = .ok (.invokestatic 99, 3) := dk_184 0 99 (dk_at dksX1_checkPage_0 15 rfl rfl)
theorem dX1_checkPage_18 : decode cX1_checkPage 18 = .ok (.return_, 1) := dk_177 (dk_at dksX1_checkPage_0 18 rfl rfl)
abbrev cX1_isPage : ByteArray := prog_2_method_3_code
def yX1_isPage : MethodName := ⟨RX1, "isPage", "(I)Z"⟩
def dkwX1_isPage_0 : List UInt8 := [27, 3, 42, 180, 0, 23, 182, 0, 76, 4, 100, 184, 0, 80, 172]
abbrev dktX1_isPage_0 : List UInt8 := dkwX1_isPage_0 ++ []
theorem dksX1_isPage_0 : cX1_isPage.data.toList.drop 0 = dktX1_isPage_0 := by decide +kernel
theorem dX1_isPage_0 : decode cX1_isPage 0 = .ok (.iload_n 1, 1) := dk_27 (dk_at dksX1_isPage_0 0 rfl rfl)
theorem dX1_isPage_1 : decode cX1_isPage 1 = .ok (.iconst 0, 1) := dk_3 (dk_at dksX1_isPage_0 1 rfl rfl)
theorem dX1_isPage_2 : decode cX1_isPage 2 = .ok (.aload_n 0, 1) := dk_42 (dk_at dksX1_isPage_0 2 rfl rfl)
theorem dX1_isPage_3 : decode cX1_isPage 3 = .ok (.getfield 23, 3) := dk_180 0 23 (dk_at dksX1_isPage_0 3 rfl rfl)
theorem dX1_isPage_6 : decode cX1_isPage 6 = .ok (.invokevirtual 76, 3) := dk_182 0 76 (dk_at dksX1_isPage_0 6 rfl rfl)
theorem dX1_isPage_9 : decode cX1_isPage 9 = .ok (.iconst 1, 1) := dk_4 (dk_at dksX1_isPage_0 9 rfl rfl)
theorem dX1_isPage_10 : decode cX1_isPage 10 = .ok (.isub, 1) := dk_100 (dk_at dksX1_isPage_0 10 rfl rfl)
theorem dX1_isPage_11 : decode cX1_isPage 11 = .ok (.invokestatic 80, 3) := dk_184 0 80 (dk_at dksX1_isPage_0 11 rfl rfl)
theorem dX1_isPage_14 : decode cX1_isPage 14 = .ok (.ireturn, 1) := dk_172 (dk_at dksX1_isPage_0 14 rfl rfl)
abbrev cX1_addsEntry : ByteArray := prog_2_method_14_code
def yX1_addsEntry : MethodName := ⟨RX1, "addsEntry", "(IIII)I"⟩
def dkwX1_addsEntry_2 : List UInt8 := [21, 4, 183, 0, 129, 182, 0, 132, 87, 25, 5, 180, 0, 92, 182, 0, 96, 4, 100, 172]
abbrev dktX1_addsEntry_2 : List UInt8 := dkwX1_addsEntry_2 ++ []
def dkwX1_addsEntry_1 : List UInt8 := [160, 0, 7, 4, 167, 0, 4, 3, 5, 6, 184, 0, 99, 25, 5, 180, 0, 92, 187, 0, 127, 89, 28, 29]
abbrev dktX1_addsEntry_1 : List UInt8 := dkwX1_addsEntry_1 ++ dktX1_addsEntry_2
def dkwX1_addsEntry_0 : List UInt8 := [42, 180, 0, 23, 27, 182, 0, 88, 192, 0, 57, 58, 5, 25, 5, 180, 0, 92, 182, 0, 96, 6]
abbrev dktX1_addsEntry_0 : List UInt8 := dkwX1_addsEntry_0 ++ dktX1_addsEntry_1
theorem dksX1_addsEntry_0 : cX1_addsEntry.data.toList.drop 0 = dktX1_addsEntry_0 := by decide +kernel
theorem dksX1_addsEntry_1 : cX1_addsEntry.data.toList.drop 22 = dktX1_addsEntry_1 := dk_seg dksX1_addsEntry_0 22 rfl rfl
theorem dksX1_addsEntry_2 : cX1_addsEntry.data.toList.drop 46 = dktX1_addsEntry_2 := dk_seg dksX1_addsEntry_1 24 rfl rfl
theorem dX1_addsEntry_0 : decode cX1_addsEntry 0 = .ok (.aload_n 0, 1) := dk_42 (dk_at dksX1_addsEntry_0 0 rfl rfl)
theorem dX1_addsEntry_1 : decode cX1_addsEntry 1 = .ok (.getfield 23, 3) := dk_180 0 23 (dk_at dksX1_addsEntry_0 1 rfl rfl)
theorem dX1_addsEntry_4 : decode cX1_addsEntry 4 = .ok (.iload_n 1, 1) := dk_27 (dk_at dksX1_addsEntry_0 4 rfl rfl)
theorem dX1_addsEntry_5 : decode cX1_addsEntry 5 = .ok (.invokevirtual 88, 3) := dk_182 0 88 (dk_at dksX1_addsEntry_0 5 rfl rfl)
theorem dX1_addsEntry_8 : decode cX1_addsEntry 8 = .ok (.checkcast 57, 3) := dk_192 0 57 (dk_at dksX1_addsEntry_0 8 rfl rfl)
theorem dX1_addsEntry_11 : decode cX1_addsEntry 11 = .ok (.astore 5, 2) := dk_58 5 (dk_at dksX1_addsEntry_0 11 rfl rfl)
theorem dX1_addsEntry_13 : decode cX1_addsEntry 13 = .ok (.aload 5, 2) := dk_25 5 (dk_at dksX1_addsEntry_0 13 rfl rfl)
theorem dX1_addsEntry_15 : decode cX1_addsEntry 15 = .ok (.getfield 92, 3) := dk_180 0 92 (dk_at dksX1_addsEntry_0 15 rfl rfl)
theorem dX1_addsEntry_18 : decode cX1_addsEntry 18 = .ok (.invokevirtual 96, 3) := dk_182 0 96 (dk_at dksX1_addsEntry_0 18 rfl rfl)
theorem dX1_addsEntry_21 : decode cX1_addsEntry 21 = .ok (.iconst 3, 1) := dk_6 (dk_at dksX1_addsEntry_0 21 rfl rfl)
theorem dX1_addsEntry_22 : decode cX1_addsEntry 22 = .ok (.if_icmp .ne 7, 3) := dk_160 0 7 (dk_at dksX1_addsEntry_1 0 rfl rfl)
theorem dX1_addsEntry_25 : decode cX1_addsEntry 25 = .ok (.iconst 1, 1) := dk_4 (dk_at dksX1_addsEntry_1 3 rfl rfl)
theorem dX1_addsEntry_26 : decode cX1_addsEntry 26 = .ok (.goto 4, 3) := dk_167 0 4 (dk_at dksX1_addsEntry_1 4 rfl rfl)
theorem dX1_addsEntry_29 : decode cX1_addsEntry 29 = .ok (.iconst 0, 1) := dk_3 (dk_at dksX1_addsEntry_1 7 rfl rfl)
theorem dX1_addsEntry_30 : decode cX1_addsEntry 30 = .ok (.iconst 2, 1) := dk_5 (dk_at dksX1_addsEntry_1 8 rfl rfl)
theorem dX1_addsEntry_31 : decode cX1_addsEntry 31 = .ok (.iconst 3, 1) := dk_6 (dk_at dksX1_addsEntry_1 9 rfl rfl)
theorem dX1_addsEntry_32 : decode cX1_addsEntry 32 = .ok (.invokestatic 99, 3) := dk_184 0 99 (dk_at dksX1_addsEntry_1 10 rfl rfl)
theorem dX1_addsEntry_35 : decode cX1_addsEntry 35 = .ok (.aload 5, 2) := dk_25 5 (dk_at dksX1_addsEntry_1 13 rfl rfl)
theorem dX1_addsEntry_37 : decode cX1_addsEntry 37 = .ok (.getfield 92, 3) := dk_180 0 92 (dk_at dksX1_addsEntry_1 15 rfl rfl)
theorem dX1_addsEntry_40 : decode cX1_addsEntry 40 = .ok (.new 127, 3) := dk_187 0 127 (dk_at dksX1_addsEntry_1 18 rfl rfl)
theorem dX1_addsEntry_43 : decode cX1_addsEntry 43 = .ok (.dup, 1) := dk_89 (dk_at dksX1_addsEntry_1 21 rfl rfl)
theorem dX1_addsEntry_44 : decode cX1_addsEntry 44 = .ok (.iload_n 2, 1) := dk_28 (dk_at dksX1_addsEntry_1 22 rfl rfl)
theorem dX1_addsEntry_45 : decode cX1_addsEntry 45 = .ok (.iload_n 3, 1) := dk_29 (dk_at dksX1_addsEntry_1 23 rfl rfl)
theorem dX1_addsEntry_46 : decode cX1_addsEntry 46 = .ok (.iload 4, 2) := dk_21 4 (dk_at dksX1_addsEntry_2 0 rfl rfl)
theorem dX1_addsEntry_48 : decode cX1_addsEntry 48 = .ok (.invokespecial 129, 3) := dk_183 0 129 (dk_at dksX1_addsEntry_2 2 rfl rfl)
theorem dX1_addsEntry_51 : decode cX1_addsEntry 51 = .ok (.invokevirtual 132, 3) := dk_182 0 132 (dk_at dksX1_addsEntry_2 5 rfl rfl)
theorem dX1_addsEntry_54 : decode cX1_addsEntry 54 = .ok (.pop, 1) := dk_87 (dk_at dksX1_addsEntry_2 8 rfl rfl)
theorem dX1_addsEntry_55 : decode cX1_addsEntry 55 = .ok (.aload 5, 2) := dk_25 5 (dk_at dksX1_addsEntry_2 9 rfl rfl)
theorem dX1_addsEntry_57 : decode cX1_addsEntry 57 = .ok (.getfield 92, 3) := dk_180 0 92 (dk_at dksX1_addsEntry_2 11 rfl rfl)
theorem dX1_addsEntry_60 : decode cX1_addsEntry 60 = .ok (.invokevirtual 96, 3) := dk_182 0 96 (dk_at dksX1_addsEntry_2 14 rfl rfl)
theorem dX1_addsEntry_63 : decode cX1_addsEntry 63 = .ok (.iconst 1, 1) := dk_4 (dk_at dksX1_addsEntry_2 17 rfl rfl)
theorem dX1_addsEntry_64 : decode cX1_addsEntry 64 = .ok (.isub, 1) := dk_100 (dk_at dksX1_addsEntry_2 18 rfl rfl)
theorem dX1_addsEntry_65 : decode cX1_addsEntry 65 = .ok (.ireturn, 1) := dk_172 (dk_at dksX1_addsEntry_2 19 rfl rfl)
abbrev cX1_readsPage : ByteArray := prog_2_method_15_code
def yX1_readsPage : MethodName := ⟨RX1, "readsPage", "(II)I"⟩
def dkwX1_readsPage_4 : List UInt8 := [180, 0, 73, 4, 96, 181, 0, 73, 45, 182, 0, 139, 172]
abbrev dktX1_readsPage_4 : List UInt8 := dkwX1_readsPage_4 ++ []
def dkwX1_readsPage_3 : List UInt8 := [4, 167, 0, 4, 3, 7, 45, 180, 0, 92, 182, 0, 96, 184, 0, 99, 45, 28, 182, 0, 136, 42, 89]
abbrev dktX1_readsPage_3 : List UInt8 := dkwX1_readsPage_3 ++ dktX1_readsPage_4
def dkwX1_readsPage_2 : List UInt8 := [154, 0, 7, 4, 167, 0, 4, 3, 6, 45, 180, 0, 111, 184, 0, 99, 45, 3, 182, 0, 107, 154, 0, 7]
abbrev dktX1_readsPage_2 : List UInt8 := dkwX1_readsPage_2 ++ dktX1_readsPage_3
def dkwX1_readsPage_1 : List UInt8 := [42, 180, 0, 23, 27, 182, 0, 88, 192, 0, 57, 78, 45, 28, 42, 180, 0, 27, 28, 46, 182, 0, 103]
abbrev dktX1_readsPage_1 : List UInt8 := dkwX1_readsPage_1 ++ dktX1_readsPage_2
def dkwX1_readsPage_0 : List UInt8 := [42, 27, 182, 0, 124, 28, 3, 5, 184, 0, 80, 154, 0, 7, 4, 167, 0, 4, 3, 4, 28, 184, 0, 99]
abbrev dktX1_readsPage_0 : List UInt8 := dkwX1_readsPage_0 ++ dktX1_readsPage_1
theorem dksX1_readsPage_0 : cX1_readsPage.data.toList.drop 0 = dktX1_readsPage_0 := by decide +kernel
theorem dksX1_readsPage_1 : cX1_readsPage.data.toList.drop 24 = dktX1_readsPage_1 := dk_seg dksX1_readsPage_0 24 rfl rfl
theorem dksX1_readsPage_2 : cX1_readsPage.data.toList.drop 47 = dktX1_readsPage_2 := dk_seg dksX1_readsPage_1 23 rfl rfl
theorem dksX1_readsPage_3 : cX1_readsPage.data.toList.drop 71 = dktX1_readsPage_3 := dk_seg dksX1_readsPage_2 24 rfl rfl
theorem dksX1_readsPage_4 : cX1_readsPage.data.toList.drop 94 = dktX1_readsPage_4 := dk_seg dksX1_readsPage_3 23 rfl rfl
theorem dX1_readsPage_0 : decode cX1_readsPage 0 = .ok (.aload_n 0, 1) := dk_42 (dk_at dksX1_readsPage_0 0 rfl rfl)
theorem dX1_readsPage_1 : decode cX1_readsPage 1 = .ok (.iload_n 1, 1) := dk_27 (dk_at dksX1_readsPage_0 1 rfl rfl)
theorem dX1_readsPage_2 : decode cX1_readsPage 2 = .ok (.invokevirtual 124, 3) := dk_182 0 124 (dk_at dksX1_readsPage_0 2 rfl rfl)
theorem dX1_readsPage_5 : decode cX1_readsPage 5 = .ok (.iload_n 2, 1) := dk_28 (dk_at dksX1_readsPage_0 5 rfl rfl)
theorem dX1_readsPage_6 : decode cX1_readsPage 6 = .ok (.iconst 0, 1) := dk_3 (dk_at dksX1_readsPage_0 6 rfl rfl)
theorem dX1_readsPage_7 : decode cX1_readsPage 7 = .ok (.iconst 2, 1) := dk_5 (dk_at dksX1_readsPage_0 7 rfl rfl)
theorem dX1_readsPage_8 : decode cX1_readsPage 8 = .ok (.invokestatic 80, 3) := dk_184 0 80 (dk_at dksX1_readsPage_0 8 rfl rfl)
theorem dX1_readsPage_11 : decode cX1_readsPage 11 = .ok (.ifCond .ne 7, 3) := dk_154 0 7 (dk_at dksX1_readsPage_0 11 rfl rfl)
theorem dX1_readsPage_14 : decode cX1_readsPage 14 = .ok (.iconst 1, 1) := dk_4 (dk_at dksX1_readsPage_0 14 rfl rfl)
theorem dX1_readsPage_15 : decode cX1_readsPage 15 = .ok (.goto 4, 3) := dk_167 0 4 (dk_at dksX1_readsPage_0 15 rfl rfl)
theorem dX1_readsPage_18 : decode cX1_readsPage 18 = .ok (.iconst 0, 1) := dk_3 (dk_at dksX1_readsPage_0 18 rfl rfl)
theorem dX1_readsPage_19 : decode cX1_readsPage 19 = .ok (.iconst 1, 1) := dk_4 (dk_at dksX1_readsPage_0 19 rfl rfl)
theorem dX1_readsPage_20 : decode cX1_readsPage 20 = .ok (.iload_n 2, 1) := dk_28 (dk_at dksX1_readsPage_0 20 rfl rfl)
theorem dX1_readsPage_21 : decode cX1_readsPage 21 = .ok (.invokestatic 99, 3) := dk_184 0 99 (dk_at dksX1_readsPage_0 21 rfl rfl)
theorem dX1_readsPage_24 : decode cX1_readsPage 24 = .ok (.aload_n 0, 1) := dk_42 (dk_at dksX1_readsPage_1 0 rfl rfl)
theorem dX1_readsPage_25 : decode cX1_readsPage 25 = .ok (.getfield 23, 3) := dk_180 0 23 (dk_at dksX1_readsPage_1 1 rfl rfl)
theorem dX1_readsPage_28 : decode cX1_readsPage 28 = .ok (.iload_n 1, 1) := dk_27 (dk_at dksX1_readsPage_1 4 rfl rfl)
theorem dX1_readsPage_29 : decode cX1_readsPage 29 = .ok (.invokevirtual 88, 3) := dk_182 0 88 (dk_at dksX1_readsPage_1 5 rfl rfl)
theorem dX1_readsPage_32 : decode cX1_readsPage 32 = .ok (.checkcast 57, 3) := dk_192 0 57 (dk_at dksX1_readsPage_1 8 rfl rfl)
theorem dX1_readsPage_35 : decode cX1_readsPage 35 = .ok (.astore_n 3, 1) := dk_78 (dk_at dksX1_readsPage_1 11 rfl rfl)
theorem dX1_readsPage_36 : decode cX1_readsPage 36 = .ok (.aload_n 3, 1) := dk_45 (dk_at dksX1_readsPage_1 12 rfl rfl)
theorem dX1_readsPage_37 : decode cX1_readsPage 37 = .ok (.iload_n 2, 1) := dk_28 (dk_at dksX1_readsPage_1 13 rfl rfl)
theorem dX1_readsPage_38 : decode cX1_readsPage 38 = .ok (.aload_n 0, 1) := dk_42 (dk_at dksX1_readsPage_1 14 rfl rfl)
theorem dX1_readsPage_39 : decode cX1_readsPage 39 = .ok (.getfield 27, 3) := dk_180 0 27 (dk_at dksX1_readsPage_1 15 rfl rfl)
theorem dX1_readsPage_42 : decode cX1_readsPage 42 = .ok (.iload_n 2, 1) := dk_28 (dk_at dksX1_readsPage_1 18 rfl rfl)
theorem dX1_readsPage_43 : decode cX1_readsPage 43 = .ok (.iaload, 1) := dk_46 (dk_at dksX1_readsPage_1 19 rfl rfl)
theorem dX1_readsPage_44 : decode cX1_readsPage 44 = .ok (.invokevirtual 103, 3) := dk_182 0 103 (dk_at dksX1_readsPage_1 20 rfl rfl)
theorem dX1_readsPage_47 : decode cX1_readsPage 47 = .ok (.ifCond .ne 7, 3) := dk_154 0 7 (dk_at dksX1_readsPage_2 0 rfl rfl)
theorem dX1_readsPage_50 : decode cX1_readsPage 50 = .ok (.iconst 1, 1) := dk_4 (dk_at dksX1_readsPage_2 3 rfl rfl)
theorem dX1_readsPage_51 : decode cX1_readsPage 51 = .ok (.goto 4, 3) := dk_167 0 4 (dk_at dksX1_readsPage_2 4 rfl rfl)
theorem dX1_readsPage_54 : decode cX1_readsPage 54 = .ok (.iconst 0, 1) := dk_3 (dk_at dksX1_readsPage_2 7 rfl rfl)
theorem dX1_readsPage_55 : decode cX1_readsPage 55 = .ok (.iconst 3, 1) := dk_6 (dk_at dksX1_readsPage_2 8 rfl rfl)
theorem dX1_readsPage_56 : decode cX1_readsPage 56 = .ok (.aload_n 3, 1) := dk_45 (dk_at dksX1_readsPage_2 9 rfl rfl)
theorem dX1_readsPage_57 : decode cX1_readsPage 57 = .ok (.getfield 111, 3) := dk_180 0 111 (dk_at dksX1_readsPage_2 10 rfl rfl)
theorem dX1_readsPage_60 : decode cX1_readsPage 60 = .ok (.invokestatic 99, 3) := dk_184 0 99 (dk_at dksX1_readsPage_2 13 rfl rfl)
theorem dX1_readsPage_63 : decode cX1_readsPage 63 = .ok (.aload_n 3, 1) := dk_45 (dk_at dksX1_readsPage_2 16 rfl rfl)
theorem dX1_readsPage_64 : decode cX1_readsPage 64 = .ok (.iconst 0, 1) := dk_3 (dk_at dksX1_readsPage_2 17 rfl rfl)
theorem dX1_readsPage_65 : decode cX1_readsPage 65 = .ok (.invokevirtual 107, 3) := dk_182 0 107 (dk_at dksX1_readsPage_2 18 rfl rfl)
theorem dX1_readsPage_68 : decode cX1_readsPage 68 = .ok (.ifCond .ne 7, 3) := dk_154 0 7 (dk_at dksX1_readsPage_2 21 rfl rfl)
theorem dX1_readsPage_71 : decode cX1_readsPage 71 = .ok (.iconst 1, 1) := dk_4 (dk_at dksX1_readsPage_3 0 rfl rfl)
theorem dX1_readsPage_72 : decode cX1_readsPage 72 = .ok (.goto 4, 3) := dk_167 0 4 (dk_at dksX1_readsPage_3 1 rfl rfl)
theorem dX1_readsPage_75 : decode cX1_readsPage 75 = .ok (.iconst 0, 1) := dk_3 (dk_at dksX1_readsPage_3 4 rfl rfl)
theorem dX1_readsPage_76 : decode cX1_readsPage 76 = .ok (.iconst 4, 1) := dk_7 (dk_at dksX1_readsPage_3 5 rfl rfl)
theorem dX1_readsPage_77 : decode cX1_readsPage 77 = .ok (.aload_n 3, 1) := dk_45 (dk_at dksX1_readsPage_3 6 rfl rfl)
theorem dX1_readsPage_78 : decode cX1_readsPage 78 = .ok (.getfield 92, 3) := dk_180 0 92 (dk_at dksX1_readsPage_3 7 rfl rfl)
theorem dX1_readsPage_81 : decode cX1_readsPage 81 = .ok (.invokevirtual 96, 3) := dk_182 0 96 (dk_at dksX1_readsPage_3 10 rfl rfl)
theorem dX1_readsPage_84 : decode cX1_readsPage 84 = .ok (.invokestatic 99, 3) := dk_184 0 99 (dk_at dksX1_readsPage_3 13 rfl rfl)
theorem dX1_readsPage_87 : decode cX1_readsPage 87 = .ok (.aload_n 3, 1) := dk_45 (dk_at dksX1_readsPage_3 16 rfl rfl)
theorem dX1_readsPage_88 : decode cX1_readsPage 88 = .ok (.iload_n 2, 1) := dk_28 (dk_at dksX1_readsPage_3 17 rfl rfl)
theorem dX1_readsPage_89 : decode cX1_readsPage 89 = .ok (.invokevirtual 136, 3) := dk_182 0 136 (dk_at dksX1_readsPage_3 18 rfl rfl)
theorem dX1_readsPage_92 : decode cX1_readsPage 92 = .ok (.aload_n 0, 1) := dk_42 (dk_at dksX1_readsPage_3 21 rfl rfl)
theorem dX1_readsPage_93 : decode cX1_readsPage 93 = .ok (.dup, 1) := dk_89 (dk_at dksX1_readsPage_3 22 rfl rfl)
theorem dX1_readsPage_94 : decode cX1_readsPage 94 = .ok (.getfield 73, 3) := dk_180 0 73 (dk_at dksX1_readsPage_4 0 rfl rfl)
theorem dX1_readsPage_97 : decode cX1_readsPage 97 = .ok (.iconst 1, 1) := dk_4 (dk_at dksX1_readsPage_4 3 rfl rfl)
theorem dX1_readsPage_98 : decode cX1_readsPage 98 = .ok (.iadd, 1) := dk_96 (dk_at dksX1_readsPage_4 4 rfl rfl)
theorem dX1_readsPage_99 : decode cX1_readsPage 99 = .ok (.putfield 73, 3) := dk_181 0 73 (dk_at dksX1_readsPage_4 5 rfl rfl)
theorem dX1_readsPage_102 : decode cX1_readsPage 102 = .ok (.aload_n 3, 1) := dk_45 (dk_at dksX1_readsPage_4 8 rfl rfl)
theorem dX1_readsPage_103 : decode cX1_readsPage 103 = .ok (.invokevirtual 139, 3) := dk_182 0 139 (dk_at dksX1_readsPage_4 9 rfl rfl)
theorem dX1_readsPage_106 : decode cX1_readsPage 106 = .ok (.ireturn, 1) := dk_172 (dk_at dksX1_readsPage_4 12 rfl rfl)
abbrev cX1_strikes : ByteArray := prog_2_method_16_code
def yX1_strikes : MethodName := ⟨RX1, "strikes", "(II)I"⟩
def dkwX1_strikes_3 : List UInt8 := [181, 0, 146, 42, 4, 182, 0, 149, 172]
abbrev dktX1_strikes_3 : List UInt8 := dkwX1_strikes_3 ++ []
def dkwX1_strikes_2 : List UInt8 := [180, 0, 146, 4, 159, 0, 7, 4, 167, 0, 4, 3, 8, 45, 180, 0, 146, 184, 0, 99, 45, 5]
abbrev dktX1_strikes_2 : List UInt8 := dkwX1_strikes_2 ++ dktX1_strikes_3
def dkwX1_strikes_1 : List UInt8 := [42, 180, 0, 23, 27, 182, 0, 88, 192, 0, 57, 180, 0, 92, 28, 182, 0, 145, 192, 0, 127, 78, 45]
abbrev dktX1_strikes_1 : List UInt8 := dkwX1_strikes_1 ++ dktX1_strikes_2
def dkwX1_strikes_0 : List UInt8 := [42, 27, 182, 0, 124, 42, 27, 28, 182, 0, 142, 154, 0, 7, 4, 167, 0, 4, 3, 4, 28, 184, 0, 99]
abbrev dktX1_strikes_0 : List UInt8 := dkwX1_strikes_0 ++ dktX1_strikes_1
theorem dksX1_strikes_0 : cX1_strikes.data.toList.drop 0 = dktX1_strikes_0 := by decide +kernel
theorem dksX1_strikes_1 : cX1_strikes.data.toList.drop 24 = dktX1_strikes_1 := dk_seg dksX1_strikes_0 24 rfl rfl
theorem dksX1_strikes_2 : cX1_strikes.data.toList.drop 47 = dktX1_strikes_2 := dk_seg dksX1_strikes_1 23 rfl rfl
theorem dksX1_strikes_3 : cX1_strikes.data.toList.drop 69 = dktX1_strikes_3 := dk_seg dksX1_strikes_2 22 rfl rfl
theorem dX1_strikes_0 : decode cX1_strikes 0 = .ok (.aload_n 0, 1) := dk_42 (dk_at dksX1_strikes_0 0 rfl rfl)
theorem dX1_strikes_1 : decode cX1_strikes 1 = .ok (.iload_n 1, 1) := dk_27 (dk_at dksX1_strikes_0 1 rfl rfl)
theorem dX1_strikes_2 : decode cX1_strikes 2 = .ok (.invokevirtual 124, 3) := dk_182 0 124 (dk_at dksX1_strikes_0 2 rfl rfl)
theorem dX1_strikes_5 : decode cX1_strikes 5 = .ok (.aload_n 0, 1) := dk_42 (dk_at dksX1_strikes_0 5 rfl rfl)
theorem dX1_strikes_6 : decode cX1_strikes 6 = .ok (.iload_n 1, 1) := dk_27 (dk_at dksX1_strikes_0 6 rfl rfl)
theorem dX1_strikes_7 : decode cX1_strikes 7 = .ok (.iload_n 2, 1) := dk_28 (dk_at dksX1_strikes_0 7 rfl rfl)
theorem dX1_strikes_8 : decode cX1_strikes 8 = .ok (.invokevirtual 142, 3) := dk_182 0 142 (dk_at dksX1_strikes_0 8 rfl rfl)
theorem dX1_strikes_11 : decode cX1_strikes 11 = .ok (.ifCond .ne 7, 3) := dk_154 0 7 (dk_at dksX1_strikes_0 11 rfl rfl)
theorem dX1_strikes_14 : decode cX1_strikes 14 = .ok (.iconst 1, 1) := dk_4 (dk_at dksX1_strikes_0 14 rfl rfl)
theorem dX1_strikes_15 : decode cX1_strikes 15 = .ok (.goto 4, 3) := dk_167 0 4 (dk_at dksX1_strikes_0 15 rfl rfl)
theorem dX1_strikes_18 : decode cX1_strikes 18 = .ok (.iconst 0, 1) := dk_3 (dk_at dksX1_strikes_0 18 rfl rfl)
theorem dX1_strikes_19 : decode cX1_strikes 19 = .ok (.iconst 1, 1) := dk_4 (dk_at dksX1_strikes_0 19 rfl rfl)
theorem dX1_strikes_20 : decode cX1_strikes 20 = .ok (.iload_n 2, 1) := dk_28 (dk_at dksX1_strikes_0 20 rfl rfl)
theorem dX1_strikes_21 : decode cX1_strikes 21 = .ok (.invokestatic 99, 3) := dk_184 0 99 (dk_at dksX1_strikes_0 21 rfl rfl)
theorem dX1_strikes_24 : decode cX1_strikes 24 = .ok (.aload_n 0, 1) := dk_42 (dk_at dksX1_strikes_1 0 rfl rfl)
theorem dX1_strikes_25 : decode cX1_strikes 25 = .ok (.getfield 23, 3) := dk_180 0 23 (dk_at dksX1_strikes_1 1 rfl rfl)
theorem dX1_strikes_28 : decode cX1_strikes 28 = .ok (.iload_n 1, 1) := dk_27 (dk_at dksX1_strikes_1 4 rfl rfl)
theorem dX1_strikes_29 : decode cX1_strikes 29 = .ok (.invokevirtual 88, 3) := dk_182 0 88 (dk_at dksX1_strikes_1 5 rfl rfl)
theorem dX1_strikes_32 : decode cX1_strikes 32 = .ok (.checkcast 57, 3) := dk_192 0 57 (dk_at dksX1_strikes_1 8 rfl rfl)
theorem dX1_strikes_35 : decode cX1_strikes 35 = .ok (.getfield 92, 3) := dk_180 0 92 (dk_at dksX1_strikes_1 11 rfl rfl)
theorem dX1_strikes_38 : decode cX1_strikes 38 = .ok (.iload_n 2, 1) := dk_28 (dk_at dksX1_strikes_1 14 rfl rfl)
theorem dX1_strikes_39 : decode cX1_strikes 39 = .ok (.invokevirtual 145, 3) := dk_182 0 145 (dk_at dksX1_strikes_1 15 rfl rfl)
theorem dX1_strikes_42 : decode cX1_strikes 42 = .ok (.checkcast 127, 3) := dk_192 0 127 (dk_at dksX1_strikes_1 18 rfl rfl)
theorem dX1_strikes_45 : decode cX1_strikes 45 = .ok (.astore_n 3, 1) := dk_78 (dk_at dksX1_strikes_1 21 rfl rfl)
theorem dX1_strikes_46 : decode cX1_strikes 46 = .ok (.aload_n 3, 1) := dk_45 (dk_at dksX1_strikes_1 22 rfl rfl)
theorem dX1_strikes_47 : decode cX1_strikes 47 = .ok (.getfield 146, 3) := dk_180 0 146 (dk_at dksX1_strikes_2 0 rfl rfl)
theorem dX1_strikes_50 : decode cX1_strikes 50 = .ok (.iconst 1, 1) := dk_4 (dk_at dksX1_strikes_2 3 rfl rfl)
theorem dX1_strikes_51 : decode cX1_strikes 51 = .ok (.if_icmp .eq 7, 3) := dk_159 0 7 (dk_at dksX1_strikes_2 4 rfl rfl)
theorem dX1_strikes_54 : decode cX1_strikes 54 = .ok (.iconst 1, 1) := dk_4 (dk_at dksX1_strikes_2 7 rfl rfl)
theorem dX1_strikes_55 : decode cX1_strikes 55 = .ok (.goto 4, 3) := dk_167 0 4 (dk_at dksX1_strikes_2 8 rfl rfl)
theorem dX1_strikes_58 : decode cX1_strikes 58 = .ok (.iconst 0, 1) := dk_3 (dk_at dksX1_strikes_2 11 rfl rfl)
theorem dX1_strikes_59 : decode cX1_strikes 59 = .ok (.iconst 5, 1) := dk_8 (dk_at dksX1_strikes_2 12 rfl rfl)
theorem dX1_strikes_60 : decode cX1_strikes 60 = .ok (.aload_n 3, 1) := dk_45 (dk_at dksX1_strikes_2 13 rfl rfl)
theorem dX1_strikes_61 : decode cX1_strikes 61 = .ok (.getfield 146, 3) := dk_180 0 146 (dk_at dksX1_strikes_2 14 rfl rfl)
theorem dX1_strikes_64 : decode cX1_strikes 64 = .ok (.invokestatic 99, 3) := dk_184 0 99 (dk_at dksX1_strikes_2 17 rfl rfl)
theorem dX1_strikes_67 : decode cX1_strikes 67 = .ok (.aload_n 3, 1) := dk_45 (dk_at dksX1_strikes_2 20 rfl rfl)
theorem dX1_strikes_68 : decode cX1_strikes 68 = .ok (.iconst 2, 1) := dk_5 (dk_at dksX1_strikes_2 21 rfl rfl)
theorem dX1_strikes_69 : decode cX1_strikes 69 = .ok (.putfield 146, 3) := dk_181 0 146 (dk_at dksX1_strikes_3 0 rfl rfl)
theorem dX1_strikes_72 : decode cX1_strikes 72 = .ok (.aload_n 0, 1) := dk_42 (dk_at dksX1_strikes_3 3 rfl rfl)
theorem dX1_strikes_73 : decode cX1_strikes 73 = .ok (.iconst 1, 1) := dk_4 (dk_at dksX1_strikes_3 4 rfl rfl)
theorem dX1_strikes_74 : decode cX1_strikes 74 = .ok (.invokevirtual 149, 3) := dk_182 0 149 (dk_at dksX1_strikes_3 5 rfl rfl)
theorem dX1_strikes_77 : decode cX1_strikes 77 = .ok (.ireturn, 1) := dk_172 (dk_at dksX1_strikes_3 8 rfl rfl)
abbrev cX1_isEntry : ByteArray := prog_2_method_4_code
def yX1_isEntry : MethodName := ⟨RX1, "isEntry", "(II)Z"⟩
def dkwX1_isEntry_1 : List UInt8 := [182, 0, 96, 4, 100, 184, 0, 80, 153, 0, 7, 4, 167, 0, 4, 3, 172]
abbrev dktX1_isEntry_1 : List UInt8 := dkwX1_isEntry_1 ++ []
def dkwX1_isEntry_0 : List UInt8 := [42, 27, 182, 0, 84, 153, 0, 34, 28, 3, 42, 180, 0, 23, 27, 182, 0, 88, 192, 0, 57, 180, 0, 92]
abbrev dktX1_isEntry_0 : List UInt8 := dkwX1_isEntry_0 ++ dktX1_isEntry_1
theorem dksX1_isEntry_0 : cX1_isEntry.data.toList.drop 0 = dktX1_isEntry_0 := by decide +kernel
theorem dksX1_isEntry_1 : cX1_isEntry.data.toList.drop 24 = dktX1_isEntry_1 := dk_seg dksX1_isEntry_0 24 rfl rfl
theorem dX1_isEntry_0 : decode cX1_isEntry 0 = .ok (.aload_n 0, 1) := dk_42 (dk_at dksX1_isEntry_0 0 rfl rfl)
theorem dX1_isEntry_1 : decode cX1_isEntry 1 = .ok (.iload_n 1, 1) := dk_27 (dk_at dksX1_isEntry_0 1 rfl rfl)
theorem dX1_isEntry_2 : decode cX1_isEntry 2 = .ok (.invokevirtual 84, 3) := dk_182 0 84 (dk_at dksX1_isEntry_0 2 rfl rfl)
theorem dX1_isEntry_5 : decode cX1_isEntry 5 = .ok (.ifCond .eq 34, 3) := dk_153 0 34 (dk_at dksX1_isEntry_0 5 rfl rfl)
theorem dX1_isEntry_8 : decode cX1_isEntry 8 = .ok (.iload_n 2, 1) := dk_28 (dk_at dksX1_isEntry_0 8 rfl rfl)
theorem dX1_isEntry_9 : decode cX1_isEntry 9 = .ok (.iconst 0, 1) := dk_3 (dk_at dksX1_isEntry_0 9 rfl rfl)
theorem dX1_isEntry_10 : decode cX1_isEntry 10 = .ok (.aload_n 0, 1) := dk_42 (dk_at dksX1_isEntry_0 10 rfl rfl)
theorem dX1_isEntry_11 : decode cX1_isEntry 11 = .ok (.getfield 23, 3) := dk_180 0 23 (dk_at dksX1_isEntry_0 11 rfl rfl)
theorem dX1_isEntry_14 : decode cX1_isEntry 14 = .ok (.iload_n 1, 1) := dk_27 (dk_at dksX1_isEntry_0 14 rfl rfl)
theorem dX1_isEntry_15 : decode cX1_isEntry 15 = .ok (.invokevirtual 88, 3) := dk_182 0 88 (dk_at dksX1_isEntry_0 15 rfl rfl)
theorem dX1_isEntry_18 : decode cX1_isEntry 18 = .ok (.checkcast 57, 3) := dk_192 0 57 (dk_at dksX1_isEntry_0 18 rfl rfl)
theorem dX1_isEntry_21 : decode cX1_isEntry 21 = .ok (.getfield 92, 3) := dk_180 0 92 (dk_at dksX1_isEntry_0 21 rfl rfl)
theorem dX1_isEntry_24 : decode cX1_isEntry 24 = .ok (.invokevirtual 96, 3) := dk_182 0 96 (dk_at dksX1_isEntry_1 0 rfl rfl)
theorem dX1_isEntry_27 : decode cX1_isEntry 27 = .ok (.iconst 1, 1) := dk_4 (dk_at dksX1_isEntry_1 3 rfl rfl)
theorem dX1_isEntry_28 : decode cX1_isEntry 28 = .ok (.isub, 1) := dk_100 (dk_at dksX1_isEntry_1 4 rfl rfl)
theorem dX1_isEntry_29 : decode cX1_isEntry 29 = .ok (.invokestatic 80, 3) := dk_184 0 80 (dk_at dksX1_isEntry_1 5 rfl rfl)
theorem dX1_isEntry_32 : decode cX1_isEntry 32 = .ok (.ifCond .eq 7, 3) := dk_153 0 7 (dk_at dksX1_isEntry_1 8 rfl rfl)
theorem dX1_isEntry_35 : decode cX1_isEntry 35 = .ok (.iconst 1, 1) := dk_4 (dk_at dksX1_isEntry_1 11 rfl rfl)
theorem dX1_isEntry_36 : decode cX1_isEntry 36 = .ok (.goto 4, 3) := dk_167 0 4 (dk_at dksX1_isEntry_1 12 rfl rfl)
theorem dX1_isEntry_39 : decode cX1_isEntry 39 = .ok (.iconst 0, 1) := dk_3 (dk_at dksX1_isEntry_1 15 rfl rfl)
theorem dX1_isEntry_40 : decode cX1_isEntry 40 = .ok (.ireturn, 1) := dk_172 (dk_at dksX1_isEntry_1 16 rfl rfl)
abbrev cX1_many : ByteArray := prog_2_method_8_code
def yX1_many : MethodName := ⟨RX1, "many", "(I)I"⟩
def dkwX1_many_1 : List UInt8 := [185, 0, 53, 1, 0, 192, 0, 57, 27, 182, 0, 107, 96, 61, 167, 255, 231, 28, 172]
abbrev dktX1_many_1 : List UInt8 := dkwX1_many_1 ++ []
def dkwX1_many_0 : List UInt8 := [3, 61, 42, 180, 0, 23, 182, 0, 43, 78, 45, 185, 0, 47, 1, 0, 153, 0, 22, 28, 45]
abbrev dktX1_many_0 : List UInt8 := dkwX1_many_0 ++ dktX1_many_1
theorem dksX1_many_0 : cX1_many.data.toList.drop 0 = dktX1_many_0 := by decide +kernel
theorem dksX1_many_1 : cX1_many.data.toList.drop 21 = dktX1_many_1 := dk_seg dksX1_many_0 21 rfl rfl
theorem dX1_many_0 : decode cX1_many 0 = .ok (.iconst 0, 1) := dk_3 (dk_at dksX1_many_0 0 rfl rfl)
theorem dX1_many_1 : decode cX1_many 1 = .ok (.istore_n 2, 1) := dk_61 (dk_at dksX1_many_0 1 rfl rfl)
theorem dX1_many_2 : decode cX1_many 2 = .ok (.aload_n 0, 1) := dk_42 (dk_at dksX1_many_0 2 rfl rfl)
theorem dX1_many_3 : decode cX1_many 3 = .ok (.getfield 23, 3) := dk_180 0 23 (dk_at dksX1_many_0 3 rfl rfl)
theorem dX1_many_6 : decode cX1_many 6 = .ok (.invokevirtual 43, 3) := dk_182 0 43 (dk_at dksX1_many_0 6 rfl rfl)
theorem dX1_many_9 : decode cX1_many 9 = .ok (.astore_n 3, 1) := dk_78 (dk_at dksX1_many_0 9 rfl rfl)
theorem dX1_many_10 : decode cX1_many 10 = .ok (.aload_n 3, 1) := dk_45 (dk_at dksX1_many_0 10 rfl rfl)
theorem dX1_many_11 : decode cX1_many 11 = .ok (.invokeinterface 47 1, 5) := by decide +kernel
theorem dX1_many_16 : decode cX1_many 16 = .ok (.ifCond .eq 22, 3) := dk_153 0 22 (dk_at dksX1_many_0 16 rfl rfl)
theorem dX1_many_19 : decode cX1_many 19 = .ok (.iload_n 2, 1) := dk_28 (dk_at dksX1_many_0 19 rfl rfl)
theorem dX1_many_20 : decode cX1_many 20 = .ok (.aload_n 3, 1) := dk_45 (dk_at dksX1_many_0 20 rfl rfl)
theorem dX1_many_21 : decode cX1_many 21 = .ok (.invokeinterface 53 1, 5) := by decide +kernel
theorem dX1_many_26 : decode cX1_many 26 = .ok (.checkcast 57, 3) := dk_192 0 57 (dk_at dksX1_many_1 5 rfl rfl)
theorem dX1_many_29 : decode cX1_many 29 = .ok (.iload_n 1, 1) := dk_27 (dk_at dksX1_many_1 8 rfl rfl)
theorem dX1_many_30 : decode cX1_many 30 = .ok (.invokevirtual 107, 3) := dk_182 0 107 (dk_at dksX1_many_1 9 rfl rfl)
theorem dX1_many_33 : decode cX1_many 33 = .ok (.iadd, 1) := dk_96 (dk_at dksX1_many_1 12 rfl rfl)
theorem dX1_many_34 : decode cX1_many 34 = .ok (.istore_n 2, 1) := dk_61 (dk_at dksX1_many_1 13 rfl rfl)
theorem dX1_many_35 : decode cX1_many 35 = .ok (.goto (-25), 3) := dk_167 255 231 (dk_at dksX1_many_1 14 rfl rfl)
theorem dX1_many_38 : decode cX1_many 38 = .ok (.iload_n 2, 1) := dk_28 (dk_at dksX1_many_1 17 rfl rfl)
theorem dX1_many_39 : decode cX1_many 39 = .ok (.ireturn, 1) := dk_172 (dk_at dksX1_many_1 18 rfl rfl)
abbrev cX1_blames : ByteArray := prog_2_method_17_code
def yX1_blames : MethodName := ⟨RX1, "blames", "(I)I"⟩
def dkwX1_blames_2 : List UInt8 := [4, 96, 79, 42, 27, 182, 0, 150, 172]
abbrev dktX1_blames_2 : List UInt8 := dkwX1_blames_2 ++ []
def dkwX1_blames_1 : List UInt8 := [46, 16, 9, 160, 0, 7, 4, 167, 0, 4, 3, 16, 7, 27, 184, 0, 99, 42, 180, 0, 31, 27, 92, 46]
abbrev dktX1_blames_1 : List UInt8 := dkwX1_blames_1 ++ dktX1_blames_2
def dkwX1_blames_0 : List UInt8 := [27, 3, 8, 184, 0, 80, 154, 0, 7, 4, 167, 0, 4, 3, 4, 27, 184, 0, 99, 42, 180, 0, 31, 27]
abbrev dktX1_blames_0 : List UInt8 := dkwX1_blames_0 ++ dktX1_blames_1
theorem dksX1_blames_0 : cX1_blames.data.toList.drop 0 = dktX1_blames_0 := by decide +kernel
theorem dksX1_blames_1 : cX1_blames.data.toList.drop 24 = dktX1_blames_1 := dk_seg dksX1_blames_0 24 rfl rfl
theorem dksX1_blames_2 : cX1_blames.data.toList.drop 48 = dktX1_blames_2 := dk_seg dksX1_blames_1 24 rfl rfl
theorem dX1_blames_0 : decode cX1_blames 0 = .ok (.iload_n 1, 1) := dk_27 (dk_at dksX1_blames_0 0 rfl rfl)
theorem dX1_blames_1 : decode cX1_blames 1 = .ok (.iconst 0, 1) := dk_3 (dk_at dksX1_blames_0 1 rfl rfl)
theorem dX1_blames_2 : decode cX1_blames 2 = .ok (.iconst 5, 1) := dk_8 (dk_at dksX1_blames_0 2 rfl rfl)
theorem dX1_blames_3 : decode cX1_blames 3 = .ok (.invokestatic 80, 3) := dk_184 0 80 (dk_at dksX1_blames_0 3 rfl rfl)
theorem dX1_blames_6 : decode cX1_blames 6 = .ok (.ifCond .ne 7, 3) := dk_154 0 7 (dk_at dksX1_blames_0 6 rfl rfl)
theorem dX1_blames_9 : decode cX1_blames 9 = .ok (.iconst 1, 1) := dk_4 (dk_at dksX1_blames_0 9 rfl rfl)
theorem dX1_blames_10 : decode cX1_blames 10 = .ok (.goto 4, 3) := dk_167 0 4 (dk_at dksX1_blames_0 10 rfl rfl)
theorem dX1_blames_13 : decode cX1_blames 13 = .ok (.iconst 0, 1) := dk_3 (dk_at dksX1_blames_0 13 rfl rfl)
theorem dX1_blames_14 : decode cX1_blames 14 = .ok (.iconst 1, 1) := dk_4 (dk_at dksX1_blames_0 14 rfl rfl)
theorem dX1_blames_15 : decode cX1_blames 15 = .ok (.iload_n 1, 1) := dk_27 (dk_at dksX1_blames_0 15 rfl rfl)
theorem dX1_blames_16 : decode cX1_blames 16 = .ok (.invokestatic 99, 3) := dk_184 0 99 (dk_at dksX1_blames_0 16 rfl rfl)
theorem dX1_blames_19 : decode cX1_blames 19 = .ok (.aload_n 0, 1) := dk_42 (dk_at dksX1_blames_0 19 rfl rfl)
theorem dX1_blames_20 : decode cX1_blames 20 = .ok (.getfield 31, 3) := dk_180 0 31 (dk_at dksX1_blames_0 20 rfl rfl)
theorem dX1_blames_23 : decode cX1_blames 23 = .ok (.iload_n 1, 1) := dk_27 (dk_at dksX1_blames_0 23 rfl rfl)
theorem dX1_blames_24 : decode cX1_blames 24 = .ok (.iaload, 1) := dk_46 (dk_at dksX1_blames_1 0 rfl rfl)
theorem dX1_blames_25 : decode cX1_blames 25 = .ok (.bipush 9, 2) := dk_16 9 (dk_at dksX1_blames_1 1 rfl rfl)
theorem dX1_blames_27 : decode cX1_blames 27 = .ok (.if_icmp .ne 7, 3) := dk_160 0 7 (dk_at dksX1_blames_1 3 rfl rfl)
theorem dX1_blames_30 : decode cX1_blames 30 = .ok (.iconst 1, 1) := dk_4 (dk_at dksX1_blames_1 6 rfl rfl)
theorem dX1_blames_31 : decode cX1_blames 31 = .ok (.goto 4, 3) := dk_167 0 4 (dk_at dksX1_blames_1 7 rfl rfl)
theorem dX1_blames_34 : decode cX1_blames 34 = .ok (.iconst 0, 1) := dk_3 (dk_at dksX1_blames_1 10 rfl rfl)
theorem dX1_blames_35 : decode cX1_blames 35 = .ok (.bipush 7, 2) := dk_16 7 (dk_at dksX1_blames_1 11 rfl rfl)
theorem dX1_blames_37 : decode cX1_blames 37 = .ok (.iload_n 1, 1) := dk_27 (dk_at dksX1_blames_1 13 rfl rfl)
theorem dX1_blames_38 : decode cX1_blames 38 = .ok (.invokestatic 99, 3) := dk_184 0 99 (dk_at dksX1_blames_1 14 rfl rfl)
theorem dX1_blames_41 : decode cX1_blames 41 = .ok (.aload_n 0, 1) := dk_42 (dk_at dksX1_blames_1 17 rfl rfl)
theorem dX1_blames_42 : decode cX1_blames 42 = .ok (.getfield 31, 3) := dk_180 0 31 (dk_at dksX1_blames_1 18 rfl rfl)
theorem dX1_blames_45 : decode cX1_blames 45 = .ok (.iload_n 1, 1) := dk_27 (dk_at dksX1_blames_1 21 rfl rfl)
theorem dX1_blames_46 : decode cX1_blames 46 = .ok (.dup2, 1) := dk_92 (dk_at dksX1_blames_1 22 rfl rfl)
theorem dX1_blames_47 : decode cX1_blames 47 = .ok (.iaload, 1) := dk_46 (dk_at dksX1_blames_1 23 rfl rfl)
theorem dX1_blames_48 : decode cX1_blames 48 = .ok (.iconst 1, 1) := dk_4 (dk_at dksX1_blames_2 0 rfl rfl)
theorem dX1_blames_49 : decode cX1_blames 49 = .ok (.iadd, 1) := dk_96 (dk_at dksX1_blames_2 1 rfl rfl)
theorem dX1_blames_50 : decode cX1_blames 50 = .ok (.iastore, 1) := dk_79 (dk_at dksX1_blames_2 2 rfl rfl)
theorem dX1_blames_51 : decode cX1_blames 51 = .ok (.aload_n 0, 1) := dk_42 (dk_at dksX1_blames_2 3 rfl rfl)
theorem dX1_blames_52 : decode cX1_blames 52 = .ok (.iload_n 1, 1) := dk_27 (dk_at dksX1_blames_2 4 rfl rfl)
theorem dX1_blames_53 : decode cX1_blames 53 = .ok (.invokevirtual 150, 3) := dk_182 0 150 (dk_at dksX1_blames_2 5 rfl rfl)
theorem dX1_blames_56 : decode cX1_blames 56 = .ok (.ireturn, 1) := dk_172 (dk_at dksX1_blames_2 8 rfl rfl)
abbrev cX1_weight : ByteArray := prog_2_method_6_code
def yX1_weight : MethodName := ⟨RX1, "weight", "(I)I"⟩
def dkwX1_weight_0 : List UInt8 := [16, 10, 42, 180, 0, 31, 27, 46, 100, 172]
abbrev dktX1_weight_0 : List UInt8 := dkwX1_weight_0 ++ []
theorem dksX1_weight_0 : cX1_weight.data.toList.drop 0 = dktX1_weight_0 := by decide +kernel
theorem dX1_weight_0 : decode cX1_weight 0 = .ok (.bipush 10, 2) := dk_16 10 (dk_at dksX1_weight_0 0 rfl rfl)
theorem dX1_weight_2 : decode cX1_weight 2 = .ok (.aload_n 0, 1) := dk_42 (dk_at dksX1_weight_0 2 rfl rfl)
theorem dX1_weight_3 : decode cX1_weight 3 = .ok (.getfield 31, 3) := dk_180 0 31 (dk_at dksX1_weight_0 3 rfl rfl)
theorem dX1_weight_6 : decode cX1_weight 6 = .ok (.iload_n 1, 1) := dk_27 (dk_at dksX1_weight_0 6 rfl rfl)
theorem dX1_weight_7 : decode cX1_weight 7 = .ok (.iaload, 1) := dk_46 (dk_at dksX1_weight_0 7 rfl rfl)
theorem dX1_weight_8 : decode cX1_weight 8 = .ok (.isub, 1) := dk_100 (dk_at dksX1_weight_0 8 rfl rfl)
theorem dX1_weight_9 : decode cX1_weight 9 = .ok (.ireturn, 1) := dk_172 (dk_at dksX1_weight_0 9 rfl rfl)
abbrev cX1_rays : ByteArray := prog_2_method_7_code
def yX1_rays : MethodName := ⟨RX1, "rays", "(LWhalingLogs$Page;)I"⟩
def dkwX1_rays_1 : List UInt8 := [4, 29, 120, 167, 0, 4, 3, 128, 61, 132, 3, 1, 167, 255, 224, 28, 172]
abbrev dktX1_rays_1 : List UInt8 := dkwX1_rays_1 ++ []
def dkwX1_rays_0 : List UInt8 := [3, 61, 3, 62, 29, 6, 162, 0, 33, 28, 43, 29, 42, 180, 0, 27, 29, 46, 182, 0, 103, 153, 0, 9]
abbrev dktX1_rays_0 : List UInt8 := dkwX1_rays_0 ++ dktX1_rays_1
theorem dksX1_rays_0 : cX1_rays.data.toList.drop 0 = dktX1_rays_0 := by decide +kernel
theorem dksX1_rays_1 : cX1_rays.data.toList.drop 24 = dktX1_rays_1 := dk_seg dksX1_rays_0 24 rfl rfl
theorem dX1_rays_0 : decode cX1_rays 0 = .ok (.iconst 0, 1) := dk_3 (dk_at dksX1_rays_0 0 rfl rfl)
theorem dX1_rays_1 : decode cX1_rays 1 = .ok (.istore_n 2, 1) := dk_61 (dk_at dksX1_rays_0 1 rfl rfl)
theorem dX1_rays_2 : decode cX1_rays 2 = .ok (.iconst 0, 1) := dk_3 (dk_at dksX1_rays_0 2 rfl rfl)
theorem dX1_rays_3 : decode cX1_rays 3 = .ok (.istore_n 3, 1) := dk_62 (dk_at dksX1_rays_0 3 rfl rfl)
theorem dX1_rays_4 : decode cX1_rays 4 = .ok (.iload_n 3, 1) := dk_29 (dk_at dksX1_rays_0 4 rfl rfl)
theorem dX1_rays_5 : decode cX1_rays 5 = .ok (.iconst 3, 1) := dk_6 (dk_at dksX1_rays_0 5 rfl rfl)
theorem dX1_rays_6 : decode cX1_rays 6 = .ok (.if_icmp .ge 33, 3) := dk_162 0 33 (dk_at dksX1_rays_0 6 rfl rfl)
theorem dX1_rays_9 : decode cX1_rays 9 = .ok (.iload_n 2, 1) := dk_28 (dk_at dksX1_rays_0 9 rfl rfl)
theorem dX1_rays_10 : decode cX1_rays 10 = .ok (.aload_n 1, 1) := dk_43 (dk_at dksX1_rays_0 10 rfl rfl)
theorem dX1_rays_11 : decode cX1_rays 11 = .ok (.iload_n 3, 1) := dk_29 (dk_at dksX1_rays_0 11 rfl rfl)
theorem dX1_rays_12 : decode cX1_rays 12 = .ok (.aload_n 0, 1) := dk_42 (dk_at dksX1_rays_0 12 rfl rfl)
theorem dX1_rays_13 : decode cX1_rays 13 = .ok (.getfield 27, 3) := dk_180 0 27 (dk_at dksX1_rays_0 13 rfl rfl)
theorem dX1_rays_16 : decode cX1_rays 16 = .ok (.iload_n 3, 1) := dk_29 (dk_at dksX1_rays_0 16 rfl rfl)
theorem dX1_rays_17 : decode cX1_rays 17 = .ok (.iaload, 1) := dk_46 (dk_at dksX1_rays_0 17 rfl rfl)
theorem dX1_rays_18 : decode cX1_rays 18 = .ok (.invokevirtual 103, 3) := dk_182 0 103 (dk_at dksX1_rays_0 18 rfl rfl)
theorem dX1_rays_21 : decode cX1_rays 21 = .ok (.ifCond .eq 9, 3) := dk_153 0 9 (dk_at dksX1_rays_0 21 rfl rfl)
theorem dX1_rays_24 : decode cX1_rays 24 = .ok (.iconst 1, 1) := dk_4 (dk_at dksX1_rays_1 0 rfl rfl)
theorem dX1_rays_25 : decode cX1_rays 25 = .ok (.iload_n 3, 1) := dk_29 (dk_at dksX1_rays_1 1 rfl rfl)
theorem dX1_rays_26 : decode cX1_rays 26 = .ok (.ishl, 1) := dk_120 (dk_at dksX1_rays_1 2 rfl rfl)
theorem dX1_rays_27 : decode cX1_rays 27 = .ok (.goto 4, 3) := dk_167 0 4 (dk_at dksX1_rays_1 3 rfl rfl)
theorem dX1_rays_30 : decode cX1_rays 30 = .ok (.iconst 0, 1) := dk_3 (dk_at dksX1_rays_1 6 rfl rfl)
theorem dX1_rays_31 : decode cX1_rays 31 = .ok (.ior, 1) := dk_128 (dk_at dksX1_rays_1 7 rfl rfl)
theorem dX1_rays_32 : decode cX1_rays 32 = .ok (.istore_n 2, 1) := dk_61 (dk_at dksX1_rays_1 8 rfl rfl)
theorem dX1_rays_33 : decode cX1_rays 33 = .ok (.iinc 3 1, 3) := dk_132 3 1 (dk_at dksX1_rays_1 9 rfl rfl)
theorem dX1_rays_36 : decode cX1_rays 36 = .ok (.goto (-32), 3) := dk_167 255 224 (dk_at dksX1_rays_1 12 rfl rfl)
theorem dX1_rays_39 : decode cX1_rays 39 = .ok (.iload_n 2, 1) := dk_28 (dk_at dksX1_rays_1 15 rfl rfl)
theorem dX1_rays_40 : decode cX1_rays 40 = .ok (.ireturn, 1) := dk_172 (dk_at dksX1_rays_1 16 rfl rfl)
abbrev cX1_errorsInAll : ByteArray := prog_2_method_10_code
def yX1_errorsInAll : MethodName := ⟨RX1, "errorsInAll", "()I"⟩
def dkwX1_errorsInAll_1 : List UInt8 := [167, 255, 238, 27, 172]
abbrev dktX1_errorsInAll_1 : List UInt8 := dkwX1_errorsInAll_1 ++ []
def dkwX1_errorsInAll_0 : List UInt8 := [3, 60, 3, 61, 28, 16, 6, 162, 0, 18, 27, 42, 180, 0, 31, 28, 46, 96, 60, 132, 2, 1]
abbrev dktX1_errorsInAll_0 : List UInt8 := dkwX1_errorsInAll_0 ++ dktX1_errorsInAll_1
theorem dksX1_errorsInAll_0 : cX1_errorsInAll.data.toList.drop 0 = dktX1_errorsInAll_0 := by decide +kernel
theorem dksX1_errorsInAll_1 : cX1_errorsInAll.data.toList.drop 22 = dktX1_errorsInAll_1 := dk_seg dksX1_errorsInAll_0 22 rfl rfl
theorem dX1_errorsInAll_0 : decode cX1_errorsInAll 0 = .ok (.iconst 0, 1) := dk_3 (dk_at dksX1_errorsInAll_0 0 rfl rfl)
theorem dX1_errorsInAll_1 : decode cX1_errorsInAll 1 = .ok (.istore_n 1, 1) := dk_60 (dk_at dksX1_errorsInAll_0 1 rfl rfl)
theorem dX1_errorsInAll_2 : decode cX1_errorsInAll 2 = .ok (.iconst 0, 1) := dk_3 (dk_at dksX1_errorsInAll_0 2 rfl rfl)
theorem dX1_errorsInAll_3 : decode cX1_errorsInAll 3 = .ok (.istore_n 2, 1) := dk_61 (dk_at dksX1_errorsInAll_0 3 rfl rfl)
theorem dX1_errorsInAll_4 : decode cX1_errorsInAll 4 = .ok (.iload_n 2, 1) := dk_28 (dk_at dksX1_errorsInAll_0 4 rfl rfl)
theorem dX1_errorsInAll_5 : decode cX1_errorsInAll 5 = .ok (.bipush 6, 2) := dk_16 6 (dk_at dksX1_errorsInAll_0 5 rfl rfl)
theorem dX1_errorsInAll_7 : decode cX1_errorsInAll 7 = .ok (.if_icmp .ge 18, 3) := dk_162 0 18 (dk_at dksX1_errorsInAll_0 7 rfl rfl)
theorem dX1_errorsInAll_10 : decode cX1_errorsInAll 10 = .ok (.iload_n 1, 1) := dk_27 (dk_at dksX1_errorsInAll_0 10 rfl rfl)
theorem dX1_errorsInAll_11 : decode cX1_errorsInAll 11 = .ok (.aload_n 0, 1) := dk_42 (dk_at dksX1_errorsInAll_0 11 rfl rfl)
theorem dX1_errorsInAll_12 : decode cX1_errorsInAll 12 = .ok (.getfield 31, 3) := dk_180 0 31 (dk_at dksX1_errorsInAll_0 12 rfl rfl)
theorem dX1_errorsInAll_15 : decode cX1_errorsInAll 15 = .ok (.iload_n 2, 1) := dk_28 (dk_at dksX1_errorsInAll_0 15 rfl rfl)
theorem dX1_errorsInAll_16 : decode cX1_errorsInAll 16 = .ok (.iaload, 1) := dk_46 (dk_at dksX1_errorsInAll_0 16 rfl rfl)
theorem dX1_errorsInAll_17 : decode cX1_errorsInAll 17 = .ok (.iadd, 1) := dk_96 (dk_at dksX1_errorsInAll_0 17 rfl rfl)
theorem dX1_errorsInAll_18 : decode cX1_errorsInAll 18 = .ok (.istore_n 1, 1) := dk_60 (dk_at dksX1_errorsInAll_0 18 rfl rfl)
theorem dX1_errorsInAll_19 : decode cX1_errorsInAll 19 = .ok (.iinc 2 1, 3) := dk_132 2 1 (dk_at dksX1_errorsInAll_0 19 rfl rfl)
theorem dX1_errorsInAll_22 : decode cX1_errorsInAll 22 = .ok (.goto (-18), 3) := dk_167 255 238 (dk_at dksX1_errorsInAll_1 0 rfl rfl)
theorem dX1_errorsInAll_25 : decode cX1_errorsInAll 25 = .ok (.iload_n 1, 1) := dk_27 (dk_at dksX1_errorsInAll_1 3 rfl rfl)
theorem dX1_errorsInAll_26 : decode cX1_errorsInAll 26 = .ok (.ireturn, 1) := dk_172 (dk_at dksX1_errorsInAll_1 4 rfl rfl)
abbrev cX1_fades : ByteArray := prog_2_method_9_code
def yX1_fades : MethodName := ⟨RX1, "fades", "()I"⟩
def dkwX1_fades_1 : List UInt8 := [185, 0, 53, 1, 0, 192, 0, 57, 180, 0, 111, 96, 60, 167, 255, 232, 27, 172]
abbrev dktX1_fades_1 : List UInt8 := dkwX1_fades_1 ++ []
def dkwX1_fades_0 : List UInt8 := [3, 60, 42, 180, 0, 23, 182, 0, 43, 77, 44, 185, 0, 47, 1, 0, 153, 0, 21, 27, 44]
abbrev dktX1_fades_0 : List UInt8 := dkwX1_fades_0 ++ dktX1_fades_1
theorem dksX1_fades_0 : cX1_fades.data.toList.drop 0 = dktX1_fades_0 := by decide +kernel
theorem dksX1_fades_1 : cX1_fades.data.toList.drop 21 = dktX1_fades_1 := dk_seg dksX1_fades_0 21 rfl rfl
theorem dX1_fades_0 : decode cX1_fades 0 = .ok (.iconst 0, 1) := dk_3 (dk_at dksX1_fades_0 0 rfl rfl)
theorem dX1_fades_1 : decode cX1_fades 1 = .ok (.istore_n 1, 1) := dk_60 (dk_at dksX1_fades_0 1 rfl rfl)
theorem dX1_fades_2 : decode cX1_fades 2 = .ok (.aload_n 0, 1) := dk_42 (dk_at dksX1_fades_0 2 rfl rfl)
theorem dX1_fades_3 : decode cX1_fades 3 = .ok (.getfield 23, 3) := dk_180 0 23 (dk_at dksX1_fades_0 3 rfl rfl)
theorem dX1_fades_6 : decode cX1_fades 6 = .ok (.invokevirtual 43, 3) := dk_182 0 43 (dk_at dksX1_fades_0 6 rfl rfl)
theorem dX1_fades_9 : decode cX1_fades 9 = .ok (.astore_n 2, 1) := dk_77 (dk_at dksX1_fades_0 9 rfl rfl)
theorem dX1_fades_10 : decode cX1_fades 10 = .ok (.aload_n 2, 1) := dk_44 (dk_at dksX1_fades_0 10 rfl rfl)
theorem dX1_fades_11 : decode cX1_fades 11 = .ok (.invokeinterface 47 1, 5) := by decide +kernel
theorem dX1_fades_16 : decode cX1_fades 16 = .ok (.ifCond .eq 21, 3) := dk_153 0 21 (dk_at dksX1_fades_0 16 rfl rfl)
theorem dX1_fades_19 : decode cX1_fades 19 = .ok (.iload_n 1, 1) := dk_27 (dk_at dksX1_fades_0 19 rfl rfl)
theorem dX1_fades_20 : decode cX1_fades 20 = .ok (.aload_n 2, 1) := dk_44 (dk_at dksX1_fades_0 20 rfl rfl)
theorem dX1_fades_21 : decode cX1_fades 21 = .ok (.invokeinterface 53 1, 5) := by decide +kernel
theorem dX1_fades_26 : decode cX1_fades 26 = .ok (.checkcast 57, 3) := dk_192 0 57 (dk_at dksX1_fades_1 5 rfl rfl)
theorem dX1_fades_29 : decode cX1_fades 29 = .ok (.getfield 111, 3) := dk_180 0 111 (dk_at dksX1_fades_1 8 rfl rfl)
theorem dX1_fades_32 : decode cX1_fades 32 = .ok (.iadd, 1) := dk_96 (dk_at dksX1_fades_1 11 rfl rfl)
theorem dX1_fades_33 : decode cX1_fades 33 = .ok (.istore_n 1, 1) := dk_60 (dk_at dksX1_fades_1 12 rfl rfl)
theorem dX1_fades_34 : decode cX1_fades 34 = .ok (.goto (-24), 3) := dk_167 255 232 (dk_at dksX1_fades_1 13 rfl rfl)
theorem dX1_fades_37 : decode cX1_fades 37 = .ok (.iload_n 1, 1) := dk_27 (dk_at dksX1_fades_1 16 rfl rfl)
theorem dX1_fades_38 : decode cX1_fades 38 = .ok (.ireturn, 1) := dk_172 (dk_at dksX1_fades_1 17 rfl rfl)
theorem q95 : (Jvm.Cond.initialized "WhalingLogs$Archive") ∈ lw_all := lw_g (lw_at lw_m1 2 rfl) rfl
theorem q154 : (Jvm.Cond.instantiable "WhalingLogs$Archive" (6 : Nat)) ∈ lw_all := lw_g (lw_at lw_m1 61 rfl) rfl
theorem q156 : (Jvm.Cond.instanceMethod ({ cls := "WhalingLogs$Archive", name := "<init>", desc := "()V" } : Jvm.MethodName)) ∈ lw_all := lw_g (lw_at lw_m1 63 rfl) rfl
theorem q157 : (Jvm.Cond.code ({ cls := "WhalingLogs$Archive", name := "<init>", desc := "()V" } : Jvm.MethodName) prog_2_method_1_code (1 : Nat) (Option.none : Option Jvm.ClassFile.FieldType)) ∈ lw_all := lw_g (lw_at lw_m1 64 rfl) rfl
theorem q158 : (Jvm.Cond.methodLink "WhalingLogs$Archive" (3 : Nat) ({ cls := "java/lang/Object", name := "<init>", desc := "()V" } : Jvm.MethodName)) ∈ lw_all := lw_g (lw_at lw_m1 65 rfl) rfl
theorem q159 : (Jvm.Cond.classLink "WhalingLogs$Archive" (9 : Nat) "java/util/BitSet") ∈ lw_all := lw_g (lw_at lw_m1 66 rfl) rfl
theorem q161 : (Jvm.Cond.methodLink "WhalingLogs$Archive" (11 : Nat) ({ cls := "java/util/BitSet", name := "<init>", desc := "(I)V" } : Jvm.MethodName)) ∈ lw_all := lw_g (lw_at lw_m1 68 rfl) rfl
theorem q183 : (Jvm.Cond.classLink "WhalingLogs$Archive" (20 : Nat) "java/util/LinkedList") ∈ lw_all := lw_g (lw_at lw_m1 90 rfl) rfl
theorem q185 : (Jvm.Cond.methodLink "WhalingLogs$Archive" (22 : Nat) ({ cls := "java/util/LinkedList", name := "<init>", desc := "()V" } : Jvm.MethodName)) ∈ lw_all := lw_g (lw_at lw_m1 92 rfl) rfl
theorem q220 : (Jvm.Cond.fieldLink "WhalingLogs$Archive" (14 : Nat) "WhalingLogs$Archive" "land" "Ljava/util/BitSet;") ∈ lw_all := lw_g (lw_at lw_m1 127 rfl) rfl
theorem q223 : (Jvm.Cond.fieldLink "WhalingLogs$Archive" (23 : Nat) "WhalingLogs$Archive" "pages" "Ljava/util/LinkedList;") ∈ lw_all := lw_g (lw_at lw_m1 130 rfl) rfl
theorem q226 : (Jvm.Cond.fieldLink "WhalingLogs$Archive" (27 : Nat) "WhalingLogs$Archive" "strengths" "[I") ∈ lw_all := lw_g (lw_at lw_m1 133 rfl) rfl
theorem q228 : (Jvm.Cond.fieldLink "WhalingLogs$Archive" (31 : Nat) "WhalingLogs$Archive" "errors" "[I") ∈ lw_all := lw_g (lw_at lw_m1 135 rfl) rfl
theorem q230 : (Jvm.Cond.fieldLink "WhalingLogs$Archive" (34 : Nat) "WhalingLogs$Archive" "speed" "I") ∈ lw_all := lw_g (lw_at lw_m1 137 rfl) rfl
theorem q234 : (Jvm.Cond.fieldLink "WhalingLogs$Archive" (73 : Nat) "WhalingLogs$Archive" "reads" "I") ∈ lw_all := lw_g (lw_at lw_m1 141 rfl) rfl
theorem q236 : (Jvm.Cond.laysFinal "WhalingLogs$Archive" "WhalingLogs$Archive" "land" "Ljava/util/BitSet;") ∈ lw_all := lw_g (lw_at lw_m1 143 rfl) rfl
theorem q237 : (Jvm.Cond.soleField "WhalingLogs$Archive" "land") ∈ lw_all := lw_g (lw_at lw_m1 144 rfl) rfl
theorem q238 : (Jvm.Cond.laysFinal "WhalingLogs$Archive" "WhalingLogs$Archive" "pages" "Ljava/util/LinkedList;") ∈ lw_all := lw_g (lw_at lw_m1 145 rfl) rfl
theorem q239 : (Jvm.Cond.soleField "WhalingLogs$Archive" "pages") ∈ lw_all := lw_g (lw_at lw_m1 146 rfl) rfl
theorem q240 : (Jvm.Cond.laysFinal "WhalingLogs$Archive" "WhalingLogs$Archive" "strengths" "[I") ∈ lw_all := lw_g (lw_at lw_m1 147 rfl) rfl
theorem q241 : (Jvm.Cond.soleField "WhalingLogs$Archive" "strengths") ∈ lw_all := lw_g (lw_at lw_m1 148 rfl) rfl
theorem q242 : (Jvm.Cond.laysFinal "WhalingLogs$Archive" "WhalingLogs$Archive" "errors" "[I") ∈ lw_all := lw_g (lw_at lw_m1 149 rfl) rfl
theorem q243 : (Jvm.Cond.soleField "WhalingLogs$Archive" "errors") ∈ lw_all := lw_g (lw_at lw_m1 150 rfl) rfl
theorem q244 : (Jvm.Cond.lays "WhalingLogs$Archive" "WhalingLogs$Archive" "speed" "I") ∈ lw_all := lw_g (lw_at lw_m1 151 rfl) rfl
theorem q245 : (Jvm.Cond.soleField "WhalingLogs$Archive" "speed") ∈ lw_all := lw_g (lw_at lw_m1 152 rfl) rfl
theorem q246 : (Jvm.Cond.lays "WhalingLogs$Archive" "WhalingLogs$Archive" "reads" "I") ∈ lw_all := lw_g (lw_at lw_m1 153 rfl) rfl
theorem q247 : (Jvm.Cond.soleField "WhalingLogs$Archive" "reads") ∈ lw_all := lw_g (lw_at lw_m1 154 rfl) rfl
theorem q248 : (Jvm.Cond.superclass "WhalingLogs$Archive" "java/lang/Object") ∈ lw_all := lw_g (lw_at lw_m1 155 rfl) rfl
theorem q396 : (Jvm.Cond.instanceMethod ({ cls := "WhalingLogs$Archive", name := "copy", desc := "()LWhalingLogs$Archive;" } : Jvm.MethodName)) ∈ lw_all := lw_g (lw_at lw_m2 63 rfl) rfl
theorem q397 : (Jvm.Cond.selects "WhalingLogs$Archive" ({ cls := "WhalingLogs$Archive", name := "copy", desc := "()LWhalingLogs$Archive;" } : Jvm.MethodName) ({ cls := "WhalingLogs$Archive", name := "copy", desc := "()LWhalingLogs$Archive;" } : Jvm.MethodName)) ∈ lw_all := lw_g (lw_at lw_m2 64 rfl) rfl
theorem q398 : (Jvm.Cond.code ({ cls := "WhalingLogs$Archive", name := "copy", desc := "()LWhalingLogs$Archive;" } : Jvm.MethodName) prog_2_method_2_code (3 : Nat) (Option.some (Jvm.ClassFile.FieldType.object "WhalingLogs$Archive"))) ∈ lw_all := lw_g (lw_at lw_m2 65 rfl) rfl
theorem q399 : (Jvm.Cond.classLink "WhalingLogs$Archive" (15 : Nat) "WhalingLogs$Archive") ∈ lw_all := lw_g (lw_at lw_m2 66 rfl) rfl
theorem q400 : (Jvm.Cond.methodLink "WhalingLogs$Archive" (38 : Nat) ({ cls := "WhalingLogs$Archive", name := "<init>", desc := "()V" } : Jvm.MethodName)) ∈ lw_all := lw_g (lw_at lw_m2 67 rfl) rfl
theorem q401 : (Jvm.Cond.methodLink "WhalingLogs$Archive" (39 : Nat) ({ cls := "java/util/BitSet", name := "or", desc := "(Ljava/util/BitSet;)V" } : Jvm.MethodName)) ∈ lw_all := lw_g (lw_at lw_m2 68 rfl) rfl
theorem q436 : (Jvm.Cond.methodLink "WhalingLogs$Archive" (43 : Nat) ({ cls := "java/util/LinkedList", name := "iterator", desc := "()Ljava/util/Iterator;" } : Jvm.MethodName)) ∈ lw_all := lw_g (lw_at lw_m2 103 rfl) rfl
theorem q524 : (Jvm.Cond.interfaceEntry "WhalingLogs$Archive" (47 : Nat)) ∈ lw_tbl := lw_at lw_m2 191 rfl
theorem q525 : (Jvm.Cond.methodLink "WhalingLogs$Archive" (47 : Nat) ({ cls := "java/util/Iterator", name := "hasNext", desc := "()Z" } : Jvm.MethodName)) ∈ lw_all := lw_g (lw_at lw_m2 192 rfl) rfl
theorem q565 : (Jvm.Cond.interfaceEntry "WhalingLogs$Archive" (53 : Nat)) ∈ lw_tbl := lw_at lw_m2 232 rfl
theorem q566 : (Jvm.Cond.methodLink "WhalingLogs$Archive" (53 : Nat) ({ cls := "java/util/Iterator", name := "next", desc := "()Ljava/lang/Object;" } : Jvm.MethodName)) ∈ lw_all := lw_g (lw_at lw_m2 233 rfl) rfl
theorem q671 : (Jvm.Cond.selects "WhalingLogs$Archive" ({ cls := "java/lang/Object", name := "getClass", desc := "()Ljava/lang/Class;" } : Jvm.MethodName) ({ cls := "java/lang/Object", name := "getClass", desc := "()Ljava/lang/Class;" } : Jvm.MethodName)) ∈ lw_all := lw_g (lw_at lw_m3 98 rfl) rfl
theorem q933 : (Jvm.Cond.classLink "WhalingLogs$Archive" (57 : Nat) "WhalingLogs$Page") ∈ lw_all := lw_g (lw_at lw_m4 120 rfl) rfl
theorem q934 : (Jvm.Cond.methodLink "WhalingLogs$Archive" (59 : Nat) ({ cls := "WhalingLogs$Page", name := "copy", desc := "()LWhalingLogs$Page;" } : Jvm.MethodName)) ∈ lw_all := lw_g (lw_at lw_m4 121 rfl) rfl
theorem q966 : (Jvm.Cond.fieldLinkNest "WhalingLogs$Archive" (92 : Nat) "WhalingLogs$Page" "entries" "Ljava/util/ArrayList;" "WhalingLogs") ∈ lw_tbl := lw_at lw_m4 153 rfl
theorem q969 : (Jvm.Cond.fieldLinkNest "WhalingLogs$Archive" (111 : Nat) "WhalingLogs$Page" "fade" "I" "WhalingLogs") ∈ lw_tbl := lw_at lw_m4 156 rfl
theorem q1003 : (Jvm.Cond.fieldLinkNest "WhalingLogs$Archive" (146 : Nat) "WhalingLogs$Entry" "state" "I" "WhalingLogs") ∈ lw_tbl := lw_at lw_m4 190 rfl
theorem q1043 : (Jvm.Cond.methodLink "WhalingLogs$Archive" (63 : Nat) ({ cls := "java/util/LinkedList", name := "addLast", desc := "(Ljava/lang/Object;)V" } : Jvm.MethodName)) ∈ lw_all := lw_g (lw_at lw_m4 230 rfl) rfl
theorem q1073 : (Jvm.Cond.methodLink "WhalingLogs$Archive" (67 : Nat) ({ cls := "java/lang/System", name := "arraycopy", desc := "(Ljava/lang/Object;ILjava/lang/Object;II)V" } : Jvm.MethodName)) ∈ lw_all := lw_g (lw_at lw_m5 20 rfl) rfl
theorem q1099 : (Jvm.Cond.instanceMethod ({ cls := "WhalingLogs$Archive", name := "becomes", desc := "(IZI)I" } : Jvm.MethodName)) ∈ lw_all := lw_g (lw_at lw_m5 46 rfl) rfl
theorem q1100 : (Jvm.Cond.selects "WhalingLogs$Archive" ({ cls := "WhalingLogs$Archive", name := "becomes", desc := "(IZI)I" } : Jvm.MethodName) ({ cls := "WhalingLogs$Archive", name := "becomes", desc := "(IZI)I" } : Jvm.MethodName)) ∈ lw_all := lw_g (lw_at lw_m5 47 rfl) rfl
theorem q1101 : (Jvm.Cond.code ({ cls := "WhalingLogs$Archive", name := "becomes", desc := "(IZI)I" } : Jvm.MethodName) prog_2_method_11_code (4 : Nat) (Option.some Jvm.ClassFile.FieldType.int)) ∈ lw_all := lw_g (lw_at lw_m5 48 rfl) rfl
theorem q1102 : (Jvm.Cond.methodLinkNest "WhalingLogs$Archive" (99 : Nat) ({ cls := "WhalingLogs", name := "refuse", desc := "(ZII)V" } : Jvm.MethodName) "WhalingLogs") ∈ lw_tbl := lw_at lw_m5 49 rfl
theorem q1132 : (Jvm.Cond.methodLink "WhalingLogs$Archive" (114 : Nat) ({ cls := "java/util/BitSet", name := "set", desc := "(IZ)V" } : Jvm.MethodName)) ∈ lw_all := lw_g (lw_at lw_m5 79 rfl) rfl
theorem q1153 : (Jvm.Cond.methodLink "WhalingLogs$Archive" (118 : Nat) ({ cls := "java/util/BitSet", name := "cardinality", desc := "()I" } : Jvm.MethodName)) ∈ lw_all := lw_g (lw_at lw_m5 100 rfl) rfl
theorem q1247 : (Jvm.Cond.instanceMethod ({ cls := "WhalingLogs$Archive", name := "addsPage", desc := "(II)I" } : Jvm.MethodName)) ∈ lw_all := lw_g (lw_at lw_m5 194 rfl) rfl
theorem q1248 : (Jvm.Cond.selects "WhalingLogs$Archive" ({ cls := "WhalingLogs$Archive", name := "addsPage", desc := "(II)I" } : Jvm.MethodName) ({ cls := "WhalingLogs$Archive", name := "addsPage", desc := "(II)I" } : Jvm.MethodName)) ∈ lw_all := lw_g (lw_at lw_m5 195 rfl) rfl
theorem q1249 : (Jvm.Cond.code ({ cls := "WhalingLogs$Archive", name := "addsPage", desc := "(II)I" } : Jvm.MethodName) prog_2_method_12_code (3 : Nat) (Option.some Jvm.ClassFile.FieldType.int)) ∈ lw_all := lw_g (lw_at lw_m5 196 rfl) rfl
theorem q1250 : (Jvm.Cond.methodLink "WhalingLogs$Archive" (76 : Nat) ({ cls := "java/util/LinkedList", name := "size", desc := "()I" } : Jvm.MethodName)) ∈ lw_all := lw_g (lw_at lw_m5 197 rfl) rfl
theorem q1251 : (Jvm.Cond.methodLink "WhalingLogs$Archive" (121 : Nat) ({ cls := "WhalingLogs$Page", name := "<init>", desc := "(II)V" } : Jvm.MethodName)) ∈ lw_all := lw_g (lw_at lw_m5 198 rfl) rfl
theorem q1257 : (Jvm.Cond.instanceMethod ({ cls := "WhalingLogs$Archive", name := "checkForEntry", desc := "(II)V" } : Jvm.MethodName)) ∈ lw_all := lw_g (lw_at lw_m5 204 rfl) rfl
theorem q1258 : (Jvm.Cond.selects "WhalingLogs$Archive" ({ cls := "WhalingLogs$Archive", name := "checkForEntry", desc := "(II)V" } : Jvm.MethodName) ({ cls := "WhalingLogs$Archive", name := "checkForEntry", desc := "(II)V" } : Jvm.MethodName)) ∈ lw_all := lw_g (lw_at lw_m5 205 rfl) rfl
theorem q1259 : (Jvm.Cond.code ({ cls := "WhalingLogs$Archive", name := "checkForEntry", desc := "(II)V" } : Jvm.MethodName) prog_2_method_13_code (3 : Nat) (Option.none : Option Jvm.ClassFile.FieldType)) ∈ lw_all := lw_g (lw_at lw_m5 206 rfl) rfl
theorem q1260 : (Jvm.Cond.methodLink "WhalingLogs$Archive" (124 : Nat) ({ cls := "WhalingLogs$Archive", name := "checkPage", desc := "(I)V" } : Jvm.MethodName)) ∈ lw_all := lw_g (lw_at lw_m5 207 rfl) rfl
theorem q1261 : (Jvm.Cond.privateMethod ({ cls := "WhalingLogs$Archive", name := "checkPage", desc := "(I)V" } : Jvm.MethodName)) ∈ lw_tbl := lw_at lw_m5 208 rfl
theorem q1262 : (Jvm.Cond.instanceMethod ({ cls := "WhalingLogs$Archive", name := "checkPage", desc := "(I)V" } : Jvm.MethodName)) ∈ lw_all := lw_g (lw_at lw_m5 209 rfl) rfl
theorem q1263 : (Jvm.Cond.code ({ cls := "WhalingLogs$Archive", name := "checkPage", desc := "(I)V" } : Jvm.MethodName) prog_2_method_5_code (2 : Nat) (Option.none : Option Jvm.ClassFile.FieldType)) ∈ lw_all := lw_g (lw_at lw_m5 210 rfl) rfl
theorem q1264 : (Jvm.Cond.methodLink "WhalingLogs$Archive" (84 : Nat) ({ cls := "WhalingLogs$Archive", name := "isPage", desc := "(I)Z" } : Jvm.MethodName)) ∈ lw_all := lw_g (lw_at lw_m5 211 rfl) rfl
theorem q1265 : (Jvm.Cond.instanceMethod ({ cls := "WhalingLogs$Archive", name := "isPage", desc := "(I)Z" } : Jvm.MethodName)) ∈ lw_all := lw_g (lw_at lw_m5 212 rfl) rfl
theorem q1266 : (Jvm.Cond.selects "WhalingLogs$Archive" ({ cls := "WhalingLogs$Archive", name := "isPage", desc := "(I)Z" } : Jvm.MethodName) ({ cls := "WhalingLogs$Archive", name := "isPage", desc := "(I)Z" } : Jvm.MethodName)) ∈ lw_all := lw_g (lw_at lw_m5 213 rfl) rfl
theorem q1267 : (Jvm.Cond.code ({ cls := "WhalingLogs$Archive", name := "isPage", desc := "(I)Z" } : Jvm.MethodName) prog_2_method_3_code (2 : Nat) (Option.some Jvm.ClassFile.FieldType.boolean)) ∈ lw_all := lw_g (lw_at lw_m5 214 rfl) rfl
theorem q1268 : (Jvm.Cond.methodLinkNest "WhalingLogs$Archive" (80 : Nat) ({ cls := "WhalingLogs", name := "isIn", desc := "(III)Z" } : Jvm.MethodName) "WhalingLogs") ∈ lw_tbl := lw_at lw_m5 215 rfl
theorem q1270 : (Jvm.Cond.instanceMethod ({ cls := "WhalingLogs$Archive", name := "addsEntry", desc := "(IIII)I" } : Jvm.MethodName)) ∈ lw_all := lw_g (lw_at lw_m5 217 rfl) rfl
theorem q1271 : (Jvm.Cond.selects "WhalingLogs$Archive" ({ cls := "WhalingLogs$Archive", name := "addsEntry", desc := "(IIII)I" } : Jvm.MethodName) ({ cls := "WhalingLogs$Archive", name := "addsEntry", desc := "(IIII)I" } : Jvm.MethodName)) ∈ lw_all := lw_g (lw_at lw_m5 218 rfl) rfl
theorem q1272 : (Jvm.Cond.code ({ cls := "WhalingLogs$Archive", name := "addsEntry", desc := "(IIII)I" } : Jvm.MethodName) prog_2_method_14_code (6 : Nat) (Option.some Jvm.ClassFile.FieldType.int)) ∈ lw_all := lw_g (lw_at lw_m5 219 rfl) rfl
theorem q1273 : (Jvm.Cond.methodLink "WhalingLogs$Archive" (88 : Nat) ({ cls := "java/util/LinkedList", name := "get", desc := "(I)Ljava/lang/Object;" } : Jvm.MethodName)) ∈ lw_all := lw_g (lw_at lw_m5 220 rfl) rfl
theorem q1274 : (Jvm.Cond.methodLink "WhalingLogs$Archive" (96 : Nat) ({ cls := "java/util/ArrayList", name := "size", desc := "()I" } : Jvm.MethodName)) ∈ lw_all := lw_g (lw_at lw_m5 221 rfl) rfl
theorem q1275 : (Jvm.Cond.classLink "WhalingLogs$Archive" (127 : Nat) "WhalingLogs$Entry") ∈ lw_all := lw_g (lw_at lw_m5 222 rfl) rfl
theorem q1276 : (Jvm.Cond.methodLink "WhalingLogs$Archive" (129 : Nat) ({ cls := "WhalingLogs$Entry", name := "<init>", desc := "(III)V" } : Jvm.MethodName)) ∈ lw_all := lw_g (lw_at lw_m5 223 rfl) rfl
theorem q1277 : (Jvm.Cond.methodLink "WhalingLogs$Archive" (132 : Nat) ({ cls := "java/util/ArrayList", name := "add", desc := "(Ljava/lang/Object;)Z" } : Jvm.MethodName)) ∈ lw_all := lw_g (lw_at lw_m5 224 rfl) rfl
theorem q1318 : (Jvm.Cond.instanceMethod ({ cls := "WhalingLogs$Archive", name := "readsPage", desc := "(II)I" } : Jvm.MethodName)) ∈ lw_all := lw_g (lw_at lw_m6 25 rfl) rfl
theorem q1319 : (Jvm.Cond.selects "WhalingLogs$Archive" ({ cls := "WhalingLogs$Archive", name := "readsPage", desc := "(II)I" } : Jvm.MethodName) ({ cls := "WhalingLogs$Archive", name := "readsPage", desc := "(II)I" } : Jvm.MethodName)) ∈ lw_all := lw_g (lw_at lw_m6 26 rfl) rfl
theorem q1320 : (Jvm.Cond.code ({ cls := "WhalingLogs$Archive", name := "readsPage", desc := "(II)I" } : Jvm.MethodName) prog_2_method_15_code (4 : Nat) (Option.some Jvm.ClassFile.FieldType.int)) ∈ lw_all := lw_g (lw_at lw_m6 27 rfl) rfl
theorem q1321 : (Jvm.Cond.methodLink "WhalingLogs$Archive" (103 : Nat) ({ cls := "WhalingLogs$Page", name := "isLegible", desc := "(II)Z" } : Jvm.MethodName)) ∈ lw_all := lw_g (lw_at lw_m6 28 rfl) rfl
theorem q1328 : (Jvm.Cond.methodLink "WhalingLogs$Archive" (107 : Nat) ({ cls := "WhalingLogs$Page", name := "many", desc := "(I)I" } : Jvm.MethodName)) ∈ lw_all := lw_g (lw_at lw_m6 35 rfl) rfl
theorem q1332 : (Jvm.Cond.methodLink "WhalingLogs$Archive" (136 : Nat) ({ cls := "WhalingLogs$Page", name := "fades", desc := "(I)V" } : Jvm.MethodName)) ∈ lw_all := lw_g (lw_at lw_m6 39 rfl) rfl
theorem q1337 : (Jvm.Cond.methodLink "WhalingLogs$Archive" (139 : Nat) ({ cls := "WhalingLogs$Page", name := "shows", desc := "()I" } : Jvm.MethodName)) ∈ lw_all := lw_g (lw_at lw_m6 44 rfl) rfl
theorem q1347 : (Jvm.Cond.instanceMethod ({ cls := "WhalingLogs$Archive", name := "strikes", desc := "(II)I" } : Jvm.MethodName)) ∈ lw_all := lw_g (lw_at lw_m6 54 rfl) rfl
theorem q1348 : (Jvm.Cond.selects "WhalingLogs$Archive" ({ cls := "WhalingLogs$Archive", name := "strikes", desc := "(II)I" } : Jvm.MethodName) ({ cls := "WhalingLogs$Archive", name := "strikes", desc := "(II)I" } : Jvm.MethodName)) ∈ lw_all := lw_g (lw_at lw_m6 55 rfl) rfl
theorem q1349 : (Jvm.Cond.code ({ cls := "WhalingLogs$Archive", name := "strikes", desc := "(II)I" } : Jvm.MethodName) prog_2_method_16_code (4 : Nat) (Option.some Jvm.ClassFile.FieldType.int)) ∈ lw_all := lw_g (lw_at lw_m6 56 rfl) rfl
theorem q1350 : (Jvm.Cond.methodLink "WhalingLogs$Archive" (142 : Nat) ({ cls := "WhalingLogs$Archive", name := "isEntry", desc := "(II)Z" } : Jvm.MethodName)) ∈ lw_all := lw_g (lw_at lw_m6 57 rfl) rfl
theorem q1351 : (Jvm.Cond.instanceMethod ({ cls := "WhalingLogs$Archive", name := "isEntry", desc := "(II)Z" } : Jvm.MethodName)) ∈ lw_all := lw_g (lw_at lw_m6 58 rfl) rfl
theorem q1352 : (Jvm.Cond.selects "WhalingLogs$Archive" ({ cls := "WhalingLogs$Archive", name := "isEntry", desc := "(II)Z" } : Jvm.MethodName) ({ cls := "WhalingLogs$Archive", name := "isEntry", desc := "(II)Z" } : Jvm.MethodName)) ∈ lw_all := lw_g (lw_at lw_m6 59 rfl) rfl
theorem q1353 : (Jvm.Cond.code ({ cls := "WhalingLogs$Archive", name := "isEntry", desc := "(II)Z" } : Jvm.MethodName) prog_2_method_4_code (3 : Nat) (Option.some Jvm.ClassFile.FieldType.boolean)) ∈ lw_all := lw_g (lw_at lw_m6 60 rfl) rfl
theorem q1354 : (Jvm.Cond.methodLink "WhalingLogs$Archive" (145 : Nat) ({ cls := "java/util/ArrayList", name := "get", desc := "(I)Ljava/lang/Object;" } : Jvm.MethodName)) ∈ lw_all := lw_g (lw_at lw_m6 61 rfl) rfl
theorem q1355 : (Jvm.Cond.methodLink "WhalingLogs$Archive" (149 : Nat) ({ cls := "WhalingLogs$Archive", name := "many", desc := "(I)I" } : Jvm.MethodName)) ∈ lw_all := lw_g (lw_at lw_m6 62 rfl) rfl
theorem q1356 : (Jvm.Cond.instanceMethod ({ cls := "WhalingLogs$Archive", name := "many", desc := "(I)I" } : Jvm.MethodName)) ∈ lw_all := lw_g (lw_at lw_m6 63 rfl) rfl
theorem q1357 : (Jvm.Cond.selects "WhalingLogs$Archive" ({ cls := "WhalingLogs$Archive", name := "many", desc := "(I)I" } : Jvm.MethodName) ({ cls := "WhalingLogs$Archive", name := "many", desc := "(I)I" } : Jvm.MethodName)) ∈ lw_all := lw_g (lw_at lw_m6 64 rfl) rfl
theorem q1358 : (Jvm.Cond.code ({ cls := "WhalingLogs$Archive", name := "many", desc := "(I)I" } : Jvm.MethodName) prog_2_method_8_code (4 : Nat) (Option.some Jvm.ClassFile.FieldType.int)) ∈ lw_all := lw_g (lw_at lw_m6 65 rfl) rfl
theorem q1364 : (Jvm.Cond.instanceMethod ({ cls := "WhalingLogs$Archive", name := "blames", desc := "(I)I" } : Jvm.MethodName)) ∈ lw_all := lw_g (lw_at lw_m6 71 rfl) rfl
theorem q1365 : (Jvm.Cond.selects "WhalingLogs$Archive" ({ cls := "WhalingLogs$Archive", name := "blames", desc := "(I)I" } : Jvm.MethodName) ({ cls := "WhalingLogs$Archive", name := "blames", desc := "(I)I" } : Jvm.MethodName)) ∈ lw_all := lw_g (lw_at lw_m6 72 rfl) rfl
theorem q1366 : (Jvm.Cond.code ({ cls := "WhalingLogs$Archive", name := "blames", desc := "(I)I" } : Jvm.MethodName) prog_2_method_17_code (2 : Nat) (Option.some Jvm.ClassFile.FieldType.int)) ∈ lw_all := lw_g (lw_at lw_m6 73 rfl) rfl
theorem q1367 : (Jvm.Cond.methodLink "WhalingLogs$Archive" (150 : Nat) ({ cls := "WhalingLogs$Archive", name := "weight", desc := "(I)I" } : Jvm.MethodName)) ∈ lw_all := lw_g (lw_at lw_m6 74 rfl) rfl
theorem q1368 : (Jvm.Cond.instanceMethod ({ cls := "WhalingLogs$Archive", name := "weight", desc := "(I)I" } : Jvm.MethodName)) ∈ lw_all := lw_g (lw_at lw_m6 75 rfl) rfl
theorem q1369 : (Jvm.Cond.selects "WhalingLogs$Archive" ({ cls := "WhalingLogs$Archive", name := "weight", desc := "(I)I" } : Jvm.MethodName) ({ cls := "WhalingLogs$Archive", name := "weight", desc := "(I)I" } : Jvm.MethodName)) ∈ lw_all := lw_g (lw_at lw_m6 76 rfl) rfl
theorem q1370 : (Jvm.Cond.code ({ cls := "WhalingLogs$Archive", name := "weight", desc := "(I)I" } : Jvm.MethodName) prog_2_method_6_code (2 : Nat) (Option.some Jvm.ClassFile.FieldType.int)) ∈ lw_all := lw_g (lw_at lw_m6 77 rfl) rfl
theorem q1379 : (Jvm.Cond.instanceMethod ({ cls := "WhalingLogs$Archive", name := "rays", desc := "(LWhalingLogs$Page;)I" } : Jvm.MethodName)) ∈ lw_all := lw_g (lw_at lw_m6 86 rfl) rfl
theorem q1380 : (Jvm.Cond.selects "WhalingLogs$Archive" ({ cls := "WhalingLogs$Archive", name := "rays", desc := "(LWhalingLogs$Page;)I" } : Jvm.MethodName) ({ cls := "WhalingLogs$Archive", name := "rays", desc := "(LWhalingLogs$Page;)I" } : Jvm.MethodName)) ∈ lw_all := lw_g (lw_at lw_m6 87 rfl) rfl
theorem q1381 : (Jvm.Cond.code ({ cls := "WhalingLogs$Archive", name := "rays", desc := "(LWhalingLogs$Page;)I" } : Jvm.MethodName) prog_2_method_7_code (4 : Nat) (Option.some Jvm.ClassFile.FieldType.int)) ∈ lw_all := lw_g (lw_at lw_m6 88 rfl) rfl
theorem q2093 : (Jvm.Cond.instanceMethod ({ cls := "WhalingLogs$Archive", name := "errorsInAll", desc := "()I" } : Jvm.MethodName)) ∈ lw_all := lw_g (lw_at lw_m9 80 rfl) rfl
theorem q2094 : (Jvm.Cond.selects "WhalingLogs$Archive" ({ cls := "WhalingLogs$Archive", name := "errorsInAll", desc := "()I" } : Jvm.MethodName) ({ cls := "WhalingLogs$Archive", name := "errorsInAll", desc := "()I" } : Jvm.MethodName)) ∈ lw_all := lw_g (lw_at lw_m9 81 rfl) rfl
theorem q2095 : (Jvm.Cond.code ({ cls := "WhalingLogs$Archive", name := "errorsInAll", desc := "()I" } : Jvm.MethodName) prog_2_method_10_code (3 : Nat) (Option.some Jvm.ClassFile.FieldType.int)) ∈ lw_all := lw_g (lw_at lw_m9 82 rfl) rfl
theorem q2097 : (Jvm.Cond.instanceMethod ({ cls := "WhalingLogs$Archive", name := "fades", desc := "()I" } : Jvm.MethodName)) ∈ lw_all := lw_g (lw_at lw_m9 84 rfl) rfl
theorem q2098 : (Jvm.Cond.selects "WhalingLogs$Archive" ({ cls := "WhalingLogs$Archive", name := "fades", desc := "()I" } : Jvm.MethodName) ({ cls := "WhalingLogs$Archive", name := "fades", desc := "()I" } : Jvm.MethodName)) ∈ lw_all := lw_g (lw_at lw_m9 85 rfl) rfl
theorem q2099 : (Jvm.Cond.code ({ cls := "WhalingLogs$Archive", name := "fades", desc := "()I" } : Jvm.MethodName) prog_2_method_9_code (3 : Nat) (Option.some Jvm.ClassFile.FieldType.int)) ∈ lw_all := lw_g (lw_at lw_m9 86 rfl) rfl
theorem q2605 : (Jvm.Cond.castable "WhalingLogs$Archive" "java/lang/Object") ∈ lw_tbl := lw_at lw_m11 112 rfl
theorem in_X1 : ∀ w ∈ wsX10, w ∈ lw_all := lw_in wsX10 [236, 238, 240, 242, 244, 246] (by decide +kernel) (by decide +kernel)
/-! WhalingLogs$Waters -/
set_option maxRecDepth 100000
def RX2 : String := "WhalingLogs$Waters"
def TX2 : u_T := fun k => match k with
  | _ => ("WhalingLogs$Waters", "row", "[I", true)
def tyX2 : Nat → FieldType := fun k => match k with
  | _ => .array .int
abbrev wsX20 : List Cond := u_ws RX2 TX2 1
theorem nmX2 : ∀ a, a < 1 → ∀ b, b < 1 → a ≠ b → (TX2 a).2.1 ≠ (TX2 b).2.1 := by decide +kernel
theorem tyX2_ok : ∀ k, k < 1 → parseFieldDescriptor (TX2 k).2.2.1 = some (tyX2 k) := by decide +kernel
abbrev cX2_init : ByteArray := prog_16_method_1_code
def yX2_init : MethodName := ⟨RX2, "<init>", "()V"⟩
def dkwX2_init_0 : List UInt8 := [42, 183, 0, 3, 42, 17, 0, 192, 188, 10, 181, 0, 9, 177]
abbrev dktX2_init_0 : List UInt8 := dkwX2_init_0 ++ []
theorem dksX2_init_0 : cX2_init.data.toList.drop 0 = dktX2_init_0 := by decide +kernel
theorem dX2_init_0 : decode cX2_init 0 = .ok (.aload_n 0, 1) := dk_42 (dk_at dksX2_init_0 0 rfl rfl)
theorem dX2_init_1 : decode cX2_init 1 = .ok (.invokespecial 3, 3) := dk_183 0 3 (dk_at dksX2_init_0 1 rfl rfl)
theorem dX2_init_4 : decode cX2_init 4 = .ok (.aload_n 0, 1) := dk_42 (dk_at dksX2_init_0 4 rfl rfl)
theorem dX2_init_5 : decode cX2_init 5 = .ok (.sipush 192, 3) := dk_17 0 192 (dk_at dksX2_init_0 5 rfl rfl)
theorem dX2_init_8 : decode cX2_init 8 = .ok (.newarray .int, 2) := dk_188_10 (dk_at dksX2_init_0 8 rfl rfl)
theorem dX2_init_10 : decode cX2_init 10 = .ok (.putfield 9, 3) := dk_181 0 9 (dk_at dksX2_init_0 10 rfl rfl)
theorem dX2_init_13 : decode cX2_init 13 = .ok (.return_, 1) := dk_177 (dk_at dksX2_init_0 13 rfl rfl)
abbrev cX2_spreads : ByteArray := prog_16_method_3_code
def yX2_spreads : MethodName := ⟨RX2, "spreads", "(Ljava/util/BitSet;I[II)V"⟩
def dkwX2_spreads_6 : List UInt8 := [21, 8, 79, 132, 5, 1, 132, 7, 1, 167, 255, 171, 132, 6, 1, 167, 255, 155, 177]
abbrev dktX2_spreads_6 : List UInt8 := dkwX2_spreads_6 ++ []
def dkwX2_spreads_5 : List UInt8 := [21, 8, 96, 45, 21, 4, 42, 180, 0, 9, 21, 6, 46, 96, 46, 4, 96, 79, 42, 180, 0, 9, 21, 5]
abbrev dktX2_spreads_5 : List UInt8 := dkwX2_spreads_5 ++ dktX2_spreads_6
def dkwX2_spreads_4 : List UInt8 := [21, 8, 182, 0, 16, 154, 0, 48, 45, 21, 4, 21, 8, 96, 46, 18, 15, 160, 0, 36, 45, 21, 4]
abbrev dktX2_spreads_4 : List UInt8 := dkwX2_spreads_4 ++ dktX2_spreads_5
def dkwX2_spreads_3 : List UInt8 := [42, 180, 0, 9, 21, 6, 46, 21, 7, 184, 0, 22, 54, 8, 21, 8, 184, 0, 26, 153, 0, 57, 43]
abbrev dktX2_spreads_3 : List UInt8 := dkwX2_spreads_3 ++ dktX2_spreads_4
def dkwX2_spreads_2 : List UInt8 := [28, 79, 4, 54, 5, 3, 54, 6, 21, 6, 21, 5, 162, 0, 100, 3, 54, 7, 21, 7, 7, 162, 0, 85]
abbrev dktX2_spreads_2 : List UInt8 := dkwX2_spreads_2 ++ dktX2_spreads_3
def dkwX2_spreads_1 : List UInt8 := [167, 255, 236, 43, 28, 182, 0, 16, 153, 0, 4, 177, 45, 21, 4, 28, 96, 3, 79, 42, 180, 0, 9, 3]
abbrev dktX2_spreads_1 : List UInt8 := dkwX2_spreads_1 ++ dktX2_spreads_2
def dkwX2_spreads_0 : List UInt8 := [3, 54, 5, 21, 5, 17, 0, 192, 162, 0, 18, 45, 21, 4, 21, 5, 96, 18, 15, 79, 132, 5, 1]
abbrev dktX2_spreads_0 : List UInt8 := dkwX2_spreads_0 ++ dktX2_spreads_1
theorem dksX2_spreads_0 : cX2_spreads.data.toList.drop 0 = dktX2_spreads_0 := by decide +kernel
theorem dksX2_spreads_1 : cX2_spreads.data.toList.drop 23 = dktX2_spreads_1 := dk_seg dksX2_spreads_0 23 rfl rfl
theorem dksX2_spreads_2 : cX2_spreads.data.toList.drop 47 = dktX2_spreads_2 := dk_seg dksX2_spreads_1 24 rfl rfl
theorem dksX2_spreads_3 : cX2_spreads.data.toList.drop 71 = dktX2_spreads_3 := dk_seg dksX2_spreads_2 24 rfl rfl
theorem dksX2_spreads_4 : cX2_spreads.data.toList.drop 94 = dktX2_spreads_4 := dk_seg dksX2_spreads_3 23 rfl rfl
theorem dksX2_spreads_5 : cX2_spreads.data.toList.drop 117 = dktX2_spreads_5 := dk_seg dksX2_spreads_4 23 rfl rfl
theorem dksX2_spreads_6 : cX2_spreads.data.toList.drop 141 = dktX2_spreads_6 := dk_seg dksX2_spreads_5 24 rfl rfl
theorem dX2_spreads_0 : decode cX2_spreads 0 = .ok (.iconst 0, 1) := dk_3 (dk_at dksX2_spreads_0 0 rfl rfl)
theorem dX2_spreads_1 : decode cX2_spreads 1 = .ok (.istore 5, 2) := dk_54 5 (dk_at dksX2_spreads_0 1 rfl rfl)
theorem dX2_spreads_3 : decode cX2_spreads 3 = .ok (.iload 5, 2) := dk_21 5 (dk_at dksX2_spreads_0 3 rfl rfl)
theorem dX2_spreads_5 : decode cX2_spreads 5 = .ok (.sipush 192, 3) := dk_17 0 192 (dk_at dksX2_spreads_0 5 rfl rfl)
theorem dX2_spreads_8 : decode cX2_spreads 8 = .ok (.if_icmp .ge 18, 3) := dk_162 0 18 (dk_at dksX2_spreads_0 8 rfl rfl)
theorem dX2_spreads_11 : decode cX2_spreads 11 = .ok (.aload_n 3, 1) := dk_45 (dk_at dksX2_spreads_0 11 rfl rfl)
theorem dX2_spreads_12 : decode cX2_spreads 12 = .ok (.iload 4, 2) := dk_21 4 (dk_at dksX2_spreads_0 12 rfl rfl)
theorem dX2_spreads_14 : decode cX2_spreads 14 = .ok (.iload 5, 2) := dk_21 5 (dk_at dksX2_spreads_0 14 rfl rfl)
theorem dX2_spreads_16 : decode cX2_spreads 16 = .ok (.iadd, 1) := dk_96 (dk_at dksX2_spreads_0 16 rfl rfl)
theorem dX2_spreads_17 : decode cX2_spreads 17 = .ok (.ldc 15, 2) := dk_18 15 (dk_at dksX2_spreads_0 17 rfl rfl)
theorem dX2_spreads_19 : decode cX2_spreads 19 = .ok (.iastore, 1) := dk_79 (dk_at dksX2_spreads_0 19 rfl rfl)
theorem dX2_spreads_20 : decode cX2_spreads 20 = .ok (.iinc 5 1, 3) := dk_132 5 1 (dk_at dksX2_spreads_0 20 rfl rfl)
theorem dX2_spreads_23 : decode cX2_spreads 23 = .ok (.goto (-20), 3) := dk_167 255 236 (dk_at dksX2_spreads_1 0 rfl rfl)
theorem dX2_spreads_26 : decode cX2_spreads 26 = .ok (.aload_n 1, 1) := dk_43 (dk_at dksX2_spreads_1 3 rfl rfl)
theorem dX2_spreads_27 : decode cX2_spreads 27 = .ok (.iload_n 2, 1) := dk_28 (dk_at dksX2_spreads_1 4 rfl rfl)
theorem dX2_spreads_28 : decode cX2_spreads 28 = .ok (.invokevirtual 16, 3) := dk_182 0 16 (dk_at dksX2_spreads_1 5 rfl rfl)
theorem dX2_spreads_31 : decode cX2_spreads 31 = .ok (.ifCond .eq 4, 3) := dk_153 0 4 (dk_at dksX2_spreads_1 8 rfl rfl)
theorem dX2_spreads_34 : decode cX2_spreads 34 = .ok (.return_, 1) := dk_177 (dk_at dksX2_spreads_1 11 rfl rfl)
theorem dX2_spreads_35 : decode cX2_spreads 35 = .ok (.aload_n 3, 1) := dk_45 (dk_at dksX2_spreads_1 12 rfl rfl)
theorem dX2_spreads_36 : decode cX2_spreads 36 = .ok (.iload 4, 2) := dk_21 4 (dk_at dksX2_spreads_1 13 rfl rfl)
theorem dX2_spreads_38 : decode cX2_spreads 38 = .ok (.iload_n 2, 1) := dk_28 (dk_at dksX2_spreads_1 15 rfl rfl)
theorem dX2_spreads_39 : decode cX2_spreads 39 = .ok (.iadd, 1) := dk_96 (dk_at dksX2_spreads_1 16 rfl rfl)
theorem dX2_spreads_40 : decode cX2_spreads 40 = .ok (.iconst 0, 1) := dk_3 (dk_at dksX2_spreads_1 17 rfl rfl)
theorem dX2_spreads_41 : decode cX2_spreads 41 = .ok (.iastore, 1) := dk_79 (dk_at dksX2_spreads_1 18 rfl rfl)
theorem dX2_spreads_42 : decode cX2_spreads 42 = .ok (.aload_n 0, 1) := dk_42 (dk_at dksX2_spreads_1 19 rfl rfl)
theorem dX2_spreads_43 : decode cX2_spreads 43 = .ok (.getfield 9, 3) := dk_180 0 9 (dk_at dksX2_spreads_1 20 rfl rfl)
theorem dX2_spreads_46 : decode cX2_spreads 46 = .ok (.iconst 0, 1) := dk_3 (dk_at dksX2_spreads_1 23 rfl rfl)
theorem dX2_spreads_47 : decode cX2_spreads 47 = .ok (.iload_n 2, 1) := dk_28 (dk_at dksX2_spreads_2 0 rfl rfl)
theorem dX2_spreads_48 : decode cX2_spreads 48 = .ok (.iastore, 1) := dk_79 (dk_at dksX2_spreads_2 1 rfl rfl)
theorem dX2_spreads_49 : decode cX2_spreads 49 = .ok (.iconst 1, 1) := dk_4 (dk_at dksX2_spreads_2 2 rfl rfl)
theorem dX2_spreads_50 : decode cX2_spreads 50 = .ok (.istore 5, 2) := dk_54 5 (dk_at dksX2_spreads_2 3 rfl rfl)
theorem dX2_spreads_52 : decode cX2_spreads 52 = .ok (.iconst 0, 1) := dk_3 (dk_at dksX2_spreads_2 5 rfl rfl)
theorem dX2_spreads_53 : decode cX2_spreads 53 = .ok (.istore 6, 2) := dk_54 6 (dk_at dksX2_spreads_2 6 rfl rfl)
theorem dX2_spreads_55 : decode cX2_spreads 55 = .ok (.iload 6, 2) := dk_21 6 (dk_at dksX2_spreads_2 8 rfl rfl)
theorem dX2_spreads_57 : decode cX2_spreads 57 = .ok (.iload 5, 2) := dk_21 5 (dk_at dksX2_spreads_2 10 rfl rfl)
theorem dX2_spreads_59 : decode cX2_spreads 59 = .ok (.if_icmp .ge 100, 3) := dk_162 0 100 (dk_at dksX2_spreads_2 12 rfl rfl)
theorem dX2_spreads_62 : decode cX2_spreads 62 = .ok (.iconst 0, 1) := dk_3 (dk_at dksX2_spreads_2 15 rfl rfl)
theorem dX2_spreads_63 : decode cX2_spreads 63 = .ok (.istore 7, 2) := dk_54 7 (dk_at dksX2_spreads_2 16 rfl rfl)
theorem dX2_spreads_65 : decode cX2_spreads 65 = .ok (.iload 7, 2) := dk_21 7 (dk_at dksX2_spreads_2 18 rfl rfl)
theorem dX2_spreads_67 : decode cX2_spreads 67 = .ok (.iconst 4, 1) := dk_7 (dk_at dksX2_spreads_2 20 rfl rfl)
theorem dX2_spreads_68 : decode cX2_spreads 68 = .ok (.if_icmp .ge 85, 3) := dk_162 0 85 (dk_at dksX2_spreads_2 21 rfl rfl)
theorem dX2_spreads_71 : decode cX2_spreads 71 = .ok (.aload_n 0, 1) := dk_42 (dk_at dksX2_spreads_3 0 rfl rfl)
theorem dX2_spreads_72 : decode cX2_spreads 72 = .ok (.getfield 9, 3) := dk_180 0 9 (dk_at dksX2_spreads_3 1 rfl rfl)
theorem dX2_spreads_75 : decode cX2_spreads 75 = .ok (.iload 6, 2) := dk_21 6 (dk_at dksX2_spreads_3 4 rfl rfl)
theorem dX2_spreads_77 : decode cX2_spreads 77 = .ok (.iaload, 1) := dk_46 (dk_at dksX2_spreads_3 6 rfl rfl)
theorem dX2_spreads_78 : decode cX2_spreads 78 = .ok (.iload 7, 2) := dk_21 7 (dk_at dksX2_spreads_3 7 rfl rfl)
theorem dX2_spreads_80 : decode cX2_spreads 80 = .ok (.invokestatic 22, 3) := dk_184 0 22 (dk_at dksX2_spreads_3 9 rfl rfl)
theorem dX2_spreads_83 : decode cX2_spreads 83 = .ok (.istore 8, 2) := dk_54 8 (dk_at dksX2_spreads_3 12 rfl rfl)
theorem dX2_spreads_85 : decode cX2_spreads 85 = .ok (.iload 8, 2) := dk_21 8 (dk_at dksX2_spreads_3 14 rfl rfl)
theorem dX2_spreads_87 : decode cX2_spreads 87 = .ok (.invokestatic 26, 3) := dk_184 0 26 (dk_at dksX2_spreads_3 16 rfl rfl)
theorem dX2_spreads_90 : decode cX2_spreads 90 = .ok (.ifCond .eq 57, 3) := dk_153 0 57 (dk_at dksX2_spreads_3 19 rfl rfl)
theorem dX2_spreads_93 : decode cX2_spreads 93 = .ok (.aload_n 1, 1) := dk_43 (dk_at dksX2_spreads_3 22 rfl rfl)
theorem dX2_spreads_94 : decode cX2_spreads 94 = .ok (.iload 8, 2) := dk_21 8 (dk_at dksX2_spreads_4 0 rfl rfl)
theorem dX2_spreads_96 : decode cX2_spreads 96 = .ok (.invokevirtual 16, 3) := dk_182 0 16 (dk_at dksX2_spreads_4 2 rfl rfl)
theorem dX2_spreads_99 : decode cX2_spreads 99 = .ok (.ifCond .ne 48, 3) := dk_154 0 48 (dk_at dksX2_spreads_4 5 rfl rfl)
theorem dX2_spreads_102 : decode cX2_spreads 102 = .ok (.aload_n 3, 1) := dk_45 (dk_at dksX2_spreads_4 8 rfl rfl)
theorem dX2_spreads_103 : decode cX2_spreads 103 = .ok (.iload 4, 2) := dk_21 4 (dk_at dksX2_spreads_4 9 rfl rfl)
theorem dX2_spreads_105 : decode cX2_spreads 105 = .ok (.iload 8, 2) := dk_21 8 (dk_at dksX2_spreads_4 11 rfl rfl)
theorem dX2_spreads_107 : decode cX2_spreads 107 = .ok (.iadd, 1) := dk_96 (dk_at dksX2_spreads_4 13 rfl rfl)
theorem dX2_spreads_108 : decode cX2_spreads 108 = .ok (.iaload, 1) := dk_46 (dk_at dksX2_spreads_4 14 rfl rfl)
theorem dX2_spreads_109 : decode cX2_spreads 109 = .ok (.ldc 15, 2) := dk_18 15 (dk_at dksX2_spreads_4 15 rfl rfl)
theorem dX2_spreads_111 : decode cX2_spreads 111 = .ok (.if_icmp .ne 36, 3) := dk_160 0 36 (dk_at dksX2_spreads_4 17 rfl rfl)
theorem dX2_spreads_114 : decode cX2_spreads 114 = .ok (.aload_n 3, 1) := dk_45 (dk_at dksX2_spreads_4 20 rfl rfl)
theorem dX2_spreads_115 : decode cX2_spreads 115 = .ok (.iload 4, 2) := dk_21 4 (dk_at dksX2_spreads_4 21 rfl rfl)
theorem dX2_spreads_117 : decode cX2_spreads 117 = .ok (.iload 8, 2) := dk_21 8 (dk_at dksX2_spreads_5 0 rfl rfl)
theorem dX2_spreads_119 : decode cX2_spreads 119 = .ok (.iadd, 1) := dk_96 (dk_at dksX2_spreads_5 2 rfl rfl)
theorem dX2_spreads_120 : decode cX2_spreads 120 = .ok (.aload_n 3, 1) := dk_45 (dk_at dksX2_spreads_5 3 rfl rfl)
theorem dX2_spreads_121 : decode cX2_spreads 121 = .ok (.iload 4, 2) := dk_21 4 (dk_at dksX2_spreads_5 4 rfl rfl)
theorem dX2_spreads_123 : decode cX2_spreads 123 = .ok (.aload_n 0, 1) := dk_42 (dk_at dksX2_spreads_5 6 rfl rfl)
theorem dX2_spreads_124 : decode cX2_spreads 124 = .ok (.getfield 9, 3) := dk_180 0 9 (dk_at dksX2_spreads_5 7 rfl rfl)
theorem dX2_spreads_127 : decode cX2_spreads 127 = .ok (.iload 6, 2) := dk_21 6 (dk_at dksX2_spreads_5 10 rfl rfl)
theorem dX2_spreads_129 : decode cX2_spreads 129 = .ok (.iaload, 1) := dk_46 (dk_at dksX2_spreads_5 12 rfl rfl)
theorem dX2_spreads_130 : decode cX2_spreads 130 = .ok (.iadd, 1) := dk_96 (dk_at dksX2_spreads_5 13 rfl rfl)
theorem dX2_spreads_131 : decode cX2_spreads 131 = .ok (.iaload, 1) := dk_46 (dk_at dksX2_spreads_5 14 rfl rfl)
theorem dX2_spreads_132 : decode cX2_spreads 132 = .ok (.iconst 1, 1) := dk_4 (dk_at dksX2_spreads_5 15 rfl rfl)
theorem dX2_spreads_133 : decode cX2_spreads 133 = .ok (.iadd, 1) := dk_96 (dk_at dksX2_spreads_5 16 rfl rfl)
theorem dX2_spreads_134 : decode cX2_spreads 134 = .ok (.iastore, 1) := dk_79 (dk_at dksX2_spreads_5 17 rfl rfl)
theorem dX2_spreads_135 : decode cX2_spreads 135 = .ok (.aload_n 0, 1) := dk_42 (dk_at dksX2_spreads_5 18 rfl rfl)
theorem dX2_spreads_136 : decode cX2_spreads 136 = .ok (.getfield 9, 3) := dk_180 0 9 (dk_at dksX2_spreads_5 19 rfl rfl)
theorem dX2_spreads_139 : decode cX2_spreads 139 = .ok (.iload 5, 2) := dk_21 5 (dk_at dksX2_spreads_5 22 rfl rfl)
theorem dX2_spreads_141 : decode cX2_spreads 141 = .ok (.iload 8, 2) := dk_21 8 (dk_at dksX2_spreads_6 0 rfl rfl)
theorem dX2_spreads_143 : decode cX2_spreads 143 = .ok (.iastore, 1) := dk_79 (dk_at dksX2_spreads_6 2 rfl rfl)
theorem dX2_spreads_144 : decode cX2_spreads 144 = .ok (.iinc 5 1, 3) := dk_132 5 1 (dk_at dksX2_spreads_6 3 rfl rfl)
theorem dX2_spreads_147 : decode cX2_spreads 147 = .ok (.iinc 7 1, 3) := dk_132 7 1 (dk_at dksX2_spreads_6 6 rfl rfl)
theorem dX2_spreads_150 : decode cX2_spreads 150 = .ok (.goto (-85), 3) := dk_167 255 171 (dk_at dksX2_spreads_6 9 rfl rfl)
theorem dX2_spreads_153 : decode cX2_spreads 153 = .ok (.iinc 6 1, 3) := dk_132 6 1 (dk_at dksX2_spreads_6 12 rfl rfl)
theorem dX2_spreads_156 : decode cX2_spreads 156 = .ok (.goto (-101), 3) := dk_167 255 155 (dk_at dksX2_spreads_6 15 rfl rfl)
theorem dX2_spreads_159 : decode cX2_spreads 159 = .ok (.return_, 1) := dk_177 (dk_at dksX2_spreads_6 18 rfl rfl)
abbrev cX2_toward : ByteArray := prog_16_method_2_code
def yX2_toward : MethodName := ⟨RX2, "toward", "(II)I"⟩
def dkwX2_toward_3 : List UInt8 := [28, 154, 0, 7, 2, 167, 0, 6, 26, 4, 100, 172]
abbrev dktX2_toward_3 : List UInt8 := dkwX2_toward_3 ++ []
def dkwX2_toward_2 : List UInt8 := [26, 16, 16, 100, 172, 28, 16, 15, 160, 0, 7, 2, 167, 0, 6, 26, 4, 96, 172, 26, 16, 16, 96, 172]
abbrev dktX2_toward_2 : List UInt8 := dkwX2_toward_2 ++ dktX2_toward_3
def dkwX2_toward_1 : List UInt8 := [170, 0, 0, 0, 0, 50, 0, 0, 0, 0, 0, 0, 0, 2, 0, 0, 0, 26, 0, 0, 0, 31, 0, 0, 0, 45]
abbrev dktX2_toward_1 : List UInt8 := dkwX2_toward_1 ++ dktX2_toward_2
def dkwX2_toward_0 : List UInt8 := [26, 16, 16, 112, 61, 27]
abbrev dktX2_toward_0 : List UInt8 := dkwX2_toward_0 ++ dktX2_toward_1
theorem dksX2_toward_0 : cX2_toward.data.toList.drop 0 = dktX2_toward_0 := by decide +kernel
theorem dksX2_toward_1 : cX2_toward.data.toList.drop 6 = dktX2_toward_1 := dk_seg dksX2_toward_0 6 rfl rfl
theorem dksX2_toward_2 : cX2_toward.data.toList.drop 32 = dktX2_toward_2 := dk_seg dksX2_toward_1 26 rfl rfl
theorem dksX2_toward_3 : cX2_toward.data.toList.drop 56 = dktX2_toward_3 := dk_seg dksX2_toward_2 24 rfl rfl
theorem dX2_toward_0 : decode cX2_toward 0 = .ok (.iload_n 0, 1) := dk_26 (dk_at dksX2_toward_0 0 rfl rfl)
theorem dX2_toward_1 : decode cX2_toward 1 = .ok (.bipush 16, 2) := dk_16 16 (dk_at dksX2_toward_0 1 rfl rfl)
theorem dX2_toward_3 : decode cX2_toward 3 = .ok (.irem, 1) := dk_112 (dk_at dksX2_toward_0 3 rfl rfl)
theorem dX2_toward_4 : decode cX2_toward 4 = .ok (.istore_n 2, 1) := dk_61 (dk_at dksX2_toward_0 4 rfl rfl)
theorem dX2_toward_5 : decode cX2_toward 5 = .ok (.iload_n 1, 1) := dk_27 (dk_at dksX2_toward_0 5 rfl rfl)
theorem dX2_toward_6 : decode cX2_toward 6 = .ok (.tableswitch 50 0 2 #[26, 31, 45], 26) := by decide +kernel
theorem dX2_toward_32 : decode cX2_toward 32 = .ok (.iload_n 0, 1) := dk_26 (dk_at dksX2_toward_2 0 rfl rfl)
theorem dX2_toward_33 : decode cX2_toward 33 = .ok (.bipush 16, 2) := dk_16 16 (dk_at dksX2_toward_2 1 rfl rfl)
theorem dX2_toward_35 : decode cX2_toward 35 = .ok (.isub, 1) := dk_100 (dk_at dksX2_toward_2 3 rfl rfl)
theorem dX2_toward_36 : decode cX2_toward 36 = .ok (.ireturn, 1) := dk_172 (dk_at dksX2_toward_2 4 rfl rfl)
theorem dX2_toward_37 : decode cX2_toward 37 = .ok (.iload_n 2, 1) := dk_28 (dk_at dksX2_toward_2 5 rfl rfl)
theorem dX2_toward_38 : decode cX2_toward 38 = .ok (.bipush 15, 2) := dk_16 15 (dk_at dksX2_toward_2 6 rfl rfl)
theorem dX2_toward_40 : decode cX2_toward 40 = .ok (.if_icmp .ne 7, 3) := dk_160 0 7 (dk_at dksX2_toward_2 8 rfl rfl)
theorem dX2_toward_43 : decode cX2_toward 43 = .ok (.iconst (-1), 1) := dk_2 (dk_at dksX2_toward_2 11 rfl rfl)
theorem dX2_toward_44 : decode cX2_toward 44 = .ok (.goto 6, 3) := dk_167 0 6 (dk_at dksX2_toward_2 12 rfl rfl)
theorem dX2_toward_47 : decode cX2_toward 47 = .ok (.iload_n 0, 1) := dk_26 (dk_at dksX2_toward_2 15 rfl rfl)
theorem dX2_toward_48 : decode cX2_toward 48 = .ok (.iconst 1, 1) := dk_4 (dk_at dksX2_toward_2 16 rfl rfl)
theorem dX2_toward_49 : decode cX2_toward 49 = .ok (.iadd, 1) := dk_96 (dk_at dksX2_toward_2 17 rfl rfl)
theorem dX2_toward_50 : decode cX2_toward 50 = .ok (.ireturn, 1) := dk_172 (dk_at dksX2_toward_2 18 rfl rfl)
theorem dX2_toward_51 : decode cX2_toward 51 = .ok (.iload_n 0, 1) := dk_26 (dk_at dksX2_toward_2 19 rfl rfl)
theorem dX2_toward_52 : decode cX2_toward 52 = .ok (.bipush 16, 2) := dk_16 16 (dk_at dksX2_toward_2 20 rfl rfl)
theorem dX2_toward_54 : decode cX2_toward 54 = .ok (.iadd, 1) := dk_96 (dk_at dksX2_toward_2 22 rfl rfl)
theorem dX2_toward_55 : decode cX2_toward 55 = .ok (.ireturn, 1) := dk_172 (dk_at dksX2_toward_2 23 rfl rfl)
theorem dX2_toward_56 : decode cX2_toward 56 = .ok (.iload_n 2, 1) := dk_28 (dk_at dksX2_toward_3 0 rfl rfl)
theorem dX2_toward_57 : decode cX2_toward 57 = .ok (.ifCond .ne 7, 3) := dk_154 0 7 (dk_at dksX2_toward_3 1 rfl rfl)
theorem dX2_toward_60 : decode cX2_toward 60 = .ok (.iconst (-1), 1) := dk_2 (dk_at dksX2_toward_3 4 rfl rfl)
theorem dX2_toward_61 : decode cX2_toward 61 = .ok (.goto 6, 3) := dk_167 0 6 (dk_at dksX2_toward_3 5 rfl rfl)
theorem dX2_toward_64 : decode cX2_toward 64 = .ok (.iload_n 0, 1) := dk_26 (dk_at dksX2_toward_3 8 rfl rfl)
theorem dX2_toward_65 : decode cX2_toward 65 = .ok (.iconst 1, 1) := dk_4 (dk_at dksX2_toward_3 9 rfl rfl)
theorem dX2_toward_66 : decode cX2_toward 66 = .ok (.isub, 1) := dk_100 (dk_at dksX2_toward_3 10 rfl rfl)
theorem dX2_toward_67 : decode cX2_toward 67 = .ok (.ireturn, 1) := dk_172 (dk_at dksX2_toward_3 11 rfl rfl)
theorem q102 : (Jvm.Cond.initialized "WhalingLogs$Waters") ∈ lw_all := lw_g (lw_at lw_m1 9 rfl) rfl
theorem q269 : (Jvm.Cond.instantiable "WhalingLogs$Waters" (1 : Nat)) ∈ lw_all := lw_g (lw_at lw_m1 176 rfl) rfl
theorem q271 : (Jvm.Cond.instanceMethod ({ cls := "WhalingLogs$Waters", name := "<init>", desc := "()V" } : Jvm.MethodName)) ∈ lw_all := lw_g (lw_at lw_m1 178 rfl) rfl
theorem q272 : (Jvm.Cond.code ({ cls := "WhalingLogs$Waters", name := "<init>", desc := "()V" } : Jvm.MethodName) prog_16_method_1_code (1 : Nat) (Option.none : Option Jvm.ClassFile.FieldType)) ∈ lw_all := lw_g (lw_at lw_m1 179 rfl) rfl
theorem q273 : (Jvm.Cond.methodLink "WhalingLogs$Waters" (3 : Nat) ({ cls := "java/lang/Object", name := "<init>", desc := "()V" } : Jvm.MethodName)) ∈ lw_all := lw_g (lw_at lw_m1 180 rfl) rfl
theorem q274 : (Jvm.Cond.fieldLink "WhalingLogs$Waters" (9 : Nat) "WhalingLogs$Waters" "row" "[I") ∈ lw_all := lw_g (lw_at lw_m1 181 rfl) rfl
theorem q275 : (Jvm.Cond.laysFinal "WhalingLogs$Waters" "WhalingLogs$Waters" "row" "[I") ∈ lw_all := lw_g (lw_at lw_m1 182 rfl) rfl
theorem q276 : (Jvm.Cond.soleField "WhalingLogs$Waters" "row") ∈ lw_all := lw_g (lw_at lw_m1 183 rfl) rfl
theorem q277 : (Jvm.Cond.superclass "WhalingLogs$Waters" "java/lang/Object") ∈ lw_all := lw_g (lw_at lw_m1 184 rfl) rfl
theorem q684 : (Jvm.Cond.selects "WhalingLogs$Waters" ({ cls := "java/lang/Object", name := "getClass", desc := "()Ljava/lang/Class;" } : Jvm.MethodName) ({ cls := "java/lang/Object", name := "getClass", desc := "()Ljava/lang/Class;" } : Jvm.MethodName)) ∈ lw_all := lw_g (lw_at lw_m3 111 rfl) rfl
theorem q1224 : (Jvm.Cond.instanceMethod ({ cls := "WhalingLogs$Waters", name := "spreads", desc := "(Ljava/util/BitSet;I[II)V" } : Jvm.MethodName)) ∈ lw_all := lw_g (lw_at lw_m5 171 rfl) rfl
theorem q1225 : (Jvm.Cond.selects "WhalingLogs$Waters" ({ cls := "WhalingLogs$Waters", name := "spreads", desc := "(Ljava/util/BitSet;I[II)V" } : Jvm.MethodName) ({ cls := "WhalingLogs$Waters", name := "spreads", desc := "(Ljava/util/BitSet;I[II)V" } : Jvm.MethodName)) ∈ lw_all := lw_g (lw_at lw_m5 172 rfl) rfl
theorem q1226 : (Jvm.Cond.code ({ cls := "WhalingLogs$Waters", name := "spreads", desc := "(Ljava/util/BitSet;I[II)V" } : Jvm.MethodName) prog_16_method_3_code (9 : Nat) (Option.none : Option Jvm.ClassFile.FieldType)) ∈ lw_all := lw_g (lw_at lw_m5 173 rfl) rfl
theorem q1227 : (Jvm.Cond.constant "WhalingLogs$Waters" (15 : Nat) (1048576 : Int32)) ∈ lw_all := lw_g (lw_at lw_m5 174 rfl) rfl
theorem q1228 : (Jvm.Cond.methodLink "WhalingLogs$Waters" (16 : Nat) ({ cls := "java/util/BitSet", name := "get", desc := "(I)Z" } : Jvm.MethodName)) ∈ lw_all := lw_g (lw_at lw_m5 175 rfl) rfl
theorem q1232 : (Jvm.Cond.methodLink "WhalingLogs$Waters" (22 : Nat) ({ cls := "WhalingLogs$Waters", name := "toward", desc := "(II)I" } : Jvm.MethodName)) ∈ lw_all := lw_g (lw_at lw_m5 179 rfl) rfl
theorem q1233 : (Jvm.Cond.static ({ cls := "WhalingLogs$Waters", name := "toward", desc := "(II)I" } : Jvm.MethodName)) ∈ lw_all := lw_g (lw_at lw_m5 180 rfl) rfl
theorem q1234 : (Jvm.Cond.code ({ cls := "WhalingLogs$Waters", name := "toward", desc := "(II)I" } : Jvm.MethodName) prog_16_method_2_code (3 : Nat) (Option.some Jvm.ClassFile.FieldType.int)) ∈ lw_all := lw_g (lw_at lw_m5 181 rfl) rfl
theorem q1235 : (Jvm.Cond.methodLinkNest "WhalingLogs$Waters" (26 : Nat) ({ cls := "WhalingLogs", name := "isCell", desc := "(I)Z" } : Jvm.MethodName) "WhalingLogs") ∈ lw_tbl := lw_at lw_m5 182 rfl
theorem q2609 : (Jvm.Cond.castable "WhalingLogs$Waters" "java/lang/Object") ∈ lw_tbl := lw_at lw_m11 116 rfl
theorem in_X2 : ∀ w ∈ wsX20, w ∈ lw_all := lw_in wsX20 [275] (by decide +kernel) (by decide +kernel)
/-! WhalingLogs$Listing -/
set_option maxRecDepth 100000
def RX3 : String := "WhalingLogs$Listing"
def TX3 : u_T := fun k => match k with
  | 0 => ("WhalingLogs$Listing", "entries", "[LWhalingLogs$Entry;", true)
  | 1 => ("WhalingLogs$Listing", "pages", "[I", true)
  | 2 => ("WhalingLogs$Listing", "numbers", "[I", true)
  | 3 => ("WhalingLogs$Listing", "distances", "[I", true)
  | 4 => ("WhalingLogs$Listing", "best", "[I", true)
  | 5 => ("WhalingLogs$Listing", "track", "[I", true)
  | 6 => ("WhalingLogs$Listing", "of", "LWhalingLogs$Archive;", false)
  | 7 => ("WhalingLogs$Listing", "many", "I", false)
  | _ => ("WhalingLogs$Listing", "tracked", "I", false)
def tyX3 : Nat → FieldType := fun k => match k with
  | 0 => .array (.object "WhalingLogs$Entry")
  | 1 => .array .int
  | 2 => .array .int
  | 3 => .array .int
  | 4 => .array .int
  | 5 => .array .int
  | 6 => .object "WhalingLogs$Archive"
  | 7 => .int
  | _ => .int
abbrev wsX30 : List Cond := u_ws RX3 TX3 9
theorem nmX3 : ∀ a, a < 9 → ∀ b, b < 9 → a ≠ b → (TX3 a).2.1 ≠ (TX3 b).2.1 := by decide +kernel
theorem tyX3_ok : ∀ k, k < 9 → parseFieldDescriptor (TX3 k).2.2.1 = some (tyX3 k) := by decide +kernel
abbrev cX3_init : ByteArray := prog_7_method_1_code
def yX3_init : MethodName := ⟨RX3, "<init>", "()V"⟩
def dkwX3_init_2 : List UInt8 := [16, 30, 188, 10, 181, 0, 30, 177]
abbrev dktX3_init_2 : List UInt8 := dkwX3_init_2 ++ []
def dkwX3_init_1 : List UInt8 := [188, 10, 181, 0, 21, 42, 17, 22, 128, 188, 10, 181, 0, 24, 42, 16, 30, 188, 10, 181, 0, 27, 42]
abbrev dktX3_init_1 : List UInt8 := dkwX3_init_1 ++ dktX3_init_2
def dkwX3_init_0 : List UInt8 := [42, 183, 0, 3, 42, 16, 30, 189, 0, 9, 181, 0, 11, 42, 16, 30, 188, 10, 181, 0, 17, 42, 16, 30]
abbrev dktX3_init_0 : List UInt8 := dkwX3_init_0 ++ dktX3_init_1
theorem dksX3_init_0 : cX3_init.data.toList.drop 0 = dktX3_init_0 := by decide +kernel
theorem dksX3_init_1 : cX3_init.data.toList.drop 24 = dktX3_init_1 := dk_seg dksX3_init_0 24 rfl rfl
theorem dksX3_init_2 : cX3_init.data.toList.drop 47 = dktX3_init_2 := dk_seg dksX3_init_1 23 rfl rfl
theorem dX3_init_0 : decode cX3_init 0 = .ok (.aload_n 0, 1) := dk_42 (dk_at dksX3_init_0 0 rfl rfl)
theorem dX3_init_1 : decode cX3_init 1 = .ok (.invokespecial 3, 3) := dk_183 0 3 (dk_at dksX3_init_0 1 rfl rfl)
theorem dX3_init_4 : decode cX3_init 4 = .ok (.aload_n 0, 1) := dk_42 (dk_at dksX3_init_0 4 rfl rfl)
theorem dX3_init_5 : decode cX3_init 5 = .ok (.bipush 30, 2) := dk_16 30 (dk_at dksX3_init_0 5 rfl rfl)
theorem dX3_init_7 : decode cX3_init 7 = .ok (.anewarray 9, 3) := dk_189 0 9 (dk_at dksX3_init_0 7 rfl rfl)
theorem dX3_init_10 : decode cX3_init 10 = .ok (.putfield 11, 3) := dk_181 0 11 (dk_at dksX3_init_0 10 rfl rfl)
theorem dX3_init_13 : decode cX3_init 13 = .ok (.aload_n 0, 1) := dk_42 (dk_at dksX3_init_0 13 rfl rfl)
theorem dX3_init_14 : decode cX3_init 14 = .ok (.bipush 30, 2) := dk_16 30 (dk_at dksX3_init_0 14 rfl rfl)
theorem dX3_init_16 : decode cX3_init 16 = .ok (.newarray .int, 2) := dk_188_10 (dk_at dksX3_init_0 16 rfl rfl)
theorem dX3_init_18 : decode cX3_init 18 = .ok (.putfield 17, 3) := dk_181 0 17 (dk_at dksX3_init_0 18 rfl rfl)
theorem dX3_init_21 : decode cX3_init 21 = .ok (.aload_n 0, 1) := dk_42 (dk_at dksX3_init_0 21 rfl rfl)
theorem dX3_init_22 : decode cX3_init 22 = .ok (.bipush 30, 2) := dk_16 30 (dk_at dksX3_init_0 22 rfl rfl)
theorem dX3_init_24 : decode cX3_init 24 = .ok (.newarray .int, 2) := dk_188_10 (dk_at dksX3_init_1 0 rfl rfl)
theorem dX3_init_26 : decode cX3_init 26 = .ok (.putfield 21, 3) := dk_181 0 21 (dk_at dksX3_init_1 2 rfl rfl)
theorem dX3_init_29 : decode cX3_init 29 = .ok (.aload_n 0, 1) := dk_42 (dk_at dksX3_init_1 5 rfl rfl)
theorem dX3_init_30 : decode cX3_init 30 = .ok (.sipush 5760, 3) := dk_17 22 128 (dk_at dksX3_init_1 6 rfl rfl)
theorem dX3_init_33 : decode cX3_init 33 = .ok (.newarray .int, 2) := dk_188_10 (dk_at dksX3_init_1 9 rfl rfl)
theorem dX3_init_35 : decode cX3_init 35 = .ok (.putfield 24, 3) := dk_181 0 24 (dk_at dksX3_init_1 11 rfl rfl)
theorem dX3_init_38 : decode cX3_init 38 = .ok (.aload_n 0, 1) := dk_42 (dk_at dksX3_init_1 14 rfl rfl)
theorem dX3_init_39 : decode cX3_init 39 = .ok (.bipush 30, 2) := dk_16 30 (dk_at dksX3_init_1 15 rfl rfl)
theorem dX3_init_41 : decode cX3_init 41 = .ok (.newarray .int, 2) := dk_188_10 (dk_at dksX3_init_1 17 rfl rfl)
theorem dX3_init_43 : decode cX3_init 43 = .ok (.putfield 27, 3) := dk_181 0 27 (dk_at dksX3_init_1 19 rfl rfl)
theorem dX3_init_46 : decode cX3_init 46 = .ok (.aload_n 0, 1) := dk_42 (dk_at dksX3_init_1 22 rfl rfl)
theorem dX3_init_47 : decode cX3_init 47 = .ok (.bipush 30, 2) := dk_16 30 (dk_at dksX3_init_2 0 rfl rfl)
theorem dX3_init_49 : decode cX3_init 49 = .ok (.newarray .int, 2) := dk_188_10 (dk_at dksX3_init_2 2 rfl rfl)
theorem dX3_init_51 : decode cX3_init 51 = .ok (.putfield 30, 3) := dk_181 0 30 (dk_at dksX3_init_2 4 rfl rfl)
theorem dX3_init_54 : decode cX3_init 54 = .ok (.return_, 1) := dk_177 (dk_at dksX3_init_2 7 rfl rfl)
abbrev cX3_lists : ByteArray := prog_7_method_3_code
def yX3_lists : MethodName := ⟨RX3, "lists", "(LWhalingLogs$Archive;)LWhalingLogs$Listing;"⟩
def dkwX3_lists_4 : List UInt8 := [182, 0, 83, 132, 5, 1, 167, 255, 200, 132, 2, 1, 167, 255, 171, 42, 176]
abbrev dktX3_lists_4 : List UInt8 := dkwX3_lists_4 ++ []
def dkwX3_lists_3 : List UInt8 := [180, 0, 80, 4, 160, 0, 23, 42, 25, 4, 180, 0, 67, 21, 5, 182, 0, 76, 192, 0, 9, 28, 21, 5]
abbrev dktX3_lists_3 : List UInt8 := dkwX3_lists_3 ++ dktX3_lists_4
def dkwX3_lists_2 : List UInt8 := [25, 4, 180, 0, 67, 182, 0, 70, 162, 0, 49, 25, 4, 180, 0, 67, 21, 5, 182, 0, 76, 192, 0, 9]
abbrev dktX3_lists_2 : List UInt8 := dkwX3_lists_2 ++ dktX3_lists_3
def dkwX3_lists_1 : List UInt8 := [185, 0, 55, 1, 0, 153, 0, 82, 45, 185, 0, 61, 1, 0, 192, 0, 65, 58, 4, 3, 54, 5, 21, 5]
abbrev dktX3_lists_1 : List UInt8 := dkwX3_lists_1 ++ dktX3_lists_2
def dkwX3_lists_0 : List UInt8 := [42, 43, 181, 0, 40, 42, 3, 181, 0, 33, 3, 61, 43, 180, 0, 44, 182, 0, 49, 78, 45]
abbrev dktX3_lists_0 : List UInt8 := dkwX3_lists_0 ++ dktX3_lists_1
theorem dksX3_lists_0 : cX3_lists.data.toList.drop 0 = dktX3_lists_0 := by decide +kernel
theorem dksX3_lists_1 : cX3_lists.data.toList.drop 21 = dktX3_lists_1 := dk_seg dksX3_lists_0 21 rfl rfl
theorem dksX3_lists_2 : cX3_lists.data.toList.drop 45 = dktX3_lists_2 := dk_seg dksX3_lists_1 24 rfl rfl
theorem dksX3_lists_3 : cX3_lists.data.toList.drop 69 = dktX3_lists_3 := dk_seg dksX3_lists_2 24 rfl rfl
theorem dksX3_lists_4 : cX3_lists.data.toList.drop 93 = dktX3_lists_4 := dk_seg dksX3_lists_3 24 rfl rfl
theorem dX3_lists_0 : decode cX3_lists 0 = .ok (.aload_n 0, 1) := dk_42 (dk_at dksX3_lists_0 0 rfl rfl)
theorem dX3_lists_1 : decode cX3_lists 1 = .ok (.aload_n 1, 1) := dk_43 (dk_at dksX3_lists_0 1 rfl rfl)
theorem dX3_lists_2 : decode cX3_lists 2 = .ok (.putfield 40, 3) := dk_181 0 40 (dk_at dksX3_lists_0 2 rfl rfl)
theorem dX3_lists_5 : decode cX3_lists 5 = .ok (.aload_n 0, 1) := dk_42 (dk_at dksX3_lists_0 5 rfl rfl)
theorem dX3_lists_6 : decode cX3_lists 6 = .ok (.iconst 0, 1) := dk_3 (dk_at dksX3_lists_0 6 rfl rfl)
theorem dX3_lists_7 : decode cX3_lists 7 = .ok (.putfield 33, 3) := dk_181 0 33 (dk_at dksX3_lists_0 7 rfl rfl)
theorem dX3_lists_10 : decode cX3_lists 10 = .ok (.iconst 0, 1) := dk_3 (dk_at dksX3_lists_0 10 rfl rfl)
theorem dX3_lists_11 : decode cX3_lists 11 = .ok (.istore_n 2, 1) := dk_61 (dk_at dksX3_lists_0 11 rfl rfl)
theorem dX3_lists_12 : decode cX3_lists 12 = .ok (.aload_n 1, 1) := dk_43 (dk_at dksX3_lists_0 12 rfl rfl)
theorem dX3_lists_13 : decode cX3_lists 13 = .ok (.getfield 44, 3) := dk_180 0 44 (dk_at dksX3_lists_0 13 rfl rfl)
theorem dX3_lists_16 : decode cX3_lists 16 = .ok (.invokevirtual 49, 3) := dk_182 0 49 (dk_at dksX3_lists_0 16 rfl rfl)
theorem dX3_lists_19 : decode cX3_lists 19 = .ok (.astore_n 3, 1) := dk_78 (dk_at dksX3_lists_0 19 rfl rfl)
theorem dX3_lists_20 : decode cX3_lists 20 = .ok (.aload_n 3, 1) := dk_45 (dk_at dksX3_lists_0 20 rfl rfl)
theorem dX3_lists_21 : decode cX3_lists 21 = .ok (.invokeinterface 55 1, 5) := by decide +kernel
theorem dX3_lists_26 : decode cX3_lists 26 = .ok (.ifCond .eq 82, 3) := dk_153 0 82 (dk_at dksX3_lists_1 5 rfl rfl)
theorem dX3_lists_29 : decode cX3_lists 29 = .ok (.aload_n 3, 1) := dk_45 (dk_at dksX3_lists_1 8 rfl rfl)
theorem dX3_lists_30 : decode cX3_lists 30 = .ok (.invokeinterface 61 1, 5) := by decide +kernel
theorem dX3_lists_35 : decode cX3_lists 35 = .ok (.checkcast 65, 3) := dk_192 0 65 (dk_at dksX3_lists_1 14 rfl rfl)
theorem dX3_lists_38 : decode cX3_lists 38 = .ok (.astore 4, 2) := dk_58 4 (dk_at dksX3_lists_1 17 rfl rfl)
theorem dX3_lists_40 : decode cX3_lists 40 = .ok (.iconst 0, 1) := dk_3 (dk_at dksX3_lists_1 19 rfl rfl)
theorem dX3_lists_41 : decode cX3_lists 41 = .ok (.istore 5, 2) := dk_54 5 (dk_at dksX3_lists_1 20 rfl rfl)
theorem dX3_lists_43 : decode cX3_lists 43 = .ok (.iload 5, 2) := dk_21 5 (dk_at dksX3_lists_1 22 rfl rfl)
theorem dX3_lists_45 : decode cX3_lists 45 = .ok (.aload 4, 2) := dk_25 4 (dk_at dksX3_lists_2 0 rfl rfl)
theorem dX3_lists_47 : decode cX3_lists 47 = .ok (.getfield 67, 3) := dk_180 0 67 (dk_at dksX3_lists_2 2 rfl rfl)
theorem dX3_lists_50 : decode cX3_lists 50 = .ok (.invokevirtual 70, 3) := dk_182 0 70 (dk_at dksX3_lists_2 5 rfl rfl)
theorem dX3_lists_53 : decode cX3_lists 53 = .ok (.if_icmp .ge 49, 3) := dk_162 0 49 (dk_at dksX3_lists_2 8 rfl rfl)
theorem dX3_lists_56 : decode cX3_lists 56 = .ok (.aload 4, 2) := dk_25 4 (dk_at dksX3_lists_2 11 rfl rfl)
theorem dX3_lists_58 : decode cX3_lists 58 = .ok (.getfield 67, 3) := dk_180 0 67 (dk_at dksX3_lists_2 13 rfl rfl)
theorem dX3_lists_61 : decode cX3_lists 61 = .ok (.iload 5, 2) := dk_21 5 (dk_at dksX3_lists_2 16 rfl rfl)
theorem dX3_lists_63 : decode cX3_lists 63 = .ok (.invokevirtual 76, 3) := dk_182 0 76 (dk_at dksX3_lists_2 18 rfl rfl)
theorem dX3_lists_66 : decode cX3_lists 66 = .ok (.checkcast 9, 3) := dk_192 0 9 (dk_at dksX3_lists_2 21 rfl rfl)
theorem dX3_lists_69 : decode cX3_lists 69 = .ok (.getfield 80, 3) := dk_180 0 80 (dk_at dksX3_lists_3 0 rfl rfl)
theorem dX3_lists_72 : decode cX3_lists 72 = .ok (.iconst 1, 1) := dk_4 (dk_at dksX3_lists_3 3 rfl rfl)
theorem dX3_lists_73 : decode cX3_lists 73 = .ok (.if_icmp .ne 23, 3) := dk_160 0 23 (dk_at dksX3_lists_3 4 rfl rfl)
theorem dX3_lists_76 : decode cX3_lists 76 = .ok (.aload_n 0, 1) := dk_42 (dk_at dksX3_lists_3 7 rfl rfl)
theorem dX3_lists_77 : decode cX3_lists 77 = .ok (.aload 4, 2) := dk_25 4 (dk_at dksX3_lists_3 8 rfl rfl)
theorem dX3_lists_79 : decode cX3_lists 79 = .ok (.getfield 67, 3) := dk_180 0 67 (dk_at dksX3_lists_3 10 rfl rfl)
theorem dX3_lists_82 : decode cX3_lists 82 = .ok (.iload 5, 2) := dk_21 5 (dk_at dksX3_lists_3 13 rfl rfl)
theorem dX3_lists_84 : decode cX3_lists 84 = .ok (.invokevirtual 76, 3) := dk_182 0 76 (dk_at dksX3_lists_3 15 rfl rfl)
theorem dX3_lists_87 : decode cX3_lists 87 = .ok (.checkcast 9, 3) := dk_192 0 9 (dk_at dksX3_lists_3 18 rfl rfl)
theorem dX3_lists_90 : decode cX3_lists 90 = .ok (.iload_n 2, 1) := dk_28 (dk_at dksX3_lists_3 21 rfl rfl)
theorem dX3_lists_91 : decode cX3_lists 91 = .ok (.iload 5, 2) := dk_21 5 (dk_at dksX3_lists_3 22 rfl rfl)
theorem dX3_lists_93 : decode cX3_lists 93 = .ok (.invokevirtual 83, 3) := dk_182 0 83 (dk_at dksX3_lists_4 0 rfl rfl)
theorem dX3_lists_96 : decode cX3_lists 96 = .ok (.iinc 5 1, 3) := dk_132 5 1 (dk_at dksX3_lists_4 3 rfl rfl)
theorem dX3_lists_99 : decode cX3_lists 99 = .ok (.goto (-56), 3) := dk_167 255 200 (dk_at dksX3_lists_4 6 rfl rfl)
theorem dX3_lists_102 : decode cX3_lists 102 = .ok (.iinc 2 1, 3) := dk_132 2 1 (dk_at dksX3_lists_4 9 rfl rfl)
theorem dX3_lists_105 : decode cX3_lists 105 = .ok (.goto (-85), 3) := dk_167 255 171 (dk_at dksX3_lists_4 12 rfl rfl)
theorem dX3_lists_108 : decode cX3_lists 108 = .ok (.aload_n 0, 1) := dk_42 (dk_at dksX3_lists_4 15 rfl rfl)
theorem dX3_lists_109 : decode cX3_lists 109 = .ok (.areturn, 1) := dk_176 (dk_at dksX3_lists_4 16 rfl rfl)
abbrev cX3_puts : ByteArray := prog_7_method_2_code
def yX3_puts : MethodName := ⟨RX3, "puts", "(LWhalingLogs$Entry;II)V"⟩
def dkwX3_puts_5 : List UInt8 := [181, 0, 33, 177]
abbrev dktX3_puts_5 : List UInt8 := dkwX3_puts_5 ++ []
def dkwX3_puts_4 : List UInt8 := [180, 0, 17, 21, 4, 28, 79, 42, 180, 0, 21, 21, 4, 29, 79, 42, 89, 180, 0, 33, 4, 96]
abbrev dktX3_puts_4 : List UInt8 := dkwX3_puts_4 ++ dktX3_puts_5
def dkwX3_puts_3 : List UInt8 := [180, 0, 21, 21, 4, 4, 100, 46, 79, 132, 4, 255, 167, 255, 181, 42, 180, 0, 11, 21, 4, 43, 83, 42]
abbrev dktX3_puts_3 : List UInt8 := dkwX3_puts_3 ++ dktX3_puts_4
def dkwX3_puts_2 : List UInt8 := [180, 0, 17, 21, 4, 42, 180, 0, 17, 21, 4, 4, 100, 46, 79, 42, 180, 0, 21, 21, 4, 42]
abbrev dktX3_puts_2 : List UInt8 := dkwX3_puts_2 ++ dktX3_puts_3
def dkwX3_puts_1 : List UInt8 := [180, 0, 37, 164, 0, 57, 42, 180, 0, 11, 21, 4, 42, 180, 0, 11, 21, 4, 4, 100, 50, 83, 42]
abbrev dktX3_puts_1 : List UInt8 := dkwX3_puts_1 ++ dktX3_puts_2
def dkwX3_puts_0 : List UInt8 := [42, 180, 0, 33, 54, 4, 21, 4, 158, 0, 76, 42, 180, 0, 11, 21, 4, 4, 100, 50, 180, 0, 37, 43]
abbrev dktX3_puts_0 : List UInt8 := dkwX3_puts_0 ++ dktX3_puts_1
theorem dksX3_puts_0 : cX3_puts.data.toList.drop 0 = dktX3_puts_0 := by decide +kernel
theorem dksX3_puts_1 : cX3_puts.data.toList.drop 24 = dktX3_puts_1 := dk_seg dksX3_puts_0 24 rfl rfl
theorem dksX3_puts_2 : cX3_puts.data.toList.drop 47 = dktX3_puts_2 := dk_seg dksX3_puts_1 23 rfl rfl
theorem dksX3_puts_3 : cX3_puts.data.toList.drop 69 = dktX3_puts_3 := dk_seg dksX3_puts_2 22 rfl rfl
theorem dksX3_puts_4 : cX3_puts.data.toList.drop 93 = dktX3_puts_4 := dk_seg dksX3_puts_3 24 rfl rfl
theorem dksX3_puts_5 : cX3_puts.data.toList.drop 115 = dktX3_puts_5 := dk_seg dksX3_puts_4 22 rfl rfl
theorem dX3_puts_0 : decode cX3_puts 0 = .ok (.aload_n 0, 1) := dk_42 (dk_at dksX3_puts_0 0 rfl rfl)
theorem dX3_puts_1 : decode cX3_puts 1 = .ok (.getfield 33, 3) := dk_180 0 33 (dk_at dksX3_puts_0 1 rfl rfl)
theorem dX3_puts_4 : decode cX3_puts 4 = .ok (.istore 4, 2) := dk_54 4 (dk_at dksX3_puts_0 4 rfl rfl)
theorem dX3_puts_6 : decode cX3_puts 6 = .ok (.iload 4, 2) := dk_21 4 (dk_at dksX3_puts_0 6 rfl rfl)
theorem dX3_puts_8 : decode cX3_puts 8 = .ok (.ifCond .le 76, 3) := dk_158 0 76 (dk_at dksX3_puts_0 8 rfl rfl)
theorem dX3_puts_11 : decode cX3_puts 11 = .ok (.aload_n 0, 1) := dk_42 (dk_at dksX3_puts_0 11 rfl rfl)
theorem dX3_puts_12 : decode cX3_puts 12 = .ok (.getfield 11, 3) := dk_180 0 11 (dk_at dksX3_puts_0 12 rfl rfl)
theorem dX3_puts_15 : decode cX3_puts 15 = .ok (.iload 4, 2) := dk_21 4 (dk_at dksX3_puts_0 15 rfl rfl)
theorem dX3_puts_17 : decode cX3_puts 17 = .ok (.iconst 1, 1) := dk_4 (dk_at dksX3_puts_0 17 rfl rfl)
theorem dX3_puts_18 : decode cX3_puts 18 = .ok (.isub, 1) := dk_100 (dk_at dksX3_puts_0 18 rfl rfl)
theorem dX3_puts_19 : decode cX3_puts 19 = .ok (.aaload, 1) := dk_50 (dk_at dksX3_puts_0 19 rfl rfl)
theorem dX3_puts_20 : decode cX3_puts 20 = .ok (.getfield 37, 3) := dk_180 0 37 (dk_at dksX3_puts_0 20 rfl rfl)
theorem dX3_puts_23 : decode cX3_puts 23 = .ok (.aload_n 1, 1) := dk_43 (dk_at dksX3_puts_0 23 rfl rfl)
theorem dX3_puts_24 : decode cX3_puts 24 = .ok (.getfield 37, 3) := dk_180 0 37 (dk_at dksX3_puts_1 0 rfl rfl)
theorem dX3_puts_27 : decode cX3_puts 27 = .ok (.if_icmp .le 57, 3) := dk_164 0 57 (dk_at dksX3_puts_1 3 rfl rfl)
theorem dX3_puts_30 : decode cX3_puts 30 = .ok (.aload_n 0, 1) := dk_42 (dk_at dksX3_puts_1 6 rfl rfl)
theorem dX3_puts_31 : decode cX3_puts 31 = .ok (.getfield 11, 3) := dk_180 0 11 (dk_at dksX3_puts_1 7 rfl rfl)
theorem dX3_puts_34 : decode cX3_puts 34 = .ok (.iload 4, 2) := dk_21 4 (dk_at dksX3_puts_1 10 rfl rfl)
theorem dX3_puts_36 : decode cX3_puts 36 = .ok (.aload_n 0, 1) := dk_42 (dk_at dksX3_puts_1 12 rfl rfl)
theorem dX3_puts_37 : decode cX3_puts 37 = .ok (.getfield 11, 3) := dk_180 0 11 (dk_at dksX3_puts_1 13 rfl rfl)
theorem dX3_puts_40 : decode cX3_puts 40 = .ok (.iload 4, 2) := dk_21 4 (dk_at dksX3_puts_1 16 rfl rfl)
theorem dX3_puts_42 : decode cX3_puts 42 = .ok (.iconst 1, 1) := dk_4 (dk_at dksX3_puts_1 18 rfl rfl)
theorem dX3_puts_43 : decode cX3_puts 43 = .ok (.isub, 1) := dk_100 (dk_at dksX3_puts_1 19 rfl rfl)
theorem dX3_puts_44 : decode cX3_puts 44 = .ok (.aaload, 1) := dk_50 (dk_at dksX3_puts_1 20 rfl rfl)
theorem dX3_puts_45 : decode cX3_puts 45 = .ok (.aastore, 1) := dk_83 (dk_at dksX3_puts_1 21 rfl rfl)
theorem dX3_puts_46 : decode cX3_puts 46 = .ok (.aload_n 0, 1) := dk_42 (dk_at dksX3_puts_1 22 rfl rfl)
theorem dX3_puts_47 : decode cX3_puts 47 = .ok (.getfield 17, 3) := dk_180 0 17 (dk_at dksX3_puts_2 0 rfl rfl)
theorem dX3_puts_50 : decode cX3_puts 50 = .ok (.iload 4, 2) := dk_21 4 (dk_at dksX3_puts_2 3 rfl rfl)
theorem dX3_puts_52 : decode cX3_puts 52 = .ok (.aload_n 0, 1) := dk_42 (dk_at dksX3_puts_2 5 rfl rfl)
theorem dX3_puts_53 : decode cX3_puts 53 = .ok (.getfield 17, 3) := dk_180 0 17 (dk_at dksX3_puts_2 6 rfl rfl)
theorem dX3_puts_56 : decode cX3_puts 56 = .ok (.iload 4, 2) := dk_21 4 (dk_at dksX3_puts_2 9 rfl rfl)
theorem dX3_puts_58 : decode cX3_puts 58 = .ok (.iconst 1, 1) := dk_4 (dk_at dksX3_puts_2 11 rfl rfl)
theorem dX3_puts_59 : decode cX3_puts 59 = .ok (.isub, 1) := dk_100 (dk_at dksX3_puts_2 12 rfl rfl)
theorem dX3_puts_60 : decode cX3_puts 60 = .ok (.iaload, 1) := dk_46 (dk_at dksX3_puts_2 13 rfl rfl)
theorem dX3_puts_61 : decode cX3_puts 61 = .ok (.iastore, 1) := dk_79 (dk_at dksX3_puts_2 14 rfl rfl)
theorem dX3_puts_62 : decode cX3_puts 62 = .ok (.aload_n 0, 1) := dk_42 (dk_at dksX3_puts_2 15 rfl rfl)
theorem dX3_puts_63 : decode cX3_puts 63 = .ok (.getfield 21, 3) := dk_180 0 21 (dk_at dksX3_puts_2 16 rfl rfl)
theorem dX3_puts_66 : decode cX3_puts 66 = .ok (.iload 4, 2) := dk_21 4 (dk_at dksX3_puts_2 19 rfl rfl)
theorem dX3_puts_68 : decode cX3_puts 68 = .ok (.aload_n 0, 1) := dk_42 (dk_at dksX3_puts_2 21 rfl rfl)
theorem dX3_puts_69 : decode cX3_puts 69 = .ok (.getfield 21, 3) := dk_180 0 21 (dk_at dksX3_puts_3 0 rfl rfl)
theorem dX3_puts_72 : decode cX3_puts 72 = .ok (.iload 4, 2) := dk_21 4 (dk_at dksX3_puts_3 3 rfl rfl)
theorem dX3_puts_74 : decode cX3_puts 74 = .ok (.iconst 1, 1) := dk_4 (dk_at dksX3_puts_3 5 rfl rfl)
theorem dX3_puts_75 : decode cX3_puts 75 = .ok (.isub, 1) := dk_100 (dk_at dksX3_puts_3 6 rfl rfl)
theorem dX3_puts_76 : decode cX3_puts 76 = .ok (.iaload, 1) := dk_46 (dk_at dksX3_puts_3 7 rfl rfl)
theorem dX3_puts_77 : decode cX3_puts 77 = .ok (.iastore, 1) := dk_79 (dk_at dksX3_puts_3 8 rfl rfl)
theorem dX3_puts_78 : decode cX3_puts 78 = .ok (.iinc 4 (-1), 3) := dk_132 4 255 (dk_at dksX3_puts_3 9 rfl rfl)
theorem dX3_puts_81 : decode cX3_puts 81 = .ok (.goto (-75), 3) := dk_167 255 181 (dk_at dksX3_puts_3 12 rfl rfl)
theorem dX3_puts_84 : decode cX3_puts 84 = .ok (.aload_n 0, 1) := dk_42 (dk_at dksX3_puts_3 15 rfl rfl)
theorem dX3_puts_85 : decode cX3_puts 85 = .ok (.getfield 11, 3) := dk_180 0 11 (dk_at dksX3_puts_3 16 rfl rfl)
theorem dX3_puts_88 : decode cX3_puts 88 = .ok (.iload 4, 2) := dk_21 4 (dk_at dksX3_puts_3 19 rfl rfl)
theorem dX3_puts_90 : decode cX3_puts 90 = .ok (.aload_n 1, 1) := dk_43 (dk_at dksX3_puts_3 21 rfl rfl)
theorem dX3_puts_91 : decode cX3_puts 91 = .ok (.aastore, 1) := dk_83 (dk_at dksX3_puts_3 22 rfl rfl)
theorem dX3_puts_92 : decode cX3_puts 92 = .ok (.aload_n 0, 1) := dk_42 (dk_at dksX3_puts_3 23 rfl rfl)
theorem dX3_puts_93 : decode cX3_puts 93 = .ok (.getfield 17, 3) := dk_180 0 17 (dk_at dksX3_puts_4 0 rfl rfl)
theorem dX3_puts_96 : decode cX3_puts 96 = .ok (.iload 4, 2) := dk_21 4 (dk_at dksX3_puts_4 3 rfl rfl)
theorem dX3_puts_98 : decode cX3_puts 98 = .ok (.iload_n 2, 1) := dk_28 (dk_at dksX3_puts_4 5 rfl rfl)
theorem dX3_puts_99 : decode cX3_puts 99 = .ok (.iastore, 1) := dk_79 (dk_at dksX3_puts_4 6 rfl rfl)
theorem dX3_puts_100 : decode cX3_puts 100 = .ok (.aload_n 0, 1) := dk_42 (dk_at dksX3_puts_4 7 rfl rfl)
theorem dX3_puts_101 : decode cX3_puts 101 = .ok (.getfield 21, 3) := dk_180 0 21 (dk_at dksX3_puts_4 8 rfl rfl)
theorem dX3_puts_104 : decode cX3_puts 104 = .ok (.iload 4, 2) := dk_21 4 (dk_at dksX3_puts_4 11 rfl rfl)
theorem dX3_puts_106 : decode cX3_puts 106 = .ok (.iload_n 3, 1) := dk_29 (dk_at dksX3_puts_4 13 rfl rfl)
theorem dX3_puts_107 : decode cX3_puts 107 = .ok (.iastore, 1) := dk_79 (dk_at dksX3_puts_4 14 rfl rfl)
theorem dX3_puts_108 : decode cX3_puts 108 = .ok (.aload_n 0, 1) := dk_42 (dk_at dksX3_puts_4 15 rfl rfl)
theorem dX3_puts_109 : decode cX3_puts 109 = .ok (.dup, 1) := dk_89 (dk_at dksX3_puts_4 16 rfl rfl)
theorem dX3_puts_110 : decode cX3_puts 110 = .ok (.getfield 33, 3) := dk_180 0 33 (dk_at dksX3_puts_4 17 rfl rfl)
theorem dX3_puts_113 : decode cX3_puts 113 = .ok (.iconst 1, 1) := dk_4 (dk_at dksX3_puts_4 20 rfl rfl)
theorem dX3_puts_114 : decode cX3_puts 114 = .ok (.iadd, 1) := dk_96 (dk_at dksX3_puts_4 21 rfl rfl)
theorem dX3_puts_115 : decode cX3_puts 115 = .ok (.putfield 33, 3) := dk_181 0 33 (dk_at dksX3_puts_5 0 rfl rfl)
theorem dX3_puts_118 : decode cX3_puts 118 = .ok (.return_, 1) := dk_177 (dk_at dksX3_puts_5 3 rfl rfl)
abbrev cX3_at : ByteArray := prog_7_method_6_code
def yX3_at : MethodName := ⟨RX3, "at", "(I)I"⟩
def dkwX3_at_1 : List UInt8 := [172, 132, 2, 1, 167, 255, 230, 2, 172]
abbrev dktX3_at_1 : List UInt8 := dkwX3_at_1 ++ []
def dkwX3_at_0 : List UInt8 := [3, 61, 28, 42, 180, 0, 33, 162, 0, 24, 42, 180, 0, 11, 28, 50, 180, 0, 91, 27, 160, 0, 5, 28]
abbrev dktX3_at_0 : List UInt8 := dkwX3_at_0 ++ dktX3_at_1
theorem dksX3_at_0 : cX3_at.data.toList.drop 0 = dktX3_at_0 := by decide +kernel
theorem dksX3_at_1 : cX3_at.data.toList.drop 24 = dktX3_at_1 := dk_seg dksX3_at_0 24 rfl rfl
theorem dX3_at_0 : decode cX3_at 0 = .ok (.iconst 0, 1) := dk_3 (dk_at dksX3_at_0 0 rfl rfl)
theorem dX3_at_1 : decode cX3_at 1 = .ok (.istore_n 2, 1) := dk_61 (dk_at dksX3_at_0 1 rfl rfl)
theorem dX3_at_2 : decode cX3_at 2 = .ok (.iload_n 2, 1) := dk_28 (dk_at dksX3_at_0 2 rfl rfl)
theorem dX3_at_3 : decode cX3_at 3 = .ok (.aload_n 0, 1) := dk_42 (dk_at dksX3_at_0 3 rfl rfl)
theorem dX3_at_4 : decode cX3_at 4 = .ok (.getfield 33, 3) := dk_180 0 33 (dk_at dksX3_at_0 4 rfl rfl)
theorem dX3_at_7 : decode cX3_at 7 = .ok (.if_icmp .ge 24, 3) := dk_162 0 24 (dk_at dksX3_at_0 7 rfl rfl)
theorem dX3_at_10 : decode cX3_at 10 = .ok (.aload_n 0, 1) := dk_42 (dk_at dksX3_at_0 10 rfl rfl)
theorem dX3_at_11 : decode cX3_at 11 = .ok (.getfield 11, 3) := dk_180 0 11 (dk_at dksX3_at_0 11 rfl rfl)
theorem dX3_at_14 : decode cX3_at 14 = .ok (.iload_n 2, 1) := dk_28 (dk_at dksX3_at_0 14 rfl rfl)
theorem dX3_at_15 : decode cX3_at 15 = .ok (.aaload, 1) := dk_50 (dk_at dksX3_at_0 15 rfl rfl)
theorem dX3_at_16 : decode cX3_at 16 = .ok (.getfield 91, 3) := dk_180 0 91 (dk_at dksX3_at_0 16 rfl rfl)
theorem dX3_at_19 : decode cX3_at 19 = .ok (.iload_n 1, 1) := dk_27 (dk_at dksX3_at_0 19 rfl rfl)
theorem dX3_at_20 : decode cX3_at 20 = .ok (.if_icmp .ne 5, 3) := dk_160 0 5 (dk_at dksX3_at_0 20 rfl rfl)
theorem dX3_at_23 : decode cX3_at 23 = .ok (.iload_n 2, 1) := dk_28 (dk_at dksX3_at_0 23 rfl rfl)
theorem dX3_at_24 : decode cX3_at 24 = .ok (.ireturn, 1) := dk_172 (dk_at dksX3_at_1 0 rfl rfl)
theorem dX3_at_25 : decode cX3_at 25 = .ok (.iinc 2 1, 3) := dk_132 2 1 (dk_at dksX3_at_1 1 rfl rfl)
theorem dX3_at_28 : decode cX3_at 28 = .ok (.goto (-26), 3) := dk_167 255 230 (dk_at dksX3_at_1 4 rfl rfl)
theorem dX3_at_31 : decode cX3_at 31 = .ok (.iconst (-1), 1) := dk_2 (dk_at dksX3_at_1 7 rfl rfl)
theorem dX3_at_32 : decode cX3_at 32 = .ok (.ireturn, 1) := dk_172 (dk_at dksX3_at_1 8 rfl rfl)
abbrev cX3_crossings : ByteArray := prog_7_method_27_code
def yX3_crossings : MethodName := ⟨RX3, "crossings", "()I"⟩
def dkwX3_crossings_3 : List UInt8 := [132, 3, 1, 167, 255, 201, 132, 2, 1, 167, 255, 183, 27, 172]
abbrev dktX3_crossings_3 : List UInt8 := dkwX3_crossings_3 ++ []
def dkwX3_crossings_2 : List UInt8 := [180, 0, 37, 42, 180, 0, 11, 29, 50, 180, 0, 37, 162, 0, 7, 4, 167, 0, 4, 3, 96, 60]
abbrev dktX3_crossings_2 : List UInt8 := dkwX3_crossings_2 ++ dktX3_crossings_3
def dkwX3_crossings_1 : List UInt8 := [27, 42, 180, 0, 17, 28, 46, 42, 180, 0, 17, 29, 46, 164, 0, 28, 42, 180, 0, 11, 28, 50]
abbrev dktX3_crossings_1 : List UInt8 := dkwX3_crossings_1 ++ dktX3_crossings_2
def dkwX3_crossings_0 : List UInt8 := [3, 60, 3, 61, 28, 42, 180, 0, 33, 162, 0, 71, 28, 4, 96, 62, 29, 42, 180, 0, 33, 162, 0, 53]
abbrev dktX3_crossings_0 : List UInt8 := dkwX3_crossings_0 ++ dktX3_crossings_1
theorem dksX3_crossings_0 : cX3_crossings.data.toList.drop 0 = dktX3_crossings_0 := by decide +kernel
theorem dksX3_crossings_1 : cX3_crossings.data.toList.drop 24 = dktX3_crossings_1 := dk_seg dksX3_crossings_0 24 rfl rfl
theorem dksX3_crossings_2 : cX3_crossings.data.toList.drop 46 = dktX3_crossings_2 := dk_seg dksX3_crossings_1 22 rfl rfl
theorem dksX3_crossings_3 : cX3_crossings.data.toList.drop 68 = dktX3_crossings_3 := dk_seg dksX3_crossings_2 22 rfl rfl
theorem dX3_crossings_0 : decode cX3_crossings 0 = .ok (.iconst 0, 1) := dk_3 (dk_at dksX3_crossings_0 0 rfl rfl)
theorem dX3_crossings_1 : decode cX3_crossings 1 = .ok (.istore_n 1, 1) := dk_60 (dk_at dksX3_crossings_0 1 rfl rfl)
theorem dX3_crossings_2 : decode cX3_crossings 2 = .ok (.iconst 0, 1) := dk_3 (dk_at dksX3_crossings_0 2 rfl rfl)
theorem dX3_crossings_3 : decode cX3_crossings 3 = .ok (.istore_n 2, 1) := dk_61 (dk_at dksX3_crossings_0 3 rfl rfl)
theorem dX3_crossings_4 : decode cX3_crossings 4 = .ok (.iload_n 2, 1) := dk_28 (dk_at dksX3_crossings_0 4 rfl rfl)
theorem dX3_crossings_5 : decode cX3_crossings 5 = .ok (.aload_n 0, 1) := dk_42 (dk_at dksX3_crossings_0 5 rfl rfl)
theorem dX3_crossings_6 : decode cX3_crossings 6 = .ok (.getfield 33, 3) := dk_180 0 33 (dk_at dksX3_crossings_0 6 rfl rfl)
theorem dX3_crossings_9 : decode cX3_crossings 9 = .ok (.if_icmp .ge 71, 3) := dk_162 0 71 (dk_at dksX3_crossings_0 9 rfl rfl)
theorem dX3_crossings_12 : decode cX3_crossings 12 = .ok (.iload_n 2, 1) := dk_28 (dk_at dksX3_crossings_0 12 rfl rfl)
theorem dX3_crossings_13 : decode cX3_crossings 13 = .ok (.iconst 1, 1) := dk_4 (dk_at dksX3_crossings_0 13 rfl rfl)
theorem dX3_crossings_14 : decode cX3_crossings 14 = .ok (.iadd, 1) := dk_96 (dk_at dksX3_crossings_0 14 rfl rfl)
theorem dX3_crossings_15 : decode cX3_crossings 15 = .ok (.istore_n 3, 1) := dk_62 (dk_at dksX3_crossings_0 15 rfl rfl)
theorem dX3_crossings_16 : decode cX3_crossings 16 = .ok (.iload_n 3, 1) := dk_29 (dk_at dksX3_crossings_0 16 rfl rfl)
theorem dX3_crossings_17 : decode cX3_crossings 17 = .ok (.aload_n 0, 1) := dk_42 (dk_at dksX3_crossings_0 17 rfl rfl)
theorem dX3_crossings_18 : decode cX3_crossings 18 = .ok (.getfield 33, 3) := dk_180 0 33 (dk_at dksX3_crossings_0 18 rfl rfl)
theorem dX3_crossings_21 : decode cX3_crossings 21 = .ok (.if_icmp .ge 53, 3) := dk_162 0 53 (dk_at dksX3_crossings_0 21 rfl rfl)
theorem dX3_crossings_24 : decode cX3_crossings 24 = .ok (.iload_n 1, 1) := dk_27 (dk_at dksX3_crossings_1 0 rfl rfl)
theorem dX3_crossings_25 : decode cX3_crossings 25 = .ok (.aload_n 0, 1) := dk_42 (dk_at dksX3_crossings_1 1 rfl rfl)
theorem dX3_crossings_26 : decode cX3_crossings 26 = .ok (.getfield 17, 3) := dk_180 0 17 (dk_at dksX3_crossings_1 2 rfl rfl)
theorem dX3_crossings_29 : decode cX3_crossings 29 = .ok (.iload_n 2, 1) := dk_28 (dk_at dksX3_crossings_1 5 rfl rfl)
theorem dX3_crossings_30 : decode cX3_crossings 30 = .ok (.iaload, 1) := dk_46 (dk_at dksX3_crossings_1 6 rfl rfl)
theorem dX3_crossings_31 : decode cX3_crossings 31 = .ok (.aload_n 0, 1) := dk_42 (dk_at dksX3_crossings_1 7 rfl rfl)
theorem dX3_crossings_32 : decode cX3_crossings 32 = .ok (.getfield 17, 3) := dk_180 0 17 (dk_at dksX3_crossings_1 8 rfl rfl)
theorem dX3_crossings_35 : decode cX3_crossings 35 = .ok (.iload_n 3, 1) := dk_29 (dk_at dksX3_crossings_1 11 rfl rfl)
theorem dX3_crossings_36 : decode cX3_crossings 36 = .ok (.iaload, 1) := dk_46 (dk_at dksX3_crossings_1 12 rfl rfl)
theorem dX3_crossings_37 : decode cX3_crossings 37 = .ok (.if_icmp .le 28, 3) := dk_164 0 28 (dk_at dksX3_crossings_1 13 rfl rfl)
theorem dX3_crossings_40 : decode cX3_crossings 40 = .ok (.aload_n 0, 1) := dk_42 (dk_at dksX3_crossings_1 16 rfl rfl)
theorem dX3_crossings_41 : decode cX3_crossings 41 = .ok (.getfield 11, 3) := dk_180 0 11 (dk_at dksX3_crossings_1 17 rfl rfl)
theorem dX3_crossings_44 : decode cX3_crossings 44 = .ok (.iload_n 2, 1) := dk_28 (dk_at dksX3_crossings_1 20 rfl rfl)
theorem dX3_crossings_45 : decode cX3_crossings 45 = .ok (.aaload, 1) := dk_50 (dk_at dksX3_crossings_1 21 rfl rfl)
theorem dX3_crossings_46 : decode cX3_crossings 46 = .ok (.getfield 37, 3) := dk_180 0 37 (dk_at dksX3_crossings_2 0 rfl rfl)
theorem dX3_crossings_49 : decode cX3_crossings 49 = .ok (.aload_n 0, 1) := dk_42 (dk_at dksX3_crossings_2 3 rfl rfl)
theorem dX3_crossings_50 : decode cX3_crossings 50 = .ok (.getfield 11, 3) := dk_180 0 11 (dk_at dksX3_crossings_2 4 rfl rfl)
theorem dX3_crossings_53 : decode cX3_crossings 53 = .ok (.iload_n 3, 1) := dk_29 (dk_at dksX3_crossings_2 7 rfl rfl)
theorem dX3_crossings_54 : decode cX3_crossings 54 = .ok (.aaload, 1) := dk_50 (dk_at dksX3_crossings_2 8 rfl rfl)
theorem dX3_crossings_55 : decode cX3_crossings 55 = .ok (.getfield 37, 3) := dk_180 0 37 (dk_at dksX3_crossings_2 9 rfl rfl)
theorem dX3_crossings_58 : decode cX3_crossings 58 = .ok (.if_icmp .ge 7, 3) := dk_162 0 7 (dk_at dksX3_crossings_2 12 rfl rfl)
theorem dX3_crossings_61 : decode cX3_crossings 61 = .ok (.iconst 1, 1) := dk_4 (dk_at dksX3_crossings_2 15 rfl rfl)
theorem dX3_crossings_62 : decode cX3_crossings 62 = .ok (.goto 4, 3) := dk_167 0 4 (dk_at dksX3_crossings_2 16 rfl rfl)
theorem dX3_crossings_65 : decode cX3_crossings 65 = .ok (.iconst 0, 1) := dk_3 (dk_at dksX3_crossings_2 19 rfl rfl)
theorem dX3_crossings_66 : decode cX3_crossings 66 = .ok (.iadd, 1) := dk_96 (dk_at dksX3_crossings_2 20 rfl rfl)
theorem dX3_crossings_67 : decode cX3_crossings 67 = .ok (.istore_n 1, 1) := dk_60 (dk_at dksX3_crossings_2 21 rfl rfl)
theorem dX3_crossings_68 : decode cX3_crossings 68 = .ok (.iinc 3 1, 3) := dk_132 3 1 (dk_at dksX3_crossings_3 0 rfl rfl)
theorem dX3_crossings_71 : decode cX3_crossings 71 = .ok (.goto (-55), 3) := dk_167 255 201 (dk_at dksX3_crossings_3 3 rfl rfl)
theorem dX3_crossings_74 : decode cX3_crossings 74 = .ok (.iinc 2 1, 3) := dk_132 2 1 (dk_at dksX3_crossings_3 6 rfl rfl)
theorem dX3_crossings_77 : decode cX3_crossings 77 = .ok (.goto (-73), 3) := dk_167 255 183 (dk_at dksX3_crossings_3 9 rfl rfl)
theorem dX3_crossings_80 : decode cX3_crossings 80 = .ok (.iload_n 1, 1) := dk_27 (dk_at dksX3_crossings_3 12 rfl rfl)
theorem dX3_crossings_81 : decode cX3_crossings 81 = .ok (.ireturn, 1) := dk_172 (dk_at dksX3_crossings_3 13 rfl rfl)
abbrev cX3_spreads : ByteArray := prog_7_method_4_code
def yX3_spreads : MethodName := ⟨RX3, "spreads", "(LWhalingLogs$Waters;)LWhalingLogs$Listing;"⟩
def dkwX3_spreads_1 : List UInt8 := [180, 0, 91, 42, 180, 0, 24, 17, 0, 192, 28, 104, 182, 0, 94, 132, 2, 1, 167, 255, 216, 42, 176]
abbrev dktX3_spreads_1 : List UInt8 := dkwX3_spreads_1 ++ []
def dkwX3_spreads_0 : List UInt8 := [3, 61, 28, 42, 180, 0, 33, 162, 0, 38, 43, 42, 180, 0, 40, 180, 0, 87, 42, 180, 0, 11, 28, 50]
abbrev dktX3_spreads_0 : List UInt8 := dkwX3_spreads_0 ++ dktX3_spreads_1
theorem dksX3_spreads_0 : cX3_spreads.data.toList.drop 0 = dktX3_spreads_0 := by decide +kernel
theorem dksX3_spreads_1 : cX3_spreads.data.toList.drop 24 = dktX3_spreads_1 := dk_seg dksX3_spreads_0 24 rfl rfl
theorem dX3_spreads_0 : decode cX3_spreads 0 = .ok (.iconst 0, 1) := dk_3 (dk_at dksX3_spreads_0 0 rfl rfl)
theorem dX3_spreads_1 : decode cX3_spreads 1 = .ok (.istore_n 2, 1) := dk_61 (dk_at dksX3_spreads_0 1 rfl rfl)
theorem dX3_spreads_2 : decode cX3_spreads 2 = .ok (.iload_n 2, 1) := dk_28 (dk_at dksX3_spreads_0 2 rfl rfl)
theorem dX3_spreads_3 : decode cX3_spreads 3 = .ok (.aload_n 0, 1) := dk_42 (dk_at dksX3_spreads_0 3 rfl rfl)
theorem dX3_spreads_4 : decode cX3_spreads 4 = .ok (.getfield 33, 3) := dk_180 0 33 (dk_at dksX3_spreads_0 4 rfl rfl)
theorem dX3_spreads_7 : decode cX3_spreads 7 = .ok (.if_icmp .ge 38, 3) := dk_162 0 38 (dk_at dksX3_spreads_0 7 rfl rfl)
theorem dX3_spreads_10 : decode cX3_spreads 10 = .ok (.aload_n 1, 1) := dk_43 (dk_at dksX3_spreads_0 10 rfl rfl)
theorem dX3_spreads_11 : decode cX3_spreads 11 = .ok (.aload_n 0, 1) := dk_42 (dk_at dksX3_spreads_0 11 rfl rfl)
theorem dX3_spreads_12 : decode cX3_spreads 12 = .ok (.getfield 40, 3) := dk_180 0 40 (dk_at dksX3_spreads_0 12 rfl rfl)
theorem dX3_spreads_15 : decode cX3_spreads 15 = .ok (.getfield 87, 3) := dk_180 0 87 (dk_at dksX3_spreads_0 15 rfl rfl)
theorem dX3_spreads_18 : decode cX3_spreads 18 = .ok (.aload_n 0, 1) := dk_42 (dk_at dksX3_spreads_0 18 rfl rfl)
theorem dX3_spreads_19 : decode cX3_spreads 19 = .ok (.getfield 11, 3) := dk_180 0 11 (dk_at dksX3_spreads_0 19 rfl rfl)
theorem dX3_spreads_22 : decode cX3_spreads 22 = .ok (.iload_n 2, 1) := dk_28 (dk_at dksX3_spreads_0 22 rfl rfl)
theorem dX3_spreads_23 : decode cX3_spreads 23 = .ok (.aaload, 1) := dk_50 (dk_at dksX3_spreads_0 23 rfl rfl)
theorem dX3_spreads_24 : decode cX3_spreads 24 = .ok (.getfield 91, 3) := dk_180 0 91 (dk_at dksX3_spreads_1 0 rfl rfl)
theorem dX3_spreads_27 : decode cX3_spreads 27 = .ok (.aload_n 0, 1) := dk_42 (dk_at dksX3_spreads_1 3 rfl rfl)
theorem dX3_spreads_28 : decode cX3_spreads 28 = .ok (.getfield 24, 3) := dk_180 0 24 (dk_at dksX3_spreads_1 4 rfl rfl)
theorem dX3_spreads_31 : decode cX3_spreads 31 = .ok (.sipush 192, 3) := dk_17 0 192 (dk_at dksX3_spreads_1 7 rfl rfl)
theorem dX3_spreads_34 : decode cX3_spreads 34 = .ok (.iload_n 2, 1) := dk_28 (dk_at dksX3_spreads_1 10 rfl rfl)
theorem dX3_spreads_35 : decode cX3_spreads 35 = .ok (.imul, 1) := dk_104 (dk_at dksX3_spreads_1 11 rfl rfl)
theorem dX3_spreads_36 : decode cX3_spreads 36 = .ok (.invokevirtual 94, 3) := dk_182 0 94 (dk_at dksX3_spreads_1 12 rfl rfl)
theorem dX3_spreads_39 : decode cX3_spreads 39 = .ok (.iinc 2 1, 3) := dk_132 2 1 (dk_at dksX3_spreads_1 15 rfl rfl)
theorem dX3_spreads_42 : decode cX3_spreads 42 = .ok (.goto (-40), 3) := dk_167 255 216 (dk_at dksX3_spreads_1 18 rfl rfl)
theorem dX3_spreads_45 : decode cX3_spreads 45 = .ok (.aload_n 0, 1) := dk_42 (dk_at dksX3_spreads_1 21 rfl rfl)
theorem dX3_spreads_46 : decode cX3_spreads 46 = .ok (.areturn, 1) := dk_176 (dk_at dksX3_spreads_1 22 rfl rfl)
abbrev cX3_tracks : ByteArray := prog_7_method_15_code
def yX3_tracks : MethodName := ⟨RX3, "tracks", "()LWhalingLogs$Listing;"⟩
def dkwX3_tracks_4 : List UInt8 := [42, 176]
abbrev dktX3_tracks_4 : List UInt8 := dkwX3_tracks_4 ++ []
def dkwX3_tracks_3 : List UInt8 := [180, 0, 145, 27, 79, 42, 89, 180, 0, 145, 4, 96, 181, 0, 145, 42, 27, 182, 0, 141, 60, 167, 255, 225]
abbrev dktX3_tracks_3 : List UInt8 := dkwX3_tracks_3 ++ dktX3_tracks_4
def dkwX3_tracks_2 : List UInt8 := [167, 255, 216, 42, 3, 181, 0, 145, 42, 2, 182, 0, 141, 60, 27, 2, 159, 0, 32, 42, 180, 0, 30, 42]
abbrev dktX3_tracks_2 : List UInt8 := dkwX3_tracks_2 ++ dktX3_tracks_3
def dkwX3_tracks_1 : List UInt8 := [182, 0, 144, 28, 2, 160, 0, 7, 3, 167, 0, 9, 42, 180, 0, 27, 28, 46, 96, 79, 132, 1, 255]
abbrev dktX3_tracks_1 : List UInt8 := dkwX3_tracks_1 ++ dktX3_tracks_2
def dkwX3_tracks_0 : List UInt8 := [42, 180, 0, 33, 4, 100, 60, 27, 155, 0, 42, 42, 27, 182, 0, 141, 61, 42, 180, 0, 27, 27, 42, 27]
abbrev dktX3_tracks_0 : List UInt8 := dkwX3_tracks_0 ++ dktX3_tracks_1
theorem dksX3_tracks_0 : cX3_tracks.data.toList.drop 0 = dktX3_tracks_0 := by decide +kernel
theorem dksX3_tracks_1 : cX3_tracks.data.toList.drop 24 = dktX3_tracks_1 := dk_seg dksX3_tracks_0 24 rfl rfl
theorem dksX3_tracks_2 : cX3_tracks.data.toList.drop 47 = dktX3_tracks_2 := dk_seg dksX3_tracks_1 23 rfl rfl
theorem dksX3_tracks_3 : cX3_tracks.data.toList.drop 71 = dktX3_tracks_3 := dk_seg dksX3_tracks_2 24 rfl rfl
theorem dksX3_tracks_4 : cX3_tracks.data.toList.drop 95 = dktX3_tracks_4 := dk_seg dksX3_tracks_3 24 rfl rfl
theorem dX3_tracks_0 : decode cX3_tracks 0 = .ok (.aload_n 0, 1) := dk_42 (dk_at dksX3_tracks_0 0 rfl rfl)
theorem dX3_tracks_1 : decode cX3_tracks 1 = .ok (.getfield 33, 3) := dk_180 0 33 (dk_at dksX3_tracks_0 1 rfl rfl)
theorem dX3_tracks_4 : decode cX3_tracks 4 = .ok (.iconst 1, 1) := dk_4 (dk_at dksX3_tracks_0 4 rfl rfl)
theorem dX3_tracks_5 : decode cX3_tracks 5 = .ok (.isub, 1) := dk_100 (dk_at dksX3_tracks_0 5 rfl rfl)
theorem dX3_tracks_6 : decode cX3_tracks 6 = .ok (.istore_n 1, 1) := dk_60 (dk_at dksX3_tracks_0 6 rfl rfl)
theorem dX3_tracks_7 : decode cX3_tracks 7 = .ok (.iload_n 1, 1) := dk_27 (dk_at dksX3_tracks_0 7 rfl rfl)
theorem dX3_tracks_8 : decode cX3_tracks 8 = .ok (.ifCond .lt 42, 3) := dk_155 0 42 (dk_at dksX3_tracks_0 8 rfl rfl)
theorem dX3_tracks_11 : decode cX3_tracks 11 = .ok (.aload_n 0, 1) := dk_42 (dk_at dksX3_tracks_0 11 rfl rfl)
theorem dX3_tracks_12 : decode cX3_tracks 12 = .ok (.iload_n 1, 1) := dk_27 (dk_at dksX3_tracks_0 12 rfl rfl)
theorem dX3_tracks_13 : decode cX3_tracks 13 = .ok (.invokevirtual 141, 3) := dk_182 0 141 (dk_at dksX3_tracks_0 13 rfl rfl)
theorem dX3_tracks_16 : decode cX3_tracks 16 = .ok (.istore_n 2, 1) := dk_61 (dk_at dksX3_tracks_0 16 rfl rfl)
theorem dX3_tracks_17 : decode cX3_tracks 17 = .ok (.aload_n 0, 1) := dk_42 (dk_at dksX3_tracks_0 17 rfl rfl)
theorem dX3_tracks_18 : decode cX3_tracks 18 = .ok (.getfield 27, 3) := dk_180 0 27 (dk_at dksX3_tracks_0 18 rfl rfl)
theorem dX3_tracks_21 : decode cX3_tracks 21 = .ok (.iload_n 1, 1) := dk_27 (dk_at dksX3_tracks_0 21 rfl rfl)
theorem dX3_tracks_22 : decode cX3_tracks 22 = .ok (.aload_n 0, 1) := dk_42 (dk_at dksX3_tracks_0 22 rfl rfl)
theorem dX3_tracks_23 : decode cX3_tracks 23 = .ok (.iload_n 1, 1) := dk_27 (dk_at dksX3_tracks_0 23 rfl rfl)
theorem dX3_tracks_24 : decode cX3_tracks 24 = .ok (.invokevirtual 144, 3) := dk_182 0 144 (dk_at dksX3_tracks_1 0 rfl rfl)
theorem dX3_tracks_27 : decode cX3_tracks 27 = .ok (.iload_n 2, 1) := dk_28 (dk_at dksX3_tracks_1 3 rfl rfl)
theorem dX3_tracks_28 : decode cX3_tracks 28 = .ok (.iconst (-1), 1) := dk_2 (dk_at dksX3_tracks_1 4 rfl rfl)
theorem dX3_tracks_29 : decode cX3_tracks 29 = .ok (.if_icmp .ne 7, 3) := dk_160 0 7 (dk_at dksX3_tracks_1 5 rfl rfl)
theorem dX3_tracks_32 : decode cX3_tracks 32 = .ok (.iconst 0, 1) := dk_3 (dk_at dksX3_tracks_1 8 rfl rfl)
theorem dX3_tracks_33 : decode cX3_tracks 33 = .ok (.goto 9, 3) := dk_167 0 9 (dk_at dksX3_tracks_1 9 rfl rfl)
theorem dX3_tracks_36 : decode cX3_tracks 36 = .ok (.aload_n 0, 1) := dk_42 (dk_at dksX3_tracks_1 12 rfl rfl)
theorem dX3_tracks_37 : decode cX3_tracks 37 = .ok (.getfield 27, 3) := dk_180 0 27 (dk_at dksX3_tracks_1 13 rfl rfl)
theorem dX3_tracks_40 : decode cX3_tracks 40 = .ok (.iload_n 2, 1) := dk_28 (dk_at dksX3_tracks_1 16 rfl rfl)
theorem dX3_tracks_41 : decode cX3_tracks 41 = .ok (.iaload, 1) := dk_46 (dk_at dksX3_tracks_1 17 rfl rfl)
theorem dX3_tracks_42 : decode cX3_tracks 42 = .ok (.iadd, 1) := dk_96 (dk_at dksX3_tracks_1 18 rfl rfl)
theorem dX3_tracks_43 : decode cX3_tracks 43 = .ok (.iastore, 1) := dk_79 (dk_at dksX3_tracks_1 19 rfl rfl)
theorem dX3_tracks_44 : decode cX3_tracks 44 = .ok (.iinc 1 (-1), 3) := dk_132 1 255 (dk_at dksX3_tracks_1 20 rfl rfl)
theorem dX3_tracks_47 : decode cX3_tracks 47 = .ok (.goto (-40), 3) := dk_167 255 216 (dk_at dksX3_tracks_2 0 rfl rfl)
theorem dX3_tracks_50 : decode cX3_tracks 50 = .ok (.aload_n 0, 1) := dk_42 (dk_at dksX3_tracks_2 3 rfl rfl)
theorem dX3_tracks_51 : decode cX3_tracks 51 = .ok (.iconst 0, 1) := dk_3 (dk_at dksX3_tracks_2 4 rfl rfl)
theorem dX3_tracks_52 : decode cX3_tracks 52 = .ok (.putfield 145, 3) := dk_181 0 145 (dk_at dksX3_tracks_2 5 rfl rfl)
theorem dX3_tracks_55 : decode cX3_tracks 55 = .ok (.aload_n 0, 1) := dk_42 (dk_at dksX3_tracks_2 8 rfl rfl)
theorem dX3_tracks_56 : decode cX3_tracks 56 = .ok (.iconst (-1), 1) := dk_2 (dk_at dksX3_tracks_2 9 rfl rfl)
theorem dX3_tracks_57 : decode cX3_tracks 57 = .ok (.invokevirtual 141, 3) := dk_182 0 141 (dk_at dksX3_tracks_2 10 rfl rfl)
theorem dX3_tracks_60 : decode cX3_tracks 60 = .ok (.istore_n 1, 1) := dk_60 (dk_at dksX3_tracks_2 13 rfl rfl)
theorem dX3_tracks_61 : decode cX3_tracks 61 = .ok (.iload_n 1, 1) := dk_27 (dk_at dksX3_tracks_2 14 rfl rfl)
theorem dX3_tracks_62 : decode cX3_tracks 62 = .ok (.iconst (-1), 1) := dk_2 (dk_at dksX3_tracks_2 15 rfl rfl)
theorem dX3_tracks_63 : decode cX3_tracks 63 = .ok (.if_icmp .eq 32, 3) := dk_159 0 32 (dk_at dksX3_tracks_2 16 rfl rfl)
theorem dX3_tracks_66 : decode cX3_tracks 66 = .ok (.aload_n 0, 1) := dk_42 (dk_at dksX3_tracks_2 19 rfl rfl)
theorem dX3_tracks_67 : decode cX3_tracks 67 = .ok (.getfield 30, 3) := dk_180 0 30 (dk_at dksX3_tracks_2 20 rfl rfl)
theorem dX3_tracks_70 : decode cX3_tracks 70 = .ok (.aload_n 0, 1) := dk_42 (dk_at dksX3_tracks_2 23 rfl rfl)
theorem dX3_tracks_71 : decode cX3_tracks 71 = .ok (.getfield 145, 3) := dk_180 0 145 (dk_at dksX3_tracks_3 0 rfl rfl)
theorem dX3_tracks_74 : decode cX3_tracks 74 = .ok (.iload_n 1, 1) := dk_27 (dk_at dksX3_tracks_3 3 rfl rfl)
theorem dX3_tracks_75 : decode cX3_tracks 75 = .ok (.iastore, 1) := dk_79 (dk_at dksX3_tracks_3 4 rfl rfl)
theorem dX3_tracks_76 : decode cX3_tracks 76 = .ok (.aload_n 0, 1) := dk_42 (dk_at dksX3_tracks_3 5 rfl rfl)
theorem dX3_tracks_77 : decode cX3_tracks 77 = .ok (.dup, 1) := dk_89 (dk_at dksX3_tracks_3 6 rfl rfl)
theorem dX3_tracks_78 : decode cX3_tracks 78 = .ok (.getfield 145, 3) := dk_180 0 145 (dk_at dksX3_tracks_3 7 rfl rfl)
theorem dX3_tracks_81 : decode cX3_tracks 81 = .ok (.iconst 1, 1) := dk_4 (dk_at dksX3_tracks_3 10 rfl rfl)
theorem dX3_tracks_82 : decode cX3_tracks 82 = .ok (.iadd, 1) := dk_96 (dk_at dksX3_tracks_3 11 rfl rfl)
theorem dX3_tracks_83 : decode cX3_tracks 83 = .ok (.putfield 145, 3) := dk_181 0 145 (dk_at dksX3_tracks_3 12 rfl rfl)
theorem dX3_tracks_86 : decode cX3_tracks 86 = .ok (.aload_n 0, 1) := dk_42 (dk_at dksX3_tracks_3 15 rfl rfl)
theorem dX3_tracks_87 : decode cX3_tracks 87 = .ok (.iload_n 1, 1) := dk_27 (dk_at dksX3_tracks_3 16 rfl rfl)
theorem dX3_tracks_88 : decode cX3_tracks 88 = .ok (.invokevirtual 141, 3) := dk_182 0 141 (dk_at dksX3_tracks_3 17 rfl rfl)
theorem dX3_tracks_91 : decode cX3_tracks 91 = .ok (.istore_n 1, 1) := dk_60 (dk_at dksX3_tracks_3 20 rfl rfl)
theorem dX3_tracks_92 : decode cX3_tracks 92 = .ok (.goto (-31), 3) := dk_167 255 225 (dk_at dksX3_tracks_3 21 rfl rfl)
theorem dX3_tracks_95 : decode cX3_tracks 95 = .ok (.aload_n 0, 1) := dk_42 (dk_at dksX3_tracks_4 0 rfl rfl)
theorem dX3_tracks_96 : decode cX3_tracks 96 = .ok (.areturn, 1) := dk_176 (dk_at dksX3_tracks_4 1 rfl rfl)
abbrev cX3_nextOf : ByteArray := prog_7_method_14_code
def yX3_nextOf : MethodName := ⟨RX3, "nextOf", "(I)I"⟩
def dkwX3_nextOf_3 : List UInt8 := [28, 61, 132, 3, 1, 167, 255, 185, 28, 172]
abbrev dktX3_nextOf_3 : List UInt8 := dkwX3_nextOf_3 ++ []
def dkwX3_nextOf_2 : List UInt8 := [28, 2, 159, 0, 18, 42, 180, 0, 27, 29, 46, 42, 180, 0, 27, 28, 46, 164, 0, 7, 29, 167, 0, 4]
abbrev dktX3_nextOf_2 : List UInt8 := dkwX3_nextOf_2 ++ dktX3_nextOf_3
def dkwX3_nextOf_1 : List UInt8 := [159, 0, 12, 42, 27, 29, 182, 0, 122, 153, 0, 7, 4, 167, 0, 4, 3, 54, 4, 21, 4, 153, 0, 27]
abbrev dktX3_nextOf_1 : List UInt8 := dkwX3_nextOf_1 ++ dktX3_nextOf_2
def dkwX3_nextOf_0 : List UInt8 := [2, 61, 27, 4, 96, 62, 29, 42, 180, 0, 33, 162, 0, 69, 42, 29, 182, 0, 138, 153, 0, 21, 27, 2]
abbrev dktX3_nextOf_0 : List UInt8 := dkwX3_nextOf_0 ++ dktX3_nextOf_1
theorem dksX3_nextOf_0 : cX3_nextOf.data.toList.drop 0 = dktX3_nextOf_0 := by decide +kernel
theorem dksX3_nextOf_1 : cX3_nextOf.data.toList.drop 24 = dktX3_nextOf_1 := dk_seg dksX3_nextOf_0 24 rfl rfl
theorem dksX3_nextOf_2 : cX3_nextOf.data.toList.drop 48 = dktX3_nextOf_2 := dk_seg dksX3_nextOf_1 24 rfl rfl
theorem dksX3_nextOf_3 : cX3_nextOf.data.toList.drop 72 = dktX3_nextOf_3 := dk_seg dksX3_nextOf_2 24 rfl rfl
theorem dX3_nextOf_0 : decode cX3_nextOf 0 = .ok (.iconst (-1), 1) := dk_2 (dk_at dksX3_nextOf_0 0 rfl rfl)
theorem dX3_nextOf_1 : decode cX3_nextOf 1 = .ok (.istore_n 2, 1) := dk_61 (dk_at dksX3_nextOf_0 1 rfl rfl)
theorem dX3_nextOf_2 : decode cX3_nextOf 2 = .ok (.iload_n 1, 1) := dk_27 (dk_at dksX3_nextOf_0 2 rfl rfl)
theorem dX3_nextOf_3 : decode cX3_nextOf 3 = .ok (.iconst 1, 1) := dk_4 (dk_at dksX3_nextOf_0 3 rfl rfl)
theorem dX3_nextOf_4 : decode cX3_nextOf 4 = .ok (.iadd, 1) := dk_96 (dk_at dksX3_nextOf_0 4 rfl rfl)
theorem dX3_nextOf_5 : decode cX3_nextOf 5 = .ok (.istore_n 3, 1) := dk_62 (dk_at dksX3_nextOf_0 5 rfl rfl)
theorem dX3_nextOf_6 : decode cX3_nextOf 6 = .ok (.iload_n 3, 1) := dk_29 (dk_at dksX3_nextOf_0 6 rfl rfl)
theorem dX3_nextOf_7 : decode cX3_nextOf 7 = .ok (.aload_n 0, 1) := dk_42 (dk_at dksX3_nextOf_0 7 rfl rfl)
theorem dX3_nextOf_8 : decode cX3_nextOf 8 = .ok (.getfield 33, 3) := dk_180 0 33 (dk_at dksX3_nextOf_0 8 rfl rfl)
theorem dX3_nextOf_11 : decode cX3_nextOf 11 = .ok (.if_icmp .ge 69, 3) := dk_162 0 69 (dk_at dksX3_nextOf_0 11 rfl rfl)
theorem dX3_nextOf_14 : decode cX3_nextOf 14 = .ok (.aload_n 0, 1) := dk_42 (dk_at dksX3_nextOf_0 14 rfl rfl)
theorem dX3_nextOf_15 : decode cX3_nextOf 15 = .ok (.iload_n 3, 1) := dk_29 (dk_at dksX3_nextOf_0 15 rfl rfl)
theorem dX3_nextOf_16 : decode cX3_nextOf 16 = .ok (.invokevirtual 138, 3) := dk_182 0 138 (dk_at dksX3_nextOf_0 16 rfl rfl)
theorem dX3_nextOf_19 : decode cX3_nextOf 19 = .ok (.ifCond .eq 21, 3) := dk_153 0 21 (dk_at dksX3_nextOf_0 19 rfl rfl)
theorem dX3_nextOf_22 : decode cX3_nextOf 22 = .ok (.iload_n 1, 1) := dk_27 (dk_at dksX3_nextOf_0 22 rfl rfl)
theorem dX3_nextOf_23 : decode cX3_nextOf 23 = .ok (.iconst (-1), 1) := dk_2 (dk_at dksX3_nextOf_0 23 rfl rfl)
theorem dX3_nextOf_24 : decode cX3_nextOf 24 = .ok (.if_icmp .eq 12, 3) := dk_159 0 12 (dk_at dksX3_nextOf_1 0 rfl rfl)
theorem dX3_nextOf_27 : decode cX3_nextOf 27 = .ok (.aload_n 0, 1) := dk_42 (dk_at dksX3_nextOf_1 3 rfl rfl)
theorem dX3_nextOf_28 : decode cX3_nextOf 28 = .ok (.iload_n 1, 1) := dk_27 (dk_at dksX3_nextOf_1 4 rfl rfl)
theorem dX3_nextOf_29 : decode cX3_nextOf 29 = .ok (.iload_n 3, 1) := dk_29 (dk_at dksX3_nextOf_1 5 rfl rfl)
theorem dX3_nextOf_30 : decode cX3_nextOf 30 = .ok (.invokevirtual 122, 3) := dk_182 0 122 (dk_at dksX3_nextOf_1 6 rfl rfl)
theorem dX3_nextOf_33 : decode cX3_nextOf 33 = .ok (.ifCond .eq 7, 3) := dk_153 0 7 (dk_at dksX3_nextOf_1 9 rfl rfl)
theorem dX3_nextOf_36 : decode cX3_nextOf 36 = .ok (.iconst 1, 1) := dk_4 (dk_at dksX3_nextOf_1 12 rfl rfl)
theorem dX3_nextOf_37 : decode cX3_nextOf 37 = .ok (.goto 4, 3) := dk_167 0 4 (dk_at dksX3_nextOf_1 13 rfl rfl)
theorem dX3_nextOf_40 : decode cX3_nextOf 40 = .ok (.iconst 0, 1) := dk_3 (dk_at dksX3_nextOf_1 16 rfl rfl)
theorem dX3_nextOf_41 : decode cX3_nextOf 41 = .ok (.istore 4, 2) := dk_54 4 (dk_at dksX3_nextOf_1 17 rfl rfl)
theorem dX3_nextOf_43 : decode cX3_nextOf 43 = .ok (.iload 4, 2) := dk_21 4 (dk_at dksX3_nextOf_1 19 rfl rfl)
theorem dX3_nextOf_45 : decode cX3_nextOf 45 = .ok (.ifCond .eq 27, 3) := dk_153 0 27 (dk_at dksX3_nextOf_1 21 rfl rfl)
theorem dX3_nextOf_48 : decode cX3_nextOf 48 = .ok (.iload_n 2, 1) := dk_28 (dk_at dksX3_nextOf_2 0 rfl rfl)
theorem dX3_nextOf_49 : decode cX3_nextOf 49 = .ok (.iconst (-1), 1) := dk_2 (dk_at dksX3_nextOf_2 1 rfl rfl)
theorem dX3_nextOf_50 : decode cX3_nextOf 50 = .ok (.if_icmp .eq 18, 3) := dk_159 0 18 (dk_at dksX3_nextOf_2 2 rfl rfl)
theorem dX3_nextOf_53 : decode cX3_nextOf 53 = .ok (.aload_n 0, 1) := dk_42 (dk_at dksX3_nextOf_2 5 rfl rfl)
theorem dX3_nextOf_54 : decode cX3_nextOf 54 = .ok (.getfield 27, 3) := dk_180 0 27 (dk_at dksX3_nextOf_2 6 rfl rfl)
theorem dX3_nextOf_57 : decode cX3_nextOf 57 = .ok (.iload_n 3, 1) := dk_29 (dk_at dksX3_nextOf_2 9 rfl rfl)
theorem dX3_nextOf_58 : decode cX3_nextOf 58 = .ok (.iaload, 1) := dk_46 (dk_at dksX3_nextOf_2 10 rfl rfl)
theorem dX3_nextOf_59 : decode cX3_nextOf 59 = .ok (.aload_n 0, 1) := dk_42 (dk_at dksX3_nextOf_2 11 rfl rfl)
theorem dX3_nextOf_60 : decode cX3_nextOf 60 = .ok (.getfield 27, 3) := dk_180 0 27 (dk_at dksX3_nextOf_2 12 rfl rfl)
theorem dX3_nextOf_63 : decode cX3_nextOf 63 = .ok (.iload_n 2, 1) := dk_28 (dk_at dksX3_nextOf_2 15 rfl rfl)
theorem dX3_nextOf_64 : decode cX3_nextOf 64 = .ok (.iaload, 1) := dk_46 (dk_at dksX3_nextOf_2 16 rfl rfl)
theorem dX3_nextOf_65 : decode cX3_nextOf 65 = .ok (.if_icmp .le 7, 3) := dk_164 0 7 (dk_at dksX3_nextOf_2 17 rfl rfl)
theorem dX3_nextOf_68 : decode cX3_nextOf 68 = .ok (.iload_n 3, 1) := dk_29 (dk_at dksX3_nextOf_2 20 rfl rfl)
theorem dX3_nextOf_69 : decode cX3_nextOf 69 = .ok (.goto 4, 3) := dk_167 0 4 (dk_at dksX3_nextOf_2 21 rfl rfl)
theorem dX3_nextOf_72 : decode cX3_nextOf 72 = .ok (.iload_n 2, 1) := dk_28 (dk_at dksX3_nextOf_3 0 rfl rfl)
theorem dX3_nextOf_73 : decode cX3_nextOf 73 = .ok (.istore_n 2, 1) := dk_61 (dk_at dksX3_nextOf_3 1 rfl rfl)
theorem dX3_nextOf_74 : decode cX3_nextOf 74 = .ok (.iinc 3 1, 3) := dk_132 3 1 (dk_at dksX3_nextOf_3 2 rfl rfl)
theorem dX3_nextOf_77 : decode cX3_nextOf 77 = .ok (.goto (-71), 3) := dk_167 255 185 (dk_at dksX3_nextOf_3 5 rfl rfl)
theorem dX3_nextOf_80 : decode cX3_nextOf 80 = .ok (.iload_n 2, 1) := dk_28 (dk_at dksX3_nextOf_3 8 rfl rfl)
theorem dX3_nextOf_81 : decode cX3_nextOf 81 = .ok (.ireturn, 1) := dk_172 (dk_at dksX3_nextOf_3 9 rfl rfl)
abbrev cX3_isOnWater : ByteArray := prog_7_method_9_code
def yX3_isOnWater : MethodName := ⟨RX3, "isOnWater", "(I)Z"⟩
def dkwX3_isOnWater_1 : List UInt8 := [167, 0, 4, 3, 172]
abbrev dktX3_isOnWater_1 : List UInt8 := dkwX3_isOnWater_1 ++ []
def dkwX3_isOnWater_0 : List UInt8 := [42, 180, 0, 40, 180, 0, 87, 42, 180, 0, 11, 27, 50, 180, 0, 91, 182, 0, 117, 154, 0, 7, 4]
abbrev dktX3_isOnWater_0 : List UInt8 := dkwX3_isOnWater_0 ++ dktX3_isOnWater_1
theorem dksX3_isOnWater_0 : cX3_isOnWater.data.toList.drop 0 = dktX3_isOnWater_0 := by decide +kernel
theorem dksX3_isOnWater_1 : cX3_isOnWater.data.toList.drop 23 = dktX3_isOnWater_1 := dk_seg dksX3_isOnWater_0 23 rfl rfl
theorem dX3_isOnWater_0 : decode cX3_isOnWater 0 = .ok (.aload_n 0, 1) := dk_42 (dk_at dksX3_isOnWater_0 0 rfl rfl)
theorem dX3_isOnWater_1 : decode cX3_isOnWater 1 = .ok (.getfield 40, 3) := dk_180 0 40 (dk_at dksX3_isOnWater_0 1 rfl rfl)
theorem dX3_isOnWater_4 : decode cX3_isOnWater 4 = .ok (.getfield 87, 3) := dk_180 0 87 (dk_at dksX3_isOnWater_0 4 rfl rfl)
theorem dX3_isOnWater_7 : decode cX3_isOnWater 7 = .ok (.aload_n 0, 1) := dk_42 (dk_at dksX3_isOnWater_0 7 rfl rfl)
theorem dX3_isOnWater_8 : decode cX3_isOnWater 8 = .ok (.getfield 11, 3) := dk_180 0 11 (dk_at dksX3_isOnWater_0 8 rfl rfl)
theorem dX3_isOnWater_11 : decode cX3_isOnWater 11 = .ok (.iload_n 1, 1) := dk_27 (dk_at dksX3_isOnWater_0 11 rfl rfl)
theorem dX3_isOnWater_12 : decode cX3_isOnWater 12 = .ok (.aaload, 1) := dk_50 (dk_at dksX3_isOnWater_0 12 rfl rfl)
theorem dX3_isOnWater_13 : decode cX3_isOnWater 13 = .ok (.getfield 91, 3) := dk_180 0 91 (dk_at dksX3_isOnWater_0 13 rfl rfl)
theorem dX3_isOnWater_16 : decode cX3_isOnWater 16 = .ok (.invokevirtual 117, 3) := dk_182 0 117 (dk_at dksX3_isOnWater_0 16 rfl rfl)
theorem dX3_isOnWater_19 : decode cX3_isOnWater 19 = .ok (.ifCond .ne 7, 3) := dk_154 0 7 (dk_at dksX3_isOnWater_0 19 rfl rfl)
theorem dX3_isOnWater_22 : decode cX3_isOnWater 22 = .ok (.iconst 1, 1) := dk_4 (dk_at dksX3_isOnWater_0 22 rfl rfl)
theorem dX3_isOnWater_23 : decode cX3_isOnWater 23 = .ok (.goto 4, 3) := dk_167 0 4 (dk_at dksX3_isOnWater_1 0 rfl rfl)
theorem dX3_isOnWater_26 : decode cX3_isOnWater 26 = .ok (.iconst 0, 1) := dk_3 (dk_at dksX3_isOnWater_1 3 rfl rfl)
theorem dX3_isOnWater_27 : decode cX3_isOnWater 27 = .ok (.ireturn, 1) := dk_172 (dk_at dksX3_isOnWater_1 4 rfl rfl)
abbrev cX3_canBoth : ByteArray := prog_7_method_8_code
def yX3_canBoth : MethodName := ⟨RX3, "canBoth", "(II)Z"⟩
def dkwX3_canBoth_1 : List UInt8 := [180, 0, 11, 28, 50, 180, 0, 37, 100, 184, 0, 111, 104, 163, 0, 7, 4, 167, 0, 4, 3, 172]
abbrev dktX3_canBoth_1 : List UInt8 := dkwX3_canBoth_1 ++ []
def dkwX3_canBoth_0 : List UInt8 := [42, 27, 28, 182, 0, 104, 42, 180, 0, 40, 180, 0, 108, 42, 180, 0, 11, 27, 50, 180, 0, 37, 42]
abbrev dktX3_canBoth_0 : List UInt8 := dkwX3_canBoth_0 ++ dktX3_canBoth_1
theorem dksX3_canBoth_0 : cX3_canBoth.data.toList.drop 0 = dktX3_canBoth_0 := by decide +kernel
theorem dksX3_canBoth_1 : cX3_canBoth.data.toList.drop 23 = dktX3_canBoth_1 := dk_seg dksX3_canBoth_0 23 rfl rfl
theorem dX3_canBoth_0 : decode cX3_canBoth 0 = .ok (.aload_n 0, 1) := dk_42 (dk_at dksX3_canBoth_0 0 rfl rfl)
theorem dX3_canBoth_1 : decode cX3_canBoth 1 = .ok (.iload_n 1, 1) := dk_27 (dk_at dksX3_canBoth_0 1 rfl rfl)
theorem dX3_canBoth_2 : decode cX3_canBoth 2 = .ok (.iload_n 2, 1) := dk_28 (dk_at dksX3_canBoth_0 2 rfl rfl)
theorem dX3_canBoth_3 : decode cX3_canBoth 3 = .ok (.invokevirtual 104, 3) := dk_182 0 104 (dk_at dksX3_canBoth_0 3 rfl rfl)
theorem dX3_canBoth_6 : decode cX3_canBoth 6 = .ok (.aload_n 0, 1) := dk_42 (dk_at dksX3_canBoth_0 6 rfl rfl)
theorem dX3_canBoth_7 : decode cX3_canBoth 7 = .ok (.getfield 40, 3) := dk_180 0 40 (dk_at dksX3_canBoth_0 7 rfl rfl)
theorem dX3_canBoth_10 : decode cX3_canBoth 10 = .ok (.getfield 108, 3) := dk_180 0 108 (dk_at dksX3_canBoth_0 10 rfl rfl)
theorem dX3_canBoth_13 : decode cX3_canBoth 13 = .ok (.aload_n 0, 1) := dk_42 (dk_at dksX3_canBoth_0 13 rfl rfl)
theorem dX3_canBoth_14 : decode cX3_canBoth 14 = .ok (.getfield 11, 3) := dk_180 0 11 (dk_at dksX3_canBoth_0 14 rfl rfl)
theorem dX3_canBoth_17 : decode cX3_canBoth 17 = .ok (.iload_n 1, 1) := dk_27 (dk_at dksX3_canBoth_0 17 rfl rfl)
theorem dX3_canBoth_18 : decode cX3_canBoth 18 = .ok (.aaload, 1) := dk_50 (dk_at dksX3_canBoth_0 18 rfl rfl)
theorem dX3_canBoth_19 : decode cX3_canBoth 19 = .ok (.getfield 37, 3) := dk_180 0 37 (dk_at dksX3_canBoth_0 19 rfl rfl)
theorem dX3_canBoth_22 : decode cX3_canBoth 22 = .ok (.aload_n 0, 1) := dk_42 (dk_at dksX3_canBoth_0 22 rfl rfl)
theorem dX3_canBoth_23 : decode cX3_canBoth 23 = .ok (.getfield 11, 3) := dk_180 0 11 (dk_at dksX3_canBoth_1 0 rfl rfl)
theorem dX3_canBoth_26 : decode cX3_canBoth 26 = .ok (.iload_n 2, 1) := dk_28 (dk_at dksX3_canBoth_1 3 rfl rfl)
theorem dX3_canBoth_27 : decode cX3_canBoth 27 = .ok (.aaload, 1) := dk_50 (dk_at dksX3_canBoth_1 4 rfl rfl)
theorem dX3_canBoth_28 : decode cX3_canBoth 28 = .ok (.getfield 37, 3) := dk_180 0 37 (dk_at dksX3_canBoth_1 5 rfl rfl)
theorem dX3_canBoth_31 : decode cX3_canBoth 31 = .ok (.isub, 1) := dk_100 (dk_at dksX3_canBoth_1 8 rfl rfl)
theorem dX3_canBoth_32 : decode cX3_canBoth 32 = .ok (.invokestatic 111, 3) := dk_184 0 111 (dk_at dksX3_canBoth_1 9 rfl rfl)
theorem dX3_canBoth_35 : decode cX3_canBoth 35 = .ok (.imul, 1) := dk_104 (dk_at dksX3_canBoth_1 12 rfl rfl)
theorem dX3_canBoth_36 : decode cX3_canBoth 36 = .ok (.if_icmp .gt 7, 3) := dk_163 0 7 (dk_at dksX3_canBoth_1 13 rfl rfl)
theorem dX3_canBoth_39 : decode cX3_canBoth 39 = .ok (.iconst 1, 1) := dk_4 (dk_at dksX3_canBoth_1 16 rfl rfl)
theorem dX3_canBoth_40 : decode cX3_canBoth 40 = .ok (.goto 4, 3) := dk_167 0 4 (dk_at dksX3_canBoth_1 17 rfl rfl)
theorem dX3_canBoth_43 : decode cX3_canBoth 43 = .ok (.iconst 0, 1) := dk_3 (dk_at dksX3_canBoth_1 20 rfl rfl)
theorem dX3_canBoth_44 : decode cX3_canBoth 44 = .ok (.ireturn, 1) := dk_172 (dk_at dksX3_canBoth_1 21 rfl rfl)
abbrev cX3_between : ByteArray := prog_7_method_7_code
def yX3_between : MethodName := ⟨RX3, "between", "(II)I"⟩
def dkwX3_between_0 : List UInt8 := [42, 180, 0, 24, 17, 0, 192, 27, 104, 42, 180, 0, 11, 28, 50, 180, 0, 91, 96, 46, 172]
abbrev dktX3_between_0 : List UInt8 := dkwX3_between_0 ++ []
theorem dksX3_between_0 : cX3_between.data.toList.drop 0 = dktX3_between_0 := by decide +kernel
theorem dX3_between_0 : decode cX3_between 0 = .ok (.aload_n 0, 1) := dk_42 (dk_at dksX3_between_0 0 rfl rfl)
theorem dX3_between_1 : decode cX3_between 1 = .ok (.getfield 24, 3) := dk_180 0 24 (dk_at dksX3_between_0 1 rfl rfl)
theorem dX3_between_4 : decode cX3_between 4 = .ok (.sipush 192, 3) := dk_17 0 192 (dk_at dksX3_between_0 4 rfl rfl)
theorem dX3_between_7 : decode cX3_between 7 = .ok (.iload_n 1, 1) := dk_27 (dk_at dksX3_between_0 7 rfl rfl)
theorem dX3_between_8 : decode cX3_between 8 = .ok (.imul, 1) := dk_104 (dk_at dksX3_between_0 8 rfl rfl)
theorem dX3_between_9 : decode cX3_between 9 = .ok (.aload_n 0, 1) := dk_42 (dk_at dksX3_between_0 9 rfl rfl)
theorem dX3_between_10 : decode cX3_between 10 = .ok (.getfield 11, 3) := dk_180 0 11 (dk_at dksX3_between_0 10 rfl rfl)
theorem dX3_between_13 : decode cX3_between 13 = .ok (.iload_n 2, 1) := dk_28 (dk_at dksX3_between_0 13 rfl rfl)
theorem dX3_between_14 : decode cX3_between 14 = .ok (.aaload, 1) := dk_50 (dk_at dksX3_between_0 14 rfl rfl)
theorem dX3_between_15 : decode cX3_between 15 = .ok (.getfield 91, 3) := dk_180 0 91 (dk_at dksX3_between_0 15 rfl rfl)
theorem dX3_between_18 : decode cX3_between 18 = .ok (.iadd, 1) := dk_96 (dk_at dksX3_between_0 18 rfl rfl)
theorem dX3_between_19 : decode cX3_between 19 = .ok (.iaload, 1) := dk_46 (dk_at dksX3_between_0 19 rfl rfl)
theorem dX3_between_20 : decode cX3_between 20 = .ok (.ireturn, 1) := dk_172 (dk_at dksX3_between_0 20 rfl rfl)
abbrev cX3_weight : ByteArray := prog_7_method_13_code
def yX3_weight : MethodName := ⟨RX3, "weight", "(I)I"⟩
def dkwX3_weight_0 : List UInt8 := [42, 180, 0, 40, 42, 180, 0, 11, 27, 50, 180, 0, 132, 182, 0, 135, 172]
abbrev dktX3_weight_0 : List UInt8 := dkwX3_weight_0 ++ []
theorem dksX3_weight_0 : cX3_weight.data.toList.drop 0 = dktX3_weight_0 := by decide +kernel
theorem dX3_weight_0 : decode cX3_weight 0 = .ok (.aload_n 0, 1) := dk_42 (dk_at dksX3_weight_0 0 rfl rfl)
theorem dX3_weight_1 : decode cX3_weight 1 = .ok (.getfield 40, 3) := dk_180 0 40 (dk_at dksX3_weight_0 1 rfl rfl)
theorem dX3_weight_4 : decode cX3_weight 4 = .ok (.aload_n 0, 1) := dk_42 (dk_at dksX3_weight_0 4 rfl rfl)
theorem dX3_weight_5 : decode cX3_weight 5 = .ok (.getfield 11, 3) := dk_180 0 11 (dk_at dksX3_weight_0 5 rfl rfl)
theorem dX3_weight_8 : decode cX3_weight 8 = .ok (.iload_n 1, 1) := dk_27 (dk_at dksX3_weight_0 8 rfl rfl)
theorem dX3_weight_9 : decode cX3_weight 9 = .ok (.aaload, 1) := dk_50 (dk_at dksX3_weight_0 9 rfl rfl)
theorem dX3_weight_10 : decode cX3_weight 10 = .ok (.getfield 132, 3) := dk_180 0 132 (dk_at dksX3_weight_0 10 rfl rfl)
theorem dX3_weight_13 : decode cX3_weight 13 = .ok (.invokevirtual 135, 3) := dk_182 0 135 (dk_at dksX3_weight_0 13 rfl rfl)
theorem dX3_weight_16 : decode cX3_weight 16 = .ok (.ireturn, 1) := dk_172 (dk_at dksX3_weight_0 16 rfl rfl)
abbrev cX3_isOnTrack : ByteArray := prog_7_method_18_code
def yX3_isOnTrack : MethodName := ⟨RX3, "isOnTrack", "(I)Z"⟩
def dkwX3_isOnTrack_1 : List UInt8 := [167, 0, 4, 3, 128, 61, 132, 3, 1, 167, 255, 227, 28, 172]
abbrev dktX3_isOnTrack_1 : List UInt8 := dkwX3_isOnTrack_1 ++ []
def dkwX3_isOnTrack_0 : List UInt8 := [3, 61, 3, 62, 29, 42, 180, 0, 145, 162, 0, 27, 28, 42, 180, 0, 30, 29, 46, 27, 160, 0, 7, 4]
abbrev dktX3_isOnTrack_0 : List UInt8 := dkwX3_isOnTrack_0 ++ dktX3_isOnTrack_1
theorem dksX3_isOnTrack_0 : cX3_isOnTrack.data.toList.drop 0 = dktX3_isOnTrack_0 := by decide +kernel
theorem dksX3_isOnTrack_1 : cX3_isOnTrack.data.toList.drop 24 = dktX3_isOnTrack_1 := dk_seg dksX3_isOnTrack_0 24 rfl rfl
theorem dX3_isOnTrack_0 : decode cX3_isOnTrack 0 = .ok (.iconst 0, 1) := dk_3 (dk_at dksX3_isOnTrack_0 0 rfl rfl)
theorem dX3_isOnTrack_1 : decode cX3_isOnTrack 1 = .ok (.istore_n 2, 1) := dk_61 (dk_at dksX3_isOnTrack_0 1 rfl rfl)
theorem dX3_isOnTrack_2 : decode cX3_isOnTrack 2 = .ok (.iconst 0, 1) := dk_3 (dk_at dksX3_isOnTrack_0 2 rfl rfl)
theorem dX3_isOnTrack_3 : decode cX3_isOnTrack 3 = .ok (.istore_n 3, 1) := dk_62 (dk_at dksX3_isOnTrack_0 3 rfl rfl)
theorem dX3_isOnTrack_4 : decode cX3_isOnTrack 4 = .ok (.iload_n 3, 1) := dk_29 (dk_at dksX3_isOnTrack_0 4 rfl rfl)
theorem dX3_isOnTrack_5 : decode cX3_isOnTrack 5 = .ok (.aload_n 0, 1) := dk_42 (dk_at dksX3_isOnTrack_0 5 rfl rfl)
theorem dX3_isOnTrack_6 : decode cX3_isOnTrack 6 = .ok (.getfield 145, 3) := dk_180 0 145 (dk_at dksX3_isOnTrack_0 6 rfl rfl)
theorem dX3_isOnTrack_9 : decode cX3_isOnTrack 9 = .ok (.if_icmp .ge 27, 3) := dk_162 0 27 (dk_at dksX3_isOnTrack_0 9 rfl rfl)
theorem dX3_isOnTrack_12 : decode cX3_isOnTrack 12 = .ok (.iload_n 2, 1) := dk_28 (dk_at dksX3_isOnTrack_0 12 rfl rfl)
theorem dX3_isOnTrack_13 : decode cX3_isOnTrack 13 = .ok (.aload_n 0, 1) := dk_42 (dk_at dksX3_isOnTrack_0 13 rfl rfl)
theorem dX3_isOnTrack_14 : decode cX3_isOnTrack 14 = .ok (.getfield 30, 3) := dk_180 0 30 (dk_at dksX3_isOnTrack_0 14 rfl rfl)
theorem dX3_isOnTrack_17 : decode cX3_isOnTrack 17 = .ok (.iload_n 3, 1) := dk_29 (dk_at dksX3_isOnTrack_0 17 rfl rfl)
theorem dX3_isOnTrack_18 : decode cX3_isOnTrack 18 = .ok (.iaload, 1) := dk_46 (dk_at dksX3_isOnTrack_0 18 rfl rfl)
theorem dX3_isOnTrack_19 : decode cX3_isOnTrack 19 = .ok (.iload_n 1, 1) := dk_27 (dk_at dksX3_isOnTrack_0 19 rfl rfl)
theorem dX3_isOnTrack_20 : decode cX3_isOnTrack 20 = .ok (.if_icmp .ne 7, 3) := dk_160 0 7 (dk_at dksX3_isOnTrack_0 20 rfl rfl)
theorem dX3_isOnTrack_23 : decode cX3_isOnTrack 23 = .ok (.iconst 1, 1) := dk_4 (dk_at dksX3_isOnTrack_0 23 rfl rfl)
theorem dX3_isOnTrack_24 : decode cX3_isOnTrack 24 = .ok (.goto 4, 3) := dk_167 0 4 (dk_at dksX3_isOnTrack_1 0 rfl rfl)
theorem dX3_isOnTrack_27 : decode cX3_isOnTrack 27 = .ok (.iconst 0, 1) := dk_3 (dk_at dksX3_isOnTrack_1 3 rfl rfl)
theorem dX3_isOnTrack_28 : decode cX3_isOnTrack 28 = .ok (.ior, 1) := dk_128 (dk_at dksX3_isOnTrack_1 4 rfl rfl)
theorem dX3_isOnTrack_29 : decode cX3_isOnTrack 29 = .ok (.istore_n 2, 1) := dk_61 (dk_at dksX3_isOnTrack_1 5 rfl rfl)
theorem dX3_isOnTrack_30 : decode cX3_isOnTrack 30 = .ok (.iinc 3 1, 3) := dk_132 3 1 (dk_at dksX3_isOnTrack_1 6 rfl rfl)
theorem dX3_isOnTrack_33 : decode cX3_isOnTrack 33 = .ok (.goto (-29), 3) := dk_167 255 227 (dk_at dksX3_isOnTrack_1 9 rfl rfl)
theorem dX3_isOnTrack_36 : decode cX3_isOnTrack 36 = .ok (.iload_n 2, 1) := dk_28 (dk_at dksX3_isOnTrack_1 12 rfl rfl)
theorem dX3_isOnTrack_37 : decode cX3_isOnTrack 37 = .ok (.ireturn, 1) := dk_172 (dk_at dksX3_isOnTrack_1 13 rfl rfl)
abbrev cX3_isPlace : ByteArray := prog_7_method_5_code
def yX3_isPlace : MethodName := ⟨RX3, "isPlace", "(I)Z"⟩
def dkwX3_isPlace_0 : List UInt8 := [27, 3, 42, 180, 0, 33, 4, 100, 184, 0, 100, 172]
abbrev dktX3_isPlace_0 : List UInt8 := dkwX3_isPlace_0 ++ []
theorem dksX3_isPlace_0 : cX3_isPlace.data.toList.drop 0 = dktX3_isPlace_0 := by decide +kernel
theorem dX3_isPlace_0 : decode cX3_isPlace 0 = .ok (.iload_n 1, 1) := dk_27 (dk_at dksX3_isPlace_0 0 rfl rfl)
theorem dX3_isPlace_1 : decode cX3_isPlace 1 = .ok (.iconst 0, 1) := dk_3 (dk_at dksX3_isPlace_0 1 rfl rfl)
theorem dX3_isPlace_2 : decode cX3_isPlace 2 = .ok (.aload_n 0, 1) := dk_42 (dk_at dksX3_isPlace_0 2 rfl rfl)
theorem dX3_isPlace_3 : decode cX3_isPlace 3 = .ok (.getfield 33, 3) := dk_180 0 33 (dk_at dksX3_isPlace_0 3 rfl rfl)
theorem dX3_isPlace_6 : decode cX3_isPlace 6 = .ok (.iconst 1, 1) := dk_4 (dk_at dksX3_isPlace_0 6 rfl rfl)
theorem dX3_isPlace_7 : decode cX3_isPlace 7 = .ok (.isub, 1) := dk_100 (dk_at dksX3_isPlace_0 7 rfl rfl)
theorem dX3_isPlace_8 : decode cX3_isPlace 8 = .ok (.invokestatic 100, 3) := dk_184 0 100 (dk_at dksX3_isPlace_0 8 rfl rfl)
theorem dX3_isPlace_11 : decode cX3_isPlace 11 = .ok (.ireturn, 1) := dk_172 (dk_at dksX3_isPlace_0 11 rfl rfl)
abbrev cX3_conflicts : ByteArray := prog_7_method_11_code
def yX3_conflicts : MethodName := ⟨RX3, "conflicts", "()I"⟩
def dkwX3_conflicts_1 : List UInt8 := [167, 255, 237, 27, 5, 108, 172]
abbrev dktX3_conflicts_1 : List UInt8 := dkwX3_conflicts_1 ++ []
def dkwX3_conflicts_0 : List UInt8 := [3, 60, 3, 61, 28, 42, 180, 0, 33, 162, 0, 17, 27, 42, 28, 182, 0, 126, 96, 60, 132, 2, 1]
abbrev dktX3_conflicts_0 : List UInt8 := dkwX3_conflicts_0 ++ dktX3_conflicts_1
theorem dksX3_conflicts_0 : cX3_conflicts.data.toList.drop 0 = dktX3_conflicts_0 := by decide +kernel
theorem dksX3_conflicts_1 : cX3_conflicts.data.toList.drop 23 = dktX3_conflicts_1 := dk_seg dksX3_conflicts_0 23 rfl rfl
theorem dX3_conflicts_0 : decode cX3_conflicts 0 = .ok (.iconst 0, 1) := dk_3 (dk_at dksX3_conflicts_0 0 rfl rfl)
theorem dX3_conflicts_1 : decode cX3_conflicts 1 = .ok (.istore_n 1, 1) := dk_60 (dk_at dksX3_conflicts_0 1 rfl rfl)
theorem dX3_conflicts_2 : decode cX3_conflicts 2 = .ok (.iconst 0, 1) := dk_3 (dk_at dksX3_conflicts_0 2 rfl rfl)
theorem dX3_conflicts_3 : decode cX3_conflicts 3 = .ok (.istore_n 2, 1) := dk_61 (dk_at dksX3_conflicts_0 3 rfl rfl)
theorem dX3_conflicts_4 : decode cX3_conflicts 4 = .ok (.iload_n 2, 1) := dk_28 (dk_at dksX3_conflicts_0 4 rfl rfl)
theorem dX3_conflicts_5 : decode cX3_conflicts 5 = .ok (.aload_n 0, 1) := dk_42 (dk_at dksX3_conflicts_0 5 rfl rfl)
theorem dX3_conflicts_6 : decode cX3_conflicts 6 = .ok (.getfield 33, 3) := dk_180 0 33 (dk_at dksX3_conflicts_0 6 rfl rfl)
theorem dX3_conflicts_9 : decode cX3_conflicts 9 = .ok (.if_icmp .ge 17, 3) := dk_162 0 17 (dk_at dksX3_conflicts_0 9 rfl rfl)
theorem dX3_conflicts_12 : decode cX3_conflicts 12 = .ok (.iload_n 1, 1) := dk_27 (dk_at dksX3_conflicts_0 12 rfl rfl)
theorem dX3_conflicts_13 : decode cX3_conflicts 13 = .ok (.aload_n 0, 1) := dk_42 (dk_at dksX3_conflicts_0 13 rfl rfl)
theorem dX3_conflicts_14 : decode cX3_conflicts 14 = .ok (.iload_n 2, 1) := dk_28 (dk_at dksX3_conflicts_0 14 rfl rfl)
theorem dX3_conflicts_15 : decode cX3_conflicts 15 = .ok (.invokevirtual 126, 3) := dk_182 0 126 (dk_at dksX3_conflicts_0 15 rfl rfl)
theorem dX3_conflicts_18 : decode cX3_conflicts 18 = .ok (.iadd, 1) := dk_96 (dk_at dksX3_conflicts_0 18 rfl rfl)
theorem dX3_conflicts_19 : decode cX3_conflicts 19 = .ok (.istore_n 1, 1) := dk_60 (dk_at dksX3_conflicts_0 19 rfl rfl)
theorem dX3_conflicts_20 : decode cX3_conflicts 20 = .ok (.iinc 2 1, 3) := dk_132 2 1 (dk_at dksX3_conflicts_0 20 rfl rfl)
theorem dX3_conflicts_23 : decode cX3_conflicts 23 = .ok (.goto (-19), 3) := dk_167 255 237 (dk_at dksX3_conflicts_1 0 rfl rfl)
theorem dX3_conflicts_26 : decode cX3_conflicts 26 = .ok (.iload_n 1, 1) := dk_27 (dk_at dksX3_conflicts_1 3 rfl rfl)
theorem dX3_conflicts_27 : decode cX3_conflicts 27 = .ok (.iconst 2, 1) := dk_5 (dk_at dksX3_conflicts_1 4 rfl rfl)
theorem dX3_conflicts_28 : decode cX3_conflicts 28 = .ok (.idiv, 1) := dk_108 (dk_at dksX3_conflicts_1 5 rfl rfl)
theorem dX3_conflicts_29 : decode cX3_conflicts 29 = .ok (.ireturn, 1) := dk_172 (dk_at dksX3_conflicts_1 6 rfl rfl)
abbrev cX3_against : ByteArray := prog_7_method_10_code
def yX3_against : MethodName := ⟨RX3, "against", "(I)I"⟩
def dkwX3_against_1 : List UInt8 := [154, 0, 7, 4, 167, 0, 4, 3, 96, 61, 132, 3, 1, 167, 255, 223, 28, 172]
abbrev dktX3_against_1 : List UInt8 := dkwX3_against_1 ++ []
def dkwX3_against_0 : List UInt8 := [3, 61, 3, 62, 29, 42, 180, 0, 33, 162, 0, 31, 28, 29, 27, 159, 0, 16, 42, 27, 29, 182, 0, 122]
abbrev dktX3_against_0 : List UInt8 := dkwX3_against_0 ++ dktX3_against_1
theorem dksX3_against_0 : cX3_against.data.toList.drop 0 = dktX3_against_0 := by decide +kernel
theorem dksX3_against_1 : cX3_against.data.toList.drop 24 = dktX3_against_1 := dk_seg dksX3_against_0 24 rfl rfl
theorem dX3_against_0 : decode cX3_against 0 = .ok (.iconst 0, 1) := dk_3 (dk_at dksX3_against_0 0 rfl rfl)
theorem dX3_against_1 : decode cX3_against 1 = .ok (.istore_n 2, 1) := dk_61 (dk_at dksX3_against_0 1 rfl rfl)
theorem dX3_against_2 : decode cX3_against 2 = .ok (.iconst 0, 1) := dk_3 (dk_at dksX3_against_0 2 rfl rfl)
theorem dX3_against_3 : decode cX3_against 3 = .ok (.istore_n 3, 1) := dk_62 (dk_at dksX3_against_0 3 rfl rfl)
theorem dX3_against_4 : decode cX3_against 4 = .ok (.iload_n 3, 1) := dk_29 (dk_at dksX3_against_0 4 rfl rfl)
theorem dX3_against_5 : decode cX3_against 5 = .ok (.aload_n 0, 1) := dk_42 (dk_at dksX3_against_0 5 rfl rfl)
theorem dX3_against_6 : decode cX3_against 6 = .ok (.getfield 33, 3) := dk_180 0 33 (dk_at dksX3_against_0 6 rfl rfl)
theorem dX3_against_9 : decode cX3_against 9 = .ok (.if_icmp .ge 31, 3) := dk_162 0 31 (dk_at dksX3_against_0 9 rfl rfl)
theorem dX3_against_12 : decode cX3_against 12 = .ok (.iload_n 2, 1) := dk_28 (dk_at dksX3_against_0 12 rfl rfl)
theorem dX3_against_13 : decode cX3_against 13 = .ok (.iload_n 3, 1) := dk_29 (dk_at dksX3_against_0 13 rfl rfl)
theorem dX3_against_14 : decode cX3_against 14 = .ok (.iload_n 1, 1) := dk_27 (dk_at dksX3_against_0 14 rfl rfl)
theorem dX3_against_15 : decode cX3_against 15 = .ok (.if_icmp .eq 16, 3) := dk_159 0 16 (dk_at dksX3_against_0 15 rfl rfl)
theorem dX3_against_18 : decode cX3_against 18 = .ok (.aload_n 0, 1) := dk_42 (dk_at dksX3_against_0 18 rfl rfl)
theorem dX3_against_19 : decode cX3_against 19 = .ok (.iload_n 1, 1) := dk_27 (dk_at dksX3_against_0 19 rfl rfl)
theorem dX3_against_20 : decode cX3_against 20 = .ok (.iload_n 3, 1) := dk_29 (dk_at dksX3_against_0 20 rfl rfl)
theorem dX3_against_21 : decode cX3_against 21 = .ok (.invokevirtual 122, 3) := dk_182 0 122 (dk_at dksX3_against_0 21 rfl rfl)
theorem dX3_against_24 : decode cX3_against 24 = .ok (.ifCond .ne 7, 3) := dk_154 0 7 (dk_at dksX3_against_1 0 rfl rfl)
theorem dX3_against_27 : decode cX3_against 27 = .ok (.iconst 1, 1) := dk_4 (dk_at dksX3_against_1 3 rfl rfl)
theorem dX3_against_28 : decode cX3_against 28 = .ok (.goto 4, 3) := dk_167 0 4 (dk_at dksX3_against_1 4 rfl rfl)
theorem dX3_against_31 : decode cX3_against 31 = .ok (.iconst 0, 1) := dk_3 (dk_at dksX3_against_1 7 rfl rfl)
theorem dX3_against_32 : decode cX3_against 32 = .ok (.iadd, 1) := dk_96 (dk_at dksX3_against_1 8 rfl rfl)
theorem dX3_against_33 : decode cX3_against 33 = .ok (.istore_n 2, 1) := dk_61 (dk_at dksX3_against_1 9 rfl rfl)
theorem dX3_against_34 : decode cX3_against 34 = .ok (.iinc 3 1, 3) := dk_132 3 1 (dk_at dksX3_against_1 10 rfl rfl)
theorem dX3_against_37 : decode cX3_against 37 = .ok (.goto (-33), 3) := dk_167 255 223 (dk_at dksX3_against_1 13 rfl rfl)
theorem dX3_against_40 : decode cX3_against 40 = .ok (.iload_n 2, 1) := dk_28 (dk_at dksX3_against_1 16 rfl rfl)
theorem dX3_against_41 : decode cX3_against 41 = .ok (.ireturn, 1) := dk_172 (dk_at dksX3_against_1 17 rfl rfl)
abbrev cX3_worst : ByteArray := prog_7_method_12_code
def yX3_worst : MethodName := ⟨RX3, "worst", "()I"⟩
def dkwX3_worst_1 : List UInt8 := [164, 0, 7, 29, 167, 0, 4, 27, 60, 28, 21, 4, 184, 0, 129, 61, 132, 3, 1, 167, 255, 219, 27, 172]
abbrev dktX3_worst_1 : List UInt8 := dkwX3_worst_1 ++ []
def dkwX3_worst_0 : List UInt8 := [2, 60, 3, 61, 3, 62, 29, 42, 180, 0, 33, 162, 0, 35, 42, 29, 182, 0, 126, 54, 4, 21, 4, 28]
abbrev dktX3_worst_0 : List UInt8 := dkwX3_worst_0 ++ dktX3_worst_1
theorem dksX3_worst_0 : cX3_worst.data.toList.drop 0 = dktX3_worst_0 := by decide +kernel
theorem dksX3_worst_1 : cX3_worst.data.toList.drop 24 = dktX3_worst_1 := dk_seg dksX3_worst_0 24 rfl rfl
theorem dX3_worst_0 : decode cX3_worst 0 = .ok (.iconst (-1), 1) := dk_2 (dk_at dksX3_worst_0 0 rfl rfl)
theorem dX3_worst_1 : decode cX3_worst 1 = .ok (.istore_n 1, 1) := dk_60 (dk_at dksX3_worst_0 1 rfl rfl)
theorem dX3_worst_2 : decode cX3_worst 2 = .ok (.iconst 0, 1) := dk_3 (dk_at dksX3_worst_0 2 rfl rfl)
theorem dX3_worst_3 : decode cX3_worst 3 = .ok (.istore_n 2, 1) := dk_61 (dk_at dksX3_worst_0 3 rfl rfl)
theorem dX3_worst_4 : decode cX3_worst 4 = .ok (.iconst 0, 1) := dk_3 (dk_at dksX3_worst_0 4 rfl rfl)
theorem dX3_worst_5 : decode cX3_worst 5 = .ok (.istore_n 3, 1) := dk_62 (dk_at dksX3_worst_0 5 rfl rfl)
theorem dX3_worst_6 : decode cX3_worst 6 = .ok (.iload_n 3, 1) := dk_29 (dk_at dksX3_worst_0 6 rfl rfl)
theorem dX3_worst_7 : decode cX3_worst 7 = .ok (.aload_n 0, 1) := dk_42 (dk_at dksX3_worst_0 7 rfl rfl)
theorem dX3_worst_8 : decode cX3_worst 8 = .ok (.getfield 33, 3) := dk_180 0 33 (dk_at dksX3_worst_0 8 rfl rfl)
theorem dX3_worst_11 : decode cX3_worst 11 = .ok (.if_icmp .ge 35, 3) := dk_162 0 35 (dk_at dksX3_worst_0 11 rfl rfl)
theorem dX3_worst_14 : decode cX3_worst 14 = .ok (.aload_n 0, 1) := dk_42 (dk_at dksX3_worst_0 14 rfl rfl)
theorem dX3_worst_15 : decode cX3_worst 15 = .ok (.iload_n 3, 1) := dk_29 (dk_at dksX3_worst_0 15 rfl rfl)
theorem dX3_worst_16 : decode cX3_worst 16 = .ok (.invokevirtual 126, 3) := dk_182 0 126 (dk_at dksX3_worst_0 16 rfl rfl)
theorem dX3_worst_19 : decode cX3_worst 19 = .ok (.istore 4, 2) := dk_54 4 (dk_at dksX3_worst_0 19 rfl rfl)
theorem dX3_worst_21 : decode cX3_worst 21 = .ok (.iload 4, 2) := dk_21 4 (dk_at dksX3_worst_0 21 rfl rfl)
theorem dX3_worst_23 : decode cX3_worst 23 = .ok (.iload_n 2, 1) := dk_28 (dk_at dksX3_worst_0 23 rfl rfl)
theorem dX3_worst_24 : decode cX3_worst 24 = .ok (.if_icmp .le 7, 3) := dk_164 0 7 (dk_at dksX3_worst_1 0 rfl rfl)
theorem dX3_worst_27 : decode cX3_worst 27 = .ok (.iload_n 3, 1) := dk_29 (dk_at dksX3_worst_1 3 rfl rfl)
theorem dX3_worst_28 : decode cX3_worst 28 = .ok (.goto 4, 3) := dk_167 0 4 (dk_at dksX3_worst_1 4 rfl rfl)
theorem dX3_worst_31 : decode cX3_worst 31 = .ok (.iload_n 1, 1) := dk_27 (dk_at dksX3_worst_1 7 rfl rfl)
theorem dX3_worst_32 : decode cX3_worst 32 = .ok (.istore_n 1, 1) := dk_60 (dk_at dksX3_worst_1 8 rfl rfl)
theorem dX3_worst_33 : decode cX3_worst 33 = .ok (.iload_n 2, 1) := dk_28 (dk_at dksX3_worst_1 9 rfl rfl)
theorem dX3_worst_34 : decode cX3_worst 34 = .ok (.iload 4, 2) := dk_21 4 (dk_at dksX3_worst_1 10 rfl rfl)
theorem dX3_worst_36 : decode cX3_worst 36 = .ok (.invokestatic 129, 3) := dk_184 0 129 (dk_at dksX3_worst_1 12 rfl rfl)
theorem dX3_worst_39 : decode cX3_worst 39 = .ok (.istore_n 2, 1) := dk_61 (dk_at dksX3_worst_1 15 rfl rfl)
theorem dX3_worst_40 : decode cX3_worst 40 = .ok (.iinc 3 1, 3) := dk_132 3 1 (dk_at dksX3_worst_1 16 rfl rfl)
theorem dX3_worst_43 : decode cX3_worst 43 = .ok (.goto (-37), 3) := dk_167 255 219 (dk_at dksX3_worst_1 19 rfl rfl)
theorem dX3_worst_46 : decode cX3_worst 46 = .ok (.iload_n 1, 1) := dk_27 (dk_at dksX3_worst_1 22 rfl rfl)
theorem dX3_worst_47 : decode cX3_worst 47 = .ok (.ireturn, 1) := dk_172 (dk_at dksX3_worst_1 23 rfl rfl)
abbrev cX3_weightOfTrack : ByteArray := prog_7_method_16_code
def yX3_weightOfTrack : MethodName := ⟨RX3, "weightOfTrack", "()I"⟩
def dkwX3_weightOfTrack_1 : List UInt8 := [60, 132, 2, 1, 167, 255, 232, 27, 172]
abbrev dktX3_weightOfTrack_1 : List UInt8 := dkwX3_weightOfTrack_1 ++ []
def dkwX3_weightOfTrack_0 : List UInt8 := [3, 60, 3, 61, 28, 42, 180, 0, 145, 162, 0, 22, 27, 42, 42, 180, 0, 30, 28, 46, 182, 0, 144, 96]
abbrev dktX3_weightOfTrack_0 : List UInt8 := dkwX3_weightOfTrack_0 ++ dktX3_weightOfTrack_1
theorem dksX3_weightOfTrack_0 : cX3_weightOfTrack.data.toList.drop 0 = dktX3_weightOfTrack_0 := by decide +kernel
theorem dksX3_weightOfTrack_1 : cX3_weightOfTrack.data.toList.drop 24 = dktX3_weightOfTrack_1 := dk_seg dksX3_weightOfTrack_0 24 rfl rfl
theorem dX3_weightOfTrack_0 : decode cX3_weightOfTrack 0 = .ok (.iconst 0, 1) := dk_3 (dk_at dksX3_weightOfTrack_0 0 rfl rfl)
theorem dX3_weightOfTrack_1 : decode cX3_weightOfTrack 1 = .ok (.istore_n 1, 1) := dk_60 (dk_at dksX3_weightOfTrack_0 1 rfl rfl)
theorem dX3_weightOfTrack_2 : decode cX3_weightOfTrack 2 = .ok (.iconst 0, 1) := dk_3 (dk_at dksX3_weightOfTrack_0 2 rfl rfl)
theorem dX3_weightOfTrack_3 : decode cX3_weightOfTrack 3 = .ok (.istore_n 2, 1) := dk_61 (dk_at dksX3_weightOfTrack_0 3 rfl rfl)
theorem dX3_weightOfTrack_4 : decode cX3_weightOfTrack 4 = .ok (.iload_n 2, 1) := dk_28 (dk_at dksX3_weightOfTrack_0 4 rfl rfl)
theorem dX3_weightOfTrack_5 : decode cX3_weightOfTrack 5 = .ok (.aload_n 0, 1) := dk_42 (dk_at dksX3_weightOfTrack_0 5 rfl rfl)
theorem dX3_weightOfTrack_6 : decode cX3_weightOfTrack 6 = .ok (.getfield 145, 3) := dk_180 0 145 (dk_at dksX3_weightOfTrack_0 6 rfl rfl)
theorem dX3_weightOfTrack_9 : decode cX3_weightOfTrack 9 = .ok (.if_icmp .ge 22, 3) := dk_162 0 22 (dk_at dksX3_weightOfTrack_0 9 rfl rfl)
theorem dX3_weightOfTrack_12 : decode cX3_weightOfTrack 12 = .ok (.iload_n 1, 1) := dk_27 (dk_at dksX3_weightOfTrack_0 12 rfl rfl)
theorem dX3_weightOfTrack_13 : decode cX3_weightOfTrack 13 = .ok (.aload_n 0, 1) := dk_42 (dk_at dksX3_weightOfTrack_0 13 rfl rfl)
theorem dX3_weightOfTrack_14 : decode cX3_weightOfTrack 14 = .ok (.aload_n 0, 1) := dk_42 (dk_at dksX3_weightOfTrack_0 14 rfl rfl)
theorem dX3_weightOfTrack_15 : decode cX3_weightOfTrack 15 = .ok (.getfield 30, 3) := dk_180 0 30 (dk_at dksX3_weightOfTrack_0 15 rfl rfl)
theorem dX3_weightOfTrack_18 : decode cX3_weightOfTrack 18 = .ok (.iload_n 2, 1) := dk_28 (dk_at dksX3_weightOfTrack_0 18 rfl rfl)
theorem dX3_weightOfTrack_19 : decode cX3_weightOfTrack 19 = .ok (.iaload, 1) := dk_46 (dk_at dksX3_weightOfTrack_0 19 rfl rfl)
theorem dX3_weightOfTrack_20 : decode cX3_weightOfTrack 20 = .ok (.invokevirtual 144, 3) := dk_182 0 144 (dk_at dksX3_weightOfTrack_0 20 rfl rfl)
theorem dX3_weightOfTrack_23 : decode cX3_weightOfTrack 23 = .ok (.iadd, 1) := dk_96 (dk_at dksX3_weightOfTrack_0 23 rfl rfl)
theorem dX3_weightOfTrack_24 : decode cX3_weightOfTrack 24 = .ok (.istore_n 1, 1) := dk_60 (dk_at dksX3_weightOfTrack_1 0 rfl rfl)
theorem dX3_weightOfTrack_25 : decode cX3_weightOfTrack 25 = .ok (.iinc 2 1, 3) := dk_132 2 1 (dk_at dksX3_weightOfTrack_1 1 rfl rfl)
theorem dX3_weightOfTrack_28 : decode cX3_weightOfTrack 28 = .ok (.goto (-24), 3) := dk_167 255 232 (dk_at dksX3_weightOfTrack_1 4 rfl rfl)
theorem dX3_weightOfTrack_31 : decode cX3_weightOfTrack 31 = .ok (.iload_n 1, 1) := dk_27 (dk_at dksX3_weightOfTrack_1 7 rfl rfl)
theorem dX3_weightOfTrack_32 : decode cX3_weightOfTrack 32 = .ok (.ireturn, 1) := dk_172 (dk_at dksX3_weightOfTrack_1 8 rfl rfl)
abbrev cX3_stepsOfTrack : ByteArray := prog_7_method_17_code
def yX3_stepsOfTrack : MethodName := ⟨RX3, "stepsOfTrack", "()I"⟩
def dkwX3_stepsOfTrack_1 : List UInt8 := [180, 0, 30, 28, 46, 182, 0, 104, 96, 60, 132, 2, 1, 167, 255, 224, 27, 172]
abbrev dktX3_stepsOfTrack_1 : List UInt8 := dkwX3_stepsOfTrack_1 ++ []
def dkwX3_stepsOfTrack_0 : List UInt8 := [3, 60, 4, 61, 28, 42, 180, 0, 145, 162, 0, 30, 27, 42, 42, 180, 0, 30, 28, 4, 100, 46, 42]
abbrev dktX3_stepsOfTrack_0 : List UInt8 := dkwX3_stepsOfTrack_0 ++ dktX3_stepsOfTrack_1
theorem dksX3_stepsOfTrack_0 : cX3_stepsOfTrack.data.toList.drop 0 = dktX3_stepsOfTrack_0 := by decide +kernel
theorem dksX3_stepsOfTrack_1 : cX3_stepsOfTrack.data.toList.drop 23 = dktX3_stepsOfTrack_1 := dk_seg dksX3_stepsOfTrack_0 23 rfl rfl
theorem dX3_stepsOfTrack_0 : decode cX3_stepsOfTrack 0 = .ok (.iconst 0, 1) := dk_3 (dk_at dksX3_stepsOfTrack_0 0 rfl rfl)
theorem dX3_stepsOfTrack_1 : decode cX3_stepsOfTrack 1 = .ok (.istore_n 1, 1) := dk_60 (dk_at dksX3_stepsOfTrack_0 1 rfl rfl)
theorem dX3_stepsOfTrack_2 : decode cX3_stepsOfTrack 2 = .ok (.iconst 1, 1) := dk_4 (dk_at dksX3_stepsOfTrack_0 2 rfl rfl)
theorem dX3_stepsOfTrack_3 : decode cX3_stepsOfTrack 3 = .ok (.istore_n 2, 1) := dk_61 (dk_at dksX3_stepsOfTrack_0 3 rfl rfl)
theorem dX3_stepsOfTrack_4 : decode cX3_stepsOfTrack 4 = .ok (.iload_n 2, 1) := dk_28 (dk_at dksX3_stepsOfTrack_0 4 rfl rfl)
theorem dX3_stepsOfTrack_5 : decode cX3_stepsOfTrack 5 = .ok (.aload_n 0, 1) := dk_42 (dk_at dksX3_stepsOfTrack_0 5 rfl rfl)
theorem dX3_stepsOfTrack_6 : decode cX3_stepsOfTrack 6 = .ok (.getfield 145, 3) := dk_180 0 145 (dk_at dksX3_stepsOfTrack_0 6 rfl rfl)
theorem dX3_stepsOfTrack_9 : decode cX3_stepsOfTrack 9 = .ok (.if_icmp .ge 30, 3) := dk_162 0 30 (dk_at dksX3_stepsOfTrack_0 9 rfl rfl)
theorem dX3_stepsOfTrack_12 : decode cX3_stepsOfTrack 12 = .ok (.iload_n 1, 1) := dk_27 (dk_at dksX3_stepsOfTrack_0 12 rfl rfl)
theorem dX3_stepsOfTrack_13 : decode cX3_stepsOfTrack 13 = .ok (.aload_n 0, 1) := dk_42 (dk_at dksX3_stepsOfTrack_0 13 rfl rfl)
theorem dX3_stepsOfTrack_14 : decode cX3_stepsOfTrack 14 = .ok (.aload_n 0, 1) := dk_42 (dk_at dksX3_stepsOfTrack_0 14 rfl rfl)
theorem dX3_stepsOfTrack_15 : decode cX3_stepsOfTrack 15 = .ok (.getfield 30, 3) := dk_180 0 30 (dk_at dksX3_stepsOfTrack_0 15 rfl rfl)
theorem dX3_stepsOfTrack_18 : decode cX3_stepsOfTrack 18 = .ok (.iload_n 2, 1) := dk_28 (dk_at dksX3_stepsOfTrack_0 18 rfl rfl)
theorem dX3_stepsOfTrack_19 : decode cX3_stepsOfTrack 19 = .ok (.iconst 1, 1) := dk_4 (dk_at dksX3_stepsOfTrack_0 19 rfl rfl)
theorem dX3_stepsOfTrack_20 : decode cX3_stepsOfTrack 20 = .ok (.isub, 1) := dk_100 (dk_at dksX3_stepsOfTrack_0 20 rfl rfl)
theorem dX3_stepsOfTrack_21 : decode cX3_stepsOfTrack 21 = .ok (.iaload, 1) := dk_46 (dk_at dksX3_stepsOfTrack_0 21 rfl rfl)
theorem dX3_stepsOfTrack_22 : decode cX3_stepsOfTrack 22 = .ok (.aload_n 0, 1) := dk_42 (dk_at dksX3_stepsOfTrack_0 22 rfl rfl)
theorem dX3_stepsOfTrack_23 : decode cX3_stepsOfTrack 23 = .ok (.getfield 30, 3) := dk_180 0 30 (dk_at dksX3_stepsOfTrack_1 0 rfl rfl)
theorem dX3_stepsOfTrack_26 : decode cX3_stepsOfTrack 26 = .ok (.iload_n 2, 1) := dk_28 (dk_at dksX3_stepsOfTrack_1 3 rfl rfl)
theorem dX3_stepsOfTrack_27 : decode cX3_stepsOfTrack 27 = .ok (.iaload, 1) := dk_46 (dk_at dksX3_stepsOfTrack_1 4 rfl rfl)
theorem dX3_stepsOfTrack_28 : decode cX3_stepsOfTrack 28 = .ok (.invokevirtual 104, 3) := dk_182 0 104 (dk_at dksX3_stepsOfTrack_1 5 rfl rfl)
theorem dX3_stepsOfTrack_31 : decode cX3_stepsOfTrack 31 = .ok (.iadd, 1) := dk_96 (dk_at dksX3_stepsOfTrack_1 8 rfl rfl)
theorem dX3_stepsOfTrack_32 : decode cX3_stepsOfTrack 32 = .ok (.istore_n 1, 1) := dk_60 (dk_at dksX3_stepsOfTrack_1 9 rfl rfl)
theorem dX3_stepsOfTrack_33 : decode cX3_stepsOfTrack 33 = .ok (.iinc 2 1, 3) := dk_132 2 1 (dk_at dksX3_stepsOfTrack_1 10 rfl rfl)
theorem dX3_stepsOfTrack_36 : decode cX3_stepsOfTrack 36 = .ok (.goto (-32), 3) := dk_167 255 224 (dk_at dksX3_stepsOfTrack_1 13 rfl rfl)
theorem dX3_stepsOfTrack_39 : decode cX3_stepsOfTrack 39 = .ok (.iload_n 1, 1) := dk_27 (dk_at dksX3_stepsOfTrack_1 16 rfl rfl)
theorem dX3_stepsOfTrack_40 : decode cX3_stepsOfTrack 40 = .ok (.ireturn, 1) := dk_172 (dk_at dksX3_stepsOfTrack_1 17 rfl rfl)
abbrev cX3_heaviest : ByteArray := prog_7_method_26_code
def yX3_heaviest : MethodName := ⟨RX3, "heaviest", "()I"⟩
def dkwX3_heaviest_2 : List UInt8 := [172]
abbrev dktX3_heaviest_2 : List UInt8 := dkwX3_heaviest_2 ++ []
def dkwX3_heaviest_1 : List UInt8 := [164, 0, 15, 42, 28, 182, 0, 160, 153, 0, 7, 29, 167, 0, 4, 27, 60, 132, 2, 1, 167, 255, 218, 27]
abbrev dktX3_heaviest_1 : List UInt8 := dkwX3_heaviest_1 ++ dktX3_heaviest_2
def dkwX3_heaviest_0 : List UInt8 := [3, 60, 3, 61, 28, 4, 42, 180, 0, 33, 120, 162, 0, 34, 42, 28, 182, 0, 157, 62, 29, 27]
abbrev dktX3_heaviest_0 : List UInt8 := dkwX3_heaviest_0 ++ dktX3_heaviest_1
theorem dksX3_heaviest_0 : cX3_heaviest.data.toList.drop 0 = dktX3_heaviest_0 := by decide +kernel
theorem dksX3_heaviest_1 : cX3_heaviest.data.toList.drop 22 = dktX3_heaviest_1 := dk_seg dksX3_heaviest_0 22 rfl rfl
theorem dksX3_heaviest_2 : cX3_heaviest.data.toList.drop 46 = dktX3_heaviest_2 := dk_seg dksX3_heaviest_1 24 rfl rfl
theorem dX3_heaviest_0 : decode cX3_heaviest 0 = .ok (.iconst 0, 1) := dk_3 (dk_at dksX3_heaviest_0 0 rfl rfl)
theorem dX3_heaviest_1 : decode cX3_heaviest 1 = .ok (.istore_n 1, 1) := dk_60 (dk_at dksX3_heaviest_0 1 rfl rfl)
theorem dX3_heaviest_2 : decode cX3_heaviest 2 = .ok (.iconst 0, 1) := dk_3 (dk_at dksX3_heaviest_0 2 rfl rfl)
theorem dX3_heaviest_3 : decode cX3_heaviest 3 = .ok (.istore_n 2, 1) := dk_61 (dk_at dksX3_heaviest_0 3 rfl rfl)
theorem dX3_heaviest_4 : decode cX3_heaviest 4 = .ok (.iload_n 2, 1) := dk_28 (dk_at dksX3_heaviest_0 4 rfl rfl)
theorem dX3_heaviest_5 : decode cX3_heaviest 5 = .ok (.iconst 1, 1) := dk_4 (dk_at dksX3_heaviest_0 5 rfl rfl)
theorem dX3_heaviest_6 : decode cX3_heaviest 6 = .ok (.aload_n 0, 1) := dk_42 (dk_at dksX3_heaviest_0 6 rfl rfl)
theorem dX3_heaviest_7 : decode cX3_heaviest 7 = .ok (.getfield 33, 3) := dk_180 0 33 (dk_at dksX3_heaviest_0 7 rfl rfl)
theorem dX3_heaviest_10 : decode cX3_heaviest 10 = .ok (.ishl, 1) := dk_120 (dk_at dksX3_heaviest_0 10 rfl rfl)
theorem dX3_heaviest_11 : decode cX3_heaviest 11 = .ok (.if_icmp .ge 34, 3) := dk_162 0 34 (dk_at dksX3_heaviest_0 11 rfl rfl)
theorem dX3_heaviest_14 : decode cX3_heaviest 14 = .ok (.aload_n 0, 1) := dk_42 (dk_at dksX3_heaviest_0 14 rfl rfl)
theorem dX3_heaviest_15 : decode cX3_heaviest 15 = .ok (.iload_n 2, 1) := dk_28 (dk_at dksX3_heaviest_0 15 rfl rfl)
theorem dX3_heaviest_16 : decode cX3_heaviest 16 = .ok (.invokevirtual 157, 3) := dk_182 0 157 (dk_at dksX3_heaviest_0 16 rfl rfl)
theorem dX3_heaviest_19 : decode cX3_heaviest 19 = .ok (.istore_n 3, 1) := dk_62 (dk_at dksX3_heaviest_0 19 rfl rfl)
theorem dX3_heaviest_20 : decode cX3_heaviest 20 = .ok (.iload_n 3, 1) := dk_29 (dk_at dksX3_heaviest_0 20 rfl rfl)
theorem dX3_heaviest_21 : decode cX3_heaviest 21 = .ok (.iload_n 1, 1) := dk_27 (dk_at dksX3_heaviest_0 21 rfl rfl)
theorem dX3_heaviest_22 : decode cX3_heaviest 22 = .ok (.if_icmp .le 15, 3) := dk_164 0 15 (dk_at dksX3_heaviest_1 0 rfl rfl)
theorem dX3_heaviest_25 : decode cX3_heaviest 25 = .ok (.aload_n 0, 1) := dk_42 (dk_at dksX3_heaviest_1 3 rfl rfl)
theorem dX3_heaviest_26 : decode cX3_heaviest 26 = .ok (.iload_n 2, 1) := dk_28 (dk_at dksX3_heaviest_1 4 rfl rfl)
theorem dX3_heaviest_27 : decode cX3_heaviest 27 = .ok (.invokevirtual 160, 3) := dk_182 0 160 (dk_at dksX3_heaviest_1 5 rfl rfl)
theorem dX3_heaviest_30 : decode cX3_heaviest 30 = .ok (.ifCond .eq 7, 3) := dk_153 0 7 (dk_at dksX3_heaviest_1 8 rfl rfl)
theorem dX3_heaviest_33 : decode cX3_heaviest 33 = .ok (.iload_n 3, 1) := dk_29 (dk_at dksX3_heaviest_1 11 rfl rfl)
theorem dX3_heaviest_34 : decode cX3_heaviest 34 = .ok (.goto 4, 3) := dk_167 0 4 (dk_at dksX3_heaviest_1 12 rfl rfl)
theorem dX3_heaviest_37 : decode cX3_heaviest 37 = .ok (.iload_n 1, 1) := dk_27 (dk_at dksX3_heaviest_1 15 rfl rfl)
theorem dX3_heaviest_38 : decode cX3_heaviest 38 = .ok (.istore_n 1, 1) := dk_60 (dk_at dksX3_heaviest_1 16 rfl rfl)
theorem dX3_heaviest_39 : decode cX3_heaviest 39 = .ok (.iinc 2 1, 3) := dk_132 2 1 (dk_at dksX3_heaviest_1 17 rfl rfl)
theorem dX3_heaviest_42 : decode cX3_heaviest 42 = .ok (.goto (-38), 3) := dk_167 255 218 (dk_at dksX3_heaviest_1 20 rfl rfl)
theorem dX3_heaviest_45 : decode cX3_heaviest 45 = .ok (.iload_n 1, 1) := dk_27 (dk_at dksX3_heaviest_1 23 rfl rfl)
theorem dX3_heaviest_46 : decode cX3_heaviest 46 = .ok (.ireturn, 1) := dk_172 (dk_at dksX3_heaviest_2 0 rfl rfl)
abbrev cX3_weightOf : ByteArray := prog_7_method_25_code
def yX3_weightOf : MethodName := ⟨RX3, "weightOf", "(I)I"⟩
def dkwX3_weightOf_1 : List UInt8 := [182, 0, 144, 167, 0, 4, 3, 96, 61, 132, 3, 1, 167, 255, 224, 28, 172]
abbrev dktX3_weightOf_1 : List UInt8 := dkwX3_weightOf_1 ++ []
def dkwX3_weightOf_0 : List UInt8 := [3, 61, 3, 62, 29, 42, 180, 0, 33, 162, 0, 30, 28, 27, 29, 122, 4, 126, 4, 160, 0, 11, 42, 29]
abbrev dktX3_weightOf_0 : List UInt8 := dkwX3_weightOf_0 ++ dktX3_weightOf_1
theorem dksX3_weightOf_0 : cX3_weightOf.data.toList.drop 0 = dktX3_weightOf_0 := by decide +kernel
theorem dksX3_weightOf_1 : cX3_weightOf.data.toList.drop 24 = dktX3_weightOf_1 := dk_seg dksX3_weightOf_0 24 rfl rfl
theorem dX3_weightOf_0 : decode cX3_weightOf 0 = .ok (.iconst 0, 1) := dk_3 (dk_at dksX3_weightOf_0 0 rfl rfl)
theorem dX3_weightOf_1 : decode cX3_weightOf 1 = .ok (.istore_n 2, 1) := dk_61 (dk_at dksX3_weightOf_0 1 rfl rfl)
theorem dX3_weightOf_2 : decode cX3_weightOf 2 = .ok (.iconst 0, 1) := dk_3 (dk_at dksX3_weightOf_0 2 rfl rfl)
theorem dX3_weightOf_3 : decode cX3_weightOf 3 = .ok (.istore_n 3, 1) := dk_62 (dk_at dksX3_weightOf_0 3 rfl rfl)
theorem dX3_weightOf_4 : decode cX3_weightOf 4 = .ok (.iload_n 3, 1) := dk_29 (dk_at dksX3_weightOf_0 4 rfl rfl)
theorem dX3_weightOf_5 : decode cX3_weightOf 5 = .ok (.aload_n 0, 1) := dk_42 (dk_at dksX3_weightOf_0 5 rfl rfl)
theorem dX3_weightOf_6 : decode cX3_weightOf 6 = .ok (.getfield 33, 3) := dk_180 0 33 (dk_at dksX3_weightOf_0 6 rfl rfl)
theorem dX3_weightOf_9 : decode cX3_weightOf 9 = .ok (.if_icmp .ge 30, 3) := dk_162 0 30 (dk_at dksX3_weightOf_0 9 rfl rfl)
theorem dX3_weightOf_12 : decode cX3_weightOf 12 = .ok (.iload_n 2, 1) := dk_28 (dk_at dksX3_weightOf_0 12 rfl rfl)
theorem dX3_weightOf_13 : decode cX3_weightOf 13 = .ok (.iload_n 1, 1) := dk_27 (dk_at dksX3_weightOf_0 13 rfl rfl)
theorem dX3_weightOf_14 : decode cX3_weightOf 14 = .ok (.iload_n 3, 1) := dk_29 (dk_at dksX3_weightOf_0 14 rfl rfl)
theorem dX3_weightOf_15 : decode cX3_weightOf 15 = .ok (.ishr, 1) := dk_122 (dk_at dksX3_weightOf_0 15 rfl rfl)
theorem dX3_weightOf_16 : decode cX3_weightOf 16 = .ok (.iconst 1, 1) := dk_4 (dk_at dksX3_weightOf_0 16 rfl rfl)
theorem dX3_weightOf_17 : decode cX3_weightOf 17 = .ok (.iand, 1) := dk_126 (dk_at dksX3_weightOf_0 17 rfl rfl)
theorem dX3_weightOf_18 : decode cX3_weightOf 18 = .ok (.iconst 1, 1) := dk_4 (dk_at dksX3_weightOf_0 18 rfl rfl)
theorem dX3_weightOf_19 : decode cX3_weightOf 19 = .ok (.if_icmp .ne 11, 3) := dk_160 0 11 (dk_at dksX3_weightOf_0 19 rfl rfl)
theorem dX3_weightOf_22 : decode cX3_weightOf 22 = .ok (.aload_n 0, 1) := dk_42 (dk_at dksX3_weightOf_0 22 rfl rfl)
theorem dX3_weightOf_23 : decode cX3_weightOf 23 = .ok (.iload_n 3, 1) := dk_29 (dk_at dksX3_weightOf_0 23 rfl rfl)
theorem dX3_weightOf_24 : decode cX3_weightOf 24 = .ok (.invokevirtual 144, 3) := dk_182 0 144 (dk_at dksX3_weightOf_1 0 rfl rfl)
theorem dX3_weightOf_27 : decode cX3_weightOf 27 = .ok (.goto 4, 3) := dk_167 0 4 (dk_at dksX3_weightOf_1 3 rfl rfl)
theorem dX3_weightOf_30 : decode cX3_weightOf 30 = .ok (.iconst 0, 1) := dk_3 (dk_at dksX3_weightOf_1 6 rfl rfl)
theorem dX3_weightOf_31 : decode cX3_weightOf 31 = .ok (.iadd, 1) := dk_96 (dk_at dksX3_weightOf_1 7 rfl rfl)
theorem dX3_weightOf_32 : decode cX3_weightOf 32 = .ok (.istore_n 2, 1) := dk_61 (dk_at dksX3_weightOf_1 8 rfl rfl)
theorem dX3_weightOf_33 : decode cX3_weightOf 33 = .ok (.iinc 3 1, 3) := dk_132 3 1 (dk_at dksX3_weightOf_1 9 rfl rfl)
theorem dX3_weightOf_36 : decode cX3_weightOf 36 = .ok (.goto (-32), 3) := dk_167 255 224 (dk_at dksX3_weightOf_1 12 rfl rfl)
theorem dX3_weightOf_39 : decode cX3_weightOf 39 = .ok (.iload_n 2, 1) := dk_28 (dk_at dksX3_weightOf_1 15 rfl rfl)
theorem dX3_weightOf_40 : decode cX3_weightOf 40 = .ok (.ireturn, 1) := dk_172 (dk_at dksX3_weightOf_1 16 rfl rfl)
abbrev cX3_isTrack : ByteArray := prog_7_method_24_code
def yX3_isTrack : MethodName := ⟨RX3, "isTrack", "(I)Z"⟩
def dkwX3_isTrack_3 : List UInt8 := [132, 3, 1, 167, 255, 216, 132, 2, 1, 167, 255, 179, 4, 172]
abbrev dktX3_isTrack_3 : List UInt8 := dkwX3_isTrack_3 ++ []
def dkwX3_isTrack_2 : List UInt8 := [160, 0, 29, 27, 29, 122, 4, 126, 4, 160, 0, 14, 42, 28, 29, 182, 0, 122, 154, 0, 5, 3, 172]
abbrev dktX3_isTrack_2 : List UInt8 := dkwX3_isTrack_2 ++ dktX3_isTrack_3
def dkwX3_isTrack_1 : List UInt8 := [154, 0, 5, 3, 172, 28, 4, 96, 62, 29, 42, 180, 0, 33, 162, 0, 38, 27, 28, 122, 4, 126, 4]
abbrev dktX3_isTrack_1 : List UInt8 := dkwX3_isTrack_1 ++ dktX3_isTrack_2
def dkwX3_isTrack_0 : List UInt8 := [3, 61, 28, 42, 180, 0, 33, 162, 0, 75, 27, 28, 122, 4, 126, 4, 160, 0, 13, 42, 28, 182, 0, 138]
abbrev dktX3_isTrack_0 : List UInt8 := dkwX3_isTrack_0 ++ dktX3_isTrack_1
theorem dksX3_isTrack_0 : cX3_isTrack.data.toList.drop 0 = dktX3_isTrack_0 := by decide +kernel
theorem dksX3_isTrack_1 : cX3_isTrack.data.toList.drop 24 = dktX3_isTrack_1 := dk_seg dksX3_isTrack_0 24 rfl rfl
theorem dksX3_isTrack_2 : cX3_isTrack.data.toList.drop 47 = dktX3_isTrack_2 := dk_seg dksX3_isTrack_1 23 rfl rfl
theorem dksX3_isTrack_3 : cX3_isTrack.data.toList.drop 70 = dktX3_isTrack_3 := dk_seg dksX3_isTrack_2 23 rfl rfl
theorem dX3_isTrack_0 : decode cX3_isTrack 0 = .ok (.iconst 0, 1) := dk_3 (dk_at dksX3_isTrack_0 0 rfl rfl)
theorem dX3_isTrack_1 : decode cX3_isTrack 1 = .ok (.istore_n 2, 1) := dk_61 (dk_at dksX3_isTrack_0 1 rfl rfl)
theorem dX3_isTrack_2 : decode cX3_isTrack 2 = .ok (.iload_n 2, 1) := dk_28 (dk_at dksX3_isTrack_0 2 rfl rfl)
theorem dX3_isTrack_3 : decode cX3_isTrack 3 = .ok (.aload_n 0, 1) := dk_42 (dk_at dksX3_isTrack_0 3 rfl rfl)
theorem dX3_isTrack_4 : decode cX3_isTrack 4 = .ok (.getfield 33, 3) := dk_180 0 33 (dk_at dksX3_isTrack_0 4 rfl rfl)
theorem dX3_isTrack_7 : decode cX3_isTrack 7 = .ok (.if_icmp .ge 75, 3) := dk_162 0 75 (dk_at dksX3_isTrack_0 7 rfl rfl)
theorem dX3_isTrack_10 : decode cX3_isTrack 10 = .ok (.iload_n 1, 1) := dk_27 (dk_at dksX3_isTrack_0 10 rfl rfl)
theorem dX3_isTrack_11 : decode cX3_isTrack 11 = .ok (.iload_n 2, 1) := dk_28 (dk_at dksX3_isTrack_0 11 rfl rfl)
theorem dX3_isTrack_12 : decode cX3_isTrack 12 = .ok (.ishr, 1) := dk_122 (dk_at dksX3_isTrack_0 12 rfl rfl)
theorem dX3_isTrack_13 : decode cX3_isTrack 13 = .ok (.iconst 1, 1) := dk_4 (dk_at dksX3_isTrack_0 13 rfl rfl)
theorem dX3_isTrack_14 : decode cX3_isTrack 14 = .ok (.iand, 1) := dk_126 (dk_at dksX3_isTrack_0 14 rfl rfl)
theorem dX3_isTrack_15 : decode cX3_isTrack 15 = .ok (.iconst 1, 1) := dk_4 (dk_at dksX3_isTrack_0 15 rfl rfl)
theorem dX3_isTrack_16 : decode cX3_isTrack 16 = .ok (.if_icmp .ne 13, 3) := dk_160 0 13 (dk_at dksX3_isTrack_0 16 rfl rfl)
theorem dX3_isTrack_19 : decode cX3_isTrack 19 = .ok (.aload_n 0, 1) := dk_42 (dk_at dksX3_isTrack_0 19 rfl rfl)
theorem dX3_isTrack_20 : decode cX3_isTrack 20 = .ok (.iload_n 2, 1) := dk_28 (dk_at dksX3_isTrack_0 20 rfl rfl)
theorem dX3_isTrack_21 : decode cX3_isTrack 21 = .ok (.invokevirtual 138, 3) := dk_182 0 138 (dk_at dksX3_isTrack_0 21 rfl rfl)
theorem dX3_isTrack_24 : decode cX3_isTrack 24 = .ok (.ifCond .ne 5, 3) := dk_154 0 5 (dk_at dksX3_isTrack_1 0 rfl rfl)
theorem dX3_isTrack_27 : decode cX3_isTrack 27 = .ok (.iconst 0, 1) := dk_3 (dk_at dksX3_isTrack_1 3 rfl rfl)
theorem dX3_isTrack_28 : decode cX3_isTrack 28 = .ok (.ireturn, 1) := dk_172 (dk_at dksX3_isTrack_1 4 rfl rfl)
theorem dX3_isTrack_29 : decode cX3_isTrack 29 = .ok (.iload_n 2, 1) := dk_28 (dk_at dksX3_isTrack_1 5 rfl rfl)
theorem dX3_isTrack_30 : decode cX3_isTrack 30 = .ok (.iconst 1, 1) := dk_4 (dk_at dksX3_isTrack_1 6 rfl rfl)
theorem dX3_isTrack_31 : decode cX3_isTrack 31 = .ok (.iadd, 1) := dk_96 (dk_at dksX3_isTrack_1 7 rfl rfl)
theorem dX3_isTrack_32 : decode cX3_isTrack 32 = .ok (.istore_n 3, 1) := dk_62 (dk_at dksX3_isTrack_1 8 rfl rfl)
theorem dX3_isTrack_33 : decode cX3_isTrack 33 = .ok (.iload_n 3, 1) := dk_29 (dk_at dksX3_isTrack_1 9 rfl rfl)
theorem dX3_isTrack_34 : decode cX3_isTrack 34 = .ok (.aload_n 0, 1) := dk_42 (dk_at dksX3_isTrack_1 10 rfl rfl)
theorem dX3_isTrack_35 : decode cX3_isTrack 35 = .ok (.getfield 33, 3) := dk_180 0 33 (dk_at dksX3_isTrack_1 11 rfl rfl)
theorem dX3_isTrack_38 : decode cX3_isTrack 38 = .ok (.if_icmp .ge 38, 3) := dk_162 0 38 (dk_at dksX3_isTrack_1 14 rfl rfl)
theorem dX3_isTrack_41 : decode cX3_isTrack 41 = .ok (.iload_n 1, 1) := dk_27 (dk_at dksX3_isTrack_1 17 rfl rfl)
theorem dX3_isTrack_42 : decode cX3_isTrack 42 = .ok (.iload_n 2, 1) := dk_28 (dk_at dksX3_isTrack_1 18 rfl rfl)
theorem dX3_isTrack_43 : decode cX3_isTrack 43 = .ok (.ishr, 1) := dk_122 (dk_at dksX3_isTrack_1 19 rfl rfl)
theorem dX3_isTrack_44 : decode cX3_isTrack 44 = .ok (.iconst 1, 1) := dk_4 (dk_at dksX3_isTrack_1 20 rfl rfl)
theorem dX3_isTrack_45 : decode cX3_isTrack 45 = .ok (.iand, 1) := dk_126 (dk_at dksX3_isTrack_1 21 rfl rfl)
theorem dX3_isTrack_46 : decode cX3_isTrack 46 = .ok (.iconst 1, 1) := dk_4 (dk_at dksX3_isTrack_1 22 rfl rfl)
theorem dX3_isTrack_47 : decode cX3_isTrack 47 = .ok (.if_icmp .ne 29, 3) := dk_160 0 29 (dk_at dksX3_isTrack_2 0 rfl rfl)
theorem dX3_isTrack_50 : decode cX3_isTrack 50 = .ok (.iload_n 1, 1) := dk_27 (dk_at dksX3_isTrack_2 3 rfl rfl)
theorem dX3_isTrack_51 : decode cX3_isTrack 51 = .ok (.iload_n 3, 1) := dk_29 (dk_at dksX3_isTrack_2 4 rfl rfl)
theorem dX3_isTrack_52 : decode cX3_isTrack 52 = .ok (.ishr, 1) := dk_122 (dk_at dksX3_isTrack_2 5 rfl rfl)
theorem dX3_isTrack_53 : decode cX3_isTrack 53 = .ok (.iconst 1, 1) := dk_4 (dk_at dksX3_isTrack_2 6 rfl rfl)
theorem dX3_isTrack_54 : decode cX3_isTrack 54 = .ok (.iand, 1) := dk_126 (dk_at dksX3_isTrack_2 7 rfl rfl)
theorem dX3_isTrack_55 : decode cX3_isTrack 55 = .ok (.iconst 1, 1) := dk_4 (dk_at dksX3_isTrack_2 8 rfl rfl)
theorem dX3_isTrack_56 : decode cX3_isTrack 56 = .ok (.if_icmp .ne 14, 3) := dk_160 0 14 (dk_at dksX3_isTrack_2 9 rfl rfl)
theorem dX3_isTrack_59 : decode cX3_isTrack 59 = .ok (.aload_n 0, 1) := dk_42 (dk_at dksX3_isTrack_2 12 rfl rfl)
theorem dX3_isTrack_60 : decode cX3_isTrack 60 = .ok (.iload_n 2, 1) := dk_28 (dk_at dksX3_isTrack_2 13 rfl rfl)
theorem dX3_isTrack_61 : decode cX3_isTrack 61 = .ok (.iload_n 3, 1) := dk_29 (dk_at dksX3_isTrack_2 14 rfl rfl)
theorem dX3_isTrack_62 : decode cX3_isTrack 62 = .ok (.invokevirtual 122, 3) := dk_182 0 122 (dk_at dksX3_isTrack_2 15 rfl rfl)
theorem dX3_isTrack_65 : decode cX3_isTrack 65 = .ok (.ifCond .ne 5, 3) := dk_154 0 5 (dk_at dksX3_isTrack_2 18 rfl rfl)
theorem dX3_isTrack_68 : decode cX3_isTrack 68 = .ok (.iconst 0, 1) := dk_3 (dk_at dksX3_isTrack_2 21 rfl rfl)
theorem dX3_isTrack_69 : decode cX3_isTrack 69 = .ok (.ireturn, 1) := dk_172 (dk_at dksX3_isTrack_2 22 rfl rfl)
theorem dX3_isTrack_70 : decode cX3_isTrack 70 = .ok (.iinc 3 1, 3) := dk_132 3 1 (dk_at dksX3_isTrack_3 0 rfl rfl)
theorem dX3_isTrack_73 : decode cX3_isTrack 73 = .ok (.goto (-40), 3) := dk_167 255 216 (dk_at dksX3_isTrack_3 3 rfl rfl)
theorem dX3_isTrack_76 : decode cX3_isTrack 76 = .ok (.iinc 2 1, 3) := dk_132 2 1 (dk_at dksX3_isTrack_3 6 rfl rfl)
theorem dX3_isTrack_79 : decode cX3_isTrack 79 = .ok (.goto (-77), 3) := dk_167 255 179 (dk_at dksX3_isTrack_3 9 rfl rfl)
theorem dX3_isTrack_82 : decode cX3_isTrack 82 = .ok (.iconst 1, 1) := dk_4 (dk_at dksX3_isTrack_3 12 rfl rfl)
theorem dX3_isTrack_83 : decode cX3_isTrack 83 = .ok (.ireturn, 1) := dk_172 (dk_at dksX3_isTrack_3 13 rfl rfl)
abbrev cX3_could : ByteArray := prog_7_method_22_code
def yX3_could : MethodName := ⟨RX3, "could", "(II)Z"⟩
def dkwX3_could_2 : List UInt8 := [3, 172]
abbrev dktX3_could_2 : List UInt8 := dkwX3_could_2 ++ []
def dkwX3_could_1 : List UInt8 := [182, 0, 151, 153, 0, 21, 42, 42, 27, 182, 0, 154, 27, 28, 182, 0, 151, 153, 0, 7, 4, 167, 0, 4]
abbrev dktX3_could_1 : List UInt8 := dkwX3_could_1 ++ dktX3_could_2
def dkwX3_could_0 : List UInt8 := [42, 180, 0, 40, 180, 0, 87, 28, 182, 0, 117, 154, 0, 35, 42, 42, 27, 182, 0, 148, 27, 28]
abbrev dktX3_could_0 : List UInt8 := dkwX3_could_0 ++ dktX3_could_1
theorem dksX3_could_0 : cX3_could.data.toList.drop 0 = dktX3_could_0 := by decide +kernel
theorem dksX3_could_1 : cX3_could.data.toList.drop 22 = dktX3_could_1 := dk_seg dksX3_could_0 22 rfl rfl
theorem dksX3_could_2 : cX3_could.data.toList.drop 46 = dktX3_could_2 := dk_seg dksX3_could_1 24 rfl rfl
theorem dX3_could_0 : decode cX3_could 0 = .ok (.aload_n 0, 1) := dk_42 (dk_at dksX3_could_0 0 rfl rfl)
theorem dX3_could_1 : decode cX3_could 1 = .ok (.getfield 40, 3) := dk_180 0 40 (dk_at dksX3_could_0 1 rfl rfl)
theorem dX3_could_4 : decode cX3_could 4 = .ok (.getfield 87, 3) := dk_180 0 87 (dk_at dksX3_could_0 4 rfl rfl)
theorem dX3_could_7 : decode cX3_could 7 = .ok (.iload_n 2, 1) := dk_28 (dk_at dksX3_could_0 7 rfl rfl)
theorem dX3_could_8 : decode cX3_could 8 = .ok (.invokevirtual 117, 3) := dk_182 0 117 (dk_at dksX3_could_0 8 rfl rfl)
theorem dX3_could_11 : decode cX3_could 11 = .ok (.ifCond .ne 35, 3) := dk_154 0 35 (dk_at dksX3_could_0 11 rfl rfl)
theorem dX3_could_14 : decode cX3_could 14 = .ok (.aload_n 0, 1) := dk_42 (dk_at dksX3_could_0 14 rfl rfl)
theorem dX3_could_15 : decode cX3_could 15 = .ok (.aload_n 0, 1) := dk_42 (dk_at dksX3_could_0 15 rfl rfl)
theorem dX3_could_16 : decode cX3_could 16 = .ok (.iload_n 1, 1) := dk_27 (dk_at dksX3_could_0 16 rfl rfl)
theorem dX3_could_17 : decode cX3_could 17 = .ok (.invokevirtual 148, 3) := dk_182 0 148 (dk_at dksX3_could_0 17 rfl rfl)
theorem dX3_could_20 : decode cX3_could 20 = .ok (.iload_n 1, 1) := dk_27 (dk_at dksX3_could_0 20 rfl rfl)
theorem dX3_could_21 : decode cX3_could 21 = .ok (.iload_n 2, 1) := dk_28 (dk_at dksX3_could_0 21 rfl rfl)
theorem dX3_could_22 : decode cX3_could 22 = .ok (.invokevirtual 151, 3) := dk_182 0 151 (dk_at dksX3_could_1 0 rfl rfl)
theorem dX3_could_25 : decode cX3_could 25 = .ok (.ifCond .eq 21, 3) := dk_153 0 21 (dk_at dksX3_could_1 3 rfl rfl)
theorem dX3_could_28 : decode cX3_could 28 = .ok (.aload_n 0, 1) := dk_42 (dk_at dksX3_could_1 6 rfl rfl)
theorem dX3_could_29 : decode cX3_could 29 = .ok (.aload_n 0, 1) := dk_42 (dk_at dksX3_could_1 7 rfl rfl)
theorem dX3_could_30 : decode cX3_could 30 = .ok (.iload_n 1, 1) := dk_27 (dk_at dksX3_could_1 8 rfl rfl)
theorem dX3_could_31 : decode cX3_could 31 = .ok (.invokevirtual 154, 3) := dk_182 0 154 (dk_at dksX3_could_1 9 rfl rfl)
theorem dX3_could_34 : decode cX3_could 34 = .ok (.iload_n 1, 1) := dk_27 (dk_at dksX3_could_1 12 rfl rfl)
theorem dX3_could_35 : decode cX3_could 35 = .ok (.iload_n 2, 1) := dk_28 (dk_at dksX3_could_1 13 rfl rfl)
theorem dX3_could_36 : decode cX3_could 36 = .ok (.invokevirtual 151, 3) := dk_182 0 151 (dk_at dksX3_could_1 14 rfl rfl)
theorem dX3_could_39 : decode cX3_could 39 = .ok (.ifCond .eq 7, 3) := dk_153 0 7 (dk_at dksX3_could_1 17 rfl rfl)
theorem dX3_could_42 : decode cX3_could 42 = .ok (.iconst 1, 1) := dk_4 (dk_at dksX3_could_1 20 rfl rfl)
theorem dX3_could_43 : decode cX3_could 43 = .ok (.goto 4, 3) := dk_167 0 4 (dk_at dksX3_could_1 21 rfl rfl)
theorem dX3_could_46 : decode cX3_could 46 = .ok (.iconst 0, 1) := dk_3 (dk_at dksX3_could_2 0 rfl rfl)
theorem dX3_could_47 : decode cX3_could 47 = .ok (.ireturn, 1) := dk_172 (dk_at dksX3_could_2 1 rfl rfl)
abbrev cX3_before : ByteArray := prog_7_method_19_code
def yX3_before : MethodName := ⟨RX3, "before", "(I)I"⟩
def dkwX3_before_2 : List UInt8 := [28, 172]
abbrev dktX3_before_2 : List UInt8 := dkwX3_before_2 ++ []
def dkwX3_before_1 : List UInt8 := [180, 0, 37, 27, 163, 0, 12, 42, 180, 0, 30, 29, 46, 167, 0, 4, 28, 61, 132, 3, 1, 167, 255, 216]
abbrev dktX3_before_1 : List UInt8 := dkwX3_before_1 ++ dktX3_before_2
def dkwX3_before_0 : List UInt8 := [2, 61, 3, 62, 29, 42, 180, 0, 145, 162, 0, 38, 42, 180, 0, 11, 42, 180, 0, 30, 29, 46, 50]
abbrev dktX3_before_0 : List UInt8 := dkwX3_before_0 ++ dktX3_before_1
theorem dksX3_before_0 : cX3_before.data.toList.drop 0 = dktX3_before_0 := by decide +kernel
theorem dksX3_before_1 : cX3_before.data.toList.drop 23 = dktX3_before_1 := dk_seg dksX3_before_0 23 rfl rfl
theorem dksX3_before_2 : cX3_before.data.toList.drop 47 = dktX3_before_2 := dk_seg dksX3_before_1 24 rfl rfl
theorem dX3_before_0 : decode cX3_before 0 = .ok (.iconst (-1), 1) := dk_2 (dk_at dksX3_before_0 0 rfl rfl)
theorem dX3_before_1 : decode cX3_before 1 = .ok (.istore_n 2, 1) := dk_61 (dk_at dksX3_before_0 1 rfl rfl)
theorem dX3_before_2 : decode cX3_before 2 = .ok (.iconst 0, 1) := dk_3 (dk_at dksX3_before_0 2 rfl rfl)
theorem dX3_before_3 : decode cX3_before 3 = .ok (.istore_n 3, 1) := dk_62 (dk_at dksX3_before_0 3 rfl rfl)
theorem dX3_before_4 : decode cX3_before 4 = .ok (.iload_n 3, 1) := dk_29 (dk_at dksX3_before_0 4 rfl rfl)
theorem dX3_before_5 : decode cX3_before 5 = .ok (.aload_n 0, 1) := dk_42 (dk_at dksX3_before_0 5 rfl rfl)
theorem dX3_before_6 : decode cX3_before 6 = .ok (.getfield 145, 3) := dk_180 0 145 (dk_at dksX3_before_0 6 rfl rfl)
theorem dX3_before_9 : decode cX3_before 9 = .ok (.if_icmp .ge 38, 3) := dk_162 0 38 (dk_at dksX3_before_0 9 rfl rfl)
theorem dX3_before_12 : decode cX3_before 12 = .ok (.aload_n 0, 1) := dk_42 (dk_at dksX3_before_0 12 rfl rfl)
theorem dX3_before_13 : decode cX3_before 13 = .ok (.getfield 11, 3) := dk_180 0 11 (dk_at dksX3_before_0 13 rfl rfl)
theorem dX3_before_16 : decode cX3_before 16 = .ok (.aload_n 0, 1) := dk_42 (dk_at dksX3_before_0 16 rfl rfl)
theorem dX3_before_17 : decode cX3_before 17 = .ok (.getfield 30, 3) := dk_180 0 30 (dk_at dksX3_before_0 17 rfl rfl)
theorem dX3_before_20 : decode cX3_before 20 = .ok (.iload_n 3, 1) := dk_29 (dk_at dksX3_before_0 20 rfl rfl)
theorem dX3_before_21 : decode cX3_before 21 = .ok (.iaload, 1) := dk_46 (dk_at dksX3_before_0 21 rfl rfl)
theorem dX3_before_22 : decode cX3_before 22 = .ok (.aaload, 1) := dk_50 (dk_at dksX3_before_0 22 rfl rfl)
theorem dX3_before_23 : decode cX3_before 23 = .ok (.getfield 37, 3) := dk_180 0 37 (dk_at dksX3_before_1 0 rfl rfl)
theorem dX3_before_26 : decode cX3_before 26 = .ok (.iload_n 1, 1) := dk_27 (dk_at dksX3_before_1 3 rfl rfl)
theorem dX3_before_27 : decode cX3_before 27 = .ok (.if_icmp .gt 12, 3) := dk_163 0 12 (dk_at dksX3_before_1 4 rfl rfl)
theorem dX3_before_30 : decode cX3_before 30 = .ok (.aload_n 0, 1) := dk_42 (dk_at dksX3_before_1 7 rfl rfl)
theorem dX3_before_31 : decode cX3_before 31 = .ok (.getfield 30, 3) := dk_180 0 30 (dk_at dksX3_before_1 8 rfl rfl)
theorem dX3_before_34 : decode cX3_before 34 = .ok (.iload_n 3, 1) := dk_29 (dk_at dksX3_before_1 11 rfl rfl)
theorem dX3_before_35 : decode cX3_before 35 = .ok (.iaload, 1) := dk_46 (dk_at dksX3_before_1 12 rfl rfl)
theorem dX3_before_36 : decode cX3_before 36 = .ok (.goto 4, 3) := dk_167 0 4 (dk_at dksX3_before_1 13 rfl rfl)
theorem dX3_before_39 : decode cX3_before 39 = .ok (.iload_n 2, 1) := dk_28 (dk_at dksX3_before_1 16 rfl rfl)
theorem dX3_before_40 : decode cX3_before 40 = .ok (.istore_n 2, 1) := dk_61 (dk_at dksX3_before_1 17 rfl rfl)
theorem dX3_before_41 : decode cX3_before 41 = .ok (.iinc 3 1, 3) := dk_132 3 1 (dk_at dksX3_before_1 18 rfl rfl)
theorem dX3_before_44 : decode cX3_before 44 = .ok (.goto (-40), 3) := dk_167 255 216 (dk_at dksX3_before_1 21 rfl rfl)
theorem dX3_before_47 : decode cX3_before 47 = .ok (.iload_n 2, 1) := dk_28 (dk_at dksX3_before_2 0 rfl rfl)
theorem dX3_before_48 : decode cX3_before 48 = .ok (.ireturn, 1) := dk_172 (dk_at dksX3_before_2 1 rfl rfl)
abbrev cX3_isNear : ByteArray := prog_7_method_21_code
def yX3_isNear : MethodName := ⟨RX3, "isNear", "(III)Z"⟩
def dkwX3_isNear_1 : List UInt8 := [42, 180, 0, 11, 27, 50, 180, 0, 37, 28, 100, 184, 0, 111, 104, 163, 0, 7, 4, 167, 0, 4, 3, 172]
abbrev dktX3_isNear_1 : List UInt8 := dkwX3_isNear_1 ++ []
def dkwX3_isNear_0 : List UInt8 := [27, 2, 159, 0, 40, 42, 180, 0, 24, 17, 0, 192, 27, 104, 29, 96, 46, 42, 180, 0, 40, 180, 0, 108]
abbrev dktX3_isNear_0 : List UInt8 := dkwX3_isNear_0 ++ dktX3_isNear_1
theorem dksX3_isNear_0 : cX3_isNear.data.toList.drop 0 = dktX3_isNear_0 := by decide +kernel
theorem dksX3_isNear_1 : cX3_isNear.data.toList.drop 24 = dktX3_isNear_1 := dk_seg dksX3_isNear_0 24 rfl rfl
theorem dX3_isNear_0 : decode cX3_isNear 0 = .ok (.iload_n 1, 1) := dk_27 (dk_at dksX3_isNear_0 0 rfl rfl)
theorem dX3_isNear_1 : decode cX3_isNear 1 = .ok (.iconst (-1), 1) := dk_2 (dk_at dksX3_isNear_0 1 rfl rfl)
theorem dX3_isNear_2 : decode cX3_isNear 2 = .ok (.if_icmp .eq 40, 3) := dk_159 0 40 (dk_at dksX3_isNear_0 2 rfl rfl)
theorem dX3_isNear_5 : decode cX3_isNear 5 = .ok (.aload_n 0, 1) := dk_42 (dk_at dksX3_isNear_0 5 rfl rfl)
theorem dX3_isNear_6 : decode cX3_isNear 6 = .ok (.getfield 24, 3) := dk_180 0 24 (dk_at dksX3_isNear_0 6 rfl rfl)
theorem dX3_isNear_9 : decode cX3_isNear 9 = .ok (.sipush 192, 3) := dk_17 0 192 (dk_at dksX3_isNear_0 9 rfl rfl)
theorem dX3_isNear_12 : decode cX3_isNear 12 = .ok (.iload_n 1, 1) := dk_27 (dk_at dksX3_isNear_0 12 rfl rfl)
theorem dX3_isNear_13 : decode cX3_isNear 13 = .ok (.imul, 1) := dk_104 (dk_at dksX3_isNear_0 13 rfl rfl)
theorem dX3_isNear_14 : decode cX3_isNear 14 = .ok (.iload_n 3, 1) := dk_29 (dk_at dksX3_isNear_0 14 rfl rfl)
theorem dX3_isNear_15 : decode cX3_isNear 15 = .ok (.iadd, 1) := dk_96 (dk_at dksX3_isNear_0 15 rfl rfl)
theorem dX3_isNear_16 : decode cX3_isNear 16 = .ok (.iaload, 1) := dk_46 (dk_at dksX3_isNear_0 16 rfl rfl)
theorem dX3_isNear_17 : decode cX3_isNear 17 = .ok (.aload_n 0, 1) := dk_42 (dk_at dksX3_isNear_0 17 rfl rfl)
theorem dX3_isNear_18 : decode cX3_isNear 18 = .ok (.getfield 40, 3) := dk_180 0 40 (dk_at dksX3_isNear_0 18 rfl rfl)
theorem dX3_isNear_21 : decode cX3_isNear 21 = .ok (.getfield 108, 3) := dk_180 0 108 (dk_at dksX3_isNear_0 21 rfl rfl)
theorem dX3_isNear_24 : decode cX3_isNear 24 = .ok (.aload_n 0, 1) := dk_42 (dk_at dksX3_isNear_1 0 rfl rfl)
theorem dX3_isNear_25 : decode cX3_isNear 25 = .ok (.getfield 11, 3) := dk_180 0 11 (dk_at dksX3_isNear_1 1 rfl rfl)
theorem dX3_isNear_28 : decode cX3_isNear 28 = .ok (.iload_n 1, 1) := dk_27 (dk_at dksX3_isNear_1 4 rfl rfl)
theorem dX3_isNear_29 : decode cX3_isNear 29 = .ok (.aaload, 1) := dk_50 (dk_at dksX3_isNear_1 5 rfl rfl)
theorem dX3_isNear_30 : decode cX3_isNear 30 = .ok (.getfield 37, 3) := dk_180 0 37 (dk_at dksX3_isNear_1 6 rfl rfl)
theorem dX3_isNear_33 : decode cX3_isNear 33 = .ok (.iload_n 2, 1) := dk_28 (dk_at dksX3_isNear_1 9 rfl rfl)
theorem dX3_isNear_34 : decode cX3_isNear 34 = .ok (.isub, 1) := dk_100 (dk_at dksX3_isNear_1 10 rfl rfl)
theorem dX3_isNear_35 : decode cX3_isNear 35 = .ok (.invokestatic 111, 3) := dk_184 0 111 (dk_at dksX3_isNear_1 11 rfl rfl)
theorem dX3_isNear_38 : decode cX3_isNear 38 = .ok (.imul, 1) := dk_104 (dk_at dksX3_isNear_1 14 rfl rfl)
theorem dX3_isNear_39 : decode cX3_isNear 39 = .ok (.if_icmp .gt 7, 3) := dk_163 0 7 (dk_at dksX3_isNear_1 15 rfl rfl)
theorem dX3_isNear_42 : decode cX3_isNear 42 = .ok (.iconst 1, 1) := dk_4 (dk_at dksX3_isNear_1 18 rfl rfl)
theorem dX3_isNear_43 : decode cX3_isNear 43 = .ok (.goto 4, 3) := dk_167 0 4 (dk_at dksX3_isNear_1 19 rfl rfl)
theorem dX3_isNear_46 : decode cX3_isNear 46 = .ok (.iconst 0, 1) := dk_3 (dk_at dksX3_isNear_1 22 rfl rfl)
theorem dX3_isNear_47 : decode cX3_isNear 47 = .ok (.ireturn, 1) := dk_172 (dk_at dksX3_isNear_1 23 rfl rfl)
abbrev cX3_behind : ByteArray := prog_7_method_20_code
def yX3_behind : MethodName := ⟨RX3, "behind", "(I)I"⟩
def dkwX3_behind_2 : List UInt8 := [28, 172]
abbrev dktX3_behind_2 : List UInt8 := dkwX3_behind_2 ++ []
def dkwX3_behind_1 : List UInt8 := [180, 0, 37, 27, 161, 0, 12, 42, 180, 0, 30, 29, 46, 167, 0, 4, 28, 61, 132, 3, 255, 167, 255, 220]
abbrev dktX3_behind_1 : List UInt8 := dkwX3_behind_1 ++ dktX3_behind_2
def dkwX3_behind_0 : List UInt8 := [2, 61, 42, 180, 0, 145, 4, 100, 62, 29, 155, 0, 38, 42, 180, 0, 11, 42, 180, 0, 30, 29, 46, 50]
abbrev dktX3_behind_0 : List UInt8 := dkwX3_behind_0 ++ dktX3_behind_1
theorem dksX3_behind_0 : cX3_behind.data.toList.drop 0 = dktX3_behind_0 := by decide +kernel
theorem dksX3_behind_1 : cX3_behind.data.toList.drop 24 = dktX3_behind_1 := dk_seg dksX3_behind_0 24 rfl rfl
theorem dksX3_behind_2 : cX3_behind.data.toList.drop 48 = dktX3_behind_2 := dk_seg dksX3_behind_1 24 rfl rfl
theorem dX3_behind_0 : decode cX3_behind 0 = .ok (.iconst (-1), 1) := dk_2 (dk_at dksX3_behind_0 0 rfl rfl)
theorem dX3_behind_1 : decode cX3_behind 1 = .ok (.istore_n 2, 1) := dk_61 (dk_at dksX3_behind_0 1 rfl rfl)
theorem dX3_behind_2 : decode cX3_behind 2 = .ok (.aload_n 0, 1) := dk_42 (dk_at dksX3_behind_0 2 rfl rfl)
theorem dX3_behind_3 : decode cX3_behind 3 = .ok (.getfield 145, 3) := dk_180 0 145 (dk_at dksX3_behind_0 3 rfl rfl)
theorem dX3_behind_6 : decode cX3_behind 6 = .ok (.iconst 1, 1) := dk_4 (dk_at dksX3_behind_0 6 rfl rfl)
theorem dX3_behind_7 : decode cX3_behind 7 = .ok (.isub, 1) := dk_100 (dk_at dksX3_behind_0 7 rfl rfl)
theorem dX3_behind_8 : decode cX3_behind 8 = .ok (.istore_n 3, 1) := dk_62 (dk_at dksX3_behind_0 8 rfl rfl)
theorem dX3_behind_9 : decode cX3_behind 9 = .ok (.iload_n 3, 1) := dk_29 (dk_at dksX3_behind_0 9 rfl rfl)
theorem dX3_behind_10 : decode cX3_behind 10 = .ok (.ifCond .lt 38, 3) := dk_155 0 38 (dk_at dksX3_behind_0 10 rfl rfl)
theorem dX3_behind_13 : decode cX3_behind 13 = .ok (.aload_n 0, 1) := dk_42 (dk_at dksX3_behind_0 13 rfl rfl)
theorem dX3_behind_14 : decode cX3_behind 14 = .ok (.getfield 11, 3) := dk_180 0 11 (dk_at dksX3_behind_0 14 rfl rfl)
theorem dX3_behind_17 : decode cX3_behind 17 = .ok (.aload_n 0, 1) := dk_42 (dk_at dksX3_behind_0 17 rfl rfl)
theorem dX3_behind_18 : decode cX3_behind 18 = .ok (.getfield 30, 3) := dk_180 0 30 (dk_at dksX3_behind_0 18 rfl rfl)
theorem dX3_behind_21 : decode cX3_behind 21 = .ok (.iload_n 3, 1) := dk_29 (dk_at dksX3_behind_0 21 rfl rfl)
theorem dX3_behind_22 : decode cX3_behind 22 = .ok (.iaload, 1) := dk_46 (dk_at dksX3_behind_0 22 rfl rfl)
theorem dX3_behind_23 : decode cX3_behind 23 = .ok (.aaload, 1) := dk_50 (dk_at dksX3_behind_0 23 rfl rfl)
theorem dX3_behind_24 : decode cX3_behind 24 = .ok (.getfield 37, 3) := dk_180 0 37 (dk_at dksX3_behind_1 0 rfl rfl)
theorem dX3_behind_27 : decode cX3_behind 27 = .ok (.iload_n 1, 1) := dk_27 (dk_at dksX3_behind_1 3 rfl rfl)
theorem dX3_behind_28 : decode cX3_behind 28 = .ok (.if_icmp .lt 12, 3) := dk_161 0 12 (dk_at dksX3_behind_1 4 rfl rfl)
theorem dX3_behind_31 : decode cX3_behind 31 = .ok (.aload_n 0, 1) := dk_42 (dk_at dksX3_behind_1 7 rfl rfl)
theorem dX3_behind_32 : decode cX3_behind 32 = .ok (.getfield 30, 3) := dk_180 0 30 (dk_at dksX3_behind_1 8 rfl rfl)
theorem dX3_behind_35 : decode cX3_behind 35 = .ok (.iload_n 3, 1) := dk_29 (dk_at dksX3_behind_1 11 rfl rfl)
theorem dX3_behind_36 : decode cX3_behind 36 = .ok (.iaload, 1) := dk_46 (dk_at dksX3_behind_1 12 rfl rfl)
theorem dX3_behind_37 : decode cX3_behind 37 = .ok (.goto 4, 3) := dk_167 0 4 (dk_at dksX3_behind_1 13 rfl rfl)
theorem dX3_behind_40 : decode cX3_behind 40 = .ok (.iload_n 2, 1) := dk_28 (dk_at dksX3_behind_1 16 rfl rfl)
theorem dX3_behind_41 : decode cX3_behind 41 = .ok (.istore_n 2, 1) := dk_61 (dk_at dksX3_behind_1 17 rfl rfl)
theorem dX3_behind_42 : decode cX3_behind 42 = .ok (.iinc 3 (-1), 3) := dk_132 3 255 (dk_at dksX3_behind_1 18 rfl rfl)
theorem dX3_behind_45 : decode cX3_behind 45 = .ok (.goto (-36), 3) := dk_167 255 220 (dk_at dksX3_behind_1 21 rfl rfl)
theorem dX3_behind_48 : decode cX3_behind 48 = .ok (.iload_n 2, 1) := dk_28 (dk_at dksX3_behind_2 0 rfl rfl)
theorem dX3_behind_49 : decode cX3_behind 49 = .ok (.ireturn, 1) := dk_172 (dk_at dksX3_behind_2 1 rfl rfl)
abbrev cX3_chart : ByteArray := prog_7_method_23_code
def yX3_chart : MethodName := ⟨RX3, "chart", "(I)I"⟩
def dkwX3_chart_3 : List UInt8 := [61, 132, 5, 1, 167, 255, 199, 28, 172]
abbrev dktX3_chart_3 : List UInt8 := dkwX3_chart_3 ++ []
def dkwX3_chart_2 : List UInt8 := [182, 0, 151, 153, 0, 19, 42, 21, 4, 27, 21, 5, 182, 0, 151, 153, 0, 7, 4, 167, 0, 4, 3, 96]
abbrev dktX3_chart_2 : List UInt8 := dkwX3_chart_2 ++ dktX3_chart_3
def dkwX3_chart_1 : List UInt8 := [162, 0, 55, 28, 42, 180, 0, 40, 180, 0, 87, 21, 5, 182, 0, 117, 154, 0, 30, 42, 29, 27, 21, 5]
abbrev dktX3_chart_1 : List UInt8 := dkwX3_chart_1 ++ dktX3_chart_2
def dkwX3_chart_0 : List UInt8 := [3, 61, 42, 27, 182, 0, 148, 62, 42, 27, 182, 0, 154, 54, 4, 3, 54, 5, 21, 5, 17, 0, 192]
abbrev dktX3_chart_0 : List UInt8 := dkwX3_chart_0 ++ dktX3_chart_1
theorem dksX3_chart_0 : cX3_chart.data.toList.drop 0 = dktX3_chart_0 := by decide +kernel
theorem dksX3_chart_1 : cX3_chart.data.toList.drop 23 = dktX3_chart_1 := dk_seg dksX3_chart_0 23 rfl rfl
theorem dksX3_chart_2 : cX3_chart.data.toList.drop 47 = dktX3_chart_2 := dk_seg dksX3_chart_1 24 rfl rfl
theorem dksX3_chart_3 : cX3_chart.data.toList.drop 71 = dktX3_chart_3 := dk_seg dksX3_chart_2 24 rfl rfl
theorem dX3_chart_0 : decode cX3_chart 0 = .ok (.iconst 0, 1) := dk_3 (dk_at dksX3_chart_0 0 rfl rfl)
theorem dX3_chart_1 : decode cX3_chart 1 = .ok (.istore_n 2, 1) := dk_61 (dk_at dksX3_chart_0 1 rfl rfl)
theorem dX3_chart_2 : decode cX3_chart 2 = .ok (.aload_n 0, 1) := dk_42 (dk_at dksX3_chart_0 2 rfl rfl)
theorem dX3_chart_3 : decode cX3_chart 3 = .ok (.iload_n 1, 1) := dk_27 (dk_at dksX3_chart_0 3 rfl rfl)
theorem dX3_chart_4 : decode cX3_chart 4 = .ok (.invokevirtual 148, 3) := dk_182 0 148 (dk_at dksX3_chart_0 4 rfl rfl)
theorem dX3_chart_7 : decode cX3_chart 7 = .ok (.istore_n 3, 1) := dk_62 (dk_at dksX3_chart_0 7 rfl rfl)
theorem dX3_chart_8 : decode cX3_chart 8 = .ok (.aload_n 0, 1) := dk_42 (dk_at dksX3_chart_0 8 rfl rfl)
theorem dX3_chart_9 : decode cX3_chart 9 = .ok (.iload_n 1, 1) := dk_27 (dk_at dksX3_chart_0 9 rfl rfl)
theorem dX3_chart_10 : decode cX3_chart 10 = .ok (.invokevirtual 154, 3) := dk_182 0 154 (dk_at dksX3_chart_0 10 rfl rfl)
theorem dX3_chart_13 : decode cX3_chart 13 = .ok (.istore 4, 2) := dk_54 4 (dk_at dksX3_chart_0 13 rfl rfl)
theorem dX3_chart_15 : decode cX3_chart 15 = .ok (.iconst 0, 1) := dk_3 (dk_at dksX3_chart_0 15 rfl rfl)
theorem dX3_chart_16 : decode cX3_chart 16 = .ok (.istore 5, 2) := dk_54 5 (dk_at dksX3_chart_0 16 rfl rfl)
theorem dX3_chart_18 : decode cX3_chart 18 = .ok (.iload 5, 2) := dk_21 5 (dk_at dksX3_chart_0 18 rfl rfl)
theorem dX3_chart_20 : decode cX3_chart 20 = .ok (.sipush 192, 3) := dk_17 0 192 (dk_at dksX3_chart_0 20 rfl rfl)
theorem dX3_chart_23 : decode cX3_chart 23 = .ok (.if_icmp .ge 55, 3) := dk_162 0 55 (dk_at dksX3_chart_1 0 rfl rfl)
theorem dX3_chart_26 : decode cX3_chart 26 = .ok (.iload_n 2, 1) := dk_28 (dk_at dksX3_chart_1 3 rfl rfl)
theorem dX3_chart_27 : decode cX3_chart 27 = .ok (.aload_n 0, 1) := dk_42 (dk_at dksX3_chart_1 4 rfl rfl)
theorem dX3_chart_28 : decode cX3_chart 28 = .ok (.getfield 40, 3) := dk_180 0 40 (dk_at dksX3_chart_1 5 rfl rfl)
theorem dX3_chart_31 : decode cX3_chart 31 = .ok (.getfield 87, 3) := dk_180 0 87 (dk_at dksX3_chart_1 8 rfl rfl)
theorem dX3_chart_34 : decode cX3_chart 34 = .ok (.iload 5, 2) := dk_21 5 (dk_at dksX3_chart_1 11 rfl rfl)
theorem dX3_chart_36 : decode cX3_chart 36 = .ok (.invokevirtual 117, 3) := dk_182 0 117 (dk_at dksX3_chart_1 13 rfl rfl)
theorem dX3_chart_39 : decode cX3_chart 39 = .ok (.ifCond .ne 30, 3) := dk_154 0 30 (dk_at dksX3_chart_1 16 rfl rfl)
theorem dX3_chart_42 : decode cX3_chart 42 = .ok (.aload_n 0, 1) := dk_42 (dk_at dksX3_chart_1 19 rfl rfl)
theorem dX3_chart_43 : decode cX3_chart 43 = .ok (.iload_n 3, 1) := dk_29 (dk_at dksX3_chart_1 20 rfl rfl)
theorem dX3_chart_44 : decode cX3_chart 44 = .ok (.iload_n 1, 1) := dk_27 (dk_at dksX3_chart_1 21 rfl rfl)
theorem dX3_chart_45 : decode cX3_chart 45 = .ok (.iload 5, 2) := dk_21 5 (dk_at dksX3_chart_1 22 rfl rfl)
theorem dX3_chart_47 : decode cX3_chart 47 = .ok (.invokevirtual 151, 3) := dk_182 0 151 (dk_at dksX3_chart_2 0 rfl rfl)
theorem dX3_chart_50 : decode cX3_chart 50 = .ok (.ifCond .eq 19, 3) := dk_153 0 19 (dk_at dksX3_chart_2 3 rfl rfl)
theorem dX3_chart_53 : decode cX3_chart 53 = .ok (.aload_n 0, 1) := dk_42 (dk_at dksX3_chart_2 6 rfl rfl)
theorem dX3_chart_54 : decode cX3_chart 54 = .ok (.iload 4, 2) := dk_21 4 (dk_at dksX3_chart_2 7 rfl rfl)
theorem dX3_chart_56 : decode cX3_chart 56 = .ok (.iload_n 1, 1) := dk_27 (dk_at dksX3_chart_2 9 rfl rfl)
theorem dX3_chart_57 : decode cX3_chart 57 = .ok (.iload 5, 2) := dk_21 5 (dk_at dksX3_chart_2 10 rfl rfl)
theorem dX3_chart_59 : decode cX3_chart 59 = .ok (.invokevirtual 151, 3) := dk_182 0 151 (dk_at dksX3_chart_2 12 rfl rfl)
theorem dX3_chart_62 : decode cX3_chart 62 = .ok (.ifCond .eq 7, 3) := dk_153 0 7 (dk_at dksX3_chart_2 15 rfl rfl)
theorem dX3_chart_65 : decode cX3_chart 65 = .ok (.iconst 1, 1) := dk_4 (dk_at dksX3_chart_2 18 rfl rfl)
theorem dX3_chart_66 : decode cX3_chart 66 = .ok (.goto 4, 3) := dk_167 0 4 (dk_at dksX3_chart_2 19 rfl rfl)
theorem dX3_chart_69 : decode cX3_chart 69 = .ok (.iconst 0, 1) := dk_3 (dk_at dksX3_chart_2 22 rfl rfl)
theorem dX3_chart_70 : decode cX3_chart 70 = .ok (.iadd, 1) := dk_96 (dk_at dksX3_chart_2 23 rfl rfl)
theorem dX3_chart_71 : decode cX3_chart 71 = .ok (.istore_n 2, 1) := dk_61 (dk_at dksX3_chart_3 0 rfl rfl)
theorem dX3_chart_72 : decode cX3_chart 72 = .ok (.iinc 5 1, 3) := dk_132 5 1 (dk_at dksX3_chart_3 1 rfl rfl)
theorem dX3_chart_75 : decode cX3_chart 75 = .ok (.goto (-57), 3) := dk_167 255 199 (dk_at dksX3_chart_3 4 rfl rfl)
theorem dX3_chart_78 : decode cX3_chart 78 = .ok (.iload_n 2, 1) := dk_28 (dk_at dksX3_chart_3 7 rfl rfl)
theorem dX3_chart_79 : decode cX3_chart 79 = .ok (.ireturn, 1) := dk_172 (dk_at dksX3_chart_3 8 rfl rfl)
theorem q103 : (Jvm.Cond.initialized "WhalingLogs$Listing") ∈ lw_all := lw_g (lw_at lw_m1 10 rfl) rfl
theorem q221 : (Jvm.Cond.fieldLinkNest "WhalingLogs$Listing" (87 : Nat) "WhalingLogs$Archive" "land" "Ljava/util/BitSet;" "WhalingLogs") ∈ lw_tbl := lw_at lw_m1 128 rfl
theorem q224 : (Jvm.Cond.fieldLinkNest "WhalingLogs$Listing" (44 : Nat) "WhalingLogs$Archive" "pages" "Ljava/util/LinkedList;" "WhalingLogs") ∈ lw_tbl := lw_at lw_m1 131 rfl
theorem q232 : (Jvm.Cond.fieldLinkNest "WhalingLogs$Listing" (108 : Nat) "WhalingLogs$Archive" "speed" "I" "WhalingLogs") ∈ lw_tbl := lw_at lw_m1 139 rfl
theorem q279 : (Jvm.Cond.instantiable "WhalingLogs$Listing" (9 : Nat)) ∈ lw_all := lw_g (lw_at lw_m1 186 rfl) rfl
theorem q281 : (Jvm.Cond.instanceMethod ({ cls := "WhalingLogs$Listing", name := "<init>", desc := "()V" } : Jvm.MethodName)) ∈ lw_all := lw_g (lw_at lw_m1 188 rfl) rfl
theorem q282 : (Jvm.Cond.code ({ cls := "WhalingLogs$Listing", name := "<init>", desc := "()V" } : Jvm.MethodName) prog_7_method_1_code (1 : Nat) (Option.none : Option Jvm.ClassFile.FieldType)) ∈ lw_all := lw_g (lw_at lw_m1 189 rfl) rfl
theorem q283 : (Jvm.Cond.methodLink "WhalingLogs$Listing" (3 : Nat) ({ cls := "java/lang/Object", name := "<init>", desc := "()V" } : Jvm.MethodName)) ∈ lw_all := lw_g (lw_at lw_m1 190 rfl) rfl
theorem q284 : (Jvm.Cond.classLink "WhalingLogs$Listing" (9 : Nat) "WhalingLogs$Entry") ∈ lw_all := lw_g (lw_at lw_m1 191 rfl) rfl
theorem q286 : (Jvm.Cond.fieldLink "WhalingLogs$Listing" (11 : Nat) "WhalingLogs$Listing" "entries" "[LWhalingLogs$Entry;") ∈ lw_all := lw_g (lw_at lw_m1 193 rfl) rfl
theorem q288 : (Jvm.Cond.fieldLink "WhalingLogs$Listing" (17 : Nat) "WhalingLogs$Listing" "pages" "[I") ∈ lw_all := lw_g (lw_at lw_m1 195 rfl) rfl
theorem q290 : (Jvm.Cond.fieldLink "WhalingLogs$Listing" (21 : Nat) "WhalingLogs$Listing" "numbers" "[I") ∈ lw_all := lw_g (lw_at lw_m1 197 rfl) rfl
theorem q292 : (Jvm.Cond.fieldLink "WhalingLogs$Listing" (24 : Nat) "WhalingLogs$Listing" "distances" "[I") ∈ lw_all := lw_g (lw_at lw_m1 199 rfl) rfl
theorem q293 : (Jvm.Cond.fieldLink "WhalingLogs$Listing" (27 : Nat) "WhalingLogs$Listing" "best" "[I") ∈ lw_all := lw_g (lw_at lw_m1 200 rfl) rfl
theorem q294 : (Jvm.Cond.fieldLink "WhalingLogs$Listing" (30 : Nat) "WhalingLogs$Listing" "track" "[I") ∈ lw_all := lw_g (lw_at lw_m1 201 rfl) rfl
theorem q296 : (Jvm.Cond.fieldLink "WhalingLogs$Listing" (40 : Nat) "WhalingLogs$Listing" "of" "LWhalingLogs$Archive;") ∈ lw_all := lw_g (lw_at lw_m1 203 rfl) rfl
theorem q297 : (Jvm.Cond.fieldLink "WhalingLogs$Listing" (33 : Nat) "WhalingLogs$Listing" "many" "I") ∈ lw_all := lw_g (lw_at lw_m1 204 rfl) rfl
theorem q299 : (Jvm.Cond.fieldLink "WhalingLogs$Listing" (145 : Nat) "WhalingLogs$Listing" "tracked" "I") ∈ lw_all := lw_g (lw_at lw_m1 206 rfl) rfl
theorem q301 : (Jvm.Cond.laysFinal "WhalingLogs$Listing" "WhalingLogs$Listing" "entries" "[LWhalingLogs$Entry;") ∈ lw_all := lw_g (lw_at lw_m1 208 rfl) rfl
theorem q302 : (Jvm.Cond.soleField "WhalingLogs$Listing" "entries") ∈ lw_all := lw_g (lw_at lw_m1 209 rfl) rfl
theorem q303 : (Jvm.Cond.laysFinal "WhalingLogs$Listing" "WhalingLogs$Listing" "pages" "[I") ∈ lw_all := lw_g (lw_at lw_m1 210 rfl) rfl
theorem q304 : (Jvm.Cond.soleField "WhalingLogs$Listing" "pages") ∈ lw_all := lw_g (lw_at lw_m1 211 rfl) rfl
theorem q305 : (Jvm.Cond.laysFinal "WhalingLogs$Listing" "WhalingLogs$Listing" "numbers" "[I") ∈ lw_all := lw_g (lw_at lw_m1 212 rfl) rfl
theorem q306 : (Jvm.Cond.soleField "WhalingLogs$Listing" "numbers") ∈ lw_all := lw_g (lw_at lw_m1 213 rfl) rfl
theorem q307 : (Jvm.Cond.laysFinal "WhalingLogs$Listing" "WhalingLogs$Listing" "distances" "[I") ∈ lw_all := lw_g (lw_at lw_m1 214 rfl) rfl
theorem q308 : (Jvm.Cond.soleField "WhalingLogs$Listing" "distances") ∈ lw_all := lw_g (lw_at lw_m1 215 rfl) rfl
theorem q309 : (Jvm.Cond.laysFinal "WhalingLogs$Listing" "WhalingLogs$Listing" "best" "[I") ∈ lw_all := lw_g (lw_at lw_m1 216 rfl) rfl
theorem q310 : (Jvm.Cond.soleField "WhalingLogs$Listing" "best") ∈ lw_all := lw_g (lw_at lw_m1 217 rfl) rfl
theorem q311 : (Jvm.Cond.laysFinal "WhalingLogs$Listing" "WhalingLogs$Listing" "track" "[I") ∈ lw_all := lw_g (lw_at lw_m1 218 rfl) rfl
theorem q312 : (Jvm.Cond.soleField "WhalingLogs$Listing" "track") ∈ lw_all := lw_g (lw_at lw_m1 219 rfl) rfl
theorem q313 : (Jvm.Cond.lays "WhalingLogs$Listing" "WhalingLogs$Listing" "of" "LWhalingLogs$Archive;") ∈ lw_all := lw_g (lw_at lw_m1 220 rfl) rfl
theorem q314 : (Jvm.Cond.soleField "WhalingLogs$Listing" "of") ∈ lw_all := lw_g (lw_at lw_m1 221 rfl) rfl
theorem q315 : (Jvm.Cond.lays "WhalingLogs$Listing" "WhalingLogs$Listing" "many" "I") ∈ lw_all := lw_g (lw_at lw_m1 222 rfl) rfl
theorem q316 : (Jvm.Cond.soleField "WhalingLogs$Listing" "many") ∈ lw_all := lw_g (lw_at lw_m1 223 rfl) rfl
theorem q317 : (Jvm.Cond.lays "WhalingLogs$Listing" "WhalingLogs$Listing" "tracked" "I") ∈ lw_all := lw_g (lw_at lw_m1 224 rfl) rfl
theorem q318 : (Jvm.Cond.soleField "WhalingLogs$Listing" "tracked") ∈ lw_all := lw_g (lw_at lw_m1 225 rfl) rfl
theorem q319 : (Jvm.Cond.superclass "WhalingLogs$Listing" "java/lang/Object") ∈ lw_all := lw_g (lw_at lw_m1 226 rfl) rfl
theorem q676 : (Jvm.Cond.selects "WhalingLogs$Listing" ({ cls := "java/lang/Object", name := "getClass", desc := "()Ljava/lang/Class;" } : Jvm.MethodName) ({ cls := "java/lang/Object", name := "getClass", desc := "()Ljava/lang/Class;" } : Jvm.MethodName)) ∈ lw_all := lw_g (lw_at lw_m3 103 rfl) rfl
theorem q965 : (Jvm.Cond.fieldLinkNest "WhalingLogs$Listing" (67 : Nat) "WhalingLogs$Page" "entries" "Ljava/util/ArrayList;" "WhalingLogs") ∈ lw_tbl := lw_at lw_m4 152 rfl
theorem q992 : (Jvm.Cond.fieldLinkNest "WhalingLogs$Listing" (37 : Nat) "WhalingLogs$Entry" "day" "I" "WhalingLogs") ∈ lw_tbl := lw_at lw_m4 179 rfl
theorem q995 : (Jvm.Cond.fieldLinkNest "WhalingLogs$Listing" (91 : Nat) "WhalingLogs$Entry" "cell" "I" "WhalingLogs") ∈ lw_tbl := lw_at lw_m4 182 rfl
theorem q998 : (Jvm.Cond.fieldLinkNest "WhalingLogs$Listing" (132 : Nat) "WhalingLogs$Entry" "witness" "I" "WhalingLogs") ∈ lw_tbl := lw_at lw_m4 185 rfl
theorem q1002 : (Jvm.Cond.fieldLinkNest "WhalingLogs$Listing" (80 : Nat) "WhalingLogs$Entry" "state" "I" "WhalingLogs") ∈ lw_tbl := lw_at lw_m4 189 rfl
theorem q1079 : (Jvm.Cond.instanceMethod ({ cls := "WhalingLogs$Listing", name := "lists", desc := "(LWhalingLogs$Archive;)LWhalingLogs$Listing;" } : Jvm.MethodName)) ∈ lw_all := lw_g (lw_at lw_m5 26 rfl) rfl
theorem q1080 : (Jvm.Cond.selects "WhalingLogs$Listing" ({ cls := "WhalingLogs$Listing", name := "lists", desc := "(LWhalingLogs$Archive;)LWhalingLogs$Listing;" } : Jvm.MethodName) ({ cls := "WhalingLogs$Listing", name := "lists", desc := "(LWhalingLogs$Archive;)LWhalingLogs$Listing;" } : Jvm.MethodName)) ∈ lw_all := lw_g (lw_at lw_m5 27 rfl) rfl
theorem q1081 : (Jvm.Cond.code ({ cls := "WhalingLogs$Listing", name := "lists", desc := "(LWhalingLogs$Archive;)LWhalingLogs$Listing;" } : Jvm.MethodName) prog_7_method_3_code (6 : Nat) (Option.some (Jvm.ClassFile.FieldType.object "WhalingLogs$Listing"))) ∈ lw_all := lw_g (lw_at lw_m5 28 rfl) rfl
theorem q1082 : (Jvm.Cond.methodLink "WhalingLogs$Listing" (49 : Nat) ({ cls := "java/util/LinkedList", name := "iterator", desc := "()Ljava/util/Iterator;" } : Jvm.MethodName)) ∈ lw_all := lw_g (lw_at lw_m5 29 rfl) rfl
theorem q1083 : (Jvm.Cond.interfaceEntry "WhalingLogs$Listing" (55 : Nat)) ∈ lw_tbl := lw_at lw_m5 30 rfl
theorem q1084 : (Jvm.Cond.methodLink "WhalingLogs$Listing" (55 : Nat) ({ cls := "java/util/Iterator", name := "hasNext", desc := "()Z" } : Jvm.MethodName)) ∈ lw_all := lw_g (lw_at lw_m5 31 rfl) rfl
theorem q1085 : (Jvm.Cond.interfaceEntry "WhalingLogs$Listing" (61 : Nat)) ∈ lw_tbl := lw_at lw_m5 32 rfl
theorem q1086 : (Jvm.Cond.methodLink "WhalingLogs$Listing" (61 : Nat) ({ cls := "java/util/Iterator", name := "next", desc := "()Ljava/lang/Object;" } : Jvm.MethodName)) ∈ lw_all := lw_g (lw_at lw_m5 33 rfl) rfl
theorem q1087 : (Jvm.Cond.classLink "WhalingLogs$Listing" (65 : Nat) "WhalingLogs$Page") ∈ lw_all := lw_g (lw_at lw_m5 34 rfl) rfl
theorem q1088 : (Jvm.Cond.methodLink "WhalingLogs$Listing" (70 : Nat) ({ cls := "java/util/ArrayList", name := "size", desc := "()I" } : Jvm.MethodName)) ∈ lw_all := lw_g (lw_at lw_m5 35 rfl) rfl
theorem q1089 : (Jvm.Cond.methodLink "WhalingLogs$Listing" (76 : Nat) ({ cls := "java/util/ArrayList", name := "get", desc := "(I)Ljava/lang/Object;" } : Jvm.MethodName)) ∈ lw_all := lw_g (lw_at lw_m5 36 rfl) rfl
theorem q1090 : (Jvm.Cond.methodLink "WhalingLogs$Listing" (83 : Nat) ({ cls := "WhalingLogs$Listing", name := "puts", desc := "(LWhalingLogs$Entry;II)V" } : Jvm.MethodName)) ∈ lw_all := lw_g (lw_at lw_m5 37 rfl) rfl
theorem q1091 : (Jvm.Cond.privateMethod ({ cls := "WhalingLogs$Listing", name := "puts", desc := "(LWhalingLogs$Entry;II)V" } : Jvm.MethodName)) ∈ lw_tbl := lw_at lw_m5 38 rfl
theorem q1092 : (Jvm.Cond.instanceMethod ({ cls := "WhalingLogs$Listing", name := "puts", desc := "(LWhalingLogs$Entry;II)V" } : Jvm.MethodName)) ∈ lw_all := lw_g (lw_at lw_m5 39 rfl) rfl
theorem q1093 : (Jvm.Cond.code ({ cls := "WhalingLogs$Listing", name := "puts", desc := "(LWhalingLogs$Entry;II)V" } : Jvm.MethodName) prog_7_method_2_code (5 : Nat) (Option.none : Option Jvm.ClassFile.FieldType)) ∈ lw_all := lw_g (lw_at lw_m5 40 rfl) rfl
theorem q1095 : (Jvm.Cond.instanceMethod ({ cls := "WhalingLogs$Listing", name := "at", desc := "(I)I" } : Jvm.MethodName)) ∈ lw_all := lw_g (lw_at lw_m5 42 rfl) rfl
theorem q1096 : (Jvm.Cond.selects "WhalingLogs$Listing" ({ cls := "WhalingLogs$Listing", name := "at", desc := "(I)I" } : Jvm.MethodName) ({ cls := "WhalingLogs$Listing", name := "at", desc := "(I)I" } : Jvm.MethodName)) ∈ lw_all := lw_g (lw_at lw_m5 43 rfl) rfl
theorem q1097 : (Jvm.Cond.code ({ cls := "WhalingLogs$Listing", name := "at", desc := "(I)I" } : Jvm.MethodName) prog_7_method_6_code (3 : Nat) (Option.some Jvm.ClassFile.FieldType.int)) ∈ lw_all := lw_g (lw_at lw_m5 44 rfl) rfl
theorem q1305 : (Jvm.Cond.instanceMethod ({ cls := "WhalingLogs$Listing", name := "crossings", desc := "()I" } : Jvm.MethodName)) ∈ lw_all := lw_g (lw_at lw_m6 12 rfl) rfl
theorem q1306 : (Jvm.Cond.selects "WhalingLogs$Listing" ({ cls := "WhalingLogs$Listing", name := "crossings", desc := "()I" } : Jvm.MethodName) ({ cls := "WhalingLogs$Listing", name := "crossings", desc := "()I" } : Jvm.MethodName)) ∈ lw_all := lw_g (lw_at lw_m6 13 rfl) rfl
theorem q1307 : (Jvm.Cond.code ({ cls := "WhalingLogs$Listing", name := "crossings", desc := "()I" } : Jvm.MethodName) prog_7_method_27_code (4 : Nat) (Option.some Jvm.ClassFile.FieldType.int)) ∈ lw_all := lw_g (lw_at lw_m6 14 rfl) rfl
theorem q1414 : (Jvm.Cond.instanceMethod ({ cls := "WhalingLogs$Listing", name := "spreads", desc := "(LWhalingLogs$Waters;)LWhalingLogs$Listing;" } : Jvm.MethodName)) ∈ lw_all := lw_g (lw_at lw_m6 121 rfl) rfl
theorem q1415 : (Jvm.Cond.selects "WhalingLogs$Listing" ({ cls := "WhalingLogs$Listing", name := "spreads", desc := "(LWhalingLogs$Waters;)LWhalingLogs$Listing;" } : Jvm.MethodName) ({ cls := "WhalingLogs$Listing", name := "spreads", desc := "(LWhalingLogs$Waters;)LWhalingLogs$Listing;" } : Jvm.MethodName)) ∈ lw_all := lw_g (lw_at lw_m6 122 rfl) rfl
theorem q1416 : (Jvm.Cond.code ({ cls := "WhalingLogs$Listing", name := "spreads", desc := "(LWhalingLogs$Waters;)LWhalingLogs$Listing;" } : Jvm.MethodName) prog_7_method_4_code (3 : Nat) (Option.some (Jvm.ClassFile.FieldType.object "WhalingLogs$Listing"))) ∈ lw_all := lw_g (lw_at lw_m6 123 rfl) rfl
theorem q1417 : (Jvm.Cond.methodLink "WhalingLogs$Listing" (94 : Nat) ({ cls := "WhalingLogs$Waters", name := "spreads", desc := "(Ljava/util/BitSet;I[II)V" } : Jvm.MethodName)) ∈ lw_all := lw_g (lw_at lw_m6 124 rfl) rfl
theorem q1419 : (Jvm.Cond.instanceMethod ({ cls := "WhalingLogs$Listing", name := "tracks", desc := "()LWhalingLogs$Listing;" } : Jvm.MethodName)) ∈ lw_all := lw_g (lw_at lw_m6 126 rfl) rfl
theorem q1420 : (Jvm.Cond.selects "WhalingLogs$Listing" ({ cls := "WhalingLogs$Listing", name := "tracks", desc := "()LWhalingLogs$Listing;" } : Jvm.MethodName) ({ cls := "WhalingLogs$Listing", name := "tracks", desc := "()LWhalingLogs$Listing;" } : Jvm.MethodName)) ∈ lw_all := lw_g (lw_at lw_m6 127 rfl) rfl
theorem q1421 : (Jvm.Cond.code ({ cls := "WhalingLogs$Listing", name := "tracks", desc := "()LWhalingLogs$Listing;" } : Jvm.MethodName) prog_7_method_15_code (3 : Nat) (Option.some (Jvm.ClassFile.FieldType.object "WhalingLogs$Listing"))) ∈ lw_all := lw_g (lw_at lw_m6 128 rfl) rfl
theorem q1422 : (Jvm.Cond.methodLink "WhalingLogs$Listing" (141 : Nat) ({ cls := "WhalingLogs$Listing", name := "nextOf", desc := "(I)I" } : Jvm.MethodName)) ∈ lw_all := lw_g (lw_at lw_m6 129 rfl) rfl
theorem q1423 : (Jvm.Cond.privateMethod ({ cls := "WhalingLogs$Listing", name := "nextOf", desc := "(I)I" } : Jvm.MethodName)) ∈ lw_tbl := lw_at lw_m6 130 rfl
theorem q1424 : (Jvm.Cond.instanceMethod ({ cls := "WhalingLogs$Listing", name := "nextOf", desc := "(I)I" } : Jvm.MethodName)) ∈ lw_all := lw_g (lw_at lw_m6 131 rfl) rfl
theorem q1425 : (Jvm.Cond.code ({ cls := "WhalingLogs$Listing", name := "nextOf", desc := "(I)I" } : Jvm.MethodName) prog_7_method_14_code (5 : Nat) (Option.some Jvm.ClassFile.FieldType.int)) ∈ lw_all := lw_g (lw_at lw_m6 132 rfl) rfl
theorem q1426 : (Jvm.Cond.methodLink "WhalingLogs$Listing" (138 : Nat) ({ cls := "WhalingLogs$Listing", name := "isOnWater", desc := "(I)Z" } : Jvm.MethodName)) ∈ lw_all := lw_g (lw_at lw_m6 133 rfl) rfl
theorem q1427 : (Jvm.Cond.instanceMethod ({ cls := "WhalingLogs$Listing", name := "isOnWater", desc := "(I)Z" } : Jvm.MethodName)) ∈ lw_all := lw_g (lw_at lw_m6 134 rfl) rfl
theorem q1428 : (Jvm.Cond.selects "WhalingLogs$Listing" ({ cls := "WhalingLogs$Listing", name := "isOnWater", desc := "(I)Z" } : Jvm.MethodName) ({ cls := "WhalingLogs$Listing", name := "isOnWater", desc := "(I)Z" } : Jvm.MethodName)) ∈ lw_all := lw_g (lw_at lw_m6 135 rfl) rfl
theorem q1429 : (Jvm.Cond.code ({ cls := "WhalingLogs$Listing", name := "isOnWater", desc := "(I)Z" } : Jvm.MethodName) prog_7_method_9_code (2 : Nat) (Option.some Jvm.ClassFile.FieldType.boolean)) ∈ lw_all := lw_g (lw_at lw_m6 136 rfl) rfl
theorem q1430 : (Jvm.Cond.methodLink "WhalingLogs$Listing" (117 : Nat) ({ cls := "java/util/BitSet", name := "get", desc := "(I)Z" } : Jvm.MethodName)) ∈ lw_all := lw_g (lw_at lw_m6 137 rfl) rfl
theorem q1431 : (Jvm.Cond.methodLink "WhalingLogs$Listing" (122 : Nat) ({ cls := "WhalingLogs$Listing", name := "canBoth", desc := "(II)Z" } : Jvm.MethodName)) ∈ lw_all := lw_g (lw_at lw_m6 138 rfl) rfl
theorem q1432 : (Jvm.Cond.instanceMethod ({ cls := "WhalingLogs$Listing", name := "canBoth", desc := "(II)Z" } : Jvm.MethodName)) ∈ lw_all := lw_g (lw_at lw_m6 139 rfl) rfl
theorem q1433 : (Jvm.Cond.selects "WhalingLogs$Listing" ({ cls := "WhalingLogs$Listing", name := "canBoth", desc := "(II)Z" } : Jvm.MethodName) ({ cls := "WhalingLogs$Listing", name := "canBoth", desc := "(II)Z" } : Jvm.MethodName)) ∈ lw_all := lw_g (lw_at lw_m6 140 rfl) rfl
theorem q1434 : (Jvm.Cond.code ({ cls := "WhalingLogs$Listing", name := "canBoth", desc := "(II)Z" } : Jvm.MethodName) prog_7_method_8_code (3 : Nat) (Option.some Jvm.ClassFile.FieldType.boolean)) ∈ lw_all := lw_g (lw_at lw_m6 141 rfl) rfl
theorem q1435 : (Jvm.Cond.methodLink "WhalingLogs$Listing" (104 : Nat) ({ cls := "WhalingLogs$Listing", name := "between", desc := "(II)I" } : Jvm.MethodName)) ∈ lw_all := lw_g (lw_at lw_m6 142 rfl) rfl
theorem q1436 : (Jvm.Cond.instanceMethod ({ cls := "WhalingLogs$Listing", name := "between", desc := "(II)I" } : Jvm.MethodName)) ∈ lw_all := lw_g (lw_at lw_m6 143 rfl) rfl
theorem q1437 : (Jvm.Cond.selects "WhalingLogs$Listing" ({ cls := "WhalingLogs$Listing", name := "between", desc := "(II)I" } : Jvm.MethodName) ({ cls := "WhalingLogs$Listing", name := "between", desc := "(II)I" } : Jvm.MethodName)) ∈ lw_all := lw_g (lw_at lw_m6 144 rfl) rfl
theorem q1438 : (Jvm.Cond.code ({ cls := "WhalingLogs$Listing", name := "between", desc := "(II)I" } : Jvm.MethodName) prog_7_method_7_code (3 : Nat) (Option.some Jvm.ClassFile.FieldType.int)) ∈ lw_all := lw_g (lw_at lw_m6 145 rfl) rfl
theorem q1439 : (Jvm.Cond.methodLink "WhalingLogs$Listing" (111 : Nat) ({ cls := "java/lang/Math", name := "abs", desc := "(I)I" } : Jvm.MethodName)) ∈ lw_all := lw_g (lw_at lw_m6 146 rfl) rfl
theorem q1440 : (Jvm.Cond.methodLink "WhalingLogs$Listing" (144 : Nat) ({ cls := "WhalingLogs$Listing", name := "weight", desc := "(I)I" } : Jvm.MethodName)) ∈ lw_all := lw_g (lw_at lw_m6 147 rfl) rfl
theorem q1441 : (Jvm.Cond.instanceMethod ({ cls := "WhalingLogs$Listing", name := "weight", desc := "(I)I" } : Jvm.MethodName)) ∈ lw_all := lw_g (lw_at lw_m6 148 rfl) rfl
theorem q1442 : (Jvm.Cond.selects "WhalingLogs$Listing" ({ cls := "WhalingLogs$Listing", name := "weight", desc := "(I)I" } : Jvm.MethodName) ({ cls := "WhalingLogs$Listing", name := "weight", desc := "(I)I" } : Jvm.MethodName)) ∈ lw_all := lw_g (lw_at lw_m6 149 rfl) rfl
theorem q1443 : (Jvm.Cond.code ({ cls := "WhalingLogs$Listing", name := "weight", desc := "(I)I" } : Jvm.MethodName) prog_7_method_13_code (2 : Nat) (Option.some Jvm.ClassFile.FieldType.int)) ∈ lw_all := lw_g (lw_at lw_m6 150 rfl) rfl
theorem q1444 : (Jvm.Cond.methodLink "WhalingLogs$Listing" (135 : Nat) ({ cls := "WhalingLogs$Archive", name := "weight", desc := "(I)I" } : Jvm.MethodName)) ∈ lw_all := lw_g (lw_at lw_m6 151 rfl) rfl
theorem q1446 : (Jvm.Cond.instanceMethod ({ cls := "WhalingLogs$Listing", name := "isOnTrack", desc := "(I)Z" } : Jvm.MethodName)) ∈ lw_all := lw_g (lw_at lw_m6 153 rfl) rfl
theorem q1447 : (Jvm.Cond.selects "WhalingLogs$Listing" ({ cls := "WhalingLogs$Listing", name := "isOnTrack", desc := "(I)Z" } : Jvm.MethodName) ({ cls := "WhalingLogs$Listing", name := "isOnTrack", desc := "(I)Z" } : Jvm.MethodName)) ∈ lw_all := lw_g (lw_at lw_m6 154 rfl) rfl
theorem q1448 : (Jvm.Cond.code ({ cls := "WhalingLogs$Listing", name := "isOnTrack", desc := "(I)Z" } : Jvm.MethodName) prog_7_method_18_code (4 : Nat) (Option.some Jvm.ClassFile.FieldType.boolean)) ∈ lw_all := lw_g (lw_at lw_m6 155 rfl) rfl
theorem q1454 : (Jvm.Cond.instanceMethod ({ cls := "WhalingLogs$Listing", name := "isPlace", desc := "(I)Z" } : Jvm.MethodName)) ∈ lw_all := lw_g (lw_at lw_m6 161 rfl) rfl
theorem q1455 : (Jvm.Cond.selects "WhalingLogs$Listing" ({ cls := "WhalingLogs$Listing", name := "isPlace", desc := "(I)Z" } : Jvm.MethodName) ({ cls := "WhalingLogs$Listing", name := "isPlace", desc := "(I)Z" } : Jvm.MethodName)) ∈ lw_all := lw_g (lw_at lw_m6 162 rfl) rfl
theorem q1456 : (Jvm.Cond.code ({ cls := "WhalingLogs$Listing", name := "isPlace", desc := "(I)Z" } : Jvm.MethodName) prog_7_method_5_code (2 : Nat) (Option.some Jvm.ClassFile.FieldType.boolean)) ∈ lw_all := lw_g (lw_at lw_m6 163 rfl) rfl
theorem q1457 : (Jvm.Cond.methodLinkNest "WhalingLogs$Listing" (100 : Nat) ({ cls := "WhalingLogs", name := "isIn", desc := "(III)Z" } : Jvm.MethodName) "WhalingLogs") ∈ lw_tbl := lw_at lw_m6 164 rfl
theorem q1468 : (Jvm.Cond.instanceMethod ({ cls := "WhalingLogs$Listing", name := "conflicts", desc := "()I" } : Jvm.MethodName)) ∈ lw_all := lw_g (lw_at lw_m6 175 rfl) rfl
theorem q1469 : (Jvm.Cond.selects "WhalingLogs$Listing" ({ cls := "WhalingLogs$Listing", name := "conflicts", desc := "()I" } : Jvm.MethodName) ({ cls := "WhalingLogs$Listing", name := "conflicts", desc := "()I" } : Jvm.MethodName)) ∈ lw_all := lw_g (lw_at lw_m6 176 rfl) rfl
theorem q1470 : (Jvm.Cond.code ({ cls := "WhalingLogs$Listing", name := "conflicts", desc := "()I" } : Jvm.MethodName) prog_7_method_11_code (3 : Nat) (Option.some Jvm.ClassFile.FieldType.int)) ∈ lw_all := lw_g (lw_at lw_m6 177 rfl) rfl
theorem q1471 : (Jvm.Cond.methodLink "WhalingLogs$Listing" (126 : Nat) ({ cls := "WhalingLogs$Listing", name := "against", desc := "(I)I" } : Jvm.MethodName)) ∈ lw_all := lw_g (lw_at lw_m6 178 rfl) rfl
theorem q1472 : (Jvm.Cond.instanceMethod ({ cls := "WhalingLogs$Listing", name := "against", desc := "(I)I" } : Jvm.MethodName)) ∈ lw_all := lw_g (lw_at lw_m6 179 rfl) rfl
theorem q1473 : (Jvm.Cond.selects "WhalingLogs$Listing" ({ cls := "WhalingLogs$Listing", name := "against", desc := "(I)I" } : Jvm.MethodName) ({ cls := "WhalingLogs$Listing", name := "against", desc := "(I)I" } : Jvm.MethodName)) ∈ lw_all := lw_g (lw_at lw_m6 180 rfl) rfl
theorem q1474 : (Jvm.Cond.code ({ cls := "WhalingLogs$Listing", name := "against", desc := "(I)I" } : Jvm.MethodName) prog_7_method_10_code (4 : Nat) (Option.some Jvm.ClassFile.FieldType.int)) ∈ lw_all := lw_g (lw_at lw_m6 181 rfl) rfl
theorem q1480 : (Jvm.Cond.instanceMethod ({ cls := "WhalingLogs$Listing", name := "worst", desc := "()I" } : Jvm.MethodName)) ∈ lw_all := lw_g (lw_at lw_m6 187 rfl) rfl
theorem q1481 : (Jvm.Cond.selects "WhalingLogs$Listing" ({ cls := "WhalingLogs$Listing", name := "worst", desc := "()I" } : Jvm.MethodName) ({ cls := "WhalingLogs$Listing", name := "worst", desc := "()I" } : Jvm.MethodName)) ∈ lw_all := lw_g (lw_at lw_m6 188 rfl) rfl
theorem q1482 : (Jvm.Cond.code ({ cls := "WhalingLogs$Listing", name := "worst", desc := "()I" } : Jvm.MethodName) prog_7_method_12_code (5 : Nat) (Option.some Jvm.ClassFile.FieldType.int)) ∈ lw_all := lw_g (lw_at lw_m6 189 rfl) rfl
theorem q1483 : (Jvm.Cond.methodLink "WhalingLogs$Listing" (129 : Nat) ({ cls := "java/lang/Math", name := "max", desc := "(II)I" } : Jvm.MethodName)) ∈ lw_all := lw_g (lw_at lw_m6 190 rfl) rfl
theorem q1533 : (Jvm.Cond.instanceMethod ({ cls := "WhalingLogs$Listing", name := "weightOfTrack", desc := "()I" } : Jvm.MethodName)) ∈ lw_all := lw_g (lw_at lw_m7 0 rfl) rfl
theorem q1534 : (Jvm.Cond.selects "WhalingLogs$Listing" ({ cls := "WhalingLogs$Listing", name := "weightOfTrack", desc := "()I" } : Jvm.MethodName) ({ cls := "WhalingLogs$Listing", name := "weightOfTrack", desc := "()I" } : Jvm.MethodName)) ∈ lw_all := lw_g (lw_at lw_m7 1 rfl) rfl
theorem q1535 : (Jvm.Cond.code ({ cls := "WhalingLogs$Listing", name := "weightOfTrack", desc := "()I" } : Jvm.MethodName) prog_7_method_16_code (3 : Nat) (Option.some Jvm.ClassFile.FieldType.int)) ∈ lw_all := lw_g (lw_at lw_m7 2 rfl) rfl
theorem q1537 : (Jvm.Cond.instanceMethod ({ cls := "WhalingLogs$Listing", name := "stepsOfTrack", desc := "()I" } : Jvm.MethodName)) ∈ lw_all := lw_g (lw_at lw_m7 4 rfl) rfl
theorem q1538 : (Jvm.Cond.selects "WhalingLogs$Listing" ({ cls := "WhalingLogs$Listing", name := "stepsOfTrack", desc := "()I" } : Jvm.MethodName) ({ cls := "WhalingLogs$Listing", name := "stepsOfTrack", desc := "()I" } : Jvm.MethodName)) ∈ lw_all := lw_g (lw_at lw_m7 5 rfl) rfl
theorem q1539 : (Jvm.Cond.code ({ cls := "WhalingLogs$Listing", name := "stepsOfTrack", desc := "()I" } : Jvm.MethodName) prog_7_method_17_code (3 : Nat) (Option.some Jvm.ClassFile.FieldType.int)) ∈ lw_all := lw_g (lw_at lw_m7 6 rfl) rfl
theorem q1549 : (Jvm.Cond.instanceMethod ({ cls := "WhalingLogs$Listing", name := "heaviest", desc := "()I" } : Jvm.MethodName)) ∈ lw_all := lw_g (lw_at lw_m7 16 rfl) rfl
theorem q1550 : (Jvm.Cond.selects "WhalingLogs$Listing" ({ cls := "WhalingLogs$Listing", name := "heaviest", desc := "()I" } : Jvm.MethodName) ({ cls := "WhalingLogs$Listing", name := "heaviest", desc := "()I" } : Jvm.MethodName)) ∈ lw_all := lw_g (lw_at lw_m7 17 rfl) rfl
theorem q1551 : (Jvm.Cond.code ({ cls := "WhalingLogs$Listing", name := "heaviest", desc := "()I" } : Jvm.MethodName) prog_7_method_26_code (4 : Nat) (Option.some Jvm.ClassFile.FieldType.int)) ∈ lw_all := lw_g (lw_at lw_m7 18 rfl) rfl
theorem q1552 : (Jvm.Cond.methodLink "WhalingLogs$Listing" (157 : Nat) ({ cls := "WhalingLogs$Listing", name := "weightOf", desc := "(I)I" } : Jvm.MethodName)) ∈ lw_all := lw_g (lw_at lw_m7 19 rfl) rfl
theorem q1553 : (Jvm.Cond.privateMethod ({ cls := "WhalingLogs$Listing", name := "weightOf", desc := "(I)I" } : Jvm.MethodName)) ∈ lw_tbl := lw_at lw_m7 20 rfl
theorem q1554 : (Jvm.Cond.instanceMethod ({ cls := "WhalingLogs$Listing", name := "weightOf", desc := "(I)I" } : Jvm.MethodName)) ∈ lw_all := lw_g (lw_at lw_m7 21 rfl) rfl
theorem q1555 : (Jvm.Cond.code ({ cls := "WhalingLogs$Listing", name := "weightOf", desc := "(I)I" } : Jvm.MethodName) prog_7_method_25_code (4 : Nat) (Option.some Jvm.ClassFile.FieldType.int)) ∈ lw_all := lw_g (lw_at lw_m7 22 rfl) rfl
theorem q1556 : (Jvm.Cond.methodLink "WhalingLogs$Listing" (160 : Nat) ({ cls := "WhalingLogs$Listing", name := "isTrack", desc := "(I)Z" } : Jvm.MethodName)) ∈ lw_all := lw_g (lw_at lw_m7 23 rfl) rfl
theorem q1557 : (Jvm.Cond.privateMethod ({ cls := "WhalingLogs$Listing", name := "isTrack", desc := "(I)Z" } : Jvm.MethodName)) ∈ lw_tbl := lw_at lw_m7 24 rfl
theorem q1558 : (Jvm.Cond.instanceMethod ({ cls := "WhalingLogs$Listing", name := "isTrack", desc := "(I)Z" } : Jvm.MethodName)) ∈ lw_all := lw_g (lw_at lw_m7 25 rfl) rfl
theorem q1559 : (Jvm.Cond.code ({ cls := "WhalingLogs$Listing", name := "isTrack", desc := "(I)Z" } : Jvm.MethodName) prog_7_method_24_code (4 : Nat) (Option.some Jvm.ClassFile.FieldType.boolean)) ∈ lw_all := lw_g (lw_at lw_m7 26 rfl) rfl
theorem q1565 : (Jvm.Cond.instanceMethod ({ cls := "WhalingLogs$Listing", name := "could", desc := "(II)Z" } : Jvm.MethodName)) ∈ lw_all := lw_g (lw_at lw_m7 32 rfl) rfl
theorem q1566 : (Jvm.Cond.selects "WhalingLogs$Listing" ({ cls := "WhalingLogs$Listing", name := "could", desc := "(II)Z" } : Jvm.MethodName) ({ cls := "WhalingLogs$Listing", name := "could", desc := "(II)Z" } : Jvm.MethodName)) ∈ lw_all := lw_g (lw_at lw_m7 33 rfl) rfl
theorem q1567 : (Jvm.Cond.code ({ cls := "WhalingLogs$Listing", name := "could", desc := "(II)Z" } : Jvm.MethodName) prog_7_method_22_code (3 : Nat) (Option.some Jvm.ClassFile.FieldType.boolean)) ∈ lw_all := lw_g (lw_at lw_m7 34 rfl) rfl
theorem q1568 : (Jvm.Cond.methodLink "WhalingLogs$Listing" (148 : Nat) ({ cls := "WhalingLogs$Listing", name := "before", desc := "(I)I" } : Jvm.MethodName)) ∈ lw_all := lw_g (lw_at lw_m7 35 rfl) rfl
theorem q1569 : (Jvm.Cond.privateMethod ({ cls := "WhalingLogs$Listing", name := "before", desc := "(I)I" } : Jvm.MethodName)) ∈ lw_tbl := lw_at lw_m7 36 rfl
theorem q1570 : (Jvm.Cond.instanceMethod ({ cls := "WhalingLogs$Listing", name := "before", desc := "(I)I" } : Jvm.MethodName)) ∈ lw_all := lw_g (lw_at lw_m7 37 rfl) rfl
theorem q1571 : (Jvm.Cond.code ({ cls := "WhalingLogs$Listing", name := "before", desc := "(I)I" } : Jvm.MethodName) prog_7_method_19_code (4 : Nat) (Option.some Jvm.ClassFile.FieldType.int)) ∈ lw_all := lw_g (lw_at lw_m7 38 rfl) rfl
theorem q1572 : (Jvm.Cond.methodLink "WhalingLogs$Listing" (151 : Nat) ({ cls := "WhalingLogs$Listing", name := "isNear", desc := "(III)Z" } : Jvm.MethodName)) ∈ lw_all := lw_g (lw_at lw_m7 39 rfl) rfl
theorem q1573 : (Jvm.Cond.privateMethod ({ cls := "WhalingLogs$Listing", name := "isNear", desc := "(III)Z" } : Jvm.MethodName)) ∈ lw_tbl := lw_at lw_m7 40 rfl
theorem q1574 : (Jvm.Cond.instanceMethod ({ cls := "WhalingLogs$Listing", name := "isNear", desc := "(III)Z" } : Jvm.MethodName)) ∈ lw_all := lw_g (lw_at lw_m7 41 rfl) rfl
theorem q1575 : (Jvm.Cond.code ({ cls := "WhalingLogs$Listing", name := "isNear", desc := "(III)Z" } : Jvm.MethodName) prog_7_method_21_code (4 : Nat) (Option.some Jvm.ClassFile.FieldType.boolean)) ∈ lw_all := lw_g (lw_at lw_m7 42 rfl) rfl
theorem q1576 : (Jvm.Cond.methodLink "WhalingLogs$Listing" (154 : Nat) ({ cls := "WhalingLogs$Listing", name := "behind", desc := "(I)I" } : Jvm.MethodName)) ∈ lw_all := lw_g (lw_at lw_m7 43 rfl) rfl
theorem q1577 : (Jvm.Cond.privateMethod ({ cls := "WhalingLogs$Listing", name := "behind", desc := "(I)I" } : Jvm.MethodName)) ∈ lw_tbl := lw_at lw_m7 44 rfl
theorem q1578 : (Jvm.Cond.instanceMethod ({ cls := "WhalingLogs$Listing", name := "behind", desc := "(I)I" } : Jvm.MethodName)) ∈ lw_all := lw_g (lw_at lw_m7 45 rfl) rfl
theorem q1579 : (Jvm.Cond.code ({ cls := "WhalingLogs$Listing", name := "behind", desc := "(I)I" } : Jvm.MethodName) prog_7_method_20_code (4 : Nat) (Option.some Jvm.ClassFile.FieldType.int)) ∈ lw_all := lw_g (lw_at lw_m7 46 rfl) rfl
theorem q1585 : (Jvm.Cond.instanceMethod ({ cls := "WhalingLogs$Listing", name := "chart", desc := "(I)I" } : Jvm.MethodName)) ∈ lw_all := lw_g (lw_at lw_m7 52 rfl) rfl
theorem q1586 : (Jvm.Cond.selects "WhalingLogs$Listing" ({ cls := "WhalingLogs$Listing", name := "chart", desc := "(I)I" } : Jvm.MethodName) ({ cls := "WhalingLogs$Listing", name := "chart", desc := "(I)I" } : Jvm.MethodName)) ∈ lw_all := lw_g (lw_at lw_m7 53 rfl) rfl
theorem q1587 : (Jvm.Cond.code ({ cls := "WhalingLogs$Listing", name := "chart", desc := "(I)I" } : Jvm.MethodName) prog_7_method_23_code (6 : Nat) (Option.some Jvm.ClassFile.FieldType.int)) ∈ lw_all := lw_g (lw_at lw_m7 54 rfl) rfl
theorem q2610 : (Jvm.Cond.castable "WhalingLogs$Listing" "java/lang/Object") ∈ lw_tbl := lw_at lw_m11 117 rfl
theorem in_X3 : ∀ w ∈ wsX30, w ∈ lw_all := lw_in wsX30 [301, 303, 305, 307, 309, 311, 313, 315, 317] (by decide +kernel) (by decide +kernel)
/-! WhalingLogs$Page -/
set_option maxRecDepth 100000
def RX5 : String := "WhalingLogs$Page"
def TX5 : u_T := fun k => match k with
  | 0 => ("WhalingLogs$Page", "ink", "I", true)
  | 1 => ("WhalingLogs$Page", "entries", "Ljava/util/ArrayList;", true)
  | _ => ("WhalingLogs$Page", "fade", "I", false)
def tyX5 : Nat → FieldType := fun k => match k with
  | 0 => .int
  | 1 => .object "java/util/ArrayList"
  | _ => .int
abbrev wsX50 : List Cond := u_ws RX5 TX5 3
theorem nmX5 : ∀ a, a < 3 → ∀ b, b < 3 → a ≠ b → (TX5 a).2.1 ≠ (TX5 b).2.1 := by decide +kernel
theorem tyX5_ok : ∀ k, k < 3 → parseFieldDescriptor (TX5 k).2.2.1 = some (tyX5 k) := by decide +kernel
abbrev cX5_copy : ByteArray := prog_9_method_2_code
def yX5_copy : MethodName := ⟨RX5, "copy", "()LWhalingLogs$Page;"⟩
def dkwX5_copy_2 : List UInt8 := [182, 0, 44, 87, 132, 2, 1, 167, 255, 220, 43, 176]
abbrev dktX5_copy_2 : List UInt8 := dkwX5_copy_2 ++ []
def dkwX5_copy_1 : List UInt8 := [182, 0, 30, 162, 0, 31, 43, 180, 0, 14, 42, 180, 0, 14, 28, 182, 0, 34, 192, 0, 38, 182, 0, 40]
abbrev dktX5_copy_1 : List UInt8 := dkwX5_copy_1 ++ dktX5_copy_2
def dkwX5_copy_0 : List UInt8 := [187, 0, 15, 89, 42, 180, 0, 20, 42, 180, 0, 24, 183, 0, 27, 76, 3, 61, 28, 42, 180, 0, 14]
abbrev dktX5_copy_0 : List UInt8 := dkwX5_copy_0 ++ dktX5_copy_1
theorem dksX5_copy_0 : cX5_copy.data.toList.drop 0 = dktX5_copy_0 := by decide +kernel
theorem dksX5_copy_1 : cX5_copy.data.toList.drop 23 = dktX5_copy_1 := dk_seg dksX5_copy_0 23 rfl rfl
theorem dksX5_copy_2 : cX5_copy.data.toList.drop 47 = dktX5_copy_2 := dk_seg dksX5_copy_1 24 rfl rfl
theorem dX5_copy_0 : decode cX5_copy 0 = .ok (.new 15, 3) := dk_187 0 15 (dk_at dksX5_copy_0 0 rfl rfl)
theorem dX5_copy_3 : decode cX5_copy 3 = .ok (.dup, 1) := dk_89 (dk_at dksX5_copy_0 3 rfl rfl)
theorem dX5_copy_4 : decode cX5_copy 4 = .ok (.aload_n 0, 1) := dk_42 (dk_at dksX5_copy_0 4 rfl rfl)
theorem dX5_copy_5 : decode cX5_copy 5 = .ok (.getfield 20, 3) := dk_180 0 20 (dk_at dksX5_copy_0 5 rfl rfl)
theorem dX5_copy_8 : decode cX5_copy 8 = .ok (.aload_n 0, 1) := dk_42 (dk_at dksX5_copy_0 8 rfl rfl)
theorem dX5_copy_9 : decode cX5_copy 9 = .ok (.getfield 24, 3) := dk_180 0 24 (dk_at dksX5_copy_0 9 rfl rfl)
theorem dX5_copy_12 : decode cX5_copy 12 = .ok (.invokespecial 27, 3) := dk_183 0 27 (dk_at dksX5_copy_0 12 rfl rfl)
theorem dX5_copy_15 : decode cX5_copy 15 = .ok (.astore_n 1, 1) := dk_76 (dk_at dksX5_copy_0 15 rfl rfl)
theorem dX5_copy_16 : decode cX5_copy 16 = .ok (.iconst 0, 1) := dk_3 (dk_at dksX5_copy_0 16 rfl rfl)
theorem dX5_copy_17 : decode cX5_copy 17 = .ok (.istore_n 2, 1) := dk_61 (dk_at dksX5_copy_0 17 rfl rfl)
theorem dX5_copy_18 : decode cX5_copy 18 = .ok (.iload_n 2, 1) := dk_28 (dk_at dksX5_copy_0 18 rfl rfl)
theorem dX5_copy_19 : decode cX5_copy 19 = .ok (.aload_n 0, 1) := dk_42 (dk_at dksX5_copy_0 19 rfl rfl)
theorem dX5_copy_20 : decode cX5_copy 20 = .ok (.getfield 14, 3) := dk_180 0 14 (dk_at dksX5_copy_0 20 rfl rfl)
theorem dX5_copy_23 : decode cX5_copy 23 = .ok (.invokevirtual 30, 3) := dk_182 0 30 (dk_at dksX5_copy_1 0 rfl rfl)
theorem dX5_copy_26 : decode cX5_copy 26 = .ok (.if_icmp .ge 31, 3) := dk_162 0 31 (dk_at dksX5_copy_1 3 rfl rfl)
theorem dX5_copy_29 : decode cX5_copy 29 = .ok (.aload_n 1, 1) := dk_43 (dk_at dksX5_copy_1 6 rfl rfl)
theorem dX5_copy_30 : decode cX5_copy 30 = .ok (.getfield 14, 3) := dk_180 0 14 (dk_at dksX5_copy_1 7 rfl rfl)
theorem dX5_copy_33 : decode cX5_copy 33 = .ok (.aload_n 0, 1) := dk_42 (dk_at dksX5_copy_1 10 rfl rfl)
theorem dX5_copy_34 : decode cX5_copy 34 = .ok (.getfield 14, 3) := dk_180 0 14 (dk_at dksX5_copy_1 11 rfl rfl)
theorem dX5_copy_37 : decode cX5_copy 37 = .ok (.iload_n 2, 1) := dk_28 (dk_at dksX5_copy_1 14 rfl rfl)
theorem dX5_copy_38 : decode cX5_copy 38 = .ok (.invokevirtual 34, 3) := dk_182 0 34 (dk_at dksX5_copy_1 15 rfl rfl)
theorem dX5_copy_41 : decode cX5_copy 41 = .ok (.checkcast 38, 3) := dk_192 0 38 (dk_at dksX5_copy_1 18 rfl rfl)
theorem dX5_copy_44 : decode cX5_copy 44 = .ok (.invokevirtual 40, 3) := dk_182 0 40 (dk_at dksX5_copy_1 21 rfl rfl)
theorem dX5_copy_47 : decode cX5_copy 47 = .ok (.invokevirtual 44, 3) := dk_182 0 44 (dk_at dksX5_copy_2 0 rfl rfl)
theorem dX5_copy_50 : decode cX5_copy 50 = .ok (.pop, 1) := dk_87 (dk_at dksX5_copy_2 3 rfl rfl)
theorem dX5_copy_51 : decode cX5_copy 51 = .ok (.iinc 2 1, 3) := dk_132 2 1 (dk_at dksX5_copy_2 4 rfl rfl)
theorem dX5_copy_54 : decode cX5_copy 54 = .ok (.goto (-36), 3) := dk_167 255 220 (dk_at dksX5_copy_2 7 rfl rfl)
theorem dX5_copy_57 : decode cX5_copy 57 = .ok (.aload_n 1, 1) := dk_43 (dk_at dksX5_copy_2 10 rfl rfl)
theorem dX5_copy_58 : decode cX5_copy 58 = .ok (.areturn, 1) := dk_176 (dk_at dksX5_copy_2 11 rfl rfl)
abbrev cX5_init : ByteArray := prog_9_method_1_code
def yX5_init : MethodName := ⟨RX5, "<init>", "(II)V"⟩
def dkwX5_init_1 : List UInt8 := [181, 0, 24, 177]
abbrev dktX5_init_1 : List UInt8 := dkwX5_init_1 ++ []
def dkwX5_init_0 : List UInt8 := [42, 183, 0, 3, 42, 187, 0, 9, 89, 6, 183, 0, 11, 181, 0, 14, 42, 27, 181, 0, 20, 42, 28]
abbrev dktX5_init_0 : List UInt8 := dkwX5_init_0 ++ dktX5_init_1
theorem dksX5_init_0 : cX5_init.data.toList.drop 0 = dktX5_init_0 := by decide +kernel
theorem dksX5_init_1 : cX5_init.data.toList.drop 23 = dktX5_init_1 := dk_seg dksX5_init_0 23 rfl rfl
theorem dX5_init_0 : decode cX5_init 0 = .ok (.aload_n 0, 1) := dk_42 (dk_at dksX5_init_0 0 rfl rfl)
theorem dX5_init_1 : decode cX5_init 1 = .ok (.invokespecial 3, 3) := dk_183 0 3 (dk_at dksX5_init_0 1 rfl rfl)
theorem dX5_init_4 : decode cX5_init 4 = .ok (.aload_n 0, 1) := dk_42 (dk_at dksX5_init_0 4 rfl rfl)
theorem dX5_init_5 : decode cX5_init 5 = .ok (.new 9, 3) := dk_187 0 9 (dk_at dksX5_init_0 5 rfl rfl)
theorem dX5_init_8 : decode cX5_init 8 = .ok (.dup, 1) := dk_89 (dk_at dksX5_init_0 8 rfl rfl)
theorem dX5_init_9 : decode cX5_init 9 = .ok (.iconst 3, 1) := dk_6 (dk_at dksX5_init_0 9 rfl rfl)
theorem dX5_init_10 : decode cX5_init 10 = .ok (.invokespecial 11, 3) := dk_183 0 11 (dk_at dksX5_init_0 10 rfl rfl)
theorem dX5_init_13 : decode cX5_init 13 = .ok (.putfield 14, 3) := dk_181 0 14 (dk_at dksX5_init_0 13 rfl rfl)
theorem dX5_init_16 : decode cX5_init 16 = .ok (.aload_n 0, 1) := dk_42 (dk_at dksX5_init_0 16 rfl rfl)
theorem dX5_init_17 : decode cX5_init 17 = .ok (.iload_n 1, 1) := dk_27 (dk_at dksX5_init_0 17 rfl rfl)
theorem dX5_init_18 : decode cX5_init 18 = .ok (.putfield 20, 3) := dk_181 0 20 (dk_at dksX5_init_0 18 rfl rfl)
theorem dX5_init_21 : decode cX5_init 21 = .ok (.aload_n 0, 1) := dk_42 (dk_at dksX5_init_0 21 rfl rfl)
theorem dX5_init_22 : decode cX5_init 22 = .ok (.iload_n 2, 1) := dk_28 (dk_at dksX5_init_0 22 rfl rfl)
theorem dX5_init_23 : decode cX5_init 23 = .ok (.putfield 24, 3) := dk_181 0 24 (dk_at dksX5_init_1 0 rfl rfl)
theorem dX5_init_26 : decode cX5_init 26 = .ok (.return_, 1) := dk_177 (dk_at dksX5_init_1 3 rfl rfl)
abbrev cX5_isLegible : ByteArray := prog_9_method_5_code
def yX5_isLegible : MethodName := ⟨RX5, "isLegible", "(II)Z"⟩
def dkwX5_isLegible_1 : List UInt8 := [167, 0, 4, 3, 172]
abbrev dktX5_isLegible_1 : List UInt8 := dkwX5_isLegible_1 ++ []
def dkwX5_isLegible_0 : List UInt8 := [42, 180, 0, 24, 28, 16, 10, 42, 180, 0, 20, 27, 100, 184, 0, 55, 104, 100, 163, 0, 7, 4]
abbrev dktX5_isLegible_0 : List UInt8 := dkwX5_isLegible_0 ++ dktX5_isLegible_1
theorem dksX5_isLegible_0 : cX5_isLegible.data.toList.drop 0 = dktX5_isLegible_0 := by decide +kernel
theorem dksX5_isLegible_1 : cX5_isLegible.data.toList.drop 22 = dktX5_isLegible_1 := dk_seg dksX5_isLegible_0 22 rfl rfl
theorem dX5_isLegible_0 : decode cX5_isLegible 0 = .ok (.aload_n 0, 1) := dk_42 (dk_at dksX5_isLegible_0 0 rfl rfl)
theorem dX5_isLegible_1 : decode cX5_isLegible 1 = .ok (.getfield 24, 3) := dk_180 0 24 (dk_at dksX5_isLegible_0 1 rfl rfl)
theorem dX5_isLegible_4 : decode cX5_isLegible 4 = .ok (.iload_n 2, 1) := dk_28 (dk_at dksX5_isLegible_0 4 rfl rfl)
theorem dX5_isLegible_5 : decode cX5_isLegible 5 = .ok (.bipush 10, 2) := dk_16 10 (dk_at dksX5_isLegible_0 5 rfl rfl)
theorem dX5_isLegible_7 : decode cX5_isLegible 7 = .ok (.aload_n 0, 1) := dk_42 (dk_at dksX5_isLegible_0 7 rfl rfl)
theorem dX5_isLegible_8 : decode cX5_isLegible 8 = .ok (.getfield 20, 3) := dk_180 0 20 (dk_at dksX5_isLegible_0 8 rfl rfl)
theorem dX5_isLegible_11 : decode cX5_isLegible 11 = .ok (.iload_n 1, 1) := dk_27 (dk_at dksX5_isLegible_0 11 rfl rfl)
theorem dX5_isLegible_12 : decode cX5_isLegible 12 = .ok (.isub, 1) := dk_100 (dk_at dksX5_isLegible_0 12 rfl rfl)
theorem dX5_isLegible_13 : decode cX5_isLegible 13 = .ok (.invokestatic 55, 3) := dk_184 0 55 (dk_at dksX5_isLegible_0 13 rfl rfl)
theorem dX5_isLegible_16 : decode cX5_isLegible 16 = .ok (.imul, 1) := dk_104 (dk_at dksX5_isLegible_0 16 rfl rfl)
theorem dX5_isLegible_17 : decode cX5_isLegible 17 = .ok (.isub, 1) := dk_100 (dk_at dksX5_isLegible_0 17 rfl rfl)
theorem dX5_isLegible_18 : decode cX5_isLegible 18 = .ok (.if_icmp .gt 7, 3) := dk_163 0 7 (dk_at dksX5_isLegible_0 18 rfl rfl)
theorem dX5_isLegible_21 : decode cX5_isLegible 21 = .ok (.iconst 1, 1) := dk_4 (dk_at dksX5_isLegible_0 21 rfl rfl)
theorem dX5_isLegible_22 : decode cX5_isLegible 22 = .ok (.goto 4, 3) := dk_167 0 4 (dk_at dksX5_isLegible_1 0 rfl rfl)
theorem dX5_isLegible_25 : decode cX5_isLegible 25 = .ok (.iconst 0, 1) := dk_3 (dk_at dksX5_isLegible_1 3 rfl rfl)
theorem dX5_isLegible_26 : decode cX5_isLegible 26 = .ok (.ireturn, 1) := dk_172 (dk_at dksX5_isLegible_1 4 rfl rfl)
abbrev cX5_many : ByteArray := prog_9_method_3_code
def yX5_many : MethodName := ⟨RX5, "many", "(I)I"⟩
def dkwX5_many_2 : List UInt8 := [172]
abbrev dktX5_many_2 : List UInt8 := dkwX5_many_2 ++ []
def dkwX5_many_1 : List UInt8 := [192, 0, 38, 180, 0, 48, 27, 160, 0, 7, 4, 167, 0, 4, 3, 96, 61, 132, 3, 1, 167, 255, 216, 28]
abbrev dktX5_many_1 : List UInt8 := dkwX5_many_1 ++ dktX5_many_2
def dkwX5_many_0 : List UInt8 := [3, 61, 3, 62, 29, 42, 180, 0, 14, 182, 0, 30, 162, 0, 35, 28, 42, 180, 0, 14, 29, 182, 0, 34]
abbrev dktX5_many_0 : List UInt8 := dkwX5_many_0 ++ dktX5_many_1
theorem dksX5_many_0 : cX5_many.data.toList.drop 0 = dktX5_many_0 := by decide +kernel
theorem dksX5_many_1 : cX5_many.data.toList.drop 24 = dktX5_many_1 := dk_seg dksX5_many_0 24 rfl rfl
theorem dksX5_many_2 : cX5_many.data.toList.drop 48 = dktX5_many_2 := dk_seg dksX5_many_1 24 rfl rfl
theorem dX5_many_0 : decode cX5_many 0 = .ok (.iconst 0, 1) := dk_3 (dk_at dksX5_many_0 0 rfl rfl)
theorem dX5_many_1 : decode cX5_many 1 = .ok (.istore_n 2, 1) := dk_61 (dk_at dksX5_many_0 1 rfl rfl)
theorem dX5_many_2 : decode cX5_many 2 = .ok (.iconst 0, 1) := dk_3 (dk_at dksX5_many_0 2 rfl rfl)
theorem dX5_many_3 : decode cX5_many 3 = .ok (.istore_n 3, 1) := dk_62 (dk_at dksX5_many_0 3 rfl rfl)
theorem dX5_many_4 : decode cX5_many 4 = .ok (.iload_n 3, 1) := dk_29 (dk_at dksX5_many_0 4 rfl rfl)
theorem dX5_many_5 : decode cX5_many 5 = .ok (.aload_n 0, 1) := dk_42 (dk_at dksX5_many_0 5 rfl rfl)
theorem dX5_many_6 : decode cX5_many 6 = .ok (.getfield 14, 3) := dk_180 0 14 (dk_at dksX5_many_0 6 rfl rfl)
theorem dX5_many_9 : decode cX5_many 9 = .ok (.invokevirtual 30, 3) := dk_182 0 30 (dk_at dksX5_many_0 9 rfl rfl)
theorem dX5_many_12 : decode cX5_many 12 = .ok (.if_icmp .ge 35, 3) := dk_162 0 35 (dk_at dksX5_many_0 12 rfl rfl)
theorem dX5_many_15 : decode cX5_many 15 = .ok (.iload_n 2, 1) := dk_28 (dk_at dksX5_many_0 15 rfl rfl)
theorem dX5_many_16 : decode cX5_many 16 = .ok (.aload_n 0, 1) := dk_42 (dk_at dksX5_many_0 16 rfl rfl)
theorem dX5_many_17 : decode cX5_many 17 = .ok (.getfield 14, 3) := dk_180 0 14 (dk_at dksX5_many_0 17 rfl rfl)
theorem dX5_many_20 : decode cX5_many 20 = .ok (.iload_n 3, 1) := dk_29 (dk_at dksX5_many_0 20 rfl rfl)
theorem dX5_many_21 : decode cX5_many 21 = .ok (.invokevirtual 34, 3) := dk_182 0 34 (dk_at dksX5_many_0 21 rfl rfl)
theorem dX5_many_24 : decode cX5_many 24 = .ok (.checkcast 38, 3) := dk_192 0 38 (dk_at dksX5_many_1 0 rfl rfl)
theorem dX5_many_27 : decode cX5_many 27 = .ok (.getfield 48, 3) := dk_180 0 48 (dk_at dksX5_many_1 3 rfl rfl)
theorem dX5_many_30 : decode cX5_many 30 = .ok (.iload_n 1, 1) := dk_27 (dk_at dksX5_many_1 6 rfl rfl)
theorem dX5_many_31 : decode cX5_many 31 = .ok (.if_icmp .ne 7, 3) := dk_160 0 7 (dk_at dksX5_many_1 7 rfl rfl)
theorem dX5_many_34 : decode cX5_many 34 = .ok (.iconst 1, 1) := dk_4 (dk_at dksX5_many_1 10 rfl rfl)
theorem dX5_many_35 : decode cX5_many 35 = .ok (.goto 4, 3) := dk_167 0 4 (dk_at dksX5_many_1 11 rfl rfl)
theorem dX5_many_38 : decode cX5_many 38 = .ok (.iconst 0, 1) := dk_3 (dk_at dksX5_many_1 14 rfl rfl)
theorem dX5_many_39 : decode cX5_many 39 = .ok (.iadd, 1) := dk_96 (dk_at dksX5_many_1 15 rfl rfl)
theorem dX5_many_40 : decode cX5_many 40 = .ok (.istore_n 2, 1) := dk_61 (dk_at dksX5_many_1 16 rfl rfl)
theorem dX5_many_41 : decode cX5_many 41 = .ok (.iinc 3 1, 3) := dk_132 3 1 (dk_at dksX5_many_1 17 rfl rfl)
theorem dX5_many_44 : decode cX5_many 44 = .ok (.goto (-40), 3) := dk_167 255 216 (dk_at dksX5_many_1 20 rfl rfl)
theorem dX5_many_47 : decode cX5_many 47 = .ok (.iload_n 2, 1) := dk_28 (dk_at dksX5_many_1 23 rfl rfl)
theorem dX5_many_48 : decode cX5_many 48 = .ok (.ireturn, 1) := dk_172 (dk_at dksX5_many_2 0 rfl rfl)
abbrev cX5_fades : ByteArray := prog_9_method_6_code
def yX5_fades : MethodName := ⟨RX5, "fades", "(I)V"⟩
def dkwX5_fades_0 : List UInt8 := [42, 16, 99, 42, 180, 0, 24, 27, 96, 184, 0, 60, 181, 0, 24, 177]
abbrev dktX5_fades_0 : List UInt8 := dkwX5_fades_0 ++ []
theorem dksX5_fades_0 : cX5_fades.data.toList.drop 0 = dktX5_fades_0 := by decide +kernel
theorem dX5_fades_0 : decode cX5_fades 0 = .ok (.aload_n 0, 1) := dk_42 (dk_at dksX5_fades_0 0 rfl rfl)
theorem dX5_fades_1 : decode cX5_fades 1 = .ok (.bipush 99, 2) := dk_16 99 (dk_at dksX5_fades_0 1 rfl rfl)
theorem dX5_fades_3 : decode cX5_fades 3 = .ok (.aload_n 0, 1) := dk_42 (dk_at dksX5_fades_0 3 rfl rfl)
theorem dX5_fades_4 : decode cX5_fades 4 = .ok (.getfield 24, 3) := dk_180 0 24 (dk_at dksX5_fades_0 4 rfl rfl)
theorem dX5_fades_7 : decode cX5_fades 7 = .ok (.iload_n 1, 1) := dk_27 (dk_at dksX5_fades_0 7 rfl rfl)
theorem dX5_fades_8 : decode cX5_fades 8 = .ok (.iadd, 1) := dk_96 (dk_at dksX5_fades_0 8 rfl rfl)
theorem dX5_fades_9 : decode cX5_fades 9 = .ok (.invokestatic 60, 3) := dk_184 0 60 (dk_at dksX5_fades_0 9 rfl rfl)
theorem dX5_fades_12 : decode cX5_fades 12 = .ok (.putfield 24, 3) := dk_181 0 24 (dk_at dksX5_fades_0 12 rfl rfl)
theorem dX5_fades_15 : decode cX5_fades 15 = .ok (.return_, 1) := dk_177 (dk_at dksX5_fades_0 15 rfl rfl)
abbrev cX5_shows : ByteArray := prog_9_method_4_code
def yX5_shows : MethodName := ⟨RX5, "shows", "()I"⟩
def dkwX5_shows_2 : List UInt8 := [181, 0, 48, 132, 2, 1, 167, 255, 211, 27, 172]
abbrev dktX5_shows_2 : List UInt8 := dkwX5_shows_2 ++ []
def dkwX5_shows_1 : List UInt8 := [182, 0, 34, 192, 0, 38, 78, 45, 45, 180, 0, 48, 154, 0, 7, 4, 167, 0, 7, 45, 180, 0, 48]
abbrev dktX5_shows_1 : List UInt8 := dkwX5_shows_1 ++ dktX5_shows_2
def dkwX5_shows_0 : List UInt8 := [42, 3, 182, 0, 51, 60, 3, 61, 28, 42, 180, 0, 14, 182, 0, 30, 162, 0, 40, 42, 180, 0, 14, 28]
abbrev dktX5_shows_0 : List UInt8 := dkwX5_shows_0 ++ dktX5_shows_1
theorem dksX5_shows_0 : cX5_shows.data.toList.drop 0 = dktX5_shows_0 := by decide +kernel
theorem dksX5_shows_1 : cX5_shows.data.toList.drop 24 = dktX5_shows_1 := dk_seg dksX5_shows_0 24 rfl rfl
theorem dksX5_shows_2 : cX5_shows.data.toList.drop 47 = dktX5_shows_2 := dk_seg dksX5_shows_1 23 rfl rfl
theorem dX5_shows_0 : decode cX5_shows 0 = .ok (.aload_n 0, 1) := dk_42 (dk_at dksX5_shows_0 0 rfl rfl)
theorem dX5_shows_1 : decode cX5_shows 1 = .ok (.iconst 0, 1) := dk_3 (dk_at dksX5_shows_0 1 rfl rfl)
theorem dX5_shows_2 : decode cX5_shows 2 = .ok (.invokevirtual 51, 3) := dk_182 0 51 (dk_at dksX5_shows_0 2 rfl rfl)
theorem dX5_shows_5 : decode cX5_shows 5 = .ok (.istore_n 1, 1) := dk_60 (dk_at dksX5_shows_0 5 rfl rfl)
theorem dX5_shows_6 : decode cX5_shows 6 = .ok (.iconst 0, 1) := dk_3 (dk_at dksX5_shows_0 6 rfl rfl)
theorem dX5_shows_7 : decode cX5_shows 7 = .ok (.istore_n 2, 1) := dk_61 (dk_at dksX5_shows_0 7 rfl rfl)
theorem dX5_shows_8 : decode cX5_shows 8 = .ok (.iload_n 2, 1) := dk_28 (dk_at dksX5_shows_0 8 rfl rfl)
theorem dX5_shows_9 : decode cX5_shows 9 = .ok (.aload_n 0, 1) := dk_42 (dk_at dksX5_shows_0 9 rfl rfl)
theorem dX5_shows_10 : decode cX5_shows 10 = .ok (.getfield 14, 3) := dk_180 0 14 (dk_at dksX5_shows_0 10 rfl rfl)
theorem dX5_shows_13 : decode cX5_shows 13 = .ok (.invokevirtual 30, 3) := dk_182 0 30 (dk_at dksX5_shows_0 13 rfl rfl)
theorem dX5_shows_16 : decode cX5_shows 16 = .ok (.if_icmp .ge 40, 3) := dk_162 0 40 (dk_at dksX5_shows_0 16 rfl rfl)
theorem dX5_shows_19 : decode cX5_shows 19 = .ok (.aload_n 0, 1) := dk_42 (dk_at dksX5_shows_0 19 rfl rfl)
theorem dX5_shows_20 : decode cX5_shows 20 = .ok (.getfield 14, 3) := dk_180 0 14 (dk_at dksX5_shows_0 20 rfl rfl)
theorem dX5_shows_23 : decode cX5_shows 23 = .ok (.iload_n 2, 1) := dk_28 (dk_at dksX5_shows_0 23 rfl rfl)
theorem dX5_shows_24 : decode cX5_shows 24 = .ok (.invokevirtual 34, 3) := dk_182 0 34 (dk_at dksX5_shows_1 0 rfl rfl)
theorem dX5_shows_27 : decode cX5_shows 27 = .ok (.checkcast 38, 3) := dk_192 0 38 (dk_at dksX5_shows_1 3 rfl rfl)
theorem dX5_shows_30 : decode cX5_shows 30 = .ok (.astore_n 3, 1) := dk_78 (dk_at dksX5_shows_1 6 rfl rfl)
theorem dX5_shows_31 : decode cX5_shows 31 = .ok (.aload_n 3, 1) := dk_45 (dk_at dksX5_shows_1 7 rfl rfl)
theorem dX5_shows_32 : decode cX5_shows 32 = .ok (.aload_n 3, 1) := dk_45 (dk_at dksX5_shows_1 8 rfl rfl)
theorem dX5_shows_33 : decode cX5_shows 33 = .ok (.getfield 48, 3) := dk_180 0 48 (dk_at dksX5_shows_1 9 rfl rfl)
theorem dX5_shows_36 : decode cX5_shows 36 = .ok (.ifCond .ne 7, 3) := dk_154 0 7 (dk_at dksX5_shows_1 12 rfl rfl)
theorem dX5_shows_39 : decode cX5_shows 39 = .ok (.iconst 1, 1) := dk_4 (dk_at dksX5_shows_1 15 rfl rfl)
theorem dX5_shows_40 : decode cX5_shows 40 = .ok (.goto 7, 3) := dk_167 0 7 (dk_at dksX5_shows_1 16 rfl rfl)
theorem dX5_shows_43 : decode cX5_shows 43 = .ok (.aload_n 3, 1) := dk_45 (dk_at dksX5_shows_1 19 rfl rfl)
theorem dX5_shows_44 : decode cX5_shows 44 = .ok (.getfield 48, 3) := dk_180 0 48 (dk_at dksX5_shows_1 20 rfl rfl)
theorem dX5_shows_47 : decode cX5_shows 47 = .ok (.putfield 48, 3) := dk_181 0 48 (dk_at dksX5_shows_2 0 rfl rfl)
theorem dX5_shows_50 : decode cX5_shows 50 = .ok (.iinc 2 1, 3) := dk_132 2 1 (dk_at dksX5_shows_2 3 rfl rfl)
theorem dX5_shows_53 : decode cX5_shows 53 = .ok (.goto (-45), 3) := dk_167 255 211 (dk_at dksX5_shows_2 6 rfl rfl)
theorem dX5_shows_56 : decode cX5_shows 56 = .ok (.iload_n 1, 1) := dk_27 (dk_at dksX5_shows_2 9 rfl rfl)
theorem dX5_shows_57 : decode cX5_shows 57 = .ok (.ireturn, 1) := dk_172 (dk_at dksX5_shows_2 10 rfl rfl)
theorem q125 : (Jvm.Cond.initialized "WhalingLogs$Page") ∈ lw_all := lw_g (lw_at lw_m1 32 rfl) rfl
theorem q677 : (Jvm.Cond.selects "WhalingLogs$Page" ({ cls := "java/lang/Object", name := "getClass", desc := "()Ljava/lang/Class;" } : Jvm.MethodName) ({ cls := "java/lang/Object", name := "getClass", desc := "()Ljava/lang/Class;" } : Jvm.MethodName)) ∈ lw_all := lw_g (lw_at lw_m3 104 rfl) rfl
theorem q935 : (Jvm.Cond.instanceMethod ({ cls := "WhalingLogs$Page", name := "copy", desc := "()LWhalingLogs$Page;" } : Jvm.MethodName)) ∈ lw_all := lw_g (lw_at lw_m4 122 rfl) rfl
theorem q936 : (Jvm.Cond.selects "WhalingLogs$Page" ({ cls := "WhalingLogs$Page", name := "copy", desc := "()LWhalingLogs$Page;" } : Jvm.MethodName) ({ cls := "WhalingLogs$Page", name := "copy", desc := "()LWhalingLogs$Page;" } : Jvm.MethodName)) ∈ lw_all := lw_g (lw_at lw_m4 123 rfl) rfl
theorem q937 : (Jvm.Cond.code ({ cls := "WhalingLogs$Page", name := "copy", desc := "()LWhalingLogs$Page;" } : Jvm.MethodName) prog_9_method_2_code (3 : Nat) (Option.some (Jvm.ClassFile.FieldType.object "WhalingLogs$Page"))) ∈ lw_all := lw_g (lw_at lw_m4 124 rfl) rfl
theorem q938 : (Jvm.Cond.classLink "WhalingLogs$Page" (15 : Nat) "WhalingLogs$Page") ∈ lw_all := lw_g (lw_at lw_m4 125 rfl) rfl
theorem q939 : (Jvm.Cond.instantiable "WhalingLogs$Page" (3 : Nat)) ∈ lw_all := lw_g (lw_at lw_m4 126 rfl) rfl
theorem q940 : (Jvm.Cond.methodLink "WhalingLogs$Page" (27 : Nat) ({ cls := "WhalingLogs$Page", name := "<init>", desc := "(II)V" } : Jvm.MethodName)) ∈ lw_all := lw_g (lw_at lw_m4 127 rfl) rfl
theorem q941 : (Jvm.Cond.instanceMethod ({ cls := "WhalingLogs$Page", name := "<init>", desc := "(II)V" } : Jvm.MethodName)) ∈ lw_all := lw_g (lw_at lw_m4 128 rfl) rfl
theorem q942 : (Jvm.Cond.code ({ cls := "WhalingLogs$Page", name := "<init>", desc := "(II)V" } : Jvm.MethodName) prog_9_method_1_code (3 : Nat) (Option.none : Option Jvm.ClassFile.FieldType)) ∈ lw_all := lw_g (lw_at lw_m4 129 rfl) rfl
theorem q943 : (Jvm.Cond.methodLink "WhalingLogs$Page" (3 : Nat) ({ cls := "java/lang/Object", name := "<init>", desc := "()V" } : Jvm.MethodName)) ∈ lw_all := lw_g (lw_at lw_m4 130 rfl) rfl
theorem q944 : (Jvm.Cond.classLink "WhalingLogs$Page" (9 : Nat) "java/util/ArrayList") ∈ lw_all := lw_g (lw_at lw_m4 131 rfl) rfl
theorem q945 : (Jvm.Cond.methodLink "WhalingLogs$Page" (11 : Nat) ({ cls := "java/util/ArrayList", name := "<init>", desc := "(I)V" } : Jvm.MethodName)) ∈ lw_all := lw_g (lw_at lw_m4 132 rfl) rfl
theorem q962 : (Jvm.Cond.fieldLink "WhalingLogs$Page" (20 : Nat) "WhalingLogs$Page" "ink" "I") ∈ lw_all := lw_g (lw_at lw_m4 149 rfl) rfl
theorem q964 : (Jvm.Cond.fieldLink "WhalingLogs$Page" (14 : Nat) "WhalingLogs$Page" "entries" "Ljava/util/ArrayList;") ∈ lw_all := lw_g (lw_at lw_m4 151 rfl) rfl
theorem q968 : (Jvm.Cond.fieldLink "WhalingLogs$Page" (24 : Nat) "WhalingLogs$Page" "fade" "I") ∈ lw_all := lw_g (lw_at lw_m4 155 rfl) rfl
theorem q971 : (Jvm.Cond.laysFinal "WhalingLogs$Page" "WhalingLogs$Page" "ink" "I") ∈ lw_all := lw_g (lw_at lw_m4 158 rfl) rfl
theorem q972 : (Jvm.Cond.soleField "WhalingLogs$Page" "ink") ∈ lw_all := lw_g (lw_at lw_m4 159 rfl) rfl
theorem q973 : (Jvm.Cond.laysFinal "WhalingLogs$Page" "WhalingLogs$Page" "entries" "Ljava/util/ArrayList;") ∈ lw_all := lw_g (lw_at lw_m4 160 rfl) rfl
theorem q974 : (Jvm.Cond.soleField "WhalingLogs$Page" "entries") ∈ lw_all := lw_g (lw_at lw_m4 161 rfl) rfl
theorem q975 : (Jvm.Cond.lays "WhalingLogs$Page" "WhalingLogs$Page" "fade" "I") ∈ lw_all := lw_g (lw_at lw_m4 162 rfl) rfl
theorem q976 : (Jvm.Cond.soleField "WhalingLogs$Page" "fade") ∈ lw_all := lw_g (lw_at lw_m4 163 rfl) rfl
theorem q977 : (Jvm.Cond.superclass "WhalingLogs$Page" "java/lang/Object") ∈ lw_all := lw_g (lw_at lw_m4 164 rfl) rfl
theorem q978 : (Jvm.Cond.methodLink "WhalingLogs$Page" (30 : Nat) ({ cls := "java/util/ArrayList", name := "size", desc := "()I" } : Jvm.MethodName)) ∈ lw_all := lw_g (lw_at lw_m4 165 rfl) rfl
theorem q979 : (Jvm.Cond.methodLink "WhalingLogs$Page" (34 : Nat) ({ cls := "java/util/ArrayList", name := "get", desc := "(I)Ljava/lang/Object;" } : Jvm.MethodName)) ∈ lw_all := lw_g (lw_at lw_m4 166 rfl) rfl
theorem q980 : (Jvm.Cond.classLink "WhalingLogs$Page" (38 : Nat) "WhalingLogs$Entry") ∈ lw_all := lw_g (lw_at lw_m4 167 rfl) rfl
theorem q981 : (Jvm.Cond.methodLink "WhalingLogs$Page" (40 : Nat) ({ cls := "WhalingLogs$Entry", name := "copy", desc := "()LWhalingLogs$Entry;" } : Jvm.MethodName)) ∈ lw_all := lw_g (lw_at lw_m4 168 rfl) rfl
theorem q1001 : (Jvm.Cond.fieldLinkNest "WhalingLogs$Page" (48 : Nat) "WhalingLogs$Entry" "state" "I" "WhalingLogs") ∈ lw_tbl := lw_at lw_m4 188 rfl
theorem q1014 : (Jvm.Cond.methodLink "WhalingLogs$Page" (44 : Nat) ({ cls := "java/util/ArrayList", name := "add", desc := "(Ljava/lang/Object;)Z" } : Jvm.MethodName)) ∈ lw_all := lw_g (lw_at lw_m4 201 rfl) rfl
theorem q1322 : (Jvm.Cond.instanceMethod ({ cls := "WhalingLogs$Page", name := "isLegible", desc := "(II)Z" } : Jvm.MethodName)) ∈ lw_all := lw_g (lw_at lw_m6 29 rfl) rfl
theorem q1323 : (Jvm.Cond.selects "WhalingLogs$Page" ({ cls := "WhalingLogs$Page", name := "isLegible", desc := "(II)Z" } : Jvm.MethodName) ({ cls := "WhalingLogs$Page", name := "isLegible", desc := "(II)Z" } : Jvm.MethodName)) ∈ lw_all := lw_g (lw_at lw_m6 30 rfl) rfl
theorem q1324 : (Jvm.Cond.code ({ cls := "WhalingLogs$Page", name := "isLegible", desc := "(II)Z" } : Jvm.MethodName) prog_9_method_5_code (3 : Nat) (Option.some Jvm.ClassFile.FieldType.boolean)) ∈ lw_all := lw_g (lw_at lw_m6 31 rfl) rfl
theorem q1325 : (Jvm.Cond.methodLink "WhalingLogs$Page" (55 : Nat) ({ cls := "java/lang/Math", name := "abs", desc := "(I)I" } : Jvm.MethodName)) ∈ lw_all := lw_g (lw_at lw_m6 32 rfl) rfl
theorem q1329 : (Jvm.Cond.instanceMethod ({ cls := "WhalingLogs$Page", name := "many", desc := "(I)I" } : Jvm.MethodName)) ∈ lw_all := lw_g (lw_at lw_m6 36 rfl) rfl
theorem q1330 : (Jvm.Cond.selects "WhalingLogs$Page" ({ cls := "WhalingLogs$Page", name := "many", desc := "(I)I" } : Jvm.MethodName) ({ cls := "WhalingLogs$Page", name := "many", desc := "(I)I" } : Jvm.MethodName)) ∈ lw_all := lw_g (lw_at lw_m6 37 rfl) rfl
theorem q1331 : (Jvm.Cond.code ({ cls := "WhalingLogs$Page", name := "many", desc := "(I)I" } : Jvm.MethodName) prog_9_method_3_code (4 : Nat) (Option.some Jvm.ClassFile.FieldType.int)) ∈ lw_all := lw_g (lw_at lw_m6 38 rfl) rfl
theorem q1333 : (Jvm.Cond.instanceMethod ({ cls := "WhalingLogs$Page", name := "fades", desc := "(I)V" } : Jvm.MethodName)) ∈ lw_all := lw_g (lw_at lw_m6 40 rfl) rfl
theorem q1334 : (Jvm.Cond.selects "WhalingLogs$Page" ({ cls := "WhalingLogs$Page", name := "fades", desc := "(I)V" } : Jvm.MethodName) ({ cls := "WhalingLogs$Page", name := "fades", desc := "(I)V" } : Jvm.MethodName)) ∈ lw_all := lw_g (lw_at lw_m6 41 rfl) rfl
theorem q1335 : (Jvm.Cond.code ({ cls := "WhalingLogs$Page", name := "fades", desc := "(I)V" } : Jvm.MethodName) prog_9_method_6_code (2 : Nat) (Option.none : Option Jvm.ClassFile.FieldType)) ∈ lw_all := lw_g (lw_at lw_m6 42 rfl) rfl
theorem q1336 : (Jvm.Cond.methodLink "WhalingLogs$Page" (60 : Nat) ({ cls := "java/lang/Math", name := "min", desc := "(II)I" } : Jvm.MethodName)) ∈ lw_all := lw_g (lw_at lw_m6 43 rfl) rfl
theorem q1338 : (Jvm.Cond.instanceMethod ({ cls := "WhalingLogs$Page", name := "shows", desc := "()I" } : Jvm.MethodName)) ∈ lw_all := lw_g (lw_at lw_m6 45 rfl) rfl
theorem q1339 : (Jvm.Cond.selects "WhalingLogs$Page" ({ cls := "WhalingLogs$Page", name := "shows", desc := "()I" } : Jvm.MethodName) ({ cls := "WhalingLogs$Page", name := "shows", desc := "()I" } : Jvm.MethodName)) ∈ lw_all := lw_g (lw_at lw_m6 46 rfl) rfl
theorem q1340 : (Jvm.Cond.code ({ cls := "WhalingLogs$Page", name := "shows", desc := "()I" } : Jvm.MethodName) prog_9_method_4_code (4 : Nat) (Option.some Jvm.ClassFile.FieldType.int)) ∈ lw_all := lw_g (lw_at lw_m6 47 rfl) rfl
theorem q1341 : (Jvm.Cond.methodLink "WhalingLogs$Page" (51 : Nat) ({ cls := "WhalingLogs$Page", name := "many", desc := "(I)I" } : Jvm.MethodName)) ∈ lw_all := lw_g (lw_at lw_m6 48 rfl) rfl
theorem q2617 : (Jvm.Cond.castable "WhalingLogs$Page" "java/lang/Object") ∈ lw_tbl := lw_at lw_m11 124 rfl
theorem in_X5 : ∀ w ∈ wsX50, w ∈ lw_all := lw_in wsX50 [971, 973, 975] (by decide +kernel) (by decide +kernel)
/-! WhalingLogs$Entry -/
set_option maxRecDepth 100000
def RX6 : String := "WhalingLogs$Entry"
def TX6 : u_T := fun k => match k with
  | 0 => ("WhalingLogs$Entry", "day", "I", true)
  | 1 => ("WhalingLogs$Entry", "cell", "I", true)
  | 2 => ("WhalingLogs$Entry", "witness", "I", true)
  | _ => ("WhalingLogs$Entry", "state", "I", false)
def tyX6 : Nat → FieldType := fun k => match k with
  | 0 => .int
  | 1 => .int
  | 2 => .int
  | _ => .int
abbrev wsX60 : List Cond := u_ws RX6 TX6 4
theorem nmX6 : ∀ a, a < 4 → ∀ b, b < 4 → a ≠ b → (TX6 a).2.1 ≠ (TX6 b).2.1 := by decide +kernel
theorem tyX6_ok : ∀ k, k < 4 → parseFieldDescriptor (TX6 k).2.2.1 = some (tyX6 k) := by decide +kernel
abbrev cX6_copy : ByteArray := prog_5_method_2_code
def yX6_copy : MethodName := ⟨RX6, "copy", "()LWhalingLogs$Entry;"⟩
def dkwX6_copy_1 : List UInt8 := [180, 0, 24, 181, 0, 24, 43, 176]
abbrev dktX6_copy_1 : List UInt8 := dkwX6_copy_1 ++ []
def dkwX6_copy_0 : List UInt8 := [187, 0, 10, 89, 42, 180, 0, 9, 42, 180, 0, 15, 42, 180, 0, 18, 183, 0, 21, 76, 43, 42]
abbrev dktX6_copy_0 : List UInt8 := dkwX6_copy_0 ++ dktX6_copy_1
theorem dksX6_copy_0 : cX6_copy.data.toList.drop 0 = dktX6_copy_0 := by decide +kernel
theorem dksX6_copy_1 : cX6_copy.data.toList.drop 22 = dktX6_copy_1 := dk_seg dksX6_copy_0 22 rfl rfl
theorem dX6_copy_0 : decode cX6_copy 0 = .ok (.new 10, 3) := dk_187 0 10 (dk_at dksX6_copy_0 0 rfl rfl)
theorem dX6_copy_3 : decode cX6_copy 3 = .ok (.dup, 1) := dk_89 (dk_at dksX6_copy_0 3 rfl rfl)
theorem dX6_copy_4 : decode cX6_copy 4 = .ok (.aload_n 0, 1) := dk_42 (dk_at dksX6_copy_0 4 rfl rfl)
theorem dX6_copy_5 : decode cX6_copy 5 = .ok (.getfield 9, 3) := dk_180 0 9 (dk_at dksX6_copy_0 5 rfl rfl)
theorem dX6_copy_8 : decode cX6_copy 8 = .ok (.aload_n 0, 1) := dk_42 (dk_at dksX6_copy_0 8 rfl rfl)
theorem dX6_copy_9 : decode cX6_copy 9 = .ok (.getfield 15, 3) := dk_180 0 15 (dk_at dksX6_copy_0 9 rfl rfl)
theorem dX6_copy_12 : decode cX6_copy 12 = .ok (.aload_n 0, 1) := dk_42 (dk_at dksX6_copy_0 12 rfl rfl)
theorem dX6_copy_13 : decode cX6_copy 13 = .ok (.getfield 18, 3) := dk_180 0 18 (dk_at dksX6_copy_0 13 rfl rfl)
theorem dX6_copy_16 : decode cX6_copy 16 = .ok (.invokespecial 21, 3) := dk_183 0 21 (dk_at dksX6_copy_0 16 rfl rfl)
theorem dX6_copy_19 : decode cX6_copy 19 = .ok (.astore_n 1, 1) := dk_76 (dk_at dksX6_copy_0 19 rfl rfl)
theorem dX6_copy_20 : decode cX6_copy 20 = .ok (.aload_n 1, 1) := dk_43 (dk_at dksX6_copy_0 20 rfl rfl)
theorem dX6_copy_21 : decode cX6_copy 21 = .ok (.aload_n 0, 1) := dk_42 (dk_at dksX6_copy_0 21 rfl rfl)
theorem dX6_copy_22 : decode cX6_copy 22 = .ok (.getfield 24, 3) := dk_180 0 24 (dk_at dksX6_copy_1 0 rfl rfl)
theorem dX6_copy_25 : decode cX6_copy 25 = .ok (.putfield 24, 3) := dk_181 0 24 (dk_at dksX6_copy_1 3 rfl rfl)
theorem dX6_copy_28 : decode cX6_copy 28 = .ok (.aload_n 1, 1) := dk_43 (dk_at dksX6_copy_1 6 rfl rfl)
theorem dX6_copy_29 : decode cX6_copy 29 = .ok (.areturn, 1) := dk_176 (dk_at dksX6_copy_1 7 rfl rfl)
abbrev cX6_init : ByteArray := prog_5_method_1_code
def yX6_init : MethodName := ⟨RX6, "<init>", "(III)V"⟩
def dkwX6_init_0 : List UInt8 := [42, 183, 0, 3, 42, 27, 181, 0, 9, 42, 28, 181, 0, 15, 42, 29, 181, 0, 18, 177]
abbrev dktX6_init_0 : List UInt8 := dkwX6_init_0 ++ []
theorem dksX6_init_0 : cX6_init.data.toList.drop 0 = dktX6_init_0 := by decide +kernel
theorem dX6_init_0 : decode cX6_init 0 = .ok (.aload_n 0, 1) := dk_42 (dk_at dksX6_init_0 0 rfl rfl)
theorem dX6_init_1 : decode cX6_init 1 = .ok (.invokespecial 3, 3) := dk_183 0 3 (dk_at dksX6_init_0 1 rfl rfl)
theorem dX6_init_4 : decode cX6_init 4 = .ok (.aload_n 0, 1) := dk_42 (dk_at dksX6_init_0 4 rfl rfl)
theorem dX6_init_5 : decode cX6_init 5 = .ok (.iload_n 1, 1) := dk_27 (dk_at dksX6_init_0 5 rfl rfl)
theorem dX6_init_6 : decode cX6_init 6 = .ok (.putfield 9, 3) := dk_181 0 9 (dk_at dksX6_init_0 6 rfl rfl)
theorem dX6_init_9 : decode cX6_init 9 = .ok (.aload_n 0, 1) := dk_42 (dk_at dksX6_init_0 9 rfl rfl)
theorem dX6_init_10 : decode cX6_init 10 = .ok (.iload_n 2, 1) := dk_28 (dk_at dksX6_init_0 10 rfl rfl)
theorem dX6_init_11 : decode cX6_init 11 = .ok (.putfield 15, 3) := dk_181 0 15 (dk_at dksX6_init_0 11 rfl rfl)
theorem dX6_init_14 : decode cX6_init 14 = .ok (.aload_n 0, 1) := dk_42 (dk_at dksX6_init_0 14 rfl rfl)
theorem dX6_init_15 : decode cX6_init 15 = .ok (.iload_n 3, 1) := dk_29 (dk_at dksX6_init_0 15 rfl rfl)
theorem dX6_init_16 : decode cX6_init 16 = .ok (.putfield 18, 3) := dk_181 0 18 (dk_at dksX6_init_0 16 rfl rfl)
theorem dX6_init_19 : decode cX6_init 19 = .ok (.return_, 1) := dk_177 (dk_at dksX6_init_0 19 rfl rfl)
abbrev cX6_number : ByteArray := prog_5_method_3_code
def yX6_number : MethodName := ⟨RX6, "number", "(I)I"⟩
def dkwX6_number_3 : List UInt8 := [180, 0, 24, 172]
abbrev dktX6_number_3 : List UInt8 := dkwX6_number_3 ++ []
def dkwX6_number_2 : List UInt8 := [42, 180, 0, 9, 167, 0, 21, 42, 180, 0, 15, 167, 0, 14, 42, 180, 0, 18, 167, 0, 7, 42]
abbrev dktX6_number_2 : List UInt8 := dkwX6_number_2 ++ dktX6_number_3
def dkwX6_number_1 : List UInt8 := [170, 0, 0, 0, 0, 0, 48, 0, 0, 0, 0, 0, 0, 0, 2, 0, 0, 0, 27, 0, 0, 0, 34, 0, 0, 0, 41]
abbrev dktX6_number_1 : List UInt8 := dkwX6_number_1 ++ dktX6_number_2
def dkwX6_number_0 : List UInt8 := [27]
abbrev dktX6_number_0 : List UInt8 := dkwX6_number_0 ++ dktX6_number_1
theorem dksX6_number_0 : cX6_number.data.toList.drop 0 = dktX6_number_0 := by decide +kernel
theorem dksX6_number_1 : cX6_number.data.toList.drop 1 = dktX6_number_1 := dk_seg dksX6_number_0 1 rfl rfl
theorem dksX6_number_2 : cX6_number.data.toList.drop 28 = dktX6_number_2 := dk_seg dksX6_number_1 27 rfl rfl
theorem dksX6_number_3 : cX6_number.data.toList.drop 50 = dktX6_number_3 := dk_seg dksX6_number_2 22 rfl rfl
theorem dX6_number_0 : decode cX6_number 0 = .ok (.iload_n 1, 1) := dk_27 (dk_at dksX6_number_0 0 rfl rfl)
theorem dX6_number_1 : decode cX6_number 1 = .ok (.tableswitch 48 0 2 #[27, 34, 41], 27) := by decide +kernel
theorem dX6_number_28 : decode cX6_number 28 = .ok (.aload_n 0, 1) := dk_42 (dk_at dksX6_number_2 0 rfl rfl)
theorem dX6_number_29 : decode cX6_number 29 = .ok (.getfield 9, 3) := dk_180 0 9 (dk_at dksX6_number_2 1 rfl rfl)
theorem dX6_number_32 : decode cX6_number 32 = .ok (.goto 21, 3) := dk_167 0 21 (dk_at dksX6_number_2 4 rfl rfl)
theorem dX6_number_35 : decode cX6_number 35 = .ok (.aload_n 0, 1) := dk_42 (dk_at dksX6_number_2 7 rfl rfl)
theorem dX6_number_36 : decode cX6_number 36 = .ok (.getfield 15, 3) := dk_180 0 15 (dk_at dksX6_number_2 8 rfl rfl)
theorem dX6_number_39 : decode cX6_number 39 = .ok (.goto 14, 3) := dk_167 0 14 (dk_at dksX6_number_2 11 rfl rfl)
theorem dX6_number_42 : decode cX6_number 42 = .ok (.aload_n 0, 1) := dk_42 (dk_at dksX6_number_2 14 rfl rfl)
theorem dX6_number_43 : decode cX6_number 43 = .ok (.getfield 18, 3) := dk_180 0 18 (dk_at dksX6_number_2 15 rfl rfl)
theorem dX6_number_46 : decode cX6_number 46 = .ok (.goto 7, 3) := dk_167 0 7 (dk_at dksX6_number_2 18 rfl rfl)
theorem dX6_number_49 : decode cX6_number 49 = .ok (.aload_n 0, 1) := dk_42 (dk_at dksX6_number_2 21 rfl rfl)
theorem dX6_number_50 : decode cX6_number 50 = .ok (.getfield 24, 3) := dk_180 0 24 (dk_at dksX6_number_3 0 rfl rfl)
theorem dX6_number_53 : decode cX6_number 53 = .ok (.ireturn, 1) := dk_172 (dk_at dksX6_number_3 3 rfl rfl)
abbrev cX6_told : ByteArray := prog_5_method_4_code
def yX6_told : MethodName := ⟨RX6, "told", "()Ljava/lang/String;"⟩
def dkwX6_told_4 : List UInt8 := [182, 0, 47, 167, 0, 5, 18, 51, 176]
abbrev dktX6_told_4 : List UInt8 := dkwX6_told_4 ++ []
def dkwX6_told_3 : List UInt8 := [182, 0, 38, 42, 180, 0, 9, 182, 0, 44, 18, 42, 182, 0, 38, 42, 180, 0, 18, 182, 0, 44]
abbrev dktX6_told_3 : List UInt8 := dkwX6_told_3 ++ dktX6_told_4
def dkwX6_told_2 : List UInt8 := [18, 27, 167, 0, 52, 187, 0, 29, 89, 183, 0, 31, 42, 180, 0, 15, 184, 0, 32, 182, 0, 38, 18, 42]
abbrev dktX6_told_2 : List UInt8 := dkwX6_told_2 ++ dktX6_told_3
def dkwX6_told_1 : List UInt8 := [171, 0, 0, 0, 0, 0, 0, 80, 0, 0, 0, 2, 0, 0, 0, 0, 0, 0, 0, 28, 0, 0, 0, 1, 0, 0, 0, 33]
abbrev dktX6_told_1 : List UInt8 := dkwX6_told_1 ++ dktX6_told_2
def dkwX6_told_0 : List UInt8 := [42, 180, 0, 24]
abbrev dktX6_told_0 : List UInt8 := dkwX6_told_0 ++ dktX6_told_1
theorem dksX6_told_0 : cX6_told.data.toList.drop 0 = dktX6_told_0 := by decide +kernel
theorem dksX6_told_1 : cX6_told.data.toList.drop 4 = dktX6_told_1 := dk_seg dksX6_told_0 4 rfl rfl
theorem dksX6_told_2 : cX6_told.data.toList.drop 32 = dktX6_told_2 := dk_seg dksX6_told_1 28 rfl rfl
theorem dksX6_told_3 : cX6_told.data.toList.drop 56 = dktX6_told_3 := dk_seg dksX6_told_2 24 rfl rfl
theorem dksX6_told_4 : cX6_told.data.toList.drop 78 = dktX6_told_4 := dk_seg dksX6_told_3 22 rfl rfl
theorem dX6_told_0 : decode cX6_told 0 = .ok (.aload_n 0, 1) := dk_42 (dk_at dksX6_told_0 0 rfl rfl)
theorem dX6_told_1 : decode cX6_told 1 = .ok (.getfield 24, 3) := dk_180 0 24 (dk_at dksX6_told_0 1 rfl rfl)
theorem dX6_told_4 : decode cX6_told 4 = .ok (.lookupswitch 80 #[(0, 28), (1, 33)], 28) := by decide +kernel
theorem dX6_told_32 : decode cX6_told 32 = .ok (.ldc 27, 2) := dk_18 27 (dk_at dksX6_told_2 0 rfl rfl)
theorem dX6_told_34 : decode cX6_told 34 = .ok (.goto 52, 3) := dk_167 0 52 (dk_at dksX6_told_2 2 rfl rfl)
theorem dX6_told_37 : decode cX6_told 37 = .ok (.new 29, 3) := dk_187 0 29 (dk_at dksX6_told_2 5 rfl rfl)
theorem dX6_told_40 : decode cX6_told 40 = .ok (.dup, 1) := dk_89 (dk_at dksX6_told_2 8 rfl rfl)
theorem dX6_told_41 : decode cX6_told 41 = .ok (.invokespecial 31, 3) := dk_183 0 31 (dk_at dksX6_told_2 9 rfl rfl)
theorem dX6_told_44 : decode cX6_told 44 = .ok (.aload_n 0, 1) := dk_42 (dk_at dksX6_told_2 12 rfl rfl)
theorem dX6_told_45 : decode cX6_told 45 = .ok (.getfield 15, 3) := dk_180 0 15 (dk_at dksX6_told_2 13 rfl rfl)
theorem dX6_told_48 : decode cX6_told 48 = .ok (.invokestatic 32, 3) := dk_184 0 32 (dk_at dksX6_told_2 16 rfl rfl)
theorem dX6_told_51 : decode cX6_told 51 = .ok (.invokevirtual 38, 3) := dk_182 0 38 (dk_at dksX6_told_2 19 rfl rfl)
theorem dX6_told_54 : decode cX6_told 54 = .ok (.ldc 42, 2) := dk_18 42 (dk_at dksX6_told_2 22 rfl rfl)
theorem dX6_told_56 : decode cX6_told 56 = .ok (.invokevirtual 38, 3) := dk_182 0 38 (dk_at dksX6_told_3 0 rfl rfl)
theorem dX6_told_59 : decode cX6_told 59 = .ok (.aload_n 0, 1) := dk_42 (dk_at dksX6_told_3 3 rfl rfl)
theorem dX6_told_60 : decode cX6_told 60 = .ok (.getfield 9, 3) := dk_180 0 9 (dk_at dksX6_told_3 4 rfl rfl)
theorem dX6_told_63 : decode cX6_told 63 = .ok (.invokevirtual 44, 3) := dk_182 0 44 (dk_at dksX6_told_3 7 rfl rfl)
theorem dX6_told_66 : decode cX6_told 66 = .ok (.ldc 42, 2) := dk_18 42 (dk_at dksX6_told_3 10 rfl rfl)
theorem dX6_told_68 : decode cX6_told 68 = .ok (.invokevirtual 38, 3) := dk_182 0 38 (dk_at dksX6_told_3 12 rfl rfl)
theorem dX6_told_71 : decode cX6_told 71 = .ok (.aload_n 0, 1) := dk_42 (dk_at dksX6_told_3 15 rfl rfl)
theorem dX6_told_72 : decode cX6_told 72 = .ok (.getfield 18, 3) := dk_180 0 18 (dk_at dksX6_told_3 16 rfl rfl)
theorem dX6_told_75 : decode cX6_told 75 = .ok (.invokevirtual 44, 3) := dk_182 0 44 (dk_at dksX6_told_3 19 rfl rfl)
theorem dX6_told_78 : decode cX6_told 78 = .ok (.invokevirtual 47, 3) := dk_182 0 47 (dk_at dksX6_told_4 0 rfl rfl)
theorem dX6_told_81 : decode cX6_told 81 = .ok (.goto 5, 3) := dk_167 0 5 (dk_at dksX6_told_4 3 rfl rfl)
theorem dX6_told_84 : decode cX6_told 84 = .ok (.ldc 51, 2) := dk_18 51 (dk_at dksX6_told_4 6 rfl rfl)
theorem dX6_told_86 : decode cX6_told 86 = .ok (.areturn, 1) := dk_176 (dk_at dksX6_told_4 8 rfl rfl)
theorem q127 : (Jvm.Cond.initialized "WhalingLogs$Entry") ∈ lw_all := lw_g (lw_at lw_m1 34 rfl) rfl
theorem q674 : (Jvm.Cond.selects "WhalingLogs$Entry" ({ cls := "java/lang/Object", name := "getClass", desc := "()Ljava/lang/Class;" } : Jvm.MethodName) ({ cls := "java/lang/Object", name := "getClass", desc := "()Ljava/lang/Class;" } : Jvm.MethodName)) ∈ lw_all := lw_g (lw_at lw_m3 101 rfl) rfl
theorem q982 : (Jvm.Cond.instanceMethod ({ cls := "WhalingLogs$Entry", name := "copy", desc := "()LWhalingLogs$Entry;" } : Jvm.MethodName)) ∈ lw_all := lw_g (lw_at lw_m4 169 rfl) rfl
theorem q983 : (Jvm.Cond.selects "WhalingLogs$Entry" ({ cls := "WhalingLogs$Entry", name := "copy", desc := "()LWhalingLogs$Entry;" } : Jvm.MethodName) ({ cls := "WhalingLogs$Entry", name := "copy", desc := "()LWhalingLogs$Entry;" } : Jvm.MethodName)) ∈ lw_all := lw_g (lw_at lw_m4 170 rfl) rfl
theorem q984 : (Jvm.Cond.code ({ cls := "WhalingLogs$Entry", name := "copy", desc := "()LWhalingLogs$Entry;" } : Jvm.MethodName) prog_5_method_2_code (2 : Nat) (Option.some (Jvm.ClassFile.FieldType.object "WhalingLogs$Entry"))) ∈ lw_all := lw_g (lw_at lw_m4 171 rfl) rfl
theorem q985 : (Jvm.Cond.classLink "WhalingLogs$Entry" (10 : Nat) "WhalingLogs$Entry") ∈ lw_all := lw_g (lw_at lw_m4 172 rfl) rfl
theorem q986 : (Jvm.Cond.instantiable "WhalingLogs$Entry" (4 : Nat)) ∈ lw_all := lw_g (lw_at lw_m4 173 rfl) rfl
theorem q987 : (Jvm.Cond.methodLink "WhalingLogs$Entry" (21 : Nat) ({ cls := "WhalingLogs$Entry", name := "<init>", desc := "(III)V" } : Jvm.MethodName)) ∈ lw_all := lw_g (lw_at lw_m4 174 rfl) rfl
theorem q988 : (Jvm.Cond.instanceMethod ({ cls := "WhalingLogs$Entry", name := "<init>", desc := "(III)V" } : Jvm.MethodName)) ∈ lw_all := lw_g (lw_at lw_m4 175 rfl) rfl
theorem q989 : (Jvm.Cond.code ({ cls := "WhalingLogs$Entry", name := "<init>", desc := "(III)V" } : Jvm.MethodName) prog_5_method_1_code (4 : Nat) (Option.none : Option Jvm.ClassFile.FieldType)) ∈ lw_all := lw_g (lw_at lw_m4 176 rfl) rfl
theorem q990 : (Jvm.Cond.methodLink "WhalingLogs$Entry" (3 : Nat) ({ cls := "java/lang/Object", name := "<init>", desc := "()V" } : Jvm.MethodName)) ∈ lw_all := lw_g (lw_at lw_m4 177 rfl) rfl
theorem q991 : (Jvm.Cond.fieldLink "WhalingLogs$Entry" (9 : Nat) "WhalingLogs$Entry" "day" "I") ∈ lw_all := lw_g (lw_at lw_m4 178 rfl) rfl
theorem q994 : (Jvm.Cond.fieldLink "WhalingLogs$Entry" (15 : Nat) "WhalingLogs$Entry" "cell" "I") ∈ lw_all := lw_g (lw_at lw_m4 181 rfl) rfl
theorem q997 : (Jvm.Cond.fieldLink "WhalingLogs$Entry" (18 : Nat) "WhalingLogs$Entry" "witness" "I") ∈ lw_all := lw_g (lw_at lw_m4 184 rfl) rfl
theorem q1000 : (Jvm.Cond.fieldLink "WhalingLogs$Entry" (24 : Nat) "WhalingLogs$Entry" "state" "I") ∈ lw_all := lw_g (lw_at lw_m4 187 rfl) rfl
theorem q1005 : (Jvm.Cond.laysFinal "WhalingLogs$Entry" "WhalingLogs$Entry" "day" "I") ∈ lw_all := lw_g (lw_at lw_m4 192 rfl) rfl
theorem q1006 : (Jvm.Cond.soleField "WhalingLogs$Entry" "day") ∈ lw_all := lw_g (lw_at lw_m4 193 rfl) rfl
theorem q1007 : (Jvm.Cond.laysFinal "WhalingLogs$Entry" "WhalingLogs$Entry" "cell" "I") ∈ lw_all := lw_g (lw_at lw_m4 194 rfl) rfl
theorem q1008 : (Jvm.Cond.soleField "WhalingLogs$Entry" "cell") ∈ lw_all := lw_g (lw_at lw_m4 195 rfl) rfl
theorem q1009 : (Jvm.Cond.laysFinal "WhalingLogs$Entry" "WhalingLogs$Entry" "witness" "I") ∈ lw_all := lw_g (lw_at lw_m4 196 rfl) rfl
theorem q1010 : (Jvm.Cond.soleField "WhalingLogs$Entry" "witness") ∈ lw_all := lw_g (lw_at lw_m4 197 rfl) rfl
theorem q1011 : (Jvm.Cond.lays "WhalingLogs$Entry" "WhalingLogs$Entry" "state" "I") ∈ lw_all := lw_g (lw_at lw_m4 198 rfl) rfl
theorem q1012 : (Jvm.Cond.soleField "WhalingLogs$Entry" "state") ∈ lw_all := lw_g (lw_at lw_m4 199 rfl) rfl
theorem q1013 : (Jvm.Cond.superclass "WhalingLogs$Entry" "java/lang/Object") ∈ lw_all := lw_g (lw_at lw_m4 200 rfl) rfl
theorem q1393 : (Jvm.Cond.instanceMethod ({ cls := "WhalingLogs$Entry", name := "number", desc := "(I)I" } : Jvm.MethodName)) ∈ lw_all := lw_g (lw_at lw_m6 100 rfl) rfl
theorem q1394 : (Jvm.Cond.selects "WhalingLogs$Entry" ({ cls := "WhalingLogs$Entry", name := "number", desc := "(I)I" } : Jvm.MethodName) ({ cls := "WhalingLogs$Entry", name := "number", desc := "(I)I" } : Jvm.MethodName)) ∈ lw_all := lw_g (lw_at lw_m6 101 rfl) rfl
theorem q1395 : (Jvm.Cond.code ({ cls := "WhalingLogs$Entry", name := "number", desc := "(I)I" } : Jvm.MethodName) prog_5_method_3_code (2 : Nat) (Option.some Jvm.ClassFile.FieldType.int)) ∈ lw_all := lw_g (lw_at lw_m6 102 rfl) rfl
theorem q2045 : (Jvm.Cond.castable "WhalingLogs$Entry" "WhalingLogs$Written") ∈ lw_tbl := lw_at lw_m9 32 rfl
theorem q2046 : (Jvm.Cond.unhidden "WhalingLogs$Entry" "tells" "(Ljava/lang/StringBuilder;)V") ∈ lw_tbl := lw_at lw_m9 33 rfl
theorem q2055 : (Jvm.Cond.selects "WhalingLogs$Entry" ({ cls := "WhalingLogs$Written", name := "told", desc := "()Ljava/lang/String;" } : Jvm.MethodName) ({ cls := "WhalingLogs$Entry", name := "told", desc := "()Ljava/lang/String;" } : Jvm.MethodName)) ∈ lw_all := lw_g (lw_at lw_m9 42 rfl) rfl
theorem q2056 : (Jvm.Cond.unhidden "WhalingLogs$Entry" "told" "()Ljava/lang/String;") ∈ lw_tbl := lw_at lw_m9 43 rfl
theorem q2057 : (Jvm.Cond.instanceMethod ({ cls := "WhalingLogs$Entry", name := "told", desc := "()Ljava/lang/String;" } : Jvm.MethodName)) ∈ lw_all := lw_g (lw_at lw_m9 44 rfl) rfl
theorem q2058 : (Jvm.Cond.publicMethod ({ cls := "WhalingLogs$Entry", name := "told", desc := "()Ljava/lang/String;" } : Jvm.MethodName)) ∈ lw_tbl := lw_at lw_m9 45 rfl
theorem q2059 : (Jvm.Cond.code ({ cls := "WhalingLogs$Entry", name := "told", desc := "()Ljava/lang/String;" } : Jvm.MethodName) prog_5_method_4_code (1 : Nat) (Option.some (Jvm.ClassFile.FieldType.object "java/lang/String"))) ∈ lw_all := lw_g (lw_at lw_m9 46 rfl) rfl
theorem q2060 : (Jvm.Cond.stringRef "WhalingLogs$Entry" (27 : Nat) "?") ∈ lw_tbl := lw_at lw_m9 47 rfl
theorem q2061 : (Jvm.Cond.classLink "WhalingLogs$Entry" (29 : Nat) "java/lang/StringBuilder") ∈ lw_all := lw_g (lw_at lw_m9 48 rfl) rfl
theorem q2062 : (Jvm.Cond.methodLink "WhalingLogs$Entry" (31 : Nat) ({ cls := "java/lang/StringBuilder", name := "<init>", desc := "()V" } : Jvm.MethodName)) ∈ lw_all := lw_g (lw_at lw_m9 49 rfl) rfl
theorem q2063 : (Jvm.Cond.methodLink "WhalingLogs$Entry" (32 : Nat) ({ cls := "WhalingLogs$Written", name := "cellTold", desc := "(I)Ljava/lang/String;" } : Jvm.MethodName)) ∈ lw_all := lw_g (lw_at lw_m9 50 rfl) rfl
theorem q2072 : (Jvm.Cond.methodLink "WhalingLogs$Entry" (38 : Nat) ({ cls := "java/lang/StringBuilder", name := "append", desc := "(Ljava/lang/String;)Ljava/lang/StringBuilder;" } : Jvm.MethodName)) ∈ lw_all := lw_g (lw_at lw_m9 59 rfl) rfl
theorem q2073 : (Jvm.Cond.stringRef "WhalingLogs$Entry" (42 : Nat) "/") ∈ lw_tbl := lw_at lw_m9 60 rfl
theorem q2074 : (Jvm.Cond.methodLink "WhalingLogs$Entry" (44 : Nat) ({ cls := "java/lang/StringBuilder", name := "append", desc := "(I)Ljava/lang/StringBuilder;" } : Jvm.MethodName)) ∈ lw_all := lw_g (lw_at lw_m9 61 rfl) rfl
theorem q2075 : (Jvm.Cond.methodLink "WhalingLogs$Entry" (47 : Nat) ({ cls := "java/lang/StringBuilder", name := "toString", desc := "()Ljava/lang/String;" } : Jvm.MethodName)) ∈ lw_all := lw_g (lw_at lw_m9 62 rfl) rfl
theorem q2076 : (Jvm.Cond.stringRef "WhalingLogs$Entry" (51 : Nat) "x") ∈ lw_tbl := lw_at lw_m9 63 rfl
theorem q2603 : (Jvm.Cond.castable "WhalingLogs$Entry" "java/lang/Object") ∈ lw_tbl := lw_at lw_m11 110 rfl
theorem in_X6 : ∀ w ∈ wsX60, w ∈ lw_all := lw_in wsX60 [1005, 1007, 1009, 1011] (by decide +kernel) (by decide +kernel)
/-! WhalingLogs$Refused -/
set_option maxRecDepth 100000
def RX7 : String := "WhalingLogs$Refused"
def TX7 : u_T := fun k => match k with
  | 0 => ("java/lang/Throwable", "cause", "Ljava/lang/Throwable;", false)
  | 1 => ("java/lang/Throwable", "stackTrace", "[Ljava/lang/StackTraceElement;", false)
  | 2 => ("java/lang/Throwable", "suppressedExceptions", "Ljava/util/List;", false)
  | 3 => ("java/lang/Throwable", "detailMessage", "Ljava/lang/String;", false)
  | 4 => ("java/lang/Throwable", "backtrace", "Ljava/lang/Object;", false)
  | 5 => ("java/lang/Throwable", "depth", "I", false)
  | 6 => ("WhalingLogs$Refused", "reason", "I", true)
  | _ => ("WhalingLogs$Refused", "detail", "I", true)
def tyX7 : Nat → FieldType := fun k => match k with
  | 0 => .object "java/lang/Throwable"
  | 1 => .array (.object "java/lang/StackTraceElement")
  | 2 => .object "java/util/List"
  | 3 => .object "java/lang/String"
  | 4 => .object "java/lang/Object"
  | 5 => .int
  | 6 => .int
  | _ => .int
abbrev wsX70 : List Cond := u_ws RX7 TX7 8
theorem nmX7 : ∀ a, a < 8 → ∀ b, b < 8 → a ≠ b → (TX7 a).2.1 ≠ (TX7 b).2.1 := by decide +kernel
theorem tyX7_ok : ∀ k, k < 8 → parseFieldDescriptor (TX7 k).2.2.1 = some (tyX7 k) := by decide +kernel
abbrev cX7_init : ByteArray := prog_13_method_1_code
def yX7_init : MethodName := ⟨RX7, "<init>", "(II)V"⟩
def dkwX7_init_0 : List UInt8 := [42, 1, 1, 3, 3, 183, 0, 1, 42, 27, 181, 0, 7, 42, 28, 181, 0, 13, 177]
abbrev dktX7_init_0 : List UInt8 := dkwX7_init_0 ++ []
theorem dksX7_init_0 : cX7_init.data.toList.drop 0 = dktX7_init_0 := by decide +kernel
theorem dX7_init_0 : decode cX7_init 0 = .ok (.aload_n 0, 1) := dk_42 (dk_at dksX7_init_0 0 rfl rfl)
theorem dX7_init_1 : decode cX7_init 1 = .ok (.aconst_null, 1) := dk_1 (dk_at dksX7_init_0 1 rfl rfl)
theorem dX7_init_2 : decode cX7_init 2 = .ok (.aconst_null, 1) := dk_1 (dk_at dksX7_init_0 2 rfl rfl)
theorem dX7_init_3 : decode cX7_init 3 = .ok (.iconst 0, 1) := dk_3 (dk_at dksX7_init_0 3 rfl rfl)
theorem dX7_init_4 : decode cX7_init 4 = .ok (.iconst 0, 1) := dk_3 (dk_at dksX7_init_0 4 rfl rfl)
theorem dX7_init_5 : decode cX7_init 5 = .ok (.invokespecial 1, 3) := dk_183 0 1 (dk_at dksX7_init_0 5 rfl rfl)
theorem dX7_init_8 : decode cX7_init 8 = .ok (.aload_n 0, 1) := dk_42 (dk_at dksX7_init_0 8 rfl rfl)
theorem dX7_init_9 : decode cX7_init 9 = .ok (.iload_n 1, 1) := dk_27 (dk_at dksX7_init_0 9 rfl rfl)
theorem dX7_init_10 : decode cX7_init 10 = .ok (.putfield 7, 3) := dk_181 0 7 (dk_at dksX7_init_0 10 rfl rfl)
theorem dX7_init_13 : decode cX7_init 13 = .ok (.aload_n 0, 1) := dk_42 (dk_at dksX7_init_0 13 rfl rfl)
theorem dX7_init_14 : decode cX7_init 14 = .ok (.iload_n 2, 1) := dk_28 (dk_at dksX7_init_0 14 rfl rfl)
theorem dX7_init_15 : decode cX7_init 15 = .ok (.putfield 13, 3) := dk_181 0 13 (dk_at dksX7_init_0 15 rfl rfl)
theorem dX7_init_18 : decode cX7_init 18 = .ok (.return_, 1) := dk_177 (dk_at dksX7_init_0 18 rfl rfl)
theorem q129 : (Jvm.Cond.initialized "WhalingLogs$Refused") ∈ lw_all := lw_g (lw_at lw_m1 36 rfl) rfl
theorem q640 : (Jvm.Cond.selects "WhalingLogs$Refused" ({ cls := "java/lang/Throwable", name := "fillInStackTrace", desc := "()Ljava/lang/Throwable;" } : Jvm.MethodName) ({ cls := "java/lang/Throwable", name := "fillInStackTrace", desc := "()Ljava/lang/Throwable;" } : Jvm.MethodName)) ∈ lw_all := lw_g (lw_at lw_m3 67 rfl) rfl
theorem q663 : (Jvm.Cond.selects "WhalingLogs$Refused" ({ cls := "java/lang/Throwable", name := "toString", desc := "()Ljava/lang/String;" } : Jvm.MethodName) ({ cls := "java/lang/Throwable", name := "toString", desc := "()Ljava/lang/String;" } : Jvm.MethodName)) ∈ lw_all := lw_g (lw_at lw_m3 90 rfl) rfl
theorem q681 : (Jvm.Cond.selects "WhalingLogs$Refused" ({ cls := "java/lang/Object", name := "getClass", desc := "()Ljava/lang/Class;" } : Jvm.MethodName) ({ cls := "java/lang/Object", name := "getClass", desc := "()Ljava/lang/Class;" } : Jvm.MethodName)) ∈ lw_all := lw_g (lw_at lw_m3 108 rfl) rfl
theorem q704 : (Jvm.Cond.selects "WhalingLogs$Refused" ({ cls := "java/lang/Throwable", name := "getLocalizedMessage", desc := "()Ljava/lang/String;" } : Jvm.MethodName) ({ cls := "java/lang/Throwable", name := "getLocalizedMessage", desc := "()Ljava/lang/String;" } : Jvm.MethodName)) ∈ lw_all := lw_g (lw_at lw_m3 131 rfl) rfl
theorem q711 : (Jvm.Cond.selects "WhalingLogs$Refused" ({ cls := "java/lang/Throwable", name := "getMessage", desc := "()Ljava/lang/String;" } : Jvm.MethodName) ({ cls := "java/lang/Throwable", name := "getMessage", desc := "()Ljava/lang/String;" } : Jvm.MethodName)) ∈ lw_all := lw_g (lw_at lw_m3 138 rfl) rfl
theorem q1105 : (Jvm.Cond.instantiable "WhalingLogs$Refused" (8 : Nat)) ∈ lw_all := lw_g (lw_at lw_m5 52 rfl) rfl
theorem q1106 : (Jvm.Cond.castable "WhalingLogs$Refused" "WhalingLogs$Refused") ∈ lw_tbl := lw_at lw_m5 53 rfl
theorem q1107 : (Jvm.Cond.selects "WhalingLogs$Refused" ({ cls := "java/lang/Throwable", name := "fillInStackTrace", desc := "(I)Ljava/lang/Throwable;" } : Jvm.MethodName) ({ cls := "java/lang/Throwable", name := "fillInStackTrace", desc := "(I)Ljava/lang/Throwable;" } : Jvm.MethodName)) ∈ lw_all := lw_g (lw_at lw_m5 54 rfl) rfl
theorem q1108 : (Jvm.Cond.lays "WhalingLogs$Refused" "java/lang/Throwable" "cause" "Ljava/lang/Throwable;") ∈ lw_all := lw_g (lw_at lw_m5 55 rfl) rfl
theorem q1109 : (Jvm.Cond.lays "WhalingLogs$Refused" "java/lang/Throwable" "stackTrace" "[Ljava/lang/StackTraceElement;") ∈ lw_all := lw_g (lw_at lw_m5 56 rfl) rfl
theorem q1110 : (Jvm.Cond.lays "WhalingLogs$Refused" "java/lang/Throwable" "suppressedExceptions" "Ljava/util/List;") ∈ lw_all := lw_g (lw_at lw_m5 57 rfl) rfl
theorem q1111 : (Jvm.Cond.lays "WhalingLogs$Refused" "java/lang/Throwable" "detailMessage" "Ljava/lang/String;") ∈ lw_all := lw_g (lw_at lw_m5 58 rfl) rfl
theorem q1112 : (Jvm.Cond.lays "WhalingLogs$Refused" "java/lang/Throwable" "backtrace" "Ljava/lang/Object;") ∈ lw_all := lw_g (lw_at lw_m5 59 rfl) rfl
theorem q1114 : (Jvm.Cond.instanceMethod ({ cls := "WhalingLogs$Refused", name := "<init>", desc := "(II)V" } : Jvm.MethodName)) ∈ lw_all := lw_g (lw_at lw_m5 61 rfl) rfl
theorem q1115 : (Jvm.Cond.code ({ cls := "WhalingLogs$Refused", name := "<init>", desc := "(II)V" } : Jvm.MethodName) prog_13_method_1_code (3 : Nat) (Option.none : Option Jvm.ClassFile.FieldType)) ∈ lw_all := lw_g (lw_at lw_m5 62 rfl) rfl
theorem q1116 : (Jvm.Cond.methodLink "WhalingLogs$Refused" (1 : Nat) ({ cls := "java/lang/Exception", name := "<init>", desc := "(Ljava/lang/String;Ljava/lang/Throwable;ZZ)V" } : Jvm.MethodName)) ∈ lw_all := lw_g (lw_at lw_m5 63 rfl) rfl
theorem q1122 : (Jvm.Cond.fieldLink "WhalingLogs$Refused" (7 : Nat) "WhalingLogs$Refused" "reason" "I") ∈ lw_all := lw_g (lw_at lw_m5 69 rfl) rfl
theorem q1124 : (Jvm.Cond.fieldLink "WhalingLogs$Refused" (13 : Nat) "WhalingLogs$Refused" "detail" "I") ∈ lw_all := lw_g (lw_at lw_m5 71 rfl) rfl
theorem q1126 : (Jvm.Cond.laysFinal "WhalingLogs$Refused" "WhalingLogs$Refused" "reason" "I") ∈ lw_all := lw_g (lw_at lw_m5 73 rfl) rfl
theorem q1127 : (Jvm.Cond.soleField "WhalingLogs$Refused" "reason") ∈ lw_all := lw_g (lw_at lw_m5 74 rfl) rfl
theorem q1128 : (Jvm.Cond.laysFinal "WhalingLogs$Refused" "WhalingLogs$Refused" "detail" "I") ∈ lw_all := lw_g (lw_at lw_m5 75 rfl) rfl
theorem q1129 : (Jvm.Cond.soleField "WhalingLogs$Refused" "detail") ∈ lw_all := lw_g (lw_at lw_m5 76 rfl) rfl
theorem q1130 : (Jvm.Cond.lays "WhalingLogs$Refused" "java/lang/Throwable" "depth" "I") ∈ lw_all := lw_g (lw_at lw_m5 77 rfl) rfl
theorem q1131 : (Jvm.Cond.superclass "WhalingLogs$Refused" "java/lang/Exception") ∈ lw_all := lw_g (lw_at lw_m5 78 rfl) rfl
theorem q2621 : (Jvm.Cond.castable "WhalingLogs$Refused" "java/lang/Object") ∈ lw_tbl := lw_at lw_m11 128 rfl
theorem in_X7 : ∀ w ∈ wsX70, w ∈ lw_all := lw_in wsX70 [1108, 1109, 1110, 1111, 1112, 1130, 1126, 1128] (by decide +kernel) (by decide +kernel)
