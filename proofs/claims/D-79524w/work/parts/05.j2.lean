/-! java/lang/AbstractStringBuilder -/
set_option maxRecDepth 100000
def RJ6 : String := "java/lang/AbstractStringBuilder"
abbrev cJ6_init : ByteArray := prog_22_method_2_code
def yJ6_init : MethodName := ⟨RJ6, "<init>", "(I)V"⟩
def dkwJ6_init_1 : List UInt8 := [167, 0, 16, 42, 27, 184, 0, 26, 181, 0, 15, 42, 4, 181, 0, 22, 177]
abbrev dktJ6_init_1 : List UInt8 := dkwJ6_init_1 ++ []
def dkwJ6_init_0 : List UInt8 := [42, 183, 0, 3, 178, 0, 18, 153, 0, 18, 42, 27, 188, 8, 181, 0, 15, 42, 3, 181, 0, 22]
abbrev dktJ6_init_0 : List UInt8 := dkwJ6_init_0 ++ dktJ6_init_1
theorem dksJ6_init_0 : cJ6_init.data.toList.drop 0 = dktJ6_init_0 := by decide +kernel
theorem dksJ6_init_1 : cJ6_init.data.toList.drop 22 = dktJ6_init_1 := dk_seg dksJ6_init_0 22 rfl rfl
theorem dJ6_init_0 : decode cJ6_init 0 = .ok (.aload_n 0, 1) := dk_42 (dk_at dksJ6_init_0 0 rfl rfl)
theorem dJ6_init_1 : decode cJ6_init 1 = .ok (.invokespecial 3, 3) := dk_183 0 3 (dk_at dksJ6_init_0 1 rfl rfl)
theorem dJ6_init_4 : decode cJ6_init 4 = .ok (.getstatic 18, 3) := dk_178 0 18 (dk_at dksJ6_init_0 4 rfl rfl)
theorem dJ6_init_7 : decode cJ6_init 7 = .ok (.ifCond .eq 18, 3) := dk_153 0 18 (dk_at dksJ6_init_0 7 rfl rfl)
theorem dJ6_init_10 : decode cJ6_init 10 = .ok (.aload_n 0, 1) := dk_42 (dk_at dksJ6_init_0 10 rfl rfl)
theorem dJ6_init_11 : decode cJ6_init 11 = .ok (.iload_n 1, 1) := dk_27 (dk_at dksJ6_init_0 11 rfl rfl)
theorem dJ6_init_12 : decode cJ6_init 12 = .ok (.newarray .byte, 2) := dk_188_8 (dk_at dksJ6_init_0 12 rfl rfl)
theorem dJ6_init_14 : decode cJ6_init 14 = .ok (.putfield 15, 3) := dk_181 0 15 (dk_at dksJ6_init_0 14 rfl rfl)
theorem dJ6_init_17 : decode cJ6_init 17 = .ok (.aload_n 0, 1) := dk_42 (dk_at dksJ6_init_0 17 rfl rfl)
theorem dJ6_init_18 : decode cJ6_init 18 = .ok (.iconst 0, 1) := dk_3 (dk_at dksJ6_init_0 18 rfl rfl)
theorem dJ6_init_19 : decode cJ6_init 19 = .ok (.putfield 22, 3) := dk_181 0 22 (dk_at dksJ6_init_0 19 rfl rfl)
theorem dJ6_init_22 : decode cJ6_init 22 = .ok (.goto 16, 3) := dk_167 0 16 (dk_at dksJ6_init_1 0 rfl rfl)
theorem dJ6_init_25 : decode cJ6_init 25 = .ok (.aload_n 0, 1) := dk_42 (dk_at dksJ6_init_1 3 rfl rfl)
theorem dJ6_init_26 : decode cJ6_init 26 = .ok (.iload_n 1, 1) := dk_27 (dk_at dksJ6_init_1 4 rfl rfl)
theorem dJ6_init_27 : decode cJ6_init 27 = .ok (.invokestatic 26, 3) := dk_184 0 26 (dk_at dksJ6_init_1 5 rfl rfl)
theorem dJ6_init_30 : decode cJ6_init 30 = .ok (.putfield 15, 3) := dk_181 0 15 (dk_at dksJ6_init_1 8 rfl rfl)
theorem dJ6_init_33 : decode cJ6_init 33 = .ok (.aload_n 0, 1) := dk_42 (dk_at dksJ6_init_1 11 rfl rfl)
theorem dJ6_init_34 : decode cJ6_init 34 = .ok (.iconst 1, 1) := dk_4 (dk_at dksJ6_init_1 12 rfl rfl)
theorem dJ6_init_35 : decode cJ6_init 35 = .ok (.putfield 22, 3) := dk_181 0 22 (dk_at dksJ6_init_1 13 rfl rfl)
theorem dJ6_init_38 : decode cJ6_init 38 = .ok (.return_, 1) := dk_177 (dk_at dksJ6_init_1 16 rfl rfl)
abbrev cJ6_append : ByteArray := prog_22_method_22_code
def yJ6_append : MethodName := ⟨RJ6, "append", "(Ljava/lang/String;)Ljava/lang/AbstractStringBuilder;"⟩
def dkwJ6_append_1 : List UInt8 := [42, 42, 180, 0, 79, 43, 182, 0, 208, 42, 89, 180, 0, 79, 28, 96, 181, 0, 79, 42, 176]
abbrev dktJ6_append_1 : List UInt8 := dkwJ6_append_1 ++ []
def dkwJ6_append_0 : List UInt8 := [43, 199, 0, 8, 42, 182, 0, 204, 176, 43, 182, 0, 32, 61, 42, 42, 180, 0, 79, 28, 96, 182, 0, 100]
abbrev dktJ6_append_0 : List UInt8 := dkwJ6_append_0 ++ dktJ6_append_1
theorem dksJ6_append_0 : cJ6_append.data.toList.drop 0 = dktJ6_append_0 := by decide +kernel
theorem dksJ6_append_1 : cJ6_append.data.toList.drop 24 = dktJ6_append_1 := dk_seg dksJ6_append_0 24 rfl rfl
theorem dJ6_append_0 : decode cJ6_append 0 = .ok (.aload_n 1, 1) := dk_43 (dk_at dksJ6_append_0 0 rfl rfl)
theorem dJ6_append_1 : decode cJ6_append 1 = .ok (.ifnonnull 8, 3) := dk_199 0 8 (dk_at dksJ6_append_0 1 rfl rfl)
theorem dJ6_append_4 : decode cJ6_append 4 = .ok (.aload_n 0, 1) := dk_42 (dk_at dksJ6_append_0 4 rfl rfl)
theorem dJ6_append_5 : decode cJ6_append 5 = .ok (.invokevirtual 204, 3) := dk_182 0 204 (dk_at dksJ6_append_0 5 rfl rfl)
theorem dJ6_append_8 : decode cJ6_append 8 = .ok (.areturn, 1) := dk_176 (dk_at dksJ6_append_0 8 rfl rfl)
theorem dJ6_append_9 : decode cJ6_append 9 = .ok (.aload_n 1, 1) := dk_43 (dk_at dksJ6_append_0 9 rfl rfl)
theorem dJ6_append_10 : decode cJ6_append 10 = .ok (.invokevirtual 32, 3) := dk_182 0 32 (dk_at dksJ6_append_0 10 rfl rfl)
theorem dJ6_append_13 : decode cJ6_append 13 = .ok (.istore_n 2, 1) := dk_61 (dk_at dksJ6_append_0 13 rfl rfl)
theorem dJ6_append_14 : decode cJ6_append 14 = .ok (.aload_n 0, 1) := dk_42 (dk_at dksJ6_append_0 14 rfl rfl)
theorem dJ6_append_15 : decode cJ6_append 15 = .ok (.aload_n 0, 1) := dk_42 (dk_at dksJ6_append_0 15 rfl rfl)
theorem dJ6_append_16 : decode cJ6_append 16 = .ok (.getfield 79, 3) := dk_180 0 79 (dk_at dksJ6_append_0 16 rfl rfl)
theorem dJ6_append_19 : decode cJ6_append 19 = .ok (.iload_n 2, 1) := dk_28 (dk_at dksJ6_append_0 19 rfl rfl)
theorem dJ6_append_20 : decode cJ6_append 20 = .ok (.iadd, 1) := dk_96 (dk_at dksJ6_append_0 20 rfl rfl)
theorem dJ6_append_21 : decode cJ6_append 21 = .ok (.invokevirtual 100, 3) := dk_182 0 100 (dk_at dksJ6_append_0 21 rfl rfl)
theorem dJ6_append_24 : decode cJ6_append 24 = .ok (.aload_n 0, 1) := dk_42 (dk_at dksJ6_append_1 0 rfl rfl)
theorem dJ6_append_25 : decode cJ6_append 25 = .ok (.aload_n 0, 1) := dk_42 (dk_at dksJ6_append_1 1 rfl rfl)
theorem dJ6_append_26 : decode cJ6_append 26 = .ok (.getfield 79, 3) := dk_180 0 79 (dk_at dksJ6_append_1 2 rfl rfl)
theorem dJ6_append_29 : decode cJ6_append 29 = .ok (.aload_n 1, 1) := dk_43 (dk_at dksJ6_append_1 5 rfl rfl)
theorem dJ6_append_30 : decode cJ6_append 30 = .ok (.invokevirtual 208, 3) := dk_182 0 208 (dk_at dksJ6_append_1 6 rfl rfl)
theorem dJ6_append_33 : decode cJ6_append 33 = .ok (.aload_n 0, 1) := dk_42 (dk_at dksJ6_append_1 9 rfl rfl)
theorem dJ6_append_34 : decode cJ6_append 34 = .ok (.dup, 1) := dk_89 (dk_at dksJ6_append_1 10 rfl rfl)
theorem dJ6_append_35 : decode cJ6_append 35 = .ok (.getfield 79, 3) := dk_180 0 79 (dk_at dksJ6_append_1 11 rfl rfl)
theorem dJ6_append_38 : decode cJ6_append 38 = .ok (.iload_n 2, 1) := dk_28 (dk_at dksJ6_append_1 14 rfl rfl)
theorem dJ6_append_39 : decode cJ6_append 39 = .ok (.iadd, 1) := dk_96 (dk_at dksJ6_append_1 15 rfl rfl)
theorem dJ6_append_40 : decode cJ6_append 40 = .ok (.putfield 79, 3) := dk_181 0 79 (dk_at dksJ6_append_1 16 rfl rfl)
theorem dJ6_append_43 : decode cJ6_append 43 = .ok (.aload_n 0, 1) := dk_42 (dk_at dksJ6_append_1 19 rfl rfl)
theorem dJ6_append_44 : decode cJ6_append 44 = .ok (.areturn, 1) := dk_176 (dk_at dksJ6_append_1 20 rfl rfl)
abbrev cJ6_appendNull : ByteArray := prog_22_method_26_code
def yJ6_appendNull : MethodName := ⟨RJ6, "appendNull", "()Ljava/lang/AbstractStringBuilder;"⟩
def dkwJ6_appendNull_3 : List UInt8 := [184, 0, 226, 60, 42, 27, 181, 0, 79, 42, 176]
abbrev dktJ6_appendNull_3 : List UInt8 := dkwJ6_appendNull_3 ++ []
def dkwJ6_appendNull_2 : List UInt8 := [16, 108, 84, 44, 27, 132, 1, 1, 16, 108, 84, 167, 0, 17, 44, 27, 16, 110, 16, 117, 16, 108, 16, 108]
abbrev dktJ6_appendNull_2 : List UInt8 := dkwJ6_appendNull_2 ++ dktJ6_appendNull_3
def dkwJ6_appendNull_1 : List UInt8 := [153, 0, 38, 44, 27, 132, 1, 1, 16, 110, 84, 44, 27, 132, 1, 1, 16, 117, 84, 44, 27, 132, 1, 1]
abbrev dktJ6_appendNull_1 : List UInt8 := dkwJ6_appendNull_1 ++ dktJ6_appendNull_2
def dkwJ6_appendNull_0 : List UInt8 := [42, 42, 180, 0, 79, 7, 96, 182, 0, 100, 42, 180, 0, 79, 60, 42, 180, 0, 15, 77, 42, 182, 0, 83]
abbrev dktJ6_appendNull_0 : List UInt8 := dkwJ6_appendNull_0 ++ dktJ6_appendNull_1
theorem dksJ6_appendNull_0 : cJ6_appendNull.data.toList.drop 0 = dktJ6_appendNull_0 := by decide +kernel
theorem dksJ6_appendNull_1 : cJ6_appendNull.data.toList.drop 24 = dktJ6_appendNull_1 := dk_seg dksJ6_appendNull_0 24 rfl rfl
theorem dksJ6_appendNull_2 : cJ6_appendNull.data.toList.drop 48 = dktJ6_appendNull_2 := dk_seg dksJ6_appendNull_1 24 rfl rfl
theorem dksJ6_appendNull_3 : cJ6_appendNull.data.toList.drop 72 = dktJ6_appendNull_3 := dk_seg dksJ6_appendNull_2 24 rfl rfl
theorem dJ6_appendNull_0 : decode cJ6_appendNull 0 = .ok (.aload_n 0, 1) := dk_42 (dk_at dksJ6_appendNull_0 0 rfl rfl)
theorem dJ6_appendNull_1 : decode cJ6_appendNull 1 = .ok (.aload_n 0, 1) := dk_42 (dk_at dksJ6_appendNull_0 1 rfl rfl)
theorem dJ6_appendNull_2 : decode cJ6_appendNull 2 = .ok (.getfield 79, 3) := dk_180 0 79 (dk_at dksJ6_appendNull_0 2 rfl rfl)
theorem dJ6_appendNull_5 : decode cJ6_appendNull 5 = .ok (.iconst 4, 1) := dk_7 (dk_at dksJ6_appendNull_0 5 rfl rfl)
theorem dJ6_appendNull_6 : decode cJ6_appendNull 6 = .ok (.iadd, 1) := dk_96 (dk_at dksJ6_appendNull_0 6 rfl rfl)
theorem dJ6_appendNull_7 : decode cJ6_appendNull 7 = .ok (.invokevirtual 100, 3) := dk_182 0 100 (dk_at dksJ6_appendNull_0 7 rfl rfl)
theorem dJ6_appendNull_10 : decode cJ6_appendNull 10 = .ok (.aload_n 0, 1) := dk_42 (dk_at dksJ6_appendNull_0 10 rfl rfl)
theorem dJ6_appendNull_11 : decode cJ6_appendNull 11 = .ok (.getfield 79, 3) := dk_180 0 79 (dk_at dksJ6_appendNull_0 11 rfl rfl)
theorem dJ6_appendNull_14 : decode cJ6_appendNull 14 = .ok (.istore_n 1, 1) := dk_60 (dk_at dksJ6_appendNull_0 14 rfl rfl)
theorem dJ6_appendNull_15 : decode cJ6_appendNull 15 = .ok (.aload_n 0, 1) := dk_42 (dk_at dksJ6_appendNull_0 15 rfl rfl)
theorem dJ6_appendNull_16 : decode cJ6_appendNull 16 = .ok (.getfield 15, 3) := dk_180 0 15 (dk_at dksJ6_appendNull_0 16 rfl rfl)
theorem dJ6_appendNull_19 : decode cJ6_appendNull 19 = .ok (.astore_n 2, 1) := dk_77 (dk_at dksJ6_appendNull_0 19 rfl rfl)
theorem dJ6_appendNull_20 : decode cJ6_appendNull 20 = .ok (.aload_n 0, 1) := dk_42 (dk_at dksJ6_appendNull_0 20 rfl rfl)
theorem dJ6_appendNull_21 : decode cJ6_appendNull 21 = .ok (.invokevirtual 83, 3) := dk_182 0 83 (dk_at dksJ6_appendNull_0 21 rfl rfl)
theorem dJ6_appendNull_24 : decode cJ6_appendNull 24 = .ok (.ifCond .eq 38, 3) := dk_153 0 38 (dk_at dksJ6_appendNull_1 0 rfl rfl)
theorem dJ6_appendNull_27 : decode cJ6_appendNull 27 = .ok (.aload_n 2, 1) := dk_44 (dk_at dksJ6_appendNull_1 3 rfl rfl)
theorem dJ6_appendNull_28 : decode cJ6_appendNull 28 = .ok (.iload_n 1, 1) := dk_27 (dk_at dksJ6_appendNull_1 4 rfl rfl)
theorem dJ6_appendNull_29 : decode cJ6_appendNull 29 = .ok (.iinc 1 1, 3) := dk_132 1 1 (dk_at dksJ6_appendNull_1 5 rfl rfl)
theorem dJ6_appendNull_32 : decode cJ6_appendNull 32 = .ok (.bipush 110, 2) := dk_16 110 (dk_at dksJ6_appendNull_1 8 rfl rfl)
theorem dJ6_appendNull_34 : decode cJ6_appendNull 34 = .ok (.bastore, 1) := dk_84 (dk_at dksJ6_appendNull_1 10 rfl rfl)
theorem dJ6_appendNull_35 : decode cJ6_appendNull 35 = .ok (.aload_n 2, 1) := dk_44 (dk_at dksJ6_appendNull_1 11 rfl rfl)
theorem dJ6_appendNull_36 : decode cJ6_appendNull 36 = .ok (.iload_n 1, 1) := dk_27 (dk_at dksJ6_appendNull_1 12 rfl rfl)
theorem dJ6_appendNull_37 : decode cJ6_appendNull 37 = .ok (.iinc 1 1, 3) := dk_132 1 1 (dk_at dksJ6_appendNull_1 13 rfl rfl)
theorem dJ6_appendNull_40 : decode cJ6_appendNull 40 = .ok (.bipush 117, 2) := dk_16 117 (dk_at dksJ6_appendNull_1 16 rfl rfl)
theorem dJ6_appendNull_42 : decode cJ6_appendNull 42 = .ok (.bastore, 1) := dk_84 (dk_at dksJ6_appendNull_1 18 rfl rfl)
theorem dJ6_appendNull_43 : decode cJ6_appendNull 43 = .ok (.aload_n 2, 1) := dk_44 (dk_at dksJ6_appendNull_1 19 rfl rfl)
theorem dJ6_appendNull_44 : decode cJ6_appendNull 44 = .ok (.iload_n 1, 1) := dk_27 (dk_at dksJ6_appendNull_1 20 rfl rfl)
theorem dJ6_appendNull_45 : decode cJ6_appendNull 45 = .ok (.iinc 1 1, 3) := dk_132 1 1 (dk_at dksJ6_appendNull_1 21 rfl rfl)
theorem dJ6_appendNull_48 : decode cJ6_appendNull 48 = .ok (.bipush 108, 2) := dk_16 108 (dk_at dksJ6_appendNull_2 0 rfl rfl)
theorem dJ6_appendNull_50 : decode cJ6_appendNull 50 = .ok (.bastore, 1) := dk_84 (dk_at dksJ6_appendNull_2 2 rfl rfl)
theorem dJ6_appendNull_51 : decode cJ6_appendNull 51 = .ok (.aload_n 2, 1) := dk_44 (dk_at dksJ6_appendNull_2 3 rfl rfl)
theorem dJ6_appendNull_52 : decode cJ6_appendNull 52 = .ok (.iload_n 1, 1) := dk_27 (dk_at dksJ6_appendNull_2 4 rfl rfl)
theorem dJ6_appendNull_53 : decode cJ6_appendNull 53 = .ok (.iinc 1 1, 3) := dk_132 1 1 (dk_at dksJ6_appendNull_2 5 rfl rfl)
theorem dJ6_appendNull_56 : decode cJ6_appendNull 56 = .ok (.bipush 108, 2) := dk_16 108 (dk_at dksJ6_appendNull_2 8 rfl rfl)
theorem dJ6_appendNull_58 : decode cJ6_appendNull 58 = .ok (.bastore, 1) := dk_84 (dk_at dksJ6_appendNull_2 10 rfl rfl)
theorem dJ6_appendNull_59 : decode cJ6_appendNull 59 = .ok (.goto 17, 3) := dk_167 0 17 (dk_at dksJ6_appendNull_2 11 rfl rfl)
theorem dJ6_appendNull_62 : decode cJ6_appendNull 62 = .ok (.aload_n 2, 1) := dk_44 (dk_at dksJ6_appendNull_2 14 rfl rfl)
theorem dJ6_appendNull_63 : decode cJ6_appendNull 63 = .ok (.iload_n 1, 1) := dk_27 (dk_at dksJ6_appendNull_2 15 rfl rfl)
theorem dJ6_appendNull_64 : decode cJ6_appendNull 64 = .ok (.bipush 110, 2) := dk_16 110 (dk_at dksJ6_appendNull_2 16 rfl rfl)
theorem dJ6_appendNull_66 : decode cJ6_appendNull 66 = .ok (.bipush 117, 2) := dk_16 117 (dk_at dksJ6_appendNull_2 18 rfl rfl)
theorem dJ6_appendNull_68 : decode cJ6_appendNull 68 = .ok (.bipush 108, 2) := dk_16 108 (dk_at dksJ6_appendNull_2 20 rfl rfl)
theorem dJ6_appendNull_70 : decode cJ6_appendNull 70 = .ok (.bipush 108, 2) := dk_16 108 (dk_at dksJ6_appendNull_2 22 rfl rfl)
theorem dJ6_appendNull_72 : decode cJ6_appendNull 72 = .ok (.invokestatic 226, 3) := dk_184 0 226 (dk_at dksJ6_appendNull_3 0 rfl rfl)
theorem dJ6_appendNull_75 : decode cJ6_appendNull 75 = .ok (.istore_n 1, 1) := dk_60 (dk_at dksJ6_appendNull_3 3 rfl rfl)
theorem dJ6_appendNull_76 : decode cJ6_appendNull 76 = .ok (.aload_n 0, 1) := dk_42 (dk_at dksJ6_appendNull_3 4 rfl rfl)
theorem dJ6_appendNull_77 : decode cJ6_appendNull 77 = .ok (.iload_n 1, 1) := dk_27 (dk_at dksJ6_appendNull_3 5 rfl rfl)
theorem dJ6_appendNull_78 : decode cJ6_appendNull 78 = .ok (.putfield 79, 3) := dk_181 0 79 (dk_at dksJ6_appendNull_3 6 rfl rfl)
theorem dJ6_appendNull_81 : decode cJ6_appendNull 81 = .ok (.aload_n 0, 1) := dk_42 (dk_at dksJ6_appendNull_3 9 rfl rfl)
theorem dJ6_appendNull_82 : decode cJ6_appendNull 82 = .ok (.areturn, 1) := dk_176 (dk_at dksJ6_appendNull_3 10 rfl rfl)
abbrev cJ6_ensureCapacityInternal : ByteArray := prog_22_method_9_code
def yJ6_ensureCapacityInternal : MethodName := ⟨RJ6, "ensureCapacityInternal", "(I)V"⟩
def dkwJ6_ensureCapacityInternal_1 : List UInt8 := [182, 0, 104, 42, 180, 0, 22, 120, 184, 0, 108, 181, 0, 15, 177]
abbrev dktJ6_ensureCapacityInternal_1 : List UInt8 := dkwJ6_ensureCapacityInternal_1 ++ []
def dkwJ6_ensureCapacityInternal_0 : List UInt8 := [42, 180, 0, 15, 190, 42, 180, 0, 22, 122, 61, 27, 28, 100, 158, 0, 24, 42, 42, 180, 0, 15, 42, 27]
abbrev dktJ6_ensureCapacityInternal_0 : List UInt8 := dkwJ6_ensureCapacityInternal_0 ++ dktJ6_ensureCapacityInternal_1
theorem dksJ6_ensureCapacityInternal_0 : cJ6_ensureCapacityInternal.data.toList.drop 0 = dktJ6_ensureCapacityInternal_0 := by decide +kernel
theorem dksJ6_ensureCapacityInternal_1 : cJ6_ensureCapacityInternal.data.toList.drop 24 = dktJ6_ensureCapacityInternal_1 := dk_seg dksJ6_ensureCapacityInternal_0 24 rfl rfl
theorem dJ6_ensureCapacityInternal_0 : decode cJ6_ensureCapacityInternal 0 = .ok (.aload_n 0, 1) := dk_42 (dk_at dksJ6_ensureCapacityInternal_0 0 rfl rfl)
theorem dJ6_ensureCapacityInternal_1 : decode cJ6_ensureCapacityInternal 1 = .ok (.getfield 15, 3) := dk_180 0 15 (dk_at dksJ6_ensureCapacityInternal_0 1 rfl rfl)
theorem dJ6_ensureCapacityInternal_4 : decode cJ6_ensureCapacityInternal 4 = .ok (.arraylength, 1) := dk_190 (dk_at dksJ6_ensureCapacityInternal_0 4 rfl rfl)
theorem dJ6_ensureCapacityInternal_5 : decode cJ6_ensureCapacityInternal 5 = .ok (.aload_n 0, 1) := dk_42 (dk_at dksJ6_ensureCapacityInternal_0 5 rfl rfl)
theorem dJ6_ensureCapacityInternal_6 : decode cJ6_ensureCapacityInternal 6 = .ok (.getfield 22, 3) := dk_180 0 22 (dk_at dksJ6_ensureCapacityInternal_0 6 rfl rfl)
theorem dJ6_ensureCapacityInternal_9 : decode cJ6_ensureCapacityInternal 9 = .ok (.ishr, 1) := dk_122 (dk_at dksJ6_ensureCapacityInternal_0 9 rfl rfl)
theorem dJ6_ensureCapacityInternal_10 : decode cJ6_ensureCapacityInternal 10 = .ok (.istore_n 2, 1) := dk_61 (dk_at dksJ6_ensureCapacityInternal_0 10 rfl rfl)
theorem dJ6_ensureCapacityInternal_11 : decode cJ6_ensureCapacityInternal 11 = .ok (.iload_n 1, 1) := dk_27 (dk_at dksJ6_ensureCapacityInternal_0 11 rfl rfl)
theorem dJ6_ensureCapacityInternal_12 : decode cJ6_ensureCapacityInternal 12 = .ok (.iload_n 2, 1) := dk_28 (dk_at dksJ6_ensureCapacityInternal_0 12 rfl rfl)
theorem dJ6_ensureCapacityInternal_13 : decode cJ6_ensureCapacityInternal 13 = .ok (.isub, 1) := dk_100 (dk_at dksJ6_ensureCapacityInternal_0 13 rfl rfl)
theorem dJ6_ensureCapacityInternal_14 : decode cJ6_ensureCapacityInternal 14 = .ok (.ifCond .le 24, 3) := dk_158 0 24 (dk_at dksJ6_ensureCapacityInternal_0 14 rfl rfl)
theorem dJ6_ensureCapacityInternal_17 : decode cJ6_ensureCapacityInternal 17 = .ok (.aload_n 0, 1) := dk_42 (dk_at dksJ6_ensureCapacityInternal_0 17 rfl rfl)
theorem dJ6_ensureCapacityInternal_18 : decode cJ6_ensureCapacityInternal 18 = .ok (.aload_n 0, 1) := dk_42 (dk_at dksJ6_ensureCapacityInternal_0 18 rfl rfl)
theorem dJ6_ensureCapacityInternal_19 : decode cJ6_ensureCapacityInternal 19 = .ok (.getfield 15, 3) := dk_180 0 15 (dk_at dksJ6_ensureCapacityInternal_0 19 rfl rfl)
theorem dJ6_ensureCapacityInternal_22 : decode cJ6_ensureCapacityInternal 22 = .ok (.aload_n 0, 1) := dk_42 (dk_at dksJ6_ensureCapacityInternal_0 22 rfl rfl)
theorem dJ6_ensureCapacityInternal_23 : decode cJ6_ensureCapacityInternal 23 = .ok (.iload_n 1, 1) := dk_27 (dk_at dksJ6_ensureCapacityInternal_0 23 rfl rfl)
theorem dJ6_ensureCapacityInternal_24 : decode cJ6_ensureCapacityInternal 24 = .ok (.invokevirtual 104, 3) := dk_182 0 104 (dk_at dksJ6_ensureCapacityInternal_1 0 rfl rfl)
theorem dJ6_ensureCapacityInternal_27 : decode cJ6_ensureCapacityInternal 27 = .ok (.aload_n 0, 1) := dk_42 (dk_at dksJ6_ensureCapacityInternal_1 3 rfl rfl)
theorem dJ6_ensureCapacityInternal_28 : decode cJ6_ensureCapacityInternal 28 = .ok (.getfield 22, 3) := dk_180 0 22 (dk_at dksJ6_ensureCapacityInternal_1 4 rfl rfl)
theorem dJ6_ensureCapacityInternal_31 : decode cJ6_ensureCapacityInternal 31 = .ok (.ishl, 1) := dk_120 (dk_at dksJ6_ensureCapacityInternal_1 7 rfl rfl)
theorem dJ6_ensureCapacityInternal_32 : decode cJ6_ensureCapacityInternal 32 = .ok (.invokestatic 108, 3) := dk_184 0 108 (dk_at dksJ6_ensureCapacityInternal_1 8 rfl rfl)
theorem dJ6_ensureCapacityInternal_35 : decode cJ6_ensureCapacityInternal 35 = .ok (.putfield 15, 3) := dk_181 0 15 (dk_at dksJ6_ensureCapacityInternal_1 11 rfl rfl)
theorem dJ6_ensureCapacityInternal_38 : decode cJ6_ensureCapacityInternal 38 = .ok (.return_, 1) := dk_177 (dk_at dksJ6_ensureCapacityInternal_1 14 rfl rfl)
abbrev cJ6_newCapacity : ByteArray := prog_22_method_10_code
def yJ6_newCapacity : MethodName := ⟨RJ6, "newCapacity", "(I)I"⟩
def dkwJ6_newCapacity_2 : List UInt8 := [183, 0, 124, 191, 21, 5, 42, 180, 0, 22, 122, 172]
abbrev dktJ6_newCapacity_2 : List UInt8 := dkwJ6_newCapacity_2 ++ []
def dkwJ6_newCapacity_1 : List UInt8 := [180, 0, 22, 120, 96, 184, 0, 114, 54, 5, 21, 5, 18, 39, 160, 0, 13, 187, 0, 120, 89, 18, 122]
abbrev dktJ6_newCapacity_1 : List UInt8 := dkwJ6_newCapacity_1 ++ dktJ6_newCapacity_2
def dkwJ6_newCapacity_0 : List UInt8 := [42, 180, 0, 15, 190, 61, 27, 42, 180, 0, 22, 120, 62, 29, 28, 100, 54, 4, 28, 21, 4, 28, 5, 42]
abbrev dktJ6_newCapacity_0 : List UInt8 := dkwJ6_newCapacity_0 ++ dktJ6_newCapacity_1
theorem dksJ6_newCapacity_0 : cJ6_newCapacity.data.toList.drop 0 = dktJ6_newCapacity_0 := by decide +kernel
theorem dksJ6_newCapacity_1 : cJ6_newCapacity.data.toList.drop 24 = dktJ6_newCapacity_1 := dk_seg dksJ6_newCapacity_0 24 rfl rfl
theorem dksJ6_newCapacity_2 : cJ6_newCapacity.data.toList.drop 47 = dktJ6_newCapacity_2 := dk_seg dksJ6_newCapacity_1 23 rfl rfl
theorem dJ6_newCapacity_0 : decode cJ6_newCapacity 0 = .ok (.aload_n 0, 1) := dk_42 (dk_at dksJ6_newCapacity_0 0 rfl rfl)
theorem dJ6_newCapacity_1 : decode cJ6_newCapacity 1 = .ok (.getfield 15, 3) := dk_180 0 15 (dk_at dksJ6_newCapacity_0 1 rfl rfl)
theorem dJ6_newCapacity_4 : decode cJ6_newCapacity 4 = .ok (.arraylength, 1) := dk_190 (dk_at dksJ6_newCapacity_0 4 rfl rfl)
theorem dJ6_newCapacity_5 : decode cJ6_newCapacity 5 = .ok (.istore_n 2, 1) := dk_61 (dk_at dksJ6_newCapacity_0 5 rfl rfl)
theorem dJ6_newCapacity_6 : decode cJ6_newCapacity 6 = .ok (.iload_n 1, 1) := dk_27 (dk_at dksJ6_newCapacity_0 6 rfl rfl)
theorem dJ6_newCapacity_7 : decode cJ6_newCapacity 7 = .ok (.aload_n 0, 1) := dk_42 (dk_at dksJ6_newCapacity_0 7 rfl rfl)
theorem dJ6_newCapacity_8 : decode cJ6_newCapacity 8 = .ok (.getfield 22, 3) := dk_180 0 22 (dk_at dksJ6_newCapacity_0 8 rfl rfl)
theorem dJ6_newCapacity_11 : decode cJ6_newCapacity 11 = .ok (.ishl, 1) := dk_120 (dk_at dksJ6_newCapacity_0 11 rfl rfl)
theorem dJ6_newCapacity_12 : decode cJ6_newCapacity 12 = .ok (.istore_n 3, 1) := dk_62 (dk_at dksJ6_newCapacity_0 12 rfl rfl)
theorem dJ6_newCapacity_13 : decode cJ6_newCapacity 13 = .ok (.iload_n 3, 1) := dk_29 (dk_at dksJ6_newCapacity_0 13 rfl rfl)
theorem dJ6_newCapacity_14 : decode cJ6_newCapacity 14 = .ok (.iload_n 2, 1) := dk_28 (dk_at dksJ6_newCapacity_0 14 rfl rfl)
theorem dJ6_newCapacity_15 : decode cJ6_newCapacity 15 = .ok (.isub, 1) := dk_100 (dk_at dksJ6_newCapacity_0 15 rfl rfl)
theorem dJ6_newCapacity_16 : decode cJ6_newCapacity 16 = .ok (.istore 4, 2) := dk_54 4 (dk_at dksJ6_newCapacity_0 16 rfl rfl)
theorem dJ6_newCapacity_18 : decode cJ6_newCapacity 18 = .ok (.iload_n 2, 1) := dk_28 (dk_at dksJ6_newCapacity_0 18 rfl rfl)
theorem dJ6_newCapacity_19 : decode cJ6_newCapacity 19 = .ok (.iload 4, 2) := dk_21 4 (dk_at dksJ6_newCapacity_0 19 rfl rfl)
theorem dJ6_newCapacity_21 : decode cJ6_newCapacity 21 = .ok (.iload_n 2, 1) := dk_28 (dk_at dksJ6_newCapacity_0 21 rfl rfl)
theorem dJ6_newCapacity_22 : decode cJ6_newCapacity 22 = .ok (.iconst 2, 1) := dk_5 (dk_at dksJ6_newCapacity_0 22 rfl rfl)
theorem dJ6_newCapacity_23 : decode cJ6_newCapacity 23 = .ok (.aload_n 0, 1) := dk_42 (dk_at dksJ6_newCapacity_0 23 rfl rfl)
theorem dJ6_newCapacity_24 : decode cJ6_newCapacity 24 = .ok (.getfield 22, 3) := dk_180 0 22 (dk_at dksJ6_newCapacity_1 0 rfl rfl)
theorem dJ6_newCapacity_27 : decode cJ6_newCapacity 27 = .ok (.ishl, 1) := dk_120 (dk_at dksJ6_newCapacity_1 3 rfl rfl)
theorem dJ6_newCapacity_28 : decode cJ6_newCapacity 28 = .ok (.iadd, 1) := dk_96 (dk_at dksJ6_newCapacity_1 4 rfl rfl)
theorem dJ6_newCapacity_29 : decode cJ6_newCapacity 29 = .ok (.invokestatic 114, 3) := dk_184 0 114 (dk_at dksJ6_newCapacity_1 5 rfl rfl)
theorem dJ6_newCapacity_32 : decode cJ6_newCapacity 32 = .ok (.istore 5, 2) := dk_54 5 (dk_at dksJ6_newCapacity_1 8 rfl rfl)
theorem dJ6_newCapacity_34 : decode cJ6_newCapacity 34 = .ok (.iload 5, 2) := dk_21 5 (dk_at dksJ6_newCapacity_1 10 rfl rfl)
theorem dJ6_newCapacity_36 : decode cJ6_newCapacity 36 = .ok (.ldc 39, 2) := dk_18 39 (dk_at dksJ6_newCapacity_1 12 rfl rfl)
theorem dJ6_newCapacity_38 : decode cJ6_newCapacity 38 = .ok (.if_icmp .ne 13, 3) := dk_160 0 13 (dk_at dksJ6_newCapacity_1 14 rfl rfl)
theorem dJ6_newCapacity_41 : decode cJ6_newCapacity 41 = .ok (.new 120, 3) := dk_187 0 120 (dk_at dksJ6_newCapacity_1 17 rfl rfl)
theorem dJ6_newCapacity_44 : decode cJ6_newCapacity 44 = .ok (.dup, 1) := dk_89 (dk_at dksJ6_newCapacity_1 20 rfl rfl)
theorem dJ6_newCapacity_45 : decode cJ6_newCapacity 45 = .ok (.ldc 122, 2) := dk_18 122 (dk_at dksJ6_newCapacity_1 21 rfl rfl)
theorem dJ6_newCapacity_47 : decode cJ6_newCapacity 47 = .ok (.invokespecial 124, 3) := dk_183 0 124 (dk_at dksJ6_newCapacity_2 0 rfl rfl)
theorem dJ6_newCapacity_50 : decode cJ6_newCapacity 50 = .ok (.athrow, 1) := dk_191 (dk_at dksJ6_newCapacity_2 3 rfl rfl)
theorem dJ6_newCapacity_51 : decode cJ6_newCapacity 51 = .ok (.iload 5, 2) := dk_21 5 (dk_at dksJ6_newCapacity_2 4 rfl rfl)
theorem dJ6_newCapacity_53 : decode cJ6_newCapacity 53 = .ok (.aload_n 0, 1) := dk_42 (dk_at dksJ6_newCapacity_2 6 rfl rfl)
theorem dJ6_newCapacity_54 : decode cJ6_newCapacity 54 = .ok (.getfield 22, 3) := dk_180 0 22 (dk_at dksJ6_newCapacity_2 7 rfl rfl)
theorem dJ6_newCapacity_57 : decode cJ6_newCapacity 57 = .ok (.ishr, 1) := dk_122 (dk_at dksJ6_newCapacity_2 10 rfl rfl)
theorem dJ6_newCapacity_58 : decode cJ6_newCapacity 58 = .ok (.ireturn, 1) := dk_172 (dk_at dksJ6_newCapacity_2 11 rfl rfl)
abbrev cJ6_isLatin1 : ByteArray := prog_22_method_68_code
def yJ6_isLatin1 : MethodName := ⟨RJ6, "isLatin1", "()Z"⟩
def dkwJ6_isLatin1_0 : List UInt8 := [178, 0, 18, 153, 0, 14, 42, 180, 0, 22, 154, 0, 7, 4, 167, 0, 4, 3, 172]
abbrev dktJ6_isLatin1_0 : List UInt8 := dkwJ6_isLatin1_0 ++ []
theorem dksJ6_isLatin1_0 : cJ6_isLatin1.data.toList.drop 0 = dktJ6_isLatin1_0 := by decide +kernel
theorem dJ6_isLatin1_0 : decode cJ6_isLatin1 0 = .ok (.getstatic 18, 3) := dk_178 0 18 (dk_at dksJ6_isLatin1_0 0 rfl rfl)
theorem dJ6_isLatin1_3 : decode cJ6_isLatin1 3 = .ok (.ifCond .eq 14, 3) := dk_153 0 14 (dk_at dksJ6_isLatin1_0 3 rfl rfl)
theorem dJ6_isLatin1_6 : decode cJ6_isLatin1 6 = .ok (.aload_n 0, 1) := dk_42 (dk_at dksJ6_isLatin1_0 6 rfl rfl)
theorem dJ6_isLatin1_7 : decode cJ6_isLatin1 7 = .ok (.getfield 22, 3) := dk_180 0 22 (dk_at dksJ6_isLatin1_0 7 rfl rfl)
theorem dJ6_isLatin1_10 : decode cJ6_isLatin1 10 = .ok (.ifCond .ne 7, 3) := dk_154 0 7 (dk_at dksJ6_isLatin1_0 10 rfl rfl)
theorem dJ6_isLatin1_13 : decode cJ6_isLatin1 13 = .ok (.iconst 1, 1) := dk_4 (dk_at dksJ6_isLatin1_0 13 rfl rfl)
theorem dJ6_isLatin1_14 : decode cJ6_isLatin1 14 = .ok (.goto 4, 3) := dk_167 0 4 (dk_at dksJ6_isLatin1_0 14 rfl rfl)
theorem dJ6_isLatin1_17 : decode cJ6_isLatin1 17 = .ok (.iconst 0, 1) := dk_3 (dk_at dksJ6_isLatin1_0 17 rfl rfl)
theorem dJ6_isLatin1_18 : decode cJ6_isLatin1 18 = .ok (.ireturn, 1) := dk_172 (dk_at dksJ6_isLatin1_0 18 rfl rfl)
abbrev cJ6_putStringAt : ByteArray := prog_22_method_73_code
def yJ6_putStringAt : MethodName := ⟨RJ6, "putStringAt", "(ILjava/lang/String;)V"⟩
def dkwJ6_putStringAt_0 : List UInt8 := [42, 44, 182, 1, 141, 44, 42, 180, 0, 15, 27, 42, 180, 0, 22, 182, 1, 143, 177]
abbrev dktJ6_putStringAt_0 : List UInt8 := dkwJ6_putStringAt_0 ++ []
theorem dksJ6_putStringAt_0 : cJ6_putStringAt.data.toList.drop 0 = dktJ6_putStringAt_0 := by decide +kernel
theorem dJ6_putStringAt_0 : decode cJ6_putStringAt 0 = .ok (.aload_n 0, 1) := dk_42 (dk_at dksJ6_putStringAt_0 0 rfl rfl)
theorem dJ6_putStringAt_1 : decode cJ6_putStringAt 1 = .ok (.aload_n 2, 1) := dk_44 (dk_at dksJ6_putStringAt_0 1 rfl rfl)
theorem dJ6_putStringAt_2 : decode cJ6_putStringAt 2 = .ok (.invokevirtual 397, 3) := dk_182 1 141 (dk_at dksJ6_putStringAt_0 2 rfl rfl)
theorem dJ6_putStringAt_5 : decode cJ6_putStringAt 5 = .ok (.aload_n 2, 1) := dk_44 (dk_at dksJ6_putStringAt_0 5 rfl rfl)
theorem dJ6_putStringAt_6 : decode cJ6_putStringAt 6 = .ok (.aload_n 0, 1) := dk_42 (dk_at dksJ6_putStringAt_0 6 rfl rfl)
theorem dJ6_putStringAt_7 : decode cJ6_putStringAt 7 = .ok (.getfield 15, 3) := dk_180 0 15 (dk_at dksJ6_putStringAt_0 7 rfl rfl)
theorem dJ6_putStringAt_10 : decode cJ6_putStringAt 10 = .ok (.iload_n 1, 1) := dk_27 (dk_at dksJ6_putStringAt_0 10 rfl rfl)
theorem dJ6_putStringAt_11 : decode cJ6_putStringAt 11 = .ok (.aload_n 0, 1) := dk_42 (dk_at dksJ6_putStringAt_0 11 rfl rfl)
theorem dJ6_putStringAt_12 : decode cJ6_putStringAt 12 = .ok (.getfield 22, 3) := dk_180 0 22 (dk_at dksJ6_putStringAt_0 12 rfl rfl)
theorem dJ6_putStringAt_15 : decode cJ6_putStringAt 15 = .ok (.invokevirtual 399, 3) := dk_182 1 143 (dk_at dksJ6_putStringAt_0 15 rfl rfl)
theorem dJ6_putStringAt_18 : decode cJ6_putStringAt 18 = .ok (.return_, 1) := dk_177 (dk_at dksJ6_putStringAt_0 18 rfl rfl)
abbrev cJ6_inflateIfNeededFor : ByteArray := prog_22_method_71_code
def yJ6_inflateIfNeededFor : MethodName := ⟨RJ6, "inflateIfNeededFor", "(Ljava/lang/String;)V"⟩
def dkwJ6_inflateIfNeededFor_0 : List UInt8 := [178, 0, 18, 153, 0, 18, 42, 180, 0, 22, 43, 182, 0, 40, 159, 0, 7, 42, 182, 0, 195, 177]
abbrev dktJ6_inflateIfNeededFor_0 : List UInt8 := dkwJ6_inflateIfNeededFor_0 ++ []
theorem dksJ6_inflateIfNeededFor_0 : cJ6_inflateIfNeededFor.data.toList.drop 0 = dktJ6_inflateIfNeededFor_0 := by decide +kernel
theorem dJ6_inflateIfNeededFor_0 : decode cJ6_inflateIfNeededFor 0 = .ok (.getstatic 18, 3) := dk_178 0 18 (dk_at dksJ6_inflateIfNeededFor_0 0 rfl rfl)
theorem dJ6_inflateIfNeededFor_3 : decode cJ6_inflateIfNeededFor 3 = .ok (.ifCond .eq 18, 3) := dk_153 0 18 (dk_at dksJ6_inflateIfNeededFor_0 3 rfl rfl)
theorem dJ6_inflateIfNeededFor_6 : decode cJ6_inflateIfNeededFor 6 = .ok (.aload_n 0, 1) := dk_42 (dk_at dksJ6_inflateIfNeededFor_0 6 rfl rfl)
theorem dJ6_inflateIfNeededFor_7 : decode cJ6_inflateIfNeededFor 7 = .ok (.getfield 22, 3) := dk_180 0 22 (dk_at dksJ6_inflateIfNeededFor_0 7 rfl rfl)
theorem dJ6_inflateIfNeededFor_10 : decode cJ6_inflateIfNeededFor 10 = .ok (.aload_n 1, 1) := dk_43 (dk_at dksJ6_inflateIfNeededFor_0 10 rfl rfl)
theorem dJ6_inflateIfNeededFor_11 : decode cJ6_inflateIfNeededFor 11 = .ok (.invokevirtual 40, 3) := dk_182 0 40 (dk_at dksJ6_inflateIfNeededFor_0 11 rfl rfl)
theorem dJ6_inflateIfNeededFor_14 : decode cJ6_inflateIfNeededFor 14 = .ok (.if_icmp .eq 7, 3) := dk_159 0 7 (dk_at dksJ6_inflateIfNeededFor_0 14 rfl rfl)
theorem dJ6_inflateIfNeededFor_17 : decode cJ6_inflateIfNeededFor 17 = .ok (.aload_n 0, 1) := dk_42 (dk_at dksJ6_inflateIfNeededFor_0 17 rfl rfl)
theorem dJ6_inflateIfNeededFor_18 : decode cJ6_inflateIfNeededFor 18 = .ok (.invokevirtual 195, 3) := dk_182 0 195 (dk_at dksJ6_inflateIfNeededFor_0 18 rfl rfl)
theorem dJ6_inflateIfNeededFor_21 : decode cJ6_inflateIfNeededFor 21 = .ok (.return_, 1) := dk_177 (dk_at dksJ6_inflateIfNeededFor_0 21 rfl rfl)
abbrev cJ6_inflate : ByteArray := prog_22_method_11_code
def yJ6_inflate : MethodName := ⟨RJ6, "inflate", "()V"⟩
def dkwJ6_inflate_1 : List UInt8 := [42, 180, 0, 79, 184, 0, 125, 42, 43, 181, 0, 15, 42, 4, 181, 0, 22, 177]
abbrev dktJ6_inflate_1 : List UInt8 := dkwJ6_inflate_1 ++ []
def dkwJ6_inflate_0 : List UInt8 := [42, 182, 0, 83, 154, 0, 4, 177, 42, 180, 0, 15, 190, 184, 0, 26, 76, 42, 180, 0, 15, 3, 43, 3]
abbrev dktJ6_inflate_0 : List UInt8 := dkwJ6_inflate_0 ++ dktJ6_inflate_1
theorem dksJ6_inflate_0 : cJ6_inflate.data.toList.drop 0 = dktJ6_inflate_0 := by decide +kernel
theorem dksJ6_inflate_1 : cJ6_inflate.data.toList.drop 24 = dktJ6_inflate_1 := dk_seg dksJ6_inflate_0 24 rfl rfl
theorem dJ6_inflate_0 : decode cJ6_inflate 0 = .ok (.aload_n 0, 1) := dk_42 (dk_at dksJ6_inflate_0 0 rfl rfl)
theorem dJ6_inflate_1 : decode cJ6_inflate 1 = .ok (.invokevirtual 83, 3) := dk_182 0 83 (dk_at dksJ6_inflate_0 1 rfl rfl)
theorem dJ6_inflate_4 : decode cJ6_inflate 4 = .ok (.ifCond .ne 4, 3) := dk_154 0 4 (dk_at dksJ6_inflate_0 4 rfl rfl)
theorem dJ6_inflate_7 : decode cJ6_inflate 7 = .ok (.return_, 1) := dk_177 (dk_at dksJ6_inflate_0 7 rfl rfl)
theorem dJ6_inflate_8 : decode cJ6_inflate 8 = .ok (.aload_n 0, 1) := dk_42 (dk_at dksJ6_inflate_0 8 rfl rfl)
theorem dJ6_inflate_9 : decode cJ6_inflate 9 = .ok (.getfield 15, 3) := dk_180 0 15 (dk_at dksJ6_inflate_0 9 rfl rfl)
theorem dJ6_inflate_12 : decode cJ6_inflate 12 = .ok (.arraylength, 1) := dk_190 (dk_at dksJ6_inflate_0 12 rfl rfl)
theorem dJ6_inflate_13 : decode cJ6_inflate 13 = .ok (.invokestatic 26, 3) := dk_184 0 26 (dk_at dksJ6_inflate_0 13 rfl rfl)
theorem dJ6_inflate_16 : decode cJ6_inflate 16 = .ok (.astore_n 1, 1) := dk_76 (dk_at dksJ6_inflate_0 16 rfl rfl)
theorem dJ6_inflate_17 : decode cJ6_inflate 17 = .ok (.aload_n 0, 1) := dk_42 (dk_at dksJ6_inflate_0 17 rfl rfl)
theorem dJ6_inflate_18 : decode cJ6_inflate 18 = .ok (.getfield 15, 3) := dk_180 0 15 (dk_at dksJ6_inflate_0 18 rfl rfl)
theorem dJ6_inflate_21 : decode cJ6_inflate 21 = .ok (.iconst 0, 1) := dk_3 (dk_at dksJ6_inflate_0 21 rfl rfl)
theorem dJ6_inflate_22 : decode cJ6_inflate 22 = .ok (.aload_n 1, 1) := dk_43 (dk_at dksJ6_inflate_0 22 rfl rfl)
theorem dJ6_inflate_23 : decode cJ6_inflate 23 = .ok (.iconst 0, 1) := dk_3 (dk_at dksJ6_inflate_0 23 rfl rfl)
theorem dJ6_inflate_24 : decode cJ6_inflate 24 = .ok (.aload_n 0, 1) := dk_42 (dk_at dksJ6_inflate_1 0 rfl rfl)
theorem dJ6_inflate_25 : decode cJ6_inflate 25 = .ok (.getfield 79, 3) := dk_180 0 79 (dk_at dksJ6_inflate_1 1 rfl rfl)
theorem dJ6_inflate_28 : decode cJ6_inflate 28 = .ok (.invokestatic 125, 3) := dk_184 0 125 (dk_at dksJ6_inflate_1 4 rfl rfl)
theorem dJ6_inflate_31 : decode cJ6_inflate 31 = .ok (.aload_n 0, 1) := dk_42 (dk_at dksJ6_inflate_1 7 rfl rfl)
theorem dJ6_inflate_32 : decode cJ6_inflate 32 = .ok (.aload_n 1, 1) := dk_43 (dk_at dksJ6_inflate_1 8 rfl rfl)
theorem dJ6_inflate_33 : decode cJ6_inflate 33 = .ok (.putfield 15, 3) := dk_181 0 15 (dk_at dksJ6_inflate_1 9 rfl rfl)
theorem dJ6_inflate_36 : decode cJ6_inflate 36 = .ok (.aload_n 0, 1) := dk_42 (dk_at dksJ6_inflate_1 12 rfl rfl)
theorem dJ6_inflate_37 : decode cJ6_inflate 37 = .ok (.iconst 1, 1) := dk_4 (dk_at dksJ6_inflate_1 13 rfl rfl)
theorem dJ6_inflate_38 : decode cJ6_inflate 38 = .ok (.putfield 22, 3) := dk_181 0 22 (dk_at dksJ6_inflate_1 14 rfl rfl)
theorem dJ6_inflate_41 : decode cJ6_inflate 41 = .ok (.return_, 1) := dk_177 (dk_at dksJ6_inflate_1 17 rfl rfl)
abbrev cJ6_getValue : ByteArray := prog_22_method_64_code
def yJ6_getValue : MethodName := ⟨RJ6, "getValue", "()[B"⟩
theorem dJ6_getValue_0 : decode cJ6_getValue 0 = .ok (.aload_n 0, 1) := by decide +kernel
theorem dJ6_getValue_1 : decode cJ6_getValue 1 = .ok (.getfield 15, 3) := by decide +kernel
theorem dJ6_getValue_4 : decode cJ6_getValue 4 = .ok (.areturn, 1) := by decide +kernel
abbrev cJ6_length : ByteArray := prog_22_method_6_code
def yJ6_length : MethodName := ⟨RJ6, "length", "()I"⟩
theorem dJ6_length_0 : decode cJ6_length 0 = .ok (.aload_n 0, 1) := by decide +kernel
theorem dJ6_length_1 : decode cJ6_length 1 = .ok (.getfield 79, 3) := by decide +kernel
theorem dJ6_length_4 : decode cJ6_length 4 = .ok (.ireturn, 1) := by decide +kernel
abbrev cJ6_append_2 : ByteArray := prog_22_method_31_code
def yJ6_append_2 : MethodName := ⟨RJ6, "append", "(C)Ljava/lang/AbstractStringBuilder;"⟩
def dkwJ6_append_2_3 : List UInt8 := [181, 0, 79, 27, 184, 0, 197, 42, 176]
abbrev dktJ6_append_2_3 : List UInt8 := dkwJ6_append_2_3 ++ []
def dkwJ6_append_2_2 : List UInt8 := [182, 0, 83, 153, 0, 7, 42, 182, 0, 195, 42, 180, 0, 15, 42, 89, 180, 0, 79, 90, 4, 96]
abbrev dktJ6_append_2_2 : List UInt8 := dkwJ6_append_2_2 ++ dktJ6_append_2_3
def dkwJ6_append_2_1 : List UInt8 := [42, 180, 0, 15, 42, 89, 180, 0, 79, 90, 4, 96, 181, 0, 79, 27, 145, 84, 167, 0, 33, 42]
abbrev dktJ6_append_2_1 : List UInt8 := dkwJ6_append_2_1 ++ dktJ6_append_2_2
def dkwJ6_append_2_0 : List UInt8 := [42, 42, 180, 0, 79, 4, 96, 182, 0, 100, 42, 182, 0, 83, 153, 0, 31, 27, 184, 0, 191, 153, 0, 24]
abbrev dktJ6_append_2_0 : List UInt8 := dkwJ6_append_2_0 ++ dktJ6_append_2_1
theorem dksJ6_append_2_0 : cJ6_append_2.data.toList.drop 0 = dktJ6_append_2_0 := by decide +kernel
theorem dksJ6_append_2_1 : cJ6_append_2.data.toList.drop 24 = dktJ6_append_2_1 := dk_seg dksJ6_append_2_0 24 rfl rfl
theorem dksJ6_append_2_2 : cJ6_append_2.data.toList.drop 46 = dktJ6_append_2_2 := dk_seg dksJ6_append_2_1 22 rfl rfl
theorem dksJ6_append_2_3 : cJ6_append_2.data.toList.drop 68 = dktJ6_append_2_3 := dk_seg dksJ6_append_2_2 22 rfl rfl
theorem dJ6_append_2_0 : decode cJ6_append_2 0 = .ok (.aload_n 0, 1) := dk_42 (dk_at dksJ6_append_2_0 0 rfl rfl)
theorem dJ6_append_2_1 : decode cJ6_append_2 1 = .ok (.aload_n 0, 1) := dk_42 (dk_at dksJ6_append_2_0 1 rfl rfl)
theorem dJ6_append_2_2 : decode cJ6_append_2 2 = .ok (.getfield 79, 3) := dk_180 0 79 (dk_at dksJ6_append_2_0 2 rfl rfl)
theorem dJ6_append_2_5 : decode cJ6_append_2 5 = .ok (.iconst 1, 1) := dk_4 (dk_at dksJ6_append_2_0 5 rfl rfl)
theorem dJ6_append_2_6 : decode cJ6_append_2 6 = .ok (.iadd, 1) := dk_96 (dk_at dksJ6_append_2_0 6 rfl rfl)
theorem dJ6_append_2_7 : decode cJ6_append_2 7 = .ok (.invokevirtual 100, 3) := dk_182 0 100 (dk_at dksJ6_append_2_0 7 rfl rfl)
theorem dJ6_append_2_10 : decode cJ6_append_2 10 = .ok (.aload_n 0, 1) := dk_42 (dk_at dksJ6_append_2_0 10 rfl rfl)
theorem dJ6_append_2_11 : decode cJ6_append_2 11 = .ok (.invokevirtual 83, 3) := dk_182 0 83 (dk_at dksJ6_append_2_0 11 rfl rfl)
theorem dJ6_append_2_14 : decode cJ6_append_2 14 = .ok (.ifCond .eq 31, 3) := dk_153 0 31 (dk_at dksJ6_append_2_0 14 rfl rfl)
theorem dJ6_append_2_17 : decode cJ6_append_2 17 = .ok (.iload_n 1, 1) := dk_27 (dk_at dksJ6_append_2_0 17 rfl rfl)
theorem dJ6_append_2_18 : decode cJ6_append_2 18 = .ok (.invokestatic 191, 3) := dk_184 0 191 (dk_at dksJ6_append_2_0 18 rfl rfl)
theorem dJ6_append_2_21 : decode cJ6_append_2 21 = .ok (.ifCond .eq 24, 3) := dk_153 0 24 (dk_at dksJ6_append_2_0 21 rfl rfl)
theorem dJ6_append_2_24 : decode cJ6_append_2 24 = .ok (.aload_n 0, 1) := dk_42 (dk_at dksJ6_append_2_1 0 rfl rfl)
theorem dJ6_append_2_25 : decode cJ6_append_2 25 = .ok (.getfield 15, 3) := dk_180 0 15 (dk_at dksJ6_append_2_1 1 rfl rfl)
theorem dJ6_append_2_28 : decode cJ6_append_2 28 = .ok (.aload_n 0, 1) := dk_42 (dk_at dksJ6_append_2_1 4 rfl rfl)
theorem dJ6_append_2_29 : decode cJ6_append_2 29 = .ok (.dup, 1) := dk_89 (dk_at dksJ6_append_2_1 5 rfl rfl)
theorem dJ6_append_2_30 : decode cJ6_append_2 30 = .ok (.getfield 79, 3) := dk_180 0 79 (dk_at dksJ6_append_2_1 6 rfl rfl)
theorem dJ6_append_2_33 : decode cJ6_append_2 33 = .ok (.dup_x1, 1) := dk_90 (dk_at dksJ6_append_2_1 9 rfl rfl)
theorem dJ6_append_2_34 : decode cJ6_append_2 34 = .ok (.iconst 1, 1) := dk_4 (dk_at dksJ6_append_2_1 10 rfl rfl)
theorem dJ6_append_2_35 : decode cJ6_append_2 35 = .ok (.iadd, 1) := dk_96 (dk_at dksJ6_append_2_1 11 rfl rfl)
theorem dJ6_append_2_36 : decode cJ6_append_2 36 = .ok (.putfield 79, 3) := dk_181 0 79 (dk_at dksJ6_append_2_1 12 rfl rfl)
theorem dJ6_append_2_39 : decode cJ6_append_2 39 = .ok (.iload_n 1, 1) := dk_27 (dk_at dksJ6_append_2_1 15 rfl rfl)
theorem dJ6_append_2_40 : decode cJ6_append_2 40 = .ok (.i2b, 1) := dk_145 (dk_at dksJ6_append_2_1 16 rfl rfl)
theorem dJ6_append_2_41 : decode cJ6_append_2 41 = .ok (.bastore, 1) := dk_84 (dk_at dksJ6_append_2_1 17 rfl rfl)
theorem dJ6_append_2_42 : decode cJ6_append_2 42 = .ok (.goto 33, 3) := dk_167 0 33 (dk_at dksJ6_append_2_1 18 rfl rfl)
theorem dJ6_append_2_45 : decode cJ6_append_2 45 = .ok (.aload_n 0, 1) := dk_42 (dk_at dksJ6_append_2_1 21 rfl rfl)
theorem dJ6_append_2_46 : decode cJ6_append_2 46 = .ok (.invokevirtual 83, 3) := dk_182 0 83 (dk_at dksJ6_append_2_2 0 rfl rfl)
theorem dJ6_append_2_49 : decode cJ6_append_2 49 = .ok (.ifCond .eq 7, 3) := dk_153 0 7 (dk_at dksJ6_append_2_2 3 rfl rfl)
theorem dJ6_append_2_52 : decode cJ6_append_2 52 = .ok (.aload_n 0, 1) := dk_42 (dk_at dksJ6_append_2_2 6 rfl rfl)
theorem dJ6_append_2_53 : decode cJ6_append_2 53 = .ok (.invokevirtual 195, 3) := dk_182 0 195 (dk_at dksJ6_append_2_2 7 rfl rfl)
theorem dJ6_append_2_56 : decode cJ6_append_2 56 = .ok (.aload_n 0, 1) := dk_42 (dk_at dksJ6_append_2_2 10 rfl rfl)
theorem dJ6_append_2_57 : decode cJ6_append_2 57 = .ok (.getfield 15, 3) := dk_180 0 15 (dk_at dksJ6_append_2_2 11 rfl rfl)
theorem dJ6_append_2_60 : decode cJ6_append_2 60 = .ok (.aload_n 0, 1) := dk_42 (dk_at dksJ6_append_2_2 14 rfl rfl)
theorem dJ6_append_2_61 : decode cJ6_append_2 61 = .ok (.dup, 1) := dk_89 (dk_at dksJ6_append_2_2 15 rfl rfl)
theorem dJ6_append_2_62 : decode cJ6_append_2 62 = .ok (.getfield 79, 3) := dk_180 0 79 (dk_at dksJ6_append_2_2 16 rfl rfl)
theorem dJ6_append_2_65 : decode cJ6_append_2 65 = .ok (.dup_x1, 1) := dk_90 (dk_at dksJ6_append_2_2 19 rfl rfl)
theorem dJ6_append_2_66 : decode cJ6_append_2 66 = .ok (.iconst 1, 1) := dk_4 (dk_at dksJ6_append_2_2 20 rfl rfl)
theorem dJ6_append_2_67 : decode cJ6_append_2 67 = .ok (.iadd, 1) := dk_96 (dk_at dksJ6_append_2_2 21 rfl rfl)
theorem dJ6_append_2_68 : decode cJ6_append_2 68 = .ok (.putfield 79, 3) := dk_181 0 79 (dk_at dksJ6_append_2_3 0 rfl rfl)
theorem dJ6_append_2_71 : decode cJ6_append_2 71 = .ok (.iload_n 1, 1) := dk_27 (dk_at dksJ6_append_2_3 3 rfl rfl)
theorem dJ6_append_2_72 : decode cJ6_append_2 72 = .ok (.invokestatic 197, 3) := dk_184 0 197 (dk_at dksJ6_append_2_3 4 rfl rfl)
theorem dJ6_append_2_75 : decode cJ6_append_2 75 = .ok (.aload_n 0, 1) := dk_42 (dk_at dksJ6_append_2_3 7 rfl rfl)
theorem dJ6_append_2_76 : decode cJ6_append_2 76 = .ok (.areturn, 1) := dk_176 (dk_at dksJ6_append_2_3 8 rfl rfl)
abbrev cJ6_charAt : ByteArray := prog_22_method_14_code
def yJ6_charAt : MethodName := ⟨RJ6, "charAt", "(I)C"⟩
def dkwJ6_charAt_1 : List UInt8 := [21, 4, 184, 0, 144, 28, 154, 0, 12, 45, 27, 51, 17, 0, 255, 126, 146, 172, 45, 27, 184, 0, 148, 172]
abbrev dktJ6_charAt_1 : List UInt8 := dkwJ6_charAt_1 ++ []
def dkwJ6_charAt_0 : List UInt8 := [42, 180, 0, 22, 61, 42, 180, 0, 15, 78, 42, 180, 0, 79, 45, 190, 28, 122, 184, 0, 138, 54, 4, 27]
abbrev dktJ6_charAt_0 : List UInt8 := dkwJ6_charAt_0 ++ dktJ6_charAt_1
theorem dksJ6_charAt_0 : cJ6_charAt.data.toList.drop 0 = dktJ6_charAt_0 := by decide +kernel
theorem dksJ6_charAt_1 : cJ6_charAt.data.toList.drop 24 = dktJ6_charAt_1 := dk_seg dksJ6_charAt_0 24 rfl rfl
theorem dJ6_charAt_0 : decode cJ6_charAt 0 = .ok (.aload_n 0, 1) := dk_42 (dk_at dksJ6_charAt_0 0 rfl rfl)
theorem dJ6_charAt_1 : decode cJ6_charAt 1 = .ok (.getfield 22, 3) := dk_180 0 22 (dk_at dksJ6_charAt_0 1 rfl rfl)
theorem dJ6_charAt_4 : decode cJ6_charAt 4 = .ok (.istore_n 2, 1) := dk_61 (dk_at dksJ6_charAt_0 4 rfl rfl)
theorem dJ6_charAt_5 : decode cJ6_charAt 5 = .ok (.aload_n 0, 1) := dk_42 (dk_at dksJ6_charAt_0 5 rfl rfl)
theorem dJ6_charAt_6 : decode cJ6_charAt 6 = .ok (.getfield 15, 3) := dk_180 0 15 (dk_at dksJ6_charAt_0 6 rfl rfl)
theorem dJ6_charAt_9 : decode cJ6_charAt 9 = .ok (.astore_n 3, 1) := dk_78 (dk_at dksJ6_charAt_0 9 rfl rfl)
theorem dJ6_charAt_10 : decode cJ6_charAt 10 = .ok (.aload_n 0, 1) := dk_42 (dk_at dksJ6_charAt_0 10 rfl rfl)
theorem dJ6_charAt_11 : decode cJ6_charAt 11 = .ok (.getfield 79, 3) := dk_180 0 79 (dk_at dksJ6_charAt_0 11 rfl rfl)
theorem dJ6_charAt_14 : decode cJ6_charAt 14 = .ok (.aload_n 3, 1) := dk_45 (dk_at dksJ6_charAt_0 14 rfl rfl)
theorem dJ6_charAt_15 : decode cJ6_charAt 15 = .ok (.arraylength, 1) := dk_190 (dk_at dksJ6_charAt_0 15 rfl rfl)
theorem dJ6_charAt_16 : decode cJ6_charAt 16 = .ok (.iload_n 2, 1) := dk_28 (dk_at dksJ6_charAt_0 16 rfl rfl)
theorem dJ6_charAt_17 : decode cJ6_charAt 17 = .ok (.ishr, 1) := dk_122 (dk_at dksJ6_charAt_0 17 rfl rfl)
theorem dJ6_charAt_18 : decode cJ6_charAt 18 = .ok (.invokestatic 138, 3) := dk_184 0 138 (dk_at dksJ6_charAt_0 18 rfl rfl)
theorem dJ6_charAt_21 : decode cJ6_charAt 21 = .ok (.istore 4, 2) := dk_54 4 (dk_at dksJ6_charAt_0 21 rfl rfl)
theorem dJ6_charAt_23 : decode cJ6_charAt 23 = .ok (.iload_n 1, 1) := dk_27 (dk_at dksJ6_charAt_0 23 rfl rfl)
theorem dJ6_charAt_24 : decode cJ6_charAt 24 = .ok (.iload 4, 2) := dk_21 4 (dk_at dksJ6_charAt_1 0 rfl rfl)
theorem dJ6_charAt_26 : decode cJ6_charAt 26 = .ok (.invokestatic 144, 3) := dk_184 0 144 (dk_at dksJ6_charAt_1 2 rfl rfl)
theorem dJ6_charAt_29 : decode cJ6_charAt 29 = .ok (.iload_n 2, 1) := dk_28 (dk_at dksJ6_charAt_1 5 rfl rfl)
theorem dJ6_charAt_30 : decode cJ6_charAt 30 = .ok (.ifCond .ne 12, 3) := dk_154 0 12 (dk_at dksJ6_charAt_1 6 rfl rfl)
theorem dJ6_charAt_33 : decode cJ6_charAt 33 = .ok (.aload_n 3, 1) := dk_45 (dk_at dksJ6_charAt_1 9 rfl rfl)
theorem dJ6_charAt_34 : decode cJ6_charAt 34 = .ok (.iload_n 1, 1) := dk_27 (dk_at dksJ6_charAt_1 10 rfl rfl)
theorem dJ6_charAt_35 : decode cJ6_charAt 35 = .ok (.baload, 1) := dk_51 (dk_at dksJ6_charAt_1 11 rfl rfl)
theorem dJ6_charAt_36 : decode cJ6_charAt 36 = .ok (.sipush 255, 3) := dk_17 0 255 (dk_at dksJ6_charAt_1 12 rfl rfl)
theorem dJ6_charAt_39 : decode cJ6_charAt 39 = .ok (.iand, 1) := dk_126 (dk_at dksJ6_charAt_1 15 rfl rfl)
theorem dJ6_charAt_40 : decode cJ6_charAt 40 = .ok (.i2c, 1) := dk_146 (dk_at dksJ6_charAt_1 16 rfl rfl)
theorem dJ6_charAt_41 : decode cJ6_charAt 41 = .ok (.ireturn, 1) := dk_172 (dk_at dksJ6_charAt_1 17 rfl rfl)
theorem dJ6_charAt_42 : decode cJ6_charAt 42 = .ok (.aload_n 3, 1) := dk_45 (dk_at dksJ6_charAt_1 18 rfl rfl)
theorem dJ6_charAt_43 : decode cJ6_charAt 43 = .ok (.iload_n 1, 1) := dk_27 (dk_at dksJ6_charAt_1 19 rfl rfl)
theorem dJ6_charAt_44 : decode cJ6_charAt 44 = .ok (.invokestatic 148, 3) := dk_184 0 148 (dk_at dksJ6_charAt_1 20 rfl rfl)
theorem dJ6_charAt_47 : decode cJ6_charAt 47 = .ok (.ireturn, 1) := dk_172 (dk_at dksJ6_charAt_1 23 rfl rfl)
abbrev cJ6_setLength : ByteArray := prog_22_method_13_code
def yJ6_setLength : MethodName := ⟨RJ6, "setLength", "(I)V"⟩
def dkwJ6_setLength_3 : List UInt8 := [164, 0, 8, 42, 4, 181, 0, 73, 42, 27, 181, 0, 79, 177]
abbrev dktJ6_setLength_3 : List UInt8 := dkwJ6_setLength_3 ++ []
def dkwJ6_setLength_2 : List UInt8 := [167, 0, 31, 42, 180, 0, 15, 42, 180, 0, 79, 27, 184, 0, 137, 167, 0, 16, 42, 180, 0, 79, 27]
abbrev dktJ6_setLength_2 : List UInt8 := dkwJ6_setLength_2 ++ dktJ6_setLength_3
def dkwJ6_setLength_1 : List UInt8 := [162, 0, 40, 42, 182, 0, 83, 153, 0, 18, 42, 180, 0, 15, 42, 180, 0, 79, 27, 184, 0, 133]
abbrev dktJ6_setLength_1 : List UInt8 := dkwJ6_setLength_1 ++ dktJ6_setLength_2
def dkwJ6_setLength_0 : List UInt8 := [27, 156, 0, 12, 187, 0, 129, 89, 27, 183, 0, 131, 191, 42, 27, 182, 0, 100, 42, 180, 0, 79, 27]
abbrev dktJ6_setLength_0 : List UInt8 := dkwJ6_setLength_0 ++ dktJ6_setLength_1
theorem dksJ6_setLength_0 : cJ6_setLength.data.toList.drop 0 = dktJ6_setLength_0 := by decide +kernel
theorem dksJ6_setLength_1 : cJ6_setLength.data.toList.drop 23 = dktJ6_setLength_1 := dk_seg dksJ6_setLength_0 23 rfl rfl
theorem dksJ6_setLength_2 : cJ6_setLength.data.toList.drop 45 = dktJ6_setLength_2 := dk_seg dksJ6_setLength_1 22 rfl rfl
theorem dksJ6_setLength_3 : cJ6_setLength.data.toList.drop 68 = dktJ6_setLength_3 := dk_seg dksJ6_setLength_2 23 rfl rfl
theorem dJ6_setLength_0 : decode cJ6_setLength 0 = .ok (.iload_n 1, 1) := dk_27 (dk_at dksJ6_setLength_0 0 rfl rfl)
theorem dJ6_setLength_1 : decode cJ6_setLength 1 = .ok (.ifCond .ge 12, 3) := dk_156 0 12 (dk_at dksJ6_setLength_0 1 rfl rfl)
theorem dJ6_setLength_4 : decode cJ6_setLength 4 = .ok (.new 129, 3) := dk_187 0 129 (dk_at dksJ6_setLength_0 4 rfl rfl)
theorem dJ6_setLength_7 : decode cJ6_setLength 7 = .ok (.dup, 1) := dk_89 (dk_at dksJ6_setLength_0 7 rfl rfl)
theorem dJ6_setLength_8 : decode cJ6_setLength 8 = .ok (.iload_n 1, 1) := dk_27 (dk_at dksJ6_setLength_0 8 rfl rfl)
theorem dJ6_setLength_9 : decode cJ6_setLength 9 = .ok (.invokespecial 131, 3) := dk_183 0 131 (dk_at dksJ6_setLength_0 9 rfl rfl)
theorem dJ6_setLength_12 : decode cJ6_setLength 12 = .ok (.athrow, 1) := dk_191 (dk_at dksJ6_setLength_0 12 rfl rfl)
theorem dJ6_setLength_13 : decode cJ6_setLength 13 = .ok (.aload_n 0, 1) := dk_42 (dk_at dksJ6_setLength_0 13 rfl rfl)
theorem dJ6_setLength_14 : decode cJ6_setLength 14 = .ok (.iload_n 1, 1) := dk_27 (dk_at dksJ6_setLength_0 14 rfl rfl)
theorem dJ6_setLength_15 : decode cJ6_setLength 15 = .ok (.invokevirtual 100, 3) := dk_182 0 100 (dk_at dksJ6_setLength_0 15 rfl rfl)
theorem dJ6_setLength_18 : decode cJ6_setLength 18 = .ok (.aload_n 0, 1) := dk_42 (dk_at dksJ6_setLength_0 18 rfl rfl)
theorem dJ6_setLength_19 : decode cJ6_setLength 19 = .ok (.getfield 79, 3) := dk_180 0 79 (dk_at dksJ6_setLength_0 19 rfl rfl)
theorem dJ6_setLength_22 : decode cJ6_setLength 22 = .ok (.iload_n 1, 1) := dk_27 (dk_at dksJ6_setLength_0 22 rfl rfl)
theorem dJ6_setLength_23 : decode cJ6_setLength 23 = .ok (.if_icmp .ge 40, 3) := dk_162 0 40 (dk_at dksJ6_setLength_1 0 rfl rfl)
theorem dJ6_setLength_26 : decode cJ6_setLength 26 = .ok (.aload_n 0, 1) := dk_42 (dk_at dksJ6_setLength_1 3 rfl rfl)
theorem dJ6_setLength_27 : decode cJ6_setLength 27 = .ok (.invokevirtual 83, 3) := dk_182 0 83 (dk_at dksJ6_setLength_1 4 rfl rfl)
theorem dJ6_setLength_30 : decode cJ6_setLength 30 = .ok (.ifCond .eq 18, 3) := dk_153 0 18 (dk_at dksJ6_setLength_1 7 rfl rfl)
theorem dJ6_setLength_33 : decode cJ6_setLength 33 = .ok (.aload_n 0, 1) := dk_42 (dk_at dksJ6_setLength_1 10 rfl rfl)
theorem dJ6_setLength_34 : decode cJ6_setLength 34 = .ok (.getfield 15, 3) := dk_180 0 15 (dk_at dksJ6_setLength_1 11 rfl rfl)
theorem dJ6_setLength_37 : decode cJ6_setLength 37 = .ok (.aload_n 0, 1) := dk_42 (dk_at dksJ6_setLength_1 14 rfl rfl)
theorem dJ6_setLength_38 : decode cJ6_setLength 38 = .ok (.getfield 79, 3) := dk_180 0 79 (dk_at dksJ6_setLength_1 15 rfl rfl)
theorem dJ6_setLength_41 : decode cJ6_setLength 41 = .ok (.iload_n 1, 1) := dk_27 (dk_at dksJ6_setLength_1 18 rfl rfl)
theorem dJ6_setLength_42 : decode cJ6_setLength 42 = .ok (.invokestatic 133, 3) := dk_184 0 133 (dk_at dksJ6_setLength_1 19 rfl rfl)
theorem dJ6_setLength_45 : decode cJ6_setLength 45 = .ok (.goto 31, 3) := dk_167 0 31 (dk_at dksJ6_setLength_2 0 rfl rfl)
theorem dJ6_setLength_48 : decode cJ6_setLength 48 = .ok (.aload_n 0, 1) := dk_42 (dk_at dksJ6_setLength_2 3 rfl rfl)
theorem dJ6_setLength_49 : decode cJ6_setLength 49 = .ok (.getfield 15, 3) := dk_180 0 15 (dk_at dksJ6_setLength_2 4 rfl rfl)
theorem dJ6_setLength_52 : decode cJ6_setLength 52 = .ok (.aload_n 0, 1) := dk_42 (dk_at dksJ6_setLength_2 7 rfl rfl)
theorem dJ6_setLength_53 : decode cJ6_setLength 53 = .ok (.getfield 79, 3) := dk_180 0 79 (dk_at dksJ6_setLength_2 8 rfl rfl)
theorem dJ6_setLength_56 : decode cJ6_setLength 56 = .ok (.iload_n 1, 1) := dk_27 (dk_at dksJ6_setLength_2 11 rfl rfl)
theorem dJ6_setLength_57 : decode cJ6_setLength 57 = .ok (.invokestatic 137, 3) := dk_184 0 137 (dk_at dksJ6_setLength_2 12 rfl rfl)
theorem dJ6_setLength_60 : decode cJ6_setLength 60 = .ok (.goto 16, 3) := dk_167 0 16 (dk_at dksJ6_setLength_2 15 rfl rfl)
theorem dJ6_setLength_63 : decode cJ6_setLength 63 = .ok (.aload_n 0, 1) := dk_42 (dk_at dksJ6_setLength_2 18 rfl rfl)
theorem dJ6_setLength_64 : decode cJ6_setLength 64 = .ok (.getfield 79, 3) := dk_180 0 79 (dk_at dksJ6_setLength_2 19 rfl rfl)
theorem dJ6_setLength_67 : decode cJ6_setLength 67 = .ok (.iload_n 1, 1) := dk_27 (dk_at dksJ6_setLength_2 22 rfl rfl)
theorem dJ6_setLength_68 : decode cJ6_setLength 68 = .ok (.if_icmp .le 8, 3) := dk_164 0 8 (dk_at dksJ6_setLength_3 0 rfl rfl)
theorem dJ6_setLength_71 : decode cJ6_setLength 71 = .ok (.aload_n 0, 1) := dk_42 (dk_at dksJ6_setLength_3 3 rfl rfl)
theorem dJ6_setLength_72 : decode cJ6_setLength 72 = .ok (.iconst 1, 1) := dk_4 (dk_at dksJ6_setLength_3 4 rfl rfl)
theorem dJ6_setLength_73 : decode cJ6_setLength 73 = .ok (.putfield 73, 3) := dk_181 0 73 (dk_at dksJ6_setLength_3 5 rfl rfl)
theorem dJ6_setLength_76 : decode cJ6_setLength 76 = .ok (.aload_n 0, 1) := dk_42 (dk_at dksJ6_setLength_3 8 rfl rfl)
theorem dJ6_setLength_77 : decode cJ6_setLength 77 = .ok (.iload_n 1, 1) := dk_27 (dk_at dksJ6_setLength_3 9 rfl rfl)
theorem dJ6_setLength_78 : decode cJ6_setLength 78 = .ok (.putfield 79, 3) := dk_181 0 79 (dk_at dksJ6_setLength_3 10 rfl rfl)
theorem dJ6_setLength_81 : decode cJ6_setLength 81 = .ok (.return_, 1) := dk_177 (dk_at dksJ6_setLength_3 13 rfl rfl)
abbrev cJ6_append_3 : ByteArray := prog_22_method_32_code
def yJ6_append_3 : MethodName := ⟨RJ6, "append", "(I)Ljava/lang/AbstractStringBuilder;"⟩
def dkwJ6_append_3_2 : List UInt8 := [42, 29, 181, 0, 79, 42, 176]
abbrev dktJ6_append_3_2 : List UInt8 := dkwJ6_append_3_2 ++ []
def dkwJ6_append_3_1 : List UInt8 := [27, 29, 42, 180, 0, 15, 184, 0, 248, 87, 167, 0, 14, 27, 28, 29, 42, 180, 0, 15, 184, 0, 251, 87]
abbrev dktJ6_append_3_1 : List UInt8 := dkwJ6_append_3_1 ++ dktJ6_append_3_2
def dkwJ6_append_3_0 : List UInt8 := [42, 180, 0, 79, 61, 28, 27, 184, 0, 245, 96, 62, 42, 29, 182, 0, 100, 42, 182, 0, 83, 153, 0, 16]
abbrev dktJ6_append_3_0 : List UInt8 := dkwJ6_append_3_0 ++ dktJ6_append_3_1
theorem dksJ6_append_3_0 : cJ6_append_3.data.toList.drop 0 = dktJ6_append_3_0 := by decide +kernel
theorem dksJ6_append_3_1 : cJ6_append_3.data.toList.drop 24 = dktJ6_append_3_1 := dk_seg dksJ6_append_3_0 24 rfl rfl
theorem dksJ6_append_3_2 : cJ6_append_3.data.toList.drop 48 = dktJ6_append_3_2 := dk_seg dksJ6_append_3_1 24 rfl rfl
theorem dJ6_append_3_0 : decode cJ6_append_3 0 = .ok (.aload_n 0, 1) := dk_42 (dk_at dksJ6_append_3_0 0 rfl rfl)
theorem dJ6_append_3_1 : decode cJ6_append_3 1 = .ok (.getfield 79, 3) := dk_180 0 79 (dk_at dksJ6_append_3_0 1 rfl rfl)
theorem dJ6_append_3_4 : decode cJ6_append_3 4 = .ok (.istore_n 2, 1) := dk_61 (dk_at dksJ6_append_3_0 4 rfl rfl)
theorem dJ6_append_3_5 : decode cJ6_append_3 5 = .ok (.iload_n 2, 1) := dk_28 (dk_at dksJ6_append_3_0 5 rfl rfl)
theorem dJ6_append_3_6 : decode cJ6_append_3 6 = .ok (.iload_n 1, 1) := dk_27 (dk_at dksJ6_append_3_0 6 rfl rfl)
theorem dJ6_append_3_7 : decode cJ6_append_3 7 = .ok (.invokestatic 245, 3) := dk_184 0 245 (dk_at dksJ6_append_3_0 7 rfl rfl)
theorem dJ6_append_3_10 : decode cJ6_append_3 10 = .ok (.iadd, 1) := dk_96 (dk_at dksJ6_append_3_0 10 rfl rfl)
theorem dJ6_append_3_11 : decode cJ6_append_3 11 = .ok (.istore_n 3, 1) := dk_62 (dk_at dksJ6_append_3_0 11 rfl rfl)
theorem dJ6_append_3_12 : decode cJ6_append_3 12 = .ok (.aload_n 0, 1) := dk_42 (dk_at dksJ6_append_3_0 12 rfl rfl)
theorem dJ6_append_3_13 : decode cJ6_append_3 13 = .ok (.iload_n 3, 1) := dk_29 (dk_at dksJ6_append_3_0 13 rfl rfl)
theorem dJ6_append_3_14 : decode cJ6_append_3 14 = .ok (.invokevirtual 100, 3) := dk_182 0 100 (dk_at dksJ6_append_3_0 14 rfl rfl)
theorem dJ6_append_3_17 : decode cJ6_append_3 17 = .ok (.aload_n 0, 1) := dk_42 (dk_at dksJ6_append_3_0 17 rfl rfl)
theorem dJ6_append_3_18 : decode cJ6_append_3 18 = .ok (.invokevirtual 83, 3) := dk_182 0 83 (dk_at dksJ6_append_3_0 18 rfl rfl)
theorem dJ6_append_3_21 : decode cJ6_append_3 21 = .ok (.ifCond .eq 16, 3) := dk_153 0 16 (dk_at dksJ6_append_3_0 21 rfl rfl)
theorem dJ6_append_3_24 : decode cJ6_append_3 24 = .ok (.iload_n 1, 1) := dk_27 (dk_at dksJ6_append_3_1 0 rfl rfl)
theorem dJ6_append_3_25 : decode cJ6_append_3 25 = .ok (.iload_n 3, 1) := dk_29 (dk_at dksJ6_append_3_1 1 rfl rfl)
theorem dJ6_append_3_26 : decode cJ6_append_3 26 = .ok (.aload_n 0, 1) := dk_42 (dk_at dksJ6_append_3_1 2 rfl rfl)
theorem dJ6_append_3_27 : decode cJ6_append_3 27 = .ok (.getfield 15, 3) := dk_180 0 15 (dk_at dksJ6_append_3_1 3 rfl rfl)
theorem dJ6_append_3_30 : decode cJ6_append_3 30 = .ok (.invokestatic 248, 3) := dk_184 0 248 (dk_at dksJ6_append_3_1 6 rfl rfl)
theorem dJ6_append_3_33 : decode cJ6_append_3 33 = .ok (.pop, 1) := dk_87 (dk_at dksJ6_append_3_1 9 rfl rfl)
theorem dJ6_append_3_34 : decode cJ6_append_3 34 = .ok (.goto 14, 3) := dk_167 0 14 (dk_at dksJ6_append_3_1 10 rfl rfl)
theorem dJ6_append_3_37 : decode cJ6_append_3 37 = .ok (.iload_n 1, 1) := dk_27 (dk_at dksJ6_append_3_1 13 rfl rfl)
theorem dJ6_append_3_38 : decode cJ6_append_3 38 = .ok (.iload_n 2, 1) := dk_28 (dk_at dksJ6_append_3_1 14 rfl rfl)
theorem dJ6_append_3_39 : decode cJ6_append_3 39 = .ok (.iload_n 3, 1) := dk_29 (dk_at dksJ6_append_3_1 15 rfl rfl)
theorem dJ6_append_3_40 : decode cJ6_append_3 40 = .ok (.aload_n 0, 1) := dk_42 (dk_at dksJ6_append_3_1 16 rfl rfl)
theorem dJ6_append_3_41 : decode cJ6_append_3 41 = .ok (.getfield 15, 3) := dk_180 0 15 (dk_at dksJ6_append_3_1 17 rfl rfl)
theorem dJ6_append_3_44 : decode cJ6_append_3 44 = .ok (.invokestatic 251, 3) := dk_184 0 251 (dk_at dksJ6_append_3_1 20 rfl rfl)
theorem dJ6_append_3_47 : decode cJ6_append_3 47 = .ok (.pop, 1) := dk_87 (dk_at dksJ6_append_3_1 23 rfl rfl)
theorem dJ6_append_3_48 : decode cJ6_append_3 48 = .ok (.aload_n 0, 1) := dk_42 (dk_at dksJ6_append_3_2 0 rfl rfl)
theorem dJ6_append_3_49 : decode cJ6_append_3 49 = .ok (.iload_n 3, 1) := dk_29 (dk_at dksJ6_append_3_2 1 rfl rfl)
theorem dJ6_append_3_50 : decode cJ6_append_3 50 = .ok (.putfield 79, 3) := dk_181 0 79 (dk_at dksJ6_append_3_2 2 rfl rfl)
theorem dJ6_append_3_53 : decode cJ6_append_3 53 = .ok (.aload_n 0, 1) := dk_42 (dk_at dksJ6_append_3_2 5 rfl rfl)
theorem dJ6_append_3_54 : decode cJ6_append_3 54 = .ok (.areturn, 1) := dk_176 (dk_at dksJ6_append_3_2 6 rfl rfl)
theorem q104 : (Jvm.Cond.initialized "java/lang/AbstractStringBuilder") ∈ lw_all := lw_g (lw_at lw_m1 11 rfl) rfl
theorem q326 : (Jvm.Cond.instanceMethod ({ cls := "java/lang/AbstractStringBuilder", name := "<init>", desc := "(I)V" } : Jvm.MethodName)) ∈ lw_all := lw_g (lw_at lw_m1 233 rfl) rfl
theorem q327 : (Jvm.Cond.code ({ cls := "java/lang/AbstractStringBuilder", name := "<init>", desc := "(I)V" } : Jvm.MethodName) prog_22_method_2_code (2 : Nat) (Option.none : Option Jvm.ClassFile.FieldType)) ∈ lw_all := lw_g (lw_at lw_m1 234 rfl) rfl
theorem q328 : (Jvm.Cond.methodLink "java/lang/AbstractStringBuilder" (3 : Nat) ({ cls := "java/lang/Object", name := "<init>", desc := "()V" } : Jvm.MethodName)) ∈ lw_all := lw_g (lw_at lw_m1 235 rfl) rfl
theorem q329 : (Jvm.Cond.fieldLink "java/lang/AbstractStringBuilder" (18 : Nat) "java/lang/String" "COMPACT_STRINGS" "Z") ∈ lw_all := lw_g (lw_at lw_m1 236 rfl) rfl
theorem q331 : (Jvm.Cond.methodLink "java/lang/AbstractStringBuilder" (26 : Nat) ({ cls := "java/lang/StringUTF16", name := "newBytesFor", desc := "(I)[B" } : Jvm.MethodName)) ∈ lw_all := lw_g (lw_at lw_m1 238 rfl) rfl
theorem q338 : (Jvm.Cond.fieldLink "java/lang/AbstractStringBuilder" (15 : Nat) "java/lang/AbstractStringBuilder" "value" "[B") ∈ lw_all := lw_g (lw_at lw_m2 5 rfl) rfl
theorem q339 : (Jvm.Cond.fieldLink "java/lang/AbstractStringBuilder" (22 : Nat) "java/lang/AbstractStringBuilder" "coder" "B") ∈ lw_all := lw_g (lw_at lw_m2 6 rfl) rfl
theorem q340 : (Jvm.Cond.fieldLink "java/lang/AbstractStringBuilder" (73 : Nat) "java/lang/AbstractStringBuilder" "maybeLatin1" "Z") ∈ lw_all := lw_g (lw_at lw_m2 7 rfl) rfl
theorem q342 : (Jvm.Cond.fieldLink "java/lang/AbstractStringBuilder" (79 : Nat) "java/lang/AbstractStringBuilder" "count" "I") ∈ lw_all := lw_g (lw_at lw_m2 9 rfl) rfl
theorem q344 : (Jvm.Cond.soleField "java/lang/AbstractStringBuilder" "value") ∈ lw_all := lw_g (lw_at lw_m2 11 rfl) rfl
theorem q346 : (Jvm.Cond.soleField "java/lang/AbstractStringBuilder" "coder") ∈ lw_all := lw_g (lw_at lw_m2 13 rfl) rfl
theorem q348 : (Jvm.Cond.soleField "java/lang/AbstractStringBuilder" "maybeLatin1") ∈ lw_all := lw_g (lw_at lw_m2 15 rfl) rfl
theorem q350 : (Jvm.Cond.soleField "java/lang/AbstractStringBuilder" "count") ∈ lw_all := lw_g (lw_at lw_m2 17 rfl) rfl
theorem q722 : (Jvm.Cond.instanceMethod ({ cls := "java/lang/AbstractStringBuilder", name := "append", desc := "(Ljava/lang/String;)Ljava/lang/AbstractStringBuilder;" } : Jvm.MethodName)) ∈ lw_all := lw_g (lw_at lw_m3 149 rfl) rfl
theorem q723 : (Jvm.Cond.code ({ cls := "java/lang/AbstractStringBuilder", name := "append", desc := "(Ljava/lang/String;)Ljava/lang/AbstractStringBuilder;" } : Jvm.MethodName) prog_22_method_22_code (3 : Nat) (Option.some (Jvm.ClassFile.FieldType.object "java/lang/AbstractStringBuilder"))) ∈ lw_all := lw_g (lw_at lw_m3 150 rfl) rfl
theorem q724 : (Jvm.Cond.methodLink "java/lang/AbstractStringBuilder" (204 : Nat) ({ cls := "java/lang/AbstractStringBuilder", name := "appendNull", desc := "()Ljava/lang/AbstractStringBuilder;" } : Jvm.MethodName)) ∈ lw_all := lw_g (lw_at lw_m3 151 rfl) rfl
theorem q725 : (Jvm.Cond.privateMethod ({ cls := "java/lang/AbstractStringBuilder", name := "appendNull", desc := "()Ljava/lang/AbstractStringBuilder;" } : Jvm.MethodName)) ∈ lw_tbl := lw_at lw_m3 152 rfl
theorem q726 : (Jvm.Cond.instanceMethod ({ cls := "java/lang/AbstractStringBuilder", name := "appendNull", desc := "()Ljava/lang/AbstractStringBuilder;" } : Jvm.MethodName)) ∈ lw_all := lw_g (lw_at lw_m3 153 rfl) rfl
theorem q727 : (Jvm.Cond.code ({ cls := "java/lang/AbstractStringBuilder", name := "appendNull", desc := "()Ljava/lang/AbstractStringBuilder;" } : Jvm.MethodName) prog_22_method_26_code (3 : Nat) (Option.some (Jvm.ClassFile.FieldType.object "java/lang/AbstractStringBuilder"))) ∈ lw_all := lw_g (lw_at lw_m3 154 rfl) rfl
theorem q728 : (Jvm.Cond.methodLink "java/lang/AbstractStringBuilder" (100 : Nat) ({ cls := "java/lang/AbstractStringBuilder", name := "ensureCapacityInternal", desc := "(I)V" } : Jvm.MethodName)) ∈ lw_all := lw_g (lw_at lw_m3 155 rfl) rfl
theorem q729 : (Jvm.Cond.privateMethod ({ cls := "java/lang/AbstractStringBuilder", name := "ensureCapacityInternal", desc := "(I)V" } : Jvm.MethodName)) ∈ lw_tbl := lw_at lw_m3 156 rfl
theorem q730 : (Jvm.Cond.instanceMethod ({ cls := "java/lang/AbstractStringBuilder", name := "ensureCapacityInternal", desc := "(I)V" } : Jvm.MethodName)) ∈ lw_all := lw_g (lw_at lw_m3 157 rfl) rfl
theorem q731 : (Jvm.Cond.code ({ cls := "java/lang/AbstractStringBuilder", name := "ensureCapacityInternal", desc := "(I)V" } : Jvm.MethodName) prog_22_method_9_code (3 : Nat) (Option.none : Option Jvm.ClassFile.FieldType)) ∈ lw_all := lw_g (lw_at lw_m3 158 rfl) rfl
theorem q732 : (Jvm.Cond.methodLink "java/lang/AbstractStringBuilder" (104 : Nat) ({ cls := "java/lang/AbstractStringBuilder", name := "newCapacity", desc := "(I)I" } : Jvm.MethodName)) ∈ lw_all := lw_g (lw_at lw_m3 159 rfl) rfl
theorem q733 : (Jvm.Cond.privateMethod ({ cls := "java/lang/AbstractStringBuilder", name := "newCapacity", desc := "(I)I" } : Jvm.MethodName)) ∈ lw_tbl := lw_at lw_m3 160 rfl
theorem q734 : (Jvm.Cond.instanceMethod ({ cls := "java/lang/AbstractStringBuilder", name := "newCapacity", desc := "(I)I" } : Jvm.MethodName)) ∈ lw_all := lw_g (lw_at lw_m3 161 rfl) rfl
theorem q735 : (Jvm.Cond.code ({ cls := "java/lang/AbstractStringBuilder", name := "newCapacity", desc := "(I)I" } : Jvm.MethodName) prog_22_method_10_code (6 : Nat) (Option.some Jvm.ClassFile.FieldType.int)) ∈ lw_all := lw_g (lw_at lw_m3 162 rfl) rfl
theorem q736 : (Jvm.Cond.methodLink "java/lang/AbstractStringBuilder" (114 : Nat) ({ cls := "jdk/internal/util/ArraysSupport", name := "newLength", desc := "(III)I" } : Jvm.MethodName)) ∈ lw_all := lw_g (lw_at lw_m3 163 rfl) rfl
theorem q744 : (Jvm.Cond.constant "java/lang/AbstractStringBuilder" (39 : Nat) (2147483647 : Int32)) ∈ lw_all := lw_g (lw_at lw_m3 171 rfl) rfl
theorem q745 : (Jvm.Cond.methodLink "java/lang/AbstractStringBuilder" (108 : Nat) ({ cls := "java/util/Arrays", name := "copyOf", desc := "([BI)[B" } : Jvm.MethodName)) ∈ lw_all := lw_g (lw_at lw_m3 172 rfl) rfl
theorem q753 : (Jvm.Cond.methodLink "java/lang/AbstractStringBuilder" (83 : Nat) ({ cls := "java/lang/AbstractStringBuilder", name := "isLatin1", desc := "()Z" } : Jvm.MethodName)) ∈ lw_all := lw_g (lw_at lw_m3 180 rfl) rfl
theorem q754 : (Jvm.Cond.instanceMethod ({ cls := "java/lang/AbstractStringBuilder", name := "isLatin1", desc := "()Z" } : Jvm.MethodName)) ∈ lw_all := lw_g (lw_at lw_m3 181 rfl) rfl
theorem q755 : (Jvm.Cond.sameMethod "java/lang/AbstractStringBuilder" "java/lang/AbstractStringBuilder" "isLatin1" "()Z") ∈ lw_all := lw_g (lw_at lw_m3 182 rfl) rfl
theorem q757 : (Jvm.Cond.code ({ cls := "java/lang/AbstractStringBuilder", name := "isLatin1", desc := "()Z" } : Jvm.MethodName) prog_22_method_68_code (1 : Nat) (Option.some Jvm.ClassFile.FieldType.boolean)) ∈ lw_all := lw_g (lw_at lw_m3 184 rfl) rfl
theorem q758 : (Jvm.Cond.methodLink "java/lang/AbstractStringBuilder" (226 : Nat) ({ cls := "java/lang/StringUTF16", name := "putCharsAt", desc := "([BICCCC)I" } : Jvm.MethodName)) ∈ lw_all := lw_g (lw_at lw_m3 185 rfl) rfl
theorem q784 : (Jvm.Cond.methodLink "java/lang/AbstractStringBuilder" (32 : Nat) ({ cls := "java/lang/String", name := "length", desc := "()I" } : Jvm.MethodName)) ∈ lw_all := lw_g (lw_at lw_m3 211 rfl) rfl
theorem q793 : (Jvm.Cond.methodLink "java/lang/AbstractStringBuilder" (208 : Nat) ({ cls := "java/lang/AbstractStringBuilder", name := "putStringAt", desc := "(ILjava/lang/String;)V" } : Jvm.MethodName)) ∈ lw_all := lw_g (lw_at lw_m3 220 rfl) rfl
theorem q794 : (Jvm.Cond.privateMethod ({ cls := "java/lang/AbstractStringBuilder", name := "putStringAt", desc := "(ILjava/lang/String;)V" } : Jvm.MethodName)) ∈ lw_tbl := lw_at lw_m3 221 rfl
theorem q795 : (Jvm.Cond.instanceMethod ({ cls := "java/lang/AbstractStringBuilder", name := "putStringAt", desc := "(ILjava/lang/String;)V" } : Jvm.MethodName)) ∈ lw_all := lw_g (lw_at lw_m3 222 rfl) rfl
theorem q796 : (Jvm.Cond.code ({ cls := "java/lang/AbstractStringBuilder", name := "putStringAt", desc := "(ILjava/lang/String;)V" } : Jvm.MethodName) prog_22_method_73_code (3 : Nat) (Option.none : Option Jvm.ClassFile.FieldType)) ∈ lw_all := lw_g (lw_at lw_m3 223 rfl) rfl
theorem q797 : (Jvm.Cond.methodLink "java/lang/AbstractStringBuilder" (397 : Nat) ({ cls := "java/lang/AbstractStringBuilder", name := "inflateIfNeededFor", desc := "(Ljava/lang/String;)V" } : Jvm.MethodName)) ∈ lw_all := lw_g (lw_at lw_m3 224 rfl) rfl
theorem q798 : (Jvm.Cond.privateMethod ({ cls := "java/lang/AbstractStringBuilder", name := "inflateIfNeededFor", desc := "(Ljava/lang/String;)V" } : Jvm.MethodName)) ∈ lw_tbl := lw_at lw_m3 225 rfl
theorem q799 : (Jvm.Cond.instanceMethod ({ cls := "java/lang/AbstractStringBuilder", name := "inflateIfNeededFor", desc := "(Ljava/lang/String;)V" } : Jvm.MethodName)) ∈ lw_all := lw_g (lw_at lw_m3 226 rfl) rfl
theorem q800 : (Jvm.Cond.code ({ cls := "java/lang/AbstractStringBuilder", name := "inflateIfNeededFor", desc := "(Ljava/lang/String;)V" } : Jvm.MethodName) prog_22_method_71_code (2 : Nat) (Option.none : Option Jvm.ClassFile.FieldType)) ∈ lw_all := lw_g (lw_at lw_m3 227 rfl) rfl
theorem q801 : (Jvm.Cond.methodLink "java/lang/AbstractStringBuilder" (40 : Nat) ({ cls := "java/lang/String", name := "coder", desc := "()B" } : Jvm.MethodName)) ∈ lw_all := lw_g (lw_at lw_m3 228 rfl) rfl
theorem q802 : (Jvm.Cond.methodLink "java/lang/AbstractStringBuilder" (195 : Nat) ({ cls := "java/lang/AbstractStringBuilder", name := "inflate", desc := "()V" } : Jvm.MethodName)) ∈ lw_all := lw_g (lw_at lw_m3 229 rfl) rfl
theorem q803 : (Jvm.Cond.privateMethod ({ cls := "java/lang/AbstractStringBuilder", name := "inflate", desc := "()V" } : Jvm.MethodName)) ∈ lw_tbl := lw_at lw_m3 230 rfl
theorem q804 : (Jvm.Cond.instanceMethod ({ cls := "java/lang/AbstractStringBuilder", name := "inflate", desc := "()V" } : Jvm.MethodName)) ∈ lw_all := lw_g (lw_at lw_m3 231 rfl) rfl
theorem q805 : (Jvm.Cond.code ({ cls := "java/lang/AbstractStringBuilder", name := "inflate", desc := "()V" } : Jvm.MethodName) prog_22_method_11_code (2 : Nat) (Option.none : Option Jvm.ClassFile.FieldType)) ∈ lw_all := lw_g (lw_at lw_m3 232 rfl) rfl
theorem q806 : (Jvm.Cond.methodLink "java/lang/AbstractStringBuilder" (125 : Nat) ({ cls := "java/lang/StringLatin1", name := "inflate", desc := "([BI[BII)V" } : Jvm.MethodName)) ∈ lw_all := lw_g (lw_at lw_m3 233 rfl) rfl
theorem q821 : (Jvm.Cond.methodLink "java/lang/AbstractStringBuilder" (399 : Nat) ({ cls := "java/lang/String", name := "getBytes", desc := "([BIB)V" } : Jvm.MethodName)) ∈ lw_all := lw_g (lw_at lw_m4 8 rfl) rfl
theorem q842 : (Jvm.Cond.instanceMethod ({ cls := "java/lang/AbstractStringBuilder", name := "getValue", desc := "()[B" } : Jvm.MethodName)) ∈ lw_all := lw_g (lw_at lw_m4 29 rfl) rfl
theorem q843 : (Jvm.Cond.sameMethod "java/lang/AbstractStringBuilder" "java/lang/AbstractStringBuilder" "getValue" "()[B") ∈ lw_all := lw_g (lw_at lw_m4 30 rfl) rfl
theorem q845 : (Jvm.Cond.code ({ cls := "java/lang/AbstractStringBuilder", name := "getValue", desc := "()[B" } : Jvm.MethodName) prog_22_method_64_code (1 : Nat) (Option.some (Jvm.ClassFile.FieldType.array Jvm.ClassFile.FieldType.byte))) ∈ lw_all := lw_g (lw_at lw_m4 32 rfl) rfl
theorem q847 : (Jvm.Cond.instanceMethod ({ cls := "java/lang/AbstractStringBuilder", name := "length", desc := "()I" } : Jvm.MethodName)) ∈ lw_all := lw_g (lw_at lw_m4 34 rfl) rfl
theorem q848 : (Jvm.Cond.sameMethod "java/lang/AbstractStringBuilder" "java/lang/AbstractStringBuilder" "length" "()I") ∈ lw_all := lw_g (lw_at lw_m4 35 rfl) rfl
theorem q853 : (Jvm.Cond.code ({ cls := "java/lang/AbstractStringBuilder", name := "length", desc := "()I" } : Jvm.MethodName) prog_22_method_6_code (1 : Nat) (Option.some Jvm.ClassFile.FieldType.int)) ∈ lw_all := lw_g (lw_at lw_m4 40 rfl) rfl
theorem q1598 : (Jvm.Cond.instanceMethod ({ cls := "java/lang/AbstractStringBuilder", name := "append", desc := "(C)Ljava/lang/AbstractStringBuilder;" } : Jvm.MethodName)) ∈ lw_all := lw_g (lw_at lw_m7 65 rfl) rfl
theorem q1599 : (Jvm.Cond.code ({ cls := "java/lang/AbstractStringBuilder", name := "append", desc := "(C)Ljava/lang/AbstractStringBuilder;" } : Jvm.MethodName) prog_22_method_31_code (2 : Nat) (Option.some (Jvm.ClassFile.FieldType.object "java/lang/AbstractStringBuilder"))) ∈ lw_all := lw_g (lw_at lw_m7 66 rfl) rfl
theorem q1600 : (Jvm.Cond.methodLink "java/lang/AbstractStringBuilder" (191 : Nat) ({ cls := "java/lang/StringLatin1", name := "canEncode", desc := "(C)Z" } : Jvm.MethodName)) ∈ lw_all := lw_g (lw_at lw_m7 67 rfl) rfl
theorem q1603 : (Jvm.Cond.methodLink "java/lang/AbstractStringBuilder" (197 : Nat) ({ cls := "java/lang/StringUTF16", name := "putCharSB", desc := "([BII)V" } : Jvm.MethodName)) ∈ lw_all := lw_g (lw_at lw_m7 70 rfl) rfl
theorem q1692 : (Jvm.Cond.instanceMethod ({ cls := "java/lang/AbstractStringBuilder", name := "charAt", desc := "(I)C" } : Jvm.MethodName)) ∈ lw_all := lw_g (lw_at lw_m7 159 rfl) rfl
theorem q1693 : (Jvm.Cond.code ({ cls := "java/lang/AbstractStringBuilder", name := "charAt", desc := "(I)C" } : Jvm.MethodName) prog_22_method_14_code (5 : Nat) (Option.some Jvm.ClassFile.FieldType.char)) ∈ lw_all := lw_g (lw_at lw_m7 160 rfl) rfl
theorem q1694 : (Jvm.Cond.methodLink "java/lang/AbstractStringBuilder" (138 : Nat) ({ cls := "java/lang/Math", name := "min", desc := "(II)I" } : Jvm.MethodName)) ∈ lw_all := lw_g (lw_at lw_m7 161 rfl) rfl
theorem q1695 : (Jvm.Cond.methodLink "java/lang/AbstractStringBuilder" (144 : Nat) ({ cls := "java/lang/String", name := "checkIndex", desc := "(II)V" } : Jvm.MethodName)) ∈ lw_all := lw_g (lw_at lw_m7 162 rfl) rfl
theorem q1696 : (Jvm.Cond.methodLink "java/lang/AbstractStringBuilder" (148 : Nat) ({ cls := "java/lang/StringUTF16", name := "getChar", desc := "([BI)C" } : Jvm.MethodName)) ∈ lw_all := lw_g (lw_at lw_m7 163 rfl) rfl
theorem q1996 : (Jvm.Cond.instanceMethod ({ cls := "java/lang/AbstractStringBuilder", name := "setLength", desc := "(I)V" } : Jvm.MethodName)) ∈ lw_all := lw_g (lw_at lw_m8 223 rfl) rfl
theorem q1997 : (Jvm.Cond.code ({ cls := "java/lang/AbstractStringBuilder", name := "setLength", desc := "(I)V" } : Jvm.MethodName) prog_22_method_13_code (2 : Nat) (Option.none : Option Jvm.ClassFile.FieldType)) ∈ lw_all := lw_g (lw_at lw_m8 224 rfl) rfl
theorem q1998 : (Jvm.Cond.methodLink "java/lang/AbstractStringBuilder" (133 : Nat) ({ cls := "java/lang/StringLatin1", name := "fillNull", desc := "([BII)V" } : Jvm.MethodName)) ∈ lw_all := lw_g (lw_at lw_m8 225 rfl) rfl
theorem q2007 : (Jvm.Cond.methodLink "java/lang/AbstractStringBuilder" (137 : Nat) ({ cls := "java/lang/StringUTF16", name := "fillNull", desc := "([BII)V" } : Jvm.MethodName)) ∈ lw_all := lw_g (lw_at lw_m8 234 rfl) rfl
theorem q2020 : (Jvm.Cond.instanceMethod ({ cls := "java/lang/AbstractStringBuilder", name := "append", desc := "(I)Ljava/lang/AbstractStringBuilder;" } : Jvm.MethodName)) ∈ lw_all := lw_g (lw_at lw_m9 7 rfl) rfl
theorem q2021 : (Jvm.Cond.code ({ cls := "java/lang/AbstractStringBuilder", name := "append", desc := "(I)Ljava/lang/AbstractStringBuilder;" } : Jvm.MethodName) prog_22_method_32_code (4 : Nat) (Option.some (Jvm.ClassFile.FieldType.object "java/lang/AbstractStringBuilder"))) ∈ lw_all := lw_g (lw_at lw_m9 8 rfl) rfl
theorem q2022 : (Jvm.Cond.methodLink "java/lang/AbstractStringBuilder" (245 : Nat) ({ cls := "java/lang/Integer", name := "stringSize", desc := "(I)I" } : Jvm.MethodName)) ∈ lw_all := lw_g (lw_at lw_m9 9 rfl) rfl
theorem q2025 : (Jvm.Cond.methodLink "java/lang/AbstractStringBuilder" (248 : Nat) ({ cls := "java/lang/Integer", name := "getChars", desc := "(II[B)I" } : Jvm.MethodName)) ∈ lw_all := lw_g (lw_at lw_m9 12 rfl) rfl
theorem q2032 : (Jvm.Cond.methodLink "java/lang/AbstractStringBuilder" (251 : Nat) ({ cls := "java/lang/StringUTF16", name := "getChars", desc := "(III[B)I" } : Jvm.MethodName)) ∈ lw_all := lw_g (lw_at lw_m9 19 rfl) rfl
theorem q2584 : (Jvm.Cond.sameMethod "java/lang/AbstractStringBuilder" "java/lang/AbstractStringBuilder" "append" "(Ljava/lang/String;)Ljava/lang/AbstractStringBuilder;") ∈ lw_all := lw_g (lw_at lw_m11 91 rfl) rfl
theorem q2585 : (Jvm.Cond.sameMethod "java/lang/AbstractStringBuilder" "java/lang/AbstractStringBuilder" "appendNull" "()Ljava/lang/AbstractStringBuilder;") ∈ lw_all := lw_g (lw_at lw_m11 92 rfl) rfl
theorem q2586 : (Jvm.Cond.sameMethod "java/lang/AbstractStringBuilder" "java/lang/AbstractStringBuilder" "ensureCapacityInternal" "(I)V") ∈ lw_all := lw_g (lw_at lw_m11 93 rfl) rfl
theorem q2587 : (Jvm.Cond.sameMethod "java/lang/AbstractStringBuilder" "java/lang/AbstractStringBuilder" "newCapacity" "(I)I") ∈ lw_all := lw_g (lw_at lw_m11 94 rfl) rfl
theorem q2588 : (Jvm.Cond.sameMethod "java/lang/AbstractStringBuilder" "java/lang/AbstractStringBuilder" "putStringAt" "(ILjava/lang/String;)V") ∈ lw_all := lw_g (lw_at lw_m11 95 rfl) rfl
theorem q2589 : (Jvm.Cond.sameMethod "java/lang/AbstractStringBuilder" "java/lang/AbstractStringBuilder" "inflateIfNeededFor" "(Ljava/lang/String;)V") ∈ lw_all := lw_g (lw_at lw_m11 96 rfl) rfl
theorem q2590 : (Jvm.Cond.sameMethod "java/lang/AbstractStringBuilder" "java/lang/AbstractStringBuilder" "inflate" "()V") ∈ lw_all := lw_g (lw_at lw_m11 97 rfl) rfl
theorem q2597 : (Jvm.Cond.sameMethod "java/lang/AbstractStringBuilder" "java/lang/AbstractStringBuilder" "append" "(C)Ljava/lang/AbstractStringBuilder;") ∈ lw_all := lw_g (lw_at lw_m11 104 rfl) rfl
theorem q2598 : (Jvm.Cond.sameMethod "java/lang/AbstractStringBuilder" "java/lang/AbstractStringBuilder" "charAt" "(I)C") ∈ lw_all := lw_g (lw_at lw_m11 105 rfl) rfl
theorem q2599 : (Jvm.Cond.sameMethod "java/lang/AbstractStringBuilder" "java/lang/AbstractStringBuilder" "setLength" "(I)V") ∈ lw_all := lw_g (lw_at lw_m11 106 rfl) rfl
theorem q2600 : (Jvm.Cond.sameMethod "java/lang/AbstractStringBuilder" "java/lang/AbstractStringBuilder" "append" "(I)Ljava/lang/AbstractStringBuilder;") ∈ lw_all := lw_g (lw_at lw_m11 107 rfl) rfl
/-! java/lang/StringBuilder -/
set_option maxRecDepth 100000
def RJ7 : String := "java/lang/StringBuilder"
def TJ7 : u_T := fun k => match k with
  | 0 => ("java/lang/AbstractStringBuilder", "value", "[B", false)
  | 1 => ("java/lang/AbstractStringBuilder", "coder", "B", false)
  | 2 => ("java/lang/AbstractStringBuilder", "maybeLatin1", "Z", false)
  | _ => ("java/lang/AbstractStringBuilder", "count", "I", false)
def tyJ7 : Nat → FieldType := fun k => match k with
  | 0 => .array .byte
  | 1 => .byte
  | 2 => .boolean
  | _ => .int
abbrev wsJ70 : List Cond := u_ws RJ7 TJ7 4
theorem nmJ7 : ∀ a, a < 4 → ∀ b, b < 4 → a ≠ b → (TJ7 a).2.1 ≠ (TJ7 b).2.1 := by decide +kernel
theorem tyJ7_ok : ∀ k, k < 4 → parseFieldDescriptor (TJ7 k).2.2.1 = some (tyJ7 k) := by decide +kernel
abbrev cJ7_init : ByteArray := prog_35_method_1_code
def yJ7_init : MethodName := ⟨RJ7, "<init>", "()V"⟩
def dkwJ7_init_0 : List UInt8 := [42, 16, 16, 183, 0, 1, 177]
abbrev dktJ7_init_0 : List UInt8 := dkwJ7_init_0 ++ []
theorem dksJ7_init_0 : cJ7_init.data.toList.drop 0 = dktJ7_init_0 := by decide +kernel
theorem dJ7_init_0 : decode cJ7_init 0 = .ok (.aload_n 0, 1) := dk_42 (dk_at dksJ7_init_0 0 rfl rfl)
theorem dJ7_init_1 : decode cJ7_init 1 = .ok (.bipush 16, 2) := dk_16 16 (dk_at dksJ7_init_0 1 rfl rfl)
theorem dJ7_init_3 : decode cJ7_init 3 = .ok (.invokespecial 1, 3) := dk_183 0 1 (dk_at dksJ7_init_0 3 rfl rfl)
theorem dJ7_init_6 : decode cJ7_init 6 = .ok (.return_, 1) := dk_177 (dk_at dksJ7_init_0 6 rfl rfl)
abbrev cJ7_append : ByteArray := prog_35_method_7_code
def yJ7_append : MethodName := ⟨RJ7, "append", "(Ljava/lang/String;)Ljava/lang/StringBuilder;"⟩
def dkwJ7_append_0 : List UInt8 := [42, 43, 183, 0, 29, 87, 42, 176]
abbrev dktJ7_append_0 : List UInt8 := dkwJ7_append_0 ++ []
theorem dksJ7_append_0 : cJ7_append.data.toList.drop 0 = dktJ7_append_0 := by decide +kernel
theorem dJ7_append_0 : decode cJ7_append 0 = .ok (.aload_n 0, 1) := dk_42 (dk_at dksJ7_append_0 0 rfl rfl)
theorem dJ7_append_1 : decode cJ7_append 1 = .ok (.aload_n 1, 1) := dk_43 (dk_at dksJ7_append_0 1 rfl rfl)
theorem dJ7_append_2 : decode cJ7_append 2 = .ok (.invokespecial 29, 3) := dk_183 0 29 (dk_at dksJ7_append_0 2 rfl rfl)
theorem dJ7_append_5 : decode cJ7_append 5 = .ok (.pop, 1) := dk_87 (dk_at dksJ7_append_0 5 rfl rfl)
theorem dJ7_append_6 : decode cJ7_append 6 = .ok (.aload_n 0, 1) := dk_42 (dk_at dksJ7_append_0 6 rfl rfl)
theorem dJ7_append_7 : decode cJ7_append 7 = .ok (.areturn, 1) := dk_176 (dk_at dksJ7_append_0 7 rfl rfl)
abbrev cJ7_toString : ByteArray := prog_35_method_42_code
def yJ7_toString : MethodName := ⟨RJ7, "toString", "()Ljava/lang/String;"⟩
def dkwJ7_toString_0 : List UInt8 := [187, 0, 18, 89, 42, 183, 0, 137, 176]
abbrev dktJ7_toString_0 : List UInt8 := dkwJ7_toString_0 ++ []
theorem dksJ7_toString_0 : cJ7_toString.data.toList.drop 0 = dktJ7_toString_0 := by decide +kernel
theorem dJ7_toString_0 : decode cJ7_toString 0 = .ok (.new 18, 3) := dk_187 0 18 (dk_at dksJ7_toString_0 0 rfl rfl)
theorem dJ7_toString_3 : decode cJ7_toString 3 = .ok (.dup, 1) := dk_89 (dk_at dksJ7_toString_0 3 rfl rfl)
theorem dJ7_toString_4 : decode cJ7_toString 4 = .ok (.aload_n 0, 1) := dk_42 (dk_at dksJ7_toString_0 4 rfl rfl)
theorem dJ7_toString_5 : decode cJ7_toString 5 = .ok (.invokespecial 137, 3) := dk_183 0 137 (dk_at dksJ7_toString_0 5 rfl rfl)
theorem dJ7_toString_8 : decode cJ7_toString 8 = .ok (.areturn, 1) := dk_176 (dk_at dksJ7_toString_0 8 rfl rfl)
abbrev cJ7_length : ByteArray := prog_35_method_93_code
def yJ7_length : MethodName := ⟨RJ7, "length", "()I"⟩
theorem dJ7_length_0 : decode cJ7_length 0 = .ok (.aload_n 0, 1) := by decide +kernel
theorem dJ7_length_1 : decode cJ7_length 1 = .ok (.invokespecial 343, 3) := by decide +kernel
theorem dJ7_length_4 : decode cJ7_length 4 = .ok (.ireturn, 1) := by decide +kernel
abbrev cJ7_append_2 : ByteArray := prog_35_method_14_code
def yJ7_append_2 : MethodName := ⟨RJ7, "append", "(C)Ljava/lang/StringBuilder;"⟩
def dkwJ7_append_2_0 : List UInt8 := [42, 27, 183, 0, 50, 87, 42, 176]
abbrev dktJ7_append_2_0 : List UInt8 := dkwJ7_append_2_0 ++ []
theorem dksJ7_append_2_0 : cJ7_append_2.data.toList.drop 0 = dktJ7_append_2_0 := by decide +kernel
theorem dJ7_append_2_0 : decode cJ7_append_2 0 = .ok (.aload_n 0, 1) := dk_42 (dk_at dksJ7_append_2_0 0 rfl rfl)
theorem dJ7_append_2_1 : decode cJ7_append_2 1 = .ok (.iload_n 1, 1) := dk_27 (dk_at dksJ7_append_2_0 1 rfl rfl)
theorem dJ7_append_2_2 : decode cJ7_append_2 2 = .ok (.invokespecial 50, 3) := dk_183 0 50 (dk_at dksJ7_append_2_0 2 rfl rfl)
theorem dJ7_append_2_5 : decode cJ7_append_2 5 = .ok (.pop, 1) := dk_87 (dk_at dksJ7_append_2_0 5 rfl rfl)
theorem dJ7_append_2_6 : decode cJ7_append_2 6 = .ok (.aload_n 0, 1) := dk_42 (dk_at dksJ7_append_2_0 6 rfl rfl)
theorem dJ7_append_2_7 : decode cJ7_append_2 7 = .ok (.areturn, 1) := dk_176 (dk_at dksJ7_append_2_0 7 rfl rfl)
abbrev cJ7_charAt : ByteArray := prog_35_method_88_code
def yJ7_charAt : MethodName := ⟨RJ7, "charAt", "(I)C"⟩
def dkwJ7_charAt_0 : List UInt8 := [42, 27, 183, 1, 73, 172]
abbrev dktJ7_charAt_0 : List UInt8 := dkwJ7_charAt_0 ++ []
theorem dksJ7_charAt_0 : cJ7_charAt.data.toList.drop 0 = dktJ7_charAt_0 := by decide +kernel
theorem dJ7_charAt_0 : decode cJ7_charAt 0 = .ok (.aload_n 0, 1) := dk_42 (dk_at dksJ7_charAt_0 0 rfl rfl)
theorem dJ7_charAt_1 : decode cJ7_charAt 1 = .ok (.iload_n 1, 1) := dk_27 (dk_at dksJ7_charAt_0 1 rfl rfl)
theorem dJ7_charAt_2 : decode cJ7_charAt 2 = .ok (.invokespecial 329, 3) := dk_183 1 73 (dk_at dksJ7_charAt_0 2 rfl rfl)
theorem dJ7_charAt_5 : decode cJ7_charAt 5 = .ok (.ireturn, 1) := dk_172 (dk_at dksJ7_charAt_0 5 rfl rfl)
abbrev cJ7_setLength : ByteArray := prog_35_method_89_code
def yJ7_setLength : MethodName := ⟨RJ7, "setLength", "(I)V"⟩
def dkwJ7_setLength_0 : List UInt8 := [42, 27, 183, 1, 77, 177]
abbrev dktJ7_setLength_0 : List UInt8 := dkwJ7_setLength_0 ++ []
theorem dksJ7_setLength_0 : cJ7_setLength.data.toList.drop 0 = dktJ7_setLength_0 := by decide +kernel
theorem dJ7_setLength_0 : decode cJ7_setLength 0 = .ok (.aload_n 0, 1) := dk_42 (dk_at dksJ7_setLength_0 0 rfl rfl)
theorem dJ7_setLength_1 : decode cJ7_setLength 1 = .ok (.iload_n 1, 1) := dk_27 (dk_at dksJ7_setLength_0 1 rfl rfl)
theorem dJ7_setLength_2 : decode cJ7_setLength 2 = .ok (.invokespecial 333, 3) := dk_183 1 77 (dk_at dksJ7_setLength_0 2 rfl rfl)
theorem dJ7_setLength_5 : decode cJ7_setLength 5 = .ok (.return_, 1) := dk_177 (dk_at dksJ7_setLength_0 5 rfl rfl)
abbrev cJ7_append_3 : ByteArray := prog_35_method_15_code
def yJ7_append_3 : MethodName := ⟨RJ7, "append", "(I)Ljava/lang/StringBuilder;"⟩
def dkwJ7_append_3_0 : List UInt8 := [42, 27, 183, 0, 53, 87, 42, 176]
abbrev dktJ7_append_3_0 : List UInt8 := dkwJ7_append_3_0 ++ []
theorem dksJ7_append_3_0 : cJ7_append_3.data.toList.drop 0 = dktJ7_append_3_0 := by decide +kernel
theorem dJ7_append_3_0 : decode cJ7_append_3 0 = .ok (.aload_n 0, 1) := dk_42 (dk_at dksJ7_append_3_0 0 rfl rfl)
theorem dJ7_append_3_1 : decode cJ7_append_3 1 = .ok (.iload_n 1, 1) := dk_27 (dk_at dksJ7_append_3_0 1 rfl rfl)
theorem dJ7_append_3_2 : decode cJ7_append_3 2 = .ok (.invokespecial 53, 3) := dk_183 0 53 (dk_at dksJ7_append_3_0 2 rfl rfl)
theorem dJ7_append_3_5 : decode cJ7_append_3 5 = .ok (.pop, 1) := dk_87 (dk_at dksJ7_append_3_0 5 rfl rfl)
theorem dJ7_append_3_6 : decode cJ7_append_3 6 = .ok (.aload_n 0, 1) := dk_42 (dk_at dksJ7_append_3_0 6 rfl rfl)
theorem dJ7_append_3_7 : decode cJ7_append_3 7 = .ok (.areturn, 1) := dk_176 (dk_at dksJ7_append_3_0 7 rfl rfl)
theorem q105 : (Jvm.Cond.initialized "java/lang/StringBuilder") ∈ lw_all := lw_g (lw_at lw_m1 12 rfl) rfl
theorem q321 : (Jvm.Cond.instantiable "java/lang/StringBuilder" (4 : Nat)) ∈ lw_all := lw_g (lw_at lw_m1 228 rfl) rfl
theorem q323 : (Jvm.Cond.instanceMethod ({ cls := "java/lang/StringBuilder", name := "<init>", desc := "()V" } : Jvm.MethodName)) ∈ lw_all := lw_g (lw_at lw_m1 230 rfl) rfl
theorem q324 : (Jvm.Cond.code ({ cls := "java/lang/StringBuilder", name := "<init>", desc := "()V" } : Jvm.MethodName) prog_35_method_1_code (1 : Nat) (Option.none : Option Jvm.ClassFile.FieldType)) ∈ lw_all := lw_g (lw_at lw_m1 231 rfl) rfl
theorem q325 : (Jvm.Cond.methodLink "java/lang/StringBuilder" (1 : Nat) ({ cls := "java/lang/AbstractStringBuilder", name := "<init>", desc := "(I)V" } : Jvm.MethodName)) ∈ lw_all := lw_g (lw_at lw_m1 232 rfl) rfl
theorem q343 : (Jvm.Cond.lays "java/lang/StringBuilder" "java/lang/AbstractStringBuilder" "value" "[B") ∈ lw_all := lw_g (lw_at lw_m2 10 rfl) rfl
theorem q345 : (Jvm.Cond.lays "java/lang/StringBuilder" "java/lang/AbstractStringBuilder" "coder" "B") ∈ lw_all := lw_g (lw_at lw_m2 12 rfl) rfl
theorem q347 : (Jvm.Cond.lays "java/lang/StringBuilder" "java/lang/AbstractStringBuilder" "maybeLatin1" "Z") ∈ lw_all := lw_g (lw_at lw_m2 14 rfl) rfl
theorem q349 : (Jvm.Cond.lays "java/lang/StringBuilder" "java/lang/AbstractStringBuilder" "count" "I") ∈ lw_all := lw_g (lw_at lw_m2 16 rfl) rfl
theorem q351 : (Jvm.Cond.superclass "java/lang/StringBuilder" "java/lang/AbstractStringBuilder") ∈ lw_all := lw_g (lw_at lw_m2 18 rfl) rfl
theorem q688 : (Jvm.Cond.selects "java/lang/StringBuilder" ({ cls := "java/lang/Object", name := "getClass", desc := "()Ljava/lang/Class;" } : Jvm.MethodName) ({ cls := "java/lang/Object", name := "getClass", desc := "()Ljava/lang/Class;" } : Jvm.MethodName)) ∈ lw_all := lw_g (lw_at lw_m3 115 rfl) rfl
theorem q718 : (Jvm.Cond.instanceMethod ({ cls := "java/lang/StringBuilder", name := "append", desc := "(Ljava/lang/String;)Ljava/lang/StringBuilder;" } : Jvm.MethodName)) ∈ lw_all := lw_g (lw_at lw_m3 145 rfl) rfl
theorem q719 : (Jvm.Cond.selects "java/lang/StringBuilder" ({ cls := "java/lang/StringBuilder", name := "append", desc := "(Ljava/lang/String;)Ljava/lang/StringBuilder;" } : Jvm.MethodName) ({ cls := "java/lang/StringBuilder", name := "append", desc := "(Ljava/lang/String;)Ljava/lang/StringBuilder;" } : Jvm.MethodName)) ∈ lw_all := lw_g (lw_at lw_m3 146 rfl) rfl
theorem q720 : (Jvm.Cond.code ({ cls := "java/lang/StringBuilder", name := "append", desc := "(Ljava/lang/String;)Ljava/lang/StringBuilder;" } : Jvm.MethodName) prog_35_method_7_code (2 : Nat) (Option.some (Jvm.ClassFile.FieldType.object "java/lang/StringBuilder"))) ∈ lw_all := lw_g (lw_at lw_m3 147 rfl) rfl
theorem q721 : (Jvm.Cond.methodLink "java/lang/StringBuilder" (29 : Nat) ({ cls := "java/lang/AbstractStringBuilder", name := "append", desc := "(Ljava/lang/String;)Ljava/lang/AbstractStringBuilder;" } : Jvm.MethodName)) ∈ lw_all := lw_g (lw_at lw_m3 148 rfl) rfl
theorem q756 : (Jvm.Cond.selects "java/lang/StringBuilder" ({ cls := "java/lang/AbstractStringBuilder", name := "isLatin1", desc := "()Z" } : Jvm.MethodName) ({ cls := "java/lang/AbstractStringBuilder", name := "isLatin1", desc := "()Z" } : Jvm.MethodName)) ∈ lw_all := lw_g (lw_at lw_m3 183 rfl) rfl
theorem q829 : (Jvm.Cond.instanceMethod ({ cls := "java/lang/StringBuilder", name := "toString", desc := "()Ljava/lang/String;" } : Jvm.MethodName)) ∈ lw_all := lw_g (lw_at lw_m4 16 rfl) rfl
theorem q830 : (Jvm.Cond.selects "java/lang/StringBuilder" ({ cls := "java/lang/StringBuilder", name := "toString", desc := "()Ljava/lang/String;" } : Jvm.MethodName) ({ cls := "java/lang/StringBuilder", name := "toString", desc := "()Ljava/lang/String;" } : Jvm.MethodName)) ∈ lw_all := lw_g (lw_at lw_m4 17 rfl) rfl
theorem q831 : (Jvm.Cond.code ({ cls := "java/lang/StringBuilder", name := "toString", desc := "()Ljava/lang/String;" } : Jvm.MethodName) prog_35_method_42_code (1 : Nat) (Option.some (Jvm.ClassFile.FieldType.object "java/lang/String"))) ∈ lw_all := lw_g (lw_at lw_m4 18 rfl) rfl
theorem q832 : (Jvm.Cond.classLink "java/lang/StringBuilder" (18 : Nat) "java/lang/String") ∈ lw_all := lw_g (lw_at lw_m4 19 rfl) rfl
theorem q834 : (Jvm.Cond.methodLink "java/lang/StringBuilder" (137 : Nat) ({ cls := "java/lang/String", name := "<init>", desc := "(Ljava/lang/StringBuilder;)V" } : Jvm.MethodName)) ∈ lw_all := lw_g (lw_at lw_m4 21 rfl) rfl
theorem q844 : (Jvm.Cond.selects "java/lang/StringBuilder" ({ cls := "java/lang/AbstractStringBuilder", name := "getValue", desc := "()[B" } : Jvm.MethodName) ({ cls := "java/lang/AbstractStringBuilder", name := "getValue", desc := "()[B" } : Jvm.MethodName)) ∈ lw_all := lw_g (lw_at lw_m4 31 rfl) rfl
theorem q849 : (Jvm.Cond.selects "java/lang/StringBuilder" ({ cls := "java/lang/AbstractStringBuilder", name := "length", desc := "()I" } : Jvm.MethodName) ({ cls := "java/lang/StringBuilder", name := "length", desc := "()I" } : Jvm.MethodName)) ∈ lw_all := lw_g (lw_at lw_m4 36 rfl) rfl
theorem q850 : (Jvm.Cond.instanceMethod ({ cls := "java/lang/StringBuilder", name := "length", desc := "()I" } : Jvm.MethodName)) ∈ lw_all := lw_g (lw_at lw_m4 37 rfl) rfl
theorem q851 : (Jvm.Cond.code ({ cls := "java/lang/StringBuilder", name := "length", desc := "()I" } : Jvm.MethodName) prog_35_method_93_code (1 : Nat) (Option.some Jvm.ClassFile.FieldType.int)) ∈ lw_all := lw_g (lw_at lw_m4 38 rfl) rfl
theorem q852 : (Jvm.Cond.methodLink "java/lang/StringBuilder" (343 : Nat) ({ cls := "java/lang/AbstractStringBuilder", name := "length", desc := "()I" } : Jvm.MethodName)) ∈ lw_all := lw_g (lw_at lw_m4 39 rfl) rfl
theorem q1594 : (Jvm.Cond.instanceMethod ({ cls := "java/lang/StringBuilder", name := "append", desc := "(C)Ljava/lang/StringBuilder;" } : Jvm.MethodName)) ∈ lw_all := lw_g (lw_at lw_m7 61 rfl) rfl
theorem q1595 : (Jvm.Cond.selects "java/lang/StringBuilder" ({ cls := "java/lang/StringBuilder", name := "append", desc := "(C)Ljava/lang/StringBuilder;" } : Jvm.MethodName) ({ cls := "java/lang/StringBuilder", name := "append", desc := "(C)Ljava/lang/StringBuilder;" } : Jvm.MethodName)) ∈ lw_all := lw_g (lw_at lw_m7 62 rfl) rfl
theorem q1596 : (Jvm.Cond.code ({ cls := "java/lang/StringBuilder", name := "append", desc := "(C)Ljava/lang/StringBuilder;" } : Jvm.MethodName) prog_35_method_14_code (2 : Nat) (Option.some (Jvm.ClassFile.FieldType.object "java/lang/StringBuilder"))) ∈ lw_all := lw_g (lw_at lw_m7 63 rfl) rfl
theorem q1597 : (Jvm.Cond.methodLink "java/lang/StringBuilder" (50 : Nat) ({ cls := "java/lang/AbstractStringBuilder", name := "append", desc := "(C)Ljava/lang/AbstractStringBuilder;" } : Jvm.MethodName)) ∈ lw_all := lw_g (lw_at lw_m7 64 rfl) rfl
theorem q1662 : (Jvm.Cond.castable "java/lang/StringBuilder" "java/lang/CharSequence") ∈ lw_tbl := lw_at lw_m7 129 rfl
theorem q1663 : (Jvm.Cond.selects "java/lang/StringBuilder" ({ cls := "java/lang/CharSequence", name := "length", desc := "()I" } : Jvm.MethodName) ({ cls := "java/lang/StringBuilder", name := "length", desc := "()I" } : Jvm.MethodName)) ∈ lw_all := lw_g (lw_at lw_m7 130 rfl) rfl
theorem q1664 : (Jvm.Cond.unhidden "java/lang/StringBuilder" "length" "()I") ∈ lw_tbl := lw_at lw_m7 131 rfl
theorem q1665 : (Jvm.Cond.publicMethod ({ cls := "java/lang/StringBuilder", name := "length", desc := "()I" } : Jvm.MethodName)) ∈ lw_tbl := lw_at lw_m7 132 rfl
theorem q1686 : (Jvm.Cond.selects "java/lang/StringBuilder" ({ cls := "java/lang/CharSequence", name := "charAt", desc := "(I)C" } : Jvm.MethodName) ({ cls := "java/lang/StringBuilder", name := "charAt", desc := "(I)C" } : Jvm.MethodName)) ∈ lw_all := lw_g (lw_at lw_m7 153 rfl) rfl
theorem q1687 : (Jvm.Cond.unhidden "java/lang/StringBuilder" "charAt" "(I)C") ∈ lw_tbl := lw_at lw_m7 154 rfl
theorem q1688 : (Jvm.Cond.instanceMethod ({ cls := "java/lang/StringBuilder", name := "charAt", desc := "(I)C" } : Jvm.MethodName)) ∈ lw_all := lw_g (lw_at lw_m7 155 rfl) rfl
theorem q1689 : (Jvm.Cond.publicMethod ({ cls := "java/lang/StringBuilder", name := "charAt", desc := "(I)C" } : Jvm.MethodName)) ∈ lw_tbl := lw_at lw_m7 156 rfl
theorem q1690 : (Jvm.Cond.code ({ cls := "java/lang/StringBuilder", name := "charAt", desc := "(I)C" } : Jvm.MethodName) prog_35_method_88_code (2 : Nat) (Option.some Jvm.ClassFile.FieldType.char)) ∈ lw_all := lw_g (lw_at lw_m7 157 rfl) rfl
theorem q1691 : (Jvm.Cond.methodLink "java/lang/StringBuilder" (329 : Nat) ({ cls := "java/lang/AbstractStringBuilder", name := "charAt", desc := "(I)C" } : Jvm.MethodName)) ∈ lw_all := lw_g (lw_at lw_m7 158 rfl) rfl
theorem q1992 : (Jvm.Cond.instanceMethod ({ cls := "java/lang/StringBuilder", name := "setLength", desc := "(I)V" } : Jvm.MethodName)) ∈ lw_all := lw_g (lw_at lw_m8 219 rfl) rfl
theorem q1993 : (Jvm.Cond.selects "java/lang/StringBuilder" ({ cls := "java/lang/StringBuilder", name := "setLength", desc := "(I)V" } : Jvm.MethodName) ({ cls := "java/lang/StringBuilder", name := "setLength", desc := "(I)V" } : Jvm.MethodName)) ∈ lw_all := lw_g (lw_at lw_m8 220 rfl) rfl
theorem q1994 : (Jvm.Cond.code ({ cls := "java/lang/StringBuilder", name := "setLength", desc := "(I)V" } : Jvm.MethodName) prog_35_method_89_code (2 : Nat) (Option.none : Option Jvm.ClassFile.FieldType)) ∈ lw_all := lw_g (lw_at lw_m8 221 rfl) rfl
theorem q1995 : (Jvm.Cond.methodLink "java/lang/StringBuilder" (333 : Nat) ({ cls := "java/lang/AbstractStringBuilder", name := "setLength", desc := "(I)V" } : Jvm.MethodName)) ∈ lw_all := lw_g (lw_at lw_m8 222 rfl) rfl
theorem q2016 : (Jvm.Cond.instanceMethod ({ cls := "java/lang/StringBuilder", name := "append", desc := "(I)Ljava/lang/StringBuilder;" } : Jvm.MethodName)) ∈ lw_all := lw_g (lw_at lw_m9 3 rfl) rfl
theorem q2017 : (Jvm.Cond.selects "java/lang/StringBuilder" ({ cls := "java/lang/StringBuilder", name := "append", desc := "(I)Ljava/lang/StringBuilder;" } : Jvm.MethodName) ({ cls := "java/lang/StringBuilder", name := "append", desc := "(I)Ljava/lang/StringBuilder;" } : Jvm.MethodName)) ∈ lw_all := lw_g (lw_at lw_m9 4 rfl) rfl
theorem q2018 : (Jvm.Cond.code ({ cls := "java/lang/StringBuilder", name := "append", desc := "(I)Ljava/lang/StringBuilder;" } : Jvm.MethodName) prog_35_method_15_code (2 : Nat) (Option.some (Jvm.ClassFile.FieldType.object "java/lang/StringBuilder"))) ∈ lw_all := lw_g (lw_at lw_m9 5 rfl) rfl
theorem q2019 : (Jvm.Cond.methodLink "java/lang/StringBuilder" (53 : Nat) ({ cls := "java/lang/AbstractStringBuilder", name := "append", desc := "(I)Ljava/lang/AbstractStringBuilder;" } : Jvm.MethodName)) ∈ lw_all := lw_g (lw_at lw_m9 6 rfl) rfl
theorem q2596 : (Jvm.Cond.selects "java/lang/StringBuilder" ({ cls := "java/lang/StringBuilder", name := "length", desc := "()I" } : Jvm.MethodName) ({ cls := "java/lang/StringBuilder", name := "length", desc := "()I" } : Jvm.MethodName)) ∈ lw_all := lw_g (lw_at lw_m11 103 rfl) rfl
theorem q2601 : (Jvm.Cond.selects "java/lang/StringBuilder" ({ cls := "java/lang/StringBuilder", name := "charAt", desc := "(I)C" } : Jvm.MethodName) ({ cls := "java/lang/StringBuilder", name := "charAt", desc := "(I)C" } : Jvm.MethodName)) ∈ lw_all := lw_g (lw_at lw_m11 108 rfl) rfl
theorem q2611 : (Jvm.Cond.castable "java/lang/StringBuilder" "java/lang/Object") ∈ lw_tbl := lw_at lw_m11 118 rfl
theorem in_J7 : ∀ w ∈ wsJ70, w ∈ lw_all := lw_in wsJ70 [343, 345, 347, 349] (by decide +kernel) (by decide +kernel)
/-! java/lang/String -/
set_option maxRecDepth 100000
def RJ8 : String := "java/lang/String"
def TJ8 : u_T := fun k => match k with
  | 0 => ("java/lang/String", "value", "[B", true)
  | 1 => ("java/lang/String", "coder", "B", true)
  | 2 => ("java/lang/String", "hash", "I", false)
  | _ => ("java/lang/String", "hashIsZero", "Z", false)
def tyJ8 : Nat → FieldType := fun k => match k with
  | 0 => .array .byte
  | 1 => .byte
  | 2 => .int
  | _ => .boolean
abbrev wsJ80 : List Cond := u_ws RJ8 TJ8 4
theorem nmJ8 : ∀ a, a < 4 → ∀ b, b < 4 → a ≠ b → (TJ8 a).2.1 ≠ (TJ8 b).2.1 := by decide +kernel
theorem tyJ8_ok : ∀ k, k < 4 → parseFieldDescriptor (TJ8 k).2.2.1 = some (tyJ8 k) := by decide +kernel
abbrev cJ8_checkBoundsBeginEnd : ByteArray := prog_34_method_158_code
def yJ8_checkBoundsBeginEnd : MethodName := ⟨RJ8, "checkBoundsBeginEnd", "(III)V"⟩
def dkwJ8_checkBoundsBeginEnd_0 : List UInt8 := [26, 27, 28, 178, 4, 29, 184, 4, 38, 87, 177]
abbrev dktJ8_checkBoundsBeginEnd_0 : List UInt8 := dkwJ8_checkBoundsBeginEnd_0 ++ []
theorem dksJ8_checkBoundsBeginEnd_0 : cJ8_checkBoundsBeginEnd.data.toList.drop 0 = dktJ8_checkBoundsBeginEnd_0 := by decide +kernel
theorem dJ8_checkBoundsBeginEnd_0 : decode cJ8_checkBoundsBeginEnd 0 = .ok (.iload_n 0, 1) := dk_26 (dk_at dksJ8_checkBoundsBeginEnd_0 0 rfl rfl)
theorem dJ8_checkBoundsBeginEnd_1 : decode cJ8_checkBoundsBeginEnd 1 = .ok (.iload_n 1, 1) := dk_27 (dk_at dksJ8_checkBoundsBeginEnd_0 1 rfl rfl)
theorem dJ8_checkBoundsBeginEnd_2 : decode cJ8_checkBoundsBeginEnd 2 = .ok (.iload_n 2, 1) := dk_28 (dk_at dksJ8_checkBoundsBeginEnd_0 2 rfl rfl)
theorem dJ8_checkBoundsBeginEnd_3 : decode cJ8_checkBoundsBeginEnd 3 = .ok (.getstatic 1053, 3) := dk_178 4 29 (dk_at dksJ8_checkBoundsBeginEnd_0 3 rfl rfl)
theorem dJ8_checkBoundsBeginEnd_6 : decode cJ8_checkBoundsBeginEnd 6 = .ok (.invokestatic 1062, 3) := dk_184 4 38 (dk_at dksJ8_checkBoundsBeginEnd_0 6 rfl rfl)
theorem dJ8_checkBoundsBeginEnd_9 : decode cJ8_checkBoundsBeginEnd 9 = .ok (.pop, 1) := dk_87 (dk_at dksJ8_checkBoundsBeginEnd_0 9 rfl rfl)
theorem dJ8_checkBoundsBeginEnd_10 : decode cJ8_checkBoundsBeginEnd 10 = .ok (.return_, 1) := dk_177 (dk_at dksJ8_checkBoundsBeginEnd_0 10 rfl rfl)
abbrev cJ8_length : ByteArray := prog_34_method_54_code
def yJ8_length : MethodName := ⟨RJ8, "length", "()I"⟩
def dkwJ8_length_0 : List UInt8 := [42, 180, 0, 9, 190, 42, 182, 1, 79, 122, 172]
abbrev dktJ8_length_0 : List UInt8 := dkwJ8_length_0 ++ []
theorem dksJ8_length_0 : cJ8_length.data.toList.drop 0 = dktJ8_length_0 := by decide +kernel
theorem dJ8_length_0 : decode cJ8_length 0 = .ok (.aload_n 0, 1) := dk_42 (dk_at dksJ8_length_0 0 rfl rfl)
theorem dJ8_length_1 : decode cJ8_length 1 = .ok (.getfield 9, 3) := dk_180 0 9 (dk_at dksJ8_length_0 1 rfl rfl)
theorem dJ8_length_4 : decode cJ8_length 4 = .ok (.arraylength, 1) := dk_190 (dk_at dksJ8_length_0 4 rfl rfl)
theorem dJ8_length_5 : decode cJ8_length 5 = .ok (.aload_n 0, 1) := dk_42 (dk_at dksJ8_length_0 5 rfl rfl)
theorem dJ8_length_6 : decode cJ8_length 6 = .ok (.invokevirtual 335, 3) := dk_182 1 79 (dk_at dksJ8_length_0 6 rfl rfl)
theorem dJ8_length_9 : decode cJ8_length 9 = .ok (.ishr, 1) := dk_122 (dk_at dksJ8_length_0 9 rfl rfl)
theorem dJ8_length_10 : decode cJ8_length 10 = .ok (.ireturn, 1) := dk_172 (dk_at dksJ8_length_0 10 rfl rfl)
abbrev cJ8_coder : ByteArray := prog_34_method_152_code
def yJ8_coder : MethodName := ⟨RJ8, "coder", "()B"⟩
def dkwJ8_coder_0 : List UInt8 := [178, 0, 38, 153, 0, 10, 42, 180, 0, 15, 167, 0, 4, 4, 172]
abbrev dktJ8_coder_0 : List UInt8 := dkwJ8_coder_0 ++ []
theorem dksJ8_coder_0 : cJ8_coder.data.toList.drop 0 = dktJ8_coder_0 := by decide +kernel
theorem dJ8_coder_0 : decode cJ8_coder 0 = .ok (.getstatic 38, 3) := dk_178 0 38 (dk_at dksJ8_coder_0 0 rfl rfl)
theorem dJ8_coder_3 : decode cJ8_coder 3 = .ok (.ifCond .eq 10, 3) := dk_153 0 10 (dk_at dksJ8_coder_0 3 rfl rfl)
theorem dJ8_coder_6 : decode cJ8_coder 6 = .ok (.aload_n 0, 1) := dk_42 (dk_at dksJ8_coder_0 6 rfl rfl)
theorem dJ8_coder_7 : decode cJ8_coder 7 = .ok (.getfield 15, 3) := dk_180 0 15 (dk_at dksJ8_coder_0 7 rfl rfl)
theorem dJ8_coder_10 : decode cJ8_coder 10 = .ok (.goto 4, 3) := dk_167 0 4 (dk_at dksJ8_coder_0 10 rfl rfl)
theorem dJ8_coder_13 : decode cJ8_coder 13 = .ok (.iconst 1, 1) := dk_4 (dk_at dksJ8_coder_0 13 rfl rfl)
theorem dJ8_coder_14 : decode cJ8_coder 14 = .ok (.ireturn, 1) := dk_172 (dk_at dksJ8_coder_0 14 rfl rfl)
abbrev cJ8_checkBoundsOffCount : ByteArray := prog_34_method_157_code
def yJ8_checkBoundsOffCount : MethodName := ⟨RJ8, "checkBoundsOffCount", "(III)I"⟩
def dkwJ8_checkBoundsOffCount_0 : List UInt8 := [26, 27, 28, 178, 4, 29, 184, 4, 41, 172]
abbrev dktJ8_checkBoundsOffCount_0 : List UInt8 := dkwJ8_checkBoundsOffCount_0 ++ []
theorem dksJ8_checkBoundsOffCount_0 : cJ8_checkBoundsOffCount.data.toList.drop 0 = dktJ8_checkBoundsOffCount_0 := by decide +kernel
theorem dJ8_checkBoundsOffCount_0 : decode cJ8_checkBoundsOffCount 0 = .ok (.iload_n 0, 1) := dk_26 (dk_at dksJ8_checkBoundsOffCount_0 0 rfl rfl)
theorem dJ8_checkBoundsOffCount_1 : decode cJ8_checkBoundsOffCount 1 = .ok (.iload_n 1, 1) := dk_27 (dk_at dksJ8_checkBoundsOffCount_0 1 rfl rfl)
theorem dJ8_checkBoundsOffCount_2 : decode cJ8_checkBoundsOffCount 2 = .ok (.iload_n 2, 1) := dk_28 (dk_at dksJ8_checkBoundsOffCount_0 2 rfl rfl)
theorem dJ8_checkBoundsOffCount_3 : decode cJ8_checkBoundsOffCount 3 = .ok (.getstatic 1053, 3) := dk_178 4 29 (dk_at dksJ8_checkBoundsOffCount_0 3 rfl rfl)
theorem dJ8_checkBoundsOffCount_6 : decode cJ8_checkBoundsOffCount 6 = .ok (.invokestatic 1065, 3) := dk_184 4 41 (dk_at dksJ8_checkBoundsOffCount_0 6 rfl rfl)
theorem dJ8_checkBoundsOffCount_9 : decode cJ8_checkBoundsOffCount 9 = .ok (.ireturn, 1) := dk_172 (dk_at dksJ8_checkBoundsOffCount_0 9 rfl rfl)
abbrev cJ8_getBytes : ByteArray := prog_34_method_147_code
def yJ8_getBytes : MethodName := ⟨RJ8, "getBytes", "([BIB)V"⟩
def dkwJ8_getBytes_1 : List UInt8 := [184, 0, 212, 167, 0, 18, 42, 180, 0, 9, 3, 43, 28, 42, 180, 0, 9, 190, 184, 0, 106, 177]
abbrev dktJ8_getBytes_1 : List UInt8 := dkwJ8_getBytes_1 ++ []
def dkwJ8_getBytes_0 : List UInt8 := [42, 182, 1, 79, 29, 160, 0, 23, 42, 180, 0, 9, 3, 43, 28, 29, 120, 42, 180, 0, 9, 190]
abbrev dktJ8_getBytes_0 : List UInt8 := dkwJ8_getBytes_0 ++ dktJ8_getBytes_1
theorem dksJ8_getBytes_0 : cJ8_getBytes.data.toList.drop 0 = dktJ8_getBytes_0 := by decide +kernel
theorem dksJ8_getBytes_1 : cJ8_getBytes.data.toList.drop 22 = dktJ8_getBytes_1 := dk_seg dksJ8_getBytes_0 22 rfl rfl
theorem dJ8_getBytes_0 : decode cJ8_getBytes 0 = .ok (.aload_n 0, 1) := dk_42 (dk_at dksJ8_getBytes_0 0 rfl rfl)
theorem dJ8_getBytes_1 : decode cJ8_getBytes 1 = .ok (.invokevirtual 335, 3) := dk_182 1 79 (dk_at dksJ8_getBytes_0 1 rfl rfl)
theorem dJ8_getBytes_4 : decode cJ8_getBytes 4 = .ok (.iload_n 3, 1) := dk_29 (dk_at dksJ8_getBytes_0 4 rfl rfl)
theorem dJ8_getBytes_5 : decode cJ8_getBytes 5 = .ok (.if_icmp .ne 23, 3) := dk_160 0 23 (dk_at dksJ8_getBytes_0 5 rfl rfl)
theorem dJ8_getBytes_8 : decode cJ8_getBytes 8 = .ok (.aload_n 0, 1) := dk_42 (dk_at dksJ8_getBytes_0 8 rfl rfl)
theorem dJ8_getBytes_9 : decode cJ8_getBytes 9 = .ok (.getfield 9, 3) := dk_180 0 9 (dk_at dksJ8_getBytes_0 9 rfl rfl)
theorem dJ8_getBytes_12 : decode cJ8_getBytes 12 = .ok (.iconst 0, 1) := dk_3 (dk_at dksJ8_getBytes_0 12 rfl rfl)
theorem dJ8_getBytes_13 : decode cJ8_getBytes 13 = .ok (.aload_n 1, 1) := dk_43 (dk_at dksJ8_getBytes_0 13 rfl rfl)
theorem dJ8_getBytes_14 : decode cJ8_getBytes 14 = .ok (.iload_n 2, 1) := dk_28 (dk_at dksJ8_getBytes_0 14 rfl rfl)
theorem dJ8_getBytes_15 : decode cJ8_getBytes 15 = .ok (.iload_n 3, 1) := dk_29 (dk_at dksJ8_getBytes_0 15 rfl rfl)
theorem dJ8_getBytes_16 : decode cJ8_getBytes 16 = .ok (.ishl, 1) := dk_120 (dk_at dksJ8_getBytes_0 16 rfl rfl)
theorem dJ8_getBytes_17 : decode cJ8_getBytes 17 = .ok (.aload_n 0, 1) := dk_42 (dk_at dksJ8_getBytes_0 17 rfl rfl)
theorem dJ8_getBytes_18 : decode cJ8_getBytes 18 = .ok (.getfield 9, 3) := dk_180 0 9 (dk_at dksJ8_getBytes_0 18 rfl rfl)
theorem dJ8_getBytes_21 : decode cJ8_getBytes 21 = .ok (.arraylength, 1) := dk_190 (dk_at dksJ8_getBytes_0 21 rfl rfl)
theorem dJ8_getBytes_22 : decode cJ8_getBytes 22 = .ok (.invokestatic 212, 3) := dk_184 0 212 (dk_at dksJ8_getBytes_1 0 rfl rfl)
theorem dJ8_getBytes_25 : decode cJ8_getBytes 25 = .ok (.goto 18, 3) := dk_167 0 18 (dk_at dksJ8_getBytes_1 3 rfl rfl)
theorem dJ8_getBytes_28 : decode cJ8_getBytes 28 = .ok (.aload_n 0, 1) := dk_42 (dk_at dksJ8_getBytes_1 6 rfl rfl)
theorem dJ8_getBytes_29 : decode cJ8_getBytes 29 = .ok (.getfield 9, 3) := dk_180 0 9 (dk_at dksJ8_getBytes_1 7 rfl rfl)
theorem dJ8_getBytes_32 : decode cJ8_getBytes 32 = .ok (.iconst 0, 1) := dk_3 (dk_at dksJ8_getBytes_1 10 rfl rfl)
theorem dJ8_getBytes_33 : decode cJ8_getBytes 33 = .ok (.aload_n 1, 1) := dk_43 (dk_at dksJ8_getBytes_1 11 rfl rfl)
theorem dJ8_getBytes_34 : decode cJ8_getBytes 34 = .ok (.iload_n 2, 1) := dk_28 (dk_at dksJ8_getBytes_1 12 rfl rfl)
theorem dJ8_getBytes_35 : decode cJ8_getBytes 35 = .ok (.aload_n 0, 1) := dk_42 (dk_at dksJ8_getBytes_1 13 rfl rfl)
theorem dJ8_getBytes_36 : decode cJ8_getBytes 36 = .ok (.getfield 9, 3) := dk_180 0 9 (dk_at dksJ8_getBytes_1 14 rfl rfl)
theorem dJ8_getBytes_39 : decode cJ8_getBytes 39 = .ok (.arraylength, 1) := dk_190 (dk_at dksJ8_getBytes_1 17 rfl rfl)
theorem dJ8_getBytes_40 : decode cJ8_getBytes 40 = .ok (.invokestatic 106, 3) := dk_184 0 106 (dk_at dksJ8_getBytes_1 18 rfl rfl)
theorem dJ8_getBytes_43 : decode cJ8_getBytes 43 = .ok (.return_, 1) := dk_177 (dk_at dksJ8_getBytes_1 21 rfl rfl)
abbrev cJ8_init : ByteArray := prog_34_method_53_code
def yJ8_init : MethodName := ⟨RJ8, "<init>", "(Ljava/lang/StringBuilder;)V"⟩
def dkwJ8_init_0 : List UInt8 := [42, 43, 1, 183, 1, 233, 177]
abbrev dktJ8_init_0 : List UInt8 := dkwJ8_init_0 ++ []
theorem dksJ8_init_0 : cJ8_init.data.toList.drop 0 = dktJ8_init_0 := by decide +kernel
theorem dJ8_init_0 : decode cJ8_init 0 = .ok (.aload_n 0, 1) := dk_42 (dk_at dksJ8_init_0 0 rfl rfl)
theorem dJ8_init_1 : decode cJ8_init 1 = .ok (.aload_n 1, 1) := dk_43 (dk_at dksJ8_init_0 1 rfl rfl)
theorem dJ8_init_2 : decode cJ8_init 2 = .ok (.aconst_null, 1) := dk_1 (dk_at dksJ8_init_0 2 rfl rfl)
theorem dJ8_init_3 : decode cJ8_init 3 = .ok (.invokespecial 489, 3) := dk_183 1 233 (dk_at dksJ8_init_0 3 rfl rfl)
theorem dJ8_init_6 : decode cJ8_init 6 = .ok (.return_, 1) := dk_177 (dk_at dksJ8_init_0 6 rfl rfl)
abbrev cJ8_init_2 : ByteArray := prog_34_method_150_code
def yJ8_init_2 : MethodName := ⟨RJ8, "<init>", "(Ljava/lang/AbstractStringBuilder;Ljava/lang/Void;)V"⟩
def dkwJ8_init_2_4 : List UInt8 := [181, 0, 9, 177]
abbrev dktJ8_init_2_4 : List UInt8 := dkwJ8_init_2_4 ++ []
def dkwJ8_init_2_3 : List UInt8 := [184, 0, 47, 181, 0, 15, 177, 42, 4, 181, 0, 15, 42, 45, 3, 21, 4, 4, 120, 184, 0, 54]
abbrev dktJ8_init_2_3 : List UInt8 := dkwJ8_init_2_3 ++ dktJ8_init_2_4
def dkwJ8_init_2_2 : List UInt8 := [180, 4, 24, 153, 0, 28, 42, 45, 3, 21, 4, 184, 4, 27, 181, 0, 9, 42, 42, 180, 0, 9, 21, 4]
abbrev dktJ8_init_2_2 : List UInt8 := dkwJ8_init_2_2 ++ dktJ8_init_2_3
def dkwJ8_init_2_1 : List UInt8 := [181, 0, 15, 42, 45, 3, 21, 4, 184, 0, 54, 181, 0, 9, 167, 0, 59, 178, 0, 38, 153, 0, 35, 43]
abbrev dktJ8_init_2_1 : List UInt8 := dkwJ8_init_2_1 ++ dktJ8_init_2_2
def dkwJ8_init_2_0 : List UInt8 := [42, 183, 0, 1, 43, 182, 2, 40, 78, 43, 182, 2, 37, 54, 4, 43, 182, 4, 23, 153, 0, 22, 42, 3]
abbrev dktJ8_init_2_0 : List UInt8 := dkwJ8_init_2_0 ++ dktJ8_init_2_1
theorem dksJ8_init_2_0 : cJ8_init_2.data.toList.drop 0 = dktJ8_init_2_0 := by decide +kernel
theorem dksJ8_init_2_1 : cJ8_init_2.data.toList.drop 24 = dktJ8_init_2_1 := dk_seg dksJ8_init_2_0 24 rfl rfl
theorem dksJ8_init_2_2 : cJ8_init_2.data.toList.drop 48 = dktJ8_init_2_2 := dk_seg dksJ8_init_2_1 24 rfl rfl
theorem dksJ8_init_2_3 : cJ8_init_2.data.toList.drop 72 = dktJ8_init_2_3 := dk_seg dksJ8_init_2_2 24 rfl rfl
theorem dksJ8_init_2_4 : cJ8_init_2.data.toList.drop 94 = dktJ8_init_2_4 := dk_seg dksJ8_init_2_3 22 rfl rfl
theorem dJ8_init_2_0 : decode cJ8_init_2 0 = .ok (.aload_n 0, 1) := dk_42 (dk_at dksJ8_init_2_0 0 rfl rfl)
theorem dJ8_init_2_1 : decode cJ8_init_2 1 = .ok (.invokespecial 1, 3) := dk_183 0 1 (dk_at dksJ8_init_2_0 1 rfl rfl)
theorem dJ8_init_2_4 : decode cJ8_init_2 4 = .ok (.aload_n 1, 1) := dk_43 (dk_at dksJ8_init_2_0 4 rfl rfl)
theorem dJ8_init_2_5 : decode cJ8_init_2 5 = .ok (.invokevirtual 552, 3) := dk_182 2 40 (dk_at dksJ8_init_2_0 5 rfl rfl)
theorem dJ8_init_2_8 : decode cJ8_init_2 8 = .ok (.astore_n 3, 1) := dk_78 (dk_at dksJ8_init_2_0 8 rfl rfl)
theorem dJ8_init_2_9 : decode cJ8_init_2 9 = .ok (.aload_n 1, 1) := dk_43 (dk_at dksJ8_init_2_0 9 rfl rfl)
theorem dJ8_init_2_10 : decode cJ8_init_2 10 = .ok (.invokevirtual 549, 3) := dk_182 2 37 (dk_at dksJ8_init_2_0 10 rfl rfl)
theorem dJ8_init_2_13 : decode cJ8_init_2 13 = .ok (.istore 4, 2) := dk_54 4 (dk_at dksJ8_init_2_0 13 rfl rfl)
theorem dJ8_init_2_15 : decode cJ8_init_2 15 = .ok (.aload_n 1, 1) := dk_43 (dk_at dksJ8_init_2_0 15 rfl rfl)
theorem dJ8_init_2_16 : decode cJ8_init_2 16 = .ok (.invokevirtual 1047, 3) := dk_182 4 23 (dk_at dksJ8_init_2_0 16 rfl rfl)
theorem dJ8_init_2_19 : decode cJ8_init_2 19 = .ok (.ifCond .eq 22, 3) := dk_153 0 22 (dk_at dksJ8_init_2_0 19 rfl rfl)
theorem dJ8_init_2_22 : decode cJ8_init_2 22 = .ok (.aload_n 0, 1) := dk_42 (dk_at dksJ8_init_2_0 22 rfl rfl)
theorem dJ8_init_2_23 : decode cJ8_init_2 23 = .ok (.iconst 0, 1) := dk_3 (dk_at dksJ8_init_2_0 23 rfl rfl)
theorem dJ8_init_2_24 : decode cJ8_init_2 24 = .ok (.putfield 15, 3) := dk_181 0 15 (dk_at dksJ8_init_2_1 0 rfl rfl)
theorem dJ8_init_2_27 : decode cJ8_init_2 27 = .ok (.aload_n 0, 1) := dk_42 (dk_at dksJ8_init_2_1 3 rfl rfl)
theorem dJ8_init_2_28 : decode cJ8_init_2 28 = .ok (.aload_n 3, 1) := dk_45 (dk_at dksJ8_init_2_1 4 rfl rfl)
theorem dJ8_init_2_29 : decode cJ8_init_2 29 = .ok (.iconst 0, 1) := dk_3 (dk_at dksJ8_init_2_1 5 rfl rfl)
theorem dJ8_init_2_30 : decode cJ8_init_2 30 = .ok (.iload 4, 2) := dk_21 4 (dk_at dksJ8_init_2_1 6 rfl rfl)
theorem dJ8_init_2_32 : decode cJ8_init_2 32 = .ok (.invokestatic 54, 3) := dk_184 0 54 (dk_at dksJ8_init_2_1 8 rfl rfl)
theorem dJ8_init_2_35 : decode cJ8_init_2 35 = .ok (.putfield 9, 3) := dk_181 0 9 (dk_at dksJ8_init_2_1 11 rfl rfl)
theorem dJ8_init_2_38 : decode cJ8_init_2 38 = .ok (.goto 59, 3) := dk_167 0 59 (dk_at dksJ8_init_2_1 14 rfl rfl)
theorem dJ8_init_2_41 : decode cJ8_init_2 41 = .ok (.getstatic 38, 3) := dk_178 0 38 (dk_at dksJ8_init_2_1 17 rfl rfl)
theorem dJ8_init_2_44 : decode cJ8_init_2 44 = .ok (.ifCond .eq 35, 3) := dk_153 0 35 (dk_at dksJ8_init_2_1 20 rfl rfl)
theorem dJ8_init_2_47 : decode cJ8_init_2 47 = .ok (.aload_n 1, 1) := dk_43 (dk_at dksJ8_init_2_1 23 rfl rfl)
theorem dJ8_init_2_48 : decode cJ8_init_2 48 = .ok (.getfield 1048, 3) := dk_180 4 24 (dk_at dksJ8_init_2_2 0 rfl rfl)
theorem dJ8_init_2_51 : decode cJ8_init_2 51 = .ok (.ifCond .eq 28, 3) := dk_153 0 28 (dk_at dksJ8_init_2_2 3 rfl rfl)
theorem dJ8_init_2_54 : decode cJ8_init_2 54 = .ok (.aload_n 0, 1) := dk_42 (dk_at dksJ8_init_2_2 6 rfl rfl)
theorem dJ8_init_2_55 : decode cJ8_init_2 55 = .ok (.aload_n 3, 1) := dk_45 (dk_at dksJ8_init_2_2 7 rfl rfl)
theorem dJ8_init_2_56 : decode cJ8_init_2 56 = .ok (.iconst 0, 1) := dk_3 (dk_at dksJ8_init_2_2 8 rfl rfl)
theorem dJ8_init_2_57 : decode cJ8_init_2 57 = .ok (.iload 4, 2) := dk_21 4 (dk_at dksJ8_init_2_2 9 rfl rfl)
theorem dJ8_init_2_59 : decode cJ8_init_2 59 = .ok (.invokestatic 1051, 3) := dk_184 4 27 (dk_at dksJ8_init_2_2 11 rfl rfl)
theorem dJ8_init_2_62 : decode cJ8_init_2 62 = .ok (.putfield 9, 3) := dk_181 0 9 (dk_at dksJ8_init_2_2 14 rfl rfl)
theorem dJ8_init_2_65 : decode cJ8_init_2 65 = .ok (.aload_n 0, 1) := dk_42 (dk_at dksJ8_init_2_2 17 rfl rfl)
theorem dJ8_init_2_66 : decode cJ8_init_2 66 = .ok (.aload_n 0, 1) := dk_42 (dk_at dksJ8_init_2_2 18 rfl rfl)
theorem dJ8_init_2_67 : decode cJ8_init_2 67 = .ok (.getfield 9, 3) := dk_180 0 9 (dk_at dksJ8_init_2_2 19 rfl rfl)
theorem dJ8_init_2_70 : decode cJ8_init_2 70 = .ok (.iload 4, 2) := dk_21 4 (dk_at dksJ8_init_2_2 22 rfl rfl)
theorem dJ8_init_2_72 : decode cJ8_init_2 72 = .ok (.invokestatic 47, 3) := dk_184 0 47 (dk_at dksJ8_init_2_3 0 rfl rfl)
theorem dJ8_init_2_75 : decode cJ8_init_2 75 = .ok (.putfield 15, 3) := dk_181 0 15 (dk_at dksJ8_init_2_3 3 rfl rfl)
theorem dJ8_init_2_78 : decode cJ8_init_2 78 = .ok (.return_, 1) := dk_177 (dk_at dksJ8_init_2_3 6 rfl rfl)
theorem dJ8_init_2_79 : decode cJ8_init_2 79 = .ok (.aload_n 0, 1) := dk_42 (dk_at dksJ8_init_2_3 7 rfl rfl)
theorem dJ8_init_2_80 : decode cJ8_init_2 80 = .ok (.iconst 1, 1) := dk_4 (dk_at dksJ8_init_2_3 8 rfl rfl)
theorem dJ8_init_2_81 : decode cJ8_init_2 81 = .ok (.putfield 15, 3) := dk_181 0 15 (dk_at dksJ8_init_2_3 9 rfl rfl)
theorem dJ8_init_2_84 : decode cJ8_init_2 84 = .ok (.aload_n 0, 1) := dk_42 (dk_at dksJ8_init_2_3 12 rfl rfl)
theorem dJ8_init_2_85 : decode cJ8_init_2 85 = .ok (.aload_n 3, 1) := dk_45 (dk_at dksJ8_init_2_3 13 rfl rfl)
theorem dJ8_init_2_86 : decode cJ8_init_2 86 = .ok (.iconst 0, 1) := dk_3 (dk_at dksJ8_init_2_3 14 rfl rfl)
theorem dJ8_init_2_87 : decode cJ8_init_2 87 = .ok (.iload 4, 2) := dk_21 4 (dk_at dksJ8_init_2_3 15 rfl rfl)
theorem dJ8_init_2_89 : decode cJ8_init_2 89 = .ok (.iconst 1, 1) := dk_4 (dk_at dksJ8_init_2_3 17 rfl rfl)
theorem dJ8_init_2_90 : decode cJ8_init_2 90 = .ok (.ishl, 1) := dk_120 (dk_at dksJ8_init_2_3 18 rfl rfl)
theorem dJ8_init_2_91 : decode cJ8_init_2 91 = .ok (.invokestatic 54, 3) := dk_184 0 54 (dk_at dksJ8_init_2_3 19 rfl rfl)
theorem dJ8_init_2_94 : decode cJ8_init_2 94 = .ok (.putfield 9, 3) := dk_181 0 9 (dk_at dksJ8_init_2_4 0 rfl rfl)
theorem dJ8_init_2_97 : decode cJ8_init_2 97 = .ok (.return_, 1) := dk_177 (dk_at dksJ8_init_2_4 3 rfl rfl)
abbrev cJ8_checkIndex : ByteArray := prog_34_method_155_code
def yJ8_checkIndex : MethodName := ⟨RJ8, "checkIndex", "(II)V"⟩
def dkwJ8_checkIndex_0 : List UInt8 := [26, 27, 178, 4, 29, 184, 4, 35, 87, 177]
abbrev dktJ8_checkIndex_0 : List UInt8 := dkwJ8_checkIndex_0 ++ []
theorem dksJ8_checkIndex_0 : cJ8_checkIndex.data.toList.drop 0 = dktJ8_checkIndex_0 := by decide +kernel
theorem dJ8_checkIndex_0 : decode cJ8_checkIndex 0 = .ok (.iload_n 0, 1) := dk_26 (dk_at dksJ8_checkIndex_0 0 rfl rfl)
theorem dJ8_checkIndex_1 : decode cJ8_checkIndex 1 = .ok (.iload_n 1, 1) := dk_27 (dk_at dksJ8_checkIndex_0 1 rfl rfl)
theorem dJ8_checkIndex_2 : decode cJ8_checkIndex 2 = .ok (.getstatic 1053, 3) := dk_178 4 29 (dk_at dksJ8_checkIndex_0 2 rfl rfl)
theorem dJ8_checkIndex_5 : decode cJ8_checkIndex 5 = .ok (.invokestatic 1059, 3) := dk_184 4 35 (dk_at dksJ8_checkIndex_0 5 rfl rfl)
theorem dJ8_checkIndex_8 : decode cJ8_checkIndex 8 = .ok (.pop, 1) := dk_87 (dk_at dksJ8_checkIndex_0 8 rfl rfl)
theorem dJ8_checkIndex_9 : decode cJ8_checkIndex 9 = .ok (.return_, 1) := dk_177 (dk_at dksJ8_checkIndex_0 9 rfl rfl)
abbrev cJ8_charAt : ByteArray := prog_34_method_56_code
def yJ8_charAt : MethodName := ⟨RJ8, "charAt", "(I)C"⟩
def dkwJ8_charAt_1 : List UInt8 := [172]
abbrev dktJ8_charAt_1 : List UInt8 := dkwJ8_charAt_1 ++ []
def dkwJ8_charAt_0 : List UInt8 := [42, 182, 1, 236, 153, 0, 12, 42, 180, 0, 9, 27, 184, 1, 239, 172, 42, 180, 0, 9, 27, 184, 1, 242]
abbrev dktJ8_charAt_0 : List UInt8 := dkwJ8_charAt_0 ++ dktJ8_charAt_1
theorem dksJ8_charAt_0 : cJ8_charAt.data.toList.drop 0 = dktJ8_charAt_0 := by decide +kernel
theorem dksJ8_charAt_1 : cJ8_charAt.data.toList.drop 24 = dktJ8_charAt_1 := dk_seg dksJ8_charAt_0 24 rfl rfl
theorem dJ8_charAt_0 : decode cJ8_charAt 0 = .ok (.aload_n 0, 1) := dk_42 (dk_at dksJ8_charAt_0 0 rfl rfl)
theorem dJ8_charAt_1 : decode cJ8_charAt 1 = .ok (.invokevirtual 492, 3) := dk_182 1 236 (dk_at dksJ8_charAt_0 1 rfl rfl)
theorem dJ8_charAt_4 : decode cJ8_charAt 4 = .ok (.ifCond .eq 12, 3) := dk_153 0 12 (dk_at dksJ8_charAt_0 4 rfl rfl)
theorem dJ8_charAt_7 : decode cJ8_charAt 7 = .ok (.aload_n 0, 1) := dk_42 (dk_at dksJ8_charAt_0 7 rfl rfl)
theorem dJ8_charAt_8 : decode cJ8_charAt 8 = .ok (.getfield 9, 3) := dk_180 0 9 (dk_at dksJ8_charAt_0 8 rfl rfl)
theorem dJ8_charAt_11 : decode cJ8_charAt 11 = .ok (.iload_n 1, 1) := dk_27 (dk_at dksJ8_charAt_0 11 rfl rfl)
theorem dJ8_charAt_12 : decode cJ8_charAt 12 = .ok (.invokestatic 495, 3) := dk_184 1 239 (dk_at dksJ8_charAt_0 12 rfl rfl)
theorem dJ8_charAt_15 : decode cJ8_charAt 15 = .ok (.ireturn, 1) := dk_172 (dk_at dksJ8_charAt_0 15 rfl rfl)
theorem dJ8_charAt_16 : decode cJ8_charAt 16 = .ok (.aload_n 0, 1) := dk_42 (dk_at dksJ8_charAt_0 16 rfl rfl)
theorem dJ8_charAt_17 : decode cJ8_charAt 17 = .ok (.getfield 9, 3) := dk_180 0 9 (dk_at dksJ8_charAt_0 17 rfl rfl)
theorem dJ8_charAt_20 : decode cJ8_charAt 20 = .ok (.iload_n 1, 1) := dk_27 (dk_at dksJ8_charAt_0 20 rfl rfl)
theorem dJ8_charAt_21 : decode cJ8_charAt 21 = .ok (.invokestatic 498, 3) := dk_184 1 242 (dk_at dksJ8_charAt_0 21 rfl rfl)
theorem dJ8_charAt_24 : decode cJ8_charAt 24 = .ok (.ireturn, 1) := dk_172 (dk_at dksJ8_charAt_1 0 rfl rfl)
abbrev cJ8_isLatin1 : ByteArray := prog_34_method_154_code
def yJ8_isLatin1 : MethodName := ⟨RJ8, "isLatin1", "()Z"⟩
def dkwJ8_isLatin1_0 : List UInt8 := [178, 0, 38, 153, 0, 14, 42, 180, 0, 15, 154, 0, 7, 4, 167, 0, 4, 3, 172]
abbrev dktJ8_isLatin1_0 : List UInt8 := dkwJ8_isLatin1_0 ++ []
theorem dksJ8_isLatin1_0 : cJ8_isLatin1.data.toList.drop 0 = dktJ8_isLatin1_0 := by decide +kernel
theorem dJ8_isLatin1_0 : decode cJ8_isLatin1 0 = .ok (.getstatic 38, 3) := dk_178 0 38 (dk_at dksJ8_isLatin1_0 0 rfl rfl)
theorem dJ8_isLatin1_3 : decode cJ8_isLatin1 3 = .ok (.ifCond .eq 14, 3) := dk_153 0 14 (dk_at dksJ8_isLatin1_0 3 rfl rfl)
theorem dJ8_isLatin1_6 : decode cJ8_isLatin1 6 = .ok (.aload_n 0, 1) := dk_42 (dk_at dksJ8_isLatin1_0 6 rfl rfl)
theorem dJ8_isLatin1_7 : decode cJ8_isLatin1 7 = .ok (.getfield 15, 3) := dk_180 0 15 (dk_at dksJ8_isLatin1_0 7 rfl rfl)
theorem dJ8_isLatin1_10 : decode cJ8_isLatin1 10 = .ok (.ifCond .ne 7, 3) := dk_154 0 7 (dk_at dksJ8_isLatin1_0 10 rfl rfl)
theorem dJ8_isLatin1_13 : decode cJ8_isLatin1 13 = .ok (.iconst 1, 1) := dk_4 (dk_at dksJ8_isLatin1_0 13 rfl rfl)
theorem dJ8_isLatin1_14 : decode cJ8_isLatin1 14 = .ok (.goto 4, 3) := dk_167 0 4 (dk_at dksJ8_isLatin1_0 14 rfl rfl)
theorem dJ8_isLatin1_17 : decode cJ8_isLatin1 17 = .ok (.iconst 0, 1) := dk_3 (dk_at dksJ8_isLatin1_0 17 rfl rfl)
theorem dJ8_isLatin1_18 : decode cJ8_isLatin1 18 = .ok (.ireturn, 1) := dk_172 (dk_at dksJ8_isLatin1_0 18 rfl rfl)
abbrev cJ8_hashCode : ByteArray := prog_34_method_78_code
def yJ8_hashCode : MethodName := ⟨RJ8, "hashCode", "()I"⟩
def dkwJ8_hashCode_2 : List UInt8 := [181, 0, 23, 167, 0, 8, 42, 27, 181, 0, 19, 27, 172]
abbrev dktJ8_hashCode_2 : List UInt8 := dkwJ8_hashCode_2 ++ []
def dkwJ8_hashCode_1 : List UInt8 := [180, 0, 9, 184, 2, 116, 167, 0, 10, 42, 180, 0, 9, 184, 2, 120, 60, 27, 154, 0, 11, 42, 4]
abbrev dktJ8_hashCode_1 : List UInt8 := dkwJ8_hashCode_1 ++ dktJ8_hashCode_2
def dkwJ8_hashCode_0 : List UInt8 := [42, 180, 0, 19, 60, 27, 154, 0, 52, 42, 180, 0, 23, 154, 0, 45, 42, 182, 1, 236, 153, 0, 13, 42]
abbrev dktJ8_hashCode_0 : List UInt8 := dkwJ8_hashCode_0 ++ dktJ8_hashCode_1
theorem dksJ8_hashCode_0 : cJ8_hashCode.data.toList.drop 0 = dktJ8_hashCode_0 := by decide +kernel
theorem dksJ8_hashCode_1 : cJ8_hashCode.data.toList.drop 24 = dktJ8_hashCode_1 := dk_seg dksJ8_hashCode_0 24 rfl rfl
theorem dksJ8_hashCode_2 : cJ8_hashCode.data.toList.drop 47 = dktJ8_hashCode_2 := dk_seg dksJ8_hashCode_1 23 rfl rfl
theorem dJ8_hashCode_0 : decode cJ8_hashCode 0 = .ok (.aload_n 0, 1) := dk_42 (dk_at dksJ8_hashCode_0 0 rfl rfl)
theorem dJ8_hashCode_1 : decode cJ8_hashCode 1 = .ok (.getfield 19, 3) := dk_180 0 19 (dk_at dksJ8_hashCode_0 1 rfl rfl)
theorem dJ8_hashCode_4 : decode cJ8_hashCode 4 = .ok (.istore_n 1, 1) := dk_60 (dk_at dksJ8_hashCode_0 4 rfl rfl)
theorem dJ8_hashCode_5 : decode cJ8_hashCode 5 = .ok (.iload_n 1, 1) := dk_27 (dk_at dksJ8_hashCode_0 5 rfl rfl)
theorem dJ8_hashCode_6 : decode cJ8_hashCode 6 = .ok (.ifCond .ne 52, 3) := dk_154 0 52 (dk_at dksJ8_hashCode_0 6 rfl rfl)
theorem dJ8_hashCode_9 : decode cJ8_hashCode 9 = .ok (.aload_n 0, 1) := dk_42 (dk_at dksJ8_hashCode_0 9 rfl rfl)
theorem dJ8_hashCode_10 : decode cJ8_hashCode 10 = .ok (.getfield 23, 3) := dk_180 0 23 (dk_at dksJ8_hashCode_0 10 rfl rfl)
theorem dJ8_hashCode_13 : decode cJ8_hashCode 13 = .ok (.ifCond .ne 45, 3) := dk_154 0 45 (dk_at dksJ8_hashCode_0 13 rfl rfl)
theorem dJ8_hashCode_16 : decode cJ8_hashCode 16 = .ok (.aload_n 0, 1) := dk_42 (dk_at dksJ8_hashCode_0 16 rfl rfl)
theorem dJ8_hashCode_17 : decode cJ8_hashCode 17 = .ok (.invokevirtual 492, 3) := dk_182 1 236 (dk_at dksJ8_hashCode_0 17 rfl rfl)
theorem dJ8_hashCode_20 : decode cJ8_hashCode 20 = .ok (.ifCond .eq 13, 3) := dk_153 0 13 (dk_at dksJ8_hashCode_0 20 rfl rfl)
theorem dJ8_hashCode_23 : decode cJ8_hashCode 23 = .ok (.aload_n 0, 1) := dk_42 (dk_at dksJ8_hashCode_0 23 rfl rfl)
theorem dJ8_hashCode_24 : decode cJ8_hashCode 24 = .ok (.getfield 9, 3) := dk_180 0 9 (dk_at dksJ8_hashCode_1 0 rfl rfl)
theorem dJ8_hashCode_27 : decode cJ8_hashCode 27 = .ok (.invokestatic 628, 3) := dk_184 2 116 (dk_at dksJ8_hashCode_1 3 rfl rfl)
theorem dJ8_hashCode_30 : decode cJ8_hashCode 30 = .ok (.goto 10, 3) := dk_167 0 10 (dk_at dksJ8_hashCode_1 6 rfl rfl)
theorem dJ8_hashCode_33 : decode cJ8_hashCode 33 = .ok (.aload_n 0, 1) := dk_42 (dk_at dksJ8_hashCode_1 9 rfl rfl)
theorem dJ8_hashCode_34 : decode cJ8_hashCode 34 = .ok (.getfield 9, 3) := dk_180 0 9 (dk_at dksJ8_hashCode_1 10 rfl rfl)
theorem dJ8_hashCode_37 : decode cJ8_hashCode 37 = .ok (.invokestatic 632, 3) := dk_184 2 120 (dk_at dksJ8_hashCode_1 13 rfl rfl)
theorem dJ8_hashCode_40 : decode cJ8_hashCode 40 = .ok (.istore_n 1, 1) := dk_60 (dk_at dksJ8_hashCode_1 16 rfl rfl)
theorem dJ8_hashCode_41 : decode cJ8_hashCode 41 = .ok (.iload_n 1, 1) := dk_27 (dk_at dksJ8_hashCode_1 17 rfl rfl)
theorem dJ8_hashCode_42 : decode cJ8_hashCode 42 = .ok (.ifCond .ne 11, 3) := dk_154 0 11 (dk_at dksJ8_hashCode_1 18 rfl rfl)
theorem dJ8_hashCode_45 : decode cJ8_hashCode 45 = .ok (.aload_n 0, 1) := dk_42 (dk_at dksJ8_hashCode_1 21 rfl rfl)
theorem dJ8_hashCode_46 : decode cJ8_hashCode 46 = .ok (.iconst 1, 1) := dk_4 (dk_at dksJ8_hashCode_1 22 rfl rfl)
theorem dJ8_hashCode_47 : decode cJ8_hashCode 47 = .ok (.putfield 23, 3) := dk_181 0 23 (dk_at dksJ8_hashCode_2 0 rfl rfl)
theorem dJ8_hashCode_50 : decode cJ8_hashCode 50 = .ok (.goto 8, 3) := dk_167 0 8 (dk_at dksJ8_hashCode_2 3 rfl rfl)
theorem dJ8_hashCode_53 : decode cJ8_hashCode 53 = .ok (.aload_n 0, 1) := dk_42 (dk_at dksJ8_hashCode_2 6 rfl rfl)
theorem dJ8_hashCode_54 : decode cJ8_hashCode 54 = .ok (.iload_n 1, 1) := dk_27 (dk_at dksJ8_hashCode_2 7 rfl rfl)
theorem dJ8_hashCode_55 : decode cJ8_hashCode 55 = .ok (.putfield 19, 3) := dk_181 0 19 (dk_at dksJ8_hashCode_2 8 rfl rfl)
theorem dJ8_hashCode_58 : decode cJ8_hashCode 58 = .ok (.iload_n 1, 1) := dk_27 (dk_at dksJ8_hashCode_2 11 rfl rfl)
theorem dJ8_hashCode_59 : decode cJ8_hashCode 59 = .ok (.ireturn, 1) := dk_172 (dk_at dksJ8_hashCode_2 12 rfl rfl)
abbrev cJ8_equals : ByteArray := prog_34_method_66_code
def yJ8_equals : MethodName := ⟨RJ8, "equals", "(Ljava/lang/Object;)Z"⟩
def dkwJ8_equals_2 : List UInt8 := [184, 2, 29, 153, 0, 7, 4, 167, 0, 4, 3, 172]
abbrev dktJ8_equals_2 : List UInt8 := dkwJ8_equals_2 ++ []
def dkwJ8_equals_1 : List UInt8 := [153, 0, 14, 42, 180, 0, 15, 44, 180, 0, 15, 160, 0, 21, 42, 180, 0, 9, 44, 180, 0, 9]
abbrev dktJ8_equals_1 : List UInt8 := dkwJ8_equals_1 ++ dktJ8_equals_2
def dkwJ8_equals_0 : List UInt8 := [42, 43, 166, 0, 5, 4, 172, 43, 193, 0, 10, 153, 0, 43, 43, 192, 0, 10, 77, 178, 0, 38]
abbrev dktJ8_equals_0 : List UInt8 := dkwJ8_equals_0 ++ dktJ8_equals_1
theorem dksJ8_equals_0 : cJ8_equals.data.toList.drop 0 = dktJ8_equals_0 := by decide +kernel
theorem dksJ8_equals_1 : cJ8_equals.data.toList.drop 22 = dktJ8_equals_1 := dk_seg dksJ8_equals_0 22 rfl rfl
theorem dksJ8_equals_2 : cJ8_equals.data.toList.drop 44 = dktJ8_equals_2 := dk_seg dksJ8_equals_1 22 rfl rfl
theorem dJ8_equals_0 : decode cJ8_equals 0 = .ok (.aload_n 0, 1) := dk_42 (dk_at dksJ8_equals_0 0 rfl rfl)
theorem dJ8_equals_1 : decode cJ8_equals 1 = .ok (.aload_n 1, 1) := dk_43 (dk_at dksJ8_equals_0 1 rfl rfl)
theorem dJ8_equals_2 : decode cJ8_equals 2 = .ok (.if_acmp .ne 5, 3) := dk_166 0 5 (dk_at dksJ8_equals_0 2 rfl rfl)
theorem dJ8_equals_5 : decode cJ8_equals 5 = .ok (.iconst 1, 1) := dk_4 (dk_at dksJ8_equals_0 5 rfl rfl)
theorem dJ8_equals_6 : decode cJ8_equals 6 = .ok (.ireturn, 1) := dk_172 (dk_at dksJ8_equals_0 6 rfl rfl)
theorem dJ8_equals_7 : decode cJ8_equals 7 = .ok (.aload_n 1, 1) := dk_43 (dk_at dksJ8_equals_0 7 rfl rfl)
theorem dJ8_equals_8 : decode cJ8_equals 8 = .ok (.instanceof 10, 3) := dk_193 0 10 (dk_at dksJ8_equals_0 8 rfl rfl)
theorem dJ8_equals_11 : decode cJ8_equals 11 = .ok (.ifCond .eq 43, 3) := dk_153 0 43 (dk_at dksJ8_equals_0 11 rfl rfl)
theorem dJ8_equals_14 : decode cJ8_equals 14 = .ok (.aload_n 1, 1) := dk_43 (dk_at dksJ8_equals_0 14 rfl rfl)
theorem dJ8_equals_15 : decode cJ8_equals 15 = .ok (.checkcast 10, 3) := dk_192 0 10 (dk_at dksJ8_equals_0 15 rfl rfl)
theorem dJ8_equals_18 : decode cJ8_equals 18 = .ok (.astore_n 2, 1) := dk_77 (dk_at dksJ8_equals_0 18 rfl rfl)
theorem dJ8_equals_19 : decode cJ8_equals 19 = .ok (.getstatic 38, 3) := dk_178 0 38 (dk_at dksJ8_equals_0 19 rfl rfl)
theorem dJ8_equals_22 : decode cJ8_equals 22 = .ok (.ifCond .eq 14, 3) := dk_153 0 14 (dk_at dksJ8_equals_1 0 rfl rfl)
theorem dJ8_equals_25 : decode cJ8_equals 25 = .ok (.aload_n 0, 1) := dk_42 (dk_at dksJ8_equals_1 3 rfl rfl)
theorem dJ8_equals_26 : decode cJ8_equals 26 = .ok (.getfield 15, 3) := dk_180 0 15 (dk_at dksJ8_equals_1 4 rfl rfl)
theorem dJ8_equals_29 : decode cJ8_equals 29 = .ok (.aload_n 2, 1) := dk_44 (dk_at dksJ8_equals_1 7 rfl rfl)
theorem dJ8_equals_30 : decode cJ8_equals 30 = .ok (.getfield 15, 3) := dk_180 0 15 (dk_at dksJ8_equals_1 8 rfl rfl)
theorem dJ8_equals_33 : decode cJ8_equals 33 = .ok (.if_icmp .ne 21, 3) := dk_160 0 21 (dk_at dksJ8_equals_1 11 rfl rfl)
theorem dJ8_equals_36 : decode cJ8_equals 36 = .ok (.aload_n 0, 1) := dk_42 (dk_at dksJ8_equals_1 14 rfl rfl)
theorem dJ8_equals_37 : decode cJ8_equals 37 = .ok (.getfield 9, 3) := dk_180 0 9 (dk_at dksJ8_equals_1 15 rfl rfl)
theorem dJ8_equals_40 : decode cJ8_equals 40 = .ok (.aload_n 2, 1) := dk_44 (dk_at dksJ8_equals_1 18 rfl rfl)
theorem dJ8_equals_41 : decode cJ8_equals 41 = .ok (.getfield 9, 3) := dk_180 0 9 (dk_at dksJ8_equals_1 19 rfl rfl)
theorem dJ8_equals_44 : decode cJ8_equals 44 = .ok (.invokestatic 541, 3) := dk_184 2 29 (dk_at dksJ8_equals_2 0 rfl rfl)
theorem dJ8_equals_47 : decode cJ8_equals 47 = .ok (.ifCond .eq 7, 3) := dk_153 0 7 (dk_at dksJ8_equals_2 3 rfl rfl)
theorem dJ8_equals_50 : decode cJ8_equals 50 = .ok (.iconst 1, 1) := dk_4 (dk_at dksJ8_equals_2 6 rfl rfl)
theorem dJ8_equals_51 : decode cJ8_equals 51 = .ok (.goto 4, 3) := dk_167 0 4 (dk_at dksJ8_equals_2 7 rfl rfl)
theorem dJ8_equals_54 : decode cJ8_equals 54 = .ok (.iconst 0, 1) := dk_3 (dk_at dksJ8_equals_2 10 rfl rfl)
theorem dJ8_equals_55 : decode cJ8_equals 55 = .ok (.ireturn, 1) := dk_172 (dk_at dksJ8_equals_2 11 rfl rfl)
theorem q106 : (Jvm.Cond.initialized "java/lang/String") ∈ lw_all := lw_g (lw_at lw_m1 13 rfl) rfl
theorem q330 : (Jvm.Cond.laysStatic "java/lang/String" "COMPACT_STRINGS" "Z") ∈ lw_tbl := lw_at lw_m1 237 rfl
theorem q341 : (Jvm.Cond.fieldLink "java/lang/String" (1048 : Nat) "java/lang/AbstractStringBuilder" "maybeLatin1" "Z") ∈ lw_all := lw_g (lw_at lw_m2 8 rfl) rfl
theorem q687 : (Jvm.Cond.selects "java/lang/String" ({ cls := "java/lang/Object", name := "getClass", desc := "()Ljava/lang/Class;" } : Jvm.MethodName) ({ cls := "java/lang/Object", name := "getClass", desc := "()Ljava/lang/Class;" } : Jvm.MethodName)) ∈ lw_all := lw_g (lw_at lw_m3 114 rfl) rfl
theorem q768 : (Jvm.Cond.static ({ cls := "java/lang/String", name := "checkBoundsBeginEnd", desc := "(III)V" } : Jvm.MethodName)) ∈ lw_all := lw_g (lw_at lw_m3 195 rfl) rfl
theorem q769 : (Jvm.Cond.code ({ cls := "java/lang/String", name := "checkBoundsBeginEnd", desc := "(III)V" } : Jvm.MethodName) prog_34_method_158_code (3 : Nat) (Option.none : Option Jvm.ClassFile.FieldType)) ∈ lw_all := lw_g (lw_at lw_m3 196 rfl) rfl
theorem q770 : (Jvm.Cond.fieldLink "java/lang/String" (1053 : Nat) "jdk/internal/util/Preconditions" "SIOOBE_FORMATTER" "Ljava/util/function/BiFunction;") ∈ lw_all := lw_g (lw_at lw_m3 197 rfl) rfl
theorem q772 : (Jvm.Cond.methodLink "java/lang/String" (1062 : Nat) ({ cls := "jdk/internal/util/Preconditions", name := "checkFromToIndex", desc := "(IIILjava/util/function/BiFunction;)I" } : Jvm.MethodName)) ∈ lw_all := lw_g (lw_at lw_m3 199 rfl) rfl
theorem q785 : (Jvm.Cond.instanceMethod ({ cls := "java/lang/String", name := "length", desc := "()I" } : Jvm.MethodName)) ∈ lw_all := lw_g (lw_at lw_m3 212 rfl) rfl
theorem q786 : (Jvm.Cond.selects "java/lang/String" ({ cls := "java/lang/String", name := "length", desc := "()I" } : Jvm.MethodName) ({ cls := "java/lang/String", name := "length", desc := "()I" } : Jvm.MethodName)) ∈ lw_all := lw_g (lw_at lw_m3 213 rfl) rfl
theorem q787 : (Jvm.Cond.code ({ cls := "java/lang/String", name := "length", desc := "()I" } : Jvm.MethodName) prog_34_method_54_code (1 : Nat) (Option.some Jvm.ClassFile.FieldType.int)) ∈ lw_all := lw_g (lw_at lw_m3 214 rfl) rfl
theorem q788 : (Jvm.Cond.methodLink "java/lang/String" (335 : Nat) ({ cls := "java/lang/String", name := "coder", desc := "()B" } : Jvm.MethodName)) ∈ lw_all := lw_g (lw_at lw_m3 215 rfl) rfl
theorem q789 : (Jvm.Cond.instanceMethod ({ cls := "java/lang/String", name := "coder", desc := "()B" } : Jvm.MethodName)) ∈ lw_all := lw_g (lw_at lw_m3 216 rfl) rfl
theorem q790 : (Jvm.Cond.selects "java/lang/String" ({ cls := "java/lang/String", name := "coder", desc := "()B" } : Jvm.MethodName) ({ cls := "java/lang/String", name := "coder", desc := "()B" } : Jvm.MethodName)) ∈ lw_all := lw_g (lw_at lw_m3 217 rfl) rfl
theorem q791 : (Jvm.Cond.code ({ cls := "java/lang/String", name := "coder", desc := "()B" } : Jvm.MethodName) prog_34_method_152_code (1 : Nat) (Option.some Jvm.ClassFile.FieldType.byte)) ∈ lw_all := lw_g (lw_at lw_m3 218 rfl) rfl
theorem q792 : (Jvm.Cond.fieldLink "java/lang/String" (38 : Nat) "java/lang/String" "COMPACT_STRINGS" "Z") ∈ lw_all := lw_g (lw_at lw_m3 219 rfl) rfl
theorem q816 : (Jvm.Cond.static ({ cls := "java/lang/String", name := "checkBoundsOffCount", desc := "(III)I" } : Jvm.MethodName)) ∈ lw_all := lw_g (lw_at lw_m4 3 rfl) rfl
theorem q817 : (Jvm.Cond.code ({ cls := "java/lang/String", name := "checkBoundsOffCount", desc := "(III)I" } : Jvm.MethodName) prog_34_method_157_code (3 : Nat) (Option.some Jvm.ClassFile.FieldType.int)) ∈ lw_all := lw_g (lw_at lw_m4 4 rfl) rfl
theorem q818 : (Jvm.Cond.methodLink "java/lang/String" (1065 : Nat) ({ cls := "jdk/internal/util/Preconditions", name := "checkFromIndexSize", desc := "(IIILjava/util/function/BiFunction;)I" } : Jvm.MethodName)) ∈ lw_all := lw_g (lw_at lw_m4 5 rfl) rfl
theorem q822 : (Jvm.Cond.instanceMethod ({ cls := "java/lang/String", name := "getBytes", desc := "([BIB)V" } : Jvm.MethodName)) ∈ lw_all := lw_g (lw_at lw_m4 9 rfl) rfl
theorem q823 : (Jvm.Cond.selects "java/lang/String" ({ cls := "java/lang/String", name := "getBytes", desc := "([BIB)V" } : Jvm.MethodName) ({ cls := "java/lang/String", name := "getBytes", desc := "([BIB)V" } : Jvm.MethodName)) ∈ lw_all := lw_g (lw_at lw_m4 10 rfl) rfl
theorem q824 : (Jvm.Cond.code ({ cls := "java/lang/String", name := "getBytes", desc := "([BIB)V" } : Jvm.MethodName) prog_34_method_147_code (4 : Nat) (Option.none : Option Jvm.ClassFile.FieldType)) ∈ lw_all := lw_g (lw_at lw_m4 11 rfl) rfl
theorem q825 : (Jvm.Cond.methodLink "java/lang/String" (212 : Nat) ({ cls := "java/lang/System", name := "arraycopy", desc := "(Ljava/lang/Object;ILjava/lang/Object;II)V" } : Jvm.MethodName)) ∈ lw_all := lw_g (lw_at lw_m4 12 rfl) rfl
theorem q826 : (Jvm.Cond.methodLink "java/lang/String" (106 : Nat) ({ cls := "java/lang/StringLatin1", name := "inflate", desc := "([BI[BII)V" } : Jvm.MethodName)) ∈ lw_all := lw_g (lw_at lw_m4 13 rfl) rfl
theorem q833 : (Jvm.Cond.instantiable "java/lang/String" (4 : Nat)) ∈ lw_all := lw_g (lw_at lw_m4 20 rfl) rfl
theorem q835 : (Jvm.Cond.instanceMethod ({ cls := "java/lang/String", name := "<init>", desc := "(Ljava/lang/StringBuilder;)V" } : Jvm.MethodName)) ∈ lw_all := lw_g (lw_at lw_m4 22 rfl) rfl
theorem q836 : (Jvm.Cond.code ({ cls := "java/lang/String", name := "<init>", desc := "(Ljava/lang/StringBuilder;)V" } : Jvm.MethodName) prog_34_method_53_code (2 : Nat) (Option.none : Option Jvm.ClassFile.FieldType)) ∈ lw_all := lw_g (lw_at lw_m4 23 rfl) rfl
theorem q837 : (Jvm.Cond.methodLink "java/lang/String" (489 : Nat) ({ cls := "java/lang/String", name := "<init>", desc := "(Ljava/lang/AbstractStringBuilder;Ljava/lang/Void;)V" } : Jvm.MethodName)) ∈ lw_all := lw_g (lw_at lw_m4 24 rfl) rfl
theorem q838 : (Jvm.Cond.instanceMethod ({ cls := "java/lang/String", name := "<init>", desc := "(Ljava/lang/AbstractStringBuilder;Ljava/lang/Void;)V" } : Jvm.MethodName)) ∈ lw_all := lw_g (lw_at lw_m4 25 rfl) rfl
theorem q839 : (Jvm.Cond.code ({ cls := "java/lang/String", name := "<init>", desc := "(Ljava/lang/AbstractStringBuilder;Ljava/lang/Void;)V" } : Jvm.MethodName) prog_34_method_150_code (5 : Nat) (Option.none : Option Jvm.ClassFile.FieldType)) ∈ lw_all := lw_g (lw_at lw_m4 26 rfl) rfl
theorem q840 : (Jvm.Cond.methodLink "java/lang/String" (1 : Nat) ({ cls := "java/lang/Object", name := "<init>", desc := "()V" } : Jvm.MethodName)) ∈ lw_all := lw_g (lw_at lw_m4 27 rfl) rfl
theorem q841 : (Jvm.Cond.methodLink "java/lang/String" (552 : Nat) ({ cls := "java/lang/AbstractStringBuilder", name := "getValue", desc := "()[B" } : Jvm.MethodName)) ∈ lw_all := lw_g (lw_at lw_m4 28 rfl) rfl
theorem q846 : (Jvm.Cond.methodLink "java/lang/String" (549 : Nat) ({ cls := "java/lang/AbstractStringBuilder", name := "length", desc := "()I" } : Jvm.MethodName)) ∈ lw_all := lw_g (lw_at lw_m4 33 rfl) rfl
theorem q854 : (Jvm.Cond.methodLink "java/lang/String" (1047 : Nat) ({ cls := "java/lang/AbstractStringBuilder", name := "isLatin1", desc := "()Z" } : Jvm.MethodName)) ∈ lw_all := lw_g (lw_at lw_m4 41 rfl) rfl
theorem q855 : (Jvm.Cond.methodLink "java/lang/String" (54 : Nat) ({ cls := "java/util/Arrays", name := "copyOfRange", desc := "([BII)[B" } : Jvm.MethodName)) ∈ lw_all := lw_g (lw_at lw_m4 42 rfl) rfl
theorem q864 : (Jvm.Cond.methodLink "java/lang/String" (1051 : Nat) ({ cls := "java/lang/StringUTF16", name := "compress", desc := "([BII)[B" } : Jvm.MethodName)) ∈ lw_all := lw_g (lw_at lw_m4 51 rfl) rfl
theorem q874 : (Jvm.Cond.methodLink "java/lang/String" (47 : Nat) ({ cls := "java/lang/StringUTF16", name := "coderFromArrayLen", desc := "([BI)B" } : Jvm.MethodName)) ∈ lw_all := lw_g (lw_at lw_m4 61 rfl) rfl
theorem q877 : (Jvm.Cond.fieldLink "java/lang/String" (9 : Nat) "java/lang/String" "value" "[B") ∈ lw_all := lw_g (lw_at lw_m4 64 rfl) rfl
theorem q878 : (Jvm.Cond.fieldLink "java/lang/String" (15 : Nat) "java/lang/String" "coder" "B") ∈ lw_all := lw_g (lw_at lw_m4 65 rfl) rfl
theorem q879 : (Jvm.Cond.fieldLink "java/lang/String" (19 : Nat) "java/lang/String" "hash" "I") ∈ lw_all := lw_g (lw_at lw_m4 66 rfl) rfl
theorem q880 : (Jvm.Cond.fieldLink "java/lang/String" (23 : Nat) "java/lang/String" "hashIsZero" "Z") ∈ lw_all := lw_g (lw_at lw_m4 67 rfl) rfl
theorem q881 : (Jvm.Cond.laysFinal "java/lang/String" "java/lang/String" "value" "[B") ∈ lw_all := lw_g (lw_at lw_m4 68 rfl) rfl
theorem q882 : (Jvm.Cond.soleField "java/lang/String" "value") ∈ lw_all := lw_g (lw_at lw_m4 69 rfl) rfl
theorem q883 : (Jvm.Cond.laysFinal "java/lang/String" "java/lang/String" "coder" "B") ∈ lw_all := lw_g (lw_at lw_m4 70 rfl) rfl
theorem q884 : (Jvm.Cond.soleField "java/lang/String" "coder") ∈ lw_all := lw_g (lw_at lw_m4 71 rfl) rfl
theorem q885 : (Jvm.Cond.lays "java/lang/String" "java/lang/String" "hash" "I") ∈ lw_all := lw_g (lw_at lw_m4 72 rfl) rfl
theorem q886 : (Jvm.Cond.soleField "java/lang/String" "hash") ∈ lw_all := lw_g (lw_at lw_m4 73 rfl) rfl
theorem q887 : (Jvm.Cond.lays "java/lang/String" "java/lang/String" "hashIsZero" "Z") ∈ lw_all := lw_g (lw_at lw_m4 74 rfl) rfl
theorem q888 : (Jvm.Cond.soleField "java/lang/String" "hashIsZero") ∈ lw_all := lw_g (lw_at lw_m4 75 rfl) rfl
theorem q889 : (Jvm.Cond.superclass "java/lang/String" "java/lang/Object") ∈ lw_all := lw_g (lw_at lw_m4 76 rfl) rfl
theorem q1610 : (Jvm.Cond.static ({ cls := "java/lang/String", name := "checkIndex", desc := "(II)V" } : Jvm.MethodName)) ∈ lw_all := lw_g (lw_at lw_m7 77 rfl) rfl
theorem q1611 : (Jvm.Cond.code ({ cls := "java/lang/String", name := "checkIndex", desc := "(II)V" } : Jvm.MethodName) prog_34_method_155_code (2 : Nat) (Option.none : Option Jvm.ClassFile.FieldType)) ∈ lw_all := lw_g (lw_at lw_m7 78 rfl) rfl
theorem q1612 : (Jvm.Cond.methodLink "java/lang/String" (1059 : Nat) ({ cls := "jdk/internal/util/Preconditions", name := "checkIndex", desc := "(IILjava/util/function/BiFunction;)I" } : Jvm.MethodName)) ∈ lw_all := lw_g (lw_at lw_m7 79 rfl) rfl
theorem q1658 : (Jvm.Cond.castable "java/lang/String" "java/lang/CharSequence") ∈ lw_tbl := lw_at lw_m7 125 rfl
theorem q1659 : (Jvm.Cond.selects "java/lang/String" ({ cls := "java/lang/CharSequence", name := "length", desc := "()I" } : Jvm.MethodName) ({ cls := "java/lang/String", name := "length", desc := "()I" } : Jvm.MethodName)) ∈ lw_all := lw_g (lw_at lw_m7 126 rfl) rfl
theorem q1660 : (Jvm.Cond.unhidden "java/lang/String" "length" "()I") ∈ lw_tbl := lw_at lw_m7 127 rfl
theorem q1661 : (Jvm.Cond.publicMethod ({ cls := "java/lang/String", name := "length", desc := "()I" } : Jvm.MethodName)) ∈ lw_tbl := lw_at lw_m7 128 rfl
theorem q1670 : (Jvm.Cond.selects "java/lang/String" ({ cls := "java/lang/CharSequence", name := "charAt", desc := "(I)C" } : Jvm.MethodName) ({ cls := "java/lang/String", name := "charAt", desc := "(I)C" } : Jvm.MethodName)) ∈ lw_all := lw_g (lw_at lw_m7 137 rfl) rfl
theorem q1671 : (Jvm.Cond.unhidden "java/lang/String" "charAt" "(I)C") ∈ lw_tbl := lw_at lw_m7 138 rfl
theorem q1672 : (Jvm.Cond.instanceMethod ({ cls := "java/lang/String", name := "charAt", desc := "(I)C" } : Jvm.MethodName)) ∈ lw_all := lw_g (lw_at lw_m7 139 rfl) rfl
theorem q1673 : (Jvm.Cond.publicMethod ({ cls := "java/lang/String", name := "charAt", desc := "(I)C" } : Jvm.MethodName)) ∈ lw_tbl := lw_at lw_m7 140 rfl
theorem q1674 : (Jvm.Cond.code ({ cls := "java/lang/String", name := "charAt", desc := "(I)C" } : Jvm.MethodName) prog_34_method_56_code (2 : Nat) (Option.some Jvm.ClassFile.FieldType.char)) ∈ lw_all := lw_g (lw_at lw_m7 141 rfl) rfl
theorem q1675 : (Jvm.Cond.methodLink "java/lang/String" (492 : Nat) ({ cls := "java/lang/String", name := "isLatin1", desc := "()Z" } : Jvm.MethodName)) ∈ lw_all := lw_g (lw_at lw_m7 142 rfl) rfl
theorem q1676 : (Jvm.Cond.instanceMethod ({ cls := "java/lang/String", name := "isLatin1", desc := "()Z" } : Jvm.MethodName)) ∈ lw_all := lw_g (lw_at lw_m7 143 rfl) rfl
theorem q1677 : (Jvm.Cond.selects "java/lang/String" ({ cls := "java/lang/String", name := "isLatin1", desc := "()Z" } : Jvm.MethodName) ({ cls := "java/lang/String", name := "isLatin1", desc := "()Z" } : Jvm.MethodName)) ∈ lw_all := lw_g (lw_at lw_m7 144 rfl) rfl
theorem q1678 : (Jvm.Cond.code ({ cls := "java/lang/String", name := "isLatin1", desc := "()Z" } : Jvm.MethodName) prog_34_method_154_code (1 : Nat) (Option.some Jvm.ClassFile.FieldType.boolean)) ∈ lw_all := lw_g (lw_at lw_m7 145 rfl) rfl
theorem q1679 : (Jvm.Cond.methodLink "java/lang/String" (495 : Nat) ({ cls := "java/lang/StringLatin1", name := "charAt", desc := "([BI)C" } : Jvm.MethodName)) ∈ lw_all := lw_g (lw_at lw_m7 146 rfl) rfl
theorem q1683 : (Jvm.Cond.methodLink "java/lang/String" (498 : Nat) ({ cls := "java/lang/StringUTF16", name := "charAt", desc := "([BI)C" } : Jvm.MethodName)) ∈ lw_all := lw_g (lw_at lw_m7 150 rfl) rfl
theorem q1701 : (Jvm.Cond.instanceMethod ({ cls := "java/lang/String", name := "hashCode", desc := "()I" } : Jvm.MethodName)) ∈ lw_all := lw_g (lw_at lw_m7 168 rfl) rfl
theorem q1702 : (Jvm.Cond.selects "java/lang/String" ({ cls := "java/lang/String", name := "hashCode", desc := "()I" } : Jvm.MethodName) ({ cls := "java/lang/String", name := "hashCode", desc := "()I" } : Jvm.MethodName)) ∈ lw_all := lw_g (lw_at lw_m7 169 rfl) rfl
theorem q1703 : (Jvm.Cond.code ({ cls := "java/lang/String", name := "hashCode", desc := "()I" } : Jvm.MethodName) prog_34_method_78_code (2 : Nat) (Option.some Jvm.ClassFile.FieldType.int)) ∈ lw_all := lw_g (lw_at lw_m7 170 rfl) rfl
theorem q1704 : (Jvm.Cond.methodLink "java/lang/String" (628 : Nat) ({ cls := "java/lang/StringLatin1", name := "hashCode", desc := "([B)I" } : Jvm.MethodName)) ∈ lw_all := lw_g (lw_at lw_m7 171 rfl) rfl
theorem q1745 : (Jvm.Cond.methodLink "java/lang/String" (632 : Nat) ({ cls := "java/lang/StringUTF16", name := "hashCode", desc := "([B)I" } : Jvm.MethodName)) ∈ lw_all := lw_g (lw_at lw_m7 212 rfl) rfl
theorem q1751 : (Jvm.Cond.instanceMethod ({ cls := "java/lang/String", name := "equals", desc := "(Ljava/lang/Object;)Z" } : Jvm.MethodName)) ∈ lw_all := lw_g (lw_at lw_m7 218 rfl) rfl
theorem q1752 : (Jvm.Cond.selects "java/lang/String" ({ cls := "java/lang/String", name := "equals", desc := "(Ljava/lang/Object;)Z" } : Jvm.MethodName) ({ cls := "java/lang/String", name := "equals", desc := "(Ljava/lang/Object;)Z" } : Jvm.MethodName)) ∈ lw_all := lw_g (lw_at lw_m7 219 rfl) rfl
theorem q1753 : (Jvm.Cond.code ({ cls := "java/lang/String", name := "equals", desc := "(Ljava/lang/Object;)Z" } : Jvm.MethodName) prog_34_method_66_code (3 : Nat) (Option.some Jvm.ClassFile.FieldType.boolean)) ∈ lw_all := lw_g (lw_at lw_m7 220 rfl) rfl
theorem q1754 : (Jvm.Cond.classLink "java/lang/String" (10 : Nat) "java/lang/String") ∈ lw_all := lw_g (lw_at lw_m7 221 rfl) rfl
theorem q1755 : (Jvm.Cond.methodLink "java/lang/String" (541 : Nat) ({ cls := "java/lang/StringLatin1", name := "equals", desc := "([B[B)Z" } : Jvm.MethodName)) ∈ lw_all := lw_g (lw_at lw_m7 222 rfl) rfl
theorem q2616 : (Jvm.Cond.castable "java/lang/String" "java/lang/Object") ∈ lw_tbl := lw_at lw_m11 123 rfl
theorem in_J8 : ∀ w ∈ wsJ80, w ∈ lw_all := lw_in wsJ80 [881, 883, 885, 887] (by decide +kernel) (by decide +kernel)
/-! java/lang/Math -/
set_option maxRecDepth 100000
def RJ10 : String := "java/lang/Math"
abbrev cJ10_min : ByteArray := prog_31_method_69_code
def yJ10_min : MethodName := ⟨RJ10, "min", "(II)I"⟩
def dkwJ10_min_0 : List UInt8 := [26, 27, 163, 0, 7, 26, 167, 0, 4, 27, 172]
abbrev dktJ10_min_0 : List UInt8 := dkwJ10_min_0 ++ []
theorem dksJ10_min_0 : cJ10_min.data.toList.drop 0 = dktJ10_min_0 := by decide +kernel
theorem dJ10_min_0 : decode cJ10_min 0 = .ok (.iload_n 0, 1) := dk_26 (dk_at dksJ10_min_0 0 rfl rfl)
theorem dJ10_min_1 : decode cJ10_min 1 = .ok (.iload_n 1, 1) := dk_27 (dk_at dksJ10_min_0 1 rfl rfl)
theorem dJ10_min_2 : decode cJ10_min 2 = .ok (.if_icmp .gt 7, 3) := dk_163 0 7 (dk_at dksJ10_min_0 2 rfl rfl)
theorem dJ10_min_5 : decode cJ10_min 5 = .ok (.iload_n 0, 1) := dk_26 (dk_at dksJ10_min_0 5 rfl rfl)
theorem dJ10_min_6 : decode cJ10_min 6 = .ok (.goto 4, 3) := dk_167 0 4 (dk_at dksJ10_min_0 6 rfl rfl)
theorem dJ10_min_9 : decode cJ10_min 9 = .ok (.iload_n 1, 1) := dk_27 (dk_at dksJ10_min_0 9 rfl rfl)
theorem dJ10_min_10 : decode cJ10_min 10 = .ok (.ireturn, 1) := dk_172 (dk_at dksJ10_min_0 10 rfl rfl)
abbrev cJ10_max : ByteArray := prog_31_method_65_code
def yJ10_max : MethodName := ⟨RJ10, "max", "(II)I"⟩
def dkwJ10_max_0 : List UInt8 := [26, 27, 161, 0, 7, 26, 167, 0, 4, 27, 172]
abbrev dktJ10_max_0 : List UInt8 := dkwJ10_max_0 ++ []
theorem dksJ10_max_0 : cJ10_max.data.toList.drop 0 = dktJ10_max_0 := by decide +kernel
theorem dJ10_max_0 : decode cJ10_max 0 = .ok (.iload_n 0, 1) := dk_26 (dk_at dksJ10_max_0 0 rfl rfl)
theorem dJ10_max_1 : decode cJ10_max 1 = .ok (.iload_n 1, 1) := dk_27 (dk_at dksJ10_max_0 1 rfl rfl)
theorem dJ10_max_2 : decode cJ10_max 2 = .ok (.if_icmp .lt 7, 3) := dk_161 0 7 (dk_at dksJ10_max_0 2 rfl rfl)
theorem dJ10_max_5 : decode cJ10_max 5 = .ok (.iload_n 0, 1) := dk_26 (dk_at dksJ10_max_0 5 rfl rfl)
theorem dJ10_max_6 : decode cJ10_max 6 = .ok (.goto 4, 3) := dk_167 0 4 (dk_at dksJ10_max_0 6 rfl rfl)
theorem dJ10_max_9 : decode cJ10_max 9 = .ok (.iload_n 1, 1) := dk_27 (dk_at dksJ10_max_0 9 rfl rfl)
theorem dJ10_max_10 : decode cJ10_max 10 = .ok (.ireturn, 1) := dk_172 (dk_at dksJ10_max_0 10 rfl rfl)
abbrev cJ10_abs : ByteArray := prog_31_method_59_code
def yJ10_abs : MethodName := ⟨RJ10, "abs", "(I)I"⟩
def dkwJ10_abs_0 : List UInt8 := [26, 156, 0, 8, 26, 116, 167, 0, 4, 26, 172]
abbrev dktJ10_abs_0 : List UInt8 := dkwJ10_abs_0 ++ []
theorem dksJ10_abs_0 : cJ10_abs.data.toList.drop 0 = dktJ10_abs_0 := by decide +kernel
theorem dJ10_abs_0 : decode cJ10_abs 0 = .ok (.iload_n 0, 1) := dk_26 (dk_at dksJ10_abs_0 0 rfl rfl)
theorem dJ10_abs_1 : decode cJ10_abs 1 = .ok (.ifCond .ge 8, 3) := dk_156 0 8 (dk_at dksJ10_abs_0 1 rfl rfl)
theorem dJ10_abs_4 : decode cJ10_abs 4 = .ok (.iload_n 0, 1) := dk_26 (dk_at dksJ10_abs_0 4 rfl rfl)
theorem dJ10_abs_5 : decode cJ10_abs 5 = .ok (.ineg, 1) := dk_116 (dk_at dksJ10_abs_0 5 rfl rfl)
theorem dJ10_abs_6 : decode cJ10_abs 6 = .ok (.goto 4, 3) := dk_167 0 4 (dk_at dksJ10_abs_0 6 rfl rfl)
theorem dJ10_abs_9 : decode cJ10_abs 9 = .ok (.iload_n 0, 1) := dk_26 (dk_at dksJ10_abs_0 9 rfl rfl)
theorem dJ10_abs_10 : decode cJ10_abs 10 = .ok (.ireturn, 1) := dk_172 (dk_at dksJ10_abs_0 10 rfl rfl)
theorem q109 : (Jvm.Cond.initialized "java/lang/Math") ∈ lw_all := lw_g (lw_at lw_m1 16 rfl) rfl
theorem q406 : (Jvm.Cond.static ({ cls := "java/lang/Math", name := "min", desc := "(II)I" } : Jvm.MethodName)) ∈ lw_all := lw_g (lw_at lw_m2 73 rfl) rfl
theorem q407 : (Jvm.Cond.code ({ cls := "java/lang/Math", name := "min", desc := "(II)I" } : Jvm.MethodName) prog_31_method_69_code (2 : Nat) (Option.some Jvm.ClassFile.FieldType.int)) ∈ lw_all := lw_g (lw_at lw_m2 74 rfl) rfl
theorem q413 : (Jvm.Cond.static ({ cls := "java/lang/Math", name := "max", desc := "(II)I" } : Jvm.MethodName)) ∈ lw_all := lw_g (lw_at lw_m2 80 rfl) rfl
theorem q414 : (Jvm.Cond.code ({ cls := "java/lang/Math", name := "max", desc := "(II)I" } : Jvm.MethodName) prog_31_method_65_code (2 : Nat) (Option.some Jvm.ClassFile.FieldType.int)) ∈ lw_all := lw_g (lw_at lw_m2 81 rfl) rfl
theorem q1326 : (Jvm.Cond.static ({ cls := "java/lang/Math", name := "abs", desc := "(I)I" } : Jvm.MethodName)) ∈ lw_all := lw_g (lw_at lw_m6 33 rfl) rfl
theorem q1327 : (Jvm.Cond.code ({ cls := "java/lang/Math", name := "abs", desc := "(I)I" } : Jvm.MethodName) prog_31_method_59_code (1 : Nat) (Option.some Jvm.ClassFile.FieldType.int)) ∈ lw_all := lw_g (lw_at lw_m6 34 rfl) rfl
/-! java/util/Arrays -/
set_option maxRecDepth 100000
def RJ11 : String := "java/util/Arrays"
abbrev cJ11_copyOf : ByteArray := prog_52_method_124_code
def yJ11_copyOf : MethodName := ⟨RJ11, "copyOf", "([JI)[J"⟩
def dkwJ11_copyOf_1 : List UInt8 := [27, 184, 1, 48, 184, 0, 150, 44, 176]
abbrev dktJ11_copyOf_1 : List UInt8 := dkwJ11_copyOf_1 ++ []
def dkwJ11_copyOf_0 : List UInt8 := [27, 42, 190, 160, 0, 11, 42, 182, 1, 63, 192, 1, 64, 176, 27, 188, 11, 77, 42, 3, 44, 3, 42, 190]
abbrev dktJ11_copyOf_0 : List UInt8 := dkwJ11_copyOf_0 ++ dktJ11_copyOf_1
theorem dksJ11_copyOf_0 : cJ11_copyOf.data.toList.drop 0 = dktJ11_copyOf_0 := by decide +kernel
theorem dksJ11_copyOf_1 : cJ11_copyOf.data.toList.drop 24 = dktJ11_copyOf_1 := dk_seg dksJ11_copyOf_0 24 rfl rfl
theorem dJ11_copyOf_0 : decode cJ11_copyOf 0 = .ok (.iload_n 1, 1) := dk_27 (dk_at dksJ11_copyOf_0 0 rfl rfl)
theorem dJ11_copyOf_1 : decode cJ11_copyOf 1 = .ok (.aload_n 0, 1) := dk_42 (dk_at dksJ11_copyOf_0 1 rfl rfl)
theorem dJ11_copyOf_2 : decode cJ11_copyOf 2 = .ok (.arraylength, 1) := dk_190 (dk_at dksJ11_copyOf_0 2 rfl rfl)
theorem dJ11_copyOf_3 : decode cJ11_copyOf 3 = .ok (.if_icmp .ne 11, 3) := dk_160 0 11 (dk_at dksJ11_copyOf_0 3 rfl rfl)
theorem dJ11_copyOf_6 : decode cJ11_copyOf 6 = .ok (.aload_n 0, 1) := dk_42 (dk_at dksJ11_copyOf_0 6 rfl rfl)
theorem dJ11_copyOf_7 : decode cJ11_copyOf 7 = .ok (.invokevirtual 319, 3) := dk_182 1 63 (dk_at dksJ11_copyOf_0 7 rfl rfl)
theorem dJ11_copyOf_10 : decode cJ11_copyOf 10 = .ok (.checkcast 320, 3) := dk_192 1 64 (dk_at dksJ11_copyOf_0 10 rfl rfl)
theorem dJ11_copyOf_13 : decode cJ11_copyOf 13 = .ok (.areturn, 1) := dk_176 (dk_at dksJ11_copyOf_0 13 rfl rfl)
theorem dJ11_copyOf_14 : decode cJ11_copyOf 14 = .ok (.iload_n 1, 1) := dk_27 (dk_at dksJ11_copyOf_0 14 rfl rfl)
theorem dJ11_copyOf_15 : decode cJ11_copyOf 15 = .ok (.newarray .long, 2) := dk_188_11 (dk_at dksJ11_copyOf_0 15 rfl rfl)
theorem dJ11_copyOf_17 : decode cJ11_copyOf 17 = .ok (.astore_n 2, 1) := dk_77 (dk_at dksJ11_copyOf_0 17 rfl rfl)
theorem dJ11_copyOf_18 : decode cJ11_copyOf 18 = .ok (.aload_n 0, 1) := dk_42 (dk_at dksJ11_copyOf_0 18 rfl rfl)
theorem dJ11_copyOf_19 : decode cJ11_copyOf 19 = .ok (.iconst 0, 1) := dk_3 (dk_at dksJ11_copyOf_0 19 rfl rfl)
theorem dJ11_copyOf_20 : decode cJ11_copyOf 20 = .ok (.aload_n 2, 1) := dk_44 (dk_at dksJ11_copyOf_0 20 rfl rfl)
theorem dJ11_copyOf_21 : decode cJ11_copyOf 21 = .ok (.iconst 0, 1) := dk_3 (dk_at dksJ11_copyOf_0 21 rfl rfl)
theorem dJ11_copyOf_22 : decode cJ11_copyOf 22 = .ok (.aload_n 0, 1) := dk_42 (dk_at dksJ11_copyOf_0 22 rfl rfl)
theorem dJ11_copyOf_23 : decode cJ11_copyOf 23 = .ok (.arraylength, 1) := dk_190 (dk_at dksJ11_copyOf_0 23 rfl rfl)
theorem dJ11_copyOf_24 : decode cJ11_copyOf 24 = .ok (.iload_n 1, 1) := dk_27 (dk_at dksJ11_copyOf_1 0 rfl rfl)
theorem dJ11_copyOf_25 : decode cJ11_copyOf 25 = .ok (.invokestatic 304, 3) := dk_184 1 48 (dk_at dksJ11_copyOf_1 1 rfl rfl)
theorem dJ11_copyOf_28 : decode cJ11_copyOf 28 = .ok (.invokestatic 150, 3) := dk_184 0 150 (dk_at dksJ11_copyOf_1 4 rfl rfl)
theorem dJ11_copyOf_31 : decode cJ11_copyOf 31 = .ok (.aload_n 2, 1) := dk_44 (dk_at dksJ11_copyOf_1 7 rfl rfl)
theorem dJ11_copyOf_32 : decode cJ11_copyOf 32 = .ok (.areturn, 1) := dk_176 (dk_at dksJ11_copyOf_1 8 rfl rfl)
abbrev cJ11_copyOf_2 : ByteArray := prog_52_method_121_code
def yJ11_copyOf_2 : MethodName := ⟨RJ11, "copyOf", "([BI)[B"⟩
def dkwJ11_copyOf_2_1 : List UInt8 := [27, 184, 1, 48, 184, 0, 150, 44, 176]
abbrev dktJ11_copyOf_2_1 : List UInt8 := dkwJ11_copyOf_2_1 ++ []
def dkwJ11_copyOf_2_0 : List UInt8 := [27, 42, 190, 160, 0, 11, 42, 182, 1, 54, 192, 1, 55, 176, 27, 188, 8, 77, 42, 3, 44, 3, 42, 190]
abbrev dktJ11_copyOf_2_0 : List UInt8 := dkwJ11_copyOf_2_0 ++ dktJ11_copyOf_2_1
theorem dksJ11_copyOf_2_0 : cJ11_copyOf_2.data.toList.drop 0 = dktJ11_copyOf_2_0 := by decide +kernel
theorem dksJ11_copyOf_2_1 : cJ11_copyOf_2.data.toList.drop 24 = dktJ11_copyOf_2_1 := dk_seg dksJ11_copyOf_2_0 24 rfl rfl
theorem dJ11_copyOf_2_0 : decode cJ11_copyOf_2 0 = .ok (.iload_n 1, 1) := dk_27 (dk_at dksJ11_copyOf_2_0 0 rfl rfl)
theorem dJ11_copyOf_2_1 : decode cJ11_copyOf_2 1 = .ok (.aload_n 0, 1) := dk_42 (dk_at dksJ11_copyOf_2_0 1 rfl rfl)
theorem dJ11_copyOf_2_2 : decode cJ11_copyOf_2 2 = .ok (.arraylength, 1) := dk_190 (dk_at dksJ11_copyOf_2_0 2 rfl rfl)
theorem dJ11_copyOf_2_3 : decode cJ11_copyOf_2 3 = .ok (.if_icmp .ne 11, 3) := dk_160 0 11 (dk_at dksJ11_copyOf_2_0 3 rfl rfl)
theorem dJ11_copyOf_2_6 : decode cJ11_copyOf_2 6 = .ok (.aload_n 0, 1) := dk_42 (dk_at dksJ11_copyOf_2_0 6 rfl rfl)
theorem dJ11_copyOf_2_7 : decode cJ11_copyOf_2 7 = .ok (.invokevirtual 310, 3) := dk_182 1 54 (dk_at dksJ11_copyOf_2_0 7 rfl rfl)
theorem dJ11_copyOf_2_10 : decode cJ11_copyOf_2 10 = .ok (.checkcast 311, 3) := dk_192 1 55 (dk_at dksJ11_copyOf_2_0 10 rfl rfl)
theorem dJ11_copyOf_2_13 : decode cJ11_copyOf_2 13 = .ok (.areturn, 1) := dk_176 (dk_at dksJ11_copyOf_2_0 13 rfl rfl)
theorem dJ11_copyOf_2_14 : decode cJ11_copyOf_2 14 = .ok (.iload_n 1, 1) := dk_27 (dk_at dksJ11_copyOf_2_0 14 rfl rfl)
theorem dJ11_copyOf_2_15 : decode cJ11_copyOf_2 15 = .ok (.newarray .byte, 2) := dk_188_8 (dk_at dksJ11_copyOf_2_0 15 rfl rfl)
theorem dJ11_copyOf_2_17 : decode cJ11_copyOf_2 17 = .ok (.astore_n 2, 1) := dk_77 (dk_at dksJ11_copyOf_2_0 17 rfl rfl)
theorem dJ11_copyOf_2_18 : decode cJ11_copyOf_2 18 = .ok (.aload_n 0, 1) := dk_42 (dk_at dksJ11_copyOf_2_0 18 rfl rfl)
theorem dJ11_copyOf_2_19 : decode cJ11_copyOf_2 19 = .ok (.iconst 0, 1) := dk_3 (dk_at dksJ11_copyOf_2_0 19 rfl rfl)
theorem dJ11_copyOf_2_20 : decode cJ11_copyOf_2 20 = .ok (.aload_n 2, 1) := dk_44 (dk_at dksJ11_copyOf_2_0 20 rfl rfl)
theorem dJ11_copyOf_2_21 : decode cJ11_copyOf_2 21 = .ok (.iconst 0, 1) := dk_3 (dk_at dksJ11_copyOf_2_0 21 rfl rfl)
theorem dJ11_copyOf_2_22 : decode cJ11_copyOf_2 22 = .ok (.aload_n 0, 1) := dk_42 (dk_at dksJ11_copyOf_2_0 22 rfl rfl)
theorem dJ11_copyOf_2_23 : decode cJ11_copyOf_2 23 = .ok (.arraylength, 1) := dk_190 (dk_at dksJ11_copyOf_2_0 23 rfl rfl)
theorem dJ11_copyOf_2_24 : decode cJ11_copyOf_2 24 = .ok (.iload_n 1, 1) := dk_27 (dk_at dksJ11_copyOf_2_1 0 rfl rfl)
theorem dJ11_copyOf_2_25 : decode cJ11_copyOf_2 25 = .ok (.invokestatic 304, 3) := dk_184 1 48 (dk_at dksJ11_copyOf_2_1 1 rfl rfl)
theorem dJ11_copyOf_2_28 : decode cJ11_copyOf_2 28 = .ok (.invokestatic 150, 3) := dk_184 0 150 (dk_at dksJ11_copyOf_2_1 4 rfl rfl)
theorem dJ11_copyOf_2_31 : decode cJ11_copyOf_2 31 = .ok (.aload_n 2, 1) := dk_44 (dk_at dksJ11_copyOf_2_1 7 rfl rfl)
theorem dJ11_copyOf_2_32 : decode cJ11_copyOf_2 32 = .ok (.areturn, 1) := dk_176 (dk_at dksJ11_copyOf_2_1 8 rfl rfl)
abbrev cJ11_copyOfRange : ByteArray := prog_52_method_132_code
def yJ11_copyOfRange : MethodName := ⟨RJ11, "copyOfRange", "([BII)[B"⟩
def dkwJ11_copyOfRange_1 : List UInt8 := [176]
abbrev dktJ11_copyOfRange_1 : List UInt8 := dkwJ11_copyOfRange_1 ++ []
def dkwJ11_copyOfRange_0 : List UInt8 := [27, 154, 0, 9, 28, 42, 190, 159, 0, 10, 42, 27, 28, 184, 1, 83, 176, 42, 182, 1, 54, 192, 1, 55]
abbrev dktJ11_copyOfRange_0 : List UInt8 := dkwJ11_copyOfRange_0 ++ dktJ11_copyOfRange_1
theorem dksJ11_copyOfRange_0 : cJ11_copyOfRange.data.toList.drop 0 = dktJ11_copyOfRange_0 := by decide +kernel
theorem dksJ11_copyOfRange_1 : cJ11_copyOfRange.data.toList.drop 24 = dktJ11_copyOfRange_1 := dk_seg dksJ11_copyOfRange_0 24 rfl rfl
theorem dJ11_copyOfRange_0 : decode cJ11_copyOfRange 0 = .ok (.iload_n 1, 1) := dk_27 (dk_at dksJ11_copyOfRange_0 0 rfl rfl)
theorem dJ11_copyOfRange_1 : decode cJ11_copyOfRange 1 = .ok (.ifCond .ne 9, 3) := dk_154 0 9 (dk_at dksJ11_copyOfRange_0 1 rfl rfl)
theorem dJ11_copyOfRange_4 : decode cJ11_copyOfRange 4 = .ok (.iload_n 2, 1) := dk_28 (dk_at dksJ11_copyOfRange_0 4 rfl rfl)
theorem dJ11_copyOfRange_5 : decode cJ11_copyOfRange 5 = .ok (.aload_n 0, 1) := dk_42 (dk_at dksJ11_copyOfRange_0 5 rfl rfl)
theorem dJ11_copyOfRange_6 : decode cJ11_copyOfRange 6 = .ok (.arraylength, 1) := dk_190 (dk_at dksJ11_copyOfRange_0 6 rfl rfl)
theorem dJ11_copyOfRange_7 : decode cJ11_copyOfRange 7 = .ok (.if_icmp .eq 10, 3) := dk_159 0 10 (dk_at dksJ11_copyOfRange_0 7 rfl rfl)
theorem dJ11_copyOfRange_10 : decode cJ11_copyOfRange 10 = .ok (.aload_n 0, 1) := dk_42 (dk_at dksJ11_copyOfRange_0 10 rfl rfl)
theorem dJ11_copyOfRange_11 : decode cJ11_copyOfRange 11 = .ok (.iload_n 1, 1) := dk_27 (dk_at dksJ11_copyOfRange_0 11 rfl rfl)
theorem dJ11_copyOfRange_12 : decode cJ11_copyOfRange 12 = .ok (.iload_n 2, 1) := dk_28 (dk_at dksJ11_copyOfRange_0 12 rfl rfl)
theorem dJ11_copyOfRange_13 : decode cJ11_copyOfRange 13 = .ok (.invokestatic 339, 3) := dk_184 1 83 (dk_at dksJ11_copyOfRange_0 13 rfl rfl)
theorem dJ11_copyOfRange_16 : decode cJ11_copyOfRange 16 = .ok (.areturn, 1) := dk_176 (dk_at dksJ11_copyOfRange_0 16 rfl rfl)
theorem dJ11_copyOfRange_17 : decode cJ11_copyOfRange 17 = .ok (.aload_n 0, 1) := dk_42 (dk_at dksJ11_copyOfRange_0 17 rfl rfl)
theorem dJ11_copyOfRange_18 : decode cJ11_copyOfRange 18 = .ok (.invokevirtual 310, 3) := dk_182 1 54 (dk_at dksJ11_copyOfRange_0 18 rfl rfl)
theorem dJ11_copyOfRange_21 : decode cJ11_copyOfRange 21 = .ok (.checkcast 311, 3) := dk_192 1 55 (dk_at dksJ11_copyOfRange_0 21 rfl rfl)
theorem dJ11_copyOfRange_24 : decode cJ11_copyOfRange 24 = .ok (.areturn, 1) := dk_176 (dk_at dksJ11_copyOfRange_1 0 rfl rfl)
abbrev cJ11_copyOfRangeByte : ByteArray := prog_52_method_133_code
def yJ11_copyOfRangeByte : MethodName := ⟨RJ11, "copyOfRangeByte", "([BII)[B"⟩
def dkwJ11_copyOfRangeByte_1 : List UInt8 := [184, 1, 48, 184, 0, 150, 25, 4, 176]
abbrev dktJ11_copyOfRangeByte_1 : List UInt8 := dkwJ11_copyOfRangeByte_1 ++ []
def dkwJ11_copyOfRangeByte_0 : List UInt8 := [27, 28, 184, 1, 87, 28, 27, 100, 62, 29, 188, 8, 58, 4, 42, 27, 25, 4, 3, 42, 190, 27, 100, 29]
abbrev dktJ11_copyOfRangeByte_0 : List UInt8 := dkwJ11_copyOfRangeByte_0 ++ dktJ11_copyOfRangeByte_1
theorem dksJ11_copyOfRangeByte_0 : cJ11_copyOfRangeByte.data.toList.drop 0 = dktJ11_copyOfRangeByte_0 := by decide +kernel
theorem dksJ11_copyOfRangeByte_1 : cJ11_copyOfRangeByte.data.toList.drop 24 = dktJ11_copyOfRangeByte_1 := dk_seg dksJ11_copyOfRangeByte_0 24 rfl rfl
theorem dJ11_copyOfRangeByte_0 : decode cJ11_copyOfRangeByte 0 = .ok (.iload_n 1, 1) := dk_27 (dk_at dksJ11_copyOfRangeByte_0 0 rfl rfl)
theorem dJ11_copyOfRangeByte_1 : decode cJ11_copyOfRangeByte 1 = .ok (.iload_n 2, 1) := dk_28 (dk_at dksJ11_copyOfRangeByte_0 1 rfl rfl)
theorem dJ11_copyOfRangeByte_2 : decode cJ11_copyOfRangeByte 2 = .ok (.invokestatic 343, 3) := dk_184 1 87 (dk_at dksJ11_copyOfRangeByte_0 2 rfl rfl)
theorem dJ11_copyOfRangeByte_5 : decode cJ11_copyOfRangeByte 5 = .ok (.iload_n 2, 1) := dk_28 (dk_at dksJ11_copyOfRangeByte_0 5 rfl rfl)
theorem dJ11_copyOfRangeByte_6 : decode cJ11_copyOfRangeByte 6 = .ok (.iload_n 1, 1) := dk_27 (dk_at dksJ11_copyOfRangeByte_0 6 rfl rfl)
theorem dJ11_copyOfRangeByte_7 : decode cJ11_copyOfRangeByte 7 = .ok (.isub, 1) := dk_100 (dk_at dksJ11_copyOfRangeByte_0 7 rfl rfl)
theorem dJ11_copyOfRangeByte_8 : decode cJ11_copyOfRangeByte 8 = .ok (.istore_n 3, 1) := dk_62 (dk_at dksJ11_copyOfRangeByte_0 8 rfl rfl)
theorem dJ11_copyOfRangeByte_9 : decode cJ11_copyOfRangeByte 9 = .ok (.iload_n 3, 1) := dk_29 (dk_at dksJ11_copyOfRangeByte_0 9 rfl rfl)
theorem dJ11_copyOfRangeByte_10 : decode cJ11_copyOfRangeByte 10 = .ok (.newarray .byte, 2) := dk_188_8 (dk_at dksJ11_copyOfRangeByte_0 10 rfl rfl)
theorem dJ11_copyOfRangeByte_12 : decode cJ11_copyOfRangeByte 12 = .ok (.astore 4, 2) := dk_58 4 (dk_at dksJ11_copyOfRangeByte_0 12 rfl rfl)
theorem dJ11_copyOfRangeByte_14 : decode cJ11_copyOfRangeByte 14 = .ok (.aload_n 0, 1) := dk_42 (dk_at dksJ11_copyOfRangeByte_0 14 rfl rfl)
theorem dJ11_copyOfRangeByte_15 : decode cJ11_copyOfRangeByte 15 = .ok (.iload_n 1, 1) := dk_27 (dk_at dksJ11_copyOfRangeByte_0 15 rfl rfl)
theorem dJ11_copyOfRangeByte_16 : decode cJ11_copyOfRangeByte 16 = .ok (.aload 4, 2) := dk_25 4 (dk_at dksJ11_copyOfRangeByte_0 16 rfl rfl)
theorem dJ11_copyOfRangeByte_18 : decode cJ11_copyOfRangeByte 18 = .ok (.iconst 0, 1) := dk_3 (dk_at dksJ11_copyOfRangeByte_0 18 rfl rfl)
theorem dJ11_copyOfRangeByte_19 : decode cJ11_copyOfRangeByte 19 = .ok (.aload_n 0, 1) := dk_42 (dk_at dksJ11_copyOfRangeByte_0 19 rfl rfl)
theorem dJ11_copyOfRangeByte_20 : decode cJ11_copyOfRangeByte 20 = .ok (.arraylength, 1) := dk_190 (dk_at dksJ11_copyOfRangeByte_0 20 rfl rfl)
theorem dJ11_copyOfRangeByte_21 : decode cJ11_copyOfRangeByte 21 = .ok (.iload_n 1, 1) := dk_27 (dk_at dksJ11_copyOfRangeByte_0 21 rfl rfl)
theorem dJ11_copyOfRangeByte_22 : decode cJ11_copyOfRangeByte 22 = .ok (.isub, 1) := dk_100 (dk_at dksJ11_copyOfRangeByte_0 22 rfl rfl)
theorem dJ11_copyOfRangeByte_23 : decode cJ11_copyOfRangeByte 23 = .ok (.iload_n 3, 1) := dk_29 (dk_at dksJ11_copyOfRangeByte_0 23 rfl rfl)
theorem dJ11_copyOfRangeByte_24 : decode cJ11_copyOfRangeByte 24 = .ok (.invokestatic 304, 3) := dk_184 1 48 (dk_at dksJ11_copyOfRangeByte_1 0 rfl rfl)
theorem dJ11_copyOfRangeByte_27 : decode cJ11_copyOfRangeByte 27 = .ok (.invokestatic 150, 3) := dk_184 0 150 (dk_at dksJ11_copyOfRangeByte_1 3 rfl rfl)
theorem dJ11_copyOfRangeByte_30 : decode cJ11_copyOfRangeByte 30 = .ok (.aload 4, 2) := dk_25 4 (dk_at dksJ11_copyOfRangeByte_1 6 rfl rfl)
theorem dJ11_copyOfRangeByte_32 : decode cJ11_copyOfRangeByte 32 = .ok (.areturn, 1) := dk_176 (dk_at dksJ11_copyOfRangeByte_1 8 rfl rfl)
abbrev cJ11_checkLength : ByteArray := prog_52_method_131_code
def yJ11_checkLength : MethodName := ⟨RJ11, "checkLength", "(II)V"⟩
def dkwJ11_checkLength_1 : List UInt8 := [182, 0, 50, 27, 182, 0, 54, 182, 0, 61, 183, 0, 65, 191, 177]
abbrev dktJ11_checkLength_1 : List UInt8 := dkwJ11_checkLength_1 ++ []
def dkwJ11_checkLength_0 : List UInt8 := [27, 26, 162, 0, 35, 187, 0, 43, 89, 187, 0, 45, 89, 183, 0, 47, 26, 182, 0, 54, 19, 1, 81]
abbrev dktJ11_checkLength_0 : List UInt8 := dkwJ11_checkLength_0 ++ dktJ11_checkLength_1
theorem dksJ11_checkLength_0 : cJ11_checkLength.data.toList.drop 0 = dktJ11_checkLength_0 := by decide +kernel
theorem dksJ11_checkLength_1 : cJ11_checkLength.data.toList.drop 23 = dktJ11_checkLength_1 := dk_seg dksJ11_checkLength_0 23 rfl rfl
theorem dJ11_checkLength_0 : decode cJ11_checkLength 0 = .ok (.iload_n 1, 1) := dk_27 (dk_at dksJ11_checkLength_0 0 rfl rfl)
theorem dJ11_checkLength_1 : decode cJ11_checkLength 1 = .ok (.iload_n 0, 1) := dk_26 (dk_at dksJ11_checkLength_0 1 rfl rfl)
theorem dJ11_checkLength_2 : decode cJ11_checkLength 2 = .ok (.if_icmp .ge 35, 3) := dk_162 0 35 (dk_at dksJ11_checkLength_0 2 rfl rfl)
theorem dJ11_checkLength_5 : decode cJ11_checkLength 5 = .ok (.new 43, 3) := dk_187 0 43 (dk_at dksJ11_checkLength_0 5 rfl rfl)
theorem dJ11_checkLength_8 : decode cJ11_checkLength 8 = .ok (.dup, 1) := dk_89 (dk_at dksJ11_checkLength_0 8 rfl rfl)
theorem dJ11_checkLength_9 : decode cJ11_checkLength 9 = .ok (.new 45, 3) := dk_187 0 45 (dk_at dksJ11_checkLength_0 9 rfl rfl)
theorem dJ11_checkLength_12 : decode cJ11_checkLength 12 = .ok (.dup, 1) := dk_89 (dk_at dksJ11_checkLength_0 12 rfl rfl)
theorem dJ11_checkLength_13 : decode cJ11_checkLength 13 = .ok (.invokespecial 47, 3) := dk_183 0 47 (dk_at dksJ11_checkLength_0 13 rfl rfl)
theorem dJ11_checkLength_16 : decode cJ11_checkLength 16 = .ok (.iload_n 0, 1) := dk_26 (dk_at dksJ11_checkLength_0 16 rfl rfl)
theorem dJ11_checkLength_17 : decode cJ11_checkLength 17 = .ok (.invokevirtual 54, 3) := dk_182 0 54 (dk_at dksJ11_checkLength_0 17 rfl rfl)
theorem dJ11_checkLength_20 : decode cJ11_checkLength 20 = .ok (.ldc_w 337, 3) := dk_19 1 81 (dk_at dksJ11_checkLength_0 20 rfl rfl)
theorem dJ11_checkLength_23 : decode cJ11_checkLength 23 = .ok (.invokevirtual 50, 3) := dk_182 0 50 (dk_at dksJ11_checkLength_1 0 rfl rfl)
theorem dJ11_checkLength_26 : decode cJ11_checkLength 26 = .ok (.iload_n 1, 1) := dk_27 (dk_at dksJ11_checkLength_1 3 rfl rfl)
theorem dJ11_checkLength_27 : decode cJ11_checkLength 27 = .ok (.invokevirtual 54, 3) := dk_182 0 54 (dk_at dksJ11_checkLength_1 4 rfl rfl)
theorem dJ11_checkLength_30 : decode cJ11_checkLength 30 = .ok (.invokevirtual 61, 3) := dk_182 0 61 (dk_at dksJ11_checkLength_1 7 rfl rfl)
theorem dJ11_checkLength_33 : decode cJ11_checkLength 33 = .ok (.invokespecial 65, 3) := dk_183 0 65 (dk_at dksJ11_checkLength_1 10 rfl rfl)
theorem dJ11_checkLength_36 : decode cJ11_checkLength 36 = .ok (.athrow, 1) := dk_191 (dk_at dksJ11_checkLength_1 13 rfl rfl)
theorem dJ11_checkLength_37 : decode cJ11_checkLength 37 = .ok (.return_, 1) := dk_177 (dk_at dksJ11_checkLength_1 14 rfl rfl)
abbrev cJ11_copyOf_3 : ByteArray := prog_52_method_119_code
def yJ11_copyOf_3 : MethodName := ⟨RJ11, "copyOf", "([Ljava/lang/Object;I)[Ljava/lang/Object;"⟩
def dkwJ11_copyOf_3_0 : List UInt8 := [42, 27, 42, 182, 0, 86, 184, 1, 44, 176]
abbrev dktJ11_copyOf_3_0 : List UInt8 := dkwJ11_copyOf_3_0 ++ []
theorem dksJ11_copyOf_3_0 : cJ11_copyOf_3.data.toList.drop 0 = dktJ11_copyOf_3_0 := by decide +kernel
theorem dJ11_copyOf_3_0 : decode cJ11_copyOf_3 0 = .ok (.aload_n 0, 1) := dk_42 (dk_at dksJ11_copyOf_3_0 0 rfl rfl)
theorem dJ11_copyOf_3_1 : decode cJ11_copyOf_3 1 = .ok (.iload_n 1, 1) := dk_27 (dk_at dksJ11_copyOf_3_0 1 rfl rfl)
theorem dJ11_copyOf_3_2 : decode cJ11_copyOf_3 2 = .ok (.aload_n 0, 1) := dk_42 (dk_at dksJ11_copyOf_3_0 2 rfl rfl)
theorem dJ11_copyOf_3_3 : decode cJ11_copyOf_3 3 = .ok (.invokevirtual 86, 3) := dk_182 0 86 (dk_at dksJ11_copyOf_3_0 3 rfl rfl)
theorem dJ11_copyOf_3_6 : decode cJ11_copyOf_3 6 = .ok (.invokestatic 300, 3) := dk_184 1 44 (dk_at dksJ11_copyOf_3_0 6 rfl rfl)
theorem dJ11_copyOf_3_9 : decode cJ11_copyOf_3 9 = .ok (.areturn, 1) := dk_176 (dk_at dksJ11_copyOf_3_0 9 rfl rfl)
abbrev cJ11_copyOf_4 : ByteArray := prog_52_method_120_code
def yJ11_copyOf_4 : MethodName := ⟨RJ11, "copyOf", "([Ljava/lang/Object;ILjava/lang/Class;)[Ljava/lang/Object;"⟩
def dkwJ11_copyOf_4_1 : List UInt8 := [78, 42, 3, 45, 3, 42, 190, 27, 184, 1, 48, 184, 0, 150, 45, 176]
abbrev dktJ11_copyOf_4_1 : List UInt8 := dkwJ11_copyOf_4_1 ++ []
def dkwJ11_copyOf_4_0 : List UInt8 := [44, 18, 110, 166, 0, 10, 27, 189, 0, 2, 167, 0, 14, 44, 182, 0, 90, 27, 184, 0, 95, 192, 0, 110]
abbrev dktJ11_copyOf_4_0 : List UInt8 := dkwJ11_copyOf_4_0 ++ dktJ11_copyOf_4_1
theorem dksJ11_copyOf_4_0 : cJ11_copyOf_4.data.toList.drop 0 = dktJ11_copyOf_4_0 := by decide +kernel
theorem dksJ11_copyOf_4_1 : cJ11_copyOf_4.data.toList.drop 24 = dktJ11_copyOf_4_1 := dk_seg dksJ11_copyOf_4_0 24 rfl rfl
theorem dJ11_copyOf_4_0 : decode cJ11_copyOf_4 0 = .ok (.aload_n 2, 1) := dk_44 (dk_at dksJ11_copyOf_4_0 0 rfl rfl)
theorem dJ11_copyOf_4_1 : decode cJ11_copyOf_4 1 = .ok (.ldc 110, 2) := dk_18 110 (dk_at dksJ11_copyOf_4_0 1 rfl rfl)
theorem dJ11_copyOf_4_3 : decode cJ11_copyOf_4 3 = .ok (.if_acmp .ne 10, 3) := dk_166 0 10 (dk_at dksJ11_copyOf_4_0 3 rfl rfl)
theorem dJ11_copyOf_4_6 : decode cJ11_copyOf_4 6 = .ok (.iload_n 1, 1) := dk_27 (dk_at dksJ11_copyOf_4_0 6 rfl rfl)
theorem dJ11_copyOf_4_7 : decode cJ11_copyOf_4 7 = .ok (.anewarray 2, 3) := dk_189 0 2 (dk_at dksJ11_copyOf_4_0 7 rfl rfl)
theorem dJ11_copyOf_4_10 : decode cJ11_copyOf_4 10 = .ok (.goto 14, 3) := dk_167 0 14 (dk_at dksJ11_copyOf_4_0 10 rfl rfl)
theorem dJ11_copyOf_4_13 : decode cJ11_copyOf_4 13 = .ok (.aload_n 2, 1) := dk_44 (dk_at dksJ11_copyOf_4_0 13 rfl rfl)
theorem dJ11_copyOf_4_14 : decode cJ11_copyOf_4 14 = .ok (.invokevirtual 90, 3) := dk_182 0 90 (dk_at dksJ11_copyOf_4_0 14 rfl rfl)
theorem dJ11_copyOf_4_17 : decode cJ11_copyOf_4 17 = .ok (.iload_n 1, 1) := dk_27 (dk_at dksJ11_copyOf_4_0 17 rfl rfl)
theorem dJ11_copyOf_4_18 : decode cJ11_copyOf_4 18 = .ok (.invokestatic 95, 3) := dk_184 0 95 (dk_at dksJ11_copyOf_4_0 18 rfl rfl)
theorem dJ11_copyOf_4_21 : decode cJ11_copyOf_4 21 = .ok (.checkcast 110, 3) := dk_192 0 110 (dk_at dksJ11_copyOf_4_0 21 rfl rfl)
theorem dJ11_copyOf_4_24 : decode cJ11_copyOf_4 24 = .ok (.astore_n 3, 1) := dk_78 (dk_at dksJ11_copyOf_4_1 0 rfl rfl)
theorem dJ11_copyOf_4_25 : decode cJ11_copyOf_4 25 = .ok (.aload_n 0, 1) := dk_42 (dk_at dksJ11_copyOf_4_1 1 rfl rfl)
theorem dJ11_copyOf_4_26 : decode cJ11_copyOf_4 26 = .ok (.iconst 0, 1) := dk_3 (dk_at dksJ11_copyOf_4_1 2 rfl rfl)
theorem dJ11_copyOf_4_27 : decode cJ11_copyOf_4 27 = .ok (.aload_n 3, 1) := dk_45 (dk_at dksJ11_copyOf_4_1 3 rfl rfl)
theorem dJ11_copyOf_4_28 : decode cJ11_copyOf_4 28 = .ok (.iconst 0, 1) := dk_3 (dk_at dksJ11_copyOf_4_1 4 rfl rfl)
theorem dJ11_copyOf_4_29 : decode cJ11_copyOf_4 29 = .ok (.aload_n 0, 1) := dk_42 (dk_at dksJ11_copyOf_4_1 5 rfl rfl)
theorem dJ11_copyOf_4_30 : decode cJ11_copyOf_4 30 = .ok (.arraylength, 1) := dk_190 (dk_at dksJ11_copyOf_4_1 6 rfl rfl)
theorem dJ11_copyOf_4_31 : decode cJ11_copyOf_4 31 = .ok (.iload_n 1, 1) := dk_27 (dk_at dksJ11_copyOf_4_1 7 rfl rfl)
theorem dJ11_copyOf_4_32 : decode cJ11_copyOf_4 32 = .ok (.invokestatic 304, 3) := dk_184 1 48 (dk_at dksJ11_copyOf_4_1 8 rfl rfl)
theorem dJ11_copyOf_4_35 : decode cJ11_copyOf_4 35 = .ok (.invokestatic 150, 3) := dk_184 0 150 (dk_at dksJ11_copyOf_4_1 11 rfl rfl)
theorem dJ11_copyOf_4_38 : decode cJ11_copyOf_4 38 = .ok (.aload_n 3, 1) := dk_45 (dk_at dksJ11_copyOf_4_1 14 rfl rfl)
theorem dJ11_copyOf_4_39 : decode cJ11_copyOf_4 39 = .ok (.areturn, 1) := dk_176 (dk_at dksJ11_copyOf_4_1 15 rfl rfl)
abbrev cJ11_fill : ByteArray := prog_52_method_110_code
def yJ11_fill : MethodName := ⟨RJ11, "fill", "([BIIB)V"⟩
def dkwJ11_fill_1 : List UInt8 := [167, 255, 242, 177]
abbrev dktJ11_fill_1 : List UInt8 := dkwJ11_fill_1 ++ []
def dkwJ11_fill_0 : List UInt8 := [42, 190, 27, 28, 184, 0, 13, 27, 54, 4, 21, 4, 28, 162, 0, 14, 42, 21, 4, 29, 84, 132, 4, 1]
abbrev dktJ11_fill_0 : List UInt8 := dkwJ11_fill_0 ++ dktJ11_fill_1
theorem dksJ11_fill_0 : cJ11_fill.data.toList.drop 0 = dktJ11_fill_0 := by decide +kernel
theorem dksJ11_fill_1 : cJ11_fill.data.toList.drop 24 = dktJ11_fill_1 := dk_seg dksJ11_fill_0 24 rfl rfl
theorem dJ11_fill_0 : decode cJ11_fill 0 = .ok (.aload_n 0, 1) := dk_42 (dk_at dksJ11_fill_0 0 rfl rfl)
theorem dJ11_fill_1 : decode cJ11_fill 1 = .ok (.arraylength, 1) := dk_190 (dk_at dksJ11_fill_0 1 rfl rfl)
theorem dJ11_fill_2 : decode cJ11_fill 2 = .ok (.iload_n 1, 1) := dk_27 (dk_at dksJ11_fill_0 2 rfl rfl)
theorem dJ11_fill_3 : decode cJ11_fill 3 = .ok (.iload_n 2, 1) := dk_28 (dk_at dksJ11_fill_0 3 rfl rfl)
theorem dJ11_fill_4 : decode cJ11_fill 4 = .ok (.invokestatic 13, 3) := dk_184 0 13 (dk_at dksJ11_fill_0 4 rfl rfl)
theorem dJ11_fill_7 : decode cJ11_fill 7 = .ok (.iload_n 1, 1) := dk_27 (dk_at dksJ11_fill_0 7 rfl rfl)
theorem dJ11_fill_8 : decode cJ11_fill 8 = .ok (.istore 4, 2) := dk_54 4 (dk_at dksJ11_fill_0 8 rfl rfl)
theorem dJ11_fill_10 : decode cJ11_fill 10 = .ok (.iload 4, 2) := dk_21 4 (dk_at dksJ11_fill_0 10 rfl rfl)
theorem dJ11_fill_12 : decode cJ11_fill 12 = .ok (.iload_n 2, 1) := dk_28 (dk_at dksJ11_fill_0 12 rfl rfl)
theorem dJ11_fill_13 : decode cJ11_fill 13 = .ok (.if_icmp .ge 14, 3) := dk_162 0 14 (dk_at dksJ11_fill_0 13 rfl rfl)
theorem dJ11_fill_16 : decode cJ11_fill 16 = .ok (.aload_n 0, 1) := dk_42 (dk_at dksJ11_fill_0 16 rfl rfl)
theorem dJ11_fill_17 : decode cJ11_fill 17 = .ok (.iload 4, 2) := dk_21 4 (dk_at dksJ11_fill_0 17 rfl rfl)
theorem dJ11_fill_19 : decode cJ11_fill 19 = .ok (.iload_n 3, 1) := dk_29 (dk_at dksJ11_fill_0 19 rfl rfl)
theorem dJ11_fill_20 : decode cJ11_fill 20 = .ok (.bastore, 1) := dk_84 (dk_at dksJ11_fill_0 20 rfl rfl)
theorem dJ11_fill_21 : decode cJ11_fill 21 = .ok (.iinc 4 1, 3) := dk_132 4 1 (dk_at dksJ11_fill_0 21 rfl rfl)
theorem dJ11_fill_24 : decode cJ11_fill 24 = .ok (.goto (-14), 3) := dk_167 255 242 (dk_at dksJ11_fill_1 0 rfl rfl)
theorem dJ11_fill_27 : decode cJ11_fill 27 = .ok (.return_, 1) := dk_177 (dk_at dksJ11_fill_1 3 rfl rfl)
abbrev cJ11_rangeCheck : ByteArray := prog_52_method_30_code
def yJ11_rangeCheck : MethodName := ⟨RJ11, "rangeCheck", "(III)V"⟩
def dkwJ11_rangeCheck_3 : List UInt8 := [183, 0, 70, 191, 177]
abbrev dktJ11_rangeCheck_3 : List UInt8 := dkwJ11_rangeCheck_3 ++ []
def dkwJ11_rangeCheck_2 : List UInt8 := [27, 156, 0, 12, 187, 0, 68, 89, 27, 183, 0, 70, 191, 28, 26, 164, 0, 12, 187, 0, 68, 89, 28]
abbrev dktJ11_rangeCheck_2 : List UInt8 := dkwJ11_rangeCheck_2 ++ dktJ11_rangeCheck_3
def dkwJ11_rangeCheck_1 : List UInt8 := [182, 0, 54, 18, 57, 182, 0, 50, 28, 182, 0, 54, 18, 59, 182, 0, 50, 182, 0, 61, 183, 0, 65, 191]
abbrev dktJ11_rangeCheck_1 : List UInt8 := dkwJ11_rangeCheck_1 ++ dktJ11_rangeCheck_2
def dkwJ11_rangeCheck_0 : List UInt8 := [27, 28, 164, 0, 44, 187, 0, 43, 89, 187, 0, 45, 89, 183, 0, 47, 18, 48, 182, 0, 50, 27]
abbrev dktJ11_rangeCheck_0 : List UInt8 := dkwJ11_rangeCheck_0 ++ dktJ11_rangeCheck_1
theorem dksJ11_rangeCheck_0 : cJ11_rangeCheck.data.toList.drop 0 = dktJ11_rangeCheck_0 := by decide +kernel
theorem dksJ11_rangeCheck_1 : cJ11_rangeCheck.data.toList.drop 22 = dktJ11_rangeCheck_1 := dk_seg dksJ11_rangeCheck_0 22 rfl rfl
theorem dksJ11_rangeCheck_2 : cJ11_rangeCheck.data.toList.drop 46 = dktJ11_rangeCheck_2 := dk_seg dksJ11_rangeCheck_1 24 rfl rfl
theorem dksJ11_rangeCheck_3 : cJ11_rangeCheck.data.toList.drop 69 = dktJ11_rangeCheck_3 := dk_seg dksJ11_rangeCheck_2 23 rfl rfl
theorem dJ11_rangeCheck_0 : decode cJ11_rangeCheck 0 = .ok (.iload_n 1, 1) := dk_27 (dk_at dksJ11_rangeCheck_0 0 rfl rfl)
theorem dJ11_rangeCheck_1 : decode cJ11_rangeCheck 1 = .ok (.iload_n 2, 1) := dk_28 (dk_at dksJ11_rangeCheck_0 1 rfl rfl)
theorem dJ11_rangeCheck_2 : decode cJ11_rangeCheck 2 = .ok (.if_icmp .le 44, 3) := dk_164 0 44 (dk_at dksJ11_rangeCheck_0 2 rfl rfl)
theorem dJ11_rangeCheck_5 : decode cJ11_rangeCheck 5 = .ok (.new 43, 3) := dk_187 0 43 (dk_at dksJ11_rangeCheck_0 5 rfl rfl)
theorem dJ11_rangeCheck_8 : decode cJ11_rangeCheck 8 = .ok (.dup, 1) := dk_89 (dk_at dksJ11_rangeCheck_0 8 rfl rfl)
theorem dJ11_rangeCheck_9 : decode cJ11_rangeCheck 9 = .ok (.new 45, 3) := dk_187 0 45 (dk_at dksJ11_rangeCheck_0 9 rfl rfl)
theorem dJ11_rangeCheck_12 : decode cJ11_rangeCheck 12 = .ok (.dup, 1) := dk_89 (dk_at dksJ11_rangeCheck_0 12 rfl rfl)
theorem dJ11_rangeCheck_13 : decode cJ11_rangeCheck 13 = .ok (.invokespecial 47, 3) := dk_183 0 47 (dk_at dksJ11_rangeCheck_0 13 rfl rfl)
theorem dJ11_rangeCheck_16 : decode cJ11_rangeCheck 16 = .ok (.ldc 48, 2) := dk_18 48 (dk_at dksJ11_rangeCheck_0 16 rfl rfl)
theorem dJ11_rangeCheck_18 : decode cJ11_rangeCheck 18 = .ok (.invokevirtual 50, 3) := dk_182 0 50 (dk_at dksJ11_rangeCheck_0 18 rfl rfl)
theorem dJ11_rangeCheck_21 : decode cJ11_rangeCheck 21 = .ok (.iload_n 1, 1) := dk_27 (dk_at dksJ11_rangeCheck_0 21 rfl rfl)
theorem dJ11_rangeCheck_22 : decode cJ11_rangeCheck 22 = .ok (.invokevirtual 54, 3) := dk_182 0 54 (dk_at dksJ11_rangeCheck_1 0 rfl rfl)
theorem dJ11_rangeCheck_25 : decode cJ11_rangeCheck 25 = .ok (.ldc 57, 2) := dk_18 57 (dk_at dksJ11_rangeCheck_1 3 rfl rfl)
theorem dJ11_rangeCheck_27 : decode cJ11_rangeCheck 27 = .ok (.invokevirtual 50, 3) := dk_182 0 50 (dk_at dksJ11_rangeCheck_1 5 rfl rfl)
theorem dJ11_rangeCheck_30 : decode cJ11_rangeCheck 30 = .ok (.iload_n 2, 1) := dk_28 (dk_at dksJ11_rangeCheck_1 8 rfl rfl)
theorem dJ11_rangeCheck_31 : decode cJ11_rangeCheck 31 = .ok (.invokevirtual 54, 3) := dk_182 0 54 (dk_at dksJ11_rangeCheck_1 9 rfl rfl)
theorem dJ11_rangeCheck_34 : decode cJ11_rangeCheck 34 = .ok (.ldc 59, 2) := dk_18 59 (dk_at dksJ11_rangeCheck_1 12 rfl rfl)
theorem dJ11_rangeCheck_36 : decode cJ11_rangeCheck 36 = .ok (.invokevirtual 50, 3) := dk_182 0 50 (dk_at dksJ11_rangeCheck_1 14 rfl rfl)
theorem dJ11_rangeCheck_39 : decode cJ11_rangeCheck 39 = .ok (.invokevirtual 61, 3) := dk_182 0 61 (dk_at dksJ11_rangeCheck_1 17 rfl rfl)
theorem dJ11_rangeCheck_42 : decode cJ11_rangeCheck 42 = .ok (.invokespecial 65, 3) := dk_183 0 65 (dk_at dksJ11_rangeCheck_1 20 rfl rfl)
theorem dJ11_rangeCheck_45 : decode cJ11_rangeCheck 45 = .ok (.athrow, 1) := dk_191 (dk_at dksJ11_rangeCheck_1 23 rfl rfl)
theorem dJ11_rangeCheck_46 : decode cJ11_rangeCheck 46 = .ok (.iload_n 1, 1) := dk_27 (dk_at dksJ11_rangeCheck_2 0 rfl rfl)
theorem dJ11_rangeCheck_47 : decode cJ11_rangeCheck 47 = .ok (.ifCond .ge 12, 3) := dk_156 0 12 (dk_at dksJ11_rangeCheck_2 1 rfl rfl)
theorem dJ11_rangeCheck_50 : decode cJ11_rangeCheck 50 = .ok (.new 68, 3) := dk_187 0 68 (dk_at dksJ11_rangeCheck_2 4 rfl rfl)
theorem dJ11_rangeCheck_53 : decode cJ11_rangeCheck 53 = .ok (.dup, 1) := dk_89 (dk_at dksJ11_rangeCheck_2 7 rfl rfl)
theorem dJ11_rangeCheck_54 : decode cJ11_rangeCheck 54 = .ok (.iload_n 1, 1) := dk_27 (dk_at dksJ11_rangeCheck_2 8 rfl rfl)
theorem dJ11_rangeCheck_55 : decode cJ11_rangeCheck 55 = .ok (.invokespecial 70, 3) := dk_183 0 70 (dk_at dksJ11_rangeCheck_2 9 rfl rfl)
theorem dJ11_rangeCheck_58 : decode cJ11_rangeCheck 58 = .ok (.athrow, 1) := dk_191 (dk_at dksJ11_rangeCheck_2 12 rfl rfl)
theorem dJ11_rangeCheck_59 : decode cJ11_rangeCheck 59 = .ok (.iload_n 2, 1) := dk_28 (dk_at dksJ11_rangeCheck_2 13 rfl rfl)
theorem dJ11_rangeCheck_60 : decode cJ11_rangeCheck 60 = .ok (.iload_n 0, 1) := dk_26 (dk_at dksJ11_rangeCheck_2 14 rfl rfl)
theorem dJ11_rangeCheck_61 : decode cJ11_rangeCheck 61 = .ok (.if_icmp .le 12, 3) := dk_164 0 12 (dk_at dksJ11_rangeCheck_2 15 rfl rfl)
theorem dJ11_rangeCheck_64 : decode cJ11_rangeCheck 64 = .ok (.new 68, 3) := dk_187 0 68 (dk_at dksJ11_rangeCheck_2 18 rfl rfl)
theorem dJ11_rangeCheck_67 : decode cJ11_rangeCheck 67 = .ok (.dup, 1) := dk_89 (dk_at dksJ11_rangeCheck_2 21 rfl rfl)
theorem dJ11_rangeCheck_68 : decode cJ11_rangeCheck 68 = .ok (.iload_n 2, 1) := dk_28 (dk_at dksJ11_rangeCheck_2 22 rfl rfl)
theorem dJ11_rangeCheck_69 : decode cJ11_rangeCheck 69 = .ok (.invokespecial 70, 3) := dk_183 0 70 (dk_at dksJ11_rangeCheck_3 0 rfl rfl)
theorem dJ11_rangeCheck_72 : decode cJ11_rangeCheck 72 = .ok (.athrow, 1) := dk_191 (dk_at dksJ11_rangeCheck_3 3 rfl rfl)
theorem dJ11_rangeCheck_73 : decode cJ11_rangeCheck 73 = .ok (.return_, 1) := dk_177 (dk_at dksJ11_rangeCheck_3 4 rfl rfl)
theorem q110 : (Jvm.Cond.initialized "java/util/Arrays") ∈ lw_all := lw_g (lw_at lw_m1 17 rfl) rfl
theorem q416 : (Jvm.Cond.static ({ cls := "java/util/Arrays", name := "copyOf", desc := "([JI)[J" } : Jvm.MethodName)) ∈ lw_all := lw_g (lw_at lw_m2 83 rfl) rfl
theorem q417 : (Jvm.Cond.code ({ cls := "java/util/Arrays", name := "copyOf", desc := "([JI)[J" } : Jvm.MethodName) prog_52_method_124_code (3 : Nat) (Option.some (Jvm.ClassFile.FieldType.array Jvm.ClassFile.FieldType.long))) ∈ lw_all := lw_g (lw_at lw_m2 84 rfl) rfl
theorem q418 : (Jvm.Cond.methodLink "java/util/Arrays" (319 : Nat) ({ cls := "[J", name := "clone", desc := "()Ljava/lang/Object;" } : Jvm.MethodName)) ∈ lw_all := lw_g (lw_at lw_m2 85 rfl) rfl
theorem q424 : (Jvm.Cond.classLink "java/util/Arrays" (320 : Nat) "[J") ∈ lw_all := lw_g (lw_at lw_m2 91 rfl) rfl
theorem q425 : (Jvm.Cond.methodLink "java/util/Arrays" (304 : Nat) ({ cls := "java/lang/Math", name := "min", desc := "(II)I" } : Jvm.MethodName)) ∈ lw_all := lw_g (lw_at lw_m2 92 rfl) rfl
theorem q426 : (Jvm.Cond.methodLink "java/util/Arrays" (150 : Nat) ({ cls := "java/lang/System", name := "arraycopy", desc := "(Ljava/lang/Object;ILjava/lang/Object;II)V" } : Jvm.MethodName)) ∈ lw_all := lw_g (lw_at lw_m2 93 rfl) rfl
theorem q746 : (Jvm.Cond.static ({ cls := "java/util/Arrays", name := "copyOf", desc := "([BI)[B" } : Jvm.MethodName)) ∈ lw_all := lw_g (lw_at lw_m3 173 rfl) rfl
theorem q747 : (Jvm.Cond.code ({ cls := "java/util/Arrays", name := "copyOf", desc := "([BI)[B" } : Jvm.MethodName) prog_52_method_121_code (3 : Nat) (Option.some (Jvm.ClassFile.FieldType.array Jvm.ClassFile.FieldType.byte))) ∈ lw_all := lw_g (lw_at lw_m3 174 rfl) rfl
theorem q748 : (Jvm.Cond.methodLink "java/util/Arrays" (310 : Nat) ({ cls := "[B", name := "clone", desc := "()Ljava/lang/Object;" } : Jvm.MethodName)) ∈ lw_all := lw_g (lw_at lw_m3 175 rfl) rfl
theorem q752 : (Jvm.Cond.classLink "java/util/Arrays" (311 : Nat) "[B") ∈ lw_all := lw_g (lw_at lw_m3 179 rfl) rfl
theorem q856 : (Jvm.Cond.static ({ cls := "java/util/Arrays", name := "copyOfRange", desc := "([BII)[B" } : Jvm.MethodName)) ∈ lw_all := lw_g (lw_at lw_m4 43 rfl) rfl
theorem q857 : (Jvm.Cond.code ({ cls := "java/util/Arrays", name := "copyOfRange", desc := "([BII)[B" } : Jvm.MethodName) prog_52_method_132_code (3 : Nat) (Option.some (Jvm.ClassFile.FieldType.array Jvm.ClassFile.FieldType.byte))) ∈ lw_all := lw_g (lw_at lw_m4 44 rfl) rfl
theorem q858 : (Jvm.Cond.methodLink "java/util/Arrays" (339 : Nat) ({ cls := "java/util/Arrays", name := "copyOfRangeByte", desc := "([BII)[B" } : Jvm.MethodName)) ∈ lw_all := lw_g (lw_at lw_m4 45 rfl) rfl
theorem q859 : (Jvm.Cond.static ({ cls := "java/util/Arrays", name := "copyOfRangeByte", desc := "([BII)[B" } : Jvm.MethodName)) ∈ lw_all := lw_g (lw_at lw_m4 46 rfl) rfl
theorem q860 : (Jvm.Cond.code ({ cls := "java/util/Arrays", name := "copyOfRangeByte", desc := "([BII)[B" } : Jvm.MethodName) prog_52_method_133_code (5 : Nat) (Option.some (Jvm.ClassFile.FieldType.array Jvm.ClassFile.FieldType.byte))) ∈ lw_all := lw_g (lw_at lw_m4 47 rfl) rfl
theorem q861 : (Jvm.Cond.methodLink "java/util/Arrays" (343 : Nat) ({ cls := "java/util/Arrays", name := "checkLength", desc := "(II)V" } : Jvm.MethodName)) ∈ lw_all := lw_g (lw_at lw_m4 48 rfl) rfl
theorem q862 : (Jvm.Cond.static ({ cls := "java/util/Arrays", name := "checkLength", desc := "(II)V" } : Jvm.MethodName)) ∈ lw_all := lw_g (lw_at lw_m4 49 rfl) rfl
theorem q863 : (Jvm.Cond.code ({ cls := "java/util/Arrays", name := "checkLength", desc := "(II)V" } : Jvm.MethodName) prog_52_method_131_code (2 : Nat) (Option.none : Option Jvm.ClassFile.FieldType)) ∈ lw_all := lw_g (lw_at lw_m4 50 rfl) rfl
theorem q1034 : (Jvm.Cond.static ({ cls := "java/util/Arrays", name := "copyOf", desc := "([Ljava/lang/Object;I)[Ljava/lang/Object;" } : Jvm.MethodName)) ∈ lw_all := lw_g (lw_at lw_m4 221 rfl) rfl
theorem q1035 : (Jvm.Cond.code ({ cls := "java/util/Arrays", name := "copyOf", desc := "([Ljava/lang/Object;I)[Ljava/lang/Object;" } : Jvm.MethodName) prog_52_method_119_code (2 : Nat) (Option.some (Jvm.ClassFile.FieldType.array (Jvm.ClassFile.FieldType.object "java/lang/Object")))) ∈ lw_all := lw_g (lw_at lw_m4 222 rfl) rfl
theorem q1036 : (Jvm.Cond.methodLink "java/util/Arrays" (86 : Nat) ({ cls := "java/lang/Object", name := "getClass", desc := "()Ljava/lang/Class;" } : Jvm.MethodName)) ∈ lw_all := lw_g (lw_at lw_m4 223 rfl) rfl
theorem q1037 : (Jvm.Cond.methodLink "java/util/Arrays" (300 : Nat) ({ cls := "java/util/Arrays", name := "copyOf", desc := "([Ljava/lang/Object;ILjava/lang/Class;)[Ljava/lang/Object;" } : Jvm.MethodName)) ∈ lw_all := lw_g (lw_at lw_m4 224 rfl) rfl
theorem q1038 : (Jvm.Cond.static ({ cls := "java/util/Arrays", name := "copyOf", desc := "([Ljava/lang/Object;ILjava/lang/Class;)[Ljava/lang/Object;" } : Jvm.MethodName)) ∈ lw_all := lw_g (lw_at lw_m4 225 rfl) rfl
theorem q1039 : (Jvm.Cond.code ({ cls := "java/util/Arrays", name := "copyOf", desc := "([Ljava/lang/Object;ILjava/lang/Class;)[Ljava/lang/Object;" } : Jvm.MethodName) prog_52_method_120_code (4 : Nat) (Option.some (Jvm.ClassFile.FieldType.array (Jvm.ClassFile.FieldType.object "java/lang/Object")))) ∈ lw_all := lw_g (lw_at lw_m4 226 rfl) rfl
theorem q1040 : (Jvm.Cond.classLink "java/util/Arrays" (110 : Nat) "[Ljava/lang/Object;") ∈ lw_all := lw_g (lw_at lw_m4 227 rfl) rfl
theorem q1041 : (Jvm.Cond.classLink "java/util/Arrays" (2 : Nat) "java/lang/Object") ∈ lw_all := lw_g (lw_at lw_m4 228 rfl) rfl
theorem q2002 : (Jvm.Cond.static ({ cls := "java/util/Arrays", name := "fill", desc := "([BIIB)V" } : Jvm.MethodName)) ∈ lw_all := lw_g (lw_at lw_m8 229 rfl) rfl
theorem q2003 : (Jvm.Cond.code ({ cls := "java/util/Arrays", name := "fill", desc := "([BIIB)V" } : Jvm.MethodName) prog_52_method_110_code (5 : Nat) (Option.none : Option Jvm.ClassFile.FieldType)) ∈ lw_all := lw_g (lw_at lw_m8 230 rfl) rfl
theorem q2004 : (Jvm.Cond.methodLink "java/util/Arrays" (13 : Nat) ({ cls := "java/util/Arrays", name := "rangeCheck", desc := "(III)V" } : Jvm.MethodName)) ∈ lw_all := lw_g (lw_at lw_m8 231 rfl) rfl
theorem q2005 : (Jvm.Cond.static ({ cls := "java/util/Arrays", name := "rangeCheck", desc := "(III)V" } : Jvm.MethodName)) ∈ lw_all := lw_g (lw_at lw_m8 232 rfl) rfl
theorem q2006 : (Jvm.Cond.code ({ cls := "java/util/Arrays", name := "rangeCheck", desc := "(III)V" } : Jvm.MethodName) prog_52_method_30_code (3 : Nat) (Option.none : Option Jvm.ClassFile.FieldType)) ∈ lw_all := lw_g (lw_at lw_m8 233 rfl) rfl
/-! java/lang/Throwable -/
set_option maxRecDepth 100000
def RJ18 : String := "java/lang/Throwable"
def TJ18 : u_T := fun k => match k with
  | 0 => ("java/lang/Throwable", "cause", "Ljava/lang/Throwable;", false)
  | 1 => ("java/lang/Throwable", "stackTrace", "[Ljava/lang/StackTraceElement;", false)
  | 2 => ("java/lang/Throwable", "suppressedExceptions", "Ljava/util/List;", false)
  | 3 => ("java/lang/Throwable", "detailMessage", "Ljava/lang/String;", false)
  | _ => ("java/lang/Throwable", "backtrace", "Ljava/lang/Object;", false)
def tyJ18 : Nat → FieldType := fun k => match k with
  | 0 => .object "java/lang/Throwable"
  | 1 => .array (.object "java/lang/StackTraceElement")
  | 2 => .object "java/util/List"
  | 3 => .object "java/lang/String"
  | _ => .object "java/lang/Object"
abbrev wsJ180 : List Cond := u_ws RJ18 TJ18 5
theorem nmJ18 : ∀ a, a < 5 → ∀ b, b < 5 → a ≠ b → (TJ18 a).2.1 ≠ (TJ18 b).2.1 := by decide +kernel
theorem tyJ18_ok : ∀ k, k < 5 → parseFieldDescriptor (TJ18 k).2.2.1 = some (tyJ18 k) := by decide +kernel
abbrev cJ18_init : ByteArray := prog_40_method_1_code
def yJ18_init : MethodName := ⟨RJ18, "<init>", "()V"⟩
def dkwJ18_init_1 : List UInt8 := [182, 0, 27, 87, 177]
abbrev dktJ18_init_1 : List UInt8 := dkwJ18_init_1 ++ []
def dkwJ18_init_0 : List UInt8 := [42, 183, 0, 1, 42, 42, 181, 0, 7, 42, 178, 0, 13, 181, 0, 17, 42, 178, 0, 20, 181, 0, 24, 42]
abbrev dktJ18_init_0 : List UInt8 := dkwJ18_init_0 ++ dktJ18_init_1
theorem dksJ18_init_0 : cJ18_init.data.toList.drop 0 = dktJ18_init_0 := by decide +kernel
theorem dksJ18_init_1 : cJ18_init.data.toList.drop 24 = dktJ18_init_1 := dk_seg dksJ18_init_0 24 rfl rfl
theorem dJ18_init_0 : decode cJ18_init 0 = .ok (.aload_n 0, 1) := dk_42 (dk_at dksJ18_init_0 0 rfl rfl)
theorem dJ18_init_1 : decode cJ18_init 1 = .ok (.invokespecial 1, 3) := dk_183 0 1 (dk_at dksJ18_init_0 1 rfl rfl)
theorem dJ18_init_4 : decode cJ18_init 4 = .ok (.aload_n 0, 1) := dk_42 (dk_at dksJ18_init_0 4 rfl rfl)
theorem dJ18_init_5 : decode cJ18_init 5 = .ok (.aload_n 0, 1) := dk_42 (dk_at dksJ18_init_0 5 rfl rfl)
theorem dJ18_init_6 : decode cJ18_init 6 = .ok (.putfield 7, 3) := dk_181 0 7 (dk_at dksJ18_init_0 6 rfl rfl)
theorem dJ18_init_9 : decode cJ18_init 9 = .ok (.aload_n 0, 1) := dk_42 (dk_at dksJ18_init_0 9 rfl rfl)
theorem dJ18_init_10 : decode cJ18_init 10 = .ok (.getstatic 13, 3) := dk_178 0 13 (dk_at dksJ18_init_0 10 rfl rfl)
theorem dJ18_init_13 : decode cJ18_init 13 = .ok (.putfield 17, 3) := dk_181 0 17 (dk_at dksJ18_init_0 13 rfl rfl)
theorem dJ18_init_16 : decode cJ18_init 16 = .ok (.aload_n 0, 1) := dk_42 (dk_at dksJ18_init_0 16 rfl rfl)
theorem dJ18_init_17 : decode cJ18_init 17 = .ok (.getstatic 20, 3) := dk_178 0 20 (dk_at dksJ18_init_0 17 rfl rfl)
theorem dJ18_init_20 : decode cJ18_init 20 = .ok (.putfield 24, 3) := dk_181 0 24 (dk_at dksJ18_init_0 20 rfl rfl)
theorem dJ18_init_23 : decode cJ18_init 23 = .ok (.aload_n 0, 1) := dk_42 (dk_at dksJ18_init_0 23 rfl rfl)
theorem dJ18_init_24 : decode cJ18_init 24 = .ok (.invokevirtual 27, 3) := dk_182 0 27 (dk_at dksJ18_init_1 0 rfl rfl)
theorem dJ18_init_27 : decode cJ18_init 27 = .ok (.pop, 1) := dk_87 (dk_at dksJ18_init_1 3 rfl rfl)
theorem dJ18_init_28 : decode cJ18_init 28 = .ok (.return_, 1) := dk_177 (dk_at dksJ18_init_1 4 rfl rfl)
abbrev cJ18_init_2 : ByteArray := prog_40_method_4_code
def yJ18_init_2 : MethodName := ⟨RJ18, "<init>", "(Ljava/lang/Throwable;)V"⟩
def dkwJ18_init_2_2 : List UInt8 := [181, 0, 7, 177]
abbrev dktJ18_init_2_2 : List UInt8 := dkwJ18_init_2_2 ++ []
def dkwJ18_init_2_1 : List UInt8 := [182, 0, 27, 87, 42, 43, 199, 0, 7, 1, 167, 0, 7, 43, 182, 0, 35, 181, 0, 31, 42, 43]
abbrev dktJ18_init_2_1 : List UInt8 := dkwJ18_init_2_1 ++ dktJ18_init_2_2
def dkwJ18_init_2_0 : List UInt8 := [42, 183, 0, 1, 42, 42, 181, 0, 7, 42, 178, 0, 13, 181, 0, 17, 42, 178, 0, 20, 181, 0, 24, 42]
abbrev dktJ18_init_2_0 : List UInt8 := dkwJ18_init_2_0 ++ dktJ18_init_2_1
theorem dksJ18_init_2_0 : cJ18_init_2.data.toList.drop 0 = dktJ18_init_2_0 := by decide +kernel
theorem dksJ18_init_2_1 : cJ18_init_2.data.toList.drop 24 = dktJ18_init_2_1 := dk_seg dksJ18_init_2_0 24 rfl rfl
theorem dksJ18_init_2_2 : cJ18_init_2.data.toList.drop 46 = dktJ18_init_2_2 := dk_seg dksJ18_init_2_1 22 rfl rfl
theorem dJ18_init_2_0 : decode cJ18_init_2 0 = .ok (.aload_n 0, 1) := dk_42 (dk_at dksJ18_init_2_0 0 rfl rfl)
theorem dJ18_init_2_1 : decode cJ18_init_2 1 = .ok (.invokespecial 1, 3) := dk_183 0 1 (dk_at dksJ18_init_2_0 1 rfl rfl)
theorem dJ18_init_2_4 : decode cJ18_init_2 4 = .ok (.aload_n 0, 1) := dk_42 (dk_at dksJ18_init_2_0 4 rfl rfl)
theorem dJ18_init_2_5 : decode cJ18_init_2 5 = .ok (.aload_n 0, 1) := dk_42 (dk_at dksJ18_init_2_0 5 rfl rfl)
theorem dJ18_init_2_6 : decode cJ18_init_2 6 = .ok (.putfield 7, 3) := dk_181 0 7 (dk_at dksJ18_init_2_0 6 rfl rfl)
theorem dJ18_init_2_9 : decode cJ18_init_2 9 = .ok (.aload_n 0, 1) := dk_42 (dk_at dksJ18_init_2_0 9 rfl rfl)
theorem dJ18_init_2_10 : decode cJ18_init_2 10 = .ok (.getstatic 13, 3) := dk_178 0 13 (dk_at dksJ18_init_2_0 10 rfl rfl)
theorem dJ18_init_2_13 : decode cJ18_init_2 13 = .ok (.putfield 17, 3) := dk_181 0 17 (dk_at dksJ18_init_2_0 13 rfl rfl)
theorem dJ18_init_2_16 : decode cJ18_init_2 16 = .ok (.aload_n 0, 1) := dk_42 (dk_at dksJ18_init_2_0 16 rfl rfl)
theorem dJ18_init_2_17 : decode cJ18_init_2 17 = .ok (.getstatic 20, 3) := dk_178 0 20 (dk_at dksJ18_init_2_0 17 rfl rfl)
theorem dJ18_init_2_20 : decode cJ18_init_2 20 = .ok (.putfield 24, 3) := dk_181 0 24 (dk_at dksJ18_init_2_0 20 rfl rfl)
theorem dJ18_init_2_23 : decode cJ18_init_2 23 = .ok (.aload_n 0, 1) := dk_42 (dk_at dksJ18_init_2_0 23 rfl rfl)
theorem dJ18_init_2_24 : decode cJ18_init_2 24 = .ok (.invokevirtual 27, 3) := dk_182 0 27 (dk_at dksJ18_init_2_1 0 rfl rfl)
theorem dJ18_init_2_27 : decode cJ18_init_2 27 = .ok (.pop, 1) := dk_87 (dk_at dksJ18_init_2_1 3 rfl rfl)
theorem dJ18_init_2_28 : decode cJ18_init_2 28 = .ok (.aload_n 0, 1) := dk_42 (dk_at dksJ18_init_2_1 4 rfl rfl)
theorem dJ18_init_2_29 : decode cJ18_init_2 29 = .ok (.aload_n 1, 1) := dk_43 (dk_at dksJ18_init_2_1 5 rfl rfl)
theorem dJ18_init_2_30 : decode cJ18_init_2 30 = .ok (.ifnonnull 7, 3) := dk_199 0 7 (dk_at dksJ18_init_2_1 6 rfl rfl)
theorem dJ18_init_2_33 : decode cJ18_init_2 33 = .ok (.aconst_null, 1) := dk_1 (dk_at dksJ18_init_2_1 9 rfl rfl)
theorem dJ18_init_2_34 : decode cJ18_init_2 34 = .ok (.goto 7, 3) := dk_167 0 7 (dk_at dksJ18_init_2_1 10 rfl rfl)
theorem dJ18_init_2_37 : decode cJ18_init_2 37 = .ok (.aload_n 1, 1) := dk_43 (dk_at dksJ18_init_2_1 13 rfl rfl)
theorem dJ18_init_2_38 : decode cJ18_init_2 38 = .ok (.invokevirtual 35, 3) := dk_182 0 35 (dk_at dksJ18_init_2_1 14 rfl rfl)
theorem dJ18_init_2_41 : decode cJ18_init_2 41 = .ok (.putfield 31, 3) := dk_181 0 31 (dk_at dksJ18_init_2_1 17 rfl rfl)
theorem dJ18_init_2_44 : decode cJ18_init_2 44 = .ok (.aload_n 0, 1) := dk_42 (dk_at dksJ18_init_2_1 20 rfl rfl)
theorem dJ18_init_2_45 : decode cJ18_init_2 45 = .ok (.aload_n 1, 1) := dk_43 (dk_at dksJ18_init_2_1 21 rfl rfl)
theorem dJ18_init_2_46 : decode cJ18_init_2 46 = .ok (.putfield 7, 3) := dk_181 0 7 (dk_at dksJ18_init_2_2 0 rfl rfl)
theorem dJ18_init_2_49 : decode cJ18_init_2 49 = .ok (.return_, 1) := dk_177 (dk_at dksJ18_init_2_2 3 rfl rfl)
abbrev cJ18_toString : ByteArray := prog_40_method_11_code
def yJ18_toString : MethodName := ⟨RJ18, "toString", "()Ljava/lang/String;"⟩
def dkwJ18_toString_1 : List UInt8 := [43, 182, 0, 49, 18, 81, 182, 0, 49, 44, 182, 0, 49, 182, 0, 60, 167, 0, 4, 43, 176]
abbrev dktJ18_toString_1 : List UInt8 := dkwJ18_toString_1 ++ []
def dkwJ18_toString_0 : List UInt8 := [42, 182, 0, 69, 182, 0, 73, 76, 42, 182, 0, 78, 77, 44, 198, 0, 29, 187, 0, 44, 89, 183, 0, 46]
abbrev dktJ18_toString_0 : List UInt8 := dkwJ18_toString_0 ++ dktJ18_toString_1
theorem dksJ18_toString_0 : cJ18_toString.data.toList.drop 0 = dktJ18_toString_0 := by decide +kernel
theorem dksJ18_toString_1 : cJ18_toString.data.toList.drop 24 = dktJ18_toString_1 := dk_seg dksJ18_toString_0 24 rfl rfl
theorem dJ18_toString_0 : decode cJ18_toString 0 = .ok (.aload_n 0, 1) := dk_42 (dk_at dksJ18_toString_0 0 rfl rfl)
theorem dJ18_toString_1 : decode cJ18_toString 1 = .ok (.invokevirtual 69, 3) := dk_182 0 69 (dk_at dksJ18_toString_0 1 rfl rfl)
theorem dJ18_toString_4 : decode cJ18_toString 4 = .ok (.invokevirtual 73, 3) := dk_182 0 73 (dk_at dksJ18_toString_0 4 rfl rfl)
theorem dJ18_toString_7 : decode cJ18_toString 7 = .ok (.astore_n 1, 1) := dk_76 (dk_at dksJ18_toString_0 7 rfl rfl)
theorem dJ18_toString_8 : decode cJ18_toString 8 = .ok (.aload_n 0, 1) := dk_42 (dk_at dksJ18_toString_0 8 rfl rfl)
theorem dJ18_toString_9 : decode cJ18_toString 9 = .ok (.invokevirtual 78, 3) := dk_182 0 78 (dk_at dksJ18_toString_0 9 rfl rfl)
theorem dJ18_toString_12 : decode cJ18_toString 12 = .ok (.astore_n 2, 1) := dk_77 (dk_at dksJ18_toString_0 12 rfl rfl)
theorem dJ18_toString_13 : decode cJ18_toString 13 = .ok (.aload_n 2, 1) := dk_44 (dk_at dksJ18_toString_0 13 rfl rfl)
theorem dJ18_toString_14 : decode cJ18_toString 14 = .ok (.ifnull 29, 3) := dk_198 0 29 (dk_at dksJ18_toString_0 14 rfl rfl)
theorem dJ18_toString_17 : decode cJ18_toString 17 = .ok (.new 44, 3) := dk_187 0 44 (dk_at dksJ18_toString_0 17 rfl rfl)
theorem dJ18_toString_20 : decode cJ18_toString 20 = .ok (.dup, 1) := dk_89 (dk_at dksJ18_toString_0 20 rfl rfl)
theorem dJ18_toString_21 : decode cJ18_toString 21 = .ok (.invokespecial 46, 3) := dk_183 0 46 (dk_at dksJ18_toString_0 21 rfl rfl)
theorem dJ18_toString_24 : decode cJ18_toString 24 = .ok (.aload_n 1, 1) := dk_43 (dk_at dksJ18_toString_1 0 rfl rfl)
theorem dJ18_toString_25 : decode cJ18_toString 25 = .ok (.invokevirtual 49, 3) := dk_182 0 49 (dk_at dksJ18_toString_1 1 rfl rfl)
theorem dJ18_toString_28 : decode cJ18_toString 28 = .ok (.ldc 81, 2) := dk_18 81 (dk_at dksJ18_toString_1 4 rfl rfl)
theorem dJ18_toString_30 : decode cJ18_toString 30 = .ok (.invokevirtual 49, 3) := dk_182 0 49 (dk_at dksJ18_toString_1 6 rfl rfl)
theorem dJ18_toString_33 : decode cJ18_toString 33 = .ok (.aload_n 2, 1) := dk_44 (dk_at dksJ18_toString_1 9 rfl rfl)
theorem dJ18_toString_34 : decode cJ18_toString 34 = .ok (.invokevirtual 49, 3) := dk_182 0 49 (dk_at dksJ18_toString_1 10 rfl rfl)
theorem dJ18_toString_37 : decode cJ18_toString 37 = .ok (.invokevirtual 60, 3) := dk_182 0 60 (dk_at dksJ18_toString_1 13 rfl rfl)
theorem dJ18_toString_40 : decode cJ18_toString 40 = .ok (.goto 4, 3) := dk_167 0 4 (dk_at dksJ18_toString_1 16 rfl rfl)
theorem dJ18_toString_43 : decode cJ18_toString 43 = .ok (.aload_n 1, 1) := dk_43 (dk_at dksJ18_toString_1 19 rfl rfl)
theorem dJ18_toString_44 : decode cJ18_toString 44 = .ok (.areturn, 1) := dk_176 (dk_at dksJ18_toString_1 20 rfl rfl)
abbrev cJ18_getLocalizedMessage : ByteArray := prog_40_method_7_code
def yJ18_getLocalizedMessage : MethodName := ⟨RJ18, "getLocalizedMessage", "()Ljava/lang/String;"⟩
theorem dJ18_getLocalizedMessage_0 : decode cJ18_getLocalizedMessage 0 = .ok (.aload_n 0, 1) := by decide +kernel
theorem dJ18_getLocalizedMessage_1 : decode cJ18_getLocalizedMessage 1 = .ok (.invokevirtual 39, 3) := by decide +kernel
theorem dJ18_getLocalizedMessage_4 : decode cJ18_getLocalizedMessage 4 = .ok (.areturn, 1) := by decide +kernel
abbrev cJ18_getMessage : ByteArray := prog_40_method_6_code
def yJ18_getMessage : MethodName := ⟨RJ18, "getMessage", "()Ljava/lang/String;"⟩
theorem dJ18_getMessage_0 : decode cJ18_getMessage 0 = .ok (.aload_n 0, 1) := by decide +kernel
theorem dJ18_getMessage_1 : decode cJ18_getMessage 1 = .ok (.getfield 31, 3) := by decide +kernel
theorem dJ18_getMessage_4 : decode cJ18_getMessage 4 = .ok (.areturn, 1) := by decide +kernel
abbrev cJ18_init_3 : ByteArray := prog_40_method_5_code
def yJ18_init_3 : MethodName := ⟨RJ18, "<init>", "(Ljava/lang/String;Ljava/lang/Throwable;ZZ)V"⟩
def dkwJ18_init_3_2 : List UInt8 := [44, 181, 0, 7, 29, 154, 0, 8, 42, 1, 181, 0, 24, 177]
abbrev dktJ18_init_3_2 : List UInt8 := dkwJ18_init_3_2 ++ []
def dkwJ18_init_3_1 : List UInt8 := [21, 4, 153, 0, 11, 42, 182, 0, 27, 87, 167, 0, 8, 42, 1, 181, 0, 17, 42, 43, 181, 0, 31, 42]
abbrev dktJ18_init_3_1 : List UInt8 := dkwJ18_init_3_1 ++ dktJ18_init_3_2
def dkwJ18_init_3_0 : List UInt8 := [42, 183, 0, 1, 42, 42, 181, 0, 7, 42, 178, 0, 13, 181, 0, 17, 42, 178, 0, 20, 181, 0, 24]
abbrev dktJ18_init_3_0 : List UInt8 := dkwJ18_init_3_0 ++ dktJ18_init_3_1
theorem dksJ18_init_3_0 : cJ18_init_3.data.toList.drop 0 = dktJ18_init_3_0 := by decide +kernel
theorem dksJ18_init_3_1 : cJ18_init_3.data.toList.drop 23 = dktJ18_init_3_1 := dk_seg dksJ18_init_3_0 23 rfl rfl
theorem dksJ18_init_3_2 : cJ18_init_3.data.toList.drop 47 = dktJ18_init_3_2 := dk_seg dksJ18_init_3_1 24 rfl rfl
theorem dJ18_init_3_0 : decode cJ18_init_3 0 = .ok (.aload_n 0, 1) := dk_42 (dk_at dksJ18_init_3_0 0 rfl rfl)
theorem dJ18_init_3_1 : decode cJ18_init_3 1 = .ok (.invokespecial 1, 3) := dk_183 0 1 (dk_at dksJ18_init_3_0 1 rfl rfl)
theorem dJ18_init_3_4 : decode cJ18_init_3 4 = .ok (.aload_n 0, 1) := dk_42 (dk_at dksJ18_init_3_0 4 rfl rfl)
theorem dJ18_init_3_5 : decode cJ18_init_3 5 = .ok (.aload_n 0, 1) := dk_42 (dk_at dksJ18_init_3_0 5 rfl rfl)
theorem dJ18_init_3_6 : decode cJ18_init_3 6 = .ok (.putfield 7, 3) := dk_181 0 7 (dk_at dksJ18_init_3_0 6 rfl rfl)
theorem dJ18_init_3_9 : decode cJ18_init_3 9 = .ok (.aload_n 0, 1) := dk_42 (dk_at dksJ18_init_3_0 9 rfl rfl)
theorem dJ18_init_3_10 : decode cJ18_init_3 10 = .ok (.getstatic 13, 3) := dk_178 0 13 (dk_at dksJ18_init_3_0 10 rfl rfl)
theorem dJ18_init_3_13 : decode cJ18_init_3 13 = .ok (.putfield 17, 3) := dk_181 0 17 (dk_at dksJ18_init_3_0 13 rfl rfl)
theorem dJ18_init_3_16 : decode cJ18_init_3 16 = .ok (.aload_n 0, 1) := dk_42 (dk_at dksJ18_init_3_0 16 rfl rfl)
theorem dJ18_init_3_17 : decode cJ18_init_3 17 = .ok (.getstatic 20, 3) := dk_178 0 20 (dk_at dksJ18_init_3_0 17 rfl rfl)
theorem dJ18_init_3_20 : decode cJ18_init_3 20 = .ok (.putfield 24, 3) := dk_181 0 24 (dk_at dksJ18_init_3_0 20 rfl rfl)
theorem dJ18_init_3_23 : decode cJ18_init_3 23 = .ok (.iload 4, 2) := dk_21 4 (dk_at dksJ18_init_3_1 0 rfl rfl)
theorem dJ18_init_3_25 : decode cJ18_init_3 25 = .ok (.ifCond .eq 11, 3) := dk_153 0 11 (dk_at dksJ18_init_3_1 2 rfl rfl)
theorem dJ18_init_3_28 : decode cJ18_init_3 28 = .ok (.aload_n 0, 1) := dk_42 (dk_at dksJ18_init_3_1 5 rfl rfl)
theorem dJ18_init_3_29 : decode cJ18_init_3 29 = .ok (.invokevirtual 27, 3) := dk_182 0 27 (dk_at dksJ18_init_3_1 6 rfl rfl)
theorem dJ18_init_3_32 : decode cJ18_init_3 32 = .ok (.pop, 1) := dk_87 (dk_at dksJ18_init_3_1 9 rfl rfl)
theorem dJ18_init_3_33 : decode cJ18_init_3 33 = .ok (.goto 8, 3) := dk_167 0 8 (dk_at dksJ18_init_3_1 10 rfl rfl)
theorem dJ18_init_3_36 : decode cJ18_init_3 36 = .ok (.aload_n 0, 1) := dk_42 (dk_at dksJ18_init_3_1 13 rfl rfl)
theorem dJ18_init_3_37 : decode cJ18_init_3 37 = .ok (.aconst_null, 1) := dk_1 (dk_at dksJ18_init_3_1 14 rfl rfl)
theorem dJ18_init_3_38 : decode cJ18_init_3 38 = .ok (.putfield 17, 3) := dk_181 0 17 (dk_at dksJ18_init_3_1 15 rfl rfl)
theorem dJ18_init_3_41 : decode cJ18_init_3 41 = .ok (.aload_n 0, 1) := dk_42 (dk_at dksJ18_init_3_1 18 rfl rfl)
theorem dJ18_init_3_42 : decode cJ18_init_3 42 = .ok (.aload_n 1, 1) := dk_43 (dk_at dksJ18_init_3_1 19 rfl rfl)
theorem dJ18_init_3_43 : decode cJ18_init_3 43 = .ok (.putfield 31, 3) := dk_181 0 31 (dk_at dksJ18_init_3_1 20 rfl rfl)
theorem dJ18_init_3_46 : decode cJ18_init_3 46 = .ok (.aload_n 0, 1) := dk_42 (dk_at dksJ18_init_3_1 23 rfl rfl)
theorem dJ18_init_3_47 : decode cJ18_init_3 47 = .ok (.aload_n 2, 1) := dk_44 (dk_at dksJ18_init_3_2 0 rfl rfl)
theorem dJ18_init_3_48 : decode cJ18_init_3 48 = .ok (.putfield 7, 3) := dk_181 0 7 (dk_at dksJ18_init_3_2 1 rfl rfl)
theorem dJ18_init_3_51 : decode cJ18_init_3 51 = .ok (.iload_n 3, 1) := dk_29 (dk_at dksJ18_init_3_2 4 rfl rfl)
theorem dJ18_init_3_52 : decode cJ18_init_3 52 = .ok (.ifCond .ne 8, 3) := dk_154 0 8 (dk_at dksJ18_init_3_2 5 rfl rfl)
theorem dJ18_init_3_55 : decode cJ18_init_3 55 = .ok (.aload_n 0, 1) := dk_42 (dk_at dksJ18_init_3_2 8 rfl rfl)
theorem dJ18_init_3_56 : decode cJ18_init_3 56 = .ok (.aconst_null, 1) := dk_1 (dk_at dksJ18_init_3_2 9 rfl rfl)
theorem dJ18_init_3_57 : decode cJ18_init_3 57 = .ok (.putfield 24, 3) := dk_181 0 24 (dk_at dksJ18_init_3_2 10 rfl rfl)
theorem dJ18_init_3_60 : decode cJ18_init_3 60 = .ok (.return_, 1) := dk_177 (dk_at dksJ18_init_3_2 13 rfl rfl)
theorem q119 : (Jvm.Cond.initialized "java/lang/Throwable") ∈ lw_all := lw_g (lw_at lw_m1 26 rfl) rfl
theorem q614 : (Jvm.Cond.declares ({ cls := "java/lang/Throwable", name := "<init>", desc := "()V" } : Jvm.MethodName)) ∈ lw_tbl := lw_at lw_m3 41 rfl
theorem q615 : (Jvm.Cond.declares ({ cls := "java/lang/Throwable", name := "<init>", desc := "(Ljava/lang/String;)V" } : Jvm.MethodName)) ∈ lw_tbl := lw_at lw_m3 42 rfl
theorem q619 : (Jvm.Cond.lays "java/lang/Throwable" "java/lang/Throwable" "cause" "Ljava/lang/Throwable;") ∈ lw_all := lw_g (lw_at lw_m3 46 rfl) rfl
theorem q621 : (Jvm.Cond.lays "java/lang/Throwable" "java/lang/Throwable" "stackTrace" "[Ljava/lang/StackTraceElement;") ∈ lw_all := lw_g (lw_at lw_m3 48 rfl) rfl
theorem q623 : (Jvm.Cond.lays "java/lang/Throwable" "java/lang/Throwable" "suppressedExceptions" "Ljava/util/List;") ∈ lw_all := lw_g (lw_at lw_m3 50 rfl) rfl
theorem q625 : (Jvm.Cond.lays "java/lang/Throwable" "java/lang/Throwable" "detailMessage" "Ljava/lang/String;") ∈ lw_all := lw_g (lw_at lw_m3 52 rfl) rfl
theorem q627 : (Jvm.Cond.lays "java/lang/Throwable" "java/lang/Throwable" "backtrace" "Ljava/lang/Object;") ∈ lw_all := lw_g (lw_at lw_m3 54 rfl) rfl
theorem q628 : (Jvm.Cond.fieldLink "java/lang/Throwable" (198 : Nat) "java/lang/Throwable" "backtrace" "Ljava/lang/Object;") ∈ lw_all := lw_g (lw_at lw_m3 55 rfl) rfl
theorem q629 : (Jvm.Cond.superclass "java/lang/Throwable" "java/lang/Object") ∈ lw_all := lw_g (lw_at lw_m3 56 rfl) rfl
theorem q630 : (Jvm.Cond.instanceMethod ({ cls := "java/lang/Throwable", name := "<init>", desc := "()V" } : Jvm.MethodName)) ∈ lw_all := lw_g (lw_at lw_m3 57 rfl) rfl
theorem q631 : (Jvm.Cond.code ({ cls := "java/lang/Throwable", name := "<init>", desc := "()V" } : Jvm.MethodName) prog_40_method_1_code (1 : Nat) (Option.none : Option Jvm.ClassFile.FieldType)) ∈ lw_all := lw_g (lw_at lw_m3 58 rfl) rfl
theorem q632 : (Jvm.Cond.methodLink "java/lang/Throwable" (1 : Nat) ({ cls := "java/lang/Object", name := "<init>", desc := "()V" } : Jvm.MethodName)) ∈ lw_all := lw_g (lw_at lw_m3 59 rfl) rfl
theorem q633 : (Jvm.Cond.fieldLink "java/lang/Throwable" (13 : Nat) "java/lang/Throwable" "UNASSIGNED_STACK" "[Ljava/lang/StackTraceElement;") ∈ lw_all := lw_g (lw_at lw_m3 60 rfl) rfl
theorem q634 : (Jvm.Cond.laysStatic "java/lang/Throwable" "UNASSIGNED_STACK" "[Ljava/lang/StackTraceElement;") ∈ lw_tbl := lw_at lw_m3 61 rfl
theorem q635 : (Jvm.Cond.fieldLink "java/lang/Throwable" (20 : Nat) "java/lang/Throwable" "SUPPRESSED_SENTINEL" "Ljava/util/List;") ∈ lw_all := lw_g (lw_at lw_m3 62 rfl) rfl
theorem q636 : (Jvm.Cond.laysStatic "java/lang/Throwable" "SUPPRESSED_SENTINEL" "Ljava/util/List;") ∈ lw_tbl := lw_at lw_m3 63 rfl
theorem q637 : (Jvm.Cond.methodLink "java/lang/Throwable" (27 : Nat) ({ cls := "java/lang/Throwable", name := "fillInStackTrace", desc := "()Ljava/lang/Throwable;" } : Jvm.MethodName)) ∈ lw_all := lw_g (lw_at lw_m3 64 rfl) rfl
theorem q638 : (Jvm.Cond.instanceMethod ({ cls := "java/lang/Throwable", name := "fillInStackTrace", desc := "()Ljava/lang/Throwable;" } : Jvm.MethodName)) ∈ lw_all := lw_g (lw_at lw_m3 65 rfl) rfl
theorem q639 : (Jvm.Cond.sameMethod "java/lang/Throwable" "java/lang/Throwable" "fillInStackTrace" "()Ljava/lang/Throwable;") ∈ lw_all := lw_g (lw_at lw_m3 66 rfl) rfl
theorem q642 : (Jvm.Cond.codeSync ({ cls := "java/lang/Throwable", name := "fillInStackTrace", desc := "()Ljava/lang/Throwable;" } : Jvm.MethodName) prog_40_method_18_code (1 : Nat) (Option.some (Jvm.ClassFile.FieldType.object "java/lang/Throwable"))) ∈ lw_all := lw_g (lw_at lw_m3 69 rfl) rfl
theorem q643 : (Jvm.Cond.methodLink "java/lang/Throwable" (202 : Nat) ({ cls := "java/lang/Throwable", name := "fillInStackTrace", desc := "(I)Ljava/lang/Throwable;" } : Jvm.MethodName)) ∈ lw_all := lw_g (lw_at lw_m3 70 rfl) rfl
theorem q644 : (Jvm.Cond.privateMethod ({ cls := "java/lang/Throwable", name := "fillInStackTrace", desc := "(I)Ljava/lang/Throwable;" } : Jvm.MethodName)) ∈ lw_tbl := lw_at lw_m3 71 rfl
theorem q645 : (Jvm.Cond.instanceMethod ({ cls := "java/lang/Throwable", name := "fillInStackTrace", desc := "(I)Ljava/lang/Throwable;" } : Jvm.MethodName)) ∈ lw_all := lw_g (lw_at lw_m3 72 rfl) rfl
theorem q646 : (Jvm.Cond.instantiable "java/lang/Throwable" (6 : Nat)) ∈ lw_all := lw_g (lw_at lw_m3 73 rfl) rfl
theorem q647 : (Jvm.Cond.native ({ cls := "java/lang/Throwable", name := "fillInStackTrace", desc := "(I)Ljava/lang/Throwable;" } : Jvm.MethodName)) ∈ lw_all := lw_g (lw_at lw_m3 74 rfl) rfl
theorem q658 : (Jvm.Cond.instanceMethod ({ cls := "java/lang/Throwable", name := "<init>", desc := "(Ljava/lang/Throwable;)V" } : Jvm.MethodName)) ∈ lw_all := lw_g (lw_at lw_m3 85 rfl) rfl
theorem q659 : (Jvm.Cond.code ({ cls := "java/lang/Throwable", name := "<init>", desc := "(Ljava/lang/Throwable;)V" } : Jvm.MethodName) prog_40_method_4_code (2 : Nat) (Option.none : Option Jvm.ClassFile.FieldType)) ∈ lw_all := lw_g (lw_at lw_m3 86 rfl) rfl
theorem q660 : (Jvm.Cond.methodLink "java/lang/Throwable" (35 : Nat) ({ cls := "java/lang/Throwable", name := "toString", desc := "()Ljava/lang/String;" } : Jvm.MethodName)) ∈ lw_all := lw_g (lw_at lw_m3 87 rfl) rfl
theorem q661 : (Jvm.Cond.instanceMethod ({ cls := "java/lang/Throwable", name := "toString", desc := "()Ljava/lang/String;" } : Jvm.MethodName)) ∈ lw_all := lw_g (lw_at lw_m3 88 rfl) rfl
theorem q662 : (Jvm.Cond.sameMethod "java/lang/Throwable" "java/lang/Throwable" "toString" "()Ljava/lang/String;") ∈ lw_all := lw_g (lw_at lw_m3 89 rfl) rfl
theorem q666 : (Jvm.Cond.code ({ cls := "java/lang/Throwable", name := "toString", desc := "()Ljava/lang/String;" } : Jvm.MethodName) prog_40_method_11_code (3 : Nat) (Option.some (Jvm.ClassFile.FieldType.object "java/lang/String"))) ∈ lw_all := lw_g (lw_at lw_m3 93 rfl) rfl
theorem q667 : (Jvm.Cond.methodLink "java/lang/Throwable" (69 : Nat) ({ cls := "java/lang/Object", name := "getClass", desc := "()Ljava/lang/Class;" } : Jvm.MethodName)) ∈ lw_all := lw_g (lw_at lw_m3 94 rfl) rfl
theorem q701 : (Jvm.Cond.methodLink "java/lang/Throwable" (78 : Nat) ({ cls := "java/lang/Throwable", name := "getLocalizedMessage", desc := "()Ljava/lang/String;" } : Jvm.MethodName)) ∈ lw_all := lw_g (lw_at lw_m3 128 rfl) rfl
theorem q702 : (Jvm.Cond.instanceMethod ({ cls := "java/lang/Throwable", name := "getLocalizedMessage", desc := "()Ljava/lang/String;" } : Jvm.MethodName)) ∈ lw_all := lw_g (lw_at lw_m3 129 rfl) rfl
theorem q703 : (Jvm.Cond.sameMethod "java/lang/Throwable" "java/lang/Throwable" "getLocalizedMessage" "()Ljava/lang/String;") ∈ lw_all := lw_g (lw_at lw_m3 130 rfl) rfl
theorem q707 : (Jvm.Cond.code ({ cls := "java/lang/Throwable", name := "getLocalizedMessage", desc := "()Ljava/lang/String;" } : Jvm.MethodName) prog_40_method_7_code (1 : Nat) (Option.some (Jvm.ClassFile.FieldType.object "java/lang/String"))) ∈ lw_all := lw_g (lw_at lw_m3 134 rfl) rfl
theorem q708 : (Jvm.Cond.methodLink "java/lang/Throwable" (39 : Nat) ({ cls := "java/lang/Throwable", name := "getMessage", desc := "()Ljava/lang/String;" } : Jvm.MethodName)) ∈ lw_all := lw_g (lw_at lw_m3 135 rfl) rfl
theorem q709 : (Jvm.Cond.instanceMethod ({ cls := "java/lang/Throwable", name := "getMessage", desc := "()Ljava/lang/String;" } : Jvm.MethodName)) ∈ lw_all := lw_g (lw_at lw_m3 136 rfl) rfl
theorem q710 : (Jvm.Cond.sameMethod "java/lang/Throwable" "java/lang/Throwable" "getMessage" "()Ljava/lang/String;") ∈ lw_all := lw_g (lw_at lw_m3 137 rfl) rfl
theorem q714 : (Jvm.Cond.code ({ cls := "java/lang/Throwable", name := "getMessage", desc := "()Ljava/lang/String;" } : Jvm.MethodName) prog_40_method_6_code (1 : Nat) (Option.some (Jvm.ClassFile.FieldType.object "java/lang/String"))) ∈ lw_all := lw_g (lw_at lw_m3 141 rfl) rfl
theorem q715 : (Jvm.Cond.classLink "java/lang/Throwable" (44 : Nat) "java/lang/StringBuilder") ∈ lw_all := lw_g (lw_at lw_m3 142 rfl) rfl
theorem q716 : (Jvm.Cond.methodLink "java/lang/Throwable" (46 : Nat) ({ cls := "java/lang/StringBuilder", name := "<init>", desc := "()V" } : Jvm.MethodName)) ∈ lw_all := lw_g (lw_at lw_m3 143 rfl) rfl
theorem q717 : (Jvm.Cond.methodLink "java/lang/Throwable" (49 : Nat) ({ cls := "java/lang/StringBuilder", name := "append", desc := "(Ljava/lang/String;)Ljava/lang/StringBuilder;" } : Jvm.MethodName)) ∈ lw_all := lw_g (lw_at lw_m3 144 rfl) rfl
theorem q827 : (Jvm.Cond.stringRef "java/lang/Throwable" (81 : Nat) ": ") ∈ lw_tbl := lw_at lw_m4 14 rfl
theorem q828 : (Jvm.Cond.methodLink "java/lang/Throwable" (60 : Nat) ({ cls := "java/lang/StringBuilder", name := "toString", desc := "()Ljava/lang/String;" } : Jvm.MethodName)) ∈ lw_all := lw_g (lw_at lw_m4 15 rfl) rfl
theorem q890 : (Jvm.Cond.fieldLink "java/lang/Throwable" (198 : Nat) "java/lang/Throwable" "backtrace" "Ljava/lang/Object;") ∈ lw_all := lw_g (lw_at lw_m4 77 rfl) rfl
theorem q891 : (Jvm.Cond.fieldLink "java/lang/Throwable" (31 : Nat) "java/lang/Throwable" "detailMessage" "Ljava/lang/String;") ∈ lw_all := lw_g (lw_at lw_m4 78 rfl) rfl
theorem q892 : (Jvm.Cond.fieldLink "java/lang/Throwable" (7 : Nat) "java/lang/Throwable" "cause" "Ljava/lang/Throwable;") ∈ lw_all := lw_g (lw_at lw_m4 79 rfl) rfl
theorem q893 : (Jvm.Cond.fieldLink "java/lang/Throwable" (17 : Nat) "java/lang/Throwable" "stackTrace" "[Ljava/lang/StackTraceElement;") ∈ lw_all := lw_g (lw_at lw_m4 80 rfl) rfl
theorem q894 : (Jvm.Cond.fieldLink "java/lang/Throwable" (24 : Nat) "java/lang/Throwable" "suppressedExceptions" "Ljava/util/List;") ∈ lw_all := lw_g (lw_at lw_m4 81 rfl) rfl
theorem q895 : (Jvm.Cond.soleField "java/lang/Throwable" "backtrace") ∈ lw_all := lw_g (lw_at lw_m4 82 rfl) rfl
theorem q896 : (Jvm.Cond.soleField "java/lang/Throwable" "detailMessage") ∈ lw_all := lw_g (lw_at lw_m4 83 rfl) rfl
theorem q897 : (Jvm.Cond.soleField "java/lang/Throwable" "cause") ∈ lw_all := lw_g (lw_at lw_m4 84 rfl) rfl
theorem q898 : (Jvm.Cond.soleField "java/lang/Throwable" "stackTrace") ∈ lw_all := lw_g (lw_at lw_m4 85 rfl) rfl
theorem q900 : (Jvm.Cond.soleField "java/lang/Throwable" "depth") ∈ lw_all := lw_g (lw_at lw_m4 87 rfl) rfl
theorem q901 : (Jvm.Cond.soleField "java/lang/Throwable" "suppressedExceptions") ∈ lw_all := lw_g (lw_at lw_m4 88 rfl) rfl
theorem q1120 : (Jvm.Cond.instanceMethod ({ cls := "java/lang/Throwable", name := "<init>", desc := "(Ljava/lang/String;Ljava/lang/Throwable;ZZ)V" } : Jvm.MethodName)) ∈ lw_all := lw_g (lw_at lw_m5 67 rfl) rfl
theorem q1121 : (Jvm.Cond.code ({ cls := "java/lang/Throwable", name := "<init>", desc := "(Ljava/lang/String;Ljava/lang/Throwable;ZZ)V" } : Jvm.MethodName) prog_40_method_5_code (5 : Nat) (Option.none : Option Jvm.ClassFile.FieldType)) ∈ lw_all := lw_g (lw_at lw_m5 68 rfl) rfl
theorem q2583 : (Jvm.Cond.sameMethod "java/lang/Throwable" "java/lang/Throwable" "fillInStackTrace" "(I)Ljava/lang/Throwable;") ∈ lw_all := lw_g (lw_at lw_m11 90 rfl) rfl
theorem q2633 : (Jvm.Cond.castable "java/lang/Throwable" "java/lang/Object") ∈ lw_tbl := lw_at lw_m11 140 rfl
theorem in_J18 : ∀ w ∈ wsJ180, w ∈ lw_all := lw_in wsJ180 [619, 621, 623, 625, 627] (by decide +kernel) (by decide +kernel)
/-! java/lang/Exception -/
set_option maxRecDepth 100000
def RJ19 : String := "java/lang/Exception"
abbrev cJ19_init : ByteArray := prog_27_method_4_code
def yJ19_init : MethodName := ⟨RJ19, "<init>", "(Ljava/lang/Throwable;)V"⟩
def dkwJ19_init_0 : List UInt8 := [42, 43, 183, 0, 13, 177]
abbrev dktJ19_init_0 : List UInt8 := dkwJ19_init_0 ++ []
theorem dksJ19_init_0 : cJ19_init.data.toList.drop 0 = dktJ19_init_0 := by decide +kernel
theorem dJ19_init_0 : decode cJ19_init 0 = .ok (.aload_n 0, 1) := dk_42 (dk_at dksJ19_init_0 0 rfl rfl)
theorem dJ19_init_1 : decode cJ19_init 1 = .ok (.aload_n 1, 1) := dk_43 (dk_at dksJ19_init_0 1 rfl rfl)
theorem dJ19_init_2 : decode cJ19_init 2 = .ok (.invokespecial 13, 3) := dk_183 0 13 (dk_at dksJ19_init_0 2 rfl rfl)
theorem dJ19_init_5 : decode cJ19_init 5 = .ok (.return_, 1) := dk_177 (dk_at dksJ19_init_0 5 rfl rfl)
abbrev cJ19_init_2 : ByteArray := prog_27_method_5_code
def yJ19_init_2 : MethodName := ⟨RJ19, "<init>", "(Ljava/lang/String;Ljava/lang/Throwable;ZZ)V"⟩
def dkwJ19_init_2_0 : List UInt8 := [42, 43, 44, 29, 21, 4, 183, 0, 16, 177]
abbrev dktJ19_init_2_0 : List UInt8 := dkwJ19_init_2_0 ++ []
theorem dksJ19_init_2_0 : cJ19_init_2.data.toList.drop 0 = dktJ19_init_2_0 := by decide +kernel
theorem dJ19_init_2_0 : decode cJ19_init_2 0 = .ok (.aload_n 0, 1) := dk_42 (dk_at dksJ19_init_2_0 0 rfl rfl)
theorem dJ19_init_2_1 : decode cJ19_init_2 1 = .ok (.aload_n 1, 1) := dk_43 (dk_at dksJ19_init_2_0 1 rfl rfl)
theorem dJ19_init_2_2 : decode cJ19_init_2 2 = .ok (.aload_n 2, 1) := dk_44 (dk_at dksJ19_init_2_0 2 rfl rfl)
theorem dJ19_init_2_3 : decode cJ19_init_2 3 = .ok (.iload_n 3, 1) := dk_29 (dk_at dksJ19_init_2_0 3 rfl rfl)
theorem dJ19_init_2_4 : decode cJ19_init_2 4 = .ok (.iload 4, 2) := dk_21 4 (dk_at dksJ19_init_2_0 4 rfl rfl)
theorem dJ19_init_2_6 : decode cJ19_init_2 6 = .ok (.invokespecial 16, 3) := dk_183 0 16 (dk_at dksJ19_init_2_0 6 rfl rfl)
theorem dJ19_init_2_9 : decode cJ19_init_2 9 = .ok (.return_, 1) := dk_177 (dk_at dksJ19_init_2_0 9 rfl rfl)
theorem q120 : (Jvm.Cond.initialized "java/lang/Exception") ∈ lw_all := lw_g (lw_at lw_m1 27 rfl) rfl
theorem q612 : (Jvm.Cond.declares ({ cls := "java/lang/Exception", name := "<init>", desc := "()V" } : Jvm.MethodName)) ∈ lw_tbl := lw_at lw_m3 39 rfl
theorem q613 : (Jvm.Cond.declares ({ cls := "java/lang/Exception", name := "<init>", desc := "(Ljava/lang/String;)V" } : Jvm.MethodName)) ∈ lw_tbl := lw_at lw_m3 40 rfl
theorem q655 : (Jvm.Cond.instanceMethod ({ cls := "java/lang/Exception", name := "<init>", desc := "(Ljava/lang/Throwable;)V" } : Jvm.MethodName)) ∈ lw_all := lw_g (lw_at lw_m3 82 rfl) rfl
theorem q656 : (Jvm.Cond.code ({ cls := "java/lang/Exception", name := "<init>", desc := "(Ljava/lang/Throwable;)V" } : Jvm.MethodName) prog_27_method_4_code (2 : Nat) (Option.none : Option Jvm.ClassFile.FieldType)) ∈ lw_all := lw_g (lw_at lw_m3 83 rfl) rfl
theorem q657 : (Jvm.Cond.methodLink "java/lang/Exception" (13 : Nat) ({ cls := "java/lang/Throwable", name := "<init>", desc := "(Ljava/lang/Throwable;)V" } : Jvm.MethodName)) ∈ lw_all := lw_g (lw_at lw_m3 84 rfl) rfl
theorem q1117 : (Jvm.Cond.instanceMethod ({ cls := "java/lang/Exception", name := "<init>", desc := "(Ljava/lang/String;Ljava/lang/Throwable;ZZ)V" } : Jvm.MethodName)) ∈ lw_all := lw_g (lw_at lw_m5 64 rfl) rfl
theorem q1118 : (Jvm.Cond.code ({ cls := "java/lang/Exception", name := "<init>", desc := "(Ljava/lang/String;Ljava/lang/Throwable;ZZ)V" } : Jvm.MethodName) prog_27_method_5_code (5 : Nat) (Option.none : Option Jvm.ClassFile.FieldType)) ∈ lw_all := lw_g (lw_at lw_m5 65 rfl) rfl
theorem q1119 : (Jvm.Cond.methodLink "java/lang/Exception" (16 : Nat) ({ cls := "java/lang/Throwable", name := "<init>", desc := "(Ljava/lang/String;Ljava/lang/Throwable;ZZ)V" } : Jvm.MethodName)) ∈ lw_all := lw_g (lw_at lw_m5 66 rfl) rfl
/-! java/lang/RuntimeException -/
set_option maxRecDepth 100000
def RJ20 : String := "java/lang/RuntimeException"
abbrev cJ20_init : ByteArray := prog_33_method_4_code
def yJ20_init : MethodName := ⟨RJ20, "<init>", "(Ljava/lang/Throwable;)V"⟩
def dkwJ20_init_0 : List UInt8 := [42, 43, 183, 0, 13, 177]
abbrev dktJ20_init_0 : List UInt8 := dkwJ20_init_0 ++ []
theorem dksJ20_init_0 : cJ20_init.data.toList.drop 0 = dktJ20_init_0 := by decide +kernel
theorem dJ20_init_0 : decode cJ20_init 0 = .ok (.aload_n 0, 1) := dk_42 (dk_at dksJ20_init_0 0 rfl rfl)
theorem dJ20_init_1 : decode cJ20_init 1 = .ok (.aload_n 1, 1) := dk_43 (dk_at dksJ20_init_0 1 rfl rfl)
theorem dJ20_init_2 : decode cJ20_init 2 = .ok (.invokespecial 13, 3) := dk_183 0 13 (dk_at dksJ20_init_0 2 rfl rfl)
theorem dJ20_init_5 : decode cJ20_init 5 = .ok (.return_, 1) := dk_177 (dk_at dksJ20_init_0 5 rfl rfl)
theorem q121 : (Jvm.Cond.initialized "java/lang/RuntimeException") ∈ lw_all := lw_g (lw_at lw_m1 28 rfl) rfl
theorem q610 : (Jvm.Cond.declares ({ cls := "java/lang/RuntimeException", name := "<init>", desc := "()V" } : Jvm.MethodName)) ∈ lw_tbl := lw_at lw_m3 37 rfl
theorem q611 : (Jvm.Cond.declares ({ cls := "java/lang/RuntimeException", name := "<init>", desc := "(Ljava/lang/String;)V" } : Jvm.MethodName)) ∈ lw_tbl := lw_at lw_m3 38 rfl
theorem q652 : (Jvm.Cond.instanceMethod ({ cls := "java/lang/RuntimeException", name := "<init>", desc := "(Ljava/lang/Throwable;)V" } : Jvm.MethodName)) ∈ lw_all := lw_g (lw_at lw_m3 79 rfl) rfl
theorem q653 : (Jvm.Cond.code ({ cls := "java/lang/RuntimeException", name := "<init>", desc := "(Ljava/lang/Throwable;)V" } : Jvm.MethodName) prog_33_method_4_code (2 : Nat) (Option.none : Option Jvm.ClassFile.FieldType)) ∈ lw_all := lw_g (lw_at lw_m3 80 rfl) rfl
theorem q654 : (Jvm.Cond.methodLink "java/lang/RuntimeException" (13 : Nat) ({ cls := "java/lang/Exception", name := "<init>", desc := "(Ljava/lang/Throwable;)V" } : Jvm.MethodName)) ∈ lw_all := lw_g (lw_at lw_m3 81 rfl) rfl
/-! java/util/NoSuchElementException -/
set_option maxRecDepth 100000
def RJ21 : String := "java/util/NoSuchElementException"
def TJ21 : u_T := fun k => match k with
  | 0 => ("java/lang/Throwable", "cause", "Ljava/lang/Throwable;", false)
  | 1 => ("java/lang/Throwable", "stackTrace", "[Ljava/lang/StackTraceElement;", false)
  | 2 => ("java/lang/Throwable", "suppressedExceptions", "Ljava/util/List;", false)
  | 3 => ("java/lang/Throwable", "detailMessage", "Ljava/lang/String;", false)
  | 4 => ("java/lang/Throwable", "backtrace", "Ljava/lang/Object;", false)
  | _ => ("java/lang/Throwable", "depth", "I", false)
def tyJ21 : Nat → FieldType := fun k => match k with
  | 0 => .object "java/lang/Throwable"
  | 1 => .array (.object "java/lang/StackTraceElement")
  | 2 => .object "java/util/List"
  | 3 => .object "java/lang/String"
  | 4 => .object "java/lang/Object"
  | _ => .int
abbrev wsJ210 : List Cond := u_ws RJ21 TJ21 6
theorem nmJ21 : ∀ a, a < 6 → ∀ b, b < 6 → a ≠ b → (TJ21 a).2.1 ≠ (TJ21 b).2.1 := by decide +kernel
theorem tyJ21_ok : ∀ k, k < 6 → parseFieldDescriptor (TJ21 k).2.2.1 = some (tyJ21 k) := by decide +kernel
abbrev cJ21_init : ByteArray := prog_63_method_3_code
def yJ21_init : MethodName := ⟨RJ21, "<init>", "(Ljava/lang/Throwable;)V"⟩
def dkwJ21_init_0 : List UInt8 := [42, 43, 183, 0, 10, 177]
abbrev dktJ21_init_0 : List UInt8 := dkwJ21_init_0 ++ []
theorem dksJ21_init_0 : cJ21_init.data.toList.drop 0 = dktJ21_init_0 := by decide +kernel
theorem dJ21_init_0 : decode cJ21_init 0 = .ok (.aload_n 0, 1) := dk_42 (dk_at dksJ21_init_0 0 rfl rfl)
theorem dJ21_init_1 : decode cJ21_init 1 = .ok (.aload_n 1, 1) := dk_43 (dk_at dksJ21_init_0 1 rfl rfl)
theorem dJ21_init_2 : decode cJ21_init 2 = .ok (.invokespecial 10, 3) := dk_183 0 10 (dk_at dksJ21_init_0 2 rfl rfl)
theorem dJ21_init_5 : decode cJ21_init 5 = .ok (.return_, 1) := dk_177 (dk_at dksJ21_init_0 5 rfl rfl)
theorem q122 : (Jvm.Cond.initialized "java/util/NoSuchElementException") ∈ lw_all := lw_g (lw_at lw_m1 29 rfl) rfl
theorem q608 : (Jvm.Cond.instantiable "java/util/NoSuchElementException" (6 : Nat)) ∈ lw_all := lw_g (lw_at lw_m3 35 rfl) rfl
theorem q609 : (Jvm.Cond.castable "java/util/NoSuchElementException" "java/util/NoSuchElementException") ∈ lw_tbl := lw_at lw_m3 36 rfl
theorem q616 : (Jvm.Cond.selects "java/util/NoSuchElementException" ({ cls := "java/lang/Throwable", name := "fillInStackTrace", desc := "(I)Ljava/lang/Throwable;" } : Jvm.MethodName) ({ cls := "java/lang/Throwable", name := "fillInStackTrace", desc := "(I)Ljava/lang/Throwable;" } : Jvm.MethodName)) ∈ lw_all := lw_g (lw_at lw_m3 43 rfl) rfl
theorem q617 : (Jvm.Cond.selects "java/util/NoSuchElementException" ({ cls := "java/lang/Throwable", name := "fillInStackTrace", desc := "()Ljava/lang/Throwable;" } : Jvm.MethodName) ({ cls := "java/lang/Throwable", name := "fillInStackTrace", desc := "()Ljava/lang/Throwable;" } : Jvm.MethodName)) ∈ lw_all := lw_g (lw_at lw_m3 44 rfl) rfl
theorem q618 : (Jvm.Cond.lays "java/util/NoSuchElementException" "java/lang/Throwable" "cause" "Ljava/lang/Throwable;") ∈ lw_all := lw_g (lw_at lw_m3 45 rfl) rfl
theorem q620 : (Jvm.Cond.lays "java/util/NoSuchElementException" "java/lang/Throwable" "stackTrace" "[Ljava/lang/StackTraceElement;") ∈ lw_all := lw_g (lw_at lw_m3 47 rfl) rfl
theorem q622 : (Jvm.Cond.lays "java/util/NoSuchElementException" "java/lang/Throwable" "suppressedExceptions" "Ljava/util/List;") ∈ lw_all := lw_g (lw_at lw_m3 49 rfl) rfl
theorem q624 : (Jvm.Cond.lays "java/util/NoSuchElementException" "java/lang/Throwable" "detailMessage" "Ljava/lang/String;") ∈ lw_all := lw_g (lw_at lw_m3 51 rfl) rfl
theorem q626 : (Jvm.Cond.lays "java/util/NoSuchElementException" "java/lang/Throwable" "backtrace" "Ljava/lang/Object;") ∈ lw_all := lw_g (lw_at lw_m3 53 rfl) rfl
theorem q649 : (Jvm.Cond.instanceMethod ({ cls := "java/util/NoSuchElementException", name := "<init>", desc := "(Ljava/lang/Throwable;)V" } : Jvm.MethodName)) ∈ lw_all := lw_g (lw_at lw_m3 76 rfl) rfl
theorem q650 : (Jvm.Cond.code ({ cls := "java/util/NoSuchElementException", name := "<init>", desc := "(Ljava/lang/Throwable;)V" } : Jvm.MethodName) prog_63_method_3_code (2 : Nat) (Option.none : Option Jvm.ClassFile.FieldType)) ∈ lw_all := lw_g (lw_at lw_m3 77 rfl) rfl
theorem q651 : (Jvm.Cond.methodLink "java/util/NoSuchElementException" (10 : Nat) ({ cls := "java/lang/RuntimeException", name := "<init>", desc := "(Ljava/lang/Throwable;)V" } : Jvm.MethodName)) ∈ lw_all := lw_g (lw_at lw_m3 78 rfl) rfl
theorem q665 : (Jvm.Cond.selects "java/util/NoSuchElementException" ({ cls := "java/lang/Throwable", name := "toString", desc := "()Ljava/lang/String;" } : Jvm.MethodName) ({ cls := "java/lang/Throwable", name := "toString", desc := "()Ljava/lang/String;" } : Jvm.MethodName)) ∈ lw_all := lw_g (lw_at lw_m3 92 rfl) rfl
theorem q699 : (Jvm.Cond.selects "java/util/NoSuchElementException" ({ cls := "java/lang/Object", name := "getClass", desc := "()Ljava/lang/Class;" } : Jvm.MethodName) ({ cls := "java/lang/Object", name := "getClass", desc := "()Ljava/lang/Class;" } : Jvm.MethodName)) ∈ lw_all := lw_g (lw_at lw_m3 126 rfl) rfl
theorem q706 : (Jvm.Cond.selects "java/util/NoSuchElementException" ({ cls := "java/lang/Throwable", name := "getLocalizedMessage", desc := "()Ljava/lang/String;" } : Jvm.MethodName) ({ cls := "java/lang/Throwable", name := "getLocalizedMessage", desc := "()Ljava/lang/String;" } : Jvm.MethodName)) ∈ lw_all := lw_g (lw_at lw_m3 133 rfl) rfl
theorem q713 : (Jvm.Cond.selects "java/util/NoSuchElementException" ({ cls := "java/lang/Throwable", name := "getMessage", desc := "()Ljava/lang/String;" } : Jvm.MethodName) ({ cls := "java/lang/Throwable", name := "getMessage", desc := "()Ljava/lang/String;" } : Jvm.MethodName)) ∈ lw_all := lw_g (lw_at lw_m3 140 rfl) rfl
theorem q899 : (Jvm.Cond.lays "java/util/NoSuchElementException" "java/lang/Throwable" "depth" "I") ∈ lw_all := lw_g (lw_at lw_m4 86 rfl) rfl
theorem q902 : (Jvm.Cond.superclass "java/util/NoSuchElementException" "java/lang/RuntimeException") ∈ lw_all := lw_g (lw_at lw_m4 89 rfl) rfl
theorem q2615 : (Jvm.Cond.castable "java/util/NoSuchElementException" "java/lang/Object") ∈ lw_tbl := lw_at lw_m11 122 rfl
theorem in_J21 : ∀ w ∈ wsJ210, w ∈ lw_all := lw_in wsJ210 [618, 620, 622, 624, 626, 899] (by decide +kernel) (by decide +kernel)
/-! jdk/internal/util/ArraysSupport -/
set_option maxRecDepth 100000
def RJ22 : String := "jdk/internal/util/ArraysSupport"
abbrev cJ22_newLength : ByteArray := prog_69_method_27_code
def yJ22_newLength : MethodName := ⟨RJ22, "newLength", "(III)I"⟩
def dkwJ22_newLength_1 : List UInt8 := [184, 0, 201, 172]
abbrev dktJ22_newLength_1 : List UInt8 := dkwJ22_newLength_1 ++ []
def dkwJ22_newLength_0 : List UInt8 := [26, 27, 28, 184, 0, 194, 96, 62, 3, 29, 162, 0, 11, 29, 18, 200, 163, 0, 5, 29, 172, 26, 27]
abbrev dktJ22_newLength_0 : List UInt8 := dkwJ22_newLength_0 ++ dktJ22_newLength_1
theorem dksJ22_newLength_0 : cJ22_newLength.data.toList.drop 0 = dktJ22_newLength_0 := by decide +kernel
theorem dksJ22_newLength_1 : cJ22_newLength.data.toList.drop 23 = dktJ22_newLength_1 := dk_seg dksJ22_newLength_0 23 rfl rfl
theorem dJ22_newLength_0 : decode cJ22_newLength 0 = .ok (.iload_n 0, 1) := dk_26 (dk_at dksJ22_newLength_0 0 rfl rfl)
theorem dJ22_newLength_1 : decode cJ22_newLength 1 = .ok (.iload_n 1, 1) := dk_27 (dk_at dksJ22_newLength_0 1 rfl rfl)
theorem dJ22_newLength_2 : decode cJ22_newLength 2 = .ok (.iload_n 2, 1) := dk_28 (dk_at dksJ22_newLength_0 2 rfl rfl)
theorem dJ22_newLength_3 : decode cJ22_newLength 3 = .ok (.invokestatic 194, 3) := dk_184 0 194 (dk_at dksJ22_newLength_0 3 rfl rfl)
theorem dJ22_newLength_6 : decode cJ22_newLength 6 = .ok (.iadd, 1) := dk_96 (dk_at dksJ22_newLength_0 6 rfl rfl)
theorem dJ22_newLength_7 : decode cJ22_newLength 7 = .ok (.istore_n 3, 1) := dk_62 (dk_at dksJ22_newLength_0 7 rfl rfl)
theorem dJ22_newLength_8 : decode cJ22_newLength 8 = .ok (.iconst 0, 1) := dk_3 (dk_at dksJ22_newLength_0 8 rfl rfl)
theorem dJ22_newLength_9 : decode cJ22_newLength 9 = .ok (.iload_n 3, 1) := dk_29 (dk_at dksJ22_newLength_0 9 rfl rfl)
theorem dJ22_newLength_10 : decode cJ22_newLength 10 = .ok (.if_icmp .ge 11, 3) := dk_162 0 11 (dk_at dksJ22_newLength_0 10 rfl rfl)
theorem dJ22_newLength_13 : decode cJ22_newLength 13 = .ok (.iload_n 3, 1) := dk_29 (dk_at dksJ22_newLength_0 13 rfl rfl)
theorem dJ22_newLength_14 : decode cJ22_newLength 14 = .ok (.ldc 200, 2) := dk_18 200 (dk_at dksJ22_newLength_0 14 rfl rfl)
theorem dJ22_newLength_16 : decode cJ22_newLength 16 = .ok (.if_icmp .gt 5, 3) := dk_163 0 5 (dk_at dksJ22_newLength_0 16 rfl rfl)
theorem dJ22_newLength_19 : decode cJ22_newLength 19 = .ok (.iload_n 3, 1) := dk_29 (dk_at dksJ22_newLength_0 19 rfl rfl)
theorem dJ22_newLength_20 : decode cJ22_newLength 20 = .ok (.ireturn, 1) := dk_172 (dk_at dksJ22_newLength_0 20 rfl rfl)
theorem dJ22_newLength_21 : decode cJ22_newLength 21 = .ok (.iload_n 0, 1) := dk_26 (dk_at dksJ22_newLength_0 21 rfl rfl)
theorem dJ22_newLength_22 : decode cJ22_newLength 22 = .ok (.iload_n 1, 1) := dk_27 (dk_at dksJ22_newLength_0 22 rfl rfl)
theorem dJ22_newLength_23 : decode cJ22_newLength 23 = .ok (.invokestatic 201, 3) := dk_184 0 201 (dk_at dksJ22_newLength_1 0 rfl rfl)
theorem dJ22_newLength_26 : decode cJ22_newLength 26 = .ok (.ireturn, 1) := dk_172 (dk_at dksJ22_newLength_1 3 rfl rfl)
abbrev cJ22_hugeLength : ByteArray := prog_69_method_28_code
def yJ22_hugeLength : MethodName := ⟨RJ22, "hugeLength", "(II)I"⟩
def dkwJ22_hugeLength_2 : List UInt8 := [191, 28, 18, 200, 163, 0, 6, 18, 200, 172, 28, 172]
abbrev dktJ22_hugeLength_2 : List UInt8 := dkwJ22_hugeLength_2 ++ []
def dkwJ22_hugeLength_1 : List UInt8 := [26, 182, 0, 98, 18, 208, 182, 0, 94, 27, 182, 0, 98, 18, 210, 182, 0, 94, 182, 0, 101, 183, 0, 212]
abbrev dktJ22_hugeLength_1 : List UInt8 := dkwJ22_hugeLength_1 ++ dktJ22_hugeLength_2
def dkwJ22_hugeLength_0 : List UInt8 := [26, 27, 96, 61, 28, 156, 0, 44, 187, 0, 204, 89, 187, 0, 89, 89, 183, 0, 91, 18, 206, 182, 0, 94]
abbrev dktJ22_hugeLength_0 : List UInt8 := dkwJ22_hugeLength_0 ++ dktJ22_hugeLength_1
theorem dksJ22_hugeLength_0 : cJ22_hugeLength.data.toList.drop 0 = dktJ22_hugeLength_0 := by decide +kernel
theorem dksJ22_hugeLength_1 : cJ22_hugeLength.data.toList.drop 24 = dktJ22_hugeLength_1 := dk_seg dksJ22_hugeLength_0 24 rfl rfl
theorem dksJ22_hugeLength_2 : cJ22_hugeLength.data.toList.drop 48 = dktJ22_hugeLength_2 := dk_seg dksJ22_hugeLength_1 24 rfl rfl
theorem dJ22_hugeLength_0 : decode cJ22_hugeLength 0 = .ok (.iload_n 0, 1) := dk_26 (dk_at dksJ22_hugeLength_0 0 rfl rfl)
theorem dJ22_hugeLength_1 : decode cJ22_hugeLength 1 = .ok (.iload_n 1, 1) := dk_27 (dk_at dksJ22_hugeLength_0 1 rfl rfl)
theorem dJ22_hugeLength_2 : decode cJ22_hugeLength 2 = .ok (.iadd, 1) := dk_96 (dk_at dksJ22_hugeLength_0 2 rfl rfl)
theorem dJ22_hugeLength_3 : decode cJ22_hugeLength 3 = .ok (.istore_n 2, 1) := dk_61 (dk_at dksJ22_hugeLength_0 3 rfl rfl)
theorem dJ22_hugeLength_4 : decode cJ22_hugeLength 4 = .ok (.iload_n 2, 1) := dk_28 (dk_at dksJ22_hugeLength_0 4 rfl rfl)
theorem dJ22_hugeLength_5 : decode cJ22_hugeLength 5 = .ok (.ifCond .ge 44, 3) := dk_156 0 44 (dk_at dksJ22_hugeLength_0 5 rfl rfl)
theorem dJ22_hugeLength_8 : decode cJ22_hugeLength 8 = .ok (.new 204, 3) := dk_187 0 204 (dk_at dksJ22_hugeLength_0 8 rfl rfl)
theorem dJ22_hugeLength_11 : decode cJ22_hugeLength 11 = .ok (.dup, 1) := dk_89 (dk_at dksJ22_hugeLength_0 11 rfl rfl)
theorem dJ22_hugeLength_12 : decode cJ22_hugeLength 12 = .ok (.new 89, 3) := dk_187 0 89 (dk_at dksJ22_hugeLength_0 12 rfl rfl)
theorem dJ22_hugeLength_15 : decode cJ22_hugeLength 15 = .ok (.dup, 1) := dk_89 (dk_at dksJ22_hugeLength_0 15 rfl rfl)
theorem dJ22_hugeLength_16 : decode cJ22_hugeLength 16 = .ok (.invokespecial 91, 3) := dk_183 0 91 (dk_at dksJ22_hugeLength_0 16 rfl rfl)
theorem dJ22_hugeLength_19 : decode cJ22_hugeLength 19 = .ok (.ldc 206, 2) := dk_18 206 (dk_at dksJ22_hugeLength_0 19 rfl rfl)
theorem dJ22_hugeLength_21 : decode cJ22_hugeLength 21 = .ok (.invokevirtual 94, 3) := dk_182 0 94 (dk_at dksJ22_hugeLength_0 21 rfl rfl)
theorem dJ22_hugeLength_24 : decode cJ22_hugeLength 24 = .ok (.iload_n 0, 1) := dk_26 (dk_at dksJ22_hugeLength_1 0 rfl rfl)
theorem dJ22_hugeLength_25 : decode cJ22_hugeLength 25 = .ok (.invokevirtual 98, 3) := dk_182 0 98 (dk_at dksJ22_hugeLength_1 1 rfl rfl)
theorem dJ22_hugeLength_28 : decode cJ22_hugeLength 28 = .ok (.ldc 208, 2) := dk_18 208 (dk_at dksJ22_hugeLength_1 4 rfl rfl)
theorem dJ22_hugeLength_30 : decode cJ22_hugeLength 30 = .ok (.invokevirtual 94, 3) := dk_182 0 94 (dk_at dksJ22_hugeLength_1 6 rfl rfl)
theorem dJ22_hugeLength_33 : decode cJ22_hugeLength 33 = .ok (.iload_n 1, 1) := dk_27 (dk_at dksJ22_hugeLength_1 9 rfl rfl)
theorem dJ22_hugeLength_34 : decode cJ22_hugeLength 34 = .ok (.invokevirtual 98, 3) := dk_182 0 98 (dk_at dksJ22_hugeLength_1 10 rfl rfl)
theorem dJ22_hugeLength_37 : decode cJ22_hugeLength 37 = .ok (.ldc 210, 2) := dk_18 210 (dk_at dksJ22_hugeLength_1 13 rfl rfl)
theorem dJ22_hugeLength_39 : decode cJ22_hugeLength 39 = .ok (.invokevirtual 94, 3) := dk_182 0 94 (dk_at dksJ22_hugeLength_1 15 rfl rfl)
theorem dJ22_hugeLength_42 : decode cJ22_hugeLength 42 = .ok (.invokevirtual 101, 3) := dk_182 0 101 (dk_at dksJ22_hugeLength_1 18 rfl rfl)
theorem dJ22_hugeLength_45 : decode cJ22_hugeLength 45 = .ok (.invokespecial 212, 3) := dk_183 0 212 (dk_at dksJ22_hugeLength_1 21 rfl rfl)
theorem dJ22_hugeLength_48 : decode cJ22_hugeLength 48 = .ok (.athrow, 1) := dk_191 (dk_at dksJ22_hugeLength_2 0 rfl rfl)
theorem dJ22_hugeLength_49 : decode cJ22_hugeLength 49 = .ok (.iload_n 2, 1) := dk_28 (dk_at dksJ22_hugeLength_2 1 rfl rfl)
theorem dJ22_hugeLength_50 : decode cJ22_hugeLength 50 = .ok (.ldc 200, 2) := dk_18 200 (dk_at dksJ22_hugeLength_2 2 rfl rfl)
theorem dJ22_hugeLength_52 : decode cJ22_hugeLength 52 = .ok (.if_icmp .gt 6, 3) := dk_163 0 6 (dk_at dksJ22_hugeLength_2 4 rfl rfl)
theorem dJ22_hugeLength_55 : decode cJ22_hugeLength 55 = .ok (.ldc 200, 2) := dk_18 200 (dk_at dksJ22_hugeLength_2 7 rfl rfl)
theorem dJ22_hugeLength_57 : decode cJ22_hugeLength 57 = .ok (.ireturn, 1) := dk_172 (dk_at dksJ22_hugeLength_2 9 rfl rfl)
theorem dJ22_hugeLength_58 : decode cJ22_hugeLength 58 = .ok (.iload_n 2, 1) := dk_28 (dk_at dksJ22_hugeLength_2 10 rfl rfl)
theorem dJ22_hugeLength_59 : decode cJ22_hugeLength 59 = .ok (.ireturn, 1) := dk_172 (dk_at dksJ22_hugeLength_2 11 rfl rfl)
abbrev cJ22_vectorizedHashCode : ByteArray := prog_69_method_4_code
def yJ22_vectorizedHashCode : MethodName := ⟨RJ22, "vectorizedHashCode", "(Ljava/lang/Object;IIII)I"⟩
def dkwJ22_vectorizedHashCode_6 : List UInt8 := [183, 0, 91, 18, 92, 182, 0, 94, 21, 4, 182, 0, 98, 182, 0, 101, 183, 0, 105, 191, 172]
abbrev dktJ22_vectorizedHashCode_6 : List UInt8 := dkwJ22_vectorizedHashCode_6 ++ []
def dkwJ22_vectorizedHashCode_5 : List UInt8 := [167, 0, 44, 29, 42, 192, 0, 82, 27, 28, 184, 0, 84, 167, 0, 31, 187, 0, 87, 89, 187, 0, 89, 89]
abbrev dktJ22_vectorizedHashCode_5 : List UInt8 := dkwJ22_vectorizedHashCode_5 ++ dktJ22_vectorizedHashCode_6
def dkwJ22_vectorizedHashCode_4 : List UInt8 := [29, 42, 192, 0, 60, 27, 28, 184, 0, 75, 167, 0, 57, 29, 42, 192, 0, 77, 27, 28, 184, 0, 79]
abbrev dktJ22_vectorizedHashCode_4 : List UInt8 := dkwJ22_vectorizedHashCode_4 ++ dktJ22_vectorizedHashCode_5
def dkwJ22_vectorizedHashCode_3 : List UInt8 := [192, 0, 60, 27, 28, 184, 0, 66, 167, 0, 83, 29, 42, 192, 0, 69, 27, 28, 184, 0, 71, 167, 0, 70]
abbrev dktJ22_vectorizedHashCode_3 : List UInt8 := dkwJ22_vectorizedHashCode_3 ++ dktJ22_vectorizedHashCode_4
def dkwJ22_vectorizedHashCode_2 : List UInt8 := [29, 42, 192, 0, 60, 27, 28, 184, 0, 62, 167, 0, 103, 42, 193, 0, 60, 153, 0, 16, 29, 42]
abbrev dktJ22_vectorizedHashCode_2 : List UInt8 := dkwJ22_vectorizedHashCode_2 ++ dktJ22_vectorizedHashCode_3
def dkwJ22_vectorizedHashCode_1 : List UInt8 := [170, 0, 0, 0, 0, 127, 0, 0, 0, 4, 0, 0, 0, 10, 0, 0, 0, 42, 0, 0, 0, 55, 0, 0, 0, 127, 0, 0, 0, 127, 0, 0, 0, 88, 0, 0, 0, 101, 0, 0, 0, 114]
abbrev dktJ22_vectorizedHashCode_1 : List UInt8 := dkwJ22_vectorizedHashCode_1 ++ dktJ22_vectorizedHashCode_2
def dkwJ22_vectorizedHashCode_0 : List UInt8 := [21, 4]
abbrev dktJ22_vectorizedHashCode_0 : List UInt8 := dkwJ22_vectorizedHashCode_0 ++ dktJ22_vectorizedHashCode_1
theorem dksJ22_vectorizedHashCode_0 : cJ22_vectorizedHashCode.data.toList.drop 0 = dktJ22_vectorizedHashCode_0 := by decide +kernel
theorem dksJ22_vectorizedHashCode_1 : cJ22_vectorizedHashCode.data.toList.drop 2 = dktJ22_vectorizedHashCode_1 := dk_seg dksJ22_vectorizedHashCode_0 2 rfl rfl
theorem dksJ22_vectorizedHashCode_2 : cJ22_vectorizedHashCode.data.toList.drop 44 = dktJ22_vectorizedHashCode_2 := dk_seg dksJ22_vectorizedHashCode_1 42 rfl rfl
theorem dksJ22_vectorizedHashCode_3 : cJ22_vectorizedHashCode.data.toList.drop 66 = dktJ22_vectorizedHashCode_3 := dk_seg dksJ22_vectorizedHashCode_2 22 rfl rfl
theorem dksJ22_vectorizedHashCode_4 : cJ22_vectorizedHashCode.data.toList.drop 90 = dktJ22_vectorizedHashCode_4 := dk_seg dksJ22_vectorizedHashCode_3 24 rfl rfl
theorem dksJ22_vectorizedHashCode_5 : cJ22_vectorizedHashCode.data.toList.drop 113 = dktJ22_vectorizedHashCode_5 := dk_seg dksJ22_vectorizedHashCode_4 23 rfl rfl
theorem dksJ22_vectorizedHashCode_6 : cJ22_vectorizedHashCode.data.toList.drop 137 = dktJ22_vectorizedHashCode_6 := dk_seg dksJ22_vectorizedHashCode_5 24 rfl rfl
theorem dJ22_vectorizedHashCode_0 : decode cJ22_vectorizedHashCode 0 = .ok (.iload 4, 2) := dk_21 4 (dk_at dksJ22_vectorizedHashCode_0 0 rfl rfl)
theorem dJ22_vectorizedHashCode_2 : decode cJ22_vectorizedHashCode 2 = .ok (.tableswitch 127 4 10 #[42, 55, 127, 127, 88, 101, 114], 42) := by decide +kernel
theorem dJ22_vectorizedHashCode_44 : decode cJ22_vectorizedHashCode 44 = .ok (.iload_n 3, 1) := dk_29 (dk_at dksJ22_vectorizedHashCode_2 0 rfl rfl)
theorem dJ22_vectorizedHashCode_45 : decode cJ22_vectorizedHashCode 45 = .ok (.aload_n 0, 1) := dk_42 (dk_at dksJ22_vectorizedHashCode_2 1 rfl rfl)
theorem dJ22_vectorizedHashCode_46 : decode cJ22_vectorizedHashCode 46 = .ok (.checkcast 60, 3) := dk_192 0 60 (dk_at dksJ22_vectorizedHashCode_2 2 rfl rfl)
theorem dJ22_vectorizedHashCode_49 : decode cJ22_vectorizedHashCode 49 = .ok (.iload_n 1, 1) := dk_27 (dk_at dksJ22_vectorizedHashCode_2 5 rfl rfl)
theorem dJ22_vectorizedHashCode_50 : decode cJ22_vectorizedHashCode 50 = .ok (.iload_n 2, 1) := dk_28 (dk_at dksJ22_vectorizedHashCode_2 6 rfl rfl)
theorem dJ22_vectorizedHashCode_51 : decode cJ22_vectorizedHashCode 51 = .ok (.invokestatic 62, 3) := dk_184 0 62 (dk_at dksJ22_vectorizedHashCode_2 7 rfl rfl)
theorem dJ22_vectorizedHashCode_54 : decode cJ22_vectorizedHashCode 54 = .ok (.goto 103, 3) := dk_167 0 103 (dk_at dksJ22_vectorizedHashCode_2 10 rfl rfl)
theorem dJ22_vectorizedHashCode_57 : decode cJ22_vectorizedHashCode 57 = .ok (.aload_n 0, 1) := dk_42 (dk_at dksJ22_vectorizedHashCode_2 13 rfl rfl)
theorem dJ22_vectorizedHashCode_58 : decode cJ22_vectorizedHashCode 58 = .ok (.instanceof 60, 3) := dk_193 0 60 (dk_at dksJ22_vectorizedHashCode_2 14 rfl rfl)
theorem dJ22_vectorizedHashCode_61 : decode cJ22_vectorizedHashCode 61 = .ok (.ifCond .eq 16, 3) := dk_153 0 16 (dk_at dksJ22_vectorizedHashCode_2 17 rfl rfl)
theorem dJ22_vectorizedHashCode_64 : decode cJ22_vectorizedHashCode 64 = .ok (.iload_n 3, 1) := dk_29 (dk_at dksJ22_vectorizedHashCode_2 20 rfl rfl)
theorem dJ22_vectorizedHashCode_65 : decode cJ22_vectorizedHashCode 65 = .ok (.aload_n 0, 1) := dk_42 (dk_at dksJ22_vectorizedHashCode_2 21 rfl rfl)
theorem dJ22_vectorizedHashCode_66 : decode cJ22_vectorizedHashCode 66 = .ok (.checkcast 60, 3) := dk_192 0 60 (dk_at dksJ22_vectorizedHashCode_3 0 rfl rfl)
theorem dJ22_vectorizedHashCode_69 : decode cJ22_vectorizedHashCode 69 = .ok (.iload_n 1, 1) := dk_27 (dk_at dksJ22_vectorizedHashCode_3 3 rfl rfl)
theorem dJ22_vectorizedHashCode_70 : decode cJ22_vectorizedHashCode 70 = .ok (.iload_n 2, 1) := dk_28 (dk_at dksJ22_vectorizedHashCode_3 4 rfl rfl)
theorem dJ22_vectorizedHashCode_71 : decode cJ22_vectorizedHashCode 71 = .ok (.invokestatic 66, 3) := dk_184 0 66 (dk_at dksJ22_vectorizedHashCode_3 5 rfl rfl)
theorem dJ22_vectorizedHashCode_74 : decode cJ22_vectorizedHashCode 74 = .ok (.goto 83, 3) := dk_167 0 83 (dk_at dksJ22_vectorizedHashCode_3 8 rfl rfl)
theorem dJ22_vectorizedHashCode_77 : decode cJ22_vectorizedHashCode 77 = .ok (.iload_n 3, 1) := dk_29 (dk_at dksJ22_vectorizedHashCode_3 11 rfl rfl)
theorem dJ22_vectorizedHashCode_78 : decode cJ22_vectorizedHashCode 78 = .ok (.aload_n 0, 1) := dk_42 (dk_at dksJ22_vectorizedHashCode_3 12 rfl rfl)
theorem dJ22_vectorizedHashCode_79 : decode cJ22_vectorizedHashCode 79 = .ok (.checkcast 69, 3) := dk_192 0 69 (dk_at dksJ22_vectorizedHashCode_3 13 rfl rfl)
theorem dJ22_vectorizedHashCode_82 : decode cJ22_vectorizedHashCode 82 = .ok (.iload_n 1, 1) := dk_27 (dk_at dksJ22_vectorizedHashCode_3 16 rfl rfl)
theorem dJ22_vectorizedHashCode_83 : decode cJ22_vectorizedHashCode 83 = .ok (.iload_n 2, 1) := dk_28 (dk_at dksJ22_vectorizedHashCode_3 17 rfl rfl)
theorem dJ22_vectorizedHashCode_84 : decode cJ22_vectorizedHashCode 84 = .ok (.invokestatic 71, 3) := dk_184 0 71 (dk_at dksJ22_vectorizedHashCode_3 18 rfl rfl)
theorem dJ22_vectorizedHashCode_87 : decode cJ22_vectorizedHashCode 87 = .ok (.goto 70, 3) := dk_167 0 70 (dk_at dksJ22_vectorizedHashCode_3 21 rfl rfl)
theorem dJ22_vectorizedHashCode_90 : decode cJ22_vectorizedHashCode 90 = .ok (.iload_n 3, 1) := dk_29 (dk_at dksJ22_vectorizedHashCode_4 0 rfl rfl)
theorem dJ22_vectorizedHashCode_91 : decode cJ22_vectorizedHashCode 91 = .ok (.aload_n 0, 1) := dk_42 (dk_at dksJ22_vectorizedHashCode_4 1 rfl rfl)
theorem dJ22_vectorizedHashCode_92 : decode cJ22_vectorizedHashCode 92 = .ok (.checkcast 60, 3) := dk_192 0 60 (dk_at dksJ22_vectorizedHashCode_4 2 rfl rfl)
theorem dJ22_vectorizedHashCode_95 : decode cJ22_vectorizedHashCode 95 = .ok (.iload_n 1, 1) := dk_27 (dk_at dksJ22_vectorizedHashCode_4 5 rfl rfl)
theorem dJ22_vectorizedHashCode_96 : decode cJ22_vectorizedHashCode 96 = .ok (.iload_n 2, 1) := dk_28 (dk_at dksJ22_vectorizedHashCode_4 6 rfl rfl)
theorem dJ22_vectorizedHashCode_97 : decode cJ22_vectorizedHashCode 97 = .ok (.invokestatic 75, 3) := dk_184 0 75 (dk_at dksJ22_vectorizedHashCode_4 7 rfl rfl)
theorem dJ22_vectorizedHashCode_100 : decode cJ22_vectorizedHashCode 100 = .ok (.goto 57, 3) := dk_167 0 57 (dk_at dksJ22_vectorizedHashCode_4 10 rfl rfl)
theorem dJ22_vectorizedHashCode_103 : decode cJ22_vectorizedHashCode 103 = .ok (.iload_n 3, 1) := dk_29 (dk_at dksJ22_vectorizedHashCode_4 13 rfl rfl)
theorem dJ22_vectorizedHashCode_104 : decode cJ22_vectorizedHashCode 104 = .ok (.aload_n 0, 1) := dk_42 (dk_at dksJ22_vectorizedHashCode_4 14 rfl rfl)
theorem dJ22_vectorizedHashCode_105 : decode cJ22_vectorizedHashCode 105 = .ok (.checkcast 77, 3) := dk_192 0 77 (dk_at dksJ22_vectorizedHashCode_4 15 rfl rfl)
theorem dJ22_vectorizedHashCode_108 : decode cJ22_vectorizedHashCode 108 = .ok (.iload_n 1, 1) := dk_27 (dk_at dksJ22_vectorizedHashCode_4 18 rfl rfl)
theorem dJ22_vectorizedHashCode_109 : decode cJ22_vectorizedHashCode 109 = .ok (.iload_n 2, 1) := dk_28 (dk_at dksJ22_vectorizedHashCode_4 19 rfl rfl)
theorem dJ22_vectorizedHashCode_110 : decode cJ22_vectorizedHashCode 110 = .ok (.invokestatic 79, 3) := dk_184 0 79 (dk_at dksJ22_vectorizedHashCode_4 20 rfl rfl)
theorem dJ22_vectorizedHashCode_113 : decode cJ22_vectorizedHashCode 113 = .ok (.goto 44, 3) := dk_167 0 44 (dk_at dksJ22_vectorizedHashCode_5 0 rfl rfl)
theorem dJ22_vectorizedHashCode_116 : decode cJ22_vectorizedHashCode 116 = .ok (.iload_n 3, 1) := dk_29 (dk_at dksJ22_vectorizedHashCode_5 3 rfl rfl)
theorem dJ22_vectorizedHashCode_117 : decode cJ22_vectorizedHashCode 117 = .ok (.aload_n 0, 1) := dk_42 (dk_at dksJ22_vectorizedHashCode_5 4 rfl rfl)
theorem dJ22_vectorizedHashCode_118 : decode cJ22_vectorizedHashCode 118 = .ok (.checkcast 82, 3) := dk_192 0 82 (dk_at dksJ22_vectorizedHashCode_5 5 rfl rfl)
theorem dJ22_vectorizedHashCode_121 : decode cJ22_vectorizedHashCode 121 = .ok (.iload_n 1, 1) := dk_27 (dk_at dksJ22_vectorizedHashCode_5 8 rfl rfl)
theorem dJ22_vectorizedHashCode_122 : decode cJ22_vectorizedHashCode 122 = .ok (.iload_n 2, 1) := dk_28 (dk_at dksJ22_vectorizedHashCode_5 9 rfl rfl)
theorem dJ22_vectorizedHashCode_123 : decode cJ22_vectorizedHashCode 123 = .ok (.invokestatic 84, 3) := dk_184 0 84 (dk_at dksJ22_vectorizedHashCode_5 10 rfl rfl)
theorem dJ22_vectorizedHashCode_126 : decode cJ22_vectorizedHashCode 126 = .ok (.goto 31, 3) := dk_167 0 31 (dk_at dksJ22_vectorizedHashCode_5 13 rfl rfl)
theorem dJ22_vectorizedHashCode_129 : decode cJ22_vectorizedHashCode 129 = .ok (.new 87, 3) := dk_187 0 87 (dk_at dksJ22_vectorizedHashCode_5 16 rfl rfl)
theorem dJ22_vectorizedHashCode_132 : decode cJ22_vectorizedHashCode 132 = .ok (.dup, 1) := dk_89 (dk_at dksJ22_vectorizedHashCode_5 19 rfl rfl)
theorem dJ22_vectorizedHashCode_133 : decode cJ22_vectorizedHashCode 133 = .ok (.new 89, 3) := dk_187 0 89 (dk_at dksJ22_vectorizedHashCode_5 20 rfl rfl)
theorem dJ22_vectorizedHashCode_136 : decode cJ22_vectorizedHashCode 136 = .ok (.dup, 1) := dk_89 (dk_at dksJ22_vectorizedHashCode_5 23 rfl rfl)
theorem dJ22_vectorizedHashCode_137 : decode cJ22_vectorizedHashCode 137 = .ok (.invokespecial 91, 3) := dk_183 0 91 (dk_at dksJ22_vectorizedHashCode_6 0 rfl rfl)
theorem dJ22_vectorizedHashCode_140 : decode cJ22_vectorizedHashCode 140 = .ok (.ldc 92, 2) := dk_18 92 (dk_at dksJ22_vectorizedHashCode_6 3 rfl rfl)
theorem dJ22_vectorizedHashCode_142 : decode cJ22_vectorizedHashCode 142 = .ok (.invokevirtual 94, 3) := dk_182 0 94 (dk_at dksJ22_vectorizedHashCode_6 5 rfl rfl)
theorem dJ22_vectorizedHashCode_145 : decode cJ22_vectorizedHashCode 145 = .ok (.iload 4, 2) := dk_21 4 (dk_at dksJ22_vectorizedHashCode_6 8 rfl rfl)
theorem dJ22_vectorizedHashCode_147 : decode cJ22_vectorizedHashCode 147 = .ok (.invokevirtual 98, 3) := dk_182 0 98 (dk_at dksJ22_vectorizedHashCode_6 10 rfl rfl)
theorem dJ22_vectorizedHashCode_150 : decode cJ22_vectorizedHashCode 150 = .ok (.invokevirtual 101, 3) := dk_182 0 101 (dk_at dksJ22_vectorizedHashCode_6 13 rfl rfl)
theorem dJ22_vectorizedHashCode_153 : decode cJ22_vectorizedHashCode 153 = .ok (.invokespecial 105, 3) := dk_183 0 105 (dk_at dksJ22_vectorizedHashCode_6 16 rfl rfl)
theorem dJ22_vectorizedHashCode_156 : decode cJ22_vectorizedHashCode 156 = .ok (.athrow, 1) := dk_191 (dk_at dksJ22_vectorizedHashCode_6 19 rfl rfl)
theorem dJ22_vectorizedHashCode_157 : decode cJ22_vectorizedHashCode 157 = .ok (.ireturn, 1) := dk_172 (dk_at dksJ22_vectorizedHashCode_6 20 rfl rfl)
abbrev cJ22_signedHashCode : ByteArray := prog_69_method_5_code
def yJ22_signedHashCode : MethodName := ⟨RJ22, "signedHashCode", "(I[BII)I"⟩
def dkwJ22_signedHashCode_1 : List UInt8 := [17, 0, 255, 126, 96, 59, 132, 5, 1, 167, 255, 232, 26, 172]
abbrev dktJ22_signedHashCode_1 : List UInt8 := dkwJ22_signedHashCode_1 ++ []
def dkwJ22_signedHashCode_0 : List UInt8 := [28, 29, 96, 54, 4, 28, 54, 5, 21, 5, 21, 4, 162, 0, 23, 16, 31, 26, 104, 43, 21, 5, 51]
abbrev dktJ22_signedHashCode_0 : List UInt8 := dkwJ22_signedHashCode_0 ++ dktJ22_signedHashCode_1
theorem dksJ22_signedHashCode_0 : cJ22_signedHashCode.data.toList.drop 0 = dktJ22_signedHashCode_0 := by decide +kernel
theorem dksJ22_signedHashCode_1 : cJ22_signedHashCode.data.toList.drop 23 = dktJ22_signedHashCode_1 := dk_seg dksJ22_signedHashCode_0 23 rfl rfl
theorem dJ22_signedHashCode_0 : decode cJ22_signedHashCode 0 = .ok (.iload_n 2, 1) := dk_28 (dk_at dksJ22_signedHashCode_0 0 rfl rfl)
theorem dJ22_signedHashCode_1 : decode cJ22_signedHashCode 1 = .ok (.iload_n 3, 1) := dk_29 (dk_at dksJ22_signedHashCode_0 1 rfl rfl)
theorem dJ22_signedHashCode_2 : decode cJ22_signedHashCode 2 = .ok (.iadd, 1) := dk_96 (dk_at dksJ22_signedHashCode_0 2 rfl rfl)
theorem dJ22_signedHashCode_3 : decode cJ22_signedHashCode 3 = .ok (.istore 4, 2) := dk_54 4 (dk_at dksJ22_signedHashCode_0 3 rfl rfl)
theorem dJ22_signedHashCode_5 : decode cJ22_signedHashCode 5 = .ok (.iload_n 2, 1) := dk_28 (dk_at dksJ22_signedHashCode_0 5 rfl rfl)
theorem dJ22_signedHashCode_6 : decode cJ22_signedHashCode 6 = .ok (.istore 5, 2) := dk_54 5 (dk_at dksJ22_signedHashCode_0 6 rfl rfl)
theorem dJ22_signedHashCode_8 : decode cJ22_signedHashCode 8 = .ok (.iload 5, 2) := dk_21 5 (dk_at dksJ22_signedHashCode_0 8 rfl rfl)
theorem dJ22_signedHashCode_10 : decode cJ22_signedHashCode 10 = .ok (.iload 4, 2) := dk_21 4 (dk_at dksJ22_signedHashCode_0 10 rfl rfl)
theorem dJ22_signedHashCode_12 : decode cJ22_signedHashCode 12 = .ok (.if_icmp .ge 23, 3) := dk_162 0 23 (dk_at dksJ22_signedHashCode_0 12 rfl rfl)
theorem dJ22_signedHashCode_15 : decode cJ22_signedHashCode 15 = .ok (.bipush 31, 2) := dk_16 31 (dk_at dksJ22_signedHashCode_0 15 rfl rfl)
theorem dJ22_signedHashCode_17 : decode cJ22_signedHashCode 17 = .ok (.iload_n 0, 1) := dk_26 (dk_at dksJ22_signedHashCode_0 17 rfl rfl)
theorem dJ22_signedHashCode_18 : decode cJ22_signedHashCode 18 = .ok (.imul, 1) := dk_104 (dk_at dksJ22_signedHashCode_0 18 rfl rfl)
theorem dJ22_signedHashCode_19 : decode cJ22_signedHashCode 19 = .ok (.aload_n 1, 1) := dk_43 (dk_at dksJ22_signedHashCode_0 19 rfl rfl)
theorem dJ22_signedHashCode_20 : decode cJ22_signedHashCode 20 = .ok (.iload 5, 2) := dk_21 5 (dk_at dksJ22_signedHashCode_0 20 rfl rfl)
theorem dJ22_signedHashCode_22 : decode cJ22_signedHashCode 22 = .ok (.baload, 1) := dk_51 (dk_at dksJ22_signedHashCode_0 22 rfl rfl)
theorem dJ22_signedHashCode_23 : decode cJ22_signedHashCode 23 = .ok (.sipush 255, 3) := dk_17 0 255 (dk_at dksJ22_signedHashCode_1 0 rfl rfl)
theorem dJ22_signedHashCode_26 : decode cJ22_signedHashCode 26 = .ok (.iand, 1) := dk_126 (dk_at dksJ22_signedHashCode_1 3 rfl rfl)
theorem dJ22_signedHashCode_27 : decode cJ22_signedHashCode 27 = .ok (.iadd, 1) := dk_96 (dk_at dksJ22_signedHashCode_1 4 rfl rfl)
theorem dJ22_signedHashCode_28 : decode cJ22_signedHashCode 28 = .ok (.istore_n 0, 1) := dk_59 (dk_at dksJ22_signedHashCode_1 5 rfl rfl)
theorem dJ22_signedHashCode_29 : decode cJ22_signedHashCode 29 = .ok (.iinc 5 1, 3) := dk_132 5 1 (dk_at dksJ22_signedHashCode_1 6 rfl rfl)
theorem dJ22_signedHashCode_32 : decode cJ22_signedHashCode 32 = .ok (.goto (-24), 3) := dk_167 255 232 (dk_at dksJ22_signedHashCode_1 9 rfl rfl)
theorem dJ22_signedHashCode_35 : decode cJ22_signedHashCode 35 = .ok (.iload_n 0, 1) := dk_26 (dk_at dksJ22_signedHashCode_1 12 rfl rfl)
theorem dJ22_signedHashCode_36 : decode cJ22_signedHashCode 36 = .ok (.ireturn, 1) := dk_172 (dk_at dksJ22_signedHashCode_1 13 rfl rfl)
abbrev cJ22_utf16hashCode : ByteArray := prog_69_method_10_code
def yJ22_utf16hashCode : MethodName := ⟨RJ22, "utf16hashCode", "(I[BII)I"⟩
def dkwJ22_utf16hashCode_1 : List UInt8 := [21, 5, 185, 0, 110, 3, 0, 96, 59, 132, 5, 1, 167, 255, 229, 26, 172]
abbrev dktJ22_utf16hashCode_1 : List UInt8 := dkwJ22_utf16hashCode_1 ++ []
def dkwJ22_utf16hashCode_0 : List UInt8 := [28, 29, 96, 54, 4, 28, 54, 5, 21, 5, 21, 4, 162, 0, 26, 16, 31, 26, 104, 178, 0, 106, 43]
abbrev dktJ22_utf16hashCode_0 : List UInt8 := dkwJ22_utf16hashCode_0 ++ dktJ22_utf16hashCode_1
theorem dksJ22_utf16hashCode_0 : cJ22_utf16hashCode.data.toList.drop 0 = dktJ22_utf16hashCode_0 := by decide +kernel
theorem dksJ22_utf16hashCode_1 : cJ22_utf16hashCode.data.toList.drop 23 = dktJ22_utf16hashCode_1 := dk_seg dksJ22_utf16hashCode_0 23 rfl rfl
theorem dJ22_utf16hashCode_0 : decode cJ22_utf16hashCode 0 = .ok (.iload_n 2, 1) := dk_28 (dk_at dksJ22_utf16hashCode_0 0 rfl rfl)
theorem dJ22_utf16hashCode_1 : decode cJ22_utf16hashCode 1 = .ok (.iload_n 3, 1) := dk_29 (dk_at dksJ22_utf16hashCode_0 1 rfl rfl)
theorem dJ22_utf16hashCode_2 : decode cJ22_utf16hashCode 2 = .ok (.iadd, 1) := dk_96 (dk_at dksJ22_utf16hashCode_0 2 rfl rfl)
theorem dJ22_utf16hashCode_3 : decode cJ22_utf16hashCode 3 = .ok (.istore 4, 2) := dk_54 4 (dk_at dksJ22_utf16hashCode_0 3 rfl rfl)
theorem dJ22_utf16hashCode_5 : decode cJ22_utf16hashCode 5 = .ok (.iload_n 2, 1) := dk_28 (dk_at dksJ22_utf16hashCode_0 5 rfl rfl)
theorem dJ22_utf16hashCode_6 : decode cJ22_utf16hashCode 6 = .ok (.istore 5, 2) := dk_54 5 (dk_at dksJ22_utf16hashCode_0 6 rfl rfl)
theorem dJ22_utf16hashCode_8 : decode cJ22_utf16hashCode 8 = .ok (.iload 5, 2) := dk_21 5 (dk_at dksJ22_utf16hashCode_0 8 rfl rfl)
theorem dJ22_utf16hashCode_10 : decode cJ22_utf16hashCode 10 = .ok (.iload 4, 2) := dk_21 4 (dk_at dksJ22_utf16hashCode_0 10 rfl rfl)
theorem dJ22_utf16hashCode_12 : decode cJ22_utf16hashCode 12 = .ok (.if_icmp .ge 26, 3) := dk_162 0 26 (dk_at dksJ22_utf16hashCode_0 12 rfl rfl)
theorem dJ22_utf16hashCode_15 : decode cJ22_utf16hashCode 15 = .ok (.bipush 31, 2) := dk_16 31 (dk_at dksJ22_utf16hashCode_0 15 rfl rfl)
theorem dJ22_utf16hashCode_17 : decode cJ22_utf16hashCode 17 = .ok (.iload_n 0, 1) := dk_26 (dk_at dksJ22_utf16hashCode_0 17 rfl rfl)
theorem dJ22_utf16hashCode_18 : decode cJ22_utf16hashCode 18 = .ok (.imul, 1) := dk_104 (dk_at dksJ22_utf16hashCode_0 18 rfl rfl)
theorem dJ22_utf16hashCode_19 : decode cJ22_utf16hashCode 19 = .ok (.getstatic 106, 3) := dk_178 0 106 (dk_at dksJ22_utf16hashCode_0 19 rfl rfl)
theorem dJ22_utf16hashCode_22 : decode cJ22_utf16hashCode 22 = .ok (.aload_n 1, 1) := dk_43 (dk_at dksJ22_utf16hashCode_0 22 rfl rfl)
theorem dJ22_utf16hashCode_23 : decode cJ22_utf16hashCode 23 = .ok (.iload 5, 2) := dk_21 5 (dk_at dksJ22_utf16hashCode_1 0 rfl rfl)
theorem dJ22_utf16hashCode_25 : decode cJ22_utf16hashCode 25 = .ok (.invokeinterface 110 3, 5) := by decide +kernel
theorem dJ22_utf16hashCode_30 : decode cJ22_utf16hashCode 30 = .ok (.iadd, 1) := dk_96 (dk_at dksJ22_utf16hashCode_1 7 rfl rfl)
theorem dJ22_utf16hashCode_31 : decode cJ22_utf16hashCode 31 = .ok (.istore_n 0, 1) := dk_59 (dk_at dksJ22_utf16hashCode_1 8 rfl rfl)
theorem dJ22_utf16hashCode_32 : decode cJ22_utf16hashCode 32 = .ok (.iinc 5 1, 3) := dk_132 5 1 (dk_at dksJ22_utf16hashCode_1 9 rfl rfl)
theorem dJ22_utf16hashCode_35 : decode cJ22_utf16hashCode 35 = .ok (.goto (-27), 3) := dk_167 255 229 (dk_at dksJ22_utf16hashCode_1 12 rfl rfl)
theorem dJ22_utf16hashCode_38 : decode cJ22_utf16hashCode 38 = .ok (.iload_n 0, 1) := dk_26 (dk_at dksJ22_utf16hashCode_1 15 rfl rfl)
theorem dJ22_utf16hashCode_39 : decode cJ22_utf16hashCode 39 = .ok (.ireturn, 1) := dk_172 (dk_at dksJ22_utf16hashCode_1 16 rfl rfl)
abbrev cJ22_hashCode : ByteArray := prog_69_method_7_code
def yJ22_hashCode : MethodName := ⟨RJ22, "hashCode", "(I[CII)I"⟩
def dkwJ22_hashCode_1 : List UInt8 := [59, 132, 5, 1, 167, 255, 236, 26, 172]
abbrev dktJ22_hashCode_1 : List UInt8 := dkwJ22_hashCode_1 ++ []
def dkwJ22_hashCode_0 : List UInt8 := [28, 29, 96, 54, 4, 28, 54, 5, 21, 5, 21, 4, 162, 0, 19, 16, 31, 26, 104, 43, 21, 5, 52, 96]
abbrev dktJ22_hashCode_0 : List UInt8 := dkwJ22_hashCode_0 ++ dktJ22_hashCode_1
theorem dksJ22_hashCode_0 : cJ22_hashCode.data.toList.drop 0 = dktJ22_hashCode_0 := by decide +kernel
theorem dksJ22_hashCode_1 : cJ22_hashCode.data.toList.drop 24 = dktJ22_hashCode_1 := dk_seg dksJ22_hashCode_0 24 rfl rfl
theorem dJ22_hashCode_0 : decode cJ22_hashCode 0 = .ok (.iload_n 2, 1) := dk_28 (dk_at dksJ22_hashCode_0 0 rfl rfl)
theorem dJ22_hashCode_1 : decode cJ22_hashCode 1 = .ok (.iload_n 3, 1) := dk_29 (dk_at dksJ22_hashCode_0 1 rfl rfl)
theorem dJ22_hashCode_2 : decode cJ22_hashCode 2 = .ok (.iadd, 1) := dk_96 (dk_at dksJ22_hashCode_0 2 rfl rfl)
theorem dJ22_hashCode_3 : decode cJ22_hashCode 3 = .ok (.istore 4, 2) := dk_54 4 (dk_at dksJ22_hashCode_0 3 rfl rfl)
theorem dJ22_hashCode_5 : decode cJ22_hashCode 5 = .ok (.iload_n 2, 1) := dk_28 (dk_at dksJ22_hashCode_0 5 rfl rfl)
theorem dJ22_hashCode_6 : decode cJ22_hashCode 6 = .ok (.istore 5, 2) := dk_54 5 (dk_at dksJ22_hashCode_0 6 rfl rfl)
theorem dJ22_hashCode_8 : decode cJ22_hashCode 8 = .ok (.iload 5, 2) := dk_21 5 (dk_at dksJ22_hashCode_0 8 rfl rfl)
theorem dJ22_hashCode_10 : decode cJ22_hashCode 10 = .ok (.iload 4, 2) := dk_21 4 (dk_at dksJ22_hashCode_0 10 rfl rfl)
theorem dJ22_hashCode_12 : decode cJ22_hashCode 12 = .ok (.if_icmp .ge 19, 3) := dk_162 0 19 (dk_at dksJ22_hashCode_0 12 rfl rfl)
theorem dJ22_hashCode_15 : decode cJ22_hashCode 15 = .ok (.bipush 31, 2) := dk_16 31 (dk_at dksJ22_hashCode_0 15 rfl rfl)
theorem dJ22_hashCode_17 : decode cJ22_hashCode 17 = .ok (.iload_n 0, 1) := dk_26 (dk_at dksJ22_hashCode_0 17 rfl rfl)
theorem dJ22_hashCode_18 : decode cJ22_hashCode 18 = .ok (.imul, 1) := dk_104 (dk_at dksJ22_hashCode_0 18 rfl rfl)
theorem dJ22_hashCode_19 : decode cJ22_hashCode 19 = .ok (.aload_n 1, 1) := dk_43 (dk_at dksJ22_hashCode_0 19 rfl rfl)
theorem dJ22_hashCode_20 : decode cJ22_hashCode 20 = .ok (.iload 5, 2) := dk_21 5 (dk_at dksJ22_hashCode_0 20 rfl rfl)
theorem dJ22_hashCode_22 : decode cJ22_hashCode 22 = .ok (.caload, 1) := dk_52 (dk_at dksJ22_hashCode_0 22 rfl rfl)
theorem dJ22_hashCode_23 : decode cJ22_hashCode 23 = .ok (.iadd, 1) := dk_96 (dk_at dksJ22_hashCode_0 23 rfl rfl)
theorem dJ22_hashCode_24 : decode cJ22_hashCode 24 = .ok (.istore_n 0, 1) := dk_59 (dk_at dksJ22_hashCode_1 0 rfl rfl)
theorem dJ22_hashCode_25 : decode cJ22_hashCode 25 = .ok (.iinc 5 1, 3) := dk_132 5 1 (dk_at dksJ22_hashCode_1 1 rfl rfl)
theorem dJ22_hashCode_28 : decode cJ22_hashCode 28 = .ok (.goto (-20), 3) := dk_167 255 236 (dk_at dksJ22_hashCode_1 4 rfl rfl)
theorem dJ22_hashCode_31 : decode cJ22_hashCode 31 = .ok (.iload_n 0, 1) := dk_26 (dk_at dksJ22_hashCode_1 7 rfl rfl)
theorem dJ22_hashCode_32 : decode cJ22_hashCode 32 = .ok (.ireturn, 1) := dk_172 (dk_at dksJ22_hashCode_1 8 rfl rfl)
abbrev cJ22_hashCode_2 : ByteArray := prog_69_method_6_code
def yJ22_hashCode_2 : MethodName := ⟨RJ22, "hashCode", "(I[BII)I"⟩
def dkwJ22_hashCode_2_1 : List UInt8 := [59, 132, 5, 1, 167, 255, 236, 26, 172]
abbrev dktJ22_hashCode_2_1 : List UInt8 := dkwJ22_hashCode_2_1 ++ []
def dkwJ22_hashCode_2_0 : List UInt8 := [28, 29, 96, 54, 4, 28, 54, 5, 21, 5, 21, 4, 162, 0, 19, 16, 31, 26, 104, 43, 21, 5, 51, 96]
abbrev dktJ22_hashCode_2_0 : List UInt8 := dkwJ22_hashCode_2_0 ++ dktJ22_hashCode_2_1
theorem dksJ22_hashCode_2_0 : cJ22_hashCode_2.data.toList.drop 0 = dktJ22_hashCode_2_0 := by decide +kernel
theorem dksJ22_hashCode_2_1 : cJ22_hashCode_2.data.toList.drop 24 = dktJ22_hashCode_2_1 := dk_seg dksJ22_hashCode_2_0 24 rfl rfl
theorem dJ22_hashCode_2_0 : decode cJ22_hashCode_2 0 = .ok (.iload_n 2, 1) := dk_28 (dk_at dksJ22_hashCode_2_0 0 rfl rfl)
theorem dJ22_hashCode_2_1 : decode cJ22_hashCode_2 1 = .ok (.iload_n 3, 1) := dk_29 (dk_at dksJ22_hashCode_2_0 1 rfl rfl)
theorem dJ22_hashCode_2_2 : decode cJ22_hashCode_2 2 = .ok (.iadd, 1) := dk_96 (dk_at dksJ22_hashCode_2_0 2 rfl rfl)
theorem dJ22_hashCode_2_3 : decode cJ22_hashCode_2 3 = .ok (.istore 4, 2) := dk_54 4 (dk_at dksJ22_hashCode_2_0 3 rfl rfl)
theorem dJ22_hashCode_2_5 : decode cJ22_hashCode_2 5 = .ok (.iload_n 2, 1) := dk_28 (dk_at dksJ22_hashCode_2_0 5 rfl rfl)
theorem dJ22_hashCode_2_6 : decode cJ22_hashCode_2 6 = .ok (.istore 5, 2) := dk_54 5 (dk_at dksJ22_hashCode_2_0 6 rfl rfl)
theorem dJ22_hashCode_2_8 : decode cJ22_hashCode_2 8 = .ok (.iload 5, 2) := dk_21 5 (dk_at dksJ22_hashCode_2_0 8 rfl rfl)
theorem dJ22_hashCode_2_10 : decode cJ22_hashCode_2 10 = .ok (.iload 4, 2) := dk_21 4 (dk_at dksJ22_hashCode_2_0 10 rfl rfl)
theorem dJ22_hashCode_2_12 : decode cJ22_hashCode_2 12 = .ok (.if_icmp .ge 19, 3) := dk_162 0 19 (dk_at dksJ22_hashCode_2_0 12 rfl rfl)
theorem dJ22_hashCode_2_15 : decode cJ22_hashCode_2 15 = .ok (.bipush 31, 2) := dk_16 31 (dk_at dksJ22_hashCode_2_0 15 rfl rfl)
theorem dJ22_hashCode_2_17 : decode cJ22_hashCode_2 17 = .ok (.iload_n 0, 1) := dk_26 (dk_at dksJ22_hashCode_2_0 17 rfl rfl)
theorem dJ22_hashCode_2_18 : decode cJ22_hashCode_2 18 = .ok (.imul, 1) := dk_104 (dk_at dksJ22_hashCode_2_0 18 rfl rfl)
theorem dJ22_hashCode_2_19 : decode cJ22_hashCode_2 19 = .ok (.aload_n 1, 1) := dk_43 (dk_at dksJ22_hashCode_2_0 19 rfl rfl)
theorem dJ22_hashCode_2_20 : decode cJ22_hashCode_2 20 = .ok (.iload 5, 2) := dk_21 5 (dk_at dksJ22_hashCode_2_0 20 rfl rfl)
theorem dJ22_hashCode_2_22 : decode cJ22_hashCode_2 22 = .ok (.baload, 1) := dk_51 (dk_at dksJ22_hashCode_2_0 22 rfl rfl)
theorem dJ22_hashCode_2_23 : decode cJ22_hashCode_2 23 = .ok (.iadd, 1) := dk_96 (dk_at dksJ22_hashCode_2_0 23 rfl rfl)
theorem dJ22_hashCode_2_24 : decode cJ22_hashCode_2 24 = .ok (.istore_n 0, 1) := dk_59 (dk_at dksJ22_hashCode_2_1 0 rfl rfl)
theorem dJ22_hashCode_2_25 : decode cJ22_hashCode_2 25 = .ok (.iinc 5 1, 3) := dk_132 5 1 (dk_at dksJ22_hashCode_2_1 1 rfl rfl)
theorem dJ22_hashCode_2_28 : decode cJ22_hashCode_2 28 = .ok (.goto (-20), 3) := dk_167 255 236 (dk_at dksJ22_hashCode_2_1 4 rfl rfl)
theorem dJ22_hashCode_2_31 : decode cJ22_hashCode_2 31 = .ok (.iload_n 0, 1) := dk_26 (dk_at dksJ22_hashCode_2_1 7 rfl rfl)
theorem dJ22_hashCode_2_32 : decode cJ22_hashCode_2 32 = .ok (.ireturn, 1) := dk_172 (dk_at dksJ22_hashCode_2_1 8 rfl rfl)
abbrev cJ22_hashCode_3 : ByteArray := prog_69_method_8_code
def yJ22_hashCode_3 : MethodName := ⟨RJ22, "hashCode", "(I[SII)I"⟩
def dkwJ22_hashCode_3_1 : List UInt8 := [59, 132, 5, 1, 167, 255, 236, 26, 172]
abbrev dktJ22_hashCode_3_1 : List UInt8 := dkwJ22_hashCode_3_1 ++ []
def dkwJ22_hashCode_3_0 : List UInt8 := [28, 29, 96, 54, 4, 28, 54, 5, 21, 5, 21, 4, 162, 0, 19, 16, 31, 26, 104, 43, 21, 5, 53, 96]
abbrev dktJ22_hashCode_3_0 : List UInt8 := dkwJ22_hashCode_3_0 ++ dktJ22_hashCode_3_1
theorem dksJ22_hashCode_3_0 : cJ22_hashCode_3.data.toList.drop 0 = dktJ22_hashCode_3_0 := by decide +kernel
theorem dksJ22_hashCode_3_1 : cJ22_hashCode_3.data.toList.drop 24 = dktJ22_hashCode_3_1 := dk_seg dksJ22_hashCode_3_0 24 rfl rfl
theorem dJ22_hashCode_3_0 : decode cJ22_hashCode_3 0 = .ok (.iload_n 2, 1) := dk_28 (dk_at dksJ22_hashCode_3_0 0 rfl rfl)
theorem dJ22_hashCode_3_1 : decode cJ22_hashCode_3 1 = .ok (.iload_n 3, 1) := dk_29 (dk_at dksJ22_hashCode_3_0 1 rfl rfl)
theorem dJ22_hashCode_3_2 : decode cJ22_hashCode_3 2 = .ok (.iadd, 1) := dk_96 (dk_at dksJ22_hashCode_3_0 2 rfl rfl)
theorem dJ22_hashCode_3_3 : decode cJ22_hashCode_3 3 = .ok (.istore 4, 2) := dk_54 4 (dk_at dksJ22_hashCode_3_0 3 rfl rfl)
theorem dJ22_hashCode_3_5 : decode cJ22_hashCode_3 5 = .ok (.iload_n 2, 1) := dk_28 (dk_at dksJ22_hashCode_3_0 5 rfl rfl)
theorem dJ22_hashCode_3_6 : decode cJ22_hashCode_3 6 = .ok (.istore 5, 2) := dk_54 5 (dk_at dksJ22_hashCode_3_0 6 rfl rfl)
theorem dJ22_hashCode_3_8 : decode cJ22_hashCode_3 8 = .ok (.iload 5, 2) := dk_21 5 (dk_at dksJ22_hashCode_3_0 8 rfl rfl)
theorem dJ22_hashCode_3_10 : decode cJ22_hashCode_3 10 = .ok (.iload 4, 2) := dk_21 4 (dk_at dksJ22_hashCode_3_0 10 rfl rfl)
theorem dJ22_hashCode_3_12 : decode cJ22_hashCode_3 12 = .ok (.if_icmp .ge 19, 3) := dk_162 0 19 (dk_at dksJ22_hashCode_3_0 12 rfl rfl)
theorem dJ22_hashCode_3_15 : decode cJ22_hashCode_3 15 = .ok (.bipush 31, 2) := dk_16 31 (dk_at dksJ22_hashCode_3_0 15 rfl rfl)
theorem dJ22_hashCode_3_17 : decode cJ22_hashCode_3 17 = .ok (.iload_n 0, 1) := dk_26 (dk_at dksJ22_hashCode_3_0 17 rfl rfl)
theorem dJ22_hashCode_3_18 : decode cJ22_hashCode_3 18 = .ok (.imul, 1) := dk_104 (dk_at dksJ22_hashCode_3_0 18 rfl rfl)
theorem dJ22_hashCode_3_19 : decode cJ22_hashCode_3 19 = .ok (.aload_n 1, 1) := dk_43 (dk_at dksJ22_hashCode_3_0 19 rfl rfl)
theorem dJ22_hashCode_3_20 : decode cJ22_hashCode_3 20 = .ok (.iload 5, 2) := dk_21 5 (dk_at dksJ22_hashCode_3_0 20 rfl rfl)
theorem dJ22_hashCode_3_22 : decode cJ22_hashCode_3 22 = .ok (.saload, 1) := dk_53 (dk_at dksJ22_hashCode_3_0 22 rfl rfl)
theorem dJ22_hashCode_3_23 : decode cJ22_hashCode_3 23 = .ok (.iadd, 1) := dk_96 (dk_at dksJ22_hashCode_3_0 23 rfl rfl)
theorem dJ22_hashCode_3_24 : decode cJ22_hashCode_3 24 = .ok (.istore_n 0, 1) := dk_59 (dk_at dksJ22_hashCode_3_1 0 rfl rfl)
theorem dJ22_hashCode_3_25 : decode cJ22_hashCode_3 25 = .ok (.iinc 5 1, 3) := dk_132 5 1 (dk_at dksJ22_hashCode_3_1 1 rfl rfl)
theorem dJ22_hashCode_3_28 : decode cJ22_hashCode_3 28 = .ok (.goto (-20), 3) := dk_167 255 236 (dk_at dksJ22_hashCode_3_1 4 rfl rfl)
theorem dJ22_hashCode_3_31 : decode cJ22_hashCode_3 31 = .ok (.iload_n 0, 1) := dk_26 (dk_at dksJ22_hashCode_3_1 7 rfl rfl)
theorem dJ22_hashCode_3_32 : decode cJ22_hashCode_3 32 = .ok (.ireturn, 1) := dk_172 (dk_at dksJ22_hashCode_3_1 8 rfl rfl)
abbrev cJ22_hashCode_4 : ByteArray := prog_69_method_9_code
def yJ22_hashCode_4 : MethodName := ⟨RJ22, "hashCode", "(I[III)I"⟩
def dkwJ22_hashCode_4_1 : List UInt8 := [59, 132, 5, 1, 167, 255, 236, 26, 172]
abbrev dktJ22_hashCode_4_1 : List UInt8 := dkwJ22_hashCode_4_1 ++ []
def dkwJ22_hashCode_4_0 : List UInt8 := [28, 29, 96, 54, 4, 28, 54, 5, 21, 5, 21, 4, 162, 0, 19, 16, 31, 26, 104, 43, 21, 5, 46, 96]
abbrev dktJ22_hashCode_4_0 : List UInt8 := dkwJ22_hashCode_4_0 ++ dktJ22_hashCode_4_1
theorem dksJ22_hashCode_4_0 : cJ22_hashCode_4.data.toList.drop 0 = dktJ22_hashCode_4_0 := by decide +kernel
theorem dksJ22_hashCode_4_1 : cJ22_hashCode_4.data.toList.drop 24 = dktJ22_hashCode_4_1 := dk_seg dksJ22_hashCode_4_0 24 rfl rfl
theorem dJ22_hashCode_4_0 : decode cJ22_hashCode_4 0 = .ok (.iload_n 2, 1) := dk_28 (dk_at dksJ22_hashCode_4_0 0 rfl rfl)
theorem dJ22_hashCode_4_1 : decode cJ22_hashCode_4 1 = .ok (.iload_n 3, 1) := dk_29 (dk_at dksJ22_hashCode_4_0 1 rfl rfl)
theorem dJ22_hashCode_4_2 : decode cJ22_hashCode_4 2 = .ok (.iadd, 1) := dk_96 (dk_at dksJ22_hashCode_4_0 2 rfl rfl)
theorem dJ22_hashCode_4_3 : decode cJ22_hashCode_4 3 = .ok (.istore 4, 2) := dk_54 4 (dk_at dksJ22_hashCode_4_0 3 rfl rfl)
theorem dJ22_hashCode_4_5 : decode cJ22_hashCode_4 5 = .ok (.iload_n 2, 1) := dk_28 (dk_at dksJ22_hashCode_4_0 5 rfl rfl)
theorem dJ22_hashCode_4_6 : decode cJ22_hashCode_4 6 = .ok (.istore 5, 2) := dk_54 5 (dk_at dksJ22_hashCode_4_0 6 rfl rfl)
theorem dJ22_hashCode_4_8 : decode cJ22_hashCode_4 8 = .ok (.iload 5, 2) := dk_21 5 (dk_at dksJ22_hashCode_4_0 8 rfl rfl)
theorem dJ22_hashCode_4_10 : decode cJ22_hashCode_4 10 = .ok (.iload 4, 2) := dk_21 4 (dk_at dksJ22_hashCode_4_0 10 rfl rfl)
theorem dJ22_hashCode_4_12 : decode cJ22_hashCode_4 12 = .ok (.if_icmp .ge 19, 3) := dk_162 0 19 (dk_at dksJ22_hashCode_4_0 12 rfl rfl)
theorem dJ22_hashCode_4_15 : decode cJ22_hashCode_4 15 = .ok (.bipush 31, 2) := dk_16 31 (dk_at dksJ22_hashCode_4_0 15 rfl rfl)
theorem dJ22_hashCode_4_17 : decode cJ22_hashCode_4 17 = .ok (.iload_n 0, 1) := dk_26 (dk_at dksJ22_hashCode_4_0 17 rfl rfl)
theorem dJ22_hashCode_4_18 : decode cJ22_hashCode_4 18 = .ok (.imul, 1) := dk_104 (dk_at dksJ22_hashCode_4_0 18 rfl rfl)
theorem dJ22_hashCode_4_19 : decode cJ22_hashCode_4 19 = .ok (.aload_n 1, 1) := dk_43 (dk_at dksJ22_hashCode_4_0 19 rfl rfl)
theorem dJ22_hashCode_4_20 : decode cJ22_hashCode_4 20 = .ok (.iload 5, 2) := dk_21 5 (dk_at dksJ22_hashCode_4_0 20 rfl rfl)
theorem dJ22_hashCode_4_22 : decode cJ22_hashCode_4 22 = .ok (.iaload, 1) := dk_46 (dk_at dksJ22_hashCode_4_0 22 rfl rfl)
theorem dJ22_hashCode_4_23 : decode cJ22_hashCode_4 23 = .ok (.iadd, 1) := dk_96 (dk_at dksJ22_hashCode_4_0 23 rfl rfl)
theorem dJ22_hashCode_4_24 : decode cJ22_hashCode_4 24 = .ok (.istore_n 0, 1) := dk_59 (dk_at dksJ22_hashCode_4_1 0 rfl rfl)
theorem dJ22_hashCode_4_25 : decode cJ22_hashCode_4 25 = .ok (.iinc 5 1, 3) := dk_132 5 1 (dk_at dksJ22_hashCode_4_1 1 rfl rfl)
theorem dJ22_hashCode_4_28 : decode cJ22_hashCode_4 28 = .ok (.goto (-20), 3) := dk_167 255 236 (dk_at dksJ22_hashCode_4_1 4 rfl rfl)
theorem dJ22_hashCode_4_31 : decode cJ22_hashCode_4 31 = .ok (.iload_n 0, 1) := dk_26 (dk_at dksJ22_hashCode_4_1 7 rfl rfl)
theorem dJ22_hashCode_4_32 : decode cJ22_hashCode_4 32 = .ok (.ireturn, 1) := dk_172 (dk_at dksJ22_hashCode_4_1 8 rfl rfl)
theorem q123 : (Jvm.Cond.initialized "jdk/internal/util/ArraysSupport") ∈ lw_all := lw_g (lw_at lw_m1 30 rfl) rfl
theorem q737 : (Jvm.Cond.static ({ cls := "jdk/internal/util/ArraysSupport", name := "newLength", desc := "(III)I" } : Jvm.MethodName)) ∈ lw_all := lw_g (lw_at lw_m3 164 rfl) rfl
theorem q738 : (Jvm.Cond.code ({ cls := "jdk/internal/util/ArraysSupport", name := "newLength", desc := "(III)I" } : Jvm.MethodName) prog_69_method_27_code (4 : Nat) (Option.some Jvm.ClassFile.FieldType.int)) ∈ lw_all := lw_g (lw_at lw_m3 165 rfl) rfl
theorem q739 : (Jvm.Cond.methodLink "jdk/internal/util/ArraysSupport" (194 : Nat) ({ cls := "java/lang/Math", name := "max", desc := "(II)I" } : Jvm.MethodName)) ∈ lw_all := lw_g (lw_at lw_m3 166 rfl) rfl
theorem q740 : (Jvm.Cond.constant "jdk/internal/util/ArraysSupport" (200 : Nat) (2147483639 : Int32)) ∈ lw_all := lw_g (lw_at lw_m3 167 rfl) rfl
theorem q741 : (Jvm.Cond.methodLink "jdk/internal/util/ArraysSupport" (201 : Nat) ({ cls := "jdk/internal/util/ArraysSupport", name := "hugeLength", desc := "(II)I" } : Jvm.MethodName)) ∈ lw_all := lw_g (lw_at lw_m3 168 rfl) rfl
theorem q742 : (Jvm.Cond.static ({ cls := "jdk/internal/util/ArraysSupport", name := "hugeLength", desc := "(II)I" } : Jvm.MethodName)) ∈ lw_all := lw_g (lw_at lw_m3 169 rfl) rfl
theorem q743 : (Jvm.Cond.code ({ cls := "jdk/internal/util/ArraysSupport", name := "hugeLength", desc := "(II)I" } : Jvm.MethodName) prog_69_method_28_code (3 : Nat) (Option.some Jvm.ClassFile.FieldType.int)) ∈ lw_all := lw_g (lw_at lw_m3 170 rfl) rfl
theorem q1708 : (Jvm.Cond.static ({ cls := "jdk/internal/util/ArraysSupport", name := "vectorizedHashCode", desc := "(Ljava/lang/Object;IIII)I" } : Jvm.MethodName)) ∈ lw_all := lw_g (lw_at lw_m7 175 rfl) rfl
theorem q1709 : (Jvm.Cond.code ({ cls := "jdk/internal/util/ArraysSupport", name := "vectorizedHashCode", desc := "(Ljava/lang/Object;IIII)I" } : Jvm.MethodName) prog_69_method_4_code (5 : Nat) (Option.some Jvm.ClassFile.FieldType.int)) ∈ lw_all := lw_g (lw_at lw_m7 176 rfl) rfl
theorem q1710 : (Jvm.Cond.classLink "jdk/internal/util/ArraysSupport" (60 : Nat) "[B") ∈ lw_all := lw_g (lw_at lw_m7 177 rfl) rfl
theorem q1711 : (Jvm.Cond.methodLink "jdk/internal/util/ArraysSupport" (62 : Nat) ({ cls := "jdk/internal/util/ArraysSupport", name := "signedHashCode", desc := "(I[BII)I" } : Jvm.MethodName)) ∈ lw_all := lw_g (lw_at lw_m7 178 rfl) rfl
theorem q1712 : (Jvm.Cond.static ({ cls := "jdk/internal/util/ArraysSupport", name := "signedHashCode", desc := "(I[BII)I" } : Jvm.MethodName)) ∈ lw_all := lw_g (lw_at lw_m7 179 rfl) rfl
theorem q1713 : (Jvm.Cond.code ({ cls := "jdk/internal/util/ArraysSupport", name := "signedHashCode", desc := "(I[BII)I" } : Jvm.MethodName) prog_69_method_5_code (6 : Nat) (Option.some Jvm.ClassFile.FieldType.int)) ∈ lw_all := lw_g (lw_at lw_m7 180 rfl) rfl
theorem q1714 : (Jvm.Cond.methodLink "jdk/internal/util/ArraysSupport" (66 : Nat) ({ cls := "jdk/internal/util/ArraysSupport", name := "utf16hashCode", desc := "(I[BII)I" } : Jvm.MethodName)) ∈ lw_all := lw_g (lw_at lw_m7 181 rfl) rfl
theorem q1715 : (Jvm.Cond.static ({ cls := "jdk/internal/util/ArraysSupport", name := "utf16hashCode", desc := "(I[BII)I" } : Jvm.MethodName)) ∈ lw_all := lw_g (lw_at lw_m7 182 rfl) rfl
theorem q1716 : (Jvm.Cond.code ({ cls := "jdk/internal/util/ArraysSupport", name := "utf16hashCode", desc := "(I[BII)I" } : Jvm.MethodName) prog_69_method_10_code (6 : Nat) (Option.some Jvm.ClassFile.FieldType.int)) ∈ lw_all := lw_g (lw_at lw_m7 183 rfl) rfl
theorem q1717 : (Jvm.Cond.fieldLink "jdk/internal/util/ArraysSupport" (106 : Nat) "jdk/internal/util/ArraysSupport" "JLA" "Ljdk/internal/access/JavaLangAccess;") ∈ lw_all := lw_g (lw_at lw_m7 184 rfl) rfl
theorem q1718 : (Jvm.Cond.laysStatic "jdk/internal/util/ArraysSupport" "JLA" "Ljdk/internal/access/JavaLangAccess;") ∈ lw_tbl := lw_at lw_m7 185 rfl
theorem q1719 : (Jvm.Cond.interfaceEntry "jdk/internal/util/ArraysSupport" (110 : Nat)) ∈ lw_tbl := lw_at lw_m7 186 rfl
theorem q1720 : (Jvm.Cond.methodLink "jdk/internal/util/ArraysSupport" (110 : Nat) ({ cls := "jdk/internal/access/JavaLangAccess", name := "getUTF16Char", desc := "([BI)C" } : Jvm.MethodName)) ∈ lw_all := lw_g (lw_at lw_m7 187 rfl) rfl
theorem q1730 : (Jvm.Cond.classLink "jdk/internal/util/ArraysSupport" (69 : Nat) "[C") ∈ lw_all := lw_g (lw_at lw_m7 197 rfl) rfl
theorem q1731 : (Jvm.Cond.methodLink "jdk/internal/util/ArraysSupport" (71 : Nat) ({ cls := "jdk/internal/util/ArraysSupport", name := "hashCode", desc := "(I[CII)I" } : Jvm.MethodName)) ∈ lw_all := lw_g (lw_at lw_m7 198 rfl) rfl
theorem q1732 : (Jvm.Cond.static ({ cls := "jdk/internal/util/ArraysSupport", name := "hashCode", desc := "(I[CII)I" } : Jvm.MethodName)) ∈ lw_all := lw_g (lw_at lw_m7 199 rfl) rfl
theorem q1733 : (Jvm.Cond.code ({ cls := "jdk/internal/util/ArraysSupport", name := "hashCode", desc := "(I[CII)I" } : Jvm.MethodName) prog_69_method_7_code (6 : Nat) (Option.some Jvm.ClassFile.FieldType.int)) ∈ lw_all := lw_g (lw_at lw_m7 200 rfl) rfl
theorem q1734 : (Jvm.Cond.methodLink "jdk/internal/util/ArraysSupport" (75 : Nat) ({ cls := "jdk/internal/util/ArraysSupport", name := "hashCode", desc := "(I[BII)I" } : Jvm.MethodName)) ∈ lw_all := lw_g (lw_at lw_m7 201 rfl) rfl
theorem q1735 : (Jvm.Cond.static ({ cls := "jdk/internal/util/ArraysSupport", name := "hashCode", desc := "(I[BII)I" } : Jvm.MethodName)) ∈ lw_all := lw_g (lw_at lw_m7 202 rfl) rfl
theorem q1736 : (Jvm.Cond.code ({ cls := "jdk/internal/util/ArraysSupport", name := "hashCode", desc := "(I[BII)I" } : Jvm.MethodName) prog_69_method_6_code (6 : Nat) (Option.some Jvm.ClassFile.FieldType.int)) ∈ lw_all := lw_g (lw_at lw_m7 203 rfl) rfl
theorem q1737 : (Jvm.Cond.classLink "jdk/internal/util/ArraysSupport" (77 : Nat) "[S") ∈ lw_all := lw_g (lw_at lw_m7 204 rfl) rfl
theorem q1738 : (Jvm.Cond.methodLink "jdk/internal/util/ArraysSupport" (79 : Nat) ({ cls := "jdk/internal/util/ArraysSupport", name := "hashCode", desc := "(I[SII)I" } : Jvm.MethodName)) ∈ lw_all := lw_g (lw_at lw_m7 205 rfl) rfl
theorem q1739 : (Jvm.Cond.static ({ cls := "jdk/internal/util/ArraysSupport", name := "hashCode", desc := "(I[SII)I" } : Jvm.MethodName)) ∈ lw_all := lw_g (lw_at lw_m7 206 rfl) rfl
theorem q1740 : (Jvm.Cond.code ({ cls := "jdk/internal/util/ArraysSupport", name := "hashCode", desc := "(I[SII)I" } : Jvm.MethodName) prog_69_method_8_code (6 : Nat) (Option.some Jvm.ClassFile.FieldType.int)) ∈ lw_all := lw_g (lw_at lw_m7 207 rfl) rfl
theorem q1741 : (Jvm.Cond.classLink "jdk/internal/util/ArraysSupport" (82 : Nat) "[I") ∈ lw_all := lw_g (lw_at lw_m7 208 rfl) rfl
theorem q1742 : (Jvm.Cond.methodLink "jdk/internal/util/ArraysSupport" (84 : Nat) ({ cls := "jdk/internal/util/ArraysSupport", name := "hashCode", desc := "(I[III)I" } : Jvm.MethodName)) ∈ lw_all := lw_g (lw_at lw_m7 209 rfl) rfl
theorem q1743 : (Jvm.Cond.static ({ cls := "jdk/internal/util/ArraysSupport", name := "hashCode", desc := "(I[III)I" } : Jvm.MethodName)) ∈ lw_all := lw_g (lw_at lw_m7 210 rfl) rfl
theorem q1744 : (Jvm.Cond.code ({ cls := "jdk/internal/util/ArraysSupport", name := "hashCode", desc := "(I[III)I" } : Jvm.MethodName) prog_69_method_9_code (6 : Nat) (Option.some Jvm.ClassFile.FieldType.int)) ∈ lw_all := lw_g (lw_at lw_m7 211 rfl) rfl
/-! java/lang/StringLatin1 -/
set_option maxRecDepth 100000
def RJ23 : String := "java/lang/StringLatin1"
abbrev cJ23_inflate : ByteArray := prog_36_method_50_code
def yJ23_inflate : MethodName := ⟨RJ23, "inflate", "([BI[BII)V"⟩
def dkwJ23_inflate_0 : List UInt8 := [42, 27, 44, 29, 21, 4, 184, 0, 240, 177]
abbrev dktJ23_inflate_0 : List UInt8 := dkwJ23_inflate_0 ++ []
theorem dksJ23_inflate_0 : cJ23_inflate.data.toList.drop 0 = dktJ23_inflate_0 := by decide +kernel
theorem dJ23_inflate_0 : decode cJ23_inflate 0 = .ok (.aload_n 0, 1) := dk_42 (dk_at dksJ23_inflate_0 0 rfl rfl)
theorem dJ23_inflate_1 : decode cJ23_inflate 1 = .ok (.iload_n 1, 1) := dk_27 (dk_at dksJ23_inflate_0 1 rfl rfl)
theorem dJ23_inflate_2 : decode cJ23_inflate 2 = .ok (.aload_n 2, 1) := dk_44 (dk_at dksJ23_inflate_0 2 rfl rfl)
theorem dJ23_inflate_3 : decode cJ23_inflate 3 = .ok (.iload_n 3, 1) := dk_29 (dk_at dksJ23_inflate_0 3 rfl rfl)
theorem dJ23_inflate_4 : decode cJ23_inflate 4 = .ok (.iload 4, 2) := dk_21 4 (dk_at dksJ23_inflate_0 4 rfl rfl)
theorem dJ23_inflate_6 : decode cJ23_inflate 6 = .ok (.invokestatic 240, 3) := dk_184 0 240 (dk_at dksJ23_inflate_0 6 rfl rfl)
theorem dJ23_inflate_9 : decode cJ23_inflate 9 = .ok (.return_, 1) := dk_177 (dk_at dksJ23_inflate_0 9 rfl rfl)
abbrev cJ23_canEncode : ByteArray := prog_36_method_3_code
def yJ23_canEncode : MethodName := ⟨RJ23, "canEncode", "(C)Z"⟩
def dkwJ23_canEncode_0 : List UInt8 := [26, 17, 0, 255, 163, 0, 7, 4, 167, 0, 4, 3, 172]
abbrev dktJ23_canEncode_0 : List UInt8 := dkwJ23_canEncode_0 ++ []
theorem dksJ23_canEncode_0 : cJ23_canEncode.data.toList.drop 0 = dktJ23_canEncode_0 := by decide +kernel
theorem dJ23_canEncode_0 : decode cJ23_canEncode 0 = .ok (.iload_n 0, 1) := dk_26 (dk_at dksJ23_canEncode_0 0 rfl rfl)
theorem dJ23_canEncode_1 : decode cJ23_canEncode 1 = .ok (.sipush 255, 3) := dk_17 0 255 (dk_at dksJ23_canEncode_0 1 rfl rfl)
theorem dJ23_canEncode_4 : decode cJ23_canEncode 4 = .ok (.if_icmp .gt 7, 3) := dk_163 0 7 (dk_at dksJ23_canEncode_0 4 rfl rfl)
theorem dJ23_canEncode_7 : decode cJ23_canEncode 7 = .ok (.iconst 1, 1) := dk_4 (dk_at dksJ23_canEncode_0 7 rfl rfl)
theorem dJ23_canEncode_8 : decode cJ23_canEncode 8 = .ok (.goto 4, 3) := dk_167 0 4 (dk_at dksJ23_canEncode_0 8 rfl rfl)
theorem dJ23_canEncode_11 : decode cJ23_canEncode 11 = .ok (.iconst 0, 1) := dk_3 (dk_at dksJ23_canEncode_0 11 rfl rfl)
theorem dJ23_canEncode_12 : decode cJ23_canEncode 12 = .ok (.ireturn, 1) := dk_172 (dk_at dksJ23_canEncode_0 12 rfl rfl)
abbrev cJ23_charAt : ByteArray := prog_36_method_2_code
def yJ23_charAt : MethodName := ⟨RJ23, "charAt", "([BI)C"⟩
def dkwJ23_charAt_0 : List UInt8 := [27, 42, 190, 184, 0, 9, 42, 27, 51, 17, 0, 255, 126, 146, 172]
abbrev dktJ23_charAt_0 : List UInt8 := dkwJ23_charAt_0 ++ []
theorem dksJ23_charAt_0 : cJ23_charAt.data.toList.drop 0 = dktJ23_charAt_0 := by decide +kernel
theorem dJ23_charAt_0 : decode cJ23_charAt 0 = .ok (.iload_n 1, 1) := dk_27 (dk_at dksJ23_charAt_0 0 rfl rfl)
theorem dJ23_charAt_1 : decode cJ23_charAt 1 = .ok (.aload_n 0, 1) := dk_42 (dk_at dksJ23_charAt_0 1 rfl rfl)
theorem dJ23_charAt_2 : decode cJ23_charAt 2 = .ok (.arraylength, 1) := dk_190 (dk_at dksJ23_charAt_0 2 rfl rfl)
theorem dJ23_charAt_3 : decode cJ23_charAt 3 = .ok (.invokestatic 9, 3) := dk_184 0 9 (dk_at dksJ23_charAt_0 3 rfl rfl)
theorem dJ23_charAt_6 : decode cJ23_charAt 6 = .ok (.aload_n 0, 1) := dk_42 (dk_at dksJ23_charAt_0 6 rfl rfl)
theorem dJ23_charAt_7 : decode cJ23_charAt 7 = .ok (.iload_n 1, 1) := dk_27 (dk_at dksJ23_charAt_0 7 rfl rfl)
theorem dJ23_charAt_8 : decode cJ23_charAt 8 = .ok (.baload, 1) := dk_51 (dk_at dksJ23_charAt_0 8 rfl rfl)
theorem dJ23_charAt_9 : decode cJ23_charAt 9 = .ok (.sipush 255, 3) := dk_17 0 255 (dk_at dksJ23_charAt_0 9 rfl rfl)
theorem dJ23_charAt_12 : decode cJ23_charAt 12 = .ok (.iand, 1) := dk_126 (dk_at dksJ23_charAt_0 12 rfl rfl)
theorem dJ23_charAt_13 : decode cJ23_charAt 13 = .ok (.i2c, 1) := dk_146 (dk_at dksJ23_charAt_0 13 rfl rfl)
theorem dJ23_charAt_14 : decode cJ23_charAt 14 = .ok (.ireturn, 1) := dk_172 (dk_at dksJ23_charAt_0 14 rfl rfl)
abbrev cJ23_hashCode : ByteArray := prog_36_method_21_code
def yJ23_hashCode : MethodName := ⟨RJ23, "hashCode", "([B)I"⟩
def dkwJ23_hashCode_2 : List UInt8 := [3, 167, 0, 22, 42, 3, 51, 17, 0, 255, 126, 167, 0, 12, 42, 3, 42, 190, 3, 7, 184, 0, 84, 172]
abbrev dktJ23_hashCode_2 : List UInt8 := dkwJ23_hashCode_2 ++ []
def dkwJ23_hashCode_1 : List UInt8 := [171, 0, 0, 0, 0, 40, 0, 0, 0, 2, 0, 0, 0, 0, 0, 0, 0, 26, 0, 0, 0, 1, 0, 0, 0, 30]
abbrev dktJ23_hashCode_1 : List UInt8 := dkwJ23_hashCode_1 ++ dktJ23_hashCode_2
def dkwJ23_hashCode_0 : List UInt8 := [42, 190]
abbrev dktJ23_hashCode_0 : List UInt8 := dkwJ23_hashCode_0 ++ dktJ23_hashCode_1
theorem dksJ23_hashCode_0 : cJ23_hashCode.data.toList.drop 0 = dktJ23_hashCode_0 := by decide +kernel
theorem dksJ23_hashCode_1 : cJ23_hashCode.data.toList.drop 2 = dktJ23_hashCode_1 := dk_seg dksJ23_hashCode_0 2 rfl rfl
theorem dksJ23_hashCode_2 : cJ23_hashCode.data.toList.drop 28 = dktJ23_hashCode_2 := dk_seg dksJ23_hashCode_1 26 rfl rfl
theorem dJ23_hashCode_0 : decode cJ23_hashCode 0 = .ok (.aload_n 0, 1) := dk_42 (dk_at dksJ23_hashCode_0 0 rfl rfl)
theorem dJ23_hashCode_1 : decode cJ23_hashCode 1 = .ok (.arraylength, 1) := dk_190 (dk_at dksJ23_hashCode_0 1 rfl rfl)
theorem dJ23_hashCode_2 : decode cJ23_hashCode 2 = .ok (.lookupswitch 40 #[(0, 26), (1, 30)], 26) := by decide +kernel
theorem dJ23_hashCode_28 : decode cJ23_hashCode 28 = .ok (.iconst 0, 1) := dk_3 (dk_at dksJ23_hashCode_2 0 rfl rfl)
theorem dJ23_hashCode_29 : decode cJ23_hashCode 29 = .ok (.goto 22, 3) := dk_167 0 22 (dk_at dksJ23_hashCode_2 1 rfl rfl)
theorem dJ23_hashCode_32 : decode cJ23_hashCode 32 = .ok (.aload_n 0, 1) := dk_42 (dk_at dksJ23_hashCode_2 4 rfl rfl)
theorem dJ23_hashCode_33 : decode cJ23_hashCode 33 = .ok (.iconst 0, 1) := dk_3 (dk_at dksJ23_hashCode_2 5 rfl rfl)
theorem dJ23_hashCode_34 : decode cJ23_hashCode 34 = .ok (.baload, 1) := dk_51 (dk_at dksJ23_hashCode_2 6 rfl rfl)
theorem dJ23_hashCode_35 : decode cJ23_hashCode 35 = .ok (.sipush 255, 3) := dk_17 0 255 (dk_at dksJ23_hashCode_2 7 rfl rfl)
theorem dJ23_hashCode_38 : decode cJ23_hashCode 38 = .ok (.iand, 1) := dk_126 (dk_at dksJ23_hashCode_2 10 rfl rfl)
theorem dJ23_hashCode_39 : decode cJ23_hashCode 39 = .ok (.goto 12, 3) := dk_167 0 12 (dk_at dksJ23_hashCode_2 11 rfl rfl)
theorem dJ23_hashCode_42 : decode cJ23_hashCode 42 = .ok (.aload_n 0, 1) := dk_42 (dk_at dksJ23_hashCode_2 14 rfl rfl)
theorem dJ23_hashCode_43 : decode cJ23_hashCode 43 = .ok (.iconst 0, 1) := dk_3 (dk_at dksJ23_hashCode_2 15 rfl rfl)
theorem dJ23_hashCode_44 : decode cJ23_hashCode 44 = .ok (.aload_n 0, 1) := dk_42 (dk_at dksJ23_hashCode_2 16 rfl rfl)
theorem dJ23_hashCode_45 : decode cJ23_hashCode 45 = .ok (.arraylength, 1) := dk_190 (dk_at dksJ23_hashCode_2 17 rfl rfl)
theorem dJ23_hashCode_46 : decode cJ23_hashCode 46 = .ok (.iconst 0, 1) := dk_3 (dk_at dksJ23_hashCode_2 18 rfl rfl)
theorem dJ23_hashCode_47 : decode cJ23_hashCode 47 = .ok (.iconst 4, 1) := dk_7 (dk_at dksJ23_hashCode_2 19 rfl rfl)
theorem dJ23_hashCode_48 : decode cJ23_hashCode 48 = .ok (.invokestatic 84, 3) := dk_184 0 84 (dk_at dksJ23_hashCode_2 20 rfl rfl)
theorem dJ23_hashCode_51 : decode cJ23_hashCode 51 = .ok (.ireturn, 1) := dk_172 (dk_at dksJ23_hashCode_2 23 rfl rfl)
abbrev cJ23_equals : ByteArray := prog_36_method_13_code
def yJ23_equals : MethodName := ⟨RJ23, "equals", "([B[B)Z"⟩
def dkwJ23_equals_1 : List UInt8 := [3, 172, 132, 2, 1, 167, 255, 236, 4, 172, 3, 172]
abbrev dktJ23_equals_1 : List UInt8 := dkwJ23_equals_1 ++ []
def dkwJ23_equals_0 : List UInt8 := [42, 190, 43, 190, 160, 0, 30, 3, 61, 28, 42, 190, 162, 0, 20, 42, 28, 51, 43, 28, 51, 159, 0, 5]
abbrev dktJ23_equals_0 : List UInt8 := dkwJ23_equals_0 ++ dktJ23_equals_1
theorem dksJ23_equals_0 : cJ23_equals.data.toList.drop 0 = dktJ23_equals_0 := by decide +kernel
theorem dksJ23_equals_1 : cJ23_equals.data.toList.drop 24 = dktJ23_equals_1 := dk_seg dksJ23_equals_0 24 rfl rfl
theorem dJ23_equals_0 : decode cJ23_equals 0 = .ok (.aload_n 0, 1) := dk_42 (dk_at dksJ23_equals_0 0 rfl rfl)
theorem dJ23_equals_1 : decode cJ23_equals 1 = .ok (.arraylength, 1) := dk_190 (dk_at dksJ23_equals_0 1 rfl rfl)
theorem dJ23_equals_2 : decode cJ23_equals 2 = .ok (.aload_n 1, 1) := dk_43 (dk_at dksJ23_equals_0 2 rfl rfl)
theorem dJ23_equals_3 : decode cJ23_equals 3 = .ok (.arraylength, 1) := dk_190 (dk_at dksJ23_equals_0 3 rfl rfl)
theorem dJ23_equals_4 : decode cJ23_equals 4 = .ok (.if_icmp .ne 30, 3) := dk_160 0 30 (dk_at dksJ23_equals_0 4 rfl rfl)
theorem dJ23_equals_7 : decode cJ23_equals 7 = .ok (.iconst 0, 1) := dk_3 (dk_at dksJ23_equals_0 7 rfl rfl)
theorem dJ23_equals_8 : decode cJ23_equals 8 = .ok (.istore_n 2, 1) := dk_61 (dk_at dksJ23_equals_0 8 rfl rfl)
theorem dJ23_equals_9 : decode cJ23_equals 9 = .ok (.iload_n 2, 1) := dk_28 (dk_at dksJ23_equals_0 9 rfl rfl)
theorem dJ23_equals_10 : decode cJ23_equals 10 = .ok (.aload_n 0, 1) := dk_42 (dk_at dksJ23_equals_0 10 rfl rfl)
theorem dJ23_equals_11 : decode cJ23_equals 11 = .ok (.arraylength, 1) := dk_190 (dk_at dksJ23_equals_0 11 rfl rfl)
theorem dJ23_equals_12 : decode cJ23_equals 12 = .ok (.if_icmp .ge 20, 3) := dk_162 0 20 (dk_at dksJ23_equals_0 12 rfl rfl)
theorem dJ23_equals_15 : decode cJ23_equals 15 = .ok (.aload_n 0, 1) := dk_42 (dk_at dksJ23_equals_0 15 rfl rfl)
theorem dJ23_equals_16 : decode cJ23_equals 16 = .ok (.iload_n 2, 1) := dk_28 (dk_at dksJ23_equals_0 16 rfl rfl)
theorem dJ23_equals_17 : decode cJ23_equals 17 = .ok (.baload, 1) := dk_51 (dk_at dksJ23_equals_0 17 rfl rfl)
theorem dJ23_equals_18 : decode cJ23_equals 18 = .ok (.aload_n 1, 1) := dk_43 (dk_at dksJ23_equals_0 18 rfl rfl)
theorem dJ23_equals_19 : decode cJ23_equals 19 = .ok (.iload_n 2, 1) := dk_28 (dk_at dksJ23_equals_0 19 rfl rfl)
theorem dJ23_equals_20 : decode cJ23_equals 20 = .ok (.baload, 1) := dk_51 (dk_at dksJ23_equals_0 20 rfl rfl)
theorem dJ23_equals_21 : decode cJ23_equals 21 = .ok (.if_icmp .eq 5, 3) := dk_159 0 5 (dk_at dksJ23_equals_0 21 rfl rfl)
theorem dJ23_equals_24 : decode cJ23_equals 24 = .ok (.iconst 0, 1) := dk_3 (dk_at dksJ23_equals_1 0 rfl rfl)
theorem dJ23_equals_25 : decode cJ23_equals 25 = .ok (.ireturn, 1) := dk_172 (dk_at dksJ23_equals_1 1 rfl rfl)
theorem dJ23_equals_26 : decode cJ23_equals 26 = .ok (.iinc 2 1, 3) := dk_132 2 1 (dk_at dksJ23_equals_1 2 rfl rfl)
theorem dJ23_equals_29 : decode cJ23_equals 29 = .ok (.goto (-20), 3) := dk_167 255 236 (dk_at dksJ23_equals_1 5 rfl rfl)
theorem dJ23_equals_32 : decode cJ23_equals 32 = .ok (.iconst 1, 1) := dk_4 (dk_at dksJ23_equals_1 8 rfl rfl)
theorem dJ23_equals_33 : decode cJ23_equals 33 = .ok (.ireturn, 1) := dk_172 (dk_at dksJ23_equals_1 9 rfl rfl)
theorem dJ23_equals_34 : decode cJ23_equals 34 = .ok (.iconst 0, 1) := dk_3 (dk_at dksJ23_equals_1 10 rfl rfl)
theorem dJ23_equals_35 : decode cJ23_equals 35 = .ok (.ireturn, 1) := dk_172 (dk_at dksJ23_equals_1 11 rfl rfl)
abbrev cJ23_fillNull : ByteArray := prog_36_method_48_code
def yJ23_fillNull : MethodName := ⟨RJ23, "fillNull", "([BII)V"⟩
def dkwJ23_fillNull_0 : List UInt8 := [42, 27, 28, 3, 184, 0, 236, 177]
abbrev dktJ23_fillNull_0 : List UInt8 := dkwJ23_fillNull_0 ++ []
theorem dksJ23_fillNull_0 : cJ23_fillNull.data.toList.drop 0 = dktJ23_fillNull_0 := by decide +kernel
theorem dJ23_fillNull_0 : decode cJ23_fillNull 0 = .ok (.aload_n 0, 1) := dk_42 (dk_at dksJ23_fillNull_0 0 rfl rfl)
theorem dJ23_fillNull_1 : decode cJ23_fillNull 1 = .ok (.iload_n 1, 1) := dk_27 (dk_at dksJ23_fillNull_0 1 rfl rfl)
theorem dJ23_fillNull_2 : decode cJ23_fillNull 2 = .ok (.iload_n 2, 1) := dk_28 (dk_at dksJ23_fillNull_0 2 rfl rfl)
theorem dJ23_fillNull_3 : decode cJ23_fillNull 3 = .ok (.iconst 0, 1) := dk_3 (dk_at dksJ23_fillNull_0 3 rfl rfl)
theorem dJ23_fillNull_4 : decode cJ23_fillNull 4 = .ok (.invokestatic 236, 3) := dk_184 0 236 (dk_at dksJ23_fillNull_0 4 rfl rfl)
theorem dJ23_fillNull_7 : decode cJ23_fillNull 7 = .ok (.return_, 1) := dk_177 (dk_at dksJ23_fillNull_0 7 rfl rfl)
theorem q124 : (Jvm.Cond.initialized "java/lang/StringLatin1") ∈ lw_all := lw_g (lw_at lw_m1 31 rfl) rfl
theorem q807 : (Jvm.Cond.static ({ cls := "java/lang/StringLatin1", name := "inflate", desc := "([BI[BII)V" } : Jvm.MethodName)) ∈ lw_all := lw_g (lw_at lw_m3 234 rfl) rfl
theorem q808 : (Jvm.Cond.code ({ cls := "java/lang/StringLatin1", name := "inflate", desc := "([BI[BII)V" } : Jvm.MethodName) prog_36_method_50_code (5 : Nat) (Option.none : Option Jvm.ClassFile.FieldType)) ∈ lw_all := lw_g (lw_at lw_m3 235 rfl) rfl
theorem q809 : (Jvm.Cond.methodLink "java/lang/StringLatin1" (240 : Nat) ({ cls := "java/lang/StringUTF16", name := "inflate", desc := "([BI[BII)V" } : Jvm.MethodName)) ∈ lw_all := lw_g (lw_at lw_m3 236 rfl) rfl
theorem q1601 : (Jvm.Cond.static ({ cls := "java/lang/StringLatin1", name := "canEncode", desc := "(C)Z" } : Jvm.MethodName)) ∈ lw_all := lw_g (lw_at lw_m7 68 rfl) rfl
theorem q1602 : (Jvm.Cond.code ({ cls := "java/lang/StringLatin1", name := "canEncode", desc := "(C)Z" } : Jvm.MethodName) prog_36_method_3_code (1 : Nat) (Option.some Jvm.ClassFile.FieldType.boolean)) ∈ lw_all := lw_g (lw_at lw_m7 69 rfl) rfl
theorem q1680 : (Jvm.Cond.static ({ cls := "java/lang/StringLatin1", name := "charAt", desc := "([BI)C" } : Jvm.MethodName)) ∈ lw_all := lw_g (lw_at lw_m7 147 rfl) rfl
theorem q1681 : (Jvm.Cond.code ({ cls := "java/lang/StringLatin1", name := "charAt", desc := "([BI)C" } : Jvm.MethodName) prog_36_method_2_code (2 : Nat) (Option.some Jvm.ClassFile.FieldType.char)) ∈ lw_all := lw_g (lw_at lw_m7 148 rfl) rfl
theorem q1682 : (Jvm.Cond.methodLink "java/lang/StringLatin1" (9 : Nat) ({ cls := "java/lang/String", name := "checkIndex", desc := "(II)V" } : Jvm.MethodName)) ∈ lw_all := lw_g (lw_at lw_m7 149 rfl) rfl
theorem q1705 : (Jvm.Cond.static ({ cls := "java/lang/StringLatin1", name := "hashCode", desc := "([B)I" } : Jvm.MethodName)) ∈ lw_all := lw_g (lw_at lw_m7 172 rfl) rfl
theorem q1706 : (Jvm.Cond.code ({ cls := "java/lang/StringLatin1", name := "hashCode", desc := "([B)I" } : Jvm.MethodName) prog_36_method_21_code (1 : Nat) (Option.some Jvm.ClassFile.FieldType.int)) ∈ lw_all := lw_g (lw_at lw_m7 173 rfl) rfl
theorem q1707 : (Jvm.Cond.methodLink "java/lang/StringLatin1" (84 : Nat) ({ cls := "jdk/internal/util/ArraysSupport", name := "vectorizedHashCode", desc := "(Ljava/lang/Object;IIII)I" } : Jvm.MethodName)) ∈ lw_all := lw_g (lw_at lw_m7 174 rfl) rfl
theorem q1756 : (Jvm.Cond.static ({ cls := "java/lang/StringLatin1", name := "equals", desc := "([B[B)Z" } : Jvm.MethodName)) ∈ lw_all := lw_g (lw_at lw_m7 223 rfl) rfl
theorem q1757 : (Jvm.Cond.code ({ cls := "java/lang/StringLatin1", name := "equals", desc := "([B[B)Z" } : Jvm.MethodName) prog_36_method_13_code (3 : Nat) (Option.some Jvm.ClassFile.FieldType.boolean)) ∈ lw_all := lw_g (lw_at lw_m7 224 rfl) rfl
theorem q1999 : (Jvm.Cond.static ({ cls := "java/lang/StringLatin1", name := "fillNull", desc := "([BII)V" } : Jvm.MethodName)) ∈ lw_all := lw_g (lw_at lw_m8 226 rfl) rfl
theorem q2000 : (Jvm.Cond.code ({ cls := "java/lang/StringLatin1", name := "fillNull", desc := "([BII)V" } : Jvm.MethodName) prog_36_method_48_code (3 : Nat) (Option.none : Option Jvm.ClassFile.FieldType)) ∈ lw_all := lw_g (lw_at lw_m8 227 rfl) rfl
theorem q2001 : (Jvm.Cond.methodLink "java/lang/StringLatin1" (236 : Nat) ({ cls := "java/util/Arrays", name := "fill", desc := "([BIIB)V" } : Jvm.MethodName)) ∈ lw_all := lw_g (lw_at lw_m8 228 rfl) rfl
/-! java/lang/Long -/
set_option maxRecDepth 100000
def RJ26 : String := "java/lang/Long"
abbrev cJ26_bitCount : ByteArray := prog_30_method_50_code
def yJ26_bitCount : MethodName := ⟨RJ26, "bitCount", "(J)I"⟩
def dkwJ26_bitCount_2 : List UInt8 := [30, 30, 16, 32, 125, 97, 63, 30, 136, 16, 127, 126, 172]
abbrev dktJ26_bitCount_2 : List UInt8 := dkwJ26_bitCount_2 ++ []
def dkwJ26_bitCount_1 : List UInt8 := [30, 30, 7, 125, 97, 20, 1, 62, 127, 63, 30, 30, 16, 8, 125, 97, 63, 30, 30, 16, 16, 125, 97, 63]
abbrev dktJ26_bitCount_1 : List UInt8 := dkwJ26_bitCount_1 ++ dktJ26_bitCount_2
def dkwJ26_bitCount_0 : List UInt8 := [30, 30, 4, 125, 20, 1, 58, 127, 101, 63, 30, 20, 1, 60, 127, 30, 5, 125, 20, 1, 60, 127, 97, 63]
abbrev dktJ26_bitCount_0 : List UInt8 := dkwJ26_bitCount_0 ++ dktJ26_bitCount_1
theorem dksJ26_bitCount_0 : cJ26_bitCount.data.toList.drop 0 = dktJ26_bitCount_0 := by decide +kernel
theorem dksJ26_bitCount_1 : cJ26_bitCount.data.toList.drop 24 = dktJ26_bitCount_1 := dk_seg dksJ26_bitCount_0 24 rfl rfl
theorem dksJ26_bitCount_2 : cJ26_bitCount.data.toList.drop 48 = dktJ26_bitCount_2 := dk_seg dksJ26_bitCount_1 24 rfl rfl
theorem dJ26_bitCount_0 : decode cJ26_bitCount 0 = .ok (.lload_n 0, 1) := dk_30 (dk_at dksJ26_bitCount_0 0 rfl rfl)
theorem dJ26_bitCount_1 : decode cJ26_bitCount 1 = .ok (.lload_n 0, 1) := dk_30 (dk_at dksJ26_bitCount_0 1 rfl rfl)
theorem dJ26_bitCount_2 : decode cJ26_bitCount 2 = .ok (.iconst 1, 1) := dk_4 (dk_at dksJ26_bitCount_0 2 rfl rfl)
theorem dJ26_bitCount_3 : decode cJ26_bitCount 3 = .ok (.lushr, 1) := dk_125 (dk_at dksJ26_bitCount_0 3 rfl rfl)
theorem dJ26_bitCount_4 : decode cJ26_bitCount 4 = .ok (.ldc2_w 314, 3) := dk_20 1 58 (dk_at dksJ26_bitCount_0 4 rfl rfl)
theorem dJ26_bitCount_7 : decode cJ26_bitCount 7 = .ok (.land, 1) := dk_127 (dk_at dksJ26_bitCount_0 7 rfl rfl)
theorem dJ26_bitCount_8 : decode cJ26_bitCount 8 = .ok (.lsub, 1) := dk_101 (dk_at dksJ26_bitCount_0 8 rfl rfl)
theorem dJ26_bitCount_9 : decode cJ26_bitCount 9 = .ok (.lstore_n 0, 1) := dk_63 (dk_at dksJ26_bitCount_0 9 rfl rfl)
theorem dJ26_bitCount_10 : decode cJ26_bitCount 10 = .ok (.lload_n 0, 1) := dk_30 (dk_at dksJ26_bitCount_0 10 rfl rfl)
theorem dJ26_bitCount_11 : decode cJ26_bitCount 11 = .ok (.ldc2_w 316, 3) := dk_20 1 60 (dk_at dksJ26_bitCount_0 11 rfl rfl)
theorem dJ26_bitCount_14 : decode cJ26_bitCount 14 = .ok (.land, 1) := dk_127 (dk_at dksJ26_bitCount_0 14 rfl rfl)
theorem dJ26_bitCount_15 : decode cJ26_bitCount 15 = .ok (.lload_n 0, 1) := dk_30 (dk_at dksJ26_bitCount_0 15 rfl rfl)
theorem dJ26_bitCount_16 : decode cJ26_bitCount 16 = .ok (.iconst 2, 1) := dk_5 (dk_at dksJ26_bitCount_0 16 rfl rfl)
theorem dJ26_bitCount_17 : decode cJ26_bitCount 17 = .ok (.lushr, 1) := dk_125 (dk_at dksJ26_bitCount_0 17 rfl rfl)
theorem dJ26_bitCount_18 : decode cJ26_bitCount 18 = .ok (.ldc2_w 316, 3) := dk_20 1 60 (dk_at dksJ26_bitCount_0 18 rfl rfl)
theorem dJ26_bitCount_21 : decode cJ26_bitCount 21 = .ok (.land, 1) := dk_127 (dk_at dksJ26_bitCount_0 21 rfl rfl)
theorem dJ26_bitCount_22 : decode cJ26_bitCount 22 = .ok (.ladd, 1) := dk_97 (dk_at dksJ26_bitCount_0 22 rfl rfl)
theorem dJ26_bitCount_23 : decode cJ26_bitCount 23 = .ok (.lstore_n 0, 1) := dk_63 (dk_at dksJ26_bitCount_0 23 rfl rfl)
theorem dJ26_bitCount_24 : decode cJ26_bitCount 24 = .ok (.lload_n 0, 1) := dk_30 (dk_at dksJ26_bitCount_1 0 rfl rfl)
theorem dJ26_bitCount_25 : decode cJ26_bitCount 25 = .ok (.lload_n 0, 1) := dk_30 (dk_at dksJ26_bitCount_1 1 rfl rfl)
theorem dJ26_bitCount_26 : decode cJ26_bitCount 26 = .ok (.iconst 4, 1) := dk_7 (dk_at dksJ26_bitCount_1 2 rfl rfl)
theorem dJ26_bitCount_27 : decode cJ26_bitCount 27 = .ok (.lushr, 1) := dk_125 (dk_at dksJ26_bitCount_1 3 rfl rfl)
theorem dJ26_bitCount_28 : decode cJ26_bitCount 28 = .ok (.ladd, 1) := dk_97 (dk_at dksJ26_bitCount_1 4 rfl rfl)
theorem dJ26_bitCount_29 : decode cJ26_bitCount 29 = .ok (.ldc2_w 318, 3) := dk_20 1 62 (dk_at dksJ26_bitCount_1 5 rfl rfl)
theorem dJ26_bitCount_32 : decode cJ26_bitCount 32 = .ok (.land, 1) := dk_127 (dk_at dksJ26_bitCount_1 8 rfl rfl)
theorem dJ26_bitCount_33 : decode cJ26_bitCount 33 = .ok (.lstore_n 0, 1) := dk_63 (dk_at dksJ26_bitCount_1 9 rfl rfl)
theorem dJ26_bitCount_34 : decode cJ26_bitCount 34 = .ok (.lload_n 0, 1) := dk_30 (dk_at dksJ26_bitCount_1 10 rfl rfl)
theorem dJ26_bitCount_35 : decode cJ26_bitCount 35 = .ok (.lload_n 0, 1) := dk_30 (dk_at dksJ26_bitCount_1 11 rfl rfl)
theorem dJ26_bitCount_36 : decode cJ26_bitCount 36 = .ok (.bipush 8, 2) := dk_16 8 (dk_at dksJ26_bitCount_1 12 rfl rfl)
theorem dJ26_bitCount_38 : decode cJ26_bitCount 38 = .ok (.lushr, 1) := dk_125 (dk_at dksJ26_bitCount_1 14 rfl rfl)
theorem dJ26_bitCount_39 : decode cJ26_bitCount 39 = .ok (.ladd, 1) := dk_97 (dk_at dksJ26_bitCount_1 15 rfl rfl)
theorem dJ26_bitCount_40 : decode cJ26_bitCount 40 = .ok (.lstore_n 0, 1) := dk_63 (dk_at dksJ26_bitCount_1 16 rfl rfl)
theorem dJ26_bitCount_41 : decode cJ26_bitCount 41 = .ok (.lload_n 0, 1) := dk_30 (dk_at dksJ26_bitCount_1 17 rfl rfl)
theorem dJ26_bitCount_42 : decode cJ26_bitCount 42 = .ok (.lload_n 0, 1) := dk_30 (dk_at dksJ26_bitCount_1 18 rfl rfl)
theorem dJ26_bitCount_43 : decode cJ26_bitCount 43 = .ok (.bipush 16, 2) := dk_16 16 (dk_at dksJ26_bitCount_1 19 rfl rfl)
theorem dJ26_bitCount_45 : decode cJ26_bitCount 45 = .ok (.lushr, 1) := dk_125 (dk_at dksJ26_bitCount_1 21 rfl rfl)
theorem dJ26_bitCount_46 : decode cJ26_bitCount 46 = .ok (.ladd, 1) := dk_97 (dk_at dksJ26_bitCount_1 22 rfl rfl)
theorem dJ26_bitCount_47 : decode cJ26_bitCount 47 = .ok (.lstore_n 0, 1) := dk_63 (dk_at dksJ26_bitCount_1 23 rfl rfl)
theorem dJ26_bitCount_48 : decode cJ26_bitCount 48 = .ok (.lload_n 0, 1) := dk_30 (dk_at dksJ26_bitCount_2 0 rfl rfl)
theorem dJ26_bitCount_49 : decode cJ26_bitCount 49 = .ok (.lload_n 0, 1) := dk_30 (dk_at dksJ26_bitCount_2 1 rfl rfl)
theorem dJ26_bitCount_50 : decode cJ26_bitCount 50 = .ok (.bipush 32, 2) := dk_16 32 (dk_at dksJ26_bitCount_2 2 rfl rfl)
theorem dJ26_bitCount_52 : decode cJ26_bitCount 52 = .ok (.lushr, 1) := dk_125 (dk_at dksJ26_bitCount_2 4 rfl rfl)
theorem dJ26_bitCount_53 : decode cJ26_bitCount 53 = .ok (.ladd, 1) := dk_97 (dk_at dksJ26_bitCount_2 5 rfl rfl)
theorem dJ26_bitCount_54 : decode cJ26_bitCount 54 = .ok (.lstore_n 0, 1) := dk_63 (dk_at dksJ26_bitCount_2 6 rfl rfl)
theorem dJ26_bitCount_55 : decode cJ26_bitCount 55 = .ok (.lload_n 0, 1) := dk_30 (dk_at dksJ26_bitCount_2 7 rfl rfl)
theorem dJ26_bitCount_56 : decode cJ26_bitCount 56 = .ok (.l2i, 1) := dk_136 (dk_at dksJ26_bitCount_2 8 rfl rfl)
theorem dJ26_bitCount_57 : decode cJ26_bitCount 57 = .ok (.bipush 127, 2) := dk_16 127 (dk_at dksJ26_bitCount_2 9 rfl rfl)
theorem dJ26_bitCount_59 : decode cJ26_bitCount 59 = .ok (.iand, 1) := dk_126 (dk_at dksJ26_bitCount_2 11 rfl rfl)
theorem dJ26_bitCount_60 : decode cJ26_bitCount 60 = .ok (.ireturn, 1) := dk_172 (dk_at dksJ26_bitCount_2 12 rfl rfl)
theorem q131 : (Jvm.Cond.initialized "java/lang/Long") ∈ lw_all := lw_g (lw_at lw_m1 38 rfl) rfl
theorem q1158 : (Jvm.Cond.static ({ cls := "java/lang/Long", name := "bitCount", desc := "(J)I" } : Jvm.MethodName)) ∈ lw_all := lw_g (lw_at lw_m5 105 rfl) rfl
theorem q1159 : (Jvm.Cond.code ({ cls := "java/lang/Long", name := "bitCount", desc := "(J)I" } : Jvm.MethodName) prog_30_method_50_code (2 : Nat) (Option.some Jvm.ClassFile.FieldType.int)) ∈ lw_all := lw_g (lw_at lw_m5 106 rfl) rfl
theorem q1160 : (Jvm.Cond.constantLong "java/lang/Long" (314 : Nat) (6148914691236517205 : Int64)) ∈ lw_all := lw_g (lw_at lw_m5 107 rfl) rfl
theorem q1161 : (Jvm.Cond.constantLong "java/lang/Long" (316 : Nat) (3689348814741910323 : Int64)) ∈ lw_all := lw_g (lw_at lw_m5 108 rfl) rfl
theorem q1162 : (Jvm.Cond.constantLong "java/lang/Long" (318 : Nat) (1085102592571150095 : Int64)) ∈ lw_all := lw_g (lw_at lw_m5 109 rfl) rfl
/-! java/lang/Integer -/
set_option maxRecDepth 100000
def RJ28 : String := "java/lang/Integer"
abbrev cJ28_stringSize : ByteArray := prog_28_method_13_code
def yJ28_stringSize : MethodName := ⟨RJ28, "stringSize", "(I)I"⟩
def dkwJ28_stringSize_1 : List UInt8 := [164, 0, 7, 29, 27, 96, 172, 16, 10, 28, 104, 61, 132, 3, 1, 167, 255, 233, 16, 10, 27, 96, 172]
abbrev dktJ28_stringSize_1 : List UInt8 := dkwJ28_stringSize_1 ++ []
def dkwJ28_stringSize_0 : List UInt8 := [4, 60, 26, 155, 0, 8, 3, 60, 26, 116, 59, 16, 246, 61, 4, 62, 29, 16, 10, 162, 0, 23, 26, 28]
abbrev dktJ28_stringSize_0 : List UInt8 := dkwJ28_stringSize_0 ++ dktJ28_stringSize_1
theorem dksJ28_stringSize_0 : cJ28_stringSize.data.toList.drop 0 = dktJ28_stringSize_0 := by decide +kernel
theorem dksJ28_stringSize_1 : cJ28_stringSize.data.toList.drop 24 = dktJ28_stringSize_1 := dk_seg dksJ28_stringSize_0 24 rfl rfl
theorem dJ28_stringSize_0 : decode cJ28_stringSize 0 = .ok (.iconst 1, 1) := dk_4 (dk_at dksJ28_stringSize_0 0 rfl rfl)
theorem dJ28_stringSize_1 : decode cJ28_stringSize 1 = .ok (.istore_n 1, 1) := dk_60 (dk_at dksJ28_stringSize_0 1 rfl rfl)
theorem dJ28_stringSize_2 : decode cJ28_stringSize 2 = .ok (.iload_n 0, 1) := dk_26 (dk_at dksJ28_stringSize_0 2 rfl rfl)
theorem dJ28_stringSize_3 : decode cJ28_stringSize 3 = .ok (.ifCond .lt 8, 3) := dk_155 0 8 (dk_at dksJ28_stringSize_0 3 rfl rfl)
theorem dJ28_stringSize_6 : decode cJ28_stringSize 6 = .ok (.iconst 0, 1) := dk_3 (dk_at dksJ28_stringSize_0 6 rfl rfl)
theorem dJ28_stringSize_7 : decode cJ28_stringSize 7 = .ok (.istore_n 1, 1) := dk_60 (dk_at dksJ28_stringSize_0 7 rfl rfl)
theorem dJ28_stringSize_8 : decode cJ28_stringSize 8 = .ok (.iload_n 0, 1) := dk_26 (dk_at dksJ28_stringSize_0 8 rfl rfl)
theorem dJ28_stringSize_9 : decode cJ28_stringSize 9 = .ok (.ineg, 1) := dk_116 (dk_at dksJ28_stringSize_0 9 rfl rfl)
theorem dJ28_stringSize_10 : decode cJ28_stringSize 10 = .ok (.istore_n 0, 1) := dk_59 (dk_at dksJ28_stringSize_0 10 rfl rfl)
theorem dJ28_stringSize_11 : decode cJ28_stringSize 11 = .ok (.bipush (-10), 2) := dk_16 246 (dk_at dksJ28_stringSize_0 11 rfl rfl)
theorem dJ28_stringSize_13 : decode cJ28_stringSize 13 = .ok (.istore_n 2, 1) := dk_61 (dk_at dksJ28_stringSize_0 13 rfl rfl)
theorem dJ28_stringSize_14 : decode cJ28_stringSize 14 = .ok (.iconst 1, 1) := dk_4 (dk_at dksJ28_stringSize_0 14 rfl rfl)
theorem dJ28_stringSize_15 : decode cJ28_stringSize 15 = .ok (.istore_n 3, 1) := dk_62 (dk_at dksJ28_stringSize_0 15 rfl rfl)
theorem dJ28_stringSize_16 : decode cJ28_stringSize 16 = .ok (.iload_n 3, 1) := dk_29 (dk_at dksJ28_stringSize_0 16 rfl rfl)
theorem dJ28_stringSize_17 : decode cJ28_stringSize 17 = .ok (.bipush 10, 2) := dk_16 10 (dk_at dksJ28_stringSize_0 17 rfl rfl)
theorem dJ28_stringSize_19 : decode cJ28_stringSize 19 = .ok (.if_icmp .ge 23, 3) := dk_162 0 23 (dk_at dksJ28_stringSize_0 19 rfl rfl)
theorem dJ28_stringSize_22 : decode cJ28_stringSize 22 = .ok (.iload_n 0, 1) := dk_26 (dk_at dksJ28_stringSize_0 22 rfl rfl)
theorem dJ28_stringSize_23 : decode cJ28_stringSize 23 = .ok (.iload_n 2, 1) := dk_28 (dk_at dksJ28_stringSize_0 23 rfl rfl)
theorem dJ28_stringSize_24 : decode cJ28_stringSize 24 = .ok (.if_icmp .le 7, 3) := dk_164 0 7 (dk_at dksJ28_stringSize_1 0 rfl rfl)
theorem dJ28_stringSize_27 : decode cJ28_stringSize 27 = .ok (.iload_n 3, 1) := dk_29 (dk_at dksJ28_stringSize_1 3 rfl rfl)
theorem dJ28_stringSize_28 : decode cJ28_stringSize 28 = .ok (.iload_n 1, 1) := dk_27 (dk_at dksJ28_stringSize_1 4 rfl rfl)
theorem dJ28_stringSize_29 : decode cJ28_stringSize 29 = .ok (.iadd, 1) := dk_96 (dk_at dksJ28_stringSize_1 5 rfl rfl)
theorem dJ28_stringSize_30 : decode cJ28_stringSize 30 = .ok (.ireturn, 1) := dk_172 (dk_at dksJ28_stringSize_1 6 rfl rfl)
theorem dJ28_stringSize_31 : decode cJ28_stringSize 31 = .ok (.bipush 10, 2) := dk_16 10 (dk_at dksJ28_stringSize_1 7 rfl rfl)
theorem dJ28_stringSize_33 : decode cJ28_stringSize 33 = .ok (.iload_n 2, 1) := dk_28 (dk_at dksJ28_stringSize_1 9 rfl rfl)
theorem dJ28_stringSize_34 : decode cJ28_stringSize 34 = .ok (.imul, 1) := dk_104 (dk_at dksJ28_stringSize_1 10 rfl rfl)
theorem dJ28_stringSize_35 : decode cJ28_stringSize 35 = .ok (.istore_n 2, 1) := dk_61 (dk_at dksJ28_stringSize_1 11 rfl rfl)
theorem dJ28_stringSize_36 : decode cJ28_stringSize 36 = .ok (.iinc 3 1, 3) := dk_132 3 1 (dk_at dksJ28_stringSize_1 12 rfl rfl)
theorem dJ28_stringSize_39 : decode cJ28_stringSize 39 = .ok (.goto (-23), 3) := dk_167 255 233 (dk_at dksJ28_stringSize_1 15 rfl rfl)
theorem dJ28_stringSize_42 : decode cJ28_stringSize 42 = .ok (.bipush 10, 2) := dk_16 10 (dk_at dksJ28_stringSize_1 18 rfl rfl)
theorem dJ28_stringSize_44 : decode cJ28_stringSize 44 = .ok (.iload_n 1, 1) := dk_27 (dk_at dksJ28_stringSize_1 20 rfl rfl)
theorem dJ28_stringSize_45 : decode cJ28_stringSize 45 = .ok (.iadd, 1) := dk_96 (dk_at dksJ28_stringSize_1 21 rfl rfl)
theorem dJ28_stringSize_46 : decode cJ28_stringSize 46 = .ok (.ireturn, 1) := dk_172 (dk_at dksJ28_stringSize_1 22 rfl rfl)
abbrev cJ28_getChars : ByteArray := prog_28_method_12_code
def yJ28_getChars : MethodName := ⟨RJ28, "getChars", "(II[B)I"⟩
def dkwJ28_getChars_5 : List UInt8 := [16, 45, 84, 21, 5, 172]
abbrev dktJ28_getChars_5 : List UInt8 := dkwJ28_getChars_5 ++ []
def dkwJ28_getChars_4 : List UInt8 := [132, 5, 255, 21, 5, 178, 0, 87, 26, 116, 51, 84, 21, 6, 153, 0, 12, 44, 132, 5, 255, 21, 5]
abbrev dktJ28_getChars_4 : List UInt8 := dkwJ28_getChars_4 ++ dktJ28_getChars_5
def dkwJ28_getChars_3 : List UInt8 := [167, 255, 209, 44, 132, 5, 255, 21, 5, 178, 0, 83, 26, 116, 51, 84, 26, 16, 247, 162, 0, 16, 44]
abbrev dktJ28_getChars_3 : List UInt8 := dkwJ28_getChars_3 ++ dktJ28_getChars_4
def dkwJ28_getChars_2 : List UInt8 := [21, 5, 178, 0, 83, 21, 4, 51, 84, 44, 132, 5, 255, 21, 5, 178, 0, 87, 21, 4, 51, 84]
abbrev dktJ28_getChars_2 : List UInt8 := dkwJ28_getChars_2 ++ dktJ28_getChars_3
def dkwJ28_getChars_1 : List UInt8 := [16, 156, 163, 0, 47, 26, 16, 100, 108, 62, 29, 16, 100, 104, 26, 100, 54, 4, 29, 59, 44, 132, 5, 255]
abbrev dktJ28_getChars_1 : List UInt8 := dkwJ28_getChars_1 ++ dktJ28_getChars_2
def dkwJ28_getChars_0 : List UInt8 := [27, 54, 5, 26, 156, 0, 7, 4, 167, 0, 4, 3, 54, 6, 21, 6, 154, 0, 6, 26, 116, 59, 26]
abbrev dktJ28_getChars_0 : List UInt8 := dkwJ28_getChars_0 ++ dktJ28_getChars_1
theorem dksJ28_getChars_0 : cJ28_getChars.data.toList.drop 0 = dktJ28_getChars_0 := by decide +kernel
theorem dksJ28_getChars_1 : cJ28_getChars.data.toList.drop 23 = dktJ28_getChars_1 := dk_seg dksJ28_getChars_0 23 rfl rfl
theorem dksJ28_getChars_2 : cJ28_getChars.data.toList.drop 47 = dktJ28_getChars_2 := dk_seg dksJ28_getChars_1 24 rfl rfl
theorem dksJ28_getChars_3 : cJ28_getChars.data.toList.drop 69 = dktJ28_getChars_3 := dk_seg dksJ28_getChars_2 22 rfl rfl
theorem dksJ28_getChars_4 : cJ28_getChars.data.toList.drop 92 = dktJ28_getChars_4 := dk_seg dksJ28_getChars_3 23 rfl rfl
theorem dksJ28_getChars_5 : cJ28_getChars.data.toList.drop 115 = dktJ28_getChars_5 := dk_seg dksJ28_getChars_4 23 rfl rfl
theorem dJ28_getChars_0 : decode cJ28_getChars 0 = .ok (.iload_n 1, 1) := dk_27 (dk_at dksJ28_getChars_0 0 rfl rfl)
theorem dJ28_getChars_1 : decode cJ28_getChars 1 = .ok (.istore 5, 2) := dk_54 5 (dk_at dksJ28_getChars_0 1 rfl rfl)
theorem dJ28_getChars_3 : decode cJ28_getChars 3 = .ok (.iload_n 0, 1) := dk_26 (dk_at dksJ28_getChars_0 3 rfl rfl)
theorem dJ28_getChars_4 : decode cJ28_getChars 4 = .ok (.ifCond .ge 7, 3) := dk_156 0 7 (dk_at dksJ28_getChars_0 4 rfl rfl)
theorem dJ28_getChars_7 : decode cJ28_getChars 7 = .ok (.iconst 1, 1) := dk_4 (dk_at dksJ28_getChars_0 7 rfl rfl)
theorem dJ28_getChars_8 : decode cJ28_getChars 8 = .ok (.goto 4, 3) := dk_167 0 4 (dk_at dksJ28_getChars_0 8 rfl rfl)
theorem dJ28_getChars_11 : decode cJ28_getChars 11 = .ok (.iconst 0, 1) := dk_3 (dk_at dksJ28_getChars_0 11 rfl rfl)
theorem dJ28_getChars_12 : decode cJ28_getChars 12 = .ok (.istore 6, 2) := dk_54 6 (dk_at dksJ28_getChars_0 12 rfl rfl)
theorem dJ28_getChars_14 : decode cJ28_getChars 14 = .ok (.iload 6, 2) := dk_21 6 (dk_at dksJ28_getChars_0 14 rfl rfl)
theorem dJ28_getChars_16 : decode cJ28_getChars 16 = .ok (.ifCond .ne 6, 3) := dk_154 0 6 (dk_at dksJ28_getChars_0 16 rfl rfl)
theorem dJ28_getChars_19 : decode cJ28_getChars 19 = .ok (.iload_n 0, 1) := dk_26 (dk_at dksJ28_getChars_0 19 rfl rfl)
theorem dJ28_getChars_20 : decode cJ28_getChars 20 = .ok (.ineg, 1) := dk_116 (dk_at dksJ28_getChars_0 20 rfl rfl)
theorem dJ28_getChars_21 : decode cJ28_getChars 21 = .ok (.istore_n 0, 1) := dk_59 (dk_at dksJ28_getChars_0 21 rfl rfl)
theorem dJ28_getChars_22 : decode cJ28_getChars 22 = .ok (.iload_n 0, 1) := dk_26 (dk_at dksJ28_getChars_0 22 rfl rfl)
theorem dJ28_getChars_23 : decode cJ28_getChars 23 = .ok (.bipush (-100), 2) := dk_16 156 (dk_at dksJ28_getChars_1 0 rfl rfl)
theorem dJ28_getChars_25 : decode cJ28_getChars 25 = .ok (.if_icmp .gt 47, 3) := dk_163 0 47 (dk_at dksJ28_getChars_1 2 rfl rfl)
theorem dJ28_getChars_28 : decode cJ28_getChars 28 = .ok (.iload_n 0, 1) := dk_26 (dk_at dksJ28_getChars_1 5 rfl rfl)
theorem dJ28_getChars_29 : decode cJ28_getChars 29 = .ok (.bipush 100, 2) := dk_16 100 (dk_at dksJ28_getChars_1 6 rfl rfl)
theorem dJ28_getChars_31 : decode cJ28_getChars 31 = .ok (.idiv, 1) := dk_108 (dk_at dksJ28_getChars_1 8 rfl rfl)
theorem dJ28_getChars_32 : decode cJ28_getChars 32 = .ok (.istore_n 3, 1) := dk_62 (dk_at dksJ28_getChars_1 9 rfl rfl)
theorem dJ28_getChars_33 : decode cJ28_getChars 33 = .ok (.iload_n 3, 1) := dk_29 (dk_at dksJ28_getChars_1 10 rfl rfl)
theorem dJ28_getChars_34 : decode cJ28_getChars 34 = .ok (.bipush 100, 2) := dk_16 100 (dk_at dksJ28_getChars_1 11 rfl rfl)
theorem dJ28_getChars_36 : decode cJ28_getChars 36 = .ok (.imul, 1) := dk_104 (dk_at dksJ28_getChars_1 13 rfl rfl)
theorem dJ28_getChars_37 : decode cJ28_getChars 37 = .ok (.iload_n 0, 1) := dk_26 (dk_at dksJ28_getChars_1 14 rfl rfl)
theorem dJ28_getChars_38 : decode cJ28_getChars 38 = .ok (.isub, 1) := dk_100 (dk_at dksJ28_getChars_1 15 rfl rfl)
theorem dJ28_getChars_39 : decode cJ28_getChars 39 = .ok (.istore 4, 2) := dk_54 4 (dk_at dksJ28_getChars_1 16 rfl rfl)
theorem dJ28_getChars_41 : decode cJ28_getChars 41 = .ok (.iload_n 3, 1) := dk_29 (dk_at dksJ28_getChars_1 18 rfl rfl)
theorem dJ28_getChars_42 : decode cJ28_getChars 42 = .ok (.istore_n 0, 1) := dk_59 (dk_at dksJ28_getChars_1 19 rfl rfl)
theorem dJ28_getChars_43 : decode cJ28_getChars 43 = .ok (.aload_n 2, 1) := dk_44 (dk_at dksJ28_getChars_1 20 rfl rfl)
theorem dJ28_getChars_44 : decode cJ28_getChars 44 = .ok (.iinc 5 (-1), 3) := dk_132 5 255 (dk_at dksJ28_getChars_1 21 rfl rfl)
theorem dJ28_getChars_47 : decode cJ28_getChars 47 = .ok (.iload 5, 2) := dk_21 5 (dk_at dksJ28_getChars_2 0 rfl rfl)
theorem dJ28_getChars_49 : decode cJ28_getChars 49 = .ok (.getstatic 83, 3) := dk_178 0 83 (dk_at dksJ28_getChars_2 2 rfl rfl)
theorem dJ28_getChars_52 : decode cJ28_getChars 52 = .ok (.iload 4, 2) := dk_21 4 (dk_at dksJ28_getChars_2 5 rfl rfl)
theorem dJ28_getChars_54 : decode cJ28_getChars 54 = .ok (.baload, 1) := dk_51 (dk_at dksJ28_getChars_2 7 rfl rfl)
theorem dJ28_getChars_55 : decode cJ28_getChars 55 = .ok (.bastore, 1) := dk_84 (dk_at dksJ28_getChars_2 8 rfl rfl)
theorem dJ28_getChars_56 : decode cJ28_getChars 56 = .ok (.aload_n 2, 1) := dk_44 (dk_at dksJ28_getChars_2 9 rfl rfl)
theorem dJ28_getChars_57 : decode cJ28_getChars 57 = .ok (.iinc 5 (-1), 3) := dk_132 5 255 (dk_at dksJ28_getChars_2 10 rfl rfl)
theorem dJ28_getChars_60 : decode cJ28_getChars 60 = .ok (.iload 5, 2) := dk_21 5 (dk_at dksJ28_getChars_2 13 rfl rfl)
theorem dJ28_getChars_62 : decode cJ28_getChars 62 = .ok (.getstatic 87, 3) := dk_178 0 87 (dk_at dksJ28_getChars_2 15 rfl rfl)
theorem dJ28_getChars_65 : decode cJ28_getChars 65 = .ok (.iload 4, 2) := dk_21 4 (dk_at dksJ28_getChars_2 18 rfl rfl)
theorem dJ28_getChars_67 : decode cJ28_getChars 67 = .ok (.baload, 1) := dk_51 (dk_at dksJ28_getChars_2 20 rfl rfl)
theorem dJ28_getChars_68 : decode cJ28_getChars 68 = .ok (.bastore, 1) := dk_84 (dk_at dksJ28_getChars_2 21 rfl rfl)
theorem dJ28_getChars_69 : decode cJ28_getChars 69 = .ok (.goto (-47), 3) := dk_167 255 209 (dk_at dksJ28_getChars_3 0 rfl rfl)
theorem dJ28_getChars_72 : decode cJ28_getChars 72 = .ok (.aload_n 2, 1) := dk_44 (dk_at dksJ28_getChars_3 3 rfl rfl)
theorem dJ28_getChars_73 : decode cJ28_getChars 73 = .ok (.iinc 5 (-1), 3) := dk_132 5 255 (dk_at dksJ28_getChars_3 4 rfl rfl)
theorem dJ28_getChars_76 : decode cJ28_getChars 76 = .ok (.iload 5, 2) := dk_21 5 (dk_at dksJ28_getChars_3 7 rfl rfl)
theorem dJ28_getChars_78 : decode cJ28_getChars 78 = .ok (.getstatic 83, 3) := dk_178 0 83 (dk_at dksJ28_getChars_3 9 rfl rfl)
theorem dJ28_getChars_81 : decode cJ28_getChars 81 = .ok (.iload_n 0, 1) := dk_26 (dk_at dksJ28_getChars_3 12 rfl rfl)
theorem dJ28_getChars_82 : decode cJ28_getChars 82 = .ok (.ineg, 1) := dk_116 (dk_at dksJ28_getChars_3 13 rfl rfl)
theorem dJ28_getChars_83 : decode cJ28_getChars 83 = .ok (.baload, 1) := dk_51 (dk_at dksJ28_getChars_3 14 rfl rfl)
theorem dJ28_getChars_84 : decode cJ28_getChars 84 = .ok (.bastore, 1) := dk_84 (dk_at dksJ28_getChars_3 15 rfl rfl)
theorem dJ28_getChars_85 : decode cJ28_getChars 85 = .ok (.iload_n 0, 1) := dk_26 (dk_at dksJ28_getChars_3 16 rfl rfl)
theorem dJ28_getChars_86 : decode cJ28_getChars 86 = .ok (.bipush (-9), 2) := dk_16 247 (dk_at dksJ28_getChars_3 17 rfl rfl)
theorem dJ28_getChars_88 : decode cJ28_getChars 88 = .ok (.if_icmp .ge 16, 3) := dk_162 0 16 (dk_at dksJ28_getChars_3 19 rfl rfl)
theorem dJ28_getChars_91 : decode cJ28_getChars 91 = .ok (.aload_n 2, 1) := dk_44 (dk_at dksJ28_getChars_3 22 rfl rfl)
theorem dJ28_getChars_92 : decode cJ28_getChars 92 = .ok (.iinc 5 (-1), 3) := dk_132 5 255 (dk_at dksJ28_getChars_4 0 rfl rfl)
theorem dJ28_getChars_95 : decode cJ28_getChars 95 = .ok (.iload 5, 2) := dk_21 5 (dk_at dksJ28_getChars_4 3 rfl rfl)
theorem dJ28_getChars_97 : decode cJ28_getChars 97 = .ok (.getstatic 87, 3) := dk_178 0 87 (dk_at dksJ28_getChars_4 5 rfl rfl)
theorem dJ28_getChars_100 : decode cJ28_getChars 100 = .ok (.iload_n 0, 1) := dk_26 (dk_at dksJ28_getChars_4 8 rfl rfl)
theorem dJ28_getChars_101 : decode cJ28_getChars 101 = .ok (.ineg, 1) := dk_116 (dk_at dksJ28_getChars_4 9 rfl rfl)
theorem dJ28_getChars_102 : decode cJ28_getChars 102 = .ok (.baload, 1) := dk_51 (dk_at dksJ28_getChars_4 10 rfl rfl)
theorem dJ28_getChars_103 : decode cJ28_getChars 103 = .ok (.bastore, 1) := dk_84 (dk_at dksJ28_getChars_4 11 rfl rfl)
theorem dJ28_getChars_104 : decode cJ28_getChars 104 = .ok (.iload 6, 2) := dk_21 6 (dk_at dksJ28_getChars_4 12 rfl rfl)
theorem dJ28_getChars_106 : decode cJ28_getChars 106 = .ok (.ifCond .eq 12, 3) := dk_153 0 12 (dk_at dksJ28_getChars_4 14 rfl rfl)
theorem dJ28_getChars_109 : decode cJ28_getChars 109 = .ok (.aload_n 2, 1) := dk_44 (dk_at dksJ28_getChars_4 17 rfl rfl)
theorem dJ28_getChars_110 : decode cJ28_getChars 110 = .ok (.iinc 5 (-1), 3) := dk_132 5 255 (dk_at dksJ28_getChars_4 18 rfl rfl)
theorem dJ28_getChars_113 : decode cJ28_getChars 113 = .ok (.iload 5, 2) := dk_21 5 (dk_at dksJ28_getChars_4 21 rfl rfl)
theorem dJ28_getChars_115 : decode cJ28_getChars 115 = .ok (.bipush 45, 2) := dk_16 45 (dk_at dksJ28_getChars_5 0 rfl rfl)
theorem dJ28_getChars_117 : decode cJ28_getChars 117 = .ok (.bastore, 1) := dk_84 (dk_at dksJ28_getChars_5 2 rfl rfl)
theorem dJ28_getChars_118 : decode cJ28_getChars 118 = .ok (.iload 5, 2) := dk_21 5 (dk_at dksJ28_getChars_5 3 rfl rfl)
theorem dJ28_getChars_120 : decode cJ28_getChars 120 = .ok (.ireturn, 1) := dk_172 (dk_at dksJ28_getChars_5 5 rfl rfl)
theorem q143 : (Jvm.Cond.initialized "java/lang/Integer") ∈ lw_all := lw_g (lw_at lw_m1 50 rfl) rfl
theorem q2023 : (Jvm.Cond.static ({ cls := "java/lang/Integer", name := "stringSize", desc := "(I)I" } : Jvm.MethodName)) ∈ lw_all := lw_g (lw_at lw_m9 10 rfl) rfl
theorem q2024 : (Jvm.Cond.code ({ cls := "java/lang/Integer", name := "stringSize", desc := "(I)I" } : Jvm.MethodName) prog_28_method_13_code (4 : Nat) (Option.some Jvm.ClassFile.FieldType.int)) ∈ lw_all := lw_g (lw_at lw_m9 11 rfl) rfl
theorem q2026 : (Jvm.Cond.static ({ cls := "java/lang/Integer", name := "getChars", desc := "(II[B)I" } : Jvm.MethodName)) ∈ lw_all := lw_g (lw_at lw_m9 13 rfl) rfl
theorem q2027 : (Jvm.Cond.code ({ cls := "java/lang/Integer", name := "getChars", desc := "(II[B)I" } : Jvm.MethodName) prog_28_method_12_code (7 : Nat) (Option.some Jvm.ClassFile.FieldType.int)) ∈ lw_all := lw_g (lw_at lw_m9 14 rfl) rfl
theorem q2028 : (Jvm.Cond.fieldLink "java/lang/Integer" (83 : Nat) "java/lang/Integer" "DigitOnes" "[B") ∈ lw_all := lw_g (lw_at lw_m9 15 rfl) rfl
theorem q2029 : (Jvm.Cond.laysStatic "java/lang/Integer" "DigitOnes" "[B") ∈ lw_tbl := lw_at lw_m9 16 rfl
theorem q2030 : (Jvm.Cond.fieldLink "java/lang/Integer" (87 : Nat) "java/lang/Integer" "DigitTens" "[B") ∈ lw_all := lw_g (lw_at lw_m9 17 rfl) rfl
theorem q2031 : (Jvm.Cond.laysStatic "java/lang/Integer" "DigitTens" "[B") ∈ lw_tbl := lw_at lw_m9 18 rfl
/-! java/lang/System$2 -/
set_option maxRecDepth 100000
def RJ30 : String := "java/lang/System$2"
abbrev cJ30_getUTF16Char : ByteArray := prog_39_method_45_code
def yJ30_getUTF16Char : MethodName := ⟨RJ30, "getUTF16Char", "([BI)C"⟩
def dkwJ30_getUTF16Char_0 : List UInt8 := [43, 28, 184, 0, 185, 172]
abbrev dktJ30_getUTF16Char_0 : List UInt8 := dkwJ30_getUTF16Char_0 ++ []
theorem dksJ30_getUTF16Char_0 : cJ30_getUTF16Char.data.toList.drop 0 = dktJ30_getUTF16Char_0 := by decide +kernel
theorem dJ30_getUTF16Char_0 : decode cJ30_getUTF16Char 0 = .ok (.aload_n 1, 1) := dk_43 (dk_at dksJ30_getUTF16Char_0 0 rfl rfl)
theorem dJ30_getUTF16Char_1 : decode cJ30_getUTF16Char 1 = .ok (.iload_n 2, 1) := dk_28 (dk_at dksJ30_getUTF16Char_0 1 rfl rfl)
theorem dJ30_getUTF16Char_2 : decode cJ30_getUTF16Char 2 = .ok (.invokestatic 185, 3) := dk_184 0 185 (dk_at dksJ30_getUTF16Char_0 2 rfl rfl)
theorem dJ30_getUTF16Char_5 : decode cJ30_getUTF16Char 5 = .ok (.ireturn, 1) := dk_172 (dk_at dksJ30_getUTF16Char_0 5 rfl rfl)
theorem q689 : (Jvm.Cond.selects "java/lang/System$2" ({ cls := "java/lang/Object", name := "getClass", desc := "()Ljava/lang/Class;" } : Jvm.MethodName) ({ cls := "java/lang/Object", name := "getClass", desc := "()Ljava/lang/Class;" } : Jvm.MethodName)) ∈ lw_all := lw_g (lw_at lw_m3 116 rfl) rfl
theorem q1723 : (Jvm.Cond.castable "java/lang/System$2" "jdk/internal/access/JavaLangAccess") ∈ lw_tbl := lw_at lw_m7 190 rfl
theorem q1724 : (Jvm.Cond.selects "java/lang/System$2" ({ cls := "jdk/internal/access/JavaLangAccess", name := "getUTF16Char", desc := "([BI)C" } : Jvm.MethodName) ({ cls := "java/lang/System$2", name := "getUTF16Char", desc := "([BI)C" } : Jvm.MethodName)) ∈ lw_all := lw_g (lw_at lw_m7 191 rfl) rfl
theorem q1725 : (Jvm.Cond.unhidden "java/lang/System$2" "getUTF16Char" "([BI)C") ∈ lw_tbl := lw_at lw_m7 192 rfl
theorem q1726 : (Jvm.Cond.instanceMethod ({ cls := "java/lang/System$2", name := "getUTF16Char", desc := "([BI)C" } : Jvm.MethodName)) ∈ lw_all := lw_g (lw_at lw_m7 193 rfl) rfl
theorem q1727 : (Jvm.Cond.publicMethod ({ cls := "java/lang/System$2", name := "getUTF16Char", desc := "([BI)C" } : Jvm.MethodName)) ∈ lw_tbl := lw_at lw_m7 194 rfl
theorem q1728 : (Jvm.Cond.code ({ cls := "java/lang/System$2", name := "getUTF16Char", desc := "([BI)C" } : Jvm.MethodName) prog_39_method_45_code (3 : Nat) (Option.some Jvm.ClassFile.FieldType.char)) ∈ lw_all := lw_g (lw_at lw_m7 195 rfl) rfl
theorem q1729 : (Jvm.Cond.methodLink "java/lang/System$2" (185 : Nat) ({ cls := "java/lang/StringUTF16", name := "getChar", desc := "([BI)C" } : Jvm.MethodName)) ∈ lw_all := lw_g (lw_at lw_m7 196 rfl) rfl
theorem q2624 : (Jvm.Cond.castable "java/lang/System$2" "java/lang/Object") ∈ lw_tbl := lw_at lw_m11 131 rfl
/-! java/lang/StringUTF16 -/
set_option maxRecDepth 100000
def RJ9 : String := "java/lang/StringUTF16"
abbrev cJ9_newBytesFor : ByteArray := prog_37_method_2_code
def yJ9_newBytesFor : MethodName := ⟨RJ9, "newBytesFor", "(I)[B"⟩
def dkwJ9_newBytesFor_0 : List UInt8 := [26, 184, 0, 11, 188, 8, 176]
abbrev dktJ9_newBytesFor_0 : List UInt8 := dkwJ9_newBytesFor_0 ++ []
theorem dksJ9_newBytesFor_0 : cJ9_newBytesFor.data.toList.drop 0 = dktJ9_newBytesFor_0 := by decide +kernel
theorem dJ9_newBytesFor_0 : decode cJ9_newBytesFor 0 = .ok (.iload_n 0, 1) := dk_26 (dk_at dksJ9_newBytesFor_0 0 rfl rfl)
theorem dJ9_newBytesFor_1 : decode cJ9_newBytesFor 1 = .ok (.invokestatic 11, 3) := dk_184 0 11 (dk_at dksJ9_newBytesFor_0 1 rfl rfl)
theorem dJ9_newBytesFor_4 : decode cJ9_newBytesFor 4 = .ok (.newarray .byte, 2) := dk_188_8 (dk_at dksJ9_newBytesFor_0 4 rfl rfl)
theorem dJ9_newBytesFor_6 : decode cJ9_newBytesFor 6 = .ok (.areturn, 1) := dk_176 (dk_at dksJ9_newBytesFor_0 6 rfl rfl)
abbrev cJ9_newBytesLength : ByteArray := prog_37_method_3_code
def yJ9_newBytesLength : MethodName := ⟨RJ9, "newBytesLength", "(I)I"⟩
def dkwJ9_newBytesLength_2 : List UInt8 := [182, 0, 32, 182, 0, 37, 183, 0, 41, 191, 26, 4, 120, 172]
abbrev dktJ9_newBytesLength_2 : List UInt8 := dkwJ9_newBytesLength_2 ++ []
def dkwJ9_newBytesLength_1 : List UInt8 := [187, 0, 23, 89, 183, 0, 25, 18, 26, 182, 0, 28, 26, 182, 0, 32, 18, 35, 182, 0, 28, 18, 20]
abbrev dktJ9_newBytesLength_1 : List UInt8 := dkwJ9_newBytesLength_1 ++ dktJ9_newBytesLength_2
def dkwJ9_newBytesLength_0 : List UInt8 := [26, 156, 0, 11, 187, 0, 17, 89, 183, 0, 19, 191, 26, 18, 20, 161, 0, 40, 187, 0, 21, 89]
abbrev dktJ9_newBytesLength_0 : List UInt8 := dkwJ9_newBytesLength_0 ++ dktJ9_newBytesLength_1
theorem dksJ9_newBytesLength_0 : cJ9_newBytesLength.data.toList.drop 0 = dktJ9_newBytesLength_0 := by decide +kernel
theorem dksJ9_newBytesLength_1 : cJ9_newBytesLength.data.toList.drop 22 = dktJ9_newBytesLength_1 := dk_seg dksJ9_newBytesLength_0 22 rfl rfl
theorem dksJ9_newBytesLength_2 : cJ9_newBytesLength.data.toList.drop 45 = dktJ9_newBytesLength_2 := dk_seg dksJ9_newBytesLength_1 23 rfl rfl
theorem dJ9_newBytesLength_0 : decode cJ9_newBytesLength 0 = .ok (.iload_n 0, 1) := dk_26 (dk_at dksJ9_newBytesLength_0 0 rfl rfl)
theorem dJ9_newBytesLength_1 : decode cJ9_newBytesLength 1 = .ok (.ifCond .ge 11, 3) := dk_156 0 11 (dk_at dksJ9_newBytesLength_0 1 rfl rfl)
theorem dJ9_newBytesLength_4 : decode cJ9_newBytesLength 4 = .ok (.new 17, 3) := dk_187 0 17 (dk_at dksJ9_newBytesLength_0 4 rfl rfl)
theorem dJ9_newBytesLength_7 : decode cJ9_newBytesLength 7 = .ok (.dup, 1) := dk_89 (dk_at dksJ9_newBytesLength_0 7 rfl rfl)
theorem dJ9_newBytesLength_8 : decode cJ9_newBytesLength 8 = .ok (.invokespecial 19, 3) := dk_183 0 19 (dk_at dksJ9_newBytesLength_0 8 rfl rfl)
theorem dJ9_newBytesLength_11 : decode cJ9_newBytesLength 11 = .ok (.athrow, 1) := dk_191 (dk_at dksJ9_newBytesLength_0 11 rfl rfl)
theorem dJ9_newBytesLength_12 : decode cJ9_newBytesLength 12 = .ok (.iload_n 0, 1) := dk_26 (dk_at dksJ9_newBytesLength_0 12 rfl rfl)
theorem dJ9_newBytesLength_13 : decode cJ9_newBytesLength 13 = .ok (.ldc 20, 2) := dk_18 20 (dk_at dksJ9_newBytesLength_0 13 rfl rfl)
theorem dJ9_newBytesLength_15 : decode cJ9_newBytesLength 15 = .ok (.if_icmp .lt 40, 3) := dk_161 0 40 (dk_at dksJ9_newBytesLength_0 15 rfl rfl)
theorem dJ9_newBytesLength_18 : decode cJ9_newBytesLength 18 = .ok (.new 21, 3) := dk_187 0 21 (dk_at dksJ9_newBytesLength_0 18 rfl rfl)
theorem dJ9_newBytesLength_21 : decode cJ9_newBytesLength 21 = .ok (.dup, 1) := dk_89 (dk_at dksJ9_newBytesLength_0 21 rfl rfl)
theorem dJ9_newBytesLength_22 : decode cJ9_newBytesLength 22 = .ok (.new 23, 3) := dk_187 0 23 (dk_at dksJ9_newBytesLength_1 0 rfl rfl)
theorem dJ9_newBytesLength_25 : decode cJ9_newBytesLength 25 = .ok (.dup, 1) := dk_89 (dk_at dksJ9_newBytesLength_1 3 rfl rfl)
theorem dJ9_newBytesLength_26 : decode cJ9_newBytesLength 26 = .ok (.invokespecial 25, 3) := dk_183 0 25 (dk_at dksJ9_newBytesLength_1 4 rfl rfl)
theorem dJ9_newBytesLength_29 : decode cJ9_newBytesLength 29 = .ok (.ldc 26, 2) := dk_18 26 (dk_at dksJ9_newBytesLength_1 7 rfl rfl)
theorem dJ9_newBytesLength_31 : decode cJ9_newBytesLength 31 = .ok (.invokevirtual 28, 3) := dk_182 0 28 (dk_at dksJ9_newBytesLength_1 9 rfl rfl)
theorem dJ9_newBytesLength_34 : decode cJ9_newBytesLength 34 = .ok (.iload_n 0, 1) := dk_26 (dk_at dksJ9_newBytesLength_1 12 rfl rfl)
theorem dJ9_newBytesLength_35 : decode cJ9_newBytesLength 35 = .ok (.invokevirtual 32, 3) := dk_182 0 32 (dk_at dksJ9_newBytesLength_1 13 rfl rfl)
theorem dJ9_newBytesLength_38 : decode cJ9_newBytesLength 38 = .ok (.ldc 35, 2) := dk_18 35 (dk_at dksJ9_newBytesLength_1 16 rfl rfl)
theorem dJ9_newBytesLength_40 : decode cJ9_newBytesLength 40 = .ok (.invokevirtual 28, 3) := dk_182 0 28 (dk_at dksJ9_newBytesLength_1 18 rfl rfl)
theorem dJ9_newBytesLength_43 : decode cJ9_newBytesLength 43 = .ok (.ldc 20, 2) := dk_18 20 (dk_at dksJ9_newBytesLength_1 21 rfl rfl)
theorem dJ9_newBytesLength_45 : decode cJ9_newBytesLength 45 = .ok (.invokevirtual 32, 3) := dk_182 0 32 (dk_at dksJ9_newBytesLength_2 0 rfl rfl)
theorem dJ9_newBytesLength_48 : decode cJ9_newBytesLength 48 = .ok (.invokevirtual 37, 3) := dk_182 0 37 (dk_at dksJ9_newBytesLength_2 3 rfl rfl)
theorem dJ9_newBytesLength_51 : decode cJ9_newBytesLength 51 = .ok (.invokespecial 41, 3) := dk_183 0 41 (dk_at dksJ9_newBytesLength_2 6 rfl rfl)
theorem dJ9_newBytesLength_54 : decode cJ9_newBytesLength 54 = .ok (.athrow, 1) := dk_191 (dk_at dksJ9_newBytesLength_2 9 rfl rfl)
theorem dJ9_newBytesLength_55 : decode cJ9_newBytesLength 55 = .ok (.iload_n 0, 1) := dk_26 (dk_at dksJ9_newBytesLength_2 10 rfl rfl)
theorem dJ9_newBytesLength_56 : decode cJ9_newBytesLength 56 = .ok (.iconst 1, 1) := dk_4 (dk_at dksJ9_newBytesLength_2 11 rfl rfl)
theorem dJ9_newBytesLength_57 : decode cJ9_newBytesLength 57 = .ok (.ishl, 1) := dk_120 (dk_at dksJ9_newBytesLength_2 12 rfl rfl)
theorem dJ9_newBytesLength_58 : decode cJ9_newBytesLength 58 = .ok (.ireturn, 1) := dk_172 (dk_at dksJ9_newBytesLength_2 13 rfl rfl)
abbrev cJ9_putCharsAt : ByteArray := prog_37_method_81_code
def yJ9_putCharsAt : MethodName := ⟨RJ9, "putCharsAt", "([BICCCC)I"⟩
def dkwJ9_putCharsAt_3 : List UInt8 := [21, 6, 172]
abbrev dktJ9_putCharsAt_3 : List UInt8 := dkwJ9_putCharsAt_3 ++ []
def dkwJ9_putCharsAt_2 : List UInt8 := [184, 0, 111, 178, 0, 44, 154, 0, 17, 27, 21, 6, 159, 0, 11, 187, 0, 52, 89, 183, 0, 66, 191]
abbrev dktJ9_putCharsAt_2 : List UInt8 := dkwJ9_putCharsAt_2 ++ dktJ9_putCharsAt_3
def dkwJ9_putCharsAt_1 : List UInt8 := [132, 1, 1, 29, 184, 0, 111, 42, 27, 132, 1, 1, 21, 4, 184, 0, 111, 42, 27, 132, 1, 1, 21, 5]
abbrev dktJ9_putCharsAt_1 : List UInt8 := dkwJ9_putCharsAt_1 ++ dktJ9_putCharsAt_2
def dkwJ9_putCharsAt_0 : List UInt8 := [27, 7, 96, 54, 6, 27, 21, 6, 42, 184, 0, 96, 42, 27, 132, 1, 1, 28, 184, 0, 111, 42, 27]
abbrev dktJ9_putCharsAt_0 : List UInt8 := dkwJ9_putCharsAt_0 ++ dktJ9_putCharsAt_1
theorem dksJ9_putCharsAt_0 : cJ9_putCharsAt.data.toList.drop 0 = dktJ9_putCharsAt_0 := by decide +kernel
theorem dksJ9_putCharsAt_1 : cJ9_putCharsAt.data.toList.drop 23 = dktJ9_putCharsAt_1 := dk_seg dksJ9_putCharsAt_0 23 rfl rfl
theorem dksJ9_putCharsAt_2 : cJ9_putCharsAt.data.toList.drop 47 = dktJ9_putCharsAt_2 := dk_seg dksJ9_putCharsAt_1 24 rfl rfl
theorem dksJ9_putCharsAt_3 : cJ9_putCharsAt.data.toList.drop 70 = dktJ9_putCharsAt_3 := dk_seg dksJ9_putCharsAt_2 23 rfl rfl
theorem dJ9_putCharsAt_0 : decode cJ9_putCharsAt 0 = .ok (.iload_n 1, 1) := dk_27 (dk_at dksJ9_putCharsAt_0 0 rfl rfl)
theorem dJ9_putCharsAt_1 : decode cJ9_putCharsAt 1 = .ok (.iconst 4, 1) := dk_7 (dk_at dksJ9_putCharsAt_0 1 rfl rfl)
theorem dJ9_putCharsAt_2 : decode cJ9_putCharsAt 2 = .ok (.iadd, 1) := dk_96 (dk_at dksJ9_putCharsAt_0 2 rfl rfl)
theorem dJ9_putCharsAt_3 : decode cJ9_putCharsAt 3 = .ok (.istore 6, 2) := dk_54 6 (dk_at dksJ9_putCharsAt_0 3 rfl rfl)
theorem dJ9_putCharsAt_5 : decode cJ9_putCharsAt 5 = .ok (.iload_n 1, 1) := dk_27 (dk_at dksJ9_putCharsAt_0 5 rfl rfl)
theorem dJ9_putCharsAt_6 : decode cJ9_putCharsAt 6 = .ok (.iload 6, 2) := dk_21 6 (dk_at dksJ9_putCharsAt_0 6 rfl rfl)
theorem dJ9_putCharsAt_8 : decode cJ9_putCharsAt 8 = .ok (.aload_n 0, 1) := dk_42 (dk_at dksJ9_putCharsAt_0 8 rfl rfl)
theorem dJ9_putCharsAt_9 : decode cJ9_putCharsAt 9 = .ok (.invokestatic 96, 3) := dk_184 0 96 (dk_at dksJ9_putCharsAt_0 9 rfl rfl)
theorem dJ9_putCharsAt_12 : decode cJ9_putCharsAt 12 = .ok (.aload_n 0, 1) := dk_42 (dk_at dksJ9_putCharsAt_0 12 rfl rfl)
theorem dJ9_putCharsAt_13 : decode cJ9_putCharsAt 13 = .ok (.iload_n 1, 1) := dk_27 (dk_at dksJ9_putCharsAt_0 13 rfl rfl)
theorem dJ9_putCharsAt_14 : decode cJ9_putCharsAt 14 = .ok (.iinc 1 1, 3) := dk_132 1 1 (dk_at dksJ9_putCharsAt_0 14 rfl rfl)
theorem dJ9_putCharsAt_17 : decode cJ9_putCharsAt 17 = .ok (.iload_n 2, 1) := dk_28 (dk_at dksJ9_putCharsAt_0 17 rfl rfl)
theorem dJ9_putCharsAt_18 : decode cJ9_putCharsAt 18 = .ok (.invokestatic 111, 3) := dk_184 0 111 (dk_at dksJ9_putCharsAt_0 18 rfl rfl)
theorem dJ9_putCharsAt_21 : decode cJ9_putCharsAt 21 = .ok (.aload_n 0, 1) := dk_42 (dk_at dksJ9_putCharsAt_0 21 rfl rfl)
theorem dJ9_putCharsAt_22 : decode cJ9_putCharsAt 22 = .ok (.iload_n 1, 1) := dk_27 (dk_at dksJ9_putCharsAt_0 22 rfl rfl)
theorem dJ9_putCharsAt_23 : decode cJ9_putCharsAt 23 = .ok (.iinc 1 1, 3) := dk_132 1 1 (dk_at dksJ9_putCharsAt_1 0 rfl rfl)
theorem dJ9_putCharsAt_26 : decode cJ9_putCharsAt 26 = .ok (.iload_n 3, 1) := dk_29 (dk_at dksJ9_putCharsAt_1 3 rfl rfl)
theorem dJ9_putCharsAt_27 : decode cJ9_putCharsAt 27 = .ok (.invokestatic 111, 3) := dk_184 0 111 (dk_at dksJ9_putCharsAt_1 4 rfl rfl)
theorem dJ9_putCharsAt_30 : decode cJ9_putCharsAt 30 = .ok (.aload_n 0, 1) := dk_42 (dk_at dksJ9_putCharsAt_1 7 rfl rfl)
theorem dJ9_putCharsAt_31 : decode cJ9_putCharsAt 31 = .ok (.iload_n 1, 1) := dk_27 (dk_at dksJ9_putCharsAt_1 8 rfl rfl)
theorem dJ9_putCharsAt_32 : decode cJ9_putCharsAt 32 = .ok (.iinc 1 1, 3) := dk_132 1 1 (dk_at dksJ9_putCharsAt_1 9 rfl rfl)
theorem dJ9_putCharsAt_35 : decode cJ9_putCharsAt 35 = .ok (.iload 4, 2) := dk_21 4 (dk_at dksJ9_putCharsAt_1 12 rfl rfl)
theorem dJ9_putCharsAt_37 : decode cJ9_putCharsAt 37 = .ok (.invokestatic 111, 3) := dk_184 0 111 (dk_at dksJ9_putCharsAt_1 14 rfl rfl)
theorem dJ9_putCharsAt_40 : decode cJ9_putCharsAt 40 = .ok (.aload_n 0, 1) := dk_42 (dk_at dksJ9_putCharsAt_1 17 rfl rfl)
theorem dJ9_putCharsAt_41 : decode cJ9_putCharsAt 41 = .ok (.iload_n 1, 1) := dk_27 (dk_at dksJ9_putCharsAt_1 18 rfl rfl)
theorem dJ9_putCharsAt_42 : decode cJ9_putCharsAt 42 = .ok (.iinc 1 1, 3) := dk_132 1 1 (dk_at dksJ9_putCharsAt_1 19 rfl rfl)
theorem dJ9_putCharsAt_45 : decode cJ9_putCharsAt 45 = .ok (.iload 5, 2) := dk_21 5 (dk_at dksJ9_putCharsAt_1 22 rfl rfl)
theorem dJ9_putCharsAt_47 : decode cJ9_putCharsAt 47 = .ok (.invokestatic 111, 3) := dk_184 0 111 (dk_at dksJ9_putCharsAt_2 0 rfl rfl)
theorem dJ9_putCharsAt_50 : decode cJ9_putCharsAt 50 = .ok (.getstatic 44, 3) := dk_178 0 44 (dk_at dksJ9_putCharsAt_2 3 rfl rfl)
theorem dJ9_putCharsAt_53 : decode cJ9_putCharsAt 53 = .ok (.ifCond .ne 17, 3) := dk_154 0 17 (dk_at dksJ9_putCharsAt_2 6 rfl rfl)
theorem dJ9_putCharsAt_56 : decode cJ9_putCharsAt 56 = .ok (.iload_n 1, 1) := dk_27 (dk_at dksJ9_putCharsAt_2 9 rfl rfl)
theorem dJ9_putCharsAt_57 : decode cJ9_putCharsAt 57 = .ok (.iload 6, 2) := dk_21 6 (dk_at dksJ9_putCharsAt_2 10 rfl rfl)
theorem dJ9_putCharsAt_59 : decode cJ9_putCharsAt 59 = .ok (.if_icmp .eq 11, 3) := dk_159 0 11 (dk_at dksJ9_putCharsAt_2 12 rfl rfl)
theorem dJ9_putCharsAt_62 : decode cJ9_putCharsAt 62 = .ok (.new 52, 3) := dk_187 0 52 (dk_at dksJ9_putCharsAt_2 15 rfl rfl)
theorem dJ9_putCharsAt_65 : decode cJ9_putCharsAt 65 = .ok (.dup, 1) := dk_89 (dk_at dksJ9_putCharsAt_2 18 rfl rfl)
theorem dJ9_putCharsAt_66 : decode cJ9_putCharsAt 66 = .ok (.invokespecial 66, 3) := dk_183 0 66 (dk_at dksJ9_putCharsAt_2 19 rfl rfl)
theorem dJ9_putCharsAt_69 : decode cJ9_putCharsAt 69 = .ok (.athrow, 1) := dk_191 (dk_at dksJ9_putCharsAt_2 22 rfl rfl)
theorem dJ9_putCharsAt_70 : decode cJ9_putCharsAt 70 = .ok (.iload 6, 2) := dk_21 6 (dk_at dksJ9_putCharsAt_3 0 rfl rfl)
theorem dJ9_putCharsAt_72 : decode cJ9_putCharsAt 72 = .ok (.ireturn, 1) := dk_172 (dk_at dksJ9_putCharsAt_3 2 rfl rfl)
abbrev cJ9_checkBoundsBeginEnd : ByteArray := prog_37_method_93_code
def yJ9_checkBoundsBeginEnd : MethodName := ⟨RJ9, "checkBoundsBeginEnd", "(II[B)V"⟩
def dkwJ9_checkBoundsBeginEnd_0 : List UInt8 := [26, 27, 44, 184, 0, 48, 184, 0, 241, 177]
abbrev dktJ9_checkBoundsBeginEnd_0 : List UInt8 := dkwJ9_checkBoundsBeginEnd_0 ++ []
theorem dksJ9_checkBoundsBeginEnd_0 : cJ9_checkBoundsBeginEnd.data.toList.drop 0 = dktJ9_checkBoundsBeginEnd_0 := by decide +kernel
theorem dJ9_checkBoundsBeginEnd_0 : decode cJ9_checkBoundsBeginEnd 0 = .ok (.iload_n 0, 1) := dk_26 (dk_at dksJ9_checkBoundsBeginEnd_0 0 rfl rfl)
theorem dJ9_checkBoundsBeginEnd_1 : decode cJ9_checkBoundsBeginEnd 1 = .ok (.iload_n 1, 1) := dk_27 (dk_at dksJ9_checkBoundsBeginEnd_0 1 rfl rfl)
theorem dJ9_checkBoundsBeginEnd_2 : decode cJ9_checkBoundsBeginEnd 2 = .ok (.aload_n 2, 1) := dk_44 (dk_at dksJ9_checkBoundsBeginEnd_0 2 rfl rfl)
theorem dJ9_checkBoundsBeginEnd_3 : decode cJ9_checkBoundsBeginEnd 3 = .ok (.invokestatic 48, 3) := dk_184 0 48 (dk_at dksJ9_checkBoundsBeginEnd_0 3 rfl rfl)
theorem dJ9_checkBoundsBeginEnd_6 : decode cJ9_checkBoundsBeginEnd 6 = .ok (.invokestatic 241, 3) := dk_184 0 241 (dk_at dksJ9_checkBoundsBeginEnd_0 6 rfl rfl)
theorem dJ9_checkBoundsBeginEnd_9 : decode cJ9_checkBoundsBeginEnd 9 = .ok (.return_, 1) := dk_177 (dk_at dksJ9_checkBoundsBeginEnd_0 9 rfl rfl)
abbrev cJ9_length : ByteArray := prog_37_method_6_code
def yJ9_length : MethodName := ⟨RJ9, "length", "([B)I"⟩
def dkwJ9_length_0 : List UInt8 := [42, 190, 4, 122, 172]
abbrev dktJ9_length_0 : List UInt8 := dkwJ9_length_0 ++ []
theorem dksJ9_length_0 : cJ9_length.data.toList.drop 0 = dktJ9_length_0 := by decide +kernel
theorem dJ9_length_0 : decode cJ9_length 0 = .ok (.aload_n 0, 1) := dk_42 (dk_at dksJ9_length_0 0 rfl rfl)
theorem dJ9_length_1 : decode cJ9_length 1 = .ok (.arraylength, 1) := dk_190 (dk_at dksJ9_length_0 1 rfl rfl)
theorem dJ9_length_2 : decode cJ9_length 2 = .ok (.iconst 1, 1) := dk_4 (dk_at dksJ9_length_0 2 rfl rfl)
theorem dJ9_length_3 : decode cJ9_length 3 = .ok (.ishr, 1) := dk_122 (dk_at dksJ9_length_0 3 rfl rfl)
theorem dJ9_length_4 : decode cJ9_length 4 = .ok (.ireturn, 1) := dk_172 (dk_at dksJ9_length_0 4 rfl rfl)
abbrev cJ9_putChar : ByteArray := prog_37_method_4_code
def yJ9_putChar : MethodName := ⟨RJ9, "putChar", "([BII)V"⟩
def dkwJ9_putChar_2 : List UInt8 := [178, 0, 63, 122, 145, 84, 177]
abbrev dktJ9_putChar_2 : List UInt8 := dkwJ9_putChar_2 ++ []
def dkwJ9_putChar_1 : List UInt8 := [183, 0, 56, 191, 27, 4, 120, 60, 42, 27, 132, 1, 1, 28, 178, 0, 59, 122, 145, 84, 42, 27, 28]
abbrev dktJ9_putChar_1 : List UInt8 := dkwJ9_putChar_1 ++ dktJ9_putChar_2
def dkwJ9_putChar_0 : List UInt8 := [178, 0, 44, 154, 0, 25, 27, 155, 0, 11, 27, 42, 184, 0, 48, 161, 0, 13, 187, 0, 52, 89, 18, 54]
abbrev dktJ9_putChar_0 : List UInt8 := dkwJ9_putChar_0 ++ dktJ9_putChar_1
theorem dksJ9_putChar_0 : cJ9_putChar.data.toList.drop 0 = dktJ9_putChar_0 := by decide +kernel
theorem dksJ9_putChar_1 : cJ9_putChar.data.toList.drop 24 = dktJ9_putChar_1 := dk_seg dksJ9_putChar_0 24 rfl rfl
theorem dksJ9_putChar_2 : cJ9_putChar.data.toList.drop 47 = dktJ9_putChar_2 := dk_seg dksJ9_putChar_1 23 rfl rfl
theorem dJ9_putChar_0 : decode cJ9_putChar 0 = .ok (.getstatic 44, 3) := dk_178 0 44 (dk_at dksJ9_putChar_0 0 rfl rfl)
theorem dJ9_putChar_3 : decode cJ9_putChar 3 = .ok (.ifCond .ne 25, 3) := dk_154 0 25 (dk_at dksJ9_putChar_0 3 rfl rfl)
theorem dJ9_putChar_6 : decode cJ9_putChar 6 = .ok (.iload_n 1, 1) := dk_27 (dk_at dksJ9_putChar_0 6 rfl rfl)
theorem dJ9_putChar_7 : decode cJ9_putChar 7 = .ok (.ifCond .lt 11, 3) := dk_155 0 11 (dk_at dksJ9_putChar_0 7 rfl rfl)
theorem dJ9_putChar_10 : decode cJ9_putChar 10 = .ok (.iload_n 1, 1) := dk_27 (dk_at dksJ9_putChar_0 10 rfl rfl)
theorem dJ9_putChar_11 : decode cJ9_putChar 11 = .ok (.aload_n 0, 1) := dk_42 (dk_at dksJ9_putChar_0 11 rfl rfl)
theorem dJ9_putChar_12 : decode cJ9_putChar 12 = .ok (.invokestatic 48, 3) := dk_184 0 48 (dk_at dksJ9_putChar_0 12 rfl rfl)
theorem dJ9_putChar_15 : decode cJ9_putChar 15 = .ok (.if_icmp .lt 13, 3) := dk_161 0 13 (dk_at dksJ9_putChar_0 15 rfl rfl)
theorem dJ9_putChar_18 : decode cJ9_putChar 18 = .ok (.new 52, 3) := dk_187 0 52 (dk_at dksJ9_putChar_0 18 rfl rfl)
theorem dJ9_putChar_21 : decode cJ9_putChar 21 = .ok (.dup, 1) := dk_89 (dk_at dksJ9_putChar_0 21 rfl rfl)
theorem dJ9_putChar_22 : decode cJ9_putChar 22 = .ok (.ldc 54, 2) := dk_18 54 (dk_at dksJ9_putChar_0 22 rfl rfl)
theorem dJ9_putChar_24 : decode cJ9_putChar 24 = .ok (.invokespecial 56, 3) := dk_183 0 56 (dk_at dksJ9_putChar_1 0 rfl rfl)
theorem dJ9_putChar_27 : decode cJ9_putChar 27 = .ok (.athrow, 1) := dk_191 (dk_at dksJ9_putChar_1 3 rfl rfl)
theorem dJ9_putChar_28 : decode cJ9_putChar 28 = .ok (.iload_n 1, 1) := dk_27 (dk_at dksJ9_putChar_1 4 rfl rfl)
theorem dJ9_putChar_29 : decode cJ9_putChar 29 = .ok (.iconst 1, 1) := dk_4 (dk_at dksJ9_putChar_1 5 rfl rfl)
theorem dJ9_putChar_30 : decode cJ9_putChar 30 = .ok (.ishl, 1) := dk_120 (dk_at dksJ9_putChar_1 6 rfl rfl)
theorem dJ9_putChar_31 : decode cJ9_putChar 31 = .ok (.istore_n 1, 1) := dk_60 (dk_at dksJ9_putChar_1 7 rfl rfl)
theorem dJ9_putChar_32 : decode cJ9_putChar 32 = .ok (.aload_n 0, 1) := dk_42 (dk_at dksJ9_putChar_1 8 rfl rfl)
theorem dJ9_putChar_33 : decode cJ9_putChar 33 = .ok (.iload_n 1, 1) := dk_27 (dk_at dksJ9_putChar_1 9 rfl rfl)
theorem dJ9_putChar_34 : decode cJ9_putChar 34 = .ok (.iinc 1 1, 3) := dk_132 1 1 (dk_at dksJ9_putChar_1 10 rfl rfl)
theorem dJ9_putChar_37 : decode cJ9_putChar 37 = .ok (.iload_n 2, 1) := dk_28 (dk_at dksJ9_putChar_1 13 rfl rfl)
theorem dJ9_putChar_38 : decode cJ9_putChar 38 = .ok (.getstatic 59, 3) := dk_178 0 59 (dk_at dksJ9_putChar_1 14 rfl rfl)
theorem dJ9_putChar_41 : decode cJ9_putChar 41 = .ok (.ishr, 1) := dk_122 (dk_at dksJ9_putChar_1 17 rfl rfl)
theorem dJ9_putChar_42 : decode cJ9_putChar 42 = .ok (.i2b, 1) := dk_145 (dk_at dksJ9_putChar_1 18 rfl rfl)
theorem dJ9_putChar_43 : decode cJ9_putChar 43 = .ok (.bastore, 1) := dk_84 (dk_at dksJ9_putChar_1 19 rfl rfl)
theorem dJ9_putChar_44 : decode cJ9_putChar 44 = .ok (.aload_n 0, 1) := dk_42 (dk_at dksJ9_putChar_1 20 rfl rfl)
theorem dJ9_putChar_45 : decode cJ9_putChar 45 = .ok (.iload_n 1, 1) := dk_27 (dk_at dksJ9_putChar_1 21 rfl rfl)
theorem dJ9_putChar_46 : decode cJ9_putChar 46 = .ok (.iload_n 2, 1) := dk_28 (dk_at dksJ9_putChar_1 22 rfl rfl)
theorem dJ9_putChar_47 : decode cJ9_putChar 47 = .ok (.getstatic 63, 3) := dk_178 0 63 (dk_at dksJ9_putChar_2 0 rfl rfl)
theorem dJ9_putChar_50 : decode cJ9_putChar 50 = .ok (.ishr, 1) := dk_122 (dk_at dksJ9_putChar_2 3 rfl rfl)
theorem dJ9_putChar_51 : decode cJ9_putChar 51 = .ok (.i2b, 1) := dk_145 (dk_at dksJ9_putChar_2 4 rfl rfl)
theorem dJ9_putChar_52 : decode cJ9_putChar 52 = .ok (.bastore, 1) := dk_84 (dk_at dksJ9_putChar_2 5 rfl rfl)
theorem dJ9_putChar_53 : decode cJ9_putChar 53 = .ok (.return_, 1) := dk_177 (dk_at dksJ9_putChar_2 6 rfl rfl)
abbrev cJ9_inflate : ByteArray := prog_37_method_86_code
def yJ9_inflate : MethodName := ⟨RJ9, "inflate", "([BI[BII)V"⟩
def dkwJ9_inflate_1 : List UInt8 := [132, 1, 1, 51, 17, 0, 255, 126, 184, 0, 111, 132, 5, 1, 167, 255, 228, 177]
abbrev dktJ9_inflate_1 : List UInt8 := dkwJ9_inflate_1 ++ []
def dkwJ9_inflate_0 : List UInt8 := [29, 21, 4, 44, 184, 0, 173, 3, 54, 5, 21, 5, 21, 4, 162, 0, 27, 44, 29, 132, 3, 1, 42, 27]
abbrev dktJ9_inflate_0 : List UInt8 := dkwJ9_inflate_0 ++ dktJ9_inflate_1
theorem dksJ9_inflate_0 : cJ9_inflate.data.toList.drop 0 = dktJ9_inflate_0 := by decide +kernel
theorem dksJ9_inflate_1 : cJ9_inflate.data.toList.drop 24 = dktJ9_inflate_1 := dk_seg dksJ9_inflate_0 24 rfl rfl
theorem dJ9_inflate_0 : decode cJ9_inflate 0 = .ok (.iload_n 3, 1) := dk_29 (dk_at dksJ9_inflate_0 0 rfl rfl)
theorem dJ9_inflate_1 : decode cJ9_inflate 1 = .ok (.iload 4, 2) := dk_21 4 (dk_at dksJ9_inflate_0 1 rfl rfl)
theorem dJ9_inflate_3 : decode cJ9_inflate 3 = .ok (.aload_n 2, 1) := dk_44 (dk_at dksJ9_inflate_0 3 rfl rfl)
theorem dJ9_inflate_4 : decode cJ9_inflate 4 = .ok (.invokestatic 173, 3) := dk_184 0 173 (dk_at dksJ9_inflate_0 4 rfl rfl)
theorem dJ9_inflate_7 : decode cJ9_inflate 7 = .ok (.iconst 0, 1) := dk_3 (dk_at dksJ9_inflate_0 7 rfl rfl)
theorem dJ9_inflate_8 : decode cJ9_inflate 8 = .ok (.istore 5, 2) := dk_54 5 (dk_at dksJ9_inflate_0 8 rfl rfl)
theorem dJ9_inflate_10 : decode cJ9_inflate 10 = .ok (.iload 5, 2) := dk_21 5 (dk_at dksJ9_inflate_0 10 rfl rfl)
theorem dJ9_inflate_12 : decode cJ9_inflate 12 = .ok (.iload 4, 2) := dk_21 4 (dk_at dksJ9_inflate_0 12 rfl rfl)
theorem dJ9_inflate_14 : decode cJ9_inflate 14 = .ok (.if_icmp .ge 27, 3) := dk_162 0 27 (dk_at dksJ9_inflate_0 14 rfl rfl)
theorem dJ9_inflate_17 : decode cJ9_inflate 17 = .ok (.aload_n 2, 1) := dk_44 (dk_at dksJ9_inflate_0 17 rfl rfl)
theorem dJ9_inflate_18 : decode cJ9_inflate 18 = .ok (.iload_n 3, 1) := dk_29 (dk_at dksJ9_inflate_0 18 rfl rfl)
theorem dJ9_inflate_19 : decode cJ9_inflate 19 = .ok (.iinc 3 1, 3) := dk_132 3 1 (dk_at dksJ9_inflate_0 19 rfl rfl)
theorem dJ9_inflate_22 : decode cJ9_inflate 22 = .ok (.aload_n 0, 1) := dk_42 (dk_at dksJ9_inflate_0 22 rfl rfl)
theorem dJ9_inflate_23 : decode cJ9_inflate 23 = .ok (.iload_n 1, 1) := dk_27 (dk_at dksJ9_inflate_0 23 rfl rfl)
theorem dJ9_inflate_24 : decode cJ9_inflate 24 = .ok (.iinc 1 1, 3) := dk_132 1 1 (dk_at dksJ9_inflate_1 0 rfl rfl)
theorem dJ9_inflate_27 : decode cJ9_inflate 27 = .ok (.baload, 1) := dk_51 (dk_at dksJ9_inflate_1 3 rfl rfl)
theorem dJ9_inflate_28 : decode cJ9_inflate 28 = .ok (.sipush 255, 3) := dk_17 0 255 (dk_at dksJ9_inflate_1 4 rfl rfl)
theorem dJ9_inflate_31 : decode cJ9_inflate 31 = .ok (.iand, 1) := dk_126 (dk_at dksJ9_inflate_1 7 rfl rfl)
theorem dJ9_inflate_32 : decode cJ9_inflate 32 = .ok (.invokestatic 111, 3) := dk_184 0 111 (dk_at dksJ9_inflate_1 8 rfl rfl)
theorem dJ9_inflate_35 : decode cJ9_inflate 35 = .ok (.iinc 5 1, 3) := dk_132 5 1 (dk_at dksJ9_inflate_1 11 rfl rfl)
theorem dJ9_inflate_38 : decode cJ9_inflate 38 = .ok (.goto (-28), 3) := dk_167 255 228 (dk_at dksJ9_inflate_1 14 rfl rfl)
theorem dJ9_inflate_41 : decode cJ9_inflate 41 = .ok (.return_, 1) := dk_177 (dk_at dksJ9_inflate_1 17 rfl rfl)
abbrev cJ9_checkBoundsOffCount : ByteArray := prog_37_method_94_code
def yJ9_checkBoundsOffCount : MethodName := ⟨RJ9, "checkBoundsOffCount", "(II[B)V"⟩
def dkwJ9_checkBoundsOffCount_0 : List UInt8 := [26, 27, 44, 184, 0, 48, 184, 1, 163, 87, 177]
abbrev dktJ9_checkBoundsOffCount_0 : List UInt8 := dkwJ9_checkBoundsOffCount_0 ++ []
theorem dksJ9_checkBoundsOffCount_0 : cJ9_checkBoundsOffCount.data.toList.drop 0 = dktJ9_checkBoundsOffCount_0 := by decide +kernel
theorem dJ9_checkBoundsOffCount_0 : decode cJ9_checkBoundsOffCount 0 = .ok (.iload_n 0, 1) := dk_26 (dk_at dksJ9_checkBoundsOffCount_0 0 rfl rfl)
theorem dJ9_checkBoundsOffCount_1 : decode cJ9_checkBoundsOffCount 1 = .ok (.iload_n 1, 1) := dk_27 (dk_at dksJ9_checkBoundsOffCount_0 1 rfl rfl)
theorem dJ9_checkBoundsOffCount_2 : decode cJ9_checkBoundsOffCount 2 = .ok (.aload_n 2, 1) := dk_44 (dk_at dksJ9_checkBoundsOffCount_0 2 rfl rfl)
theorem dJ9_checkBoundsOffCount_3 : decode cJ9_checkBoundsOffCount 3 = .ok (.invokestatic 48, 3) := dk_184 0 48 (dk_at dksJ9_checkBoundsOffCount_0 3 rfl rfl)
theorem dJ9_checkBoundsOffCount_6 : decode cJ9_checkBoundsOffCount 6 = .ok (.invokestatic 419, 3) := dk_184 1 163 (dk_at dksJ9_checkBoundsOffCount_0 6 rfl rfl)
theorem dJ9_checkBoundsOffCount_9 : decode cJ9_checkBoundsOffCount 9 = .ok (.pop, 1) := dk_87 (dk_at dksJ9_checkBoundsOffCount_0 9 rfl rfl)
theorem dJ9_checkBoundsOffCount_10 : decode cJ9_checkBoundsOffCount 10 = .ok (.return_, 1) := dk_177 (dk_at dksJ9_checkBoundsOffCount_0 10 rfl rfl)
abbrev cJ9_compress : ByteArray := prog_37_method_17_code
def yJ9_compress : MethodName := ⟨RJ9, "compress", "([BII)[B"⟩
def dkwJ9_compress_2 : List UInt8 := [25, 5, 3, 45, 3, 28, 184, 0, 123, 28, 159, 0, 6, 25, 5, 176, 45, 176]
abbrev dktJ9_compress_2 : List UInt8 := dkwJ9_compress_2 ++ []
def dkwJ9_compress_1 : List UInt8 := [27, 28, 96, 184, 0, 11, 184, 0, 126, 58, 5, 25, 5, 21, 4, 184, 0, 71, 17, 0, 255, 163, 0, 16]
abbrev dktJ9_compress_1 : List UInt8 := dkwJ9_compress_1 ++ dktJ9_compress_2
def dkwJ9_compress_0 : List UInt8 := [28, 188, 8, 78, 42, 27, 45, 3, 28, 184, 0, 123, 54, 4, 21, 4, 28, 159, 0, 47, 42, 27, 4, 120]
abbrev dktJ9_compress_0 : List UInt8 := dkwJ9_compress_0 ++ dktJ9_compress_1
theorem dksJ9_compress_0 : cJ9_compress.data.toList.drop 0 = dktJ9_compress_0 := by decide +kernel
theorem dksJ9_compress_1 : cJ9_compress.data.toList.drop 24 = dktJ9_compress_1 := dk_seg dksJ9_compress_0 24 rfl rfl
theorem dksJ9_compress_2 : cJ9_compress.data.toList.drop 48 = dktJ9_compress_2 := dk_seg dksJ9_compress_1 24 rfl rfl
theorem dJ9_compress_0 : decode cJ9_compress 0 = .ok (.iload_n 2, 1) := dk_28 (dk_at dksJ9_compress_0 0 rfl rfl)
theorem dJ9_compress_1 : decode cJ9_compress 1 = .ok (.newarray .byte, 2) := dk_188_8 (dk_at dksJ9_compress_0 1 rfl rfl)
theorem dJ9_compress_3 : decode cJ9_compress 3 = .ok (.astore_n 3, 1) := dk_78 (dk_at dksJ9_compress_0 3 rfl rfl)
theorem dJ9_compress_4 : decode cJ9_compress 4 = .ok (.aload_n 0, 1) := dk_42 (dk_at dksJ9_compress_0 4 rfl rfl)
theorem dJ9_compress_5 : decode cJ9_compress 5 = .ok (.iload_n 1, 1) := dk_27 (dk_at dksJ9_compress_0 5 rfl rfl)
theorem dJ9_compress_6 : decode cJ9_compress 6 = .ok (.aload_n 3, 1) := dk_45 (dk_at dksJ9_compress_0 6 rfl rfl)
theorem dJ9_compress_7 : decode cJ9_compress 7 = .ok (.iconst 0, 1) := dk_3 (dk_at dksJ9_compress_0 7 rfl rfl)
theorem dJ9_compress_8 : decode cJ9_compress 8 = .ok (.iload_n 2, 1) := dk_28 (dk_at dksJ9_compress_0 8 rfl rfl)
theorem dJ9_compress_9 : decode cJ9_compress 9 = .ok (.invokestatic 123, 3) := dk_184 0 123 (dk_at dksJ9_compress_0 9 rfl rfl)
theorem dJ9_compress_12 : decode cJ9_compress 12 = .ok (.istore 4, 2) := dk_54 4 (dk_at dksJ9_compress_0 12 rfl rfl)
theorem dJ9_compress_14 : decode cJ9_compress 14 = .ok (.iload 4, 2) := dk_21 4 (dk_at dksJ9_compress_0 14 rfl rfl)
theorem dJ9_compress_16 : decode cJ9_compress 16 = .ok (.iload_n 2, 1) := dk_28 (dk_at dksJ9_compress_0 16 rfl rfl)
theorem dJ9_compress_17 : decode cJ9_compress 17 = .ok (.if_icmp .eq 47, 3) := dk_159 0 47 (dk_at dksJ9_compress_0 17 rfl rfl)
theorem dJ9_compress_20 : decode cJ9_compress 20 = .ok (.aload_n 0, 1) := dk_42 (dk_at dksJ9_compress_0 20 rfl rfl)
theorem dJ9_compress_21 : decode cJ9_compress 21 = .ok (.iload_n 1, 1) := dk_27 (dk_at dksJ9_compress_0 21 rfl rfl)
theorem dJ9_compress_22 : decode cJ9_compress 22 = .ok (.iconst 1, 1) := dk_4 (dk_at dksJ9_compress_0 22 rfl rfl)
theorem dJ9_compress_23 : decode cJ9_compress 23 = .ok (.ishl, 1) := dk_120 (dk_at dksJ9_compress_0 23 rfl rfl)
theorem dJ9_compress_24 : decode cJ9_compress 24 = .ok (.iload_n 1, 1) := dk_27 (dk_at dksJ9_compress_1 0 rfl rfl)
theorem dJ9_compress_25 : decode cJ9_compress 25 = .ok (.iload_n 2, 1) := dk_28 (dk_at dksJ9_compress_1 1 rfl rfl)
theorem dJ9_compress_26 : decode cJ9_compress 26 = .ok (.iadd, 1) := dk_96 (dk_at dksJ9_compress_1 2 rfl rfl)
theorem dJ9_compress_27 : decode cJ9_compress 27 = .ok (.invokestatic 11, 3) := dk_184 0 11 (dk_at dksJ9_compress_1 3 rfl rfl)
theorem dJ9_compress_30 : decode cJ9_compress 30 = .ok (.invokestatic 126, 3) := dk_184 0 126 (dk_at dksJ9_compress_1 6 rfl rfl)
theorem dJ9_compress_33 : decode cJ9_compress 33 = .ok (.astore 5, 2) := dk_58 5 (dk_at dksJ9_compress_1 9 rfl rfl)
theorem dJ9_compress_35 : decode cJ9_compress 35 = .ok (.aload 5, 2) := dk_25 5 (dk_at dksJ9_compress_1 11 rfl rfl)
theorem dJ9_compress_37 : decode cJ9_compress 37 = .ok (.iload 4, 2) := dk_21 4 (dk_at dksJ9_compress_1 13 rfl rfl)
theorem dJ9_compress_39 : decode cJ9_compress 39 = .ok (.invokestatic 71, 3) := dk_184 0 71 (dk_at dksJ9_compress_1 15 rfl rfl)
theorem dJ9_compress_42 : decode cJ9_compress 42 = .ok (.sipush 255, 3) := dk_17 0 255 (dk_at dksJ9_compress_1 18 rfl rfl)
theorem dJ9_compress_45 : decode cJ9_compress 45 = .ok (.if_icmp .gt 16, 3) := dk_163 0 16 (dk_at dksJ9_compress_1 21 rfl rfl)
theorem dJ9_compress_48 : decode cJ9_compress 48 = .ok (.aload 5, 2) := dk_25 5 (dk_at dksJ9_compress_2 0 rfl rfl)
theorem dJ9_compress_50 : decode cJ9_compress 50 = .ok (.iconst 0, 1) := dk_3 (dk_at dksJ9_compress_2 2 rfl rfl)
theorem dJ9_compress_51 : decode cJ9_compress 51 = .ok (.aload_n 3, 1) := dk_45 (dk_at dksJ9_compress_2 3 rfl rfl)
theorem dJ9_compress_52 : decode cJ9_compress 52 = .ok (.iconst 0, 1) := dk_3 (dk_at dksJ9_compress_2 4 rfl rfl)
theorem dJ9_compress_53 : decode cJ9_compress 53 = .ok (.iload_n 2, 1) := dk_28 (dk_at dksJ9_compress_2 5 rfl rfl)
theorem dJ9_compress_54 : decode cJ9_compress 54 = .ok (.invokestatic 123, 3) := dk_184 0 123 (dk_at dksJ9_compress_2 6 rfl rfl)
theorem dJ9_compress_57 : decode cJ9_compress 57 = .ok (.iload_n 2, 1) := dk_28 (dk_at dksJ9_compress_2 9 rfl rfl)
theorem dJ9_compress_58 : decode cJ9_compress 58 = .ok (.if_icmp .eq 6, 3) := dk_159 0 6 (dk_at dksJ9_compress_2 10 rfl rfl)
theorem dJ9_compress_61 : decode cJ9_compress 61 = .ok (.aload 5, 2) := dk_25 5 (dk_at dksJ9_compress_2 13 rfl rfl)
theorem dJ9_compress_63 : decode cJ9_compress 63 = .ok (.areturn, 1) := dk_176 (dk_at dksJ9_compress_2 15 rfl rfl)
theorem dJ9_compress_64 : decode cJ9_compress 64 = .ok (.aload_n 3, 1) := dk_45 (dk_at dksJ9_compress_2 16 rfl rfl)
theorem dJ9_compress_65 : decode cJ9_compress 65 = .ok (.areturn, 1) := dk_176 (dk_at dksJ9_compress_2 17 rfl rfl)
abbrev cJ9_compress_2 : ByteArray := prog_37_method_22_code
def yJ9_compress_2 : MethodName := ⟨RJ9, "compress", "([BI[BII)I"⟩
def dkwJ9_compress_2_2 : List UInt8 := [132, 5, 1, 167, 255, 216, 21, 4, 172]
abbrev dktJ9_compress_2_2 : List UInt8 := dkwJ9_compress_2_2 ++ []
def dkwJ9_compress_2_1 : List UInt8 := [21, 6, 17, 0, 255, 164, 0, 6, 21, 5, 172, 44, 29, 21, 6, 145, 84, 132, 1, 1, 132, 3, 1]
abbrev dktJ9_compress_2_1 : List UInt8 := dkwJ9_compress_2_1 ++ dktJ9_compress_2_2
def dkwJ9_compress_2_0 : List UInt8 := [27, 21, 4, 42, 184, 0, 173, 3, 54, 5, 21, 5, 21, 4, 162, 0, 39, 42, 27, 184, 0, 71, 54, 6]
abbrev dktJ9_compress_2_0 : List UInt8 := dkwJ9_compress_2_0 ++ dktJ9_compress_2_1
theorem dksJ9_compress_2_0 : cJ9_compress_2.data.toList.drop 0 = dktJ9_compress_2_0 := by decide +kernel
theorem dksJ9_compress_2_1 : cJ9_compress_2.data.toList.drop 24 = dktJ9_compress_2_1 := dk_seg dksJ9_compress_2_0 24 rfl rfl
theorem dksJ9_compress_2_2 : cJ9_compress_2.data.toList.drop 47 = dktJ9_compress_2_2 := dk_seg dksJ9_compress_2_1 23 rfl rfl
theorem dJ9_compress_2_0 : decode cJ9_compress_2 0 = .ok (.iload_n 1, 1) := dk_27 (dk_at dksJ9_compress_2_0 0 rfl rfl)
theorem dJ9_compress_2_1 : decode cJ9_compress_2 1 = .ok (.iload 4, 2) := dk_21 4 (dk_at dksJ9_compress_2_0 1 rfl rfl)
theorem dJ9_compress_2_3 : decode cJ9_compress_2 3 = .ok (.aload_n 0, 1) := dk_42 (dk_at dksJ9_compress_2_0 3 rfl rfl)
theorem dJ9_compress_2_4 : decode cJ9_compress_2 4 = .ok (.invokestatic 173, 3) := dk_184 0 173 (dk_at dksJ9_compress_2_0 4 rfl rfl)
theorem dJ9_compress_2_7 : decode cJ9_compress_2 7 = .ok (.iconst 0, 1) := dk_3 (dk_at dksJ9_compress_2_0 7 rfl rfl)
theorem dJ9_compress_2_8 : decode cJ9_compress_2 8 = .ok (.istore 5, 2) := dk_54 5 (dk_at dksJ9_compress_2_0 8 rfl rfl)
theorem dJ9_compress_2_10 : decode cJ9_compress_2 10 = .ok (.iload 5, 2) := dk_21 5 (dk_at dksJ9_compress_2_0 10 rfl rfl)
theorem dJ9_compress_2_12 : decode cJ9_compress_2 12 = .ok (.iload 4, 2) := dk_21 4 (dk_at dksJ9_compress_2_0 12 rfl rfl)
theorem dJ9_compress_2_14 : decode cJ9_compress_2 14 = .ok (.if_icmp .ge 39, 3) := dk_162 0 39 (dk_at dksJ9_compress_2_0 14 rfl rfl)
theorem dJ9_compress_2_17 : decode cJ9_compress_2 17 = .ok (.aload_n 0, 1) := dk_42 (dk_at dksJ9_compress_2_0 17 rfl rfl)
theorem dJ9_compress_2_18 : decode cJ9_compress_2 18 = .ok (.iload_n 1, 1) := dk_27 (dk_at dksJ9_compress_2_0 18 rfl rfl)
theorem dJ9_compress_2_19 : decode cJ9_compress_2 19 = .ok (.invokestatic 71, 3) := dk_184 0 71 (dk_at dksJ9_compress_2_0 19 rfl rfl)
theorem dJ9_compress_2_22 : decode cJ9_compress_2 22 = .ok (.istore 6, 2) := dk_54 6 (dk_at dksJ9_compress_2_0 22 rfl rfl)
theorem dJ9_compress_2_24 : decode cJ9_compress_2 24 = .ok (.iload 6, 2) := dk_21 6 (dk_at dksJ9_compress_2_1 0 rfl rfl)
theorem dJ9_compress_2_26 : decode cJ9_compress_2 26 = .ok (.sipush 255, 3) := dk_17 0 255 (dk_at dksJ9_compress_2_1 2 rfl rfl)
theorem dJ9_compress_2_29 : decode cJ9_compress_2 29 = .ok (.if_icmp .le 6, 3) := dk_164 0 6 (dk_at dksJ9_compress_2_1 5 rfl rfl)
theorem dJ9_compress_2_32 : decode cJ9_compress_2 32 = .ok (.iload 5, 2) := dk_21 5 (dk_at dksJ9_compress_2_1 8 rfl rfl)
theorem dJ9_compress_2_34 : decode cJ9_compress_2 34 = .ok (.ireturn, 1) := dk_172 (dk_at dksJ9_compress_2_1 10 rfl rfl)
theorem dJ9_compress_2_35 : decode cJ9_compress_2 35 = .ok (.aload_n 2, 1) := dk_44 (dk_at dksJ9_compress_2_1 11 rfl rfl)
theorem dJ9_compress_2_36 : decode cJ9_compress_2 36 = .ok (.iload_n 3, 1) := dk_29 (dk_at dksJ9_compress_2_1 12 rfl rfl)
theorem dJ9_compress_2_37 : decode cJ9_compress_2 37 = .ok (.iload 6, 2) := dk_21 6 (dk_at dksJ9_compress_2_1 13 rfl rfl)
theorem dJ9_compress_2_39 : decode cJ9_compress_2 39 = .ok (.i2b, 1) := dk_145 (dk_at dksJ9_compress_2_1 15 rfl rfl)
theorem dJ9_compress_2_40 : decode cJ9_compress_2 40 = .ok (.bastore, 1) := dk_84 (dk_at dksJ9_compress_2_1 16 rfl rfl)
theorem dJ9_compress_2_41 : decode cJ9_compress_2 41 = .ok (.iinc 1 1, 3) := dk_132 1 1 (dk_at dksJ9_compress_2_1 17 rfl rfl)
theorem dJ9_compress_2_44 : decode cJ9_compress_2 44 = .ok (.iinc 3 1, 3) := dk_132 3 1 (dk_at dksJ9_compress_2_1 20 rfl rfl)
theorem dJ9_compress_2_47 : decode cJ9_compress_2 47 = .ok (.iinc 5 1, 3) := dk_132 5 1 (dk_at dksJ9_compress_2_2 0 rfl rfl)
theorem dJ9_compress_2_50 : decode cJ9_compress_2 50 = .ok (.goto (-40), 3) := dk_167 255 216 (dk_at dksJ9_compress_2_2 3 rfl rfl)
theorem dJ9_compress_2_53 : decode cJ9_compress_2 53 = .ok (.iload 4, 2) := dk_21 4 (dk_at dksJ9_compress_2_2 6 rfl rfl)
theorem dJ9_compress_2_55 : decode cJ9_compress_2 55 = .ok (.ireturn, 1) := dk_172 (dk_at dksJ9_compress_2_2 8 rfl rfl)
abbrev cJ9_getChar : ByteArray := prog_37_method_5_code
def yJ9_getChar : MethodName := ⟨RJ9, "getChar", "([BI)C"⟩
def dkwJ9_getChar_2 : List UInt8 := [51, 17, 0, 255, 126, 178, 0, 63, 120, 128, 146, 172]
abbrev dktJ9_getChar_2 : List UInt8 := dkwJ9_getChar_2 ++ []
def dkwJ9_getChar_1 : List UInt8 := [183, 0, 56, 191, 27, 4, 120, 60, 42, 27, 132, 1, 1, 51, 17, 0, 255, 126, 178, 0, 59, 120, 42, 27]
abbrev dktJ9_getChar_1 : List UInt8 := dkwJ9_getChar_1 ++ dktJ9_getChar_2
def dkwJ9_getChar_0 : List UInt8 := [178, 0, 44, 154, 0, 25, 27, 155, 0, 11, 27, 42, 184, 0, 48, 161, 0, 13, 187, 0, 52, 89, 18, 54]
abbrev dktJ9_getChar_0 : List UInt8 := dkwJ9_getChar_0 ++ dktJ9_getChar_1
theorem dksJ9_getChar_0 : cJ9_getChar.data.toList.drop 0 = dktJ9_getChar_0 := by decide +kernel
theorem dksJ9_getChar_1 : cJ9_getChar.data.toList.drop 24 = dktJ9_getChar_1 := dk_seg dksJ9_getChar_0 24 rfl rfl
theorem dksJ9_getChar_2 : cJ9_getChar.data.toList.drop 48 = dktJ9_getChar_2 := dk_seg dksJ9_getChar_1 24 rfl rfl
theorem dJ9_getChar_0 : decode cJ9_getChar 0 = .ok (.getstatic 44, 3) := dk_178 0 44 (dk_at dksJ9_getChar_0 0 rfl rfl)
theorem dJ9_getChar_3 : decode cJ9_getChar 3 = .ok (.ifCond .ne 25, 3) := dk_154 0 25 (dk_at dksJ9_getChar_0 3 rfl rfl)
theorem dJ9_getChar_6 : decode cJ9_getChar 6 = .ok (.iload_n 1, 1) := dk_27 (dk_at dksJ9_getChar_0 6 rfl rfl)
theorem dJ9_getChar_7 : decode cJ9_getChar 7 = .ok (.ifCond .lt 11, 3) := dk_155 0 11 (dk_at dksJ9_getChar_0 7 rfl rfl)
theorem dJ9_getChar_10 : decode cJ9_getChar 10 = .ok (.iload_n 1, 1) := dk_27 (dk_at dksJ9_getChar_0 10 rfl rfl)
theorem dJ9_getChar_11 : decode cJ9_getChar 11 = .ok (.aload_n 0, 1) := dk_42 (dk_at dksJ9_getChar_0 11 rfl rfl)
theorem dJ9_getChar_12 : decode cJ9_getChar 12 = .ok (.invokestatic 48, 3) := dk_184 0 48 (dk_at dksJ9_getChar_0 12 rfl rfl)
theorem dJ9_getChar_15 : decode cJ9_getChar 15 = .ok (.if_icmp .lt 13, 3) := dk_161 0 13 (dk_at dksJ9_getChar_0 15 rfl rfl)
theorem dJ9_getChar_18 : decode cJ9_getChar 18 = .ok (.new 52, 3) := dk_187 0 52 (dk_at dksJ9_getChar_0 18 rfl rfl)
theorem dJ9_getChar_21 : decode cJ9_getChar 21 = .ok (.dup, 1) := dk_89 (dk_at dksJ9_getChar_0 21 rfl rfl)
theorem dJ9_getChar_22 : decode cJ9_getChar 22 = .ok (.ldc 54, 2) := dk_18 54 (dk_at dksJ9_getChar_0 22 rfl rfl)
theorem dJ9_getChar_24 : decode cJ9_getChar 24 = .ok (.invokespecial 56, 3) := dk_183 0 56 (dk_at dksJ9_getChar_1 0 rfl rfl)
theorem dJ9_getChar_27 : decode cJ9_getChar 27 = .ok (.athrow, 1) := dk_191 (dk_at dksJ9_getChar_1 3 rfl rfl)
theorem dJ9_getChar_28 : decode cJ9_getChar 28 = .ok (.iload_n 1, 1) := dk_27 (dk_at dksJ9_getChar_1 4 rfl rfl)
theorem dJ9_getChar_29 : decode cJ9_getChar 29 = .ok (.iconst 1, 1) := dk_4 (dk_at dksJ9_getChar_1 5 rfl rfl)
theorem dJ9_getChar_30 : decode cJ9_getChar 30 = .ok (.ishl, 1) := dk_120 (dk_at dksJ9_getChar_1 6 rfl rfl)
theorem dJ9_getChar_31 : decode cJ9_getChar 31 = .ok (.istore_n 1, 1) := dk_60 (dk_at dksJ9_getChar_1 7 rfl rfl)
theorem dJ9_getChar_32 : decode cJ9_getChar 32 = .ok (.aload_n 0, 1) := dk_42 (dk_at dksJ9_getChar_1 8 rfl rfl)
theorem dJ9_getChar_33 : decode cJ9_getChar 33 = .ok (.iload_n 1, 1) := dk_27 (dk_at dksJ9_getChar_1 9 rfl rfl)
theorem dJ9_getChar_34 : decode cJ9_getChar 34 = .ok (.iinc 1 1, 3) := dk_132 1 1 (dk_at dksJ9_getChar_1 10 rfl rfl)
theorem dJ9_getChar_37 : decode cJ9_getChar 37 = .ok (.baload, 1) := dk_51 (dk_at dksJ9_getChar_1 13 rfl rfl)
theorem dJ9_getChar_38 : decode cJ9_getChar 38 = .ok (.sipush 255, 3) := dk_17 0 255 (dk_at dksJ9_getChar_1 14 rfl rfl)
theorem dJ9_getChar_41 : decode cJ9_getChar 41 = .ok (.iand, 1) := dk_126 (dk_at dksJ9_getChar_1 17 rfl rfl)
theorem dJ9_getChar_42 : decode cJ9_getChar 42 = .ok (.getstatic 59, 3) := dk_178 0 59 (dk_at dksJ9_getChar_1 18 rfl rfl)
theorem dJ9_getChar_45 : decode cJ9_getChar 45 = .ok (.ishl, 1) := dk_120 (dk_at dksJ9_getChar_1 21 rfl rfl)
theorem dJ9_getChar_46 : decode cJ9_getChar 46 = .ok (.aload_n 0, 1) := dk_42 (dk_at dksJ9_getChar_1 22 rfl rfl)
theorem dJ9_getChar_47 : decode cJ9_getChar 47 = .ok (.iload_n 1, 1) := dk_27 (dk_at dksJ9_getChar_1 23 rfl rfl)
theorem dJ9_getChar_48 : decode cJ9_getChar 48 = .ok (.baload, 1) := dk_51 (dk_at dksJ9_getChar_2 0 rfl rfl)
theorem dJ9_getChar_49 : decode cJ9_getChar 49 = .ok (.sipush 255, 3) := dk_17 0 255 (dk_at dksJ9_getChar_2 1 rfl rfl)
theorem dJ9_getChar_52 : decode cJ9_getChar 52 = .ok (.iand, 1) := dk_126 (dk_at dksJ9_getChar_2 4 rfl rfl)
theorem dJ9_getChar_53 : decode cJ9_getChar 53 = .ok (.getstatic 63, 3) := dk_178 0 63 (dk_at dksJ9_getChar_2 5 rfl rfl)
theorem dJ9_getChar_56 : decode cJ9_getChar 56 = .ok (.ishl, 1) := dk_120 (dk_at dksJ9_getChar_2 8 rfl rfl)
theorem dJ9_getChar_57 : decode cJ9_getChar 57 = .ok (.ior, 1) := dk_128 (dk_at dksJ9_getChar_2 9 rfl rfl)
theorem dJ9_getChar_58 : decode cJ9_getChar 58 = .ok (.i2c, 1) := dk_146 (dk_at dksJ9_getChar_2 10 rfl rfl)
theorem dJ9_getChar_59 : decode cJ9_getChar 59 = .ok (.ireturn, 1) := dk_172 (dk_at dksJ9_getChar_2 11 rfl rfl)
abbrev cJ9_coderFromArrayLen : ByteArray := prog_37_method_15_code
def yJ9_coderFromArrayLen : MethodName := ⟨RJ9, "coderFromArrayLen", "([BI)B"⟩
def dkwJ9_coderFromArrayLen_0 : List UInt8 := [27, 42, 190, 100, 16, 31, 124, 145, 172]
abbrev dktJ9_coderFromArrayLen_0 : List UInt8 := dkwJ9_coderFromArrayLen_0 ++ []
theorem dksJ9_coderFromArrayLen_0 : cJ9_coderFromArrayLen.data.toList.drop 0 = dktJ9_coderFromArrayLen_0 := by decide +kernel
theorem dJ9_coderFromArrayLen_0 : decode cJ9_coderFromArrayLen 0 = .ok (.iload_n 1, 1) := dk_27 (dk_at dksJ9_coderFromArrayLen_0 0 rfl rfl)
theorem dJ9_coderFromArrayLen_1 : decode cJ9_coderFromArrayLen 1 = .ok (.aload_n 0, 1) := dk_42 (dk_at dksJ9_coderFromArrayLen_0 1 rfl rfl)
theorem dJ9_coderFromArrayLen_2 : decode cJ9_coderFromArrayLen 2 = .ok (.arraylength, 1) := dk_190 (dk_at dksJ9_coderFromArrayLen_0 2 rfl rfl)
theorem dJ9_coderFromArrayLen_3 : decode cJ9_coderFromArrayLen 3 = .ok (.isub, 1) := dk_100 (dk_at dksJ9_coderFromArrayLen_0 3 rfl rfl)
theorem dJ9_coderFromArrayLen_4 : decode cJ9_coderFromArrayLen 4 = .ok (.bipush 31, 2) := dk_16 31 (dk_at dksJ9_coderFromArrayLen_0 4 rfl rfl)
theorem dJ9_coderFromArrayLen_6 : decode cJ9_coderFromArrayLen 6 = .ok (.iushr, 1) := dk_124 (dk_at dksJ9_coderFromArrayLen_0 6 rfl rfl)
theorem dJ9_coderFromArrayLen_7 : decode cJ9_coderFromArrayLen 7 = .ok (.i2b, 1) := dk_145 (dk_at dksJ9_coderFromArrayLen_0 7 rfl rfl)
theorem dJ9_coderFromArrayLen_8 : decode cJ9_coderFromArrayLen 8 = .ok (.ireturn, 1) := dk_172 (dk_at dksJ9_coderFromArrayLen_0 8 rfl rfl)
abbrev cJ9_putCharSB : ByteArray := prog_37_method_71_code
def yJ9_putCharSB : MethodName := ⟨RJ9, "putCharSB", "([BII)V"⟩
def dkwJ9_putCharSB_0 : List UInt8 := [27, 42, 184, 0, 67, 42, 27, 28, 184, 0, 111, 177]
abbrev dktJ9_putCharSB_0 : List UInt8 := dkwJ9_putCharSB_0 ++ []
theorem dksJ9_putCharSB_0 : cJ9_putCharSB.data.toList.drop 0 = dktJ9_putCharSB_0 := by decide +kernel
theorem dJ9_putCharSB_0 : decode cJ9_putCharSB 0 = .ok (.iload_n 1, 1) := dk_27 (dk_at dksJ9_putCharSB_0 0 rfl rfl)
theorem dJ9_putCharSB_1 : decode cJ9_putCharSB 1 = .ok (.aload_n 0, 1) := dk_42 (dk_at dksJ9_putCharSB_0 1 rfl rfl)
theorem dJ9_putCharSB_2 : decode cJ9_putCharSB 2 = .ok (.invokestatic 67, 3) := dk_184 0 67 (dk_at dksJ9_putCharSB_0 2 rfl rfl)
theorem dJ9_putCharSB_5 : decode cJ9_putCharSB 5 = .ok (.aload_n 0, 1) := dk_42 (dk_at dksJ9_putCharSB_0 5 rfl rfl)
theorem dJ9_putCharSB_6 : decode cJ9_putCharSB 6 = .ok (.iload_n 1, 1) := dk_27 (dk_at dksJ9_putCharSB_0 6 rfl rfl)
theorem dJ9_putCharSB_7 : decode cJ9_putCharSB 7 = .ok (.iload_n 2, 1) := dk_28 (dk_at dksJ9_putCharSB_0 7 rfl rfl)
theorem dJ9_putCharSB_8 : decode cJ9_putCharSB 8 = .ok (.invokestatic 111, 3) := dk_184 0 111 (dk_at dksJ9_putCharSB_0 8 rfl rfl)
theorem dJ9_putCharSB_11 : decode cJ9_putCharSB 11 = .ok (.return_, 1) := dk_177 (dk_at dksJ9_putCharSB_0 11 rfl rfl)
abbrev cJ9_checkIndex : ByteArray := prog_37_method_91_code
def yJ9_checkIndex : MethodName := ⟨RJ9, "checkIndex", "(I[B)V"⟩
def dkwJ9_checkIndex_0 : List UInt8 := [26, 43, 184, 0, 48, 184, 1, 158, 177]
abbrev dktJ9_checkIndex_0 : List UInt8 := dkwJ9_checkIndex_0 ++ []
theorem dksJ9_checkIndex_0 : cJ9_checkIndex.data.toList.drop 0 = dktJ9_checkIndex_0 := by decide +kernel
theorem dJ9_checkIndex_0 : decode cJ9_checkIndex 0 = .ok (.iload_n 0, 1) := dk_26 (dk_at dksJ9_checkIndex_0 0 rfl rfl)
theorem dJ9_checkIndex_1 : decode cJ9_checkIndex 1 = .ok (.aload_n 1, 1) := dk_43 (dk_at dksJ9_checkIndex_0 1 rfl rfl)
theorem dJ9_checkIndex_2 : decode cJ9_checkIndex 2 = .ok (.invokestatic 48, 3) := dk_184 0 48 (dk_at dksJ9_checkIndex_0 2 rfl rfl)
theorem dJ9_checkIndex_5 : decode cJ9_checkIndex 5 = .ok (.invokestatic 414, 3) := dk_184 1 158 (dk_at dksJ9_checkIndex_0 5 rfl rfl)
theorem dJ9_checkIndex_8 : decode cJ9_checkIndex 8 = .ok (.return_, 1) := dk_177 (dk_at dksJ9_checkIndex_0 8 rfl rfl)
abbrev cJ9_charAt : ByteArray := prog_37_method_83_code
def yJ9_charAt : MethodName := ⟨RJ9, "charAt", "([BI)C"⟩
def dkwJ9_charAt_0 : List UInt8 := [27, 42, 184, 0, 67, 42, 27, 184, 0, 71, 172]
abbrev dktJ9_charAt_0 : List UInt8 := dkwJ9_charAt_0 ++ []
theorem dksJ9_charAt_0 : cJ9_charAt.data.toList.drop 0 = dktJ9_charAt_0 := by decide +kernel
theorem dJ9_charAt_0 : decode cJ9_charAt 0 = .ok (.iload_n 1, 1) := dk_27 (dk_at dksJ9_charAt_0 0 rfl rfl)
theorem dJ9_charAt_1 : decode cJ9_charAt 1 = .ok (.aload_n 0, 1) := dk_42 (dk_at dksJ9_charAt_0 1 rfl rfl)
theorem dJ9_charAt_2 : decode cJ9_charAt 2 = .ok (.invokestatic 67, 3) := dk_184 0 67 (dk_at dksJ9_charAt_0 2 rfl rfl)
theorem dJ9_charAt_5 : decode cJ9_charAt 5 = .ok (.aload_n 0, 1) := dk_42 (dk_at dksJ9_charAt_0 5 rfl rfl)
theorem dJ9_charAt_6 : decode cJ9_charAt 6 = .ok (.iload_n 1, 1) := dk_27 (dk_at dksJ9_charAt_0 6 rfl rfl)
theorem dJ9_charAt_7 : decode cJ9_charAt 7 = .ok (.invokestatic 71, 3) := dk_184 0 71 (dk_at dksJ9_charAt_0 7 rfl rfl)
theorem dJ9_charAt_10 : decode cJ9_charAt 10 = .ok (.ireturn, 1) := dk_172 (dk_at dksJ9_charAt_0 10 rfl rfl)
abbrev cJ9_hashCode : ByteArray := prog_37_method_39_code
def yJ9_hashCode : MethodName := ⟨RJ9, "hashCode", "([B)I"⟩
def dkwJ9_hashCode_2 : List UInt8 := [3, 167, 0, 22, 42, 3, 184, 0, 71, 167, 0, 14, 42, 3, 42, 190, 4, 122, 3, 8, 184, 0, 220, 172]
abbrev dktJ9_hashCode_2 : List UInt8 := dkwJ9_hashCode_2 ++ []
def dkwJ9_hashCode_1 : List UInt8 := [171, 0, 0, 0, 0, 38, 0, 0, 0, 2, 0, 0, 0, 0, 0, 0, 0, 26, 0, 0, 0, 2, 0, 0, 0, 30]
abbrev dktJ9_hashCode_1 : List UInt8 := dkwJ9_hashCode_1 ++ dktJ9_hashCode_2
def dkwJ9_hashCode_0 : List UInt8 := [42, 190]
abbrev dktJ9_hashCode_0 : List UInt8 := dkwJ9_hashCode_0 ++ dktJ9_hashCode_1
theorem dksJ9_hashCode_0 : cJ9_hashCode.data.toList.drop 0 = dktJ9_hashCode_0 := by decide +kernel
theorem dksJ9_hashCode_1 : cJ9_hashCode.data.toList.drop 2 = dktJ9_hashCode_1 := dk_seg dksJ9_hashCode_0 2 rfl rfl
theorem dksJ9_hashCode_2 : cJ9_hashCode.data.toList.drop 28 = dktJ9_hashCode_2 := dk_seg dksJ9_hashCode_1 26 rfl rfl
theorem dJ9_hashCode_0 : decode cJ9_hashCode 0 = .ok (.aload_n 0, 1) := dk_42 (dk_at dksJ9_hashCode_0 0 rfl rfl)
theorem dJ9_hashCode_1 : decode cJ9_hashCode 1 = .ok (.arraylength, 1) := dk_190 (dk_at dksJ9_hashCode_0 1 rfl rfl)
theorem dJ9_hashCode_2 : decode cJ9_hashCode 2 = .ok (.lookupswitch 38 #[(0, 26), (2, 30)], 26) := by decide +kernel
theorem dJ9_hashCode_28 : decode cJ9_hashCode 28 = .ok (.iconst 0, 1) := dk_3 (dk_at dksJ9_hashCode_2 0 rfl rfl)
theorem dJ9_hashCode_29 : decode cJ9_hashCode 29 = .ok (.goto 22, 3) := dk_167 0 22 (dk_at dksJ9_hashCode_2 1 rfl rfl)
theorem dJ9_hashCode_32 : decode cJ9_hashCode 32 = .ok (.aload_n 0, 1) := dk_42 (dk_at dksJ9_hashCode_2 4 rfl rfl)
theorem dJ9_hashCode_33 : decode cJ9_hashCode 33 = .ok (.iconst 0, 1) := dk_3 (dk_at dksJ9_hashCode_2 5 rfl rfl)
theorem dJ9_hashCode_34 : decode cJ9_hashCode 34 = .ok (.invokestatic 71, 3) := dk_184 0 71 (dk_at dksJ9_hashCode_2 6 rfl rfl)
theorem dJ9_hashCode_37 : decode cJ9_hashCode 37 = .ok (.goto 14, 3) := dk_167 0 14 (dk_at dksJ9_hashCode_2 9 rfl rfl)
theorem dJ9_hashCode_40 : decode cJ9_hashCode 40 = .ok (.aload_n 0, 1) := dk_42 (dk_at dksJ9_hashCode_2 12 rfl rfl)
theorem dJ9_hashCode_41 : decode cJ9_hashCode 41 = .ok (.iconst 0, 1) := dk_3 (dk_at dksJ9_hashCode_2 13 rfl rfl)
theorem dJ9_hashCode_42 : decode cJ9_hashCode 42 = .ok (.aload_n 0, 1) := dk_42 (dk_at dksJ9_hashCode_2 14 rfl rfl)
theorem dJ9_hashCode_43 : decode cJ9_hashCode 43 = .ok (.arraylength, 1) := dk_190 (dk_at dksJ9_hashCode_2 15 rfl rfl)
theorem dJ9_hashCode_44 : decode cJ9_hashCode 44 = .ok (.iconst 1, 1) := dk_4 (dk_at dksJ9_hashCode_2 16 rfl rfl)
theorem dJ9_hashCode_45 : decode cJ9_hashCode 45 = .ok (.ishr, 1) := dk_122 (dk_at dksJ9_hashCode_2 17 rfl rfl)
theorem dJ9_hashCode_46 : decode cJ9_hashCode 46 = .ok (.iconst 0, 1) := dk_3 (dk_at dksJ9_hashCode_2 18 rfl rfl)
theorem dJ9_hashCode_47 : decode cJ9_hashCode 47 = .ok (.iconst 5, 1) := dk_8 (dk_at dksJ9_hashCode_2 19 rfl rfl)
theorem dJ9_hashCode_48 : decode cJ9_hashCode 48 = .ok (.invokestatic 220, 3) := dk_184 0 220 (dk_at dksJ9_hashCode_2 20 rfl rfl)
theorem dJ9_hashCode_51 : decode cJ9_hashCode 51 = .ok (.ireturn, 1) := dk_172 (dk_at dksJ9_hashCode_2 23 rfl rfl)
abbrev cJ9_fillNull : ByteArray := prog_37_method_70_code
def yJ9_fillNull : MethodName := ⟨RJ9, "fillNull", "([BII)V"⟩
def dkwJ9_fillNull_0 : List UInt8 := [42, 27, 4, 120, 28, 4, 120, 3, 184, 1, 124, 177]
abbrev dktJ9_fillNull_0 : List UInt8 := dkwJ9_fillNull_0 ++ []
theorem dksJ9_fillNull_0 : cJ9_fillNull.data.toList.drop 0 = dktJ9_fillNull_0 := by decide +kernel
theorem dJ9_fillNull_0 : decode cJ9_fillNull 0 = .ok (.aload_n 0, 1) := dk_42 (dk_at dksJ9_fillNull_0 0 rfl rfl)
theorem dJ9_fillNull_1 : decode cJ9_fillNull 1 = .ok (.iload_n 1, 1) := dk_27 (dk_at dksJ9_fillNull_0 1 rfl rfl)
theorem dJ9_fillNull_2 : decode cJ9_fillNull 2 = .ok (.iconst 1, 1) := dk_4 (dk_at dksJ9_fillNull_0 2 rfl rfl)
theorem dJ9_fillNull_3 : decode cJ9_fillNull 3 = .ok (.ishl, 1) := dk_120 (dk_at dksJ9_fillNull_0 3 rfl rfl)
theorem dJ9_fillNull_4 : decode cJ9_fillNull 4 = .ok (.iload_n 2, 1) := dk_28 (dk_at dksJ9_fillNull_0 4 rfl rfl)
theorem dJ9_fillNull_5 : decode cJ9_fillNull 5 = .ok (.iconst 1, 1) := dk_4 (dk_at dksJ9_fillNull_0 5 rfl rfl)
theorem dJ9_fillNull_6 : decode cJ9_fillNull 6 = .ok (.ishl, 1) := dk_120 (dk_at dksJ9_fillNull_0 6 rfl rfl)
theorem dJ9_fillNull_7 : decode cJ9_fillNull 7 = .ok (.iconst 0, 1) := dk_3 (dk_at dksJ9_fillNull_0 7 rfl rfl)
theorem dJ9_fillNull_8 : decode cJ9_fillNull 8 = .ok (.invokestatic 380, 3) := dk_184 1 124 (dk_at dksJ9_fillNull_0 8 rfl rfl)
theorem dJ9_fillNull_11 : decode cJ9_fillNull 11 = .ok (.return_, 1) := dk_177 (dk_at dksJ9_fillNull_0 11 rfl rfl)
abbrev cJ9_getChars : ByteArray := prog_37_method_77_code
def yJ9_getChars : MethodName := ⟨RJ9, "getChars", "(III[B)I"⟩
def dkwJ9_getChars_1 : List UInt8 := [159, 0, 11, 187, 0, 52, 89, 183, 0, 66, 191, 21, 4, 172]
abbrev dktJ9_getChars_1 : List UInt8 := dkwJ9_getChars_1 ++ []
def dkwJ9_getChars_0 : List UInt8 := [27, 28, 45, 184, 0, 96, 26, 28, 45, 184, 1, 137, 54, 4, 178, 0, 44, 154, 0, 17, 27, 21, 4]
abbrev dktJ9_getChars_0 : List UInt8 := dkwJ9_getChars_0 ++ dktJ9_getChars_1
theorem dksJ9_getChars_0 : cJ9_getChars.data.toList.drop 0 = dktJ9_getChars_0 := by decide +kernel
theorem dksJ9_getChars_1 : cJ9_getChars.data.toList.drop 23 = dktJ9_getChars_1 := dk_seg dksJ9_getChars_0 23 rfl rfl
theorem dJ9_getChars_0 : decode cJ9_getChars 0 = .ok (.iload_n 1, 1) := dk_27 (dk_at dksJ9_getChars_0 0 rfl rfl)
theorem dJ9_getChars_1 : decode cJ9_getChars 1 = .ok (.iload_n 2, 1) := dk_28 (dk_at dksJ9_getChars_0 1 rfl rfl)
theorem dJ9_getChars_2 : decode cJ9_getChars 2 = .ok (.aload_n 3, 1) := dk_45 (dk_at dksJ9_getChars_0 2 rfl rfl)
theorem dJ9_getChars_3 : decode cJ9_getChars 3 = .ok (.invokestatic 96, 3) := dk_184 0 96 (dk_at dksJ9_getChars_0 3 rfl rfl)
theorem dJ9_getChars_6 : decode cJ9_getChars 6 = .ok (.iload_n 0, 1) := dk_26 (dk_at dksJ9_getChars_0 6 rfl rfl)
theorem dJ9_getChars_7 : decode cJ9_getChars 7 = .ok (.iload_n 2, 1) := dk_28 (dk_at dksJ9_getChars_0 7 rfl rfl)
theorem dJ9_getChars_8 : decode cJ9_getChars 8 = .ok (.aload_n 3, 1) := dk_45 (dk_at dksJ9_getChars_0 8 rfl rfl)
theorem dJ9_getChars_9 : decode cJ9_getChars 9 = .ok (.invokestatic 393, 3) := dk_184 1 137 (dk_at dksJ9_getChars_0 9 rfl rfl)
theorem dJ9_getChars_12 : decode cJ9_getChars 12 = .ok (.istore 4, 2) := dk_54 4 (dk_at dksJ9_getChars_0 12 rfl rfl)
theorem dJ9_getChars_14 : decode cJ9_getChars 14 = .ok (.getstatic 44, 3) := dk_178 0 44 (dk_at dksJ9_getChars_0 14 rfl rfl)
theorem dJ9_getChars_17 : decode cJ9_getChars 17 = .ok (.ifCond .ne 17, 3) := dk_154 0 17 (dk_at dksJ9_getChars_0 17 rfl rfl)
theorem dJ9_getChars_20 : decode cJ9_getChars 20 = .ok (.iload_n 1, 1) := dk_27 (dk_at dksJ9_getChars_0 20 rfl rfl)
theorem dJ9_getChars_21 : decode cJ9_getChars 21 = .ok (.iload 4, 2) := dk_21 4 (dk_at dksJ9_getChars_0 21 rfl rfl)
theorem dJ9_getChars_23 : decode cJ9_getChars 23 = .ok (.if_icmp .eq 11, 3) := dk_159 0 11 (dk_at dksJ9_getChars_1 0 rfl rfl)
theorem dJ9_getChars_26 : decode cJ9_getChars 26 = .ok (.new 52, 3) := dk_187 0 52 (dk_at dksJ9_getChars_1 3 rfl rfl)
theorem dJ9_getChars_29 : decode cJ9_getChars 29 = .ok (.dup, 1) := dk_89 (dk_at dksJ9_getChars_1 6 rfl rfl)
theorem dJ9_getChars_30 : decode cJ9_getChars 30 = .ok (.invokespecial 66, 3) := dk_183 0 66 (dk_at dksJ9_getChars_1 7 rfl rfl)
theorem dJ9_getChars_33 : decode cJ9_getChars 33 = .ok (.athrow, 1) := dk_191 (dk_at dksJ9_getChars_1 10 rfl rfl)
theorem dJ9_getChars_34 : decode cJ9_getChars 34 = .ok (.iload 4, 2) := dk_21 4 (dk_at dksJ9_getChars_1 11 rfl rfl)
theorem dJ9_getChars_36 : decode cJ9_getChars 36 = .ok (.ireturn, 1) := dk_172 (dk_at dksJ9_getChars_1 13 rfl rfl)
abbrev cJ9_getChars_2 : ByteArray := prog_37_method_89_code
def yJ9_getChars_2 : MethodName := ⟨RJ9, "getChars", "(II[B)I"⟩
def dkwJ9_getChars_2_5 : List UInt8 := [132, 5, 255, 21, 5, 16, 45, 184, 0, 111, 21, 5, 172]
abbrev dktJ9_getChars_2_5 : List UInt8 := dkwJ9_getChars_2_5 ++ []
def dkwJ9_getChars_2_4 : List UInt8 := [162, 0, 18, 44, 132, 5, 255, 21, 5, 178, 1, 151, 26, 116, 51, 184, 0, 111, 21, 6, 153, 0, 14, 44]
abbrev dktJ9_getChars_2_4 : List UInt8 := dkwJ9_getChars_2_4 ++ dktJ9_getChars_2_5
def dkwJ9_getChars_2_3 : List UInt8 := [184, 0, 111, 167, 255, 205, 44, 132, 5, 255, 21, 5, 178, 1, 147, 26, 116, 51, 184, 0, 111, 26, 16, 247]
abbrev dktJ9_getChars_2_3 : List UInt8 := dkwJ9_getChars_2_3 ++ dktJ9_getChars_2_4
def dkwJ9_getChars_2_2 : List UInt8 := [21, 5, 178, 1, 147, 21, 4, 51, 184, 0, 111, 44, 132, 5, 255, 21, 5, 178, 1, 151, 21, 4, 51]
abbrev dktJ9_getChars_2_2 : List UInt8 := dkwJ9_getChars_2_2 ++ dktJ9_getChars_2_3
def dkwJ9_getChars_2_1 : List UInt8 := [16, 156, 163, 0, 51, 26, 16, 100, 108, 62, 29, 16, 100, 104, 26, 100, 54, 4, 29, 59, 44, 132, 5, 255]
abbrev dktJ9_getChars_2_1 : List UInt8 := dkwJ9_getChars_2_1 ++ dktJ9_getChars_2_2
def dkwJ9_getChars_2_0 : List UInt8 := [27, 54, 5, 26, 156, 0, 7, 4, 167, 0, 4, 3, 54, 6, 21, 6, 154, 0, 6, 26, 116, 59, 26]
abbrev dktJ9_getChars_2_0 : List UInt8 := dkwJ9_getChars_2_0 ++ dktJ9_getChars_2_1
theorem dksJ9_getChars_2_0 : cJ9_getChars_2.data.toList.drop 0 = dktJ9_getChars_2_0 := by decide +kernel
theorem dksJ9_getChars_2_1 : cJ9_getChars_2.data.toList.drop 23 = dktJ9_getChars_2_1 := dk_seg dksJ9_getChars_2_0 23 rfl rfl
theorem dksJ9_getChars_2_2 : cJ9_getChars_2.data.toList.drop 47 = dktJ9_getChars_2_2 := dk_seg dksJ9_getChars_2_1 24 rfl rfl
theorem dksJ9_getChars_2_3 : cJ9_getChars_2.data.toList.drop 70 = dktJ9_getChars_2_3 := dk_seg dksJ9_getChars_2_2 23 rfl rfl
theorem dksJ9_getChars_2_4 : cJ9_getChars_2.data.toList.drop 94 = dktJ9_getChars_2_4 := dk_seg dksJ9_getChars_2_3 24 rfl rfl
theorem dksJ9_getChars_2_5 : cJ9_getChars_2.data.toList.drop 118 = dktJ9_getChars_2_5 := dk_seg dksJ9_getChars_2_4 24 rfl rfl
theorem dJ9_getChars_2_0 : decode cJ9_getChars_2 0 = .ok (.iload_n 1, 1) := dk_27 (dk_at dksJ9_getChars_2_0 0 rfl rfl)
theorem dJ9_getChars_2_1 : decode cJ9_getChars_2 1 = .ok (.istore 5, 2) := dk_54 5 (dk_at dksJ9_getChars_2_0 1 rfl rfl)
theorem dJ9_getChars_2_3 : decode cJ9_getChars_2 3 = .ok (.iload_n 0, 1) := dk_26 (dk_at dksJ9_getChars_2_0 3 rfl rfl)
theorem dJ9_getChars_2_4 : decode cJ9_getChars_2 4 = .ok (.ifCond .ge 7, 3) := dk_156 0 7 (dk_at dksJ9_getChars_2_0 4 rfl rfl)
theorem dJ9_getChars_2_7 : decode cJ9_getChars_2 7 = .ok (.iconst 1, 1) := dk_4 (dk_at dksJ9_getChars_2_0 7 rfl rfl)
theorem dJ9_getChars_2_8 : decode cJ9_getChars_2 8 = .ok (.goto 4, 3) := dk_167 0 4 (dk_at dksJ9_getChars_2_0 8 rfl rfl)
theorem dJ9_getChars_2_11 : decode cJ9_getChars_2 11 = .ok (.iconst 0, 1) := dk_3 (dk_at dksJ9_getChars_2_0 11 rfl rfl)
theorem dJ9_getChars_2_12 : decode cJ9_getChars_2 12 = .ok (.istore 6, 2) := dk_54 6 (dk_at dksJ9_getChars_2_0 12 rfl rfl)
theorem dJ9_getChars_2_14 : decode cJ9_getChars_2 14 = .ok (.iload 6, 2) := dk_21 6 (dk_at dksJ9_getChars_2_0 14 rfl rfl)
theorem dJ9_getChars_2_16 : decode cJ9_getChars_2 16 = .ok (.ifCond .ne 6, 3) := dk_154 0 6 (dk_at dksJ9_getChars_2_0 16 rfl rfl)
theorem dJ9_getChars_2_19 : decode cJ9_getChars_2 19 = .ok (.iload_n 0, 1) := dk_26 (dk_at dksJ9_getChars_2_0 19 rfl rfl)
theorem dJ9_getChars_2_20 : decode cJ9_getChars_2 20 = .ok (.ineg, 1) := dk_116 (dk_at dksJ9_getChars_2_0 20 rfl rfl)
theorem dJ9_getChars_2_21 : decode cJ9_getChars_2 21 = .ok (.istore_n 0, 1) := dk_59 (dk_at dksJ9_getChars_2_0 21 rfl rfl)
theorem dJ9_getChars_2_22 : decode cJ9_getChars_2 22 = .ok (.iload_n 0, 1) := dk_26 (dk_at dksJ9_getChars_2_0 22 rfl rfl)
theorem dJ9_getChars_2_23 : decode cJ9_getChars_2 23 = .ok (.bipush (-100), 2) := dk_16 156 (dk_at dksJ9_getChars_2_1 0 rfl rfl)
theorem dJ9_getChars_2_25 : decode cJ9_getChars_2 25 = .ok (.if_icmp .gt 51, 3) := dk_163 0 51 (dk_at dksJ9_getChars_2_1 2 rfl rfl)
theorem dJ9_getChars_2_28 : decode cJ9_getChars_2 28 = .ok (.iload_n 0, 1) := dk_26 (dk_at dksJ9_getChars_2_1 5 rfl rfl)
theorem dJ9_getChars_2_29 : decode cJ9_getChars_2 29 = .ok (.bipush 100, 2) := dk_16 100 (dk_at dksJ9_getChars_2_1 6 rfl rfl)
theorem dJ9_getChars_2_31 : decode cJ9_getChars_2 31 = .ok (.idiv, 1) := dk_108 (dk_at dksJ9_getChars_2_1 8 rfl rfl)
theorem dJ9_getChars_2_32 : decode cJ9_getChars_2 32 = .ok (.istore_n 3, 1) := dk_62 (dk_at dksJ9_getChars_2_1 9 rfl rfl)
theorem dJ9_getChars_2_33 : decode cJ9_getChars_2 33 = .ok (.iload_n 3, 1) := dk_29 (dk_at dksJ9_getChars_2_1 10 rfl rfl)
theorem dJ9_getChars_2_34 : decode cJ9_getChars_2 34 = .ok (.bipush 100, 2) := dk_16 100 (dk_at dksJ9_getChars_2_1 11 rfl rfl)
theorem dJ9_getChars_2_36 : decode cJ9_getChars_2 36 = .ok (.imul, 1) := dk_104 (dk_at dksJ9_getChars_2_1 13 rfl rfl)
theorem dJ9_getChars_2_37 : decode cJ9_getChars_2 37 = .ok (.iload_n 0, 1) := dk_26 (dk_at dksJ9_getChars_2_1 14 rfl rfl)
theorem dJ9_getChars_2_38 : decode cJ9_getChars_2 38 = .ok (.isub, 1) := dk_100 (dk_at dksJ9_getChars_2_1 15 rfl rfl)
theorem dJ9_getChars_2_39 : decode cJ9_getChars_2 39 = .ok (.istore 4, 2) := dk_54 4 (dk_at dksJ9_getChars_2_1 16 rfl rfl)
theorem dJ9_getChars_2_41 : decode cJ9_getChars_2 41 = .ok (.iload_n 3, 1) := dk_29 (dk_at dksJ9_getChars_2_1 18 rfl rfl)
theorem dJ9_getChars_2_42 : decode cJ9_getChars_2 42 = .ok (.istore_n 0, 1) := dk_59 (dk_at dksJ9_getChars_2_1 19 rfl rfl)
theorem dJ9_getChars_2_43 : decode cJ9_getChars_2 43 = .ok (.aload_n 2, 1) := dk_44 (dk_at dksJ9_getChars_2_1 20 rfl rfl)
theorem dJ9_getChars_2_44 : decode cJ9_getChars_2 44 = .ok (.iinc 5 (-1), 3) := dk_132 5 255 (dk_at dksJ9_getChars_2_1 21 rfl rfl)
theorem dJ9_getChars_2_47 : decode cJ9_getChars_2 47 = .ok (.iload 5, 2) := dk_21 5 (dk_at dksJ9_getChars_2_2 0 rfl rfl)
theorem dJ9_getChars_2_49 : decode cJ9_getChars_2 49 = .ok (.getstatic 403, 3) := dk_178 1 147 (dk_at dksJ9_getChars_2_2 2 rfl rfl)
theorem dJ9_getChars_2_52 : decode cJ9_getChars_2 52 = .ok (.iload 4, 2) := dk_21 4 (dk_at dksJ9_getChars_2_2 5 rfl rfl)
theorem dJ9_getChars_2_54 : decode cJ9_getChars_2 54 = .ok (.baload, 1) := dk_51 (dk_at dksJ9_getChars_2_2 7 rfl rfl)
theorem dJ9_getChars_2_55 : decode cJ9_getChars_2 55 = .ok (.invokestatic 111, 3) := dk_184 0 111 (dk_at dksJ9_getChars_2_2 8 rfl rfl)
theorem dJ9_getChars_2_58 : decode cJ9_getChars_2 58 = .ok (.aload_n 2, 1) := dk_44 (dk_at dksJ9_getChars_2_2 11 rfl rfl)
theorem dJ9_getChars_2_59 : decode cJ9_getChars_2 59 = .ok (.iinc 5 (-1), 3) := dk_132 5 255 (dk_at dksJ9_getChars_2_2 12 rfl rfl)
theorem dJ9_getChars_2_62 : decode cJ9_getChars_2 62 = .ok (.iload 5, 2) := dk_21 5 (dk_at dksJ9_getChars_2_2 15 rfl rfl)
theorem dJ9_getChars_2_64 : decode cJ9_getChars_2 64 = .ok (.getstatic 407, 3) := dk_178 1 151 (dk_at dksJ9_getChars_2_2 17 rfl rfl)
theorem dJ9_getChars_2_67 : decode cJ9_getChars_2 67 = .ok (.iload 4, 2) := dk_21 4 (dk_at dksJ9_getChars_2_2 20 rfl rfl)
theorem dJ9_getChars_2_69 : decode cJ9_getChars_2 69 = .ok (.baload, 1) := dk_51 (dk_at dksJ9_getChars_2_2 22 rfl rfl)
theorem dJ9_getChars_2_70 : decode cJ9_getChars_2 70 = .ok (.invokestatic 111, 3) := dk_184 0 111 (dk_at dksJ9_getChars_2_3 0 rfl rfl)
theorem dJ9_getChars_2_73 : decode cJ9_getChars_2 73 = .ok (.goto (-51), 3) := dk_167 255 205 (dk_at dksJ9_getChars_2_3 3 rfl rfl)
theorem dJ9_getChars_2_76 : decode cJ9_getChars_2 76 = .ok (.aload_n 2, 1) := dk_44 (dk_at dksJ9_getChars_2_3 6 rfl rfl)
theorem dJ9_getChars_2_77 : decode cJ9_getChars_2 77 = .ok (.iinc 5 (-1), 3) := dk_132 5 255 (dk_at dksJ9_getChars_2_3 7 rfl rfl)
theorem dJ9_getChars_2_80 : decode cJ9_getChars_2 80 = .ok (.iload 5, 2) := dk_21 5 (dk_at dksJ9_getChars_2_3 10 rfl rfl)
theorem dJ9_getChars_2_82 : decode cJ9_getChars_2 82 = .ok (.getstatic 403, 3) := dk_178 1 147 (dk_at dksJ9_getChars_2_3 12 rfl rfl)
theorem dJ9_getChars_2_85 : decode cJ9_getChars_2 85 = .ok (.iload_n 0, 1) := dk_26 (dk_at dksJ9_getChars_2_3 15 rfl rfl)
theorem dJ9_getChars_2_86 : decode cJ9_getChars_2 86 = .ok (.ineg, 1) := dk_116 (dk_at dksJ9_getChars_2_3 16 rfl rfl)
theorem dJ9_getChars_2_87 : decode cJ9_getChars_2 87 = .ok (.baload, 1) := dk_51 (dk_at dksJ9_getChars_2_3 17 rfl rfl)
theorem dJ9_getChars_2_88 : decode cJ9_getChars_2 88 = .ok (.invokestatic 111, 3) := dk_184 0 111 (dk_at dksJ9_getChars_2_3 18 rfl rfl)
theorem dJ9_getChars_2_91 : decode cJ9_getChars_2 91 = .ok (.iload_n 0, 1) := dk_26 (dk_at dksJ9_getChars_2_3 21 rfl rfl)
theorem dJ9_getChars_2_92 : decode cJ9_getChars_2 92 = .ok (.bipush (-9), 2) := dk_16 247 (dk_at dksJ9_getChars_2_3 22 rfl rfl)
theorem dJ9_getChars_2_94 : decode cJ9_getChars_2 94 = .ok (.if_icmp .ge 18, 3) := dk_162 0 18 (dk_at dksJ9_getChars_2_4 0 rfl rfl)
theorem dJ9_getChars_2_97 : decode cJ9_getChars_2 97 = .ok (.aload_n 2, 1) := dk_44 (dk_at dksJ9_getChars_2_4 3 rfl rfl)
theorem dJ9_getChars_2_98 : decode cJ9_getChars_2 98 = .ok (.iinc 5 (-1), 3) := dk_132 5 255 (dk_at dksJ9_getChars_2_4 4 rfl rfl)
theorem dJ9_getChars_2_101 : decode cJ9_getChars_2 101 = .ok (.iload 5, 2) := dk_21 5 (dk_at dksJ9_getChars_2_4 7 rfl rfl)
theorem dJ9_getChars_2_103 : decode cJ9_getChars_2 103 = .ok (.getstatic 407, 3) := dk_178 1 151 (dk_at dksJ9_getChars_2_4 9 rfl rfl)
theorem dJ9_getChars_2_106 : decode cJ9_getChars_2 106 = .ok (.iload_n 0, 1) := dk_26 (dk_at dksJ9_getChars_2_4 12 rfl rfl)
theorem dJ9_getChars_2_107 : decode cJ9_getChars_2 107 = .ok (.ineg, 1) := dk_116 (dk_at dksJ9_getChars_2_4 13 rfl rfl)
theorem dJ9_getChars_2_108 : decode cJ9_getChars_2 108 = .ok (.baload, 1) := dk_51 (dk_at dksJ9_getChars_2_4 14 rfl rfl)
theorem dJ9_getChars_2_109 : decode cJ9_getChars_2 109 = .ok (.invokestatic 111, 3) := dk_184 0 111 (dk_at dksJ9_getChars_2_4 15 rfl rfl)
theorem dJ9_getChars_2_112 : decode cJ9_getChars_2 112 = .ok (.iload 6, 2) := dk_21 6 (dk_at dksJ9_getChars_2_4 18 rfl rfl)
theorem dJ9_getChars_2_114 : decode cJ9_getChars_2 114 = .ok (.ifCond .eq 14, 3) := dk_153 0 14 (dk_at dksJ9_getChars_2_4 20 rfl rfl)
theorem dJ9_getChars_2_117 : decode cJ9_getChars_2 117 = .ok (.aload_n 2, 1) := dk_44 (dk_at dksJ9_getChars_2_4 23 rfl rfl)
theorem dJ9_getChars_2_118 : decode cJ9_getChars_2 118 = .ok (.iinc 5 (-1), 3) := dk_132 5 255 (dk_at dksJ9_getChars_2_5 0 rfl rfl)
theorem dJ9_getChars_2_121 : decode cJ9_getChars_2 121 = .ok (.iload 5, 2) := dk_21 5 (dk_at dksJ9_getChars_2_5 3 rfl rfl)
theorem dJ9_getChars_2_123 : decode cJ9_getChars_2 123 = .ok (.bipush 45, 2) := dk_16 45 (dk_at dksJ9_getChars_2_5 5 rfl rfl)
theorem dJ9_getChars_2_125 : decode cJ9_getChars_2 125 = .ok (.invokestatic 111, 3) := dk_184 0 111 (dk_at dksJ9_getChars_2_5 7 rfl rfl)
theorem dJ9_getChars_2_128 : decode cJ9_getChars_2 128 = .ok (.iload 5, 2) := dk_21 5 (dk_at dksJ9_getChars_2_5 10 rfl rfl)
theorem dJ9_getChars_2_130 : decode cJ9_getChars_2 130 = .ok (.ireturn, 1) := dk_172 (dk_at dksJ9_getChars_2_5 12 rfl rfl)
theorem q107 : (Jvm.Cond.initialized "java/lang/StringUTF16") ∈ lw_all := lw_g (lw_at lw_m1 14 rfl) rfl
theorem q332 : (Jvm.Cond.static ({ cls := "java/lang/StringUTF16", name := "newBytesFor", desc := "(I)[B" } : Jvm.MethodName)) ∈ lw_all := lw_g (lw_at lw_m1 239 rfl) rfl
theorem q333 : (Jvm.Cond.code ({ cls := "java/lang/StringUTF16", name := "newBytesFor", desc := "(I)[B" } : Jvm.MethodName) prog_37_method_2_code (1 : Nat) (Option.some (Jvm.ClassFile.FieldType.array Jvm.ClassFile.FieldType.byte))) ∈ lw_all := lw_g (lw_at lw_m2 0 rfl) rfl
theorem q334 : (Jvm.Cond.methodLink "java/lang/StringUTF16" (11 : Nat) ({ cls := "java/lang/StringUTF16", name := "newBytesLength", desc := "(I)I" } : Jvm.MethodName)) ∈ lw_all := lw_g (lw_at lw_m2 1 rfl) rfl
theorem q335 : (Jvm.Cond.static ({ cls := "java/lang/StringUTF16", name := "newBytesLength", desc := "(I)I" } : Jvm.MethodName)) ∈ lw_all := lw_g (lw_at lw_m2 2 rfl) rfl
theorem q336 : (Jvm.Cond.code ({ cls := "java/lang/StringUTF16", name := "newBytesLength", desc := "(I)I" } : Jvm.MethodName) prog_37_method_3_code (1 : Nat) (Option.some Jvm.ClassFile.FieldType.int)) ∈ lw_all := lw_g (lw_at lw_m2 3 rfl) rfl
theorem q337 : (Jvm.Cond.constant "java/lang/StringUTF16" (20 : Nat) (1073741823 : Int32)) ∈ lw_all := lw_g (lw_at lw_m2 4 rfl) rfl
theorem q759 : (Jvm.Cond.static ({ cls := "java/lang/StringUTF16", name := "putCharsAt", desc := "([BICCCC)I" } : Jvm.MethodName)) ∈ lw_all := lw_g (lw_at lw_m3 186 rfl) rfl
theorem q760 : (Jvm.Cond.code ({ cls := "java/lang/StringUTF16", name := "putCharsAt", desc := "([BICCCC)I" } : Jvm.MethodName) prog_37_method_81_code (7 : Nat) (Option.some Jvm.ClassFile.FieldType.int)) ∈ lw_all := lw_g (lw_at lw_m3 187 rfl) rfl
theorem q761 : (Jvm.Cond.methodLink "java/lang/StringUTF16" (96 : Nat) ({ cls := "java/lang/StringUTF16", name := "checkBoundsBeginEnd", desc := "(II[B)V" } : Jvm.MethodName)) ∈ lw_all := lw_g (lw_at lw_m3 188 rfl) rfl
theorem q762 : (Jvm.Cond.static ({ cls := "java/lang/StringUTF16", name := "checkBoundsBeginEnd", desc := "(II[B)V" } : Jvm.MethodName)) ∈ lw_all := lw_g (lw_at lw_m3 189 rfl) rfl
theorem q763 : (Jvm.Cond.code ({ cls := "java/lang/StringUTF16", name := "checkBoundsBeginEnd", desc := "(II[B)V" } : Jvm.MethodName) prog_37_method_93_code (3 : Nat) (Option.none : Option Jvm.ClassFile.FieldType)) ∈ lw_all := lw_g (lw_at lw_m3 190 rfl) rfl
theorem q764 : (Jvm.Cond.methodLink "java/lang/StringUTF16" (48 : Nat) ({ cls := "java/lang/StringUTF16", name := "length", desc := "([B)I" } : Jvm.MethodName)) ∈ lw_all := lw_g (lw_at lw_m3 191 rfl) rfl
theorem q765 : (Jvm.Cond.static ({ cls := "java/lang/StringUTF16", name := "length", desc := "([B)I" } : Jvm.MethodName)) ∈ lw_all := lw_g (lw_at lw_m3 192 rfl) rfl
theorem q766 : (Jvm.Cond.code ({ cls := "java/lang/StringUTF16", name := "length", desc := "([B)I" } : Jvm.MethodName) prog_37_method_6_code (1 : Nat) (Option.some Jvm.ClassFile.FieldType.int)) ∈ lw_all := lw_g (lw_at lw_m3 193 rfl) rfl
theorem q767 : (Jvm.Cond.methodLink "java/lang/StringUTF16" (241 : Nat) ({ cls := "java/lang/String", name := "checkBoundsBeginEnd", desc := "(III)V" } : Jvm.MethodName)) ∈ lw_all := lw_g (lw_at lw_m3 194 rfl) rfl
theorem q775 : (Jvm.Cond.methodLink "java/lang/StringUTF16" (111 : Nat) ({ cls := "java/lang/StringUTF16", name := "putChar", desc := "([BII)V" } : Jvm.MethodName)) ∈ lw_all := lw_g (lw_at lw_m3 202 rfl) rfl
theorem q776 : (Jvm.Cond.static ({ cls := "java/lang/StringUTF16", name := "putChar", desc := "([BII)V" } : Jvm.MethodName)) ∈ lw_all := lw_g (lw_at lw_m3 203 rfl) rfl
theorem q777 : (Jvm.Cond.code ({ cls := "java/lang/StringUTF16", name := "putChar", desc := "([BII)V" } : Jvm.MethodName) prog_37_method_4_code (3 : Nat) (Option.none : Option Jvm.ClassFile.FieldType)) ∈ lw_all := lw_g (lw_at lw_m3 204 rfl) rfl
theorem q778 : (Jvm.Cond.fieldLink "java/lang/StringUTF16" (44 : Nat) "java/lang/StringUTF16" "$assertionsDisabled" "Z") ∈ lw_all := lw_g (lw_at lw_m3 205 rfl) rfl
theorem q779 : (Jvm.Cond.laysStatic "java/lang/StringUTF16" "$assertionsDisabled" "Z") ∈ lw_tbl := lw_at lw_m3 206 rfl
theorem q780 : (Jvm.Cond.fieldLink "java/lang/StringUTF16" (59 : Nat) "java/lang/StringUTF16" "HI_BYTE_SHIFT" "I") ∈ lw_all := lw_g (lw_at lw_m3 207 rfl) rfl
theorem q781 : (Jvm.Cond.laysStatic "java/lang/StringUTF16" "HI_BYTE_SHIFT" "I") ∈ lw_tbl := lw_at lw_m3 208 rfl
theorem q782 : (Jvm.Cond.fieldLink "java/lang/StringUTF16" (63 : Nat) "java/lang/StringUTF16" "LO_BYTE_SHIFT" "I") ∈ lw_all := lw_g (lw_at lw_m3 209 rfl) rfl
theorem q783 : (Jvm.Cond.laysStatic "java/lang/StringUTF16" "LO_BYTE_SHIFT" "I") ∈ lw_tbl := lw_at lw_m3 210 rfl
theorem q810 : (Jvm.Cond.static ({ cls := "java/lang/StringUTF16", name := "inflate", desc := "([BI[BII)V" } : Jvm.MethodName)) ∈ lw_all := lw_g (lw_at lw_m3 237 rfl) rfl
theorem q811 : (Jvm.Cond.code ({ cls := "java/lang/StringUTF16", name := "inflate", desc := "([BI[BII)V" } : Jvm.MethodName) prog_37_method_86_code (6 : Nat) (Option.none : Option Jvm.ClassFile.FieldType)) ∈ lw_all := lw_g (lw_at lw_m3 238 rfl) rfl
theorem q812 : (Jvm.Cond.methodLink "java/lang/StringUTF16" (173 : Nat) ({ cls := "java/lang/StringUTF16", name := "checkBoundsOffCount", desc := "(II[B)V" } : Jvm.MethodName)) ∈ lw_all := lw_g (lw_at lw_m3 239 rfl) rfl
theorem q813 : (Jvm.Cond.static ({ cls := "java/lang/StringUTF16", name := "checkBoundsOffCount", desc := "(II[B)V" } : Jvm.MethodName)) ∈ lw_all := lw_g (lw_at lw_m4 0 rfl) rfl
theorem q814 : (Jvm.Cond.code ({ cls := "java/lang/StringUTF16", name := "checkBoundsOffCount", desc := "(II[B)V" } : Jvm.MethodName) prog_37_method_94_code (3 : Nat) (Option.none : Option Jvm.ClassFile.FieldType)) ∈ lw_all := lw_g (lw_at lw_m4 1 rfl) rfl
theorem q815 : (Jvm.Cond.methodLink "java/lang/StringUTF16" (419 : Nat) ({ cls := "java/lang/String", name := "checkBoundsOffCount", desc := "(III)I" } : Jvm.MethodName)) ∈ lw_all := lw_g (lw_at lw_m4 2 rfl) rfl
theorem q865 : (Jvm.Cond.static ({ cls := "java/lang/StringUTF16", name := "compress", desc := "([BII)[B" } : Jvm.MethodName)) ∈ lw_all := lw_g (lw_at lw_m4 52 rfl) rfl
theorem q866 : (Jvm.Cond.code ({ cls := "java/lang/StringUTF16", name := "compress", desc := "([BII)[B" } : Jvm.MethodName) prog_37_method_17_code (6 : Nat) (Option.some (Jvm.ClassFile.FieldType.array Jvm.ClassFile.FieldType.byte))) ∈ lw_all := lw_g (lw_at lw_m4 53 rfl) rfl
theorem q867 : (Jvm.Cond.methodLink "java/lang/StringUTF16" (123 : Nat) ({ cls := "java/lang/StringUTF16", name := "compress", desc := "([BI[BII)I" } : Jvm.MethodName)) ∈ lw_all := lw_g (lw_at lw_m4 54 rfl) rfl
theorem q868 : (Jvm.Cond.static ({ cls := "java/lang/StringUTF16", name := "compress", desc := "([BI[BII)I" } : Jvm.MethodName)) ∈ lw_all := lw_g (lw_at lw_m4 55 rfl) rfl
theorem q869 : (Jvm.Cond.code ({ cls := "java/lang/StringUTF16", name := "compress", desc := "([BI[BII)I" } : Jvm.MethodName) prog_37_method_22_code (7 : Nat) (Option.some Jvm.ClassFile.FieldType.int)) ∈ lw_all := lw_g (lw_at lw_m4 56 rfl) rfl
theorem q870 : (Jvm.Cond.methodLink "java/lang/StringUTF16" (71 : Nat) ({ cls := "java/lang/StringUTF16", name := "getChar", desc := "([BI)C" } : Jvm.MethodName)) ∈ lw_all := lw_g (lw_at lw_m4 57 rfl) rfl
theorem q871 : (Jvm.Cond.static ({ cls := "java/lang/StringUTF16", name := "getChar", desc := "([BI)C" } : Jvm.MethodName)) ∈ lw_all := lw_g (lw_at lw_m4 58 rfl) rfl
theorem q872 : (Jvm.Cond.code ({ cls := "java/lang/StringUTF16", name := "getChar", desc := "([BI)C" } : Jvm.MethodName) prog_37_method_5_code (2 : Nat) (Option.some Jvm.ClassFile.FieldType.char)) ∈ lw_all := lw_g (lw_at lw_m4 59 rfl) rfl
theorem q873 : (Jvm.Cond.methodLink "java/lang/StringUTF16" (126 : Nat) ({ cls := "java/util/Arrays", name := "copyOfRange", desc := "([BII)[B" } : Jvm.MethodName)) ∈ lw_all := lw_g (lw_at lw_m4 60 rfl) rfl
theorem q875 : (Jvm.Cond.static ({ cls := "java/lang/StringUTF16", name := "coderFromArrayLen", desc := "([BI)B" } : Jvm.MethodName)) ∈ lw_all := lw_g (lw_at lw_m4 62 rfl) rfl
theorem q876 : (Jvm.Cond.code ({ cls := "java/lang/StringUTF16", name := "coderFromArrayLen", desc := "([BI)B" } : Jvm.MethodName) prog_37_method_15_code (2 : Nat) (Option.some Jvm.ClassFile.FieldType.byte)) ∈ lw_all := lw_g (lw_at lw_m4 63 rfl) rfl
theorem q1604 : (Jvm.Cond.static ({ cls := "java/lang/StringUTF16", name := "putCharSB", desc := "([BII)V" } : Jvm.MethodName)) ∈ lw_all := lw_g (lw_at lw_m7 71 rfl) rfl
theorem q1605 : (Jvm.Cond.code ({ cls := "java/lang/StringUTF16", name := "putCharSB", desc := "([BII)V" } : Jvm.MethodName) prog_37_method_71_code (3 : Nat) (Option.none : Option Jvm.ClassFile.FieldType)) ∈ lw_all := lw_g (lw_at lw_m7 72 rfl) rfl
theorem q1606 : (Jvm.Cond.methodLink "java/lang/StringUTF16" (67 : Nat) ({ cls := "java/lang/StringUTF16", name := "checkIndex", desc := "(I[B)V" } : Jvm.MethodName)) ∈ lw_all := lw_g (lw_at lw_m7 73 rfl) rfl
theorem q1607 : (Jvm.Cond.static ({ cls := "java/lang/StringUTF16", name := "checkIndex", desc := "(I[B)V" } : Jvm.MethodName)) ∈ lw_all := lw_g (lw_at lw_m7 74 rfl) rfl
theorem q1608 : (Jvm.Cond.code ({ cls := "java/lang/StringUTF16", name := "checkIndex", desc := "(I[B)V" } : Jvm.MethodName) prog_37_method_91_code (2 : Nat) (Option.none : Option Jvm.ClassFile.FieldType)) ∈ lw_all := lw_g (lw_at lw_m7 75 rfl) rfl
theorem q1609 : (Jvm.Cond.methodLink "java/lang/StringUTF16" (414 : Nat) ({ cls := "java/lang/String", name := "checkIndex", desc := "(II)V" } : Jvm.MethodName)) ∈ lw_all := lw_g (lw_at lw_m7 76 rfl) rfl
theorem q1684 : (Jvm.Cond.static ({ cls := "java/lang/StringUTF16", name := "charAt", desc := "([BI)C" } : Jvm.MethodName)) ∈ lw_all := lw_g (lw_at lw_m7 151 rfl) rfl
theorem q1685 : (Jvm.Cond.code ({ cls := "java/lang/StringUTF16", name := "charAt", desc := "([BI)C" } : Jvm.MethodName) prog_37_method_83_code (2 : Nat) (Option.some Jvm.ClassFile.FieldType.char)) ∈ lw_all := lw_g (lw_at lw_m7 152 rfl) rfl
theorem q1746 : (Jvm.Cond.static ({ cls := "java/lang/StringUTF16", name := "hashCode", desc := "([B)I" } : Jvm.MethodName)) ∈ lw_all := lw_g (lw_at lw_m7 213 rfl) rfl
theorem q1747 : (Jvm.Cond.code ({ cls := "java/lang/StringUTF16", name := "hashCode", desc := "([B)I" } : Jvm.MethodName) prog_37_method_39_code (1 : Nat) (Option.some Jvm.ClassFile.FieldType.int)) ∈ lw_all := lw_g (lw_at lw_m7 214 rfl) rfl
theorem q1748 : (Jvm.Cond.methodLink "java/lang/StringUTF16" (220 : Nat) ({ cls := "jdk/internal/util/ArraysSupport", name := "vectorizedHashCode", desc := "(Ljava/lang/Object;IIII)I" } : Jvm.MethodName)) ∈ lw_all := lw_g (lw_at lw_m7 215 rfl) rfl
theorem q2008 : (Jvm.Cond.static ({ cls := "java/lang/StringUTF16", name := "fillNull", desc := "([BII)V" } : Jvm.MethodName)) ∈ lw_all := lw_g (lw_at lw_m8 235 rfl) rfl
theorem q2009 : (Jvm.Cond.code ({ cls := "java/lang/StringUTF16", name := "fillNull", desc := "([BII)V" } : Jvm.MethodName) prog_37_method_70_code (3 : Nat) (Option.none : Option Jvm.ClassFile.FieldType)) ∈ lw_all := lw_g (lw_at lw_m8 236 rfl) rfl
theorem q2010 : (Jvm.Cond.methodLink "java/lang/StringUTF16" (380 : Nat) ({ cls := "java/util/Arrays", name := "fill", desc := "([BIIB)V" } : Jvm.MethodName)) ∈ lw_all := lw_g (lw_at lw_m8 237 rfl) rfl
theorem q2033 : (Jvm.Cond.static ({ cls := "java/lang/StringUTF16", name := "getChars", desc := "(III[B)I" } : Jvm.MethodName)) ∈ lw_all := lw_g (lw_at lw_m9 20 rfl) rfl
theorem q2034 : (Jvm.Cond.code ({ cls := "java/lang/StringUTF16", name := "getChars", desc := "(III[B)I" } : Jvm.MethodName) prog_37_method_77_code (5 : Nat) (Option.some Jvm.ClassFile.FieldType.int)) ∈ lw_all := lw_g (lw_at lw_m9 21 rfl) rfl
theorem q2035 : (Jvm.Cond.methodLink "java/lang/StringUTF16" (393 : Nat) ({ cls := "java/lang/StringUTF16", name := "getChars", desc := "(II[B)I" } : Jvm.MethodName)) ∈ lw_all := lw_g (lw_at lw_m9 22 rfl) rfl
theorem q2036 : (Jvm.Cond.static ({ cls := "java/lang/StringUTF16", name := "getChars", desc := "(II[B)I" } : Jvm.MethodName)) ∈ lw_all := lw_g (lw_at lw_m9 23 rfl) rfl
theorem q2037 : (Jvm.Cond.code ({ cls := "java/lang/StringUTF16", name := "getChars", desc := "(II[B)I" } : Jvm.MethodName) prog_37_method_89_code (7 : Nat) (Option.some Jvm.ClassFile.FieldType.int)) ∈ lw_all := lw_g (lw_at lw_m9 24 rfl) rfl
theorem q2038 : (Jvm.Cond.fieldLink "java/lang/StringUTF16" (403 : Nat) "java/lang/Integer" "DigitOnes" "[B") ∈ lw_all := lw_g (lw_at lw_m9 25 rfl) rfl
theorem q2039 : (Jvm.Cond.fieldLink "java/lang/StringUTF16" (407 : Nat) "java/lang/Integer" "DigitTens" "[B") ∈ lw_all := lw_g (lw_at lw_m9 26 rfl) rfl
