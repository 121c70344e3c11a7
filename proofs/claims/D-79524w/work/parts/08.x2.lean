/-! WhalingLogs$Reader -/
set_option maxRecDepth 100000
def RX8 : String := "WhalingLogs$Reader"
def TX8 : u_T := fun k => match k with
  | 0 => ("WhalingLogs$Reader", "text", "Ljava/lang/CharSequence;", true)
  | 1 => ("WhalingLogs$Reader", "at", "I", false)
  | _ => ("WhalingLogs$Reader", "this$0", "LWhalingLogs;", true)
def tyX8 : Nat → FieldType := fun k => match k with
  | 0 => .object "java/lang/CharSequence"
  | 1 => .int
  | _ => .object "WhalingLogs"
abbrev wsX80 : List Cond := u_ws RX8 TX8 3
theorem nmX8 : ∀ a, a < 3 → ∀ b, b < 3 → a ≠ b → (TX8 a).2.1 ≠ (TX8 b).2.1 := by decide +kernel
theorem tyX8_ok : ∀ k, k < 3 → parseFieldDescriptor (TX8 k).2.2.1 = some (tyX8 k) := by decide +kernel
abbrev cX8_init : ByteArray := prog_12_method_1_code
def yX8_init : MethodName := ⟨RX8, "<init>", "(LWhalingLogs;Ljava/lang/CharSequence;)V"⟩
def dkwX8_init_0 : List UInt8 := [42, 43, 181, 0, 3, 42, 183, 0, 9, 42, 44, 181, 0, 15, 177]
abbrev dktX8_init_0 : List UInt8 := dkwX8_init_0 ++ []
theorem dksX8_init_0 : cX8_init.data.toList.drop 0 = dktX8_init_0 := by decide +kernel
theorem dX8_init_0 : decode cX8_init 0 = .ok (.aload_n 0, 1) := dk_42 (dk_at dksX8_init_0 0 rfl rfl)
theorem dX8_init_1 : decode cX8_init 1 = .ok (.aload_n 1, 1) := dk_43 (dk_at dksX8_init_0 1 rfl rfl)
theorem dX8_init_2 : decode cX8_init 2 = .ok (.putfield 3, 3) := dk_181 0 3 (dk_at dksX8_init_0 2 rfl rfl)
theorem dX8_init_5 : decode cX8_init 5 = .ok (.aload_n 0, 1) := dk_42 (dk_at dksX8_init_0 5 rfl rfl)
theorem dX8_init_6 : decode cX8_init 6 = .ok (.invokespecial 9, 3) := dk_183 0 9 (dk_at dksX8_init_0 6 rfl rfl)
theorem dX8_init_9 : decode cX8_init 9 = .ok (.aload_n 0, 1) := dk_42 (dk_at dksX8_init_0 9 rfl rfl)
theorem dX8_init_10 : decode cX8_init 10 = .ok (.aload_n 2, 1) := dk_44 (dk_at dksX8_init_0 10 rfl rfl)
theorem dX8_init_11 : decode cX8_init 11 = .ok (.putfield 15, 3) := dk_181 0 15 (dk_at dksX8_init_0 11 rfl rfl)
theorem dX8_init_14 : decode cX8_init 14 = .ok (.return_, 1) := dk_177 (dk_at dksX8_init_0 14 rfl rfl)
abbrev cX8_orders : ByteArray := prog_12_method_16_code
def yX8_orders : MethodName := ⟨RX8, "orders", "()Ljava/util/LinkedList;"⟩
def dkwX8_orders_2 : List UInt8 := [185, 0, 23, 1, 0, 160, 0, 7, 4, 167, 0, 4, 3, 182, 0, 49, 43, 176]
abbrev dktX8_orders_2 : List UInt8 := dkwX8_orders_2 ++ []
def dkwX8_orders_1 : List UInt8 := [153, 0, 14, 43, 42, 182, 0, 153, 182, 0, 156, 167, 255, 239, 42, 42, 180, 0, 19, 42, 180, 0, 15]
abbrev dktX8_orders_1 : List UInt8 := dkwX8_orders_1 ++ dktX8_orders_2
def dkwX8_orders_0 : List UInt8 := [187, 0, 150, 89, 183, 0, 152, 76, 43, 42, 182, 0, 153, 182, 0, 156, 42, 16, 59, 182, 0, 45]
abbrev dktX8_orders_0 : List UInt8 := dkwX8_orders_0 ++ dktX8_orders_1
theorem dksX8_orders_0 : cX8_orders.data.toList.drop 0 = dktX8_orders_0 := by decide +kernel
theorem dksX8_orders_1 : cX8_orders.data.toList.drop 22 = dktX8_orders_1 := dk_seg dksX8_orders_0 22 rfl rfl
theorem dksX8_orders_2 : cX8_orders.data.toList.drop 45 = dktX8_orders_2 := dk_seg dksX8_orders_1 23 rfl rfl
theorem dX8_orders_0 : decode cX8_orders 0 = .ok (.new 150, 3) := dk_187 0 150 (dk_at dksX8_orders_0 0 rfl rfl)
theorem dX8_orders_3 : decode cX8_orders 3 = .ok (.dup, 1) := dk_89 (dk_at dksX8_orders_0 3 rfl rfl)
theorem dX8_orders_4 : decode cX8_orders 4 = .ok (.invokespecial 152, 3) := dk_183 0 152 (dk_at dksX8_orders_0 4 rfl rfl)
theorem dX8_orders_7 : decode cX8_orders 7 = .ok (.astore_n 1, 1) := dk_76 (dk_at dksX8_orders_0 7 rfl rfl)
theorem dX8_orders_8 : decode cX8_orders 8 = .ok (.aload_n 1, 1) := dk_43 (dk_at dksX8_orders_0 8 rfl rfl)
theorem dX8_orders_9 : decode cX8_orders 9 = .ok (.aload_n 0, 1) := dk_42 (dk_at dksX8_orders_0 9 rfl rfl)
theorem dX8_orders_10 : decode cX8_orders 10 = .ok (.invokevirtual 153, 3) := dk_182 0 153 (dk_at dksX8_orders_0 10 rfl rfl)
theorem dX8_orders_13 : decode cX8_orders 13 = .ok (.invokevirtual 156, 3) := dk_182 0 156 (dk_at dksX8_orders_0 13 rfl rfl)
theorem dX8_orders_16 : decode cX8_orders 16 = .ok (.aload_n 0, 1) := dk_42 (dk_at dksX8_orders_0 16 rfl rfl)
theorem dX8_orders_17 : decode cX8_orders 17 = .ok (.bipush 59, 2) := dk_16 59 (dk_at dksX8_orders_0 17 rfl rfl)
theorem dX8_orders_19 : decode cX8_orders 19 = .ok (.invokevirtual 45, 3) := dk_182 0 45 (dk_at dksX8_orders_0 19 rfl rfl)
theorem dX8_orders_22 : decode cX8_orders 22 = .ok (.ifCond .eq 14, 3) := dk_153 0 14 (dk_at dksX8_orders_1 0 rfl rfl)
theorem dX8_orders_25 : decode cX8_orders 25 = .ok (.aload_n 1, 1) := dk_43 (dk_at dksX8_orders_1 3 rfl rfl)
theorem dX8_orders_26 : decode cX8_orders 26 = .ok (.aload_n 0, 1) := dk_42 (dk_at dksX8_orders_1 4 rfl rfl)
theorem dX8_orders_27 : decode cX8_orders 27 = .ok (.invokevirtual 153, 3) := dk_182 0 153 (dk_at dksX8_orders_1 5 rfl rfl)
theorem dX8_orders_30 : decode cX8_orders 30 = .ok (.invokevirtual 156, 3) := dk_182 0 156 (dk_at dksX8_orders_1 8 rfl rfl)
theorem dX8_orders_33 : decode cX8_orders 33 = .ok (.goto (-17), 3) := dk_167 255 239 (dk_at dksX8_orders_1 11 rfl rfl)
theorem dX8_orders_36 : decode cX8_orders 36 = .ok (.aload_n 0, 1) := dk_42 (dk_at dksX8_orders_1 14 rfl rfl)
theorem dX8_orders_37 : decode cX8_orders 37 = .ok (.aload_n 0, 1) := dk_42 (dk_at dksX8_orders_1 15 rfl rfl)
theorem dX8_orders_38 : decode cX8_orders 38 = .ok (.getfield 19, 3) := dk_180 0 19 (dk_at dksX8_orders_1 16 rfl rfl)
theorem dX8_orders_41 : decode cX8_orders 41 = .ok (.aload_n 0, 1) := dk_42 (dk_at dksX8_orders_1 19 rfl rfl)
theorem dX8_orders_42 : decode cX8_orders 42 = .ok (.getfield 15, 3) := dk_180 0 15 (dk_at dksX8_orders_1 20 rfl rfl)
theorem dX8_orders_45 : decode cX8_orders 45 = .ok (.invokeinterface 23 1, 5) := by decide +kernel
theorem dX8_orders_50 : decode cX8_orders 50 = .ok (.if_icmp .ne 7, 3) := dk_160 0 7 (dk_at dksX8_orders_2 5 rfl rfl)
theorem dX8_orders_53 : decode cX8_orders 53 = .ok (.iconst 1, 1) := dk_4 (dk_at dksX8_orders_2 8 rfl rfl)
theorem dX8_orders_54 : decode cX8_orders 54 = .ok (.goto 4, 3) := dk_167 0 4 (dk_at dksX8_orders_2 9 rfl rfl)
theorem dX8_orders_57 : decode cX8_orders 57 = .ok (.iconst 0, 1) := dk_3 (dk_at dksX8_orders_2 12 rfl rfl)
theorem dX8_orders_58 : decode cX8_orders 58 = .ok (.invokevirtual 49, 3) := dk_182 0 49 (dk_at dksX8_orders_2 13 rfl rfl)
theorem dX8_orders_61 : decode cX8_orders 61 = .ok (.aload_n 1, 1) := dk_43 (dk_at dksX8_orders_2 16 rfl rfl)
theorem dX8_orders_62 : decode cX8_orders 62 = .ok (.areturn, 1) := dk_176 (dk_at dksX8_orders_2 17 rfl rfl)
abbrev cX8_order : ByteArray := prog_12_method_15_code
def yX8_order : MethodName := ⟨RX8, "order", "()LWhalingLogs$Order;"⟩
def dkwX8_order_10 : List UInt8 := [89, 42, 4, 182, 0, 80, 183, 0, 149, 176, 187, 0, 36, 89, 27, 183, 0, 38, 191]
abbrev dktX8_order_10 : List UInt8 := dkwX8_order_10 ++ []
def dkwX8_order_9 : List UInt8 := [176, 42, 182, 0, 134, 176, 42, 182, 0, 138, 176, 42, 182, 0, 141, 176, 42, 182, 0, 144, 176, 187, 0, 147]
abbrev dktX8_order_9 : List UInt8 := dkwX8_order_9 ++ dktX8_order_10
def dkwX8_order_8 : List UInt8 := [42, 4, 182, 0, 127, 176, 42, 3, 182, 0, 127, 176, 187, 0, 131, 89, 42, 6, 182, 0, 80, 183, 0, 133]
abbrev dktX8_order_8 : List UInt8 := dkwX8_order_8 ++ dktX8_order_9
def dkwX8_order_7 : List UInt8 := [170, 0, 0, 0, 0, 0, 0, 106, 0, 0, 0, 0, 0, 0, 0, 7, 0, 0, 0, 48, 0, 0, 0, 54, 0, 0, 0, 60, 0, 0, 0, 73, 0, 0, 0, 78, 0, 0, 0, 83, 0, 0, 0, 88, 0, 0, 0, 93]
abbrev dktX8_order_7 : List UInt8 := dkwX8_order_7 ++ dktX8_order_8
def dkwX8_order_6 : List UInt8 := [62, 167, 0, 15, 44, 18, 125, 182, 0, 109, 153, 0, 6, 16, 7, 62, 29]
abbrev dktX8_order_6 : List UInt8 := dkwX8_order_6 ++ dktX8_order_7
def dkwX8_order_5 : List UInt8 := [18, 121, 182, 0, 109, 153, 0, 35, 8, 62, 167, 0, 30, 44, 18, 123, 182, 0, 109, 153, 0, 21, 16, 6]
abbrev dktX8_order_5 : List UInt8 := dkwX8_order_5 ++ dktX8_order_6
def dkwX8_order_4 : List UInt8 := [153, 0, 63, 6, 62, 167, 0, 58, 44, 18, 119, 182, 0, 109, 153, 0, 49, 7, 62, 167, 0, 44, 44]
abbrev dktX8_order_4 : List UInt8 := dkwX8_order_4 ++ dktX8_order_5
def dkwX8_order_3 : List UInt8 := [62, 167, 0, 86, 44, 18, 115, 182, 0, 109, 153, 0, 77, 5, 62, 167, 0, 72, 44, 18, 117, 182, 0, 109]
abbrev dktX8_order_3 : List UInt8 := dkwX8_order_3 ++ dktX8_order_4
def dkwX8_order_2 : List UInt8 := [44, 18, 107, 182, 0, 109, 153, 0, 105, 3, 62, 167, 0, 100, 44, 18, 113, 182, 0, 109, 153, 0, 91, 4]
abbrev dktX8_order_2 : List UInt8 := dkwX8_order_2 ++ dktX8_order_3
def dkwX8_order_1 : List UInt8 := [171, 0, 0, 0, 0, 0, 0, 187, 0, 0, 0, 8, 202, 213, 95, 178, 0, 0, 0, 160, 0, 1, 188, 79, 0, 0, 0, 90, 0, 50, 145, 235, 0, 0, 0, 76, 0, 52, 98, 143, 0, 0, 0, 118, 0, 53, 89, 150, 0, 0, 0, 146, 5, 151, 145, 47, 0, 0, 0, 175, 5, 195, 8, 114, 0, 0, 0, 132, 6, 137, 0, 71, 0, 0, 0, 104]
abbrev dktX8_order_1 : List UInt8 := dkwX8_order_1 ++ dktX8_order_2
def dkwX8_order_0 : List UInt8 := [42, 180, 0, 19, 60, 42, 182, 0, 99, 77, 2, 62, 44, 182, 0, 102]
abbrev dktX8_order_0 : List UInt8 := dkwX8_order_0 ++ dktX8_order_1
theorem dksX8_order_0 : cX8_order.data.toList.drop 0 = dktX8_order_0 := by decide +kernel
theorem dksX8_order_1 : cX8_order.data.toList.drop 16 = dktX8_order_1 := dk_seg dksX8_order_0 16 rfl rfl
theorem dksX8_order_2 : cX8_order.data.toList.drop 92 = dktX8_order_2 := dk_seg dksX8_order_1 76 rfl rfl
theorem dksX8_order_3 : cX8_order.data.toList.drop 116 = dktX8_order_3 := dk_seg dksX8_order_2 24 rfl rfl
theorem dksX8_order_4 : cX8_order.data.toList.drop 140 = dktX8_order_4 := dk_seg dksX8_order_3 24 rfl rfl
theorem dksX8_order_5 : cX8_order.data.toList.drop 163 = dktX8_order_5 := dk_seg dksX8_order_4 23 rfl rfl
theorem dksX8_order_6 : cX8_order.data.toList.drop 187 = dktX8_order_6 := dk_seg dksX8_order_5 24 rfl rfl
theorem dksX8_order_7 : cX8_order.data.toList.drop 204 = dktX8_order_7 := dk_seg dksX8_order_6 17 rfl rfl
theorem dksX8_order_8 : cX8_order.data.toList.drop 252 = dktX8_order_8 := dk_seg dksX8_order_7 48 rfl rfl
theorem dksX8_order_9 : cX8_order.data.toList.drop 276 = dktX8_order_9 := dk_seg dksX8_order_8 24 rfl rfl
theorem dksX8_order_10 : cX8_order.data.toList.drop 300 = dktX8_order_10 := dk_seg dksX8_order_9 24 rfl rfl
theorem dX8_order_0 : decode cX8_order 0 = .ok (.aload_n 0, 1) := dk_42 (dk_at dksX8_order_0 0 rfl rfl)
theorem dX8_order_1 : decode cX8_order 1 = .ok (.getfield 19, 3) := dk_180 0 19 (dk_at dksX8_order_0 1 rfl rfl)
theorem dX8_order_4 : decode cX8_order 4 = .ok (.istore_n 1, 1) := dk_60 (dk_at dksX8_order_0 4 rfl rfl)
theorem dX8_order_5 : decode cX8_order 5 = .ok (.aload_n 0, 1) := dk_42 (dk_at dksX8_order_0 5 rfl rfl)
theorem dX8_order_6 : decode cX8_order 6 = .ok (.invokevirtual 99, 3) := dk_182 0 99 (dk_at dksX8_order_0 6 rfl rfl)
theorem dX8_order_9 : decode cX8_order 9 = .ok (.astore_n 2, 1) := dk_77 (dk_at dksX8_order_0 9 rfl rfl)
theorem dX8_order_10 : decode cX8_order 10 = .ok (.iconst (-1), 1) := dk_2 (dk_at dksX8_order_0 10 rfl rfl)
theorem dX8_order_11 : decode cX8_order 11 = .ok (.istore_n 3, 1) := dk_62 (dk_at dksX8_order_0 11 rfl rfl)
theorem dX8_order_12 : decode cX8_order 12 = .ok (.aload_n 2, 1) := dk_44 (dk_at dksX8_order_0 12 rfl rfl)
theorem dX8_order_13 : decode cX8_order 13 = .ok (.invokevirtual 102, 3) := dk_182 0 102 (dk_at dksX8_order_0 13 rfl rfl)
theorem dX8_order_16 : decode cX8_order 16 = .ok (.lookupswitch 187 #[(-891985998, 160), (113743, 90), (3314155, 76), (3433103, 118), (3496342, 146), (93819183, 175), (96667762, 132), (109641799, 104)], 76) := by decide +kernel
theorem dX8_order_92 : decode cX8_order 92 = .ok (.aload_n 2, 1) := dk_44 (dk_at dksX8_order_2 0 rfl rfl)
theorem dX8_order_93 : decode cX8_order 93 = .ok (.ldc 107, 2) := dk_18 107 (dk_at dksX8_order_2 1 rfl rfl)
theorem dX8_order_95 : decode cX8_order 95 = .ok (.invokevirtual 109, 3) := dk_182 0 109 (dk_at dksX8_order_2 3 rfl rfl)
theorem dX8_order_98 : decode cX8_order 98 = .ok (.ifCond .eq 105, 3) := dk_153 0 105 (dk_at dksX8_order_2 6 rfl rfl)
theorem dX8_order_101 : decode cX8_order 101 = .ok (.iconst 0, 1) := dk_3 (dk_at dksX8_order_2 9 rfl rfl)
theorem dX8_order_102 : decode cX8_order 102 = .ok (.istore_n 3, 1) := dk_62 (dk_at dksX8_order_2 10 rfl rfl)
theorem dX8_order_103 : decode cX8_order 103 = .ok (.goto 100, 3) := dk_167 0 100 (dk_at dksX8_order_2 11 rfl rfl)
theorem dX8_order_106 : decode cX8_order 106 = .ok (.aload_n 2, 1) := dk_44 (dk_at dksX8_order_2 14 rfl rfl)
theorem dX8_order_107 : decode cX8_order 107 = .ok (.ldc 113, 2) := dk_18 113 (dk_at dksX8_order_2 15 rfl rfl)
theorem dX8_order_109 : decode cX8_order 109 = .ok (.invokevirtual 109, 3) := dk_182 0 109 (dk_at dksX8_order_2 17 rfl rfl)
theorem dX8_order_112 : decode cX8_order 112 = .ok (.ifCond .eq 91, 3) := dk_153 0 91 (dk_at dksX8_order_2 20 rfl rfl)
theorem dX8_order_115 : decode cX8_order 115 = .ok (.iconst 1, 1) := dk_4 (dk_at dksX8_order_2 23 rfl rfl)
theorem dX8_order_116 : decode cX8_order 116 = .ok (.istore_n 3, 1) := dk_62 (dk_at dksX8_order_3 0 rfl rfl)
theorem dX8_order_117 : decode cX8_order 117 = .ok (.goto 86, 3) := dk_167 0 86 (dk_at dksX8_order_3 1 rfl rfl)
theorem dX8_order_120 : decode cX8_order 120 = .ok (.aload_n 2, 1) := dk_44 (dk_at dksX8_order_3 4 rfl rfl)
theorem dX8_order_121 : decode cX8_order 121 = .ok (.ldc 115, 2) := dk_18 115 (dk_at dksX8_order_3 5 rfl rfl)
theorem dX8_order_123 : decode cX8_order 123 = .ok (.invokevirtual 109, 3) := dk_182 0 109 (dk_at dksX8_order_3 7 rfl rfl)
theorem dX8_order_126 : decode cX8_order 126 = .ok (.ifCond .eq 77, 3) := dk_153 0 77 (dk_at dksX8_order_3 10 rfl rfl)
theorem dX8_order_129 : decode cX8_order 129 = .ok (.iconst 2, 1) := dk_5 (dk_at dksX8_order_3 13 rfl rfl)
theorem dX8_order_130 : decode cX8_order 130 = .ok (.istore_n 3, 1) := dk_62 (dk_at dksX8_order_3 14 rfl rfl)
theorem dX8_order_131 : decode cX8_order 131 = .ok (.goto 72, 3) := dk_167 0 72 (dk_at dksX8_order_3 15 rfl rfl)
theorem dX8_order_134 : decode cX8_order 134 = .ok (.aload_n 2, 1) := dk_44 (dk_at dksX8_order_3 18 rfl rfl)
theorem dX8_order_135 : decode cX8_order 135 = .ok (.ldc 117, 2) := dk_18 117 (dk_at dksX8_order_3 19 rfl rfl)
theorem dX8_order_137 : decode cX8_order 137 = .ok (.invokevirtual 109, 3) := dk_182 0 109 (dk_at dksX8_order_3 21 rfl rfl)
theorem dX8_order_140 : decode cX8_order 140 = .ok (.ifCond .eq 63, 3) := dk_153 0 63 (dk_at dksX8_order_4 0 rfl rfl)
theorem dX8_order_143 : decode cX8_order 143 = .ok (.iconst 3, 1) := dk_6 (dk_at dksX8_order_4 3 rfl rfl)
theorem dX8_order_144 : decode cX8_order 144 = .ok (.istore_n 3, 1) := dk_62 (dk_at dksX8_order_4 4 rfl rfl)
theorem dX8_order_145 : decode cX8_order 145 = .ok (.goto 58, 3) := dk_167 0 58 (dk_at dksX8_order_4 5 rfl rfl)
theorem dX8_order_148 : decode cX8_order 148 = .ok (.aload_n 2, 1) := dk_44 (dk_at dksX8_order_4 8 rfl rfl)
theorem dX8_order_149 : decode cX8_order 149 = .ok (.ldc 119, 2) := dk_18 119 (dk_at dksX8_order_4 9 rfl rfl)
theorem dX8_order_151 : decode cX8_order 151 = .ok (.invokevirtual 109, 3) := dk_182 0 109 (dk_at dksX8_order_4 11 rfl rfl)
theorem dX8_order_154 : decode cX8_order 154 = .ok (.ifCond .eq 49, 3) := dk_153 0 49 (dk_at dksX8_order_4 14 rfl rfl)
theorem dX8_order_157 : decode cX8_order 157 = .ok (.iconst 4, 1) := dk_7 (dk_at dksX8_order_4 17 rfl rfl)
theorem dX8_order_158 : decode cX8_order 158 = .ok (.istore_n 3, 1) := dk_62 (dk_at dksX8_order_4 18 rfl rfl)
theorem dX8_order_159 : decode cX8_order 159 = .ok (.goto 44, 3) := dk_167 0 44 (dk_at dksX8_order_4 19 rfl rfl)
theorem dX8_order_162 : decode cX8_order 162 = .ok (.aload_n 2, 1) := dk_44 (dk_at dksX8_order_4 22 rfl rfl)
theorem dX8_order_163 : decode cX8_order 163 = .ok (.ldc 121, 2) := dk_18 121 (dk_at dksX8_order_5 0 rfl rfl)
theorem dX8_order_165 : decode cX8_order 165 = .ok (.invokevirtual 109, 3) := dk_182 0 109 (dk_at dksX8_order_5 2 rfl rfl)
theorem dX8_order_168 : decode cX8_order 168 = .ok (.ifCond .eq 35, 3) := dk_153 0 35 (dk_at dksX8_order_5 5 rfl rfl)
theorem dX8_order_171 : decode cX8_order 171 = .ok (.iconst 5, 1) := dk_8 (dk_at dksX8_order_5 8 rfl rfl)
theorem dX8_order_172 : decode cX8_order 172 = .ok (.istore_n 3, 1) := dk_62 (dk_at dksX8_order_5 9 rfl rfl)
theorem dX8_order_173 : decode cX8_order 173 = .ok (.goto 30, 3) := dk_167 0 30 (dk_at dksX8_order_5 10 rfl rfl)
theorem dX8_order_176 : decode cX8_order 176 = .ok (.aload_n 2, 1) := dk_44 (dk_at dksX8_order_5 13 rfl rfl)
theorem dX8_order_177 : decode cX8_order 177 = .ok (.ldc 123, 2) := dk_18 123 (dk_at dksX8_order_5 14 rfl rfl)
theorem dX8_order_179 : decode cX8_order 179 = .ok (.invokevirtual 109, 3) := dk_182 0 109 (dk_at dksX8_order_5 16 rfl rfl)
theorem dX8_order_182 : decode cX8_order 182 = .ok (.ifCond .eq 21, 3) := dk_153 0 21 (dk_at dksX8_order_5 19 rfl rfl)
theorem dX8_order_185 : decode cX8_order 185 = .ok (.bipush 6, 2) := dk_16 6 (dk_at dksX8_order_5 22 rfl rfl)
theorem dX8_order_187 : decode cX8_order 187 = .ok (.istore_n 3, 1) := dk_62 (dk_at dksX8_order_6 0 rfl rfl)
theorem dX8_order_188 : decode cX8_order 188 = .ok (.goto 15, 3) := dk_167 0 15 (dk_at dksX8_order_6 1 rfl rfl)
theorem dX8_order_191 : decode cX8_order 191 = .ok (.aload_n 2, 1) := dk_44 (dk_at dksX8_order_6 4 rfl rfl)
theorem dX8_order_192 : decode cX8_order 192 = .ok (.ldc 125, 2) := dk_18 125 (dk_at dksX8_order_6 5 rfl rfl)
theorem dX8_order_194 : decode cX8_order 194 = .ok (.invokevirtual 109, 3) := dk_182 0 109 (dk_at dksX8_order_6 7 rfl rfl)
theorem dX8_order_197 : decode cX8_order 197 = .ok (.ifCond .eq 6, 3) := dk_153 0 6 (dk_at dksX8_order_6 10 rfl rfl)
theorem dX8_order_200 : decode cX8_order 200 = .ok (.bipush 7, 2) := dk_16 7 (dk_at dksX8_order_6 13 rfl rfl)
theorem dX8_order_202 : decode cX8_order 202 = .ok (.istore_n 3, 1) := dk_62 (dk_at dksX8_order_6 15 rfl rfl)
theorem dX8_order_203 : decode cX8_order 203 = .ok (.iload_n 3, 1) := dk_29 (dk_at dksX8_order_6 16 rfl rfl)
theorem dX8_order_204 : decode cX8_order 204 = .ok (.tableswitch 106 0 7 #[48, 54, 60, 73, 78, 83, 88, 93], 48) := by decide +kernel
theorem dX8_order_252 : decode cX8_order 252 = .ok (.aload_n 0, 1) := dk_42 (dk_at dksX8_order_8 0 rfl rfl)
theorem dX8_order_253 : decode cX8_order 253 = .ok (.iconst 1, 1) := dk_4 (dk_at dksX8_order_8 1 rfl rfl)
theorem dX8_order_254 : decode cX8_order 254 = .ok (.invokevirtual 127, 3) := dk_182 0 127 (dk_at dksX8_order_8 2 rfl rfl)
theorem dX8_order_257 : decode cX8_order 257 = .ok (.areturn, 1) := dk_176 (dk_at dksX8_order_8 5 rfl rfl)
theorem dX8_order_258 : decode cX8_order 258 = .ok (.aload_n 0, 1) := dk_42 (dk_at dksX8_order_8 6 rfl rfl)
theorem dX8_order_259 : decode cX8_order 259 = .ok (.iconst 0, 1) := dk_3 (dk_at dksX8_order_8 7 rfl rfl)
theorem dX8_order_260 : decode cX8_order 260 = .ok (.invokevirtual 127, 3) := dk_182 0 127 (dk_at dksX8_order_8 8 rfl rfl)
theorem dX8_order_263 : decode cX8_order 263 = .ok (.areturn, 1) := dk_176 (dk_at dksX8_order_8 11 rfl rfl)
theorem dX8_order_264 : decode cX8_order 264 = .ok (.new 131, 3) := dk_187 0 131 (dk_at dksX8_order_8 12 rfl rfl)
theorem dX8_order_267 : decode cX8_order 267 = .ok (.dup, 1) := dk_89 (dk_at dksX8_order_8 15 rfl rfl)
theorem dX8_order_268 : decode cX8_order 268 = .ok (.aload_n 0, 1) := dk_42 (dk_at dksX8_order_8 16 rfl rfl)
theorem dX8_order_269 : decode cX8_order 269 = .ok (.iconst 3, 1) := dk_6 (dk_at dksX8_order_8 17 rfl rfl)
theorem dX8_order_270 : decode cX8_order 270 = .ok (.invokevirtual 80, 3) := dk_182 0 80 (dk_at dksX8_order_8 18 rfl rfl)
theorem dX8_order_273 : decode cX8_order 273 = .ok (.invokespecial 133, 3) := dk_183 0 133 (dk_at dksX8_order_8 21 rfl rfl)
theorem dX8_order_276 : decode cX8_order 276 = .ok (.areturn, 1) := dk_176 (dk_at dksX8_order_9 0 rfl rfl)
theorem dX8_order_277 : decode cX8_order 277 = .ok (.aload_n 0, 1) := dk_42 (dk_at dksX8_order_9 1 rfl rfl)
theorem dX8_order_278 : decode cX8_order 278 = .ok (.invokevirtual 134, 3) := dk_182 0 134 (dk_at dksX8_order_9 2 rfl rfl)
theorem dX8_order_281 : decode cX8_order 281 = .ok (.areturn, 1) := dk_176 (dk_at dksX8_order_9 5 rfl rfl)
theorem dX8_order_282 : decode cX8_order 282 = .ok (.aload_n 0, 1) := dk_42 (dk_at dksX8_order_9 6 rfl rfl)
theorem dX8_order_283 : decode cX8_order 283 = .ok (.invokevirtual 138, 3) := dk_182 0 138 (dk_at dksX8_order_9 7 rfl rfl)
theorem dX8_order_286 : decode cX8_order 286 = .ok (.areturn, 1) := dk_176 (dk_at dksX8_order_9 10 rfl rfl)
theorem dX8_order_287 : decode cX8_order 287 = .ok (.aload_n 0, 1) := dk_42 (dk_at dksX8_order_9 11 rfl rfl)
theorem dX8_order_288 : decode cX8_order 288 = .ok (.invokevirtual 141, 3) := dk_182 0 141 (dk_at dksX8_order_9 12 rfl rfl)
theorem dX8_order_291 : decode cX8_order 291 = .ok (.areturn, 1) := dk_176 (dk_at dksX8_order_9 15 rfl rfl)
theorem dX8_order_292 : decode cX8_order 292 = .ok (.aload_n 0, 1) := dk_42 (dk_at dksX8_order_9 16 rfl rfl)
theorem dX8_order_293 : decode cX8_order 293 = .ok (.invokevirtual 144, 3) := dk_182 0 144 (dk_at dksX8_order_9 17 rfl rfl)
theorem dX8_order_296 : decode cX8_order 296 = .ok (.areturn, 1) := dk_176 (dk_at dksX8_order_9 20 rfl rfl)
theorem dX8_order_297 : decode cX8_order 297 = .ok (.new 147, 3) := dk_187 0 147 (dk_at dksX8_order_9 21 rfl rfl)
theorem dX8_order_300 : decode cX8_order 300 = .ok (.dup, 1) := dk_89 (dk_at dksX8_order_10 0 rfl rfl)
theorem dX8_order_301 : decode cX8_order 301 = .ok (.aload_n 0, 1) := dk_42 (dk_at dksX8_order_10 1 rfl rfl)
theorem dX8_order_302 : decode cX8_order 302 = .ok (.iconst 1, 1) := dk_4 (dk_at dksX8_order_10 2 rfl rfl)
theorem dX8_order_303 : decode cX8_order 303 = .ok (.invokevirtual 80, 3) := dk_182 0 80 (dk_at dksX8_order_10 3 rfl rfl)
theorem dX8_order_306 : decode cX8_order 306 = .ok (.invokespecial 149, 3) := dk_183 0 149 (dk_at dksX8_order_10 6 rfl rfl)
theorem dX8_order_309 : decode cX8_order 309 = .ok (.areturn, 1) := dk_176 (dk_at dksX8_order_10 9 rfl rfl)
theorem dX8_order_310 : decode cX8_order 310 = .ok (.new 36, 3) := dk_187 0 36 (dk_at dksX8_order_10 10 rfl rfl)
theorem dX8_order_313 : decode cX8_order 313 = .ok (.dup, 1) := dk_89 (dk_at dksX8_order_10 13 rfl rfl)
theorem dX8_order_314 : decode cX8_order 314 = .ok (.iload_n 1, 1) := dk_27 (dk_at dksX8_order_10 14 rfl rfl)
theorem dX8_order_315 : decode cX8_order 315 = .ok (.invokespecial 38, 3) := dk_183 0 38 (dk_at dksX8_order_10 15 rfl rfl)
theorem dX8_order_318 : decode cX8_order 318 = .ok (.athrow, 1) := dk_191 (dk_at dksX8_order_10 18 rfl rfl)
abbrev cX8_word : ByteArray := prog_12_method_9_code
def yX8_word : MethodName := ⟨RX8, "word", "()Ljava/lang/String;"⟩
def dkwX8_word_2 : List UInt8 := [182, 0, 68, 176]
abbrev dktX8_word_2 : List UInt8 := dkwX8_word_2 ++ []
def dkwX8_word_1 : List UInt8 := [182, 0, 33, 146, 182, 0, 64, 87, 42, 89, 180, 0, 19, 4, 96, 181, 0, 19, 167, 255, 222, 43]
abbrev dktX8_word_1 : List UInt8 := dkwX8_word_1 ++ dktX8_word_2
def dkwX8_word_0 : List UInt8 := [187, 0, 61, 89, 183, 0, 63, 76, 42, 182, 0, 33, 16, 97, 16, 122, 184, 0, 41, 153, 0, 26, 43, 42]
abbrev dktX8_word_0 : List UInt8 := dkwX8_word_0 ++ dktX8_word_1
theorem dksX8_word_0 : cX8_word.data.toList.drop 0 = dktX8_word_0 := by decide +kernel
theorem dksX8_word_1 : cX8_word.data.toList.drop 24 = dktX8_word_1 := dk_seg dksX8_word_0 24 rfl rfl
theorem dksX8_word_2 : cX8_word.data.toList.drop 46 = dktX8_word_2 := dk_seg dksX8_word_1 22 rfl rfl
theorem dX8_word_0 : decode cX8_word 0 = .ok (.new 61, 3) := dk_187 0 61 (dk_at dksX8_word_0 0 rfl rfl)
theorem dX8_word_3 : decode cX8_word 3 = .ok (.dup, 1) := dk_89 (dk_at dksX8_word_0 3 rfl rfl)
theorem dX8_word_4 : decode cX8_word 4 = .ok (.invokespecial 63, 3) := dk_183 0 63 (dk_at dksX8_word_0 4 rfl rfl)
theorem dX8_word_7 : decode cX8_word 7 = .ok (.astore_n 1, 1) := dk_76 (dk_at dksX8_word_0 7 rfl rfl)
theorem dX8_word_8 : decode cX8_word 8 = .ok (.aload_n 0, 1) := dk_42 (dk_at dksX8_word_0 8 rfl rfl)
theorem dX8_word_9 : decode cX8_word 9 = .ok (.invokevirtual 33, 3) := dk_182 0 33 (dk_at dksX8_word_0 9 rfl rfl)
theorem dX8_word_12 : decode cX8_word 12 = .ok (.bipush 97, 2) := dk_16 97 (dk_at dksX8_word_0 12 rfl rfl)
theorem dX8_word_14 : decode cX8_word 14 = .ok (.bipush 122, 2) := dk_16 122 (dk_at dksX8_word_0 14 rfl rfl)
theorem dX8_word_16 : decode cX8_word 16 = .ok (.invokestatic 41, 3) := dk_184 0 41 (dk_at dksX8_word_0 16 rfl rfl)
theorem dX8_word_19 : decode cX8_word 19 = .ok (.ifCond .eq 26, 3) := dk_153 0 26 (dk_at dksX8_word_0 19 rfl rfl)
theorem dX8_word_22 : decode cX8_word 22 = .ok (.aload_n 1, 1) := dk_43 (dk_at dksX8_word_0 22 rfl rfl)
theorem dX8_word_23 : decode cX8_word 23 = .ok (.aload_n 0, 1) := dk_42 (dk_at dksX8_word_0 23 rfl rfl)
theorem dX8_word_24 : decode cX8_word 24 = .ok (.invokevirtual 33, 3) := dk_182 0 33 (dk_at dksX8_word_1 0 rfl rfl)
theorem dX8_word_27 : decode cX8_word 27 = .ok (.i2c, 1) := dk_146 (dk_at dksX8_word_1 3 rfl rfl)
theorem dX8_word_28 : decode cX8_word 28 = .ok (.invokevirtual 64, 3) := dk_182 0 64 (dk_at dksX8_word_1 4 rfl rfl)
theorem dX8_word_31 : decode cX8_word 31 = .ok (.pop, 1) := dk_87 (dk_at dksX8_word_1 7 rfl rfl)
theorem dX8_word_32 : decode cX8_word 32 = .ok (.aload_n 0, 1) := dk_42 (dk_at dksX8_word_1 8 rfl rfl)
theorem dX8_word_33 : decode cX8_word 33 = .ok (.dup, 1) := dk_89 (dk_at dksX8_word_1 9 rfl rfl)
theorem dX8_word_34 : decode cX8_word 34 = .ok (.getfield 19, 3) := dk_180 0 19 (dk_at dksX8_word_1 10 rfl rfl)
theorem dX8_word_37 : decode cX8_word 37 = .ok (.iconst 1, 1) := dk_4 (dk_at dksX8_word_1 13 rfl rfl)
theorem dX8_word_38 : decode cX8_word 38 = .ok (.iadd, 1) := dk_96 (dk_at dksX8_word_1 14 rfl rfl)
theorem dX8_word_39 : decode cX8_word 39 = .ok (.putfield 19, 3) := dk_181 0 19 (dk_at dksX8_word_1 15 rfl rfl)
theorem dX8_word_42 : decode cX8_word 42 = .ok (.goto (-34), 3) := dk_167 255 222 (dk_at dksX8_word_1 18 rfl rfl)
theorem dX8_word_45 : decode cX8_word 45 = .ok (.aload_n 1, 1) := dk_43 (dk_at dksX8_word_1 21 rfl rfl)
theorem dX8_word_46 : decode cX8_word 46 = .ok (.invokevirtual 68, 3) := dk_182 0 68 (dk_at dksX8_word_2 0 rfl rfl)
theorem dX8_word_49 : decode cX8_word 49 = .ok (.areturn, 1) := dk_176 (dk_at dksX8_word_2 3 rfl rfl)
abbrev cX8_here : ByteArray := prog_12_method_2_code
def yX8_here : MethodName := ⟨RX8, "here", "()I"⟩
def dkwX8_here_1 : List UInt8 := [185, 0, 29, 2, 0, 167, 0, 4, 2, 172]
abbrev dktX8_here_1 : List UInt8 := dkwX8_here_1 ++ []
def dkwX8_here_0 : List UInt8 := [42, 180, 0, 19, 42, 180, 0, 15, 185, 0, 23, 1, 0, 162, 0, 19, 42, 180, 0, 15, 42, 180, 0, 19]
abbrev dktX8_here_0 : List UInt8 := dkwX8_here_0 ++ dktX8_here_1
theorem dksX8_here_0 : cX8_here.data.toList.drop 0 = dktX8_here_0 := by decide +kernel
theorem dksX8_here_1 : cX8_here.data.toList.drop 24 = dktX8_here_1 := dk_seg dksX8_here_0 24 rfl rfl
theorem dX8_here_0 : decode cX8_here 0 = .ok (.aload_n 0, 1) := dk_42 (dk_at dksX8_here_0 0 rfl rfl)
theorem dX8_here_1 : decode cX8_here 1 = .ok (.getfield 19, 3) := dk_180 0 19 (dk_at dksX8_here_0 1 rfl rfl)
theorem dX8_here_4 : decode cX8_here 4 = .ok (.aload_n 0, 1) := dk_42 (dk_at dksX8_here_0 4 rfl rfl)
theorem dX8_here_5 : decode cX8_here 5 = .ok (.getfield 15, 3) := dk_180 0 15 (dk_at dksX8_here_0 5 rfl rfl)
theorem dX8_here_8 : decode cX8_here 8 = .ok (.invokeinterface 23 1, 5) := by decide +kernel
theorem dX8_here_13 : decode cX8_here 13 = .ok (.if_icmp .ge 19, 3) := dk_162 0 19 (dk_at dksX8_here_0 13 rfl rfl)
theorem dX8_here_16 : decode cX8_here 16 = .ok (.aload_n 0, 1) := dk_42 (dk_at dksX8_here_0 16 rfl rfl)
theorem dX8_here_17 : decode cX8_here 17 = .ok (.getfield 15, 3) := dk_180 0 15 (dk_at dksX8_here_0 17 rfl rfl)
theorem dX8_here_20 : decode cX8_here 20 = .ok (.aload_n 0, 1) := dk_42 (dk_at dksX8_here_0 20 rfl rfl)
theorem dX8_here_21 : decode cX8_here 21 = .ok (.getfield 19, 3) := dk_180 0 19 (dk_at dksX8_here_0 21 rfl rfl)
theorem dX8_here_24 : decode cX8_here 24 = .ok (.invokeinterface 29 2, 5) := by decide +kernel
theorem dX8_here_29 : decode cX8_here 29 = .ok (.goto 4, 3) := dk_167 0 4 (dk_at dksX8_here_1 5 rfl rfl)
theorem dX8_here_32 : decode cX8_here 32 = .ok (.iconst (-1), 1) := dk_2 (dk_at dksX8_here_1 8 rfl rfl)
theorem dX8_here_33 : decode cX8_here 33 = .ok (.ireturn, 1) := dk_172 (dk_at dksX8_here_1 9 rfl rfl)
abbrev cX8_cellOrder : ByteArray := prog_12_method_10_code
def yX8_cellOrder : MethodName := ⟨RX8, "cellOrder", "(Z)LWhalingLogs$Order;"⟩
def dkwX8_cellOrder_0 : List UInt8 := [42, 182, 0, 72, 61, 187, 0, 75, 89, 42, 180, 0, 3, 27, 28, 42, 5, 182, 0, 53, 183, 0, 77, 176]
abbrev dktX8_cellOrder_0 : List UInt8 := dkwX8_cellOrder_0 ++ []
theorem dksX8_cellOrder_0 : cX8_cellOrder.data.toList.drop 0 = dktX8_cellOrder_0 := by decide +kernel
theorem dX8_cellOrder_0 : decode cX8_cellOrder 0 = .ok (.aload_n 0, 1) := dk_42 (dk_at dksX8_cellOrder_0 0 rfl rfl)
theorem dX8_cellOrder_1 : decode cX8_cellOrder 1 = .ok (.invokevirtual 72, 3) := dk_182 0 72 (dk_at dksX8_cellOrder_0 1 rfl rfl)
theorem dX8_cellOrder_4 : decode cX8_cellOrder 4 = .ok (.istore_n 2, 1) := dk_61 (dk_at dksX8_cellOrder_0 4 rfl rfl)
theorem dX8_cellOrder_5 : decode cX8_cellOrder 5 = .ok (.new 75, 3) := dk_187 0 75 (dk_at dksX8_cellOrder_0 5 rfl rfl)
theorem dX8_cellOrder_8 : decode cX8_cellOrder 8 = .ok (.dup, 1) := dk_89 (dk_at dksX8_cellOrder_0 8 rfl rfl)
theorem dX8_cellOrder_9 : decode cX8_cellOrder 9 = .ok (.aload_n 0, 1) := dk_42 (dk_at dksX8_cellOrder_0 9 rfl rfl)
theorem dX8_cellOrder_10 : decode cX8_cellOrder 10 = .ok (.getfield 3, 3) := dk_180 0 3 (dk_at dksX8_cellOrder_0 10 rfl rfl)
theorem dX8_cellOrder_13 : decode cX8_cellOrder 13 = .ok (.iload_n 1, 1) := dk_27 (dk_at dksX8_cellOrder_0 13 rfl rfl)
theorem dX8_cellOrder_14 : decode cX8_cellOrder 14 = .ok (.iload_n 2, 1) := dk_28 (dk_at dksX8_cellOrder_0 14 rfl rfl)
theorem dX8_cellOrder_15 : decode cX8_cellOrder 15 = .ok (.aload_n 0, 1) := dk_42 (dk_at dksX8_cellOrder_0 15 rfl rfl)
theorem dX8_cellOrder_16 : decode cX8_cellOrder 16 = .ok (.iconst 2, 1) := dk_5 (dk_at dksX8_cellOrder_0 16 rfl rfl)
theorem dX8_cellOrder_17 : decode cX8_cellOrder 17 = .ok (.invokevirtual 53, 3) := dk_182 0 53 (dk_at dksX8_cellOrder_0 17 rfl rfl)
theorem dX8_cellOrder_20 : decode cX8_cellOrder 20 = .ok (.invokespecial 77, 3) := dk_183 0 77 (dk_at dksX8_cellOrder_0 20 rfl rfl)
theorem dX8_cellOrder_23 : decode cX8_cellOrder 23 = .ok (.areturn, 1) := dk_176 (dk_at dksX8_cellOrder_0 23 rfl rfl)
abbrev cX8_column : ByteArray := prog_12_method_8_code
def yX8_column : MethodName := ⟨RX8, "column", "()I"⟩
def dkwX8_column_2 : List UInt8 := [185, 0, 29, 2, 0, 16, 97, 100, 172]
abbrev dktX8_column_2 : List UInt8 := dkwX8_column_2 ++ []
def dkwX8_column_1 : List UInt8 := [182, 0, 49, 42, 89, 180, 0, 19, 4, 96, 181, 0, 19, 42, 180, 0, 15, 42, 180, 0, 19, 4, 100]
abbrev dktX8_column_1 : List UInt8 := dkwX8_column_1 ++ dktX8_column_2
def dkwX8_column_0 : List UInt8 := [42, 42, 16, 32, 182, 0, 45, 182, 0, 49, 42, 42, 182, 0, 33, 16, 97, 16, 112, 184, 0, 41]
abbrev dktX8_column_0 : List UInt8 := dkwX8_column_0 ++ dktX8_column_1
theorem dksX8_column_0 : cX8_column.data.toList.drop 0 = dktX8_column_0 := by decide +kernel
theorem dksX8_column_1 : cX8_column.data.toList.drop 22 = dktX8_column_1 := dk_seg dksX8_column_0 22 rfl rfl
theorem dksX8_column_2 : cX8_column.data.toList.drop 45 = dktX8_column_2 := dk_seg dksX8_column_1 23 rfl rfl
theorem dX8_column_0 : decode cX8_column 0 = .ok (.aload_n 0, 1) := dk_42 (dk_at dksX8_column_0 0 rfl rfl)
theorem dX8_column_1 : decode cX8_column 1 = .ok (.aload_n 0, 1) := dk_42 (dk_at dksX8_column_0 1 rfl rfl)
theorem dX8_column_2 : decode cX8_column 2 = .ok (.bipush 32, 2) := dk_16 32 (dk_at dksX8_column_0 2 rfl rfl)
theorem dX8_column_4 : decode cX8_column 4 = .ok (.invokevirtual 45, 3) := dk_182 0 45 (dk_at dksX8_column_0 4 rfl rfl)
theorem dX8_column_7 : decode cX8_column 7 = .ok (.invokevirtual 49, 3) := dk_182 0 49 (dk_at dksX8_column_0 7 rfl rfl)
theorem dX8_column_10 : decode cX8_column 10 = .ok (.aload_n 0, 1) := dk_42 (dk_at dksX8_column_0 10 rfl rfl)
theorem dX8_column_11 : decode cX8_column 11 = .ok (.aload_n 0, 1) := dk_42 (dk_at dksX8_column_0 11 rfl rfl)
theorem dX8_column_12 : decode cX8_column 12 = .ok (.invokevirtual 33, 3) := dk_182 0 33 (dk_at dksX8_column_0 12 rfl rfl)
theorem dX8_column_15 : decode cX8_column 15 = .ok (.bipush 97, 2) := dk_16 97 (dk_at dksX8_column_0 15 rfl rfl)
theorem dX8_column_17 : decode cX8_column 17 = .ok (.bipush 112, 2) := dk_16 112 (dk_at dksX8_column_0 17 rfl rfl)
theorem dX8_column_19 : decode cX8_column 19 = .ok (.invokestatic 41, 3) := dk_184 0 41 (dk_at dksX8_column_0 19 rfl rfl)
theorem dX8_column_22 : decode cX8_column 22 = .ok (.invokevirtual 49, 3) := dk_182 0 49 (dk_at dksX8_column_1 0 rfl rfl)
theorem dX8_column_25 : decode cX8_column 25 = .ok (.aload_n 0, 1) := dk_42 (dk_at dksX8_column_1 3 rfl rfl)
theorem dX8_column_26 : decode cX8_column 26 = .ok (.dup, 1) := dk_89 (dk_at dksX8_column_1 4 rfl rfl)
theorem dX8_column_27 : decode cX8_column 27 = .ok (.getfield 19, 3) := dk_180 0 19 (dk_at dksX8_column_1 5 rfl rfl)
theorem dX8_column_30 : decode cX8_column 30 = .ok (.iconst 1, 1) := dk_4 (dk_at dksX8_column_1 8 rfl rfl)
theorem dX8_column_31 : decode cX8_column 31 = .ok (.iadd, 1) := dk_96 (dk_at dksX8_column_1 9 rfl rfl)
theorem dX8_column_32 : decode cX8_column 32 = .ok (.putfield 19, 3) := dk_181 0 19 (dk_at dksX8_column_1 10 rfl rfl)
theorem dX8_column_35 : decode cX8_column 35 = .ok (.aload_n 0, 1) := dk_42 (dk_at dksX8_column_1 13 rfl rfl)
theorem dX8_column_36 : decode cX8_column 36 = .ok (.getfield 15, 3) := dk_180 0 15 (dk_at dksX8_column_1 14 rfl rfl)
theorem dX8_column_39 : decode cX8_column 39 = .ok (.aload_n 0, 1) := dk_42 (dk_at dksX8_column_1 17 rfl rfl)
theorem dX8_column_40 : decode cX8_column 40 = .ok (.getfield 19, 3) := dk_180 0 19 (dk_at dksX8_column_1 18 rfl rfl)
theorem dX8_column_43 : decode cX8_column 43 = .ok (.iconst 1, 1) := dk_4 (dk_at dksX8_column_1 21 rfl rfl)
theorem dX8_column_44 : decode cX8_column 44 = .ok (.isub, 1) := dk_100 (dk_at dksX8_column_1 22 rfl rfl)
theorem dX8_column_45 : decode cX8_column 45 = .ok (.invokeinterface 29 2, 5) := by decide +kernel
theorem dX8_column_50 : decode cX8_column 50 = .ok (.bipush 97, 2) := dk_16 97 (dk_at dksX8_column_2 5 rfl rfl)
theorem dX8_column_52 : decode cX8_column 52 = .ok (.isub, 1) := dk_100 (dk_at dksX8_column_2 7 rfl rfl)
theorem dX8_column_53 : decode cX8_column 53 = .ok (.ireturn, 1) := dk_172 (dk_at dksX8_column_2 8 rfl rfl)
abbrev cX8_takes : ByteArray := prog_12_method_3_code
def yX8_takes : MethodName := ⟨RX8, "takes", "(I)Z"⟩
def dkwX8_takes_1 : List UInt8 := [167, 0, 4, 3, 96, 181, 0, 19, 28, 172]
abbrev dktX8_takes_1 : List UInt8 := dkwX8_takes_1 ++ []
def dkwX8_takes_0 : List UInt8 := [42, 182, 0, 33, 27, 160, 0, 7, 4, 167, 0, 4, 3, 61, 42, 89, 180, 0, 19, 28, 153, 0, 7, 4]
abbrev dktX8_takes_0 : List UInt8 := dkwX8_takes_0 ++ dktX8_takes_1
theorem dksX8_takes_0 : cX8_takes.data.toList.drop 0 = dktX8_takes_0 := by decide +kernel
theorem dksX8_takes_1 : cX8_takes.data.toList.drop 24 = dktX8_takes_1 := dk_seg dksX8_takes_0 24 rfl rfl
theorem dX8_takes_0 : decode cX8_takes 0 = .ok (.aload_n 0, 1) := dk_42 (dk_at dksX8_takes_0 0 rfl rfl)
theorem dX8_takes_1 : decode cX8_takes 1 = .ok (.invokevirtual 33, 3) := dk_182 0 33 (dk_at dksX8_takes_0 1 rfl rfl)
theorem dX8_takes_4 : decode cX8_takes 4 = .ok (.iload_n 1, 1) := dk_27 (dk_at dksX8_takes_0 4 rfl rfl)
theorem dX8_takes_5 : decode cX8_takes 5 = .ok (.if_icmp .ne 7, 3) := dk_160 0 7 (dk_at dksX8_takes_0 5 rfl rfl)
theorem dX8_takes_8 : decode cX8_takes 8 = .ok (.iconst 1, 1) := dk_4 (dk_at dksX8_takes_0 8 rfl rfl)
theorem dX8_takes_9 : decode cX8_takes 9 = .ok (.goto 4, 3) := dk_167 0 4 (dk_at dksX8_takes_0 9 rfl rfl)
theorem dX8_takes_12 : decode cX8_takes 12 = .ok (.iconst 0, 1) := dk_3 (dk_at dksX8_takes_0 12 rfl rfl)
theorem dX8_takes_13 : decode cX8_takes 13 = .ok (.istore_n 2, 1) := dk_61 (dk_at dksX8_takes_0 13 rfl rfl)
theorem dX8_takes_14 : decode cX8_takes 14 = .ok (.aload_n 0, 1) := dk_42 (dk_at dksX8_takes_0 14 rfl rfl)
theorem dX8_takes_15 : decode cX8_takes 15 = .ok (.dup, 1) := dk_89 (dk_at dksX8_takes_0 15 rfl rfl)
theorem dX8_takes_16 : decode cX8_takes 16 = .ok (.getfield 19, 3) := dk_180 0 19 (dk_at dksX8_takes_0 16 rfl rfl)
theorem dX8_takes_19 : decode cX8_takes 19 = .ok (.iload_n 2, 1) := dk_28 (dk_at dksX8_takes_0 19 rfl rfl)
theorem dX8_takes_20 : decode cX8_takes 20 = .ok (.ifCond .eq 7, 3) := dk_153 0 7 (dk_at dksX8_takes_0 20 rfl rfl)
theorem dX8_takes_23 : decode cX8_takes 23 = .ok (.iconst 1, 1) := dk_4 (dk_at dksX8_takes_0 23 rfl rfl)
theorem dX8_takes_24 : decode cX8_takes 24 = .ok (.goto 4, 3) := dk_167 0 4 (dk_at dksX8_takes_1 0 rfl rfl)
theorem dX8_takes_27 : decode cX8_takes 27 = .ok (.iconst 0, 1) := dk_3 (dk_at dksX8_takes_1 3 rfl rfl)
theorem dX8_takes_28 : decode cX8_takes 28 = .ok (.iadd, 1) := dk_96 (dk_at dksX8_takes_1 4 rfl rfl)
theorem dX8_takes_29 : decode cX8_takes 29 = .ok (.putfield 19, 3) := dk_181 0 19 (dk_at dksX8_takes_1 5 rfl rfl)
theorem dX8_takes_32 : decode cX8_takes 32 = .ok (.iload_n 2, 1) := dk_28 (dk_at dksX8_takes_1 8 rfl rfl)
theorem dX8_takes_33 : decode cX8_takes 33 = .ok (.ireturn, 1) := dk_172 (dk_at dksX8_takes_1 9 rfl rfl)
abbrev cX8_needs : ByteArray := prog_12_method_4_code
def yX8_needs : MethodName := ⟨RX8, "needs", "(Z)V"⟩
def dkwX8_needs_0 : List UInt8 := [27, 154, 0, 15, 187, 0, 36, 89, 42, 180, 0, 19, 183, 0, 38, 191, 177]
abbrev dktX8_needs_0 : List UInt8 := dkwX8_needs_0 ++ []
theorem dksX8_needs_0 : cX8_needs.data.toList.drop 0 = dktX8_needs_0 := by decide +kernel
theorem dX8_needs_0 : decode cX8_needs 0 = .ok (.iload_n 1, 1) := dk_27 (dk_at dksX8_needs_0 0 rfl rfl)
theorem dX8_needs_1 : decode cX8_needs 1 = .ok (.ifCond .ne 15, 3) := dk_154 0 15 (dk_at dksX8_needs_0 1 rfl rfl)
theorem dX8_needs_4 : decode cX8_needs 4 = .ok (.new 36, 3) := dk_187 0 36 (dk_at dksX8_needs_0 4 rfl rfl)
theorem dX8_needs_7 : decode cX8_needs 7 = .ok (.dup, 1) := dk_89 (dk_at dksX8_needs_0 7 rfl rfl)
theorem dX8_needs_8 : decode cX8_needs 8 = .ok (.aload_n 0, 1) := dk_42 (dk_at dksX8_needs_0 8 rfl rfl)
theorem dX8_needs_9 : decode cX8_needs 9 = .ok (.getfield 19, 3) := dk_180 0 19 (dk_at dksX8_needs_0 9 rfl rfl)
theorem dX8_needs_12 : decode cX8_needs 12 = .ok (.invokespecial 38, 3) := dk_183 0 38 (dk_at dksX8_needs_0 12 rfl rfl)
theorem dX8_needs_15 : decode cX8_needs 15 = .ok (.athrow, 1) := dk_191 (dk_at dksX8_needs_0 15 rfl rfl)
theorem dX8_needs_16 : decode cX8_needs 16 = .ok (.return_, 1) := dk_177 (dk_at dksX8_needs_0 16 rfl rfl)
abbrev cX8_digits : ByteArray := prog_12_method_7_code
def yX8_digits : MethodName := ⟨RX8, "digits", "(I)I"⟩
def dkwX8_digits_2 : List UInt8 := [132, 3, 1, 167, 255, 218, 28, 172]
abbrev dktX8_digits_2 : List UInt8 := dkwX8_digits_2 ++ []
def dkwX8_digits_1 : List UInt8 := [16, 10, 28, 104, 42, 182, 0, 33, 96, 16, 48, 100, 61, 42, 89, 180, 0, 19, 4, 96, 181, 0, 19]
abbrev dktX8_digits_1 : List UInt8 := dkwX8_digits_1 ++ dktX8_digits_2
def dkwX8_digits_0 : List UInt8 := [42, 42, 182, 0, 57, 182, 0, 49, 3, 61, 3, 62, 29, 27, 162, 0, 39, 42, 182, 0, 57, 153, 0, 32]
abbrev dktX8_digits_0 : List UInt8 := dkwX8_digits_0 ++ dktX8_digits_1
theorem dksX8_digits_0 : cX8_digits.data.toList.drop 0 = dktX8_digits_0 := by decide +kernel
theorem dksX8_digits_1 : cX8_digits.data.toList.drop 24 = dktX8_digits_1 := dk_seg dksX8_digits_0 24 rfl rfl
theorem dksX8_digits_2 : cX8_digits.data.toList.drop 47 = dktX8_digits_2 := dk_seg dksX8_digits_1 23 rfl rfl
theorem dX8_digits_0 : decode cX8_digits 0 = .ok (.aload_n 0, 1) := dk_42 (dk_at dksX8_digits_0 0 rfl rfl)
theorem dX8_digits_1 : decode cX8_digits 1 = .ok (.aload_n 0, 1) := dk_42 (dk_at dksX8_digits_0 1 rfl rfl)
theorem dX8_digits_2 : decode cX8_digits 2 = .ok (.invokevirtual 57, 3) := dk_182 0 57 (dk_at dksX8_digits_0 2 rfl rfl)
theorem dX8_digits_5 : decode cX8_digits 5 = .ok (.invokevirtual 49, 3) := dk_182 0 49 (dk_at dksX8_digits_0 5 rfl rfl)
theorem dX8_digits_8 : decode cX8_digits 8 = .ok (.iconst 0, 1) := dk_3 (dk_at dksX8_digits_0 8 rfl rfl)
theorem dX8_digits_9 : decode cX8_digits 9 = .ok (.istore_n 2, 1) := dk_61 (dk_at dksX8_digits_0 9 rfl rfl)
theorem dX8_digits_10 : decode cX8_digits 10 = .ok (.iconst 0, 1) := dk_3 (dk_at dksX8_digits_0 10 rfl rfl)
theorem dX8_digits_11 : decode cX8_digits 11 = .ok (.istore_n 3, 1) := dk_62 (dk_at dksX8_digits_0 11 rfl rfl)
theorem dX8_digits_12 : decode cX8_digits 12 = .ok (.iload_n 3, 1) := dk_29 (dk_at dksX8_digits_0 12 rfl rfl)
theorem dX8_digits_13 : decode cX8_digits 13 = .ok (.iload_n 1, 1) := dk_27 (dk_at dksX8_digits_0 13 rfl rfl)
theorem dX8_digits_14 : decode cX8_digits 14 = .ok (.if_icmp .ge 39, 3) := dk_162 0 39 (dk_at dksX8_digits_0 14 rfl rfl)
theorem dX8_digits_17 : decode cX8_digits 17 = .ok (.aload_n 0, 1) := dk_42 (dk_at dksX8_digits_0 17 rfl rfl)
theorem dX8_digits_18 : decode cX8_digits 18 = .ok (.invokevirtual 57, 3) := dk_182 0 57 (dk_at dksX8_digits_0 18 rfl rfl)
theorem dX8_digits_21 : decode cX8_digits 21 = .ok (.ifCond .eq 32, 3) := dk_153 0 32 (dk_at dksX8_digits_0 21 rfl rfl)
theorem dX8_digits_24 : decode cX8_digits 24 = .ok (.bipush 10, 2) := dk_16 10 (dk_at dksX8_digits_1 0 rfl rfl)
theorem dX8_digits_26 : decode cX8_digits 26 = .ok (.iload_n 2, 1) := dk_28 (dk_at dksX8_digits_1 2 rfl rfl)
theorem dX8_digits_27 : decode cX8_digits 27 = .ok (.imul, 1) := dk_104 (dk_at dksX8_digits_1 3 rfl rfl)
theorem dX8_digits_28 : decode cX8_digits 28 = .ok (.aload_n 0, 1) := dk_42 (dk_at dksX8_digits_1 4 rfl rfl)
theorem dX8_digits_29 : decode cX8_digits 29 = .ok (.invokevirtual 33, 3) := dk_182 0 33 (dk_at dksX8_digits_1 5 rfl rfl)
theorem dX8_digits_32 : decode cX8_digits 32 = .ok (.iadd, 1) := dk_96 (dk_at dksX8_digits_1 8 rfl rfl)
theorem dX8_digits_33 : decode cX8_digits 33 = .ok (.bipush 48, 2) := dk_16 48 (dk_at dksX8_digits_1 9 rfl rfl)
theorem dX8_digits_35 : decode cX8_digits 35 = .ok (.isub, 1) := dk_100 (dk_at dksX8_digits_1 11 rfl rfl)
theorem dX8_digits_36 : decode cX8_digits 36 = .ok (.istore_n 2, 1) := dk_61 (dk_at dksX8_digits_1 12 rfl rfl)
theorem dX8_digits_37 : decode cX8_digits 37 = .ok (.aload_n 0, 1) := dk_42 (dk_at dksX8_digits_1 13 rfl rfl)
theorem dX8_digits_38 : decode cX8_digits 38 = .ok (.dup, 1) := dk_89 (dk_at dksX8_digits_1 14 rfl rfl)
theorem dX8_digits_39 : decode cX8_digits 39 = .ok (.getfield 19, 3) := dk_180 0 19 (dk_at dksX8_digits_1 15 rfl rfl)
theorem dX8_digits_42 : decode cX8_digits 42 = .ok (.iconst 1, 1) := dk_4 (dk_at dksX8_digits_1 18 rfl rfl)
theorem dX8_digits_43 : decode cX8_digits 43 = .ok (.iadd, 1) := dk_96 (dk_at dksX8_digits_1 19 rfl rfl)
theorem dX8_digits_44 : decode cX8_digits 44 = .ok (.putfield 19, 3) := dk_181 0 19 (dk_at dksX8_digits_1 20 rfl rfl)
theorem dX8_digits_47 : decode cX8_digits 47 = .ok (.iinc 3 1, 3) := dk_132 3 1 (dk_at dksX8_digits_2 0 rfl rfl)
theorem dX8_digits_50 : decode cX8_digits 50 = .ok (.goto (-38), 3) := dk_167 255 218 (dk_at dksX8_digits_2 3 rfl rfl)
theorem dX8_digits_53 : decode cX8_digits 53 = .ok (.iload_n 2, 1) := dk_28 (dk_at dksX8_digits_2 6 rfl rfl)
theorem dX8_digits_54 : decode cX8_digits 54 = .ok (.ireturn, 1) := dk_172 (dk_at dksX8_digits_2 7 rfl rfl)
abbrev cX8_isDigit : ByteArray := prog_12_method_5_code
def yX8_isDigit : MethodName := ⟨RX8, "isDigit", "()Z"⟩
def dkwX8_isDigit_0 : List UInt8 := [42, 182, 0, 33, 16, 48, 16, 57, 184, 0, 41, 172]
abbrev dktX8_isDigit_0 : List UInt8 := dkwX8_isDigit_0 ++ []
theorem dksX8_isDigit_0 : cX8_isDigit.data.toList.drop 0 = dktX8_isDigit_0 := by decide +kernel
theorem dX8_isDigit_0 : decode cX8_isDigit 0 = .ok (.aload_n 0, 1) := dk_42 (dk_at dksX8_isDigit_0 0 rfl rfl)
theorem dX8_isDigit_1 : decode cX8_isDigit 1 = .ok (.invokevirtual 33, 3) := dk_182 0 33 (dk_at dksX8_isDigit_0 1 rfl rfl)
theorem dX8_isDigit_4 : decode cX8_isDigit 4 = .ok (.bipush 48, 2) := dk_16 48 (dk_at dksX8_isDigit_0 4 rfl rfl)
theorem dX8_isDigit_6 : decode cX8_isDigit 6 = .ok (.bipush 57, 2) := dk_16 57 (dk_at dksX8_isDigit_0 6 rfl rfl)
theorem dX8_isDigit_8 : decode cX8_isDigit 8 = .ok (.invokestatic 41, 3) := dk_184 0 41 (dk_at dksX8_isDigit_0 8 rfl rfl)
theorem dX8_isDigit_11 : decode cX8_isDigit 11 = .ok (.ireturn, 1) := dk_172 (dk_at dksX8_isDigit_0 11 rfl rfl)
abbrev cX8_number : ByteArray := prog_12_method_6_code
def yX8_number : MethodName := ⟨RX8, "number", "(I)I"⟩
def dkwX8_number_0 : List UInt8 := [42, 42, 16, 32, 182, 0, 45, 182, 0, 49, 42, 27, 182, 0, 53, 172]
abbrev dktX8_number_0 : List UInt8 := dkwX8_number_0 ++ []
theorem dksX8_number_0 : cX8_number.data.toList.drop 0 = dktX8_number_0 := by decide +kernel
theorem dX8_number_0 : decode cX8_number 0 = .ok (.aload_n 0, 1) := dk_42 (dk_at dksX8_number_0 0 rfl rfl)
theorem dX8_number_1 : decode cX8_number 1 = .ok (.aload_n 0, 1) := dk_42 (dk_at dksX8_number_0 1 rfl rfl)
theorem dX8_number_2 : decode cX8_number 2 = .ok (.bipush 32, 2) := dk_16 32 (dk_at dksX8_number_0 2 rfl rfl)
theorem dX8_number_4 : decode cX8_number 4 = .ok (.invokevirtual 45, 3) := dk_182 0 45 (dk_at dksX8_number_0 4 rfl rfl)
theorem dX8_number_7 : decode cX8_number 7 = .ok (.invokevirtual 49, 3) := dk_182 0 49 (dk_at dksX8_number_0 7 rfl rfl)
theorem dX8_number_10 : decode cX8_number 10 = .ok (.aload_n 0, 1) := dk_42 (dk_at dksX8_number_0 10 rfl rfl)
theorem dX8_number_11 : decode cX8_number 11 = .ok (.iload_n 1, 1) := dk_27 (dk_at dksX8_number_0 11 rfl rfl)
theorem dX8_number_12 : decode cX8_number 12 = .ok (.invokevirtual 53, 3) := dk_182 0 53 (dk_at dksX8_number_0 12 rfl rfl)
theorem dX8_number_15 : decode cX8_number 15 = .ok (.ireturn, 1) := dk_172 (dk_at dksX8_number_0 15 rfl rfl)
abbrev cX8_pageOrder : ByteArray := prog_12_method_11_code
def yX8_pageOrder : MethodName := ⟨RX8, "pageOrder", "()LWhalingLogs$Order;"⟩
def dkwX8_pageOrder_0 : List UInt8 := [42, 6, 182, 0, 80, 60, 187, 0, 83, 89, 27, 42, 6, 182, 0, 80, 183, 0, 85, 176]
abbrev dktX8_pageOrder_0 : List UInt8 := dkwX8_pageOrder_0 ++ []
theorem dksX8_pageOrder_0 : cX8_pageOrder.data.toList.drop 0 = dktX8_pageOrder_0 := by decide +kernel
theorem dX8_pageOrder_0 : decode cX8_pageOrder 0 = .ok (.aload_n 0, 1) := dk_42 (dk_at dksX8_pageOrder_0 0 rfl rfl)
theorem dX8_pageOrder_1 : decode cX8_pageOrder 1 = .ok (.iconst 3, 1) := dk_6 (dk_at dksX8_pageOrder_0 1 rfl rfl)
theorem dX8_pageOrder_2 : decode cX8_pageOrder 2 = .ok (.invokevirtual 80, 3) := dk_182 0 80 (dk_at dksX8_pageOrder_0 2 rfl rfl)
theorem dX8_pageOrder_5 : decode cX8_pageOrder 5 = .ok (.istore_n 1, 1) := dk_60 (dk_at dksX8_pageOrder_0 5 rfl rfl)
theorem dX8_pageOrder_6 : decode cX8_pageOrder 6 = .ok (.new 83, 3) := dk_187 0 83 (dk_at dksX8_pageOrder_0 6 rfl rfl)
theorem dX8_pageOrder_9 : decode cX8_pageOrder 9 = .ok (.dup, 1) := dk_89 (dk_at dksX8_pageOrder_0 9 rfl rfl)
theorem dX8_pageOrder_10 : decode cX8_pageOrder 10 = .ok (.iload_n 1, 1) := dk_27 (dk_at dksX8_pageOrder_0 10 rfl rfl)
theorem dX8_pageOrder_11 : decode cX8_pageOrder 11 = .ok (.aload_n 0, 1) := dk_42 (dk_at dksX8_pageOrder_0 11 rfl rfl)
theorem dX8_pageOrder_12 : decode cX8_pageOrder 12 = .ok (.iconst 3, 1) := dk_6 (dk_at dksX8_pageOrder_0 12 rfl rfl)
theorem dX8_pageOrder_13 : decode cX8_pageOrder 13 = .ok (.invokevirtual 80, 3) := dk_182 0 80 (dk_at dksX8_pageOrder_0 13 rfl rfl)
theorem dX8_pageOrder_16 : decode cX8_pageOrder 16 = .ok (.invokespecial 85, 3) := dk_183 0 85 (dk_at dksX8_pageOrder_0 16 rfl rfl)
theorem dX8_pageOrder_19 : decode cX8_pageOrder 19 = .ok (.areturn, 1) := dk_176 (dk_at dksX8_pageOrder_0 19 rfl rfl)
abbrev cX8_entryOrder : ByteArray := prog_12_method_12_code
def yX8_entryOrder : MethodName := ⟨RX8, "entryOrder", "()LWhalingLogs$Order;"⟩
def dkwX8_entryOrder_1 : List UInt8 := [187, 0, 88, 89, 27, 28, 29, 21, 4, 42, 4, 182, 0, 80, 183, 0, 90, 176]
abbrev dktX8_entryOrder_1 : List UInt8 := dkwX8_entryOrder_1 ++ []
def dkwX8_entryOrder_0 : List UInt8 := [42, 4, 182, 0, 80, 60, 42, 6, 182, 0, 80, 61, 42, 182, 0, 72, 62, 42, 5, 182, 0, 53, 54, 4]
abbrev dktX8_entryOrder_0 : List UInt8 := dkwX8_entryOrder_0 ++ dktX8_entryOrder_1
theorem dksX8_entryOrder_0 : cX8_entryOrder.data.toList.drop 0 = dktX8_entryOrder_0 := by decide +kernel
theorem dksX8_entryOrder_1 : cX8_entryOrder.data.toList.drop 24 = dktX8_entryOrder_1 := dk_seg dksX8_entryOrder_0 24 rfl rfl
theorem dX8_entryOrder_0 : decode cX8_entryOrder 0 = .ok (.aload_n 0, 1) := dk_42 (dk_at dksX8_entryOrder_0 0 rfl rfl)
theorem dX8_entryOrder_1 : decode cX8_entryOrder 1 = .ok (.iconst 1, 1) := dk_4 (dk_at dksX8_entryOrder_0 1 rfl rfl)
theorem dX8_entryOrder_2 : decode cX8_entryOrder 2 = .ok (.invokevirtual 80, 3) := dk_182 0 80 (dk_at dksX8_entryOrder_0 2 rfl rfl)
theorem dX8_entryOrder_5 : decode cX8_entryOrder 5 = .ok (.istore_n 1, 1) := dk_60 (dk_at dksX8_entryOrder_0 5 rfl rfl)
theorem dX8_entryOrder_6 : decode cX8_entryOrder 6 = .ok (.aload_n 0, 1) := dk_42 (dk_at dksX8_entryOrder_0 6 rfl rfl)
theorem dX8_entryOrder_7 : decode cX8_entryOrder 7 = .ok (.iconst 3, 1) := dk_6 (dk_at dksX8_entryOrder_0 7 rfl rfl)
theorem dX8_entryOrder_8 : decode cX8_entryOrder 8 = .ok (.invokevirtual 80, 3) := dk_182 0 80 (dk_at dksX8_entryOrder_0 8 rfl rfl)
theorem dX8_entryOrder_11 : decode cX8_entryOrder 11 = .ok (.istore_n 2, 1) := dk_61 (dk_at dksX8_entryOrder_0 11 rfl rfl)
theorem dX8_entryOrder_12 : decode cX8_entryOrder 12 = .ok (.aload_n 0, 1) := dk_42 (dk_at dksX8_entryOrder_0 12 rfl rfl)
theorem dX8_entryOrder_13 : decode cX8_entryOrder 13 = .ok (.invokevirtual 72, 3) := dk_182 0 72 (dk_at dksX8_entryOrder_0 13 rfl rfl)
theorem dX8_entryOrder_16 : decode cX8_entryOrder 16 = .ok (.istore_n 3, 1) := dk_62 (dk_at dksX8_entryOrder_0 16 rfl rfl)
theorem dX8_entryOrder_17 : decode cX8_entryOrder 17 = .ok (.aload_n 0, 1) := dk_42 (dk_at dksX8_entryOrder_0 17 rfl rfl)
theorem dX8_entryOrder_18 : decode cX8_entryOrder 18 = .ok (.iconst 2, 1) := dk_5 (dk_at dksX8_entryOrder_0 18 rfl rfl)
theorem dX8_entryOrder_19 : decode cX8_entryOrder 19 = .ok (.invokevirtual 53, 3) := dk_182 0 53 (dk_at dksX8_entryOrder_0 19 rfl rfl)
theorem dX8_entryOrder_22 : decode cX8_entryOrder 22 = .ok (.istore 4, 2) := dk_54 4 (dk_at dksX8_entryOrder_0 22 rfl rfl)
theorem dX8_entryOrder_24 : decode cX8_entryOrder 24 = .ok (.new 88, 3) := dk_187 0 88 (dk_at dksX8_entryOrder_1 0 rfl rfl)
theorem dX8_entryOrder_27 : decode cX8_entryOrder 27 = .ok (.dup, 1) := dk_89 (dk_at dksX8_entryOrder_1 3 rfl rfl)
theorem dX8_entryOrder_28 : decode cX8_entryOrder 28 = .ok (.iload_n 1, 1) := dk_27 (dk_at dksX8_entryOrder_1 4 rfl rfl)
theorem dX8_entryOrder_29 : decode cX8_entryOrder 29 = .ok (.iload_n 2, 1) := dk_28 (dk_at dksX8_entryOrder_1 5 rfl rfl)
theorem dX8_entryOrder_30 : decode cX8_entryOrder 30 = .ok (.iload_n 3, 1) := dk_29 (dk_at dksX8_entryOrder_1 6 rfl rfl)
theorem dX8_entryOrder_31 : decode cX8_entryOrder 31 = .ok (.iload 4, 2) := dk_21 4 (dk_at dksX8_entryOrder_1 7 rfl rfl)
theorem dX8_entryOrder_33 : decode cX8_entryOrder 33 = .ok (.aload_n 0, 1) := dk_42 (dk_at dksX8_entryOrder_1 9 rfl rfl)
theorem dX8_entryOrder_34 : decode cX8_entryOrder 34 = .ok (.iconst 1, 1) := dk_4 (dk_at dksX8_entryOrder_1 10 rfl rfl)
theorem dX8_entryOrder_35 : decode cX8_entryOrder 35 = .ok (.invokevirtual 80, 3) := dk_182 0 80 (dk_at dksX8_entryOrder_1 11 rfl rfl)
theorem dX8_entryOrder_38 : decode cX8_entryOrder 38 = .ok (.invokespecial 90, 3) := dk_183 0 90 (dk_at dksX8_entryOrder_1 14 rfl rfl)
theorem dX8_entryOrder_41 : decode cX8_entryOrder 41 = .ok (.areturn, 1) := dk_176 (dk_at dksX8_entryOrder_1 17 rfl rfl)
abbrev cX8_readOrder : ByteArray := prog_12_method_13_code
def yX8_readOrder : MethodName := ⟨RX8, "readOrder", "()LWhalingLogs$Order;"⟩
def dkwX8_readOrder_0 : List UInt8 := [42, 4, 182, 0, 80, 60, 187, 0, 93, 89, 27, 42, 4, 182, 0, 80, 183, 0, 95, 176]
abbrev dktX8_readOrder_0 : List UInt8 := dkwX8_readOrder_0 ++ []
theorem dksX8_readOrder_0 : cX8_readOrder.data.toList.drop 0 = dktX8_readOrder_0 := by decide +kernel
theorem dX8_readOrder_0 : decode cX8_readOrder 0 = .ok (.aload_n 0, 1) := dk_42 (dk_at dksX8_readOrder_0 0 rfl rfl)
theorem dX8_readOrder_1 : decode cX8_readOrder 1 = .ok (.iconst 1, 1) := dk_4 (dk_at dksX8_readOrder_0 1 rfl rfl)
theorem dX8_readOrder_2 : decode cX8_readOrder 2 = .ok (.invokevirtual 80, 3) := dk_182 0 80 (dk_at dksX8_readOrder_0 2 rfl rfl)
theorem dX8_readOrder_5 : decode cX8_readOrder 5 = .ok (.istore_n 1, 1) := dk_60 (dk_at dksX8_readOrder_0 5 rfl rfl)
theorem dX8_readOrder_6 : decode cX8_readOrder 6 = .ok (.new 93, 3) := dk_187 0 93 (dk_at dksX8_readOrder_0 6 rfl rfl)
theorem dX8_readOrder_9 : decode cX8_readOrder 9 = .ok (.dup, 1) := dk_89 (dk_at dksX8_readOrder_0 9 rfl rfl)
theorem dX8_readOrder_10 : decode cX8_readOrder 10 = .ok (.iload_n 1, 1) := dk_27 (dk_at dksX8_readOrder_0 10 rfl rfl)
theorem dX8_readOrder_11 : decode cX8_readOrder 11 = .ok (.aload_n 0, 1) := dk_42 (dk_at dksX8_readOrder_0 11 rfl rfl)
theorem dX8_readOrder_12 : decode cX8_readOrder 12 = .ok (.iconst 1, 1) := dk_4 (dk_at dksX8_readOrder_0 12 rfl rfl)
theorem dX8_readOrder_13 : decode cX8_readOrder 13 = .ok (.invokevirtual 80, 3) := dk_182 0 80 (dk_at dksX8_readOrder_0 13 rfl rfl)
theorem dX8_readOrder_16 : decode cX8_readOrder 16 = .ok (.invokespecial 95, 3) := dk_183 0 95 (dk_at dksX8_readOrder_0 16 rfl rfl)
theorem dX8_readOrder_19 : decode cX8_readOrder 19 = .ok (.areturn, 1) := dk_176 (dk_at dksX8_readOrder_0 19 rfl rfl)
abbrev cX8_strikeOrder : ByteArray := prog_12_method_14_code
def yX8_strikeOrder : MethodName := ⟨RX8, "strikeOrder", "()LWhalingLogs$Order;"⟩
def dkwX8_strikeOrder_0 : List UInt8 := [42, 4, 182, 0, 80, 60, 187, 0, 96, 89, 27, 42, 4, 182, 0, 80, 183, 0, 98, 176]
abbrev dktX8_strikeOrder_0 : List UInt8 := dkwX8_strikeOrder_0 ++ []
theorem dksX8_strikeOrder_0 : cX8_strikeOrder.data.toList.drop 0 = dktX8_strikeOrder_0 := by decide +kernel
theorem dX8_strikeOrder_0 : decode cX8_strikeOrder 0 = .ok (.aload_n 0, 1) := dk_42 (dk_at dksX8_strikeOrder_0 0 rfl rfl)
theorem dX8_strikeOrder_1 : decode cX8_strikeOrder 1 = .ok (.iconst 1, 1) := dk_4 (dk_at dksX8_strikeOrder_0 1 rfl rfl)
theorem dX8_strikeOrder_2 : decode cX8_strikeOrder 2 = .ok (.invokevirtual 80, 3) := dk_182 0 80 (dk_at dksX8_strikeOrder_0 2 rfl rfl)
theorem dX8_strikeOrder_5 : decode cX8_strikeOrder 5 = .ok (.istore_n 1, 1) := dk_60 (dk_at dksX8_strikeOrder_0 5 rfl rfl)
theorem dX8_strikeOrder_6 : decode cX8_strikeOrder 6 = .ok (.new 96, 3) := dk_187 0 96 (dk_at dksX8_strikeOrder_0 6 rfl rfl)
theorem dX8_strikeOrder_9 : decode cX8_strikeOrder 9 = .ok (.dup, 1) := dk_89 (dk_at dksX8_strikeOrder_0 9 rfl rfl)
theorem dX8_strikeOrder_10 : decode cX8_strikeOrder 10 = .ok (.iload_n 1, 1) := dk_27 (dk_at dksX8_strikeOrder_0 10 rfl rfl)
theorem dX8_strikeOrder_11 : decode cX8_strikeOrder 11 = .ok (.aload_n 0, 1) := dk_42 (dk_at dksX8_strikeOrder_0 11 rfl rfl)
theorem dX8_strikeOrder_12 : decode cX8_strikeOrder 12 = .ok (.iconst 1, 1) := dk_4 (dk_at dksX8_strikeOrder_0 12 rfl rfl)
theorem dX8_strikeOrder_13 : decode cX8_strikeOrder 13 = .ok (.invokevirtual 80, 3) := dk_182 0 80 (dk_at dksX8_strikeOrder_0 13 rfl rfl)
theorem dX8_strikeOrder_16 : decode cX8_strikeOrder 16 = .ok (.invokespecial 98, 3) := dk_183 0 98 (dk_at dksX8_strikeOrder_0 16 rfl rfl)
theorem dX8_strikeOrder_19 : decode cX8_strikeOrder 19 = .ok (.areturn, 1) := dk_176 (dk_at dksX8_strikeOrder_0 19 rfl rfl)
theorem q133 : (Jvm.Cond.initialized "WhalingLogs$Reader") ∈ lw_all := lw_g (lw_at lw_m1 40 rfl) rfl
theorem q680 : (Jvm.Cond.selects "WhalingLogs$Reader" ({ cls := "java/lang/Object", name := "getClass", desc := "()Ljava/lang/Class;" } : Jvm.MethodName) ({ cls := "java/lang/Object", name := "getClass", desc := "()Ljava/lang/Class;" } : Jvm.MethodName)) ∈ lw_all := lw_g (lw_at lw_m3 107 rfl) rfl
theorem q1619 : (Jvm.Cond.instantiable "WhalingLogs$Reader" (3 : Nat)) ∈ lw_all := lw_g (lw_at lw_m7 86 rfl) rfl
theorem q1621 : (Jvm.Cond.instanceMethod ({ cls := "WhalingLogs$Reader", name := "<init>", desc := "(LWhalingLogs;Ljava/lang/CharSequence;)V" } : Jvm.MethodName)) ∈ lw_all := lw_g (lw_at lw_m7 88 rfl) rfl
theorem q1622 : (Jvm.Cond.code ({ cls := "WhalingLogs$Reader", name := "<init>", desc := "(LWhalingLogs;Ljava/lang/CharSequence;)V" } : Jvm.MethodName) prog_12_method_1_code (3 : Nat) (Option.none : Option Jvm.ClassFile.FieldType)) ∈ lw_all := lw_g (lw_at lw_m7 89 rfl) rfl
theorem q1623 : (Jvm.Cond.methodLink "WhalingLogs$Reader" (9 : Nat) ({ cls := "java/lang/Object", name := "<init>", desc := "()V" } : Jvm.MethodName)) ∈ lw_all := lw_g (lw_at lw_m7 90 rfl) rfl
theorem q1624 : (Jvm.Cond.fieldLink "WhalingLogs$Reader" (15 : Nat) "WhalingLogs$Reader" "text" "Ljava/lang/CharSequence;") ∈ lw_all := lw_g (lw_at lw_m7 91 rfl) rfl
theorem q1625 : (Jvm.Cond.fieldLink "WhalingLogs$Reader" (19 : Nat) "WhalingLogs$Reader" "at" "I") ∈ lw_all := lw_g (lw_at lw_m7 92 rfl) rfl
theorem q1626 : (Jvm.Cond.fieldLink "WhalingLogs$Reader" (3 : Nat) "WhalingLogs$Reader" "this$0" "LWhalingLogs;") ∈ lw_all := lw_g (lw_at lw_m7 93 rfl) rfl
theorem q1627 : (Jvm.Cond.laysFinal "WhalingLogs$Reader" "WhalingLogs$Reader" "text" "Ljava/lang/CharSequence;") ∈ lw_all := lw_g (lw_at lw_m7 94 rfl) rfl
theorem q1628 : (Jvm.Cond.soleField "WhalingLogs$Reader" "text") ∈ lw_all := lw_g (lw_at lw_m7 95 rfl) rfl
theorem q1629 : (Jvm.Cond.lays "WhalingLogs$Reader" "WhalingLogs$Reader" "at" "I") ∈ lw_all := lw_g (lw_at lw_m7 96 rfl) rfl
theorem q1630 : (Jvm.Cond.soleField "WhalingLogs$Reader" "at") ∈ lw_all := lw_g (lw_at lw_m7 97 rfl) rfl
theorem q1631 : (Jvm.Cond.laysFinal "WhalingLogs$Reader" "WhalingLogs$Reader" "this$0" "LWhalingLogs;") ∈ lw_all := lw_g (lw_at lw_m7 98 rfl) rfl
theorem q1632 : (Jvm.Cond.soleField "WhalingLogs$Reader" "this$0") ∈ lw_all := lw_g (lw_at lw_m7 99 rfl) rfl
theorem q1633 : (Jvm.Cond.superclass "WhalingLogs$Reader" "java/lang/Object") ∈ lw_all := lw_g (lw_at lw_m7 100 rfl) rfl
theorem q1635 : (Jvm.Cond.instanceMethod ({ cls := "WhalingLogs$Reader", name := "orders", desc := "()Ljava/util/LinkedList;" } : Jvm.MethodName)) ∈ lw_all := lw_g (lw_at lw_m7 102 rfl) rfl
theorem q1636 : (Jvm.Cond.selects "WhalingLogs$Reader" ({ cls := "WhalingLogs$Reader", name := "orders", desc := "()Ljava/util/LinkedList;" } : Jvm.MethodName) ({ cls := "WhalingLogs$Reader", name := "orders", desc := "()Ljava/util/LinkedList;" } : Jvm.MethodName)) ∈ lw_all := lw_g (lw_at lw_m7 103 rfl) rfl
theorem q1637 : (Jvm.Cond.code ({ cls := "WhalingLogs$Reader", name := "orders", desc := "()Ljava/util/LinkedList;" } : Jvm.MethodName) prog_12_method_16_code (2 : Nat) (Option.some (Jvm.ClassFile.FieldType.object "java/util/LinkedList"))) ∈ lw_all := lw_g (lw_at lw_m7 104 rfl) rfl
theorem q1638 : (Jvm.Cond.classLink "WhalingLogs$Reader" (150 : Nat) "java/util/LinkedList") ∈ lw_all := lw_g (lw_at lw_m7 105 rfl) rfl
theorem q1639 : (Jvm.Cond.methodLink "WhalingLogs$Reader" (152 : Nat) ({ cls := "java/util/LinkedList", name := "<init>", desc := "()V" } : Jvm.MethodName)) ∈ lw_all := lw_g (lw_at lw_m7 106 rfl) rfl
theorem q1640 : (Jvm.Cond.methodLink "WhalingLogs$Reader" (153 : Nat) ({ cls := "WhalingLogs$Reader", name := "order", desc := "()LWhalingLogs$Order;" } : Jvm.MethodName)) ∈ lw_all := lw_g (lw_at lw_m7 107 rfl) rfl
theorem q1641 : (Jvm.Cond.privateMethod ({ cls := "WhalingLogs$Reader", name := "order", desc := "()LWhalingLogs$Order;" } : Jvm.MethodName)) ∈ lw_tbl := lw_at lw_m7 108 rfl
theorem q1642 : (Jvm.Cond.instanceMethod ({ cls := "WhalingLogs$Reader", name := "order", desc := "()LWhalingLogs$Order;" } : Jvm.MethodName)) ∈ lw_all := lw_g (lw_at lw_m7 109 rfl) rfl
theorem q1643 : (Jvm.Cond.code ({ cls := "WhalingLogs$Reader", name := "order", desc := "()LWhalingLogs$Order;" } : Jvm.MethodName) prog_12_method_15_code (4 : Nat) (Option.some (Jvm.ClassFile.FieldType.object "WhalingLogs$Order"))) ∈ lw_all := lw_g (lw_at lw_m7 110 rfl) rfl
theorem q1644 : (Jvm.Cond.methodLink "WhalingLogs$Reader" (99 : Nat) ({ cls := "WhalingLogs$Reader", name := "word", desc := "()Ljava/lang/String;" } : Jvm.MethodName)) ∈ lw_all := lw_g (lw_at lw_m7 111 rfl) rfl
theorem q1645 : (Jvm.Cond.privateMethod ({ cls := "WhalingLogs$Reader", name := "word", desc := "()Ljava/lang/String;" } : Jvm.MethodName)) ∈ lw_tbl := lw_at lw_m7 112 rfl
theorem q1646 : (Jvm.Cond.instanceMethod ({ cls := "WhalingLogs$Reader", name := "word", desc := "()Ljava/lang/String;" } : Jvm.MethodName)) ∈ lw_all := lw_g (lw_at lw_m7 113 rfl) rfl
theorem q1647 : (Jvm.Cond.code ({ cls := "WhalingLogs$Reader", name := "word", desc := "()Ljava/lang/String;" } : Jvm.MethodName) prog_12_method_9_code (2 : Nat) (Option.some (Jvm.ClassFile.FieldType.object "java/lang/String"))) ∈ lw_all := lw_g (lw_at lw_m7 114 rfl) rfl
theorem q1648 : (Jvm.Cond.classLink "WhalingLogs$Reader" (61 : Nat) "java/lang/StringBuilder") ∈ lw_all := lw_g (lw_at lw_m7 115 rfl) rfl
theorem q1649 : (Jvm.Cond.methodLink "WhalingLogs$Reader" (63 : Nat) ({ cls := "java/lang/StringBuilder", name := "<init>", desc := "()V" } : Jvm.MethodName)) ∈ lw_all := lw_g (lw_at lw_m7 116 rfl) rfl
theorem q1650 : (Jvm.Cond.methodLink "WhalingLogs$Reader" (33 : Nat) ({ cls := "WhalingLogs$Reader", name := "here", desc := "()I" } : Jvm.MethodName)) ∈ lw_all := lw_g (lw_at lw_m7 117 rfl) rfl
theorem q1651 : (Jvm.Cond.privateMethod ({ cls := "WhalingLogs$Reader", name := "here", desc := "()I" } : Jvm.MethodName)) ∈ lw_tbl := lw_at lw_m7 118 rfl
theorem q1652 : (Jvm.Cond.instanceMethod ({ cls := "WhalingLogs$Reader", name := "here", desc := "()I" } : Jvm.MethodName)) ∈ lw_all := lw_g (lw_at lw_m7 119 rfl) rfl
theorem q1653 : (Jvm.Cond.code ({ cls := "WhalingLogs$Reader", name := "here", desc := "()I" } : Jvm.MethodName) prog_12_method_2_code (1 : Nat) (Option.some Jvm.ClassFile.FieldType.int)) ∈ lw_all := lw_g (lw_at lw_m7 120 rfl) rfl
theorem q1654 : (Jvm.Cond.interfaceEntry "WhalingLogs$Reader" (23 : Nat)) ∈ lw_tbl := lw_at lw_m7 121 rfl
theorem q1655 : (Jvm.Cond.methodLink "WhalingLogs$Reader" (23 : Nat) ({ cls := "java/lang/CharSequence", name := "length", desc := "()I" } : Jvm.MethodName)) ∈ lw_all := lw_g (lw_at lw_m7 122 rfl) rfl
theorem q1666 : (Jvm.Cond.interfaceEntry "WhalingLogs$Reader" (29 : Nat)) ∈ lw_tbl := lw_at lw_m7 133 rfl
theorem q1667 : (Jvm.Cond.methodLink "WhalingLogs$Reader" (29 : Nat) ({ cls := "java/lang/CharSequence", name := "charAt", desc := "(I)C" } : Jvm.MethodName)) ∈ lw_all := lw_g (lw_at lw_m7 134 rfl) rfl
theorem q1697 : (Jvm.Cond.methodLinkNest "WhalingLogs$Reader" (41 : Nat) ({ cls := "WhalingLogs", name := "isIn", desc := "(III)Z" } : Jvm.MethodName) "WhalingLogs") ∈ lw_tbl := lw_at lw_m7 164 rfl
theorem q1698 : (Jvm.Cond.methodLink "WhalingLogs$Reader" (64 : Nat) ({ cls := "java/lang/StringBuilder", name := "append", desc := "(C)Ljava/lang/StringBuilder;" } : Jvm.MethodName)) ∈ lw_all := lw_g (lw_at lw_m7 165 rfl) rfl
theorem q1699 : (Jvm.Cond.methodLink "WhalingLogs$Reader" (68 : Nat) ({ cls := "java/lang/StringBuilder", name := "toString", desc := "()Ljava/lang/String;" } : Jvm.MethodName)) ∈ lw_all := lw_g (lw_at lw_m7 166 rfl) rfl
theorem q1700 : (Jvm.Cond.methodLink "WhalingLogs$Reader" (102 : Nat) ({ cls := "java/lang/String", name := "hashCode", desc := "()I" } : Jvm.MethodName)) ∈ lw_all := lw_g (lw_at lw_m7 167 rfl) rfl
theorem q1749 : (Jvm.Cond.stringRef "WhalingLogs$Reader" (107 : Nat) "land") ∈ lw_tbl := lw_at lw_m7 216 rfl
theorem q1750 : (Jvm.Cond.methodLink "WhalingLogs$Reader" (109 : Nat) ({ cls := "java/lang/String", name := "equals", desc := "(Ljava/lang/Object;)Z" } : Jvm.MethodName)) ∈ lw_all := lw_g (lw_at lw_m7 217 rfl) rfl
theorem q1758 : (Jvm.Cond.stringRef "WhalingLogs$Reader" (113 : Nat) "sea") ∈ lw_tbl := lw_at lw_m7 225 rfl
theorem q1759 : (Jvm.Cond.stringRef "WhalingLogs$Reader" (115 : Nat) "speed") ∈ lw_tbl := lw_at lw_m7 226 rfl
theorem q1760 : (Jvm.Cond.stringRef "WhalingLogs$Reader" (117 : Nat) "page") ∈ lw_tbl := lw_at lw_m7 227 rfl
theorem q1761 : (Jvm.Cond.stringRef "WhalingLogs$Reader" (119 : Nat) "entry") ∈ lw_tbl := lw_at lw_m7 228 rfl
theorem q1762 : (Jvm.Cond.stringRef "WhalingLogs$Reader" (121 : Nat) "read") ∈ lw_tbl := lw_at lw_m7 229 rfl
theorem q1763 : (Jvm.Cond.stringRef "WhalingLogs$Reader" (123 : Nat) "strike") ∈ lw_tbl := lw_at lw_m7 230 rfl
theorem q1764 : (Jvm.Cond.stringRef "WhalingLogs$Reader" (125 : Nat) "blame") ∈ lw_tbl := lw_at lw_m7 231 rfl
theorem q1765 : (Jvm.Cond.methodLink "WhalingLogs$Reader" (127 : Nat) ({ cls := "WhalingLogs$Reader", name := "cellOrder", desc := "(Z)LWhalingLogs$Order;" } : Jvm.MethodName)) ∈ lw_all := lw_g (lw_at lw_m7 232 rfl) rfl
theorem q1766 : (Jvm.Cond.privateMethod ({ cls := "WhalingLogs$Reader", name := "cellOrder", desc := "(Z)LWhalingLogs$Order;" } : Jvm.MethodName)) ∈ lw_tbl := lw_at lw_m7 233 rfl
theorem q1767 : (Jvm.Cond.instanceMethod ({ cls := "WhalingLogs$Reader", name := "cellOrder", desc := "(Z)LWhalingLogs$Order;" } : Jvm.MethodName)) ∈ lw_all := lw_g (lw_at lw_m7 234 rfl) rfl
theorem q1768 : (Jvm.Cond.code ({ cls := "WhalingLogs$Reader", name := "cellOrder", desc := "(Z)LWhalingLogs$Order;" } : Jvm.MethodName) prog_12_method_10_code (3 : Nat) (Option.some (Jvm.ClassFile.FieldType.object "WhalingLogs$Order"))) ∈ lw_all := lw_g (lw_at lw_m7 235 rfl) rfl
theorem q1769 : (Jvm.Cond.methodLink "WhalingLogs$Reader" (72 : Nat) ({ cls := "WhalingLogs$Reader", name := "column", desc := "()I" } : Jvm.MethodName)) ∈ lw_all := lw_g (lw_at lw_m7 236 rfl) rfl
theorem q1770 : (Jvm.Cond.privateMethod ({ cls := "WhalingLogs$Reader", name := "column", desc := "()I" } : Jvm.MethodName)) ∈ lw_tbl := lw_at lw_m7 237 rfl
theorem q1771 : (Jvm.Cond.instanceMethod ({ cls := "WhalingLogs$Reader", name := "column", desc := "()I" } : Jvm.MethodName)) ∈ lw_all := lw_g (lw_at lw_m7 238 rfl) rfl
theorem q1772 : (Jvm.Cond.code ({ cls := "WhalingLogs$Reader", name := "column", desc := "()I" } : Jvm.MethodName) prog_12_method_8_code (1 : Nat) (Option.some Jvm.ClassFile.FieldType.int)) ∈ lw_all := lw_g (lw_at lw_m7 239 rfl) rfl
theorem q1773 : (Jvm.Cond.methodLink "WhalingLogs$Reader" (45 : Nat) ({ cls := "WhalingLogs$Reader", name := "takes", desc := "(I)Z" } : Jvm.MethodName)) ∈ lw_all := lw_g (lw_at lw_m8 0 rfl) rfl
theorem q1774 : (Jvm.Cond.privateMethod ({ cls := "WhalingLogs$Reader", name := "takes", desc := "(I)Z" } : Jvm.MethodName)) ∈ lw_tbl := lw_at lw_m8 1 rfl
theorem q1775 : (Jvm.Cond.instanceMethod ({ cls := "WhalingLogs$Reader", name := "takes", desc := "(I)Z" } : Jvm.MethodName)) ∈ lw_all := lw_g (lw_at lw_m8 2 rfl) rfl
theorem q1776 : (Jvm.Cond.code ({ cls := "WhalingLogs$Reader", name := "takes", desc := "(I)Z" } : Jvm.MethodName) prog_12_method_3_code (3 : Nat) (Option.some Jvm.ClassFile.FieldType.boolean)) ∈ lw_all := lw_g (lw_at lw_m8 3 rfl) rfl
theorem q1777 : (Jvm.Cond.methodLink "WhalingLogs$Reader" (49 : Nat) ({ cls := "WhalingLogs$Reader", name := "needs", desc := "(Z)V" } : Jvm.MethodName)) ∈ lw_all := lw_g (lw_at lw_m8 4 rfl) rfl
theorem q1778 : (Jvm.Cond.privateMethod ({ cls := "WhalingLogs$Reader", name := "needs", desc := "(Z)V" } : Jvm.MethodName)) ∈ lw_tbl := lw_at lw_m8 5 rfl
theorem q1779 : (Jvm.Cond.instanceMethod ({ cls := "WhalingLogs$Reader", name := "needs", desc := "(Z)V" } : Jvm.MethodName)) ∈ lw_all := lw_g (lw_at lw_m8 6 rfl) rfl
theorem q1780 : (Jvm.Cond.code ({ cls := "WhalingLogs$Reader", name := "needs", desc := "(Z)V" } : Jvm.MethodName) prog_12_method_4_code (2 : Nat) (Option.none : Option Jvm.ClassFile.FieldType)) ∈ lw_all := lw_g (lw_at lw_m8 7 rfl) rfl
theorem q1781 : (Jvm.Cond.classLink "WhalingLogs$Reader" (36 : Nat) "WhalingLogs$Wrong") ∈ lw_all := lw_g (lw_at lw_m8 8 rfl) rfl
theorem q1790 : (Jvm.Cond.methodLink "WhalingLogs$Reader" (38 : Nat) ({ cls := "WhalingLogs$Wrong", name := "<init>", desc := "(I)V" } : Jvm.MethodName)) ∈ lw_all := lw_g (lw_at lw_m8 17 rfl) rfl
theorem q1800 : (Jvm.Cond.classLink "WhalingLogs$Reader" (75 : Nat) "WhalingLogs$CellOrder") ∈ lw_all := lw_g (lw_at lw_m8 27 rfl) rfl
theorem q1802 : (Jvm.Cond.methodLink "WhalingLogs$Reader" (53 : Nat) ({ cls := "WhalingLogs$Reader", name := "digits", desc := "(I)I" } : Jvm.MethodName)) ∈ lw_all := lw_g (lw_at lw_m8 29 rfl) rfl
theorem q1803 : (Jvm.Cond.privateMethod ({ cls := "WhalingLogs$Reader", name := "digits", desc := "(I)I" } : Jvm.MethodName)) ∈ lw_tbl := lw_at lw_m8 30 rfl
theorem q1804 : (Jvm.Cond.instanceMethod ({ cls := "WhalingLogs$Reader", name := "digits", desc := "(I)I" } : Jvm.MethodName)) ∈ lw_all := lw_g (lw_at lw_m8 31 rfl) rfl
theorem q1805 : (Jvm.Cond.code ({ cls := "WhalingLogs$Reader", name := "digits", desc := "(I)I" } : Jvm.MethodName) prog_12_method_7_code (4 : Nat) (Option.some Jvm.ClassFile.FieldType.int)) ∈ lw_all := lw_g (lw_at lw_m8 32 rfl) rfl
theorem q1806 : (Jvm.Cond.methodLink "WhalingLogs$Reader" (57 : Nat) ({ cls := "WhalingLogs$Reader", name := "isDigit", desc := "()Z" } : Jvm.MethodName)) ∈ lw_all := lw_g (lw_at lw_m8 33 rfl) rfl
theorem q1807 : (Jvm.Cond.privateMethod ({ cls := "WhalingLogs$Reader", name := "isDigit", desc := "()Z" } : Jvm.MethodName)) ∈ lw_tbl := lw_at lw_m8 34 rfl
theorem q1808 : (Jvm.Cond.instanceMethod ({ cls := "WhalingLogs$Reader", name := "isDigit", desc := "()Z" } : Jvm.MethodName)) ∈ lw_all := lw_g (lw_at lw_m8 35 rfl) rfl
theorem q1809 : (Jvm.Cond.code ({ cls := "WhalingLogs$Reader", name := "isDigit", desc := "()Z" } : Jvm.MethodName) prog_12_method_5_code (1 : Nat) (Option.some Jvm.ClassFile.FieldType.boolean)) ∈ lw_all := lw_g (lw_at lw_m8 36 rfl) rfl
theorem q1810 : (Jvm.Cond.methodLink "WhalingLogs$Reader" (77 : Nat) ({ cls := "WhalingLogs$CellOrder", name := "<init>", desc := "(LWhalingLogs;ZII)V" } : Jvm.MethodName)) ∈ lw_all := lw_g (lw_at lw_m8 37 rfl) rfl
theorem q1827 : (Jvm.Cond.classLink "WhalingLogs$Reader" (131 : Nat) "WhalingLogs$SpeedOrder") ∈ lw_all := lw_g (lw_at lw_m8 54 rfl) rfl
theorem q1829 : (Jvm.Cond.methodLink "WhalingLogs$Reader" (80 : Nat) ({ cls := "WhalingLogs$Reader", name := "number", desc := "(I)I" } : Jvm.MethodName)) ∈ lw_all := lw_g (lw_at lw_m8 56 rfl) rfl
theorem q1830 : (Jvm.Cond.privateMethod ({ cls := "WhalingLogs$Reader", name := "number", desc := "(I)I" } : Jvm.MethodName)) ∈ lw_tbl := lw_at lw_m8 57 rfl
theorem q1831 : (Jvm.Cond.instanceMethod ({ cls := "WhalingLogs$Reader", name := "number", desc := "(I)I" } : Jvm.MethodName)) ∈ lw_all := lw_g (lw_at lw_m8 58 rfl) rfl
theorem q1832 : (Jvm.Cond.code ({ cls := "WhalingLogs$Reader", name := "number", desc := "(I)I" } : Jvm.MethodName) prog_12_method_6_code (2 : Nat) (Option.some Jvm.ClassFile.FieldType.int)) ∈ lw_all := lw_g (lw_at lw_m8 59 rfl) rfl
theorem q1833 : (Jvm.Cond.methodLink "WhalingLogs$Reader" (133 : Nat) ({ cls := "WhalingLogs$SpeedOrder", name := "<init>", desc := "(I)V" } : Jvm.MethodName)) ∈ lw_all := lw_g (lw_at lw_m8 60 rfl) rfl
theorem q1841 : (Jvm.Cond.methodLink "WhalingLogs$Reader" (134 : Nat) ({ cls := "WhalingLogs$Reader", name := "pageOrder", desc := "()LWhalingLogs$Order;" } : Jvm.MethodName)) ∈ lw_all := lw_g (lw_at lw_m8 68 rfl) rfl
theorem q1842 : (Jvm.Cond.privateMethod ({ cls := "WhalingLogs$Reader", name := "pageOrder", desc := "()LWhalingLogs$Order;" } : Jvm.MethodName)) ∈ lw_tbl := lw_at lw_m8 69 rfl
theorem q1843 : (Jvm.Cond.instanceMethod ({ cls := "WhalingLogs$Reader", name := "pageOrder", desc := "()LWhalingLogs$Order;" } : Jvm.MethodName)) ∈ lw_all := lw_g (lw_at lw_m8 70 rfl) rfl
theorem q1844 : (Jvm.Cond.code ({ cls := "WhalingLogs$Reader", name := "pageOrder", desc := "()LWhalingLogs$Order;" } : Jvm.MethodName) prog_12_method_11_code (2 : Nat) (Option.some (Jvm.ClassFile.FieldType.object "WhalingLogs$Order"))) ∈ lw_all := lw_g (lw_at lw_m8 71 rfl) rfl
theorem q1845 : (Jvm.Cond.classLink "WhalingLogs$Reader" (83 : Nat) "WhalingLogs$PageOrder") ∈ lw_all := lw_g (lw_at lw_m8 72 rfl) rfl
theorem q1847 : (Jvm.Cond.methodLink "WhalingLogs$Reader" (85 : Nat) ({ cls := "WhalingLogs$PageOrder", name := "<init>", desc := "(II)V" } : Jvm.MethodName)) ∈ lw_all := lw_g (lw_at lw_m8 74 rfl) rfl
theorem q1858 : (Jvm.Cond.methodLink "WhalingLogs$Reader" (138 : Nat) ({ cls := "WhalingLogs$Reader", name := "entryOrder", desc := "()LWhalingLogs$Order;" } : Jvm.MethodName)) ∈ lw_all := lw_g (lw_at lw_m8 85 rfl) rfl
theorem q1859 : (Jvm.Cond.privateMethod ({ cls := "WhalingLogs$Reader", name := "entryOrder", desc := "()LWhalingLogs$Order;" } : Jvm.MethodName)) ∈ lw_tbl := lw_at lw_m8 86 rfl
theorem q1860 : (Jvm.Cond.instanceMethod ({ cls := "WhalingLogs$Reader", name := "entryOrder", desc := "()LWhalingLogs$Order;" } : Jvm.MethodName)) ∈ lw_all := lw_g (lw_at lw_m8 87 rfl) rfl
theorem q1861 : (Jvm.Cond.code ({ cls := "WhalingLogs$Reader", name := "entryOrder", desc := "()LWhalingLogs$Order;" } : Jvm.MethodName) prog_12_method_12_code (5 : Nat) (Option.some (Jvm.ClassFile.FieldType.object "WhalingLogs$Order"))) ∈ lw_all := lw_g (lw_at lw_m8 88 rfl) rfl
theorem q1862 : (Jvm.Cond.classLink "WhalingLogs$Reader" (88 : Nat) "WhalingLogs$EntryOrder") ∈ lw_all := lw_g (lw_at lw_m8 89 rfl) rfl
theorem q1864 : (Jvm.Cond.methodLink "WhalingLogs$Reader" (90 : Nat) ({ cls := "WhalingLogs$EntryOrder", name := "<init>", desc := "(IIIII)V" } : Jvm.MethodName)) ∈ lw_all := lw_g (lw_at lw_m8 91 rfl) rfl
theorem q1884 : (Jvm.Cond.methodLink "WhalingLogs$Reader" (141 : Nat) ({ cls := "WhalingLogs$Reader", name := "readOrder", desc := "()LWhalingLogs$Order;" } : Jvm.MethodName)) ∈ lw_all := lw_g (lw_at lw_m8 111 rfl) rfl
theorem q1885 : (Jvm.Cond.privateMethod ({ cls := "WhalingLogs$Reader", name := "readOrder", desc := "()LWhalingLogs$Order;" } : Jvm.MethodName)) ∈ lw_tbl := lw_at lw_m8 112 rfl
theorem q1886 : (Jvm.Cond.instanceMethod ({ cls := "WhalingLogs$Reader", name := "readOrder", desc := "()LWhalingLogs$Order;" } : Jvm.MethodName)) ∈ lw_all := lw_g (lw_at lw_m8 113 rfl) rfl
theorem q1887 : (Jvm.Cond.code ({ cls := "WhalingLogs$Reader", name := "readOrder", desc := "()LWhalingLogs$Order;" } : Jvm.MethodName) prog_12_method_13_code (2 : Nat) (Option.some (Jvm.ClassFile.FieldType.object "WhalingLogs$Order"))) ∈ lw_all := lw_g (lw_at lw_m8 114 rfl) rfl
theorem q1888 : (Jvm.Cond.classLink "WhalingLogs$Reader" (93 : Nat) "WhalingLogs$ReadOrder") ∈ lw_all := lw_g (lw_at lw_m8 115 rfl) rfl
theorem q1890 : (Jvm.Cond.methodLink "WhalingLogs$Reader" (95 : Nat) ({ cls := "WhalingLogs$ReadOrder", name := "<init>", desc := "(II)V" } : Jvm.MethodName)) ∈ lw_all := lw_g (lw_at lw_m8 117 rfl) rfl
theorem q1901 : (Jvm.Cond.methodLink "WhalingLogs$Reader" (144 : Nat) ({ cls := "WhalingLogs$Reader", name := "strikeOrder", desc := "()LWhalingLogs$Order;" } : Jvm.MethodName)) ∈ lw_all := lw_g (lw_at lw_m8 128 rfl) rfl
theorem q1902 : (Jvm.Cond.privateMethod ({ cls := "WhalingLogs$Reader", name := "strikeOrder", desc := "()LWhalingLogs$Order;" } : Jvm.MethodName)) ∈ lw_tbl := lw_at lw_m8 129 rfl
theorem q1903 : (Jvm.Cond.instanceMethod ({ cls := "WhalingLogs$Reader", name := "strikeOrder", desc := "()LWhalingLogs$Order;" } : Jvm.MethodName)) ∈ lw_all := lw_g (lw_at lw_m8 130 rfl) rfl
theorem q1904 : (Jvm.Cond.code ({ cls := "WhalingLogs$Reader", name := "strikeOrder", desc := "()LWhalingLogs$Order;" } : Jvm.MethodName) prog_12_method_14_code (2 : Nat) (Option.some (Jvm.ClassFile.FieldType.object "WhalingLogs$Order"))) ∈ lw_all := lw_g (lw_at lw_m8 131 rfl) rfl
theorem q1905 : (Jvm.Cond.classLink "WhalingLogs$Reader" (96 : Nat) "WhalingLogs$StrikeOrder") ∈ lw_all := lw_g (lw_at lw_m8 132 rfl) rfl
theorem q1907 : (Jvm.Cond.methodLink "WhalingLogs$Reader" (98 : Nat) ({ cls := "WhalingLogs$StrikeOrder", name := "<init>", desc := "(II)V" } : Jvm.MethodName)) ∈ lw_all := lw_g (lw_at lw_m8 134 rfl) rfl
theorem q1918 : (Jvm.Cond.classLink "WhalingLogs$Reader" (147 : Nat) "WhalingLogs$BlameOrder") ∈ lw_all := lw_g (lw_at lw_m8 145 rfl) rfl
theorem q1920 : (Jvm.Cond.methodLink "WhalingLogs$Reader" (149 : Nat) ({ cls := "WhalingLogs$BlameOrder", name := "<init>", desc := "(I)V" } : Jvm.MethodName)) ∈ lw_all := lw_g (lw_at lw_m8 147 rfl) rfl
theorem q1928 : (Jvm.Cond.methodLink "WhalingLogs$Reader" (156 : Nat) ({ cls := "java/util/LinkedList", name := "addLast", desc := "(Ljava/lang/Object;)V" } : Jvm.MethodName)) ∈ lw_all := lw_g (lw_at lw_m8 155 rfl) rfl
theorem q2623 : (Jvm.Cond.castable "WhalingLogs$Reader" "java/lang/Object") ∈ lw_tbl := lw_at lw_m11 130 rfl
theorem in_X8 : ∀ w ∈ wsX80, w ∈ lw_all := lw_in wsX80 [1627, 1629, 1631] (by decide +kernel) (by decide +kernel)
/-! WhalingLogs$Wrong -/
set_option maxRecDepth 100000
def RX9 : String := "WhalingLogs$Wrong"
def TX9 : u_T := fun k => match k with
  | 0 => ("java/lang/Throwable", "cause", "Ljava/lang/Throwable;", false)
  | 1 => ("java/lang/Throwable", "stackTrace", "[Ljava/lang/StackTraceElement;", false)
  | 2 => ("java/lang/Throwable", "suppressedExceptions", "Ljava/util/List;", false)
  | 3 => ("java/lang/Throwable", "detailMessage", "Ljava/lang/String;", false)
  | 4 => ("java/lang/Throwable", "backtrace", "Ljava/lang/Object;", false)
  | 5 => ("java/lang/Throwable", "depth", "I", false)
  | _ => ("WhalingLogs$Wrong", "at", "I", true)
def tyX9 : Nat → FieldType := fun k => match k with
  | 0 => .object "java/lang/Throwable"
  | 1 => .array (.object "java/lang/StackTraceElement")
  | 2 => .object "java/util/List"
  | 3 => .object "java/lang/String"
  | 4 => .object "java/lang/Object"
  | 5 => .int
  | _ => .int
abbrev wsX90 : List Cond := u_ws RX9 TX9 7
theorem nmX9 : ∀ a, a < 7 → ∀ b, b < 7 → a ≠ b → (TX9 a).2.1 ≠ (TX9 b).2.1 := by decide +kernel
theorem tyX9_ok : ∀ k, k < 7 → parseFieldDescriptor (TX9 k).2.2.1 = some (tyX9 k) := by decide +kernel
abbrev cX9_init : ByteArray := prog_18_method_1_code
def yX9_init : MethodName := ⟨RX9, "<init>", "(I)V"⟩
def dkwX9_init_0 : List UInt8 := [42, 1, 1, 3, 3, 183, 0, 1, 42, 27, 181, 0, 7, 177]
abbrev dktX9_init_0 : List UInt8 := dkwX9_init_0 ++ []
theorem dksX9_init_0 : cX9_init.data.toList.drop 0 = dktX9_init_0 := by decide +kernel
theorem dX9_init_0 : decode cX9_init 0 = .ok (.aload_n 0, 1) := dk_42 (dk_at dksX9_init_0 0 rfl rfl)
theorem dX9_init_1 : decode cX9_init 1 = .ok (.aconst_null, 1) := dk_1 (dk_at dksX9_init_0 1 rfl rfl)
theorem dX9_init_2 : decode cX9_init 2 = .ok (.aconst_null, 1) := dk_1 (dk_at dksX9_init_0 2 rfl rfl)
theorem dX9_init_3 : decode cX9_init 3 = .ok (.iconst 0, 1) := dk_3 (dk_at dksX9_init_0 3 rfl rfl)
theorem dX9_init_4 : decode cX9_init 4 = .ok (.iconst 0, 1) := dk_3 (dk_at dksX9_init_0 4 rfl rfl)
theorem dX9_init_5 : decode cX9_init 5 = .ok (.invokespecial 1, 3) := dk_183 0 1 (dk_at dksX9_init_0 5 rfl rfl)
theorem dX9_init_8 : decode cX9_init 8 = .ok (.aload_n 0, 1) := dk_42 (dk_at dksX9_init_0 8 rfl rfl)
theorem dX9_init_9 : decode cX9_init 9 = .ok (.iload_n 1, 1) := dk_27 (dk_at dksX9_init_0 9 rfl rfl)
theorem dX9_init_10 : decode cX9_init 10 = .ok (.putfield 7, 3) := dk_181 0 7 (dk_at dksX9_init_0 10 rfl rfl)
theorem dX9_init_13 : decode cX9_init 13 = .ok (.return_, 1) := dk_177 (dk_at dksX9_init_0 13 rfl rfl)
theorem q134 : (Jvm.Cond.initialized "WhalingLogs$Wrong") ∈ lw_all := lw_g (lw_at lw_m1 41 rfl) rfl
theorem q641 : (Jvm.Cond.selects "WhalingLogs$Wrong" ({ cls := "java/lang/Throwable", name := "fillInStackTrace", desc := "()Ljava/lang/Throwable;" } : Jvm.MethodName) ({ cls := "java/lang/Throwable", name := "fillInStackTrace", desc := "()Ljava/lang/Throwable;" } : Jvm.MethodName)) ∈ lw_all := lw_g (lw_at lw_m3 68 rfl) rfl
theorem q664 : (Jvm.Cond.selects "WhalingLogs$Wrong" ({ cls := "java/lang/Throwable", name := "toString", desc := "()Ljava/lang/String;" } : Jvm.MethodName) ({ cls := "java/lang/Throwable", name := "toString", desc := "()Ljava/lang/String;" } : Jvm.MethodName)) ∈ lw_all := lw_g (lw_at lw_m3 91 rfl) rfl
theorem q685 : (Jvm.Cond.selects "WhalingLogs$Wrong" ({ cls := "java/lang/Object", name := "getClass", desc := "()Ljava/lang/Class;" } : Jvm.MethodName) ({ cls := "java/lang/Object", name := "getClass", desc := "()Ljava/lang/Class;" } : Jvm.MethodName)) ∈ lw_all := lw_g (lw_at lw_m3 112 rfl) rfl
theorem q705 : (Jvm.Cond.selects "WhalingLogs$Wrong" ({ cls := "java/lang/Throwable", name := "getLocalizedMessage", desc := "()Ljava/lang/String;" } : Jvm.MethodName) ({ cls := "java/lang/Throwable", name := "getLocalizedMessage", desc := "()Ljava/lang/String;" } : Jvm.MethodName)) ∈ lw_all := lw_g (lw_at lw_m3 132 rfl) rfl
theorem q712 : (Jvm.Cond.selects "WhalingLogs$Wrong" ({ cls := "java/lang/Throwable", name := "getMessage", desc := "()Ljava/lang/String;" } : Jvm.MethodName) ({ cls := "java/lang/Throwable", name := "getMessage", desc := "()Ljava/lang/String;" } : Jvm.MethodName)) ∈ lw_all := lw_g (lw_at lw_m3 139 rfl) rfl
theorem q1782 : (Jvm.Cond.instantiable "WhalingLogs$Wrong" (7 : Nat)) ∈ lw_all := lw_g (lw_at lw_m8 9 rfl) rfl
theorem q1783 : (Jvm.Cond.castable "WhalingLogs$Wrong" "WhalingLogs$Wrong") ∈ lw_tbl := lw_at lw_m8 10 rfl
theorem q1784 : (Jvm.Cond.selects "WhalingLogs$Wrong" ({ cls := "java/lang/Throwable", name := "fillInStackTrace", desc := "(I)Ljava/lang/Throwable;" } : Jvm.MethodName) ({ cls := "java/lang/Throwable", name := "fillInStackTrace", desc := "(I)Ljava/lang/Throwable;" } : Jvm.MethodName)) ∈ lw_all := lw_g (lw_at lw_m8 11 rfl) rfl
theorem q1785 : (Jvm.Cond.lays "WhalingLogs$Wrong" "java/lang/Throwable" "cause" "Ljava/lang/Throwable;") ∈ lw_all := lw_g (lw_at lw_m8 12 rfl) rfl
theorem q1786 : (Jvm.Cond.lays "WhalingLogs$Wrong" "java/lang/Throwable" "stackTrace" "[Ljava/lang/StackTraceElement;") ∈ lw_all := lw_g (lw_at lw_m8 13 rfl) rfl
theorem q1787 : (Jvm.Cond.lays "WhalingLogs$Wrong" "java/lang/Throwable" "suppressedExceptions" "Ljava/util/List;") ∈ lw_all := lw_g (lw_at lw_m8 14 rfl) rfl
theorem q1788 : (Jvm.Cond.lays "WhalingLogs$Wrong" "java/lang/Throwable" "detailMessage" "Ljava/lang/String;") ∈ lw_all := lw_g (lw_at lw_m8 15 rfl) rfl
theorem q1789 : (Jvm.Cond.lays "WhalingLogs$Wrong" "java/lang/Throwable" "backtrace" "Ljava/lang/Object;") ∈ lw_all := lw_g (lw_at lw_m8 16 rfl) rfl
theorem q1791 : (Jvm.Cond.instanceMethod ({ cls := "WhalingLogs$Wrong", name := "<init>", desc := "(I)V" } : Jvm.MethodName)) ∈ lw_all := lw_g (lw_at lw_m8 18 rfl) rfl
theorem q1792 : (Jvm.Cond.code ({ cls := "WhalingLogs$Wrong", name := "<init>", desc := "(I)V" } : Jvm.MethodName) prog_18_method_1_code (2 : Nat) (Option.none : Option Jvm.ClassFile.FieldType)) ∈ lw_all := lw_g (lw_at lw_m8 19 rfl) rfl
theorem q1793 : (Jvm.Cond.methodLink "WhalingLogs$Wrong" (1 : Nat) ({ cls := "java/lang/Exception", name := "<init>", desc := "(Ljava/lang/String;Ljava/lang/Throwable;ZZ)V" } : Jvm.MethodName)) ∈ lw_all := lw_g (lw_at lw_m8 20 rfl) rfl
theorem q1794 : (Jvm.Cond.fieldLink "WhalingLogs$Wrong" (7 : Nat) "WhalingLogs$Wrong" "at" "I") ∈ lw_all := lw_g (lw_at lw_m8 21 rfl) rfl
theorem q1796 : (Jvm.Cond.laysFinal "WhalingLogs$Wrong" "WhalingLogs$Wrong" "at" "I") ∈ lw_all := lw_g (lw_at lw_m8 23 rfl) rfl
theorem q1797 : (Jvm.Cond.soleField "WhalingLogs$Wrong" "at") ∈ lw_all := lw_g (lw_at lw_m8 24 rfl) rfl
theorem q1798 : (Jvm.Cond.lays "WhalingLogs$Wrong" "java/lang/Throwable" "depth" "I") ∈ lw_all := lw_g (lw_at lw_m8 25 rfl) rfl
theorem q1799 : (Jvm.Cond.superclass "WhalingLogs$Wrong" "java/lang/Exception") ∈ lw_all := lw_g (lw_at lw_m8 26 rfl) rfl
theorem q2625 : (Jvm.Cond.castable "WhalingLogs$Wrong" "java/lang/Object") ∈ lw_tbl := lw_at lw_m11 132 rfl
theorem in_X9 : ∀ w ∈ wsX90, w ∈ lw_all := lw_in wsX90 [1785, 1786, 1787, 1788, 1789, 1798, 1796] (by decide +kernel) (by decide +kernel)
/-! WhalingLogs$CellOrder -/
set_option maxRecDepth 100000
def RX10 : String := "WhalingLogs$CellOrder"
def TX10 : u_T := fun k => match k with
  | 0 => ("WhalingLogs$CellOrder", "isLand", "Z", true)
  | 1 => ("WhalingLogs$CellOrder", "column", "I", true)
  | 2 => ("WhalingLogs$CellOrder", "row", "I", true)
  | _ => ("WhalingLogs$CellOrder", "this$0", "LWhalingLogs;", true)
def tyX10 : Nat → FieldType := fun k => match k with
  | 0 => .boolean
  | 1 => .int
  | 2 => .int
  | _ => .object "WhalingLogs"
abbrev wsX100 : List Cond := u_ws RX10 TX10 4
theorem nmX10 : ∀ a, a < 4 → ∀ b, b < 4 → a ≠ b → (TX10 a).2.1 ≠ (TX10 b).2.1 := by decide +kernel
theorem tyX10_ok : ∀ k, k < 4 → parseFieldDescriptor (TX10 k).2.2.1 = some (tyX10 k) := by decide +kernel
abbrev cX10_init : ByteArray := prog_4_method_1_code
def yX10_init : MethodName := ⟨RX10, "<init>", "(LWhalingLogs;ZII)V"⟩
def dkwX10_init_1 : List UInt8 := [181, 0, 23, 177]
abbrev dktX10_init_1 : List UInt8 := dkwX10_init_1 ++ []
def dkwX10_init_0 : List UInt8 := [42, 43, 181, 0, 3, 42, 183, 0, 9, 42, 28, 181, 0, 15, 42, 29, 181, 0, 19, 42, 21, 4]
abbrev dktX10_init_0 : List UInt8 := dkwX10_init_0 ++ dktX10_init_1
theorem dksX10_init_0 : cX10_init.data.toList.drop 0 = dktX10_init_0 := by decide +kernel
theorem dksX10_init_1 : cX10_init.data.toList.drop 22 = dktX10_init_1 := dk_seg dksX10_init_0 22 rfl rfl
theorem dX10_init_0 : decode cX10_init 0 = .ok (.aload_n 0, 1) := dk_42 (dk_at dksX10_init_0 0 rfl rfl)
theorem dX10_init_1 : decode cX10_init 1 = .ok (.aload_n 1, 1) := dk_43 (dk_at dksX10_init_0 1 rfl rfl)
theorem dX10_init_2 : decode cX10_init 2 = .ok (.putfield 3, 3) := dk_181 0 3 (dk_at dksX10_init_0 2 rfl rfl)
theorem dX10_init_5 : decode cX10_init 5 = .ok (.aload_n 0, 1) := dk_42 (dk_at dksX10_init_0 5 rfl rfl)
theorem dX10_init_6 : decode cX10_init 6 = .ok (.invokespecial 9, 3) := dk_183 0 9 (dk_at dksX10_init_0 6 rfl rfl)
theorem dX10_init_9 : decode cX10_init 9 = .ok (.aload_n 0, 1) := dk_42 (dk_at dksX10_init_0 9 rfl rfl)
theorem dX10_init_10 : decode cX10_init 10 = .ok (.iload_n 2, 1) := dk_28 (dk_at dksX10_init_0 10 rfl rfl)
theorem dX10_init_11 : decode cX10_init 11 = .ok (.putfield 15, 3) := dk_181 0 15 (dk_at dksX10_init_0 11 rfl rfl)
theorem dX10_init_14 : decode cX10_init 14 = .ok (.aload_n 0, 1) := dk_42 (dk_at dksX10_init_0 14 rfl rfl)
theorem dX10_init_15 : decode cX10_init 15 = .ok (.iload_n 3, 1) := dk_29 (dk_at dksX10_init_0 15 rfl rfl)
theorem dX10_init_16 : decode cX10_init 16 = .ok (.putfield 19, 3) := dk_181 0 19 (dk_at dksX10_init_0 16 rfl rfl)
theorem dX10_init_19 : decode cX10_init 19 = .ok (.aload_n 0, 1) := dk_42 (dk_at dksX10_init_0 19 rfl rfl)
theorem dX10_init_20 : decode cX10_init 20 = .ok (.iload 4, 2) := dk_21 4 (dk_at dksX10_init_0 20 rfl rfl)
theorem dX10_init_22 : decode cX10_init 22 = .ok (.putfield 23, 3) := dk_181 0 23 (dk_at dksX10_init_1 0 rfl rfl)
theorem dX10_init_25 : decode cX10_init 25 = .ok (.return_, 1) := dk_177 (dk_at dksX10_init_1 3 rfl rfl)
abbrev cX10_does : ByteArray := prog_4_method_2_code
def yX10_does : MethodName := ⟨RX10, "does", "(LWhalingLogs$Archive;)V"⟩
def dkwX10_does_1 : List UInt8 := [180, 0, 19, 96, 42, 180, 0, 15, 182, 0, 32, 61, 177]
abbrev dktX10_does_1 : List UInt8 := dkwX10_does_1 ++ []
def dkwX10_does_0 : List UInt8 := [42, 180, 0, 23, 3, 16, 11, 184, 0, 26, 42, 180, 0, 3, 43, 16, 16, 42, 180, 0, 23, 104, 42]
abbrev dktX10_does_0 : List UInt8 := dkwX10_does_0 ++ dktX10_does_1
theorem dksX10_does_0 : cX10_does.data.toList.drop 0 = dktX10_does_0 := by decide +kernel
theorem dksX10_does_1 : cX10_does.data.toList.drop 23 = dktX10_does_1 := dk_seg dksX10_does_0 23 rfl rfl
theorem dX10_does_0 : decode cX10_does 0 = .ok (.aload_n 0, 1) := dk_42 (dk_at dksX10_does_0 0 rfl rfl)
theorem dX10_does_1 : decode cX10_does 1 = .ok (.getfield 23, 3) := dk_180 0 23 (dk_at dksX10_does_0 1 rfl rfl)
theorem dX10_does_4 : decode cX10_does 4 = .ok (.iconst 0, 1) := dk_3 (dk_at dksX10_does_0 4 rfl rfl)
theorem dX10_does_5 : decode cX10_does 5 = .ok (.bipush 11, 2) := dk_16 11 (dk_at dksX10_does_0 5 rfl rfl)
theorem dX10_does_7 : decode cX10_does 7 = .ok (.invokestatic 26, 3) := dk_184 0 26 (dk_at dksX10_does_0 7 rfl rfl)
theorem dX10_does_10 : decode cX10_does 10 = .ok (.aload_n 0, 1) := dk_42 (dk_at dksX10_does_0 10 rfl rfl)
theorem dX10_does_11 : decode cX10_does 11 = .ok (.getfield 3, 3) := dk_180 0 3 (dk_at dksX10_does_0 11 rfl rfl)
theorem dX10_does_14 : decode cX10_does 14 = .ok (.aload_n 1, 1) := dk_43 (dk_at dksX10_does_0 14 rfl rfl)
theorem dX10_does_15 : decode cX10_does 15 = .ok (.bipush 16, 2) := dk_16 16 (dk_at dksX10_does_0 15 rfl rfl)
theorem dX10_does_17 : decode cX10_does 17 = .ok (.aload_n 0, 1) := dk_42 (dk_at dksX10_does_0 17 rfl rfl)
theorem dX10_does_18 : decode cX10_does 18 = .ok (.getfield 23, 3) := dk_180 0 23 (dk_at dksX10_does_0 18 rfl rfl)
theorem dX10_does_21 : decode cX10_does 21 = .ok (.imul, 1) := dk_104 (dk_at dksX10_does_0 21 rfl rfl)
theorem dX10_does_22 : decode cX10_does 22 = .ok (.aload_n 0, 1) := dk_42 (dk_at dksX10_does_0 22 rfl rfl)
theorem dX10_does_23 : decode cX10_does 23 = .ok (.getfield 19, 3) := dk_180 0 19 (dk_at dksX10_does_1 0 rfl rfl)
theorem dX10_does_26 : decode cX10_does 26 = .ok (.iadd, 1) := dk_96 (dk_at dksX10_does_1 3 rfl rfl)
theorem dX10_does_27 : decode cX10_does 27 = .ok (.aload_n 0, 1) := dk_42 (dk_at dksX10_does_1 4 rfl rfl)
theorem dX10_does_28 : decode cX10_does 28 = .ok (.getfield 15, 3) := dk_180 0 15 (dk_at dksX10_does_1 5 rfl rfl)
theorem dX10_does_31 : decode cX10_does 31 = .ok (.invokevirtual 32, 3) := dk_182 0 32 (dk_at dksX10_does_1 8 rfl rfl)
theorem dX10_does_34 : decode cX10_does 34 = .ok (.istore_n 2, 1) := dk_61 (dk_at dksX10_does_1 11 rfl rfl)
theorem dX10_does_35 : decode cX10_does 35 = .ok (.return_, 1) := dk_177 (dk_at dksX10_does_1 12 rfl rfl)
theorem q135 : (Jvm.Cond.initialized "WhalingLogs$CellOrder") ∈ lw_all := lw_g (lw_at lw_m1 42 rfl) rfl
theorem q673 : (Jvm.Cond.selects "WhalingLogs$CellOrder" ({ cls := "java/lang/Object", name := "getClass", desc := "()Ljava/lang/Class;" } : Jvm.MethodName) ({ cls := "java/lang/Object", name := "getClass", desc := "()Ljava/lang/Class;" } : Jvm.MethodName)) ∈ lw_all := lw_g (lw_at lw_m3 100 rfl) rfl
theorem q1801 : (Jvm.Cond.instantiable "WhalingLogs$CellOrder" (4 : Nat)) ∈ lw_all := lw_g (lw_at lw_m8 28 rfl) rfl
theorem q1811 : (Jvm.Cond.instanceMethod ({ cls := "WhalingLogs$CellOrder", name := "<init>", desc := "(LWhalingLogs;ZII)V" } : Jvm.MethodName)) ∈ lw_all := lw_g (lw_at lw_m8 38 rfl) rfl
theorem q1812 : (Jvm.Cond.code ({ cls := "WhalingLogs$CellOrder", name := "<init>", desc := "(LWhalingLogs;ZII)V" } : Jvm.MethodName) prog_4_method_1_code (5 : Nat) (Option.none : Option Jvm.ClassFile.FieldType)) ∈ lw_all := lw_g (lw_at lw_m8 39 rfl) rfl
theorem q1813 : (Jvm.Cond.methodLink "WhalingLogs$CellOrder" (9 : Nat) ({ cls := "java/lang/Object", name := "<init>", desc := "()V" } : Jvm.MethodName)) ∈ lw_all := lw_g (lw_at lw_m8 40 rfl) rfl
theorem q1814 : (Jvm.Cond.fieldLink "WhalingLogs$CellOrder" (15 : Nat) "WhalingLogs$CellOrder" "isLand" "Z") ∈ lw_all := lw_g (lw_at lw_m8 41 rfl) rfl
theorem q1815 : (Jvm.Cond.fieldLink "WhalingLogs$CellOrder" (19 : Nat) "WhalingLogs$CellOrder" "column" "I") ∈ lw_all := lw_g (lw_at lw_m8 42 rfl) rfl
theorem q1816 : (Jvm.Cond.fieldLink "WhalingLogs$CellOrder" (23 : Nat) "WhalingLogs$CellOrder" "row" "I") ∈ lw_all := lw_g (lw_at lw_m8 43 rfl) rfl
theorem q1817 : (Jvm.Cond.fieldLink "WhalingLogs$CellOrder" (3 : Nat) "WhalingLogs$CellOrder" "this$0" "LWhalingLogs;") ∈ lw_all := lw_g (lw_at lw_m8 44 rfl) rfl
theorem q1818 : (Jvm.Cond.laysFinal "WhalingLogs$CellOrder" "WhalingLogs$CellOrder" "isLand" "Z") ∈ lw_all := lw_g (lw_at lw_m8 45 rfl) rfl
theorem q1819 : (Jvm.Cond.soleField "WhalingLogs$CellOrder" "isLand") ∈ lw_all := lw_g (lw_at lw_m8 46 rfl) rfl
theorem q1820 : (Jvm.Cond.laysFinal "WhalingLogs$CellOrder" "WhalingLogs$CellOrder" "column" "I") ∈ lw_all := lw_g (lw_at lw_m8 47 rfl) rfl
theorem q1821 : (Jvm.Cond.soleField "WhalingLogs$CellOrder" "column") ∈ lw_all := lw_g (lw_at lw_m8 48 rfl) rfl
theorem q1822 : (Jvm.Cond.laysFinal "WhalingLogs$CellOrder" "WhalingLogs$CellOrder" "row" "I") ∈ lw_all := lw_g (lw_at lw_m8 49 rfl) rfl
theorem q1823 : (Jvm.Cond.soleField "WhalingLogs$CellOrder" "row") ∈ lw_all := lw_g (lw_at lw_m8 50 rfl) rfl
theorem q1824 : (Jvm.Cond.laysFinal "WhalingLogs$CellOrder" "WhalingLogs$CellOrder" "this$0" "LWhalingLogs;") ∈ lw_all := lw_g (lw_at lw_m8 51 rfl) rfl
theorem q1825 : (Jvm.Cond.soleField "WhalingLogs$CellOrder" "this$0") ∈ lw_all := lw_g (lw_at lw_m8 52 rfl) rfl
theorem q1826 : (Jvm.Cond.superclass "WhalingLogs$CellOrder" "java/lang/Object") ∈ lw_all := lw_g (lw_at lw_m8 53 rfl) rfl
theorem q1941 : (Jvm.Cond.castable "WhalingLogs$CellOrder" "WhalingLogs$Order") ∈ lw_tbl := lw_at lw_m8 168 rfl
theorem q1942 : (Jvm.Cond.selects "WhalingLogs$CellOrder" ({ cls := "WhalingLogs$Order", name := "does", desc := "(LWhalingLogs$Archive;)V" } : Jvm.MethodName) ({ cls := "WhalingLogs$CellOrder", name := "does", desc := "(LWhalingLogs$Archive;)V" } : Jvm.MethodName)) ∈ lw_all := lw_g (lw_at lw_m8 169 rfl) rfl
theorem q1943 : (Jvm.Cond.unhidden "WhalingLogs$CellOrder" "does" "(LWhalingLogs$Archive;)V") ∈ lw_tbl := lw_at lw_m8 170 rfl
theorem q1944 : (Jvm.Cond.instanceMethod ({ cls := "WhalingLogs$CellOrder", name := "does", desc := "(LWhalingLogs$Archive;)V" } : Jvm.MethodName)) ∈ lw_all := lw_g (lw_at lw_m8 171 rfl) rfl
theorem q1945 : (Jvm.Cond.publicMethod ({ cls := "WhalingLogs$CellOrder", name := "does", desc := "(LWhalingLogs$Archive;)V" } : Jvm.MethodName)) ∈ lw_tbl := lw_at lw_m8 172 rfl
theorem q1946 : (Jvm.Cond.code ({ cls := "WhalingLogs$CellOrder", name := "does", desc := "(LWhalingLogs$Archive;)V" } : Jvm.MethodName) prog_4_method_2_code (3 : Nat) (Option.none : Option Jvm.ClassFile.FieldType)) ∈ lw_all := lw_g (lw_at lw_m8 173 rfl) rfl
theorem q1947 : (Jvm.Cond.methodLink "WhalingLogs$CellOrder" (26 : Nat) ({ cls := "WhalingLogs$Order", name := "needs", desc := "(III)V" } : Jvm.MethodName)) ∈ lw_all := lw_g (lw_at lw_m8 174 rfl) rfl
theorem q1952 : (Jvm.Cond.methodLinkNest "WhalingLogs$CellOrder" (32 : Nat) ({ cls := "WhalingLogs", name := "becomes", desc := "(LWhalingLogs$Archive;IZ)I" } : Jvm.MethodName) "WhalingLogs") ∈ lw_tbl := lw_at lw_m8 179 rfl
theorem q2626 : (Jvm.Cond.castable "WhalingLogs$CellOrder" "java/lang/Object") ∈ lw_tbl := lw_at lw_m11 133 rfl
theorem in_X10 : ∀ w ∈ wsX100, w ∈ lw_all := lw_in wsX100 [1818, 1820, 1822, 1824] (by decide +kernel) (by decide +kernel)
/-! WhalingLogs$SpeedOrder -/
set_option maxRecDepth 100000
def RX11 : String := "WhalingLogs$SpeedOrder"
def TX11 : u_T := fun k => match k with
  | _ => ("WhalingLogs$SpeedOrder", "speed", "I", true)
def tyX11 : Nat → FieldType := fun k => match k with
  | _ => .int
abbrev wsX110 : List Cond := u_ws RX11 TX11 1
theorem nmX11 : ∀ a, a < 1 → ∀ b, b < 1 → a ≠ b → (TX11 a).2.1 ≠ (TX11 b).2.1 := by decide +kernel
theorem tyX11_ok : ∀ k, k < 1 → parseFieldDescriptor (TX11 k).2.2.1 = some (tyX11 k) := by decide +kernel
abbrev cX11_init : ByteArray := prog_14_method_1_code
def yX11_init : MethodName := ⟨RX11, "<init>", "(I)V"⟩
def dkwX11_init_0 : List UInt8 := [42, 183, 0, 1, 42, 27, 181, 0, 7, 177]
abbrev dktX11_init_0 : List UInt8 := dkwX11_init_0 ++ []
theorem dksX11_init_0 : cX11_init.data.toList.drop 0 = dktX11_init_0 := by decide +kernel
theorem dX11_init_0 : decode cX11_init 0 = .ok (.aload_n 0, 1) := dk_42 (dk_at dksX11_init_0 0 rfl rfl)
theorem dX11_init_1 : decode cX11_init 1 = .ok (.invokespecial 1, 3) := dk_183 0 1 (dk_at dksX11_init_0 1 rfl rfl)
theorem dX11_init_4 : decode cX11_init 4 = .ok (.aload_n 0, 1) := dk_42 (dk_at dksX11_init_0 4 rfl rfl)
theorem dX11_init_5 : decode cX11_init 5 = .ok (.iload_n 1, 1) := dk_27 (dk_at dksX11_init_0 5 rfl rfl)
theorem dX11_init_6 : decode cX11_init 6 = .ok (.putfield 7, 3) := dk_181 0 7 (dk_at dksX11_init_0 6 rfl rfl)
theorem dX11_init_9 : decode cX11_init 9 = .ok (.return_, 1) := dk_177 (dk_at dksX11_init_0 9 rfl rfl)
abbrev cX11_does : ByteArray := prog_14_method_2_code
def yX11_does : MethodName := ⟨RX11, "does", "(LWhalingLogs$Archive;)V"⟩
def dkwX11_does_0 : List UInt8 := [42, 180, 0, 7, 4, 16, 9, 184, 0, 13, 43, 42, 180, 0, 7, 181, 0, 19, 177]
abbrev dktX11_does_0 : List UInt8 := dkwX11_does_0 ++ []
theorem dksX11_does_0 : cX11_does.data.toList.drop 0 = dktX11_does_0 := by decide +kernel
theorem dX11_does_0 : decode cX11_does 0 = .ok (.aload_n 0, 1) := dk_42 (dk_at dksX11_does_0 0 rfl rfl)
theorem dX11_does_1 : decode cX11_does 1 = .ok (.getfield 7, 3) := dk_180 0 7 (dk_at dksX11_does_0 1 rfl rfl)
theorem dX11_does_4 : decode cX11_does 4 = .ok (.iconst 1, 1) := dk_4 (dk_at dksX11_does_0 4 rfl rfl)
theorem dX11_does_5 : decode cX11_does 5 = .ok (.bipush 9, 2) := dk_16 9 (dk_at dksX11_does_0 5 rfl rfl)
theorem dX11_does_7 : decode cX11_does 7 = .ok (.invokestatic 13, 3) := dk_184 0 13 (dk_at dksX11_does_0 7 rfl rfl)
theorem dX11_does_10 : decode cX11_does 10 = .ok (.aload_n 1, 1) := dk_43 (dk_at dksX11_does_0 10 rfl rfl)
theorem dX11_does_11 : decode cX11_does 11 = .ok (.aload_n 0, 1) := dk_42 (dk_at dksX11_does_0 11 rfl rfl)
theorem dX11_does_12 : decode cX11_does 12 = .ok (.getfield 7, 3) := dk_180 0 7 (dk_at dksX11_does_0 12 rfl rfl)
theorem dX11_does_15 : decode cX11_does 15 = .ok (.putfield 19, 3) := dk_181 0 19 (dk_at dksX11_does_0 15 rfl rfl)
theorem dX11_does_18 : decode cX11_does 18 = .ok (.return_, 1) := dk_177 (dk_at dksX11_does_0 18 rfl rfl)
theorem q136 : (Jvm.Cond.initialized "WhalingLogs$SpeedOrder") ∈ lw_all := lw_g (lw_at lw_m1 43 rfl) rfl
theorem q231 : (Jvm.Cond.fieldLinkNest "WhalingLogs$SpeedOrder" (19 : Nat) "WhalingLogs$Archive" "speed" "I" "WhalingLogs") ∈ lw_tbl := lw_at lw_m1 138 rfl
theorem q682 : (Jvm.Cond.selects "WhalingLogs$SpeedOrder" ({ cls := "java/lang/Object", name := "getClass", desc := "()Ljava/lang/Class;" } : Jvm.MethodName) ({ cls := "java/lang/Object", name := "getClass", desc := "()Ljava/lang/Class;" } : Jvm.MethodName)) ∈ lw_all := lw_g (lw_at lw_m3 109 rfl) rfl
theorem q1828 : (Jvm.Cond.instantiable "WhalingLogs$SpeedOrder" (1 : Nat)) ∈ lw_all := lw_g (lw_at lw_m8 55 rfl) rfl
theorem q1834 : (Jvm.Cond.instanceMethod ({ cls := "WhalingLogs$SpeedOrder", name := "<init>", desc := "(I)V" } : Jvm.MethodName)) ∈ lw_all := lw_g (lw_at lw_m8 61 rfl) rfl
theorem q1835 : (Jvm.Cond.code ({ cls := "WhalingLogs$SpeedOrder", name := "<init>", desc := "(I)V" } : Jvm.MethodName) prog_14_method_1_code (2 : Nat) (Option.none : Option Jvm.ClassFile.FieldType)) ∈ lw_all := lw_g (lw_at lw_m8 62 rfl) rfl
theorem q1836 : (Jvm.Cond.methodLink "WhalingLogs$SpeedOrder" (1 : Nat) ({ cls := "java/lang/Object", name := "<init>", desc := "()V" } : Jvm.MethodName)) ∈ lw_all := lw_g (lw_at lw_m8 63 rfl) rfl
theorem q1837 : (Jvm.Cond.fieldLink "WhalingLogs$SpeedOrder" (7 : Nat) "WhalingLogs$SpeedOrder" "speed" "I") ∈ lw_all := lw_g (lw_at lw_m8 64 rfl) rfl
theorem q1838 : (Jvm.Cond.laysFinal "WhalingLogs$SpeedOrder" "WhalingLogs$SpeedOrder" "speed" "I") ∈ lw_all := lw_g (lw_at lw_m8 65 rfl) rfl
theorem q1839 : (Jvm.Cond.soleField "WhalingLogs$SpeedOrder" "speed") ∈ lw_all := lw_g (lw_at lw_m8 66 rfl) rfl
theorem q1840 : (Jvm.Cond.superclass "WhalingLogs$SpeedOrder" "java/lang/Object") ∈ lw_all := lw_g (lw_at lw_m8 67 rfl) rfl
theorem q1977 : (Jvm.Cond.castable "WhalingLogs$SpeedOrder" "WhalingLogs$Order") ∈ lw_tbl := lw_at lw_m8 204 rfl
theorem q1978 : (Jvm.Cond.selects "WhalingLogs$SpeedOrder" ({ cls := "WhalingLogs$Order", name := "does", desc := "(LWhalingLogs$Archive;)V" } : Jvm.MethodName) ({ cls := "WhalingLogs$SpeedOrder", name := "does", desc := "(LWhalingLogs$Archive;)V" } : Jvm.MethodName)) ∈ lw_all := lw_g (lw_at lw_m8 205 rfl) rfl
theorem q1979 : (Jvm.Cond.unhidden "WhalingLogs$SpeedOrder" "does" "(LWhalingLogs$Archive;)V") ∈ lw_tbl := lw_at lw_m8 206 rfl
theorem q1980 : (Jvm.Cond.instanceMethod ({ cls := "WhalingLogs$SpeedOrder", name := "does", desc := "(LWhalingLogs$Archive;)V" } : Jvm.MethodName)) ∈ lw_all := lw_g (lw_at lw_m8 207 rfl) rfl
theorem q1981 : (Jvm.Cond.publicMethod ({ cls := "WhalingLogs$SpeedOrder", name := "does", desc := "(LWhalingLogs$Archive;)V" } : Jvm.MethodName)) ∈ lw_tbl := lw_at lw_m8 208 rfl
theorem q1982 : (Jvm.Cond.code ({ cls := "WhalingLogs$SpeedOrder", name := "does", desc := "(LWhalingLogs$Archive;)V" } : Jvm.MethodName) prog_14_method_2_code (2 : Nat) (Option.none : Option Jvm.ClassFile.FieldType)) ∈ lw_all := lw_g (lw_at lw_m8 209 rfl) rfl
theorem q1983 : (Jvm.Cond.methodLink "WhalingLogs$SpeedOrder" (13 : Nat) ({ cls := "WhalingLogs$Order", name := "needs", desc := "(III)V" } : Jvm.MethodName)) ∈ lw_all := lw_g (lw_at lw_m8 210 rfl) rfl
theorem q2627 : (Jvm.Cond.castable "WhalingLogs$SpeedOrder" "java/lang/Object") ∈ lw_tbl := lw_at lw_m11 134 rfl
theorem in_X11 : ∀ w ∈ wsX110, w ∈ lw_all := lw_in wsX110 [1838] (by decide +kernel) (by decide +kernel)
/-! WhalingLogs$PageOrder -/
set_option maxRecDepth 100000
def RX12 : String := "WhalingLogs$PageOrder"
def TX12 : u_T := fun k => match k with
  | 0 => ("WhalingLogs$PageOrder", "ink", "I", true)
  | _ => ("WhalingLogs$PageOrder", "fade", "I", true)
def tyX12 : Nat → FieldType := fun k => match k with
  | 0 => .int
  | _ => .int
abbrev wsX120 : List Cond := u_ws RX12 TX12 2
theorem nmX12 : ∀ a, a < 2 → ∀ b, b < 2 → a ≠ b → (TX12 a).2.1 ≠ (TX12 b).2.1 := by decide +kernel
theorem tyX12_ok : ∀ k, k < 2 → parseFieldDescriptor (TX12 k).2.2.1 = some (tyX12 k) := by decide +kernel
abbrev cX12_init : ByteArray := prog_10_method_1_code
def yX12_init : MethodName := ⟨RX12, "<init>", "(II)V"⟩
def dkwX12_init_0 : List UInt8 := [42, 183, 0, 3, 42, 27, 181, 0, 9, 42, 28, 181, 0, 15, 177]
abbrev dktX12_init_0 : List UInt8 := dkwX12_init_0 ++ []
theorem dksX12_init_0 : cX12_init.data.toList.drop 0 = dktX12_init_0 := by decide +kernel
theorem dX12_init_0 : decode cX12_init 0 = .ok (.aload_n 0, 1) := dk_42 (dk_at dksX12_init_0 0 rfl rfl)
theorem dX12_init_1 : decode cX12_init 1 = .ok (.invokespecial 3, 3) := dk_183 0 3 (dk_at dksX12_init_0 1 rfl rfl)
theorem dX12_init_4 : decode cX12_init 4 = .ok (.aload_n 0, 1) := dk_42 (dk_at dksX12_init_0 4 rfl rfl)
theorem dX12_init_5 : decode cX12_init 5 = .ok (.iload_n 1, 1) := dk_27 (dk_at dksX12_init_0 5 rfl rfl)
theorem dX12_init_6 : decode cX12_init 6 = .ok (.putfield 9, 3) := dk_181 0 9 (dk_at dksX12_init_0 6 rfl rfl)
theorem dX12_init_9 : decode cX12_init 9 = .ok (.aload_n 0, 1) := dk_42 (dk_at dksX12_init_0 9 rfl rfl)
theorem dX12_init_10 : decode cX12_init 10 = .ok (.iload_n 2, 1) := dk_28 (dk_at dksX12_init_0 10 rfl rfl)
theorem dX12_init_11 : decode cX12_init 11 = .ok (.putfield 15, 3) := dk_181 0 15 (dk_at dksX12_init_0 11 rfl rfl)
theorem dX12_init_14 : decode cX12_init 14 = .ok (.return_, 1) := dk_177 (dk_at dksX12_init_0 14 rfl rfl)
abbrev cX12_does : ByteArray := prog_10_method_2_code
def yX12_does : MethodName := ⟨RX12, "does", "(LWhalingLogs$Archive;)V"⟩
def dkwX12_does_1 : List UInt8 := [42, 180, 0, 15, 182, 0, 24, 61, 177]
abbrev dktX12_does_1 : List UInt8 := dkwX12_does_1 ++ []
def dkwX12_does_0 : List UInt8 := [42, 180, 0, 9, 3, 5, 184, 0, 18, 42, 180, 0, 15, 3, 16, 99, 184, 0, 18, 43, 42, 180, 0, 9]
abbrev dktX12_does_0 : List UInt8 := dkwX12_does_0 ++ dktX12_does_1
theorem dksX12_does_0 : cX12_does.data.toList.drop 0 = dktX12_does_0 := by decide +kernel
theorem dksX12_does_1 : cX12_does.data.toList.drop 24 = dktX12_does_1 := dk_seg dksX12_does_0 24 rfl rfl
theorem dX12_does_0 : decode cX12_does 0 = .ok (.aload_n 0, 1) := dk_42 (dk_at dksX12_does_0 0 rfl rfl)
theorem dX12_does_1 : decode cX12_does 1 = .ok (.getfield 9, 3) := dk_180 0 9 (dk_at dksX12_does_0 1 rfl rfl)
theorem dX12_does_4 : decode cX12_does 4 = .ok (.iconst 0, 1) := dk_3 (dk_at dksX12_does_0 4 rfl rfl)
theorem dX12_does_5 : decode cX12_does 5 = .ok (.iconst 2, 1) := dk_5 (dk_at dksX12_does_0 5 rfl rfl)
theorem dX12_does_6 : decode cX12_does 6 = .ok (.invokestatic 18, 3) := dk_184 0 18 (dk_at dksX12_does_0 6 rfl rfl)
theorem dX12_does_9 : decode cX12_does 9 = .ok (.aload_n 0, 1) := dk_42 (dk_at dksX12_does_0 9 rfl rfl)
theorem dX12_does_10 : decode cX12_does 10 = .ok (.getfield 15, 3) := dk_180 0 15 (dk_at dksX12_does_0 10 rfl rfl)
theorem dX12_does_13 : decode cX12_does 13 = .ok (.iconst 0, 1) := dk_3 (dk_at dksX12_does_0 13 rfl rfl)
theorem dX12_does_14 : decode cX12_does 14 = .ok (.bipush 99, 2) := dk_16 99 (dk_at dksX12_does_0 14 rfl rfl)
theorem dX12_does_16 : decode cX12_does 16 = .ok (.invokestatic 18, 3) := dk_184 0 18 (dk_at dksX12_does_0 16 rfl rfl)
theorem dX12_does_19 : decode cX12_does 19 = .ok (.aload_n 1, 1) := dk_43 (dk_at dksX12_does_0 19 rfl rfl)
theorem dX12_does_20 : decode cX12_does 20 = .ok (.aload_n 0, 1) := dk_42 (dk_at dksX12_does_0 20 rfl rfl)
theorem dX12_does_21 : decode cX12_does 21 = .ok (.getfield 9, 3) := dk_180 0 9 (dk_at dksX12_does_0 21 rfl rfl)
theorem dX12_does_24 : decode cX12_does 24 = .ok (.aload_n 0, 1) := dk_42 (dk_at dksX12_does_1 0 rfl rfl)
theorem dX12_does_25 : decode cX12_does 25 = .ok (.getfield 15, 3) := dk_180 0 15 (dk_at dksX12_does_1 1 rfl rfl)
theorem dX12_does_28 : decode cX12_does 28 = .ok (.invokevirtual 24, 3) := dk_182 0 24 (dk_at dksX12_does_1 4 rfl rfl)
theorem dX12_does_31 : decode cX12_does 31 = .ok (.istore_n 2, 1) := dk_61 (dk_at dksX12_does_1 7 rfl rfl)
theorem dX12_does_32 : decode cX12_does 32 = .ok (.return_, 1) := dk_177 (dk_at dksX12_does_1 8 rfl rfl)
theorem q137 : (Jvm.Cond.initialized "WhalingLogs$PageOrder") ∈ lw_all := lw_g (lw_at lw_m1 44 rfl) rfl
theorem q678 : (Jvm.Cond.selects "WhalingLogs$PageOrder" ({ cls := "java/lang/Object", name := "getClass", desc := "()Ljava/lang/Class;" } : Jvm.MethodName) ({ cls := "java/lang/Object", name := "getClass", desc := "()Ljava/lang/Class;" } : Jvm.MethodName)) ∈ lw_all := lw_g (lw_at lw_m3 105 rfl) rfl
theorem q1846 : (Jvm.Cond.instantiable "WhalingLogs$PageOrder" (2 : Nat)) ∈ lw_all := lw_g (lw_at lw_m8 73 rfl) rfl
theorem q1848 : (Jvm.Cond.instanceMethod ({ cls := "WhalingLogs$PageOrder", name := "<init>", desc := "(II)V" } : Jvm.MethodName)) ∈ lw_all := lw_g (lw_at lw_m8 75 rfl) rfl
theorem q1849 : (Jvm.Cond.code ({ cls := "WhalingLogs$PageOrder", name := "<init>", desc := "(II)V" } : Jvm.MethodName) prog_10_method_1_code (3 : Nat) (Option.none : Option Jvm.ClassFile.FieldType)) ∈ lw_all := lw_g (lw_at lw_m8 76 rfl) rfl
theorem q1850 : (Jvm.Cond.methodLink "WhalingLogs$PageOrder" (3 : Nat) ({ cls := "java/lang/Object", name := "<init>", desc := "()V" } : Jvm.MethodName)) ∈ lw_all := lw_g (lw_at lw_m8 77 rfl) rfl
theorem q1851 : (Jvm.Cond.fieldLink "WhalingLogs$PageOrder" (9 : Nat) "WhalingLogs$PageOrder" "ink" "I") ∈ lw_all := lw_g (lw_at lw_m8 78 rfl) rfl
theorem q1852 : (Jvm.Cond.fieldLink "WhalingLogs$PageOrder" (15 : Nat) "WhalingLogs$PageOrder" "fade" "I") ∈ lw_all := lw_g (lw_at lw_m8 79 rfl) rfl
theorem q1853 : (Jvm.Cond.laysFinal "WhalingLogs$PageOrder" "WhalingLogs$PageOrder" "ink" "I") ∈ lw_all := lw_g (lw_at lw_m8 80 rfl) rfl
theorem q1854 : (Jvm.Cond.soleField "WhalingLogs$PageOrder" "ink") ∈ lw_all := lw_g (lw_at lw_m8 81 rfl) rfl
theorem q1855 : (Jvm.Cond.laysFinal "WhalingLogs$PageOrder" "WhalingLogs$PageOrder" "fade" "I") ∈ lw_all := lw_g (lw_at lw_m8 82 rfl) rfl
theorem q1856 : (Jvm.Cond.soleField "WhalingLogs$PageOrder" "fade") ∈ lw_all := lw_g (lw_at lw_m8 83 rfl) rfl
theorem q1857 : (Jvm.Cond.superclass "WhalingLogs$PageOrder" "java/lang/Object") ∈ lw_all := lw_g (lw_at lw_m8 84 rfl) rfl
theorem q1962 : (Jvm.Cond.castable "WhalingLogs$PageOrder" "WhalingLogs$Order") ∈ lw_tbl := lw_at lw_m8 189 rfl
theorem q1963 : (Jvm.Cond.selects "WhalingLogs$PageOrder" ({ cls := "WhalingLogs$Order", name := "does", desc := "(LWhalingLogs$Archive;)V" } : Jvm.MethodName) ({ cls := "WhalingLogs$PageOrder", name := "does", desc := "(LWhalingLogs$Archive;)V" } : Jvm.MethodName)) ∈ lw_all := lw_g (lw_at lw_m8 190 rfl) rfl
theorem q1964 : (Jvm.Cond.unhidden "WhalingLogs$PageOrder" "does" "(LWhalingLogs$Archive;)V") ∈ lw_tbl := lw_at lw_m8 191 rfl
theorem q1965 : (Jvm.Cond.instanceMethod ({ cls := "WhalingLogs$PageOrder", name := "does", desc := "(LWhalingLogs$Archive;)V" } : Jvm.MethodName)) ∈ lw_all := lw_g (lw_at lw_m8 192 rfl) rfl
theorem q1966 : (Jvm.Cond.publicMethod ({ cls := "WhalingLogs$PageOrder", name := "does", desc := "(LWhalingLogs$Archive;)V" } : Jvm.MethodName)) ∈ lw_tbl := lw_at lw_m8 193 rfl
theorem q1967 : (Jvm.Cond.code ({ cls := "WhalingLogs$PageOrder", name := "does", desc := "(LWhalingLogs$Archive;)V" } : Jvm.MethodName) prog_10_method_2_code (3 : Nat) (Option.none : Option Jvm.ClassFile.FieldType)) ∈ lw_all := lw_g (lw_at lw_m8 194 rfl) rfl
theorem q1968 : (Jvm.Cond.methodLink "WhalingLogs$PageOrder" (18 : Nat) ({ cls := "WhalingLogs$Order", name := "needs", desc := "(III)V" } : Jvm.MethodName)) ∈ lw_all := lw_g (lw_at lw_m8 195 rfl) rfl
theorem q1969 : (Jvm.Cond.methodLink "WhalingLogs$PageOrder" (24 : Nat) ({ cls := "WhalingLogs$Archive", name := "addsPage", desc := "(II)I" } : Jvm.MethodName)) ∈ lw_all := lw_g (lw_at lw_m8 196 rfl) rfl
theorem q2628 : (Jvm.Cond.castable "WhalingLogs$PageOrder" "java/lang/Object") ∈ lw_tbl := lw_at lw_m11 135 rfl
theorem in_X12 : ∀ w ∈ wsX120, w ∈ lw_all := lw_in wsX120 [1853, 1855] (by decide +kernel) (by decide +kernel)
/-! WhalingLogs$EntryOrder -/
set_option maxRecDepth 100000
def RX13 : String := "WhalingLogs$EntryOrder"
def TX13 : u_T := fun k => match k with
  | 0 => ("WhalingLogs$EntryOrder", "page", "I", true)
  | 1 => ("WhalingLogs$EntryOrder", "day", "I", true)
  | 2 => ("WhalingLogs$EntryOrder", "column", "I", true)
  | 3 => ("WhalingLogs$EntryOrder", "row", "I", true)
  | _ => ("WhalingLogs$EntryOrder", "witness", "I", true)
def tyX13 : Nat → FieldType := fun k => match k with
  | 0 => .int
  | 1 => .int
  | 2 => .int
  | 3 => .int
  | _ => .int
abbrev wsX130 : List Cond := u_ws RX13 TX13 5
theorem nmX13 : ∀ a, a < 5 → ∀ b, b < 5 → a ≠ b → (TX13 a).2.1 ≠ (TX13 b).2.1 := by decide +kernel
theorem tyX13_ok : ∀ k, k < 5 → parseFieldDescriptor (TX13 k).2.2.1 = some (tyX13 k) := by decide +kernel
abbrev cX13_init : ByteArray := prog_6_method_1_code
def yX13_init : MethodName := ⟨RX13, "<init>", "(IIIII)V"⟩
def dkwX13_init_1 : List UInt8 := [181, 0, 21, 42, 21, 5, 181, 0, 24, 177]
abbrev dktX13_init_1 : List UInt8 := dkwX13_init_1 ++ []
def dkwX13_init_0 : List UInt8 := [42, 183, 0, 3, 42, 27, 181, 0, 9, 42, 28, 181, 0, 15, 42, 29, 181, 0, 18, 42, 21, 4]
abbrev dktX13_init_0 : List UInt8 := dkwX13_init_0 ++ dktX13_init_1
theorem dksX13_init_0 : cX13_init.data.toList.drop 0 = dktX13_init_0 := by decide +kernel
theorem dksX13_init_1 : cX13_init.data.toList.drop 22 = dktX13_init_1 := dk_seg dksX13_init_0 22 rfl rfl
theorem dX13_init_0 : decode cX13_init 0 = .ok (.aload_n 0, 1) := dk_42 (dk_at dksX13_init_0 0 rfl rfl)
theorem dX13_init_1 : decode cX13_init 1 = .ok (.invokespecial 3, 3) := dk_183 0 3 (dk_at dksX13_init_0 1 rfl rfl)
theorem dX13_init_4 : decode cX13_init 4 = .ok (.aload_n 0, 1) := dk_42 (dk_at dksX13_init_0 4 rfl rfl)
theorem dX13_init_5 : decode cX13_init 5 = .ok (.iload_n 1, 1) := dk_27 (dk_at dksX13_init_0 5 rfl rfl)
theorem dX13_init_6 : decode cX13_init 6 = .ok (.putfield 9, 3) := dk_181 0 9 (dk_at dksX13_init_0 6 rfl rfl)
theorem dX13_init_9 : decode cX13_init 9 = .ok (.aload_n 0, 1) := dk_42 (dk_at dksX13_init_0 9 rfl rfl)
theorem dX13_init_10 : decode cX13_init 10 = .ok (.iload_n 2, 1) := dk_28 (dk_at dksX13_init_0 10 rfl rfl)
theorem dX13_init_11 : decode cX13_init 11 = .ok (.putfield 15, 3) := dk_181 0 15 (dk_at dksX13_init_0 11 rfl rfl)
theorem dX13_init_14 : decode cX13_init 14 = .ok (.aload_n 0, 1) := dk_42 (dk_at dksX13_init_0 14 rfl rfl)
theorem dX13_init_15 : decode cX13_init 15 = .ok (.iload_n 3, 1) := dk_29 (dk_at dksX13_init_0 15 rfl rfl)
theorem dX13_init_16 : decode cX13_init 16 = .ok (.putfield 18, 3) := dk_181 0 18 (dk_at dksX13_init_0 16 rfl rfl)
theorem dX13_init_19 : decode cX13_init 19 = .ok (.aload_n 0, 1) := dk_42 (dk_at dksX13_init_0 19 rfl rfl)
theorem dX13_init_20 : decode cX13_init 20 = .ok (.iload 4, 2) := dk_21 4 (dk_at dksX13_init_0 20 rfl rfl)
theorem dX13_init_22 : decode cX13_init 22 = .ok (.putfield 21, 3) := dk_181 0 21 (dk_at dksX13_init_1 0 rfl rfl)
theorem dX13_init_25 : decode cX13_init 25 = .ok (.aload_n 0, 1) := dk_42 (dk_at dksX13_init_1 3 rfl rfl)
theorem dX13_init_26 : decode cX13_init 26 = .ok (.iload 5, 2) := dk_21 5 (dk_at dksX13_init_1 4 rfl rfl)
theorem dX13_init_28 : decode cX13_init 28 = .ok (.putfield 24, 3) := dk_181 0 24 (dk_at dksX13_init_1 6 rfl rfl)
theorem dX13_init_31 : decode cX13_init 31 = .ok (.return_, 1) := dk_177 (dk_at dksX13_init_1 9 rfl rfl)
abbrev cX13_does : ByteArray := prog_6_method_2_code
def yX13_does : MethodName := ⟨RX13, "does", "(LWhalingLogs$Archive;)V"⟩
def dkwX13_does_2 : List UInt8 := [104, 42, 180, 0, 18, 96, 42, 180, 0, 24, 182, 0, 39, 61, 177]
abbrev dktX13_does_2 : List UInt8 := dkwX13_does_2 ++ []
def dkwX13_does_1 : List UInt8 := [180, 0, 21, 3, 16, 11, 184, 0, 33, 43, 42, 180, 0, 9, 42, 180, 0, 15, 16, 16, 42, 180, 0, 21]
abbrev dktX13_does_1 : List UInt8 := dkwX13_does_1 ++ dktX13_does_2
def dkwX13_does_0 : List UInt8 := [43, 42, 180, 0, 9, 42, 180, 0, 24, 182, 0, 27, 42, 180, 0, 15, 3, 17, 3, 231, 184, 0, 33, 42]
abbrev dktX13_does_0 : List UInt8 := dkwX13_does_0 ++ dktX13_does_1
theorem dksX13_does_0 : cX13_does.data.toList.drop 0 = dktX13_does_0 := by decide +kernel
theorem dksX13_does_1 : cX13_does.data.toList.drop 24 = dktX13_does_1 := dk_seg dksX13_does_0 24 rfl rfl
theorem dksX13_does_2 : cX13_does.data.toList.drop 48 = dktX13_does_2 := dk_seg dksX13_does_1 24 rfl rfl
theorem dX13_does_0 : decode cX13_does 0 = .ok (.aload_n 1, 1) := dk_43 (dk_at dksX13_does_0 0 rfl rfl)
theorem dX13_does_1 : decode cX13_does 1 = .ok (.aload_n 0, 1) := dk_42 (dk_at dksX13_does_0 1 rfl rfl)
theorem dX13_does_2 : decode cX13_does 2 = .ok (.getfield 9, 3) := dk_180 0 9 (dk_at dksX13_does_0 2 rfl rfl)
theorem dX13_does_5 : decode cX13_does 5 = .ok (.aload_n 0, 1) := dk_42 (dk_at dksX13_does_0 5 rfl rfl)
theorem dX13_does_6 : decode cX13_does 6 = .ok (.getfield 24, 3) := dk_180 0 24 (dk_at dksX13_does_0 6 rfl rfl)
theorem dX13_does_9 : decode cX13_does 9 = .ok (.invokevirtual 27, 3) := dk_182 0 27 (dk_at dksX13_does_0 9 rfl rfl)
theorem dX13_does_12 : decode cX13_does 12 = .ok (.aload_n 0, 1) := dk_42 (dk_at dksX13_does_0 12 rfl rfl)
theorem dX13_does_13 : decode cX13_does 13 = .ok (.getfield 15, 3) := dk_180 0 15 (dk_at dksX13_does_0 13 rfl rfl)
theorem dX13_does_16 : decode cX13_does 16 = .ok (.iconst 0, 1) := dk_3 (dk_at dksX13_does_0 16 rfl rfl)
theorem dX13_does_17 : decode cX13_does 17 = .ok (.sipush 999, 3) := dk_17 3 231 (dk_at dksX13_does_0 17 rfl rfl)
theorem dX13_does_20 : decode cX13_does 20 = .ok (.invokestatic 33, 3) := dk_184 0 33 (dk_at dksX13_does_0 20 rfl rfl)
theorem dX13_does_23 : decode cX13_does 23 = .ok (.aload_n 0, 1) := dk_42 (dk_at dksX13_does_0 23 rfl rfl)
theorem dX13_does_24 : decode cX13_does 24 = .ok (.getfield 21, 3) := dk_180 0 21 (dk_at dksX13_does_1 0 rfl rfl)
theorem dX13_does_27 : decode cX13_does 27 = .ok (.iconst 0, 1) := dk_3 (dk_at dksX13_does_1 3 rfl rfl)
theorem dX13_does_28 : decode cX13_does 28 = .ok (.bipush 11, 2) := dk_16 11 (dk_at dksX13_does_1 4 rfl rfl)
theorem dX13_does_30 : decode cX13_does 30 = .ok (.invokestatic 33, 3) := dk_184 0 33 (dk_at dksX13_does_1 6 rfl rfl)
theorem dX13_does_33 : decode cX13_does 33 = .ok (.aload_n 1, 1) := dk_43 (dk_at dksX13_does_1 9 rfl rfl)
theorem dX13_does_34 : decode cX13_does 34 = .ok (.aload_n 0, 1) := dk_42 (dk_at dksX13_does_1 10 rfl rfl)
theorem dX13_does_35 : decode cX13_does 35 = .ok (.getfield 9, 3) := dk_180 0 9 (dk_at dksX13_does_1 11 rfl rfl)
theorem dX13_does_38 : decode cX13_does 38 = .ok (.aload_n 0, 1) := dk_42 (dk_at dksX13_does_1 14 rfl rfl)
theorem dX13_does_39 : decode cX13_does 39 = .ok (.getfield 15, 3) := dk_180 0 15 (dk_at dksX13_does_1 15 rfl rfl)
theorem dX13_does_42 : decode cX13_does 42 = .ok (.bipush 16, 2) := dk_16 16 (dk_at dksX13_does_1 18 rfl rfl)
theorem dX13_does_44 : decode cX13_does 44 = .ok (.aload_n 0, 1) := dk_42 (dk_at dksX13_does_1 20 rfl rfl)
theorem dX13_does_45 : decode cX13_does 45 = .ok (.getfield 21, 3) := dk_180 0 21 (dk_at dksX13_does_1 21 rfl rfl)
theorem dX13_does_48 : decode cX13_does 48 = .ok (.imul, 1) := dk_104 (dk_at dksX13_does_2 0 rfl rfl)
theorem dX13_does_49 : decode cX13_does 49 = .ok (.aload_n 0, 1) := dk_42 (dk_at dksX13_does_2 1 rfl rfl)
theorem dX13_does_50 : decode cX13_does 50 = .ok (.getfield 18, 3) := dk_180 0 18 (dk_at dksX13_does_2 2 rfl rfl)
theorem dX13_does_53 : decode cX13_does 53 = .ok (.iadd, 1) := dk_96 (dk_at dksX13_does_2 5 rfl rfl)
theorem dX13_does_54 : decode cX13_does 54 = .ok (.aload_n 0, 1) := dk_42 (dk_at dksX13_does_2 6 rfl rfl)
theorem dX13_does_55 : decode cX13_does 55 = .ok (.getfield 24, 3) := dk_180 0 24 (dk_at dksX13_does_2 7 rfl rfl)
theorem dX13_does_58 : decode cX13_does 58 = .ok (.invokevirtual 39, 3) := dk_182 0 39 (dk_at dksX13_does_2 10 rfl rfl)
theorem dX13_does_61 : decode cX13_does 61 = .ok (.istore_n 2, 1) := dk_61 (dk_at dksX13_does_2 13 rfl rfl)
theorem dX13_does_62 : decode cX13_does 62 = .ok (.return_, 1) := dk_177 (dk_at dksX13_does_2 14 rfl rfl)
theorem q138 : (Jvm.Cond.initialized "WhalingLogs$EntryOrder") ∈ lw_all := lw_g (lw_at lw_m1 45 rfl) rfl
theorem q675 : (Jvm.Cond.selects "WhalingLogs$EntryOrder" ({ cls := "java/lang/Object", name := "getClass", desc := "()Ljava/lang/Class;" } : Jvm.MethodName) ({ cls := "java/lang/Object", name := "getClass", desc := "()Ljava/lang/Class;" } : Jvm.MethodName)) ∈ lw_all := lw_g (lw_at lw_m3 102 rfl) rfl
theorem q1863 : (Jvm.Cond.instantiable "WhalingLogs$EntryOrder" (5 : Nat)) ∈ lw_all := lw_g (lw_at lw_m8 90 rfl) rfl
theorem q1865 : (Jvm.Cond.instanceMethod ({ cls := "WhalingLogs$EntryOrder", name := "<init>", desc := "(IIIII)V" } : Jvm.MethodName)) ∈ lw_all := lw_g (lw_at lw_m8 92 rfl) rfl
theorem q1866 : (Jvm.Cond.code ({ cls := "WhalingLogs$EntryOrder", name := "<init>", desc := "(IIIII)V" } : Jvm.MethodName) prog_6_method_1_code (6 : Nat) (Option.none : Option Jvm.ClassFile.FieldType)) ∈ lw_all := lw_g (lw_at lw_m8 93 rfl) rfl
theorem q1867 : (Jvm.Cond.methodLink "WhalingLogs$EntryOrder" (3 : Nat) ({ cls := "java/lang/Object", name := "<init>", desc := "()V" } : Jvm.MethodName)) ∈ lw_all := lw_g (lw_at lw_m8 94 rfl) rfl
theorem q1868 : (Jvm.Cond.fieldLink "WhalingLogs$EntryOrder" (9 : Nat) "WhalingLogs$EntryOrder" "page" "I") ∈ lw_all := lw_g (lw_at lw_m8 95 rfl) rfl
theorem q1869 : (Jvm.Cond.fieldLink "WhalingLogs$EntryOrder" (15 : Nat) "WhalingLogs$EntryOrder" "day" "I") ∈ lw_all := lw_g (lw_at lw_m8 96 rfl) rfl
theorem q1870 : (Jvm.Cond.fieldLink "WhalingLogs$EntryOrder" (18 : Nat) "WhalingLogs$EntryOrder" "column" "I") ∈ lw_all := lw_g (lw_at lw_m8 97 rfl) rfl
theorem q1871 : (Jvm.Cond.fieldLink "WhalingLogs$EntryOrder" (21 : Nat) "WhalingLogs$EntryOrder" "row" "I") ∈ lw_all := lw_g (lw_at lw_m8 98 rfl) rfl
theorem q1872 : (Jvm.Cond.fieldLink "WhalingLogs$EntryOrder" (24 : Nat) "WhalingLogs$EntryOrder" "witness" "I") ∈ lw_all := lw_g (lw_at lw_m8 99 rfl) rfl
theorem q1873 : (Jvm.Cond.laysFinal "WhalingLogs$EntryOrder" "WhalingLogs$EntryOrder" "page" "I") ∈ lw_all := lw_g (lw_at lw_m8 100 rfl) rfl
theorem q1874 : (Jvm.Cond.soleField "WhalingLogs$EntryOrder" "page") ∈ lw_all := lw_g (lw_at lw_m8 101 rfl) rfl
theorem q1875 : (Jvm.Cond.laysFinal "WhalingLogs$EntryOrder" "WhalingLogs$EntryOrder" "day" "I") ∈ lw_all := lw_g (lw_at lw_m8 102 rfl) rfl
theorem q1876 : (Jvm.Cond.soleField "WhalingLogs$EntryOrder" "day") ∈ lw_all := lw_g (lw_at lw_m8 103 rfl) rfl
theorem q1877 : (Jvm.Cond.laysFinal "WhalingLogs$EntryOrder" "WhalingLogs$EntryOrder" "column" "I") ∈ lw_all := lw_g (lw_at lw_m8 104 rfl) rfl
theorem q1878 : (Jvm.Cond.soleField "WhalingLogs$EntryOrder" "column") ∈ lw_all := lw_g (lw_at lw_m8 105 rfl) rfl
theorem q1879 : (Jvm.Cond.laysFinal "WhalingLogs$EntryOrder" "WhalingLogs$EntryOrder" "row" "I") ∈ lw_all := lw_g (lw_at lw_m8 106 rfl) rfl
theorem q1880 : (Jvm.Cond.soleField "WhalingLogs$EntryOrder" "row") ∈ lw_all := lw_g (lw_at lw_m8 107 rfl) rfl
theorem q1881 : (Jvm.Cond.laysFinal "WhalingLogs$EntryOrder" "WhalingLogs$EntryOrder" "witness" "I") ∈ lw_all := lw_g (lw_at lw_m8 108 rfl) rfl
theorem q1882 : (Jvm.Cond.soleField "WhalingLogs$EntryOrder" "witness") ∈ lw_all := lw_g (lw_at lw_m8 109 rfl) rfl
theorem q1883 : (Jvm.Cond.superclass "WhalingLogs$EntryOrder" "java/lang/Object") ∈ lw_all := lw_g (lw_at lw_m8 110 rfl) rfl
theorem q1953 : (Jvm.Cond.castable "WhalingLogs$EntryOrder" "WhalingLogs$Order") ∈ lw_tbl := lw_at lw_m8 180 rfl
theorem q1954 : (Jvm.Cond.selects "WhalingLogs$EntryOrder" ({ cls := "WhalingLogs$Order", name := "does", desc := "(LWhalingLogs$Archive;)V" } : Jvm.MethodName) ({ cls := "WhalingLogs$EntryOrder", name := "does", desc := "(LWhalingLogs$Archive;)V" } : Jvm.MethodName)) ∈ lw_all := lw_g (lw_at lw_m8 181 rfl) rfl
theorem q1955 : (Jvm.Cond.unhidden "WhalingLogs$EntryOrder" "does" "(LWhalingLogs$Archive;)V") ∈ lw_tbl := lw_at lw_m8 182 rfl
theorem q1956 : (Jvm.Cond.instanceMethod ({ cls := "WhalingLogs$EntryOrder", name := "does", desc := "(LWhalingLogs$Archive;)V" } : Jvm.MethodName)) ∈ lw_all := lw_g (lw_at lw_m8 183 rfl) rfl
theorem q1957 : (Jvm.Cond.publicMethod ({ cls := "WhalingLogs$EntryOrder", name := "does", desc := "(LWhalingLogs$Archive;)V" } : Jvm.MethodName)) ∈ lw_tbl := lw_at lw_m8 184 rfl
theorem q1958 : (Jvm.Cond.code ({ cls := "WhalingLogs$EntryOrder", name := "does", desc := "(LWhalingLogs$Archive;)V" } : Jvm.MethodName) prog_6_method_2_code (3 : Nat) (Option.none : Option Jvm.ClassFile.FieldType)) ∈ lw_all := lw_g (lw_at lw_m8 185 rfl) rfl
theorem q1959 : (Jvm.Cond.methodLink "WhalingLogs$EntryOrder" (27 : Nat) ({ cls := "WhalingLogs$Archive", name := "checkForEntry", desc := "(II)V" } : Jvm.MethodName)) ∈ lw_all := lw_g (lw_at lw_m8 186 rfl) rfl
theorem q1960 : (Jvm.Cond.methodLink "WhalingLogs$EntryOrder" (33 : Nat) ({ cls := "WhalingLogs$Order", name := "needs", desc := "(III)V" } : Jvm.MethodName)) ∈ lw_all := lw_g (lw_at lw_m8 187 rfl) rfl
theorem q1961 : (Jvm.Cond.methodLink "WhalingLogs$EntryOrder" (39 : Nat) ({ cls := "WhalingLogs$Archive", name := "addsEntry", desc := "(IIII)I" } : Jvm.MethodName)) ∈ lw_all := lw_g (lw_at lw_m8 188 rfl) rfl
theorem q2629 : (Jvm.Cond.castable "WhalingLogs$EntryOrder" "java/lang/Object") ∈ lw_tbl := lw_at lw_m11 136 rfl
theorem in_X13 : ∀ w ∈ wsX130, w ∈ lw_all := lw_in wsX130 [1873, 1875, 1877, 1879, 1881] (by decide +kernel) (by decide +kernel)
/-! WhalingLogs$ReadOrder -/
set_option maxRecDepth 100000
def RX14 : String := "WhalingLogs$ReadOrder"
def TX14 : u_T := fun k => match k with
  | 0 => ("WhalingLogs$ReadOrder", "page", "I", true)
  | _ => ("WhalingLogs$ReadOrder", "ray", "I", true)
def tyX14 : Nat → FieldType := fun k => match k with
  | 0 => .int
  | _ => .int
abbrev wsX140 : List Cond := u_ws RX14 TX14 2
theorem nmX14 : ∀ a, a < 2 → ∀ b, b < 2 → a ≠ b → (TX14 a).2.1 ≠ (TX14 b).2.1 := by decide +kernel
theorem tyX14_ok : ∀ k, k < 2 → parseFieldDescriptor (TX14 k).2.2.1 = some (tyX14 k) := by decide +kernel
abbrev cX14_init : ByteArray := prog_11_method_1_code
def yX14_init : MethodName := ⟨RX14, "<init>", "(II)V"⟩
def dkwX14_init_0 : List UInt8 := [42, 183, 0, 1, 42, 27, 181, 0, 7, 42, 28, 181, 0, 13, 177]
abbrev dktX14_init_0 : List UInt8 := dkwX14_init_0 ++ []
theorem dksX14_init_0 : cX14_init.data.toList.drop 0 = dktX14_init_0 := by decide +kernel
theorem dX14_init_0 : decode cX14_init 0 = .ok (.aload_n 0, 1) := dk_42 (dk_at dksX14_init_0 0 rfl rfl)
theorem dX14_init_1 : decode cX14_init 1 = .ok (.invokespecial 1, 3) := dk_183 0 1 (dk_at dksX14_init_0 1 rfl rfl)
theorem dX14_init_4 : decode cX14_init 4 = .ok (.aload_n 0, 1) := dk_42 (dk_at dksX14_init_0 4 rfl rfl)
theorem dX14_init_5 : decode cX14_init 5 = .ok (.iload_n 1, 1) := dk_27 (dk_at dksX14_init_0 5 rfl rfl)
theorem dX14_init_6 : decode cX14_init 6 = .ok (.putfield 7, 3) := dk_181 0 7 (dk_at dksX14_init_0 6 rfl rfl)
theorem dX14_init_9 : decode cX14_init 9 = .ok (.aload_n 0, 1) := dk_42 (dk_at dksX14_init_0 9 rfl rfl)
theorem dX14_init_10 : decode cX14_init 10 = .ok (.iload_n 2, 1) := dk_28 (dk_at dksX14_init_0 10 rfl rfl)
theorem dX14_init_11 : decode cX14_init 11 = .ok (.putfield 13, 3) := dk_181 0 13 (dk_at dksX14_init_0 11 rfl rfl)
theorem dX14_init_14 : decode cX14_init 14 = .ok (.return_, 1) := dk_177 (dk_at dksX14_init_0 14 rfl rfl)
abbrev cX14_does : ByteArray := prog_11_method_2_code
def yX14_does : MethodName := ⟨RX14, "does", "(LWhalingLogs$Archive;)V"⟩
def dkwX14_does_0 : List UInt8 := [43, 42, 180, 0, 7, 42, 180, 0, 13, 182, 0, 16, 61, 177]
abbrev dktX14_does_0 : List UInt8 := dkwX14_does_0 ++ []
theorem dksX14_does_0 : cX14_does.data.toList.drop 0 = dktX14_does_0 := by decide +kernel
theorem dX14_does_0 : decode cX14_does 0 = .ok (.aload_n 1, 1) := dk_43 (dk_at dksX14_does_0 0 rfl rfl)
theorem dX14_does_1 : decode cX14_does 1 = .ok (.aload_n 0, 1) := dk_42 (dk_at dksX14_does_0 1 rfl rfl)
theorem dX14_does_2 : decode cX14_does 2 = .ok (.getfield 7, 3) := dk_180 0 7 (dk_at dksX14_does_0 2 rfl rfl)
theorem dX14_does_5 : decode cX14_does 5 = .ok (.aload_n 0, 1) := dk_42 (dk_at dksX14_does_0 5 rfl rfl)
theorem dX14_does_6 : decode cX14_does 6 = .ok (.getfield 13, 3) := dk_180 0 13 (dk_at dksX14_does_0 6 rfl rfl)
theorem dX14_does_9 : decode cX14_does 9 = .ok (.invokevirtual 16, 3) := dk_182 0 16 (dk_at dksX14_does_0 9 rfl rfl)
theorem dX14_does_12 : decode cX14_does 12 = .ok (.istore_n 2, 1) := dk_61 (dk_at dksX14_does_0 12 rfl rfl)
theorem dX14_does_13 : decode cX14_does 13 = .ok (.return_, 1) := dk_177 (dk_at dksX14_does_0 13 rfl rfl)
theorem q139 : (Jvm.Cond.initialized "WhalingLogs$ReadOrder") ∈ lw_all := lw_g (lw_at lw_m1 46 rfl) rfl
theorem q679 : (Jvm.Cond.selects "WhalingLogs$ReadOrder" ({ cls := "java/lang/Object", name := "getClass", desc := "()Ljava/lang/Class;" } : Jvm.MethodName) ({ cls := "java/lang/Object", name := "getClass", desc := "()Ljava/lang/Class;" } : Jvm.MethodName)) ∈ lw_all := lw_g (lw_at lw_m3 106 rfl) rfl
theorem q1889 : (Jvm.Cond.instantiable "WhalingLogs$ReadOrder" (2 : Nat)) ∈ lw_all := lw_g (lw_at lw_m8 116 rfl) rfl
theorem q1891 : (Jvm.Cond.instanceMethod ({ cls := "WhalingLogs$ReadOrder", name := "<init>", desc := "(II)V" } : Jvm.MethodName)) ∈ lw_all := lw_g (lw_at lw_m8 118 rfl) rfl
theorem q1892 : (Jvm.Cond.code ({ cls := "WhalingLogs$ReadOrder", name := "<init>", desc := "(II)V" } : Jvm.MethodName) prog_11_method_1_code (3 : Nat) (Option.none : Option Jvm.ClassFile.FieldType)) ∈ lw_all := lw_g (lw_at lw_m8 119 rfl) rfl
theorem q1893 : (Jvm.Cond.methodLink "WhalingLogs$ReadOrder" (1 : Nat) ({ cls := "java/lang/Object", name := "<init>", desc := "()V" } : Jvm.MethodName)) ∈ lw_all := lw_g (lw_at lw_m8 120 rfl) rfl
theorem q1894 : (Jvm.Cond.fieldLink "WhalingLogs$ReadOrder" (7 : Nat) "WhalingLogs$ReadOrder" "page" "I") ∈ lw_all := lw_g (lw_at lw_m8 121 rfl) rfl
theorem q1895 : (Jvm.Cond.fieldLink "WhalingLogs$ReadOrder" (13 : Nat) "WhalingLogs$ReadOrder" "ray" "I") ∈ lw_all := lw_g (lw_at lw_m8 122 rfl) rfl
theorem q1896 : (Jvm.Cond.laysFinal "WhalingLogs$ReadOrder" "WhalingLogs$ReadOrder" "page" "I") ∈ lw_all := lw_g (lw_at lw_m8 123 rfl) rfl
theorem q1897 : (Jvm.Cond.soleField "WhalingLogs$ReadOrder" "page") ∈ lw_all := lw_g (lw_at lw_m8 124 rfl) rfl
theorem q1898 : (Jvm.Cond.laysFinal "WhalingLogs$ReadOrder" "WhalingLogs$ReadOrder" "ray" "I") ∈ lw_all := lw_g (lw_at lw_m8 125 rfl) rfl
theorem q1899 : (Jvm.Cond.soleField "WhalingLogs$ReadOrder" "ray") ∈ lw_all := lw_g (lw_at lw_m8 126 rfl) rfl
theorem q1900 : (Jvm.Cond.superclass "WhalingLogs$ReadOrder" "java/lang/Object") ∈ lw_all := lw_g (lw_at lw_m8 127 rfl) rfl
theorem q1970 : (Jvm.Cond.castable "WhalingLogs$ReadOrder" "WhalingLogs$Order") ∈ lw_tbl := lw_at lw_m8 197 rfl
theorem q1971 : (Jvm.Cond.selects "WhalingLogs$ReadOrder" ({ cls := "WhalingLogs$Order", name := "does", desc := "(LWhalingLogs$Archive;)V" } : Jvm.MethodName) ({ cls := "WhalingLogs$ReadOrder", name := "does", desc := "(LWhalingLogs$Archive;)V" } : Jvm.MethodName)) ∈ lw_all := lw_g (lw_at lw_m8 198 rfl) rfl
theorem q1972 : (Jvm.Cond.unhidden "WhalingLogs$ReadOrder" "does" "(LWhalingLogs$Archive;)V") ∈ lw_tbl := lw_at lw_m8 199 rfl
theorem q1973 : (Jvm.Cond.instanceMethod ({ cls := "WhalingLogs$ReadOrder", name := "does", desc := "(LWhalingLogs$Archive;)V" } : Jvm.MethodName)) ∈ lw_all := lw_g (lw_at lw_m8 200 rfl) rfl
theorem q1974 : (Jvm.Cond.publicMethod ({ cls := "WhalingLogs$ReadOrder", name := "does", desc := "(LWhalingLogs$Archive;)V" } : Jvm.MethodName)) ∈ lw_tbl := lw_at lw_m8 201 rfl
theorem q1975 : (Jvm.Cond.code ({ cls := "WhalingLogs$ReadOrder", name := "does", desc := "(LWhalingLogs$Archive;)V" } : Jvm.MethodName) prog_11_method_2_code (3 : Nat) (Option.none : Option Jvm.ClassFile.FieldType)) ∈ lw_all := lw_g (lw_at lw_m8 202 rfl) rfl
theorem q1976 : (Jvm.Cond.methodLink "WhalingLogs$ReadOrder" (16 : Nat) ({ cls := "WhalingLogs$Archive", name := "readsPage", desc := "(II)I" } : Jvm.MethodName)) ∈ lw_all := lw_g (lw_at lw_m8 203 rfl) rfl
theorem q2630 : (Jvm.Cond.castable "WhalingLogs$ReadOrder" "java/lang/Object") ∈ lw_tbl := lw_at lw_m11 137 rfl
theorem in_X14 : ∀ w ∈ wsX140, w ∈ lw_all := lw_in wsX140 [1896, 1898] (by decide +kernel) (by decide +kernel)
/-! WhalingLogs$StrikeOrder -/
set_option maxRecDepth 100000
def RX15 : String := "WhalingLogs$StrikeOrder"
def TX15 : u_T := fun k => match k with
  | 0 => ("WhalingLogs$StrikeOrder", "page", "I", true)
  | _ => ("WhalingLogs$StrikeOrder", "entry", "I", true)
def tyX15 : Nat → FieldType := fun k => match k with
  | 0 => .int
  | _ => .int
abbrev wsX150 : List Cond := u_ws RX15 TX15 2
theorem nmX15 : ∀ a, a < 2 → ∀ b, b < 2 → a ≠ b → (TX15 a).2.1 ≠ (TX15 b).2.1 := by decide +kernel
theorem tyX15_ok : ∀ k, k < 2 → parseFieldDescriptor (TX15 k).2.2.1 = some (tyX15 k) := by decide +kernel
abbrev cX15_init : ByteArray := prog_15_method_1_code
def yX15_init : MethodName := ⟨RX15, "<init>", "(II)V"⟩
def dkwX15_init_0 : List UInt8 := [42, 183, 0, 1, 42, 27, 181, 0, 7, 42, 28, 181, 0, 13, 177]
abbrev dktX15_init_0 : List UInt8 := dkwX15_init_0 ++ []
theorem dksX15_init_0 : cX15_init.data.toList.drop 0 = dktX15_init_0 := by decide +kernel
theorem dX15_init_0 : decode cX15_init 0 = .ok (.aload_n 0, 1) := dk_42 (dk_at dksX15_init_0 0 rfl rfl)
theorem dX15_init_1 : decode cX15_init 1 = .ok (.invokespecial 1, 3) := dk_183 0 1 (dk_at dksX15_init_0 1 rfl rfl)
theorem dX15_init_4 : decode cX15_init 4 = .ok (.aload_n 0, 1) := dk_42 (dk_at dksX15_init_0 4 rfl rfl)
theorem dX15_init_5 : decode cX15_init 5 = .ok (.iload_n 1, 1) := dk_27 (dk_at dksX15_init_0 5 rfl rfl)
theorem dX15_init_6 : decode cX15_init 6 = .ok (.putfield 7, 3) := dk_181 0 7 (dk_at dksX15_init_0 6 rfl rfl)
theorem dX15_init_9 : decode cX15_init 9 = .ok (.aload_n 0, 1) := dk_42 (dk_at dksX15_init_0 9 rfl rfl)
theorem dX15_init_10 : decode cX15_init 10 = .ok (.iload_n 2, 1) := dk_28 (dk_at dksX15_init_0 10 rfl rfl)
theorem dX15_init_11 : decode cX15_init 11 = .ok (.putfield 13, 3) := dk_181 0 13 (dk_at dksX15_init_0 11 rfl rfl)
theorem dX15_init_14 : decode cX15_init 14 = .ok (.return_, 1) := dk_177 (dk_at dksX15_init_0 14 rfl rfl)
abbrev cX15_does : ByteArray := prog_15_method_2_code
def yX15_does : MethodName := ⟨RX15, "does", "(LWhalingLogs$Archive;)V"⟩
def dkwX15_does_0 : List UInt8 := [43, 42, 180, 0, 7, 42, 180, 0, 13, 182, 0, 16, 61, 177]
abbrev dktX15_does_0 : List UInt8 := dkwX15_does_0 ++ []
theorem dksX15_does_0 : cX15_does.data.toList.drop 0 = dktX15_does_0 := by decide +kernel
theorem dX15_does_0 : decode cX15_does 0 = .ok (.aload_n 1, 1) := dk_43 (dk_at dksX15_does_0 0 rfl rfl)
theorem dX15_does_1 : decode cX15_does 1 = .ok (.aload_n 0, 1) := dk_42 (dk_at dksX15_does_0 1 rfl rfl)
theorem dX15_does_2 : decode cX15_does 2 = .ok (.getfield 7, 3) := dk_180 0 7 (dk_at dksX15_does_0 2 rfl rfl)
theorem dX15_does_5 : decode cX15_does 5 = .ok (.aload_n 0, 1) := dk_42 (dk_at dksX15_does_0 5 rfl rfl)
theorem dX15_does_6 : decode cX15_does 6 = .ok (.getfield 13, 3) := dk_180 0 13 (dk_at dksX15_does_0 6 rfl rfl)
theorem dX15_does_9 : decode cX15_does 9 = .ok (.invokevirtual 16, 3) := dk_182 0 16 (dk_at dksX15_does_0 9 rfl rfl)
theorem dX15_does_12 : decode cX15_does 12 = .ok (.istore_n 2, 1) := dk_61 (dk_at dksX15_does_0 12 rfl rfl)
theorem dX15_does_13 : decode cX15_does 13 = .ok (.return_, 1) := dk_177 (dk_at dksX15_does_0 13 rfl rfl)
theorem q140 : (Jvm.Cond.initialized "WhalingLogs$StrikeOrder") ∈ lw_all := lw_g (lw_at lw_m1 47 rfl) rfl
theorem q683 : (Jvm.Cond.selects "WhalingLogs$StrikeOrder" ({ cls := "java/lang/Object", name := "getClass", desc := "()Ljava/lang/Class;" } : Jvm.MethodName) ({ cls := "java/lang/Object", name := "getClass", desc := "()Ljava/lang/Class;" } : Jvm.MethodName)) ∈ lw_all := lw_g (lw_at lw_m3 110 rfl) rfl
theorem q1906 : (Jvm.Cond.instantiable "WhalingLogs$StrikeOrder" (2 : Nat)) ∈ lw_all := lw_g (lw_at lw_m8 133 rfl) rfl
theorem q1908 : (Jvm.Cond.instanceMethod ({ cls := "WhalingLogs$StrikeOrder", name := "<init>", desc := "(II)V" } : Jvm.MethodName)) ∈ lw_all := lw_g (lw_at lw_m8 135 rfl) rfl
theorem q1909 : (Jvm.Cond.code ({ cls := "WhalingLogs$StrikeOrder", name := "<init>", desc := "(II)V" } : Jvm.MethodName) prog_15_method_1_code (3 : Nat) (Option.none : Option Jvm.ClassFile.FieldType)) ∈ lw_all := lw_g (lw_at lw_m8 136 rfl) rfl
theorem q1910 : (Jvm.Cond.methodLink "WhalingLogs$StrikeOrder" (1 : Nat) ({ cls := "java/lang/Object", name := "<init>", desc := "()V" } : Jvm.MethodName)) ∈ lw_all := lw_g (lw_at lw_m8 137 rfl) rfl
theorem q1911 : (Jvm.Cond.fieldLink "WhalingLogs$StrikeOrder" (7 : Nat) "WhalingLogs$StrikeOrder" "page" "I") ∈ lw_all := lw_g (lw_at lw_m8 138 rfl) rfl
theorem q1912 : (Jvm.Cond.fieldLink "WhalingLogs$StrikeOrder" (13 : Nat) "WhalingLogs$StrikeOrder" "entry" "I") ∈ lw_all := lw_g (lw_at lw_m8 139 rfl) rfl
theorem q1913 : (Jvm.Cond.laysFinal "WhalingLogs$StrikeOrder" "WhalingLogs$StrikeOrder" "page" "I") ∈ lw_all := lw_g (lw_at lw_m8 140 rfl) rfl
theorem q1914 : (Jvm.Cond.soleField "WhalingLogs$StrikeOrder" "page") ∈ lw_all := lw_g (lw_at lw_m8 141 rfl) rfl
theorem q1915 : (Jvm.Cond.laysFinal "WhalingLogs$StrikeOrder" "WhalingLogs$StrikeOrder" "entry" "I") ∈ lw_all := lw_g (lw_at lw_m8 142 rfl) rfl
theorem q1916 : (Jvm.Cond.soleField "WhalingLogs$StrikeOrder" "entry") ∈ lw_all := lw_g (lw_at lw_m8 143 rfl) rfl
theorem q1917 : (Jvm.Cond.superclass "WhalingLogs$StrikeOrder" "java/lang/Object") ∈ lw_all := lw_g (lw_at lw_m8 144 rfl) rfl
theorem q1984 : (Jvm.Cond.castable "WhalingLogs$StrikeOrder" "WhalingLogs$Order") ∈ lw_tbl := lw_at lw_m8 211 rfl
theorem q1985 : (Jvm.Cond.selects "WhalingLogs$StrikeOrder" ({ cls := "WhalingLogs$Order", name := "does", desc := "(LWhalingLogs$Archive;)V" } : Jvm.MethodName) ({ cls := "WhalingLogs$StrikeOrder", name := "does", desc := "(LWhalingLogs$Archive;)V" } : Jvm.MethodName)) ∈ lw_all := lw_g (lw_at lw_m8 212 rfl) rfl
theorem q1986 : (Jvm.Cond.unhidden "WhalingLogs$StrikeOrder" "does" "(LWhalingLogs$Archive;)V") ∈ lw_tbl := lw_at lw_m8 213 rfl
theorem q1987 : (Jvm.Cond.instanceMethod ({ cls := "WhalingLogs$StrikeOrder", name := "does", desc := "(LWhalingLogs$Archive;)V" } : Jvm.MethodName)) ∈ lw_all := lw_g (lw_at lw_m8 214 rfl) rfl
theorem q1988 : (Jvm.Cond.publicMethod ({ cls := "WhalingLogs$StrikeOrder", name := "does", desc := "(LWhalingLogs$Archive;)V" } : Jvm.MethodName)) ∈ lw_tbl := lw_at lw_m8 215 rfl
theorem q1989 : (Jvm.Cond.code ({ cls := "WhalingLogs$StrikeOrder", name := "does", desc := "(LWhalingLogs$Archive;)V" } : Jvm.MethodName) prog_15_method_2_code (3 : Nat) (Option.none : Option Jvm.ClassFile.FieldType)) ∈ lw_all := lw_g (lw_at lw_m8 216 rfl) rfl
theorem q1990 : (Jvm.Cond.methodLink "WhalingLogs$StrikeOrder" (16 : Nat) ({ cls := "WhalingLogs$Archive", name := "strikes", desc := "(II)I" } : Jvm.MethodName)) ∈ lw_all := lw_g (lw_at lw_m8 217 rfl) rfl
theorem q2631 : (Jvm.Cond.castable "WhalingLogs$StrikeOrder" "java/lang/Object") ∈ lw_tbl := lw_at lw_m11 138 rfl
theorem in_X15 : ∀ w ∈ wsX150, w ∈ lw_all := lw_in wsX150 [1913, 1915] (by decide +kernel) (by decide +kernel)
/-! WhalingLogs$BlameOrder -/
set_option maxRecDepth 100000
def RX16 : String := "WhalingLogs$BlameOrder"
def TX16 : u_T := fun k => match k with
  | _ => ("WhalingLogs$BlameOrder", "witness", "I", true)
def tyX16 : Nat → FieldType := fun k => match k with
  | _ => .int
abbrev wsX160 : List Cond := u_ws RX16 TX16 1
theorem nmX16 : ∀ a, a < 1 → ∀ b, b < 1 → a ≠ b → (TX16 a).2.1 ≠ (TX16 b).2.1 := by decide +kernel
theorem tyX16_ok : ∀ k, k < 1 → parseFieldDescriptor (TX16 k).2.2.1 = some (tyX16 k) := by decide +kernel
abbrev cX16_init : ByteArray := prog_3_method_1_code
def yX16_init : MethodName := ⟨RX16, "<init>", "(I)V"⟩
def dkwX16_init_0 : List UInt8 := [42, 183, 0, 1, 42, 27, 181, 0, 7, 177]
abbrev dktX16_init_0 : List UInt8 := dkwX16_init_0 ++ []
theorem dksX16_init_0 : cX16_init.data.toList.drop 0 = dktX16_init_0 := by decide +kernel
theorem dX16_init_0 : decode cX16_init 0 = .ok (.aload_n 0, 1) := dk_42 (dk_at dksX16_init_0 0 rfl rfl)
theorem dX16_init_1 : decode cX16_init 1 = .ok (.invokespecial 1, 3) := dk_183 0 1 (dk_at dksX16_init_0 1 rfl rfl)
theorem dX16_init_4 : decode cX16_init 4 = .ok (.aload_n 0, 1) := dk_42 (dk_at dksX16_init_0 4 rfl rfl)
theorem dX16_init_5 : decode cX16_init 5 = .ok (.iload_n 1, 1) := dk_27 (dk_at dksX16_init_0 5 rfl rfl)
theorem dX16_init_6 : decode cX16_init 6 = .ok (.putfield 7, 3) := dk_181 0 7 (dk_at dksX16_init_0 6 rfl rfl)
theorem dX16_init_9 : decode cX16_init 9 = .ok (.return_, 1) := dk_177 (dk_at dksX16_init_0 9 rfl rfl)
abbrev cX16_does : ByteArray := prog_3_method_2_code
def yX16_does : MethodName := ⟨RX16, "does", "(LWhalingLogs$Archive;)V"⟩
def dkwX16_does_0 : List UInt8 := [43, 42, 180, 0, 7, 182, 0, 13, 61, 177]
abbrev dktX16_does_0 : List UInt8 := dkwX16_does_0 ++ []
theorem dksX16_does_0 : cX16_does.data.toList.drop 0 = dktX16_does_0 := by decide +kernel
theorem dX16_does_0 : decode cX16_does 0 = .ok (.aload_n 1, 1) := dk_43 (dk_at dksX16_does_0 0 rfl rfl)
theorem dX16_does_1 : decode cX16_does 1 = .ok (.aload_n 0, 1) := dk_42 (dk_at dksX16_does_0 1 rfl rfl)
theorem dX16_does_2 : decode cX16_does 2 = .ok (.getfield 7, 3) := dk_180 0 7 (dk_at dksX16_does_0 2 rfl rfl)
theorem dX16_does_5 : decode cX16_does 5 = .ok (.invokevirtual 13, 3) := dk_182 0 13 (dk_at dksX16_does_0 5 rfl rfl)
theorem dX16_does_8 : decode cX16_does 8 = .ok (.istore_n 2, 1) := dk_61 (dk_at dksX16_does_0 8 rfl rfl)
theorem dX16_does_9 : decode cX16_does 9 = .ok (.return_, 1) := dk_177 (dk_at dksX16_does_0 9 rfl rfl)
theorem q141 : (Jvm.Cond.initialized "WhalingLogs$BlameOrder") ∈ lw_all := lw_g (lw_at lw_m1 48 rfl) rfl
theorem q672 : (Jvm.Cond.selects "WhalingLogs$BlameOrder" ({ cls := "java/lang/Object", name := "getClass", desc := "()Ljava/lang/Class;" } : Jvm.MethodName) ({ cls := "java/lang/Object", name := "getClass", desc := "()Ljava/lang/Class;" } : Jvm.MethodName)) ∈ lw_all := lw_g (lw_at lw_m3 99 rfl) rfl
theorem q1919 : (Jvm.Cond.instantiable "WhalingLogs$BlameOrder" (1 : Nat)) ∈ lw_all := lw_g (lw_at lw_m8 146 rfl) rfl
theorem q1921 : (Jvm.Cond.instanceMethod ({ cls := "WhalingLogs$BlameOrder", name := "<init>", desc := "(I)V" } : Jvm.MethodName)) ∈ lw_all := lw_g (lw_at lw_m8 148 rfl) rfl
theorem q1922 : (Jvm.Cond.code ({ cls := "WhalingLogs$BlameOrder", name := "<init>", desc := "(I)V" } : Jvm.MethodName) prog_3_method_1_code (2 : Nat) (Option.none : Option Jvm.ClassFile.FieldType)) ∈ lw_all := lw_g (lw_at lw_m8 149 rfl) rfl
theorem q1923 : (Jvm.Cond.methodLink "WhalingLogs$BlameOrder" (1 : Nat) ({ cls := "java/lang/Object", name := "<init>", desc := "()V" } : Jvm.MethodName)) ∈ lw_all := lw_g (lw_at lw_m8 150 rfl) rfl
theorem q1924 : (Jvm.Cond.fieldLink "WhalingLogs$BlameOrder" (7 : Nat) "WhalingLogs$BlameOrder" "witness" "I") ∈ lw_all := lw_g (lw_at lw_m8 151 rfl) rfl
theorem q1925 : (Jvm.Cond.laysFinal "WhalingLogs$BlameOrder" "WhalingLogs$BlameOrder" "witness" "I") ∈ lw_all := lw_g (lw_at lw_m8 152 rfl) rfl
theorem q1926 : (Jvm.Cond.soleField "WhalingLogs$BlameOrder" "witness") ∈ lw_all := lw_g (lw_at lw_m8 153 rfl) rfl
theorem q1927 : (Jvm.Cond.superclass "WhalingLogs$BlameOrder" "java/lang/Object") ∈ lw_all := lw_g (lw_at lw_m8 154 rfl) rfl
theorem q1934 : (Jvm.Cond.castable "WhalingLogs$BlameOrder" "WhalingLogs$Order") ∈ lw_tbl := lw_at lw_m8 161 rfl
theorem q1935 : (Jvm.Cond.selects "WhalingLogs$BlameOrder" ({ cls := "WhalingLogs$Order", name := "does", desc := "(LWhalingLogs$Archive;)V" } : Jvm.MethodName) ({ cls := "WhalingLogs$BlameOrder", name := "does", desc := "(LWhalingLogs$Archive;)V" } : Jvm.MethodName)) ∈ lw_all := lw_g (lw_at lw_m8 162 rfl) rfl
theorem q1936 : (Jvm.Cond.unhidden "WhalingLogs$BlameOrder" "does" "(LWhalingLogs$Archive;)V") ∈ lw_tbl := lw_at lw_m8 163 rfl
theorem q1937 : (Jvm.Cond.instanceMethod ({ cls := "WhalingLogs$BlameOrder", name := "does", desc := "(LWhalingLogs$Archive;)V" } : Jvm.MethodName)) ∈ lw_all := lw_g (lw_at lw_m8 164 rfl) rfl
theorem q1938 : (Jvm.Cond.publicMethod ({ cls := "WhalingLogs$BlameOrder", name := "does", desc := "(LWhalingLogs$Archive;)V" } : Jvm.MethodName)) ∈ lw_tbl := lw_at lw_m8 165 rfl
theorem q1939 : (Jvm.Cond.code ({ cls := "WhalingLogs$BlameOrder", name := "does", desc := "(LWhalingLogs$Archive;)V" } : Jvm.MethodName) prog_3_method_2_code (3 : Nat) (Option.none : Option Jvm.ClassFile.FieldType)) ∈ lw_all := lw_g (lw_at lw_m8 166 rfl) rfl
theorem q1940 : (Jvm.Cond.methodLink "WhalingLogs$BlameOrder" (13 : Nat) ({ cls := "WhalingLogs$Archive", name := "blames", desc := "(I)I" } : Jvm.MethodName)) ∈ lw_all := lw_g (lw_at lw_m8 167 rfl) rfl
theorem q2632 : (Jvm.Cond.castable "WhalingLogs$BlameOrder" "java/lang/Object") ∈ lw_tbl := lw_at lw_m11 139 rfl
theorem in_X16 : ∀ w ∈ wsX160, w ∈ lw_all := lw_in wsX160 [1925] (by decide +kernel) (by decide +kernel)
/-! the law's own entry -/
set_option maxRecDepth 100000
abbrev cL_law : ByteArray := code
def dkwL_law_41 : List UInt8 := [3, 172, 132, 3, 5, 167, 251, 207, 4, 172]
abbrev dktL_law_41 : List UInt8 := dkwL_law_41 ++ []
def dkwL_law_40 : List UInt8 := [43, 182, 0, 148, 44, 182, 0, 151, 159, 0, 18, 3, 172, 43, 182, 0, 152, 44, 182, 0, 155, 159, 0, 5]
abbrev dktL_law_40 : List UInt8 := dkwL_law_40 ++ dktL_law_41
def dkwL_law_39 : List UInt8 := [4, 96, 46, 182, 0, 143, 159, 0, 44, 3, 172, 43, 182, 0, 144, 44, 182, 0, 147, 159, 0, 31, 3, 172]
abbrev dktL_law_39 : List UInt8 := dkwL_law_39 ++ dktL_law_40
def dkwL_law_38 : List UInt8 := [167, 0, 4, 3, 182, 0, 139, 159, 0, 67, 3, 172, 43, 42, 29, 4, 96, 46, 182, 0, 140, 44, 42, 29]
abbrev dktL_law_38 : List UInt8 := dkwL_law_38 ++ dktL_law_39
def dkwL_law_37 : List UInt8 := [46, 153, 0, 7, 4, 167, 0, 4, 3, 182, 0, 135, 44, 42, 29, 4, 96, 46, 153, 0, 7, 4]
abbrev dktL_law_37 : List UInt8 := dkwL_law_37 ++ dktL_law_38
def dkwL_law_36 : List UInt8 := [96, 46, 182, 0, 131, 44, 42, 29, 4, 96, 46, 182, 0, 134, 159, 0, 106, 3, 172, 43, 42, 29, 4, 96]
abbrev dktL_law_36 : List UInt8 := dkwL_law_36 ++ dktL_law_37
def dkwL_law_35 : List UInt8 := [4, 96, 46, 182, 0, 127, 44, 42, 29, 4, 96, 46, 182, 0, 130, 159, 0, 129, 3, 172, 43, 42, 29, 4]
abbrev dktL_law_35 : List UInt8 := dkwL_law_35 ++ dktL_law_36
def dkwL_law_34 : List UInt8 := [182, 0, 122, 159, 0, 165, 3, 172, 43, 182, 0, 123, 44, 182, 0, 126, 159, 0, 152, 3, 172, 43, 42, 29]
abbrev dktL_law_34 : List UInt8 := dkwL_law_34 ++ dktL_law_35
def dkwL_law_33 : List UInt8 := [46, 182, 0, 118, 159, 0, 188, 3, 172, 43, 42, 29, 4, 96, 46, 182, 0, 119, 44, 42, 29, 4, 96, 46]
abbrev dktL_law_33 : List UInt8 := dkwL_law_33 ++ dktL_law_34
def dkwL_law_32 : List UInt8 := [96, 46, 182, 0, 114, 159, 0, 211, 3, 172, 43, 42, 29, 4, 96, 46, 182, 0, 115, 44, 42, 29, 4, 96]
abbrev dktL_law_32 : List UInt8 := dkwL_law_32 ++ dktL_law_33
def dkwL_law_31 : List UInt8 := [172, 43, 42, 29, 4, 96, 46, 42, 29, 5, 96, 46, 182, 0, 111, 44, 42, 29, 4, 96, 46, 42, 29, 5]
abbrev dktL_law_31 : List UInt8 := dkwL_law_31 ++ dktL_law_32
def dkwL_law_30 : List UInt8 := [29, 4, 96, 46, 182, 0, 106, 159, 1, 1, 3, 172, 43, 182, 0, 107, 44, 182, 0, 110, 159, 0, 244, 3]
abbrev dktL_law_30 : List UInt8 := dkwL_law_30 ++ dktL_law_31
def dkwL_law_29 : List UInt8 := [42, 29, 4, 96, 46, 182, 0, 102, 159, 1, 24, 3, 172, 43, 42, 29, 4, 96, 46, 182, 0, 103, 44, 42]
abbrev dktL_law_29 : List UInt8 := dkwL_law_29 ++ dktL_law_30
def dkwL_law_28 : List UInt8 := [172, 43, 182, 0, 95, 44, 182, 0, 98, 159, 1, 47, 3, 172, 43, 42, 29, 4, 96, 46, 182, 0, 99, 44]
abbrev dktL_law_28 : List UInt8 := dkwL_law_28 ++ dktL_law_29
def dkwL_law_27 : List UInt8 := [182, 0, 87, 44, 182, 0, 90, 159, 1, 73, 3, 172, 43, 182, 0, 91, 44, 182, 0, 94, 159, 1, 60, 3]
abbrev dktL_law_27 : List UInt8 := dkwL_law_27 ++ dktL_law_28
def dkwL_law_26 : List UInt8 := [182, 0, 81, 159, 1, 99, 3, 172, 43, 182, 0, 82, 44, 182, 0, 86, 159, 1, 86, 3, 172, 43]
abbrev dktL_law_26 : List UInt8 := dkwL_law_26 ++ dktL_law_27
def dkwL_law_25 : List UInt8 := [42, 29, 4, 96, 46, 42, 29, 5, 96, 46, 182, 0, 78, 44, 42, 29, 4, 96, 46, 42, 29, 5, 96, 46]
abbrev dktL_law_25 : List UInt8 := dkwL_law_25 ++ dktL_law_26
def dkwL_law_24 : List UInt8 := [46, 182, 0, 74, 44, 42, 29, 4, 96, 46, 42, 29, 5, 96, 46, 182, 0, 77, 159, 1, 132, 3, 172, 43]
abbrev dktL_law_24 : List UInt8 := dkwL_law_24 ++ dktL_law_25
def dkwL_law_23 : List UInt8 := [46, 42, 29, 5, 96, 46, 182, 0, 73, 159, 1, 165, 3, 172, 43, 42, 29, 4, 96, 46, 42, 29, 5, 96]
abbrev dktL_law_23 : List UInt8 := dkwL_law_23 ++ dktL_law_24
def dkwL_law_22 : List UInt8 := [159, 1, 198, 3, 172, 43, 42, 29, 4, 96, 46, 42, 29, 5, 96, 46, 182, 0, 70, 44, 42, 29, 4, 96]
abbrev dktL_law_22 : List UInt8 := dkwL_law_22 ++ dktL_law_23
def dkwL_law_21 : List UInt8 := [182, 0, 65, 44, 42, 29, 4, 96, 46, 42, 29, 5, 96, 46, 42, 29, 6, 96, 46, 182, 0, 69]
abbrev dktL_law_21 : List UInt8 := dkwL_law_21 ++ dktL_law_22
def dkwL_law_20 : List UInt8 := [182, 0, 64, 159, 1, 241, 3, 172, 43, 42, 29, 4, 96, 46, 42, 29, 5, 96, 46, 42, 29, 6, 96, 46]
abbrev dktL_law_20 : List UInt8 := dkwL_law_20 ++ dktL_law_21
def dkwL_law_19 : List UInt8 := [29, 4, 96, 46, 42, 29, 5, 96, 46, 182, 0, 61, 44, 42, 29, 4, 96, 46, 42, 29, 5, 96, 46]
abbrev dktL_law_19 : List UInt8 := dkwL_law_19 ++ dktL_law_20
def dkwL_law_18 : List UInt8 := [42, 29, 4, 96, 46, 182, 0, 57, 44, 42, 29, 4, 96, 46, 182, 0, 60, 159, 2, 18, 3, 172, 43, 42]
abbrev dktL_law_18 : List UInt8 := dkwL_law_18 ++ dktL_law_19
def dkwL_law_17 : List UInt8 := [46, 182, 0, 53, 44, 42, 29, 4, 96, 46, 42, 29, 5, 96, 46, 182, 0, 56, 159, 2, 41, 3, 172, 43]
abbrev dktL_law_17 : List UInt8 := dkwL_law_17 ++ dktL_law_18
def dkwL_law_16 : List UInt8 := [46, 42, 29, 5, 96, 46, 182, 0, 52, 159, 2, 74, 3, 172, 43, 42, 29, 4, 96, 46, 42, 29, 5, 96]
abbrev dktL_law_16 : List UInt8 := dkwL_law_16 ++ dktL_law_17
def dkwL_law_15 : List UInt8 := [159, 2, 107, 3, 172, 43, 42, 29, 4, 96, 46, 42, 29, 5, 96, 46, 182, 0, 49, 44, 42, 29, 4, 96]
abbrev dktL_law_15 : List UInt8 := dkwL_law_15 ++ dktL_law_16
def dkwL_law_14 : List UInt8 := [159, 2, 130, 3, 172, 43, 42, 29, 4, 96, 46, 182, 0, 44, 44, 42, 29, 4, 96, 46, 182, 0, 48]
abbrev dktL_law_14 : List UInt8 := dkwL_law_14 ++ dktL_law_15
def dkwL_law_13 : List UInt8 := [46, 42, 29, 5, 96, 46, 182, 0, 40, 44, 42, 29, 4, 96, 46, 42, 29, 5, 96, 46, 182, 0, 43]
abbrev dktL_law_13 : List UInt8 := dkwL_law_13 ++ dktL_law_14
def dkwL_law_12 : List UInt8 := [46, 42, 29, 6, 96, 46, 42, 29, 7, 96, 46, 182, 0, 39, 159, 2, 163, 3, 172, 43, 42, 29, 4, 96]
abbrev dktL_law_12 : List UInt8 := dkwL_law_12 ++ dktL_law_13
def dkwL_law_11 : List UInt8 := [46, 42, 29, 6, 96, 46, 42, 29, 7, 96, 46, 182, 0, 35, 44, 42, 29, 4, 96, 46, 42, 29, 5, 96]
abbrev dktL_law_11 : List UInt8 := dkwL_law_11 ++ dktL_law_12
def dkwL_law_10 : List UInt8 := [46, 42, 29, 5, 96, 46, 182, 0, 34, 159, 2, 216, 3, 172, 43, 42, 29, 4, 96, 46, 42, 29, 5, 96]
abbrev dktL_law_10 : List UInt8 := dkwL_law_10 ++ dktL_law_11
def dkwL_law_9 : List UInt8 := [159, 2, 249, 3, 172, 43, 42, 29, 4, 96, 46, 42, 29, 5, 96, 46, 182, 0, 31, 44, 42, 29, 4, 96]
abbrev dktL_law_9 : List UInt8 := dkwL_law_9 ++ dktL_law_10
def dkwL_law_8 : List UInt8 := [46, 42, 29, 5, 96, 46, 182, 0, 27, 44, 42, 29, 4, 96, 46, 42, 29, 5, 96, 46, 182, 0, 30]
abbrev dktL_law_8 : List UInt8 := dkwL_law_8 ++ dktL_law_9
def dkwL_law_7 : List UInt8 := [44, 42, 29, 4, 96, 46, 42, 29, 5, 96, 46, 182, 0, 26, 159, 3, 26, 3, 172, 43, 42, 29, 4, 96]
abbrev dktL_law_7 : List UInt8 := dkwL_law_7 ++ dktL_law_8
def dkwL_law_6 : List UInt8 := [96, 46, 182, 0, 22, 159, 3, 59, 3, 172, 43, 42, 29, 4, 96, 46, 42, 29, 5, 96, 46, 182, 0, 23]
abbrev dktL_law_6 : List UInt8 := dkwL_law_6 ++ dktL_law_7
def dkwL_law_5 : List UInt8 := [172, 43, 42, 29, 4, 96, 46, 42, 29, 5, 96, 46, 182, 0, 18, 44, 42, 29, 4, 96, 46, 42, 29, 5]
abbrev dktL_law_5 : List UInt8 := dkwL_law_5 ++ dktL_law_6
def dkwL_law_4 : List UInt8 := [29, 4, 96, 46, 42, 29, 5, 96, 46, 153, 0, 7, 4, 167, 0, 4, 3, 182, 0, 17, 159, 3, 92, 3]
abbrev dktL_law_4 : List UInt8 := dkwL_law_4 ++ dktL_law_5
def dkwL_law_3 : List UInt8 := [43, 42, 29, 4, 96, 46, 42, 29, 5, 96, 46, 153, 0, 7, 4, 167, 0, 4, 3, 182, 0, 13, 44, 42]
abbrev dktL_law_3 : List UInt8 := dkwL_law_3 ++ dktL_law_4
def dkwL_law_2 : List UInt8 := [170, 0, 0, 0, 0, 0, 4, 32, 0, 0, 0, 0, 0, 0, 0, 33, 0, 0, 0, 152, 0, 0, 0, 201, 0, 0, 0, 234, 0, 0, 1, 11, 0, 0, 1, 44, 0, 0, 1, 77, 0, 0, 1, 130, 0, 0, 1, 163, 0, 0, 1, 186, 0, 0, 1, 219, 0, 0, 1, 252, 0, 0, 2, 19, 0, 0, 2, 52, 0, 0, 2, 95, 0, 0, 2, 128, 0, 0, 2, 161, 0, 0, 2, 194, 0, 0, 2, 207, 0, 0, 2, 220, 0, 0, 2, 233, 0, 0, 2, 246, 0, 0, 3, 13, 0, 0, 3, 36, 0, 0, 3, 49, 0, 0, 3, 82, 0, 0, 3, 105, 0, 0, 3, 128, 0, 0, 3, 141, 0, 0, 3, 164, 0, 0, 3, 187, 0, 0, 3, 226, 0, 0, 3, 249, 0, 0, 4, 6, 0, 0, 4, 19]
abbrev dktL_law_2 : List UInt8 := dkwL_law_2 ++ dktL_law_3
def dkwL_law_1 : List UInt8 := [163, 4, 47, 42, 29, 46, 16, 63, 126]
abbrev dktL_law_1 : List UInt8 := dkwL_law_1 ++ dktL_law_2
def dkwL_law_0 : List UInt8 := [187, 0, 7, 89, 183, 0, 9, 76, 187, 0, 10, 89, 183, 0, 12, 77, 3, 62, 29, 42, 190, 8, 100]
abbrev dktL_law_0 : List UInt8 := dkwL_law_0 ++ dktL_law_1
theorem dksL_law_0 : cL_law.data.toList.drop 0 = dktL_law_0 := by decide +kernel
theorem dksL_law_1 : cL_law.data.toList.drop 23 = dktL_law_1 := dk_seg dksL_law_0 23 rfl rfl
theorem dksL_law_2 : cL_law.data.toList.drop 32 = dktL_law_2 := dk_seg dksL_law_1 9 rfl rfl
theorem dksL_law_3 : cL_law.data.toList.drop 184 = dktL_law_3 := dk_seg dksL_law_2 152 rfl rfl
theorem dksL_law_4 : cL_law.data.toList.drop 208 = dktL_law_4 := dk_seg dksL_law_3 24 rfl rfl
theorem dksL_law_5 : cL_law.data.toList.drop 232 = dktL_law_5 := dk_seg dksL_law_4 24 rfl rfl
theorem dksL_law_6 : cL_law.data.toList.drop 256 = dktL_law_6 := dk_seg dksL_law_5 24 rfl rfl
theorem dksL_law_7 : cL_law.data.toList.drop 280 = dktL_law_7 := dk_seg dksL_law_6 24 rfl rfl
theorem dksL_law_8 : cL_law.data.toList.drop 304 = dktL_law_8 := dk_seg dksL_law_7 24 rfl rfl
theorem dksL_law_9 : cL_law.data.toList.drop 327 = dktL_law_9 := dk_seg dksL_law_8 23 rfl rfl
theorem dksL_law_10 : cL_law.data.toList.drop 351 = dktL_law_10 := dk_seg dksL_law_9 24 rfl rfl
theorem dksL_law_11 : cL_law.data.toList.drop 375 = dktL_law_11 := dk_seg dksL_law_10 24 rfl rfl
theorem dksL_law_12 : cL_law.data.toList.drop 399 = dktL_law_12 := dk_seg dksL_law_11 24 rfl rfl
theorem dksL_law_13 : cL_law.data.toList.drop 423 = dktL_law_13 := dk_seg dksL_law_12 24 rfl rfl
theorem dksL_law_14 : cL_law.data.toList.drop 446 = dktL_law_14 := dk_seg dksL_law_13 23 rfl rfl
theorem dksL_law_15 : cL_law.data.toList.drop 469 = dktL_law_15 := dk_seg dksL_law_14 23 rfl rfl
theorem dksL_law_16 : cL_law.data.toList.drop 493 = dktL_law_16 := dk_seg dksL_law_15 24 rfl rfl
theorem dksL_law_17 : cL_law.data.toList.drop 517 = dktL_law_17 := dk_seg dksL_law_16 24 rfl rfl
theorem dksL_law_18 : cL_law.data.toList.drop 541 = dktL_law_18 := dk_seg dksL_law_17 24 rfl rfl
theorem dksL_law_19 : cL_law.data.toList.drop 565 = dktL_law_19 := dk_seg dksL_law_18 24 rfl rfl
theorem dksL_law_20 : cL_law.data.toList.drop 588 = dktL_law_20 := dk_seg dksL_law_19 23 rfl rfl
theorem dksL_law_21 : cL_law.data.toList.drop 612 = dktL_law_21 := dk_seg dksL_law_20 24 rfl rfl
theorem dksL_law_22 : cL_law.data.toList.drop 634 = dktL_law_22 := dk_seg dksL_law_21 22 rfl rfl
theorem dksL_law_23 : cL_law.data.toList.drop 658 = dktL_law_23 := dk_seg dksL_law_22 24 rfl rfl
theorem dksL_law_24 : cL_law.data.toList.drop 682 = dktL_law_24 := dk_seg dksL_law_23 24 rfl rfl
theorem dksL_law_25 : cL_law.data.toList.drop 706 = dktL_law_25 := dk_seg dksL_law_24 24 rfl rfl
theorem dksL_law_26 : cL_law.data.toList.drop 730 = dktL_law_26 := dk_seg dksL_law_25 24 rfl rfl
theorem dksL_law_27 : cL_law.data.toList.drop 752 = dktL_law_27 := dk_seg dksL_law_26 22 rfl rfl
theorem dksL_law_28 : cL_law.data.toList.drop 776 = dktL_law_28 := dk_seg dksL_law_27 24 rfl rfl
theorem dksL_law_29 : cL_law.data.toList.drop 800 = dktL_law_29 := dk_seg dksL_law_28 24 rfl rfl
theorem dksL_law_30 : cL_law.data.toList.drop 824 = dktL_law_30 := dk_seg dksL_law_29 24 rfl rfl
theorem dksL_law_31 : cL_law.data.toList.drop 848 = dktL_law_31 := dk_seg dksL_law_30 24 rfl rfl
theorem dksL_law_32 : cL_law.data.toList.drop 872 = dktL_law_32 := dk_seg dksL_law_31 24 rfl rfl
theorem dksL_law_33 : cL_law.data.toList.drop 896 = dktL_law_33 := dk_seg dksL_law_32 24 rfl rfl
theorem dksL_law_34 : cL_law.data.toList.drop 920 = dktL_law_34 := dk_seg dksL_law_33 24 rfl rfl
theorem dksL_law_35 : cL_law.data.toList.drop 944 = dktL_law_35 := dk_seg dksL_law_34 24 rfl rfl
theorem dksL_law_36 : cL_law.data.toList.drop 968 = dktL_law_36 := dk_seg dksL_law_35 24 rfl rfl
theorem dksL_law_37 : cL_law.data.toList.drop 992 = dktL_law_37 := dk_seg dksL_law_36 24 rfl rfl
theorem dksL_law_38 : cL_law.data.toList.drop 1014 = dktL_law_38 := dk_seg dksL_law_37 22 rfl rfl
theorem dksL_law_39 : cL_law.data.toList.drop 1038 = dktL_law_39 := dk_seg dksL_law_38 24 rfl rfl
theorem dksL_law_40 : cL_law.data.toList.drop 1062 = dktL_law_40 := dk_seg dksL_law_39 24 rfl rfl
theorem dksL_law_41 : cL_law.data.toList.drop 1086 = dktL_law_41 := dk_seg dksL_law_40 24 rfl rfl
theorem dL_law_0 : decode cL_law 0 = .ok (.new 7, 3) := dk_187 0 7 (dk_at dksL_law_0 0 rfl rfl)
theorem dL_law_3 : decode cL_law 3 = .ok (.dup, 1) := dk_89 (dk_at dksL_law_0 3 rfl rfl)
theorem dL_law_4 : decode cL_law 4 = .ok (.invokespecial 9, 3) := dk_183 0 9 (dk_at dksL_law_0 4 rfl rfl)
theorem dL_law_7 : decode cL_law 7 = .ok (.astore_n 1, 1) := dk_76 (dk_at dksL_law_0 7 rfl rfl)
theorem dL_law_8 : decode cL_law 8 = .ok (.new 10, 3) := dk_187 0 10 (dk_at dksL_law_0 8 rfl rfl)
theorem dL_law_11 : decode cL_law 11 = .ok (.dup, 1) := dk_89 (dk_at dksL_law_0 11 rfl rfl)
theorem dL_law_12 : decode cL_law 12 = .ok (.invokespecial 12, 3) := dk_183 0 12 (dk_at dksL_law_0 12 rfl rfl)
theorem dL_law_15 : decode cL_law 15 = .ok (.astore_n 2, 1) := dk_77 (dk_at dksL_law_0 15 rfl rfl)
theorem dL_law_16 : decode cL_law 16 = .ok (.iconst 0, 1) := dk_3 (dk_at dksL_law_0 16 rfl rfl)
theorem dL_law_17 : decode cL_law 17 = .ok (.istore_n 3, 1) := dk_62 (dk_at dksL_law_0 17 rfl rfl)
theorem dL_law_18 : decode cL_law 18 = .ok (.iload_n 3, 1) := dk_29 (dk_at dksL_law_0 18 rfl rfl)
theorem dL_law_19 : decode cL_law 19 = .ok (.aload_n 0, 1) := dk_42 (dk_at dksL_law_0 19 rfl rfl)
theorem dL_law_20 : decode cL_law 20 = .ok (.arraylength, 1) := dk_190 (dk_at dksL_law_0 20 rfl rfl)
theorem dL_law_21 : decode cL_law 21 = .ok (.iconst 5, 1) := dk_8 (dk_at dksL_law_0 21 rfl rfl)
theorem dL_law_22 : decode cL_law 22 = .ok (.isub, 1) := dk_100 (dk_at dksL_law_0 22 rfl rfl)
theorem dL_law_23 : decode cL_law 23 = .ok (.if_icmp .gt 1071, 3) := dk_163 4 47 (dk_at dksL_law_1 0 rfl rfl)
theorem dL_law_26 : decode cL_law 26 = .ok (.aload_n 0, 1) := dk_42 (dk_at dksL_law_1 3 rfl rfl)
theorem dL_law_27 : decode cL_law 27 = .ok (.iload_n 3, 1) := dk_29 (dk_at dksL_law_1 4 rfl rfl)
theorem dL_law_28 : decode cL_law 28 = .ok (.iaload, 1) := dk_46 (dk_at dksL_law_1 5 rfl rfl)
theorem dL_law_29 : decode cL_law 29 = .ok (.bipush 63, 2) := dk_16 63 (dk_at dksL_law_1 6 rfl rfl)
theorem dL_law_31 : decode cL_law 31 = .ok (.iand, 1) := dk_126 (dk_at dksL_law_1 8 rfl rfl)
theorem dL_law_32 : decode cL_law 32 = .ok (.tableswitch 1056 0 33 #[152, 201, 234, 267, 300, 333, 386, 419, 442, 475, 508, 531, 564, 607, 640, 673, 706, 719, 732, 745, 758, 781, 804, 817, 850, 873, 896, 909, 932, 955, 994, 1017, 1030, 1043], 152) := by decide +kernel
theorem dL_law_184 : decode cL_law 184 = .ok (.aload_n 1, 1) := dk_43 (dk_at dksL_law_3 0 rfl rfl)
theorem dL_law_185 : decode cL_law 185 = .ok (.aload_n 0, 1) := dk_42 (dk_at dksL_law_3 1 rfl rfl)
theorem dL_law_186 : decode cL_law 186 = .ok (.iload_n 3, 1) := dk_29 (dk_at dksL_law_3 2 rfl rfl)
theorem dL_law_187 : decode cL_law 187 = .ok (.iconst 1, 1) := dk_4 (dk_at dksL_law_3 3 rfl rfl)
theorem dL_law_188 : decode cL_law 188 = .ok (.iadd, 1) := dk_96 (dk_at dksL_law_3 4 rfl rfl)
theorem dL_law_189 : decode cL_law 189 = .ok (.iaload, 1) := dk_46 (dk_at dksL_law_3 5 rfl rfl)
theorem dL_law_190 : decode cL_law 190 = .ok (.aload_n 0, 1) := dk_42 (dk_at dksL_law_3 6 rfl rfl)
theorem dL_law_191 : decode cL_law 191 = .ok (.iload_n 3, 1) := dk_29 (dk_at dksL_law_3 7 rfl rfl)
theorem dL_law_192 : decode cL_law 192 = .ok (.iconst 2, 1) := dk_5 (dk_at dksL_law_3 8 rfl rfl)
theorem dL_law_193 : decode cL_law 193 = .ok (.iadd, 1) := dk_96 (dk_at dksL_law_3 9 rfl rfl)
theorem dL_law_194 : decode cL_law 194 = .ok (.iaload, 1) := dk_46 (dk_at dksL_law_3 10 rfl rfl)
theorem dL_law_195 : decode cL_law 195 = .ok (.ifCond .eq 7, 3) := dk_153 0 7 (dk_at dksL_law_3 11 rfl rfl)
theorem dL_law_198 : decode cL_law 198 = .ok (.iconst 1, 1) := dk_4 (dk_at dksL_law_3 14 rfl rfl)
theorem dL_law_199 : decode cL_law 199 = .ok (.goto 4, 3) := dk_167 0 4 (dk_at dksL_law_3 15 rfl rfl)
theorem dL_law_202 : decode cL_law 202 = .ok (.iconst 0, 1) := dk_3 (dk_at dksL_law_3 18 rfl rfl)
theorem dL_law_203 : decode cL_law 203 = .ok (.invokevirtual 13, 3) := dk_182 0 13 (dk_at dksL_law_3 19 rfl rfl)
theorem dL_law_206 : decode cL_law 206 = .ok (.aload_n 2, 1) := dk_44 (dk_at dksL_law_3 22 rfl rfl)
theorem dL_law_207 : decode cL_law 207 = .ok (.aload_n 0, 1) := dk_42 (dk_at dksL_law_3 23 rfl rfl)
theorem dL_law_208 : decode cL_law 208 = .ok (.iload_n 3, 1) := dk_29 (dk_at dksL_law_4 0 rfl rfl)
theorem dL_law_209 : decode cL_law 209 = .ok (.iconst 1, 1) := dk_4 (dk_at dksL_law_4 1 rfl rfl)
theorem dL_law_210 : decode cL_law 210 = .ok (.iadd, 1) := dk_96 (dk_at dksL_law_4 2 rfl rfl)
theorem dL_law_211 : decode cL_law 211 = .ok (.iaload, 1) := dk_46 (dk_at dksL_law_4 3 rfl rfl)
theorem dL_law_212 : decode cL_law 212 = .ok (.aload_n 0, 1) := dk_42 (dk_at dksL_law_4 4 rfl rfl)
theorem dL_law_213 : decode cL_law 213 = .ok (.iload_n 3, 1) := dk_29 (dk_at dksL_law_4 5 rfl rfl)
theorem dL_law_214 : decode cL_law 214 = .ok (.iconst 2, 1) := dk_5 (dk_at dksL_law_4 6 rfl rfl)
theorem dL_law_215 : decode cL_law 215 = .ok (.iadd, 1) := dk_96 (dk_at dksL_law_4 7 rfl rfl)
theorem dL_law_216 : decode cL_law 216 = .ok (.iaload, 1) := dk_46 (dk_at dksL_law_4 8 rfl rfl)
theorem dL_law_217 : decode cL_law 217 = .ok (.ifCond .eq 7, 3) := dk_153 0 7 (dk_at dksL_law_4 9 rfl rfl)
theorem dL_law_220 : decode cL_law 220 = .ok (.iconst 1, 1) := dk_4 (dk_at dksL_law_4 12 rfl rfl)
theorem dL_law_221 : decode cL_law 221 = .ok (.goto 4, 3) := dk_167 0 4 (dk_at dksL_law_4 13 rfl rfl)
theorem dL_law_224 : decode cL_law 224 = .ok (.iconst 0, 1) := dk_3 (dk_at dksL_law_4 16 rfl rfl)
theorem dL_law_225 : decode cL_law 225 = .ok (.invokevirtual 17, 3) := dk_182 0 17 (dk_at dksL_law_4 17 rfl rfl)
theorem dL_law_228 : decode cL_law 228 = .ok (.if_icmp .eq 860, 3) := dk_159 3 92 (dk_at dksL_law_4 20 rfl rfl)
theorem dL_law_231 : decode cL_law 231 = .ok (.iconst 0, 1) := dk_3 (dk_at dksL_law_4 23 rfl rfl)
theorem dL_law_232 : decode cL_law 232 = .ok (.ireturn, 1) := dk_172 (dk_at dksL_law_5 0 rfl rfl)
theorem dL_law_233 : decode cL_law 233 = .ok (.aload_n 1, 1) := dk_43 (dk_at dksL_law_5 1 rfl rfl)
theorem dL_law_234 : decode cL_law 234 = .ok (.aload_n 0, 1) := dk_42 (dk_at dksL_law_5 2 rfl rfl)
theorem dL_law_235 : decode cL_law 235 = .ok (.iload_n 3, 1) := dk_29 (dk_at dksL_law_5 3 rfl rfl)
theorem dL_law_236 : decode cL_law 236 = .ok (.iconst 1, 1) := dk_4 (dk_at dksL_law_5 4 rfl rfl)
theorem dL_law_237 : decode cL_law 237 = .ok (.iadd, 1) := dk_96 (dk_at dksL_law_5 5 rfl rfl)
theorem dL_law_238 : decode cL_law 238 = .ok (.iaload, 1) := dk_46 (dk_at dksL_law_5 6 rfl rfl)
theorem dL_law_239 : decode cL_law 239 = .ok (.aload_n 0, 1) := dk_42 (dk_at dksL_law_5 7 rfl rfl)
theorem dL_law_240 : decode cL_law 240 = .ok (.iload_n 3, 1) := dk_29 (dk_at dksL_law_5 8 rfl rfl)
theorem dL_law_241 : decode cL_law 241 = .ok (.iconst 2, 1) := dk_5 (dk_at dksL_law_5 9 rfl rfl)
theorem dL_law_242 : decode cL_law 242 = .ok (.iadd, 1) := dk_96 (dk_at dksL_law_5 10 rfl rfl)
theorem dL_law_243 : decode cL_law 243 = .ok (.iaload, 1) := dk_46 (dk_at dksL_law_5 11 rfl rfl)
theorem dL_law_244 : decode cL_law 244 = .ok (.invokevirtual 18, 3) := dk_182 0 18 (dk_at dksL_law_5 12 rfl rfl)
theorem dL_law_247 : decode cL_law 247 = .ok (.aload_n 2, 1) := dk_44 (dk_at dksL_law_5 15 rfl rfl)
theorem dL_law_248 : decode cL_law 248 = .ok (.aload_n 0, 1) := dk_42 (dk_at dksL_law_5 16 rfl rfl)
theorem dL_law_249 : decode cL_law 249 = .ok (.iload_n 3, 1) := dk_29 (dk_at dksL_law_5 17 rfl rfl)
theorem dL_law_250 : decode cL_law 250 = .ok (.iconst 1, 1) := dk_4 (dk_at dksL_law_5 18 rfl rfl)
theorem dL_law_251 : decode cL_law 251 = .ok (.iadd, 1) := dk_96 (dk_at dksL_law_5 19 rfl rfl)
theorem dL_law_252 : decode cL_law 252 = .ok (.iaload, 1) := dk_46 (dk_at dksL_law_5 20 rfl rfl)
theorem dL_law_253 : decode cL_law 253 = .ok (.aload_n 0, 1) := dk_42 (dk_at dksL_law_5 21 rfl rfl)
theorem dL_law_254 : decode cL_law 254 = .ok (.iload_n 3, 1) := dk_29 (dk_at dksL_law_5 22 rfl rfl)
theorem dL_law_255 : decode cL_law 255 = .ok (.iconst 2, 1) := dk_5 (dk_at dksL_law_5 23 rfl rfl)
theorem dL_law_256 : decode cL_law 256 = .ok (.iadd, 1) := dk_96 (dk_at dksL_law_6 0 rfl rfl)
theorem dL_law_257 : decode cL_law 257 = .ok (.iaload, 1) := dk_46 (dk_at dksL_law_6 1 rfl rfl)
theorem dL_law_258 : decode cL_law 258 = .ok (.invokevirtual 22, 3) := dk_182 0 22 (dk_at dksL_law_6 2 rfl rfl)
theorem dL_law_261 : decode cL_law 261 = .ok (.if_icmp .eq 827, 3) := dk_159 3 59 (dk_at dksL_law_6 5 rfl rfl)
theorem dL_law_264 : decode cL_law 264 = .ok (.iconst 0, 1) := dk_3 (dk_at dksL_law_6 8 rfl rfl)
theorem dL_law_265 : decode cL_law 265 = .ok (.ireturn, 1) := dk_172 (dk_at dksL_law_6 9 rfl rfl)
theorem dL_law_266 : decode cL_law 266 = .ok (.aload_n 1, 1) := dk_43 (dk_at dksL_law_6 10 rfl rfl)
theorem dL_law_267 : decode cL_law 267 = .ok (.aload_n 0, 1) := dk_42 (dk_at dksL_law_6 11 rfl rfl)
theorem dL_law_268 : decode cL_law 268 = .ok (.iload_n 3, 1) := dk_29 (dk_at dksL_law_6 12 rfl rfl)
theorem dL_law_269 : decode cL_law 269 = .ok (.iconst 1, 1) := dk_4 (dk_at dksL_law_6 13 rfl rfl)
theorem dL_law_270 : decode cL_law 270 = .ok (.iadd, 1) := dk_96 (dk_at dksL_law_6 14 rfl rfl)
theorem dL_law_271 : decode cL_law 271 = .ok (.iaload, 1) := dk_46 (dk_at dksL_law_6 15 rfl rfl)
theorem dL_law_272 : decode cL_law 272 = .ok (.aload_n 0, 1) := dk_42 (dk_at dksL_law_6 16 rfl rfl)
theorem dL_law_273 : decode cL_law 273 = .ok (.iload_n 3, 1) := dk_29 (dk_at dksL_law_6 17 rfl rfl)
theorem dL_law_274 : decode cL_law 274 = .ok (.iconst 2, 1) := dk_5 (dk_at dksL_law_6 18 rfl rfl)
theorem dL_law_275 : decode cL_law 275 = .ok (.iadd, 1) := dk_96 (dk_at dksL_law_6 19 rfl rfl)
theorem dL_law_276 : decode cL_law 276 = .ok (.iaload, 1) := dk_46 (dk_at dksL_law_6 20 rfl rfl)
theorem dL_law_277 : decode cL_law 277 = .ok (.invokevirtual 23, 3) := dk_182 0 23 (dk_at dksL_law_6 21 rfl rfl)
theorem dL_law_280 : decode cL_law 280 = .ok (.aload_n 2, 1) := dk_44 (dk_at dksL_law_7 0 rfl rfl)
theorem dL_law_281 : decode cL_law 281 = .ok (.aload_n 0, 1) := dk_42 (dk_at dksL_law_7 1 rfl rfl)
theorem dL_law_282 : decode cL_law 282 = .ok (.iload_n 3, 1) := dk_29 (dk_at dksL_law_7 2 rfl rfl)
theorem dL_law_283 : decode cL_law 283 = .ok (.iconst 1, 1) := dk_4 (dk_at dksL_law_7 3 rfl rfl)
theorem dL_law_284 : decode cL_law 284 = .ok (.iadd, 1) := dk_96 (dk_at dksL_law_7 4 rfl rfl)
theorem dL_law_285 : decode cL_law 285 = .ok (.iaload, 1) := dk_46 (dk_at dksL_law_7 5 rfl rfl)
theorem dL_law_286 : decode cL_law 286 = .ok (.aload_n 0, 1) := dk_42 (dk_at dksL_law_7 6 rfl rfl)
theorem dL_law_287 : decode cL_law 287 = .ok (.iload_n 3, 1) := dk_29 (dk_at dksL_law_7 7 rfl rfl)
theorem dL_law_288 : decode cL_law 288 = .ok (.iconst 2, 1) := dk_5 (dk_at dksL_law_7 8 rfl rfl)
theorem dL_law_289 : decode cL_law 289 = .ok (.iadd, 1) := dk_96 (dk_at dksL_law_7 9 rfl rfl)
theorem dL_law_290 : decode cL_law 290 = .ok (.iaload, 1) := dk_46 (dk_at dksL_law_7 10 rfl rfl)
theorem dL_law_291 : decode cL_law 291 = .ok (.invokevirtual 26, 3) := dk_182 0 26 (dk_at dksL_law_7 11 rfl rfl)
theorem dL_law_294 : decode cL_law 294 = .ok (.if_icmp .eq 794, 3) := dk_159 3 26 (dk_at dksL_law_7 14 rfl rfl)
theorem dL_law_297 : decode cL_law 297 = .ok (.iconst 0, 1) := dk_3 (dk_at dksL_law_7 17 rfl rfl)
theorem dL_law_298 : decode cL_law 298 = .ok (.ireturn, 1) := dk_172 (dk_at dksL_law_7 18 rfl rfl)
theorem dL_law_299 : decode cL_law 299 = .ok (.aload_n 1, 1) := dk_43 (dk_at dksL_law_7 19 rfl rfl)
theorem dL_law_300 : decode cL_law 300 = .ok (.aload_n 0, 1) := dk_42 (dk_at dksL_law_7 20 rfl rfl)
theorem dL_law_301 : decode cL_law 301 = .ok (.iload_n 3, 1) := dk_29 (dk_at dksL_law_7 21 rfl rfl)
theorem dL_law_302 : decode cL_law 302 = .ok (.iconst 1, 1) := dk_4 (dk_at dksL_law_7 22 rfl rfl)
theorem dL_law_303 : decode cL_law 303 = .ok (.iadd, 1) := dk_96 (dk_at dksL_law_7 23 rfl rfl)
theorem dL_law_304 : decode cL_law 304 = .ok (.iaload, 1) := dk_46 (dk_at dksL_law_8 0 rfl rfl)
theorem dL_law_305 : decode cL_law 305 = .ok (.aload_n 0, 1) := dk_42 (dk_at dksL_law_8 1 rfl rfl)
theorem dL_law_306 : decode cL_law 306 = .ok (.iload_n 3, 1) := dk_29 (dk_at dksL_law_8 2 rfl rfl)
theorem dL_law_307 : decode cL_law 307 = .ok (.iconst 2, 1) := dk_5 (dk_at dksL_law_8 3 rfl rfl)
theorem dL_law_308 : decode cL_law 308 = .ok (.iadd, 1) := dk_96 (dk_at dksL_law_8 4 rfl rfl)
theorem dL_law_309 : decode cL_law 309 = .ok (.iaload, 1) := dk_46 (dk_at dksL_law_8 5 rfl rfl)
theorem dL_law_310 : decode cL_law 310 = .ok (.invokevirtual 27, 3) := dk_182 0 27 (dk_at dksL_law_8 6 rfl rfl)
theorem dL_law_313 : decode cL_law 313 = .ok (.aload_n 2, 1) := dk_44 (dk_at dksL_law_8 9 rfl rfl)
theorem dL_law_314 : decode cL_law 314 = .ok (.aload_n 0, 1) := dk_42 (dk_at dksL_law_8 10 rfl rfl)
theorem dL_law_315 : decode cL_law 315 = .ok (.iload_n 3, 1) := dk_29 (dk_at dksL_law_8 11 rfl rfl)
theorem dL_law_316 : decode cL_law 316 = .ok (.iconst 1, 1) := dk_4 (dk_at dksL_law_8 12 rfl rfl)
theorem dL_law_317 : decode cL_law 317 = .ok (.iadd, 1) := dk_96 (dk_at dksL_law_8 13 rfl rfl)
theorem dL_law_318 : decode cL_law 318 = .ok (.iaload, 1) := dk_46 (dk_at dksL_law_8 14 rfl rfl)
theorem dL_law_319 : decode cL_law 319 = .ok (.aload_n 0, 1) := dk_42 (dk_at dksL_law_8 15 rfl rfl)
theorem dL_law_320 : decode cL_law 320 = .ok (.iload_n 3, 1) := dk_29 (dk_at dksL_law_8 16 rfl rfl)
theorem dL_law_321 : decode cL_law 321 = .ok (.iconst 2, 1) := dk_5 (dk_at dksL_law_8 17 rfl rfl)
theorem dL_law_322 : decode cL_law 322 = .ok (.iadd, 1) := dk_96 (dk_at dksL_law_8 18 rfl rfl)
theorem dL_law_323 : decode cL_law 323 = .ok (.iaload, 1) := dk_46 (dk_at dksL_law_8 19 rfl rfl)
theorem dL_law_324 : decode cL_law 324 = .ok (.invokevirtual 30, 3) := dk_182 0 30 (dk_at dksL_law_8 20 rfl rfl)
theorem dL_law_327 : decode cL_law 327 = .ok (.if_icmp .eq 761, 3) := dk_159 2 249 (dk_at dksL_law_9 0 rfl rfl)
theorem dL_law_330 : decode cL_law 330 = .ok (.iconst 0, 1) := dk_3 (dk_at dksL_law_9 3 rfl rfl)
theorem dL_law_331 : decode cL_law 331 = .ok (.ireturn, 1) := dk_172 (dk_at dksL_law_9 4 rfl rfl)
theorem dL_law_332 : decode cL_law 332 = .ok (.aload_n 1, 1) := dk_43 (dk_at dksL_law_9 5 rfl rfl)
theorem dL_law_333 : decode cL_law 333 = .ok (.aload_n 0, 1) := dk_42 (dk_at dksL_law_9 6 rfl rfl)
theorem dL_law_334 : decode cL_law 334 = .ok (.iload_n 3, 1) := dk_29 (dk_at dksL_law_9 7 rfl rfl)
theorem dL_law_335 : decode cL_law 335 = .ok (.iconst 1, 1) := dk_4 (dk_at dksL_law_9 8 rfl rfl)
theorem dL_law_336 : decode cL_law 336 = .ok (.iadd, 1) := dk_96 (dk_at dksL_law_9 9 rfl rfl)
theorem dL_law_337 : decode cL_law 337 = .ok (.iaload, 1) := dk_46 (dk_at dksL_law_9 10 rfl rfl)
theorem dL_law_338 : decode cL_law 338 = .ok (.aload_n 0, 1) := dk_42 (dk_at dksL_law_9 11 rfl rfl)
theorem dL_law_339 : decode cL_law 339 = .ok (.iload_n 3, 1) := dk_29 (dk_at dksL_law_9 12 rfl rfl)
theorem dL_law_340 : decode cL_law 340 = .ok (.iconst 2, 1) := dk_5 (dk_at dksL_law_9 13 rfl rfl)
theorem dL_law_341 : decode cL_law 341 = .ok (.iadd, 1) := dk_96 (dk_at dksL_law_9 14 rfl rfl)
theorem dL_law_342 : decode cL_law 342 = .ok (.iaload, 1) := dk_46 (dk_at dksL_law_9 15 rfl rfl)
theorem dL_law_343 : decode cL_law 343 = .ok (.invokevirtual 31, 3) := dk_182 0 31 (dk_at dksL_law_9 16 rfl rfl)
theorem dL_law_346 : decode cL_law 346 = .ok (.aload_n 2, 1) := dk_44 (dk_at dksL_law_9 19 rfl rfl)
theorem dL_law_347 : decode cL_law 347 = .ok (.aload_n 0, 1) := dk_42 (dk_at dksL_law_9 20 rfl rfl)
theorem dL_law_348 : decode cL_law 348 = .ok (.iload_n 3, 1) := dk_29 (dk_at dksL_law_9 21 rfl rfl)
theorem dL_law_349 : decode cL_law 349 = .ok (.iconst 1, 1) := dk_4 (dk_at dksL_law_9 22 rfl rfl)
theorem dL_law_350 : decode cL_law 350 = .ok (.iadd, 1) := dk_96 (dk_at dksL_law_9 23 rfl rfl)
theorem dL_law_351 : decode cL_law 351 = .ok (.iaload, 1) := dk_46 (dk_at dksL_law_10 0 rfl rfl)
theorem dL_law_352 : decode cL_law 352 = .ok (.aload_n 0, 1) := dk_42 (dk_at dksL_law_10 1 rfl rfl)
theorem dL_law_353 : decode cL_law 353 = .ok (.iload_n 3, 1) := dk_29 (dk_at dksL_law_10 2 rfl rfl)
theorem dL_law_354 : decode cL_law 354 = .ok (.iconst 2, 1) := dk_5 (dk_at dksL_law_10 3 rfl rfl)
theorem dL_law_355 : decode cL_law 355 = .ok (.iadd, 1) := dk_96 (dk_at dksL_law_10 4 rfl rfl)
theorem dL_law_356 : decode cL_law 356 = .ok (.iaload, 1) := dk_46 (dk_at dksL_law_10 5 rfl rfl)
theorem dL_law_357 : decode cL_law 357 = .ok (.invokevirtual 34, 3) := dk_182 0 34 (dk_at dksL_law_10 6 rfl rfl)
theorem dL_law_360 : decode cL_law 360 = .ok (.if_icmp .eq 728, 3) := dk_159 2 216 (dk_at dksL_law_10 9 rfl rfl)
theorem dL_law_363 : decode cL_law 363 = .ok (.iconst 0, 1) := dk_3 (dk_at dksL_law_10 12 rfl rfl)
theorem dL_law_364 : decode cL_law 364 = .ok (.ireturn, 1) := dk_172 (dk_at dksL_law_10 13 rfl rfl)
theorem dL_law_365 : decode cL_law 365 = .ok (.aload_n 1, 1) := dk_43 (dk_at dksL_law_10 14 rfl rfl)
theorem dL_law_366 : decode cL_law 366 = .ok (.aload_n 0, 1) := dk_42 (dk_at dksL_law_10 15 rfl rfl)
theorem dL_law_367 : decode cL_law 367 = .ok (.iload_n 3, 1) := dk_29 (dk_at dksL_law_10 16 rfl rfl)
theorem dL_law_368 : decode cL_law 368 = .ok (.iconst 1, 1) := dk_4 (dk_at dksL_law_10 17 rfl rfl)
theorem dL_law_369 : decode cL_law 369 = .ok (.iadd, 1) := dk_96 (dk_at dksL_law_10 18 rfl rfl)
theorem dL_law_370 : decode cL_law 370 = .ok (.iaload, 1) := dk_46 (dk_at dksL_law_10 19 rfl rfl)
theorem dL_law_371 : decode cL_law 371 = .ok (.aload_n 0, 1) := dk_42 (dk_at dksL_law_10 20 rfl rfl)
theorem dL_law_372 : decode cL_law 372 = .ok (.iload_n 3, 1) := dk_29 (dk_at dksL_law_10 21 rfl rfl)
theorem dL_law_373 : decode cL_law 373 = .ok (.iconst 2, 1) := dk_5 (dk_at dksL_law_10 22 rfl rfl)
theorem dL_law_374 : decode cL_law 374 = .ok (.iadd, 1) := dk_96 (dk_at dksL_law_10 23 rfl rfl)
theorem dL_law_375 : decode cL_law 375 = .ok (.iaload, 1) := dk_46 (dk_at dksL_law_11 0 rfl rfl)
theorem dL_law_376 : decode cL_law 376 = .ok (.aload_n 0, 1) := dk_42 (dk_at dksL_law_11 1 rfl rfl)
theorem dL_law_377 : decode cL_law 377 = .ok (.iload_n 3, 1) := dk_29 (dk_at dksL_law_11 2 rfl rfl)
theorem dL_law_378 : decode cL_law 378 = .ok (.iconst 3, 1) := dk_6 (dk_at dksL_law_11 3 rfl rfl)
theorem dL_law_379 : decode cL_law 379 = .ok (.iadd, 1) := dk_96 (dk_at dksL_law_11 4 rfl rfl)
theorem dL_law_380 : decode cL_law 380 = .ok (.iaload, 1) := dk_46 (dk_at dksL_law_11 5 rfl rfl)
theorem dL_law_381 : decode cL_law 381 = .ok (.aload_n 0, 1) := dk_42 (dk_at dksL_law_11 6 rfl rfl)
theorem dL_law_382 : decode cL_law 382 = .ok (.iload_n 3, 1) := dk_29 (dk_at dksL_law_11 7 rfl rfl)
theorem dL_law_383 : decode cL_law 383 = .ok (.iconst 4, 1) := dk_7 (dk_at dksL_law_11 8 rfl rfl)
theorem dL_law_384 : decode cL_law 384 = .ok (.iadd, 1) := dk_96 (dk_at dksL_law_11 9 rfl rfl)
theorem dL_law_385 : decode cL_law 385 = .ok (.iaload, 1) := dk_46 (dk_at dksL_law_11 10 rfl rfl)
theorem dL_law_386 : decode cL_law 386 = .ok (.invokevirtual 35, 3) := dk_182 0 35 (dk_at dksL_law_11 11 rfl rfl)
theorem dL_law_389 : decode cL_law 389 = .ok (.aload_n 2, 1) := dk_44 (dk_at dksL_law_11 14 rfl rfl)
theorem dL_law_390 : decode cL_law 390 = .ok (.aload_n 0, 1) := dk_42 (dk_at dksL_law_11 15 rfl rfl)
theorem dL_law_391 : decode cL_law 391 = .ok (.iload_n 3, 1) := dk_29 (dk_at dksL_law_11 16 rfl rfl)
theorem dL_law_392 : decode cL_law 392 = .ok (.iconst 1, 1) := dk_4 (dk_at dksL_law_11 17 rfl rfl)
theorem dL_law_393 : decode cL_law 393 = .ok (.iadd, 1) := dk_96 (dk_at dksL_law_11 18 rfl rfl)
theorem dL_law_394 : decode cL_law 394 = .ok (.iaload, 1) := dk_46 (dk_at dksL_law_11 19 rfl rfl)
theorem dL_law_395 : decode cL_law 395 = .ok (.aload_n 0, 1) := dk_42 (dk_at dksL_law_11 20 rfl rfl)
theorem dL_law_396 : decode cL_law 396 = .ok (.iload_n 3, 1) := dk_29 (dk_at dksL_law_11 21 rfl rfl)
theorem dL_law_397 : decode cL_law 397 = .ok (.iconst 2, 1) := dk_5 (dk_at dksL_law_11 22 rfl rfl)
theorem dL_law_398 : decode cL_law 398 = .ok (.iadd, 1) := dk_96 (dk_at dksL_law_11 23 rfl rfl)
theorem dL_law_399 : decode cL_law 399 = .ok (.iaload, 1) := dk_46 (dk_at dksL_law_12 0 rfl rfl)
theorem dL_law_400 : decode cL_law 400 = .ok (.aload_n 0, 1) := dk_42 (dk_at dksL_law_12 1 rfl rfl)
theorem dL_law_401 : decode cL_law 401 = .ok (.iload_n 3, 1) := dk_29 (dk_at dksL_law_12 2 rfl rfl)
theorem dL_law_402 : decode cL_law 402 = .ok (.iconst 3, 1) := dk_6 (dk_at dksL_law_12 3 rfl rfl)
theorem dL_law_403 : decode cL_law 403 = .ok (.iadd, 1) := dk_96 (dk_at dksL_law_12 4 rfl rfl)
theorem dL_law_404 : decode cL_law 404 = .ok (.iaload, 1) := dk_46 (dk_at dksL_law_12 5 rfl rfl)
theorem dL_law_405 : decode cL_law 405 = .ok (.aload_n 0, 1) := dk_42 (dk_at dksL_law_12 6 rfl rfl)
theorem dL_law_406 : decode cL_law 406 = .ok (.iload_n 3, 1) := dk_29 (dk_at dksL_law_12 7 rfl rfl)
theorem dL_law_407 : decode cL_law 407 = .ok (.iconst 4, 1) := dk_7 (dk_at dksL_law_12 8 rfl rfl)
theorem dL_law_408 : decode cL_law 408 = .ok (.iadd, 1) := dk_96 (dk_at dksL_law_12 9 rfl rfl)
theorem dL_law_409 : decode cL_law 409 = .ok (.iaload, 1) := dk_46 (dk_at dksL_law_12 10 rfl rfl)
theorem dL_law_410 : decode cL_law 410 = .ok (.invokevirtual 39, 3) := dk_182 0 39 (dk_at dksL_law_12 11 rfl rfl)
theorem dL_law_413 : decode cL_law 413 = .ok (.if_icmp .eq 675, 3) := dk_159 2 163 (dk_at dksL_law_12 14 rfl rfl)
theorem dL_law_416 : decode cL_law 416 = .ok (.iconst 0, 1) := dk_3 (dk_at dksL_law_12 17 rfl rfl)
theorem dL_law_417 : decode cL_law 417 = .ok (.ireturn, 1) := dk_172 (dk_at dksL_law_12 18 rfl rfl)
theorem dL_law_418 : decode cL_law 418 = .ok (.aload_n 1, 1) := dk_43 (dk_at dksL_law_12 19 rfl rfl)
theorem dL_law_419 : decode cL_law 419 = .ok (.aload_n 0, 1) := dk_42 (dk_at dksL_law_12 20 rfl rfl)
theorem dL_law_420 : decode cL_law 420 = .ok (.iload_n 3, 1) := dk_29 (dk_at dksL_law_12 21 rfl rfl)
theorem dL_law_421 : decode cL_law 421 = .ok (.iconst 1, 1) := dk_4 (dk_at dksL_law_12 22 rfl rfl)
theorem dL_law_422 : decode cL_law 422 = .ok (.iadd, 1) := dk_96 (dk_at dksL_law_12 23 rfl rfl)
theorem dL_law_423 : decode cL_law 423 = .ok (.iaload, 1) := dk_46 (dk_at dksL_law_13 0 rfl rfl)
theorem dL_law_424 : decode cL_law 424 = .ok (.aload_n 0, 1) := dk_42 (dk_at dksL_law_13 1 rfl rfl)
theorem dL_law_425 : decode cL_law 425 = .ok (.iload_n 3, 1) := dk_29 (dk_at dksL_law_13 2 rfl rfl)
theorem dL_law_426 : decode cL_law 426 = .ok (.iconst 2, 1) := dk_5 (dk_at dksL_law_13 3 rfl rfl)
theorem dL_law_427 : decode cL_law 427 = .ok (.iadd, 1) := dk_96 (dk_at dksL_law_13 4 rfl rfl)
theorem dL_law_428 : decode cL_law 428 = .ok (.iaload, 1) := dk_46 (dk_at dksL_law_13 5 rfl rfl)
theorem dL_law_429 : decode cL_law 429 = .ok (.invokevirtual 40, 3) := dk_182 0 40 (dk_at dksL_law_13 6 rfl rfl)
theorem dL_law_432 : decode cL_law 432 = .ok (.aload_n 2, 1) := dk_44 (dk_at dksL_law_13 9 rfl rfl)
theorem dL_law_433 : decode cL_law 433 = .ok (.aload_n 0, 1) := dk_42 (dk_at dksL_law_13 10 rfl rfl)
theorem dL_law_434 : decode cL_law 434 = .ok (.iload_n 3, 1) := dk_29 (dk_at dksL_law_13 11 rfl rfl)
theorem dL_law_435 : decode cL_law 435 = .ok (.iconst 1, 1) := dk_4 (dk_at dksL_law_13 12 rfl rfl)
theorem dL_law_436 : decode cL_law 436 = .ok (.iadd, 1) := dk_96 (dk_at dksL_law_13 13 rfl rfl)
theorem dL_law_437 : decode cL_law 437 = .ok (.iaload, 1) := dk_46 (dk_at dksL_law_13 14 rfl rfl)
theorem dL_law_438 : decode cL_law 438 = .ok (.aload_n 0, 1) := dk_42 (dk_at dksL_law_13 15 rfl rfl)
theorem dL_law_439 : decode cL_law 439 = .ok (.iload_n 3, 1) := dk_29 (dk_at dksL_law_13 16 rfl rfl)
theorem dL_law_440 : decode cL_law 440 = .ok (.iconst 2, 1) := dk_5 (dk_at dksL_law_13 17 rfl rfl)
theorem dL_law_441 : decode cL_law 441 = .ok (.iadd, 1) := dk_96 (dk_at dksL_law_13 18 rfl rfl)
theorem dL_law_442 : decode cL_law 442 = .ok (.iaload, 1) := dk_46 (dk_at dksL_law_13 19 rfl rfl)
theorem dL_law_443 : decode cL_law 443 = .ok (.invokevirtual 43, 3) := dk_182 0 43 (dk_at dksL_law_13 20 rfl rfl)
theorem dL_law_446 : decode cL_law 446 = .ok (.if_icmp .eq 642, 3) := dk_159 2 130 (dk_at dksL_law_14 0 rfl rfl)
theorem dL_law_449 : decode cL_law 449 = .ok (.iconst 0, 1) := dk_3 (dk_at dksL_law_14 3 rfl rfl)
theorem dL_law_450 : decode cL_law 450 = .ok (.ireturn, 1) := dk_172 (dk_at dksL_law_14 4 rfl rfl)
theorem dL_law_451 : decode cL_law 451 = .ok (.aload_n 1, 1) := dk_43 (dk_at dksL_law_14 5 rfl rfl)
theorem dL_law_452 : decode cL_law 452 = .ok (.aload_n 0, 1) := dk_42 (dk_at dksL_law_14 6 rfl rfl)
theorem dL_law_453 : decode cL_law 453 = .ok (.iload_n 3, 1) := dk_29 (dk_at dksL_law_14 7 rfl rfl)
theorem dL_law_454 : decode cL_law 454 = .ok (.iconst 1, 1) := dk_4 (dk_at dksL_law_14 8 rfl rfl)
theorem dL_law_455 : decode cL_law 455 = .ok (.iadd, 1) := dk_96 (dk_at dksL_law_14 9 rfl rfl)
theorem dL_law_456 : decode cL_law 456 = .ok (.iaload, 1) := dk_46 (dk_at dksL_law_14 10 rfl rfl)
theorem dL_law_457 : decode cL_law 457 = .ok (.invokevirtual 44, 3) := dk_182 0 44 (dk_at dksL_law_14 11 rfl rfl)
theorem dL_law_460 : decode cL_law 460 = .ok (.aload_n 2, 1) := dk_44 (dk_at dksL_law_14 14 rfl rfl)
theorem dL_law_461 : decode cL_law 461 = .ok (.aload_n 0, 1) := dk_42 (dk_at dksL_law_14 15 rfl rfl)
theorem dL_law_462 : decode cL_law 462 = .ok (.iload_n 3, 1) := dk_29 (dk_at dksL_law_14 16 rfl rfl)
theorem dL_law_463 : decode cL_law 463 = .ok (.iconst 1, 1) := dk_4 (dk_at dksL_law_14 17 rfl rfl)
theorem dL_law_464 : decode cL_law 464 = .ok (.iadd, 1) := dk_96 (dk_at dksL_law_14 18 rfl rfl)
theorem dL_law_465 : decode cL_law 465 = .ok (.iaload, 1) := dk_46 (dk_at dksL_law_14 19 rfl rfl)
theorem dL_law_466 : decode cL_law 466 = .ok (.invokevirtual 48, 3) := dk_182 0 48 (dk_at dksL_law_14 20 rfl rfl)
theorem dL_law_469 : decode cL_law 469 = .ok (.if_icmp .eq 619, 3) := dk_159 2 107 (dk_at dksL_law_15 0 rfl rfl)
theorem dL_law_472 : decode cL_law 472 = .ok (.iconst 0, 1) := dk_3 (dk_at dksL_law_15 3 rfl rfl)
theorem dL_law_473 : decode cL_law 473 = .ok (.ireturn, 1) := dk_172 (dk_at dksL_law_15 4 rfl rfl)
theorem dL_law_474 : decode cL_law 474 = .ok (.aload_n 1, 1) := dk_43 (dk_at dksL_law_15 5 rfl rfl)
theorem dL_law_475 : decode cL_law 475 = .ok (.aload_n 0, 1) := dk_42 (dk_at dksL_law_15 6 rfl rfl)
theorem dL_law_476 : decode cL_law 476 = .ok (.iload_n 3, 1) := dk_29 (dk_at dksL_law_15 7 rfl rfl)
theorem dL_law_477 : decode cL_law 477 = .ok (.iconst 1, 1) := dk_4 (dk_at dksL_law_15 8 rfl rfl)
theorem dL_law_478 : decode cL_law 478 = .ok (.iadd, 1) := dk_96 (dk_at dksL_law_15 9 rfl rfl)
theorem dL_law_479 : decode cL_law 479 = .ok (.iaload, 1) := dk_46 (dk_at dksL_law_15 10 rfl rfl)
theorem dL_law_480 : decode cL_law 480 = .ok (.aload_n 0, 1) := dk_42 (dk_at dksL_law_15 11 rfl rfl)
theorem dL_law_481 : decode cL_law 481 = .ok (.iload_n 3, 1) := dk_29 (dk_at dksL_law_15 12 rfl rfl)
theorem dL_law_482 : decode cL_law 482 = .ok (.iconst 2, 1) := dk_5 (dk_at dksL_law_15 13 rfl rfl)
theorem dL_law_483 : decode cL_law 483 = .ok (.iadd, 1) := dk_96 (dk_at dksL_law_15 14 rfl rfl)
theorem dL_law_484 : decode cL_law 484 = .ok (.iaload, 1) := dk_46 (dk_at dksL_law_15 15 rfl rfl)
theorem dL_law_485 : decode cL_law 485 = .ok (.invokevirtual 49, 3) := dk_182 0 49 (dk_at dksL_law_15 16 rfl rfl)
theorem dL_law_488 : decode cL_law 488 = .ok (.aload_n 2, 1) := dk_44 (dk_at dksL_law_15 19 rfl rfl)
theorem dL_law_489 : decode cL_law 489 = .ok (.aload_n 0, 1) := dk_42 (dk_at dksL_law_15 20 rfl rfl)
theorem dL_law_490 : decode cL_law 490 = .ok (.iload_n 3, 1) := dk_29 (dk_at dksL_law_15 21 rfl rfl)
theorem dL_law_491 : decode cL_law 491 = .ok (.iconst 1, 1) := dk_4 (dk_at dksL_law_15 22 rfl rfl)
theorem dL_law_492 : decode cL_law 492 = .ok (.iadd, 1) := dk_96 (dk_at dksL_law_15 23 rfl rfl)
theorem dL_law_493 : decode cL_law 493 = .ok (.iaload, 1) := dk_46 (dk_at dksL_law_16 0 rfl rfl)
theorem dL_law_494 : decode cL_law 494 = .ok (.aload_n 0, 1) := dk_42 (dk_at dksL_law_16 1 rfl rfl)
theorem dL_law_495 : decode cL_law 495 = .ok (.iload_n 3, 1) := dk_29 (dk_at dksL_law_16 2 rfl rfl)
theorem dL_law_496 : decode cL_law 496 = .ok (.iconst 2, 1) := dk_5 (dk_at dksL_law_16 3 rfl rfl)
theorem dL_law_497 : decode cL_law 497 = .ok (.iadd, 1) := dk_96 (dk_at dksL_law_16 4 rfl rfl)
theorem dL_law_498 : decode cL_law 498 = .ok (.iaload, 1) := dk_46 (dk_at dksL_law_16 5 rfl rfl)
theorem dL_law_499 : decode cL_law 499 = .ok (.invokevirtual 52, 3) := dk_182 0 52 (dk_at dksL_law_16 6 rfl rfl)
theorem dL_law_502 : decode cL_law 502 = .ok (.if_icmp .eq 586, 3) := dk_159 2 74 (dk_at dksL_law_16 9 rfl rfl)
theorem dL_law_505 : decode cL_law 505 = .ok (.iconst 0, 1) := dk_3 (dk_at dksL_law_16 12 rfl rfl)
theorem dL_law_506 : decode cL_law 506 = .ok (.ireturn, 1) := dk_172 (dk_at dksL_law_16 13 rfl rfl)
theorem dL_law_507 : decode cL_law 507 = .ok (.aload_n 1, 1) := dk_43 (dk_at dksL_law_16 14 rfl rfl)
theorem dL_law_508 : decode cL_law 508 = .ok (.aload_n 0, 1) := dk_42 (dk_at dksL_law_16 15 rfl rfl)
theorem dL_law_509 : decode cL_law 509 = .ok (.iload_n 3, 1) := dk_29 (dk_at dksL_law_16 16 rfl rfl)
theorem dL_law_510 : decode cL_law 510 = .ok (.iconst 1, 1) := dk_4 (dk_at dksL_law_16 17 rfl rfl)
theorem dL_law_511 : decode cL_law 511 = .ok (.iadd, 1) := dk_96 (dk_at dksL_law_16 18 rfl rfl)
theorem dL_law_512 : decode cL_law 512 = .ok (.iaload, 1) := dk_46 (dk_at dksL_law_16 19 rfl rfl)
theorem dL_law_513 : decode cL_law 513 = .ok (.aload_n 0, 1) := dk_42 (dk_at dksL_law_16 20 rfl rfl)
theorem dL_law_514 : decode cL_law 514 = .ok (.iload_n 3, 1) := dk_29 (dk_at dksL_law_16 21 rfl rfl)
theorem dL_law_515 : decode cL_law 515 = .ok (.iconst 2, 1) := dk_5 (dk_at dksL_law_16 22 rfl rfl)
theorem dL_law_516 : decode cL_law 516 = .ok (.iadd, 1) := dk_96 (dk_at dksL_law_16 23 rfl rfl)
theorem dL_law_517 : decode cL_law 517 = .ok (.iaload, 1) := dk_46 (dk_at dksL_law_17 0 rfl rfl)
theorem dL_law_518 : decode cL_law 518 = .ok (.invokevirtual 53, 3) := dk_182 0 53 (dk_at dksL_law_17 1 rfl rfl)
theorem dL_law_521 : decode cL_law 521 = .ok (.aload_n 2, 1) := dk_44 (dk_at dksL_law_17 4 rfl rfl)
theorem dL_law_522 : decode cL_law 522 = .ok (.aload_n 0, 1) := dk_42 (dk_at dksL_law_17 5 rfl rfl)
theorem dL_law_523 : decode cL_law 523 = .ok (.iload_n 3, 1) := dk_29 (dk_at dksL_law_17 6 rfl rfl)
theorem dL_law_524 : decode cL_law 524 = .ok (.iconst 1, 1) := dk_4 (dk_at dksL_law_17 7 rfl rfl)
theorem dL_law_525 : decode cL_law 525 = .ok (.iadd, 1) := dk_96 (dk_at dksL_law_17 8 rfl rfl)
theorem dL_law_526 : decode cL_law 526 = .ok (.iaload, 1) := dk_46 (dk_at dksL_law_17 9 rfl rfl)
theorem dL_law_527 : decode cL_law 527 = .ok (.aload_n 0, 1) := dk_42 (dk_at dksL_law_17 10 rfl rfl)
theorem dL_law_528 : decode cL_law 528 = .ok (.iload_n 3, 1) := dk_29 (dk_at dksL_law_17 11 rfl rfl)
theorem dL_law_529 : decode cL_law 529 = .ok (.iconst 2, 1) := dk_5 (dk_at dksL_law_17 12 rfl rfl)
theorem dL_law_530 : decode cL_law 530 = .ok (.iadd, 1) := dk_96 (dk_at dksL_law_17 13 rfl rfl)
theorem dL_law_531 : decode cL_law 531 = .ok (.iaload, 1) := dk_46 (dk_at dksL_law_17 14 rfl rfl)
theorem dL_law_532 : decode cL_law 532 = .ok (.invokevirtual 56, 3) := dk_182 0 56 (dk_at dksL_law_17 15 rfl rfl)
theorem dL_law_535 : decode cL_law 535 = .ok (.if_icmp .eq 553, 3) := dk_159 2 41 (dk_at dksL_law_17 18 rfl rfl)
theorem dL_law_538 : decode cL_law 538 = .ok (.iconst 0, 1) := dk_3 (dk_at dksL_law_17 21 rfl rfl)
theorem dL_law_539 : decode cL_law 539 = .ok (.ireturn, 1) := dk_172 (dk_at dksL_law_17 22 rfl rfl)
theorem dL_law_540 : decode cL_law 540 = .ok (.aload_n 1, 1) := dk_43 (dk_at dksL_law_17 23 rfl rfl)
theorem dL_law_541 : decode cL_law 541 = .ok (.aload_n 0, 1) := dk_42 (dk_at dksL_law_18 0 rfl rfl)
theorem dL_law_542 : decode cL_law 542 = .ok (.iload_n 3, 1) := dk_29 (dk_at dksL_law_18 1 rfl rfl)
theorem dL_law_543 : decode cL_law 543 = .ok (.iconst 1, 1) := dk_4 (dk_at dksL_law_18 2 rfl rfl)
theorem dL_law_544 : decode cL_law 544 = .ok (.iadd, 1) := dk_96 (dk_at dksL_law_18 3 rfl rfl)
theorem dL_law_545 : decode cL_law 545 = .ok (.iaload, 1) := dk_46 (dk_at dksL_law_18 4 rfl rfl)
theorem dL_law_546 : decode cL_law 546 = .ok (.invokevirtual 57, 3) := dk_182 0 57 (dk_at dksL_law_18 5 rfl rfl)
theorem dL_law_549 : decode cL_law 549 = .ok (.aload_n 2, 1) := dk_44 (dk_at dksL_law_18 8 rfl rfl)
theorem dL_law_550 : decode cL_law 550 = .ok (.aload_n 0, 1) := dk_42 (dk_at dksL_law_18 9 rfl rfl)
theorem dL_law_551 : decode cL_law 551 = .ok (.iload_n 3, 1) := dk_29 (dk_at dksL_law_18 10 rfl rfl)
theorem dL_law_552 : decode cL_law 552 = .ok (.iconst 1, 1) := dk_4 (dk_at dksL_law_18 11 rfl rfl)
theorem dL_law_553 : decode cL_law 553 = .ok (.iadd, 1) := dk_96 (dk_at dksL_law_18 12 rfl rfl)
theorem dL_law_554 : decode cL_law 554 = .ok (.iaload, 1) := dk_46 (dk_at dksL_law_18 13 rfl rfl)
theorem dL_law_555 : decode cL_law 555 = .ok (.invokevirtual 60, 3) := dk_182 0 60 (dk_at dksL_law_18 14 rfl rfl)
theorem dL_law_558 : decode cL_law 558 = .ok (.if_icmp .eq 530, 3) := dk_159 2 18 (dk_at dksL_law_18 17 rfl rfl)
theorem dL_law_561 : decode cL_law 561 = .ok (.iconst 0, 1) := dk_3 (dk_at dksL_law_18 20 rfl rfl)
theorem dL_law_562 : decode cL_law 562 = .ok (.ireturn, 1) := dk_172 (dk_at dksL_law_18 21 rfl rfl)
theorem dL_law_563 : decode cL_law 563 = .ok (.aload_n 1, 1) := dk_43 (dk_at dksL_law_18 22 rfl rfl)
theorem dL_law_564 : decode cL_law 564 = .ok (.aload_n 0, 1) := dk_42 (dk_at dksL_law_18 23 rfl rfl)
theorem dL_law_565 : decode cL_law 565 = .ok (.iload_n 3, 1) := dk_29 (dk_at dksL_law_19 0 rfl rfl)
theorem dL_law_566 : decode cL_law 566 = .ok (.iconst 1, 1) := dk_4 (dk_at dksL_law_19 1 rfl rfl)
theorem dL_law_567 : decode cL_law 567 = .ok (.iadd, 1) := dk_96 (dk_at dksL_law_19 2 rfl rfl)
theorem dL_law_568 : decode cL_law 568 = .ok (.iaload, 1) := dk_46 (dk_at dksL_law_19 3 rfl rfl)
theorem dL_law_569 : decode cL_law 569 = .ok (.aload_n 0, 1) := dk_42 (dk_at dksL_law_19 4 rfl rfl)
theorem dL_law_570 : decode cL_law 570 = .ok (.iload_n 3, 1) := dk_29 (dk_at dksL_law_19 5 rfl rfl)
theorem dL_law_571 : decode cL_law 571 = .ok (.iconst 2, 1) := dk_5 (dk_at dksL_law_19 6 rfl rfl)
theorem dL_law_572 : decode cL_law 572 = .ok (.iadd, 1) := dk_96 (dk_at dksL_law_19 7 rfl rfl)
theorem dL_law_573 : decode cL_law 573 = .ok (.iaload, 1) := dk_46 (dk_at dksL_law_19 8 rfl rfl)
theorem dL_law_574 : decode cL_law 574 = .ok (.invokevirtual 61, 3) := dk_182 0 61 (dk_at dksL_law_19 9 rfl rfl)
theorem dL_law_577 : decode cL_law 577 = .ok (.aload_n 2, 1) := dk_44 (dk_at dksL_law_19 12 rfl rfl)
theorem dL_law_578 : decode cL_law 578 = .ok (.aload_n 0, 1) := dk_42 (dk_at dksL_law_19 13 rfl rfl)
theorem dL_law_579 : decode cL_law 579 = .ok (.iload_n 3, 1) := dk_29 (dk_at dksL_law_19 14 rfl rfl)
theorem dL_law_580 : decode cL_law 580 = .ok (.iconst 1, 1) := dk_4 (dk_at dksL_law_19 15 rfl rfl)
theorem dL_law_581 : decode cL_law 581 = .ok (.iadd, 1) := dk_96 (dk_at dksL_law_19 16 rfl rfl)
theorem dL_law_582 : decode cL_law 582 = .ok (.iaload, 1) := dk_46 (dk_at dksL_law_19 17 rfl rfl)
theorem dL_law_583 : decode cL_law 583 = .ok (.aload_n 0, 1) := dk_42 (dk_at dksL_law_19 18 rfl rfl)
theorem dL_law_584 : decode cL_law 584 = .ok (.iload_n 3, 1) := dk_29 (dk_at dksL_law_19 19 rfl rfl)
theorem dL_law_585 : decode cL_law 585 = .ok (.iconst 2, 1) := dk_5 (dk_at dksL_law_19 20 rfl rfl)
theorem dL_law_586 : decode cL_law 586 = .ok (.iadd, 1) := dk_96 (dk_at dksL_law_19 21 rfl rfl)
theorem dL_law_587 : decode cL_law 587 = .ok (.iaload, 1) := dk_46 (dk_at dksL_law_19 22 rfl rfl)
theorem dL_law_588 : decode cL_law 588 = .ok (.invokevirtual 64, 3) := dk_182 0 64 (dk_at dksL_law_20 0 rfl rfl)
theorem dL_law_591 : decode cL_law 591 = .ok (.if_icmp .eq 497, 3) := dk_159 1 241 (dk_at dksL_law_20 3 rfl rfl)
theorem dL_law_594 : decode cL_law 594 = .ok (.iconst 0, 1) := dk_3 (dk_at dksL_law_20 6 rfl rfl)
theorem dL_law_595 : decode cL_law 595 = .ok (.ireturn, 1) := dk_172 (dk_at dksL_law_20 7 rfl rfl)
theorem dL_law_596 : decode cL_law 596 = .ok (.aload_n 1, 1) := dk_43 (dk_at dksL_law_20 8 rfl rfl)
theorem dL_law_597 : decode cL_law 597 = .ok (.aload_n 0, 1) := dk_42 (dk_at dksL_law_20 9 rfl rfl)
theorem dL_law_598 : decode cL_law 598 = .ok (.iload_n 3, 1) := dk_29 (dk_at dksL_law_20 10 rfl rfl)
theorem dL_law_599 : decode cL_law 599 = .ok (.iconst 1, 1) := dk_4 (dk_at dksL_law_20 11 rfl rfl)
theorem dL_law_600 : decode cL_law 600 = .ok (.iadd, 1) := dk_96 (dk_at dksL_law_20 12 rfl rfl)
theorem dL_law_601 : decode cL_law 601 = .ok (.iaload, 1) := dk_46 (dk_at dksL_law_20 13 rfl rfl)
theorem dL_law_602 : decode cL_law 602 = .ok (.aload_n 0, 1) := dk_42 (dk_at dksL_law_20 14 rfl rfl)
theorem dL_law_603 : decode cL_law 603 = .ok (.iload_n 3, 1) := dk_29 (dk_at dksL_law_20 15 rfl rfl)
theorem dL_law_604 : decode cL_law 604 = .ok (.iconst 2, 1) := dk_5 (dk_at dksL_law_20 16 rfl rfl)
theorem dL_law_605 : decode cL_law 605 = .ok (.iadd, 1) := dk_96 (dk_at dksL_law_20 17 rfl rfl)
theorem dL_law_606 : decode cL_law 606 = .ok (.iaload, 1) := dk_46 (dk_at dksL_law_20 18 rfl rfl)
theorem dL_law_607 : decode cL_law 607 = .ok (.aload_n 0, 1) := dk_42 (dk_at dksL_law_20 19 rfl rfl)
theorem dL_law_608 : decode cL_law 608 = .ok (.iload_n 3, 1) := dk_29 (dk_at dksL_law_20 20 rfl rfl)
theorem dL_law_609 : decode cL_law 609 = .ok (.iconst 3, 1) := dk_6 (dk_at dksL_law_20 21 rfl rfl)
theorem dL_law_610 : decode cL_law 610 = .ok (.iadd, 1) := dk_96 (dk_at dksL_law_20 22 rfl rfl)
theorem dL_law_611 : decode cL_law 611 = .ok (.iaload, 1) := dk_46 (dk_at dksL_law_20 23 rfl rfl)
theorem dL_law_612 : decode cL_law 612 = .ok (.invokevirtual 65, 3) := dk_182 0 65 (dk_at dksL_law_21 0 rfl rfl)
theorem dL_law_615 : decode cL_law 615 = .ok (.aload_n 2, 1) := dk_44 (dk_at dksL_law_21 3 rfl rfl)
theorem dL_law_616 : decode cL_law 616 = .ok (.aload_n 0, 1) := dk_42 (dk_at dksL_law_21 4 rfl rfl)
theorem dL_law_617 : decode cL_law 617 = .ok (.iload_n 3, 1) := dk_29 (dk_at dksL_law_21 5 rfl rfl)
theorem dL_law_618 : decode cL_law 618 = .ok (.iconst 1, 1) := dk_4 (dk_at dksL_law_21 6 rfl rfl)
theorem dL_law_619 : decode cL_law 619 = .ok (.iadd, 1) := dk_96 (dk_at dksL_law_21 7 rfl rfl)
theorem dL_law_620 : decode cL_law 620 = .ok (.iaload, 1) := dk_46 (dk_at dksL_law_21 8 rfl rfl)
theorem dL_law_621 : decode cL_law 621 = .ok (.aload_n 0, 1) := dk_42 (dk_at dksL_law_21 9 rfl rfl)
theorem dL_law_622 : decode cL_law 622 = .ok (.iload_n 3, 1) := dk_29 (dk_at dksL_law_21 10 rfl rfl)
theorem dL_law_623 : decode cL_law 623 = .ok (.iconst 2, 1) := dk_5 (dk_at dksL_law_21 11 rfl rfl)
theorem dL_law_624 : decode cL_law 624 = .ok (.iadd, 1) := dk_96 (dk_at dksL_law_21 12 rfl rfl)
theorem dL_law_625 : decode cL_law 625 = .ok (.iaload, 1) := dk_46 (dk_at dksL_law_21 13 rfl rfl)
theorem dL_law_626 : decode cL_law 626 = .ok (.aload_n 0, 1) := dk_42 (dk_at dksL_law_21 14 rfl rfl)
theorem dL_law_627 : decode cL_law 627 = .ok (.iload_n 3, 1) := dk_29 (dk_at dksL_law_21 15 rfl rfl)
theorem dL_law_628 : decode cL_law 628 = .ok (.iconst 3, 1) := dk_6 (dk_at dksL_law_21 16 rfl rfl)
theorem dL_law_629 : decode cL_law 629 = .ok (.iadd, 1) := dk_96 (dk_at dksL_law_21 17 rfl rfl)
theorem dL_law_630 : decode cL_law 630 = .ok (.iaload, 1) := dk_46 (dk_at dksL_law_21 18 rfl rfl)
theorem dL_law_631 : decode cL_law 631 = .ok (.invokevirtual 69, 3) := dk_182 0 69 (dk_at dksL_law_21 19 rfl rfl)
theorem dL_law_634 : decode cL_law 634 = .ok (.if_icmp .eq 454, 3) := dk_159 1 198 (dk_at dksL_law_22 0 rfl rfl)
theorem dL_law_637 : decode cL_law 637 = .ok (.iconst 0, 1) := dk_3 (dk_at dksL_law_22 3 rfl rfl)
theorem dL_law_638 : decode cL_law 638 = .ok (.ireturn, 1) := dk_172 (dk_at dksL_law_22 4 rfl rfl)
theorem dL_law_639 : decode cL_law 639 = .ok (.aload_n 1, 1) := dk_43 (dk_at dksL_law_22 5 rfl rfl)
theorem dL_law_640 : decode cL_law 640 = .ok (.aload_n 0, 1) := dk_42 (dk_at dksL_law_22 6 rfl rfl)
theorem dL_law_641 : decode cL_law 641 = .ok (.iload_n 3, 1) := dk_29 (dk_at dksL_law_22 7 rfl rfl)
theorem dL_law_642 : decode cL_law 642 = .ok (.iconst 1, 1) := dk_4 (dk_at dksL_law_22 8 rfl rfl)
theorem dL_law_643 : decode cL_law 643 = .ok (.iadd, 1) := dk_96 (dk_at dksL_law_22 9 rfl rfl)
theorem dL_law_644 : decode cL_law 644 = .ok (.iaload, 1) := dk_46 (dk_at dksL_law_22 10 rfl rfl)
theorem dL_law_645 : decode cL_law 645 = .ok (.aload_n 0, 1) := dk_42 (dk_at dksL_law_22 11 rfl rfl)
theorem dL_law_646 : decode cL_law 646 = .ok (.iload_n 3, 1) := dk_29 (dk_at dksL_law_22 12 rfl rfl)
theorem dL_law_647 : decode cL_law 647 = .ok (.iconst 2, 1) := dk_5 (dk_at dksL_law_22 13 rfl rfl)
theorem dL_law_648 : decode cL_law 648 = .ok (.iadd, 1) := dk_96 (dk_at dksL_law_22 14 rfl rfl)
theorem dL_law_649 : decode cL_law 649 = .ok (.iaload, 1) := dk_46 (dk_at dksL_law_22 15 rfl rfl)
theorem dL_law_650 : decode cL_law 650 = .ok (.invokevirtual 70, 3) := dk_182 0 70 (dk_at dksL_law_22 16 rfl rfl)
theorem dL_law_653 : decode cL_law 653 = .ok (.aload_n 2, 1) := dk_44 (dk_at dksL_law_22 19 rfl rfl)
theorem dL_law_654 : decode cL_law 654 = .ok (.aload_n 0, 1) := dk_42 (dk_at dksL_law_22 20 rfl rfl)
theorem dL_law_655 : decode cL_law 655 = .ok (.iload_n 3, 1) := dk_29 (dk_at dksL_law_22 21 rfl rfl)
theorem dL_law_656 : decode cL_law 656 = .ok (.iconst 1, 1) := dk_4 (dk_at dksL_law_22 22 rfl rfl)
theorem dL_law_657 : decode cL_law 657 = .ok (.iadd, 1) := dk_96 (dk_at dksL_law_22 23 rfl rfl)
theorem dL_law_658 : decode cL_law 658 = .ok (.iaload, 1) := dk_46 (dk_at dksL_law_23 0 rfl rfl)
theorem dL_law_659 : decode cL_law 659 = .ok (.aload_n 0, 1) := dk_42 (dk_at dksL_law_23 1 rfl rfl)
theorem dL_law_660 : decode cL_law 660 = .ok (.iload_n 3, 1) := dk_29 (dk_at dksL_law_23 2 rfl rfl)
theorem dL_law_661 : decode cL_law 661 = .ok (.iconst 2, 1) := dk_5 (dk_at dksL_law_23 3 rfl rfl)
theorem dL_law_662 : decode cL_law 662 = .ok (.iadd, 1) := dk_96 (dk_at dksL_law_23 4 rfl rfl)
theorem dL_law_663 : decode cL_law 663 = .ok (.iaload, 1) := dk_46 (dk_at dksL_law_23 5 rfl rfl)
theorem dL_law_664 : decode cL_law 664 = .ok (.invokevirtual 73, 3) := dk_182 0 73 (dk_at dksL_law_23 6 rfl rfl)
theorem dL_law_667 : decode cL_law 667 = .ok (.if_icmp .eq 421, 3) := dk_159 1 165 (dk_at dksL_law_23 9 rfl rfl)
theorem dL_law_670 : decode cL_law 670 = .ok (.iconst 0, 1) := dk_3 (dk_at dksL_law_23 12 rfl rfl)
theorem dL_law_671 : decode cL_law 671 = .ok (.ireturn, 1) := dk_172 (dk_at dksL_law_23 13 rfl rfl)
theorem dL_law_672 : decode cL_law 672 = .ok (.aload_n 1, 1) := dk_43 (dk_at dksL_law_23 14 rfl rfl)
theorem dL_law_673 : decode cL_law 673 = .ok (.aload_n 0, 1) := dk_42 (dk_at dksL_law_23 15 rfl rfl)
theorem dL_law_674 : decode cL_law 674 = .ok (.iload_n 3, 1) := dk_29 (dk_at dksL_law_23 16 rfl rfl)
theorem dL_law_675 : decode cL_law 675 = .ok (.iconst 1, 1) := dk_4 (dk_at dksL_law_23 17 rfl rfl)
theorem dL_law_676 : decode cL_law 676 = .ok (.iadd, 1) := dk_96 (dk_at dksL_law_23 18 rfl rfl)
theorem dL_law_677 : decode cL_law 677 = .ok (.iaload, 1) := dk_46 (dk_at dksL_law_23 19 rfl rfl)
theorem dL_law_678 : decode cL_law 678 = .ok (.aload_n 0, 1) := dk_42 (dk_at dksL_law_23 20 rfl rfl)
theorem dL_law_679 : decode cL_law 679 = .ok (.iload_n 3, 1) := dk_29 (dk_at dksL_law_23 21 rfl rfl)
theorem dL_law_680 : decode cL_law 680 = .ok (.iconst 2, 1) := dk_5 (dk_at dksL_law_23 22 rfl rfl)
theorem dL_law_681 : decode cL_law 681 = .ok (.iadd, 1) := dk_96 (dk_at dksL_law_23 23 rfl rfl)
theorem dL_law_682 : decode cL_law 682 = .ok (.iaload, 1) := dk_46 (dk_at dksL_law_24 0 rfl rfl)
theorem dL_law_683 : decode cL_law 683 = .ok (.invokevirtual 74, 3) := dk_182 0 74 (dk_at dksL_law_24 1 rfl rfl)
theorem dL_law_686 : decode cL_law 686 = .ok (.aload_n 2, 1) := dk_44 (dk_at dksL_law_24 4 rfl rfl)
theorem dL_law_687 : decode cL_law 687 = .ok (.aload_n 0, 1) := dk_42 (dk_at dksL_law_24 5 rfl rfl)
theorem dL_law_688 : decode cL_law 688 = .ok (.iload_n 3, 1) := dk_29 (dk_at dksL_law_24 6 rfl rfl)
theorem dL_law_689 : decode cL_law 689 = .ok (.iconst 1, 1) := dk_4 (dk_at dksL_law_24 7 rfl rfl)
theorem dL_law_690 : decode cL_law 690 = .ok (.iadd, 1) := dk_96 (dk_at dksL_law_24 8 rfl rfl)
theorem dL_law_691 : decode cL_law 691 = .ok (.iaload, 1) := dk_46 (dk_at dksL_law_24 9 rfl rfl)
theorem dL_law_692 : decode cL_law 692 = .ok (.aload_n 0, 1) := dk_42 (dk_at dksL_law_24 10 rfl rfl)
theorem dL_law_693 : decode cL_law 693 = .ok (.iload_n 3, 1) := dk_29 (dk_at dksL_law_24 11 rfl rfl)
theorem dL_law_694 : decode cL_law 694 = .ok (.iconst 2, 1) := dk_5 (dk_at dksL_law_24 12 rfl rfl)
theorem dL_law_695 : decode cL_law 695 = .ok (.iadd, 1) := dk_96 (dk_at dksL_law_24 13 rfl rfl)
theorem dL_law_696 : decode cL_law 696 = .ok (.iaload, 1) := dk_46 (dk_at dksL_law_24 14 rfl rfl)
theorem dL_law_697 : decode cL_law 697 = .ok (.invokevirtual 77, 3) := dk_182 0 77 (dk_at dksL_law_24 15 rfl rfl)
theorem dL_law_700 : decode cL_law 700 = .ok (.if_icmp .eq 388, 3) := dk_159 1 132 (dk_at dksL_law_24 18 rfl rfl)
theorem dL_law_703 : decode cL_law 703 = .ok (.iconst 0, 1) := dk_3 (dk_at dksL_law_24 21 rfl rfl)
theorem dL_law_704 : decode cL_law 704 = .ok (.ireturn, 1) := dk_172 (dk_at dksL_law_24 22 rfl rfl)
theorem dL_law_705 : decode cL_law 705 = .ok (.aload_n 1, 1) := dk_43 (dk_at dksL_law_24 23 rfl rfl)
theorem dL_law_706 : decode cL_law 706 = .ok (.aload_n 0, 1) := dk_42 (dk_at dksL_law_25 0 rfl rfl)
theorem dL_law_707 : decode cL_law 707 = .ok (.iload_n 3, 1) := dk_29 (dk_at dksL_law_25 1 rfl rfl)
theorem dL_law_708 : decode cL_law 708 = .ok (.iconst 1, 1) := dk_4 (dk_at dksL_law_25 2 rfl rfl)
theorem dL_law_709 : decode cL_law 709 = .ok (.iadd, 1) := dk_96 (dk_at dksL_law_25 3 rfl rfl)
theorem dL_law_710 : decode cL_law 710 = .ok (.iaload, 1) := dk_46 (dk_at dksL_law_25 4 rfl rfl)
theorem dL_law_711 : decode cL_law 711 = .ok (.aload_n 0, 1) := dk_42 (dk_at dksL_law_25 5 rfl rfl)
theorem dL_law_712 : decode cL_law 712 = .ok (.iload_n 3, 1) := dk_29 (dk_at dksL_law_25 6 rfl rfl)
theorem dL_law_713 : decode cL_law 713 = .ok (.iconst 2, 1) := dk_5 (dk_at dksL_law_25 7 rfl rfl)
theorem dL_law_714 : decode cL_law 714 = .ok (.iadd, 1) := dk_96 (dk_at dksL_law_25 8 rfl rfl)
theorem dL_law_715 : decode cL_law 715 = .ok (.iaload, 1) := dk_46 (dk_at dksL_law_25 9 rfl rfl)
theorem dL_law_716 : decode cL_law 716 = .ok (.invokevirtual 78, 3) := dk_182 0 78 (dk_at dksL_law_25 10 rfl rfl)
theorem dL_law_719 : decode cL_law 719 = .ok (.aload_n 2, 1) := dk_44 (dk_at dksL_law_25 13 rfl rfl)
theorem dL_law_720 : decode cL_law 720 = .ok (.aload_n 0, 1) := dk_42 (dk_at dksL_law_25 14 rfl rfl)
theorem dL_law_721 : decode cL_law 721 = .ok (.iload_n 3, 1) := dk_29 (dk_at dksL_law_25 15 rfl rfl)
theorem dL_law_722 : decode cL_law 722 = .ok (.iconst 1, 1) := dk_4 (dk_at dksL_law_25 16 rfl rfl)
theorem dL_law_723 : decode cL_law 723 = .ok (.iadd, 1) := dk_96 (dk_at dksL_law_25 17 rfl rfl)
theorem dL_law_724 : decode cL_law 724 = .ok (.iaload, 1) := dk_46 (dk_at dksL_law_25 18 rfl rfl)
theorem dL_law_725 : decode cL_law 725 = .ok (.aload_n 0, 1) := dk_42 (dk_at dksL_law_25 19 rfl rfl)
theorem dL_law_726 : decode cL_law 726 = .ok (.iload_n 3, 1) := dk_29 (dk_at dksL_law_25 20 rfl rfl)
theorem dL_law_727 : decode cL_law 727 = .ok (.iconst 2, 1) := dk_5 (dk_at dksL_law_25 21 rfl rfl)
theorem dL_law_728 : decode cL_law 728 = .ok (.iadd, 1) := dk_96 (dk_at dksL_law_25 22 rfl rfl)
theorem dL_law_729 : decode cL_law 729 = .ok (.iaload, 1) := dk_46 (dk_at dksL_law_25 23 rfl rfl)
theorem dL_law_730 : decode cL_law 730 = .ok (.invokevirtual 81, 3) := dk_182 0 81 (dk_at dksL_law_26 0 rfl rfl)
theorem dL_law_733 : decode cL_law 733 = .ok (.if_icmp .eq 355, 3) := dk_159 1 99 (dk_at dksL_law_26 3 rfl rfl)
theorem dL_law_736 : decode cL_law 736 = .ok (.iconst 0, 1) := dk_3 (dk_at dksL_law_26 6 rfl rfl)
theorem dL_law_737 : decode cL_law 737 = .ok (.ireturn, 1) := dk_172 (dk_at dksL_law_26 7 rfl rfl)
theorem dL_law_738 : decode cL_law 738 = .ok (.aload_n 1, 1) := dk_43 (dk_at dksL_law_26 8 rfl rfl)
theorem dL_law_739 : decode cL_law 739 = .ok (.invokevirtual 82, 3) := dk_182 0 82 (dk_at dksL_law_26 9 rfl rfl)
theorem dL_law_742 : decode cL_law 742 = .ok (.aload_n 2, 1) := dk_44 (dk_at dksL_law_26 12 rfl rfl)
theorem dL_law_743 : decode cL_law 743 = .ok (.invokevirtual 86, 3) := dk_182 0 86 (dk_at dksL_law_26 13 rfl rfl)
theorem dL_law_746 : decode cL_law 746 = .ok (.if_icmp .eq 342, 3) := dk_159 1 86 (dk_at dksL_law_26 16 rfl rfl)
theorem dL_law_749 : decode cL_law 749 = .ok (.iconst 0, 1) := dk_3 (dk_at dksL_law_26 19 rfl rfl)
theorem dL_law_750 : decode cL_law 750 = .ok (.ireturn, 1) := dk_172 (dk_at dksL_law_26 20 rfl rfl)
theorem dL_law_751 : decode cL_law 751 = .ok (.aload_n 1, 1) := dk_43 (dk_at dksL_law_26 21 rfl rfl)
theorem dL_law_752 : decode cL_law 752 = .ok (.invokevirtual 87, 3) := dk_182 0 87 (dk_at dksL_law_27 0 rfl rfl)
theorem dL_law_755 : decode cL_law 755 = .ok (.aload_n 2, 1) := dk_44 (dk_at dksL_law_27 3 rfl rfl)
theorem dL_law_756 : decode cL_law 756 = .ok (.invokevirtual 90, 3) := dk_182 0 90 (dk_at dksL_law_27 4 rfl rfl)
theorem dL_law_759 : decode cL_law 759 = .ok (.if_icmp .eq 329, 3) := dk_159 1 73 (dk_at dksL_law_27 7 rfl rfl)
theorem dL_law_762 : decode cL_law 762 = .ok (.iconst 0, 1) := dk_3 (dk_at dksL_law_27 10 rfl rfl)
theorem dL_law_763 : decode cL_law 763 = .ok (.ireturn, 1) := dk_172 (dk_at dksL_law_27 11 rfl rfl)
theorem dL_law_764 : decode cL_law 764 = .ok (.aload_n 1, 1) := dk_43 (dk_at dksL_law_27 12 rfl rfl)
theorem dL_law_765 : decode cL_law 765 = .ok (.invokevirtual 91, 3) := dk_182 0 91 (dk_at dksL_law_27 13 rfl rfl)
theorem dL_law_768 : decode cL_law 768 = .ok (.aload_n 2, 1) := dk_44 (dk_at dksL_law_27 16 rfl rfl)
theorem dL_law_769 : decode cL_law 769 = .ok (.invokevirtual 94, 3) := dk_182 0 94 (dk_at dksL_law_27 17 rfl rfl)
theorem dL_law_772 : decode cL_law 772 = .ok (.if_icmp .eq 316, 3) := dk_159 1 60 (dk_at dksL_law_27 20 rfl rfl)
theorem dL_law_775 : decode cL_law 775 = .ok (.iconst 0, 1) := dk_3 (dk_at dksL_law_27 23 rfl rfl)
theorem dL_law_776 : decode cL_law 776 = .ok (.ireturn, 1) := dk_172 (dk_at dksL_law_28 0 rfl rfl)
theorem dL_law_777 : decode cL_law 777 = .ok (.aload_n 1, 1) := dk_43 (dk_at dksL_law_28 1 rfl rfl)
theorem dL_law_778 : decode cL_law 778 = .ok (.invokevirtual 95, 3) := dk_182 0 95 (dk_at dksL_law_28 2 rfl rfl)
theorem dL_law_781 : decode cL_law 781 = .ok (.aload_n 2, 1) := dk_44 (dk_at dksL_law_28 5 rfl rfl)
theorem dL_law_782 : decode cL_law 782 = .ok (.invokevirtual 98, 3) := dk_182 0 98 (dk_at dksL_law_28 6 rfl rfl)
theorem dL_law_785 : decode cL_law 785 = .ok (.if_icmp .eq 303, 3) := dk_159 1 47 (dk_at dksL_law_28 9 rfl rfl)
theorem dL_law_788 : decode cL_law 788 = .ok (.iconst 0, 1) := dk_3 (dk_at dksL_law_28 12 rfl rfl)
theorem dL_law_789 : decode cL_law 789 = .ok (.ireturn, 1) := dk_172 (dk_at dksL_law_28 13 rfl rfl)
theorem dL_law_790 : decode cL_law 790 = .ok (.aload_n 1, 1) := dk_43 (dk_at dksL_law_28 14 rfl rfl)
theorem dL_law_791 : decode cL_law 791 = .ok (.aload_n 0, 1) := dk_42 (dk_at dksL_law_28 15 rfl rfl)
theorem dL_law_792 : decode cL_law 792 = .ok (.iload_n 3, 1) := dk_29 (dk_at dksL_law_28 16 rfl rfl)
theorem dL_law_793 : decode cL_law 793 = .ok (.iconst 1, 1) := dk_4 (dk_at dksL_law_28 17 rfl rfl)
theorem dL_law_794 : decode cL_law 794 = .ok (.iadd, 1) := dk_96 (dk_at dksL_law_28 18 rfl rfl)
theorem dL_law_795 : decode cL_law 795 = .ok (.iaload, 1) := dk_46 (dk_at dksL_law_28 19 rfl rfl)
theorem dL_law_796 : decode cL_law 796 = .ok (.invokevirtual 99, 3) := dk_182 0 99 (dk_at dksL_law_28 20 rfl rfl)
theorem dL_law_799 : decode cL_law 799 = .ok (.aload_n 2, 1) := dk_44 (dk_at dksL_law_28 23 rfl rfl)
theorem dL_law_800 : decode cL_law 800 = .ok (.aload_n 0, 1) := dk_42 (dk_at dksL_law_29 0 rfl rfl)
theorem dL_law_801 : decode cL_law 801 = .ok (.iload_n 3, 1) := dk_29 (dk_at dksL_law_29 1 rfl rfl)
theorem dL_law_802 : decode cL_law 802 = .ok (.iconst 1, 1) := dk_4 (dk_at dksL_law_29 2 rfl rfl)
theorem dL_law_803 : decode cL_law 803 = .ok (.iadd, 1) := dk_96 (dk_at dksL_law_29 3 rfl rfl)
theorem dL_law_804 : decode cL_law 804 = .ok (.iaload, 1) := dk_46 (dk_at dksL_law_29 4 rfl rfl)
theorem dL_law_805 : decode cL_law 805 = .ok (.invokevirtual 102, 3) := dk_182 0 102 (dk_at dksL_law_29 5 rfl rfl)
theorem dL_law_808 : decode cL_law 808 = .ok (.if_icmp .eq 280, 3) := dk_159 1 24 (dk_at dksL_law_29 8 rfl rfl)
theorem dL_law_811 : decode cL_law 811 = .ok (.iconst 0, 1) := dk_3 (dk_at dksL_law_29 11 rfl rfl)
theorem dL_law_812 : decode cL_law 812 = .ok (.ireturn, 1) := dk_172 (dk_at dksL_law_29 12 rfl rfl)
theorem dL_law_813 : decode cL_law 813 = .ok (.aload_n 1, 1) := dk_43 (dk_at dksL_law_29 13 rfl rfl)
theorem dL_law_814 : decode cL_law 814 = .ok (.aload_n 0, 1) := dk_42 (dk_at dksL_law_29 14 rfl rfl)
theorem dL_law_815 : decode cL_law 815 = .ok (.iload_n 3, 1) := dk_29 (dk_at dksL_law_29 15 rfl rfl)
theorem dL_law_816 : decode cL_law 816 = .ok (.iconst 1, 1) := dk_4 (dk_at dksL_law_29 16 rfl rfl)
theorem dL_law_817 : decode cL_law 817 = .ok (.iadd, 1) := dk_96 (dk_at dksL_law_29 17 rfl rfl)
theorem dL_law_818 : decode cL_law 818 = .ok (.iaload, 1) := dk_46 (dk_at dksL_law_29 18 rfl rfl)
theorem dL_law_819 : decode cL_law 819 = .ok (.invokevirtual 103, 3) := dk_182 0 103 (dk_at dksL_law_29 19 rfl rfl)
theorem dL_law_822 : decode cL_law 822 = .ok (.aload_n 2, 1) := dk_44 (dk_at dksL_law_29 22 rfl rfl)
theorem dL_law_823 : decode cL_law 823 = .ok (.aload_n 0, 1) := dk_42 (dk_at dksL_law_29 23 rfl rfl)
theorem dL_law_824 : decode cL_law 824 = .ok (.iload_n 3, 1) := dk_29 (dk_at dksL_law_30 0 rfl rfl)
theorem dL_law_825 : decode cL_law 825 = .ok (.iconst 1, 1) := dk_4 (dk_at dksL_law_30 1 rfl rfl)
theorem dL_law_826 : decode cL_law 826 = .ok (.iadd, 1) := dk_96 (dk_at dksL_law_30 2 rfl rfl)
theorem dL_law_827 : decode cL_law 827 = .ok (.iaload, 1) := dk_46 (dk_at dksL_law_30 3 rfl rfl)
theorem dL_law_828 : decode cL_law 828 = .ok (.invokevirtual 106, 3) := dk_182 0 106 (dk_at dksL_law_30 4 rfl rfl)
theorem dL_law_831 : decode cL_law 831 = .ok (.if_icmp .eq 257, 3) := dk_159 1 1 (dk_at dksL_law_30 7 rfl rfl)
theorem dL_law_834 : decode cL_law 834 = .ok (.iconst 0, 1) := dk_3 (dk_at dksL_law_30 10 rfl rfl)
theorem dL_law_835 : decode cL_law 835 = .ok (.ireturn, 1) := dk_172 (dk_at dksL_law_30 11 rfl rfl)
theorem dL_law_836 : decode cL_law 836 = .ok (.aload_n 1, 1) := dk_43 (dk_at dksL_law_30 12 rfl rfl)
theorem dL_law_837 : decode cL_law 837 = .ok (.invokevirtual 107, 3) := dk_182 0 107 (dk_at dksL_law_30 13 rfl rfl)
theorem dL_law_840 : decode cL_law 840 = .ok (.aload_n 2, 1) := dk_44 (dk_at dksL_law_30 16 rfl rfl)
theorem dL_law_841 : decode cL_law 841 = .ok (.invokevirtual 110, 3) := dk_182 0 110 (dk_at dksL_law_30 17 rfl rfl)
theorem dL_law_844 : decode cL_law 844 = .ok (.if_icmp .eq 244, 3) := dk_159 0 244 (dk_at dksL_law_30 20 rfl rfl)
theorem dL_law_847 : decode cL_law 847 = .ok (.iconst 0, 1) := dk_3 (dk_at dksL_law_30 23 rfl rfl)
theorem dL_law_848 : decode cL_law 848 = .ok (.ireturn, 1) := dk_172 (dk_at dksL_law_31 0 rfl rfl)
theorem dL_law_849 : decode cL_law 849 = .ok (.aload_n 1, 1) := dk_43 (dk_at dksL_law_31 1 rfl rfl)
theorem dL_law_850 : decode cL_law 850 = .ok (.aload_n 0, 1) := dk_42 (dk_at dksL_law_31 2 rfl rfl)
theorem dL_law_851 : decode cL_law 851 = .ok (.iload_n 3, 1) := dk_29 (dk_at dksL_law_31 3 rfl rfl)
theorem dL_law_852 : decode cL_law 852 = .ok (.iconst 1, 1) := dk_4 (dk_at dksL_law_31 4 rfl rfl)
theorem dL_law_853 : decode cL_law 853 = .ok (.iadd, 1) := dk_96 (dk_at dksL_law_31 5 rfl rfl)
theorem dL_law_854 : decode cL_law 854 = .ok (.iaload, 1) := dk_46 (dk_at dksL_law_31 6 rfl rfl)
theorem dL_law_855 : decode cL_law 855 = .ok (.aload_n 0, 1) := dk_42 (dk_at dksL_law_31 7 rfl rfl)
theorem dL_law_856 : decode cL_law 856 = .ok (.iload_n 3, 1) := dk_29 (dk_at dksL_law_31 8 rfl rfl)
theorem dL_law_857 : decode cL_law 857 = .ok (.iconst 2, 1) := dk_5 (dk_at dksL_law_31 9 rfl rfl)
theorem dL_law_858 : decode cL_law 858 = .ok (.iadd, 1) := dk_96 (dk_at dksL_law_31 10 rfl rfl)
theorem dL_law_859 : decode cL_law 859 = .ok (.iaload, 1) := dk_46 (dk_at dksL_law_31 11 rfl rfl)
theorem dL_law_860 : decode cL_law 860 = .ok (.invokevirtual 111, 3) := dk_182 0 111 (dk_at dksL_law_31 12 rfl rfl)
theorem dL_law_863 : decode cL_law 863 = .ok (.aload_n 2, 1) := dk_44 (dk_at dksL_law_31 15 rfl rfl)
theorem dL_law_864 : decode cL_law 864 = .ok (.aload_n 0, 1) := dk_42 (dk_at dksL_law_31 16 rfl rfl)
theorem dL_law_865 : decode cL_law 865 = .ok (.iload_n 3, 1) := dk_29 (dk_at dksL_law_31 17 rfl rfl)
theorem dL_law_866 : decode cL_law 866 = .ok (.iconst 1, 1) := dk_4 (dk_at dksL_law_31 18 rfl rfl)
theorem dL_law_867 : decode cL_law 867 = .ok (.iadd, 1) := dk_96 (dk_at dksL_law_31 19 rfl rfl)
theorem dL_law_868 : decode cL_law 868 = .ok (.iaload, 1) := dk_46 (dk_at dksL_law_31 20 rfl rfl)
theorem dL_law_869 : decode cL_law 869 = .ok (.aload_n 0, 1) := dk_42 (dk_at dksL_law_31 21 rfl rfl)
theorem dL_law_870 : decode cL_law 870 = .ok (.iload_n 3, 1) := dk_29 (dk_at dksL_law_31 22 rfl rfl)
theorem dL_law_871 : decode cL_law 871 = .ok (.iconst 2, 1) := dk_5 (dk_at dksL_law_31 23 rfl rfl)
theorem dL_law_872 : decode cL_law 872 = .ok (.iadd, 1) := dk_96 (dk_at dksL_law_32 0 rfl rfl)
theorem dL_law_873 : decode cL_law 873 = .ok (.iaload, 1) := dk_46 (dk_at dksL_law_32 1 rfl rfl)
theorem dL_law_874 : decode cL_law 874 = .ok (.invokevirtual 114, 3) := dk_182 0 114 (dk_at dksL_law_32 2 rfl rfl)
theorem dL_law_877 : decode cL_law 877 = .ok (.if_icmp .eq 211, 3) := dk_159 0 211 (dk_at dksL_law_32 5 rfl rfl)
theorem dL_law_880 : decode cL_law 880 = .ok (.iconst 0, 1) := dk_3 (dk_at dksL_law_32 8 rfl rfl)
theorem dL_law_881 : decode cL_law 881 = .ok (.ireturn, 1) := dk_172 (dk_at dksL_law_32 9 rfl rfl)
theorem dL_law_882 : decode cL_law 882 = .ok (.aload_n 1, 1) := dk_43 (dk_at dksL_law_32 10 rfl rfl)
theorem dL_law_883 : decode cL_law 883 = .ok (.aload_n 0, 1) := dk_42 (dk_at dksL_law_32 11 rfl rfl)
theorem dL_law_884 : decode cL_law 884 = .ok (.iload_n 3, 1) := dk_29 (dk_at dksL_law_32 12 rfl rfl)
theorem dL_law_885 : decode cL_law 885 = .ok (.iconst 1, 1) := dk_4 (dk_at dksL_law_32 13 rfl rfl)
theorem dL_law_886 : decode cL_law 886 = .ok (.iadd, 1) := dk_96 (dk_at dksL_law_32 14 rfl rfl)
theorem dL_law_887 : decode cL_law 887 = .ok (.iaload, 1) := dk_46 (dk_at dksL_law_32 15 rfl rfl)
theorem dL_law_888 : decode cL_law 888 = .ok (.invokevirtual 115, 3) := dk_182 0 115 (dk_at dksL_law_32 16 rfl rfl)
theorem dL_law_891 : decode cL_law 891 = .ok (.aload_n 2, 1) := dk_44 (dk_at dksL_law_32 19 rfl rfl)
theorem dL_law_892 : decode cL_law 892 = .ok (.aload_n 0, 1) := dk_42 (dk_at dksL_law_32 20 rfl rfl)
theorem dL_law_893 : decode cL_law 893 = .ok (.iload_n 3, 1) := dk_29 (dk_at dksL_law_32 21 rfl rfl)
theorem dL_law_894 : decode cL_law 894 = .ok (.iconst 1, 1) := dk_4 (dk_at dksL_law_32 22 rfl rfl)
theorem dL_law_895 : decode cL_law 895 = .ok (.iadd, 1) := dk_96 (dk_at dksL_law_32 23 rfl rfl)
theorem dL_law_896 : decode cL_law 896 = .ok (.iaload, 1) := dk_46 (dk_at dksL_law_33 0 rfl rfl)
theorem dL_law_897 : decode cL_law 897 = .ok (.invokevirtual 118, 3) := dk_182 0 118 (dk_at dksL_law_33 1 rfl rfl)
theorem dL_law_900 : decode cL_law 900 = .ok (.if_icmp .eq 188, 3) := dk_159 0 188 (dk_at dksL_law_33 4 rfl rfl)
theorem dL_law_903 : decode cL_law 903 = .ok (.iconst 0, 1) := dk_3 (dk_at dksL_law_33 7 rfl rfl)
theorem dL_law_904 : decode cL_law 904 = .ok (.ireturn, 1) := dk_172 (dk_at dksL_law_33 8 rfl rfl)
theorem dL_law_905 : decode cL_law 905 = .ok (.aload_n 1, 1) := dk_43 (dk_at dksL_law_33 9 rfl rfl)
theorem dL_law_906 : decode cL_law 906 = .ok (.aload_n 0, 1) := dk_42 (dk_at dksL_law_33 10 rfl rfl)
theorem dL_law_907 : decode cL_law 907 = .ok (.iload_n 3, 1) := dk_29 (dk_at dksL_law_33 11 rfl rfl)
theorem dL_law_908 : decode cL_law 908 = .ok (.iconst 1, 1) := dk_4 (dk_at dksL_law_33 12 rfl rfl)
theorem dL_law_909 : decode cL_law 909 = .ok (.iadd, 1) := dk_96 (dk_at dksL_law_33 13 rfl rfl)
theorem dL_law_910 : decode cL_law 910 = .ok (.iaload, 1) := dk_46 (dk_at dksL_law_33 14 rfl rfl)
theorem dL_law_911 : decode cL_law 911 = .ok (.invokevirtual 119, 3) := dk_182 0 119 (dk_at dksL_law_33 15 rfl rfl)
theorem dL_law_914 : decode cL_law 914 = .ok (.aload_n 2, 1) := dk_44 (dk_at dksL_law_33 18 rfl rfl)
theorem dL_law_915 : decode cL_law 915 = .ok (.aload_n 0, 1) := dk_42 (dk_at dksL_law_33 19 rfl rfl)
theorem dL_law_916 : decode cL_law 916 = .ok (.iload_n 3, 1) := dk_29 (dk_at dksL_law_33 20 rfl rfl)
theorem dL_law_917 : decode cL_law 917 = .ok (.iconst 1, 1) := dk_4 (dk_at dksL_law_33 21 rfl rfl)
theorem dL_law_918 : decode cL_law 918 = .ok (.iadd, 1) := dk_96 (dk_at dksL_law_33 22 rfl rfl)
theorem dL_law_919 : decode cL_law 919 = .ok (.iaload, 1) := dk_46 (dk_at dksL_law_33 23 rfl rfl)
theorem dL_law_920 : decode cL_law 920 = .ok (.invokevirtual 122, 3) := dk_182 0 122 (dk_at dksL_law_34 0 rfl rfl)
theorem dL_law_923 : decode cL_law 923 = .ok (.if_icmp .eq 165, 3) := dk_159 0 165 (dk_at dksL_law_34 3 rfl rfl)
theorem dL_law_926 : decode cL_law 926 = .ok (.iconst 0, 1) := dk_3 (dk_at dksL_law_34 6 rfl rfl)
theorem dL_law_927 : decode cL_law 927 = .ok (.ireturn, 1) := dk_172 (dk_at dksL_law_34 7 rfl rfl)
theorem dL_law_928 : decode cL_law 928 = .ok (.aload_n 1, 1) := dk_43 (dk_at dksL_law_34 8 rfl rfl)
theorem dL_law_929 : decode cL_law 929 = .ok (.invokevirtual 123, 3) := dk_182 0 123 (dk_at dksL_law_34 9 rfl rfl)
theorem dL_law_932 : decode cL_law 932 = .ok (.aload_n 2, 1) := dk_44 (dk_at dksL_law_34 12 rfl rfl)
theorem dL_law_933 : decode cL_law 933 = .ok (.invokevirtual 126, 3) := dk_182 0 126 (dk_at dksL_law_34 13 rfl rfl)
theorem dL_law_936 : decode cL_law 936 = .ok (.if_icmp .eq 152, 3) := dk_159 0 152 (dk_at dksL_law_34 16 rfl rfl)
theorem dL_law_939 : decode cL_law 939 = .ok (.iconst 0, 1) := dk_3 (dk_at dksL_law_34 19 rfl rfl)
theorem dL_law_940 : decode cL_law 940 = .ok (.ireturn, 1) := dk_172 (dk_at dksL_law_34 20 rfl rfl)
theorem dL_law_941 : decode cL_law 941 = .ok (.aload_n 1, 1) := dk_43 (dk_at dksL_law_34 21 rfl rfl)
theorem dL_law_942 : decode cL_law 942 = .ok (.aload_n 0, 1) := dk_42 (dk_at dksL_law_34 22 rfl rfl)
theorem dL_law_943 : decode cL_law 943 = .ok (.iload_n 3, 1) := dk_29 (dk_at dksL_law_34 23 rfl rfl)
theorem dL_law_944 : decode cL_law 944 = .ok (.iconst 1, 1) := dk_4 (dk_at dksL_law_35 0 rfl rfl)
theorem dL_law_945 : decode cL_law 945 = .ok (.iadd, 1) := dk_96 (dk_at dksL_law_35 1 rfl rfl)
theorem dL_law_946 : decode cL_law 946 = .ok (.iaload, 1) := dk_46 (dk_at dksL_law_35 2 rfl rfl)
theorem dL_law_947 : decode cL_law 947 = .ok (.invokevirtual 127, 3) := dk_182 0 127 (dk_at dksL_law_35 3 rfl rfl)
theorem dL_law_950 : decode cL_law 950 = .ok (.aload_n 2, 1) := dk_44 (dk_at dksL_law_35 6 rfl rfl)
theorem dL_law_951 : decode cL_law 951 = .ok (.aload_n 0, 1) := dk_42 (dk_at dksL_law_35 7 rfl rfl)
theorem dL_law_952 : decode cL_law 952 = .ok (.iload_n 3, 1) := dk_29 (dk_at dksL_law_35 8 rfl rfl)
theorem dL_law_953 : decode cL_law 953 = .ok (.iconst 1, 1) := dk_4 (dk_at dksL_law_35 9 rfl rfl)
theorem dL_law_954 : decode cL_law 954 = .ok (.iadd, 1) := dk_96 (dk_at dksL_law_35 10 rfl rfl)
theorem dL_law_955 : decode cL_law 955 = .ok (.iaload, 1) := dk_46 (dk_at dksL_law_35 11 rfl rfl)
theorem dL_law_956 : decode cL_law 956 = .ok (.invokevirtual 130, 3) := dk_182 0 130 (dk_at dksL_law_35 12 rfl rfl)
theorem dL_law_959 : decode cL_law 959 = .ok (.if_icmp .eq 129, 3) := dk_159 0 129 (dk_at dksL_law_35 15 rfl rfl)
theorem dL_law_962 : decode cL_law 962 = .ok (.iconst 0, 1) := dk_3 (dk_at dksL_law_35 18 rfl rfl)
theorem dL_law_963 : decode cL_law 963 = .ok (.ireturn, 1) := dk_172 (dk_at dksL_law_35 19 rfl rfl)
theorem dL_law_964 : decode cL_law 964 = .ok (.aload_n 1, 1) := dk_43 (dk_at dksL_law_35 20 rfl rfl)
theorem dL_law_965 : decode cL_law 965 = .ok (.aload_n 0, 1) := dk_42 (dk_at dksL_law_35 21 rfl rfl)
theorem dL_law_966 : decode cL_law 966 = .ok (.iload_n 3, 1) := dk_29 (dk_at dksL_law_35 22 rfl rfl)
theorem dL_law_967 : decode cL_law 967 = .ok (.iconst 1, 1) := dk_4 (dk_at dksL_law_35 23 rfl rfl)
theorem dL_law_968 : decode cL_law 968 = .ok (.iadd, 1) := dk_96 (dk_at dksL_law_36 0 rfl rfl)
theorem dL_law_969 : decode cL_law 969 = .ok (.iaload, 1) := dk_46 (dk_at dksL_law_36 1 rfl rfl)
theorem dL_law_970 : decode cL_law 970 = .ok (.invokevirtual 131, 3) := dk_182 0 131 (dk_at dksL_law_36 2 rfl rfl)
theorem dL_law_973 : decode cL_law 973 = .ok (.aload_n 2, 1) := dk_44 (dk_at dksL_law_36 5 rfl rfl)
theorem dL_law_974 : decode cL_law 974 = .ok (.aload_n 0, 1) := dk_42 (dk_at dksL_law_36 6 rfl rfl)
theorem dL_law_975 : decode cL_law 975 = .ok (.iload_n 3, 1) := dk_29 (dk_at dksL_law_36 7 rfl rfl)
theorem dL_law_976 : decode cL_law 976 = .ok (.iconst 1, 1) := dk_4 (dk_at dksL_law_36 8 rfl rfl)
theorem dL_law_977 : decode cL_law 977 = .ok (.iadd, 1) := dk_96 (dk_at dksL_law_36 9 rfl rfl)
theorem dL_law_978 : decode cL_law 978 = .ok (.iaload, 1) := dk_46 (dk_at dksL_law_36 10 rfl rfl)
theorem dL_law_979 : decode cL_law 979 = .ok (.invokevirtual 134, 3) := dk_182 0 134 (dk_at dksL_law_36 11 rfl rfl)
theorem dL_law_982 : decode cL_law 982 = .ok (.if_icmp .eq 106, 3) := dk_159 0 106 (dk_at dksL_law_36 14 rfl rfl)
theorem dL_law_985 : decode cL_law 985 = .ok (.iconst 0, 1) := dk_3 (dk_at dksL_law_36 17 rfl rfl)
theorem dL_law_986 : decode cL_law 986 = .ok (.ireturn, 1) := dk_172 (dk_at dksL_law_36 18 rfl rfl)
theorem dL_law_987 : decode cL_law 987 = .ok (.aload_n 1, 1) := dk_43 (dk_at dksL_law_36 19 rfl rfl)
theorem dL_law_988 : decode cL_law 988 = .ok (.aload_n 0, 1) := dk_42 (dk_at dksL_law_36 20 rfl rfl)
theorem dL_law_989 : decode cL_law 989 = .ok (.iload_n 3, 1) := dk_29 (dk_at dksL_law_36 21 rfl rfl)
theorem dL_law_990 : decode cL_law 990 = .ok (.iconst 1, 1) := dk_4 (dk_at dksL_law_36 22 rfl rfl)
theorem dL_law_991 : decode cL_law 991 = .ok (.iadd, 1) := dk_96 (dk_at dksL_law_36 23 rfl rfl)
theorem dL_law_992 : decode cL_law 992 = .ok (.iaload, 1) := dk_46 (dk_at dksL_law_37 0 rfl rfl)
theorem dL_law_993 : decode cL_law 993 = .ok (.ifCond .eq 7, 3) := dk_153 0 7 (dk_at dksL_law_37 1 rfl rfl)
theorem dL_law_996 : decode cL_law 996 = .ok (.iconst 1, 1) := dk_4 (dk_at dksL_law_37 4 rfl rfl)
theorem dL_law_997 : decode cL_law 997 = .ok (.goto 4, 3) := dk_167 0 4 (dk_at dksL_law_37 5 rfl rfl)
theorem dL_law_1000 : decode cL_law 1000 = .ok (.iconst 0, 1) := dk_3 (dk_at dksL_law_37 8 rfl rfl)
theorem dL_law_1001 : decode cL_law 1001 = .ok (.invokevirtual 135, 3) := dk_182 0 135 (dk_at dksL_law_37 9 rfl rfl)
theorem dL_law_1004 : decode cL_law 1004 = .ok (.aload_n 2, 1) := dk_44 (dk_at dksL_law_37 12 rfl rfl)
theorem dL_law_1005 : decode cL_law 1005 = .ok (.aload_n 0, 1) := dk_42 (dk_at dksL_law_37 13 rfl rfl)
theorem dL_law_1006 : decode cL_law 1006 = .ok (.iload_n 3, 1) := dk_29 (dk_at dksL_law_37 14 rfl rfl)
theorem dL_law_1007 : decode cL_law 1007 = .ok (.iconst 1, 1) := dk_4 (dk_at dksL_law_37 15 rfl rfl)
theorem dL_law_1008 : decode cL_law 1008 = .ok (.iadd, 1) := dk_96 (dk_at dksL_law_37 16 rfl rfl)
theorem dL_law_1009 : decode cL_law 1009 = .ok (.iaload, 1) := dk_46 (dk_at dksL_law_37 17 rfl rfl)
theorem dL_law_1010 : decode cL_law 1010 = .ok (.ifCond .eq 7, 3) := dk_153 0 7 (dk_at dksL_law_37 18 rfl rfl)
theorem dL_law_1013 : decode cL_law 1013 = .ok (.iconst 1, 1) := dk_4 (dk_at dksL_law_37 21 rfl rfl)
theorem dL_law_1014 : decode cL_law 1014 = .ok (.goto 4, 3) := dk_167 0 4 (dk_at dksL_law_38 0 rfl rfl)
theorem dL_law_1017 : decode cL_law 1017 = .ok (.iconst 0, 1) := dk_3 (dk_at dksL_law_38 3 rfl rfl)
theorem dL_law_1018 : decode cL_law 1018 = .ok (.invokevirtual 139, 3) := dk_182 0 139 (dk_at dksL_law_38 4 rfl rfl)
theorem dL_law_1021 : decode cL_law 1021 = .ok (.if_icmp .eq 67, 3) := dk_159 0 67 (dk_at dksL_law_38 7 rfl rfl)
theorem dL_law_1024 : decode cL_law 1024 = .ok (.iconst 0, 1) := dk_3 (dk_at dksL_law_38 10 rfl rfl)
theorem dL_law_1025 : decode cL_law 1025 = .ok (.ireturn, 1) := dk_172 (dk_at dksL_law_38 11 rfl rfl)
theorem dL_law_1026 : decode cL_law 1026 = .ok (.aload_n 1, 1) := dk_43 (dk_at dksL_law_38 12 rfl rfl)
theorem dL_law_1027 : decode cL_law 1027 = .ok (.aload_n 0, 1) := dk_42 (dk_at dksL_law_38 13 rfl rfl)
theorem dL_law_1028 : decode cL_law 1028 = .ok (.iload_n 3, 1) := dk_29 (dk_at dksL_law_38 14 rfl rfl)
theorem dL_law_1029 : decode cL_law 1029 = .ok (.iconst 1, 1) := dk_4 (dk_at dksL_law_38 15 rfl rfl)
theorem dL_law_1030 : decode cL_law 1030 = .ok (.iadd, 1) := dk_96 (dk_at dksL_law_38 16 rfl rfl)
theorem dL_law_1031 : decode cL_law 1031 = .ok (.iaload, 1) := dk_46 (dk_at dksL_law_38 17 rfl rfl)
theorem dL_law_1032 : decode cL_law 1032 = .ok (.invokevirtual 140, 3) := dk_182 0 140 (dk_at dksL_law_38 18 rfl rfl)
theorem dL_law_1035 : decode cL_law 1035 = .ok (.aload_n 2, 1) := dk_44 (dk_at dksL_law_38 21 rfl rfl)
theorem dL_law_1036 : decode cL_law 1036 = .ok (.aload_n 0, 1) := dk_42 (dk_at dksL_law_38 22 rfl rfl)
theorem dL_law_1037 : decode cL_law 1037 = .ok (.iload_n 3, 1) := dk_29 (dk_at dksL_law_38 23 rfl rfl)
theorem dL_law_1038 : decode cL_law 1038 = .ok (.iconst 1, 1) := dk_4 (dk_at dksL_law_39 0 rfl rfl)
theorem dL_law_1039 : decode cL_law 1039 = .ok (.iadd, 1) := dk_96 (dk_at dksL_law_39 1 rfl rfl)
theorem dL_law_1040 : decode cL_law 1040 = .ok (.iaload, 1) := dk_46 (dk_at dksL_law_39 2 rfl rfl)
theorem dL_law_1041 : decode cL_law 1041 = .ok (.invokevirtual 143, 3) := dk_182 0 143 (dk_at dksL_law_39 3 rfl rfl)
theorem dL_law_1044 : decode cL_law 1044 = .ok (.if_icmp .eq 44, 3) := dk_159 0 44 (dk_at dksL_law_39 6 rfl rfl)
theorem dL_law_1047 : decode cL_law 1047 = .ok (.iconst 0, 1) := dk_3 (dk_at dksL_law_39 9 rfl rfl)
theorem dL_law_1048 : decode cL_law 1048 = .ok (.ireturn, 1) := dk_172 (dk_at dksL_law_39 10 rfl rfl)
theorem dL_law_1049 : decode cL_law 1049 = .ok (.aload_n 1, 1) := dk_43 (dk_at dksL_law_39 11 rfl rfl)
theorem dL_law_1050 : decode cL_law 1050 = .ok (.invokevirtual 144, 3) := dk_182 0 144 (dk_at dksL_law_39 12 rfl rfl)
theorem dL_law_1053 : decode cL_law 1053 = .ok (.aload_n 2, 1) := dk_44 (dk_at dksL_law_39 15 rfl rfl)
theorem dL_law_1054 : decode cL_law 1054 = .ok (.invokevirtual 147, 3) := dk_182 0 147 (dk_at dksL_law_39 16 rfl rfl)
theorem dL_law_1057 : decode cL_law 1057 = .ok (.if_icmp .eq 31, 3) := dk_159 0 31 (dk_at dksL_law_39 19 rfl rfl)
theorem dL_law_1060 : decode cL_law 1060 = .ok (.iconst 0, 1) := dk_3 (dk_at dksL_law_39 22 rfl rfl)
theorem dL_law_1061 : decode cL_law 1061 = .ok (.ireturn, 1) := dk_172 (dk_at dksL_law_39 23 rfl rfl)
theorem dL_law_1062 : decode cL_law 1062 = .ok (.aload_n 1, 1) := dk_43 (dk_at dksL_law_40 0 rfl rfl)
theorem dL_law_1063 : decode cL_law 1063 = .ok (.invokevirtual 148, 3) := dk_182 0 148 (dk_at dksL_law_40 1 rfl rfl)
theorem dL_law_1066 : decode cL_law 1066 = .ok (.aload_n 2, 1) := dk_44 (dk_at dksL_law_40 4 rfl rfl)
theorem dL_law_1067 : decode cL_law 1067 = .ok (.invokevirtual 151, 3) := dk_182 0 151 (dk_at dksL_law_40 5 rfl rfl)
theorem dL_law_1070 : decode cL_law 1070 = .ok (.if_icmp .eq 18, 3) := dk_159 0 18 (dk_at dksL_law_40 8 rfl rfl)
theorem dL_law_1073 : decode cL_law 1073 = .ok (.iconst 0, 1) := dk_3 (dk_at dksL_law_40 11 rfl rfl)
theorem dL_law_1074 : decode cL_law 1074 = .ok (.ireturn, 1) := dk_172 (dk_at dksL_law_40 12 rfl rfl)
theorem dL_law_1075 : decode cL_law 1075 = .ok (.aload_n 1, 1) := dk_43 (dk_at dksL_law_40 13 rfl rfl)
theorem dL_law_1076 : decode cL_law 1076 = .ok (.invokevirtual 152, 3) := dk_182 0 152 (dk_at dksL_law_40 14 rfl rfl)
theorem dL_law_1079 : decode cL_law 1079 = .ok (.aload_n 2, 1) := dk_44 (dk_at dksL_law_40 17 rfl rfl)
theorem dL_law_1080 : decode cL_law 1080 = .ok (.invokevirtual 155, 3) := dk_182 0 155 (dk_at dksL_law_40 18 rfl rfl)
theorem dL_law_1083 : decode cL_law 1083 = .ok (.if_icmp .eq 5, 3) := dk_159 0 5 (dk_at dksL_law_40 21 rfl rfl)
theorem dL_law_1086 : decode cL_law 1086 = .ok (.iconst 0, 1) := dk_3 (dk_at dksL_law_41 0 rfl rfl)
theorem dL_law_1087 : decode cL_law 1087 = .ok (.ireturn, 1) := dk_172 (dk_at dksL_law_41 1 rfl rfl)
theorem dL_law_1088 : decode cL_law 1088 = .ok (.iinc 3 5, 3) := dk_132 3 5 (dk_at dksL_law_41 2 rfl rfl)
theorem dL_law_1091 : decode cL_law 1091 = .ok (.goto (-1073), 3) := dk_167 251 207 (dk_at dksL_law_41 5 rfl rfl)
theorem dL_law_1094 : decode cL_law 1094 = .ok (.iconst 1, 1) := dk_4 (dk_at dksL_law_41 8 rfl rfl)
theorem dL_law_1095 : decode cL_law 1095 = .ok (.ireturn, 1) := dk_172 (dk_at dksL_law_41 9 rfl rfl)
theorem q93 : (Jvm.Cond.initialized "WhalingLogsLaw") ∈ lw_all := lw_g (lw_at lw_m1 0 rfl) rfl
set_option maxRecDepth 100000
theorem q145 : (Jvm.Cond.classLink "WhalingLogsLaw" (7 : Nat) "WhalingLogs") ∈ lw_all := lw_g (lw_at lw_m1 52 rfl) rfl
theorem q147 : (Jvm.Cond.methodLink "WhalingLogsLaw" (9 : Nat) ({ cls := "WhalingLogs", name := "<init>", desc := "()V" } : Jvm.MethodName)) ∈ lw_all := lw_g (lw_at lw_m1 54 rfl) rfl
theorem q384 : (Jvm.Cond.methodLink "WhalingLogsLaw" (13 : Nat) ({ cls := "WhalingLogs", name := "land", desc := "(IZ)I" } : Jvm.MethodName)) ∈ lw_all := lw_g (lw_at lw_m2 51 rfl) rfl
theorem q1208 : (Jvm.Cond.methodLink "WhalingLogsLaw" (18 : Nat) ({ cls := "WhalingLogs", name := "set", desc := "(II)I" } : Jvm.MethodName)) ∈ lw_all := lw_g (lw_at lw_m5 155 rfl) rfl
theorem q1215 : (Jvm.Cond.methodLink "WhalingLogsLaw" (23 : Nat) ({ cls := "WhalingLogs", name := "distance", desc := "(II)I" } : Jvm.MethodName)) ∈ lw_all := lw_g (lw_at lw_m5 162 rfl) rfl
theorem q1237 : (Jvm.Cond.methodLink "WhalingLogsLaw" (27 : Nat) ({ cls := "WhalingLogs", name := "days", desc := "(II)I" } : Jvm.MethodName)) ∈ lw_all := lw_g (lw_at lw_m5 184 rfl) rfl
theorem q1242 : (Jvm.Cond.methodLink "WhalingLogsLaw" (31 : Nat) ({ cls := "WhalingLogs", name := "page", desc := "(II)I" } : Jvm.MethodName)) ∈ lw_all := lw_g (lw_at lw_m5 189 rfl) rfl
theorem q1252 : (Jvm.Cond.methodLink "WhalingLogsLaw" (35 : Nat) ({ cls := "WhalingLogs", name := "entry", desc := "(IIII)I" } : Jvm.MethodName)) ∈ lw_all := lw_g (lw_at lw_m5 199 rfl) rfl
theorem q1278 : (Jvm.Cond.methodLink "WhalingLogsLaw" (40 : Nat) ({ cls := "WhalingLogs", name := "move", desc := "(II)I" } : Jvm.MethodName)) ∈ lw_all := lw_g (lw_at lw_m5 225 rfl) rfl
theorem q1308 : (Jvm.Cond.methodLink "WhalingLogsLaw" (44 : Nat) ({ cls := "WhalingLogs", name := "drop", desc := "(I)I" } : Jvm.MethodName)) ∈ lw_all := lw_g (lw_at lw_m6 15 rfl) rfl
theorem q1313 : (Jvm.Cond.methodLink "WhalingLogsLaw" (49 : Nat) ({ cls := "WhalingLogs", name := "read", desc := "(II)I" } : Jvm.MethodName)) ∈ lw_all := lw_g (lw_at lw_m6 20 rfl) rfl
theorem q1342 : (Jvm.Cond.methodLink "WhalingLogsLaw" (53 : Nat) ({ cls := "WhalingLogs", name := "strike", desc := "(II)I" } : Jvm.MethodName)) ∈ lw_all := lw_g (lw_at lw_m6 49 rfl) rfl
theorem q1359 : (Jvm.Cond.methodLink "WhalingLogsLaw" (57 : Nat) ({ cls := "WhalingLogs", name := "blame", desc := "(I)I" } : Jvm.MethodName)) ∈ lw_all := lw_g (lw_at lw_m6 66 rfl) rfl
theorem q1371 : (Jvm.Cond.methodLink "WhalingLogsLaw" (61 : Nat) ({ cls := "WhalingLogs", name := "pageOf", desc := "(II)I" } : Jvm.MethodName)) ∈ lw_all := lw_g (lw_at lw_m6 78 rfl) rfl
theorem q1385 : (Jvm.Cond.methodLink "WhalingLogsLaw" (65 : Nat) ({ cls := "WhalingLogs", name := "entryOf", desc := "(III)I" } : Jvm.MethodName)) ∈ lw_all := lw_g (lw_at lw_m6 92 rfl) rfl
theorem q1396 : (Jvm.Cond.methodLink "WhalingLogsLaw" (70 : Nat) ({ cls := "WhalingLogs", name := "witnessOf", desc := "(II)I" } : Jvm.MethodName)) ∈ lw_all := lw_g (lw_at lw_m6 103 rfl) rfl
theorem q1449 : (Jvm.Cond.methodLink "WhalingLogsLaw" (74 : Nat) ({ cls := "WhalingLogs", name := "listed", desc := "(II)I" } : Jvm.MethodName)) ∈ lw_all := lw_g (lw_at lw_m6 156 rfl) rfl
theorem q1458 : (Jvm.Cond.methodLink "WhalingLogsLaw" (78 : Nat) ({ cls := "WhalingLogs", name := "canBoth", desc := "(II)I" } : Jvm.MethodName)) ∈ lw_all := lw_g (lw_at lw_m6 165 rfl) rfl
theorem q1463 : (Jvm.Cond.methodLink "WhalingLogsLaw" (82 : Nat) ({ cls := "WhalingLogs", name := "conflicts", desc := "()I" } : Jvm.MethodName)) ∈ lw_all := lw_g (lw_at lw_m6 170 rfl) rfl
theorem q1475 : (Jvm.Cond.methodLink "WhalingLogsLaw" (87 : Nat) ({ cls := "WhalingLogs", name := "worst", desc := "()I" } : Jvm.MethodName)) ∈ lw_all := lw_g (lw_at lw_m6 182 rfl) rfl
theorem q1487 : (Jvm.Cond.methodLink "WhalingLogsLaw" (91 : Nat) ({ cls := "WhalingLogs", name := "crossings", desc := "()I" } : Jvm.MethodName)) ∈ lw_all := lw_g (lw_at lw_m6 194 rfl) rfl
theorem q1491 : (Jvm.Cond.methodLink "WhalingLogsLaw" (95 : Nat) ({ cls := "WhalingLogs", name := "crossingsAgain", desc := "()I" } : Jvm.MethodName)) ∈ lw_all := lw_g (lw_at lw_m6 198 rfl) rfl
theorem q1528 : (Jvm.Cond.methodLink "WhalingLogsLaw" (99 : Nat) ({ cls := "WhalingLogs", name := "track", desc := "(I)I" } : Jvm.MethodName)) ∈ lw_all := lw_g (lw_at lw_m6 235 rfl) rfl
theorem q1540 : (Jvm.Cond.methodLink "WhalingLogsLaw" (103 : Nat) ({ cls := "WhalingLogs", name := "trackAt", desc := "(I)I" } : Jvm.MethodName)) ∈ lw_all := lw_g (lw_at lw_m7 7 rfl) rfl
theorem q1544 : (Jvm.Cond.methodLink "WhalingLogsLaw" (107 : Nat) ({ cls := "WhalingLogs", name := "weightAgain", desc := "()I" } : Jvm.MethodName)) ∈ lw_all := lw_g (lw_at lw_m7 11 rfl) rfl
theorem q1560 : (Jvm.Cond.methodLink "WhalingLogsLaw" (111 : Nat) ({ cls := "WhalingLogs", name := "could", desc := "(II)I" } : Jvm.MethodName)) ∈ lw_all := lw_g (lw_at lw_m7 27 rfl) rfl
theorem q1580 : (Jvm.Cond.methodLink "WhalingLogsLaw" (115 : Nat) ({ cls := "WhalingLogs", name := "chart", desc := "(I)I" } : Jvm.MethodName)) ∈ lw_all := lw_g (lw_at lw_m7 47 rfl) rfl
theorem q1588 : (Jvm.Cond.methodLink "WhalingLogsLaw" (119 : Nat) ({ cls := "WhalingLogs", name := "append", desc := "(I)I" } : Jvm.MethodName)) ∈ lw_all := lw_g (lw_at lw_m7 55 rfl) rfl
theorem q1613 : (Jvm.Cond.methodLink "WhalingLogsLaw" (123 : Nat) ({ cls := "WhalingLogs", name := "run", desc := "()I" } : Jvm.MethodName)) ∈ lw_all := lw_g (lw_at lw_m7 80 rfl) rfl
theorem q2011 : (Jvm.Cond.methodLink "WhalingLogsLaw" (127 : Nat) ({ cls := "WhalingLogs", name := "tell", desc := "(I)I" } : Jvm.MethodName)) ∈ lw_all := lw_g (lw_at lw_m8 238 rfl) rfl
theorem q2077 : (Jvm.Cond.methodLink "WhalingLogsLaw" (131 : Nat) ({ cls := "WhalingLogs", name := "character", desc := "(I)I" } : Jvm.MethodName)) ∈ lw_all := lw_g (lw_at lw_m9 64 rfl) rfl
theorem q2082 : (Jvm.Cond.methodLink "WhalingLogsLaw" (135 : Nat) ({ cls := "WhalingLogs", name := "reason", desc := "(Z)I" } : Jvm.MethodName)) ∈ lw_all := lw_g (lw_at lw_m9 69 rfl) rfl
theorem q2086 : (Jvm.Cond.methodLink "WhalingLogsLaw" (140 : Nat) ({ cls := "WhalingLogs", name := "account", desc := "(I)I" } : Jvm.MethodName)) ∈ lw_all := lw_g (lw_at lw_m9 73 rfl) rfl
theorem q2100 : (Jvm.Cond.methodLink "WhalingLogsLaw" (144 : Nat) ({ cls := "WhalingLogs", name := "undo", desc := "()I" } : Jvm.MethodName)) ∈ lw_all := lw_g (lw_at lw_m9 87 rfl) rfl
theorem q2119 : (Jvm.Cond.methodLink "WhalingLogsLaw" (148 : Nat) ({ cls := "WhalingLogs", name := "save", desc := "()I" } : Jvm.MethodName)) ∈ lw_all := lw_g (lw_at lw_m9 106 rfl) rfl
theorem q2123 : (Jvm.Cond.methodLink "WhalingLogsLaw" (152 : Nat) ({ cls := "WhalingLogs", name := "restore", desc := "()I" } : Jvm.MethodName)) ∈ lw_all := lw_g (lw_at lw_m9 110 rfl) rfl
theorem q2134 : (Jvm.Cond.classLink "WhalingLogsLaw" (10 : Nat) "WhalingLogsModel") ∈ lw_all := lw_g (lw_at lw_m9 121 rfl) rfl
theorem q2136 : (Jvm.Cond.methodLink "WhalingLogsLaw" (12 : Nat) ({ cls := "WhalingLogsModel", name := "<init>", desc := "()V" } : Jvm.MethodName)) ∈ lw_all := lw_g (lw_at lw_m9 123 rfl) rfl
theorem q2243 : (Jvm.Cond.methodLink "WhalingLogsLaw" (17 : Nat) ({ cls := "WhalingLogsModel", name := "land", desc := "(IZ)I" } : Jvm.MethodName)) ∈ lw_all := lw_g (lw_at lw_m9 230 rfl) rfl
theorem q2290 : (Jvm.Cond.methodLink "WhalingLogsLaw" (22 : Nat) ({ cls := "WhalingLogsModel", name := "set", desc := "(II)I" } : Jvm.MethodName)) ∈ lw_all := lw_g (lw_at lw_m10 37 rfl) rfl
theorem q2294 : (Jvm.Cond.methodLink "WhalingLogsLaw" (26 : Nat) ({ cls := "WhalingLogsModel", name := "distance", desc := "(II)I" } : Jvm.MethodName)) ∈ lw_all := lw_g (lw_at lw_m10 41 rfl) rfl
theorem q2302 : (Jvm.Cond.methodLink "WhalingLogsLaw" (30 : Nat) ({ cls := "WhalingLogsModel", name := "days", desc := "(II)I" } : Jvm.MethodName)) ∈ lw_all := lw_g (lw_at lw_m10 49 rfl) rfl
theorem q2307 : (Jvm.Cond.methodLink "WhalingLogsLaw" (34 : Nat) ({ cls := "WhalingLogsModel", name := "page", desc := "(II)I" } : Jvm.MethodName)) ∈ lw_all := lw_g (lw_at lw_m10 54 rfl) rfl
theorem q2315 : (Jvm.Cond.methodLink "WhalingLogsLaw" (39 : Nat) ({ cls := "WhalingLogsModel", name := "entry", desc := "(IIII)I" } : Jvm.MethodName)) ∈ lw_all := lw_g (lw_at lw_m10 62 rfl) rfl
theorem q2327 : (Jvm.Cond.methodLink "WhalingLogsLaw" (43 : Nat) ({ cls := "WhalingLogsModel", name := "move", desc := "(II)I" } : Jvm.MethodName)) ∈ lw_all := lw_g (lw_at lw_m10 74 rfl) rfl
theorem q2343 : (Jvm.Cond.methodLink "WhalingLogsLaw" (48 : Nat) ({ cls := "WhalingLogsModel", name := "drop", desc := "(I)I" } : Jvm.MethodName)) ∈ lw_all := lw_g (lw_at lw_m10 90 rfl) rfl
theorem q2347 : (Jvm.Cond.methodLink "WhalingLogsLaw" (52 : Nat) ({ cls := "WhalingLogsModel", name := "read", desc := "(II)I" } : Jvm.MethodName)) ∈ lw_all := lw_g (lw_at lw_m10 94 rfl) rfl
theorem q2359 : (Jvm.Cond.methodLink "WhalingLogsLaw" (56 : Nat) ({ cls := "WhalingLogsModel", name := "strike", desc := "(II)I" } : Jvm.MethodName)) ∈ lw_all := lw_g (lw_at lw_m10 106 rfl) rfl
theorem q2375 : (Jvm.Cond.methodLink "WhalingLogsLaw" (60 : Nat) ({ cls := "WhalingLogsModel", name := "blame", desc := "(I)I" } : Jvm.MethodName)) ∈ lw_all := lw_g (lw_at lw_m10 122 rfl) rfl
theorem q2383 : (Jvm.Cond.methodLink "WhalingLogsLaw" (64 : Nat) ({ cls := "WhalingLogsModel", name := "pageOf", desc := "(II)I" } : Jvm.MethodName)) ∈ lw_all := lw_g (lw_at lw_m10 130 rfl) rfl
theorem q2395 : (Jvm.Cond.methodLink "WhalingLogsLaw" (69 : Nat) ({ cls := "WhalingLogsModel", name := "entryOf", desc := "(III)I" } : Jvm.MethodName)) ∈ lw_all := lw_g (lw_at lw_m10 142 rfl) rfl
theorem q2399 : (Jvm.Cond.methodLink "WhalingLogsLaw" (73 : Nat) ({ cls := "WhalingLogsModel", name := "witnessOf", desc := "(II)I" } : Jvm.MethodName)) ∈ lw_all := lw_g (lw_at lw_m10 146 rfl) rfl
theorem q2419 : (Jvm.Cond.methodLink "WhalingLogsLaw" (77 : Nat) ({ cls := "WhalingLogsModel", name := "listed", desc := "(II)I" } : Jvm.MethodName)) ∈ lw_all := lw_g (lw_at lw_m10 166 rfl) rfl
theorem q2423 : (Jvm.Cond.methodLink "WhalingLogsLaw" (81 : Nat) ({ cls := "WhalingLogsModel", name := "canBoth", desc := "(II)I" } : Jvm.MethodName)) ∈ lw_all := lw_g (lw_at lw_m10 170 rfl) rfl
theorem q2427 : (Jvm.Cond.methodLink "WhalingLogsLaw" (86 : Nat) ({ cls := "WhalingLogsModel", name := "conflicts", desc := "()I" } : Jvm.MethodName)) ∈ lw_all := lw_g (lw_at lw_m10 174 rfl) rfl
theorem q2435 : (Jvm.Cond.methodLink "WhalingLogsLaw" (90 : Nat) ({ cls := "WhalingLogsModel", name := "worst", desc := "()I" } : Jvm.MethodName)) ∈ lw_all := lw_g (lw_at lw_m10 182 rfl) rfl
theorem q2439 : (Jvm.Cond.methodLink "WhalingLogsLaw" (94 : Nat) ({ cls := "WhalingLogsModel", name := "crossings", desc := "()I" } : Jvm.MethodName)) ∈ lw_all := lw_g (lw_at lw_m10 186 rfl) rfl
theorem q2443 : (Jvm.Cond.methodLink "WhalingLogsLaw" (98 : Nat) ({ cls := "WhalingLogsModel", name := "crossingsAgain", desc := "()I" } : Jvm.MethodName)) ∈ lw_all := lw_g (lw_at lw_m10 190 rfl) rfl
theorem q2447 : (Jvm.Cond.methodLink "WhalingLogsLaw" (102 : Nat) ({ cls := "WhalingLogsModel", name := "track", desc := "(I)I" } : Jvm.MethodName)) ∈ lw_all := lw_g (lw_at lw_m10 194 rfl) rfl
theorem q2451 : (Jvm.Cond.methodLink "WhalingLogsLaw" (106 : Nat) ({ cls := "WhalingLogsModel", name := "trackAt", desc := "(I)I" } : Jvm.MethodName)) ∈ lw_all := lw_g (lw_at lw_m10 198 rfl) rfl
theorem q2455 : (Jvm.Cond.methodLink "WhalingLogsLaw" (110 : Nat) ({ cls := "WhalingLogsModel", name := "weightAgain", desc := "()I" } : Jvm.MethodName)) ∈ lw_all := lw_g (lw_at lw_m10 202 rfl) rfl
theorem q2459 : (Jvm.Cond.methodLink "WhalingLogsLaw" (114 : Nat) ({ cls := "WhalingLogsModel", name := "could", desc := "(II)I" } : Jvm.MethodName)) ∈ lw_all := lw_g (lw_at lw_m10 206 rfl) rfl
theorem q2471 : (Jvm.Cond.methodLink "WhalingLogsLaw" (118 : Nat) ({ cls := "WhalingLogsModel", name := "chart", desc := "(I)I" } : Jvm.MethodName)) ∈ lw_all := lw_g (lw_at lw_m10 218 rfl) rfl
theorem q2475 : (Jvm.Cond.methodLink "WhalingLogsLaw" (122 : Nat) ({ cls := "WhalingLogsModel", name := "append", desc := "(I)I" } : Jvm.MethodName)) ∈ lw_all := lw_g (lw_at lw_m10 222 rfl) rfl
theorem q2479 : (Jvm.Cond.methodLink "WhalingLogsLaw" (126 : Nat) ({ cls := "WhalingLogsModel", name := "run", desc := "()I" } : Jvm.MethodName)) ∈ lw_all := lw_g (lw_at lw_m10 226 rfl) rfl
theorem q2539 : (Jvm.Cond.methodLink "WhalingLogsLaw" (130 : Nat) ({ cls := "WhalingLogsModel", name := "tell", desc := "(I)I" } : Jvm.MethodName)) ∈ lw_all := lw_g (lw_at lw_m11 46 rfl) rfl
theorem q2555 : (Jvm.Cond.methodLink "WhalingLogsLaw" (134 : Nat) ({ cls := "WhalingLogsModel", name := "character", desc := "(I)I" } : Jvm.MethodName)) ∈ lw_all := lw_g (lw_at lw_m11 62 rfl) rfl
theorem q2559 : (Jvm.Cond.methodLink "WhalingLogsLaw" (139 : Nat) ({ cls := "WhalingLogsModel", name := "reason", desc := "(Z)I" } : Jvm.MethodName)) ∈ lw_all := lw_g (lw_at lw_m11 66 rfl) rfl
theorem q2563 : (Jvm.Cond.methodLink "WhalingLogsLaw" (143 : Nat) ({ cls := "WhalingLogsModel", name := "account", desc := "(I)I" } : Jvm.MethodName)) ∈ lw_all := lw_g (lw_at lw_m11 70 rfl) rfl
theorem q2571 : (Jvm.Cond.methodLink "WhalingLogsLaw" (147 : Nat) ({ cls := "WhalingLogsModel", name := "undo", desc := "()I" } : Jvm.MethodName)) ∈ lw_all := lw_g (lw_at lw_m11 78 rfl) rfl
theorem q2575 : (Jvm.Cond.methodLink "WhalingLogsLaw" (151 : Nat) ({ cls := "WhalingLogsModel", name := "save", desc := "()I" } : Jvm.MethodName)) ∈ lw_all := lw_g (lw_at lw_m11 82 rfl) rfl
theorem q2579 : (Jvm.Cond.methodLink "WhalingLogsLaw" (155 : Nat) ({ cls := "WhalingLogsModel", name := "restore", desc := "()I" } : Jvm.MethodName)) ∈ lw_all := lw_g (lw_at lw_m11 86 rfl) rfl
theorem q749 : (Jvm.Cond.sameMethod "[B" "java/lang/Object" "clone" "()Ljava/lang/Object;") ∈ lw_all := lw_g (lw_at lw_m3 176 rfl) rfl
set_option maxRecDepth 100000
theorem q750 : (Jvm.Cond.selects "[B" ({ cls := "[B", name := "clone", desc := "()Ljava/lang/Object;" } : Jvm.MethodName) ({ cls := "java/lang/Object", name := "clone", desc := "()Ljava/lang/Object;" } : Jvm.MethodName)) ∈ lw_all := lw_g (lw_at lw_m3 177 rfl) rfl
theorem q751 : (Jvm.Cond.castable "[B" "java/lang/Cloneable") ∈ lw_tbl := lw_at lw_m3 178 rfl
theorem q2641 : (Jvm.Cond.castable "[B" "java/lang/Object") ∈ lw_tbl := lw_at lw_m11 148 rfl
theorem q2638 : (Jvm.Cond.castable "[I" "java/lang/Object") ∈ lw_tbl := lw_at lw_m11 145 rfl
set_option maxRecDepth 100000
theorem q419 : (Jvm.Cond.sameMethod "[J" "java/lang/Object" "clone" "()Ljava/lang/Object;") ∈ lw_all := lw_g (lw_at lw_m2 86 rfl) rfl
set_option maxRecDepth 100000
theorem q422 : (Jvm.Cond.selects "[J" ({ cls := "[J", name := "clone", desc := "()Ljava/lang/Object;" } : Jvm.MethodName) ({ cls := "java/lang/Object", name := "clone", desc := "()Ljava/lang/Object;" } : Jvm.MethodName)) ∈ lw_all := lw_g (lw_at lw_m2 89 rfl) rfl
theorem q423 : (Jvm.Cond.castable "[J" "java/lang/Cloneable") ∈ lw_tbl := lw_at lw_m2 90 rfl
theorem q2637 : (Jvm.Cond.castable "[J" "java/lang/Object") ∈ lw_tbl := lw_at lw_m11 144 rfl
theorem q2640 : (Jvm.Cond.castable "[LWhalingLogs$Entry;" "java/lang/Object") ∈ lw_tbl := lw_at lw_m11 147 rfl
set_option maxRecDepth 100000
theorem q2634 : (Jvm.Cond.sameMethod "[Ljava/lang/Object;" "java/lang/Object" "getClass" "()Ljava/lang/Class;") ∈ lw_all := lw_g (lw_at lw_m11 141 rfl) rfl
set_option maxRecDepth 100000
theorem q2635 : (Jvm.Cond.selects "[Ljava/lang/Object;" ({ cls := "java/lang/Object", name := "getClass", desc := "()Ljava/lang/Class;" } : Jvm.MethodName) ({ cls := "java/lang/Object", name := "getClass", desc := "()Ljava/lang/Class;" } : Jvm.MethodName)) ∈ lw_all := lw_g (lw_at lw_m11 142 rfl) rfl
theorem q2639 : (Jvm.Cond.castable "[Ljava/lang/Object;" "java/lang/Object") ∈ lw_tbl := lw_at lw_m11 146 rfl
theorem q1656 : (Jvm.Cond.interfaceMethod "java/lang/CharSequence" "java/lang/CharSequence" "length" "()I") ∈ lw_tbl := lw_at lw_m7 123 rfl
set_option maxRecDepth 100000
theorem q1657 : (Jvm.Cond.declares ({ cls := "java/lang/CharSequence", name := "length", desc := "()I" } : Jvm.MethodName)) ∈ lw_tbl := lw_at lw_m7 124 rfl
theorem q1668 : (Jvm.Cond.interfaceMethod "java/lang/CharSequence" "java/lang/CharSequence" "charAt" "(I)C") ∈ lw_tbl := lw_at lw_m7 135 rfl
theorem q1669 : (Jvm.Cond.declares ({ cls := "java/lang/CharSequence", name := "charAt", desc := "(I)C" } : Jvm.MethodName)) ∈ lw_tbl := lw_at lw_m7 136 rfl
theorem q130 : (Jvm.Cond.initialized "java/lang/Number") ∈ lw_all := lw_g (lw_at lw_m1 37 rfl) rfl
set_option maxRecDepth 100000
theorem q111 : (Jvm.Cond.initialized "java/lang/System") ∈ lw_all := lw_g (lw_at lw_m1 18 rfl) rfl
set_option maxRecDepth 100000
theorem q427 : (Jvm.Cond.static ({ cls := "java/lang/System", name := "arraycopy", desc := "(Ljava/lang/Object;ILjava/lang/Object;II)V" } : Jvm.MethodName)) ∈ lw_all := lw_g (lw_at lw_m2 94 rfl) rfl
theorem q428 : (Jvm.Cond.native ({ cls := "java/lang/System", name := "arraycopy", desc := "(Ljava/lang/Object;ILjava/lang/Object;II)V" } : Jvm.MethodName)) ∈ lw_all := lw_g (lw_at lw_m2 95 rfl) rfl
theorem q113 : (Jvm.Cond.initialized "java/util/AbstractList$ListItr") ∈ lw_all := lw_g (lw_at lw_m1 20 rfl) rfl
set_option maxRecDepth 100000
theorem q528 : (Jvm.Cond.castable "java/util/AbstractList$ListItr" "java/util/Iterator") ∈ lw_tbl := lw_at lw_m2 195 rfl
theorem q529 : (Jvm.Cond.selects "java/util/AbstractList$ListItr" ({ cls := "java/util/Iterator", name := "hasNext", desc := "()Z" } : Jvm.MethodName) ({ cls := "java/util/AbstractList$Itr", name := "hasNext", desc := "()Z" } : Jvm.MethodName)) ∈ lw_all := lw_g (lw_at lw_m2 196 rfl) rfl
theorem q530 : (Jvm.Cond.unhidden "java/util/AbstractList$ListItr" "hasNext" "()Z") ∈ lw_tbl := lw_at lw_m2 197 rfl
theorem q569 : (Jvm.Cond.selects "java/util/AbstractList$ListItr" ({ cls := "java/util/Iterator", name := "next", desc := "()Ljava/lang/Object;" } : Jvm.MethodName) ({ cls := "java/util/AbstractList$Itr", name := "next", desc := "()Ljava/lang/Object;" } : Jvm.MethodName)) ∈ lw_all := lw_g (lw_at lw_m2 236 rfl) rfl
theorem q570 : (Jvm.Cond.unhidden "java/util/AbstractList$ListItr" "next" "()Ljava/lang/Object;") ∈ lw_tbl := lw_at lw_m2 237 rfl
theorem q577 : (Jvm.Cond.selects "java/util/AbstractList$ListItr" ({ cls := "java/util/AbstractList$Itr", name := "checkForComodification", desc := "()V" } : Jvm.MethodName) ({ cls := "java/util/AbstractList$Itr", name := "checkForComodification", desc := "()V" } : Jvm.MethodName)) ∈ lw_all := lw_g (lw_at lw_m3 4 rfl) rfl
theorem q690 : (Jvm.Cond.selects "java/util/AbstractList$ListItr" ({ cls := "java/lang/Object", name := "getClass", desc := "()Ljava/lang/Class;" } : Jvm.MethodName) ({ cls := "java/lang/Object", name := "getClass", desc := "()Ljava/lang/Class;" } : Jvm.MethodName)) ∈ lw_all := lw_g (lw_at lw_m3 117 rfl) rfl
theorem q2613 : (Jvm.Cond.castable "java/util/AbstractList$ListItr" "java/lang/Object") ∈ lw_tbl := lw_at lw_m11 120 rfl
theorem q2644 : (Jvm.Cond.fieldLink "java/util/AbstractList$ListItr" (1 : Nat) "java/util/AbstractList$ListItr" "this$0" "Ljava/util/AbstractList;") ∈ lw_all := lw_g (lw_at lw_m11 151 rfl) rfl
theorem q2649 : (Jvm.Cond.fieldLink "java/util/AbstractList$ListItr" (13 : Nat) "java/util/AbstractList$ListItr" "cursor" "I") ∈ lw_all := lw_g (lw_at lw_m11 156 rfl) rfl
theorem q2650 : (Jvm.Cond.sameField "java/util/AbstractList$ListItr" "java/util/AbstractList$Itr" "cursor" "I") ∈ lw_all := lw_g (lw_at lw_m11 157 rfl) rfl
theorem q526 : (Jvm.Cond.interfaceMethod "java/util/Iterator" "java/util/Iterator" "hasNext" "()Z") ∈ lw_tbl := lw_at lw_m2 193 rfl
set_option maxRecDepth 100000
theorem q527 : (Jvm.Cond.declares ({ cls := "java/util/Iterator", name := "hasNext", desc := "()Z" } : Jvm.MethodName)) ∈ lw_tbl := lw_at lw_m2 194 rfl
theorem q567 : (Jvm.Cond.interfaceMethod "java/util/Iterator" "java/util/Iterator" "next" "()Ljava/lang/Object;") ∈ lw_tbl := lw_at lw_m2 234 rfl
theorem q568 : (Jvm.Cond.declares ({ cls := "java/util/Iterator", name := "next", desc := "()Ljava/lang/Object;" } : Jvm.MethodName)) ∈ lw_tbl := lw_at lw_m2 235 rfl
theorem q1721 : (Jvm.Cond.interfaceMethod "jdk/internal/access/JavaLangAccess" "jdk/internal/access/JavaLangAccess" "getUTF16Char" "([BI)C") ∈ lw_tbl := lw_at lw_m7 188 rfl
set_option maxRecDepth 100000
theorem q1722 : (Jvm.Cond.declares ({ cls := "jdk/internal/access/JavaLangAccess", name := "getUTF16Char", desc := "([BI)C" } : Jvm.MethodName)) ∈ lw_tbl := lw_at lw_m7 189 rfl
theorem q182 : (Jvm.Cond.arrayClass Jvm.ClassFile.FieldType.long) ∈ lw_all := lw_g (lw_at lw_m1 89 rfl) rfl
set_option maxRecDepth 100000
theorem q249 : (Jvm.Cond.arrayClass Jvm.ClassFile.FieldType.int) ∈ lw_all := lw_g (lw_at lw_m1 156 rfl) rfl
theorem q257 : (Jvm.Cond.arrayOver (Jvm.ClassFile.FieldType.object "java/lang/Object")) ∈ lw_tbl := lw_at lw_m1 164 rfl
theorem q285 : (Jvm.Cond.arrayOver (Jvm.ClassFile.FieldType.object "WhalingLogs$Entry")) ∈ lw_tbl := lw_at lw_m1 192 rfl
theorem q352 : (Jvm.Cond.arrayClass Jvm.ClassFile.FieldType.byte) ∈ lw_all := lw_g (lw_at lw_m2 19 rfl) rfl
theorem q2642 : (Jvm.Cond.arrayClass Jvm.ClassFile.FieldType.char) ∈ lw_all := lw_g (lw_at lw_m11 149 rfl) rfl
theorem q2643 : (Jvm.Cond.arrayClass Jvm.ClassFile.FieldType.short) ∈ lw_all := lw_g (lw_at lw_m11 150 rfl) rfl
