/-! WhalingLogsModel -/
set_option maxRecDepth 100000
def RX4 : String := "WhalingLogsModel"
def TX4 : u_T := fun k => match k with
  | 0 => ("WhalingLogsModel", "v", "[I", true)
  | 1 => ("WhalingLogsModel", "ahead", "[I", true)
  | 2 => ("WhalingLogsModel", "saved", "[I", true)
  | 3 => ("WhalingLogsModel", "past", "[I", true)
  | 4 => ("WhalingLogsModel", "pageAt", "[I", true)
  | 5 => ("WhalingLogsModel", "numberAt", "[I", true)
  | 6 => ("WhalingLogsModel", "apart", "[I", true)
  | 7 => ("WhalingLogsModel", "best", "[I", true)
  | 8 => ("WhalingLogsModel", "next", "[I", true)
  | 9 => ("WhalingLogsModel", "track", "[I", true)
  | 10 => ("WhalingLogsModel", "bad", "[I", true)
  | 11 => ("WhalingLogsModel", "steps", "[I", true)
  | 12 => ("WhalingLogsModel", "queue", "[I", true)
  | 13 => ("WhalingLogsModel", "one", "[I", true)
  | 14 => ("WhalingLogsModel", "listN", "I", false)
  | 15 => ("WhalingLogsModel", "trackN", "I", false)
  | 16 => ("WhalingLogsModel", "trackWeight", "I", false)
  | 17 => ("WhalingLogsModel", "changes", "I", false)
  | 18 => ("WhalingLogsModel", "why", "I", false)
  | 19 => ("WhalingLogsModel", "detail", "I", false)
  | 20 => ("WhalingLogsModel", "isSaved", "Z", false)
  | 21 => ("WhalingLogsModel", "before", "[I", true)
  | 22 => ("WhalingLogsModel", "behind", "[I", true)
  | 23 => ("WhalingLogsModel", "text", "[I", true)
  | 24 => ("WhalingLogsModel", "got", "[I", true)
  | 25 => ("WhalingLogsModel", "words", "[I", true)
  | 26 => ("WhalingLogsModel", "parts", "[I", true)
  | 27 => ("WhalingLogsModel", "textN", "I", false)
  | 28 => ("WhalingLogsModel", "here", "I", false)
  | 29 => ("WhalingLogsModel", "toldN", "I", false)
  | 30 => ("WhalingLogsModel", "isWrong", "Z", false)
  | 31 => ("WhalingLogsModel", "isDoing", "Z", false)
  | 32 => ("WhalingLogsModel", "line", "[I", true)
  | _ => ("WhalingLogsModel", "lineN", "I", false)
def tyX4 : Nat → FieldType := fun k => match k with
  | 0 => .array .int
  | 1 => .array .int
  | 2 => .array .int
  | 3 => .array .int
  | 4 => .array .int
  | 5 => .array .int
  | 6 => .array .int
  | 7 => .array .int
  | 8 => .array .int
  | 9 => .array .int
  | 10 => .array .int
  | 11 => .array .int
  | 12 => .array .int
  | 13 => .array .int
  | 14 => .int
  | 15 => .int
  | 16 => .int
  | 17 => .int
  | 18 => .int
  | 19 => .int
  | 20 => .boolean
  | 21 => .array .int
  | 22 => .array .int
  | 23 => .array .int
  | 24 => .array .int
  | 25 => .array .int
  | 26 => .array .int
  | 27 => .int
  | 28 => .int
  | 29 => .int
  | 30 => .boolean
  | 31 => .boolean
  | 32 => .array .int
  | _ => .int
abbrev wsX40 : List Cond := u_ws RX4 TX4 34
set_option maxRecDepth 100000 in
theorem nmX4 : ∀ a, a < 34 → ∀ b, b < 34 → a ≠ b → (TX4 a).2.1 ≠ (TX4 b).2.1 := by decide +kernel
set_option maxRecDepth 100000 in
theorem tyX4_ok : ∀ k, k < 34 → parseFieldDescriptor (TX4 k).2.2.1 = some (tyX4 k) := by decide +kernel
abbrev cX4_init : ByteArray := prog_20_method_1_code
def yX4_init : MethodName := ⟨RX4, "<init>", "()V"⟩
def dkwX4_init_28 : List UInt8 := [180, 0, 7, 5, 16, 50, 79, 42, 180, 0, 7, 6, 16, 70, 79, 177]
abbrev dktX4_init_28 : List UInt8 := dkwX4_init_28 ++ []
def dkwX4_init_27 : List UInt8 := [42, 16, 40, 188, 10, 181, 0, 70, 42, 180, 0, 7, 3, 6, 79, 42, 180, 0, 7, 4, 16, 30, 79, 42]
abbrev dktX4_init_27 : List UInt8 := dkwX4_init_27 ++ dktX4_init_28
def dkwX4_init_26 : List UInt8 := [16, 100, 79, 89, 16, 29, 16, 32, 79, 89, 16, 30, 16, 32, 79, 89, 16, 31, 16, 32, 79, 181, 0, 67]
abbrev dktX4_init_26 : List UInt8 := dkwX4_init_26 ++ dktX4_init_27
def dkwX4_init_25 : List UInt8 := [16, 100, 79, 89, 16, 25, 16, 100, 79, 89, 16, 26, 16, 32, 79, 89, 16, 27, 16, 32, 79, 89, 16, 28]
abbrev dktX4_init_25 : List UInt8 := dkwX4_init_25 ++ dktX4_init_26
def dkwX4_init_24 : List UInt8 := [16, 100, 79, 89, 16, 21, 16, 100, 79, 89, 16, 22, 16, 32, 79, 89, 16, 23, 16, 32, 79, 89, 16, 24]
abbrev dktX4_init_24 : List UInt8 := dkwX4_init_24 ++ dktX4_init_25
def dkwX4_init_23 : List UInt8 := [16, 100, 79, 89, 16, 17, 16, 110, 79, 89, 16, 18, 16, 99, 79, 89, 16, 19, 16, 100, 79, 89, 16, 20]
abbrev dktX4_init_23 : List UInt8 := dkwX4_init_23 ++ dktX4_init_24
def dkwX4_init_22 : List UInt8 := [16, 110, 79, 89, 16, 13, 16, 110, 79, 89, 16, 14, 16, 32, 79, 89, 16, 15, 16, 32, 79, 89, 16, 16]
abbrev dktX4_init_22 : List UInt8 := dkwX4_init_22 ++ dktX4_init_23
def dkwX4_init_21 : List UInt8 := [16, 110, 79, 89, 16, 9, 16, 32, 79, 89, 16, 10, 16, 32, 79, 89, 16, 11, 16, 32, 79, 89, 16, 12]
abbrev dktX4_init_21 : List UInt8 := dkwX4_init_21 ++ dktX4_init_22
def dkwX4_init_20 : List UInt8 := [16, 99, 79, 89, 8, 16, 32, 79, 89, 16, 6, 16, 32, 79, 89, 16, 7, 16, 32, 79, 89, 16, 8]
abbrev dktX4_init_20 : List UInt8 := dkwX4_init_20 ++ dktX4_init_21
def dkwX4_init_19 : List UInt8 := [188, 10, 89, 3, 16, 99, 79, 89, 4, 16, 32, 79, 89, 5, 16, 32, 79, 89, 6, 16, 32, 79, 89, 7]
abbrev dktX4_init_19 : List UInt8 := dkwX4_init_19 ++ dktX4_init_20
def dkwX4_init_18 : List UInt8 := [16, 45, 16, 109, 79, 89, 16, 46, 16, 101, 79, 89, 16, 47, 16, 32, 79, 181, 0, 64, 42, 16, 32]
abbrev dktX4_init_18 : List UInt8 := dkwX4_init_18 ++ dktX4_init_19
def dkwX4_init_17 : List UInt8 := [16, 41, 16, 101, 79, 89, 16, 42, 16, 98, 79, 89, 16, 43, 16, 108, 79, 89, 16, 44, 16, 97, 79, 89]
abbrev dktX4_init_17 : List UInt8 := dkwX4_init_17 ++ dktX4_init_18
def dkwX4_init_16 : List UInt8 := [16, 37, 16, 116, 79, 89, 16, 38, 16, 114, 79, 89, 16, 39, 16, 105, 79, 89, 16, 40, 16, 107, 79, 89]
abbrev dktX4_init_16 : List UInt8 := dkwX4_init_16 ++ dktX4_init_17
def dkwX4_init_15 : List UInt8 := [16, 33, 16, 100, 79, 89, 16, 34, 16, 32, 79, 89, 16, 35, 16, 32, 79, 89, 16, 36, 16, 115, 79, 89]
abbrev dktX4_init_15 : List UInt8 := dkwX4_init_15 ++ dktX4_init_16
def dkwX4_init_14 : List UInt8 := [16, 29, 16, 32, 79, 89, 16, 30, 16, 114, 79, 89, 16, 31, 16, 101, 79, 89, 16, 32, 16, 97, 79, 89]
abbrev dktX4_init_14 : List UInt8 := dkwX4_init_14 ++ dktX4_init_15
def dkwX4_init_13 : List UInt8 := [16, 25, 16, 110, 79, 89, 16, 26, 16, 116, 79, 89, 16, 27, 16, 114, 79, 89, 16, 28, 16, 121, 79, 89]
abbrev dktX4_init_13 : List UInt8 := dkwX4_init_13 ++ dktX4_init_14
def dkwX4_init_12 : List UInt8 := [16, 21, 16, 101, 79, 89, 16, 22, 16, 32, 79, 89, 16, 23, 16, 32, 79, 89, 16, 24, 16, 101, 79, 89]
abbrev dktX4_init_12 : List UInt8 := dkwX4_init_12 ++ dktX4_init_13
def dkwX4_init_11 : List UInt8 := [16, 17, 16, 32, 79, 89, 16, 18, 16, 112, 79, 89, 16, 19, 16, 97, 79, 89, 16, 20, 16, 103, 79, 89]
abbrev dktX4_init_11 : List UInt8 := dkwX4_init_11 ++ dktX4_init_12
def dkwX4_init_10 : List UInt8 := [16, 13, 16, 112, 79, 89, 16, 14, 16, 101, 79, 89, 16, 15, 16, 101, 79, 89, 16, 16, 16, 100, 79, 89]
abbrev dktX4_init_10 : List UInt8 := dkwX4_init_10 ++ dktX4_init_11
def dkwX4_init_9 : List UInt8 := [16, 9, 16, 32, 79, 89, 16, 10, 16, 32, 79, 89, 16, 11, 16, 32, 79, 89, 16, 12, 16, 115, 79, 89]
abbrev dktX4_init_9 : List UInt8 := dkwX4_init_9 ++ dktX4_init_10
def dkwX4_init_8 : List UInt8 := [89, 8, 16, 32, 79, 89, 16, 6, 16, 115, 79, 89, 16, 7, 16, 101, 79, 89, 16, 8, 16, 97, 79, 89]
abbrev dktX4_init_8 : List UInt8 := dkwX4_init_8 ++ dktX4_init_9
def dkwX4_init_7 : List UInt8 := [3, 16, 108, 79, 89, 4, 16, 97, 79, 89, 5, 16, 110, 79, 89, 6, 16, 100, 79, 89, 7, 16, 32, 79]
abbrev dktX4_init_7 : List UInt8 := dkwX4_init_7 ++ dktX4_init_8
def dkwX4_init_6 : List UInt8 := [181, 0, 55, 42, 16, 70, 188, 10, 181, 0, 58, 42, 8, 188, 10, 181, 0, 61, 42, 16, 48, 188, 10, 89]
abbrev dktX4_init_6 : List UInt8 := dkwX4_init_6 ++ dktX4_init_7
def dkwX4_init_5 : List UInt8 := [16, 15, 188, 10, 181, 0, 49, 42, 17, 0, 192, 188, 10, 181, 0, 52, 42, 17, 0, 192, 188, 10]
abbrev dktX4_init_5 : List UInt8 := dkwX4_init_5 ++ dktX4_init_6
def dkwX4_init_4 : List UInt8 := [188, 10, 181, 0, 40, 42, 17, 0, 192, 188, 10, 181, 0, 43, 42, 17, 0, 192, 188, 10, 181, 0, 46, 42]
abbrev dktX4_init_4 : List UInt8 := dkwX4_init_4 ++ dktX4_init_5
def dkwX4_init_3 : List UInt8 := [188, 10, 181, 0, 31, 42, 16, 30, 188, 10, 181, 0, 34, 42, 16, 30, 188, 10, 181, 0, 37, 42, 16, 30]
abbrev dktX4_init_3 : List UInt8 := dkwX4_init_3 ++ dktX4_init_4
def dkwX4_init_2 : List UInt8 := [181, 0, 22, 42, 16, 30, 188, 10, 181, 0, 25, 42, 17, 3, 132, 188, 10, 181, 0, 28, 42, 16, 30]
abbrev dktX4_init_2 : List UInt8 := dkwX4_init_2 ++ dktX4_init_3
def dkwX4_init_1 : List UInt8 := [17, 1, 98, 188, 10, 181, 0, 16, 42, 17, 11, 16, 188, 10, 181, 0, 19, 42, 16, 30, 188, 10]
abbrev dktX4_init_1 : List UInt8 := dkwX4_init_1 ++ dktX4_init_2
def dkwX4_init_0 : List UInt8 := [42, 183, 0, 1, 42, 17, 1, 98, 188, 10, 181, 0, 7, 42, 17, 1, 98, 188, 10, 181, 0, 13, 42]
abbrev dktX4_init_0 : List UInt8 := dkwX4_init_0 ++ dktX4_init_1
theorem dksX4_init_0 : cX4_init.data.toList.drop 0 = dktX4_init_0 := by decide +kernel
theorem dksX4_init_1 : cX4_init.data.toList.drop 23 = dktX4_init_1 := dk_seg dksX4_init_0 23 rfl rfl
theorem dksX4_init_2 : cX4_init.data.toList.drop 45 = dktX4_init_2 := dk_seg dksX4_init_1 22 rfl rfl
theorem dksX4_init_3 : cX4_init.data.toList.drop 68 = dktX4_init_3 := dk_seg dksX4_init_2 23 rfl rfl
theorem dksX4_init_4 : cX4_init.data.toList.drop 92 = dktX4_init_4 := dk_seg dksX4_init_3 24 rfl rfl
theorem dksX4_init_5 : cX4_init.data.toList.drop 116 = dktX4_init_5 := dk_seg dksX4_init_4 24 rfl rfl
theorem dksX4_init_6 : cX4_init.data.toList.drop 138 = dktX4_init_6 := dk_seg dksX4_init_5 22 rfl rfl
theorem dksX4_init_7 : cX4_init.data.toList.drop 162 = dktX4_init_7 := dk_seg dksX4_init_6 24 rfl rfl
theorem dksX4_init_8 : cX4_init.data.toList.drop 186 = dktX4_init_8 := dk_seg dksX4_init_7 24 rfl rfl
theorem dksX4_init_9 : cX4_init.data.toList.drop 210 = dktX4_init_9 := dk_seg dksX4_init_8 24 rfl rfl
theorem dksX4_init_10 : cX4_init.data.toList.drop 234 = dktX4_init_10 := dk_seg dksX4_init_9 24 rfl rfl
theorem dksX4_init_11 : cX4_init.data.toList.drop 258 = dktX4_init_11 := dk_seg dksX4_init_10 24 rfl rfl
theorem dksX4_init_12 : cX4_init.data.toList.drop 282 = dktX4_init_12 := dk_seg dksX4_init_11 24 rfl rfl
theorem dksX4_init_13 : cX4_init.data.toList.drop 306 = dktX4_init_13 := dk_seg dksX4_init_12 24 rfl rfl
theorem dksX4_init_14 : cX4_init.data.toList.drop 330 = dktX4_init_14 := dk_seg dksX4_init_13 24 rfl rfl
theorem dksX4_init_15 : cX4_init.data.toList.drop 354 = dktX4_init_15 := dk_seg dksX4_init_14 24 rfl rfl
theorem dksX4_init_16 : cX4_init.data.toList.drop 378 = dktX4_init_16 := dk_seg dksX4_init_15 24 rfl rfl
theorem dksX4_init_17 : cX4_init.data.toList.drop 402 = dktX4_init_17 := dk_seg dksX4_init_16 24 rfl rfl
theorem dksX4_init_18 : cX4_init.data.toList.drop 426 = dktX4_init_18 := dk_seg dksX4_init_17 24 rfl rfl
theorem dksX4_init_19 : cX4_init.data.toList.drop 449 = dktX4_init_19 := dk_seg dksX4_init_18 23 rfl rfl
theorem dksX4_init_20 : cX4_init.data.toList.drop 473 = dktX4_init_20 := dk_seg dksX4_init_19 24 rfl rfl
theorem dksX4_init_21 : cX4_init.data.toList.drop 496 = dktX4_init_21 := dk_seg dksX4_init_20 23 rfl rfl
theorem dksX4_init_22 : cX4_init.data.toList.drop 520 = dktX4_init_22 := dk_seg dksX4_init_21 24 rfl rfl
theorem dksX4_init_23 : cX4_init.data.toList.drop 544 = dktX4_init_23 := dk_seg dksX4_init_22 24 rfl rfl
theorem dksX4_init_24 : cX4_init.data.toList.drop 568 = dktX4_init_24 := dk_seg dksX4_init_23 24 rfl rfl
theorem dksX4_init_25 : cX4_init.data.toList.drop 592 = dktX4_init_25 := dk_seg dksX4_init_24 24 rfl rfl
theorem dksX4_init_26 : cX4_init.data.toList.drop 616 = dktX4_init_26 := dk_seg dksX4_init_25 24 rfl rfl
theorem dksX4_init_27 : cX4_init.data.toList.drop 640 = dktX4_init_27 := dk_seg dksX4_init_26 24 rfl rfl
theorem dksX4_init_28 : cX4_init.data.toList.drop 664 = dktX4_init_28 := dk_seg dksX4_init_27 24 rfl rfl
theorem dX4_init_0 : decode cX4_init 0 = .ok (.aload_n 0, 1) := dk_42 (dk_at dksX4_init_0 0 rfl rfl)
theorem dX4_init_1 : decode cX4_init 1 = .ok (.invokespecial 1, 3) := dk_183 0 1 (dk_at dksX4_init_0 1 rfl rfl)
theorem dX4_init_4 : decode cX4_init 4 = .ok (.aload_n 0, 1) := dk_42 (dk_at dksX4_init_0 4 rfl rfl)
theorem dX4_init_5 : decode cX4_init 5 = .ok (.sipush 354, 3) := dk_17 1 98 (dk_at dksX4_init_0 5 rfl rfl)
theorem dX4_init_8 : decode cX4_init 8 = .ok (.newarray .int, 2) := dk_188_10 (dk_at dksX4_init_0 8 rfl rfl)
theorem dX4_init_10 : decode cX4_init 10 = .ok (.putfield 7, 3) := dk_181 0 7 (dk_at dksX4_init_0 10 rfl rfl)
theorem dX4_init_13 : decode cX4_init 13 = .ok (.aload_n 0, 1) := dk_42 (dk_at dksX4_init_0 13 rfl rfl)
theorem dX4_init_14 : decode cX4_init 14 = .ok (.sipush 354, 3) := dk_17 1 98 (dk_at dksX4_init_0 14 rfl rfl)
theorem dX4_init_17 : decode cX4_init 17 = .ok (.newarray .int, 2) := dk_188_10 (dk_at dksX4_init_0 17 rfl rfl)
theorem dX4_init_19 : decode cX4_init 19 = .ok (.putfield 13, 3) := dk_181 0 13 (dk_at dksX4_init_0 19 rfl rfl)
theorem dX4_init_22 : decode cX4_init 22 = .ok (.aload_n 0, 1) := dk_42 (dk_at dksX4_init_0 22 rfl rfl)
theorem dX4_init_23 : decode cX4_init 23 = .ok (.sipush 354, 3) := dk_17 1 98 (dk_at dksX4_init_1 0 rfl rfl)
theorem dX4_init_26 : decode cX4_init 26 = .ok (.newarray .int, 2) := dk_188_10 (dk_at dksX4_init_1 3 rfl rfl)
theorem dX4_init_28 : decode cX4_init 28 = .ok (.putfield 16, 3) := dk_181 0 16 (dk_at dksX4_init_1 5 rfl rfl)
theorem dX4_init_31 : decode cX4_init 31 = .ok (.aload_n 0, 1) := dk_42 (dk_at dksX4_init_1 8 rfl rfl)
theorem dX4_init_32 : decode cX4_init 32 = .ok (.sipush 2832, 3) := dk_17 11 16 (dk_at dksX4_init_1 9 rfl rfl)
theorem dX4_init_35 : decode cX4_init 35 = .ok (.newarray .int, 2) := dk_188_10 (dk_at dksX4_init_1 12 rfl rfl)
theorem dX4_init_37 : decode cX4_init 37 = .ok (.putfield 19, 3) := dk_181 0 19 (dk_at dksX4_init_1 14 rfl rfl)
theorem dX4_init_40 : decode cX4_init 40 = .ok (.aload_n 0, 1) := dk_42 (dk_at dksX4_init_1 17 rfl rfl)
theorem dX4_init_41 : decode cX4_init 41 = .ok (.bipush 30, 2) := dk_16 30 (dk_at dksX4_init_1 18 rfl rfl)
theorem dX4_init_43 : decode cX4_init 43 = .ok (.newarray .int, 2) := dk_188_10 (dk_at dksX4_init_1 20 rfl rfl)
theorem dX4_init_45 : decode cX4_init 45 = .ok (.putfield 22, 3) := dk_181 0 22 (dk_at dksX4_init_2 0 rfl rfl)
theorem dX4_init_48 : decode cX4_init 48 = .ok (.aload_n 0, 1) := dk_42 (dk_at dksX4_init_2 3 rfl rfl)
theorem dX4_init_49 : decode cX4_init 49 = .ok (.bipush 30, 2) := dk_16 30 (dk_at dksX4_init_2 4 rfl rfl)
theorem dX4_init_51 : decode cX4_init 51 = .ok (.newarray .int, 2) := dk_188_10 (dk_at dksX4_init_2 6 rfl rfl)
theorem dX4_init_53 : decode cX4_init 53 = .ok (.putfield 25, 3) := dk_181 0 25 (dk_at dksX4_init_2 8 rfl rfl)
theorem dX4_init_56 : decode cX4_init 56 = .ok (.aload_n 0, 1) := dk_42 (dk_at dksX4_init_2 11 rfl rfl)
theorem dX4_init_57 : decode cX4_init 57 = .ok (.sipush 900, 3) := dk_17 3 132 (dk_at dksX4_init_2 12 rfl rfl)
theorem dX4_init_60 : decode cX4_init 60 = .ok (.newarray .int, 2) := dk_188_10 (dk_at dksX4_init_2 15 rfl rfl)
theorem dX4_init_62 : decode cX4_init 62 = .ok (.putfield 28, 3) := dk_181 0 28 (dk_at dksX4_init_2 17 rfl rfl)
theorem dX4_init_65 : decode cX4_init 65 = .ok (.aload_n 0, 1) := dk_42 (dk_at dksX4_init_2 20 rfl rfl)
theorem dX4_init_66 : decode cX4_init 66 = .ok (.bipush 30, 2) := dk_16 30 (dk_at dksX4_init_2 21 rfl rfl)
theorem dX4_init_68 : decode cX4_init 68 = .ok (.newarray .int, 2) := dk_188_10 (dk_at dksX4_init_3 0 rfl rfl)
theorem dX4_init_70 : decode cX4_init 70 = .ok (.putfield 31, 3) := dk_181 0 31 (dk_at dksX4_init_3 2 rfl rfl)
theorem dX4_init_73 : decode cX4_init 73 = .ok (.aload_n 0, 1) := dk_42 (dk_at dksX4_init_3 5 rfl rfl)
theorem dX4_init_74 : decode cX4_init 74 = .ok (.bipush 30, 2) := dk_16 30 (dk_at dksX4_init_3 6 rfl rfl)
theorem dX4_init_76 : decode cX4_init 76 = .ok (.newarray .int, 2) := dk_188_10 (dk_at dksX4_init_3 8 rfl rfl)
theorem dX4_init_78 : decode cX4_init 78 = .ok (.putfield 34, 3) := dk_181 0 34 (dk_at dksX4_init_3 10 rfl rfl)
theorem dX4_init_81 : decode cX4_init 81 = .ok (.aload_n 0, 1) := dk_42 (dk_at dksX4_init_3 13 rfl rfl)
theorem dX4_init_82 : decode cX4_init 82 = .ok (.bipush 30, 2) := dk_16 30 (dk_at dksX4_init_3 14 rfl rfl)
theorem dX4_init_84 : decode cX4_init 84 = .ok (.newarray .int, 2) := dk_188_10 (dk_at dksX4_init_3 16 rfl rfl)
theorem dX4_init_86 : decode cX4_init 86 = .ok (.putfield 37, 3) := dk_181 0 37 (dk_at dksX4_init_3 18 rfl rfl)
theorem dX4_init_89 : decode cX4_init 89 = .ok (.aload_n 0, 1) := dk_42 (dk_at dksX4_init_3 21 rfl rfl)
theorem dX4_init_90 : decode cX4_init 90 = .ok (.bipush 30, 2) := dk_16 30 (dk_at dksX4_init_3 22 rfl rfl)
theorem dX4_init_92 : decode cX4_init 92 = .ok (.newarray .int, 2) := dk_188_10 (dk_at dksX4_init_4 0 rfl rfl)
theorem dX4_init_94 : decode cX4_init 94 = .ok (.putfield 40, 3) := dk_181 0 40 (dk_at dksX4_init_4 2 rfl rfl)
theorem dX4_init_97 : decode cX4_init 97 = .ok (.aload_n 0, 1) := dk_42 (dk_at dksX4_init_4 5 rfl rfl)
theorem dX4_init_98 : decode cX4_init 98 = .ok (.sipush 192, 3) := dk_17 0 192 (dk_at dksX4_init_4 6 rfl rfl)
theorem dX4_init_101 : decode cX4_init 101 = .ok (.newarray .int, 2) := dk_188_10 (dk_at dksX4_init_4 9 rfl rfl)
theorem dX4_init_103 : decode cX4_init 103 = .ok (.putfield 43, 3) := dk_181 0 43 (dk_at dksX4_init_4 11 rfl rfl)
theorem dX4_init_106 : decode cX4_init 106 = .ok (.aload_n 0, 1) := dk_42 (dk_at dksX4_init_4 14 rfl rfl)
theorem dX4_init_107 : decode cX4_init 107 = .ok (.sipush 192, 3) := dk_17 0 192 (dk_at dksX4_init_4 15 rfl rfl)
theorem dX4_init_110 : decode cX4_init 110 = .ok (.newarray .int, 2) := dk_188_10 (dk_at dksX4_init_4 18 rfl rfl)
theorem dX4_init_112 : decode cX4_init 112 = .ok (.putfield 46, 3) := dk_181 0 46 (dk_at dksX4_init_4 20 rfl rfl)
theorem dX4_init_115 : decode cX4_init 115 = .ok (.aload_n 0, 1) := dk_42 (dk_at dksX4_init_4 23 rfl rfl)
theorem dX4_init_116 : decode cX4_init 116 = .ok (.bipush 15, 2) := dk_16 15 (dk_at dksX4_init_5 0 rfl rfl)
theorem dX4_init_118 : decode cX4_init 118 = .ok (.newarray .int, 2) := dk_188_10 (dk_at dksX4_init_5 2 rfl rfl)
theorem dX4_init_120 : decode cX4_init 120 = .ok (.putfield 49, 3) := dk_181 0 49 (dk_at dksX4_init_5 4 rfl rfl)
theorem dX4_init_123 : decode cX4_init 123 = .ok (.aload_n 0, 1) := dk_42 (dk_at dksX4_init_5 7 rfl rfl)
theorem dX4_init_124 : decode cX4_init 124 = .ok (.sipush 192, 3) := dk_17 0 192 (dk_at dksX4_init_5 8 rfl rfl)
theorem dX4_init_127 : decode cX4_init 127 = .ok (.newarray .int, 2) := dk_188_10 (dk_at dksX4_init_5 11 rfl rfl)
theorem dX4_init_129 : decode cX4_init 129 = .ok (.putfield 52, 3) := dk_181 0 52 (dk_at dksX4_init_5 13 rfl rfl)
theorem dX4_init_132 : decode cX4_init 132 = .ok (.aload_n 0, 1) := dk_42 (dk_at dksX4_init_5 16 rfl rfl)
theorem dX4_init_133 : decode cX4_init 133 = .ok (.sipush 192, 3) := dk_17 0 192 (dk_at dksX4_init_5 17 rfl rfl)
theorem dX4_init_136 : decode cX4_init 136 = .ok (.newarray .int, 2) := dk_188_10 (dk_at dksX4_init_5 20 rfl rfl)
theorem dX4_init_138 : decode cX4_init 138 = .ok (.putfield 55, 3) := dk_181 0 55 (dk_at dksX4_init_6 0 rfl rfl)
theorem dX4_init_141 : decode cX4_init 141 = .ok (.aload_n 0, 1) := dk_42 (dk_at dksX4_init_6 3 rfl rfl)
theorem dX4_init_142 : decode cX4_init 142 = .ok (.bipush 70, 2) := dk_16 70 (dk_at dksX4_init_6 4 rfl rfl)
theorem dX4_init_144 : decode cX4_init 144 = .ok (.newarray .int, 2) := dk_188_10 (dk_at dksX4_init_6 6 rfl rfl)
theorem dX4_init_146 : decode cX4_init 146 = .ok (.putfield 58, 3) := dk_181 0 58 (dk_at dksX4_init_6 8 rfl rfl)
theorem dX4_init_149 : decode cX4_init 149 = .ok (.aload_n 0, 1) := dk_42 (dk_at dksX4_init_6 11 rfl rfl)
theorem dX4_init_150 : decode cX4_init 150 = .ok (.iconst 5, 1) := dk_8 (dk_at dksX4_init_6 12 rfl rfl)
theorem dX4_init_151 : decode cX4_init 151 = .ok (.newarray .int, 2) := dk_188_10 (dk_at dksX4_init_6 13 rfl rfl)
theorem dX4_init_153 : decode cX4_init 153 = .ok (.putfield 61, 3) := dk_181 0 61 (dk_at dksX4_init_6 15 rfl rfl)
theorem dX4_init_156 : decode cX4_init 156 = .ok (.aload_n 0, 1) := dk_42 (dk_at dksX4_init_6 18 rfl rfl)
theorem dX4_init_157 : decode cX4_init 157 = .ok (.bipush 48, 2) := dk_16 48 (dk_at dksX4_init_6 19 rfl rfl)
theorem dX4_init_159 : decode cX4_init 159 = .ok (.newarray .int, 2) := dk_188_10 (dk_at dksX4_init_6 21 rfl rfl)
theorem dX4_init_161 : decode cX4_init 161 = .ok (.dup, 1) := dk_89 (dk_at dksX4_init_6 23 rfl rfl)
theorem dX4_init_162 : decode cX4_init 162 = .ok (.iconst 0, 1) := dk_3 (dk_at dksX4_init_7 0 rfl rfl)
theorem dX4_init_163 : decode cX4_init 163 = .ok (.bipush 108, 2) := dk_16 108 (dk_at dksX4_init_7 1 rfl rfl)
theorem dX4_init_165 : decode cX4_init 165 = .ok (.iastore, 1) := dk_79 (dk_at dksX4_init_7 3 rfl rfl)
theorem dX4_init_166 : decode cX4_init 166 = .ok (.dup, 1) := dk_89 (dk_at dksX4_init_7 4 rfl rfl)
theorem dX4_init_167 : decode cX4_init 167 = .ok (.iconst 1, 1) := dk_4 (dk_at dksX4_init_7 5 rfl rfl)
theorem dX4_init_168 : decode cX4_init 168 = .ok (.bipush 97, 2) := dk_16 97 (dk_at dksX4_init_7 6 rfl rfl)
theorem dX4_init_170 : decode cX4_init 170 = .ok (.iastore, 1) := dk_79 (dk_at dksX4_init_7 8 rfl rfl)
theorem dX4_init_171 : decode cX4_init 171 = .ok (.dup, 1) := dk_89 (dk_at dksX4_init_7 9 rfl rfl)
theorem dX4_init_172 : decode cX4_init 172 = .ok (.iconst 2, 1) := dk_5 (dk_at dksX4_init_7 10 rfl rfl)
theorem dX4_init_173 : decode cX4_init 173 = .ok (.bipush 110, 2) := dk_16 110 (dk_at dksX4_init_7 11 rfl rfl)
theorem dX4_init_175 : decode cX4_init 175 = .ok (.iastore, 1) := dk_79 (dk_at dksX4_init_7 13 rfl rfl)
theorem dX4_init_176 : decode cX4_init 176 = .ok (.dup, 1) := dk_89 (dk_at dksX4_init_7 14 rfl rfl)
theorem dX4_init_177 : decode cX4_init 177 = .ok (.iconst 3, 1) := dk_6 (dk_at dksX4_init_7 15 rfl rfl)
theorem dX4_init_178 : decode cX4_init 178 = .ok (.bipush 100, 2) := dk_16 100 (dk_at dksX4_init_7 16 rfl rfl)
theorem dX4_init_180 : decode cX4_init 180 = .ok (.iastore, 1) := dk_79 (dk_at dksX4_init_7 18 rfl rfl)
theorem dX4_init_181 : decode cX4_init 181 = .ok (.dup, 1) := dk_89 (dk_at dksX4_init_7 19 rfl rfl)
theorem dX4_init_182 : decode cX4_init 182 = .ok (.iconst 4, 1) := dk_7 (dk_at dksX4_init_7 20 rfl rfl)
theorem dX4_init_183 : decode cX4_init 183 = .ok (.bipush 32, 2) := dk_16 32 (dk_at dksX4_init_7 21 rfl rfl)
theorem dX4_init_185 : decode cX4_init 185 = .ok (.iastore, 1) := dk_79 (dk_at dksX4_init_7 23 rfl rfl)
theorem dX4_init_186 : decode cX4_init 186 = .ok (.dup, 1) := dk_89 (dk_at dksX4_init_8 0 rfl rfl)
theorem dX4_init_187 : decode cX4_init 187 = .ok (.iconst 5, 1) := dk_8 (dk_at dksX4_init_8 1 rfl rfl)
theorem dX4_init_188 : decode cX4_init 188 = .ok (.bipush 32, 2) := dk_16 32 (dk_at dksX4_init_8 2 rfl rfl)
theorem dX4_init_190 : decode cX4_init 190 = .ok (.iastore, 1) := dk_79 (dk_at dksX4_init_8 4 rfl rfl)
theorem dX4_init_191 : decode cX4_init 191 = .ok (.dup, 1) := dk_89 (dk_at dksX4_init_8 5 rfl rfl)
theorem dX4_init_192 : decode cX4_init 192 = .ok (.bipush 6, 2) := dk_16 6 (dk_at dksX4_init_8 6 rfl rfl)
theorem dX4_init_194 : decode cX4_init 194 = .ok (.bipush 115, 2) := dk_16 115 (dk_at dksX4_init_8 8 rfl rfl)
theorem dX4_init_196 : decode cX4_init 196 = .ok (.iastore, 1) := dk_79 (dk_at dksX4_init_8 10 rfl rfl)
theorem dX4_init_197 : decode cX4_init 197 = .ok (.dup, 1) := dk_89 (dk_at dksX4_init_8 11 rfl rfl)
theorem dX4_init_198 : decode cX4_init 198 = .ok (.bipush 7, 2) := dk_16 7 (dk_at dksX4_init_8 12 rfl rfl)
theorem dX4_init_200 : decode cX4_init 200 = .ok (.bipush 101, 2) := dk_16 101 (dk_at dksX4_init_8 14 rfl rfl)
theorem dX4_init_202 : decode cX4_init 202 = .ok (.iastore, 1) := dk_79 (dk_at dksX4_init_8 16 rfl rfl)
theorem dX4_init_203 : decode cX4_init 203 = .ok (.dup, 1) := dk_89 (dk_at dksX4_init_8 17 rfl rfl)
theorem dX4_init_204 : decode cX4_init 204 = .ok (.bipush 8, 2) := dk_16 8 (dk_at dksX4_init_8 18 rfl rfl)
theorem dX4_init_206 : decode cX4_init 206 = .ok (.bipush 97, 2) := dk_16 97 (dk_at dksX4_init_8 20 rfl rfl)
theorem dX4_init_208 : decode cX4_init 208 = .ok (.iastore, 1) := dk_79 (dk_at dksX4_init_8 22 rfl rfl)
theorem dX4_init_209 : decode cX4_init 209 = .ok (.dup, 1) := dk_89 (dk_at dksX4_init_8 23 rfl rfl)
theorem dX4_init_210 : decode cX4_init 210 = .ok (.bipush 9, 2) := dk_16 9 (dk_at dksX4_init_9 0 rfl rfl)
theorem dX4_init_212 : decode cX4_init 212 = .ok (.bipush 32, 2) := dk_16 32 (dk_at dksX4_init_9 2 rfl rfl)
theorem dX4_init_214 : decode cX4_init 214 = .ok (.iastore, 1) := dk_79 (dk_at dksX4_init_9 4 rfl rfl)
theorem dX4_init_215 : decode cX4_init 215 = .ok (.dup, 1) := dk_89 (dk_at dksX4_init_9 5 rfl rfl)
theorem dX4_init_216 : decode cX4_init 216 = .ok (.bipush 10, 2) := dk_16 10 (dk_at dksX4_init_9 6 rfl rfl)
theorem dX4_init_218 : decode cX4_init 218 = .ok (.bipush 32, 2) := dk_16 32 (dk_at dksX4_init_9 8 rfl rfl)
theorem dX4_init_220 : decode cX4_init 220 = .ok (.iastore, 1) := dk_79 (dk_at dksX4_init_9 10 rfl rfl)
theorem dX4_init_221 : decode cX4_init 221 = .ok (.dup, 1) := dk_89 (dk_at dksX4_init_9 11 rfl rfl)
theorem dX4_init_222 : decode cX4_init 222 = .ok (.bipush 11, 2) := dk_16 11 (dk_at dksX4_init_9 12 rfl rfl)
theorem dX4_init_224 : decode cX4_init 224 = .ok (.bipush 32, 2) := dk_16 32 (dk_at dksX4_init_9 14 rfl rfl)
theorem dX4_init_226 : decode cX4_init 226 = .ok (.iastore, 1) := dk_79 (dk_at dksX4_init_9 16 rfl rfl)
theorem dX4_init_227 : decode cX4_init 227 = .ok (.dup, 1) := dk_89 (dk_at dksX4_init_9 17 rfl rfl)
theorem dX4_init_228 : decode cX4_init 228 = .ok (.bipush 12, 2) := dk_16 12 (dk_at dksX4_init_9 18 rfl rfl)
theorem dX4_init_230 : decode cX4_init 230 = .ok (.bipush 115, 2) := dk_16 115 (dk_at dksX4_init_9 20 rfl rfl)
theorem dX4_init_232 : decode cX4_init 232 = .ok (.iastore, 1) := dk_79 (dk_at dksX4_init_9 22 rfl rfl)
theorem dX4_init_233 : decode cX4_init 233 = .ok (.dup, 1) := dk_89 (dk_at dksX4_init_9 23 rfl rfl)
theorem dX4_init_234 : decode cX4_init 234 = .ok (.bipush 13, 2) := dk_16 13 (dk_at dksX4_init_10 0 rfl rfl)
theorem dX4_init_236 : decode cX4_init 236 = .ok (.bipush 112, 2) := dk_16 112 (dk_at dksX4_init_10 2 rfl rfl)
theorem dX4_init_238 : decode cX4_init 238 = .ok (.iastore, 1) := dk_79 (dk_at dksX4_init_10 4 rfl rfl)
theorem dX4_init_239 : decode cX4_init 239 = .ok (.dup, 1) := dk_89 (dk_at dksX4_init_10 5 rfl rfl)
theorem dX4_init_240 : decode cX4_init 240 = .ok (.bipush 14, 2) := dk_16 14 (dk_at dksX4_init_10 6 rfl rfl)
theorem dX4_init_242 : decode cX4_init 242 = .ok (.bipush 101, 2) := dk_16 101 (dk_at dksX4_init_10 8 rfl rfl)
theorem dX4_init_244 : decode cX4_init 244 = .ok (.iastore, 1) := dk_79 (dk_at dksX4_init_10 10 rfl rfl)
theorem dX4_init_245 : decode cX4_init 245 = .ok (.dup, 1) := dk_89 (dk_at dksX4_init_10 11 rfl rfl)
theorem dX4_init_246 : decode cX4_init 246 = .ok (.bipush 15, 2) := dk_16 15 (dk_at dksX4_init_10 12 rfl rfl)
theorem dX4_init_248 : decode cX4_init 248 = .ok (.bipush 101, 2) := dk_16 101 (dk_at dksX4_init_10 14 rfl rfl)
theorem dX4_init_250 : decode cX4_init 250 = .ok (.iastore, 1) := dk_79 (dk_at dksX4_init_10 16 rfl rfl)
theorem dX4_init_251 : decode cX4_init 251 = .ok (.dup, 1) := dk_89 (dk_at dksX4_init_10 17 rfl rfl)
theorem dX4_init_252 : decode cX4_init 252 = .ok (.bipush 16, 2) := dk_16 16 (dk_at dksX4_init_10 18 rfl rfl)
theorem dX4_init_254 : decode cX4_init 254 = .ok (.bipush 100, 2) := dk_16 100 (dk_at dksX4_init_10 20 rfl rfl)
theorem dX4_init_256 : decode cX4_init 256 = .ok (.iastore, 1) := dk_79 (dk_at dksX4_init_10 22 rfl rfl)
theorem dX4_init_257 : decode cX4_init 257 = .ok (.dup, 1) := dk_89 (dk_at dksX4_init_10 23 rfl rfl)
theorem dX4_init_258 : decode cX4_init 258 = .ok (.bipush 17, 2) := dk_16 17 (dk_at dksX4_init_11 0 rfl rfl)
theorem dX4_init_260 : decode cX4_init 260 = .ok (.bipush 32, 2) := dk_16 32 (dk_at dksX4_init_11 2 rfl rfl)
theorem dX4_init_262 : decode cX4_init 262 = .ok (.iastore, 1) := dk_79 (dk_at dksX4_init_11 4 rfl rfl)
theorem dX4_init_263 : decode cX4_init 263 = .ok (.dup, 1) := dk_89 (dk_at dksX4_init_11 5 rfl rfl)
theorem dX4_init_264 : decode cX4_init 264 = .ok (.bipush 18, 2) := dk_16 18 (dk_at dksX4_init_11 6 rfl rfl)
theorem dX4_init_266 : decode cX4_init 266 = .ok (.bipush 112, 2) := dk_16 112 (dk_at dksX4_init_11 8 rfl rfl)
theorem dX4_init_268 : decode cX4_init 268 = .ok (.iastore, 1) := dk_79 (dk_at dksX4_init_11 10 rfl rfl)
theorem dX4_init_269 : decode cX4_init 269 = .ok (.dup, 1) := dk_89 (dk_at dksX4_init_11 11 rfl rfl)
theorem dX4_init_270 : decode cX4_init 270 = .ok (.bipush 19, 2) := dk_16 19 (dk_at dksX4_init_11 12 rfl rfl)
theorem dX4_init_272 : decode cX4_init 272 = .ok (.bipush 97, 2) := dk_16 97 (dk_at dksX4_init_11 14 rfl rfl)
theorem dX4_init_274 : decode cX4_init 274 = .ok (.iastore, 1) := dk_79 (dk_at dksX4_init_11 16 rfl rfl)
theorem dX4_init_275 : decode cX4_init 275 = .ok (.dup, 1) := dk_89 (dk_at dksX4_init_11 17 rfl rfl)
theorem dX4_init_276 : decode cX4_init 276 = .ok (.bipush 20, 2) := dk_16 20 (dk_at dksX4_init_11 18 rfl rfl)
theorem dX4_init_278 : decode cX4_init 278 = .ok (.bipush 103, 2) := dk_16 103 (dk_at dksX4_init_11 20 rfl rfl)
theorem dX4_init_280 : decode cX4_init 280 = .ok (.iastore, 1) := dk_79 (dk_at dksX4_init_11 22 rfl rfl)
theorem dX4_init_281 : decode cX4_init 281 = .ok (.dup, 1) := dk_89 (dk_at dksX4_init_11 23 rfl rfl)
theorem dX4_init_282 : decode cX4_init 282 = .ok (.bipush 21, 2) := dk_16 21 (dk_at dksX4_init_12 0 rfl rfl)
theorem dX4_init_284 : decode cX4_init 284 = .ok (.bipush 101, 2) := dk_16 101 (dk_at dksX4_init_12 2 rfl rfl)
theorem dX4_init_286 : decode cX4_init 286 = .ok (.iastore, 1) := dk_79 (dk_at dksX4_init_12 4 rfl rfl)
theorem dX4_init_287 : decode cX4_init 287 = .ok (.dup, 1) := dk_89 (dk_at dksX4_init_12 5 rfl rfl)
theorem dX4_init_288 : decode cX4_init 288 = .ok (.bipush 22, 2) := dk_16 22 (dk_at dksX4_init_12 6 rfl rfl)
theorem dX4_init_290 : decode cX4_init 290 = .ok (.bipush 32, 2) := dk_16 32 (dk_at dksX4_init_12 8 rfl rfl)
theorem dX4_init_292 : decode cX4_init 292 = .ok (.iastore, 1) := dk_79 (dk_at dksX4_init_12 10 rfl rfl)
theorem dX4_init_293 : decode cX4_init 293 = .ok (.dup, 1) := dk_89 (dk_at dksX4_init_12 11 rfl rfl)
theorem dX4_init_294 : decode cX4_init 294 = .ok (.bipush 23, 2) := dk_16 23 (dk_at dksX4_init_12 12 rfl rfl)
theorem dX4_init_296 : decode cX4_init 296 = .ok (.bipush 32, 2) := dk_16 32 (dk_at dksX4_init_12 14 rfl rfl)
theorem dX4_init_298 : decode cX4_init 298 = .ok (.iastore, 1) := dk_79 (dk_at dksX4_init_12 16 rfl rfl)
theorem dX4_init_299 : decode cX4_init 299 = .ok (.dup, 1) := dk_89 (dk_at dksX4_init_12 17 rfl rfl)
theorem dX4_init_300 : decode cX4_init 300 = .ok (.bipush 24, 2) := dk_16 24 (dk_at dksX4_init_12 18 rfl rfl)
theorem dX4_init_302 : decode cX4_init 302 = .ok (.bipush 101, 2) := dk_16 101 (dk_at dksX4_init_12 20 rfl rfl)
theorem dX4_init_304 : decode cX4_init 304 = .ok (.iastore, 1) := dk_79 (dk_at dksX4_init_12 22 rfl rfl)
theorem dX4_init_305 : decode cX4_init 305 = .ok (.dup, 1) := dk_89 (dk_at dksX4_init_12 23 rfl rfl)
theorem dX4_init_306 : decode cX4_init 306 = .ok (.bipush 25, 2) := dk_16 25 (dk_at dksX4_init_13 0 rfl rfl)
theorem dX4_init_308 : decode cX4_init 308 = .ok (.bipush 110, 2) := dk_16 110 (dk_at dksX4_init_13 2 rfl rfl)
theorem dX4_init_310 : decode cX4_init 310 = .ok (.iastore, 1) := dk_79 (dk_at dksX4_init_13 4 rfl rfl)
theorem dX4_init_311 : decode cX4_init 311 = .ok (.dup, 1) := dk_89 (dk_at dksX4_init_13 5 rfl rfl)
theorem dX4_init_312 : decode cX4_init 312 = .ok (.bipush 26, 2) := dk_16 26 (dk_at dksX4_init_13 6 rfl rfl)
theorem dX4_init_314 : decode cX4_init 314 = .ok (.bipush 116, 2) := dk_16 116 (dk_at dksX4_init_13 8 rfl rfl)
theorem dX4_init_316 : decode cX4_init 316 = .ok (.iastore, 1) := dk_79 (dk_at dksX4_init_13 10 rfl rfl)
theorem dX4_init_317 : decode cX4_init 317 = .ok (.dup, 1) := dk_89 (dk_at dksX4_init_13 11 rfl rfl)
theorem dX4_init_318 : decode cX4_init 318 = .ok (.bipush 27, 2) := dk_16 27 (dk_at dksX4_init_13 12 rfl rfl)
theorem dX4_init_320 : decode cX4_init 320 = .ok (.bipush 114, 2) := dk_16 114 (dk_at dksX4_init_13 14 rfl rfl)
theorem dX4_init_322 : decode cX4_init 322 = .ok (.iastore, 1) := dk_79 (dk_at dksX4_init_13 16 rfl rfl)
theorem dX4_init_323 : decode cX4_init 323 = .ok (.dup, 1) := dk_89 (dk_at dksX4_init_13 17 rfl rfl)
theorem dX4_init_324 : decode cX4_init 324 = .ok (.bipush 28, 2) := dk_16 28 (dk_at dksX4_init_13 18 rfl rfl)
theorem dX4_init_326 : decode cX4_init 326 = .ok (.bipush 121, 2) := dk_16 121 (dk_at dksX4_init_13 20 rfl rfl)
theorem dX4_init_328 : decode cX4_init 328 = .ok (.iastore, 1) := dk_79 (dk_at dksX4_init_13 22 rfl rfl)
theorem dX4_init_329 : decode cX4_init 329 = .ok (.dup, 1) := dk_89 (dk_at dksX4_init_13 23 rfl rfl)
theorem dX4_init_330 : decode cX4_init 330 = .ok (.bipush 29, 2) := dk_16 29 (dk_at dksX4_init_14 0 rfl rfl)
theorem dX4_init_332 : decode cX4_init 332 = .ok (.bipush 32, 2) := dk_16 32 (dk_at dksX4_init_14 2 rfl rfl)
theorem dX4_init_334 : decode cX4_init 334 = .ok (.iastore, 1) := dk_79 (dk_at dksX4_init_14 4 rfl rfl)
theorem dX4_init_335 : decode cX4_init 335 = .ok (.dup, 1) := dk_89 (dk_at dksX4_init_14 5 rfl rfl)
theorem dX4_init_336 : decode cX4_init 336 = .ok (.bipush 30, 2) := dk_16 30 (dk_at dksX4_init_14 6 rfl rfl)
theorem dX4_init_338 : decode cX4_init 338 = .ok (.bipush 114, 2) := dk_16 114 (dk_at dksX4_init_14 8 rfl rfl)
theorem dX4_init_340 : decode cX4_init 340 = .ok (.iastore, 1) := dk_79 (dk_at dksX4_init_14 10 rfl rfl)
theorem dX4_init_341 : decode cX4_init 341 = .ok (.dup, 1) := dk_89 (dk_at dksX4_init_14 11 rfl rfl)
theorem dX4_init_342 : decode cX4_init 342 = .ok (.bipush 31, 2) := dk_16 31 (dk_at dksX4_init_14 12 rfl rfl)
theorem dX4_init_344 : decode cX4_init 344 = .ok (.bipush 101, 2) := dk_16 101 (dk_at dksX4_init_14 14 rfl rfl)
theorem dX4_init_346 : decode cX4_init 346 = .ok (.iastore, 1) := dk_79 (dk_at dksX4_init_14 16 rfl rfl)
theorem dX4_init_347 : decode cX4_init 347 = .ok (.dup, 1) := dk_89 (dk_at dksX4_init_14 17 rfl rfl)
theorem dX4_init_348 : decode cX4_init 348 = .ok (.bipush 32, 2) := dk_16 32 (dk_at dksX4_init_14 18 rfl rfl)
theorem dX4_init_350 : decode cX4_init 350 = .ok (.bipush 97, 2) := dk_16 97 (dk_at dksX4_init_14 20 rfl rfl)
theorem dX4_init_352 : decode cX4_init 352 = .ok (.iastore, 1) := dk_79 (dk_at dksX4_init_14 22 rfl rfl)
theorem dX4_init_353 : decode cX4_init 353 = .ok (.dup, 1) := dk_89 (dk_at dksX4_init_14 23 rfl rfl)
theorem dX4_init_354 : decode cX4_init 354 = .ok (.bipush 33, 2) := dk_16 33 (dk_at dksX4_init_15 0 rfl rfl)
theorem dX4_init_356 : decode cX4_init 356 = .ok (.bipush 100, 2) := dk_16 100 (dk_at dksX4_init_15 2 rfl rfl)
theorem dX4_init_358 : decode cX4_init 358 = .ok (.iastore, 1) := dk_79 (dk_at dksX4_init_15 4 rfl rfl)
theorem dX4_init_359 : decode cX4_init 359 = .ok (.dup, 1) := dk_89 (dk_at dksX4_init_15 5 rfl rfl)
theorem dX4_init_360 : decode cX4_init 360 = .ok (.bipush 34, 2) := dk_16 34 (dk_at dksX4_init_15 6 rfl rfl)
theorem dX4_init_362 : decode cX4_init 362 = .ok (.bipush 32, 2) := dk_16 32 (dk_at dksX4_init_15 8 rfl rfl)
theorem dX4_init_364 : decode cX4_init 364 = .ok (.iastore, 1) := dk_79 (dk_at dksX4_init_15 10 rfl rfl)
theorem dX4_init_365 : decode cX4_init 365 = .ok (.dup, 1) := dk_89 (dk_at dksX4_init_15 11 rfl rfl)
theorem dX4_init_366 : decode cX4_init 366 = .ok (.bipush 35, 2) := dk_16 35 (dk_at dksX4_init_15 12 rfl rfl)
theorem dX4_init_368 : decode cX4_init 368 = .ok (.bipush 32, 2) := dk_16 32 (dk_at dksX4_init_15 14 rfl rfl)
theorem dX4_init_370 : decode cX4_init 370 = .ok (.iastore, 1) := dk_79 (dk_at dksX4_init_15 16 rfl rfl)
theorem dX4_init_371 : decode cX4_init 371 = .ok (.dup, 1) := dk_89 (dk_at dksX4_init_15 17 rfl rfl)
theorem dX4_init_372 : decode cX4_init 372 = .ok (.bipush 36, 2) := dk_16 36 (dk_at dksX4_init_15 18 rfl rfl)
theorem dX4_init_374 : decode cX4_init 374 = .ok (.bipush 115, 2) := dk_16 115 (dk_at dksX4_init_15 20 rfl rfl)
theorem dX4_init_376 : decode cX4_init 376 = .ok (.iastore, 1) := dk_79 (dk_at dksX4_init_15 22 rfl rfl)
theorem dX4_init_377 : decode cX4_init 377 = .ok (.dup, 1) := dk_89 (dk_at dksX4_init_15 23 rfl rfl)
theorem dX4_init_378 : decode cX4_init 378 = .ok (.bipush 37, 2) := dk_16 37 (dk_at dksX4_init_16 0 rfl rfl)
theorem dX4_init_380 : decode cX4_init 380 = .ok (.bipush 116, 2) := dk_16 116 (dk_at dksX4_init_16 2 rfl rfl)
theorem dX4_init_382 : decode cX4_init 382 = .ok (.iastore, 1) := dk_79 (dk_at dksX4_init_16 4 rfl rfl)
theorem dX4_init_383 : decode cX4_init 383 = .ok (.dup, 1) := dk_89 (dk_at dksX4_init_16 5 rfl rfl)
theorem dX4_init_384 : decode cX4_init 384 = .ok (.bipush 38, 2) := dk_16 38 (dk_at dksX4_init_16 6 rfl rfl)
theorem dX4_init_386 : decode cX4_init 386 = .ok (.bipush 114, 2) := dk_16 114 (dk_at dksX4_init_16 8 rfl rfl)
theorem dX4_init_388 : decode cX4_init 388 = .ok (.iastore, 1) := dk_79 (dk_at dksX4_init_16 10 rfl rfl)
theorem dX4_init_389 : decode cX4_init 389 = .ok (.dup, 1) := dk_89 (dk_at dksX4_init_16 11 rfl rfl)
theorem dX4_init_390 : decode cX4_init 390 = .ok (.bipush 39, 2) := dk_16 39 (dk_at dksX4_init_16 12 rfl rfl)
theorem dX4_init_392 : decode cX4_init 392 = .ok (.bipush 105, 2) := dk_16 105 (dk_at dksX4_init_16 14 rfl rfl)
theorem dX4_init_394 : decode cX4_init 394 = .ok (.iastore, 1) := dk_79 (dk_at dksX4_init_16 16 rfl rfl)
theorem dX4_init_395 : decode cX4_init 395 = .ok (.dup, 1) := dk_89 (dk_at dksX4_init_16 17 rfl rfl)
theorem dX4_init_396 : decode cX4_init 396 = .ok (.bipush 40, 2) := dk_16 40 (dk_at dksX4_init_16 18 rfl rfl)
theorem dX4_init_398 : decode cX4_init 398 = .ok (.bipush 107, 2) := dk_16 107 (dk_at dksX4_init_16 20 rfl rfl)
theorem dX4_init_400 : decode cX4_init 400 = .ok (.iastore, 1) := dk_79 (dk_at dksX4_init_16 22 rfl rfl)
theorem dX4_init_401 : decode cX4_init 401 = .ok (.dup, 1) := dk_89 (dk_at dksX4_init_16 23 rfl rfl)
theorem dX4_init_402 : decode cX4_init 402 = .ok (.bipush 41, 2) := dk_16 41 (dk_at dksX4_init_17 0 rfl rfl)
theorem dX4_init_404 : decode cX4_init 404 = .ok (.bipush 101, 2) := dk_16 101 (dk_at dksX4_init_17 2 rfl rfl)
theorem dX4_init_406 : decode cX4_init 406 = .ok (.iastore, 1) := dk_79 (dk_at dksX4_init_17 4 rfl rfl)
theorem dX4_init_407 : decode cX4_init 407 = .ok (.dup, 1) := dk_89 (dk_at dksX4_init_17 5 rfl rfl)
theorem dX4_init_408 : decode cX4_init 408 = .ok (.bipush 42, 2) := dk_16 42 (dk_at dksX4_init_17 6 rfl rfl)
theorem dX4_init_410 : decode cX4_init 410 = .ok (.bipush 98, 2) := dk_16 98 (dk_at dksX4_init_17 8 rfl rfl)
theorem dX4_init_412 : decode cX4_init 412 = .ok (.iastore, 1) := dk_79 (dk_at dksX4_init_17 10 rfl rfl)
theorem dX4_init_413 : decode cX4_init 413 = .ok (.dup, 1) := dk_89 (dk_at dksX4_init_17 11 rfl rfl)
theorem dX4_init_414 : decode cX4_init 414 = .ok (.bipush 43, 2) := dk_16 43 (dk_at dksX4_init_17 12 rfl rfl)
theorem dX4_init_416 : decode cX4_init 416 = .ok (.bipush 108, 2) := dk_16 108 (dk_at dksX4_init_17 14 rfl rfl)
theorem dX4_init_418 : decode cX4_init 418 = .ok (.iastore, 1) := dk_79 (dk_at dksX4_init_17 16 rfl rfl)
theorem dX4_init_419 : decode cX4_init 419 = .ok (.dup, 1) := dk_89 (dk_at dksX4_init_17 17 rfl rfl)
theorem dX4_init_420 : decode cX4_init 420 = .ok (.bipush 44, 2) := dk_16 44 (dk_at dksX4_init_17 18 rfl rfl)
theorem dX4_init_422 : decode cX4_init 422 = .ok (.bipush 97, 2) := dk_16 97 (dk_at dksX4_init_17 20 rfl rfl)
theorem dX4_init_424 : decode cX4_init 424 = .ok (.iastore, 1) := dk_79 (dk_at dksX4_init_17 22 rfl rfl)
theorem dX4_init_425 : decode cX4_init 425 = .ok (.dup, 1) := dk_89 (dk_at dksX4_init_17 23 rfl rfl)
theorem dX4_init_426 : decode cX4_init 426 = .ok (.bipush 45, 2) := dk_16 45 (dk_at dksX4_init_18 0 rfl rfl)
theorem dX4_init_428 : decode cX4_init 428 = .ok (.bipush 109, 2) := dk_16 109 (dk_at dksX4_init_18 2 rfl rfl)
theorem dX4_init_430 : decode cX4_init 430 = .ok (.iastore, 1) := dk_79 (dk_at dksX4_init_18 4 rfl rfl)
theorem dX4_init_431 : decode cX4_init 431 = .ok (.dup, 1) := dk_89 (dk_at dksX4_init_18 5 rfl rfl)
theorem dX4_init_432 : decode cX4_init 432 = .ok (.bipush 46, 2) := dk_16 46 (dk_at dksX4_init_18 6 rfl rfl)
theorem dX4_init_434 : decode cX4_init 434 = .ok (.bipush 101, 2) := dk_16 101 (dk_at dksX4_init_18 8 rfl rfl)
theorem dX4_init_436 : decode cX4_init 436 = .ok (.iastore, 1) := dk_79 (dk_at dksX4_init_18 10 rfl rfl)
theorem dX4_init_437 : decode cX4_init 437 = .ok (.dup, 1) := dk_89 (dk_at dksX4_init_18 11 rfl rfl)
theorem dX4_init_438 : decode cX4_init 438 = .ok (.bipush 47, 2) := dk_16 47 (dk_at dksX4_init_18 12 rfl rfl)
theorem dX4_init_440 : decode cX4_init 440 = .ok (.bipush 32, 2) := dk_16 32 (dk_at dksX4_init_18 14 rfl rfl)
theorem dX4_init_442 : decode cX4_init 442 = .ok (.iastore, 1) := dk_79 (dk_at dksX4_init_18 16 rfl rfl)
theorem dX4_init_443 : decode cX4_init 443 = .ok (.putfield 64, 3) := dk_181 0 64 (dk_at dksX4_init_18 17 rfl rfl)
theorem dX4_init_446 : decode cX4_init 446 = .ok (.aload_n 0, 1) := dk_42 (dk_at dksX4_init_18 20 rfl rfl)
theorem dX4_init_447 : decode cX4_init 447 = .ok (.bipush 32, 2) := dk_16 32 (dk_at dksX4_init_18 21 rfl rfl)
theorem dX4_init_449 : decode cX4_init 449 = .ok (.newarray .int, 2) := dk_188_10 (dk_at dksX4_init_19 0 rfl rfl)
theorem dX4_init_451 : decode cX4_init 451 = .ok (.dup, 1) := dk_89 (dk_at dksX4_init_19 2 rfl rfl)
theorem dX4_init_452 : decode cX4_init 452 = .ok (.iconst 0, 1) := dk_3 (dk_at dksX4_init_19 3 rfl rfl)
theorem dX4_init_453 : decode cX4_init 453 = .ok (.bipush 99, 2) := dk_16 99 (dk_at dksX4_init_19 4 rfl rfl)
theorem dX4_init_455 : decode cX4_init 455 = .ok (.iastore, 1) := dk_79 (dk_at dksX4_init_19 6 rfl rfl)
theorem dX4_init_456 : decode cX4_init 456 = .ok (.dup, 1) := dk_89 (dk_at dksX4_init_19 7 rfl rfl)
theorem dX4_init_457 : decode cX4_init 457 = .ok (.iconst 1, 1) := dk_4 (dk_at dksX4_init_19 8 rfl rfl)
theorem dX4_init_458 : decode cX4_init 458 = .ok (.bipush 32, 2) := dk_16 32 (dk_at dksX4_init_19 9 rfl rfl)
theorem dX4_init_460 : decode cX4_init 460 = .ok (.iastore, 1) := dk_79 (dk_at dksX4_init_19 11 rfl rfl)
theorem dX4_init_461 : decode cX4_init 461 = .ok (.dup, 1) := dk_89 (dk_at dksX4_init_19 12 rfl rfl)
theorem dX4_init_462 : decode cX4_init 462 = .ok (.iconst 2, 1) := dk_5 (dk_at dksX4_init_19 13 rfl rfl)
theorem dX4_init_463 : decode cX4_init 463 = .ok (.bipush 32, 2) := dk_16 32 (dk_at dksX4_init_19 14 rfl rfl)
theorem dX4_init_465 : decode cX4_init 465 = .ok (.iastore, 1) := dk_79 (dk_at dksX4_init_19 16 rfl rfl)
theorem dX4_init_466 : decode cX4_init 466 = .ok (.dup, 1) := dk_89 (dk_at dksX4_init_19 17 rfl rfl)
theorem dX4_init_467 : decode cX4_init 467 = .ok (.iconst 3, 1) := dk_6 (dk_at dksX4_init_19 18 rfl rfl)
theorem dX4_init_468 : decode cX4_init 468 = .ok (.bipush 32, 2) := dk_16 32 (dk_at dksX4_init_19 19 rfl rfl)
theorem dX4_init_470 : decode cX4_init 470 = .ok (.iastore, 1) := dk_79 (dk_at dksX4_init_19 21 rfl rfl)
theorem dX4_init_471 : decode cX4_init 471 = .ok (.dup, 1) := dk_89 (dk_at dksX4_init_19 22 rfl rfl)
theorem dX4_init_472 : decode cX4_init 472 = .ok (.iconst 4, 1) := dk_7 (dk_at dksX4_init_19 23 rfl rfl)
theorem dX4_init_473 : decode cX4_init 473 = .ok (.bipush 99, 2) := dk_16 99 (dk_at dksX4_init_20 0 rfl rfl)
theorem dX4_init_475 : decode cX4_init 475 = .ok (.iastore, 1) := dk_79 (dk_at dksX4_init_20 2 rfl rfl)
theorem dX4_init_476 : decode cX4_init 476 = .ok (.dup, 1) := dk_89 (dk_at dksX4_init_20 3 rfl rfl)
theorem dX4_init_477 : decode cX4_init 477 = .ok (.iconst 5, 1) := dk_8 (dk_at dksX4_init_20 4 rfl rfl)
theorem dX4_init_478 : decode cX4_init 478 = .ok (.bipush 32, 2) := dk_16 32 (dk_at dksX4_init_20 5 rfl rfl)
theorem dX4_init_480 : decode cX4_init 480 = .ok (.iastore, 1) := dk_79 (dk_at dksX4_init_20 7 rfl rfl)
theorem dX4_init_481 : decode cX4_init 481 = .ok (.dup, 1) := dk_89 (dk_at dksX4_init_20 8 rfl rfl)
theorem dX4_init_482 : decode cX4_init 482 = .ok (.bipush 6, 2) := dk_16 6 (dk_at dksX4_init_20 9 rfl rfl)
theorem dX4_init_484 : decode cX4_init 484 = .ok (.bipush 32, 2) := dk_16 32 (dk_at dksX4_init_20 11 rfl rfl)
theorem dX4_init_486 : decode cX4_init 486 = .ok (.iastore, 1) := dk_79 (dk_at dksX4_init_20 13 rfl rfl)
theorem dX4_init_487 : decode cX4_init 487 = .ok (.dup, 1) := dk_89 (dk_at dksX4_init_20 14 rfl rfl)
theorem dX4_init_488 : decode cX4_init 488 = .ok (.bipush 7, 2) := dk_16 7 (dk_at dksX4_init_20 15 rfl rfl)
theorem dX4_init_490 : decode cX4_init 490 = .ok (.bipush 32, 2) := dk_16 32 (dk_at dksX4_init_20 17 rfl rfl)
theorem dX4_init_492 : decode cX4_init 492 = .ok (.iastore, 1) := dk_79 (dk_at dksX4_init_20 19 rfl rfl)
theorem dX4_init_493 : decode cX4_init 493 = .ok (.dup, 1) := dk_89 (dk_at dksX4_init_20 20 rfl rfl)
theorem dX4_init_494 : decode cX4_init 494 = .ok (.bipush 8, 2) := dk_16 8 (dk_at dksX4_init_20 21 rfl rfl)
theorem dX4_init_496 : decode cX4_init 496 = .ok (.bipush 110, 2) := dk_16 110 (dk_at dksX4_init_21 0 rfl rfl)
theorem dX4_init_498 : decode cX4_init 498 = .ok (.iastore, 1) := dk_79 (dk_at dksX4_init_21 2 rfl rfl)
theorem dX4_init_499 : decode cX4_init 499 = .ok (.dup, 1) := dk_89 (dk_at dksX4_init_21 3 rfl rfl)
theorem dX4_init_500 : decode cX4_init 500 = .ok (.bipush 9, 2) := dk_16 9 (dk_at dksX4_init_21 4 rfl rfl)
theorem dX4_init_502 : decode cX4_init 502 = .ok (.bipush 32, 2) := dk_16 32 (dk_at dksX4_init_21 6 rfl rfl)
theorem dX4_init_504 : decode cX4_init 504 = .ok (.iastore, 1) := dk_79 (dk_at dksX4_init_21 8 rfl rfl)
theorem dX4_init_505 : decode cX4_init 505 = .ok (.dup, 1) := dk_89 (dk_at dksX4_init_21 9 rfl rfl)
theorem dX4_init_506 : decode cX4_init 506 = .ok (.bipush 10, 2) := dk_16 10 (dk_at dksX4_init_21 10 rfl rfl)
theorem dX4_init_508 : decode cX4_init 508 = .ok (.bipush 32, 2) := dk_16 32 (dk_at dksX4_init_21 12 rfl rfl)
theorem dX4_init_510 : decode cX4_init 510 = .ok (.iastore, 1) := dk_79 (dk_at dksX4_init_21 14 rfl rfl)
theorem dX4_init_511 : decode cX4_init 511 = .ok (.dup, 1) := dk_89 (dk_at dksX4_init_21 15 rfl rfl)
theorem dX4_init_512 : decode cX4_init 512 = .ok (.bipush 11, 2) := dk_16 11 (dk_at dksX4_init_21 16 rfl rfl)
theorem dX4_init_514 : decode cX4_init 514 = .ok (.bipush 32, 2) := dk_16 32 (dk_at dksX4_init_21 18 rfl rfl)
theorem dX4_init_516 : decode cX4_init 516 = .ok (.iastore, 1) := dk_79 (dk_at dksX4_init_21 20 rfl rfl)
theorem dX4_init_517 : decode cX4_init 517 = .ok (.dup, 1) := dk_89 (dk_at dksX4_init_21 21 rfl rfl)
theorem dX4_init_518 : decode cX4_init 518 = .ok (.bipush 12, 2) := dk_16 12 (dk_at dksX4_init_21 22 rfl rfl)
theorem dX4_init_520 : decode cX4_init 520 = .ok (.bipush 110, 2) := dk_16 110 (dk_at dksX4_init_22 0 rfl rfl)
theorem dX4_init_522 : decode cX4_init 522 = .ok (.iastore, 1) := dk_79 (dk_at dksX4_init_22 2 rfl rfl)
theorem dX4_init_523 : decode cX4_init 523 = .ok (.dup, 1) := dk_89 (dk_at dksX4_init_22 3 rfl rfl)
theorem dX4_init_524 : decode cX4_init 524 = .ok (.bipush 13, 2) := dk_16 13 (dk_at dksX4_init_22 4 rfl rfl)
theorem dX4_init_526 : decode cX4_init 526 = .ok (.bipush 110, 2) := dk_16 110 (dk_at dksX4_init_22 6 rfl rfl)
theorem dX4_init_528 : decode cX4_init 528 = .ok (.iastore, 1) := dk_79 (dk_at dksX4_init_22 8 rfl rfl)
theorem dX4_init_529 : decode cX4_init 529 = .ok (.dup, 1) := dk_89 (dk_at dksX4_init_22 9 rfl rfl)
theorem dX4_init_530 : decode cX4_init 530 = .ok (.bipush 14, 2) := dk_16 14 (dk_at dksX4_init_22 10 rfl rfl)
theorem dX4_init_532 : decode cX4_init 532 = .ok (.bipush 32, 2) := dk_16 32 (dk_at dksX4_init_22 12 rfl rfl)
theorem dX4_init_534 : decode cX4_init 534 = .ok (.iastore, 1) := dk_79 (dk_at dksX4_init_22 14 rfl rfl)
theorem dX4_init_535 : decode cX4_init 535 = .ok (.dup, 1) := dk_89 (dk_at dksX4_init_22 15 rfl rfl)
theorem dX4_init_536 : decode cX4_init 536 = .ok (.bipush 15, 2) := dk_16 15 (dk_at dksX4_init_22 16 rfl rfl)
theorem dX4_init_538 : decode cX4_init 538 = .ok (.bipush 32, 2) := dk_16 32 (dk_at dksX4_init_22 18 rfl rfl)
theorem dX4_init_540 : decode cX4_init 540 = .ok (.iastore, 1) := dk_79 (dk_at dksX4_init_22 20 rfl rfl)
theorem dX4_init_541 : decode cX4_init 541 = .ok (.dup, 1) := dk_89 (dk_at dksX4_init_22 21 rfl rfl)
theorem dX4_init_542 : decode cX4_init 542 = .ok (.bipush 16, 2) := dk_16 16 (dk_at dksX4_init_22 22 rfl rfl)
theorem dX4_init_544 : decode cX4_init 544 = .ok (.bipush 100, 2) := dk_16 100 (dk_at dksX4_init_23 0 rfl rfl)
theorem dX4_init_546 : decode cX4_init 546 = .ok (.iastore, 1) := dk_79 (dk_at dksX4_init_23 2 rfl rfl)
theorem dX4_init_547 : decode cX4_init 547 = .ok (.dup, 1) := dk_89 (dk_at dksX4_init_23 3 rfl rfl)
theorem dX4_init_548 : decode cX4_init 548 = .ok (.bipush 17, 2) := dk_16 17 (dk_at dksX4_init_23 4 rfl rfl)
theorem dX4_init_550 : decode cX4_init 550 = .ok (.bipush 110, 2) := dk_16 110 (dk_at dksX4_init_23 6 rfl rfl)
theorem dX4_init_552 : decode cX4_init 552 = .ok (.iastore, 1) := dk_79 (dk_at dksX4_init_23 8 rfl rfl)
theorem dX4_init_553 : decode cX4_init 553 = .ok (.dup, 1) := dk_89 (dk_at dksX4_init_23 9 rfl rfl)
theorem dX4_init_554 : decode cX4_init 554 = .ok (.bipush 18, 2) := dk_16 18 (dk_at dksX4_init_23 10 rfl rfl)
theorem dX4_init_556 : decode cX4_init 556 = .ok (.bipush 99, 2) := dk_16 99 (dk_at dksX4_init_23 12 rfl rfl)
theorem dX4_init_558 : decode cX4_init 558 = .ok (.iastore, 1) := dk_79 (dk_at dksX4_init_23 14 rfl rfl)
theorem dX4_init_559 : decode cX4_init 559 = .ok (.dup, 1) := dk_89 (dk_at dksX4_init_23 15 rfl rfl)
theorem dX4_init_560 : decode cX4_init 560 = .ok (.bipush 19, 2) := dk_16 19 (dk_at dksX4_init_23 16 rfl rfl)
theorem dX4_init_562 : decode cX4_init 562 = .ok (.bipush 100, 2) := dk_16 100 (dk_at dksX4_init_23 18 rfl rfl)
theorem dX4_init_564 : decode cX4_init 564 = .ok (.iastore, 1) := dk_79 (dk_at dksX4_init_23 20 rfl rfl)
theorem dX4_init_565 : decode cX4_init 565 = .ok (.dup, 1) := dk_89 (dk_at dksX4_init_23 21 rfl rfl)
theorem dX4_init_566 : decode cX4_init 566 = .ok (.bipush 20, 2) := dk_16 20 (dk_at dksX4_init_23 22 rfl rfl)
theorem dX4_init_568 : decode cX4_init 568 = .ok (.bipush 100, 2) := dk_16 100 (dk_at dksX4_init_24 0 rfl rfl)
theorem dX4_init_570 : decode cX4_init 570 = .ok (.iastore, 1) := dk_79 (dk_at dksX4_init_24 2 rfl rfl)
theorem dX4_init_571 : decode cX4_init 571 = .ok (.dup, 1) := dk_89 (dk_at dksX4_init_24 3 rfl rfl)
theorem dX4_init_572 : decode cX4_init 572 = .ok (.bipush 21, 2) := dk_16 21 (dk_at dksX4_init_24 4 rfl rfl)
theorem dX4_init_574 : decode cX4_init 574 = .ok (.bipush 100, 2) := dk_16 100 (dk_at dksX4_init_24 6 rfl rfl)
theorem dX4_init_576 : decode cX4_init 576 = .ok (.iastore, 1) := dk_79 (dk_at dksX4_init_24 8 rfl rfl)
theorem dX4_init_577 : decode cX4_init 577 = .ok (.dup, 1) := dk_89 (dk_at dksX4_init_24 9 rfl rfl)
theorem dX4_init_578 : decode cX4_init 578 = .ok (.bipush 22, 2) := dk_16 22 (dk_at dksX4_init_24 10 rfl rfl)
theorem dX4_init_580 : decode cX4_init 580 = .ok (.bipush 32, 2) := dk_16 32 (dk_at dksX4_init_24 12 rfl rfl)
theorem dX4_init_582 : decode cX4_init 582 = .ok (.iastore, 1) := dk_79 (dk_at dksX4_init_24 14 rfl rfl)
theorem dX4_init_583 : decode cX4_init 583 = .ok (.dup, 1) := dk_89 (dk_at dksX4_init_24 15 rfl rfl)
theorem dX4_init_584 : decode cX4_init 584 = .ok (.bipush 23, 2) := dk_16 23 (dk_at dksX4_init_24 16 rfl rfl)
theorem dX4_init_586 : decode cX4_init 586 = .ok (.bipush 32, 2) := dk_16 32 (dk_at dksX4_init_24 18 rfl rfl)
theorem dX4_init_588 : decode cX4_init 588 = .ok (.iastore, 1) := dk_79 (dk_at dksX4_init_24 20 rfl rfl)
theorem dX4_init_589 : decode cX4_init 589 = .ok (.dup, 1) := dk_89 (dk_at dksX4_init_24 21 rfl rfl)
theorem dX4_init_590 : decode cX4_init 590 = .ok (.bipush 24, 2) := dk_16 24 (dk_at dksX4_init_24 22 rfl rfl)
theorem dX4_init_592 : decode cX4_init 592 = .ok (.bipush 100, 2) := dk_16 100 (dk_at dksX4_init_25 0 rfl rfl)
theorem dX4_init_594 : decode cX4_init 594 = .ok (.iastore, 1) := dk_79 (dk_at dksX4_init_25 2 rfl rfl)
theorem dX4_init_595 : decode cX4_init 595 = .ok (.dup, 1) := dk_89 (dk_at dksX4_init_25 3 rfl rfl)
theorem dX4_init_596 : decode cX4_init 596 = .ok (.bipush 25, 2) := dk_16 25 (dk_at dksX4_init_25 4 rfl rfl)
theorem dX4_init_598 : decode cX4_init 598 = .ok (.bipush 100, 2) := dk_16 100 (dk_at dksX4_init_25 6 rfl rfl)
theorem dX4_init_600 : decode cX4_init 600 = .ok (.iastore, 1) := dk_79 (dk_at dksX4_init_25 8 rfl rfl)
theorem dX4_init_601 : decode cX4_init 601 = .ok (.dup, 1) := dk_89 (dk_at dksX4_init_25 9 rfl rfl)
theorem dX4_init_602 : decode cX4_init 602 = .ok (.bipush 26, 2) := dk_16 26 (dk_at dksX4_init_25 10 rfl rfl)
theorem dX4_init_604 : decode cX4_init 604 = .ok (.bipush 32, 2) := dk_16 32 (dk_at dksX4_init_25 12 rfl rfl)
theorem dX4_init_606 : decode cX4_init 606 = .ok (.iastore, 1) := dk_79 (dk_at dksX4_init_25 14 rfl rfl)
theorem dX4_init_607 : decode cX4_init 607 = .ok (.dup, 1) := dk_89 (dk_at dksX4_init_25 15 rfl rfl)
theorem dX4_init_608 : decode cX4_init 608 = .ok (.bipush 27, 2) := dk_16 27 (dk_at dksX4_init_25 16 rfl rfl)
theorem dX4_init_610 : decode cX4_init 610 = .ok (.bipush 32, 2) := dk_16 32 (dk_at dksX4_init_25 18 rfl rfl)
theorem dX4_init_612 : decode cX4_init 612 = .ok (.iastore, 1) := dk_79 (dk_at dksX4_init_25 20 rfl rfl)
theorem dX4_init_613 : decode cX4_init 613 = .ok (.dup, 1) := dk_89 (dk_at dksX4_init_25 21 rfl rfl)
theorem dX4_init_614 : decode cX4_init 614 = .ok (.bipush 28, 2) := dk_16 28 (dk_at dksX4_init_25 22 rfl rfl)
theorem dX4_init_616 : decode cX4_init 616 = .ok (.bipush 100, 2) := dk_16 100 (dk_at dksX4_init_26 0 rfl rfl)
theorem dX4_init_618 : decode cX4_init 618 = .ok (.iastore, 1) := dk_79 (dk_at dksX4_init_26 2 rfl rfl)
theorem dX4_init_619 : decode cX4_init 619 = .ok (.dup, 1) := dk_89 (dk_at dksX4_init_26 3 rfl rfl)
theorem dX4_init_620 : decode cX4_init 620 = .ok (.bipush 29, 2) := dk_16 29 (dk_at dksX4_init_26 4 rfl rfl)
theorem dX4_init_622 : decode cX4_init 622 = .ok (.bipush 32, 2) := dk_16 32 (dk_at dksX4_init_26 6 rfl rfl)
theorem dX4_init_624 : decode cX4_init 624 = .ok (.iastore, 1) := dk_79 (dk_at dksX4_init_26 8 rfl rfl)
theorem dX4_init_625 : decode cX4_init 625 = .ok (.dup, 1) := dk_89 (dk_at dksX4_init_26 9 rfl rfl)
theorem dX4_init_626 : decode cX4_init 626 = .ok (.bipush 30, 2) := dk_16 30 (dk_at dksX4_init_26 10 rfl rfl)
theorem dX4_init_628 : decode cX4_init 628 = .ok (.bipush 32, 2) := dk_16 32 (dk_at dksX4_init_26 12 rfl rfl)
theorem dX4_init_630 : decode cX4_init 630 = .ok (.iastore, 1) := dk_79 (dk_at dksX4_init_26 14 rfl rfl)
theorem dX4_init_631 : decode cX4_init 631 = .ok (.dup, 1) := dk_89 (dk_at dksX4_init_26 15 rfl rfl)
theorem dX4_init_632 : decode cX4_init 632 = .ok (.bipush 31, 2) := dk_16 31 (dk_at dksX4_init_26 16 rfl rfl)
theorem dX4_init_634 : decode cX4_init 634 = .ok (.bipush 32, 2) := dk_16 32 (dk_at dksX4_init_26 18 rfl rfl)
theorem dX4_init_636 : decode cX4_init 636 = .ok (.iastore, 1) := dk_79 (dk_at dksX4_init_26 20 rfl rfl)
theorem dX4_init_637 : decode cX4_init 637 = .ok (.putfield 67, 3) := dk_181 0 67 (dk_at dksX4_init_26 21 rfl rfl)
theorem dX4_init_640 : decode cX4_init 640 = .ok (.aload_n 0, 1) := dk_42 (dk_at dksX4_init_27 0 rfl rfl)
theorem dX4_init_641 : decode cX4_init 641 = .ok (.bipush 40, 2) := dk_16 40 (dk_at dksX4_init_27 1 rfl rfl)
theorem dX4_init_643 : decode cX4_init 643 = .ok (.newarray .int, 2) := dk_188_10 (dk_at dksX4_init_27 3 rfl rfl)
theorem dX4_init_645 : decode cX4_init 645 = .ok (.putfield 70, 3) := dk_181 0 70 (dk_at dksX4_init_27 5 rfl rfl)
theorem dX4_init_648 : decode cX4_init 648 = .ok (.aload_n 0, 1) := dk_42 (dk_at dksX4_init_27 8 rfl rfl)
theorem dX4_init_649 : decode cX4_init 649 = .ok (.getfield 7, 3) := dk_180 0 7 (dk_at dksX4_init_27 9 rfl rfl)
theorem dX4_init_652 : decode cX4_init 652 = .ok (.iconst 0, 1) := dk_3 (dk_at dksX4_init_27 12 rfl rfl)
theorem dX4_init_653 : decode cX4_init 653 = .ok (.iconst 3, 1) := dk_6 (dk_at dksX4_init_27 13 rfl rfl)
theorem dX4_init_654 : decode cX4_init 654 = .ok (.iastore, 1) := dk_79 (dk_at dksX4_init_27 14 rfl rfl)
theorem dX4_init_655 : decode cX4_init 655 = .ok (.aload_n 0, 1) := dk_42 (dk_at dksX4_init_27 15 rfl rfl)
theorem dX4_init_656 : decode cX4_init 656 = .ok (.getfield 7, 3) := dk_180 0 7 (dk_at dksX4_init_27 16 rfl rfl)
theorem dX4_init_659 : decode cX4_init 659 = .ok (.iconst 1, 1) := dk_4 (dk_at dksX4_init_27 19 rfl rfl)
theorem dX4_init_660 : decode cX4_init 660 = .ok (.bipush 30, 2) := dk_16 30 (dk_at dksX4_init_27 20 rfl rfl)
theorem dX4_init_662 : decode cX4_init 662 = .ok (.iastore, 1) := dk_79 (dk_at dksX4_init_27 22 rfl rfl)
theorem dX4_init_663 : decode cX4_init 663 = .ok (.aload_n 0, 1) := dk_42 (dk_at dksX4_init_27 23 rfl rfl)
theorem dX4_init_664 : decode cX4_init 664 = .ok (.getfield 7, 3) := dk_180 0 7 (dk_at dksX4_init_28 0 rfl rfl)
theorem dX4_init_667 : decode cX4_init 667 = .ok (.iconst 2, 1) := dk_5 (dk_at dksX4_init_28 3 rfl rfl)
theorem dX4_init_668 : decode cX4_init 668 = .ok (.bipush 50, 2) := dk_16 50 (dk_at dksX4_init_28 4 rfl rfl)
theorem dX4_init_670 : decode cX4_init 670 = .ok (.iastore, 1) := dk_79 (dk_at dksX4_init_28 6 rfl rfl)
theorem dX4_init_671 : decode cX4_init 671 = .ok (.aload_n 0, 1) := dk_42 (dk_at dksX4_init_28 7 rfl rfl)
theorem dX4_init_672 : decode cX4_init 672 = .ok (.getfield 7, 3) := dk_180 0 7 (dk_at dksX4_init_28 8 rfl rfl)
theorem dX4_init_675 : decode cX4_init 675 = .ok (.iconst 3, 1) := dk_6 (dk_at dksX4_init_28 11 rfl rfl)
theorem dX4_init_676 : decode cX4_init 676 = .ok (.bipush 70, 2) := dk_16 70 (dk_at dksX4_init_28 12 rfl rfl)
theorem dX4_init_678 : decode cX4_init 678 = .ok (.iastore, 1) := dk_79 (dk_at dksX4_init_28 14 rfl rfl)
theorem dX4_init_679 : decode cX4_init 679 = .ok (.return_, 1) := dk_177 (dk_at dksX4_init_28 15 rfl rfl)
abbrev cX4_land : ByteArray := prog_20_method_15_code
def yX4_land : MethodName := ⟨RX4, "land", "(IZ)I"⟩
def dkwX4_land_1 : List UInt8 := [2, 172]
abbrev dktX4_land_1 : List UInt8 := dkwX4_land_1 ++ []
def dkwX4_land_0 : List UInt8 := [42, 182, 0, 115, 27, 184, 0, 95, 153, 0, 16, 42, 42, 27, 28, 182, 0, 118, 182, 0, 122, 167, 0, 4]
abbrev dktX4_land_0 : List UInt8 := dkwX4_land_0 ++ dktX4_land_1
theorem dksX4_land_0 : cX4_land.data.toList.drop 0 = dktX4_land_0 := by decide +kernel
theorem dksX4_land_1 : cX4_land.data.toList.drop 24 = dktX4_land_1 := dk_seg dksX4_land_0 24 rfl rfl
theorem dX4_land_0 : decode cX4_land 0 = .ok (.aload_n 0, 1) := dk_42 (dk_at dksX4_land_0 0 rfl rfl)
theorem dX4_land_1 : decode cX4_land 1 = .ok (.invokevirtual 115, 3) := dk_182 0 115 (dk_at dksX4_land_0 1 rfl rfl)
theorem dX4_land_4 : decode cX4_land 4 = .ok (.iload_n 1, 1) := dk_27 (dk_at dksX4_land_0 4 rfl rfl)
theorem dX4_land_5 : decode cX4_land 5 = .ok (.invokestatic 95, 3) := dk_184 0 95 (dk_at dksX4_land_0 5 rfl rfl)
theorem dX4_land_8 : decode cX4_land 8 = .ok (.ifCond .eq 16, 3) := dk_153 0 16 (dk_at dksX4_land_0 8 rfl rfl)
theorem dX4_land_11 : decode cX4_land 11 = .ok (.aload_n 0, 1) := dk_42 (dk_at dksX4_land_0 11 rfl rfl)
theorem dX4_land_12 : decode cX4_land 12 = .ok (.aload_n 0, 1) := dk_42 (dk_at dksX4_land_0 12 rfl rfl)
theorem dX4_land_13 : decode cX4_land 13 = .ok (.iload_n 1, 1) := dk_27 (dk_at dksX4_land_0 13 rfl rfl)
theorem dX4_land_14 : decode cX4_land 14 = .ok (.iload_n 2, 1) := dk_28 (dk_at dksX4_land_0 14 rfl rfl)
theorem dX4_land_15 : decode cX4_land 15 = .ok (.invokevirtual 118, 3) := dk_182 0 118 (dk_at dksX4_land_0 15 rfl rfl)
theorem dX4_land_18 : decode cX4_land 18 = .ok (.invokevirtual 122, 3) := dk_182 0 122 (dk_at dksX4_land_0 18 rfl rfl)
theorem dX4_land_21 : decode cX4_land 21 = .ok (.goto 4, 3) := dk_167 0 4 (dk_at dksX4_land_0 21 rfl rfl)
theorem dX4_land_24 : decode cX4_land 24 = .ok (.iconst (-1), 1) := dk_2 (dk_at dksX4_land_1 0 rfl rfl)
theorem dX4_land_25 : decode cX4_land 25 = .ok (.ireturn, 1) := dk_172 (dk_at dksX4_land_1 1 rfl rfl)
abbrev cX4_begins : ByteArray := prog_20_method_5_code
def yX4_begins : MethodName := ⟨RX4, "begins", "()V"⟩
def dkwX4_begins_0 : List UInt8 := [42, 180, 0, 13, 42, 180, 0, 7, 184, 0, 80, 177]
abbrev dktX4_begins_0 : List UInt8 := dkwX4_begins_0 ++ []
theorem dksX4_begins_0 : cX4_begins.data.toList.drop 0 = dktX4_begins_0 := by decide +kernel
theorem dX4_begins_0 : decode cX4_begins 0 = .ok (.aload_n 0, 1) := dk_42 (dk_at dksX4_begins_0 0 rfl rfl)
theorem dX4_begins_1 : decode cX4_begins 1 = .ok (.getfield 13, 3) := dk_180 0 13 (dk_at dksX4_begins_0 1 rfl rfl)
theorem dX4_begins_4 : decode cX4_begins 4 = .ok (.aload_n 0, 1) := dk_42 (dk_at dksX4_begins_0 4 rfl rfl)
theorem dX4_begins_5 : decode cX4_begins 5 = .ok (.getfield 7, 3) := dk_180 0 7 (dk_at dksX4_begins_0 5 rfl rfl)
theorem dX4_begins_8 : decode cX4_begins 8 = .ok (.invokestatic 80, 3) := dk_184 0 80 (dk_at dksX4_begins_0 8 rfl rfl)
theorem dX4_begins_11 : decode cX4_begins 11 = .ok (.return_, 1) := dk_177 (dk_at dksX4_begins_0 11 rfl rfl)
abbrev cX4_lays : ByteArray := prog_20_method_4_code
def yX4_lays : MethodName := ⟨RX4, "lays", "([I[I)V"⟩
def dkwX4_lays_0 : List UInt8 := [3, 61, 28, 17, 1, 98, 162, 0, 15, 42, 28, 43, 28, 46, 79, 132, 2, 1, 167, 255, 240, 177]
abbrev dktX4_lays_0 : List UInt8 := dkwX4_lays_0 ++ []
theorem dksX4_lays_0 : cX4_lays.data.toList.drop 0 = dktX4_lays_0 := by decide +kernel
theorem dX4_lays_0 : decode cX4_lays 0 = .ok (.iconst 0, 1) := dk_3 (dk_at dksX4_lays_0 0 rfl rfl)
theorem dX4_lays_1 : decode cX4_lays 1 = .ok (.istore_n 2, 1) := dk_61 (dk_at dksX4_lays_0 1 rfl rfl)
theorem dX4_lays_2 : decode cX4_lays 2 = .ok (.iload_n 2, 1) := dk_28 (dk_at dksX4_lays_0 2 rfl rfl)
theorem dX4_lays_3 : decode cX4_lays 3 = .ok (.sipush 354, 3) := dk_17 1 98 (dk_at dksX4_lays_0 3 rfl rfl)
theorem dX4_lays_6 : decode cX4_lays 6 = .ok (.if_icmp .ge 15, 3) := dk_162 0 15 (dk_at dksX4_lays_0 6 rfl rfl)
theorem dX4_lays_9 : decode cX4_lays 9 = .ok (.aload_n 0, 1) := dk_42 (dk_at dksX4_lays_0 9 rfl rfl)
theorem dX4_lays_10 : decode cX4_lays 10 = .ok (.iload_n 2, 1) := dk_28 (dk_at dksX4_lays_0 10 rfl rfl)
theorem dX4_lays_11 : decode cX4_lays 11 = .ok (.aload_n 1, 1) := dk_43 (dk_at dksX4_lays_0 11 rfl rfl)
theorem dX4_lays_12 : decode cX4_lays 12 = .ok (.iload_n 2, 1) := dk_28 (dk_at dksX4_lays_0 12 rfl rfl)
theorem dX4_lays_13 : decode cX4_lays 13 = .ok (.iaload, 1) := dk_46 (dk_at dksX4_lays_0 13 rfl rfl)
theorem dX4_lays_14 : decode cX4_lays 14 = .ok (.iastore, 1) := dk_79 (dk_at dksX4_lays_0 14 rfl rfl)
theorem dX4_lays_15 : decode cX4_lays 15 = .ok (.iinc 2 1, 3) := dk_132 2 1 (dk_at dksX4_lays_0 15 rfl rfl)
theorem dX4_lays_18 : decode cX4_lays 18 = .ok (.goto (-16), 3) := dk_167 255 240 (dk_at dksX4_lays_0 18 rfl rfl)
theorem dX4_lays_21 : decode cX4_lays 21 = .ok (.return_, 1) := dk_177 (dk_at dksX4_lays_0 21 rfl rfl)
abbrev cX4_isCell : ByteArray := prog_20_method_11_code
def yX4_isCell : MethodName := ⟨RX4, "isCell", "(I)Z"⟩
def dkwX4_isCell_0 : List UInt8 := [26, 3, 17, 0, 191, 184, 0, 87, 172]
abbrev dktX4_isCell_0 : List UInt8 := dkwX4_isCell_0 ++ []
theorem dksX4_isCell_0 : cX4_isCell.data.toList.drop 0 = dktX4_isCell_0 := by decide +kernel
theorem dX4_isCell_0 : decode cX4_isCell 0 = .ok (.iload_n 0, 1) := dk_26 (dk_at dksX4_isCell_0 0 rfl rfl)
theorem dX4_isCell_1 : decode cX4_isCell 1 = .ok (.iconst 0, 1) := dk_3 (dk_at dksX4_isCell_0 1 rfl rfl)
theorem dX4_isCell_2 : decode cX4_isCell 2 = .ok (.sipush 191, 3) := dk_17 0 191 (dk_at dksX4_isCell_0 2 rfl rfl)
theorem dX4_isCell_5 : decode cX4_isCell 5 = .ok (.invokestatic 87, 3) := dk_184 0 87 (dk_at dksX4_isCell_0 5 rfl rfl)
theorem dX4_isCell_8 : decode cX4_isCell 8 = .ok (.ireturn, 1) := dk_172 (dk_at dksX4_isCell_0 8 rfl rfl)
abbrev cX4_isIn : ByteArray := prog_20_method_2_code
def yX4_isIn : MethodName := ⟨RX4, "isIn", "(III)Z"⟩
def dkwX4_isIn_0 : List UInt8 := [26, 27, 161, 0, 12, 26, 28, 163, 0, 7, 4, 167, 0, 4, 3, 172]
abbrev dktX4_isIn_0 : List UInt8 := dkwX4_isIn_0 ++ []
theorem dksX4_isIn_0 : cX4_isIn.data.toList.drop 0 = dktX4_isIn_0 := by decide +kernel
theorem dX4_isIn_0 : decode cX4_isIn 0 = .ok (.iload_n 0, 1) := dk_26 (dk_at dksX4_isIn_0 0 rfl rfl)
theorem dX4_isIn_1 : decode cX4_isIn 1 = .ok (.iload_n 1, 1) := dk_27 (dk_at dksX4_isIn_0 1 rfl rfl)
theorem dX4_isIn_2 : decode cX4_isIn 2 = .ok (.if_icmp .lt 12, 3) := dk_161 0 12 (dk_at dksX4_isIn_0 2 rfl rfl)
theorem dX4_isIn_5 : decode cX4_isIn 5 = .ok (.iload_n 0, 1) := dk_26 (dk_at dksX4_isIn_0 5 rfl rfl)
theorem dX4_isIn_6 : decode cX4_isIn 6 = .ok (.iload_n 2, 1) := dk_28 (dk_at dksX4_isIn_0 6 rfl rfl)
theorem dX4_isIn_7 : decode cX4_isIn 7 = .ok (.if_icmp .gt 7, 3) := dk_163 0 7 (dk_at dksX4_isIn_0 7 rfl rfl)
theorem dX4_isIn_10 : decode cX4_isIn 10 = .ok (.iconst 1, 1) := dk_4 (dk_at dksX4_isIn_0 10 rfl rfl)
theorem dX4_isIn_11 : decode cX4_isIn 11 = .ok (.goto 4, 3) := dk_167 0 4 (dk_at dksX4_isIn_0 11 rfl rfl)
theorem dX4_isIn_14 : decode cX4_isIn 14 = .ok (.iconst 0, 1) := dk_3 (dk_at dksX4_isIn_0 14 rfl rfl)
theorem dX4_isIn_15 : decode cX4_isIn 15 = .ok (.ireturn, 1) := dk_172 (dk_at dksX4_isIn_0 15 rfl rfl)
abbrev cX4_lands : ByteArray := prog_20_method_14_code
def yX4_lands : MethodName := ⟨RX4, "lands", "(IZ)I"⟩
def dkwX4_lands_2 : List UInt8 := [27, 96, 28, 153, 0, 7, 4, 167, 0, 4, 3, 79, 42, 182, 0, 111, 172]
abbrev dktX4_lands_2 : List UInt8 := dkwX4_lands_2 ++ []
def dkwX4_lands_1 : List UInt8 := [27, 160, 0, 11, 42, 16, 6, 29, 182, 0, 108, 172, 132, 3, 1, 167, 255, 223, 42, 180, 0, 7, 16, 12]
abbrev dktX4_lands_1 : List UInt8 := dkwX4_lands_1 ++ dktX4_lands_2
def dkwX4_lands_0 : List UInt8 := [42, 182, 0, 99, 3, 62, 29, 42, 180, 0, 102, 162, 0, 31, 28, 153, 0, 27, 42, 29, 4, 182, 0, 105]
abbrev dktX4_lands_0 : List UInt8 := dkwX4_lands_0 ++ dktX4_lands_1
theorem dksX4_lands_0 : cX4_lands.data.toList.drop 0 = dktX4_lands_0 := by decide +kernel
theorem dksX4_lands_1 : cX4_lands.data.toList.drop 24 = dktX4_lands_1 := dk_seg dksX4_lands_0 24 rfl rfl
theorem dksX4_lands_2 : cX4_lands.data.toList.drop 48 = dktX4_lands_2 := dk_seg dksX4_lands_1 24 rfl rfl
theorem dX4_lands_0 : decode cX4_lands 0 = .ok (.aload_n 0, 1) := dk_42 (dk_at dksX4_lands_0 0 rfl rfl)
theorem dX4_lands_1 : decode cX4_lands 1 = .ok (.invokevirtual 99, 3) := dk_182 0 99 (dk_at dksX4_lands_0 1 rfl rfl)
theorem dX4_lands_4 : decode cX4_lands 4 = .ok (.iconst 0, 1) := dk_3 (dk_at dksX4_lands_0 4 rfl rfl)
theorem dX4_lands_5 : decode cX4_lands 5 = .ok (.istore_n 3, 1) := dk_62 (dk_at dksX4_lands_0 5 rfl rfl)
theorem dX4_lands_6 : decode cX4_lands 6 = .ok (.iload_n 3, 1) := dk_29 (dk_at dksX4_lands_0 6 rfl rfl)
theorem dX4_lands_7 : decode cX4_lands 7 = .ok (.aload_n 0, 1) := dk_42 (dk_at dksX4_lands_0 7 rfl rfl)
theorem dX4_lands_8 : decode cX4_lands 8 = .ok (.getfield 102, 3) := dk_180 0 102 (dk_at dksX4_lands_0 8 rfl rfl)
theorem dX4_lands_11 : decode cX4_lands 11 = .ok (.if_icmp .ge 31, 3) := dk_162 0 31 (dk_at dksX4_lands_0 11 rfl rfl)
theorem dX4_lands_14 : decode cX4_lands 14 = .ok (.iload_n 2, 1) := dk_28 (dk_at dksX4_lands_0 14 rfl rfl)
theorem dX4_lands_15 : decode cX4_lands 15 = .ok (.ifCond .eq 27, 3) := dk_153 0 27 (dk_at dksX4_lands_0 15 rfl rfl)
theorem dX4_lands_18 : decode cX4_lands 18 = .ok (.aload_n 0, 1) := dk_42 (dk_at dksX4_lands_0 18 rfl rfl)
theorem dX4_lands_19 : decode cX4_lands 19 = .ok (.iload_n 3, 1) := dk_29 (dk_at dksX4_lands_0 19 rfl rfl)
theorem dX4_lands_20 : decode cX4_lands 20 = .ok (.iconst 1, 1) := dk_4 (dk_at dksX4_lands_0 20 rfl rfl)
theorem dX4_lands_21 : decode cX4_lands 21 = .ok (.invokevirtual 105, 3) := dk_182 0 105 (dk_at dksX4_lands_0 21 rfl rfl)
theorem dX4_lands_24 : decode cX4_lands 24 = .ok (.iload_n 1, 1) := dk_27 (dk_at dksX4_lands_1 0 rfl rfl)
theorem dX4_lands_25 : decode cX4_lands 25 = .ok (.if_icmp .ne 11, 3) := dk_160 0 11 (dk_at dksX4_lands_1 1 rfl rfl)
theorem dX4_lands_28 : decode cX4_lands 28 = .ok (.aload_n 0, 1) := dk_42 (dk_at dksX4_lands_1 4 rfl rfl)
theorem dX4_lands_29 : decode cX4_lands 29 = .ok (.bipush 6, 2) := dk_16 6 (dk_at dksX4_lands_1 5 rfl rfl)
theorem dX4_lands_31 : decode cX4_lands 31 = .ok (.iload_n 3, 1) := dk_29 (dk_at dksX4_lands_1 7 rfl rfl)
theorem dX4_lands_32 : decode cX4_lands 32 = .ok (.invokevirtual 108, 3) := dk_182 0 108 (dk_at dksX4_lands_1 8 rfl rfl)
theorem dX4_lands_35 : decode cX4_lands 35 = .ok (.ireturn, 1) := dk_172 (dk_at dksX4_lands_1 11 rfl rfl)
theorem dX4_lands_36 : decode cX4_lands 36 = .ok (.iinc 3 1, 3) := dk_132 3 1 (dk_at dksX4_lands_1 12 rfl rfl)
theorem dX4_lands_39 : decode cX4_lands 39 = .ok (.goto (-33), 3) := dk_167 255 223 (dk_at dksX4_lands_1 15 rfl rfl)
theorem dX4_lands_42 : decode cX4_lands 42 = .ok (.aload_n 0, 1) := dk_42 (dk_at dksX4_lands_1 18 rfl rfl)
theorem dX4_lands_43 : decode cX4_lands 43 = .ok (.getfield 7, 3) := dk_180 0 7 (dk_at dksX4_lands_1 19 rfl rfl)
theorem dX4_lands_46 : decode cX4_lands 46 = .ok (.bipush 12, 2) := dk_16 12 (dk_at dksX4_lands_1 22 rfl rfl)
theorem dX4_lands_48 : decode cX4_lands 48 = .ok (.iload_n 1, 1) := dk_27 (dk_at dksX4_lands_2 0 rfl rfl)
theorem dX4_lands_49 : decode cX4_lands 49 = .ok (.iadd, 1) := dk_96 (dk_at dksX4_lands_2 1 rfl rfl)
theorem dX4_lands_50 : decode cX4_lands 50 = .ok (.iload_n 2, 1) := dk_28 (dk_at dksX4_lands_2 2 rfl rfl)
theorem dX4_lands_51 : decode cX4_lands 51 = .ok (.ifCond .eq 7, 3) := dk_153 0 7 (dk_at dksX4_lands_2 3 rfl rfl)
theorem dX4_lands_54 : decode cX4_lands 54 = .ok (.iconst 1, 1) := dk_4 (dk_at dksX4_lands_2 6 rfl rfl)
theorem dX4_lands_55 : decode cX4_lands 55 = .ok (.goto 4, 3) := dk_167 0 4 (dk_at dksX4_lands_2 7 rfl rfl)
theorem dX4_lands_58 : decode cX4_lands 58 = .ok (.iconst 0, 1) := dk_3 (dk_at dksX4_lands_2 10 rfl rfl)
theorem dX4_lands_59 : decode cX4_lands 59 = .ok (.iastore, 1) := dk_79 (dk_at dksX4_lands_2 11 rfl rfl)
theorem dX4_lands_60 : decode cX4_lands 60 = .ok (.aload_n 0, 1) := dk_42 (dk_at dksX4_lands_2 12 rfl rfl)
theorem dX4_lands_61 : decode cX4_lands 61 = .ok (.invokevirtual 111, 3) := dk_182 0 111 (dk_at dksX4_lands_2 13 rfl rfl)
theorem dX4_lands_64 : decode cX4_lands 64 = .ok (.ireturn, 1) := dk_172 (dk_at dksX4_lands_2 16 rfl rfl)
abbrev cX4_lists : ByteArray := prog_20_method_41_code
def yX4_lists : MethodName := ⟨RX4, "lists", "()V"⟩
def dkwX4_lists_6 : List UInt8 := [132, 2, 1, 167, 255, 132, 132, 1, 1, 167, 255, 113, 177]
abbrev dktX4_lists_6 : List UInt8 := dkwX4_lists_6 ++ []
def dkwX4_lists_5 : List UInt8 := [180, 0, 22, 29, 27, 79, 42, 180, 0, 25, 29, 28, 79, 42, 89, 180, 0, 102, 4, 96, 181, 0, 102]
abbrev dktX4_lists_5 : List UInt8 := dkwX4_lists_5 ++ dktX4_lists_6
def dkwX4_lists_4 : List UInt8 := [100, 46, 79, 42, 180, 0, 25, 29, 42, 180, 0, 25, 29, 4, 100, 46, 79, 132, 3, 255, 167, 255, 199, 42]
abbrev dktX4_lists_4 : List UInt8 := dkwX4_lists_4 ++ dktX4_lists_5
def dkwX4_lists_3 : List UInt8 := [180, 0, 7, 27, 28, 3, 184, 0, 136, 46, 164, 0, 37, 42, 180, 0, 22, 29, 42, 180, 0, 22, 29, 4]
abbrev dktX4_lists_3 : List UInt8 := dkwX4_lists_3 ++ dktX4_lists_4
def dkwX4_lists_2 : List UInt8 := [159, 0, 6, 167, 0, 92, 42, 180, 0, 102, 62, 29, 158, 0, 59, 42, 29, 4, 100, 3, 182, 0, 105, 42]
abbrev dktX4_lists_2 : List UInt8 := dkwX4_lists_2 ++ dktX4_lists_3
def dkwX4_lists_1 : List UInt8 := [180, 0, 7, 27, 5, 184, 0, 91, 46, 162, 0, 116, 42, 180, 0, 7, 27, 28, 6, 184, 0, 136, 46, 4]
abbrev dktX4_lists_1 : List UInt8 := dkwX4_lists_1 ++ dktX4_lists_2
def dkwX4_lists_0 : List UInt8 := [42, 3, 181, 0, 102, 3, 60, 27, 42, 180, 0, 7, 16, 11, 46, 162, 0, 138, 3, 61, 28, 42]
abbrev dktX4_lists_0 : List UInt8 := dkwX4_lists_0 ++ dktX4_lists_1
theorem dksX4_lists_0 : cX4_lists.data.toList.drop 0 = dktX4_lists_0 := by decide +kernel
theorem dksX4_lists_1 : cX4_lists.data.toList.drop 22 = dktX4_lists_1 := dk_seg dksX4_lists_0 22 rfl rfl
theorem dksX4_lists_2 : cX4_lists.data.toList.drop 46 = dktX4_lists_2 := dk_seg dksX4_lists_1 24 rfl rfl
theorem dksX4_lists_3 : cX4_lists.data.toList.drop 70 = dktX4_lists_3 := dk_seg dksX4_lists_2 24 rfl rfl
theorem dksX4_lists_4 : cX4_lists.data.toList.drop 94 = dktX4_lists_4 := dk_seg dksX4_lists_3 24 rfl rfl
theorem dksX4_lists_5 : cX4_lists.data.toList.drop 118 = dktX4_lists_5 := dk_seg dksX4_lists_4 24 rfl rfl
theorem dksX4_lists_6 : cX4_lists.data.toList.drop 141 = dktX4_lists_6 := dk_seg dksX4_lists_5 23 rfl rfl
theorem dX4_lists_0 : decode cX4_lists 0 = .ok (.aload_n 0, 1) := dk_42 (dk_at dksX4_lists_0 0 rfl rfl)
theorem dX4_lists_1 : decode cX4_lists 1 = .ok (.iconst 0, 1) := dk_3 (dk_at dksX4_lists_0 1 rfl rfl)
theorem dX4_lists_2 : decode cX4_lists 2 = .ok (.putfield 102, 3) := dk_181 0 102 (dk_at dksX4_lists_0 2 rfl rfl)
theorem dX4_lists_5 : decode cX4_lists 5 = .ok (.iconst 0, 1) := dk_3 (dk_at dksX4_lists_0 5 rfl rfl)
theorem dX4_lists_6 : decode cX4_lists 6 = .ok (.istore_n 1, 1) := dk_60 (dk_at dksX4_lists_0 6 rfl rfl)
theorem dX4_lists_7 : decode cX4_lists 7 = .ok (.iload_n 1, 1) := dk_27 (dk_at dksX4_lists_0 7 rfl rfl)
theorem dX4_lists_8 : decode cX4_lists 8 = .ok (.aload_n 0, 1) := dk_42 (dk_at dksX4_lists_0 8 rfl rfl)
theorem dX4_lists_9 : decode cX4_lists 9 = .ok (.getfield 7, 3) := dk_180 0 7 (dk_at dksX4_lists_0 9 rfl rfl)
theorem dX4_lists_12 : decode cX4_lists 12 = .ok (.bipush 11, 2) := dk_16 11 (dk_at dksX4_lists_0 12 rfl rfl)
theorem dX4_lists_14 : decode cX4_lists 14 = .ok (.iaload, 1) := dk_46 (dk_at dksX4_lists_0 14 rfl rfl)
theorem dX4_lists_15 : decode cX4_lists 15 = .ok (.if_icmp .ge 138, 3) := dk_162 0 138 (dk_at dksX4_lists_0 15 rfl rfl)
theorem dX4_lists_18 : decode cX4_lists 18 = .ok (.iconst 0, 1) := dk_3 (dk_at dksX4_lists_0 18 rfl rfl)
theorem dX4_lists_19 : decode cX4_lists 19 = .ok (.istore_n 2, 1) := dk_61 (dk_at dksX4_lists_0 19 rfl rfl)
theorem dX4_lists_20 : decode cX4_lists 20 = .ok (.iload_n 2, 1) := dk_28 (dk_at dksX4_lists_0 20 rfl rfl)
theorem dX4_lists_21 : decode cX4_lists 21 = .ok (.aload_n 0, 1) := dk_42 (dk_at dksX4_lists_0 21 rfl rfl)
theorem dX4_lists_22 : decode cX4_lists 22 = .ok (.getfield 7, 3) := dk_180 0 7 (dk_at dksX4_lists_1 0 rfl rfl)
theorem dX4_lists_25 : decode cX4_lists 25 = .ok (.iload_n 1, 1) := dk_27 (dk_at dksX4_lists_1 3 rfl rfl)
theorem dX4_lists_26 : decode cX4_lists 26 = .ok (.iconst 2, 1) := dk_5 (dk_at dksX4_lists_1 4 rfl rfl)
theorem dX4_lists_27 : decode cX4_lists 27 = .ok (.invokestatic 91, 3) := dk_184 0 91 (dk_at dksX4_lists_1 5 rfl rfl)
theorem dX4_lists_30 : decode cX4_lists 30 = .ok (.iaload, 1) := dk_46 (dk_at dksX4_lists_1 8 rfl rfl)
theorem dX4_lists_31 : decode cX4_lists 31 = .ok (.if_icmp .ge 116, 3) := dk_162 0 116 (dk_at dksX4_lists_1 9 rfl rfl)
theorem dX4_lists_34 : decode cX4_lists 34 = .ok (.aload_n 0, 1) := dk_42 (dk_at dksX4_lists_1 12 rfl rfl)
theorem dX4_lists_35 : decode cX4_lists 35 = .ok (.getfield 7, 3) := dk_180 0 7 (dk_at dksX4_lists_1 13 rfl rfl)
theorem dX4_lists_38 : decode cX4_lists 38 = .ok (.iload_n 1, 1) := dk_27 (dk_at dksX4_lists_1 16 rfl rfl)
theorem dX4_lists_39 : decode cX4_lists 39 = .ok (.iload_n 2, 1) := dk_28 (dk_at dksX4_lists_1 17 rfl rfl)
theorem dX4_lists_40 : decode cX4_lists 40 = .ok (.iconst 3, 1) := dk_6 (dk_at dksX4_lists_1 18 rfl rfl)
theorem dX4_lists_41 : decode cX4_lists 41 = .ok (.invokestatic 136, 3) := dk_184 0 136 (dk_at dksX4_lists_1 19 rfl rfl)
theorem dX4_lists_44 : decode cX4_lists 44 = .ok (.iaload, 1) := dk_46 (dk_at dksX4_lists_1 22 rfl rfl)
theorem dX4_lists_45 : decode cX4_lists 45 = .ok (.iconst 1, 1) := dk_4 (dk_at dksX4_lists_1 23 rfl rfl)
theorem dX4_lists_46 : decode cX4_lists 46 = .ok (.if_icmp .eq 6, 3) := dk_159 0 6 (dk_at dksX4_lists_2 0 rfl rfl)
theorem dX4_lists_49 : decode cX4_lists 49 = .ok (.goto 92, 3) := dk_167 0 92 (dk_at dksX4_lists_2 3 rfl rfl)
theorem dX4_lists_52 : decode cX4_lists 52 = .ok (.aload_n 0, 1) := dk_42 (dk_at dksX4_lists_2 6 rfl rfl)
theorem dX4_lists_53 : decode cX4_lists 53 = .ok (.getfield 102, 3) := dk_180 0 102 (dk_at dksX4_lists_2 7 rfl rfl)
theorem dX4_lists_56 : decode cX4_lists 56 = .ok (.istore_n 3, 1) := dk_62 (dk_at dksX4_lists_2 10 rfl rfl)
theorem dX4_lists_57 : decode cX4_lists 57 = .ok (.iload_n 3, 1) := dk_29 (dk_at dksX4_lists_2 11 rfl rfl)
theorem dX4_lists_58 : decode cX4_lists 58 = .ok (.ifCond .le 59, 3) := dk_158 0 59 (dk_at dksX4_lists_2 12 rfl rfl)
theorem dX4_lists_61 : decode cX4_lists 61 = .ok (.aload_n 0, 1) := dk_42 (dk_at dksX4_lists_2 15 rfl rfl)
theorem dX4_lists_62 : decode cX4_lists 62 = .ok (.iload_n 3, 1) := dk_29 (dk_at dksX4_lists_2 16 rfl rfl)
theorem dX4_lists_63 : decode cX4_lists 63 = .ok (.iconst 1, 1) := dk_4 (dk_at dksX4_lists_2 17 rfl rfl)
theorem dX4_lists_64 : decode cX4_lists 64 = .ok (.isub, 1) := dk_100 (dk_at dksX4_lists_2 18 rfl rfl)
theorem dX4_lists_65 : decode cX4_lists 65 = .ok (.iconst 0, 1) := dk_3 (dk_at dksX4_lists_2 19 rfl rfl)
theorem dX4_lists_66 : decode cX4_lists 66 = .ok (.invokevirtual 105, 3) := dk_182 0 105 (dk_at dksX4_lists_2 20 rfl rfl)
theorem dX4_lists_69 : decode cX4_lists 69 = .ok (.aload_n 0, 1) := dk_42 (dk_at dksX4_lists_2 23 rfl rfl)
theorem dX4_lists_70 : decode cX4_lists 70 = .ok (.getfield 7, 3) := dk_180 0 7 (dk_at dksX4_lists_3 0 rfl rfl)
theorem dX4_lists_73 : decode cX4_lists 73 = .ok (.iload_n 1, 1) := dk_27 (dk_at dksX4_lists_3 3 rfl rfl)
theorem dX4_lists_74 : decode cX4_lists 74 = .ok (.iload_n 2, 1) := dk_28 (dk_at dksX4_lists_3 4 rfl rfl)
theorem dX4_lists_75 : decode cX4_lists 75 = .ok (.iconst 0, 1) := dk_3 (dk_at dksX4_lists_3 5 rfl rfl)
theorem dX4_lists_76 : decode cX4_lists 76 = .ok (.invokestatic 136, 3) := dk_184 0 136 (dk_at dksX4_lists_3 6 rfl rfl)
theorem dX4_lists_79 : decode cX4_lists 79 = .ok (.iaload, 1) := dk_46 (dk_at dksX4_lists_3 9 rfl rfl)
theorem dX4_lists_80 : decode cX4_lists 80 = .ok (.if_icmp .le 37, 3) := dk_164 0 37 (dk_at dksX4_lists_3 10 rfl rfl)
theorem dX4_lists_83 : decode cX4_lists 83 = .ok (.aload_n 0, 1) := dk_42 (dk_at dksX4_lists_3 13 rfl rfl)
theorem dX4_lists_84 : decode cX4_lists 84 = .ok (.getfield 22, 3) := dk_180 0 22 (dk_at dksX4_lists_3 14 rfl rfl)
theorem dX4_lists_87 : decode cX4_lists 87 = .ok (.iload_n 3, 1) := dk_29 (dk_at dksX4_lists_3 17 rfl rfl)
theorem dX4_lists_88 : decode cX4_lists 88 = .ok (.aload_n 0, 1) := dk_42 (dk_at dksX4_lists_3 18 rfl rfl)
theorem dX4_lists_89 : decode cX4_lists 89 = .ok (.getfield 22, 3) := dk_180 0 22 (dk_at dksX4_lists_3 19 rfl rfl)
theorem dX4_lists_92 : decode cX4_lists 92 = .ok (.iload_n 3, 1) := dk_29 (dk_at dksX4_lists_3 22 rfl rfl)
theorem dX4_lists_93 : decode cX4_lists 93 = .ok (.iconst 1, 1) := dk_4 (dk_at dksX4_lists_3 23 rfl rfl)
theorem dX4_lists_94 : decode cX4_lists 94 = .ok (.isub, 1) := dk_100 (dk_at dksX4_lists_4 0 rfl rfl)
theorem dX4_lists_95 : decode cX4_lists 95 = .ok (.iaload, 1) := dk_46 (dk_at dksX4_lists_4 1 rfl rfl)
theorem dX4_lists_96 : decode cX4_lists 96 = .ok (.iastore, 1) := dk_79 (dk_at dksX4_lists_4 2 rfl rfl)
theorem dX4_lists_97 : decode cX4_lists 97 = .ok (.aload_n 0, 1) := dk_42 (dk_at dksX4_lists_4 3 rfl rfl)
theorem dX4_lists_98 : decode cX4_lists 98 = .ok (.getfield 25, 3) := dk_180 0 25 (dk_at dksX4_lists_4 4 rfl rfl)
theorem dX4_lists_101 : decode cX4_lists 101 = .ok (.iload_n 3, 1) := dk_29 (dk_at dksX4_lists_4 7 rfl rfl)
theorem dX4_lists_102 : decode cX4_lists 102 = .ok (.aload_n 0, 1) := dk_42 (dk_at dksX4_lists_4 8 rfl rfl)
theorem dX4_lists_103 : decode cX4_lists 103 = .ok (.getfield 25, 3) := dk_180 0 25 (dk_at dksX4_lists_4 9 rfl rfl)
theorem dX4_lists_106 : decode cX4_lists 106 = .ok (.iload_n 3, 1) := dk_29 (dk_at dksX4_lists_4 12 rfl rfl)
theorem dX4_lists_107 : decode cX4_lists 107 = .ok (.iconst 1, 1) := dk_4 (dk_at dksX4_lists_4 13 rfl rfl)
theorem dX4_lists_108 : decode cX4_lists 108 = .ok (.isub, 1) := dk_100 (dk_at dksX4_lists_4 14 rfl rfl)
theorem dX4_lists_109 : decode cX4_lists 109 = .ok (.iaload, 1) := dk_46 (dk_at dksX4_lists_4 15 rfl rfl)
theorem dX4_lists_110 : decode cX4_lists 110 = .ok (.iastore, 1) := dk_79 (dk_at dksX4_lists_4 16 rfl rfl)
theorem dX4_lists_111 : decode cX4_lists 111 = .ok (.iinc 3 (-1), 3) := dk_132 3 255 (dk_at dksX4_lists_4 17 rfl rfl)
theorem dX4_lists_114 : decode cX4_lists 114 = .ok (.goto (-57), 3) := dk_167 255 199 (dk_at dksX4_lists_4 20 rfl rfl)
theorem dX4_lists_117 : decode cX4_lists 117 = .ok (.aload_n 0, 1) := dk_42 (dk_at dksX4_lists_4 23 rfl rfl)
theorem dX4_lists_118 : decode cX4_lists 118 = .ok (.getfield 22, 3) := dk_180 0 22 (dk_at dksX4_lists_5 0 rfl rfl)
theorem dX4_lists_121 : decode cX4_lists 121 = .ok (.iload_n 3, 1) := dk_29 (dk_at dksX4_lists_5 3 rfl rfl)
theorem dX4_lists_122 : decode cX4_lists 122 = .ok (.iload_n 1, 1) := dk_27 (dk_at dksX4_lists_5 4 rfl rfl)
theorem dX4_lists_123 : decode cX4_lists 123 = .ok (.iastore, 1) := dk_79 (dk_at dksX4_lists_5 5 rfl rfl)
theorem dX4_lists_124 : decode cX4_lists 124 = .ok (.aload_n 0, 1) := dk_42 (dk_at dksX4_lists_5 6 rfl rfl)
theorem dX4_lists_125 : decode cX4_lists 125 = .ok (.getfield 25, 3) := dk_180 0 25 (dk_at dksX4_lists_5 7 rfl rfl)
theorem dX4_lists_128 : decode cX4_lists 128 = .ok (.iload_n 3, 1) := dk_29 (dk_at dksX4_lists_5 10 rfl rfl)
theorem dX4_lists_129 : decode cX4_lists 129 = .ok (.iload_n 2, 1) := dk_28 (dk_at dksX4_lists_5 11 rfl rfl)
theorem dX4_lists_130 : decode cX4_lists 130 = .ok (.iastore, 1) := dk_79 (dk_at dksX4_lists_5 12 rfl rfl)
theorem dX4_lists_131 : decode cX4_lists 131 = .ok (.aload_n 0, 1) := dk_42 (dk_at dksX4_lists_5 13 rfl rfl)
theorem dX4_lists_132 : decode cX4_lists 132 = .ok (.dup, 1) := dk_89 (dk_at dksX4_lists_5 14 rfl rfl)
theorem dX4_lists_133 : decode cX4_lists 133 = .ok (.getfield 102, 3) := dk_180 0 102 (dk_at dksX4_lists_5 15 rfl rfl)
theorem dX4_lists_136 : decode cX4_lists 136 = .ok (.iconst 1, 1) := dk_4 (dk_at dksX4_lists_5 18 rfl rfl)
theorem dX4_lists_137 : decode cX4_lists 137 = .ok (.iadd, 1) := dk_96 (dk_at dksX4_lists_5 19 rfl rfl)
theorem dX4_lists_138 : decode cX4_lists 138 = .ok (.putfield 102, 3) := dk_181 0 102 (dk_at dksX4_lists_5 20 rfl rfl)
theorem dX4_lists_141 : decode cX4_lists 141 = .ok (.iinc 2 1, 3) := dk_132 2 1 (dk_at dksX4_lists_6 0 rfl rfl)
theorem dX4_lists_144 : decode cX4_lists 144 = .ok (.goto (-124), 3) := dk_167 255 132 (dk_at dksX4_lists_6 3 rfl rfl)
theorem dX4_lists_147 : decode cX4_lists 147 = .ok (.iinc 1 1, 3) := dk_132 1 1 (dk_at dksX4_lists_6 6 rfl rfl)
theorem dX4_lists_150 : decode cX4_lists 150 = .ok (.goto (-143), 3) := dk_167 255 113 (dk_at dksX4_lists_6 9 rfl rfl)
theorem dX4_lists_153 : decode cX4_lists 153 = .ok (.return_, 1) := dk_177 (dk_at dksX4_lists_6 12 rfl rfl)
abbrev cX4_at : ByteArray := prog_20_method_7_code
def yX4_at : MethodName := ⟨RX4, "at", "(II)I"⟩
def dkwX4_at_0 : List UInt8 := [17, 0, 204, 16, 15, 26, 104, 96, 27, 96, 172]
abbrev dktX4_at_0 : List UInt8 := dkwX4_at_0 ++ []
theorem dksX4_at_0 : cX4_at.data.toList.drop 0 = dktX4_at_0 := by decide +kernel
theorem dX4_at_0 : decode cX4_at 0 = .ok (.sipush 204, 3) := dk_17 0 204 (dk_at dksX4_at_0 0 rfl rfl)
theorem dX4_at_3 : decode cX4_at 3 = .ok (.bipush 15, 2) := dk_16 15 (dk_at dksX4_at_0 3 rfl rfl)
theorem dX4_at_5 : decode cX4_at 5 = .ok (.iload_n 0, 1) := dk_26 (dk_at dksX4_at_0 5 rfl rfl)
theorem dX4_at_6 : decode cX4_at 6 = .ok (.imul, 1) := dk_104 (dk_at dksX4_at_0 6 rfl rfl)
theorem dX4_at_7 : decode cX4_at 7 = .ok (.iadd, 1) := dk_96 (dk_at dksX4_at_0 7 rfl rfl)
theorem dX4_at_8 : decode cX4_at 8 = .ok (.iload_n 1, 1) := dk_27 (dk_at dksX4_at_0 8 rfl rfl)
theorem dX4_at_9 : decode cX4_at 9 = .ok (.iadd, 1) := dk_96 (dk_at dksX4_at_0 9 rfl rfl)
theorem dX4_at_10 : decode cX4_at 10 = .ok (.ireturn, 1) := dk_172 (dk_at dksX4_at_0 10 rfl rfl)
abbrev cX4_of : ByteArray := prog_20_method_8_code
def yX4_of : MethodName := ⟨RX4, "of", "(III)I"⟩
def dkwX4_of_0 : List UInt8 := [17, 0, 204, 16, 15, 26, 104, 96, 6, 96, 7, 27, 104, 96, 28, 96, 172]
abbrev dktX4_of_0 : List UInt8 := dkwX4_of_0 ++ []
theorem dksX4_of_0 : cX4_of.data.toList.drop 0 = dktX4_of_0 := by decide +kernel
theorem dX4_of_0 : decode cX4_of 0 = .ok (.sipush 204, 3) := dk_17 0 204 (dk_at dksX4_of_0 0 rfl rfl)
theorem dX4_of_3 : decode cX4_of 3 = .ok (.bipush 15, 2) := dk_16 15 (dk_at dksX4_of_0 3 rfl rfl)
theorem dX4_of_5 : decode cX4_of 5 = .ok (.iload_n 0, 1) := dk_26 (dk_at dksX4_of_0 5 rfl rfl)
theorem dX4_of_6 : decode cX4_of 6 = .ok (.imul, 1) := dk_104 (dk_at dksX4_of_0 6 rfl rfl)
theorem dX4_of_7 : decode cX4_of 7 = .ok (.iadd, 1) := dk_96 (dk_at dksX4_of_0 7 rfl rfl)
theorem dX4_of_8 : decode cX4_of 8 = .ok (.iconst 3, 1) := dk_6 (dk_at dksX4_of_0 8 rfl rfl)
theorem dX4_of_9 : decode cX4_of 9 = .ok (.iadd, 1) := dk_96 (dk_at dksX4_of_0 9 rfl rfl)
theorem dX4_of_10 : decode cX4_of 10 = .ok (.iconst 4, 1) := dk_7 (dk_at dksX4_of_0 10 rfl rfl)
theorem dX4_of_11 : decode cX4_of 11 = .ok (.iload_n 1, 1) := dk_27 (dk_at dksX4_of_0 11 rfl rfl)
theorem dX4_of_12 : decode cX4_of 12 = .ok (.imul, 1) := dk_104 (dk_at dksX4_of_0 12 rfl rfl)
theorem dX4_of_13 : decode cX4_of 13 = .ok (.iadd, 1) := dk_96 (dk_at dksX4_of_0 13 rfl rfl)
theorem dX4_of_14 : decode cX4_of 14 = .ok (.iload_n 2, 1) := dk_28 (dk_at dksX4_of_0 14 rfl rfl)
theorem dX4_of_15 : decode cX4_of 15 = .ok (.iadd, 1) := dk_96 (dk_at dksX4_of_0 15 rfl rfl)
theorem dX4_of_16 : decode cX4_of 16 = .ok (.ireturn, 1) := dk_172 (dk_at dksX4_of_0 16 rfl rfl)
abbrev cX4_told : ByteArray := prog_20_method_40_code
def yX4_told : MethodName := ⟨RX4, "told", "(II)I"⟩
def dkwX4_told_0 : List UInt8 := [42, 180, 0, 7, 42, 180, 0, 22, 27, 46, 42, 180, 0, 25, 27, 46, 28, 184, 0, 136, 46, 172]
abbrev dktX4_told_0 : List UInt8 := dkwX4_told_0 ++ []
theorem dksX4_told_0 : cX4_told.data.toList.drop 0 = dktX4_told_0 := by decide +kernel
theorem dX4_told_0 : decode cX4_told 0 = .ok (.aload_n 0, 1) := dk_42 (dk_at dksX4_told_0 0 rfl rfl)
theorem dX4_told_1 : decode cX4_told 1 = .ok (.getfield 7, 3) := dk_180 0 7 (dk_at dksX4_told_0 1 rfl rfl)
theorem dX4_told_4 : decode cX4_told 4 = .ok (.aload_n 0, 1) := dk_42 (dk_at dksX4_told_0 4 rfl rfl)
theorem dX4_told_5 : decode cX4_told 5 = .ok (.getfield 22, 3) := dk_180 0 22 (dk_at dksX4_told_0 5 rfl rfl)
theorem dX4_told_8 : decode cX4_told 8 = .ok (.iload_n 1, 1) := dk_27 (dk_at dksX4_told_0 8 rfl rfl)
theorem dX4_told_9 : decode cX4_told 9 = .ok (.iaload, 1) := dk_46 (dk_at dksX4_told_0 9 rfl rfl)
theorem dX4_told_10 : decode cX4_told 10 = .ok (.aload_n 0, 1) := dk_42 (dk_at dksX4_told_0 10 rfl rfl)
theorem dX4_told_11 : decode cX4_told 11 = .ok (.getfield 25, 3) := dk_180 0 25 (dk_at dksX4_told_0 11 rfl rfl)
theorem dX4_told_14 : decode cX4_told 14 = .ok (.iload_n 1, 1) := dk_27 (dk_at dksX4_told_0 14 rfl rfl)
theorem dX4_told_15 : decode cX4_told 15 = .ok (.iaload, 1) := dk_46 (dk_at dksX4_told_0 15 rfl rfl)
theorem dX4_told_16 : decode cX4_told 16 = .ok (.iload_n 2, 1) := dk_28 (dk_at dksX4_told_0 16 rfl rfl)
theorem dX4_told_17 : decode cX4_told 17 = .ok (.invokestatic 136, 3) := dk_184 0 136 (dk_at dksX4_told_0 17 rfl rfl)
theorem dX4_told_20 : decode cX4_told 20 = .ok (.iaload, 1) := dk_46 (dk_at dksX4_told_0 20 rfl rfl)
theorem dX4_told_21 : decode cX4_told 21 = .ok (.ireturn, 1) := dk_172 (dk_at dksX4_told_0 21 rfl rfl)
abbrev cX4_refuses : ByteArray := prog_20_method_3_code
def yX4_refuses : MethodName := ⟨RX4, "refuses", "(II)I"⟩
def dkwX4_refuses_0 : List UInt8 := [42, 27, 181, 0, 73, 42, 28, 181, 0, 77, 16, 252, 172]
abbrev dktX4_refuses_0 : List UInt8 := dkwX4_refuses_0 ++ []
theorem dksX4_refuses_0 : cX4_refuses.data.toList.drop 0 = dktX4_refuses_0 := by decide +kernel
theorem dX4_refuses_0 : decode cX4_refuses 0 = .ok (.aload_n 0, 1) := dk_42 (dk_at dksX4_refuses_0 0 rfl rfl)
theorem dX4_refuses_1 : decode cX4_refuses 1 = .ok (.iload_n 1, 1) := dk_27 (dk_at dksX4_refuses_0 1 rfl rfl)
theorem dX4_refuses_2 : decode cX4_refuses 2 = .ok (.putfield 73, 3) := dk_181 0 73 (dk_at dksX4_refuses_0 2 rfl rfl)
theorem dX4_refuses_5 : decode cX4_refuses 5 = .ok (.aload_n 0, 1) := dk_42 (dk_at dksX4_refuses_0 5 rfl rfl)
theorem dX4_refuses_6 : decode cX4_refuses 6 = .ok (.iload_n 2, 1) := dk_28 (dk_at dksX4_refuses_0 6 rfl rfl)
theorem dX4_refuses_7 : decode cX4_refuses 7 = .ok (.putfield 77, 3) := dk_181 0 77 (dk_at dksX4_refuses_0 7 rfl rfl)
theorem dX4_refuses_10 : decode cX4_refuses 10 = .ok (.bipush (-4), 2) := dk_16 252 (dk_at dksX4_refuses_0 10 rfl rfl)
theorem dX4_refuses_12 : decode cX4_refuses 12 = .ok (.ireturn, 1) := dk_172 (dk_at dksX4_refuses_0 12 rfl rfl)
abbrev cX4_landN : ByteArray := prog_20_method_13_code
def yX4_landN : MethodName := ⟨RX4, "landN", "()I"⟩
def dkwX4_landN_1 : List UInt8 := [132, 2, 1, 167, 255, 234, 27, 172]
abbrev dktX4_landN_1 : List UInt8 := dkwX4_landN_1 ++ []
def dkwX4_landN_0 : List UInt8 := [3, 60, 3, 61, 28, 17, 0, 192, 162, 0, 21, 27, 42, 180, 0, 7, 16, 12, 28, 96, 46, 96, 60]
abbrev dktX4_landN_0 : List UInt8 := dkwX4_landN_0 ++ dktX4_landN_1
theorem dksX4_landN_0 : cX4_landN.data.toList.drop 0 = dktX4_landN_0 := by decide +kernel
theorem dksX4_landN_1 : cX4_landN.data.toList.drop 23 = dktX4_landN_1 := dk_seg dksX4_landN_0 23 rfl rfl
theorem dX4_landN_0 : decode cX4_landN 0 = .ok (.iconst 0, 1) := dk_3 (dk_at dksX4_landN_0 0 rfl rfl)
theorem dX4_landN_1 : decode cX4_landN 1 = .ok (.istore_n 1, 1) := dk_60 (dk_at dksX4_landN_0 1 rfl rfl)
theorem dX4_landN_2 : decode cX4_landN 2 = .ok (.iconst 0, 1) := dk_3 (dk_at dksX4_landN_0 2 rfl rfl)
theorem dX4_landN_3 : decode cX4_landN 3 = .ok (.istore_n 2, 1) := dk_61 (dk_at dksX4_landN_0 3 rfl rfl)
theorem dX4_landN_4 : decode cX4_landN 4 = .ok (.iload_n 2, 1) := dk_28 (dk_at dksX4_landN_0 4 rfl rfl)
theorem dX4_landN_5 : decode cX4_landN 5 = .ok (.sipush 192, 3) := dk_17 0 192 (dk_at dksX4_landN_0 5 rfl rfl)
theorem dX4_landN_8 : decode cX4_landN 8 = .ok (.if_icmp .ge 21, 3) := dk_162 0 21 (dk_at dksX4_landN_0 8 rfl rfl)
theorem dX4_landN_11 : decode cX4_landN 11 = .ok (.iload_n 1, 1) := dk_27 (dk_at dksX4_landN_0 11 rfl rfl)
theorem dX4_landN_12 : decode cX4_landN 12 = .ok (.aload_n 0, 1) := dk_42 (dk_at dksX4_landN_0 12 rfl rfl)
theorem dX4_landN_13 : decode cX4_landN 13 = .ok (.getfield 7, 3) := dk_180 0 7 (dk_at dksX4_landN_0 13 rfl rfl)
theorem dX4_landN_16 : decode cX4_landN 16 = .ok (.bipush 12, 2) := dk_16 12 (dk_at dksX4_landN_0 16 rfl rfl)
theorem dX4_landN_18 : decode cX4_landN 18 = .ok (.iload_n 2, 1) := dk_28 (dk_at dksX4_landN_0 18 rfl rfl)
theorem dX4_landN_19 : decode cX4_landN 19 = .ok (.iadd, 1) := dk_96 (dk_at dksX4_landN_0 19 rfl rfl)
theorem dX4_landN_20 : decode cX4_landN 20 = .ok (.iaload, 1) := dk_46 (dk_at dksX4_landN_0 20 rfl rfl)
theorem dX4_landN_21 : decode cX4_landN 21 = .ok (.iadd, 1) := dk_96 (dk_at dksX4_landN_0 21 rfl rfl)
theorem dX4_landN_22 : decode cX4_landN 22 = .ok (.istore_n 1, 1) := dk_60 (dk_at dksX4_landN_0 22 rfl rfl)
theorem dX4_landN_23 : decode cX4_landN 23 = .ok (.iinc 2 1, 3) := dk_132 2 1 (dk_at dksX4_landN_1 0 rfl rfl)
theorem dX4_landN_26 : decode cX4_landN 26 = .ok (.goto (-22), 3) := dk_167 255 234 (dk_at dksX4_landN_1 3 rfl rfl)
theorem dX4_landN_29 : decode cX4_landN 29 = .ok (.iload_n 1, 1) := dk_27 (dk_at dksX4_landN_1 6 rfl rfl)
theorem dX4_landN_30 : decode cX4_landN 30 = .ok (.ireturn, 1) := dk_172 (dk_at dksX4_landN_1 7 rfl rfl)
abbrev cX4_ends : ByteArray := prog_20_method_6_code
def yX4_ends : MethodName := ⟨RX4, "ends", "(I)I"⟩
def dkwX4_ends_4 : List UInt8 := [180, 0, 13, 28, 46, 79, 132, 2, 1, 167, 255, 225, 42, 89, 180, 0, 84, 4, 96, 181, 0, 84, 27, 172]
abbrev dktX4_ends_4 : List UInt8 := dkwX4_ends_4 ++ []
def dkwX4_ends_3 : List UInt8 := [28, 17, 1, 98, 162, 0, 30, 42, 180, 0, 19, 42, 180, 0, 84, 17, 1, 98, 104, 28, 96, 42]
abbrev dktX4_ends_3 : List UInt8 := dkwX4_ends_3 ++ dktX4_ends_4
def dkwX4_ends_2 : List UInt8 := [17, 1, 98, 96, 46, 79, 132, 2, 1, 167, 255, 230, 42, 89, 180, 0, 84, 4, 100, 181, 0, 84, 3, 61]
abbrev dktX4_ends_2 : List UInt8 := dkwX4_ends_2 ++ dktX4_ends_3
def dkwX4_ends_1 : List UInt8 := [160, 0, 44, 3, 61, 28, 17, 9, 174, 162, 0, 25, 42, 180, 0, 19, 28, 42, 180, 0, 19, 28]
abbrev dktX4_ends_1 : List UInt8 := dkwX4_ends_1 ++ dktX4_ends_2
def dkwX4_ends_0 : List UInt8 := [27, 156, 0, 16, 42, 180, 0, 7, 42, 180, 0, 13, 184, 0, 80, 27, 172, 42, 180, 0, 84, 16, 8]
abbrev dktX4_ends_0 : List UInt8 := dkwX4_ends_0 ++ dktX4_ends_1
theorem dksX4_ends_0 : cX4_ends.data.toList.drop 0 = dktX4_ends_0 := by decide +kernel
theorem dksX4_ends_1 : cX4_ends.data.toList.drop 23 = dktX4_ends_1 := dk_seg dksX4_ends_0 23 rfl rfl
theorem dksX4_ends_2 : cX4_ends.data.toList.drop 45 = dktX4_ends_2 := dk_seg dksX4_ends_1 22 rfl rfl
theorem dksX4_ends_3 : cX4_ends.data.toList.drop 69 = dktX4_ends_3 := dk_seg dksX4_ends_2 24 rfl rfl
theorem dksX4_ends_4 : cX4_ends.data.toList.drop 91 = dktX4_ends_4 := dk_seg dksX4_ends_3 22 rfl rfl
theorem dX4_ends_0 : decode cX4_ends 0 = .ok (.iload_n 1, 1) := dk_27 (dk_at dksX4_ends_0 0 rfl rfl)
theorem dX4_ends_1 : decode cX4_ends 1 = .ok (.ifCond .ge 16, 3) := dk_156 0 16 (dk_at dksX4_ends_0 1 rfl rfl)
theorem dX4_ends_4 : decode cX4_ends 4 = .ok (.aload_n 0, 1) := dk_42 (dk_at dksX4_ends_0 4 rfl rfl)
theorem dX4_ends_5 : decode cX4_ends 5 = .ok (.getfield 7, 3) := dk_180 0 7 (dk_at dksX4_ends_0 5 rfl rfl)
theorem dX4_ends_8 : decode cX4_ends 8 = .ok (.aload_n 0, 1) := dk_42 (dk_at dksX4_ends_0 8 rfl rfl)
theorem dX4_ends_9 : decode cX4_ends 9 = .ok (.getfield 13, 3) := dk_180 0 13 (dk_at dksX4_ends_0 9 rfl rfl)
theorem dX4_ends_12 : decode cX4_ends 12 = .ok (.invokestatic 80, 3) := dk_184 0 80 (dk_at dksX4_ends_0 12 rfl rfl)
theorem dX4_ends_15 : decode cX4_ends 15 = .ok (.iload_n 1, 1) := dk_27 (dk_at dksX4_ends_0 15 rfl rfl)
theorem dX4_ends_16 : decode cX4_ends 16 = .ok (.ireturn, 1) := dk_172 (dk_at dksX4_ends_0 16 rfl rfl)
theorem dX4_ends_17 : decode cX4_ends 17 = .ok (.aload_n 0, 1) := dk_42 (dk_at dksX4_ends_0 17 rfl rfl)
theorem dX4_ends_18 : decode cX4_ends 18 = .ok (.getfield 84, 3) := dk_180 0 84 (dk_at dksX4_ends_0 18 rfl rfl)
theorem dX4_ends_21 : decode cX4_ends 21 = .ok (.bipush 8, 2) := dk_16 8 (dk_at dksX4_ends_0 21 rfl rfl)
theorem dX4_ends_23 : decode cX4_ends 23 = .ok (.if_icmp .ne 44, 3) := dk_160 0 44 (dk_at dksX4_ends_1 0 rfl rfl)
theorem dX4_ends_26 : decode cX4_ends 26 = .ok (.iconst 0, 1) := dk_3 (dk_at dksX4_ends_1 3 rfl rfl)
theorem dX4_ends_27 : decode cX4_ends 27 = .ok (.istore_n 2, 1) := dk_61 (dk_at dksX4_ends_1 4 rfl rfl)
theorem dX4_ends_28 : decode cX4_ends 28 = .ok (.iload_n 2, 1) := dk_28 (dk_at dksX4_ends_1 5 rfl rfl)
theorem dX4_ends_29 : decode cX4_ends 29 = .ok (.sipush 2478, 3) := dk_17 9 174 (dk_at dksX4_ends_1 6 rfl rfl)
theorem dX4_ends_32 : decode cX4_ends 32 = .ok (.if_icmp .ge 25, 3) := dk_162 0 25 (dk_at dksX4_ends_1 9 rfl rfl)
theorem dX4_ends_35 : decode cX4_ends 35 = .ok (.aload_n 0, 1) := dk_42 (dk_at dksX4_ends_1 12 rfl rfl)
theorem dX4_ends_36 : decode cX4_ends 36 = .ok (.getfield 19, 3) := dk_180 0 19 (dk_at dksX4_ends_1 13 rfl rfl)
theorem dX4_ends_39 : decode cX4_ends 39 = .ok (.iload_n 2, 1) := dk_28 (dk_at dksX4_ends_1 16 rfl rfl)
theorem dX4_ends_40 : decode cX4_ends 40 = .ok (.aload_n 0, 1) := dk_42 (dk_at dksX4_ends_1 17 rfl rfl)
theorem dX4_ends_41 : decode cX4_ends 41 = .ok (.getfield 19, 3) := dk_180 0 19 (dk_at dksX4_ends_1 18 rfl rfl)
theorem dX4_ends_44 : decode cX4_ends 44 = .ok (.iload_n 2, 1) := dk_28 (dk_at dksX4_ends_1 21 rfl rfl)
theorem dX4_ends_45 : decode cX4_ends 45 = .ok (.sipush 354, 3) := dk_17 1 98 (dk_at dksX4_ends_2 0 rfl rfl)
theorem dX4_ends_48 : decode cX4_ends 48 = .ok (.iadd, 1) := dk_96 (dk_at dksX4_ends_2 3 rfl rfl)
theorem dX4_ends_49 : decode cX4_ends 49 = .ok (.iaload, 1) := dk_46 (dk_at dksX4_ends_2 4 rfl rfl)
theorem dX4_ends_50 : decode cX4_ends 50 = .ok (.iastore, 1) := dk_79 (dk_at dksX4_ends_2 5 rfl rfl)
theorem dX4_ends_51 : decode cX4_ends 51 = .ok (.iinc 2 1, 3) := dk_132 2 1 (dk_at dksX4_ends_2 6 rfl rfl)
theorem dX4_ends_54 : decode cX4_ends 54 = .ok (.goto (-26), 3) := dk_167 255 230 (dk_at dksX4_ends_2 9 rfl rfl)
theorem dX4_ends_57 : decode cX4_ends 57 = .ok (.aload_n 0, 1) := dk_42 (dk_at dksX4_ends_2 12 rfl rfl)
theorem dX4_ends_58 : decode cX4_ends 58 = .ok (.dup, 1) := dk_89 (dk_at dksX4_ends_2 13 rfl rfl)
theorem dX4_ends_59 : decode cX4_ends 59 = .ok (.getfield 84, 3) := dk_180 0 84 (dk_at dksX4_ends_2 14 rfl rfl)
theorem dX4_ends_62 : decode cX4_ends 62 = .ok (.iconst 1, 1) := dk_4 (dk_at dksX4_ends_2 17 rfl rfl)
theorem dX4_ends_63 : decode cX4_ends 63 = .ok (.isub, 1) := dk_100 (dk_at dksX4_ends_2 18 rfl rfl)
theorem dX4_ends_64 : decode cX4_ends 64 = .ok (.putfield 84, 3) := dk_181 0 84 (dk_at dksX4_ends_2 19 rfl rfl)
theorem dX4_ends_67 : decode cX4_ends 67 = .ok (.iconst 0, 1) := dk_3 (dk_at dksX4_ends_2 22 rfl rfl)
theorem dX4_ends_68 : decode cX4_ends 68 = .ok (.istore_n 2, 1) := dk_61 (dk_at dksX4_ends_2 23 rfl rfl)
theorem dX4_ends_69 : decode cX4_ends 69 = .ok (.iload_n 2, 1) := dk_28 (dk_at dksX4_ends_3 0 rfl rfl)
theorem dX4_ends_70 : decode cX4_ends 70 = .ok (.sipush 354, 3) := dk_17 1 98 (dk_at dksX4_ends_3 1 rfl rfl)
theorem dX4_ends_73 : decode cX4_ends 73 = .ok (.if_icmp .ge 30, 3) := dk_162 0 30 (dk_at dksX4_ends_3 4 rfl rfl)
theorem dX4_ends_76 : decode cX4_ends 76 = .ok (.aload_n 0, 1) := dk_42 (dk_at dksX4_ends_3 7 rfl rfl)
theorem dX4_ends_77 : decode cX4_ends 77 = .ok (.getfield 19, 3) := dk_180 0 19 (dk_at dksX4_ends_3 8 rfl rfl)
theorem dX4_ends_80 : decode cX4_ends 80 = .ok (.aload_n 0, 1) := dk_42 (dk_at dksX4_ends_3 11 rfl rfl)
theorem dX4_ends_81 : decode cX4_ends 81 = .ok (.getfield 84, 3) := dk_180 0 84 (dk_at dksX4_ends_3 12 rfl rfl)
theorem dX4_ends_84 : decode cX4_ends 84 = .ok (.sipush 354, 3) := dk_17 1 98 (dk_at dksX4_ends_3 15 rfl rfl)
theorem dX4_ends_87 : decode cX4_ends 87 = .ok (.imul, 1) := dk_104 (dk_at dksX4_ends_3 18 rfl rfl)
theorem dX4_ends_88 : decode cX4_ends 88 = .ok (.iload_n 2, 1) := dk_28 (dk_at dksX4_ends_3 19 rfl rfl)
theorem dX4_ends_89 : decode cX4_ends 89 = .ok (.iadd, 1) := dk_96 (dk_at dksX4_ends_3 20 rfl rfl)
theorem dX4_ends_90 : decode cX4_ends 90 = .ok (.aload_n 0, 1) := dk_42 (dk_at dksX4_ends_3 21 rfl rfl)
theorem dX4_ends_91 : decode cX4_ends 91 = .ok (.getfield 13, 3) := dk_180 0 13 (dk_at dksX4_ends_4 0 rfl rfl)
theorem dX4_ends_94 : decode cX4_ends 94 = .ok (.iload_n 2, 1) := dk_28 (dk_at dksX4_ends_4 3 rfl rfl)
theorem dX4_ends_95 : decode cX4_ends 95 = .ok (.iaload, 1) := dk_46 (dk_at dksX4_ends_4 4 rfl rfl)
theorem dX4_ends_96 : decode cX4_ends 96 = .ok (.iastore, 1) := dk_79 (dk_at dksX4_ends_4 5 rfl rfl)
theorem dX4_ends_97 : decode cX4_ends 97 = .ok (.iinc 2 1, 3) := dk_132 2 1 (dk_at dksX4_ends_4 6 rfl rfl)
theorem dX4_ends_100 : decode cX4_ends 100 = .ok (.goto (-31), 3) := dk_167 255 225 (dk_at dksX4_ends_4 9 rfl rfl)
theorem dX4_ends_103 : decode cX4_ends 103 = .ok (.aload_n 0, 1) := dk_42 (dk_at dksX4_ends_4 12 rfl rfl)
theorem dX4_ends_104 : decode cX4_ends 104 = .ok (.dup, 1) := dk_89 (dk_at dksX4_ends_4 13 rfl rfl)
theorem dX4_ends_105 : decode cX4_ends 105 = .ok (.getfield 84, 3) := dk_180 0 84 (dk_at dksX4_ends_4 14 rfl rfl)
theorem dX4_ends_108 : decode cX4_ends 108 = .ok (.iconst 1, 1) := dk_4 (dk_at dksX4_ends_4 17 rfl rfl)
theorem dX4_ends_109 : decode cX4_ends 109 = .ok (.iadd, 1) := dk_96 (dk_at dksX4_ends_4 18 rfl rfl)
theorem dX4_ends_110 : decode cX4_ends 110 = .ok (.putfield 84, 3) := dk_181 0 84 (dk_at dksX4_ends_4 19 rfl rfl)
theorem dX4_ends_113 : decode cX4_ends 113 = .ok (.iload_n 1, 1) := dk_27 (dk_at dksX4_ends_4 22 rfl rfl)
theorem dX4_ends_114 : decode cX4_ends 114 = .ok (.ireturn, 1) := dk_172 (dk_at dksX4_ends_4 23 rfl rfl)
abbrev cX4_set : ByteArray := prog_20_method_16_code
def yX4_set : MethodName := ⟨RX4, "set", "(II)I"⟩
def dkwX4_set_2 : List UInt8 := [27, 96, 46, 62, 42, 180, 0, 7, 3, 27, 96, 28, 79, 42, 29, 182, 0, 122, 172]
abbrev dktX4_set_2 : List UInt8 := dkwX4_set_2 ++ []
def dkwX4_set_1 : List UInt8 := [154, 0, 8, 16, 9, 167, 0, 5, 16, 99, 184, 0, 87, 154, 0, 6, 16, 254, 172, 42, 180, 0, 7, 3]
abbrev dktX4_set_1 : List UInt8 := dkwX4_set_1 ++ dktX4_set_2
def dkwX4_set_0 : List UInt8 := [42, 182, 0, 115, 27, 3, 6, 184, 0, 87, 153, 0, 30, 28, 27, 154, 0, 7, 4, 167, 0, 4, 3, 27]
abbrev dktX4_set_0 : List UInt8 := dkwX4_set_0 ++ dktX4_set_1
theorem dksX4_set_0 : cX4_set.data.toList.drop 0 = dktX4_set_0 := by decide +kernel
theorem dksX4_set_1 : cX4_set.data.toList.drop 24 = dktX4_set_1 := dk_seg dksX4_set_0 24 rfl rfl
theorem dksX4_set_2 : cX4_set.data.toList.drop 48 = dktX4_set_2 := dk_seg dksX4_set_1 24 rfl rfl
theorem dX4_set_0 : decode cX4_set 0 = .ok (.aload_n 0, 1) := dk_42 (dk_at dksX4_set_0 0 rfl rfl)
theorem dX4_set_1 : decode cX4_set 1 = .ok (.invokevirtual 115, 3) := dk_182 0 115 (dk_at dksX4_set_0 1 rfl rfl)
theorem dX4_set_4 : decode cX4_set 4 = .ok (.iload_n 1, 1) := dk_27 (dk_at dksX4_set_0 4 rfl rfl)
theorem dX4_set_5 : decode cX4_set 5 = .ok (.iconst 0, 1) := dk_3 (dk_at dksX4_set_0 5 rfl rfl)
theorem dX4_set_6 : decode cX4_set 6 = .ok (.iconst 3, 1) := dk_6 (dk_at dksX4_set_0 6 rfl rfl)
theorem dX4_set_7 : decode cX4_set 7 = .ok (.invokestatic 87, 3) := dk_184 0 87 (dk_at dksX4_set_0 7 rfl rfl)
theorem dX4_set_10 : decode cX4_set 10 = .ok (.ifCond .eq 30, 3) := dk_153 0 30 (dk_at dksX4_set_0 10 rfl rfl)
theorem dX4_set_13 : decode cX4_set 13 = .ok (.iload_n 2, 1) := dk_28 (dk_at dksX4_set_0 13 rfl rfl)
theorem dX4_set_14 : decode cX4_set 14 = .ok (.iload_n 1, 1) := dk_27 (dk_at dksX4_set_0 14 rfl rfl)
theorem dX4_set_15 : decode cX4_set 15 = .ok (.ifCond .ne 7, 3) := dk_154 0 7 (dk_at dksX4_set_0 15 rfl rfl)
theorem dX4_set_18 : decode cX4_set 18 = .ok (.iconst 1, 1) := dk_4 (dk_at dksX4_set_0 18 rfl rfl)
theorem dX4_set_19 : decode cX4_set 19 = .ok (.goto 4, 3) := dk_167 0 4 (dk_at dksX4_set_0 19 rfl rfl)
theorem dX4_set_22 : decode cX4_set 22 = .ok (.iconst 0, 1) := dk_3 (dk_at dksX4_set_0 22 rfl rfl)
theorem dX4_set_23 : decode cX4_set 23 = .ok (.iload_n 1, 1) := dk_27 (dk_at dksX4_set_0 23 rfl rfl)
theorem dX4_set_24 : decode cX4_set 24 = .ok (.ifCond .ne 8, 3) := dk_154 0 8 (dk_at dksX4_set_1 0 rfl rfl)
theorem dX4_set_27 : decode cX4_set 27 = .ok (.bipush 9, 2) := dk_16 9 (dk_at dksX4_set_1 3 rfl rfl)
theorem dX4_set_29 : decode cX4_set 29 = .ok (.goto 5, 3) := dk_167 0 5 (dk_at dksX4_set_1 5 rfl rfl)
theorem dX4_set_32 : decode cX4_set 32 = .ok (.bipush 99, 2) := dk_16 99 (dk_at dksX4_set_1 8 rfl rfl)
theorem dX4_set_34 : decode cX4_set 34 = .ok (.invokestatic 87, 3) := dk_184 0 87 (dk_at dksX4_set_1 10 rfl rfl)
theorem dX4_set_37 : decode cX4_set 37 = .ok (.ifCond .ne 6, 3) := dk_154 0 6 (dk_at dksX4_set_1 13 rfl rfl)
theorem dX4_set_40 : decode cX4_set 40 = .ok (.bipush (-2), 2) := dk_16 254 (dk_at dksX4_set_1 16 rfl rfl)
theorem dX4_set_42 : decode cX4_set 42 = .ok (.ireturn, 1) := dk_172 (dk_at dksX4_set_1 18 rfl rfl)
theorem dX4_set_43 : decode cX4_set 43 = .ok (.aload_n 0, 1) := dk_42 (dk_at dksX4_set_1 19 rfl rfl)
theorem dX4_set_44 : decode cX4_set 44 = .ok (.getfield 7, 3) := dk_180 0 7 (dk_at dksX4_set_1 20 rfl rfl)
theorem dX4_set_47 : decode cX4_set 47 = .ok (.iconst 0, 1) := dk_3 (dk_at dksX4_set_1 23 rfl rfl)
theorem dX4_set_48 : decode cX4_set 48 = .ok (.iload_n 1, 1) := dk_27 (dk_at dksX4_set_2 0 rfl rfl)
theorem dX4_set_49 : decode cX4_set 49 = .ok (.iadd, 1) := dk_96 (dk_at dksX4_set_2 1 rfl rfl)
theorem dX4_set_50 : decode cX4_set 50 = .ok (.iaload, 1) := dk_46 (dk_at dksX4_set_2 2 rfl rfl)
theorem dX4_set_51 : decode cX4_set 51 = .ok (.istore_n 3, 1) := dk_62 (dk_at dksX4_set_2 3 rfl rfl)
theorem dX4_set_52 : decode cX4_set 52 = .ok (.aload_n 0, 1) := dk_42 (dk_at dksX4_set_2 4 rfl rfl)
theorem dX4_set_53 : decode cX4_set 53 = .ok (.getfield 7, 3) := dk_180 0 7 (dk_at dksX4_set_2 5 rfl rfl)
theorem dX4_set_56 : decode cX4_set 56 = .ok (.iconst 0, 1) := dk_3 (dk_at dksX4_set_2 8 rfl rfl)
theorem dX4_set_57 : decode cX4_set 57 = .ok (.iload_n 1, 1) := dk_27 (dk_at dksX4_set_2 9 rfl rfl)
theorem dX4_set_58 : decode cX4_set 58 = .ok (.iadd, 1) := dk_96 (dk_at dksX4_set_2 10 rfl rfl)
theorem dX4_set_59 : decode cX4_set 59 = .ok (.iload_n 2, 1) := dk_28 (dk_at dksX4_set_2 11 rfl rfl)
theorem dX4_set_60 : decode cX4_set 60 = .ok (.iastore, 1) := dk_79 (dk_at dksX4_set_2 12 rfl rfl)
theorem dX4_set_61 : decode cX4_set 61 = .ok (.aload_n 0, 1) := dk_42 (dk_at dksX4_set_2 13 rfl rfl)
theorem dX4_set_62 : decode cX4_set 62 = .ok (.iload_n 3, 1) := dk_29 (dk_at dksX4_set_2 14 rfl rfl)
theorem dX4_set_63 : decode cX4_set 63 = .ok (.invokevirtual 122, 3) := dk_182 0 122 (dk_at dksX4_set_2 15 rfl rfl)
theorem dX4_set_66 : decode cX4_set 66 = .ok (.ireturn, 1) := dk_172 (dk_at dksX4_set_2 18 rfl rfl)
abbrev cX4_distance : ByteArray := prog_20_method_17_code
def yX4_distance : MethodName := ⟨RX4, "distance", "(II)I"⟩
def dkwX4_distance_1 : List UInt8 := [180, 0, 43, 28, 46, 17, 39, 15, 160, 0, 8, 16, 251, 167, 0, 9, 42, 180, 0, 43, 28, 46, 172]
abbrev dktX4_distance_1 : List UInt8 := dkwX4_distance_1 ++ []
def dkwX4_distance_0 : List UInt8 := [27, 184, 0, 95, 153, 0, 10, 28, 184, 0, 95, 154, 0, 5, 2, 172, 42, 27, 182, 0, 126, 42]
abbrev dktX4_distance_0 : List UInt8 := dkwX4_distance_0 ++ dktX4_distance_1
theorem dksX4_distance_0 : cX4_distance.data.toList.drop 0 = dktX4_distance_0 := by decide +kernel
theorem dksX4_distance_1 : cX4_distance.data.toList.drop 22 = dktX4_distance_1 := dk_seg dksX4_distance_0 22 rfl rfl
theorem dX4_distance_0 : decode cX4_distance 0 = .ok (.iload_n 1, 1) := dk_27 (dk_at dksX4_distance_0 0 rfl rfl)
theorem dX4_distance_1 : decode cX4_distance 1 = .ok (.invokestatic 95, 3) := dk_184 0 95 (dk_at dksX4_distance_0 1 rfl rfl)
theorem dX4_distance_4 : decode cX4_distance 4 = .ok (.ifCond .eq 10, 3) := dk_153 0 10 (dk_at dksX4_distance_0 4 rfl rfl)
theorem dX4_distance_7 : decode cX4_distance 7 = .ok (.iload_n 2, 1) := dk_28 (dk_at dksX4_distance_0 7 rfl rfl)
theorem dX4_distance_8 : decode cX4_distance 8 = .ok (.invokestatic 95, 3) := dk_184 0 95 (dk_at dksX4_distance_0 8 rfl rfl)
theorem dX4_distance_11 : decode cX4_distance 11 = .ok (.ifCond .ne 5, 3) := dk_154 0 5 (dk_at dksX4_distance_0 11 rfl rfl)
theorem dX4_distance_14 : decode cX4_distance 14 = .ok (.iconst (-1), 1) := dk_2 (dk_at dksX4_distance_0 14 rfl rfl)
theorem dX4_distance_15 : decode cX4_distance 15 = .ok (.ireturn, 1) := dk_172 (dk_at dksX4_distance_0 15 rfl rfl)
theorem dX4_distance_16 : decode cX4_distance 16 = .ok (.aload_n 0, 1) := dk_42 (dk_at dksX4_distance_0 16 rfl rfl)
theorem dX4_distance_17 : decode cX4_distance 17 = .ok (.iload_n 1, 1) := dk_27 (dk_at dksX4_distance_0 17 rfl rfl)
theorem dX4_distance_18 : decode cX4_distance 18 = .ok (.invokevirtual 126, 3) := dk_182 0 126 (dk_at dksX4_distance_0 18 rfl rfl)
theorem dX4_distance_21 : decode cX4_distance 21 = .ok (.aload_n 0, 1) := dk_42 (dk_at dksX4_distance_0 21 rfl rfl)
theorem dX4_distance_22 : decode cX4_distance 22 = .ok (.getfield 43, 3) := dk_180 0 43 (dk_at dksX4_distance_1 0 rfl rfl)
theorem dX4_distance_25 : decode cX4_distance 25 = .ok (.iload_n 2, 1) := dk_28 (dk_at dksX4_distance_1 3 rfl rfl)
theorem dX4_distance_26 : decode cX4_distance 26 = .ok (.iaload, 1) := dk_46 (dk_at dksX4_distance_1 4 rfl rfl)
theorem dX4_distance_27 : decode cX4_distance 27 = .ok (.sipush 9999, 3) := dk_17 39 15 (dk_at dksX4_distance_1 5 rfl rfl)
theorem dX4_distance_30 : decode cX4_distance 30 = .ok (.if_icmp .ne 8, 3) := dk_160 0 8 (dk_at dksX4_distance_1 8 rfl rfl)
theorem dX4_distance_33 : decode cX4_distance 33 = .ok (.bipush (-5), 2) := dk_16 251 (dk_at dksX4_distance_1 11 rfl rfl)
theorem dX4_distance_35 : decode cX4_distance 35 = .ok (.goto 9, 3) := dk_167 0 9 (dk_at dksX4_distance_1 13 rfl rfl)
theorem dX4_distance_38 : decode cX4_distance 38 = .ok (.aload_n 0, 1) := dk_42 (dk_at dksX4_distance_1 16 rfl rfl)
theorem dX4_distance_39 : decode cX4_distance 39 = .ok (.getfield 43, 3) := dk_180 0 43 (dk_at dksX4_distance_1 17 rfl rfl)
theorem dX4_distance_42 : decode cX4_distance 42 = .ok (.iload_n 2, 1) := dk_28 (dk_at dksX4_distance_1 20 rfl rfl)
theorem dX4_distance_43 : decode cX4_distance 43 = .ok (.iaload, 1) := dk_46 (dk_at dksX4_distance_1 21 rfl rfl)
theorem dX4_distance_44 : decode cX4_distance 44 = .ok (.ireturn, 1) := dk_172 (dk_at dksX4_distance_1 22 rfl rfl)
abbrev cX4_goes : ByteArray := prog_20_method_12_code
def yX4_goes : MethodName := ⟨RX4, "goes", "(I)V"⟩
def dkwX4_goes_9 : List UInt8 := [21, 6, 79, 132, 2, 1, 132, 5, 1, 167, 255, 106, 132, 3, 1, 167, 255, 84, 177]
abbrev dktX4_goes_9 : List UInt8 := dkwX4_goes_9 ++ []
def dkwX4_goes_8 : List UInt8 := [167, 0, 30, 42, 180, 0, 43, 21, 6, 42, 180, 0, 43, 21, 4, 46, 4, 96, 79, 42, 180, 0, 46, 28]
abbrev dktX4_goes_8 : List UInt8 := dkwX4_goes_8 ++ dktX4_goes_9
def dkwX4_goes_7 : List UInt8 := [180, 0, 43, 21, 6, 46, 17, 39, 15, 160, 0, 7, 4, 167, 0, 4, 3, 54, 7, 21, 7, 154, 0, 6]
abbrev dktX4_goes_7 : List UInt8 := dkwX4_goes_7 ++ dktX4_goes_8
def dkwX4_goes_6 : List UInt8 := [108, 21, 4, 16, 16, 108, 160, 0, 33, 42, 180, 0, 7, 16, 12, 21, 6, 96, 46, 154, 0, 20, 42]
abbrev dktX4_goes_6 : List UInt8 := dkwX4_goes_6 ++ dktX4_goes_7
def dkwX4_goes_5 : List UInt8 := [21, 4, 4, 96, 54, 6, 21, 6, 184, 0, 95, 153, 0, 52, 21, 5, 5, 161, 0, 16, 21, 6, 16, 16]
abbrev dktX4_goes_5 : List UInt8 := dkwX4_goes_5 ++ dktX4_goes_6
def dkwX4_goes_4 : List UInt8 := [160, 0, 11, 21, 4, 16, 16, 96, 167, 0, 20, 21, 5, 5, 160, 0, 10, 21, 4, 4, 100, 167, 0, 7]
abbrev dktX4_goes_4 : List UInt8 := dkwX4_goes_4 ++ dktX4_goes_5
def dkwX4_goes_3 : List UInt8 := [54, 5, 21, 5, 7, 162, 0, 150, 21, 5, 154, 0, 11, 21, 4, 16, 16, 100, 167, 0, 34, 21, 5, 4]
abbrev dktX4_goes_3 : List UInt8 := dkwX4_goes_3 ++ dktX4_goes_4
def dkwX4_goes_2 : List UInt8 := [180, 0, 46, 3, 27, 79, 4, 61, 3, 62, 29, 28, 162, 0, 173, 42, 180, 0, 46, 29, 46, 54, 4, 3]
abbrev dktX4_goes_2 : List UInt8 := dkwX4_goes_2 ++ dktX4_goes_3
def dkwX4_goes_1 : List UInt8 := [42, 180, 0, 7, 16, 12, 27, 96, 46, 4, 160, 0, 4, 177, 42, 180, 0, 43, 27, 3, 79, 42]
abbrev dktX4_goes_1 : List UInt8 := dkwX4_goes_1 ++ dktX4_goes_2
def dkwX4_goes_0 : List UInt8 := [3, 61, 28, 17, 0, 192, 162, 0, 18, 42, 180, 0, 43, 28, 17, 39, 15, 79, 132, 2, 1, 167, 255, 237]
abbrev dktX4_goes_0 : List UInt8 := dkwX4_goes_0 ++ dktX4_goes_1
theorem dksX4_goes_0 : cX4_goes.data.toList.drop 0 = dktX4_goes_0 := by decide +kernel
theorem dksX4_goes_1 : cX4_goes.data.toList.drop 24 = dktX4_goes_1 := dk_seg dksX4_goes_0 24 rfl rfl
theorem dksX4_goes_2 : cX4_goes.data.toList.drop 46 = dktX4_goes_2 := dk_seg dksX4_goes_1 22 rfl rfl
theorem dksX4_goes_3 : cX4_goes.data.toList.drop 70 = dktX4_goes_3 := dk_seg dksX4_goes_2 24 rfl rfl
theorem dksX4_goes_4 : cX4_goes.data.toList.drop 94 = dktX4_goes_4 := dk_seg dksX4_goes_3 24 rfl rfl
theorem dksX4_goes_5 : cX4_goes.data.toList.drop 118 = dktX4_goes_5 := dk_seg dksX4_goes_4 24 rfl rfl
theorem dksX4_goes_6 : cX4_goes.data.toList.drop 142 = dktX4_goes_6 := dk_seg dksX4_goes_5 24 rfl rfl
theorem dksX4_goes_7 : cX4_goes.data.toList.drop 165 = dktX4_goes_7 := dk_seg dksX4_goes_6 23 rfl rfl
theorem dksX4_goes_8 : cX4_goes.data.toList.drop 189 = dktX4_goes_8 := dk_seg dksX4_goes_7 24 rfl rfl
theorem dksX4_goes_9 : cX4_goes.data.toList.drop 213 = dktX4_goes_9 := dk_seg dksX4_goes_8 24 rfl rfl
theorem dX4_goes_0 : decode cX4_goes 0 = .ok (.iconst 0, 1) := dk_3 (dk_at dksX4_goes_0 0 rfl rfl)
theorem dX4_goes_1 : decode cX4_goes 1 = .ok (.istore_n 2, 1) := dk_61 (dk_at dksX4_goes_0 1 rfl rfl)
theorem dX4_goes_2 : decode cX4_goes 2 = .ok (.iload_n 2, 1) := dk_28 (dk_at dksX4_goes_0 2 rfl rfl)
theorem dX4_goes_3 : decode cX4_goes 3 = .ok (.sipush 192, 3) := dk_17 0 192 (dk_at dksX4_goes_0 3 rfl rfl)
theorem dX4_goes_6 : decode cX4_goes 6 = .ok (.if_icmp .ge 18, 3) := dk_162 0 18 (dk_at dksX4_goes_0 6 rfl rfl)
theorem dX4_goes_9 : decode cX4_goes 9 = .ok (.aload_n 0, 1) := dk_42 (dk_at dksX4_goes_0 9 rfl rfl)
theorem dX4_goes_10 : decode cX4_goes 10 = .ok (.getfield 43, 3) := dk_180 0 43 (dk_at dksX4_goes_0 10 rfl rfl)
theorem dX4_goes_13 : decode cX4_goes 13 = .ok (.iload_n 2, 1) := dk_28 (dk_at dksX4_goes_0 13 rfl rfl)
theorem dX4_goes_14 : decode cX4_goes 14 = .ok (.sipush 9999, 3) := dk_17 39 15 (dk_at dksX4_goes_0 14 rfl rfl)
theorem dX4_goes_17 : decode cX4_goes 17 = .ok (.iastore, 1) := dk_79 (dk_at dksX4_goes_0 17 rfl rfl)
theorem dX4_goes_18 : decode cX4_goes 18 = .ok (.iinc 2 1, 3) := dk_132 2 1 (dk_at dksX4_goes_0 18 rfl rfl)
theorem dX4_goes_21 : decode cX4_goes 21 = .ok (.goto (-19), 3) := dk_167 255 237 (dk_at dksX4_goes_0 21 rfl rfl)
theorem dX4_goes_24 : decode cX4_goes 24 = .ok (.aload_n 0, 1) := dk_42 (dk_at dksX4_goes_1 0 rfl rfl)
theorem dX4_goes_25 : decode cX4_goes 25 = .ok (.getfield 7, 3) := dk_180 0 7 (dk_at dksX4_goes_1 1 rfl rfl)
theorem dX4_goes_28 : decode cX4_goes 28 = .ok (.bipush 12, 2) := dk_16 12 (dk_at dksX4_goes_1 4 rfl rfl)
theorem dX4_goes_30 : decode cX4_goes 30 = .ok (.iload_n 1, 1) := dk_27 (dk_at dksX4_goes_1 6 rfl rfl)
theorem dX4_goes_31 : decode cX4_goes 31 = .ok (.iadd, 1) := dk_96 (dk_at dksX4_goes_1 7 rfl rfl)
theorem dX4_goes_32 : decode cX4_goes 32 = .ok (.iaload, 1) := dk_46 (dk_at dksX4_goes_1 8 rfl rfl)
theorem dX4_goes_33 : decode cX4_goes 33 = .ok (.iconst 1, 1) := dk_4 (dk_at dksX4_goes_1 9 rfl rfl)
theorem dX4_goes_34 : decode cX4_goes 34 = .ok (.if_icmp .ne 4, 3) := dk_160 0 4 (dk_at dksX4_goes_1 10 rfl rfl)
theorem dX4_goes_37 : decode cX4_goes 37 = .ok (.return_, 1) := dk_177 (dk_at dksX4_goes_1 13 rfl rfl)
theorem dX4_goes_38 : decode cX4_goes 38 = .ok (.aload_n 0, 1) := dk_42 (dk_at dksX4_goes_1 14 rfl rfl)
theorem dX4_goes_39 : decode cX4_goes 39 = .ok (.getfield 43, 3) := dk_180 0 43 (dk_at dksX4_goes_1 15 rfl rfl)
theorem dX4_goes_42 : decode cX4_goes 42 = .ok (.iload_n 1, 1) := dk_27 (dk_at dksX4_goes_1 18 rfl rfl)
theorem dX4_goes_43 : decode cX4_goes 43 = .ok (.iconst 0, 1) := dk_3 (dk_at dksX4_goes_1 19 rfl rfl)
theorem dX4_goes_44 : decode cX4_goes 44 = .ok (.iastore, 1) := dk_79 (dk_at dksX4_goes_1 20 rfl rfl)
theorem dX4_goes_45 : decode cX4_goes 45 = .ok (.aload_n 0, 1) := dk_42 (dk_at dksX4_goes_1 21 rfl rfl)
theorem dX4_goes_46 : decode cX4_goes 46 = .ok (.getfield 46, 3) := dk_180 0 46 (dk_at dksX4_goes_2 0 rfl rfl)
theorem dX4_goes_49 : decode cX4_goes 49 = .ok (.iconst 0, 1) := dk_3 (dk_at dksX4_goes_2 3 rfl rfl)
theorem dX4_goes_50 : decode cX4_goes 50 = .ok (.iload_n 1, 1) := dk_27 (dk_at dksX4_goes_2 4 rfl rfl)
theorem dX4_goes_51 : decode cX4_goes 51 = .ok (.iastore, 1) := dk_79 (dk_at dksX4_goes_2 5 rfl rfl)
theorem dX4_goes_52 : decode cX4_goes 52 = .ok (.iconst 1, 1) := dk_4 (dk_at dksX4_goes_2 6 rfl rfl)
theorem dX4_goes_53 : decode cX4_goes 53 = .ok (.istore_n 2, 1) := dk_61 (dk_at dksX4_goes_2 7 rfl rfl)
theorem dX4_goes_54 : decode cX4_goes 54 = .ok (.iconst 0, 1) := dk_3 (dk_at dksX4_goes_2 8 rfl rfl)
theorem dX4_goes_55 : decode cX4_goes 55 = .ok (.istore_n 3, 1) := dk_62 (dk_at dksX4_goes_2 9 rfl rfl)
theorem dX4_goes_56 : decode cX4_goes 56 = .ok (.iload_n 3, 1) := dk_29 (dk_at dksX4_goes_2 10 rfl rfl)
theorem dX4_goes_57 : decode cX4_goes 57 = .ok (.iload_n 2, 1) := dk_28 (dk_at dksX4_goes_2 11 rfl rfl)
theorem dX4_goes_58 : decode cX4_goes 58 = .ok (.if_icmp .ge 173, 3) := dk_162 0 173 (dk_at dksX4_goes_2 12 rfl rfl)
theorem dX4_goes_61 : decode cX4_goes 61 = .ok (.aload_n 0, 1) := dk_42 (dk_at dksX4_goes_2 15 rfl rfl)
theorem dX4_goes_62 : decode cX4_goes 62 = .ok (.getfield 46, 3) := dk_180 0 46 (dk_at dksX4_goes_2 16 rfl rfl)
theorem dX4_goes_65 : decode cX4_goes 65 = .ok (.iload_n 3, 1) := dk_29 (dk_at dksX4_goes_2 19 rfl rfl)
theorem dX4_goes_66 : decode cX4_goes 66 = .ok (.iaload, 1) := dk_46 (dk_at dksX4_goes_2 20 rfl rfl)
theorem dX4_goes_67 : decode cX4_goes 67 = .ok (.istore 4, 2) := dk_54 4 (dk_at dksX4_goes_2 21 rfl rfl)
theorem dX4_goes_69 : decode cX4_goes 69 = .ok (.iconst 0, 1) := dk_3 (dk_at dksX4_goes_2 23 rfl rfl)
theorem dX4_goes_70 : decode cX4_goes 70 = .ok (.istore 5, 2) := dk_54 5 (dk_at dksX4_goes_3 0 rfl rfl)
theorem dX4_goes_72 : decode cX4_goes 72 = .ok (.iload 5, 2) := dk_21 5 (dk_at dksX4_goes_3 2 rfl rfl)
theorem dX4_goes_74 : decode cX4_goes 74 = .ok (.iconst 4, 1) := dk_7 (dk_at dksX4_goes_3 4 rfl rfl)
theorem dX4_goes_75 : decode cX4_goes 75 = .ok (.if_icmp .ge 150, 3) := dk_162 0 150 (dk_at dksX4_goes_3 5 rfl rfl)
theorem dX4_goes_78 : decode cX4_goes 78 = .ok (.iload 5, 2) := dk_21 5 (dk_at dksX4_goes_3 8 rfl rfl)
theorem dX4_goes_80 : decode cX4_goes 80 = .ok (.ifCond .ne 11, 3) := dk_154 0 11 (dk_at dksX4_goes_3 10 rfl rfl)
theorem dX4_goes_83 : decode cX4_goes 83 = .ok (.iload 4, 2) := dk_21 4 (dk_at dksX4_goes_3 13 rfl rfl)
theorem dX4_goes_85 : decode cX4_goes 85 = .ok (.bipush 16, 2) := dk_16 16 (dk_at dksX4_goes_3 15 rfl rfl)
theorem dX4_goes_87 : decode cX4_goes 87 = .ok (.isub, 1) := dk_100 (dk_at dksX4_goes_3 17 rfl rfl)
theorem dX4_goes_88 : decode cX4_goes 88 = .ok (.goto 34, 3) := dk_167 0 34 (dk_at dksX4_goes_3 18 rfl rfl)
theorem dX4_goes_91 : decode cX4_goes 91 = .ok (.iload 5, 2) := dk_21 5 (dk_at dksX4_goes_3 21 rfl rfl)
theorem dX4_goes_93 : decode cX4_goes 93 = .ok (.iconst 1, 1) := dk_4 (dk_at dksX4_goes_3 23 rfl rfl)
theorem dX4_goes_94 : decode cX4_goes 94 = .ok (.if_icmp .ne 11, 3) := dk_160 0 11 (dk_at dksX4_goes_4 0 rfl rfl)
theorem dX4_goes_97 : decode cX4_goes 97 = .ok (.iload 4, 2) := dk_21 4 (dk_at dksX4_goes_4 3 rfl rfl)
theorem dX4_goes_99 : decode cX4_goes 99 = .ok (.bipush 16, 2) := dk_16 16 (dk_at dksX4_goes_4 5 rfl rfl)
theorem dX4_goes_101 : decode cX4_goes 101 = .ok (.iadd, 1) := dk_96 (dk_at dksX4_goes_4 7 rfl rfl)
theorem dX4_goes_102 : decode cX4_goes 102 = .ok (.goto 20, 3) := dk_167 0 20 (dk_at dksX4_goes_4 8 rfl rfl)
theorem dX4_goes_105 : decode cX4_goes 105 = .ok (.iload 5, 2) := dk_21 5 (dk_at dksX4_goes_4 11 rfl rfl)
theorem dX4_goes_107 : decode cX4_goes 107 = .ok (.iconst 2, 1) := dk_5 (dk_at dksX4_goes_4 13 rfl rfl)
theorem dX4_goes_108 : decode cX4_goes 108 = .ok (.if_icmp .ne 10, 3) := dk_160 0 10 (dk_at dksX4_goes_4 14 rfl rfl)
theorem dX4_goes_111 : decode cX4_goes 111 = .ok (.iload 4, 2) := dk_21 4 (dk_at dksX4_goes_4 17 rfl rfl)
theorem dX4_goes_113 : decode cX4_goes 113 = .ok (.iconst 1, 1) := dk_4 (dk_at dksX4_goes_4 19 rfl rfl)
theorem dX4_goes_114 : decode cX4_goes 114 = .ok (.isub, 1) := dk_100 (dk_at dksX4_goes_4 20 rfl rfl)
theorem dX4_goes_115 : decode cX4_goes 115 = .ok (.goto 7, 3) := dk_167 0 7 (dk_at dksX4_goes_4 21 rfl rfl)
theorem dX4_goes_118 : decode cX4_goes 118 = .ok (.iload 4, 2) := dk_21 4 (dk_at dksX4_goes_5 0 rfl rfl)
theorem dX4_goes_120 : decode cX4_goes 120 = .ok (.iconst 1, 1) := dk_4 (dk_at dksX4_goes_5 2 rfl rfl)
theorem dX4_goes_121 : decode cX4_goes 121 = .ok (.iadd, 1) := dk_96 (dk_at dksX4_goes_5 3 rfl rfl)
theorem dX4_goes_122 : decode cX4_goes 122 = .ok (.istore 6, 2) := dk_54 6 (dk_at dksX4_goes_5 4 rfl rfl)
theorem dX4_goes_124 : decode cX4_goes 124 = .ok (.iload 6, 2) := dk_21 6 (dk_at dksX4_goes_5 6 rfl rfl)
theorem dX4_goes_126 : decode cX4_goes 126 = .ok (.invokestatic 95, 3) := dk_184 0 95 (dk_at dksX4_goes_5 8 rfl rfl)
theorem dX4_goes_129 : decode cX4_goes 129 = .ok (.ifCond .eq 52, 3) := dk_153 0 52 (dk_at dksX4_goes_5 11 rfl rfl)
theorem dX4_goes_132 : decode cX4_goes 132 = .ok (.iload 5, 2) := dk_21 5 (dk_at dksX4_goes_5 14 rfl rfl)
theorem dX4_goes_134 : decode cX4_goes 134 = .ok (.iconst 2, 1) := dk_5 (dk_at dksX4_goes_5 16 rfl rfl)
theorem dX4_goes_135 : decode cX4_goes 135 = .ok (.if_icmp .lt 16, 3) := dk_161 0 16 (dk_at dksX4_goes_5 17 rfl rfl)
theorem dX4_goes_138 : decode cX4_goes 138 = .ok (.iload 6, 2) := dk_21 6 (dk_at dksX4_goes_5 20 rfl rfl)
theorem dX4_goes_140 : decode cX4_goes 140 = .ok (.bipush 16, 2) := dk_16 16 (dk_at dksX4_goes_5 22 rfl rfl)
theorem dX4_goes_142 : decode cX4_goes 142 = .ok (.idiv, 1) := dk_108 (dk_at dksX4_goes_6 0 rfl rfl)
theorem dX4_goes_143 : decode cX4_goes 143 = .ok (.iload 4, 2) := dk_21 4 (dk_at dksX4_goes_6 1 rfl rfl)
theorem dX4_goes_145 : decode cX4_goes 145 = .ok (.bipush 16, 2) := dk_16 16 (dk_at dksX4_goes_6 3 rfl rfl)
theorem dX4_goes_147 : decode cX4_goes 147 = .ok (.idiv, 1) := dk_108 (dk_at dksX4_goes_6 5 rfl rfl)
theorem dX4_goes_148 : decode cX4_goes 148 = .ok (.if_icmp .ne 33, 3) := dk_160 0 33 (dk_at dksX4_goes_6 6 rfl rfl)
theorem dX4_goes_151 : decode cX4_goes 151 = .ok (.aload_n 0, 1) := dk_42 (dk_at dksX4_goes_6 9 rfl rfl)
theorem dX4_goes_152 : decode cX4_goes 152 = .ok (.getfield 7, 3) := dk_180 0 7 (dk_at dksX4_goes_6 10 rfl rfl)
theorem dX4_goes_155 : decode cX4_goes 155 = .ok (.bipush 12, 2) := dk_16 12 (dk_at dksX4_goes_6 13 rfl rfl)
theorem dX4_goes_157 : decode cX4_goes 157 = .ok (.iload 6, 2) := dk_21 6 (dk_at dksX4_goes_6 15 rfl rfl)
theorem dX4_goes_159 : decode cX4_goes 159 = .ok (.iadd, 1) := dk_96 (dk_at dksX4_goes_6 17 rfl rfl)
theorem dX4_goes_160 : decode cX4_goes 160 = .ok (.iaload, 1) := dk_46 (dk_at dksX4_goes_6 18 rfl rfl)
theorem dX4_goes_161 : decode cX4_goes 161 = .ok (.ifCond .ne 20, 3) := dk_154 0 20 (dk_at dksX4_goes_6 19 rfl rfl)
theorem dX4_goes_164 : decode cX4_goes 164 = .ok (.aload_n 0, 1) := dk_42 (dk_at dksX4_goes_6 22 rfl rfl)
theorem dX4_goes_165 : decode cX4_goes 165 = .ok (.getfield 43, 3) := dk_180 0 43 (dk_at dksX4_goes_7 0 rfl rfl)
theorem dX4_goes_168 : decode cX4_goes 168 = .ok (.iload 6, 2) := dk_21 6 (dk_at dksX4_goes_7 3 rfl rfl)
theorem dX4_goes_170 : decode cX4_goes 170 = .ok (.iaload, 1) := dk_46 (dk_at dksX4_goes_7 5 rfl rfl)
theorem dX4_goes_171 : decode cX4_goes 171 = .ok (.sipush 9999, 3) := dk_17 39 15 (dk_at dksX4_goes_7 6 rfl rfl)
theorem dX4_goes_174 : decode cX4_goes 174 = .ok (.if_icmp .ne 7, 3) := dk_160 0 7 (dk_at dksX4_goes_7 9 rfl rfl)
theorem dX4_goes_177 : decode cX4_goes 177 = .ok (.iconst 1, 1) := dk_4 (dk_at dksX4_goes_7 12 rfl rfl)
theorem dX4_goes_178 : decode cX4_goes 178 = .ok (.goto 4, 3) := dk_167 0 4 (dk_at dksX4_goes_7 13 rfl rfl)
theorem dX4_goes_181 : decode cX4_goes 181 = .ok (.iconst 0, 1) := dk_3 (dk_at dksX4_goes_7 16 rfl rfl)
theorem dX4_goes_182 : decode cX4_goes 182 = .ok (.istore 7, 2) := dk_54 7 (dk_at dksX4_goes_7 17 rfl rfl)
theorem dX4_goes_184 : decode cX4_goes 184 = .ok (.iload 7, 2) := dk_21 7 (dk_at dksX4_goes_7 19 rfl rfl)
theorem dX4_goes_186 : decode cX4_goes 186 = .ok (.ifCond .ne 6, 3) := dk_154 0 6 (dk_at dksX4_goes_7 21 rfl rfl)
theorem dX4_goes_189 : decode cX4_goes 189 = .ok (.goto 30, 3) := dk_167 0 30 (dk_at dksX4_goes_8 0 rfl rfl)
theorem dX4_goes_192 : decode cX4_goes 192 = .ok (.aload_n 0, 1) := dk_42 (dk_at dksX4_goes_8 3 rfl rfl)
theorem dX4_goes_193 : decode cX4_goes 193 = .ok (.getfield 43, 3) := dk_180 0 43 (dk_at dksX4_goes_8 4 rfl rfl)
theorem dX4_goes_196 : decode cX4_goes 196 = .ok (.iload 6, 2) := dk_21 6 (dk_at dksX4_goes_8 7 rfl rfl)
theorem dX4_goes_198 : decode cX4_goes 198 = .ok (.aload_n 0, 1) := dk_42 (dk_at dksX4_goes_8 9 rfl rfl)
theorem dX4_goes_199 : decode cX4_goes 199 = .ok (.getfield 43, 3) := dk_180 0 43 (dk_at dksX4_goes_8 10 rfl rfl)
theorem dX4_goes_202 : decode cX4_goes 202 = .ok (.iload 4, 2) := dk_21 4 (dk_at dksX4_goes_8 13 rfl rfl)
theorem dX4_goes_204 : decode cX4_goes 204 = .ok (.iaload, 1) := dk_46 (dk_at dksX4_goes_8 15 rfl rfl)
theorem dX4_goes_205 : decode cX4_goes 205 = .ok (.iconst 1, 1) := dk_4 (dk_at dksX4_goes_8 16 rfl rfl)
theorem dX4_goes_206 : decode cX4_goes 206 = .ok (.iadd, 1) := dk_96 (dk_at dksX4_goes_8 17 rfl rfl)
theorem dX4_goes_207 : decode cX4_goes 207 = .ok (.iastore, 1) := dk_79 (dk_at dksX4_goes_8 18 rfl rfl)
theorem dX4_goes_208 : decode cX4_goes 208 = .ok (.aload_n 0, 1) := dk_42 (dk_at dksX4_goes_8 19 rfl rfl)
theorem dX4_goes_209 : decode cX4_goes 209 = .ok (.getfield 46, 3) := dk_180 0 46 (dk_at dksX4_goes_8 20 rfl rfl)
theorem dX4_goes_212 : decode cX4_goes 212 = .ok (.iload_n 2, 1) := dk_28 (dk_at dksX4_goes_8 23 rfl rfl)
theorem dX4_goes_213 : decode cX4_goes 213 = .ok (.iload 6, 2) := dk_21 6 (dk_at dksX4_goes_9 0 rfl rfl)
theorem dX4_goes_215 : decode cX4_goes 215 = .ok (.iastore, 1) := dk_79 (dk_at dksX4_goes_9 2 rfl rfl)
theorem dX4_goes_216 : decode cX4_goes 216 = .ok (.iinc 2 1, 3) := dk_132 2 1 (dk_at dksX4_goes_9 3 rfl rfl)
theorem dX4_goes_219 : decode cX4_goes 219 = .ok (.iinc 5 1, 3) := dk_132 5 1 (dk_at dksX4_goes_9 6 rfl rfl)
theorem dX4_goes_222 : decode cX4_goes 222 = .ok (.goto (-150), 3) := dk_167 255 106 (dk_at dksX4_goes_9 9 rfl rfl)
theorem dX4_goes_225 : decode cX4_goes 225 = .ok (.iinc 3 1, 3) := dk_132 3 1 (dk_at dksX4_goes_9 12 rfl rfl)
theorem dX4_goes_228 : decode cX4_goes 228 = .ok (.goto (-172), 3) := dk_167 255 84 (dk_at dksX4_goes_9 15 rfl rfl)
theorem dX4_goes_231 : decode cX4_goes 231 = .ok (.return_, 1) := dk_177 (dk_at dksX4_goes_9 18 rfl rfl)
abbrev cX4_days : ByteArray := prog_20_method_18_code
def yX4_days : MethodName := ⟨RX4, "days", "(II)I"⟩
def dkwX4_days_1 : List UInt8 := [100, 42, 180, 0, 7, 3, 46, 108, 172]
abbrev dktX4_days_1 : List UInt8 := dkwX4_days_1 ++ []
def dkwX4_days_0 : List UInt8 := [42, 27, 28, 182, 0, 130, 62, 29, 156, 0, 7, 29, 167, 0, 20, 29, 42, 180, 0, 7, 3, 46, 96, 4]
abbrev dktX4_days_0 : List UInt8 := dkwX4_days_0 ++ dktX4_days_1
theorem dksX4_days_0 : cX4_days.data.toList.drop 0 = dktX4_days_0 := by decide +kernel
theorem dksX4_days_1 : cX4_days.data.toList.drop 24 = dktX4_days_1 := dk_seg dksX4_days_0 24 rfl rfl
theorem dX4_days_0 : decode cX4_days 0 = .ok (.aload_n 0, 1) := dk_42 (dk_at dksX4_days_0 0 rfl rfl)
theorem dX4_days_1 : decode cX4_days 1 = .ok (.iload_n 1, 1) := dk_27 (dk_at dksX4_days_0 1 rfl rfl)
theorem dX4_days_2 : decode cX4_days 2 = .ok (.iload_n 2, 1) := dk_28 (dk_at dksX4_days_0 2 rfl rfl)
theorem dX4_days_3 : decode cX4_days 3 = .ok (.invokevirtual 130, 3) := dk_182 0 130 (dk_at dksX4_days_0 3 rfl rfl)
theorem dX4_days_6 : decode cX4_days 6 = .ok (.istore_n 3, 1) := dk_62 (dk_at dksX4_days_0 6 rfl rfl)
theorem dX4_days_7 : decode cX4_days 7 = .ok (.iload_n 3, 1) := dk_29 (dk_at dksX4_days_0 7 rfl rfl)
theorem dX4_days_8 : decode cX4_days 8 = .ok (.ifCond .ge 7, 3) := dk_156 0 7 (dk_at dksX4_days_0 8 rfl rfl)
theorem dX4_days_11 : decode cX4_days 11 = .ok (.iload_n 3, 1) := dk_29 (dk_at dksX4_days_0 11 rfl rfl)
theorem dX4_days_12 : decode cX4_days 12 = .ok (.goto 20, 3) := dk_167 0 20 (dk_at dksX4_days_0 12 rfl rfl)
theorem dX4_days_15 : decode cX4_days 15 = .ok (.iload_n 3, 1) := dk_29 (dk_at dksX4_days_0 15 rfl rfl)
theorem dX4_days_16 : decode cX4_days 16 = .ok (.aload_n 0, 1) := dk_42 (dk_at dksX4_days_0 16 rfl rfl)
theorem dX4_days_17 : decode cX4_days 17 = .ok (.getfield 7, 3) := dk_180 0 7 (dk_at dksX4_days_0 17 rfl rfl)
theorem dX4_days_20 : decode cX4_days 20 = .ok (.iconst 0, 1) := dk_3 (dk_at dksX4_days_0 20 rfl rfl)
theorem dX4_days_21 : decode cX4_days 21 = .ok (.iaload, 1) := dk_46 (dk_at dksX4_days_0 21 rfl rfl)
theorem dX4_days_22 : decode cX4_days 22 = .ok (.iadd, 1) := dk_96 (dk_at dksX4_days_0 22 rfl rfl)
theorem dX4_days_23 : decode cX4_days 23 = .ok (.iconst 1, 1) := dk_4 (dk_at dksX4_days_0 23 rfl rfl)
theorem dX4_days_24 : decode cX4_days 24 = .ok (.isub, 1) := dk_100 (dk_at dksX4_days_1 0 rfl rfl)
theorem dX4_days_25 : decode cX4_days 25 = .ok (.aload_n 0, 1) := dk_42 (dk_at dksX4_days_1 1 rfl rfl)
theorem dX4_days_26 : decode cX4_days 26 = .ok (.getfield 7, 3) := dk_180 0 7 (dk_at dksX4_days_1 2 rfl rfl)
theorem dX4_days_29 : decode cX4_days 29 = .ok (.iconst 0, 1) := dk_3 (dk_at dksX4_days_1 5 rfl rfl)
theorem dX4_days_30 : decode cX4_days 30 = .ok (.iaload, 1) := dk_46 (dk_at dksX4_days_1 6 rfl rfl)
theorem dX4_days_31 : decode cX4_days 31 = .ok (.idiv, 1) := dk_108 (dk_at dksX4_days_1 7 rfl rfl)
theorem dX4_days_32 : decode cX4_days 32 = .ok (.ireturn, 1) := dk_172 (dk_at dksX4_days_1 8 rfl rfl)
abbrev cX4_page : ByteArray := prog_20_method_20_code
def yX4_page : MethodName := ⟨RX4, "page", "(II)I"⟩
def dkwX4_page_1 : List UInt8 := [42, 27, 28, 182, 0, 133, 182, 0, 122, 167, 0, 5, 16, 254, 172]
abbrev dktX4_page_1 : List UInt8 := dkwX4_page_1 ++ []
def dkwX4_page_0 : List UInt8 := [42, 182, 0, 115, 27, 3, 5, 184, 0, 87, 153, 0, 26, 28, 3, 16, 99, 184, 0, 87, 153, 0, 16, 42]
abbrev dktX4_page_0 : List UInt8 := dkwX4_page_0 ++ dktX4_page_1
theorem dksX4_page_0 : cX4_page.data.toList.drop 0 = dktX4_page_0 := by decide +kernel
theorem dksX4_page_1 : cX4_page.data.toList.drop 24 = dktX4_page_1 := dk_seg dksX4_page_0 24 rfl rfl
theorem dX4_page_0 : decode cX4_page 0 = .ok (.aload_n 0, 1) := dk_42 (dk_at dksX4_page_0 0 rfl rfl)
theorem dX4_page_1 : decode cX4_page 1 = .ok (.invokevirtual 115, 3) := dk_182 0 115 (dk_at dksX4_page_0 1 rfl rfl)
theorem dX4_page_4 : decode cX4_page 4 = .ok (.iload_n 1, 1) := dk_27 (dk_at dksX4_page_0 4 rfl rfl)
theorem dX4_page_5 : decode cX4_page 5 = .ok (.iconst 0, 1) := dk_3 (dk_at dksX4_page_0 5 rfl rfl)
theorem dX4_page_6 : decode cX4_page 6 = .ok (.iconst 2, 1) := dk_5 (dk_at dksX4_page_0 6 rfl rfl)
theorem dX4_page_7 : decode cX4_page 7 = .ok (.invokestatic 87, 3) := dk_184 0 87 (dk_at dksX4_page_0 7 rfl rfl)
theorem dX4_page_10 : decode cX4_page 10 = .ok (.ifCond .eq 26, 3) := dk_153 0 26 (dk_at dksX4_page_0 10 rfl rfl)
theorem dX4_page_13 : decode cX4_page 13 = .ok (.iload_n 2, 1) := dk_28 (dk_at dksX4_page_0 13 rfl rfl)
theorem dX4_page_14 : decode cX4_page 14 = .ok (.iconst 0, 1) := dk_3 (dk_at dksX4_page_0 14 rfl rfl)
theorem dX4_page_15 : decode cX4_page 15 = .ok (.bipush 99, 2) := dk_16 99 (dk_at dksX4_page_0 15 rfl rfl)
theorem dX4_page_17 : decode cX4_page 17 = .ok (.invokestatic 87, 3) := dk_184 0 87 (dk_at dksX4_page_0 17 rfl rfl)
theorem dX4_page_20 : decode cX4_page 20 = .ok (.ifCond .eq 16, 3) := dk_153 0 16 (dk_at dksX4_page_0 20 rfl rfl)
theorem dX4_page_23 : decode cX4_page 23 = .ok (.aload_n 0, 1) := dk_42 (dk_at dksX4_page_0 23 rfl rfl)
theorem dX4_page_24 : decode cX4_page 24 = .ok (.aload_n 0, 1) := dk_42 (dk_at dksX4_page_1 0 rfl rfl)
theorem dX4_page_25 : decode cX4_page 25 = .ok (.iload_n 1, 1) := dk_27 (dk_at dksX4_page_1 1 rfl rfl)
theorem dX4_page_26 : decode cX4_page 26 = .ok (.iload_n 2, 1) := dk_28 (dk_at dksX4_page_1 2 rfl rfl)
theorem dX4_page_27 : decode cX4_page 27 = .ok (.invokevirtual 133, 3) := dk_182 0 133 (dk_at dksX4_page_1 3 rfl rfl)
theorem dX4_page_30 : decode cX4_page 30 = .ok (.invokevirtual 122, 3) := dk_182 0 122 (dk_at dksX4_page_1 6 rfl rfl)
theorem dX4_page_33 : decode cX4_page 33 = .ok (.goto 5, 3) := dk_167 0 5 (dk_at dksX4_page_1 9 rfl rfl)
theorem dX4_page_36 : decode cX4_page 36 = .ok (.bipush (-2), 2) := dk_16 254 (dk_at dksX4_page_1 12 rfl rfl)
theorem dX4_page_38 : decode cX4_page 38 = .ok (.ireturn, 1) := dk_172 (dk_at dksX4_page_1 14 rfl rfl)
abbrev cX4_comes : ByteArray := prog_20_method_19_code
def yX4_comes : MethodName := ⟨RX4, "comes", "(II)I"⟩
def dkwX4_comes_3 : List UInt8 := [4, 184, 0, 91, 28, 79, 42, 180, 0, 7, 16, 11, 92, 46, 4, 96, 79, 29, 172]
abbrev dktX4_comes_3 : List UInt8 := dkwX4_comes_3 ++ []
def dkwX4_comes_2 : List UInt8 := [3, 79, 132, 4, 1, 167, 255, 234, 42, 180, 0, 7, 29, 3, 184, 0, 91, 27, 79, 42, 180, 0, 7, 29]
abbrev dktX4_comes_2 : List UInt8 := dkwX4_comes_2 ++ dktX4_comes_3
def dkwX4_comes_1 : List UInt8 := [16, 11, 46, 62, 3, 54, 4, 21, 4, 16, 15, 162, 0, 21, 42, 180, 0, 7, 29, 21, 4, 184, 0, 91]
abbrev dktX4_comes_1 : List UInt8 := dkwX4_comes_1 ++ dktX4_comes_2
def dkwX4_comes_0 : List UInt8 := [42, 180, 0, 7, 16, 11, 46, 16, 10, 160, 0, 11, 42, 5, 16, 10, 182, 0, 108, 172, 42, 180, 0, 7]
abbrev dktX4_comes_0 : List UInt8 := dkwX4_comes_0 ++ dktX4_comes_1
theorem dksX4_comes_0 : cX4_comes.data.toList.drop 0 = dktX4_comes_0 := by decide +kernel
theorem dksX4_comes_1 : cX4_comes.data.toList.drop 24 = dktX4_comes_1 := dk_seg dksX4_comes_0 24 rfl rfl
theorem dksX4_comes_2 : cX4_comes.data.toList.drop 48 = dktX4_comes_2 := dk_seg dksX4_comes_1 24 rfl rfl
theorem dksX4_comes_3 : cX4_comes.data.toList.drop 72 = dktX4_comes_3 := dk_seg dksX4_comes_2 24 rfl rfl
theorem dX4_comes_0 : decode cX4_comes 0 = .ok (.aload_n 0, 1) := dk_42 (dk_at dksX4_comes_0 0 rfl rfl)
theorem dX4_comes_1 : decode cX4_comes 1 = .ok (.getfield 7, 3) := dk_180 0 7 (dk_at dksX4_comes_0 1 rfl rfl)
theorem dX4_comes_4 : decode cX4_comes 4 = .ok (.bipush 11, 2) := dk_16 11 (dk_at dksX4_comes_0 4 rfl rfl)
theorem dX4_comes_6 : decode cX4_comes 6 = .ok (.iaload, 1) := dk_46 (dk_at dksX4_comes_0 6 rfl rfl)
theorem dX4_comes_7 : decode cX4_comes 7 = .ok (.bipush 10, 2) := dk_16 10 (dk_at dksX4_comes_0 7 rfl rfl)
theorem dX4_comes_9 : decode cX4_comes 9 = .ok (.if_icmp .ne 11, 3) := dk_160 0 11 (dk_at dksX4_comes_0 9 rfl rfl)
theorem dX4_comes_12 : decode cX4_comes 12 = .ok (.aload_n 0, 1) := dk_42 (dk_at dksX4_comes_0 12 rfl rfl)
theorem dX4_comes_13 : decode cX4_comes 13 = .ok (.iconst 2, 1) := dk_5 (dk_at dksX4_comes_0 13 rfl rfl)
theorem dX4_comes_14 : decode cX4_comes 14 = .ok (.bipush 10, 2) := dk_16 10 (dk_at dksX4_comes_0 14 rfl rfl)
theorem dX4_comes_16 : decode cX4_comes 16 = .ok (.invokevirtual 108, 3) := dk_182 0 108 (dk_at dksX4_comes_0 16 rfl rfl)
theorem dX4_comes_19 : decode cX4_comes 19 = .ok (.ireturn, 1) := dk_172 (dk_at dksX4_comes_0 19 rfl rfl)
theorem dX4_comes_20 : decode cX4_comes 20 = .ok (.aload_n 0, 1) := dk_42 (dk_at dksX4_comes_0 20 rfl rfl)
theorem dX4_comes_21 : decode cX4_comes 21 = .ok (.getfield 7, 3) := dk_180 0 7 (dk_at dksX4_comes_0 21 rfl rfl)
theorem dX4_comes_24 : decode cX4_comes 24 = .ok (.bipush 11, 2) := dk_16 11 (dk_at dksX4_comes_1 0 rfl rfl)
theorem dX4_comes_26 : decode cX4_comes 26 = .ok (.iaload, 1) := dk_46 (dk_at dksX4_comes_1 2 rfl rfl)
theorem dX4_comes_27 : decode cX4_comes 27 = .ok (.istore_n 3, 1) := dk_62 (dk_at dksX4_comes_1 3 rfl rfl)
theorem dX4_comes_28 : decode cX4_comes 28 = .ok (.iconst 0, 1) := dk_3 (dk_at dksX4_comes_1 4 rfl rfl)
theorem dX4_comes_29 : decode cX4_comes 29 = .ok (.istore 4, 2) := dk_54 4 (dk_at dksX4_comes_1 5 rfl rfl)
theorem dX4_comes_31 : decode cX4_comes 31 = .ok (.iload 4, 2) := dk_21 4 (dk_at dksX4_comes_1 7 rfl rfl)
theorem dX4_comes_33 : decode cX4_comes 33 = .ok (.bipush 15, 2) := dk_16 15 (dk_at dksX4_comes_1 9 rfl rfl)
theorem dX4_comes_35 : decode cX4_comes 35 = .ok (.if_icmp .ge 21, 3) := dk_162 0 21 (dk_at dksX4_comes_1 11 rfl rfl)
theorem dX4_comes_38 : decode cX4_comes 38 = .ok (.aload_n 0, 1) := dk_42 (dk_at dksX4_comes_1 14 rfl rfl)
theorem dX4_comes_39 : decode cX4_comes 39 = .ok (.getfield 7, 3) := dk_180 0 7 (dk_at dksX4_comes_1 15 rfl rfl)
theorem dX4_comes_42 : decode cX4_comes 42 = .ok (.iload_n 3, 1) := dk_29 (dk_at dksX4_comes_1 18 rfl rfl)
theorem dX4_comes_43 : decode cX4_comes 43 = .ok (.iload 4, 2) := dk_21 4 (dk_at dksX4_comes_1 19 rfl rfl)
theorem dX4_comes_45 : decode cX4_comes 45 = .ok (.invokestatic 91, 3) := dk_184 0 91 (dk_at dksX4_comes_1 21 rfl rfl)
theorem dX4_comes_48 : decode cX4_comes 48 = .ok (.iconst 0, 1) := dk_3 (dk_at dksX4_comes_2 0 rfl rfl)
theorem dX4_comes_49 : decode cX4_comes 49 = .ok (.iastore, 1) := dk_79 (dk_at dksX4_comes_2 1 rfl rfl)
theorem dX4_comes_50 : decode cX4_comes 50 = .ok (.iinc 4 1, 3) := dk_132 4 1 (dk_at dksX4_comes_2 2 rfl rfl)
theorem dX4_comes_53 : decode cX4_comes 53 = .ok (.goto (-22), 3) := dk_167 255 234 (dk_at dksX4_comes_2 5 rfl rfl)
theorem dX4_comes_56 : decode cX4_comes 56 = .ok (.aload_n 0, 1) := dk_42 (dk_at dksX4_comes_2 8 rfl rfl)
theorem dX4_comes_57 : decode cX4_comes 57 = .ok (.getfield 7, 3) := dk_180 0 7 (dk_at dksX4_comes_2 9 rfl rfl)
theorem dX4_comes_60 : decode cX4_comes 60 = .ok (.iload_n 3, 1) := dk_29 (dk_at dksX4_comes_2 12 rfl rfl)
theorem dX4_comes_61 : decode cX4_comes 61 = .ok (.iconst 0, 1) := dk_3 (dk_at dksX4_comes_2 13 rfl rfl)
theorem dX4_comes_62 : decode cX4_comes 62 = .ok (.invokestatic 91, 3) := dk_184 0 91 (dk_at dksX4_comes_2 14 rfl rfl)
theorem dX4_comes_65 : decode cX4_comes 65 = .ok (.iload_n 1, 1) := dk_27 (dk_at dksX4_comes_2 17 rfl rfl)
theorem dX4_comes_66 : decode cX4_comes 66 = .ok (.iastore, 1) := dk_79 (dk_at dksX4_comes_2 18 rfl rfl)
theorem dX4_comes_67 : decode cX4_comes 67 = .ok (.aload_n 0, 1) := dk_42 (dk_at dksX4_comes_2 19 rfl rfl)
theorem dX4_comes_68 : decode cX4_comes 68 = .ok (.getfield 7, 3) := dk_180 0 7 (dk_at dksX4_comes_2 20 rfl rfl)
theorem dX4_comes_71 : decode cX4_comes 71 = .ok (.iload_n 3, 1) := dk_29 (dk_at dksX4_comes_2 23 rfl rfl)
theorem dX4_comes_72 : decode cX4_comes 72 = .ok (.iconst 1, 1) := dk_4 (dk_at dksX4_comes_3 0 rfl rfl)
theorem dX4_comes_73 : decode cX4_comes 73 = .ok (.invokestatic 91, 3) := dk_184 0 91 (dk_at dksX4_comes_3 1 rfl rfl)
theorem dX4_comes_76 : decode cX4_comes 76 = .ok (.iload_n 2, 1) := dk_28 (dk_at dksX4_comes_3 4 rfl rfl)
theorem dX4_comes_77 : decode cX4_comes 77 = .ok (.iastore, 1) := dk_79 (dk_at dksX4_comes_3 5 rfl rfl)
theorem dX4_comes_78 : decode cX4_comes 78 = .ok (.aload_n 0, 1) := dk_42 (dk_at dksX4_comes_3 6 rfl rfl)
theorem dX4_comes_79 : decode cX4_comes 79 = .ok (.getfield 7, 3) := dk_180 0 7 (dk_at dksX4_comes_3 7 rfl rfl)
theorem dX4_comes_82 : decode cX4_comes 82 = .ok (.bipush 11, 2) := dk_16 11 (dk_at dksX4_comes_3 10 rfl rfl)
theorem dX4_comes_84 : decode cX4_comes 84 = .ok (.dup2, 1) := dk_92 (dk_at dksX4_comes_3 12 rfl rfl)
theorem dX4_comes_85 : decode cX4_comes 85 = .ok (.iaload, 1) := dk_46 (dk_at dksX4_comes_3 13 rfl rfl)
theorem dX4_comes_86 : decode cX4_comes 86 = .ok (.iconst 1, 1) := dk_4 (dk_at dksX4_comes_3 14 rfl rfl)
theorem dX4_comes_87 : decode cX4_comes 87 = .ok (.iadd, 1) := dk_96 (dk_at dksX4_comes_3 15 rfl rfl)
theorem dX4_comes_88 : decode cX4_comes 88 = .ok (.iastore, 1) := dk_79 (dk_at dksX4_comes_3 16 rfl rfl)
theorem dX4_comes_89 : decode cX4_comes 89 = .ok (.iload_n 3, 1) := dk_29 (dk_at dksX4_comes_3 17 rfl rfl)
theorem dX4_comes_90 : decode cX4_comes 90 = .ok (.ireturn, 1) := dk_172 (dk_at dksX4_comes_3 18 rfl rfl)
abbrev cX4_entry : ByteArray := prog_20_method_22_code
def yX4_entry : MethodName := ⟨RX4, "entry", "(IIII)I"⟩
def dkwX4_entry_3 : List UInt8 := [167, 0, 5, 16, 254, 172]
abbrev dktX4_entry_3 : List UInt8 := dkwX4_entry_3 ++ []
def dkwX4_entry_2 : List UInt8 := [153, 0, 26, 29, 184, 0, 95, 153, 0, 19, 42, 42, 27, 28, 29, 21, 4, 182, 0, 143, 182, 0, 122]
abbrev dktX4_entry_2 : List UInt8 := dkwX4_entry_2 ++ dktX4_entry_3
def dkwX4_entry_1 : List UInt8 := [184, 0, 87, 154, 0, 11, 42, 4, 21, 4, 182, 0, 108, 172, 28, 3, 17, 3, 231, 184, 0, 87]
abbrev dktX4_entry_1 : List UInt8 := dkwX4_entry_1 ++ dktX4_entry_2
def dkwX4_entry_0 : List UInt8 := [42, 182, 0, 115, 42, 27, 182, 0, 140, 154, 0, 10, 42, 4, 27, 182, 0, 108, 172, 21, 4, 3, 8]
abbrev dktX4_entry_0 : List UInt8 := dkwX4_entry_0 ++ dktX4_entry_1
theorem dksX4_entry_0 : cX4_entry.data.toList.drop 0 = dktX4_entry_0 := by decide +kernel
theorem dksX4_entry_1 : cX4_entry.data.toList.drop 23 = dktX4_entry_1 := dk_seg dksX4_entry_0 23 rfl rfl
theorem dksX4_entry_2 : cX4_entry.data.toList.drop 45 = dktX4_entry_2 := dk_seg dksX4_entry_1 22 rfl rfl
theorem dksX4_entry_3 : cX4_entry.data.toList.drop 68 = dktX4_entry_3 := dk_seg dksX4_entry_2 23 rfl rfl
theorem dX4_entry_0 : decode cX4_entry 0 = .ok (.aload_n 0, 1) := dk_42 (dk_at dksX4_entry_0 0 rfl rfl)
theorem dX4_entry_1 : decode cX4_entry 1 = .ok (.invokevirtual 115, 3) := dk_182 0 115 (dk_at dksX4_entry_0 1 rfl rfl)
theorem dX4_entry_4 : decode cX4_entry 4 = .ok (.aload_n 0, 1) := dk_42 (dk_at dksX4_entry_0 4 rfl rfl)
theorem dX4_entry_5 : decode cX4_entry 5 = .ok (.iload_n 1, 1) := dk_27 (dk_at dksX4_entry_0 5 rfl rfl)
theorem dX4_entry_6 : decode cX4_entry 6 = .ok (.invokevirtual 140, 3) := dk_182 0 140 (dk_at dksX4_entry_0 6 rfl rfl)
theorem dX4_entry_9 : decode cX4_entry 9 = .ok (.ifCond .ne 10, 3) := dk_154 0 10 (dk_at dksX4_entry_0 9 rfl rfl)
theorem dX4_entry_12 : decode cX4_entry 12 = .ok (.aload_n 0, 1) := dk_42 (dk_at dksX4_entry_0 12 rfl rfl)
theorem dX4_entry_13 : decode cX4_entry 13 = .ok (.iconst 1, 1) := dk_4 (dk_at dksX4_entry_0 13 rfl rfl)
theorem dX4_entry_14 : decode cX4_entry 14 = .ok (.iload_n 1, 1) := dk_27 (dk_at dksX4_entry_0 14 rfl rfl)
theorem dX4_entry_15 : decode cX4_entry 15 = .ok (.invokevirtual 108, 3) := dk_182 0 108 (dk_at dksX4_entry_0 15 rfl rfl)
theorem dX4_entry_18 : decode cX4_entry 18 = .ok (.ireturn, 1) := dk_172 (dk_at dksX4_entry_0 18 rfl rfl)
theorem dX4_entry_19 : decode cX4_entry 19 = .ok (.iload 4, 2) := dk_21 4 (dk_at dksX4_entry_0 19 rfl rfl)
theorem dX4_entry_21 : decode cX4_entry 21 = .ok (.iconst 0, 1) := dk_3 (dk_at dksX4_entry_0 21 rfl rfl)
theorem dX4_entry_22 : decode cX4_entry 22 = .ok (.iconst 5, 1) := dk_8 (dk_at dksX4_entry_0 22 rfl rfl)
theorem dX4_entry_23 : decode cX4_entry 23 = .ok (.invokestatic 87, 3) := dk_184 0 87 (dk_at dksX4_entry_1 0 rfl rfl)
theorem dX4_entry_26 : decode cX4_entry 26 = .ok (.ifCond .ne 11, 3) := dk_154 0 11 (dk_at dksX4_entry_1 3 rfl rfl)
theorem dX4_entry_29 : decode cX4_entry 29 = .ok (.aload_n 0, 1) := dk_42 (dk_at dksX4_entry_1 6 rfl rfl)
theorem dX4_entry_30 : decode cX4_entry 30 = .ok (.iconst 1, 1) := dk_4 (dk_at dksX4_entry_1 7 rfl rfl)
theorem dX4_entry_31 : decode cX4_entry 31 = .ok (.iload 4, 2) := dk_21 4 (dk_at dksX4_entry_1 8 rfl rfl)
theorem dX4_entry_33 : decode cX4_entry 33 = .ok (.invokevirtual 108, 3) := dk_182 0 108 (dk_at dksX4_entry_1 10 rfl rfl)
theorem dX4_entry_36 : decode cX4_entry 36 = .ok (.ireturn, 1) := dk_172 (dk_at dksX4_entry_1 13 rfl rfl)
theorem dX4_entry_37 : decode cX4_entry 37 = .ok (.iload_n 2, 1) := dk_28 (dk_at dksX4_entry_1 14 rfl rfl)
theorem dX4_entry_38 : decode cX4_entry 38 = .ok (.iconst 0, 1) := dk_3 (dk_at dksX4_entry_1 15 rfl rfl)
theorem dX4_entry_39 : decode cX4_entry 39 = .ok (.sipush 999, 3) := dk_17 3 231 (dk_at dksX4_entry_1 16 rfl rfl)
theorem dX4_entry_42 : decode cX4_entry 42 = .ok (.invokestatic 87, 3) := dk_184 0 87 (dk_at dksX4_entry_1 19 rfl rfl)
theorem dX4_entry_45 : decode cX4_entry 45 = .ok (.ifCond .eq 26, 3) := dk_153 0 26 (dk_at dksX4_entry_2 0 rfl rfl)
theorem dX4_entry_48 : decode cX4_entry 48 = .ok (.iload_n 3, 1) := dk_29 (dk_at dksX4_entry_2 3 rfl rfl)
theorem dX4_entry_49 : decode cX4_entry 49 = .ok (.invokestatic 95, 3) := dk_184 0 95 (dk_at dksX4_entry_2 4 rfl rfl)
theorem dX4_entry_52 : decode cX4_entry 52 = .ok (.ifCond .eq 19, 3) := dk_153 0 19 (dk_at dksX4_entry_2 7 rfl rfl)
theorem dX4_entry_55 : decode cX4_entry 55 = .ok (.aload_n 0, 1) := dk_42 (dk_at dksX4_entry_2 10 rfl rfl)
theorem dX4_entry_56 : decode cX4_entry 56 = .ok (.aload_n 0, 1) := dk_42 (dk_at dksX4_entry_2 11 rfl rfl)
theorem dX4_entry_57 : decode cX4_entry 57 = .ok (.iload_n 1, 1) := dk_27 (dk_at dksX4_entry_2 12 rfl rfl)
theorem dX4_entry_58 : decode cX4_entry 58 = .ok (.iload_n 2, 1) := dk_28 (dk_at dksX4_entry_2 13 rfl rfl)
theorem dX4_entry_59 : decode cX4_entry 59 = .ok (.iload_n 3, 1) := dk_29 (dk_at dksX4_entry_2 14 rfl rfl)
theorem dX4_entry_60 : decode cX4_entry 60 = .ok (.iload 4, 2) := dk_21 4 (dk_at dksX4_entry_2 15 rfl rfl)
theorem dX4_entry_62 : decode cX4_entry 62 = .ok (.invokevirtual 143, 3) := dk_182 0 143 (dk_at dksX4_entry_2 17 rfl rfl)
theorem dX4_entry_65 : decode cX4_entry 65 = .ok (.invokevirtual 122, 3) := dk_182 0 122 (dk_at dksX4_entry_2 20 rfl rfl)
theorem dX4_entry_68 : decode cX4_entry 68 = .ok (.goto 5, 3) := dk_167 0 5 (dk_at dksX4_entry_3 0 rfl rfl)
theorem dX4_entry_71 : decode cX4_entry 71 = .ok (.bipush (-2), 2) := dk_16 254 (dk_at dksX4_entry_3 3 rfl rfl)
theorem dX4_entry_73 : decode cX4_entry 73 = .ok (.ireturn, 1) := dk_172 (dk_at dksX4_entry_3 5 rfl rfl)
abbrev cX4_isPage : ByteArray := prog_20_method_9_code
def yX4_isPage : MethodName := ⟨RX4, "isPage", "(I)Z"⟩
def dkwX4_isPage_0 : List UInt8 := [27, 3, 42, 180, 0, 7, 16, 11, 46, 4, 100, 184, 0, 87, 172]
abbrev dktX4_isPage_0 : List UInt8 := dkwX4_isPage_0 ++ []
theorem dksX4_isPage_0 : cX4_isPage.data.toList.drop 0 = dktX4_isPage_0 := by decide +kernel
theorem dX4_isPage_0 : decode cX4_isPage 0 = .ok (.iload_n 1, 1) := dk_27 (dk_at dksX4_isPage_0 0 rfl rfl)
theorem dX4_isPage_1 : decode cX4_isPage 1 = .ok (.iconst 0, 1) := dk_3 (dk_at dksX4_isPage_0 1 rfl rfl)
theorem dX4_isPage_2 : decode cX4_isPage 2 = .ok (.aload_n 0, 1) := dk_42 (dk_at dksX4_isPage_0 2 rfl rfl)
theorem dX4_isPage_3 : decode cX4_isPage 3 = .ok (.getfield 7, 3) := dk_180 0 7 (dk_at dksX4_isPage_0 3 rfl rfl)
theorem dX4_isPage_6 : decode cX4_isPage 6 = .ok (.bipush 11, 2) := dk_16 11 (dk_at dksX4_isPage_0 6 rfl rfl)
theorem dX4_isPage_8 : decode cX4_isPage 8 = .ok (.iaload, 1) := dk_46 (dk_at dksX4_isPage_0 8 rfl rfl)
theorem dX4_isPage_9 : decode cX4_isPage 9 = .ok (.iconst 1, 1) := dk_4 (dk_at dksX4_isPage_0 9 rfl rfl)
theorem dX4_isPage_10 : decode cX4_isPage 10 = .ok (.isub, 1) := dk_100 (dk_at dksX4_isPage_0 10 rfl rfl)
theorem dX4_isPage_11 : decode cX4_isPage 11 = .ok (.invokestatic 87, 3) := dk_184 0 87 (dk_at dksX4_isPage_0 11 rfl rfl)
theorem dX4_isPage_14 : decode cX4_isPage 14 = .ok (.ireturn, 1) := dk_172 (dk_at dksX4_isPage_0 14 rfl rfl)
abbrev cX4_adds : ByteArray := prog_20_method_21_code
def yX4_adds : MethodName := ⟨RX4, "adds", "(IIII)I"⟩
def dkwX4_adds_4 : List UInt8 := [172]
abbrev dktX4_adds_4 : List UInt8 := dkwX4_adds_4 ++ []
def dkwX4_adds_3 : List UInt8 := [21, 5, 6, 184, 0, 136, 3, 79, 42, 180, 0, 7, 27, 5, 184, 0, 91, 92, 46, 4, 96, 79, 21, 5]
abbrev dktX4_adds_3 : List UInt8 := dkwX4_adds_3 ++ dktX4_adds_4
def dkwX4_adds_2 : List UInt8 := [184, 0, 136, 29, 79, 42, 180, 0, 7, 27, 21, 5, 5, 184, 0, 136, 21, 4, 79, 42, 180, 0, 7, 27]
abbrev dktX4_adds_2 : List UInt8 := dkwX4_adds_2 ++ dktX4_adds_3
def dkwX4_adds_1 : List UInt8 := [172, 42, 180, 0, 7, 27, 21, 5, 3, 184, 0, 136, 28, 79, 42, 180, 0, 7, 27, 21, 5, 4]
abbrev dktX4_adds_1 : List UInt8 := dkwX4_adds_1 ++ dktX4_adds_2
def dkwX4_adds_0 : List UInt8 := [42, 180, 0, 7, 27, 5, 184, 0, 91, 46, 54, 5, 21, 5, 6, 160, 0, 10, 42, 5, 6, 182, 0, 108]
abbrev dktX4_adds_0 : List UInt8 := dkwX4_adds_0 ++ dktX4_adds_1
theorem dksX4_adds_0 : cX4_adds.data.toList.drop 0 = dktX4_adds_0 := by decide +kernel
theorem dksX4_adds_1 : cX4_adds.data.toList.drop 24 = dktX4_adds_1 := dk_seg dksX4_adds_0 24 rfl rfl
theorem dksX4_adds_2 : cX4_adds.data.toList.drop 46 = dktX4_adds_2 := dk_seg dksX4_adds_1 22 rfl rfl
theorem dksX4_adds_3 : cX4_adds.data.toList.drop 70 = dktX4_adds_3 := dk_seg dksX4_adds_2 24 rfl rfl
theorem dksX4_adds_4 : cX4_adds.data.toList.drop 94 = dktX4_adds_4 := dk_seg dksX4_adds_3 24 rfl rfl
theorem dX4_adds_0 : decode cX4_adds 0 = .ok (.aload_n 0, 1) := dk_42 (dk_at dksX4_adds_0 0 rfl rfl)
theorem dX4_adds_1 : decode cX4_adds 1 = .ok (.getfield 7, 3) := dk_180 0 7 (dk_at dksX4_adds_0 1 rfl rfl)
theorem dX4_adds_4 : decode cX4_adds 4 = .ok (.iload_n 1, 1) := dk_27 (dk_at dksX4_adds_0 4 rfl rfl)
theorem dX4_adds_5 : decode cX4_adds 5 = .ok (.iconst 2, 1) := dk_5 (dk_at dksX4_adds_0 5 rfl rfl)
theorem dX4_adds_6 : decode cX4_adds 6 = .ok (.invokestatic 91, 3) := dk_184 0 91 (dk_at dksX4_adds_0 6 rfl rfl)
theorem dX4_adds_9 : decode cX4_adds 9 = .ok (.iaload, 1) := dk_46 (dk_at dksX4_adds_0 9 rfl rfl)
theorem dX4_adds_10 : decode cX4_adds 10 = .ok (.istore 5, 2) := dk_54 5 (dk_at dksX4_adds_0 10 rfl rfl)
theorem dX4_adds_12 : decode cX4_adds 12 = .ok (.iload 5, 2) := dk_21 5 (dk_at dksX4_adds_0 12 rfl rfl)
theorem dX4_adds_14 : decode cX4_adds 14 = .ok (.iconst 3, 1) := dk_6 (dk_at dksX4_adds_0 14 rfl rfl)
theorem dX4_adds_15 : decode cX4_adds 15 = .ok (.if_icmp .ne 10, 3) := dk_160 0 10 (dk_at dksX4_adds_0 15 rfl rfl)
theorem dX4_adds_18 : decode cX4_adds 18 = .ok (.aload_n 0, 1) := dk_42 (dk_at dksX4_adds_0 18 rfl rfl)
theorem dX4_adds_19 : decode cX4_adds 19 = .ok (.iconst 2, 1) := dk_5 (dk_at dksX4_adds_0 19 rfl rfl)
theorem dX4_adds_20 : decode cX4_adds 20 = .ok (.iconst 3, 1) := dk_6 (dk_at dksX4_adds_0 20 rfl rfl)
theorem dX4_adds_21 : decode cX4_adds 21 = .ok (.invokevirtual 108, 3) := dk_182 0 108 (dk_at dksX4_adds_0 21 rfl rfl)
theorem dX4_adds_24 : decode cX4_adds 24 = .ok (.ireturn, 1) := dk_172 (dk_at dksX4_adds_1 0 rfl rfl)
theorem dX4_adds_25 : decode cX4_adds 25 = .ok (.aload_n 0, 1) := dk_42 (dk_at dksX4_adds_1 1 rfl rfl)
theorem dX4_adds_26 : decode cX4_adds 26 = .ok (.getfield 7, 3) := dk_180 0 7 (dk_at dksX4_adds_1 2 rfl rfl)
theorem dX4_adds_29 : decode cX4_adds 29 = .ok (.iload_n 1, 1) := dk_27 (dk_at dksX4_adds_1 5 rfl rfl)
theorem dX4_adds_30 : decode cX4_adds 30 = .ok (.iload 5, 2) := dk_21 5 (dk_at dksX4_adds_1 6 rfl rfl)
theorem dX4_adds_32 : decode cX4_adds 32 = .ok (.iconst 0, 1) := dk_3 (dk_at dksX4_adds_1 8 rfl rfl)
theorem dX4_adds_33 : decode cX4_adds 33 = .ok (.invokestatic 136, 3) := dk_184 0 136 (dk_at dksX4_adds_1 9 rfl rfl)
theorem dX4_adds_36 : decode cX4_adds 36 = .ok (.iload_n 2, 1) := dk_28 (dk_at dksX4_adds_1 12 rfl rfl)
theorem dX4_adds_37 : decode cX4_adds 37 = .ok (.iastore, 1) := dk_79 (dk_at dksX4_adds_1 13 rfl rfl)
theorem dX4_adds_38 : decode cX4_adds 38 = .ok (.aload_n 0, 1) := dk_42 (dk_at dksX4_adds_1 14 rfl rfl)
theorem dX4_adds_39 : decode cX4_adds 39 = .ok (.getfield 7, 3) := dk_180 0 7 (dk_at dksX4_adds_1 15 rfl rfl)
theorem dX4_adds_42 : decode cX4_adds 42 = .ok (.iload_n 1, 1) := dk_27 (dk_at dksX4_adds_1 18 rfl rfl)
theorem dX4_adds_43 : decode cX4_adds 43 = .ok (.iload 5, 2) := dk_21 5 (dk_at dksX4_adds_1 19 rfl rfl)
theorem dX4_adds_45 : decode cX4_adds 45 = .ok (.iconst 1, 1) := dk_4 (dk_at dksX4_adds_1 21 rfl rfl)
theorem dX4_adds_46 : decode cX4_adds 46 = .ok (.invokestatic 136, 3) := dk_184 0 136 (dk_at dksX4_adds_2 0 rfl rfl)
theorem dX4_adds_49 : decode cX4_adds 49 = .ok (.iload_n 3, 1) := dk_29 (dk_at dksX4_adds_2 3 rfl rfl)
theorem dX4_adds_50 : decode cX4_adds 50 = .ok (.iastore, 1) := dk_79 (dk_at dksX4_adds_2 4 rfl rfl)
theorem dX4_adds_51 : decode cX4_adds 51 = .ok (.aload_n 0, 1) := dk_42 (dk_at dksX4_adds_2 5 rfl rfl)
theorem dX4_adds_52 : decode cX4_adds 52 = .ok (.getfield 7, 3) := dk_180 0 7 (dk_at dksX4_adds_2 6 rfl rfl)
theorem dX4_adds_55 : decode cX4_adds 55 = .ok (.iload_n 1, 1) := dk_27 (dk_at dksX4_adds_2 9 rfl rfl)
theorem dX4_adds_56 : decode cX4_adds 56 = .ok (.iload 5, 2) := dk_21 5 (dk_at dksX4_adds_2 10 rfl rfl)
theorem dX4_adds_58 : decode cX4_adds 58 = .ok (.iconst 2, 1) := dk_5 (dk_at dksX4_adds_2 12 rfl rfl)
theorem dX4_adds_59 : decode cX4_adds 59 = .ok (.invokestatic 136, 3) := dk_184 0 136 (dk_at dksX4_adds_2 13 rfl rfl)
theorem dX4_adds_62 : decode cX4_adds 62 = .ok (.iload 4, 2) := dk_21 4 (dk_at dksX4_adds_2 16 rfl rfl)
theorem dX4_adds_64 : decode cX4_adds 64 = .ok (.iastore, 1) := dk_79 (dk_at dksX4_adds_2 18 rfl rfl)
theorem dX4_adds_65 : decode cX4_adds 65 = .ok (.aload_n 0, 1) := dk_42 (dk_at dksX4_adds_2 19 rfl rfl)
theorem dX4_adds_66 : decode cX4_adds 66 = .ok (.getfield 7, 3) := dk_180 0 7 (dk_at dksX4_adds_2 20 rfl rfl)
theorem dX4_adds_69 : decode cX4_adds 69 = .ok (.iload_n 1, 1) := dk_27 (dk_at dksX4_adds_2 23 rfl rfl)
theorem dX4_adds_70 : decode cX4_adds 70 = .ok (.iload 5, 2) := dk_21 5 (dk_at dksX4_adds_3 0 rfl rfl)
theorem dX4_adds_72 : decode cX4_adds 72 = .ok (.iconst 3, 1) := dk_6 (dk_at dksX4_adds_3 2 rfl rfl)
theorem dX4_adds_73 : decode cX4_adds 73 = .ok (.invokestatic 136, 3) := dk_184 0 136 (dk_at dksX4_adds_3 3 rfl rfl)
theorem dX4_adds_76 : decode cX4_adds 76 = .ok (.iconst 0, 1) := dk_3 (dk_at dksX4_adds_3 6 rfl rfl)
theorem dX4_adds_77 : decode cX4_adds 77 = .ok (.iastore, 1) := dk_79 (dk_at dksX4_adds_3 7 rfl rfl)
theorem dX4_adds_78 : decode cX4_adds 78 = .ok (.aload_n 0, 1) := dk_42 (dk_at dksX4_adds_3 8 rfl rfl)
theorem dX4_adds_79 : decode cX4_adds 79 = .ok (.getfield 7, 3) := dk_180 0 7 (dk_at dksX4_adds_3 9 rfl rfl)
theorem dX4_adds_82 : decode cX4_adds 82 = .ok (.iload_n 1, 1) := dk_27 (dk_at dksX4_adds_3 12 rfl rfl)
theorem dX4_adds_83 : decode cX4_adds 83 = .ok (.iconst 2, 1) := dk_5 (dk_at dksX4_adds_3 13 rfl rfl)
theorem dX4_adds_84 : decode cX4_adds 84 = .ok (.invokestatic 91, 3) := dk_184 0 91 (dk_at dksX4_adds_3 14 rfl rfl)
theorem dX4_adds_87 : decode cX4_adds 87 = .ok (.dup2, 1) := dk_92 (dk_at dksX4_adds_3 17 rfl rfl)
theorem dX4_adds_88 : decode cX4_adds 88 = .ok (.iaload, 1) := dk_46 (dk_at dksX4_adds_3 18 rfl rfl)
theorem dX4_adds_89 : decode cX4_adds 89 = .ok (.iconst 1, 1) := dk_4 (dk_at dksX4_adds_3 19 rfl rfl)
theorem dX4_adds_90 : decode cX4_adds 90 = .ok (.iadd, 1) := dk_96 (dk_at dksX4_adds_3 20 rfl rfl)
theorem dX4_adds_91 : decode cX4_adds 91 = .ok (.iastore, 1) := dk_79 (dk_at dksX4_adds_3 21 rfl rfl)
theorem dX4_adds_92 : decode cX4_adds 92 = .ok (.iload 5, 2) := dk_21 5 (dk_at dksX4_adds_3 22 rfl rfl)
theorem dX4_adds_94 : decode cX4_adds 94 = .ok (.ireturn, 1) := dk_172 (dk_at dksX4_adds_4 0 rfl rfl)
abbrev cX4_move : ByteArray := prog_20_method_25_code
def yX4_move : MethodName := ⟨RX4, "move", "(II)I"⟩
def dkwX4_move_1 : List UInt8 := [182, 0, 154, 182, 0, 122, 167, 0, 4, 2, 172]
abbrev dktX4_move_1 : List UInt8 := dkwX4_move_1 ++ []
def dkwX4_move_0 : List UInt8 := [42, 182, 0, 115, 42, 27, 182, 0, 140, 153, 0, 24, 42, 28, 182, 0, 140, 153, 0, 16, 42, 42, 27, 28]
abbrev dktX4_move_0 : List UInt8 := dkwX4_move_0 ++ dktX4_move_1
theorem dksX4_move_0 : cX4_move.data.toList.drop 0 = dktX4_move_0 := by decide +kernel
theorem dksX4_move_1 : cX4_move.data.toList.drop 24 = dktX4_move_1 := dk_seg dksX4_move_0 24 rfl rfl
theorem dX4_move_0 : decode cX4_move 0 = .ok (.aload_n 0, 1) := dk_42 (dk_at dksX4_move_0 0 rfl rfl)
theorem dX4_move_1 : decode cX4_move 1 = .ok (.invokevirtual 115, 3) := dk_182 0 115 (dk_at dksX4_move_0 1 rfl rfl)
theorem dX4_move_4 : decode cX4_move 4 = .ok (.aload_n 0, 1) := dk_42 (dk_at dksX4_move_0 4 rfl rfl)
theorem dX4_move_5 : decode cX4_move 5 = .ok (.iload_n 1, 1) := dk_27 (dk_at dksX4_move_0 5 rfl rfl)
theorem dX4_move_6 : decode cX4_move 6 = .ok (.invokevirtual 140, 3) := dk_182 0 140 (dk_at dksX4_move_0 6 rfl rfl)
theorem dX4_move_9 : decode cX4_move 9 = .ok (.ifCond .eq 24, 3) := dk_153 0 24 (dk_at dksX4_move_0 9 rfl rfl)
theorem dX4_move_12 : decode cX4_move 12 = .ok (.aload_n 0, 1) := dk_42 (dk_at dksX4_move_0 12 rfl rfl)
theorem dX4_move_13 : decode cX4_move 13 = .ok (.iload_n 2, 1) := dk_28 (dk_at dksX4_move_0 13 rfl rfl)
theorem dX4_move_14 : decode cX4_move 14 = .ok (.invokevirtual 140, 3) := dk_182 0 140 (dk_at dksX4_move_0 14 rfl rfl)
theorem dX4_move_17 : decode cX4_move 17 = .ok (.ifCond .eq 16, 3) := dk_153 0 16 (dk_at dksX4_move_0 17 rfl rfl)
theorem dX4_move_20 : decode cX4_move 20 = .ok (.aload_n 0, 1) := dk_42 (dk_at dksX4_move_0 20 rfl rfl)
theorem dX4_move_21 : decode cX4_move 21 = .ok (.aload_n 0, 1) := dk_42 (dk_at dksX4_move_0 21 rfl rfl)
theorem dX4_move_22 : decode cX4_move 22 = .ok (.iload_n 1, 1) := dk_27 (dk_at dksX4_move_0 22 rfl rfl)
theorem dX4_move_23 : decode cX4_move 23 = .ok (.iload_n 2, 1) := dk_28 (dk_at dksX4_move_0 23 rfl rfl)
theorem dX4_move_24 : decode cX4_move 24 = .ok (.invokevirtual 154, 3) := dk_182 0 154 (dk_at dksX4_move_1 0 rfl rfl)
theorem dX4_move_27 : decode cX4_move 27 = .ok (.invokevirtual 122, 3) := dk_182 0 122 (dk_at dksX4_move_1 3 rfl rfl)
theorem dX4_move_30 : decode cX4_move 30 = .ok (.goto 4, 3) := dk_167 0 4 (dk_at dksX4_move_1 6 rfl rfl)
theorem dX4_move_33 : decode cX4_move 33 = .ok (.iconst (-1), 1) := dk_2 (dk_at dksX4_move_1 9 rfl rfl)
theorem dX4_move_34 : decode cX4_move 34 = .ok (.ireturn, 1) := dk_172 (dk_at dksX4_move_1 10 rfl rfl)
abbrev cX4_moves : ByteArray := prog_20_method_24_code
def yX4_moves : MethodName := ⟨RX4, "moves", "(II)I"⟩
def dkwX4_moves_4 : List UInt8 := [132, 3, 1, 167, 255, 231, 42, 182, 0, 151, 172]
abbrev dktX4_moves_4 : List UInt8 := dkwX4_moves_4 ++ []
def dkwX4_moves_3 : List UInt8 := [3, 62, 29, 16, 15, 162, 0, 25, 42, 180, 0, 7, 28, 29, 184, 0, 91, 42, 180, 0, 49, 29, 46, 79]
abbrev dktX4_moves_3 : List UInt8 := dkwX4_moves_3 ++ dktX4_moves_4
def dkwX4_moves_2 : List UInt8 := [167, 255, 240, 27, 62, 29, 28, 164, 0, 17, 42, 29, 29, 4, 100, 182, 0, 147, 132, 3, 255, 167, 255, 240]
abbrev dktX4_moves_2 : List UInt8 := dkwX4_moves_2 ++ dktX4_moves_3
def dkwX4_moves_1 : List UInt8 := [132, 3, 1, 167, 255, 231, 27, 62, 29, 28, 162, 0, 17, 42, 29, 29, 4, 96, 182, 0, 147, 132, 3, 1]
abbrev dktX4_moves_1 : List UInt8 := dkwX4_moves_1 ++ dktX4_moves_2
def dkwX4_moves_0 : List UInt8 := [3, 62, 29, 16, 15, 162, 0, 25, 42, 180, 0, 49, 29, 42, 180, 0, 7, 27, 29, 184, 0, 91, 46, 79]
abbrev dktX4_moves_0 : List UInt8 := dkwX4_moves_0 ++ dktX4_moves_1
theorem dksX4_moves_0 : cX4_moves.data.toList.drop 0 = dktX4_moves_0 := by decide +kernel
theorem dksX4_moves_1 : cX4_moves.data.toList.drop 24 = dktX4_moves_1 := dk_seg dksX4_moves_0 24 rfl rfl
theorem dksX4_moves_2 : cX4_moves.data.toList.drop 48 = dktX4_moves_2 := dk_seg dksX4_moves_1 24 rfl rfl
theorem dksX4_moves_3 : cX4_moves.data.toList.drop 72 = dktX4_moves_3 := dk_seg dksX4_moves_2 24 rfl rfl
theorem dksX4_moves_4 : cX4_moves.data.toList.drop 96 = dktX4_moves_4 := dk_seg dksX4_moves_3 24 rfl rfl
theorem dX4_moves_0 : decode cX4_moves 0 = .ok (.iconst 0, 1) := dk_3 (dk_at dksX4_moves_0 0 rfl rfl)
theorem dX4_moves_1 : decode cX4_moves 1 = .ok (.istore_n 3, 1) := dk_62 (dk_at dksX4_moves_0 1 rfl rfl)
theorem dX4_moves_2 : decode cX4_moves 2 = .ok (.iload_n 3, 1) := dk_29 (dk_at dksX4_moves_0 2 rfl rfl)
theorem dX4_moves_3 : decode cX4_moves 3 = .ok (.bipush 15, 2) := dk_16 15 (dk_at dksX4_moves_0 3 rfl rfl)
theorem dX4_moves_5 : decode cX4_moves 5 = .ok (.if_icmp .ge 25, 3) := dk_162 0 25 (dk_at dksX4_moves_0 5 rfl rfl)
theorem dX4_moves_8 : decode cX4_moves 8 = .ok (.aload_n 0, 1) := dk_42 (dk_at dksX4_moves_0 8 rfl rfl)
theorem dX4_moves_9 : decode cX4_moves 9 = .ok (.getfield 49, 3) := dk_180 0 49 (dk_at dksX4_moves_0 9 rfl rfl)
theorem dX4_moves_12 : decode cX4_moves 12 = .ok (.iload_n 3, 1) := dk_29 (dk_at dksX4_moves_0 12 rfl rfl)
theorem dX4_moves_13 : decode cX4_moves 13 = .ok (.aload_n 0, 1) := dk_42 (dk_at dksX4_moves_0 13 rfl rfl)
theorem dX4_moves_14 : decode cX4_moves 14 = .ok (.getfield 7, 3) := dk_180 0 7 (dk_at dksX4_moves_0 14 rfl rfl)
theorem dX4_moves_17 : decode cX4_moves 17 = .ok (.iload_n 1, 1) := dk_27 (dk_at dksX4_moves_0 17 rfl rfl)
theorem dX4_moves_18 : decode cX4_moves 18 = .ok (.iload_n 3, 1) := dk_29 (dk_at dksX4_moves_0 18 rfl rfl)
theorem dX4_moves_19 : decode cX4_moves 19 = .ok (.invokestatic 91, 3) := dk_184 0 91 (dk_at dksX4_moves_0 19 rfl rfl)
theorem dX4_moves_22 : decode cX4_moves 22 = .ok (.iaload, 1) := dk_46 (dk_at dksX4_moves_0 22 rfl rfl)
theorem dX4_moves_23 : decode cX4_moves 23 = .ok (.iastore, 1) := dk_79 (dk_at dksX4_moves_0 23 rfl rfl)
theorem dX4_moves_24 : decode cX4_moves 24 = .ok (.iinc 3 1, 3) := dk_132 3 1 (dk_at dksX4_moves_1 0 rfl rfl)
theorem dX4_moves_27 : decode cX4_moves 27 = .ok (.goto (-25), 3) := dk_167 255 231 (dk_at dksX4_moves_1 3 rfl rfl)
theorem dX4_moves_30 : decode cX4_moves 30 = .ok (.iload_n 1, 1) := dk_27 (dk_at dksX4_moves_1 6 rfl rfl)
theorem dX4_moves_31 : decode cX4_moves 31 = .ok (.istore_n 3, 1) := dk_62 (dk_at dksX4_moves_1 7 rfl rfl)
theorem dX4_moves_32 : decode cX4_moves 32 = .ok (.iload_n 3, 1) := dk_29 (dk_at dksX4_moves_1 8 rfl rfl)
theorem dX4_moves_33 : decode cX4_moves 33 = .ok (.iload_n 2, 1) := dk_28 (dk_at dksX4_moves_1 9 rfl rfl)
theorem dX4_moves_34 : decode cX4_moves 34 = .ok (.if_icmp .ge 17, 3) := dk_162 0 17 (dk_at dksX4_moves_1 10 rfl rfl)
theorem dX4_moves_37 : decode cX4_moves 37 = .ok (.aload_n 0, 1) := dk_42 (dk_at dksX4_moves_1 13 rfl rfl)
theorem dX4_moves_38 : decode cX4_moves 38 = .ok (.iload_n 3, 1) := dk_29 (dk_at dksX4_moves_1 14 rfl rfl)
theorem dX4_moves_39 : decode cX4_moves 39 = .ok (.iload_n 3, 1) := dk_29 (dk_at dksX4_moves_1 15 rfl rfl)
theorem dX4_moves_40 : decode cX4_moves 40 = .ok (.iconst 1, 1) := dk_4 (dk_at dksX4_moves_1 16 rfl rfl)
theorem dX4_moves_41 : decode cX4_moves 41 = .ok (.iadd, 1) := dk_96 (dk_at dksX4_moves_1 17 rfl rfl)
theorem dX4_moves_42 : decode cX4_moves 42 = .ok (.invokevirtual 147, 3) := dk_182 0 147 (dk_at dksX4_moves_1 18 rfl rfl)
theorem dX4_moves_45 : decode cX4_moves 45 = .ok (.iinc 3 1, 3) := dk_132 3 1 (dk_at dksX4_moves_1 21 rfl rfl)
theorem dX4_moves_48 : decode cX4_moves 48 = .ok (.goto (-16), 3) := dk_167 255 240 (dk_at dksX4_moves_2 0 rfl rfl)
theorem dX4_moves_51 : decode cX4_moves 51 = .ok (.iload_n 1, 1) := dk_27 (dk_at dksX4_moves_2 3 rfl rfl)
theorem dX4_moves_52 : decode cX4_moves 52 = .ok (.istore_n 3, 1) := dk_62 (dk_at dksX4_moves_2 4 rfl rfl)
theorem dX4_moves_53 : decode cX4_moves 53 = .ok (.iload_n 3, 1) := dk_29 (dk_at dksX4_moves_2 5 rfl rfl)
theorem dX4_moves_54 : decode cX4_moves 54 = .ok (.iload_n 2, 1) := dk_28 (dk_at dksX4_moves_2 6 rfl rfl)
theorem dX4_moves_55 : decode cX4_moves 55 = .ok (.if_icmp .le 17, 3) := dk_164 0 17 (dk_at dksX4_moves_2 7 rfl rfl)
theorem dX4_moves_58 : decode cX4_moves 58 = .ok (.aload_n 0, 1) := dk_42 (dk_at dksX4_moves_2 10 rfl rfl)
theorem dX4_moves_59 : decode cX4_moves 59 = .ok (.iload_n 3, 1) := dk_29 (dk_at dksX4_moves_2 11 rfl rfl)
theorem dX4_moves_60 : decode cX4_moves 60 = .ok (.iload_n 3, 1) := dk_29 (dk_at dksX4_moves_2 12 rfl rfl)
theorem dX4_moves_61 : decode cX4_moves 61 = .ok (.iconst 1, 1) := dk_4 (dk_at dksX4_moves_2 13 rfl rfl)
theorem dX4_moves_62 : decode cX4_moves 62 = .ok (.isub, 1) := dk_100 (dk_at dksX4_moves_2 14 rfl rfl)
theorem dX4_moves_63 : decode cX4_moves 63 = .ok (.invokevirtual 147, 3) := dk_182 0 147 (dk_at dksX4_moves_2 15 rfl rfl)
theorem dX4_moves_66 : decode cX4_moves 66 = .ok (.iinc 3 (-1), 3) := dk_132 3 255 (dk_at dksX4_moves_2 18 rfl rfl)
theorem dX4_moves_69 : decode cX4_moves 69 = .ok (.goto (-16), 3) := dk_167 255 240 (dk_at dksX4_moves_2 21 rfl rfl)
theorem dX4_moves_72 : decode cX4_moves 72 = .ok (.iconst 0, 1) := dk_3 (dk_at dksX4_moves_3 0 rfl rfl)
theorem dX4_moves_73 : decode cX4_moves 73 = .ok (.istore_n 3, 1) := dk_62 (dk_at dksX4_moves_3 1 rfl rfl)
theorem dX4_moves_74 : decode cX4_moves 74 = .ok (.iload_n 3, 1) := dk_29 (dk_at dksX4_moves_3 2 rfl rfl)
theorem dX4_moves_75 : decode cX4_moves 75 = .ok (.bipush 15, 2) := dk_16 15 (dk_at dksX4_moves_3 3 rfl rfl)
theorem dX4_moves_77 : decode cX4_moves 77 = .ok (.if_icmp .ge 25, 3) := dk_162 0 25 (dk_at dksX4_moves_3 5 rfl rfl)
theorem dX4_moves_80 : decode cX4_moves 80 = .ok (.aload_n 0, 1) := dk_42 (dk_at dksX4_moves_3 8 rfl rfl)
theorem dX4_moves_81 : decode cX4_moves 81 = .ok (.getfield 7, 3) := dk_180 0 7 (dk_at dksX4_moves_3 9 rfl rfl)
theorem dX4_moves_84 : decode cX4_moves 84 = .ok (.iload_n 2, 1) := dk_28 (dk_at dksX4_moves_3 12 rfl rfl)
theorem dX4_moves_85 : decode cX4_moves 85 = .ok (.iload_n 3, 1) := dk_29 (dk_at dksX4_moves_3 13 rfl rfl)
theorem dX4_moves_86 : decode cX4_moves 86 = .ok (.invokestatic 91, 3) := dk_184 0 91 (dk_at dksX4_moves_3 14 rfl rfl)
theorem dX4_moves_89 : decode cX4_moves 89 = .ok (.aload_n 0, 1) := dk_42 (dk_at dksX4_moves_3 17 rfl rfl)
theorem dX4_moves_90 : decode cX4_moves 90 = .ok (.getfield 49, 3) := dk_180 0 49 (dk_at dksX4_moves_3 18 rfl rfl)
theorem dX4_moves_93 : decode cX4_moves 93 = .ok (.iload_n 3, 1) := dk_29 (dk_at dksX4_moves_3 21 rfl rfl)
theorem dX4_moves_94 : decode cX4_moves 94 = .ok (.iaload, 1) := dk_46 (dk_at dksX4_moves_3 22 rfl rfl)
theorem dX4_moves_95 : decode cX4_moves 95 = .ok (.iastore, 1) := dk_79 (dk_at dksX4_moves_3 23 rfl rfl)
theorem dX4_moves_96 : decode cX4_moves 96 = .ok (.iinc 3 1, 3) := dk_132 3 1 (dk_at dksX4_moves_4 0 rfl rfl)
theorem dX4_moves_99 : decode cX4_moves 99 = .ok (.goto (-25), 3) := dk_167 255 231 (dk_at dksX4_moves_4 3 rfl rfl)
theorem dX4_moves_102 : decode cX4_moves 102 = .ok (.aload_n 0, 1) := dk_42 (dk_at dksX4_moves_4 6 rfl rfl)
theorem dX4_moves_103 : decode cX4_moves 103 = .ok (.invokevirtual 151, 3) := dk_182 0 151 (dk_at dksX4_moves_4 7 rfl rfl)
theorem dX4_moves_106 : decode cX4_moves 106 = .ok (.ireturn, 1) := dk_172 (dk_at dksX4_moves_4 10 rfl rfl)
abbrev cX4_copies : ByteArray := prog_20_method_23_code
def yX4_copies : MethodName := ⟨RX4, "copies", "(II)V"⟩
def dkwX4_copies_1 : List UInt8 := [184, 0, 91, 46, 79, 132, 3, 1, 167, 255, 227, 177]
abbrev dktX4_copies_1 : List UInt8 := dkwX4_copies_1 ++ []
def dkwX4_copies_0 : List UInt8 := [3, 62, 29, 16, 15, 162, 0, 29, 42, 180, 0, 7, 27, 29, 184, 0, 91, 42, 180, 0, 7, 28, 29]
abbrev dktX4_copies_0 : List UInt8 := dkwX4_copies_0 ++ dktX4_copies_1
theorem dksX4_copies_0 : cX4_copies.data.toList.drop 0 = dktX4_copies_0 := by decide +kernel
theorem dksX4_copies_1 : cX4_copies.data.toList.drop 23 = dktX4_copies_1 := dk_seg dksX4_copies_0 23 rfl rfl
theorem dX4_copies_0 : decode cX4_copies 0 = .ok (.iconst 0, 1) := dk_3 (dk_at dksX4_copies_0 0 rfl rfl)
theorem dX4_copies_1 : decode cX4_copies 1 = .ok (.istore_n 3, 1) := dk_62 (dk_at dksX4_copies_0 1 rfl rfl)
theorem dX4_copies_2 : decode cX4_copies 2 = .ok (.iload_n 3, 1) := dk_29 (dk_at dksX4_copies_0 2 rfl rfl)
theorem dX4_copies_3 : decode cX4_copies 3 = .ok (.bipush 15, 2) := dk_16 15 (dk_at dksX4_copies_0 3 rfl rfl)
theorem dX4_copies_5 : decode cX4_copies 5 = .ok (.if_icmp .ge 29, 3) := dk_162 0 29 (dk_at dksX4_copies_0 5 rfl rfl)
theorem dX4_copies_8 : decode cX4_copies 8 = .ok (.aload_n 0, 1) := dk_42 (dk_at dksX4_copies_0 8 rfl rfl)
theorem dX4_copies_9 : decode cX4_copies 9 = .ok (.getfield 7, 3) := dk_180 0 7 (dk_at dksX4_copies_0 9 rfl rfl)
theorem dX4_copies_12 : decode cX4_copies 12 = .ok (.iload_n 1, 1) := dk_27 (dk_at dksX4_copies_0 12 rfl rfl)
theorem dX4_copies_13 : decode cX4_copies 13 = .ok (.iload_n 3, 1) := dk_29 (dk_at dksX4_copies_0 13 rfl rfl)
theorem dX4_copies_14 : decode cX4_copies 14 = .ok (.invokestatic 91, 3) := dk_184 0 91 (dk_at dksX4_copies_0 14 rfl rfl)
theorem dX4_copies_17 : decode cX4_copies 17 = .ok (.aload_n 0, 1) := dk_42 (dk_at dksX4_copies_0 17 rfl rfl)
theorem dX4_copies_18 : decode cX4_copies 18 = .ok (.getfield 7, 3) := dk_180 0 7 (dk_at dksX4_copies_0 18 rfl rfl)
theorem dX4_copies_21 : decode cX4_copies 21 = .ok (.iload_n 2, 1) := dk_28 (dk_at dksX4_copies_0 21 rfl rfl)
theorem dX4_copies_22 : decode cX4_copies 22 = .ok (.iload_n 3, 1) := dk_29 (dk_at dksX4_copies_0 22 rfl rfl)
theorem dX4_copies_23 : decode cX4_copies 23 = .ok (.invokestatic 91, 3) := dk_184 0 91 (dk_at dksX4_copies_1 0 rfl rfl)
theorem dX4_copies_26 : decode cX4_copies 26 = .ok (.iaload, 1) := dk_46 (dk_at dksX4_copies_1 3 rfl rfl)
theorem dX4_copies_27 : decode cX4_copies 27 = .ok (.iastore, 1) := dk_79 (dk_at dksX4_copies_1 4 rfl rfl)
theorem dX4_copies_28 : decode cX4_copies 28 = .ok (.iinc 3 1, 3) := dk_132 3 1 (dk_at dksX4_copies_1 5 rfl rfl)
theorem dX4_copies_31 : decode cX4_copies 31 = .ok (.goto (-29), 3) := dk_167 255 227 (dk_at dksX4_copies_1 8 rfl rfl)
theorem dX4_copies_34 : decode cX4_copies 34 = .ok (.return_, 1) := dk_177 (dk_at dksX4_copies_1 11 rfl rfl)
abbrev cX4_crossed : ByteArray := prog_20_method_49_code
def yX4_crossed : MethodName := ⟨RX4, "crossed", "()I"⟩
def dkwX4_crossed_3 : List UInt8 := [167, 255, 207, 132, 2, 1, 167, 255, 191, 27, 172]
abbrev dktX4_crossed_3 : List UInt8 := dkwX4_crossed_3 ++ []
def dkwX4_crossed_2 : List UInt8 := [182, 0, 105, 42, 29, 3, 182, 0, 105, 164, 0, 7, 4, 167, 0, 4, 3, 96, 60, 132, 3, 1]
abbrev dktX4_crossed_2 : List UInt8 := dkwX4_crossed_2 ++ dktX4_crossed_3
def dkwX4_crossed_1 : List UInt8 := [162, 0, 47, 27, 42, 180, 0, 22, 28, 46, 42, 180, 0, 22, 29, 46, 162, 0, 22, 42, 28, 3]
abbrev dktX4_crossed_1 : List UInt8 := dkwX4_crossed_1 ++ dktX4_crossed_2
def dkwX4_crossed_0 : List UInt8 := [42, 182, 0, 99, 3, 60, 3, 61, 28, 42, 180, 0, 102, 162, 0, 63, 3, 62, 29, 42, 180, 0, 102]
abbrev dktX4_crossed_0 : List UInt8 := dkwX4_crossed_0 ++ dktX4_crossed_1
theorem dksX4_crossed_0 : cX4_crossed.data.toList.drop 0 = dktX4_crossed_0 := by decide +kernel
theorem dksX4_crossed_1 : cX4_crossed.data.toList.drop 23 = dktX4_crossed_1 := dk_seg dksX4_crossed_0 23 rfl rfl
theorem dksX4_crossed_2 : cX4_crossed.data.toList.drop 45 = dktX4_crossed_2 := dk_seg dksX4_crossed_1 22 rfl rfl
theorem dksX4_crossed_3 : cX4_crossed.data.toList.drop 67 = dktX4_crossed_3 := dk_seg dksX4_crossed_2 22 rfl rfl
theorem dX4_crossed_0 : decode cX4_crossed 0 = .ok (.aload_n 0, 1) := dk_42 (dk_at dksX4_crossed_0 0 rfl rfl)
theorem dX4_crossed_1 : decode cX4_crossed 1 = .ok (.invokevirtual 99, 3) := dk_182 0 99 (dk_at dksX4_crossed_0 1 rfl rfl)
theorem dX4_crossed_4 : decode cX4_crossed 4 = .ok (.iconst 0, 1) := dk_3 (dk_at dksX4_crossed_0 4 rfl rfl)
theorem dX4_crossed_5 : decode cX4_crossed 5 = .ok (.istore_n 1, 1) := dk_60 (dk_at dksX4_crossed_0 5 rfl rfl)
theorem dX4_crossed_6 : decode cX4_crossed 6 = .ok (.iconst 0, 1) := dk_3 (dk_at dksX4_crossed_0 6 rfl rfl)
theorem dX4_crossed_7 : decode cX4_crossed 7 = .ok (.istore_n 2, 1) := dk_61 (dk_at dksX4_crossed_0 7 rfl rfl)
theorem dX4_crossed_8 : decode cX4_crossed 8 = .ok (.iload_n 2, 1) := dk_28 (dk_at dksX4_crossed_0 8 rfl rfl)
theorem dX4_crossed_9 : decode cX4_crossed 9 = .ok (.aload_n 0, 1) := dk_42 (dk_at dksX4_crossed_0 9 rfl rfl)
theorem dX4_crossed_10 : decode cX4_crossed 10 = .ok (.getfield 102, 3) := dk_180 0 102 (dk_at dksX4_crossed_0 10 rfl rfl)
theorem dX4_crossed_13 : decode cX4_crossed 13 = .ok (.if_icmp .ge 63, 3) := dk_162 0 63 (dk_at dksX4_crossed_0 13 rfl rfl)
theorem dX4_crossed_16 : decode cX4_crossed 16 = .ok (.iconst 0, 1) := dk_3 (dk_at dksX4_crossed_0 16 rfl rfl)
theorem dX4_crossed_17 : decode cX4_crossed 17 = .ok (.istore_n 3, 1) := dk_62 (dk_at dksX4_crossed_0 17 rfl rfl)
theorem dX4_crossed_18 : decode cX4_crossed 18 = .ok (.iload_n 3, 1) := dk_29 (dk_at dksX4_crossed_0 18 rfl rfl)
theorem dX4_crossed_19 : decode cX4_crossed 19 = .ok (.aload_n 0, 1) := dk_42 (dk_at dksX4_crossed_0 19 rfl rfl)
theorem dX4_crossed_20 : decode cX4_crossed 20 = .ok (.getfield 102, 3) := dk_180 0 102 (dk_at dksX4_crossed_0 20 rfl rfl)
theorem dX4_crossed_23 : decode cX4_crossed 23 = .ok (.if_icmp .ge 47, 3) := dk_162 0 47 (dk_at dksX4_crossed_1 0 rfl rfl)
theorem dX4_crossed_26 : decode cX4_crossed 26 = .ok (.iload_n 1, 1) := dk_27 (dk_at dksX4_crossed_1 3 rfl rfl)
theorem dX4_crossed_27 : decode cX4_crossed 27 = .ok (.aload_n 0, 1) := dk_42 (dk_at dksX4_crossed_1 4 rfl rfl)
theorem dX4_crossed_28 : decode cX4_crossed 28 = .ok (.getfield 22, 3) := dk_180 0 22 (dk_at dksX4_crossed_1 5 rfl rfl)
theorem dX4_crossed_31 : decode cX4_crossed 31 = .ok (.iload_n 2, 1) := dk_28 (dk_at dksX4_crossed_1 8 rfl rfl)
theorem dX4_crossed_32 : decode cX4_crossed 32 = .ok (.iaload, 1) := dk_46 (dk_at dksX4_crossed_1 9 rfl rfl)
theorem dX4_crossed_33 : decode cX4_crossed 33 = .ok (.aload_n 0, 1) := dk_42 (dk_at dksX4_crossed_1 10 rfl rfl)
theorem dX4_crossed_34 : decode cX4_crossed 34 = .ok (.getfield 22, 3) := dk_180 0 22 (dk_at dksX4_crossed_1 11 rfl rfl)
theorem dX4_crossed_37 : decode cX4_crossed 37 = .ok (.iload_n 3, 1) := dk_29 (dk_at dksX4_crossed_1 14 rfl rfl)
theorem dX4_crossed_38 : decode cX4_crossed 38 = .ok (.iaload, 1) := dk_46 (dk_at dksX4_crossed_1 15 rfl rfl)
theorem dX4_crossed_39 : decode cX4_crossed 39 = .ok (.if_icmp .ge 22, 3) := dk_162 0 22 (dk_at dksX4_crossed_1 16 rfl rfl)
theorem dX4_crossed_42 : decode cX4_crossed 42 = .ok (.aload_n 0, 1) := dk_42 (dk_at dksX4_crossed_1 19 rfl rfl)
theorem dX4_crossed_43 : decode cX4_crossed 43 = .ok (.iload_n 2, 1) := dk_28 (dk_at dksX4_crossed_1 20 rfl rfl)
theorem dX4_crossed_44 : decode cX4_crossed 44 = .ok (.iconst 0, 1) := dk_3 (dk_at dksX4_crossed_1 21 rfl rfl)
theorem dX4_crossed_45 : decode cX4_crossed 45 = .ok (.invokevirtual 105, 3) := dk_182 0 105 (dk_at dksX4_crossed_2 0 rfl rfl)
theorem dX4_crossed_48 : decode cX4_crossed 48 = .ok (.aload_n 0, 1) := dk_42 (dk_at dksX4_crossed_2 3 rfl rfl)
theorem dX4_crossed_49 : decode cX4_crossed 49 = .ok (.iload_n 3, 1) := dk_29 (dk_at dksX4_crossed_2 4 rfl rfl)
theorem dX4_crossed_50 : decode cX4_crossed 50 = .ok (.iconst 0, 1) := dk_3 (dk_at dksX4_crossed_2 5 rfl rfl)
theorem dX4_crossed_51 : decode cX4_crossed 51 = .ok (.invokevirtual 105, 3) := dk_182 0 105 (dk_at dksX4_crossed_2 6 rfl rfl)
theorem dX4_crossed_54 : decode cX4_crossed 54 = .ok (.if_icmp .le 7, 3) := dk_164 0 7 (dk_at dksX4_crossed_2 9 rfl rfl)
theorem dX4_crossed_57 : decode cX4_crossed 57 = .ok (.iconst 1, 1) := dk_4 (dk_at dksX4_crossed_2 12 rfl rfl)
theorem dX4_crossed_58 : decode cX4_crossed 58 = .ok (.goto 4, 3) := dk_167 0 4 (dk_at dksX4_crossed_2 13 rfl rfl)
theorem dX4_crossed_61 : decode cX4_crossed 61 = .ok (.iconst 0, 1) := dk_3 (dk_at dksX4_crossed_2 16 rfl rfl)
theorem dX4_crossed_62 : decode cX4_crossed 62 = .ok (.iadd, 1) := dk_96 (dk_at dksX4_crossed_2 17 rfl rfl)
theorem dX4_crossed_63 : decode cX4_crossed 63 = .ok (.istore_n 1, 1) := dk_60 (dk_at dksX4_crossed_2 18 rfl rfl)
theorem dX4_crossed_64 : decode cX4_crossed 64 = .ok (.iinc 3 1, 3) := dk_132 3 1 (dk_at dksX4_crossed_2 19 rfl rfl)
theorem dX4_crossed_67 : decode cX4_crossed 67 = .ok (.goto (-49), 3) := dk_167 255 207 (dk_at dksX4_crossed_3 0 rfl rfl)
theorem dX4_crossed_70 : decode cX4_crossed 70 = .ok (.iinc 2 1, 3) := dk_132 2 1 (dk_at dksX4_crossed_3 3 rfl rfl)
theorem dX4_crossed_73 : decode cX4_crossed 73 = .ok (.goto (-65), 3) := dk_167 255 191 (dk_at dksX4_crossed_3 6 rfl rfl)
theorem dX4_crossed_76 : decode cX4_crossed 76 = .ok (.iload_n 1, 1) := dk_27 (dk_at dksX4_crossed_3 9 rfl rfl)
theorem dX4_crossed_77 : decode cX4_crossed 77 = .ok (.ireturn, 1) := dk_172 (dk_at dksX4_crossed_3 10 rfl rfl)
abbrev cX4_drop : ByteArray := prog_20_method_26_code
def yX4_drop : MethodName := ⟨RX4, "drop", "(I)I"⟩
def dkwX4_drop_2 : List UInt8 := [132, 2, 1, 167, 255, 234, 42, 42, 180, 0, 7, 16, 11, 46, 182, 0, 122, 172]
abbrev dktX4_drop_2 : List UInt8 := dkwX4_drop_2 ++ []
def dkwX4_drop_1 : List UInt8 := [79, 27, 61, 28, 42, 180, 0, 7, 16, 11, 46, 162, 0, 17, 42, 28, 28, 4, 96, 182, 0, 147]
abbrev dktX4_drop_1 : List UInt8 := dkwX4_drop_1 ++ dktX4_drop_2
def dkwX4_drop_0 : List UInt8 := [42, 182, 0, 115, 42, 27, 182, 0, 140, 154, 0, 5, 2, 172, 42, 180, 0, 7, 16, 11, 92, 46, 4, 100]
abbrev dktX4_drop_0 : List UInt8 := dkwX4_drop_0 ++ dktX4_drop_1
theorem dksX4_drop_0 : cX4_drop.data.toList.drop 0 = dktX4_drop_0 := by decide +kernel
theorem dksX4_drop_1 : cX4_drop.data.toList.drop 24 = dktX4_drop_1 := dk_seg dksX4_drop_0 24 rfl rfl
theorem dksX4_drop_2 : cX4_drop.data.toList.drop 46 = dktX4_drop_2 := dk_seg dksX4_drop_1 22 rfl rfl
theorem dX4_drop_0 : decode cX4_drop 0 = .ok (.aload_n 0, 1) := dk_42 (dk_at dksX4_drop_0 0 rfl rfl)
theorem dX4_drop_1 : decode cX4_drop 1 = .ok (.invokevirtual 115, 3) := dk_182 0 115 (dk_at dksX4_drop_0 1 rfl rfl)
theorem dX4_drop_4 : decode cX4_drop 4 = .ok (.aload_n 0, 1) := dk_42 (dk_at dksX4_drop_0 4 rfl rfl)
theorem dX4_drop_5 : decode cX4_drop 5 = .ok (.iload_n 1, 1) := dk_27 (dk_at dksX4_drop_0 5 rfl rfl)
theorem dX4_drop_6 : decode cX4_drop 6 = .ok (.invokevirtual 140, 3) := dk_182 0 140 (dk_at dksX4_drop_0 6 rfl rfl)
theorem dX4_drop_9 : decode cX4_drop 9 = .ok (.ifCond .ne 5, 3) := dk_154 0 5 (dk_at dksX4_drop_0 9 rfl rfl)
theorem dX4_drop_12 : decode cX4_drop 12 = .ok (.iconst (-1), 1) := dk_2 (dk_at dksX4_drop_0 12 rfl rfl)
theorem dX4_drop_13 : decode cX4_drop 13 = .ok (.ireturn, 1) := dk_172 (dk_at dksX4_drop_0 13 rfl rfl)
theorem dX4_drop_14 : decode cX4_drop 14 = .ok (.aload_n 0, 1) := dk_42 (dk_at dksX4_drop_0 14 rfl rfl)
theorem dX4_drop_15 : decode cX4_drop 15 = .ok (.getfield 7, 3) := dk_180 0 7 (dk_at dksX4_drop_0 15 rfl rfl)
theorem dX4_drop_18 : decode cX4_drop 18 = .ok (.bipush 11, 2) := dk_16 11 (dk_at dksX4_drop_0 18 rfl rfl)
theorem dX4_drop_20 : decode cX4_drop 20 = .ok (.dup2, 1) := dk_92 (dk_at dksX4_drop_0 20 rfl rfl)
theorem dX4_drop_21 : decode cX4_drop 21 = .ok (.iaload, 1) := dk_46 (dk_at dksX4_drop_0 21 rfl rfl)
theorem dX4_drop_22 : decode cX4_drop 22 = .ok (.iconst 1, 1) := dk_4 (dk_at dksX4_drop_0 22 rfl rfl)
theorem dX4_drop_23 : decode cX4_drop 23 = .ok (.isub, 1) := dk_100 (dk_at dksX4_drop_0 23 rfl rfl)
theorem dX4_drop_24 : decode cX4_drop 24 = .ok (.iastore, 1) := dk_79 (dk_at dksX4_drop_1 0 rfl rfl)
theorem dX4_drop_25 : decode cX4_drop 25 = .ok (.iload_n 1, 1) := dk_27 (dk_at dksX4_drop_1 1 rfl rfl)
theorem dX4_drop_26 : decode cX4_drop 26 = .ok (.istore_n 2, 1) := dk_61 (dk_at dksX4_drop_1 2 rfl rfl)
theorem dX4_drop_27 : decode cX4_drop 27 = .ok (.iload_n 2, 1) := dk_28 (dk_at dksX4_drop_1 3 rfl rfl)
theorem dX4_drop_28 : decode cX4_drop 28 = .ok (.aload_n 0, 1) := dk_42 (dk_at dksX4_drop_1 4 rfl rfl)
theorem dX4_drop_29 : decode cX4_drop 29 = .ok (.getfield 7, 3) := dk_180 0 7 (dk_at dksX4_drop_1 5 rfl rfl)
theorem dX4_drop_32 : decode cX4_drop 32 = .ok (.bipush 11, 2) := dk_16 11 (dk_at dksX4_drop_1 8 rfl rfl)
theorem dX4_drop_34 : decode cX4_drop 34 = .ok (.iaload, 1) := dk_46 (dk_at dksX4_drop_1 10 rfl rfl)
theorem dX4_drop_35 : decode cX4_drop 35 = .ok (.if_icmp .ge 17, 3) := dk_162 0 17 (dk_at dksX4_drop_1 11 rfl rfl)
theorem dX4_drop_38 : decode cX4_drop 38 = .ok (.aload_n 0, 1) := dk_42 (dk_at dksX4_drop_1 14 rfl rfl)
theorem dX4_drop_39 : decode cX4_drop 39 = .ok (.iload_n 2, 1) := dk_28 (dk_at dksX4_drop_1 15 rfl rfl)
theorem dX4_drop_40 : decode cX4_drop 40 = .ok (.iload_n 2, 1) := dk_28 (dk_at dksX4_drop_1 16 rfl rfl)
theorem dX4_drop_41 : decode cX4_drop 41 = .ok (.iconst 1, 1) := dk_4 (dk_at dksX4_drop_1 17 rfl rfl)
theorem dX4_drop_42 : decode cX4_drop 42 = .ok (.iadd, 1) := dk_96 (dk_at dksX4_drop_1 18 rfl rfl)
theorem dX4_drop_43 : decode cX4_drop 43 = .ok (.invokevirtual 147, 3) := dk_182 0 147 (dk_at dksX4_drop_1 19 rfl rfl)
theorem dX4_drop_46 : decode cX4_drop 46 = .ok (.iinc 2 1, 3) := dk_132 2 1 (dk_at dksX4_drop_2 0 rfl rfl)
theorem dX4_drop_49 : decode cX4_drop 49 = .ok (.goto (-22), 3) := dk_167 255 234 (dk_at dksX4_drop_2 3 rfl rfl)
theorem dX4_drop_52 : decode cX4_drop 52 = .ok (.aload_n 0, 1) := dk_42 (dk_at dksX4_drop_2 6 rfl rfl)
theorem dX4_drop_53 : decode cX4_drop 53 = .ok (.aload_n 0, 1) := dk_42 (dk_at dksX4_drop_2 7 rfl rfl)
theorem dX4_drop_54 : decode cX4_drop 54 = .ok (.getfield 7, 3) := dk_180 0 7 (dk_at dksX4_drop_2 8 rfl rfl)
theorem dX4_drop_57 : decode cX4_drop 57 = .ok (.bipush 11, 2) := dk_16 11 (dk_at dksX4_drop_2 11 rfl rfl)
theorem dX4_drop_59 : decode cX4_drop 59 = .ok (.iaload, 1) := dk_46 (dk_at dksX4_drop_2 13 rfl rfl)
theorem dX4_drop_60 : decode cX4_drop 60 = .ok (.invokevirtual 122, 3) := dk_182 0 122 (dk_at dksX4_drop_2 14 rfl rfl)
theorem dX4_drop_63 : decode cX4_drop 63 = .ok (.ireturn, 1) := dk_172 (dk_at dksX4_drop_2 17 rfl rfl)
abbrev cX4_read : ByteArray := prog_20_method_29_code
def yX4_read : MethodName := ⟨RX4, "read", "(II)I"⟩
def dkwX4_read_0 : List UInt8 := [42, 182, 0, 115, 42, 42, 27, 28, 182, 0, 161, 182, 0, 122, 172]
abbrev dktX4_read_0 : List UInt8 := dkwX4_read_0 ++ []
theorem dksX4_read_0 : cX4_read.data.toList.drop 0 = dktX4_read_0 := by decide +kernel
theorem dX4_read_0 : decode cX4_read 0 = .ok (.aload_n 0, 1) := dk_42 (dk_at dksX4_read_0 0 rfl rfl)
theorem dX4_read_1 : decode cX4_read 1 = .ok (.invokevirtual 115, 3) := dk_182 0 115 (dk_at dksX4_read_0 1 rfl rfl)
theorem dX4_read_4 : decode cX4_read 4 = .ok (.aload_n 0, 1) := dk_42 (dk_at dksX4_read_0 4 rfl rfl)
theorem dX4_read_5 : decode cX4_read 5 = .ok (.aload_n 0, 1) := dk_42 (dk_at dksX4_read_0 5 rfl rfl)
theorem dX4_read_6 : decode cX4_read 6 = .ok (.iload_n 1, 1) := dk_27 (dk_at dksX4_read_0 6 rfl rfl)
theorem dX4_read_7 : decode cX4_read 7 = .ok (.iload_n 2, 1) := dk_28 (dk_at dksX4_read_0 7 rfl rfl)
theorem dX4_read_8 : decode cX4_read 8 = .ok (.invokevirtual 161, 3) := dk_182 0 161 (dk_at dksX4_read_0 8 rfl rfl)
theorem dX4_read_11 : decode cX4_read 11 = .ok (.invokevirtual 122, 3) := dk_182 0 122 (dk_at dksX4_read_0 11 rfl rfl)
theorem dX4_read_14 : decode cX4_read 14 = .ok (.ireturn, 1) := dk_172 (dk_at dksX4_read_0 14 rfl rfl)
abbrev cX4_reads : ByteArray := prog_20_method_28_code
def yX4_reads : MethodName := ⟨RX4, "reads", "(II)I"⟩
def dkwX4_reads_9 : List UInt8 := [21, 4, 79, 42, 180, 0, 7, 16, 10, 92, 46, 4, 96, 79, 29, 172]
abbrev dktX4_reads_9 : List UInt8 := dkwX4_reads_9 ++ []
def dkwX4_reads_8 : List UInt8 := [54, 4, 42, 180, 0, 7, 27, 4, 184, 0, 91, 21, 4, 16, 99, 164, 0, 8, 16, 99, 167, 0, 5]
abbrev dktX4_reads_8 : List UInt8 := dkwX4_reads_8 ++ dktX4_reads_9
def dkwX4_reads_7 : List UInt8 := [184, 0, 136, 4, 79, 132, 4, 1, 167, 255, 210, 42, 180, 0, 7, 27, 4, 184, 0, 91, 46, 28, 96]
abbrev dktX4_reads_7 : List UInt8 := dkwX4_reads_7 ++ dktX4_reads_8
def dkwX4_reads_6 : List UInt8 := [180, 0, 7, 27, 21, 4, 6, 184, 0, 136, 46, 154, 0, 16, 42, 180, 0, 7, 27, 21, 4, 6]
abbrev dktX4_reads_6 : List UInt8 := dkwX4_reads_6 ++ dktX4_reads_7
def dkwX4_reads_5 : List UInt8 := [46, 182, 0, 108, 172, 3, 54, 4, 21, 4, 42, 180, 0, 7, 27, 5, 184, 0, 91, 46, 162, 0, 37, 42]
abbrev dktX4_reads_5 : List UInt8 := dkwX4_reads_5 ++ dktX4_reads_6
def dkwX4_reads_4 : List UInt8 := [3, 96, 62, 132, 4, 1, 167, 255, 215, 29, 154, 0, 19, 42, 7, 42, 180, 0, 7, 27, 5, 184, 0, 91]
abbrev dktX4_reads_4 : List UInt8 := dkwX4_reads_4 ++ dktX4_reads_5
def dkwX4_reads_3 : List UInt8 := [46, 162, 0, 32, 29, 42, 180, 0, 7, 27, 21, 4, 6, 184, 0, 136, 46, 154, 0, 7, 4, 167, 0, 4]
abbrev dktX4_reads_3 : List UInt8 := dkwX4_reads_3 ++ dktX4_reads_4
def dkwX4_reads_2 : List UInt8 := [184, 0, 91, 46, 182, 0, 108, 172, 3, 62, 3, 54, 4, 21, 4, 42, 180, 0, 7, 27, 5, 184, 0, 91]
abbrev dktX4_reads_2 : List UInt8 := dkwX4_reads_2 ++ dktX4_reads_3
def dkwX4_reads_1 : List UInt8 := [42, 4, 28, 182, 0, 108, 172, 42, 27, 28, 182, 0, 157, 154, 0, 19, 42, 6, 42, 180, 0, 7, 27, 4]
abbrev dktX4_reads_1 : List UInt8 := dkwX4_reads_1 ++ dktX4_reads_2
def dkwX4_reads_0 : List UInt8 := [42, 27, 182, 0, 140, 154, 0, 10, 42, 4, 27, 182, 0, 108, 172, 28, 3, 5, 184, 0, 87, 154, 0, 10]
abbrev dktX4_reads_0 : List UInt8 := dkwX4_reads_0 ++ dktX4_reads_1
theorem dksX4_reads_0 : cX4_reads.data.toList.drop 0 = dktX4_reads_0 := by decide +kernel
theorem dksX4_reads_1 : cX4_reads.data.toList.drop 24 = dktX4_reads_1 := dk_seg dksX4_reads_0 24 rfl rfl
theorem dksX4_reads_2 : cX4_reads.data.toList.drop 48 = dktX4_reads_2 := dk_seg dksX4_reads_1 24 rfl rfl
theorem dksX4_reads_3 : cX4_reads.data.toList.drop 72 = dktX4_reads_3 := dk_seg dksX4_reads_2 24 rfl rfl
theorem dksX4_reads_4 : cX4_reads.data.toList.drop 96 = dktX4_reads_4 := dk_seg dksX4_reads_3 24 rfl rfl
theorem dksX4_reads_5 : cX4_reads.data.toList.drop 120 = dktX4_reads_5 := dk_seg dksX4_reads_4 24 rfl rfl
theorem dksX4_reads_6 : cX4_reads.data.toList.drop 144 = dktX4_reads_6 := dk_seg dksX4_reads_5 24 rfl rfl
theorem dksX4_reads_7 : cX4_reads.data.toList.drop 166 = dktX4_reads_7 := dk_seg dksX4_reads_6 22 rfl rfl
theorem dksX4_reads_8 : cX4_reads.data.toList.drop 189 = dktX4_reads_8 := dk_seg dksX4_reads_7 23 rfl rfl
theorem dksX4_reads_9 : cX4_reads.data.toList.drop 212 = dktX4_reads_9 := dk_seg dksX4_reads_8 23 rfl rfl
theorem dX4_reads_0 : decode cX4_reads 0 = .ok (.aload_n 0, 1) := dk_42 (dk_at dksX4_reads_0 0 rfl rfl)
theorem dX4_reads_1 : decode cX4_reads 1 = .ok (.iload_n 1, 1) := dk_27 (dk_at dksX4_reads_0 1 rfl rfl)
theorem dX4_reads_2 : decode cX4_reads 2 = .ok (.invokevirtual 140, 3) := dk_182 0 140 (dk_at dksX4_reads_0 2 rfl rfl)
theorem dX4_reads_5 : decode cX4_reads 5 = .ok (.ifCond .ne 10, 3) := dk_154 0 10 (dk_at dksX4_reads_0 5 rfl rfl)
theorem dX4_reads_8 : decode cX4_reads 8 = .ok (.aload_n 0, 1) := dk_42 (dk_at dksX4_reads_0 8 rfl rfl)
theorem dX4_reads_9 : decode cX4_reads 9 = .ok (.iconst 1, 1) := dk_4 (dk_at dksX4_reads_0 9 rfl rfl)
theorem dX4_reads_10 : decode cX4_reads 10 = .ok (.iload_n 1, 1) := dk_27 (dk_at dksX4_reads_0 10 rfl rfl)
theorem dX4_reads_11 : decode cX4_reads 11 = .ok (.invokevirtual 108, 3) := dk_182 0 108 (dk_at dksX4_reads_0 11 rfl rfl)
theorem dX4_reads_14 : decode cX4_reads 14 = .ok (.ireturn, 1) := dk_172 (dk_at dksX4_reads_0 14 rfl rfl)
theorem dX4_reads_15 : decode cX4_reads 15 = .ok (.iload_n 2, 1) := dk_28 (dk_at dksX4_reads_0 15 rfl rfl)
theorem dX4_reads_16 : decode cX4_reads 16 = .ok (.iconst 0, 1) := dk_3 (dk_at dksX4_reads_0 16 rfl rfl)
theorem dX4_reads_17 : decode cX4_reads 17 = .ok (.iconst 2, 1) := dk_5 (dk_at dksX4_reads_0 17 rfl rfl)
theorem dX4_reads_18 : decode cX4_reads 18 = .ok (.invokestatic 87, 3) := dk_184 0 87 (dk_at dksX4_reads_0 18 rfl rfl)
theorem dX4_reads_21 : decode cX4_reads 21 = .ok (.ifCond .ne 10, 3) := dk_154 0 10 (dk_at dksX4_reads_0 21 rfl rfl)
theorem dX4_reads_24 : decode cX4_reads 24 = .ok (.aload_n 0, 1) := dk_42 (dk_at dksX4_reads_1 0 rfl rfl)
theorem dX4_reads_25 : decode cX4_reads 25 = .ok (.iconst 1, 1) := dk_4 (dk_at dksX4_reads_1 1 rfl rfl)
theorem dX4_reads_26 : decode cX4_reads 26 = .ok (.iload_n 2, 1) := dk_28 (dk_at dksX4_reads_1 2 rfl rfl)
theorem dX4_reads_27 : decode cX4_reads 27 = .ok (.invokevirtual 108, 3) := dk_182 0 108 (dk_at dksX4_reads_1 3 rfl rfl)
theorem dX4_reads_30 : decode cX4_reads 30 = .ok (.ireturn, 1) := dk_172 (dk_at dksX4_reads_1 6 rfl rfl)
theorem dX4_reads_31 : decode cX4_reads 31 = .ok (.aload_n 0, 1) := dk_42 (dk_at dksX4_reads_1 7 rfl rfl)
theorem dX4_reads_32 : decode cX4_reads 32 = .ok (.iload_n 1, 1) := dk_27 (dk_at dksX4_reads_1 8 rfl rfl)
theorem dX4_reads_33 : decode cX4_reads 33 = .ok (.iload_n 2, 1) := dk_28 (dk_at dksX4_reads_1 9 rfl rfl)
theorem dX4_reads_34 : decode cX4_reads 34 = .ok (.invokevirtual 157, 3) := dk_182 0 157 (dk_at dksX4_reads_1 10 rfl rfl)
theorem dX4_reads_37 : decode cX4_reads 37 = .ok (.ifCond .ne 19, 3) := dk_154 0 19 (dk_at dksX4_reads_1 13 rfl rfl)
theorem dX4_reads_40 : decode cX4_reads 40 = .ok (.aload_n 0, 1) := dk_42 (dk_at dksX4_reads_1 16 rfl rfl)
theorem dX4_reads_41 : decode cX4_reads 41 = .ok (.iconst 3, 1) := dk_6 (dk_at dksX4_reads_1 17 rfl rfl)
theorem dX4_reads_42 : decode cX4_reads 42 = .ok (.aload_n 0, 1) := dk_42 (dk_at dksX4_reads_1 18 rfl rfl)
theorem dX4_reads_43 : decode cX4_reads 43 = .ok (.getfield 7, 3) := dk_180 0 7 (dk_at dksX4_reads_1 19 rfl rfl)
theorem dX4_reads_46 : decode cX4_reads 46 = .ok (.iload_n 1, 1) := dk_27 (dk_at dksX4_reads_1 22 rfl rfl)
theorem dX4_reads_47 : decode cX4_reads 47 = .ok (.iconst 1, 1) := dk_4 (dk_at dksX4_reads_1 23 rfl rfl)
theorem dX4_reads_48 : decode cX4_reads 48 = .ok (.invokestatic 91, 3) := dk_184 0 91 (dk_at dksX4_reads_2 0 rfl rfl)
theorem dX4_reads_51 : decode cX4_reads 51 = .ok (.iaload, 1) := dk_46 (dk_at dksX4_reads_2 3 rfl rfl)
theorem dX4_reads_52 : decode cX4_reads 52 = .ok (.invokevirtual 108, 3) := dk_182 0 108 (dk_at dksX4_reads_2 4 rfl rfl)
theorem dX4_reads_55 : decode cX4_reads 55 = .ok (.ireturn, 1) := dk_172 (dk_at dksX4_reads_2 7 rfl rfl)
theorem dX4_reads_56 : decode cX4_reads 56 = .ok (.iconst 0, 1) := dk_3 (dk_at dksX4_reads_2 8 rfl rfl)
theorem dX4_reads_57 : decode cX4_reads 57 = .ok (.istore_n 3, 1) := dk_62 (dk_at dksX4_reads_2 9 rfl rfl)
theorem dX4_reads_58 : decode cX4_reads 58 = .ok (.iconst 0, 1) := dk_3 (dk_at dksX4_reads_2 10 rfl rfl)
theorem dX4_reads_59 : decode cX4_reads 59 = .ok (.istore 4, 2) := dk_54 4 (dk_at dksX4_reads_2 11 rfl rfl)
theorem dX4_reads_61 : decode cX4_reads 61 = .ok (.iload 4, 2) := dk_21 4 (dk_at dksX4_reads_2 13 rfl rfl)
theorem dX4_reads_63 : decode cX4_reads 63 = .ok (.aload_n 0, 1) := dk_42 (dk_at dksX4_reads_2 15 rfl rfl)
theorem dX4_reads_64 : decode cX4_reads 64 = .ok (.getfield 7, 3) := dk_180 0 7 (dk_at dksX4_reads_2 16 rfl rfl)
theorem dX4_reads_67 : decode cX4_reads 67 = .ok (.iload_n 1, 1) := dk_27 (dk_at dksX4_reads_2 19 rfl rfl)
theorem dX4_reads_68 : decode cX4_reads 68 = .ok (.iconst 2, 1) := dk_5 (dk_at dksX4_reads_2 20 rfl rfl)
theorem dX4_reads_69 : decode cX4_reads 69 = .ok (.invokestatic 91, 3) := dk_184 0 91 (dk_at dksX4_reads_2 21 rfl rfl)
theorem dX4_reads_72 : decode cX4_reads 72 = .ok (.iaload, 1) := dk_46 (dk_at dksX4_reads_3 0 rfl rfl)
theorem dX4_reads_73 : decode cX4_reads 73 = .ok (.if_icmp .ge 32, 3) := dk_162 0 32 (dk_at dksX4_reads_3 1 rfl rfl)
theorem dX4_reads_76 : decode cX4_reads 76 = .ok (.iload_n 3, 1) := dk_29 (dk_at dksX4_reads_3 4 rfl rfl)
theorem dX4_reads_77 : decode cX4_reads 77 = .ok (.aload_n 0, 1) := dk_42 (dk_at dksX4_reads_3 5 rfl rfl)
theorem dX4_reads_78 : decode cX4_reads 78 = .ok (.getfield 7, 3) := dk_180 0 7 (dk_at dksX4_reads_3 6 rfl rfl)
theorem dX4_reads_81 : decode cX4_reads 81 = .ok (.iload_n 1, 1) := dk_27 (dk_at dksX4_reads_3 9 rfl rfl)
theorem dX4_reads_82 : decode cX4_reads 82 = .ok (.iload 4, 2) := dk_21 4 (dk_at dksX4_reads_3 10 rfl rfl)
theorem dX4_reads_84 : decode cX4_reads 84 = .ok (.iconst 3, 1) := dk_6 (dk_at dksX4_reads_3 12 rfl rfl)
theorem dX4_reads_85 : decode cX4_reads 85 = .ok (.invokestatic 136, 3) := dk_184 0 136 (dk_at dksX4_reads_3 13 rfl rfl)
theorem dX4_reads_88 : decode cX4_reads 88 = .ok (.iaload, 1) := dk_46 (dk_at dksX4_reads_3 16 rfl rfl)
theorem dX4_reads_89 : decode cX4_reads 89 = .ok (.ifCond .ne 7, 3) := dk_154 0 7 (dk_at dksX4_reads_3 17 rfl rfl)
theorem dX4_reads_92 : decode cX4_reads 92 = .ok (.iconst 1, 1) := dk_4 (dk_at dksX4_reads_3 20 rfl rfl)
theorem dX4_reads_93 : decode cX4_reads 93 = .ok (.goto 4, 3) := dk_167 0 4 (dk_at dksX4_reads_3 21 rfl rfl)
theorem dX4_reads_96 : decode cX4_reads 96 = .ok (.iconst 0, 1) := dk_3 (dk_at dksX4_reads_4 0 rfl rfl)
theorem dX4_reads_97 : decode cX4_reads 97 = .ok (.iadd, 1) := dk_96 (dk_at dksX4_reads_4 1 rfl rfl)
theorem dX4_reads_98 : decode cX4_reads 98 = .ok (.istore_n 3, 1) := dk_62 (dk_at dksX4_reads_4 2 rfl rfl)
theorem dX4_reads_99 : decode cX4_reads 99 = .ok (.iinc 4 1, 3) := dk_132 4 1 (dk_at dksX4_reads_4 3 rfl rfl)
theorem dX4_reads_102 : decode cX4_reads 102 = .ok (.goto (-41), 3) := dk_167 255 215 (dk_at dksX4_reads_4 6 rfl rfl)
theorem dX4_reads_105 : decode cX4_reads 105 = .ok (.iload_n 3, 1) := dk_29 (dk_at dksX4_reads_4 9 rfl rfl)
theorem dX4_reads_106 : decode cX4_reads 106 = .ok (.ifCond .ne 19, 3) := dk_154 0 19 (dk_at dksX4_reads_4 10 rfl rfl)
theorem dX4_reads_109 : decode cX4_reads 109 = .ok (.aload_n 0, 1) := dk_42 (dk_at dksX4_reads_4 13 rfl rfl)
theorem dX4_reads_110 : decode cX4_reads 110 = .ok (.iconst 4, 1) := dk_7 (dk_at dksX4_reads_4 14 rfl rfl)
theorem dX4_reads_111 : decode cX4_reads 111 = .ok (.aload_n 0, 1) := dk_42 (dk_at dksX4_reads_4 15 rfl rfl)
theorem dX4_reads_112 : decode cX4_reads 112 = .ok (.getfield 7, 3) := dk_180 0 7 (dk_at dksX4_reads_4 16 rfl rfl)
theorem dX4_reads_115 : decode cX4_reads 115 = .ok (.iload_n 1, 1) := dk_27 (dk_at dksX4_reads_4 19 rfl rfl)
theorem dX4_reads_116 : decode cX4_reads 116 = .ok (.iconst 2, 1) := dk_5 (dk_at dksX4_reads_4 20 rfl rfl)
theorem dX4_reads_117 : decode cX4_reads 117 = .ok (.invokestatic 91, 3) := dk_184 0 91 (dk_at dksX4_reads_4 21 rfl rfl)
theorem dX4_reads_120 : decode cX4_reads 120 = .ok (.iaload, 1) := dk_46 (dk_at dksX4_reads_5 0 rfl rfl)
theorem dX4_reads_121 : decode cX4_reads 121 = .ok (.invokevirtual 108, 3) := dk_182 0 108 (dk_at dksX4_reads_5 1 rfl rfl)
theorem dX4_reads_124 : decode cX4_reads 124 = .ok (.ireturn, 1) := dk_172 (dk_at dksX4_reads_5 4 rfl rfl)
theorem dX4_reads_125 : decode cX4_reads 125 = .ok (.iconst 0, 1) := dk_3 (dk_at dksX4_reads_5 5 rfl rfl)
theorem dX4_reads_126 : decode cX4_reads 126 = .ok (.istore 4, 2) := dk_54 4 (dk_at dksX4_reads_5 6 rfl rfl)
theorem dX4_reads_128 : decode cX4_reads 128 = .ok (.iload 4, 2) := dk_21 4 (dk_at dksX4_reads_5 8 rfl rfl)
theorem dX4_reads_130 : decode cX4_reads 130 = .ok (.aload_n 0, 1) := dk_42 (dk_at dksX4_reads_5 10 rfl rfl)
theorem dX4_reads_131 : decode cX4_reads 131 = .ok (.getfield 7, 3) := dk_180 0 7 (dk_at dksX4_reads_5 11 rfl rfl)
theorem dX4_reads_134 : decode cX4_reads 134 = .ok (.iload_n 1, 1) := dk_27 (dk_at dksX4_reads_5 14 rfl rfl)
theorem dX4_reads_135 : decode cX4_reads 135 = .ok (.iconst 2, 1) := dk_5 (dk_at dksX4_reads_5 15 rfl rfl)
theorem dX4_reads_136 : decode cX4_reads 136 = .ok (.invokestatic 91, 3) := dk_184 0 91 (dk_at dksX4_reads_5 16 rfl rfl)
theorem dX4_reads_139 : decode cX4_reads 139 = .ok (.iaload, 1) := dk_46 (dk_at dksX4_reads_5 19 rfl rfl)
theorem dX4_reads_140 : decode cX4_reads 140 = .ok (.if_icmp .ge 37, 3) := dk_162 0 37 (dk_at dksX4_reads_5 20 rfl rfl)
theorem dX4_reads_143 : decode cX4_reads 143 = .ok (.aload_n 0, 1) := dk_42 (dk_at dksX4_reads_5 23 rfl rfl)
theorem dX4_reads_144 : decode cX4_reads 144 = .ok (.getfield 7, 3) := dk_180 0 7 (dk_at dksX4_reads_6 0 rfl rfl)
theorem dX4_reads_147 : decode cX4_reads 147 = .ok (.iload_n 1, 1) := dk_27 (dk_at dksX4_reads_6 3 rfl rfl)
theorem dX4_reads_148 : decode cX4_reads 148 = .ok (.iload 4, 2) := dk_21 4 (dk_at dksX4_reads_6 4 rfl rfl)
theorem dX4_reads_150 : decode cX4_reads 150 = .ok (.iconst 3, 1) := dk_6 (dk_at dksX4_reads_6 6 rfl rfl)
theorem dX4_reads_151 : decode cX4_reads 151 = .ok (.invokestatic 136, 3) := dk_184 0 136 (dk_at dksX4_reads_6 7 rfl rfl)
theorem dX4_reads_154 : decode cX4_reads 154 = .ok (.iaload, 1) := dk_46 (dk_at dksX4_reads_6 10 rfl rfl)
theorem dX4_reads_155 : decode cX4_reads 155 = .ok (.ifCond .ne 16, 3) := dk_154 0 16 (dk_at dksX4_reads_6 11 rfl rfl)
theorem dX4_reads_158 : decode cX4_reads 158 = .ok (.aload_n 0, 1) := dk_42 (dk_at dksX4_reads_6 14 rfl rfl)
theorem dX4_reads_159 : decode cX4_reads 159 = .ok (.getfield 7, 3) := dk_180 0 7 (dk_at dksX4_reads_6 15 rfl rfl)
theorem dX4_reads_162 : decode cX4_reads 162 = .ok (.iload_n 1, 1) := dk_27 (dk_at dksX4_reads_6 18 rfl rfl)
theorem dX4_reads_163 : decode cX4_reads 163 = .ok (.iload 4, 2) := dk_21 4 (dk_at dksX4_reads_6 19 rfl rfl)
theorem dX4_reads_165 : decode cX4_reads 165 = .ok (.iconst 3, 1) := dk_6 (dk_at dksX4_reads_6 21 rfl rfl)
theorem dX4_reads_166 : decode cX4_reads 166 = .ok (.invokestatic 136, 3) := dk_184 0 136 (dk_at dksX4_reads_7 0 rfl rfl)
theorem dX4_reads_169 : decode cX4_reads 169 = .ok (.iconst 1, 1) := dk_4 (dk_at dksX4_reads_7 3 rfl rfl)
theorem dX4_reads_170 : decode cX4_reads 170 = .ok (.iastore, 1) := dk_79 (dk_at dksX4_reads_7 4 rfl rfl)
theorem dX4_reads_171 : decode cX4_reads 171 = .ok (.iinc 4 1, 3) := dk_132 4 1 (dk_at dksX4_reads_7 5 rfl rfl)
theorem dX4_reads_174 : decode cX4_reads 174 = .ok (.goto (-46), 3) := dk_167 255 210 (dk_at dksX4_reads_7 8 rfl rfl)
theorem dX4_reads_177 : decode cX4_reads 177 = .ok (.aload_n 0, 1) := dk_42 (dk_at dksX4_reads_7 11 rfl rfl)
theorem dX4_reads_178 : decode cX4_reads 178 = .ok (.getfield 7, 3) := dk_180 0 7 (dk_at dksX4_reads_7 12 rfl rfl)
theorem dX4_reads_181 : decode cX4_reads 181 = .ok (.iload_n 1, 1) := dk_27 (dk_at dksX4_reads_7 15 rfl rfl)
theorem dX4_reads_182 : decode cX4_reads 182 = .ok (.iconst 1, 1) := dk_4 (dk_at dksX4_reads_7 16 rfl rfl)
theorem dX4_reads_183 : decode cX4_reads 183 = .ok (.invokestatic 91, 3) := dk_184 0 91 (dk_at dksX4_reads_7 17 rfl rfl)
theorem dX4_reads_186 : decode cX4_reads 186 = .ok (.iaload, 1) := dk_46 (dk_at dksX4_reads_7 20 rfl rfl)
theorem dX4_reads_187 : decode cX4_reads 187 = .ok (.iload_n 2, 1) := dk_28 (dk_at dksX4_reads_7 21 rfl rfl)
theorem dX4_reads_188 : decode cX4_reads 188 = .ok (.iadd, 1) := dk_96 (dk_at dksX4_reads_7 22 rfl rfl)
theorem dX4_reads_189 : decode cX4_reads 189 = .ok (.istore 4, 2) := dk_54 4 (dk_at dksX4_reads_8 0 rfl rfl)
theorem dX4_reads_191 : decode cX4_reads 191 = .ok (.aload_n 0, 1) := dk_42 (dk_at dksX4_reads_8 2 rfl rfl)
theorem dX4_reads_192 : decode cX4_reads 192 = .ok (.getfield 7, 3) := dk_180 0 7 (dk_at dksX4_reads_8 3 rfl rfl)
theorem dX4_reads_195 : decode cX4_reads 195 = .ok (.iload_n 1, 1) := dk_27 (dk_at dksX4_reads_8 6 rfl rfl)
theorem dX4_reads_196 : decode cX4_reads 196 = .ok (.iconst 1, 1) := dk_4 (dk_at dksX4_reads_8 7 rfl rfl)
theorem dX4_reads_197 : decode cX4_reads 197 = .ok (.invokestatic 91, 3) := dk_184 0 91 (dk_at dksX4_reads_8 8 rfl rfl)
theorem dX4_reads_200 : decode cX4_reads 200 = .ok (.iload 4, 2) := dk_21 4 (dk_at dksX4_reads_8 11 rfl rfl)
theorem dX4_reads_202 : decode cX4_reads 202 = .ok (.bipush 99, 2) := dk_16 99 (dk_at dksX4_reads_8 13 rfl rfl)
theorem dX4_reads_204 : decode cX4_reads 204 = .ok (.if_icmp .le 8, 3) := dk_164 0 8 (dk_at dksX4_reads_8 15 rfl rfl)
theorem dX4_reads_207 : decode cX4_reads 207 = .ok (.bipush 99, 2) := dk_16 99 (dk_at dksX4_reads_8 18 rfl rfl)
theorem dX4_reads_209 : decode cX4_reads 209 = .ok (.goto 5, 3) := dk_167 0 5 (dk_at dksX4_reads_8 20 rfl rfl)
theorem dX4_reads_212 : decode cX4_reads 212 = .ok (.iload 4, 2) := dk_21 4 (dk_at dksX4_reads_9 0 rfl rfl)
theorem dX4_reads_214 : decode cX4_reads 214 = .ok (.iastore, 1) := dk_79 (dk_at dksX4_reads_9 2 rfl rfl)
theorem dX4_reads_215 : decode cX4_reads 215 = .ok (.aload_n 0, 1) := dk_42 (dk_at dksX4_reads_9 3 rfl rfl)
theorem dX4_reads_216 : decode cX4_reads 216 = .ok (.getfield 7, 3) := dk_180 0 7 (dk_at dksX4_reads_9 4 rfl rfl)
theorem dX4_reads_219 : decode cX4_reads 219 = .ok (.bipush 10, 2) := dk_16 10 (dk_at dksX4_reads_9 7 rfl rfl)
theorem dX4_reads_221 : decode cX4_reads 221 = .ok (.dup2, 1) := dk_92 (dk_at dksX4_reads_9 9 rfl rfl)
theorem dX4_reads_222 : decode cX4_reads 222 = .ok (.iaload, 1) := dk_46 (dk_at dksX4_reads_9 10 rfl rfl)
theorem dX4_reads_223 : decode cX4_reads 223 = .ok (.iconst 1, 1) := dk_4 (dk_at dksX4_reads_9 11 rfl rfl)
theorem dX4_reads_224 : decode cX4_reads 224 = .ok (.iadd, 1) := dk_96 (dk_at dksX4_reads_9 12 rfl rfl)
theorem dX4_reads_225 : decode cX4_reads 225 = .ok (.iastore, 1) := dk_79 (dk_at dksX4_reads_9 13 rfl rfl)
theorem dX4_reads_226 : decode cX4_reads 226 = .ok (.iload_n 3, 1) := dk_29 (dk_at dksX4_reads_9 14 rfl rfl)
theorem dX4_reads_227 : decode cX4_reads 227 = .ok (.ireturn, 1) := dk_172 (dk_at dksX4_reads_9 15 rfl rfl)
abbrev cX4_isLegible : ByteArray := prog_20_method_27_code
def yX4_isLegible : MethodName := ⟨RX4, "isLegible", "(II)Z"⟩
def dkwX4_isLegible_2 : List UInt8 := [4, 167, 0, 4, 3, 172]
abbrev dktX4_isLegible_2 : List UInt8 := dkwX4_isLegible_2 ++ []
def dkwX4_isLegible_1 : List UInt8 := [180, 0, 7, 4, 28, 96, 46, 16, 10, 29, 156, 0, 8, 29, 116, 167, 0, 4, 29, 104, 100, 163, 0, 7]
abbrev dktX4_isLegible_1 : List UInt8 := dkwX4_isLegible_1 ++ dktX4_isLegible_2
def dkwX4_isLegible_0 : List UInt8 := [42, 180, 0, 7, 27, 3, 184, 0, 91, 46, 28, 100, 62, 42, 180, 0, 7, 27, 4, 184, 0, 91, 46, 42]
abbrev dktX4_isLegible_0 : List UInt8 := dkwX4_isLegible_0 ++ dktX4_isLegible_1
theorem dksX4_isLegible_0 : cX4_isLegible.data.toList.drop 0 = dktX4_isLegible_0 := by decide +kernel
theorem dksX4_isLegible_1 : cX4_isLegible.data.toList.drop 24 = dktX4_isLegible_1 := dk_seg dksX4_isLegible_0 24 rfl rfl
theorem dksX4_isLegible_2 : cX4_isLegible.data.toList.drop 48 = dktX4_isLegible_2 := dk_seg dksX4_isLegible_1 24 rfl rfl
theorem dX4_isLegible_0 : decode cX4_isLegible 0 = .ok (.aload_n 0, 1) := dk_42 (dk_at dksX4_isLegible_0 0 rfl rfl)
theorem dX4_isLegible_1 : decode cX4_isLegible 1 = .ok (.getfield 7, 3) := dk_180 0 7 (dk_at dksX4_isLegible_0 1 rfl rfl)
theorem dX4_isLegible_4 : decode cX4_isLegible 4 = .ok (.iload_n 1, 1) := dk_27 (dk_at dksX4_isLegible_0 4 rfl rfl)
theorem dX4_isLegible_5 : decode cX4_isLegible 5 = .ok (.iconst 0, 1) := dk_3 (dk_at dksX4_isLegible_0 5 rfl rfl)
theorem dX4_isLegible_6 : decode cX4_isLegible 6 = .ok (.invokestatic 91, 3) := dk_184 0 91 (dk_at dksX4_isLegible_0 6 rfl rfl)
theorem dX4_isLegible_9 : decode cX4_isLegible 9 = .ok (.iaload, 1) := dk_46 (dk_at dksX4_isLegible_0 9 rfl rfl)
theorem dX4_isLegible_10 : decode cX4_isLegible 10 = .ok (.iload_n 2, 1) := dk_28 (dk_at dksX4_isLegible_0 10 rfl rfl)
theorem dX4_isLegible_11 : decode cX4_isLegible 11 = .ok (.isub, 1) := dk_100 (dk_at dksX4_isLegible_0 11 rfl rfl)
theorem dX4_isLegible_12 : decode cX4_isLegible 12 = .ok (.istore_n 3, 1) := dk_62 (dk_at dksX4_isLegible_0 12 rfl rfl)
theorem dX4_isLegible_13 : decode cX4_isLegible 13 = .ok (.aload_n 0, 1) := dk_42 (dk_at dksX4_isLegible_0 13 rfl rfl)
theorem dX4_isLegible_14 : decode cX4_isLegible 14 = .ok (.getfield 7, 3) := dk_180 0 7 (dk_at dksX4_isLegible_0 14 rfl rfl)
theorem dX4_isLegible_17 : decode cX4_isLegible 17 = .ok (.iload_n 1, 1) := dk_27 (dk_at dksX4_isLegible_0 17 rfl rfl)
theorem dX4_isLegible_18 : decode cX4_isLegible 18 = .ok (.iconst 1, 1) := dk_4 (dk_at dksX4_isLegible_0 18 rfl rfl)
theorem dX4_isLegible_19 : decode cX4_isLegible 19 = .ok (.invokestatic 91, 3) := dk_184 0 91 (dk_at dksX4_isLegible_0 19 rfl rfl)
theorem dX4_isLegible_22 : decode cX4_isLegible 22 = .ok (.iaload, 1) := dk_46 (dk_at dksX4_isLegible_0 22 rfl rfl)
theorem dX4_isLegible_23 : decode cX4_isLegible 23 = .ok (.aload_n 0, 1) := dk_42 (dk_at dksX4_isLegible_0 23 rfl rfl)
theorem dX4_isLegible_24 : decode cX4_isLegible 24 = .ok (.getfield 7, 3) := dk_180 0 7 (dk_at dksX4_isLegible_1 0 rfl rfl)
theorem dX4_isLegible_27 : decode cX4_isLegible 27 = .ok (.iconst 1, 1) := dk_4 (dk_at dksX4_isLegible_1 3 rfl rfl)
theorem dX4_isLegible_28 : decode cX4_isLegible 28 = .ok (.iload_n 2, 1) := dk_28 (dk_at dksX4_isLegible_1 4 rfl rfl)
theorem dX4_isLegible_29 : decode cX4_isLegible 29 = .ok (.iadd, 1) := dk_96 (dk_at dksX4_isLegible_1 5 rfl rfl)
theorem dX4_isLegible_30 : decode cX4_isLegible 30 = .ok (.iaload, 1) := dk_46 (dk_at dksX4_isLegible_1 6 rfl rfl)
theorem dX4_isLegible_31 : decode cX4_isLegible 31 = .ok (.bipush 10, 2) := dk_16 10 (dk_at dksX4_isLegible_1 7 rfl rfl)
theorem dX4_isLegible_33 : decode cX4_isLegible 33 = .ok (.iload_n 3, 1) := dk_29 (dk_at dksX4_isLegible_1 9 rfl rfl)
theorem dX4_isLegible_34 : decode cX4_isLegible 34 = .ok (.ifCond .ge 8, 3) := dk_156 0 8 (dk_at dksX4_isLegible_1 10 rfl rfl)
theorem dX4_isLegible_37 : decode cX4_isLegible 37 = .ok (.iload_n 3, 1) := dk_29 (dk_at dksX4_isLegible_1 13 rfl rfl)
theorem dX4_isLegible_38 : decode cX4_isLegible 38 = .ok (.ineg, 1) := dk_116 (dk_at dksX4_isLegible_1 14 rfl rfl)
theorem dX4_isLegible_39 : decode cX4_isLegible 39 = .ok (.goto 4, 3) := dk_167 0 4 (dk_at dksX4_isLegible_1 15 rfl rfl)
theorem dX4_isLegible_42 : decode cX4_isLegible 42 = .ok (.iload_n 3, 1) := dk_29 (dk_at dksX4_isLegible_1 18 rfl rfl)
theorem dX4_isLegible_43 : decode cX4_isLegible 43 = .ok (.imul, 1) := dk_104 (dk_at dksX4_isLegible_1 19 rfl rfl)
theorem dX4_isLegible_44 : decode cX4_isLegible 44 = .ok (.isub, 1) := dk_100 (dk_at dksX4_isLegible_1 20 rfl rfl)
theorem dX4_isLegible_45 : decode cX4_isLegible 45 = .ok (.if_icmp .gt 7, 3) := dk_163 0 7 (dk_at dksX4_isLegible_1 21 rfl rfl)
theorem dX4_isLegible_48 : decode cX4_isLegible 48 = .ok (.iconst 1, 1) := dk_4 (dk_at dksX4_isLegible_2 0 rfl rfl)
theorem dX4_isLegible_49 : decode cX4_isLegible 49 = .ok (.goto 4, 3) := dk_167 0 4 (dk_at dksX4_isLegible_2 1 rfl rfl)
theorem dX4_isLegible_52 : decode cX4_isLegible 52 = .ok (.iconst 0, 1) := dk_3 (dk_at dksX4_isLegible_2 4 rfl rfl)
theorem dX4_isLegible_53 : decode cX4_isLegible 53 = .ok (.ireturn, 1) := dk_172 (dk_at dksX4_isLegible_2 5 rfl rfl)
abbrev cX4_strike : ByteArray := prog_20_method_32_code
def yX4_strike : MethodName := ⟨RX4, "strike", "(II)I"⟩
def dkwX4_strike_0 : List UInt8 := [42, 182, 0, 115, 42, 42, 27, 28, 182, 0, 170, 182, 0, 122, 172]
abbrev dktX4_strike_0 : List UInt8 := dkwX4_strike_0 ++ []
theorem dksX4_strike_0 : cX4_strike.data.toList.drop 0 = dktX4_strike_0 := by decide +kernel
theorem dX4_strike_0 : decode cX4_strike 0 = .ok (.aload_n 0, 1) := dk_42 (dk_at dksX4_strike_0 0 rfl rfl)
theorem dX4_strike_1 : decode cX4_strike 1 = .ok (.invokevirtual 115, 3) := dk_182 0 115 (dk_at dksX4_strike_0 1 rfl rfl)
theorem dX4_strike_4 : decode cX4_strike 4 = .ok (.aload_n 0, 1) := dk_42 (dk_at dksX4_strike_0 4 rfl rfl)
theorem dX4_strike_5 : decode cX4_strike 5 = .ok (.aload_n 0, 1) := dk_42 (dk_at dksX4_strike_0 5 rfl rfl)
theorem dX4_strike_6 : decode cX4_strike 6 = .ok (.iload_n 1, 1) := dk_27 (dk_at dksX4_strike_0 6 rfl rfl)
theorem dX4_strike_7 : decode cX4_strike 7 = .ok (.iload_n 2, 1) := dk_28 (dk_at dksX4_strike_0 7 rfl rfl)
theorem dX4_strike_8 : decode cX4_strike 8 = .ok (.invokevirtual 170, 3) := dk_182 0 170 (dk_at dksX4_strike_0 8 rfl rfl)
theorem dX4_strike_11 : decode cX4_strike 11 = .ok (.invokevirtual 122, 3) := dk_182 0 122 (dk_at dksX4_strike_0 11 rfl rfl)
theorem dX4_strike_14 : decode cX4_strike 14 = .ok (.ireturn, 1) := dk_172 (dk_at dksX4_strike_0 14 rfl rfl)
abbrev cX4_strikes : ByteArray := prog_20_method_31_code
def yX4_strikes : MethodName := ⟨RX4, "strikes", "(II)I"⟩
def dkwX4_strikes_3 : List UInt8 := [172]
abbrev dktX4_strikes_3 : List UInt8 := dkwX4_strikes_3 ++ []
def dkwX4_strikes_2 : List UInt8 := [42, 8, 29, 182, 0, 108, 172, 42, 180, 0, 7, 27, 28, 6, 184, 0, 136, 5, 79, 42, 4, 182, 0, 167]
abbrev dktX4_strikes_2 : List UInt8 := dkwX4_strikes_2 ++ dktX4_strikes_3
def dkwX4_strikes_1 : List UInt8 := [42, 4, 28, 182, 0, 108, 172, 42, 180, 0, 7, 27, 28, 6, 184, 0, 136, 46, 62, 29, 4, 159, 0, 10]
abbrev dktX4_strikes_1 : List UInt8 := dkwX4_strikes_1 ++ dktX4_strikes_2
def dkwX4_strikes_0 : List UInt8 := [42, 27, 182, 0, 140, 154, 0, 10, 42, 4, 27, 182, 0, 108, 172, 42, 27, 28, 182, 0, 164, 154, 0, 10]
abbrev dktX4_strikes_0 : List UInt8 := dkwX4_strikes_0 ++ dktX4_strikes_1
theorem dksX4_strikes_0 : cX4_strikes.data.toList.drop 0 = dktX4_strikes_0 := by decide +kernel
theorem dksX4_strikes_1 : cX4_strikes.data.toList.drop 24 = dktX4_strikes_1 := dk_seg dksX4_strikes_0 24 rfl rfl
theorem dksX4_strikes_2 : cX4_strikes.data.toList.drop 48 = dktX4_strikes_2 := dk_seg dksX4_strikes_1 24 rfl rfl
theorem dksX4_strikes_3 : cX4_strikes.data.toList.drop 72 = dktX4_strikes_3 := dk_seg dksX4_strikes_2 24 rfl rfl
theorem dX4_strikes_0 : decode cX4_strikes 0 = .ok (.aload_n 0, 1) := dk_42 (dk_at dksX4_strikes_0 0 rfl rfl)
theorem dX4_strikes_1 : decode cX4_strikes 1 = .ok (.iload_n 1, 1) := dk_27 (dk_at dksX4_strikes_0 1 rfl rfl)
theorem dX4_strikes_2 : decode cX4_strikes 2 = .ok (.invokevirtual 140, 3) := dk_182 0 140 (dk_at dksX4_strikes_0 2 rfl rfl)
theorem dX4_strikes_5 : decode cX4_strikes 5 = .ok (.ifCond .ne 10, 3) := dk_154 0 10 (dk_at dksX4_strikes_0 5 rfl rfl)
theorem dX4_strikes_8 : decode cX4_strikes 8 = .ok (.aload_n 0, 1) := dk_42 (dk_at dksX4_strikes_0 8 rfl rfl)
theorem dX4_strikes_9 : decode cX4_strikes 9 = .ok (.iconst 1, 1) := dk_4 (dk_at dksX4_strikes_0 9 rfl rfl)
theorem dX4_strikes_10 : decode cX4_strikes 10 = .ok (.iload_n 1, 1) := dk_27 (dk_at dksX4_strikes_0 10 rfl rfl)
theorem dX4_strikes_11 : decode cX4_strikes 11 = .ok (.invokevirtual 108, 3) := dk_182 0 108 (dk_at dksX4_strikes_0 11 rfl rfl)
theorem dX4_strikes_14 : decode cX4_strikes 14 = .ok (.ireturn, 1) := dk_172 (dk_at dksX4_strikes_0 14 rfl rfl)
theorem dX4_strikes_15 : decode cX4_strikes 15 = .ok (.aload_n 0, 1) := dk_42 (dk_at dksX4_strikes_0 15 rfl rfl)
theorem dX4_strikes_16 : decode cX4_strikes 16 = .ok (.iload_n 1, 1) := dk_27 (dk_at dksX4_strikes_0 16 rfl rfl)
theorem dX4_strikes_17 : decode cX4_strikes 17 = .ok (.iload_n 2, 1) := dk_28 (dk_at dksX4_strikes_0 17 rfl rfl)
theorem dX4_strikes_18 : decode cX4_strikes 18 = .ok (.invokevirtual 164, 3) := dk_182 0 164 (dk_at dksX4_strikes_0 18 rfl rfl)
theorem dX4_strikes_21 : decode cX4_strikes 21 = .ok (.ifCond .ne 10, 3) := dk_154 0 10 (dk_at dksX4_strikes_0 21 rfl rfl)
theorem dX4_strikes_24 : decode cX4_strikes 24 = .ok (.aload_n 0, 1) := dk_42 (dk_at dksX4_strikes_1 0 rfl rfl)
theorem dX4_strikes_25 : decode cX4_strikes 25 = .ok (.iconst 1, 1) := dk_4 (dk_at dksX4_strikes_1 1 rfl rfl)
theorem dX4_strikes_26 : decode cX4_strikes 26 = .ok (.iload_n 2, 1) := dk_28 (dk_at dksX4_strikes_1 2 rfl rfl)
theorem dX4_strikes_27 : decode cX4_strikes 27 = .ok (.invokevirtual 108, 3) := dk_182 0 108 (dk_at dksX4_strikes_1 3 rfl rfl)
theorem dX4_strikes_30 : decode cX4_strikes 30 = .ok (.ireturn, 1) := dk_172 (dk_at dksX4_strikes_1 6 rfl rfl)
theorem dX4_strikes_31 : decode cX4_strikes 31 = .ok (.aload_n 0, 1) := dk_42 (dk_at dksX4_strikes_1 7 rfl rfl)
theorem dX4_strikes_32 : decode cX4_strikes 32 = .ok (.getfield 7, 3) := dk_180 0 7 (dk_at dksX4_strikes_1 8 rfl rfl)
theorem dX4_strikes_35 : decode cX4_strikes 35 = .ok (.iload_n 1, 1) := dk_27 (dk_at dksX4_strikes_1 11 rfl rfl)
theorem dX4_strikes_36 : decode cX4_strikes 36 = .ok (.iload_n 2, 1) := dk_28 (dk_at dksX4_strikes_1 12 rfl rfl)
theorem dX4_strikes_37 : decode cX4_strikes 37 = .ok (.iconst 3, 1) := dk_6 (dk_at dksX4_strikes_1 13 rfl rfl)
theorem dX4_strikes_38 : decode cX4_strikes 38 = .ok (.invokestatic 136, 3) := dk_184 0 136 (dk_at dksX4_strikes_1 14 rfl rfl)
theorem dX4_strikes_41 : decode cX4_strikes 41 = .ok (.iaload, 1) := dk_46 (dk_at dksX4_strikes_1 17 rfl rfl)
theorem dX4_strikes_42 : decode cX4_strikes 42 = .ok (.istore_n 3, 1) := dk_62 (dk_at dksX4_strikes_1 18 rfl rfl)
theorem dX4_strikes_43 : decode cX4_strikes 43 = .ok (.iload_n 3, 1) := dk_29 (dk_at dksX4_strikes_1 19 rfl rfl)
theorem dX4_strikes_44 : decode cX4_strikes 44 = .ok (.iconst 1, 1) := dk_4 (dk_at dksX4_strikes_1 20 rfl rfl)
theorem dX4_strikes_45 : decode cX4_strikes 45 = .ok (.if_icmp .eq 10, 3) := dk_159 0 10 (dk_at dksX4_strikes_1 21 rfl rfl)
theorem dX4_strikes_48 : decode cX4_strikes 48 = .ok (.aload_n 0, 1) := dk_42 (dk_at dksX4_strikes_2 0 rfl rfl)
theorem dX4_strikes_49 : decode cX4_strikes 49 = .ok (.iconst 5, 1) := dk_8 (dk_at dksX4_strikes_2 1 rfl rfl)
theorem dX4_strikes_50 : decode cX4_strikes 50 = .ok (.iload_n 3, 1) := dk_29 (dk_at dksX4_strikes_2 2 rfl rfl)
theorem dX4_strikes_51 : decode cX4_strikes 51 = .ok (.invokevirtual 108, 3) := dk_182 0 108 (dk_at dksX4_strikes_2 3 rfl rfl)
theorem dX4_strikes_54 : decode cX4_strikes 54 = .ok (.ireturn, 1) := dk_172 (dk_at dksX4_strikes_2 6 rfl rfl)
theorem dX4_strikes_55 : decode cX4_strikes 55 = .ok (.aload_n 0, 1) := dk_42 (dk_at dksX4_strikes_2 7 rfl rfl)
theorem dX4_strikes_56 : decode cX4_strikes 56 = .ok (.getfield 7, 3) := dk_180 0 7 (dk_at dksX4_strikes_2 8 rfl rfl)
theorem dX4_strikes_59 : decode cX4_strikes 59 = .ok (.iload_n 1, 1) := dk_27 (dk_at dksX4_strikes_2 11 rfl rfl)
theorem dX4_strikes_60 : decode cX4_strikes 60 = .ok (.iload_n 2, 1) := dk_28 (dk_at dksX4_strikes_2 12 rfl rfl)
theorem dX4_strikes_61 : decode cX4_strikes 61 = .ok (.iconst 3, 1) := dk_6 (dk_at dksX4_strikes_2 13 rfl rfl)
theorem dX4_strikes_62 : decode cX4_strikes 62 = .ok (.invokestatic 136, 3) := dk_184 0 136 (dk_at dksX4_strikes_2 14 rfl rfl)
theorem dX4_strikes_65 : decode cX4_strikes 65 = .ok (.iconst 2, 1) := dk_5 (dk_at dksX4_strikes_2 17 rfl rfl)
theorem dX4_strikes_66 : decode cX4_strikes 66 = .ok (.iastore, 1) := dk_79 (dk_at dksX4_strikes_2 18 rfl rfl)
theorem dX4_strikes_67 : decode cX4_strikes 67 = .ok (.aload_n 0, 1) := dk_42 (dk_at dksX4_strikes_2 19 rfl rfl)
theorem dX4_strikes_68 : decode cX4_strikes 68 = .ok (.iconst 1, 1) := dk_4 (dk_at dksX4_strikes_2 20 rfl rfl)
theorem dX4_strikes_69 : decode cX4_strikes 69 = .ok (.invokevirtual 167, 3) := dk_182 0 167 (dk_at dksX4_strikes_2 21 rfl rfl)
theorem dX4_strikes_72 : decode cX4_strikes 72 = .ok (.ireturn, 1) := dk_172 (dk_at dksX4_strikes_3 0 rfl rfl)
abbrev cX4_isEntry : ByteArray := prog_20_method_10_code
def yX4_isEntry : MethodName := ⟨RX4, "isEntry", "(II)Z"⟩
def dkwX4_isEntry_0 : List UInt8 := [28, 3, 42, 180, 0, 7, 27, 5, 184, 0, 91, 46, 4, 100, 184, 0, 87, 172]
abbrev dktX4_isEntry_0 : List UInt8 := dkwX4_isEntry_0 ++ []
theorem dksX4_isEntry_0 : cX4_isEntry.data.toList.drop 0 = dktX4_isEntry_0 := by decide +kernel
theorem dX4_isEntry_0 : decode cX4_isEntry 0 = .ok (.iload_n 2, 1) := dk_28 (dk_at dksX4_isEntry_0 0 rfl rfl)
theorem dX4_isEntry_1 : decode cX4_isEntry 1 = .ok (.iconst 0, 1) := dk_3 (dk_at dksX4_isEntry_0 1 rfl rfl)
theorem dX4_isEntry_2 : decode cX4_isEntry 2 = .ok (.aload_n 0, 1) := dk_42 (dk_at dksX4_isEntry_0 2 rfl rfl)
theorem dX4_isEntry_3 : decode cX4_isEntry 3 = .ok (.getfield 7, 3) := dk_180 0 7 (dk_at dksX4_isEntry_0 3 rfl rfl)
theorem dX4_isEntry_6 : decode cX4_isEntry 6 = .ok (.iload_n 1, 1) := dk_27 (dk_at dksX4_isEntry_0 6 rfl rfl)
theorem dX4_isEntry_7 : decode cX4_isEntry 7 = .ok (.iconst 2, 1) := dk_5 (dk_at dksX4_isEntry_0 7 rfl rfl)
theorem dX4_isEntry_8 : decode cX4_isEntry 8 = .ok (.invokestatic 91, 3) := dk_184 0 91 (dk_at dksX4_isEntry_0 8 rfl rfl)
theorem dX4_isEntry_11 : decode cX4_isEntry 11 = .ok (.iaload, 1) := dk_46 (dk_at dksX4_isEntry_0 11 rfl rfl)
theorem dX4_isEntry_12 : decode cX4_isEntry 12 = .ok (.iconst 1, 1) := dk_4 (dk_at dksX4_isEntry_0 12 rfl rfl)
theorem dX4_isEntry_13 : decode cX4_isEntry 13 = .ok (.isub, 1) := dk_100 (dk_at dksX4_isEntry_0 13 rfl rfl)
theorem dX4_isEntry_14 : decode cX4_isEntry 14 = .ok (.invokestatic 87, 3) := dk_184 0 87 (dk_at dksX4_isEntry_0 14 rfl rfl)
theorem dX4_isEntry_17 : decode cX4_isEntry 17 = .ok (.ireturn, 1) := dk_172 (dk_at dksX4_isEntry_0 17 rfl rfl)
abbrev cX4_entries : ByteArray := prog_20_method_30_code
def yX4_entries : MethodName := ⟨RX4, "entries", "(I)I"⟩
def dkwX4_entries_2 : List UInt8 := [160, 0, 7, 4, 167, 0, 4, 3, 96, 61, 132, 4, 1, 167, 255, 214, 132, 3, 1, 167, 255, 194, 28, 172]
abbrev dktX4_entries_2 : List UInt8 := dkwX4_entries_2 ++ []
def dkwX4_entries_1 : List UInt8 := [29, 5, 184, 0, 91, 46, 162, 0, 33, 28, 42, 180, 0, 7, 29, 21, 4, 6, 184, 0, 136, 46, 27]
abbrev dktX4_entries_1 : List UInt8 := dkwX4_entries_1 ++ dktX4_entries_2
def dkwX4_entries_0 : List UInt8 := [3, 61, 3, 62, 29, 42, 180, 0, 7, 16, 11, 46, 162, 0, 57, 3, 54, 4, 21, 4, 42, 180, 0, 7]
abbrev dktX4_entries_0 : List UInt8 := dkwX4_entries_0 ++ dktX4_entries_1
theorem dksX4_entries_0 : cX4_entries.data.toList.drop 0 = dktX4_entries_0 := by decide +kernel
theorem dksX4_entries_1 : cX4_entries.data.toList.drop 24 = dktX4_entries_1 := dk_seg dksX4_entries_0 24 rfl rfl
theorem dksX4_entries_2 : cX4_entries.data.toList.drop 47 = dktX4_entries_2 := dk_seg dksX4_entries_1 23 rfl rfl
theorem dX4_entries_0 : decode cX4_entries 0 = .ok (.iconst 0, 1) := dk_3 (dk_at dksX4_entries_0 0 rfl rfl)
theorem dX4_entries_1 : decode cX4_entries 1 = .ok (.istore_n 2, 1) := dk_61 (dk_at dksX4_entries_0 1 rfl rfl)
theorem dX4_entries_2 : decode cX4_entries 2 = .ok (.iconst 0, 1) := dk_3 (dk_at dksX4_entries_0 2 rfl rfl)
theorem dX4_entries_3 : decode cX4_entries 3 = .ok (.istore_n 3, 1) := dk_62 (dk_at dksX4_entries_0 3 rfl rfl)
theorem dX4_entries_4 : decode cX4_entries 4 = .ok (.iload_n 3, 1) := dk_29 (dk_at dksX4_entries_0 4 rfl rfl)
theorem dX4_entries_5 : decode cX4_entries 5 = .ok (.aload_n 0, 1) := dk_42 (dk_at dksX4_entries_0 5 rfl rfl)
theorem dX4_entries_6 : decode cX4_entries 6 = .ok (.getfield 7, 3) := dk_180 0 7 (dk_at dksX4_entries_0 6 rfl rfl)
theorem dX4_entries_9 : decode cX4_entries 9 = .ok (.bipush 11, 2) := dk_16 11 (dk_at dksX4_entries_0 9 rfl rfl)
theorem dX4_entries_11 : decode cX4_entries 11 = .ok (.iaload, 1) := dk_46 (dk_at dksX4_entries_0 11 rfl rfl)
theorem dX4_entries_12 : decode cX4_entries 12 = .ok (.if_icmp .ge 57, 3) := dk_162 0 57 (dk_at dksX4_entries_0 12 rfl rfl)
theorem dX4_entries_15 : decode cX4_entries 15 = .ok (.iconst 0, 1) := dk_3 (dk_at dksX4_entries_0 15 rfl rfl)
theorem dX4_entries_16 : decode cX4_entries 16 = .ok (.istore 4, 2) := dk_54 4 (dk_at dksX4_entries_0 16 rfl rfl)
theorem dX4_entries_18 : decode cX4_entries 18 = .ok (.iload 4, 2) := dk_21 4 (dk_at dksX4_entries_0 18 rfl rfl)
theorem dX4_entries_20 : decode cX4_entries 20 = .ok (.aload_n 0, 1) := dk_42 (dk_at dksX4_entries_0 20 rfl rfl)
theorem dX4_entries_21 : decode cX4_entries 21 = .ok (.getfield 7, 3) := dk_180 0 7 (dk_at dksX4_entries_0 21 rfl rfl)
theorem dX4_entries_24 : decode cX4_entries 24 = .ok (.iload_n 3, 1) := dk_29 (dk_at dksX4_entries_1 0 rfl rfl)
theorem dX4_entries_25 : decode cX4_entries 25 = .ok (.iconst 2, 1) := dk_5 (dk_at dksX4_entries_1 1 rfl rfl)
theorem dX4_entries_26 : decode cX4_entries 26 = .ok (.invokestatic 91, 3) := dk_184 0 91 (dk_at dksX4_entries_1 2 rfl rfl)
theorem dX4_entries_29 : decode cX4_entries 29 = .ok (.iaload, 1) := dk_46 (dk_at dksX4_entries_1 5 rfl rfl)
theorem dX4_entries_30 : decode cX4_entries 30 = .ok (.if_icmp .ge 33, 3) := dk_162 0 33 (dk_at dksX4_entries_1 6 rfl rfl)
theorem dX4_entries_33 : decode cX4_entries 33 = .ok (.iload_n 2, 1) := dk_28 (dk_at dksX4_entries_1 9 rfl rfl)
theorem dX4_entries_34 : decode cX4_entries 34 = .ok (.aload_n 0, 1) := dk_42 (dk_at dksX4_entries_1 10 rfl rfl)
theorem dX4_entries_35 : decode cX4_entries 35 = .ok (.getfield 7, 3) := dk_180 0 7 (dk_at dksX4_entries_1 11 rfl rfl)
theorem dX4_entries_38 : decode cX4_entries 38 = .ok (.iload_n 3, 1) := dk_29 (dk_at dksX4_entries_1 14 rfl rfl)
theorem dX4_entries_39 : decode cX4_entries 39 = .ok (.iload 4, 2) := dk_21 4 (dk_at dksX4_entries_1 15 rfl rfl)
theorem dX4_entries_41 : decode cX4_entries 41 = .ok (.iconst 3, 1) := dk_6 (dk_at dksX4_entries_1 17 rfl rfl)
theorem dX4_entries_42 : decode cX4_entries 42 = .ok (.invokestatic 136, 3) := dk_184 0 136 (dk_at dksX4_entries_1 18 rfl rfl)
theorem dX4_entries_45 : decode cX4_entries 45 = .ok (.iaload, 1) := dk_46 (dk_at dksX4_entries_1 21 rfl rfl)
theorem dX4_entries_46 : decode cX4_entries 46 = .ok (.iload_n 1, 1) := dk_27 (dk_at dksX4_entries_1 22 rfl rfl)
theorem dX4_entries_47 : decode cX4_entries 47 = .ok (.if_icmp .ne 7, 3) := dk_160 0 7 (dk_at dksX4_entries_2 0 rfl rfl)
theorem dX4_entries_50 : decode cX4_entries 50 = .ok (.iconst 1, 1) := dk_4 (dk_at dksX4_entries_2 3 rfl rfl)
theorem dX4_entries_51 : decode cX4_entries 51 = .ok (.goto 4, 3) := dk_167 0 4 (dk_at dksX4_entries_2 4 rfl rfl)
theorem dX4_entries_54 : decode cX4_entries 54 = .ok (.iconst 0, 1) := dk_3 (dk_at dksX4_entries_2 7 rfl rfl)
theorem dX4_entries_55 : decode cX4_entries 55 = .ok (.iadd, 1) := dk_96 (dk_at dksX4_entries_2 8 rfl rfl)
theorem dX4_entries_56 : decode cX4_entries 56 = .ok (.istore_n 2, 1) := dk_61 (dk_at dksX4_entries_2 9 rfl rfl)
theorem dX4_entries_57 : decode cX4_entries 57 = .ok (.iinc 4 1, 3) := dk_132 4 1 (dk_at dksX4_entries_2 10 rfl rfl)
theorem dX4_entries_60 : decode cX4_entries 60 = .ok (.goto (-42), 3) := dk_167 255 214 (dk_at dksX4_entries_2 13 rfl rfl)
theorem dX4_entries_63 : decode cX4_entries 63 = .ok (.iinc 3 1, 3) := dk_132 3 1 (dk_at dksX4_entries_2 16 rfl rfl)
theorem dX4_entries_66 : decode cX4_entries 66 = .ok (.goto (-62), 3) := dk_167 255 194 (dk_at dksX4_entries_2 19 rfl rfl)
theorem dX4_entries_69 : decode cX4_entries 69 = .ok (.iload_n 2, 1) := dk_28 (dk_at dksX4_entries_2 22 rfl rfl)
theorem dX4_entries_70 : decode cX4_entries 70 = .ok (.ireturn, 1) := dk_172 (dk_at dksX4_entries_2 23 rfl rfl)
abbrev cX4_blame : ByteArray := prog_20_method_34_code
def yX4_blame : MethodName := ⟨RX4, "blame", "(I)I"⟩
def dkwX4_blame_0 : List UInt8 := [42, 182, 0, 115, 42, 42, 27, 182, 0, 173, 182, 0, 122, 172]
abbrev dktX4_blame_0 : List UInt8 := dkwX4_blame_0 ++ []
theorem dksX4_blame_0 : cX4_blame.data.toList.drop 0 = dktX4_blame_0 := by decide +kernel
theorem dX4_blame_0 : decode cX4_blame 0 = .ok (.aload_n 0, 1) := dk_42 (dk_at dksX4_blame_0 0 rfl rfl)
theorem dX4_blame_1 : decode cX4_blame 1 = .ok (.invokevirtual 115, 3) := dk_182 0 115 (dk_at dksX4_blame_0 1 rfl rfl)
theorem dX4_blame_4 : decode cX4_blame 4 = .ok (.aload_n 0, 1) := dk_42 (dk_at dksX4_blame_0 4 rfl rfl)
theorem dX4_blame_5 : decode cX4_blame 5 = .ok (.aload_n 0, 1) := dk_42 (dk_at dksX4_blame_0 5 rfl rfl)
theorem dX4_blame_6 : decode cX4_blame 6 = .ok (.iload_n 1, 1) := dk_27 (dk_at dksX4_blame_0 6 rfl rfl)
theorem dX4_blame_7 : decode cX4_blame 7 = .ok (.invokevirtual 173, 3) := dk_182 0 173 (dk_at dksX4_blame_0 7 rfl rfl)
theorem dX4_blame_10 : decode cX4_blame 10 = .ok (.invokevirtual 122, 3) := dk_182 0 122 (dk_at dksX4_blame_0 10 rfl rfl)
theorem dX4_blame_13 : decode cX4_blame 13 = .ok (.ireturn, 1) := dk_172 (dk_at dksX4_blame_0 13 rfl rfl)
abbrev cX4_blames : ByteArray := prog_20_method_33_code
def yX4_blames : MethodName := ⟨RX4, "blames", "(I)I"⟩
def dkwX4_blames_2 : List UInt8 := [79, 16, 10, 42, 180, 0, 7, 7, 27, 96, 46, 100, 172]
abbrev dktX4_blames_2 : List UInt8 := dkwX4_blames_2 ++ []
def dkwX4_blames_1 : List UInt8 := [16, 9, 160, 0, 11, 42, 16, 7, 27, 182, 0, 108, 172, 42, 180, 0, 7, 7, 27, 96, 92, 46, 4, 96]
abbrev dktX4_blames_1 : List UInt8 := dkwX4_blames_1 ++ dktX4_blames_2
def dkwX4_blames_0 : List UInt8 := [27, 3, 8, 184, 0, 87, 154, 0, 10, 42, 4, 27, 182, 0, 108, 172, 42, 180, 0, 7, 7, 27, 96, 46]
abbrev dktX4_blames_0 : List UInt8 := dkwX4_blames_0 ++ dktX4_blames_1
theorem dksX4_blames_0 : cX4_blames.data.toList.drop 0 = dktX4_blames_0 := by decide +kernel
theorem dksX4_blames_1 : cX4_blames.data.toList.drop 24 = dktX4_blames_1 := dk_seg dksX4_blames_0 24 rfl rfl
theorem dksX4_blames_2 : cX4_blames.data.toList.drop 48 = dktX4_blames_2 := dk_seg dksX4_blames_1 24 rfl rfl
theorem dX4_blames_0 : decode cX4_blames 0 = .ok (.iload_n 1, 1) := dk_27 (dk_at dksX4_blames_0 0 rfl rfl)
theorem dX4_blames_1 : decode cX4_blames 1 = .ok (.iconst 0, 1) := dk_3 (dk_at dksX4_blames_0 1 rfl rfl)
theorem dX4_blames_2 : decode cX4_blames 2 = .ok (.iconst 5, 1) := dk_8 (dk_at dksX4_blames_0 2 rfl rfl)
theorem dX4_blames_3 : decode cX4_blames 3 = .ok (.invokestatic 87, 3) := dk_184 0 87 (dk_at dksX4_blames_0 3 rfl rfl)
theorem dX4_blames_6 : decode cX4_blames 6 = .ok (.ifCond .ne 10, 3) := dk_154 0 10 (dk_at dksX4_blames_0 6 rfl rfl)
theorem dX4_blames_9 : decode cX4_blames 9 = .ok (.aload_n 0, 1) := dk_42 (dk_at dksX4_blames_0 9 rfl rfl)
theorem dX4_blames_10 : decode cX4_blames 10 = .ok (.iconst 1, 1) := dk_4 (dk_at dksX4_blames_0 10 rfl rfl)
theorem dX4_blames_11 : decode cX4_blames 11 = .ok (.iload_n 1, 1) := dk_27 (dk_at dksX4_blames_0 11 rfl rfl)
theorem dX4_blames_12 : decode cX4_blames 12 = .ok (.invokevirtual 108, 3) := dk_182 0 108 (dk_at dksX4_blames_0 12 rfl rfl)
theorem dX4_blames_15 : decode cX4_blames 15 = .ok (.ireturn, 1) := dk_172 (dk_at dksX4_blames_0 15 rfl rfl)
theorem dX4_blames_16 : decode cX4_blames 16 = .ok (.aload_n 0, 1) := dk_42 (dk_at dksX4_blames_0 16 rfl rfl)
theorem dX4_blames_17 : decode cX4_blames 17 = .ok (.getfield 7, 3) := dk_180 0 7 (dk_at dksX4_blames_0 17 rfl rfl)
theorem dX4_blames_20 : decode cX4_blames 20 = .ok (.iconst 4, 1) := dk_7 (dk_at dksX4_blames_0 20 rfl rfl)
theorem dX4_blames_21 : decode cX4_blames 21 = .ok (.iload_n 1, 1) := dk_27 (dk_at dksX4_blames_0 21 rfl rfl)
theorem dX4_blames_22 : decode cX4_blames 22 = .ok (.iadd, 1) := dk_96 (dk_at dksX4_blames_0 22 rfl rfl)
theorem dX4_blames_23 : decode cX4_blames 23 = .ok (.iaload, 1) := dk_46 (dk_at dksX4_blames_0 23 rfl rfl)
theorem dX4_blames_24 : decode cX4_blames 24 = .ok (.bipush 9, 2) := dk_16 9 (dk_at dksX4_blames_1 0 rfl rfl)
theorem dX4_blames_26 : decode cX4_blames 26 = .ok (.if_icmp .ne 11, 3) := dk_160 0 11 (dk_at dksX4_blames_1 2 rfl rfl)
theorem dX4_blames_29 : decode cX4_blames 29 = .ok (.aload_n 0, 1) := dk_42 (dk_at dksX4_blames_1 5 rfl rfl)
theorem dX4_blames_30 : decode cX4_blames 30 = .ok (.bipush 7, 2) := dk_16 7 (dk_at dksX4_blames_1 6 rfl rfl)
theorem dX4_blames_32 : decode cX4_blames 32 = .ok (.iload_n 1, 1) := dk_27 (dk_at dksX4_blames_1 8 rfl rfl)
theorem dX4_blames_33 : decode cX4_blames 33 = .ok (.invokevirtual 108, 3) := dk_182 0 108 (dk_at dksX4_blames_1 9 rfl rfl)
theorem dX4_blames_36 : decode cX4_blames 36 = .ok (.ireturn, 1) := dk_172 (dk_at dksX4_blames_1 12 rfl rfl)
theorem dX4_blames_37 : decode cX4_blames 37 = .ok (.aload_n 0, 1) := dk_42 (dk_at dksX4_blames_1 13 rfl rfl)
theorem dX4_blames_38 : decode cX4_blames 38 = .ok (.getfield 7, 3) := dk_180 0 7 (dk_at dksX4_blames_1 14 rfl rfl)
theorem dX4_blames_41 : decode cX4_blames 41 = .ok (.iconst 4, 1) := dk_7 (dk_at dksX4_blames_1 17 rfl rfl)
theorem dX4_blames_42 : decode cX4_blames 42 = .ok (.iload_n 1, 1) := dk_27 (dk_at dksX4_blames_1 18 rfl rfl)
theorem dX4_blames_43 : decode cX4_blames 43 = .ok (.iadd, 1) := dk_96 (dk_at dksX4_blames_1 19 rfl rfl)
theorem dX4_blames_44 : decode cX4_blames 44 = .ok (.dup2, 1) := dk_92 (dk_at dksX4_blames_1 20 rfl rfl)
theorem dX4_blames_45 : decode cX4_blames 45 = .ok (.iaload, 1) := dk_46 (dk_at dksX4_blames_1 21 rfl rfl)
theorem dX4_blames_46 : decode cX4_blames 46 = .ok (.iconst 1, 1) := dk_4 (dk_at dksX4_blames_1 22 rfl rfl)
theorem dX4_blames_47 : decode cX4_blames 47 = .ok (.iadd, 1) := dk_96 (dk_at dksX4_blames_1 23 rfl rfl)
theorem dX4_blames_48 : decode cX4_blames 48 = .ok (.iastore, 1) := dk_79 (dk_at dksX4_blames_2 0 rfl rfl)
theorem dX4_blames_49 : decode cX4_blames 49 = .ok (.bipush 10, 2) := dk_16 10 (dk_at dksX4_blames_2 1 rfl rfl)
theorem dX4_blames_51 : decode cX4_blames 51 = .ok (.aload_n 0, 1) := dk_42 (dk_at dksX4_blames_2 3 rfl rfl)
theorem dX4_blames_52 : decode cX4_blames 52 = .ok (.getfield 7, 3) := dk_180 0 7 (dk_at dksX4_blames_2 4 rfl rfl)
theorem dX4_blames_55 : decode cX4_blames 55 = .ok (.iconst 4, 1) := dk_7 (dk_at dksX4_blames_2 7 rfl rfl)
theorem dX4_blames_56 : decode cX4_blames 56 = .ok (.iload_n 1, 1) := dk_27 (dk_at dksX4_blames_2 8 rfl rfl)
theorem dX4_blames_57 : decode cX4_blames 57 = .ok (.iadd, 1) := dk_96 (dk_at dksX4_blames_2 9 rfl rfl)
theorem dX4_blames_58 : decode cX4_blames 58 = .ok (.iaload, 1) := dk_46 (dk_at dksX4_blames_2 10 rfl rfl)
theorem dX4_blames_59 : decode cX4_blames 59 = .ok (.isub, 1) := dk_100 (dk_at dksX4_blames_2 11 rfl rfl)
theorem dX4_blames_60 : decode cX4_blames 60 = .ok (.ireturn, 1) := dk_172 (dk_at dksX4_blames_2 12 rfl rfl)
abbrev cX4_pageOf : ByteArray := prog_20_method_37_code
def yX4_pageOf : MethodName := ⟨RX4, "pageOf", "(II)I"⟩
def dkwX4_pageOf_4 : List UInt8 := [16, 251, 172]
abbrev dktX4_pageOf_4 : List UInt8 := dkwX4_pageOf_4 ++ []
def dkwX4_pageOf_3 : List UInt8 := [167, 0, 25, 29, 5, 126, 5, 160, 0, 7, 4, 167, 0, 14, 29, 7, 160, 0, 7, 5, 167, 0, 5]
abbrev dktX4_pageOf_3 : List UInt8 := dkwX4_pageOf_3 ++ dktX4_pageOf_4
def dkwX4_pageOf_2 : List UInt8 := [172, 42, 27, 182, 0, 179, 62, 28, 7, 160, 0, 7, 29, 167, 0, 36, 29, 4, 126, 4, 160, 0, 7, 3]
abbrev dktX4_pageOf_2 : List UInt8 := dkwX4_pageOf_2 ++ dktX4_pageOf_3
def dkwX4_pageOf_1 : List UInt8 := [162, 0, 14, 42, 180, 0, 7, 27, 28, 184, 0, 91, 46, 172, 28, 6, 160, 0, 9, 42, 27, 182, 0, 176]
abbrev dktX4_pageOf_1 : List UInt8 := dkwX4_pageOf_1 ++ dktX4_pageOf_2
def dkwX4_pageOf_0 : List UInt8 := [42, 27, 182, 0, 140, 154, 0, 5, 2, 172, 28, 3, 8, 184, 0, 87, 154, 0, 6, 16, 254, 172, 28, 6]
abbrev dktX4_pageOf_0 : List UInt8 := dkwX4_pageOf_0 ++ dktX4_pageOf_1
theorem dksX4_pageOf_0 : cX4_pageOf.data.toList.drop 0 = dktX4_pageOf_0 := by decide +kernel
theorem dksX4_pageOf_1 : cX4_pageOf.data.toList.drop 24 = dktX4_pageOf_1 := dk_seg dksX4_pageOf_0 24 rfl rfl
theorem dksX4_pageOf_2 : cX4_pageOf.data.toList.drop 48 = dktX4_pageOf_2 := dk_seg dksX4_pageOf_1 24 rfl rfl
theorem dksX4_pageOf_3 : cX4_pageOf.data.toList.drop 72 = dktX4_pageOf_3 := dk_seg dksX4_pageOf_2 24 rfl rfl
theorem dksX4_pageOf_4 : cX4_pageOf.data.toList.drop 95 = dktX4_pageOf_4 := dk_seg dksX4_pageOf_3 23 rfl rfl
theorem dX4_pageOf_0 : decode cX4_pageOf 0 = .ok (.aload_n 0, 1) := dk_42 (dk_at dksX4_pageOf_0 0 rfl rfl)
theorem dX4_pageOf_1 : decode cX4_pageOf 1 = .ok (.iload_n 1, 1) := dk_27 (dk_at dksX4_pageOf_0 1 rfl rfl)
theorem dX4_pageOf_2 : decode cX4_pageOf 2 = .ok (.invokevirtual 140, 3) := dk_182 0 140 (dk_at dksX4_pageOf_0 2 rfl rfl)
theorem dX4_pageOf_5 : decode cX4_pageOf 5 = .ok (.ifCond .ne 5, 3) := dk_154 0 5 (dk_at dksX4_pageOf_0 5 rfl rfl)
theorem dX4_pageOf_8 : decode cX4_pageOf 8 = .ok (.iconst (-1), 1) := dk_2 (dk_at dksX4_pageOf_0 8 rfl rfl)
theorem dX4_pageOf_9 : decode cX4_pageOf 9 = .ok (.ireturn, 1) := dk_172 (dk_at dksX4_pageOf_0 9 rfl rfl)
theorem dX4_pageOf_10 : decode cX4_pageOf 10 = .ok (.iload_n 2, 1) := dk_28 (dk_at dksX4_pageOf_0 10 rfl rfl)
theorem dX4_pageOf_11 : decode cX4_pageOf 11 = .ok (.iconst 0, 1) := dk_3 (dk_at dksX4_pageOf_0 11 rfl rfl)
theorem dX4_pageOf_12 : decode cX4_pageOf 12 = .ok (.iconst 5, 1) := dk_8 (dk_at dksX4_pageOf_0 12 rfl rfl)
theorem dX4_pageOf_13 : decode cX4_pageOf 13 = .ok (.invokestatic 87, 3) := dk_184 0 87 (dk_at dksX4_pageOf_0 13 rfl rfl)
theorem dX4_pageOf_16 : decode cX4_pageOf 16 = .ok (.ifCond .ne 6, 3) := dk_154 0 6 (dk_at dksX4_pageOf_0 16 rfl rfl)
theorem dX4_pageOf_19 : decode cX4_pageOf 19 = .ok (.bipush (-2), 2) := dk_16 254 (dk_at dksX4_pageOf_0 19 rfl rfl)
theorem dX4_pageOf_21 : decode cX4_pageOf 21 = .ok (.ireturn, 1) := dk_172 (dk_at dksX4_pageOf_0 21 rfl rfl)
theorem dX4_pageOf_22 : decode cX4_pageOf 22 = .ok (.iload_n 2, 1) := dk_28 (dk_at dksX4_pageOf_0 22 rfl rfl)
theorem dX4_pageOf_23 : decode cX4_pageOf 23 = .ok (.iconst 3, 1) := dk_6 (dk_at dksX4_pageOf_0 23 rfl rfl)
theorem dX4_pageOf_24 : decode cX4_pageOf 24 = .ok (.if_icmp .ge 14, 3) := dk_162 0 14 (dk_at dksX4_pageOf_1 0 rfl rfl)
theorem dX4_pageOf_27 : decode cX4_pageOf 27 = .ok (.aload_n 0, 1) := dk_42 (dk_at dksX4_pageOf_1 3 rfl rfl)
theorem dX4_pageOf_28 : decode cX4_pageOf 28 = .ok (.getfield 7, 3) := dk_180 0 7 (dk_at dksX4_pageOf_1 4 rfl rfl)
theorem dX4_pageOf_31 : decode cX4_pageOf 31 = .ok (.iload_n 1, 1) := dk_27 (dk_at dksX4_pageOf_1 7 rfl rfl)
theorem dX4_pageOf_32 : decode cX4_pageOf 32 = .ok (.iload_n 2, 1) := dk_28 (dk_at dksX4_pageOf_1 8 rfl rfl)
theorem dX4_pageOf_33 : decode cX4_pageOf 33 = .ok (.invokestatic 91, 3) := dk_184 0 91 (dk_at dksX4_pageOf_1 9 rfl rfl)
theorem dX4_pageOf_36 : decode cX4_pageOf 36 = .ok (.iaload, 1) := dk_46 (dk_at dksX4_pageOf_1 12 rfl rfl)
theorem dX4_pageOf_37 : decode cX4_pageOf 37 = .ok (.ireturn, 1) := dk_172 (dk_at dksX4_pageOf_1 13 rfl rfl)
theorem dX4_pageOf_38 : decode cX4_pageOf 38 = .ok (.iload_n 2, 1) := dk_28 (dk_at dksX4_pageOf_1 14 rfl rfl)
theorem dX4_pageOf_39 : decode cX4_pageOf 39 = .ok (.iconst 3, 1) := dk_6 (dk_at dksX4_pageOf_1 15 rfl rfl)
theorem dX4_pageOf_40 : decode cX4_pageOf 40 = .ok (.if_icmp .ne 9, 3) := dk_160 0 9 (dk_at dksX4_pageOf_1 16 rfl rfl)
theorem dX4_pageOf_43 : decode cX4_pageOf 43 = .ok (.aload_n 0, 1) := dk_42 (dk_at dksX4_pageOf_1 19 rfl rfl)
theorem dX4_pageOf_44 : decode cX4_pageOf 44 = .ok (.iload_n 1, 1) := dk_27 (dk_at dksX4_pageOf_1 20 rfl rfl)
theorem dX4_pageOf_45 : decode cX4_pageOf 45 = .ok (.invokevirtual 176, 3) := dk_182 0 176 (dk_at dksX4_pageOf_1 21 rfl rfl)
theorem dX4_pageOf_48 : decode cX4_pageOf 48 = .ok (.ireturn, 1) := dk_172 (dk_at dksX4_pageOf_2 0 rfl rfl)
theorem dX4_pageOf_49 : decode cX4_pageOf 49 = .ok (.aload_n 0, 1) := dk_42 (dk_at dksX4_pageOf_2 1 rfl rfl)
theorem dX4_pageOf_50 : decode cX4_pageOf 50 = .ok (.iload_n 1, 1) := dk_27 (dk_at dksX4_pageOf_2 2 rfl rfl)
theorem dX4_pageOf_51 : decode cX4_pageOf 51 = .ok (.invokevirtual 179, 3) := dk_182 0 179 (dk_at dksX4_pageOf_2 3 rfl rfl)
theorem dX4_pageOf_54 : decode cX4_pageOf 54 = .ok (.istore_n 3, 1) := dk_62 (dk_at dksX4_pageOf_2 6 rfl rfl)
theorem dX4_pageOf_55 : decode cX4_pageOf 55 = .ok (.iload_n 2, 1) := dk_28 (dk_at dksX4_pageOf_2 7 rfl rfl)
theorem dX4_pageOf_56 : decode cX4_pageOf 56 = .ok (.iconst 4, 1) := dk_7 (dk_at dksX4_pageOf_2 8 rfl rfl)
theorem dX4_pageOf_57 : decode cX4_pageOf 57 = .ok (.if_icmp .ne 7, 3) := dk_160 0 7 (dk_at dksX4_pageOf_2 9 rfl rfl)
theorem dX4_pageOf_60 : decode cX4_pageOf 60 = .ok (.iload_n 3, 1) := dk_29 (dk_at dksX4_pageOf_2 12 rfl rfl)
theorem dX4_pageOf_61 : decode cX4_pageOf 61 = .ok (.goto 36, 3) := dk_167 0 36 (dk_at dksX4_pageOf_2 13 rfl rfl)
theorem dX4_pageOf_64 : decode cX4_pageOf 64 = .ok (.iload_n 3, 1) := dk_29 (dk_at dksX4_pageOf_2 16 rfl rfl)
theorem dX4_pageOf_65 : decode cX4_pageOf 65 = .ok (.iconst 1, 1) := dk_4 (dk_at dksX4_pageOf_2 17 rfl rfl)
theorem dX4_pageOf_66 : decode cX4_pageOf 66 = .ok (.iand, 1) := dk_126 (dk_at dksX4_pageOf_2 18 rfl rfl)
theorem dX4_pageOf_67 : decode cX4_pageOf 67 = .ok (.iconst 1, 1) := dk_4 (dk_at dksX4_pageOf_2 19 rfl rfl)
theorem dX4_pageOf_68 : decode cX4_pageOf 68 = .ok (.if_icmp .ne 7, 3) := dk_160 0 7 (dk_at dksX4_pageOf_2 20 rfl rfl)
theorem dX4_pageOf_71 : decode cX4_pageOf 71 = .ok (.iconst 0, 1) := dk_3 (dk_at dksX4_pageOf_2 23 rfl rfl)
theorem dX4_pageOf_72 : decode cX4_pageOf 72 = .ok (.goto 25, 3) := dk_167 0 25 (dk_at dksX4_pageOf_3 0 rfl rfl)
theorem dX4_pageOf_75 : decode cX4_pageOf 75 = .ok (.iload_n 3, 1) := dk_29 (dk_at dksX4_pageOf_3 3 rfl rfl)
theorem dX4_pageOf_76 : decode cX4_pageOf 76 = .ok (.iconst 2, 1) := dk_5 (dk_at dksX4_pageOf_3 4 rfl rfl)
theorem dX4_pageOf_77 : decode cX4_pageOf 77 = .ok (.iand, 1) := dk_126 (dk_at dksX4_pageOf_3 5 rfl rfl)
theorem dX4_pageOf_78 : decode cX4_pageOf 78 = .ok (.iconst 2, 1) := dk_5 (dk_at dksX4_pageOf_3 6 rfl rfl)
theorem dX4_pageOf_79 : decode cX4_pageOf 79 = .ok (.if_icmp .ne 7, 3) := dk_160 0 7 (dk_at dksX4_pageOf_3 7 rfl rfl)
theorem dX4_pageOf_82 : decode cX4_pageOf 82 = .ok (.iconst 1, 1) := dk_4 (dk_at dksX4_pageOf_3 10 rfl rfl)
theorem dX4_pageOf_83 : decode cX4_pageOf 83 = .ok (.goto 14, 3) := dk_167 0 14 (dk_at dksX4_pageOf_3 11 rfl rfl)
theorem dX4_pageOf_86 : decode cX4_pageOf 86 = .ok (.iload_n 3, 1) := dk_29 (dk_at dksX4_pageOf_3 14 rfl rfl)
theorem dX4_pageOf_87 : decode cX4_pageOf 87 = .ok (.iconst 4, 1) := dk_7 (dk_at dksX4_pageOf_3 15 rfl rfl)
theorem dX4_pageOf_88 : decode cX4_pageOf 88 = .ok (.if_icmp .ne 7, 3) := dk_160 0 7 (dk_at dksX4_pageOf_3 16 rfl rfl)
theorem dX4_pageOf_91 : decode cX4_pageOf 91 = .ok (.iconst 2, 1) := dk_5 (dk_at dksX4_pageOf_3 19 rfl rfl)
theorem dX4_pageOf_92 : decode cX4_pageOf 92 = .ok (.goto 5, 3) := dk_167 0 5 (dk_at dksX4_pageOf_3 20 rfl rfl)
theorem dX4_pageOf_95 : decode cX4_pageOf 95 = .ok (.bipush (-5), 2) := dk_16 251 (dk_at dksX4_pageOf_4 0 rfl rfl)
theorem dX4_pageOf_97 : decode cX4_pageOf 97 = .ok (.ireturn, 1) := dk_172 (dk_at dksX4_pageOf_4 2 rfl rfl)
abbrev cX4_known : ByteArray := prog_20_method_35_code
def yX4_known : MethodName := ⟨RX4, "known", "(I)I"⟩
def dkwX4_known_2 : List UInt8 := [172]
abbrev dktX4_known_2 : List UInt8 := dkwX4_known_2 ++ []
def dkwX4_known_1 : List UInt8 := [29, 6, 184, 0, 136, 46, 4, 160, 0, 7, 4, 167, 0, 4, 3, 96, 61, 132, 3, 1, 167, 255, 216, 28]
abbrev dktX4_known_1 : List UInt8 := dkwX4_known_1 ++ dktX4_known_2
def dkwX4_known_0 : List UInt8 := [3, 61, 3, 62, 29, 42, 180, 0, 7, 27, 5, 184, 0, 91, 46, 162, 0, 32, 28, 42, 180, 0, 7, 27]
abbrev dktX4_known_0 : List UInt8 := dkwX4_known_0 ++ dktX4_known_1
theorem dksX4_known_0 : cX4_known.data.toList.drop 0 = dktX4_known_0 := by decide +kernel
theorem dksX4_known_1 : cX4_known.data.toList.drop 24 = dktX4_known_1 := dk_seg dksX4_known_0 24 rfl rfl
theorem dksX4_known_2 : cX4_known.data.toList.drop 48 = dktX4_known_2 := dk_seg dksX4_known_1 24 rfl rfl
theorem dX4_known_0 : decode cX4_known 0 = .ok (.iconst 0, 1) := dk_3 (dk_at dksX4_known_0 0 rfl rfl)
theorem dX4_known_1 : decode cX4_known 1 = .ok (.istore_n 2, 1) := dk_61 (dk_at dksX4_known_0 1 rfl rfl)
theorem dX4_known_2 : decode cX4_known 2 = .ok (.iconst 0, 1) := dk_3 (dk_at dksX4_known_0 2 rfl rfl)
theorem dX4_known_3 : decode cX4_known 3 = .ok (.istore_n 3, 1) := dk_62 (dk_at dksX4_known_0 3 rfl rfl)
theorem dX4_known_4 : decode cX4_known 4 = .ok (.iload_n 3, 1) := dk_29 (dk_at dksX4_known_0 4 rfl rfl)
theorem dX4_known_5 : decode cX4_known 5 = .ok (.aload_n 0, 1) := dk_42 (dk_at dksX4_known_0 5 rfl rfl)
theorem dX4_known_6 : decode cX4_known 6 = .ok (.getfield 7, 3) := dk_180 0 7 (dk_at dksX4_known_0 6 rfl rfl)
theorem dX4_known_9 : decode cX4_known 9 = .ok (.iload_n 1, 1) := dk_27 (dk_at dksX4_known_0 9 rfl rfl)
theorem dX4_known_10 : decode cX4_known 10 = .ok (.iconst 2, 1) := dk_5 (dk_at dksX4_known_0 10 rfl rfl)
theorem dX4_known_11 : decode cX4_known 11 = .ok (.invokestatic 91, 3) := dk_184 0 91 (dk_at dksX4_known_0 11 rfl rfl)
theorem dX4_known_14 : decode cX4_known 14 = .ok (.iaload, 1) := dk_46 (dk_at dksX4_known_0 14 rfl rfl)
theorem dX4_known_15 : decode cX4_known 15 = .ok (.if_icmp .ge 32, 3) := dk_162 0 32 (dk_at dksX4_known_0 15 rfl rfl)
theorem dX4_known_18 : decode cX4_known 18 = .ok (.iload_n 2, 1) := dk_28 (dk_at dksX4_known_0 18 rfl rfl)
theorem dX4_known_19 : decode cX4_known 19 = .ok (.aload_n 0, 1) := dk_42 (dk_at dksX4_known_0 19 rfl rfl)
theorem dX4_known_20 : decode cX4_known 20 = .ok (.getfield 7, 3) := dk_180 0 7 (dk_at dksX4_known_0 20 rfl rfl)
theorem dX4_known_23 : decode cX4_known 23 = .ok (.iload_n 1, 1) := dk_27 (dk_at dksX4_known_0 23 rfl rfl)
theorem dX4_known_24 : decode cX4_known 24 = .ok (.iload_n 3, 1) := dk_29 (dk_at dksX4_known_1 0 rfl rfl)
theorem dX4_known_25 : decode cX4_known 25 = .ok (.iconst 3, 1) := dk_6 (dk_at dksX4_known_1 1 rfl rfl)
theorem dX4_known_26 : decode cX4_known 26 = .ok (.invokestatic 136, 3) := dk_184 0 136 (dk_at dksX4_known_1 2 rfl rfl)
theorem dX4_known_29 : decode cX4_known 29 = .ok (.iaload, 1) := dk_46 (dk_at dksX4_known_1 5 rfl rfl)
theorem dX4_known_30 : decode cX4_known 30 = .ok (.iconst 1, 1) := dk_4 (dk_at dksX4_known_1 6 rfl rfl)
theorem dX4_known_31 : decode cX4_known 31 = .ok (.if_icmp .ne 7, 3) := dk_160 0 7 (dk_at dksX4_known_1 7 rfl rfl)
theorem dX4_known_34 : decode cX4_known 34 = .ok (.iconst 1, 1) := dk_4 (dk_at dksX4_known_1 10 rfl rfl)
theorem dX4_known_35 : decode cX4_known 35 = .ok (.goto 4, 3) := dk_167 0 4 (dk_at dksX4_known_1 11 rfl rfl)
theorem dX4_known_38 : decode cX4_known 38 = .ok (.iconst 0, 1) := dk_3 (dk_at dksX4_known_1 14 rfl rfl)
theorem dX4_known_39 : decode cX4_known 39 = .ok (.iadd, 1) := dk_96 (dk_at dksX4_known_1 15 rfl rfl)
theorem dX4_known_40 : decode cX4_known 40 = .ok (.istore_n 2, 1) := dk_61 (dk_at dksX4_known_1 16 rfl rfl)
theorem dX4_known_41 : decode cX4_known 41 = .ok (.iinc 3 1, 3) := dk_132 3 1 (dk_at dksX4_known_1 17 rfl rfl)
theorem dX4_known_44 : decode cX4_known 44 = .ok (.goto (-40), 3) := dk_167 255 216 (dk_at dksX4_known_1 20 rfl rfl)
theorem dX4_known_47 : decode cX4_known 47 = .ok (.iload_n 2, 1) := dk_28 (dk_at dksX4_known_1 23 rfl rfl)
theorem dX4_known_48 : decode cX4_known 48 = .ok (.ireturn, 1) := dk_172 (dk_at dksX4_known_2 0 rfl rfl)
abbrev cX4_rays : ByteArray := prog_20_method_36_code
def yX4_rays : MethodName := ⟨RX4, "rays", "(I)I"⟩
def dkwX4_rays_1 : List UInt8 := [167, 0, 4, 3, 128, 61, 132, 3, 1, 167, 255, 229, 28, 172]
abbrev dktX4_rays_1 : List UInt8 := dkwX4_rays_1 ++ []
def dkwX4_rays_0 : List UInt8 := [3, 61, 3, 62, 29, 6, 162, 0, 28, 28, 42, 27, 29, 182, 0, 157, 153, 0, 9, 4, 29, 120]
abbrev dktX4_rays_0 : List UInt8 := dkwX4_rays_0 ++ dktX4_rays_1
theorem dksX4_rays_0 : cX4_rays.data.toList.drop 0 = dktX4_rays_0 := by decide +kernel
theorem dksX4_rays_1 : cX4_rays.data.toList.drop 22 = dktX4_rays_1 := dk_seg dksX4_rays_0 22 rfl rfl
theorem dX4_rays_0 : decode cX4_rays 0 = .ok (.iconst 0, 1) := dk_3 (dk_at dksX4_rays_0 0 rfl rfl)
theorem dX4_rays_1 : decode cX4_rays 1 = .ok (.istore_n 2, 1) := dk_61 (dk_at dksX4_rays_0 1 rfl rfl)
theorem dX4_rays_2 : decode cX4_rays 2 = .ok (.iconst 0, 1) := dk_3 (dk_at dksX4_rays_0 2 rfl rfl)
theorem dX4_rays_3 : decode cX4_rays 3 = .ok (.istore_n 3, 1) := dk_62 (dk_at dksX4_rays_0 3 rfl rfl)
theorem dX4_rays_4 : decode cX4_rays 4 = .ok (.iload_n 3, 1) := dk_29 (dk_at dksX4_rays_0 4 rfl rfl)
theorem dX4_rays_5 : decode cX4_rays 5 = .ok (.iconst 3, 1) := dk_6 (dk_at dksX4_rays_0 5 rfl rfl)
theorem dX4_rays_6 : decode cX4_rays 6 = .ok (.if_icmp .ge 28, 3) := dk_162 0 28 (dk_at dksX4_rays_0 6 rfl rfl)
theorem dX4_rays_9 : decode cX4_rays 9 = .ok (.iload_n 2, 1) := dk_28 (dk_at dksX4_rays_0 9 rfl rfl)
theorem dX4_rays_10 : decode cX4_rays 10 = .ok (.aload_n 0, 1) := dk_42 (dk_at dksX4_rays_0 10 rfl rfl)
theorem dX4_rays_11 : decode cX4_rays 11 = .ok (.iload_n 1, 1) := dk_27 (dk_at dksX4_rays_0 11 rfl rfl)
theorem dX4_rays_12 : decode cX4_rays 12 = .ok (.iload_n 3, 1) := dk_29 (dk_at dksX4_rays_0 12 rfl rfl)
theorem dX4_rays_13 : decode cX4_rays 13 = .ok (.invokevirtual 157, 3) := dk_182 0 157 (dk_at dksX4_rays_0 13 rfl rfl)
theorem dX4_rays_16 : decode cX4_rays 16 = .ok (.ifCond .eq 9, 3) := dk_153 0 9 (dk_at dksX4_rays_0 16 rfl rfl)
theorem dX4_rays_19 : decode cX4_rays 19 = .ok (.iconst 1, 1) := dk_4 (dk_at dksX4_rays_0 19 rfl rfl)
theorem dX4_rays_20 : decode cX4_rays 20 = .ok (.iload_n 3, 1) := dk_29 (dk_at dksX4_rays_0 20 rfl rfl)
theorem dX4_rays_21 : decode cX4_rays 21 = .ok (.ishl, 1) := dk_120 (dk_at dksX4_rays_0 21 rfl rfl)
theorem dX4_rays_22 : decode cX4_rays 22 = .ok (.goto 4, 3) := dk_167 0 4 (dk_at dksX4_rays_1 0 rfl rfl)
theorem dX4_rays_25 : decode cX4_rays 25 = .ok (.iconst 0, 1) := dk_3 (dk_at dksX4_rays_1 3 rfl rfl)
theorem dX4_rays_26 : decode cX4_rays 26 = .ok (.ior, 1) := dk_128 (dk_at dksX4_rays_1 4 rfl rfl)
theorem dX4_rays_27 : decode cX4_rays 27 = .ok (.istore_n 2, 1) := dk_61 (dk_at dksX4_rays_1 5 rfl rfl)
theorem dX4_rays_28 : decode cX4_rays 28 = .ok (.iinc 3 1, 3) := dk_132 3 1 (dk_at dksX4_rays_1 6 rfl rfl)
theorem dX4_rays_31 : decode cX4_rays 31 = .ok (.goto (-27), 3) := dk_167 255 229 (dk_at dksX4_rays_1 9 rfl rfl)
theorem dX4_rays_34 : decode cX4_rays 34 = .ok (.iload_n 2, 1) := dk_28 (dk_at dksX4_rays_1 12 rfl rfl)
theorem dX4_rays_35 : decode cX4_rays 35 = .ok (.ireturn, 1) := dk_172 (dk_at dksX4_rays_1 13 rfl rfl)
abbrev cX4_entryOf : ByteArray := prog_20_method_38_code
def yX4_entryOf : MethodName := ⟨RX4, "entryOf", "(III)I"⟩
def dkwX4_entryOf_1 : List UInt8 := [184, 0, 87, 153, 0, 17, 42, 180, 0, 7, 27, 28, 29, 184, 0, 136, 46, 167, 0, 5, 16, 254, 172]
abbrev dktX4_entryOf_1 : List UInt8 := dkwX4_entryOf_1 ++ []
def dkwX4_entryOf_0 : List UInt8 := [42, 27, 182, 0, 140, 153, 0, 12, 42, 27, 28, 182, 0, 164, 154, 0, 5, 2, 172, 29, 3, 6]
abbrev dktX4_entryOf_0 : List UInt8 := dkwX4_entryOf_0 ++ dktX4_entryOf_1
theorem dksX4_entryOf_0 : cX4_entryOf.data.toList.drop 0 = dktX4_entryOf_0 := by decide +kernel
theorem dksX4_entryOf_1 : cX4_entryOf.data.toList.drop 22 = dktX4_entryOf_1 := dk_seg dksX4_entryOf_0 22 rfl rfl
theorem dX4_entryOf_0 : decode cX4_entryOf 0 = .ok (.aload_n 0, 1) := dk_42 (dk_at dksX4_entryOf_0 0 rfl rfl)
theorem dX4_entryOf_1 : decode cX4_entryOf 1 = .ok (.iload_n 1, 1) := dk_27 (dk_at dksX4_entryOf_0 1 rfl rfl)
theorem dX4_entryOf_2 : decode cX4_entryOf 2 = .ok (.invokevirtual 140, 3) := dk_182 0 140 (dk_at dksX4_entryOf_0 2 rfl rfl)
theorem dX4_entryOf_5 : decode cX4_entryOf 5 = .ok (.ifCond .eq 12, 3) := dk_153 0 12 (dk_at dksX4_entryOf_0 5 rfl rfl)
theorem dX4_entryOf_8 : decode cX4_entryOf 8 = .ok (.aload_n 0, 1) := dk_42 (dk_at dksX4_entryOf_0 8 rfl rfl)
theorem dX4_entryOf_9 : decode cX4_entryOf 9 = .ok (.iload_n 1, 1) := dk_27 (dk_at dksX4_entryOf_0 9 rfl rfl)
theorem dX4_entryOf_10 : decode cX4_entryOf 10 = .ok (.iload_n 2, 1) := dk_28 (dk_at dksX4_entryOf_0 10 rfl rfl)
theorem dX4_entryOf_11 : decode cX4_entryOf 11 = .ok (.invokevirtual 164, 3) := dk_182 0 164 (dk_at dksX4_entryOf_0 11 rfl rfl)
theorem dX4_entryOf_14 : decode cX4_entryOf 14 = .ok (.ifCond .ne 5, 3) := dk_154 0 5 (dk_at dksX4_entryOf_0 14 rfl rfl)
theorem dX4_entryOf_17 : decode cX4_entryOf 17 = .ok (.iconst (-1), 1) := dk_2 (dk_at dksX4_entryOf_0 17 rfl rfl)
theorem dX4_entryOf_18 : decode cX4_entryOf 18 = .ok (.ireturn, 1) := dk_172 (dk_at dksX4_entryOf_0 18 rfl rfl)
theorem dX4_entryOf_19 : decode cX4_entryOf 19 = .ok (.iload_n 3, 1) := dk_29 (dk_at dksX4_entryOf_0 19 rfl rfl)
theorem dX4_entryOf_20 : decode cX4_entryOf 20 = .ok (.iconst 0, 1) := dk_3 (dk_at dksX4_entryOf_0 20 rfl rfl)
theorem dX4_entryOf_21 : decode cX4_entryOf 21 = .ok (.iconst 3, 1) := dk_6 (dk_at dksX4_entryOf_0 21 rfl rfl)
theorem dX4_entryOf_22 : decode cX4_entryOf 22 = .ok (.invokestatic 87, 3) := dk_184 0 87 (dk_at dksX4_entryOf_1 0 rfl rfl)
theorem dX4_entryOf_25 : decode cX4_entryOf 25 = .ok (.ifCond .eq 17, 3) := dk_153 0 17 (dk_at dksX4_entryOf_1 3 rfl rfl)
theorem dX4_entryOf_28 : decode cX4_entryOf 28 = .ok (.aload_n 0, 1) := dk_42 (dk_at dksX4_entryOf_1 6 rfl rfl)
theorem dX4_entryOf_29 : decode cX4_entryOf 29 = .ok (.getfield 7, 3) := dk_180 0 7 (dk_at dksX4_entryOf_1 7 rfl rfl)
theorem dX4_entryOf_32 : decode cX4_entryOf 32 = .ok (.iload_n 1, 1) := dk_27 (dk_at dksX4_entryOf_1 10 rfl rfl)
theorem dX4_entryOf_33 : decode cX4_entryOf 33 = .ok (.iload_n 2, 1) := dk_28 (dk_at dksX4_entryOf_1 11 rfl rfl)
theorem dX4_entryOf_34 : decode cX4_entryOf 34 = .ok (.iload_n 3, 1) := dk_29 (dk_at dksX4_entryOf_1 12 rfl rfl)
theorem dX4_entryOf_35 : decode cX4_entryOf 35 = .ok (.invokestatic 136, 3) := dk_184 0 136 (dk_at dksX4_entryOf_1 13 rfl rfl)
theorem dX4_entryOf_38 : decode cX4_entryOf 38 = .ok (.iaload, 1) := dk_46 (dk_at dksX4_entryOf_1 16 rfl rfl)
theorem dX4_entryOf_39 : decode cX4_entryOf 39 = .ok (.goto 5, 3) := dk_167 0 5 (dk_at dksX4_entryOf_1 17 rfl rfl)
theorem dX4_entryOf_42 : decode cX4_entryOf 42 = .ok (.bipush (-2), 2) := dk_16 254 (dk_at dksX4_entryOf_1 20 rfl rfl)
theorem dX4_entryOf_44 : decode cX4_entryOf 44 = .ok (.ireturn, 1) := dk_172 (dk_at dksX4_entryOf_1 22 rfl rfl)
abbrev cX4_witnessOf : ByteArray := prog_20_method_39_code
def yX4_witnessOf : MethodName := ⟨RX4, "witnessOf", "(II)I"⟩
def dkwX4_witnessOf_6 : List UInt8 := [132, 4, 1, 167, 255, 215, 29, 172]
abbrev dktX4_witnessOf_6 : List UInt8 := dkwX4_witnessOf_6 ++ []
def dkwX4_witnessOf_5 : List UInt8 := [42, 42, 180, 0, 37, 21, 4, 46, 5, 182, 0, 105, 27, 160, 0, 7, 4, 167, 0, 4, 3, 100, 62]
abbrev dktX4_witnessOf_5 : List UInt8 := dkwX4_witnessOf_5 ++ dktX4_witnessOf_6
def dkwX4_witnessOf_4 : List UInt8 := [132, 4, 1, 167, 255, 225, 3, 54, 4, 21, 4, 42, 180, 0, 185, 162, 0, 38, 28, 6, 160, 0, 33, 29]
abbrev dktX4_witnessOf_4 : List UInt8 := dkwX4_witnessOf_4 ++ dktX4_witnessOf_5
def dkwX4_witnessOf_3 : List UInt8 := [162, 0, 28, 29, 42, 21, 4, 5, 182, 0, 105, 27, 160, 0, 7, 4, 167, 0, 4, 3, 96, 62]
abbrev dktX4_witnessOf_3 : List UInt8 := dkwX4_witnessOf_3 ++ dktX4_witnessOf_4
def dkwX4_witnessOf_2 : List UInt8 := [180, 0, 7, 7, 27, 96, 46, 100, 172, 42, 182, 0, 182, 3, 62, 3, 54, 4, 21, 4, 42, 180, 0, 102]
abbrev dktX4_witnessOf_2 : List UInt8 := dkwX4_witnessOf_2 ++ dktX4_witnessOf_3
def dkwX4_witnessOf_1 : List UInt8 := [5, 162, 0, 30, 28, 154, 0, 14, 42, 180, 0, 7, 7, 27, 96, 46, 167, 0, 14, 16, 10, 42]
abbrev dktX4_witnessOf_1 : List UInt8 := dkwX4_witnessOf_1 ++ dktX4_witnessOf_2
def dkwX4_witnessOf_0 : List UInt8 := [27, 3, 8, 184, 0, 87, 154, 0, 5, 2, 172, 28, 3, 6, 184, 0, 87, 154, 0, 6, 16, 254, 172, 28]
abbrev dktX4_witnessOf_0 : List UInt8 := dkwX4_witnessOf_0 ++ dktX4_witnessOf_1
theorem dksX4_witnessOf_0 : cX4_witnessOf.data.toList.drop 0 = dktX4_witnessOf_0 := by decide +kernel
theorem dksX4_witnessOf_1 : cX4_witnessOf.data.toList.drop 24 = dktX4_witnessOf_1 := dk_seg dksX4_witnessOf_0 24 rfl rfl
theorem dksX4_witnessOf_2 : cX4_witnessOf.data.toList.drop 46 = dktX4_witnessOf_2 := dk_seg dksX4_witnessOf_1 22 rfl rfl
theorem dksX4_witnessOf_3 : cX4_witnessOf.data.toList.drop 70 = dktX4_witnessOf_3 := dk_seg dksX4_witnessOf_2 24 rfl rfl
theorem dksX4_witnessOf_4 : cX4_witnessOf.data.toList.drop 92 = dktX4_witnessOf_4 := dk_seg dksX4_witnessOf_3 22 rfl rfl
theorem dksX4_witnessOf_5 : cX4_witnessOf.data.toList.drop 116 = dktX4_witnessOf_5 := dk_seg dksX4_witnessOf_4 24 rfl rfl
theorem dksX4_witnessOf_6 : cX4_witnessOf.data.toList.drop 139 = dktX4_witnessOf_6 := dk_seg dksX4_witnessOf_5 23 rfl rfl
theorem dX4_witnessOf_0 : decode cX4_witnessOf 0 = .ok (.iload_n 1, 1) := dk_27 (dk_at dksX4_witnessOf_0 0 rfl rfl)
theorem dX4_witnessOf_1 : decode cX4_witnessOf 1 = .ok (.iconst 0, 1) := dk_3 (dk_at dksX4_witnessOf_0 1 rfl rfl)
theorem dX4_witnessOf_2 : decode cX4_witnessOf 2 = .ok (.iconst 5, 1) := dk_8 (dk_at dksX4_witnessOf_0 2 rfl rfl)
theorem dX4_witnessOf_3 : decode cX4_witnessOf 3 = .ok (.invokestatic 87, 3) := dk_184 0 87 (dk_at dksX4_witnessOf_0 3 rfl rfl)
theorem dX4_witnessOf_6 : decode cX4_witnessOf 6 = .ok (.ifCond .ne 5, 3) := dk_154 0 5 (dk_at dksX4_witnessOf_0 6 rfl rfl)
theorem dX4_witnessOf_9 : decode cX4_witnessOf 9 = .ok (.iconst (-1), 1) := dk_2 (dk_at dksX4_witnessOf_0 9 rfl rfl)
theorem dX4_witnessOf_10 : decode cX4_witnessOf 10 = .ok (.ireturn, 1) := dk_172 (dk_at dksX4_witnessOf_0 10 rfl rfl)
theorem dX4_witnessOf_11 : decode cX4_witnessOf 11 = .ok (.iload_n 2, 1) := dk_28 (dk_at dksX4_witnessOf_0 11 rfl rfl)
theorem dX4_witnessOf_12 : decode cX4_witnessOf 12 = .ok (.iconst 0, 1) := dk_3 (dk_at dksX4_witnessOf_0 12 rfl rfl)
theorem dX4_witnessOf_13 : decode cX4_witnessOf 13 = .ok (.iconst 3, 1) := dk_6 (dk_at dksX4_witnessOf_0 13 rfl rfl)
theorem dX4_witnessOf_14 : decode cX4_witnessOf 14 = .ok (.invokestatic 87, 3) := dk_184 0 87 (dk_at dksX4_witnessOf_0 14 rfl rfl)
theorem dX4_witnessOf_17 : decode cX4_witnessOf 17 = .ok (.ifCond .ne 6, 3) := dk_154 0 6 (dk_at dksX4_witnessOf_0 17 rfl rfl)
theorem dX4_witnessOf_20 : decode cX4_witnessOf 20 = .ok (.bipush (-2), 2) := dk_16 254 (dk_at dksX4_witnessOf_0 20 rfl rfl)
theorem dX4_witnessOf_22 : decode cX4_witnessOf 22 = .ok (.ireturn, 1) := dk_172 (dk_at dksX4_witnessOf_0 22 rfl rfl)
theorem dX4_witnessOf_23 : decode cX4_witnessOf 23 = .ok (.iload_n 2, 1) := dk_28 (dk_at dksX4_witnessOf_0 23 rfl rfl)
theorem dX4_witnessOf_24 : decode cX4_witnessOf 24 = .ok (.iconst 2, 1) := dk_5 (dk_at dksX4_witnessOf_1 0 rfl rfl)
theorem dX4_witnessOf_25 : decode cX4_witnessOf 25 = .ok (.if_icmp .ge 30, 3) := dk_162 0 30 (dk_at dksX4_witnessOf_1 1 rfl rfl)
theorem dX4_witnessOf_28 : decode cX4_witnessOf 28 = .ok (.iload_n 2, 1) := dk_28 (dk_at dksX4_witnessOf_1 4 rfl rfl)
theorem dX4_witnessOf_29 : decode cX4_witnessOf 29 = .ok (.ifCond .ne 14, 3) := dk_154 0 14 (dk_at dksX4_witnessOf_1 5 rfl rfl)
theorem dX4_witnessOf_32 : decode cX4_witnessOf 32 = .ok (.aload_n 0, 1) := dk_42 (dk_at dksX4_witnessOf_1 8 rfl rfl)
theorem dX4_witnessOf_33 : decode cX4_witnessOf 33 = .ok (.getfield 7, 3) := dk_180 0 7 (dk_at dksX4_witnessOf_1 9 rfl rfl)
theorem dX4_witnessOf_36 : decode cX4_witnessOf 36 = .ok (.iconst 4, 1) := dk_7 (dk_at dksX4_witnessOf_1 12 rfl rfl)
theorem dX4_witnessOf_37 : decode cX4_witnessOf 37 = .ok (.iload_n 1, 1) := dk_27 (dk_at dksX4_witnessOf_1 13 rfl rfl)
theorem dX4_witnessOf_38 : decode cX4_witnessOf 38 = .ok (.iadd, 1) := dk_96 (dk_at dksX4_witnessOf_1 14 rfl rfl)
theorem dX4_witnessOf_39 : decode cX4_witnessOf 39 = .ok (.iaload, 1) := dk_46 (dk_at dksX4_witnessOf_1 15 rfl rfl)
theorem dX4_witnessOf_40 : decode cX4_witnessOf 40 = .ok (.goto 14, 3) := dk_167 0 14 (dk_at dksX4_witnessOf_1 16 rfl rfl)
theorem dX4_witnessOf_43 : decode cX4_witnessOf 43 = .ok (.bipush 10, 2) := dk_16 10 (dk_at dksX4_witnessOf_1 19 rfl rfl)
theorem dX4_witnessOf_45 : decode cX4_witnessOf 45 = .ok (.aload_n 0, 1) := dk_42 (dk_at dksX4_witnessOf_1 21 rfl rfl)
theorem dX4_witnessOf_46 : decode cX4_witnessOf 46 = .ok (.getfield 7, 3) := dk_180 0 7 (dk_at dksX4_witnessOf_2 0 rfl rfl)
theorem dX4_witnessOf_49 : decode cX4_witnessOf 49 = .ok (.iconst 4, 1) := dk_7 (dk_at dksX4_witnessOf_2 3 rfl rfl)
theorem dX4_witnessOf_50 : decode cX4_witnessOf 50 = .ok (.iload_n 1, 1) := dk_27 (dk_at dksX4_witnessOf_2 4 rfl rfl)
theorem dX4_witnessOf_51 : decode cX4_witnessOf 51 = .ok (.iadd, 1) := dk_96 (dk_at dksX4_witnessOf_2 5 rfl rfl)
theorem dX4_witnessOf_52 : decode cX4_witnessOf 52 = .ok (.iaload, 1) := dk_46 (dk_at dksX4_witnessOf_2 6 rfl rfl)
theorem dX4_witnessOf_53 : decode cX4_witnessOf 53 = .ok (.isub, 1) := dk_100 (dk_at dksX4_witnessOf_2 7 rfl rfl)
theorem dX4_witnessOf_54 : decode cX4_witnessOf 54 = .ok (.ireturn, 1) := dk_172 (dk_at dksX4_witnessOf_2 8 rfl rfl)
theorem dX4_witnessOf_55 : decode cX4_witnessOf 55 = .ok (.aload_n 0, 1) := dk_42 (dk_at dksX4_witnessOf_2 9 rfl rfl)
theorem dX4_witnessOf_56 : decode cX4_witnessOf 56 = .ok (.invokevirtual 182, 3) := dk_182 0 182 (dk_at dksX4_witnessOf_2 10 rfl rfl)
theorem dX4_witnessOf_59 : decode cX4_witnessOf 59 = .ok (.iconst 0, 1) := dk_3 (dk_at dksX4_witnessOf_2 13 rfl rfl)
theorem dX4_witnessOf_60 : decode cX4_witnessOf 60 = .ok (.istore_n 3, 1) := dk_62 (dk_at dksX4_witnessOf_2 14 rfl rfl)
theorem dX4_witnessOf_61 : decode cX4_witnessOf 61 = .ok (.iconst 0, 1) := dk_3 (dk_at dksX4_witnessOf_2 15 rfl rfl)
theorem dX4_witnessOf_62 : decode cX4_witnessOf 62 = .ok (.istore 4, 2) := dk_54 4 (dk_at dksX4_witnessOf_2 16 rfl rfl)
theorem dX4_witnessOf_64 : decode cX4_witnessOf 64 = .ok (.iload 4, 2) := dk_21 4 (dk_at dksX4_witnessOf_2 18 rfl rfl)
theorem dX4_witnessOf_66 : decode cX4_witnessOf 66 = .ok (.aload_n 0, 1) := dk_42 (dk_at dksX4_witnessOf_2 20 rfl rfl)
theorem dX4_witnessOf_67 : decode cX4_witnessOf 67 = .ok (.getfield 102, 3) := dk_180 0 102 (dk_at dksX4_witnessOf_2 21 rfl rfl)
theorem dX4_witnessOf_70 : decode cX4_witnessOf 70 = .ok (.if_icmp .ge 28, 3) := dk_162 0 28 (dk_at dksX4_witnessOf_3 0 rfl rfl)
theorem dX4_witnessOf_73 : decode cX4_witnessOf 73 = .ok (.iload_n 3, 1) := dk_29 (dk_at dksX4_witnessOf_3 3 rfl rfl)
theorem dX4_witnessOf_74 : decode cX4_witnessOf 74 = .ok (.aload_n 0, 1) := dk_42 (dk_at dksX4_witnessOf_3 4 rfl rfl)
theorem dX4_witnessOf_75 : decode cX4_witnessOf 75 = .ok (.iload 4, 2) := dk_21 4 (dk_at dksX4_witnessOf_3 5 rfl rfl)
theorem dX4_witnessOf_77 : decode cX4_witnessOf 77 = .ok (.iconst 2, 1) := dk_5 (dk_at dksX4_witnessOf_3 7 rfl rfl)
theorem dX4_witnessOf_78 : decode cX4_witnessOf 78 = .ok (.invokevirtual 105, 3) := dk_182 0 105 (dk_at dksX4_witnessOf_3 8 rfl rfl)
theorem dX4_witnessOf_81 : decode cX4_witnessOf 81 = .ok (.iload_n 1, 1) := dk_27 (dk_at dksX4_witnessOf_3 11 rfl rfl)
theorem dX4_witnessOf_82 : decode cX4_witnessOf 82 = .ok (.if_icmp .ne 7, 3) := dk_160 0 7 (dk_at dksX4_witnessOf_3 12 rfl rfl)
theorem dX4_witnessOf_85 : decode cX4_witnessOf 85 = .ok (.iconst 1, 1) := dk_4 (dk_at dksX4_witnessOf_3 15 rfl rfl)
theorem dX4_witnessOf_86 : decode cX4_witnessOf 86 = .ok (.goto 4, 3) := dk_167 0 4 (dk_at dksX4_witnessOf_3 16 rfl rfl)
theorem dX4_witnessOf_89 : decode cX4_witnessOf 89 = .ok (.iconst 0, 1) := dk_3 (dk_at dksX4_witnessOf_3 19 rfl rfl)
theorem dX4_witnessOf_90 : decode cX4_witnessOf 90 = .ok (.iadd, 1) := dk_96 (dk_at dksX4_witnessOf_3 20 rfl rfl)
theorem dX4_witnessOf_91 : decode cX4_witnessOf 91 = .ok (.istore_n 3, 1) := dk_62 (dk_at dksX4_witnessOf_3 21 rfl rfl)
theorem dX4_witnessOf_92 : decode cX4_witnessOf 92 = .ok (.iinc 4 1, 3) := dk_132 4 1 (dk_at dksX4_witnessOf_4 0 rfl rfl)
theorem dX4_witnessOf_95 : decode cX4_witnessOf 95 = .ok (.goto (-31), 3) := dk_167 255 225 (dk_at dksX4_witnessOf_4 3 rfl rfl)
theorem dX4_witnessOf_98 : decode cX4_witnessOf 98 = .ok (.iconst 0, 1) := dk_3 (dk_at dksX4_witnessOf_4 6 rfl rfl)
theorem dX4_witnessOf_99 : decode cX4_witnessOf 99 = .ok (.istore 4, 2) := dk_54 4 (dk_at dksX4_witnessOf_4 7 rfl rfl)
theorem dX4_witnessOf_101 : decode cX4_witnessOf 101 = .ok (.iload 4, 2) := dk_21 4 (dk_at dksX4_witnessOf_4 9 rfl rfl)
theorem dX4_witnessOf_103 : decode cX4_witnessOf 103 = .ok (.aload_n 0, 1) := dk_42 (dk_at dksX4_witnessOf_4 11 rfl rfl)
theorem dX4_witnessOf_104 : decode cX4_witnessOf 104 = .ok (.getfield 185, 3) := dk_180 0 185 (dk_at dksX4_witnessOf_4 12 rfl rfl)
theorem dX4_witnessOf_107 : decode cX4_witnessOf 107 = .ok (.if_icmp .ge 38, 3) := dk_162 0 38 (dk_at dksX4_witnessOf_4 15 rfl rfl)
theorem dX4_witnessOf_110 : decode cX4_witnessOf 110 = .ok (.iload_n 2, 1) := dk_28 (dk_at dksX4_witnessOf_4 18 rfl rfl)
theorem dX4_witnessOf_111 : decode cX4_witnessOf 111 = .ok (.iconst 3, 1) := dk_6 (dk_at dksX4_witnessOf_4 19 rfl rfl)
theorem dX4_witnessOf_112 : decode cX4_witnessOf 112 = .ok (.if_icmp .ne 33, 3) := dk_160 0 33 (dk_at dksX4_witnessOf_4 20 rfl rfl)
theorem dX4_witnessOf_115 : decode cX4_witnessOf 115 = .ok (.iload_n 3, 1) := dk_29 (dk_at dksX4_witnessOf_4 23 rfl rfl)
theorem dX4_witnessOf_116 : decode cX4_witnessOf 116 = .ok (.aload_n 0, 1) := dk_42 (dk_at dksX4_witnessOf_5 0 rfl rfl)
theorem dX4_witnessOf_117 : decode cX4_witnessOf 117 = .ok (.aload_n 0, 1) := dk_42 (dk_at dksX4_witnessOf_5 1 rfl rfl)
theorem dX4_witnessOf_118 : decode cX4_witnessOf 118 = .ok (.getfield 37, 3) := dk_180 0 37 (dk_at dksX4_witnessOf_5 2 rfl rfl)
theorem dX4_witnessOf_121 : decode cX4_witnessOf 121 = .ok (.iload 4, 2) := dk_21 4 (dk_at dksX4_witnessOf_5 5 rfl rfl)
theorem dX4_witnessOf_123 : decode cX4_witnessOf 123 = .ok (.iaload, 1) := dk_46 (dk_at dksX4_witnessOf_5 7 rfl rfl)
theorem dX4_witnessOf_124 : decode cX4_witnessOf 124 = .ok (.iconst 2, 1) := dk_5 (dk_at dksX4_witnessOf_5 8 rfl rfl)
theorem dX4_witnessOf_125 : decode cX4_witnessOf 125 = .ok (.invokevirtual 105, 3) := dk_182 0 105 (dk_at dksX4_witnessOf_5 9 rfl rfl)
theorem dX4_witnessOf_128 : decode cX4_witnessOf 128 = .ok (.iload_n 1, 1) := dk_27 (dk_at dksX4_witnessOf_5 12 rfl rfl)
theorem dX4_witnessOf_129 : decode cX4_witnessOf 129 = .ok (.if_icmp .ne 7, 3) := dk_160 0 7 (dk_at dksX4_witnessOf_5 13 rfl rfl)
theorem dX4_witnessOf_132 : decode cX4_witnessOf 132 = .ok (.iconst 1, 1) := dk_4 (dk_at dksX4_witnessOf_5 16 rfl rfl)
theorem dX4_witnessOf_133 : decode cX4_witnessOf 133 = .ok (.goto 4, 3) := dk_167 0 4 (dk_at dksX4_witnessOf_5 17 rfl rfl)
theorem dX4_witnessOf_136 : decode cX4_witnessOf 136 = .ok (.iconst 0, 1) := dk_3 (dk_at dksX4_witnessOf_5 20 rfl rfl)
theorem dX4_witnessOf_137 : decode cX4_witnessOf 137 = .ok (.isub, 1) := dk_100 (dk_at dksX4_witnessOf_5 21 rfl rfl)
theorem dX4_witnessOf_138 : decode cX4_witnessOf 138 = .ok (.istore_n 3, 1) := dk_62 (dk_at dksX4_witnessOf_5 22 rfl rfl)
theorem dX4_witnessOf_139 : decode cX4_witnessOf 139 = .ok (.iinc 4 1, 3) := dk_132 4 1 (dk_at dksX4_witnessOf_6 0 rfl rfl)
theorem dX4_witnessOf_142 : decode cX4_witnessOf 142 = .ok (.goto (-41), 3) := dk_167 255 215 (dk_at dksX4_witnessOf_6 3 rfl rfl)
theorem dX4_witnessOf_145 : decode cX4_witnessOf 145 = .ok (.iload_n 3, 1) := dk_29 (dk_at dksX4_witnessOf_6 6 rfl rfl)
theorem dX4_witnessOf_146 : decode cX4_witnessOf 146 = .ok (.ireturn, 1) := dk_172 (dk_at dksX4_witnessOf_6 7 rfl rfl)
abbrev cX4_tracks : ByteArray := prog_20_method_53_code
def yX4_tracks : MethodName := ⟨RX4, "tracks", "()V"⟩
def dkwX4_tracks_10 : List UInt8 := [28, 46, 61, 167, 255, 225, 177]
abbrev dktX4_tracks_10 : List UInt8 := dkwX4_tracks_10 ++ []
def dkwX4_tracks_9 : List UInt8 := [42, 180, 0, 37, 42, 180, 0, 185, 28, 79, 42, 89, 180, 0, 185, 4, 96, 181, 0, 185, 42, 180, 0, 34]
abbrev dktX4_tracks_9 : List UInt8 := dkwX4_tracks_9 ++ dktX4_tracks_10
def dkwX4_tracks_8 : List UInt8 := [42, 27, 156, 0, 7, 3, 167, 0, 9, 42, 180, 0, 31, 27, 46, 181, 0, 200, 27, 61, 28, 155, 0, 33]
abbrev dktX4_tracks_8 : List UInt8 := dkwX4_tracks_8 ++ dktX4_tracks_9
def dkwX4_tracks_7 : List UInt8 := [28, 46, 42, 180, 0, 31, 27, 46, 161, 0, 5, 28, 60, 132, 2, 255, 167, 255, 91, 42, 3, 181, 0, 185]
abbrev dktX4_tracks_7 : List UInt8 := dkwX4_tracks_7 ++ dktX4_tracks_8
def dkwX4_tracks_6 : List UInt8 := [167, 0, 14, 42, 180, 0, 31, 42, 180, 0, 34, 28, 46, 46, 96, 79, 27, 155, 0, 18, 42, 180, 0, 31]
abbrev dktX4_tracks_6 : List UInt8 := dkwX4_tracks_6 ++ dktX4_tracks_7
def dkwX4_tracks_5 : List UInt8 := [167, 255, 194, 42, 180, 0, 31, 28, 42, 28, 182, 0, 197, 42, 180, 0, 34, 28, 46, 156, 0, 7, 3]
abbrev dktX4_tracks_5 : List UInt8 := dkwX4_tracks_5 ++ dktX4_tracks_6
def dkwX4_tracks_4 : List UInt8 := [180, 0, 31, 42, 180, 0, 34, 28, 46, 46, 161, 0, 10, 42, 180, 0, 34, 28, 29, 79, 132, 3, 255]
abbrev dktX4_tracks_4 : List UInt8 := dkwX4_tracks_4 ++ dktX4_tracks_5
def dkwX4_tracks_3 : List UInt8 := [182, 0, 191, 153, 0, 39, 42, 180, 0, 34, 28, 46, 155, 0, 23, 42, 180, 0, 31, 29, 46, 42]
abbrev dktX4_tracks_3 : List UInt8 := dkwX4_tracks_3 ++ dktX4_tracks_4
def dkwX4_tracks_2 : List UInt8 := [180, 0, 102, 4, 100, 62, 29, 28, 164, 0, 63, 42, 180, 0, 31, 29, 46, 158, 0, 48, 42, 28, 29]
abbrev dktX4_tracks_2 : List UInt8 := dkwX4_tracks_2 ++ dktX4_tracks_3
def dkwX4_tracks_1 : List UInt8 := [42, 180, 0, 34, 28, 2, 79, 42, 180, 0, 28, 16, 31, 28, 104, 46, 158, 0, 6, 167, 0, 132, 42]
abbrev dktX4_tracks_1 : List UInt8 := dkwX4_tracks_1 ++ dktX4_tracks_2
def dkwX4_tracks_0 : List UInt8 := [42, 182, 0, 188, 2, 60, 42, 180, 0, 102, 4, 100, 61, 28, 155, 0, 167, 42, 180, 0, 31, 28, 3, 79]
abbrev dktX4_tracks_0 : List UInt8 := dkwX4_tracks_0 ++ dktX4_tracks_1
theorem dksX4_tracks_0 : cX4_tracks.data.toList.drop 0 = dktX4_tracks_0 := by decide +kernel
theorem dksX4_tracks_1 : cX4_tracks.data.toList.drop 24 = dktX4_tracks_1 := dk_seg dksX4_tracks_0 24 rfl rfl
theorem dksX4_tracks_2 : cX4_tracks.data.toList.drop 47 = dktX4_tracks_2 := dk_seg dksX4_tracks_1 23 rfl rfl
theorem dksX4_tracks_3 : cX4_tracks.data.toList.drop 70 = dktX4_tracks_3 := dk_seg dksX4_tracks_2 23 rfl rfl
theorem dksX4_tracks_4 : cX4_tracks.data.toList.drop 92 = dktX4_tracks_4 := dk_seg dksX4_tracks_3 22 rfl rfl
theorem dksX4_tracks_5 : cX4_tracks.data.toList.drop 115 = dktX4_tracks_5 := dk_seg dksX4_tracks_4 23 rfl rfl
theorem dksX4_tracks_6 : cX4_tracks.data.toList.drop 138 = dktX4_tracks_6 := dk_seg dksX4_tracks_5 23 rfl rfl
theorem dksX4_tracks_7 : cX4_tracks.data.toList.drop 162 = dktX4_tracks_7 := dk_seg dksX4_tracks_6 24 rfl rfl
theorem dksX4_tracks_8 : cX4_tracks.data.toList.drop 186 = dktX4_tracks_8 := dk_seg dksX4_tracks_7 24 rfl rfl
theorem dksX4_tracks_9 : cX4_tracks.data.toList.drop 210 = dktX4_tracks_9 := dk_seg dksX4_tracks_8 24 rfl rfl
theorem dksX4_tracks_10 : cX4_tracks.data.toList.drop 234 = dktX4_tracks_10 := dk_seg dksX4_tracks_9 24 rfl rfl
theorem dX4_tracks_0 : decode cX4_tracks 0 = .ok (.aload_n 0, 1) := dk_42 (dk_at dksX4_tracks_0 0 rfl rfl)
theorem dX4_tracks_1 : decode cX4_tracks 1 = .ok (.invokevirtual 188, 3) := dk_182 0 188 (dk_at dksX4_tracks_0 1 rfl rfl)
theorem dX4_tracks_4 : decode cX4_tracks 4 = .ok (.iconst (-1), 1) := dk_2 (dk_at dksX4_tracks_0 4 rfl rfl)
theorem dX4_tracks_5 : decode cX4_tracks 5 = .ok (.istore_n 1, 1) := dk_60 (dk_at dksX4_tracks_0 5 rfl rfl)
theorem dX4_tracks_6 : decode cX4_tracks 6 = .ok (.aload_n 0, 1) := dk_42 (dk_at dksX4_tracks_0 6 rfl rfl)
theorem dX4_tracks_7 : decode cX4_tracks 7 = .ok (.getfield 102, 3) := dk_180 0 102 (dk_at dksX4_tracks_0 7 rfl rfl)
theorem dX4_tracks_10 : decode cX4_tracks 10 = .ok (.iconst 1, 1) := dk_4 (dk_at dksX4_tracks_0 10 rfl rfl)
theorem dX4_tracks_11 : decode cX4_tracks 11 = .ok (.isub, 1) := dk_100 (dk_at dksX4_tracks_0 11 rfl rfl)
theorem dX4_tracks_12 : decode cX4_tracks 12 = .ok (.istore_n 2, 1) := dk_61 (dk_at dksX4_tracks_0 12 rfl rfl)
theorem dX4_tracks_13 : decode cX4_tracks 13 = .ok (.iload_n 2, 1) := dk_28 (dk_at dksX4_tracks_0 13 rfl rfl)
theorem dX4_tracks_14 : decode cX4_tracks 14 = .ok (.ifCond .lt 167, 3) := dk_155 0 167 (dk_at dksX4_tracks_0 14 rfl rfl)
theorem dX4_tracks_17 : decode cX4_tracks 17 = .ok (.aload_n 0, 1) := dk_42 (dk_at dksX4_tracks_0 17 rfl rfl)
theorem dX4_tracks_18 : decode cX4_tracks 18 = .ok (.getfield 31, 3) := dk_180 0 31 (dk_at dksX4_tracks_0 18 rfl rfl)
theorem dX4_tracks_21 : decode cX4_tracks 21 = .ok (.iload_n 2, 1) := dk_28 (dk_at dksX4_tracks_0 21 rfl rfl)
theorem dX4_tracks_22 : decode cX4_tracks 22 = .ok (.iconst 0, 1) := dk_3 (dk_at dksX4_tracks_0 22 rfl rfl)
theorem dX4_tracks_23 : decode cX4_tracks 23 = .ok (.iastore, 1) := dk_79 (dk_at dksX4_tracks_0 23 rfl rfl)
theorem dX4_tracks_24 : decode cX4_tracks 24 = .ok (.aload_n 0, 1) := dk_42 (dk_at dksX4_tracks_1 0 rfl rfl)
theorem dX4_tracks_25 : decode cX4_tracks 25 = .ok (.getfield 34, 3) := dk_180 0 34 (dk_at dksX4_tracks_1 1 rfl rfl)
theorem dX4_tracks_28 : decode cX4_tracks 28 = .ok (.iload_n 2, 1) := dk_28 (dk_at dksX4_tracks_1 4 rfl rfl)
theorem dX4_tracks_29 : decode cX4_tracks 29 = .ok (.iconst (-1), 1) := dk_2 (dk_at dksX4_tracks_1 5 rfl rfl)
theorem dX4_tracks_30 : decode cX4_tracks 30 = .ok (.iastore, 1) := dk_79 (dk_at dksX4_tracks_1 6 rfl rfl)
theorem dX4_tracks_31 : decode cX4_tracks 31 = .ok (.aload_n 0, 1) := dk_42 (dk_at dksX4_tracks_1 7 rfl rfl)
theorem dX4_tracks_32 : decode cX4_tracks 32 = .ok (.getfield 28, 3) := dk_180 0 28 (dk_at dksX4_tracks_1 8 rfl rfl)
theorem dX4_tracks_35 : decode cX4_tracks 35 = .ok (.bipush 31, 2) := dk_16 31 (dk_at dksX4_tracks_1 11 rfl rfl)
theorem dX4_tracks_37 : decode cX4_tracks 37 = .ok (.iload_n 2, 1) := dk_28 (dk_at dksX4_tracks_1 13 rfl rfl)
theorem dX4_tracks_38 : decode cX4_tracks 38 = .ok (.imul, 1) := dk_104 (dk_at dksX4_tracks_1 14 rfl rfl)
theorem dX4_tracks_39 : decode cX4_tracks 39 = .ok (.iaload, 1) := dk_46 (dk_at dksX4_tracks_1 15 rfl rfl)
theorem dX4_tracks_40 : decode cX4_tracks 40 = .ok (.ifCond .le 6, 3) := dk_158 0 6 (dk_at dksX4_tracks_1 16 rfl rfl)
theorem dX4_tracks_43 : decode cX4_tracks 43 = .ok (.goto 132, 3) := dk_167 0 132 (dk_at dksX4_tracks_1 19 rfl rfl)
theorem dX4_tracks_46 : decode cX4_tracks 46 = .ok (.aload_n 0, 1) := dk_42 (dk_at dksX4_tracks_1 22 rfl rfl)
theorem dX4_tracks_47 : decode cX4_tracks 47 = .ok (.getfield 102, 3) := dk_180 0 102 (dk_at dksX4_tracks_2 0 rfl rfl)
theorem dX4_tracks_50 : decode cX4_tracks 50 = .ok (.iconst 1, 1) := dk_4 (dk_at dksX4_tracks_2 3 rfl rfl)
theorem dX4_tracks_51 : decode cX4_tracks 51 = .ok (.isub, 1) := dk_100 (dk_at dksX4_tracks_2 4 rfl rfl)
theorem dX4_tracks_52 : decode cX4_tracks 52 = .ok (.istore_n 3, 1) := dk_62 (dk_at dksX4_tracks_2 5 rfl rfl)
theorem dX4_tracks_53 : decode cX4_tracks 53 = .ok (.iload_n 3, 1) := dk_29 (dk_at dksX4_tracks_2 6 rfl rfl)
theorem dX4_tracks_54 : decode cX4_tracks 54 = .ok (.iload_n 2, 1) := dk_28 (dk_at dksX4_tracks_2 7 rfl rfl)
theorem dX4_tracks_55 : decode cX4_tracks 55 = .ok (.if_icmp .le 63, 3) := dk_164 0 63 (dk_at dksX4_tracks_2 8 rfl rfl)
theorem dX4_tracks_58 : decode cX4_tracks 58 = .ok (.aload_n 0, 1) := dk_42 (dk_at dksX4_tracks_2 11 rfl rfl)
theorem dX4_tracks_59 : decode cX4_tracks 59 = .ok (.getfield 31, 3) := dk_180 0 31 (dk_at dksX4_tracks_2 12 rfl rfl)
theorem dX4_tracks_62 : decode cX4_tracks 62 = .ok (.iload_n 3, 1) := dk_29 (dk_at dksX4_tracks_2 15 rfl rfl)
theorem dX4_tracks_63 : decode cX4_tracks 63 = .ok (.iaload, 1) := dk_46 (dk_at dksX4_tracks_2 16 rfl rfl)
theorem dX4_tracks_64 : decode cX4_tracks 64 = .ok (.ifCond .le 48, 3) := dk_158 0 48 (dk_at dksX4_tracks_2 17 rfl rfl)
theorem dX4_tracks_67 : decode cX4_tracks 67 = .ok (.aload_n 0, 1) := dk_42 (dk_at dksX4_tracks_2 20 rfl rfl)
theorem dX4_tracks_68 : decode cX4_tracks 68 = .ok (.iload_n 2, 1) := dk_28 (dk_at dksX4_tracks_2 21 rfl rfl)
theorem dX4_tracks_69 : decode cX4_tracks 69 = .ok (.iload_n 3, 1) := dk_29 (dk_at dksX4_tracks_2 22 rfl rfl)
theorem dX4_tracks_70 : decode cX4_tracks 70 = .ok (.invokevirtual 191, 3) := dk_182 0 191 (dk_at dksX4_tracks_3 0 rfl rfl)
theorem dX4_tracks_73 : decode cX4_tracks 73 = .ok (.ifCond .eq 39, 3) := dk_153 0 39 (dk_at dksX4_tracks_3 3 rfl rfl)
theorem dX4_tracks_76 : decode cX4_tracks 76 = .ok (.aload_n 0, 1) := dk_42 (dk_at dksX4_tracks_3 6 rfl rfl)
theorem dX4_tracks_77 : decode cX4_tracks 77 = .ok (.getfield 34, 3) := dk_180 0 34 (dk_at dksX4_tracks_3 7 rfl rfl)
theorem dX4_tracks_80 : decode cX4_tracks 80 = .ok (.iload_n 2, 1) := dk_28 (dk_at dksX4_tracks_3 10 rfl rfl)
theorem dX4_tracks_81 : decode cX4_tracks 81 = .ok (.iaload, 1) := dk_46 (dk_at dksX4_tracks_3 11 rfl rfl)
theorem dX4_tracks_82 : decode cX4_tracks 82 = .ok (.ifCond .lt 23, 3) := dk_155 0 23 (dk_at dksX4_tracks_3 12 rfl rfl)
theorem dX4_tracks_85 : decode cX4_tracks 85 = .ok (.aload_n 0, 1) := dk_42 (dk_at dksX4_tracks_3 15 rfl rfl)
theorem dX4_tracks_86 : decode cX4_tracks 86 = .ok (.getfield 31, 3) := dk_180 0 31 (dk_at dksX4_tracks_3 16 rfl rfl)
theorem dX4_tracks_89 : decode cX4_tracks 89 = .ok (.iload_n 3, 1) := dk_29 (dk_at dksX4_tracks_3 19 rfl rfl)
theorem dX4_tracks_90 : decode cX4_tracks 90 = .ok (.iaload, 1) := dk_46 (dk_at dksX4_tracks_3 20 rfl rfl)
theorem dX4_tracks_91 : decode cX4_tracks 91 = .ok (.aload_n 0, 1) := dk_42 (dk_at dksX4_tracks_3 21 rfl rfl)
theorem dX4_tracks_92 : decode cX4_tracks 92 = .ok (.getfield 31, 3) := dk_180 0 31 (dk_at dksX4_tracks_4 0 rfl rfl)
theorem dX4_tracks_95 : decode cX4_tracks 95 = .ok (.aload_n 0, 1) := dk_42 (dk_at dksX4_tracks_4 3 rfl rfl)
theorem dX4_tracks_96 : decode cX4_tracks 96 = .ok (.getfield 34, 3) := dk_180 0 34 (dk_at dksX4_tracks_4 4 rfl rfl)
theorem dX4_tracks_99 : decode cX4_tracks 99 = .ok (.iload_n 2, 1) := dk_28 (dk_at dksX4_tracks_4 7 rfl rfl)
theorem dX4_tracks_100 : decode cX4_tracks 100 = .ok (.iaload, 1) := dk_46 (dk_at dksX4_tracks_4 8 rfl rfl)
theorem dX4_tracks_101 : decode cX4_tracks 101 = .ok (.iaload, 1) := dk_46 (dk_at dksX4_tracks_4 9 rfl rfl)
theorem dX4_tracks_102 : decode cX4_tracks 102 = .ok (.if_icmp .lt 10, 3) := dk_161 0 10 (dk_at dksX4_tracks_4 10 rfl rfl)
theorem dX4_tracks_105 : decode cX4_tracks 105 = .ok (.aload_n 0, 1) := dk_42 (dk_at dksX4_tracks_4 13 rfl rfl)
theorem dX4_tracks_106 : decode cX4_tracks 106 = .ok (.getfield 34, 3) := dk_180 0 34 (dk_at dksX4_tracks_4 14 rfl rfl)
theorem dX4_tracks_109 : decode cX4_tracks 109 = .ok (.iload_n 2, 1) := dk_28 (dk_at dksX4_tracks_4 17 rfl rfl)
theorem dX4_tracks_110 : decode cX4_tracks 110 = .ok (.iload_n 3, 1) := dk_29 (dk_at dksX4_tracks_4 18 rfl rfl)
theorem dX4_tracks_111 : decode cX4_tracks 111 = .ok (.iastore, 1) := dk_79 (dk_at dksX4_tracks_4 19 rfl rfl)
theorem dX4_tracks_112 : decode cX4_tracks 112 = .ok (.iinc 3 (-1), 3) := dk_132 3 255 (dk_at dksX4_tracks_4 20 rfl rfl)
theorem dX4_tracks_115 : decode cX4_tracks 115 = .ok (.goto (-62), 3) := dk_167 255 194 (dk_at dksX4_tracks_5 0 rfl rfl)
theorem dX4_tracks_118 : decode cX4_tracks 118 = .ok (.aload_n 0, 1) := dk_42 (dk_at dksX4_tracks_5 3 rfl rfl)
theorem dX4_tracks_119 : decode cX4_tracks 119 = .ok (.getfield 31, 3) := dk_180 0 31 (dk_at dksX4_tracks_5 4 rfl rfl)
theorem dX4_tracks_122 : decode cX4_tracks 122 = .ok (.iload_n 2, 1) := dk_28 (dk_at dksX4_tracks_5 7 rfl rfl)
theorem dX4_tracks_123 : decode cX4_tracks 123 = .ok (.aload_n 0, 1) := dk_42 (dk_at dksX4_tracks_5 8 rfl rfl)
theorem dX4_tracks_124 : decode cX4_tracks 124 = .ok (.iload_n 2, 1) := dk_28 (dk_at dksX4_tracks_5 9 rfl rfl)
theorem dX4_tracks_125 : decode cX4_tracks 125 = .ok (.invokevirtual 197, 3) := dk_182 0 197 (dk_at dksX4_tracks_5 10 rfl rfl)
theorem dX4_tracks_128 : decode cX4_tracks 128 = .ok (.aload_n 0, 1) := dk_42 (dk_at dksX4_tracks_5 13 rfl rfl)
theorem dX4_tracks_129 : decode cX4_tracks 129 = .ok (.getfield 34, 3) := dk_180 0 34 (dk_at dksX4_tracks_5 14 rfl rfl)
theorem dX4_tracks_132 : decode cX4_tracks 132 = .ok (.iload_n 2, 1) := dk_28 (dk_at dksX4_tracks_5 17 rfl rfl)
theorem dX4_tracks_133 : decode cX4_tracks 133 = .ok (.iaload, 1) := dk_46 (dk_at dksX4_tracks_5 18 rfl rfl)
theorem dX4_tracks_134 : decode cX4_tracks 134 = .ok (.ifCond .ge 7, 3) := dk_156 0 7 (dk_at dksX4_tracks_5 19 rfl rfl)
theorem dX4_tracks_137 : decode cX4_tracks 137 = .ok (.iconst 0, 1) := dk_3 (dk_at dksX4_tracks_5 22 rfl rfl)
theorem dX4_tracks_138 : decode cX4_tracks 138 = .ok (.goto 14, 3) := dk_167 0 14 (dk_at dksX4_tracks_6 0 rfl rfl)
theorem dX4_tracks_141 : decode cX4_tracks 141 = .ok (.aload_n 0, 1) := dk_42 (dk_at dksX4_tracks_6 3 rfl rfl)
theorem dX4_tracks_142 : decode cX4_tracks 142 = .ok (.getfield 31, 3) := dk_180 0 31 (dk_at dksX4_tracks_6 4 rfl rfl)
theorem dX4_tracks_145 : decode cX4_tracks 145 = .ok (.aload_n 0, 1) := dk_42 (dk_at dksX4_tracks_6 7 rfl rfl)
theorem dX4_tracks_146 : decode cX4_tracks 146 = .ok (.getfield 34, 3) := dk_180 0 34 (dk_at dksX4_tracks_6 8 rfl rfl)
theorem dX4_tracks_149 : decode cX4_tracks 149 = .ok (.iload_n 2, 1) := dk_28 (dk_at dksX4_tracks_6 11 rfl rfl)
theorem dX4_tracks_150 : decode cX4_tracks 150 = .ok (.iaload, 1) := dk_46 (dk_at dksX4_tracks_6 12 rfl rfl)
theorem dX4_tracks_151 : decode cX4_tracks 151 = .ok (.iaload, 1) := dk_46 (dk_at dksX4_tracks_6 13 rfl rfl)
theorem dX4_tracks_152 : decode cX4_tracks 152 = .ok (.iadd, 1) := dk_96 (dk_at dksX4_tracks_6 14 rfl rfl)
theorem dX4_tracks_153 : decode cX4_tracks 153 = .ok (.iastore, 1) := dk_79 (dk_at dksX4_tracks_6 15 rfl rfl)
theorem dX4_tracks_154 : decode cX4_tracks 154 = .ok (.iload_n 1, 1) := dk_27 (dk_at dksX4_tracks_6 16 rfl rfl)
theorem dX4_tracks_155 : decode cX4_tracks 155 = .ok (.ifCond .lt 18, 3) := dk_155 0 18 (dk_at dksX4_tracks_6 17 rfl rfl)
theorem dX4_tracks_158 : decode cX4_tracks 158 = .ok (.aload_n 0, 1) := dk_42 (dk_at dksX4_tracks_6 20 rfl rfl)
theorem dX4_tracks_159 : decode cX4_tracks 159 = .ok (.getfield 31, 3) := dk_180 0 31 (dk_at dksX4_tracks_6 21 rfl rfl)
theorem dX4_tracks_162 : decode cX4_tracks 162 = .ok (.iload_n 2, 1) := dk_28 (dk_at dksX4_tracks_7 0 rfl rfl)
theorem dX4_tracks_163 : decode cX4_tracks 163 = .ok (.iaload, 1) := dk_46 (dk_at dksX4_tracks_7 1 rfl rfl)
theorem dX4_tracks_164 : decode cX4_tracks 164 = .ok (.aload_n 0, 1) := dk_42 (dk_at dksX4_tracks_7 2 rfl rfl)
theorem dX4_tracks_165 : decode cX4_tracks 165 = .ok (.getfield 31, 3) := dk_180 0 31 (dk_at dksX4_tracks_7 3 rfl rfl)
theorem dX4_tracks_168 : decode cX4_tracks 168 = .ok (.iload_n 1, 1) := dk_27 (dk_at dksX4_tracks_7 6 rfl rfl)
theorem dX4_tracks_169 : decode cX4_tracks 169 = .ok (.iaload, 1) := dk_46 (dk_at dksX4_tracks_7 7 rfl rfl)
theorem dX4_tracks_170 : decode cX4_tracks 170 = .ok (.if_icmp .lt 5, 3) := dk_161 0 5 (dk_at dksX4_tracks_7 8 rfl rfl)
theorem dX4_tracks_173 : decode cX4_tracks 173 = .ok (.iload_n 2, 1) := dk_28 (dk_at dksX4_tracks_7 11 rfl rfl)
theorem dX4_tracks_174 : decode cX4_tracks 174 = .ok (.istore_n 1, 1) := dk_60 (dk_at dksX4_tracks_7 12 rfl rfl)
theorem dX4_tracks_175 : decode cX4_tracks 175 = .ok (.iinc 2 (-1), 3) := dk_132 2 255 (dk_at dksX4_tracks_7 13 rfl rfl)
theorem dX4_tracks_178 : decode cX4_tracks 178 = .ok (.goto (-165), 3) := dk_167 255 91 (dk_at dksX4_tracks_7 16 rfl rfl)
theorem dX4_tracks_181 : decode cX4_tracks 181 = .ok (.aload_n 0, 1) := dk_42 (dk_at dksX4_tracks_7 19 rfl rfl)
theorem dX4_tracks_182 : decode cX4_tracks 182 = .ok (.iconst 0, 1) := dk_3 (dk_at dksX4_tracks_7 20 rfl rfl)
theorem dX4_tracks_183 : decode cX4_tracks 183 = .ok (.putfield 185, 3) := dk_181 0 185 (dk_at dksX4_tracks_7 21 rfl rfl)
theorem dX4_tracks_186 : decode cX4_tracks 186 = .ok (.aload_n 0, 1) := dk_42 (dk_at dksX4_tracks_8 0 rfl rfl)
theorem dX4_tracks_187 : decode cX4_tracks 187 = .ok (.iload_n 1, 1) := dk_27 (dk_at dksX4_tracks_8 1 rfl rfl)
theorem dX4_tracks_188 : decode cX4_tracks 188 = .ok (.ifCond .ge 7, 3) := dk_156 0 7 (dk_at dksX4_tracks_8 2 rfl rfl)
theorem dX4_tracks_191 : decode cX4_tracks 191 = .ok (.iconst 0, 1) := dk_3 (dk_at dksX4_tracks_8 5 rfl rfl)
theorem dX4_tracks_192 : decode cX4_tracks 192 = .ok (.goto 9, 3) := dk_167 0 9 (dk_at dksX4_tracks_8 6 rfl rfl)
theorem dX4_tracks_195 : decode cX4_tracks 195 = .ok (.aload_n 0, 1) := dk_42 (dk_at dksX4_tracks_8 9 rfl rfl)
theorem dX4_tracks_196 : decode cX4_tracks 196 = .ok (.getfield 31, 3) := dk_180 0 31 (dk_at dksX4_tracks_8 10 rfl rfl)
theorem dX4_tracks_199 : decode cX4_tracks 199 = .ok (.iload_n 1, 1) := dk_27 (dk_at dksX4_tracks_8 13 rfl rfl)
theorem dX4_tracks_200 : decode cX4_tracks 200 = .ok (.iaload, 1) := dk_46 (dk_at dksX4_tracks_8 14 rfl rfl)
theorem dX4_tracks_201 : decode cX4_tracks 201 = .ok (.putfield 200, 3) := dk_181 0 200 (dk_at dksX4_tracks_8 15 rfl rfl)
theorem dX4_tracks_204 : decode cX4_tracks 204 = .ok (.iload_n 1, 1) := dk_27 (dk_at dksX4_tracks_8 18 rfl rfl)
theorem dX4_tracks_205 : decode cX4_tracks 205 = .ok (.istore_n 2, 1) := dk_61 (dk_at dksX4_tracks_8 19 rfl rfl)
theorem dX4_tracks_206 : decode cX4_tracks 206 = .ok (.iload_n 2, 1) := dk_28 (dk_at dksX4_tracks_8 20 rfl rfl)
theorem dX4_tracks_207 : decode cX4_tracks 207 = .ok (.ifCond .lt 33, 3) := dk_155 0 33 (dk_at dksX4_tracks_8 21 rfl rfl)
theorem dX4_tracks_210 : decode cX4_tracks 210 = .ok (.aload_n 0, 1) := dk_42 (dk_at dksX4_tracks_9 0 rfl rfl)
theorem dX4_tracks_211 : decode cX4_tracks 211 = .ok (.getfield 37, 3) := dk_180 0 37 (dk_at dksX4_tracks_9 1 rfl rfl)
theorem dX4_tracks_214 : decode cX4_tracks 214 = .ok (.aload_n 0, 1) := dk_42 (dk_at dksX4_tracks_9 4 rfl rfl)
theorem dX4_tracks_215 : decode cX4_tracks 215 = .ok (.getfield 185, 3) := dk_180 0 185 (dk_at dksX4_tracks_9 5 rfl rfl)
theorem dX4_tracks_218 : decode cX4_tracks 218 = .ok (.iload_n 2, 1) := dk_28 (dk_at dksX4_tracks_9 8 rfl rfl)
theorem dX4_tracks_219 : decode cX4_tracks 219 = .ok (.iastore, 1) := dk_79 (dk_at dksX4_tracks_9 9 rfl rfl)
theorem dX4_tracks_220 : decode cX4_tracks 220 = .ok (.aload_n 0, 1) := dk_42 (dk_at dksX4_tracks_9 10 rfl rfl)
theorem dX4_tracks_221 : decode cX4_tracks 221 = .ok (.dup, 1) := dk_89 (dk_at dksX4_tracks_9 11 rfl rfl)
theorem dX4_tracks_222 : decode cX4_tracks 222 = .ok (.getfield 185, 3) := dk_180 0 185 (dk_at dksX4_tracks_9 12 rfl rfl)
theorem dX4_tracks_225 : decode cX4_tracks 225 = .ok (.iconst 1, 1) := dk_4 (dk_at dksX4_tracks_9 15 rfl rfl)
theorem dX4_tracks_226 : decode cX4_tracks 226 = .ok (.iadd, 1) := dk_96 (dk_at dksX4_tracks_9 16 rfl rfl)
theorem dX4_tracks_227 : decode cX4_tracks 227 = .ok (.putfield 185, 3) := dk_181 0 185 (dk_at dksX4_tracks_9 17 rfl rfl)
theorem dX4_tracks_230 : decode cX4_tracks 230 = .ok (.aload_n 0, 1) := dk_42 (dk_at dksX4_tracks_9 20 rfl rfl)
theorem dX4_tracks_231 : decode cX4_tracks 231 = .ok (.getfield 34, 3) := dk_180 0 34 (dk_at dksX4_tracks_9 21 rfl rfl)
theorem dX4_tracks_234 : decode cX4_tracks 234 = .ok (.iload_n 2, 1) := dk_28 (dk_at dksX4_tracks_10 0 rfl rfl)
theorem dX4_tracks_235 : decode cX4_tracks 235 = .ok (.iaload, 1) := dk_46 (dk_at dksX4_tracks_10 1 rfl rfl)
theorem dX4_tracks_236 : decode cX4_tracks 236 = .ok (.istore_n 2, 1) := dk_61 (dk_at dksX4_tracks_10 2 rfl rfl)
theorem dX4_tracks_237 : decode cX4_tracks 237 = .ok (.goto (-31), 3) := dk_167 255 225 (dk_at dksX4_tracks_10 3 rfl rfl)
theorem dX4_tracks_240 : decode cX4_tracks 240 = .ok (.return_, 1) := dk_177 (dk_at dksX4_tracks_10 6 rfl rfl)
abbrev cX4_measures : ByteArray := prog_20_method_43_code
def yX4_measures : MethodName := ⟨RX4, "measures", "()V"⟩
def dkwX4_measures_2 : List UInt8 := [42, 28, 4, 182, 0, 105, 46, 79, 132, 2, 1, 167, 255, 223, 132, 1, 1, 167, 255, 197, 177]
abbrev dktX4_measures_2 : List UInt8 := dkwX4_measures_2 ++ []
def dkwX4_measures_1 : List UInt8 := [3, 61, 28, 42, 180, 0, 102, 162, 0, 31, 42, 180, 0, 28, 16, 30, 27, 104, 28, 96, 42, 180, 0, 43]
abbrev dktX4_measures_1 : List UInt8 := dkwX4_measures_1 ++ dktX4_measures_2
def dkwX4_measures_0 : List UInt8 := [42, 182, 0, 99, 3, 60, 27, 42, 180, 0, 102, 162, 0, 57, 42, 42, 27, 4, 182, 0, 105, 182, 0, 126]
abbrev dktX4_measures_0 : List UInt8 := dkwX4_measures_0 ++ dktX4_measures_1
theorem dksX4_measures_0 : cX4_measures.data.toList.drop 0 = dktX4_measures_0 := by decide +kernel
theorem dksX4_measures_1 : cX4_measures.data.toList.drop 24 = dktX4_measures_1 := dk_seg dksX4_measures_0 24 rfl rfl
theorem dksX4_measures_2 : cX4_measures.data.toList.drop 48 = dktX4_measures_2 := dk_seg dksX4_measures_1 24 rfl rfl
theorem dX4_measures_0 : decode cX4_measures 0 = .ok (.aload_n 0, 1) := dk_42 (dk_at dksX4_measures_0 0 rfl rfl)
theorem dX4_measures_1 : decode cX4_measures 1 = .ok (.invokevirtual 99, 3) := dk_182 0 99 (dk_at dksX4_measures_0 1 rfl rfl)
theorem dX4_measures_4 : decode cX4_measures 4 = .ok (.iconst 0, 1) := dk_3 (dk_at dksX4_measures_0 4 rfl rfl)
theorem dX4_measures_5 : decode cX4_measures 5 = .ok (.istore_n 1, 1) := dk_60 (dk_at dksX4_measures_0 5 rfl rfl)
theorem dX4_measures_6 : decode cX4_measures 6 = .ok (.iload_n 1, 1) := dk_27 (dk_at dksX4_measures_0 6 rfl rfl)
theorem dX4_measures_7 : decode cX4_measures 7 = .ok (.aload_n 0, 1) := dk_42 (dk_at dksX4_measures_0 7 rfl rfl)
theorem dX4_measures_8 : decode cX4_measures 8 = .ok (.getfield 102, 3) := dk_180 0 102 (dk_at dksX4_measures_0 8 rfl rfl)
theorem dX4_measures_11 : decode cX4_measures 11 = .ok (.if_icmp .ge 57, 3) := dk_162 0 57 (dk_at dksX4_measures_0 11 rfl rfl)
theorem dX4_measures_14 : decode cX4_measures 14 = .ok (.aload_n 0, 1) := dk_42 (dk_at dksX4_measures_0 14 rfl rfl)
theorem dX4_measures_15 : decode cX4_measures 15 = .ok (.aload_n 0, 1) := dk_42 (dk_at dksX4_measures_0 15 rfl rfl)
theorem dX4_measures_16 : decode cX4_measures 16 = .ok (.iload_n 1, 1) := dk_27 (dk_at dksX4_measures_0 16 rfl rfl)
theorem dX4_measures_17 : decode cX4_measures 17 = .ok (.iconst 1, 1) := dk_4 (dk_at dksX4_measures_0 17 rfl rfl)
theorem dX4_measures_18 : decode cX4_measures 18 = .ok (.invokevirtual 105, 3) := dk_182 0 105 (dk_at dksX4_measures_0 18 rfl rfl)
theorem dX4_measures_21 : decode cX4_measures 21 = .ok (.invokevirtual 126, 3) := dk_182 0 126 (dk_at dksX4_measures_0 21 rfl rfl)
theorem dX4_measures_24 : decode cX4_measures 24 = .ok (.iconst 0, 1) := dk_3 (dk_at dksX4_measures_1 0 rfl rfl)
theorem dX4_measures_25 : decode cX4_measures 25 = .ok (.istore_n 2, 1) := dk_61 (dk_at dksX4_measures_1 1 rfl rfl)
theorem dX4_measures_26 : decode cX4_measures 26 = .ok (.iload_n 2, 1) := dk_28 (dk_at dksX4_measures_1 2 rfl rfl)
theorem dX4_measures_27 : decode cX4_measures 27 = .ok (.aload_n 0, 1) := dk_42 (dk_at dksX4_measures_1 3 rfl rfl)
theorem dX4_measures_28 : decode cX4_measures 28 = .ok (.getfield 102, 3) := dk_180 0 102 (dk_at dksX4_measures_1 4 rfl rfl)
theorem dX4_measures_31 : decode cX4_measures 31 = .ok (.if_icmp .ge 31, 3) := dk_162 0 31 (dk_at dksX4_measures_1 7 rfl rfl)
theorem dX4_measures_34 : decode cX4_measures 34 = .ok (.aload_n 0, 1) := dk_42 (dk_at dksX4_measures_1 10 rfl rfl)
theorem dX4_measures_35 : decode cX4_measures 35 = .ok (.getfield 28, 3) := dk_180 0 28 (dk_at dksX4_measures_1 11 rfl rfl)
theorem dX4_measures_38 : decode cX4_measures 38 = .ok (.bipush 30, 2) := dk_16 30 (dk_at dksX4_measures_1 14 rfl rfl)
theorem dX4_measures_40 : decode cX4_measures 40 = .ok (.iload_n 1, 1) := dk_27 (dk_at dksX4_measures_1 16 rfl rfl)
theorem dX4_measures_41 : decode cX4_measures 41 = .ok (.imul, 1) := dk_104 (dk_at dksX4_measures_1 17 rfl rfl)
theorem dX4_measures_42 : decode cX4_measures 42 = .ok (.iload_n 2, 1) := dk_28 (dk_at dksX4_measures_1 18 rfl rfl)
theorem dX4_measures_43 : decode cX4_measures 43 = .ok (.iadd, 1) := dk_96 (dk_at dksX4_measures_1 19 rfl rfl)
theorem dX4_measures_44 : decode cX4_measures 44 = .ok (.aload_n 0, 1) := dk_42 (dk_at dksX4_measures_1 20 rfl rfl)
theorem dX4_measures_45 : decode cX4_measures 45 = .ok (.getfield 43, 3) := dk_180 0 43 (dk_at dksX4_measures_1 21 rfl rfl)
theorem dX4_measures_48 : decode cX4_measures 48 = .ok (.aload_n 0, 1) := dk_42 (dk_at dksX4_measures_2 0 rfl rfl)
theorem dX4_measures_49 : decode cX4_measures 49 = .ok (.iload_n 2, 1) := dk_28 (dk_at dksX4_measures_2 1 rfl rfl)
theorem dX4_measures_50 : decode cX4_measures 50 = .ok (.iconst 1, 1) := dk_4 (dk_at dksX4_measures_2 2 rfl rfl)
theorem dX4_measures_51 : decode cX4_measures 51 = .ok (.invokevirtual 105, 3) := dk_182 0 105 (dk_at dksX4_measures_2 3 rfl rfl)
theorem dX4_measures_54 : decode cX4_measures 54 = .ok (.iaload, 1) := dk_46 (dk_at dksX4_measures_2 6 rfl rfl)
theorem dX4_measures_55 : decode cX4_measures 55 = .ok (.iastore, 1) := dk_79 (dk_at dksX4_measures_2 7 rfl rfl)
theorem dX4_measures_56 : decode cX4_measures 56 = .ok (.iinc 2 1, 3) := dk_132 2 1 (dk_at dksX4_measures_2 8 rfl rfl)
theorem dX4_measures_59 : decode cX4_measures 59 = .ok (.goto (-33), 3) := dk_167 255 223 (dk_at dksX4_measures_2 11 rfl rfl)
theorem dX4_measures_62 : decode cX4_measures 62 = .ok (.iinc 1 1, 3) := dk_132 1 1 (dk_at dksX4_measures_2 14 rfl rfl)
theorem dX4_measures_65 : decode cX4_measures 65 = .ok (.goto (-59), 3) := dk_167 255 197 (dk_at dksX4_measures_2 17 rfl rfl)
theorem dX4_measures_68 : decode cX4_measures 68 = .ok (.return_, 1) := dk_177 (dk_at dksX4_measures_2 20 rfl rfl)
abbrev cX4_areBoth : ByteArray := prog_20_method_44_code
def yX4_areBoth : MethodName := ⟨RX4, "areBoth", "(II)Z"⟩
def dkwX4_areBoth_2 : List UInt8 := [167, 0, 4, 3, 172]
abbrev dktX4_areBoth_2 : List UInt8 := dkwX4_areBoth_2 ++ []
def dkwX4_areBoth_1 : List UInt8 := [46, 42, 180, 0, 7, 3, 46, 29, 156, 0, 8, 29, 116, 167, 0, 4, 29, 104, 163, 0, 7, 4]
abbrev dktX4_areBoth_1 : List UInt8 := dkwX4_areBoth_1 ++ dktX4_areBoth_2
def dkwX4_areBoth_0 : List UInt8 := [42, 27, 3, 182, 0, 105, 42, 28, 3, 182, 0, 105, 100, 62, 42, 180, 0, 28, 16, 30, 27, 104, 28, 96]
abbrev dktX4_areBoth_0 : List UInt8 := dkwX4_areBoth_0 ++ dktX4_areBoth_1
theorem dksX4_areBoth_0 : cX4_areBoth.data.toList.drop 0 = dktX4_areBoth_0 := by decide +kernel
theorem dksX4_areBoth_1 : cX4_areBoth.data.toList.drop 24 = dktX4_areBoth_1 := dk_seg dksX4_areBoth_0 24 rfl rfl
theorem dksX4_areBoth_2 : cX4_areBoth.data.toList.drop 46 = dktX4_areBoth_2 := dk_seg dksX4_areBoth_1 22 rfl rfl
theorem dX4_areBoth_0 : decode cX4_areBoth 0 = .ok (.aload_n 0, 1) := dk_42 (dk_at dksX4_areBoth_0 0 rfl rfl)
theorem dX4_areBoth_1 : decode cX4_areBoth 1 = .ok (.iload_n 1, 1) := dk_27 (dk_at dksX4_areBoth_0 1 rfl rfl)
theorem dX4_areBoth_2 : decode cX4_areBoth 2 = .ok (.iconst 0, 1) := dk_3 (dk_at dksX4_areBoth_0 2 rfl rfl)
theorem dX4_areBoth_3 : decode cX4_areBoth 3 = .ok (.invokevirtual 105, 3) := dk_182 0 105 (dk_at dksX4_areBoth_0 3 rfl rfl)
theorem dX4_areBoth_6 : decode cX4_areBoth 6 = .ok (.aload_n 0, 1) := dk_42 (dk_at dksX4_areBoth_0 6 rfl rfl)
theorem dX4_areBoth_7 : decode cX4_areBoth 7 = .ok (.iload_n 2, 1) := dk_28 (dk_at dksX4_areBoth_0 7 rfl rfl)
theorem dX4_areBoth_8 : decode cX4_areBoth 8 = .ok (.iconst 0, 1) := dk_3 (dk_at dksX4_areBoth_0 8 rfl rfl)
theorem dX4_areBoth_9 : decode cX4_areBoth 9 = .ok (.invokevirtual 105, 3) := dk_182 0 105 (dk_at dksX4_areBoth_0 9 rfl rfl)
theorem dX4_areBoth_12 : decode cX4_areBoth 12 = .ok (.isub, 1) := dk_100 (dk_at dksX4_areBoth_0 12 rfl rfl)
theorem dX4_areBoth_13 : decode cX4_areBoth 13 = .ok (.istore_n 3, 1) := dk_62 (dk_at dksX4_areBoth_0 13 rfl rfl)
theorem dX4_areBoth_14 : decode cX4_areBoth 14 = .ok (.aload_n 0, 1) := dk_42 (dk_at dksX4_areBoth_0 14 rfl rfl)
theorem dX4_areBoth_15 : decode cX4_areBoth 15 = .ok (.getfield 28, 3) := dk_180 0 28 (dk_at dksX4_areBoth_0 15 rfl rfl)
theorem dX4_areBoth_18 : decode cX4_areBoth 18 = .ok (.bipush 30, 2) := dk_16 30 (dk_at dksX4_areBoth_0 18 rfl rfl)
theorem dX4_areBoth_20 : decode cX4_areBoth 20 = .ok (.iload_n 1, 1) := dk_27 (dk_at dksX4_areBoth_0 20 rfl rfl)
theorem dX4_areBoth_21 : decode cX4_areBoth 21 = .ok (.imul, 1) := dk_104 (dk_at dksX4_areBoth_0 21 rfl rfl)
theorem dX4_areBoth_22 : decode cX4_areBoth 22 = .ok (.iload_n 2, 1) := dk_28 (dk_at dksX4_areBoth_0 22 rfl rfl)
theorem dX4_areBoth_23 : decode cX4_areBoth 23 = .ok (.iadd, 1) := dk_96 (dk_at dksX4_areBoth_0 23 rfl rfl)
theorem dX4_areBoth_24 : decode cX4_areBoth 24 = .ok (.iaload, 1) := dk_46 (dk_at dksX4_areBoth_1 0 rfl rfl)
theorem dX4_areBoth_25 : decode cX4_areBoth 25 = .ok (.aload_n 0, 1) := dk_42 (dk_at dksX4_areBoth_1 1 rfl rfl)
theorem dX4_areBoth_26 : decode cX4_areBoth 26 = .ok (.getfield 7, 3) := dk_180 0 7 (dk_at dksX4_areBoth_1 2 rfl rfl)
theorem dX4_areBoth_29 : decode cX4_areBoth 29 = .ok (.iconst 0, 1) := dk_3 (dk_at dksX4_areBoth_1 5 rfl rfl)
theorem dX4_areBoth_30 : decode cX4_areBoth 30 = .ok (.iaload, 1) := dk_46 (dk_at dksX4_areBoth_1 6 rfl rfl)
theorem dX4_areBoth_31 : decode cX4_areBoth 31 = .ok (.iload_n 3, 1) := dk_29 (dk_at dksX4_areBoth_1 7 rfl rfl)
theorem dX4_areBoth_32 : decode cX4_areBoth 32 = .ok (.ifCond .ge 8, 3) := dk_156 0 8 (dk_at dksX4_areBoth_1 8 rfl rfl)
theorem dX4_areBoth_35 : decode cX4_areBoth 35 = .ok (.iload_n 3, 1) := dk_29 (dk_at dksX4_areBoth_1 11 rfl rfl)
theorem dX4_areBoth_36 : decode cX4_areBoth 36 = .ok (.ineg, 1) := dk_116 (dk_at dksX4_areBoth_1 12 rfl rfl)
theorem dX4_areBoth_37 : decode cX4_areBoth 37 = .ok (.goto 4, 3) := dk_167 0 4 (dk_at dksX4_areBoth_1 13 rfl rfl)
theorem dX4_areBoth_40 : decode cX4_areBoth 40 = .ok (.iload_n 3, 1) := dk_29 (dk_at dksX4_areBoth_1 16 rfl rfl)
theorem dX4_areBoth_41 : decode cX4_areBoth 41 = .ok (.imul, 1) := dk_104 (dk_at dksX4_areBoth_1 17 rfl rfl)
theorem dX4_areBoth_42 : decode cX4_areBoth 42 = .ok (.if_icmp .gt 7, 3) := dk_163 0 7 (dk_at dksX4_areBoth_1 18 rfl rfl)
theorem dX4_areBoth_45 : decode cX4_areBoth 45 = .ok (.iconst 1, 1) := dk_4 (dk_at dksX4_areBoth_1 21 rfl rfl)
theorem dX4_areBoth_46 : decode cX4_areBoth 46 = .ok (.goto 4, 3) := dk_167 0 4 (dk_at dksX4_areBoth_2 0 rfl rfl)
theorem dX4_areBoth_49 : decode cX4_areBoth 49 = .ok (.iconst 0, 1) := dk_3 (dk_at dksX4_areBoth_2 3 rfl rfl)
theorem dX4_areBoth_50 : decode cX4_areBoth 50 = .ok (.ireturn, 1) := dk_172 (dk_at dksX4_areBoth_2 4 rfl rfl)
abbrev cX4_weight : ByteArray := prog_20_method_52_code
def yX4_weight : MethodName := ⟨RX4, "weight", "(I)I"⟩
def dkwX4_weight_0 : List UInt8 := [16, 10, 42, 180, 0, 7, 7, 42, 27, 5, 182, 0, 105, 96, 46, 100, 172]
abbrev dktX4_weight_0 : List UInt8 := dkwX4_weight_0 ++ []
theorem dksX4_weight_0 : cX4_weight.data.toList.drop 0 = dktX4_weight_0 := by decide +kernel
theorem dX4_weight_0 : decode cX4_weight 0 = .ok (.bipush 10, 2) := dk_16 10 (dk_at dksX4_weight_0 0 rfl rfl)
theorem dX4_weight_2 : decode cX4_weight 2 = .ok (.aload_n 0, 1) := dk_42 (dk_at dksX4_weight_0 2 rfl rfl)
theorem dX4_weight_3 : decode cX4_weight 3 = .ok (.getfield 7, 3) := dk_180 0 7 (dk_at dksX4_weight_0 3 rfl rfl)
theorem dX4_weight_6 : decode cX4_weight 6 = .ok (.iconst 4, 1) := dk_7 (dk_at dksX4_weight_0 6 rfl rfl)
theorem dX4_weight_7 : decode cX4_weight 7 = .ok (.aload_n 0, 1) := dk_42 (dk_at dksX4_weight_0 7 rfl rfl)
theorem dX4_weight_8 : decode cX4_weight 8 = .ok (.iload_n 1, 1) := dk_27 (dk_at dksX4_weight_0 8 rfl rfl)
theorem dX4_weight_9 : decode cX4_weight 9 = .ok (.iconst 2, 1) := dk_5 (dk_at dksX4_weight_0 9 rfl rfl)
theorem dX4_weight_10 : decode cX4_weight 10 = .ok (.invokevirtual 105, 3) := dk_182 0 105 (dk_at dksX4_weight_0 10 rfl rfl)
theorem dX4_weight_13 : decode cX4_weight 13 = .ok (.iadd, 1) := dk_96 (dk_at dksX4_weight_0 13 rfl rfl)
theorem dX4_weight_14 : decode cX4_weight 14 = .ok (.iaload, 1) := dk_46 (dk_at dksX4_weight_0 14 rfl rfl)
theorem dX4_weight_15 : decode cX4_weight 15 = .ok (.isub, 1) := dk_100 (dk_at dksX4_weight_0 15 rfl rfl)
theorem dX4_weight_16 : decode cX4_weight 16 = .ok (.ireturn, 1) := dk_172 (dk_at dksX4_weight_0 16 rfl rfl)
abbrev cX4_listed : ByteArray := prog_20_method_42_code
def yX4_listed : MethodName := ⟨RX4, "listed", "(II)I"⟩
def dkwX4_listed_2 : List UInt8 := [160, 0, 12, 42, 180, 0, 25, 27, 46, 167, 0, 11, 42, 27, 28, 5, 100, 182, 0, 105, 172]
abbrev dktX4_listed_2 : List UInt8 := dkwX4_listed_2 ++ []
def dkwX4_listed_1 : List UInt8 := [184, 0, 87, 154, 0, 6, 16, 254, 172, 28, 154, 0, 12, 42, 180, 0, 22, 27, 46, 167, 0, 25, 28, 4]
abbrev dktX4_listed_1 : List UInt8 := dkwX4_listed_1 ++ dktX4_listed_2
def dkwX4_listed_0 : List UInt8 := [42, 182, 0, 99, 27, 3, 42, 180, 0, 102, 4, 100, 184, 0, 87, 154, 0, 5, 2, 172, 28, 3, 6]
abbrev dktX4_listed_0 : List UInt8 := dkwX4_listed_0 ++ dktX4_listed_1
theorem dksX4_listed_0 : cX4_listed.data.toList.drop 0 = dktX4_listed_0 := by decide +kernel
theorem dksX4_listed_1 : cX4_listed.data.toList.drop 23 = dktX4_listed_1 := dk_seg dksX4_listed_0 23 rfl rfl
theorem dksX4_listed_2 : cX4_listed.data.toList.drop 47 = dktX4_listed_2 := dk_seg dksX4_listed_1 24 rfl rfl
theorem dX4_listed_0 : decode cX4_listed 0 = .ok (.aload_n 0, 1) := dk_42 (dk_at dksX4_listed_0 0 rfl rfl)
theorem dX4_listed_1 : decode cX4_listed 1 = .ok (.invokevirtual 99, 3) := dk_182 0 99 (dk_at dksX4_listed_0 1 rfl rfl)
theorem dX4_listed_4 : decode cX4_listed 4 = .ok (.iload_n 1, 1) := dk_27 (dk_at dksX4_listed_0 4 rfl rfl)
theorem dX4_listed_5 : decode cX4_listed 5 = .ok (.iconst 0, 1) := dk_3 (dk_at dksX4_listed_0 5 rfl rfl)
theorem dX4_listed_6 : decode cX4_listed 6 = .ok (.aload_n 0, 1) := dk_42 (dk_at dksX4_listed_0 6 rfl rfl)
theorem dX4_listed_7 : decode cX4_listed 7 = .ok (.getfield 102, 3) := dk_180 0 102 (dk_at dksX4_listed_0 7 rfl rfl)
theorem dX4_listed_10 : decode cX4_listed 10 = .ok (.iconst 1, 1) := dk_4 (dk_at dksX4_listed_0 10 rfl rfl)
theorem dX4_listed_11 : decode cX4_listed 11 = .ok (.isub, 1) := dk_100 (dk_at dksX4_listed_0 11 rfl rfl)
theorem dX4_listed_12 : decode cX4_listed 12 = .ok (.invokestatic 87, 3) := dk_184 0 87 (dk_at dksX4_listed_0 12 rfl rfl)
theorem dX4_listed_15 : decode cX4_listed 15 = .ok (.ifCond .ne 5, 3) := dk_154 0 5 (dk_at dksX4_listed_0 15 rfl rfl)
theorem dX4_listed_18 : decode cX4_listed 18 = .ok (.iconst (-1), 1) := dk_2 (dk_at dksX4_listed_0 18 rfl rfl)
theorem dX4_listed_19 : decode cX4_listed 19 = .ok (.ireturn, 1) := dk_172 (dk_at dksX4_listed_0 19 rfl rfl)
theorem dX4_listed_20 : decode cX4_listed 20 = .ok (.iload_n 2, 1) := dk_28 (dk_at dksX4_listed_0 20 rfl rfl)
theorem dX4_listed_21 : decode cX4_listed 21 = .ok (.iconst 0, 1) := dk_3 (dk_at dksX4_listed_0 21 rfl rfl)
theorem dX4_listed_22 : decode cX4_listed 22 = .ok (.iconst 3, 1) := dk_6 (dk_at dksX4_listed_0 22 rfl rfl)
theorem dX4_listed_23 : decode cX4_listed 23 = .ok (.invokestatic 87, 3) := dk_184 0 87 (dk_at dksX4_listed_1 0 rfl rfl)
theorem dX4_listed_26 : decode cX4_listed 26 = .ok (.ifCond .ne 6, 3) := dk_154 0 6 (dk_at dksX4_listed_1 3 rfl rfl)
theorem dX4_listed_29 : decode cX4_listed 29 = .ok (.bipush (-2), 2) := dk_16 254 (dk_at dksX4_listed_1 6 rfl rfl)
theorem dX4_listed_31 : decode cX4_listed 31 = .ok (.ireturn, 1) := dk_172 (dk_at dksX4_listed_1 8 rfl rfl)
theorem dX4_listed_32 : decode cX4_listed 32 = .ok (.iload_n 2, 1) := dk_28 (dk_at dksX4_listed_1 9 rfl rfl)
theorem dX4_listed_33 : decode cX4_listed 33 = .ok (.ifCond .ne 12, 3) := dk_154 0 12 (dk_at dksX4_listed_1 10 rfl rfl)
theorem dX4_listed_36 : decode cX4_listed 36 = .ok (.aload_n 0, 1) := dk_42 (dk_at dksX4_listed_1 13 rfl rfl)
theorem dX4_listed_37 : decode cX4_listed 37 = .ok (.getfield 22, 3) := dk_180 0 22 (dk_at dksX4_listed_1 14 rfl rfl)
theorem dX4_listed_40 : decode cX4_listed 40 = .ok (.iload_n 1, 1) := dk_27 (dk_at dksX4_listed_1 17 rfl rfl)
theorem dX4_listed_41 : decode cX4_listed 41 = .ok (.iaload, 1) := dk_46 (dk_at dksX4_listed_1 18 rfl rfl)
theorem dX4_listed_42 : decode cX4_listed 42 = .ok (.goto 25, 3) := dk_167 0 25 (dk_at dksX4_listed_1 19 rfl rfl)
theorem dX4_listed_45 : decode cX4_listed 45 = .ok (.iload_n 2, 1) := dk_28 (dk_at dksX4_listed_1 22 rfl rfl)
theorem dX4_listed_46 : decode cX4_listed 46 = .ok (.iconst 1, 1) := dk_4 (dk_at dksX4_listed_1 23 rfl rfl)
theorem dX4_listed_47 : decode cX4_listed 47 = .ok (.if_icmp .ne 12, 3) := dk_160 0 12 (dk_at dksX4_listed_2 0 rfl rfl)
theorem dX4_listed_50 : decode cX4_listed 50 = .ok (.aload_n 0, 1) := dk_42 (dk_at dksX4_listed_2 3 rfl rfl)
theorem dX4_listed_51 : decode cX4_listed 51 = .ok (.getfield 25, 3) := dk_180 0 25 (dk_at dksX4_listed_2 4 rfl rfl)
theorem dX4_listed_54 : decode cX4_listed 54 = .ok (.iload_n 1, 1) := dk_27 (dk_at dksX4_listed_2 7 rfl rfl)
theorem dX4_listed_55 : decode cX4_listed 55 = .ok (.iaload, 1) := dk_46 (dk_at dksX4_listed_2 8 rfl rfl)
theorem dX4_listed_56 : decode cX4_listed 56 = .ok (.goto 11, 3) := dk_167 0 11 (dk_at dksX4_listed_2 9 rfl rfl)
theorem dX4_listed_59 : decode cX4_listed 59 = .ok (.aload_n 0, 1) := dk_42 (dk_at dksX4_listed_2 12 rfl rfl)
theorem dX4_listed_60 : decode cX4_listed 60 = .ok (.iload_n 1, 1) := dk_27 (dk_at dksX4_listed_2 13 rfl rfl)
theorem dX4_listed_61 : decode cX4_listed 61 = .ok (.iload_n 2, 1) := dk_28 (dk_at dksX4_listed_2 14 rfl rfl)
theorem dX4_listed_62 : decode cX4_listed 62 = .ok (.iconst 2, 1) := dk_5 (dk_at dksX4_listed_2 15 rfl rfl)
theorem dX4_listed_63 : decode cX4_listed 63 = .ok (.isub, 1) := dk_100 (dk_at dksX4_listed_2 16 rfl rfl)
theorem dX4_listed_64 : decode cX4_listed 64 = .ok (.invokevirtual 105, 3) := dk_182 0 105 (dk_at dksX4_listed_2 17 rfl rfl)
theorem dX4_listed_67 : decode cX4_listed 67 = .ok (.ireturn, 1) := dk_172 (dk_at dksX4_listed_2 20 rfl rfl)
abbrev cX4_canBoth : ByteArray := prog_20_method_45_code
def yX4_canBoth : MethodName := ⟨RX4, "canBoth", "(II)I"⟩
def dkwX4_canBoth_2 : List UInt8 := [172]
abbrev dktX4_canBoth_2 : List UInt8 := dkwX4_canBoth_2 ++ []
def dkwX4_canBoth_1 : List UInt8 := [4, 100, 184, 0, 87, 154, 0, 5, 2, 172, 42, 27, 28, 182, 0, 191, 153, 0, 7, 4, 167, 0, 4, 3]
abbrev dktX4_canBoth_1 : List UInt8 := dkwX4_canBoth_1 ++ dktX4_canBoth_2
def dkwX4_canBoth_0 : List UInt8 := [42, 182, 0, 188, 27, 3, 42, 180, 0, 102, 4, 100, 184, 0, 87, 153, 0, 17, 28, 3, 42, 180, 0, 102]
abbrev dktX4_canBoth_0 : List UInt8 := dkwX4_canBoth_0 ++ dktX4_canBoth_1
theorem dksX4_canBoth_0 : cX4_canBoth.data.toList.drop 0 = dktX4_canBoth_0 := by decide +kernel
theorem dksX4_canBoth_1 : cX4_canBoth.data.toList.drop 24 = dktX4_canBoth_1 := dk_seg dksX4_canBoth_0 24 rfl rfl
theorem dksX4_canBoth_2 : cX4_canBoth.data.toList.drop 48 = dktX4_canBoth_2 := dk_seg dksX4_canBoth_1 24 rfl rfl
theorem dX4_canBoth_0 : decode cX4_canBoth 0 = .ok (.aload_n 0, 1) := dk_42 (dk_at dksX4_canBoth_0 0 rfl rfl)
theorem dX4_canBoth_1 : decode cX4_canBoth 1 = .ok (.invokevirtual 188, 3) := dk_182 0 188 (dk_at dksX4_canBoth_0 1 rfl rfl)
theorem dX4_canBoth_4 : decode cX4_canBoth 4 = .ok (.iload_n 1, 1) := dk_27 (dk_at dksX4_canBoth_0 4 rfl rfl)
theorem dX4_canBoth_5 : decode cX4_canBoth 5 = .ok (.iconst 0, 1) := dk_3 (dk_at dksX4_canBoth_0 5 rfl rfl)
theorem dX4_canBoth_6 : decode cX4_canBoth 6 = .ok (.aload_n 0, 1) := dk_42 (dk_at dksX4_canBoth_0 6 rfl rfl)
theorem dX4_canBoth_7 : decode cX4_canBoth 7 = .ok (.getfield 102, 3) := dk_180 0 102 (dk_at dksX4_canBoth_0 7 rfl rfl)
theorem dX4_canBoth_10 : decode cX4_canBoth 10 = .ok (.iconst 1, 1) := dk_4 (dk_at dksX4_canBoth_0 10 rfl rfl)
theorem dX4_canBoth_11 : decode cX4_canBoth 11 = .ok (.isub, 1) := dk_100 (dk_at dksX4_canBoth_0 11 rfl rfl)
theorem dX4_canBoth_12 : decode cX4_canBoth 12 = .ok (.invokestatic 87, 3) := dk_184 0 87 (dk_at dksX4_canBoth_0 12 rfl rfl)
theorem dX4_canBoth_15 : decode cX4_canBoth 15 = .ok (.ifCond .eq 17, 3) := dk_153 0 17 (dk_at dksX4_canBoth_0 15 rfl rfl)
theorem dX4_canBoth_18 : decode cX4_canBoth 18 = .ok (.iload_n 2, 1) := dk_28 (dk_at dksX4_canBoth_0 18 rfl rfl)
theorem dX4_canBoth_19 : decode cX4_canBoth 19 = .ok (.iconst 0, 1) := dk_3 (dk_at dksX4_canBoth_0 19 rfl rfl)
theorem dX4_canBoth_20 : decode cX4_canBoth 20 = .ok (.aload_n 0, 1) := dk_42 (dk_at dksX4_canBoth_0 20 rfl rfl)
theorem dX4_canBoth_21 : decode cX4_canBoth 21 = .ok (.getfield 102, 3) := dk_180 0 102 (dk_at dksX4_canBoth_0 21 rfl rfl)
theorem dX4_canBoth_24 : decode cX4_canBoth 24 = .ok (.iconst 1, 1) := dk_4 (dk_at dksX4_canBoth_1 0 rfl rfl)
theorem dX4_canBoth_25 : decode cX4_canBoth 25 = .ok (.isub, 1) := dk_100 (dk_at dksX4_canBoth_1 1 rfl rfl)
theorem dX4_canBoth_26 : decode cX4_canBoth 26 = .ok (.invokestatic 87, 3) := dk_184 0 87 (dk_at dksX4_canBoth_1 2 rfl rfl)
theorem dX4_canBoth_29 : decode cX4_canBoth 29 = .ok (.ifCond .ne 5, 3) := dk_154 0 5 (dk_at dksX4_canBoth_1 5 rfl rfl)
theorem dX4_canBoth_32 : decode cX4_canBoth 32 = .ok (.iconst (-1), 1) := dk_2 (dk_at dksX4_canBoth_1 8 rfl rfl)
theorem dX4_canBoth_33 : decode cX4_canBoth 33 = .ok (.ireturn, 1) := dk_172 (dk_at dksX4_canBoth_1 9 rfl rfl)
theorem dX4_canBoth_34 : decode cX4_canBoth 34 = .ok (.aload_n 0, 1) := dk_42 (dk_at dksX4_canBoth_1 10 rfl rfl)
theorem dX4_canBoth_35 : decode cX4_canBoth 35 = .ok (.iload_n 1, 1) := dk_27 (dk_at dksX4_canBoth_1 11 rfl rfl)
theorem dX4_canBoth_36 : decode cX4_canBoth 36 = .ok (.iload_n 2, 1) := dk_28 (dk_at dksX4_canBoth_1 12 rfl rfl)
theorem dX4_canBoth_37 : decode cX4_canBoth 37 = .ok (.invokevirtual 191, 3) := dk_182 0 191 (dk_at dksX4_canBoth_1 13 rfl rfl)
theorem dX4_canBoth_40 : decode cX4_canBoth 40 = .ok (.ifCond .eq 7, 3) := dk_153 0 7 (dk_at dksX4_canBoth_1 16 rfl rfl)
theorem dX4_canBoth_43 : decode cX4_canBoth 43 = .ok (.iconst 1, 1) := dk_4 (dk_at dksX4_canBoth_1 19 rfl rfl)
theorem dX4_canBoth_44 : decode cX4_canBoth 44 = .ok (.goto 4, 3) := dk_167 0 4 (dk_at dksX4_canBoth_1 20 rfl rfl)
theorem dX4_canBoth_47 : decode cX4_canBoth 47 = .ok (.iconst 0, 1) := dk_3 (dk_at dksX4_canBoth_1 23 rfl rfl)
theorem dX4_canBoth_48 : decode cX4_canBoth 48 = .ok (.ireturn, 1) := dk_172 (dk_at dksX4_canBoth_2 0 rfl rfl)
abbrev cX4_conflicts : ByteArray := prog_20_method_47_code
def yX4_conflicts : MethodName := ⟨RX4, "conflicts", "()I"⟩
theorem dX4_conflicts_0 : decode cX4_conflicts 0 = .ok (.aload_n 0, 1) := by decide +kernel
theorem dX4_conflicts_1 : decode cX4_conflicts 1 = .ok (.invokevirtual 194, 3) := by decide +kernel
theorem dX4_conflicts_4 : decode cX4_conflicts 4 = .ok (.ireturn, 1) := by decide +kernel
abbrev cX4_pairs : ByteArray := prog_20_method_46_code
def yX4_pairs : MethodName := ⟨RX4, "pairs", "()I"⟩
def dkwX4_pairs_3 : List UInt8 := [42, 180, 0, 40, 29, 92, 46, 4, 96, 79, 132, 3, 1, 167, 255, 213, 132, 2, 1, 167, 255, 197, 27, 172]
abbrev dktX4_pairs_3 : List UInt8 := dkwX4_pairs_3 ++ []
def dkwX4_pairs_2 : List UInt8 := [28, 29, 182, 0, 191, 153, 0, 6, 167, 0, 26, 132, 1, 1, 42, 180, 0, 40, 28, 92, 46, 4, 96, 79]
abbrev dktX4_pairs_2 : List UInt8 := dkwX4_pairs_2 ++ dktX4_pairs_3
def dkwX4_pairs_1 : List UInt8 := [132, 2, 1, 167, 255, 238, 3, 61, 28, 42, 180, 0, 102, 162, 0, 57, 3, 62, 29, 28, 162, 0, 44, 42]
abbrev dktX4_pairs_1 : List UInt8 := dkwX4_pairs_1 ++ dktX4_pairs_2
def dkwX4_pairs_0 : List UInt8 := [42, 182, 0, 188, 3, 60, 3, 61, 28, 42, 180, 0, 102, 162, 0, 16, 42, 180, 0, 40, 28, 3, 79]
abbrev dktX4_pairs_0 : List UInt8 := dkwX4_pairs_0 ++ dktX4_pairs_1
theorem dksX4_pairs_0 : cX4_pairs.data.toList.drop 0 = dktX4_pairs_0 := by decide +kernel
theorem dksX4_pairs_1 : cX4_pairs.data.toList.drop 23 = dktX4_pairs_1 := dk_seg dksX4_pairs_0 23 rfl rfl
theorem dksX4_pairs_2 : cX4_pairs.data.toList.drop 47 = dktX4_pairs_2 := dk_seg dksX4_pairs_1 24 rfl rfl
theorem dksX4_pairs_3 : cX4_pairs.data.toList.drop 71 = dktX4_pairs_3 := dk_seg dksX4_pairs_2 24 rfl rfl
theorem dX4_pairs_0 : decode cX4_pairs 0 = .ok (.aload_n 0, 1) := dk_42 (dk_at dksX4_pairs_0 0 rfl rfl)
theorem dX4_pairs_1 : decode cX4_pairs 1 = .ok (.invokevirtual 188, 3) := dk_182 0 188 (dk_at dksX4_pairs_0 1 rfl rfl)
theorem dX4_pairs_4 : decode cX4_pairs 4 = .ok (.iconst 0, 1) := dk_3 (dk_at dksX4_pairs_0 4 rfl rfl)
theorem dX4_pairs_5 : decode cX4_pairs 5 = .ok (.istore_n 1, 1) := dk_60 (dk_at dksX4_pairs_0 5 rfl rfl)
theorem dX4_pairs_6 : decode cX4_pairs 6 = .ok (.iconst 0, 1) := dk_3 (dk_at dksX4_pairs_0 6 rfl rfl)
theorem dX4_pairs_7 : decode cX4_pairs 7 = .ok (.istore_n 2, 1) := dk_61 (dk_at dksX4_pairs_0 7 rfl rfl)
theorem dX4_pairs_8 : decode cX4_pairs 8 = .ok (.iload_n 2, 1) := dk_28 (dk_at dksX4_pairs_0 8 rfl rfl)
theorem dX4_pairs_9 : decode cX4_pairs 9 = .ok (.aload_n 0, 1) := dk_42 (dk_at dksX4_pairs_0 9 rfl rfl)
theorem dX4_pairs_10 : decode cX4_pairs 10 = .ok (.getfield 102, 3) := dk_180 0 102 (dk_at dksX4_pairs_0 10 rfl rfl)
theorem dX4_pairs_13 : decode cX4_pairs 13 = .ok (.if_icmp .ge 16, 3) := dk_162 0 16 (dk_at dksX4_pairs_0 13 rfl rfl)
theorem dX4_pairs_16 : decode cX4_pairs 16 = .ok (.aload_n 0, 1) := dk_42 (dk_at dksX4_pairs_0 16 rfl rfl)
theorem dX4_pairs_17 : decode cX4_pairs 17 = .ok (.getfield 40, 3) := dk_180 0 40 (dk_at dksX4_pairs_0 17 rfl rfl)
theorem dX4_pairs_20 : decode cX4_pairs 20 = .ok (.iload_n 2, 1) := dk_28 (dk_at dksX4_pairs_0 20 rfl rfl)
theorem dX4_pairs_21 : decode cX4_pairs 21 = .ok (.iconst 0, 1) := dk_3 (dk_at dksX4_pairs_0 21 rfl rfl)
theorem dX4_pairs_22 : decode cX4_pairs 22 = .ok (.iastore, 1) := dk_79 (dk_at dksX4_pairs_0 22 rfl rfl)
theorem dX4_pairs_23 : decode cX4_pairs 23 = .ok (.iinc 2 1, 3) := dk_132 2 1 (dk_at dksX4_pairs_1 0 rfl rfl)
theorem dX4_pairs_26 : decode cX4_pairs 26 = .ok (.goto (-18), 3) := dk_167 255 238 (dk_at dksX4_pairs_1 3 rfl rfl)
theorem dX4_pairs_29 : decode cX4_pairs 29 = .ok (.iconst 0, 1) := dk_3 (dk_at dksX4_pairs_1 6 rfl rfl)
theorem dX4_pairs_30 : decode cX4_pairs 30 = .ok (.istore_n 2, 1) := dk_61 (dk_at dksX4_pairs_1 7 rfl rfl)
theorem dX4_pairs_31 : decode cX4_pairs 31 = .ok (.iload_n 2, 1) := dk_28 (dk_at dksX4_pairs_1 8 rfl rfl)
theorem dX4_pairs_32 : decode cX4_pairs 32 = .ok (.aload_n 0, 1) := dk_42 (dk_at dksX4_pairs_1 9 rfl rfl)
theorem dX4_pairs_33 : decode cX4_pairs 33 = .ok (.getfield 102, 3) := dk_180 0 102 (dk_at dksX4_pairs_1 10 rfl rfl)
theorem dX4_pairs_36 : decode cX4_pairs 36 = .ok (.if_icmp .ge 57, 3) := dk_162 0 57 (dk_at dksX4_pairs_1 13 rfl rfl)
theorem dX4_pairs_39 : decode cX4_pairs 39 = .ok (.iconst 0, 1) := dk_3 (dk_at dksX4_pairs_1 16 rfl rfl)
theorem dX4_pairs_40 : decode cX4_pairs 40 = .ok (.istore_n 3, 1) := dk_62 (dk_at dksX4_pairs_1 17 rfl rfl)
theorem dX4_pairs_41 : decode cX4_pairs 41 = .ok (.iload_n 3, 1) := dk_29 (dk_at dksX4_pairs_1 18 rfl rfl)
theorem dX4_pairs_42 : decode cX4_pairs 42 = .ok (.iload_n 2, 1) := dk_28 (dk_at dksX4_pairs_1 19 rfl rfl)
theorem dX4_pairs_43 : decode cX4_pairs 43 = .ok (.if_icmp .ge 44, 3) := dk_162 0 44 (dk_at dksX4_pairs_1 20 rfl rfl)
theorem dX4_pairs_46 : decode cX4_pairs 46 = .ok (.aload_n 0, 1) := dk_42 (dk_at dksX4_pairs_1 23 rfl rfl)
theorem dX4_pairs_47 : decode cX4_pairs 47 = .ok (.iload_n 2, 1) := dk_28 (dk_at dksX4_pairs_2 0 rfl rfl)
theorem dX4_pairs_48 : decode cX4_pairs 48 = .ok (.iload_n 3, 1) := dk_29 (dk_at dksX4_pairs_2 1 rfl rfl)
theorem dX4_pairs_49 : decode cX4_pairs 49 = .ok (.invokevirtual 191, 3) := dk_182 0 191 (dk_at dksX4_pairs_2 2 rfl rfl)
theorem dX4_pairs_52 : decode cX4_pairs 52 = .ok (.ifCond .eq 6, 3) := dk_153 0 6 (dk_at dksX4_pairs_2 5 rfl rfl)
theorem dX4_pairs_55 : decode cX4_pairs 55 = .ok (.goto 26, 3) := dk_167 0 26 (dk_at dksX4_pairs_2 8 rfl rfl)
theorem dX4_pairs_58 : decode cX4_pairs 58 = .ok (.iinc 1 1, 3) := dk_132 1 1 (dk_at dksX4_pairs_2 11 rfl rfl)
theorem dX4_pairs_61 : decode cX4_pairs 61 = .ok (.aload_n 0, 1) := dk_42 (dk_at dksX4_pairs_2 14 rfl rfl)
theorem dX4_pairs_62 : decode cX4_pairs 62 = .ok (.getfield 40, 3) := dk_180 0 40 (dk_at dksX4_pairs_2 15 rfl rfl)
theorem dX4_pairs_65 : decode cX4_pairs 65 = .ok (.iload_n 2, 1) := dk_28 (dk_at dksX4_pairs_2 18 rfl rfl)
theorem dX4_pairs_66 : decode cX4_pairs 66 = .ok (.dup2, 1) := dk_92 (dk_at dksX4_pairs_2 19 rfl rfl)
theorem dX4_pairs_67 : decode cX4_pairs 67 = .ok (.iaload, 1) := dk_46 (dk_at dksX4_pairs_2 20 rfl rfl)
theorem dX4_pairs_68 : decode cX4_pairs 68 = .ok (.iconst 1, 1) := dk_4 (dk_at dksX4_pairs_2 21 rfl rfl)
theorem dX4_pairs_69 : decode cX4_pairs 69 = .ok (.iadd, 1) := dk_96 (dk_at dksX4_pairs_2 22 rfl rfl)
theorem dX4_pairs_70 : decode cX4_pairs 70 = .ok (.iastore, 1) := dk_79 (dk_at dksX4_pairs_2 23 rfl rfl)
theorem dX4_pairs_71 : decode cX4_pairs 71 = .ok (.aload_n 0, 1) := dk_42 (dk_at dksX4_pairs_3 0 rfl rfl)
theorem dX4_pairs_72 : decode cX4_pairs 72 = .ok (.getfield 40, 3) := dk_180 0 40 (dk_at dksX4_pairs_3 1 rfl rfl)
theorem dX4_pairs_75 : decode cX4_pairs 75 = .ok (.iload_n 3, 1) := dk_29 (dk_at dksX4_pairs_3 4 rfl rfl)
theorem dX4_pairs_76 : decode cX4_pairs 76 = .ok (.dup2, 1) := dk_92 (dk_at dksX4_pairs_3 5 rfl rfl)
theorem dX4_pairs_77 : decode cX4_pairs 77 = .ok (.iaload, 1) := dk_46 (dk_at dksX4_pairs_3 6 rfl rfl)
theorem dX4_pairs_78 : decode cX4_pairs 78 = .ok (.iconst 1, 1) := dk_4 (dk_at dksX4_pairs_3 7 rfl rfl)
theorem dX4_pairs_79 : decode cX4_pairs 79 = .ok (.iadd, 1) := dk_96 (dk_at dksX4_pairs_3 8 rfl rfl)
theorem dX4_pairs_80 : decode cX4_pairs 80 = .ok (.iastore, 1) := dk_79 (dk_at dksX4_pairs_3 9 rfl rfl)
theorem dX4_pairs_81 : decode cX4_pairs 81 = .ok (.iinc 3 1, 3) := dk_132 3 1 (dk_at dksX4_pairs_3 10 rfl rfl)
theorem dX4_pairs_84 : decode cX4_pairs 84 = .ok (.goto (-43), 3) := dk_167 255 213 (dk_at dksX4_pairs_3 13 rfl rfl)
theorem dX4_pairs_87 : decode cX4_pairs 87 = .ok (.iinc 2 1, 3) := dk_132 2 1 (dk_at dksX4_pairs_3 16 rfl rfl)
theorem dX4_pairs_90 : decode cX4_pairs 90 = .ok (.goto (-59), 3) := dk_167 255 197 (dk_at dksX4_pairs_3 19 rfl rfl)
theorem dX4_pairs_93 : decode cX4_pairs 93 = .ok (.iload_n 1, 1) := dk_27 (dk_at dksX4_pairs_3 22 rfl rfl)
theorem dX4_pairs_94 : decode cX4_pairs 94 = .ok (.ireturn, 1) := dk_172 (dk_at dksX4_pairs_3 23 rfl rfl)
abbrev cX4_worst : ByteArray := prog_20_method_48_code
def yX4_worst : MethodName := ⟨RX4, "worst", "()I"⟩
def dkwX4_worst_2 : List UInt8 := [167, 255, 224, 27, 172]
abbrev dktX4_worst_2 : List UInt8 := dkwX4_worst_2 ++ []
def dkwX4_worst_1 : List UInt8 := [180, 0, 40, 28, 46, 42, 180, 0, 40, 27, 46, 164, 0, 7, 28, 167, 0, 4, 27, 60, 132, 2, 1]
abbrev dktX4_worst_1 : List UInt8 := dkwX4_worst_1 ++ dktX4_worst_2
def dkwX4_worst_0 : List UInt8 := [42, 182, 0, 194, 154, 0, 6, 16, 251, 172, 3, 60, 4, 61, 28, 42, 180, 0, 102, 162, 0, 30, 42]
abbrev dktX4_worst_0 : List UInt8 := dkwX4_worst_0 ++ dktX4_worst_1
theorem dksX4_worst_0 : cX4_worst.data.toList.drop 0 = dktX4_worst_0 := by decide +kernel
theorem dksX4_worst_1 : cX4_worst.data.toList.drop 23 = dktX4_worst_1 := dk_seg dksX4_worst_0 23 rfl rfl
theorem dksX4_worst_2 : cX4_worst.data.toList.drop 46 = dktX4_worst_2 := dk_seg dksX4_worst_1 23 rfl rfl
theorem dX4_worst_0 : decode cX4_worst 0 = .ok (.aload_n 0, 1) := dk_42 (dk_at dksX4_worst_0 0 rfl rfl)
theorem dX4_worst_1 : decode cX4_worst 1 = .ok (.invokevirtual 194, 3) := dk_182 0 194 (dk_at dksX4_worst_0 1 rfl rfl)
theorem dX4_worst_4 : decode cX4_worst 4 = .ok (.ifCond .ne 6, 3) := dk_154 0 6 (dk_at dksX4_worst_0 4 rfl rfl)
theorem dX4_worst_7 : decode cX4_worst 7 = .ok (.bipush (-5), 2) := dk_16 251 (dk_at dksX4_worst_0 7 rfl rfl)
theorem dX4_worst_9 : decode cX4_worst 9 = .ok (.ireturn, 1) := dk_172 (dk_at dksX4_worst_0 9 rfl rfl)
theorem dX4_worst_10 : decode cX4_worst 10 = .ok (.iconst 0, 1) := dk_3 (dk_at dksX4_worst_0 10 rfl rfl)
theorem dX4_worst_11 : decode cX4_worst 11 = .ok (.istore_n 1, 1) := dk_60 (dk_at dksX4_worst_0 11 rfl rfl)
theorem dX4_worst_12 : decode cX4_worst 12 = .ok (.iconst 1, 1) := dk_4 (dk_at dksX4_worst_0 12 rfl rfl)
theorem dX4_worst_13 : decode cX4_worst 13 = .ok (.istore_n 2, 1) := dk_61 (dk_at dksX4_worst_0 13 rfl rfl)
theorem dX4_worst_14 : decode cX4_worst 14 = .ok (.iload_n 2, 1) := dk_28 (dk_at dksX4_worst_0 14 rfl rfl)
theorem dX4_worst_15 : decode cX4_worst 15 = .ok (.aload_n 0, 1) := dk_42 (dk_at dksX4_worst_0 15 rfl rfl)
theorem dX4_worst_16 : decode cX4_worst 16 = .ok (.getfield 102, 3) := dk_180 0 102 (dk_at dksX4_worst_0 16 rfl rfl)
theorem dX4_worst_19 : decode cX4_worst 19 = .ok (.if_icmp .ge 30, 3) := dk_162 0 30 (dk_at dksX4_worst_0 19 rfl rfl)
theorem dX4_worst_22 : decode cX4_worst 22 = .ok (.aload_n 0, 1) := dk_42 (dk_at dksX4_worst_0 22 rfl rfl)
theorem dX4_worst_23 : decode cX4_worst 23 = .ok (.getfield 40, 3) := dk_180 0 40 (dk_at dksX4_worst_1 0 rfl rfl)
theorem dX4_worst_26 : decode cX4_worst 26 = .ok (.iload_n 2, 1) := dk_28 (dk_at dksX4_worst_1 3 rfl rfl)
theorem dX4_worst_27 : decode cX4_worst 27 = .ok (.iaload, 1) := dk_46 (dk_at dksX4_worst_1 4 rfl rfl)
theorem dX4_worst_28 : decode cX4_worst 28 = .ok (.aload_n 0, 1) := dk_42 (dk_at dksX4_worst_1 5 rfl rfl)
theorem dX4_worst_29 : decode cX4_worst 29 = .ok (.getfield 40, 3) := dk_180 0 40 (dk_at dksX4_worst_1 6 rfl rfl)
theorem dX4_worst_32 : decode cX4_worst 32 = .ok (.iload_n 1, 1) := dk_27 (dk_at dksX4_worst_1 9 rfl rfl)
theorem dX4_worst_33 : decode cX4_worst 33 = .ok (.iaload, 1) := dk_46 (dk_at dksX4_worst_1 10 rfl rfl)
theorem dX4_worst_34 : decode cX4_worst 34 = .ok (.if_icmp .le 7, 3) := dk_164 0 7 (dk_at dksX4_worst_1 11 rfl rfl)
theorem dX4_worst_37 : decode cX4_worst 37 = .ok (.iload_n 2, 1) := dk_28 (dk_at dksX4_worst_1 14 rfl rfl)
theorem dX4_worst_38 : decode cX4_worst 38 = .ok (.goto 4, 3) := dk_167 0 4 (dk_at dksX4_worst_1 15 rfl rfl)
theorem dX4_worst_41 : decode cX4_worst 41 = .ok (.iload_n 1, 1) := dk_27 (dk_at dksX4_worst_1 18 rfl rfl)
theorem dX4_worst_42 : decode cX4_worst 42 = .ok (.istore_n 1, 1) := dk_60 (dk_at dksX4_worst_1 19 rfl rfl)
theorem dX4_worst_43 : decode cX4_worst 43 = .ok (.iinc 2 1, 3) := dk_132 2 1 (dk_at dksX4_worst_1 20 rfl rfl)
theorem dX4_worst_46 : decode cX4_worst 46 = .ok (.goto (-32), 3) := dk_167 255 224 (dk_at dksX4_worst_2 0 rfl rfl)
theorem dX4_worst_49 : decode cX4_worst 49 = .ok (.iload_n 1, 1) := dk_27 (dk_at dksX4_worst_2 3 rfl rfl)
theorem dX4_worst_50 : decode cX4_worst 50 = .ok (.ireturn, 1) := dk_172 (dk_at dksX4_worst_2 4 rfl rfl)
abbrev cX4_crossings : ByteArray := prog_20_method_50_code
def yX4_crossings : MethodName := ⟨RX4, "crossings", "()I"⟩
theorem dX4_crossings_0 : decode cX4_crossings 0 = .ok (.aload_n 0, 1) := by decide +kernel
theorem dX4_crossings_1 : decode cX4_crossings 1 = .ok (.invokevirtual 151, 3) := by decide +kernel
theorem dX4_crossings_4 : decode cX4_crossings 4 = .ok (.ireturn, 1) := by decide +kernel
abbrev cX4_crossingsAgain : ByteArray := prog_20_method_51_code
def yX4_crossingsAgain : MethodName := ⟨RX4, "crossingsAgain", "()I"⟩
theorem dX4_crossingsAgain_0 : decode cX4_crossingsAgain 0 = .ok (.aload_n 0, 1) := by decide +kernel
theorem dX4_crossingsAgain_1 : decode cX4_crossingsAgain 1 = .ok (.invokevirtual 151, 3) := by decide +kernel
theorem dX4_crossingsAgain_4 : decode cX4_crossingsAgain 4 = .ok (.ireturn, 1) := by decide +kernel
abbrev cX4_track : ByteArray := prog_20_method_54_code
def yX4_track : MethodName := ⟨RX4, "track", "(I)I"⟩
def dkwX4_track_3 : List UInt8 := [167, 0, 16, 27, 4, 160, 0, 10, 42, 180, 0, 185, 167, 0, 4, 28, 172]
abbrev dktX4_track_3 : List UInt8 := dkwX4_track_3 ++ []
def dkwX4_track_2 : List UInt8 := [180, 0, 37, 29, 46, 96, 46, 96, 61, 132, 3, 1, 167, 255, 219, 27, 154, 0, 10, 42, 180, 0, 200]
abbrev dktX4_track_2 : List UInt8 := dkwX4_track_2 ++ dktX4_track_3
def dkwX4_track_1 : List UInt8 := [180, 0, 185, 162, 0, 35, 28, 42, 180, 0, 28, 16, 30, 42, 180, 0, 37, 29, 4, 100, 46, 104, 42]
abbrev dktX4_track_1 : List UInt8 := dkwX4_track_1 ++ dktX4_track_2
def dkwX4_track_0 : List UInt8 := [27, 3, 5, 184, 0, 87, 154, 0, 6, 16, 254, 172, 42, 182, 0, 182, 3, 61, 4, 62, 29, 42]
abbrev dktX4_track_0 : List UInt8 := dkwX4_track_0 ++ dktX4_track_1
theorem dksX4_track_0 : cX4_track.data.toList.drop 0 = dktX4_track_0 := by decide +kernel
theorem dksX4_track_1 : cX4_track.data.toList.drop 22 = dktX4_track_1 := dk_seg dksX4_track_0 22 rfl rfl
theorem dksX4_track_2 : cX4_track.data.toList.drop 45 = dktX4_track_2 := dk_seg dksX4_track_1 23 rfl rfl
theorem dksX4_track_3 : cX4_track.data.toList.drop 68 = dktX4_track_3 := dk_seg dksX4_track_2 23 rfl rfl
theorem dX4_track_0 : decode cX4_track 0 = .ok (.iload_n 1, 1) := dk_27 (dk_at dksX4_track_0 0 rfl rfl)
theorem dX4_track_1 : decode cX4_track 1 = .ok (.iconst 0, 1) := dk_3 (dk_at dksX4_track_0 1 rfl rfl)
theorem dX4_track_2 : decode cX4_track 2 = .ok (.iconst 2, 1) := dk_5 (dk_at dksX4_track_0 2 rfl rfl)
theorem dX4_track_3 : decode cX4_track 3 = .ok (.invokestatic 87, 3) := dk_184 0 87 (dk_at dksX4_track_0 3 rfl rfl)
theorem dX4_track_6 : decode cX4_track 6 = .ok (.ifCond .ne 6, 3) := dk_154 0 6 (dk_at dksX4_track_0 6 rfl rfl)
theorem dX4_track_9 : decode cX4_track 9 = .ok (.bipush (-2), 2) := dk_16 254 (dk_at dksX4_track_0 9 rfl rfl)
theorem dX4_track_11 : decode cX4_track 11 = .ok (.ireturn, 1) := dk_172 (dk_at dksX4_track_0 11 rfl rfl)
theorem dX4_track_12 : decode cX4_track 12 = .ok (.aload_n 0, 1) := dk_42 (dk_at dksX4_track_0 12 rfl rfl)
theorem dX4_track_13 : decode cX4_track 13 = .ok (.invokevirtual 182, 3) := dk_182 0 182 (dk_at dksX4_track_0 13 rfl rfl)
theorem dX4_track_16 : decode cX4_track 16 = .ok (.iconst 0, 1) := dk_3 (dk_at dksX4_track_0 16 rfl rfl)
theorem dX4_track_17 : decode cX4_track 17 = .ok (.istore_n 2, 1) := dk_61 (dk_at dksX4_track_0 17 rfl rfl)
theorem dX4_track_18 : decode cX4_track 18 = .ok (.iconst 1, 1) := dk_4 (dk_at dksX4_track_0 18 rfl rfl)
theorem dX4_track_19 : decode cX4_track 19 = .ok (.istore_n 3, 1) := dk_62 (dk_at dksX4_track_0 19 rfl rfl)
theorem dX4_track_20 : decode cX4_track 20 = .ok (.iload_n 3, 1) := dk_29 (dk_at dksX4_track_0 20 rfl rfl)
theorem dX4_track_21 : decode cX4_track 21 = .ok (.aload_n 0, 1) := dk_42 (dk_at dksX4_track_0 21 rfl rfl)
theorem dX4_track_22 : decode cX4_track 22 = .ok (.getfield 185, 3) := dk_180 0 185 (dk_at dksX4_track_1 0 rfl rfl)
theorem dX4_track_25 : decode cX4_track 25 = .ok (.if_icmp .ge 35, 3) := dk_162 0 35 (dk_at dksX4_track_1 3 rfl rfl)
theorem dX4_track_28 : decode cX4_track 28 = .ok (.iload_n 2, 1) := dk_28 (dk_at dksX4_track_1 6 rfl rfl)
theorem dX4_track_29 : decode cX4_track 29 = .ok (.aload_n 0, 1) := dk_42 (dk_at dksX4_track_1 7 rfl rfl)
theorem dX4_track_30 : decode cX4_track 30 = .ok (.getfield 28, 3) := dk_180 0 28 (dk_at dksX4_track_1 8 rfl rfl)
theorem dX4_track_33 : decode cX4_track 33 = .ok (.bipush 30, 2) := dk_16 30 (dk_at dksX4_track_1 11 rfl rfl)
theorem dX4_track_35 : decode cX4_track 35 = .ok (.aload_n 0, 1) := dk_42 (dk_at dksX4_track_1 13 rfl rfl)
theorem dX4_track_36 : decode cX4_track 36 = .ok (.getfield 37, 3) := dk_180 0 37 (dk_at dksX4_track_1 14 rfl rfl)
theorem dX4_track_39 : decode cX4_track 39 = .ok (.iload_n 3, 1) := dk_29 (dk_at dksX4_track_1 17 rfl rfl)
theorem dX4_track_40 : decode cX4_track 40 = .ok (.iconst 1, 1) := dk_4 (dk_at dksX4_track_1 18 rfl rfl)
theorem dX4_track_41 : decode cX4_track 41 = .ok (.isub, 1) := dk_100 (dk_at dksX4_track_1 19 rfl rfl)
theorem dX4_track_42 : decode cX4_track 42 = .ok (.iaload, 1) := dk_46 (dk_at dksX4_track_1 20 rfl rfl)
theorem dX4_track_43 : decode cX4_track 43 = .ok (.imul, 1) := dk_104 (dk_at dksX4_track_1 21 rfl rfl)
theorem dX4_track_44 : decode cX4_track 44 = .ok (.aload_n 0, 1) := dk_42 (dk_at dksX4_track_1 22 rfl rfl)
theorem dX4_track_45 : decode cX4_track 45 = .ok (.getfield 37, 3) := dk_180 0 37 (dk_at dksX4_track_2 0 rfl rfl)
theorem dX4_track_48 : decode cX4_track 48 = .ok (.iload_n 3, 1) := dk_29 (dk_at dksX4_track_2 3 rfl rfl)
theorem dX4_track_49 : decode cX4_track 49 = .ok (.iaload, 1) := dk_46 (dk_at dksX4_track_2 4 rfl rfl)
theorem dX4_track_50 : decode cX4_track 50 = .ok (.iadd, 1) := dk_96 (dk_at dksX4_track_2 5 rfl rfl)
theorem dX4_track_51 : decode cX4_track 51 = .ok (.iaload, 1) := dk_46 (dk_at dksX4_track_2 6 rfl rfl)
theorem dX4_track_52 : decode cX4_track 52 = .ok (.iadd, 1) := dk_96 (dk_at dksX4_track_2 7 rfl rfl)
theorem dX4_track_53 : decode cX4_track 53 = .ok (.istore_n 2, 1) := dk_61 (dk_at dksX4_track_2 8 rfl rfl)
theorem dX4_track_54 : decode cX4_track 54 = .ok (.iinc 3 1, 3) := dk_132 3 1 (dk_at dksX4_track_2 9 rfl rfl)
theorem dX4_track_57 : decode cX4_track 57 = .ok (.goto (-37), 3) := dk_167 255 219 (dk_at dksX4_track_2 12 rfl rfl)
theorem dX4_track_60 : decode cX4_track 60 = .ok (.iload_n 1, 1) := dk_27 (dk_at dksX4_track_2 15 rfl rfl)
theorem dX4_track_61 : decode cX4_track 61 = .ok (.ifCond .ne 10, 3) := dk_154 0 10 (dk_at dksX4_track_2 16 rfl rfl)
theorem dX4_track_64 : decode cX4_track 64 = .ok (.aload_n 0, 1) := dk_42 (dk_at dksX4_track_2 19 rfl rfl)
theorem dX4_track_65 : decode cX4_track 65 = .ok (.getfield 200, 3) := dk_180 0 200 (dk_at dksX4_track_2 20 rfl rfl)
theorem dX4_track_68 : decode cX4_track 68 = .ok (.goto 16, 3) := dk_167 0 16 (dk_at dksX4_track_3 0 rfl rfl)
theorem dX4_track_71 : decode cX4_track 71 = .ok (.iload_n 1, 1) := dk_27 (dk_at dksX4_track_3 3 rfl rfl)
theorem dX4_track_72 : decode cX4_track 72 = .ok (.iconst 1, 1) := dk_4 (dk_at dksX4_track_3 4 rfl rfl)
theorem dX4_track_73 : decode cX4_track 73 = .ok (.if_icmp .ne 10, 3) := dk_160 0 10 (dk_at dksX4_track_3 5 rfl rfl)
theorem dX4_track_76 : decode cX4_track 76 = .ok (.aload_n 0, 1) := dk_42 (dk_at dksX4_track_3 8 rfl rfl)
theorem dX4_track_77 : decode cX4_track 77 = .ok (.getfield 185, 3) := dk_180 0 185 (dk_at dksX4_track_3 9 rfl rfl)
theorem dX4_track_80 : decode cX4_track 80 = .ok (.goto 4, 3) := dk_167 0 4 (dk_at dksX4_track_3 12 rfl rfl)
theorem dX4_track_83 : decode cX4_track 83 = .ok (.iload_n 2, 1) := dk_28 (dk_at dksX4_track_3 15 rfl rfl)
theorem dX4_track_84 : decode cX4_track 84 = .ok (.ireturn, 1) := dk_172 (dk_at dksX4_track_3 16 rfl rfl)
abbrev cX4_trackAt : ByteArray := prog_20_method_55_code
def yX4_trackAt : MethodName := ⟨RX4, "trackAt", "(I)I"⟩
def dkwX4_trackAt_1 : List UInt8 := [167, 0, 4, 2, 172]
abbrev dktX4_trackAt_1 : List UInt8 := dkwX4_trackAt_1 ++ []
def dkwX4_trackAt_0 : List UInt8 := [42, 182, 0, 182, 27, 3, 42, 180, 0, 185, 4, 100, 184, 0, 87, 153, 0, 12, 42, 180, 0, 37, 27, 46]
abbrev dktX4_trackAt_0 : List UInt8 := dkwX4_trackAt_0 ++ dktX4_trackAt_1
theorem dksX4_trackAt_0 : cX4_trackAt.data.toList.drop 0 = dktX4_trackAt_0 := by decide +kernel
theorem dksX4_trackAt_1 : cX4_trackAt.data.toList.drop 24 = dktX4_trackAt_1 := dk_seg dksX4_trackAt_0 24 rfl rfl
theorem dX4_trackAt_0 : decode cX4_trackAt 0 = .ok (.aload_n 0, 1) := dk_42 (dk_at dksX4_trackAt_0 0 rfl rfl)
theorem dX4_trackAt_1 : decode cX4_trackAt 1 = .ok (.invokevirtual 182, 3) := dk_182 0 182 (dk_at dksX4_trackAt_0 1 rfl rfl)
theorem dX4_trackAt_4 : decode cX4_trackAt 4 = .ok (.iload_n 1, 1) := dk_27 (dk_at dksX4_trackAt_0 4 rfl rfl)
theorem dX4_trackAt_5 : decode cX4_trackAt 5 = .ok (.iconst 0, 1) := dk_3 (dk_at dksX4_trackAt_0 5 rfl rfl)
theorem dX4_trackAt_6 : decode cX4_trackAt 6 = .ok (.aload_n 0, 1) := dk_42 (dk_at dksX4_trackAt_0 6 rfl rfl)
theorem dX4_trackAt_7 : decode cX4_trackAt 7 = .ok (.getfield 185, 3) := dk_180 0 185 (dk_at dksX4_trackAt_0 7 rfl rfl)
theorem dX4_trackAt_10 : decode cX4_trackAt 10 = .ok (.iconst 1, 1) := dk_4 (dk_at dksX4_trackAt_0 10 rfl rfl)
theorem dX4_trackAt_11 : decode cX4_trackAt 11 = .ok (.isub, 1) := dk_100 (dk_at dksX4_trackAt_0 11 rfl rfl)
theorem dX4_trackAt_12 : decode cX4_trackAt 12 = .ok (.invokestatic 87, 3) := dk_184 0 87 (dk_at dksX4_trackAt_0 12 rfl rfl)
theorem dX4_trackAt_15 : decode cX4_trackAt 15 = .ok (.ifCond .eq 12, 3) := dk_153 0 12 (dk_at dksX4_trackAt_0 15 rfl rfl)
theorem dX4_trackAt_18 : decode cX4_trackAt 18 = .ok (.aload_n 0, 1) := dk_42 (dk_at dksX4_trackAt_0 18 rfl rfl)
theorem dX4_trackAt_19 : decode cX4_trackAt 19 = .ok (.getfield 37, 3) := dk_180 0 37 (dk_at dksX4_trackAt_0 19 rfl rfl)
theorem dX4_trackAt_22 : decode cX4_trackAt 22 = .ok (.iload_n 1, 1) := dk_27 (dk_at dksX4_trackAt_0 22 rfl rfl)
theorem dX4_trackAt_23 : decode cX4_trackAt 23 = .ok (.iaload, 1) := dk_46 (dk_at dksX4_trackAt_0 23 rfl rfl)
theorem dX4_trackAt_24 : decode cX4_trackAt 24 = .ok (.goto 4, 3) := dk_167 0 4 (dk_at dksX4_trackAt_1 0 rfl rfl)
theorem dX4_trackAt_27 : decode cX4_trackAt 27 = .ok (.iconst (-1), 1) := dk_2 (dk_at dksX4_trackAt_1 3 rfl rfl)
theorem dX4_trackAt_28 : decode cX4_trackAt 28 = .ok (.ireturn, 1) := dk_172 (dk_at dksX4_trackAt_1 4 rfl rfl)
abbrev cX4_weightAgain : ByteArray := prog_20_method_56_code
def yX4_weightAgain : MethodName := ⟨RX4, "weightAgain", "()I"⟩
def dkwX4_weightAgain_0 : List UInt8 := [42, 182, 0, 182, 42, 180, 0, 102, 16, 10, 164, 0, 8, 16, 253, 167, 0, 7, 42, 180, 0, 200, 172]
abbrev dktX4_weightAgain_0 : List UInt8 := dkwX4_weightAgain_0 ++ []
theorem dksX4_weightAgain_0 : cX4_weightAgain.data.toList.drop 0 = dktX4_weightAgain_0 := by decide +kernel
theorem dX4_weightAgain_0 : decode cX4_weightAgain 0 = .ok (.aload_n 0, 1) := dk_42 (dk_at dksX4_weightAgain_0 0 rfl rfl)
theorem dX4_weightAgain_1 : decode cX4_weightAgain 1 = .ok (.invokevirtual 182, 3) := dk_182 0 182 (dk_at dksX4_weightAgain_0 1 rfl rfl)
theorem dX4_weightAgain_4 : decode cX4_weightAgain 4 = .ok (.aload_n 0, 1) := dk_42 (dk_at dksX4_weightAgain_0 4 rfl rfl)
theorem dX4_weightAgain_5 : decode cX4_weightAgain 5 = .ok (.getfield 102, 3) := dk_180 0 102 (dk_at dksX4_weightAgain_0 5 rfl rfl)
theorem dX4_weightAgain_8 : decode cX4_weightAgain 8 = .ok (.bipush 10, 2) := dk_16 10 (dk_at dksX4_weightAgain_0 8 rfl rfl)
theorem dX4_weightAgain_10 : decode cX4_weightAgain 10 = .ok (.if_icmp .le 8, 3) := dk_164 0 8 (dk_at dksX4_weightAgain_0 10 rfl rfl)
theorem dX4_weightAgain_13 : decode cX4_weightAgain 13 = .ok (.bipush (-3), 2) := dk_16 253 (dk_at dksX4_weightAgain_0 13 rfl rfl)
theorem dX4_weightAgain_15 : decode cX4_weightAgain 15 = .ok (.goto 7, 3) := dk_167 0 7 (dk_at dksX4_weightAgain_0 15 rfl rfl)
theorem dX4_weightAgain_18 : decode cX4_weightAgain 18 = .ok (.aload_n 0, 1) := dk_42 (dk_at dksX4_weightAgain_0 18 rfl rfl)
theorem dX4_weightAgain_19 : decode cX4_weightAgain 19 = .ok (.getfield 200, 3) := dk_180 0 200 (dk_at dksX4_weightAgain_0 19 rfl rfl)
theorem dX4_weightAgain_22 : decode cX4_weightAgain 22 = .ok (.ireturn, 1) := dk_172 (dk_at dksX4_weightAgain_0 22 rfl rfl)
abbrev cX4_could : ByteArray := prog_20_method_59_code
def yX4_could : MethodName := ⟨RX4, "could", "(II)I"⟩
def dkwX4_could_1 : List UInt8 := [27, 182, 0, 207, 42, 180, 0, 52, 28, 46, 42, 180, 0, 55, 28, 46, 104, 172]
abbrev dktX4_could_1 : List UInt8 := dkwX4_could_1 ++ []
def dkwX4_could_0 : List UInt8 := [28, 184, 0, 95, 154, 0, 5, 2, 172, 27, 3, 17, 3, 231, 184, 0, 87, 154, 0, 6, 16, 254, 172, 42]
abbrev dktX4_could_0 : List UInt8 := dkwX4_could_0 ++ dktX4_could_1
theorem dksX4_could_0 : cX4_could.data.toList.drop 0 = dktX4_could_0 := by decide +kernel
theorem dksX4_could_1 : cX4_could.data.toList.drop 24 = dktX4_could_1 := dk_seg dksX4_could_0 24 rfl rfl
theorem dX4_could_0 : decode cX4_could 0 = .ok (.iload_n 2, 1) := dk_28 (dk_at dksX4_could_0 0 rfl rfl)
theorem dX4_could_1 : decode cX4_could 1 = .ok (.invokestatic 95, 3) := dk_184 0 95 (dk_at dksX4_could_0 1 rfl rfl)
theorem dX4_could_4 : decode cX4_could 4 = .ok (.ifCond .ne 5, 3) := dk_154 0 5 (dk_at dksX4_could_0 4 rfl rfl)
theorem dX4_could_7 : decode cX4_could 7 = .ok (.iconst (-1), 1) := dk_2 (dk_at dksX4_could_0 7 rfl rfl)
theorem dX4_could_8 : decode cX4_could 8 = .ok (.ireturn, 1) := dk_172 (dk_at dksX4_could_0 8 rfl rfl)
theorem dX4_could_9 : decode cX4_could 9 = .ok (.iload_n 1, 1) := dk_27 (dk_at dksX4_could_0 9 rfl rfl)
theorem dX4_could_10 : decode cX4_could 10 = .ok (.iconst 0, 1) := dk_3 (dk_at dksX4_could_0 10 rfl rfl)
theorem dX4_could_11 : decode cX4_could 11 = .ok (.sipush 999, 3) := dk_17 3 231 (dk_at dksX4_could_0 11 rfl rfl)
theorem dX4_could_14 : decode cX4_could 14 = .ok (.invokestatic 87, 3) := dk_184 0 87 (dk_at dksX4_could_0 14 rfl rfl)
theorem dX4_could_17 : decode cX4_could 17 = .ok (.ifCond .ne 6, 3) := dk_154 0 6 (dk_at dksX4_could_0 17 rfl rfl)
theorem dX4_could_20 : decode cX4_could 20 = .ok (.bipush (-2), 2) := dk_16 254 (dk_at dksX4_could_0 20 rfl rfl)
theorem dX4_could_22 : decode cX4_could 22 = .ok (.ireturn, 1) := dk_172 (dk_at dksX4_could_0 22 rfl rfl)
theorem dX4_could_23 : decode cX4_could 23 = .ok (.aload_n 0, 1) := dk_42 (dk_at dksX4_could_0 23 rfl rfl)
theorem dX4_could_24 : decode cX4_could 24 = .ok (.iload_n 1, 1) := dk_27 (dk_at dksX4_could_1 0 rfl rfl)
theorem dX4_could_25 : decode cX4_could 25 = .ok (.invokevirtual 207, 3) := dk_182 0 207 (dk_at dksX4_could_1 1 rfl rfl)
theorem dX4_could_28 : decode cX4_could 28 = .ok (.aload_n 0, 1) := dk_42 (dk_at dksX4_could_1 4 rfl rfl)
theorem dX4_could_29 : decode cX4_could 29 = .ok (.getfield 52, 3) := dk_180 0 52 (dk_at dksX4_could_1 5 rfl rfl)
theorem dX4_could_32 : decode cX4_could 32 = .ok (.iload_n 2, 1) := dk_28 (dk_at dksX4_could_1 8 rfl rfl)
theorem dX4_could_33 : decode cX4_could 33 = .ok (.iaload, 1) := dk_46 (dk_at dksX4_could_1 9 rfl rfl)
theorem dX4_could_34 : decode cX4_could 34 = .ok (.aload_n 0, 1) := dk_42 (dk_at dksX4_could_1 10 rfl rfl)
theorem dX4_could_35 : decode cX4_could 35 = .ok (.getfield 55, 3) := dk_180 0 55 (dk_at dksX4_could_1 11 rfl rfl)
theorem dX4_could_38 : decode cX4_could 38 = .ok (.iload_n 2, 1) := dk_28 (dk_at dksX4_could_1 14 rfl rfl)
theorem dX4_could_39 : decode cX4_could 39 = .ok (.iaload, 1) := dk_46 (dk_at dksX4_could_1 15 rfl rfl)
theorem dX4_could_40 : decode cX4_could 40 = .ok (.imul, 1) := dk_104 (dk_at dksX4_could_1 16 rfl rfl)
theorem dX4_could_41 : decode cX4_could 41 = .ok (.ireturn, 1) := dk_172 (dk_at dksX4_could_1 17 rfl rfl)
abbrev cX4_charts : ByteArray := prog_20_method_57_code
def yX4_charts : MethodName := ⟨RX4, "charts", "(I)V"⟩
def dkwX4_charts_4 : List UInt8 := [180, 0, 55, 29, 27, 182, 0, 203, 177]
abbrev dktX4_charts_4 : List UInt8 := dkwX4_charts_4 ++ []
def dkwX4_charts_3 : List UInt8 := [21, 4, 46, 62, 132, 4, 1, 167, 255, 192, 42, 42, 180, 0, 52, 28, 27, 182, 0, 203, 42, 42]
abbrev dktX4_charts_3 : List UInt8 := dkwX4_charts_3 ++ dktX4_charts_4
def dkwX4_charts_2 : List UInt8 := [156, 0, 27, 42, 42, 180, 0, 37, 21, 4, 46, 3, 182, 0, 105, 27, 161, 0, 11, 42, 180, 0, 37]
abbrev dktX4_charts_2 : List UInt8 := dkwX4_charts_2 ++ dktX4_charts_3
def dkwX4_charts_1 : List UInt8 := [180, 0, 37, 21, 4, 46, 3, 182, 0, 105, 27, 163, 0, 11, 42, 180, 0, 37, 21, 4, 46, 61, 29]
abbrev dktX4_charts_1 : List UInt8 := dkwX4_charts_1 ++ dktX4_charts_2
def dkwX4_charts_0 : List UInt8 := [42, 182, 0, 182, 2, 61, 2, 62, 3, 54, 4, 21, 4, 42, 180, 0, 185, 162, 0, 61, 42, 42]
abbrev dktX4_charts_0 : List UInt8 := dkwX4_charts_0 ++ dktX4_charts_1
theorem dksX4_charts_0 : cX4_charts.data.toList.drop 0 = dktX4_charts_0 := by decide +kernel
theorem dksX4_charts_1 : cX4_charts.data.toList.drop 22 = dktX4_charts_1 := dk_seg dksX4_charts_0 22 rfl rfl
theorem dksX4_charts_2 : cX4_charts.data.toList.drop 45 = dktX4_charts_2 := dk_seg dksX4_charts_1 23 rfl rfl
theorem dksX4_charts_3 : cX4_charts.data.toList.drop 68 = dktX4_charts_3 := dk_seg dksX4_charts_2 23 rfl rfl
theorem dksX4_charts_4 : cX4_charts.data.toList.drop 90 = dktX4_charts_4 := dk_seg dksX4_charts_3 22 rfl rfl
theorem dX4_charts_0 : decode cX4_charts 0 = .ok (.aload_n 0, 1) := dk_42 (dk_at dksX4_charts_0 0 rfl rfl)
theorem dX4_charts_1 : decode cX4_charts 1 = .ok (.invokevirtual 182, 3) := dk_182 0 182 (dk_at dksX4_charts_0 1 rfl rfl)
theorem dX4_charts_4 : decode cX4_charts 4 = .ok (.iconst (-1), 1) := dk_2 (dk_at dksX4_charts_0 4 rfl rfl)
theorem dX4_charts_5 : decode cX4_charts 5 = .ok (.istore_n 2, 1) := dk_61 (dk_at dksX4_charts_0 5 rfl rfl)
theorem dX4_charts_6 : decode cX4_charts 6 = .ok (.iconst (-1), 1) := dk_2 (dk_at dksX4_charts_0 6 rfl rfl)
theorem dX4_charts_7 : decode cX4_charts 7 = .ok (.istore_n 3, 1) := dk_62 (dk_at dksX4_charts_0 7 rfl rfl)
theorem dX4_charts_8 : decode cX4_charts 8 = .ok (.iconst 0, 1) := dk_3 (dk_at dksX4_charts_0 8 rfl rfl)
theorem dX4_charts_9 : decode cX4_charts 9 = .ok (.istore 4, 2) := dk_54 4 (dk_at dksX4_charts_0 9 rfl rfl)
theorem dX4_charts_11 : decode cX4_charts 11 = .ok (.iload 4, 2) := dk_21 4 (dk_at dksX4_charts_0 11 rfl rfl)
theorem dX4_charts_13 : decode cX4_charts 13 = .ok (.aload_n 0, 1) := dk_42 (dk_at dksX4_charts_0 13 rfl rfl)
theorem dX4_charts_14 : decode cX4_charts 14 = .ok (.getfield 185, 3) := dk_180 0 185 (dk_at dksX4_charts_0 14 rfl rfl)
theorem dX4_charts_17 : decode cX4_charts 17 = .ok (.if_icmp .ge 61, 3) := dk_162 0 61 (dk_at dksX4_charts_0 17 rfl rfl)
theorem dX4_charts_20 : decode cX4_charts 20 = .ok (.aload_n 0, 1) := dk_42 (dk_at dksX4_charts_0 20 rfl rfl)
theorem dX4_charts_21 : decode cX4_charts 21 = .ok (.aload_n 0, 1) := dk_42 (dk_at dksX4_charts_0 21 rfl rfl)
theorem dX4_charts_22 : decode cX4_charts 22 = .ok (.getfield 37, 3) := dk_180 0 37 (dk_at dksX4_charts_1 0 rfl rfl)
theorem dX4_charts_25 : decode cX4_charts 25 = .ok (.iload 4, 2) := dk_21 4 (dk_at dksX4_charts_1 3 rfl rfl)
theorem dX4_charts_27 : decode cX4_charts 27 = .ok (.iaload, 1) := dk_46 (dk_at dksX4_charts_1 5 rfl rfl)
theorem dX4_charts_28 : decode cX4_charts 28 = .ok (.iconst 0, 1) := dk_3 (dk_at dksX4_charts_1 6 rfl rfl)
theorem dX4_charts_29 : decode cX4_charts 29 = .ok (.invokevirtual 105, 3) := dk_182 0 105 (dk_at dksX4_charts_1 7 rfl rfl)
theorem dX4_charts_32 : decode cX4_charts 32 = .ok (.iload_n 1, 1) := dk_27 (dk_at dksX4_charts_1 10 rfl rfl)
theorem dX4_charts_33 : decode cX4_charts 33 = .ok (.if_icmp .gt 11, 3) := dk_163 0 11 (dk_at dksX4_charts_1 11 rfl rfl)
theorem dX4_charts_36 : decode cX4_charts 36 = .ok (.aload_n 0, 1) := dk_42 (dk_at dksX4_charts_1 14 rfl rfl)
theorem dX4_charts_37 : decode cX4_charts 37 = .ok (.getfield 37, 3) := dk_180 0 37 (dk_at dksX4_charts_1 15 rfl rfl)
theorem dX4_charts_40 : decode cX4_charts 40 = .ok (.iload 4, 2) := dk_21 4 (dk_at dksX4_charts_1 18 rfl rfl)
theorem dX4_charts_42 : decode cX4_charts 42 = .ok (.iaload, 1) := dk_46 (dk_at dksX4_charts_1 20 rfl rfl)
theorem dX4_charts_43 : decode cX4_charts 43 = .ok (.istore_n 2, 1) := dk_61 (dk_at dksX4_charts_1 21 rfl rfl)
theorem dX4_charts_44 : decode cX4_charts 44 = .ok (.iload_n 3, 1) := dk_29 (dk_at dksX4_charts_1 22 rfl rfl)
theorem dX4_charts_45 : decode cX4_charts 45 = .ok (.ifCond .ge 27, 3) := dk_156 0 27 (dk_at dksX4_charts_2 0 rfl rfl)
theorem dX4_charts_48 : decode cX4_charts 48 = .ok (.aload_n 0, 1) := dk_42 (dk_at dksX4_charts_2 3 rfl rfl)
theorem dX4_charts_49 : decode cX4_charts 49 = .ok (.aload_n 0, 1) := dk_42 (dk_at dksX4_charts_2 4 rfl rfl)
theorem dX4_charts_50 : decode cX4_charts 50 = .ok (.getfield 37, 3) := dk_180 0 37 (dk_at dksX4_charts_2 5 rfl rfl)
theorem dX4_charts_53 : decode cX4_charts 53 = .ok (.iload 4, 2) := dk_21 4 (dk_at dksX4_charts_2 8 rfl rfl)
theorem dX4_charts_55 : decode cX4_charts 55 = .ok (.iaload, 1) := dk_46 (dk_at dksX4_charts_2 10 rfl rfl)
theorem dX4_charts_56 : decode cX4_charts 56 = .ok (.iconst 0, 1) := dk_3 (dk_at dksX4_charts_2 11 rfl rfl)
theorem dX4_charts_57 : decode cX4_charts 57 = .ok (.invokevirtual 105, 3) := dk_182 0 105 (dk_at dksX4_charts_2 12 rfl rfl)
theorem dX4_charts_60 : decode cX4_charts 60 = .ok (.iload_n 1, 1) := dk_27 (dk_at dksX4_charts_2 15 rfl rfl)
theorem dX4_charts_61 : decode cX4_charts 61 = .ok (.if_icmp .lt 11, 3) := dk_161 0 11 (dk_at dksX4_charts_2 16 rfl rfl)
theorem dX4_charts_64 : decode cX4_charts 64 = .ok (.aload_n 0, 1) := dk_42 (dk_at dksX4_charts_2 19 rfl rfl)
theorem dX4_charts_65 : decode cX4_charts 65 = .ok (.getfield 37, 3) := dk_180 0 37 (dk_at dksX4_charts_2 20 rfl rfl)
theorem dX4_charts_68 : decode cX4_charts 68 = .ok (.iload 4, 2) := dk_21 4 (dk_at dksX4_charts_3 0 rfl rfl)
theorem dX4_charts_70 : decode cX4_charts 70 = .ok (.iaload, 1) := dk_46 (dk_at dksX4_charts_3 2 rfl rfl)
theorem dX4_charts_71 : decode cX4_charts 71 = .ok (.istore_n 3, 1) := dk_62 (dk_at dksX4_charts_3 3 rfl rfl)
theorem dX4_charts_72 : decode cX4_charts 72 = .ok (.iinc 4 1, 3) := dk_132 4 1 (dk_at dksX4_charts_3 4 rfl rfl)
theorem dX4_charts_75 : decode cX4_charts 75 = .ok (.goto (-64), 3) := dk_167 255 192 (dk_at dksX4_charts_3 7 rfl rfl)
theorem dX4_charts_78 : decode cX4_charts 78 = .ok (.aload_n 0, 1) := dk_42 (dk_at dksX4_charts_3 10 rfl rfl)
theorem dX4_charts_79 : decode cX4_charts 79 = .ok (.aload_n 0, 1) := dk_42 (dk_at dksX4_charts_3 11 rfl rfl)
theorem dX4_charts_80 : decode cX4_charts 80 = .ok (.getfield 52, 3) := dk_180 0 52 (dk_at dksX4_charts_3 12 rfl rfl)
theorem dX4_charts_83 : decode cX4_charts 83 = .ok (.iload_n 2, 1) := dk_28 (dk_at dksX4_charts_3 15 rfl rfl)
theorem dX4_charts_84 : decode cX4_charts 84 = .ok (.iload_n 1, 1) := dk_27 (dk_at dksX4_charts_3 16 rfl rfl)
theorem dX4_charts_85 : decode cX4_charts 85 = .ok (.invokevirtual 203, 3) := dk_182 0 203 (dk_at dksX4_charts_3 17 rfl rfl)
theorem dX4_charts_88 : decode cX4_charts 88 = .ok (.aload_n 0, 1) := dk_42 (dk_at dksX4_charts_3 20 rfl rfl)
theorem dX4_charts_89 : decode cX4_charts 89 = .ok (.aload_n 0, 1) := dk_42 (dk_at dksX4_charts_3 21 rfl rfl)
theorem dX4_charts_90 : decode cX4_charts 90 = .ok (.getfield 55, 3) := dk_180 0 55 (dk_at dksX4_charts_4 0 rfl rfl)
theorem dX4_charts_93 : decode cX4_charts 93 = .ok (.iload_n 3, 1) := dk_29 (dk_at dksX4_charts_4 3 rfl rfl)
theorem dX4_charts_94 : decode cX4_charts 94 = .ok (.iload_n 1, 1) := dk_27 (dk_at dksX4_charts_4 4 rfl rfl)
theorem dX4_charts_95 : decode cX4_charts 95 = .ok (.invokevirtual 203, 3) := dk_182 0 203 (dk_at dksX4_charts_4 5 rfl rfl)
theorem dX4_charts_98 : decode cX4_charts 98 = .ok (.return_, 1) := dk_177 (dk_at dksX4_charts_4 8 rfl rfl)
abbrev cX4_reaches : ByteArray := prog_20_method_58_code
def yX4_reaches : MethodName := ⟨RX4, "reaches", "([III)V"⟩
def dkwX4_reaches_5 : List UInt8 := [177]
abbrev dktX4_reaches_5 : List UInt8 := dkwX4_reaches_5 ++ []
def dkwX4_reaches_4 : List UInt8 := [42, 180, 0, 43, 21, 5, 46, 21, 4, 163, 0, 7, 4, 167, 0, 4, 3, 79, 132, 5, 1, 167, 255, 194]
abbrev dktX4_reaches_4 : List UInt8 := dkwX4_reaches_4 ++ dktX4_reaches_5
def dkwX4_reaches_3 : List UInt8 := [21, 5, 96, 46, 154, 0, 36, 28, 155, 0, 28, 42, 180, 0, 43, 21, 5, 46, 17, 39, 15, 162, 0, 19]
abbrev dktX4_reaches_3 : List UInt8 := dkwX4_reaches_3 ++ dktX4_reaches_4
def dkwX4_reaches_2 : List UInt8 := [182, 0, 126, 3, 54, 5, 21, 5, 17, 0, 192, 162, 0, 60, 43, 21, 5, 42, 180, 0, 7, 16, 12]
abbrev dktX4_reaches_2 : List UInt8 := dkwX4_reaches_2 ++ dktX4_reaches_3
def dkwX4_reaches_1 : List UInt8 := [46, 21, 5, 156, 0, 9, 21, 5, 116, 167, 0, 5, 21, 5, 104, 54, 4, 42, 42, 28, 4, 182, 0, 105]
abbrev dktX4_reaches_1 : List UInt8 := dkwX4_reaches_1 ++ dktX4_reaches_2
def dkwX4_reaches_0 : List UInt8 := [17, 39, 15, 54, 4, 28, 155, 0, 45, 42, 28, 3, 182, 0, 105, 29, 100, 54, 5, 42, 180, 0, 7, 3]
abbrev dktX4_reaches_0 : List UInt8 := dkwX4_reaches_0 ++ dktX4_reaches_1
theorem dksX4_reaches_0 : cX4_reaches.data.toList.drop 0 = dktX4_reaches_0 := by decide +kernel
theorem dksX4_reaches_1 : cX4_reaches.data.toList.drop 24 = dktX4_reaches_1 := dk_seg dksX4_reaches_0 24 rfl rfl
theorem dksX4_reaches_2 : cX4_reaches.data.toList.drop 48 = dktX4_reaches_2 := dk_seg dksX4_reaches_1 24 rfl rfl
theorem dksX4_reaches_3 : cX4_reaches.data.toList.drop 71 = dktX4_reaches_3 := dk_seg dksX4_reaches_2 23 rfl rfl
theorem dksX4_reaches_4 : cX4_reaches.data.toList.drop 95 = dktX4_reaches_4 := dk_seg dksX4_reaches_3 24 rfl rfl
theorem dksX4_reaches_5 : cX4_reaches.data.toList.drop 119 = dktX4_reaches_5 := dk_seg dksX4_reaches_4 24 rfl rfl
theorem dX4_reaches_0 : decode cX4_reaches 0 = .ok (.sipush 9999, 3) := dk_17 39 15 (dk_at dksX4_reaches_0 0 rfl rfl)
theorem dX4_reaches_3 : decode cX4_reaches 3 = .ok (.istore 4, 2) := dk_54 4 (dk_at dksX4_reaches_0 3 rfl rfl)
theorem dX4_reaches_5 : decode cX4_reaches 5 = .ok (.iload_n 2, 1) := dk_28 (dk_at dksX4_reaches_0 5 rfl rfl)
theorem dX4_reaches_6 : decode cX4_reaches 6 = .ok (.ifCond .lt 45, 3) := dk_155 0 45 (dk_at dksX4_reaches_0 6 rfl rfl)
theorem dX4_reaches_9 : decode cX4_reaches 9 = .ok (.aload_n 0, 1) := dk_42 (dk_at dksX4_reaches_0 9 rfl rfl)
theorem dX4_reaches_10 : decode cX4_reaches 10 = .ok (.iload_n 2, 1) := dk_28 (dk_at dksX4_reaches_0 10 rfl rfl)
theorem dX4_reaches_11 : decode cX4_reaches 11 = .ok (.iconst 0, 1) := dk_3 (dk_at dksX4_reaches_0 11 rfl rfl)
theorem dX4_reaches_12 : decode cX4_reaches 12 = .ok (.invokevirtual 105, 3) := dk_182 0 105 (dk_at dksX4_reaches_0 12 rfl rfl)
theorem dX4_reaches_15 : decode cX4_reaches 15 = .ok (.iload_n 3, 1) := dk_29 (dk_at dksX4_reaches_0 15 rfl rfl)
theorem dX4_reaches_16 : decode cX4_reaches 16 = .ok (.isub, 1) := dk_100 (dk_at dksX4_reaches_0 16 rfl rfl)
theorem dX4_reaches_17 : decode cX4_reaches 17 = .ok (.istore 5, 2) := dk_54 5 (dk_at dksX4_reaches_0 17 rfl rfl)
theorem dX4_reaches_19 : decode cX4_reaches 19 = .ok (.aload_n 0, 1) := dk_42 (dk_at dksX4_reaches_0 19 rfl rfl)
theorem dX4_reaches_20 : decode cX4_reaches 20 = .ok (.getfield 7, 3) := dk_180 0 7 (dk_at dksX4_reaches_0 20 rfl rfl)
theorem dX4_reaches_23 : decode cX4_reaches 23 = .ok (.iconst 0, 1) := dk_3 (dk_at dksX4_reaches_0 23 rfl rfl)
theorem dX4_reaches_24 : decode cX4_reaches 24 = .ok (.iaload, 1) := dk_46 (dk_at dksX4_reaches_1 0 rfl rfl)
theorem dX4_reaches_25 : decode cX4_reaches 25 = .ok (.iload 5, 2) := dk_21 5 (dk_at dksX4_reaches_1 1 rfl rfl)
theorem dX4_reaches_27 : decode cX4_reaches 27 = .ok (.ifCond .ge 9, 3) := dk_156 0 9 (dk_at dksX4_reaches_1 3 rfl rfl)
theorem dX4_reaches_30 : decode cX4_reaches 30 = .ok (.iload 5, 2) := dk_21 5 (dk_at dksX4_reaches_1 6 rfl rfl)
theorem dX4_reaches_32 : decode cX4_reaches 32 = .ok (.ineg, 1) := dk_116 (dk_at dksX4_reaches_1 8 rfl rfl)
theorem dX4_reaches_33 : decode cX4_reaches 33 = .ok (.goto 5, 3) := dk_167 0 5 (dk_at dksX4_reaches_1 9 rfl rfl)
theorem dX4_reaches_36 : decode cX4_reaches 36 = .ok (.iload 5, 2) := dk_21 5 (dk_at dksX4_reaches_1 12 rfl rfl)
theorem dX4_reaches_38 : decode cX4_reaches 38 = .ok (.imul, 1) := dk_104 (dk_at dksX4_reaches_1 14 rfl rfl)
theorem dX4_reaches_39 : decode cX4_reaches 39 = .ok (.istore 4, 2) := dk_54 4 (dk_at dksX4_reaches_1 15 rfl rfl)
theorem dX4_reaches_41 : decode cX4_reaches 41 = .ok (.aload_n 0, 1) := dk_42 (dk_at dksX4_reaches_1 17 rfl rfl)
theorem dX4_reaches_42 : decode cX4_reaches 42 = .ok (.aload_n 0, 1) := dk_42 (dk_at dksX4_reaches_1 18 rfl rfl)
theorem dX4_reaches_43 : decode cX4_reaches 43 = .ok (.iload_n 2, 1) := dk_28 (dk_at dksX4_reaches_1 19 rfl rfl)
theorem dX4_reaches_44 : decode cX4_reaches 44 = .ok (.iconst 1, 1) := dk_4 (dk_at dksX4_reaches_1 20 rfl rfl)
theorem dX4_reaches_45 : decode cX4_reaches 45 = .ok (.invokevirtual 105, 3) := dk_182 0 105 (dk_at dksX4_reaches_1 21 rfl rfl)
theorem dX4_reaches_48 : decode cX4_reaches 48 = .ok (.invokevirtual 126, 3) := dk_182 0 126 (dk_at dksX4_reaches_2 0 rfl rfl)
theorem dX4_reaches_51 : decode cX4_reaches 51 = .ok (.iconst 0, 1) := dk_3 (dk_at dksX4_reaches_2 3 rfl rfl)
theorem dX4_reaches_52 : decode cX4_reaches 52 = .ok (.istore 5, 2) := dk_54 5 (dk_at dksX4_reaches_2 4 rfl rfl)
theorem dX4_reaches_54 : decode cX4_reaches 54 = .ok (.iload 5, 2) := dk_21 5 (dk_at dksX4_reaches_2 6 rfl rfl)
theorem dX4_reaches_56 : decode cX4_reaches 56 = .ok (.sipush 192, 3) := dk_17 0 192 (dk_at dksX4_reaches_2 8 rfl rfl)
theorem dX4_reaches_59 : decode cX4_reaches 59 = .ok (.if_icmp .ge 60, 3) := dk_162 0 60 (dk_at dksX4_reaches_2 11 rfl rfl)
theorem dX4_reaches_62 : decode cX4_reaches 62 = .ok (.aload_n 1, 1) := dk_43 (dk_at dksX4_reaches_2 14 rfl rfl)
theorem dX4_reaches_63 : decode cX4_reaches 63 = .ok (.iload 5, 2) := dk_21 5 (dk_at dksX4_reaches_2 15 rfl rfl)
theorem dX4_reaches_65 : decode cX4_reaches 65 = .ok (.aload_n 0, 1) := dk_42 (dk_at dksX4_reaches_2 17 rfl rfl)
theorem dX4_reaches_66 : decode cX4_reaches 66 = .ok (.getfield 7, 3) := dk_180 0 7 (dk_at dksX4_reaches_2 18 rfl rfl)
theorem dX4_reaches_69 : decode cX4_reaches 69 = .ok (.bipush 12, 2) := dk_16 12 (dk_at dksX4_reaches_2 21 rfl rfl)
theorem dX4_reaches_71 : decode cX4_reaches 71 = .ok (.iload 5, 2) := dk_21 5 (dk_at dksX4_reaches_3 0 rfl rfl)
theorem dX4_reaches_73 : decode cX4_reaches 73 = .ok (.iadd, 1) := dk_96 (dk_at dksX4_reaches_3 2 rfl rfl)
theorem dX4_reaches_74 : decode cX4_reaches 74 = .ok (.iaload, 1) := dk_46 (dk_at dksX4_reaches_3 3 rfl rfl)
theorem dX4_reaches_75 : decode cX4_reaches 75 = .ok (.ifCond .ne 36, 3) := dk_154 0 36 (dk_at dksX4_reaches_3 4 rfl rfl)
theorem dX4_reaches_78 : decode cX4_reaches 78 = .ok (.iload_n 2, 1) := dk_28 (dk_at dksX4_reaches_3 7 rfl rfl)
theorem dX4_reaches_79 : decode cX4_reaches 79 = .ok (.ifCond .lt 28, 3) := dk_155 0 28 (dk_at dksX4_reaches_3 8 rfl rfl)
theorem dX4_reaches_82 : decode cX4_reaches 82 = .ok (.aload_n 0, 1) := dk_42 (dk_at dksX4_reaches_3 11 rfl rfl)
theorem dX4_reaches_83 : decode cX4_reaches 83 = .ok (.getfield 43, 3) := dk_180 0 43 (dk_at dksX4_reaches_3 12 rfl rfl)
theorem dX4_reaches_86 : decode cX4_reaches 86 = .ok (.iload 5, 2) := dk_21 5 (dk_at dksX4_reaches_3 15 rfl rfl)
theorem dX4_reaches_88 : decode cX4_reaches 88 = .ok (.iaload, 1) := dk_46 (dk_at dksX4_reaches_3 17 rfl rfl)
theorem dX4_reaches_89 : decode cX4_reaches 89 = .ok (.sipush 9999, 3) := dk_17 39 15 (dk_at dksX4_reaches_3 18 rfl rfl)
theorem dX4_reaches_92 : decode cX4_reaches 92 = .ok (.if_icmp .ge 19, 3) := dk_162 0 19 (dk_at dksX4_reaches_3 21 rfl rfl)
theorem dX4_reaches_95 : decode cX4_reaches 95 = .ok (.aload_n 0, 1) := dk_42 (dk_at dksX4_reaches_4 0 rfl rfl)
theorem dX4_reaches_96 : decode cX4_reaches 96 = .ok (.getfield 43, 3) := dk_180 0 43 (dk_at dksX4_reaches_4 1 rfl rfl)
theorem dX4_reaches_99 : decode cX4_reaches 99 = .ok (.iload 5, 2) := dk_21 5 (dk_at dksX4_reaches_4 4 rfl rfl)
theorem dX4_reaches_101 : decode cX4_reaches 101 = .ok (.iaload, 1) := dk_46 (dk_at dksX4_reaches_4 6 rfl rfl)
theorem dX4_reaches_102 : decode cX4_reaches 102 = .ok (.iload 4, 2) := dk_21 4 (dk_at dksX4_reaches_4 7 rfl rfl)
theorem dX4_reaches_104 : decode cX4_reaches 104 = .ok (.if_icmp .gt 7, 3) := dk_163 0 7 (dk_at dksX4_reaches_4 9 rfl rfl)
theorem dX4_reaches_107 : decode cX4_reaches 107 = .ok (.iconst 1, 1) := dk_4 (dk_at dksX4_reaches_4 12 rfl rfl)
theorem dX4_reaches_108 : decode cX4_reaches 108 = .ok (.goto 4, 3) := dk_167 0 4 (dk_at dksX4_reaches_4 13 rfl rfl)
theorem dX4_reaches_111 : decode cX4_reaches 111 = .ok (.iconst 0, 1) := dk_3 (dk_at dksX4_reaches_4 16 rfl rfl)
theorem dX4_reaches_112 : decode cX4_reaches 112 = .ok (.iastore, 1) := dk_79 (dk_at dksX4_reaches_4 17 rfl rfl)
theorem dX4_reaches_113 : decode cX4_reaches 113 = .ok (.iinc 5 1, 3) := dk_132 5 1 (dk_at dksX4_reaches_4 18 rfl rfl)
theorem dX4_reaches_116 : decode cX4_reaches 116 = .ok (.goto (-62), 3) := dk_167 255 194 (dk_at dksX4_reaches_4 21 rfl rfl)
theorem dX4_reaches_119 : decode cX4_reaches 119 = .ok (.return_, 1) := dk_177 (dk_at dksX4_reaches_5 0 rfl rfl)
abbrev cX4_chart : ByteArray := prog_20_method_60_code
def yX4_chart : MethodName := ⟨RX4, "chart", "(I)I"⟩
def dkwX4_chart_2 : List UInt8 := [132, 3, 1, 167, 255, 230, 28, 172]
abbrev dktX4_chart_2 : List UInt8 := dkwX4_chart_2 ++ []
def dkwX4_chart_1 : List UInt8 := [17, 0, 192, 162, 0, 25, 28, 42, 180, 0, 52, 29, 46, 42, 180, 0, 55, 29, 46, 104, 96, 61]
abbrev dktX4_chart_1 : List UInt8 := dkwX4_chart_1 ++ dktX4_chart_2
def dkwX4_chart_0 : List UInt8 := [27, 3, 17, 3, 231, 184, 0, 87, 154, 0, 6, 16, 254, 172, 42, 27, 182, 0, 207, 3, 61, 3, 62, 29]
abbrev dktX4_chart_0 : List UInt8 := dkwX4_chart_0 ++ dktX4_chart_1
theorem dksX4_chart_0 : cX4_chart.data.toList.drop 0 = dktX4_chart_0 := by decide +kernel
theorem dksX4_chart_1 : cX4_chart.data.toList.drop 24 = dktX4_chart_1 := dk_seg dksX4_chart_0 24 rfl rfl
theorem dksX4_chart_2 : cX4_chart.data.toList.drop 46 = dktX4_chart_2 := dk_seg dksX4_chart_1 22 rfl rfl
theorem dX4_chart_0 : decode cX4_chart 0 = .ok (.iload_n 1, 1) := dk_27 (dk_at dksX4_chart_0 0 rfl rfl)
theorem dX4_chart_1 : decode cX4_chart 1 = .ok (.iconst 0, 1) := dk_3 (dk_at dksX4_chart_0 1 rfl rfl)
theorem dX4_chart_2 : decode cX4_chart 2 = .ok (.sipush 999, 3) := dk_17 3 231 (dk_at dksX4_chart_0 2 rfl rfl)
theorem dX4_chart_5 : decode cX4_chart 5 = .ok (.invokestatic 87, 3) := dk_184 0 87 (dk_at dksX4_chart_0 5 rfl rfl)
theorem dX4_chart_8 : decode cX4_chart 8 = .ok (.ifCond .ne 6, 3) := dk_154 0 6 (dk_at dksX4_chart_0 8 rfl rfl)
theorem dX4_chart_11 : decode cX4_chart 11 = .ok (.bipush (-2), 2) := dk_16 254 (dk_at dksX4_chart_0 11 rfl rfl)
theorem dX4_chart_13 : decode cX4_chart 13 = .ok (.ireturn, 1) := dk_172 (dk_at dksX4_chart_0 13 rfl rfl)
theorem dX4_chart_14 : decode cX4_chart 14 = .ok (.aload_n 0, 1) := dk_42 (dk_at dksX4_chart_0 14 rfl rfl)
theorem dX4_chart_15 : decode cX4_chart 15 = .ok (.iload_n 1, 1) := dk_27 (dk_at dksX4_chart_0 15 rfl rfl)
theorem dX4_chart_16 : decode cX4_chart 16 = .ok (.invokevirtual 207, 3) := dk_182 0 207 (dk_at dksX4_chart_0 16 rfl rfl)
theorem dX4_chart_19 : decode cX4_chart 19 = .ok (.iconst 0, 1) := dk_3 (dk_at dksX4_chart_0 19 rfl rfl)
theorem dX4_chart_20 : decode cX4_chart 20 = .ok (.istore_n 2, 1) := dk_61 (dk_at dksX4_chart_0 20 rfl rfl)
theorem dX4_chart_21 : decode cX4_chart 21 = .ok (.iconst 0, 1) := dk_3 (dk_at dksX4_chart_0 21 rfl rfl)
theorem dX4_chart_22 : decode cX4_chart 22 = .ok (.istore_n 3, 1) := dk_62 (dk_at dksX4_chart_0 22 rfl rfl)
theorem dX4_chart_23 : decode cX4_chart 23 = .ok (.iload_n 3, 1) := dk_29 (dk_at dksX4_chart_0 23 rfl rfl)
theorem dX4_chart_24 : decode cX4_chart 24 = .ok (.sipush 192, 3) := dk_17 0 192 (dk_at dksX4_chart_1 0 rfl rfl)
theorem dX4_chart_27 : decode cX4_chart 27 = .ok (.if_icmp .ge 25, 3) := dk_162 0 25 (dk_at dksX4_chart_1 3 rfl rfl)
theorem dX4_chart_30 : decode cX4_chart 30 = .ok (.iload_n 2, 1) := dk_28 (dk_at dksX4_chart_1 6 rfl rfl)
theorem dX4_chart_31 : decode cX4_chart 31 = .ok (.aload_n 0, 1) := dk_42 (dk_at dksX4_chart_1 7 rfl rfl)
theorem dX4_chart_32 : decode cX4_chart 32 = .ok (.getfield 52, 3) := dk_180 0 52 (dk_at dksX4_chart_1 8 rfl rfl)
theorem dX4_chart_35 : decode cX4_chart 35 = .ok (.iload_n 3, 1) := dk_29 (dk_at dksX4_chart_1 11 rfl rfl)
theorem dX4_chart_36 : decode cX4_chart 36 = .ok (.iaload, 1) := dk_46 (dk_at dksX4_chart_1 12 rfl rfl)
theorem dX4_chart_37 : decode cX4_chart 37 = .ok (.aload_n 0, 1) := dk_42 (dk_at dksX4_chart_1 13 rfl rfl)
theorem dX4_chart_38 : decode cX4_chart 38 = .ok (.getfield 55, 3) := dk_180 0 55 (dk_at dksX4_chart_1 14 rfl rfl)
theorem dX4_chart_41 : decode cX4_chart 41 = .ok (.iload_n 3, 1) := dk_29 (dk_at dksX4_chart_1 17 rfl rfl)
theorem dX4_chart_42 : decode cX4_chart 42 = .ok (.iaload, 1) := dk_46 (dk_at dksX4_chart_1 18 rfl rfl)
theorem dX4_chart_43 : decode cX4_chart 43 = .ok (.imul, 1) := dk_104 (dk_at dksX4_chart_1 19 rfl rfl)
theorem dX4_chart_44 : decode cX4_chart 44 = .ok (.iadd, 1) := dk_96 (dk_at dksX4_chart_1 20 rfl rfl)
theorem dX4_chart_45 : decode cX4_chart 45 = .ok (.istore_n 2, 1) := dk_61 (dk_at dksX4_chart_1 21 rfl rfl)
theorem dX4_chart_46 : decode cX4_chart 46 = .ok (.iinc 3 1, 3) := dk_132 3 1 (dk_at dksX4_chart_2 0 rfl rfl)
theorem dX4_chart_49 : decode cX4_chart 49 = .ok (.goto (-26), 3) := dk_167 255 230 (dk_at dksX4_chart_2 3 rfl rfl)
theorem dX4_chart_52 : decode cX4_chart 52 = .ok (.iload_n 2, 1) := dk_28 (dk_at dksX4_chart_2 6 rfl rfl)
theorem dX4_chart_53 : decode cX4_chart 53 = .ok (.ireturn, 1) := dk_172 (dk_at dksX4_chart_2 7 rfl rfl)
abbrev cX4_append : ByteArray := prog_20_method_61_code
def yX4_append : MethodName := ⟨RX4, "append", "(I)I"⟩
def dkwX4_append_2 : List UInt8 := [180, 0, 210, 172]
abbrev dktX4_append_2 : List UInt8 := dkwX4_append_2 ++ []
def dkwX4_append_1 : List UInt8 := [16, 253, 172, 42, 180, 0, 58, 42, 180, 0, 210, 27, 79, 42, 89, 180, 0, 210, 4, 96, 181, 0, 210, 42]
abbrev dktX4_append_1 : List UInt8 := dkwX4_append_1 ++ dktX4_append_2
def dkwX4_append_0 : List UInt8 := [27, 16, 32, 16, 126, 184, 0, 87, 154, 0, 6, 16, 254, 172, 42, 180, 0, 210, 16, 70, 160, 0, 6]
abbrev dktX4_append_0 : List UInt8 := dkwX4_append_0 ++ dktX4_append_1
theorem dksX4_append_0 : cX4_append.data.toList.drop 0 = dktX4_append_0 := by decide +kernel
theorem dksX4_append_1 : cX4_append.data.toList.drop 23 = dktX4_append_1 := dk_seg dksX4_append_0 23 rfl rfl
theorem dksX4_append_2 : cX4_append.data.toList.drop 47 = dktX4_append_2 := dk_seg dksX4_append_1 24 rfl rfl
theorem dX4_append_0 : decode cX4_append 0 = .ok (.iload_n 1, 1) := dk_27 (dk_at dksX4_append_0 0 rfl rfl)
theorem dX4_append_1 : decode cX4_append 1 = .ok (.bipush 32, 2) := dk_16 32 (dk_at dksX4_append_0 1 rfl rfl)
theorem dX4_append_3 : decode cX4_append 3 = .ok (.bipush 126, 2) := dk_16 126 (dk_at dksX4_append_0 3 rfl rfl)
theorem dX4_append_5 : decode cX4_append 5 = .ok (.invokestatic 87, 3) := dk_184 0 87 (dk_at dksX4_append_0 5 rfl rfl)
theorem dX4_append_8 : decode cX4_append 8 = .ok (.ifCond .ne 6, 3) := dk_154 0 6 (dk_at dksX4_append_0 8 rfl rfl)
theorem dX4_append_11 : decode cX4_append 11 = .ok (.bipush (-2), 2) := dk_16 254 (dk_at dksX4_append_0 11 rfl rfl)
theorem dX4_append_13 : decode cX4_append 13 = .ok (.ireturn, 1) := dk_172 (dk_at dksX4_append_0 13 rfl rfl)
theorem dX4_append_14 : decode cX4_append 14 = .ok (.aload_n 0, 1) := dk_42 (dk_at dksX4_append_0 14 rfl rfl)
theorem dX4_append_15 : decode cX4_append 15 = .ok (.getfield 210, 3) := dk_180 0 210 (dk_at dksX4_append_0 15 rfl rfl)
theorem dX4_append_18 : decode cX4_append 18 = .ok (.bipush 70, 2) := dk_16 70 (dk_at dksX4_append_0 18 rfl rfl)
theorem dX4_append_20 : decode cX4_append 20 = .ok (.if_icmp .ne 6, 3) := dk_160 0 6 (dk_at dksX4_append_0 20 rfl rfl)
theorem dX4_append_23 : decode cX4_append 23 = .ok (.bipush (-3), 2) := dk_16 253 (dk_at dksX4_append_1 0 rfl rfl)
theorem dX4_append_25 : decode cX4_append 25 = .ok (.ireturn, 1) := dk_172 (dk_at dksX4_append_1 2 rfl rfl)
theorem dX4_append_26 : decode cX4_append 26 = .ok (.aload_n 0, 1) := dk_42 (dk_at dksX4_append_1 3 rfl rfl)
theorem dX4_append_27 : decode cX4_append 27 = .ok (.getfield 58, 3) := dk_180 0 58 (dk_at dksX4_append_1 4 rfl rfl)
theorem dX4_append_30 : decode cX4_append 30 = .ok (.aload_n 0, 1) := dk_42 (dk_at dksX4_append_1 7 rfl rfl)
theorem dX4_append_31 : decode cX4_append 31 = .ok (.getfield 210, 3) := dk_180 0 210 (dk_at dksX4_append_1 8 rfl rfl)
theorem dX4_append_34 : decode cX4_append 34 = .ok (.iload_n 1, 1) := dk_27 (dk_at dksX4_append_1 11 rfl rfl)
theorem dX4_append_35 : decode cX4_append 35 = .ok (.iastore, 1) := dk_79 (dk_at dksX4_append_1 12 rfl rfl)
theorem dX4_append_36 : decode cX4_append 36 = .ok (.aload_n 0, 1) := dk_42 (dk_at dksX4_append_1 13 rfl rfl)
theorem dX4_append_37 : decode cX4_append 37 = .ok (.dup, 1) := dk_89 (dk_at dksX4_append_1 14 rfl rfl)
theorem dX4_append_38 : decode cX4_append 38 = .ok (.getfield 210, 3) := dk_180 0 210 (dk_at dksX4_append_1 15 rfl rfl)
theorem dX4_append_41 : decode cX4_append 41 = .ok (.iconst 1, 1) := dk_4 (dk_at dksX4_append_1 18 rfl rfl)
theorem dX4_append_42 : decode cX4_append 42 = .ok (.iadd, 1) := dk_96 (dk_at dksX4_append_1 19 rfl rfl)
theorem dX4_append_43 : decode cX4_append 43 = .ok (.putfield 210, 3) := dk_181 0 210 (dk_at dksX4_append_1 20 rfl rfl)
theorem dX4_append_46 : decode cX4_append 46 = .ok (.aload_n 0, 1) := dk_42 (dk_at dksX4_append_1 23 rfl rfl)
theorem dX4_append_47 : decode cX4_append 47 = .ok (.getfield 210, 3) := dk_180 0 210 (dk_at dksX4_append_2 0 rfl rfl)
theorem dX4_append_50 : decode cX4_append 50 = .ok (.ireturn, 1) := dk_172 (dk_at dksX4_append_2 3 rfl rfl)
abbrev cX4_run : ByteArray := prog_20_method_76_code
def yX4_run : MethodName := ⟨RX4, "run", "()I"⟩
def dkwX4_run_2 : List UInt8 := [181, 0, 210, 42, 27, 182, 0, 122, 172]
abbrev dktX4_run_2 : List UInt8 := dkwX4_run_2 ++ []
def dkwX4_run_1 : List UInt8 := [181, 0, 210, 17, 252, 24, 42, 180, 0, 213, 100, 172, 42, 4, 181, 1, 0, 42, 182, 1, 9, 60, 42, 3]
abbrev dktX4_run_1 : List UInt8 := dkwX4_run_1 ++ dktX4_run_2
def dkwX4_run_0 : List UInt8 := [42, 182, 0, 115, 42, 3, 181, 1, 0, 42, 182, 1, 9, 60, 42, 180, 0, 216, 153, 0, 17, 42, 3]
abbrev dktX4_run_0 : List UInt8 := dkwX4_run_0 ++ dktX4_run_1
theorem dksX4_run_0 : cX4_run.data.toList.drop 0 = dktX4_run_0 := by decide +kernel
theorem dksX4_run_1 : cX4_run.data.toList.drop 23 = dktX4_run_1 := dk_seg dksX4_run_0 23 rfl rfl
theorem dksX4_run_2 : cX4_run.data.toList.drop 47 = dktX4_run_2 := dk_seg dksX4_run_1 24 rfl rfl
theorem dX4_run_0 : decode cX4_run 0 = .ok (.aload_n 0, 1) := dk_42 (dk_at dksX4_run_0 0 rfl rfl)
theorem dX4_run_1 : decode cX4_run 1 = .ok (.invokevirtual 115, 3) := dk_182 0 115 (dk_at dksX4_run_0 1 rfl rfl)
theorem dX4_run_4 : decode cX4_run 4 = .ok (.aload_n 0, 1) := dk_42 (dk_at dksX4_run_0 4 rfl rfl)
theorem dX4_run_5 : decode cX4_run 5 = .ok (.iconst 0, 1) := dk_3 (dk_at dksX4_run_0 5 rfl rfl)
theorem dX4_run_6 : decode cX4_run 6 = .ok (.putfield 256, 3) := dk_181 1 0 (dk_at dksX4_run_0 6 rfl rfl)
theorem dX4_run_9 : decode cX4_run 9 = .ok (.aload_n 0, 1) := dk_42 (dk_at dksX4_run_0 9 rfl rfl)
theorem dX4_run_10 : decode cX4_run 10 = .ok (.invokevirtual 265, 3) := dk_182 1 9 (dk_at dksX4_run_0 10 rfl rfl)
theorem dX4_run_13 : decode cX4_run 13 = .ok (.istore_n 1, 1) := dk_60 (dk_at dksX4_run_0 13 rfl rfl)
theorem dX4_run_14 : decode cX4_run 14 = .ok (.aload_n 0, 1) := dk_42 (dk_at dksX4_run_0 14 rfl rfl)
theorem dX4_run_15 : decode cX4_run 15 = .ok (.getfield 216, 3) := dk_180 0 216 (dk_at dksX4_run_0 15 rfl rfl)
theorem dX4_run_18 : decode cX4_run 18 = .ok (.ifCond .eq 17, 3) := dk_153 0 17 (dk_at dksX4_run_0 18 rfl rfl)
theorem dX4_run_21 : decode cX4_run 21 = .ok (.aload_n 0, 1) := dk_42 (dk_at dksX4_run_0 21 rfl rfl)
theorem dX4_run_22 : decode cX4_run 22 = .ok (.iconst 0, 1) := dk_3 (dk_at dksX4_run_0 22 rfl rfl)
theorem dX4_run_23 : decode cX4_run 23 = .ok (.putfield 210, 3) := dk_181 0 210 (dk_at dksX4_run_1 0 rfl rfl)
theorem dX4_run_26 : decode cX4_run 26 = .ok (.sipush (-1000), 3) := dk_17 252 24 (dk_at dksX4_run_1 3 rfl rfl)
theorem dX4_run_29 : decode cX4_run 29 = .ok (.aload_n 0, 1) := dk_42 (dk_at dksX4_run_1 6 rfl rfl)
theorem dX4_run_30 : decode cX4_run 30 = .ok (.getfield 213, 3) := dk_180 0 213 (dk_at dksX4_run_1 7 rfl rfl)
theorem dX4_run_33 : decode cX4_run 33 = .ok (.isub, 1) := dk_100 (dk_at dksX4_run_1 10 rfl rfl)
theorem dX4_run_34 : decode cX4_run 34 = .ok (.ireturn, 1) := dk_172 (dk_at dksX4_run_1 11 rfl rfl)
theorem dX4_run_35 : decode cX4_run 35 = .ok (.aload_n 0, 1) := dk_42 (dk_at dksX4_run_1 12 rfl rfl)
theorem dX4_run_36 : decode cX4_run 36 = .ok (.iconst 1, 1) := dk_4 (dk_at dksX4_run_1 13 rfl rfl)
theorem dX4_run_37 : decode cX4_run 37 = .ok (.putfield 256, 3) := dk_181 1 0 (dk_at dksX4_run_1 14 rfl rfl)
theorem dX4_run_40 : decode cX4_run 40 = .ok (.aload_n 0, 1) := dk_42 (dk_at dksX4_run_1 17 rfl rfl)
theorem dX4_run_41 : decode cX4_run 41 = .ok (.invokevirtual 265, 3) := dk_182 1 9 (dk_at dksX4_run_1 18 rfl rfl)
theorem dX4_run_44 : decode cX4_run 44 = .ok (.istore_n 1, 1) := dk_60 (dk_at dksX4_run_1 21 rfl rfl)
theorem dX4_run_45 : decode cX4_run 45 = .ok (.aload_n 0, 1) := dk_42 (dk_at dksX4_run_1 22 rfl rfl)
theorem dX4_run_46 : decode cX4_run 46 = .ok (.iconst 0, 1) := dk_3 (dk_at dksX4_run_1 23 rfl rfl)
theorem dX4_run_47 : decode cX4_run 47 = .ok (.putfield 210, 3) := dk_181 0 210 (dk_at dksX4_run_2 0 rfl rfl)
theorem dX4_run_50 : decode cX4_run 50 = .ok (.aload_n 0, 1) := dk_42 (dk_at dksX4_run_2 3 rfl rfl)
theorem dX4_run_51 : decode cX4_run 51 = .ok (.iload_n 1, 1) := dk_27 (dk_at dksX4_run_2 4 rfl rfl)
theorem dX4_run_52 : decode cX4_run 52 = .ok (.invokevirtual 122, 3) := dk_182 0 122 (dk_at dksX4_run_2 5 rfl rfl)
theorem dX4_run_55 : decode cX4_run 55 = .ok (.ireturn, 1) := dk_172 (dk_at dksX4_run_2 8 rfl rfl)
abbrev cX4_orders : ByteArray := prog_20_method_75_code
def yX4_orders : MethodName := ⟨RX4, "orders", "()I"⟩
def dkwX4_orders_3 : List UInt8 := [167, 0, 4, 27, 172]
abbrev dktX4_orders_3 : List UInt8 := dkwX4_orders_3 ++ []
def dkwX4_orders_2 : List UInt8 := [180, 0, 216, 154, 0, 8, 42, 182, 1, 6, 61, 132, 1, 1, 167, 255, 213, 28, 156, 0, 7, 28]
abbrev dktX4_orders_2 : List UInt8 := dkwX4_orders_2 ++ dktX4_orders_3
def dkwX4_orders_1 : List UInt8 := [28, 155, 0, 38, 42, 180, 0, 213, 42, 180, 0, 210, 162, 0, 27, 42, 16, 59, 182, 0, 250, 42]
abbrev dktX4_orders_1 : List UInt8 := dkwX4_orders_1 ++ dktX4_orders_2
def dkwX4_orders_0 : List UInt8 := [42, 3, 181, 0, 213, 42, 3, 181, 0, 216, 4, 60, 42, 182, 1, 6, 61, 42, 180, 0, 216, 154, 0, 42]
abbrev dktX4_orders_0 : List UInt8 := dkwX4_orders_0 ++ dktX4_orders_1
theorem dksX4_orders_0 : cX4_orders.data.toList.drop 0 = dktX4_orders_0 := by decide +kernel
theorem dksX4_orders_1 : cX4_orders.data.toList.drop 24 = dktX4_orders_1 := dk_seg dksX4_orders_0 24 rfl rfl
theorem dksX4_orders_2 : cX4_orders.data.toList.drop 46 = dktX4_orders_2 := dk_seg dksX4_orders_1 22 rfl rfl
theorem dksX4_orders_3 : cX4_orders.data.toList.drop 68 = dktX4_orders_3 := dk_seg dksX4_orders_2 22 rfl rfl
theorem dX4_orders_0 : decode cX4_orders 0 = .ok (.aload_n 0, 1) := dk_42 (dk_at dksX4_orders_0 0 rfl rfl)
theorem dX4_orders_1 : decode cX4_orders 1 = .ok (.iconst 0, 1) := dk_3 (dk_at dksX4_orders_0 1 rfl rfl)
theorem dX4_orders_2 : decode cX4_orders 2 = .ok (.putfield 213, 3) := dk_181 0 213 (dk_at dksX4_orders_0 2 rfl rfl)
theorem dX4_orders_5 : decode cX4_orders 5 = .ok (.aload_n 0, 1) := dk_42 (dk_at dksX4_orders_0 5 rfl rfl)
theorem dX4_orders_6 : decode cX4_orders 6 = .ok (.iconst 0, 1) := dk_3 (dk_at dksX4_orders_0 6 rfl rfl)
theorem dX4_orders_7 : decode cX4_orders 7 = .ok (.putfield 216, 3) := dk_181 0 216 (dk_at dksX4_orders_0 7 rfl rfl)
theorem dX4_orders_10 : decode cX4_orders 10 = .ok (.iconst 1, 1) := dk_4 (dk_at dksX4_orders_0 10 rfl rfl)
theorem dX4_orders_11 : decode cX4_orders 11 = .ok (.istore_n 1, 1) := dk_60 (dk_at dksX4_orders_0 11 rfl rfl)
theorem dX4_orders_12 : decode cX4_orders 12 = .ok (.aload_n 0, 1) := dk_42 (dk_at dksX4_orders_0 12 rfl rfl)
theorem dX4_orders_13 : decode cX4_orders 13 = .ok (.invokevirtual 262, 3) := dk_182 1 6 (dk_at dksX4_orders_0 13 rfl rfl)
theorem dX4_orders_16 : decode cX4_orders 16 = .ok (.istore_n 2, 1) := dk_61 (dk_at dksX4_orders_0 16 rfl rfl)
theorem dX4_orders_17 : decode cX4_orders 17 = .ok (.aload_n 0, 1) := dk_42 (dk_at dksX4_orders_0 17 rfl rfl)
theorem dX4_orders_18 : decode cX4_orders 18 = .ok (.getfield 216, 3) := dk_180 0 216 (dk_at dksX4_orders_0 18 rfl rfl)
theorem dX4_orders_21 : decode cX4_orders 21 = .ok (.ifCond .ne 42, 3) := dk_154 0 42 (dk_at dksX4_orders_0 21 rfl rfl)
theorem dX4_orders_24 : decode cX4_orders 24 = .ok (.iload_n 2, 1) := dk_28 (dk_at dksX4_orders_1 0 rfl rfl)
theorem dX4_orders_25 : decode cX4_orders 25 = .ok (.ifCond .lt 38, 3) := dk_155 0 38 (dk_at dksX4_orders_1 1 rfl rfl)
theorem dX4_orders_28 : decode cX4_orders 28 = .ok (.aload_n 0, 1) := dk_42 (dk_at dksX4_orders_1 4 rfl rfl)
theorem dX4_orders_29 : decode cX4_orders 29 = .ok (.getfield 213, 3) := dk_180 0 213 (dk_at dksX4_orders_1 5 rfl rfl)
theorem dX4_orders_32 : decode cX4_orders 32 = .ok (.aload_n 0, 1) := dk_42 (dk_at dksX4_orders_1 8 rfl rfl)
theorem dX4_orders_33 : decode cX4_orders 33 = .ok (.getfield 210, 3) := dk_180 0 210 (dk_at dksX4_orders_1 9 rfl rfl)
theorem dX4_orders_36 : decode cX4_orders 36 = .ok (.if_icmp .ge 27, 3) := dk_162 0 27 (dk_at dksX4_orders_1 12 rfl rfl)
theorem dX4_orders_39 : decode cX4_orders 39 = .ok (.aload_n 0, 1) := dk_42 (dk_at dksX4_orders_1 15 rfl rfl)
theorem dX4_orders_40 : decode cX4_orders 40 = .ok (.bipush 59, 2) := dk_16 59 (dk_at dksX4_orders_1 16 rfl rfl)
theorem dX4_orders_42 : decode cX4_orders 42 = .ok (.invokevirtual 250, 3) := dk_182 0 250 (dk_at dksX4_orders_1 18 rfl rfl)
theorem dX4_orders_45 : decode cX4_orders 45 = .ok (.aload_n 0, 1) := dk_42 (dk_at dksX4_orders_1 21 rfl rfl)
theorem dX4_orders_46 : decode cX4_orders 46 = .ok (.getfield 216, 3) := dk_180 0 216 (dk_at dksX4_orders_2 0 rfl rfl)
theorem dX4_orders_49 : decode cX4_orders 49 = .ok (.ifCond .ne 8, 3) := dk_154 0 8 (dk_at dksX4_orders_2 3 rfl rfl)
theorem dX4_orders_52 : decode cX4_orders 52 = .ok (.aload_n 0, 1) := dk_42 (dk_at dksX4_orders_2 6 rfl rfl)
theorem dX4_orders_53 : decode cX4_orders 53 = .ok (.invokevirtual 262, 3) := dk_182 1 6 (dk_at dksX4_orders_2 7 rfl rfl)
theorem dX4_orders_56 : decode cX4_orders 56 = .ok (.istore_n 2, 1) := dk_61 (dk_at dksX4_orders_2 10 rfl rfl)
theorem dX4_orders_57 : decode cX4_orders 57 = .ok (.iinc 1 1, 3) := dk_132 1 1 (dk_at dksX4_orders_2 11 rfl rfl)
theorem dX4_orders_60 : decode cX4_orders 60 = .ok (.goto (-43), 3) := dk_167 255 213 (dk_at dksX4_orders_2 14 rfl rfl)
theorem dX4_orders_63 : decode cX4_orders 63 = .ok (.iload_n 2, 1) := dk_28 (dk_at dksX4_orders_2 17 rfl rfl)
theorem dX4_orders_64 : decode cX4_orders 64 = .ok (.ifCond .ge 7, 3) := dk_156 0 7 (dk_at dksX4_orders_2 18 rfl rfl)
theorem dX4_orders_67 : decode cX4_orders 67 = .ok (.iload_n 2, 1) := dk_28 (dk_at dksX4_orders_2 21 rfl rfl)
theorem dX4_orders_68 : decode cX4_orders 68 = .ok (.goto 4, 3) := dk_167 0 4 (dk_at dksX4_orders_3 0 rfl rfl)
theorem dX4_orders_71 : decode cX4_orders 71 = .ok (.iload_n 1, 1) := dk_27 (dk_at dksX4_orders_3 3 rfl rfl)
theorem dX4_orders_72 : decode cX4_orders 72 = .ok (.ireturn, 1) := dk_172 (dk_at dksX4_orders_3 4 rfl rfl)
abbrev cX4_order : ByteArray := prog_20_method_74_code
def yX4_order : MethodName := ⟨RX4, "order", "()I"⟩
def dkwX4_order_4 : List UInt8 := [182, 1, 3, 172]
abbrev dktX4_order_4 : List UInt8 := dkwX4_order_4 ++ []
def dkwX4_order_3 : List UInt8 := [167, 255, 199, 42, 180, 0, 216, 154, 0, 10, 42, 180, 1, 0, 154, 0, 7, 3, 167, 0, 8, 42, 27]
abbrev dktX4_order_3 : List UInt8 := dkwX4_order_3 ++ dktX4_order_4
def dkwX4_order_2 : List UInt8 := [180, 0, 216, 154, 0, 17, 42, 42, 180, 0, 67, 7, 27, 104, 28, 96, 46, 182, 0, 253, 132, 2, 1]
abbrev dktX4_order_2 : List UInt8 := dkwX4_order_2 ++ dktX4_order_3
def dkwX4_order_1 : List UInt8 := [42, 180, 0, 67, 7, 27, 104, 28, 96, 46, 16, 32, 159, 0, 36, 42, 16, 32, 182, 0, 250, 42]
abbrev dktX4_order_1 : List UInt8 := dkwX4_order_1 ++ dktX4_order_2
def dkwX4_order_0 : List UInt8 := [42, 182, 0, 247, 60, 42, 3, 181, 0, 223, 3, 61, 28, 7, 162, 0, 58, 42, 180, 0, 216, 154, 0, 51]
abbrev dktX4_order_0 : List UInt8 := dkwX4_order_0 ++ dktX4_order_1
theorem dksX4_order_0 : cX4_order.data.toList.drop 0 = dktX4_order_0 := by decide +kernel
theorem dksX4_order_1 : cX4_order.data.toList.drop 24 = dktX4_order_1 := dk_seg dksX4_order_0 24 rfl rfl
theorem dksX4_order_2 : cX4_order.data.toList.drop 46 = dktX4_order_2 := dk_seg dksX4_order_1 22 rfl rfl
theorem dksX4_order_3 : cX4_order.data.toList.drop 69 = dktX4_order_3 := dk_seg dksX4_order_2 23 rfl rfl
theorem dksX4_order_4 : cX4_order.data.toList.drop 92 = dktX4_order_4 := dk_seg dksX4_order_3 23 rfl rfl
theorem dX4_order_0 : decode cX4_order 0 = .ok (.aload_n 0, 1) := dk_42 (dk_at dksX4_order_0 0 rfl rfl)
theorem dX4_order_1 : decode cX4_order 1 = .ok (.invokevirtual 247, 3) := dk_182 0 247 (dk_at dksX4_order_0 1 rfl rfl)
theorem dX4_order_4 : decode cX4_order 4 = .ok (.istore_n 1, 1) := dk_60 (dk_at dksX4_order_0 4 rfl rfl)
theorem dX4_order_5 : decode cX4_order 5 = .ok (.aload_n 0, 1) := dk_42 (dk_at dksX4_order_0 5 rfl rfl)
theorem dX4_order_6 : decode cX4_order 6 = .ok (.iconst 0, 1) := dk_3 (dk_at dksX4_order_0 6 rfl rfl)
theorem dX4_order_7 : decode cX4_order 7 = .ok (.putfield 223, 3) := dk_181 0 223 (dk_at dksX4_order_0 7 rfl rfl)
theorem dX4_order_10 : decode cX4_order 10 = .ok (.iconst 0, 1) := dk_3 (dk_at dksX4_order_0 10 rfl rfl)
theorem dX4_order_11 : decode cX4_order 11 = .ok (.istore_n 2, 1) := dk_61 (dk_at dksX4_order_0 11 rfl rfl)
theorem dX4_order_12 : decode cX4_order 12 = .ok (.iload_n 2, 1) := dk_28 (dk_at dksX4_order_0 12 rfl rfl)
theorem dX4_order_13 : decode cX4_order 13 = .ok (.iconst 4, 1) := dk_7 (dk_at dksX4_order_0 13 rfl rfl)
theorem dX4_order_14 : decode cX4_order 14 = .ok (.if_icmp .ge 58, 3) := dk_162 0 58 (dk_at dksX4_order_0 14 rfl rfl)
theorem dX4_order_17 : decode cX4_order 17 = .ok (.aload_n 0, 1) := dk_42 (dk_at dksX4_order_0 17 rfl rfl)
theorem dX4_order_18 : decode cX4_order 18 = .ok (.getfield 216, 3) := dk_180 0 216 (dk_at dksX4_order_0 18 rfl rfl)
theorem dX4_order_21 : decode cX4_order 21 = .ok (.ifCond .ne 51, 3) := dk_154 0 51 (dk_at dksX4_order_0 21 rfl rfl)
theorem dX4_order_24 : decode cX4_order 24 = .ok (.aload_n 0, 1) := dk_42 (dk_at dksX4_order_1 0 rfl rfl)
theorem dX4_order_25 : decode cX4_order 25 = .ok (.getfield 67, 3) := dk_180 0 67 (dk_at dksX4_order_1 1 rfl rfl)
theorem dX4_order_28 : decode cX4_order 28 = .ok (.iconst 4, 1) := dk_7 (dk_at dksX4_order_1 4 rfl rfl)
theorem dX4_order_29 : decode cX4_order 29 = .ok (.iload_n 1, 1) := dk_27 (dk_at dksX4_order_1 5 rfl rfl)
theorem dX4_order_30 : decode cX4_order 30 = .ok (.imul, 1) := dk_104 (dk_at dksX4_order_1 6 rfl rfl)
theorem dX4_order_31 : decode cX4_order 31 = .ok (.iload_n 2, 1) := dk_28 (dk_at dksX4_order_1 7 rfl rfl)
theorem dX4_order_32 : decode cX4_order 32 = .ok (.iadd, 1) := dk_96 (dk_at dksX4_order_1 8 rfl rfl)
theorem dX4_order_33 : decode cX4_order 33 = .ok (.iaload, 1) := dk_46 (dk_at dksX4_order_1 9 rfl rfl)
theorem dX4_order_34 : decode cX4_order 34 = .ok (.bipush 32, 2) := dk_16 32 (dk_at dksX4_order_1 10 rfl rfl)
theorem dX4_order_36 : decode cX4_order 36 = .ok (.if_icmp .eq 36, 3) := dk_159 0 36 (dk_at dksX4_order_1 12 rfl rfl)
theorem dX4_order_39 : decode cX4_order 39 = .ok (.aload_n 0, 1) := dk_42 (dk_at dksX4_order_1 15 rfl rfl)
theorem dX4_order_40 : decode cX4_order 40 = .ok (.bipush 32, 2) := dk_16 32 (dk_at dksX4_order_1 16 rfl rfl)
theorem dX4_order_42 : decode cX4_order 42 = .ok (.invokevirtual 250, 3) := dk_182 0 250 (dk_at dksX4_order_1 18 rfl rfl)
theorem dX4_order_45 : decode cX4_order 45 = .ok (.aload_n 0, 1) := dk_42 (dk_at dksX4_order_1 21 rfl rfl)
theorem dX4_order_46 : decode cX4_order 46 = .ok (.getfield 216, 3) := dk_180 0 216 (dk_at dksX4_order_2 0 rfl rfl)
theorem dX4_order_49 : decode cX4_order 49 = .ok (.ifCond .ne 17, 3) := dk_154 0 17 (dk_at dksX4_order_2 3 rfl rfl)
theorem dX4_order_52 : decode cX4_order 52 = .ok (.aload_n 0, 1) := dk_42 (dk_at dksX4_order_2 6 rfl rfl)
theorem dX4_order_53 : decode cX4_order 53 = .ok (.aload_n 0, 1) := dk_42 (dk_at dksX4_order_2 7 rfl rfl)
theorem dX4_order_54 : decode cX4_order 54 = .ok (.getfield 67, 3) := dk_180 0 67 (dk_at dksX4_order_2 8 rfl rfl)
theorem dX4_order_57 : decode cX4_order 57 = .ok (.iconst 4, 1) := dk_7 (dk_at dksX4_order_2 11 rfl rfl)
theorem dX4_order_58 : decode cX4_order 58 = .ok (.iload_n 1, 1) := dk_27 (dk_at dksX4_order_2 12 rfl rfl)
theorem dX4_order_59 : decode cX4_order 59 = .ok (.imul, 1) := dk_104 (dk_at dksX4_order_2 13 rfl rfl)
theorem dX4_order_60 : decode cX4_order 60 = .ok (.iload_n 2, 1) := dk_28 (dk_at dksX4_order_2 14 rfl rfl)
theorem dX4_order_61 : decode cX4_order 61 = .ok (.iadd, 1) := dk_96 (dk_at dksX4_order_2 15 rfl rfl)
theorem dX4_order_62 : decode cX4_order 62 = .ok (.iaload, 1) := dk_46 (dk_at dksX4_order_2 16 rfl rfl)
theorem dX4_order_63 : decode cX4_order 63 = .ok (.invokevirtual 253, 3) := dk_182 0 253 (dk_at dksX4_order_2 17 rfl rfl)
theorem dX4_order_66 : decode cX4_order 66 = .ok (.iinc 2 1, 3) := dk_132 2 1 (dk_at dksX4_order_2 20 rfl rfl)
theorem dX4_order_69 : decode cX4_order 69 = .ok (.goto (-57), 3) := dk_167 255 199 (dk_at dksX4_order_3 0 rfl rfl)
theorem dX4_order_72 : decode cX4_order 72 = .ok (.aload_n 0, 1) := dk_42 (dk_at dksX4_order_3 3 rfl rfl)
theorem dX4_order_73 : decode cX4_order 73 = .ok (.getfield 216, 3) := dk_180 0 216 (dk_at dksX4_order_3 4 rfl rfl)
theorem dX4_order_76 : decode cX4_order 76 = .ok (.ifCond .ne 10, 3) := dk_154 0 10 (dk_at dksX4_order_3 7 rfl rfl)
theorem dX4_order_79 : decode cX4_order 79 = .ok (.aload_n 0, 1) := dk_42 (dk_at dksX4_order_3 10 rfl rfl)
theorem dX4_order_80 : decode cX4_order 80 = .ok (.getfield 256, 3) := dk_180 1 0 (dk_at dksX4_order_3 11 rfl rfl)
theorem dX4_order_83 : decode cX4_order 83 = .ok (.ifCond .ne 7, 3) := dk_154 0 7 (dk_at dksX4_order_3 14 rfl rfl)
theorem dX4_order_86 : decode cX4_order 86 = .ok (.iconst 0, 1) := dk_3 (dk_at dksX4_order_3 17 rfl rfl)
theorem dX4_order_87 : decode cX4_order 87 = .ok (.goto 8, 3) := dk_167 0 8 (dk_at dksX4_order_3 18 rfl rfl)
theorem dX4_order_90 : decode cX4_order 90 = .ok (.aload_n 0, 1) := dk_42 (dk_at dksX4_order_3 21 rfl rfl)
theorem dX4_order_91 : decode cX4_order 91 = .ok (.iload_n 1, 1) := dk_27 (dk_at dksX4_order_3 22 rfl rfl)
theorem dX4_order_92 : decode cX4_order 92 = .ok (.invokevirtual 259, 3) := dk_182 1 3 (dk_at dksX4_order_4 0 rfl rfl)
theorem dX4_order_95 : decode cX4_order 95 = .ok (.ireturn, 1) := dk_172 (dk_at dksX4_order_4 3 rfl rfl)
abbrev cX4_word : ByteArray := prog_20_method_64_code
def yX4_word : MethodName := ⟨RX4, "word", "()I"⟩
def dkwX4_word_6 : List UInt8 := [181, 0, 216, 42, 27, 181, 0, 213, 2, 172]
abbrev dktX4_word_6 : List UInt8 := dkwX4_word_6 ++ []
def dkwX4_word_5 : List UInt8 := [3, 54, 4, 132, 5, 1, 167, 255, 199, 21, 4, 153, 0, 5, 29, 172, 132, 3, 1, 167, 255, 160, 42, 4]
abbrev dktX4_word_5 : List UInt8 := dkwX4_word_5 ++ dktX4_word_6
def dkwX4_word_4 : List UInt8 := [167, 0, 5, 16, 32, 42, 180, 0, 64, 16, 6, 29, 104, 21, 5, 96, 46, 160, 0, 7, 4, 167, 0, 4]
abbrev dktX4_word_4 : List UInt8 := dkwX4_word_4 ++ dktX4_word_5
def dkwX4_word_3 : List UInt8 := [162, 0, 56, 21, 4, 153, 0, 51, 21, 5, 28, 162, 0, 15, 42, 180, 0, 58, 27, 21, 5, 96, 46]
abbrev dktX4_word_3 : List UInt8 := dkwX4_word_3 ++ dktX4_word_4
def dkwX4_word_2 : List UInt8 := [158, 0, 13, 28, 16, 6, 163, 0, 7, 4, 167, 0, 4, 3, 54, 4, 3, 54, 5, 21, 5, 16, 6]
abbrev dktX4_word_2 : List UInt8 := dkwX4_word_2 ++ dktX4_word_3
def dkwX4_word_1 : List UInt8 := [4, 96, 181, 0, 213, 167, 255, 232, 42, 180, 0, 213, 27, 100, 61, 3, 62, 29, 16, 8, 162, 0, 96, 28]
abbrev dktX4_word_1 : List UInt8 := dkwX4_word_1 ++ dktX4_word_2
def dkwX4_word_0 : List UInt8 := [42, 180, 0, 213, 60, 42, 182, 0, 220, 16, 97, 16, 122, 184, 0, 87, 153, 0, 16, 42, 89, 180, 0, 213]
abbrev dktX4_word_0 : List UInt8 := dkwX4_word_0 ++ dktX4_word_1
theorem dksX4_word_0 : cX4_word.data.toList.drop 0 = dktX4_word_0 := by decide +kernel
theorem dksX4_word_1 : cX4_word.data.toList.drop 24 = dktX4_word_1 := dk_seg dksX4_word_0 24 rfl rfl
theorem dksX4_word_2 : cX4_word.data.toList.drop 48 = dktX4_word_2 := dk_seg dksX4_word_1 24 rfl rfl
theorem dksX4_word_3 : cX4_word.data.toList.drop 71 = dktX4_word_3 := dk_seg dksX4_word_2 23 rfl rfl
theorem dksX4_word_4 : cX4_word.data.toList.drop 94 = dktX4_word_4 := dk_seg dksX4_word_3 23 rfl rfl
theorem dksX4_word_5 : cX4_word.data.toList.drop 118 = dktX4_word_5 := dk_seg dksX4_word_4 24 rfl rfl
theorem dksX4_word_6 : cX4_word.data.toList.drop 142 = dktX4_word_6 := dk_seg dksX4_word_5 24 rfl rfl
theorem dX4_word_0 : decode cX4_word 0 = .ok (.aload_n 0, 1) := dk_42 (dk_at dksX4_word_0 0 rfl rfl)
theorem dX4_word_1 : decode cX4_word 1 = .ok (.getfield 213, 3) := dk_180 0 213 (dk_at dksX4_word_0 1 rfl rfl)
theorem dX4_word_4 : decode cX4_word 4 = .ok (.istore_n 1, 1) := dk_60 (dk_at dksX4_word_0 4 rfl rfl)
theorem dX4_word_5 : decode cX4_word 5 = .ok (.aload_n 0, 1) := dk_42 (dk_at dksX4_word_0 5 rfl rfl)
theorem dX4_word_6 : decode cX4_word 6 = .ok (.invokevirtual 220, 3) := dk_182 0 220 (dk_at dksX4_word_0 6 rfl rfl)
theorem dX4_word_9 : decode cX4_word 9 = .ok (.bipush 97, 2) := dk_16 97 (dk_at dksX4_word_0 9 rfl rfl)
theorem dX4_word_11 : decode cX4_word 11 = .ok (.bipush 122, 2) := dk_16 122 (dk_at dksX4_word_0 11 rfl rfl)
theorem dX4_word_13 : decode cX4_word 13 = .ok (.invokestatic 87, 3) := dk_184 0 87 (dk_at dksX4_word_0 13 rfl rfl)
theorem dX4_word_16 : decode cX4_word 16 = .ok (.ifCond .eq 16, 3) := dk_153 0 16 (dk_at dksX4_word_0 16 rfl rfl)
theorem dX4_word_19 : decode cX4_word 19 = .ok (.aload_n 0, 1) := dk_42 (dk_at dksX4_word_0 19 rfl rfl)
theorem dX4_word_20 : decode cX4_word 20 = .ok (.dup, 1) := dk_89 (dk_at dksX4_word_0 20 rfl rfl)
theorem dX4_word_21 : decode cX4_word 21 = .ok (.getfield 213, 3) := dk_180 0 213 (dk_at dksX4_word_0 21 rfl rfl)
theorem dX4_word_24 : decode cX4_word 24 = .ok (.iconst 1, 1) := dk_4 (dk_at dksX4_word_1 0 rfl rfl)
theorem dX4_word_25 : decode cX4_word 25 = .ok (.iadd, 1) := dk_96 (dk_at dksX4_word_1 1 rfl rfl)
theorem dX4_word_26 : decode cX4_word 26 = .ok (.putfield 213, 3) := dk_181 0 213 (dk_at dksX4_word_1 2 rfl rfl)
theorem dX4_word_29 : decode cX4_word 29 = .ok (.goto (-24), 3) := dk_167 255 232 (dk_at dksX4_word_1 5 rfl rfl)
theorem dX4_word_32 : decode cX4_word 32 = .ok (.aload_n 0, 1) := dk_42 (dk_at dksX4_word_1 8 rfl rfl)
theorem dX4_word_33 : decode cX4_word 33 = .ok (.getfield 213, 3) := dk_180 0 213 (dk_at dksX4_word_1 9 rfl rfl)
theorem dX4_word_36 : decode cX4_word 36 = .ok (.iload_n 1, 1) := dk_27 (dk_at dksX4_word_1 12 rfl rfl)
theorem dX4_word_37 : decode cX4_word 37 = .ok (.isub, 1) := dk_100 (dk_at dksX4_word_1 13 rfl rfl)
theorem dX4_word_38 : decode cX4_word 38 = .ok (.istore_n 2, 1) := dk_61 (dk_at dksX4_word_1 14 rfl rfl)
theorem dX4_word_39 : decode cX4_word 39 = .ok (.iconst 0, 1) := dk_3 (dk_at dksX4_word_1 15 rfl rfl)
theorem dX4_word_40 : decode cX4_word 40 = .ok (.istore_n 3, 1) := dk_62 (dk_at dksX4_word_1 16 rfl rfl)
theorem dX4_word_41 : decode cX4_word 41 = .ok (.iload_n 3, 1) := dk_29 (dk_at dksX4_word_1 17 rfl rfl)
theorem dX4_word_42 : decode cX4_word 42 = .ok (.bipush 8, 2) := dk_16 8 (dk_at dksX4_word_1 18 rfl rfl)
theorem dX4_word_44 : decode cX4_word 44 = .ok (.if_icmp .ge 96, 3) := dk_162 0 96 (dk_at dksX4_word_1 20 rfl rfl)
theorem dX4_word_47 : decode cX4_word 47 = .ok (.iload_n 2, 1) := dk_28 (dk_at dksX4_word_1 23 rfl rfl)
theorem dX4_word_48 : decode cX4_word 48 = .ok (.ifCond .le 13, 3) := dk_158 0 13 (dk_at dksX4_word_2 0 rfl rfl)
theorem dX4_word_51 : decode cX4_word 51 = .ok (.iload_n 2, 1) := dk_28 (dk_at dksX4_word_2 3 rfl rfl)
theorem dX4_word_52 : decode cX4_word 52 = .ok (.bipush 6, 2) := dk_16 6 (dk_at dksX4_word_2 4 rfl rfl)
theorem dX4_word_54 : decode cX4_word 54 = .ok (.if_icmp .gt 7, 3) := dk_163 0 7 (dk_at dksX4_word_2 6 rfl rfl)
theorem dX4_word_57 : decode cX4_word 57 = .ok (.iconst 1, 1) := dk_4 (dk_at dksX4_word_2 9 rfl rfl)
theorem dX4_word_58 : decode cX4_word 58 = .ok (.goto 4, 3) := dk_167 0 4 (dk_at dksX4_word_2 10 rfl rfl)
theorem dX4_word_61 : decode cX4_word 61 = .ok (.iconst 0, 1) := dk_3 (dk_at dksX4_word_2 13 rfl rfl)
theorem dX4_word_62 : decode cX4_word 62 = .ok (.istore 4, 2) := dk_54 4 (dk_at dksX4_word_2 14 rfl rfl)
theorem dX4_word_64 : decode cX4_word 64 = .ok (.iconst 0, 1) := dk_3 (dk_at dksX4_word_2 16 rfl rfl)
theorem dX4_word_65 : decode cX4_word 65 = .ok (.istore 5, 2) := dk_54 5 (dk_at dksX4_word_2 17 rfl rfl)
theorem dX4_word_67 : decode cX4_word 67 = .ok (.iload 5, 2) := dk_21 5 (dk_at dksX4_word_2 19 rfl rfl)
theorem dX4_word_69 : decode cX4_word 69 = .ok (.bipush 6, 2) := dk_16 6 (dk_at dksX4_word_2 21 rfl rfl)
theorem dX4_word_71 : decode cX4_word 71 = .ok (.if_icmp .ge 56, 3) := dk_162 0 56 (dk_at dksX4_word_3 0 rfl rfl)
theorem dX4_word_74 : decode cX4_word 74 = .ok (.iload 4, 2) := dk_21 4 (dk_at dksX4_word_3 3 rfl rfl)
theorem dX4_word_76 : decode cX4_word 76 = .ok (.ifCond .eq 51, 3) := dk_153 0 51 (dk_at dksX4_word_3 5 rfl rfl)
theorem dX4_word_79 : decode cX4_word 79 = .ok (.iload 5, 2) := dk_21 5 (dk_at dksX4_word_3 8 rfl rfl)
theorem dX4_word_81 : decode cX4_word 81 = .ok (.iload_n 2, 1) := dk_28 (dk_at dksX4_word_3 10 rfl rfl)
theorem dX4_word_82 : decode cX4_word 82 = .ok (.if_icmp .ge 15, 3) := dk_162 0 15 (dk_at dksX4_word_3 11 rfl rfl)
theorem dX4_word_85 : decode cX4_word 85 = .ok (.aload_n 0, 1) := dk_42 (dk_at dksX4_word_3 14 rfl rfl)
theorem dX4_word_86 : decode cX4_word 86 = .ok (.getfield 58, 3) := dk_180 0 58 (dk_at dksX4_word_3 15 rfl rfl)
theorem dX4_word_89 : decode cX4_word 89 = .ok (.iload_n 1, 1) := dk_27 (dk_at dksX4_word_3 18 rfl rfl)
theorem dX4_word_90 : decode cX4_word 90 = .ok (.iload 5, 2) := dk_21 5 (dk_at dksX4_word_3 19 rfl rfl)
theorem dX4_word_92 : decode cX4_word 92 = .ok (.iadd, 1) := dk_96 (dk_at dksX4_word_3 21 rfl rfl)
theorem dX4_word_93 : decode cX4_word 93 = .ok (.iaload, 1) := dk_46 (dk_at dksX4_word_3 22 rfl rfl)
theorem dX4_word_94 : decode cX4_word 94 = .ok (.goto 5, 3) := dk_167 0 5 (dk_at dksX4_word_4 0 rfl rfl)
theorem dX4_word_97 : decode cX4_word 97 = .ok (.bipush 32, 2) := dk_16 32 (dk_at dksX4_word_4 3 rfl rfl)
theorem dX4_word_99 : decode cX4_word 99 = .ok (.aload_n 0, 1) := dk_42 (dk_at dksX4_word_4 5 rfl rfl)
theorem dX4_word_100 : decode cX4_word 100 = .ok (.getfield 64, 3) := dk_180 0 64 (dk_at dksX4_word_4 6 rfl rfl)
theorem dX4_word_103 : decode cX4_word 103 = .ok (.bipush 6, 2) := dk_16 6 (dk_at dksX4_word_4 9 rfl rfl)
theorem dX4_word_105 : decode cX4_word 105 = .ok (.iload_n 3, 1) := dk_29 (dk_at dksX4_word_4 11 rfl rfl)
theorem dX4_word_106 : decode cX4_word 106 = .ok (.imul, 1) := dk_104 (dk_at dksX4_word_4 12 rfl rfl)
theorem dX4_word_107 : decode cX4_word 107 = .ok (.iload 5, 2) := dk_21 5 (dk_at dksX4_word_4 13 rfl rfl)
theorem dX4_word_109 : decode cX4_word 109 = .ok (.iadd, 1) := dk_96 (dk_at dksX4_word_4 15 rfl rfl)
theorem dX4_word_110 : decode cX4_word 110 = .ok (.iaload, 1) := dk_46 (dk_at dksX4_word_4 16 rfl rfl)
theorem dX4_word_111 : decode cX4_word 111 = .ok (.if_icmp .ne 7, 3) := dk_160 0 7 (dk_at dksX4_word_4 17 rfl rfl)
theorem dX4_word_114 : decode cX4_word 114 = .ok (.iconst 1, 1) := dk_4 (dk_at dksX4_word_4 20 rfl rfl)
theorem dX4_word_115 : decode cX4_word 115 = .ok (.goto 4, 3) := dk_167 0 4 (dk_at dksX4_word_4 21 rfl rfl)
theorem dX4_word_118 : decode cX4_word 118 = .ok (.iconst 0, 1) := dk_3 (dk_at dksX4_word_5 0 rfl rfl)
theorem dX4_word_119 : decode cX4_word 119 = .ok (.istore 4, 2) := dk_54 4 (dk_at dksX4_word_5 1 rfl rfl)
theorem dX4_word_121 : decode cX4_word 121 = .ok (.iinc 5 1, 3) := dk_132 5 1 (dk_at dksX4_word_5 3 rfl rfl)
theorem dX4_word_124 : decode cX4_word 124 = .ok (.goto (-57), 3) := dk_167 255 199 (dk_at dksX4_word_5 6 rfl rfl)
theorem dX4_word_127 : decode cX4_word 127 = .ok (.iload 4, 2) := dk_21 4 (dk_at dksX4_word_5 9 rfl rfl)
theorem dX4_word_129 : decode cX4_word 129 = .ok (.ifCond .eq 5, 3) := dk_153 0 5 (dk_at dksX4_word_5 11 rfl rfl)
theorem dX4_word_132 : decode cX4_word 132 = .ok (.iload_n 3, 1) := dk_29 (dk_at dksX4_word_5 14 rfl rfl)
theorem dX4_word_133 : decode cX4_word 133 = .ok (.ireturn, 1) := dk_172 (dk_at dksX4_word_5 15 rfl rfl)
theorem dX4_word_134 : decode cX4_word 134 = .ok (.iinc 3 1, 3) := dk_132 3 1 (dk_at dksX4_word_5 16 rfl rfl)
theorem dX4_word_137 : decode cX4_word 137 = .ok (.goto (-96), 3) := dk_167 255 160 (dk_at dksX4_word_5 19 rfl rfl)
theorem dX4_word_140 : decode cX4_word 140 = .ok (.aload_n 0, 1) := dk_42 (dk_at dksX4_word_5 22 rfl rfl)
theorem dX4_word_141 : decode cX4_word 141 = .ok (.iconst 1, 1) := dk_4 (dk_at dksX4_word_5 23 rfl rfl)
theorem dX4_word_142 : decode cX4_word 142 = .ok (.putfield 216, 3) := dk_181 0 216 (dk_at dksX4_word_6 0 rfl rfl)
theorem dX4_word_145 : decode cX4_word 145 = .ok (.aload_n 0, 1) := dk_42 (dk_at dksX4_word_6 3 rfl rfl)
theorem dX4_word_146 : decode cX4_word 146 = .ok (.iload_n 1, 1) := dk_27 (dk_at dksX4_word_6 4 rfl rfl)
theorem dX4_word_147 : decode cX4_word 147 = .ok (.putfield 213, 3) := dk_181 0 213 (dk_at dksX4_word_6 5 rfl rfl)
theorem dX4_word_150 : decode cX4_word 150 = .ok (.iconst (-1), 1) := dk_2 (dk_at dksX4_word_6 8 rfl rfl)
theorem dX4_word_151 : decode cX4_word 151 = .ok (.ireturn, 1) := dk_172 (dk_at dksX4_word_6 9 rfl rfl)
abbrev cX4_sign : ByteArray := prog_20_method_62_code
def yX4_sign : MethodName := ⟨RX4, "sign", "()I"⟩
def dkwX4_sign_1 : List UInt8 := [172]
abbrev dktX4_sign_1 : List UInt8 := dkwX4_sign_1 ++ []
def dkwX4_sign_0 : List UInt8 := [42, 180, 0, 213, 42, 180, 0, 210, 162, 0, 15, 42, 180, 0, 58, 42, 180, 0, 213, 46, 167, 0, 4, 2]
abbrev dktX4_sign_0 : List UInt8 := dkwX4_sign_0 ++ dktX4_sign_1
theorem dksX4_sign_0 : cX4_sign.data.toList.drop 0 = dktX4_sign_0 := by decide +kernel
theorem dksX4_sign_1 : cX4_sign.data.toList.drop 24 = dktX4_sign_1 := dk_seg dksX4_sign_0 24 rfl rfl
theorem dX4_sign_0 : decode cX4_sign 0 = .ok (.aload_n 0, 1) := dk_42 (dk_at dksX4_sign_0 0 rfl rfl)
theorem dX4_sign_1 : decode cX4_sign 1 = .ok (.getfield 213, 3) := dk_180 0 213 (dk_at dksX4_sign_0 1 rfl rfl)
theorem dX4_sign_4 : decode cX4_sign 4 = .ok (.aload_n 0, 1) := dk_42 (dk_at dksX4_sign_0 4 rfl rfl)
theorem dX4_sign_5 : decode cX4_sign 5 = .ok (.getfield 210, 3) := dk_180 0 210 (dk_at dksX4_sign_0 5 rfl rfl)
theorem dX4_sign_8 : decode cX4_sign 8 = .ok (.if_icmp .ge 15, 3) := dk_162 0 15 (dk_at dksX4_sign_0 8 rfl rfl)
theorem dX4_sign_11 : decode cX4_sign 11 = .ok (.aload_n 0, 1) := dk_42 (dk_at dksX4_sign_0 11 rfl rfl)
theorem dX4_sign_12 : decode cX4_sign 12 = .ok (.getfield 58, 3) := dk_180 0 58 (dk_at dksX4_sign_0 12 rfl rfl)
theorem dX4_sign_15 : decode cX4_sign 15 = .ok (.aload_n 0, 1) := dk_42 (dk_at dksX4_sign_0 15 rfl rfl)
theorem dX4_sign_16 : decode cX4_sign 16 = .ok (.getfield 213, 3) := dk_180 0 213 (dk_at dksX4_sign_0 16 rfl rfl)
theorem dX4_sign_19 : decode cX4_sign 19 = .ok (.iaload, 1) := dk_46 (dk_at dksX4_sign_0 19 rfl rfl)
theorem dX4_sign_20 : decode cX4_sign 20 = .ok (.goto 4, 3) := dk_167 0 4 (dk_at dksX4_sign_0 20 rfl rfl)
theorem dX4_sign_23 : decode cX4_sign 23 = .ok (.iconst (-1), 1) := dk_2 (dk_at dksX4_sign_0 23 rfl rfl)
theorem dX4_sign_24 : decode cX4_sign 24 = .ok (.ireturn, 1) := dk_172 (dk_at dksX4_sign_1 0 rfl rfl)
abbrev cX4_takes : ByteArray := prog_20_method_63_code
def yX4_takes : MethodName := ⟨RX4, "takes", "(I)V"⟩
def dkwX4_takes_2 : List UInt8 := [177]
abbrev dktX4_takes_2 : List UInt8 := dkwX4_takes_2 ++ []
def dkwX4_takes_1 : List UInt8 := [181, 0, 216, 42, 89, 180, 0, 213, 42, 180, 0, 216, 153, 0, 7, 3, 167, 0, 4, 4, 96, 181, 0, 213]
abbrev dktX4_takes_1 : List UInt8 := dkwX4_takes_1 ++ dktX4_takes_2
def dkwX4_takes_0 : List UInt8 := [42, 180, 0, 216, 153, 0, 4, 177, 42, 42, 182, 0, 220, 27, 159, 0, 7, 4, 167, 0, 4, 3]
abbrev dktX4_takes_0 : List UInt8 := dkwX4_takes_0 ++ dktX4_takes_1
theorem dksX4_takes_0 : cX4_takes.data.toList.drop 0 = dktX4_takes_0 := by decide +kernel
theorem dksX4_takes_1 : cX4_takes.data.toList.drop 22 = dktX4_takes_1 := dk_seg dksX4_takes_0 22 rfl rfl
theorem dksX4_takes_2 : cX4_takes.data.toList.drop 46 = dktX4_takes_2 := dk_seg dksX4_takes_1 24 rfl rfl
theorem dX4_takes_0 : decode cX4_takes 0 = .ok (.aload_n 0, 1) := dk_42 (dk_at dksX4_takes_0 0 rfl rfl)
theorem dX4_takes_1 : decode cX4_takes 1 = .ok (.getfield 216, 3) := dk_180 0 216 (dk_at dksX4_takes_0 1 rfl rfl)
theorem dX4_takes_4 : decode cX4_takes 4 = .ok (.ifCond .eq 4, 3) := dk_153 0 4 (dk_at dksX4_takes_0 4 rfl rfl)
theorem dX4_takes_7 : decode cX4_takes 7 = .ok (.return_, 1) := dk_177 (dk_at dksX4_takes_0 7 rfl rfl)
theorem dX4_takes_8 : decode cX4_takes 8 = .ok (.aload_n 0, 1) := dk_42 (dk_at dksX4_takes_0 8 rfl rfl)
theorem dX4_takes_9 : decode cX4_takes 9 = .ok (.aload_n 0, 1) := dk_42 (dk_at dksX4_takes_0 9 rfl rfl)
theorem dX4_takes_10 : decode cX4_takes 10 = .ok (.invokevirtual 220, 3) := dk_182 0 220 (dk_at dksX4_takes_0 10 rfl rfl)
theorem dX4_takes_13 : decode cX4_takes 13 = .ok (.iload_n 1, 1) := dk_27 (dk_at dksX4_takes_0 13 rfl rfl)
theorem dX4_takes_14 : decode cX4_takes 14 = .ok (.if_icmp .eq 7, 3) := dk_159 0 7 (dk_at dksX4_takes_0 14 rfl rfl)
theorem dX4_takes_17 : decode cX4_takes 17 = .ok (.iconst 1, 1) := dk_4 (dk_at dksX4_takes_0 17 rfl rfl)
theorem dX4_takes_18 : decode cX4_takes 18 = .ok (.goto 4, 3) := dk_167 0 4 (dk_at dksX4_takes_0 18 rfl rfl)
theorem dX4_takes_21 : decode cX4_takes 21 = .ok (.iconst 0, 1) := dk_3 (dk_at dksX4_takes_0 21 rfl rfl)
theorem dX4_takes_22 : decode cX4_takes 22 = .ok (.putfield 216, 3) := dk_181 0 216 (dk_at dksX4_takes_1 0 rfl rfl)
theorem dX4_takes_25 : decode cX4_takes 25 = .ok (.aload_n 0, 1) := dk_42 (dk_at dksX4_takes_1 3 rfl rfl)
theorem dX4_takes_26 : decode cX4_takes 26 = .ok (.dup, 1) := dk_89 (dk_at dksX4_takes_1 4 rfl rfl)
theorem dX4_takes_27 : decode cX4_takes 27 = .ok (.getfield 213, 3) := dk_180 0 213 (dk_at dksX4_takes_1 5 rfl rfl)
theorem dX4_takes_30 : decode cX4_takes 30 = .ok (.aload_n 0, 1) := dk_42 (dk_at dksX4_takes_1 8 rfl rfl)
theorem dX4_takes_31 : decode cX4_takes 31 = .ok (.getfield 216, 3) := dk_180 0 216 (dk_at dksX4_takes_1 9 rfl rfl)
theorem dX4_takes_34 : decode cX4_takes 34 = .ok (.ifCond .eq 7, 3) := dk_153 0 7 (dk_at dksX4_takes_1 12 rfl rfl)
theorem dX4_takes_37 : decode cX4_takes 37 = .ok (.iconst 0, 1) := dk_3 (dk_at dksX4_takes_1 15 rfl rfl)
theorem dX4_takes_38 : decode cX4_takes 38 = .ok (.goto 4, 3) := dk_167 0 4 (dk_at dksX4_takes_1 16 rfl rfl)
theorem dX4_takes_41 : decode cX4_takes 41 = .ok (.iconst 1, 1) := dk_4 (dk_at dksX4_takes_1 19 rfl rfl)
theorem dX4_takes_42 : decode cX4_takes 42 = .ok (.iadd, 1) := dk_96 (dk_at dksX4_takes_1 20 rfl rfl)
theorem dX4_takes_43 : decode cX4_takes 43 = .ok (.putfield 213, 3) := dk_181 0 213 (dk_at dksX4_takes_1 21 rfl rfl)
theorem dX4_takes_46 : decode cX4_takes 46 = .ok (.return_, 1) := dk_177 (dk_at dksX4_takes_2 0 rfl rfl)
abbrev cX4_part : ByteArray := prog_20_method_67_code
def yX4_part : MethodName := ⟨RX4, "part", "(I)V"⟩
def dkwX4_part_4 : List UInt8 := [167, 0, 4, 6, 182, 0, 229, 182, 0, 226, 177]
abbrev dktX4_part_4 : List UInt8 := dkwX4_part_4 ++ []
def dkwX4_part_3 : List UInt8 := [154, 0, 32, 42, 42, 27, 16, 100, 160, 0, 7, 4, 167, 0, 14, 27, 16, 99, 160, 0, 7, 5]
abbrev dktX4_part_3 : List UInt8 := dkwX4_part_3 ++ dktX4_part_4
def dkwX4_part_2 : List UInt8 := [89, 180, 0, 213, 42, 180, 0, 216, 153, 0, 7, 3, 167, 0, 4, 4, 96, 181, 0, 213, 42, 180, 0, 216]
abbrev dktX4_part_2 : List UInt8 := dkwX4_part_2 ++ dktX4_part_3
def dkwX4_part_1 : List UInt8 := [154, 0, 7, 4, 167, 0, 4, 3, 128, 181, 0, 216, 42, 42, 182, 0, 220, 16, 97, 100, 182, 0, 226, 42]
abbrev dktX4_part_1 : List UInt8 := dkwX4_part_1 ++ dktX4_part_2
def dkwX4_part_0 : List UInt8 := [27, 16, 99, 160, 0, 63, 42, 89, 180, 0, 216, 42, 182, 0, 220, 16, 97, 16, 112, 184, 0, 87]
abbrev dktX4_part_0 : List UInt8 := dkwX4_part_0 ++ dktX4_part_1
theorem dksX4_part_0 : cX4_part.data.toList.drop 0 = dktX4_part_0 := by decide +kernel
theorem dksX4_part_1 : cX4_part.data.toList.drop 22 = dktX4_part_1 := dk_seg dksX4_part_0 22 rfl rfl
theorem dksX4_part_2 : cX4_part.data.toList.drop 46 = dktX4_part_2 := dk_seg dksX4_part_1 24 rfl rfl
theorem dksX4_part_3 : cX4_part.data.toList.drop 70 = dktX4_part_3 := dk_seg dksX4_part_2 24 rfl rfl
theorem dksX4_part_4 : cX4_part.data.toList.drop 92 = dktX4_part_4 := dk_seg dksX4_part_3 22 rfl rfl
theorem dX4_part_0 : decode cX4_part 0 = .ok (.iload_n 1, 1) := dk_27 (dk_at dksX4_part_0 0 rfl rfl)
theorem dX4_part_1 : decode cX4_part 1 = .ok (.bipush 99, 2) := dk_16 99 (dk_at dksX4_part_0 1 rfl rfl)
theorem dX4_part_3 : decode cX4_part 3 = .ok (.if_icmp .ne 63, 3) := dk_160 0 63 (dk_at dksX4_part_0 3 rfl rfl)
theorem dX4_part_6 : decode cX4_part 6 = .ok (.aload_n 0, 1) := dk_42 (dk_at dksX4_part_0 6 rfl rfl)
theorem dX4_part_7 : decode cX4_part 7 = .ok (.dup, 1) := dk_89 (dk_at dksX4_part_0 7 rfl rfl)
theorem dX4_part_8 : decode cX4_part 8 = .ok (.getfield 216, 3) := dk_180 0 216 (dk_at dksX4_part_0 8 rfl rfl)
theorem dX4_part_11 : decode cX4_part 11 = .ok (.aload_n 0, 1) := dk_42 (dk_at dksX4_part_0 11 rfl rfl)
theorem dX4_part_12 : decode cX4_part 12 = .ok (.invokevirtual 220, 3) := dk_182 0 220 (dk_at dksX4_part_0 12 rfl rfl)
theorem dX4_part_15 : decode cX4_part 15 = .ok (.bipush 97, 2) := dk_16 97 (dk_at dksX4_part_0 15 rfl rfl)
theorem dX4_part_17 : decode cX4_part 17 = .ok (.bipush 112, 2) := dk_16 112 (dk_at dksX4_part_0 17 rfl rfl)
theorem dX4_part_19 : decode cX4_part 19 = .ok (.invokestatic 87, 3) := dk_184 0 87 (dk_at dksX4_part_0 19 rfl rfl)
theorem dX4_part_22 : decode cX4_part 22 = .ok (.ifCond .ne 7, 3) := dk_154 0 7 (dk_at dksX4_part_1 0 rfl rfl)
theorem dX4_part_25 : decode cX4_part 25 = .ok (.iconst 1, 1) := dk_4 (dk_at dksX4_part_1 3 rfl rfl)
theorem dX4_part_26 : decode cX4_part 26 = .ok (.goto 4, 3) := dk_167 0 4 (dk_at dksX4_part_1 4 rfl rfl)
theorem dX4_part_29 : decode cX4_part 29 = .ok (.iconst 0, 1) := dk_3 (dk_at dksX4_part_1 7 rfl rfl)
theorem dX4_part_30 : decode cX4_part 30 = .ok (.ior, 1) := dk_128 (dk_at dksX4_part_1 8 rfl rfl)
theorem dX4_part_31 : decode cX4_part 31 = .ok (.putfield 216, 3) := dk_181 0 216 (dk_at dksX4_part_1 9 rfl rfl)
theorem dX4_part_34 : decode cX4_part 34 = .ok (.aload_n 0, 1) := dk_42 (dk_at dksX4_part_1 12 rfl rfl)
theorem dX4_part_35 : decode cX4_part 35 = .ok (.aload_n 0, 1) := dk_42 (dk_at dksX4_part_1 13 rfl rfl)
theorem dX4_part_36 : decode cX4_part 36 = .ok (.invokevirtual 220, 3) := dk_182 0 220 (dk_at dksX4_part_1 14 rfl rfl)
theorem dX4_part_39 : decode cX4_part 39 = .ok (.bipush 97, 2) := dk_16 97 (dk_at dksX4_part_1 17 rfl rfl)
theorem dX4_part_41 : decode cX4_part 41 = .ok (.isub, 1) := dk_100 (dk_at dksX4_part_1 19 rfl rfl)
theorem dX4_part_42 : decode cX4_part 42 = .ok (.invokevirtual 226, 3) := dk_182 0 226 (dk_at dksX4_part_1 20 rfl rfl)
theorem dX4_part_45 : decode cX4_part 45 = .ok (.aload_n 0, 1) := dk_42 (dk_at dksX4_part_1 23 rfl rfl)
theorem dX4_part_46 : decode cX4_part 46 = .ok (.dup, 1) := dk_89 (dk_at dksX4_part_2 0 rfl rfl)
theorem dX4_part_47 : decode cX4_part 47 = .ok (.getfield 213, 3) := dk_180 0 213 (dk_at dksX4_part_2 1 rfl rfl)
theorem dX4_part_50 : decode cX4_part 50 = .ok (.aload_n 0, 1) := dk_42 (dk_at dksX4_part_2 4 rfl rfl)
theorem dX4_part_51 : decode cX4_part 51 = .ok (.getfield 216, 3) := dk_180 0 216 (dk_at dksX4_part_2 5 rfl rfl)
theorem dX4_part_54 : decode cX4_part 54 = .ok (.ifCond .eq 7, 3) := dk_153 0 7 (dk_at dksX4_part_2 8 rfl rfl)
theorem dX4_part_57 : decode cX4_part 57 = .ok (.iconst 0, 1) := dk_3 (dk_at dksX4_part_2 11 rfl rfl)
theorem dX4_part_58 : decode cX4_part 58 = .ok (.goto 4, 3) := dk_167 0 4 (dk_at dksX4_part_2 12 rfl rfl)
theorem dX4_part_61 : decode cX4_part 61 = .ok (.iconst 1, 1) := dk_4 (dk_at dksX4_part_2 15 rfl rfl)
theorem dX4_part_62 : decode cX4_part 62 = .ok (.iadd, 1) := dk_96 (dk_at dksX4_part_2 16 rfl rfl)
theorem dX4_part_63 : decode cX4_part 63 = .ok (.putfield 213, 3) := dk_181 0 213 (dk_at dksX4_part_2 17 rfl rfl)
theorem dX4_part_66 : decode cX4_part 66 = .ok (.aload_n 0, 1) := dk_42 (dk_at dksX4_part_2 20 rfl rfl)
theorem dX4_part_67 : decode cX4_part 67 = .ok (.getfield 216, 3) := dk_180 0 216 (dk_at dksX4_part_2 21 rfl rfl)
theorem dX4_part_70 : decode cX4_part 70 = .ok (.ifCond .ne 32, 3) := dk_154 0 32 (dk_at dksX4_part_3 0 rfl rfl)
theorem dX4_part_73 : decode cX4_part 73 = .ok (.aload_n 0, 1) := dk_42 (dk_at dksX4_part_3 3 rfl rfl)
theorem dX4_part_74 : decode cX4_part 74 = .ok (.aload_n 0, 1) := dk_42 (dk_at dksX4_part_3 4 rfl rfl)
theorem dX4_part_75 : decode cX4_part 75 = .ok (.iload_n 1, 1) := dk_27 (dk_at dksX4_part_3 5 rfl rfl)
theorem dX4_part_76 : decode cX4_part 76 = .ok (.bipush 100, 2) := dk_16 100 (dk_at dksX4_part_3 6 rfl rfl)
theorem dX4_part_78 : decode cX4_part 78 = .ok (.if_icmp .ne 7, 3) := dk_160 0 7 (dk_at dksX4_part_3 8 rfl rfl)
theorem dX4_part_81 : decode cX4_part 81 = .ok (.iconst 1, 1) := dk_4 (dk_at dksX4_part_3 11 rfl rfl)
theorem dX4_part_82 : decode cX4_part 82 = .ok (.goto 14, 3) := dk_167 0 14 (dk_at dksX4_part_3 12 rfl rfl)
theorem dX4_part_85 : decode cX4_part 85 = .ok (.iload_n 1, 1) := dk_27 (dk_at dksX4_part_3 15 rfl rfl)
theorem dX4_part_86 : decode cX4_part 86 = .ok (.bipush 99, 2) := dk_16 99 (dk_at dksX4_part_3 16 rfl rfl)
theorem dX4_part_88 : decode cX4_part 88 = .ok (.if_icmp .ne 7, 3) := dk_160 0 7 (dk_at dksX4_part_3 18 rfl rfl)
theorem dX4_part_91 : decode cX4_part 91 = .ok (.iconst 2, 1) := dk_5 (dk_at dksX4_part_3 21 rfl rfl)
theorem dX4_part_92 : decode cX4_part 92 = .ok (.goto 4, 3) := dk_167 0 4 (dk_at dksX4_part_4 0 rfl rfl)
theorem dX4_part_95 : decode cX4_part 95 = .ok (.iconst 3, 1) := dk_6 (dk_at dksX4_part_4 3 rfl rfl)
theorem dX4_part_96 : decode cX4_part 96 = .ok (.invokevirtual 229, 3) := dk_182 0 229 (dk_at dksX4_part_4 4 rfl rfl)
theorem dX4_part_99 : decode cX4_part 99 = .ok (.invokevirtual 226, 3) := dk_182 0 226 (dk_at dksX4_part_4 7 rfl rfl)
theorem dX4_part_102 : decode cX4_part 102 = .ok (.return_, 1) := dk_177 (dk_at dksX4_part_4 10 rfl rfl)
abbrev cX4_tells : ByteArray := prog_20_method_66_code
def yX4_tells : MethodName := ⟨RX4, "tells", "(I)V"⟩
def dkwX4_tells_0 : List UInt8 := [42, 180, 0, 61, 42, 180, 0, 223, 27, 79, 42, 89, 180, 0, 223, 4, 96, 181, 0, 223, 177]
abbrev dktX4_tells_0 : List UInt8 := dkwX4_tells_0 ++ []
theorem dksX4_tells_0 : cX4_tells.data.toList.drop 0 = dktX4_tells_0 := by decide +kernel
theorem dX4_tells_0 : decode cX4_tells 0 = .ok (.aload_n 0, 1) := dk_42 (dk_at dksX4_tells_0 0 rfl rfl)
theorem dX4_tells_1 : decode cX4_tells 1 = .ok (.getfield 61, 3) := dk_180 0 61 (dk_at dksX4_tells_0 1 rfl rfl)
theorem dX4_tells_4 : decode cX4_tells 4 = .ok (.aload_n 0, 1) := dk_42 (dk_at dksX4_tells_0 4 rfl rfl)
theorem dX4_tells_5 : decode cX4_tells 5 = .ok (.getfield 223, 3) := dk_180 0 223 (dk_at dksX4_tells_0 5 rfl rfl)
theorem dX4_tells_8 : decode cX4_tells 8 = .ok (.iload_n 1, 1) := dk_27 (dk_at dksX4_tells_0 8 rfl rfl)
theorem dX4_tells_9 : decode cX4_tells 9 = .ok (.iastore, 1) := dk_79 (dk_at dksX4_tells_0 9 rfl rfl)
theorem dX4_tells_10 : decode cX4_tells 10 = .ok (.aload_n 0, 1) := dk_42 (dk_at dksX4_tells_0 10 rfl rfl)
theorem dX4_tells_11 : decode cX4_tells 11 = .ok (.dup, 1) := dk_89 (dk_at dksX4_tells_0 11 rfl rfl)
theorem dX4_tells_12 : decode cX4_tells 12 = .ok (.getfield 223, 3) := dk_180 0 223 (dk_at dksX4_tells_0 12 rfl rfl)
theorem dX4_tells_15 : decode cX4_tells 15 = .ok (.iconst 1, 1) := dk_4 (dk_at dksX4_tells_0 15 rfl rfl)
theorem dX4_tells_16 : decode cX4_tells 16 = .ok (.iadd, 1) := dk_96 (dk_at dksX4_tells_0 16 rfl rfl)
theorem dX4_tells_17 : decode cX4_tells 17 = .ok (.putfield 223, 3) := dk_181 0 223 (dk_at dksX4_tells_0 17 rfl rfl)
theorem dX4_tells_20 : decode cX4_tells 20 = .ok (.return_, 1) := dk_177 (dk_at dksX4_tells_0 20 rfl rfl)
abbrev cX4_digits : ByteArray := prog_20_method_65_code
def yX4_digits : MethodName := ⟨RX4, "digits", "(I)I"⟩
def dkwX4_digits_3 : List UInt8 := [89, 180, 0, 213, 4, 96, 181, 0, 213, 132, 3, 1, 167, 255, 204, 28, 172]
abbrev dktX4_digits_3 : List UInt8 := dkwX4_digits_3 ++ []
def dkwX4_digits_2 : List UInt8 := [16, 48, 16, 57, 184, 0, 87, 153, 0, 32, 16, 10, 28, 104, 42, 182, 0, 220, 96, 16, 48, 100, 61, 42]
abbrev dktX4_digits_2 : List UInt8 := dkwX4_digits_2 ++ dktX4_digits_3
def dkwX4_digits_1 : List UInt8 := [128, 181, 0, 216, 3, 61, 3, 62, 29, 27, 162, 0, 53, 42, 180, 0, 216, 154, 0, 46, 42, 182, 0, 220]
abbrev dktX4_digits_1 : List UInt8 := dkwX4_digits_1 ++ dktX4_digits_2
def dkwX4_digits_0 : List UInt8 := [42, 89, 180, 0, 216, 42, 182, 0, 220, 16, 48, 16, 57, 184, 0, 87, 154, 0, 7, 4, 167, 0, 4, 3]
abbrev dktX4_digits_0 : List UInt8 := dkwX4_digits_0 ++ dktX4_digits_1
theorem dksX4_digits_0 : cX4_digits.data.toList.drop 0 = dktX4_digits_0 := by decide +kernel
theorem dksX4_digits_1 : cX4_digits.data.toList.drop 24 = dktX4_digits_1 := dk_seg dksX4_digits_0 24 rfl rfl
theorem dksX4_digits_2 : cX4_digits.data.toList.drop 48 = dktX4_digits_2 := dk_seg dksX4_digits_1 24 rfl rfl
theorem dksX4_digits_3 : cX4_digits.data.toList.drop 72 = dktX4_digits_3 := dk_seg dksX4_digits_2 24 rfl rfl
theorem dX4_digits_0 : decode cX4_digits 0 = .ok (.aload_n 0, 1) := dk_42 (dk_at dksX4_digits_0 0 rfl rfl)
theorem dX4_digits_1 : decode cX4_digits 1 = .ok (.dup, 1) := dk_89 (dk_at dksX4_digits_0 1 rfl rfl)
theorem dX4_digits_2 : decode cX4_digits 2 = .ok (.getfield 216, 3) := dk_180 0 216 (dk_at dksX4_digits_0 2 rfl rfl)
theorem dX4_digits_5 : decode cX4_digits 5 = .ok (.aload_n 0, 1) := dk_42 (dk_at dksX4_digits_0 5 rfl rfl)
theorem dX4_digits_6 : decode cX4_digits 6 = .ok (.invokevirtual 220, 3) := dk_182 0 220 (dk_at dksX4_digits_0 6 rfl rfl)
theorem dX4_digits_9 : decode cX4_digits 9 = .ok (.bipush 48, 2) := dk_16 48 (dk_at dksX4_digits_0 9 rfl rfl)
theorem dX4_digits_11 : decode cX4_digits 11 = .ok (.bipush 57, 2) := dk_16 57 (dk_at dksX4_digits_0 11 rfl rfl)
theorem dX4_digits_13 : decode cX4_digits 13 = .ok (.invokestatic 87, 3) := dk_184 0 87 (dk_at dksX4_digits_0 13 rfl rfl)
theorem dX4_digits_16 : decode cX4_digits 16 = .ok (.ifCond .ne 7, 3) := dk_154 0 7 (dk_at dksX4_digits_0 16 rfl rfl)
theorem dX4_digits_19 : decode cX4_digits 19 = .ok (.iconst 1, 1) := dk_4 (dk_at dksX4_digits_0 19 rfl rfl)
theorem dX4_digits_20 : decode cX4_digits 20 = .ok (.goto 4, 3) := dk_167 0 4 (dk_at dksX4_digits_0 20 rfl rfl)
theorem dX4_digits_23 : decode cX4_digits 23 = .ok (.iconst 0, 1) := dk_3 (dk_at dksX4_digits_0 23 rfl rfl)
theorem dX4_digits_24 : decode cX4_digits 24 = .ok (.ior, 1) := dk_128 (dk_at dksX4_digits_1 0 rfl rfl)
theorem dX4_digits_25 : decode cX4_digits 25 = .ok (.putfield 216, 3) := dk_181 0 216 (dk_at dksX4_digits_1 1 rfl rfl)
theorem dX4_digits_28 : decode cX4_digits 28 = .ok (.iconst 0, 1) := dk_3 (dk_at dksX4_digits_1 4 rfl rfl)
theorem dX4_digits_29 : decode cX4_digits 29 = .ok (.istore_n 2, 1) := dk_61 (dk_at dksX4_digits_1 5 rfl rfl)
theorem dX4_digits_30 : decode cX4_digits 30 = .ok (.iconst 0, 1) := dk_3 (dk_at dksX4_digits_1 6 rfl rfl)
theorem dX4_digits_31 : decode cX4_digits 31 = .ok (.istore_n 3, 1) := dk_62 (dk_at dksX4_digits_1 7 rfl rfl)
theorem dX4_digits_32 : decode cX4_digits 32 = .ok (.iload_n 3, 1) := dk_29 (dk_at dksX4_digits_1 8 rfl rfl)
theorem dX4_digits_33 : decode cX4_digits 33 = .ok (.iload_n 1, 1) := dk_27 (dk_at dksX4_digits_1 9 rfl rfl)
theorem dX4_digits_34 : decode cX4_digits 34 = .ok (.if_icmp .ge 53, 3) := dk_162 0 53 (dk_at dksX4_digits_1 10 rfl rfl)
theorem dX4_digits_37 : decode cX4_digits 37 = .ok (.aload_n 0, 1) := dk_42 (dk_at dksX4_digits_1 13 rfl rfl)
theorem dX4_digits_38 : decode cX4_digits 38 = .ok (.getfield 216, 3) := dk_180 0 216 (dk_at dksX4_digits_1 14 rfl rfl)
theorem dX4_digits_41 : decode cX4_digits 41 = .ok (.ifCond .ne 46, 3) := dk_154 0 46 (dk_at dksX4_digits_1 17 rfl rfl)
theorem dX4_digits_44 : decode cX4_digits 44 = .ok (.aload_n 0, 1) := dk_42 (dk_at dksX4_digits_1 20 rfl rfl)
theorem dX4_digits_45 : decode cX4_digits 45 = .ok (.invokevirtual 220, 3) := dk_182 0 220 (dk_at dksX4_digits_1 21 rfl rfl)
theorem dX4_digits_48 : decode cX4_digits 48 = .ok (.bipush 48, 2) := dk_16 48 (dk_at dksX4_digits_2 0 rfl rfl)
theorem dX4_digits_50 : decode cX4_digits 50 = .ok (.bipush 57, 2) := dk_16 57 (dk_at dksX4_digits_2 2 rfl rfl)
theorem dX4_digits_52 : decode cX4_digits 52 = .ok (.invokestatic 87, 3) := dk_184 0 87 (dk_at dksX4_digits_2 4 rfl rfl)
theorem dX4_digits_55 : decode cX4_digits 55 = .ok (.ifCond .eq 32, 3) := dk_153 0 32 (dk_at dksX4_digits_2 7 rfl rfl)
theorem dX4_digits_58 : decode cX4_digits 58 = .ok (.bipush 10, 2) := dk_16 10 (dk_at dksX4_digits_2 10 rfl rfl)
theorem dX4_digits_60 : decode cX4_digits 60 = .ok (.iload_n 2, 1) := dk_28 (dk_at dksX4_digits_2 12 rfl rfl)
theorem dX4_digits_61 : decode cX4_digits 61 = .ok (.imul, 1) := dk_104 (dk_at dksX4_digits_2 13 rfl rfl)
theorem dX4_digits_62 : decode cX4_digits 62 = .ok (.aload_n 0, 1) := dk_42 (dk_at dksX4_digits_2 14 rfl rfl)
theorem dX4_digits_63 : decode cX4_digits 63 = .ok (.invokevirtual 220, 3) := dk_182 0 220 (dk_at dksX4_digits_2 15 rfl rfl)
theorem dX4_digits_66 : decode cX4_digits 66 = .ok (.iadd, 1) := dk_96 (dk_at dksX4_digits_2 18 rfl rfl)
theorem dX4_digits_67 : decode cX4_digits 67 = .ok (.bipush 48, 2) := dk_16 48 (dk_at dksX4_digits_2 19 rfl rfl)
theorem dX4_digits_69 : decode cX4_digits 69 = .ok (.isub, 1) := dk_100 (dk_at dksX4_digits_2 21 rfl rfl)
theorem dX4_digits_70 : decode cX4_digits 70 = .ok (.istore_n 2, 1) := dk_61 (dk_at dksX4_digits_2 22 rfl rfl)
theorem dX4_digits_71 : decode cX4_digits 71 = .ok (.aload_n 0, 1) := dk_42 (dk_at dksX4_digits_2 23 rfl rfl)
theorem dX4_digits_72 : decode cX4_digits 72 = .ok (.dup, 1) := dk_89 (dk_at dksX4_digits_3 0 rfl rfl)
theorem dX4_digits_73 : decode cX4_digits 73 = .ok (.getfield 213, 3) := dk_180 0 213 (dk_at dksX4_digits_3 1 rfl rfl)
theorem dX4_digits_76 : decode cX4_digits 76 = .ok (.iconst 1, 1) := dk_4 (dk_at dksX4_digits_3 4 rfl rfl)
theorem dX4_digits_77 : decode cX4_digits 77 = .ok (.iadd, 1) := dk_96 (dk_at dksX4_digits_3 5 rfl rfl)
theorem dX4_digits_78 : decode cX4_digits 78 = .ok (.putfield 213, 3) := dk_181 0 213 (dk_at dksX4_digits_3 6 rfl rfl)
theorem dX4_digits_81 : decode cX4_digits 81 = .ok (.iinc 3 1, 3) := dk_132 3 1 (dk_at dksX4_digits_3 9 rfl rfl)
theorem dX4_digits_84 : decode cX4_digits 84 = .ok (.goto (-52), 3) := dk_167 255 204 (dk_at dksX4_digits_3 12 rfl rfl)
theorem dX4_digits_87 : decode cX4_digits 87 = .ok (.iload_n 2, 1) := dk_28 (dk_at dksX4_digits_3 15 rfl rfl)
theorem dX4_digits_88 : decode cX4_digits 88 = .ok (.ireturn, 1) := dk_172 (dk_at dksX4_digits_3 16 rfl rfl)
abbrev cX4_does : ByteArray := prog_20_method_73_code
def yX4_does : MethodName := ⟨RX4, "does", "(I)I"⟩
def dkwX4_does_4 : List UInt8 := [180, 0, 61, 4, 46, 182, 0, 170, 172, 42, 42, 180, 0, 61, 3, 46, 182, 0, 173, 172]
abbrev dktX4_does_4 : List UInt8 := dkwX4_does_4 ++ []
def dkwX4_does_3 : List UInt8 := [180, 0, 61, 3, 46, 42, 180, 0, 61, 4, 46, 182, 0, 161, 172, 42, 42, 180, 0, 61, 3, 46, 42]
abbrev dktX4_does_3 : List UInt8 := dkwX4_does_3 ++ dktX4_does_4
def dkwX4_does_2 : List UInt8 := [42, 27, 182, 0, 235, 172, 42, 182, 0, 238, 172, 42, 182, 0, 241, 172, 42, 182, 0, 244, 172, 42, 42]
abbrev dktX4_does_2 : List UInt8 := dkwX4_does_2 ++ dktX4_does_3
def dkwX4_does_1 : List UInt8 := [170, 0, 0, 0, 0, 0, 98, 0, 0, 0, 0, 0, 0, 0, 6, 0, 0, 0, 43, 0, 0, 0, 43, 0, 0, 0, 49, 0, 0, 0, 54, 0, 0, 0, 59, 0, 0, 0, 64, 0, 0, 0, 81]
abbrev dktX4_does_1 : List UInt8 := dkwX4_does_1 ++ dktX4_does_2
def dkwX4_does_0 : List UInt8 := [27]
abbrev dktX4_does_0 : List UInt8 := dkwX4_does_0 ++ dktX4_does_1
theorem dksX4_does_0 : cX4_does.data.toList.drop 0 = dktX4_does_0 := by decide +kernel
theorem dksX4_does_1 : cX4_does.data.toList.drop 1 = dktX4_does_1 := dk_seg dksX4_does_0 1 rfl rfl
theorem dksX4_does_2 : cX4_does.data.toList.drop 44 = dktX4_does_2 := dk_seg dksX4_does_1 43 rfl rfl
theorem dksX4_does_3 : cX4_does.data.toList.drop 67 = dktX4_does_3 := dk_seg dksX4_does_2 23 rfl rfl
theorem dksX4_does_4 : cX4_does.data.toList.drop 90 = dktX4_does_4 := dk_seg dksX4_does_3 23 rfl rfl
theorem dX4_does_0 : decode cX4_does 0 = .ok (.iload_n 1, 1) := dk_27 (dk_at dksX4_does_0 0 rfl rfl)
theorem dX4_does_1 : decode cX4_does 1 = .ok (.tableswitch 98 0 6 #[43, 43, 49, 54, 59, 64, 81], 43) := by decide +kernel
theorem dX4_does_44 : decode cX4_does 44 = .ok (.aload_n 0, 1) := dk_42 (dk_at dksX4_does_2 0 rfl rfl)
theorem dX4_does_45 : decode cX4_does 45 = .ok (.iload_n 1, 1) := dk_27 (dk_at dksX4_does_2 1 rfl rfl)
theorem dX4_does_46 : decode cX4_does 46 = .ok (.invokevirtual 235, 3) := dk_182 0 235 (dk_at dksX4_does_2 2 rfl rfl)
theorem dX4_does_49 : decode cX4_does 49 = .ok (.ireturn, 1) := dk_172 (dk_at dksX4_does_2 5 rfl rfl)
theorem dX4_does_50 : decode cX4_does 50 = .ok (.aload_n 0, 1) := dk_42 (dk_at dksX4_does_2 6 rfl rfl)
theorem dX4_does_51 : decode cX4_does 51 = .ok (.invokevirtual 238, 3) := dk_182 0 238 (dk_at dksX4_does_2 7 rfl rfl)
theorem dX4_does_54 : decode cX4_does 54 = .ok (.ireturn, 1) := dk_172 (dk_at dksX4_does_2 10 rfl rfl)
theorem dX4_does_55 : decode cX4_does 55 = .ok (.aload_n 0, 1) := dk_42 (dk_at dksX4_does_2 11 rfl rfl)
theorem dX4_does_56 : decode cX4_does 56 = .ok (.invokevirtual 241, 3) := dk_182 0 241 (dk_at dksX4_does_2 12 rfl rfl)
theorem dX4_does_59 : decode cX4_does 59 = .ok (.ireturn, 1) := dk_172 (dk_at dksX4_does_2 15 rfl rfl)
theorem dX4_does_60 : decode cX4_does 60 = .ok (.aload_n 0, 1) := dk_42 (dk_at dksX4_does_2 16 rfl rfl)
theorem dX4_does_61 : decode cX4_does 61 = .ok (.invokevirtual 244, 3) := dk_182 0 244 (dk_at dksX4_does_2 17 rfl rfl)
theorem dX4_does_64 : decode cX4_does 64 = .ok (.ireturn, 1) := dk_172 (dk_at dksX4_does_2 20 rfl rfl)
theorem dX4_does_65 : decode cX4_does 65 = .ok (.aload_n 0, 1) := dk_42 (dk_at dksX4_does_2 21 rfl rfl)
theorem dX4_does_66 : decode cX4_does 66 = .ok (.aload_n 0, 1) := dk_42 (dk_at dksX4_does_2 22 rfl rfl)
theorem dX4_does_67 : decode cX4_does 67 = .ok (.getfield 61, 3) := dk_180 0 61 (dk_at dksX4_does_3 0 rfl rfl)
theorem dX4_does_70 : decode cX4_does 70 = .ok (.iconst 0, 1) := dk_3 (dk_at dksX4_does_3 3 rfl rfl)
theorem dX4_does_71 : decode cX4_does 71 = .ok (.iaload, 1) := dk_46 (dk_at dksX4_does_3 4 rfl rfl)
theorem dX4_does_72 : decode cX4_does 72 = .ok (.aload_n 0, 1) := dk_42 (dk_at dksX4_does_3 5 rfl rfl)
theorem dX4_does_73 : decode cX4_does 73 = .ok (.getfield 61, 3) := dk_180 0 61 (dk_at dksX4_does_3 6 rfl rfl)
theorem dX4_does_76 : decode cX4_does 76 = .ok (.iconst 1, 1) := dk_4 (dk_at dksX4_does_3 9 rfl rfl)
theorem dX4_does_77 : decode cX4_does 77 = .ok (.iaload, 1) := dk_46 (dk_at dksX4_does_3 10 rfl rfl)
theorem dX4_does_78 : decode cX4_does 78 = .ok (.invokevirtual 161, 3) := dk_182 0 161 (dk_at dksX4_does_3 11 rfl rfl)
theorem dX4_does_81 : decode cX4_does 81 = .ok (.ireturn, 1) := dk_172 (dk_at dksX4_does_3 14 rfl rfl)
theorem dX4_does_82 : decode cX4_does 82 = .ok (.aload_n 0, 1) := dk_42 (dk_at dksX4_does_3 15 rfl rfl)
theorem dX4_does_83 : decode cX4_does 83 = .ok (.aload_n 0, 1) := dk_42 (dk_at dksX4_does_3 16 rfl rfl)
theorem dX4_does_84 : decode cX4_does 84 = .ok (.getfield 61, 3) := dk_180 0 61 (dk_at dksX4_does_3 17 rfl rfl)
theorem dX4_does_87 : decode cX4_does 87 = .ok (.iconst 0, 1) := dk_3 (dk_at dksX4_does_3 20 rfl rfl)
theorem dX4_does_88 : decode cX4_does 88 = .ok (.iaload, 1) := dk_46 (dk_at dksX4_does_3 21 rfl rfl)
theorem dX4_does_89 : decode cX4_does 89 = .ok (.aload_n 0, 1) := dk_42 (dk_at dksX4_does_3 22 rfl rfl)
theorem dX4_does_90 : decode cX4_does 90 = .ok (.getfield 61, 3) := dk_180 0 61 (dk_at dksX4_does_4 0 rfl rfl)
theorem dX4_does_93 : decode cX4_does 93 = .ok (.iconst 1, 1) := dk_4 (dk_at dksX4_does_4 3 rfl rfl)
theorem dX4_does_94 : decode cX4_does 94 = .ok (.iaload, 1) := dk_46 (dk_at dksX4_does_4 4 rfl rfl)
theorem dX4_does_95 : decode cX4_does 95 = .ok (.invokevirtual 170, 3) := dk_182 0 170 (dk_at dksX4_does_4 5 rfl rfl)
theorem dX4_does_98 : decode cX4_does 98 = .ok (.ireturn, 1) := dk_172 (dk_at dksX4_does_4 8 rfl rfl)
theorem dX4_does_99 : decode cX4_does 99 = .ok (.aload_n 0, 1) := dk_42 (dk_at dksX4_does_4 9 rfl rfl)
theorem dX4_does_100 : decode cX4_does 100 = .ok (.aload_n 0, 1) := dk_42 (dk_at dksX4_does_4 10 rfl rfl)
theorem dX4_does_101 : decode cX4_does 101 = .ok (.getfield 61, 3) := dk_180 0 61 (dk_at dksX4_does_4 11 rfl rfl)
theorem dX4_does_104 : decode cX4_does 104 = .ok (.iconst 0, 1) := dk_3 (dk_at dksX4_does_4 14 rfl rfl)
theorem dX4_does_105 : decode cX4_does 105 = .ok (.iaload, 1) := dk_46 (dk_at dksX4_does_4 15 rfl rfl)
theorem dX4_does_106 : decode cX4_does 106 = .ok (.invokevirtual 173, 3) := dk_182 0 173 (dk_at dksX4_does_4 16 rfl rfl)
theorem dX4_does_109 : decode cX4_does 109 = .ok (.ireturn, 1) := dk_172 (dk_at dksX4_does_4 19 rfl rfl)
abbrev cX4_lies : ByteArray := prog_20_method_69_code
def yX4_lies : MethodName := ⟨RX4, "lies", "(I)I"⟩
def dkwX4_lies_1 : List UInt8 := [167, 0, 21, 42, 42, 3, 182, 0, 232, 27, 154, 0, 7, 4, 167, 0, 4, 3, 182, 0, 118, 172]
abbrev dktX4_lies_1 : List UInt8 := dkwX4_lies_1 ++ []
def dkwX4_lies_0 : List UInt8 := [42, 180, 0, 61, 4, 46, 16, 11, 164, 0, 18, 42, 16, 8, 42, 180, 0, 61, 4, 46, 182, 0, 108]
abbrev dktX4_lies_0 : List UInt8 := dkwX4_lies_0 ++ dktX4_lies_1
theorem dksX4_lies_0 : cX4_lies.data.toList.drop 0 = dktX4_lies_0 := by decide +kernel
theorem dksX4_lies_1 : cX4_lies.data.toList.drop 23 = dktX4_lies_1 := dk_seg dksX4_lies_0 23 rfl rfl
theorem dX4_lies_0 : decode cX4_lies 0 = .ok (.aload_n 0, 1) := dk_42 (dk_at dksX4_lies_0 0 rfl rfl)
theorem dX4_lies_1 : decode cX4_lies 1 = .ok (.getfield 61, 3) := dk_180 0 61 (dk_at dksX4_lies_0 1 rfl rfl)
theorem dX4_lies_4 : decode cX4_lies 4 = .ok (.iconst 1, 1) := dk_4 (dk_at dksX4_lies_0 4 rfl rfl)
theorem dX4_lies_5 : decode cX4_lies 5 = .ok (.iaload, 1) := dk_46 (dk_at dksX4_lies_0 5 rfl rfl)
theorem dX4_lies_6 : decode cX4_lies 6 = .ok (.bipush 11, 2) := dk_16 11 (dk_at dksX4_lies_0 6 rfl rfl)
theorem dX4_lies_8 : decode cX4_lies 8 = .ok (.if_icmp .le 18, 3) := dk_164 0 18 (dk_at dksX4_lies_0 8 rfl rfl)
theorem dX4_lies_11 : decode cX4_lies 11 = .ok (.aload_n 0, 1) := dk_42 (dk_at dksX4_lies_0 11 rfl rfl)
theorem dX4_lies_12 : decode cX4_lies 12 = .ok (.bipush 8, 2) := dk_16 8 (dk_at dksX4_lies_0 12 rfl rfl)
theorem dX4_lies_14 : decode cX4_lies 14 = .ok (.aload_n 0, 1) := dk_42 (dk_at dksX4_lies_0 14 rfl rfl)
theorem dX4_lies_15 : decode cX4_lies 15 = .ok (.getfield 61, 3) := dk_180 0 61 (dk_at dksX4_lies_0 15 rfl rfl)
theorem dX4_lies_18 : decode cX4_lies 18 = .ok (.iconst 1, 1) := dk_4 (dk_at dksX4_lies_0 18 rfl rfl)
theorem dX4_lies_19 : decode cX4_lies 19 = .ok (.iaload, 1) := dk_46 (dk_at dksX4_lies_0 19 rfl rfl)
theorem dX4_lies_20 : decode cX4_lies 20 = .ok (.invokevirtual 108, 3) := dk_182 0 108 (dk_at dksX4_lies_0 20 rfl rfl)
theorem dX4_lies_23 : decode cX4_lies 23 = .ok (.goto 21, 3) := dk_167 0 21 (dk_at dksX4_lies_1 0 rfl rfl)
theorem dX4_lies_26 : decode cX4_lies 26 = .ok (.aload_n 0, 1) := dk_42 (dk_at dksX4_lies_1 3 rfl rfl)
theorem dX4_lies_27 : decode cX4_lies 27 = .ok (.aload_n 0, 1) := dk_42 (dk_at dksX4_lies_1 4 rfl rfl)
theorem dX4_lies_28 : decode cX4_lies 28 = .ok (.iconst 0, 1) := dk_3 (dk_at dksX4_lies_1 5 rfl rfl)
theorem dX4_lies_29 : decode cX4_lies 29 = .ok (.invokevirtual 232, 3) := dk_182 0 232 (dk_at dksX4_lies_1 6 rfl rfl)
theorem dX4_lies_32 : decode cX4_lies 32 = .ok (.iload_n 1, 1) := dk_27 (dk_at dksX4_lies_1 9 rfl rfl)
theorem dX4_lies_33 : decode cX4_lies 33 = .ok (.ifCond .ne 7, 3) := dk_154 0 7 (dk_at dksX4_lies_1 10 rfl rfl)
theorem dX4_lies_36 : decode cX4_lies 36 = .ok (.iconst 1, 1) := dk_4 (dk_at dksX4_lies_1 13 rfl rfl)
theorem dX4_lies_37 : decode cX4_lies 37 = .ok (.goto 4, 3) := dk_167 0 4 (dk_at dksX4_lies_1 14 rfl rfl)
theorem dX4_lies_40 : decode cX4_lies 40 = .ok (.iconst 0, 1) := dk_3 (dk_at dksX4_lies_1 17 rfl rfl)
theorem dX4_lies_41 : decode cX4_lies 41 = .ok (.invokevirtual 118, 3) := dk_182 0 118 (dk_at dksX4_lies_1 18 rfl rfl)
theorem dX4_lies_44 : decode cX4_lies 44 = .ok (.ireturn, 1) := dk_172 (dk_at dksX4_lies_1 21 rfl rfl)
abbrev cX4_cellTold : ByteArray := prog_20_method_68_code
def yX4_cellTold : MethodName := ⟨RX4, "cellTold", "(I)I"⟩
def dkwX4_cellTold_0 : List UInt8 := [16, 16, 42, 180, 0, 61, 27, 4, 96, 46, 104, 42, 180, 0, 61, 27, 46, 96, 172]
abbrev dktX4_cellTold_0 : List UInt8 := dkwX4_cellTold_0 ++ []
theorem dksX4_cellTold_0 : cX4_cellTold.data.toList.drop 0 = dktX4_cellTold_0 := by decide +kernel
theorem dX4_cellTold_0 : decode cX4_cellTold 0 = .ok (.bipush 16, 2) := dk_16 16 (dk_at dksX4_cellTold_0 0 rfl rfl)
theorem dX4_cellTold_2 : decode cX4_cellTold 2 = .ok (.aload_n 0, 1) := dk_42 (dk_at dksX4_cellTold_0 2 rfl rfl)
theorem dX4_cellTold_3 : decode cX4_cellTold 3 = .ok (.getfield 61, 3) := dk_180 0 61 (dk_at dksX4_cellTold_0 3 rfl rfl)
theorem dX4_cellTold_6 : decode cX4_cellTold 6 = .ok (.iload_n 1, 1) := dk_27 (dk_at dksX4_cellTold_0 6 rfl rfl)
theorem dX4_cellTold_7 : decode cX4_cellTold 7 = .ok (.iconst 1, 1) := dk_4 (dk_at dksX4_cellTold_0 7 rfl rfl)
theorem dX4_cellTold_8 : decode cX4_cellTold 8 = .ok (.iadd, 1) := dk_96 (dk_at dksX4_cellTold_0 8 rfl rfl)
theorem dX4_cellTold_9 : decode cX4_cellTold 9 = .ok (.iaload, 1) := dk_46 (dk_at dksX4_cellTold_0 9 rfl rfl)
theorem dX4_cellTold_10 : decode cX4_cellTold 10 = .ok (.imul, 1) := dk_104 (dk_at dksX4_cellTold_0 10 rfl rfl)
theorem dX4_cellTold_11 : decode cX4_cellTold 11 = .ok (.aload_n 0, 1) := dk_42 (dk_at dksX4_cellTold_0 11 rfl rfl)
theorem dX4_cellTold_12 : decode cX4_cellTold 12 = .ok (.getfield 61, 3) := dk_180 0 61 (dk_at dksX4_cellTold_0 12 rfl rfl)
theorem dX4_cellTold_15 : decode cX4_cellTold 15 = .ok (.iload_n 1, 1) := dk_27 (dk_at dksX4_cellTold_0 15 rfl rfl)
theorem dX4_cellTold_16 : decode cX4_cellTold 16 = .ok (.iaload, 1) := dk_46 (dk_at dksX4_cellTold_0 16 rfl rfl)
theorem dX4_cellTold_17 : decode cX4_cellTold 17 = .ok (.iadd, 1) := dk_96 (dk_at dksX4_cellTold_0 17 rfl rfl)
theorem dX4_cellTold_18 : decode cX4_cellTold 18 = .ok (.ireturn, 1) := dk_172 (dk_at dksX4_cellTold_0 18 rfl rfl)
abbrev cX4_speeds : ByteArray := prog_20_method_70_code
def yX4_speeds : MethodName := ⟨RX4, "speeds", "()I"⟩
def dkwX4_speeds_1 : List UInt8 := [182, 0, 108, 172, 42, 180, 0, 7, 3, 42, 180, 0, 61, 3, 46, 79, 3, 172]
abbrev dktX4_speeds_1 : List UInt8 := dkwX4_speeds_1 ++ []
def dkwX4_speeds_0 : List UInt8 := [42, 180, 0, 61, 3, 46, 4, 16, 9, 184, 0, 87, 154, 0, 16, 42, 16, 8, 42, 180, 0, 61, 3, 46]
abbrev dktX4_speeds_0 : List UInt8 := dkwX4_speeds_0 ++ dktX4_speeds_1
theorem dksX4_speeds_0 : cX4_speeds.data.toList.drop 0 = dktX4_speeds_0 := by decide +kernel
theorem dksX4_speeds_1 : cX4_speeds.data.toList.drop 24 = dktX4_speeds_1 := dk_seg dksX4_speeds_0 24 rfl rfl
theorem dX4_speeds_0 : decode cX4_speeds 0 = .ok (.aload_n 0, 1) := dk_42 (dk_at dksX4_speeds_0 0 rfl rfl)
theorem dX4_speeds_1 : decode cX4_speeds 1 = .ok (.getfield 61, 3) := dk_180 0 61 (dk_at dksX4_speeds_0 1 rfl rfl)
theorem dX4_speeds_4 : decode cX4_speeds 4 = .ok (.iconst 0, 1) := dk_3 (dk_at dksX4_speeds_0 4 rfl rfl)
theorem dX4_speeds_5 : decode cX4_speeds 5 = .ok (.iaload, 1) := dk_46 (dk_at dksX4_speeds_0 5 rfl rfl)
theorem dX4_speeds_6 : decode cX4_speeds 6 = .ok (.iconst 1, 1) := dk_4 (dk_at dksX4_speeds_0 6 rfl rfl)
theorem dX4_speeds_7 : decode cX4_speeds 7 = .ok (.bipush 9, 2) := dk_16 9 (dk_at dksX4_speeds_0 7 rfl rfl)
theorem dX4_speeds_9 : decode cX4_speeds 9 = .ok (.invokestatic 87, 3) := dk_184 0 87 (dk_at dksX4_speeds_0 9 rfl rfl)
theorem dX4_speeds_12 : decode cX4_speeds 12 = .ok (.ifCond .ne 16, 3) := dk_154 0 16 (dk_at dksX4_speeds_0 12 rfl rfl)
theorem dX4_speeds_15 : decode cX4_speeds 15 = .ok (.aload_n 0, 1) := dk_42 (dk_at dksX4_speeds_0 15 rfl rfl)
theorem dX4_speeds_16 : decode cX4_speeds 16 = .ok (.bipush 8, 2) := dk_16 8 (dk_at dksX4_speeds_0 16 rfl rfl)
theorem dX4_speeds_18 : decode cX4_speeds 18 = .ok (.aload_n 0, 1) := dk_42 (dk_at dksX4_speeds_0 18 rfl rfl)
theorem dX4_speeds_19 : decode cX4_speeds 19 = .ok (.getfield 61, 3) := dk_180 0 61 (dk_at dksX4_speeds_0 19 rfl rfl)
theorem dX4_speeds_22 : decode cX4_speeds 22 = .ok (.iconst 0, 1) := dk_3 (dk_at dksX4_speeds_0 22 rfl rfl)
theorem dX4_speeds_23 : decode cX4_speeds 23 = .ok (.iaload, 1) := dk_46 (dk_at dksX4_speeds_0 23 rfl rfl)
theorem dX4_speeds_24 : decode cX4_speeds 24 = .ok (.invokevirtual 108, 3) := dk_182 0 108 (dk_at dksX4_speeds_1 0 rfl rfl)
theorem dX4_speeds_27 : decode cX4_speeds 27 = .ok (.ireturn, 1) := dk_172 (dk_at dksX4_speeds_1 3 rfl rfl)
theorem dX4_speeds_28 : decode cX4_speeds 28 = .ok (.aload_n 0, 1) := dk_42 (dk_at dksX4_speeds_1 4 rfl rfl)
theorem dX4_speeds_29 : decode cX4_speeds 29 = .ok (.getfield 7, 3) := dk_180 0 7 (dk_at dksX4_speeds_1 5 rfl rfl)
theorem dX4_speeds_32 : decode cX4_speeds 32 = .ok (.iconst 0, 1) := dk_3 (dk_at dksX4_speeds_1 8 rfl rfl)
theorem dX4_speeds_33 : decode cX4_speeds 33 = .ok (.aload_n 0, 1) := dk_42 (dk_at dksX4_speeds_1 9 rfl rfl)
theorem dX4_speeds_34 : decode cX4_speeds 34 = .ok (.getfield 61, 3) := dk_180 0 61 (dk_at dksX4_speeds_1 10 rfl rfl)
theorem dX4_speeds_37 : decode cX4_speeds 37 = .ok (.iconst 0, 1) := dk_3 (dk_at dksX4_speeds_1 13 rfl rfl)
theorem dX4_speeds_38 : decode cX4_speeds 38 = .ok (.iaload, 1) := dk_46 (dk_at dksX4_speeds_1 14 rfl rfl)
theorem dX4_speeds_39 : decode cX4_speeds 39 = .ok (.iastore, 1) := dk_79 (dk_at dksX4_speeds_1 15 rfl rfl)
theorem dX4_speeds_40 : decode cX4_speeds 40 = .ok (.iconst 0, 1) := dk_3 (dk_at dksX4_speeds_1 16 rfl rfl)
theorem dX4_speeds_41 : decode cX4_speeds 41 = .ok (.ireturn, 1) := dk_172 (dk_at dksX4_speeds_1 17 rfl rfl)
abbrev cX4_pagesTold : ByteArray := prog_20_method_71_code
def yX4_pagesTold : MethodName := ⟨RX4, "pagesTold", "()I"⟩
def dkwX4_pagesTold_2 : List UInt8 := [167, 0, 19, 42, 42, 180, 0, 61, 3, 46, 42, 180, 0, 61, 4, 46, 182, 0, 133, 172]
abbrev dktX4_pagesTold_2 : List UInt8 := dkwX4_pagesTold_2 ++ []
def dkwX4_pagesTold_1 : List UInt8 := [180, 0, 61, 4, 46, 16, 99, 164, 0, 18, 42, 16, 8, 42, 180, 0, 61, 4, 46, 182, 0, 108]
abbrev dktX4_pagesTold_1 : List UInt8 := dkwX4_pagesTold_1 ++ dktX4_pagesTold_2
def dkwX4_pagesTold_0 : List UInt8 := [42, 180, 0, 61, 3, 46, 5, 164, 0, 16, 42, 16, 8, 42, 180, 0, 61, 3, 46, 182, 0, 108, 172, 42]
abbrev dktX4_pagesTold_0 : List UInt8 := dkwX4_pagesTold_0 ++ dktX4_pagesTold_1
theorem dksX4_pagesTold_0 : cX4_pagesTold.data.toList.drop 0 = dktX4_pagesTold_0 := by decide +kernel
theorem dksX4_pagesTold_1 : cX4_pagesTold.data.toList.drop 24 = dktX4_pagesTold_1 := dk_seg dksX4_pagesTold_0 24 rfl rfl
theorem dksX4_pagesTold_2 : cX4_pagesTold.data.toList.drop 46 = dktX4_pagesTold_2 := dk_seg dksX4_pagesTold_1 22 rfl rfl
theorem dX4_pagesTold_0 : decode cX4_pagesTold 0 = .ok (.aload_n 0, 1) := dk_42 (dk_at dksX4_pagesTold_0 0 rfl rfl)
theorem dX4_pagesTold_1 : decode cX4_pagesTold 1 = .ok (.getfield 61, 3) := dk_180 0 61 (dk_at dksX4_pagesTold_0 1 rfl rfl)
theorem dX4_pagesTold_4 : decode cX4_pagesTold 4 = .ok (.iconst 0, 1) := dk_3 (dk_at dksX4_pagesTold_0 4 rfl rfl)
theorem dX4_pagesTold_5 : decode cX4_pagesTold 5 = .ok (.iaload, 1) := dk_46 (dk_at dksX4_pagesTold_0 5 rfl rfl)
theorem dX4_pagesTold_6 : decode cX4_pagesTold 6 = .ok (.iconst 2, 1) := dk_5 (dk_at dksX4_pagesTold_0 6 rfl rfl)
theorem dX4_pagesTold_7 : decode cX4_pagesTold 7 = .ok (.if_icmp .le 16, 3) := dk_164 0 16 (dk_at dksX4_pagesTold_0 7 rfl rfl)
theorem dX4_pagesTold_10 : decode cX4_pagesTold 10 = .ok (.aload_n 0, 1) := dk_42 (dk_at dksX4_pagesTold_0 10 rfl rfl)
theorem dX4_pagesTold_11 : decode cX4_pagesTold 11 = .ok (.bipush 8, 2) := dk_16 8 (dk_at dksX4_pagesTold_0 11 rfl rfl)
theorem dX4_pagesTold_13 : decode cX4_pagesTold 13 = .ok (.aload_n 0, 1) := dk_42 (dk_at dksX4_pagesTold_0 13 rfl rfl)
theorem dX4_pagesTold_14 : decode cX4_pagesTold 14 = .ok (.getfield 61, 3) := dk_180 0 61 (dk_at dksX4_pagesTold_0 14 rfl rfl)
theorem dX4_pagesTold_17 : decode cX4_pagesTold 17 = .ok (.iconst 0, 1) := dk_3 (dk_at dksX4_pagesTold_0 17 rfl rfl)
theorem dX4_pagesTold_18 : decode cX4_pagesTold 18 = .ok (.iaload, 1) := dk_46 (dk_at dksX4_pagesTold_0 18 rfl rfl)
theorem dX4_pagesTold_19 : decode cX4_pagesTold 19 = .ok (.invokevirtual 108, 3) := dk_182 0 108 (dk_at dksX4_pagesTold_0 19 rfl rfl)
theorem dX4_pagesTold_22 : decode cX4_pagesTold 22 = .ok (.ireturn, 1) := dk_172 (dk_at dksX4_pagesTold_0 22 rfl rfl)
theorem dX4_pagesTold_23 : decode cX4_pagesTold 23 = .ok (.aload_n 0, 1) := dk_42 (dk_at dksX4_pagesTold_0 23 rfl rfl)
theorem dX4_pagesTold_24 : decode cX4_pagesTold 24 = .ok (.getfield 61, 3) := dk_180 0 61 (dk_at dksX4_pagesTold_1 0 rfl rfl)
theorem dX4_pagesTold_27 : decode cX4_pagesTold 27 = .ok (.iconst 1, 1) := dk_4 (dk_at dksX4_pagesTold_1 3 rfl rfl)
theorem dX4_pagesTold_28 : decode cX4_pagesTold 28 = .ok (.iaload, 1) := dk_46 (dk_at dksX4_pagesTold_1 4 rfl rfl)
theorem dX4_pagesTold_29 : decode cX4_pagesTold 29 = .ok (.bipush 99, 2) := dk_16 99 (dk_at dksX4_pagesTold_1 5 rfl rfl)
theorem dX4_pagesTold_31 : decode cX4_pagesTold 31 = .ok (.if_icmp .le 18, 3) := dk_164 0 18 (dk_at dksX4_pagesTold_1 7 rfl rfl)
theorem dX4_pagesTold_34 : decode cX4_pagesTold 34 = .ok (.aload_n 0, 1) := dk_42 (dk_at dksX4_pagesTold_1 10 rfl rfl)
theorem dX4_pagesTold_35 : decode cX4_pagesTold 35 = .ok (.bipush 8, 2) := dk_16 8 (dk_at dksX4_pagesTold_1 11 rfl rfl)
theorem dX4_pagesTold_37 : decode cX4_pagesTold 37 = .ok (.aload_n 0, 1) := dk_42 (dk_at dksX4_pagesTold_1 13 rfl rfl)
theorem dX4_pagesTold_38 : decode cX4_pagesTold 38 = .ok (.getfield 61, 3) := dk_180 0 61 (dk_at dksX4_pagesTold_1 14 rfl rfl)
theorem dX4_pagesTold_41 : decode cX4_pagesTold 41 = .ok (.iconst 1, 1) := dk_4 (dk_at dksX4_pagesTold_1 17 rfl rfl)
theorem dX4_pagesTold_42 : decode cX4_pagesTold 42 = .ok (.iaload, 1) := dk_46 (dk_at dksX4_pagesTold_1 18 rfl rfl)
theorem dX4_pagesTold_43 : decode cX4_pagesTold 43 = .ok (.invokevirtual 108, 3) := dk_182 0 108 (dk_at dksX4_pagesTold_1 19 rfl rfl)
theorem dX4_pagesTold_46 : decode cX4_pagesTold 46 = .ok (.goto 19, 3) := dk_167 0 19 (dk_at dksX4_pagesTold_2 0 rfl rfl)
theorem dX4_pagesTold_49 : decode cX4_pagesTold 49 = .ok (.aload_n 0, 1) := dk_42 (dk_at dksX4_pagesTold_2 3 rfl rfl)
theorem dX4_pagesTold_50 : decode cX4_pagesTold 50 = .ok (.aload_n 0, 1) := dk_42 (dk_at dksX4_pagesTold_2 4 rfl rfl)
theorem dX4_pagesTold_51 : decode cX4_pagesTold 51 = .ok (.getfield 61, 3) := dk_180 0 61 (dk_at dksX4_pagesTold_2 5 rfl rfl)
theorem dX4_pagesTold_54 : decode cX4_pagesTold 54 = .ok (.iconst 0, 1) := dk_3 (dk_at dksX4_pagesTold_2 8 rfl rfl)
theorem dX4_pagesTold_55 : decode cX4_pagesTold 55 = .ok (.iaload, 1) := dk_46 (dk_at dksX4_pagesTold_2 9 rfl rfl)
theorem dX4_pagesTold_56 : decode cX4_pagesTold 56 = .ok (.aload_n 0, 1) := dk_42 (dk_at dksX4_pagesTold_2 10 rfl rfl)
theorem dX4_pagesTold_57 : decode cX4_pagesTold 57 = .ok (.getfield 61, 3) := dk_180 0 61 (dk_at dksX4_pagesTold_2 11 rfl rfl)
theorem dX4_pagesTold_60 : decode cX4_pagesTold 60 = .ok (.iconst 1, 1) := dk_4 (dk_at dksX4_pagesTold_2 14 rfl rfl)
theorem dX4_pagesTold_61 : decode cX4_pagesTold 61 = .ok (.iaload, 1) := dk_46 (dk_at dksX4_pagesTold_2 15 rfl rfl)
theorem dX4_pagesTold_62 : decode cX4_pagesTold 62 = .ok (.invokevirtual 133, 3) := dk_182 0 133 (dk_at dksX4_pagesTold_2 16 rfl rfl)
theorem dX4_pagesTold_65 : decode cX4_pagesTold 65 = .ok (.ireturn, 1) := dk_172 (dk_at dksX4_pagesTold_2 19 rfl rfl)
abbrev cX4_enters : ByteArray := prog_20_method_72_code
def yX4_enters : MethodName := ⟨RX4, "enters", "()I"⟩
def dkwX4_enters_4 : List UInt8 := [180, 0, 61, 7, 46, 182, 0, 143, 172]
abbrev dktX4_enters_4 : List UInt8 := dkwX4_enters_4 ++ []
def dkwX4_enters_3 : List UInt8 := [167, 0, 30, 42, 42, 180, 0, 61, 3, 46, 42, 180, 0, 61, 4, 46, 42, 5, 182, 0, 232, 42]
abbrev dktX4_enters_3 : List UInt8 := dkwX4_enters_3 ++ dktX4_enters_4
def dkwX4_enters_2 : List UInt8 := [42, 180, 0, 61, 6, 46, 16, 11, 164, 0, 18, 42, 16, 8, 42, 180, 0, 61, 6, 46, 182, 0, 108]
abbrev dktX4_enters_2 : List UInt8 := dkwX4_enters_2 ++ dktX4_enters_3
def dkwX4_enters_1 : List UInt8 := [172, 42, 180, 0, 61, 7, 46, 16, 6, 161, 0, 15, 42, 4, 42, 180, 0, 61, 7, 46, 182, 0, 108, 172]
abbrev dktX4_enters_1 : List UInt8 := dkwX4_enters_1 ++ dktX4_enters_2
def dkwX4_enters_0 : List UInt8 := [42, 42, 180, 0, 61, 3, 46, 182, 0, 140, 154, 0, 15, 42, 4, 42, 180, 0, 61, 3, 46, 182, 0, 108]
abbrev dktX4_enters_0 : List UInt8 := dkwX4_enters_0 ++ dktX4_enters_1
theorem dksX4_enters_0 : cX4_enters.data.toList.drop 0 = dktX4_enters_0 := by decide +kernel
theorem dksX4_enters_1 : cX4_enters.data.toList.drop 24 = dktX4_enters_1 := dk_seg dksX4_enters_0 24 rfl rfl
theorem dksX4_enters_2 : cX4_enters.data.toList.drop 48 = dktX4_enters_2 := dk_seg dksX4_enters_1 24 rfl rfl
theorem dksX4_enters_3 : cX4_enters.data.toList.drop 71 = dktX4_enters_3 := dk_seg dksX4_enters_2 23 rfl rfl
theorem dksX4_enters_4 : cX4_enters.data.toList.drop 93 = dktX4_enters_4 := dk_seg dksX4_enters_3 22 rfl rfl
theorem dX4_enters_0 : decode cX4_enters 0 = .ok (.aload_n 0, 1) := dk_42 (dk_at dksX4_enters_0 0 rfl rfl)
theorem dX4_enters_1 : decode cX4_enters 1 = .ok (.aload_n 0, 1) := dk_42 (dk_at dksX4_enters_0 1 rfl rfl)
theorem dX4_enters_2 : decode cX4_enters 2 = .ok (.getfield 61, 3) := dk_180 0 61 (dk_at dksX4_enters_0 2 rfl rfl)
theorem dX4_enters_5 : decode cX4_enters 5 = .ok (.iconst 0, 1) := dk_3 (dk_at dksX4_enters_0 5 rfl rfl)
theorem dX4_enters_6 : decode cX4_enters 6 = .ok (.iaload, 1) := dk_46 (dk_at dksX4_enters_0 6 rfl rfl)
theorem dX4_enters_7 : decode cX4_enters 7 = .ok (.invokevirtual 140, 3) := dk_182 0 140 (dk_at dksX4_enters_0 7 rfl rfl)
theorem dX4_enters_10 : decode cX4_enters 10 = .ok (.ifCond .ne 15, 3) := dk_154 0 15 (dk_at dksX4_enters_0 10 rfl rfl)
theorem dX4_enters_13 : decode cX4_enters 13 = .ok (.aload_n 0, 1) := dk_42 (dk_at dksX4_enters_0 13 rfl rfl)
theorem dX4_enters_14 : decode cX4_enters 14 = .ok (.iconst 1, 1) := dk_4 (dk_at dksX4_enters_0 14 rfl rfl)
theorem dX4_enters_15 : decode cX4_enters 15 = .ok (.aload_n 0, 1) := dk_42 (dk_at dksX4_enters_0 15 rfl rfl)
theorem dX4_enters_16 : decode cX4_enters 16 = .ok (.getfield 61, 3) := dk_180 0 61 (dk_at dksX4_enters_0 16 rfl rfl)
theorem dX4_enters_19 : decode cX4_enters 19 = .ok (.iconst 0, 1) := dk_3 (dk_at dksX4_enters_0 19 rfl rfl)
theorem dX4_enters_20 : decode cX4_enters 20 = .ok (.iaload, 1) := dk_46 (dk_at dksX4_enters_0 20 rfl rfl)
theorem dX4_enters_21 : decode cX4_enters 21 = .ok (.invokevirtual 108, 3) := dk_182 0 108 (dk_at dksX4_enters_0 21 rfl rfl)
theorem dX4_enters_24 : decode cX4_enters 24 = .ok (.ireturn, 1) := dk_172 (dk_at dksX4_enters_1 0 rfl rfl)
theorem dX4_enters_25 : decode cX4_enters 25 = .ok (.aload_n 0, 1) := dk_42 (dk_at dksX4_enters_1 1 rfl rfl)
theorem dX4_enters_26 : decode cX4_enters 26 = .ok (.getfield 61, 3) := dk_180 0 61 (dk_at dksX4_enters_1 2 rfl rfl)
theorem dX4_enters_29 : decode cX4_enters 29 = .ok (.iconst 4, 1) := dk_7 (dk_at dksX4_enters_1 5 rfl rfl)
theorem dX4_enters_30 : decode cX4_enters 30 = .ok (.iaload, 1) := dk_46 (dk_at dksX4_enters_1 6 rfl rfl)
theorem dX4_enters_31 : decode cX4_enters 31 = .ok (.bipush 6, 2) := dk_16 6 (dk_at dksX4_enters_1 7 rfl rfl)
theorem dX4_enters_33 : decode cX4_enters 33 = .ok (.if_icmp .lt 15, 3) := dk_161 0 15 (dk_at dksX4_enters_1 9 rfl rfl)
theorem dX4_enters_36 : decode cX4_enters 36 = .ok (.aload_n 0, 1) := dk_42 (dk_at dksX4_enters_1 12 rfl rfl)
theorem dX4_enters_37 : decode cX4_enters 37 = .ok (.iconst 1, 1) := dk_4 (dk_at dksX4_enters_1 13 rfl rfl)
theorem dX4_enters_38 : decode cX4_enters 38 = .ok (.aload_n 0, 1) := dk_42 (dk_at dksX4_enters_1 14 rfl rfl)
theorem dX4_enters_39 : decode cX4_enters 39 = .ok (.getfield 61, 3) := dk_180 0 61 (dk_at dksX4_enters_1 15 rfl rfl)
theorem dX4_enters_42 : decode cX4_enters 42 = .ok (.iconst 4, 1) := dk_7 (dk_at dksX4_enters_1 18 rfl rfl)
theorem dX4_enters_43 : decode cX4_enters 43 = .ok (.iaload, 1) := dk_46 (dk_at dksX4_enters_1 19 rfl rfl)
theorem dX4_enters_44 : decode cX4_enters 44 = .ok (.invokevirtual 108, 3) := dk_182 0 108 (dk_at dksX4_enters_1 20 rfl rfl)
theorem dX4_enters_47 : decode cX4_enters 47 = .ok (.ireturn, 1) := dk_172 (dk_at dksX4_enters_1 23 rfl rfl)
theorem dX4_enters_48 : decode cX4_enters 48 = .ok (.aload_n 0, 1) := dk_42 (dk_at dksX4_enters_2 0 rfl rfl)
theorem dX4_enters_49 : decode cX4_enters 49 = .ok (.getfield 61, 3) := dk_180 0 61 (dk_at dksX4_enters_2 1 rfl rfl)
theorem dX4_enters_52 : decode cX4_enters 52 = .ok (.iconst 3, 1) := dk_6 (dk_at dksX4_enters_2 4 rfl rfl)
theorem dX4_enters_53 : decode cX4_enters 53 = .ok (.iaload, 1) := dk_46 (dk_at dksX4_enters_2 5 rfl rfl)
theorem dX4_enters_54 : decode cX4_enters 54 = .ok (.bipush 11, 2) := dk_16 11 (dk_at dksX4_enters_2 6 rfl rfl)
theorem dX4_enters_56 : decode cX4_enters 56 = .ok (.if_icmp .le 18, 3) := dk_164 0 18 (dk_at dksX4_enters_2 8 rfl rfl)
theorem dX4_enters_59 : decode cX4_enters 59 = .ok (.aload_n 0, 1) := dk_42 (dk_at dksX4_enters_2 11 rfl rfl)
theorem dX4_enters_60 : decode cX4_enters 60 = .ok (.bipush 8, 2) := dk_16 8 (dk_at dksX4_enters_2 12 rfl rfl)
theorem dX4_enters_62 : decode cX4_enters 62 = .ok (.aload_n 0, 1) := dk_42 (dk_at dksX4_enters_2 14 rfl rfl)
theorem dX4_enters_63 : decode cX4_enters 63 = .ok (.getfield 61, 3) := dk_180 0 61 (dk_at dksX4_enters_2 15 rfl rfl)
theorem dX4_enters_66 : decode cX4_enters 66 = .ok (.iconst 3, 1) := dk_6 (dk_at dksX4_enters_2 18 rfl rfl)
theorem dX4_enters_67 : decode cX4_enters 67 = .ok (.iaload, 1) := dk_46 (dk_at dksX4_enters_2 19 rfl rfl)
theorem dX4_enters_68 : decode cX4_enters 68 = .ok (.invokevirtual 108, 3) := dk_182 0 108 (dk_at dksX4_enters_2 20 rfl rfl)
theorem dX4_enters_71 : decode cX4_enters 71 = .ok (.goto 30, 3) := dk_167 0 30 (dk_at dksX4_enters_3 0 rfl rfl)
theorem dX4_enters_74 : decode cX4_enters 74 = .ok (.aload_n 0, 1) := dk_42 (dk_at dksX4_enters_3 3 rfl rfl)
theorem dX4_enters_75 : decode cX4_enters 75 = .ok (.aload_n 0, 1) := dk_42 (dk_at dksX4_enters_3 4 rfl rfl)
theorem dX4_enters_76 : decode cX4_enters 76 = .ok (.getfield 61, 3) := dk_180 0 61 (dk_at dksX4_enters_3 5 rfl rfl)
theorem dX4_enters_79 : decode cX4_enters 79 = .ok (.iconst 0, 1) := dk_3 (dk_at dksX4_enters_3 8 rfl rfl)
theorem dX4_enters_80 : decode cX4_enters 80 = .ok (.iaload, 1) := dk_46 (dk_at dksX4_enters_3 9 rfl rfl)
theorem dX4_enters_81 : decode cX4_enters 81 = .ok (.aload_n 0, 1) := dk_42 (dk_at dksX4_enters_3 10 rfl rfl)
theorem dX4_enters_82 : decode cX4_enters 82 = .ok (.getfield 61, 3) := dk_180 0 61 (dk_at dksX4_enters_3 11 rfl rfl)
theorem dX4_enters_85 : decode cX4_enters 85 = .ok (.iconst 1, 1) := dk_4 (dk_at dksX4_enters_3 14 rfl rfl)
theorem dX4_enters_86 : decode cX4_enters 86 = .ok (.iaload, 1) := dk_46 (dk_at dksX4_enters_3 15 rfl rfl)
theorem dX4_enters_87 : decode cX4_enters 87 = .ok (.aload_n 0, 1) := dk_42 (dk_at dksX4_enters_3 16 rfl rfl)
theorem dX4_enters_88 : decode cX4_enters 88 = .ok (.iconst 2, 1) := dk_5 (dk_at dksX4_enters_3 17 rfl rfl)
theorem dX4_enters_89 : decode cX4_enters 89 = .ok (.invokevirtual 232, 3) := dk_182 0 232 (dk_at dksX4_enters_3 18 rfl rfl)
theorem dX4_enters_92 : decode cX4_enters 92 = .ok (.aload_n 0, 1) := dk_42 (dk_at dksX4_enters_3 21 rfl rfl)
theorem dX4_enters_93 : decode cX4_enters 93 = .ok (.getfield 61, 3) := dk_180 0 61 (dk_at dksX4_enters_4 0 rfl rfl)
theorem dX4_enters_96 : decode cX4_enters 96 = .ok (.iconst 4, 1) := dk_7 (dk_at dksX4_enters_4 3 rfl rfl)
theorem dX4_enters_97 : decode cX4_enters 97 = .ok (.iaload, 1) := dk_46 (dk_at dksX4_enters_4 4 rfl rfl)
theorem dX4_enters_98 : decode cX4_enters 98 = .ok (.invokevirtual 143, 3) := dk_182 0 143 (dk_at dksX4_enters_4 5 rfl rfl)
theorem dX4_enters_101 : decode cX4_enters 101 = .ok (.ireturn, 1) := dk_172 (dk_at dksX4_enters_4 8 rfl rfl)
abbrev cX4_tell : ByteArray := prog_20_method_80_code
def yX4_tell : MethodName := ⟨RX4, "tell", "(I)I"⟩
def dkwX4_tell_2 : List UInt8 := [27, 28, 182, 1, 21, 132, 2, 1, 167, 255, 233, 42, 180, 1, 12, 172]
abbrev dktX4_tell_2 : List UInt8 := dkwX4_tell_2 ++ []
def dkwX4_tell_1 : List UInt8 := [184, 0, 91, 46, 182, 1, 18, 3, 61, 28, 42, 180, 0, 7, 27, 5, 184, 0, 91, 46, 162, 0, 15, 42]
abbrev dktX4_tell_1 : List UInt8 := dkwX4_tell_1 ++ dktX4_tell_2
def dkwX4_tell_0 : List UInt8 := [42, 27, 182, 0, 140, 154, 0, 5, 2, 172, 42, 3, 181, 1, 12, 42, 42, 180, 0, 7, 27, 4]
abbrev dktX4_tell_0 : List UInt8 := dkwX4_tell_0 ++ dktX4_tell_1
theorem dksX4_tell_0 : cX4_tell.data.toList.drop 0 = dktX4_tell_0 := by decide +kernel
theorem dksX4_tell_1 : cX4_tell.data.toList.drop 22 = dktX4_tell_1 := dk_seg dksX4_tell_0 22 rfl rfl
theorem dksX4_tell_2 : cX4_tell.data.toList.drop 46 = dktX4_tell_2 := dk_seg dksX4_tell_1 24 rfl rfl
theorem dX4_tell_0 : decode cX4_tell 0 = .ok (.aload_n 0, 1) := dk_42 (dk_at dksX4_tell_0 0 rfl rfl)
theorem dX4_tell_1 : decode cX4_tell 1 = .ok (.iload_n 1, 1) := dk_27 (dk_at dksX4_tell_0 1 rfl rfl)
theorem dX4_tell_2 : decode cX4_tell 2 = .ok (.invokevirtual 140, 3) := dk_182 0 140 (dk_at dksX4_tell_0 2 rfl rfl)
theorem dX4_tell_5 : decode cX4_tell 5 = .ok (.ifCond .ne 5, 3) := dk_154 0 5 (dk_at dksX4_tell_0 5 rfl rfl)
theorem dX4_tell_8 : decode cX4_tell 8 = .ok (.iconst (-1), 1) := dk_2 (dk_at dksX4_tell_0 8 rfl rfl)
theorem dX4_tell_9 : decode cX4_tell 9 = .ok (.ireturn, 1) := dk_172 (dk_at dksX4_tell_0 9 rfl rfl)
theorem dX4_tell_10 : decode cX4_tell 10 = .ok (.aload_n 0, 1) := dk_42 (dk_at dksX4_tell_0 10 rfl rfl)
theorem dX4_tell_11 : decode cX4_tell 11 = .ok (.iconst 0, 1) := dk_3 (dk_at dksX4_tell_0 11 rfl rfl)
theorem dX4_tell_12 : decode cX4_tell 12 = .ok (.putfield 268, 3) := dk_181 1 12 (dk_at dksX4_tell_0 12 rfl rfl)
theorem dX4_tell_15 : decode cX4_tell 15 = .ok (.aload_n 0, 1) := dk_42 (dk_at dksX4_tell_0 15 rfl rfl)
theorem dX4_tell_16 : decode cX4_tell 16 = .ok (.aload_n 0, 1) := dk_42 (dk_at dksX4_tell_0 16 rfl rfl)
theorem dX4_tell_17 : decode cX4_tell 17 = .ok (.getfield 7, 3) := dk_180 0 7 (dk_at dksX4_tell_0 17 rfl rfl)
theorem dX4_tell_20 : decode cX4_tell 20 = .ok (.iload_n 1, 1) := dk_27 (dk_at dksX4_tell_0 20 rfl rfl)
theorem dX4_tell_21 : decode cX4_tell 21 = .ok (.iconst 1, 1) := dk_4 (dk_at dksX4_tell_0 21 rfl rfl)
theorem dX4_tell_22 : decode cX4_tell 22 = .ok (.invokestatic 91, 3) := dk_184 0 91 (dk_at dksX4_tell_1 0 rfl rfl)
theorem dX4_tell_25 : decode cX4_tell 25 = .ok (.iaload, 1) := dk_46 (dk_at dksX4_tell_1 3 rfl rfl)
theorem dX4_tell_26 : decode cX4_tell 26 = .ok (.invokevirtual 274, 3) := dk_182 1 18 (dk_at dksX4_tell_1 4 rfl rfl)
theorem dX4_tell_29 : decode cX4_tell 29 = .ok (.iconst 0, 1) := dk_3 (dk_at dksX4_tell_1 7 rfl rfl)
theorem dX4_tell_30 : decode cX4_tell 30 = .ok (.istore_n 2, 1) := dk_61 (dk_at dksX4_tell_1 8 rfl rfl)
theorem dX4_tell_31 : decode cX4_tell 31 = .ok (.iload_n 2, 1) := dk_28 (dk_at dksX4_tell_1 9 rfl rfl)
theorem dX4_tell_32 : decode cX4_tell 32 = .ok (.aload_n 0, 1) := dk_42 (dk_at dksX4_tell_1 10 rfl rfl)
theorem dX4_tell_33 : decode cX4_tell 33 = .ok (.getfield 7, 3) := dk_180 0 7 (dk_at dksX4_tell_1 11 rfl rfl)
theorem dX4_tell_36 : decode cX4_tell 36 = .ok (.iload_n 1, 1) := dk_27 (dk_at dksX4_tell_1 14 rfl rfl)
theorem dX4_tell_37 : decode cX4_tell 37 = .ok (.iconst 2, 1) := dk_5 (dk_at dksX4_tell_1 15 rfl rfl)
theorem dX4_tell_38 : decode cX4_tell 38 = .ok (.invokestatic 91, 3) := dk_184 0 91 (dk_at dksX4_tell_1 16 rfl rfl)
theorem dX4_tell_41 : decode cX4_tell 41 = .ok (.iaload, 1) := dk_46 (dk_at dksX4_tell_1 19 rfl rfl)
theorem dX4_tell_42 : decode cX4_tell 42 = .ok (.if_icmp .ge 15, 3) := dk_162 0 15 (dk_at dksX4_tell_1 20 rfl rfl)
theorem dX4_tell_45 : decode cX4_tell 45 = .ok (.aload_n 0, 1) := dk_42 (dk_at dksX4_tell_1 23 rfl rfl)
theorem dX4_tell_46 : decode cX4_tell 46 = .ok (.iload_n 1, 1) := dk_27 (dk_at dksX4_tell_2 0 rfl rfl)
theorem dX4_tell_47 : decode cX4_tell 47 = .ok (.iload_n 2, 1) := dk_28 (dk_at dksX4_tell_2 1 rfl rfl)
theorem dX4_tell_48 : decode cX4_tell 48 = .ok (.invokevirtual 277, 3) := dk_182 1 21 (dk_at dksX4_tell_2 2 rfl rfl)
theorem dX4_tell_51 : decode cX4_tell 51 = .ok (.iinc 2 1, 3) := dk_132 2 1 (dk_at dksX4_tell_2 5 rfl rfl)
theorem dX4_tell_54 : decode cX4_tell 54 = .ok (.goto (-23), 3) := dk_167 255 233 (dk_at dksX4_tell_2 8 rfl rfl)
theorem dX4_tell_57 : decode cX4_tell 57 = .ok (.aload_n 0, 1) := dk_42 (dk_at dksX4_tell_2 11 rfl rfl)
theorem dX4_tell_58 : decode cX4_tell 58 = .ok (.getfield 268, 3) := dk_180 1 12 (dk_at dksX4_tell_2 12 rfl rfl)
theorem dX4_tell_61 : decode cX4_tell 61 = .ok (.ireturn, 1) := dk_172 (dk_at dksX4_tell_2 15 rfl rfl)
abbrev cX4_writesNumber : ByteArray := prog_20_method_78_code
def yX4_writesNumber : MethodName := ⟨RX4, "writesNumber", "(I)V"⟩
def dkwX4_writesNumber_2 : List UInt8 := [177]
abbrev dktX4_writesNumber_2 : List UInt8 := dkwX4_writesNumber_2 ++ []
def dkwX4_writesNumber_1 : List UInt8 := [16, 48, 27, 16, 10, 108, 16, 10, 112, 96, 182, 1, 15, 42, 16, 48, 27, 16, 10, 112, 96, 182, 1, 15]
abbrev dktX4_writesNumber_1 : List UInt8 := dkwX4_writesNumber_1 ++ dktX4_writesNumber_2
def dkwX4_writesNumber_0 : List UInt8 := [27, 16, 99, 164, 0, 14, 42, 16, 48, 27, 16, 100, 108, 96, 182, 1, 15, 27, 16, 9, 164, 0, 17, 42]
abbrev dktX4_writesNumber_0 : List UInt8 := dkwX4_writesNumber_0 ++ dktX4_writesNumber_1
theorem dksX4_writesNumber_0 : cX4_writesNumber.data.toList.drop 0 = dktX4_writesNumber_0 := by decide +kernel
theorem dksX4_writesNumber_1 : cX4_writesNumber.data.toList.drop 24 = dktX4_writesNumber_1 := dk_seg dksX4_writesNumber_0 24 rfl rfl
theorem dksX4_writesNumber_2 : cX4_writesNumber.data.toList.drop 48 = dktX4_writesNumber_2 := dk_seg dksX4_writesNumber_1 24 rfl rfl
theorem dX4_writesNumber_0 : decode cX4_writesNumber 0 = .ok (.iload_n 1, 1) := dk_27 (dk_at dksX4_writesNumber_0 0 rfl rfl)
theorem dX4_writesNumber_1 : decode cX4_writesNumber 1 = .ok (.bipush 99, 2) := dk_16 99 (dk_at dksX4_writesNumber_0 1 rfl rfl)
theorem dX4_writesNumber_3 : decode cX4_writesNumber 3 = .ok (.if_icmp .le 14, 3) := dk_164 0 14 (dk_at dksX4_writesNumber_0 3 rfl rfl)
theorem dX4_writesNumber_6 : decode cX4_writesNumber 6 = .ok (.aload_n 0, 1) := dk_42 (dk_at dksX4_writesNumber_0 6 rfl rfl)
theorem dX4_writesNumber_7 : decode cX4_writesNumber 7 = .ok (.bipush 48, 2) := dk_16 48 (dk_at dksX4_writesNumber_0 7 rfl rfl)
theorem dX4_writesNumber_9 : decode cX4_writesNumber 9 = .ok (.iload_n 1, 1) := dk_27 (dk_at dksX4_writesNumber_0 9 rfl rfl)
theorem dX4_writesNumber_10 : decode cX4_writesNumber 10 = .ok (.bipush 100, 2) := dk_16 100 (dk_at dksX4_writesNumber_0 10 rfl rfl)
theorem dX4_writesNumber_12 : decode cX4_writesNumber 12 = .ok (.idiv, 1) := dk_108 (dk_at dksX4_writesNumber_0 12 rfl rfl)
theorem dX4_writesNumber_13 : decode cX4_writesNumber 13 = .ok (.iadd, 1) := dk_96 (dk_at dksX4_writesNumber_0 13 rfl rfl)
theorem dX4_writesNumber_14 : decode cX4_writesNumber 14 = .ok (.invokevirtual 271, 3) := dk_182 1 15 (dk_at dksX4_writesNumber_0 14 rfl rfl)
theorem dX4_writesNumber_17 : decode cX4_writesNumber 17 = .ok (.iload_n 1, 1) := dk_27 (dk_at dksX4_writesNumber_0 17 rfl rfl)
theorem dX4_writesNumber_18 : decode cX4_writesNumber 18 = .ok (.bipush 9, 2) := dk_16 9 (dk_at dksX4_writesNumber_0 18 rfl rfl)
theorem dX4_writesNumber_20 : decode cX4_writesNumber 20 = .ok (.if_icmp .le 17, 3) := dk_164 0 17 (dk_at dksX4_writesNumber_0 20 rfl rfl)
theorem dX4_writesNumber_23 : decode cX4_writesNumber 23 = .ok (.aload_n 0, 1) := dk_42 (dk_at dksX4_writesNumber_0 23 rfl rfl)
theorem dX4_writesNumber_24 : decode cX4_writesNumber 24 = .ok (.bipush 48, 2) := dk_16 48 (dk_at dksX4_writesNumber_1 0 rfl rfl)
theorem dX4_writesNumber_26 : decode cX4_writesNumber 26 = .ok (.iload_n 1, 1) := dk_27 (dk_at dksX4_writesNumber_1 2 rfl rfl)
theorem dX4_writesNumber_27 : decode cX4_writesNumber 27 = .ok (.bipush 10, 2) := dk_16 10 (dk_at dksX4_writesNumber_1 3 rfl rfl)
theorem dX4_writesNumber_29 : decode cX4_writesNumber 29 = .ok (.idiv, 1) := dk_108 (dk_at dksX4_writesNumber_1 5 rfl rfl)
theorem dX4_writesNumber_30 : decode cX4_writesNumber 30 = .ok (.bipush 10, 2) := dk_16 10 (dk_at dksX4_writesNumber_1 6 rfl rfl)
theorem dX4_writesNumber_32 : decode cX4_writesNumber 32 = .ok (.irem, 1) := dk_112 (dk_at dksX4_writesNumber_1 8 rfl rfl)
theorem dX4_writesNumber_33 : decode cX4_writesNumber 33 = .ok (.iadd, 1) := dk_96 (dk_at dksX4_writesNumber_1 9 rfl rfl)
theorem dX4_writesNumber_34 : decode cX4_writesNumber 34 = .ok (.invokevirtual 271, 3) := dk_182 1 15 (dk_at dksX4_writesNumber_1 10 rfl rfl)
theorem dX4_writesNumber_37 : decode cX4_writesNumber 37 = .ok (.aload_n 0, 1) := dk_42 (dk_at dksX4_writesNumber_1 13 rfl rfl)
theorem dX4_writesNumber_38 : decode cX4_writesNumber 38 = .ok (.bipush 48, 2) := dk_16 48 (dk_at dksX4_writesNumber_1 14 rfl rfl)
theorem dX4_writesNumber_40 : decode cX4_writesNumber 40 = .ok (.iload_n 1, 1) := dk_27 (dk_at dksX4_writesNumber_1 16 rfl rfl)
theorem dX4_writesNumber_41 : decode cX4_writesNumber 41 = .ok (.bipush 10, 2) := dk_16 10 (dk_at dksX4_writesNumber_1 17 rfl rfl)
theorem dX4_writesNumber_43 : decode cX4_writesNumber 43 = .ok (.irem, 1) := dk_112 (dk_at dksX4_writesNumber_1 19 rfl rfl)
theorem dX4_writesNumber_44 : decode cX4_writesNumber 44 = .ok (.iadd, 1) := dk_96 (dk_at dksX4_writesNumber_1 20 rfl rfl)
theorem dX4_writesNumber_45 : decode cX4_writesNumber 45 = .ok (.invokevirtual 271, 3) := dk_182 1 15 (dk_at dksX4_writesNumber_1 21 rfl rfl)
theorem dX4_writesNumber_48 : decode cX4_writesNumber 48 = .ok (.return_, 1) := dk_177 (dk_at dksX4_writesNumber_2 0 rfl rfl)
abbrev cX4_writes : ByteArray := prog_20_method_77_code
def yX4_writes : MethodName := ⟨RX4, "writes", "(I)V"⟩
def dkwX4_writes_0 : List UInt8 := [42, 180, 0, 70, 42, 180, 1, 12, 27, 79, 42, 89, 180, 1, 12, 4, 96, 181, 1, 12, 177]
abbrev dktX4_writes_0 : List UInt8 := dkwX4_writes_0 ++ []
theorem dksX4_writes_0 : cX4_writes.data.toList.drop 0 = dktX4_writes_0 := by decide +kernel
theorem dX4_writes_0 : decode cX4_writes 0 = .ok (.aload_n 0, 1) := dk_42 (dk_at dksX4_writes_0 0 rfl rfl)
theorem dX4_writes_1 : decode cX4_writes 1 = .ok (.getfield 70, 3) := dk_180 0 70 (dk_at dksX4_writes_0 1 rfl rfl)
theorem dX4_writes_4 : decode cX4_writes 4 = .ok (.aload_n 0, 1) := dk_42 (dk_at dksX4_writes_0 4 rfl rfl)
theorem dX4_writes_5 : decode cX4_writes 5 = .ok (.getfield 268, 3) := dk_180 1 12 (dk_at dksX4_writes_0 5 rfl rfl)
theorem dX4_writes_8 : decode cX4_writes 8 = .ok (.iload_n 1, 1) := dk_27 (dk_at dksX4_writes_0 8 rfl rfl)
theorem dX4_writes_9 : decode cX4_writes 9 = .ok (.iastore, 1) := dk_79 (dk_at dksX4_writes_0 9 rfl rfl)
theorem dX4_writes_10 : decode cX4_writes 10 = .ok (.aload_n 0, 1) := dk_42 (dk_at dksX4_writes_0 10 rfl rfl)
theorem dX4_writes_11 : decode cX4_writes 11 = .ok (.dup, 1) := dk_89 (dk_at dksX4_writes_0 11 rfl rfl)
theorem dX4_writes_12 : decode cX4_writes 12 = .ok (.getfield 268, 3) := dk_180 1 12 (dk_at dksX4_writes_0 12 rfl rfl)
theorem dX4_writes_15 : decode cX4_writes 15 = .ok (.iconst 1, 1) := dk_4 (dk_at dksX4_writes_0 15 rfl rfl)
theorem dX4_writes_16 : decode cX4_writes 16 = .ok (.iadd, 1) := dk_96 (dk_at dksX4_writes_0 16 rfl rfl)
theorem dX4_writes_17 : decode cX4_writes 17 = .ok (.putfield 268, 3) := dk_181 1 12 (dk_at dksX4_writes_0 17 rfl rfl)
theorem dX4_writes_20 : decode cX4_writes 20 = .ok (.return_, 1) := dk_177 (dk_at dksX4_writes_0 20 rfl rfl)
abbrev cX4_writesEntry : ByteArray := prog_20_method_79_code
def yX4_writesEntry : MethodName := ⟨RX4, "writesEntry", "(II)V"⟩
def dkwX4_writesEntry_4 : List UInt8 := [42, 16, 47, 182, 1, 15, 42, 42, 180, 0, 7, 27, 28, 5, 184, 0, 136, 46, 182, 1, 18, 177]
abbrev dktX4_writesEntry_4 : List UInt8 := dkwX4_writesEntry_4 ++ []
def dkwX4_writesEntry_3 : List UInt8 := [182, 1, 18, 42, 16, 47, 182, 1, 15, 42, 42, 180, 0, 7, 27, 28, 3, 184, 0, 136, 46, 182, 1, 18]
abbrev dktX4_writesEntry_3 : List UInt8 := dkwX4_writesEntry_3 ++ dktX4_writesEntry_4
def dkwX4_writesEntry_2 : List UInt8 := [16, 120, 182, 1, 15, 177, 42, 16, 97, 21, 4, 16, 16, 112, 96, 182, 1, 15, 42, 21, 4, 16, 16, 108]
abbrev dktX4_writesEntry_2 : List UInt8 := dkwX4_writesEntry_2 ++ dktX4_writesEntry_3
def dkwX4_writesEntry_1 : List UInt8 := [54, 4, 42, 16, 32, 182, 1, 15, 29, 4, 159, 0, 19, 42, 29, 154, 0, 8, 16, 63, 167, 0, 5]
abbrev dktX4_writesEntry_1 : List UInt8 := dkwX4_writesEntry_1 ++ dktX4_writesEntry_2
def dkwX4_writesEntry_0 : List UInt8 := [42, 180, 0, 7, 27, 28, 6, 184, 0, 136, 46, 62, 42, 180, 0, 7, 27, 28, 4, 184, 0, 136, 46]
abbrev dktX4_writesEntry_0 : List UInt8 := dkwX4_writesEntry_0 ++ dktX4_writesEntry_1
theorem dksX4_writesEntry_0 : cX4_writesEntry.data.toList.drop 0 = dktX4_writesEntry_0 := by decide +kernel
theorem dksX4_writesEntry_1 : cX4_writesEntry.data.toList.drop 23 = dktX4_writesEntry_1 := dk_seg dksX4_writesEntry_0 23 rfl rfl
theorem dksX4_writesEntry_2 : cX4_writesEntry.data.toList.drop 46 = dktX4_writesEntry_2 := dk_seg dksX4_writesEntry_1 23 rfl rfl
theorem dksX4_writesEntry_3 : cX4_writesEntry.data.toList.drop 70 = dktX4_writesEntry_3 := dk_seg dksX4_writesEntry_2 24 rfl rfl
theorem dksX4_writesEntry_4 : cX4_writesEntry.data.toList.drop 94 = dktX4_writesEntry_4 := dk_seg dksX4_writesEntry_3 24 rfl rfl
theorem dX4_writesEntry_0 : decode cX4_writesEntry 0 = .ok (.aload_n 0, 1) := dk_42 (dk_at dksX4_writesEntry_0 0 rfl rfl)
theorem dX4_writesEntry_1 : decode cX4_writesEntry 1 = .ok (.getfield 7, 3) := dk_180 0 7 (dk_at dksX4_writesEntry_0 1 rfl rfl)
theorem dX4_writesEntry_4 : decode cX4_writesEntry 4 = .ok (.iload_n 1, 1) := dk_27 (dk_at dksX4_writesEntry_0 4 rfl rfl)
theorem dX4_writesEntry_5 : decode cX4_writesEntry 5 = .ok (.iload_n 2, 1) := dk_28 (dk_at dksX4_writesEntry_0 5 rfl rfl)
theorem dX4_writesEntry_6 : decode cX4_writesEntry 6 = .ok (.iconst 3, 1) := dk_6 (dk_at dksX4_writesEntry_0 6 rfl rfl)
theorem dX4_writesEntry_7 : decode cX4_writesEntry 7 = .ok (.invokestatic 136, 3) := dk_184 0 136 (dk_at dksX4_writesEntry_0 7 rfl rfl)
theorem dX4_writesEntry_10 : decode cX4_writesEntry 10 = .ok (.iaload, 1) := dk_46 (dk_at dksX4_writesEntry_0 10 rfl rfl)
theorem dX4_writesEntry_11 : decode cX4_writesEntry 11 = .ok (.istore_n 3, 1) := dk_62 (dk_at dksX4_writesEntry_0 11 rfl rfl)
theorem dX4_writesEntry_12 : decode cX4_writesEntry 12 = .ok (.aload_n 0, 1) := dk_42 (dk_at dksX4_writesEntry_0 12 rfl rfl)
theorem dX4_writesEntry_13 : decode cX4_writesEntry 13 = .ok (.getfield 7, 3) := dk_180 0 7 (dk_at dksX4_writesEntry_0 13 rfl rfl)
theorem dX4_writesEntry_16 : decode cX4_writesEntry 16 = .ok (.iload_n 1, 1) := dk_27 (dk_at dksX4_writesEntry_0 16 rfl rfl)
theorem dX4_writesEntry_17 : decode cX4_writesEntry 17 = .ok (.iload_n 2, 1) := dk_28 (dk_at dksX4_writesEntry_0 17 rfl rfl)
theorem dX4_writesEntry_18 : decode cX4_writesEntry 18 = .ok (.iconst 1, 1) := dk_4 (dk_at dksX4_writesEntry_0 18 rfl rfl)
theorem dX4_writesEntry_19 : decode cX4_writesEntry 19 = .ok (.invokestatic 136, 3) := dk_184 0 136 (dk_at dksX4_writesEntry_0 19 rfl rfl)
theorem dX4_writesEntry_22 : decode cX4_writesEntry 22 = .ok (.iaload, 1) := dk_46 (dk_at dksX4_writesEntry_0 22 rfl rfl)
theorem dX4_writesEntry_23 : decode cX4_writesEntry 23 = .ok (.istore 4, 2) := dk_54 4 (dk_at dksX4_writesEntry_1 0 rfl rfl)
theorem dX4_writesEntry_25 : decode cX4_writesEntry 25 = .ok (.aload_n 0, 1) := dk_42 (dk_at dksX4_writesEntry_1 2 rfl rfl)
theorem dX4_writesEntry_26 : decode cX4_writesEntry 26 = .ok (.bipush 32, 2) := dk_16 32 (dk_at dksX4_writesEntry_1 3 rfl rfl)
theorem dX4_writesEntry_28 : decode cX4_writesEntry 28 = .ok (.invokevirtual 271, 3) := dk_182 1 15 (dk_at dksX4_writesEntry_1 5 rfl rfl)
theorem dX4_writesEntry_31 : decode cX4_writesEntry 31 = .ok (.iload_n 3, 1) := dk_29 (dk_at dksX4_writesEntry_1 8 rfl rfl)
theorem dX4_writesEntry_32 : decode cX4_writesEntry 32 = .ok (.iconst 1, 1) := dk_4 (dk_at dksX4_writesEntry_1 9 rfl rfl)
theorem dX4_writesEntry_33 : decode cX4_writesEntry 33 = .ok (.if_icmp .eq 19, 3) := dk_159 0 19 (dk_at dksX4_writesEntry_1 10 rfl rfl)
theorem dX4_writesEntry_36 : decode cX4_writesEntry 36 = .ok (.aload_n 0, 1) := dk_42 (dk_at dksX4_writesEntry_1 13 rfl rfl)
theorem dX4_writesEntry_37 : decode cX4_writesEntry 37 = .ok (.iload_n 3, 1) := dk_29 (dk_at dksX4_writesEntry_1 14 rfl rfl)
theorem dX4_writesEntry_38 : decode cX4_writesEntry 38 = .ok (.ifCond .ne 8, 3) := dk_154 0 8 (dk_at dksX4_writesEntry_1 15 rfl rfl)
theorem dX4_writesEntry_41 : decode cX4_writesEntry 41 = .ok (.bipush 63, 2) := dk_16 63 (dk_at dksX4_writesEntry_1 18 rfl rfl)
theorem dX4_writesEntry_43 : decode cX4_writesEntry 43 = .ok (.goto 5, 3) := dk_167 0 5 (dk_at dksX4_writesEntry_1 20 rfl rfl)
theorem dX4_writesEntry_46 : decode cX4_writesEntry 46 = .ok (.bipush 120, 2) := dk_16 120 (dk_at dksX4_writesEntry_2 0 rfl rfl)
theorem dX4_writesEntry_48 : decode cX4_writesEntry 48 = .ok (.invokevirtual 271, 3) := dk_182 1 15 (dk_at dksX4_writesEntry_2 2 rfl rfl)
theorem dX4_writesEntry_51 : decode cX4_writesEntry 51 = .ok (.return_, 1) := dk_177 (dk_at dksX4_writesEntry_2 5 rfl rfl)
theorem dX4_writesEntry_52 : decode cX4_writesEntry 52 = .ok (.aload_n 0, 1) := dk_42 (dk_at dksX4_writesEntry_2 6 rfl rfl)
theorem dX4_writesEntry_53 : decode cX4_writesEntry 53 = .ok (.bipush 97, 2) := dk_16 97 (dk_at dksX4_writesEntry_2 7 rfl rfl)
theorem dX4_writesEntry_55 : decode cX4_writesEntry 55 = .ok (.iload 4, 2) := dk_21 4 (dk_at dksX4_writesEntry_2 9 rfl rfl)
theorem dX4_writesEntry_57 : decode cX4_writesEntry 57 = .ok (.bipush 16, 2) := dk_16 16 (dk_at dksX4_writesEntry_2 11 rfl rfl)
theorem dX4_writesEntry_59 : decode cX4_writesEntry 59 = .ok (.irem, 1) := dk_112 (dk_at dksX4_writesEntry_2 13 rfl rfl)
theorem dX4_writesEntry_60 : decode cX4_writesEntry 60 = .ok (.iadd, 1) := dk_96 (dk_at dksX4_writesEntry_2 14 rfl rfl)
theorem dX4_writesEntry_61 : decode cX4_writesEntry 61 = .ok (.invokevirtual 271, 3) := dk_182 1 15 (dk_at dksX4_writesEntry_2 15 rfl rfl)
theorem dX4_writesEntry_64 : decode cX4_writesEntry 64 = .ok (.aload_n 0, 1) := dk_42 (dk_at dksX4_writesEntry_2 18 rfl rfl)
theorem dX4_writesEntry_65 : decode cX4_writesEntry 65 = .ok (.iload 4, 2) := dk_21 4 (dk_at dksX4_writesEntry_2 19 rfl rfl)
theorem dX4_writesEntry_67 : decode cX4_writesEntry 67 = .ok (.bipush 16, 2) := dk_16 16 (dk_at dksX4_writesEntry_2 21 rfl rfl)
theorem dX4_writesEntry_69 : decode cX4_writesEntry 69 = .ok (.idiv, 1) := dk_108 (dk_at dksX4_writesEntry_2 23 rfl rfl)
theorem dX4_writesEntry_70 : decode cX4_writesEntry 70 = .ok (.invokevirtual 274, 3) := dk_182 1 18 (dk_at dksX4_writesEntry_3 0 rfl rfl)
theorem dX4_writesEntry_73 : decode cX4_writesEntry 73 = .ok (.aload_n 0, 1) := dk_42 (dk_at dksX4_writesEntry_3 3 rfl rfl)
theorem dX4_writesEntry_74 : decode cX4_writesEntry 74 = .ok (.bipush 47, 2) := dk_16 47 (dk_at dksX4_writesEntry_3 4 rfl rfl)
theorem dX4_writesEntry_76 : decode cX4_writesEntry 76 = .ok (.invokevirtual 271, 3) := dk_182 1 15 (dk_at dksX4_writesEntry_3 6 rfl rfl)
theorem dX4_writesEntry_79 : decode cX4_writesEntry 79 = .ok (.aload_n 0, 1) := dk_42 (dk_at dksX4_writesEntry_3 9 rfl rfl)
theorem dX4_writesEntry_80 : decode cX4_writesEntry 80 = .ok (.aload_n 0, 1) := dk_42 (dk_at dksX4_writesEntry_3 10 rfl rfl)
theorem dX4_writesEntry_81 : decode cX4_writesEntry 81 = .ok (.getfield 7, 3) := dk_180 0 7 (dk_at dksX4_writesEntry_3 11 rfl rfl)
theorem dX4_writesEntry_84 : decode cX4_writesEntry 84 = .ok (.iload_n 1, 1) := dk_27 (dk_at dksX4_writesEntry_3 14 rfl rfl)
theorem dX4_writesEntry_85 : decode cX4_writesEntry 85 = .ok (.iload_n 2, 1) := dk_28 (dk_at dksX4_writesEntry_3 15 rfl rfl)
theorem dX4_writesEntry_86 : decode cX4_writesEntry 86 = .ok (.iconst 0, 1) := dk_3 (dk_at dksX4_writesEntry_3 16 rfl rfl)
theorem dX4_writesEntry_87 : decode cX4_writesEntry 87 = .ok (.invokestatic 136, 3) := dk_184 0 136 (dk_at dksX4_writesEntry_3 17 rfl rfl)
theorem dX4_writesEntry_90 : decode cX4_writesEntry 90 = .ok (.iaload, 1) := dk_46 (dk_at dksX4_writesEntry_3 20 rfl rfl)
theorem dX4_writesEntry_91 : decode cX4_writesEntry 91 = .ok (.invokevirtual 274, 3) := dk_182 1 18 (dk_at dksX4_writesEntry_3 21 rfl rfl)
theorem dX4_writesEntry_94 : decode cX4_writesEntry 94 = .ok (.aload_n 0, 1) := dk_42 (dk_at dksX4_writesEntry_4 0 rfl rfl)
theorem dX4_writesEntry_95 : decode cX4_writesEntry 95 = .ok (.bipush 47, 2) := dk_16 47 (dk_at dksX4_writesEntry_4 1 rfl rfl)
theorem dX4_writesEntry_97 : decode cX4_writesEntry 97 = .ok (.invokevirtual 271, 3) := dk_182 1 15 (dk_at dksX4_writesEntry_4 3 rfl rfl)
theorem dX4_writesEntry_100 : decode cX4_writesEntry 100 = .ok (.aload_n 0, 1) := dk_42 (dk_at dksX4_writesEntry_4 6 rfl rfl)
theorem dX4_writesEntry_101 : decode cX4_writesEntry 101 = .ok (.aload_n 0, 1) := dk_42 (dk_at dksX4_writesEntry_4 7 rfl rfl)
theorem dX4_writesEntry_102 : decode cX4_writesEntry 102 = .ok (.getfield 7, 3) := dk_180 0 7 (dk_at dksX4_writesEntry_4 8 rfl rfl)
theorem dX4_writesEntry_105 : decode cX4_writesEntry 105 = .ok (.iload_n 1, 1) := dk_27 (dk_at dksX4_writesEntry_4 11 rfl rfl)
theorem dX4_writesEntry_106 : decode cX4_writesEntry 106 = .ok (.iload_n 2, 1) := dk_28 (dk_at dksX4_writesEntry_4 12 rfl rfl)
theorem dX4_writesEntry_107 : decode cX4_writesEntry 107 = .ok (.iconst 2, 1) := dk_5 (dk_at dksX4_writesEntry_4 13 rfl rfl)
theorem dX4_writesEntry_108 : decode cX4_writesEntry 108 = .ok (.invokestatic 136, 3) := dk_184 0 136 (dk_at dksX4_writesEntry_4 14 rfl rfl)
theorem dX4_writesEntry_111 : decode cX4_writesEntry 111 = .ok (.iaload, 1) := dk_46 (dk_at dksX4_writesEntry_4 17 rfl rfl)
theorem dX4_writesEntry_112 : decode cX4_writesEntry 112 = .ok (.invokevirtual 274, 3) := dk_182 1 18 (dk_at dksX4_writesEntry_4 18 rfl rfl)
theorem dX4_writesEntry_115 : decode cX4_writesEntry 115 = .ok (.return_, 1) := dk_177 (dk_at dksX4_writesEntry_4 21 rfl rfl)
abbrev cX4_character : ByteArray := prog_20_method_81_code
def yX4_character : MethodName := ⟨RX4, "character", "(I)I"⟩
def dkwX4_character_1 : List UInt8 := [172]
abbrev dktX4_character_1 : List UInt8 := dkwX4_character_1 ++ []
def dkwX4_character_0 : List UInt8 := [27, 3, 42, 180, 1, 12, 4, 100, 184, 0, 87, 153, 0, 12, 42, 180, 0, 70, 27, 46, 167, 0, 4, 2]
abbrev dktX4_character_0 : List UInt8 := dkwX4_character_0 ++ dktX4_character_1
theorem dksX4_character_0 : cX4_character.data.toList.drop 0 = dktX4_character_0 := by decide +kernel
theorem dksX4_character_1 : cX4_character.data.toList.drop 24 = dktX4_character_1 := dk_seg dksX4_character_0 24 rfl rfl
theorem dX4_character_0 : decode cX4_character 0 = .ok (.iload_n 1, 1) := dk_27 (dk_at dksX4_character_0 0 rfl rfl)
theorem dX4_character_1 : decode cX4_character 1 = .ok (.iconst 0, 1) := dk_3 (dk_at dksX4_character_0 1 rfl rfl)
theorem dX4_character_2 : decode cX4_character 2 = .ok (.aload_n 0, 1) := dk_42 (dk_at dksX4_character_0 2 rfl rfl)
theorem dX4_character_3 : decode cX4_character 3 = .ok (.getfield 268, 3) := dk_180 1 12 (dk_at dksX4_character_0 3 rfl rfl)
theorem dX4_character_6 : decode cX4_character 6 = .ok (.iconst 1, 1) := dk_4 (dk_at dksX4_character_0 6 rfl rfl)
theorem dX4_character_7 : decode cX4_character 7 = .ok (.isub, 1) := dk_100 (dk_at dksX4_character_0 7 rfl rfl)
theorem dX4_character_8 : decode cX4_character 8 = .ok (.invokestatic 87, 3) := dk_184 0 87 (dk_at dksX4_character_0 8 rfl rfl)
theorem dX4_character_11 : decode cX4_character 11 = .ok (.ifCond .eq 12, 3) := dk_153 0 12 (dk_at dksX4_character_0 11 rfl rfl)
theorem dX4_character_14 : decode cX4_character 14 = .ok (.aload_n 0, 1) := dk_42 (dk_at dksX4_character_0 14 rfl rfl)
theorem dX4_character_15 : decode cX4_character 15 = .ok (.getfield 70, 3) := dk_180 0 70 (dk_at dksX4_character_0 15 rfl rfl)
theorem dX4_character_18 : decode cX4_character 18 = .ok (.iload_n 1, 1) := dk_27 (dk_at dksX4_character_0 18 rfl rfl)
theorem dX4_character_19 : decode cX4_character 19 = .ok (.iaload, 1) := dk_46 (dk_at dksX4_character_0 19 rfl rfl)
theorem dX4_character_20 : decode cX4_character 20 = .ok (.goto 4, 3) := dk_167 0 4 (dk_at dksX4_character_0 20 rfl rfl)
theorem dX4_character_23 : decode cX4_character 23 = .ok (.iconst (-1), 1) := dk_2 (dk_at dksX4_character_0 23 rfl rfl)
theorem dX4_character_24 : decode cX4_character 24 = .ok (.ireturn, 1) := dk_172 (dk_at dksX4_character_1 0 rfl rfl)
abbrev cX4_reason : ByteArray := prog_20_method_82_code
def yX4_reason : MethodName := ⟨RX4, "reason", "(Z)I"⟩
def dkwX4_reason_1 : List UInt8 := [180, 0, 73, 172]
abbrev dktX4_reason_1 : List UInt8 := dkwX4_reason_1 ++ []
def dkwX4_reason_0 : List UInt8 := [42, 180, 0, 73, 154, 0, 8, 16, 251, 167, 0, 18, 27, 153, 0, 10, 42, 180, 0, 77, 167, 0, 7, 42]
abbrev dktX4_reason_0 : List UInt8 := dkwX4_reason_0 ++ dktX4_reason_1
theorem dksX4_reason_0 : cX4_reason.data.toList.drop 0 = dktX4_reason_0 := by decide +kernel
theorem dksX4_reason_1 : cX4_reason.data.toList.drop 24 = dktX4_reason_1 := dk_seg dksX4_reason_0 24 rfl rfl
theorem dX4_reason_0 : decode cX4_reason 0 = .ok (.aload_n 0, 1) := dk_42 (dk_at dksX4_reason_0 0 rfl rfl)
theorem dX4_reason_1 : decode cX4_reason 1 = .ok (.getfield 73, 3) := dk_180 0 73 (dk_at dksX4_reason_0 1 rfl rfl)
theorem dX4_reason_4 : decode cX4_reason 4 = .ok (.ifCond .ne 8, 3) := dk_154 0 8 (dk_at dksX4_reason_0 4 rfl rfl)
theorem dX4_reason_7 : decode cX4_reason 7 = .ok (.bipush (-5), 2) := dk_16 251 (dk_at dksX4_reason_0 7 rfl rfl)
theorem dX4_reason_9 : decode cX4_reason 9 = .ok (.goto 18, 3) := dk_167 0 18 (dk_at dksX4_reason_0 9 rfl rfl)
theorem dX4_reason_12 : decode cX4_reason 12 = .ok (.iload_n 1, 1) := dk_27 (dk_at dksX4_reason_0 12 rfl rfl)
theorem dX4_reason_13 : decode cX4_reason 13 = .ok (.ifCond .eq 10, 3) := dk_153 0 10 (dk_at dksX4_reason_0 13 rfl rfl)
theorem dX4_reason_16 : decode cX4_reason 16 = .ok (.aload_n 0, 1) := dk_42 (dk_at dksX4_reason_0 16 rfl rfl)
theorem dX4_reason_17 : decode cX4_reason 17 = .ok (.getfield 77, 3) := dk_180 0 77 (dk_at dksX4_reason_0 17 rfl rfl)
theorem dX4_reason_20 : decode cX4_reason 20 = .ok (.goto 7, 3) := dk_167 0 7 (dk_at dksX4_reason_0 20 rfl rfl)
theorem dX4_reason_23 : decode cX4_reason 23 = .ok (.aload_n 0, 1) := dk_42 (dk_at dksX4_reason_0 23 rfl rfl)
theorem dX4_reason_24 : decode cX4_reason 24 = .ok (.getfield 73, 3) := dk_180 0 73 (dk_at dksX4_reason_1 0 rfl rfl)
theorem dX4_reason_27 : decode cX4_reason 27 = .ok (.ireturn, 1) := dk_172 (dk_at dksX4_reason_1 3 rfl rfl)
abbrev cX4_account : ByteArray := prog_20_method_84_code
def yX4_account : MethodName := ⟨RX4, "account", "(I)I"⟩
def dkwX4_account_6 : List UInt8 := [180, 0, 84, 172, 16, 254, 172]
abbrev dktX4_account_6 : List UInt8 := dkwX4_account_6 ++ []
def dkwX4_account_5 : List UInt8 := [4, 184, 0, 91, 42, 180, 0, 7, 16, 11, 46, 16, 15, 182, 1, 24, 172, 42, 180, 0, 210, 172, 42]
abbrev dktX4_account_5 : List UInt8 := dkwX4_account_5 ++ dktX4_account_6
def dkwX4_account_4 : List UInt8 := [16, 6, 100, 46, 172, 42, 7, 16, 6, 4, 182, 1, 24, 172, 42, 180, 0, 7, 16, 10, 46, 172, 42, 3]
abbrev dktX4_account_4 : List UInt8 := dkwX4_account_4 ++ dktX4_account_5
def dkwX4_account_3 : List UInt8 := [182, 1, 24, 172, 42, 27, 5, 100, 182, 0, 167, 172, 42, 182, 0, 111, 172, 42, 180, 0, 7, 3, 27, 96]
abbrev dktX4_account_3 : List UInt8 := dkwX4_account_3 ++ dktX4_account_4
def dkwX4_account_2 : List UInt8 := [42, 180, 0, 7, 16, 11, 46, 172, 42, 3, 5, 184, 0, 91, 42, 180, 0, 7, 16, 11, 46, 16, 15]
abbrev dktX4_account_2 : List UInt8 := dkwX4_account_2 ++ dktX4_account_3
def dkwX4_account_1 : List UInt8 := [170, 0, 0, 0, 0, 0, 173, 0, 0, 0, 0, 0, 0, 0, 14, 0, 0, 0, 75, 0, 0, 0, 83, 0, 0, 0, 102, 0, 0, 0, 102, 0, 0, 0, 102, 0, 0, 0, 110, 0, 0, 0, 115, 0, 0, 0, 115, 0, 0, 0, 115, 0, 0, 0, 115, 0, 0, 0, 127, 0, 0, 0, 136, 0, 0, 0, 144, 0, 0, 0, 163, 0, 0, 0, 168]
abbrev dktX4_account_1 : List UInt8 := dkwX4_account_1 ++ dktX4_account_2
def dkwX4_account_0 : List UInt8 := [27]
abbrev dktX4_account_0 : List UInt8 := dkwX4_account_0 ++ dktX4_account_1
theorem dksX4_account_0 : cX4_account.data.toList.drop 0 = dktX4_account_0 := by decide +kernel
theorem dksX4_account_1 : cX4_account.data.toList.drop 1 = dktX4_account_1 := dk_seg dksX4_account_0 1 rfl rfl
theorem dksX4_account_2 : cX4_account.data.toList.drop 76 = dktX4_account_2 := dk_seg dksX4_account_1 75 rfl rfl
theorem dksX4_account_3 : cX4_account.data.toList.drop 99 = dktX4_account_3 := dk_seg dksX4_account_2 23 rfl rfl
theorem dksX4_account_4 : cX4_account.data.toList.drop 123 = dktX4_account_4 := dk_seg dksX4_account_3 24 rfl rfl
theorem dksX4_account_5 : cX4_account.data.toList.drop 147 = dktX4_account_5 := dk_seg dksX4_account_4 24 rfl rfl
theorem dksX4_account_6 : cX4_account.data.toList.drop 170 = dktX4_account_6 := dk_seg dksX4_account_5 23 rfl rfl
theorem dX4_account_0 : decode cX4_account 0 = .ok (.iload_n 1, 1) := dk_27 (dk_at dksX4_account_0 0 rfl rfl)
theorem dX4_account_1 : decode cX4_account 1 = .ok (.tableswitch 173 0 14 #[75, 83, 102, 102, 102, 110, 115, 115, 115, 115, 127, 136, 144, 163, 168], 75) := by decide +kernel
theorem dX4_account_76 : decode cX4_account 76 = .ok (.aload_n 0, 1) := dk_42 (dk_at dksX4_account_2 0 rfl rfl)
theorem dX4_account_77 : decode cX4_account 77 = .ok (.getfield 7, 3) := dk_180 0 7 (dk_at dksX4_account_2 1 rfl rfl)
theorem dX4_account_80 : decode cX4_account 80 = .ok (.bipush 11, 2) := dk_16 11 (dk_at dksX4_account_2 4 rfl rfl)
theorem dX4_account_82 : decode cX4_account 82 = .ok (.iaload, 1) := dk_46 (dk_at dksX4_account_2 6 rfl rfl)
theorem dX4_account_83 : decode cX4_account 83 = .ok (.ireturn, 1) := dk_172 (dk_at dksX4_account_2 7 rfl rfl)
theorem dX4_account_84 : decode cX4_account 84 = .ok (.aload_n 0, 1) := dk_42 (dk_at dksX4_account_2 8 rfl rfl)
theorem dX4_account_85 : decode cX4_account 85 = .ok (.iconst 0, 1) := dk_3 (dk_at dksX4_account_2 9 rfl rfl)
theorem dX4_account_86 : decode cX4_account 86 = .ok (.iconst 2, 1) := dk_5 (dk_at dksX4_account_2 10 rfl rfl)
theorem dX4_account_87 : decode cX4_account 87 = .ok (.invokestatic 91, 3) := dk_184 0 91 (dk_at dksX4_account_2 11 rfl rfl)
theorem dX4_account_90 : decode cX4_account 90 = .ok (.aload_n 0, 1) := dk_42 (dk_at dksX4_account_2 14 rfl rfl)
theorem dX4_account_91 : decode cX4_account 91 = .ok (.getfield 7, 3) := dk_180 0 7 (dk_at dksX4_account_2 15 rfl rfl)
theorem dX4_account_94 : decode cX4_account 94 = .ok (.bipush 11, 2) := dk_16 11 (dk_at dksX4_account_2 18 rfl rfl)
theorem dX4_account_96 : decode cX4_account 96 = .ok (.iaload, 1) := dk_46 (dk_at dksX4_account_2 20 rfl rfl)
theorem dX4_account_97 : decode cX4_account 97 = .ok (.bipush 15, 2) := dk_16 15 (dk_at dksX4_account_2 21 rfl rfl)
theorem dX4_account_99 : decode cX4_account 99 = .ok (.invokevirtual 280, 3) := dk_182 1 24 (dk_at dksX4_account_3 0 rfl rfl)
theorem dX4_account_102 : decode cX4_account 102 = .ok (.ireturn, 1) := dk_172 (dk_at dksX4_account_3 3 rfl rfl)
theorem dX4_account_103 : decode cX4_account 103 = .ok (.aload_n 0, 1) := dk_42 (dk_at dksX4_account_3 4 rfl rfl)
theorem dX4_account_104 : decode cX4_account 104 = .ok (.iload_n 1, 1) := dk_27 (dk_at dksX4_account_3 5 rfl rfl)
theorem dX4_account_105 : decode cX4_account 105 = .ok (.iconst 2, 1) := dk_5 (dk_at dksX4_account_3 6 rfl rfl)
theorem dX4_account_106 : decode cX4_account 106 = .ok (.isub, 1) := dk_100 (dk_at dksX4_account_3 7 rfl rfl)
theorem dX4_account_107 : decode cX4_account 107 = .ok (.invokevirtual 167, 3) := dk_182 0 167 (dk_at dksX4_account_3 8 rfl rfl)
theorem dX4_account_110 : decode cX4_account 110 = .ok (.ireturn, 1) := dk_172 (dk_at dksX4_account_3 11 rfl rfl)
theorem dX4_account_111 : decode cX4_account 111 = .ok (.aload_n 0, 1) := dk_42 (dk_at dksX4_account_3 12 rfl rfl)
theorem dX4_account_112 : decode cX4_account 112 = .ok (.invokevirtual 111, 3) := dk_182 0 111 (dk_at dksX4_account_3 13 rfl rfl)
theorem dX4_account_115 : decode cX4_account 115 = .ok (.ireturn, 1) := dk_172 (dk_at dksX4_account_3 16 rfl rfl)
theorem dX4_account_116 : decode cX4_account 116 = .ok (.aload_n 0, 1) := dk_42 (dk_at dksX4_account_3 17 rfl rfl)
theorem dX4_account_117 : decode cX4_account 117 = .ok (.getfield 7, 3) := dk_180 0 7 (dk_at dksX4_account_3 18 rfl rfl)
theorem dX4_account_120 : decode cX4_account 120 = .ok (.iconst 0, 1) := dk_3 (dk_at dksX4_account_3 21 rfl rfl)
theorem dX4_account_121 : decode cX4_account 121 = .ok (.iload_n 1, 1) := dk_27 (dk_at dksX4_account_3 22 rfl rfl)
theorem dX4_account_122 : decode cX4_account 122 = .ok (.iadd, 1) := dk_96 (dk_at dksX4_account_3 23 rfl rfl)
theorem dX4_account_123 : decode cX4_account 123 = .ok (.bipush 6, 2) := dk_16 6 (dk_at dksX4_account_4 0 rfl rfl)
theorem dX4_account_125 : decode cX4_account 125 = .ok (.isub, 1) := dk_100 (dk_at dksX4_account_4 2 rfl rfl)
theorem dX4_account_126 : decode cX4_account 126 = .ok (.iaload, 1) := dk_46 (dk_at dksX4_account_4 3 rfl rfl)
theorem dX4_account_127 : decode cX4_account 127 = .ok (.ireturn, 1) := dk_172 (dk_at dksX4_account_4 4 rfl rfl)
theorem dX4_account_128 : decode cX4_account 128 = .ok (.aload_n 0, 1) := dk_42 (dk_at dksX4_account_4 5 rfl rfl)
theorem dX4_account_129 : decode cX4_account 129 = .ok (.iconst 4, 1) := dk_7 (dk_at dksX4_account_4 6 rfl rfl)
theorem dX4_account_130 : decode cX4_account 130 = .ok (.bipush 6, 2) := dk_16 6 (dk_at dksX4_account_4 7 rfl rfl)
theorem dX4_account_132 : decode cX4_account 132 = .ok (.iconst 1, 1) := dk_4 (dk_at dksX4_account_4 9 rfl rfl)
theorem dX4_account_133 : decode cX4_account 133 = .ok (.invokevirtual 280, 3) := dk_182 1 24 (dk_at dksX4_account_4 10 rfl rfl)
theorem dX4_account_136 : decode cX4_account 136 = .ok (.ireturn, 1) := dk_172 (dk_at dksX4_account_4 13 rfl rfl)
theorem dX4_account_137 : decode cX4_account 137 = .ok (.aload_n 0, 1) := dk_42 (dk_at dksX4_account_4 14 rfl rfl)
theorem dX4_account_138 : decode cX4_account 138 = .ok (.getfield 7, 3) := dk_180 0 7 (dk_at dksX4_account_4 15 rfl rfl)
theorem dX4_account_141 : decode cX4_account 141 = .ok (.bipush 10, 2) := dk_16 10 (dk_at dksX4_account_4 18 rfl rfl)
theorem dX4_account_143 : decode cX4_account 143 = .ok (.iaload, 1) := dk_46 (dk_at dksX4_account_4 20 rfl rfl)
theorem dX4_account_144 : decode cX4_account 144 = .ok (.ireturn, 1) := dk_172 (dk_at dksX4_account_4 21 rfl rfl)
theorem dX4_account_145 : decode cX4_account 145 = .ok (.aload_n 0, 1) := dk_42 (dk_at dksX4_account_4 22 rfl rfl)
theorem dX4_account_146 : decode cX4_account 146 = .ok (.iconst 0, 1) := dk_3 (dk_at dksX4_account_4 23 rfl rfl)
theorem dX4_account_147 : decode cX4_account 147 = .ok (.iconst 1, 1) := dk_4 (dk_at dksX4_account_5 0 rfl rfl)
theorem dX4_account_148 : decode cX4_account 148 = .ok (.invokestatic 91, 3) := dk_184 0 91 (dk_at dksX4_account_5 1 rfl rfl)
theorem dX4_account_151 : decode cX4_account 151 = .ok (.aload_n 0, 1) := dk_42 (dk_at dksX4_account_5 4 rfl rfl)
theorem dX4_account_152 : decode cX4_account 152 = .ok (.getfield 7, 3) := dk_180 0 7 (dk_at dksX4_account_5 5 rfl rfl)
theorem dX4_account_155 : decode cX4_account 155 = .ok (.bipush 11, 2) := dk_16 11 (dk_at dksX4_account_5 8 rfl rfl)
theorem dX4_account_157 : decode cX4_account 157 = .ok (.iaload, 1) := dk_46 (dk_at dksX4_account_5 10 rfl rfl)
theorem dX4_account_158 : decode cX4_account 158 = .ok (.bipush 15, 2) := dk_16 15 (dk_at dksX4_account_5 11 rfl rfl)
theorem dX4_account_160 : decode cX4_account 160 = .ok (.invokevirtual 280, 3) := dk_182 1 24 (dk_at dksX4_account_5 13 rfl rfl)
theorem dX4_account_163 : decode cX4_account 163 = .ok (.ireturn, 1) := dk_172 (dk_at dksX4_account_5 16 rfl rfl)
theorem dX4_account_164 : decode cX4_account 164 = .ok (.aload_n 0, 1) := dk_42 (dk_at dksX4_account_5 17 rfl rfl)
theorem dX4_account_165 : decode cX4_account 165 = .ok (.getfield 210, 3) := dk_180 0 210 (dk_at dksX4_account_5 18 rfl rfl)
theorem dX4_account_168 : decode cX4_account 168 = .ok (.ireturn, 1) := dk_172 (dk_at dksX4_account_5 21 rfl rfl)
theorem dX4_account_169 : decode cX4_account 169 = .ok (.aload_n 0, 1) := dk_42 (dk_at dksX4_account_5 22 rfl rfl)
theorem dX4_account_170 : decode cX4_account 170 = .ok (.getfield 84, 3) := dk_180 0 84 (dk_at dksX4_account_6 0 rfl rfl)
theorem dX4_account_173 : decode cX4_account 173 = .ok (.ireturn, 1) := dk_172 (dk_at dksX4_account_6 3 rfl rfl)
theorem dX4_account_174 : decode cX4_account 174 = .ok (.bipush (-2), 2) := dk_16 254 (dk_at dksX4_account_6 4 rfl rfl)
theorem dX4_account_176 : decode cX4_account 176 = .ok (.ireturn, 1) := dk_172 (dk_at dksX4_account_6 6 rfl rfl)
abbrev cX4_sum : ByteArray := prog_20_method_83_code
def yX4_sum : MethodName := ⟨RX4, "sum", "(III)I"⟩
def dkwX4_sum_1 : List UInt8 := [46, 96, 54, 4, 132, 5, 1, 167, 255, 231, 21, 4, 172]
abbrev dktX4_sum_1 : List UInt8 := dkwX4_sum_1 ++ []
def dkwX4_sum_0 : List UInt8 := [3, 54, 4, 3, 54, 5, 21, 5, 28, 162, 0, 25, 21, 4, 42, 180, 0, 7, 27, 29, 21, 5, 104, 96]
abbrev dktX4_sum_0 : List UInt8 := dkwX4_sum_0 ++ dktX4_sum_1
theorem dksX4_sum_0 : cX4_sum.data.toList.drop 0 = dktX4_sum_0 := by decide +kernel
theorem dksX4_sum_1 : cX4_sum.data.toList.drop 24 = dktX4_sum_1 := dk_seg dksX4_sum_0 24 rfl rfl
theorem dX4_sum_0 : decode cX4_sum 0 = .ok (.iconst 0, 1) := dk_3 (dk_at dksX4_sum_0 0 rfl rfl)
theorem dX4_sum_1 : decode cX4_sum 1 = .ok (.istore 4, 2) := dk_54 4 (dk_at dksX4_sum_0 1 rfl rfl)
theorem dX4_sum_3 : decode cX4_sum 3 = .ok (.iconst 0, 1) := dk_3 (dk_at dksX4_sum_0 3 rfl rfl)
theorem dX4_sum_4 : decode cX4_sum 4 = .ok (.istore 5, 2) := dk_54 5 (dk_at dksX4_sum_0 4 rfl rfl)
theorem dX4_sum_6 : decode cX4_sum 6 = .ok (.iload 5, 2) := dk_21 5 (dk_at dksX4_sum_0 6 rfl rfl)
theorem dX4_sum_8 : decode cX4_sum 8 = .ok (.iload_n 2, 1) := dk_28 (dk_at dksX4_sum_0 8 rfl rfl)
theorem dX4_sum_9 : decode cX4_sum 9 = .ok (.if_icmp .ge 25, 3) := dk_162 0 25 (dk_at dksX4_sum_0 9 rfl rfl)
theorem dX4_sum_12 : decode cX4_sum 12 = .ok (.iload 4, 2) := dk_21 4 (dk_at dksX4_sum_0 12 rfl rfl)
theorem dX4_sum_14 : decode cX4_sum 14 = .ok (.aload_n 0, 1) := dk_42 (dk_at dksX4_sum_0 14 rfl rfl)
theorem dX4_sum_15 : decode cX4_sum 15 = .ok (.getfield 7, 3) := dk_180 0 7 (dk_at dksX4_sum_0 15 rfl rfl)
theorem dX4_sum_18 : decode cX4_sum 18 = .ok (.iload_n 1, 1) := dk_27 (dk_at dksX4_sum_0 18 rfl rfl)
theorem dX4_sum_19 : decode cX4_sum 19 = .ok (.iload_n 3, 1) := dk_29 (dk_at dksX4_sum_0 19 rfl rfl)
theorem dX4_sum_20 : decode cX4_sum 20 = .ok (.iload 5, 2) := dk_21 5 (dk_at dksX4_sum_0 20 rfl rfl)
theorem dX4_sum_22 : decode cX4_sum 22 = .ok (.imul, 1) := dk_104 (dk_at dksX4_sum_0 22 rfl rfl)
theorem dX4_sum_23 : decode cX4_sum 23 = .ok (.iadd, 1) := dk_96 (dk_at dksX4_sum_0 23 rfl rfl)
theorem dX4_sum_24 : decode cX4_sum 24 = .ok (.iaload, 1) := dk_46 (dk_at dksX4_sum_1 0 rfl rfl)
theorem dX4_sum_25 : decode cX4_sum 25 = .ok (.iadd, 1) := dk_96 (dk_at dksX4_sum_1 1 rfl rfl)
theorem dX4_sum_26 : decode cX4_sum 26 = .ok (.istore 4, 2) := dk_54 4 (dk_at dksX4_sum_1 2 rfl rfl)
theorem dX4_sum_28 : decode cX4_sum 28 = .ok (.iinc 5 1, 3) := dk_132 5 1 (dk_at dksX4_sum_1 4 rfl rfl)
theorem dX4_sum_31 : decode cX4_sum 31 = .ok (.goto (-25), 3) := dk_167 255 231 (dk_at dksX4_sum_1 7 rfl rfl)
theorem dX4_sum_34 : decode cX4_sum 34 = .ok (.iload 4, 2) := dk_21 4 (dk_at dksX4_sum_1 10 rfl rfl)
theorem dX4_sum_36 : decode cX4_sum 36 = .ok (.ireturn, 1) := dk_172 (dk_at dksX4_sum_1 12 rfl rfl)
abbrev cX4_undo : ByteArray := prog_20_method_85_code
def yX4_undo : MethodName := ⟨RX4, "undo", "()I"⟩
def dkwX4_undo_2 : List UInt8 := [96, 46, 79, 132, 1, 1, 167, 255, 225, 42, 180, 0, 84, 172]
abbrev dktX4_undo_2 : List UInt8 := dkwX4_undo_2 ++ []
def dkwX4_undo_1 : List UInt8 := [17, 1, 98, 162, 0, 30, 42, 180, 0, 7, 27, 42, 180, 0, 19, 42, 180, 0, 84, 17, 1, 98, 104, 27]
abbrev dktX4_undo_1 : List UInt8 := dkwX4_undo_1 ++ dktX4_undo_2
def dkwX4_undo_0 : List UInt8 := [42, 180, 0, 84, 154, 0, 6, 16, 251, 172, 42, 89, 180, 0, 84, 4, 100, 181, 0, 84, 3, 60, 27]
abbrev dktX4_undo_0 : List UInt8 := dkwX4_undo_0 ++ dktX4_undo_1
theorem dksX4_undo_0 : cX4_undo.data.toList.drop 0 = dktX4_undo_0 := by decide +kernel
theorem dksX4_undo_1 : cX4_undo.data.toList.drop 23 = dktX4_undo_1 := dk_seg dksX4_undo_0 23 rfl rfl
theorem dksX4_undo_2 : cX4_undo.data.toList.drop 47 = dktX4_undo_2 := dk_seg dksX4_undo_1 24 rfl rfl
theorem dX4_undo_0 : decode cX4_undo 0 = .ok (.aload_n 0, 1) := dk_42 (dk_at dksX4_undo_0 0 rfl rfl)
theorem dX4_undo_1 : decode cX4_undo 1 = .ok (.getfield 84, 3) := dk_180 0 84 (dk_at dksX4_undo_0 1 rfl rfl)
theorem dX4_undo_4 : decode cX4_undo 4 = .ok (.ifCond .ne 6, 3) := dk_154 0 6 (dk_at dksX4_undo_0 4 rfl rfl)
theorem dX4_undo_7 : decode cX4_undo 7 = .ok (.bipush (-5), 2) := dk_16 251 (dk_at dksX4_undo_0 7 rfl rfl)
theorem dX4_undo_9 : decode cX4_undo 9 = .ok (.ireturn, 1) := dk_172 (dk_at dksX4_undo_0 9 rfl rfl)
theorem dX4_undo_10 : decode cX4_undo 10 = .ok (.aload_n 0, 1) := dk_42 (dk_at dksX4_undo_0 10 rfl rfl)
theorem dX4_undo_11 : decode cX4_undo 11 = .ok (.dup, 1) := dk_89 (dk_at dksX4_undo_0 11 rfl rfl)
theorem dX4_undo_12 : decode cX4_undo 12 = .ok (.getfield 84, 3) := dk_180 0 84 (dk_at dksX4_undo_0 12 rfl rfl)
theorem dX4_undo_15 : decode cX4_undo 15 = .ok (.iconst 1, 1) := dk_4 (dk_at dksX4_undo_0 15 rfl rfl)
theorem dX4_undo_16 : decode cX4_undo 16 = .ok (.isub, 1) := dk_100 (dk_at dksX4_undo_0 16 rfl rfl)
theorem dX4_undo_17 : decode cX4_undo 17 = .ok (.putfield 84, 3) := dk_181 0 84 (dk_at dksX4_undo_0 17 rfl rfl)
theorem dX4_undo_20 : decode cX4_undo 20 = .ok (.iconst 0, 1) := dk_3 (dk_at dksX4_undo_0 20 rfl rfl)
theorem dX4_undo_21 : decode cX4_undo 21 = .ok (.istore_n 1, 1) := dk_60 (dk_at dksX4_undo_0 21 rfl rfl)
theorem dX4_undo_22 : decode cX4_undo 22 = .ok (.iload_n 1, 1) := dk_27 (dk_at dksX4_undo_0 22 rfl rfl)
theorem dX4_undo_23 : decode cX4_undo 23 = .ok (.sipush 354, 3) := dk_17 1 98 (dk_at dksX4_undo_1 0 rfl rfl)
theorem dX4_undo_26 : decode cX4_undo 26 = .ok (.if_icmp .ge 30, 3) := dk_162 0 30 (dk_at dksX4_undo_1 3 rfl rfl)
theorem dX4_undo_29 : decode cX4_undo 29 = .ok (.aload_n 0, 1) := dk_42 (dk_at dksX4_undo_1 6 rfl rfl)
theorem dX4_undo_30 : decode cX4_undo 30 = .ok (.getfield 7, 3) := dk_180 0 7 (dk_at dksX4_undo_1 7 rfl rfl)
theorem dX4_undo_33 : decode cX4_undo 33 = .ok (.iload_n 1, 1) := dk_27 (dk_at dksX4_undo_1 10 rfl rfl)
theorem dX4_undo_34 : decode cX4_undo 34 = .ok (.aload_n 0, 1) := dk_42 (dk_at dksX4_undo_1 11 rfl rfl)
theorem dX4_undo_35 : decode cX4_undo 35 = .ok (.getfield 19, 3) := dk_180 0 19 (dk_at dksX4_undo_1 12 rfl rfl)
theorem dX4_undo_38 : decode cX4_undo 38 = .ok (.aload_n 0, 1) := dk_42 (dk_at dksX4_undo_1 15 rfl rfl)
theorem dX4_undo_39 : decode cX4_undo 39 = .ok (.getfield 84, 3) := dk_180 0 84 (dk_at dksX4_undo_1 16 rfl rfl)
theorem dX4_undo_42 : decode cX4_undo 42 = .ok (.sipush 354, 3) := dk_17 1 98 (dk_at dksX4_undo_1 19 rfl rfl)
theorem dX4_undo_45 : decode cX4_undo 45 = .ok (.imul, 1) := dk_104 (dk_at dksX4_undo_1 22 rfl rfl)
theorem dX4_undo_46 : decode cX4_undo 46 = .ok (.iload_n 1, 1) := dk_27 (dk_at dksX4_undo_1 23 rfl rfl)
theorem dX4_undo_47 : decode cX4_undo 47 = .ok (.iadd, 1) := dk_96 (dk_at dksX4_undo_2 0 rfl rfl)
theorem dX4_undo_48 : decode cX4_undo 48 = .ok (.iaload, 1) := dk_46 (dk_at dksX4_undo_2 1 rfl rfl)
theorem dX4_undo_49 : decode cX4_undo 49 = .ok (.iastore, 1) := dk_79 (dk_at dksX4_undo_2 2 rfl rfl)
theorem dX4_undo_50 : decode cX4_undo 50 = .ok (.iinc 1 1, 3) := dk_132 1 1 (dk_at dksX4_undo_2 3 rfl rfl)
theorem dX4_undo_53 : decode cX4_undo 53 = .ok (.goto (-31), 3) := dk_167 255 225 (dk_at dksX4_undo_2 6 rfl rfl)
theorem dX4_undo_56 : decode cX4_undo 56 = .ok (.aload_n 0, 1) := dk_42 (dk_at dksX4_undo_2 9 rfl rfl)
theorem dX4_undo_57 : decode cX4_undo 57 = .ok (.getfield 84, 3) := dk_180 0 84 (dk_at dksX4_undo_2 10 rfl rfl)
theorem dX4_undo_60 : decode cX4_undo 60 = .ok (.ireturn, 1) := dk_172 (dk_at dksX4_undo_2 13 rfl rfl)
abbrev cX4_save : ByteArray := prog_20_method_86_code
def yX4_save : MethodName := ⟨RX4, "save", "()I"⟩
def dkwX4_save_0 : List UInt8 := [42, 180, 0, 16, 42, 180, 0, 7, 184, 0, 80, 42, 4, 181, 1, 27, 42, 180, 0, 7, 16, 11, 46, 172]
abbrev dktX4_save_0 : List UInt8 := dkwX4_save_0 ++ []
theorem dksX4_save_0 : cX4_save.data.toList.drop 0 = dktX4_save_0 := by decide +kernel
theorem dX4_save_0 : decode cX4_save 0 = .ok (.aload_n 0, 1) := dk_42 (dk_at dksX4_save_0 0 rfl rfl)
theorem dX4_save_1 : decode cX4_save 1 = .ok (.getfield 16, 3) := dk_180 0 16 (dk_at dksX4_save_0 1 rfl rfl)
theorem dX4_save_4 : decode cX4_save 4 = .ok (.aload_n 0, 1) := dk_42 (dk_at dksX4_save_0 4 rfl rfl)
theorem dX4_save_5 : decode cX4_save 5 = .ok (.getfield 7, 3) := dk_180 0 7 (dk_at dksX4_save_0 5 rfl rfl)
theorem dX4_save_8 : decode cX4_save 8 = .ok (.invokestatic 80, 3) := dk_184 0 80 (dk_at dksX4_save_0 8 rfl rfl)
theorem dX4_save_11 : decode cX4_save 11 = .ok (.aload_n 0, 1) := dk_42 (dk_at dksX4_save_0 11 rfl rfl)
theorem dX4_save_12 : decode cX4_save 12 = .ok (.iconst 1, 1) := dk_4 (dk_at dksX4_save_0 12 rfl rfl)
theorem dX4_save_13 : decode cX4_save 13 = .ok (.putfield 283, 3) := dk_181 1 27 (dk_at dksX4_save_0 13 rfl rfl)
theorem dX4_save_16 : decode cX4_save 16 = .ok (.aload_n 0, 1) := dk_42 (dk_at dksX4_save_0 16 rfl rfl)
theorem dX4_save_17 : decode cX4_save 17 = .ok (.getfield 7, 3) := dk_180 0 7 (dk_at dksX4_save_0 17 rfl rfl)
theorem dX4_save_20 : decode cX4_save 20 = .ok (.bipush 11, 2) := dk_16 11 (dk_at dksX4_save_0 20 rfl rfl)
theorem dX4_save_22 : decode cX4_save 22 = .ok (.iaload, 1) := dk_46 (dk_at dksX4_save_0 22 rfl rfl)
theorem dX4_save_23 : decode cX4_save 23 = .ok (.ireturn, 1) := dk_172 (dk_at dksX4_save_0 23 rfl rfl)
abbrev cX4_restore : ByteArray := prog_20_method_87_code
def yX4_restore : MethodName := ⟨RX4, "restore", "()I"⟩
def dkwX4_restore_1 : List UInt8 := [181, 0, 84, 42, 180, 0, 7, 16, 11, 46, 172]
abbrev dktX4_restore_1 : List UInt8 := dkwX4_restore_1 ++ []
def dkwX4_restore_0 : List UInt8 := [42, 180, 1, 27, 154, 0, 6, 16, 251, 172, 42, 180, 0, 7, 42, 180, 0, 16, 184, 0, 80, 42, 3]
abbrev dktX4_restore_0 : List UInt8 := dkwX4_restore_0 ++ dktX4_restore_1
theorem dksX4_restore_0 : cX4_restore.data.toList.drop 0 = dktX4_restore_0 := by decide +kernel
theorem dksX4_restore_1 : cX4_restore.data.toList.drop 23 = dktX4_restore_1 := dk_seg dksX4_restore_0 23 rfl rfl
theorem dX4_restore_0 : decode cX4_restore 0 = .ok (.aload_n 0, 1) := dk_42 (dk_at dksX4_restore_0 0 rfl rfl)
theorem dX4_restore_1 : decode cX4_restore 1 = .ok (.getfield 283, 3) := dk_180 1 27 (dk_at dksX4_restore_0 1 rfl rfl)
theorem dX4_restore_4 : decode cX4_restore 4 = .ok (.ifCond .ne 6, 3) := dk_154 0 6 (dk_at dksX4_restore_0 4 rfl rfl)
theorem dX4_restore_7 : decode cX4_restore 7 = .ok (.bipush (-5), 2) := dk_16 251 (dk_at dksX4_restore_0 7 rfl rfl)
theorem dX4_restore_9 : decode cX4_restore 9 = .ok (.ireturn, 1) := dk_172 (dk_at dksX4_restore_0 9 rfl rfl)
theorem dX4_restore_10 : decode cX4_restore 10 = .ok (.aload_n 0, 1) := dk_42 (dk_at dksX4_restore_0 10 rfl rfl)
theorem dX4_restore_11 : decode cX4_restore 11 = .ok (.getfield 7, 3) := dk_180 0 7 (dk_at dksX4_restore_0 11 rfl rfl)
theorem dX4_restore_14 : decode cX4_restore 14 = .ok (.aload_n 0, 1) := dk_42 (dk_at dksX4_restore_0 14 rfl rfl)
theorem dX4_restore_15 : decode cX4_restore 15 = .ok (.getfield 16, 3) := dk_180 0 16 (dk_at dksX4_restore_0 15 rfl rfl)
theorem dX4_restore_18 : decode cX4_restore 18 = .ok (.invokestatic 80, 3) := dk_184 0 80 (dk_at dksX4_restore_0 18 rfl rfl)
theorem dX4_restore_21 : decode cX4_restore 21 = .ok (.aload_n 0, 1) := dk_42 (dk_at dksX4_restore_0 21 rfl rfl)
theorem dX4_restore_22 : decode cX4_restore 22 = .ok (.iconst 0, 1) := dk_3 (dk_at dksX4_restore_0 22 rfl rfl)
theorem dX4_restore_23 : decode cX4_restore 23 = .ok (.putfield 84, 3) := dk_181 0 84 (dk_at dksX4_restore_1 0 rfl rfl)
theorem dX4_restore_26 : decode cX4_restore 26 = .ok (.aload_n 0, 1) := dk_42 (dk_at dksX4_restore_1 3 rfl rfl)
theorem dX4_restore_27 : decode cX4_restore 27 = .ok (.getfield 7, 3) := dk_180 0 7 (dk_at dksX4_restore_1 4 rfl rfl)
theorem dX4_restore_30 : decode cX4_restore 30 = .ok (.bipush 11, 2) := dk_16 11 (dk_at dksX4_restore_1 7 rfl rfl)
theorem dX4_restore_32 : decode cX4_restore 32 = .ok (.iaload, 1) := dk_46 (dk_at dksX4_restore_1 9 rfl rfl)
theorem dX4_restore_33 : decode cX4_restore 33 = .ok (.ireturn, 1) := dk_172 (dk_at dksX4_restore_1 10 rfl rfl)
theorem q108 : (Jvm.Cond.initialized "WhalingLogsModel") ∈ lw_all := lw_g (lw_at lw_m1 15 rfl) rfl
theorem q686 : (Jvm.Cond.selects "WhalingLogsModel" ({ cls := "java/lang/Object", name := "getClass", desc := "()Ljava/lang/Class;" } : Jvm.MethodName) ({ cls := "java/lang/Object", name := "getClass", desc := "()Ljava/lang/Class;" } : Jvm.MethodName)) ∈ lw_all := lw_g (lw_at lw_m3 113 rfl) rfl
theorem q2135 : (Jvm.Cond.instantiable "WhalingLogsModel" (34 : Nat)) ∈ lw_all := lw_g (lw_at lw_m9 122 rfl) rfl
theorem q2137 : (Jvm.Cond.instanceMethod ({ cls := "WhalingLogsModel", name := "<init>", desc := "()V" } : Jvm.MethodName)) ∈ lw_all := lw_g (lw_at lw_m9 124 rfl) rfl
theorem q2138 : (Jvm.Cond.code ({ cls := "WhalingLogsModel", name := "<init>", desc := "()V" } : Jvm.MethodName) prog_20_method_1_code (1 : Nat) (Option.none : Option Jvm.ClassFile.FieldType)) ∈ lw_all := lw_g (lw_at lw_m9 125 rfl) rfl
theorem q2139 : (Jvm.Cond.methodLink "WhalingLogsModel" (1 : Nat) ({ cls := "java/lang/Object", name := "<init>", desc := "()V" } : Jvm.MethodName)) ∈ lw_all := lw_g (lw_at lw_m9 126 rfl) rfl
theorem q2140 : (Jvm.Cond.fieldLink "WhalingLogsModel" (7 : Nat) "WhalingLogsModel" "v" "[I") ∈ lw_all := lw_g (lw_at lw_m9 127 rfl) rfl
theorem q2141 : (Jvm.Cond.fieldLink "WhalingLogsModel" (13 : Nat) "WhalingLogsModel" "ahead" "[I") ∈ lw_all := lw_g (lw_at lw_m9 128 rfl) rfl
theorem q2142 : (Jvm.Cond.fieldLink "WhalingLogsModel" (16 : Nat) "WhalingLogsModel" "saved" "[I") ∈ lw_all := lw_g (lw_at lw_m9 129 rfl) rfl
theorem q2143 : (Jvm.Cond.fieldLink "WhalingLogsModel" (19 : Nat) "WhalingLogsModel" "past" "[I") ∈ lw_all := lw_g (lw_at lw_m9 130 rfl) rfl
theorem q2144 : (Jvm.Cond.fieldLink "WhalingLogsModel" (22 : Nat) "WhalingLogsModel" "pageAt" "[I") ∈ lw_all := lw_g (lw_at lw_m9 131 rfl) rfl
theorem q2145 : (Jvm.Cond.fieldLink "WhalingLogsModel" (25 : Nat) "WhalingLogsModel" "numberAt" "[I") ∈ lw_all := lw_g (lw_at lw_m9 132 rfl) rfl
theorem q2146 : (Jvm.Cond.fieldLink "WhalingLogsModel" (28 : Nat) "WhalingLogsModel" "apart" "[I") ∈ lw_all := lw_g (lw_at lw_m9 133 rfl) rfl
theorem q2147 : (Jvm.Cond.fieldLink "WhalingLogsModel" (31 : Nat) "WhalingLogsModel" "best" "[I") ∈ lw_all := lw_g (lw_at lw_m9 134 rfl) rfl
theorem q2148 : (Jvm.Cond.fieldLink "WhalingLogsModel" (34 : Nat) "WhalingLogsModel" "next" "[I") ∈ lw_all := lw_g (lw_at lw_m9 135 rfl) rfl
theorem q2149 : (Jvm.Cond.fieldLink "WhalingLogsModel" (37 : Nat) "WhalingLogsModel" "track" "[I") ∈ lw_all := lw_g (lw_at lw_m9 136 rfl) rfl
theorem q2150 : (Jvm.Cond.fieldLink "WhalingLogsModel" (40 : Nat) "WhalingLogsModel" "bad" "[I") ∈ lw_all := lw_g (lw_at lw_m9 137 rfl) rfl
theorem q2151 : (Jvm.Cond.fieldLink "WhalingLogsModel" (43 : Nat) "WhalingLogsModel" "steps" "[I") ∈ lw_all := lw_g (lw_at lw_m9 138 rfl) rfl
theorem q2152 : (Jvm.Cond.fieldLink "WhalingLogsModel" (46 : Nat) "WhalingLogsModel" "queue" "[I") ∈ lw_all := lw_g (lw_at lw_m9 139 rfl) rfl
theorem q2153 : (Jvm.Cond.fieldLink "WhalingLogsModel" (49 : Nat) "WhalingLogsModel" "one" "[I") ∈ lw_all := lw_g (lw_at lw_m9 140 rfl) rfl
theorem q2154 : (Jvm.Cond.fieldLink "WhalingLogsModel" (102 : Nat) "WhalingLogsModel" "listN" "I") ∈ lw_all := lw_g (lw_at lw_m9 141 rfl) rfl
theorem q2155 : (Jvm.Cond.fieldLink "WhalingLogsModel" (185 : Nat) "WhalingLogsModel" "trackN" "I") ∈ lw_all := lw_g (lw_at lw_m9 142 rfl) rfl
theorem q2156 : (Jvm.Cond.fieldLink "WhalingLogsModel" (200 : Nat) "WhalingLogsModel" "trackWeight" "I") ∈ lw_all := lw_g (lw_at lw_m9 143 rfl) rfl
theorem q2157 : (Jvm.Cond.fieldLink "WhalingLogsModel" (84 : Nat) "WhalingLogsModel" "changes" "I") ∈ lw_all := lw_g (lw_at lw_m9 144 rfl) rfl
theorem q2158 : (Jvm.Cond.fieldLink "WhalingLogsModel" (73 : Nat) "WhalingLogsModel" "why" "I") ∈ lw_all := lw_g (lw_at lw_m9 145 rfl) rfl
theorem q2159 : (Jvm.Cond.fieldLink "WhalingLogsModel" (77 : Nat) "WhalingLogsModel" "detail" "I") ∈ lw_all := lw_g (lw_at lw_m9 146 rfl) rfl
theorem q2160 : (Jvm.Cond.fieldLink "WhalingLogsModel" (283 : Nat) "WhalingLogsModel" "isSaved" "Z") ∈ lw_all := lw_g (lw_at lw_m9 147 rfl) rfl
theorem q2161 : (Jvm.Cond.fieldLink "WhalingLogsModel" (52 : Nat) "WhalingLogsModel" "before" "[I") ∈ lw_all := lw_g (lw_at lw_m9 148 rfl) rfl
theorem q2162 : (Jvm.Cond.fieldLink "WhalingLogsModel" (55 : Nat) "WhalingLogsModel" "behind" "[I") ∈ lw_all := lw_g (lw_at lw_m9 149 rfl) rfl
theorem q2163 : (Jvm.Cond.fieldLink "WhalingLogsModel" (58 : Nat) "WhalingLogsModel" "text" "[I") ∈ lw_all := lw_g (lw_at lw_m9 150 rfl) rfl
theorem q2164 : (Jvm.Cond.fieldLink "WhalingLogsModel" (61 : Nat) "WhalingLogsModel" "got" "[I") ∈ lw_all := lw_g (lw_at lw_m9 151 rfl) rfl
theorem q2165 : (Jvm.Cond.fieldLink "WhalingLogsModel" (64 : Nat) "WhalingLogsModel" "words" "[I") ∈ lw_all := lw_g (lw_at lw_m9 152 rfl) rfl
theorem q2166 : (Jvm.Cond.fieldLink "WhalingLogsModel" (67 : Nat) "WhalingLogsModel" "parts" "[I") ∈ lw_all := lw_g (lw_at lw_m9 153 rfl) rfl
theorem q2167 : (Jvm.Cond.fieldLink "WhalingLogsModel" (210 : Nat) "WhalingLogsModel" "textN" "I") ∈ lw_all := lw_g (lw_at lw_m9 154 rfl) rfl
theorem q2168 : (Jvm.Cond.fieldLink "WhalingLogsModel" (213 : Nat) "WhalingLogsModel" "here" "I") ∈ lw_all := lw_g (lw_at lw_m9 155 rfl) rfl
theorem q2169 : (Jvm.Cond.fieldLink "WhalingLogsModel" (223 : Nat) "WhalingLogsModel" "toldN" "I") ∈ lw_all := lw_g (lw_at lw_m9 156 rfl) rfl
theorem q2170 : (Jvm.Cond.fieldLink "WhalingLogsModel" (216 : Nat) "WhalingLogsModel" "isWrong" "Z") ∈ lw_all := lw_g (lw_at lw_m9 157 rfl) rfl
theorem q2171 : (Jvm.Cond.fieldLink "WhalingLogsModel" (256 : Nat) "WhalingLogsModel" "isDoing" "Z") ∈ lw_all := lw_g (lw_at lw_m9 158 rfl) rfl
theorem q2172 : (Jvm.Cond.fieldLink "WhalingLogsModel" (70 : Nat) "WhalingLogsModel" "line" "[I") ∈ lw_all := lw_g (lw_at lw_m9 159 rfl) rfl
theorem q2173 : (Jvm.Cond.fieldLink "WhalingLogsModel" (268 : Nat) "WhalingLogsModel" "lineN" "I") ∈ lw_all := lw_g (lw_at lw_m9 160 rfl) rfl
theorem q2174 : (Jvm.Cond.laysFinal "WhalingLogsModel" "WhalingLogsModel" "v" "[I") ∈ lw_all := lw_g (lw_at lw_m9 161 rfl) rfl
theorem q2175 : (Jvm.Cond.soleField "WhalingLogsModel" "v") ∈ lw_all := lw_g (lw_at lw_m9 162 rfl) rfl
theorem q2176 : (Jvm.Cond.laysFinal "WhalingLogsModel" "WhalingLogsModel" "ahead" "[I") ∈ lw_all := lw_g (lw_at lw_m9 163 rfl) rfl
theorem q2177 : (Jvm.Cond.soleField "WhalingLogsModel" "ahead") ∈ lw_all := lw_g (lw_at lw_m9 164 rfl) rfl
theorem q2178 : (Jvm.Cond.laysFinal "WhalingLogsModel" "WhalingLogsModel" "saved" "[I") ∈ lw_all := lw_g (lw_at lw_m9 165 rfl) rfl
theorem q2179 : (Jvm.Cond.soleField "WhalingLogsModel" "saved") ∈ lw_all := lw_g (lw_at lw_m9 166 rfl) rfl
theorem q2180 : (Jvm.Cond.laysFinal "WhalingLogsModel" "WhalingLogsModel" "past" "[I") ∈ lw_all := lw_g (lw_at lw_m9 167 rfl) rfl
theorem q2181 : (Jvm.Cond.soleField "WhalingLogsModel" "past") ∈ lw_all := lw_g (lw_at lw_m9 168 rfl) rfl
theorem q2182 : (Jvm.Cond.laysFinal "WhalingLogsModel" "WhalingLogsModel" "pageAt" "[I") ∈ lw_all := lw_g (lw_at lw_m9 169 rfl) rfl
theorem q2183 : (Jvm.Cond.soleField "WhalingLogsModel" "pageAt") ∈ lw_all := lw_g (lw_at lw_m9 170 rfl) rfl
theorem q2184 : (Jvm.Cond.laysFinal "WhalingLogsModel" "WhalingLogsModel" "numberAt" "[I") ∈ lw_all := lw_g (lw_at lw_m9 171 rfl) rfl
theorem q2185 : (Jvm.Cond.soleField "WhalingLogsModel" "numberAt") ∈ lw_all := lw_g (lw_at lw_m9 172 rfl) rfl
theorem q2186 : (Jvm.Cond.laysFinal "WhalingLogsModel" "WhalingLogsModel" "apart" "[I") ∈ lw_all := lw_g (lw_at lw_m9 173 rfl) rfl
theorem q2187 : (Jvm.Cond.soleField "WhalingLogsModel" "apart") ∈ lw_all := lw_g (lw_at lw_m9 174 rfl) rfl
theorem q2188 : (Jvm.Cond.laysFinal "WhalingLogsModel" "WhalingLogsModel" "best" "[I") ∈ lw_all := lw_g (lw_at lw_m9 175 rfl) rfl
theorem q2189 : (Jvm.Cond.soleField "WhalingLogsModel" "best") ∈ lw_all := lw_g (lw_at lw_m9 176 rfl) rfl
theorem q2190 : (Jvm.Cond.laysFinal "WhalingLogsModel" "WhalingLogsModel" "next" "[I") ∈ lw_all := lw_g (lw_at lw_m9 177 rfl) rfl
theorem q2191 : (Jvm.Cond.soleField "WhalingLogsModel" "next") ∈ lw_all := lw_g (lw_at lw_m9 178 rfl) rfl
theorem q2192 : (Jvm.Cond.laysFinal "WhalingLogsModel" "WhalingLogsModel" "track" "[I") ∈ lw_all := lw_g (lw_at lw_m9 179 rfl) rfl
theorem q2193 : (Jvm.Cond.soleField "WhalingLogsModel" "track") ∈ lw_all := lw_g (lw_at lw_m9 180 rfl) rfl
theorem q2194 : (Jvm.Cond.laysFinal "WhalingLogsModel" "WhalingLogsModel" "bad" "[I") ∈ lw_all := lw_g (lw_at lw_m9 181 rfl) rfl
theorem q2195 : (Jvm.Cond.soleField "WhalingLogsModel" "bad") ∈ lw_all := lw_g (lw_at lw_m9 182 rfl) rfl
theorem q2196 : (Jvm.Cond.laysFinal "WhalingLogsModel" "WhalingLogsModel" "steps" "[I") ∈ lw_all := lw_g (lw_at lw_m9 183 rfl) rfl
theorem q2197 : (Jvm.Cond.soleField "WhalingLogsModel" "steps") ∈ lw_all := lw_g (lw_at lw_m9 184 rfl) rfl
theorem q2198 : (Jvm.Cond.laysFinal "WhalingLogsModel" "WhalingLogsModel" "queue" "[I") ∈ lw_all := lw_g (lw_at lw_m9 185 rfl) rfl
theorem q2199 : (Jvm.Cond.soleField "WhalingLogsModel" "queue") ∈ lw_all := lw_g (lw_at lw_m9 186 rfl) rfl
theorem q2200 : (Jvm.Cond.laysFinal "WhalingLogsModel" "WhalingLogsModel" "one" "[I") ∈ lw_all := lw_g (lw_at lw_m9 187 rfl) rfl
theorem q2201 : (Jvm.Cond.soleField "WhalingLogsModel" "one") ∈ lw_all := lw_g (lw_at lw_m9 188 rfl) rfl
theorem q2202 : (Jvm.Cond.lays "WhalingLogsModel" "WhalingLogsModel" "listN" "I") ∈ lw_all := lw_g (lw_at lw_m9 189 rfl) rfl
theorem q2203 : (Jvm.Cond.soleField "WhalingLogsModel" "listN") ∈ lw_all := lw_g (lw_at lw_m9 190 rfl) rfl
theorem q2204 : (Jvm.Cond.lays "WhalingLogsModel" "WhalingLogsModel" "trackN" "I") ∈ lw_all := lw_g (lw_at lw_m9 191 rfl) rfl
theorem q2205 : (Jvm.Cond.soleField "WhalingLogsModel" "trackN") ∈ lw_all := lw_g (lw_at lw_m9 192 rfl) rfl
theorem q2206 : (Jvm.Cond.lays "WhalingLogsModel" "WhalingLogsModel" "trackWeight" "I") ∈ lw_all := lw_g (lw_at lw_m9 193 rfl) rfl
theorem q2207 : (Jvm.Cond.soleField "WhalingLogsModel" "trackWeight") ∈ lw_all := lw_g (lw_at lw_m9 194 rfl) rfl
theorem q2208 : (Jvm.Cond.lays "WhalingLogsModel" "WhalingLogsModel" "changes" "I") ∈ lw_all := lw_g (lw_at lw_m9 195 rfl) rfl
theorem q2209 : (Jvm.Cond.soleField "WhalingLogsModel" "changes") ∈ lw_all := lw_g (lw_at lw_m9 196 rfl) rfl
theorem q2210 : (Jvm.Cond.lays "WhalingLogsModel" "WhalingLogsModel" "why" "I") ∈ lw_all := lw_g (lw_at lw_m9 197 rfl) rfl
theorem q2211 : (Jvm.Cond.soleField "WhalingLogsModel" "why") ∈ lw_all := lw_g (lw_at lw_m9 198 rfl) rfl
theorem q2212 : (Jvm.Cond.lays "WhalingLogsModel" "WhalingLogsModel" "detail" "I") ∈ lw_all := lw_g (lw_at lw_m9 199 rfl) rfl
theorem q2213 : (Jvm.Cond.soleField "WhalingLogsModel" "detail") ∈ lw_all := lw_g (lw_at lw_m9 200 rfl) rfl
theorem q2214 : (Jvm.Cond.lays "WhalingLogsModel" "WhalingLogsModel" "isSaved" "Z") ∈ lw_all := lw_g (lw_at lw_m9 201 rfl) rfl
theorem q2215 : (Jvm.Cond.soleField "WhalingLogsModel" "isSaved") ∈ lw_all := lw_g (lw_at lw_m9 202 rfl) rfl
theorem q2216 : (Jvm.Cond.laysFinal "WhalingLogsModel" "WhalingLogsModel" "before" "[I") ∈ lw_all := lw_g (lw_at lw_m9 203 rfl) rfl
theorem q2217 : (Jvm.Cond.soleField "WhalingLogsModel" "before") ∈ lw_all := lw_g (lw_at lw_m9 204 rfl) rfl
theorem q2218 : (Jvm.Cond.laysFinal "WhalingLogsModel" "WhalingLogsModel" "behind" "[I") ∈ lw_all := lw_g (lw_at lw_m9 205 rfl) rfl
theorem q2219 : (Jvm.Cond.soleField "WhalingLogsModel" "behind") ∈ lw_all := lw_g (lw_at lw_m9 206 rfl) rfl
theorem q2220 : (Jvm.Cond.laysFinal "WhalingLogsModel" "WhalingLogsModel" "text" "[I") ∈ lw_all := lw_g (lw_at lw_m9 207 rfl) rfl
theorem q2221 : (Jvm.Cond.soleField "WhalingLogsModel" "text") ∈ lw_all := lw_g (lw_at lw_m9 208 rfl) rfl
theorem q2222 : (Jvm.Cond.laysFinal "WhalingLogsModel" "WhalingLogsModel" "got" "[I") ∈ lw_all := lw_g (lw_at lw_m9 209 rfl) rfl
theorem q2223 : (Jvm.Cond.soleField "WhalingLogsModel" "got") ∈ lw_all := lw_g (lw_at lw_m9 210 rfl) rfl
theorem q2224 : (Jvm.Cond.laysFinal "WhalingLogsModel" "WhalingLogsModel" "words" "[I") ∈ lw_all := lw_g (lw_at lw_m9 211 rfl) rfl
theorem q2225 : (Jvm.Cond.soleField "WhalingLogsModel" "words") ∈ lw_all := lw_g (lw_at lw_m9 212 rfl) rfl
theorem q2226 : (Jvm.Cond.laysFinal "WhalingLogsModel" "WhalingLogsModel" "parts" "[I") ∈ lw_all := lw_g (lw_at lw_m9 213 rfl) rfl
theorem q2227 : (Jvm.Cond.soleField "WhalingLogsModel" "parts") ∈ lw_all := lw_g (lw_at lw_m9 214 rfl) rfl
theorem q2228 : (Jvm.Cond.lays "WhalingLogsModel" "WhalingLogsModel" "textN" "I") ∈ lw_all := lw_g (lw_at lw_m9 215 rfl) rfl
theorem q2229 : (Jvm.Cond.soleField "WhalingLogsModel" "textN") ∈ lw_all := lw_g (lw_at lw_m9 216 rfl) rfl
theorem q2230 : (Jvm.Cond.lays "WhalingLogsModel" "WhalingLogsModel" "here" "I") ∈ lw_all := lw_g (lw_at lw_m9 217 rfl) rfl
theorem q2231 : (Jvm.Cond.soleField "WhalingLogsModel" "here") ∈ lw_all := lw_g (lw_at lw_m9 218 rfl) rfl
theorem q2232 : (Jvm.Cond.lays "WhalingLogsModel" "WhalingLogsModel" "toldN" "I") ∈ lw_all := lw_g (lw_at lw_m9 219 rfl) rfl
theorem q2233 : (Jvm.Cond.soleField "WhalingLogsModel" "toldN") ∈ lw_all := lw_g (lw_at lw_m9 220 rfl) rfl
theorem q2234 : (Jvm.Cond.lays "WhalingLogsModel" "WhalingLogsModel" "isWrong" "Z") ∈ lw_all := lw_g (lw_at lw_m9 221 rfl) rfl
theorem q2235 : (Jvm.Cond.soleField "WhalingLogsModel" "isWrong") ∈ lw_all := lw_g (lw_at lw_m9 222 rfl) rfl
theorem q2236 : (Jvm.Cond.lays "WhalingLogsModel" "WhalingLogsModel" "isDoing" "Z") ∈ lw_all := lw_g (lw_at lw_m9 223 rfl) rfl
theorem q2237 : (Jvm.Cond.soleField "WhalingLogsModel" "isDoing") ∈ lw_all := lw_g (lw_at lw_m9 224 rfl) rfl
theorem q2238 : (Jvm.Cond.laysFinal "WhalingLogsModel" "WhalingLogsModel" "line" "[I") ∈ lw_all := lw_g (lw_at lw_m9 225 rfl) rfl
theorem q2239 : (Jvm.Cond.soleField "WhalingLogsModel" "line") ∈ lw_all := lw_g (lw_at lw_m9 226 rfl) rfl
theorem q2240 : (Jvm.Cond.lays "WhalingLogsModel" "WhalingLogsModel" "lineN" "I") ∈ lw_all := lw_g (lw_at lw_m9 227 rfl) rfl
theorem q2241 : (Jvm.Cond.soleField "WhalingLogsModel" "lineN") ∈ lw_all := lw_g (lw_at lw_m9 228 rfl) rfl
theorem q2242 : (Jvm.Cond.superclass "WhalingLogsModel" "java/lang/Object") ∈ lw_all := lw_g (lw_at lw_m9 229 rfl) rfl
theorem q2244 : (Jvm.Cond.instanceMethod ({ cls := "WhalingLogsModel", name := "land", desc := "(IZ)I" } : Jvm.MethodName)) ∈ lw_all := lw_g (lw_at lw_m9 231 rfl) rfl
theorem q2245 : (Jvm.Cond.selects "WhalingLogsModel" ({ cls := "WhalingLogsModel", name := "land", desc := "(IZ)I" } : Jvm.MethodName) ({ cls := "WhalingLogsModel", name := "land", desc := "(IZ)I" } : Jvm.MethodName)) ∈ lw_all := lw_g (lw_at lw_m9 232 rfl) rfl
theorem q2246 : (Jvm.Cond.code ({ cls := "WhalingLogsModel", name := "land", desc := "(IZ)I" } : Jvm.MethodName) prog_20_method_15_code (3 : Nat) (Option.some Jvm.ClassFile.FieldType.int)) ∈ lw_all := lw_g (lw_at lw_m9 233 rfl) rfl
theorem q2247 : (Jvm.Cond.methodLink "WhalingLogsModel" (115 : Nat) ({ cls := "WhalingLogsModel", name := "begins", desc := "()V" } : Jvm.MethodName)) ∈ lw_all := lw_g (lw_at lw_m9 234 rfl) rfl
theorem q2248 : (Jvm.Cond.privateMethod ({ cls := "WhalingLogsModel", name := "begins", desc := "()V" } : Jvm.MethodName)) ∈ lw_tbl := lw_at lw_m9 235 rfl
theorem q2249 : (Jvm.Cond.instanceMethod ({ cls := "WhalingLogsModel", name := "begins", desc := "()V" } : Jvm.MethodName)) ∈ lw_all := lw_g (lw_at lw_m9 236 rfl) rfl
theorem q2250 : (Jvm.Cond.code ({ cls := "WhalingLogsModel", name := "begins", desc := "()V" } : Jvm.MethodName) prog_20_method_5_code (1 : Nat) (Option.none : Option Jvm.ClassFile.FieldType)) ∈ lw_all := lw_g (lw_at lw_m9 237 rfl) rfl
theorem q2251 : (Jvm.Cond.methodLink "WhalingLogsModel" (80 : Nat) ({ cls := "WhalingLogsModel", name := "lays", desc := "([I[I)V" } : Jvm.MethodName)) ∈ lw_all := lw_g (lw_at lw_m9 238 rfl) rfl
theorem q2252 : (Jvm.Cond.static ({ cls := "WhalingLogsModel", name := "lays", desc := "([I[I)V" } : Jvm.MethodName)) ∈ lw_all := lw_g (lw_at lw_m9 239 rfl) rfl
theorem q2253 : (Jvm.Cond.code ({ cls := "WhalingLogsModel", name := "lays", desc := "([I[I)V" } : Jvm.MethodName) prog_20_method_4_code (3 : Nat) (Option.none : Option Jvm.ClassFile.FieldType)) ∈ lw_all := lw_g (lw_at lw_m10 0 rfl) rfl
theorem q2254 : (Jvm.Cond.methodLink "WhalingLogsModel" (95 : Nat) ({ cls := "WhalingLogsModel", name := "isCell", desc := "(I)Z" } : Jvm.MethodName)) ∈ lw_all := lw_g (lw_at lw_m10 1 rfl) rfl
theorem q2255 : (Jvm.Cond.static ({ cls := "WhalingLogsModel", name := "isCell", desc := "(I)Z" } : Jvm.MethodName)) ∈ lw_all := lw_g (lw_at lw_m10 2 rfl) rfl
theorem q2256 : (Jvm.Cond.code ({ cls := "WhalingLogsModel", name := "isCell", desc := "(I)Z" } : Jvm.MethodName) prog_20_method_11_code (1 : Nat) (Option.some Jvm.ClassFile.FieldType.boolean)) ∈ lw_all := lw_g (lw_at lw_m10 3 rfl) rfl
theorem q2257 : (Jvm.Cond.methodLink "WhalingLogsModel" (87 : Nat) ({ cls := "WhalingLogsModel", name := "isIn", desc := "(III)Z" } : Jvm.MethodName)) ∈ lw_all := lw_g (lw_at lw_m10 4 rfl) rfl
theorem q2258 : (Jvm.Cond.static ({ cls := "WhalingLogsModel", name := "isIn", desc := "(III)Z" } : Jvm.MethodName)) ∈ lw_all := lw_g (lw_at lw_m10 5 rfl) rfl
theorem q2259 : (Jvm.Cond.code ({ cls := "WhalingLogsModel", name := "isIn", desc := "(III)Z" } : Jvm.MethodName) prog_20_method_2_code (3 : Nat) (Option.some Jvm.ClassFile.FieldType.boolean)) ∈ lw_all := lw_g (lw_at lw_m10 6 rfl) rfl
theorem q2260 : (Jvm.Cond.methodLink "WhalingLogsModel" (118 : Nat) ({ cls := "WhalingLogsModel", name := "lands", desc := "(IZ)I" } : Jvm.MethodName)) ∈ lw_all := lw_g (lw_at lw_m10 7 rfl) rfl
theorem q2261 : (Jvm.Cond.privateMethod ({ cls := "WhalingLogsModel", name := "lands", desc := "(IZ)I" } : Jvm.MethodName)) ∈ lw_tbl := lw_at lw_m10 8 rfl
theorem q2262 : (Jvm.Cond.instanceMethod ({ cls := "WhalingLogsModel", name := "lands", desc := "(IZ)I" } : Jvm.MethodName)) ∈ lw_all := lw_g (lw_at lw_m10 9 rfl) rfl
theorem q2263 : (Jvm.Cond.code ({ cls := "WhalingLogsModel", name := "lands", desc := "(IZ)I" } : Jvm.MethodName) prog_20_method_14_code (4 : Nat) (Option.some Jvm.ClassFile.FieldType.int)) ∈ lw_all := lw_g (lw_at lw_m10 10 rfl) rfl
theorem q2264 : (Jvm.Cond.methodLink "WhalingLogsModel" (99 : Nat) ({ cls := "WhalingLogsModel", name := "lists", desc := "()V" } : Jvm.MethodName)) ∈ lw_all := lw_g (lw_at lw_m10 11 rfl) rfl
theorem q2265 : (Jvm.Cond.privateMethod ({ cls := "WhalingLogsModel", name := "lists", desc := "()V" } : Jvm.MethodName)) ∈ lw_tbl := lw_at lw_m10 12 rfl
theorem q2266 : (Jvm.Cond.instanceMethod ({ cls := "WhalingLogsModel", name := "lists", desc := "()V" } : Jvm.MethodName)) ∈ lw_all := lw_g (lw_at lw_m10 13 rfl) rfl
theorem q2267 : (Jvm.Cond.code ({ cls := "WhalingLogsModel", name := "lists", desc := "()V" } : Jvm.MethodName) prog_20_method_41_code (4 : Nat) (Option.none : Option Jvm.ClassFile.FieldType)) ∈ lw_all := lw_g (lw_at lw_m10 14 rfl) rfl
theorem q2268 : (Jvm.Cond.methodLink "WhalingLogsModel" (91 : Nat) ({ cls := "WhalingLogsModel", name := "at", desc := "(II)I" } : Jvm.MethodName)) ∈ lw_all := lw_g (lw_at lw_m10 15 rfl) rfl
theorem q2269 : (Jvm.Cond.static ({ cls := "WhalingLogsModel", name := "at", desc := "(II)I" } : Jvm.MethodName)) ∈ lw_all := lw_g (lw_at lw_m10 16 rfl) rfl
theorem q2270 : (Jvm.Cond.code ({ cls := "WhalingLogsModel", name := "at", desc := "(II)I" } : Jvm.MethodName) prog_20_method_7_code (2 : Nat) (Option.some Jvm.ClassFile.FieldType.int)) ∈ lw_all := lw_g (lw_at lw_m10 17 rfl) rfl
theorem q2271 : (Jvm.Cond.methodLink "WhalingLogsModel" (136 : Nat) ({ cls := "WhalingLogsModel", name := "of", desc := "(III)I" } : Jvm.MethodName)) ∈ lw_all := lw_g (lw_at lw_m10 18 rfl) rfl
theorem q2272 : (Jvm.Cond.static ({ cls := "WhalingLogsModel", name := "of", desc := "(III)I" } : Jvm.MethodName)) ∈ lw_all := lw_g (lw_at lw_m10 19 rfl) rfl
theorem q2273 : (Jvm.Cond.code ({ cls := "WhalingLogsModel", name := "of", desc := "(III)I" } : Jvm.MethodName) prog_20_method_8_code (3 : Nat) (Option.some Jvm.ClassFile.FieldType.int)) ∈ lw_all := lw_g (lw_at lw_m10 20 rfl) rfl
theorem q2274 : (Jvm.Cond.methodLink "WhalingLogsModel" (105 : Nat) ({ cls := "WhalingLogsModel", name := "told", desc := "(II)I" } : Jvm.MethodName)) ∈ lw_all := lw_g (lw_at lw_m10 21 rfl) rfl
theorem q2275 : (Jvm.Cond.privateMethod ({ cls := "WhalingLogsModel", name := "told", desc := "(II)I" } : Jvm.MethodName)) ∈ lw_tbl := lw_at lw_m10 22 rfl
theorem q2276 : (Jvm.Cond.instanceMethod ({ cls := "WhalingLogsModel", name := "told", desc := "(II)I" } : Jvm.MethodName)) ∈ lw_all := lw_g (lw_at lw_m10 23 rfl) rfl
theorem q2277 : (Jvm.Cond.code ({ cls := "WhalingLogsModel", name := "told", desc := "(II)I" } : Jvm.MethodName) prog_20_method_40_code (3 : Nat) (Option.some Jvm.ClassFile.FieldType.int)) ∈ lw_all := lw_g (lw_at lw_m10 24 rfl) rfl
theorem q2278 : (Jvm.Cond.methodLink "WhalingLogsModel" (108 : Nat) ({ cls := "WhalingLogsModel", name := "refuses", desc := "(II)I" } : Jvm.MethodName)) ∈ lw_all := lw_g (lw_at lw_m10 25 rfl) rfl
theorem q2279 : (Jvm.Cond.privateMethod ({ cls := "WhalingLogsModel", name := "refuses", desc := "(II)I" } : Jvm.MethodName)) ∈ lw_tbl := lw_at lw_m10 26 rfl
theorem q2280 : (Jvm.Cond.instanceMethod ({ cls := "WhalingLogsModel", name := "refuses", desc := "(II)I" } : Jvm.MethodName)) ∈ lw_all := lw_g (lw_at lw_m10 27 rfl) rfl
theorem q2281 : (Jvm.Cond.code ({ cls := "WhalingLogsModel", name := "refuses", desc := "(II)I" } : Jvm.MethodName) prog_20_method_3_code (3 : Nat) (Option.some Jvm.ClassFile.FieldType.int)) ∈ lw_all := lw_g (lw_at lw_m10 28 rfl) rfl
theorem q2282 : (Jvm.Cond.methodLink "WhalingLogsModel" (111 : Nat) ({ cls := "WhalingLogsModel", name := "landN", desc := "()I" } : Jvm.MethodName)) ∈ lw_all := lw_g (lw_at lw_m10 29 rfl) rfl
theorem q2283 : (Jvm.Cond.privateMethod ({ cls := "WhalingLogsModel", name := "landN", desc := "()I" } : Jvm.MethodName)) ∈ lw_tbl := lw_at lw_m10 30 rfl
theorem q2284 : (Jvm.Cond.instanceMethod ({ cls := "WhalingLogsModel", name := "landN", desc := "()I" } : Jvm.MethodName)) ∈ lw_all := lw_g (lw_at lw_m10 31 rfl) rfl
theorem q2285 : (Jvm.Cond.code ({ cls := "WhalingLogsModel", name := "landN", desc := "()I" } : Jvm.MethodName) prog_20_method_13_code (3 : Nat) (Option.some Jvm.ClassFile.FieldType.int)) ∈ lw_all := lw_g (lw_at lw_m10 32 rfl) rfl
theorem q2286 : (Jvm.Cond.methodLink "WhalingLogsModel" (122 : Nat) ({ cls := "WhalingLogsModel", name := "ends", desc := "(I)I" } : Jvm.MethodName)) ∈ lw_all := lw_g (lw_at lw_m10 33 rfl) rfl
theorem q2287 : (Jvm.Cond.privateMethod ({ cls := "WhalingLogsModel", name := "ends", desc := "(I)I" } : Jvm.MethodName)) ∈ lw_tbl := lw_at lw_m10 34 rfl
theorem q2288 : (Jvm.Cond.instanceMethod ({ cls := "WhalingLogsModel", name := "ends", desc := "(I)I" } : Jvm.MethodName)) ∈ lw_all := lw_g (lw_at lw_m10 35 rfl) rfl
theorem q2289 : (Jvm.Cond.code ({ cls := "WhalingLogsModel", name := "ends", desc := "(I)I" } : Jvm.MethodName) prog_20_method_6_code (3 : Nat) (Option.some Jvm.ClassFile.FieldType.int)) ∈ lw_all := lw_g (lw_at lw_m10 36 rfl) rfl
theorem q2291 : (Jvm.Cond.instanceMethod ({ cls := "WhalingLogsModel", name := "set", desc := "(II)I" } : Jvm.MethodName)) ∈ lw_all := lw_g (lw_at lw_m10 38 rfl) rfl
theorem q2292 : (Jvm.Cond.selects "WhalingLogsModel" ({ cls := "WhalingLogsModel", name := "set", desc := "(II)I" } : Jvm.MethodName) ({ cls := "WhalingLogsModel", name := "set", desc := "(II)I" } : Jvm.MethodName)) ∈ lw_all := lw_g (lw_at lw_m10 39 rfl) rfl
theorem q2293 : (Jvm.Cond.code ({ cls := "WhalingLogsModel", name := "set", desc := "(II)I" } : Jvm.MethodName) prog_20_method_16_code (4 : Nat) (Option.some Jvm.ClassFile.FieldType.int)) ∈ lw_all := lw_g (lw_at lw_m10 40 rfl) rfl
theorem q2295 : (Jvm.Cond.instanceMethod ({ cls := "WhalingLogsModel", name := "distance", desc := "(II)I" } : Jvm.MethodName)) ∈ lw_all := lw_g (lw_at lw_m10 42 rfl) rfl
theorem q2296 : (Jvm.Cond.selects "WhalingLogsModel" ({ cls := "WhalingLogsModel", name := "distance", desc := "(II)I" } : Jvm.MethodName) ({ cls := "WhalingLogsModel", name := "distance", desc := "(II)I" } : Jvm.MethodName)) ∈ lw_all := lw_g (lw_at lw_m10 43 rfl) rfl
theorem q2297 : (Jvm.Cond.code ({ cls := "WhalingLogsModel", name := "distance", desc := "(II)I" } : Jvm.MethodName) prog_20_method_17_code (3 : Nat) (Option.some Jvm.ClassFile.FieldType.int)) ∈ lw_all := lw_g (lw_at lw_m10 44 rfl) rfl
theorem q2298 : (Jvm.Cond.methodLink "WhalingLogsModel" (126 : Nat) ({ cls := "WhalingLogsModel", name := "goes", desc := "(I)V" } : Jvm.MethodName)) ∈ lw_all := lw_g (lw_at lw_m10 45 rfl) rfl
theorem q2299 : (Jvm.Cond.privateMethod ({ cls := "WhalingLogsModel", name := "goes", desc := "(I)V" } : Jvm.MethodName)) ∈ lw_tbl := lw_at lw_m10 46 rfl
theorem q2300 : (Jvm.Cond.instanceMethod ({ cls := "WhalingLogsModel", name := "goes", desc := "(I)V" } : Jvm.MethodName)) ∈ lw_all := lw_g (lw_at lw_m10 47 rfl) rfl
theorem q2301 : (Jvm.Cond.code ({ cls := "WhalingLogsModel", name := "goes", desc := "(I)V" } : Jvm.MethodName) prog_20_method_12_code (8 : Nat) (Option.none : Option Jvm.ClassFile.FieldType)) ∈ lw_all := lw_g (lw_at lw_m10 48 rfl) rfl
theorem q2303 : (Jvm.Cond.instanceMethod ({ cls := "WhalingLogsModel", name := "days", desc := "(II)I" } : Jvm.MethodName)) ∈ lw_all := lw_g (lw_at lw_m10 50 rfl) rfl
theorem q2304 : (Jvm.Cond.selects "WhalingLogsModel" ({ cls := "WhalingLogsModel", name := "days", desc := "(II)I" } : Jvm.MethodName) ({ cls := "WhalingLogsModel", name := "days", desc := "(II)I" } : Jvm.MethodName)) ∈ lw_all := lw_g (lw_at lw_m10 51 rfl) rfl
theorem q2305 : (Jvm.Cond.code ({ cls := "WhalingLogsModel", name := "days", desc := "(II)I" } : Jvm.MethodName) prog_20_method_18_code (4 : Nat) (Option.some Jvm.ClassFile.FieldType.int)) ∈ lw_all := lw_g (lw_at lw_m10 52 rfl) rfl
theorem q2306 : (Jvm.Cond.methodLink "WhalingLogsModel" (130 : Nat) ({ cls := "WhalingLogsModel", name := "distance", desc := "(II)I" } : Jvm.MethodName)) ∈ lw_all := lw_g (lw_at lw_m10 53 rfl) rfl
theorem q2308 : (Jvm.Cond.instanceMethod ({ cls := "WhalingLogsModel", name := "page", desc := "(II)I" } : Jvm.MethodName)) ∈ lw_all := lw_g (lw_at lw_m10 55 rfl) rfl
theorem q2309 : (Jvm.Cond.selects "WhalingLogsModel" ({ cls := "WhalingLogsModel", name := "page", desc := "(II)I" } : Jvm.MethodName) ({ cls := "WhalingLogsModel", name := "page", desc := "(II)I" } : Jvm.MethodName)) ∈ lw_all := lw_g (lw_at lw_m10 56 rfl) rfl
theorem q2310 : (Jvm.Cond.code ({ cls := "WhalingLogsModel", name := "page", desc := "(II)I" } : Jvm.MethodName) prog_20_method_20_code (3 : Nat) (Option.some Jvm.ClassFile.FieldType.int)) ∈ lw_all := lw_g (lw_at lw_m10 57 rfl) rfl
theorem q2311 : (Jvm.Cond.methodLink "WhalingLogsModel" (133 : Nat) ({ cls := "WhalingLogsModel", name := "comes", desc := "(II)I" } : Jvm.MethodName)) ∈ lw_all := lw_g (lw_at lw_m10 58 rfl) rfl
theorem q2312 : (Jvm.Cond.privateMethod ({ cls := "WhalingLogsModel", name := "comes", desc := "(II)I" } : Jvm.MethodName)) ∈ lw_tbl := lw_at lw_m10 59 rfl
theorem q2313 : (Jvm.Cond.instanceMethod ({ cls := "WhalingLogsModel", name := "comes", desc := "(II)I" } : Jvm.MethodName)) ∈ lw_all := lw_g (lw_at lw_m10 60 rfl) rfl
theorem q2314 : (Jvm.Cond.code ({ cls := "WhalingLogsModel", name := "comes", desc := "(II)I" } : Jvm.MethodName) prog_20_method_19_code (5 : Nat) (Option.some Jvm.ClassFile.FieldType.int)) ∈ lw_all := lw_g (lw_at lw_m10 61 rfl) rfl
theorem q2316 : (Jvm.Cond.instanceMethod ({ cls := "WhalingLogsModel", name := "entry", desc := "(IIII)I" } : Jvm.MethodName)) ∈ lw_all := lw_g (lw_at lw_m10 63 rfl) rfl
theorem q2317 : (Jvm.Cond.selects "WhalingLogsModel" ({ cls := "WhalingLogsModel", name := "entry", desc := "(IIII)I" } : Jvm.MethodName) ({ cls := "WhalingLogsModel", name := "entry", desc := "(IIII)I" } : Jvm.MethodName)) ∈ lw_all := lw_g (lw_at lw_m10 64 rfl) rfl
theorem q2318 : (Jvm.Cond.code ({ cls := "WhalingLogsModel", name := "entry", desc := "(IIII)I" } : Jvm.MethodName) prog_20_method_22_code (5 : Nat) (Option.some Jvm.ClassFile.FieldType.int)) ∈ lw_all := lw_g (lw_at lw_m10 65 rfl) rfl
theorem q2319 : (Jvm.Cond.methodLink "WhalingLogsModel" (140 : Nat) ({ cls := "WhalingLogsModel", name := "isPage", desc := "(I)Z" } : Jvm.MethodName)) ∈ lw_all := lw_g (lw_at lw_m10 66 rfl) rfl
theorem q2320 : (Jvm.Cond.privateMethod ({ cls := "WhalingLogsModel", name := "isPage", desc := "(I)Z" } : Jvm.MethodName)) ∈ lw_tbl := lw_at lw_m10 67 rfl
theorem q2321 : (Jvm.Cond.instanceMethod ({ cls := "WhalingLogsModel", name := "isPage", desc := "(I)Z" } : Jvm.MethodName)) ∈ lw_all := lw_g (lw_at lw_m10 68 rfl) rfl
theorem q2322 : (Jvm.Cond.code ({ cls := "WhalingLogsModel", name := "isPage", desc := "(I)Z" } : Jvm.MethodName) prog_20_method_9_code (2 : Nat) (Option.some Jvm.ClassFile.FieldType.boolean)) ∈ lw_all := lw_g (lw_at lw_m10 69 rfl) rfl
theorem q2323 : (Jvm.Cond.methodLink "WhalingLogsModel" (143 : Nat) ({ cls := "WhalingLogsModel", name := "adds", desc := "(IIII)I" } : Jvm.MethodName)) ∈ lw_all := lw_g (lw_at lw_m10 70 rfl) rfl
theorem q2324 : (Jvm.Cond.privateMethod ({ cls := "WhalingLogsModel", name := "adds", desc := "(IIII)I" } : Jvm.MethodName)) ∈ lw_tbl := lw_at lw_m10 71 rfl
theorem q2325 : (Jvm.Cond.instanceMethod ({ cls := "WhalingLogsModel", name := "adds", desc := "(IIII)I" } : Jvm.MethodName)) ∈ lw_all := lw_g (lw_at lw_m10 72 rfl) rfl
theorem q2326 : (Jvm.Cond.code ({ cls := "WhalingLogsModel", name := "adds", desc := "(IIII)I" } : Jvm.MethodName) prog_20_method_21_code (6 : Nat) (Option.some Jvm.ClassFile.FieldType.int)) ∈ lw_all := lw_g (lw_at lw_m10 73 rfl) rfl
theorem q2328 : (Jvm.Cond.instanceMethod ({ cls := "WhalingLogsModel", name := "move", desc := "(II)I" } : Jvm.MethodName)) ∈ lw_all := lw_g (lw_at lw_m10 75 rfl) rfl
theorem q2329 : (Jvm.Cond.selects "WhalingLogsModel" ({ cls := "WhalingLogsModel", name := "move", desc := "(II)I" } : Jvm.MethodName) ({ cls := "WhalingLogsModel", name := "move", desc := "(II)I" } : Jvm.MethodName)) ∈ lw_all := lw_g (lw_at lw_m10 76 rfl) rfl
theorem q2330 : (Jvm.Cond.code ({ cls := "WhalingLogsModel", name := "move", desc := "(II)I" } : Jvm.MethodName) prog_20_method_25_code (3 : Nat) (Option.some Jvm.ClassFile.FieldType.int)) ∈ lw_all := lw_g (lw_at lw_m10 77 rfl) rfl
theorem q2331 : (Jvm.Cond.methodLink "WhalingLogsModel" (154 : Nat) ({ cls := "WhalingLogsModel", name := "moves", desc := "(II)I" } : Jvm.MethodName)) ∈ lw_all := lw_g (lw_at lw_m10 78 rfl) rfl
theorem q2332 : (Jvm.Cond.privateMethod ({ cls := "WhalingLogsModel", name := "moves", desc := "(II)I" } : Jvm.MethodName)) ∈ lw_tbl := lw_at lw_m10 79 rfl
theorem q2333 : (Jvm.Cond.instanceMethod ({ cls := "WhalingLogsModel", name := "moves", desc := "(II)I" } : Jvm.MethodName)) ∈ lw_all := lw_g (lw_at lw_m10 80 rfl) rfl
theorem q2334 : (Jvm.Cond.code ({ cls := "WhalingLogsModel", name := "moves", desc := "(II)I" } : Jvm.MethodName) prog_20_method_24_code (4 : Nat) (Option.some Jvm.ClassFile.FieldType.int)) ∈ lw_all := lw_g (lw_at lw_m10 81 rfl) rfl
theorem q2335 : (Jvm.Cond.methodLink "WhalingLogsModel" (147 : Nat) ({ cls := "WhalingLogsModel", name := "copies", desc := "(II)V" } : Jvm.MethodName)) ∈ lw_all := lw_g (lw_at lw_m10 82 rfl) rfl
theorem q2336 : (Jvm.Cond.privateMethod ({ cls := "WhalingLogsModel", name := "copies", desc := "(II)V" } : Jvm.MethodName)) ∈ lw_tbl := lw_at lw_m10 83 rfl
theorem q2337 : (Jvm.Cond.instanceMethod ({ cls := "WhalingLogsModel", name := "copies", desc := "(II)V" } : Jvm.MethodName)) ∈ lw_all := lw_g (lw_at lw_m10 84 rfl) rfl
theorem q2338 : (Jvm.Cond.code ({ cls := "WhalingLogsModel", name := "copies", desc := "(II)V" } : Jvm.MethodName) prog_20_method_23_code (4 : Nat) (Option.none : Option Jvm.ClassFile.FieldType)) ∈ lw_all := lw_g (lw_at lw_m10 85 rfl) rfl
theorem q2339 : (Jvm.Cond.methodLink "WhalingLogsModel" (151 : Nat) ({ cls := "WhalingLogsModel", name := "crossed", desc := "()I" } : Jvm.MethodName)) ∈ lw_all := lw_g (lw_at lw_m10 86 rfl) rfl
theorem q2340 : (Jvm.Cond.privateMethod ({ cls := "WhalingLogsModel", name := "crossed", desc := "()I" } : Jvm.MethodName)) ∈ lw_tbl := lw_at lw_m10 87 rfl
theorem q2341 : (Jvm.Cond.instanceMethod ({ cls := "WhalingLogsModel", name := "crossed", desc := "()I" } : Jvm.MethodName)) ∈ lw_all := lw_g (lw_at lw_m10 88 rfl) rfl
theorem q2342 : (Jvm.Cond.code ({ cls := "WhalingLogsModel", name := "crossed", desc := "()I" } : Jvm.MethodName) prog_20_method_49_code (4 : Nat) (Option.some Jvm.ClassFile.FieldType.int)) ∈ lw_all := lw_g (lw_at lw_m10 89 rfl) rfl
theorem q2344 : (Jvm.Cond.instanceMethod ({ cls := "WhalingLogsModel", name := "drop", desc := "(I)I" } : Jvm.MethodName)) ∈ lw_all := lw_g (lw_at lw_m10 91 rfl) rfl
theorem q2345 : (Jvm.Cond.selects "WhalingLogsModel" ({ cls := "WhalingLogsModel", name := "drop", desc := "(I)I" } : Jvm.MethodName) ({ cls := "WhalingLogsModel", name := "drop", desc := "(I)I" } : Jvm.MethodName)) ∈ lw_all := lw_g (lw_at lw_m10 92 rfl) rfl
theorem q2346 : (Jvm.Cond.code ({ cls := "WhalingLogsModel", name := "drop", desc := "(I)I" } : Jvm.MethodName) prog_20_method_26_code (3 : Nat) (Option.some Jvm.ClassFile.FieldType.int)) ∈ lw_all := lw_g (lw_at lw_m10 93 rfl) rfl
theorem q2348 : (Jvm.Cond.instanceMethod ({ cls := "WhalingLogsModel", name := "read", desc := "(II)I" } : Jvm.MethodName)) ∈ lw_all := lw_g (lw_at lw_m10 95 rfl) rfl
theorem q2349 : (Jvm.Cond.selects "WhalingLogsModel" ({ cls := "WhalingLogsModel", name := "read", desc := "(II)I" } : Jvm.MethodName) ({ cls := "WhalingLogsModel", name := "read", desc := "(II)I" } : Jvm.MethodName)) ∈ lw_all := lw_g (lw_at lw_m10 96 rfl) rfl
theorem q2350 : (Jvm.Cond.code ({ cls := "WhalingLogsModel", name := "read", desc := "(II)I" } : Jvm.MethodName) prog_20_method_29_code (3 : Nat) (Option.some Jvm.ClassFile.FieldType.int)) ∈ lw_all := lw_g (lw_at lw_m10 97 rfl) rfl
theorem q2351 : (Jvm.Cond.methodLink "WhalingLogsModel" (161 : Nat) ({ cls := "WhalingLogsModel", name := "reads", desc := "(II)I" } : Jvm.MethodName)) ∈ lw_all := lw_g (lw_at lw_m10 98 rfl) rfl
theorem q2352 : (Jvm.Cond.privateMethod ({ cls := "WhalingLogsModel", name := "reads", desc := "(II)I" } : Jvm.MethodName)) ∈ lw_tbl := lw_at lw_m10 99 rfl
theorem q2353 : (Jvm.Cond.instanceMethod ({ cls := "WhalingLogsModel", name := "reads", desc := "(II)I" } : Jvm.MethodName)) ∈ lw_all := lw_g (lw_at lw_m10 100 rfl) rfl
theorem q2354 : (Jvm.Cond.code ({ cls := "WhalingLogsModel", name := "reads", desc := "(II)I" } : Jvm.MethodName) prog_20_method_28_code (5 : Nat) (Option.some Jvm.ClassFile.FieldType.int)) ∈ lw_all := lw_g (lw_at lw_m10 101 rfl) rfl
theorem q2355 : (Jvm.Cond.methodLink "WhalingLogsModel" (157 : Nat) ({ cls := "WhalingLogsModel", name := "isLegible", desc := "(II)Z" } : Jvm.MethodName)) ∈ lw_all := lw_g (lw_at lw_m10 102 rfl) rfl
theorem q2356 : (Jvm.Cond.privateMethod ({ cls := "WhalingLogsModel", name := "isLegible", desc := "(II)Z" } : Jvm.MethodName)) ∈ lw_tbl := lw_at lw_m10 103 rfl
theorem q2357 : (Jvm.Cond.instanceMethod ({ cls := "WhalingLogsModel", name := "isLegible", desc := "(II)Z" } : Jvm.MethodName)) ∈ lw_all := lw_g (lw_at lw_m10 104 rfl) rfl
theorem q2358 : (Jvm.Cond.code ({ cls := "WhalingLogsModel", name := "isLegible", desc := "(II)Z" } : Jvm.MethodName) prog_20_method_27_code (4 : Nat) (Option.some Jvm.ClassFile.FieldType.boolean)) ∈ lw_all := lw_g (lw_at lw_m10 105 rfl) rfl
theorem q2360 : (Jvm.Cond.instanceMethod ({ cls := "WhalingLogsModel", name := "strike", desc := "(II)I" } : Jvm.MethodName)) ∈ lw_all := lw_g (lw_at lw_m10 107 rfl) rfl
theorem q2361 : (Jvm.Cond.selects "WhalingLogsModel" ({ cls := "WhalingLogsModel", name := "strike", desc := "(II)I" } : Jvm.MethodName) ({ cls := "WhalingLogsModel", name := "strike", desc := "(II)I" } : Jvm.MethodName)) ∈ lw_all := lw_g (lw_at lw_m10 108 rfl) rfl
theorem q2362 : (Jvm.Cond.code ({ cls := "WhalingLogsModel", name := "strike", desc := "(II)I" } : Jvm.MethodName) prog_20_method_32_code (3 : Nat) (Option.some Jvm.ClassFile.FieldType.int)) ∈ lw_all := lw_g (lw_at lw_m10 109 rfl) rfl
theorem q2363 : (Jvm.Cond.methodLink "WhalingLogsModel" (170 : Nat) ({ cls := "WhalingLogsModel", name := "strikes", desc := "(II)I" } : Jvm.MethodName)) ∈ lw_all := lw_g (lw_at lw_m10 110 rfl) rfl
theorem q2364 : (Jvm.Cond.privateMethod ({ cls := "WhalingLogsModel", name := "strikes", desc := "(II)I" } : Jvm.MethodName)) ∈ lw_tbl := lw_at lw_m10 111 rfl
theorem q2365 : (Jvm.Cond.instanceMethod ({ cls := "WhalingLogsModel", name := "strikes", desc := "(II)I" } : Jvm.MethodName)) ∈ lw_all := lw_g (lw_at lw_m10 112 rfl) rfl
theorem q2366 : (Jvm.Cond.code ({ cls := "WhalingLogsModel", name := "strikes", desc := "(II)I" } : Jvm.MethodName) prog_20_method_31_code (4 : Nat) (Option.some Jvm.ClassFile.FieldType.int)) ∈ lw_all := lw_g (lw_at lw_m10 113 rfl) rfl
theorem q2367 : (Jvm.Cond.methodLink "WhalingLogsModel" (164 : Nat) ({ cls := "WhalingLogsModel", name := "isEntry", desc := "(II)Z" } : Jvm.MethodName)) ∈ lw_all := lw_g (lw_at lw_m10 114 rfl) rfl
theorem q2368 : (Jvm.Cond.privateMethod ({ cls := "WhalingLogsModel", name := "isEntry", desc := "(II)Z" } : Jvm.MethodName)) ∈ lw_tbl := lw_at lw_m10 115 rfl
theorem q2369 : (Jvm.Cond.instanceMethod ({ cls := "WhalingLogsModel", name := "isEntry", desc := "(II)Z" } : Jvm.MethodName)) ∈ lw_all := lw_g (lw_at lw_m10 116 rfl) rfl
theorem q2370 : (Jvm.Cond.code ({ cls := "WhalingLogsModel", name := "isEntry", desc := "(II)Z" } : Jvm.MethodName) prog_20_method_10_code (3 : Nat) (Option.some Jvm.ClassFile.FieldType.boolean)) ∈ lw_all := lw_g (lw_at lw_m10 117 rfl) rfl
theorem q2371 : (Jvm.Cond.methodLink "WhalingLogsModel" (167 : Nat) ({ cls := "WhalingLogsModel", name := "entries", desc := "(I)I" } : Jvm.MethodName)) ∈ lw_all := lw_g (lw_at lw_m10 118 rfl) rfl
theorem q2372 : (Jvm.Cond.privateMethod ({ cls := "WhalingLogsModel", name := "entries", desc := "(I)I" } : Jvm.MethodName)) ∈ lw_tbl := lw_at lw_m10 119 rfl
theorem q2373 : (Jvm.Cond.instanceMethod ({ cls := "WhalingLogsModel", name := "entries", desc := "(I)I" } : Jvm.MethodName)) ∈ lw_all := lw_g (lw_at lw_m10 120 rfl) rfl
theorem q2374 : (Jvm.Cond.code ({ cls := "WhalingLogsModel", name := "entries", desc := "(I)I" } : Jvm.MethodName) prog_20_method_30_code (5 : Nat) (Option.some Jvm.ClassFile.FieldType.int)) ∈ lw_all := lw_g (lw_at lw_m10 121 rfl) rfl
theorem q2376 : (Jvm.Cond.instanceMethod ({ cls := "WhalingLogsModel", name := "blame", desc := "(I)I" } : Jvm.MethodName)) ∈ lw_all := lw_g (lw_at lw_m10 123 rfl) rfl
theorem q2377 : (Jvm.Cond.selects "WhalingLogsModel" ({ cls := "WhalingLogsModel", name := "blame", desc := "(I)I" } : Jvm.MethodName) ({ cls := "WhalingLogsModel", name := "blame", desc := "(I)I" } : Jvm.MethodName)) ∈ lw_all := lw_g (lw_at lw_m10 124 rfl) rfl
theorem q2378 : (Jvm.Cond.code ({ cls := "WhalingLogsModel", name := "blame", desc := "(I)I" } : Jvm.MethodName) prog_20_method_34_code (2 : Nat) (Option.some Jvm.ClassFile.FieldType.int)) ∈ lw_all := lw_g (lw_at lw_m10 125 rfl) rfl
theorem q2379 : (Jvm.Cond.methodLink "WhalingLogsModel" (173 : Nat) ({ cls := "WhalingLogsModel", name := "blames", desc := "(I)I" } : Jvm.MethodName)) ∈ lw_all := lw_g (lw_at lw_m10 126 rfl) rfl
theorem q2380 : (Jvm.Cond.privateMethod ({ cls := "WhalingLogsModel", name := "blames", desc := "(I)I" } : Jvm.MethodName)) ∈ lw_tbl := lw_at lw_m10 127 rfl
theorem q2381 : (Jvm.Cond.instanceMethod ({ cls := "WhalingLogsModel", name := "blames", desc := "(I)I" } : Jvm.MethodName)) ∈ lw_all := lw_g (lw_at lw_m10 128 rfl) rfl
theorem q2382 : (Jvm.Cond.code ({ cls := "WhalingLogsModel", name := "blames", desc := "(I)I" } : Jvm.MethodName) prog_20_method_33_code (2 : Nat) (Option.some Jvm.ClassFile.FieldType.int)) ∈ lw_all := lw_g (lw_at lw_m10 129 rfl) rfl
theorem q2384 : (Jvm.Cond.instanceMethod ({ cls := "WhalingLogsModel", name := "pageOf", desc := "(II)I" } : Jvm.MethodName)) ∈ lw_all := lw_g (lw_at lw_m10 131 rfl) rfl
theorem q2385 : (Jvm.Cond.selects "WhalingLogsModel" ({ cls := "WhalingLogsModel", name := "pageOf", desc := "(II)I" } : Jvm.MethodName) ({ cls := "WhalingLogsModel", name := "pageOf", desc := "(II)I" } : Jvm.MethodName)) ∈ lw_all := lw_g (lw_at lw_m10 132 rfl) rfl
theorem q2386 : (Jvm.Cond.code ({ cls := "WhalingLogsModel", name := "pageOf", desc := "(II)I" } : Jvm.MethodName) prog_20_method_37_code (4 : Nat) (Option.some Jvm.ClassFile.FieldType.int)) ∈ lw_all := lw_g (lw_at lw_m10 133 rfl) rfl
theorem q2387 : (Jvm.Cond.methodLink "WhalingLogsModel" (176 : Nat) ({ cls := "WhalingLogsModel", name := "known", desc := "(I)I" } : Jvm.MethodName)) ∈ lw_all := lw_g (lw_at lw_m10 134 rfl) rfl
theorem q2388 : (Jvm.Cond.privateMethod ({ cls := "WhalingLogsModel", name := "known", desc := "(I)I" } : Jvm.MethodName)) ∈ lw_tbl := lw_at lw_m10 135 rfl
theorem q2389 : (Jvm.Cond.instanceMethod ({ cls := "WhalingLogsModel", name := "known", desc := "(I)I" } : Jvm.MethodName)) ∈ lw_all := lw_g (lw_at lw_m10 136 rfl) rfl
theorem q2390 : (Jvm.Cond.code ({ cls := "WhalingLogsModel", name := "known", desc := "(I)I" } : Jvm.MethodName) prog_20_method_35_code (4 : Nat) (Option.some Jvm.ClassFile.FieldType.int)) ∈ lw_all := lw_g (lw_at lw_m10 137 rfl) rfl
theorem q2391 : (Jvm.Cond.methodLink "WhalingLogsModel" (179 : Nat) ({ cls := "WhalingLogsModel", name := "rays", desc := "(I)I" } : Jvm.MethodName)) ∈ lw_all := lw_g (lw_at lw_m10 138 rfl) rfl
theorem q2392 : (Jvm.Cond.privateMethod ({ cls := "WhalingLogsModel", name := "rays", desc := "(I)I" } : Jvm.MethodName)) ∈ lw_tbl := lw_at lw_m10 139 rfl
theorem q2393 : (Jvm.Cond.instanceMethod ({ cls := "WhalingLogsModel", name := "rays", desc := "(I)I" } : Jvm.MethodName)) ∈ lw_all := lw_g (lw_at lw_m10 140 rfl) rfl
theorem q2394 : (Jvm.Cond.code ({ cls := "WhalingLogsModel", name := "rays", desc := "(I)I" } : Jvm.MethodName) prog_20_method_36_code (4 : Nat) (Option.some Jvm.ClassFile.FieldType.int)) ∈ lw_all := lw_g (lw_at lw_m10 141 rfl) rfl
theorem q2396 : (Jvm.Cond.instanceMethod ({ cls := "WhalingLogsModel", name := "entryOf", desc := "(III)I" } : Jvm.MethodName)) ∈ lw_all := lw_g (lw_at lw_m10 143 rfl) rfl
theorem q2397 : (Jvm.Cond.selects "WhalingLogsModel" ({ cls := "WhalingLogsModel", name := "entryOf", desc := "(III)I" } : Jvm.MethodName) ({ cls := "WhalingLogsModel", name := "entryOf", desc := "(III)I" } : Jvm.MethodName)) ∈ lw_all := lw_g (lw_at lw_m10 144 rfl) rfl
theorem q2398 : (Jvm.Cond.code ({ cls := "WhalingLogsModel", name := "entryOf", desc := "(III)I" } : Jvm.MethodName) prog_20_method_38_code (4 : Nat) (Option.some Jvm.ClassFile.FieldType.int)) ∈ lw_all := lw_g (lw_at lw_m10 145 rfl) rfl
theorem q2400 : (Jvm.Cond.instanceMethod ({ cls := "WhalingLogsModel", name := "witnessOf", desc := "(II)I" } : Jvm.MethodName)) ∈ lw_all := lw_g (lw_at lw_m10 147 rfl) rfl
theorem q2401 : (Jvm.Cond.selects "WhalingLogsModel" ({ cls := "WhalingLogsModel", name := "witnessOf", desc := "(II)I" } : Jvm.MethodName) ({ cls := "WhalingLogsModel", name := "witnessOf", desc := "(II)I" } : Jvm.MethodName)) ∈ lw_all := lw_g (lw_at lw_m10 148 rfl) rfl
theorem q2402 : (Jvm.Cond.code ({ cls := "WhalingLogsModel", name := "witnessOf", desc := "(II)I" } : Jvm.MethodName) prog_20_method_39_code (5 : Nat) (Option.some Jvm.ClassFile.FieldType.int)) ∈ lw_all := lw_g (lw_at lw_m10 149 rfl) rfl
theorem q2403 : (Jvm.Cond.methodLink "WhalingLogsModel" (182 : Nat) ({ cls := "WhalingLogsModel", name := "tracks", desc := "()V" } : Jvm.MethodName)) ∈ lw_all := lw_g (lw_at lw_m10 150 rfl) rfl
theorem q2404 : (Jvm.Cond.privateMethod ({ cls := "WhalingLogsModel", name := "tracks", desc := "()V" } : Jvm.MethodName)) ∈ lw_tbl := lw_at lw_m10 151 rfl
theorem q2405 : (Jvm.Cond.instanceMethod ({ cls := "WhalingLogsModel", name := "tracks", desc := "()V" } : Jvm.MethodName)) ∈ lw_all := lw_g (lw_at lw_m10 152 rfl) rfl
theorem q2406 : (Jvm.Cond.code ({ cls := "WhalingLogsModel", name := "tracks", desc := "()V" } : Jvm.MethodName) prog_20_method_53_code (4 : Nat) (Option.none : Option Jvm.ClassFile.FieldType)) ∈ lw_all := lw_g (lw_at lw_m10 153 rfl) rfl
theorem q2407 : (Jvm.Cond.methodLink "WhalingLogsModel" (188 : Nat) ({ cls := "WhalingLogsModel", name := "measures", desc := "()V" } : Jvm.MethodName)) ∈ lw_all := lw_g (lw_at lw_m10 154 rfl) rfl
theorem q2408 : (Jvm.Cond.privateMethod ({ cls := "WhalingLogsModel", name := "measures", desc := "()V" } : Jvm.MethodName)) ∈ lw_tbl := lw_at lw_m10 155 rfl
theorem q2409 : (Jvm.Cond.instanceMethod ({ cls := "WhalingLogsModel", name := "measures", desc := "()V" } : Jvm.MethodName)) ∈ lw_all := lw_g (lw_at lw_m10 156 rfl) rfl
theorem q2410 : (Jvm.Cond.code ({ cls := "WhalingLogsModel", name := "measures", desc := "()V" } : Jvm.MethodName) prog_20_method_43_code (3 : Nat) (Option.none : Option Jvm.ClassFile.FieldType)) ∈ lw_all := lw_g (lw_at lw_m10 157 rfl) rfl
theorem q2411 : (Jvm.Cond.methodLink "WhalingLogsModel" (191 : Nat) ({ cls := "WhalingLogsModel", name := "areBoth", desc := "(II)Z" } : Jvm.MethodName)) ∈ lw_all := lw_g (lw_at lw_m10 158 rfl) rfl
theorem q2412 : (Jvm.Cond.privateMethod ({ cls := "WhalingLogsModel", name := "areBoth", desc := "(II)Z" } : Jvm.MethodName)) ∈ lw_tbl := lw_at lw_m10 159 rfl
theorem q2413 : (Jvm.Cond.instanceMethod ({ cls := "WhalingLogsModel", name := "areBoth", desc := "(II)Z" } : Jvm.MethodName)) ∈ lw_all := lw_g (lw_at lw_m10 160 rfl) rfl
theorem q2414 : (Jvm.Cond.code ({ cls := "WhalingLogsModel", name := "areBoth", desc := "(II)Z" } : Jvm.MethodName) prog_20_method_44_code (4 : Nat) (Option.some Jvm.ClassFile.FieldType.boolean)) ∈ lw_all := lw_g (lw_at lw_m10 161 rfl) rfl
theorem q2415 : (Jvm.Cond.methodLink "WhalingLogsModel" (197 : Nat) ({ cls := "WhalingLogsModel", name := "weight", desc := "(I)I" } : Jvm.MethodName)) ∈ lw_all := lw_g (lw_at lw_m10 162 rfl) rfl
theorem q2416 : (Jvm.Cond.privateMethod ({ cls := "WhalingLogsModel", name := "weight", desc := "(I)I" } : Jvm.MethodName)) ∈ lw_tbl := lw_at lw_m10 163 rfl
theorem q2417 : (Jvm.Cond.instanceMethod ({ cls := "WhalingLogsModel", name := "weight", desc := "(I)I" } : Jvm.MethodName)) ∈ lw_all := lw_g (lw_at lw_m10 164 rfl) rfl
theorem q2418 : (Jvm.Cond.code ({ cls := "WhalingLogsModel", name := "weight", desc := "(I)I" } : Jvm.MethodName) prog_20_method_52_code (2 : Nat) (Option.some Jvm.ClassFile.FieldType.int)) ∈ lw_all := lw_g (lw_at lw_m10 165 rfl) rfl
theorem q2420 : (Jvm.Cond.instanceMethod ({ cls := "WhalingLogsModel", name := "listed", desc := "(II)I" } : Jvm.MethodName)) ∈ lw_all := lw_g (lw_at lw_m10 167 rfl) rfl
theorem q2421 : (Jvm.Cond.selects "WhalingLogsModel" ({ cls := "WhalingLogsModel", name := "listed", desc := "(II)I" } : Jvm.MethodName) ({ cls := "WhalingLogsModel", name := "listed", desc := "(II)I" } : Jvm.MethodName)) ∈ lw_all := lw_g (lw_at lw_m10 168 rfl) rfl
theorem q2422 : (Jvm.Cond.code ({ cls := "WhalingLogsModel", name := "listed", desc := "(II)I" } : Jvm.MethodName) prog_20_method_42_code (3 : Nat) (Option.some Jvm.ClassFile.FieldType.int)) ∈ lw_all := lw_g (lw_at lw_m10 169 rfl) rfl
theorem q2424 : (Jvm.Cond.instanceMethod ({ cls := "WhalingLogsModel", name := "canBoth", desc := "(II)I" } : Jvm.MethodName)) ∈ lw_all := lw_g (lw_at lw_m10 171 rfl) rfl
theorem q2425 : (Jvm.Cond.selects "WhalingLogsModel" ({ cls := "WhalingLogsModel", name := "canBoth", desc := "(II)I" } : Jvm.MethodName) ({ cls := "WhalingLogsModel", name := "canBoth", desc := "(II)I" } : Jvm.MethodName)) ∈ lw_all := lw_g (lw_at lw_m10 172 rfl) rfl
theorem q2426 : (Jvm.Cond.code ({ cls := "WhalingLogsModel", name := "canBoth", desc := "(II)I" } : Jvm.MethodName) prog_20_method_45_code (3 : Nat) (Option.some Jvm.ClassFile.FieldType.int)) ∈ lw_all := lw_g (lw_at lw_m10 173 rfl) rfl
theorem q2428 : (Jvm.Cond.instanceMethod ({ cls := "WhalingLogsModel", name := "conflicts", desc := "()I" } : Jvm.MethodName)) ∈ lw_all := lw_g (lw_at lw_m10 175 rfl) rfl
theorem q2429 : (Jvm.Cond.selects "WhalingLogsModel" ({ cls := "WhalingLogsModel", name := "conflicts", desc := "()I" } : Jvm.MethodName) ({ cls := "WhalingLogsModel", name := "conflicts", desc := "()I" } : Jvm.MethodName)) ∈ lw_all := lw_g (lw_at lw_m10 176 rfl) rfl
theorem q2430 : (Jvm.Cond.code ({ cls := "WhalingLogsModel", name := "conflicts", desc := "()I" } : Jvm.MethodName) prog_20_method_47_code (1 : Nat) (Option.some Jvm.ClassFile.FieldType.int)) ∈ lw_all := lw_g (lw_at lw_m10 177 rfl) rfl
theorem q2431 : (Jvm.Cond.methodLink "WhalingLogsModel" (194 : Nat) ({ cls := "WhalingLogsModel", name := "pairs", desc := "()I" } : Jvm.MethodName)) ∈ lw_all := lw_g (lw_at lw_m10 178 rfl) rfl
theorem q2432 : (Jvm.Cond.privateMethod ({ cls := "WhalingLogsModel", name := "pairs", desc := "()I" } : Jvm.MethodName)) ∈ lw_tbl := lw_at lw_m10 179 rfl
theorem q2433 : (Jvm.Cond.instanceMethod ({ cls := "WhalingLogsModel", name := "pairs", desc := "()I" } : Jvm.MethodName)) ∈ lw_all := lw_g (lw_at lw_m10 180 rfl) rfl
theorem q2434 : (Jvm.Cond.code ({ cls := "WhalingLogsModel", name := "pairs", desc := "()I" } : Jvm.MethodName) prog_20_method_46_code (4 : Nat) (Option.some Jvm.ClassFile.FieldType.int)) ∈ lw_all := lw_g (lw_at lw_m10 181 rfl) rfl
theorem q2436 : (Jvm.Cond.instanceMethod ({ cls := "WhalingLogsModel", name := "worst", desc := "()I" } : Jvm.MethodName)) ∈ lw_all := lw_g (lw_at lw_m10 183 rfl) rfl
theorem q2437 : (Jvm.Cond.selects "WhalingLogsModel" ({ cls := "WhalingLogsModel", name := "worst", desc := "()I" } : Jvm.MethodName) ({ cls := "WhalingLogsModel", name := "worst", desc := "()I" } : Jvm.MethodName)) ∈ lw_all := lw_g (lw_at lw_m10 184 rfl) rfl
theorem q2438 : (Jvm.Cond.code ({ cls := "WhalingLogsModel", name := "worst", desc := "()I" } : Jvm.MethodName) prog_20_method_48_code (3 : Nat) (Option.some Jvm.ClassFile.FieldType.int)) ∈ lw_all := lw_g (lw_at lw_m10 185 rfl) rfl
theorem q2440 : (Jvm.Cond.instanceMethod ({ cls := "WhalingLogsModel", name := "crossings", desc := "()I" } : Jvm.MethodName)) ∈ lw_all := lw_g (lw_at lw_m10 187 rfl) rfl
theorem q2441 : (Jvm.Cond.selects "WhalingLogsModel" ({ cls := "WhalingLogsModel", name := "crossings", desc := "()I" } : Jvm.MethodName) ({ cls := "WhalingLogsModel", name := "crossings", desc := "()I" } : Jvm.MethodName)) ∈ lw_all := lw_g (lw_at lw_m10 188 rfl) rfl
theorem q2442 : (Jvm.Cond.code ({ cls := "WhalingLogsModel", name := "crossings", desc := "()I" } : Jvm.MethodName) prog_20_method_50_code (1 : Nat) (Option.some Jvm.ClassFile.FieldType.int)) ∈ lw_all := lw_g (lw_at lw_m10 189 rfl) rfl
theorem q2444 : (Jvm.Cond.instanceMethod ({ cls := "WhalingLogsModel", name := "crossingsAgain", desc := "()I" } : Jvm.MethodName)) ∈ lw_all := lw_g (lw_at lw_m10 191 rfl) rfl
theorem q2445 : (Jvm.Cond.selects "WhalingLogsModel" ({ cls := "WhalingLogsModel", name := "crossingsAgain", desc := "()I" } : Jvm.MethodName) ({ cls := "WhalingLogsModel", name := "crossingsAgain", desc := "()I" } : Jvm.MethodName)) ∈ lw_all := lw_g (lw_at lw_m10 192 rfl) rfl
theorem q2446 : (Jvm.Cond.code ({ cls := "WhalingLogsModel", name := "crossingsAgain", desc := "()I" } : Jvm.MethodName) prog_20_method_51_code (1 : Nat) (Option.some Jvm.ClassFile.FieldType.int)) ∈ lw_all := lw_g (lw_at lw_m10 193 rfl) rfl
theorem q2448 : (Jvm.Cond.instanceMethod ({ cls := "WhalingLogsModel", name := "track", desc := "(I)I" } : Jvm.MethodName)) ∈ lw_all := lw_g (lw_at lw_m10 195 rfl) rfl
theorem q2449 : (Jvm.Cond.selects "WhalingLogsModel" ({ cls := "WhalingLogsModel", name := "track", desc := "(I)I" } : Jvm.MethodName) ({ cls := "WhalingLogsModel", name := "track", desc := "(I)I" } : Jvm.MethodName)) ∈ lw_all := lw_g (lw_at lw_m10 196 rfl) rfl
theorem q2450 : (Jvm.Cond.code ({ cls := "WhalingLogsModel", name := "track", desc := "(I)I" } : Jvm.MethodName) prog_20_method_54_code (4 : Nat) (Option.some Jvm.ClassFile.FieldType.int)) ∈ lw_all := lw_g (lw_at lw_m10 197 rfl) rfl
theorem q2452 : (Jvm.Cond.instanceMethod ({ cls := "WhalingLogsModel", name := "trackAt", desc := "(I)I" } : Jvm.MethodName)) ∈ lw_all := lw_g (lw_at lw_m10 199 rfl) rfl
theorem q2453 : (Jvm.Cond.selects "WhalingLogsModel" ({ cls := "WhalingLogsModel", name := "trackAt", desc := "(I)I" } : Jvm.MethodName) ({ cls := "WhalingLogsModel", name := "trackAt", desc := "(I)I" } : Jvm.MethodName)) ∈ lw_all := lw_g (lw_at lw_m10 200 rfl) rfl
theorem q2454 : (Jvm.Cond.code ({ cls := "WhalingLogsModel", name := "trackAt", desc := "(I)I" } : Jvm.MethodName) prog_20_method_55_code (2 : Nat) (Option.some Jvm.ClassFile.FieldType.int)) ∈ lw_all := lw_g (lw_at lw_m10 201 rfl) rfl
theorem q2456 : (Jvm.Cond.instanceMethod ({ cls := "WhalingLogsModel", name := "weightAgain", desc := "()I" } : Jvm.MethodName)) ∈ lw_all := lw_g (lw_at lw_m10 203 rfl) rfl
theorem q2457 : (Jvm.Cond.selects "WhalingLogsModel" ({ cls := "WhalingLogsModel", name := "weightAgain", desc := "()I" } : Jvm.MethodName) ({ cls := "WhalingLogsModel", name := "weightAgain", desc := "()I" } : Jvm.MethodName)) ∈ lw_all := lw_g (lw_at lw_m10 204 rfl) rfl
theorem q2458 : (Jvm.Cond.code ({ cls := "WhalingLogsModel", name := "weightAgain", desc := "()I" } : Jvm.MethodName) prog_20_method_56_code (1 : Nat) (Option.some Jvm.ClassFile.FieldType.int)) ∈ lw_all := lw_g (lw_at lw_m10 205 rfl) rfl
theorem q2460 : (Jvm.Cond.instanceMethod ({ cls := "WhalingLogsModel", name := "could", desc := "(II)I" } : Jvm.MethodName)) ∈ lw_all := lw_g (lw_at lw_m10 207 rfl) rfl
theorem q2461 : (Jvm.Cond.selects "WhalingLogsModel" ({ cls := "WhalingLogsModel", name := "could", desc := "(II)I" } : Jvm.MethodName) ({ cls := "WhalingLogsModel", name := "could", desc := "(II)I" } : Jvm.MethodName)) ∈ lw_all := lw_g (lw_at lw_m10 208 rfl) rfl
theorem q2462 : (Jvm.Cond.code ({ cls := "WhalingLogsModel", name := "could", desc := "(II)I" } : Jvm.MethodName) prog_20_method_59_code (3 : Nat) (Option.some Jvm.ClassFile.FieldType.int)) ∈ lw_all := lw_g (lw_at lw_m10 209 rfl) rfl
theorem q2463 : (Jvm.Cond.methodLink "WhalingLogsModel" (207 : Nat) ({ cls := "WhalingLogsModel", name := "charts", desc := "(I)V" } : Jvm.MethodName)) ∈ lw_all := lw_g (lw_at lw_m10 210 rfl) rfl
theorem q2464 : (Jvm.Cond.privateMethod ({ cls := "WhalingLogsModel", name := "charts", desc := "(I)V" } : Jvm.MethodName)) ∈ lw_tbl := lw_at lw_m10 211 rfl
theorem q2465 : (Jvm.Cond.instanceMethod ({ cls := "WhalingLogsModel", name := "charts", desc := "(I)V" } : Jvm.MethodName)) ∈ lw_all := lw_g (lw_at lw_m10 212 rfl) rfl
theorem q2466 : (Jvm.Cond.code ({ cls := "WhalingLogsModel", name := "charts", desc := "(I)V" } : Jvm.MethodName) prog_20_method_57_code (5 : Nat) (Option.none : Option Jvm.ClassFile.FieldType)) ∈ lw_all := lw_g (lw_at lw_m10 213 rfl) rfl
theorem q2467 : (Jvm.Cond.methodLink "WhalingLogsModel" (203 : Nat) ({ cls := "WhalingLogsModel", name := "reaches", desc := "([III)V" } : Jvm.MethodName)) ∈ lw_all := lw_g (lw_at lw_m10 214 rfl) rfl
theorem q2468 : (Jvm.Cond.privateMethod ({ cls := "WhalingLogsModel", name := "reaches", desc := "([III)V" } : Jvm.MethodName)) ∈ lw_tbl := lw_at lw_m10 215 rfl
theorem q2469 : (Jvm.Cond.instanceMethod ({ cls := "WhalingLogsModel", name := "reaches", desc := "([III)V" } : Jvm.MethodName)) ∈ lw_all := lw_g (lw_at lw_m10 216 rfl) rfl
theorem q2470 : (Jvm.Cond.code ({ cls := "WhalingLogsModel", name := "reaches", desc := "([III)V" } : Jvm.MethodName) prog_20_method_58_code (6 : Nat) (Option.none : Option Jvm.ClassFile.FieldType)) ∈ lw_all := lw_g (lw_at lw_m10 217 rfl) rfl
theorem q2472 : (Jvm.Cond.instanceMethod ({ cls := "WhalingLogsModel", name := "chart", desc := "(I)I" } : Jvm.MethodName)) ∈ lw_all := lw_g (lw_at lw_m10 219 rfl) rfl
theorem q2473 : (Jvm.Cond.selects "WhalingLogsModel" ({ cls := "WhalingLogsModel", name := "chart", desc := "(I)I" } : Jvm.MethodName) ({ cls := "WhalingLogsModel", name := "chart", desc := "(I)I" } : Jvm.MethodName)) ∈ lw_all := lw_g (lw_at lw_m10 220 rfl) rfl
theorem q2474 : (Jvm.Cond.code ({ cls := "WhalingLogsModel", name := "chart", desc := "(I)I" } : Jvm.MethodName) prog_20_method_60_code (4 : Nat) (Option.some Jvm.ClassFile.FieldType.int)) ∈ lw_all := lw_g (lw_at lw_m10 221 rfl) rfl
theorem q2476 : (Jvm.Cond.instanceMethod ({ cls := "WhalingLogsModel", name := "append", desc := "(I)I" } : Jvm.MethodName)) ∈ lw_all := lw_g (lw_at lw_m10 223 rfl) rfl
theorem q2477 : (Jvm.Cond.selects "WhalingLogsModel" ({ cls := "WhalingLogsModel", name := "append", desc := "(I)I" } : Jvm.MethodName) ({ cls := "WhalingLogsModel", name := "append", desc := "(I)I" } : Jvm.MethodName)) ∈ lw_all := lw_g (lw_at lw_m10 224 rfl) rfl
theorem q2478 : (Jvm.Cond.code ({ cls := "WhalingLogsModel", name := "append", desc := "(I)I" } : Jvm.MethodName) prog_20_method_61_code (2 : Nat) (Option.some Jvm.ClassFile.FieldType.int)) ∈ lw_all := lw_g (lw_at lw_m10 225 rfl) rfl
theorem q2480 : (Jvm.Cond.instanceMethod ({ cls := "WhalingLogsModel", name := "run", desc := "()I" } : Jvm.MethodName)) ∈ lw_all := lw_g (lw_at lw_m10 227 rfl) rfl
theorem q2481 : (Jvm.Cond.selects "WhalingLogsModel" ({ cls := "WhalingLogsModel", name := "run", desc := "()I" } : Jvm.MethodName) ({ cls := "WhalingLogsModel", name := "run", desc := "()I" } : Jvm.MethodName)) ∈ lw_all := lw_g (lw_at lw_m10 228 rfl) rfl
theorem q2482 : (Jvm.Cond.code ({ cls := "WhalingLogsModel", name := "run", desc := "()I" } : Jvm.MethodName) prog_20_method_76_code (2 : Nat) (Option.some Jvm.ClassFile.FieldType.int)) ∈ lw_all := lw_g (lw_at lw_m10 229 rfl) rfl
theorem q2483 : (Jvm.Cond.methodLink "WhalingLogsModel" (265 : Nat) ({ cls := "WhalingLogsModel", name := "orders", desc := "()I" } : Jvm.MethodName)) ∈ lw_all := lw_g (lw_at lw_m10 230 rfl) rfl
theorem q2484 : (Jvm.Cond.privateMethod ({ cls := "WhalingLogsModel", name := "orders", desc := "()I" } : Jvm.MethodName)) ∈ lw_tbl := lw_at lw_m10 231 rfl
theorem q2485 : (Jvm.Cond.instanceMethod ({ cls := "WhalingLogsModel", name := "orders", desc := "()I" } : Jvm.MethodName)) ∈ lw_all := lw_g (lw_at lw_m10 232 rfl) rfl
theorem q2486 : (Jvm.Cond.code ({ cls := "WhalingLogsModel", name := "orders", desc := "()I" } : Jvm.MethodName) prog_20_method_75_code (3 : Nat) (Option.some Jvm.ClassFile.FieldType.int)) ∈ lw_all := lw_g (lw_at lw_m10 233 rfl) rfl
theorem q2487 : (Jvm.Cond.methodLink "WhalingLogsModel" (262 : Nat) ({ cls := "WhalingLogsModel", name := "order", desc := "()I" } : Jvm.MethodName)) ∈ lw_all := lw_g (lw_at lw_m10 234 rfl) rfl
theorem q2488 : (Jvm.Cond.privateMethod ({ cls := "WhalingLogsModel", name := "order", desc := "()I" } : Jvm.MethodName)) ∈ lw_tbl := lw_at lw_m10 235 rfl
theorem q2489 : (Jvm.Cond.instanceMethod ({ cls := "WhalingLogsModel", name := "order", desc := "()I" } : Jvm.MethodName)) ∈ lw_all := lw_g (lw_at lw_m10 236 rfl) rfl
theorem q2490 : (Jvm.Cond.code ({ cls := "WhalingLogsModel", name := "order", desc := "()I" } : Jvm.MethodName) prog_20_method_74_code (3 : Nat) (Option.some Jvm.ClassFile.FieldType.int)) ∈ lw_all := lw_g (lw_at lw_m10 237 rfl) rfl
theorem q2491 : (Jvm.Cond.methodLink "WhalingLogsModel" (247 : Nat) ({ cls := "WhalingLogsModel", name := "word", desc := "()I" } : Jvm.MethodName)) ∈ lw_all := lw_g (lw_at lw_m10 238 rfl) rfl
theorem q2492 : (Jvm.Cond.privateMethod ({ cls := "WhalingLogsModel", name := "word", desc := "()I" } : Jvm.MethodName)) ∈ lw_tbl := lw_at lw_m10 239 rfl
theorem q2493 : (Jvm.Cond.instanceMethod ({ cls := "WhalingLogsModel", name := "word", desc := "()I" } : Jvm.MethodName)) ∈ lw_all := lw_g (lw_at lw_m11 0 rfl) rfl
theorem q2494 : (Jvm.Cond.code ({ cls := "WhalingLogsModel", name := "word", desc := "()I" } : Jvm.MethodName) prog_20_method_64_code (6 : Nat) (Option.some Jvm.ClassFile.FieldType.int)) ∈ lw_all := lw_g (lw_at lw_m11 1 rfl) rfl
theorem q2495 : (Jvm.Cond.methodLink "WhalingLogsModel" (220 : Nat) ({ cls := "WhalingLogsModel", name := "sign", desc := "()I" } : Jvm.MethodName)) ∈ lw_all := lw_g (lw_at lw_m11 2 rfl) rfl
theorem q2496 : (Jvm.Cond.privateMethod ({ cls := "WhalingLogsModel", name := "sign", desc := "()I" } : Jvm.MethodName)) ∈ lw_tbl := lw_at lw_m11 3 rfl
theorem q2497 : (Jvm.Cond.instanceMethod ({ cls := "WhalingLogsModel", name := "sign", desc := "()I" } : Jvm.MethodName)) ∈ lw_all := lw_g (lw_at lw_m11 4 rfl) rfl
theorem q2498 : (Jvm.Cond.code ({ cls := "WhalingLogsModel", name := "sign", desc := "()I" } : Jvm.MethodName) prog_20_method_62_code (1 : Nat) (Option.some Jvm.ClassFile.FieldType.int)) ∈ lw_all := lw_g (lw_at lw_m11 5 rfl) rfl
theorem q2499 : (Jvm.Cond.methodLink "WhalingLogsModel" (250 : Nat) ({ cls := "WhalingLogsModel", name := "takes", desc := "(I)V" } : Jvm.MethodName)) ∈ lw_all := lw_g (lw_at lw_m11 6 rfl) rfl
theorem q2500 : (Jvm.Cond.privateMethod ({ cls := "WhalingLogsModel", name := "takes", desc := "(I)V" } : Jvm.MethodName)) ∈ lw_tbl := lw_at lw_m11 7 rfl
theorem q2501 : (Jvm.Cond.instanceMethod ({ cls := "WhalingLogsModel", name := "takes", desc := "(I)V" } : Jvm.MethodName)) ∈ lw_all := lw_g (lw_at lw_m11 8 rfl) rfl
theorem q2502 : (Jvm.Cond.code ({ cls := "WhalingLogsModel", name := "takes", desc := "(I)V" } : Jvm.MethodName) prog_20_method_63_code (2 : Nat) (Option.none : Option Jvm.ClassFile.FieldType)) ∈ lw_all := lw_g (lw_at lw_m11 9 rfl) rfl
theorem q2503 : (Jvm.Cond.methodLink "WhalingLogsModel" (253 : Nat) ({ cls := "WhalingLogsModel", name := "part", desc := "(I)V" } : Jvm.MethodName)) ∈ lw_all := lw_g (lw_at lw_m11 10 rfl) rfl
theorem q2504 : (Jvm.Cond.privateMethod ({ cls := "WhalingLogsModel", name := "part", desc := "(I)V" } : Jvm.MethodName)) ∈ lw_tbl := lw_at lw_m11 11 rfl
theorem q2505 : (Jvm.Cond.instanceMethod ({ cls := "WhalingLogsModel", name := "part", desc := "(I)V" } : Jvm.MethodName)) ∈ lw_all := lw_g (lw_at lw_m11 12 rfl) rfl
theorem q2506 : (Jvm.Cond.code ({ cls := "WhalingLogsModel", name := "part", desc := "(I)V" } : Jvm.MethodName) prog_20_method_67_code (2 : Nat) (Option.none : Option Jvm.ClassFile.FieldType)) ∈ lw_all := lw_g (lw_at lw_m11 13 rfl) rfl
theorem q2507 : (Jvm.Cond.methodLink "WhalingLogsModel" (226 : Nat) ({ cls := "WhalingLogsModel", name := "tells", desc := "(I)V" } : Jvm.MethodName)) ∈ lw_all := lw_g (lw_at lw_m11 14 rfl) rfl
theorem q2508 : (Jvm.Cond.privateMethod ({ cls := "WhalingLogsModel", name := "tells", desc := "(I)V" } : Jvm.MethodName)) ∈ lw_tbl := lw_at lw_m11 15 rfl
theorem q2509 : (Jvm.Cond.instanceMethod ({ cls := "WhalingLogsModel", name := "tells", desc := "(I)V" } : Jvm.MethodName)) ∈ lw_all := lw_g (lw_at lw_m11 16 rfl) rfl
theorem q2510 : (Jvm.Cond.code ({ cls := "WhalingLogsModel", name := "tells", desc := "(I)V" } : Jvm.MethodName) prog_20_method_66_code (2 : Nat) (Option.none : Option Jvm.ClassFile.FieldType)) ∈ lw_all := lw_g (lw_at lw_m11 17 rfl) rfl
theorem q2511 : (Jvm.Cond.methodLink "WhalingLogsModel" (229 : Nat) ({ cls := "WhalingLogsModel", name := "digits", desc := "(I)I" } : Jvm.MethodName)) ∈ lw_all := lw_g (lw_at lw_m11 18 rfl) rfl
theorem q2512 : (Jvm.Cond.privateMethod ({ cls := "WhalingLogsModel", name := "digits", desc := "(I)I" } : Jvm.MethodName)) ∈ lw_tbl := lw_at lw_m11 19 rfl
theorem q2513 : (Jvm.Cond.instanceMethod ({ cls := "WhalingLogsModel", name := "digits", desc := "(I)I" } : Jvm.MethodName)) ∈ lw_all := lw_g (lw_at lw_m11 20 rfl) rfl
theorem q2514 : (Jvm.Cond.code ({ cls := "WhalingLogsModel", name := "digits", desc := "(I)I" } : Jvm.MethodName) prog_20_method_65_code (4 : Nat) (Option.some Jvm.ClassFile.FieldType.int)) ∈ lw_all := lw_g (lw_at lw_m11 21 rfl) rfl
theorem q2515 : (Jvm.Cond.methodLink "WhalingLogsModel" (259 : Nat) ({ cls := "WhalingLogsModel", name := "does", desc := "(I)I" } : Jvm.MethodName)) ∈ lw_all := lw_g (lw_at lw_m11 22 rfl) rfl
theorem q2516 : (Jvm.Cond.privateMethod ({ cls := "WhalingLogsModel", name := "does", desc := "(I)I" } : Jvm.MethodName)) ∈ lw_tbl := lw_at lw_m11 23 rfl
theorem q2517 : (Jvm.Cond.instanceMethod ({ cls := "WhalingLogsModel", name := "does", desc := "(I)I" } : Jvm.MethodName)) ∈ lw_all := lw_g (lw_at lw_m11 24 rfl) rfl
theorem q2518 : (Jvm.Cond.code ({ cls := "WhalingLogsModel", name := "does", desc := "(I)I" } : Jvm.MethodName) prog_20_method_73_code (2 : Nat) (Option.some Jvm.ClassFile.FieldType.int)) ∈ lw_all := lw_g (lw_at lw_m11 25 rfl) rfl
theorem q2519 : (Jvm.Cond.methodLink "WhalingLogsModel" (235 : Nat) ({ cls := "WhalingLogsModel", name := "lies", desc := "(I)I" } : Jvm.MethodName)) ∈ lw_all := lw_g (lw_at lw_m11 26 rfl) rfl
theorem q2520 : (Jvm.Cond.privateMethod ({ cls := "WhalingLogsModel", name := "lies", desc := "(I)I" } : Jvm.MethodName)) ∈ lw_tbl := lw_at lw_m11 27 rfl
theorem q2521 : (Jvm.Cond.instanceMethod ({ cls := "WhalingLogsModel", name := "lies", desc := "(I)I" } : Jvm.MethodName)) ∈ lw_all := lw_g (lw_at lw_m11 28 rfl) rfl
theorem q2522 : (Jvm.Cond.code ({ cls := "WhalingLogsModel", name := "lies", desc := "(I)I" } : Jvm.MethodName) prog_20_method_69_code (2 : Nat) (Option.some Jvm.ClassFile.FieldType.int)) ∈ lw_all := lw_g (lw_at lw_m11 29 rfl) rfl
theorem q2523 : (Jvm.Cond.methodLink "WhalingLogsModel" (232 : Nat) ({ cls := "WhalingLogsModel", name := "cellTold", desc := "(I)I" } : Jvm.MethodName)) ∈ lw_all := lw_g (lw_at lw_m11 30 rfl) rfl
theorem q2524 : (Jvm.Cond.privateMethod ({ cls := "WhalingLogsModel", name := "cellTold", desc := "(I)I" } : Jvm.MethodName)) ∈ lw_tbl := lw_at lw_m11 31 rfl
theorem q2525 : (Jvm.Cond.instanceMethod ({ cls := "WhalingLogsModel", name := "cellTold", desc := "(I)I" } : Jvm.MethodName)) ∈ lw_all := lw_g (lw_at lw_m11 32 rfl) rfl
theorem q2526 : (Jvm.Cond.code ({ cls := "WhalingLogsModel", name := "cellTold", desc := "(I)I" } : Jvm.MethodName) prog_20_method_68_code (2 : Nat) (Option.some Jvm.ClassFile.FieldType.int)) ∈ lw_all := lw_g (lw_at lw_m11 33 rfl) rfl
theorem q2527 : (Jvm.Cond.methodLink "WhalingLogsModel" (238 : Nat) ({ cls := "WhalingLogsModel", name := "speeds", desc := "()I" } : Jvm.MethodName)) ∈ lw_all := lw_g (lw_at lw_m11 34 rfl) rfl
theorem q2528 : (Jvm.Cond.privateMethod ({ cls := "WhalingLogsModel", name := "speeds", desc := "()I" } : Jvm.MethodName)) ∈ lw_tbl := lw_at lw_m11 35 rfl
theorem q2529 : (Jvm.Cond.instanceMethod ({ cls := "WhalingLogsModel", name := "speeds", desc := "()I" } : Jvm.MethodName)) ∈ lw_all := lw_g (lw_at lw_m11 36 rfl) rfl
theorem q2530 : (Jvm.Cond.code ({ cls := "WhalingLogsModel", name := "speeds", desc := "()I" } : Jvm.MethodName) prog_20_method_70_code (1 : Nat) (Option.some Jvm.ClassFile.FieldType.int)) ∈ lw_all := lw_g (lw_at lw_m11 37 rfl) rfl
theorem q2531 : (Jvm.Cond.methodLink "WhalingLogsModel" (241 : Nat) ({ cls := "WhalingLogsModel", name := "pagesTold", desc := "()I" } : Jvm.MethodName)) ∈ lw_all := lw_g (lw_at lw_m11 38 rfl) rfl
theorem q2532 : (Jvm.Cond.privateMethod ({ cls := "WhalingLogsModel", name := "pagesTold", desc := "()I" } : Jvm.MethodName)) ∈ lw_tbl := lw_at lw_m11 39 rfl
theorem q2533 : (Jvm.Cond.instanceMethod ({ cls := "WhalingLogsModel", name := "pagesTold", desc := "()I" } : Jvm.MethodName)) ∈ lw_all := lw_g (lw_at lw_m11 40 rfl) rfl
theorem q2534 : (Jvm.Cond.code ({ cls := "WhalingLogsModel", name := "pagesTold", desc := "()I" } : Jvm.MethodName) prog_20_method_71_code (1 : Nat) (Option.some Jvm.ClassFile.FieldType.int)) ∈ lw_all := lw_g (lw_at lw_m11 41 rfl) rfl
theorem q2535 : (Jvm.Cond.methodLink "WhalingLogsModel" (244 : Nat) ({ cls := "WhalingLogsModel", name := "enters", desc := "()I" } : Jvm.MethodName)) ∈ lw_all := lw_g (lw_at lw_m11 42 rfl) rfl
theorem q2536 : (Jvm.Cond.privateMethod ({ cls := "WhalingLogsModel", name := "enters", desc := "()I" } : Jvm.MethodName)) ∈ lw_tbl := lw_at lw_m11 43 rfl
theorem q2537 : (Jvm.Cond.instanceMethod ({ cls := "WhalingLogsModel", name := "enters", desc := "()I" } : Jvm.MethodName)) ∈ lw_all := lw_g (lw_at lw_m11 44 rfl) rfl
theorem q2538 : (Jvm.Cond.code ({ cls := "WhalingLogsModel", name := "enters", desc := "()I" } : Jvm.MethodName) prog_20_method_72_code (1 : Nat) (Option.some Jvm.ClassFile.FieldType.int)) ∈ lw_all := lw_g (lw_at lw_m11 45 rfl) rfl
theorem q2540 : (Jvm.Cond.instanceMethod ({ cls := "WhalingLogsModel", name := "tell", desc := "(I)I" } : Jvm.MethodName)) ∈ lw_all := lw_g (lw_at lw_m11 47 rfl) rfl
theorem q2541 : (Jvm.Cond.selects "WhalingLogsModel" ({ cls := "WhalingLogsModel", name := "tell", desc := "(I)I" } : Jvm.MethodName) ({ cls := "WhalingLogsModel", name := "tell", desc := "(I)I" } : Jvm.MethodName)) ∈ lw_all := lw_g (lw_at lw_m11 48 rfl) rfl
theorem q2542 : (Jvm.Cond.code ({ cls := "WhalingLogsModel", name := "tell", desc := "(I)I" } : Jvm.MethodName) prog_20_method_80_code (3 : Nat) (Option.some Jvm.ClassFile.FieldType.int)) ∈ lw_all := lw_g (lw_at lw_m11 49 rfl) rfl
theorem q2543 : (Jvm.Cond.methodLink "WhalingLogsModel" (274 : Nat) ({ cls := "WhalingLogsModel", name := "writesNumber", desc := "(I)V" } : Jvm.MethodName)) ∈ lw_all := lw_g (lw_at lw_m11 50 rfl) rfl
theorem q2544 : (Jvm.Cond.privateMethod ({ cls := "WhalingLogsModel", name := "writesNumber", desc := "(I)V" } : Jvm.MethodName)) ∈ lw_tbl := lw_at lw_m11 51 rfl
theorem q2545 : (Jvm.Cond.instanceMethod ({ cls := "WhalingLogsModel", name := "writesNumber", desc := "(I)V" } : Jvm.MethodName)) ∈ lw_all := lw_g (lw_at lw_m11 52 rfl) rfl
theorem q2546 : (Jvm.Cond.code ({ cls := "WhalingLogsModel", name := "writesNumber", desc := "(I)V" } : Jvm.MethodName) prog_20_method_78_code (2 : Nat) (Option.none : Option Jvm.ClassFile.FieldType)) ∈ lw_all := lw_g (lw_at lw_m11 53 rfl) rfl
theorem q2547 : (Jvm.Cond.methodLink "WhalingLogsModel" (271 : Nat) ({ cls := "WhalingLogsModel", name := "writes", desc := "(I)V" } : Jvm.MethodName)) ∈ lw_all := lw_g (lw_at lw_m11 54 rfl) rfl
theorem q2548 : (Jvm.Cond.privateMethod ({ cls := "WhalingLogsModel", name := "writes", desc := "(I)V" } : Jvm.MethodName)) ∈ lw_tbl := lw_at lw_m11 55 rfl
theorem q2549 : (Jvm.Cond.instanceMethod ({ cls := "WhalingLogsModel", name := "writes", desc := "(I)V" } : Jvm.MethodName)) ∈ lw_all := lw_g (lw_at lw_m11 56 rfl) rfl
theorem q2550 : (Jvm.Cond.code ({ cls := "WhalingLogsModel", name := "writes", desc := "(I)V" } : Jvm.MethodName) prog_20_method_77_code (2 : Nat) (Option.none : Option Jvm.ClassFile.FieldType)) ∈ lw_all := lw_g (lw_at lw_m11 57 rfl) rfl
theorem q2551 : (Jvm.Cond.methodLink "WhalingLogsModel" (277 : Nat) ({ cls := "WhalingLogsModel", name := "writesEntry", desc := "(II)V" } : Jvm.MethodName)) ∈ lw_all := lw_g (lw_at lw_m11 58 rfl) rfl
theorem q2552 : (Jvm.Cond.privateMethod ({ cls := "WhalingLogsModel", name := "writesEntry", desc := "(II)V" } : Jvm.MethodName)) ∈ lw_tbl := lw_at lw_m11 59 rfl
theorem q2553 : (Jvm.Cond.instanceMethod ({ cls := "WhalingLogsModel", name := "writesEntry", desc := "(II)V" } : Jvm.MethodName)) ∈ lw_all := lw_g (lw_at lw_m11 60 rfl) rfl
theorem q2554 : (Jvm.Cond.code ({ cls := "WhalingLogsModel", name := "writesEntry", desc := "(II)V" } : Jvm.MethodName) prog_20_method_79_code (5 : Nat) (Option.none : Option Jvm.ClassFile.FieldType)) ∈ lw_all := lw_g (lw_at lw_m11 61 rfl) rfl
theorem q2556 : (Jvm.Cond.instanceMethod ({ cls := "WhalingLogsModel", name := "character", desc := "(I)I" } : Jvm.MethodName)) ∈ lw_all := lw_g (lw_at lw_m11 63 rfl) rfl
theorem q2557 : (Jvm.Cond.selects "WhalingLogsModel" ({ cls := "WhalingLogsModel", name := "character", desc := "(I)I" } : Jvm.MethodName) ({ cls := "WhalingLogsModel", name := "character", desc := "(I)I" } : Jvm.MethodName)) ∈ lw_all := lw_g (lw_at lw_m11 64 rfl) rfl
theorem q2558 : (Jvm.Cond.code ({ cls := "WhalingLogsModel", name := "character", desc := "(I)I" } : Jvm.MethodName) prog_20_method_81_code (2 : Nat) (Option.some Jvm.ClassFile.FieldType.int)) ∈ lw_all := lw_g (lw_at lw_m11 65 rfl) rfl
theorem q2560 : (Jvm.Cond.instanceMethod ({ cls := "WhalingLogsModel", name := "reason", desc := "(Z)I" } : Jvm.MethodName)) ∈ lw_all := lw_g (lw_at lw_m11 67 rfl) rfl
theorem q2561 : (Jvm.Cond.selects "WhalingLogsModel" ({ cls := "WhalingLogsModel", name := "reason", desc := "(Z)I" } : Jvm.MethodName) ({ cls := "WhalingLogsModel", name := "reason", desc := "(Z)I" } : Jvm.MethodName)) ∈ lw_all := lw_g (lw_at lw_m11 68 rfl) rfl
theorem q2562 : (Jvm.Cond.code ({ cls := "WhalingLogsModel", name := "reason", desc := "(Z)I" } : Jvm.MethodName) prog_20_method_82_code (2 : Nat) (Option.some Jvm.ClassFile.FieldType.int)) ∈ lw_all := lw_g (lw_at lw_m11 69 rfl) rfl
theorem q2564 : (Jvm.Cond.instanceMethod ({ cls := "WhalingLogsModel", name := "account", desc := "(I)I" } : Jvm.MethodName)) ∈ lw_all := lw_g (lw_at lw_m11 71 rfl) rfl
theorem q2565 : (Jvm.Cond.selects "WhalingLogsModel" ({ cls := "WhalingLogsModel", name := "account", desc := "(I)I" } : Jvm.MethodName) ({ cls := "WhalingLogsModel", name := "account", desc := "(I)I" } : Jvm.MethodName)) ∈ lw_all := lw_g (lw_at lw_m11 72 rfl) rfl
theorem q2566 : (Jvm.Cond.code ({ cls := "WhalingLogsModel", name := "account", desc := "(I)I" } : Jvm.MethodName) prog_20_method_84_code (2 : Nat) (Option.some Jvm.ClassFile.FieldType.int)) ∈ lw_all := lw_g (lw_at lw_m11 73 rfl) rfl
theorem q2567 : (Jvm.Cond.methodLink "WhalingLogsModel" (280 : Nat) ({ cls := "WhalingLogsModel", name := "sum", desc := "(III)I" } : Jvm.MethodName)) ∈ lw_all := lw_g (lw_at lw_m11 74 rfl) rfl
theorem q2568 : (Jvm.Cond.privateMethod ({ cls := "WhalingLogsModel", name := "sum", desc := "(III)I" } : Jvm.MethodName)) ∈ lw_tbl := lw_at lw_m11 75 rfl
theorem q2569 : (Jvm.Cond.instanceMethod ({ cls := "WhalingLogsModel", name := "sum", desc := "(III)I" } : Jvm.MethodName)) ∈ lw_all := lw_g (lw_at lw_m11 76 rfl) rfl
theorem q2570 : (Jvm.Cond.code ({ cls := "WhalingLogsModel", name := "sum", desc := "(III)I" } : Jvm.MethodName) prog_20_method_83_code (6 : Nat) (Option.some Jvm.ClassFile.FieldType.int)) ∈ lw_all := lw_g (lw_at lw_m11 77 rfl) rfl
theorem q2572 : (Jvm.Cond.instanceMethod ({ cls := "WhalingLogsModel", name := "undo", desc := "()I" } : Jvm.MethodName)) ∈ lw_all := lw_g (lw_at lw_m11 79 rfl) rfl
theorem q2573 : (Jvm.Cond.selects "WhalingLogsModel" ({ cls := "WhalingLogsModel", name := "undo", desc := "()I" } : Jvm.MethodName) ({ cls := "WhalingLogsModel", name := "undo", desc := "()I" } : Jvm.MethodName)) ∈ lw_all := lw_g (lw_at lw_m11 80 rfl) rfl
theorem q2574 : (Jvm.Cond.code ({ cls := "WhalingLogsModel", name := "undo", desc := "()I" } : Jvm.MethodName) prog_20_method_85_code (2 : Nat) (Option.some Jvm.ClassFile.FieldType.int)) ∈ lw_all := lw_g (lw_at lw_m11 81 rfl) rfl
theorem q2576 : (Jvm.Cond.instanceMethod ({ cls := "WhalingLogsModel", name := "save", desc := "()I" } : Jvm.MethodName)) ∈ lw_all := lw_g (lw_at lw_m11 83 rfl) rfl
theorem q2577 : (Jvm.Cond.selects "WhalingLogsModel" ({ cls := "WhalingLogsModel", name := "save", desc := "()I" } : Jvm.MethodName) ({ cls := "WhalingLogsModel", name := "save", desc := "()I" } : Jvm.MethodName)) ∈ lw_all := lw_g (lw_at lw_m11 84 rfl) rfl
theorem q2578 : (Jvm.Cond.code ({ cls := "WhalingLogsModel", name := "save", desc := "()I" } : Jvm.MethodName) prog_20_method_86_code (1 : Nat) (Option.some Jvm.ClassFile.FieldType.int)) ∈ lw_all := lw_g (lw_at lw_m11 85 rfl) rfl
theorem q2580 : (Jvm.Cond.instanceMethod ({ cls := "WhalingLogsModel", name := "restore", desc := "()I" } : Jvm.MethodName)) ∈ lw_all := lw_g (lw_at lw_m11 87 rfl) rfl
theorem q2581 : (Jvm.Cond.selects "WhalingLogsModel" ({ cls := "WhalingLogsModel", name := "restore", desc := "()I" } : Jvm.MethodName) ({ cls := "WhalingLogsModel", name := "restore", desc := "()I" } : Jvm.MethodName)) ∈ lw_all := lw_g (lw_at lw_m11 88 rfl) rfl
theorem q2582 : (Jvm.Cond.code ({ cls := "WhalingLogsModel", name := "restore", desc := "()I" } : Jvm.MethodName) prog_20_method_87_code (1 : Nat) (Option.some Jvm.ClassFile.FieldType.int)) ∈ lw_all := lw_g (lw_at lw_m11 89 rfl) rfl
theorem q2612 : (Jvm.Cond.castable "WhalingLogsModel" "java/lang/Object") ∈ lw_tbl := lw_at lw_m11 119 rfl
theorem in_X4 : ∀ w ∈ wsX40, w ∈ lw_all := lw_in wsX40 [2174, 2176, 2178, 2180, 2182, 2184, 2186, 2188, 2190, 2192, 2194, 2196, 2198, 2200, 2202, 2204, 2206, 2208, 2210, 2212, 2214, 2216, 2218, 2220, 2222, 2224, 2226, 2228, 2230, 2232, 2234, 2236, 2238, 2240] (by decide +kernel) (by decide +kernel)
