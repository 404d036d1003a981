/-! MazeBondsModel -/
set_option maxRecDepth 100000
def RX3 : String := "MazeBondsModel"
def TX3 : u_T := fun k => match k with
  | 0 => ("MazeBondsModel", "m", "[I", true)
  | 1 => ("MazeBondsModel", "aside", "[I", true)
  | 2 => ("MazeBondsModel", "saved", "[I", true)
  | 3 => ("MazeBondsModel", "isSaved", "Z", false)
  | 4 => ("MazeBondsModel", "past", "[I", true)
  | 5 => ("MazeBondsModel", "changes", "I", false)
  | 6 => ("MazeBondsModel", "why", "I", false)
  | 7 => ("MazeBondsModel", "detail", "I", false)
  | 8 => ("MazeBondsModel", "whose", "I", false)
  | 9 => ("MazeBondsModel", "fault", "I", false)
  | 10 => ("MazeBondsModel", "buffer", "[I", true)
  | 11 => ("MazeBondsModel", "bufferMany", "I", false)
  | 12 => ("MazeBondsModel", "thrown", "I", false)
  | 13 => ("MazeBondsModel", "way", "[I", true)
  | 14 => ("MazeBondsModel", "orders", "[I", true)
  | 15 => ("MazeBondsModel", "orderMany", "I", false)
  | 16 => ("MazeBondsModel", "place0", "I", false)
  | 17 => ("MazeBondsModel", "size0", "I", false)
  | 18 => ("MazeBondsModel", "isWrong", "Z", false)
  | 19 => ("MazeBondsModel", "line0", "[I", true)
  | _ => ("MazeBondsModel", "lineMany", "I", false)
def tyX3 : Nat → FieldType := fun k => match k with
  | 0 => .array .int
  | 1 => .array .int
  | 2 => .array .int
  | 3 => .boolean
  | 4 => .array .int
  | 5 => .int
  | 6 => .int
  | 7 => .int
  | 8 => .int
  | 9 => .int
  | 10 => .array .int
  | 11 => .int
  | 12 => .int
  | 13 => .array .int
  | 14 => .array .int
  | 15 => .int
  | 16 => .int
  | 17 => .int
  | 18 => .boolean
  | 19 => .array .int
  | _ => .int
abbrev wsX30 : List Cond := u_ws RX3 TX3 21
set_option maxRecDepth 100000 in
theorem nmX3 : ∀ a, a < 21 → ∀ b, b < 21 → a ≠ b → (TX3 a).2.1 ≠ (TX3 b).2.1 := by decide +kernel
set_option maxRecDepth 100000 in
theorem tyX3_ok : ∀ k, k < 21 → parseFieldDescriptor (TX3 k).2.2.1 = some (tyX3 k) := by decide +kernel
abbrev cX3_init : ByteArray := prog_10_method_1_code
def yX3_init : MethodName := ⟨RX3, "<init>", "()V"⟩
def dkwX3_init_3 : List UInt8 := [188, 10, 181, 0, 35, 42, 180, 0, 9, 5, 2, 79, 177]
abbrev dktX3_init_3 : List UInt8 := dkwX3_init_3 ++ []
def dkwX3_init_2 : List UInt8 := [181, 0, 26, 42, 16, 16, 188, 10, 181, 0, 29, 42, 17, 0, 244, 188, 10, 181, 0, 32, 42, 16, 30]
abbrev dktX3_init_2 : List UInt8 := dkwX3_init_2 ++ dktX3_init_3
def dkwX3_init_1 : List UInt8 := [188, 10, 181, 0, 16, 42, 17, 2, 176, 188, 10, 181, 0, 19, 42, 2, 181, 0, 22, 42, 16, 60, 188, 10]
abbrev dktX3_init_1 : List UInt8 := dkwX3_init_1 ++ dktX3_init_2
def dkwX3_init_0 : List UInt8 := [42, 183, 0, 1, 42, 16, 86, 188, 10, 181, 0, 9, 42, 16, 86, 188, 10, 181, 0, 13, 42, 16, 86]
abbrev dktX3_init_0 : List UInt8 := dkwX3_init_0 ++ dktX3_init_1
theorem dksX3_init_0 : cX3_init.data.toList.drop 0 = dktX3_init_0 := by decide +kernel
theorem dksX3_init_1 : cX3_init.data.toList.drop 23 = dktX3_init_1 := dk_seg dksX3_init_0 23 rfl rfl
theorem dksX3_init_2 : cX3_init.data.toList.drop 47 = dktX3_init_2 := dk_seg dksX3_init_1 24 rfl rfl
theorem dksX3_init_3 : cX3_init.data.toList.drop 70 = dktX3_init_3 := dk_seg dksX3_init_2 23 rfl rfl
theorem dX3_init_0 : decode cX3_init 0 = .ok (.aload_n 0, 1) := dk_42 (dk_at dksX3_init_0 0 rfl rfl)
theorem dX3_init_1 : decode cX3_init 1 = .ok (.invokespecial 1, 3) := dk_183 0 1 (dk_at dksX3_init_0 1 rfl rfl)
theorem dX3_init_4 : decode cX3_init 4 = .ok (.aload_n 0, 1) := dk_42 (dk_at dksX3_init_0 4 rfl rfl)
theorem dX3_init_5 : decode cX3_init 5 = .ok (.bipush 86, 2) := dk_16 86 (dk_at dksX3_init_0 5 rfl rfl)
theorem dX3_init_7 : decode cX3_init 7 = .ok (.newarray .int, 2) := dk_188_10 (dk_at dksX3_init_0 7 rfl rfl)
theorem dX3_init_9 : decode cX3_init 9 = .ok (.putfield 9, 3) := dk_181 0 9 (dk_at dksX3_init_0 9 rfl rfl)
theorem dX3_init_12 : decode cX3_init 12 = .ok (.aload_n 0, 1) := dk_42 (dk_at dksX3_init_0 12 rfl rfl)
theorem dX3_init_13 : decode cX3_init 13 = .ok (.bipush 86, 2) := dk_16 86 (dk_at dksX3_init_0 13 rfl rfl)
theorem dX3_init_15 : decode cX3_init 15 = .ok (.newarray .int, 2) := dk_188_10 (dk_at dksX3_init_0 15 rfl rfl)
theorem dX3_init_17 : decode cX3_init 17 = .ok (.putfield 13, 3) := dk_181 0 13 (dk_at dksX3_init_0 17 rfl rfl)
theorem dX3_init_20 : decode cX3_init 20 = .ok (.aload_n 0, 1) := dk_42 (dk_at dksX3_init_0 20 rfl rfl)
theorem dX3_init_21 : decode cX3_init 21 = .ok (.bipush 86, 2) := dk_16 86 (dk_at dksX3_init_0 21 rfl rfl)
theorem dX3_init_23 : decode cX3_init 23 = .ok (.newarray .int, 2) := dk_188_10 (dk_at dksX3_init_1 0 rfl rfl)
theorem dX3_init_25 : decode cX3_init 25 = .ok (.putfield 16, 3) := dk_181 0 16 (dk_at dksX3_init_1 2 rfl rfl)
theorem dX3_init_28 : decode cX3_init 28 = .ok (.aload_n 0, 1) := dk_42 (dk_at dksX3_init_1 5 rfl rfl)
theorem dX3_init_29 : decode cX3_init 29 = .ok (.sipush 688, 3) := dk_17 2 176 (dk_at dksX3_init_1 6 rfl rfl)
theorem dX3_init_32 : decode cX3_init 32 = .ok (.newarray .int, 2) := dk_188_10 (dk_at dksX3_init_1 9 rfl rfl)
theorem dX3_init_34 : decode cX3_init 34 = .ok (.putfield 19, 3) := dk_181 0 19 (dk_at dksX3_init_1 11 rfl rfl)
theorem dX3_init_37 : decode cX3_init 37 = .ok (.aload_n 0, 1) := dk_42 (dk_at dksX3_init_1 14 rfl rfl)
theorem dX3_init_38 : decode cX3_init 38 = .ok (.iconst (-1), 1) := dk_2 (dk_at dksX3_init_1 15 rfl rfl)
theorem dX3_init_39 : decode cX3_init 39 = .ok (.putfield 22, 3) := dk_181 0 22 (dk_at dksX3_init_1 16 rfl rfl)
theorem dX3_init_42 : decode cX3_init 42 = .ok (.aload_n 0, 1) := dk_42 (dk_at dksX3_init_1 19 rfl rfl)
theorem dX3_init_43 : decode cX3_init 43 = .ok (.bipush 60, 2) := dk_16 60 (dk_at dksX3_init_1 20 rfl rfl)
theorem dX3_init_45 : decode cX3_init 45 = .ok (.newarray .int, 2) := dk_188_10 (dk_at dksX3_init_1 22 rfl rfl)
theorem dX3_init_47 : decode cX3_init 47 = .ok (.putfield 26, 3) := dk_181 0 26 (dk_at dksX3_init_2 0 rfl rfl)
theorem dX3_init_50 : decode cX3_init 50 = .ok (.aload_n 0, 1) := dk_42 (dk_at dksX3_init_2 3 rfl rfl)
theorem dX3_init_51 : decode cX3_init 51 = .ok (.bipush 16, 2) := dk_16 16 (dk_at dksX3_init_2 4 rfl rfl)
theorem dX3_init_53 : decode cX3_init 53 = .ok (.newarray .int, 2) := dk_188_10 (dk_at dksX3_init_2 6 rfl rfl)
theorem dX3_init_55 : decode cX3_init 55 = .ok (.putfield 29, 3) := dk_181 0 29 (dk_at dksX3_init_2 8 rfl rfl)
theorem dX3_init_58 : decode cX3_init 58 = .ok (.aload_n 0, 1) := dk_42 (dk_at dksX3_init_2 11 rfl rfl)
theorem dX3_init_59 : decode cX3_init 59 = .ok (.sipush 244, 3) := dk_17 0 244 (dk_at dksX3_init_2 12 rfl rfl)
theorem dX3_init_62 : decode cX3_init 62 = .ok (.newarray .int, 2) := dk_188_10 (dk_at dksX3_init_2 15 rfl rfl)
theorem dX3_init_64 : decode cX3_init 64 = .ok (.putfield 32, 3) := dk_181 0 32 (dk_at dksX3_init_2 17 rfl rfl)
theorem dX3_init_67 : decode cX3_init 67 = .ok (.aload_n 0, 1) := dk_42 (dk_at dksX3_init_2 20 rfl rfl)
theorem dX3_init_68 : decode cX3_init 68 = .ok (.bipush 30, 2) := dk_16 30 (dk_at dksX3_init_2 21 rfl rfl)
theorem dX3_init_70 : decode cX3_init 70 = .ok (.newarray .int, 2) := dk_188_10 (dk_at dksX3_init_3 0 rfl rfl)
theorem dX3_init_72 : decode cX3_init 72 = .ok (.putfield 35, 3) := dk_181 0 35 (dk_at dksX3_init_3 2 rfl rfl)
theorem dX3_init_75 : decode cX3_init 75 = .ok (.aload_n 0, 1) := dk_42 (dk_at dksX3_init_3 5 rfl rfl)
theorem dX3_init_76 : decode cX3_init 76 = .ok (.getfield 9, 3) := dk_180 0 9 (dk_at dksX3_init_3 6 rfl rfl)
theorem dX3_init_79 : decode cX3_init 79 = .ok (.iconst 2, 1) := dk_5 (dk_at dksX3_init_3 9 rfl rfl)
theorem dX3_init_80 : decode cX3_init 80 = .ok (.iconst (-1), 1) := dk_2 (dk_at dksX3_init_3 10 rfl rfl)
theorem dX3_init_81 : decode cX3_init 81 = .ok (.iastore, 1) := dk_79 (dk_at dksX3_init_3 11 rfl rfl)
theorem dX3_init_82 : decode cX3_init 82 = .ok (.return_, 1) := dk_177 (dk_at dksX3_init_3 12 rfl rfl)
abbrev cX3_thrown : ByteArray := prog_10_method_2_code
def yX3_thrown : MethodName := ⟨RX3, "thrown", "()I"⟩
theorem dX3_thrown_0 : decode cX3_thrown 0 = .ok (.aload_n 0, 1) := by decide +kernel
theorem dX3_thrown_1 : decode cX3_thrown 1 = .ok (.getfield 38, 3) := by decide +kernel
theorem dX3_thrown_4 : decode cX3_thrown 4 = .ok (.ireturn, 1) := by decide +kernel
abbrev cX3_hedge : ByteArray := prog_10_method_23_code
def yX3_hedge : MethodName := ⟨RX3, "hedge", "(III)I"⟩
def dkwX3_hedge_0 : List UInt8 := [42, 182, 0, 100, 42, 42, 27, 28, 29, 182, 0, 103, 182, 0, 107, 172]
abbrev dktX3_hedge_0 : List UInt8 := dkwX3_hedge_0 ++ []
theorem dksX3_hedge_0 : cX3_hedge.data.toList.drop 0 = dktX3_hedge_0 := by decide +kernel
theorem dX3_hedge_0 : decode cX3_hedge 0 = .ok (.aload_n 0, 1) := dk_42 (dk_at dksX3_hedge_0 0 rfl rfl)
theorem dX3_hedge_1 : decode cX3_hedge 1 = .ok (.invokevirtual 100, 3) := dk_182 0 100 (dk_at dksX3_hedge_0 1 rfl rfl)
theorem dX3_hedge_4 : decode cX3_hedge 4 = .ok (.aload_n 0, 1) := dk_42 (dk_at dksX3_hedge_0 4 rfl rfl)
theorem dX3_hedge_5 : decode cX3_hedge 5 = .ok (.aload_n 0, 1) := dk_42 (dk_at dksX3_hedge_0 5 rfl rfl)
theorem dX3_hedge_6 : decode cX3_hedge 6 = .ok (.iload_n 1, 1) := dk_27 (dk_at dksX3_hedge_0 6 rfl rfl)
theorem dX3_hedge_7 : decode cX3_hedge 7 = .ok (.iload_n 2, 1) := dk_28 (dk_at dksX3_hedge_0 7 rfl rfl)
theorem dX3_hedge_8 : decode cX3_hedge 8 = .ok (.iload_n 3, 1) := dk_29 (dk_at dksX3_hedge_0 8 rfl rfl)
theorem dX3_hedge_9 : decode cX3_hedge 9 = .ok (.invokevirtual 103, 3) := dk_182 0 103 (dk_at dksX3_hedge_0 9 rfl rfl)
theorem dX3_hedge_12 : decode cX3_hedge 12 = .ok (.invokevirtual 107, 3) := dk_182 0 107 (dk_at dksX3_hedge_0 12 rfl rfl)
theorem dX3_hedge_15 : decode cX3_hedge 15 = .ok (.ireturn, 1) := dk_172 (dk_at dksX3_hedge_0 15 rfl rfl)
abbrev cX3_starts : ByteArray := prog_10_method_6_code
def yX3_starts : MethodName := ⟨RX3, "starts", "()V"⟩
def dkwX3_starts_1 : List UInt8 := [79, 132, 1, 1, 167, 255, 235, 177]
abbrev dktX3_starts_1 : List UInt8 := dkwX3_starts_1 ++ []
def dkwX3_starts_0 : List UInt8 := [42, 3, 181, 0, 38, 3, 60, 27, 16, 86, 162, 0, 21, 42, 180, 0, 13, 27, 42, 180, 0, 9, 27, 46]
abbrev dktX3_starts_0 : List UInt8 := dkwX3_starts_0 ++ dktX3_starts_1
theorem dksX3_starts_0 : cX3_starts.data.toList.drop 0 = dktX3_starts_0 := by decide +kernel
theorem dksX3_starts_1 : cX3_starts.data.toList.drop 24 = dktX3_starts_1 := dk_seg dksX3_starts_0 24 rfl rfl
theorem dX3_starts_0 : decode cX3_starts 0 = .ok (.aload_n 0, 1) := dk_42 (dk_at dksX3_starts_0 0 rfl rfl)
theorem dX3_starts_1 : decode cX3_starts 1 = .ok (.iconst 0, 1) := dk_3 (dk_at dksX3_starts_0 1 rfl rfl)
theorem dX3_starts_2 : decode cX3_starts 2 = .ok (.putfield 38, 3) := dk_181 0 38 (dk_at dksX3_starts_0 2 rfl rfl)
theorem dX3_starts_5 : decode cX3_starts 5 = .ok (.iconst 0, 1) := dk_3 (dk_at dksX3_starts_0 5 rfl rfl)
theorem dX3_starts_6 : decode cX3_starts 6 = .ok (.istore_n 1, 1) := dk_60 (dk_at dksX3_starts_0 6 rfl rfl)
theorem dX3_starts_7 : decode cX3_starts 7 = .ok (.iload_n 1, 1) := dk_27 (dk_at dksX3_starts_0 7 rfl rfl)
theorem dX3_starts_8 : decode cX3_starts 8 = .ok (.bipush 86, 2) := dk_16 86 (dk_at dksX3_starts_0 8 rfl rfl)
theorem dX3_starts_10 : decode cX3_starts 10 = .ok (.if_icmp .ge 21, 3) := dk_162 0 21 (dk_at dksX3_starts_0 10 rfl rfl)
theorem dX3_starts_13 : decode cX3_starts 13 = .ok (.aload_n 0, 1) := dk_42 (dk_at dksX3_starts_0 13 rfl rfl)
theorem dX3_starts_14 : decode cX3_starts 14 = .ok (.getfield 13, 3) := dk_180 0 13 (dk_at dksX3_starts_0 14 rfl rfl)
theorem dX3_starts_17 : decode cX3_starts 17 = .ok (.iload_n 1, 1) := dk_27 (dk_at dksX3_starts_0 17 rfl rfl)
theorem dX3_starts_18 : decode cX3_starts 18 = .ok (.aload_n 0, 1) := dk_42 (dk_at dksX3_starts_0 18 rfl rfl)
theorem dX3_starts_19 : decode cX3_starts 19 = .ok (.getfield 9, 3) := dk_180 0 9 (dk_at dksX3_starts_0 19 rfl rfl)
theorem dX3_starts_22 : decode cX3_starts 22 = .ok (.iload_n 1, 1) := dk_27 (dk_at dksX3_starts_0 22 rfl rfl)
theorem dX3_starts_23 : decode cX3_starts 23 = .ok (.iaload, 1) := dk_46 (dk_at dksX3_starts_0 23 rfl rfl)
theorem dX3_starts_24 : decode cX3_starts 24 = .ok (.iastore, 1) := dk_79 (dk_at dksX3_starts_1 0 rfl rfl)
theorem dX3_starts_25 : decode cX3_starts 25 = .ok (.iinc 1 1, 3) := dk_132 1 1 (dk_at dksX3_starts_1 1 rfl rfl)
theorem dX3_starts_28 : decode cX3_starts 28 = .ok (.goto (-21), 3) := dk_167 255 235 (dk_at dksX3_starts_1 4 rfl rfl)
theorem dX3_starts_31 : decode cX3_starts 31 = .ok (.return_, 1) := dk_177 (dk_at dksX3_starts_1 7 rfl rfl)
abbrev cX3_hedgeIt : ByteArray := prog_10_method_22_code
def yX3_hedgeIt : MethodName := ⟨RX3, "hedgeIt", "(III)I"⟩
def dkwX3_hedgeIt_2 : List UInt8 := [21, 5, 29, 160, 0, 10, 42, 6, 29, 182, 0, 91, 172, 42, 180, 0, 9, 21, 4, 29, 79, 21, 5, 172]
abbrev dktX3_hedgeIt_2 : List UInt8 := dkwX3_hedgeIt_2 ++ []
def dkwX3_hedgeIt_1 : List UInt8 := [182, 0, 96, 154, 0, 5, 2, 172, 27, 28, 184, 0, 77, 54, 4, 42, 180, 0, 9, 21, 4, 46, 54, 5]
abbrev dktX3_hedgeIt_1 : List UInt8 := dkwX3_hedgeIt_1 ++ dktX3_hedgeIt_2
def dkwX3_hedgeIt_0 : List UInt8 := [29, 133, 9, 20, 0, 94, 184, 0, 59, 154, 0, 10, 42, 4, 3, 182, 0, 91, 172, 42, 27, 28]
abbrev dktX3_hedgeIt_0 : List UInt8 := dkwX3_hedgeIt_0 ++ dktX3_hedgeIt_1
theorem dksX3_hedgeIt_0 : cX3_hedgeIt.data.toList.drop 0 = dktX3_hedgeIt_0 := by decide +kernel
theorem dksX3_hedgeIt_1 : cX3_hedgeIt.data.toList.drop 22 = dktX3_hedgeIt_1 := dk_seg dksX3_hedgeIt_0 22 rfl rfl
theorem dksX3_hedgeIt_2 : cX3_hedgeIt.data.toList.drop 46 = dktX3_hedgeIt_2 := dk_seg dksX3_hedgeIt_1 24 rfl rfl
theorem dX3_hedgeIt_0 : decode cX3_hedgeIt 0 = .ok (.iload_n 3, 1) := dk_29 (dk_at dksX3_hedgeIt_0 0 rfl rfl)
theorem dX3_hedgeIt_1 : decode cX3_hedgeIt 1 = .ok (.i2l, 1) := dk_133 (dk_at dksX3_hedgeIt_0 1 rfl rfl)
theorem dX3_hedgeIt_2 : decode cX3_hedgeIt 2 = .ok (.lconst 0, 1) := dk_9 (dk_at dksX3_hedgeIt_0 2 rfl rfl)
theorem dX3_hedgeIt_3 : decode cX3_hedgeIt 3 = .ok (.ldc2_w 94, 3) := dk_20 0 94 (dk_at dksX3_hedgeIt_0 3 rfl rfl)
theorem dX3_hedgeIt_6 : decode cX3_hedgeIt 6 = .ok (.invokestatic 59, 3) := dk_184 0 59 (dk_at dksX3_hedgeIt_0 6 rfl rfl)
theorem dX3_hedgeIt_9 : decode cX3_hedgeIt 9 = .ok (.ifCond .ne 10, 3) := dk_154 0 10 (dk_at dksX3_hedgeIt_0 9 rfl rfl)
theorem dX3_hedgeIt_12 : decode cX3_hedgeIt 12 = .ok (.aload_n 0, 1) := dk_42 (dk_at dksX3_hedgeIt_0 12 rfl rfl)
theorem dX3_hedgeIt_13 : decode cX3_hedgeIt 13 = .ok (.iconst 1, 1) := dk_4 (dk_at dksX3_hedgeIt_0 13 rfl rfl)
theorem dX3_hedgeIt_14 : decode cX3_hedgeIt 14 = .ok (.iconst 0, 1) := dk_3 (dk_at dksX3_hedgeIt_0 14 rfl rfl)
theorem dX3_hedgeIt_15 : decode cX3_hedgeIt 15 = .ok (.invokevirtual 91, 3) := dk_182 0 91 (dk_at dksX3_hedgeIt_0 15 rfl rfl)
theorem dX3_hedgeIt_18 : decode cX3_hedgeIt 18 = .ok (.ireturn, 1) := dk_172 (dk_at dksX3_hedgeIt_0 18 rfl rfl)
theorem dX3_hedgeIt_19 : decode cX3_hedgeIt 19 = .ok (.aload_n 0, 1) := dk_42 (dk_at dksX3_hedgeIt_0 19 rfl rfl)
theorem dX3_hedgeIt_20 : decode cX3_hedgeIt 20 = .ok (.iload_n 1, 1) := dk_27 (dk_at dksX3_hedgeIt_0 20 rfl rfl)
theorem dX3_hedgeIt_21 : decode cX3_hedgeIt 21 = .ok (.iload_n 2, 1) := dk_28 (dk_at dksX3_hedgeIt_0 21 rfl rfl)
theorem dX3_hedgeIt_22 : decode cX3_hedgeIt 22 = .ok (.invokevirtual 96, 3) := dk_182 0 96 (dk_at dksX3_hedgeIt_1 0 rfl rfl)
theorem dX3_hedgeIt_25 : decode cX3_hedgeIt 25 = .ok (.ifCond .ne 5, 3) := dk_154 0 5 (dk_at dksX3_hedgeIt_1 3 rfl rfl)
theorem dX3_hedgeIt_28 : decode cX3_hedgeIt 28 = .ok (.iconst (-1), 1) := dk_2 (dk_at dksX3_hedgeIt_1 6 rfl rfl)
theorem dX3_hedgeIt_29 : decode cX3_hedgeIt 29 = .ok (.ireturn, 1) := dk_172 (dk_at dksX3_hedgeIt_1 7 rfl rfl)
theorem dX3_hedgeIt_30 : decode cX3_hedgeIt 30 = .ok (.iload_n 1, 1) := dk_27 (dk_at dksX3_hedgeIt_1 8 rfl rfl)
theorem dX3_hedgeIt_31 : decode cX3_hedgeIt 31 = .ok (.iload_n 2, 1) := dk_28 (dk_at dksX3_hedgeIt_1 9 rfl rfl)
theorem dX3_hedgeIt_32 : decode cX3_hedgeIt 32 = .ok (.invokestatic 77, 3) := dk_184 0 77 (dk_at dksX3_hedgeIt_1 10 rfl rfl)
theorem dX3_hedgeIt_35 : decode cX3_hedgeIt 35 = .ok (.istore 4, 2) := dk_54 4 (dk_at dksX3_hedgeIt_1 13 rfl rfl)
theorem dX3_hedgeIt_37 : decode cX3_hedgeIt 37 = .ok (.aload_n 0, 1) := dk_42 (dk_at dksX3_hedgeIt_1 15 rfl rfl)
theorem dX3_hedgeIt_38 : decode cX3_hedgeIt 38 = .ok (.getfield 9, 3) := dk_180 0 9 (dk_at dksX3_hedgeIt_1 16 rfl rfl)
theorem dX3_hedgeIt_41 : decode cX3_hedgeIt 41 = .ok (.iload 4, 2) := dk_21 4 (dk_at dksX3_hedgeIt_1 19 rfl rfl)
theorem dX3_hedgeIt_43 : decode cX3_hedgeIt 43 = .ok (.iaload, 1) := dk_46 (dk_at dksX3_hedgeIt_1 21 rfl rfl)
theorem dX3_hedgeIt_44 : decode cX3_hedgeIt 44 = .ok (.istore 5, 2) := dk_54 5 (dk_at dksX3_hedgeIt_1 22 rfl rfl)
theorem dX3_hedgeIt_46 : decode cX3_hedgeIt 46 = .ok (.iload 5, 2) := dk_21 5 (dk_at dksX3_hedgeIt_2 0 rfl rfl)
theorem dX3_hedgeIt_48 : decode cX3_hedgeIt 48 = .ok (.iload_n 3, 1) := dk_29 (dk_at dksX3_hedgeIt_2 2 rfl rfl)
theorem dX3_hedgeIt_49 : decode cX3_hedgeIt 49 = .ok (.if_icmp .ne 10, 3) := dk_160 0 10 (dk_at dksX3_hedgeIt_2 3 rfl rfl)
theorem dX3_hedgeIt_52 : decode cX3_hedgeIt 52 = .ok (.aload_n 0, 1) := dk_42 (dk_at dksX3_hedgeIt_2 6 rfl rfl)
theorem dX3_hedgeIt_53 : decode cX3_hedgeIt 53 = .ok (.iconst 3, 1) := dk_6 (dk_at dksX3_hedgeIt_2 7 rfl rfl)
theorem dX3_hedgeIt_54 : decode cX3_hedgeIt 54 = .ok (.iload_n 3, 1) := dk_29 (dk_at dksX3_hedgeIt_2 8 rfl rfl)
theorem dX3_hedgeIt_55 : decode cX3_hedgeIt 55 = .ok (.invokevirtual 91, 3) := dk_182 0 91 (dk_at dksX3_hedgeIt_2 9 rfl rfl)
theorem dX3_hedgeIt_58 : decode cX3_hedgeIt 58 = .ok (.ireturn, 1) := dk_172 (dk_at dksX3_hedgeIt_2 12 rfl rfl)
theorem dX3_hedgeIt_59 : decode cX3_hedgeIt 59 = .ok (.aload_n 0, 1) := dk_42 (dk_at dksX3_hedgeIt_2 13 rfl rfl)
theorem dX3_hedgeIt_60 : decode cX3_hedgeIt 60 = .ok (.getfield 9, 3) := dk_180 0 9 (dk_at dksX3_hedgeIt_2 14 rfl rfl)
theorem dX3_hedgeIt_63 : decode cX3_hedgeIt 63 = .ok (.iload 4, 2) := dk_21 4 (dk_at dksX3_hedgeIt_2 17 rfl rfl)
theorem dX3_hedgeIt_65 : decode cX3_hedgeIt 65 = .ok (.iload_n 3, 1) := dk_29 (dk_at dksX3_hedgeIt_2 19 rfl rfl)
theorem dX3_hedgeIt_66 : decode cX3_hedgeIt 66 = .ok (.iastore, 1) := dk_79 (dk_at dksX3_hedgeIt_2 20 rfl rfl)
theorem dX3_hedgeIt_67 : decode cX3_hedgeIt 67 = .ok (.iload 5, 2) := dk_21 5 (dk_at dksX3_hedgeIt_2 21 rfl rfl)
theorem dX3_hedgeIt_69 : decode cX3_hedgeIt 69 = .ok (.ireturn, 1) := dk_172 (dk_at dksX3_hedgeIt_2 23 rfl rfl)
abbrev cX3_in : ByteArray := prog_10_method_4_code
def yX3_in : MethodName := ⟨RX3, "in", "(JJJ)Z"⟩
def dkwX3_in_0 : List UInt8 := [30, 32, 148, 155, 0, 14, 30, 22, 4, 148, 157, 0, 7, 4, 167, 0, 4, 3, 172]
abbrev dktX3_in_0 : List UInt8 := dkwX3_in_0 ++ []
theorem dksX3_in_0 : cX3_in.data.toList.drop 0 = dktX3_in_0 := by decide +kernel
theorem dX3_in_0 : decode cX3_in 0 = .ok (.lload_n 0, 1) := dk_30 (dk_at dksX3_in_0 0 rfl rfl)
theorem dX3_in_1 : decode cX3_in 1 = .ok (.lload_n 2, 1) := dk_32 (dk_at dksX3_in_0 1 rfl rfl)
theorem dX3_in_2 : decode cX3_in 2 = .ok (.lcmp, 1) := dk_148 (dk_at dksX3_in_0 2 rfl rfl)
theorem dX3_in_3 : decode cX3_in 3 = .ok (.ifCond .lt 14, 3) := dk_155 0 14 (dk_at dksX3_in_0 3 rfl rfl)
theorem dX3_in_6 : decode cX3_in 6 = .ok (.lload_n 0, 1) := dk_30 (dk_at dksX3_in_0 6 rfl rfl)
theorem dX3_in_7 : decode cX3_in 7 = .ok (.lload 4, 2) := dk_22 4 (dk_at dksX3_in_0 7 rfl rfl)
theorem dX3_in_9 : decode cX3_in 9 = .ok (.lcmp, 1) := dk_148 (dk_at dksX3_in_0 9 rfl rfl)
theorem dX3_in_10 : decode cX3_in 10 = .ok (.ifCond .gt 7, 3) := dk_157 0 7 (dk_at dksX3_in_0 10 rfl rfl)
theorem dX3_in_13 : decode cX3_in 13 = .ok (.iconst 1, 1) := dk_4 (dk_at dksX3_in_0 13 rfl rfl)
theorem dX3_in_14 : decode cX3_in 14 = .ok (.goto 4, 3) := dk_167 0 4 (dk_at dksX3_in_0 14 rfl rfl)
theorem dX3_in_17 : decode cX3_in 17 = .ok (.iconst 0, 1) := dk_3 (dk_at dksX3_in_0 17 rfl rfl)
theorem dX3_in_18 : decode cX3_in 18 = .ok (.ireturn, 1) := dk_172 (dk_at dksX3_in_0 18 rfl rfl)
abbrev cX3_refuse : ByteArray := prog_10_method_5_code
def yX3_refuse : MethodName := ⟨RX3, "refuse", "(II)I"⟩
def dkwX3_refuse_0 : List UInt8 := [42, 27, 181, 0, 41, 42, 28, 181, 0, 44, 42, 3, 181, 0, 47, 42, 4, 182, 0, 50, 172]
abbrev dktX3_refuse_0 : List UInt8 := dkwX3_refuse_0 ++ []
theorem dksX3_refuse_0 : cX3_refuse.data.toList.drop 0 = dktX3_refuse_0 := by decide +kernel
theorem dX3_refuse_0 : decode cX3_refuse 0 = .ok (.aload_n 0, 1) := dk_42 (dk_at dksX3_refuse_0 0 rfl rfl)
theorem dX3_refuse_1 : decode cX3_refuse 1 = .ok (.iload_n 1, 1) := dk_27 (dk_at dksX3_refuse_0 1 rfl rfl)
theorem dX3_refuse_2 : decode cX3_refuse 2 = .ok (.putfield 41, 3) := dk_181 0 41 (dk_at dksX3_refuse_0 2 rfl rfl)
theorem dX3_refuse_5 : decode cX3_refuse 5 = .ok (.aload_n 0, 1) := dk_42 (dk_at dksX3_refuse_0 5 rfl rfl)
theorem dX3_refuse_6 : decode cX3_refuse 6 = .ok (.iload_n 2, 1) := dk_28 (dk_at dksX3_refuse_0 6 rfl rfl)
theorem dX3_refuse_7 : decode cX3_refuse 7 = .ok (.putfield 44, 3) := dk_181 0 44 (dk_at dksX3_refuse_0 7 rfl rfl)
theorem dX3_refuse_10 : decode cX3_refuse 10 = .ok (.aload_n 0, 1) := dk_42 (dk_at dksX3_refuse_0 10 rfl rfl)
theorem dX3_refuse_11 : decode cX3_refuse 11 = .ok (.iconst 0, 1) := dk_3 (dk_at dksX3_refuse_0 11 rfl rfl)
theorem dX3_refuse_12 : decode cX3_refuse 12 = .ok (.putfield 47, 3) := dk_181 0 47 (dk_at dksX3_refuse_0 12 rfl rfl)
theorem dX3_refuse_15 : decode cX3_refuse 15 = .ok (.aload_n 0, 1) := dk_42 (dk_at dksX3_refuse_0 15 rfl rfl)
theorem dX3_refuse_16 : decode cX3_refuse 16 = .ok (.iconst 1, 1) := dk_4 (dk_at dksX3_refuse_0 16 rfl rfl)
theorem dX3_refuse_17 : decode cX3_refuse 17 = .ok (.invokevirtual 50, 3) := dk_182 0 50 (dk_at dksX3_refuse_0 17 rfl rfl)
theorem dX3_refuse_20 : decode cX3_refuse 20 = .ok (.ireturn, 1) := dk_172 (dk_at dksX3_refuse_0 20 rfl rfl)
abbrev cX3_throwing : ByteArray := prog_10_method_3_code
def yX3_throwing : MethodName := ⟨RX3, "throwing", "(I)I"⟩
def dkwX3_throwing_0 : List UInt8 := [42, 27, 181, 0, 38, 2, 172]
abbrev dktX3_throwing_0 : List UInt8 := dkwX3_throwing_0 ++ []
theorem dksX3_throwing_0 : cX3_throwing.data.toList.drop 0 = dktX3_throwing_0 := by decide +kernel
theorem dX3_throwing_0 : decode cX3_throwing 0 = .ok (.aload_n 0, 1) := dk_42 (dk_at dksX3_throwing_0 0 rfl rfl)
theorem dX3_throwing_1 : decode cX3_throwing 1 = .ok (.iload_n 1, 1) := dk_27 (dk_at dksX3_throwing_0 1 rfl rfl)
theorem dX3_throwing_2 : decode cX3_throwing 2 = .ok (.putfield 38, 3) := dk_181 0 38 (dk_at dksX3_throwing_0 2 rfl rfl)
theorem dX3_throwing_5 : decode cX3_throwing 5 = .ok (.iconst (-1), 1) := dk_2 (dk_at dksX3_throwing_0 5 rfl rfl)
theorem dX3_throwing_6 : decode cX3_throwing 6 = .ok (.ireturn, 1) := dk_172 (dk_at dksX3_throwing_0 6 rfl rfl)
abbrev cX3_areNeighbours : ByteArray := prog_10_method_21_code
def yX3_areNeighbours : MethodName := ⟨RX3, "areNeighbours", "(II)Z"⟩
def dkwX3_areNeighbours_1 : List UInt8 := [28, 184, 0, 77, 2, 160, 0, 16, 42, 5, 27, 28, 184, 0, 71, 182, 0, 91, 87, 3, 172, 4, 172]
abbrev dktX3_areNeighbours_1 : List UInt8 := dkwX3_areNeighbours_1 ++ []
def dkwX3_areNeighbours_0 : List UInt8 := [27, 184, 0, 88, 153, 0, 10, 28, 184, 0, 88, 154, 0, 12, 42, 4, 3, 182, 0, 91, 87, 3, 172, 27]
abbrev dktX3_areNeighbours_0 : List UInt8 := dkwX3_areNeighbours_0 ++ dktX3_areNeighbours_1
theorem dksX3_areNeighbours_0 : cX3_areNeighbours.data.toList.drop 0 = dktX3_areNeighbours_0 := by decide +kernel
theorem dksX3_areNeighbours_1 : cX3_areNeighbours.data.toList.drop 24 = dktX3_areNeighbours_1 := dk_seg dksX3_areNeighbours_0 24 rfl rfl
theorem dX3_areNeighbours_0 : decode cX3_areNeighbours 0 = .ok (.iload_n 1, 1) := dk_27 (dk_at dksX3_areNeighbours_0 0 rfl rfl)
theorem dX3_areNeighbours_1 : decode cX3_areNeighbours 1 = .ok (.invokestatic 88, 3) := dk_184 0 88 (dk_at dksX3_areNeighbours_0 1 rfl rfl)
theorem dX3_areNeighbours_4 : decode cX3_areNeighbours 4 = .ok (.ifCond .eq 10, 3) := dk_153 0 10 (dk_at dksX3_areNeighbours_0 4 rfl rfl)
theorem dX3_areNeighbours_7 : decode cX3_areNeighbours 7 = .ok (.iload_n 2, 1) := dk_28 (dk_at dksX3_areNeighbours_0 7 rfl rfl)
theorem dX3_areNeighbours_8 : decode cX3_areNeighbours 8 = .ok (.invokestatic 88, 3) := dk_184 0 88 (dk_at dksX3_areNeighbours_0 8 rfl rfl)
theorem dX3_areNeighbours_11 : decode cX3_areNeighbours 11 = .ok (.ifCond .ne 12, 3) := dk_154 0 12 (dk_at dksX3_areNeighbours_0 11 rfl rfl)
theorem dX3_areNeighbours_14 : decode cX3_areNeighbours 14 = .ok (.aload_n 0, 1) := dk_42 (dk_at dksX3_areNeighbours_0 14 rfl rfl)
theorem dX3_areNeighbours_15 : decode cX3_areNeighbours 15 = .ok (.iconst 1, 1) := dk_4 (dk_at dksX3_areNeighbours_0 15 rfl rfl)
theorem dX3_areNeighbours_16 : decode cX3_areNeighbours 16 = .ok (.iconst 0, 1) := dk_3 (dk_at dksX3_areNeighbours_0 16 rfl rfl)
theorem dX3_areNeighbours_17 : decode cX3_areNeighbours 17 = .ok (.invokevirtual 91, 3) := dk_182 0 91 (dk_at dksX3_areNeighbours_0 17 rfl rfl)
theorem dX3_areNeighbours_20 : decode cX3_areNeighbours 20 = .ok (.pop, 1) := dk_87 (dk_at dksX3_areNeighbours_0 20 rfl rfl)
theorem dX3_areNeighbours_21 : decode cX3_areNeighbours 21 = .ok (.iconst 0, 1) := dk_3 (dk_at dksX3_areNeighbours_0 21 rfl rfl)
theorem dX3_areNeighbours_22 : decode cX3_areNeighbours 22 = .ok (.ireturn, 1) := dk_172 (dk_at dksX3_areNeighbours_0 22 rfl rfl)
theorem dX3_areNeighbours_23 : decode cX3_areNeighbours 23 = .ok (.iload_n 1, 1) := dk_27 (dk_at dksX3_areNeighbours_0 23 rfl rfl)
theorem dX3_areNeighbours_24 : decode cX3_areNeighbours 24 = .ok (.iload_n 2, 1) := dk_28 (dk_at dksX3_areNeighbours_1 0 rfl rfl)
theorem dX3_areNeighbours_25 : decode cX3_areNeighbours 25 = .ok (.invokestatic 77, 3) := dk_184 0 77 (dk_at dksX3_areNeighbours_1 1 rfl rfl)
theorem dX3_areNeighbours_28 : decode cX3_areNeighbours 28 = .ok (.iconst (-1), 1) := dk_2 (dk_at dksX3_areNeighbours_1 4 rfl rfl)
theorem dX3_areNeighbours_29 : decode cX3_areNeighbours 29 = .ok (.if_icmp .ne 16, 3) := dk_160 0 16 (dk_at dksX3_areNeighbours_1 5 rfl rfl)
theorem dX3_areNeighbours_32 : decode cX3_areNeighbours 32 = .ok (.aload_n 0, 1) := dk_42 (dk_at dksX3_areNeighbours_1 8 rfl rfl)
theorem dX3_areNeighbours_33 : decode cX3_areNeighbours 33 = .ok (.iconst 2, 1) := dk_5 (dk_at dksX3_areNeighbours_1 9 rfl rfl)
theorem dX3_areNeighbours_34 : decode cX3_areNeighbours 34 = .ok (.iload_n 1, 1) := dk_27 (dk_at dksX3_areNeighbours_1 10 rfl rfl)
theorem dX3_areNeighbours_35 : decode cX3_areNeighbours 35 = .ok (.iload_n 2, 1) := dk_28 (dk_at dksX3_areNeighbours_1 11 rfl rfl)
theorem dX3_areNeighbours_36 : decode cX3_areNeighbours 36 = .ok (.invokestatic 71, 3) := dk_184 0 71 (dk_at dksX3_areNeighbours_1 12 rfl rfl)
theorem dX3_areNeighbours_39 : decode cX3_areNeighbours 39 = .ok (.invokevirtual 91, 3) := dk_182 0 91 (dk_at dksX3_areNeighbours_1 15 rfl rfl)
theorem dX3_areNeighbours_42 : decode cX3_areNeighbours 42 = .ok (.pop, 1) := dk_87 (dk_at dksX3_areNeighbours_1 18 rfl rfl)
theorem dX3_areNeighbours_43 : decode cX3_areNeighbours 43 = .ok (.iconst 0, 1) := dk_3 (dk_at dksX3_areNeighbours_1 19 rfl rfl)
theorem dX3_areNeighbours_44 : decode cX3_areNeighbours 44 = .ok (.ireturn, 1) := dk_172 (dk_at dksX3_areNeighbours_1 20 rfl rfl)
theorem dX3_areNeighbours_45 : decode cX3_areNeighbours 45 = .ok (.iconst 1, 1) := dk_4 (dk_at dksX3_areNeighbours_1 21 rfl rfl)
theorem dX3_areNeighbours_46 : decode cX3_areNeighbours 46 = .ok (.ireturn, 1) := dk_172 (dk_at dksX3_areNeighbours_1 22 rfl rfl)
abbrev cX3_isCell : ByteArray := prog_10_method_8_code
def yX3_isCell : MethodName := ⟨RX3, "isCell", "(I)Z"⟩
def dkwX3_isCell_0 : List UInt8 := [26, 133, 9, 20, 0, 57, 184, 0, 59, 172]
abbrev dktX3_isCell_0 : List UInt8 := dkwX3_isCell_0 ++ []
theorem dksX3_isCell_0 : cX3_isCell.data.toList.drop 0 = dktX3_isCell_0 := by decide +kernel
theorem dX3_isCell_0 : decode cX3_isCell 0 = .ok (.iload_n 0, 1) := dk_26 (dk_at dksX3_isCell_0 0 rfl rfl)
theorem dX3_isCell_1 : decode cX3_isCell 1 = .ok (.i2l, 1) := dk_133 (dk_at dksX3_isCell_0 1 rfl rfl)
theorem dX3_isCell_2 : decode cX3_isCell 2 = .ok (.lconst 0, 1) := dk_9 (dk_at dksX3_isCell_0 2 rfl rfl)
theorem dX3_isCell_3 : decode cX3_isCell 3 = .ok (.ldc2_w 57, 3) := dk_20 0 57 (dk_at dksX3_isCell_0 3 rfl rfl)
theorem dX3_isCell_6 : decode cX3_isCell 6 = .ok (.invokestatic 59, 3) := dk_184 0 59 (dk_at dksX3_isCell_0 6 rfl rfl)
theorem dX3_isCell_9 : decode cX3_isCell 9 = .ok (.ireturn, 1) := dk_172 (dk_at dksX3_isCell_0 9 rfl rfl)
abbrev cX3_hedgeAt : ByteArray := prog_10_method_10_code
def yX3_hedgeAt : MethodName := ⟨RX3, "hedgeAt", "(II)I"⟩
def dkwX3_hedgeAt_2 : List UInt8 := [112, 96, 167, 0, 4, 2, 172]
abbrev dktX3_hedgeAt_2 : List UInt8 := dkwX3_hedgeAt_2 ++ []
def dkwX3_hedgeAt_1 : List UInt8 := [29, 28, 100, 4, 160, 0, 25, 28, 7, 112, 6, 162, 0, 18, 16, 6, 6, 28, 7, 108, 104, 96, 28, 7]
abbrev dktX3_hedgeAt_1 : List UInt8 := dkwX3_hedgeAt_1 ++ dktX3_hedgeAt_2
def dkwX3_hedgeAt_0 : List UInt8 := [26, 27, 184, 0, 65, 61, 26, 27, 184, 0, 71, 62, 29, 28, 100, 7, 160, 0, 8, 16, 18, 28, 96, 172]
abbrev dktX3_hedgeAt_0 : List UInt8 := dkwX3_hedgeAt_0 ++ dktX3_hedgeAt_1
theorem dksX3_hedgeAt_0 : cX3_hedgeAt.data.toList.drop 0 = dktX3_hedgeAt_0 := by decide +kernel
theorem dksX3_hedgeAt_1 : cX3_hedgeAt.data.toList.drop 24 = dktX3_hedgeAt_1 := dk_seg dksX3_hedgeAt_0 24 rfl rfl
theorem dksX3_hedgeAt_2 : cX3_hedgeAt.data.toList.drop 48 = dktX3_hedgeAt_2 := dk_seg dksX3_hedgeAt_1 24 rfl rfl
theorem dX3_hedgeAt_0 : decode cX3_hedgeAt 0 = .ok (.iload_n 0, 1) := dk_26 (dk_at dksX3_hedgeAt_0 0 rfl rfl)
theorem dX3_hedgeAt_1 : decode cX3_hedgeAt 1 = .ok (.iload_n 1, 1) := dk_27 (dk_at dksX3_hedgeAt_0 1 rfl rfl)
theorem dX3_hedgeAt_2 : decode cX3_hedgeAt 2 = .ok (.invokestatic 65, 3) := dk_184 0 65 (dk_at dksX3_hedgeAt_0 2 rfl rfl)
theorem dX3_hedgeAt_5 : decode cX3_hedgeAt 5 = .ok (.istore_n 2, 1) := dk_61 (dk_at dksX3_hedgeAt_0 5 rfl rfl)
theorem dX3_hedgeAt_6 : decode cX3_hedgeAt 6 = .ok (.iload_n 0, 1) := dk_26 (dk_at dksX3_hedgeAt_0 6 rfl rfl)
theorem dX3_hedgeAt_7 : decode cX3_hedgeAt 7 = .ok (.iload_n 1, 1) := dk_27 (dk_at dksX3_hedgeAt_0 7 rfl rfl)
theorem dX3_hedgeAt_8 : decode cX3_hedgeAt 8 = .ok (.invokestatic 71, 3) := dk_184 0 71 (dk_at dksX3_hedgeAt_0 8 rfl rfl)
theorem dX3_hedgeAt_11 : decode cX3_hedgeAt 11 = .ok (.istore_n 3, 1) := dk_62 (dk_at dksX3_hedgeAt_0 11 rfl rfl)
theorem dX3_hedgeAt_12 : decode cX3_hedgeAt 12 = .ok (.iload_n 3, 1) := dk_29 (dk_at dksX3_hedgeAt_0 12 rfl rfl)
theorem dX3_hedgeAt_13 : decode cX3_hedgeAt 13 = .ok (.iload_n 2, 1) := dk_28 (dk_at dksX3_hedgeAt_0 13 rfl rfl)
theorem dX3_hedgeAt_14 : decode cX3_hedgeAt 14 = .ok (.isub, 1) := dk_100 (dk_at dksX3_hedgeAt_0 14 rfl rfl)
theorem dX3_hedgeAt_15 : decode cX3_hedgeAt 15 = .ok (.iconst 4, 1) := dk_7 (dk_at dksX3_hedgeAt_0 15 rfl rfl)
theorem dX3_hedgeAt_16 : decode cX3_hedgeAt 16 = .ok (.if_icmp .ne 8, 3) := dk_160 0 8 (dk_at dksX3_hedgeAt_0 16 rfl rfl)
theorem dX3_hedgeAt_19 : decode cX3_hedgeAt 19 = .ok (.bipush 18, 2) := dk_16 18 (dk_at dksX3_hedgeAt_0 19 rfl rfl)
theorem dX3_hedgeAt_21 : decode cX3_hedgeAt 21 = .ok (.iload_n 2, 1) := dk_28 (dk_at dksX3_hedgeAt_0 21 rfl rfl)
theorem dX3_hedgeAt_22 : decode cX3_hedgeAt 22 = .ok (.iadd, 1) := dk_96 (dk_at dksX3_hedgeAt_0 22 rfl rfl)
theorem dX3_hedgeAt_23 : decode cX3_hedgeAt 23 = .ok (.ireturn, 1) := dk_172 (dk_at dksX3_hedgeAt_0 23 rfl rfl)
theorem dX3_hedgeAt_24 : decode cX3_hedgeAt 24 = .ok (.iload_n 3, 1) := dk_29 (dk_at dksX3_hedgeAt_1 0 rfl rfl)
theorem dX3_hedgeAt_25 : decode cX3_hedgeAt 25 = .ok (.iload_n 2, 1) := dk_28 (dk_at dksX3_hedgeAt_1 1 rfl rfl)
theorem dX3_hedgeAt_26 : decode cX3_hedgeAt 26 = .ok (.isub, 1) := dk_100 (dk_at dksX3_hedgeAt_1 2 rfl rfl)
theorem dX3_hedgeAt_27 : decode cX3_hedgeAt 27 = .ok (.iconst 1, 1) := dk_4 (dk_at dksX3_hedgeAt_1 3 rfl rfl)
theorem dX3_hedgeAt_28 : decode cX3_hedgeAt 28 = .ok (.if_icmp .ne 25, 3) := dk_160 0 25 (dk_at dksX3_hedgeAt_1 4 rfl rfl)
theorem dX3_hedgeAt_31 : decode cX3_hedgeAt 31 = .ok (.iload_n 2, 1) := dk_28 (dk_at dksX3_hedgeAt_1 7 rfl rfl)
theorem dX3_hedgeAt_32 : decode cX3_hedgeAt 32 = .ok (.iconst 4, 1) := dk_7 (dk_at dksX3_hedgeAt_1 8 rfl rfl)
theorem dX3_hedgeAt_33 : decode cX3_hedgeAt 33 = .ok (.irem, 1) := dk_112 (dk_at dksX3_hedgeAt_1 9 rfl rfl)
theorem dX3_hedgeAt_34 : decode cX3_hedgeAt 34 = .ok (.iconst 3, 1) := dk_6 (dk_at dksX3_hedgeAt_1 10 rfl rfl)
theorem dX3_hedgeAt_35 : decode cX3_hedgeAt 35 = .ok (.if_icmp .ge 18, 3) := dk_162 0 18 (dk_at dksX3_hedgeAt_1 11 rfl rfl)
theorem dX3_hedgeAt_38 : decode cX3_hedgeAt 38 = .ok (.bipush 6, 2) := dk_16 6 (dk_at dksX3_hedgeAt_1 14 rfl rfl)
theorem dX3_hedgeAt_40 : decode cX3_hedgeAt 40 = .ok (.iconst 3, 1) := dk_6 (dk_at dksX3_hedgeAt_1 16 rfl rfl)
theorem dX3_hedgeAt_41 : decode cX3_hedgeAt 41 = .ok (.iload_n 2, 1) := dk_28 (dk_at dksX3_hedgeAt_1 17 rfl rfl)
theorem dX3_hedgeAt_42 : decode cX3_hedgeAt 42 = .ok (.iconst 4, 1) := dk_7 (dk_at dksX3_hedgeAt_1 18 rfl rfl)
theorem dX3_hedgeAt_43 : decode cX3_hedgeAt 43 = .ok (.idiv, 1) := dk_108 (dk_at dksX3_hedgeAt_1 19 rfl rfl)
theorem dX3_hedgeAt_44 : decode cX3_hedgeAt 44 = .ok (.imul, 1) := dk_104 (dk_at dksX3_hedgeAt_1 20 rfl rfl)
theorem dX3_hedgeAt_45 : decode cX3_hedgeAt 45 = .ok (.iadd, 1) := dk_96 (dk_at dksX3_hedgeAt_1 21 rfl rfl)
theorem dX3_hedgeAt_46 : decode cX3_hedgeAt 46 = .ok (.iload_n 2, 1) := dk_28 (dk_at dksX3_hedgeAt_1 22 rfl rfl)
theorem dX3_hedgeAt_47 : decode cX3_hedgeAt 47 = .ok (.iconst 4, 1) := dk_7 (dk_at dksX3_hedgeAt_1 23 rfl rfl)
theorem dX3_hedgeAt_48 : decode cX3_hedgeAt 48 = .ok (.irem, 1) := dk_112 (dk_at dksX3_hedgeAt_2 0 rfl rfl)
theorem dX3_hedgeAt_49 : decode cX3_hedgeAt 49 = .ok (.iadd, 1) := dk_96 (dk_at dksX3_hedgeAt_2 1 rfl rfl)
theorem dX3_hedgeAt_50 : decode cX3_hedgeAt 50 = .ok (.goto 4, 3) := dk_167 0 4 (dk_at dksX3_hedgeAt_2 2 rfl rfl)
theorem dX3_hedgeAt_53 : decode cX3_hedgeAt 53 = .ok (.iconst (-1), 1) := dk_2 (dk_at dksX3_hedgeAt_2 5 rfl rfl)
theorem dX3_hedgeAt_54 : decode cX3_hedgeAt 54 = .ok (.ireturn, 1) := dk_172 (dk_at dksX3_hedgeAt_2 6 rfl rfl)
abbrev cX3_changed : ByteArray := prog_10_method_7_code
def yX3_changed : MethodName := ⟨RX3, "changed", "(I)I"⟩
def dkwX3_changed_4 : List UInt8 := [180, 0, 54, 4, 96, 181, 0, 54, 27, 172]
abbrev dktX3_changed_4 : List UInt8 := dkwX3_changed_4 ++ []
def dkwX3_changed_3 : List UInt8 := [42, 180, 0, 54, 104, 28, 96, 42, 180, 0, 13, 28, 46, 79, 132, 2, 1, 167, 255, 227, 42, 89]
abbrev dktX3_changed_3 : List UInt8 := dkwX3_changed_3 ++ dktX3_changed_4
def dkwX3_changed_2 : List UInt8 := [42, 89, 180, 0, 54, 4, 100, 181, 0, 54, 3, 61, 28, 16, 86, 162, 0, 29, 42, 180, 0, 19, 16, 86]
abbrev dktX3_changed_2 : List UInt8 := dkwX3_changed_2 ++ dktX3_changed_3
def dkwX3_changed_1 : List UInt8 := [162, 0, 24, 42, 180, 0, 19, 28, 42, 180, 0, 19, 28, 16, 86, 96, 46, 79, 132, 2, 1, 167, 255, 231]
abbrev dktX3_changed_1 : List UInt8 := dkwX3_changed_1 ++ dktX3_changed_2
def dkwX3_changed_0 : List UInt8 := [42, 180, 0, 38, 158, 0, 5, 27, 172, 42, 180, 0, 54, 16, 8, 160, 0, 43, 3, 61, 28, 17, 2, 90]
abbrev dktX3_changed_0 : List UInt8 := dkwX3_changed_0 ++ dktX3_changed_1
theorem dksX3_changed_0 : cX3_changed.data.toList.drop 0 = dktX3_changed_0 := by decide +kernel
theorem dksX3_changed_1 : cX3_changed.data.toList.drop 24 = dktX3_changed_1 := dk_seg dksX3_changed_0 24 rfl rfl
theorem dksX3_changed_2 : cX3_changed.data.toList.drop 48 = dktX3_changed_2 := dk_seg dksX3_changed_1 24 rfl rfl
theorem dksX3_changed_3 : cX3_changed.data.toList.drop 72 = dktX3_changed_3 := dk_seg dksX3_changed_2 24 rfl rfl
theorem dksX3_changed_4 : cX3_changed.data.toList.drop 94 = dktX3_changed_4 := dk_seg dksX3_changed_3 22 rfl rfl
theorem dX3_changed_0 : decode cX3_changed 0 = .ok (.aload_n 0, 1) := dk_42 (dk_at dksX3_changed_0 0 rfl rfl)
theorem dX3_changed_1 : decode cX3_changed 1 = .ok (.getfield 38, 3) := dk_180 0 38 (dk_at dksX3_changed_0 1 rfl rfl)
theorem dX3_changed_4 : decode cX3_changed 4 = .ok (.ifCond .le 5, 3) := dk_158 0 5 (dk_at dksX3_changed_0 4 rfl rfl)
theorem dX3_changed_7 : decode cX3_changed 7 = .ok (.iload_n 1, 1) := dk_27 (dk_at dksX3_changed_0 7 rfl rfl)
theorem dX3_changed_8 : decode cX3_changed 8 = .ok (.ireturn, 1) := dk_172 (dk_at dksX3_changed_0 8 rfl rfl)
theorem dX3_changed_9 : decode cX3_changed 9 = .ok (.aload_n 0, 1) := dk_42 (dk_at dksX3_changed_0 9 rfl rfl)
theorem dX3_changed_10 : decode cX3_changed 10 = .ok (.getfield 54, 3) := dk_180 0 54 (dk_at dksX3_changed_0 10 rfl rfl)
theorem dX3_changed_13 : decode cX3_changed 13 = .ok (.bipush 8, 2) := dk_16 8 (dk_at dksX3_changed_0 13 rfl rfl)
theorem dX3_changed_15 : decode cX3_changed 15 = .ok (.if_icmp .ne 43, 3) := dk_160 0 43 (dk_at dksX3_changed_0 15 rfl rfl)
theorem dX3_changed_18 : decode cX3_changed 18 = .ok (.iconst 0, 1) := dk_3 (dk_at dksX3_changed_0 18 rfl rfl)
theorem dX3_changed_19 : decode cX3_changed 19 = .ok (.istore_n 2, 1) := dk_61 (dk_at dksX3_changed_0 19 rfl rfl)
theorem dX3_changed_20 : decode cX3_changed 20 = .ok (.iload_n 2, 1) := dk_28 (dk_at dksX3_changed_0 20 rfl rfl)
theorem dX3_changed_21 : decode cX3_changed 21 = .ok (.sipush 602, 3) := dk_17 2 90 (dk_at dksX3_changed_0 21 rfl rfl)
theorem dX3_changed_24 : decode cX3_changed 24 = .ok (.if_icmp .ge 24, 3) := dk_162 0 24 (dk_at dksX3_changed_1 0 rfl rfl)
theorem dX3_changed_27 : decode cX3_changed 27 = .ok (.aload_n 0, 1) := dk_42 (dk_at dksX3_changed_1 3 rfl rfl)
theorem dX3_changed_28 : decode cX3_changed 28 = .ok (.getfield 19, 3) := dk_180 0 19 (dk_at dksX3_changed_1 4 rfl rfl)
theorem dX3_changed_31 : decode cX3_changed 31 = .ok (.iload_n 2, 1) := dk_28 (dk_at dksX3_changed_1 7 rfl rfl)
theorem dX3_changed_32 : decode cX3_changed 32 = .ok (.aload_n 0, 1) := dk_42 (dk_at dksX3_changed_1 8 rfl rfl)
theorem dX3_changed_33 : decode cX3_changed 33 = .ok (.getfield 19, 3) := dk_180 0 19 (dk_at dksX3_changed_1 9 rfl rfl)
theorem dX3_changed_36 : decode cX3_changed 36 = .ok (.iload_n 2, 1) := dk_28 (dk_at dksX3_changed_1 12 rfl rfl)
theorem dX3_changed_37 : decode cX3_changed 37 = .ok (.bipush 86, 2) := dk_16 86 (dk_at dksX3_changed_1 13 rfl rfl)
theorem dX3_changed_39 : decode cX3_changed 39 = .ok (.iadd, 1) := dk_96 (dk_at dksX3_changed_1 15 rfl rfl)
theorem dX3_changed_40 : decode cX3_changed 40 = .ok (.iaload, 1) := dk_46 (dk_at dksX3_changed_1 16 rfl rfl)
theorem dX3_changed_41 : decode cX3_changed 41 = .ok (.iastore, 1) := dk_79 (dk_at dksX3_changed_1 17 rfl rfl)
theorem dX3_changed_42 : decode cX3_changed 42 = .ok (.iinc 2 1, 3) := dk_132 2 1 (dk_at dksX3_changed_1 18 rfl rfl)
theorem dX3_changed_45 : decode cX3_changed 45 = .ok (.goto (-25), 3) := dk_167 255 231 (dk_at dksX3_changed_1 21 rfl rfl)
theorem dX3_changed_48 : decode cX3_changed 48 = .ok (.aload_n 0, 1) := dk_42 (dk_at dksX3_changed_2 0 rfl rfl)
theorem dX3_changed_49 : decode cX3_changed 49 = .ok (.dup, 1) := dk_89 (dk_at dksX3_changed_2 1 rfl rfl)
theorem dX3_changed_50 : decode cX3_changed 50 = .ok (.getfield 54, 3) := dk_180 0 54 (dk_at dksX3_changed_2 2 rfl rfl)
theorem dX3_changed_53 : decode cX3_changed 53 = .ok (.iconst 1, 1) := dk_4 (dk_at dksX3_changed_2 5 rfl rfl)
theorem dX3_changed_54 : decode cX3_changed 54 = .ok (.isub, 1) := dk_100 (dk_at dksX3_changed_2 6 rfl rfl)
theorem dX3_changed_55 : decode cX3_changed 55 = .ok (.putfield 54, 3) := dk_181 0 54 (dk_at dksX3_changed_2 7 rfl rfl)
theorem dX3_changed_58 : decode cX3_changed 58 = .ok (.iconst 0, 1) := dk_3 (dk_at dksX3_changed_2 10 rfl rfl)
theorem dX3_changed_59 : decode cX3_changed 59 = .ok (.istore_n 2, 1) := dk_61 (dk_at dksX3_changed_2 11 rfl rfl)
theorem dX3_changed_60 : decode cX3_changed 60 = .ok (.iload_n 2, 1) := dk_28 (dk_at dksX3_changed_2 12 rfl rfl)
theorem dX3_changed_61 : decode cX3_changed 61 = .ok (.bipush 86, 2) := dk_16 86 (dk_at dksX3_changed_2 13 rfl rfl)
theorem dX3_changed_63 : decode cX3_changed 63 = .ok (.if_icmp .ge 29, 3) := dk_162 0 29 (dk_at dksX3_changed_2 15 rfl rfl)
theorem dX3_changed_66 : decode cX3_changed 66 = .ok (.aload_n 0, 1) := dk_42 (dk_at dksX3_changed_2 18 rfl rfl)
theorem dX3_changed_67 : decode cX3_changed 67 = .ok (.getfield 19, 3) := dk_180 0 19 (dk_at dksX3_changed_2 19 rfl rfl)
theorem dX3_changed_70 : decode cX3_changed 70 = .ok (.bipush 86, 2) := dk_16 86 (dk_at dksX3_changed_2 22 rfl rfl)
theorem dX3_changed_72 : decode cX3_changed 72 = .ok (.aload_n 0, 1) := dk_42 (dk_at dksX3_changed_3 0 rfl rfl)
theorem dX3_changed_73 : decode cX3_changed 73 = .ok (.getfield 54, 3) := dk_180 0 54 (dk_at dksX3_changed_3 1 rfl rfl)
theorem dX3_changed_76 : decode cX3_changed 76 = .ok (.imul, 1) := dk_104 (dk_at dksX3_changed_3 4 rfl rfl)
theorem dX3_changed_77 : decode cX3_changed 77 = .ok (.iload_n 2, 1) := dk_28 (dk_at dksX3_changed_3 5 rfl rfl)
theorem dX3_changed_78 : decode cX3_changed 78 = .ok (.iadd, 1) := dk_96 (dk_at dksX3_changed_3 6 rfl rfl)
theorem dX3_changed_79 : decode cX3_changed 79 = .ok (.aload_n 0, 1) := dk_42 (dk_at dksX3_changed_3 7 rfl rfl)
theorem dX3_changed_80 : decode cX3_changed 80 = .ok (.getfield 13, 3) := dk_180 0 13 (dk_at dksX3_changed_3 8 rfl rfl)
theorem dX3_changed_83 : decode cX3_changed 83 = .ok (.iload_n 2, 1) := dk_28 (dk_at dksX3_changed_3 11 rfl rfl)
theorem dX3_changed_84 : decode cX3_changed 84 = .ok (.iaload, 1) := dk_46 (dk_at dksX3_changed_3 12 rfl rfl)
theorem dX3_changed_85 : decode cX3_changed 85 = .ok (.iastore, 1) := dk_79 (dk_at dksX3_changed_3 13 rfl rfl)
theorem dX3_changed_86 : decode cX3_changed 86 = .ok (.iinc 2 1, 3) := dk_132 2 1 (dk_at dksX3_changed_3 14 rfl rfl)
theorem dX3_changed_89 : decode cX3_changed 89 = .ok (.goto (-29), 3) := dk_167 255 227 (dk_at dksX3_changed_3 17 rfl rfl)
theorem dX3_changed_92 : decode cX3_changed 92 = .ok (.aload_n 0, 1) := dk_42 (dk_at dksX3_changed_3 20 rfl rfl)
theorem dX3_changed_93 : decode cX3_changed 93 = .ok (.dup, 1) := dk_89 (dk_at dksX3_changed_3 21 rfl rfl)
theorem dX3_changed_94 : decode cX3_changed 94 = .ok (.getfield 54, 3) := dk_180 0 54 (dk_at dksX3_changed_4 0 rfl rfl)
theorem dX3_changed_97 : decode cX3_changed 97 = .ok (.iconst 1, 1) := dk_4 (dk_at dksX3_changed_4 3 rfl rfl)
theorem dX3_changed_98 : decode cX3_changed 98 = .ok (.iadd, 1) := dk_96 (dk_at dksX3_changed_4 4 rfl rfl)
theorem dX3_changed_99 : decode cX3_changed 99 = .ok (.putfield 54, 3) := dk_181 0 54 (dk_at dksX3_changed_4 5 rfl rfl)
theorem dX3_changed_102 : decode cX3_changed 102 = .ok (.iload_n 1, 1) := dk_27 (dk_at dksX3_changed_4 8 rfl rfl)
theorem dX3_changed_103 : decode cX3_changed 103 = .ok (.ireturn, 1) := dk_172 (dk_at dksX3_changed_4 9 rfl rfl)
abbrev cX3_summer : ByteArray := prog_10_method_25_code
def yX3_summer : MethodName := ⟨RX3, "summer", "()I"⟩
def dkwX3_summer_0 : List UInt8 := [42, 182, 0, 100, 42, 42, 182, 0, 114, 182, 0, 107, 172]
abbrev dktX3_summer_0 : List UInt8 := dkwX3_summer_0 ++ []
theorem dksX3_summer_0 : cX3_summer.data.toList.drop 0 = dktX3_summer_0 := by decide +kernel
theorem dX3_summer_0 : decode cX3_summer 0 = .ok (.aload_n 0, 1) := dk_42 (dk_at dksX3_summer_0 0 rfl rfl)
theorem dX3_summer_1 : decode cX3_summer 1 = .ok (.invokevirtual 100, 3) := dk_182 0 100 (dk_at dksX3_summer_0 1 rfl rfl)
theorem dX3_summer_4 : decode cX3_summer 4 = .ok (.aload_n 0, 1) := dk_42 (dk_at dksX3_summer_0 4 rfl rfl)
theorem dX3_summer_5 : decode cX3_summer 5 = .ok (.aload_n 0, 1) := dk_42 (dk_at dksX3_summer_0 5 rfl rfl)
theorem dX3_summer_6 : decode cX3_summer 6 = .ok (.invokevirtual 114, 3) := dk_182 0 114 (dk_at dksX3_summer_0 6 rfl rfl)
theorem dX3_summer_9 : decode cX3_summer 9 = .ok (.invokevirtual 107, 3) := dk_182 0 107 (dk_at dksX3_summer_0 9 rfl rfl)
theorem dX3_summer_12 : decode cX3_summer 12 = .ok (.ireturn, 1) := dk_172 (dk_at dksX3_summer_0 12 rfl rfl)
abbrev cX3_summerIt : ByteArray := prog_10_method_24_code
def yX3_summerIt : MethodName := ⟨RX3, "summerIt", "()I"⟩
def dkwX3_summerIt_2 : List UInt8 := [6, 92, 46, 4, 96, 79, 27, 42, 182, 0, 110, 100, 172]
abbrev dktX3_summerIt_2 : List UInt8 := dkwX3_summerIt_2 ++ []
def dkwX3_summerIt_1 : List UInt8 := [180, 0, 9, 16, 6, 28, 96, 46, 4, 96, 184, 0, 65, 79, 132, 2, 1, 167, 255, 222, 42, 180, 0, 9]
abbrev dktX3_summerIt_1 : List UInt8 := dkwX3_summerIt_1 ++ dktX3_summerIt_2
def dkwX3_summerIt_0 : List UInt8 := [42, 182, 0, 110, 60, 3, 61, 28, 16, 24, 162, 0, 34, 42, 180, 0, 9, 16, 6, 28, 96, 16, 9, 42]
abbrev dktX3_summerIt_0 : List UInt8 := dkwX3_summerIt_0 ++ dktX3_summerIt_1
theorem dksX3_summerIt_0 : cX3_summerIt.data.toList.drop 0 = dktX3_summerIt_0 := by decide +kernel
theorem dksX3_summerIt_1 : cX3_summerIt.data.toList.drop 24 = dktX3_summerIt_1 := dk_seg dksX3_summerIt_0 24 rfl rfl
theorem dksX3_summerIt_2 : cX3_summerIt.data.toList.drop 48 = dktX3_summerIt_2 := dk_seg dksX3_summerIt_1 24 rfl rfl
theorem dX3_summerIt_0 : decode cX3_summerIt 0 = .ok (.aload_n 0, 1) := dk_42 (dk_at dksX3_summerIt_0 0 rfl rfl)
theorem dX3_summerIt_1 : decode cX3_summerIt 1 = .ok (.invokevirtual 110, 3) := dk_182 0 110 (dk_at dksX3_summerIt_0 1 rfl rfl)
theorem dX3_summerIt_4 : decode cX3_summerIt 4 = .ok (.istore_n 1, 1) := dk_60 (dk_at dksX3_summerIt_0 4 rfl rfl)
theorem dX3_summerIt_5 : decode cX3_summerIt 5 = .ok (.iconst 0, 1) := dk_3 (dk_at dksX3_summerIt_0 5 rfl rfl)
theorem dX3_summerIt_6 : decode cX3_summerIt 6 = .ok (.istore_n 2, 1) := dk_61 (dk_at dksX3_summerIt_0 6 rfl rfl)
theorem dX3_summerIt_7 : decode cX3_summerIt 7 = .ok (.iload_n 2, 1) := dk_28 (dk_at dksX3_summerIt_0 7 rfl rfl)
theorem dX3_summerIt_8 : decode cX3_summerIt 8 = .ok (.bipush 24, 2) := dk_16 24 (dk_at dksX3_summerIt_0 8 rfl rfl)
theorem dX3_summerIt_10 : decode cX3_summerIt 10 = .ok (.if_icmp .ge 34, 3) := dk_162 0 34 (dk_at dksX3_summerIt_0 10 rfl rfl)
theorem dX3_summerIt_13 : decode cX3_summerIt 13 = .ok (.aload_n 0, 1) := dk_42 (dk_at dksX3_summerIt_0 13 rfl rfl)
theorem dX3_summerIt_14 : decode cX3_summerIt 14 = .ok (.getfield 9, 3) := dk_180 0 9 (dk_at dksX3_summerIt_0 14 rfl rfl)
theorem dX3_summerIt_17 : decode cX3_summerIt 17 = .ok (.bipush 6, 2) := dk_16 6 (dk_at dksX3_summerIt_0 17 rfl rfl)
theorem dX3_summerIt_19 : decode cX3_summerIt 19 = .ok (.iload_n 2, 1) := dk_28 (dk_at dksX3_summerIt_0 19 rfl rfl)
theorem dX3_summerIt_20 : decode cX3_summerIt 20 = .ok (.iadd, 1) := dk_96 (dk_at dksX3_summerIt_0 20 rfl rfl)
theorem dX3_summerIt_21 : decode cX3_summerIt 21 = .ok (.bipush 9, 2) := dk_16 9 (dk_at dksX3_summerIt_0 21 rfl rfl)
theorem dX3_summerIt_23 : decode cX3_summerIt 23 = .ok (.aload_n 0, 1) := dk_42 (dk_at dksX3_summerIt_0 23 rfl rfl)
theorem dX3_summerIt_24 : decode cX3_summerIt 24 = .ok (.getfield 9, 3) := dk_180 0 9 (dk_at dksX3_summerIt_1 0 rfl rfl)
theorem dX3_summerIt_27 : decode cX3_summerIt 27 = .ok (.bipush 6, 2) := dk_16 6 (dk_at dksX3_summerIt_1 3 rfl rfl)
theorem dX3_summerIt_29 : decode cX3_summerIt 29 = .ok (.iload_n 2, 1) := dk_28 (dk_at dksX3_summerIt_1 5 rfl rfl)
theorem dX3_summerIt_30 : decode cX3_summerIt 30 = .ok (.iadd, 1) := dk_96 (dk_at dksX3_summerIt_1 6 rfl rfl)
theorem dX3_summerIt_31 : decode cX3_summerIt 31 = .ok (.iaload, 1) := dk_46 (dk_at dksX3_summerIt_1 7 rfl rfl)
theorem dX3_summerIt_32 : decode cX3_summerIt 32 = .ok (.iconst 1, 1) := dk_4 (dk_at dksX3_summerIt_1 8 rfl rfl)
theorem dX3_summerIt_33 : decode cX3_summerIt 33 = .ok (.iadd, 1) := dk_96 (dk_at dksX3_summerIt_1 9 rfl rfl)
theorem dX3_summerIt_34 : decode cX3_summerIt 34 = .ok (.invokestatic 65, 3) := dk_184 0 65 (dk_at dksX3_summerIt_1 10 rfl rfl)
theorem dX3_summerIt_37 : decode cX3_summerIt 37 = .ok (.iastore, 1) := dk_79 (dk_at dksX3_summerIt_1 13 rfl rfl)
theorem dX3_summerIt_38 : decode cX3_summerIt 38 = .ok (.iinc 2 1, 3) := dk_132 2 1 (dk_at dksX3_summerIt_1 14 rfl rfl)
theorem dX3_summerIt_41 : decode cX3_summerIt 41 = .ok (.goto (-34), 3) := dk_167 255 222 (dk_at dksX3_summerIt_1 17 rfl rfl)
theorem dX3_summerIt_44 : decode cX3_summerIt 44 = .ok (.aload_n 0, 1) := dk_42 (dk_at dksX3_summerIt_1 20 rfl rfl)
theorem dX3_summerIt_45 : decode cX3_summerIt 45 = .ok (.getfield 9, 3) := dk_180 0 9 (dk_at dksX3_summerIt_1 21 rfl rfl)
theorem dX3_summerIt_48 : decode cX3_summerIt 48 = .ok (.iconst 3, 1) := dk_6 (dk_at dksX3_summerIt_2 0 rfl rfl)
theorem dX3_summerIt_49 : decode cX3_summerIt 49 = .ok (.dup2, 1) := dk_92 (dk_at dksX3_summerIt_2 1 rfl rfl)
theorem dX3_summerIt_50 : decode cX3_summerIt 50 = .ok (.iaload, 1) := dk_46 (dk_at dksX3_summerIt_2 2 rfl rfl)
theorem dX3_summerIt_51 : decode cX3_summerIt 51 = .ok (.iconst 1, 1) := dk_4 (dk_at dksX3_summerIt_2 3 rfl rfl)
theorem dX3_summerIt_52 : decode cX3_summerIt 52 = .ok (.iadd, 1) := dk_96 (dk_at dksX3_summerIt_2 4 rfl rfl)
theorem dX3_summerIt_53 : decode cX3_summerIt 53 = .ok (.iastore, 1) := dk_79 (dk_at dksX3_summerIt_2 5 rfl rfl)
theorem dX3_summerIt_54 : decode cX3_summerIt 54 = .ok (.iload_n 1, 1) := dk_27 (dk_at dksX3_summerIt_2 6 rfl rfl)
theorem dX3_summerIt_55 : decode cX3_summerIt 55 = .ok (.aload_n 0, 1) := dk_42 (dk_at dksX3_summerIt_2 7 rfl rfl)
theorem dX3_summerIt_56 : decode cX3_summerIt 56 = .ok (.invokevirtual 110, 3) := dk_182 0 110 (dk_at dksX3_summerIt_2 8 rfl rfl)
theorem dX3_summerIt_59 : decode cX3_summerIt 59 = .ok (.isub, 1) := dk_100 (dk_at dksX3_summerIt_2 11 rfl rfl)
theorem dX3_summerIt_60 : decode cX3_summerIt 60 = .ok (.ireturn, 1) := dk_172 (dk_at dksX3_summerIt_2 12 rfl rfl)
abbrev cX3_gaps : ByteArray := prog_10_method_20_code
def yX3_gaps : MethodName := ⟨RX3, "gaps", "()I"⟩
def dkwX3_gaps_1 : List UInt8 := [167, 0, 4, 3, 96, 60, 132, 2, 1, 167, 255, 228, 27, 172]
abbrev dktX3_gaps_1 : List UInt8 := dkwX3_gaps_1 ++ []
def dkwX3_gaps_0 : List UInt8 := [3, 60, 3, 61, 28, 16, 24, 162, 0, 28, 27, 42, 16, 6, 28, 96, 182, 0, 80, 153, 0, 7, 4]
abbrev dktX3_gaps_0 : List UInt8 := dkwX3_gaps_0 ++ dktX3_gaps_1
theorem dksX3_gaps_0 : cX3_gaps.data.toList.drop 0 = dktX3_gaps_0 := by decide +kernel
theorem dksX3_gaps_1 : cX3_gaps.data.toList.drop 23 = dktX3_gaps_1 := dk_seg dksX3_gaps_0 23 rfl rfl
theorem dX3_gaps_0 : decode cX3_gaps 0 = .ok (.iconst 0, 1) := dk_3 (dk_at dksX3_gaps_0 0 rfl rfl)
theorem dX3_gaps_1 : decode cX3_gaps 1 = .ok (.istore_n 1, 1) := dk_60 (dk_at dksX3_gaps_0 1 rfl rfl)
theorem dX3_gaps_2 : decode cX3_gaps 2 = .ok (.iconst 0, 1) := dk_3 (dk_at dksX3_gaps_0 2 rfl rfl)
theorem dX3_gaps_3 : decode cX3_gaps 3 = .ok (.istore_n 2, 1) := dk_61 (dk_at dksX3_gaps_0 3 rfl rfl)
theorem dX3_gaps_4 : decode cX3_gaps 4 = .ok (.iload_n 2, 1) := dk_28 (dk_at dksX3_gaps_0 4 rfl rfl)
theorem dX3_gaps_5 : decode cX3_gaps 5 = .ok (.bipush 24, 2) := dk_16 24 (dk_at dksX3_gaps_0 5 rfl rfl)
theorem dX3_gaps_7 : decode cX3_gaps 7 = .ok (.if_icmp .ge 28, 3) := dk_162 0 28 (dk_at dksX3_gaps_0 7 rfl rfl)
theorem dX3_gaps_10 : decode cX3_gaps 10 = .ok (.iload_n 1, 1) := dk_27 (dk_at dksX3_gaps_0 10 rfl rfl)
theorem dX3_gaps_11 : decode cX3_gaps 11 = .ok (.aload_n 0, 1) := dk_42 (dk_at dksX3_gaps_0 11 rfl rfl)
theorem dX3_gaps_12 : decode cX3_gaps 12 = .ok (.bipush 6, 2) := dk_16 6 (dk_at dksX3_gaps_0 12 rfl rfl)
theorem dX3_gaps_14 : decode cX3_gaps 14 = .ok (.iload_n 2, 1) := dk_28 (dk_at dksX3_gaps_0 14 rfl rfl)
theorem dX3_gaps_15 : decode cX3_gaps 15 = .ok (.iadd, 1) := dk_96 (dk_at dksX3_gaps_0 15 rfl rfl)
theorem dX3_gaps_16 : decode cX3_gaps 16 = .ok (.invokevirtual 80, 3) := dk_182 0 80 (dk_at dksX3_gaps_0 16 rfl rfl)
theorem dX3_gaps_19 : decode cX3_gaps 19 = .ok (.ifCond .eq 7, 3) := dk_153 0 7 (dk_at dksX3_gaps_0 19 rfl rfl)
theorem dX3_gaps_22 : decode cX3_gaps 22 = .ok (.iconst 1, 1) := dk_4 (dk_at dksX3_gaps_0 22 rfl rfl)
theorem dX3_gaps_23 : decode cX3_gaps 23 = .ok (.goto 4, 3) := dk_167 0 4 (dk_at dksX3_gaps_1 0 rfl rfl)
theorem dX3_gaps_26 : decode cX3_gaps 26 = .ok (.iconst 0, 1) := dk_3 (dk_at dksX3_gaps_1 3 rfl rfl)
theorem dX3_gaps_27 : decode cX3_gaps 27 = .ok (.iadd, 1) := dk_96 (dk_at dksX3_gaps_1 4 rfl rfl)
theorem dX3_gaps_28 : decode cX3_gaps 28 = .ok (.istore_n 1, 1) := dk_60 (dk_at dksX3_gaps_1 5 rfl rfl)
theorem dX3_gaps_29 : decode cX3_gaps 29 = .ok (.iinc 2 1, 3) := dk_132 2 1 (dk_at dksX3_gaps_1 6 rfl rfl)
theorem dX3_gaps_32 : decode cX3_gaps 32 = .ok (.goto (-28), 3) := dk_167 255 228 (dk_at dksX3_gaps_1 9 rfl rfl)
theorem dX3_gaps_35 : decode cX3_gaps 35 = .ok (.iload_n 1, 1) := dk_27 (dk_at dksX3_gaps_1 12 rfl rfl)
theorem dX3_gaps_36 : decode cX3_gaps 36 = .ok (.ireturn, 1) := dk_172 (dk_at dksX3_gaps_1 13 rfl rfl)
abbrev cX3_isGapAt : ByteArray := prog_10_method_11_code
def yX3_isGapAt : MethodName := ⟨RX3, "isGapAt", "(I)Z"⟩
def dkwX3_isGapAt_0 : List UInt8 := [27, 2, 159, 0, 17, 42, 180, 0, 9, 27, 46, 8, 162, 0, 7, 4, 167, 0, 4, 3, 172]
abbrev dktX3_isGapAt_0 : List UInt8 := dkwX3_isGapAt_0 ++ []
theorem dksX3_isGapAt_0 : cX3_isGapAt.data.toList.drop 0 = dktX3_isGapAt_0 := by decide +kernel
theorem dX3_isGapAt_0 : decode cX3_isGapAt 0 = .ok (.iload_n 1, 1) := dk_27 (dk_at dksX3_isGapAt_0 0 rfl rfl)
theorem dX3_isGapAt_1 : decode cX3_isGapAt 1 = .ok (.iconst (-1), 1) := dk_2 (dk_at dksX3_isGapAt_0 1 rfl rfl)
theorem dX3_isGapAt_2 : decode cX3_isGapAt 2 = .ok (.if_icmp .eq 17, 3) := dk_159 0 17 (dk_at dksX3_isGapAt_0 2 rfl rfl)
theorem dX3_isGapAt_5 : decode cX3_isGapAt 5 = .ok (.aload_n 0, 1) := dk_42 (dk_at dksX3_isGapAt_0 5 rfl rfl)
theorem dX3_isGapAt_6 : decode cX3_isGapAt 6 = .ok (.getfield 9, 3) := dk_180 0 9 (dk_at dksX3_isGapAt_0 6 rfl rfl)
theorem dX3_isGapAt_9 : decode cX3_isGapAt 9 = .ok (.iload_n 1, 1) := dk_27 (dk_at dksX3_isGapAt_0 9 rfl rfl)
theorem dX3_isGapAt_10 : decode cX3_isGapAt 10 = .ok (.iaload, 1) := dk_46 (dk_at dksX3_isGapAt_0 10 rfl rfl)
theorem dX3_isGapAt_11 : decode cX3_isGapAt 11 = .ok (.iconst 5, 1) := dk_8 (dk_at dksX3_isGapAt_0 11 rfl rfl)
theorem dX3_isGapAt_12 : decode cX3_isGapAt 12 = .ok (.if_icmp .ge 7, 3) := dk_162 0 7 (dk_at dksX3_isGapAt_0 12 rfl rfl)
theorem dX3_isGapAt_15 : decode cX3_isGapAt 15 = .ok (.iconst 1, 1) := dk_4 (dk_at dksX3_isGapAt_0 15 rfl rfl)
theorem dX3_isGapAt_16 : decode cX3_isGapAt 16 = .ok (.goto 4, 3) := dk_167 0 4 (dk_at dksX3_isGapAt_0 16 rfl rfl)
theorem dX3_isGapAt_19 : decode cX3_isGapAt 19 = .ok (.iconst 0, 1) := dk_3 (dk_at dksX3_isGapAt_0 19 rfl rfl)
theorem dX3_isGapAt_20 : decode cX3_isGapAt 20 = .ok (.ireturn, 1) := dk_172 (dk_at dksX3_isGapAt_0 20 rfl rfl)
abbrev cX3_trim : ByteArray := prog_10_method_27_code
def yX3_trim : MethodName := ⟨RX3, "trim", "(III)I"⟩
def dkwX3_trim_0 : List UInt8 := [42, 182, 0, 100, 42, 42, 27, 28, 29, 182, 0, 123, 182, 0, 107, 172]
abbrev dktX3_trim_0 : List UInt8 := dkwX3_trim_0 ++ []
theorem dksX3_trim_0 : cX3_trim.data.toList.drop 0 = dktX3_trim_0 := by decide +kernel
theorem dX3_trim_0 : decode cX3_trim 0 = .ok (.aload_n 0, 1) := dk_42 (dk_at dksX3_trim_0 0 rfl rfl)
theorem dX3_trim_1 : decode cX3_trim 1 = .ok (.invokevirtual 100, 3) := dk_182 0 100 (dk_at dksX3_trim_0 1 rfl rfl)
theorem dX3_trim_4 : decode cX3_trim 4 = .ok (.aload_n 0, 1) := dk_42 (dk_at dksX3_trim_0 4 rfl rfl)
theorem dX3_trim_5 : decode cX3_trim 5 = .ok (.aload_n 0, 1) := dk_42 (dk_at dksX3_trim_0 5 rfl rfl)
theorem dX3_trim_6 : decode cX3_trim 6 = .ok (.iload_n 1, 1) := dk_27 (dk_at dksX3_trim_0 6 rfl rfl)
theorem dX3_trim_7 : decode cX3_trim 7 = .ok (.iload_n 2, 1) := dk_28 (dk_at dksX3_trim_0 7 rfl rfl)
theorem dX3_trim_8 : decode cX3_trim 8 = .ok (.iload_n 3, 1) := dk_29 (dk_at dksX3_trim_0 8 rfl rfl)
theorem dX3_trim_9 : decode cX3_trim 9 = .ok (.invokevirtual 123, 3) := dk_182 0 123 (dk_at dksX3_trim_0 9 rfl rfl)
theorem dX3_trim_12 : decode cX3_trim 12 = .ok (.invokevirtual 107, 3) := dk_182 0 107 (dk_at dksX3_trim_0 12 rfl rfl)
theorem dX3_trim_15 : decode cX3_trim 15 = .ok (.ireturn, 1) := dk_172 (dk_at dksX3_trim_0 15 rfl rfl)
abbrev cX3_trimIt : ByteArray := prog_10_method_26_code
def yX3_trimIt : MethodName := ⟨RX3, "trimIt", "(III)I"⟩
def dkwX3_trimIt_5 : List UInt8 := [96, 79, 42, 180, 0, 9, 8, 92, 46, 5, 96, 79, 42, 180, 0, 9, 21, 5, 46, 172]
abbrev dktX3_trimIt_5 : List UInt8 := dkwX3_trimIt_5 ++ []
def dkwX3_trimIt_4 : List UInt8 := [3, 79, 42, 180, 0, 9, 21, 5, 92, 46, 5, 100, 79, 42, 180, 0, 9, 21, 5, 6, 96, 92, 46, 4]
abbrev dktX3_trimIt_4 : List UInt8 := dkwX3_trimIt_4 ++ dktX3_trimIt_5
def dkwX3_trimIt_3 : List UInt8 := [162, 0, 18, 42, 8, 5, 42, 180, 0, 9, 21, 5, 46, 100, 182, 0, 91, 172, 42, 180, 0, 9, 21, 4]
abbrev dktX3_trimIt_3 : List UInt8 := dkwX3_trimIt_3 ++ dktX3_trimIt_4
def dkwX3_trimIt_2 : List UInt8 := [180, 0, 9, 21, 4, 46, 154, 0, 10, 42, 6, 3, 182, 0, 91, 172, 42, 180, 0, 9, 21, 5, 46, 5]
abbrev dktX3_trimIt_2 : List UInt8 := dkwX3_trimIt_2 ++ dktX3_trimIt_3
def dkwX3_trimIt_1 : List UInt8 := [182, 0, 96, 154, 0, 5, 2, 172, 28, 29, 184, 0, 77, 54, 4, 27, 184, 0, 120, 54, 5, 42]
abbrev dktX3_trimIt_1 : List UInt8 := dkwX3_trimIt_1 ++ dktX3_trimIt_2
def dkwX3_trimIt_0 : List UInt8 := [42, 27, 182, 0, 117, 154, 0, 15, 42, 7, 42, 180, 0, 9, 3, 46, 182, 0, 91, 172, 42, 28, 29]
abbrev dktX3_trimIt_0 : List UInt8 := dkwX3_trimIt_0 ++ dktX3_trimIt_1
theorem dksX3_trimIt_0 : cX3_trimIt.data.toList.drop 0 = dktX3_trimIt_0 := by decide +kernel
theorem dksX3_trimIt_1 : cX3_trimIt.data.toList.drop 23 = dktX3_trimIt_1 := dk_seg dksX3_trimIt_0 23 rfl rfl
theorem dksX3_trimIt_2 : cX3_trimIt.data.toList.drop 45 = dktX3_trimIt_2 := dk_seg dksX3_trimIt_1 22 rfl rfl
theorem dksX3_trimIt_3 : cX3_trimIt.data.toList.drop 69 = dktX3_trimIt_3 := dk_seg dksX3_trimIt_2 24 rfl rfl
theorem dksX3_trimIt_4 : cX3_trimIt.data.toList.drop 93 = dktX3_trimIt_4 := dk_seg dksX3_trimIt_3 24 rfl rfl
theorem dksX3_trimIt_5 : cX3_trimIt.data.toList.drop 117 = dktX3_trimIt_5 := dk_seg dksX3_trimIt_4 24 rfl rfl
theorem dX3_trimIt_0 : decode cX3_trimIt 0 = .ok (.aload_n 0, 1) := dk_42 (dk_at dksX3_trimIt_0 0 rfl rfl)
theorem dX3_trimIt_1 : decode cX3_trimIt 1 = .ok (.iload_n 1, 1) := dk_27 (dk_at dksX3_trimIt_0 1 rfl rfl)
theorem dX3_trimIt_2 : decode cX3_trimIt 2 = .ok (.invokevirtual 117, 3) := dk_182 0 117 (dk_at dksX3_trimIt_0 2 rfl rfl)
theorem dX3_trimIt_5 : decode cX3_trimIt 5 = .ok (.ifCond .ne 15, 3) := dk_154 0 15 (dk_at dksX3_trimIt_0 5 rfl rfl)
theorem dX3_trimIt_8 : decode cX3_trimIt 8 = .ok (.aload_n 0, 1) := dk_42 (dk_at dksX3_trimIt_0 8 rfl rfl)
theorem dX3_trimIt_9 : decode cX3_trimIt 9 = .ok (.iconst 4, 1) := dk_7 (dk_at dksX3_trimIt_0 9 rfl rfl)
theorem dX3_trimIt_10 : decode cX3_trimIt 10 = .ok (.aload_n 0, 1) := dk_42 (dk_at dksX3_trimIt_0 10 rfl rfl)
theorem dX3_trimIt_11 : decode cX3_trimIt 11 = .ok (.getfield 9, 3) := dk_180 0 9 (dk_at dksX3_trimIt_0 11 rfl rfl)
theorem dX3_trimIt_14 : decode cX3_trimIt 14 = .ok (.iconst 0, 1) := dk_3 (dk_at dksX3_trimIt_0 14 rfl rfl)
theorem dX3_trimIt_15 : decode cX3_trimIt 15 = .ok (.iaload, 1) := dk_46 (dk_at dksX3_trimIt_0 15 rfl rfl)
theorem dX3_trimIt_16 : decode cX3_trimIt 16 = .ok (.invokevirtual 91, 3) := dk_182 0 91 (dk_at dksX3_trimIt_0 16 rfl rfl)
theorem dX3_trimIt_19 : decode cX3_trimIt 19 = .ok (.ireturn, 1) := dk_172 (dk_at dksX3_trimIt_0 19 rfl rfl)
theorem dX3_trimIt_20 : decode cX3_trimIt 20 = .ok (.aload_n 0, 1) := dk_42 (dk_at dksX3_trimIt_0 20 rfl rfl)
theorem dX3_trimIt_21 : decode cX3_trimIt 21 = .ok (.iload_n 2, 1) := dk_28 (dk_at dksX3_trimIt_0 21 rfl rfl)
theorem dX3_trimIt_22 : decode cX3_trimIt 22 = .ok (.iload_n 3, 1) := dk_29 (dk_at dksX3_trimIt_0 22 rfl rfl)
theorem dX3_trimIt_23 : decode cX3_trimIt 23 = .ok (.invokevirtual 96, 3) := dk_182 0 96 (dk_at dksX3_trimIt_1 0 rfl rfl)
theorem dX3_trimIt_26 : decode cX3_trimIt 26 = .ok (.ifCond .ne 5, 3) := dk_154 0 5 (dk_at dksX3_trimIt_1 3 rfl rfl)
theorem dX3_trimIt_29 : decode cX3_trimIt 29 = .ok (.iconst (-1), 1) := dk_2 (dk_at dksX3_trimIt_1 6 rfl rfl)
theorem dX3_trimIt_30 : decode cX3_trimIt 30 = .ok (.ireturn, 1) := dk_172 (dk_at dksX3_trimIt_1 7 rfl rfl)
theorem dX3_trimIt_31 : decode cX3_trimIt 31 = .ok (.iload_n 2, 1) := dk_28 (dk_at dksX3_trimIt_1 8 rfl rfl)
theorem dX3_trimIt_32 : decode cX3_trimIt 32 = .ok (.iload_n 3, 1) := dk_29 (dk_at dksX3_trimIt_1 9 rfl rfl)
theorem dX3_trimIt_33 : decode cX3_trimIt 33 = .ok (.invokestatic 77, 3) := dk_184 0 77 (dk_at dksX3_trimIt_1 10 rfl rfl)
theorem dX3_trimIt_36 : decode cX3_trimIt 36 = .ok (.istore 4, 2) := dk_54 4 (dk_at dksX3_trimIt_1 13 rfl rfl)
theorem dX3_trimIt_38 : decode cX3_trimIt 38 = .ok (.iload_n 1, 1) := dk_27 (dk_at dksX3_trimIt_1 15 rfl rfl)
theorem dX3_trimIt_39 : decode cX3_trimIt 39 = .ok (.invokestatic 120, 3) := dk_184 0 120 (dk_at dksX3_trimIt_1 16 rfl rfl)
theorem dX3_trimIt_42 : decode cX3_trimIt 42 = .ok (.istore 5, 2) := dk_54 5 (dk_at dksX3_trimIt_1 19 rfl rfl)
theorem dX3_trimIt_44 : decode cX3_trimIt 44 = .ok (.aload_n 0, 1) := dk_42 (dk_at dksX3_trimIt_1 21 rfl rfl)
theorem dX3_trimIt_45 : decode cX3_trimIt 45 = .ok (.getfield 9, 3) := dk_180 0 9 (dk_at dksX3_trimIt_2 0 rfl rfl)
theorem dX3_trimIt_48 : decode cX3_trimIt 48 = .ok (.iload 4, 2) := dk_21 4 (dk_at dksX3_trimIt_2 3 rfl rfl)
theorem dX3_trimIt_50 : decode cX3_trimIt 50 = .ok (.iaload, 1) := dk_46 (dk_at dksX3_trimIt_2 5 rfl rfl)
theorem dX3_trimIt_51 : decode cX3_trimIt 51 = .ok (.ifCond .ne 10, 3) := dk_154 0 10 (dk_at dksX3_trimIt_2 6 rfl rfl)
theorem dX3_trimIt_54 : decode cX3_trimIt 54 = .ok (.aload_n 0, 1) := dk_42 (dk_at dksX3_trimIt_2 9 rfl rfl)
theorem dX3_trimIt_55 : decode cX3_trimIt 55 = .ok (.iconst 3, 1) := dk_6 (dk_at dksX3_trimIt_2 10 rfl rfl)
theorem dX3_trimIt_56 : decode cX3_trimIt 56 = .ok (.iconst 0, 1) := dk_3 (dk_at dksX3_trimIt_2 11 rfl rfl)
theorem dX3_trimIt_57 : decode cX3_trimIt 57 = .ok (.invokevirtual 91, 3) := dk_182 0 91 (dk_at dksX3_trimIt_2 12 rfl rfl)
theorem dX3_trimIt_60 : decode cX3_trimIt 60 = .ok (.ireturn, 1) := dk_172 (dk_at dksX3_trimIt_2 15 rfl rfl)
theorem dX3_trimIt_61 : decode cX3_trimIt 61 = .ok (.aload_n 0, 1) := dk_42 (dk_at dksX3_trimIt_2 16 rfl rfl)
theorem dX3_trimIt_62 : decode cX3_trimIt 62 = .ok (.getfield 9, 3) := dk_180 0 9 (dk_at dksX3_trimIt_2 17 rfl rfl)
theorem dX3_trimIt_65 : decode cX3_trimIt 65 = .ok (.iload 5, 2) := dk_21 5 (dk_at dksX3_trimIt_2 20 rfl rfl)
theorem dX3_trimIt_67 : decode cX3_trimIt 67 = .ok (.iaload, 1) := dk_46 (dk_at dksX3_trimIt_2 22 rfl rfl)
theorem dX3_trimIt_68 : decode cX3_trimIt 68 = .ok (.iconst 2, 1) := dk_5 (dk_at dksX3_trimIt_2 23 rfl rfl)
theorem dX3_trimIt_69 : decode cX3_trimIt 69 = .ok (.if_icmp .ge 18, 3) := dk_162 0 18 (dk_at dksX3_trimIt_3 0 rfl rfl)
theorem dX3_trimIt_72 : decode cX3_trimIt 72 = .ok (.aload_n 0, 1) := dk_42 (dk_at dksX3_trimIt_3 3 rfl rfl)
theorem dX3_trimIt_73 : decode cX3_trimIt 73 = .ok (.iconst 5, 1) := dk_8 (dk_at dksX3_trimIt_3 4 rfl rfl)
theorem dX3_trimIt_74 : decode cX3_trimIt 74 = .ok (.iconst 2, 1) := dk_5 (dk_at dksX3_trimIt_3 5 rfl rfl)
theorem dX3_trimIt_75 : decode cX3_trimIt 75 = .ok (.aload_n 0, 1) := dk_42 (dk_at dksX3_trimIt_3 6 rfl rfl)
theorem dX3_trimIt_76 : decode cX3_trimIt 76 = .ok (.getfield 9, 3) := dk_180 0 9 (dk_at dksX3_trimIt_3 7 rfl rfl)
theorem dX3_trimIt_79 : decode cX3_trimIt 79 = .ok (.iload 5, 2) := dk_21 5 (dk_at dksX3_trimIt_3 10 rfl rfl)
theorem dX3_trimIt_81 : decode cX3_trimIt 81 = .ok (.iaload, 1) := dk_46 (dk_at dksX3_trimIt_3 12 rfl rfl)
theorem dX3_trimIt_82 : decode cX3_trimIt 82 = .ok (.isub, 1) := dk_100 (dk_at dksX3_trimIt_3 13 rfl rfl)
theorem dX3_trimIt_83 : decode cX3_trimIt 83 = .ok (.invokevirtual 91, 3) := dk_182 0 91 (dk_at dksX3_trimIt_3 14 rfl rfl)
theorem dX3_trimIt_86 : decode cX3_trimIt 86 = .ok (.ireturn, 1) := dk_172 (dk_at dksX3_trimIt_3 17 rfl rfl)
theorem dX3_trimIt_87 : decode cX3_trimIt 87 = .ok (.aload_n 0, 1) := dk_42 (dk_at dksX3_trimIt_3 18 rfl rfl)
theorem dX3_trimIt_88 : decode cX3_trimIt 88 = .ok (.getfield 9, 3) := dk_180 0 9 (dk_at dksX3_trimIt_3 19 rfl rfl)
theorem dX3_trimIt_91 : decode cX3_trimIt 91 = .ok (.iload 4, 2) := dk_21 4 (dk_at dksX3_trimIt_3 22 rfl rfl)
theorem dX3_trimIt_93 : decode cX3_trimIt 93 = .ok (.iconst 0, 1) := dk_3 (dk_at dksX3_trimIt_4 0 rfl rfl)
theorem dX3_trimIt_94 : decode cX3_trimIt 94 = .ok (.iastore, 1) := dk_79 (dk_at dksX3_trimIt_4 1 rfl rfl)
theorem dX3_trimIt_95 : decode cX3_trimIt 95 = .ok (.aload_n 0, 1) := dk_42 (dk_at dksX3_trimIt_4 2 rfl rfl)
theorem dX3_trimIt_96 : decode cX3_trimIt 96 = .ok (.getfield 9, 3) := dk_180 0 9 (dk_at dksX3_trimIt_4 3 rfl rfl)
theorem dX3_trimIt_99 : decode cX3_trimIt 99 = .ok (.iload 5, 2) := dk_21 5 (dk_at dksX3_trimIt_4 6 rfl rfl)
theorem dX3_trimIt_101 : decode cX3_trimIt 101 = .ok (.dup2, 1) := dk_92 (dk_at dksX3_trimIt_4 8 rfl rfl)
theorem dX3_trimIt_102 : decode cX3_trimIt 102 = .ok (.iaload, 1) := dk_46 (dk_at dksX3_trimIt_4 9 rfl rfl)
theorem dX3_trimIt_103 : decode cX3_trimIt 103 = .ok (.iconst 2, 1) := dk_5 (dk_at dksX3_trimIt_4 10 rfl rfl)
theorem dX3_trimIt_104 : decode cX3_trimIt 104 = .ok (.isub, 1) := dk_100 (dk_at dksX3_trimIt_4 11 rfl rfl)
theorem dX3_trimIt_105 : decode cX3_trimIt 105 = .ok (.iastore, 1) := dk_79 (dk_at dksX3_trimIt_4 12 rfl rfl)
theorem dX3_trimIt_106 : decode cX3_trimIt 106 = .ok (.aload_n 0, 1) := dk_42 (dk_at dksX3_trimIt_4 13 rfl rfl)
theorem dX3_trimIt_107 : decode cX3_trimIt 107 = .ok (.getfield 9, 3) := dk_180 0 9 (dk_at dksX3_trimIt_4 14 rfl rfl)
theorem dX3_trimIt_110 : decode cX3_trimIt 110 = .ok (.iload 5, 2) := dk_21 5 (dk_at dksX3_trimIt_4 17 rfl rfl)
theorem dX3_trimIt_112 : decode cX3_trimIt 112 = .ok (.iconst 3, 1) := dk_6 (dk_at dksX3_trimIt_4 19 rfl rfl)
theorem dX3_trimIt_113 : decode cX3_trimIt 113 = .ok (.iadd, 1) := dk_96 (dk_at dksX3_trimIt_4 20 rfl rfl)
theorem dX3_trimIt_114 : decode cX3_trimIt 114 = .ok (.dup2, 1) := dk_92 (dk_at dksX3_trimIt_4 21 rfl rfl)
theorem dX3_trimIt_115 : decode cX3_trimIt 115 = .ok (.iaload, 1) := dk_46 (dk_at dksX3_trimIt_4 22 rfl rfl)
theorem dX3_trimIt_116 : decode cX3_trimIt 116 = .ok (.iconst 1, 1) := dk_4 (dk_at dksX3_trimIt_4 23 rfl rfl)
theorem dX3_trimIt_117 : decode cX3_trimIt 117 = .ok (.iadd, 1) := dk_96 (dk_at dksX3_trimIt_5 0 rfl rfl)
theorem dX3_trimIt_118 : decode cX3_trimIt 118 = .ok (.iastore, 1) := dk_79 (dk_at dksX3_trimIt_5 1 rfl rfl)
theorem dX3_trimIt_119 : decode cX3_trimIt 119 = .ok (.aload_n 0, 1) := dk_42 (dk_at dksX3_trimIt_5 2 rfl rfl)
theorem dX3_trimIt_120 : decode cX3_trimIt 120 = .ok (.getfield 9, 3) := dk_180 0 9 (dk_at dksX3_trimIt_5 3 rfl rfl)
theorem dX3_trimIt_123 : decode cX3_trimIt 123 = .ok (.iconst 5, 1) := dk_8 (dk_at dksX3_trimIt_5 6 rfl rfl)
theorem dX3_trimIt_124 : decode cX3_trimIt 124 = .ok (.dup2, 1) := dk_92 (dk_at dksX3_trimIt_5 7 rfl rfl)
theorem dX3_trimIt_125 : decode cX3_trimIt 125 = .ok (.iaload, 1) := dk_46 (dk_at dksX3_trimIt_5 8 rfl rfl)
theorem dX3_trimIt_126 : decode cX3_trimIt 126 = .ok (.iconst 2, 1) := dk_5 (dk_at dksX3_trimIt_5 9 rfl rfl)
theorem dX3_trimIt_127 : decode cX3_trimIt 127 = .ok (.iadd, 1) := dk_96 (dk_at dksX3_trimIt_5 10 rfl rfl)
theorem dX3_trimIt_128 : decode cX3_trimIt 128 = .ok (.iastore, 1) := dk_79 (dk_at dksX3_trimIt_5 11 rfl rfl)
theorem dX3_trimIt_129 : decode cX3_trimIt 129 = .ok (.aload_n 0, 1) := dk_42 (dk_at dksX3_trimIt_5 12 rfl rfl)
theorem dX3_trimIt_130 : decode cX3_trimIt 130 = .ok (.getfield 9, 3) := dk_180 0 9 (dk_at dksX3_trimIt_5 13 rfl rfl)
theorem dX3_trimIt_133 : decode cX3_trimIt 133 = .ok (.iload 5, 2) := dk_21 5 (dk_at dksX3_trimIt_5 16 rfl rfl)
theorem dX3_trimIt_135 : decode cX3_trimIt 135 = .ok (.iaload, 1) := dk_46 (dk_at dksX3_trimIt_5 18 rfl rfl)
theorem dX3_trimIt_136 : decode cX3_trimIt 136 = .ok (.ireturn, 1) := dk_172 (dk_at dksX3_trimIt_5 19 rfl rfl)
abbrev cX3_isGardener : ByteArray := prog_10_method_14_code
def yX3_isGardener : MethodName := ⟨RX3, "isGardener", "(I)Z"⟩
def dkwX3_isGardener_0 : List UInt8 := [27, 133, 9, 42, 180, 0, 9, 3, 46, 4, 100, 133, 184, 0, 59, 172]
abbrev dktX3_isGardener_0 : List UInt8 := dkwX3_isGardener_0 ++ []
theorem dksX3_isGardener_0 : cX3_isGardener.data.toList.drop 0 = dktX3_isGardener_0 := by decide +kernel
theorem dX3_isGardener_0 : decode cX3_isGardener 0 = .ok (.iload_n 1, 1) := dk_27 (dk_at dksX3_isGardener_0 0 rfl rfl)
theorem dX3_isGardener_1 : decode cX3_isGardener 1 = .ok (.i2l, 1) := dk_133 (dk_at dksX3_isGardener_0 1 rfl rfl)
theorem dX3_isGardener_2 : decode cX3_isGardener 2 = .ok (.lconst 0, 1) := dk_9 (dk_at dksX3_isGardener_0 2 rfl rfl)
theorem dX3_isGardener_3 : decode cX3_isGardener 3 = .ok (.aload_n 0, 1) := dk_42 (dk_at dksX3_isGardener_0 3 rfl rfl)
theorem dX3_isGardener_4 : decode cX3_isGardener 4 = .ok (.getfield 9, 3) := dk_180 0 9 (dk_at dksX3_isGardener_0 4 rfl rfl)
theorem dX3_isGardener_7 : decode cX3_isGardener 7 = .ok (.iconst 0, 1) := dk_3 (dk_at dksX3_isGardener_0 7 rfl rfl)
theorem dX3_isGardener_8 : decode cX3_isGardener 8 = .ok (.iaload, 1) := dk_46 (dk_at dksX3_isGardener_0 8 rfl rfl)
theorem dX3_isGardener_9 : decode cX3_isGardener 9 = .ok (.iconst 1, 1) := dk_4 (dk_at dksX3_isGardener_0 9 rfl rfl)
theorem dX3_isGardener_10 : decode cX3_isGardener 10 = .ok (.isub, 1) := dk_100 (dk_at dksX3_isGardener_0 10 rfl rfl)
theorem dX3_isGardener_11 : decode cX3_isGardener 11 = .ok (.i2l, 1) := dk_133 (dk_at dksX3_isGardener_0 11 rfl rfl)
theorem dX3_isGardener_12 : decode cX3_isGardener 12 = .ok (.invokestatic 59, 3) := dk_184 0 59 (dk_at dksX3_isGardener_0 12 rfl rfl)
theorem dX3_isGardener_15 : decode cX3_isGardener 15 = .ok (.ireturn, 1) := dk_172 (dk_at dksX3_isGardener_0 15 rfl rfl)
abbrev cX3_gardenerAt : ByteArray := prog_10_method_12_code
def yX3_gardenerAt : MethodName := ⟨RX3, "gardenerAt", "(I)I"⟩
def dkwX3_gardenerAt_0 : List UInt8 := [16, 30, 7, 26, 104, 96, 172]
abbrev dktX3_gardenerAt_0 : List UInt8 := dkwX3_gardenerAt_0 ++ []
theorem dksX3_gardenerAt_0 : cX3_gardenerAt.data.toList.drop 0 = dktX3_gardenerAt_0 := by decide +kernel
theorem dX3_gardenerAt_0 : decode cX3_gardenerAt 0 = .ok (.bipush 30, 2) := dk_16 30 (dk_at dksX3_gardenerAt_0 0 rfl rfl)
theorem dX3_gardenerAt_2 : decode cX3_gardenerAt 2 = .ok (.iconst 4, 1) := dk_7 (dk_at dksX3_gardenerAt_0 2 rfl rfl)
theorem dX3_gardenerAt_3 : decode cX3_gardenerAt 3 = .ok (.iload_n 0, 1) := dk_26 (dk_at dksX3_gardenerAt_0 3 rfl rfl)
theorem dX3_gardenerAt_4 : decode cX3_gardenerAt 4 = .ok (.imul, 1) := dk_104 (dk_at dksX3_gardenerAt_0 4 rfl rfl)
theorem dX3_gardenerAt_5 : decode cX3_gardenerAt 5 = .ok (.iadd, 1) := dk_96 (dk_at dksX3_gardenerAt_0 5 rfl rfl)
theorem dX3_gardenerAt_6 : decode cX3_gardenerAt 6 = .ok (.ireturn, 1) := dk_172 (dk_at dksX3_gardenerAt_0 6 rfl rfl)
abbrev cX3_minotaur : ByteArray := prog_10_method_30_code
def yX3_minotaur : MethodName := ⟨RX3, "minotaur", "(I)I"⟩
def dkwX3_minotaur_0 : List UInt8 := [42, 182, 0, 100, 42, 42, 27, 182, 0, 134, 182, 0, 107, 172]
abbrev dktX3_minotaur_0 : List UInt8 := dkwX3_minotaur_0 ++ []
theorem dksX3_minotaur_0 : cX3_minotaur.data.toList.drop 0 = dktX3_minotaur_0 := by decide +kernel
theorem dX3_minotaur_0 : decode cX3_minotaur 0 = .ok (.aload_n 0, 1) := dk_42 (dk_at dksX3_minotaur_0 0 rfl rfl)
theorem dX3_minotaur_1 : decode cX3_minotaur 1 = .ok (.invokevirtual 100, 3) := dk_182 0 100 (dk_at dksX3_minotaur_0 1 rfl rfl)
theorem dX3_minotaur_4 : decode cX3_minotaur 4 = .ok (.aload_n 0, 1) := dk_42 (dk_at dksX3_minotaur_0 4 rfl rfl)
theorem dX3_minotaur_5 : decode cX3_minotaur 5 = .ok (.aload_n 0, 1) := dk_42 (dk_at dksX3_minotaur_0 5 rfl rfl)
theorem dX3_minotaur_6 : decode cX3_minotaur 6 = .ok (.iload_n 1, 1) := dk_27 (dk_at dksX3_minotaur_0 6 rfl rfl)
theorem dX3_minotaur_7 : decode cX3_minotaur 7 = .ok (.invokevirtual 134, 3) := dk_182 0 134 (dk_at dksX3_minotaur_0 7 rfl rfl)
theorem dX3_minotaur_10 : decode cX3_minotaur 10 = .ok (.invokevirtual 107, 3) := dk_182 0 107 (dk_at dksX3_minotaur_0 10 rfl rfl)
theorem dX3_minotaur_13 : decode cX3_minotaur 13 = .ok (.ireturn, 1) := dk_172 (dk_at dksX3_minotaur_0 13 rfl rfl)
abbrev cX3_minotaurIt : ByteArray := prog_10_method_29_code
def yX3_minotaurIt : MethodName := ⟨RX3, "minotaurIt", "(I)I"⟩
def dkwX3_minotaurIt_5 : List UInt8 := [153, 0, 7, 4, 167, 0, 4, 3, 96, 61, 132, 3, 1, 167, 255, 176, 28, 172]
abbrev dktX3_minotaurIt_5 : List UInt8 := dkwX3_minotaurIt_5 ++ []
def dkwX3_minotaurIt_4 : List UInt8 := [158, 0, 7, 4, 167, 0, 15, 42, 180, 0, 9, 29, 184, 0, 126, 16, 6, 96, 46, 79, 28, 21, 4]
abbrev dktX3_minotaurIt_4 : List UInt8 := dkwX3_minotaurIt_4 ++ dktX3_minotaurIt_5
def dkwX3_minotaurIt_3 : List UInt8 := [29, 184, 0, 126, 16, 6, 96, 21, 4, 153, 0, 21, 42, 180, 0, 9, 29, 184, 0, 126, 8, 96, 46]
abbrev dktX3_minotaurIt_3 : List UInt8 := dkwX3_minotaurIt_3 ++ dktX3_minotaurIt_4
def dkwX3_minotaurIt_2 : List UInt8 := [61, 3, 62, 29, 42, 180, 0, 9, 4, 46, 162, 0, 76, 42, 29, 182, 0, 131, 54, 4, 42, 180, 0, 9]
abbrev dktX3_minotaurIt_2 : List UInt8 := dkwX3_minotaurIt_2 ++ dktX3_minotaurIt_3
def dkwX3_minotaurIt_1 : List UInt8 := [180, 0, 9, 5, 46, 27, 160, 0, 10, 42, 6, 27, 182, 0, 91, 172, 42, 180, 0, 9, 5, 27, 79, 3]
abbrev dktX3_minotaurIt_1 : List UInt8 := dkwX3_minotaurIt_1 ++ dktX3_minotaurIt_2
def dkwX3_minotaurIt_0 : List UInt8 := [27, 133, 20, 0, 129, 20, 0, 57, 184, 0, 59, 154, 0, 10, 42, 4, 3, 182, 0, 91, 172, 42]
abbrev dktX3_minotaurIt_0 : List UInt8 := dkwX3_minotaurIt_0 ++ dktX3_minotaurIt_1
theorem dksX3_minotaurIt_0 : cX3_minotaurIt.data.toList.drop 0 = dktX3_minotaurIt_0 := by decide +kernel
theorem dksX3_minotaurIt_1 : cX3_minotaurIt.data.toList.drop 22 = dktX3_minotaurIt_1 := dk_seg dksX3_minotaurIt_0 22 rfl rfl
theorem dksX3_minotaurIt_2 : cX3_minotaurIt.data.toList.drop 46 = dktX3_minotaurIt_2 := dk_seg dksX3_minotaurIt_1 24 rfl rfl
theorem dksX3_minotaurIt_3 : cX3_minotaurIt.data.toList.drop 70 = dktX3_minotaurIt_3 := dk_seg dksX3_minotaurIt_2 24 rfl rfl
theorem dksX3_minotaurIt_4 : cX3_minotaurIt.data.toList.drop 93 = dktX3_minotaurIt_4 := dk_seg dksX3_minotaurIt_3 23 rfl rfl
theorem dksX3_minotaurIt_5 : cX3_minotaurIt.data.toList.drop 116 = dktX3_minotaurIt_5 := dk_seg dksX3_minotaurIt_4 23 rfl rfl
theorem dX3_minotaurIt_0 : decode cX3_minotaurIt 0 = .ok (.iload_n 1, 1) := dk_27 (dk_at dksX3_minotaurIt_0 0 rfl rfl)
theorem dX3_minotaurIt_1 : decode cX3_minotaurIt 1 = .ok (.i2l, 1) := dk_133 (dk_at dksX3_minotaurIt_0 1 rfl rfl)
theorem dX3_minotaurIt_2 : decode cX3_minotaurIt 2 = .ok (.ldc2_w 129, 3) := dk_20 0 129 (dk_at dksX3_minotaurIt_0 2 rfl rfl)
theorem dX3_minotaurIt_5 : decode cX3_minotaurIt 5 = .ok (.ldc2_w 57, 3) := dk_20 0 57 (dk_at dksX3_minotaurIt_0 5 rfl rfl)
theorem dX3_minotaurIt_8 : decode cX3_minotaurIt 8 = .ok (.invokestatic 59, 3) := dk_184 0 59 (dk_at dksX3_minotaurIt_0 8 rfl rfl)
theorem dX3_minotaurIt_11 : decode cX3_minotaurIt 11 = .ok (.ifCond .ne 10, 3) := dk_154 0 10 (dk_at dksX3_minotaurIt_0 11 rfl rfl)
theorem dX3_minotaurIt_14 : decode cX3_minotaurIt 14 = .ok (.aload_n 0, 1) := dk_42 (dk_at dksX3_minotaurIt_0 14 rfl rfl)
theorem dX3_minotaurIt_15 : decode cX3_minotaurIt 15 = .ok (.iconst 1, 1) := dk_4 (dk_at dksX3_minotaurIt_0 15 rfl rfl)
theorem dX3_minotaurIt_16 : decode cX3_minotaurIt 16 = .ok (.iconst 0, 1) := dk_3 (dk_at dksX3_minotaurIt_0 16 rfl rfl)
theorem dX3_minotaurIt_17 : decode cX3_minotaurIt 17 = .ok (.invokevirtual 91, 3) := dk_182 0 91 (dk_at dksX3_minotaurIt_0 17 rfl rfl)
theorem dX3_minotaurIt_20 : decode cX3_minotaurIt 20 = .ok (.ireturn, 1) := dk_172 (dk_at dksX3_minotaurIt_0 20 rfl rfl)
theorem dX3_minotaurIt_21 : decode cX3_minotaurIt 21 = .ok (.aload_n 0, 1) := dk_42 (dk_at dksX3_minotaurIt_0 21 rfl rfl)
theorem dX3_minotaurIt_22 : decode cX3_minotaurIt 22 = .ok (.getfield 9, 3) := dk_180 0 9 (dk_at dksX3_minotaurIt_1 0 rfl rfl)
theorem dX3_minotaurIt_25 : decode cX3_minotaurIt 25 = .ok (.iconst 2, 1) := dk_5 (dk_at dksX3_minotaurIt_1 3 rfl rfl)
theorem dX3_minotaurIt_26 : decode cX3_minotaurIt 26 = .ok (.iaload, 1) := dk_46 (dk_at dksX3_minotaurIt_1 4 rfl rfl)
theorem dX3_minotaurIt_27 : decode cX3_minotaurIt 27 = .ok (.iload_n 1, 1) := dk_27 (dk_at dksX3_minotaurIt_1 5 rfl rfl)
theorem dX3_minotaurIt_28 : decode cX3_minotaurIt 28 = .ok (.if_icmp .ne 10, 3) := dk_160 0 10 (dk_at dksX3_minotaurIt_1 6 rfl rfl)
theorem dX3_minotaurIt_31 : decode cX3_minotaurIt 31 = .ok (.aload_n 0, 1) := dk_42 (dk_at dksX3_minotaurIt_1 9 rfl rfl)
theorem dX3_minotaurIt_32 : decode cX3_minotaurIt 32 = .ok (.iconst 3, 1) := dk_6 (dk_at dksX3_minotaurIt_1 10 rfl rfl)
theorem dX3_minotaurIt_33 : decode cX3_minotaurIt 33 = .ok (.iload_n 1, 1) := dk_27 (dk_at dksX3_minotaurIt_1 11 rfl rfl)
theorem dX3_minotaurIt_34 : decode cX3_minotaurIt 34 = .ok (.invokevirtual 91, 3) := dk_182 0 91 (dk_at dksX3_minotaurIt_1 12 rfl rfl)
theorem dX3_minotaurIt_37 : decode cX3_minotaurIt 37 = .ok (.ireturn, 1) := dk_172 (dk_at dksX3_minotaurIt_1 15 rfl rfl)
theorem dX3_minotaurIt_38 : decode cX3_minotaurIt 38 = .ok (.aload_n 0, 1) := dk_42 (dk_at dksX3_minotaurIt_1 16 rfl rfl)
theorem dX3_minotaurIt_39 : decode cX3_minotaurIt 39 = .ok (.getfield 9, 3) := dk_180 0 9 (dk_at dksX3_minotaurIt_1 17 rfl rfl)
theorem dX3_minotaurIt_42 : decode cX3_minotaurIt 42 = .ok (.iconst 2, 1) := dk_5 (dk_at dksX3_minotaurIt_1 20 rfl rfl)
theorem dX3_minotaurIt_43 : decode cX3_minotaurIt 43 = .ok (.iload_n 1, 1) := dk_27 (dk_at dksX3_minotaurIt_1 21 rfl rfl)
theorem dX3_minotaurIt_44 : decode cX3_minotaurIt 44 = .ok (.iastore, 1) := dk_79 (dk_at dksX3_minotaurIt_1 22 rfl rfl)
theorem dX3_minotaurIt_45 : decode cX3_minotaurIt 45 = .ok (.iconst 0, 1) := dk_3 (dk_at dksX3_minotaurIt_1 23 rfl rfl)
theorem dX3_minotaurIt_46 : decode cX3_minotaurIt 46 = .ok (.istore_n 2, 1) := dk_61 (dk_at dksX3_minotaurIt_2 0 rfl rfl)
theorem dX3_minotaurIt_47 : decode cX3_minotaurIt 47 = .ok (.iconst 0, 1) := dk_3 (dk_at dksX3_minotaurIt_2 1 rfl rfl)
theorem dX3_minotaurIt_48 : decode cX3_minotaurIt 48 = .ok (.istore_n 3, 1) := dk_62 (dk_at dksX3_minotaurIt_2 2 rfl rfl)
theorem dX3_minotaurIt_49 : decode cX3_minotaurIt 49 = .ok (.iload_n 3, 1) := dk_29 (dk_at dksX3_minotaurIt_2 3 rfl rfl)
theorem dX3_minotaurIt_50 : decode cX3_minotaurIt 50 = .ok (.aload_n 0, 1) := dk_42 (dk_at dksX3_minotaurIt_2 4 rfl rfl)
theorem dX3_minotaurIt_51 : decode cX3_minotaurIt 51 = .ok (.getfield 9, 3) := dk_180 0 9 (dk_at dksX3_minotaurIt_2 5 rfl rfl)
theorem dX3_minotaurIt_54 : decode cX3_minotaurIt 54 = .ok (.iconst 1, 1) := dk_4 (dk_at dksX3_minotaurIt_2 8 rfl rfl)
theorem dX3_minotaurIt_55 : decode cX3_minotaurIt 55 = .ok (.iaload, 1) := dk_46 (dk_at dksX3_minotaurIt_2 9 rfl rfl)
theorem dX3_minotaurIt_56 : decode cX3_minotaurIt 56 = .ok (.if_icmp .ge 76, 3) := dk_162 0 76 (dk_at dksX3_minotaurIt_2 10 rfl rfl)
theorem dX3_minotaurIt_59 : decode cX3_minotaurIt 59 = .ok (.aload_n 0, 1) := dk_42 (dk_at dksX3_minotaurIt_2 13 rfl rfl)
theorem dX3_minotaurIt_60 : decode cX3_minotaurIt 60 = .ok (.iload_n 3, 1) := dk_29 (dk_at dksX3_minotaurIt_2 14 rfl rfl)
theorem dX3_minotaurIt_61 : decode cX3_minotaurIt 61 = .ok (.invokevirtual 131, 3) := dk_182 0 131 (dk_at dksX3_minotaurIt_2 15 rfl rfl)
theorem dX3_minotaurIt_64 : decode cX3_minotaurIt 64 = .ok (.istore 4, 2) := dk_54 4 (dk_at dksX3_minotaurIt_2 18 rfl rfl)
theorem dX3_minotaurIt_66 : decode cX3_minotaurIt 66 = .ok (.aload_n 0, 1) := dk_42 (dk_at dksX3_minotaurIt_2 20 rfl rfl)
theorem dX3_minotaurIt_67 : decode cX3_minotaurIt 67 = .ok (.getfield 9, 3) := dk_180 0 9 (dk_at dksX3_minotaurIt_2 21 rfl rfl)
theorem dX3_minotaurIt_70 : decode cX3_minotaurIt 70 = .ok (.iload_n 3, 1) := dk_29 (dk_at dksX3_minotaurIt_3 0 rfl rfl)
theorem dX3_minotaurIt_71 : decode cX3_minotaurIt 71 = .ok (.invokestatic 126, 3) := dk_184 0 126 (dk_at dksX3_minotaurIt_3 1 rfl rfl)
theorem dX3_minotaurIt_74 : decode cX3_minotaurIt 74 = .ok (.bipush 6, 2) := dk_16 6 (dk_at dksX3_minotaurIt_3 4 rfl rfl)
theorem dX3_minotaurIt_76 : decode cX3_minotaurIt 76 = .ok (.iadd, 1) := dk_96 (dk_at dksX3_minotaurIt_3 6 rfl rfl)
theorem dX3_minotaurIt_77 : decode cX3_minotaurIt 77 = .ok (.iload 4, 2) := dk_21 4 (dk_at dksX3_minotaurIt_3 7 rfl rfl)
theorem dX3_minotaurIt_79 : decode cX3_minotaurIt 79 = .ok (.ifCond .eq 21, 3) := dk_153 0 21 (dk_at dksX3_minotaurIt_3 9 rfl rfl)
theorem dX3_minotaurIt_82 : decode cX3_minotaurIt 82 = .ok (.aload_n 0, 1) := dk_42 (dk_at dksX3_minotaurIt_3 12 rfl rfl)
theorem dX3_minotaurIt_83 : decode cX3_minotaurIt 83 = .ok (.getfield 9, 3) := dk_180 0 9 (dk_at dksX3_minotaurIt_3 13 rfl rfl)
theorem dX3_minotaurIt_86 : decode cX3_minotaurIt 86 = .ok (.iload_n 3, 1) := dk_29 (dk_at dksX3_minotaurIt_3 16 rfl rfl)
theorem dX3_minotaurIt_87 : decode cX3_minotaurIt 87 = .ok (.invokestatic 126, 3) := dk_184 0 126 (dk_at dksX3_minotaurIt_3 17 rfl rfl)
theorem dX3_minotaurIt_90 : decode cX3_minotaurIt 90 = .ok (.iconst 5, 1) := dk_8 (dk_at dksX3_minotaurIt_3 20 rfl rfl)
theorem dX3_minotaurIt_91 : decode cX3_minotaurIt 91 = .ok (.iadd, 1) := dk_96 (dk_at dksX3_minotaurIt_3 21 rfl rfl)
theorem dX3_minotaurIt_92 : decode cX3_minotaurIt 92 = .ok (.iaload, 1) := dk_46 (dk_at dksX3_minotaurIt_3 22 rfl rfl)
theorem dX3_minotaurIt_93 : decode cX3_minotaurIt 93 = .ok (.ifCond .le 7, 3) := dk_158 0 7 (dk_at dksX3_minotaurIt_4 0 rfl rfl)
theorem dX3_minotaurIt_96 : decode cX3_minotaurIt 96 = .ok (.iconst 1, 1) := dk_4 (dk_at dksX3_minotaurIt_4 3 rfl rfl)
theorem dX3_minotaurIt_97 : decode cX3_minotaurIt 97 = .ok (.goto 15, 3) := dk_167 0 15 (dk_at dksX3_minotaurIt_4 4 rfl rfl)
theorem dX3_minotaurIt_100 : decode cX3_minotaurIt 100 = .ok (.aload_n 0, 1) := dk_42 (dk_at dksX3_minotaurIt_4 7 rfl rfl)
theorem dX3_minotaurIt_101 : decode cX3_minotaurIt 101 = .ok (.getfield 9, 3) := dk_180 0 9 (dk_at dksX3_minotaurIt_4 8 rfl rfl)
theorem dX3_minotaurIt_104 : decode cX3_minotaurIt 104 = .ok (.iload_n 3, 1) := dk_29 (dk_at dksX3_minotaurIt_4 11 rfl rfl)
theorem dX3_minotaurIt_105 : decode cX3_minotaurIt 105 = .ok (.invokestatic 126, 3) := dk_184 0 126 (dk_at dksX3_minotaurIt_4 12 rfl rfl)
theorem dX3_minotaurIt_108 : decode cX3_minotaurIt 108 = .ok (.bipush 6, 2) := dk_16 6 (dk_at dksX3_minotaurIt_4 15 rfl rfl)
theorem dX3_minotaurIt_110 : decode cX3_minotaurIt 110 = .ok (.iadd, 1) := dk_96 (dk_at dksX3_minotaurIt_4 17 rfl rfl)
theorem dX3_minotaurIt_111 : decode cX3_minotaurIt 111 = .ok (.iaload, 1) := dk_46 (dk_at dksX3_minotaurIt_4 18 rfl rfl)
theorem dX3_minotaurIt_112 : decode cX3_minotaurIt 112 = .ok (.iastore, 1) := dk_79 (dk_at dksX3_minotaurIt_4 19 rfl rfl)
theorem dX3_minotaurIt_113 : decode cX3_minotaurIt 113 = .ok (.iload_n 2, 1) := dk_28 (dk_at dksX3_minotaurIt_4 20 rfl rfl)
theorem dX3_minotaurIt_114 : decode cX3_minotaurIt 114 = .ok (.iload 4, 2) := dk_21 4 (dk_at dksX3_minotaurIt_4 21 rfl rfl)
theorem dX3_minotaurIt_116 : decode cX3_minotaurIt 116 = .ok (.ifCond .eq 7, 3) := dk_153 0 7 (dk_at dksX3_minotaurIt_5 0 rfl rfl)
theorem dX3_minotaurIt_119 : decode cX3_minotaurIt 119 = .ok (.iconst 1, 1) := dk_4 (dk_at dksX3_minotaurIt_5 3 rfl rfl)
theorem dX3_minotaurIt_120 : decode cX3_minotaurIt 120 = .ok (.goto 4, 3) := dk_167 0 4 (dk_at dksX3_minotaurIt_5 4 rfl rfl)
theorem dX3_minotaurIt_123 : decode cX3_minotaurIt 123 = .ok (.iconst 0, 1) := dk_3 (dk_at dksX3_minotaurIt_5 7 rfl rfl)
theorem dX3_minotaurIt_124 : decode cX3_minotaurIt 124 = .ok (.iadd, 1) := dk_96 (dk_at dksX3_minotaurIt_5 8 rfl rfl)
theorem dX3_minotaurIt_125 : decode cX3_minotaurIt 125 = .ok (.istore_n 2, 1) := dk_61 (dk_at dksX3_minotaurIt_5 9 rfl rfl)
theorem dX3_minotaurIt_126 : decode cX3_minotaurIt 126 = .ok (.iinc 3 1, 3) := dk_132 3 1 (dk_at dksX3_minotaurIt_5 10 rfl rfl)
theorem dX3_minotaurIt_129 : decode cX3_minotaurIt 129 = .ok (.goto (-80), 3) := dk_167 255 176 (dk_at dksX3_minotaurIt_5 13 rfl rfl)
theorem dX3_minotaurIt_132 : decode cX3_minotaurIt 132 = .ok (.iload_n 2, 1) := dk_28 (dk_at dksX3_minotaurIt_5 16 rfl rfl)
theorem dX3_minotaurIt_133 : decode cX3_minotaurIt 133 = .ok (.ireturn, 1) := dk_172 (dk_at dksX3_minotaurIt_5 17 rfl rfl)
abbrev cX3_meets : ByteArray := prog_10_method_28_code
def yX3_meets : MethodName := ⟨RX3, "meets", "(I)Z"⟩
def dkwX3_meets_1 : List UInt8 := [46, 42, 180, 0, 9, 5, 46, 160, 0, 7, 4, 167, 0, 4, 3, 172]
abbrev dktX3_meets_1 : List UInt8 := dkwX3_meets_1 ++ []
def dkwX3_meets_0 : List UInt8 := [27, 184, 0, 126, 61, 42, 180, 0, 9, 28, 16, 7, 96, 46, 154, 0, 24, 42, 180, 0, 9, 28, 4, 96]
abbrev dktX3_meets_0 : List UInt8 := dkwX3_meets_0 ++ dktX3_meets_1
theorem dksX3_meets_0 : cX3_meets.data.toList.drop 0 = dktX3_meets_0 := by decide +kernel
theorem dksX3_meets_1 : cX3_meets.data.toList.drop 24 = dktX3_meets_1 := dk_seg dksX3_meets_0 24 rfl rfl
theorem dX3_meets_0 : decode cX3_meets 0 = .ok (.iload_n 1, 1) := dk_27 (dk_at dksX3_meets_0 0 rfl rfl)
theorem dX3_meets_1 : decode cX3_meets 1 = .ok (.invokestatic 126, 3) := dk_184 0 126 (dk_at dksX3_meets_0 1 rfl rfl)
theorem dX3_meets_4 : decode cX3_meets 4 = .ok (.istore_n 2, 1) := dk_61 (dk_at dksX3_meets_0 4 rfl rfl)
theorem dX3_meets_5 : decode cX3_meets 5 = .ok (.aload_n 0, 1) := dk_42 (dk_at dksX3_meets_0 5 rfl rfl)
theorem dX3_meets_6 : decode cX3_meets 6 = .ok (.getfield 9, 3) := dk_180 0 9 (dk_at dksX3_meets_0 6 rfl rfl)
theorem dX3_meets_9 : decode cX3_meets 9 = .ok (.iload_n 2, 1) := dk_28 (dk_at dksX3_meets_0 9 rfl rfl)
theorem dX3_meets_10 : decode cX3_meets 10 = .ok (.bipush 7, 2) := dk_16 7 (dk_at dksX3_meets_0 10 rfl rfl)
theorem dX3_meets_12 : decode cX3_meets 12 = .ok (.iadd, 1) := dk_96 (dk_at dksX3_meets_0 12 rfl rfl)
theorem dX3_meets_13 : decode cX3_meets 13 = .ok (.iaload, 1) := dk_46 (dk_at dksX3_meets_0 13 rfl rfl)
theorem dX3_meets_14 : decode cX3_meets 14 = .ok (.ifCond .ne 24, 3) := dk_154 0 24 (dk_at dksX3_meets_0 14 rfl rfl)
theorem dX3_meets_17 : decode cX3_meets 17 = .ok (.aload_n 0, 1) := dk_42 (dk_at dksX3_meets_0 17 rfl rfl)
theorem dX3_meets_18 : decode cX3_meets 18 = .ok (.getfield 9, 3) := dk_180 0 9 (dk_at dksX3_meets_0 18 rfl rfl)
theorem dX3_meets_21 : decode cX3_meets 21 = .ok (.iload_n 2, 1) := dk_28 (dk_at dksX3_meets_0 21 rfl rfl)
theorem dX3_meets_22 : decode cX3_meets 22 = .ok (.iconst 1, 1) := dk_4 (dk_at dksX3_meets_0 22 rfl rfl)
theorem dX3_meets_23 : decode cX3_meets 23 = .ok (.iadd, 1) := dk_96 (dk_at dksX3_meets_0 23 rfl rfl)
theorem dX3_meets_24 : decode cX3_meets 24 = .ok (.iaload, 1) := dk_46 (dk_at dksX3_meets_1 0 rfl rfl)
theorem dX3_meets_25 : decode cX3_meets 25 = .ok (.aload_n 0, 1) := dk_42 (dk_at dksX3_meets_1 1 rfl rfl)
theorem dX3_meets_26 : decode cX3_meets 26 = .ok (.getfield 9, 3) := dk_180 0 9 (dk_at dksX3_meets_1 2 rfl rfl)
theorem dX3_meets_29 : decode cX3_meets 29 = .ok (.iconst 2, 1) := dk_5 (dk_at dksX3_meets_1 5 rfl rfl)
theorem dX3_meets_30 : decode cX3_meets 30 = .ok (.iaload, 1) := dk_46 (dk_at dksX3_meets_1 6 rfl rfl)
theorem dX3_meets_31 : decode cX3_meets 31 = .ok (.if_icmp .ne 7, 3) := dk_160 0 7 (dk_at dksX3_meets_1 7 rfl rfl)
theorem dX3_meets_34 : decode cX3_meets 34 = .ok (.iconst 1, 1) := dk_4 (dk_at dksX3_meets_1 10 rfl rfl)
theorem dX3_meets_35 : decode cX3_meets 35 = .ok (.goto 4, 3) := dk_167 0 4 (dk_at dksX3_meets_1 11 rfl rfl)
theorem dX3_meets_38 : decode cX3_meets 38 = .ok (.iconst 0, 1) := dk_3 (dk_at dksX3_meets_1 14 rfl rfl)
theorem dX3_meets_39 : decode cX3_meets 39 = .ok (.ireturn, 1) := dk_172 (dk_at dksX3_meets_1 15 rfl rfl)
abbrev cX3_visitorAt : ByteArray := prog_10_method_13_code
def yX3_visitorAt : MethodName := ⟨RX3, "visitorAt", "(I)I"⟩
def dkwX3_visitorAt_0 : List UInt8 := [16, 46, 16, 8, 26, 104, 96, 172]
abbrev dktX3_visitorAt_0 : List UInt8 := dkwX3_visitorAt_0 ++ []
theorem dksX3_visitorAt_0 : cX3_visitorAt.data.toList.drop 0 = dktX3_visitorAt_0 := by decide +kernel
theorem dX3_visitorAt_0 : decode cX3_visitorAt 0 = .ok (.bipush 46, 2) := dk_16 46 (dk_at dksX3_visitorAt_0 0 rfl rfl)
theorem dX3_visitorAt_2 : decode cX3_visitorAt 2 = .ok (.bipush 8, 2) := dk_16 8 (dk_at dksX3_visitorAt_0 2 rfl rfl)
theorem dX3_visitorAt_4 : decode cX3_visitorAt 4 = .ok (.iload_n 0, 1) := dk_26 (dk_at dksX3_visitorAt_0 4 rfl rfl)
theorem dX3_visitorAt_5 : decode cX3_visitorAt 5 = .ok (.imul, 1) := dk_104 (dk_at dksX3_visitorAt_0 5 rfl rfl)
theorem dX3_visitorAt_6 : decode cX3_visitorAt 6 = .ok (.iadd, 1) := dk_96 (dk_at dksX3_visitorAt_0 6 rfl rfl)
theorem dX3_visitorAt_7 : decode cX3_visitorAt 7 = .ok (.ireturn, 1) := dk_172 (dk_at dksX3_visitorAt_0 7 rfl rfl)
abbrev cX3_gardener : ByteArray := prog_10_method_32_code
def yX3_gardener : MethodName := ⟨RX3, "gardener", "(I)I"⟩
def dkwX3_gardener_0 : List UInt8 := [42, 182, 0, 100, 42, 42, 27, 182, 0, 139, 182, 0, 107, 172]
abbrev dktX3_gardener_0 : List UInt8 := dkwX3_gardener_0 ++ []
theorem dksX3_gardener_0 : cX3_gardener.data.toList.drop 0 = dktX3_gardener_0 := by decide +kernel
theorem dX3_gardener_0 : decode cX3_gardener 0 = .ok (.aload_n 0, 1) := dk_42 (dk_at dksX3_gardener_0 0 rfl rfl)
theorem dX3_gardener_1 : decode cX3_gardener 1 = .ok (.invokevirtual 100, 3) := dk_182 0 100 (dk_at dksX3_gardener_0 1 rfl rfl)
theorem dX3_gardener_4 : decode cX3_gardener 4 = .ok (.aload_n 0, 1) := dk_42 (dk_at dksX3_gardener_0 4 rfl rfl)
theorem dX3_gardener_5 : decode cX3_gardener 5 = .ok (.aload_n 0, 1) := dk_42 (dk_at dksX3_gardener_0 5 rfl rfl)
theorem dX3_gardener_6 : decode cX3_gardener 6 = .ok (.iload_n 1, 1) := dk_27 (dk_at dksX3_gardener_0 6 rfl rfl)
theorem dX3_gardener_7 : decode cX3_gardener 7 = .ok (.invokevirtual 139, 3) := dk_182 0 139 (dk_at dksX3_gardener_0 7 rfl rfl)
theorem dX3_gardener_10 : decode cX3_gardener 10 = .ok (.invokevirtual 107, 3) := dk_182 0 107 (dk_at dksX3_gardener_0 10 rfl rfl)
theorem dX3_gardener_13 : decode cX3_gardener 13 = .ok (.ireturn, 1) := dk_172 (dk_at dksX3_gardener_0 13 rfl rfl)
abbrev cX3_gardenerIt : ByteArray := prog_10_method_31_code
def yX3_gardenerIt : MethodName := ⟨RX3, "gardenerIt", "(I)I"⟩
def dkwX3_gardenerIt_3 : List UInt8 := [79, 42, 180, 0, 9, 3, 46, 4, 100, 172]
abbrev dktX3_gardenerIt_3 : List UInt8 := dkwX3_gardenerIt_3 ++ []
def dkwX3_gardenerIt_2 : List UInt8 := [184, 0, 120, 27, 79, 42, 180, 0, 9, 7, 92, 46, 27, 96, 79, 42, 180, 0, 9, 3, 92, 46, 4, 96]
abbrev dktX3_gardenerIt_2 : List UInt8 := dkwX3_gardenerIt_2 ++ dktX3_gardenerIt_3
def dkwX3_gardenerIt_1 : List UInt8 := [46, 7, 160, 0, 11, 42, 16, 13, 7, 182, 0, 91, 172, 42, 180, 0, 9, 42, 180, 0, 9, 3, 46]
abbrev dktX3_gardenerIt_1 : List UInt8 := dkwX3_gardenerIt_1 ++ dktX3_gardenerIt_2
def dkwX3_gardenerIt_0 : List UInt8 := [27, 133, 9, 20, 0, 137, 184, 0, 59, 154, 0, 10, 42, 4, 3, 182, 0, 91, 172, 42, 180, 0, 9, 3]
abbrev dktX3_gardenerIt_0 : List UInt8 := dkwX3_gardenerIt_0 ++ dktX3_gardenerIt_1
theorem dksX3_gardenerIt_0 : cX3_gardenerIt.data.toList.drop 0 = dktX3_gardenerIt_0 := by decide +kernel
theorem dksX3_gardenerIt_1 : cX3_gardenerIt.data.toList.drop 24 = dktX3_gardenerIt_1 := dk_seg dksX3_gardenerIt_0 24 rfl rfl
theorem dksX3_gardenerIt_2 : cX3_gardenerIt.data.toList.drop 47 = dktX3_gardenerIt_2 := dk_seg dksX3_gardenerIt_1 23 rfl rfl
theorem dksX3_gardenerIt_3 : cX3_gardenerIt.data.toList.drop 71 = dktX3_gardenerIt_3 := dk_seg dksX3_gardenerIt_2 24 rfl rfl
theorem dX3_gardenerIt_0 : decode cX3_gardenerIt 0 = .ok (.iload_n 1, 1) := dk_27 (dk_at dksX3_gardenerIt_0 0 rfl rfl)
theorem dX3_gardenerIt_1 : decode cX3_gardenerIt 1 = .ok (.i2l, 1) := dk_133 (dk_at dksX3_gardenerIt_0 1 rfl rfl)
theorem dX3_gardenerIt_2 : decode cX3_gardenerIt 2 = .ok (.lconst 0, 1) := dk_9 (dk_at dksX3_gardenerIt_0 2 rfl rfl)
theorem dX3_gardenerIt_3 : decode cX3_gardenerIt 3 = .ok (.ldc2_w 137, 3) := dk_20 0 137 (dk_at dksX3_gardenerIt_0 3 rfl rfl)
theorem dX3_gardenerIt_6 : decode cX3_gardenerIt 6 = .ok (.invokestatic 59, 3) := dk_184 0 59 (dk_at dksX3_gardenerIt_0 6 rfl rfl)
theorem dX3_gardenerIt_9 : decode cX3_gardenerIt 9 = .ok (.ifCond .ne 10, 3) := dk_154 0 10 (dk_at dksX3_gardenerIt_0 9 rfl rfl)
theorem dX3_gardenerIt_12 : decode cX3_gardenerIt 12 = .ok (.aload_n 0, 1) := dk_42 (dk_at dksX3_gardenerIt_0 12 rfl rfl)
theorem dX3_gardenerIt_13 : decode cX3_gardenerIt 13 = .ok (.iconst 1, 1) := dk_4 (dk_at dksX3_gardenerIt_0 13 rfl rfl)
theorem dX3_gardenerIt_14 : decode cX3_gardenerIt 14 = .ok (.iconst 0, 1) := dk_3 (dk_at dksX3_gardenerIt_0 14 rfl rfl)
theorem dX3_gardenerIt_15 : decode cX3_gardenerIt 15 = .ok (.invokevirtual 91, 3) := dk_182 0 91 (dk_at dksX3_gardenerIt_0 15 rfl rfl)
theorem dX3_gardenerIt_18 : decode cX3_gardenerIt 18 = .ok (.ireturn, 1) := dk_172 (dk_at dksX3_gardenerIt_0 18 rfl rfl)
theorem dX3_gardenerIt_19 : decode cX3_gardenerIt 19 = .ok (.aload_n 0, 1) := dk_42 (dk_at dksX3_gardenerIt_0 19 rfl rfl)
theorem dX3_gardenerIt_20 : decode cX3_gardenerIt 20 = .ok (.getfield 9, 3) := dk_180 0 9 (dk_at dksX3_gardenerIt_0 20 rfl rfl)
theorem dX3_gardenerIt_23 : decode cX3_gardenerIt 23 = .ok (.iconst 0, 1) := dk_3 (dk_at dksX3_gardenerIt_0 23 rfl rfl)
theorem dX3_gardenerIt_24 : decode cX3_gardenerIt 24 = .ok (.iaload, 1) := dk_46 (dk_at dksX3_gardenerIt_1 0 rfl rfl)
theorem dX3_gardenerIt_25 : decode cX3_gardenerIt 25 = .ok (.iconst 4, 1) := dk_7 (dk_at dksX3_gardenerIt_1 1 rfl rfl)
theorem dX3_gardenerIt_26 : decode cX3_gardenerIt 26 = .ok (.if_icmp .ne 11, 3) := dk_160 0 11 (dk_at dksX3_gardenerIt_1 2 rfl rfl)
theorem dX3_gardenerIt_29 : decode cX3_gardenerIt 29 = .ok (.aload_n 0, 1) := dk_42 (dk_at dksX3_gardenerIt_1 5 rfl rfl)
theorem dX3_gardenerIt_30 : decode cX3_gardenerIt 30 = .ok (.bipush 13, 2) := dk_16 13 (dk_at dksX3_gardenerIt_1 6 rfl rfl)
theorem dX3_gardenerIt_32 : decode cX3_gardenerIt 32 = .ok (.iconst 4, 1) := dk_7 (dk_at dksX3_gardenerIt_1 8 rfl rfl)
theorem dX3_gardenerIt_33 : decode cX3_gardenerIt 33 = .ok (.invokevirtual 91, 3) := dk_182 0 91 (dk_at dksX3_gardenerIt_1 9 rfl rfl)
theorem dX3_gardenerIt_36 : decode cX3_gardenerIt 36 = .ok (.ireturn, 1) := dk_172 (dk_at dksX3_gardenerIt_1 12 rfl rfl)
theorem dX3_gardenerIt_37 : decode cX3_gardenerIt 37 = .ok (.aload_n 0, 1) := dk_42 (dk_at dksX3_gardenerIt_1 13 rfl rfl)
theorem dX3_gardenerIt_38 : decode cX3_gardenerIt 38 = .ok (.getfield 9, 3) := dk_180 0 9 (dk_at dksX3_gardenerIt_1 14 rfl rfl)
theorem dX3_gardenerIt_41 : decode cX3_gardenerIt 41 = .ok (.aload_n 0, 1) := dk_42 (dk_at dksX3_gardenerIt_1 17 rfl rfl)
theorem dX3_gardenerIt_42 : decode cX3_gardenerIt 42 = .ok (.getfield 9, 3) := dk_180 0 9 (dk_at dksX3_gardenerIt_1 18 rfl rfl)
theorem dX3_gardenerIt_45 : decode cX3_gardenerIt 45 = .ok (.iconst 0, 1) := dk_3 (dk_at dksX3_gardenerIt_1 21 rfl rfl)
theorem dX3_gardenerIt_46 : decode cX3_gardenerIt 46 = .ok (.iaload, 1) := dk_46 (dk_at dksX3_gardenerIt_1 22 rfl rfl)
theorem dX3_gardenerIt_47 : decode cX3_gardenerIt 47 = .ok (.invokestatic 120, 3) := dk_184 0 120 (dk_at dksX3_gardenerIt_2 0 rfl rfl)
theorem dX3_gardenerIt_50 : decode cX3_gardenerIt 50 = .ok (.iload_n 1, 1) := dk_27 (dk_at dksX3_gardenerIt_2 3 rfl rfl)
theorem dX3_gardenerIt_51 : decode cX3_gardenerIt 51 = .ok (.iastore, 1) := dk_79 (dk_at dksX3_gardenerIt_2 4 rfl rfl)
theorem dX3_gardenerIt_52 : decode cX3_gardenerIt 52 = .ok (.aload_n 0, 1) := dk_42 (dk_at dksX3_gardenerIt_2 5 rfl rfl)
theorem dX3_gardenerIt_53 : decode cX3_gardenerIt 53 = .ok (.getfield 9, 3) := dk_180 0 9 (dk_at dksX3_gardenerIt_2 6 rfl rfl)
theorem dX3_gardenerIt_56 : decode cX3_gardenerIt 56 = .ok (.iconst 4, 1) := dk_7 (dk_at dksX3_gardenerIt_2 9 rfl rfl)
theorem dX3_gardenerIt_57 : decode cX3_gardenerIt 57 = .ok (.dup2, 1) := dk_92 (dk_at dksX3_gardenerIt_2 10 rfl rfl)
theorem dX3_gardenerIt_58 : decode cX3_gardenerIt 58 = .ok (.iaload, 1) := dk_46 (dk_at dksX3_gardenerIt_2 11 rfl rfl)
theorem dX3_gardenerIt_59 : decode cX3_gardenerIt 59 = .ok (.iload_n 1, 1) := dk_27 (dk_at dksX3_gardenerIt_2 12 rfl rfl)
theorem dX3_gardenerIt_60 : decode cX3_gardenerIt 60 = .ok (.iadd, 1) := dk_96 (dk_at dksX3_gardenerIt_2 13 rfl rfl)
theorem dX3_gardenerIt_61 : decode cX3_gardenerIt 61 = .ok (.iastore, 1) := dk_79 (dk_at dksX3_gardenerIt_2 14 rfl rfl)
theorem dX3_gardenerIt_62 : decode cX3_gardenerIt 62 = .ok (.aload_n 0, 1) := dk_42 (dk_at dksX3_gardenerIt_2 15 rfl rfl)
theorem dX3_gardenerIt_63 : decode cX3_gardenerIt 63 = .ok (.getfield 9, 3) := dk_180 0 9 (dk_at dksX3_gardenerIt_2 16 rfl rfl)
theorem dX3_gardenerIt_66 : decode cX3_gardenerIt 66 = .ok (.iconst 0, 1) := dk_3 (dk_at dksX3_gardenerIt_2 19 rfl rfl)
theorem dX3_gardenerIt_67 : decode cX3_gardenerIt 67 = .ok (.dup2, 1) := dk_92 (dk_at dksX3_gardenerIt_2 20 rfl rfl)
theorem dX3_gardenerIt_68 : decode cX3_gardenerIt 68 = .ok (.iaload, 1) := dk_46 (dk_at dksX3_gardenerIt_2 21 rfl rfl)
theorem dX3_gardenerIt_69 : decode cX3_gardenerIt 69 = .ok (.iconst 1, 1) := dk_4 (dk_at dksX3_gardenerIt_2 22 rfl rfl)
theorem dX3_gardenerIt_70 : decode cX3_gardenerIt 70 = .ok (.iadd, 1) := dk_96 (dk_at dksX3_gardenerIt_2 23 rfl rfl)
theorem dX3_gardenerIt_71 : decode cX3_gardenerIt 71 = .ok (.iastore, 1) := dk_79 (dk_at dksX3_gardenerIt_3 0 rfl rfl)
theorem dX3_gardenerIt_72 : decode cX3_gardenerIt 72 = .ok (.aload_n 0, 1) := dk_42 (dk_at dksX3_gardenerIt_3 1 rfl rfl)
theorem dX3_gardenerIt_73 : decode cX3_gardenerIt 73 = .ok (.getfield 9, 3) := dk_180 0 9 (dk_at dksX3_gardenerIt_3 2 rfl rfl)
theorem dX3_gardenerIt_76 : decode cX3_gardenerIt 76 = .ok (.iconst 0, 1) := dk_3 (dk_at dksX3_gardenerIt_3 5 rfl rfl)
theorem dX3_gardenerIt_77 : decode cX3_gardenerIt 77 = .ok (.iaload, 1) := dk_46 (dk_at dksX3_gardenerIt_3 6 rfl rfl)
theorem dX3_gardenerIt_78 : decode cX3_gardenerIt 78 = .ok (.iconst 1, 1) := dk_4 (dk_at dksX3_gardenerIt_3 7 rfl rfl)
theorem dX3_gardenerIt_79 : decode cX3_gardenerIt 79 = .ok (.isub, 1) := dk_100 (dk_at dksX3_gardenerIt_3 8 rfl rfl)
theorem dX3_gardenerIt_80 : decode cX3_gardenerIt 80 = .ok (.ireturn, 1) := dk_172 (dk_at dksX3_gardenerIt_3 9 rfl rfl)
abbrev cX3_visitor : ByteArray := prog_10_method_34_code
def yX3_visitor : MethodName := ⟨RX3, "visitor", "(I)I"⟩
def dkwX3_visitor_0 : List UInt8 := [42, 182, 0, 100, 42, 42, 27, 182, 0, 151, 182, 0, 107, 172]
abbrev dktX3_visitor_0 : List UInt8 := dkwX3_visitor_0 ++ []
theorem dksX3_visitor_0 : cX3_visitor.data.toList.drop 0 = dktX3_visitor_0 := by decide +kernel
theorem dX3_visitor_0 : decode cX3_visitor 0 = .ok (.aload_n 0, 1) := dk_42 (dk_at dksX3_visitor_0 0 rfl rfl)
theorem dX3_visitor_1 : decode cX3_visitor 1 = .ok (.invokevirtual 100, 3) := dk_182 0 100 (dk_at dksX3_visitor_0 1 rfl rfl)
theorem dX3_visitor_4 : decode cX3_visitor 4 = .ok (.aload_n 0, 1) := dk_42 (dk_at dksX3_visitor_0 4 rfl rfl)
theorem dX3_visitor_5 : decode cX3_visitor 5 = .ok (.aload_n 0, 1) := dk_42 (dk_at dksX3_visitor_0 5 rfl rfl)
theorem dX3_visitor_6 : decode cX3_visitor 6 = .ok (.iload_n 1, 1) := dk_27 (dk_at dksX3_visitor_0 6 rfl rfl)
theorem dX3_visitor_7 : decode cX3_visitor 7 = .ok (.invokevirtual 151, 3) := dk_182 0 151 (dk_at dksX3_visitor_0 7 rfl rfl)
theorem dX3_visitor_10 : decode cX3_visitor 10 = .ok (.invokevirtual 107, 3) := dk_182 0 107 (dk_at dksX3_visitor_0 10 rfl rfl)
theorem dX3_visitor_13 : decode cX3_visitor 13 = .ok (.ireturn, 1) := dk_172 (dk_at dksX3_visitor_0 13 rfl rfl)
abbrev cX3_visitorIt : ByteArray := prog_10_method_33_code
def yX3_visitorIt : MethodName := ⟨RX3, "visitorIt", "(I)I"⟩
def dkwX3_visitorIt_5 : List UInt8 := [79, 42, 180, 0, 9, 4, 46, 4, 100, 172]
abbrev dktX3_visitorIt_5 : List UInt8 := dkwX3_visitorIt_5 ++ []
def dkwX3_visitorIt_4 : List UInt8 := [29, 7, 96, 2, 79, 42, 180, 0, 9, 7, 92, 46, 27, 96, 79, 42, 180, 0, 9, 4, 92, 46, 4, 96]
abbrev dktX3_visitorIt_4 : List UInt8 := dkwX3_visitorIt_4 ++ dktX3_visitorIt_5
def dkwX3_visitorIt_3 : List UInt8 := [184, 0, 126, 62, 42, 180, 0, 9, 29, 27, 79, 42, 180, 0, 9, 29, 6, 96, 28, 79, 42, 180, 0, 9]
abbrev dktX3_visitorIt_3 : List UInt8 := dkwX3_visitorIt_3 ++ dktX3_visitorIt_4
def dkwX3_visitorIt_2 : List UInt8 := [160, 0, 18, 42, 16, 6, 42, 3, 182, 0, 145, 184, 0, 148, 182, 0, 91, 172, 42, 180, 0, 9, 4, 46]
abbrev dktX3_visitorIt_2 : List UInt8 := dkwX3_visitorIt_2 ++ dktX3_visitorIt_3
def dkwX3_visitorIt_1 : List UInt8 := [46, 8, 160, 0, 11, 42, 16, 13, 8, 182, 0, 91, 172, 42, 3, 16, 15, 182, 0, 142, 61, 28, 2]
abbrev dktX3_visitorIt_1 : List UInt8 := dkwX3_visitorIt_1 ++ dktX3_visitorIt_2
def dkwX3_visitorIt_0 : List UInt8 := [27, 133, 9, 20, 0, 137, 184, 0, 59, 154, 0, 10, 42, 4, 3, 182, 0, 91, 172, 42, 180, 0, 9, 4]
abbrev dktX3_visitorIt_0 : List UInt8 := dkwX3_visitorIt_0 ++ dktX3_visitorIt_1
theorem dksX3_visitorIt_0 : cX3_visitorIt.data.toList.drop 0 = dktX3_visitorIt_0 := by decide +kernel
theorem dksX3_visitorIt_1 : cX3_visitorIt.data.toList.drop 24 = dktX3_visitorIt_1 := dk_seg dksX3_visitorIt_0 24 rfl rfl
theorem dksX3_visitorIt_2 : cX3_visitorIt.data.toList.drop 47 = dktX3_visitorIt_2 := dk_seg dksX3_visitorIt_1 23 rfl rfl
theorem dksX3_visitorIt_3 : cX3_visitorIt.data.toList.drop 71 = dktX3_visitorIt_3 := dk_seg dksX3_visitorIt_2 24 rfl rfl
theorem dksX3_visitorIt_4 : cX3_visitorIt.data.toList.drop 95 = dktX3_visitorIt_4 := dk_seg dksX3_visitorIt_3 24 rfl rfl
theorem dksX3_visitorIt_5 : cX3_visitorIt.data.toList.drop 119 = dktX3_visitorIt_5 := dk_seg dksX3_visitorIt_4 24 rfl rfl
theorem dX3_visitorIt_0 : decode cX3_visitorIt 0 = .ok (.iload_n 1, 1) := dk_27 (dk_at dksX3_visitorIt_0 0 rfl rfl)
theorem dX3_visitorIt_1 : decode cX3_visitorIt 1 = .ok (.i2l, 1) := dk_133 (dk_at dksX3_visitorIt_0 1 rfl rfl)
theorem dX3_visitorIt_2 : decode cX3_visitorIt 2 = .ok (.lconst 0, 1) := dk_9 (dk_at dksX3_visitorIt_0 2 rfl rfl)
theorem dX3_visitorIt_3 : decode cX3_visitorIt 3 = .ok (.ldc2_w 137, 3) := dk_20 0 137 (dk_at dksX3_visitorIt_0 3 rfl rfl)
theorem dX3_visitorIt_6 : decode cX3_visitorIt 6 = .ok (.invokestatic 59, 3) := dk_184 0 59 (dk_at dksX3_visitorIt_0 6 rfl rfl)
theorem dX3_visitorIt_9 : decode cX3_visitorIt 9 = .ok (.ifCond .ne 10, 3) := dk_154 0 10 (dk_at dksX3_visitorIt_0 9 rfl rfl)
theorem dX3_visitorIt_12 : decode cX3_visitorIt 12 = .ok (.aload_n 0, 1) := dk_42 (dk_at dksX3_visitorIt_0 12 rfl rfl)
theorem dX3_visitorIt_13 : decode cX3_visitorIt 13 = .ok (.iconst 1, 1) := dk_4 (dk_at dksX3_visitorIt_0 13 rfl rfl)
theorem dX3_visitorIt_14 : decode cX3_visitorIt 14 = .ok (.iconst 0, 1) := dk_3 (dk_at dksX3_visitorIt_0 14 rfl rfl)
theorem dX3_visitorIt_15 : decode cX3_visitorIt 15 = .ok (.invokevirtual 91, 3) := dk_182 0 91 (dk_at dksX3_visitorIt_0 15 rfl rfl)
theorem dX3_visitorIt_18 : decode cX3_visitorIt 18 = .ok (.ireturn, 1) := dk_172 (dk_at dksX3_visitorIt_0 18 rfl rfl)
theorem dX3_visitorIt_19 : decode cX3_visitorIt 19 = .ok (.aload_n 0, 1) := dk_42 (dk_at dksX3_visitorIt_0 19 rfl rfl)
theorem dX3_visitorIt_20 : decode cX3_visitorIt 20 = .ok (.getfield 9, 3) := dk_180 0 9 (dk_at dksX3_visitorIt_0 20 rfl rfl)
theorem dX3_visitorIt_23 : decode cX3_visitorIt 23 = .ok (.iconst 1, 1) := dk_4 (dk_at dksX3_visitorIt_0 23 rfl rfl)
theorem dX3_visitorIt_24 : decode cX3_visitorIt 24 = .ok (.iaload, 1) := dk_46 (dk_at dksX3_visitorIt_1 0 rfl rfl)
theorem dX3_visitorIt_25 : decode cX3_visitorIt 25 = .ok (.iconst 5, 1) := dk_8 (dk_at dksX3_visitorIt_1 1 rfl rfl)
theorem dX3_visitorIt_26 : decode cX3_visitorIt 26 = .ok (.if_icmp .ne 11, 3) := dk_160 0 11 (dk_at dksX3_visitorIt_1 2 rfl rfl)
theorem dX3_visitorIt_29 : decode cX3_visitorIt 29 = .ok (.aload_n 0, 1) := dk_42 (dk_at dksX3_visitorIt_1 5 rfl rfl)
theorem dX3_visitorIt_30 : decode cX3_visitorIt 30 = .ok (.bipush 13, 2) := dk_16 13 (dk_at dksX3_visitorIt_1 6 rfl rfl)
theorem dX3_visitorIt_32 : decode cX3_visitorIt 32 = .ok (.iconst 5, 1) := dk_8 (dk_at dksX3_visitorIt_1 8 rfl rfl)
theorem dX3_visitorIt_33 : decode cX3_visitorIt 33 = .ok (.invokevirtual 91, 3) := dk_182 0 91 (dk_at dksX3_visitorIt_1 9 rfl rfl)
theorem dX3_visitorIt_36 : decode cX3_visitorIt 36 = .ok (.ireturn, 1) := dk_172 (dk_at dksX3_visitorIt_1 12 rfl rfl)
theorem dX3_visitorIt_37 : decode cX3_visitorIt 37 = .ok (.aload_n 0, 1) := dk_42 (dk_at dksX3_visitorIt_1 13 rfl rfl)
theorem dX3_visitorIt_38 : decode cX3_visitorIt 38 = .ok (.iconst 0, 1) := dk_3 (dk_at dksX3_visitorIt_1 14 rfl rfl)
theorem dX3_visitorIt_39 : decode cX3_visitorIt 39 = .ok (.bipush 15, 2) := dk_16 15 (dk_at dksX3_visitorIt_1 15 rfl rfl)
theorem dX3_visitorIt_41 : decode cX3_visitorIt 41 = .ok (.invokevirtual 142, 3) := dk_182 0 142 (dk_at dksX3_visitorIt_1 17 rfl rfl)
theorem dX3_visitorIt_44 : decode cX3_visitorIt 44 = .ok (.istore_n 2, 1) := dk_61 (dk_at dksX3_visitorIt_1 20 rfl rfl)
theorem dX3_visitorIt_45 : decode cX3_visitorIt 45 = .ok (.iload_n 2, 1) := dk_28 (dk_at dksX3_visitorIt_1 21 rfl rfl)
theorem dX3_visitorIt_46 : decode cX3_visitorIt 46 = .ok (.iconst (-1), 1) := dk_2 (dk_at dksX3_visitorIt_1 22 rfl rfl)
theorem dX3_visitorIt_47 : decode cX3_visitorIt 47 = .ok (.if_icmp .ne 18, 3) := dk_160 0 18 (dk_at dksX3_visitorIt_2 0 rfl rfl)
theorem dX3_visitorIt_50 : decode cX3_visitorIt 50 = .ok (.aload_n 0, 1) := dk_42 (dk_at dksX3_visitorIt_2 3 rfl rfl)
theorem dX3_visitorIt_51 : decode cX3_visitorIt 51 = .ok (.bipush 6, 2) := dk_16 6 (dk_at dksX3_visitorIt_2 4 rfl rfl)
theorem dX3_visitorIt_53 : decode cX3_visitorIt 53 = .ok (.aload_n 0, 1) := dk_42 (dk_at dksX3_visitorIt_2 6 rfl rfl)
theorem dX3_visitorIt_54 : decode cX3_visitorIt 54 = .ok (.iconst 0, 1) := dk_3 (dk_at dksX3_visitorIt_2 7 rfl rfl)
theorem dX3_visitorIt_55 : decode cX3_visitorIt 55 = .ok (.invokevirtual 145, 3) := dk_182 0 145 (dk_at dksX3_visitorIt_2 8 rfl rfl)
theorem dX3_visitorIt_58 : decode cX3_visitorIt 58 = .ok (.invokestatic 148, 3) := dk_184 0 148 (dk_at dksX3_visitorIt_2 11 rfl rfl)
theorem dX3_visitorIt_61 : decode cX3_visitorIt 61 = .ok (.invokevirtual 91, 3) := dk_182 0 91 (dk_at dksX3_visitorIt_2 14 rfl rfl)
theorem dX3_visitorIt_64 : decode cX3_visitorIt 64 = .ok (.ireturn, 1) := dk_172 (dk_at dksX3_visitorIt_2 17 rfl rfl)
theorem dX3_visitorIt_65 : decode cX3_visitorIt 65 = .ok (.aload_n 0, 1) := dk_42 (dk_at dksX3_visitorIt_2 18 rfl rfl)
theorem dX3_visitorIt_66 : decode cX3_visitorIt 66 = .ok (.getfield 9, 3) := dk_180 0 9 (dk_at dksX3_visitorIt_2 19 rfl rfl)
theorem dX3_visitorIt_69 : decode cX3_visitorIt 69 = .ok (.iconst 1, 1) := dk_4 (dk_at dksX3_visitorIt_2 22 rfl rfl)
theorem dX3_visitorIt_70 : decode cX3_visitorIt 70 = .ok (.iaload, 1) := dk_46 (dk_at dksX3_visitorIt_2 23 rfl rfl)
theorem dX3_visitorIt_71 : decode cX3_visitorIt 71 = .ok (.invokestatic 126, 3) := dk_184 0 126 (dk_at dksX3_visitorIt_3 0 rfl rfl)
theorem dX3_visitorIt_74 : decode cX3_visitorIt 74 = .ok (.istore_n 3, 1) := dk_62 (dk_at dksX3_visitorIt_3 3 rfl rfl)
theorem dX3_visitorIt_75 : decode cX3_visitorIt 75 = .ok (.aload_n 0, 1) := dk_42 (dk_at dksX3_visitorIt_3 4 rfl rfl)
theorem dX3_visitorIt_76 : decode cX3_visitorIt 76 = .ok (.getfield 9, 3) := dk_180 0 9 (dk_at dksX3_visitorIt_3 5 rfl rfl)
theorem dX3_visitorIt_79 : decode cX3_visitorIt 79 = .ok (.iload_n 3, 1) := dk_29 (dk_at dksX3_visitorIt_3 8 rfl rfl)
theorem dX3_visitorIt_80 : decode cX3_visitorIt 80 = .ok (.iload_n 1, 1) := dk_27 (dk_at dksX3_visitorIt_3 9 rfl rfl)
theorem dX3_visitorIt_81 : decode cX3_visitorIt 81 = .ok (.iastore, 1) := dk_79 (dk_at dksX3_visitorIt_3 10 rfl rfl)
theorem dX3_visitorIt_82 : decode cX3_visitorIt 82 = .ok (.aload_n 0, 1) := dk_42 (dk_at dksX3_visitorIt_3 11 rfl rfl)
theorem dX3_visitorIt_83 : decode cX3_visitorIt 83 = .ok (.getfield 9, 3) := dk_180 0 9 (dk_at dksX3_visitorIt_3 12 rfl rfl)
theorem dX3_visitorIt_86 : decode cX3_visitorIt 86 = .ok (.iload_n 3, 1) := dk_29 (dk_at dksX3_visitorIt_3 15 rfl rfl)
theorem dX3_visitorIt_87 : decode cX3_visitorIt 87 = .ok (.iconst 3, 1) := dk_6 (dk_at dksX3_visitorIt_3 16 rfl rfl)
theorem dX3_visitorIt_88 : decode cX3_visitorIt 88 = .ok (.iadd, 1) := dk_96 (dk_at dksX3_visitorIt_3 17 rfl rfl)
theorem dX3_visitorIt_89 : decode cX3_visitorIt 89 = .ok (.iload_n 2, 1) := dk_28 (dk_at dksX3_visitorIt_3 18 rfl rfl)
theorem dX3_visitorIt_90 : decode cX3_visitorIt 90 = .ok (.iastore, 1) := dk_79 (dk_at dksX3_visitorIt_3 19 rfl rfl)
theorem dX3_visitorIt_91 : decode cX3_visitorIt 91 = .ok (.aload_n 0, 1) := dk_42 (dk_at dksX3_visitorIt_3 20 rfl rfl)
theorem dX3_visitorIt_92 : decode cX3_visitorIt 92 = .ok (.getfield 9, 3) := dk_180 0 9 (dk_at dksX3_visitorIt_3 21 rfl rfl)
theorem dX3_visitorIt_95 : decode cX3_visitorIt 95 = .ok (.iload_n 3, 1) := dk_29 (dk_at dksX3_visitorIt_4 0 rfl rfl)
theorem dX3_visitorIt_96 : decode cX3_visitorIt 96 = .ok (.iconst 4, 1) := dk_7 (dk_at dksX3_visitorIt_4 1 rfl rfl)
theorem dX3_visitorIt_97 : decode cX3_visitorIt 97 = .ok (.iadd, 1) := dk_96 (dk_at dksX3_visitorIt_4 2 rfl rfl)
theorem dX3_visitorIt_98 : decode cX3_visitorIt 98 = .ok (.iconst (-1), 1) := dk_2 (dk_at dksX3_visitorIt_4 3 rfl rfl)
theorem dX3_visitorIt_99 : decode cX3_visitorIt 99 = .ok (.iastore, 1) := dk_79 (dk_at dksX3_visitorIt_4 4 rfl rfl)
theorem dX3_visitorIt_100 : decode cX3_visitorIt 100 = .ok (.aload_n 0, 1) := dk_42 (dk_at dksX3_visitorIt_4 5 rfl rfl)
theorem dX3_visitorIt_101 : decode cX3_visitorIt 101 = .ok (.getfield 9, 3) := dk_180 0 9 (dk_at dksX3_visitorIt_4 6 rfl rfl)
theorem dX3_visitorIt_104 : decode cX3_visitorIt 104 = .ok (.iconst 4, 1) := dk_7 (dk_at dksX3_visitorIt_4 9 rfl rfl)
theorem dX3_visitorIt_105 : decode cX3_visitorIt 105 = .ok (.dup2, 1) := dk_92 (dk_at dksX3_visitorIt_4 10 rfl rfl)
theorem dX3_visitorIt_106 : decode cX3_visitorIt 106 = .ok (.iaload, 1) := dk_46 (dk_at dksX3_visitorIt_4 11 rfl rfl)
theorem dX3_visitorIt_107 : decode cX3_visitorIt 107 = .ok (.iload_n 1, 1) := dk_27 (dk_at dksX3_visitorIt_4 12 rfl rfl)
theorem dX3_visitorIt_108 : decode cX3_visitorIt 108 = .ok (.iadd, 1) := dk_96 (dk_at dksX3_visitorIt_4 13 rfl rfl)
theorem dX3_visitorIt_109 : decode cX3_visitorIt 109 = .ok (.iastore, 1) := dk_79 (dk_at dksX3_visitorIt_4 14 rfl rfl)
theorem dX3_visitorIt_110 : decode cX3_visitorIt 110 = .ok (.aload_n 0, 1) := dk_42 (dk_at dksX3_visitorIt_4 15 rfl rfl)
theorem dX3_visitorIt_111 : decode cX3_visitorIt 111 = .ok (.getfield 9, 3) := dk_180 0 9 (dk_at dksX3_visitorIt_4 16 rfl rfl)
theorem dX3_visitorIt_114 : decode cX3_visitorIt 114 = .ok (.iconst 1, 1) := dk_4 (dk_at dksX3_visitorIt_4 19 rfl rfl)
theorem dX3_visitorIt_115 : decode cX3_visitorIt 115 = .ok (.dup2, 1) := dk_92 (dk_at dksX3_visitorIt_4 20 rfl rfl)
theorem dX3_visitorIt_116 : decode cX3_visitorIt 116 = .ok (.iaload, 1) := dk_46 (dk_at dksX3_visitorIt_4 21 rfl rfl)
theorem dX3_visitorIt_117 : decode cX3_visitorIt 117 = .ok (.iconst 1, 1) := dk_4 (dk_at dksX3_visitorIt_4 22 rfl rfl)
theorem dX3_visitorIt_118 : decode cX3_visitorIt 118 = .ok (.iadd, 1) := dk_96 (dk_at dksX3_visitorIt_4 23 rfl rfl)
theorem dX3_visitorIt_119 : decode cX3_visitorIt 119 = .ok (.iastore, 1) := dk_79 (dk_at dksX3_visitorIt_5 0 rfl rfl)
theorem dX3_visitorIt_120 : decode cX3_visitorIt 120 = .ok (.aload_n 0, 1) := dk_42 (dk_at dksX3_visitorIt_5 1 rfl rfl)
theorem dX3_visitorIt_121 : decode cX3_visitorIt 121 = .ok (.getfield 9, 3) := dk_180 0 9 (dk_at dksX3_visitorIt_5 2 rfl rfl)
theorem dX3_visitorIt_124 : decode cX3_visitorIt 124 = .ok (.iconst 1, 1) := dk_4 (dk_at dksX3_visitorIt_5 5 rfl rfl)
theorem dX3_visitorIt_125 : decode cX3_visitorIt 125 = .ok (.iaload, 1) := dk_46 (dk_at dksX3_visitorIt_5 6 rfl rfl)
theorem dX3_visitorIt_126 : decode cX3_visitorIt 126 = .ok (.iconst 1, 1) := dk_4 (dk_at dksX3_visitorIt_5 7 rfl rfl)
theorem dX3_visitorIt_127 : decode cX3_visitorIt 127 = .ok (.isub, 1) := dk_100 (dk_at dksX3_visitorIt_5 8 rfl rfl)
theorem dX3_visitorIt_128 : decode cX3_visitorIt 128 = .ok (.ireturn, 1) := dk_172 (dk_at dksX3_visitorIt_5 9 rfl rfl)
abbrev cX3_hoursOf : ByteArray := prog_10_method_17_code
def yX3_hoursOf : MethodName := ⟨RX3, "hoursOf", "(II)I"⟩
def dkwX3_hoursOf_1 : List UInt8 := [180, 0, 29, 28, 46, 172]
abbrev dktX3_hoursOf_1 : List UInt8 := dkwX3_hoursOf_1 ++ []
def dkwX3_hoursOf_0 : List UInt8 := [42, 27, 3, 182, 0, 84, 42, 180, 0, 29, 28, 46, 16, 99, 161, 0, 7, 2, 167, 0, 9, 42]
abbrev dktX3_hoursOf_0 : List UInt8 := dkwX3_hoursOf_0 ++ dktX3_hoursOf_1
theorem dksX3_hoursOf_0 : cX3_hoursOf.data.toList.drop 0 = dktX3_hoursOf_0 := by decide +kernel
theorem dksX3_hoursOf_1 : cX3_hoursOf.data.toList.drop 22 = dktX3_hoursOf_1 := dk_seg dksX3_hoursOf_0 22 rfl rfl
theorem dX3_hoursOf_0 : decode cX3_hoursOf 0 = .ok (.aload_n 0, 1) := dk_42 (dk_at dksX3_hoursOf_0 0 rfl rfl)
theorem dX3_hoursOf_1 : decode cX3_hoursOf 1 = .ok (.iload_n 1, 1) := dk_27 (dk_at dksX3_hoursOf_0 1 rfl rfl)
theorem dX3_hoursOf_2 : decode cX3_hoursOf 2 = .ok (.iconst 0, 1) := dk_3 (dk_at dksX3_hoursOf_0 2 rfl rfl)
theorem dX3_hoursOf_3 : decode cX3_hoursOf 3 = .ok (.invokevirtual 84, 3) := dk_182 0 84 (dk_at dksX3_hoursOf_0 3 rfl rfl)
theorem dX3_hoursOf_6 : decode cX3_hoursOf 6 = .ok (.aload_n 0, 1) := dk_42 (dk_at dksX3_hoursOf_0 6 rfl rfl)
theorem dX3_hoursOf_7 : decode cX3_hoursOf 7 = .ok (.getfield 29, 3) := dk_180 0 29 (dk_at dksX3_hoursOf_0 7 rfl rfl)
theorem dX3_hoursOf_10 : decode cX3_hoursOf 10 = .ok (.iload_n 2, 1) := dk_28 (dk_at dksX3_hoursOf_0 10 rfl rfl)
theorem dX3_hoursOf_11 : decode cX3_hoursOf 11 = .ok (.iaload, 1) := dk_46 (dk_at dksX3_hoursOf_0 11 rfl rfl)
theorem dX3_hoursOf_12 : decode cX3_hoursOf 12 = .ok (.bipush 99, 2) := dk_16 99 (dk_at dksX3_hoursOf_0 12 rfl rfl)
theorem dX3_hoursOf_14 : decode cX3_hoursOf 14 = .ok (.if_icmp .lt 7, 3) := dk_161 0 7 (dk_at dksX3_hoursOf_0 14 rfl rfl)
theorem dX3_hoursOf_17 : decode cX3_hoursOf 17 = .ok (.iconst (-1), 1) := dk_2 (dk_at dksX3_hoursOf_0 17 rfl rfl)
theorem dX3_hoursOf_18 : decode cX3_hoursOf 18 = .ok (.goto 9, 3) := dk_167 0 9 (dk_at dksX3_hoursOf_0 18 rfl rfl)
theorem dX3_hoursOf_21 : decode cX3_hoursOf 21 = .ok (.aload_n 0, 1) := dk_42 (dk_at dksX3_hoursOf_0 21 rfl rfl)
theorem dX3_hoursOf_22 : decode cX3_hoursOf 22 = .ok (.getfield 29, 3) := dk_180 0 29 (dk_at dksX3_hoursOf_1 0 rfl rfl)
theorem dX3_hoursOf_25 : decode cX3_hoursOf 25 = .ok (.iload_n 2, 1) := dk_28 (dk_at dksX3_hoursOf_1 3 rfl rfl)
theorem dX3_hoursOf_26 : decode cX3_hoursOf 26 = .ok (.iaload, 1) := dk_46 (dk_at dksX3_hoursOf_1 4 rfl rfl)
theorem dX3_hoursOf_27 : decode cX3_hoursOf 27 = .ok (.ireturn, 1) := dk_172 (dk_at dksX3_hoursOf_1 5 rfl rfl)
abbrev cX3_laysWays : ByteArray := prog_10_method_16_code
def yX3_laysWays : MethodName := ⟨RX3, "laysWays", "(IZ)V"⟩
def dkwX3_laysWays_7 : List UInt8 := [132, 4, 1, 167, 255, 132, 132, 3, 1, 167, 255, 117, 177]
abbrev dktX3_laysWays_7 : List UInt8 := dkwX3_laysWays_7 ++ []
def dkwX3_laysWays_6 : List UInt8 := [21, 6, 46, 42, 180, 0, 29, 21, 4, 46, 21, 8, 96, 184, 0, 65, 79, 132, 5, 1, 167, 255, 148]
abbrev dktX3_laysWays_6 : List UInt8 := dkwX3_laysWays_6 ++ dktX3_laysWays_7
def dkwX3_laysWays_5 : List UInt8 := [167, 0, 5, 16, 99, 54, 8, 21, 6, 2, 159, 0, 30, 42, 180, 0, 29, 21, 6, 42, 180, 0, 29]
abbrev dktX3_laysWays_5 : List UInt8 := dkwX3_laysWays_5 ++ dktX3_laysWays_6
def dkwX3_laysWays_4 : List UInt8 := [28, 153, 0, 16, 21, 7, 153, 0, 7, 3, 167, 0, 18, 4, 167, 0, 14, 21, 7, 153, 0, 7, 4]
abbrev dktX3_laysWays_4 : List UInt8 := dkwX3_laysWays_4 ++ dktX3_laysWays_5
def dkwX3_laysWays_3 : List UInt8 := [159, 0, 21, 42, 21, 4, 21, 6, 184, 0, 77, 182, 0, 80, 153, 0, 7, 4, 167, 0, 4, 3, 54, 7]
abbrev dktX3_laysWays_3 : List UInt8 := dkwX3_laysWays_3 ++ dktX3_laysWays_4
def dkwX3_laysWays_2 : List UInt8 := [162, 0, 123, 3, 54, 5, 21, 5, 7, 162, 0, 108, 21, 4, 21, 5, 184, 0, 74, 54, 6, 21, 6, 2]
abbrev dktX3_laysWays_2 : List UInt8 := dkwX3_laysWays_2 ++ dktX3_laysWays_3
def dkwX3_laysWays_1 : List UInt8 := [79, 132, 3, 1, 167, 255, 230, 3, 62, 29, 16, 16, 162, 0, 139, 3, 54, 4, 21, 4, 16, 16]
abbrev dktX3_laysWays_1 : List UInt8 := dkwX3_laysWays_1 ++ dktX3_laysWays_2
def dkwX3_laysWays_0 : List UInt8 := [3, 62, 29, 16, 16, 162, 0, 26, 42, 180, 0, 29, 29, 29, 27, 160, 0, 7, 3, 167, 0, 5, 16, 99]
abbrev dktX3_laysWays_0 : List UInt8 := dkwX3_laysWays_0 ++ dktX3_laysWays_1
theorem dksX3_laysWays_0 : cX3_laysWays.data.toList.drop 0 = dktX3_laysWays_0 := by decide +kernel
theorem dksX3_laysWays_1 : cX3_laysWays.data.toList.drop 24 = dktX3_laysWays_1 := dk_seg dksX3_laysWays_0 24 rfl rfl
theorem dksX3_laysWays_2 : cX3_laysWays.data.toList.drop 46 = dktX3_laysWays_2 := dk_seg dksX3_laysWays_1 22 rfl rfl
theorem dksX3_laysWays_3 : cX3_laysWays.data.toList.drop 70 = dktX3_laysWays_3 := dk_seg dksX3_laysWays_2 24 rfl rfl
theorem dksX3_laysWays_4 : cX3_laysWays.data.toList.drop 94 = dktX3_laysWays_4 := dk_seg dksX3_laysWays_3 24 rfl rfl
theorem dksX3_laysWays_5 : cX3_laysWays.data.toList.drop 117 = dktX3_laysWays_5 := dk_seg dksX3_laysWays_4 23 rfl rfl
theorem dksX3_laysWays_6 : cX3_laysWays.data.toList.drop 140 = dktX3_laysWays_6 := dk_seg dksX3_laysWays_5 23 rfl rfl
theorem dksX3_laysWays_7 : cX3_laysWays.data.toList.drop 163 = dktX3_laysWays_7 := dk_seg dksX3_laysWays_6 23 rfl rfl
theorem dX3_laysWays_0 : decode cX3_laysWays 0 = .ok (.iconst 0, 1) := dk_3 (dk_at dksX3_laysWays_0 0 rfl rfl)
theorem dX3_laysWays_1 : decode cX3_laysWays 1 = .ok (.istore_n 3, 1) := dk_62 (dk_at dksX3_laysWays_0 1 rfl rfl)
theorem dX3_laysWays_2 : decode cX3_laysWays 2 = .ok (.iload_n 3, 1) := dk_29 (dk_at dksX3_laysWays_0 2 rfl rfl)
theorem dX3_laysWays_3 : decode cX3_laysWays 3 = .ok (.bipush 16, 2) := dk_16 16 (dk_at dksX3_laysWays_0 3 rfl rfl)
theorem dX3_laysWays_5 : decode cX3_laysWays 5 = .ok (.if_icmp .ge 26, 3) := dk_162 0 26 (dk_at dksX3_laysWays_0 5 rfl rfl)
theorem dX3_laysWays_8 : decode cX3_laysWays 8 = .ok (.aload_n 0, 1) := dk_42 (dk_at dksX3_laysWays_0 8 rfl rfl)
theorem dX3_laysWays_9 : decode cX3_laysWays 9 = .ok (.getfield 29, 3) := dk_180 0 29 (dk_at dksX3_laysWays_0 9 rfl rfl)
theorem dX3_laysWays_12 : decode cX3_laysWays 12 = .ok (.iload_n 3, 1) := dk_29 (dk_at dksX3_laysWays_0 12 rfl rfl)
theorem dX3_laysWays_13 : decode cX3_laysWays 13 = .ok (.iload_n 3, 1) := dk_29 (dk_at dksX3_laysWays_0 13 rfl rfl)
theorem dX3_laysWays_14 : decode cX3_laysWays 14 = .ok (.iload_n 1, 1) := dk_27 (dk_at dksX3_laysWays_0 14 rfl rfl)
theorem dX3_laysWays_15 : decode cX3_laysWays 15 = .ok (.if_icmp .ne 7, 3) := dk_160 0 7 (dk_at dksX3_laysWays_0 15 rfl rfl)
theorem dX3_laysWays_18 : decode cX3_laysWays 18 = .ok (.iconst 0, 1) := dk_3 (dk_at dksX3_laysWays_0 18 rfl rfl)
theorem dX3_laysWays_19 : decode cX3_laysWays 19 = .ok (.goto 5, 3) := dk_167 0 5 (dk_at dksX3_laysWays_0 19 rfl rfl)
theorem dX3_laysWays_22 : decode cX3_laysWays 22 = .ok (.bipush 99, 2) := dk_16 99 (dk_at dksX3_laysWays_0 22 rfl rfl)
theorem dX3_laysWays_24 : decode cX3_laysWays 24 = .ok (.iastore, 1) := dk_79 (dk_at dksX3_laysWays_1 0 rfl rfl)
theorem dX3_laysWays_25 : decode cX3_laysWays 25 = .ok (.iinc 3 1, 3) := dk_132 3 1 (dk_at dksX3_laysWays_1 1 rfl rfl)
theorem dX3_laysWays_28 : decode cX3_laysWays 28 = .ok (.goto (-26), 3) := dk_167 255 230 (dk_at dksX3_laysWays_1 4 rfl rfl)
theorem dX3_laysWays_31 : decode cX3_laysWays 31 = .ok (.iconst 0, 1) := dk_3 (dk_at dksX3_laysWays_1 7 rfl rfl)
theorem dX3_laysWays_32 : decode cX3_laysWays 32 = .ok (.istore_n 3, 1) := dk_62 (dk_at dksX3_laysWays_1 8 rfl rfl)
theorem dX3_laysWays_33 : decode cX3_laysWays 33 = .ok (.iload_n 3, 1) := dk_29 (dk_at dksX3_laysWays_1 9 rfl rfl)
theorem dX3_laysWays_34 : decode cX3_laysWays 34 = .ok (.bipush 16, 2) := dk_16 16 (dk_at dksX3_laysWays_1 10 rfl rfl)
theorem dX3_laysWays_36 : decode cX3_laysWays 36 = .ok (.if_icmp .ge 139, 3) := dk_162 0 139 (dk_at dksX3_laysWays_1 12 rfl rfl)
theorem dX3_laysWays_39 : decode cX3_laysWays 39 = .ok (.iconst 0, 1) := dk_3 (dk_at dksX3_laysWays_1 15 rfl rfl)
theorem dX3_laysWays_40 : decode cX3_laysWays 40 = .ok (.istore 4, 2) := dk_54 4 (dk_at dksX3_laysWays_1 16 rfl rfl)
theorem dX3_laysWays_42 : decode cX3_laysWays 42 = .ok (.iload 4, 2) := dk_21 4 (dk_at dksX3_laysWays_1 18 rfl rfl)
theorem dX3_laysWays_44 : decode cX3_laysWays 44 = .ok (.bipush 16, 2) := dk_16 16 (dk_at dksX3_laysWays_1 20 rfl rfl)
theorem dX3_laysWays_46 : decode cX3_laysWays 46 = .ok (.if_icmp .ge 123, 3) := dk_162 0 123 (dk_at dksX3_laysWays_2 0 rfl rfl)
theorem dX3_laysWays_49 : decode cX3_laysWays 49 = .ok (.iconst 0, 1) := dk_3 (dk_at dksX3_laysWays_2 3 rfl rfl)
theorem dX3_laysWays_50 : decode cX3_laysWays 50 = .ok (.istore 5, 2) := dk_54 5 (dk_at dksX3_laysWays_2 4 rfl rfl)
theorem dX3_laysWays_52 : decode cX3_laysWays 52 = .ok (.iload 5, 2) := dk_21 5 (dk_at dksX3_laysWays_2 6 rfl rfl)
theorem dX3_laysWays_54 : decode cX3_laysWays 54 = .ok (.iconst 4, 1) := dk_7 (dk_at dksX3_laysWays_2 8 rfl rfl)
theorem dX3_laysWays_55 : decode cX3_laysWays 55 = .ok (.if_icmp .ge 108, 3) := dk_162 0 108 (dk_at dksX3_laysWays_2 9 rfl rfl)
theorem dX3_laysWays_58 : decode cX3_laysWays 58 = .ok (.iload 4, 2) := dk_21 4 (dk_at dksX3_laysWays_2 12 rfl rfl)
theorem dX3_laysWays_60 : decode cX3_laysWays 60 = .ok (.iload 5, 2) := dk_21 5 (dk_at dksX3_laysWays_2 14 rfl rfl)
theorem dX3_laysWays_62 : decode cX3_laysWays 62 = .ok (.invokestatic 74, 3) := dk_184 0 74 (dk_at dksX3_laysWays_2 16 rfl rfl)
theorem dX3_laysWays_65 : decode cX3_laysWays 65 = .ok (.istore 6, 2) := dk_54 6 (dk_at dksX3_laysWays_2 19 rfl rfl)
theorem dX3_laysWays_67 : decode cX3_laysWays 67 = .ok (.iload 6, 2) := dk_21 6 (dk_at dksX3_laysWays_2 21 rfl rfl)
theorem dX3_laysWays_69 : decode cX3_laysWays 69 = .ok (.iconst (-1), 1) := dk_2 (dk_at dksX3_laysWays_2 23 rfl rfl)
theorem dX3_laysWays_70 : decode cX3_laysWays 70 = .ok (.if_icmp .eq 21, 3) := dk_159 0 21 (dk_at dksX3_laysWays_3 0 rfl rfl)
theorem dX3_laysWays_73 : decode cX3_laysWays 73 = .ok (.aload_n 0, 1) := dk_42 (dk_at dksX3_laysWays_3 3 rfl rfl)
theorem dX3_laysWays_74 : decode cX3_laysWays 74 = .ok (.iload 4, 2) := dk_21 4 (dk_at dksX3_laysWays_3 4 rfl rfl)
theorem dX3_laysWays_76 : decode cX3_laysWays 76 = .ok (.iload 6, 2) := dk_21 6 (dk_at dksX3_laysWays_3 6 rfl rfl)
theorem dX3_laysWays_78 : decode cX3_laysWays 78 = .ok (.invokestatic 77, 3) := dk_184 0 77 (dk_at dksX3_laysWays_3 8 rfl rfl)
theorem dX3_laysWays_81 : decode cX3_laysWays 81 = .ok (.invokevirtual 80, 3) := dk_182 0 80 (dk_at dksX3_laysWays_3 11 rfl rfl)
theorem dX3_laysWays_84 : decode cX3_laysWays 84 = .ok (.ifCond .eq 7, 3) := dk_153 0 7 (dk_at dksX3_laysWays_3 14 rfl rfl)
theorem dX3_laysWays_87 : decode cX3_laysWays 87 = .ok (.iconst 1, 1) := dk_4 (dk_at dksX3_laysWays_3 17 rfl rfl)
theorem dX3_laysWays_88 : decode cX3_laysWays 88 = .ok (.goto 4, 3) := dk_167 0 4 (dk_at dksX3_laysWays_3 18 rfl rfl)
theorem dX3_laysWays_91 : decode cX3_laysWays 91 = .ok (.iconst 0, 1) := dk_3 (dk_at dksX3_laysWays_3 21 rfl rfl)
theorem dX3_laysWays_92 : decode cX3_laysWays 92 = .ok (.istore 7, 2) := dk_54 7 (dk_at dksX3_laysWays_3 22 rfl rfl)
theorem dX3_laysWays_94 : decode cX3_laysWays 94 = .ok (.iload_n 2, 1) := dk_28 (dk_at dksX3_laysWays_4 0 rfl rfl)
theorem dX3_laysWays_95 : decode cX3_laysWays 95 = .ok (.ifCond .eq 16, 3) := dk_153 0 16 (dk_at dksX3_laysWays_4 1 rfl rfl)
theorem dX3_laysWays_98 : decode cX3_laysWays 98 = .ok (.iload 7, 2) := dk_21 7 (dk_at dksX3_laysWays_4 4 rfl rfl)
theorem dX3_laysWays_100 : decode cX3_laysWays 100 = .ok (.ifCond .eq 7, 3) := dk_153 0 7 (dk_at dksX3_laysWays_4 6 rfl rfl)
theorem dX3_laysWays_103 : decode cX3_laysWays 103 = .ok (.iconst 0, 1) := dk_3 (dk_at dksX3_laysWays_4 9 rfl rfl)
theorem dX3_laysWays_104 : decode cX3_laysWays 104 = .ok (.goto 18, 3) := dk_167 0 18 (dk_at dksX3_laysWays_4 10 rfl rfl)
theorem dX3_laysWays_107 : decode cX3_laysWays 107 = .ok (.iconst 1, 1) := dk_4 (dk_at dksX3_laysWays_4 13 rfl rfl)
theorem dX3_laysWays_108 : decode cX3_laysWays 108 = .ok (.goto 14, 3) := dk_167 0 14 (dk_at dksX3_laysWays_4 14 rfl rfl)
theorem dX3_laysWays_111 : decode cX3_laysWays 111 = .ok (.iload 7, 2) := dk_21 7 (dk_at dksX3_laysWays_4 17 rfl rfl)
theorem dX3_laysWays_113 : decode cX3_laysWays 113 = .ok (.ifCond .eq 7, 3) := dk_153 0 7 (dk_at dksX3_laysWays_4 19 rfl rfl)
theorem dX3_laysWays_116 : decode cX3_laysWays 116 = .ok (.iconst 1, 1) := dk_4 (dk_at dksX3_laysWays_4 22 rfl rfl)
theorem dX3_laysWays_117 : decode cX3_laysWays 117 = .ok (.goto 5, 3) := dk_167 0 5 (dk_at dksX3_laysWays_5 0 rfl rfl)
theorem dX3_laysWays_120 : decode cX3_laysWays 120 = .ok (.bipush 99, 2) := dk_16 99 (dk_at dksX3_laysWays_5 3 rfl rfl)
theorem dX3_laysWays_122 : decode cX3_laysWays 122 = .ok (.istore 8, 2) := dk_54 8 (dk_at dksX3_laysWays_5 5 rfl rfl)
theorem dX3_laysWays_124 : decode cX3_laysWays 124 = .ok (.iload 6, 2) := dk_21 6 (dk_at dksX3_laysWays_5 7 rfl rfl)
theorem dX3_laysWays_126 : decode cX3_laysWays 126 = .ok (.iconst (-1), 1) := dk_2 (dk_at dksX3_laysWays_5 9 rfl rfl)
theorem dX3_laysWays_127 : decode cX3_laysWays 127 = .ok (.if_icmp .eq 30, 3) := dk_159 0 30 (dk_at dksX3_laysWays_5 10 rfl rfl)
theorem dX3_laysWays_130 : decode cX3_laysWays 130 = .ok (.aload_n 0, 1) := dk_42 (dk_at dksX3_laysWays_5 13 rfl rfl)
theorem dX3_laysWays_131 : decode cX3_laysWays 131 = .ok (.getfield 29, 3) := dk_180 0 29 (dk_at dksX3_laysWays_5 14 rfl rfl)
theorem dX3_laysWays_134 : decode cX3_laysWays 134 = .ok (.iload 6, 2) := dk_21 6 (dk_at dksX3_laysWays_5 17 rfl rfl)
theorem dX3_laysWays_136 : decode cX3_laysWays 136 = .ok (.aload_n 0, 1) := dk_42 (dk_at dksX3_laysWays_5 19 rfl rfl)
theorem dX3_laysWays_137 : decode cX3_laysWays 137 = .ok (.getfield 29, 3) := dk_180 0 29 (dk_at dksX3_laysWays_5 20 rfl rfl)
theorem dX3_laysWays_140 : decode cX3_laysWays 140 = .ok (.iload 6, 2) := dk_21 6 (dk_at dksX3_laysWays_6 0 rfl rfl)
theorem dX3_laysWays_142 : decode cX3_laysWays 142 = .ok (.iaload, 1) := dk_46 (dk_at dksX3_laysWays_6 2 rfl rfl)
theorem dX3_laysWays_143 : decode cX3_laysWays 143 = .ok (.aload_n 0, 1) := dk_42 (dk_at dksX3_laysWays_6 3 rfl rfl)
theorem dX3_laysWays_144 : decode cX3_laysWays 144 = .ok (.getfield 29, 3) := dk_180 0 29 (dk_at dksX3_laysWays_6 4 rfl rfl)
theorem dX3_laysWays_147 : decode cX3_laysWays 147 = .ok (.iload 4, 2) := dk_21 4 (dk_at dksX3_laysWays_6 7 rfl rfl)
theorem dX3_laysWays_149 : decode cX3_laysWays 149 = .ok (.iaload, 1) := dk_46 (dk_at dksX3_laysWays_6 9 rfl rfl)
theorem dX3_laysWays_150 : decode cX3_laysWays 150 = .ok (.iload 8, 2) := dk_21 8 (dk_at dksX3_laysWays_6 10 rfl rfl)
theorem dX3_laysWays_152 : decode cX3_laysWays 152 = .ok (.iadd, 1) := dk_96 (dk_at dksX3_laysWays_6 12 rfl rfl)
theorem dX3_laysWays_153 : decode cX3_laysWays 153 = .ok (.invokestatic 65, 3) := dk_184 0 65 (dk_at dksX3_laysWays_6 13 rfl rfl)
theorem dX3_laysWays_156 : decode cX3_laysWays 156 = .ok (.iastore, 1) := dk_79 (dk_at dksX3_laysWays_6 16 rfl rfl)
theorem dX3_laysWays_157 : decode cX3_laysWays 157 = .ok (.iinc 5 1, 3) := dk_132 5 1 (dk_at dksX3_laysWays_6 17 rfl rfl)
theorem dX3_laysWays_160 : decode cX3_laysWays 160 = .ok (.goto (-108), 3) := dk_167 255 148 (dk_at dksX3_laysWays_6 20 rfl rfl)
theorem dX3_laysWays_163 : decode cX3_laysWays 163 = .ok (.iinc 4 1, 3) := dk_132 4 1 (dk_at dksX3_laysWays_7 0 rfl rfl)
theorem dX3_laysWays_166 : decode cX3_laysWays 166 = .ok (.goto (-124), 3) := dk_167 255 132 (dk_at dksX3_laysWays_7 3 rfl rfl)
theorem dX3_laysWays_169 : decode cX3_laysWays 169 = .ok (.iinc 3 1, 3) := dk_132 3 1 (dk_at dksX3_laysWays_7 6 rfl rfl)
theorem dX3_laysWays_172 : decode cX3_laysWays 172 = .ok (.goto (-139), 3) := dk_167 255 117 (dk_at dksX3_laysWays_7 9 rfl rfl)
theorem dX3_laysWays_175 : decode cX3_laysWays 175 = .ok (.return_, 1) := dk_177 (dk_at dksX3_laysWays_7 12 rfl rfl)
abbrev cX3_nextTo : ByteArray := prog_10_method_9_code
def yX3_nextTo : MethodName := ⟨RX3, "nextTo", "(II)I"⟩
def dkwX3_nextTo_3 : List UInt8 := [28, 104, 29, 96, 167, 0, 4, 2, 172]
abbrev dktX3_nextTo_3 : List UInt8 := dkwX3_nextTo_3 ++ []
def dkwX3_nextTo_2 : List UInt8 := [133, 9, 20, 0, 63, 184, 0, 59, 153, 0, 23, 29, 133, 9, 20, 0, 63, 184, 0, 59, 153, 0, 11, 7]
abbrev dktX3_nextTo_2 : List UInt8 := dkwX3_nextTo_2 ++ dktX3_nextTo_3
def dkwX3_nextTo_1 : List UInt8 := [7, 112, 27, 4, 160, 0, 7, 4, 167, 0, 13, 27, 6, 160, 0, 7, 2, 167, 0, 4, 3, 96, 62, 28]
abbrev dktX3_nextTo_1 : List UInt8 := dkwX3_nextTo_1 ++ dktX3_nextTo_2
def dkwX3_nextTo_0 : List UInt8 := [26, 7, 108, 27, 154, 0, 7, 2, 167, 0, 13, 27, 5, 160, 0, 7, 4, 167, 0, 4, 3, 96, 61, 26]
abbrev dktX3_nextTo_0 : List UInt8 := dkwX3_nextTo_0 ++ dktX3_nextTo_1
theorem dksX3_nextTo_0 : cX3_nextTo.data.toList.drop 0 = dktX3_nextTo_0 := by decide +kernel
theorem dksX3_nextTo_1 : cX3_nextTo.data.toList.drop 24 = dktX3_nextTo_1 := dk_seg dksX3_nextTo_0 24 rfl rfl
theorem dksX3_nextTo_2 : cX3_nextTo.data.toList.drop 48 = dktX3_nextTo_2 := dk_seg dksX3_nextTo_1 24 rfl rfl
theorem dksX3_nextTo_3 : cX3_nextTo.data.toList.drop 72 = dktX3_nextTo_3 := dk_seg dksX3_nextTo_2 24 rfl rfl
theorem dX3_nextTo_0 : decode cX3_nextTo 0 = .ok (.iload_n 0, 1) := dk_26 (dk_at dksX3_nextTo_0 0 rfl rfl)
theorem dX3_nextTo_1 : decode cX3_nextTo 1 = .ok (.iconst 4, 1) := dk_7 (dk_at dksX3_nextTo_0 1 rfl rfl)
theorem dX3_nextTo_2 : decode cX3_nextTo 2 = .ok (.idiv, 1) := dk_108 (dk_at dksX3_nextTo_0 2 rfl rfl)
theorem dX3_nextTo_3 : decode cX3_nextTo 3 = .ok (.iload_n 1, 1) := dk_27 (dk_at dksX3_nextTo_0 3 rfl rfl)
theorem dX3_nextTo_4 : decode cX3_nextTo 4 = .ok (.ifCond .ne 7, 3) := dk_154 0 7 (dk_at dksX3_nextTo_0 4 rfl rfl)
theorem dX3_nextTo_7 : decode cX3_nextTo 7 = .ok (.iconst (-1), 1) := dk_2 (dk_at dksX3_nextTo_0 7 rfl rfl)
theorem dX3_nextTo_8 : decode cX3_nextTo 8 = .ok (.goto 13, 3) := dk_167 0 13 (dk_at dksX3_nextTo_0 8 rfl rfl)
theorem dX3_nextTo_11 : decode cX3_nextTo 11 = .ok (.iload_n 1, 1) := dk_27 (dk_at dksX3_nextTo_0 11 rfl rfl)
theorem dX3_nextTo_12 : decode cX3_nextTo 12 = .ok (.iconst 2, 1) := dk_5 (dk_at dksX3_nextTo_0 12 rfl rfl)
theorem dX3_nextTo_13 : decode cX3_nextTo 13 = .ok (.if_icmp .ne 7, 3) := dk_160 0 7 (dk_at dksX3_nextTo_0 13 rfl rfl)
theorem dX3_nextTo_16 : decode cX3_nextTo 16 = .ok (.iconst 1, 1) := dk_4 (dk_at dksX3_nextTo_0 16 rfl rfl)
theorem dX3_nextTo_17 : decode cX3_nextTo 17 = .ok (.goto 4, 3) := dk_167 0 4 (dk_at dksX3_nextTo_0 17 rfl rfl)
theorem dX3_nextTo_20 : decode cX3_nextTo 20 = .ok (.iconst 0, 1) := dk_3 (dk_at dksX3_nextTo_0 20 rfl rfl)
theorem dX3_nextTo_21 : decode cX3_nextTo 21 = .ok (.iadd, 1) := dk_96 (dk_at dksX3_nextTo_0 21 rfl rfl)
theorem dX3_nextTo_22 : decode cX3_nextTo 22 = .ok (.istore_n 2, 1) := dk_61 (dk_at dksX3_nextTo_0 22 rfl rfl)
theorem dX3_nextTo_23 : decode cX3_nextTo 23 = .ok (.iload_n 0, 1) := dk_26 (dk_at dksX3_nextTo_0 23 rfl rfl)
theorem dX3_nextTo_24 : decode cX3_nextTo 24 = .ok (.iconst 4, 1) := dk_7 (dk_at dksX3_nextTo_1 0 rfl rfl)
theorem dX3_nextTo_25 : decode cX3_nextTo 25 = .ok (.irem, 1) := dk_112 (dk_at dksX3_nextTo_1 1 rfl rfl)
theorem dX3_nextTo_26 : decode cX3_nextTo 26 = .ok (.iload_n 1, 1) := dk_27 (dk_at dksX3_nextTo_1 2 rfl rfl)
theorem dX3_nextTo_27 : decode cX3_nextTo 27 = .ok (.iconst 1, 1) := dk_4 (dk_at dksX3_nextTo_1 3 rfl rfl)
theorem dX3_nextTo_28 : decode cX3_nextTo 28 = .ok (.if_icmp .ne 7, 3) := dk_160 0 7 (dk_at dksX3_nextTo_1 4 rfl rfl)
theorem dX3_nextTo_31 : decode cX3_nextTo 31 = .ok (.iconst 1, 1) := dk_4 (dk_at dksX3_nextTo_1 7 rfl rfl)
theorem dX3_nextTo_32 : decode cX3_nextTo 32 = .ok (.goto 13, 3) := dk_167 0 13 (dk_at dksX3_nextTo_1 8 rfl rfl)
theorem dX3_nextTo_35 : decode cX3_nextTo 35 = .ok (.iload_n 1, 1) := dk_27 (dk_at dksX3_nextTo_1 11 rfl rfl)
theorem dX3_nextTo_36 : decode cX3_nextTo 36 = .ok (.iconst 3, 1) := dk_6 (dk_at dksX3_nextTo_1 12 rfl rfl)
theorem dX3_nextTo_37 : decode cX3_nextTo 37 = .ok (.if_icmp .ne 7, 3) := dk_160 0 7 (dk_at dksX3_nextTo_1 13 rfl rfl)
theorem dX3_nextTo_40 : decode cX3_nextTo 40 = .ok (.iconst (-1), 1) := dk_2 (dk_at dksX3_nextTo_1 16 rfl rfl)
theorem dX3_nextTo_41 : decode cX3_nextTo 41 = .ok (.goto 4, 3) := dk_167 0 4 (dk_at dksX3_nextTo_1 17 rfl rfl)
theorem dX3_nextTo_44 : decode cX3_nextTo 44 = .ok (.iconst 0, 1) := dk_3 (dk_at dksX3_nextTo_1 20 rfl rfl)
theorem dX3_nextTo_45 : decode cX3_nextTo 45 = .ok (.iadd, 1) := dk_96 (dk_at dksX3_nextTo_1 21 rfl rfl)
theorem dX3_nextTo_46 : decode cX3_nextTo 46 = .ok (.istore_n 3, 1) := dk_62 (dk_at dksX3_nextTo_1 22 rfl rfl)
theorem dX3_nextTo_47 : decode cX3_nextTo 47 = .ok (.iload_n 2, 1) := dk_28 (dk_at dksX3_nextTo_1 23 rfl rfl)
theorem dX3_nextTo_48 : decode cX3_nextTo 48 = .ok (.i2l, 1) := dk_133 (dk_at dksX3_nextTo_2 0 rfl rfl)
theorem dX3_nextTo_49 : decode cX3_nextTo 49 = .ok (.lconst 0, 1) := dk_9 (dk_at dksX3_nextTo_2 1 rfl rfl)
theorem dX3_nextTo_50 : decode cX3_nextTo 50 = .ok (.ldc2_w 63, 3) := dk_20 0 63 (dk_at dksX3_nextTo_2 2 rfl rfl)
theorem dX3_nextTo_53 : decode cX3_nextTo 53 = .ok (.invokestatic 59, 3) := dk_184 0 59 (dk_at dksX3_nextTo_2 5 rfl rfl)
theorem dX3_nextTo_56 : decode cX3_nextTo 56 = .ok (.ifCond .eq 23, 3) := dk_153 0 23 (dk_at dksX3_nextTo_2 8 rfl rfl)
theorem dX3_nextTo_59 : decode cX3_nextTo 59 = .ok (.iload_n 3, 1) := dk_29 (dk_at dksX3_nextTo_2 11 rfl rfl)
theorem dX3_nextTo_60 : decode cX3_nextTo 60 = .ok (.i2l, 1) := dk_133 (dk_at dksX3_nextTo_2 12 rfl rfl)
theorem dX3_nextTo_61 : decode cX3_nextTo 61 = .ok (.lconst 0, 1) := dk_9 (dk_at dksX3_nextTo_2 13 rfl rfl)
theorem dX3_nextTo_62 : decode cX3_nextTo 62 = .ok (.ldc2_w 63, 3) := dk_20 0 63 (dk_at dksX3_nextTo_2 14 rfl rfl)
theorem dX3_nextTo_65 : decode cX3_nextTo 65 = .ok (.invokestatic 59, 3) := dk_184 0 59 (dk_at dksX3_nextTo_2 17 rfl rfl)
theorem dX3_nextTo_68 : decode cX3_nextTo 68 = .ok (.ifCond .eq 11, 3) := dk_153 0 11 (dk_at dksX3_nextTo_2 20 rfl rfl)
theorem dX3_nextTo_71 : decode cX3_nextTo 71 = .ok (.iconst 4, 1) := dk_7 (dk_at dksX3_nextTo_2 23 rfl rfl)
theorem dX3_nextTo_72 : decode cX3_nextTo 72 = .ok (.iload_n 2, 1) := dk_28 (dk_at dksX3_nextTo_3 0 rfl rfl)
theorem dX3_nextTo_73 : decode cX3_nextTo 73 = .ok (.imul, 1) := dk_104 (dk_at dksX3_nextTo_3 1 rfl rfl)
theorem dX3_nextTo_74 : decode cX3_nextTo 74 = .ok (.iload_n 3, 1) := dk_29 (dk_at dksX3_nextTo_3 2 rfl rfl)
theorem dX3_nextTo_75 : decode cX3_nextTo 75 = .ok (.iadd, 1) := dk_96 (dk_at dksX3_nextTo_3 3 rfl rfl)
theorem dX3_nextTo_76 : decode cX3_nextTo 76 = .ok (.goto 4, 3) := dk_167 0 4 (dk_at dksX3_nextTo_3 4 rfl rfl)
theorem dX3_nextTo_79 : decode cX3_nextTo 79 = .ok (.iconst (-1), 1) := dk_2 (dk_at dksX3_nextTo_3 7 rfl rfl)
theorem dX3_nextTo_80 : decode cX3_nextTo 80 = .ok (.ireturn, 1) := dk_172 (dk_at dksX3_nextTo_3 8 rfl rfl)
abbrev cX3_reachedFrom : ByteArray := prog_10_method_18_code
def yX3_reachedFrom : MethodName := ⟨RX3, "reachedFrom", "(I)I"⟩
def dkwX3_reachedFrom_1 : List UInt8 := [16, 99, 162, 0, 9, 4, 29, 120, 167, 0, 4, 3, 128, 61, 132, 3, 1, 167, 255, 226, 28, 172]
abbrev dktX3_reachedFrom_1 : List UInt8 := dkwX3_reachedFrom_1 ++ []
def dkwX3_reachedFrom_0 : List UInt8 := [42, 27, 3, 182, 0, 84, 3, 61, 3, 62, 29, 16, 16, 162, 0, 30, 28, 42, 180, 0, 29, 29, 46]
abbrev dktX3_reachedFrom_0 : List UInt8 := dkwX3_reachedFrom_0 ++ dktX3_reachedFrom_1
theorem dksX3_reachedFrom_0 : cX3_reachedFrom.data.toList.drop 0 = dktX3_reachedFrom_0 := by decide +kernel
theorem dksX3_reachedFrom_1 : cX3_reachedFrom.data.toList.drop 23 = dktX3_reachedFrom_1 := dk_seg dksX3_reachedFrom_0 23 rfl rfl
theorem dX3_reachedFrom_0 : decode cX3_reachedFrom 0 = .ok (.aload_n 0, 1) := dk_42 (dk_at dksX3_reachedFrom_0 0 rfl rfl)
theorem dX3_reachedFrom_1 : decode cX3_reachedFrom 1 = .ok (.iload_n 1, 1) := dk_27 (dk_at dksX3_reachedFrom_0 1 rfl rfl)
theorem dX3_reachedFrom_2 : decode cX3_reachedFrom 2 = .ok (.iconst 0, 1) := dk_3 (dk_at dksX3_reachedFrom_0 2 rfl rfl)
theorem dX3_reachedFrom_3 : decode cX3_reachedFrom 3 = .ok (.invokevirtual 84, 3) := dk_182 0 84 (dk_at dksX3_reachedFrom_0 3 rfl rfl)
theorem dX3_reachedFrom_6 : decode cX3_reachedFrom 6 = .ok (.iconst 0, 1) := dk_3 (dk_at dksX3_reachedFrom_0 6 rfl rfl)
theorem dX3_reachedFrom_7 : decode cX3_reachedFrom 7 = .ok (.istore_n 2, 1) := dk_61 (dk_at dksX3_reachedFrom_0 7 rfl rfl)
theorem dX3_reachedFrom_8 : decode cX3_reachedFrom 8 = .ok (.iconst 0, 1) := dk_3 (dk_at dksX3_reachedFrom_0 8 rfl rfl)
theorem dX3_reachedFrom_9 : decode cX3_reachedFrom 9 = .ok (.istore_n 3, 1) := dk_62 (dk_at dksX3_reachedFrom_0 9 rfl rfl)
theorem dX3_reachedFrom_10 : decode cX3_reachedFrom 10 = .ok (.iload_n 3, 1) := dk_29 (dk_at dksX3_reachedFrom_0 10 rfl rfl)
theorem dX3_reachedFrom_11 : decode cX3_reachedFrom 11 = .ok (.bipush 16, 2) := dk_16 16 (dk_at dksX3_reachedFrom_0 11 rfl rfl)
theorem dX3_reachedFrom_13 : decode cX3_reachedFrom 13 = .ok (.if_icmp .ge 30, 3) := dk_162 0 30 (dk_at dksX3_reachedFrom_0 13 rfl rfl)
theorem dX3_reachedFrom_16 : decode cX3_reachedFrom 16 = .ok (.iload_n 2, 1) := dk_28 (dk_at dksX3_reachedFrom_0 16 rfl rfl)
theorem dX3_reachedFrom_17 : decode cX3_reachedFrom 17 = .ok (.aload_n 0, 1) := dk_42 (dk_at dksX3_reachedFrom_0 17 rfl rfl)
theorem dX3_reachedFrom_18 : decode cX3_reachedFrom 18 = .ok (.getfield 29, 3) := dk_180 0 29 (dk_at dksX3_reachedFrom_0 18 rfl rfl)
theorem dX3_reachedFrom_21 : decode cX3_reachedFrom 21 = .ok (.iload_n 3, 1) := dk_29 (dk_at dksX3_reachedFrom_0 21 rfl rfl)
theorem dX3_reachedFrom_22 : decode cX3_reachedFrom 22 = .ok (.iaload, 1) := dk_46 (dk_at dksX3_reachedFrom_0 22 rfl rfl)
theorem dX3_reachedFrom_23 : decode cX3_reachedFrom 23 = .ok (.bipush 99, 2) := dk_16 99 (dk_at dksX3_reachedFrom_1 0 rfl rfl)
theorem dX3_reachedFrom_25 : decode cX3_reachedFrom 25 = .ok (.if_icmp .ge 9, 3) := dk_162 0 9 (dk_at dksX3_reachedFrom_1 2 rfl rfl)
theorem dX3_reachedFrom_28 : decode cX3_reachedFrom 28 = .ok (.iconst 1, 1) := dk_4 (dk_at dksX3_reachedFrom_1 5 rfl rfl)
theorem dX3_reachedFrom_29 : decode cX3_reachedFrom 29 = .ok (.iload_n 3, 1) := dk_29 (dk_at dksX3_reachedFrom_1 6 rfl rfl)
theorem dX3_reachedFrom_30 : decode cX3_reachedFrom 30 = .ok (.ishl, 1) := dk_120 (dk_at dksX3_reachedFrom_1 7 rfl rfl)
theorem dX3_reachedFrom_31 : decode cX3_reachedFrom 31 = .ok (.goto 4, 3) := dk_167 0 4 (dk_at dksX3_reachedFrom_1 8 rfl rfl)
theorem dX3_reachedFrom_34 : decode cX3_reachedFrom 34 = .ok (.iconst 0, 1) := dk_3 (dk_at dksX3_reachedFrom_1 11 rfl rfl)
theorem dX3_reachedFrom_35 : decode cX3_reachedFrom 35 = .ok (.ior, 1) := dk_128 (dk_at dksX3_reachedFrom_1 12 rfl rfl)
theorem dX3_reachedFrom_36 : decode cX3_reachedFrom 36 = .ok (.istore_n 2, 1) := dk_61 (dk_at dksX3_reachedFrom_1 13 rfl rfl)
theorem dX3_reachedFrom_37 : decode cX3_reachedFrom 37 = .ok (.iinc 3 1, 3) := dk_132 3 1 (dk_at dksX3_reachedFrom_1 14 rfl rfl)
theorem dX3_reachedFrom_40 : decode cX3_reachedFrom 40 = .ok (.goto (-30), 3) := dk_167 255 226 (dk_at dksX3_reachedFrom_1 17 rfl rfl)
theorem dX3_reachedFrom_43 : decode cX3_reachedFrom 43 = .ok (.iload_n 2, 1) := dk_28 (dk_at dksX3_reachedFrom_1 20 rfl rfl)
theorem dX3_reachedFrom_44 : decode cX3_reachedFrom 44 = .ok (.ireturn, 1) := dk_172 (dk_at dksX3_reachedFrom_1 21 rfl rfl)
abbrev cX3_ones : ByteArray := prog_10_method_19_code
def yX3_ones : MethodName := ⟨RX3, "ones", "(I)I"⟩
def dkwX3_ones_1 : List UInt8 := [27, 172]
abbrev dktX3_ones_1 : List UInt8 := dkwX3_ones_1 ++ []
def dkwX3_ones_0 : List UInt8 := [3, 60, 3, 61, 28, 16, 16, 162, 0, 17, 27, 26, 28, 122, 4, 126, 96, 60, 132, 2, 1, 167, 255, 239]
abbrev dktX3_ones_0 : List UInt8 := dkwX3_ones_0 ++ dktX3_ones_1
theorem dksX3_ones_0 : cX3_ones.data.toList.drop 0 = dktX3_ones_0 := by decide +kernel
theorem dksX3_ones_1 : cX3_ones.data.toList.drop 24 = dktX3_ones_1 := dk_seg dksX3_ones_0 24 rfl rfl
theorem dX3_ones_0 : decode cX3_ones 0 = .ok (.iconst 0, 1) := dk_3 (dk_at dksX3_ones_0 0 rfl rfl)
theorem dX3_ones_1 : decode cX3_ones 1 = .ok (.istore_n 1, 1) := dk_60 (dk_at dksX3_ones_0 1 rfl rfl)
theorem dX3_ones_2 : decode cX3_ones 2 = .ok (.iconst 0, 1) := dk_3 (dk_at dksX3_ones_0 2 rfl rfl)
theorem dX3_ones_3 : decode cX3_ones 3 = .ok (.istore_n 2, 1) := dk_61 (dk_at dksX3_ones_0 3 rfl rfl)
theorem dX3_ones_4 : decode cX3_ones 4 = .ok (.iload_n 2, 1) := dk_28 (dk_at dksX3_ones_0 4 rfl rfl)
theorem dX3_ones_5 : decode cX3_ones 5 = .ok (.bipush 16, 2) := dk_16 16 (dk_at dksX3_ones_0 5 rfl rfl)
theorem dX3_ones_7 : decode cX3_ones 7 = .ok (.if_icmp .ge 17, 3) := dk_162 0 17 (dk_at dksX3_ones_0 7 rfl rfl)
theorem dX3_ones_10 : decode cX3_ones 10 = .ok (.iload_n 1, 1) := dk_27 (dk_at dksX3_ones_0 10 rfl rfl)
theorem dX3_ones_11 : decode cX3_ones 11 = .ok (.iload_n 0, 1) := dk_26 (dk_at dksX3_ones_0 11 rfl rfl)
theorem dX3_ones_12 : decode cX3_ones 12 = .ok (.iload_n 2, 1) := dk_28 (dk_at dksX3_ones_0 12 rfl rfl)
theorem dX3_ones_13 : decode cX3_ones 13 = .ok (.ishr, 1) := dk_122 (dk_at dksX3_ones_0 13 rfl rfl)
theorem dX3_ones_14 : decode cX3_ones 14 = .ok (.iconst 1, 1) := dk_4 (dk_at dksX3_ones_0 14 rfl rfl)
theorem dX3_ones_15 : decode cX3_ones 15 = .ok (.iand, 1) := dk_126 (dk_at dksX3_ones_0 15 rfl rfl)
theorem dX3_ones_16 : decode cX3_ones 16 = .ok (.iadd, 1) := dk_96 (dk_at dksX3_ones_0 16 rfl rfl)
theorem dX3_ones_17 : decode cX3_ones 17 = .ok (.istore_n 1, 1) := dk_60 (dk_at dksX3_ones_0 17 rfl rfl)
theorem dX3_ones_18 : decode cX3_ones 18 = .ok (.iinc 2 1, 3) := dk_132 2 1 (dk_at dksX3_ones_0 18 rfl rfl)
theorem dX3_ones_21 : decode cX3_ones 21 = .ok (.goto (-17), 3) := dk_167 255 239 (dk_at dksX3_ones_0 21 rfl rfl)
theorem dX3_ones_24 : decode cX3_ones 24 = .ok (.iload_n 1, 1) := dk_27 (dk_at dksX3_ones_1 0 rfl rfl)
theorem dX3_ones_25 : decode cX3_ones 25 = .ok (.ireturn, 1) := dk_172 (dk_at dksX3_ones_1 1 rfl rfl)
abbrev cX3_bond : ByteArray := prog_10_method_36_code
def yX3_bond : MethodName := ⟨RX3, "bond", "(III)I"⟩
def dkwX3_bond_0 : List UInt8 := [42, 182, 0, 100, 42, 42, 27, 28, 29, 182, 0, 159, 182, 0, 107, 172]
abbrev dktX3_bond_0 : List UInt8 := dkwX3_bond_0 ++ []
theorem dksX3_bond_0 : cX3_bond.data.toList.drop 0 = dktX3_bond_0 := by decide +kernel
theorem dX3_bond_0 : decode cX3_bond 0 = .ok (.aload_n 0, 1) := dk_42 (dk_at dksX3_bond_0 0 rfl rfl)
theorem dX3_bond_1 : decode cX3_bond 1 = .ok (.invokevirtual 100, 3) := dk_182 0 100 (dk_at dksX3_bond_0 1 rfl rfl)
theorem dX3_bond_4 : decode cX3_bond 4 = .ok (.aload_n 0, 1) := dk_42 (dk_at dksX3_bond_0 4 rfl rfl)
theorem dX3_bond_5 : decode cX3_bond 5 = .ok (.aload_n 0, 1) := dk_42 (dk_at dksX3_bond_0 5 rfl rfl)
theorem dX3_bond_6 : decode cX3_bond 6 = .ok (.iload_n 1, 1) := dk_27 (dk_at dksX3_bond_0 6 rfl rfl)
theorem dX3_bond_7 : decode cX3_bond 7 = .ok (.iload_n 2, 1) := dk_28 (dk_at dksX3_bond_0 7 rfl rfl)
theorem dX3_bond_8 : decode cX3_bond 8 = .ok (.iload_n 3, 1) := dk_29 (dk_at dksX3_bond_0 8 rfl rfl)
theorem dX3_bond_9 : decode cX3_bond 9 = .ok (.invokevirtual 159, 3) := dk_182 0 159 (dk_at dksX3_bond_0 9 rfl rfl)
theorem dX3_bond_12 : decode cX3_bond 12 = .ok (.invokevirtual 107, 3) := dk_182 0 107 (dk_at dksX3_bond_0 12 rfl rfl)
theorem dX3_bond_15 : decode cX3_bond 15 = .ok (.ireturn, 1) := dk_172 (dk_at dksX3_bond_0 15 rfl rfl)
abbrev cX3_bondIt : ByteArray := prog_10_method_35_code
def yX3_bondIt : MethodName := ⟨RX3, "bondIt", "(III)I"⟩
def dkwX3_bondIt_10 : List UInt8 := [96, 92, 46, 5, 29, 104, 96, 79, 42, 180, 0, 9, 21, 4, 46, 172]
abbrev dktX3_bondIt_10 : List UInt8 := dkwX3_bondIt_10 ++ []
def dkwX3_bondIt_9 : List UInt8 := [42, 180, 0, 9, 27, 184, 0, 120, 92, 46, 5, 29, 104, 96, 79, 42, 180, 0, 9, 27, 184, 0, 120, 4]
abbrev dktX3_bondIt_9 : List UInt8 := dkwX3_bondIt_9 ++ dktX3_bondIt_10
def dkwX3_bondIt_8 : List UInt8 := [29, 104, 100, 79, 42, 180, 0, 9, 21, 4, 7, 96, 27, 79, 42, 180, 0, 9, 21, 4, 8, 96, 29, 79]
abbrev dktX3_bondIt_8 : List UInt8 := dkwX3_bondIt_8 ++ dktX3_bondIt_9
def dkwX3_bondIt_7 : List UInt8 := [5, 29, 104, 42, 180, 0, 9, 21, 4, 46, 100, 182, 0, 91, 172, 42, 180, 0, 9, 21, 4, 92, 46, 5]
abbrev dktX3_bondIt_7 : List UInt8 := dkwX3_bondIt_7 ++ dktX3_bondIt_8
def dkwX3_bondIt_6 : List UInt8 := [180, 0, 9, 5, 46, 182, 0, 91, 172, 42, 180, 0, 9, 21, 4, 46, 5, 29, 104, 162, 0, 20, 42, 8]
abbrev dktX3_bondIt_6 : List UInt8 := dkwX3_bondIt_6 ++ dktX3_bondIt_7
def dkwX3_bondIt_5 : List UInt8 := [180, 0, 9, 21, 4, 7, 96, 46, 182, 0, 91, 172, 42, 28, 182, 0, 131, 153, 0, 16, 42, 16, 10, 42]
abbrev dktX3_bondIt_5 : List UInt8 := dkwX3_bondIt_5 ++ dktX3_bondIt_6
def dkwX3_bondIt_4 : List UInt8 := [46, 182, 0, 91, 172, 42, 180, 0, 9, 21, 4, 7, 96, 46, 2, 159, 0, 19, 42, 16, 8, 42]
abbrev dktX3_bondIt_4 : List UInt8 := dkwX3_bondIt_4 ++ dktX3_bondIt_5
def dkwX3_bondIt_3 : List UInt8 := [180, 0, 9, 21, 4, 16, 7, 96, 46, 4, 160, 0, 19, 42, 16, 9, 42, 180, 0, 9, 21, 4, 5, 96]
abbrev dktX3_bondIt_3 : List UInt8 := dkwX3_bondIt_3 ++ dktX3_bondIt_4
def dkwX3_bondIt_2 : List UInt8 := [20, 0, 157, 184, 0, 59, 154, 0, 10, 42, 4, 3, 182, 0, 91, 172, 28, 184, 0, 126, 54, 4, 42]
abbrev dktX3_bondIt_2 : List UInt8 := dkwX3_bondIt_2 ++ dktX3_bondIt_3
def dkwX3_bondIt_1 : List UInt8 := [182, 0, 154, 154, 0, 16, 42, 16, 7, 42, 180, 0, 9, 4, 46, 182, 0, 91, 172, 29, 133, 10]
abbrev dktX3_bondIt_1 : List UInt8 := dkwX3_bondIt_1 ++ dktX3_bondIt_2
def dkwX3_bondIt_0 : List UInt8 := [42, 27, 182, 0, 117, 154, 0, 15, 42, 7, 42, 180, 0, 9, 3, 46, 182, 0, 91, 172, 42, 28]
abbrev dktX3_bondIt_0 : List UInt8 := dkwX3_bondIt_0 ++ dktX3_bondIt_1
theorem dksX3_bondIt_0 : cX3_bondIt.data.toList.drop 0 = dktX3_bondIt_0 := by decide +kernel
theorem dksX3_bondIt_1 : cX3_bondIt.data.toList.drop 22 = dktX3_bondIt_1 := dk_seg dksX3_bondIt_0 22 rfl rfl
theorem dksX3_bondIt_2 : cX3_bondIt.data.toList.drop 44 = dktX3_bondIt_2 := dk_seg dksX3_bondIt_1 22 rfl rfl
theorem dksX3_bondIt_3 : cX3_bondIt.data.toList.drop 67 = dktX3_bondIt_3 := dk_seg dksX3_bondIt_2 23 rfl rfl
theorem dksX3_bondIt_4 : cX3_bondIt.data.toList.drop 91 = dktX3_bondIt_4 := dk_seg dksX3_bondIt_3 24 rfl rfl
theorem dksX3_bondIt_5 : cX3_bondIt.data.toList.drop 113 = dktX3_bondIt_5 := dk_seg dksX3_bondIt_4 22 rfl rfl
theorem dksX3_bondIt_6 : cX3_bondIt.data.toList.drop 137 = dktX3_bondIt_6 := dk_seg dksX3_bondIt_5 24 rfl rfl
theorem dksX3_bondIt_7 : cX3_bondIt.data.toList.drop 161 = dktX3_bondIt_7 := dk_seg dksX3_bondIt_6 24 rfl rfl
theorem dksX3_bondIt_8 : cX3_bondIt.data.toList.drop 185 = dktX3_bondIt_8 := dk_seg dksX3_bondIt_7 24 rfl rfl
theorem dksX3_bondIt_9 : cX3_bondIt.data.toList.drop 209 = dktX3_bondIt_9 := dk_seg dksX3_bondIt_8 24 rfl rfl
theorem dksX3_bondIt_10 : cX3_bondIt.data.toList.drop 233 = dktX3_bondIt_10 := dk_seg dksX3_bondIt_9 24 rfl rfl
theorem dX3_bondIt_0 : decode cX3_bondIt 0 = .ok (.aload_n 0, 1) := dk_42 (dk_at dksX3_bondIt_0 0 rfl rfl)
theorem dX3_bondIt_1 : decode cX3_bondIt 1 = .ok (.iload_n 1, 1) := dk_27 (dk_at dksX3_bondIt_0 1 rfl rfl)
theorem dX3_bondIt_2 : decode cX3_bondIt 2 = .ok (.invokevirtual 117, 3) := dk_182 0 117 (dk_at dksX3_bondIt_0 2 rfl rfl)
theorem dX3_bondIt_5 : decode cX3_bondIt 5 = .ok (.ifCond .ne 15, 3) := dk_154 0 15 (dk_at dksX3_bondIt_0 5 rfl rfl)
theorem dX3_bondIt_8 : decode cX3_bondIt 8 = .ok (.aload_n 0, 1) := dk_42 (dk_at dksX3_bondIt_0 8 rfl rfl)
theorem dX3_bondIt_9 : decode cX3_bondIt 9 = .ok (.iconst 4, 1) := dk_7 (dk_at dksX3_bondIt_0 9 rfl rfl)
theorem dX3_bondIt_10 : decode cX3_bondIt 10 = .ok (.aload_n 0, 1) := dk_42 (dk_at dksX3_bondIt_0 10 rfl rfl)
theorem dX3_bondIt_11 : decode cX3_bondIt 11 = .ok (.getfield 9, 3) := dk_180 0 9 (dk_at dksX3_bondIt_0 11 rfl rfl)
theorem dX3_bondIt_14 : decode cX3_bondIt 14 = .ok (.iconst 0, 1) := dk_3 (dk_at dksX3_bondIt_0 14 rfl rfl)
theorem dX3_bondIt_15 : decode cX3_bondIt 15 = .ok (.iaload, 1) := dk_46 (dk_at dksX3_bondIt_0 15 rfl rfl)
theorem dX3_bondIt_16 : decode cX3_bondIt 16 = .ok (.invokevirtual 91, 3) := dk_182 0 91 (dk_at dksX3_bondIt_0 16 rfl rfl)
theorem dX3_bondIt_19 : decode cX3_bondIt 19 = .ok (.ireturn, 1) := dk_172 (dk_at dksX3_bondIt_0 19 rfl rfl)
theorem dX3_bondIt_20 : decode cX3_bondIt 20 = .ok (.aload_n 0, 1) := dk_42 (dk_at dksX3_bondIt_0 20 rfl rfl)
theorem dX3_bondIt_21 : decode cX3_bondIt 21 = .ok (.iload_n 2, 1) := dk_28 (dk_at dksX3_bondIt_0 21 rfl rfl)
theorem dX3_bondIt_22 : decode cX3_bondIt 22 = .ok (.invokevirtual 154, 3) := dk_182 0 154 (dk_at dksX3_bondIt_1 0 rfl rfl)
theorem dX3_bondIt_25 : decode cX3_bondIt 25 = .ok (.ifCond .ne 16, 3) := dk_154 0 16 (dk_at dksX3_bondIt_1 3 rfl rfl)
theorem dX3_bondIt_28 : decode cX3_bondIt 28 = .ok (.aload_n 0, 1) := dk_42 (dk_at dksX3_bondIt_1 6 rfl rfl)
theorem dX3_bondIt_29 : decode cX3_bondIt 29 = .ok (.bipush 7, 2) := dk_16 7 (dk_at dksX3_bondIt_1 7 rfl rfl)
theorem dX3_bondIt_31 : decode cX3_bondIt 31 = .ok (.aload_n 0, 1) := dk_42 (dk_at dksX3_bondIt_1 9 rfl rfl)
theorem dX3_bondIt_32 : decode cX3_bondIt 32 = .ok (.getfield 9, 3) := dk_180 0 9 (dk_at dksX3_bondIt_1 10 rfl rfl)
theorem dX3_bondIt_35 : decode cX3_bondIt 35 = .ok (.iconst 1, 1) := dk_4 (dk_at dksX3_bondIt_1 13 rfl rfl)
theorem dX3_bondIt_36 : decode cX3_bondIt 36 = .ok (.iaload, 1) := dk_46 (dk_at dksX3_bondIt_1 14 rfl rfl)
theorem dX3_bondIt_37 : decode cX3_bondIt 37 = .ok (.invokevirtual 91, 3) := dk_182 0 91 (dk_at dksX3_bondIt_1 15 rfl rfl)
theorem dX3_bondIt_40 : decode cX3_bondIt 40 = .ok (.ireturn, 1) := dk_172 (dk_at dksX3_bondIt_1 18 rfl rfl)
theorem dX3_bondIt_41 : decode cX3_bondIt 41 = .ok (.iload_n 3, 1) := dk_29 (dk_at dksX3_bondIt_1 19 rfl rfl)
theorem dX3_bondIt_42 : decode cX3_bondIt 42 = .ok (.i2l, 1) := dk_133 (dk_at dksX3_bondIt_1 20 rfl rfl)
theorem dX3_bondIt_43 : decode cX3_bondIt 43 = .ok (.lconst 1, 1) := dk_10 (dk_at dksX3_bondIt_1 21 rfl rfl)
theorem dX3_bondIt_44 : decode cX3_bondIt 44 = .ok (.ldc2_w 157, 3) := dk_20 0 157 (dk_at dksX3_bondIt_2 0 rfl rfl)
theorem dX3_bondIt_47 : decode cX3_bondIt 47 = .ok (.invokestatic 59, 3) := dk_184 0 59 (dk_at dksX3_bondIt_2 3 rfl rfl)
theorem dX3_bondIt_50 : decode cX3_bondIt 50 = .ok (.ifCond .ne 10, 3) := dk_154 0 10 (dk_at dksX3_bondIt_2 6 rfl rfl)
theorem dX3_bondIt_53 : decode cX3_bondIt 53 = .ok (.aload_n 0, 1) := dk_42 (dk_at dksX3_bondIt_2 9 rfl rfl)
theorem dX3_bondIt_54 : decode cX3_bondIt 54 = .ok (.iconst 1, 1) := dk_4 (dk_at dksX3_bondIt_2 10 rfl rfl)
theorem dX3_bondIt_55 : decode cX3_bondIt 55 = .ok (.iconst 0, 1) := dk_3 (dk_at dksX3_bondIt_2 11 rfl rfl)
theorem dX3_bondIt_56 : decode cX3_bondIt 56 = .ok (.invokevirtual 91, 3) := dk_182 0 91 (dk_at dksX3_bondIt_2 12 rfl rfl)
theorem dX3_bondIt_59 : decode cX3_bondIt 59 = .ok (.ireturn, 1) := dk_172 (dk_at dksX3_bondIt_2 15 rfl rfl)
theorem dX3_bondIt_60 : decode cX3_bondIt 60 = .ok (.iload_n 2, 1) := dk_28 (dk_at dksX3_bondIt_2 16 rfl rfl)
theorem dX3_bondIt_61 : decode cX3_bondIt 61 = .ok (.invokestatic 126, 3) := dk_184 0 126 (dk_at dksX3_bondIt_2 17 rfl rfl)
theorem dX3_bondIt_64 : decode cX3_bondIt 64 = .ok (.istore 4, 2) := dk_54 4 (dk_at dksX3_bondIt_2 20 rfl rfl)
theorem dX3_bondIt_66 : decode cX3_bondIt 66 = .ok (.aload_n 0, 1) := dk_42 (dk_at dksX3_bondIt_2 22 rfl rfl)
theorem dX3_bondIt_67 : decode cX3_bondIt 67 = .ok (.getfield 9, 3) := dk_180 0 9 (dk_at dksX3_bondIt_3 0 rfl rfl)
theorem dX3_bondIt_70 : decode cX3_bondIt 70 = .ok (.iload 4, 2) := dk_21 4 (dk_at dksX3_bondIt_3 3 rfl rfl)
theorem dX3_bondIt_72 : decode cX3_bondIt 72 = .ok (.bipush 7, 2) := dk_16 7 (dk_at dksX3_bondIt_3 5 rfl rfl)
theorem dX3_bondIt_74 : decode cX3_bondIt 74 = .ok (.iadd, 1) := dk_96 (dk_at dksX3_bondIt_3 7 rfl rfl)
theorem dX3_bondIt_75 : decode cX3_bondIt 75 = .ok (.iaload, 1) := dk_46 (dk_at dksX3_bondIt_3 8 rfl rfl)
theorem dX3_bondIt_76 : decode cX3_bondIt 76 = .ok (.iconst 1, 1) := dk_4 (dk_at dksX3_bondIt_3 9 rfl rfl)
theorem dX3_bondIt_77 : decode cX3_bondIt 77 = .ok (.if_icmp .ne 19, 3) := dk_160 0 19 (dk_at dksX3_bondIt_3 10 rfl rfl)
theorem dX3_bondIt_80 : decode cX3_bondIt 80 = .ok (.aload_n 0, 1) := dk_42 (dk_at dksX3_bondIt_3 13 rfl rfl)
theorem dX3_bondIt_81 : decode cX3_bondIt 81 = .ok (.bipush 9, 2) := dk_16 9 (dk_at dksX3_bondIt_3 14 rfl rfl)
theorem dX3_bondIt_83 : decode cX3_bondIt 83 = .ok (.aload_n 0, 1) := dk_42 (dk_at dksX3_bondIt_3 16 rfl rfl)
theorem dX3_bondIt_84 : decode cX3_bondIt 84 = .ok (.getfield 9, 3) := dk_180 0 9 (dk_at dksX3_bondIt_3 17 rfl rfl)
theorem dX3_bondIt_87 : decode cX3_bondIt 87 = .ok (.iload 4, 2) := dk_21 4 (dk_at dksX3_bondIt_3 20 rfl rfl)
theorem dX3_bondIt_89 : decode cX3_bondIt 89 = .ok (.iconst 2, 1) := dk_5 (dk_at dksX3_bondIt_3 22 rfl rfl)
theorem dX3_bondIt_90 : decode cX3_bondIt 90 = .ok (.iadd, 1) := dk_96 (dk_at dksX3_bondIt_3 23 rfl rfl)
theorem dX3_bondIt_91 : decode cX3_bondIt 91 = .ok (.iaload, 1) := dk_46 (dk_at dksX3_bondIt_4 0 rfl rfl)
theorem dX3_bondIt_92 : decode cX3_bondIt 92 = .ok (.invokevirtual 91, 3) := dk_182 0 91 (dk_at dksX3_bondIt_4 1 rfl rfl)
theorem dX3_bondIt_95 : decode cX3_bondIt 95 = .ok (.ireturn, 1) := dk_172 (dk_at dksX3_bondIt_4 4 rfl rfl)
theorem dX3_bondIt_96 : decode cX3_bondIt 96 = .ok (.aload_n 0, 1) := dk_42 (dk_at dksX3_bondIt_4 5 rfl rfl)
theorem dX3_bondIt_97 : decode cX3_bondIt 97 = .ok (.getfield 9, 3) := dk_180 0 9 (dk_at dksX3_bondIt_4 6 rfl rfl)
theorem dX3_bondIt_100 : decode cX3_bondIt 100 = .ok (.iload 4, 2) := dk_21 4 (dk_at dksX3_bondIt_4 9 rfl rfl)
theorem dX3_bondIt_102 : decode cX3_bondIt 102 = .ok (.iconst 4, 1) := dk_7 (dk_at dksX3_bondIt_4 11 rfl rfl)
theorem dX3_bondIt_103 : decode cX3_bondIt 103 = .ok (.iadd, 1) := dk_96 (dk_at dksX3_bondIt_4 12 rfl rfl)
theorem dX3_bondIt_104 : decode cX3_bondIt 104 = .ok (.iaload, 1) := dk_46 (dk_at dksX3_bondIt_4 13 rfl rfl)
theorem dX3_bondIt_105 : decode cX3_bondIt 105 = .ok (.iconst (-1), 1) := dk_2 (dk_at dksX3_bondIt_4 14 rfl rfl)
theorem dX3_bondIt_106 : decode cX3_bondIt 106 = .ok (.if_icmp .eq 19, 3) := dk_159 0 19 (dk_at dksX3_bondIt_4 15 rfl rfl)
theorem dX3_bondIt_109 : decode cX3_bondIt 109 = .ok (.aload_n 0, 1) := dk_42 (dk_at dksX3_bondIt_4 18 rfl rfl)
theorem dX3_bondIt_110 : decode cX3_bondIt 110 = .ok (.bipush 8, 2) := dk_16 8 (dk_at dksX3_bondIt_4 19 rfl rfl)
theorem dX3_bondIt_112 : decode cX3_bondIt 112 = .ok (.aload_n 0, 1) := dk_42 (dk_at dksX3_bondIt_4 21 rfl rfl)
theorem dX3_bondIt_113 : decode cX3_bondIt 113 = .ok (.getfield 9, 3) := dk_180 0 9 (dk_at dksX3_bondIt_5 0 rfl rfl)
theorem dX3_bondIt_116 : decode cX3_bondIt 116 = .ok (.iload 4, 2) := dk_21 4 (dk_at dksX3_bondIt_5 3 rfl rfl)
theorem dX3_bondIt_118 : decode cX3_bondIt 118 = .ok (.iconst 4, 1) := dk_7 (dk_at dksX3_bondIt_5 5 rfl rfl)
theorem dX3_bondIt_119 : decode cX3_bondIt 119 = .ok (.iadd, 1) := dk_96 (dk_at dksX3_bondIt_5 6 rfl rfl)
theorem dX3_bondIt_120 : decode cX3_bondIt 120 = .ok (.iaload, 1) := dk_46 (dk_at dksX3_bondIt_5 7 rfl rfl)
theorem dX3_bondIt_121 : decode cX3_bondIt 121 = .ok (.invokevirtual 91, 3) := dk_182 0 91 (dk_at dksX3_bondIt_5 8 rfl rfl)
theorem dX3_bondIt_124 : decode cX3_bondIt 124 = .ok (.ireturn, 1) := dk_172 (dk_at dksX3_bondIt_5 11 rfl rfl)
theorem dX3_bondIt_125 : decode cX3_bondIt 125 = .ok (.aload_n 0, 1) := dk_42 (dk_at dksX3_bondIt_5 12 rfl rfl)
theorem dX3_bondIt_126 : decode cX3_bondIt 126 = .ok (.iload_n 2, 1) := dk_28 (dk_at dksX3_bondIt_5 13 rfl rfl)
theorem dX3_bondIt_127 : decode cX3_bondIt 127 = .ok (.invokevirtual 131, 3) := dk_182 0 131 (dk_at dksX3_bondIt_5 14 rfl rfl)
theorem dX3_bondIt_130 : decode cX3_bondIt 130 = .ok (.ifCond .eq 16, 3) := dk_153 0 16 (dk_at dksX3_bondIt_5 17 rfl rfl)
theorem dX3_bondIt_133 : decode cX3_bondIt 133 = .ok (.aload_n 0, 1) := dk_42 (dk_at dksX3_bondIt_5 20 rfl rfl)
theorem dX3_bondIt_134 : decode cX3_bondIt 134 = .ok (.bipush 10, 2) := dk_16 10 (dk_at dksX3_bondIt_5 21 rfl rfl)
theorem dX3_bondIt_136 : decode cX3_bondIt 136 = .ok (.aload_n 0, 1) := dk_42 (dk_at dksX3_bondIt_5 23 rfl rfl)
theorem dX3_bondIt_137 : decode cX3_bondIt 137 = .ok (.getfield 9, 3) := dk_180 0 9 (dk_at dksX3_bondIt_6 0 rfl rfl)
theorem dX3_bondIt_140 : decode cX3_bondIt 140 = .ok (.iconst 2, 1) := dk_5 (dk_at dksX3_bondIt_6 3 rfl rfl)
theorem dX3_bondIt_141 : decode cX3_bondIt 141 = .ok (.iaload, 1) := dk_46 (dk_at dksX3_bondIt_6 4 rfl rfl)
theorem dX3_bondIt_142 : decode cX3_bondIt 142 = .ok (.invokevirtual 91, 3) := dk_182 0 91 (dk_at dksX3_bondIt_6 5 rfl rfl)
theorem dX3_bondIt_145 : decode cX3_bondIt 145 = .ok (.ireturn, 1) := dk_172 (dk_at dksX3_bondIt_6 8 rfl rfl)
theorem dX3_bondIt_146 : decode cX3_bondIt 146 = .ok (.aload_n 0, 1) := dk_42 (dk_at dksX3_bondIt_6 9 rfl rfl)
theorem dX3_bondIt_147 : decode cX3_bondIt 147 = .ok (.getfield 9, 3) := dk_180 0 9 (dk_at dksX3_bondIt_6 10 rfl rfl)
theorem dX3_bondIt_150 : decode cX3_bondIt 150 = .ok (.iload 4, 2) := dk_21 4 (dk_at dksX3_bondIt_6 13 rfl rfl)
theorem dX3_bondIt_152 : decode cX3_bondIt 152 = .ok (.iaload, 1) := dk_46 (dk_at dksX3_bondIt_6 15 rfl rfl)
theorem dX3_bondIt_153 : decode cX3_bondIt 153 = .ok (.iconst 2, 1) := dk_5 (dk_at dksX3_bondIt_6 16 rfl rfl)
theorem dX3_bondIt_154 : decode cX3_bondIt 154 = .ok (.iload_n 3, 1) := dk_29 (dk_at dksX3_bondIt_6 17 rfl rfl)
theorem dX3_bondIt_155 : decode cX3_bondIt 155 = .ok (.imul, 1) := dk_104 (dk_at dksX3_bondIt_6 18 rfl rfl)
theorem dX3_bondIt_156 : decode cX3_bondIt 156 = .ok (.if_icmp .ge 20, 3) := dk_162 0 20 (dk_at dksX3_bondIt_6 19 rfl rfl)
theorem dX3_bondIt_159 : decode cX3_bondIt 159 = .ok (.aload_n 0, 1) := dk_42 (dk_at dksX3_bondIt_6 22 rfl rfl)
theorem dX3_bondIt_160 : decode cX3_bondIt 160 = .ok (.iconst 5, 1) := dk_8 (dk_at dksX3_bondIt_6 23 rfl rfl)
theorem dX3_bondIt_161 : decode cX3_bondIt 161 = .ok (.iconst 2, 1) := dk_5 (dk_at dksX3_bondIt_7 0 rfl rfl)
theorem dX3_bondIt_162 : decode cX3_bondIt 162 = .ok (.iload_n 3, 1) := dk_29 (dk_at dksX3_bondIt_7 1 rfl rfl)
theorem dX3_bondIt_163 : decode cX3_bondIt 163 = .ok (.imul, 1) := dk_104 (dk_at dksX3_bondIt_7 2 rfl rfl)
theorem dX3_bondIt_164 : decode cX3_bondIt 164 = .ok (.aload_n 0, 1) := dk_42 (dk_at dksX3_bondIt_7 3 rfl rfl)
theorem dX3_bondIt_165 : decode cX3_bondIt 165 = .ok (.getfield 9, 3) := dk_180 0 9 (dk_at dksX3_bondIt_7 4 rfl rfl)
theorem dX3_bondIt_168 : decode cX3_bondIt 168 = .ok (.iload 4, 2) := dk_21 4 (dk_at dksX3_bondIt_7 7 rfl rfl)
theorem dX3_bondIt_170 : decode cX3_bondIt 170 = .ok (.iaload, 1) := dk_46 (dk_at dksX3_bondIt_7 9 rfl rfl)
theorem dX3_bondIt_171 : decode cX3_bondIt 171 = .ok (.isub, 1) := dk_100 (dk_at dksX3_bondIt_7 10 rfl rfl)
theorem dX3_bondIt_172 : decode cX3_bondIt 172 = .ok (.invokevirtual 91, 3) := dk_182 0 91 (dk_at dksX3_bondIt_7 11 rfl rfl)
theorem dX3_bondIt_175 : decode cX3_bondIt 175 = .ok (.ireturn, 1) := dk_172 (dk_at dksX3_bondIt_7 14 rfl rfl)
theorem dX3_bondIt_176 : decode cX3_bondIt 176 = .ok (.aload_n 0, 1) := dk_42 (dk_at dksX3_bondIt_7 15 rfl rfl)
theorem dX3_bondIt_177 : decode cX3_bondIt 177 = .ok (.getfield 9, 3) := dk_180 0 9 (dk_at dksX3_bondIt_7 16 rfl rfl)
theorem dX3_bondIt_180 : decode cX3_bondIt 180 = .ok (.iload 4, 2) := dk_21 4 (dk_at dksX3_bondIt_7 19 rfl rfl)
theorem dX3_bondIt_182 : decode cX3_bondIt 182 = .ok (.dup2, 1) := dk_92 (dk_at dksX3_bondIt_7 21 rfl rfl)
theorem dX3_bondIt_183 : decode cX3_bondIt 183 = .ok (.iaload, 1) := dk_46 (dk_at dksX3_bondIt_7 22 rfl rfl)
theorem dX3_bondIt_184 : decode cX3_bondIt 184 = .ok (.iconst 2, 1) := dk_5 (dk_at dksX3_bondIt_7 23 rfl rfl)
theorem dX3_bondIt_185 : decode cX3_bondIt 185 = .ok (.iload_n 3, 1) := dk_29 (dk_at dksX3_bondIt_8 0 rfl rfl)
theorem dX3_bondIt_186 : decode cX3_bondIt 186 = .ok (.imul, 1) := dk_104 (dk_at dksX3_bondIt_8 1 rfl rfl)
theorem dX3_bondIt_187 : decode cX3_bondIt 187 = .ok (.isub, 1) := dk_100 (dk_at dksX3_bondIt_8 2 rfl rfl)
theorem dX3_bondIt_188 : decode cX3_bondIt 188 = .ok (.iastore, 1) := dk_79 (dk_at dksX3_bondIt_8 3 rfl rfl)
theorem dX3_bondIt_189 : decode cX3_bondIt 189 = .ok (.aload_n 0, 1) := dk_42 (dk_at dksX3_bondIt_8 4 rfl rfl)
theorem dX3_bondIt_190 : decode cX3_bondIt 190 = .ok (.getfield 9, 3) := dk_180 0 9 (dk_at dksX3_bondIt_8 5 rfl rfl)
theorem dX3_bondIt_193 : decode cX3_bondIt 193 = .ok (.iload 4, 2) := dk_21 4 (dk_at dksX3_bondIt_8 8 rfl rfl)
theorem dX3_bondIt_195 : decode cX3_bondIt 195 = .ok (.iconst 4, 1) := dk_7 (dk_at dksX3_bondIt_8 10 rfl rfl)
theorem dX3_bondIt_196 : decode cX3_bondIt 196 = .ok (.iadd, 1) := dk_96 (dk_at dksX3_bondIt_8 11 rfl rfl)
theorem dX3_bondIt_197 : decode cX3_bondIt 197 = .ok (.iload_n 1, 1) := dk_27 (dk_at dksX3_bondIt_8 12 rfl rfl)
theorem dX3_bondIt_198 : decode cX3_bondIt 198 = .ok (.iastore, 1) := dk_79 (dk_at dksX3_bondIt_8 13 rfl rfl)
theorem dX3_bondIt_199 : decode cX3_bondIt 199 = .ok (.aload_n 0, 1) := dk_42 (dk_at dksX3_bondIt_8 14 rfl rfl)
theorem dX3_bondIt_200 : decode cX3_bondIt 200 = .ok (.getfield 9, 3) := dk_180 0 9 (dk_at dksX3_bondIt_8 15 rfl rfl)
theorem dX3_bondIt_203 : decode cX3_bondIt 203 = .ok (.iload 4, 2) := dk_21 4 (dk_at dksX3_bondIt_8 18 rfl rfl)
theorem dX3_bondIt_205 : decode cX3_bondIt 205 = .ok (.iconst 5, 1) := dk_8 (dk_at dksX3_bondIt_8 20 rfl rfl)
theorem dX3_bondIt_206 : decode cX3_bondIt 206 = .ok (.iadd, 1) := dk_96 (dk_at dksX3_bondIt_8 21 rfl rfl)
theorem dX3_bondIt_207 : decode cX3_bondIt 207 = .ok (.iload_n 3, 1) := dk_29 (dk_at dksX3_bondIt_8 22 rfl rfl)
theorem dX3_bondIt_208 : decode cX3_bondIt 208 = .ok (.iastore, 1) := dk_79 (dk_at dksX3_bondIt_8 23 rfl rfl)
theorem dX3_bondIt_209 : decode cX3_bondIt 209 = .ok (.aload_n 0, 1) := dk_42 (dk_at dksX3_bondIt_9 0 rfl rfl)
theorem dX3_bondIt_210 : decode cX3_bondIt 210 = .ok (.getfield 9, 3) := dk_180 0 9 (dk_at dksX3_bondIt_9 1 rfl rfl)
theorem dX3_bondIt_213 : decode cX3_bondIt 213 = .ok (.iload_n 1, 1) := dk_27 (dk_at dksX3_bondIt_9 4 rfl rfl)
theorem dX3_bondIt_214 : decode cX3_bondIt 214 = .ok (.invokestatic 120, 3) := dk_184 0 120 (dk_at dksX3_bondIt_9 5 rfl rfl)
theorem dX3_bondIt_217 : decode cX3_bondIt 217 = .ok (.dup2, 1) := dk_92 (dk_at dksX3_bondIt_9 8 rfl rfl)
theorem dX3_bondIt_218 : decode cX3_bondIt 218 = .ok (.iaload, 1) := dk_46 (dk_at dksX3_bondIt_9 9 rfl rfl)
theorem dX3_bondIt_219 : decode cX3_bondIt 219 = .ok (.iconst 2, 1) := dk_5 (dk_at dksX3_bondIt_9 10 rfl rfl)
theorem dX3_bondIt_220 : decode cX3_bondIt 220 = .ok (.iload_n 3, 1) := dk_29 (dk_at dksX3_bondIt_9 11 rfl rfl)
theorem dX3_bondIt_221 : decode cX3_bondIt 221 = .ok (.imul, 1) := dk_104 (dk_at dksX3_bondIt_9 12 rfl rfl)
theorem dX3_bondIt_222 : decode cX3_bondIt 222 = .ok (.iadd, 1) := dk_96 (dk_at dksX3_bondIt_9 13 rfl rfl)
theorem dX3_bondIt_223 : decode cX3_bondIt 223 = .ok (.iastore, 1) := dk_79 (dk_at dksX3_bondIt_9 14 rfl rfl)
theorem dX3_bondIt_224 : decode cX3_bondIt 224 = .ok (.aload_n 0, 1) := dk_42 (dk_at dksX3_bondIt_9 15 rfl rfl)
theorem dX3_bondIt_225 : decode cX3_bondIt 225 = .ok (.getfield 9, 3) := dk_180 0 9 (dk_at dksX3_bondIt_9 16 rfl rfl)
theorem dX3_bondIt_228 : decode cX3_bondIt 228 = .ok (.iload_n 1, 1) := dk_27 (dk_at dksX3_bondIt_9 19 rfl rfl)
theorem dX3_bondIt_229 : decode cX3_bondIt 229 = .ok (.invokestatic 120, 3) := dk_184 0 120 (dk_at dksX3_bondIt_9 20 rfl rfl)
theorem dX3_bondIt_232 : decode cX3_bondIt 232 = .ok (.iconst 1, 1) := dk_4 (dk_at dksX3_bondIt_9 23 rfl rfl)
theorem dX3_bondIt_233 : decode cX3_bondIt 233 = .ok (.iadd, 1) := dk_96 (dk_at dksX3_bondIt_10 0 rfl rfl)
theorem dX3_bondIt_234 : decode cX3_bondIt 234 = .ok (.dup2, 1) := dk_92 (dk_at dksX3_bondIt_10 1 rfl rfl)
theorem dX3_bondIt_235 : decode cX3_bondIt 235 = .ok (.iaload, 1) := dk_46 (dk_at dksX3_bondIt_10 2 rfl rfl)
theorem dX3_bondIt_236 : decode cX3_bondIt 236 = .ok (.iconst 2, 1) := dk_5 (dk_at dksX3_bondIt_10 3 rfl rfl)
theorem dX3_bondIt_237 : decode cX3_bondIt 237 = .ok (.iload_n 3, 1) := dk_29 (dk_at dksX3_bondIt_10 4 rfl rfl)
theorem dX3_bondIt_238 : decode cX3_bondIt 238 = .ok (.imul, 1) := dk_104 (dk_at dksX3_bondIt_10 5 rfl rfl)
theorem dX3_bondIt_239 : decode cX3_bondIt 239 = .ok (.iadd, 1) := dk_96 (dk_at dksX3_bondIt_10 6 rfl rfl)
theorem dX3_bondIt_240 : decode cX3_bondIt 240 = .ok (.iastore, 1) := dk_79 (dk_at dksX3_bondIt_10 7 rfl rfl)
theorem dX3_bondIt_241 : decode cX3_bondIt 241 = .ok (.aload_n 0, 1) := dk_42 (dk_at dksX3_bondIt_10 8 rfl rfl)
theorem dX3_bondIt_242 : decode cX3_bondIt 242 = .ok (.getfield 9, 3) := dk_180 0 9 (dk_at dksX3_bondIt_10 9 rfl rfl)
theorem dX3_bondIt_245 : decode cX3_bondIt 245 = .ok (.iload 4, 2) := dk_21 4 (dk_at dksX3_bondIt_10 12 rfl rfl)
theorem dX3_bondIt_247 : decode cX3_bondIt 247 = .ok (.iaload, 1) := dk_46 (dk_at dksX3_bondIt_10 14 rfl rfl)
theorem dX3_bondIt_248 : decode cX3_bondIt 248 = .ok (.ireturn, 1) := dk_172 (dk_at dksX3_bondIt_10 15 rfl rfl)
abbrev cX3_isVisitor : ByteArray := prog_10_method_15_code
def yX3_isVisitor : MethodName := ⟨RX3, "isVisitor", "(I)Z"⟩
def dkwX3_isVisitor_0 : List UInt8 := [27, 133, 9, 42, 180, 0, 9, 4, 46, 4, 100, 133, 184, 0, 59, 172]
abbrev dktX3_isVisitor_0 : List UInt8 := dkwX3_isVisitor_0 ++ []
theorem dksX3_isVisitor_0 : cX3_isVisitor.data.toList.drop 0 = dktX3_isVisitor_0 := by decide +kernel
theorem dX3_isVisitor_0 : decode cX3_isVisitor 0 = .ok (.iload_n 1, 1) := dk_27 (dk_at dksX3_isVisitor_0 0 rfl rfl)
theorem dX3_isVisitor_1 : decode cX3_isVisitor 1 = .ok (.i2l, 1) := dk_133 (dk_at dksX3_isVisitor_0 1 rfl rfl)
theorem dX3_isVisitor_2 : decode cX3_isVisitor 2 = .ok (.lconst 0, 1) := dk_9 (dk_at dksX3_isVisitor_0 2 rfl rfl)
theorem dX3_isVisitor_3 : decode cX3_isVisitor 3 = .ok (.aload_n 0, 1) := dk_42 (dk_at dksX3_isVisitor_0 3 rfl rfl)
theorem dX3_isVisitor_4 : decode cX3_isVisitor 4 = .ok (.getfield 9, 3) := dk_180 0 9 (dk_at dksX3_isVisitor_0 4 rfl rfl)
theorem dX3_isVisitor_7 : decode cX3_isVisitor 7 = .ok (.iconst 1, 1) := dk_4 (dk_at dksX3_isVisitor_0 7 rfl rfl)
theorem dX3_isVisitor_8 : decode cX3_isVisitor 8 = .ok (.iaload, 1) := dk_46 (dk_at dksX3_isVisitor_0 8 rfl rfl)
theorem dX3_isVisitor_9 : decode cX3_isVisitor 9 = .ok (.iconst 1, 1) := dk_4 (dk_at dksX3_isVisitor_0 9 rfl rfl)
theorem dX3_isVisitor_10 : decode cX3_isVisitor 10 = .ok (.isub, 1) := dk_100 (dk_at dksX3_isVisitor_0 10 rfl rfl)
theorem dX3_isVisitor_11 : decode cX3_isVisitor 11 = .ok (.i2l, 1) := dk_133 (dk_at dksX3_isVisitor_0 11 rfl rfl)
theorem dX3_isVisitor_12 : decode cX3_isVisitor 12 = .ok (.invokestatic 59, 3) := dk_184 0 59 (dk_at dksX3_isVisitor_0 12 rfl rfl)
theorem dX3_isVisitor_15 : decode cX3_isVisitor 15 = .ok (.ireturn, 1) := dk_172 (dk_at dksX3_isVisitor_0 15 rfl rfl)
abbrev cX3_walk : ByteArray := prog_10_method_40_code
def yX3_walk : MethodName := ⟨RX3, "walk", "(II)I"⟩
def dkwX3_walk_0 : List UInt8 := [42, 182, 0, 100, 42, 42, 27, 28, 182, 0, 168, 182, 0, 107, 172]
abbrev dktX3_walk_0 : List UInt8 := dkwX3_walk_0 ++ []
theorem dksX3_walk_0 : cX3_walk.data.toList.drop 0 = dktX3_walk_0 := by decide +kernel
theorem dX3_walk_0 : decode cX3_walk 0 = .ok (.aload_n 0, 1) := dk_42 (dk_at dksX3_walk_0 0 rfl rfl)
theorem dX3_walk_1 : decode cX3_walk 1 = .ok (.invokevirtual 100, 3) := dk_182 0 100 (dk_at dksX3_walk_0 1 rfl rfl)
theorem dX3_walk_4 : decode cX3_walk 4 = .ok (.aload_n 0, 1) := dk_42 (dk_at dksX3_walk_0 4 rfl rfl)
theorem dX3_walk_5 : decode cX3_walk 5 = .ok (.aload_n 0, 1) := dk_42 (dk_at dksX3_walk_0 5 rfl rfl)
theorem dX3_walk_6 : decode cX3_walk 6 = .ok (.iload_n 1, 1) := dk_27 (dk_at dksX3_walk_0 6 rfl rfl)
theorem dX3_walk_7 : decode cX3_walk 7 = .ok (.iload_n 2, 1) := dk_28 (dk_at dksX3_walk_0 7 rfl rfl)
theorem dX3_walk_8 : decode cX3_walk 8 = .ok (.invokevirtual 168, 3) := dk_182 0 168 (dk_at dksX3_walk_0 8 rfl rfl)
theorem dX3_walk_11 : decode cX3_walk 11 = .ok (.invokevirtual 107, 3) := dk_182 0 107 (dk_at dksX3_walk_0 11 rfl rfl)
theorem dX3_walk_14 : decode cX3_walk 14 = .ok (.ireturn, 1) := dk_172 (dk_at dksX3_walk_0 14 rfl rfl)
abbrev cX3_walkIt : ByteArray := prog_10_method_39_code
def yX3_walkIt : MethodName := ⟨RX3, "walkIt", "(II)I"⟩
def dkwX3_walkIt_14 : List UInt8 := [172]
abbrev dktX3_walkIt_14 : List UInt8 := dkwX3_walkIt_14 ++ []
def dkwX3_walkIt_13 : List UInt8 := [96, 2, 79, 42, 180, 0, 9, 29, 8, 96, 3, 79, 42, 180, 0, 9, 29, 16, 6, 96, 3, 79, 21, 5]
abbrev dktX3_walkIt_13 : List UInt8 := dkwX3_walkIt_13 ++ dktX3_walkIt_14
def dkwX3_walkIt_12 : List UInt8 := [5, 96, 92, 46, 21, 6, 96, 79, 42, 180, 0, 9, 29, 16, 7, 96, 4, 79, 42, 180, 0, 9, 29, 7]
abbrev dktX3_walkIt_12 : List UInt8 := dkwX3_walkIt_12 ++ dktX3_walkIt_13
def dkwX3_walkIt_11 : List UInt8 := [184, 0, 120, 92, 46, 21, 6, 100, 79, 42, 180, 0, 9, 42, 180, 0, 9, 29, 7, 96, 46, 184, 0, 120]
abbrev dktX3_walkIt_11 : List UInt8 := dkwX3_walkIt_11 ++ dktX3_walkIt_12
def dkwX3_walkIt_10 : List UInt8 := [180, 0, 9, 29, 7, 96, 46, 2, 159, 0, 47, 42, 180, 0, 9, 42, 180, 0, 9, 29, 7, 96, 46]
abbrev dktX3_walkIt_10 : List UInt8 := dkwX3_walkIt_10 ++ dktX3_walkIt_11
def dkwX3_walkIt_9 : List UInt8 := [42, 27, 42, 27, 182, 0, 162, 182, 0, 165, 54, 6, 42, 180, 0, 9, 29, 92, 46, 21, 6, 96, 79, 42]
abbrev dktX3_walkIt_9 : List UInt8 := dkwX3_walkIt_9 ++ dktX3_walkIt_10
def dkwX3_walkIt_8 : List UInt8 := [158, 0, 7, 4, 167, 0, 12, 42, 180, 0, 9, 29, 16, 6, 96, 46, 79, 21, 5, 16, 15, 160, 0, 120]
abbrev dktX3_walkIt_8 : List UInt8 := dkwX3_walkIt_8 ++ dktX3_walkIt_9
def dkwX3_walkIt_7 : List UInt8 := [180, 0, 9, 29, 16, 6, 96, 42, 27, 182, 0, 131, 153, 0, 18, 42, 180, 0, 9, 29, 8, 96, 46]
abbrev dktX3_walkIt_7 : List UInt8 := dkwX3_walkIt_7 ++ dktX3_walkIt_8
def dkwX3_walkIt_6 : List UInt8 := [180, 0, 9, 29, 4, 96, 21, 5, 79, 42, 180, 0, 9, 29, 5, 96, 92, 46, 4, 96, 79, 42]
abbrev dktX3_walkIt_6 : List UInt8 := dkwX3_walkIt_6 ++ dktX3_walkIt_7
def dkwX3_walkIt_5 : List UInt8 := [154, 0, 22, 42, 16, 12, 42, 180, 0, 9, 21, 4, 21, 5, 184, 0, 77, 46, 182, 0, 91, 172, 42]
abbrev dktX3_walkIt_5 : List UInt8 := dkwX3_walkIt_5 ++ dktX3_walkIt_6
def dkwX3_walkIt_4 : List UInt8 := [2, 160, 0, 12, 42, 16, 11, 21, 4, 182, 0, 91, 172, 42, 21, 4, 21, 5, 184, 0, 77, 182, 0, 80]
abbrev dktX3_walkIt_4 : List UInt8 := dkwX3_walkIt_4 ++ dktX3_walkIt_5
def dkwX3_walkIt_3 : List UInt8 := [182, 0, 91, 172, 42, 180, 0, 9, 29, 4, 96, 46, 54, 4, 21, 4, 28, 184, 0, 74, 54, 5, 21, 5]
abbrev dktX3_walkIt_3 : List UInt8 := dkwX3_walkIt_3 ++ dktX3_walkIt_4
def dkwX3_walkIt_2 : List UInt8 := [180, 0, 9, 29, 16, 7, 96, 46, 4, 160, 0, 18, 42, 16, 9, 42, 180, 0, 9, 29, 5, 96, 46]
abbrev dktX3_walkIt_2 : List UInt8 := dkwX3_walkIt_2 ++ dktX3_walkIt_3
def dkwX3_walkIt_1 : List UInt8 := [20, 0, 63, 184, 0, 59, 154, 0, 10, 42, 4, 3, 182, 0, 91, 172, 27, 184, 0, 126, 62, 42]
abbrev dktX3_walkIt_1 : List UInt8 := dkwX3_walkIt_1 ++ dktX3_walkIt_2
def dkwX3_walkIt_0 : List UInt8 := [42, 27, 182, 0, 154, 154, 0, 16, 42, 16, 7, 42, 180, 0, 9, 4, 46, 182, 0, 91, 172, 28, 133, 9]
abbrev dktX3_walkIt_0 : List UInt8 := dkwX3_walkIt_0 ++ dktX3_walkIt_1
theorem dksX3_walkIt_0 : cX3_walkIt.data.toList.drop 0 = dktX3_walkIt_0 := by decide +kernel
theorem dksX3_walkIt_1 : cX3_walkIt.data.toList.drop 24 = dktX3_walkIt_1 := dk_seg dksX3_walkIt_0 24 rfl rfl
theorem dksX3_walkIt_2 : cX3_walkIt.data.toList.drop 46 = dktX3_walkIt_2 := dk_seg dksX3_walkIt_1 22 rfl rfl
theorem dksX3_walkIt_3 : cX3_walkIt.data.toList.drop 69 = dktX3_walkIt_3 := dk_seg dksX3_walkIt_2 23 rfl rfl
theorem dksX3_walkIt_4 : cX3_walkIt.data.toList.drop 93 = dktX3_walkIt_4 := dk_seg dksX3_walkIt_3 24 rfl rfl
theorem dksX3_walkIt_5 : cX3_walkIt.data.toList.drop 117 = dktX3_walkIt_5 := dk_seg dksX3_walkIt_4 24 rfl rfl
theorem dksX3_walkIt_6 : cX3_walkIt.data.toList.drop 140 = dktX3_walkIt_6 := dk_seg dksX3_walkIt_5 23 rfl rfl
theorem dksX3_walkIt_7 : cX3_walkIt.data.toList.drop 162 = dktX3_walkIt_7 := dk_seg dksX3_walkIt_6 22 rfl rfl
theorem dksX3_walkIt_8 : cX3_walkIt.data.toList.drop 185 = dktX3_walkIt_8 := dk_seg dksX3_walkIt_7 23 rfl rfl
theorem dksX3_walkIt_9 : cX3_walkIt.data.toList.drop 209 = dktX3_walkIt_9 := dk_seg dksX3_walkIt_8 24 rfl rfl
theorem dksX3_walkIt_10 : cX3_walkIt.data.toList.drop 233 = dktX3_walkIt_10 := dk_seg dksX3_walkIt_9 24 rfl rfl
theorem dksX3_walkIt_11 : cX3_walkIt.data.toList.drop 256 = dktX3_walkIt_11 := dk_seg dksX3_walkIt_10 23 rfl rfl
theorem dksX3_walkIt_12 : cX3_walkIt.data.toList.drop 280 = dktX3_walkIt_12 := dk_seg dksX3_walkIt_11 24 rfl rfl
theorem dksX3_walkIt_13 : cX3_walkIt.data.toList.drop 304 = dktX3_walkIt_13 := dk_seg dksX3_walkIt_12 24 rfl rfl
theorem dksX3_walkIt_14 : cX3_walkIt.data.toList.drop 328 = dktX3_walkIt_14 := dk_seg dksX3_walkIt_13 24 rfl rfl
theorem dX3_walkIt_0 : decode cX3_walkIt 0 = .ok (.aload_n 0, 1) := dk_42 (dk_at dksX3_walkIt_0 0 rfl rfl)
theorem dX3_walkIt_1 : decode cX3_walkIt 1 = .ok (.iload_n 1, 1) := dk_27 (dk_at dksX3_walkIt_0 1 rfl rfl)
theorem dX3_walkIt_2 : decode cX3_walkIt 2 = .ok (.invokevirtual 154, 3) := dk_182 0 154 (dk_at dksX3_walkIt_0 2 rfl rfl)
theorem dX3_walkIt_5 : decode cX3_walkIt 5 = .ok (.ifCond .ne 16, 3) := dk_154 0 16 (dk_at dksX3_walkIt_0 5 rfl rfl)
theorem dX3_walkIt_8 : decode cX3_walkIt 8 = .ok (.aload_n 0, 1) := dk_42 (dk_at dksX3_walkIt_0 8 rfl rfl)
theorem dX3_walkIt_9 : decode cX3_walkIt 9 = .ok (.bipush 7, 2) := dk_16 7 (dk_at dksX3_walkIt_0 9 rfl rfl)
theorem dX3_walkIt_11 : decode cX3_walkIt 11 = .ok (.aload_n 0, 1) := dk_42 (dk_at dksX3_walkIt_0 11 rfl rfl)
theorem dX3_walkIt_12 : decode cX3_walkIt 12 = .ok (.getfield 9, 3) := dk_180 0 9 (dk_at dksX3_walkIt_0 12 rfl rfl)
theorem dX3_walkIt_15 : decode cX3_walkIt 15 = .ok (.iconst 1, 1) := dk_4 (dk_at dksX3_walkIt_0 15 rfl rfl)
theorem dX3_walkIt_16 : decode cX3_walkIt 16 = .ok (.iaload, 1) := dk_46 (dk_at dksX3_walkIt_0 16 rfl rfl)
theorem dX3_walkIt_17 : decode cX3_walkIt 17 = .ok (.invokevirtual 91, 3) := dk_182 0 91 (dk_at dksX3_walkIt_0 17 rfl rfl)
theorem dX3_walkIt_20 : decode cX3_walkIt 20 = .ok (.ireturn, 1) := dk_172 (dk_at dksX3_walkIt_0 20 rfl rfl)
theorem dX3_walkIt_21 : decode cX3_walkIt 21 = .ok (.iload_n 2, 1) := dk_28 (dk_at dksX3_walkIt_0 21 rfl rfl)
theorem dX3_walkIt_22 : decode cX3_walkIt 22 = .ok (.i2l, 1) := dk_133 (dk_at dksX3_walkIt_0 22 rfl rfl)
theorem dX3_walkIt_23 : decode cX3_walkIt 23 = .ok (.lconst 0, 1) := dk_9 (dk_at dksX3_walkIt_0 23 rfl rfl)
theorem dX3_walkIt_24 : decode cX3_walkIt 24 = .ok (.ldc2_w 63, 3) := dk_20 0 63 (dk_at dksX3_walkIt_1 0 rfl rfl)
theorem dX3_walkIt_27 : decode cX3_walkIt 27 = .ok (.invokestatic 59, 3) := dk_184 0 59 (dk_at dksX3_walkIt_1 3 rfl rfl)
theorem dX3_walkIt_30 : decode cX3_walkIt 30 = .ok (.ifCond .ne 10, 3) := dk_154 0 10 (dk_at dksX3_walkIt_1 6 rfl rfl)
theorem dX3_walkIt_33 : decode cX3_walkIt 33 = .ok (.aload_n 0, 1) := dk_42 (dk_at dksX3_walkIt_1 9 rfl rfl)
theorem dX3_walkIt_34 : decode cX3_walkIt 34 = .ok (.iconst 1, 1) := dk_4 (dk_at dksX3_walkIt_1 10 rfl rfl)
theorem dX3_walkIt_35 : decode cX3_walkIt 35 = .ok (.iconst 0, 1) := dk_3 (dk_at dksX3_walkIt_1 11 rfl rfl)
theorem dX3_walkIt_36 : decode cX3_walkIt 36 = .ok (.invokevirtual 91, 3) := dk_182 0 91 (dk_at dksX3_walkIt_1 12 rfl rfl)
theorem dX3_walkIt_39 : decode cX3_walkIt 39 = .ok (.ireturn, 1) := dk_172 (dk_at dksX3_walkIt_1 15 rfl rfl)
theorem dX3_walkIt_40 : decode cX3_walkIt 40 = .ok (.iload_n 1, 1) := dk_27 (dk_at dksX3_walkIt_1 16 rfl rfl)
theorem dX3_walkIt_41 : decode cX3_walkIt 41 = .ok (.invokestatic 126, 3) := dk_184 0 126 (dk_at dksX3_walkIt_1 17 rfl rfl)
theorem dX3_walkIt_44 : decode cX3_walkIt 44 = .ok (.istore_n 3, 1) := dk_62 (dk_at dksX3_walkIt_1 20 rfl rfl)
theorem dX3_walkIt_45 : decode cX3_walkIt 45 = .ok (.aload_n 0, 1) := dk_42 (dk_at dksX3_walkIt_1 21 rfl rfl)
theorem dX3_walkIt_46 : decode cX3_walkIt 46 = .ok (.getfield 9, 3) := dk_180 0 9 (dk_at dksX3_walkIt_2 0 rfl rfl)
theorem dX3_walkIt_49 : decode cX3_walkIt 49 = .ok (.iload_n 3, 1) := dk_29 (dk_at dksX3_walkIt_2 3 rfl rfl)
theorem dX3_walkIt_50 : decode cX3_walkIt 50 = .ok (.bipush 7, 2) := dk_16 7 (dk_at dksX3_walkIt_2 4 rfl rfl)
theorem dX3_walkIt_52 : decode cX3_walkIt 52 = .ok (.iadd, 1) := dk_96 (dk_at dksX3_walkIt_2 6 rfl rfl)
theorem dX3_walkIt_53 : decode cX3_walkIt 53 = .ok (.iaload, 1) := dk_46 (dk_at dksX3_walkIt_2 7 rfl rfl)
theorem dX3_walkIt_54 : decode cX3_walkIt 54 = .ok (.iconst 1, 1) := dk_4 (dk_at dksX3_walkIt_2 8 rfl rfl)
theorem dX3_walkIt_55 : decode cX3_walkIt 55 = .ok (.if_icmp .ne 18, 3) := dk_160 0 18 (dk_at dksX3_walkIt_2 9 rfl rfl)
theorem dX3_walkIt_58 : decode cX3_walkIt 58 = .ok (.aload_n 0, 1) := dk_42 (dk_at dksX3_walkIt_2 12 rfl rfl)
theorem dX3_walkIt_59 : decode cX3_walkIt 59 = .ok (.bipush 9, 2) := dk_16 9 (dk_at dksX3_walkIt_2 13 rfl rfl)
theorem dX3_walkIt_61 : decode cX3_walkIt 61 = .ok (.aload_n 0, 1) := dk_42 (dk_at dksX3_walkIt_2 15 rfl rfl)
theorem dX3_walkIt_62 : decode cX3_walkIt 62 = .ok (.getfield 9, 3) := dk_180 0 9 (dk_at dksX3_walkIt_2 16 rfl rfl)
theorem dX3_walkIt_65 : decode cX3_walkIt 65 = .ok (.iload_n 3, 1) := dk_29 (dk_at dksX3_walkIt_2 19 rfl rfl)
theorem dX3_walkIt_66 : decode cX3_walkIt 66 = .ok (.iconst 2, 1) := dk_5 (dk_at dksX3_walkIt_2 20 rfl rfl)
theorem dX3_walkIt_67 : decode cX3_walkIt 67 = .ok (.iadd, 1) := dk_96 (dk_at dksX3_walkIt_2 21 rfl rfl)
theorem dX3_walkIt_68 : decode cX3_walkIt 68 = .ok (.iaload, 1) := dk_46 (dk_at dksX3_walkIt_2 22 rfl rfl)
theorem dX3_walkIt_69 : decode cX3_walkIt 69 = .ok (.invokevirtual 91, 3) := dk_182 0 91 (dk_at dksX3_walkIt_3 0 rfl rfl)
theorem dX3_walkIt_72 : decode cX3_walkIt 72 = .ok (.ireturn, 1) := dk_172 (dk_at dksX3_walkIt_3 3 rfl rfl)
theorem dX3_walkIt_73 : decode cX3_walkIt 73 = .ok (.aload_n 0, 1) := dk_42 (dk_at dksX3_walkIt_3 4 rfl rfl)
theorem dX3_walkIt_74 : decode cX3_walkIt 74 = .ok (.getfield 9, 3) := dk_180 0 9 (dk_at dksX3_walkIt_3 5 rfl rfl)
theorem dX3_walkIt_77 : decode cX3_walkIt 77 = .ok (.iload_n 3, 1) := dk_29 (dk_at dksX3_walkIt_3 8 rfl rfl)
theorem dX3_walkIt_78 : decode cX3_walkIt 78 = .ok (.iconst 1, 1) := dk_4 (dk_at dksX3_walkIt_3 9 rfl rfl)
theorem dX3_walkIt_79 : decode cX3_walkIt 79 = .ok (.iadd, 1) := dk_96 (dk_at dksX3_walkIt_3 10 rfl rfl)
theorem dX3_walkIt_80 : decode cX3_walkIt 80 = .ok (.iaload, 1) := dk_46 (dk_at dksX3_walkIt_3 11 rfl rfl)
theorem dX3_walkIt_81 : decode cX3_walkIt 81 = .ok (.istore 4, 2) := dk_54 4 (dk_at dksX3_walkIt_3 12 rfl rfl)
theorem dX3_walkIt_83 : decode cX3_walkIt 83 = .ok (.iload 4, 2) := dk_21 4 (dk_at dksX3_walkIt_3 14 rfl rfl)
theorem dX3_walkIt_85 : decode cX3_walkIt 85 = .ok (.iload_n 2, 1) := dk_28 (dk_at dksX3_walkIt_3 16 rfl rfl)
theorem dX3_walkIt_86 : decode cX3_walkIt 86 = .ok (.invokestatic 74, 3) := dk_184 0 74 (dk_at dksX3_walkIt_3 17 rfl rfl)
theorem dX3_walkIt_89 : decode cX3_walkIt 89 = .ok (.istore 5, 2) := dk_54 5 (dk_at dksX3_walkIt_3 20 rfl rfl)
theorem dX3_walkIt_91 : decode cX3_walkIt 91 = .ok (.iload 5, 2) := dk_21 5 (dk_at dksX3_walkIt_3 22 rfl rfl)
theorem dX3_walkIt_93 : decode cX3_walkIt 93 = .ok (.iconst (-1), 1) := dk_2 (dk_at dksX3_walkIt_4 0 rfl rfl)
theorem dX3_walkIt_94 : decode cX3_walkIt 94 = .ok (.if_icmp .ne 12, 3) := dk_160 0 12 (dk_at dksX3_walkIt_4 1 rfl rfl)
theorem dX3_walkIt_97 : decode cX3_walkIt 97 = .ok (.aload_n 0, 1) := dk_42 (dk_at dksX3_walkIt_4 4 rfl rfl)
theorem dX3_walkIt_98 : decode cX3_walkIt 98 = .ok (.bipush 11, 2) := dk_16 11 (dk_at dksX3_walkIt_4 5 rfl rfl)
theorem dX3_walkIt_100 : decode cX3_walkIt 100 = .ok (.iload 4, 2) := dk_21 4 (dk_at dksX3_walkIt_4 7 rfl rfl)
theorem dX3_walkIt_102 : decode cX3_walkIt 102 = .ok (.invokevirtual 91, 3) := dk_182 0 91 (dk_at dksX3_walkIt_4 9 rfl rfl)
theorem dX3_walkIt_105 : decode cX3_walkIt 105 = .ok (.ireturn, 1) := dk_172 (dk_at dksX3_walkIt_4 12 rfl rfl)
theorem dX3_walkIt_106 : decode cX3_walkIt 106 = .ok (.aload_n 0, 1) := dk_42 (dk_at dksX3_walkIt_4 13 rfl rfl)
theorem dX3_walkIt_107 : decode cX3_walkIt 107 = .ok (.iload 4, 2) := dk_21 4 (dk_at dksX3_walkIt_4 14 rfl rfl)
theorem dX3_walkIt_109 : decode cX3_walkIt 109 = .ok (.iload 5, 2) := dk_21 5 (dk_at dksX3_walkIt_4 16 rfl rfl)
theorem dX3_walkIt_111 : decode cX3_walkIt 111 = .ok (.invokestatic 77, 3) := dk_184 0 77 (dk_at dksX3_walkIt_4 18 rfl rfl)
theorem dX3_walkIt_114 : decode cX3_walkIt 114 = .ok (.invokevirtual 80, 3) := dk_182 0 80 (dk_at dksX3_walkIt_4 21 rfl rfl)
theorem dX3_walkIt_117 : decode cX3_walkIt 117 = .ok (.ifCond .ne 22, 3) := dk_154 0 22 (dk_at dksX3_walkIt_5 0 rfl rfl)
theorem dX3_walkIt_120 : decode cX3_walkIt 120 = .ok (.aload_n 0, 1) := dk_42 (dk_at dksX3_walkIt_5 3 rfl rfl)
theorem dX3_walkIt_121 : decode cX3_walkIt 121 = .ok (.bipush 12, 2) := dk_16 12 (dk_at dksX3_walkIt_5 4 rfl rfl)
theorem dX3_walkIt_123 : decode cX3_walkIt 123 = .ok (.aload_n 0, 1) := dk_42 (dk_at dksX3_walkIt_5 6 rfl rfl)
theorem dX3_walkIt_124 : decode cX3_walkIt 124 = .ok (.getfield 9, 3) := dk_180 0 9 (dk_at dksX3_walkIt_5 7 rfl rfl)
theorem dX3_walkIt_127 : decode cX3_walkIt 127 = .ok (.iload 4, 2) := dk_21 4 (dk_at dksX3_walkIt_5 10 rfl rfl)
theorem dX3_walkIt_129 : decode cX3_walkIt 129 = .ok (.iload 5, 2) := dk_21 5 (dk_at dksX3_walkIt_5 12 rfl rfl)
theorem dX3_walkIt_131 : decode cX3_walkIt 131 = .ok (.invokestatic 77, 3) := dk_184 0 77 (dk_at dksX3_walkIt_5 14 rfl rfl)
theorem dX3_walkIt_134 : decode cX3_walkIt 134 = .ok (.iaload, 1) := dk_46 (dk_at dksX3_walkIt_5 17 rfl rfl)
theorem dX3_walkIt_135 : decode cX3_walkIt 135 = .ok (.invokevirtual 91, 3) := dk_182 0 91 (dk_at dksX3_walkIt_5 18 rfl rfl)
theorem dX3_walkIt_138 : decode cX3_walkIt 138 = .ok (.ireturn, 1) := dk_172 (dk_at dksX3_walkIt_5 21 rfl rfl)
theorem dX3_walkIt_139 : decode cX3_walkIt 139 = .ok (.aload_n 0, 1) := dk_42 (dk_at dksX3_walkIt_5 22 rfl rfl)
theorem dX3_walkIt_140 : decode cX3_walkIt 140 = .ok (.getfield 9, 3) := dk_180 0 9 (dk_at dksX3_walkIt_6 0 rfl rfl)
theorem dX3_walkIt_143 : decode cX3_walkIt 143 = .ok (.iload_n 3, 1) := dk_29 (dk_at dksX3_walkIt_6 3 rfl rfl)
theorem dX3_walkIt_144 : decode cX3_walkIt 144 = .ok (.iconst 1, 1) := dk_4 (dk_at dksX3_walkIt_6 4 rfl rfl)
theorem dX3_walkIt_145 : decode cX3_walkIt 145 = .ok (.iadd, 1) := dk_96 (dk_at dksX3_walkIt_6 5 rfl rfl)
theorem dX3_walkIt_146 : decode cX3_walkIt 146 = .ok (.iload 5, 2) := dk_21 5 (dk_at dksX3_walkIt_6 6 rfl rfl)
theorem dX3_walkIt_148 : decode cX3_walkIt 148 = .ok (.iastore, 1) := dk_79 (dk_at dksX3_walkIt_6 8 rfl rfl)
theorem dX3_walkIt_149 : decode cX3_walkIt 149 = .ok (.aload_n 0, 1) := dk_42 (dk_at dksX3_walkIt_6 9 rfl rfl)
theorem dX3_walkIt_150 : decode cX3_walkIt 150 = .ok (.getfield 9, 3) := dk_180 0 9 (dk_at dksX3_walkIt_6 10 rfl rfl)
theorem dX3_walkIt_153 : decode cX3_walkIt 153 = .ok (.iload_n 3, 1) := dk_29 (dk_at dksX3_walkIt_6 13 rfl rfl)
theorem dX3_walkIt_154 : decode cX3_walkIt 154 = .ok (.iconst 2, 1) := dk_5 (dk_at dksX3_walkIt_6 14 rfl rfl)
theorem dX3_walkIt_155 : decode cX3_walkIt 155 = .ok (.iadd, 1) := dk_96 (dk_at dksX3_walkIt_6 15 rfl rfl)
theorem dX3_walkIt_156 : decode cX3_walkIt 156 = .ok (.dup2, 1) := dk_92 (dk_at dksX3_walkIt_6 16 rfl rfl)
theorem dX3_walkIt_157 : decode cX3_walkIt 157 = .ok (.iaload, 1) := dk_46 (dk_at dksX3_walkIt_6 17 rfl rfl)
theorem dX3_walkIt_158 : decode cX3_walkIt 158 = .ok (.iconst 1, 1) := dk_4 (dk_at dksX3_walkIt_6 18 rfl rfl)
theorem dX3_walkIt_159 : decode cX3_walkIt 159 = .ok (.iadd, 1) := dk_96 (dk_at dksX3_walkIt_6 19 rfl rfl)
theorem dX3_walkIt_160 : decode cX3_walkIt 160 = .ok (.iastore, 1) := dk_79 (dk_at dksX3_walkIt_6 20 rfl rfl)
theorem dX3_walkIt_161 : decode cX3_walkIt 161 = .ok (.aload_n 0, 1) := dk_42 (dk_at dksX3_walkIt_6 21 rfl rfl)
theorem dX3_walkIt_162 : decode cX3_walkIt 162 = .ok (.getfield 9, 3) := dk_180 0 9 (dk_at dksX3_walkIt_7 0 rfl rfl)
theorem dX3_walkIt_165 : decode cX3_walkIt 165 = .ok (.iload_n 3, 1) := dk_29 (dk_at dksX3_walkIt_7 3 rfl rfl)
theorem dX3_walkIt_166 : decode cX3_walkIt 166 = .ok (.bipush 6, 2) := dk_16 6 (dk_at dksX3_walkIt_7 4 rfl rfl)
theorem dX3_walkIt_168 : decode cX3_walkIt 168 = .ok (.iadd, 1) := dk_96 (dk_at dksX3_walkIt_7 6 rfl rfl)
theorem dX3_walkIt_169 : decode cX3_walkIt 169 = .ok (.aload_n 0, 1) := dk_42 (dk_at dksX3_walkIt_7 7 rfl rfl)
theorem dX3_walkIt_170 : decode cX3_walkIt 170 = .ok (.iload_n 1, 1) := dk_27 (dk_at dksX3_walkIt_7 8 rfl rfl)
theorem dX3_walkIt_171 : decode cX3_walkIt 171 = .ok (.invokevirtual 131, 3) := dk_182 0 131 (dk_at dksX3_walkIt_7 9 rfl rfl)
theorem dX3_walkIt_174 : decode cX3_walkIt 174 = .ok (.ifCond .eq 18, 3) := dk_153 0 18 (dk_at dksX3_walkIt_7 12 rfl rfl)
theorem dX3_walkIt_177 : decode cX3_walkIt 177 = .ok (.aload_n 0, 1) := dk_42 (dk_at dksX3_walkIt_7 15 rfl rfl)
theorem dX3_walkIt_178 : decode cX3_walkIt 178 = .ok (.getfield 9, 3) := dk_180 0 9 (dk_at dksX3_walkIt_7 16 rfl rfl)
theorem dX3_walkIt_181 : decode cX3_walkIt 181 = .ok (.iload_n 3, 1) := dk_29 (dk_at dksX3_walkIt_7 19 rfl rfl)
theorem dX3_walkIt_182 : decode cX3_walkIt 182 = .ok (.iconst 5, 1) := dk_8 (dk_at dksX3_walkIt_7 20 rfl rfl)
theorem dX3_walkIt_183 : decode cX3_walkIt 183 = .ok (.iadd, 1) := dk_96 (dk_at dksX3_walkIt_7 21 rfl rfl)
theorem dX3_walkIt_184 : decode cX3_walkIt 184 = .ok (.iaload, 1) := dk_46 (dk_at dksX3_walkIt_7 22 rfl rfl)
theorem dX3_walkIt_185 : decode cX3_walkIt 185 = .ok (.ifCond .le 7, 3) := dk_158 0 7 (dk_at dksX3_walkIt_8 0 rfl rfl)
theorem dX3_walkIt_188 : decode cX3_walkIt 188 = .ok (.iconst 1, 1) := dk_4 (dk_at dksX3_walkIt_8 3 rfl rfl)
theorem dX3_walkIt_189 : decode cX3_walkIt 189 = .ok (.goto 12, 3) := dk_167 0 12 (dk_at dksX3_walkIt_8 4 rfl rfl)
theorem dX3_walkIt_192 : decode cX3_walkIt 192 = .ok (.aload_n 0, 1) := dk_42 (dk_at dksX3_walkIt_8 7 rfl rfl)
theorem dX3_walkIt_193 : decode cX3_walkIt 193 = .ok (.getfield 9, 3) := dk_180 0 9 (dk_at dksX3_walkIt_8 8 rfl rfl)
theorem dX3_walkIt_196 : decode cX3_walkIt 196 = .ok (.iload_n 3, 1) := dk_29 (dk_at dksX3_walkIt_8 11 rfl rfl)
theorem dX3_walkIt_197 : decode cX3_walkIt 197 = .ok (.bipush 6, 2) := dk_16 6 (dk_at dksX3_walkIt_8 12 rfl rfl)
theorem dX3_walkIt_199 : decode cX3_walkIt 199 = .ok (.iadd, 1) := dk_96 (dk_at dksX3_walkIt_8 14 rfl rfl)
theorem dX3_walkIt_200 : decode cX3_walkIt 200 = .ok (.iaload, 1) := dk_46 (dk_at dksX3_walkIt_8 15 rfl rfl)
theorem dX3_walkIt_201 : decode cX3_walkIt 201 = .ok (.iastore, 1) := dk_79 (dk_at dksX3_walkIt_8 16 rfl rfl)
theorem dX3_walkIt_202 : decode cX3_walkIt 202 = .ok (.iload 5, 2) := dk_21 5 (dk_at dksX3_walkIt_8 17 rfl rfl)
theorem dX3_walkIt_204 : decode cX3_walkIt 204 = .ok (.bipush 15, 2) := dk_16 15 (dk_at dksX3_walkIt_8 19 rfl rfl)
theorem dX3_walkIt_206 : decode cX3_walkIt 206 = .ok (.if_icmp .ne 120, 3) := dk_160 0 120 (dk_at dksX3_walkIt_8 21 rfl rfl)
theorem dX3_walkIt_209 : decode cX3_walkIt 209 = .ok (.aload_n 0, 1) := dk_42 (dk_at dksX3_walkIt_9 0 rfl rfl)
theorem dX3_walkIt_210 : decode cX3_walkIt 210 = .ok (.iload_n 1, 1) := dk_27 (dk_at dksX3_walkIt_9 1 rfl rfl)
theorem dX3_walkIt_211 : decode cX3_walkIt 211 = .ok (.aload_n 0, 1) := dk_42 (dk_at dksX3_walkIt_9 2 rfl rfl)
theorem dX3_walkIt_212 : decode cX3_walkIt 212 = .ok (.iload_n 1, 1) := dk_27 (dk_at dksX3_walkIt_9 3 rfl rfl)
theorem dX3_walkIt_213 : decode cX3_walkIt 213 = .ok (.invokevirtual 162, 3) := dk_182 0 162 (dk_at dksX3_walkIt_9 4 rfl rfl)
theorem dX3_walkIt_216 : decode cX3_walkIt 216 = .ok (.invokevirtual 165, 3) := dk_182 0 165 (dk_at dksX3_walkIt_9 7 rfl rfl)
theorem dX3_walkIt_219 : decode cX3_walkIt 219 = .ok (.istore 6, 2) := dk_54 6 (dk_at dksX3_walkIt_9 10 rfl rfl)
theorem dX3_walkIt_221 : decode cX3_walkIt 221 = .ok (.aload_n 0, 1) := dk_42 (dk_at dksX3_walkIt_9 12 rfl rfl)
theorem dX3_walkIt_222 : decode cX3_walkIt 222 = .ok (.getfield 9, 3) := dk_180 0 9 (dk_at dksX3_walkIt_9 13 rfl rfl)
theorem dX3_walkIt_225 : decode cX3_walkIt 225 = .ok (.iload_n 3, 1) := dk_29 (dk_at dksX3_walkIt_9 16 rfl rfl)
theorem dX3_walkIt_226 : decode cX3_walkIt 226 = .ok (.dup2, 1) := dk_92 (dk_at dksX3_walkIt_9 17 rfl rfl)
theorem dX3_walkIt_227 : decode cX3_walkIt 227 = .ok (.iaload, 1) := dk_46 (dk_at dksX3_walkIt_9 18 rfl rfl)
theorem dX3_walkIt_228 : decode cX3_walkIt 228 = .ok (.iload 6, 2) := dk_21 6 (dk_at dksX3_walkIt_9 19 rfl rfl)
theorem dX3_walkIt_230 : decode cX3_walkIt 230 = .ok (.iadd, 1) := dk_96 (dk_at dksX3_walkIt_9 21 rfl rfl)
theorem dX3_walkIt_231 : decode cX3_walkIt 231 = .ok (.iastore, 1) := dk_79 (dk_at dksX3_walkIt_9 22 rfl rfl)
theorem dX3_walkIt_232 : decode cX3_walkIt 232 = .ok (.aload_n 0, 1) := dk_42 (dk_at dksX3_walkIt_9 23 rfl rfl)
theorem dX3_walkIt_233 : decode cX3_walkIt 233 = .ok (.getfield 9, 3) := dk_180 0 9 (dk_at dksX3_walkIt_10 0 rfl rfl)
theorem dX3_walkIt_236 : decode cX3_walkIt 236 = .ok (.iload_n 3, 1) := dk_29 (dk_at dksX3_walkIt_10 3 rfl rfl)
theorem dX3_walkIt_237 : decode cX3_walkIt 237 = .ok (.iconst 4, 1) := dk_7 (dk_at dksX3_walkIt_10 4 rfl rfl)
theorem dX3_walkIt_238 : decode cX3_walkIt 238 = .ok (.iadd, 1) := dk_96 (dk_at dksX3_walkIt_10 5 rfl rfl)
theorem dX3_walkIt_239 : decode cX3_walkIt 239 = .ok (.iaload, 1) := dk_46 (dk_at dksX3_walkIt_10 6 rfl rfl)
theorem dX3_walkIt_240 : decode cX3_walkIt 240 = .ok (.iconst (-1), 1) := dk_2 (dk_at dksX3_walkIt_10 7 rfl rfl)
theorem dX3_walkIt_241 : decode cX3_walkIt 241 = .ok (.if_icmp .eq 47, 3) := dk_159 0 47 (dk_at dksX3_walkIt_10 8 rfl rfl)
theorem dX3_walkIt_244 : decode cX3_walkIt 244 = .ok (.aload_n 0, 1) := dk_42 (dk_at dksX3_walkIt_10 11 rfl rfl)
theorem dX3_walkIt_245 : decode cX3_walkIt 245 = .ok (.getfield 9, 3) := dk_180 0 9 (dk_at dksX3_walkIt_10 12 rfl rfl)
theorem dX3_walkIt_248 : decode cX3_walkIt 248 = .ok (.aload_n 0, 1) := dk_42 (dk_at dksX3_walkIt_10 15 rfl rfl)
theorem dX3_walkIt_249 : decode cX3_walkIt 249 = .ok (.getfield 9, 3) := dk_180 0 9 (dk_at dksX3_walkIt_10 16 rfl rfl)
theorem dX3_walkIt_252 : decode cX3_walkIt 252 = .ok (.iload_n 3, 1) := dk_29 (dk_at dksX3_walkIt_10 19 rfl rfl)
theorem dX3_walkIt_253 : decode cX3_walkIt 253 = .ok (.iconst 4, 1) := dk_7 (dk_at dksX3_walkIt_10 20 rfl rfl)
theorem dX3_walkIt_254 : decode cX3_walkIt 254 = .ok (.iadd, 1) := dk_96 (dk_at dksX3_walkIt_10 21 rfl rfl)
theorem dX3_walkIt_255 : decode cX3_walkIt 255 = .ok (.iaload, 1) := dk_46 (dk_at dksX3_walkIt_10 22 rfl rfl)
theorem dX3_walkIt_256 : decode cX3_walkIt 256 = .ok (.invokestatic 120, 3) := dk_184 0 120 (dk_at dksX3_walkIt_11 0 rfl rfl)
theorem dX3_walkIt_259 : decode cX3_walkIt 259 = .ok (.dup2, 1) := dk_92 (dk_at dksX3_walkIt_11 3 rfl rfl)
theorem dX3_walkIt_260 : decode cX3_walkIt 260 = .ok (.iaload, 1) := dk_46 (dk_at dksX3_walkIt_11 4 rfl rfl)
theorem dX3_walkIt_261 : decode cX3_walkIt 261 = .ok (.iload 6, 2) := dk_21 6 (dk_at dksX3_walkIt_11 5 rfl rfl)
theorem dX3_walkIt_263 : decode cX3_walkIt 263 = .ok (.isub, 1) := dk_100 (dk_at dksX3_walkIt_11 7 rfl rfl)
theorem dX3_walkIt_264 : decode cX3_walkIt 264 = .ok (.iastore, 1) := dk_79 (dk_at dksX3_walkIt_11 8 rfl rfl)
theorem dX3_walkIt_265 : decode cX3_walkIt 265 = .ok (.aload_n 0, 1) := dk_42 (dk_at dksX3_walkIt_11 9 rfl rfl)
theorem dX3_walkIt_266 : decode cX3_walkIt 266 = .ok (.getfield 9, 3) := dk_180 0 9 (dk_at dksX3_walkIt_11 10 rfl rfl)
theorem dX3_walkIt_269 : decode cX3_walkIt 269 = .ok (.aload_n 0, 1) := dk_42 (dk_at dksX3_walkIt_11 13 rfl rfl)
theorem dX3_walkIt_270 : decode cX3_walkIt 270 = .ok (.getfield 9, 3) := dk_180 0 9 (dk_at dksX3_walkIt_11 14 rfl rfl)
theorem dX3_walkIt_273 : decode cX3_walkIt 273 = .ok (.iload_n 3, 1) := dk_29 (dk_at dksX3_walkIt_11 17 rfl rfl)
theorem dX3_walkIt_274 : decode cX3_walkIt 274 = .ok (.iconst 4, 1) := dk_7 (dk_at dksX3_walkIt_11 18 rfl rfl)
theorem dX3_walkIt_275 : decode cX3_walkIt 275 = .ok (.iadd, 1) := dk_96 (dk_at dksX3_walkIt_11 19 rfl rfl)
theorem dX3_walkIt_276 : decode cX3_walkIt 276 = .ok (.iaload, 1) := dk_46 (dk_at dksX3_walkIt_11 20 rfl rfl)
theorem dX3_walkIt_277 : decode cX3_walkIt 277 = .ok (.invokestatic 120, 3) := dk_184 0 120 (dk_at dksX3_walkIt_11 21 rfl rfl)
theorem dX3_walkIt_280 : decode cX3_walkIt 280 = .ok (.iconst 2, 1) := dk_5 (dk_at dksX3_walkIt_12 0 rfl rfl)
theorem dX3_walkIt_281 : decode cX3_walkIt 281 = .ok (.iadd, 1) := dk_96 (dk_at dksX3_walkIt_12 1 rfl rfl)
theorem dX3_walkIt_282 : decode cX3_walkIt 282 = .ok (.dup2, 1) := dk_92 (dk_at dksX3_walkIt_12 2 rfl rfl)
theorem dX3_walkIt_283 : decode cX3_walkIt 283 = .ok (.iaload, 1) := dk_46 (dk_at dksX3_walkIt_12 3 rfl rfl)
theorem dX3_walkIt_284 : decode cX3_walkIt 284 = .ok (.iload 6, 2) := dk_21 6 (dk_at dksX3_walkIt_12 4 rfl rfl)
theorem dX3_walkIt_286 : decode cX3_walkIt 286 = .ok (.iadd, 1) := dk_96 (dk_at dksX3_walkIt_12 6 rfl rfl)
theorem dX3_walkIt_287 : decode cX3_walkIt 287 = .ok (.iastore, 1) := dk_79 (dk_at dksX3_walkIt_12 7 rfl rfl)
theorem dX3_walkIt_288 : decode cX3_walkIt 288 = .ok (.aload_n 0, 1) := dk_42 (dk_at dksX3_walkIt_12 8 rfl rfl)
theorem dX3_walkIt_289 : decode cX3_walkIt 289 = .ok (.getfield 9, 3) := dk_180 0 9 (dk_at dksX3_walkIt_12 9 rfl rfl)
theorem dX3_walkIt_292 : decode cX3_walkIt 292 = .ok (.iload_n 3, 1) := dk_29 (dk_at dksX3_walkIt_12 12 rfl rfl)
theorem dX3_walkIt_293 : decode cX3_walkIt 293 = .ok (.bipush 7, 2) := dk_16 7 (dk_at dksX3_walkIt_12 13 rfl rfl)
theorem dX3_walkIt_295 : decode cX3_walkIt 295 = .ok (.iadd, 1) := dk_96 (dk_at dksX3_walkIt_12 15 rfl rfl)
theorem dX3_walkIt_296 : decode cX3_walkIt 296 = .ok (.iconst 1, 1) := dk_4 (dk_at dksX3_walkIt_12 16 rfl rfl)
theorem dX3_walkIt_297 : decode cX3_walkIt 297 = .ok (.iastore, 1) := dk_79 (dk_at dksX3_walkIt_12 17 rfl rfl)
theorem dX3_walkIt_298 : decode cX3_walkIt 298 = .ok (.aload_n 0, 1) := dk_42 (dk_at dksX3_walkIt_12 18 rfl rfl)
theorem dX3_walkIt_299 : decode cX3_walkIt 299 = .ok (.getfield 9, 3) := dk_180 0 9 (dk_at dksX3_walkIt_12 19 rfl rfl)
theorem dX3_walkIt_302 : decode cX3_walkIt 302 = .ok (.iload_n 3, 1) := dk_29 (dk_at dksX3_walkIt_12 22 rfl rfl)
theorem dX3_walkIt_303 : decode cX3_walkIt 303 = .ok (.iconst 4, 1) := dk_7 (dk_at dksX3_walkIt_12 23 rfl rfl)
theorem dX3_walkIt_304 : decode cX3_walkIt 304 = .ok (.iadd, 1) := dk_96 (dk_at dksX3_walkIt_13 0 rfl rfl)
theorem dX3_walkIt_305 : decode cX3_walkIt 305 = .ok (.iconst (-1), 1) := dk_2 (dk_at dksX3_walkIt_13 1 rfl rfl)
theorem dX3_walkIt_306 : decode cX3_walkIt 306 = .ok (.iastore, 1) := dk_79 (dk_at dksX3_walkIt_13 2 rfl rfl)
theorem dX3_walkIt_307 : decode cX3_walkIt 307 = .ok (.aload_n 0, 1) := dk_42 (dk_at dksX3_walkIt_13 3 rfl rfl)
theorem dX3_walkIt_308 : decode cX3_walkIt 308 = .ok (.getfield 9, 3) := dk_180 0 9 (dk_at dksX3_walkIt_13 4 rfl rfl)
theorem dX3_walkIt_311 : decode cX3_walkIt 311 = .ok (.iload_n 3, 1) := dk_29 (dk_at dksX3_walkIt_13 7 rfl rfl)
theorem dX3_walkIt_312 : decode cX3_walkIt 312 = .ok (.iconst 5, 1) := dk_8 (dk_at dksX3_walkIt_13 8 rfl rfl)
theorem dX3_walkIt_313 : decode cX3_walkIt 313 = .ok (.iadd, 1) := dk_96 (dk_at dksX3_walkIt_13 9 rfl rfl)
theorem dX3_walkIt_314 : decode cX3_walkIt 314 = .ok (.iconst 0, 1) := dk_3 (dk_at dksX3_walkIt_13 10 rfl rfl)
theorem dX3_walkIt_315 : decode cX3_walkIt 315 = .ok (.iastore, 1) := dk_79 (dk_at dksX3_walkIt_13 11 rfl rfl)
theorem dX3_walkIt_316 : decode cX3_walkIt 316 = .ok (.aload_n 0, 1) := dk_42 (dk_at dksX3_walkIt_13 12 rfl rfl)
theorem dX3_walkIt_317 : decode cX3_walkIt 317 = .ok (.getfield 9, 3) := dk_180 0 9 (dk_at dksX3_walkIt_13 13 rfl rfl)
theorem dX3_walkIt_320 : decode cX3_walkIt 320 = .ok (.iload_n 3, 1) := dk_29 (dk_at dksX3_walkIt_13 16 rfl rfl)
theorem dX3_walkIt_321 : decode cX3_walkIt 321 = .ok (.bipush 6, 2) := dk_16 6 (dk_at dksX3_walkIt_13 17 rfl rfl)
theorem dX3_walkIt_323 : decode cX3_walkIt 323 = .ok (.iadd, 1) := dk_96 (dk_at dksX3_walkIt_13 19 rfl rfl)
theorem dX3_walkIt_324 : decode cX3_walkIt 324 = .ok (.iconst 0, 1) := dk_3 (dk_at dksX3_walkIt_13 20 rfl rfl)
theorem dX3_walkIt_325 : decode cX3_walkIt 325 = .ok (.iastore, 1) := dk_79 (dk_at dksX3_walkIt_13 21 rfl rfl)
theorem dX3_walkIt_326 : decode cX3_walkIt 326 = .ok (.iload 5, 2) := dk_21 5 (dk_at dksX3_walkIt_13 22 rfl rfl)
theorem dX3_walkIt_328 : decode cX3_walkIt 328 = .ok (.ireturn, 1) := dk_172 (dk_at dksX3_walkIt_14 0 rfl rfl)
abbrev cX3_lostOf : ByteArray := prog_10_method_37_code
def yX3_lostOf : MethodName := ⟨RX3, "lostOf", "(I)I"⟩
def dkwX3_lostOf_1 : List UInt8 := [184, 0, 71, 172]
abbrev dktX3_lostOf_1 : List UInt8 := dkwX3_lostOf_1 ++ []
def dkwX3_lostOf_0 : List UInt8 := [27, 184, 0, 126, 61, 3, 42, 180, 0, 9, 28, 5, 96, 46, 42, 180, 0, 9, 28, 6, 96, 46, 100]
abbrev dktX3_lostOf_0 : List UInt8 := dkwX3_lostOf_0 ++ dktX3_lostOf_1
theorem dksX3_lostOf_0 : cX3_lostOf.data.toList.drop 0 = dktX3_lostOf_0 := by decide +kernel
theorem dksX3_lostOf_1 : cX3_lostOf.data.toList.drop 23 = dktX3_lostOf_1 := dk_seg dksX3_lostOf_0 23 rfl rfl
theorem dX3_lostOf_0 : decode cX3_lostOf 0 = .ok (.iload_n 1, 1) := dk_27 (dk_at dksX3_lostOf_0 0 rfl rfl)
theorem dX3_lostOf_1 : decode cX3_lostOf 1 = .ok (.invokestatic 126, 3) := dk_184 0 126 (dk_at dksX3_lostOf_0 1 rfl rfl)
theorem dX3_lostOf_4 : decode cX3_lostOf 4 = .ok (.istore_n 2, 1) := dk_61 (dk_at dksX3_lostOf_0 4 rfl rfl)
theorem dX3_lostOf_5 : decode cX3_lostOf 5 = .ok (.iconst 0, 1) := dk_3 (dk_at dksX3_lostOf_0 5 rfl rfl)
theorem dX3_lostOf_6 : decode cX3_lostOf 6 = .ok (.aload_n 0, 1) := dk_42 (dk_at dksX3_lostOf_0 6 rfl rfl)
theorem dX3_lostOf_7 : decode cX3_lostOf 7 = .ok (.getfield 9, 3) := dk_180 0 9 (dk_at dksX3_lostOf_0 7 rfl rfl)
theorem dX3_lostOf_10 : decode cX3_lostOf 10 = .ok (.iload_n 2, 1) := dk_28 (dk_at dksX3_lostOf_0 10 rfl rfl)
theorem dX3_lostOf_11 : decode cX3_lostOf 11 = .ok (.iconst 2, 1) := dk_5 (dk_at dksX3_lostOf_0 11 rfl rfl)
theorem dX3_lostOf_12 : decode cX3_lostOf 12 = .ok (.iadd, 1) := dk_96 (dk_at dksX3_lostOf_0 12 rfl rfl)
theorem dX3_lostOf_13 : decode cX3_lostOf 13 = .ok (.iaload, 1) := dk_46 (dk_at dksX3_lostOf_0 13 rfl rfl)
theorem dX3_lostOf_14 : decode cX3_lostOf 14 = .ok (.aload_n 0, 1) := dk_42 (dk_at dksX3_lostOf_0 14 rfl rfl)
theorem dX3_lostOf_15 : decode cX3_lostOf 15 = .ok (.getfield 9, 3) := dk_180 0 9 (dk_at dksX3_lostOf_0 15 rfl rfl)
theorem dX3_lostOf_18 : decode cX3_lostOf 18 = .ok (.iload_n 2, 1) := dk_28 (dk_at dksX3_lostOf_0 18 rfl rfl)
theorem dX3_lostOf_19 : decode cX3_lostOf 19 = .ok (.iconst 3, 1) := dk_6 (dk_at dksX3_lostOf_0 19 rfl rfl)
theorem dX3_lostOf_20 : decode cX3_lostOf 20 = .ok (.iadd, 1) := dk_96 (dk_at dksX3_lostOf_0 20 rfl rfl)
theorem dX3_lostOf_21 : decode cX3_lostOf 21 = .ok (.iaload, 1) := dk_46 (dk_at dksX3_lostOf_0 21 rfl rfl)
theorem dX3_lostOf_22 : decode cX3_lostOf 22 = .ok (.isub, 1) := dk_100 (dk_at dksX3_lostOf_0 22 rfl rfl)
theorem dX3_lostOf_23 : decode cX3_lostOf 23 = .ok (.invokestatic 71, 3) := dk_184 0 71 (dk_at dksX3_lostOf_1 0 rfl rfl)
theorem dX3_lostOf_26 : decode cX3_lostOf 26 = .ok (.ireturn, 1) := dk_172 (dk_at dksX3_lostOf_1 3 rfl rfl)
abbrev cX3_pays : ByteArray := prog_10_method_38_code
def yX3_pays : MethodName := ⟨RX3, "pays", "(II)I"⟩
def dkwX3_pays_3 : List UInt8 := [46, 184, 0, 65, 172]
abbrev dktX3_pays_3 : List UInt8 := dkwX3_pays_3 ++ []
def dkwX3_pays_2 : List UInt8 := [180, 0, 9, 29, 8, 96, 46, 28, 104, 42, 180, 0, 9, 42, 180, 0, 9, 29, 7, 96, 46, 184, 0, 120]
abbrev dktX3_pays_2 : List UInt8 := dkwX3_pays_2 ++ dktX3_pays_3
def dkwX3_pays_1 : List UInt8 := [96, 46, 4, 160, 0, 7, 4, 167, 0, 4, 3, 54, 4, 21, 4, 153, 0, 7, 3, 167, 0, 32, 42]
abbrev dktX3_pays_1 : List UInt8 := dkwX3_pays_1 ++ dktX3_pays_2
def dkwX3_pays_0 : List UInt8 := [27, 184, 0, 126, 62, 42, 180, 0, 9, 29, 7, 96, 46, 2, 159, 0, 16, 42, 180, 0, 9, 29, 16, 6]
abbrev dktX3_pays_0 : List UInt8 := dkwX3_pays_0 ++ dktX3_pays_1
theorem dksX3_pays_0 : cX3_pays.data.toList.drop 0 = dktX3_pays_0 := by decide +kernel
theorem dksX3_pays_1 : cX3_pays.data.toList.drop 24 = dktX3_pays_1 := dk_seg dksX3_pays_0 24 rfl rfl
theorem dksX3_pays_2 : cX3_pays.data.toList.drop 47 = dktX3_pays_2 := dk_seg dksX3_pays_1 23 rfl rfl
theorem dksX3_pays_3 : cX3_pays.data.toList.drop 71 = dktX3_pays_3 := dk_seg dksX3_pays_2 24 rfl rfl
theorem dX3_pays_0 : decode cX3_pays 0 = .ok (.iload_n 1, 1) := dk_27 (dk_at dksX3_pays_0 0 rfl rfl)
theorem dX3_pays_1 : decode cX3_pays 1 = .ok (.invokestatic 126, 3) := dk_184 0 126 (dk_at dksX3_pays_0 1 rfl rfl)
theorem dX3_pays_4 : decode cX3_pays 4 = .ok (.istore_n 3, 1) := dk_62 (dk_at dksX3_pays_0 4 rfl rfl)
theorem dX3_pays_5 : decode cX3_pays 5 = .ok (.aload_n 0, 1) := dk_42 (dk_at dksX3_pays_0 5 rfl rfl)
theorem dX3_pays_6 : decode cX3_pays 6 = .ok (.getfield 9, 3) := dk_180 0 9 (dk_at dksX3_pays_0 6 rfl rfl)
theorem dX3_pays_9 : decode cX3_pays 9 = .ok (.iload_n 3, 1) := dk_29 (dk_at dksX3_pays_0 9 rfl rfl)
theorem dX3_pays_10 : decode cX3_pays 10 = .ok (.iconst 4, 1) := dk_7 (dk_at dksX3_pays_0 10 rfl rfl)
theorem dX3_pays_11 : decode cX3_pays 11 = .ok (.iadd, 1) := dk_96 (dk_at dksX3_pays_0 11 rfl rfl)
theorem dX3_pays_12 : decode cX3_pays 12 = .ok (.iaload, 1) := dk_46 (dk_at dksX3_pays_0 12 rfl rfl)
theorem dX3_pays_13 : decode cX3_pays 13 = .ok (.iconst (-1), 1) := dk_2 (dk_at dksX3_pays_0 13 rfl rfl)
theorem dX3_pays_14 : decode cX3_pays 14 = .ok (.if_icmp .eq 16, 3) := dk_159 0 16 (dk_at dksX3_pays_0 14 rfl rfl)
theorem dX3_pays_17 : decode cX3_pays 17 = .ok (.aload_n 0, 1) := dk_42 (dk_at dksX3_pays_0 17 rfl rfl)
theorem dX3_pays_18 : decode cX3_pays 18 = .ok (.getfield 9, 3) := dk_180 0 9 (dk_at dksX3_pays_0 18 rfl rfl)
theorem dX3_pays_21 : decode cX3_pays 21 = .ok (.iload_n 3, 1) := dk_29 (dk_at dksX3_pays_0 21 rfl rfl)
theorem dX3_pays_22 : decode cX3_pays 22 = .ok (.bipush 6, 2) := dk_16 6 (dk_at dksX3_pays_0 22 rfl rfl)
theorem dX3_pays_24 : decode cX3_pays 24 = .ok (.iadd, 1) := dk_96 (dk_at dksX3_pays_1 0 rfl rfl)
theorem dX3_pays_25 : decode cX3_pays 25 = .ok (.iaload, 1) := dk_46 (dk_at dksX3_pays_1 1 rfl rfl)
theorem dX3_pays_26 : decode cX3_pays 26 = .ok (.iconst 1, 1) := dk_4 (dk_at dksX3_pays_1 2 rfl rfl)
theorem dX3_pays_27 : decode cX3_pays 27 = .ok (.if_icmp .ne 7, 3) := dk_160 0 7 (dk_at dksX3_pays_1 3 rfl rfl)
theorem dX3_pays_30 : decode cX3_pays 30 = .ok (.iconst 1, 1) := dk_4 (dk_at dksX3_pays_1 6 rfl rfl)
theorem dX3_pays_31 : decode cX3_pays 31 = .ok (.goto 4, 3) := dk_167 0 4 (dk_at dksX3_pays_1 7 rfl rfl)
theorem dX3_pays_34 : decode cX3_pays 34 = .ok (.iconst 0, 1) := dk_3 (dk_at dksX3_pays_1 10 rfl rfl)
theorem dX3_pays_35 : decode cX3_pays 35 = .ok (.istore 4, 2) := dk_54 4 (dk_at dksX3_pays_1 11 rfl rfl)
theorem dX3_pays_37 : decode cX3_pays 37 = .ok (.iload 4, 2) := dk_21 4 (dk_at dksX3_pays_1 13 rfl rfl)
theorem dX3_pays_39 : decode cX3_pays 39 = .ok (.ifCond .eq 7, 3) := dk_153 0 7 (dk_at dksX3_pays_1 15 rfl rfl)
theorem dX3_pays_42 : decode cX3_pays 42 = .ok (.iconst 0, 1) := dk_3 (dk_at dksX3_pays_1 18 rfl rfl)
theorem dX3_pays_43 : decode cX3_pays 43 = .ok (.goto 32, 3) := dk_167 0 32 (dk_at dksX3_pays_1 19 rfl rfl)
theorem dX3_pays_46 : decode cX3_pays 46 = .ok (.aload_n 0, 1) := dk_42 (dk_at dksX3_pays_1 22 rfl rfl)
theorem dX3_pays_47 : decode cX3_pays 47 = .ok (.getfield 9, 3) := dk_180 0 9 (dk_at dksX3_pays_2 0 rfl rfl)
theorem dX3_pays_50 : decode cX3_pays 50 = .ok (.iload_n 3, 1) := dk_29 (dk_at dksX3_pays_2 3 rfl rfl)
theorem dX3_pays_51 : decode cX3_pays 51 = .ok (.iconst 5, 1) := dk_8 (dk_at dksX3_pays_2 4 rfl rfl)
theorem dX3_pays_52 : decode cX3_pays 52 = .ok (.iadd, 1) := dk_96 (dk_at dksX3_pays_2 5 rfl rfl)
theorem dX3_pays_53 : decode cX3_pays 53 = .ok (.iaload, 1) := dk_46 (dk_at dksX3_pays_2 6 rfl rfl)
theorem dX3_pays_54 : decode cX3_pays 54 = .ok (.iload_n 2, 1) := dk_28 (dk_at dksX3_pays_2 7 rfl rfl)
theorem dX3_pays_55 : decode cX3_pays 55 = .ok (.imul, 1) := dk_104 (dk_at dksX3_pays_2 8 rfl rfl)
theorem dX3_pays_56 : decode cX3_pays 56 = .ok (.aload_n 0, 1) := dk_42 (dk_at dksX3_pays_2 9 rfl rfl)
theorem dX3_pays_57 : decode cX3_pays 57 = .ok (.getfield 9, 3) := dk_180 0 9 (dk_at dksX3_pays_2 10 rfl rfl)
theorem dX3_pays_60 : decode cX3_pays 60 = .ok (.aload_n 0, 1) := dk_42 (dk_at dksX3_pays_2 13 rfl rfl)
theorem dX3_pays_61 : decode cX3_pays 61 = .ok (.getfield 9, 3) := dk_180 0 9 (dk_at dksX3_pays_2 14 rfl rfl)
theorem dX3_pays_64 : decode cX3_pays 64 = .ok (.iload_n 3, 1) := dk_29 (dk_at dksX3_pays_2 17 rfl rfl)
theorem dX3_pays_65 : decode cX3_pays 65 = .ok (.iconst 4, 1) := dk_7 (dk_at dksX3_pays_2 18 rfl rfl)
theorem dX3_pays_66 : decode cX3_pays 66 = .ok (.iadd, 1) := dk_96 (dk_at dksX3_pays_2 19 rfl rfl)
theorem dX3_pays_67 : decode cX3_pays 67 = .ok (.iaload, 1) := dk_46 (dk_at dksX3_pays_2 20 rfl rfl)
theorem dX3_pays_68 : decode cX3_pays 68 = .ok (.invokestatic 120, 3) := dk_184 0 120 (dk_at dksX3_pays_2 21 rfl rfl)
theorem dX3_pays_71 : decode cX3_pays 71 = .ok (.iaload, 1) := dk_46 (dk_at dksX3_pays_3 0 rfl rfl)
theorem dX3_pays_72 : decode cX3_pays 72 = .ok (.invokestatic 65, 3) := dk_184 0 65 (dk_at dksX3_pays_3 1 rfl rfl)
theorem dX3_pays_75 : decode cX3_pays 75 = .ok (.ireturn, 1) := dk_172 (dk_at dksX3_pays_3 4 rfl rfl)
abbrev cX3_rest : ByteArray := prog_10_method_42_code
def yX3_rest : MethodName := ⟨RX3, "rest", "(II)I"⟩
def dkwX3_rest_0 : List UInt8 := [42, 182, 0, 100, 42, 42, 27, 28, 182, 0, 171, 182, 0, 107, 172]
abbrev dktX3_rest_0 : List UInt8 := dkwX3_rest_0 ++ []
theorem dksX3_rest_0 : cX3_rest.data.toList.drop 0 = dktX3_rest_0 := by decide +kernel
theorem dX3_rest_0 : decode cX3_rest 0 = .ok (.aload_n 0, 1) := dk_42 (dk_at dksX3_rest_0 0 rfl rfl)
theorem dX3_rest_1 : decode cX3_rest 1 = .ok (.invokevirtual 100, 3) := dk_182 0 100 (dk_at dksX3_rest_0 1 rfl rfl)
theorem dX3_rest_4 : decode cX3_rest 4 = .ok (.aload_n 0, 1) := dk_42 (dk_at dksX3_rest_0 4 rfl rfl)
theorem dX3_rest_5 : decode cX3_rest 5 = .ok (.aload_n 0, 1) := dk_42 (dk_at dksX3_rest_0 5 rfl rfl)
theorem dX3_rest_6 : decode cX3_rest 6 = .ok (.iload_n 1, 1) := dk_27 (dk_at dksX3_rest_0 6 rfl rfl)
theorem dX3_rest_7 : decode cX3_rest 7 = .ok (.iload_n 2, 1) := dk_28 (dk_at dksX3_rest_0 7 rfl rfl)
theorem dX3_rest_8 : decode cX3_rest 8 = .ok (.invokevirtual 171, 3) := dk_182 0 171 (dk_at dksX3_rest_0 8 rfl rfl)
theorem dX3_rest_11 : decode cX3_rest 11 = .ok (.invokevirtual 107, 3) := dk_182 0 107 (dk_at dksX3_rest_0 11 rfl rfl)
theorem dX3_rest_14 : decode cX3_rest 14 = .ok (.ireturn, 1) := dk_172 (dk_at dksX3_rest_0 14 rfl rfl)
abbrev cX3_restIt : ByteArray := prog_10_method_41_code
def yX3_restIt : MethodName := ⟨RX3, "restIt", "(II)I"⟩
def dkwX3_restIt_4 : List UInt8 := [172]
abbrev dktX3_restIt_4 : List UInt8 := dkwX3_restIt_4 ++ []
def dkwX3_restIt_3 : List UInt8 := [182, 0, 91, 172, 42, 180, 0, 9, 29, 5, 96, 92, 46, 28, 96, 79, 42, 180, 0, 9, 29, 5, 96, 46]
abbrev dktX3_restIt_3 : List UInt8 := dkwX3_restIt_3 ++ dktX3_restIt_4
def dkwX3_restIt_2 : List UInt8 := [180, 0, 9, 29, 16, 7, 96, 46, 4, 160, 0, 18, 42, 16, 9, 42, 180, 0, 9, 29, 5, 96, 46]
abbrev dktX3_restIt_2 : List UInt8 := dkwX3_restIt_2 ++ dktX3_restIt_3
def dkwX3_restIt_1 : List UInt8 := [20, 0, 94, 184, 0, 59, 154, 0, 10, 42, 4, 3, 182, 0, 91, 172, 27, 184, 0, 126, 62, 42]
abbrev dktX3_restIt_1 : List UInt8 := dkwX3_restIt_1 ++ dktX3_restIt_2
def dkwX3_restIt_0 : List UInt8 := [42, 27, 182, 0, 154, 154, 0, 16, 42, 16, 7, 42, 180, 0, 9, 4, 46, 182, 0, 91, 172, 28, 133, 10]
abbrev dktX3_restIt_0 : List UInt8 := dkwX3_restIt_0 ++ dktX3_restIt_1
theorem dksX3_restIt_0 : cX3_restIt.data.toList.drop 0 = dktX3_restIt_0 := by decide +kernel
theorem dksX3_restIt_1 : cX3_restIt.data.toList.drop 24 = dktX3_restIt_1 := dk_seg dksX3_restIt_0 24 rfl rfl
theorem dksX3_restIt_2 : cX3_restIt.data.toList.drop 46 = dktX3_restIt_2 := dk_seg dksX3_restIt_1 22 rfl rfl
theorem dksX3_restIt_3 : cX3_restIt.data.toList.drop 69 = dktX3_restIt_3 := dk_seg dksX3_restIt_2 23 rfl rfl
theorem dksX3_restIt_4 : cX3_restIt.data.toList.drop 93 = dktX3_restIt_4 := dk_seg dksX3_restIt_3 24 rfl rfl
theorem dX3_restIt_0 : decode cX3_restIt 0 = .ok (.aload_n 0, 1) := dk_42 (dk_at dksX3_restIt_0 0 rfl rfl)
theorem dX3_restIt_1 : decode cX3_restIt 1 = .ok (.iload_n 1, 1) := dk_27 (dk_at dksX3_restIt_0 1 rfl rfl)
theorem dX3_restIt_2 : decode cX3_restIt 2 = .ok (.invokevirtual 154, 3) := dk_182 0 154 (dk_at dksX3_restIt_0 2 rfl rfl)
theorem dX3_restIt_5 : decode cX3_restIt 5 = .ok (.ifCond .ne 16, 3) := dk_154 0 16 (dk_at dksX3_restIt_0 5 rfl rfl)
theorem dX3_restIt_8 : decode cX3_restIt 8 = .ok (.aload_n 0, 1) := dk_42 (dk_at dksX3_restIt_0 8 rfl rfl)
theorem dX3_restIt_9 : decode cX3_restIt 9 = .ok (.bipush 7, 2) := dk_16 7 (dk_at dksX3_restIt_0 9 rfl rfl)
theorem dX3_restIt_11 : decode cX3_restIt 11 = .ok (.aload_n 0, 1) := dk_42 (dk_at dksX3_restIt_0 11 rfl rfl)
theorem dX3_restIt_12 : decode cX3_restIt 12 = .ok (.getfield 9, 3) := dk_180 0 9 (dk_at dksX3_restIt_0 12 rfl rfl)
theorem dX3_restIt_15 : decode cX3_restIt 15 = .ok (.iconst 1, 1) := dk_4 (dk_at dksX3_restIt_0 15 rfl rfl)
theorem dX3_restIt_16 : decode cX3_restIt 16 = .ok (.iaload, 1) := dk_46 (dk_at dksX3_restIt_0 16 rfl rfl)
theorem dX3_restIt_17 : decode cX3_restIt 17 = .ok (.invokevirtual 91, 3) := dk_182 0 91 (dk_at dksX3_restIt_0 17 rfl rfl)
theorem dX3_restIt_20 : decode cX3_restIt 20 = .ok (.ireturn, 1) := dk_172 (dk_at dksX3_restIt_0 20 rfl rfl)
theorem dX3_restIt_21 : decode cX3_restIt 21 = .ok (.iload_n 2, 1) := dk_28 (dk_at dksX3_restIt_0 21 rfl rfl)
theorem dX3_restIt_22 : decode cX3_restIt 22 = .ok (.i2l, 1) := dk_133 (dk_at dksX3_restIt_0 22 rfl rfl)
theorem dX3_restIt_23 : decode cX3_restIt 23 = .ok (.lconst 1, 1) := dk_10 (dk_at dksX3_restIt_0 23 rfl rfl)
theorem dX3_restIt_24 : decode cX3_restIt 24 = .ok (.ldc2_w 94, 3) := dk_20 0 94 (dk_at dksX3_restIt_1 0 rfl rfl)
theorem dX3_restIt_27 : decode cX3_restIt 27 = .ok (.invokestatic 59, 3) := dk_184 0 59 (dk_at dksX3_restIt_1 3 rfl rfl)
theorem dX3_restIt_30 : decode cX3_restIt 30 = .ok (.ifCond .ne 10, 3) := dk_154 0 10 (dk_at dksX3_restIt_1 6 rfl rfl)
theorem dX3_restIt_33 : decode cX3_restIt 33 = .ok (.aload_n 0, 1) := dk_42 (dk_at dksX3_restIt_1 9 rfl rfl)
theorem dX3_restIt_34 : decode cX3_restIt 34 = .ok (.iconst 1, 1) := dk_4 (dk_at dksX3_restIt_1 10 rfl rfl)
theorem dX3_restIt_35 : decode cX3_restIt 35 = .ok (.iconst 0, 1) := dk_3 (dk_at dksX3_restIt_1 11 rfl rfl)
theorem dX3_restIt_36 : decode cX3_restIt 36 = .ok (.invokevirtual 91, 3) := dk_182 0 91 (dk_at dksX3_restIt_1 12 rfl rfl)
theorem dX3_restIt_39 : decode cX3_restIt 39 = .ok (.ireturn, 1) := dk_172 (dk_at dksX3_restIt_1 15 rfl rfl)
theorem dX3_restIt_40 : decode cX3_restIt 40 = .ok (.iload_n 1, 1) := dk_27 (dk_at dksX3_restIt_1 16 rfl rfl)
theorem dX3_restIt_41 : decode cX3_restIt 41 = .ok (.invokestatic 126, 3) := dk_184 0 126 (dk_at dksX3_restIt_1 17 rfl rfl)
theorem dX3_restIt_44 : decode cX3_restIt 44 = .ok (.istore_n 3, 1) := dk_62 (dk_at dksX3_restIt_1 20 rfl rfl)
theorem dX3_restIt_45 : decode cX3_restIt 45 = .ok (.aload_n 0, 1) := dk_42 (dk_at dksX3_restIt_1 21 rfl rfl)
theorem dX3_restIt_46 : decode cX3_restIt 46 = .ok (.getfield 9, 3) := dk_180 0 9 (dk_at dksX3_restIt_2 0 rfl rfl)
theorem dX3_restIt_49 : decode cX3_restIt 49 = .ok (.iload_n 3, 1) := dk_29 (dk_at dksX3_restIt_2 3 rfl rfl)
theorem dX3_restIt_50 : decode cX3_restIt 50 = .ok (.bipush 7, 2) := dk_16 7 (dk_at dksX3_restIt_2 4 rfl rfl)
theorem dX3_restIt_52 : decode cX3_restIt 52 = .ok (.iadd, 1) := dk_96 (dk_at dksX3_restIt_2 6 rfl rfl)
theorem dX3_restIt_53 : decode cX3_restIt 53 = .ok (.iaload, 1) := dk_46 (dk_at dksX3_restIt_2 7 rfl rfl)
theorem dX3_restIt_54 : decode cX3_restIt 54 = .ok (.iconst 1, 1) := dk_4 (dk_at dksX3_restIt_2 8 rfl rfl)
theorem dX3_restIt_55 : decode cX3_restIt 55 = .ok (.if_icmp .ne 18, 3) := dk_160 0 18 (dk_at dksX3_restIt_2 9 rfl rfl)
theorem dX3_restIt_58 : decode cX3_restIt 58 = .ok (.aload_n 0, 1) := dk_42 (dk_at dksX3_restIt_2 12 rfl rfl)
theorem dX3_restIt_59 : decode cX3_restIt 59 = .ok (.bipush 9, 2) := dk_16 9 (dk_at dksX3_restIt_2 13 rfl rfl)
theorem dX3_restIt_61 : decode cX3_restIt 61 = .ok (.aload_n 0, 1) := dk_42 (dk_at dksX3_restIt_2 15 rfl rfl)
theorem dX3_restIt_62 : decode cX3_restIt 62 = .ok (.getfield 9, 3) := dk_180 0 9 (dk_at dksX3_restIt_2 16 rfl rfl)
theorem dX3_restIt_65 : decode cX3_restIt 65 = .ok (.iload_n 3, 1) := dk_29 (dk_at dksX3_restIt_2 19 rfl rfl)
theorem dX3_restIt_66 : decode cX3_restIt 66 = .ok (.iconst 2, 1) := dk_5 (dk_at dksX3_restIt_2 20 rfl rfl)
theorem dX3_restIt_67 : decode cX3_restIt 67 = .ok (.iadd, 1) := dk_96 (dk_at dksX3_restIt_2 21 rfl rfl)
theorem dX3_restIt_68 : decode cX3_restIt 68 = .ok (.iaload, 1) := dk_46 (dk_at dksX3_restIt_2 22 rfl rfl)
theorem dX3_restIt_69 : decode cX3_restIt 69 = .ok (.invokevirtual 91, 3) := dk_182 0 91 (dk_at dksX3_restIt_3 0 rfl rfl)
theorem dX3_restIt_72 : decode cX3_restIt 72 = .ok (.ireturn, 1) := dk_172 (dk_at dksX3_restIt_3 3 rfl rfl)
theorem dX3_restIt_73 : decode cX3_restIt 73 = .ok (.aload_n 0, 1) := dk_42 (dk_at dksX3_restIt_3 4 rfl rfl)
theorem dX3_restIt_74 : decode cX3_restIt 74 = .ok (.getfield 9, 3) := dk_180 0 9 (dk_at dksX3_restIt_3 5 rfl rfl)
theorem dX3_restIt_77 : decode cX3_restIt 77 = .ok (.iload_n 3, 1) := dk_29 (dk_at dksX3_restIt_3 8 rfl rfl)
theorem dX3_restIt_78 : decode cX3_restIt 78 = .ok (.iconst 2, 1) := dk_5 (dk_at dksX3_restIt_3 9 rfl rfl)
theorem dX3_restIt_79 : decode cX3_restIt 79 = .ok (.iadd, 1) := dk_96 (dk_at dksX3_restIt_3 10 rfl rfl)
theorem dX3_restIt_80 : decode cX3_restIt 80 = .ok (.dup2, 1) := dk_92 (dk_at dksX3_restIt_3 11 rfl rfl)
theorem dX3_restIt_81 : decode cX3_restIt 81 = .ok (.iaload, 1) := dk_46 (dk_at dksX3_restIt_3 12 rfl rfl)
theorem dX3_restIt_82 : decode cX3_restIt 82 = .ok (.iload_n 2, 1) := dk_28 (dk_at dksX3_restIt_3 13 rfl rfl)
theorem dX3_restIt_83 : decode cX3_restIt 83 = .ok (.iadd, 1) := dk_96 (dk_at dksX3_restIt_3 14 rfl rfl)
theorem dX3_restIt_84 : decode cX3_restIt 84 = .ok (.iastore, 1) := dk_79 (dk_at dksX3_restIt_3 15 rfl rfl)
theorem dX3_restIt_85 : decode cX3_restIt 85 = .ok (.aload_n 0, 1) := dk_42 (dk_at dksX3_restIt_3 16 rfl rfl)
theorem dX3_restIt_86 : decode cX3_restIt 86 = .ok (.getfield 9, 3) := dk_180 0 9 (dk_at dksX3_restIt_3 17 rfl rfl)
theorem dX3_restIt_89 : decode cX3_restIt 89 = .ok (.iload_n 3, 1) := dk_29 (dk_at dksX3_restIt_3 20 rfl rfl)
theorem dX3_restIt_90 : decode cX3_restIt 90 = .ok (.iconst 2, 1) := dk_5 (dk_at dksX3_restIt_3 21 rfl rfl)
theorem dX3_restIt_91 : decode cX3_restIt 91 = .ok (.iadd, 1) := dk_96 (dk_at dksX3_restIt_3 22 rfl rfl)
theorem dX3_restIt_92 : decode cX3_restIt 92 = .ok (.iaload, 1) := dk_46 (dk_at dksX3_restIt_3 23 rfl rfl)
theorem dX3_restIt_93 : decode cX3_restIt 93 = .ok (.ireturn, 1) := dk_172 (dk_at dksX3_restIt_4 0 rfl rfl)
abbrev cX3_leaves : ByteArray := prog_10_method_44_code
def yX3_leaves : MethodName := ⟨RX3, "leaves", "(II)I"⟩
def dkwX3_leaves_1 : List UInt8 := [182, 0, 50, 167, 0, 9, 42, 180, 0, 9, 29, 46, 172]
abbrev dktX3_leaves_1 : List UInt8 := dkwX3_leaves_1 ++ []
def dkwX3_leaves_0 : List UInt8 := [42, 27, 28, 182, 0, 174, 154, 0, 5, 2, 172, 27, 28, 184, 0, 77, 62, 29, 2, 160, 0, 11, 42, 5]
abbrev dktX3_leaves_0 : List UInt8 := dkwX3_leaves_0 ++ dktX3_leaves_1
theorem dksX3_leaves_0 : cX3_leaves.data.toList.drop 0 = dktX3_leaves_0 := by decide +kernel
theorem dksX3_leaves_1 : cX3_leaves.data.toList.drop 24 = dktX3_leaves_1 := dk_seg dksX3_leaves_0 24 rfl rfl
theorem dX3_leaves_0 : decode cX3_leaves 0 = .ok (.aload_n 0, 1) := dk_42 (dk_at dksX3_leaves_0 0 rfl rfl)
theorem dX3_leaves_1 : decode cX3_leaves 1 = .ok (.iload_n 1, 1) := dk_27 (dk_at dksX3_leaves_0 1 rfl rfl)
theorem dX3_leaves_2 : decode cX3_leaves 2 = .ok (.iload_n 2, 1) := dk_28 (dk_at dksX3_leaves_0 2 rfl rfl)
theorem dX3_leaves_3 : decode cX3_leaves 3 = .ok (.invokevirtual 174, 3) := dk_182 0 174 (dk_at dksX3_leaves_0 3 rfl rfl)
theorem dX3_leaves_6 : decode cX3_leaves 6 = .ok (.ifCond .ne 5, 3) := dk_154 0 5 (dk_at dksX3_leaves_0 6 rfl rfl)
theorem dX3_leaves_9 : decode cX3_leaves 9 = .ok (.iconst (-1), 1) := dk_2 (dk_at dksX3_leaves_0 9 rfl rfl)
theorem dX3_leaves_10 : decode cX3_leaves 10 = .ok (.ireturn, 1) := dk_172 (dk_at dksX3_leaves_0 10 rfl rfl)
theorem dX3_leaves_11 : decode cX3_leaves 11 = .ok (.iload_n 1, 1) := dk_27 (dk_at dksX3_leaves_0 11 rfl rfl)
theorem dX3_leaves_12 : decode cX3_leaves 12 = .ok (.iload_n 2, 1) := dk_28 (dk_at dksX3_leaves_0 12 rfl rfl)
theorem dX3_leaves_13 : decode cX3_leaves 13 = .ok (.invokestatic 77, 3) := dk_184 0 77 (dk_at dksX3_leaves_0 13 rfl rfl)
theorem dX3_leaves_16 : decode cX3_leaves 16 = .ok (.istore_n 3, 1) := dk_62 (dk_at dksX3_leaves_0 16 rfl rfl)
theorem dX3_leaves_17 : decode cX3_leaves 17 = .ok (.iload_n 3, 1) := dk_29 (dk_at dksX3_leaves_0 17 rfl rfl)
theorem dX3_leaves_18 : decode cX3_leaves 18 = .ok (.iconst (-1), 1) := dk_2 (dk_at dksX3_leaves_0 18 rfl rfl)
theorem dX3_leaves_19 : decode cX3_leaves 19 = .ok (.if_icmp .ne 11, 3) := dk_160 0 11 (dk_at dksX3_leaves_0 19 rfl rfl)
theorem dX3_leaves_22 : decode cX3_leaves 22 = .ok (.aload_n 0, 1) := dk_42 (dk_at dksX3_leaves_0 22 rfl rfl)
theorem dX3_leaves_23 : decode cX3_leaves 23 = .ok (.iconst 2, 1) := dk_5 (dk_at dksX3_leaves_0 23 rfl rfl)
theorem dX3_leaves_24 : decode cX3_leaves 24 = .ok (.invokevirtual 50, 3) := dk_182 0 50 (dk_at dksX3_leaves_1 0 rfl rfl)
theorem dX3_leaves_27 : decode cX3_leaves 27 = .ok (.goto 9, 3) := dk_167 0 9 (dk_at dksX3_leaves_1 3 rfl rfl)
theorem dX3_leaves_30 : decode cX3_leaves 30 = .ok (.aload_n 0, 1) := dk_42 (dk_at dksX3_leaves_1 6 rfl rfl)
theorem dX3_leaves_31 : decode cX3_leaves 31 = .ok (.getfield 9, 3) := dk_180 0 9 (dk_at dksX3_leaves_1 7 rfl rfl)
theorem dX3_leaves_34 : decode cX3_leaves 34 = .ok (.iload_n 3, 1) := dk_29 (dk_at dksX3_leaves_1 10 rfl rfl)
theorem dX3_leaves_35 : decode cX3_leaves 35 = .ok (.iaload, 1) := dk_46 (dk_at dksX3_leaves_1 11 rfl rfl)
theorem dX3_leaves_36 : decode cX3_leaves 36 = .ok (.ireturn, 1) := dk_172 (dk_at dksX3_leaves_1 12 rfl rfl)
abbrev cX3_areCells : ByteArray := prog_10_method_43_code
def yX3_areCells : MethodName := ⟨RX3, "areCells", "(II)Z"⟩
def dkwX3_areCells_1 : List UInt8 := [180, 0, 38, 154, 0, 7, 4, 167, 0, 4, 3, 172]
abbrev dktX3_areCells_1 : List UInt8 := dkwX3_areCells_1 ++ []
def dkwX3_areCells_0 : List UInt8 := [42, 27, 184, 0, 88, 153, 0, 14, 28, 184, 0, 88, 153, 0, 7, 3, 167, 0, 4, 4, 181, 0, 38, 42]
abbrev dktX3_areCells_0 : List UInt8 := dkwX3_areCells_0 ++ dktX3_areCells_1
theorem dksX3_areCells_0 : cX3_areCells.data.toList.drop 0 = dktX3_areCells_0 := by decide +kernel
theorem dksX3_areCells_1 : cX3_areCells.data.toList.drop 24 = dktX3_areCells_1 := dk_seg dksX3_areCells_0 24 rfl rfl
theorem dX3_areCells_0 : decode cX3_areCells 0 = .ok (.aload_n 0, 1) := dk_42 (dk_at dksX3_areCells_0 0 rfl rfl)
theorem dX3_areCells_1 : decode cX3_areCells 1 = .ok (.iload_n 1, 1) := dk_27 (dk_at dksX3_areCells_0 1 rfl rfl)
theorem dX3_areCells_2 : decode cX3_areCells 2 = .ok (.invokestatic 88, 3) := dk_184 0 88 (dk_at dksX3_areCells_0 2 rfl rfl)
theorem dX3_areCells_5 : decode cX3_areCells 5 = .ok (.ifCond .eq 14, 3) := dk_153 0 14 (dk_at dksX3_areCells_0 5 rfl rfl)
theorem dX3_areCells_8 : decode cX3_areCells 8 = .ok (.iload_n 2, 1) := dk_28 (dk_at dksX3_areCells_0 8 rfl rfl)
theorem dX3_areCells_9 : decode cX3_areCells 9 = .ok (.invokestatic 88, 3) := dk_184 0 88 (dk_at dksX3_areCells_0 9 rfl rfl)
theorem dX3_areCells_12 : decode cX3_areCells 12 = .ok (.ifCond .eq 7, 3) := dk_153 0 7 (dk_at dksX3_areCells_0 12 rfl rfl)
theorem dX3_areCells_15 : decode cX3_areCells 15 = .ok (.iconst 0, 1) := dk_3 (dk_at dksX3_areCells_0 15 rfl rfl)
theorem dX3_areCells_16 : decode cX3_areCells 16 = .ok (.goto 4, 3) := dk_167 0 4 (dk_at dksX3_areCells_0 16 rfl rfl)
theorem dX3_areCells_19 : decode cX3_areCells 19 = .ok (.iconst 1, 1) := dk_4 (dk_at dksX3_areCells_0 19 rfl rfl)
theorem dX3_areCells_20 : decode cX3_areCells 20 = .ok (.putfield 38, 3) := dk_181 0 38 (dk_at dksX3_areCells_0 20 rfl rfl)
theorem dX3_areCells_23 : decode cX3_areCells 23 = .ok (.aload_n 0, 1) := dk_42 (dk_at dksX3_areCells_0 23 rfl rfl)
theorem dX3_areCells_24 : decode cX3_areCells 24 = .ok (.getfield 38, 3) := dk_180 0 38 (dk_at dksX3_areCells_1 0 rfl rfl)
theorem dX3_areCells_27 : decode cX3_areCells 27 = .ok (.ifCond .ne 7, 3) := dk_154 0 7 (dk_at dksX3_areCells_1 3 rfl rfl)
theorem dX3_areCells_30 : decode cX3_areCells 30 = .ok (.iconst 1, 1) := dk_4 (dk_at dksX3_areCells_1 6 rfl rfl)
theorem dX3_areCells_31 : decode cX3_areCells 31 = .ok (.goto 4, 3) := dk_167 0 4 (dk_at dksX3_areCells_1 7 rfl rfl)
theorem dX3_areCells_34 : decode cX3_areCells 34 = .ok (.iconst 0, 1) := dk_3 (dk_at dksX3_areCells_1 10 rfl rfl)
theorem dX3_areCells_35 : decode cX3_areCells 35 = .ok (.ireturn, 1) := dk_172 (dk_at dksX3_areCells_1 11 rfl rfl)
abbrev cX3_isGap : ByteArray := prog_10_method_45_code
def yX3_isGap : MethodName := ⟨RX3, "isGap", "(II)Z"⟩
def dkwX3_isGap_1 : List UInt8 := [167, 0, 4, 3, 172]
abbrev dktX3_isGap_1 : List UInt8 := dkwX3_isGap_1 ++ []
def dkwX3_isGap_0 : List UInt8 := [42, 27, 28, 182, 0, 174, 153, 0, 19, 42, 27, 28, 184, 0, 77, 182, 0, 80, 153, 0, 7, 4]
abbrev dktX3_isGap_0 : List UInt8 := dkwX3_isGap_0 ++ dktX3_isGap_1
theorem dksX3_isGap_0 : cX3_isGap.data.toList.drop 0 = dktX3_isGap_0 := by decide +kernel
theorem dksX3_isGap_1 : cX3_isGap.data.toList.drop 22 = dktX3_isGap_1 := dk_seg dksX3_isGap_0 22 rfl rfl
theorem dX3_isGap_0 : decode cX3_isGap 0 = .ok (.aload_n 0, 1) := dk_42 (dk_at dksX3_isGap_0 0 rfl rfl)
theorem dX3_isGap_1 : decode cX3_isGap 1 = .ok (.iload_n 1, 1) := dk_27 (dk_at dksX3_isGap_0 1 rfl rfl)
theorem dX3_isGap_2 : decode cX3_isGap 2 = .ok (.iload_n 2, 1) := dk_28 (dk_at dksX3_isGap_0 2 rfl rfl)
theorem dX3_isGap_3 : decode cX3_isGap 3 = .ok (.invokevirtual 174, 3) := dk_182 0 174 (dk_at dksX3_isGap_0 3 rfl rfl)
theorem dX3_isGap_6 : decode cX3_isGap 6 = .ok (.ifCond .eq 19, 3) := dk_153 0 19 (dk_at dksX3_isGap_0 6 rfl rfl)
theorem dX3_isGap_9 : decode cX3_isGap 9 = .ok (.aload_n 0, 1) := dk_42 (dk_at dksX3_isGap_0 9 rfl rfl)
theorem dX3_isGap_10 : decode cX3_isGap 10 = .ok (.iload_n 1, 1) := dk_27 (dk_at dksX3_isGap_0 10 rfl rfl)
theorem dX3_isGap_11 : decode cX3_isGap 11 = .ok (.iload_n 2, 1) := dk_28 (dk_at dksX3_isGap_0 11 rfl rfl)
theorem dX3_isGap_12 : decode cX3_isGap 12 = .ok (.invokestatic 77, 3) := dk_184 0 77 (dk_at dksX3_isGap_0 12 rfl rfl)
theorem dX3_isGap_15 : decode cX3_isGap 15 = .ok (.invokevirtual 80, 3) := dk_182 0 80 (dk_at dksX3_isGap_0 15 rfl rfl)
theorem dX3_isGap_18 : decode cX3_isGap 18 = .ok (.ifCond .eq 7, 3) := dk_153 0 7 (dk_at dksX3_isGap_0 18 rfl rfl)
theorem dX3_isGap_21 : decode cX3_isGap 21 = .ok (.iconst 1, 1) := dk_4 (dk_at dksX3_isGap_0 21 rfl rfl)
theorem dX3_isGap_22 : decode cX3_isGap 22 = .ok (.goto 4, 3) := dk_167 0 4 (dk_at dksX3_isGap_1 0 rfl rfl)
theorem dX3_isGap_25 : decode cX3_isGap 25 = .ok (.iconst 0, 1) := dk_3 (dk_at dksX3_isGap_1 3 rfl rfl)
theorem dX3_isGap_26 : decode cX3_isGap 26 = .ok (.ireturn, 1) := dk_172 (dk_at dksX3_isGap_1 4 rfl rfl)
abbrev cX3_hours : ByteArray := prog_10_method_46_code
def yX3_hours : MethodName := ⟨RX3, "hours", "(II)I"⟩
def dkwX3_hours_1 : List UInt8 := [5, 182, 0, 50, 167, 0, 4, 29, 172]
abbrev dktX3_hours_1 : List UInt8 := dkwX3_hours_1 ++ []
def dkwX3_hours_0 : List UInt8 := [42, 27, 28, 182, 0, 174, 154, 0, 5, 2, 172, 42, 27, 28, 182, 0, 142, 62, 29, 2, 160, 0, 11, 42]
abbrev dktX3_hours_0 : List UInt8 := dkwX3_hours_0 ++ dktX3_hours_1
theorem dksX3_hours_0 : cX3_hours.data.toList.drop 0 = dktX3_hours_0 := by decide +kernel
theorem dksX3_hours_1 : cX3_hours.data.toList.drop 24 = dktX3_hours_1 := dk_seg dksX3_hours_0 24 rfl rfl
theorem dX3_hours_0 : decode cX3_hours 0 = .ok (.aload_n 0, 1) := dk_42 (dk_at dksX3_hours_0 0 rfl rfl)
theorem dX3_hours_1 : decode cX3_hours 1 = .ok (.iload_n 1, 1) := dk_27 (dk_at dksX3_hours_0 1 rfl rfl)
theorem dX3_hours_2 : decode cX3_hours 2 = .ok (.iload_n 2, 1) := dk_28 (dk_at dksX3_hours_0 2 rfl rfl)
theorem dX3_hours_3 : decode cX3_hours 3 = .ok (.invokevirtual 174, 3) := dk_182 0 174 (dk_at dksX3_hours_0 3 rfl rfl)
theorem dX3_hours_6 : decode cX3_hours 6 = .ok (.ifCond .ne 5, 3) := dk_154 0 5 (dk_at dksX3_hours_0 6 rfl rfl)
theorem dX3_hours_9 : decode cX3_hours 9 = .ok (.iconst (-1), 1) := dk_2 (dk_at dksX3_hours_0 9 rfl rfl)
theorem dX3_hours_10 : decode cX3_hours 10 = .ok (.ireturn, 1) := dk_172 (dk_at dksX3_hours_0 10 rfl rfl)
theorem dX3_hours_11 : decode cX3_hours 11 = .ok (.aload_n 0, 1) := dk_42 (dk_at dksX3_hours_0 11 rfl rfl)
theorem dX3_hours_12 : decode cX3_hours 12 = .ok (.iload_n 1, 1) := dk_27 (dk_at dksX3_hours_0 12 rfl rfl)
theorem dX3_hours_13 : decode cX3_hours 13 = .ok (.iload_n 2, 1) := dk_28 (dk_at dksX3_hours_0 13 rfl rfl)
theorem dX3_hours_14 : decode cX3_hours 14 = .ok (.invokevirtual 142, 3) := dk_182 0 142 (dk_at dksX3_hours_0 14 rfl rfl)
theorem dX3_hours_17 : decode cX3_hours 17 = .ok (.istore_n 3, 1) := dk_62 (dk_at dksX3_hours_0 17 rfl rfl)
theorem dX3_hours_18 : decode cX3_hours 18 = .ok (.iload_n 3, 1) := dk_29 (dk_at dksX3_hours_0 18 rfl rfl)
theorem dX3_hours_19 : decode cX3_hours 19 = .ok (.iconst (-1), 1) := dk_2 (dk_at dksX3_hours_0 19 rfl rfl)
theorem dX3_hours_20 : decode cX3_hours 20 = .ok (.if_icmp .ne 11, 3) := dk_160 0 11 (dk_at dksX3_hours_0 20 rfl rfl)
theorem dX3_hours_23 : decode cX3_hours 23 = .ok (.aload_n 0, 1) := dk_42 (dk_at dksX3_hours_0 23 rfl rfl)
theorem dX3_hours_24 : decode cX3_hours 24 = .ok (.iconst 2, 1) := dk_5 (dk_at dksX3_hours_1 0 rfl rfl)
theorem dX3_hours_25 : decode cX3_hours 25 = .ok (.invokevirtual 50, 3) := dk_182 0 50 (dk_at dksX3_hours_1 1 rfl rfl)
theorem dX3_hours_28 : decode cX3_hours 28 = .ok (.goto 4, 3) := dk_167 0 4 (dk_at dksX3_hours_1 4 rfl rfl)
theorem dX3_hours_31 : decode cX3_hours 31 = .ok (.iload_n 3, 1) := dk_29 (dk_at dksX3_hours_1 7 rfl rfl)
theorem dX3_hours_32 : decode cX3_hours 32 = .ok (.ireturn, 1) := dk_172 (dk_at dksX3_hours_1 8 rfl rfl)
abbrev cX3_hoursAgain : ByteArray := prog_10_method_47_code
def yX3_hoursAgain : MethodName := ⟨RX3, "hoursAgain", "(II)I"⟩
def dkwX3_hoursAgain_0 : List UInt8 := [42, 27, 28, 182, 0, 177, 172]
abbrev dktX3_hoursAgain_0 : List UInt8 := dkwX3_hoursAgain_0 ++ []
theorem dksX3_hoursAgain_0 : cX3_hoursAgain.data.toList.drop 0 = dktX3_hoursAgain_0 := by decide +kernel
theorem dX3_hoursAgain_0 : decode cX3_hoursAgain 0 = .ok (.aload_n 0, 1) := dk_42 (dk_at dksX3_hoursAgain_0 0 rfl rfl)
theorem dX3_hoursAgain_1 : decode cX3_hoursAgain 1 = .ok (.iload_n 1, 1) := dk_27 (dk_at dksX3_hoursAgain_0 1 rfl rfl)
theorem dX3_hoursAgain_2 : decode cX3_hoursAgain 2 = .ok (.iload_n 2, 1) := dk_28 (dk_at dksX3_hoursAgain_0 2 rfl rfl)
theorem dX3_hoursAgain_3 : decode cX3_hoursAgain 3 = .ok (.invokevirtual 177, 3) := dk_182 0 177 (dk_at dksX3_hoursAgain_0 3 rfl rfl)
theorem dX3_hoursAgain_6 : decode cX3_hoursAgain 6 = .ok (.ireturn, 1) := dk_172 (dk_at dksX3_hoursAgain_0 6 rfl rfl)
abbrev cX3_next : ByteArray := prog_10_method_48_code
def yX3_next : MethodName := ⟨RX3, "next", "(I)I"⟩
def dkwX3_next_3 : List UInt8 := [180, 0, 29, 27, 46, 4, 100, 159, 0, 9, 132, 2, 1, 167, 255, 215, 28, 172]
abbrev dktX3_next_3 : List UInt8 := dkwX3_next_3 ++ []
def dkwX3_next_2 : List UInt8 := [2, 159, 0, 32, 42, 27, 28, 184, 0, 77, 182, 0, 80, 153, 0, 20, 42, 180, 0, 29, 28, 46, 42]
abbrev dktX3_next_2 : List UInt8 := dkwX3_next_2 ++ dktX3_next_3
def dkwX3_next_1 : List UInt8 := [42, 180, 0, 29, 27, 46, 16, 99, 161, 0, 9, 42, 5, 182, 0, 50, 172, 3, 61, 27, 28, 184, 0, 77]
abbrev dktX3_next_1 : List UInt8 := dkwX3_next_1 ++ dktX3_next_2
def dkwX3_next_0 : List UInt8 := [42, 27, 27, 182, 0, 174, 154, 0, 5, 2, 172, 42, 16, 15, 3, 182, 0, 84, 27, 16, 15, 159, 0, 14]
abbrev dktX3_next_0 : List UInt8 := dkwX3_next_0 ++ dktX3_next_1
theorem dksX3_next_0 : cX3_next.data.toList.drop 0 = dktX3_next_0 := by decide +kernel
theorem dksX3_next_1 : cX3_next.data.toList.drop 24 = dktX3_next_1 := dk_seg dksX3_next_0 24 rfl rfl
theorem dksX3_next_2 : cX3_next.data.toList.drop 48 = dktX3_next_2 := dk_seg dksX3_next_1 24 rfl rfl
theorem dksX3_next_3 : cX3_next.data.toList.drop 71 = dktX3_next_3 := dk_seg dksX3_next_2 23 rfl rfl
theorem dX3_next_0 : decode cX3_next 0 = .ok (.aload_n 0, 1) := dk_42 (dk_at dksX3_next_0 0 rfl rfl)
theorem dX3_next_1 : decode cX3_next 1 = .ok (.iload_n 1, 1) := dk_27 (dk_at dksX3_next_0 1 rfl rfl)
theorem dX3_next_2 : decode cX3_next 2 = .ok (.iload_n 1, 1) := dk_27 (dk_at dksX3_next_0 2 rfl rfl)
theorem dX3_next_3 : decode cX3_next 3 = .ok (.invokevirtual 174, 3) := dk_182 0 174 (dk_at dksX3_next_0 3 rfl rfl)
theorem dX3_next_6 : decode cX3_next 6 = .ok (.ifCond .ne 5, 3) := dk_154 0 5 (dk_at dksX3_next_0 6 rfl rfl)
theorem dX3_next_9 : decode cX3_next 9 = .ok (.iconst (-1), 1) := dk_2 (dk_at dksX3_next_0 9 rfl rfl)
theorem dX3_next_10 : decode cX3_next 10 = .ok (.ireturn, 1) := dk_172 (dk_at dksX3_next_0 10 rfl rfl)
theorem dX3_next_11 : decode cX3_next 11 = .ok (.aload_n 0, 1) := dk_42 (dk_at dksX3_next_0 11 rfl rfl)
theorem dX3_next_12 : decode cX3_next 12 = .ok (.bipush 15, 2) := dk_16 15 (dk_at dksX3_next_0 12 rfl rfl)
theorem dX3_next_14 : decode cX3_next 14 = .ok (.iconst 0, 1) := dk_3 (dk_at dksX3_next_0 14 rfl rfl)
theorem dX3_next_15 : decode cX3_next 15 = .ok (.invokevirtual 84, 3) := dk_182 0 84 (dk_at dksX3_next_0 15 rfl rfl)
theorem dX3_next_18 : decode cX3_next 18 = .ok (.iload_n 1, 1) := dk_27 (dk_at dksX3_next_0 18 rfl rfl)
theorem dX3_next_19 : decode cX3_next 19 = .ok (.bipush 15, 2) := dk_16 15 (dk_at dksX3_next_0 19 rfl rfl)
theorem dX3_next_21 : decode cX3_next 21 = .ok (.if_icmp .eq 14, 3) := dk_159 0 14 (dk_at dksX3_next_0 21 rfl rfl)
theorem dX3_next_24 : decode cX3_next 24 = .ok (.aload_n 0, 1) := dk_42 (dk_at dksX3_next_1 0 rfl rfl)
theorem dX3_next_25 : decode cX3_next 25 = .ok (.getfield 29, 3) := dk_180 0 29 (dk_at dksX3_next_1 1 rfl rfl)
theorem dX3_next_28 : decode cX3_next 28 = .ok (.iload_n 1, 1) := dk_27 (dk_at dksX3_next_1 4 rfl rfl)
theorem dX3_next_29 : decode cX3_next 29 = .ok (.iaload, 1) := dk_46 (dk_at dksX3_next_1 5 rfl rfl)
theorem dX3_next_30 : decode cX3_next 30 = .ok (.bipush 99, 2) := dk_16 99 (dk_at dksX3_next_1 6 rfl rfl)
theorem dX3_next_32 : decode cX3_next 32 = .ok (.if_icmp .lt 9, 3) := dk_161 0 9 (dk_at dksX3_next_1 8 rfl rfl)
theorem dX3_next_35 : decode cX3_next 35 = .ok (.aload_n 0, 1) := dk_42 (dk_at dksX3_next_1 11 rfl rfl)
theorem dX3_next_36 : decode cX3_next 36 = .ok (.iconst 2, 1) := dk_5 (dk_at dksX3_next_1 12 rfl rfl)
theorem dX3_next_37 : decode cX3_next 37 = .ok (.invokevirtual 50, 3) := dk_182 0 50 (dk_at dksX3_next_1 13 rfl rfl)
theorem dX3_next_40 : decode cX3_next 40 = .ok (.ireturn, 1) := dk_172 (dk_at dksX3_next_1 16 rfl rfl)
theorem dX3_next_41 : decode cX3_next 41 = .ok (.iconst 0, 1) := dk_3 (dk_at dksX3_next_1 17 rfl rfl)
theorem dX3_next_42 : decode cX3_next 42 = .ok (.istore_n 2, 1) := dk_61 (dk_at dksX3_next_1 18 rfl rfl)
theorem dX3_next_43 : decode cX3_next 43 = .ok (.iload_n 1, 1) := dk_27 (dk_at dksX3_next_1 19 rfl rfl)
theorem dX3_next_44 : decode cX3_next 44 = .ok (.iload_n 2, 1) := dk_28 (dk_at dksX3_next_1 20 rfl rfl)
theorem dX3_next_45 : decode cX3_next 45 = .ok (.invokestatic 77, 3) := dk_184 0 77 (dk_at dksX3_next_1 21 rfl rfl)
theorem dX3_next_48 : decode cX3_next 48 = .ok (.iconst (-1), 1) := dk_2 (dk_at dksX3_next_2 0 rfl rfl)
theorem dX3_next_49 : decode cX3_next 49 = .ok (.if_icmp .eq 32, 3) := dk_159 0 32 (dk_at dksX3_next_2 1 rfl rfl)
theorem dX3_next_52 : decode cX3_next 52 = .ok (.aload_n 0, 1) := dk_42 (dk_at dksX3_next_2 4 rfl rfl)
theorem dX3_next_53 : decode cX3_next 53 = .ok (.iload_n 1, 1) := dk_27 (dk_at dksX3_next_2 5 rfl rfl)
theorem dX3_next_54 : decode cX3_next 54 = .ok (.iload_n 2, 1) := dk_28 (dk_at dksX3_next_2 6 rfl rfl)
theorem dX3_next_55 : decode cX3_next 55 = .ok (.invokestatic 77, 3) := dk_184 0 77 (dk_at dksX3_next_2 7 rfl rfl)
theorem dX3_next_58 : decode cX3_next 58 = .ok (.invokevirtual 80, 3) := dk_182 0 80 (dk_at dksX3_next_2 10 rfl rfl)
theorem dX3_next_61 : decode cX3_next 61 = .ok (.ifCond .eq 20, 3) := dk_153 0 20 (dk_at dksX3_next_2 13 rfl rfl)
theorem dX3_next_64 : decode cX3_next 64 = .ok (.aload_n 0, 1) := dk_42 (dk_at dksX3_next_2 16 rfl rfl)
theorem dX3_next_65 : decode cX3_next 65 = .ok (.getfield 29, 3) := dk_180 0 29 (dk_at dksX3_next_2 17 rfl rfl)
theorem dX3_next_68 : decode cX3_next 68 = .ok (.iload_n 2, 1) := dk_28 (dk_at dksX3_next_2 20 rfl rfl)
theorem dX3_next_69 : decode cX3_next 69 = .ok (.iaload, 1) := dk_46 (dk_at dksX3_next_2 21 rfl rfl)
theorem dX3_next_70 : decode cX3_next 70 = .ok (.aload_n 0, 1) := dk_42 (dk_at dksX3_next_2 22 rfl rfl)
theorem dX3_next_71 : decode cX3_next 71 = .ok (.getfield 29, 3) := dk_180 0 29 (dk_at dksX3_next_3 0 rfl rfl)
theorem dX3_next_74 : decode cX3_next 74 = .ok (.iload_n 1, 1) := dk_27 (dk_at dksX3_next_3 3 rfl rfl)
theorem dX3_next_75 : decode cX3_next 75 = .ok (.iaload, 1) := dk_46 (dk_at dksX3_next_3 4 rfl rfl)
theorem dX3_next_76 : decode cX3_next 76 = .ok (.iconst 1, 1) := dk_4 (dk_at dksX3_next_3 5 rfl rfl)
theorem dX3_next_77 : decode cX3_next 77 = .ok (.isub, 1) := dk_100 (dk_at dksX3_next_3 6 rfl rfl)
theorem dX3_next_78 : decode cX3_next 78 = .ok (.if_icmp .eq 9, 3) := dk_159 0 9 (dk_at dksX3_next_3 7 rfl rfl)
theorem dX3_next_81 : decode cX3_next 81 = .ok (.iinc 2 1, 3) := dk_132 2 1 (dk_at dksX3_next_3 10 rfl rfl)
theorem dX3_next_84 : decode cX3_next 84 = .ok (.goto (-41), 3) := dk_167 255 215 (dk_at dksX3_next_3 13 rfl rfl)
theorem dX3_next_87 : decode cX3_next 87 = .ok (.iload_n 2, 1) := dk_28 (dk_at dksX3_next_3 16 rfl rfl)
theorem dX3_next_88 : decode cX3_next 88 = .ok (.ireturn, 1) := dk_172 (dk_at dksX3_next_3 17 rfl rfl)
abbrev cX3_reached : ByteArray := prog_10_method_49_code
def yX3_reached : MethodName := ⟨RX3, "reached", "(I)I"⟩
def dkwX3_reached_0 : List UInt8 := [42, 27, 27, 182, 0, 174, 153, 0, 11, 42, 27, 182, 0, 145, 167, 0, 4, 2, 172]
abbrev dktX3_reached_0 : List UInt8 := dkwX3_reached_0 ++ []
theorem dksX3_reached_0 : cX3_reached.data.toList.drop 0 = dktX3_reached_0 := by decide +kernel
theorem dX3_reached_0 : decode cX3_reached 0 = .ok (.aload_n 0, 1) := dk_42 (dk_at dksX3_reached_0 0 rfl rfl)
theorem dX3_reached_1 : decode cX3_reached 1 = .ok (.iload_n 1, 1) := dk_27 (dk_at dksX3_reached_0 1 rfl rfl)
theorem dX3_reached_2 : decode cX3_reached 2 = .ok (.iload_n 1, 1) := dk_27 (dk_at dksX3_reached_0 2 rfl rfl)
theorem dX3_reached_3 : decode cX3_reached 3 = .ok (.invokevirtual 174, 3) := dk_182 0 174 (dk_at dksX3_reached_0 3 rfl rfl)
theorem dX3_reached_6 : decode cX3_reached 6 = .ok (.ifCond .eq 11, 3) := dk_153 0 11 (dk_at dksX3_reached_0 6 rfl rfl)
theorem dX3_reached_9 : decode cX3_reached 9 = .ok (.aload_n 0, 1) := dk_42 (dk_at dksX3_reached_0 9 rfl rfl)
theorem dX3_reached_10 : decode cX3_reached 10 = .ok (.iload_n 1, 1) := dk_27 (dk_at dksX3_reached_0 10 rfl rfl)
theorem dX3_reached_11 : decode cX3_reached 11 = .ok (.invokevirtual 145, 3) := dk_182 0 145 (dk_at dksX3_reached_0 11 rfl rfl)
theorem dX3_reached_14 : decode cX3_reached 14 = .ok (.goto 4, 3) := dk_167 0 4 (dk_at dksX3_reached_0 14 rfl rfl)
theorem dX3_reached_17 : decode cX3_reached 17 = .ok (.iconst (-1), 1) := dk_2 (dk_at dksX3_reached_0 17 rfl rfl)
theorem dX3_reached_18 : decode cX3_reached 18 = .ok (.ireturn, 1) := dk_172 (dk_at dksX3_reached_0 18 rfl rfl)
abbrev cX3_trims : ByteArray := prog_10_method_50_code
def yX3_trims : MethodName := ⟨RX3, "trims", "(I)I"⟩
def dkwX3_trims_1 : List UInt8 := [172]
abbrev dktX3_trims_1 : List UInt8 := dkwX3_trims_1 ++ []
def dkwX3_trims_0 : List UInt8 := [42, 27, 27, 182, 0, 174, 154, 0, 5, 2, 172, 42, 27, 4, 182, 0, 84, 42, 180, 0, 29, 16, 15, 46]
abbrev dktX3_trims_0 : List UInt8 := dkwX3_trims_0 ++ dktX3_trims_1
theorem dksX3_trims_0 : cX3_trims.data.toList.drop 0 = dktX3_trims_0 := by decide +kernel
theorem dksX3_trims_1 : cX3_trims.data.toList.drop 24 = dktX3_trims_1 := dk_seg dksX3_trims_0 24 rfl rfl
theorem dX3_trims_0 : decode cX3_trims 0 = .ok (.aload_n 0, 1) := dk_42 (dk_at dksX3_trims_0 0 rfl rfl)
theorem dX3_trims_1 : decode cX3_trims 1 = .ok (.iload_n 1, 1) := dk_27 (dk_at dksX3_trims_0 1 rfl rfl)
theorem dX3_trims_2 : decode cX3_trims 2 = .ok (.iload_n 1, 1) := dk_27 (dk_at dksX3_trims_0 2 rfl rfl)
theorem dX3_trims_3 : decode cX3_trims 3 = .ok (.invokevirtual 174, 3) := dk_182 0 174 (dk_at dksX3_trims_0 3 rfl rfl)
theorem dX3_trims_6 : decode cX3_trims 6 = .ok (.ifCond .ne 5, 3) := dk_154 0 5 (dk_at dksX3_trims_0 6 rfl rfl)
theorem dX3_trims_9 : decode cX3_trims 9 = .ok (.iconst (-1), 1) := dk_2 (dk_at dksX3_trims_0 9 rfl rfl)
theorem dX3_trims_10 : decode cX3_trims 10 = .ok (.ireturn, 1) := dk_172 (dk_at dksX3_trims_0 10 rfl rfl)
theorem dX3_trims_11 : decode cX3_trims 11 = .ok (.aload_n 0, 1) := dk_42 (dk_at dksX3_trims_0 11 rfl rfl)
theorem dX3_trims_12 : decode cX3_trims 12 = .ok (.iload_n 1, 1) := dk_27 (dk_at dksX3_trims_0 12 rfl rfl)
theorem dX3_trims_13 : decode cX3_trims 13 = .ok (.iconst 1, 1) := dk_4 (dk_at dksX3_trims_0 13 rfl rfl)
theorem dX3_trims_14 : decode cX3_trims 14 = .ok (.invokevirtual 84, 3) := dk_182 0 84 (dk_at dksX3_trims_0 14 rfl rfl)
theorem dX3_trims_17 : decode cX3_trims 17 = .ok (.aload_n 0, 1) := dk_42 (dk_at dksX3_trims_0 17 rfl rfl)
theorem dX3_trims_18 : decode cX3_trims 18 = .ok (.getfield 29, 3) := dk_180 0 29 (dk_at dksX3_trims_0 18 rfl rfl)
theorem dX3_trims_21 : decode cX3_trims 21 = .ok (.bipush 15, 2) := dk_16 15 (dk_at dksX3_trims_0 21 rfl rfl)
theorem dX3_trims_23 : decode cX3_trims 23 = .ok (.iaload, 1) := dk_46 (dk_at dksX3_trims_0 23 rfl rfl)
theorem dX3_trims_24 : decode cX3_trims 24 = .ok (.ireturn, 1) := dk_172 (dk_at dksX3_trims_1 0 rfl rfl)
abbrev cX3_trimsAgain : ByteArray := prog_10_method_51_code
def yX3_trimsAgain : MethodName := ⟨RX3, "trimsAgain", "(I)I"⟩
def dkwX3_trimsAgain_0 : List UInt8 := [42, 27, 182, 0, 180, 172]
abbrev dktX3_trimsAgain_0 : List UInt8 := dkwX3_trimsAgain_0 ++ []
theorem dksX3_trimsAgain_0 : cX3_trimsAgain.data.toList.drop 0 = dktX3_trimsAgain_0 := by decide +kernel
theorem dX3_trimsAgain_0 : decode cX3_trimsAgain 0 = .ok (.aload_n 0, 1) := dk_42 (dk_at dksX3_trimsAgain_0 0 rfl rfl)
theorem dX3_trimsAgain_1 : decode cX3_trimsAgain 1 = .ok (.iload_n 1, 1) := dk_27 (dk_at dksX3_trimsAgain_0 1 rfl rfl)
theorem dX3_trimsAgain_2 : decode cX3_trimsAgain 2 = .ok (.invokevirtual 180, 3) := dk_182 0 180 (dk_at dksX3_trimsAgain_0 2 rfl rfl)
theorem dX3_trimsAgain_5 : decode cX3_trimsAgain 5 = .ok (.ireturn, 1) := dk_172 (dk_at dksX3_trimsAgain_0 5 rfl rfl)
abbrev cX3_isNeeded : ByteArray := prog_10_method_52_code
def yX3_isNeeded : MethodName := ⟨RX3, "isNeeded", "(II)Z"⟩
def dkwX3_isNeeded_4 : List UInt8 := [172]
abbrev dktX3_isNeeded_4 : List UInt8 := dkwX3_isNeeded_4 ++ []
def dkwX3_isNeeded_3 : List UInt8 := [182, 0, 142, 2, 160, 0, 7, 4, 167, 0, 4, 3, 54, 5, 42, 180, 0, 9, 29, 21, 4, 79, 21, 5]
abbrev dktX3_isNeeded_3 : List UInt8 := dkwX3_isNeeded_3 ++ dktX3_isNeeded_4
def dkwX3_isNeeded_2 : List UInt8 := [160, 0, 5, 3, 172, 42, 180, 0, 9, 29, 46, 54, 4, 42, 180, 0, 9, 29, 8, 79, 42, 3, 16, 15]
abbrev dktX3_isNeeded_2 : List UInt8 := dkwX3_isNeeded_2 ++ dktX3_isNeeded_3
def dkwX3_isNeeded_1 : List UInt8 := [182, 0, 50, 87, 3, 172, 42, 29, 182, 0, 80, 153, 0, 14, 42, 3, 16, 15, 182, 0, 142, 2]
abbrev dktX3_isNeeded_1 : List UInt8 := dkwX3_isNeeded_1 ++ dktX3_isNeeded_2
def dkwX3_isNeeded_0 : List UInt8 := [42, 27, 28, 182, 0, 174, 154, 0, 5, 3, 172, 27, 28, 184, 0, 77, 62, 29, 2, 160, 0, 11, 42, 5]
abbrev dktX3_isNeeded_0 : List UInt8 := dkwX3_isNeeded_0 ++ dktX3_isNeeded_1
theorem dksX3_isNeeded_0 : cX3_isNeeded.data.toList.drop 0 = dktX3_isNeeded_0 := by decide +kernel
theorem dksX3_isNeeded_1 : cX3_isNeeded.data.toList.drop 24 = dktX3_isNeeded_1 := dk_seg dksX3_isNeeded_0 24 rfl rfl
theorem dksX3_isNeeded_2 : cX3_isNeeded.data.toList.drop 46 = dktX3_isNeeded_2 := dk_seg dksX3_isNeeded_1 22 rfl rfl
theorem dksX3_isNeeded_3 : cX3_isNeeded.data.toList.drop 70 = dktX3_isNeeded_3 := dk_seg dksX3_isNeeded_2 24 rfl rfl
theorem dksX3_isNeeded_4 : cX3_isNeeded.data.toList.drop 94 = dktX3_isNeeded_4 := dk_seg dksX3_isNeeded_3 24 rfl rfl
theorem dX3_isNeeded_0 : decode cX3_isNeeded 0 = .ok (.aload_n 0, 1) := dk_42 (dk_at dksX3_isNeeded_0 0 rfl rfl)
theorem dX3_isNeeded_1 : decode cX3_isNeeded 1 = .ok (.iload_n 1, 1) := dk_27 (dk_at dksX3_isNeeded_0 1 rfl rfl)
theorem dX3_isNeeded_2 : decode cX3_isNeeded 2 = .ok (.iload_n 2, 1) := dk_28 (dk_at dksX3_isNeeded_0 2 rfl rfl)
theorem dX3_isNeeded_3 : decode cX3_isNeeded 3 = .ok (.invokevirtual 174, 3) := dk_182 0 174 (dk_at dksX3_isNeeded_0 3 rfl rfl)
theorem dX3_isNeeded_6 : decode cX3_isNeeded 6 = .ok (.ifCond .ne 5, 3) := dk_154 0 5 (dk_at dksX3_isNeeded_0 6 rfl rfl)
theorem dX3_isNeeded_9 : decode cX3_isNeeded 9 = .ok (.iconst 0, 1) := dk_3 (dk_at dksX3_isNeeded_0 9 rfl rfl)
theorem dX3_isNeeded_10 : decode cX3_isNeeded 10 = .ok (.ireturn, 1) := dk_172 (dk_at dksX3_isNeeded_0 10 rfl rfl)
theorem dX3_isNeeded_11 : decode cX3_isNeeded 11 = .ok (.iload_n 1, 1) := dk_27 (dk_at dksX3_isNeeded_0 11 rfl rfl)
theorem dX3_isNeeded_12 : decode cX3_isNeeded 12 = .ok (.iload_n 2, 1) := dk_28 (dk_at dksX3_isNeeded_0 12 rfl rfl)
theorem dX3_isNeeded_13 : decode cX3_isNeeded 13 = .ok (.invokestatic 77, 3) := dk_184 0 77 (dk_at dksX3_isNeeded_0 13 rfl rfl)
theorem dX3_isNeeded_16 : decode cX3_isNeeded 16 = .ok (.istore_n 3, 1) := dk_62 (dk_at dksX3_isNeeded_0 16 rfl rfl)
theorem dX3_isNeeded_17 : decode cX3_isNeeded 17 = .ok (.iload_n 3, 1) := dk_29 (dk_at dksX3_isNeeded_0 17 rfl rfl)
theorem dX3_isNeeded_18 : decode cX3_isNeeded 18 = .ok (.iconst (-1), 1) := dk_2 (dk_at dksX3_isNeeded_0 18 rfl rfl)
theorem dX3_isNeeded_19 : decode cX3_isNeeded 19 = .ok (.if_icmp .ne 11, 3) := dk_160 0 11 (dk_at dksX3_isNeeded_0 19 rfl rfl)
theorem dX3_isNeeded_22 : decode cX3_isNeeded 22 = .ok (.aload_n 0, 1) := dk_42 (dk_at dksX3_isNeeded_0 22 rfl rfl)
theorem dX3_isNeeded_23 : decode cX3_isNeeded 23 = .ok (.iconst 2, 1) := dk_5 (dk_at dksX3_isNeeded_0 23 rfl rfl)
theorem dX3_isNeeded_24 : decode cX3_isNeeded 24 = .ok (.invokevirtual 50, 3) := dk_182 0 50 (dk_at dksX3_isNeeded_1 0 rfl rfl)
theorem dX3_isNeeded_27 : decode cX3_isNeeded 27 = .ok (.pop, 1) := dk_87 (dk_at dksX3_isNeeded_1 3 rfl rfl)
theorem dX3_isNeeded_28 : decode cX3_isNeeded 28 = .ok (.iconst 0, 1) := dk_3 (dk_at dksX3_isNeeded_1 4 rfl rfl)
theorem dX3_isNeeded_29 : decode cX3_isNeeded 29 = .ok (.ireturn, 1) := dk_172 (dk_at dksX3_isNeeded_1 5 rfl rfl)
theorem dX3_isNeeded_30 : decode cX3_isNeeded 30 = .ok (.aload_n 0, 1) := dk_42 (dk_at dksX3_isNeeded_1 6 rfl rfl)
theorem dX3_isNeeded_31 : decode cX3_isNeeded 31 = .ok (.iload_n 3, 1) := dk_29 (dk_at dksX3_isNeeded_1 7 rfl rfl)
theorem dX3_isNeeded_32 : decode cX3_isNeeded 32 = .ok (.invokevirtual 80, 3) := dk_182 0 80 (dk_at dksX3_isNeeded_1 8 rfl rfl)
theorem dX3_isNeeded_35 : decode cX3_isNeeded 35 = .ok (.ifCond .eq 14, 3) := dk_153 0 14 (dk_at dksX3_isNeeded_1 11 rfl rfl)
theorem dX3_isNeeded_38 : decode cX3_isNeeded 38 = .ok (.aload_n 0, 1) := dk_42 (dk_at dksX3_isNeeded_1 14 rfl rfl)
theorem dX3_isNeeded_39 : decode cX3_isNeeded 39 = .ok (.iconst 0, 1) := dk_3 (dk_at dksX3_isNeeded_1 15 rfl rfl)
theorem dX3_isNeeded_40 : decode cX3_isNeeded 40 = .ok (.bipush 15, 2) := dk_16 15 (dk_at dksX3_isNeeded_1 16 rfl rfl)
theorem dX3_isNeeded_42 : decode cX3_isNeeded 42 = .ok (.invokevirtual 142, 3) := dk_182 0 142 (dk_at dksX3_isNeeded_1 18 rfl rfl)
theorem dX3_isNeeded_45 : decode cX3_isNeeded 45 = .ok (.iconst (-1), 1) := dk_2 (dk_at dksX3_isNeeded_1 21 rfl rfl)
theorem dX3_isNeeded_46 : decode cX3_isNeeded 46 = .ok (.if_icmp .ne 5, 3) := dk_160 0 5 (dk_at dksX3_isNeeded_2 0 rfl rfl)
theorem dX3_isNeeded_49 : decode cX3_isNeeded 49 = .ok (.iconst 0, 1) := dk_3 (dk_at dksX3_isNeeded_2 3 rfl rfl)
theorem dX3_isNeeded_50 : decode cX3_isNeeded 50 = .ok (.ireturn, 1) := dk_172 (dk_at dksX3_isNeeded_2 4 rfl rfl)
theorem dX3_isNeeded_51 : decode cX3_isNeeded 51 = .ok (.aload_n 0, 1) := dk_42 (dk_at dksX3_isNeeded_2 5 rfl rfl)
theorem dX3_isNeeded_52 : decode cX3_isNeeded 52 = .ok (.getfield 9, 3) := dk_180 0 9 (dk_at dksX3_isNeeded_2 6 rfl rfl)
theorem dX3_isNeeded_55 : decode cX3_isNeeded 55 = .ok (.iload_n 3, 1) := dk_29 (dk_at dksX3_isNeeded_2 9 rfl rfl)
theorem dX3_isNeeded_56 : decode cX3_isNeeded 56 = .ok (.iaload, 1) := dk_46 (dk_at dksX3_isNeeded_2 10 rfl rfl)
theorem dX3_isNeeded_57 : decode cX3_isNeeded 57 = .ok (.istore 4, 2) := dk_54 4 (dk_at dksX3_isNeeded_2 11 rfl rfl)
theorem dX3_isNeeded_59 : decode cX3_isNeeded 59 = .ok (.aload_n 0, 1) := dk_42 (dk_at dksX3_isNeeded_2 13 rfl rfl)
theorem dX3_isNeeded_60 : decode cX3_isNeeded 60 = .ok (.getfield 9, 3) := dk_180 0 9 (dk_at dksX3_isNeeded_2 14 rfl rfl)
theorem dX3_isNeeded_63 : decode cX3_isNeeded 63 = .ok (.iload_n 3, 1) := dk_29 (dk_at dksX3_isNeeded_2 17 rfl rfl)
theorem dX3_isNeeded_64 : decode cX3_isNeeded 64 = .ok (.iconst 5, 1) := dk_8 (dk_at dksX3_isNeeded_2 18 rfl rfl)
theorem dX3_isNeeded_65 : decode cX3_isNeeded 65 = .ok (.iastore, 1) := dk_79 (dk_at dksX3_isNeeded_2 19 rfl rfl)
theorem dX3_isNeeded_66 : decode cX3_isNeeded 66 = .ok (.aload_n 0, 1) := dk_42 (dk_at dksX3_isNeeded_2 20 rfl rfl)
theorem dX3_isNeeded_67 : decode cX3_isNeeded 67 = .ok (.iconst 0, 1) := dk_3 (dk_at dksX3_isNeeded_2 21 rfl rfl)
theorem dX3_isNeeded_68 : decode cX3_isNeeded 68 = .ok (.bipush 15, 2) := dk_16 15 (dk_at dksX3_isNeeded_2 22 rfl rfl)
theorem dX3_isNeeded_70 : decode cX3_isNeeded 70 = .ok (.invokevirtual 142, 3) := dk_182 0 142 (dk_at dksX3_isNeeded_3 0 rfl rfl)
theorem dX3_isNeeded_73 : decode cX3_isNeeded 73 = .ok (.iconst (-1), 1) := dk_2 (dk_at dksX3_isNeeded_3 3 rfl rfl)
theorem dX3_isNeeded_74 : decode cX3_isNeeded 74 = .ok (.if_icmp .ne 7, 3) := dk_160 0 7 (dk_at dksX3_isNeeded_3 4 rfl rfl)
theorem dX3_isNeeded_77 : decode cX3_isNeeded 77 = .ok (.iconst 1, 1) := dk_4 (dk_at dksX3_isNeeded_3 7 rfl rfl)
theorem dX3_isNeeded_78 : decode cX3_isNeeded 78 = .ok (.goto 4, 3) := dk_167 0 4 (dk_at dksX3_isNeeded_3 8 rfl rfl)
theorem dX3_isNeeded_81 : decode cX3_isNeeded 81 = .ok (.iconst 0, 1) := dk_3 (dk_at dksX3_isNeeded_3 11 rfl rfl)
theorem dX3_isNeeded_82 : decode cX3_isNeeded 82 = .ok (.istore 5, 2) := dk_54 5 (dk_at dksX3_isNeeded_3 12 rfl rfl)
theorem dX3_isNeeded_84 : decode cX3_isNeeded 84 = .ok (.aload_n 0, 1) := dk_42 (dk_at dksX3_isNeeded_3 14 rfl rfl)
theorem dX3_isNeeded_85 : decode cX3_isNeeded 85 = .ok (.getfield 9, 3) := dk_180 0 9 (dk_at dksX3_isNeeded_3 15 rfl rfl)
theorem dX3_isNeeded_88 : decode cX3_isNeeded 88 = .ok (.iload_n 3, 1) := dk_29 (dk_at dksX3_isNeeded_3 18 rfl rfl)
theorem dX3_isNeeded_89 : decode cX3_isNeeded 89 = .ok (.iload 4, 2) := dk_21 4 (dk_at dksX3_isNeeded_3 19 rfl rfl)
theorem dX3_isNeeded_91 : decode cX3_isNeeded 91 = .ok (.iastore, 1) := dk_79 (dk_at dksX3_isNeeded_3 21 rfl rfl)
theorem dX3_isNeeded_92 : decode cX3_isNeeded 92 = .ok (.iload 5, 2) := dk_21 5 (dk_at dksX3_isNeeded_3 22 rfl rfl)
theorem dX3_isNeeded_94 : decode cX3_isNeeded 94 = .ok (.ireturn, 1) := dk_172 (dk_at dksX3_isNeeded_4 0 rfl rfl)
abbrev cX3_closesIn : ByteArray := prog_10_method_53_code
def yX3_closesIn : MethodName := ⟨RX3, "closesIn", "(II)I"⟩
def dkwX3_closesIn_1 : List UInt8 := [182, 0, 50, 167, 0, 15, 3, 8, 42, 180, 0, 9, 29, 46, 100, 184, 0, 71, 172]
abbrev dktX3_closesIn_1 : List UInt8 := dkwX3_closesIn_1 ++ []
def dkwX3_closesIn_0 : List UInt8 := [42, 27, 28, 182, 0, 174, 154, 0, 5, 2, 172, 27, 28, 184, 0, 77, 62, 29, 2, 160, 0, 11, 42, 5]
abbrev dktX3_closesIn_0 : List UInt8 := dkwX3_closesIn_0 ++ dktX3_closesIn_1
theorem dksX3_closesIn_0 : cX3_closesIn.data.toList.drop 0 = dktX3_closesIn_0 := by decide +kernel
theorem dksX3_closesIn_1 : cX3_closesIn.data.toList.drop 24 = dktX3_closesIn_1 := dk_seg dksX3_closesIn_0 24 rfl rfl
theorem dX3_closesIn_0 : decode cX3_closesIn 0 = .ok (.aload_n 0, 1) := dk_42 (dk_at dksX3_closesIn_0 0 rfl rfl)
theorem dX3_closesIn_1 : decode cX3_closesIn 1 = .ok (.iload_n 1, 1) := dk_27 (dk_at dksX3_closesIn_0 1 rfl rfl)
theorem dX3_closesIn_2 : decode cX3_closesIn 2 = .ok (.iload_n 2, 1) := dk_28 (dk_at dksX3_closesIn_0 2 rfl rfl)
theorem dX3_closesIn_3 : decode cX3_closesIn 3 = .ok (.invokevirtual 174, 3) := dk_182 0 174 (dk_at dksX3_closesIn_0 3 rfl rfl)
theorem dX3_closesIn_6 : decode cX3_closesIn 6 = .ok (.ifCond .ne 5, 3) := dk_154 0 5 (dk_at dksX3_closesIn_0 6 rfl rfl)
theorem dX3_closesIn_9 : decode cX3_closesIn 9 = .ok (.iconst (-1), 1) := dk_2 (dk_at dksX3_closesIn_0 9 rfl rfl)
theorem dX3_closesIn_10 : decode cX3_closesIn 10 = .ok (.ireturn, 1) := dk_172 (dk_at dksX3_closesIn_0 10 rfl rfl)
theorem dX3_closesIn_11 : decode cX3_closesIn 11 = .ok (.iload_n 1, 1) := dk_27 (dk_at dksX3_closesIn_0 11 rfl rfl)
theorem dX3_closesIn_12 : decode cX3_closesIn 12 = .ok (.iload_n 2, 1) := dk_28 (dk_at dksX3_closesIn_0 12 rfl rfl)
theorem dX3_closesIn_13 : decode cX3_closesIn 13 = .ok (.invokestatic 77, 3) := dk_184 0 77 (dk_at dksX3_closesIn_0 13 rfl rfl)
theorem dX3_closesIn_16 : decode cX3_closesIn 16 = .ok (.istore_n 3, 1) := dk_62 (dk_at dksX3_closesIn_0 16 rfl rfl)
theorem dX3_closesIn_17 : decode cX3_closesIn 17 = .ok (.iload_n 3, 1) := dk_29 (dk_at dksX3_closesIn_0 17 rfl rfl)
theorem dX3_closesIn_18 : decode cX3_closesIn 18 = .ok (.iconst (-1), 1) := dk_2 (dk_at dksX3_closesIn_0 18 rfl rfl)
theorem dX3_closesIn_19 : decode cX3_closesIn 19 = .ok (.if_icmp .ne 11, 3) := dk_160 0 11 (dk_at dksX3_closesIn_0 19 rfl rfl)
theorem dX3_closesIn_22 : decode cX3_closesIn 22 = .ok (.aload_n 0, 1) := dk_42 (dk_at dksX3_closesIn_0 22 rfl rfl)
theorem dX3_closesIn_23 : decode cX3_closesIn 23 = .ok (.iconst 2, 1) := dk_5 (dk_at dksX3_closesIn_0 23 rfl rfl)
theorem dX3_closesIn_24 : decode cX3_closesIn 24 = .ok (.invokevirtual 50, 3) := dk_182 0 50 (dk_at dksX3_closesIn_1 0 rfl rfl)
theorem dX3_closesIn_27 : decode cX3_closesIn 27 = .ok (.goto 15, 3) := dk_167 0 15 (dk_at dksX3_closesIn_1 3 rfl rfl)
theorem dX3_closesIn_30 : decode cX3_closesIn 30 = .ok (.iconst 0, 1) := dk_3 (dk_at dksX3_closesIn_1 6 rfl rfl)
theorem dX3_closesIn_31 : decode cX3_closesIn 31 = .ok (.iconst 5, 1) := dk_8 (dk_at dksX3_closesIn_1 7 rfl rfl)
theorem dX3_closesIn_32 : decode cX3_closesIn 32 = .ok (.aload_n 0, 1) := dk_42 (dk_at dksX3_closesIn_1 8 rfl rfl)
theorem dX3_closesIn_33 : decode cX3_closesIn 33 = .ok (.getfield 9, 3) := dk_180 0 9 (dk_at dksX3_closesIn_1 9 rfl rfl)
theorem dX3_closesIn_36 : decode cX3_closesIn 36 = .ok (.iload_n 3, 1) := dk_29 (dk_at dksX3_closesIn_1 12 rfl rfl)
theorem dX3_closesIn_37 : decode cX3_closesIn 37 = .ok (.iaload, 1) := dk_46 (dk_at dksX3_closesIn_1 13 rfl rfl)
theorem dX3_closesIn_38 : decode cX3_closesIn 38 = .ok (.isub, 1) := dk_100 (dk_at dksX3_closesIn_1 14 rfl rfl)
theorem dX3_closesIn_39 : decode cX3_closesIn 39 = .ok (.invokestatic 71, 3) := dk_184 0 71 (dk_at dksX3_closesIn_1 15 rfl rfl)
theorem dX3_closesIn_42 : decode cX3_closesIn 42 = .ok (.ireturn, 1) := dk_172 (dk_at dksX3_closesIn_1 18 rfl rfl)
abbrev cX3_summersLeft : ByteArray := prog_10_method_54_code
def yX3_summersLeft : MethodName := ⟨RX3, "summersLeft", "()I"⟩
def dkwX3_summersLeft_3 : List UInt8 := [27, 100, 79, 132, 2, 1, 167, 255, 234, 27, 172]
abbrev dktX3_summersLeft_3 : List UInt8 := dkwX3_summersLeft_3 ++ []
def dkwX3_summersLeft_2 : List UInt8 := [132, 1, 1, 167, 255, 215, 3, 61, 28, 16, 24, 162, 0, 22, 42, 180, 0, 9, 16, 6, 28, 96, 92, 46]
abbrev dktX3_summersLeft_2 : List UInt8 := dkwX3_summersLeft_2 ++ dktX3_summersLeft_3
def dkwX3_summersLeft_1 : List UInt8 := [162, 0, 22, 42, 180, 0, 9, 16, 6, 28, 96, 92, 46, 4, 96, 79, 132, 2, 1, 167, 255, 234]
abbrev dktX3_summersLeft_1 : List UInt8 := dkwX3_summersLeft_1 ++ dktX3_summersLeft_2
def dkwX3_summersLeft_0 : List UInt8 := [42, 3, 181, 0, 38, 3, 60, 42, 3, 16, 15, 182, 0, 142, 2, 159, 0, 36, 3, 61, 28, 16, 24]
abbrev dktX3_summersLeft_0 : List UInt8 := dkwX3_summersLeft_0 ++ dktX3_summersLeft_1
theorem dksX3_summersLeft_0 : cX3_summersLeft.data.toList.drop 0 = dktX3_summersLeft_0 := by decide +kernel
theorem dksX3_summersLeft_1 : cX3_summersLeft.data.toList.drop 23 = dktX3_summersLeft_1 := dk_seg dksX3_summersLeft_0 23 rfl rfl
theorem dksX3_summersLeft_2 : cX3_summersLeft.data.toList.drop 45 = dktX3_summersLeft_2 := dk_seg dksX3_summersLeft_1 22 rfl rfl
theorem dksX3_summersLeft_3 : cX3_summersLeft.data.toList.drop 69 = dktX3_summersLeft_3 := dk_seg dksX3_summersLeft_2 24 rfl rfl
theorem dX3_summersLeft_0 : decode cX3_summersLeft 0 = .ok (.aload_n 0, 1) := dk_42 (dk_at dksX3_summersLeft_0 0 rfl rfl)
theorem dX3_summersLeft_1 : decode cX3_summersLeft 1 = .ok (.iconst 0, 1) := dk_3 (dk_at dksX3_summersLeft_0 1 rfl rfl)
theorem dX3_summersLeft_2 : decode cX3_summersLeft 2 = .ok (.putfield 38, 3) := dk_181 0 38 (dk_at dksX3_summersLeft_0 2 rfl rfl)
theorem dX3_summersLeft_5 : decode cX3_summersLeft 5 = .ok (.iconst 0, 1) := dk_3 (dk_at dksX3_summersLeft_0 5 rfl rfl)
theorem dX3_summersLeft_6 : decode cX3_summersLeft 6 = .ok (.istore_n 1, 1) := dk_60 (dk_at dksX3_summersLeft_0 6 rfl rfl)
theorem dX3_summersLeft_7 : decode cX3_summersLeft 7 = .ok (.aload_n 0, 1) := dk_42 (dk_at dksX3_summersLeft_0 7 rfl rfl)
theorem dX3_summersLeft_8 : decode cX3_summersLeft 8 = .ok (.iconst 0, 1) := dk_3 (dk_at dksX3_summersLeft_0 8 rfl rfl)
theorem dX3_summersLeft_9 : decode cX3_summersLeft 9 = .ok (.bipush 15, 2) := dk_16 15 (dk_at dksX3_summersLeft_0 9 rfl rfl)
theorem dX3_summersLeft_11 : decode cX3_summersLeft 11 = .ok (.invokevirtual 142, 3) := dk_182 0 142 (dk_at dksX3_summersLeft_0 11 rfl rfl)
theorem dX3_summersLeft_14 : decode cX3_summersLeft 14 = .ok (.iconst (-1), 1) := dk_2 (dk_at dksX3_summersLeft_0 14 rfl rfl)
theorem dX3_summersLeft_15 : decode cX3_summersLeft 15 = .ok (.if_icmp .eq 36, 3) := dk_159 0 36 (dk_at dksX3_summersLeft_0 15 rfl rfl)
theorem dX3_summersLeft_18 : decode cX3_summersLeft 18 = .ok (.iconst 0, 1) := dk_3 (dk_at dksX3_summersLeft_0 18 rfl rfl)
theorem dX3_summersLeft_19 : decode cX3_summersLeft 19 = .ok (.istore_n 2, 1) := dk_61 (dk_at dksX3_summersLeft_0 19 rfl rfl)
theorem dX3_summersLeft_20 : decode cX3_summersLeft 20 = .ok (.iload_n 2, 1) := dk_28 (dk_at dksX3_summersLeft_0 20 rfl rfl)
theorem dX3_summersLeft_21 : decode cX3_summersLeft 21 = .ok (.bipush 24, 2) := dk_16 24 (dk_at dksX3_summersLeft_0 21 rfl rfl)
theorem dX3_summersLeft_23 : decode cX3_summersLeft 23 = .ok (.if_icmp .ge 22, 3) := dk_162 0 22 (dk_at dksX3_summersLeft_1 0 rfl rfl)
theorem dX3_summersLeft_26 : decode cX3_summersLeft 26 = .ok (.aload_n 0, 1) := dk_42 (dk_at dksX3_summersLeft_1 3 rfl rfl)
theorem dX3_summersLeft_27 : decode cX3_summersLeft 27 = .ok (.getfield 9, 3) := dk_180 0 9 (dk_at dksX3_summersLeft_1 4 rfl rfl)
theorem dX3_summersLeft_30 : decode cX3_summersLeft 30 = .ok (.bipush 6, 2) := dk_16 6 (dk_at dksX3_summersLeft_1 7 rfl rfl)
theorem dX3_summersLeft_32 : decode cX3_summersLeft 32 = .ok (.iload_n 2, 1) := dk_28 (dk_at dksX3_summersLeft_1 9 rfl rfl)
theorem dX3_summersLeft_33 : decode cX3_summersLeft 33 = .ok (.iadd, 1) := dk_96 (dk_at dksX3_summersLeft_1 10 rfl rfl)
theorem dX3_summersLeft_34 : decode cX3_summersLeft 34 = .ok (.dup2, 1) := dk_92 (dk_at dksX3_summersLeft_1 11 rfl rfl)
theorem dX3_summersLeft_35 : decode cX3_summersLeft 35 = .ok (.iaload, 1) := dk_46 (dk_at dksX3_summersLeft_1 12 rfl rfl)
theorem dX3_summersLeft_36 : decode cX3_summersLeft 36 = .ok (.iconst 1, 1) := dk_4 (dk_at dksX3_summersLeft_1 13 rfl rfl)
theorem dX3_summersLeft_37 : decode cX3_summersLeft 37 = .ok (.iadd, 1) := dk_96 (dk_at dksX3_summersLeft_1 14 rfl rfl)
theorem dX3_summersLeft_38 : decode cX3_summersLeft 38 = .ok (.iastore, 1) := dk_79 (dk_at dksX3_summersLeft_1 15 rfl rfl)
theorem dX3_summersLeft_39 : decode cX3_summersLeft 39 = .ok (.iinc 2 1, 3) := dk_132 2 1 (dk_at dksX3_summersLeft_1 16 rfl rfl)
theorem dX3_summersLeft_42 : decode cX3_summersLeft 42 = .ok (.goto (-22), 3) := dk_167 255 234 (dk_at dksX3_summersLeft_1 19 rfl rfl)
theorem dX3_summersLeft_45 : decode cX3_summersLeft 45 = .ok (.iinc 1 1, 3) := dk_132 1 1 (dk_at dksX3_summersLeft_2 0 rfl rfl)
theorem dX3_summersLeft_48 : decode cX3_summersLeft 48 = .ok (.goto (-41), 3) := dk_167 255 215 (dk_at dksX3_summersLeft_2 3 rfl rfl)
theorem dX3_summersLeft_51 : decode cX3_summersLeft 51 = .ok (.iconst 0, 1) := dk_3 (dk_at dksX3_summersLeft_2 6 rfl rfl)
theorem dX3_summersLeft_52 : decode cX3_summersLeft 52 = .ok (.istore_n 2, 1) := dk_61 (dk_at dksX3_summersLeft_2 7 rfl rfl)
theorem dX3_summersLeft_53 : decode cX3_summersLeft 53 = .ok (.iload_n 2, 1) := dk_28 (dk_at dksX3_summersLeft_2 8 rfl rfl)
theorem dX3_summersLeft_54 : decode cX3_summersLeft 54 = .ok (.bipush 24, 2) := dk_16 24 (dk_at dksX3_summersLeft_2 9 rfl rfl)
theorem dX3_summersLeft_56 : decode cX3_summersLeft 56 = .ok (.if_icmp .ge 22, 3) := dk_162 0 22 (dk_at dksX3_summersLeft_2 11 rfl rfl)
theorem dX3_summersLeft_59 : decode cX3_summersLeft 59 = .ok (.aload_n 0, 1) := dk_42 (dk_at dksX3_summersLeft_2 14 rfl rfl)
theorem dX3_summersLeft_60 : decode cX3_summersLeft 60 = .ok (.getfield 9, 3) := dk_180 0 9 (dk_at dksX3_summersLeft_2 15 rfl rfl)
theorem dX3_summersLeft_63 : decode cX3_summersLeft 63 = .ok (.bipush 6, 2) := dk_16 6 (dk_at dksX3_summersLeft_2 18 rfl rfl)
theorem dX3_summersLeft_65 : decode cX3_summersLeft 65 = .ok (.iload_n 2, 1) := dk_28 (dk_at dksX3_summersLeft_2 20 rfl rfl)
theorem dX3_summersLeft_66 : decode cX3_summersLeft 66 = .ok (.iadd, 1) := dk_96 (dk_at dksX3_summersLeft_2 21 rfl rfl)
theorem dX3_summersLeft_67 : decode cX3_summersLeft 67 = .ok (.dup2, 1) := dk_92 (dk_at dksX3_summersLeft_2 22 rfl rfl)
theorem dX3_summersLeft_68 : decode cX3_summersLeft 68 = .ok (.iaload, 1) := dk_46 (dk_at dksX3_summersLeft_2 23 rfl rfl)
theorem dX3_summersLeft_69 : decode cX3_summersLeft 69 = .ok (.iload_n 1, 1) := dk_27 (dk_at dksX3_summersLeft_3 0 rfl rfl)
theorem dX3_summersLeft_70 : decode cX3_summersLeft 70 = .ok (.isub, 1) := dk_100 (dk_at dksX3_summersLeft_3 1 rfl rfl)
theorem dX3_summersLeft_71 : decode cX3_summersLeft 71 = .ok (.iastore, 1) := dk_79 (dk_at dksX3_summersLeft_3 2 rfl rfl)
theorem dX3_summersLeft_72 : decode cX3_summersLeft 72 = .ok (.iinc 2 1, 3) := dk_132 2 1 (dk_at dksX3_summersLeft_3 3 rfl rfl)
theorem dX3_summersLeft_75 : decode cX3_summersLeft 75 = .ok (.goto (-22), 3) := dk_167 255 234 (dk_at dksX3_summersLeft_3 6 rfl rfl)
theorem dX3_summersLeft_78 : decode cX3_summersLeft 78 = .ok (.iload_n 1, 1) := dk_27 (dk_at dksX3_summersLeft_3 9 rfl rfl)
theorem dX3_summersLeft_79 : decode cX3_summersLeft 79 = .ok (.ireturn, 1) := dk_172 (dk_at dksX3_summersLeft_3 10 rfl rfl)
abbrev cX3_gardenerOf : ByteArray := prog_10_method_57_code
def yX3_gardenerOf : MethodName := ⟨RX3, "gardenerOf", "(II)I"⟩
def dkwX3_gardenerOf_3 : List UInt8 := [28, 96, 4, 100, 46, 172, 42, 5, 182, 0, 50, 172]
abbrev dktX3_gardenerOf_3 : List UInt8 := dkwX3_gardenerOf_3 ++ []
def dkwX3_gardenerOf_2 : List UInt8 := [42, 180, 0, 9, 27, 184, 0, 120, 46, 172, 42, 27, 182, 0, 186, 172, 42, 180, 0, 9, 27, 184, 0, 120]
abbrev dktX3_gardenerOf_2 : List UInt8 := dkwX3_gardenerOf_2 ++ dktX3_gardenerOf_3
def dkwX3_gardenerOf_1 : List UInt8 := [170, 0, 0, 0, 0, 0, 0, 66, 0, 0, 0, 0, 0, 0, 0, 4, 0, 0, 0, 36, 0, 0, 0, 46, 0, 0, 0, 52, 0, 0, 0, 52, 0, 0, 0, 52]
abbrev dktX3_gardenerOf_1 : List UInt8 := dkwX3_gardenerOf_1 ++ dktX3_gardenerOf_2
def dkwX3_gardenerOf_0 : List UInt8 := [42, 3, 181, 0, 38, 42, 27, 182, 0, 117, 154, 0, 9, 42, 4, 182, 0, 50, 172, 28]
abbrev dktX3_gardenerOf_0 : List UInt8 := dkwX3_gardenerOf_0 ++ dktX3_gardenerOf_1
theorem dksX3_gardenerOf_0 : cX3_gardenerOf.data.toList.drop 0 = dktX3_gardenerOf_0 := by decide +kernel
theorem dksX3_gardenerOf_1 : cX3_gardenerOf.data.toList.drop 20 = dktX3_gardenerOf_1 := dk_seg dksX3_gardenerOf_0 20 rfl rfl
theorem dksX3_gardenerOf_2 : cX3_gardenerOf.data.toList.drop 56 = dktX3_gardenerOf_2 := dk_seg dksX3_gardenerOf_1 36 rfl rfl
theorem dksX3_gardenerOf_3 : cX3_gardenerOf.data.toList.drop 80 = dktX3_gardenerOf_3 := dk_seg dksX3_gardenerOf_2 24 rfl rfl
theorem dX3_gardenerOf_0 : decode cX3_gardenerOf 0 = .ok (.aload_n 0, 1) := dk_42 (dk_at dksX3_gardenerOf_0 0 rfl rfl)
theorem dX3_gardenerOf_1 : decode cX3_gardenerOf 1 = .ok (.iconst 0, 1) := dk_3 (dk_at dksX3_gardenerOf_0 1 rfl rfl)
theorem dX3_gardenerOf_2 : decode cX3_gardenerOf 2 = .ok (.putfield 38, 3) := dk_181 0 38 (dk_at dksX3_gardenerOf_0 2 rfl rfl)
theorem dX3_gardenerOf_5 : decode cX3_gardenerOf 5 = .ok (.aload_n 0, 1) := dk_42 (dk_at dksX3_gardenerOf_0 5 rfl rfl)
theorem dX3_gardenerOf_6 : decode cX3_gardenerOf 6 = .ok (.iload_n 1, 1) := dk_27 (dk_at dksX3_gardenerOf_0 6 rfl rfl)
theorem dX3_gardenerOf_7 : decode cX3_gardenerOf 7 = .ok (.invokevirtual 117, 3) := dk_182 0 117 (dk_at dksX3_gardenerOf_0 7 rfl rfl)
theorem dX3_gardenerOf_10 : decode cX3_gardenerOf 10 = .ok (.ifCond .ne 9, 3) := dk_154 0 9 (dk_at dksX3_gardenerOf_0 10 rfl rfl)
theorem dX3_gardenerOf_13 : decode cX3_gardenerOf 13 = .ok (.aload_n 0, 1) := dk_42 (dk_at dksX3_gardenerOf_0 13 rfl rfl)
theorem dX3_gardenerOf_14 : decode cX3_gardenerOf 14 = .ok (.iconst 1, 1) := dk_4 (dk_at dksX3_gardenerOf_0 14 rfl rfl)
theorem dX3_gardenerOf_15 : decode cX3_gardenerOf 15 = .ok (.invokevirtual 50, 3) := dk_182 0 50 (dk_at dksX3_gardenerOf_0 15 rfl rfl)
theorem dX3_gardenerOf_18 : decode cX3_gardenerOf 18 = .ok (.ireturn, 1) := dk_172 (dk_at dksX3_gardenerOf_0 18 rfl rfl)
theorem dX3_gardenerOf_19 : decode cX3_gardenerOf 19 = .ok (.iload_n 2, 1) := dk_28 (dk_at dksX3_gardenerOf_0 19 rfl rfl)
theorem dX3_gardenerOf_20 : decode cX3_gardenerOf 20 = .ok (.tableswitch 66 0 4 #[36, 46, 52, 52, 52], 36) := by decide +kernel
theorem dX3_gardenerOf_56 : decode cX3_gardenerOf 56 = .ok (.aload_n 0, 1) := dk_42 (dk_at dksX3_gardenerOf_2 0 rfl rfl)
theorem dX3_gardenerOf_57 : decode cX3_gardenerOf 57 = .ok (.getfield 9, 3) := dk_180 0 9 (dk_at dksX3_gardenerOf_2 1 rfl rfl)
theorem dX3_gardenerOf_60 : decode cX3_gardenerOf 60 = .ok (.iload_n 1, 1) := dk_27 (dk_at dksX3_gardenerOf_2 4 rfl rfl)
theorem dX3_gardenerOf_61 : decode cX3_gardenerOf 61 = .ok (.invokestatic 120, 3) := dk_184 0 120 (dk_at dksX3_gardenerOf_2 5 rfl rfl)
theorem dX3_gardenerOf_64 : decode cX3_gardenerOf 64 = .ok (.iaload, 1) := dk_46 (dk_at dksX3_gardenerOf_2 8 rfl rfl)
theorem dX3_gardenerOf_65 : decode cX3_gardenerOf 65 = .ok (.ireturn, 1) := dk_172 (dk_at dksX3_gardenerOf_2 9 rfl rfl)
theorem dX3_gardenerOf_66 : decode cX3_gardenerOf 66 = .ok (.aload_n 0, 1) := dk_42 (dk_at dksX3_gardenerOf_2 10 rfl rfl)
theorem dX3_gardenerOf_67 : decode cX3_gardenerOf 67 = .ok (.iload_n 1, 1) := dk_27 (dk_at dksX3_gardenerOf_2 11 rfl rfl)
theorem dX3_gardenerOf_68 : decode cX3_gardenerOf 68 = .ok (.invokevirtual 186, 3) := dk_182 0 186 (dk_at dksX3_gardenerOf_2 12 rfl rfl)
theorem dX3_gardenerOf_71 : decode cX3_gardenerOf 71 = .ok (.ireturn, 1) := dk_172 (dk_at dksX3_gardenerOf_2 15 rfl rfl)
theorem dX3_gardenerOf_72 : decode cX3_gardenerOf 72 = .ok (.aload_n 0, 1) := dk_42 (dk_at dksX3_gardenerOf_2 16 rfl rfl)
theorem dX3_gardenerOf_73 : decode cX3_gardenerOf 73 = .ok (.getfield 9, 3) := dk_180 0 9 (dk_at dksX3_gardenerOf_2 17 rfl rfl)
theorem dX3_gardenerOf_76 : decode cX3_gardenerOf 76 = .ok (.iload_n 1, 1) := dk_27 (dk_at dksX3_gardenerOf_2 20 rfl rfl)
theorem dX3_gardenerOf_77 : decode cX3_gardenerOf 77 = .ok (.invokestatic 120, 3) := dk_184 0 120 (dk_at dksX3_gardenerOf_2 21 rfl rfl)
theorem dX3_gardenerOf_80 : decode cX3_gardenerOf 80 = .ok (.iload_n 2, 1) := dk_28 (dk_at dksX3_gardenerOf_3 0 rfl rfl)
theorem dX3_gardenerOf_81 : decode cX3_gardenerOf 81 = .ok (.iadd, 1) := dk_96 (dk_at dksX3_gardenerOf_3 1 rfl rfl)
theorem dX3_gardenerOf_82 : decode cX3_gardenerOf 82 = .ok (.iconst 1, 1) := dk_4 (dk_at dksX3_gardenerOf_3 2 rfl rfl)
theorem dX3_gardenerOf_83 : decode cX3_gardenerOf 83 = .ok (.isub, 1) := dk_100 (dk_at dksX3_gardenerOf_3 3 rfl rfl)
theorem dX3_gardenerOf_84 : decode cX3_gardenerOf 84 = .ok (.iaload, 1) := dk_46 (dk_at dksX3_gardenerOf_3 4 rfl rfl)
theorem dX3_gardenerOf_85 : decode cX3_gardenerOf 85 = .ok (.ireturn, 1) := dk_172 (dk_at dksX3_gardenerOf_3 5 rfl rfl)
theorem dX3_gardenerOf_86 : decode cX3_gardenerOf 86 = .ok (.aload_n 0, 1) := dk_42 (dk_at dksX3_gardenerOf_3 6 rfl rfl)
theorem dX3_gardenerOf_87 : decode cX3_gardenerOf 87 = .ok (.iconst 2, 1) := dk_5 (dk_at dksX3_gardenerOf_3 7 rfl rfl)
theorem dX3_gardenerOf_88 : decode cX3_gardenerOf 88 = .ok (.invokevirtual 50, 3) := dk_182 0 50 (dk_at dksX3_gardenerOf_3 8 rfl rfl)
theorem dX3_gardenerOf_91 : decode cX3_gardenerOf 91 = .ok (.ireturn, 1) := dk_172 (dk_at dksX3_gardenerOf_3 11 rfl rfl)
abbrev cX3_lasting : ByteArray := prog_10_method_56_code
def yX3_lasting : MethodName := ⟨RX3, "lasting", "(I)I"⟩
def dkwX3_lasting_2 : List UInt8 := [96, 61, 132, 3, 1, 167, 255, 207, 28, 172]
abbrev dktX3_lasting_2 : List UInt8 := dkwX3_lasting_2 ++ []
def dkwX3_lasting_1 : List UInt8 := [2, 159, 0, 18, 42, 180, 0, 9, 29, 184, 0, 126, 7, 96, 46, 27, 160, 0, 7, 4, 167, 0, 4, 3]
abbrev dktX3_lasting_1 : List UInt8 := dkwX3_lasting_1 ++ dktX3_lasting_2
def dkwX3_lasting_0 : List UInt8 := [3, 61, 3, 62, 29, 42, 180, 0, 9, 4, 46, 162, 0, 45, 28, 42, 29, 182, 0, 183, 153, 0, 27, 27]
abbrev dktX3_lasting_0 : List UInt8 := dkwX3_lasting_0 ++ dktX3_lasting_1
theorem dksX3_lasting_0 : cX3_lasting.data.toList.drop 0 = dktX3_lasting_0 := by decide +kernel
theorem dksX3_lasting_1 : cX3_lasting.data.toList.drop 24 = dktX3_lasting_1 := dk_seg dksX3_lasting_0 24 rfl rfl
theorem dksX3_lasting_2 : cX3_lasting.data.toList.drop 48 = dktX3_lasting_2 := dk_seg dksX3_lasting_1 24 rfl rfl
theorem dX3_lasting_0 : decode cX3_lasting 0 = .ok (.iconst 0, 1) := dk_3 (dk_at dksX3_lasting_0 0 rfl rfl)
theorem dX3_lasting_1 : decode cX3_lasting 1 = .ok (.istore_n 2, 1) := dk_61 (dk_at dksX3_lasting_0 1 rfl rfl)
theorem dX3_lasting_2 : decode cX3_lasting 2 = .ok (.iconst 0, 1) := dk_3 (dk_at dksX3_lasting_0 2 rfl rfl)
theorem dX3_lasting_3 : decode cX3_lasting 3 = .ok (.istore_n 3, 1) := dk_62 (dk_at dksX3_lasting_0 3 rfl rfl)
theorem dX3_lasting_4 : decode cX3_lasting 4 = .ok (.iload_n 3, 1) := dk_29 (dk_at dksX3_lasting_0 4 rfl rfl)
theorem dX3_lasting_5 : decode cX3_lasting 5 = .ok (.aload_n 0, 1) := dk_42 (dk_at dksX3_lasting_0 5 rfl rfl)
theorem dX3_lasting_6 : decode cX3_lasting 6 = .ok (.getfield 9, 3) := dk_180 0 9 (dk_at dksX3_lasting_0 6 rfl rfl)
theorem dX3_lasting_9 : decode cX3_lasting 9 = .ok (.iconst 1, 1) := dk_4 (dk_at dksX3_lasting_0 9 rfl rfl)
theorem dX3_lasting_10 : decode cX3_lasting 10 = .ok (.iaload, 1) := dk_46 (dk_at dksX3_lasting_0 10 rfl rfl)
theorem dX3_lasting_11 : decode cX3_lasting 11 = .ok (.if_icmp .ge 45, 3) := dk_162 0 45 (dk_at dksX3_lasting_0 11 rfl rfl)
theorem dX3_lasting_14 : decode cX3_lasting 14 = .ok (.iload_n 2, 1) := dk_28 (dk_at dksX3_lasting_0 14 rfl rfl)
theorem dX3_lasting_15 : decode cX3_lasting 15 = .ok (.aload_n 0, 1) := dk_42 (dk_at dksX3_lasting_0 15 rfl rfl)
theorem dX3_lasting_16 : decode cX3_lasting 16 = .ok (.iload_n 3, 1) := dk_29 (dk_at dksX3_lasting_0 16 rfl rfl)
theorem dX3_lasting_17 : decode cX3_lasting 17 = .ok (.invokevirtual 183, 3) := dk_182 0 183 (dk_at dksX3_lasting_0 17 rfl rfl)
theorem dX3_lasting_20 : decode cX3_lasting 20 = .ok (.ifCond .eq 27, 3) := dk_153 0 27 (dk_at dksX3_lasting_0 20 rfl rfl)
theorem dX3_lasting_23 : decode cX3_lasting 23 = .ok (.iload_n 1, 1) := dk_27 (dk_at dksX3_lasting_0 23 rfl rfl)
theorem dX3_lasting_24 : decode cX3_lasting 24 = .ok (.iconst (-1), 1) := dk_2 (dk_at dksX3_lasting_1 0 rfl rfl)
theorem dX3_lasting_25 : decode cX3_lasting 25 = .ok (.if_icmp .eq 18, 3) := dk_159 0 18 (dk_at dksX3_lasting_1 1 rfl rfl)
theorem dX3_lasting_28 : decode cX3_lasting 28 = .ok (.aload_n 0, 1) := dk_42 (dk_at dksX3_lasting_1 4 rfl rfl)
theorem dX3_lasting_29 : decode cX3_lasting 29 = .ok (.getfield 9, 3) := dk_180 0 9 (dk_at dksX3_lasting_1 5 rfl rfl)
theorem dX3_lasting_32 : decode cX3_lasting 32 = .ok (.iload_n 3, 1) := dk_29 (dk_at dksX3_lasting_1 8 rfl rfl)
theorem dX3_lasting_33 : decode cX3_lasting 33 = .ok (.invokestatic 126, 3) := dk_184 0 126 (dk_at dksX3_lasting_1 9 rfl rfl)
theorem dX3_lasting_36 : decode cX3_lasting 36 = .ok (.iconst 4, 1) := dk_7 (dk_at dksX3_lasting_1 12 rfl rfl)
theorem dX3_lasting_37 : decode cX3_lasting 37 = .ok (.iadd, 1) := dk_96 (dk_at dksX3_lasting_1 13 rfl rfl)
theorem dX3_lasting_38 : decode cX3_lasting 38 = .ok (.iaload, 1) := dk_46 (dk_at dksX3_lasting_1 14 rfl rfl)
theorem dX3_lasting_39 : decode cX3_lasting 39 = .ok (.iload_n 1, 1) := dk_27 (dk_at dksX3_lasting_1 15 rfl rfl)
theorem dX3_lasting_40 : decode cX3_lasting 40 = .ok (.if_icmp .ne 7, 3) := dk_160 0 7 (dk_at dksX3_lasting_1 16 rfl rfl)
theorem dX3_lasting_43 : decode cX3_lasting 43 = .ok (.iconst 1, 1) := dk_4 (dk_at dksX3_lasting_1 19 rfl rfl)
theorem dX3_lasting_44 : decode cX3_lasting 44 = .ok (.goto 4, 3) := dk_167 0 4 (dk_at dksX3_lasting_1 20 rfl rfl)
theorem dX3_lasting_47 : decode cX3_lasting 47 = .ok (.iconst 0, 1) := dk_3 (dk_at dksX3_lasting_1 23 rfl rfl)
theorem dX3_lasting_48 : decode cX3_lasting 48 = .ok (.iadd, 1) := dk_96 (dk_at dksX3_lasting_2 0 rfl rfl)
theorem dX3_lasting_49 : decode cX3_lasting 49 = .ok (.istore_n 2, 1) := dk_61 (dk_at dksX3_lasting_2 1 rfl rfl)
theorem dX3_lasting_50 : decode cX3_lasting 50 = .ok (.iinc 3 1, 3) := dk_132 3 1 (dk_at dksX3_lasting_2 2 rfl rfl)
theorem dX3_lasting_53 : decode cX3_lasting 53 = .ok (.goto (-49), 3) := dk_167 255 207 (dk_at dksX3_lasting_2 5 rfl rfl)
theorem dX3_lasting_56 : decode cX3_lasting 56 = .ok (.iload_n 2, 1) := dk_28 (dk_at dksX3_lasting_2 8 rfl rfl)
theorem dX3_lasting_57 : decode cX3_lasting 57 = .ok (.ireturn, 1) := dk_172 (dk_at dksX3_lasting_2 9 rfl rfl)
abbrev cX3_lasts : ByteArray := prog_10_method_55_code
def yX3_lasts : MethodName := ⟨RX3, "lasts", "(I)Z"⟩
def dkwX3_lasts_1 : List UInt8 := [16, 7, 96, 46, 154, 0, 7, 4, 167, 0, 4, 3, 172]
abbrev dktX3_lasts_1 : List UInt8 := dkwX3_lasts_1 ++ []
def dkwX3_lasts_0 : List UInt8 := [42, 180, 0, 9, 27, 184, 0, 126, 7, 96, 46, 2, 159, 0, 22, 42, 180, 0, 9, 27, 184, 0, 126]
abbrev dktX3_lasts_0 : List UInt8 := dkwX3_lasts_0 ++ dktX3_lasts_1
theorem dksX3_lasts_0 : cX3_lasts.data.toList.drop 0 = dktX3_lasts_0 := by decide +kernel
theorem dksX3_lasts_1 : cX3_lasts.data.toList.drop 23 = dktX3_lasts_1 := dk_seg dksX3_lasts_0 23 rfl rfl
theorem dX3_lasts_0 : decode cX3_lasts 0 = .ok (.aload_n 0, 1) := dk_42 (dk_at dksX3_lasts_0 0 rfl rfl)
theorem dX3_lasts_1 : decode cX3_lasts 1 = .ok (.getfield 9, 3) := dk_180 0 9 (dk_at dksX3_lasts_0 1 rfl rfl)
theorem dX3_lasts_4 : decode cX3_lasts 4 = .ok (.iload_n 1, 1) := dk_27 (dk_at dksX3_lasts_0 4 rfl rfl)
theorem dX3_lasts_5 : decode cX3_lasts 5 = .ok (.invokestatic 126, 3) := dk_184 0 126 (dk_at dksX3_lasts_0 5 rfl rfl)
theorem dX3_lasts_8 : decode cX3_lasts 8 = .ok (.iconst 4, 1) := dk_7 (dk_at dksX3_lasts_0 8 rfl rfl)
theorem dX3_lasts_9 : decode cX3_lasts 9 = .ok (.iadd, 1) := dk_96 (dk_at dksX3_lasts_0 9 rfl rfl)
theorem dX3_lasts_10 : decode cX3_lasts 10 = .ok (.iaload, 1) := dk_46 (dk_at dksX3_lasts_0 10 rfl rfl)
theorem dX3_lasts_11 : decode cX3_lasts 11 = .ok (.iconst (-1), 1) := dk_2 (dk_at dksX3_lasts_0 11 rfl rfl)
theorem dX3_lasts_12 : decode cX3_lasts 12 = .ok (.if_icmp .eq 22, 3) := dk_159 0 22 (dk_at dksX3_lasts_0 12 rfl rfl)
theorem dX3_lasts_15 : decode cX3_lasts 15 = .ok (.aload_n 0, 1) := dk_42 (dk_at dksX3_lasts_0 15 rfl rfl)
theorem dX3_lasts_16 : decode cX3_lasts 16 = .ok (.getfield 9, 3) := dk_180 0 9 (dk_at dksX3_lasts_0 16 rfl rfl)
theorem dX3_lasts_19 : decode cX3_lasts 19 = .ok (.iload_n 1, 1) := dk_27 (dk_at dksX3_lasts_0 19 rfl rfl)
theorem dX3_lasts_20 : decode cX3_lasts 20 = .ok (.invokestatic 126, 3) := dk_184 0 126 (dk_at dksX3_lasts_0 20 rfl rfl)
theorem dX3_lasts_23 : decode cX3_lasts 23 = .ok (.bipush 7, 2) := dk_16 7 (dk_at dksX3_lasts_1 0 rfl rfl)
theorem dX3_lasts_25 : decode cX3_lasts 25 = .ok (.iadd, 1) := dk_96 (dk_at dksX3_lasts_1 2 rfl rfl)
theorem dX3_lasts_26 : decode cX3_lasts 26 = .ok (.iaload, 1) := dk_46 (dk_at dksX3_lasts_1 3 rfl rfl)
theorem dX3_lasts_27 : decode cX3_lasts 27 = .ok (.ifCond .ne 7, 3) := dk_154 0 7 (dk_at dksX3_lasts_1 4 rfl rfl)
theorem dX3_lasts_30 : decode cX3_lasts 30 = .ok (.iconst 1, 1) := dk_4 (dk_at dksX3_lasts_1 7 rfl rfl)
theorem dX3_lasts_31 : decode cX3_lasts 31 = .ok (.goto 4, 3) := dk_167 0 4 (dk_at dksX3_lasts_1 8 rfl rfl)
theorem dX3_lasts_34 : decode cX3_lasts 34 = .ok (.iconst 0, 1) := dk_3 (dk_at dksX3_lasts_1 11 rfl rfl)
theorem dX3_lasts_35 : decode cX3_lasts 35 = .ok (.ireturn, 1) := dk_172 (dk_at dksX3_lasts_1 12 rfl rfl)
abbrev cX3_visitorOf : ByteArray := prog_10_method_58_code
def yX3_visitorOf : MethodName := ⟨RX3, "visitorOf", "(II)I"⟩
def dkwX3_visitorOf_4 : List UInt8 := [46, 172, 42, 5, 182, 0, 50, 172]
abbrev dktX3_visitorOf_4 : List UInt8 := dkwX3_visitorOf_4 ++ []
def dkwX3_visitorOf_3 : List UInt8 := [42, 180, 0, 9, 29, 28, 96, 46, 172, 42, 27, 182, 0, 162, 172, 42, 180, 0, 9, 29, 28, 96, 4, 100]
abbrev dktX3_visitorOf_3 : List UInt8 := dkwX3_visitorOf_3 ++ dktX3_visitorOf_4
def dkwX3_visitorOf_2 : List UInt8 := [170, 0, 0, 0, 0, 0, 77, 0, 0, 0, 0, 0, 0, 0, 8, 0, 0, 0, 51, 0, 0, 0, 51, 0, 0, 0, 51, 0, 0, 0, 51, 0, 0, 0, 60, 0, 0, 0, 66, 0, 0, 0, 66, 0, 0, 0, 66, 0, 0, 0, 66]
abbrev dktX3_visitorOf_2 : List UInt8 := dkwX3_visitorOf_2 ++ dktX3_visitorOf_3
def dkwX3_visitorOf_1 : List UInt8 := [28]
abbrev dktX3_visitorOf_1 : List UInt8 := dkwX3_visitorOf_1 ++ dktX3_visitorOf_2
def dkwX3_visitorOf_0 : List UInt8 := [42, 3, 181, 0, 38, 42, 27, 182, 0, 154, 154, 0, 9, 42, 4, 182, 0, 50, 172, 27, 184, 0, 126, 62]
abbrev dktX3_visitorOf_0 : List UInt8 := dkwX3_visitorOf_0 ++ dktX3_visitorOf_1
theorem dksX3_visitorOf_0 : cX3_visitorOf.data.toList.drop 0 = dktX3_visitorOf_0 := by decide +kernel
theorem dksX3_visitorOf_1 : cX3_visitorOf.data.toList.drop 24 = dktX3_visitorOf_1 := dk_seg dksX3_visitorOf_0 24 rfl rfl
theorem dksX3_visitorOf_2 : cX3_visitorOf.data.toList.drop 25 = dktX3_visitorOf_2 := dk_seg dksX3_visitorOf_1 1 rfl rfl
theorem dksX3_visitorOf_3 : cX3_visitorOf.data.toList.drop 76 = dktX3_visitorOf_3 := dk_seg dksX3_visitorOf_2 51 rfl rfl
theorem dksX3_visitorOf_4 : cX3_visitorOf.data.toList.drop 100 = dktX3_visitorOf_4 := dk_seg dksX3_visitorOf_3 24 rfl rfl
theorem dX3_visitorOf_0 : decode cX3_visitorOf 0 = .ok (.aload_n 0, 1) := dk_42 (dk_at dksX3_visitorOf_0 0 rfl rfl)
theorem dX3_visitorOf_1 : decode cX3_visitorOf 1 = .ok (.iconst 0, 1) := dk_3 (dk_at dksX3_visitorOf_0 1 rfl rfl)
theorem dX3_visitorOf_2 : decode cX3_visitorOf 2 = .ok (.putfield 38, 3) := dk_181 0 38 (dk_at dksX3_visitorOf_0 2 rfl rfl)
theorem dX3_visitorOf_5 : decode cX3_visitorOf 5 = .ok (.aload_n 0, 1) := dk_42 (dk_at dksX3_visitorOf_0 5 rfl rfl)
theorem dX3_visitorOf_6 : decode cX3_visitorOf 6 = .ok (.iload_n 1, 1) := dk_27 (dk_at dksX3_visitorOf_0 6 rfl rfl)
theorem dX3_visitorOf_7 : decode cX3_visitorOf 7 = .ok (.invokevirtual 154, 3) := dk_182 0 154 (dk_at dksX3_visitorOf_0 7 rfl rfl)
theorem dX3_visitorOf_10 : decode cX3_visitorOf 10 = .ok (.ifCond .ne 9, 3) := dk_154 0 9 (dk_at dksX3_visitorOf_0 10 rfl rfl)
theorem dX3_visitorOf_13 : decode cX3_visitorOf 13 = .ok (.aload_n 0, 1) := dk_42 (dk_at dksX3_visitorOf_0 13 rfl rfl)
theorem dX3_visitorOf_14 : decode cX3_visitorOf 14 = .ok (.iconst 1, 1) := dk_4 (dk_at dksX3_visitorOf_0 14 rfl rfl)
theorem dX3_visitorOf_15 : decode cX3_visitorOf 15 = .ok (.invokevirtual 50, 3) := dk_182 0 50 (dk_at dksX3_visitorOf_0 15 rfl rfl)
theorem dX3_visitorOf_18 : decode cX3_visitorOf 18 = .ok (.ireturn, 1) := dk_172 (dk_at dksX3_visitorOf_0 18 rfl rfl)
theorem dX3_visitorOf_19 : decode cX3_visitorOf 19 = .ok (.iload_n 1, 1) := dk_27 (dk_at dksX3_visitorOf_0 19 rfl rfl)
theorem dX3_visitorOf_20 : decode cX3_visitorOf 20 = .ok (.invokestatic 126, 3) := dk_184 0 126 (dk_at dksX3_visitorOf_0 20 rfl rfl)
theorem dX3_visitorOf_23 : decode cX3_visitorOf 23 = .ok (.istore_n 3, 1) := dk_62 (dk_at dksX3_visitorOf_0 23 rfl rfl)
theorem dX3_visitorOf_24 : decode cX3_visitorOf 24 = .ok (.iload_n 2, 1) := dk_28 (dk_at dksX3_visitorOf_1 0 rfl rfl)
theorem dX3_visitorOf_25 : decode cX3_visitorOf 25 = .ok (.tableswitch 77 0 8 #[51, 51, 51, 51, 60, 66, 66, 66, 66], 51) := by decide +kernel
theorem dX3_visitorOf_76 : decode cX3_visitorOf 76 = .ok (.aload_n 0, 1) := dk_42 (dk_at dksX3_visitorOf_3 0 rfl rfl)
theorem dX3_visitorOf_77 : decode cX3_visitorOf 77 = .ok (.getfield 9, 3) := dk_180 0 9 (dk_at dksX3_visitorOf_3 1 rfl rfl)
theorem dX3_visitorOf_80 : decode cX3_visitorOf 80 = .ok (.iload_n 3, 1) := dk_29 (dk_at dksX3_visitorOf_3 4 rfl rfl)
theorem dX3_visitorOf_81 : decode cX3_visitorOf 81 = .ok (.iload_n 2, 1) := dk_28 (dk_at dksX3_visitorOf_3 5 rfl rfl)
theorem dX3_visitorOf_82 : decode cX3_visitorOf 82 = .ok (.iadd, 1) := dk_96 (dk_at dksX3_visitorOf_3 6 rfl rfl)
theorem dX3_visitorOf_83 : decode cX3_visitorOf 83 = .ok (.iaload, 1) := dk_46 (dk_at dksX3_visitorOf_3 7 rfl rfl)
theorem dX3_visitorOf_84 : decode cX3_visitorOf 84 = .ok (.ireturn, 1) := dk_172 (dk_at dksX3_visitorOf_3 8 rfl rfl)
theorem dX3_visitorOf_85 : decode cX3_visitorOf 85 = .ok (.aload_n 0, 1) := dk_42 (dk_at dksX3_visitorOf_3 9 rfl rfl)
theorem dX3_visitorOf_86 : decode cX3_visitorOf 86 = .ok (.iload_n 1, 1) := dk_27 (dk_at dksX3_visitorOf_3 10 rfl rfl)
theorem dX3_visitorOf_87 : decode cX3_visitorOf 87 = .ok (.invokevirtual 162, 3) := dk_182 0 162 (dk_at dksX3_visitorOf_3 11 rfl rfl)
theorem dX3_visitorOf_90 : decode cX3_visitorOf 90 = .ok (.ireturn, 1) := dk_172 (dk_at dksX3_visitorOf_3 14 rfl rfl)
theorem dX3_visitorOf_91 : decode cX3_visitorOf 91 = .ok (.aload_n 0, 1) := dk_42 (dk_at dksX3_visitorOf_3 15 rfl rfl)
theorem dX3_visitorOf_92 : decode cX3_visitorOf 92 = .ok (.getfield 9, 3) := dk_180 0 9 (dk_at dksX3_visitorOf_3 16 rfl rfl)
theorem dX3_visitorOf_95 : decode cX3_visitorOf 95 = .ok (.iload_n 3, 1) := dk_29 (dk_at dksX3_visitorOf_3 19 rfl rfl)
theorem dX3_visitorOf_96 : decode cX3_visitorOf 96 = .ok (.iload_n 2, 1) := dk_28 (dk_at dksX3_visitorOf_3 20 rfl rfl)
theorem dX3_visitorOf_97 : decode cX3_visitorOf 97 = .ok (.iadd, 1) := dk_96 (dk_at dksX3_visitorOf_3 21 rfl rfl)
theorem dX3_visitorOf_98 : decode cX3_visitorOf 98 = .ok (.iconst 1, 1) := dk_4 (dk_at dksX3_visitorOf_3 22 rfl rfl)
theorem dX3_visitorOf_99 : decode cX3_visitorOf 99 = .ok (.isub, 1) := dk_100 (dk_at dksX3_visitorOf_3 23 rfl rfl)
theorem dX3_visitorOf_100 : decode cX3_visitorOf 100 = .ok (.iaload, 1) := dk_46 (dk_at dksX3_visitorOf_4 0 rfl rfl)
theorem dX3_visitorOf_101 : decode cX3_visitorOf 101 = .ok (.ireturn, 1) := dk_172 (dk_at dksX3_visitorOf_4 1 rfl rfl)
theorem dX3_visitorOf_102 : decode cX3_visitorOf 102 = .ok (.aload_n 0, 1) := dk_42 (dk_at dksX3_visitorOf_4 2 rfl rfl)
theorem dX3_visitorOf_103 : decode cX3_visitorOf 103 = .ok (.iconst 2, 1) := dk_5 (dk_at dksX3_visitorOf_4 3 rfl rfl)
theorem dX3_visitorOf_104 : decode cX3_visitorOf 104 = .ok (.invokevirtual 50, 3) := dk_182 0 50 (dk_at dksX3_visitorOf_4 4 rfl rfl)
theorem dX3_visitorOf_107 : decode cX3_visitorOf 107 = .ok (.ireturn, 1) := dk_172 (dk_at dksX3_visitorOf_4 7 rfl rfl)
abbrev cX3_wouldPay : ByteArray := prog_10_method_59_code
def yX3_wouldPay : MethodName := ⟨RX3, "wouldPay", "(I)I"⟩
def dkwX3_wouldPay_3 : List UInt8 := [180, 0, 9, 28, 6, 96, 46, 100, 184, 0, 71, 182, 0, 165, 172]
abbrev dktX3_wouldPay_3 : List UInt8 := dkwX3_wouldPay_3 ++ []
def dkwX3_wouldPay_2 : List UInt8 := [2, 160, 0, 9, 42, 5, 182, 0, 50, 172, 42, 27, 3, 42, 180, 0, 9, 28, 5, 96, 46, 29, 96, 42]
abbrev dktX3_wouldPay_2 : List UInt8 := dkwX3_wouldPay_2 ++ dktX3_wouldPay_3
def dkwX3_wouldPay_1 : List UInt8 := [42, 42, 180, 0, 9, 28, 4, 96, 46, 16, 15, 182, 0, 142, 62, 42, 27, 182, 0, 183, 153, 0, 8, 29]
abbrev dktX3_wouldPay_1 : List UInt8 := dkwX3_wouldPay_1 ++ dktX3_wouldPay_2
def dkwX3_wouldPay_0 : List UInt8 := [42, 3, 181, 0, 38, 42, 27, 182, 0, 154, 154, 0, 9, 42, 4, 182, 0, 50, 172, 27, 184, 0, 126, 61]
abbrev dktX3_wouldPay_0 : List UInt8 := dkwX3_wouldPay_0 ++ dktX3_wouldPay_1
theorem dksX3_wouldPay_0 : cX3_wouldPay.data.toList.drop 0 = dktX3_wouldPay_0 := by decide +kernel
theorem dksX3_wouldPay_1 : cX3_wouldPay.data.toList.drop 24 = dktX3_wouldPay_1 := dk_seg dksX3_wouldPay_0 24 rfl rfl
theorem dksX3_wouldPay_2 : cX3_wouldPay.data.toList.drop 48 = dktX3_wouldPay_2 := dk_seg dksX3_wouldPay_1 24 rfl rfl
theorem dksX3_wouldPay_3 : cX3_wouldPay.data.toList.drop 72 = dktX3_wouldPay_3 := dk_seg dksX3_wouldPay_2 24 rfl rfl
theorem dX3_wouldPay_0 : decode cX3_wouldPay 0 = .ok (.aload_n 0, 1) := dk_42 (dk_at dksX3_wouldPay_0 0 rfl rfl)
theorem dX3_wouldPay_1 : decode cX3_wouldPay 1 = .ok (.iconst 0, 1) := dk_3 (dk_at dksX3_wouldPay_0 1 rfl rfl)
theorem dX3_wouldPay_2 : decode cX3_wouldPay 2 = .ok (.putfield 38, 3) := dk_181 0 38 (dk_at dksX3_wouldPay_0 2 rfl rfl)
theorem dX3_wouldPay_5 : decode cX3_wouldPay 5 = .ok (.aload_n 0, 1) := dk_42 (dk_at dksX3_wouldPay_0 5 rfl rfl)
theorem dX3_wouldPay_6 : decode cX3_wouldPay 6 = .ok (.iload_n 1, 1) := dk_27 (dk_at dksX3_wouldPay_0 6 rfl rfl)
theorem dX3_wouldPay_7 : decode cX3_wouldPay 7 = .ok (.invokevirtual 154, 3) := dk_182 0 154 (dk_at dksX3_wouldPay_0 7 rfl rfl)
theorem dX3_wouldPay_10 : decode cX3_wouldPay 10 = .ok (.ifCond .ne 9, 3) := dk_154 0 9 (dk_at dksX3_wouldPay_0 10 rfl rfl)
theorem dX3_wouldPay_13 : decode cX3_wouldPay 13 = .ok (.aload_n 0, 1) := dk_42 (dk_at dksX3_wouldPay_0 13 rfl rfl)
theorem dX3_wouldPay_14 : decode cX3_wouldPay 14 = .ok (.iconst 1, 1) := dk_4 (dk_at dksX3_wouldPay_0 14 rfl rfl)
theorem dX3_wouldPay_15 : decode cX3_wouldPay 15 = .ok (.invokevirtual 50, 3) := dk_182 0 50 (dk_at dksX3_wouldPay_0 15 rfl rfl)
theorem dX3_wouldPay_18 : decode cX3_wouldPay 18 = .ok (.ireturn, 1) := dk_172 (dk_at dksX3_wouldPay_0 18 rfl rfl)
theorem dX3_wouldPay_19 : decode cX3_wouldPay 19 = .ok (.iload_n 1, 1) := dk_27 (dk_at dksX3_wouldPay_0 19 rfl rfl)
theorem dX3_wouldPay_20 : decode cX3_wouldPay 20 = .ok (.invokestatic 126, 3) := dk_184 0 126 (dk_at dksX3_wouldPay_0 20 rfl rfl)
theorem dX3_wouldPay_23 : decode cX3_wouldPay 23 = .ok (.istore_n 2, 1) := dk_61 (dk_at dksX3_wouldPay_0 23 rfl rfl)
theorem dX3_wouldPay_24 : decode cX3_wouldPay 24 = .ok (.aload_n 0, 1) := dk_42 (dk_at dksX3_wouldPay_1 0 rfl rfl)
theorem dX3_wouldPay_25 : decode cX3_wouldPay 25 = .ok (.aload_n 0, 1) := dk_42 (dk_at dksX3_wouldPay_1 1 rfl rfl)
theorem dX3_wouldPay_26 : decode cX3_wouldPay 26 = .ok (.getfield 9, 3) := dk_180 0 9 (dk_at dksX3_wouldPay_1 2 rfl rfl)
theorem dX3_wouldPay_29 : decode cX3_wouldPay 29 = .ok (.iload_n 2, 1) := dk_28 (dk_at dksX3_wouldPay_1 5 rfl rfl)
theorem dX3_wouldPay_30 : decode cX3_wouldPay 30 = .ok (.iconst 1, 1) := dk_4 (dk_at dksX3_wouldPay_1 6 rfl rfl)
theorem dX3_wouldPay_31 : decode cX3_wouldPay 31 = .ok (.iadd, 1) := dk_96 (dk_at dksX3_wouldPay_1 7 rfl rfl)
theorem dX3_wouldPay_32 : decode cX3_wouldPay 32 = .ok (.iaload, 1) := dk_46 (dk_at dksX3_wouldPay_1 8 rfl rfl)
theorem dX3_wouldPay_33 : decode cX3_wouldPay 33 = .ok (.bipush 15, 2) := dk_16 15 (dk_at dksX3_wouldPay_1 9 rfl rfl)
theorem dX3_wouldPay_35 : decode cX3_wouldPay 35 = .ok (.invokevirtual 142, 3) := dk_182 0 142 (dk_at dksX3_wouldPay_1 11 rfl rfl)
theorem dX3_wouldPay_38 : decode cX3_wouldPay 38 = .ok (.istore_n 3, 1) := dk_62 (dk_at dksX3_wouldPay_1 14 rfl rfl)
theorem dX3_wouldPay_39 : decode cX3_wouldPay 39 = .ok (.aload_n 0, 1) := dk_42 (dk_at dksX3_wouldPay_1 15 rfl rfl)
theorem dX3_wouldPay_40 : decode cX3_wouldPay 40 = .ok (.iload_n 1, 1) := dk_27 (dk_at dksX3_wouldPay_1 16 rfl rfl)
theorem dX3_wouldPay_41 : decode cX3_wouldPay 41 = .ok (.invokevirtual 183, 3) := dk_182 0 183 (dk_at dksX3_wouldPay_1 17 rfl rfl)
theorem dX3_wouldPay_44 : decode cX3_wouldPay 44 = .ok (.ifCond .eq 8, 3) := dk_153 0 8 (dk_at dksX3_wouldPay_1 20 rfl rfl)
theorem dX3_wouldPay_47 : decode cX3_wouldPay 47 = .ok (.iload_n 3, 1) := dk_29 (dk_at dksX3_wouldPay_1 23 rfl rfl)
theorem dX3_wouldPay_48 : decode cX3_wouldPay 48 = .ok (.iconst (-1), 1) := dk_2 (dk_at dksX3_wouldPay_2 0 rfl rfl)
theorem dX3_wouldPay_49 : decode cX3_wouldPay 49 = .ok (.if_icmp .ne 9, 3) := dk_160 0 9 (dk_at dksX3_wouldPay_2 1 rfl rfl)
theorem dX3_wouldPay_52 : decode cX3_wouldPay 52 = .ok (.aload_n 0, 1) := dk_42 (dk_at dksX3_wouldPay_2 4 rfl rfl)
theorem dX3_wouldPay_53 : decode cX3_wouldPay 53 = .ok (.iconst 2, 1) := dk_5 (dk_at dksX3_wouldPay_2 5 rfl rfl)
theorem dX3_wouldPay_54 : decode cX3_wouldPay 54 = .ok (.invokevirtual 50, 3) := dk_182 0 50 (dk_at dksX3_wouldPay_2 6 rfl rfl)
theorem dX3_wouldPay_57 : decode cX3_wouldPay 57 = .ok (.ireturn, 1) := dk_172 (dk_at dksX3_wouldPay_2 9 rfl rfl)
theorem dX3_wouldPay_58 : decode cX3_wouldPay 58 = .ok (.aload_n 0, 1) := dk_42 (dk_at dksX3_wouldPay_2 10 rfl rfl)
theorem dX3_wouldPay_59 : decode cX3_wouldPay 59 = .ok (.iload_n 1, 1) := dk_27 (dk_at dksX3_wouldPay_2 11 rfl rfl)
theorem dX3_wouldPay_60 : decode cX3_wouldPay 60 = .ok (.iconst 0, 1) := dk_3 (dk_at dksX3_wouldPay_2 12 rfl rfl)
theorem dX3_wouldPay_61 : decode cX3_wouldPay 61 = .ok (.aload_n 0, 1) := dk_42 (dk_at dksX3_wouldPay_2 13 rfl rfl)
theorem dX3_wouldPay_62 : decode cX3_wouldPay 62 = .ok (.getfield 9, 3) := dk_180 0 9 (dk_at dksX3_wouldPay_2 14 rfl rfl)
theorem dX3_wouldPay_65 : decode cX3_wouldPay 65 = .ok (.iload_n 2, 1) := dk_28 (dk_at dksX3_wouldPay_2 17 rfl rfl)
theorem dX3_wouldPay_66 : decode cX3_wouldPay 66 = .ok (.iconst 2, 1) := dk_5 (dk_at dksX3_wouldPay_2 18 rfl rfl)
theorem dX3_wouldPay_67 : decode cX3_wouldPay 67 = .ok (.iadd, 1) := dk_96 (dk_at dksX3_wouldPay_2 19 rfl rfl)
theorem dX3_wouldPay_68 : decode cX3_wouldPay 68 = .ok (.iaload, 1) := dk_46 (dk_at dksX3_wouldPay_2 20 rfl rfl)
theorem dX3_wouldPay_69 : decode cX3_wouldPay 69 = .ok (.iload_n 3, 1) := dk_29 (dk_at dksX3_wouldPay_2 21 rfl rfl)
theorem dX3_wouldPay_70 : decode cX3_wouldPay 70 = .ok (.iadd, 1) := dk_96 (dk_at dksX3_wouldPay_2 22 rfl rfl)
theorem dX3_wouldPay_71 : decode cX3_wouldPay 71 = .ok (.aload_n 0, 1) := dk_42 (dk_at dksX3_wouldPay_2 23 rfl rfl)
theorem dX3_wouldPay_72 : decode cX3_wouldPay 72 = .ok (.getfield 9, 3) := dk_180 0 9 (dk_at dksX3_wouldPay_3 0 rfl rfl)
theorem dX3_wouldPay_75 : decode cX3_wouldPay 75 = .ok (.iload_n 2, 1) := dk_28 (dk_at dksX3_wouldPay_3 3 rfl rfl)
theorem dX3_wouldPay_76 : decode cX3_wouldPay 76 = .ok (.iconst 3, 1) := dk_6 (dk_at dksX3_wouldPay_3 4 rfl rfl)
theorem dX3_wouldPay_77 : decode cX3_wouldPay 77 = .ok (.iadd, 1) := dk_96 (dk_at dksX3_wouldPay_3 5 rfl rfl)
theorem dX3_wouldPay_78 : decode cX3_wouldPay 78 = .ok (.iaload, 1) := dk_46 (dk_at dksX3_wouldPay_3 6 rfl rfl)
theorem dX3_wouldPay_79 : decode cX3_wouldPay 79 = .ok (.isub, 1) := dk_100 (dk_at dksX3_wouldPay_3 7 rfl rfl)
theorem dX3_wouldPay_80 : decode cX3_wouldPay 80 = .ok (.invokestatic 71, 3) := dk_184 0 71 (dk_at dksX3_wouldPay_3 8 rfl rfl)
theorem dX3_wouldPay_83 : decode cX3_wouldPay 83 = .ok (.invokevirtual 165, 3) := dk_182 0 165 (dk_at dksX3_wouldPay_3 11 rfl rfl)
theorem dX3_wouldPay_86 : decode cX3_wouldPay 86 = .ok (.ireturn, 1) := dk_172 (dk_at dksX3_wouldPay_3 14 rfl rfl)
abbrev cX3_owed : ByteArray := prog_10_method_61_code
def yX3_owed : MethodName := ⟨RX3, "owed", "(I)I"⟩
def dkwX3_owed_1 : List UInt8 := [182, 0, 50, 172]
abbrev dktX3_owed_1 : List UInt8 := dkwX3_owed_1 ++ []
def dkwX3_owed_0 : List UInt8 := [42, 3, 181, 0, 38, 42, 27, 182, 0, 117, 153, 0, 11, 42, 27, 182, 0, 189, 167, 0, 8, 42, 4]
abbrev dktX3_owed_0 : List UInt8 := dkwX3_owed_0 ++ dktX3_owed_1
theorem dksX3_owed_0 : cX3_owed.data.toList.drop 0 = dktX3_owed_0 := by decide +kernel
theorem dksX3_owed_1 : cX3_owed.data.toList.drop 23 = dktX3_owed_1 := dk_seg dksX3_owed_0 23 rfl rfl
theorem dX3_owed_0 : decode cX3_owed 0 = .ok (.aload_n 0, 1) := dk_42 (dk_at dksX3_owed_0 0 rfl rfl)
theorem dX3_owed_1 : decode cX3_owed 1 = .ok (.iconst 0, 1) := dk_3 (dk_at dksX3_owed_0 1 rfl rfl)
theorem dX3_owed_2 : decode cX3_owed 2 = .ok (.putfield 38, 3) := dk_181 0 38 (dk_at dksX3_owed_0 2 rfl rfl)
theorem dX3_owed_5 : decode cX3_owed 5 = .ok (.aload_n 0, 1) := dk_42 (dk_at dksX3_owed_0 5 rfl rfl)
theorem dX3_owed_6 : decode cX3_owed 6 = .ok (.iload_n 1, 1) := dk_27 (dk_at dksX3_owed_0 6 rfl rfl)
theorem dX3_owed_7 : decode cX3_owed 7 = .ok (.invokevirtual 117, 3) := dk_182 0 117 (dk_at dksX3_owed_0 7 rfl rfl)
theorem dX3_owed_10 : decode cX3_owed 10 = .ok (.ifCond .eq 11, 3) := dk_153 0 11 (dk_at dksX3_owed_0 10 rfl rfl)
theorem dX3_owed_13 : decode cX3_owed 13 = .ok (.aload_n 0, 1) := dk_42 (dk_at dksX3_owed_0 13 rfl rfl)
theorem dX3_owed_14 : decode cX3_owed 14 = .ok (.iload_n 1, 1) := dk_27 (dk_at dksX3_owed_0 14 rfl rfl)
theorem dX3_owed_15 : decode cX3_owed 15 = .ok (.invokevirtual 189, 3) := dk_182 0 189 (dk_at dksX3_owed_0 15 rfl rfl)
theorem dX3_owed_18 : decode cX3_owed 18 = .ok (.goto 8, 3) := dk_167 0 8 (dk_at dksX3_owed_0 18 rfl rfl)
theorem dX3_owed_21 : decode cX3_owed 21 = .ok (.aload_n 0, 1) := dk_42 (dk_at dksX3_owed_0 21 rfl rfl)
theorem dX3_owed_22 : decode cX3_owed 22 = .ok (.iconst 1, 1) := dk_4 (dk_at dksX3_owed_0 22 rfl rfl)
theorem dX3_owed_23 : decode cX3_owed 23 = .ok (.invokevirtual 50, 3) := dk_182 0 50 (dk_at dksX3_owed_1 0 rfl rfl)
theorem dX3_owed_26 : decode cX3_owed 26 = .ok (.ireturn, 1) := dk_172 (dk_at dksX3_owed_1 3 rfl rfl)
abbrev cX3_owedBy : ByteArray := prog_10_method_60_code
def yX3_owedBy : MethodName := ⟨RX3, "owedBy", "(I)I"⟩
def dkwX3_owedBy_4 : List UInt8 := [167, 255, 169, 28, 172]
abbrev dktX3_owedBy_4 : List UInt8 := dkwX3_owedBy_4 ++ []
def dkwX3_owedBy_3 : List UInt8 := [180, 0, 9, 21, 4, 8, 96, 46, 42, 29, 182, 0, 162, 104, 167, 0, 4, 3, 96, 61, 132, 3, 1]
abbrev dktX3_owedBy_3 : List UInt8 := dkwX3_owedBy_3 ++ dktX3_owedBy_4
def dkwX3_owedBy_2 : List UInt8 := [21, 4, 16, 6, 96, 46, 154, 0, 7, 4, 167, 0, 4, 3, 54, 5, 28, 21, 5, 153, 0, 21, 42]
abbrev dktX3_owedBy_2 : List UInt8 := dkwX3_owedBy_2 ++ dktX3_owedBy_3
def dkwX3_owedBy_1 : List UInt8 := [182, 0, 183, 153, 0, 33, 42, 180, 0, 9, 21, 4, 7, 96, 46, 27, 160, 0, 20, 42, 180, 0, 9]
abbrev dktX3_owedBy_1 : List UInt8 := dkwX3_owedBy_1 ++ dktX3_owedBy_2
def dkwX3_owedBy_0 : List UInt8 := [3, 61, 3, 62, 29, 42, 180, 0, 9, 4, 46, 162, 0, 83, 29, 184, 0, 126, 54, 4, 42, 29]
abbrev dktX3_owedBy_0 : List UInt8 := dkwX3_owedBy_0 ++ dktX3_owedBy_1
theorem dksX3_owedBy_0 : cX3_owedBy.data.toList.drop 0 = dktX3_owedBy_0 := by decide +kernel
theorem dksX3_owedBy_1 : cX3_owedBy.data.toList.drop 22 = dktX3_owedBy_1 := dk_seg dksX3_owedBy_0 22 rfl rfl
theorem dksX3_owedBy_2 : cX3_owedBy.data.toList.drop 45 = dktX3_owedBy_2 := dk_seg dksX3_owedBy_1 23 rfl rfl
theorem dksX3_owedBy_3 : cX3_owedBy.data.toList.drop 68 = dktX3_owedBy_3 := dk_seg dksX3_owedBy_2 23 rfl rfl
theorem dksX3_owedBy_4 : cX3_owedBy.data.toList.drop 91 = dktX3_owedBy_4 := dk_seg dksX3_owedBy_3 23 rfl rfl
theorem dX3_owedBy_0 : decode cX3_owedBy 0 = .ok (.iconst 0, 1) := dk_3 (dk_at dksX3_owedBy_0 0 rfl rfl)
theorem dX3_owedBy_1 : decode cX3_owedBy 1 = .ok (.istore_n 2, 1) := dk_61 (dk_at dksX3_owedBy_0 1 rfl rfl)
theorem dX3_owedBy_2 : decode cX3_owedBy 2 = .ok (.iconst 0, 1) := dk_3 (dk_at dksX3_owedBy_0 2 rfl rfl)
theorem dX3_owedBy_3 : decode cX3_owedBy 3 = .ok (.istore_n 3, 1) := dk_62 (dk_at dksX3_owedBy_0 3 rfl rfl)
theorem dX3_owedBy_4 : decode cX3_owedBy 4 = .ok (.iload_n 3, 1) := dk_29 (dk_at dksX3_owedBy_0 4 rfl rfl)
theorem dX3_owedBy_5 : decode cX3_owedBy 5 = .ok (.aload_n 0, 1) := dk_42 (dk_at dksX3_owedBy_0 5 rfl rfl)
theorem dX3_owedBy_6 : decode cX3_owedBy 6 = .ok (.getfield 9, 3) := dk_180 0 9 (dk_at dksX3_owedBy_0 6 rfl rfl)
theorem dX3_owedBy_9 : decode cX3_owedBy 9 = .ok (.iconst 1, 1) := dk_4 (dk_at dksX3_owedBy_0 9 rfl rfl)
theorem dX3_owedBy_10 : decode cX3_owedBy 10 = .ok (.iaload, 1) := dk_46 (dk_at dksX3_owedBy_0 10 rfl rfl)
theorem dX3_owedBy_11 : decode cX3_owedBy 11 = .ok (.if_icmp .ge 83, 3) := dk_162 0 83 (dk_at dksX3_owedBy_0 11 rfl rfl)
theorem dX3_owedBy_14 : decode cX3_owedBy 14 = .ok (.iload_n 3, 1) := dk_29 (dk_at dksX3_owedBy_0 14 rfl rfl)
theorem dX3_owedBy_15 : decode cX3_owedBy 15 = .ok (.invokestatic 126, 3) := dk_184 0 126 (dk_at dksX3_owedBy_0 15 rfl rfl)
theorem dX3_owedBy_18 : decode cX3_owedBy 18 = .ok (.istore 4, 2) := dk_54 4 (dk_at dksX3_owedBy_0 18 rfl rfl)
theorem dX3_owedBy_20 : decode cX3_owedBy 20 = .ok (.aload_n 0, 1) := dk_42 (dk_at dksX3_owedBy_0 20 rfl rfl)
theorem dX3_owedBy_21 : decode cX3_owedBy 21 = .ok (.iload_n 3, 1) := dk_29 (dk_at dksX3_owedBy_0 21 rfl rfl)
theorem dX3_owedBy_22 : decode cX3_owedBy 22 = .ok (.invokevirtual 183, 3) := dk_182 0 183 (dk_at dksX3_owedBy_1 0 rfl rfl)
theorem dX3_owedBy_25 : decode cX3_owedBy 25 = .ok (.ifCond .eq 33, 3) := dk_153 0 33 (dk_at dksX3_owedBy_1 3 rfl rfl)
theorem dX3_owedBy_28 : decode cX3_owedBy 28 = .ok (.aload_n 0, 1) := dk_42 (dk_at dksX3_owedBy_1 6 rfl rfl)
theorem dX3_owedBy_29 : decode cX3_owedBy 29 = .ok (.getfield 9, 3) := dk_180 0 9 (dk_at dksX3_owedBy_1 7 rfl rfl)
theorem dX3_owedBy_32 : decode cX3_owedBy 32 = .ok (.iload 4, 2) := dk_21 4 (dk_at dksX3_owedBy_1 10 rfl rfl)
theorem dX3_owedBy_34 : decode cX3_owedBy 34 = .ok (.iconst 4, 1) := dk_7 (dk_at dksX3_owedBy_1 12 rfl rfl)
theorem dX3_owedBy_35 : decode cX3_owedBy 35 = .ok (.iadd, 1) := dk_96 (dk_at dksX3_owedBy_1 13 rfl rfl)
theorem dX3_owedBy_36 : decode cX3_owedBy 36 = .ok (.iaload, 1) := dk_46 (dk_at dksX3_owedBy_1 14 rfl rfl)
theorem dX3_owedBy_37 : decode cX3_owedBy 37 = .ok (.iload_n 1, 1) := dk_27 (dk_at dksX3_owedBy_1 15 rfl rfl)
theorem dX3_owedBy_38 : decode cX3_owedBy 38 = .ok (.if_icmp .ne 20, 3) := dk_160 0 20 (dk_at dksX3_owedBy_1 16 rfl rfl)
theorem dX3_owedBy_41 : decode cX3_owedBy 41 = .ok (.aload_n 0, 1) := dk_42 (dk_at dksX3_owedBy_1 19 rfl rfl)
theorem dX3_owedBy_42 : decode cX3_owedBy 42 = .ok (.getfield 9, 3) := dk_180 0 9 (dk_at dksX3_owedBy_1 20 rfl rfl)
theorem dX3_owedBy_45 : decode cX3_owedBy 45 = .ok (.iload 4, 2) := dk_21 4 (dk_at dksX3_owedBy_2 0 rfl rfl)
theorem dX3_owedBy_47 : decode cX3_owedBy 47 = .ok (.bipush 6, 2) := dk_16 6 (dk_at dksX3_owedBy_2 2 rfl rfl)
theorem dX3_owedBy_49 : decode cX3_owedBy 49 = .ok (.iadd, 1) := dk_96 (dk_at dksX3_owedBy_2 4 rfl rfl)
theorem dX3_owedBy_50 : decode cX3_owedBy 50 = .ok (.iaload, 1) := dk_46 (dk_at dksX3_owedBy_2 5 rfl rfl)
theorem dX3_owedBy_51 : decode cX3_owedBy 51 = .ok (.ifCond .ne 7, 3) := dk_154 0 7 (dk_at dksX3_owedBy_2 6 rfl rfl)
theorem dX3_owedBy_54 : decode cX3_owedBy 54 = .ok (.iconst 1, 1) := dk_4 (dk_at dksX3_owedBy_2 9 rfl rfl)
theorem dX3_owedBy_55 : decode cX3_owedBy 55 = .ok (.goto 4, 3) := dk_167 0 4 (dk_at dksX3_owedBy_2 10 rfl rfl)
theorem dX3_owedBy_58 : decode cX3_owedBy 58 = .ok (.iconst 0, 1) := dk_3 (dk_at dksX3_owedBy_2 13 rfl rfl)
theorem dX3_owedBy_59 : decode cX3_owedBy 59 = .ok (.istore 5, 2) := dk_54 5 (dk_at dksX3_owedBy_2 14 rfl rfl)
theorem dX3_owedBy_61 : decode cX3_owedBy 61 = .ok (.iload_n 2, 1) := dk_28 (dk_at dksX3_owedBy_2 16 rfl rfl)
theorem dX3_owedBy_62 : decode cX3_owedBy 62 = .ok (.iload 5, 2) := dk_21 5 (dk_at dksX3_owedBy_2 17 rfl rfl)
theorem dX3_owedBy_64 : decode cX3_owedBy 64 = .ok (.ifCond .eq 21, 3) := dk_153 0 21 (dk_at dksX3_owedBy_2 19 rfl rfl)
theorem dX3_owedBy_67 : decode cX3_owedBy 67 = .ok (.aload_n 0, 1) := dk_42 (dk_at dksX3_owedBy_2 22 rfl rfl)
theorem dX3_owedBy_68 : decode cX3_owedBy 68 = .ok (.getfield 9, 3) := dk_180 0 9 (dk_at dksX3_owedBy_3 0 rfl rfl)
theorem dX3_owedBy_71 : decode cX3_owedBy 71 = .ok (.iload 4, 2) := dk_21 4 (dk_at dksX3_owedBy_3 3 rfl rfl)
theorem dX3_owedBy_73 : decode cX3_owedBy 73 = .ok (.iconst 5, 1) := dk_8 (dk_at dksX3_owedBy_3 5 rfl rfl)
theorem dX3_owedBy_74 : decode cX3_owedBy 74 = .ok (.iadd, 1) := dk_96 (dk_at dksX3_owedBy_3 6 rfl rfl)
theorem dX3_owedBy_75 : decode cX3_owedBy 75 = .ok (.iaload, 1) := dk_46 (dk_at dksX3_owedBy_3 7 rfl rfl)
theorem dX3_owedBy_76 : decode cX3_owedBy 76 = .ok (.aload_n 0, 1) := dk_42 (dk_at dksX3_owedBy_3 8 rfl rfl)
theorem dX3_owedBy_77 : decode cX3_owedBy 77 = .ok (.iload_n 3, 1) := dk_29 (dk_at dksX3_owedBy_3 9 rfl rfl)
theorem dX3_owedBy_78 : decode cX3_owedBy 78 = .ok (.invokevirtual 162, 3) := dk_182 0 162 (dk_at dksX3_owedBy_3 10 rfl rfl)
theorem dX3_owedBy_81 : decode cX3_owedBy 81 = .ok (.imul, 1) := dk_104 (dk_at dksX3_owedBy_3 13 rfl rfl)
theorem dX3_owedBy_82 : decode cX3_owedBy 82 = .ok (.goto 4, 3) := dk_167 0 4 (dk_at dksX3_owedBy_3 14 rfl rfl)
theorem dX3_owedBy_85 : decode cX3_owedBy 85 = .ok (.iconst 0, 1) := dk_3 (dk_at dksX3_owedBy_3 17 rfl rfl)
theorem dX3_owedBy_86 : decode cX3_owedBy 86 = .ok (.iadd, 1) := dk_96 (dk_at dksX3_owedBy_3 18 rfl rfl)
theorem dX3_owedBy_87 : decode cX3_owedBy 87 = .ok (.istore_n 2, 1) := dk_61 (dk_at dksX3_owedBy_3 19 rfl rfl)
theorem dX3_owedBy_88 : decode cX3_owedBy 88 = .ok (.iinc 3 1, 3) := dk_132 3 1 (dk_at dksX3_owedBy_3 20 rfl rfl)
theorem dX3_owedBy_91 : decode cX3_owedBy 91 = .ok (.goto (-87), 3) := dk_167 255 169 (dk_at dksX3_owedBy_4 0 rfl rfl)
theorem dX3_owedBy_94 : decode cX3_owedBy 94 = .ok (.iload_n 2, 1) := dk_28 (dk_at dksX3_owedBy_4 3 rfl rfl)
theorem dX3_owedBy_95 : decode cX3_owedBy 95 = .ok (.ireturn, 1) := dk_172 (dk_at dksX3_owedBy_4 4 rfl rfl)
abbrev cX3_ranked : ByteArray := prog_10_method_63_code
def yX3_ranked : MethodName := ⟨RX3, "ranked", "(II)I"⟩
def dkwX3_ranked_5 : List UInt8 := [182, 0, 50, 172]
abbrev dktX3_ranked_5 : List UInt8 := dkwX3_ranked_5 ++ []
def dkwX3_ranked_4 : List UInt8 := [132, 5, 1, 167, 255, 200, 21, 4, 28, 160, 0, 5, 29, 172, 132, 3, 1, 167, 255, 170, 42, 5]
abbrev dktX3_ranked_4 : List UInt8 := dkwX3_ranked_4 ++ dktX3_ranked_5
def dkwX3_ranked_3 : List UInt8 := [157, 0, 14, 21, 6, 154, 0, 13, 21, 5, 29, 162, 0, 7, 4, 167, 0, 4, 3, 96, 54, 4]
abbrev dktX3_ranked_3 : List UInt8 := dkwX3_ranked_3 ++ dktX3_ranked_4
def dkwX3_ranked_2 : List UInt8 := [46, 162, 0, 51, 42, 27, 21, 5, 182, 0, 192, 42, 27, 29, 182, 0, 192, 100, 54, 6, 21, 4, 21, 6]
abbrev dktX3_ranked_2 : List UInt8 := dkwX3_ranked_2 ++ dktX3_ranked_3
def dkwX3_ranked_1 : List UInt8 := [62, 29, 42, 180, 0, 9, 4, 46, 162, 0, 82, 3, 54, 4, 3, 54, 5, 21, 5, 42, 180, 0, 9, 4]
abbrev dktX3_ranked_1 : List UInt8 := dkwX3_ranked_1 ++ dktX3_ranked_2
def dkwX3_ranked_0 : List UInt8 := [42, 3, 181, 0, 38, 27, 133, 9, 20, 0, 63, 184, 0, 59, 154, 0, 9, 42, 4, 182, 0, 50, 172, 3]
abbrev dktX3_ranked_0 : List UInt8 := dkwX3_ranked_0 ++ dktX3_ranked_1
theorem dksX3_ranked_0 : cX3_ranked.data.toList.drop 0 = dktX3_ranked_0 := by decide +kernel
theorem dksX3_ranked_1 : cX3_ranked.data.toList.drop 24 = dktX3_ranked_1 := dk_seg dksX3_ranked_0 24 rfl rfl
theorem dksX3_ranked_2 : cX3_ranked.data.toList.drop 48 = dktX3_ranked_2 := dk_seg dksX3_ranked_1 24 rfl rfl
theorem dksX3_ranked_3 : cX3_ranked.data.toList.drop 72 = dktX3_ranked_3 := dk_seg dksX3_ranked_2 24 rfl rfl
theorem dksX3_ranked_4 : cX3_ranked.data.toList.drop 94 = dktX3_ranked_4 := dk_seg dksX3_ranked_3 22 rfl rfl
theorem dksX3_ranked_5 : cX3_ranked.data.toList.drop 116 = dktX3_ranked_5 := dk_seg dksX3_ranked_4 22 rfl rfl
theorem dX3_ranked_0 : decode cX3_ranked 0 = .ok (.aload_n 0, 1) := dk_42 (dk_at dksX3_ranked_0 0 rfl rfl)
theorem dX3_ranked_1 : decode cX3_ranked 1 = .ok (.iconst 0, 1) := dk_3 (dk_at dksX3_ranked_0 1 rfl rfl)
theorem dX3_ranked_2 : decode cX3_ranked 2 = .ok (.putfield 38, 3) := dk_181 0 38 (dk_at dksX3_ranked_0 2 rfl rfl)
theorem dX3_ranked_5 : decode cX3_ranked 5 = .ok (.iload_n 1, 1) := dk_27 (dk_at dksX3_ranked_0 5 rfl rfl)
theorem dX3_ranked_6 : decode cX3_ranked 6 = .ok (.i2l, 1) := dk_133 (dk_at dksX3_ranked_0 6 rfl rfl)
theorem dX3_ranked_7 : decode cX3_ranked 7 = .ok (.lconst 0, 1) := dk_9 (dk_at dksX3_ranked_0 7 rfl rfl)
theorem dX3_ranked_8 : decode cX3_ranked 8 = .ok (.ldc2_w 63, 3) := dk_20 0 63 (dk_at dksX3_ranked_0 8 rfl rfl)
theorem dX3_ranked_11 : decode cX3_ranked 11 = .ok (.invokestatic 59, 3) := dk_184 0 59 (dk_at dksX3_ranked_0 11 rfl rfl)
theorem dX3_ranked_14 : decode cX3_ranked 14 = .ok (.ifCond .ne 9, 3) := dk_154 0 9 (dk_at dksX3_ranked_0 14 rfl rfl)
theorem dX3_ranked_17 : decode cX3_ranked 17 = .ok (.aload_n 0, 1) := dk_42 (dk_at dksX3_ranked_0 17 rfl rfl)
theorem dX3_ranked_18 : decode cX3_ranked 18 = .ok (.iconst 1, 1) := dk_4 (dk_at dksX3_ranked_0 18 rfl rfl)
theorem dX3_ranked_19 : decode cX3_ranked 19 = .ok (.invokevirtual 50, 3) := dk_182 0 50 (dk_at dksX3_ranked_0 19 rfl rfl)
theorem dX3_ranked_22 : decode cX3_ranked 22 = .ok (.ireturn, 1) := dk_172 (dk_at dksX3_ranked_0 22 rfl rfl)
theorem dX3_ranked_23 : decode cX3_ranked 23 = .ok (.iconst 0, 1) := dk_3 (dk_at dksX3_ranked_0 23 rfl rfl)
theorem dX3_ranked_24 : decode cX3_ranked 24 = .ok (.istore_n 3, 1) := dk_62 (dk_at dksX3_ranked_1 0 rfl rfl)
theorem dX3_ranked_25 : decode cX3_ranked 25 = .ok (.iload_n 3, 1) := dk_29 (dk_at dksX3_ranked_1 1 rfl rfl)
theorem dX3_ranked_26 : decode cX3_ranked 26 = .ok (.aload_n 0, 1) := dk_42 (dk_at dksX3_ranked_1 2 rfl rfl)
theorem dX3_ranked_27 : decode cX3_ranked 27 = .ok (.getfield 9, 3) := dk_180 0 9 (dk_at dksX3_ranked_1 3 rfl rfl)
theorem dX3_ranked_30 : decode cX3_ranked 30 = .ok (.iconst 1, 1) := dk_4 (dk_at dksX3_ranked_1 6 rfl rfl)
theorem dX3_ranked_31 : decode cX3_ranked 31 = .ok (.iaload, 1) := dk_46 (dk_at dksX3_ranked_1 7 rfl rfl)
theorem dX3_ranked_32 : decode cX3_ranked 32 = .ok (.if_icmp .ge 82, 3) := dk_162 0 82 (dk_at dksX3_ranked_1 8 rfl rfl)
theorem dX3_ranked_35 : decode cX3_ranked 35 = .ok (.iconst 0, 1) := dk_3 (dk_at dksX3_ranked_1 11 rfl rfl)
theorem dX3_ranked_36 : decode cX3_ranked 36 = .ok (.istore 4, 2) := dk_54 4 (dk_at dksX3_ranked_1 12 rfl rfl)
theorem dX3_ranked_38 : decode cX3_ranked 38 = .ok (.iconst 0, 1) := dk_3 (dk_at dksX3_ranked_1 14 rfl rfl)
theorem dX3_ranked_39 : decode cX3_ranked 39 = .ok (.istore 5, 2) := dk_54 5 (dk_at dksX3_ranked_1 15 rfl rfl)
theorem dX3_ranked_41 : decode cX3_ranked 41 = .ok (.iload 5, 2) := dk_21 5 (dk_at dksX3_ranked_1 17 rfl rfl)
theorem dX3_ranked_43 : decode cX3_ranked 43 = .ok (.aload_n 0, 1) := dk_42 (dk_at dksX3_ranked_1 19 rfl rfl)
theorem dX3_ranked_44 : decode cX3_ranked 44 = .ok (.getfield 9, 3) := dk_180 0 9 (dk_at dksX3_ranked_1 20 rfl rfl)
theorem dX3_ranked_47 : decode cX3_ranked 47 = .ok (.iconst 1, 1) := dk_4 (dk_at dksX3_ranked_1 23 rfl rfl)
theorem dX3_ranked_48 : decode cX3_ranked 48 = .ok (.iaload, 1) := dk_46 (dk_at dksX3_ranked_2 0 rfl rfl)
theorem dX3_ranked_49 : decode cX3_ranked 49 = .ok (.if_icmp .ge 51, 3) := dk_162 0 51 (dk_at dksX3_ranked_2 1 rfl rfl)
theorem dX3_ranked_52 : decode cX3_ranked 52 = .ok (.aload_n 0, 1) := dk_42 (dk_at dksX3_ranked_2 4 rfl rfl)
theorem dX3_ranked_53 : decode cX3_ranked 53 = .ok (.iload_n 1, 1) := dk_27 (dk_at dksX3_ranked_2 5 rfl rfl)
theorem dX3_ranked_54 : decode cX3_ranked 54 = .ok (.iload 5, 2) := dk_21 5 (dk_at dksX3_ranked_2 6 rfl rfl)
theorem dX3_ranked_56 : decode cX3_ranked 56 = .ok (.invokevirtual 192, 3) := dk_182 0 192 (dk_at dksX3_ranked_2 8 rfl rfl)
theorem dX3_ranked_59 : decode cX3_ranked 59 = .ok (.aload_n 0, 1) := dk_42 (dk_at dksX3_ranked_2 11 rfl rfl)
theorem dX3_ranked_60 : decode cX3_ranked 60 = .ok (.iload_n 1, 1) := dk_27 (dk_at dksX3_ranked_2 12 rfl rfl)
theorem dX3_ranked_61 : decode cX3_ranked 61 = .ok (.iload_n 3, 1) := dk_29 (dk_at dksX3_ranked_2 13 rfl rfl)
theorem dX3_ranked_62 : decode cX3_ranked 62 = .ok (.invokevirtual 192, 3) := dk_182 0 192 (dk_at dksX3_ranked_2 14 rfl rfl)
theorem dX3_ranked_65 : decode cX3_ranked 65 = .ok (.isub, 1) := dk_100 (dk_at dksX3_ranked_2 17 rfl rfl)
theorem dX3_ranked_66 : decode cX3_ranked 66 = .ok (.istore 6, 2) := dk_54 6 (dk_at dksX3_ranked_2 18 rfl rfl)
theorem dX3_ranked_68 : decode cX3_ranked 68 = .ok (.iload 4, 2) := dk_21 4 (dk_at dksX3_ranked_2 20 rfl rfl)
theorem dX3_ranked_70 : decode cX3_ranked 70 = .ok (.iload 6, 2) := dk_21 6 (dk_at dksX3_ranked_2 22 rfl rfl)
theorem dX3_ranked_72 : decode cX3_ranked 72 = .ok (.ifCond .gt 14, 3) := dk_157 0 14 (dk_at dksX3_ranked_3 0 rfl rfl)
theorem dX3_ranked_75 : decode cX3_ranked 75 = .ok (.iload 6, 2) := dk_21 6 (dk_at dksX3_ranked_3 3 rfl rfl)
theorem dX3_ranked_77 : decode cX3_ranked 77 = .ok (.ifCond .ne 13, 3) := dk_154 0 13 (dk_at dksX3_ranked_3 5 rfl rfl)
theorem dX3_ranked_80 : decode cX3_ranked 80 = .ok (.iload 5, 2) := dk_21 5 (dk_at dksX3_ranked_3 8 rfl rfl)
theorem dX3_ranked_82 : decode cX3_ranked 82 = .ok (.iload_n 3, 1) := dk_29 (dk_at dksX3_ranked_3 10 rfl rfl)
theorem dX3_ranked_83 : decode cX3_ranked 83 = .ok (.if_icmp .ge 7, 3) := dk_162 0 7 (dk_at dksX3_ranked_3 11 rfl rfl)
theorem dX3_ranked_86 : decode cX3_ranked 86 = .ok (.iconst 1, 1) := dk_4 (dk_at dksX3_ranked_3 14 rfl rfl)
theorem dX3_ranked_87 : decode cX3_ranked 87 = .ok (.goto 4, 3) := dk_167 0 4 (dk_at dksX3_ranked_3 15 rfl rfl)
theorem dX3_ranked_90 : decode cX3_ranked 90 = .ok (.iconst 0, 1) := dk_3 (dk_at dksX3_ranked_3 18 rfl rfl)
theorem dX3_ranked_91 : decode cX3_ranked 91 = .ok (.iadd, 1) := dk_96 (dk_at dksX3_ranked_3 19 rfl rfl)
theorem dX3_ranked_92 : decode cX3_ranked 92 = .ok (.istore 4, 2) := dk_54 4 (dk_at dksX3_ranked_3 20 rfl rfl)
theorem dX3_ranked_94 : decode cX3_ranked 94 = .ok (.iinc 5 1, 3) := dk_132 5 1 (dk_at dksX3_ranked_4 0 rfl rfl)
theorem dX3_ranked_97 : decode cX3_ranked 97 = .ok (.goto (-56), 3) := dk_167 255 200 (dk_at dksX3_ranked_4 3 rfl rfl)
theorem dX3_ranked_100 : decode cX3_ranked 100 = .ok (.iload 4, 2) := dk_21 4 (dk_at dksX3_ranked_4 6 rfl rfl)
theorem dX3_ranked_102 : decode cX3_ranked 102 = .ok (.iload_n 2, 1) := dk_28 (dk_at dksX3_ranked_4 8 rfl rfl)
theorem dX3_ranked_103 : decode cX3_ranked 103 = .ok (.if_icmp .ne 5, 3) := dk_160 0 5 (dk_at dksX3_ranked_4 9 rfl rfl)
theorem dX3_ranked_106 : decode cX3_ranked 106 = .ok (.iload_n 3, 1) := dk_29 (dk_at dksX3_ranked_4 12 rfl rfl)
theorem dX3_ranked_107 : decode cX3_ranked 107 = .ok (.ireturn, 1) := dk_172 (dk_at dksX3_ranked_4 13 rfl rfl)
theorem dX3_ranked_108 : decode cX3_ranked 108 = .ok (.iinc 3 1, 3) := dk_132 3 1 (dk_at dksX3_ranked_4 14 rfl rfl)
theorem dX3_ranked_111 : decode cX3_ranked 111 = .ok (.goto (-86), 3) := dk_167 255 170 (dk_at dksX3_ranked_4 17 rfl rfl)
theorem dX3_ranked_114 : decode cX3_ranked 114 = .ok (.aload_n 0, 1) := dk_42 (dk_at dksX3_ranked_4 20 rfl rfl)
theorem dX3_ranked_115 : decode cX3_ranked 115 = .ok (.iconst 2, 1) := dk_5 (dk_at dksX3_ranked_4 21 rfl rfl)
theorem dX3_ranked_116 : decode cX3_ranked 116 = .ok (.invokevirtual 50, 3) := dk_182 0 50 (dk_at dksX3_ranked_5 0 rfl rfl)
theorem dX3_ranked_119 : decode cX3_ranked 119 = .ok (.ireturn, 1) := dk_172 (dk_at dksX3_ranked_5 3 rfl rfl)
abbrev cX3_measured : ByteArray := prog_10_method_62_code
def yX3_measured : MethodName := ⟨RX3, "measured", "(II)I"⟩
def dkwX3_measured_3 : List UInt8 := [180, 0, 9, 29, 8, 96, 46, 172]
abbrev dktX3_measured_3 : List UInt8 := dkwX3_measured_3 ++ []
def dkwX3_measured_2 : List UInt8 := [42, 180, 0, 9, 29, 46, 172, 42, 180, 0, 9, 29, 5, 96, 46, 172, 42, 28, 182, 0, 162, 172, 42]
abbrev dktX3_measured_2 : List UInt8 := dkwX3_measured_2 ++ dktX3_measured_3
def dkwX3_measured_1 : List UInt8 := [170, 0, 0, 0, 0, 48, 0, 0, 0, 0, 0, 0, 0, 2, 0, 0, 0, 26, 0, 0, 0, 33, 0, 0, 0, 42]
abbrev dktX3_measured_1 : List UInt8 := dkwX3_measured_1 ++ dktX3_measured_2
def dkwX3_measured_0 : List UInt8 := [28, 184, 0, 126, 62, 27]
abbrev dktX3_measured_0 : List UInt8 := dkwX3_measured_0 ++ dktX3_measured_1
theorem dksX3_measured_0 : cX3_measured.data.toList.drop 0 = dktX3_measured_0 := by decide +kernel
theorem dksX3_measured_1 : cX3_measured.data.toList.drop 6 = dktX3_measured_1 := dk_seg dksX3_measured_0 6 rfl rfl
theorem dksX3_measured_2 : cX3_measured.data.toList.drop 32 = dktX3_measured_2 := dk_seg dksX3_measured_1 26 rfl rfl
theorem dksX3_measured_3 : cX3_measured.data.toList.drop 55 = dktX3_measured_3 := dk_seg dksX3_measured_2 23 rfl rfl
theorem dX3_measured_0 : decode cX3_measured 0 = .ok (.iload_n 2, 1) := dk_28 (dk_at dksX3_measured_0 0 rfl rfl)
theorem dX3_measured_1 : decode cX3_measured 1 = .ok (.invokestatic 126, 3) := dk_184 0 126 (dk_at dksX3_measured_0 1 rfl rfl)
theorem dX3_measured_4 : decode cX3_measured 4 = .ok (.istore_n 3, 1) := dk_62 (dk_at dksX3_measured_0 4 rfl rfl)
theorem dX3_measured_5 : decode cX3_measured 5 = .ok (.iload_n 1, 1) := dk_27 (dk_at dksX3_measured_0 5 rfl rfl)
theorem dX3_measured_6 : decode cX3_measured 6 = .ok (.tableswitch 48 0 2 #[26, 33, 42], 26) := by decide +kernel
theorem dX3_measured_32 : decode cX3_measured 32 = .ok (.aload_n 0, 1) := dk_42 (dk_at dksX3_measured_2 0 rfl rfl)
theorem dX3_measured_33 : decode cX3_measured 33 = .ok (.getfield 9, 3) := dk_180 0 9 (dk_at dksX3_measured_2 1 rfl rfl)
theorem dX3_measured_36 : decode cX3_measured 36 = .ok (.iload_n 3, 1) := dk_29 (dk_at dksX3_measured_2 4 rfl rfl)
theorem dX3_measured_37 : decode cX3_measured 37 = .ok (.iaload, 1) := dk_46 (dk_at dksX3_measured_2 5 rfl rfl)
theorem dX3_measured_38 : decode cX3_measured 38 = .ok (.ireturn, 1) := dk_172 (dk_at dksX3_measured_2 6 rfl rfl)
theorem dX3_measured_39 : decode cX3_measured 39 = .ok (.aload_n 0, 1) := dk_42 (dk_at dksX3_measured_2 7 rfl rfl)
theorem dX3_measured_40 : decode cX3_measured 40 = .ok (.getfield 9, 3) := dk_180 0 9 (dk_at dksX3_measured_2 8 rfl rfl)
theorem dX3_measured_43 : decode cX3_measured 43 = .ok (.iload_n 3, 1) := dk_29 (dk_at dksX3_measured_2 11 rfl rfl)
theorem dX3_measured_44 : decode cX3_measured 44 = .ok (.iconst 2, 1) := dk_5 (dk_at dksX3_measured_2 12 rfl rfl)
theorem dX3_measured_45 : decode cX3_measured 45 = .ok (.iadd, 1) := dk_96 (dk_at dksX3_measured_2 13 rfl rfl)
theorem dX3_measured_46 : decode cX3_measured 46 = .ok (.iaload, 1) := dk_46 (dk_at dksX3_measured_2 14 rfl rfl)
theorem dX3_measured_47 : decode cX3_measured 47 = .ok (.ireturn, 1) := dk_172 (dk_at dksX3_measured_2 15 rfl rfl)
theorem dX3_measured_48 : decode cX3_measured 48 = .ok (.aload_n 0, 1) := dk_42 (dk_at dksX3_measured_2 16 rfl rfl)
theorem dX3_measured_49 : decode cX3_measured 49 = .ok (.iload_n 2, 1) := dk_28 (dk_at dksX3_measured_2 17 rfl rfl)
theorem dX3_measured_50 : decode cX3_measured 50 = .ok (.invokevirtual 162, 3) := dk_182 0 162 (dk_at dksX3_measured_2 18 rfl rfl)
theorem dX3_measured_53 : decode cX3_measured 53 = .ok (.ireturn, 1) := dk_172 (dk_at dksX3_measured_2 21 rfl rfl)
theorem dX3_measured_54 : decode cX3_measured 54 = .ok (.aload_n 0, 1) := dk_42 (dk_at dksX3_measured_2 22 rfl rfl)
theorem dX3_measured_55 : decode cX3_measured 55 = .ok (.getfield 9, 3) := dk_180 0 9 (dk_at dksX3_measured_3 0 rfl rfl)
theorem dX3_measured_58 : decode cX3_measured 58 = .ok (.iload_n 3, 1) := dk_29 (dk_at dksX3_measured_3 3 rfl rfl)
theorem dX3_measured_59 : decode cX3_measured 59 = .ok (.iconst 5, 1) := dk_8 (dk_at dksX3_measured_3 4 rfl rfl)
theorem dX3_measured_60 : decode cX3_measured 60 = .ok (.iadd, 1) := dk_96 (dk_at dksX3_measured_3 5 rfl rfl)
theorem dX3_measured_61 : decode cX3_measured 61 = .ok (.iaload, 1) := dk_46 (dk_at dksX3_measured_3 6 rfl rfl)
theorem dX3_measured_62 : decode cX3_measured 62 = .ok (.ireturn, 1) := dk_172 (dk_at dksX3_measured_3 7 rfl rfl)
abbrev cX3_richest : ByteArray := prog_10_method_64_code
def yX3_richest : MethodName := ⟨RX3, "richest", "(I)I"⟩
def dkwX3_richest_5 : List UInt8 := [167, 255, 144, 42, 4, 182, 0, 50, 172]
abbrev dktX3_richest_5 : List UInt8 := dkwX3_richest_5 ++ []
def dkwX3_richest_4 : List UInt8 := [4, 167, 0, 4, 3, 96, 62, 132, 4, 1, 167, 255, 172, 29, 27, 160, 0, 5, 28, 172, 132, 2, 1]
abbrev dktX3_richest_4 : List UInt8 := dkwX3_richest_4 ++ dktX3_richest_5
def dkwX3_richest_3 : List UInt8 := [167, 0, 5, 21, 5, 54, 6, 29, 21, 6, 157, 0, 14, 21, 6, 154, 0, 13, 21, 4, 28, 162, 0, 7]
abbrev dktX3_richest_3 : List UInt8 := dkwX3_richest_3 ++ dktX3_richest_4
def dkwX3_richest_2 : List UInt8 := [184, 0, 120, 46, 100, 54, 5, 21, 5, 154, 0, 18, 42, 28, 182, 0, 189, 42, 21, 4, 182, 0, 189, 100]
abbrev dktX3_richest_2 : List UInt8 := dkwX3_richest_2 ++ dktX3_richest_3
def dkwX3_richest_1 : List UInt8 := [42, 180, 0, 9, 3, 46, 162, 0, 79, 42, 180, 0, 9, 21, 4, 184, 0, 120, 46, 42, 180, 0, 9, 28]
abbrev dktX3_richest_1 : List UInt8 := dkwX3_richest_1 ++ dktX3_richest_2
def dkwX3_richest_0 : List UInt8 := [42, 3, 181, 0, 38, 3, 61, 28, 42, 180, 0, 9, 3, 46, 162, 0, 108, 3, 62, 3, 54, 4, 21, 4]
abbrev dktX3_richest_0 : List UInt8 := dkwX3_richest_0 ++ dktX3_richest_1
theorem dksX3_richest_0 : cX3_richest.data.toList.drop 0 = dktX3_richest_0 := by decide +kernel
theorem dksX3_richest_1 : cX3_richest.data.toList.drop 24 = dktX3_richest_1 := dk_seg dksX3_richest_0 24 rfl rfl
theorem dksX3_richest_2 : cX3_richest.data.toList.drop 48 = dktX3_richest_2 := dk_seg dksX3_richest_1 24 rfl rfl
theorem dksX3_richest_3 : cX3_richest.data.toList.drop 72 = dktX3_richest_3 := dk_seg dksX3_richest_2 24 rfl rfl
theorem dksX3_richest_4 : cX3_richest.data.toList.drop 96 = dktX3_richest_4 := dk_seg dksX3_richest_3 24 rfl rfl
theorem dksX3_richest_5 : cX3_richest.data.toList.drop 119 = dktX3_richest_5 := dk_seg dksX3_richest_4 23 rfl rfl
theorem dX3_richest_0 : decode cX3_richest 0 = .ok (.aload_n 0, 1) := dk_42 (dk_at dksX3_richest_0 0 rfl rfl)
theorem dX3_richest_1 : decode cX3_richest 1 = .ok (.iconst 0, 1) := dk_3 (dk_at dksX3_richest_0 1 rfl rfl)
theorem dX3_richest_2 : decode cX3_richest 2 = .ok (.putfield 38, 3) := dk_181 0 38 (dk_at dksX3_richest_0 2 rfl rfl)
theorem dX3_richest_5 : decode cX3_richest 5 = .ok (.iconst 0, 1) := dk_3 (dk_at dksX3_richest_0 5 rfl rfl)
theorem dX3_richest_6 : decode cX3_richest 6 = .ok (.istore_n 2, 1) := dk_61 (dk_at dksX3_richest_0 6 rfl rfl)
theorem dX3_richest_7 : decode cX3_richest 7 = .ok (.iload_n 2, 1) := dk_28 (dk_at dksX3_richest_0 7 rfl rfl)
theorem dX3_richest_8 : decode cX3_richest 8 = .ok (.aload_n 0, 1) := dk_42 (dk_at dksX3_richest_0 8 rfl rfl)
theorem dX3_richest_9 : decode cX3_richest 9 = .ok (.getfield 9, 3) := dk_180 0 9 (dk_at dksX3_richest_0 9 rfl rfl)
theorem dX3_richest_12 : decode cX3_richest 12 = .ok (.iconst 0, 1) := dk_3 (dk_at dksX3_richest_0 12 rfl rfl)
theorem dX3_richest_13 : decode cX3_richest 13 = .ok (.iaload, 1) := dk_46 (dk_at dksX3_richest_0 13 rfl rfl)
theorem dX3_richest_14 : decode cX3_richest 14 = .ok (.if_icmp .ge 108, 3) := dk_162 0 108 (dk_at dksX3_richest_0 14 rfl rfl)
theorem dX3_richest_17 : decode cX3_richest 17 = .ok (.iconst 0, 1) := dk_3 (dk_at dksX3_richest_0 17 rfl rfl)
theorem dX3_richest_18 : decode cX3_richest 18 = .ok (.istore_n 3, 1) := dk_62 (dk_at dksX3_richest_0 18 rfl rfl)
theorem dX3_richest_19 : decode cX3_richest 19 = .ok (.iconst 0, 1) := dk_3 (dk_at dksX3_richest_0 19 rfl rfl)
theorem dX3_richest_20 : decode cX3_richest 20 = .ok (.istore 4, 2) := dk_54 4 (dk_at dksX3_richest_0 20 rfl rfl)
theorem dX3_richest_22 : decode cX3_richest 22 = .ok (.iload 4, 2) := dk_21 4 (dk_at dksX3_richest_0 22 rfl rfl)
theorem dX3_richest_24 : decode cX3_richest 24 = .ok (.aload_n 0, 1) := dk_42 (dk_at dksX3_richest_1 0 rfl rfl)
theorem dX3_richest_25 : decode cX3_richest 25 = .ok (.getfield 9, 3) := dk_180 0 9 (dk_at dksX3_richest_1 1 rfl rfl)
theorem dX3_richest_28 : decode cX3_richest 28 = .ok (.iconst 0, 1) := dk_3 (dk_at dksX3_richest_1 4 rfl rfl)
theorem dX3_richest_29 : decode cX3_richest 29 = .ok (.iaload, 1) := dk_46 (dk_at dksX3_richest_1 5 rfl rfl)
theorem dX3_richest_30 : decode cX3_richest 30 = .ok (.if_icmp .ge 79, 3) := dk_162 0 79 (dk_at dksX3_richest_1 6 rfl rfl)
theorem dX3_richest_33 : decode cX3_richest 33 = .ok (.aload_n 0, 1) := dk_42 (dk_at dksX3_richest_1 9 rfl rfl)
theorem dX3_richest_34 : decode cX3_richest 34 = .ok (.getfield 9, 3) := dk_180 0 9 (dk_at dksX3_richest_1 10 rfl rfl)
theorem dX3_richest_37 : decode cX3_richest 37 = .ok (.iload 4, 2) := dk_21 4 (dk_at dksX3_richest_1 13 rfl rfl)
theorem dX3_richest_39 : decode cX3_richest 39 = .ok (.invokestatic 120, 3) := dk_184 0 120 (dk_at dksX3_richest_1 15 rfl rfl)
theorem dX3_richest_42 : decode cX3_richest 42 = .ok (.iaload, 1) := dk_46 (dk_at dksX3_richest_1 18 rfl rfl)
theorem dX3_richest_43 : decode cX3_richest 43 = .ok (.aload_n 0, 1) := dk_42 (dk_at dksX3_richest_1 19 rfl rfl)
theorem dX3_richest_44 : decode cX3_richest 44 = .ok (.getfield 9, 3) := dk_180 0 9 (dk_at dksX3_richest_1 20 rfl rfl)
theorem dX3_richest_47 : decode cX3_richest 47 = .ok (.iload_n 2, 1) := dk_28 (dk_at dksX3_richest_1 23 rfl rfl)
theorem dX3_richest_48 : decode cX3_richest 48 = .ok (.invokestatic 120, 3) := dk_184 0 120 (dk_at dksX3_richest_2 0 rfl rfl)
theorem dX3_richest_51 : decode cX3_richest 51 = .ok (.iaload, 1) := dk_46 (dk_at dksX3_richest_2 3 rfl rfl)
theorem dX3_richest_52 : decode cX3_richest 52 = .ok (.isub, 1) := dk_100 (dk_at dksX3_richest_2 4 rfl rfl)
theorem dX3_richest_53 : decode cX3_richest 53 = .ok (.istore 5, 2) := dk_54 5 (dk_at dksX3_richest_2 5 rfl rfl)
theorem dX3_richest_55 : decode cX3_richest 55 = .ok (.iload 5, 2) := dk_21 5 (dk_at dksX3_richest_2 7 rfl rfl)
theorem dX3_richest_57 : decode cX3_richest 57 = .ok (.ifCond .ne 18, 3) := dk_154 0 18 (dk_at dksX3_richest_2 9 rfl rfl)
theorem dX3_richest_60 : decode cX3_richest 60 = .ok (.aload_n 0, 1) := dk_42 (dk_at dksX3_richest_2 12 rfl rfl)
theorem dX3_richest_61 : decode cX3_richest 61 = .ok (.iload_n 2, 1) := dk_28 (dk_at dksX3_richest_2 13 rfl rfl)
theorem dX3_richest_62 : decode cX3_richest 62 = .ok (.invokevirtual 189, 3) := dk_182 0 189 (dk_at dksX3_richest_2 14 rfl rfl)
theorem dX3_richest_65 : decode cX3_richest 65 = .ok (.aload_n 0, 1) := dk_42 (dk_at dksX3_richest_2 17 rfl rfl)
theorem dX3_richest_66 : decode cX3_richest 66 = .ok (.iload 4, 2) := dk_21 4 (dk_at dksX3_richest_2 18 rfl rfl)
theorem dX3_richest_68 : decode cX3_richest 68 = .ok (.invokevirtual 189, 3) := dk_182 0 189 (dk_at dksX3_richest_2 20 rfl rfl)
theorem dX3_richest_71 : decode cX3_richest 71 = .ok (.isub, 1) := dk_100 (dk_at dksX3_richest_2 23 rfl rfl)
theorem dX3_richest_72 : decode cX3_richest 72 = .ok (.goto 5, 3) := dk_167 0 5 (dk_at dksX3_richest_3 0 rfl rfl)
theorem dX3_richest_75 : decode cX3_richest 75 = .ok (.iload 5, 2) := dk_21 5 (dk_at dksX3_richest_3 3 rfl rfl)
theorem dX3_richest_77 : decode cX3_richest 77 = .ok (.istore 6, 2) := dk_54 6 (dk_at dksX3_richest_3 5 rfl rfl)
theorem dX3_richest_79 : decode cX3_richest 79 = .ok (.iload_n 3, 1) := dk_29 (dk_at dksX3_richest_3 7 rfl rfl)
theorem dX3_richest_80 : decode cX3_richest 80 = .ok (.iload 6, 2) := dk_21 6 (dk_at dksX3_richest_3 8 rfl rfl)
theorem dX3_richest_82 : decode cX3_richest 82 = .ok (.ifCond .gt 14, 3) := dk_157 0 14 (dk_at dksX3_richest_3 10 rfl rfl)
theorem dX3_richest_85 : decode cX3_richest 85 = .ok (.iload 6, 2) := dk_21 6 (dk_at dksX3_richest_3 13 rfl rfl)
theorem dX3_richest_87 : decode cX3_richest 87 = .ok (.ifCond .ne 13, 3) := dk_154 0 13 (dk_at dksX3_richest_3 15 rfl rfl)
theorem dX3_richest_90 : decode cX3_richest 90 = .ok (.iload 4, 2) := dk_21 4 (dk_at dksX3_richest_3 18 rfl rfl)
theorem dX3_richest_92 : decode cX3_richest 92 = .ok (.iload_n 2, 1) := dk_28 (dk_at dksX3_richest_3 20 rfl rfl)
theorem dX3_richest_93 : decode cX3_richest 93 = .ok (.if_icmp .ge 7, 3) := dk_162 0 7 (dk_at dksX3_richest_3 21 rfl rfl)
theorem dX3_richest_96 : decode cX3_richest 96 = .ok (.iconst 1, 1) := dk_4 (dk_at dksX3_richest_4 0 rfl rfl)
theorem dX3_richest_97 : decode cX3_richest 97 = .ok (.goto 4, 3) := dk_167 0 4 (dk_at dksX3_richest_4 1 rfl rfl)
theorem dX3_richest_100 : decode cX3_richest 100 = .ok (.iconst 0, 1) := dk_3 (dk_at dksX3_richest_4 4 rfl rfl)
theorem dX3_richest_101 : decode cX3_richest 101 = .ok (.iadd, 1) := dk_96 (dk_at dksX3_richest_4 5 rfl rfl)
theorem dX3_richest_102 : decode cX3_richest 102 = .ok (.istore_n 3, 1) := dk_62 (dk_at dksX3_richest_4 6 rfl rfl)
theorem dX3_richest_103 : decode cX3_richest 103 = .ok (.iinc 4 1, 3) := dk_132 4 1 (dk_at dksX3_richest_4 7 rfl rfl)
theorem dX3_richest_106 : decode cX3_richest 106 = .ok (.goto (-84), 3) := dk_167 255 172 (dk_at dksX3_richest_4 10 rfl rfl)
theorem dX3_richest_109 : decode cX3_richest 109 = .ok (.iload_n 3, 1) := dk_29 (dk_at dksX3_richest_4 13 rfl rfl)
theorem dX3_richest_110 : decode cX3_richest 110 = .ok (.iload_n 1, 1) := dk_27 (dk_at dksX3_richest_4 14 rfl rfl)
theorem dX3_richest_111 : decode cX3_richest 111 = .ok (.if_icmp .ne 5, 3) := dk_160 0 5 (dk_at dksX3_richest_4 15 rfl rfl)
theorem dX3_richest_114 : decode cX3_richest 114 = .ok (.iload_n 2, 1) := dk_28 (dk_at dksX3_richest_4 18 rfl rfl)
theorem dX3_richest_115 : decode cX3_richest 115 = .ok (.ireturn, 1) := dk_172 (dk_at dksX3_richest_4 19 rfl rfl)
theorem dX3_richest_116 : decode cX3_richest 116 = .ok (.iinc 2 1, 3) := dk_132 2 1 (dk_at dksX3_richest_4 20 rfl rfl)
theorem dX3_richest_119 : decode cX3_richest 119 = .ok (.goto (-112), 3) := dk_167 255 144 (dk_at dksX3_richest_5 0 rfl rfl)
theorem dX3_richest_122 : decode cX3_richest 122 = .ok (.aload_n 0, 1) := dk_42 (dk_at dksX3_richest_5 3 rfl rfl)
theorem dX3_richest_123 : decode cX3_richest 123 = .ok (.iconst 1, 1) := dk_4 (dk_at dksX3_richest_5 4 rfl rfl)
theorem dX3_richest_124 : decode cX3_richest 124 = .ok (.invokevirtual 50, 3) := dk_182 0 50 (dk_at dksX3_richest_5 5 rfl rfl)
theorem dX3_richest_127 : decode cX3_richest 127 = .ok (.ireturn, 1) := dk_172 (dk_at dksX3_richest_5 8 rfl rfl)
abbrev cX3_append : ByteArray := prog_10_method_65_code
def yX3_append : MethodName := ⟨RX3, "append", "(C)I"⟩
def dkwX3_append_1 : List UInt8 := [42, 180, 0, 195, 27, 79, 42, 89, 180, 0, 195, 4, 96, 181, 0, 195, 42, 180, 0, 195, 172]
abbrev dktX3_append_1 : List UInt8 := dkwX3_append_1 ++ []
def dkwX3_append_0 : List UInt8 := [42, 3, 181, 0, 38, 42, 180, 0, 195, 16, 60, 160, 0, 9, 42, 4, 182, 0, 50, 172, 42, 180, 0, 26]
abbrev dktX3_append_0 : List UInt8 := dkwX3_append_0 ++ dktX3_append_1
theorem dksX3_append_0 : cX3_append.data.toList.drop 0 = dktX3_append_0 := by decide +kernel
theorem dksX3_append_1 : cX3_append.data.toList.drop 24 = dktX3_append_1 := dk_seg dksX3_append_0 24 rfl rfl
theorem dX3_append_0 : decode cX3_append 0 = .ok (.aload_n 0, 1) := dk_42 (dk_at dksX3_append_0 0 rfl rfl)
theorem dX3_append_1 : decode cX3_append 1 = .ok (.iconst 0, 1) := dk_3 (dk_at dksX3_append_0 1 rfl rfl)
theorem dX3_append_2 : decode cX3_append 2 = .ok (.putfield 38, 3) := dk_181 0 38 (dk_at dksX3_append_0 2 rfl rfl)
theorem dX3_append_5 : decode cX3_append 5 = .ok (.aload_n 0, 1) := dk_42 (dk_at dksX3_append_0 5 rfl rfl)
theorem dX3_append_6 : decode cX3_append 6 = .ok (.getfield 195, 3) := dk_180 0 195 (dk_at dksX3_append_0 6 rfl rfl)
theorem dX3_append_9 : decode cX3_append 9 = .ok (.bipush 60, 2) := dk_16 60 (dk_at dksX3_append_0 9 rfl rfl)
theorem dX3_append_11 : decode cX3_append 11 = .ok (.if_icmp .ne 9, 3) := dk_160 0 9 (dk_at dksX3_append_0 11 rfl rfl)
theorem dX3_append_14 : decode cX3_append 14 = .ok (.aload_n 0, 1) := dk_42 (dk_at dksX3_append_0 14 rfl rfl)
theorem dX3_append_15 : decode cX3_append 15 = .ok (.iconst 1, 1) := dk_4 (dk_at dksX3_append_0 15 rfl rfl)
theorem dX3_append_16 : decode cX3_append 16 = .ok (.invokevirtual 50, 3) := dk_182 0 50 (dk_at dksX3_append_0 16 rfl rfl)
theorem dX3_append_19 : decode cX3_append 19 = .ok (.ireturn, 1) := dk_172 (dk_at dksX3_append_0 19 rfl rfl)
theorem dX3_append_20 : decode cX3_append 20 = .ok (.aload_n 0, 1) := dk_42 (dk_at dksX3_append_0 20 rfl rfl)
theorem dX3_append_21 : decode cX3_append 21 = .ok (.getfield 26, 3) := dk_180 0 26 (dk_at dksX3_append_0 21 rfl rfl)
theorem dX3_append_24 : decode cX3_append 24 = .ok (.aload_n 0, 1) := dk_42 (dk_at dksX3_append_1 0 rfl rfl)
theorem dX3_append_25 : decode cX3_append 25 = .ok (.getfield 195, 3) := dk_180 0 195 (dk_at dksX3_append_1 1 rfl rfl)
theorem dX3_append_28 : decode cX3_append 28 = .ok (.iload_n 1, 1) := dk_27 (dk_at dksX3_append_1 4 rfl rfl)
theorem dX3_append_29 : decode cX3_append 29 = .ok (.iastore, 1) := dk_79 (dk_at dksX3_append_1 5 rfl rfl)
theorem dX3_append_30 : decode cX3_append 30 = .ok (.aload_n 0, 1) := dk_42 (dk_at dksX3_append_1 6 rfl rfl)
theorem dX3_append_31 : decode cX3_append 31 = .ok (.dup, 1) := dk_89 (dk_at dksX3_append_1 7 rfl rfl)
theorem dX3_append_32 : decode cX3_append 32 = .ok (.getfield 195, 3) := dk_180 0 195 (dk_at dksX3_append_1 8 rfl rfl)
theorem dX3_append_35 : decode cX3_append 35 = .ok (.iconst 1, 1) := dk_4 (dk_at dksX3_append_1 11 rfl rfl)
theorem dX3_append_36 : decode cX3_append 36 = .ok (.iadd, 1) := dk_96 (dk_at dksX3_append_1 12 rfl rfl)
theorem dX3_append_37 : decode cX3_append 37 = .ok (.putfield 195, 3) := dk_181 0 195 (dk_at dksX3_append_1 13 rfl rfl)
theorem dX3_append_40 : decode cX3_append 40 = .ok (.aload_n 0, 1) := dk_42 (dk_at dksX3_append_1 16 rfl rfl)
theorem dX3_append_41 : decode cX3_append 41 = .ok (.getfield 195, 3) := dk_180 0 195 (dk_at dksX3_append_1 17 rfl rfl)
theorem dX3_append_44 : decode cX3_append 44 = .ok (.ireturn, 1) := dk_172 (dk_at dksX3_append_1 20 rfl rfl)
abbrev cX3_commands : ByteArray := prog_10_method_74_code
def yX3_commands : MethodName := ⟨RX3, "commands", "()I"⟩
def dkwX3_commands_9 : List UInt8 := [172]
abbrev dktX3_commands_9 : List UInt8 := dkwX3_commands_9 ++ []
def dkwX3_commands_8 : List UInt8 := [28, 181, 0, 47, 42, 5, 182, 0, 50, 172, 132, 2, 1, 167, 255, 194, 42, 42, 180, 0, 225, 182, 0, 107]
abbrev dktX3_commands_8 : List UInt8 := dkwX3_commands_8 ++ dktX3_commands_9
def dkwX3_commands_7 : List UInt8 := [16, 86, 162, 0, 21, 42, 180, 0, 9, 29, 42, 180, 0, 13, 29, 46, 79, 132, 3, 1, 167, 255, 235, 42]
abbrev dktX3_commands_7 : List UInt8 := dkwX3_commands_7 ++ dktX3_commands_8
def dkwX3_commands_6 : List UInt8 := [180, 0, 225, 162, 0, 60, 42, 7, 28, 104, 182, 0, 238, 42, 180, 0, 38, 158, 0, 40, 3, 62, 29]
abbrev dktX3_commands_6 : List UInt8 := dkwX3_commands_6 ++ dktX3_commands_7
def dkwX3_commands_5 : List UInt8 := [167, 0, 4, 2, 181, 0, 22, 42, 180, 0, 204, 153, 0, 9, 42, 4, 182, 0, 50, 172, 3, 61, 28, 42]
abbrev dktX3_commands_5 : List UInt8 := dkwX3_commands_5 ++ dktX3_commands_6
def dkwX3_commands_4 : List UInt8 := [154, 0, 7, 4, 167, 0, 4, 3, 60, 167, 255, 189, 42, 42, 180, 0, 204, 153, 0, 10, 42, 180, 0, 198]
abbrev dktX3_commands_4 : List UInt8 := dkwX3_commands_4 ++ dktX3_commands_5
def dkwX3_commands_3 : List UInt8 := [42, 42, 182, 0, 208, 16, 59, 160, 0, 7, 4, 167, 0, 4, 3, 182, 0, 215, 42, 180, 0, 204]
abbrev dktX3_commands_3 : List UInt8 := dkwX3_commands_3 ++ dktX3_commands_4
def dkwX3_commands_2 : List UInt8 := [154, 0, 18, 42, 180, 0, 198, 42, 180, 0, 201, 162, 0, 7, 4, 167, 0, 4, 3, 60, 27, 153, 255, 223]
abbrev dktX3_commands_2 : List UInt8 := dkwX3_commands_2 ++ dktX3_commands_3
def dkwX3_commands_1 : List UInt8 := [181, 0, 225, 42, 3, 181, 0, 204, 4, 60, 27, 153, 0, 69, 42, 182, 0, 235, 42, 180, 0, 204]
abbrev dktX3_commands_1 : List UInt8 := dkwX3_commands_1 ++ dktX3_commands_2
def dkwX3_commands_0 : List UInt8 := [42, 182, 0, 100, 42, 42, 180, 0, 195, 181, 0, 201, 42, 3, 181, 0, 195, 42, 3, 181, 0, 198, 42, 3]
abbrev dktX3_commands_0 : List UInt8 := dkwX3_commands_0 ++ dktX3_commands_1
theorem dksX3_commands_0 : cX3_commands.data.toList.drop 0 = dktX3_commands_0 := by decide +kernel
theorem dksX3_commands_1 : cX3_commands.data.toList.drop 24 = dktX3_commands_1 := dk_seg dksX3_commands_0 24 rfl rfl
theorem dksX3_commands_2 : cX3_commands.data.toList.drop 46 = dktX3_commands_2 := dk_seg dksX3_commands_1 22 rfl rfl
theorem dksX3_commands_3 : cX3_commands.data.toList.drop 70 = dktX3_commands_3 := dk_seg dksX3_commands_2 24 rfl rfl
theorem dksX3_commands_4 : cX3_commands.data.toList.drop 92 = dktX3_commands_4 := dk_seg dksX3_commands_3 22 rfl rfl
theorem dksX3_commands_5 : cX3_commands.data.toList.drop 116 = dktX3_commands_5 := dk_seg dksX3_commands_4 24 rfl rfl
theorem dksX3_commands_6 : cX3_commands.data.toList.drop 140 = dktX3_commands_6 := dk_seg dksX3_commands_5 24 rfl rfl
theorem dksX3_commands_7 : cX3_commands.data.toList.drop 163 = dktX3_commands_7 := dk_seg dksX3_commands_6 23 rfl rfl
theorem dksX3_commands_8 : cX3_commands.data.toList.drop 187 = dktX3_commands_8 := dk_seg dksX3_commands_7 24 rfl rfl
theorem dksX3_commands_9 : cX3_commands.data.toList.drop 211 = dktX3_commands_9 := dk_seg dksX3_commands_8 24 rfl rfl
theorem dX3_commands_0 : decode cX3_commands 0 = .ok (.aload_n 0, 1) := dk_42 (dk_at dksX3_commands_0 0 rfl rfl)
theorem dX3_commands_1 : decode cX3_commands 1 = .ok (.invokevirtual 100, 3) := dk_182 0 100 (dk_at dksX3_commands_0 1 rfl rfl)
theorem dX3_commands_4 : decode cX3_commands 4 = .ok (.aload_n 0, 1) := dk_42 (dk_at dksX3_commands_0 4 rfl rfl)
theorem dX3_commands_5 : decode cX3_commands 5 = .ok (.aload_n 0, 1) := dk_42 (dk_at dksX3_commands_0 5 rfl rfl)
theorem dX3_commands_6 : decode cX3_commands 6 = .ok (.getfield 195, 3) := dk_180 0 195 (dk_at dksX3_commands_0 6 rfl rfl)
theorem dX3_commands_9 : decode cX3_commands 9 = .ok (.putfield 201, 3) := dk_181 0 201 (dk_at dksX3_commands_0 9 rfl rfl)
theorem dX3_commands_12 : decode cX3_commands 12 = .ok (.aload_n 0, 1) := dk_42 (dk_at dksX3_commands_0 12 rfl rfl)
theorem dX3_commands_13 : decode cX3_commands 13 = .ok (.iconst 0, 1) := dk_3 (dk_at dksX3_commands_0 13 rfl rfl)
theorem dX3_commands_14 : decode cX3_commands 14 = .ok (.putfield 195, 3) := dk_181 0 195 (dk_at dksX3_commands_0 14 rfl rfl)
theorem dX3_commands_17 : decode cX3_commands 17 = .ok (.aload_n 0, 1) := dk_42 (dk_at dksX3_commands_0 17 rfl rfl)
theorem dX3_commands_18 : decode cX3_commands 18 = .ok (.iconst 0, 1) := dk_3 (dk_at dksX3_commands_0 18 rfl rfl)
theorem dX3_commands_19 : decode cX3_commands 19 = .ok (.putfield 198, 3) := dk_181 0 198 (dk_at dksX3_commands_0 19 rfl rfl)
theorem dX3_commands_22 : decode cX3_commands 22 = .ok (.aload_n 0, 1) := dk_42 (dk_at dksX3_commands_0 22 rfl rfl)
theorem dX3_commands_23 : decode cX3_commands 23 = .ok (.iconst 0, 1) := dk_3 (dk_at dksX3_commands_0 23 rfl rfl)
theorem dX3_commands_24 : decode cX3_commands 24 = .ok (.putfield 225, 3) := dk_181 0 225 (dk_at dksX3_commands_1 0 rfl rfl)
theorem dX3_commands_27 : decode cX3_commands 27 = .ok (.aload_n 0, 1) := dk_42 (dk_at dksX3_commands_1 3 rfl rfl)
theorem dX3_commands_28 : decode cX3_commands 28 = .ok (.iconst 0, 1) := dk_3 (dk_at dksX3_commands_1 4 rfl rfl)
theorem dX3_commands_29 : decode cX3_commands 29 = .ok (.putfield 204, 3) := dk_181 0 204 (dk_at dksX3_commands_1 5 rfl rfl)
theorem dX3_commands_32 : decode cX3_commands 32 = .ok (.iconst 1, 1) := dk_4 (dk_at dksX3_commands_1 8 rfl rfl)
theorem dX3_commands_33 : decode cX3_commands 33 = .ok (.istore_n 1, 1) := dk_60 (dk_at dksX3_commands_1 9 rfl rfl)
theorem dX3_commands_34 : decode cX3_commands 34 = .ok (.iload_n 1, 1) := dk_27 (dk_at dksX3_commands_1 10 rfl rfl)
theorem dX3_commands_35 : decode cX3_commands 35 = .ok (.ifCond .eq 69, 3) := dk_153 0 69 (dk_at dksX3_commands_1 11 rfl rfl)
theorem dX3_commands_38 : decode cX3_commands 38 = .ok (.aload_n 0, 1) := dk_42 (dk_at dksX3_commands_1 14 rfl rfl)
theorem dX3_commands_39 : decode cX3_commands 39 = .ok (.invokevirtual 235, 3) := dk_182 0 235 (dk_at dksX3_commands_1 15 rfl rfl)
theorem dX3_commands_42 : decode cX3_commands 42 = .ok (.aload_n 0, 1) := dk_42 (dk_at dksX3_commands_1 18 rfl rfl)
theorem dX3_commands_43 : decode cX3_commands 43 = .ok (.getfield 204, 3) := dk_180 0 204 (dk_at dksX3_commands_1 19 rfl rfl)
theorem dX3_commands_46 : decode cX3_commands 46 = .ok (.ifCond .ne 18, 3) := dk_154 0 18 (dk_at dksX3_commands_2 0 rfl rfl)
theorem dX3_commands_49 : decode cX3_commands 49 = .ok (.aload_n 0, 1) := dk_42 (dk_at dksX3_commands_2 3 rfl rfl)
theorem dX3_commands_50 : decode cX3_commands 50 = .ok (.getfield 198, 3) := dk_180 0 198 (dk_at dksX3_commands_2 4 rfl rfl)
theorem dX3_commands_53 : decode cX3_commands 53 = .ok (.aload_n 0, 1) := dk_42 (dk_at dksX3_commands_2 7 rfl rfl)
theorem dX3_commands_54 : decode cX3_commands 54 = .ok (.getfield 201, 3) := dk_180 0 201 (dk_at dksX3_commands_2 8 rfl rfl)
theorem dX3_commands_57 : decode cX3_commands 57 = .ok (.if_icmp .ge 7, 3) := dk_162 0 7 (dk_at dksX3_commands_2 11 rfl rfl)
theorem dX3_commands_60 : decode cX3_commands 60 = .ok (.iconst 1, 1) := dk_4 (dk_at dksX3_commands_2 14 rfl rfl)
theorem dX3_commands_61 : decode cX3_commands 61 = .ok (.goto 4, 3) := dk_167 0 4 (dk_at dksX3_commands_2 15 rfl rfl)
theorem dX3_commands_64 : decode cX3_commands 64 = .ok (.iconst 0, 1) := dk_3 (dk_at dksX3_commands_2 18 rfl rfl)
theorem dX3_commands_65 : decode cX3_commands 65 = .ok (.istore_n 1, 1) := dk_60 (dk_at dksX3_commands_2 19 rfl rfl)
theorem dX3_commands_66 : decode cX3_commands 66 = .ok (.iload_n 1, 1) := dk_27 (dk_at dksX3_commands_2 20 rfl rfl)
theorem dX3_commands_67 : decode cX3_commands 67 = .ok (.ifCond .eq (-33), 3) := dk_153 255 223 (dk_at dksX3_commands_2 21 rfl rfl)
theorem dX3_commands_70 : decode cX3_commands 70 = .ok (.aload_n 0, 1) := dk_42 (dk_at dksX3_commands_3 0 rfl rfl)
theorem dX3_commands_71 : decode cX3_commands 71 = .ok (.aload_n 0, 1) := dk_42 (dk_at dksX3_commands_3 1 rfl rfl)
theorem dX3_commands_72 : decode cX3_commands 72 = .ok (.invokevirtual 208, 3) := dk_182 0 208 (dk_at dksX3_commands_3 2 rfl rfl)
theorem dX3_commands_75 : decode cX3_commands 75 = .ok (.bipush 59, 2) := dk_16 59 (dk_at dksX3_commands_3 5 rfl rfl)
theorem dX3_commands_77 : decode cX3_commands 77 = .ok (.if_icmp .ne 7, 3) := dk_160 0 7 (dk_at dksX3_commands_3 7 rfl rfl)
theorem dX3_commands_80 : decode cX3_commands 80 = .ok (.iconst 1, 1) := dk_4 (dk_at dksX3_commands_3 10 rfl rfl)
theorem dX3_commands_81 : decode cX3_commands 81 = .ok (.goto 4, 3) := dk_167 0 4 (dk_at dksX3_commands_3 11 rfl rfl)
theorem dX3_commands_84 : decode cX3_commands 84 = .ok (.iconst 0, 1) := dk_3 (dk_at dksX3_commands_3 14 rfl rfl)
theorem dX3_commands_85 : decode cX3_commands 85 = .ok (.invokevirtual 215, 3) := dk_182 0 215 (dk_at dksX3_commands_3 15 rfl rfl)
theorem dX3_commands_88 : decode cX3_commands 88 = .ok (.aload_n 0, 1) := dk_42 (dk_at dksX3_commands_3 18 rfl rfl)
theorem dX3_commands_89 : decode cX3_commands 89 = .ok (.getfield 204, 3) := dk_180 0 204 (dk_at dksX3_commands_3 19 rfl rfl)
theorem dX3_commands_92 : decode cX3_commands 92 = .ok (.ifCond .ne 7, 3) := dk_154 0 7 (dk_at dksX3_commands_4 0 rfl rfl)
theorem dX3_commands_95 : decode cX3_commands 95 = .ok (.iconst 1, 1) := dk_4 (dk_at dksX3_commands_4 3 rfl rfl)
theorem dX3_commands_96 : decode cX3_commands 96 = .ok (.goto 4, 3) := dk_167 0 4 (dk_at dksX3_commands_4 4 rfl rfl)
theorem dX3_commands_99 : decode cX3_commands 99 = .ok (.iconst 0, 1) := dk_3 (dk_at dksX3_commands_4 7 rfl rfl)
theorem dX3_commands_100 : decode cX3_commands 100 = .ok (.istore_n 1, 1) := dk_60 (dk_at dksX3_commands_4 8 rfl rfl)
theorem dX3_commands_101 : decode cX3_commands 101 = .ok (.goto (-67), 3) := dk_167 255 189 (dk_at dksX3_commands_4 9 rfl rfl)
theorem dX3_commands_104 : decode cX3_commands 104 = .ok (.aload_n 0, 1) := dk_42 (dk_at dksX3_commands_4 12 rfl rfl)
theorem dX3_commands_105 : decode cX3_commands 105 = .ok (.aload_n 0, 1) := dk_42 (dk_at dksX3_commands_4 13 rfl rfl)
theorem dX3_commands_106 : decode cX3_commands 106 = .ok (.getfield 204, 3) := dk_180 0 204 (dk_at dksX3_commands_4 14 rfl rfl)
theorem dX3_commands_109 : decode cX3_commands 109 = .ok (.ifCond .eq 10, 3) := dk_153 0 10 (dk_at dksX3_commands_4 17 rfl rfl)
theorem dX3_commands_112 : decode cX3_commands 112 = .ok (.aload_n 0, 1) := dk_42 (dk_at dksX3_commands_4 20 rfl rfl)
theorem dX3_commands_113 : decode cX3_commands 113 = .ok (.getfield 198, 3) := dk_180 0 198 (dk_at dksX3_commands_4 21 rfl rfl)
theorem dX3_commands_116 : decode cX3_commands 116 = .ok (.goto 4, 3) := dk_167 0 4 (dk_at dksX3_commands_5 0 rfl rfl)
theorem dX3_commands_119 : decode cX3_commands 119 = .ok (.iconst (-1), 1) := dk_2 (dk_at dksX3_commands_5 3 rfl rfl)
theorem dX3_commands_120 : decode cX3_commands 120 = .ok (.putfield 22, 3) := dk_181 0 22 (dk_at dksX3_commands_5 4 rfl rfl)
theorem dX3_commands_123 : decode cX3_commands 123 = .ok (.aload_n 0, 1) := dk_42 (dk_at dksX3_commands_5 7 rfl rfl)
theorem dX3_commands_124 : decode cX3_commands 124 = .ok (.getfield 204, 3) := dk_180 0 204 (dk_at dksX3_commands_5 8 rfl rfl)
theorem dX3_commands_127 : decode cX3_commands 127 = .ok (.ifCond .eq 9, 3) := dk_153 0 9 (dk_at dksX3_commands_5 11 rfl rfl)
theorem dX3_commands_130 : decode cX3_commands 130 = .ok (.aload_n 0, 1) := dk_42 (dk_at dksX3_commands_5 14 rfl rfl)
theorem dX3_commands_131 : decode cX3_commands 131 = .ok (.iconst 1, 1) := dk_4 (dk_at dksX3_commands_5 15 rfl rfl)
theorem dX3_commands_132 : decode cX3_commands 132 = .ok (.invokevirtual 50, 3) := dk_182 0 50 (dk_at dksX3_commands_5 16 rfl rfl)
theorem dX3_commands_135 : decode cX3_commands 135 = .ok (.ireturn, 1) := dk_172 (dk_at dksX3_commands_5 19 rfl rfl)
theorem dX3_commands_136 : decode cX3_commands 136 = .ok (.iconst 0, 1) := dk_3 (dk_at dksX3_commands_5 20 rfl rfl)
theorem dX3_commands_137 : decode cX3_commands 137 = .ok (.istore_n 2, 1) := dk_61 (dk_at dksX3_commands_5 21 rfl rfl)
theorem dX3_commands_138 : decode cX3_commands 138 = .ok (.iload_n 2, 1) := dk_28 (dk_at dksX3_commands_5 22 rfl rfl)
theorem dX3_commands_139 : decode cX3_commands 139 = .ok (.aload_n 0, 1) := dk_42 (dk_at dksX3_commands_5 23 rfl rfl)
theorem dX3_commands_140 : decode cX3_commands 140 = .ok (.getfield 225, 3) := dk_180 0 225 (dk_at dksX3_commands_6 0 rfl rfl)
theorem dX3_commands_143 : decode cX3_commands 143 = .ok (.if_icmp .ge 60, 3) := dk_162 0 60 (dk_at dksX3_commands_6 3 rfl rfl)
theorem dX3_commands_146 : decode cX3_commands 146 = .ok (.aload_n 0, 1) := dk_42 (dk_at dksX3_commands_6 6 rfl rfl)
theorem dX3_commands_147 : decode cX3_commands 147 = .ok (.iconst 4, 1) := dk_7 (dk_at dksX3_commands_6 7 rfl rfl)
theorem dX3_commands_148 : decode cX3_commands 148 = .ok (.iload_n 2, 1) := dk_28 (dk_at dksX3_commands_6 8 rfl rfl)
theorem dX3_commands_149 : decode cX3_commands 149 = .ok (.imul, 1) := dk_104 (dk_at dksX3_commands_6 9 rfl rfl)
theorem dX3_commands_150 : decode cX3_commands 150 = .ok (.invokevirtual 238, 3) := dk_182 0 238 (dk_at dksX3_commands_6 10 rfl rfl)
theorem dX3_commands_153 : decode cX3_commands 153 = .ok (.aload_n 0, 1) := dk_42 (dk_at dksX3_commands_6 13 rfl rfl)
theorem dX3_commands_154 : decode cX3_commands 154 = .ok (.getfield 38, 3) := dk_180 0 38 (dk_at dksX3_commands_6 14 rfl rfl)
theorem dX3_commands_157 : decode cX3_commands 157 = .ok (.ifCond .le 40, 3) := dk_158 0 40 (dk_at dksX3_commands_6 17 rfl rfl)
theorem dX3_commands_160 : decode cX3_commands 160 = .ok (.iconst 0, 1) := dk_3 (dk_at dksX3_commands_6 20 rfl rfl)
theorem dX3_commands_161 : decode cX3_commands 161 = .ok (.istore_n 3, 1) := dk_62 (dk_at dksX3_commands_6 21 rfl rfl)
theorem dX3_commands_162 : decode cX3_commands 162 = .ok (.iload_n 3, 1) := dk_29 (dk_at dksX3_commands_6 22 rfl rfl)
theorem dX3_commands_163 : decode cX3_commands 163 = .ok (.bipush 86, 2) := dk_16 86 (dk_at dksX3_commands_7 0 rfl rfl)
theorem dX3_commands_165 : decode cX3_commands 165 = .ok (.if_icmp .ge 21, 3) := dk_162 0 21 (dk_at dksX3_commands_7 2 rfl rfl)
theorem dX3_commands_168 : decode cX3_commands 168 = .ok (.aload_n 0, 1) := dk_42 (dk_at dksX3_commands_7 5 rfl rfl)
theorem dX3_commands_169 : decode cX3_commands 169 = .ok (.getfield 9, 3) := dk_180 0 9 (dk_at dksX3_commands_7 6 rfl rfl)
theorem dX3_commands_172 : decode cX3_commands 172 = .ok (.iload_n 3, 1) := dk_29 (dk_at dksX3_commands_7 9 rfl rfl)
theorem dX3_commands_173 : decode cX3_commands 173 = .ok (.aload_n 0, 1) := dk_42 (dk_at dksX3_commands_7 10 rfl rfl)
theorem dX3_commands_174 : decode cX3_commands 174 = .ok (.getfield 13, 3) := dk_180 0 13 (dk_at dksX3_commands_7 11 rfl rfl)
theorem dX3_commands_177 : decode cX3_commands 177 = .ok (.iload_n 3, 1) := dk_29 (dk_at dksX3_commands_7 14 rfl rfl)
theorem dX3_commands_178 : decode cX3_commands 178 = .ok (.iaload, 1) := dk_46 (dk_at dksX3_commands_7 15 rfl rfl)
theorem dX3_commands_179 : decode cX3_commands 179 = .ok (.iastore, 1) := dk_79 (dk_at dksX3_commands_7 16 rfl rfl)
theorem dX3_commands_180 : decode cX3_commands 180 = .ok (.iinc 3 1, 3) := dk_132 3 1 (dk_at dksX3_commands_7 17 rfl rfl)
theorem dX3_commands_183 : decode cX3_commands 183 = .ok (.goto (-21), 3) := dk_167 255 235 (dk_at dksX3_commands_7 20 rfl rfl)
theorem dX3_commands_186 : decode cX3_commands 186 = .ok (.aload_n 0, 1) := dk_42 (dk_at dksX3_commands_7 23 rfl rfl)
theorem dX3_commands_187 : decode cX3_commands 187 = .ok (.iload_n 2, 1) := dk_28 (dk_at dksX3_commands_8 0 rfl rfl)
theorem dX3_commands_188 : decode cX3_commands 188 = .ok (.putfield 47, 3) := dk_181 0 47 (dk_at dksX3_commands_8 1 rfl rfl)
theorem dX3_commands_191 : decode cX3_commands 191 = .ok (.aload_n 0, 1) := dk_42 (dk_at dksX3_commands_8 4 rfl rfl)
theorem dX3_commands_192 : decode cX3_commands 192 = .ok (.iconst 2, 1) := dk_5 (dk_at dksX3_commands_8 5 rfl rfl)
theorem dX3_commands_193 : decode cX3_commands 193 = .ok (.invokevirtual 50, 3) := dk_182 0 50 (dk_at dksX3_commands_8 6 rfl rfl)
theorem dX3_commands_196 : decode cX3_commands 196 = .ok (.ireturn, 1) := dk_172 (dk_at dksX3_commands_8 9 rfl rfl)
theorem dX3_commands_197 : decode cX3_commands 197 = .ok (.iinc 2 1, 3) := dk_132 2 1 (dk_at dksX3_commands_8 10 rfl rfl)
theorem dX3_commands_200 : decode cX3_commands 200 = .ok (.goto (-62), 3) := dk_167 255 194 (dk_at dksX3_commands_8 13 rfl rfl)
theorem dX3_commands_203 : decode cX3_commands 203 = .ok (.aload_n 0, 1) := dk_42 (dk_at dksX3_commands_8 16 rfl rfl)
theorem dX3_commands_204 : decode cX3_commands 204 = .ok (.aload_n 0, 1) := dk_42 (dk_at dksX3_commands_8 17 rfl rfl)
theorem dX3_commands_205 : decode cX3_commands 205 = .ok (.getfield 225, 3) := dk_180 0 225 (dk_at dksX3_commands_8 18 rfl rfl)
theorem dX3_commands_208 : decode cX3_commands 208 = .ok (.invokevirtual 107, 3) := dk_182 0 107 (dk_at dksX3_commands_8 21 rfl rfl)
theorem dX3_commands_211 : decode cX3_commands 211 = .ok (.ireturn, 1) := dk_172 (dk_at dksX3_commands_9 0 rfl rfl)
abbrev cX3_readOrder : ByteArray := prog_10_method_72_code
def yX3_readOrder : MethodName := ⟨RX3, "readOrder", "()V"⟩
def dkwX3_readOrder_19 : List UInt8 := [79, 167, 0, 3, 177]
abbrev dktX3_readOrder_19 : List UInt8 := dkwX3_readOrder_19 ++ []
def dkwX3_readOrder_18 : List UInt8 := [16, 43, 160, 0, 7, 4, 167, 0, 4, 3, 182, 0, 215, 42, 180, 0, 32, 27, 5, 96, 42, 182, 0, 219]
abbrev dktX3_readOrder_18 : List UInt8 := dkwX3_readOrder_18 ++ dktX3_readOrder_19
def dkwX3_readOrder_17 : List UInt8 := [3, 182, 0, 215, 167, 0, 48, 42, 180, 0, 32, 27, 4, 96, 42, 182, 0, 219, 79, 42, 42, 182, 0, 208]
abbrev dktX3_readOrder_17 : List UInt8 := dkwX3_readOrder_17 ++ dktX3_readOrder_18
def dkwX3_readOrder_16 : List UInt8 := [182, 0, 208, 184, 0, 232, 79, 42, 42, 180, 0, 32, 27, 5, 96, 46, 2, 159, 0, 7, 4, 167, 0, 4]
abbrev dktX3_readOrder_16 : List UInt8 := dkwX3_readOrder_16 ++ dktX3_readOrder_17
def dkwX3_readOrder_15 : List UInt8 := [79, 167, 0, 99, 42, 180, 0, 32, 27, 4, 96, 42, 182, 0, 219, 79, 42, 180, 0, 32, 27, 5, 96, 42]
abbrev dktX3_readOrder_15 : List UInt8 := dkwX3_readOrder_15 ++ dktX3_readOrder_16
def dkwX3_readOrder_14 : List UInt8 := [16, 42, 160, 0, 7, 4, 167, 0, 4, 3, 182, 0, 215, 42, 180, 0, 32, 27, 6, 96, 42, 182, 0, 219]
abbrev dktX3_readOrder_14 : List UInt8 := dkwX3_readOrder_14 ++ dktX3_readOrder_15
def dkwX3_readOrder_13 : List UInt8 := [167, 0, 4, 3, 182, 0, 215, 42, 180, 0, 32, 27, 5, 96, 42, 182, 0, 219, 79, 42, 42, 182, 0, 208]
abbrev dktX3_readOrder_13 : List UInt8 := dkwX3_readOrder_13 ++ dktX3_readOrder_14
def dkwX3_readOrder_12 : List UInt8 := [180, 0, 32, 27, 4, 96, 42, 182, 0, 219, 79, 42, 42, 182, 0, 208, 16, 62, 160, 0, 7, 4]
abbrev dktX3_readOrder_12 : List UInt8 := dkwX3_readOrder_12 ++ dktX3_readOrder_13
def dkwX3_readOrder_11 : List UInt8 := [42, 182, 0, 222, 79, 167, 0, 189, 42, 180, 0, 32, 27, 4, 96, 42, 182, 0, 222, 79, 167, 0, 174, 42]
abbrev dktX3_readOrder_11 : List UInt8 := dkwX3_readOrder_11 ++ dktX3_readOrder_12
def dkwX3_readOrder_10 : List UInt8 := [4, 96, 181, 0, 198, 42, 180, 0, 32, 27, 4, 96, 2, 79, 167, 0, 204, 42, 180, 0, 32, 27, 4, 96]
abbrev dktX3_readOrder_10 : List UInt8 := dkwX3_readOrder_10 ++ dktX3_readOrder_11
def dkwX3_readOrder_9 : List UInt8 := [42, 27, 5, 96, 182, 0, 228, 167, 0, 235, 42, 182, 0, 208, 16, 120, 160, 0, 25, 42, 89, 180, 0, 198]
abbrev dktX3_readOrder_9 : List UInt8 := dkwX3_readOrder_9 ++ dktX3_readOrder_10
def dkwX3_readOrder_8 : List UInt8 := [96, 42, 182, 0, 219, 79, 42, 42, 182, 0, 208, 16, 58, 160, 0, 7, 4, 167, 0, 4, 3, 182, 0, 215]
abbrev dktX3_readOrder_8 : List UInt8 := dkwX3_readOrder_8 ++ dktX3_readOrder_9
def dkwX3_readOrder_7 : List UInt8 := [182, 0, 215, 42, 180, 0, 32, 27, 6, 96, 42, 182, 0, 219, 79, 167, 1, 19, 42, 180, 0, 32, 27, 4]
abbrev dktX3_readOrder_7 : List UInt8 := dkwX3_readOrder_7 ++ dktX3_readOrder_8
def dkwX3_readOrder_6 : List UInt8 := [42, 27, 4, 96, 182, 0, 228, 42, 42, 182, 0, 208, 16, 61, 160, 0, 7, 4, 167, 0, 4, 3]
abbrev dktX3_readOrder_6 : List UInt8 := dkwX3_readOrder_6 ++ dktX3_readOrder_7
def dkwX3_readOrder_5 : List UInt8 := [170, 0, 0, 0, 0, 1, 159, 0, 0, 0, 98, 0, 0, 0, 119, 0, 0, 0, 244, 0, 0, 1, 159, 0, 0, 1, 159, 0, 0, 1, 159, 0, 0, 1, 159, 0, 0, 0, 229, 0, 0, 0, 103, 0, 0, 1, 159, 0, 0, 1, 159, 0, 0, 1, 159, 0, 0, 1, 159, 0, 0, 0, 183, 0, 0, 1, 159, 0, 0, 1, 159, 0, 0, 1, 159, 0, 0, 1, 159, 0, 0, 1, 114, 0, 0, 1, 159, 0, 0, 0, 143, 0, 0, 1, 159, 0, 0, 0, 229, 0, 0, 1, 63]
abbrev dktX3_readOrder_5 : List UInt8 := dkwX3_readOrder_5 ++ dktX3_readOrder_6
def dkwX3_readOrder_4 : List UInt8 := [28]
abbrev dktX3_readOrder_4 : List UInt8 := dkwX3_readOrder_4 ++ dktX3_readOrder_5
def dkwX3_readOrder_3 : List UInt8 := [167, 0, 4, 3, 182, 0, 215, 42, 180, 0, 32, 27, 28, 79, 42, 89, 180, 0, 225, 4, 96, 181, 0, 225]
abbrev dktX3_readOrder_3 : List UInt8 := dkwX3_readOrder_3 ++ dktX3_readOrder_4
def dkwX3_readOrder_2 : List UInt8 := [159, 0, 21, 28, 16, 98, 159, 0, 15, 28, 16, 119, 159, 0, 9, 28, 16, 114, 160, 0, 7, 4]
abbrev dktX3_readOrder_2 : List UInt8 := dkwX3_readOrder_2 ++ dktX3_readOrder_3
def dkwX3_readOrder_1 : List UInt8 := [159, 0, 45, 28, 16, 116, 159, 0, 39, 28, 16, 109, 159, 0, 33, 28, 16, 103, 159, 0, 27, 28, 16, 118]
abbrev dktX3_readOrder_1 : List UInt8 := dkwX3_readOrder_1 ++ dktX3_readOrder_2
def dkwX3_readOrder_0 : List UInt8 := [7, 42, 180, 0, 225, 104, 60, 42, 182, 0, 208, 61, 42, 28, 16, 104, 159, 0, 51, 28, 16, 115]
abbrev dktX3_readOrder_0 : List UInt8 := dkwX3_readOrder_0 ++ dktX3_readOrder_1
theorem dksX3_readOrder_0 : cX3_readOrder.data.toList.drop 0 = dktX3_readOrder_0 := by decide +kernel
theorem dksX3_readOrder_1 : cX3_readOrder.data.toList.drop 22 = dktX3_readOrder_1 := dk_seg dksX3_readOrder_0 22 rfl rfl
theorem dksX3_readOrder_2 : cX3_readOrder.data.toList.drop 46 = dktX3_readOrder_2 := dk_seg dksX3_readOrder_1 24 rfl rfl
theorem dksX3_readOrder_3 : cX3_readOrder.data.toList.drop 68 = dktX3_readOrder_3 := dk_seg dksX3_readOrder_2 22 rfl rfl
theorem dksX3_readOrder_4 : cX3_readOrder.data.toList.drop 92 = dktX3_readOrder_4 := dk_seg dksX3_readOrder_3 24 rfl rfl
theorem dksX3_readOrder_5 : cX3_readOrder.data.toList.drop 93 = dktX3_readOrder_5 := dk_seg dksX3_readOrder_4 1 rfl rfl
theorem dksX3_readOrder_6 : cX3_readOrder.data.toList.drop 196 = dktX3_readOrder_6 := dk_seg dksX3_readOrder_5 103 rfl rfl
theorem dksX3_readOrder_7 : cX3_readOrder.data.toList.drop 218 = dktX3_readOrder_7 := dk_seg dksX3_readOrder_6 22 rfl rfl
theorem dksX3_readOrder_8 : cX3_readOrder.data.toList.drop 242 = dktX3_readOrder_8 := dk_seg dksX3_readOrder_7 24 rfl rfl
theorem dksX3_readOrder_9 : cX3_readOrder.data.toList.drop 266 = dktX3_readOrder_9 := dk_seg dksX3_readOrder_8 24 rfl rfl
theorem dksX3_readOrder_10 : cX3_readOrder.data.toList.drop 290 = dktX3_readOrder_10 := dk_seg dksX3_readOrder_9 24 rfl rfl
theorem dksX3_readOrder_11 : cX3_readOrder.data.toList.drop 314 = dktX3_readOrder_11 := dk_seg dksX3_readOrder_10 24 rfl rfl
theorem dksX3_readOrder_12 : cX3_readOrder.data.toList.drop 338 = dktX3_readOrder_12 := dk_seg dksX3_readOrder_11 24 rfl rfl
theorem dksX3_readOrder_13 : cX3_readOrder.data.toList.drop 360 = dktX3_readOrder_13 := dk_seg dksX3_readOrder_12 22 rfl rfl
theorem dksX3_readOrder_14 : cX3_readOrder.data.toList.drop 384 = dktX3_readOrder_14 := dk_seg dksX3_readOrder_13 24 rfl rfl
theorem dksX3_readOrder_15 : cX3_readOrder.data.toList.drop 408 = dktX3_readOrder_15 := dk_seg dksX3_readOrder_14 24 rfl rfl
theorem dksX3_readOrder_16 : cX3_readOrder.data.toList.drop 432 = dktX3_readOrder_16 := dk_seg dksX3_readOrder_15 24 rfl rfl
theorem dksX3_readOrder_17 : cX3_readOrder.data.toList.drop 456 = dktX3_readOrder_17 := dk_seg dksX3_readOrder_16 24 rfl rfl
theorem dksX3_readOrder_18 : cX3_readOrder.data.toList.drop 480 = dktX3_readOrder_18 := dk_seg dksX3_readOrder_17 24 rfl rfl
theorem dksX3_readOrder_19 : cX3_readOrder.data.toList.drop 504 = dktX3_readOrder_19 := dk_seg dksX3_readOrder_18 24 rfl rfl
theorem dX3_readOrder_0 : decode cX3_readOrder 0 = .ok (.iconst 4, 1) := dk_7 (dk_at dksX3_readOrder_0 0 rfl rfl)
theorem dX3_readOrder_1 : decode cX3_readOrder 1 = .ok (.aload_n 0, 1) := dk_42 (dk_at dksX3_readOrder_0 1 rfl rfl)
theorem dX3_readOrder_2 : decode cX3_readOrder 2 = .ok (.getfield 225, 3) := dk_180 0 225 (dk_at dksX3_readOrder_0 2 rfl rfl)
theorem dX3_readOrder_5 : decode cX3_readOrder 5 = .ok (.imul, 1) := dk_104 (dk_at dksX3_readOrder_0 5 rfl rfl)
theorem dX3_readOrder_6 : decode cX3_readOrder 6 = .ok (.istore_n 1, 1) := dk_60 (dk_at dksX3_readOrder_0 6 rfl rfl)
theorem dX3_readOrder_7 : decode cX3_readOrder 7 = .ok (.aload_n 0, 1) := dk_42 (dk_at dksX3_readOrder_0 7 rfl rfl)
theorem dX3_readOrder_8 : decode cX3_readOrder 8 = .ok (.invokevirtual 208, 3) := dk_182 0 208 (dk_at dksX3_readOrder_0 8 rfl rfl)
theorem dX3_readOrder_11 : decode cX3_readOrder 11 = .ok (.istore_n 2, 1) := dk_61 (dk_at dksX3_readOrder_0 11 rfl rfl)
theorem dX3_readOrder_12 : decode cX3_readOrder 12 = .ok (.aload_n 0, 1) := dk_42 (dk_at dksX3_readOrder_0 12 rfl rfl)
theorem dX3_readOrder_13 : decode cX3_readOrder 13 = .ok (.iload_n 2, 1) := dk_28 (dk_at dksX3_readOrder_0 13 rfl rfl)
theorem dX3_readOrder_14 : decode cX3_readOrder 14 = .ok (.bipush 104, 2) := dk_16 104 (dk_at dksX3_readOrder_0 14 rfl rfl)
theorem dX3_readOrder_16 : decode cX3_readOrder 16 = .ok (.if_icmp .eq 51, 3) := dk_159 0 51 (dk_at dksX3_readOrder_0 16 rfl rfl)
theorem dX3_readOrder_19 : decode cX3_readOrder 19 = .ok (.iload_n 2, 1) := dk_28 (dk_at dksX3_readOrder_0 19 rfl rfl)
theorem dX3_readOrder_20 : decode cX3_readOrder 20 = .ok (.bipush 115, 2) := dk_16 115 (dk_at dksX3_readOrder_0 20 rfl rfl)
theorem dX3_readOrder_22 : decode cX3_readOrder 22 = .ok (.if_icmp .eq 45, 3) := dk_159 0 45 (dk_at dksX3_readOrder_1 0 rfl rfl)
theorem dX3_readOrder_25 : decode cX3_readOrder 25 = .ok (.iload_n 2, 1) := dk_28 (dk_at dksX3_readOrder_1 3 rfl rfl)
theorem dX3_readOrder_26 : decode cX3_readOrder 26 = .ok (.bipush 116, 2) := dk_16 116 (dk_at dksX3_readOrder_1 4 rfl rfl)
theorem dX3_readOrder_28 : decode cX3_readOrder 28 = .ok (.if_icmp .eq 39, 3) := dk_159 0 39 (dk_at dksX3_readOrder_1 6 rfl rfl)
theorem dX3_readOrder_31 : decode cX3_readOrder 31 = .ok (.iload_n 2, 1) := dk_28 (dk_at dksX3_readOrder_1 9 rfl rfl)
theorem dX3_readOrder_32 : decode cX3_readOrder 32 = .ok (.bipush 109, 2) := dk_16 109 (dk_at dksX3_readOrder_1 10 rfl rfl)
theorem dX3_readOrder_34 : decode cX3_readOrder 34 = .ok (.if_icmp .eq 33, 3) := dk_159 0 33 (dk_at dksX3_readOrder_1 12 rfl rfl)
theorem dX3_readOrder_37 : decode cX3_readOrder 37 = .ok (.iload_n 2, 1) := dk_28 (dk_at dksX3_readOrder_1 15 rfl rfl)
theorem dX3_readOrder_38 : decode cX3_readOrder 38 = .ok (.bipush 103, 2) := dk_16 103 (dk_at dksX3_readOrder_1 16 rfl rfl)
theorem dX3_readOrder_40 : decode cX3_readOrder 40 = .ok (.if_icmp .eq 27, 3) := dk_159 0 27 (dk_at dksX3_readOrder_1 18 rfl rfl)
theorem dX3_readOrder_43 : decode cX3_readOrder 43 = .ok (.iload_n 2, 1) := dk_28 (dk_at dksX3_readOrder_1 21 rfl rfl)
theorem dX3_readOrder_44 : decode cX3_readOrder 44 = .ok (.bipush 118, 2) := dk_16 118 (dk_at dksX3_readOrder_1 22 rfl rfl)
theorem dX3_readOrder_46 : decode cX3_readOrder 46 = .ok (.if_icmp .eq 21, 3) := dk_159 0 21 (dk_at dksX3_readOrder_2 0 rfl rfl)
theorem dX3_readOrder_49 : decode cX3_readOrder 49 = .ok (.iload_n 2, 1) := dk_28 (dk_at dksX3_readOrder_2 3 rfl rfl)
theorem dX3_readOrder_50 : decode cX3_readOrder 50 = .ok (.bipush 98, 2) := dk_16 98 (dk_at dksX3_readOrder_2 4 rfl rfl)
theorem dX3_readOrder_52 : decode cX3_readOrder 52 = .ok (.if_icmp .eq 15, 3) := dk_159 0 15 (dk_at dksX3_readOrder_2 6 rfl rfl)
theorem dX3_readOrder_55 : decode cX3_readOrder 55 = .ok (.iload_n 2, 1) := dk_28 (dk_at dksX3_readOrder_2 9 rfl rfl)
theorem dX3_readOrder_56 : decode cX3_readOrder 56 = .ok (.bipush 119, 2) := dk_16 119 (dk_at dksX3_readOrder_2 10 rfl rfl)
theorem dX3_readOrder_58 : decode cX3_readOrder 58 = .ok (.if_icmp .eq 9, 3) := dk_159 0 9 (dk_at dksX3_readOrder_2 12 rfl rfl)
theorem dX3_readOrder_61 : decode cX3_readOrder 61 = .ok (.iload_n 2, 1) := dk_28 (dk_at dksX3_readOrder_2 15 rfl rfl)
theorem dX3_readOrder_62 : decode cX3_readOrder 62 = .ok (.bipush 114, 2) := dk_16 114 (dk_at dksX3_readOrder_2 16 rfl rfl)
theorem dX3_readOrder_64 : decode cX3_readOrder 64 = .ok (.if_icmp .ne 7, 3) := dk_160 0 7 (dk_at dksX3_readOrder_2 18 rfl rfl)
theorem dX3_readOrder_67 : decode cX3_readOrder 67 = .ok (.iconst 1, 1) := dk_4 (dk_at dksX3_readOrder_2 21 rfl rfl)
theorem dX3_readOrder_68 : decode cX3_readOrder 68 = .ok (.goto 4, 3) := dk_167 0 4 (dk_at dksX3_readOrder_3 0 rfl rfl)
theorem dX3_readOrder_71 : decode cX3_readOrder 71 = .ok (.iconst 0, 1) := dk_3 (dk_at dksX3_readOrder_3 3 rfl rfl)
theorem dX3_readOrder_72 : decode cX3_readOrder 72 = .ok (.invokevirtual 215, 3) := dk_182 0 215 (dk_at dksX3_readOrder_3 4 rfl rfl)
theorem dX3_readOrder_75 : decode cX3_readOrder 75 = .ok (.aload_n 0, 1) := dk_42 (dk_at dksX3_readOrder_3 7 rfl rfl)
theorem dX3_readOrder_76 : decode cX3_readOrder 76 = .ok (.getfield 32, 3) := dk_180 0 32 (dk_at dksX3_readOrder_3 8 rfl rfl)
theorem dX3_readOrder_79 : decode cX3_readOrder 79 = .ok (.iload_n 1, 1) := dk_27 (dk_at dksX3_readOrder_3 11 rfl rfl)
theorem dX3_readOrder_80 : decode cX3_readOrder 80 = .ok (.iload_n 2, 1) := dk_28 (dk_at dksX3_readOrder_3 12 rfl rfl)
theorem dX3_readOrder_81 : decode cX3_readOrder 81 = .ok (.iastore, 1) := dk_79 (dk_at dksX3_readOrder_3 13 rfl rfl)
theorem dX3_readOrder_82 : decode cX3_readOrder 82 = .ok (.aload_n 0, 1) := dk_42 (dk_at dksX3_readOrder_3 14 rfl rfl)
theorem dX3_readOrder_83 : decode cX3_readOrder 83 = .ok (.dup, 1) := dk_89 (dk_at dksX3_readOrder_3 15 rfl rfl)
theorem dX3_readOrder_84 : decode cX3_readOrder 84 = .ok (.getfield 225, 3) := dk_180 0 225 (dk_at dksX3_readOrder_3 16 rfl rfl)
theorem dX3_readOrder_87 : decode cX3_readOrder 87 = .ok (.iconst 1, 1) := dk_4 (dk_at dksX3_readOrder_3 19 rfl rfl)
theorem dX3_readOrder_88 : decode cX3_readOrder 88 = .ok (.iadd, 1) := dk_96 (dk_at dksX3_readOrder_3 20 rfl rfl)
theorem dX3_readOrder_89 : decode cX3_readOrder 89 = .ok (.putfield 225, 3) := dk_181 0 225 (dk_at dksX3_readOrder_3 21 rfl rfl)
theorem dX3_readOrder_92 : decode cX3_readOrder 92 = .ok (.iload_n 2, 1) := dk_28 (dk_at dksX3_readOrder_4 0 rfl rfl)
theorem dX3_readOrder_93 : decode cX3_readOrder 93 = .ok (.tableswitch 415 98 119 #[244, 415, 415, 415, 415, 229, 103, 415, 415, 415, 415, 183, 415, 415, 415, 415, 370, 415, 143, 415, 229, 319], 103) := by decide +kernel
theorem dX3_readOrder_196 : decode cX3_readOrder 196 = .ok (.aload_n 0, 1) := dk_42 (dk_at dksX3_readOrder_6 0 rfl rfl)
theorem dX3_readOrder_197 : decode cX3_readOrder 197 = .ok (.iload_n 1, 1) := dk_27 (dk_at dksX3_readOrder_6 1 rfl rfl)
theorem dX3_readOrder_198 : decode cX3_readOrder 198 = .ok (.iconst 1, 1) := dk_4 (dk_at dksX3_readOrder_6 2 rfl rfl)
theorem dX3_readOrder_199 : decode cX3_readOrder 199 = .ok (.iadd, 1) := dk_96 (dk_at dksX3_readOrder_6 3 rfl rfl)
theorem dX3_readOrder_200 : decode cX3_readOrder 200 = .ok (.invokevirtual 228, 3) := dk_182 0 228 (dk_at dksX3_readOrder_6 4 rfl rfl)
theorem dX3_readOrder_203 : decode cX3_readOrder 203 = .ok (.aload_n 0, 1) := dk_42 (dk_at dksX3_readOrder_6 7 rfl rfl)
theorem dX3_readOrder_204 : decode cX3_readOrder 204 = .ok (.aload_n 0, 1) := dk_42 (dk_at dksX3_readOrder_6 8 rfl rfl)
theorem dX3_readOrder_205 : decode cX3_readOrder 205 = .ok (.invokevirtual 208, 3) := dk_182 0 208 (dk_at dksX3_readOrder_6 9 rfl rfl)
theorem dX3_readOrder_208 : decode cX3_readOrder 208 = .ok (.bipush 61, 2) := dk_16 61 (dk_at dksX3_readOrder_6 12 rfl rfl)
theorem dX3_readOrder_210 : decode cX3_readOrder 210 = .ok (.if_icmp .ne 7, 3) := dk_160 0 7 (dk_at dksX3_readOrder_6 14 rfl rfl)
theorem dX3_readOrder_213 : decode cX3_readOrder 213 = .ok (.iconst 1, 1) := dk_4 (dk_at dksX3_readOrder_6 17 rfl rfl)
theorem dX3_readOrder_214 : decode cX3_readOrder 214 = .ok (.goto 4, 3) := dk_167 0 4 (dk_at dksX3_readOrder_6 18 rfl rfl)
theorem dX3_readOrder_217 : decode cX3_readOrder 217 = .ok (.iconst 0, 1) := dk_3 (dk_at dksX3_readOrder_6 21 rfl rfl)
theorem dX3_readOrder_218 : decode cX3_readOrder 218 = .ok (.invokevirtual 215, 3) := dk_182 0 215 (dk_at dksX3_readOrder_7 0 rfl rfl)
theorem dX3_readOrder_221 : decode cX3_readOrder 221 = .ok (.aload_n 0, 1) := dk_42 (dk_at dksX3_readOrder_7 3 rfl rfl)
theorem dX3_readOrder_222 : decode cX3_readOrder 222 = .ok (.getfield 32, 3) := dk_180 0 32 (dk_at dksX3_readOrder_7 4 rfl rfl)
theorem dX3_readOrder_225 : decode cX3_readOrder 225 = .ok (.iload_n 1, 1) := dk_27 (dk_at dksX3_readOrder_7 7 rfl rfl)
theorem dX3_readOrder_226 : decode cX3_readOrder 226 = .ok (.iconst 3, 1) := dk_6 (dk_at dksX3_readOrder_7 8 rfl rfl)
theorem dX3_readOrder_227 : decode cX3_readOrder 227 = .ok (.iadd, 1) := dk_96 (dk_at dksX3_readOrder_7 9 rfl rfl)
theorem dX3_readOrder_228 : decode cX3_readOrder 228 = .ok (.aload_n 0, 1) := dk_42 (dk_at dksX3_readOrder_7 10 rfl rfl)
theorem dX3_readOrder_229 : decode cX3_readOrder 229 = .ok (.invokevirtual 219, 3) := dk_182 0 219 (dk_at dksX3_readOrder_7 11 rfl rfl)
theorem dX3_readOrder_232 : decode cX3_readOrder 232 = .ok (.iastore, 1) := dk_79 (dk_at dksX3_readOrder_7 14 rfl rfl)
theorem dX3_readOrder_233 : decode cX3_readOrder 233 = .ok (.goto 275, 3) := dk_167 1 19 (dk_at dksX3_readOrder_7 15 rfl rfl)
theorem dX3_readOrder_236 : decode cX3_readOrder 236 = .ok (.aload_n 0, 1) := dk_42 (dk_at dksX3_readOrder_7 18 rfl rfl)
theorem dX3_readOrder_237 : decode cX3_readOrder 237 = .ok (.getfield 32, 3) := dk_180 0 32 (dk_at dksX3_readOrder_7 19 rfl rfl)
theorem dX3_readOrder_240 : decode cX3_readOrder 240 = .ok (.iload_n 1, 1) := dk_27 (dk_at dksX3_readOrder_7 22 rfl rfl)
theorem dX3_readOrder_241 : decode cX3_readOrder 241 = .ok (.iconst 1, 1) := dk_4 (dk_at dksX3_readOrder_7 23 rfl rfl)
theorem dX3_readOrder_242 : decode cX3_readOrder 242 = .ok (.iadd, 1) := dk_96 (dk_at dksX3_readOrder_8 0 rfl rfl)
theorem dX3_readOrder_243 : decode cX3_readOrder 243 = .ok (.aload_n 0, 1) := dk_42 (dk_at dksX3_readOrder_8 1 rfl rfl)
theorem dX3_readOrder_244 : decode cX3_readOrder 244 = .ok (.invokevirtual 219, 3) := dk_182 0 219 (dk_at dksX3_readOrder_8 2 rfl rfl)
theorem dX3_readOrder_247 : decode cX3_readOrder 247 = .ok (.iastore, 1) := dk_79 (dk_at dksX3_readOrder_8 5 rfl rfl)
theorem dX3_readOrder_248 : decode cX3_readOrder 248 = .ok (.aload_n 0, 1) := dk_42 (dk_at dksX3_readOrder_8 6 rfl rfl)
theorem dX3_readOrder_249 : decode cX3_readOrder 249 = .ok (.aload_n 0, 1) := dk_42 (dk_at dksX3_readOrder_8 7 rfl rfl)
theorem dX3_readOrder_250 : decode cX3_readOrder 250 = .ok (.invokevirtual 208, 3) := dk_182 0 208 (dk_at dksX3_readOrder_8 8 rfl rfl)
theorem dX3_readOrder_253 : decode cX3_readOrder 253 = .ok (.bipush 58, 2) := dk_16 58 (dk_at dksX3_readOrder_8 11 rfl rfl)
theorem dX3_readOrder_255 : decode cX3_readOrder 255 = .ok (.if_icmp .ne 7, 3) := dk_160 0 7 (dk_at dksX3_readOrder_8 13 rfl rfl)
theorem dX3_readOrder_258 : decode cX3_readOrder 258 = .ok (.iconst 1, 1) := dk_4 (dk_at dksX3_readOrder_8 16 rfl rfl)
theorem dX3_readOrder_259 : decode cX3_readOrder 259 = .ok (.goto 4, 3) := dk_167 0 4 (dk_at dksX3_readOrder_8 17 rfl rfl)
theorem dX3_readOrder_262 : decode cX3_readOrder 262 = .ok (.iconst 0, 1) := dk_3 (dk_at dksX3_readOrder_8 20 rfl rfl)
theorem dX3_readOrder_263 : decode cX3_readOrder 263 = .ok (.invokevirtual 215, 3) := dk_182 0 215 (dk_at dksX3_readOrder_8 21 rfl rfl)
theorem dX3_readOrder_266 : decode cX3_readOrder 266 = .ok (.aload_n 0, 1) := dk_42 (dk_at dksX3_readOrder_9 0 rfl rfl)
theorem dX3_readOrder_267 : decode cX3_readOrder 267 = .ok (.iload_n 1, 1) := dk_27 (dk_at dksX3_readOrder_9 1 rfl rfl)
theorem dX3_readOrder_268 : decode cX3_readOrder 268 = .ok (.iconst 2, 1) := dk_5 (dk_at dksX3_readOrder_9 2 rfl rfl)
theorem dX3_readOrder_269 : decode cX3_readOrder 269 = .ok (.iadd, 1) := dk_96 (dk_at dksX3_readOrder_9 3 rfl rfl)
theorem dX3_readOrder_270 : decode cX3_readOrder 270 = .ok (.invokevirtual 228, 3) := dk_182 0 228 (dk_at dksX3_readOrder_9 4 rfl rfl)
theorem dX3_readOrder_273 : decode cX3_readOrder 273 = .ok (.goto 235, 3) := dk_167 0 235 (dk_at dksX3_readOrder_9 7 rfl rfl)
theorem dX3_readOrder_276 : decode cX3_readOrder 276 = .ok (.aload_n 0, 1) := dk_42 (dk_at dksX3_readOrder_9 10 rfl rfl)
theorem dX3_readOrder_277 : decode cX3_readOrder 277 = .ok (.invokevirtual 208, 3) := dk_182 0 208 (dk_at dksX3_readOrder_9 11 rfl rfl)
theorem dX3_readOrder_280 : decode cX3_readOrder 280 = .ok (.bipush 120, 2) := dk_16 120 (dk_at dksX3_readOrder_9 14 rfl rfl)
theorem dX3_readOrder_282 : decode cX3_readOrder 282 = .ok (.if_icmp .ne 25, 3) := dk_160 0 25 (dk_at dksX3_readOrder_9 16 rfl rfl)
theorem dX3_readOrder_285 : decode cX3_readOrder 285 = .ok (.aload_n 0, 1) := dk_42 (dk_at dksX3_readOrder_9 19 rfl rfl)
theorem dX3_readOrder_286 : decode cX3_readOrder 286 = .ok (.dup, 1) := dk_89 (dk_at dksX3_readOrder_9 20 rfl rfl)
theorem dX3_readOrder_287 : decode cX3_readOrder 287 = .ok (.getfield 198, 3) := dk_180 0 198 (dk_at dksX3_readOrder_9 21 rfl rfl)
theorem dX3_readOrder_290 : decode cX3_readOrder 290 = .ok (.iconst 1, 1) := dk_4 (dk_at dksX3_readOrder_10 0 rfl rfl)
theorem dX3_readOrder_291 : decode cX3_readOrder 291 = .ok (.iadd, 1) := dk_96 (dk_at dksX3_readOrder_10 1 rfl rfl)
theorem dX3_readOrder_292 : decode cX3_readOrder 292 = .ok (.putfield 198, 3) := dk_181 0 198 (dk_at dksX3_readOrder_10 2 rfl rfl)
theorem dX3_readOrder_295 : decode cX3_readOrder 295 = .ok (.aload_n 0, 1) := dk_42 (dk_at dksX3_readOrder_10 5 rfl rfl)
theorem dX3_readOrder_296 : decode cX3_readOrder 296 = .ok (.getfield 32, 3) := dk_180 0 32 (dk_at dksX3_readOrder_10 6 rfl rfl)
theorem dX3_readOrder_299 : decode cX3_readOrder 299 = .ok (.iload_n 1, 1) := dk_27 (dk_at dksX3_readOrder_10 9 rfl rfl)
theorem dX3_readOrder_300 : decode cX3_readOrder 300 = .ok (.iconst 1, 1) := dk_4 (dk_at dksX3_readOrder_10 10 rfl rfl)
theorem dX3_readOrder_301 : decode cX3_readOrder 301 = .ok (.iadd, 1) := dk_96 (dk_at dksX3_readOrder_10 11 rfl rfl)
theorem dX3_readOrder_302 : decode cX3_readOrder 302 = .ok (.iconst (-1), 1) := dk_2 (dk_at dksX3_readOrder_10 12 rfl rfl)
theorem dX3_readOrder_303 : decode cX3_readOrder 303 = .ok (.iastore, 1) := dk_79 (dk_at dksX3_readOrder_10 13 rfl rfl)
theorem dX3_readOrder_304 : decode cX3_readOrder 304 = .ok (.goto 204, 3) := dk_167 0 204 (dk_at dksX3_readOrder_10 14 rfl rfl)
theorem dX3_readOrder_307 : decode cX3_readOrder 307 = .ok (.aload_n 0, 1) := dk_42 (dk_at dksX3_readOrder_10 17 rfl rfl)
theorem dX3_readOrder_308 : decode cX3_readOrder 308 = .ok (.getfield 32, 3) := dk_180 0 32 (dk_at dksX3_readOrder_10 18 rfl rfl)
theorem dX3_readOrder_311 : decode cX3_readOrder 311 = .ok (.iload_n 1, 1) := dk_27 (dk_at dksX3_readOrder_10 21 rfl rfl)
theorem dX3_readOrder_312 : decode cX3_readOrder 312 = .ok (.iconst 1, 1) := dk_4 (dk_at dksX3_readOrder_10 22 rfl rfl)
theorem dX3_readOrder_313 : decode cX3_readOrder 313 = .ok (.iadd, 1) := dk_96 (dk_at dksX3_readOrder_10 23 rfl rfl)
theorem dX3_readOrder_314 : decode cX3_readOrder 314 = .ok (.aload_n 0, 1) := dk_42 (dk_at dksX3_readOrder_11 0 rfl rfl)
theorem dX3_readOrder_315 : decode cX3_readOrder 315 = .ok (.invokevirtual 222, 3) := dk_182 0 222 (dk_at dksX3_readOrder_11 1 rfl rfl)
theorem dX3_readOrder_318 : decode cX3_readOrder 318 = .ok (.iastore, 1) := dk_79 (dk_at dksX3_readOrder_11 4 rfl rfl)
theorem dX3_readOrder_319 : decode cX3_readOrder 319 = .ok (.goto 189, 3) := dk_167 0 189 (dk_at dksX3_readOrder_11 5 rfl rfl)
theorem dX3_readOrder_322 : decode cX3_readOrder 322 = .ok (.aload_n 0, 1) := dk_42 (dk_at dksX3_readOrder_11 8 rfl rfl)
theorem dX3_readOrder_323 : decode cX3_readOrder 323 = .ok (.getfield 32, 3) := dk_180 0 32 (dk_at dksX3_readOrder_11 9 rfl rfl)
theorem dX3_readOrder_326 : decode cX3_readOrder 326 = .ok (.iload_n 1, 1) := dk_27 (dk_at dksX3_readOrder_11 12 rfl rfl)
theorem dX3_readOrder_327 : decode cX3_readOrder 327 = .ok (.iconst 1, 1) := dk_4 (dk_at dksX3_readOrder_11 13 rfl rfl)
theorem dX3_readOrder_328 : decode cX3_readOrder 328 = .ok (.iadd, 1) := dk_96 (dk_at dksX3_readOrder_11 14 rfl rfl)
theorem dX3_readOrder_329 : decode cX3_readOrder 329 = .ok (.aload_n 0, 1) := dk_42 (dk_at dksX3_readOrder_11 15 rfl rfl)
theorem dX3_readOrder_330 : decode cX3_readOrder 330 = .ok (.invokevirtual 222, 3) := dk_182 0 222 (dk_at dksX3_readOrder_11 16 rfl rfl)
theorem dX3_readOrder_333 : decode cX3_readOrder 333 = .ok (.iastore, 1) := dk_79 (dk_at dksX3_readOrder_11 19 rfl rfl)
theorem dX3_readOrder_334 : decode cX3_readOrder 334 = .ok (.goto 174, 3) := dk_167 0 174 (dk_at dksX3_readOrder_11 20 rfl rfl)
theorem dX3_readOrder_337 : decode cX3_readOrder 337 = .ok (.aload_n 0, 1) := dk_42 (dk_at dksX3_readOrder_11 23 rfl rfl)
theorem dX3_readOrder_338 : decode cX3_readOrder 338 = .ok (.getfield 32, 3) := dk_180 0 32 (dk_at dksX3_readOrder_12 0 rfl rfl)
theorem dX3_readOrder_341 : decode cX3_readOrder 341 = .ok (.iload_n 1, 1) := dk_27 (dk_at dksX3_readOrder_12 3 rfl rfl)
theorem dX3_readOrder_342 : decode cX3_readOrder 342 = .ok (.iconst 1, 1) := dk_4 (dk_at dksX3_readOrder_12 4 rfl rfl)
theorem dX3_readOrder_343 : decode cX3_readOrder 343 = .ok (.iadd, 1) := dk_96 (dk_at dksX3_readOrder_12 5 rfl rfl)
theorem dX3_readOrder_344 : decode cX3_readOrder 344 = .ok (.aload_n 0, 1) := dk_42 (dk_at dksX3_readOrder_12 6 rfl rfl)
theorem dX3_readOrder_345 : decode cX3_readOrder 345 = .ok (.invokevirtual 219, 3) := dk_182 0 219 (dk_at dksX3_readOrder_12 7 rfl rfl)
theorem dX3_readOrder_348 : decode cX3_readOrder 348 = .ok (.iastore, 1) := dk_79 (dk_at dksX3_readOrder_12 10 rfl rfl)
theorem dX3_readOrder_349 : decode cX3_readOrder 349 = .ok (.aload_n 0, 1) := dk_42 (dk_at dksX3_readOrder_12 11 rfl rfl)
theorem dX3_readOrder_350 : decode cX3_readOrder 350 = .ok (.aload_n 0, 1) := dk_42 (dk_at dksX3_readOrder_12 12 rfl rfl)
theorem dX3_readOrder_351 : decode cX3_readOrder 351 = .ok (.invokevirtual 208, 3) := dk_182 0 208 (dk_at dksX3_readOrder_12 13 rfl rfl)
theorem dX3_readOrder_354 : decode cX3_readOrder 354 = .ok (.bipush 62, 2) := dk_16 62 (dk_at dksX3_readOrder_12 16 rfl rfl)
theorem dX3_readOrder_356 : decode cX3_readOrder 356 = .ok (.if_icmp .ne 7, 3) := dk_160 0 7 (dk_at dksX3_readOrder_12 18 rfl rfl)
theorem dX3_readOrder_359 : decode cX3_readOrder 359 = .ok (.iconst 1, 1) := dk_4 (dk_at dksX3_readOrder_12 21 rfl rfl)
theorem dX3_readOrder_360 : decode cX3_readOrder 360 = .ok (.goto 4, 3) := dk_167 0 4 (dk_at dksX3_readOrder_13 0 rfl rfl)
theorem dX3_readOrder_363 : decode cX3_readOrder 363 = .ok (.iconst 0, 1) := dk_3 (dk_at dksX3_readOrder_13 3 rfl rfl)
theorem dX3_readOrder_364 : decode cX3_readOrder 364 = .ok (.invokevirtual 215, 3) := dk_182 0 215 (dk_at dksX3_readOrder_13 4 rfl rfl)
theorem dX3_readOrder_367 : decode cX3_readOrder 367 = .ok (.aload_n 0, 1) := dk_42 (dk_at dksX3_readOrder_13 7 rfl rfl)
theorem dX3_readOrder_368 : decode cX3_readOrder 368 = .ok (.getfield 32, 3) := dk_180 0 32 (dk_at dksX3_readOrder_13 8 rfl rfl)
theorem dX3_readOrder_371 : decode cX3_readOrder 371 = .ok (.iload_n 1, 1) := dk_27 (dk_at dksX3_readOrder_13 11 rfl rfl)
theorem dX3_readOrder_372 : decode cX3_readOrder 372 = .ok (.iconst 2, 1) := dk_5 (dk_at dksX3_readOrder_13 12 rfl rfl)
theorem dX3_readOrder_373 : decode cX3_readOrder 373 = .ok (.iadd, 1) := dk_96 (dk_at dksX3_readOrder_13 13 rfl rfl)
theorem dX3_readOrder_374 : decode cX3_readOrder 374 = .ok (.aload_n 0, 1) := dk_42 (dk_at dksX3_readOrder_13 14 rfl rfl)
theorem dX3_readOrder_375 : decode cX3_readOrder 375 = .ok (.invokevirtual 219, 3) := dk_182 0 219 (dk_at dksX3_readOrder_13 15 rfl rfl)
theorem dX3_readOrder_378 : decode cX3_readOrder 378 = .ok (.iastore, 1) := dk_79 (dk_at dksX3_readOrder_13 18 rfl rfl)
theorem dX3_readOrder_379 : decode cX3_readOrder 379 = .ok (.aload_n 0, 1) := dk_42 (dk_at dksX3_readOrder_13 19 rfl rfl)
theorem dX3_readOrder_380 : decode cX3_readOrder 380 = .ok (.aload_n 0, 1) := dk_42 (dk_at dksX3_readOrder_13 20 rfl rfl)
theorem dX3_readOrder_381 : decode cX3_readOrder 381 = .ok (.invokevirtual 208, 3) := dk_182 0 208 (dk_at dksX3_readOrder_13 21 rfl rfl)
theorem dX3_readOrder_384 : decode cX3_readOrder 384 = .ok (.bipush 42, 2) := dk_16 42 (dk_at dksX3_readOrder_14 0 rfl rfl)
theorem dX3_readOrder_386 : decode cX3_readOrder 386 = .ok (.if_icmp .ne 7, 3) := dk_160 0 7 (dk_at dksX3_readOrder_14 2 rfl rfl)
theorem dX3_readOrder_389 : decode cX3_readOrder 389 = .ok (.iconst 1, 1) := dk_4 (dk_at dksX3_readOrder_14 5 rfl rfl)
theorem dX3_readOrder_390 : decode cX3_readOrder 390 = .ok (.goto 4, 3) := dk_167 0 4 (dk_at dksX3_readOrder_14 6 rfl rfl)
theorem dX3_readOrder_393 : decode cX3_readOrder 393 = .ok (.iconst 0, 1) := dk_3 (dk_at dksX3_readOrder_14 9 rfl rfl)
theorem dX3_readOrder_394 : decode cX3_readOrder 394 = .ok (.invokevirtual 215, 3) := dk_182 0 215 (dk_at dksX3_readOrder_14 10 rfl rfl)
theorem dX3_readOrder_397 : decode cX3_readOrder 397 = .ok (.aload_n 0, 1) := dk_42 (dk_at dksX3_readOrder_14 13 rfl rfl)
theorem dX3_readOrder_398 : decode cX3_readOrder 398 = .ok (.getfield 32, 3) := dk_180 0 32 (dk_at dksX3_readOrder_14 14 rfl rfl)
theorem dX3_readOrder_401 : decode cX3_readOrder 401 = .ok (.iload_n 1, 1) := dk_27 (dk_at dksX3_readOrder_14 17 rfl rfl)
theorem dX3_readOrder_402 : decode cX3_readOrder 402 = .ok (.iconst 3, 1) := dk_6 (dk_at dksX3_readOrder_14 18 rfl rfl)
theorem dX3_readOrder_403 : decode cX3_readOrder 403 = .ok (.iadd, 1) := dk_96 (dk_at dksX3_readOrder_14 19 rfl rfl)
theorem dX3_readOrder_404 : decode cX3_readOrder 404 = .ok (.aload_n 0, 1) := dk_42 (dk_at dksX3_readOrder_14 20 rfl rfl)
theorem dX3_readOrder_405 : decode cX3_readOrder 405 = .ok (.invokevirtual 219, 3) := dk_182 0 219 (dk_at dksX3_readOrder_14 21 rfl rfl)
theorem dX3_readOrder_408 : decode cX3_readOrder 408 = .ok (.iastore, 1) := dk_79 (dk_at dksX3_readOrder_15 0 rfl rfl)
theorem dX3_readOrder_409 : decode cX3_readOrder 409 = .ok (.goto 99, 3) := dk_167 0 99 (dk_at dksX3_readOrder_15 1 rfl rfl)
theorem dX3_readOrder_412 : decode cX3_readOrder 412 = .ok (.aload_n 0, 1) := dk_42 (dk_at dksX3_readOrder_15 4 rfl rfl)
theorem dX3_readOrder_413 : decode cX3_readOrder 413 = .ok (.getfield 32, 3) := dk_180 0 32 (dk_at dksX3_readOrder_15 5 rfl rfl)
theorem dX3_readOrder_416 : decode cX3_readOrder 416 = .ok (.iload_n 1, 1) := dk_27 (dk_at dksX3_readOrder_15 8 rfl rfl)
theorem dX3_readOrder_417 : decode cX3_readOrder 417 = .ok (.iconst 1, 1) := dk_4 (dk_at dksX3_readOrder_15 9 rfl rfl)
theorem dX3_readOrder_418 : decode cX3_readOrder 418 = .ok (.iadd, 1) := dk_96 (dk_at dksX3_readOrder_15 10 rfl rfl)
theorem dX3_readOrder_419 : decode cX3_readOrder 419 = .ok (.aload_n 0, 1) := dk_42 (dk_at dksX3_readOrder_15 11 rfl rfl)
theorem dX3_readOrder_420 : decode cX3_readOrder 420 = .ok (.invokevirtual 219, 3) := dk_182 0 219 (dk_at dksX3_readOrder_15 12 rfl rfl)
theorem dX3_readOrder_423 : decode cX3_readOrder 423 = .ok (.iastore, 1) := dk_79 (dk_at dksX3_readOrder_15 15 rfl rfl)
theorem dX3_readOrder_424 : decode cX3_readOrder 424 = .ok (.aload_n 0, 1) := dk_42 (dk_at dksX3_readOrder_15 16 rfl rfl)
theorem dX3_readOrder_425 : decode cX3_readOrder 425 = .ok (.getfield 32, 3) := dk_180 0 32 (dk_at dksX3_readOrder_15 17 rfl rfl)
theorem dX3_readOrder_428 : decode cX3_readOrder 428 = .ok (.iload_n 1, 1) := dk_27 (dk_at dksX3_readOrder_15 20 rfl rfl)
theorem dX3_readOrder_429 : decode cX3_readOrder 429 = .ok (.iconst 2, 1) := dk_5 (dk_at dksX3_readOrder_15 21 rfl rfl)
theorem dX3_readOrder_430 : decode cX3_readOrder 430 = .ok (.iadd, 1) := dk_96 (dk_at dksX3_readOrder_15 22 rfl rfl)
theorem dX3_readOrder_431 : decode cX3_readOrder 431 = .ok (.aload_n 0, 1) := dk_42 (dk_at dksX3_readOrder_15 23 rfl rfl)
theorem dX3_readOrder_432 : decode cX3_readOrder 432 = .ok (.invokevirtual 208, 3) := dk_182 0 208 (dk_at dksX3_readOrder_16 0 rfl rfl)
theorem dX3_readOrder_435 : decode cX3_readOrder 435 = .ok (.invokestatic 232, 3) := dk_184 0 232 (dk_at dksX3_readOrder_16 3 rfl rfl)
theorem dX3_readOrder_438 : decode cX3_readOrder 438 = .ok (.iastore, 1) := dk_79 (dk_at dksX3_readOrder_16 6 rfl rfl)
theorem dX3_readOrder_439 : decode cX3_readOrder 439 = .ok (.aload_n 0, 1) := dk_42 (dk_at dksX3_readOrder_16 7 rfl rfl)
theorem dX3_readOrder_440 : decode cX3_readOrder 440 = .ok (.aload_n 0, 1) := dk_42 (dk_at dksX3_readOrder_16 8 rfl rfl)
theorem dX3_readOrder_441 : decode cX3_readOrder 441 = .ok (.getfield 32, 3) := dk_180 0 32 (dk_at dksX3_readOrder_16 9 rfl rfl)
theorem dX3_readOrder_444 : decode cX3_readOrder 444 = .ok (.iload_n 1, 1) := dk_27 (dk_at dksX3_readOrder_16 12 rfl rfl)
theorem dX3_readOrder_445 : decode cX3_readOrder 445 = .ok (.iconst 2, 1) := dk_5 (dk_at dksX3_readOrder_16 13 rfl rfl)
theorem dX3_readOrder_446 : decode cX3_readOrder 446 = .ok (.iadd, 1) := dk_96 (dk_at dksX3_readOrder_16 14 rfl rfl)
theorem dX3_readOrder_447 : decode cX3_readOrder 447 = .ok (.iaload, 1) := dk_46 (dk_at dksX3_readOrder_16 15 rfl rfl)
theorem dX3_readOrder_448 : decode cX3_readOrder 448 = .ok (.iconst (-1), 1) := dk_2 (dk_at dksX3_readOrder_16 16 rfl rfl)
theorem dX3_readOrder_449 : decode cX3_readOrder 449 = .ok (.if_icmp .eq 7, 3) := dk_159 0 7 (dk_at dksX3_readOrder_16 17 rfl rfl)
theorem dX3_readOrder_452 : decode cX3_readOrder 452 = .ok (.iconst 1, 1) := dk_4 (dk_at dksX3_readOrder_16 20 rfl rfl)
theorem dX3_readOrder_453 : decode cX3_readOrder 453 = .ok (.goto 4, 3) := dk_167 0 4 (dk_at dksX3_readOrder_16 21 rfl rfl)
theorem dX3_readOrder_456 : decode cX3_readOrder 456 = .ok (.iconst 0, 1) := dk_3 (dk_at dksX3_readOrder_17 0 rfl rfl)
theorem dX3_readOrder_457 : decode cX3_readOrder 457 = .ok (.invokevirtual 215, 3) := dk_182 0 215 (dk_at dksX3_readOrder_17 1 rfl rfl)
theorem dX3_readOrder_460 : decode cX3_readOrder 460 = .ok (.goto 48, 3) := dk_167 0 48 (dk_at dksX3_readOrder_17 4 rfl rfl)
theorem dX3_readOrder_463 : decode cX3_readOrder 463 = .ok (.aload_n 0, 1) := dk_42 (dk_at dksX3_readOrder_17 7 rfl rfl)
theorem dX3_readOrder_464 : decode cX3_readOrder 464 = .ok (.getfield 32, 3) := dk_180 0 32 (dk_at dksX3_readOrder_17 8 rfl rfl)
theorem dX3_readOrder_467 : decode cX3_readOrder 467 = .ok (.iload_n 1, 1) := dk_27 (dk_at dksX3_readOrder_17 11 rfl rfl)
theorem dX3_readOrder_468 : decode cX3_readOrder 468 = .ok (.iconst 1, 1) := dk_4 (dk_at dksX3_readOrder_17 12 rfl rfl)
theorem dX3_readOrder_469 : decode cX3_readOrder 469 = .ok (.iadd, 1) := dk_96 (dk_at dksX3_readOrder_17 13 rfl rfl)
theorem dX3_readOrder_470 : decode cX3_readOrder 470 = .ok (.aload_n 0, 1) := dk_42 (dk_at dksX3_readOrder_17 14 rfl rfl)
theorem dX3_readOrder_471 : decode cX3_readOrder 471 = .ok (.invokevirtual 219, 3) := dk_182 0 219 (dk_at dksX3_readOrder_17 15 rfl rfl)
theorem dX3_readOrder_474 : decode cX3_readOrder 474 = .ok (.iastore, 1) := dk_79 (dk_at dksX3_readOrder_17 18 rfl rfl)
theorem dX3_readOrder_475 : decode cX3_readOrder 475 = .ok (.aload_n 0, 1) := dk_42 (dk_at dksX3_readOrder_17 19 rfl rfl)
theorem dX3_readOrder_476 : decode cX3_readOrder 476 = .ok (.aload_n 0, 1) := dk_42 (dk_at dksX3_readOrder_17 20 rfl rfl)
theorem dX3_readOrder_477 : decode cX3_readOrder 477 = .ok (.invokevirtual 208, 3) := dk_182 0 208 (dk_at dksX3_readOrder_17 21 rfl rfl)
theorem dX3_readOrder_480 : decode cX3_readOrder 480 = .ok (.bipush 43, 2) := dk_16 43 (dk_at dksX3_readOrder_18 0 rfl rfl)
theorem dX3_readOrder_482 : decode cX3_readOrder 482 = .ok (.if_icmp .ne 7, 3) := dk_160 0 7 (dk_at dksX3_readOrder_18 2 rfl rfl)
theorem dX3_readOrder_485 : decode cX3_readOrder 485 = .ok (.iconst 1, 1) := dk_4 (dk_at dksX3_readOrder_18 5 rfl rfl)
theorem dX3_readOrder_486 : decode cX3_readOrder 486 = .ok (.goto 4, 3) := dk_167 0 4 (dk_at dksX3_readOrder_18 6 rfl rfl)
theorem dX3_readOrder_489 : decode cX3_readOrder 489 = .ok (.iconst 0, 1) := dk_3 (dk_at dksX3_readOrder_18 9 rfl rfl)
theorem dX3_readOrder_490 : decode cX3_readOrder 490 = .ok (.invokevirtual 215, 3) := dk_182 0 215 (dk_at dksX3_readOrder_18 10 rfl rfl)
theorem dX3_readOrder_493 : decode cX3_readOrder 493 = .ok (.aload_n 0, 1) := dk_42 (dk_at dksX3_readOrder_18 13 rfl rfl)
theorem dX3_readOrder_494 : decode cX3_readOrder 494 = .ok (.getfield 32, 3) := dk_180 0 32 (dk_at dksX3_readOrder_18 14 rfl rfl)
theorem dX3_readOrder_497 : decode cX3_readOrder 497 = .ok (.iload_n 1, 1) := dk_27 (dk_at dksX3_readOrder_18 17 rfl rfl)
theorem dX3_readOrder_498 : decode cX3_readOrder 498 = .ok (.iconst 2, 1) := dk_5 (dk_at dksX3_readOrder_18 18 rfl rfl)
theorem dX3_readOrder_499 : decode cX3_readOrder 499 = .ok (.iadd, 1) := dk_96 (dk_at dksX3_readOrder_18 19 rfl rfl)
theorem dX3_readOrder_500 : decode cX3_readOrder 500 = .ok (.aload_n 0, 1) := dk_42 (dk_at dksX3_readOrder_18 20 rfl rfl)
theorem dX3_readOrder_501 : decode cX3_readOrder 501 = .ok (.invokevirtual 219, 3) := dk_182 0 219 (dk_at dksX3_readOrder_18 21 rfl rfl)
theorem dX3_readOrder_504 : decode cX3_readOrder 504 = .ok (.iastore, 1) := dk_79 (dk_at dksX3_readOrder_19 0 rfl rfl)
theorem dX3_readOrder_505 : decode cX3_readOrder 505 = .ok (.goto 3, 3) := dk_167 0 3 (dk_at dksX3_readOrder_19 1 rfl rfl)
theorem dX3_readOrder_508 : decode cX3_readOrder 508 = .ok (.return_, 1) := dk_177 (dk_at dksX3_readOrder_19 4 rfl rfl)
abbrev cX3_here : ByteArray := prog_10_method_66_code
def yX3_here : MethodName := ⟨RX3, "here", "()I"⟩
def dkwX3_here_1 : List UInt8 := [172]
abbrev dktX3_here_1 : List UInt8 := dkwX3_here_1 ++ []
def dkwX3_here_0 : List UInt8 := [42, 180, 0, 198, 42, 180, 0, 201, 162, 0, 15, 42, 180, 0, 26, 42, 180, 0, 198, 46, 167, 0, 4, 2]
abbrev dktX3_here_0 : List UInt8 := dkwX3_here_0 ++ dktX3_here_1
theorem dksX3_here_0 : cX3_here.data.toList.drop 0 = dktX3_here_0 := by decide +kernel
theorem dksX3_here_1 : cX3_here.data.toList.drop 24 = dktX3_here_1 := dk_seg dksX3_here_0 24 rfl rfl
theorem dX3_here_0 : decode cX3_here 0 = .ok (.aload_n 0, 1) := dk_42 (dk_at dksX3_here_0 0 rfl rfl)
theorem dX3_here_1 : decode cX3_here 1 = .ok (.getfield 198, 3) := dk_180 0 198 (dk_at dksX3_here_0 1 rfl rfl)
theorem dX3_here_4 : decode cX3_here 4 = .ok (.aload_n 0, 1) := dk_42 (dk_at dksX3_here_0 4 rfl rfl)
theorem dX3_here_5 : decode cX3_here 5 = .ok (.getfield 201, 3) := dk_180 0 201 (dk_at dksX3_here_0 5 rfl rfl)
theorem dX3_here_8 : decode cX3_here 8 = .ok (.if_icmp .ge 15, 3) := dk_162 0 15 (dk_at dksX3_here_0 8 rfl rfl)
theorem dX3_here_11 : decode cX3_here 11 = .ok (.aload_n 0, 1) := dk_42 (dk_at dksX3_here_0 11 rfl rfl)
theorem dX3_here_12 : decode cX3_here 12 = .ok (.getfield 26, 3) := dk_180 0 26 (dk_at dksX3_here_0 12 rfl rfl)
theorem dX3_here_15 : decode cX3_here 15 = .ok (.aload_n 0, 1) := dk_42 (dk_at dksX3_here_0 15 rfl rfl)
theorem dX3_here_16 : decode cX3_here 16 = .ok (.getfield 198, 3) := dk_180 0 198 (dk_at dksX3_here_0 16 rfl rfl)
theorem dX3_here_19 : decode cX3_here 19 = .ok (.iaload, 1) := dk_46 (dk_at dksX3_here_0 19 rfl rfl)
theorem dX3_here_20 : decode cX3_here 20 = .ok (.goto 4, 3) := dk_167 0 4 (dk_at dksX3_here_0 20 rfl rfl)
theorem dX3_here_23 : decode cX3_here 23 = .ok (.iconst (-1), 1) := dk_2 (dk_at dksX3_here_0 23 rfl rfl)
theorem dX3_here_24 : decode cX3_here 24 = .ok (.ireturn, 1) := dk_172 (dk_at dksX3_here_1 0 rfl rfl)
abbrev cX3_expects : ByteArray := prog_10_method_67_code
def yX3_expects : MethodName := ⟨RX3, "expects", "(Z)V"⟩
def dkwX3_expects_1 : List UInt8 := [180, 0, 198, 42, 180, 0, 204, 153, 0, 7, 3, 167, 0, 4, 4, 96, 181, 0, 198, 177]
abbrev dktX3_expects_1 : List UInt8 := dkwX3_expects_1 ++ []
def dkwX3_expects_0 : List UInt8 := [42, 42, 180, 0, 204, 154, 0, 7, 27, 154, 0, 7, 4, 167, 0, 4, 3, 181, 0, 204, 42, 89]
abbrev dktX3_expects_0 : List UInt8 := dkwX3_expects_0 ++ dktX3_expects_1
theorem dksX3_expects_0 : cX3_expects.data.toList.drop 0 = dktX3_expects_0 := by decide +kernel
theorem dksX3_expects_1 : cX3_expects.data.toList.drop 22 = dktX3_expects_1 := dk_seg dksX3_expects_0 22 rfl rfl
theorem dX3_expects_0 : decode cX3_expects 0 = .ok (.aload_n 0, 1) := dk_42 (dk_at dksX3_expects_0 0 rfl rfl)
theorem dX3_expects_1 : decode cX3_expects 1 = .ok (.aload_n 0, 1) := dk_42 (dk_at dksX3_expects_0 1 rfl rfl)
theorem dX3_expects_2 : decode cX3_expects 2 = .ok (.getfield 204, 3) := dk_180 0 204 (dk_at dksX3_expects_0 2 rfl rfl)
theorem dX3_expects_5 : decode cX3_expects 5 = .ok (.ifCond .ne 7, 3) := dk_154 0 7 (dk_at dksX3_expects_0 5 rfl rfl)
theorem dX3_expects_8 : decode cX3_expects 8 = .ok (.iload_n 1, 1) := dk_27 (dk_at dksX3_expects_0 8 rfl rfl)
theorem dX3_expects_9 : decode cX3_expects 9 = .ok (.ifCond .ne 7, 3) := dk_154 0 7 (dk_at dksX3_expects_0 9 rfl rfl)
theorem dX3_expects_12 : decode cX3_expects 12 = .ok (.iconst 1, 1) := dk_4 (dk_at dksX3_expects_0 12 rfl rfl)
theorem dX3_expects_13 : decode cX3_expects 13 = .ok (.goto 4, 3) := dk_167 0 4 (dk_at dksX3_expects_0 13 rfl rfl)
theorem dX3_expects_16 : decode cX3_expects 16 = .ok (.iconst 0, 1) := dk_3 (dk_at dksX3_expects_0 16 rfl rfl)
theorem dX3_expects_17 : decode cX3_expects 17 = .ok (.putfield 204, 3) := dk_181 0 204 (dk_at dksX3_expects_0 17 rfl rfl)
theorem dX3_expects_20 : decode cX3_expects 20 = .ok (.aload_n 0, 1) := dk_42 (dk_at dksX3_expects_0 20 rfl rfl)
theorem dX3_expects_21 : decode cX3_expects 21 = .ok (.dup, 1) := dk_89 (dk_at dksX3_expects_0 21 rfl rfl)
theorem dX3_expects_22 : decode cX3_expects 22 = .ok (.getfield 198, 3) := dk_180 0 198 (dk_at dksX3_expects_1 0 rfl rfl)
theorem dX3_expects_25 : decode cX3_expects 25 = .ok (.aload_n 0, 1) := dk_42 (dk_at dksX3_expects_1 3 rfl rfl)
theorem dX3_expects_26 : decode cX3_expects 26 = .ok (.getfield 204, 3) := dk_180 0 204 (dk_at dksX3_expects_1 4 rfl rfl)
theorem dX3_expects_29 : decode cX3_expects 29 = .ok (.ifCond .eq 7, 3) := dk_153 0 7 (dk_at dksX3_expects_1 7 rfl rfl)
theorem dX3_expects_32 : decode cX3_expects 32 = .ok (.iconst 0, 1) := dk_3 (dk_at dksX3_expects_1 10 rfl rfl)
theorem dX3_expects_33 : decode cX3_expects 33 = .ok (.goto 4, 3) := dk_167 0 4 (dk_at dksX3_expects_1 11 rfl rfl)
theorem dX3_expects_36 : decode cX3_expects 36 = .ok (.iconst 1, 1) := dk_4 (dk_at dksX3_expects_1 14 rfl rfl)
theorem dX3_expects_37 : decode cX3_expects 37 = .ok (.iadd, 1) := dk_96 (dk_at dksX3_expects_1 15 rfl rfl)
theorem dX3_expects_38 : decode cX3_expects 38 = .ok (.putfield 198, 3) := dk_181 0 198 (dk_at dksX3_expects_1 16 rfl rfl)
theorem dX3_expects_41 : decode cX3_expects 41 = .ok (.return_, 1) := dk_177 (dk_at dksX3_expects_1 19 rfl rfl)
abbrev cX3_cells : ByteArray := prog_10_method_71_code
def yX3_cells : MethodName := ⟨RX3, "cells", "(I)V"⟩
def dkwX3_cells_1 : List UInt8 := [3, 182, 0, 215, 42, 180, 0, 32, 27, 4, 96, 42, 182, 0, 222, 79, 177]
abbrev dktX3_cells_1 : List UInt8 := dkwX3_cells_1 ++ []
def dkwX3_cells_0 : List UInt8 := [42, 180, 0, 32, 27, 42, 182, 0, 222, 79, 42, 42, 182, 0, 208, 16, 45, 160, 0, 7, 4, 167, 0, 4]
abbrev dktX3_cells_0 : List UInt8 := dkwX3_cells_0 ++ dktX3_cells_1
theorem dksX3_cells_0 : cX3_cells.data.toList.drop 0 = dktX3_cells_0 := by decide +kernel
theorem dksX3_cells_1 : cX3_cells.data.toList.drop 24 = dktX3_cells_1 := dk_seg dksX3_cells_0 24 rfl rfl
theorem dX3_cells_0 : decode cX3_cells 0 = .ok (.aload_n 0, 1) := dk_42 (dk_at dksX3_cells_0 0 rfl rfl)
theorem dX3_cells_1 : decode cX3_cells 1 = .ok (.getfield 32, 3) := dk_180 0 32 (dk_at dksX3_cells_0 1 rfl rfl)
theorem dX3_cells_4 : decode cX3_cells 4 = .ok (.iload_n 1, 1) := dk_27 (dk_at dksX3_cells_0 4 rfl rfl)
theorem dX3_cells_5 : decode cX3_cells 5 = .ok (.aload_n 0, 1) := dk_42 (dk_at dksX3_cells_0 5 rfl rfl)
theorem dX3_cells_6 : decode cX3_cells 6 = .ok (.invokevirtual 222, 3) := dk_182 0 222 (dk_at dksX3_cells_0 6 rfl rfl)
theorem dX3_cells_9 : decode cX3_cells 9 = .ok (.iastore, 1) := dk_79 (dk_at dksX3_cells_0 9 rfl rfl)
theorem dX3_cells_10 : decode cX3_cells 10 = .ok (.aload_n 0, 1) := dk_42 (dk_at dksX3_cells_0 10 rfl rfl)
theorem dX3_cells_11 : decode cX3_cells 11 = .ok (.aload_n 0, 1) := dk_42 (dk_at dksX3_cells_0 11 rfl rfl)
theorem dX3_cells_12 : decode cX3_cells 12 = .ok (.invokevirtual 208, 3) := dk_182 0 208 (dk_at dksX3_cells_0 12 rfl rfl)
theorem dX3_cells_15 : decode cX3_cells 15 = .ok (.bipush 45, 2) := dk_16 45 (dk_at dksX3_cells_0 15 rfl rfl)
theorem dX3_cells_17 : decode cX3_cells 17 = .ok (.if_icmp .ne 7, 3) := dk_160 0 7 (dk_at dksX3_cells_0 17 rfl rfl)
theorem dX3_cells_20 : decode cX3_cells 20 = .ok (.iconst 1, 1) := dk_4 (dk_at dksX3_cells_0 20 rfl rfl)
theorem dX3_cells_21 : decode cX3_cells 21 = .ok (.goto 4, 3) := dk_167 0 4 (dk_at dksX3_cells_0 21 rfl rfl)
theorem dX3_cells_24 : decode cX3_cells 24 = .ok (.iconst 0, 1) := dk_3 (dk_at dksX3_cells_1 0 rfl rfl)
theorem dX3_cells_25 : decode cX3_cells 25 = .ok (.invokevirtual 215, 3) := dk_182 0 215 (dk_at dksX3_cells_1 1 rfl rfl)
theorem dX3_cells_28 : decode cX3_cells 28 = .ok (.aload_n 0, 1) := dk_42 (dk_at dksX3_cells_1 4 rfl rfl)
theorem dX3_cells_29 : decode cX3_cells 29 = .ok (.getfield 32, 3) := dk_180 0 32 (dk_at dksX3_cells_1 5 rfl rfl)
theorem dX3_cells_32 : decode cX3_cells 32 = .ok (.iload_n 1, 1) := dk_27 (dk_at dksX3_cells_1 8 rfl rfl)
theorem dX3_cells_33 : decode cX3_cells 33 = .ok (.iconst 1, 1) := dk_4 (dk_at dksX3_cells_1 9 rfl rfl)
theorem dX3_cells_34 : decode cX3_cells 34 = .ok (.iadd, 1) := dk_96 (dk_at dksX3_cells_1 10 rfl rfl)
theorem dX3_cells_35 : decode cX3_cells 35 = .ok (.aload_n 0, 1) := dk_42 (dk_at dksX3_cells_1 11 rfl rfl)
theorem dX3_cells_36 : decode cX3_cells 36 = .ok (.invokevirtual 222, 3) := dk_182 0 222 (dk_at dksX3_cells_1 12 rfl rfl)
theorem dX3_cells_39 : decode cX3_cells 39 = .ok (.iastore, 1) := dk_79 (dk_at dksX3_cells_1 15 rfl rfl)
theorem dX3_cells_40 : decode cX3_cells 40 = .ok (.return_, 1) := dk_177 (dk_at dksX3_cells_1 16 rfl rfl)
abbrev cX3_number : ByteArray := prog_10_method_69_code
def yX3_number : MethodName := ⟨RX3, "number", "()I"⟩
def dkwX3_number_1 : List UInt8 := [184, 0, 59, 153, 0, 15, 16, 10, 27, 104, 42, 182, 0, 219, 96, 167, 0, 4, 27, 172]
abbrev dktX3_number_1 : List UInt8 := dkwX3_number_1 ++ []
def dkwX3_number_0 : List UInt8 := [42, 182, 0, 219, 60, 42, 180, 0, 204, 154, 0, 32, 42, 182, 0, 208, 133, 20, 0, 211, 20, 0, 213]
abbrev dktX3_number_0 : List UInt8 := dkwX3_number_0 ++ dktX3_number_1
theorem dksX3_number_0 : cX3_number.data.toList.drop 0 = dktX3_number_0 := by decide +kernel
theorem dksX3_number_1 : cX3_number.data.toList.drop 23 = dktX3_number_1 := dk_seg dksX3_number_0 23 rfl rfl
theorem dX3_number_0 : decode cX3_number 0 = .ok (.aload_n 0, 1) := dk_42 (dk_at dksX3_number_0 0 rfl rfl)
theorem dX3_number_1 : decode cX3_number 1 = .ok (.invokevirtual 219, 3) := dk_182 0 219 (dk_at dksX3_number_0 1 rfl rfl)
theorem dX3_number_4 : decode cX3_number 4 = .ok (.istore_n 1, 1) := dk_60 (dk_at dksX3_number_0 4 rfl rfl)
theorem dX3_number_5 : decode cX3_number 5 = .ok (.aload_n 0, 1) := dk_42 (dk_at dksX3_number_0 5 rfl rfl)
theorem dX3_number_6 : decode cX3_number 6 = .ok (.getfield 204, 3) := dk_180 0 204 (dk_at dksX3_number_0 6 rfl rfl)
theorem dX3_number_9 : decode cX3_number 9 = .ok (.ifCond .ne 32, 3) := dk_154 0 32 (dk_at dksX3_number_0 9 rfl rfl)
theorem dX3_number_12 : decode cX3_number 12 = .ok (.aload_n 0, 1) := dk_42 (dk_at dksX3_number_0 12 rfl rfl)
theorem dX3_number_13 : decode cX3_number 13 = .ok (.invokevirtual 208, 3) := dk_182 0 208 (dk_at dksX3_number_0 13 rfl rfl)
theorem dX3_number_16 : decode cX3_number 16 = .ok (.i2l, 1) := dk_133 (dk_at dksX3_number_0 16 rfl rfl)
theorem dX3_number_17 : decode cX3_number 17 = .ok (.ldc2_w 211, 3) := dk_20 0 211 (dk_at dksX3_number_0 17 rfl rfl)
theorem dX3_number_20 : decode cX3_number 20 = .ok (.ldc2_w 213, 3) := dk_20 0 213 (dk_at dksX3_number_0 20 rfl rfl)
theorem dX3_number_23 : decode cX3_number 23 = .ok (.invokestatic 59, 3) := dk_184 0 59 (dk_at dksX3_number_1 0 rfl rfl)
theorem dX3_number_26 : decode cX3_number 26 = .ok (.ifCond .eq 15, 3) := dk_153 0 15 (dk_at dksX3_number_1 3 rfl rfl)
theorem dX3_number_29 : decode cX3_number 29 = .ok (.bipush 10, 2) := dk_16 10 (dk_at dksX3_number_1 6 rfl rfl)
theorem dX3_number_31 : decode cX3_number 31 = .ok (.iload_n 1, 1) := dk_27 (dk_at dksX3_number_1 8 rfl rfl)
theorem dX3_number_32 : decode cX3_number 32 = .ok (.imul, 1) := dk_104 (dk_at dksX3_number_1 9 rfl rfl)
theorem dX3_number_33 : decode cX3_number 33 = .ok (.aload_n 0, 1) := dk_42 (dk_at dksX3_number_1 10 rfl rfl)
theorem dX3_number_34 : decode cX3_number 34 = .ok (.invokevirtual 219, 3) := dk_182 0 219 (dk_at dksX3_number_1 11 rfl rfl)
theorem dX3_number_37 : decode cX3_number 37 = .ok (.iadd, 1) := dk_96 (dk_at dksX3_number_1 14 rfl rfl)
theorem dX3_number_38 : decode cX3_number 38 = .ok (.goto 4, 3) := dk_167 0 4 (dk_at dksX3_number_1 15 rfl rfl)
theorem dX3_number_41 : decode cX3_number 41 = .ok (.iload_n 1, 1) := dk_27 (dk_at dksX3_number_1 18 rfl rfl)
theorem dX3_number_42 : decode cX3_number 42 = .ok (.ireturn, 1) := dk_172 (dk_at dksX3_number_1 19 rfl rfl)
abbrev cX3_digit : ByteArray := prog_10_method_68_code
def yX3_digit : MethodName := ⟨RX3, "digit", "()I"⟩
def dkwX3_digit_1 : List UInt8 := [182, 0, 215, 42, 180, 0, 204, 153, 0, 7, 3, 167, 0, 4, 27, 172]
abbrev dktX3_digit_1 : List UInt8 := dkwX3_digit_1 ++ []
def dkwX3_digit_0 : List UInt8 := [42, 182, 0, 208, 16, 48, 100, 60, 42, 42, 182, 0, 208, 133, 20, 0, 211, 20, 0, 213, 184, 0, 59]
abbrev dktX3_digit_0 : List UInt8 := dkwX3_digit_0 ++ dktX3_digit_1
theorem dksX3_digit_0 : cX3_digit.data.toList.drop 0 = dktX3_digit_0 := by decide +kernel
theorem dksX3_digit_1 : cX3_digit.data.toList.drop 23 = dktX3_digit_1 := dk_seg dksX3_digit_0 23 rfl rfl
theorem dX3_digit_0 : decode cX3_digit 0 = .ok (.aload_n 0, 1) := dk_42 (dk_at dksX3_digit_0 0 rfl rfl)
theorem dX3_digit_1 : decode cX3_digit 1 = .ok (.invokevirtual 208, 3) := dk_182 0 208 (dk_at dksX3_digit_0 1 rfl rfl)
theorem dX3_digit_4 : decode cX3_digit 4 = .ok (.bipush 48, 2) := dk_16 48 (dk_at dksX3_digit_0 4 rfl rfl)
theorem dX3_digit_6 : decode cX3_digit 6 = .ok (.isub, 1) := dk_100 (dk_at dksX3_digit_0 6 rfl rfl)
theorem dX3_digit_7 : decode cX3_digit 7 = .ok (.istore_n 1, 1) := dk_60 (dk_at dksX3_digit_0 7 rfl rfl)
theorem dX3_digit_8 : decode cX3_digit 8 = .ok (.aload_n 0, 1) := dk_42 (dk_at dksX3_digit_0 8 rfl rfl)
theorem dX3_digit_9 : decode cX3_digit 9 = .ok (.aload_n 0, 1) := dk_42 (dk_at dksX3_digit_0 9 rfl rfl)
theorem dX3_digit_10 : decode cX3_digit 10 = .ok (.invokevirtual 208, 3) := dk_182 0 208 (dk_at dksX3_digit_0 10 rfl rfl)
theorem dX3_digit_13 : decode cX3_digit 13 = .ok (.i2l, 1) := dk_133 (dk_at dksX3_digit_0 13 rfl rfl)
theorem dX3_digit_14 : decode cX3_digit 14 = .ok (.ldc2_w 211, 3) := dk_20 0 211 (dk_at dksX3_digit_0 14 rfl rfl)
theorem dX3_digit_17 : decode cX3_digit 17 = .ok (.ldc2_w 213, 3) := dk_20 0 213 (dk_at dksX3_digit_0 17 rfl rfl)
theorem dX3_digit_20 : decode cX3_digit 20 = .ok (.invokestatic 59, 3) := dk_184 0 59 (dk_at dksX3_digit_0 20 rfl rfl)
theorem dX3_digit_23 : decode cX3_digit 23 = .ok (.invokevirtual 215, 3) := dk_182 0 215 (dk_at dksX3_digit_1 0 rfl rfl)
theorem dX3_digit_26 : decode cX3_digit 26 = .ok (.aload_n 0, 1) := dk_42 (dk_at dksX3_digit_1 3 rfl rfl)
theorem dX3_digit_27 : decode cX3_digit 27 = .ok (.getfield 204, 3) := dk_180 0 204 (dk_at dksX3_digit_1 4 rfl rfl)
theorem dX3_digit_30 : decode cX3_digit 30 = .ok (.ifCond .eq 7, 3) := dk_153 0 7 (dk_at dksX3_digit_1 7 rfl rfl)
theorem dX3_digit_33 : decode cX3_digit 33 = .ok (.iconst 0, 1) := dk_3 (dk_at dksX3_digit_1 10 rfl rfl)
theorem dX3_digit_34 : decode cX3_digit 34 = .ok (.goto 4, 3) := dk_167 0 4 (dk_at dksX3_digit_1 11 rfl rfl)
theorem dX3_digit_37 : decode cX3_digit 37 = .ok (.iload_n 1, 1) := dk_27 (dk_at dksX3_digit_1 14 rfl rfl)
theorem dX3_digit_38 : decode cX3_digit 38 = .ok (.ireturn, 1) := dk_172 (dk_at dksX3_digit_1 15 rfl rfl)
abbrev cX3_directionOf : ByteArray := prog_10_method_70_code
def yX3_directionOf : MethodName := ⟨RX3, "directionOf", "(I)I"⟩
def dkwX3_directionOf_1 : List UInt8 := [160, 0, 7, 5, 167, 0, 14, 26, 16, 119, 160, 0, 7, 6, 167, 0, 4, 2, 172]
abbrev dktX3_directionOf_1 : List UInt8 := dkwX3_directionOf_1 ++ []
def dkwX3_directionOf_0 : List UInt8 := [26, 16, 110, 160, 0, 7, 3, 167, 0, 34, 26, 16, 101, 160, 0, 7, 4, 167, 0, 24, 26, 16, 115]
abbrev dktX3_directionOf_0 : List UInt8 := dkwX3_directionOf_0 ++ dktX3_directionOf_1
theorem dksX3_directionOf_0 : cX3_directionOf.data.toList.drop 0 = dktX3_directionOf_0 := by decide +kernel
theorem dksX3_directionOf_1 : cX3_directionOf.data.toList.drop 23 = dktX3_directionOf_1 := dk_seg dksX3_directionOf_0 23 rfl rfl
theorem dX3_directionOf_0 : decode cX3_directionOf 0 = .ok (.iload_n 0, 1) := dk_26 (dk_at dksX3_directionOf_0 0 rfl rfl)
theorem dX3_directionOf_1 : decode cX3_directionOf 1 = .ok (.bipush 110, 2) := dk_16 110 (dk_at dksX3_directionOf_0 1 rfl rfl)
theorem dX3_directionOf_3 : decode cX3_directionOf 3 = .ok (.if_icmp .ne 7, 3) := dk_160 0 7 (dk_at dksX3_directionOf_0 3 rfl rfl)
theorem dX3_directionOf_6 : decode cX3_directionOf 6 = .ok (.iconst 0, 1) := dk_3 (dk_at dksX3_directionOf_0 6 rfl rfl)
theorem dX3_directionOf_7 : decode cX3_directionOf 7 = .ok (.goto 34, 3) := dk_167 0 34 (dk_at dksX3_directionOf_0 7 rfl rfl)
theorem dX3_directionOf_10 : decode cX3_directionOf 10 = .ok (.iload_n 0, 1) := dk_26 (dk_at dksX3_directionOf_0 10 rfl rfl)
theorem dX3_directionOf_11 : decode cX3_directionOf 11 = .ok (.bipush 101, 2) := dk_16 101 (dk_at dksX3_directionOf_0 11 rfl rfl)
theorem dX3_directionOf_13 : decode cX3_directionOf 13 = .ok (.if_icmp .ne 7, 3) := dk_160 0 7 (dk_at dksX3_directionOf_0 13 rfl rfl)
theorem dX3_directionOf_16 : decode cX3_directionOf 16 = .ok (.iconst 1, 1) := dk_4 (dk_at dksX3_directionOf_0 16 rfl rfl)
theorem dX3_directionOf_17 : decode cX3_directionOf 17 = .ok (.goto 24, 3) := dk_167 0 24 (dk_at dksX3_directionOf_0 17 rfl rfl)
theorem dX3_directionOf_20 : decode cX3_directionOf 20 = .ok (.iload_n 0, 1) := dk_26 (dk_at dksX3_directionOf_0 20 rfl rfl)
theorem dX3_directionOf_21 : decode cX3_directionOf 21 = .ok (.bipush 115, 2) := dk_16 115 (dk_at dksX3_directionOf_0 21 rfl rfl)
theorem dX3_directionOf_23 : decode cX3_directionOf 23 = .ok (.if_icmp .ne 7, 3) := dk_160 0 7 (dk_at dksX3_directionOf_1 0 rfl rfl)
theorem dX3_directionOf_26 : decode cX3_directionOf 26 = .ok (.iconst 2, 1) := dk_5 (dk_at dksX3_directionOf_1 3 rfl rfl)
theorem dX3_directionOf_27 : decode cX3_directionOf 27 = .ok (.goto 14, 3) := dk_167 0 14 (dk_at dksX3_directionOf_1 4 rfl rfl)
theorem dX3_directionOf_30 : decode cX3_directionOf 30 = .ok (.iload_n 0, 1) := dk_26 (dk_at dksX3_directionOf_1 7 rfl rfl)
theorem dX3_directionOf_31 : decode cX3_directionOf 31 = .ok (.bipush 119, 2) := dk_16 119 (dk_at dksX3_directionOf_1 8 rfl rfl)
theorem dX3_directionOf_33 : decode cX3_directionOf 33 = .ok (.if_icmp .ne 7, 3) := dk_160 0 7 (dk_at dksX3_directionOf_1 10 rfl rfl)
theorem dX3_directionOf_36 : decode cX3_directionOf 36 = .ok (.iconst 3, 1) := dk_6 (dk_at dksX3_directionOf_1 13 rfl rfl)
theorem dX3_directionOf_37 : decode cX3_directionOf 37 = .ok (.goto 4, 3) := dk_167 0 4 (dk_at dksX3_directionOf_1 14 rfl rfl)
theorem dX3_directionOf_40 : decode cX3_directionOf 40 = .ok (.iconst (-1), 1) := dk_2 (dk_at dksX3_directionOf_1 17 rfl rfl)
theorem dX3_directionOf_41 : decode cX3_directionOf 41 = .ok (.ireturn, 1) := dk_172 (dk_at dksX3_directionOf_1 18 rfl rfl)
abbrev cX3_does : ByteArray := prog_10_method_73_code
def yX3_does : MethodName := ⟨RX3, "does", "(I)V"⟩
def dkwX3_does_6 : List UInt8 := [42, 28, 29, 182, 0, 168, 87, 167, 0, 10, 42, 28, 29, 182, 0, 171, 87, 177]
abbrev dktX3_does_6 : List UInt8 := dkwX3_does_6 ++ []
def dkwX3_does_5 : List UInt8 := [167, 0, 41, 42, 28, 182, 0, 151, 87, 167, 0, 32, 42, 28, 29, 21, 4, 182, 0, 159, 87, 167, 0, 20]
abbrev dktX3_does_5 : List UInt8 := dkwX3_does_5 ++ dktX3_does_6
def dkwX3_does_4 : List UInt8 := [21, 4, 182, 0, 123, 87, 167, 0, 59, 42, 28, 182, 0, 134, 87, 167, 0, 50, 42, 28, 182, 0, 139, 87]
abbrev dktX3_does_4 : List UInt8 := dkwX3_does_4 ++ dktX3_does_5
def dkwX3_does_3 : List UInt8 := [42, 28, 29, 21, 4, 182, 0, 103, 87, 167, 0, 79, 42, 182, 0, 114, 87, 167, 0, 71, 42, 28, 29]
abbrev dktX3_does_3 : List UInt8 := dkwX3_does_3 ++ dktX3_does_4
def dkwX3_does_2 : List UInt8 := [170, 0, 0, 0, 0, 183, 0, 0, 0, 98, 0, 0, 0, 119, 0, 0, 0, 161, 0, 0, 0, 183, 0, 0, 0, 183, 0, 0, 0, 183, 0, 0, 0, 183, 0, 0, 0, 143, 0, 0, 0, 102, 0, 0, 0, 183, 0, 0, 0, 183, 0, 0, 0, 183, 0, 0, 0, 183, 0, 0, 0, 134, 0, 0, 0, 183, 0, 0, 0, 183, 0, 0, 0, 183, 0, 0, 0, 183, 0, 0, 0, 183, 0, 0, 0, 114, 0, 0, 0, 122, 0, 0, 0, 183, 0, 0, 0, 152, 0, 0, 0, 173]
abbrev dktX3_does_2 : List UInt8 := dkwX3_does_2 ++ dktX3_does_3
def dkwX3_does_1 : List UInt8 := [96, 46, 54, 4, 42, 180, 0, 32, 27, 46]
abbrev dktX3_does_1 : List UInt8 := dkwX3_does_1 ++ dktX3_does_2
def dkwX3_does_0 : List UInt8 := [42, 180, 0, 32, 27, 4, 96, 46, 61, 42, 180, 0, 32, 27, 5, 96, 46, 62, 42, 180, 0, 32, 27, 6]
abbrev dktX3_does_0 : List UInt8 := dkwX3_does_0 ++ dktX3_does_1
theorem dksX3_does_0 : cX3_does.data.toList.drop 0 = dktX3_does_0 := by decide +kernel
theorem dksX3_does_1 : cX3_does.data.toList.drop 24 = dktX3_does_1 := dk_seg dksX3_does_0 24 rfl rfl
theorem dksX3_does_2 : cX3_does.data.toList.drop 34 = dktX3_does_2 := dk_seg dksX3_does_1 10 rfl rfl
theorem dksX3_does_3 : cX3_does.data.toList.drop 136 = dktX3_does_3 := dk_seg dksX3_does_2 102 rfl rfl
theorem dksX3_does_4 : cX3_does.data.toList.drop 159 = dktX3_does_4 := dk_seg dksX3_does_3 23 rfl rfl
theorem dksX3_does_5 : cX3_does.data.toList.drop 183 = dktX3_does_5 := dk_seg dksX3_does_4 24 rfl rfl
theorem dksX3_does_6 : cX3_does.data.toList.drop 207 = dktX3_does_6 := dk_seg dksX3_does_5 24 rfl rfl
theorem dX3_does_0 : decode cX3_does 0 = .ok (.aload_n 0, 1) := dk_42 (dk_at dksX3_does_0 0 rfl rfl)
theorem dX3_does_1 : decode cX3_does 1 = .ok (.getfield 32, 3) := dk_180 0 32 (dk_at dksX3_does_0 1 rfl rfl)
theorem dX3_does_4 : decode cX3_does 4 = .ok (.iload_n 1, 1) := dk_27 (dk_at dksX3_does_0 4 rfl rfl)
theorem dX3_does_5 : decode cX3_does 5 = .ok (.iconst 1, 1) := dk_4 (dk_at dksX3_does_0 5 rfl rfl)
theorem dX3_does_6 : decode cX3_does 6 = .ok (.iadd, 1) := dk_96 (dk_at dksX3_does_0 6 rfl rfl)
theorem dX3_does_7 : decode cX3_does 7 = .ok (.iaload, 1) := dk_46 (dk_at dksX3_does_0 7 rfl rfl)
theorem dX3_does_8 : decode cX3_does 8 = .ok (.istore_n 2, 1) := dk_61 (dk_at dksX3_does_0 8 rfl rfl)
theorem dX3_does_9 : decode cX3_does 9 = .ok (.aload_n 0, 1) := dk_42 (dk_at dksX3_does_0 9 rfl rfl)
theorem dX3_does_10 : decode cX3_does 10 = .ok (.getfield 32, 3) := dk_180 0 32 (dk_at dksX3_does_0 10 rfl rfl)
theorem dX3_does_13 : decode cX3_does 13 = .ok (.iload_n 1, 1) := dk_27 (dk_at dksX3_does_0 13 rfl rfl)
theorem dX3_does_14 : decode cX3_does 14 = .ok (.iconst 2, 1) := dk_5 (dk_at dksX3_does_0 14 rfl rfl)
theorem dX3_does_15 : decode cX3_does 15 = .ok (.iadd, 1) := dk_96 (dk_at dksX3_does_0 15 rfl rfl)
theorem dX3_does_16 : decode cX3_does 16 = .ok (.iaload, 1) := dk_46 (dk_at dksX3_does_0 16 rfl rfl)
theorem dX3_does_17 : decode cX3_does 17 = .ok (.istore_n 3, 1) := dk_62 (dk_at dksX3_does_0 17 rfl rfl)
theorem dX3_does_18 : decode cX3_does 18 = .ok (.aload_n 0, 1) := dk_42 (dk_at dksX3_does_0 18 rfl rfl)
theorem dX3_does_19 : decode cX3_does 19 = .ok (.getfield 32, 3) := dk_180 0 32 (dk_at dksX3_does_0 19 rfl rfl)
theorem dX3_does_22 : decode cX3_does 22 = .ok (.iload_n 1, 1) := dk_27 (dk_at dksX3_does_0 22 rfl rfl)
theorem dX3_does_23 : decode cX3_does 23 = .ok (.iconst 3, 1) := dk_6 (dk_at dksX3_does_0 23 rfl rfl)
theorem dX3_does_24 : decode cX3_does 24 = .ok (.iadd, 1) := dk_96 (dk_at dksX3_does_1 0 rfl rfl)
theorem dX3_does_25 : decode cX3_does 25 = .ok (.iaload, 1) := dk_46 (dk_at dksX3_does_1 1 rfl rfl)
theorem dX3_does_26 : decode cX3_does 26 = .ok (.istore 4, 2) := dk_54 4 (dk_at dksX3_does_1 2 rfl rfl)
theorem dX3_does_28 : decode cX3_does 28 = .ok (.aload_n 0, 1) := dk_42 (dk_at dksX3_does_1 4 rfl rfl)
theorem dX3_does_29 : decode cX3_does 29 = .ok (.getfield 32, 3) := dk_180 0 32 (dk_at dksX3_does_1 5 rfl rfl)
theorem dX3_does_32 : decode cX3_does 32 = .ok (.iload_n 1, 1) := dk_27 (dk_at dksX3_does_1 8 rfl rfl)
theorem dX3_does_33 : decode cX3_does 33 = .ok (.iaload, 1) := dk_46 (dk_at dksX3_does_1 9 rfl rfl)
theorem dX3_does_34 : decode cX3_does 34 = .ok (.tableswitch 183 98 119 #[161, 183, 183, 183, 183, 143, 102, 183, 183, 183, 183, 134, 183, 183, 183, 183, 183, 114, 122, 183, 152, 173], 102) := by decide +kernel
theorem dX3_does_136 : decode cX3_does 136 = .ok (.aload_n 0, 1) := dk_42 (dk_at dksX3_does_3 0 rfl rfl)
theorem dX3_does_137 : decode cX3_does 137 = .ok (.iload_n 2, 1) := dk_28 (dk_at dksX3_does_3 1 rfl rfl)
theorem dX3_does_138 : decode cX3_does 138 = .ok (.iload_n 3, 1) := dk_29 (dk_at dksX3_does_3 2 rfl rfl)
theorem dX3_does_139 : decode cX3_does 139 = .ok (.iload 4, 2) := dk_21 4 (dk_at dksX3_does_3 3 rfl rfl)
theorem dX3_does_141 : decode cX3_does 141 = .ok (.invokevirtual 103, 3) := dk_182 0 103 (dk_at dksX3_does_3 5 rfl rfl)
theorem dX3_does_144 : decode cX3_does 144 = .ok (.pop, 1) := dk_87 (dk_at dksX3_does_3 8 rfl rfl)
theorem dX3_does_145 : decode cX3_does 145 = .ok (.goto 79, 3) := dk_167 0 79 (dk_at dksX3_does_3 9 rfl rfl)
theorem dX3_does_148 : decode cX3_does 148 = .ok (.aload_n 0, 1) := dk_42 (dk_at dksX3_does_3 12 rfl rfl)
theorem dX3_does_149 : decode cX3_does 149 = .ok (.invokevirtual 114, 3) := dk_182 0 114 (dk_at dksX3_does_3 13 rfl rfl)
theorem dX3_does_152 : decode cX3_does 152 = .ok (.pop, 1) := dk_87 (dk_at dksX3_does_3 16 rfl rfl)
theorem dX3_does_153 : decode cX3_does 153 = .ok (.goto 71, 3) := dk_167 0 71 (dk_at dksX3_does_3 17 rfl rfl)
theorem dX3_does_156 : decode cX3_does 156 = .ok (.aload_n 0, 1) := dk_42 (dk_at dksX3_does_3 20 rfl rfl)
theorem dX3_does_157 : decode cX3_does 157 = .ok (.iload_n 2, 1) := dk_28 (dk_at dksX3_does_3 21 rfl rfl)
theorem dX3_does_158 : decode cX3_does 158 = .ok (.iload_n 3, 1) := dk_29 (dk_at dksX3_does_3 22 rfl rfl)
theorem dX3_does_159 : decode cX3_does 159 = .ok (.iload 4, 2) := dk_21 4 (dk_at dksX3_does_4 0 rfl rfl)
theorem dX3_does_161 : decode cX3_does 161 = .ok (.invokevirtual 123, 3) := dk_182 0 123 (dk_at dksX3_does_4 2 rfl rfl)
theorem dX3_does_164 : decode cX3_does 164 = .ok (.pop, 1) := dk_87 (dk_at dksX3_does_4 5 rfl rfl)
theorem dX3_does_165 : decode cX3_does 165 = .ok (.goto 59, 3) := dk_167 0 59 (dk_at dksX3_does_4 6 rfl rfl)
theorem dX3_does_168 : decode cX3_does 168 = .ok (.aload_n 0, 1) := dk_42 (dk_at dksX3_does_4 9 rfl rfl)
theorem dX3_does_169 : decode cX3_does 169 = .ok (.iload_n 2, 1) := dk_28 (dk_at dksX3_does_4 10 rfl rfl)
theorem dX3_does_170 : decode cX3_does 170 = .ok (.invokevirtual 134, 3) := dk_182 0 134 (dk_at dksX3_does_4 11 rfl rfl)
theorem dX3_does_173 : decode cX3_does 173 = .ok (.pop, 1) := dk_87 (dk_at dksX3_does_4 14 rfl rfl)
theorem dX3_does_174 : decode cX3_does 174 = .ok (.goto 50, 3) := dk_167 0 50 (dk_at dksX3_does_4 15 rfl rfl)
theorem dX3_does_177 : decode cX3_does 177 = .ok (.aload_n 0, 1) := dk_42 (dk_at dksX3_does_4 18 rfl rfl)
theorem dX3_does_178 : decode cX3_does 178 = .ok (.iload_n 2, 1) := dk_28 (dk_at dksX3_does_4 19 rfl rfl)
theorem dX3_does_179 : decode cX3_does 179 = .ok (.invokevirtual 139, 3) := dk_182 0 139 (dk_at dksX3_does_4 20 rfl rfl)
theorem dX3_does_182 : decode cX3_does 182 = .ok (.pop, 1) := dk_87 (dk_at dksX3_does_4 23 rfl rfl)
theorem dX3_does_183 : decode cX3_does 183 = .ok (.goto 41, 3) := dk_167 0 41 (dk_at dksX3_does_5 0 rfl rfl)
theorem dX3_does_186 : decode cX3_does 186 = .ok (.aload_n 0, 1) := dk_42 (dk_at dksX3_does_5 3 rfl rfl)
theorem dX3_does_187 : decode cX3_does 187 = .ok (.iload_n 2, 1) := dk_28 (dk_at dksX3_does_5 4 rfl rfl)
theorem dX3_does_188 : decode cX3_does 188 = .ok (.invokevirtual 151, 3) := dk_182 0 151 (dk_at dksX3_does_5 5 rfl rfl)
theorem dX3_does_191 : decode cX3_does 191 = .ok (.pop, 1) := dk_87 (dk_at dksX3_does_5 8 rfl rfl)
theorem dX3_does_192 : decode cX3_does 192 = .ok (.goto 32, 3) := dk_167 0 32 (dk_at dksX3_does_5 9 rfl rfl)
theorem dX3_does_195 : decode cX3_does 195 = .ok (.aload_n 0, 1) := dk_42 (dk_at dksX3_does_5 12 rfl rfl)
theorem dX3_does_196 : decode cX3_does 196 = .ok (.iload_n 2, 1) := dk_28 (dk_at dksX3_does_5 13 rfl rfl)
theorem dX3_does_197 : decode cX3_does 197 = .ok (.iload_n 3, 1) := dk_29 (dk_at dksX3_does_5 14 rfl rfl)
theorem dX3_does_198 : decode cX3_does 198 = .ok (.iload 4, 2) := dk_21 4 (dk_at dksX3_does_5 15 rfl rfl)
theorem dX3_does_200 : decode cX3_does 200 = .ok (.invokevirtual 159, 3) := dk_182 0 159 (dk_at dksX3_does_5 17 rfl rfl)
theorem dX3_does_203 : decode cX3_does 203 = .ok (.pop, 1) := dk_87 (dk_at dksX3_does_5 20 rfl rfl)
theorem dX3_does_204 : decode cX3_does 204 = .ok (.goto 20, 3) := dk_167 0 20 (dk_at dksX3_does_5 21 rfl rfl)
theorem dX3_does_207 : decode cX3_does 207 = .ok (.aload_n 0, 1) := dk_42 (dk_at dksX3_does_6 0 rfl rfl)
theorem dX3_does_208 : decode cX3_does 208 = .ok (.iload_n 2, 1) := dk_28 (dk_at dksX3_does_6 1 rfl rfl)
theorem dX3_does_209 : decode cX3_does 209 = .ok (.iload_n 3, 1) := dk_29 (dk_at dksX3_does_6 2 rfl rfl)
theorem dX3_does_210 : decode cX3_does 210 = .ok (.invokevirtual 168, 3) := dk_182 0 168 (dk_at dksX3_does_6 3 rfl rfl)
theorem dX3_does_213 : decode cX3_does 213 = .ok (.pop, 1) := dk_87 (dk_at dksX3_does_6 6 rfl rfl)
theorem dX3_does_214 : decode cX3_does 214 = .ok (.goto 10, 3) := dk_167 0 10 (dk_at dksX3_does_6 7 rfl rfl)
theorem dX3_does_217 : decode cX3_does 217 = .ok (.aload_n 0, 1) := dk_42 (dk_at dksX3_does_6 10 rfl rfl)
theorem dX3_does_218 : decode cX3_does 218 = .ok (.iload_n 2, 1) := dk_28 (dk_at dksX3_does_6 11 rfl rfl)
theorem dX3_does_219 : decode cX3_does 219 = .ok (.iload_n 3, 1) := dk_29 (dk_at dksX3_does_6 12 rfl rfl)
theorem dX3_does_220 : decode cX3_does 220 = .ok (.invokevirtual 171, 3) := dk_182 0 171 (dk_at dksX3_does_6 13 rfl rfl)
theorem dX3_does_223 : decode cX3_does 223 = .ok (.pop, 1) := dk_87 (dk_at dksX3_does_6 16 rfl rfl)
theorem dX3_does_224 : decode cX3_does 224 = .ok (.return_, 1) := dk_177 (dk_at dksX3_does_6 17 rfl rfl)
abbrev cX3_faultPosition : ByteArray := prog_10_method_75_code
def yX3_faultPosition : MethodName := ⟨RX3, "faultPosition", "()I"⟩
def dkwX3_faultPosition_0 : List UInt8 := [42, 3, 181, 0, 38, 42, 180, 0, 22, 172]
abbrev dktX3_faultPosition_0 : List UInt8 := dkwX3_faultPosition_0 ++ []
theorem dksX3_faultPosition_0 : cX3_faultPosition.data.toList.drop 0 = dktX3_faultPosition_0 := by decide +kernel
theorem dX3_faultPosition_0 : decode cX3_faultPosition 0 = .ok (.aload_n 0, 1) := dk_42 (dk_at dksX3_faultPosition_0 0 rfl rfl)
theorem dX3_faultPosition_1 : decode cX3_faultPosition 1 = .ok (.iconst 0, 1) := dk_3 (dk_at dksX3_faultPosition_0 1 rfl rfl)
theorem dX3_faultPosition_2 : decode cX3_faultPosition 2 = .ok (.putfield 38, 3) := dk_181 0 38 (dk_at dksX3_faultPosition_0 2 rfl rfl)
theorem dX3_faultPosition_5 : decode cX3_faultPosition 5 = .ok (.aload_n 0, 1) := dk_42 (dk_at dksX3_faultPosition_0 5 rfl rfl)
theorem dX3_faultPosition_6 : decode cX3_faultPosition 6 = .ok (.getfield 22, 3) := dk_180 0 22 (dk_at dksX3_faultPosition_0 6 rfl rfl)
theorem dX3_faultPosition_9 : decode cX3_faultPosition 9 = .ok (.ireturn, 1) := dk_172 (dk_at dksX3_faultPosition_0 9 rfl rfl)
abbrev cX3_reason : ByteArray := prog_10_method_76_code
def yX3_reason : MethodName := ⟨RX3, "reason", "(I)I"⟩
def dkwX3_reason_2 : List UInt8 := [4, 160, 0, 10, 42, 180, 0, 44, 167, 0, 7, 42, 180, 0, 47, 172]
abbrev dktX3_reason_2 : List UInt8 := dkwX3_reason_2 ++ []
def dkwX3_reason_1 : List UInt8 := [180, 0, 41, 154, 0, 9, 42, 5, 182, 0, 50, 172, 27, 154, 0, 10, 42, 180, 0, 41, 167, 0, 19, 27]
abbrev dktX3_reason_1 : List UInt8 := dkwX3_reason_1 ++ dktX3_reason_2
def dkwX3_reason_0 : List UInt8 := [42, 3, 181, 0, 38, 27, 133, 9, 20, 0, 241, 184, 0, 59, 154, 0, 9, 42, 4, 182, 0, 50, 172, 42]
abbrev dktX3_reason_0 : List UInt8 := dkwX3_reason_0 ++ dktX3_reason_1
theorem dksX3_reason_0 : cX3_reason.data.toList.drop 0 = dktX3_reason_0 := by decide +kernel
theorem dksX3_reason_1 : cX3_reason.data.toList.drop 24 = dktX3_reason_1 := dk_seg dksX3_reason_0 24 rfl rfl
theorem dksX3_reason_2 : cX3_reason.data.toList.drop 48 = dktX3_reason_2 := dk_seg dksX3_reason_1 24 rfl rfl
theorem dX3_reason_0 : decode cX3_reason 0 = .ok (.aload_n 0, 1) := dk_42 (dk_at dksX3_reason_0 0 rfl rfl)
theorem dX3_reason_1 : decode cX3_reason 1 = .ok (.iconst 0, 1) := dk_3 (dk_at dksX3_reason_0 1 rfl rfl)
theorem dX3_reason_2 : decode cX3_reason 2 = .ok (.putfield 38, 3) := dk_181 0 38 (dk_at dksX3_reason_0 2 rfl rfl)
theorem dX3_reason_5 : decode cX3_reason 5 = .ok (.iload_n 1, 1) := dk_27 (dk_at dksX3_reason_0 5 rfl rfl)
theorem dX3_reason_6 : decode cX3_reason 6 = .ok (.i2l, 1) := dk_133 (dk_at dksX3_reason_0 6 rfl rfl)
theorem dX3_reason_7 : decode cX3_reason 7 = .ok (.lconst 0, 1) := dk_9 (dk_at dksX3_reason_0 7 rfl rfl)
theorem dX3_reason_8 : decode cX3_reason 8 = .ok (.ldc2_w 241, 3) := dk_20 0 241 (dk_at dksX3_reason_0 8 rfl rfl)
theorem dX3_reason_11 : decode cX3_reason 11 = .ok (.invokestatic 59, 3) := dk_184 0 59 (dk_at dksX3_reason_0 11 rfl rfl)
theorem dX3_reason_14 : decode cX3_reason 14 = .ok (.ifCond .ne 9, 3) := dk_154 0 9 (dk_at dksX3_reason_0 14 rfl rfl)
theorem dX3_reason_17 : decode cX3_reason 17 = .ok (.aload_n 0, 1) := dk_42 (dk_at dksX3_reason_0 17 rfl rfl)
theorem dX3_reason_18 : decode cX3_reason 18 = .ok (.iconst 1, 1) := dk_4 (dk_at dksX3_reason_0 18 rfl rfl)
theorem dX3_reason_19 : decode cX3_reason 19 = .ok (.invokevirtual 50, 3) := dk_182 0 50 (dk_at dksX3_reason_0 19 rfl rfl)
theorem dX3_reason_22 : decode cX3_reason 22 = .ok (.ireturn, 1) := dk_172 (dk_at dksX3_reason_0 22 rfl rfl)
theorem dX3_reason_23 : decode cX3_reason 23 = .ok (.aload_n 0, 1) := dk_42 (dk_at dksX3_reason_0 23 rfl rfl)
theorem dX3_reason_24 : decode cX3_reason 24 = .ok (.getfield 41, 3) := dk_180 0 41 (dk_at dksX3_reason_1 0 rfl rfl)
theorem dX3_reason_27 : decode cX3_reason 27 = .ok (.ifCond .ne 9, 3) := dk_154 0 9 (dk_at dksX3_reason_1 3 rfl rfl)
theorem dX3_reason_30 : decode cX3_reason 30 = .ok (.aload_n 0, 1) := dk_42 (dk_at dksX3_reason_1 6 rfl rfl)
theorem dX3_reason_31 : decode cX3_reason 31 = .ok (.iconst 2, 1) := dk_5 (dk_at dksX3_reason_1 7 rfl rfl)
theorem dX3_reason_32 : decode cX3_reason 32 = .ok (.invokevirtual 50, 3) := dk_182 0 50 (dk_at dksX3_reason_1 8 rfl rfl)
theorem dX3_reason_35 : decode cX3_reason 35 = .ok (.ireturn, 1) := dk_172 (dk_at dksX3_reason_1 11 rfl rfl)
theorem dX3_reason_36 : decode cX3_reason 36 = .ok (.iload_n 1, 1) := dk_27 (dk_at dksX3_reason_1 12 rfl rfl)
theorem dX3_reason_37 : decode cX3_reason 37 = .ok (.ifCond .ne 10, 3) := dk_154 0 10 (dk_at dksX3_reason_1 13 rfl rfl)
theorem dX3_reason_40 : decode cX3_reason 40 = .ok (.aload_n 0, 1) := dk_42 (dk_at dksX3_reason_1 16 rfl rfl)
theorem dX3_reason_41 : decode cX3_reason 41 = .ok (.getfield 41, 3) := dk_180 0 41 (dk_at dksX3_reason_1 17 rfl rfl)
theorem dX3_reason_44 : decode cX3_reason 44 = .ok (.goto 19, 3) := dk_167 0 19 (dk_at dksX3_reason_1 20 rfl rfl)
theorem dX3_reason_47 : decode cX3_reason 47 = .ok (.iload_n 1, 1) := dk_27 (dk_at dksX3_reason_1 23 rfl rfl)
theorem dX3_reason_48 : decode cX3_reason 48 = .ok (.iconst 1, 1) := dk_4 (dk_at dksX3_reason_2 0 rfl rfl)
theorem dX3_reason_49 : decode cX3_reason 49 = .ok (.if_icmp .ne 10, 3) := dk_160 0 10 (dk_at dksX3_reason_2 1 rfl rfl)
theorem dX3_reason_52 : decode cX3_reason 52 = .ok (.aload_n 0, 1) := dk_42 (dk_at dksX3_reason_2 4 rfl rfl)
theorem dX3_reason_53 : decode cX3_reason 53 = .ok (.getfield 44, 3) := dk_180 0 44 (dk_at dksX3_reason_2 5 rfl rfl)
theorem dX3_reason_56 : decode cX3_reason 56 = .ok (.goto 7, 3) := dk_167 0 7 (dk_at dksX3_reason_2 8 rfl rfl)
theorem dX3_reason_59 : decode cX3_reason 59 = .ok (.aload_n 0, 1) := dk_42 (dk_at dksX3_reason_2 11 rfl rfl)
theorem dX3_reason_60 : decode cX3_reason 60 = .ok (.getfield 47, 3) := dk_180 0 47 (dk_at dksX3_reason_2 12 rfl rfl)
theorem dX3_reason_63 : decode cX3_reason 63 = .ok (.ireturn, 1) := dk_172 (dk_at dksX3_reason_2 15 rfl rfl)
abbrev cX3_line : ByteArray := prog_10_method_79_code
def yX3_line : MethodName := ⟨RX3, "line", "(I)I"⟩
def dkwX3_line_6 : List UInt8 := [180, 0, 9, 28, 16, 6, 96, 46, 4, 160, 0, 9, 42, 16, 33, 182, 0, 246, 42, 180, 0, 243, 172]
abbrev dktX3_line_6 : List UInt8 := dkwX3_line_6 ++ []
def dkwX3_line_5 : List UInt8 := [96, 46, 182, 0, 249, 42, 16, 42, 182, 0, 246, 42, 42, 180, 0, 9, 28, 8, 96, 46, 182, 0, 249, 42]
abbrev dktX3_line_5 : List UInt8 := dkwX3_line_5 ++ dktX3_line_6
def dkwX3_line_4 : List UInt8 := [180, 0, 9, 28, 7, 96, 46, 2, 159, 0, 58, 42, 16, 35, 182, 0, 246, 42, 42, 180, 0, 9, 28, 7]
abbrev dktX3_line_4 : List UInt8 := dkwX3_line_4 ++ dktX3_line_5
def dkwX3_line_3 : List UInt8 := [182, 0, 249, 42, 16, 43, 182, 0, 246, 42, 42, 180, 0, 9, 28, 5, 96, 46, 182, 0, 249, 42]
abbrev dktX3_line_3 : List UInt8 := dkwX3_line_3 ++ dktX3_line_4
def dkwX3_line_2 : List UInt8 := [42, 16, 117, 182, 0, 246, 42, 16, 116, 182, 0, 246, 167, 0, 15, 42, 42, 180, 0, 9, 28, 4, 96, 46]
abbrev dktX3_line_2 : List UInt8 := dkwX3_line_2 ++ dktX3_line_3
def dkwX3_line_1 : List UInt8 := [42, 3, 181, 0, 243, 42, 180, 0, 9, 28, 16, 7, 96, 46, 4, 160, 0, 24, 42, 16, 111, 182, 0, 246]
abbrev dktX3_line_1 : List UInt8 := dkwX3_line_1 ++ dktX3_line_2
def dkwX3_line_0 : List UInt8 := [42, 3, 181, 0, 38, 42, 27, 182, 0, 154, 154, 0, 9, 42, 4, 182, 0, 50, 172, 27, 184, 0, 126, 61]
abbrev dktX3_line_0 : List UInt8 := dkwX3_line_0 ++ dktX3_line_1
theorem dksX3_line_0 : cX3_line.data.toList.drop 0 = dktX3_line_0 := by decide +kernel
theorem dksX3_line_1 : cX3_line.data.toList.drop 24 = dktX3_line_1 := dk_seg dksX3_line_0 24 rfl rfl
theorem dksX3_line_2 : cX3_line.data.toList.drop 48 = dktX3_line_2 := dk_seg dksX3_line_1 24 rfl rfl
theorem dksX3_line_3 : cX3_line.data.toList.drop 72 = dktX3_line_3 := dk_seg dksX3_line_2 24 rfl rfl
theorem dksX3_line_4 : cX3_line.data.toList.drop 94 = dktX3_line_4 := dk_seg dksX3_line_3 22 rfl rfl
theorem dksX3_line_5 : cX3_line.data.toList.drop 118 = dktX3_line_5 := dk_seg dksX3_line_4 24 rfl rfl
theorem dksX3_line_6 : cX3_line.data.toList.drop 142 = dktX3_line_6 := dk_seg dksX3_line_5 24 rfl rfl
theorem dX3_line_0 : decode cX3_line 0 = .ok (.aload_n 0, 1) := dk_42 (dk_at dksX3_line_0 0 rfl rfl)
theorem dX3_line_1 : decode cX3_line 1 = .ok (.iconst 0, 1) := dk_3 (dk_at dksX3_line_0 1 rfl rfl)
theorem dX3_line_2 : decode cX3_line 2 = .ok (.putfield 38, 3) := dk_181 0 38 (dk_at dksX3_line_0 2 rfl rfl)
theorem dX3_line_5 : decode cX3_line 5 = .ok (.aload_n 0, 1) := dk_42 (dk_at dksX3_line_0 5 rfl rfl)
theorem dX3_line_6 : decode cX3_line 6 = .ok (.iload_n 1, 1) := dk_27 (dk_at dksX3_line_0 6 rfl rfl)
theorem dX3_line_7 : decode cX3_line 7 = .ok (.invokevirtual 154, 3) := dk_182 0 154 (dk_at dksX3_line_0 7 rfl rfl)
theorem dX3_line_10 : decode cX3_line 10 = .ok (.ifCond .ne 9, 3) := dk_154 0 9 (dk_at dksX3_line_0 10 rfl rfl)
theorem dX3_line_13 : decode cX3_line 13 = .ok (.aload_n 0, 1) := dk_42 (dk_at dksX3_line_0 13 rfl rfl)
theorem dX3_line_14 : decode cX3_line 14 = .ok (.iconst 1, 1) := dk_4 (dk_at dksX3_line_0 14 rfl rfl)
theorem dX3_line_15 : decode cX3_line 15 = .ok (.invokevirtual 50, 3) := dk_182 0 50 (dk_at dksX3_line_0 15 rfl rfl)
theorem dX3_line_18 : decode cX3_line 18 = .ok (.ireturn, 1) := dk_172 (dk_at dksX3_line_0 18 rfl rfl)
theorem dX3_line_19 : decode cX3_line 19 = .ok (.iload_n 1, 1) := dk_27 (dk_at dksX3_line_0 19 rfl rfl)
theorem dX3_line_20 : decode cX3_line 20 = .ok (.invokestatic 126, 3) := dk_184 0 126 (dk_at dksX3_line_0 20 rfl rfl)
theorem dX3_line_23 : decode cX3_line 23 = .ok (.istore_n 2, 1) := dk_61 (dk_at dksX3_line_0 23 rfl rfl)
theorem dX3_line_24 : decode cX3_line 24 = .ok (.aload_n 0, 1) := dk_42 (dk_at dksX3_line_1 0 rfl rfl)
theorem dX3_line_25 : decode cX3_line 25 = .ok (.iconst 0, 1) := dk_3 (dk_at dksX3_line_1 1 rfl rfl)
theorem dX3_line_26 : decode cX3_line 26 = .ok (.putfield 243, 3) := dk_181 0 243 (dk_at dksX3_line_1 2 rfl rfl)
theorem dX3_line_29 : decode cX3_line 29 = .ok (.aload_n 0, 1) := dk_42 (dk_at dksX3_line_1 5 rfl rfl)
theorem dX3_line_30 : decode cX3_line 30 = .ok (.getfield 9, 3) := dk_180 0 9 (dk_at dksX3_line_1 6 rfl rfl)
theorem dX3_line_33 : decode cX3_line 33 = .ok (.iload_n 2, 1) := dk_28 (dk_at dksX3_line_1 9 rfl rfl)
theorem dX3_line_34 : decode cX3_line 34 = .ok (.bipush 7, 2) := dk_16 7 (dk_at dksX3_line_1 10 rfl rfl)
theorem dX3_line_36 : decode cX3_line 36 = .ok (.iadd, 1) := dk_96 (dk_at dksX3_line_1 12 rfl rfl)
theorem dX3_line_37 : decode cX3_line 37 = .ok (.iaload, 1) := dk_46 (dk_at dksX3_line_1 13 rfl rfl)
theorem dX3_line_38 : decode cX3_line 38 = .ok (.iconst 1, 1) := dk_4 (dk_at dksX3_line_1 14 rfl rfl)
theorem dX3_line_39 : decode cX3_line 39 = .ok (.if_icmp .ne 24, 3) := dk_160 0 24 (dk_at dksX3_line_1 15 rfl rfl)
theorem dX3_line_42 : decode cX3_line 42 = .ok (.aload_n 0, 1) := dk_42 (dk_at dksX3_line_1 18 rfl rfl)
theorem dX3_line_43 : decode cX3_line 43 = .ok (.bipush 111, 2) := dk_16 111 (dk_at dksX3_line_1 19 rfl rfl)
theorem dX3_line_45 : decode cX3_line 45 = .ok (.invokevirtual 246, 3) := dk_182 0 246 (dk_at dksX3_line_1 21 rfl rfl)
theorem dX3_line_48 : decode cX3_line 48 = .ok (.aload_n 0, 1) := dk_42 (dk_at dksX3_line_2 0 rfl rfl)
theorem dX3_line_49 : decode cX3_line 49 = .ok (.bipush 117, 2) := dk_16 117 (dk_at dksX3_line_2 1 rfl rfl)
theorem dX3_line_51 : decode cX3_line 51 = .ok (.invokevirtual 246, 3) := dk_182 0 246 (dk_at dksX3_line_2 3 rfl rfl)
theorem dX3_line_54 : decode cX3_line 54 = .ok (.aload_n 0, 1) := dk_42 (dk_at dksX3_line_2 6 rfl rfl)
theorem dX3_line_55 : decode cX3_line 55 = .ok (.bipush 116, 2) := dk_16 116 (dk_at dksX3_line_2 7 rfl rfl)
theorem dX3_line_57 : decode cX3_line 57 = .ok (.invokevirtual 246, 3) := dk_182 0 246 (dk_at dksX3_line_2 9 rfl rfl)
theorem dX3_line_60 : decode cX3_line 60 = .ok (.goto 15, 3) := dk_167 0 15 (dk_at dksX3_line_2 12 rfl rfl)
theorem dX3_line_63 : decode cX3_line 63 = .ok (.aload_n 0, 1) := dk_42 (dk_at dksX3_line_2 15 rfl rfl)
theorem dX3_line_64 : decode cX3_line 64 = .ok (.aload_n 0, 1) := dk_42 (dk_at dksX3_line_2 16 rfl rfl)
theorem dX3_line_65 : decode cX3_line 65 = .ok (.getfield 9, 3) := dk_180 0 9 (dk_at dksX3_line_2 17 rfl rfl)
theorem dX3_line_68 : decode cX3_line 68 = .ok (.iload_n 2, 1) := dk_28 (dk_at dksX3_line_2 20 rfl rfl)
theorem dX3_line_69 : decode cX3_line 69 = .ok (.iconst 1, 1) := dk_4 (dk_at dksX3_line_2 21 rfl rfl)
theorem dX3_line_70 : decode cX3_line 70 = .ok (.iadd, 1) := dk_96 (dk_at dksX3_line_2 22 rfl rfl)
theorem dX3_line_71 : decode cX3_line 71 = .ok (.iaload, 1) := dk_46 (dk_at dksX3_line_2 23 rfl rfl)
theorem dX3_line_72 : decode cX3_line 72 = .ok (.invokevirtual 249, 3) := dk_182 0 249 (dk_at dksX3_line_3 0 rfl rfl)
theorem dX3_line_75 : decode cX3_line 75 = .ok (.aload_n 0, 1) := dk_42 (dk_at dksX3_line_3 3 rfl rfl)
theorem dX3_line_76 : decode cX3_line 76 = .ok (.bipush 43, 2) := dk_16 43 (dk_at dksX3_line_3 4 rfl rfl)
theorem dX3_line_78 : decode cX3_line 78 = .ok (.invokevirtual 246, 3) := dk_182 0 246 (dk_at dksX3_line_3 6 rfl rfl)
theorem dX3_line_81 : decode cX3_line 81 = .ok (.aload_n 0, 1) := dk_42 (dk_at dksX3_line_3 9 rfl rfl)
theorem dX3_line_82 : decode cX3_line 82 = .ok (.aload_n 0, 1) := dk_42 (dk_at dksX3_line_3 10 rfl rfl)
theorem dX3_line_83 : decode cX3_line 83 = .ok (.getfield 9, 3) := dk_180 0 9 (dk_at dksX3_line_3 11 rfl rfl)
theorem dX3_line_86 : decode cX3_line 86 = .ok (.iload_n 2, 1) := dk_28 (dk_at dksX3_line_3 14 rfl rfl)
theorem dX3_line_87 : decode cX3_line 87 = .ok (.iconst 2, 1) := dk_5 (dk_at dksX3_line_3 15 rfl rfl)
theorem dX3_line_88 : decode cX3_line 88 = .ok (.iadd, 1) := dk_96 (dk_at dksX3_line_3 16 rfl rfl)
theorem dX3_line_89 : decode cX3_line 89 = .ok (.iaload, 1) := dk_46 (dk_at dksX3_line_3 17 rfl rfl)
theorem dX3_line_90 : decode cX3_line 90 = .ok (.invokevirtual 249, 3) := dk_182 0 249 (dk_at dksX3_line_3 18 rfl rfl)
theorem dX3_line_93 : decode cX3_line 93 = .ok (.aload_n 0, 1) := dk_42 (dk_at dksX3_line_3 21 rfl rfl)
theorem dX3_line_94 : decode cX3_line 94 = .ok (.getfield 9, 3) := dk_180 0 9 (dk_at dksX3_line_4 0 rfl rfl)
theorem dX3_line_97 : decode cX3_line 97 = .ok (.iload_n 2, 1) := dk_28 (dk_at dksX3_line_4 3 rfl rfl)
theorem dX3_line_98 : decode cX3_line 98 = .ok (.iconst 4, 1) := dk_7 (dk_at dksX3_line_4 4 rfl rfl)
theorem dX3_line_99 : decode cX3_line 99 = .ok (.iadd, 1) := dk_96 (dk_at dksX3_line_4 5 rfl rfl)
theorem dX3_line_100 : decode cX3_line 100 = .ok (.iaload, 1) := dk_46 (dk_at dksX3_line_4 6 rfl rfl)
theorem dX3_line_101 : decode cX3_line 101 = .ok (.iconst (-1), 1) := dk_2 (dk_at dksX3_line_4 7 rfl rfl)
theorem dX3_line_102 : decode cX3_line 102 = .ok (.if_icmp .eq 58, 3) := dk_159 0 58 (dk_at dksX3_line_4 8 rfl rfl)
theorem dX3_line_105 : decode cX3_line 105 = .ok (.aload_n 0, 1) := dk_42 (dk_at dksX3_line_4 11 rfl rfl)
theorem dX3_line_106 : decode cX3_line 106 = .ok (.bipush 35, 2) := dk_16 35 (dk_at dksX3_line_4 12 rfl rfl)
theorem dX3_line_108 : decode cX3_line 108 = .ok (.invokevirtual 246, 3) := dk_182 0 246 (dk_at dksX3_line_4 14 rfl rfl)
theorem dX3_line_111 : decode cX3_line 111 = .ok (.aload_n 0, 1) := dk_42 (dk_at dksX3_line_4 17 rfl rfl)
theorem dX3_line_112 : decode cX3_line 112 = .ok (.aload_n 0, 1) := dk_42 (dk_at dksX3_line_4 18 rfl rfl)
theorem dX3_line_113 : decode cX3_line 113 = .ok (.getfield 9, 3) := dk_180 0 9 (dk_at dksX3_line_4 19 rfl rfl)
theorem dX3_line_116 : decode cX3_line 116 = .ok (.iload_n 2, 1) := dk_28 (dk_at dksX3_line_4 22 rfl rfl)
theorem dX3_line_117 : decode cX3_line 117 = .ok (.iconst 4, 1) := dk_7 (dk_at dksX3_line_4 23 rfl rfl)
theorem dX3_line_118 : decode cX3_line 118 = .ok (.iadd, 1) := dk_96 (dk_at dksX3_line_5 0 rfl rfl)
theorem dX3_line_119 : decode cX3_line 119 = .ok (.iaload, 1) := dk_46 (dk_at dksX3_line_5 1 rfl rfl)
theorem dX3_line_120 : decode cX3_line 120 = .ok (.invokevirtual 249, 3) := dk_182 0 249 (dk_at dksX3_line_5 2 rfl rfl)
theorem dX3_line_123 : decode cX3_line 123 = .ok (.aload_n 0, 1) := dk_42 (dk_at dksX3_line_5 5 rfl rfl)
theorem dX3_line_124 : decode cX3_line 124 = .ok (.bipush 42, 2) := dk_16 42 (dk_at dksX3_line_5 6 rfl rfl)
theorem dX3_line_126 : decode cX3_line 126 = .ok (.invokevirtual 246, 3) := dk_182 0 246 (dk_at dksX3_line_5 8 rfl rfl)
theorem dX3_line_129 : decode cX3_line 129 = .ok (.aload_n 0, 1) := dk_42 (dk_at dksX3_line_5 11 rfl rfl)
theorem dX3_line_130 : decode cX3_line 130 = .ok (.aload_n 0, 1) := dk_42 (dk_at dksX3_line_5 12 rfl rfl)
theorem dX3_line_131 : decode cX3_line 131 = .ok (.getfield 9, 3) := dk_180 0 9 (dk_at dksX3_line_5 13 rfl rfl)
theorem dX3_line_134 : decode cX3_line 134 = .ok (.iload_n 2, 1) := dk_28 (dk_at dksX3_line_5 16 rfl rfl)
theorem dX3_line_135 : decode cX3_line 135 = .ok (.iconst 5, 1) := dk_8 (dk_at dksX3_line_5 17 rfl rfl)
theorem dX3_line_136 : decode cX3_line 136 = .ok (.iadd, 1) := dk_96 (dk_at dksX3_line_5 18 rfl rfl)
theorem dX3_line_137 : decode cX3_line 137 = .ok (.iaload, 1) := dk_46 (dk_at dksX3_line_5 19 rfl rfl)
theorem dX3_line_138 : decode cX3_line 138 = .ok (.invokevirtual 249, 3) := dk_182 0 249 (dk_at dksX3_line_5 20 rfl rfl)
theorem dX3_line_141 : decode cX3_line 141 = .ok (.aload_n 0, 1) := dk_42 (dk_at dksX3_line_5 23 rfl rfl)
theorem dX3_line_142 : decode cX3_line 142 = .ok (.getfield 9, 3) := dk_180 0 9 (dk_at dksX3_line_6 0 rfl rfl)
theorem dX3_line_145 : decode cX3_line 145 = .ok (.iload_n 2, 1) := dk_28 (dk_at dksX3_line_6 3 rfl rfl)
theorem dX3_line_146 : decode cX3_line 146 = .ok (.bipush 6, 2) := dk_16 6 (dk_at dksX3_line_6 4 rfl rfl)
theorem dX3_line_148 : decode cX3_line 148 = .ok (.iadd, 1) := dk_96 (dk_at dksX3_line_6 6 rfl rfl)
theorem dX3_line_149 : decode cX3_line 149 = .ok (.iaload, 1) := dk_46 (dk_at dksX3_line_6 7 rfl rfl)
theorem dX3_line_150 : decode cX3_line 150 = .ok (.iconst 1, 1) := dk_4 (dk_at dksX3_line_6 8 rfl rfl)
theorem dX3_line_151 : decode cX3_line 151 = .ok (.if_icmp .ne 9, 3) := dk_160 0 9 (dk_at dksX3_line_6 9 rfl rfl)
theorem dX3_line_154 : decode cX3_line 154 = .ok (.aload_n 0, 1) := dk_42 (dk_at dksX3_line_6 12 rfl rfl)
theorem dX3_line_155 : decode cX3_line 155 = .ok (.bipush 33, 2) := dk_16 33 (dk_at dksX3_line_6 13 rfl rfl)
theorem dX3_line_157 : decode cX3_line 157 = .ok (.invokevirtual 246, 3) := dk_182 0 246 (dk_at dksX3_line_6 15 rfl rfl)
theorem dX3_line_160 : decode cX3_line 160 = .ok (.aload_n 0, 1) := dk_42 (dk_at dksX3_line_6 18 rfl rfl)
theorem dX3_line_161 : decode cX3_line 161 = .ok (.getfield 243, 3) := dk_180 0 243 (dk_at dksX3_line_6 19 rfl rfl)
theorem dX3_line_164 : decode cX3_line 164 = .ok (.ireturn, 1) := dk_172 (dk_at dksX3_line_6 22 rfl rfl)
abbrev cX3_sign : ByteArray := prog_10_method_77_code
def yX3_sign : MethodName := ⟨RX3, "sign", "(I)V"⟩
def dkwX3_sign_0 : List UInt8 := [42, 180, 0, 35, 42, 180, 0, 243, 27, 79, 42, 89, 180, 0, 243, 4, 96, 181, 0, 243, 177]
abbrev dktX3_sign_0 : List UInt8 := dkwX3_sign_0 ++ []
theorem dksX3_sign_0 : cX3_sign.data.toList.drop 0 = dktX3_sign_0 := by decide +kernel
theorem dX3_sign_0 : decode cX3_sign 0 = .ok (.aload_n 0, 1) := dk_42 (dk_at dksX3_sign_0 0 rfl rfl)
theorem dX3_sign_1 : decode cX3_sign 1 = .ok (.getfield 35, 3) := dk_180 0 35 (dk_at dksX3_sign_0 1 rfl rfl)
theorem dX3_sign_4 : decode cX3_sign 4 = .ok (.aload_n 0, 1) := dk_42 (dk_at dksX3_sign_0 4 rfl rfl)
theorem dX3_sign_5 : decode cX3_sign 5 = .ok (.getfield 243, 3) := dk_180 0 243 (dk_at dksX3_sign_0 5 rfl rfl)
theorem dX3_sign_8 : decode cX3_sign 8 = .ok (.iload_n 1, 1) := dk_27 (dk_at dksX3_sign_0 8 rfl rfl)
theorem dX3_sign_9 : decode cX3_sign 9 = .ok (.iastore, 1) := dk_79 (dk_at dksX3_sign_0 9 rfl rfl)
theorem dX3_sign_10 : decode cX3_sign 10 = .ok (.aload_n 0, 1) := dk_42 (dk_at dksX3_sign_0 10 rfl rfl)
theorem dX3_sign_11 : decode cX3_sign 11 = .ok (.dup, 1) := dk_89 (dk_at dksX3_sign_0 11 rfl rfl)
theorem dX3_sign_12 : decode cX3_sign 12 = .ok (.getfield 243, 3) := dk_180 0 243 (dk_at dksX3_sign_0 12 rfl rfl)
theorem dX3_sign_15 : decode cX3_sign 15 = .ok (.iconst 1, 1) := dk_4 (dk_at dksX3_sign_0 15 rfl rfl)
theorem dX3_sign_16 : decode cX3_sign 16 = .ok (.iadd, 1) := dk_96 (dk_at dksX3_sign_0 16 rfl rfl)
theorem dX3_sign_17 : decode cX3_sign 17 = .ok (.putfield 243, 3) := dk_181 0 243 (dk_at dksX3_sign_0 17 rfl rfl)
theorem dX3_sign_20 : decode cX3_sign 20 = .ok (.return_, 1) := dk_177 (dk_at dksX3_sign_0 20 rfl rfl)
abbrev cX3_writesNumber : ByteArray := prog_10_method_78_code
def yX3_writesNumber : MethodName := ⟨RX3, "writesNumber", "(I)V"⟩
def dkwX3_writesNumber_1 : List UInt8 := [42, 16, 48, 27, 29, 108, 16, 10, 112, 96, 182, 0, 246, 29, 16, 10, 108, 62, 167, 255, 234, 177]
abbrev dktX3_writesNumber_1 : List UInt8 := dkwX3_writesNumber_1 ++ []
def dkwX3_writesNumber_0 : List UInt8 := [4, 61, 27, 28, 108, 16, 9, 164, 0, 11, 28, 16, 10, 104, 61, 167, 255, 243, 28, 62, 29, 158, 0, 24]
abbrev dktX3_writesNumber_0 : List UInt8 := dkwX3_writesNumber_0 ++ dktX3_writesNumber_1
theorem dksX3_writesNumber_0 : cX3_writesNumber.data.toList.drop 0 = dktX3_writesNumber_0 := by decide +kernel
theorem dksX3_writesNumber_1 : cX3_writesNumber.data.toList.drop 24 = dktX3_writesNumber_1 := dk_seg dksX3_writesNumber_0 24 rfl rfl
theorem dX3_writesNumber_0 : decode cX3_writesNumber 0 = .ok (.iconst 1, 1) := dk_4 (dk_at dksX3_writesNumber_0 0 rfl rfl)
theorem dX3_writesNumber_1 : decode cX3_writesNumber 1 = .ok (.istore_n 2, 1) := dk_61 (dk_at dksX3_writesNumber_0 1 rfl rfl)
theorem dX3_writesNumber_2 : decode cX3_writesNumber 2 = .ok (.iload_n 1, 1) := dk_27 (dk_at dksX3_writesNumber_0 2 rfl rfl)
theorem dX3_writesNumber_3 : decode cX3_writesNumber 3 = .ok (.iload_n 2, 1) := dk_28 (dk_at dksX3_writesNumber_0 3 rfl rfl)
theorem dX3_writesNumber_4 : decode cX3_writesNumber 4 = .ok (.idiv, 1) := dk_108 (dk_at dksX3_writesNumber_0 4 rfl rfl)
theorem dX3_writesNumber_5 : decode cX3_writesNumber 5 = .ok (.bipush 9, 2) := dk_16 9 (dk_at dksX3_writesNumber_0 5 rfl rfl)
theorem dX3_writesNumber_7 : decode cX3_writesNumber 7 = .ok (.if_icmp .le 11, 3) := dk_164 0 11 (dk_at dksX3_writesNumber_0 7 rfl rfl)
theorem dX3_writesNumber_10 : decode cX3_writesNumber 10 = .ok (.iload_n 2, 1) := dk_28 (dk_at dksX3_writesNumber_0 10 rfl rfl)
theorem dX3_writesNumber_11 : decode cX3_writesNumber 11 = .ok (.bipush 10, 2) := dk_16 10 (dk_at dksX3_writesNumber_0 11 rfl rfl)
theorem dX3_writesNumber_13 : decode cX3_writesNumber 13 = .ok (.imul, 1) := dk_104 (dk_at dksX3_writesNumber_0 13 rfl rfl)
theorem dX3_writesNumber_14 : decode cX3_writesNumber 14 = .ok (.istore_n 2, 1) := dk_61 (dk_at dksX3_writesNumber_0 14 rfl rfl)
theorem dX3_writesNumber_15 : decode cX3_writesNumber 15 = .ok (.goto (-13), 3) := dk_167 255 243 (dk_at dksX3_writesNumber_0 15 rfl rfl)
theorem dX3_writesNumber_18 : decode cX3_writesNumber 18 = .ok (.iload_n 2, 1) := dk_28 (dk_at dksX3_writesNumber_0 18 rfl rfl)
theorem dX3_writesNumber_19 : decode cX3_writesNumber 19 = .ok (.istore_n 3, 1) := dk_62 (dk_at dksX3_writesNumber_0 19 rfl rfl)
theorem dX3_writesNumber_20 : decode cX3_writesNumber 20 = .ok (.iload_n 3, 1) := dk_29 (dk_at dksX3_writesNumber_0 20 rfl rfl)
theorem dX3_writesNumber_21 : decode cX3_writesNumber 21 = .ok (.ifCond .le 24, 3) := dk_158 0 24 (dk_at dksX3_writesNumber_0 21 rfl rfl)
theorem dX3_writesNumber_24 : decode cX3_writesNumber 24 = .ok (.aload_n 0, 1) := dk_42 (dk_at dksX3_writesNumber_1 0 rfl rfl)
theorem dX3_writesNumber_25 : decode cX3_writesNumber 25 = .ok (.bipush 48, 2) := dk_16 48 (dk_at dksX3_writesNumber_1 1 rfl rfl)
theorem dX3_writesNumber_27 : decode cX3_writesNumber 27 = .ok (.iload_n 1, 1) := dk_27 (dk_at dksX3_writesNumber_1 3 rfl rfl)
theorem dX3_writesNumber_28 : decode cX3_writesNumber 28 = .ok (.iload_n 3, 1) := dk_29 (dk_at dksX3_writesNumber_1 4 rfl rfl)
theorem dX3_writesNumber_29 : decode cX3_writesNumber 29 = .ok (.idiv, 1) := dk_108 (dk_at dksX3_writesNumber_1 5 rfl rfl)
theorem dX3_writesNumber_30 : decode cX3_writesNumber 30 = .ok (.bipush 10, 2) := dk_16 10 (dk_at dksX3_writesNumber_1 6 rfl rfl)
theorem dX3_writesNumber_32 : decode cX3_writesNumber 32 = .ok (.irem, 1) := dk_112 (dk_at dksX3_writesNumber_1 8 rfl rfl)
theorem dX3_writesNumber_33 : decode cX3_writesNumber 33 = .ok (.iadd, 1) := dk_96 (dk_at dksX3_writesNumber_1 9 rfl rfl)
theorem dX3_writesNumber_34 : decode cX3_writesNumber 34 = .ok (.invokevirtual 246, 3) := dk_182 0 246 (dk_at dksX3_writesNumber_1 10 rfl rfl)
theorem dX3_writesNumber_37 : decode cX3_writesNumber 37 = .ok (.iload_n 3, 1) := dk_29 (dk_at dksX3_writesNumber_1 13 rfl rfl)
theorem dX3_writesNumber_38 : decode cX3_writesNumber 38 = .ok (.bipush 10, 2) := dk_16 10 (dk_at dksX3_writesNumber_1 14 rfl rfl)
theorem dX3_writesNumber_40 : decode cX3_writesNumber 40 = .ok (.idiv, 1) := dk_108 (dk_at dksX3_writesNumber_1 16 rfl rfl)
theorem dX3_writesNumber_41 : decode cX3_writesNumber 41 = .ok (.istore_n 3, 1) := dk_62 (dk_at dksX3_writesNumber_1 17 rfl rfl)
theorem dX3_writesNumber_42 : decode cX3_writesNumber 42 = .ok (.goto (-22), 3) := dk_167 255 234 (dk_at dksX3_writesNumber_1 18 rfl rfl)
theorem dX3_writesNumber_45 : decode cX3_writesNumber 45 = .ok (.return_, 1) := dk_177 (dk_at dksX3_writesNumber_1 21 rfl rfl)
abbrev cX3_row : ByteArray := prog_10_method_81_code
def yX3_row : MethodName := ⟨RX3, "row", "(I)I"⟩
def dkwX3_row_4 : List UInt8 := [182, 0, 252, 96, 182, 0, 246, 132, 2, 1, 167, 255, 185, 42, 180, 0, 243, 172]
abbrev dktX3_row_4 : List UInt8 := dkwX3_row_4 ++ []
def dkwX3_row_3 : List UInt8 := [182, 0, 246, 42, 42, 180, 0, 9, 5, 46, 28, 160, 0, 8, 16, 77, 167, 0, 11, 16, 48, 42, 28]
abbrev dktX3_row_3 : List UInt8 := dkwX3_row_3 ++ dktX3_row_4
def dkwX3_row_2 : List UInt8 := [42, 42, 28, 4, 100, 28, 184, 0, 77, 182, 0, 80, 153, 0, 8, 16, 32, 167, 0, 5, 16, 124]
abbrev dktX3_row_2 : List UInt8 := dkwX3_row_2 ++ dktX3_row_3
def dkwX3_row_1 : List UInt8 := [3, 181, 0, 243, 7, 27, 104, 61, 28, 7, 27, 104, 7, 96, 162, 0, 68, 28, 7, 27, 104, 164, 0, 28]
abbrev dktX3_row_1 : List UInt8 := dkwX3_row_1 ++ dktX3_row_2
def dkwX3_row_0 : List UInt8 := [42, 3, 181, 0, 38, 27, 133, 9, 20, 0, 63, 184, 0, 59, 154, 0, 9, 42, 4, 182, 0, 50, 172, 42]
abbrev dktX3_row_0 : List UInt8 := dkwX3_row_0 ++ dktX3_row_1
theorem dksX3_row_0 : cX3_row.data.toList.drop 0 = dktX3_row_0 := by decide +kernel
theorem dksX3_row_1 : cX3_row.data.toList.drop 24 = dktX3_row_1 := dk_seg dksX3_row_0 24 rfl rfl
theorem dksX3_row_2 : cX3_row.data.toList.drop 48 = dktX3_row_2 := dk_seg dksX3_row_1 24 rfl rfl
theorem dksX3_row_3 : cX3_row.data.toList.drop 70 = dktX3_row_3 := dk_seg dksX3_row_2 22 rfl rfl
theorem dksX3_row_4 : cX3_row.data.toList.drop 93 = dktX3_row_4 := dk_seg dksX3_row_3 23 rfl rfl
theorem dX3_row_0 : decode cX3_row 0 = .ok (.aload_n 0, 1) := dk_42 (dk_at dksX3_row_0 0 rfl rfl)
theorem dX3_row_1 : decode cX3_row 1 = .ok (.iconst 0, 1) := dk_3 (dk_at dksX3_row_0 1 rfl rfl)
theorem dX3_row_2 : decode cX3_row 2 = .ok (.putfield 38, 3) := dk_181 0 38 (dk_at dksX3_row_0 2 rfl rfl)
theorem dX3_row_5 : decode cX3_row 5 = .ok (.iload_n 1, 1) := dk_27 (dk_at dksX3_row_0 5 rfl rfl)
theorem dX3_row_6 : decode cX3_row 6 = .ok (.i2l, 1) := dk_133 (dk_at dksX3_row_0 6 rfl rfl)
theorem dX3_row_7 : decode cX3_row 7 = .ok (.lconst 0, 1) := dk_9 (dk_at dksX3_row_0 7 rfl rfl)
theorem dX3_row_8 : decode cX3_row 8 = .ok (.ldc2_w 63, 3) := dk_20 0 63 (dk_at dksX3_row_0 8 rfl rfl)
theorem dX3_row_11 : decode cX3_row 11 = .ok (.invokestatic 59, 3) := dk_184 0 59 (dk_at dksX3_row_0 11 rfl rfl)
theorem dX3_row_14 : decode cX3_row 14 = .ok (.ifCond .ne 9, 3) := dk_154 0 9 (dk_at dksX3_row_0 14 rfl rfl)
theorem dX3_row_17 : decode cX3_row 17 = .ok (.aload_n 0, 1) := dk_42 (dk_at dksX3_row_0 17 rfl rfl)
theorem dX3_row_18 : decode cX3_row 18 = .ok (.iconst 1, 1) := dk_4 (dk_at dksX3_row_0 18 rfl rfl)
theorem dX3_row_19 : decode cX3_row 19 = .ok (.invokevirtual 50, 3) := dk_182 0 50 (dk_at dksX3_row_0 19 rfl rfl)
theorem dX3_row_22 : decode cX3_row 22 = .ok (.ireturn, 1) := dk_172 (dk_at dksX3_row_0 22 rfl rfl)
theorem dX3_row_23 : decode cX3_row 23 = .ok (.aload_n 0, 1) := dk_42 (dk_at dksX3_row_0 23 rfl rfl)
theorem dX3_row_24 : decode cX3_row 24 = .ok (.iconst 0, 1) := dk_3 (dk_at dksX3_row_1 0 rfl rfl)
theorem dX3_row_25 : decode cX3_row 25 = .ok (.putfield 243, 3) := dk_181 0 243 (dk_at dksX3_row_1 1 rfl rfl)
theorem dX3_row_28 : decode cX3_row 28 = .ok (.iconst 4, 1) := dk_7 (dk_at dksX3_row_1 4 rfl rfl)
theorem dX3_row_29 : decode cX3_row 29 = .ok (.iload_n 1, 1) := dk_27 (dk_at dksX3_row_1 5 rfl rfl)
theorem dX3_row_30 : decode cX3_row 30 = .ok (.imul, 1) := dk_104 (dk_at dksX3_row_1 6 rfl rfl)
theorem dX3_row_31 : decode cX3_row 31 = .ok (.istore_n 2, 1) := dk_61 (dk_at dksX3_row_1 7 rfl rfl)
theorem dX3_row_32 : decode cX3_row 32 = .ok (.iload_n 2, 1) := dk_28 (dk_at dksX3_row_1 8 rfl rfl)
theorem dX3_row_33 : decode cX3_row 33 = .ok (.iconst 4, 1) := dk_7 (dk_at dksX3_row_1 9 rfl rfl)
theorem dX3_row_34 : decode cX3_row 34 = .ok (.iload_n 1, 1) := dk_27 (dk_at dksX3_row_1 10 rfl rfl)
theorem dX3_row_35 : decode cX3_row 35 = .ok (.imul, 1) := dk_104 (dk_at dksX3_row_1 11 rfl rfl)
theorem dX3_row_36 : decode cX3_row 36 = .ok (.iconst 4, 1) := dk_7 (dk_at dksX3_row_1 12 rfl rfl)
theorem dX3_row_37 : decode cX3_row 37 = .ok (.iadd, 1) := dk_96 (dk_at dksX3_row_1 13 rfl rfl)
theorem dX3_row_38 : decode cX3_row 38 = .ok (.if_icmp .ge 68, 3) := dk_162 0 68 (dk_at dksX3_row_1 14 rfl rfl)
theorem dX3_row_41 : decode cX3_row 41 = .ok (.iload_n 2, 1) := dk_28 (dk_at dksX3_row_1 17 rfl rfl)
theorem dX3_row_42 : decode cX3_row 42 = .ok (.iconst 4, 1) := dk_7 (dk_at dksX3_row_1 18 rfl rfl)
theorem dX3_row_43 : decode cX3_row 43 = .ok (.iload_n 1, 1) := dk_27 (dk_at dksX3_row_1 19 rfl rfl)
theorem dX3_row_44 : decode cX3_row 44 = .ok (.imul, 1) := dk_104 (dk_at dksX3_row_1 20 rfl rfl)
theorem dX3_row_45 : decode cX3_row 45 = .ok (.if_icmp .le 28, 3) := dk_164 0 28 (dk_at dksX3_row_1 21 rfl rfl)
theorem dX3_row_48 : decode cX3_row 48 = .ok (.aload_n 0, 1) := dk_42 (dk_at dksX3_row_2 0 rfl rfl)
theorem dX3_row_49 : decode cX3_row 49 = .ok (.aload_n 0, 1) := dk_42 (dk_at dksX3_row_2 1 rfl rfl)
theorem dX3_row_50 : decode cX3_row 50 = .ok (.iload_n 2, 1) := dk_28 (dk_at dksX3_row_2 2 rfl rfl)
theorem dX3_row_51 : decode cX3_row 51 = .ok (.iconst 1, 1) := dk_4 (dk_at dksX3_row_2 3 rfl rfl)
theorem dX3_row_52 : decode cX3_row 52 = .ok (.isub, 1) := dk_100 (dk_at dksX3_row_2 4 rfl rfl)
theorem dX3_row_53 : decode cX3_row 53 = .ok (.iload_n 2, 1) := dk_28 (dk_at dksX3_row_2 5 rfl rfl)
theorem dX3_row_54 : decode cX3_row 54 = .ok (.invokestatic 77, 3) := dk_184 0 77 (dk_at dksX3_row_2 6 rfl rfl)
theorem dX3_row_57 : decode cX3_row 57 = .ok (.invokevirtual 80, 3) := dk_182 0 80 (dk_at dksX3_row_2 9 rfl rfl)
theorem dX3_row_60 : decode cX3_row 60 = .ok (.ifCond .eq 8, 3) := dk_153 0 8 (dk_at dksX3_row_2 12 rfl rfl)
theorem dX3_row_63 : decode cX3_row 63 = .ok (.bipush 32, 2) := dk_16 32 (dk_at dksX3_row_2 15 rfl rfl)
theorem dX3_row_65 : decode cX3_row 65 = .ok (.goto 5, 3) := dk_167 0 5 (dk_at dksX3_row_2 17 rfl rfl)
theorem dX3_row_68 : decode cX3_row 68 = .ok (.bipush 124, 2) := dk_16 124 (dk_at dksX3_row_2 20 rfl rfl)
theorem dX3_row_70 : decode cX3_row 70 = .ok (.invokevirtual 246, 3) := dk_182 0 246 (dk_at dksX3_row_3 0 rfl rfl)
theorem dX3_row_73 : decode cX3_row 73 = .ok (.aload_n 0, 1) := dk_42 (dk_at dksX3_row_3 3 rfl rfl)
theorem dX3_row_74 : decode cX3_row 74 = .ok (.aload_n 0, 1) := dk_42 (dk_at dksX3_row_3 4 rfl rfl)
theorem dX3_row_75 : decode cX3_row 75 = .ok (.getfield 9, 3) := dk_180 0 9 (dk_at dksX3_row_3 5 rfl rfl)
theorem dX3_row_78 : decode cX3_row 78 = .ok (.iconst 2, 1) := dk_5 (dk_at dksX3_row_3 8 rfl rfl)
theorem dX3_row_79 : decode cX3_row 79 = .ok (.iaload, 1) := dk_46 (dk_at dksX3_row_3 9 rfl rfl)
theorem dX3_row_80 : decode cX3_row 80 = .ok (.iload_n 2, 1) := dk_28 (dk_at dksX3_row_3 10 rfl rfl)
theorem dX3_row_81 : decode cX3_row 81 = .ok (.if_icmp .ne 8, 3) := dk_160 0 8 (dk_at dksX3_row_3 11 rfl rfl)
theorem dX3_row_84 : decode cX3_row 84 = .ok (.bipush 77, 2) := dk_16 77 (dk_at dksX3_row_3 14 rfl rfl)
theorem dX3_row_86 : decode cX3_row 86 = .ok (.goto 11, 3) := dk_167 0 11 (dk_at dksX3_row_3 16 rfl rfl)
theorem dX3_row_89 : decode cX3_row 89 = .ok (.bipush 48, 2) := dk_16 48 (dk_at dksX3_row_3 19 rfl rfl)
theorem dX3_row_91 : decode cX3_row 91 = .ok (.aload_n 0, 1) := dk_42 (dk_at dksX3_row_3 21 rfl rfl)
theorem dX3_row_92 : decode cX3_row 92 = .ok (.iload_n 2, 1) := dk_28 (dk_at dksX3_row_3 22 rfl rfl)
theorem dX3_row_93 : decode cX3_row 93 = .ok (.invokevirtual 252, 3) := dk_182 0 252 (dk_at dksX3_row_4 0 rfl rfl)
theorem dX3_row_96 : decode cX3_row 96 = .ok (.iadd, 1) := dk_96 (dk_at dksX3_row_4 3 rfl rfl)
theorem dX3_row_97 : decode cX3_row 97 = .ok (.invokevirtual 246, 3) := dk_182 0 246 (dk_at dksX3_row_4 4 rfl rfl)
theorem dX3_row_100 : decode cX3_row 100 = .ok (.iinc 2 1, 3) := dk_132 2 1 (dk_at dksX3_row_4 7 rfl rfl)
theorem dX3_row_103 : decode cX3_row 103 = .ok (.goto (-71), 3) := dk_167 255 185 (dk_at dksX3_row_4 10 rfl rfl)
theorem dX3_row_106 : decode cX3_row 106 = .ok (.aload_n 0, 1) := dk_42 (dk_at dksX3_row_4 13 rfl rfl)
theorem dX3_row_107 : decode cX3_row 107 = .ok (.getfield 243, 3) := dk_180 0 243 (dk_at dksX3_row_4 14 rfl rfl)
theorem dX3_row_110 : decode cX3_row 110 = .ok (.ireturn, 1) := dk_172 (dk_at dksX3_row_4 17 rfl rfl)
abbrev cX3_visitorsIn : ByteArray := prog_10_method_80_code
def yX3_visitorsIn : MethodName := ⟨RX3, "visitorsIn", "(I)I"⟩
def dkwX3_visitorsIn_2 : List UInt8 := [167, 0, 4, 3, 96, 61, 132, 3, 1, 167, 255, 205, 28, 172]
abbrev dktX3_visitorsIn_2 : List UInt8 := dkwX3_visitorsIn_2 ++ []
def dkwX3_visitorsIn_1 : List UInt8 := [16, 7, 96, 46, 154, 0, 22, 42, 180, 0, 9, 29, 184, 0, 126, 4, 96, 46, 27, 160, 0, 7, 4]
abbrev dktX3_visitorsIn_1 : List UInt8 := dkwX3_visitorsIn_1 ++ dktX3_visitorsIn_2
def dkwX3_visitorsIn_0 : List UInt8 := [3, 61, 3, 62, 29, 42, 180, 0, 9, 4, 46, 162, 0, 47, 28, 42, 180, 0, 9, 29, 184, 0, 126]
abbrev dktX3_visitorsIn_0 : List UInt8 := dkwX3_visitorsIn_0 ++ dktX3_visitorsIn_1
theorem dksX3_visitorsIn_0 : cX3_visitorsIn.data.toList.drop 0 = dktX3_visitorsIn_0 := by decide +kernel
theorem dksX3_visitorsIn_1 : cX3_visitorsIn.data.toList.drop 23 = dktX3_visitorsIn_1 := dk_seg dksX3_visitorsIn_0 23 rfl rfl
theorem dksX3_visitorsIn_2 : cX3_visitorsIn.data.toList.drop 46 = dktX3_visitorsIn_2 := dk_seg dksX3_visitorsIn_1 23 rfl rfl
theorem dX3_visitorsIn_0 : decode cX3_visitorsIn 0 = .ok (.iconst 0, 1) := dk_3 (dk_at dksX3_visitorsIn_0 0 rfl rfl)
theorem dX3_visitorsIn_1 : decode cX3_visitorsIn 1 = .ok (.istore_n 2, 1) := dk_61 (dk_at dksX3_visitorsIn_0 1 rfl rfl)
theorem dX3_visitorsIn_2 : decode cX3_visitorsIn 2 = .ok (.iconst 0, 1) := dk_3 (dk_at dksX3_visitorsIn_0 2 rfl rfl)
theorem dX3_visitorsIn_3 : decode cX3_visitorsIn 3 = .ok (.istore_n 3, 1) := dk_62 (dk_at dksX3_visitorsIn_0 3 rfl rfl)
theorem dX3_visitorsIn_4 : decode cX3_visitorsIn 4 = .ok (.iload_n 3, 1) := dk_29 (dk_at dksX3_visitorsIn_0 4 rfl rfl)
theorem dX3_visitorsIn_5 : decode cX3_visitorsIn 5 = .ok (.aload_n 0, 1) := dk_42 (dk_at dksX3_visitorsIn_0 5 rfl rfl)
theorem dX3_visitorsIn_6 : decode cX3_visitorsIn 6 = .ok (.getfield 9, 3) := dk_180 0 9 (dk_at dksX3_visitorsIn_0 6 rfl rfl)
theorem dX3_visitorsIn_9 : decode cX3_visitorsIn 9 = .ok (.iconst 1, 1) := dk_4 (dk_at dksX3_visitorsIn_0 9 rfl rfl)
theorem dX3_visitorsIn_10 : decode cX3_visitorsIn 10 = .ok (.iaload, 1) := dk_46 (dk_at dksX3_visitorsIn_0 10 rfl rfl)
theorem dX3_visitorsIn_11 : decode cX3_visitorsIn 11 = .ok (.if_icmp .ge 47, 3) := dk_162 0 47 (dk_at dksX3_visitorsIn_0 11 rfl rfl)
theorem dX3_visitorsIn_14 : decode cX3_visitorsIn 14 = .ok (.iload_n 2, 1) := dk_28 (dk_at dksX3_visitorsIn_0 14 rfl rfl)
theorem dX3_visitorsIn_15 : decode cX3_visitorsIn 15 = .ok (.aload_n 0, 1) := dk_42 (dk_at dksX3_visitorsIn_0 15 rfl rfl)
theorem dX3_visitorsIn_16 : decode cX3_visitorsIn 16 = .ok (.getfield 9, 3) := dk_180 0 9 (dk_at dksX3_visitorsIn_0 16 rfl rfl)
theorem dX3_visitorsIn_19 : decode cX3_visitorsIn 19 = .ok (.iload_n 3, 1) := dk_29 (dk_at dksX3_visitorsIn_0 19 rfl rfl)
theorem dX3_visitorsIn_20 : decode cX3_visitorsIn 20 = .ok (.invokestatic 126, 3) := dk_184 0 126 (dk_at dksX3_visitorsIn_0 20 rfl rfl)
theorem dX3_visitorsIn_23 : decode cX3_visitorsIn 23 = .ok (.bipush 7, 2) := dk_16 7 (dk_at dksX3_visitorsIn_1 0 rfl rfl)
theorem dX3_visitorsIn_25 : decode cX3_visitorsIn 25 = .ok (.iadd, 1) := dk_96 (dk_at dksX3_visitorsIn_1 2 rfl rfl)
theorem dX3_visitorsIn_26 : decode cX3_visitorsIn 26 = .ok (.iaload, 1) := dk_46 (dk_at dksX3_visitorsIn_1 3 rfl rfl)
theorem dX3_visitorsIn_27 : decode cX3_visitorsIn 27 = .ok (.ifCond .ne 22, 3) := dk_154 0 22 (dk_at dksX3_visitorsIn_1 4 rfl rfl)
theorem dX3_visitorsIn_30 : decode cX3_visitorsIn 30 = .ok (.aload_n 0, 1) := dk_42 (dk_at dksX3_visitorsIn_1 7 rfl rfl)
theorem dX3_visitorsIn_31 : decode cX3_visitorsIn 31 = .ok (.getfield 9, 3) := dk_180 0 9 (dk_at dksX3_visitorsIn_1 8 rfl rfl)
theorem dX3_visitorsIn_34 : decode cX3_visitorsIn 34 = .ok (.iload_n 3, 1) := dk_29 (dk_at dksX3_visitorsIn_1 11 rfl rfl)
theorem dX3_visitorsIn_35 : decode cX3_visitorsIn 35 = .ok (.invokestatic 126, 3) := dk_184 0 126 (dk_at dksX3_visitorsIn_1 12 rfl rfl)
theorem dX3_visitorsIn_38 : decode cX3_visitorsIn 38 = .ok (.iconst 1, 1) := dk_4 (dk_at dksX3_visitorsIn_1 15 rfl rfl)
theorem dX3_visitorsIn_39 : decode cX3_visitorsIn 39 = .ok (.iadd, 1) := dk_96 (dk_at dksX3_visitorsIn_1 16 rfl rfl)
theorem dX3_visitorsIn_40 : decode cX3_visitorsIn 40 = .ok (.iaload, 1) := dk_46 (dk_at dksX3_visitorsIn_1 17 rfl rfl)
theorem dX3_visitorsIn_41 : decode cX3_visitorsIn 41 = .ok (.iload_n 1, 1) := dk_27 (dk_at dksX3_visitorsIn_1 18 rfl rfl)
theorem dX3_visitorsIn_42 : decode cX3_visitorsIn 42 = .ok (.if_icmp .ne 7, 3) := dk_160 0 7 (dk_at dksX3_visitorsIn_1 19 rfl rfl)
theorem dX3_visitorsIn_45 : decode cX3_visitorsIn 45 = .ok (.iconst 1, 1) := dk_4 (dk_at dksX3_visitorsIn_1 22 rfl rfl)
theorem dX3_visitorsIn_46 : decode cX3_visitorsIn 46 = .ok (.goto 4, 3) := dk_167 0 4 (dk_at dksX3_visitorsIn_2 0 rfl rfl)
theorem dX3_visitorsIn_49 : decode cX3_visitorsIn 49 = .ok (.iconst 0, 1) := dk_3 (dk_at dksX3_visitorsIn_2 3 rfl rfl)
theorem dX3_visitorsIn_50 : decode cX3_visitorsIn 50 = .ok (.iadd, 1) := dk_96 (dk_at dksX3_visitorsIn_2 4 rfl rfl)
theorem dX3_visitorsIn_51 : decode cX3_visitorsIn 51 = .ok (.istore_n 2, 1) := dk_61 (dk_at dksX3_visitorsIn_2 5 rfl rfl)
theorem dX3_visitorsIn_52 : decode cX3_visitorsIn 52 = .ok (.iinc 3 1, 3) := dk_132 3 1 (dk_at dksX3_visitorsIn_2 6 rfl rfl)
theorem dX3_visitorsIn_55 : decode cX3_visitorsIn 55 = .ok (.goto (-51), 3) := dk_167 255 205 (dk_at dksX3_visitorsIn_2 9 rfl rfl)
theorem dX3_visitorsIn_58 : decode cX3_visitorsIn 58 = .ok (.iload_n 2, 1) := dk_28 (dk_at dksX3_visitorsIn_2 12 rfl rfl)
theorem dX3_visitorsIn_59 : decode cX3_visitorsIn 59 = .ok (.ireturn, 1) := dk_172 (dk_at dksX3_visitorsIn_2 13 rfl rfl)
abbrev cX3_character : ByteArray := prog_10_method_82_code
def yX3_character : MethodName := ⟨RX3, "character", "(I)C"⟩
def dkwX3_character_1 : List UInt8 := [180, 0, 35, 27, 46, 146, 167, 0, 9, 42, 4, 182, 0, 50, 146, 172]
abbrev dktX3_character_1 : List UInt8 := dkwX3_character_1 ++ []
def dkwX3_character_0 : List UInt8 := [42, 3, 181, 0, 38, 27, 133, 9, 42, 180, 0, 243, 4, 100, 133, 184, 0, 59, 153, 0, 13, 42]
abbrev dktX3_character_0 : List UInt8 := dkwX3_character_0 ++ dktX3_character_1
theorem dksX3_character_0 : cX3_character.data.toList.drop 0 = dktX3_character_0 := by decide +kernel
theorem dksX3_character_1 : cX3_character.data.toList.drop 22 = dktX3_character_1 := dk_seg dksX3_character_0 22 rfl rfl
theorem dX3_character_0 : decode cX3_character 0 = .ok (.aload_n 0, 1) := dk_42 (dk_at dksX3_character_0 0 rfl rfl)
theorem dX3_character_1 : decode cX3_character 1 = .ok (.iconst 0, 1) := dk_3 (dk_at dksX3_character_0 1 rfl rfl)
theorem dX3_character_2 : decode cX3_character 2 = .ok (.putfield 38, 3) := dk_181 0 38 (dk_at dksX3_character_0 2 rfl rfl)
theorem dX3_character_5 : decode cX3_character 5 = .ok (.iload_n 1, 1) := dk_27 (dk_at dksX3_character_0 5 rfl rfl)
theorem dX3_character_6 : decode cX3_character 6 = .ok (.i2l, 1) := dk_133 (dk_at dksX3_character_0 6 rfl rfl)
theorem dX3_character_7 : decode cX3_character 7 = .ok (.lconst 0, 1) := dk_9 (dk_at dksX3_character_0 7 rfl rfl)
theorem dX3_character_8 : decode cX3_character 8 = .ok (.aload_n 0, 1) := dk_42 (dk_at dksX3_character_0 8 rfl rfl)
theorem dX3_character_9 : decode cX3_character 9 = .ok (.getfield 243, 3) := dk_180 0 243 (dk_at dksX3_character_0 9 rfl rfl)
theorem dX3_character_12 : decode cX3_character 12 = .ok (.iconst 1, 1) := dk_4 (dk_at dksX3_character_0 12 rfl rfl)
theorem dX3_character_13 : decode cX3_character 13 = .ok (.isub, 1) := dk_100 (dk_at dksX3_character_0 13 rfl rfl)
theorem dX3_character_14 : decode cX3_character 14 = .ok (.i2l, 1) := dk_133 (dk_at dksX3_character_0 14 rfl rfl)
theorem dX3_character_15 : decode cX3_character 15 = .ok (.invokestatic 59, 3) := dk_184 0 59 (dk_at dksX3_character_0 15 rfl rfl)
theorem dX3_character_18 : decode cX3_character 18 = .ok (.ifCond .eq 13, 3) := dk_153 0 13 (dk_at dksX3_character_0 18 rfl rfl)
theorem dX3_character_21 : decode cX3_character 21 = .ok (.aload_n 0, 1) := dk_42 (dk_at dksX3_character_0 21 rfl rfl)
theorem dX3_character_22 : decode cX3_character 22 = .ok (.getfield 35, 3) := dk_180 0 35 (dk_at dksX3_character_1 0 rfl rfl)
theorem dX3_character_25 : decode cX3_character 25 = .ok (.iload_n 1, 1) := dk_27 (dk_at dksX3_character_1 3 rfl rfl)
theorem dX3_character_26 : decode cX3_character 26 = .ok (.iaload, 1) := dk_46 (dk_at dksX3_character_1 4 rfl rfl)
theorem dX3_character_27 : decode cX3_character 27 = .ok (.i2c, 1) := dk_146 (dk_at dksX3_character_1 5 rfl rfl)
theorem dX3_character_28 : decode cX3_character 28 = .ok (.goto 9, 3) := dk_167 0 9 (dk_at dksX3_character_1 6 rfl rfl)
theorem dX3_character_31 : decode cX3_character 31 = .ok (.aload_n 0, 1) := dk_42 (dk_at dksX3_character_1 9 rfl rfl)
theorem dX3_character_32 : decode cX3_character 32 = .ok (.iconst 1, 1) := dk_4 (dk_at dksX3_character_1 10 rfl rfl)
theorem dX3_character_33 : decode cX3_character 33 = .ok (.invokevirtual 50, 3) := dk_182 0 50 (dk_at dksX3_character_1 11 rfl rfl)
theorem dX3_character_36 : decode cX3_character 36 = .ok (.i2c, 1) := dk_146 (dk_at dksX3_character_1 14 rfl rfl)
theorem dX3_character_37 : decode cX3_character 37 = .ok (.ireturn, 1) := dk_172 (dk_at dksX3_character_1 15 rfl rfl)
abbrev cX3_meanLost : ByteArray := prog_10_method_83_code
def yX3_meanLost : MethodName := ⟨RX3, "meanLost", "()D"⟩
def dkwX3_meanLost_2 : List UInt8 := [167, 255, 235, 27, 135, 42, 180, 0, 9, 4, 46, 135, 111, 175]
abbrev dktX3_meanLost_2 : List UInt8 := dkwX3_meanLost_2 ++ []
def dkwX3_meanLost_1 : List UInt8 := [3, 61, 28, 42, 180, 0, 9, 4, 46, 162, 0, 17, 27, 42, 28, 182, 0, 162, 96, 60, 132, 2, 1]
abbrev dktX3_meanLost_1 : List UInt8 := dkwX3_meanLost_1 ++ dktX3_meanLost_2
def dkwX3_meanLost_0 : List UInt8 := [42, 3, 181, 0, 38, 42, 180, 0, 9, 4, 46, 154, 0, 11, 42, 4, 182, 0, 50, 87, 14, 175, 3, 60]
abbrev dktX3_meanLost_0 : List UInt8 := dkwX3_meanLost_0 ++ dktX3_meanLost_1
theorem dksX3_meanLost_0 : cX3_meanLost.data.toList.drop 0 = dktX3_meanLost_0 := by decide +kernel
theorem dksX3_meanLost_1 : cX3_meanLost.data.toList.drop 24 = dktX3_meanLost_1 := dk_seg dksX3_meanLost_0 24 rfl rfl
theorem dksX3_meanLost_2 : cX3_meanLost.data.toList.drop 47 = dktX3_meanLost_2 := dk_seg dksX3_meanLost_1 23 rfl rfl
theorem dX3_meanLost_0 : decode cX3_meanLost 0 = .ok (.aload_n 0, 1) := dk_42 (dk_at dksX3_meanLost_0 0 rfl rfl)
theorem dX3_meanLost_1 : decode cX3_meanLost 1 = .ok (.iconst 0, 1) := dk_3 (dk_at dksX3_meanLost_0 1 rfl rfl)
theorem dX3_meanLost_2 : decode cX3_meanLost 2 = .ok (.putfield 38, 3) := dk_181 0 38 (dk_at dksX3_meanLost_0 2 rfl rfl)
theorem dX3_meanLost_5 : decode cX3_meanLost 5 = .ok (.aload_n 0, 1) := dk_42 (dk_at dksX3_meanLost_0 5 rfl rfl)
theorem dX3_meanLost_6 : decode cX3_meanLost 6 = .ok (.getfield 9, 3) := dk_180 0 9 (dk_at dksX3_meanLost_0 6 rfl rfl)
theorem dX3_meanLost_9 : decode cX3_meanLost 9 = .ok (.iconst 1, 1) := dk_4 (dk_at dksX3_meanLost_0 9 rfl rfl)
theorem dX3_meanLost_10 : decode cX3_meanLost 10 = .ok (.iaload, 1) := dk_46 (dk_at dksX3_meanLost_0 10 rfl rfl)
theorem dX3_meanLost_11 : decode cX3_meanLost 11 = .ok (.ifCond .ne 11, 3) := dk_154 0 11 (dk_at dksX3_meanLost_0 11 rfl rfl)
theorem dX3_meanLost_14 : decode cX3_meanLost 14 = .ok (.aload_n 0, 1) := dk_42 (dk_at dksX3_meanLost_0 14 rfl rfl)
theorem dX3_meanLost_15 : decode cX3_meanLost 15 = .ok (.iconst 1, 1) := dk_4 (dk_at dksX3_meanLost_0 15 rfl rfl)
theorem dX3_meanLost_16 : decode cX3_meanLost 16 = .ok (.invokevirtual 50, 3) := dk_182 0 50 (dk_at dksX3_meanLost_0 16 rfl rfl)
theorem dX3_meanLost_19 : decode cX3_meanLost 19 = .ok (.pop, 1) := dk_87 (dk_at dksX3_meanLost_0 19 rfl rfl)
theorem dX3_meanLost_20 : decode cX3_meanLost 20 = .ok (.dconst 0, 1) := dk_14 (dk_at dksX3_meanLost_0 20 rfl rfl)
theorem dX3_meanLost_21 : decode cX3_meanLost 21 = .ok (.dreturn, 1) := dk_175 (dk_at dksX3_meanLost_0 21 rfl rfl)
theorem dX3_meanLost_22 : decode cX3_meanLost 22 = .ok (.iconst 0, 1) := dk_3 (dk_at dksX3_meanLost_0 22 rfl rfl)
theorem dX3_meanLost_23 : decode cX3_meanLost 23 = .ok (.istore_n 1, 1) := dk_60 (dk_at dksX3_meanLost_0 23 rfl rfl)
theorem dX3_meanLost_24 : decode cX3_meanLost 24 = .ok (.iconst 0, 1) := dk_3 (dk_at dksX3_meanLost_1 0 rfl rfl)
theorem dX3_meanLost_25 : decode cX3_meanLost 25 = .ok (.istore_n 2, 1) := dk_61 (dk_at dksX3_meanLost_1 1 rfl rfl)
theorem dX3_meanLost_26 : decode cX3_meanLost 26 = .ok (.iload_n 2, 1) := dk_28 (dk_at dksX3_meanLost_1 2 rfl rfl)
theorem dX3_meanLost_27 : decode cX3_meanLost 27 = .ok (.aload_n 0, 1) := dk_42 (dk_at dksX3_meanLost_1 3 rfl rfl)
theorem dX3_meanLost_28 : decode cX3_meanLost 28 = .ok (.getfield 9, 3) := dk_180 0 9 (dk_at dksX3_meanLost_1 4 rfl rfl)
theorem dX3_meanLost_31 : decode cX3_meanLost 31 = .ok (.iconst 1, 1) := dk_4 (dk_at dksX3_meanLost_1 7 rfl rfl)
theorem dX3_meanLost_32 : decode cX3_meanLost 32 = .ok (.iaload, 1) := dk_46 (dk_at dksX3_meanLost_1 8 rfl rfl)
theorem dX3_meanLost_33 : decode cX3_meanLost 33 = .ok (.if_icmp .ge 17, 3) := dk_162 0 17 (dk_at dksX3_meanLost_1 9 rfl rfl)
theorem dX3_meanLost_36 : decode cX3_meanLost 36 = .ok (.iload_n 1, 1) := dk_27 (dk_at dksX3_meanLost_1 12 rfl rfl)
theorem dX3_meanLost_37 : decode cX3_meanLost 37 = .ok (.aload_n 0, 1) := dk_42 (dk_at dksX3_meanLost_1 13 rfl rfl)
theorem dX3_meanLost_38 : decode cX3_meanLost 38 = .ok (.iload_n 2, 1) := dk_28 (dk_at dksX3_meanLost_1 14 rfl rfl)
theorem dX3_meanLost_39 : decode cX3_meanLost 39 = .ok (.invokevirtual 162, 3) := dk_182 0 162 (dk_at dksX3_meanLost_1 15 rfl rfl)
theorem dX3_meanLost_42 : decode cX3_meanLost 42 = .ok (.iadd, 1) := dk_96 (dk_at dksX3_meanLost_1 18 rfl rfl)
theorem dX3_meanLost_43 : decode cX3_meanLost 43 = .ok (.istore_n 1, 1) := dk_60 (dk_at dksX3_meanLost_1 19 rfl rfl)
theorem dX3_meanLost_44 : decode cX3_meanLost 44 = .ok (.iinc 2 1, 3) := dk_132 2 1 (dk_at dksX3_meanLost_1 20 rfl rfl)
theorem dX3_meanLost_47 : decode cX3_meanLost 47 = .ok (.goto (-21), 3) := dk_167 255 235 (dk_at dksX3_meanLost_2 0 rfl rfl)
theorem dX3_meanLost_50 : decode cX3_meanLost 50 = .ok (.iload_n 1, 1) := dk_27 (dk_at dksX3_meanLost_2 3 rfl rfl)
theorem dX3_meanLost_51 : decode cX3_meanLost 51 = .ok (.i2d, 1) := dk_135 (dk_at dksX3_meanLost_2 4 rfl rfl)
theorem dX3_meanLost_52 : decode cX3_meanLost 52 = .ok (.aload_n 0, 1) := dk_42 (dk_at dksX3_meanLost_2 5 rfl rfl)
theorem dX3_meanLost_53 : decode cX3_meanLost 53 = .ok (.getfield 9, 3) := dk_180 0 9 (dk_at dksX3_meanLost_2 6 rfl rfl)
theorem dX3_meanLost_56 : decode cX3_meanLost 56 = .ok (.iconst 1, 1) := dk_4 (dk_at dksX3_meanLost_2 9 rfl rfl)
theorem dX3_meanLost_57 : decode cX3_meanLost 57 = .ok (.iaload, 1) := dk_46 (dk_at dksX3_meanLost_2 10 rfl rfl)
theorem dX3_meanLost_58 : decode cX3_meanLost 58 = .ok (.i2d, 1) := dk_135 (dk_at dksX3_meanLost_2 11 rfl rfl)
theorem dX3_meanLost_59 : decode cX3_meanLost 59 = .ok (.ddiv, 1) := dk_111 (dk_at dksX3_meanLost_2 12 rfl rfl)
theorem dX3_meanLost_60 : decode cX3_meanLost 60 = .ok (.dreturn, 1) := dk_175 (dk_at dksX3_meanLost_2 13 rfl rfl)
abbrev cX3_gapShare : ByteArray := prog_10_method_84_code
def yX3_gapShare : MethodName := ⟨RX3, "gapShare", "()F"⟩
def dkwX3_gapShare_0 : List UInt8 := [42, 3, 181, 0, 38, 42, 182, 0, 110, 134, 18, 255, 110, 174]
abbrev dktX3_gapShare_0 : List UInt8 := dkwX3_gapShare_0 ++ []
theorem dksX3_gapShare_0 : cX3_gapShare.data.toList.drop 0 = dktX3_gapShare_0 := by decide +kernel
theorem dX3_gapShare_0 : decode cX3_gapShare 0 = .ok (.aload_n 0, 1) := dk_42 (dk_at dksX3_gapShare_0 0 rfl rfl)
theorem dX3_gapShare_1 : decode cX3_gapShare 1 = .ok (.iconst 0, 1) := dk_3 (dk_at dksX3_gapShare_0 1 rfl rfl)
theorem dX3_gapShare_2 : decode cX3_gapShare 2 = .ok (.putfield 38, 3) := dk_181 0 38 (dk_at dksX3_gapShare_0 2 rfl rfl)
theorem dX3_gapShare_5 : decode cX3_gapShare 5 = .ok (.aload_n 0, 1) := dk_42 (dk_at dksX3_gapShare_0 5 rfl rfl)
theorem dX3_gapShare_6 : decode cX3_gapShare 6 = .ok (.invokevirtual 110, 3) := dk_182 0 110 (dk_at dksX3_gapShare_0 6 rfl rfl)
theorem dX3_gapShare_9 : decode cX3_gapShare 9 = .ok (.i2f, 1) := dk_134 (dk_at dksX3_gapShare_0 9 rfl rfl)
theorem dX3_gapShare_10 : decode cX3_gapShare 10 = .ok (.ldc 255, 2) := dk_18 255 (dk_at dksX3_gapShare_0 10 rfl rfl)
theorem dX3_gapShare_12 : decode cX3_gapShare 12 = .ok (.fdiv, 1) := dk_110 (dk_at dksX3_gapShare_0 12 rfl rfl)
theorem dX3_gapShare_13 : decode cX3_gapShare 13 = .ok (.freturn, 1) := dk_174 (dk_at dksX3_gapShare_0 13 rfl rfl)
abbrev cX3_account : ByteArray := prog_10_method_88_code
def yX3_account : MethodName := ⟨RX3, "account", "(I)I"⟩
def dkwX3_account_4 : List UInt8 := [180, 0, 54, 172, 42, 180, 0, 195, 172, 42, 4, 182, 0, 50, 172]
abbrev dktX3_account_4 : List UInt8 := dkwX3_account_4 ++ []
def dkwX3_account_3 : List UInt8 := [182, 0, 110, 172, 42, 180, 0, 9, 6, 27, 96, 16, 6, 100, 46, 172, 42, 182, 1, 6, 172, 42]
abbrev dktX3_account_3 : List UInt8 := dkwX3_account_3 ++ dktX3_account_4
def dkwX3_account_2 : List UInt8 := [42, 180, 0, 9, 27, 46, 172, 42, 182, 1, 0, 172, 42, 2, 182, 0, 186, 172, 42, 182, 1, 3, 172, 42]
abbrev dktX3_account_2 : List UInt8 := dkwX3_account_2 ++ dktX3_account_3
def dkwX3_account_1 : List UInt8 := [170, 0, 0, 0, 0, 117, 0, 0, 0, 0, 0, 0, 0, 11, 0, 0, 0, 62, 0, 0, 0, 62, 0, 0, 0, 69, 0, 0, 0, 74, 0, 0, 0, 80, 0, 0, 0, 85, 0, 0, 0, 90, 0, 0, 0, 90, 0, 0, 0, 90, 0, 0, 0, 102, 0, 0, 0, 107, 0, 0, 0, 112]
abbrev dktX3_account_1 : List UInt8 := dkwX3_account_1 ++ dktX3_account_2
def dkwX3_account_0 : List UInt8 := [42, 3, 181, 0, 38, 27]
abbrev dktX3_account_0 : List UInt8 := dkwX3_account_0 ++ dktX3_account_1
theorem dksX3_account_0 : cX3_account.data.toList.drop 0 = dktX3_account_0 := by decide +kernel
theorem dksX3_account_1 : cX3_account.data.toList.drop 6 = dktX3_account_1 := dk_seg dksX3_account_0 6 rfl rfl
theorem dksX3_account_2 : cX3_account.data.toList.drop 68 = dktX3_account_2 := dk_seg dksX3_account_1 62 rfl rfl
theorem dksX3_account_3 : cX3_account.data.toList.drop 92 = dktX3_account_3 := dk_seg dksX3_account_2 24 rfl rfl
theorem dksX3_account_4 : cX3_account.data.toList.drop 114 = dktX3_account_4 := dk_seg dksX3_account_3 22 rfl rfl
theorem dX3_account_0 : decode cX3_account 0 = .ok (.aload_n 0, 1) := dk_42 (dk_at dksX3_account_0 0 rfl rfl)
theorem dX3_account_1 : decode cX3_account 1 = .ok (.iconst 0, 1) := dk_3 (dk_at dksX3_account_0 1 rfl rfl)
theorem dX3_account_2 : decode cX3_account 2 = .ok (.putfield 38, 3) := dk_181 0 38 (dk_at dksX3_account_0 2 rfl rfl)
theorem dX3_account_5 : decode cX3_account 5 = .ok (.iload_n 1, 1) := dk_27 (dk_at dksX3_account_0 5 rfl rfl)
theorem dX3_account_6 : decode cX3_account 6 = .ok (.tableswitch 117 0 11 #[62, 62, 69, 74, 80, 85, 90, 90, 90, 102, 107, 112], 62) := by decide +kernel
theorem dX3_account_68 : decode cX3_account 68 = .ok (.aload_n 0, 1) := dk_42 (dk_at dksX3_account_2 0 rfl rfl)
theorem dX3_account_69 : decode cX3_account 69 = .ok (.getfield 9, 3) := dk_180 0 9 (dk_at dksX3_account_2 1 rfl rfl)
theorem dX3_account_72 : decode cX3_account 72 = .ok (.iload_n 1, 1) := dk_27 (dk_at dksX3_account_2 4 rfl rfl)
theorem dX3_account_73 : decode cX3_account 73 = .ok (.iaload, 1) := dk_46 (dk_at dksX3_account_2 5 rfl rfl)
theorem dX3_account_74 : decode cX3_account 74 = .ok (.ireturn, 1) := dk_172 (dk_at dksX3_account_2 6 rfl rfl)
theorem dX3_account_75 : decode cX3_account 75 = .ok (.aload_n 0, 1) := dk_42 (dk_at dksX3_account_2 7 rfl rfl)
theorem dX3_account_76 : decode cX3_account 76 = .ok (.invokevirtual 256, 3) := dk_182 1 0 (dk_at dksX3_account_2 8 rfl rfl)
theorem dX3_account_79 : decode cX3_account 79 = .ok (.ireturn, 1) := dk_172 (dk_at dksX3_account_2 11 rfl rfl)
theorem dX3_account_80 : decode cX3_account 80 = .ok (.aload_n 0, 1) := dk_42 (dk_at dksX3_account_2 12 rfl rfl)
theorem dX3_account_81 : decode cX3_account 81 = .ok (.iconst (-1), 1) := dk_2 (dk_at dksX3_account_2 13 rfl rfl)
theorem dX3_account_82 : decode cX3_account 82 = .ok (.invokevirtual 186, 3) := dk_182 0 186 (dk_at dksX3_account_2 14 rfl rfl)
theorem dX3_account_85 : decode cX3_account 85 = .ok (.ireturn, 1) := dk_172 (dk_at dksX3_account_2 17 rfl rfl)
theorem dX3_account_86 : decode cX3_account 86 = .ok (.aload_n 0, 1) := dk_42 (dk_at dksX3_account_2 18 rfl rfl)
theorem dX3_account_87 : decode cX3_account 87 = .ok (.invokevirtual 259, 3) := dk_182 1 3 (dk_at dksX3_account_2 19 rfl rfl)
theorem dX3_account_90 : decode cX3_account 90 = .ok (.ireturn, 1) := dk_172 (dk_at dksX3_account_2 22 rfl rfl)
theorem dX3_account_91 : decode cX3_account 91 = .ok (.aload_n 0, 1) := dk_42 (dk_at dksX3_account_2 23 rfl rfl)
theorem dX3_account_92 : decode cX3_account 92 = .ok (.invokevirtual 110, 3) := dk_182 0 110 (dk_at dksX3_account_3 0 rfl rfl)
theorem dX3_account_95 : decode cX3_account 95 = .ok (.ireturn, 1) := dk_172 (dk_at dksX3_account_3 3 rfl rfl)
theorem dX3_account_96 : decode cX3_account 96 = .ok (.aload_n 0, 1) := dk_42 (dk_at dksX3_account_3 4 rfl rfl)
theorem dX3_account_97 : decode cX3_account 97 = .ok (.getfield 9, 3) := dk_180 0 9 (dk_at dksX3_account_3 5 rfl rfl)
theorem dX3_account_100 : decode cX3_account 100 = .ok (.iconst 3, 1) := dk_6 (dk_at dksX3_account_3 8 rfl rfl)
theorem dX3_account_101 : decode cX3_account 101 = .ok (.iload_n 1, 1) := dk_27 (dk_at dksX3_account_3 9 rfl rfl)
theorem dX3_account_102 : decode cX3_account 102 = .ok (.iadd, 1) := dk_96 (dk_at dksX3_account_3 10 rfl rfl)
theorem dX3_account_103 : decode cX3_account 103 = .ok (.bipush 6, 2) := dk_16 6 (dk_at dksX3_account_3 11 rfl rfl)
theorem dX3_account_105 : decode cX3_account 105 = .ok (.isub, 1) := dk_100 (dk_at dksX3_account_3 13 rfl rfl)
theorem dX3_account_106 : decode cX3_account 106 = .ok (.iaload, 1) := dk_46 (dk_at dksX3_account_3 14 rfl rfl)
theorem dX3_account_107 : decode cX3_account 107 = .ok (.ireturn, 1) := dk_172 (dk_at dksX3_account_3 15 rfl rfl)
theorem dX3_account_108 : decode cX3_account 108 = .ok (.aload_n 0, 1) := dk_42 (dk_at dksX3_account_3 16 rfl rfl)
theorem dX3_account_109 : decode cX3_account 109 = .ok (.invokevirtual 262, 3) := dk_182 1 6 (dk_at dksX3_account_3 17 rfl rfl)
theorem dX3_account_112 : decode cX3_account 112 = .ok (.ireturn, 1) := dk_172 (dk_at dksX3_account_3 20 rfl rfl)
theorem dX3_account_113 : decode cX3_account 113 = .ok (.aload_n 0, 1) := dk_42 (dk_at dksX3_account_3 21 rfl rfl)
theorem dX3_account_114 : decode cX3_account 114 = .ok (.getfield 54, 3) := dk_180 0 54 (dk_at dksX3_account_4 0 rfl rfl)
theorem dX3_account_117 : decode cX3_account 117 = .ok (.ireturn, 1) := dk_172 (dk_at dksX3_account_4 3 rfl rfl)
theorem dX3_account_118 : decode cX3_account 118 = .ok (.aload_n 0, 1) := dk_42 (dk_at dksX3_account_4 4 rfl rfl)
theorem dX3_account_119 : decode cX3_account 119 = .ok (.getfield 195, 3) := dk_180 0 195 (dk_at dksX3_account_4 5 rfl rfl)
theorem dX3_account_122 : decode cX3_account 122 = .ok (.ireturn, 1) := dk_172 (dk_at dksX3_account_4 8 rfl rfl)
theorem dX3_account_123 : decode cX3_account 123 = .ok (.aload_n 0, 1) := dk_42 (dk_at dksX3_account_4 9 rfl rfl)
theorem dX3_account_124 : decode cX3_account 124 = .ok (.iconst 1, 1) := dk_4 (dk_at dksX3_account_4 10 rfl rfl)
theorem dX3_account_125 : decode cX3_account 125 = .ok (.invokevirtual 50, 3) := dk_182 0 50 (dk_at dksX3_account_4 11 rfl rfl)
theorem dX3_account_128 : decode cX3_account 128 = .ok (.ireturn, 1) := dk_172 (dk_at dksX3_account_4 14 rfl rfl)
abbrev cX3_outs : ByteArray := prog_10_method_87_code
def yX3_outs : MethodName := ⟨RX3, "outs", "()I"⟩
def dkwX3_outs_1 : List UInt8 := [16, 7, 96, 46, 96, 60, 132, 2, 1, 167, 255, 228, 27, 172]
abbrev dktX3_outs_1 : List UInt8 := dkwX3_outs_1 ++ []
def dkwX3_outs_0 : List UInt8 := [3, 60, 3, 61, 28, 42, 180, 0, 9, 4, 46, 162, 0, 24, 27, 42, 180, 0, 9, 28, 184, 0, 126]
abbrev dktX3_outs_0 : List UInt8 := dkwX3_outs_0 ++ dktX3_outs_1
theorem dksX3_outs_0 : cX3_outs.data.toList.drop 0 = dktX3_outs_0 := by decide +kernel
theorem dksX3_outs_1 : cX3_outs.data.toList.drop 23 = dktX3_outs_1 := dk_seg dksX3_outs_0 23 rfl rfl
theorem dX3_outs_0 : decode cX3_outs 0 = .ok (.iconst 0, 1) := dk_3 (dk_at dksX3_outs_0 0 rfl rfl)
theorem dX3_outs_1 : decode cX3_outs 1 = .ok (.istore_n 1, 1) := dk_60 (dk_at dksX3_outs_0 1 rfl rfl)
theorem dX3_outs_2 : decode cX3_outs 2 = .ok (.iconst 0, 1) := dk_3 (dk_at dksX3_outs_0 2 rfl rfl)
theorem dX3_outs_3 : decode cX3_outs 3 = .ok (.istore_n 2, 1) := dk_61 (dk_at dksX3_outs_0 3 rfl rfl)
theorem dX3_outs_4 : decode cX3_outs 4 = .ok (.iload_n 2, 1) := dk_28 (dk_at dksX3_outs_0 4 rfl rfl)
theorem dX3_outs_5 : decode cX3_outs 5 = .ok (.aload_n 0, 1) := dk_42 (dk_at dksX3_outs_0 5 rfl rfl)
theorem dX3_outs_6 : decode cX3_outs 6 = .ok (.getfield 9, 3) := dk_180 0 9 (dk_at dksX3_outs_0 6 rfl rfl)
theorem dX3_outs_9 : decode cX3_outs 9 = .ok (.iconst 1, 1) := dk_4 (dk_at dksX3_outs_0 9 rfl rfl)
theorem dX3_outs_10 : decode cX3_outs 10 = .ok (.iaload, 1) := dk_46 (dk_at dksX3_outs_0 10 rfl rfl)
theorem dX3_outs_11 : decode cX3_outs 11 = .ok (.if_icmp .ge 24, 3) := dk_162 0 24 (dk_at dksX3_outs_0 11 rfl rfl)
theorem dX3_outs_14 : decode cX3_outs 14 = .ok (.iload_n 1, 1) := dk_27 (dk_at dksX3_outs_0 14 rfl rfl)
theorem dX3_outs_15 : decode cX3_outs 15 = .ok (.aload_n 0, 1) := dk_42 (dk_at dksX3_outs_0 15 rfl rfl)
theorem dX3_outs_16 : decode cX3_outs 16 = .ok (.getfield 9, 3) := dk_180 0 9 (dk_at dksX3_outs_0 16 rfl rfl)
theorem dX3_outs_19 : decode cX3_outs 19 = .ok (.iload_n 2, 1) := dk_28 (dk_at dksX3_outs_0 19 rfl rfl)
theorem dX3_outs_20 : decode cX3_outs 20 = .ok (.invokestatic 126, 3) := dk_184 0 126 (dk_at dksX3_outs_0 20 rfl rfl)
theorem dX3_outs_23 : decode cX3_outs 23 = .ok (.bipush 7, 2) := dk_16 7 (dk_at dksX3_outs_1 0 rfl rfl)
theorem dX3_outs_25 : decode cX3_outs 25 = .ok (.iadd, 1) := dk_96 (dk_at dksX3_outs_1 2 rfl rfl)
theorem dX3_outs_26 : decode cX3_outs 26 = .ok (.iaload, 1) := dk_46 (dk_at dksX3_outs_1 3 rfl rfl)
theorem dX3_outs_27 : decode cX3_outs 27 = .ok (.iadd, 1) := dk_96 (dk_at dksX3_outs_1 4 rfl rfl)
theorem dX3_outs_28 : decode cX3_outs 28 = .ok (.istore_n 1, 1) := dk_60 (dk_at dksX3_outs_1 5 rfl rfl)
theorem dX3_outs_29 : decode cX3_outs 29 = .ok (.iinc 2 1, 3) := dk_132 2 1 (dk_at dksX3_outs_1 6 rfl rfl)
theorem dX3_outs_32 : decode cX3_outs 32 = .ok (.goto (-28), 3) := dk_167 255 228 (dk_at dksX3_outs_1 9 rfl rfl)
theorem dX3_outs_35 : decode cX3_outs 35 = .ok (.iload_n 1, 1) := dk_27 (dk_at dksX3_outs_1 12 rfl rfl)
theorem dX3_outs_36 : decode cX3_outs 36 = .ok (.ireturn, 1) := dk_172 (dk_at dksX3_outs_1 13 rfl rfl)
abbrev cX3_voids : ByteArray := prog_10_method_86_code
def yX3_voids : MethodName := ⟨RX3, "voids", "()I"⟩
def dkwX3_voids_2 : List UInt8 := [172]
abbrev dktX3_voids_2 : List UInt8 := dkwX3_voids_2 ++ []
def dkwX3_voids_1 : List UInt8 := [180, 0, 9, 28, 184, 0, 126, 16, 6, 96, 46, 167, 0, 4, 3, 96, 60, 132, 2, 1, 167, 255, 216, 27]
abbrev dktX3_voids_1 : List UInt8 := dkwX3_voids_1 ++ dktX3_voids_2
def dkwX3_voids_0 : List UInt8 := [3, 60, 3, 61, 28, 42, 180, 0, 9, 4, 46, 162, 0, 36, 27, 42, 28, 182, 0, 183, 153, 0, 18, 42]
abbrev dktX3_voids_0 : List UInt8 := dkwX3_voids_0 ++ dktX3_voids_1
theorem dksX3_voids_0 : cX3_voids.data.toList.drop 0 = dktX3_voids_0 := by decide +kernel
theorem dksX3_voids_1 : cX3_voids.data.toList.drop 24 = dktX3_voids_1 := dk_seg dksX3_voids_0 24 rfl rfl
theorem dksX3_voids_2 : cX3_voids.data.toList.drop 48 = dktX3_voids_2 := dk_seg dksX3_voids_1 24 rfl rfl
theorem dX3_voids_0 : decode cX3_voids 0 = .ok (.iconst 0, 1) := dk_3 (dk_at dksX3_voids_0 0 rfl rfl)
theorem dX3_voids_1 : decode cX3_voids 1 = .ok (.istore_n 1, 1) := dk_60 (dk_at dksX3_voids_0 1 rfl rfl)
theorem dX3_voids_2 : decode cX3_voids 2 = .ok (.iconst 0, 1) := dk_3 (dk_at dksX3_voids_0 2 rfl rfl)
theorem dX3_voids_3 : decode cX3_voids 3 = .ok (.istore_n 2, 1) := dk_61 (dk_at dksX3_voids_0 3 rfl rfl)
theorem dX3_voids_4 : decode cX3_voids 4 = .ok (.iload_n 2, 1) := dk_28 (dk_at dksX3_voids_0 4 rfl rfl)
theorem dX3_voids_5 : decode cX3_voids 5 = .ok (.aload_n 0, 1) := dk_42 (dk_at dksX3_voids_0 5 rfl rfl)
theorem dX3_voids_6 : decode cX3_voids 6 = .ok (.getfield 9, 3) := dk_180 0 9 (dk_at dksX3_voids_0 6 rfl rfl)
theorem dX3_voids_9 : decode cX3_voids 9 = .ok (.iconst 1, 1) := dk_4 (dk_at dksX3_voids_0 9 rfl rfl)
theorem dX3_voids_10 : decode cX3_voids 10 = .ok (.iaload, 1) := dk_46 (dk_at dksX3_voids_0 10 rfl rfl)
theorem dX3_voids_11 : decode cX3_voids 11 = .ok (.if_icmp .ge 36, 3) := dk_162 0 36 (dk_at dksX3_voids_0 11 rfl rfl)
theorem dX3_voids_14 : decode cX3_voids 14 = .ok (.iload_n 1, 1) := dk_27 (dk_at dksX3_voids_0 14 rfl rfl)
theorem dX3_voids_15 : decode cX3_voids 15 = .ok (.aload_n 0, 1) := dk_42 (dk_at dksX3_voids_0 15 rfl rfl)
theorem dX3_voids_16 : decode cX3_voids 16 = .ok (.iload_n 2, 1) := dk_28 (dk_at dksX3_voids_0 16 rfl rfl)
theorem dX3_voids_17 : decode cX3_voids 17 = .ok (.invokevirtual 183, 3) := dk_182 0 183 (dk_at dksX3_voids_0 17 rfl rfl)
theorem dX3_voids_20 : decode cX3_voids 20 = .ok (.ifCond .eq 18, 3) := dk_153 0 18 (dk_at dksX3_voids_0 20 rfl rfl)
theorem dX3_voids_23 : decode cX3_voids 23 = .ok (.aload_n 0, 1) := dk_42 (dk_at dksX3_voids_0 23 rfl rfl)
theorem dX3_voids_24 : decode cX3_voids 24 = .ok (.getfield 9, 3) := dk_180 0 9 (dk_at dksX3_voids_1 0 rfl rfl)
theorem dX3_voids_27 : decode cX3_voids 27 = .ok (.iload_n 2, 1) := dk_28 (dk_at dksX3_voids_1 3 rfl rfl)
theorem dX3_voids_28 : decode cX3_voids 28 = .ok (.invokestatic 126, 3) := dk_184 0 126 (dk_at dksX3_voids_1 4 rfl rfl)
theorem dX3_voids_31 : decode cX3_voids 31 = .ok (.bipush 6, 2) := dk_16 6 (dk_at dksX3_voids_1 7 rfl rfl)
theorem dX3_voids_33 : decode cX3_voids 33 = .ok (.iadd, 1) := dk_96 (dk_at dksX3_voids_1 9 rfl rfl)
theorem dX3_voids_34 : decode cX3_voids 34 = .ok (.iaload, 1) := dk_46 (dk_at dksX3_voids_1 10 rfl rfl)
theorem dX3_voids_35 : decode cX3_voids 35 = .ok (.goto 4, 3) := dk_167 0 4 (dk_at dksX3_voids_1 11 rfl rfl)
theorem dX3_voids_38 : decode cX3_voids 38 = .ok (.iconst 0, 1) := dk_3 (dk_at dksX3_voids_1 14 rfl rfl)
theorem dX3_voids_39 : decode cX3_voids 39 = .ok (.iadd, 1) := dk_96 (dk_at dksX3_voids_1 15 rfl rfl)
theorem dX3_voids_40 : decode cX3_voids 40 = .ok (.istore_n 1, 1) := dk_60 (dk_at dksX3_voids_1 16 rfl rfl)
theorem dX3_voids_41 : decode cX3_voids 41 = .ok (.iinc 2 1, 3) := dk_132 2 1 (dk_at dksX3_voids_1 17 rfl rfl)
theorem dX3_voids_44 : decode cX3_voids 44 = .ok (.goto (-40), 3) := dk_167 255 216 (dk_at dksX3_voids_1 20 rfl rfl)
theorem dX3_voids_47 : decode cX3_voids 47 = .ok (.iload_n 1, 1) := dk_27 (dk_at dksX3_voids_1 23 rfl rfl)
theorem dX3_voids_48 : decode cX3_voids 48 = .ok (.ireturn, 1) := dk_172 (dk_at dksX3_voids_2 0 rfl rfl)
abbrev cX3_coins : ByteArray := prog_10_method_85_code
def yX3_coins : MethodName := ⟨RX3, "coins", "()I"⟩
def dkwX3_coins_2 : List UInt8 := [180, 0, 9, 28, 184, 0, 126, 46, 96, 60, 132, 2, 1, 167, 255, 231, 27, 172]
abbrev dktX3_coins_2 : List UInt8 := dkwX3_coins_2 ++ []
def dkwX3_coins_1 : List UInt8 := [96, 60, 132, 2, 1, 167, 255, 231, 3, 61, 28, 42, 180, 0, 9, 4, 46, 162, 0, 21, 27, 42]
abbrev dktX3_coins_1 : List UInt8 := dkwX3_coins_1 ++ dktX3_coins_2
def dkwX3_coins_0 : List UInt8 := [3, 60, 3, 61, 28, 42, 180, 0, 9, 3, 46, 162, 0, 21, 27, 42, 180, 0, 9, 28, 184, 0, 120, 46]
abbrev dktX3_coins_0 : List UInt8 := dkwX3_coins_0 ++ dktX3_coins_1
theorem dksX3_coins_0 : cX3_coins.data.toList.drop 0 = dktX3_coins_0 := by decide +kernel
theorem dksX3_coins_1 : cX3_coins.data.toList.drop 24 = dktX3_coins_1 := dk_seg dksX3_coins_0 24 rfl rfl
theorem dksX3_coins_2 : cX3_coins.data.toList.drop 46 = dktX3_coins_2 := dk_seg dksX3_coins_1 22 rfl rfl
theorem dX3_coins_0 : decode cX3_coins 0 = .ok (.iconst 0, 1) := dk_3 (dk_at dksX3_coins_0 0 rfl rfl)
theorem dX3_coins_1 : decode cX3_coins 1 = .ok (.istore_n 1, 1) := dk_60 (dk_at dksX3_coins_0 1 rfl rfl)
theorem dX3_coins_2 : decode cX3_coins 2 = .ok (.iconst 0, 1) := dk_3 (dk_at dksX3_coins_0 2 rfl rfl)
theorem dX3_coins_3 : decode cX3_coins 3 = .ok (.istore_n 2, 1) := dk_61 (dk_at dksX3_coins_0 3 rfl rfl)
theorem dX3_coins_4 : decode cX3_coins 4 = .ok (.iload_n 2, 1) := dk_28 (dk_at dksX3_coins_0 4 rfl rfl)
theorem dX3_coins_5 : decode cX3_coins 5 = .ok (.aload_n 0, 1) := dk_42 (dk_at dksX3_coins_0 5 rfl rfl)
theorem dX3_coins_6 : decode cX3_coins 6 = .ok (.getfield 9, 3) := dk_180 0 9 (dk_at dksX3_coins_0 6 rfl rfl)
theorem dX3_coins_9 : decode cX3_coins 9 = .ok (.iconst 0, 1) := dk_3 (dk_at dksX3_coins_0 9 rfl rfl)
theorem dX3_coins_10 : decode cX3_coins 10 = .ok (.iaload, 1) := dk_46 (dk_at dksX3_coins_0 10 rfl rfl)
theorem dX3_coins_11 : decode cX3_coins 11 = .ok (.if_icmp .ge 21, 3) := dk_162 0 21 (dk_at dksX3_coins_0 11 rfl rfl)
theorem dX3_coins_14 : decode cX3_coins 14 = .ok (.iload_n 1, 1) := dk_27 (dk_at dksX3_coins_0 14 rfl rfl)
theorem dX3_coins_15 : decode cX3_coins 15 = .ok (.aload_n 0, 1) := dk_42 (dk_at dksX3_coins_0 15 rfl rfl)
theorem dX3_coins_16 : decode cX3_coins 16 = .ok (.getfield 9, 3) := dk_180 0 9 (dk_at dksX3_coins_0 16 rfl rfl)
theorem dX3_coins_19 : decode cX3_coins 19 = .ok (.iload_n 2, 1) := dk_28 (dk_at dksX3_coins_0 19 rfl rfl)
theorem dX3_coins_20 : decode cX3_coins 20 = .ok (.invokestatic 120, 3) := dk_184 0 120 (dk_at dksX3_coins_0 20 rfl rfl)
theorem dX3_coins_23 : decode cX3_coins 23 = .ok (.iaload, 1) := dk_46 (dk_at dksX3_coins_0 23 rfl rfl)
theorem dX3_coins_24 : decode cX3_coins 24 = .ok (.iadd, 1) := dk_96 (dk_at dksX3_coins_1 0 rfl rfl)
theorem dX3_coins_25 : decode cX3_coins 25 = .ok (.istore_n 1, 1) := dk_60 (dk_at dksX3_coins_1 1 rfl rfl)
theorem dX3_coins_26 : decode cX3_coins 26 = .ok (.iinc 2 1, 3) := dk_132 2 1 (dk_at dksX3_coins_1 2 rfl rfl)
theorem dX3_coins_29 : decode cX3_coins 29 = .ok (.goto (-25), 3) := dk_167 255 231 (dk_at dksX3_coins_1 5 rfl rfl)
theorem dX3_coins_32 : decode cX3_coins 32 = .ok (.iconst 0, 1) := dk_3 (dk_at dksX3_coins_1 8 rfl rfl)
theorem dX3_coins_33 : decode cX3_coins 33 = .ok (.istore_n 2, 1) := dk_61 (dk_at dksX3_coins_1 9 rfl rfl)
theorem dX3_coins_34 : decode cX3_coins 34 = .ok (.iload_n 2, 1) := dk_28 (dk_at dksX3_coins_1 10 rfl rfl)
theorem dX3_coins_35 : decode cX3_coins 35 = .ok (.aload_n 0, 1) := dk_42 (dk_at dksX3_coins_1 11 rfl rfl)
theorem dX3_coins_36 : decode cX3_coins 36 = .ok (.getfield 9, 3) := dk_180 0 9 (dk_at dksX3_coins_1 12 rfl rfl)
theorem dX3_coins_39 : decode cX3_coins 39 = .ok (.iconst 1, 1) := dk_4 (dk_at dksX3_coins_1 15 rfl rfl)
theorem dX3_coins_40 : decode cX3_coins 40 = .ok (.iaload, 1) := dk_46 (dk_at dksX3_coins_1 16 rfl rfl)
theorem dX3_coins_41 : decode cX3_coins 41 = .ok (.if_icmp .ge 21, 3) := dk_162 0 21 (dk_at dksX3_coins_1 17 rfl rfl)
theorem dX3_coins_44 : decode cX3_coins 44 = .ok (.iload_n 1, 1) := dk_27 (dk_at dksX3_coins_1 20 rfl rfl)
theorem dX3_coins_45 : decode cX3_coins 45 = .ok (.aload_n 0, 1) := dk_42 (dk_at dksX3_coins_1 21 rfl rfl)
theorem dX3_coins_46 : decode cX3_coins 46 = .ok (.getfield 9, 3) := dk_180 0 9 (dk_at dksX3_coins_2 0 rfl rfl)
theorem dX3_coins_49 : decode cX3_coins 49 = .ok (.iload_n 2, 1) := dk_28 (dk_at dksX3_coins_2 3 rfl rfl)
theorem dX3_coins_50 : decode cX3_coins 50 = .ok (.invokestatic 126, 3) := dk_184 0 126 (dk_at dksX3_coins_2 4 rfl rfl)
theorem dX3_coins_53 : decode cX3_coins 53 = .ok (.iaload, 1) := dk_46 (dk_at dksX3_coins_2 7 rfl rfl)
theorem dX3_coins_54 : decode cX3_coins 54 = .ok (.iadd, 1) := dk_96 (dk_at dksX3_coins_2 8 rfl rfl)
theorem dX3_coins_55 : decode cX3_coins 55 = .ok (.istore_n 1, 1) := dk_60 (dk_at dksX3_coins_2 9 rfl rfl)
theorem dX3_coins_56 : decode cX3_coins 56 = .ok (.iinc 2 1, 3) := dk_132 2 1 (dk_at dksX3_coins_2 10 rfl rfl)
theorem dX3_coins_59 : decode cX3_coins 59 = .ok (.goto (-25), 3) := dk_167 255 231 (dk_at dksX3_coins_2 13 rfl rfl)
theorem dX3_coins_62 : decode cX3_coins 62 = .ok (.iload_n 1, 1) := dk_27 (dk_at dksX3_coins_2 16 rfl rfl)
theorem dX3_coins_63 : decode cX3_coins 63 = .ok (.ireturn, 1) := dk_172 (dk_at dksX3_coins_2 17 rfl rfl)
abbrev cX3_undo : ByteArray := prog_10_method_89_code
def yX3_undo : MethodName := ⟨RX3, "undo", "()I"⟩
def dkwX3_undo_2 : List UInt8 := [180, 0, 54, 104, 27, 96, 46, 79, 132, 1, 1, 167, 255, 227, 42, 180, 0, 54, 172]
abbrev dktX3_undo_2 : List UInt8 := dkwX3_undo_2 ++ []
def dkwX3_undo_1 : List UInt8 := [100, 181, 0, 54, 3, 60, 27, 16, 86, 162, 0, 29, 42, 180, 0, 9, 27, 42, 180, 0, 19, 16, 86, 42]
abbrev dktX3_undo_1 : List UInt8 := dkwX3_undo_1 ++ dktX3_undo_2
def dkwX3_undo_0 : List UInt8 := [42, 3, 181, 0, 38, 42, 180, 0, 54, 154, 0, 9, 42, 4, 182, 0, 50, 172, 42, 89, 180, 0, 54, 4]
abbrev dktX3_undo_0 : List UInt8 := dkwX3_undo_0 ++ dktX3_undo_1
theorem dksX3_undo_0 : cX3_undo.data.toList.drop 0 = dktX3_undo_0 := by decide +kernel
theorem dksX3_undo_1 : cX3_undo.data.toList.drop 24 = dktX3_undo_1 := dk_seg dksX3_undo_0 24 rfl rfl
theorem dksX3_undo_2 : cX3_undo.data.toList.drop 48 = dktX3_undo_2 := dk_seg dksX3_undo_1 24 rfl rfl
theorem dX3_undo_0 : decode cX3_undo 0 = .ok (.aload_n 0, 1) := dk_42 (dk_at dksX3_undo_0 0 rfl rfl)
theorem dX3_undo_1 : decode cX3_undo 1 = .ok (.iconst 0, 1) := dk_3 (dk_at dksX3_undo_0 1 rfl rfl)
theorem dX3_undo_2 : decode cX3_undo 2 = .ok (.putfield 38, 3) := dk_181 0 38 (dk_at dksX3_undo_0 2 rfl rfl)
theorem dX3_undo_5 : decode cX3_undo 5 = .ok (.aload_n 0, 1) := dk_42 (dk_at dksX3_undo_0 5 rfl rfl)
theorem dX3_undo_6 : decode cX3_undo 6 = .ok (.getfield 54, 3) := dk_180 0 54 (dk_at dksX3_undo_0 6 rfl rfl)
theorem dX3_undo_9 : decode cX3_undo 9 = .ok (.ifCond .ne 9, 3) := dk_154 0 9 (dk_at dksX3_undo_0 9 rfl rfl)
theorem dX3_undo_12 : decode cX3_undo 12 = .ok (.aload_n 0, 1) := dk_42 (dk_at dksX3_undo_0 12 rfl rfl)
theorem dX3_undo_13 : decode cX3_undo 13 = .ok (.iconst 1, 1) := dk_4 (dk_at dksX3_undo_0 13 rfl rfl)
theorem dX3_undo_14 : decode cX3_undo 14 = .ok (.invokevirtual 50, 3) := dk_182 0 50 (dk_at dksX3_undo_0 14 rfl rfl)
theorem dX3_undo_17 : decode cX3_undo 17 = .ok (.ireturn, 1) := dk_172 (dk_at dksX3_undo_0 17 rfl rfl)
theorem dX3_undo_18 : decode cX3_undo 18 = .ok (.aload_n 0, 1) := dk_42 (dk_at dksX3_undo_0 18 rfl rfl)
theorem dX3_undo_19 : decode cX3_undo 19 = .ok (.dup, 1) := dk_89 (dk_at dksX3_undo_0 19 rfl rfl)
theorem dX3_undo_20 : decode cX3_undo 20 = .ok (.getfield 54, 3) := dk_180 0 54 (dk_at dksX3_undo_0 20 rfl rfl)
theorem dX3_undo_23 : decode cX3_undo 23 = .ok (.iconst 1, 1) := dk_4 (dk_at dksX3_undo_0 23 rfl rfl)
theorem dX3_undo_24 : decode cX3_undo 24 = .ok (.isub, 1) := dk_100 (dk_at dksX3_undo_1 0 rfl rfl)
theorem dX3_undo_25 : decode cX3_undo 25 = .ok (.putfield 54, 3) := dk_181 0 54 (dk_at dksX3_undo_1 1 rfl rfl)
theorem dX3_undo_28 : decode cX3_undo 28 = .ok (.iconst 0, 1) := dk_3 (dk_at dksX3_undo_1 4 rfl rfl)
theorem dX3_undo_29 : decode cX3_undo 29 = .ok (.istore_n 1, 1) := dk_60 (dk_at dksX3_undo_1 5 rfl rfl)
theorem dX3_undo_30 : decode cX3_undo 30 = .ok (.iload_n 1, 1) := dk_27 (dk_at dksX3_undo_1 6 rfl rfl)
theorem dX3_undo_31 : decode cX3_undo 31 = .ok (.bipush 86, 2) := dk_16 86 (dk_at dksX3_undo_1 7 rfl rfl)
theorem dX3_undo_33 : decode cX3_undo 33 = .ok (.if_icmp .ge 29, 3) := dk_162 0 29 (dk_at dksX3_undo_1 9 rfl rfl)
theorem dX3_undo_36 : decode cX3_undo 36 = .ok (.aload_n 0, 1) := dk_42 (dk_at dksX3_undo_1 12 rfl rfl)
theorem dX3_undo_37 : decode cX3_undo 37 = .ok (.getfield 9, 3) := dk_180 0 9 (dk_at dksX3_undo_1 13 rfl rfl)
theorem dX3_undo_40 : decode cX3_undo 40 = .ok (.iload_n 1, 1) := dk_27 (dk_at dksX3_undo_1 16 rfl rfl)
theorem dX3_undo_41 : decode cX3_undo 41 = .ok (.aload_n 0, 1) := dk_42 (dk_at dksX3_undo_1 17 rfl rfl)
theorem dX3_undo_42 : decode cX3_undo 42 = .ok (.getfield 19, 3) := dk_180 0 19 (dk_at dksX3_undo_1 18 rfl rfl)
theorem dX3_undo_45 : decode cX3_undo 45 = .ok (.bipush 86, 2) := dk_16 86 (dk_at dksX3_undo_1 21 rfl rfl)
theorem dX3_undo_47 : decode cX3_undo 47 = .ok (.aload_n 0, 1) := dk_42 (dk_at dksX3_undo_1 23 rfl rfl)
theorem dX3_undo_48 : decode cX3_undo 48 = .ok (.getfield 54, 3) := dk_180 0 54 (dk_at dksX3_undo_2 0 rfl rfl)
theorem dX3_undo_51 : decode cX3_undo 51 = .ok (.imul, 1) := dk_104 (dk_at dksX3_undo_2 3 rfl rfl)
theorem dX3_undo_52 : decode cX3_undo 52 = .ok (.iload_n 1, 1) := dk_27 (dk_at dksX3_undo_2 4 rfl rfl)
theorem dX3_undo_53 : decode cX3_undo 53 = .ok (.iadd, 1) := dk_96 (dk_at dksX3_undo_2 5 rfl rfl)
theorem dX3_undo_54 : decode cX3_undo 54 = .ok (.iaload, 1) := dk_46 (dk_at dksX3_undo_2 6 rfl rfl)
theorem dX3_undo_55 : decode cX3_undo 55 = .ok (.iastore, 1) := dk_79 (dk_at dksX3_undo_2 7 rfl rfl)
theorem dX3_undo_56 : decode cX3_undo 56 = .ok (.iinc 1 1, 3) := dk_132 1 1 (dk_at dksX3_undo_2 8 rfl rfl)
theorem dX3_undo_59 : decode cX3_undo 59 = .ok (.goto (-29), 3) := dk_167 255 227 (dk_at dksX3_undo_2 11 rfl rfl)
theorem dX3_undo_62 : decode cX3_undo 62 = .ok (.aload_n 0, 1) := dk_42 (dk_at dksX3_undo_2 14 rfl rfl)
theorem dX3_undo_63 : decode cX3_undo 63 = .ok (.getfield 54, 3) := dk_180 0 54 (dk_at dksX3_undo_2 15 rfl rfl)
theorem dX3_undo_66 : decode cX3_undo 66 = .ok (.ireturn, 1) := dk_172 (dk_at dksX3_undo_2 18 rfl rfl)
abbrev cX3_save : ByteArray := prog_10_method_90_code
def yX3_save : MethodName := ⟨RX3, "save", "()I"⟩
def dkwX3_save_1 : List UInt8 := [79, 132, 1, 1, 167, 255, 235, 42, 4, 181, 1, 9, 42, 180, 0, 9, 4, 46, 172]
abbrev dktX3_save_1 : List UInt8 := dkwX3_save_1 ++ []
def dkwX3_save_0 : List UInt8 := [42, 3, 181, 0, 38, 3, 60, 27, 16, 86, 162, 0, 21, 42, 180, 0, 16, 27, 42, 180, 0, 9, 27, 46]
abbrev dktX3_save_0 : List UInt8 := dkwX3_save_0 ++ dktX3_save_1
theorem dksX3_save_0 : cX3_save.data.toList.drop 0 = dktX3_save_0 := by decide +kernel
theorem dksX3_save_1 : cX3_save.data.toList.drop 24 = dktX3_save_1 := dk_seg dksX3_save_0 24 rfl rfl
theorem dX3_save_0 : decode cX3_save 0 = .ok (.aload_n 0, 1) := dk_42 (dk_at dksX3_save_0 0 rfl rfl)
theorem dX3_save_1 : decode cX3_save 1 = .ok (.iconst 0, 1) := dk_3 (dk_at dksX3_save_0 1 rfl rfl)
theorem dX3_save_2 : decode cX3_save 2 = .ok (.putfield 38, 3) := dk_181 0 38 (dk_at dksX3_save_0 2 rfl rfl)
theorem dX3_save_5 : decode cX3_save 5 = .ok (.iconst 0, 1) := dk_3 (dk_at dksX3_save_0 5 rfl rfl)
theorem dX3_save_6 : decode cX3_save 6 = .ok (.istore_n 1, 1) := dk_60 (dk_at dksX3_save_0 6 rfl rfl)
theorem dX3_save_7 : decode cX3_save 7 = .ok (.iload_n 1, 1) := dk_27 (dk_at dksX3_save_0 7 rfl rfl)
theorem dX3_save_8 : decode cX3_save 8 = .ok (.bipush 86, 2) := dk_16 86 (dk_at dksX3_save_0 8 rfl rfl)
theorem dX3_save_10 : decode cX3_save 10 = .ok (.if_icmp .ge 21, 3) := dk_162 0 21 (dk_at dksX3_save_0 10 rfl rfl)
theorem dX3_save_13 : decode cX3_save 13 = .ok (.aload_n 0, 1) := dk_42 (dk_at dksX3_save_0 13 rfl rfl)
theorem dX3_save_14 : decode cX3_save 14 = .ok (.getfield 16, 3) := dk_180 0 16 (dk_at dksX3_save_0 14 rfl rfl)
theorem dX3_save_17 : decode cX3_save 17 = .ok (.iload_n 1, 1) := dk_27 (dk_at dksX3_save_0 17 rfl rfl)
theorem dX3_save_18 : decode cX3_save 18 = .ok (.aload_n 0, 1) := dk_42 (dk_at dksX3_save_0 18 rfl rfl)
theorem dX3_save_19 : decode cX3_save 19 = .ok (.getfield 9, 3) := dk_180 0 9 (dk_at dksX3_save_0 19 rfl rfl)
theorem dX3_save_22 : decode cX3_save 22 = .ok (.iload_n 1, 1) := dk_27 (dk_at dksX3_save_0 22 rfl rfl)
theorem dX3_save_23 : decode cX3_save 23 = .ok (.iaload, 1) := dk_46 (dk_at dksX3_save_0 23 rfl rfl)
theorem dX3_save_24 : decode cX3_save 24 = .ok (.iastore, 1) := dk_79 (dk_at dksX3_save_1 0 rfl rfl)
theorem dX3_save_25 : decode cX3_save 25 = .ok (.iinc 1 1, 3) := dk_132 1 1 (dk_at dksX3_save_1 1 rfl rfl)
theorem dX3_save_28 : decode cX3_save 28 = .ok (.goto (-21), 3) := dk_167 255 235 (dk_at dksX3_save_1 4 rfl rfl)
theorem dX3_save_31 : decode cX3_save 31 = .ok (.aload_n 0, 1) := dk_42 (dk_at dksX3_save_1 7 rfl rfl)
theorem dX3_save_32 : decode cX3_save 32 = .ok (.iconst 1, 1) := dk_4 (dk_at dksX3_save_1 8 rfl rfl)
theorem dX3_save_33 : decode cX3_save 33 = .ok (.putfield 265, 3) := dk_181 1 9 (dk_at dksX3_save_1 9 rfl rfl)
theorem dX3_save_36 : decode cX3_save 36 = .ok (.aload_n 0, 1) := dk_42 (dk_at dksX3_save_1 12 rfl rfl)
theorem dX3_save_37 : decode cX3_save 37 = .ok (.getfield 9, 3) := dk_180 0 9 (dk_at dksX3_save_1 13 rfl rfl)
theorem dX3_save_40 : decode cX3_save 40 = .ok (.iconst 1, 1) := dk_4 (dk_at dksX3_save_1 16 rfl rfl)
theorem dX3_save_41 : decode cX3_save 41 = .ok (.iaload, 1) := dk_46 (dk_at dksX3_save_1 17 rfl rfl)
theorem dX3_save_42 : decode cX3_save 42 = .ok (.ireturn, 1) := dk_172 (dk_at dksX3_save_1 18 rfl rfl)
abbrev cX3_restore : ByteArray := prog_10_method_91_code
def yX3_restore : MethodName := ⟨RX3, "restore", "()I"⟩
def dkwX3_restore_2 : List UInt8 := [181, 0, 54, 42, 180, 0, 9, 4, 46, 172]
abbrev dktX3_restore_2 : List UInt8 := dkwX3_restore_2 ++ []
def dkwX3_restore_1 : List UInt8 := [162, 0, 21, 42, 180, 0, 9, 27, 42, 180, 0, 16, 27, 46, 79, 132, 1, 1, 167, 255, 235, 42, 3]
abbrev dktX3_restore_1 : List UInt8 := dkwX3_restore_1 ++ dktX3_restore_2
def dkwX3_restore_0 : List UInt8 := [42, 3, 181, 0, 38, 42, 180, 1, 9, 154, 0, 9, 42, 4, 182, 0, 50, 172, 3, 60, 27, 16, 86]
abbrev dktX3_restore_0 : List UInt8 := dkwX3_restore_0 ++ dktX3_restore_1
theorem dksX3_restore_0 : cX3_restore.data.toList.drop 0 = dktX3_restore_0 := by decide +kernel
theorem dksX3_restore_1 : cX3_restore.data.toList.drop 23 = dktX3_restore_1 := dk_seg dksX3_restore_0 23 rfl rfl
theorem dksX3_restore_2 : cX3_restore.data.toList.drop 46 = dktX3_restore_2 := dk_seg dksX3_restore_1 23 rfl rfl
theorem dX3_restore_0 : decode cX3_restore 0 = .ok (.aload_n 0, 1) := dk_42 (dk_at dksX3_restore_0 0 rfl rfl)
theorem dX3_restore_1 : decode cX3_restore 1 = .ok (.iconst 0, 1) := dk_3 (dk_at dksX3_restore_0 1 rfl rfl)
theorem dX3_restore_2 : decode cX3_restore 2 = .ok (.putfield 38, 3) := dk_181 0 38 (dk_at dksX3_restore_0 2 rfl rfl)
theorem dX3_restore_5 : decode cX3_restore 5 = .ok (.aload_n 0, 1) := dk_42 (dk_at dksX3_restore_0 5 rfl rfl)
theorem dX3_restore_6 : decode cX3_restore 6 = .ok (.getfield 265, 3) := dk_180 1 9 (dk_at dksX3_restore_0 6 rfl rfl)
theorem dX3_restore_9 : decode cX3_restore 9 = .ok (.ifCond .ne 9, 3) := dk_154 0 9 (dk_at dksX3_restore_0 9 rfl rfl)
theorem dX3_restore_12 : decode cX3_restore 12 = .ok (.aload_n 0, 1) := dk_42 (dk_at dksX3_restore_0 12 rfl rfl)
theorem dX3_restore_13 : decode cX3_restore 13 = .ok (.iconst 1, 1) := dk_4 (dk_at dksX3_restore_0 13 rfl rfl)
theorem dX3_restore_14 : decode cX3_restore 14 = .ok (.invokevirtual 50, 3) := dk_182 0 50 (dk_at dksX3_restore_0 14 rfl rfl)
theorem dX3_restore_17 : decode cX3_restore 17 = .ok (.ireturn, 1) := dk_172 (dk_at dksX3_restore_0 17 rfl rfl)
theorem dX3_restore_18 : decode cX3_restore 18 = .ok (.iconst 0, 1) := dk_3 (dk_at dksX3_restore_0 18 rfl rfl)
theorem dX3_restore_19 : decode cX3_restore 19 = .ok (.istore_n 1, 1) := dk_60 (dk_at dksX3_restore_0 19 rfl rfl)
theorem dX3_restore_20 : decode cX3_restore 20 = .ok (.iload_n 1, 1) := dk_27 (dk_at dksX3_restore_0 20 rfl rfl)
theorem dX3_restore_21 : decode cX3_restore 21 = .ok (.bipush 86, 2) := dk_16 86 (dk_at dksX3_restore_0 21 rfl rfl)
theorem dX3_restore_23 : decode cX3_restore 23 = .ok (.if_icmp .ge 21, 3) := dk_162 0 21 (dk_at dksX3_restore_1 0 rfl rfl)
theorem dX3_restore_26 : decode cX3_restore 26 = .ok (.aload_n 0, 1) := dk_42 (dk_at dksX3_restore_1 3 rfl rfl)
theorem dX3_restore_27 : decode cX3_restore 27 = .ok (.getfield 9, 3) := dk_180 0 9 (dk_at dksX3_restore_1 4 rfl rfl)
theorem dX3_restore_30 : decode cX3_restore 30 = .ok (.iload_n 1, 1) := dk_27 (dk_at dksX3_restore_1 7 rfl rfl)
theorem dX3_restore_31 : decode cX3_restore 31 = .ok (.aload_n 0, 1) := dk_42 (dk_at dksX3_restore_1 8 rfl rfl)
theorem dX3_restore_32 : decode cX3_restore 32 = .ok (.getfield 16, 3) := dk_180 0 16 (dk_at dksX3_restore_1 9 rfl rfl)
theorem dX3_restore_35 : decode cX3_restore 35 = .ok (.iload_n 1, 1) := dk_27 (dk_at dksX3_restore_1 12 rfl rfl)
theorem dX3_restore_36 : decode cX3_restore 36 = .ok (.iaload, 1) := dk_46 (dk_at dksX3_restore_1 13 rfl rfl)
theorem dX3_restore_37 : decode cX3_restore 37 = .ok (.iastore, 1) := dk_79 (dk_at dksX3_restore_1 14 rfl rfl)
theorem dX3_restore_38 : decode cX3_restore 38 = .ok (.iinc 1 1, 3) := dk_132 1 1 (dk_at dksX3_restore_1 15 rfl rfl)
theorem dX3_restore_41 : decode cX3_restore 41 = .ok (.goto (-21), 3) := dk_167 255 235 (dk_at dksX3_restore_1 18 rfl rfl)
theorem dX3_restore_44 : decode cX3_restore 44 = .ok (.aload_n 0, 1) := dk_42 (dk_at dksX3_restore_1 21 rfl rfl)
theorem dX3_restore_45 : decode cX3_restore 45 = .ok (.iconst 0, 1) := dk_3 (dk_at dksX3_restore_1 22 rfl rfl)
theorem dX3_restore_46 : decode cX3_restore 46 = .ok (.putfield 54, 3) := dk_181 0 54 (dk_at dksX3_restore_2 0 rfl rfl)
theorem dX3_restore_49 : decode cX3_restore 49 = .ok (.aload_n 0, 1) := dk_42 (dk_at dksX3_restore_2 3 rfl rfl)
theorem dX3_restore_50 : decode cX3_restore 50 = .ok (.getfield 9, 3) := dk_180 0 9 (dk_at dksX3_restore_2 4 rfl rfl)
theorem dX3_restore_53 : decode cX3_restore 53 = .ok (.iconst 1, 1) := dk_4 (dk_at dksX3_restore_2 7 rfl rfl)
theorem dX3_restore_54 : decode cX3_restore 54 = .ok (.iaload, 1) := dk_46 (dk_at dksX3_restore_2 8 rfl rfl)
theorem dX3_restore_55 : decode cX3_restore 55 = .ok (.ireturn, 1) := dk_172 (dk_at dksX3_restore_2 9 rfl rfl)
theorem q81 : (Jvm.Cond.initialized "MazeBondsModel") ∈ lw_all := lw_g (lw_at lw_m1 10 rfl) rfl
theorem q460 : (Jvm.Cond.selects "MazeBondsModel" ({ cls := "java/lang/Object", name := "getClass", desc := "()Ljava/lang/Class;" } : Jvm.MethodName) ({ cls := "java/lang/Object", name := "getClass", desc := "()Ljava/lang/Class;" } : Jvm.MethodName)) ∈ lw_all := lw_g (lw_at lw_m2 149 rfl) rfl
theorem q1698 : (Jvm.Cond.instantiable "MazeBondsModel" (21 : Nat)) ∈ lw_all := lw_g (lw_at lw_m7 187 rfl) rfl
theorem q1700 : (Jvm.Cond.instanceMethod ({ cls := "MazeBondsModel", name := "<init>", desc := "()V" } : Jvm.MethodName)) ∈ lw_all := lw_g (lw_at lw_m7 189 rfl) rfl
theorem q1701 : (Jvm.Cond.code ({ cls := "MazeBondsModel", name := "<init>", desc := "()V" } : Jvm.MethodName) prog_10_method_1_code (1 : Nat) (Option.none : Option Jvm.ClassFile.FieldType)) ∈ lw_all := lw_g (lw_at lw_m7 190 rfl) rfl
theorem q1702 : (Jvm.Cond.methodLink "MazeBondsModel" (1 : Nat) ({ cls := "java/lang/Object", name := "<init>", desc := "()V" } : Jvm.MethodName)) ∈ lw_all := lw_g (lw_at lw_m7 191 rfl) rfl
theorem q1703 : (Jvm.Cond.fieldLink "MazeBondsModel" (9 : Nat) "MazeBondsModel" "m" "[I") ∈ lw_all := lw_g (lw_at lw_m7 192 rfl) rfl
theorem q1704 : (Jvm.Cond.fieldLink "MazeBondsModel" (13 : Nat) "MazeBondsModel" "aside" "[I") ∈ lw_all := lw_g (lw_at lw_m7 193 rfl) rfl
theorem q1705 : (Jvm.Cond.fieldLink "MazeBondsModel" (16 : Nat) "MazeBondsModel" "saved" "[I") ∈ lw_all := lw_g (lw_at lw_m7 194 rfl) rfl
theorem q1706 : (Jvm.Cond.fieldLink "MazeBondsModel" (265 : Nat) "MazeBondsModel" "isSaved" "Z") ∈ lw_all := lw_g (lw_at lw_m7 195 rfl) rfl
theorem q1707 : (Jvm.Cond.fieldLink "MazeBondsModel" (19 : Nat) "MazeBondsModel" "past" "[I") ∈ lw_all := lw_g (lw_at lw_m7 196 rfl) rfl
theorem q1708 : (Jvm.Cond.fieldLink "MazeBondsModel" (54 : Nat) "MazeBondsModel" "changes" "I") ∈ lw_all := lw_g (lw_at lw_m7 197 rfl) rfl
theorem q1709 : (Jvm.Cond.fieldLink "MazeBondsModel" (41 : Nat) "MazeBondsModel" "why" "I") ∈ lw_all := lw_g (lw_at lw_m7 198 rfl) rfl
theorem q1710 : (Jvm.Cond.fieldLink "MazeBondsModel" (44 : Nat) "MazeBondsModel" "detail" "I") ∈ lw_all := lw_g (lw_at lw_m7 199 rfl) rfl
theorem q1711 : (Jvm.Cond.fieldLink "MazeBondsModel" (47 : Nat) "MazeBondsModel" "whose" "I") ∈ lw_all := lw_g (lw_at lw_m7 200 rfl) rfl
theorem q1712 : (Jvm.Cond.fieldLink "MazeBondsModel" (22 : Nat) "MazeBondsModel" "fault" "I") ∈ lw_all := lw_g (lw_at lw_m7 201 rfl) rfl
theorem q1713 : (Jvm.Cond.fieldLink "MazeBondsModel" (26 : Nat) "MazeBondsModel" "buffer" "[I") ∈ lw_all := lw_g (lw_at lw_m7 202 rfl) rfl
theorem q1714 : (Jvm.Cond.fieldLink "MazeBondsModel" (195 : Nat) "MazeBondsModel" "bufferMany" "I") ∈ lw_all := lw_g (lw_at lw_m7 203 rfl) rfl
theorem q1715 : (Jvm.Cond.fieldLink "MazeBondsModel" (38 : Nat) "MazeBondsModel" "thrown" "I") ∈ lw_all := lw_g (lw_at lw_m7 204 rfl) rfl
theorem q1716 : (Jvm.Cond.fieldLink "MazeBondsModel" (29 : Nat) "MazeBondsModel" "way" "[I") ∈ lw_all := lw_g (lw_at lw_m7 205 rfl) rfl
theorem q1717 : (Jvm.Cond.fieldLink "MazeBondsModel" (32 : Nat) "MazeBondsModel" "orders" "[I") ∈ lw_all := lw_g (lw_at lw_m7 206 rfl) rfl
theorem q1718 : (Jvm.Cond.fieldLink "MazeBondsModel" (225 : Nat) "MazeBondsModel" "orderMany" "I") ∈ lw_all := lw_g (lw_at lw_m7 207 rfl) rfl
theorem q1719 : (Jvm.Cond.fieldLink "MazeBondsModel" (198 : Nat) "MazeBondsModel" "place0" "I") ∈ lw_all := lw_g (lw_at lw_m7 208 rfl) rfl
theorem q1720 : (Jvm.Cond.fieldLink "MazeBondsModel" (201 : Nat) "MazeBondsModel" "size0" "I") ∈ lw_all := lw_g (lw_at lw_m7 209 rfl) rfl
theorem q1721 : (Jvm.Cond.fieldLink "MazeBondsModel" (204 : Nat) "MazeBondsModel" "isWrong" "Z") ∈ lw_all := lw_g (lw_at lw_m7 210 rfl) rfl
theorem q1722 : (Jvm.Cond.fieldLink "MazeBondsModel" (35 : Nat) "MazeBondsModel" "line0" "[I") ∈ lw_all := lw_g (lw_at lw_m7 211 rfl) rfl
theorem q1723 : (Jvm.Cond.fieldLink "MazeBondsModel" (243 : Nat) "MazeBondsModel" "lineMany" "I") ∈ lw_all := lw_g (lw_at lw_m7 212 rfl) rfl
theorem q1724 : (Jvm.Cond.laysFinal "MazeBondsModel" "MazeBondsModel" "m" "[I") ∈ lw_all := lw_g (lw_at lw_m7 213 rfl) rfl
theorem q1725 : (Jvm.Cond.soleField "MazeBondsModel" "m") ∈ lw_all := lw_g (lw_at lw_m7 214 rfl) rfl
theorem q1726 : (Jvm.Cond.laysFinal "MazeBondsModel" "MazeBondsModel" "aside" "[I") ∈ lw_all := lw_g (lw_at lw_m7 215 rfl) rfl
theorem q1727 : (Jvm.Cond.soleField "MazeBondsModel" "aside") ∈ lw_all := lw_g (lw_at lw_m7 216 rfl) rfl
theorem q1728 : (Jvm.Cond.laysFinal "MazeBondsModel" "MazeBondsModel" "saved" "[I") ∈ lw_all := lw_g (lw_at lw_m7 217 rfl) rfl
theorem q1729 : (Jvm.Cond.soleField "MazeBondsModel" "saved") ∈ lw_all := lw_g (lw_at lw_m7 218 rfl) rfl
theorem q1730 : (Jvm.Cond.lays "MazeBondsModel" "MazeBondsModel" "isSaved" "Z") ∈ lw_all := lw_g (lw_at lw_m7 219 rfl) rfl
theorem q1731 : (Jvm.Cond.soleField "MazeBondsModel" "isSaved") ∈ lw_all := lw_g (lw_at lw_m7 220 rfl) rfl
theorem q1732 : (Jvm.Cond.laysFinal "MazeBondsModel" "MazeBondsModel" "past" "[I") ∈ lw_all := lw_g (lw_at lw_m7 221 rfl) rfl
theorem q1733 : (Jvm.Cond.soleField "MazeBondsModel" "past") ∈ lw_all := lw_g (lw_at lw_m7 222 rfl) rfl
theorem q1734 : (Jvm.Cond.lays "MazeBondsModel" "MazeBondsModel" "changes" "I") ∈ lw_all := lw_g (lw_at lw_m7 223 rfl) rfl
theorem q1735 : (Jvm.Cond.soleField "MazeBondsModel" "changes") ∈ lw_all := lw_g (lw_at lw_m7 224 rfl) rfl
theorem q1736 : (Jvm.Cond.lays "MazeBondsModel" "MazeBondsModel" "why" "I") ∈ lw_all := lw_g (lw_at lw_m7 225 rfl) rfl
theorem q1737 : (Jvm.Cond.soleField "MazeBondsModel" "why") ∈ lw_all := lw_g (lw_at lw_m7 226 rfl) rfl
theorem q1738 : (Jvm.Cond.lays "MazeBondsModel" "MazeBondsModel" "detail" "I") ∈ lw_all := lw_g (lw_at lw_m7 227 rfl) rfl
theorem q1739 : (Jvm.Cond.soleField "MazeBondsModel" "detail") ∈ lw_all := lw_g (lw_at lw_m7 228 rfl) rfl
theorem q1740 : (Jvm.Cond.lays "MazeBondsModel" "MazeBondsModel" "whose" "I") ∈ lw_all := lw_g (lw_at lw_m7 229 rfl) rfl
theorem q1741 : (Jvm.Cond.soleField "MazeBondsModel" "whose") ∈ lw_all := lw_g (lw_at lw_m7 230 rfl) rfl
theorem q1742 : (Jvm.Cond.lays "MazeBondsModel" "MazeBondsModel" "fault" "I") ∈ lw_all := lw_g (lw_at lw_m7 231 rfl) rfl
theorem q1743 : (Jvm.Cond.soleField "MazeBondsModel" "fault") ∈ lw_all := lw_g (lw_at lw_m7 232 rfl) rfl
theorem q1744 : (Jvm.Cond.laysFinal "MazeBondsModel" "MazeBondsModel" "buffer" "[I") ∈ lw_all := lw_g (lw_at lw_m7 233 rfl) rfl
theorem q1745 : (Jvm.Cond.soleField "MazeBondsModel" "buffer") ∈ lw_all := lw_g (lw_at lw_m7 234 rfl) rfl
theorem q1746 : (Jvm.Cond.lays "MazeBondsModel" "MazeBondsModel" "bufferMany" "I") ∈ lw_all := lw_g (lw_at lw_m7 235 rfl) rfl
theorem q1747 : (Jvm.Cond.soleField "MazeBondsModel" "bufferMany") ∈ lw_all := lw_g (lw_at lw_m7 236 rfl) rfl
theorem q1748 : (Jvm.Cond.lays "MazeBondsModel" "MazeBondsModel" "thrown" "I") ∈ lw_all := lw_g (lw_at lw_m7 237 rfl) rfl
theorem q1749 : (Jvm.Cond.soleField "MazeBondsModel" "thrown") ∈ lw_all := lw_g (lw_at lw_m7 238 rfl) rfl
theorem q1750 : (Jvm.Cond.laysFinal "MazeBondsModel" "MazeBondsModel" "way" "[I") ∈ lw_all := lw_g (lw_at lw_m7 239 rfl) rfl
theorem q1751 : (Jvm.Cond.soleField "MazeBondsModel" "way") ∈ lw_all := lw_g (lw_at lw_m8 0 rfl) rfl
theorem q1752 : (Jvm.Cond.laysFinal "MazeBondsModel" "MazeBondsModel" "orders" "[I") ∈ lw_all := lw_g (lw_at lw_m8 1 rfl) rfl
theorem q1753 : (Jvm.Cond.soleField "MazeBondsModel" "orders") ∈ lw_all := lw_g (lw_at lw_m8 2 rfl) rfl
theorem q1754 : (Jvm.Cond.lays "MazeBondsModel" "MazeBondsModel" "orderMany" "I") ∈ lw_all := lw_g (lw_at lw_m8 3 rfl) rfl
theorem q1755 : (Jvm.Cond.soleField "MazeBondsModel" "orderMany") ∈ lw_all := lw_g (lw_at lw_m8 4 rfl) rfl
theorem q1756 : (Jvm.Cond.lays "MazeBondsModel" "MazeBondsModel" "place0" "I") ∈ lw_all := lw_g (lw_at lw_m8 5 rfl) rfl
theorem q1757 : (Jvm.Cond.soleField "MazeBondsModel" "place0") ∈ lw_all := lw_g (lw_at lw_m8 6 rfl) rfl
theorem q1758 : (Jvm.Cond.lays "MazeBondsModel" "MazeBondsModel" "size0" "I") ∈ lw_all := lw_g (lw_at lw_m8 7 rfl) rfl
theorem q1759 : (Jvm.Cond.soleField "MazeBondsModel" "size0") ∈ lw_all := lw_g (lw_at lw_m8 8 rfl) rfl
theorem q1760 : (Jvm.Cond.lays "MazeBondsModel" "MazeBondsModel" "isWrong" "Z") ∈ lw_all := lw_g (lw_at lw_m8 9 rfl) rfl
theorem q1761 : (Jvm.Cond.soleField "MazeBondsModel" "isWrong") ∈ lw_all := lw_g (lw_at lw_m8 10 rfl) rfl
theorem q1762 : (Jvm.Cond.laysFinal "MazeBondsModel" "MazeBondsModel" "line0" "[I") ∈ lw_all := lw_g (lw_at lw_m8 11 rfl) rfl
theorem q1763 : (Jvm.Cond.soleField "MazeBondsModel" "line0") ∈ lw_all := lw_g (lw_at lw_m8 12 rfl) rfl
theorem q1764 : (Jvm.Cond.lays "MazeBondsModel" "MazeBondsModel" "lineMany" "I") ∈ lw_all := lw_g (lw_at lw_m8 13 rfl) rfl
theorem q1765 : (Jvm.Cond.soleField "MazeBondsModel" "lineMany") ∈ lw_all := lw_g (lw_at lw_m8 14 rfl) rfl
theorem q1766 : (Jvm.Cond.superclass "MazeBondsModel" "java/lang/Object") ∈ lw_all := lw_g (lw_at lw_m8 15 rfl) rfl
theorem q1768 : (Jvm.Cond.instanceMethod ({ cls := "MazeBondsModel", name := "thrown", desc := "()I" } : Jvm.MethodName)) ∈ lw_all := lw_g (lw_at lw_m8 17 rfl) rfl
theorem q1769 : (Jvm.Cond.selects "MazeBondsModel" ({ cls := "MazeBondsModel", name := "thrown", desc := "()I" } : Jvm.MethodName) ({ cls := "MazeBondsModel", name := "thrown", desc := "()I" } : Jvm.MethodName)) ∈ lw_all := lw_g (lw_at lw_m8 18 rfl) rfl
theorem q1770 : (Jvm.Cond.code ({ cls := "MazeBondsModel", name := "thrown", desc := "()I" } : Jvm.MethodName) prog_10_method_2_code (1 : Nat) (Option.some Jvm.ClassFile.FieldType.int)) ∈ lw_all := lw_g (lw_at lw_m8 19 rfl) rfl
theorem q1772 : (Jvm.Cond.instanceMethod ({ cls := "MazeBondsModel", name := "hedge", desc := "(III)I" } : Jvm.MethodName)) ∈ lw_all := lw_g (lw_at lw_m8 21 rfl) rfl
theorem q1773 : (Jvm.Cond.selects "MazeBondsModel" ({ cls := "MazeBondsModel", name := "hedge", desc := "(III)I" } : Jvm.MethodName) ({ cls := "MazeBondsModel", name := "hedge", desc := "(III)I" } : Jvm.MethodName)) ∈ lw_all := lw_g (lw_at lw_m8 22 rfl) rfl
theorem q1774 : (Jvm.Cond.code ({ cls := "MazeBondsModel", name := "hedge", desc := "(III)I" } : Jvm.MethodName) prog_10_method_23_code (4 : Nat) (Option.some Jvm.ClassFile.FieldType.int)) ∈ lw_all := lw_g (lw_at lw_m8 23 rfl) rfl
theorem q1775 : (Jvm.Cond.methodLink "MazeBondsModel" (100 : Nat) ({ cls := "MazeBondsModel", name := "starts", desc := "()V" } : Jvm.MethodName)) ∈ lw_all := lw_g (lw_at lw_m8 24 rfl) rfl
theorem q1776 : (Jvm.Cond.privateMethod ({ cls := "MazeBondsModel", name := "starts", desc := "()V" } : Jvm.MethodName)) ∈ lw_tbl := lw_at lw_m8 25 rfl
theorem q1777 : (Jvm.Cond.instanceMethod ({ cls := "MazeBondsModel", name := "starts", desc := "()V" } : Jvm.MethodName)) ∈ lw_all := lw_g (lw_at lw_m8 26 rfl) rfl
theorem q1778 : (Jvm.Cond.code ({ cls := "MazeBondsModel", name := "starts", desc := "()V" } : Jvm.MethodName) prog_10_method_6_code (2 : Nat) (Option.none : Option Jvm.ClassFile.FieldType)) ∈ lw_all := lw_g (lw_at lw_m8 27 rfl) rfl
theorem q1779 : (Jvm.Cond.methodLink "MazeBondsModel" (103 : Nat) ({ cls := "MazeBondsModel", name := "hedgeIt", desc := "(III)I" } : Jvm.MethodName)) ∈ lw_all := lw_g (lw_at lw_m8 28 rfl) rfl
theorem q1780 : (Jvm.Cond.privateMethod ({ cls := "MazeBondsModel", name := "hedgeIt", desc := "(III)I" } : Jvm.MethodName)) ∈ lw_tbl := lw_at lw_m8 29 rfl
theorem q1781 : (Jvm.Cond.instanceMethod ({ cls := "MazeBondsModel", name := "hedgeIt", desc := "(III)I" } : Jvm.MethodName)) ∈ lw_all := lw_g (lw_at lw_m8 30 rfl) rfl
theorem q1782 : (Jvm.Cond.code ({ cls := "MazeBondsModel", name := "hedgeIt", desc := "(III)I" } : Jvm.MethodName) prog_10_method_22_code (6 : Nat) (Option.some Jvm.ClassFile.FieldType.int)) ∈ lw_all := lw_g (lw_at lw_m8 31 rfl) rfl
theorem q1783 : (Jvm.Cond.constantLong "MazeBondsModel" (94 : Nat) (9 : Int64)) ∈ lw_all := lw_g (lw_at lw_m8 32 rfl) rfl
theorem q1784 : (Jvm.Cond.methodLink "MazeBondsModel" (59 : Nat) ({ cls := "MazeBondsModel", name := "in", desc := "(JJJ)Z" } : Jvm.MethodName)) ∈ lw_all := lw_g (lw_at lw_m8 33 rfl) rfl
theorem q1785 : (Jvm.Cond.static ({ cls := "MazeBondsModel", name := "in", desc := "(JJJ)Z" } : Jvm.MethodName)) ∈ lw_all := lw_g (lw_at lw_m8 34 rfl) rfl
theorem q1786 : (Jvm.Cond.code ({ cls := "MazeBondsModel", name := "in", desc := "(JJJ)Z" } : Jvm.MethodName) prog_10_method_4_code (6 : Nat) (Option.some Jvm.ClassFile.FieldType.boolean)) ∈ lw_all := lw_g (lw_at lw_m8 35 rfl) rfl
theorem q1787 : (Jvm.Cond.methodLink "MazeBondsModel" (91 : Nat) ({ cls := "MazeBondsModel", name := "refuse", desc := "(II)I" } : Jvm.MethodName)) ∈ lw_all := lw_g (lw_at lw_m8 36 rfl) rfl
theorem q1788 : (Jvm.Cond.privateMethod ({ cls := "MazeBondsModel", name := "refuse", desc := "(II)I" } : Jvm.MethodName)) ∈ lw_tbl := lw_at lw_m8 37 rfl
theorem q1789 : (Jvm.Cond.instanceMethod ({ cls := "MazeBondsModel", name := "refuse", desc := "(II)I" } : Jvm.MethodName)) ∈ lw_all := lw_g (lw_at lw_m8 38 rfl) rfl
theorem q1790 : (Jvm.Cond.code ({ cls := "MazeBondsModel", name := "refuse", desc := "(II)I" } : Jvm.MethodName) prog_10_method_5_code (3 : Nat) (Option.some Jvm.ClassFile.FieldType.int)) ∈ lw_all := lw_g (lw_at lw_m8 39 rfl) rfl
theorem q1791 : (Jvm.Cond.methodLink "MazeBondsModel" (50 : Nat) ({ cls := "MazeBondsModel", name := "throwing", desc := "(I)I" } : Jvm.MethodName)) ∈ lw_all := lw_g (lw_at lw_m8 40 rfl) rfl
theorem q1792 : (Jvm.Cond.privateMethod ({ cls := "MazeBondsModel", name := "throwing", desc := "(I)I" } : Jvm.MethodName)) ∈ lw_tbl := lw_at lw_m8 41 rfl
theorem q1793 : (Jvm.Cond.instanceMethod ({ cls := "MazeBondsModel", name := "throwing", desc := "(I)I" } : Jvm.MethodName)) ∈ lw_all := lw_g (lw_at lw_m8 42 rfl) rfl
theorem q1794 : (Jvm.Cond.code ({ cls := "MazeBondsModel", name := "throwing", desc := "(I)I" } : Jvm.MethodName) prog_10_method_3_code (2 : Nat) (Option.some Jvm.ClassFile.FieldType.int)) ∈ lw_all := lw_g (lw_at lw_m8 43 rfl) rfl
theorem q1795 : (Jvm.Cond.methodLink "MazeBondsModel" (96 : Nat) ({ cls := "MazeBondsModel", name := "areNeighbours", desc := "(II)Z" } : Jvm.MethodName)) ∈ lw_all := lw_g (lw_at lw_m8 44 rfl) rfl
theorem q1796 : (Jvm.Cond.privateMethod ({ cls := "MazeBondsModel", name := "areNeighbours", desc := "(II)Z" } : Jvm.MethodName)) ∈ lw_tbl := lw_at lw_m8 45 rfl
theorem q1797 : (Jvm.Cond.instanceMethod ({ cls := "MazeBondsModel", name := "areNeighbours", desc := "(II)Z" } : Jvm.MethodName)) ∈ lw_all := lw_g (lw_at lw_m8 46 rfl) rfl
theorem q1798 : (Jvm.Cond.code ({ cls := "MazeBondsModel", name := "areNeighbours", desc := "(II)Z" } : Jvm.MethodName) prog_10_method_21_code (3 : Nat) (Option.some Jvm.ClassFile.FieldType.boolean)) ∈ lw_all := lw_g (lw_at lw_m8 47 rfl) rfl
theorem q1799 : (Jvm.Cond.methodLink "MazeBondsModel" (88 : Nat) ({ cls := "MazeBondsModel", name := "isCell", desc := "(I)Z" } : Jvm.MethodName)) ∈ lw_all := lw_g (lw_at lw_m8 48 rfl) rfl
theorem q1800 : (Jvm.Cond.static ({ cls := "MazeBondsModel", name := "isCell", desc := "(I)Z" } : Jvm.MethodName)) ∈ lw_all := lw_g (lw_at lw_m8 49 rfl) rfl
theorem q1801 : (Jvm.Cond.code ({ cls := "MazeBondsModel", name := "isCell", desc := "(I)Z" } : Jvm.MethodName) prog_10_method_8_code (1 : Nat) (Option.some Jvm.ClassFile.FieldType.boolean)) ∈ lw_all := lw_g (lw_at lw_m8 50 rfl) rfl
theorem q1802 : (Jvm.Cond.constantLong "MazeBondsModel" (57 : Nat) (15 : Int64)) ∈ lw_all := lw_g (lw_at lw_m8 51 rfl) rfl
theorem q1803 : (Jvm.Cond.methodLink "MazeBondsModel" (77 : Nat) ({ cls := "MazeBondsModel", name := "hedgeAt", desc := "(II)I" } : Jvm.MethodName)) ∈ lw_all := lw_g (lw_at lw_m8 52 rfl) rfl
theorem q1804 : (Jvm.Cond.static ({ cls := "MazeBondsModel", name := "hedgeAt", desc := "(II)I" } : Jvm.MethodName)) ∈ lw_all := lw_g (lw_at lw_m8 53 rfl) rfl
theorem q1805 : (Jvm.Cond.code ({ cls := "MazeBondsModel", name := "hedgeAt", desc := "(II)I" } : Jvm.MethodName) prog_10_method_10_code (4 : Nat) (Option.some Jvm.ClassFile.FieldType.int)) ∈ lw_all := lw_g (lw_at lw_m8 54 rfl) rfl
theorem q1806 : (Jvm.Cond.methodLink "MazeBondsModel" (65 : Nat) ({ cls := "java/lang/Math", name := "min", desc := "(II)I" } : Jvm.MethodName)) ∈ lw_all := lw_g (lw_at lw_m8 55 rfl) rfl
theorem q1807 : (Jvm.Cond.methodLink "MazeBondsModel" (71 : Nat) ({ cls := "java/lang/Math", name := "max", desc := "(II)I" } : Jvm.MethodName)) ∈ lw_all := lw_g (lw_at lw_m8 56 rfl) rfl
theorem q1808 : (Jvm.Cond.methodLink "MazeBondsModel" (107 : Nat) ({ cls := "MazeBondsModel", name := "changed", desc := "(I)I" } : Jvm.MethodName)) ∈ lw_all := lw_g (lw_at lw_m8 57 rfl) rfl
theorem q1809 : (Jvm.Cond.privateMethod ({ cls := "MazeBondsModel", name := "changed", desc := "(I)I" } : Jvm.MethodName)) ∈ lw_tbl := lw_at lw_m8 58 rfl
theorem q1810 : (Jvm.Cond.instanceMethod ({ cls := "MazeBondsModel", name := "changed", desc := "(I)I" } : Jvm.MethodName)) ∈ lw_all := lw_g (lw_at lw_m8 59 rfl) rfl
theorem q1811 : (Jvm.Cond.code ({ cls := "MazeBondsModel", name := "changed", desc := "(I)I" } : Jvm.MethodName) prog_10_method_7_code (3 : Nat) (Option.some Jvm.ClassFile.FieldType.int)) ∈ lw_all := lw_g (lw_at lw_m8 60 rfl) rfl
theorem q1813 : (Jvm.Cond.instanceMethod ({ cls := "MazeBondsModel", name := "summer", desc := "()I" } : Jvm.MethodName)) ∈ lw_all := lw_g (lw_at lw_m8 62 rfl) rfl
theorem q1814 : (Jvm.Cond.selects "MazeBondsModel" ({ cls := "MazeBondsModel", name := "summer", desc := "()I" } : Jvm.MethodName) ({ cls := "MazeBondsModel", name := "summer", desc := "()I" } : Jvm.MethodName)) ∈ lw_all := lw_g (lw_at lw_m8 63 rfl) rfl
theorem q1815 : (Jvm.Cond.code ({ cls := "MazeBondsModel", name := "summer", desc := "()I" } : Jvm.MethodName) prog_10_method_25_code (1 : Nat) (Option.some Jvm.ClassFile.FieldType.int)) ∈ lw_all := lw_g (lw_at lw_m8 64 rfl) rfl
theorem q1816 : (Jvm.Cond.methodLink "MazeBondsModel" (114 : Nat) ({ cls := "MazeBondsModel", name := "summerIt", desc := "()I" } : Jvm.MethodName)) ∈ lw_all := lw_g (lw_at lw_m8 65 rfl) rfl
theorem q1817 : (Jvm.Cond.privateMethod ({ cls := "MazeBondsModel", name := "summerIt", desc := "()I" } : Jvm.MethodName)) ∈ lw_tbl := lw_at lw_m8 66 rfl
theorem q1818 : (Jvm.Cond.instanceMethod ({ cls := "MazeBondsModel", name := "summerIt", desc := "()I" } : Jvm.MethodName)) ∈ lw_all := lw_g (lw_at lw_m8 67 rfl) rfl
theorem q1819 : (Jvm.Cond.code ({ cls := "MazeBondsModel", name := "summerIt", desc := "()I" } : Jvm.MethodName) prog_10_method_24_code (3 : Nat) (Option.some Jvm.ClassFile.FieldType.int)) ∈ lw_all := lw_g (lw_at lw_m8 68 rfl) rfl
theorem q1820 : (Jvm.Cond.methodLink "MazeBondsModel" (110 : Nat) ({ cls := "MazeBondsModel", name := "gaps", desc := "()I" } : Jvm.MethodName)) ∈ lw_all := lw_g (lw_at lw_m8 69 rfl) rfl
theorem q1821 : (Jvm.Cond.privateMethod ({ cls := "MazeBondsModel", name := "gaps", desc := "()I" } : Jvm.MethodName)) ∈ lw_tbl := lw_at lw_m8 70 rfl
theorem q1822 : (Jvm.Cond.instanceMethod ({ cls := "MazeBondsModel", name := "gaps", desc := "()I" } : Jvm.MethodName)) ∈ lw_all := lw_g (lw_at lw_m8 71 rfl) rfl
theorem q1823 : (Jvm.Cond.code ({ cls := "MazeBondsModel", name := "gaps", desc := "()I" } : Jvm.MethodName) prog_10_method_20_code (3 : Nat) (Option.some Jvm.ClassFile.FieldType.int)) ∈ lw_all := lw_g (lw_at lw_m8 72 rfl) rfl
theorem q1824 : (Jvm.Cond.methodLink "MazeBondsModel" (80 : Nat) ({ cls := "MazeBondsModel", name := "isGapAt", desc := "(I)Z" } : Jvm.MethodName)) ∈ lw_all := lw_g (lw_at lw_m8 73 rfl) rfl
theorem q1825 : (Jvm.Cond.privateMethod ({ cls := "MazeBondsModel", name := "isGapAt", desc := "(I)Z" } : Jvm.MethodName)) ∈ lw_tbl := lw_at lw_m8 74 rfl
theorem q1826 : (Jvm.Cond.instanceMethod ({ cls := "MazeBondsModel", name := "isGapAt", desc := "(I)Z" } : Jvm.MethodName)) ∈ lw_all := lw_g (lw_at lw_m8 75 rfl) rfl
theorem q1827 : (Jvm.Cond.code ({ cls := "MazeBondsModel", name := "isGapAt", desc := "(I)Z" } : Jvm.MethodName) prog_10_method_11_code (2 : Nat) (Option.some Jvm.ClassFile.FieldType.boolean)) ∈ lw_all := lw_g (lw_at lw_m8 76 rfl) rfl
theorem q1829 : (Jvm.Cond.instanceMethod ({ cls := "MazeBondsModel", name := "trim", desc := "(III)I" } : Jvm.MethodName)) ∈ lw_all := lw_g (lw_at lw_m8 78 rfl) rfl
theorem q1830 : (Jvm.Cond.selects "MazeBondsModel" ({ cls := "MazeBondsModel", name := "trim", desc := "(III)I" } : Jvm.MethodName) ({ cls := "MazeBondsModel", name := "trim", desc := "(III)I" } : Jvm.MethodName)) ∈ lw_all := lw_g (lw_at lw_m8 79 rfl) rfl
theorem q1831 : (Jvm.Cond.code ({ cls := "MazeBondsModel", name := "trim", desc := "(III)I" } : Jvm.MethodName) prog_10_method_27_code (4 : Nat) (Option.some Jvm.ClassFile.FieldType.int)) ∈ lw_all := lw_g (lw_at lw_m8 80 rfl) rfl
theorem q1832 : (Jvm.Cond.methodLink "MazeBondsModel" (123 : Nat) ({ cls := "MazeBondsModel", name := "trimIt", desc := "(III)I" } : Jvm.MethodName)) ∈ lw_all := lw_g (lw_at lw_m8 81 rfl) rfl
theorem q1833 : (Jvm.Cond.privateMethod ({ cls := "MazeBondsModel", name := "trimIt", desc := "(III)I" } : Jvm.MethodName)) ∈ lw_tbl := lw_at lw_m8 82 rfl
theorem q1834 : (Jvm.Cond.instanceMethod ({ cls := "MazeBondsModel", name := "trimIt", desc := "(III)I" } : Jvm.MethodName)) ∈ lw_all := lw_g (lw_at lw_m8 83 rfl) rfl
theorem q1835 : (Jvm.Cond.code ({ cls := "MazeBondsModel", name := "trimIt", desc := "(III)I" } : Jvm.MethodName) prog_10_method_26_code (6 : Nat) (Option.some Jvm.ClassFile.FieldType.int)) ∈ lw_all := lw_g (lw_at lw_m8 84 rfl) rfl
theorem q1836 : (Jvm.Cond.methodLink "MazeBondsModel" (117 : Nat) ({ cls := "MazeBondsModel", name := "isGardener", desc := "(I)Z" } : Jvm.MethodName)) ∈ lw_all := lw_g (lw_at lw_m8 85 rfl) rfl
theorem q1837 : (Jvm.Cond.privateMethod ({ cls := "MazeBondsModel", name := "isGardener", desc := "(I)Z" } : Jvm.MethodName)) ∈ lw_tbl := lw_at lw_m8 86 rfl
theorem q1838 : (Jvm.Cond.instanceMethod ({ cls := "MazeBondsModel", name := "isGardener", desc := "(I)Z" } : Jvm.MethodName)) ∈ lw_all := lw_g (lw_at lw_m8 87 rfl) rfl
theorem q1839 : (Jvm.Cond.code ({ cls := "MazeBondsModel", name := "isGardener", desc := "(I)Z" } : Jvm.MethodName) prog_10_method_14_code (2 : Nat) (Option.some Jvm.ClassFile.FieldType.boolean)) ∈ lw_all := lw_g (lw_at lw_m8 88 rfl) rfl
theorem q1840 : (Jvm.Cond.methodLink "MazeBondsModel" (120 : Nat) ({ cls := "MazeBondsModel", name := "gardenerAt", desc := "(I)I" } : Jvm.MethodName)) ∈ lw_all := lw_g (lw_at lw_m8 89 rfl) rfl
theorem q1841 : (Jvm.Cond.static ({ cls := "MazeBondsModel", name := "gardenerAt", desc := "(I)I" } : Jvm.MethodName)) ∈ lw_all := lw_g (lw_at lw_m8 90 rfl) rfl
theorem q1842 : (Jvm.Cond.code ({ cls := "MazeBondsModel", name := "gardenerAt", desc := "(I)I" } : Jvm.MethodName) prog_10_method_12_code (1 : Nat) (Option.some Jvm.ClassFile.FieldType.int)) ∈ lw_all := lw_g (lw_at lw_m8 91 rfl) rfl
theorem q1844 : (Jvm.Cond.instanceMethod ({ cls := "MazeBondsModel", name := "minotaur", desc := "(I)I" } : Jvm.MethodName)) ∈ lw_all := lw_g (lw_at lw_m8 93 rfl) rfl
theorem q1845 : (Jvm.Cond.selects "MazeBondsModel" ({ cls := "MazeBondsModel", name := "minotaur", desc := "(I)I" } : Jvm.MethodName) ({ cls := "MazeBondsModel", name := "minotaur", desc := "(I)I" } : Jvm.MethodName)) ∈ lw_all := lw_g (lw_at lw_m8 94 rfl) rfl
theorem q1846 : (Jvm.Cond.code ({ cls := "MazeBondsModel", name := "minotaur", desc := "(I)I" } : Jvm.MethodName) prog_10_method_30_code (2 : Nat) (Option.some Jvm.ClassFile.FieldType.int)) ∈ lw_all := lw_g (lw_at lw_m8 95 rfl) rfl
theorem q1847 : (Jvm.Cond.methodLink "MazeBondsModel" (134 : Nat) ({ cls := "MazeBondsModel", name := "minotaurIt", desc := "(I)I" } : Jvm.MethodName)) ∈ lw_all := lw_g (lw_at lw_m8 96 rfl) rfl
theorem q1848 : (Jvm.Cond.privateMethod ({ cls := "MazeBondsModel", name := "minotaurIt", desc := "(I)I" } : Jvm.MethodName)) ∈ lw_tbl := lw_at lw_m8 97 rfl
theorem q1849 : (Jvm.Cond.instanceMethod ({ cls := "MazeBondsModel", name := "minotaurIt", desc := "(I)I" } : Jvm.MethodName)) ∈ lw_all := lw_g (lw_at lw_m8 98 rfl) rfl
theorem q1850 : (Jvm.Cond.code ({ cls := "MazeBondsModel", name := "minotaurIt", desc := "(I)I" } : Jvm.MethodName) prog_10_method_29_code (5 : Nat) (Option.some Jvm.ClassFile.FieldType.int)) ∈ lw_all := lw_g (lw_at lw_m8 99 rfl) rfl
theorem q1851 : (Jvm.Cond.constantLong "MazeBondsModel" (129 : Nat) (-1 : Int64)) ∈ lw_all := lw_g (lw_at lw_m8 100 rfl) rfl
theorem q1852 : (Jvm.Cond.methodLink "MazeBondsModel" (131 : Nat) ({ cls := "MazeBondsModel", name := "meets", desc := "(I)Z" } : Jvm.MethodName)) ∈ lw_all := lw_g (lw_at lw_m8 101 rfl) rfl
theorem q1853 : (Jvm.Cond.privateMethod ({ cls := "MazeBondsModel", name := "meets", desc := "(I)Z" } : Jvm.MethodName)) ∈ lw_tbl := lw_at lw_m8 102 rfl
theorem q1854 : (Jvm.Cond.instanceMethod ({ cls := "MazeBondsModel", name := "meets", desc := "(I)Z" } : Jvm.MethodName)) ∈ lw_all := lw_g (lw_at lw_m8 103 rfl) rfl
theorem q1855 : (Jvm.Cond.code ({ cls := "MazeBondsModel", name := "meets", desc := "(I)Z" } : Jvm.MethodName) prog_10_method_28_code (3 : Nat) (Option.some Jvm.ClassFile.FieldType.boolean)) ∈ lw_all := lw_g (lw_at lw_m8 104 rfl) rfl
theorem q1856 : (Jvm.Cond.methodLink "MazeBondsModel" (126 : Nat) ({ cls := "MazeBondsModel", name := "visitorAt", desc := "(I)I" } : Jvm.MethodName)) ∈ lw_all := lw_g (lw_at lw_m8 105 rfl) rfl
theorem q1857 : (Jvm.Cond.static ({ cls := "MazeBondsModel", name := "visitorAt", desc := "(I)I" } : Jvm.MethodName)) ∈ lw_all := lw_g (lw_at lw_m8 106 rfl) rfl
theorem q1858 : (Jvm.Cond.code ({ cls := "MazeBondsModel", name := "visitorAt", desc := "(I)I" } : Jvm.MethodName) prog_10_method_13_code (1 : Nat) (Option.some Jvm.ClassFile.FieldType.int)) ∈ lw_all := lw_g (lw_at lw_m8 107 rfl) rfl
theorem q1860 : (Jvm.Cond.instanceMethod ({ cls := "MazeBondsModel", name := "gardener", desc := "(I)I" } : Jvm.MethodName)) ∈ lw_all := lw_g (lw_at lw_m8 109 rfl) rfl
theorem q1861 : (Jvm.Cond.selects "MazeBondsModel" ({ cls := "MazeBondsModel", name := "gardener", desc := "(I)I" } : Jvm.MethodName) ({ cls := "MazeBondsModel", name := "gardener", desc := "(I)I" } : Jvm.MethodName)) ∈ lw_all := lw_g (lw_at lw_m8 110 rfl) rfl
theorem q1862 : (Jvm.Cond.code ({ cls := "MazeBondsModel", name := "gardener", desc := "(I)I" } : Jvm.MethodName) prog_10_method_32_code (2 : Nat) (Option.some Jvm.ClassFile.FieldType.int)) ∈ lw_all := lw_g (lw_at lw_m8 111 rfl) rfl
theorem q1863 : (Jvm.Cond.methodLink "MazeBondsModel" (139 : Nat) ({ cls := "MazeBondsModel", name := "gardenerIt", desc := "(I)I" } : Jvm.MethodName)) ∈ lw_all := lw_g (lw_at lw_m8 112 rfl) rfl
theorem q1864 : (Jvm.Cond.privateMethod ({ cls := "MazeBondsModel", name := "gardenerIt", desc := "(I)I" } : Jvm.MethodName)) ∈ lw_tbl := lw_at lw_m8 113 rfl
theorem q1865 : (Jvm.Cond.instanceMethod ({ cls := "MazeBondsModel", name := "gardenerIt", desc := "(I)I" } : Jvm.MethodName)) ∈ lw_all := lw_g (lw_at lw_m8 114 rfl) rfl
theorem q1866 : (Jvm.Cond.code ({ cls := "MazeBondsModel", name := "gardenerIt", desc := "(I)I" } : Jvm.MethodName) prog_10_method_31_code (2 : Nat) (Option.some Jvm.ClassFile.FieldType.int)) ∈ lw_all := lw_g (lw_at lw_m8 115 rfl) rfl
theorem q1867 : (Jvm.Cond.constantLong "MazeBondsModel" (137 : Nat) (99 : Int64)) ∈ lw_all := lw_g (lw_at lw_m8 116 rfl) rfl
theorem q1869 : (Jvm.Cond.instanceMethod ({ cls := "MazeBondsModel", name := "visitor", desc := "(I)I" } : Jvm.MethodName)) ∈ lw_all := lw_g (lw_at lw_m8 118 rfl) rfl
theorem q1870 : (Jvm.Cond.selects "MazeBondsModel" ({ cls := "MazeBondsModel", name := "visitor", desc := "(I)I" } : Jvm.MethodName) ({ cls := "MazeBondsModel", name := "visitor", desc := "(I)I" } : Jvm.MethodName)) ∈ lw_all := lw_g (lw_at lw_m8 119 rfl) rfl
theorem q1871 : (Jvm.Cond.code ({ cls := "MazeBondsModel", name := "visitor", desc := "(I)I" } : Jvm.MethodName) prog_10_method_34_code (2 : Nat) (Option.some Jvm.ClassFile.FieldType.int)) ∈ lw_all := lw_g (lw_at lw_m8 120 rfl) rfl
theorem q1872 : (Jvm.Cond.methodLink "MazeBondsModel" (151 : Nat) ({ cls := "MazeBondsModel", name := "visitorIt", desc := "(I)I" } : Jvm.MethodName)) ∈ lw_all := lw_g (lw_at lw_m8 121 rfl) rfl
theorem q1873 : (Jvm.Cond.privateMethod ({ cls := "MazeBondsModel", name := "visitorIt", desc := "(I)I" } : Jvm.MethodName)) ∈ lw_tbl := lw_at lw_m8 122 rfl
theorem q1874 : (Jvm.Cond.instanceMethod ({ cls := "MazeBondsModel", name := "visitorIt", desc := "(I)I" } : Jvm.MethodName)) ∈ lw_all := lw_g (lw_at lw_m8 123 rfl) rfl
theorem q1875 : (Jvm.Cond.code ({ cls := "MazeBondsModel", name := "visitorIt", desc := "(I)I" } : Jvm.MethodName) prog_10_method_33_code (4 : Nat) (Option.some Jvm.ClassFile.FieldType.int)) ∈ lw_all := lw_g (lw_at lw_m8 124 rfl) rfl
theorem q1876 : (Jvm.Cond.methodLink "MazeBondsModel" (142 : Nat) ({ cls := "MazeBondsModel", name := "hoursOf", desc := "(II)I" } : Jvm.MethodName)) ∈ lw_all := lw_g (lw_at lw_m8 125 rfl) rfl
theorem q1877 : (Jvm.Cond.privateMethod ({ cls := "MazeBondsModel", name := "hoursOf", desc := "(II)I" } : Jvm.MethodName)) ∈ lw_tbl := lw_at lw_m8 126 rfl
theorem q1878 : (Jvm.Cond.instanceMethod ({ cls := "MazeBondsModel", name := "hoursOf", desc := "(II)I" } : Jvm.MethodName)) ∈ lw_all := lw_g (lw_at lw_m8 127 rfl) rfl
theorem q1879 : (Jvm.Cond.code ({ cls := "MazeBondsModel", name := "hoursOf", desc := "(II)I" } : Jvm.MethodName) prog_10_method_17_code (3 : Nat) (Option.some Jvm.ClassFile.FieldType.int)) ∈ lw_all := lw_g (lw_at lw_m8 128 rfl) rfl
theorem q1880 : (Jvm.Cond.methodLink "MazeBondsModel" (84 : Nat) ({ cls := "MazeBondsModel", name := "laysWays", desc := "(IZ)V" } : Jvm.MethodName)) ∈ lw_all := lw_g (lw_at lw_m8 129 rfl) rfl
theorem q1881 : (Jvm.Cond.privateMethod ({ cls := "MazeBondsModel", name := "laysWays", desc := "(IZ)V" } : Jvm.MethodName)) ∈ lw_tbl := lw_at lw_m8 130 rfl
theorem q1882 : (Jvm.Cond.instanceMethod ({ cls := "MazeBondsModel", name := "laysWays", desc := "(IZ)V" } : Jvm.MethodName)) ∈ lw_all := lw_g (lw_at lw_m8 131 rfl) rfl
theorem q1883 : (Jvm.Cond.code ({ cls := "MazeBondsModel", name := "laysWays", desc := "(IZ)V" } : Jvm.MethodName) prog_10_method_16_code (9 : Nat) (Option.none : Option Jvm.ClassFile.FieldType)) ∈ lw_all := lw_g (lw_at lw_m8 132 rfl) rfl
theorem q1884 : (Jvm.Cond.methodLink "MazeBondsModel" (74 : Nat) ({ cls := "MazeBondsModel", name := "nextTo", desc := "(II)I" } : Jvm.MethodName)) ∈ lw_all := lw_g (lw_at lw_m8 133 rfl) rfl
theorem q1885 : (Jvm.Cond.static ({ cls := "MazeBondsModel", name := "nextTo", desc := "(II)I" } : Jvm.MethodName)) ∈ lw_all := lw_g (lw_at lw_m8 134 rfl) rfl
theorem q1886 : (Jvm.Cond.code ({ cls := "MazeBondsModel", name := "nextTo", desc := "(II)I" } : Jvm.MethodName) prog_10_method_9_code (4 : Nat) (Option.some Jvm.ClassFile.FieldType.int)) ∈ lw_all := lw_g (lw_at lw_m8 135 rfl) rfl
theorem q1887 : (Jvm.Cond.constantLong "MazeBondsModel" (63 : Nat) (3 : Int64)) ∈ lw_all := lw_g (lw_at lw_m8 136 rfl) rfl
theorem q1888 : (Jvm.Cond.methodLink "MazeBondsModel" (145 : Nat) ({ cls := "MazeBondsModel", name := "reachedFrom", desc := "(I)I" } : Jvm.MethodName)) ∈ lw_all := lw_g (lw_at lw_m8 137 rfl) rfl
theorem q1889 : (Jvm.Cond.privateMethod ({ cls := "MazeBondsModel", name := "reachedFrom", desc := "(I)I" } : Jvm.MethodName)) ∈ lw_tbl := lw_at lw_m8 138 rfl
theorem q1890 : (Jvm.Cond.instanceMethod ({ cls := "MazeBondsModel", name := "reachedFrom", desc := "(I)I" } : Jvm.MethodName)) ∈ lw_all := lw_g (lw_at lw_m8 139 rfl) rfl
theorem q1891 : (Jvm.Cond.code ({ cls := "MazeBondsModel", name := "reachedFrom", desc := "(I)I" } : Jvm.MethodName) prog_10_method_18_code (4 : Nat) (Option.some Jvm.ClassFile.FieldType.int)) ∈ lw_all := lw_g (lw_at lw_m8 140 rfl) rfl
theorem q1892 : (Jvm.Cond.methodLink "MazeBondsModel" (148 : Nat) ({ cls := "MazeBondsModel", name := "ones", desc := "(I)I" } : Jvm.MethodName)) ∈ lw_all := lw_g (lw_at lw_m8 141 rfl) rfl
theorem q1893 : (Jvm.Cond.static ({ cls := "MazeBondsModel", name := "ones", desc := "(I)I" } : Jvm.MethodName)) ∈ lw_all := lw_g (lw_at lw_m8 142 rfl) rfl
theorem q1894 : (Jvm.Cond.code ({ cls := "MazeBondsModel", name := "ones", desc := "(I)I" } : Jvm.MethodName) prog_10_method_19_code (3 : Nat) (Option.some Jvm.ClassFile.FieldType.int)) ∈ lw_all := lw_g (lw_at lw_m8 143 rfl) rfl
theorem q1896 : (Jvm.Cond.instanceMethod ({ cls := "MazeBondsModel", name := "bond", desc := "(III)I" } : Jvm.MethodName)) ∈ lw_all := lw_g (lw_at lw_m8 145 rfl) rfl
theorem q1897 : (Jvm.Cond.selects "MazeBondsModel" ({ cls := "MazeBondsModel", name := "bond", desc := "(III)I" } : Jvm.MethodName) ({ cls := "MazeBondsModel", name := "bond", desc := "(III)I" } : Jvm.MethodName)) ∈ lw_all := lw_g (lw_at lw_m8 146 rfl) rfl
theorem q1898 : (Jvm.Cond.code ({ cls := "MazeBondsModel", name := "bond", desc := "(III)I" } : Jvm.MethodName) prog_10_method_36_code (4 : Nat) (Option.some Jvm.ClassFile.FieldType.int)) ∈ lw_all := lw_g (lw_at lw_m8 147 rfl) rfl
theorem q1899 : (Jvm.Cond.methodLink "MazeBondsModel" (159 : Nat) ({ cls := "MazeBondsModel", name := "bondIt", desc := "(III)I" } : Jvm.MethodName)) ∈ lw_all := lw_g (lw_at lw_m8 148 rfl) rfl
theorem q1900 : (Jvm.Cond.privateMethod ({ cls := "MazeBondsModel", name := "bondIt", desc := "(III)I" } : Jvm.MethodName)) ∈ lw_tbl := lw_at lw_m8 149 rfl
theorem q1901 : (Jvm.Cond.instanceMethod ({ cls := "MazeBondsModel", name := "bondIt", desc := "(III)I" } : Jvm.MethodName)) ∈ lw_all := lw_g (lw_at lw_m8 150 rfl) rfl
theorem q1902 : (Jvm.Cond.code ({ cls := "MazeBondsModel", name := "bondIt", desc := "(III)I" } : Jvm.MethodName) prog_10_method_35_code (5 : Nat) (Option.some Jvm.ClassFile.FieldType.int)) ∈ lw_all := lw_g (lw_at lw_m8 151 rfl) rfl
theorem q1903 : (Jvm.Cond.methodLink "MazeBondsModel" (154 : Nat) ({ cls := "MazeBondsModel", name := "isVisitor", desc := "(I)Z" } : Jvm.MethodName)) ∈ lw_all := lw_g (lw_at lw_m8 152 rfl) rfl
theorem q1904 : (Jvm.Cond.privateMethod ({ cls := "MazeBondsModel", name := "isVisitor", desc := "(I)Z" } : Jvm.MethodName)) ∈ lw_tbl := lw_at lw_m8 153 rfl
theorem q1905 : (Jvm.Cond.instanceMethod ({ cls := "MazeBondsModel", name := "isVisitor", desc := "(I)Z" } : Jvm.MethodName)) ∈ lw_all := lw_g (lw_at lw_m8 154 rfl) rfl
theorem q1906 : (Jvm.Cond.code ({ cls := "MazeBondsModel", name := "isVisitor", desc := "(I)Z" } : Jvm.MethodName) prog_10_method_15_code (2 : Nat) (Option.some Jvm.ClassFile.FieldType.boolean)) ∈ lw_all := lw_g (lw_at lw_m8 155 rfl) rfl
theorem q1907 : (Jvm.Cond.constantLong "MazeBondsModel" (157 : Nat) (5 : Int64)) ∈ lw_all := lw_g (lw_at lw_m8 156 rfl) rfl
theorem q1909 : (Jvm.Cond.instanceMethod ({ cls := "MazeBondsModel", name := "walk", desc := "(II)I" } : Jvm.MethodName)) ∈ lw_all := lw_g (lw_at lw_m8 158 rfl) rfl
theorem q1910 : (Jvm.Cond.selects "MazeBondsModel" ({ cls := "MazeBondsModel", name := "walk", desc := "(II)I" } : Jvm.MethodName) ({ cls := "MazeBondsModel", name := "walk", desc := "(II)I" } : Jvm.MethodName)) ∈ lw_all := lw_g (lw_at lw_m8 159 rfl) rfl
theorem q1911 : (Jvm.Cond.code ({ cls := "MazeBondsModel", name := "walk", desc := "(II)I" } : Jvm.MethodName) prog_10_method_40_code (3 : Nat) (Option.some Jvm.ClassFile.FieldType.int)) ∈ lw_all := lw_g (lw_at lw_m8 160 rfl) rfl
theorem q1912 : (Jvm.Cond.methodLink "MazeBondsModel" (168 : Nat) ({ cls := "MazeBondsModel", name := "walkIt", desc := "(II)I" } : Jvm.MethodName)) ∈ lw_all := lw_g (lw_at lw_m8 161 rfl) rfl
theorem q1913 : (Jvm.Cond.privateMethod ({ cls := "MazeBondsModel", name := "walkIt", desc := "(II)I" } : Jvm.MethodName)) ∈ lw_tbl := lw_at lw_m8 162 rfl
theorem q1914 : (Jvm.Cond.instanceMethod ({ cls := "MazeBondsModel", name := "walkIt", desc := "(II)I" } : Jvm.MethodName)) ∈ lw_all := lw_g (lw_at lw_m8 163 rfl) rfl
theorem q1915 : (Jvm.Cond.code ({ cls := "MazeBondsModel", name := "walkIt", desc := "(II)I" } : Jvm.MethodName) prog_10_method_39_code (7 : Nat) (Option.some Jvm.ClassFile.FieldType.int)) ∈ lw_all := lw_g (lw_at lw_m8 164 rfl) rfl
theorem q1916 : (Jvm.Cond.methodLink "MazeBondsModel" (162 : Nat) ({ cls := "MazeBondsModel", name := "lostOf", desc := "(I)I" } : Jvm.MethodName)) ∈ lw_all := lw_g (lw_at lw_m8 165 rfl) rfl
theorem q1917 : (Jvm.Cond.privateMethod ({ cls := "MazeBondsModel", name := "lostOf", desc := "(I)I" } : Jvm.MethodName)) ∈ lw_tbl := lw_at lw_m8 166 rfl
theorem q1918 : (Jvm.Cond.instanceMethod ({ cls := "MazeBondsModel", name := "lostOf", desc := "(I)I" } : Jvm.MethodName)) ∈ lw_all := lw_g (lw_at lw_m8 167 rfl) rfl
theorem q1919 : (Jvm.Cond.code ({ cls := "MazeBondsModel", name := "lostOf", desc := "(I)I" } : Jvm.MethodName) prog_10_method_37_code (3 : Nat) (Option.some Jvm.ClassFile.FieldType.int)) ∈ lw_all := lw_g (lw_at lw_m8 168 rfl) rfl
theorem q1920 : (Jvm.Cond.methodLink "MazeBondsModel" (165 : Nat) ({ cls := "MazeBondsModel", name := "pays", desc := "(II)I" } : Jvm.MethodName)) ∈ lw_all := lw_g (lw_at lw_m8 169 rfl) rfl
theorem q1921 : (Jvm.Cond.privateMethod ({ cls := "MazeBondsModel", name := "pays", desc := "(II)I" } : Jvm.MethodName)) ∈ lw_tbl := lw_at lw_m8 170 rfl
theorem q1922 : (Jvm.Cond.instanceMethod ({ cls := "MazeBondsModel", name := "pays", desc := "(II)I" } : Jvm.MethodName)) ∈ lw_all := lw_g (lw_at lw_m8 171 rfl) rfl
theorem q1923 : (Jvm.Cond.code ({ cls := "MazeBondsModel", name := "pays", desc := "(II)I" } : Jvm.MethodName) prog_10_method_38_code (5 : Nat) (Option.some Jvm.ClassFile.FieldType.int)) ∈ lw_all := lw_g (lw_at lw_m8 172 rfl) rfl
theorem q1925 : (Jvm.Cond.instanceMethod ({ cls := "MazeBondsModel", name := "rest", desc := "(II)I" } : Jvm.MethodName)) ∈ lw_all := lw_g (lw_at lw_m8 174 rfl) rfl
theorem q1926 : (Jvm.Cond.selects "MazeBondsModel" ({ cls := "MazeBondsModel", name := "rest", desc := "(II)I" } : Jvm.MethodName) ({ cls := "MazeBondsModel", name := "rest", desc := "(II)I" } : Jvm.MethodName)) ∈ lw_all := lw_g (lw_at lw_m8 175 rfl) rfl
theorem q1927 : (Jvm.Cond.code ({ cls := "MazeBondsModel", name := "rest", desc := "(II)I" } : Jvm.MethodName) prog_10_method_42_code (3 : Nat) (Option.some Jvm.ClassFile.FieldType.int)) ∈ lw_all := lw_g (lw_at lw_m8 176 rfl) rfl
theorem q1928 : (Jvm.Cond.methodLink "MazeBondsModel" (171 : Nat) ({ cls := "MazeBondsModel", name := "restIt", desc := "(II)I" } : Jvm.MethodName)) ∈ lw_all := lw_g (lw_at lw_m8 177 rfl) rfl
theorem q1929 : (Jvm.Cond.privateMethod ({ cls := "MazeBondsModel", name := "restIt", desc := "(II)I" } : Jvm.MethodName)) ∈ lw_tbl := lw_at lw_m8 178 rfl
theorem q1930 : (Jvm.Cond.instanceMethod ({ cls := "MazeBondsModel", name := "restIt", desc := "(II)I" } : Jvm.MethodName)) ∈ lw_all := lw_g (lw_at lw_m8 179 rfl) rfl
theorem q1931 : (Jvm.Cond.code ({ cls := "MazeBondsModel", name := "restIt", desc := "(II)I" } : Jvm.MethodName) prog_10_method_41_code (4 : Nat) (Option.some Jvm.ClassFile.FieldType.int)) ∈ lw_all := lw_g (lw_at lw_m8 180 rfl) rfl
theorem q1933 : (Jvm.Cond.instanceMethod ({ cls := "MazeBondsModel", name := "leaves", desc := "(II)I" } : Jvm.MethodName)) ∈ lw_all := lw_g (lw_at lw_m8 182 rfl) rfl
theorem q1934 : (Jvm.Cond.selects "MazeBondsModel" ({ cls := "MazeBondsModel", name := "leaves", desc := "(II)I" } : Jvm.MethodName) ({ cls := "MazeBondsModel", name := "leaves", desc := "(II)I" } : Jvm.MethodName)) ∈ lw_all := lw_g (lw_at lw_m8 183 rfl) rfl
theorem q1935 : (Jvm.Cond.code ({ cls := "MazeBondsModel", name := "leaves", desc := "(II)I" } : Jvm.MethodName) prog_10_method_44_code (4 : Nat) (Option.some Jvm.ClassFile.FieldType.int)) ∈ lw_all := lw_g (lw_at lw_m8 184 rfl) rfl
theorem q1936 : (Jvm.Cond.methodLink "MazeBondsModel" (174 : Nat) ({ cls := "MazeBondsModel", name := "areCells", desc := "(II)Z" } : Jvm.MethodName)) ∈ lw_all := lw_g (lw_at lw_m8 185 rfl) rfl
theorem q1937 : (Jvm.Cond.privateMethod ({ cls := "MazeBondsModel", name := "areCells", desc := "(II)Z" } : Jvm.MethodName)) ∈ lw_tbl := lw_at lw_m8 186 rfl
theorem q1938 : (Jvm.Cond.instanceMethod ({ cls := "MazeBondsModel", name := "areCells", desc := "(II)Z" } : Jvm.MethodName)) ∈ lw_all := lw_g (lw_at lw_m8 187 rfl) rfl
theorem q1939 : (Jvm.Cond.code ({ cls := "MazeBondsModel", name := "areCells", desc := "(II)Z" } : Jvm.MethodName) prog_10_method_43_code (3 : Nat) (Option.some Jvm.ClassFile.FieldType.boolean)) ∈ lw_all := lw_g (lw_at lw_m8 188 rfl) rfl
theorem q1941 : (Jvm.Cond.instanceMethod ({ cls := "MazeBondsModel", name := "isGap", desc := "(II)Z" } : Jvm.MethodName)) ∈ lw_all := lw_g (lw_at lw_m8 190 rfl) rfl
theorem q1942 : (Jvm.Cond.selects "MazeBondsModel" ({ cls := "MazeBondsModel", name := "isGap", desc := "(II)Z" } : Jvm.MethodName) ({ cls := "MazeBondsModel", name := "isGap", desc := "(II)Z" } : Jvm.MethodName)) ∈ lw_all := lw_g (lw_at lw_m8 191 rfl) rfl
theorem q1943 : (Jvm.Cond.code ({ cls := "MazeBondsModel", name := "isGap", desc := "(II)Z" } : Jvm.MethodName) prog_10_method_45_code (3 : Nat) (Option.some Jvm.ClassFile.FieldType.boolean)) ∈ lw_all := lw_g (lw_at lw_m8 192 rfl) rfl
theorem q1945 : (Jvm.Cond.instanceMethod ({ cls := "MazeBondsModel", name := "hours", desc := "(II)I" } : Jvm.MethodName)) ∈ lw_all := lw_g (lw_at lw_m8 194 rfl) rfl
theorem q1946 : (Jvm.Cond.selects "MazeBondsModel" ({ cls := "MazeBondsModel", name := "hours", desc := "(II)I" } : Jvm.MethodName) ({ cls := "MazeBondsModel", name := "hours", desc := "(II)I" } : Jvm.MethodName)) ∈ lw_all := lw_g (lw_at lw_m8 195 rfl) rfl
theorem q1947 : (Jvm.Cond.code ({ cls := "MazeBondsModel", name := "hours", desc := "(II)I" } : Jvm.MethodName) prog_10_method_46_code (4 : Nat) (Option.some Jvm.ClassFile.FieldType.int)) ∈ lw_all := lw_g (lw_at lw_m8 196 rfl) rfl
theorem q1949 : (Jvm.Cond.instanceMethod ({ cls := "MazeBondsModel", name := "hoursAgain", desc := "(II)I" } : Jvm.MethodName)) ∈ lw_all := lw_g (lw_at lw_m8 198 rfl) rfl
theorem q1950 : (Jvm.Cond.selects "MazeBondsModel" ({ cls := "MazeBondsModel", name := "hoursAgain", desc := "(II)I" } : Jvm.MethodName) ({ cls := "MazeBondsModel", name := "hoursAgain", desc := "(II)I" } : Jvm.MethodName)) ∈ lw_all := lw_g (lw_at lw_m8 199 rfl) rfl
theorem q1951 : (Jvm.Cond.code ({ cls := "MazeBondsModel", name := "hoursAgain", desc := "(II)I" } : Jvm.MethodName) prog_10_method_47_code (3 : Nat) (Option.some Jvm.ClassFile.FieldType.int)) ∈ lw_all := lw_g (lw_at lw_m8 200 rfl) rfl
theorem q1952 : (Jvm.Cond.methodLink "MazeBondsModel" (177 : Nat) ({ cls := "MazeBondsModel", name := "hours", desc := "(II)I" } : Jvm.MethodName)) ∈ lw_all := lw_g (lw_at lw_m8 201 rfl) rfl
theorem q1954 : (Jvm.Cond.instanceMethod ({ cls := "MazeBondsModel", name := "next", desc := "(I)I" } : Jvm.MethodName)) ∈ lw_all := lw_g (lw_at lw_m8 203 rfl) rfl
theorem q1955 : (Jvm.Cond.selects "MazeBondsModel" ({ cls := "MazeBondsModel", name := "next", desc := "(I)I" } : Jvm.MethodName) ({ cls := "MazeBondsModel", name := "next", desc := "(I)I" } : Jvm.MethodName)) ∈ lw_all := lw_g (lw_at lw_m8 204 rfl) rfl
theorem q1956 : (Jvm.Cond.code ({ cls := "MazeBondsModel", name := "next", desc := "(I)I" } : Jvm.MethodName) prog_10_method_48_code (3 : Nat) (Option.some Jvm.ClassFile.FieldType.int)) ∈ lw_all := lw_g (lw_at lw_m8 205 rfl) rfl
theorem q1958 : (Jvm.Cond.instanceMethod ({ cls := "MazeBondsModel", name := "reached", desc := "(I)I" } : Jvm.MethodName)) ∈ lw_all := lw_g (lw_at lw_m8 207 rfl) rfl
theorem q1959 : (Jvm.Cond.selects "MazeBondsModel" ({ cls := "MazeBondsModel", name := "reached", desc := "(I)I" } : Jvm.MethodName) ({ cls := "MazeBondsModel", name := "reached", desc := "(I)I" } : Jvm.MethodName)) ∈ lw_all := lw_g (lw_at lw_m8 208 rfl) rfl
theorem q1960 : (Jvm.Cond.code ({ cls := "MazeBondsModel", name := "reached", desc := "(I)I" } : Jvm.MethodName) prog_10_method_49_code (2 : Nat) (Option.some Jvm.ClassFile.FieldType.int)) ∈ lw_all := lw_g (lw_at lw_m8 209 rfl) rfl
theorem q1962 : (Jvm.Cond.instanceMethod ({ cls := "MazeBondsModel", name := "trims", desc := "(I)I" } : Jvm.MethodName)) ∈ lw_all := lw_g (lw_at lw_m8 211 rfl) rfl
theorem q1963 : (Jvm.Cond.selects "MazeBondsModel" ({ cls := "MazeBondsModel", name := "trims", desc := "(I)I" } : Jvm.MethodName) ({ cls := "MazeBondsModel", name := "trims", desc := "(I)I" } : Jvm.MethodName)) ∈ lw_all := lw_g (lw_at lw_m8 212 rfl) rfl
theorem q1964 : (Jvm.Cond.code ({ cls := "MazeBondsModel", name := "trims", desc := "(I)I" } : Jvm.MethodName) prog_10_method_50_code (2 : Nat) (Option.some Jvm.ClassFile.FieldType.int)) ∈ lw_all := lw_g (lw_at lw_m8 213 rfl) rfl
theorem q1966 : (Jvm.Cond.instanceMethod ({ cls := "MazeBondsModel", name := "trimsAgain", desc := "(I)I" } : Jvm.MethodName)) ∈ lw_all := lw_g (lw_at lw_m8 215 rfl) rfl
theorem q1967 : (Jvm.Cond.selects "MazeBondsModel" ({ cls := "MazeBondsModel", name := "trimsAgain", desc := "(I)I" } : Jvm.MethodName) ({ cls := "MazeBondsModel", name := "trimsAgain", desc := "(I)I" } : Jvm.MethodName)) ∈ lw_all := lw_g (lw_at lw_m8 216 rfl) rfl
theorem q1968 : (Jvm.Cond.code ({ cls := "MazeBondsModel", name := "trimsAgain", desc := "(I)I" } : Jvm.MethodName) prog_10_method_51_code (2 : Nat) (Option.some Jvm.ClassFile.FieldType.int)) ∈ lw_all := lw_g (lw_at lw_m8 217 rfl) rfl
theorem q1969 : (Jvm.Cond.methodLink "MazeBondsModel" (180 : Nat) ({ cls := "MazeBondsModel", name := "trims", desc := "(I)I" } : Jvm.MethodName)) ∈ lw_all := lw_g (lw_at lw_m8 218 rfl) rfl
theorem q1971 : (Jvm.Cond.instanceMethod ({ cls := "MazeBondsModel", name := "isNeeded", desc := "(II)Z" } : Jvm.MethodName)) ∈ lw_all := lw_g (lw_at lw_m8 220 rfl) rfl
theorem q1972 : (Jvm.Cond.selects "MazeBondsModel" ({ cls := "MazeBondsModel", name := "isNeeded", desc := "(II)Z" } : Jvm.MethodName) ({ cls := "MazeBondsModel", name := "isNeeded", desc := "(II)Z" } : Jvm.MethodName)) ∈ lw_all := lw_g (lw_at lw_m8 221 rfl) rfl
theorem q1973 : (Jvm.Cond.code ({ cls := "MazeBondsModel", name := "isNeeded", desc := "(II)Z" } : Jvm.MethodName) prog_10_method_52_code (6 : Nat) (Option.some Jvm.ClassFile.FieldType.boolean)) ∈ lw_all := lw_g (lw_at lw_m8 222 rfl) rfl
theorem q1975 : (Jvm.Cond.instanceMethod ({ cls := "MazeBondsModel", name := "closesIn", desc := "(II)I" } : Jvm.MethodName)) ∈ lw_all := lw_g (lw_at lw_m8 224 rfl) rfl
theorem q1976 : (Jvm.Cond.selects "MazeBondsModel" ({ cls := "MazeBondsModel", name := "closesIn", desc := "(II)I" } : Jvm.MethodName) ({ cls := "MazeBondsModel", name := "closesIn", desc := "(II)I" } : Jvm.MethodName)) ∈ lw_all := lw_g (lw_at lw_m8 225 rfl) rfl
theorem q1977 : (Jvm.Cond.code ({ cls := "MazeBondsModel", name := "closesIn", desc := "(II)I" } : Jvm.MethodName) prog_10_method_53_code (4 : Nat) (Option.some Jvm.ClassFile.FieldType.int)) ∈ lw_all := lw_g (lw_at lw_m8 226 rfl) rfl
theorem q1979 : (Jvm.Cond.instanceMethod ({ cls := "MazeBondsModel", name := "summersLeft", desc := "()I" } : Jvm.MethodName)) ∈ lw_all := lw_g (lw_at lw_m8 228 rfl) rfl
theorem q1980 : (Jvm.Cond.selects "MazeBondsModel" ({ cls := "MazeBondsModel", name := "summersLeft", desc := "()I" } : Jvm.MethodName) ({ cls := "MazeBondsModel", name := "summersLeft", desc := "()I" } : Jvm.MethodName)) ∈ lw_all := lw_g (lw_at lw_m8 229 rfl) rfl
theorem q1981 : (Jvm.Cond.code ({ cls := "MazeBondsModel", name := "summersLeft", desc := "()I" } : Jvm.MethodName) prog_10_method_54_code (3 : Nat) (Option.some Jvm.ClassFile.FieldType.int)) ∈ lw_all := lw_g (lw_at lw_m8 230 rfl) rfl
theorem q1983 : (Jvm.Cond.instanceMethod ({ cls := "MazeBondsModel", name := "gardenerOf", desc := "(II)I" } : Jvm.MethodName)) ∈ lw_all := lw_g (lw_at lw_m8 232 rfl) rfl
theorem q1984 : (Jvm.Cond.selects "MazeBondsModel" ({ cls := "MazeBondsModel", name := "gardenerOf", desc := "(II)I" } : Jvm.MethodName) ({ cls := "MazeBondsModel", name := "gardenerOf", desc := "(II)I" } : Jvm.MethodName)) ∈ lw_all := lw_g (lw_at lw_m8 233 rfl) rfl
theorem q1985 : (Jvm.Cond.code ({ cls := "MazeBondsModel", name := "gardenerOf", desc := "(II)I" } : Jvm.MethodName) prog_10_method_57_code (3 : Nat) (Option.some Jvm.ClassFile.FieldType.int)) ∈ lw_all := lw_g (lw_at lw_m8 234 rfl) rfl
theorem q1986 : (Jvm.Cond.methodLink "MazeBondsModel" (186 : Nat) ({ cls := "MazeBondsModel", name := "lasting", desc := "(I)I" } : Jvm.MethodName)) ∈ lw_all := lw_g (lw_at lw_m8 235 rfl) rfl
theorem q1987 : (Jvm.Cond.privateMethod ({ cls := "MazeBondsModel", name := "lasting", desc := "(I)I" } : Jvm.MethodName)) ∈ lw_tbl := lw_at lw_m8 236 rfl
theorem q1988 : (Jvm.Cond.instanceMethod ({ cls := "MazeBondsModel", name := "lasting", desc := "(I)I" } : Jvm.MethodName)) ∈ lw_all := lw_g (lw_at lw_m8 237 rfl) rfl
theorem q1989 : (Jvm.Cond.code ({ cls := "MazeBondsModel", name := "lasting", desc := "(I)I" } : Jvm.MethodName) prog_10_method_56_code (4 : Nat) (Option.some Jvm.ClassFile.FieldType.int)) ∈ lw_all := lw_g (lw_at lw_m8 238 rfl) rfl
theorem q1990 : (Jvm.Cond.methodLink "MazeBondsModel" (183 : Nat) ({ cls := "MazeBondsModel", name := "lasts", desc := "(I)Z" } : Jvm.MethodName)) ∈ lw_all := lw_g (lw_at lw_m8 239 rfl) rfl
theorem q1991 : (Jvm.Cond.privateMethod ({ cls := "MazeBondsModel", name := "lasts", desc := "(I)Z" } : Jvm.MethodName)) ∈ lw_tbl := lw_at lw_m9 0 rfl
theorem q1992 : (Jvm.Cond.instanceMethod ({ cls := "MazeBondsModel", name := "lasts", desc := "(I)Z" } : Jvm.MethodName)) ∈ lw_all := lw_g (lw_at lw_m9 1 rfl) rfl
theorem q1993 : (Jvm.Cond.code ({ cls := "MazeBondsModel", name := "lasts", desc := "(I)Z" } : Jvm.MethodName) prog_10_method_55_code (2 : Nat) (Option.some Jvm.ClassFile.FieldType.boolean)) ∈ lw_all := lw_g (lw_at lw_m9 2 rfl) rfl
theorem q1995 : (Jvm.Cond.instanceMethod ({ cls := "MazeBondsModel", name := "visitorOf", desc := "(II)I" } : Jvm.MethodName)) ∈ lw_all := lw_g (lw_at lw_m9 4 rfl) rfl
theorem q1996 : (Jvm.Cond.selects "MazeBondsModel" ({ cls := "MazeBondsModel", name := "visitorOf", desc := "(II)I" } : Jvm.MethodName) ({ cls := "MazeBondsModel", name := "visitorOf", desc := "(II)I" } : Jvm.MethodName)) ∈ lw_all := lw_g (lw_at lw_m9 5 rfl) rfl
theorem q1997 : (Jvm.Cond.code ({ cls := "MazeBondsModel", name := "visitorOf", desc := "(II)I" } : Jvm.MethodName) prog_10_method_58_code (4 : Nat) (Option.some Jvm.ClassFile.FieldType.int)) ∈ lw_all := lw_g (lw_at lw_m9 6 rfl) rfl
theorem q1999 : (Jvm.Cond.instanceMethod ({ cls := "MazeBondsModel", name := "wouldPay", desc := "(I)I" } : Jvm.MethodName)) ∈ lw_all := lw_g (lw_at lw_m9 8 rfl) rfl
theorem q2000 : (Jvm.Cond.selects "MazeBondsModel" ({ cls := "MazeBondsModel", name := "wouldPay", desc := "(I)I" } : Jvm.MethodName) ({ cls := "MazeBondsModel", name := "wouldPay", desc := "(I)I" } : Jvm.MethodName)) ∈ lw_all := lw_g (lw_at lw_m9 9 rfl) rfl
theorem q2001 : (Jvm.Cond.code ({ cls := "MazeBondsModel", name := "wouldPay", desc := "(I)I" } : Jvm.MethodName) prog_10_method_59_code (4 : Nat) (Option.some Jvm.ClassFile.FieldType.int)) ∈ lw_all := lw_g (lw_at lw_m9 10 rfl) rfl
theorem q2003 : (Jvm.Cond.instanceMethod ({ cls := "MazeBondsModel", name := "owed", desc := "(I)I" } : Jvm.MethodName)) ∈ lw_all := lw_g (lw_at lw_m9 12 rfl) rfl
theorem q2004 : (Jvm.Cond.selects "MazeBondsModel" ({ cls := "MazeBondsModel", name := "owed", desc := "(I)I" } : Jvm.MethodName) ({ cls := "MazeBondsModel", name := "owed", desc := "(I)I" } : Jvm.MethodName)) ∈ lw_all := lw_g (lw_at lw_m9 13 rfl) rfl
theorem q2005 : (Jvm.Cond.code ({ cls := "MazeBondsModel", name := "owed", desc := "(I)I" } : Jvm.MethodName) prog_10_method_61_code (2 : Nat) (Option.some Jvm.ClassFile.FieldType.int)) ∈ lw_all := lw_g (lw_at lw_m9 14 rfl) rfl
theorem q2006 : (Jvm.Cond.methodLink "MazeBondsModel" (189 : Nat) ({ cls := "MazeBondsModel", name := "owedBy", desc := "(I)I" } : Jvm.MethodName)) ∈ lw_all := lw_g (lw_at lw_m9 15 rfl) rfl
theorem q2007 : (Jvm.Cond.privateMethod ({ cls := "MazeBondsModel", name := "owedBy", desc := "(I)I" } : Jvm.MethodName)) ∈ lw_tbl := lw_at lw_m9 16 rfl
theorem q2008 : (Jvm.Cond.instanceMethod ({ cls := "MazeBondsModel", name := "owedBy", desc := "(I)I" } : Jvm.MethodName)) ∈ lw_all := lw_g (lw_at lw_m9 17 rfl) rfl
theorem q2009 : (Jvm.Cond.code ({ cls := "MazeBondsModel", name := "owedBy", desc := "(I)I" } : Jvm.MethodName) prog_10_method_60_code (6 : Nat) (Option.some Jvm.ClassFile.FieldType.int)) ∈ lw_all := lw_g (lw_at lw_m9 18 rfl) rfl
theorem q2011 : (Jvm.Cond.instanceMethod ({ cls := "MazeBondsModel", name := "ranked", desc := "(II)I" } : Jvm.MethodName)) ∈ lw_all := lw_g (lw_at lw_m9 20 rfl) rfl
theorem q2012 : (Jvm.Cond.selects "MazeBondsModel" ({ cls := "MazeBondsModel", name := "ranked", desc := "(II)I" } : Jvm.MethodName) ({ cls := "MazeBondsModel", name := "ranked", desc := "(II)I" } : Jvm.MethodName)) ∈ lw_all := lw_g (lw_at lw_m9 21 rfl) rfl
theorem q2013 : (Jvm.Cond.code ({ cls := "MazeBondsModel", name := "ranked", desc := "(II)I" } : Jvm.MethodName) prog_10_method_63_code (7 : Nat) (Option.some Jvm.ClassFile.FieldType.int)) ∈ lw_all := lw_g (lw_at lw_m9 22 rfl) rfl
theorem q2014 : (Jvm.Cond.methodLink "MazeBondsModel" (192 : Nat) ({ cls := "MazeBondsModel", name := "measured", desc := "(II)I" } : Jvm.MethodName)) ∈ lw_all := lw_g (lw_at lw_m9 23 rfl) rfl
theorem q2015 : (Jvm.Cond.privateMethod ({ cls := "MazeBondsModel", name := "measured", desc := "(II)I" } : Jvm.MethodName)) ∈ lw_tbl := lw_at lw_m9 24 rfl
theorem q2016 : (Jvm.Cond.instanceMethod ({ cls := "MazeBondsModel", name := "measured", desc := "(II)I" } : Jvm.MethodName)) ∈ lw_all := lw_g (lw_at lw_m9 25 rfl) rfl
theorem q2017 : (Jvm.Cond.code ({ cls := "MazeBondsModel", name := "measured", desc := "(II)I" } : Jvm.MethodName) prog_10_method_62_code (4 : Nat) (Option.some Jvm.ClassFile.FieldType.int)) ∈ lw_all := lw_g (lw_at lw_m9 26 rfl) rfl
theorem q2019 : (Jvm.Cond.instanceMethod ({ cls := "MazeBondsModel", name := "richest", desc := "(I)I" } : Jvm.MethodName)) ∈ lw_all := lw_g (lw_at lw_m9 28 rfl) rfl
theorem q2020 : (Jvm.Cond.selects "MazeBondsModel" ({ cls := "MazeBondsModel", name := "richest", desc := "(I)I" } : Jvm.MethodName) ({ cls := "MazeBondsModel", name := "richest", desc := "(I)I" } : Jvm.MethodName)) ∈ lw_all := lw_g (lw_at lw_m9 29 rfl) rfl
theorem q2021 : (Jvm.Cond.code ({ cls := "MazeBondsModel", name := "richest", desc := "(I)I" } : Jvm.MethodName) prog_10_method_64_code (7 : Nat) (Option.some Jvm.ClassFile.FieldType.int)) ∈ lw_all := lw_g (lw_at lw_m9 30 rfl) rfl
theorem q2023 : (Jvm.Cond.instanceMethod ({ cls := "MazeBondsModel", name := "append", desc := "(C)I" } : Jvm.MethodName)) ∈ lw_all := lw_g (lw_at lw_m9 32 rfl) rfl
theorem q2024 : (Jvm.Cond.selects "MazeBondsModel" ({ cls := "MazeBondsModel", name := "append", desc := "(C)I" } : Jvm.MethodName) ({ cls := "MazeBondsModel", name := "append", desc := "(C)I" } : Jvm.MethodName)) ∈ lw_all := lw_g (lw_at lw_m9 33 rfl) rfl
theorem q2025 : (Jvm.Cond.code ({ cls := "MazeBondsModel", name := "append", desc := "(C)I" } : Jvm.MethodName) prog_10_method_65_code (2 : Nat) (Option.some Jvm.ClassFile.FieldType.int)) ∈ lw_all := lw_g (lw_at lw_m9 34 rfl) rfl
theorem q2027 : (Jvm.Cond.instanceMethod ({ cls := "MazeBondsModel", name := "commands", desc := "()I" } : Jvm.MethodName)) ∈ lw_all := lw_g (lw_at lw_m9 36 rfl) rfl
theorem q2028 : (Jvm.Cond.selects "MazeBondsModel" ({ cls := "MazeBondsModel", name := "commands", desc := "()I" } : Jvm.MethodName) ({ cls := "MazeBondsModel", name := "commands", desc := "()I" } : Jvm.MethodName)) ∈ lw_all := lw_g (lw_at lw_m9 37 rfl) rfl
theorem q2029 : (Jvm.Cond.code ({ cls := "MazeBondsModel", name := "commands", desc := "()I" } : Jvm.MethodName) prog_10_method_74_code (4 : Nat) (Option.some Jvm.ClassFile.FieldType.int)) ∈ lw_all := lw_g (lw_at lw_m9 38 rfl) rfl
theorem q2030 : (Jvm.Cond.methodLink "MazeBondsModel" (235 : Nat) ({ cls := "MazeBondsModel", name := "readOrder", desc := "()V" } : Jvm.MethodName)) ∈ lw_all := lw_g (lw_at lw_m9 39 rfl) rfl
theorem q2031 : (Jvm.Cond.privateMethod ({ cls := "MazeBondsModel", name := "readOrder", desc := "()V" } : Jvm.MethodName)) ∈ lw_tbl := lw_at lw_m9 40 rfl
theorem q2032 : (Jvm.Cond.instanceMethod ({ cls := "MazeBondsModel", name := "readOrder", desc := "()V" } : Jvm.MethodName)) ∈ lw_all := lw_g (lw_at lw_m9 41 rfl) rfl
theorem q2033 : (Jvm.Cond.code ({ cls := "MazeBondsModel", name := "readOrder", desc := "()V" } : Jvm.MethodName) prog_10_method_72_code (3 : Nat) (Option.none : Option Jvm.ClassFile.FieldType)) ∈ lw_all := lw_g (lw_at lw_m9 42 rfl) rfl
theorem q2034 : (Jvm.Cond.methodLink "MazeBondsModel" (208 : Nat) ({ cls := "MazeBondsModel", name := "here", desc := "()I" } : Jvm.MethodName)) ∈ lw_all := lw_g (lw_at lw_m9 43 rfl) rfl
theorem q2035 : (Jvm.Cond.privateMethod ({ cls := "MazeBondsModel", name := "here", desc := "()I" } : Jvm.MethodName)) ∈ lw_tbl := lw_at lw_m9 44 rfl
theorem q2036 : (Jvm.Cond.instanceMethod ({ cls := "MazeBondsModel", name := "here", desc := "()I" } : Jvm.MethodName)) ∈ lw_all := lw_g (lw_at lw_m9 45 rfl) rfl
theorem q2037 : (Jvm.Cond.code ({ cls := "MazeBondsModel", name := "here", desc := "()I" } : Jvm.MethodName) prog_10_method_66_code (1 : Nat) (Option.some Jvm.ClassFile.FieldType.int)) ∈ lw_all := lw_g (lw_at lw_m9 46 rfl) rfl
theorem q2038 : (Jvm.Cond.methodLink "MazeBondsModel" (215 : Nat) ({ cls := "MazeBondsModel", name := "expects", desc := "(Z)V" } : Jvm.MethodName)) ∈ lw_all := lw_g (lw_at lw_m9 47 rfl) rfl
theorem q2039 : (Jvm.Cond.privateMethod ({ cls := "MazeBondsModel", name := "expects", desc := "(Z)V" } : Jvm.MethodName)) ∈ lw_tbl := lw_at lw_m9 48 rfl
theorem q2040 : (Jvm.Cond.instanceMethod ({ cls := "MazeBondsModel", name := "expects", desc := "(Z)V" } : Jvm.MethodName)) ∈ lw_all := lw_g (lw_at lw_m9 49 rfl) rfl
theorem q2041 : (Jvm.Cond.code ({ cls := "MazeBondsModel", name := "expects", desc := "(Z)V" } : Jvm.MethodName) prog_10_method_67_code (2 : Nat) (Option.none : Option Jvm.ClassFile.FieldType)) ∈ lw_all := lw_g (lw_at lw_m9 50 rfl) rfl
theorem q2042 : (Jvm.Cond.methodLink "MazeBondsModel" (228 : Nat) ({ cls := "MazeBondsModel", name := "cells", desc := "(I)V" } : Jvm.MethodName)) ∈ lw_all := lw_g (lw_at lw_m9 51 rfl) rfl
theorem q2043 : (Jvm.Cond.privateMethod ({ cls := "MazeBondsModel", name := "cells", desc := "(I)V" } : Jvm.MethodName)) ∈ lw_tbl := lw_at lw_m9 52 rfl
theorem q2044 : (Jvm.Cond.instanceMethod ({ cls := "MazeBondsModel", name := "cells", desc := "(I)V" } : Jvm.MethodName)) ∈ lw_all := lw_g (lw_at lw_m9 53 rfl) rfl
theorem q2045 : (Jvm.Cond.code ({ cls := "MazeBondsModel", name := "cells", desc := "(I)V" } : Jvm.MethodName) prog_10_method_71_code (2 : Nat) (Option.none : Option Jvm.ClassFile.FieldType)) ∈ lw_all := lw_g (lw_at lw_m9 54 rfl) rfl
theorem q2046 : (Jvm.Cond.methodLink "MazeBondsModel" (222 : Nat) ({ cls := "MazeBondsModel", name := "number", desc := "()I" } : Jvm.MethodName)) ∈ lw_all := lw_g (lw_at lw_m9 55 rfl) rfl
theorem q2047 : (Jvm.Cond.privateMethod ({ cls := "MazeBondsModel", name := "number", desc := "()I" } : Jvm.MethodName)) ∈ lw_tbl := lw_at lw_m9 56 rfl
theorem q2048 : (Jvm.Cond.instanceMethod ({ cls := "MazeBondsModel", name := "number", desc := "()I" } : Jvm.MethodName)) ∈ lw_all := lw_g (lw_at lw_m9 57 rfl) rfl
theorem q2049 : (Jvm.Cond.code ({ cls := "MazeBondsModel", name := "number", desc := "()I" } : Jvm.MethodName) prog_10_method_69_code (2 : Nat) (Option.some Jvm.ClassFile.FieldType.int)) ∈ lw_all := lw_g (lw_at lw_m9 58 rfl) rfl
theorem q2050 : (Jvm.Cond.methodLink "MazeBondsModel" (219 : Nat) ({ cls := "MazeBondsModel", name := "digit", desc := "()I" } : Jvm.MethodName)) ∈ lw_all := lw_g (lw_at lw_m9 59 rfl) rfl
theorem q2051 : (Jvm.Cond.privateMethod ({ cls := "MazeBondsModel", name := "digit", desc := "()I" } : Jvm.MethodName)) ∈ lw_tbl := lw_at lw_m9 60 rfl
theorem q2052 : (Jvm.Cond.instanceMethod ({ cls := "MazeBondsModel", name := "digit", desc := "()I" } : Jvm.MethodName)) ∈ lw_all := lw_g (lw_at lw_m9 61 rfl) rfl
theorem q2053 : (Jvm.Cond.code ({ cls := "MazeBondsModel", name := "digit", desc := "()I" } : Jvm.MethodName) prog_10_method_68_code (2 : Nat) (Option.some Jvm.ClassFile.FieldType.int)) ∈ lw_all := lw_g (lw_at lw_m9 62 rfl) rfl
theorem q2054 : (Jvm.Cond.constantLong "MazeBondsModel" (211 : Nat) (48 : Int64)) ∈ lw_all := lw_g (lw_at lw_m9 63 rfl) rfl
theorem q2055 : (Jvm.Cond.constantLong "MazeBondsModel" (213 : Nat) (57 : Int64)) ∈ lw_all := lw_g (lw_at lw_m9 64 rfl) rfl
theorem q2056 : (Jvm.Cond.methodLink "MazeBondsModel" (232 : Nat) ({ cls := "MazeBondsModel", name := "directionOf", desc := "(I)I" } : Jvm.MethodName)) ∈ lw_all := lw_g (lw_at lw_m9 65 rfl) rfl
theorem q2057 : (Jvm.Cond.static ({ cls := "MazeBondsModel", name := "directionOf", desc := "(I)I" } : Jvm.MethodName)) ∈ lw_all := lw_g (lw_at lw_m9 66 rfl) rfl
theorem q2058 : (Jvm.Cond.code ({ cls := "MazeBondsModel", name := "directionOf", desc := "(I)I" } : Jvm.MethodName) prog_10_method_70_code (1 : Nat) (Option.some Jvm.ClassFile.FieldType.int)) ∈ lw_all := lw_g (lw_at lw_m9 67 rfl) rfl
theorem q2059 : (Jvm.Cond.methodLink "MazeBondsModel" (238 : Nat) ({ cls := "MazeBondsModel", name := "does", desc := "(I)V" } : Jvm.MethodName)) ∈ lw_all := lw_g (lw_at lw_m9 68 rfl) rfl
theorem q2060 : (Jvm.Cond.privateMethod ({ cls := "MazeBondsModel", name := "does", desc := "(I)V" } : Jvm.MethodName)) ∈ lw_tbl := lw_at lw_m9 69 rfl
theorem q2061 : (Jvm.Cond.instanceMethod ({ cls := "MazeBondsModel", name := "does", desc := "(I)V" } : Jvm.MethodName)) ∈ lw_all := lw_g (lw_at lw_m9 70 rfl) rfl
theorem q2062 : (Jvm.Cond.code ({ cls := "MazeBondsModel", name := "does", desc := "(I)V" } : Jvm.MethodName) prog_10_method_73_code (5 : Nat) (Option.none : Option Jvm.ClassFile.FieldType)) ∈ lw_all := lw_g (lw_at lw_m9 71 rfl) rfl
theorem q2064 : (Jvm.Cond.instanceMethod ({ cls := "MazeBondsModel", name := "faultPosition", desc := "()I" } : Jvm.MethodName)) ∈ lw_all := lw_g (lw_at lw_m9 73 rfl) rfl
theorem q2065 : (Jvm.Cond.selects "MazeBondsModel" ({ cls := "MazeBondsModel", name := "faultPosition", desc := "()I" } : Jvm.MethodName) ({ cls := "MazeBondsModel", name := "faultPosition", desc := "()I" } : Jvm.MethodName)) ∈ lw_all := lw_g (lw_at lw_m9 74 rfl) rfl
theorem q2066 : (Jvm.Cond.code ({ cls := "MazeBondsModel", name := "faultPosition", desc := "()I" } : Jvm.MethodName) prog_10_method_75_code (1 : Nat) (Option.some Jvm.ClassFile.FieldType.int)) ∈ lw_all := lw_g (lw_at lw_m9 75 rfl) rfl
theorem q2068 : (Jvm.Cond.instanceMethod ({ cls := "MazeBondsModel", name := "reason", desc := "(I)I" } : Jvm.MethodName)) ∈ lw_all := lw_g (lw_at lw_m9 77 rfl) rfl
theorem q2069 : (Jvm.Cond.selects "MazeBondsModel" ({ cls := "MazeBondsModel", name := "reason", desc := "(I)I" } : Jvm.MethodName) ({ cls := "MazeBondsModel", name := "reason", desc := "(I)I" } : Jvm.MethodName)) ∈ lw_all := lw_g (lw_at lw_m9 78 rfl) rfl
theorem q2070 : (Jvm.Cond.code ({ cls := "MazeBondsModel", name := "reason", desc := "(I)I" } : Jvm.MethodName) prog_10_method_76_code (2 : Nat) (Option.some Jvm.ClassFile.FieldType.int)) ∈ lw_all := lw_g (lw_at lw_m9 79 rfl) rfl
theorem q2071 : (Jvm.Cond.constantLong "MazeBondsModel" (241 : Nat) (2 : Int64)) ∈ lw_all := lw_g (lw_at lw_m9 80 rfl) rfl
theorem q2073 : (Jvm.Cond.instanceMethod ({ cls := "MazeBondsModel", name := "line", desc := "(I)I" } : Jvm.MethodName)) ∈ lw_all := lw_g (lw_at lw_m9 82 rfl) rfl
theorem q2074 : (Jvm.Cond.selects "MazeBondsModel" ({ cls := "MazeBondsModel", name := "line", desc := "(I)I" } : Jvm.MethodName) ({ cls := "MazeBondsModel", name := "line", desc := "(I)I" } : Jvm.MethodName)) ∈ lw_all := lw_g (lw_at lw_m9 83 rfl) rfl
theorem q2075 : (Jvm.Cond.code ({ cls := "MazeBondsModel", name := "line", desc := "(I)I" } : Jvm.MethodName) prog_10_method_79_code (3 : Nat) (Option.some Jvm.ClassFile.FieldType.int)) ∈ lw_all := lw_g (lw_at lw_m9 84 rfl) rfl
theorem q2076 : (Jvm.Cond.methodLink "MazeBondsModel" (246 : Nat) ({ cls := "MazeBondsModel", name := "sign", desc := "(I)V" } : Jvm.MethodName)) ∈ lw_all := lw_g (lw_at lw_m9 85 rfl) rfl
theorem q2077 : (Jvm.Cond.privateMethod ({ cls := "MazeBondsModel", name := "sign", desc := "(I)V" } : Jvm.MethodName)) ∈ lw_tbl := lw_at lw_m9 86 rfl
theorem q2078 : (Jvm.Cond.instanceMethod ({ cls := "MazeBondsModel", name := "sign", desc := "(I)V" } : Jvm.MethodName)) ∈ lw_all := lw_g (lw_at lw_m9 87 rfl) rfl
theorem q2079 : (Jvm.Cond.code ({ cls := "MazeBondsModel", name := "sign", desc := "(I)V" } : Jvm.MethodName) prog_10_method_77_code (2 : Nat) (Option.none : Option Jvm.ClassFile.FieldType)) ∈ lw_all := lw_g (lw_at lw_m9 88 rfl) rfl
theorem q2080 : (Jvm.Cond.methodLink "MazeBondsModel" (249 : Nat) ({ cls := "MazeBondsModel", name := "writesNumber", desc := "(I)V" } : Jvm.MethodName)) ∈ lw_all := lw_g (lw_at lw_m9 89 rfl) rfl
theorem q2081 : (Jvm.Cond.privateMethod ({ cls := "MazeBondsModel", name := "writesNumber", desc := "(I)V" } : Jvm.MethodName)) ∈ lw_tbl := lw_at lw_m9 90 rfl
theorem q2082 : (Jvm.Cond.instanceMethod ({ cls := "MazeBondsModel", name := "writesNumber", desc := "(I)V" } : Jvm.MethodName)) ∈ lw_all := lw_g (lw_at lw_m9 91 rfl) rfl
theorem q2083 : (Jvm.Cond.code ({ cls := "MazeBondsModel", name := "writesNumber", desc := "(I)V" } : Jvm.MethodName) prog_10_method_78_code (4 : Nat) (Option.none : Option Jvm.ClassFile.FieldType)) ∈ lw_all := lw_g (lw_at lw_m9 92 rfl) rfl
theorem q2085 : (Jvm.Cond.instanceMethod ({ cls := "MazeBondsModel", name := "row", desc := "(I)I" } : Jvm.MethodName)) ∈ lw_all := lw_g (lw_at lw_m9 94 rfl) rfl
theorem q2086 : (Jvm.Cond.selects "MazeBondsModel" ({ cls := "MazeBondsModel", name := "row", desc := "(I)I" } : Jvm.MethodName) ({ cls := "MazeBondsModel", name := "row", desc := "(I)I" } : Jvm.MethodName)) ∈ lw_all := lw_g (lw_at lw_m9 95 rfl) rfl
theorem q2087 : (Jvm.Cond.code ({ cls := "MazeBondsModel", name := "row", desc := "(I)I" } : Jvm.MethodName) prog_10_method_81_code (3 : Nat) (Option.some Jvm.ClassFile.FieldType.int)) ∈ lw_all := lw_g (lw_at lw_m9 96 rfl) rfl
theorem q2088 : (Jvm.Cond.methodLink "MazeBondsModel" (252 : Nat) ({ cls := "MazeBondsModel", name := "visitorsIn", desc := "(I)I" } : Jvm.MethodName)) ∈ lw_all := lw_g (lw_at lw_m9 97 rfl) rfl
theorem q2089 : (Jvm.Cond.privateMethod ({ cls := "MazeBondsModel", name := "visitorsIn", desc := "(I)I" } : Jvm.MethodName)) ∈ lw_tbl := lw_at lw_m9 98 rfl
theorem q2090 : (Jvm.Cond.instanceMethod ({ cls := "MazeBondsModel", name := "visitorsIn", desc := "(I)I" } : Jvm.MethodName)) ∈ lw_all := lw_g (lw_at lw_m9 99 rfl) rfl
theorem q2091 : (Jvm.Cond.code ({ cls := "MazeBondsModel", name := "visitorsIn", desc := "(I)I" } : Jvm.MethodName) prog_10_method_80_code (4 : Nat) (Option.some Jvm.ClassFile.FieldType.int)) ∈ lw_all := lw_g (lw_at lw_m9 100 rfl) rfl
theorem q2093 : (Jvm.Cond.instanceMethod ({ cls := "MazeBondsModel", name := "character", desc := "(I)C" } : Jvm.MethodName)) ∈ lw_all := lw_g (lw_at lw_m9 102 rfl) rfl
theorem q2094 : (Jvm.Cond.selects "MazeBondsModel" ({ cls := "MazeBondsModel", name := "character", desc := "(I)C" } : Jvm.MethodName) ({ cls := "MazeBondsModel", name := "character", desc := "(I)C" } : Jvm.MethodName)) ∈ lw_all := lw_g (lw_at lw_m9 103 rfl) rfl
theorem q2095 : (Jvm.Cond.code ({ cls := "MazeBondsModel", name := "character", desc := "(I)C" } : Jvm.MethodName) prog_10_method_82_code (2 : Nat) (Option.some Jvm.ClassFile.FieldType.char)) ∈ lw_all := lw_g (lw_at lw_m9 104 rfl) rfl
theorem q2097 : (Jvm.Cond.instanceMethod ({ cls := "MazeBondsModel", name := "meanLost", desc := "()D" } : Jvm.MethodName)) ∈ lw_all := lw_g (lw_at lw_m9 106 rfl) rfl
theorem q2098 : (Jvm.Cond.selects "MazeBondsModel" ({ cls := "MazeBondsModel", name := "meanLost", desc := "()D" } : Jvm.MethodName) ({ cls := "MazeBondsModel", name := "meanLost", desc := "()D" } : Jvm.MethodName)) ∈ lw_all := lw_g (lw_at lw_m9 107 rfl) rfl
theorem q2099 : (Jvm.Cond.code ({ cls := "MazeBondsModel", name := "meanLost", desc := "()D" } : Jvm.MethodName) prog_10_method_83_code (3 : Nat) (Option.some Jvm.ClassFile.FieldType.double)) ∈ lw_all := lw_g (lw_at lw_m9 108 rfl) rfl
theorem q2101 : (Jvm.Cond.instanceMethod ({ cls := "MazeBondsModel", name := "gapShare", desc := "()F" } : Jvm.MethodName)) ∈ lw_all := lw_g (lw_at lw_m9 110 rfl) rfl
theorem q2102 : (Jvm.Cond.selects "MazeBondsModel" ({ cls := "MazeBondsModel", name := "gapShare", desc := "()F" } : Jvm.MethodName) ({ cls := "MazeBondsModel", name := "gapShare", desc := "()F" } : Jvm.MethodName)) ∈ lw_all := lw_g (lw_at lw_m9 111 rfl) rfl
theorem q2103 : (Jvm.Cond.code ({ cls := "MazeBondsModel", name := "gapShare", desc := "()F" } : Jvm.MethodName) prog_10_method_84_code (1 : Nat) (Option.some Jvm.ClassFile.FieldType.float)) ∈ lw_all := lw_g (lw_at lw_m9 112 rfl) rfl
theorem q2104 : (Jvm.Cond.constantFloat "MazeBondsModel" (255 : Nat) (1103101952 : UInt32)) ∈ lw_all := lw_g (lw_at lw_m9 113 rfl) rfl
theorem q2106 : (Jvm.Cond.instanceMethod ({ cls := "MazeBondsModel", name := "account", desc := "(I)I" } : Jvm.MethodName)) ∈ lw_all := lw_g (lw_at lw_m9 115 rfl) rfl
theorem q2107 : (Jvm.Cond.selects "MazeBondsModel" ({ cls := "MazeBondsModel", name := "account", desc := "(I)I" } : Jvm.MethodName) ({ cls := "MazeBondsModel", name := "account", desc := "(I)I" } : Jvm.MethodName)) ∈ lw_all := lw_g (lw_at lw_m9 116 rfl) rfl
theorem q2108 : (Jvm.Cond.code ({ cls := "MazeBondsModel", name := "account", desc := "(I)I" } : Jvm.MethodName) prog_10_method_88_code (2 : Nat) (Option.some Jvm.ClassFile.FieldType.int)) ∈ lw_all := lw_g (lw_at lw_m9 117 rfl) rfl
theorem q2109 : (Jvm.Cond.methodLink "MazeBondsModel" (256 : Nat) ({ cls := "MazeBondsModel", name := "outs", desc := "()I" } : Jvm.MethodName)) ∈ lw_all := lw_g (lw_at lw_m9 118 rfl) rfl
theorem q2110 : (Jvm.Cond.privateMethod ({ cls := "MazeBondsModel", name := "outs", desc := "()I" } : Jvm.MethodName)) ∈ lw_tbl := lw_at lw_m9 119 rfl
theorem q2111 : (Jvm.Cond.instanceMethod ({ cls := "MazeBondsModel", name := "outs", desc := "()I" } : Jvm.MethodName)) ∈ lw_all := lw_g (lw_at lw_m9 120 rfl) rfl
theorem q2112 : (Jvm.Cond.code ({ cls := "MazeBondsModel", name := "outs", desc := "()I" } : Jvm.MethodName) prog_10_method_87_code (3 : Nat) (Option.some Jvm.ClassFile.FieldType.int)) ∈ lw_all := lw_g (lw_at lw_m9 121 rfl) rfl
theorem q2113 : (Jvm.Cond.methodLink "MazeBondsModel" (259 : Nat) ({ cls := "MazeBondsModel", name := "voids", desc := "()I" } : Jvm.MethodName)) ∈ lw_all := lw_g (lw_at lw_m9 122 rfl) rfl
theorem q2114 : (Jvm.Cond.privateMethod ({ cls := "MazeBondsModel", name := "voids", desc := "()I" } : Jvm.MethodName)) ∈ lw_tbl := lw_at lw_m9 123 rfl
theorem q2115 : (Jvm.Cond.instanceMethod ({ cls := "MazeBondsModel", name := "voids", desc := "()I" } : Jvm.MethodName)) ∈ lw_all := lw_g (lw_at lw_m9 124 rfl) rfl
theorem q2116 : (Jvm.Cond.code ({ cls := "MazeBondsModel", name := "voids", desc := "()I" } : Jvm.MethodName) prog_10_method_86_code (3 : Nat) (Option.some Jvm.ClassFile.FieldType.int)) ∈ lw_all := lw_g (lw_at lw_m9 125 rfl) rfl
theorem q2117 : (Jvm.Cond.methodLink "MazeBondsModel" (262 : Nat) ({ cls := "MazeBondsModel", name := "coins", desc := "()I" } : Jvm.MethodName)) ∈ lw_all := lw_g (lw_at lw_m9 126 rfl) rfl
theorem q2118 : (Jvm.Cond.privateMethod ({ cls := "MazeBondsModel", name := "coins", desc := "()I" } : Jvm.MethodName)) ∈ lw_tbl := lw_at lw_m9 127 rfl
theorem q2119 : (Jvm.Cond.instanceMethod ({ cls := "MazeBondsModel", name := "coins", desc := "()I" } : Jvm.MethodName)) ∈ lw_all := lw_g (lw_at lw_m9 128 rfl) rfl
theorem q2120 : (Jvm.Cond.code ({ cls := "MazeBondsModel", name := "coins", desc := "()I" } : Jvm.MethodName) prog_10_method_85_code (3 : Nat) (Option.some Jvm.ClassFile.FieldType.int)) ∈ lw_all := lw_g (lw_at lw_m9 129 rfl) rfl
theorem q2122 : (Jvm.Cond.instanceMethod ({ cls := "MazeBondsModel", name := "undo", desc := "()I" } : Jvm.MethodName)) ∈ lw_all := lw_g (lw_at lw_m9 131 rfl) rfl
theorem q2123 : (Jvm.Cond.selects "MazeBondsModel" ({ cls := "MazeBondsModel", name := "undo", desc := "()I" } : Jvm.MethodName) ({ cls := "MazeBondsModel", name := "undo", desc := "()I" } : Jvm.MethodName)) ∈ lw_all := lw_g (lw_at lw_m9 132 rfl) rfl
theorem q2124 : (Jvm.Cond.code ({ cls := "MazeBondsModel", name := "undo", desc := "()I" } : Jvm.MethodName) prog_10_method_89_code (2 : Nat) (Option.some Jvm.ClassFile.FieldType.int)) ∈ lw_all := lw_g (lw_at lw_m9 133 rfl) rfl
theorem q2126 : (Jvm.Cond.instanceMethod ({ cls := "MazeBondsModel", name := "save", desc := "()I" } : Jvm.MethodName)) ∈ lw_all := lw_g (lw_at lw_m9 135 rfl) rfl
theorem q2127 : (Jvm.Cond.selects "MazeBondsModel" ({ cls := "MazeBondsModel", name := "save", desc := "()I" } : Jvm.MethodName) ({ cls := "MazeBondsModel", name := "save", desc := "()I" } : Jvm.MethodName)) ∈ lw_all := lw_g (lw_at lw_m9 136 rfl) rfl
theorem q2128 : (Jvm.Cond.code ({ cls := "MazeBondsModel", name := "save", desc := "()I" } : Jvm.MethodName) prog_10_method_90_code (2 : Nat) (Option.some Jvm.ClassFile.FieldType.int)) ∈ lw_all := lw_g (lw_at lw_m9 137 rfl) rfl
theorem q2130 : (Jvm.Cond.instanceMethod ({ cls := "MazeBondsModel", name := "restore", desc := "()I" } : Jvm.MethodName)) ∈ lw_all := lw_g (lw_at lw_m9 139 rfl) rfl
theorem q2131 : (Jvm.Cond.selects "MazeBondsModel" ({ cls := "MazeBondsModel", name := "restore", desc := "()I" } : Jvm.MethodName) ({ cls := "MazeBondsModel", name := "restore", desc := "()I" } : Jvm.MethodName)) ∈ lw_all := lw_g (lw_at lw_m9 140 rfl) rfl
theorem q2132 : (Jvm.Cond.code ({ cls := "MazeBondsModel", name := "restore", desc := "()I" } : Jvm.MethodName) prog_10_method_91_code (2 : Nat) (Option.some Jvm.ClassFile.FieldType.int)) ∈ lw_all := lw_g (lw_at lw_m9 141 rfl) rfl
theorem q2155 : (Jvm.Cond.castable "MazeBondsModel" "java/lang/Object") ∈ lw_tbl := lw_at lw_m9 164 rfl
theorem in_X3 : ∀ w ∈ wsX30, w ∈ lw_all := lw_in wsX30 [1724, 1726, 1728, 1730, 1732, 1734, 1736, 1738, 1740, 1742, 1744, 1746, 1748, 1750, 1752, 1754, 1756, 1758, 1760, 1762, 1764] (by decide +kernel) (by decide +kernel)
