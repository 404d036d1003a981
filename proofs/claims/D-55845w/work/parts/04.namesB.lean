/-! MazeBondsLaw -/
set_option maxRecDepth 100000
def RX0 : String := "MazeBondsLaw"
abbrev cX0_hedge : ByteArray := method_3_code
def yX0_hedge : MethodName := ⟨RX0, "hedge", "(LMazeBonds;III[J)I"⟩
def dkwX0_hedge_0 : List UInt8 := [25, 4, 3, 42, 27, 28, 29, 182, 0, 7, 133, 80, 167, 0, 7, 58, 5, 4, 172, 3, 172]
abbrev dktX0_hedge_0 : List UInt8 := dkwX0_hedge_0 ++ []
theorem dksX0_hedge_0 : cX0_hedge.data.toList.drop 0 = dktX0_hedge_0 := by decide +kernel
theorem dX0_hedge_0 : decode cX0_hedge 0 = .ok (.aload 4, 2) := dk_25 4 (dk_at dksX0_hedge_0 0 rfl rfl)
theorem dX0_hedge_2 : decode cX0_hedge 2 = .ok (.iconst 0, 1) := dk_3 (dk_at dksX0_hedge_0 2 rfl rfl)
theorem dX0_hedge_3 : decode cX0_hedge 3 = .ok (.aload_n 0, 1) := dk_42 (dk_at dksX0_hedge_0 3 rfl rfl)
theorem dX0_hedge_4 : decode cX0_hedge 4 = .ok (.iload_n 1, 1) := dk_27 (dk_at dksX0_hedge_0 4 rfl rfl)
theorem dX0_hedge_5 : decode cX0_hedge 5 = .ok (.iload_n 2, 1) := dk_28 (dk_at dksX0_hedge_0 5 rfl rfl)
theorem dX0_hedge_6 : decode cX0_hedge 6 = .ok (.iload_n 3, 1) := dk_29 (dk_at dksX0_hedge_0 6 rfl rfl)
theorem dX0_hedge_7 : decode cX0_hedge 7 = .ok (.invokevirtual 7, 3) := dk_182 0 7 (dk_at dksX0_hedge_0 7 rfl rfl)
theorem dX0_hedge_10 : decode cX0_hedge 10 = .ok (.i2l, 1) := dk_133 (dk_at dksX0_hedge_0 10 rfl rfl)
theorem dX0_hedge_11 : decode cX0_hedge 11 = .ok (.lastore, 1) := dk_80 (dk_at dksX0_hedge_0 11 rfl rfl)
theorem dX0_hedge_12 : decode cX0_hedge 12 = .ok (.goto 7, 3) := dk_167 0 7 (dk_at dksX0_hedge_0 12 rfl rfl)
theorem dX0_hedge_15 : decode cX0_hedge 15 = .ok (.astore 5, 2) := dk_58 5 (dk_at dksX0_hedge_0 15 rfl rfl)
theorem dX0_hedge_17 : decode cX0_hedge 17 = .ok (.iconst 1, 1) := dk_4 (dk_at dksX0_hedge_0 17 rfl rfl)
theorem dX0_hedge_18 : decode cX0_hedge 18 = .ok (.ireturn, 1) := dk_172 (dk_at dksX0_hedge_0 18 rfl rfl)
theorem dX0_hedge_19 : decode cX0_hedge 19 = .ok (.iconst 0, 1) := dk_3 (dk_at dksX0_hedge_0 19 rfl rfl)
theorem dX0_hedge_20 : decode cX0_hedge 20 = .ok (.ireturn, 1) := dk_172 (dk_at dksX0_hedge_0 20 rfl rfl)
abbrev cX0_trim : ByteArray := method_4_code
def yX0_trim : MethodName := ⟨RX0, "trim", "(LMazeBonds;III[J)I"⟩
def dkwX0_trim_0 : List UInt8 := [25, 4, 3, 42, 27, 28, 29, 182, 0, 15, 133, 80, 167, 0, 7, 58, 5, 4, 172, 3, 172]
abbrev dktX0_trim_0 : List UInt8 := dkwX0_trim_0 ++ []
theorem dksX0_trim_0 : cX0_trim.data.toList.drop 0 = dktX0_trim_0 := by decide +kernel
theorem dX0_trim_0 : decode cX0_trim 0 = .ok (.aload 4, 2) := dk_25 4 (dk_at dksX0_trim_0 0 rfl rfl)
theorem dX0_trim_2 : decode cX0_trim 2 = .ok (.iconst 0, 1) := dk_3 (dk_at dksX0_trim_0 2 rfl rfl)
theorem dX0_trim_3 : decode cX0_trim 3 = .ok (.aload_n 0, 1) := dk_42 (dk_at dksX0_trim_0 3 rfl rfl)
theorem dX0_trim_4 : decode cX0_trim 4 = .ok (.iload_n 1, 1) := dk_27 (dk_at dksX0_trim_0 4 rfl rfl)
theorem dX0_trim_5 : decode cX0_trim 5 = .ok (.iload_n 2, 1) := dk_28 (dk_at dksX0_trim_0 5 rfl rfl)
theorem dX0_trim_6 : decode cX0_trim 6 = .ok (.iload_n 3, 1) := dk_29 (dk_at dksX0_trim_0 6 rfl rfl)
theorem dX0_trim_7 : decode cX0_trim 7 = .ok (.invokevirtual 15, 3) := dk_182 0 15 (dk_at dksX0_trim_0 7 rfl rfl)
theorem dX0_trim_10 : decode cX0_trim 10 = .ok (.i2l, 1) := dk_133 (dk_at dksX0_trim_0 10 rfl rfl)
theorem dX0_trim_11 : decode cX0_trim 11 = .ok (.lastore, 1) := dk_80 (dk_at dksX0_trim_0 11 rfl rfl)
theorem dX0_trim_12 : decode cX0_trim 12 = .ok (.goto 7, 3) := dk_167 0 7 (dk_at dksX0_trim_0 12 rfl rfl)
theorem dX0_trim_15 : decode cX0_trim 15 = .ok (.astore 5, 2) := dk_58 5 (dk_at dksX0_trim_0 15 rfl rfl)
theorem dX0_trim_17 : decode cX0_trim 17 = .ok (.iconst 1, 1) := dk_4 (dk_at dksX0_trim_0 17 rfl rfl)
theorem dX0_trim_18 : decode cX0_trim 18 = .ok (.ireturn, 1) := dk_172 (dk_at dksX0_trim_0 18 rfl rfl)
theorem dX0_trim_19 : decode cX0_trim 19 = .ok (.iconst 0, 1) := dk_3 (dk_at dksX0_trim_0 19 rfl rfl)
theorem dX0_trim_20 : decode cX0_trim 20 = .ok (.ireturn, 1) := dk_172 (dk_at dksX0_trim_0 20 rfl rfl)
abbrev cX0_minotaur : ByteArray := method_5_code
def yX0_minotaur : MethodName := ⟨RX0, "minotaur", "(LMazeBonds;I[J)I"⟩
def dkwX0_minotaur_0 : List UInt8 := [44, 3, 42, 27, 182, 0, 18, 133, 80, 167, 0, 6, 78, 4, 172, 3, 172]
abbrev dktX0_minotaur_0 : List UInt8 := dkwX0_minotaur_0 ++ []
theorem dksX0_minotaur_0 : cX0_minotaur.data.toList.drop 0 = dktX0_minotaur_0 := by decide +kernel
theorem dX0_minotaur_0 : decode cX0_minotaur 0 = .ok (.aload_n 2, 1) := dk_44 (dk_at dksX0_minotaur_0 0 rfl rfl)
theorem dX0_minotaur_1 : decode cX0_minotaur 1 = .ok (.iconst 0, 1) := dk_3 (dk_at dksX0_minotaur_0 1 rfl rfl)
theorem dX0_minotaur_2 : decode cX0_minotaur 2 = .ok (.aload_n 0, 1) := dk_42 (dk_at dksX0_minotaur_0 2 rfl rfl)
theorem dX0_minotaur_3 : decode cX0_minotaur 3 = .ok (.iload_n 1, 1) := dk_27 (dk_at dksX0_minotaur_0 3 rfl rfl)
theorem dX0_minotaur_4 : decode cX0_minotaur 4 = .ok (.invokevirtual 18, 3) := dk_182 0 18 (dk_at dksX0_minotaur_0 4 rfl rfl)
theorem dX0_minotaur_7 : decode cX0_minotaur 7 = .ok (.i2l, 1) := dk_133 (dk_at dksX0_minotaur_0 7 rfl rfl)
theorem dX0_minotaur_8 : decode cX0_minotaur 8 = .ok (.lastore, 1) := dk_80 (dk_at dksX0_minotaur_0 8 rfl rfl)
theorem dX0_minotaur_9 : decode cX0_minotaur 9 = .ok (.goto 6, 3) := dk_167 0 6 (dk_at dksX0_minotaur_0 9 rfl rfl)
theorem dX0_minotaur_12 : decode cX0_minotaur 12 = .ok (.astore_n 3, 1) := dk_78 (dk_at dksX0_minotaur_0 12 rfl rfl)
theorem dX0_minotaur_13 : decode cX0_minotaur 13 = .ok (.iconst 1, 1) := dk_4 (dk_at dksX0_minotaur_0 13 rfl rfl)
theorem dX0_minotaur_14 : decode cX0_minotaur 14 = .ok (.ireturn, 1) := dk_172 (dk_at dksX0_minotaur_0 14 rfl rfl)
theorem dX0_minotaur_15 : decode cX0_minotaur 15 = .ok (.iconst 0, 1) := dk_3 (dk_at dksX0_minotaur_0 15 rfl rfl)
theorem dX0_minotaur_16 : decode cX0_minotaur 16 = .ok (.ireturn, 1) := dk_172 (dk_at dksX0_minotaur_0 16 rfl rfl)
abbrev cX0_gardener : ByteArray := method_6_code
def yX0_gardener : MethodName := ⟨RX0, "gardener", "(LMazeBonds;I[J)I"⟩
def dkwX0_gardener_0 : List UInt8 := [44, 3, 42, 27, 182, 0, 22, 133, 80, 167, 0, 6, 78, 4, 172, 3, 172]
abbrev dktX0_gardener_0 : List UInt8 := dkwX0_gardener_0 ++ []
theorem dksX0_gardener_0 : cX0_gardener.data.toList.drop 0 = dktX0_gardener_0 := by decide +kernel
theorem dX0_gardener_0 : decode cX0_gardener 0 = .ok (.aload_n 2, 1) := dk_44 (dk_at dksX0_gardener_0 0 rfl rfl)
theorem dX0_gardener_1 : decode cX0_gardener 1 = .ok (.iconst 0, 1) := dk_3 (dk_at dksX0_gardener_0 1 rfl rfl)
theorem dX0_gardener_2 : decode cX0_gardener 2 = .ok (.aload_n 0, 1) := dk_42 (dk_at dksX0_gardener_0 2 rfl rfl)
theorem dX0_gardener_3 : decode cX0_gardener 3 = .ok (.iload_n 1, 1) := dk_27 (dk_at dksX0_gardener_0 3 rfl rfl)
theorem dX0_gardener_4 : decode cX0_gardener 4 = .ok (.invokevirtual 22, 3) := dk_182 0 22 (dk_at dksX0_gardener_0 4 rfl rfl)
theorem dX0_gardener_7 : decode cX0_gardener 7 = .ok (.i2l, 1) := dk_133 (dk_at dksX0_gardener_0 7 rfl rfl)
theorem dX0_gardener_8 : decode cX0_gardener 8 = .ok (.lastore, 1) := dk_80 (dk_at dksX0_gardener_0 8 rfl rfl)
theorem dX0_gardener_9 : decode cX0_gardener 9 = .ok (.goto 6, 3) := dk_167 0 6 (dk_at dksX0_gardener_0 9 rfl rfl)
theorem dX0_gardener_12 : decode cX0_gardener 12 = .ok (.astore_n 3, 1) := dk_78 (dk_at dksX0_gardener_0 12 rfl rfl)
theorem dX0_gardener_13 : decode cX0_gardener 13 = .ok (.iconst 1, 1) := dk_4 (dk_at dksX0_gardener_0 13 rfl rfl)
theorem dX0_gardener_14 : decode cX0_gardener 14 = .ok (.ireturn, 1) := dk_172 (dk_at dksX0_gardener_0 14 rfl rfl)
theorem dX0_gardener_15 : decode cX0_gardener 15 = .ok (.iconst 0, 1) := dk_3 (dk_at dksX0_gardener_0 15 rfl rfl)
theorem dX0_gardener_16 : decode cX0_gardener 16 = .ok (.ireturn, 1) := dk_172 (dk_at dksX0_gardener_0 16 rfl rfl)
abbrev cX0_visitor : ByteArray := method_7_code
def yX0_visitor : MethodName := ⟨RX0, "visitor", "(LMazeBonds;I[J)I"⟩
def dkwX0_visitor_0 : List UInt8 := [44, 3, 42, 27, 182, 0, 25, 133, 80, 167, 0, 6, 78, 4, 172, 3, 172]
abbrev dktX0_visitor_0 : List UInt8 := dkwX0_visitor_0 ++ []
theorem dksX0_visitor_0 : cX0_visitor.data.toList.drop 0 = dktX0_visitor_0 := by decide +kernel
theorem dX0_visitor_0 : decode cX0_visitor 0 = .ok (.aload_n 2, 1) := dk_44 (dk_at dksX0_visitor_0 0 rfl rfl)
theorem dX0_visitor_1 : decode cX0_visitor 1 = .ok (.iconst 0, 1) := dk_3 (dk_at dksX0_visitor_0 1 rfl rfl)
theorem dX0_visitor_2 : decode cX0_visitor 2 = .ok (.aload_n 0, 1) := dk_42 (dk_at dksX0_visitor_0 2 rfl rfl)
theorem dX0_visitor_3 : decode cX0_visitor 3 = .ok (.iload_n 1, 1) := dk_27 (dk_at dksX0_visitor_0 3 rfl rfl)
theorem dX0_visitor_4 : decode cX0_visitor 4 = .ok (.invokevirtual 25, 3) := dk_182 0 25 (dk_at dksX0_visitor_0 4 rfl rfl)
theorem dX0_visitor_7 : decode cX0_visitor 7 = .ok (.i2l, 1) := dk_133 (dk_at dksX0_visitor_0 7 rfl rfl)
theorem dX0_visitor_8 : decode cX0_visitor 8 = .ok (.lastore, 1) := dk_80 (dk_at dksX0_visitor_0 8 rfl rfl)
theorem dX0_visitor_9 : decode cX0_visitor 9 = .ok (.goto 6, 3) := dk_167 0 6 (dk_at dksX0_visitor_0 9 rfl rfl)
theorem dX0_visitor_12 : decode cX0_visitor 12 = .ok (.astore_n 3, 1) := dk_78 (dk_at dksX0_visitor_0 12 rfl rfl)
theorem dX0_visitor_13 : decode cX0_visitor 13 = .ok (.iconst 1, 1) := dk_4 (dk_at dksX0_visitor_0 13 rfl rfl)
theorem dX0_visitor_14 : decode cX0_visitor 14 = .ok (.ireturn, 1) := dk_172 (dk_at dksX0_visitor_0 14 rfl rfl)
theorem dX0_visitor_15 : decode cX0_visitor 15 = .ok (.iconst 0, 1) := dk_3 (dk_at dksX0_visitor_0 15 rfl rfl)
theorem dX0_visitor_16 : decode cX0_visitor 16 = .ok (.ireturn, 1) := dk_172 (dk_at dksX0_visitor_0 16 rfl rfl)
abbrev cX0_bond : ByteArray := method_8_code
def yX0_bond : MethodName := ⟨RX0, "bond", "(LMazeBonds;III[J)I"⟩
def dkwX0_bond_0 : List UInt8 := [25, 4, 3, 42, 27, 28, 29, 182, 0, 28, 133, 80, 167, 0, 7, 58, 5, 4, 172, 3, 172]
abbrev dktX0_bond_0 : List UInt8 := dkwX0_bond_0 ++ []
theorem dksX0_bond_0 : cX0_bond.data.toList.drop 0 = dktX0_bond_0 := by decide +kernel
theorem dX0_bond_0 : decode cX0_bond 0 = .ok (.aload 4, 2) := dk_25 4 (dk_at dksX0_bond_0 0 rfl rfl)
theorem dX0_bond_2 : decode cX0_bond 2 = .ok (.iconst 0, 1) := dk_3 (dk_at dksX0_bond_0 2 rfl rfl)
theorem dX0_bond_3 : decode cX0_bond 3 = .ok (.aload_n 0, 1) := dk_42 (dk_at dksX0_bond_0 3 rfl rfl)
theorem dX0_bond_4 : decode cX0_bond 4 = .ok (.iload_n 1, 1) := dk_27 (dk_at dksX0_bond_0 4 rfl rfl)
theorem dX0_bond_5 : decode cX0_bond 5 = .ok (.iload_n 2, 1) := dk_28 (dk_at dksX0_bond_0 5 rfl rfl)
theorem dX0_bond_6 : decode cX0_bond 6 = .ok (.iload_n 3, 1) := dk_29 (dk_at dksX0_bond_0 6 rfl rfl)
theorem dX0_bond_7 : decode cX0_bond 7 = .ok (.invokevirtual 28, 3) := dk_182 0 28 (dk_at dksX0_bond_0 7 rfl rfl)
theorem dX0_bond_10 : decode cX0_bond 10 = .ok (.i2l, 1) := dk_133 (dk_at dksX0_bond_0 10 rfl rfl)
theorem dX0_bond_11 : decode cX0_bond 11 = .ok (.lastore, 1) := dk_80 (dk_at dksX0_bond_0 11 rfl rfl)
theorem dX0_bond_12 : decode cX0_bond 12 = .ok (.goto 7, 3) := dk_167 0 7 (dk_at dksX0_bond_0 12 rfl rfl)
theorem dX0_bond_15 : decode cX0_bond 15 = .ok (.astore 5, 2) := dk_58 5 (dk_at dksX0_bond_0 15 rfl rfl)
theorem dX0_bond_17 : decode cX0_bond 17 = .ok (.iconst 1, 1) := dk_4 (dk_at dksX0_bond_0 17 rfl rfl)
theorem dX0_bond_18 : decode cX0_bond 18 = .ok (.ireturn, 1) := dk_172 (dk_at dksX0_bond_0 18 rfl rfl)
theorem dX0_bond_19 : decode cX0_bond 19 = .ok (.iconst 0, 1) := dk_3 (dk_at dksX0_bond_0 19 rfl rfl)
theorem dX0_bond_20 : decode cX0_bond 20 = .ok (.ireturn, 1) := dk_172 (dk_at dksX0_bond_0 20 rfl rfl)
abbrev cX0_walk : ByteArray := method_9_code
def yX0_walk : MethodName := ⟨RX0, "walk", "(LMazeBonds;II[J)I"⟩
def dkwX0_walk_0 : List UInt8 := [45, 3, 42, 27, 28, 182, 0, 31, 133, 80, 167, 0, 7, 58, 4, 4, 172, 3, 172]
abbrev dktX0_walk_0 : List UInt8 := dkwX0_walk_0 ++ []
theorem dksX0_walk_0 : cX0_walk.data.toList.drop 0 = dktX0_walk_0 := by decide +kernel
theorem dX0_walk_0 : decode cX0_walk 0 = .ok (.aload_n 3, 1) := dk_45 (dk_at dksX0_walk_0 0 rfl rfl)
theorem dX0_walk_1 : decode cX0_walk 1 = .ok (.iconst 0, 1) := dk_3 (dk_at dksX0_walk_0 1 rfl rfl)
theorem dX0_walk_2 : decode cX0_walk 2 = .ok (.aload_n 0, 1) := dk_42 (dk_at dksX0_walk_0 2 rfl rfl)
theorem dX0_walk_3 : decode cX0_walk 3 = .ok (.iload_n 1, 1) := dk_27 (dk_at dksX0_walk_0 3 rfl rfl)
theorem dX0_walk_4 : decode cX0_walk 4 = .ok (.iload_n 2, 1) := dk_28 (dk_at dksX0_walk_0 4 rfl rfl)
theorem dX0_walk_5 : decode cX0_walk 5 = .ok (.invokevirtual 31, 3) := dk_182 0 31 (dk_at dksX0_walk_0 5 rfl rfl)
theorem dX0_walk_8 : decode cX0_walk 8 = .ok (.i2l, 1) := dk_133 (dk_at dksX0_walk_0 8 rfl rfl)
theorem dX0_walk_9 : decode cX0_walk 9 = .ok (.lastore, 1) := dk_80 (dk_at dksX0_walk_0 9 rfl rfl)
theorem dX0_walk_10 : decode cX0_walk 10 = .ok (.goto 7, 3) := dk_167 0 7 (dk_at dksX0_walk_0 10 rfl rfl)
theorem dX0_walk_13 : decode cX0_walk 13 = .ok (.astore 4, 2) := dk_58 4 (dk_at dksX0_walk_0 13 rfl rfl)
theorem dX0_walk_15 : decode cX0_walk 15 = .ok (.iconst 1, 1) := dk_4 (dk_at dksX0_walk_0 15 rfl rfl)
theorem dX0_walk_16 : decode cX0_walk 16 = .ok (.ireturn, 1) := dk_172 (dk_at dksX0_walk_0 16 rfl rfl)
theorem dX0_walk_17 : decode cX0_walk 17 = .ok (.iconst 0, 1) := dk_3 (dk_at dksX0_walk_0 17 rfl rfl)
theorem dX0_walk_18 : decode cX0_walk 18 = .ok (.ireturn, 1) := dk_172 (dk_at dksX0_walk_0 18 rfl rfl)
abbrev cX0_rest : ByteArray := method_10_code
def yX0_rest : MethodName := ⟨RX0, "rest", "(LMazeBonds;II[J)I"⟩
def dkwX0_rest_0 : List UInt8 := [45, 3, 42, 27, 28, 182, 0, 35, 133, 80, 167, 0, 7, 58, 4, 4, 172, 3, 172]
abbrev dktX0_rest_0 : List UInt8 := dkwX0_rest_0 ++ []
theorem dksX0_rest_0 : cX0_rest.data.toList.drop 0 = dktX0_rest_0 := by decide +kernel
theorem dX0_rest_0 : decode cX0_rest 0 = .ok (.aload_n 3, 1) := dk_45 (dk_at dksX0_rest_0 0 rfl rfl)
theorem dX0_rest_1 : decode cX0_rest 1 = .ok (.iconst 0, 1) := dk_3 (dk_at dksX0_rest_0 1 rfl rfl)
theorem dX0_rest_2 : decode cX0_rest 2 = .ok (.aload_n 0, 1) := dk_42 (dk_at dksX0_rest_0 2 rfl rfl)
theorem dX0_rest_3 : decode cX0_rest 3 = .ok (.iload_n 1, 1) := dk_27 (dk_at dksX0_rest_0 3 rfl rfl)
theorem dX0_rest_4 : decode cX0_rest 4 = .ok (.iload_n 2, 1) := dk_28 (dk_at dksX0_rest_0 4 rfl rfl)
theorem dX0_rest_5 : decode cX0_rest 5 = .ok (.invokevirtual 35, 3) := dk_182 0 35 (dk_at dksX0_rest_0 5 rfl rfl)
theorem dX0_rest_8 : decode cX0_rest 8 = .ok (.i2l, 1) := dk_133 (dk_at dksX0_rest_0 8 rfl rfl)
theorem dX0_rest_9 : decode cX0_rest 9 = .ok (.lastore, 1) := dk_80 (dk_at dksX0_rest_0 9 rfl rfl)
theorem dX0_rest_10 : decode cX0_rest 10 = .ok (.goto 7, 3) := dk_167 0 7 (dk_at dksX0_rest_0 10 rfl rfl)
theorem dX0_rest_13 : decode cX0_rest 13 = .ok (.astore 4, 2) := dk_58 4 (dk_at dksX0_rest_0 13 rfl rfl)
theorem dX0_rest_15 : decode cX0_rest 15 = .ok (.iconst 1, 1) := dk_4 (dk_at dksX0_rest_0 15 rfl rfl)
theorem dX0_rest_16 : decode cX0_rest 16 = .ok (.ireturn, 1) := dk_172 (dk_at dksX0_rest_0 16 rfl rfl)
theorem dX0_rest_17 : decode cX0_rest 17 = .ok (.iconst 0, 1) := dk_3 (dk_at dksX0_rest_0 17 rfl rfl)
theorem dX0_rest_18 : decode cX0_rest 18 = .ok (.ireturn, 1) := dk_172 (dk_at dksX0_rest_0 18 rfl rfl)
abbrev cX0_leaves : ByteArray := method_11_code
def yX0_leaves : MethodName := ⟨RX0, "leaves", "(LMazeBonds;II[J)I"⟩
def dkwX0_leaves_0 : List UInt8 := [45, 3, 42, 27, 28, 182, 0, 38, 133, 80, 167, 0, 11, 58, 4, 4, 172, 58, 4, 5, 172, 3, 172]
abbrev dktX0_leaves_0 : List UInt8 := dkwX0_leaves_0 ++ []
theorem dksX0_leaves_0 : cX0_leaves.data.toList.drop 0 = dktX0_leaves_0 := by decide +kernel
theorem dX0_leaves_0 : decode cX0_leaves 0 = .ok (.aload_n 3, 1) := dk_45 (dk_at dksX0_leaves_0 0 rfl rfl)
theorem dX0_leaves_1 : decode cX0_leaves 1 = .ok (.iconst 0, 1) := dk_3 (dk_at dksX0_leaves_0 1 rfl rfl)
theorem dX0_leaves_2 : decode cX0_leaves 2 = .ok (.aload_n 0, 1) := dk_42 (dk_at dksX0_leaves_0 2 rfl rfl)
theorem dX0_leaves_3 : decode cX0_leaves 3 = .ok (.iload_n 1, 1) := dk_27 (dk_at dksX0_leaves_0 3 rfl rfl)
theorem dX0_leaves_4 : decode cX0_leaves 4 = .ok (.iload_n 2, 1) := dk_28 (dk_at dksX0_leaves_0 4 rfl rfl)
theorem dX0_leaves_5 : decode cX0_leaves 5 = .ok (.invokevirtual 38, 3) := dk_182 0 38 (dk_at dksX0_leaves_0 5 rfl rfl)
theorem dX0_leaves_8 : decode cX0_leaves 8 = .ok (.i2l, 1) := dk_133 (dk_at dksX0_leaves_0 8 rfl rfl)
theorem dX0_leaves_9 : decode cX0_leaves 9 = .ok (.lastore, 1) := dk_80 (dk_at dksX0_leaves_0 9 rfl rfl)
theorem dX0_leaves_10 : decode cX0_leaves 10 = .ok (.goto 11, 3) := dk_167 0 11 (dk_at dksX0_leaves_0 10 rfl rfl)
theorem dX0_leaves_13 : decode cX0_leaves 13 = .ok (.astore 4, 2) := dk_58 4 (dk_at dksX0_leaves_0 13 rfl rfl)
theorem dX0_leaves_15 : decode cX0_leaves 15 = .ok (.iconst 1, 1) := dk_4 (dk_at dksX0_leaves_0 15 rfl rfl)
theorem dX0_leaves_16 : decode cX0_leaves 16 = .ok (.ireturn, 1) := dk_172 (dk_at dksX0_leaves_0 16 rfl rfl)
theorem dX0_leaves_17 : decode cX0_leaves 17 = .ok (.astore 4, 2) := dk_58 4 (dk_at dksX0_leaves_0 17 rfl rfl)
theorem dX0_leaves_19 : decode cX0_leaves 19 = .ok (.iconst 2, 1) := dk_5 (dk_at dksX0_leaves_0 19 rfl rfl)
theorem dX0_leaves_20 : decode cX0_leaves 20 = .ok (.ireturn, 1) := dk_172 (dk_at dksX0_leaves_0 20 rfl rfl)
theorem dX0_leaves_21 : decode cX0_leaves 21 = .ok (.iconst 0, 1) := dk_3 (dk_at dksX0_leaves_0 21 rfl rfl)
theorem dX0_leaves_22 : decode cX0_leaves 22 = .ok (.ireturn, 1) := dk_172 (dk_at dksX0_leaves_0 22 rfl rfl)
abbrev cX0_isGap : ByteArray := method_12_code
def yX0_isGap : MethodName := ⟨RX0, "isGap", "(LMazeBonds;II[J)I"⟩
def dkwX0_isGap_1 : List UInt8 := [3, 172]
abbrev dktX0_isGap_1 : List UInt8 := dkwX0_isGap_1 ++ []
def dkwX0_isGap_0 : List UInt8 := [45, 3, 42, 27, 28, 182, 0, 45, 153, 0, 7, 10, 167, 0, 4, 9, 80, 167, 0, 7, 58, 4, 4, 172]
abbrev dktX0_isGap_0 : List UInt8 := dkwX0_isGap_0 ++ dktX0_isGap_1
theorem dksX0_isGap_0 : cX0_isGap.data.toList.drop 0 = dktX0_isGap_0 := by decide +kernel
theorem dksX0_isGap_1 : cX0_isGap.data.toList.drop 24 = dktX0_isGap_1 := dk_seg dksX0_isGap_0 24 rfl rfl
theorem dX0_isGap_0 : decode cX0_isGap 0 = .ok (.aload_n 3, 1) := dk_45 (dk_at dksX0_isGap_0 0 rfl rfl)
theorem dX0_isGap_1 : decode cX0_isGap 1 = .ok (.iconst 0, 1) := dk_3 (dk_at dksX0_isGap_0 1 rfl rfl)
theorem dX0_isGap_2 : decode cX0_isGap 2 = .ok (.aload_n 0, 1) := dk_42 (dk_at dksX0_isGap_0 2 rfl rfl)
theorem dX0_isGap_3 : decode cX0_isGap 3 = .ok (.iload_n 1, 1) := dk_27 (dk_at dksX0_isGap_0 3 rfl rfl)
theorem dX0_isGap_4 : decode cX0_isGap 4 = .ok (.iload_n 2, 1) := dk_28 (dk_at dksX0_isGap_0 4 rfl rfl)
theorem dX0_isGap_5 : decode cX0_isGap 5 = .ok (.invokevirtual 45, 3) := dk_182 0 45 (dk_at dksX0_isGap_0 5 rfl rfl)
theorem dX0_isGap_8 : decode cX0_isGap 8 = .ok (.ifCond .eq 7, 3) := dk_153 0 7 (dk_at dksX0_isGap_0 8 rfl rfl)
theorem dX0_isGap_11 : decode cX0_isGap 11 = .ok (.lconst 1, 1) := dk_10 (dk_at dksX0_isGap_0 11 rfl rfl)
theorem dX0_isGap_12 : decode cX0_isGap 12 = .ok (.goto 4, 3) := dk_167 0 4 (dk_at dksX0_isGap_0 12 rfl rfl)
theorem dX0_isGap_15 : decode cX0_isGap 15 = .ok (.lconst 0, 1) := dk_9 (dk_at dksX0_isGap_0 15 rfl rfl)
theorem dX0_isGap_16 : decode cX0_isGap 16 = .ok (.lastore, 1) := dk_80 (dk_at dksX0_isGap_0 16 rfl rfl)
theorem dX0_isGap_17 : decode cX0_isGap 17 = .ok (.goto 7, 3) := dk_167 0 7 (dk_at dksX0_isGap_0 17 rfl rfl)
theorem dX0_isGap_20 : decode cX0_isGap 20 = .ok (.astore 4, 2) := dk_58 4 (dk_at dksX0_isGap_0 20 rfl rfl)
theorem dX0_isGap_22 : decode cX0_isGap 22 = .ok (.iconst 1, 1) := dk_4 (dk_at dksX0_isGap_0 22 rfl rfl)
theorem dX0_isGap_23 : decode cX0_isGap 23 = .ok (.ireturn, 1) := dk_172 (dk_at dksX0_isGap_0 23 rfl rfl)
theorem dX0_isGap_24 : decode cX0_isGap 24 = .ok (.iconst 0, 1) := dk_3 (dk_at dksX0_isGap_1 0 rfl rfl)
theorem dX0_isGap_25 : decode cX0_isGap 25 = .ok (.ireturn, 1) := dk_172 (dk_at dksX0_isGap_1 1 rfl rfl)
abbrev cX0_hours : ByteArray := method_13_code
def yX0_hours : MethodName := ⟨RX0, "hours", "(LMazeBonds;II[J)I"⟩
def dkwX0_hours_0 : List UInt8 := [45, 3, 42, 27, 28, 182, 0, 49, 133, 80, 167, 0, 11, 58, 4, 4, 172, 58, 4, 5, 172, 3, 172]
abbrev dktX0_hours_0 : List UInt8 := dkwX0_hours_0 ++ []
theorem dksX0_hours_0 : cX0_hours.data.toList.drop 0 = dktX0_hours_0 := by decide +kernel
theorem dX0_hours_0 : decode cX0_hours 0 = .ok (.aload_n 3, 1) := dk_45 (dk_at dksX0_hours_0 0 rfl rfl)
theorem dX0_hours_1 : decode cX0_hours 1 = .ok (.iconst 0, 1) := dk_3 (dk_at dksX0_hours_0 1 rfl rfl)
theorem dX0_hours_2 : decode cX0_hours 2 = .ok (.aload_n 0, 1) := dk_42 (dk_at dksX0_hours_0 2 rfl rfl)
theorem dX0_hours_3 : decode cX0_hours 3 = .ok (.iload_n 1, 1) := dk_27 (dk_at dksX0_hours_0 3 rfl rfl)
theorem dX0_hours_4 : decode cX0_hours 4 = .ok (.iload_n 2, 1) := dk_28 (dk_at dksX0_hours_0 4 rfl rfl)
theorem dX0_hours_5 : decode cX0_hours 5 = .ok (.invokevirtual 49, 3) := dk_182 0 49 (dk_at dksX0_hours_0 5 rfl rfl)
theorem dX0_hours_8 : decode cX0_hours 8 = .ok (.i2l, 1) := dk_133 (dk_at dksX0_hours_0 8 rfl rfl)
theorem dX0_hours_9 : decode cX0_hours 9 = .ok (.lastore, 1) := dk_80 (dk_at dksX0_hours_0 9 rfl rfl)
theorem dX0_hours_10 : decode cX0_hours 10 = .ok (.goto 11, 3) := dk_167 0 11 (dk_at dksX0_hours_0 10 rfl rfl)
theorem dX0_hours_13 : decode cX0_hours 13 = .ok (.astore 4, 2) := dk_58 4 (dk_at dksX0_hours_0 13 rfl rfl)
theorem dX0_hours_15 : decode cX0_hours 15 = .ok (.iconst 1, 1) := dk_4 (dk_at dksX0_hours_0 15 rfl rfl)
theorem dX0_hours_16 : decode cX0_hours 16 = .ok (.ireturn, 1) := dk_172 (dk_at dksX0_hours_0 16 rfl rfl)
theorem dX0_hours_17 : decode cX0_hours 17 = .ok (.astore 4, 2) := dk_58 4 (dk_at dksX0_hours_0 17 rfl rfl)
theorem dX0_hours_19 : decode cX0_hours 19 = .ok (.iconst 2, 1) := dk_5 (dk_at dksX0_hours_0 19 rfl rfl)
theorem dX0_hours_20 : decode cX0_hours 20 = .ok (.ireturn, 1) := dk_172 (dk_at dksX0_hours_0 20 rfl rfl)
theorem dX0_hours_21 : decode cX0_hours 21 = .ok (.iconst 0, 1) := dk_3 (dk_at dksX0_hours_0 21 rfl rfl)
theorem dX0_hours_22 : decode cX0_hours 22 = .ok (.ireturn, 1) := dk_172 (dk_at dksX0_hours_0 22 rfl rfl)
abbrev cX0_hoursAgain : ByteArray := method_14_code
def yX0_hoursAgain : MethodName := ⟨RX0, "hoursAgain", "(LMazeBonds;II[J)I"⟩
def dkwX0_hoursAgain_0 : List UInt8 := [45, 3, 42, 27, 28, 182, 0, 52, 133, 80, 167, 0, 11, 58, 4, 4, 172, 58, 4, 5, 172, 3, 172]
abbrev dktX0_hoursAgain_0 : List UInt8 := dkwX0_hoursAgain_0 ++ []
theorem dksX0_hoursAgain_0 : cX0_hoursAgain.data.toList.drop 0 = dktX0_hoursAgain_0 := by decide +kernel
theorem dX0_hoursAgain_0 : decode cX0_hoursAgain 0 = .ok (.aload_n 3, 1) := dk_45 (dk_at dksX0_hoursAgain_0 0 rfl rfl)
theorem dX0_hoursAgain_1 : decode cX0_hoursAgain 1 = .ok (.iconst 0, 1) := dk_3 (dk_at dksX0_hoursAgain_0 1 rfl rfl)
theorem dX0_hoursAgain_2 : decode cX0_hoursAgain 2 = .ok (.aload_n 0, 1) := dk_42 (dk_at dksX0_hoursAgain_0 2 rfl rfl)
theorem dX0_hoursAgain_3 : decode cX0_hoursAgain 3 = .ok (.iload_n 1, 1) := dk_27 (dk_at dksX0_hoursAgain_0 3 rfl rfl)
theorem dX0_hoursAgain_4 : decode cX0_hoursAgain 4 = .ok (.iload_n 2, 1) := dk_28 (dk_at dksX0_hoursAgain_0 4 rfl rfl)
theorem dX0_hoursAgain_5 : decode cX0_hoursAgain 5 = .ok (.invokevirtual 52, 3) := dk_182 0 52 (dk_at dksX0_hoursAgain_0 5 rfl rfl)
theorem dX0_hoursAgain_8 : decode cX0_hoursAgain 8 = .ok (.i2l, 1) := dk_133 (dk_at dksX0_hoursAgain_0 8 rfl rfl)
theorem dX0_hoursAgain_9 : decode cX0_hoursAgain 9 = .ok (.lastore, 1) := dk_80 (dk_at dksX0_hoursAgain_0 9 rfl rfl)
theorem dX0_hoursAgain_10 : decode cX0_hoursAgain 10 = .ok (.goto 11, 3) := dk_167 0 11 (dk_at dksX0_hoursAgain_0 10 rfl rfl)
theorem dX0_hoursAgain_13 : decode cX0_hoursAgain 13 = .ok (.astore 4, 2) := dk_58 4 (dk_at dksX0_hoursAgain_0 13 rfl rfl)
theorem dX0_hoursAgain_15 : decode cX0_hoursAgain 15 = .ok (.iconst 1, 1) := dk_4 (dk_at dksX0_hoursAgain_0 15 rfl rfl)
theorem dX0_hoursAgain_16 : decode cX0_hoursAgain 16 = .ok (.ireturn, 1) := dk_172 (dk_at dksX0_hoursAgain_0 16 rfl rfl)
theorem dX0_hoursAgain_17 : decode cX0_hoursAgain 17 = .ok (.astore 4, 2) := dk_58 4 (dk_at dksX0_hoursAgain_0 17 rfl rfl)
theorem dX0_hoursAgain_19 : decode cX0_hoursAgain 19 = .ok (.iconst 2, 1) := dk_5 (dk_at dksX0_hoursAgain_0 19 rfl rfl)
theorem dX0_hoursAgain_20 : decode cX0_hoursAgain 20 = .ok (.ireturn, 1) := dk_172 (dk_at dksX0_hoursAgain_0 20 rfl rfl)
theorem dX0_hoursAgain_21 : decode cX0_hoursAgain 21 = .ok (.iconst 0, 1) := dk_3 (dk_at dksX0_hoursAgain_0 21 rfl rfl)
theorem dX0_hoursAgain_22 : decode cX0_hoursAgain 22 = .ok (.ireturn, 1) := dk_172 (dk_at dksX0_hoursAgain_0 22 rfl rfl)
abbrev cX0_next : ByteArray := method_15_code
def yX0_next : MethodName := ⟨RX0, "next", "(LMazeBonds;I[J)I"⟩
def dkwX0_next_0 : List UInt8 := [44, 3, 42, 27, 182, 0, 55, 133, 80, 167, 0, 9, 78, 4, 172, 78, 5, 172, 3, 172]
abbrev dktX0_next_0 : List UInt8 := dkwX0_next_0 ++ []
theorem dksX0_next_0 : cX0_next.data.toList.drop 0 = dktX0_next_0 := by decide +kernel
theorem dX0_next_0 : decode cX0_next 0 = .ok (.aload_n 2, 1) := dk_44 (dk_at dksX0_next_0 0 rfl rfl)
theorem dX0_next_1 : decode cX0_next 1 = .ok (.iconst 0, 1) := dk_3 (dk_at dksX0_next_0 1 rfl rfl)
theorem dX0_next_2 : decode cX0_next 2 = .ok (.aload_n 0, 1) := dk_42 (dk_at dksX0_next_0 2 rfl rfl)
theorem dX0_next_3 : decode cX0_next 3 = .ok (.iload_n 1, 1) := dk_27 (dk_at dksX0_next_0 3 rfl rfl)
theorem dX0_next_4 : decode cX0_next 4 = .ok (.invokevirtual 55, 3) := dk_182 0 55 (dk_at dksX0_next_0 4 rfl rfl)
theorem dX0_next_7 : decode cX0_next 7 = .ok (.i2l, 1) := dk_133 (dk_at dksX0_next_0 7 rfl rfl)
theorem dX0_next_8 : decode cX0_next 8 = .ok (.lastore, 1) := dk_80 (dk_at dksX0_next_0 8 rfl rfl)
theorem dX0_next_9 : decode cX0_next 9 = .ok (.goto 9, 3) := dk_167 0 9 (dk_at dksX0_next_0 9 rfl rfl)
theorem dX0_next_12 : decode cX0_next 12 = .ok (.astore_n 3, 1) := dk_78 (dk_at dksX0_next_0 12 rfl rfl)
theorem dX0_next_13 : decode cX0_next 13 = .ok (.iconst 1, 1) := dk_4 (dk_at dksX0_next_0 13 rfl rfl)
theorem dX0_next_14 : decode cX0_next 14 = .ok (.ireturn, 1) := dk_172 (dk_at dksX0_next_0 14 rfl rfl)
theorem dX0_next_15 : decode cX0_next 15 = .ok (.astore_n 3, 1) := dk_78 (dk_at dksX0_next_0 15 rfl rfl)
theorem dX0_next_16 : decode cX0_next 16 = .ok (.iconst 2, 1) := dk_5 (dk_at dksX0_next_0 16 rfl rfl)
theorem dX0_next_17 : decode cX0_next 17 = .ok (.ireturn, 1) := dk_172 (dk_at dksX0_next_0 17 rfl rfl)
theorem dX0_next_18 : decode cX0_next 18 = .ok (.iconst 0, 1) := dk_3 (dk_at dksX0_next_0 18 rfl rfl)
theorem dX0_next_19 : decode cX0_next 19 = .ok (.ireturn, 1) := dk_172 (dk_at dksX0_next_0 19 rfl rfl)
abbrev cX0_reached : ByteArray := method_16_code
def yX0_reached : MethodName := ⟨RX0, "reached", "(LMazeBonds;I[J)I"⟩
def dkwX0_reached_0 : List UInt8 := [44, 3, 42, 27, 182, 0, 58, 133, 80, 167, 0, 6, 78, 4, 172, 3, 172]
abbrev dktX0_reached_0 : List UInt8 := dkwX0_reached_0 ++ []
theorem dksX0_reached_0 : cX0_reached.data.toList.drop 0 = dktX0_reached_0 := by decide +kernel
theorem dX0_reached_0 : decode cX0_reached 0 = .ok (.aload_n 2, 1) := dk_44 (dk_at dksX0_reached_0 0 rfl rfl)
theorem dX0_reached_1 : decode cX0_reached 1 = .ok (.iconst 0, 1) := dk_3 (dk_at dksX0_reached_0 1 rfl rfl)
theorem dX0_reached_2 : decode cX0_reached 2 = .ok (.aload_n 0, 1) := dk_42 (dk_at dksX0_reached_0 2 rfl rfl)
theorem dX0_reached_3 : decode cX0_reached 3 = .ok (.iload_n 1, 1) := dk_27 (dk_at dksX0_reached_0 3 rfl rfl)
theorem dX0_reached_4 : decode cX0_reached 4 = .ok (.invokevirtual 58, 3) := dk_182 0 58 (dk_at dksX0_reached_0 4 rfl rfl)
theorem dX0_reached_7 : decode cX0_reached 7 = .ok (.i2l, 1) := dk_133 (dk_at dksX0_reached_0 7 rfl rfl)
theorem dX0_reached_8 : decode cX0_reached 8 = .ok (.lastore, 1) := dk_80 (dk_at dksX0_reached_0 8 rfl rfl)
theorem dX0_reached_9 : decode cX0_reached 9 = .ok (.goto 6, 3) := dk_167 0 6 (dk_at dksX0_reached_0 9 rfl rfl)
theorem dX0_reached_12 : decode cX0_reached 12 = .ok (.astore_n 3, 1) := dk_78 (dk_at dksX0_reached_0 12 rfl rfl)
theorem dX0_reached_13 : decode cX0_reached 13 = .ok (.iconst 1, 1) := dk_4 (dk_at dksX0_reached_0 13 rfl rfl)
theorem dX0_reached_14 : decode cX0_reached 14 = .ok (.ireturn, 1) := dk_172 (dk_at dksX0_reached_0 14 rfl rfl)
theorem dX0_reached_15 : decode cX0_reached 15 = .ok (.iconst 0, 1) := dk_3 (dk_at dksX0_reached_0 15 rfl rfl)
theorem dX0_reached_16 : decode cX0_reached 16 = .ok (.ireturn, 1) := dk_172 (dk_at dksX0_reached_0 16 rfl rfl)
abbrev cX0_trims : ByteArray := method_17_code
def yX0_trims : MethodName := ⟨RX0, "trims", "(LMazeBonds;I[J)I"⟩
def dkwX0_trims_0 : List UInt8 := [44, 3, 42, 27, 182, 0, 61, 133, 80, 167, 0, 6, 78, 4, 172, 3, 172]
abbrev dktX0_trims_0 : List UInt8 := dkwX0_trims_0 ++ []
theorem dksX0_trims_0 : cX0_trims.data.toList.drop 0 = dktX0_trims_0 := by decide +kernel
theorem dX0_trims_0 : decode cX0_trims 0 = .ok (.aload_n 2, 1) := dk_44 (dk_at dksX0_trims_0 0 rfl rfl)
theorem dX0_trims_1 : decode cX0_trims 1 = .ok (.iconst 0, 1) := dk_3 (dk_at dksX0_trims_0 1 rfl rfl)
theorem dX0_trims_2 : decode cX0_trims 2 = .ok (.aload_n 0, 1) := dk_42 (dk_at dksX0_trims_0 2 rfl rfl)
theorem dX0_trims_3 : decode cX0_trims 3 = .ok (.iload_n 1, 1) := dk_27 (dk_at dksX0_trims_0 3 rfl rfl)
theorem dX0_trims_4 : decode cX0_trims 4 = .ok (.invokevirtual 61, 3) := dk_182 0 61 (dk_at dksX0_trims_0 4 rfl rfl)
theorem dX0_trims_7 : decode cX0_trims 7 = .ok (.i2l, 1) := dk_133 (dk_at dksX0_trims_0 7 rfl rfl)
theorem dX0_trims_8 : decode cX0_trims 8 = .ok (.lastore, 1) := dk_80 (dk_at dksX0_trims_0 8 rfl rfl)
theorem dX0_trims_9 : decode cX0_trims 9 = .ok (.goto 6, 3) := dk_167 0 6 (dk_at dksX0_trims_0 9 rfl rfl)
theorem dX0_trims_12 : decode cX0_trims 12 = .ok (.astore_n 3, 1) := dk_78 (dk_at dksX0_trims_0 12 rfl rfl)
theorem dX0_trims_13 : decode cX0_trims 13 = .ok (.iconst 1, 1) := dk_4 (dk_at dksX0_trims_0 13 rfl rfl)
theorem dX0_trims_14 : decode cX0_trims 14 = .ok (.ireturn, 1) := dk_172 (dk_at dksX0_trims_0 14 rfl rfl)
theorem dX0_trims_15 : decode cX0_trims 15 = .ok (.iconst 0, 1) := dk_3 (dk_at dksX0_trims_0 15 rfl rfl)
theorem dX0_trims_16 : decode cX0_trims 16 = .ok (.ireturn, 1) := dk_172 (dk_at dksX0_trims_0 16 rfl rfl)
abbrev cX0_trimsAgain : ByteArray := method_18_code
def yX0_trimsAgain : MethodName := ⟨RX0, "trimsAgain", "(LMazeBonds;I[J)I"⟩
def dkwX0_trimsAgain_0 : List UInt8 := [44, 3, 42, 27, 182, 0, 64, 133, 80, 167, 0, 6, 78, 4, 172, 3, 172]
abbrev dktX0_trimsAgain_0 : List UInt8 := dkwX0_trimsAgain_0 ++ []
theorem dksX0_trimsAgain_0 : cX0_trimsAgain.data.toList.drop 0 = dktX0_trimsAgain_0 := by decide +kernel
theorem dX0_trimsAgain_0 : decode cX0_trimsAgain 0 = .ok (.aload_n 2, 1) := dk_44 (dk_at dksX0_trimsAgain_0 0 rfl rfl)
theorem dX0_trimsAgain_1 : decode cX0_trimsAgain 1 = .ok (.iconst 0, 1) := dk_3 (dk_at dksX0_trimsAgain_0 1 rfl rfl)
theorem dX0_trimsAgain_2 : decode cX0_trimsAgain 2 = .ok (.aload_n 0, 1) := dk_42 (dk_at dksX0_trimsAgain_0 2 rfl rfl)
theorem dX0_trimsAgain_3 : decode cX0_trimsAgain 3 = .ok (.iload_n 1, 1) := dk_27 (dk_at dksX0_trimsAgain_0 3 rfl rfl)
theorem dX0_trimsAgain_4 : decode cX0_trimsAgain 4 = .ok (.invokevirtual 64, 3) := dk_182 0 64 (dk_at dksX0_trimsAgain_0 4 rfl rfl)
theorem dX0_trimsAgain_7 : decode cX0_trimsAgain 7 = .ok (.i2l, 1) := dk_133 (dk_at dksX0_trimsAgain_0 7 rfl rfl)
theorem dX0_trimsAgain_8 : decode cX0_trimsAgain 8 = .ok (.lastore, 1) := dk_80 (dk_at dksX0_trimsAgain_0 8 rfl rfl)
theorem dX0_trimsAgain_9 : decode cX0_trimsAgain 9 = .ok (.goto 6, 3) := dk_167 0 6 (dk_at dksX0_trimsAgain_0 9 rfl rfl)
theorem dX0_trimsAgain_12 : decode cX0_trimsAgain 12 = .ok (.astore_n 3, 1) := dk_78 (dk_at dksX0_trimsAgain_0 12 rfl rfl)
theorem dX0_trimsAgain_13 : decode cX0_trimsAgain 13 = .ok (.iconst 1, 1) := dk_4 (dk_at dksX0_trimsAgain_0 13 rfl rfl)
theorem dX0_trimsAgain_14 : decode cX0_trimsAgain 14 = .ok (.ireturn, 1) := dk_172 (dk_at dksX0_trimsAgain_0 14 rfl rfl)
theorem dX0_trimsAgain_15 : decode cX0_trimsAgain 15 = .ok (.iconst 0, 1) := dk_3 (dk_at dksX0_trimsAgain_0 15 rfl rfl)
theorem dX0_trimsAgain_16 : decode cX0_trimsAgain 16 = .ok (.ireturn, 1) := dk_172 (dk_at dksX0_trimsAgain_0 16 rfl rfl)
abbrev cX0_isNeeded : ByteArray := method_19_code
def yX0_isNeeded : MethodName := ⟨RX0, "isNeeded", "(LMazeBonds;II[J)I"⟩
def dkwX0_isNeeded_1 : List UInt8 := [58, 4, 5, 172, 3, 172]
abbrev dktX0_isNeeded_1 : List UInt8 := dkwX0_isNeeded_1 ++ []
def dkwX0_isNeeded_0 : List UInt8 := [45, 3, 42, 27, 28, 182, 0, 67, 153, 0, 7, 10, 167, 0, 4, 9, 80, 167, 0, 11, 58, 4, 4, 172]
abbrev dktX0_isNeeded_0 : List UInt8 := dkwX0_isNeeded_0 ++ dktX0_isNeeded_1
theorem dksX0_isNeeded_0 : cX0_isNeeded.data.toList.drop 0 = dktX0_isNeeded_0 := by decide +kernel
theorem dksX0_isNeeded_1 : cX0_isNeeded.data.toList.drop 24 = dktX0_isNeeded_1 := dk_seg dksX0_isNeeded_0 24 rfl rfl
theorem dX0_isNeeded_0 : decode cX0_isNeeded 0 = .ok (.aload_n 3, 1) := dk_45 (dk_at dksX0_isNeeded_0 0 rfl rfl)
theorem dX0_isNeeded_1 : decode cX0_isNeeded 1 = .ok (.iconst 0, 1) := dk_3 (dk_at dksX0_isNeeded_0 1 rfl rfl)
theorem dX0_isNeeded_2 : decode cX0_isNeeded 2 = .ok (.aload_n 0, 1) := dk_42 (dk_at dksX0_isNeeded_0 2 rfl rfl)
theorem dX0_isNeeded_3 : decode cX0_isNeeded 3 = .ok (.iload_n 1, 1) := dk_27 (dk_at dksX0_isNeeded_0 3 rfl rfl)
theorem dX0_isNeeded_4 : decode cX0_isNeeded 4 = .ok (.iload_n 2, 1) := dk_28 (dk_at dksX0_isNeeded_0 4 rfl rfl)
theorem dX0_isNeeded_5 : decode cX0_isNeeded 5 = .ok (.invokevirtual 67, 3) := dk_182 0 67 (dk_at dksX0_isNeeded_0 5 rfl rfl)
theorem dX0_isNeeded_8 : decode cX0_isNeeded 8 = .ok (.ifCond .eq 7, 3) := dk_153 0 7 (dk_at dksX0_isNeeded_0 8 rfl rfl)
theorem dX0_isNeeded_11 : decode cX0_isNeeded 11 = .ok (.lconst 1, 1) := dk_10 (dk_at dksX0_isNeeded_0 11 rfl rfl)
theorem dX0_isNeeded_12 : decode cX0_isNeeded 12 = .ok (.goto 4, 3) := dk_167 0 4 (dk_at dksX0_isNeeded_0 12 rfl rfl)
theorem dX0_isNeeded_15 : decode cX0_isNeeded 15 = .ok (.lconst 0, 1) := dk_9 (dk_at dksX0_isNeeded_0 15 rfl rfl)
theorem dX0_isNeeded_16 : decode cX0_isNeeded 16 = .ok (.lastore, 1) := dk_80 (dk_at dksX0_isNeeded_0 16 rfl rfl)
theorem dX0_isNeeded_17 : decode cX0_isNeeded 17 = .ok (.goto 11, 3) := dk_167 0 11 (dk_at dksX0_isNeeded_0 17 rfl rfl)
theorem dX0_isNeeded_20 : decode cX0_isNeeded 20 = .ok (.astore 4, 2) := dk_58 4 (dk_at dksX0_isNeeded_0 20 rfl rfl)
theorem dX0_isNeeded_22 : decode cX0_isNeeded 22 = .ok (.iconst 1, 1) := dk_4 (dk_at dksX0_isNeeded_0 22 rfl rfl)
theorem dX0_isNeeded_23 : decode cX0_isNeeded 23 = .ok (.ireturn, 1) := dk_172 (dk_at dksX0_isNeeded_0 23 rfl rfl)
theorem dX0_isNeeded_24 : decode cX0_isNeeded 24 = .ok (.astore 4, 2) := dk_58 4 (dk_at dksX0_isNeeded_1 0 rfl rfl)
theorem dX0_isNeeded_26 : decode cX0_isNeeded 26 = .ok (.iconst 2, 1) := dk_5 (dk_at dksX0_isNeeded_1 2 rfl rfl)
theorem dX0_isNeeded_27 : decode cX0_isNeeded 27 = .ok (.ireturn, 1) := dk_172 (dk_at dksX0_isNeeded_1 3 rfl rfl)
theorem dX0_isNeeded_28 : decode cX0_isNeeded 28 = .ok (.iconst 0, 1) := dk_3 (dk_at dksX0_isNeeded_1 4 rfl rfl)
theorem dX0_isNeeded_29 : decode cX0_isNeeded 29 = .ok (.ireturn, 1) := dk_172 (dk_at dksX0_isNeeded_1 5 rfl rfl)
abbrev cX0_closesIn : ByteArray := method_20_code
def yX0_closesIn : MethodName := ⟨RX0, "closesIn", "(LMazeBonds;II[J)I"⟩
def dkwX0_closesIn_0 : List UInt8 := [45, 3, 42, 27, 28, 182, 0, 70, 133, 80, 167, 0, 11, 58, 4, 4, 172, 58, 4, 5, 172, 3, 172]
abbrev dktX0_closesIn_0 : List UInt8 := dkwX0_closesIn_0 ++ []
theorem dksX0_closesIn_0 : cX0_closesIn.data.toList.drop 0 = dktX0_closesIn_0 := by decide +kernel
theorem dX0_closesIn_0 : decode cX0_closesIn 0 = .ok (.aload_n 3, 1) := dk_45 (dk_at dksX0_closesIn_0 0 rfl rfl)
theorem dX0_closesIn_1 : decode cX0_closesIn 1 = .ok (.iconst 0, 1) := dk_3 (dk_at dksX0_closesIn_0 1 rfl rfl)
theorem dX0_closesIn_2 : decode cX0_closesIn 2 = .ok (.aload_n 0, 1) := dk_42 (dk_at dksX0_closesIn_0 2 rfl rfl)
theorem dX0_closesIn_3 : decode cX0_closesIn 3 = .ok (.iload_n 1, 1) := dk_27 (dk_at dksX0_closesIn_0 3 rfl rfl)
theorem dX0_closesIn_4 : decode cX0_closesIn 4 = .ok (.iload_n 2, 1) := dk_28 (dk_at dksX0_closesIn_0 4 rfl rfl)
theorem dX0_closesIn_5 : decode cX0_closesIn 5 = .ok (.invokevirtual 70, 3) := dk_182 0 70 (dk_at dksX0_closesIn_0 5 rfl rfl)
theorem dX0_closesIn_8 : decode cX0_closesIn 8 = .ok (.i2l, 1) := dk_133 (dk_at dksX0_closesIn_0 8 rfl rfl)
theorem dX0_closesIn_9 : decode cX0_closesIn 9 = .ok (.lastore, 1) := dk_80 (dk_at dksX0_closesIn_0 9 rfl rfl)
theorem dX0_closesIn_10 : decode cX0_closesIn 10 = .ok (.goto 11, 3) := dk_167 0 11 (dk_at dksX0_closesIn_0 10 rfl rfl)
theorem dX0_closesIn_13 : decode cX0_closesIn 13 = .ok (.astore 4, 2) := dk_58 4 (dk_at dksX0_closesIn_0 13 rfl rfl)
theorem dX0_closesIn_15 : decode cX0_closesIn 15 = .ok (.iconst 1, 1) := dk_4 (dk_at dksX0_closesIn_0 15 rfl rfl)
theorem dX0_closesIn_16 : decode cX0_closesIn 16 = .ok (.ireturn, 1) := dk_172 (dk_at dksX0_closesIn_0 16 rfl rfl)
theorem dX0_closesIn_17 : decode cX0_closesIn 17 = .ok (.astore 4, 2) := dk_58 4 (dk_at dksX0_closesIn_0 17 rfl rfl)
theorem dX0_closesIn_19 : decode cX0_closesIn 19 = .ok (.iconst 2, 1) := dk_5 (dk_at dksX0_closesIn_0 19 rfl rfl)
theorem dX0_closesIn_20 : decode cX0_closesIn 20 = .ok (.ireturn, 1) := dk_172 (dk_at dksX0_closesIn_0 20 rfl rfl)
theorem dX0_closesIn_21 : decode cX0_closesIn 21 = .ok (.iconst 0, 1) := dk_3 (dk_at dksX0_closesIn_0 21 rfl rfl)
theorem dX0_closesIn_22 : decode cX0_closesIn 22 = .ok (.ireturn, 1) := dk_172 (dk_at dksX0_closesIn_0 22 rfl rfl)
abbrev cX0_gardenerOf : ByteArray := method_21_code
def yX0_gardenerOf : MethodName := ⟨RX0, "gardenerOf", "(LMazeBonds;II[J)I"⟩
def dkwX0_gardenerOf_0 : List UInt8 := [45, 3, 42, 27, 28, 182, 0, 73, 133, 80, 167, 0, 11, 58, 4, 4, 172, 58, 4, 5, 172, 3, 172]
abbrev dktX0_gardenerOf_0 : List UInt8 := dkwX0_gardenerOf_0 ++ []
theorem dksX0_gardenerOf_0 : cX0_gardenerOf.data.toList.drop 0 = dktX0_gardenerOf_0 := by decide +kernel
theorem dX0_gardenerOf_0 : decode cX0_gardenerOf 0 = .ok (.aload_n 3, 1) := dk_45 (dk_at dksX0_gardenerOf_0 0 rfl rfl)
theorem dX0_gardenerOf_1 : decode cX0_gardenerOf 1 = .ok (.iconst 0, 1) := dk_3 (dk_at dksX0_gardenerOf_0 1 rfl rfl)
theorem dX0_gardenerOf_2 : decode cX0_gardenerOf 2 = .ok (.aload_n 0, 1) := dk_42 (dk_at dksX0_gardenerOf_0 2 rfl rfl)
theorem dX0_gardenerOf_3 : decode cX0_gardenerOf 3 = .ok (.iload_n 1, 1) := dk_27 (dk_at dksX0_gardenerOf_0 3 rfl rfl)
theorem dX0_gardenerOf_4 : decode cX0_gardenerOf 4 = .ok (.iload_n 2, 1) := dk_28 (dk_at dksX0_gardenerOf_0 4 rfl rfl)
theorem dX0_gardenerOf_5 : decode cX0_gardenerOf 5 = .ok (.invokevirtual 73, 3) := dk_182 0 73 (dk_at dksX0_gardenerOf_0 5 rfl rfl)
theorem dX0_gardenerOf_8 : decode cX0_gardenerOf 8 = .ok (.i2l, 1) := dk_133 (dk_at dksX0_gardenerOf_0 8 rfl rfl)
theorem dX0_gardenerOf_9 : decode cX0_gardenerOf 9 = .ok (.lastore, 1) := dk_80 (dk_at dksX0_gardenerOf_0 9 rfl rfl)
theorem dX0_gardenerOf_10 : decode cX0_gardenerOf 10 = .ok (.goto 11, 3) := dk_167 0 11 (dk_at dksX0_gardenerOf_0 10 rfl rfl)
theorem dX0_gardenerOf_13 : decode cX0_gardenerOf 13 = .ok (.astore 4, 2) := dk_58 4 (dk_at dksX0_gardenerOf_0 13 rfl rfl)
theorem dX0_gardenerOf_15 : decode cX0_gardenerOf 15 = .ok (.iconst 1, 1) := dk_4 (dk_at dksX0_gardenerOf_0 15 rfl rfl)
theorem dX0_gardenerOf_16 : decode cX0_gardenerOf 16 = .ok (.ireturn, 1) := dk_172 (dk_at dksX0_gardenerOf_0 16 rfl rfl)
theorem dX0_gardenerOf_17 : decode cX0_gardenerOf 17 = .ok (.astore 4, 2) := dk_58 4 (dk_at dksX0_gardenerOf_0 17 rfl rfl)
theorem dX0_gardenerOf_19 : decode cX0_gardenerOf 19 = .ok (.iconst 2, 1) := dk_5 (dk_at dksX0_gardenerOf_0 19 rfl rfl)
theorem dX0_gardenerOf_20 : decode cX0_gardenerOf 20 = .ok (.ireturn, 1) := dk_172 (dk_at dksX0_gardenerOf_0 20 rfl rfl)
theorem dX0_gardenerOf_21 : decode cX0_gardenerOf 21 = .ok (.iconst 0, 1) := dk_3 (dk_at dksX0_gardenerOf_0 21 rfl rfl)
theorem dX0_gardenerOf_22 : decode cX0_gardenerOf 22 = .ok (.ireturn, 1) := dk_172 (dk_at dksX0_gardenerOf_0 22 rfl rfl)
abbrev cX0_visitorOf : ByteArray := method_22_code
def yX0_visitorOf : MethodName := ⟨RX0, "visitorOf", "(LMazeBonds;II[J)I"⟩
def dkwX0_visitorOf_0 : List UInt8 := [45, 3, 42, 27, 28, 182, 0, 78, 133, 80, 167, 0, 11, 58, 4, 4, 172, 58, 4, 5, 172, 3, 172]
abbrev dktX0_visitorOf_0 : List UInt8 := dkwX0_visitorOf_0 ++ []
theorem dksX0_visitorOf_0 : cX0_visitorOf.data.toList.drop 0 = dktX0_visitorOf_0 := by decide +kernel
theorem dX0_visitorOf_0 : decode cX0_visitorOf 0 = .ok (.aload_n 3, 1) := dk_45 (dk_at dksX0_visitorOf_0 0 rfl rfl)
theorem dX0_visitorOf_1 : decode cX0_visitorOf 1 = .ok (.iconst 0, 1) := dk_3 (dk_at dksX0_visitorOf_0 1 rfl rfl)
theorem dX0_visitorOf_2 : decode cX0_visitorOf 2 = .ok (.aload_n 0, 1) := dk_42 (dk_at dksX0_visitorOf_0 2 rfl rfl)
theorem dX0_visitorOf_3 : decode cX0_visitorOf 3 = .ok (.iload_n 1, 1) := dk_27 (dk_at dksX0_visitorOf_0 3 rfl rfl)
theorem dX0_visitorOf_4 : decode cX0_visitorOf 4 = .ok (.iload_n 2, 1) := dk_28 (dk_at dksX0_visitorOf_0 4 rfl rfl)
theorem dX0_visitorOf_5 : decode cX0_visitorOf 5 = .ok (.invokevirtual 78, 3) := dk_182 0 78 (dk_at dksX0_visitorOf_0 5 rfl rfl)
theorem dX0_visitorOf_8 : decode cX0_visitorOf 8 = .ok (.i2l, 1) := dk_133 (dk_at dksX0_visitorOf_0 8 rfl rfl)
theorem dX0_visitorOf_9 : decode cX0_visitorOf 9 = .ok (.lastore, 1) := dk_80 (dk_at dksX0_visitorOf_0 9 rfl rfl)
theorem dX0_visitorOf_10 : decode cX0_visitorOf 10 = .ok (.goto 11, 3) := dk_167 0 11 (dk_at dksX0_visitorOf_0 10 rfl rfl)
theorem dX0_visitorOf_13 : decode cX0_visitorOf 13 = .ok (.astore 4, 2) := dk_58 4 (dk_at dksX0_visitorOf_0 13 rfl rfl)
theorem dX0_visitorOf_15 : decode cX0_visitorOf 15 = .ok (.iconst 1, 1) := dk_4 (dk_at dksX0_visitorOf_0 15 rfl rfl)
theorem dX0_visitorOf_16 : decode cX0_visitorOf 16 = .ok (.ireturn, 1) := dk_172 (dk_at dksX0_visitorOf_0 16 rfl rfl)
theorem dX0_visitorOf_17 : decode cX0_visitorOf 17 = .ok (.astore 4, 2) := dk_58 4 (dk_at dksX0_visitorOf_0 17 rfl rfl)
theorem dX0_visitorOf_19 : decode cX0_visitorOf 19 = .ok (.iconst 2, 1) := dk_5 (dk_at dksX0_visitorOf_0 19 rfl rfl)
theorem dX0_visitorOf_20 : decode cX0_visitorOf 20 = .ok (.ireturn, 1) := dk_172 (dk_at dksX0_visitorOf_0 20 rfl rfl)
theorem dX0_visitorOf_21 : decode cX0_visitorOf 21 = .ok (.iconst 0, 1) := dk_3 (dk_at dksX0_visitorOf_0 21 rfl rfl)
theorem dX0_visitorOf_22 : decode cX0_visitorOf 22 = .ok (.ireturn, 1) := dk_172 (dk_at dksX0_visitorOf_0 22 rfl rfl)
abbrev cX0_wouldPay : ByteArray := method_23_code
def yX0_wouldPay : MethodName := ⟨RX0, "wouldPay", "(LMazeBonds;I[J)I"⟩
def dkwX0_wouldPay_0 : List UInt8 := [44, 3, 42, 27, 182, 0, 81, 133, 80, 167, 0, 9, 78, 4, 172, 78, 5, 172, 3, 172]
abbrev dktX0_wouldPay_0 : List UInt8 := dkwX0_wouldPay_0 ++ []
theorem dksX0_wouldPay_0 : cX0_wouldPay.data.toList.drop 0 = dktX0_wouldPay_0 := by decide +kernel
theorem dX0_wouldPay_0 : decode cX0_wouldPay 0 = .ok (.aload_n 2, 1) := dk_44 (dk_at dksX0_wouldPay_0 0 rfl rfl)
theorem dX0_wouldPay_1 : decode cX0_wouldPay 1 = .ok (.iconst 0, 1) := dk_3 (dk_at dksX0_wouldPay_0 1 rfl rfl)
theorem dX0_wouldPay_2 : decode cX0_wouldPay 2 = .ok (.aload_n 0, 1) := dk_42 (dk_at dksX0_wouldPay_0 2 rfl rfl)
theorem dX0_wouldPay_3 : decode cX0_wouldPay 3 = .ok (.iload_n 1, 1) := dk_27 (dk_at dksX0_wouldPay_0 3 rfl rfl)
theorem dX0_wouldPay_4 : decode cX0_wouldPay 4 = .ok (.invokevirtual 81, 3) := dk_182 0 81 (dk_at dksX0_wouldPay_0 4 rfl rfl)
theorem dX0_wouldPay_7 : decode cX0_wouldPay 7 = .ok (.i2l, 1) := dk_133 (dk_at dksX0_wouldPay_0 7 rfl rfl)
theorem dX0_wouldPay_8 : decode cX0_wouldPay 8 = .ok (.lastore, 1) := dk_80 (dk_at dksX0_wouldPay_0 8 rfl rfl)
theorem dX0_wouldPay_9 : decode cX0_wouldPay 9 = .ok (.goto 9, 3) := dk_167 0 9 (dk_at dksX0_wouldPay_0 9 rfl rfl)
theorem dX0_wouldPay_12 : decode cX0_wouldPay 12 = .ok (.astore_n 3, 1) := dk_78 (dk_at dksX0_wouldPay_0 12 rfl rfl)
theorem dX0_wouldPay_13 : decode cX0_wouldPay 13 = .ok (.iconst 1, 1) := dk_4 (dk_at dksX0_wouldPay_0 13 rfl rfl)
theorem dX0_wouldPay_14 : decode cX0_wouldPay 14 = .ok (.ireturn, 1) := dk_172 (dk_at dksX0_wouldPay_0 14 rfl rfl)
theorem dX0_wouldPay_15 : decode cX0_wouldPay 15 = .ok (.astore_n 3, 1) := dk_78 (dk_at dksX0_wouldPay_0 15 rfl rfl)
theorem dX0_wouldPay_16 : decode cX0_wouldPay 16 = .ok (.iconst 2, 1) := dk_5 (dk_at dksX0_wouldPay_0 16 rfl rfl)
theorem dX0_wouldPay_17 : decode cX0_wouldPay 17 = .ok (.ireturn, 1) := dk_172 (dk_at dksX0_wouldPay_0 17 rfl rfl)
theorem dX0_wouldPay_18 : decode cX0_wouldPay 18 = .ok (.iconst 0, 1) := dk_3 (dk_at dksX0_wouldPay_0 18 rfl rfl)
theorem dX0_wouldPay_19 : decode cX0_wouldPay 19 = .ok (.ireturn, 1) := dk_172 (dk_at dksX0_wouldPay_0 19 rfl rfl)
abbrev cX0_owed : ByteArray := method_24_code
def yX0_owed : MethodName := ⟨RX0, "owed", "(LMazeBonds;I[J)I"⟩
def dkwX0_owed_0 : List UInt8 := [44, 3, 42, 27, 182, 0, 84, 133, 80, 167, 0, 6, 78, 4, 172, 3, 172]
abbrev dktX0_owed_0 : List UInt8 := dkwX0_owed_0 ++ []
theorem dksX0_owed_0 : cX0_owed.data.toList.drop 0 = dktX0_owed_0 := by decide +kernel
theorem dX0_owed_0 : decode cX0_owed 0 = .ok (.aload_n 2, 1) := dk_44 (dk_at dksX0_owed_0 0 rfl rfl)
theorem dX0_owed_1 : decode cX0_owed 1 = .ok (.iconst 0, 1) := dk_3 (dk_at dksX0_owed_0 1 rfl rfl)
theorem dX0_owed_2 : decode cX0_owed 2 = .ok (.aload_n 0, 1) := dk_42 (dk_at dksX0_owed_0 2 rfl rfl)
theorem dX0_owed_3 : decode cX0_owed 3 = .ok (.iload_n 1, 1) := dk_27 (dk_at dksX0_owed_0 3 rfl rfl)
theorem dX0_owed_4 : decode cX0_owed 4 = .ok (.invokevirtual 84, 3) := dk_182 0 84 (dk_at dksX0_owed_0 4 rfl rfl)
theorem dX0_owed_7 : decode cX0_owed 7 = .ok (.i2l, 1) := dk_133 (dk_at dksX0_owed_0 7 rfl rfl)
theorem dX0_owed_8 : decode cX0_owed 8 = .ok (.lastore, 1) := dk_80 (dk_at dksX0_owed_0 8 rfl rfl)
theorem dX0_owed_9 : decode cX0_owed 9 = .ok (.goto 6, 3) := dk_167 0 6 (dk_at dksX0_owed_0 9 rfl rfl)
theorem dX0_owed_12 : decode cX0_owed 12 = .ok (.astore_n 3, 1) := dk_78 (dk_at dksX0_owed_0 12 rfl rfl)
theorem dX0_owed_13 : decode cX0_owed 13 = .ok (.iconst 1, 1) := dk_4 (dk_at dksX0_owed_0 13 rfl rfl)
theorem dX0_owed_14 : decode cX0_owed 14 = .ok (.ireturn, 1) := dk_172 (dk_at dksX0_owed_0 14 rfl rfl)
theorem dX0_owed_15 : decode cX0_owed 15 = .ok (.iconst 0, 1) := dk_3 (dk_at dksX0_owed_0 15 rfl rfl)
theorem dX0_owed_16 : decode cX0_owed 16 = .ok (.ireturn, 1) := dk_172 (dk_at dksX0_owed_0 16 rfl rfl)
abbrev cX0_ranked : ByteArray := method_25_code
def yX0_ranked : MethodName := ⟨RX0, "ranked", "(LMazeBonds;II[J)I"⟩
def dkwX0_ranked_0 : List UInt8 := [45, 3, 42, 27, 28, 182, 0, 87, 133, 80, 167, 0, 11, 58, 4, 4, 172, 58, 4, 5, 172, 3, 172]
abbrev dktX0_ranked_0 : List UInt8 := dkwX0_ranked_0 ++ []
theorem dksX0_ranked_0 : cX0_ranked.data.toList.drop 0 = dktX0_ranked_0 := by decide +kernel
theorem dX0_ranked_0 : decode cX0_ranked 0 = .ok (.aload_n 3, 1) := dk_45 (dk_at dksX0_ranked_0 0 rfl rfl)
theorem dX0_ranked_1 : decode cX0_ranked 1 = .ok (.iconst 0, 1) := dk_3 (dk_at dksX0_ranked_0 1 rfl rfl)
theorem dX0_ranked_2 : decode cX0_ranked 2 = .ok (.aload_n 0, 1) := dk_42 (dk_at dksX0_ranked_0 2 rfl rfl)
theorem dX0_ranked_3 : decode cX0_ranked 3 = .ok (.iload_n 1, 1) := dk_27 (dk_at dksX0_ranked_0 3 rfl rfl)
theorem dX0_ranked_4 : decode cX0_ranked 4 = .ok (.iload_n 2, 1) := dk_28 (dk_at dksX0_ranked_0 4 rfl rfl)
theorem dX0_ranked_5 : decode cX0_ranked 5 = .ok (.invokevirtual 87, 3) := dk_182 0 87 (dk_at dksX0_ranked_0 5 rfl rfl)
theorem dX0_ranked_8 : decode cX0_ranked 8 = .ok (.i2l, 1) := dk_133 (dk_at dksX0_ranked_0 8 rfl rfl)
theorem dX0_ranked_9 : decode cX0_ranked 9 = .ok (.lastore, 1) := dk_80 (dk_at dksX0_ranked_0 9 rfl rfl)
theorem dX0_ranked_10 : decode cX0_ranked 10 = .ok (.goto 11, 3) := dk_167 0 11 (dk_at dksX0_ranked_0 10 rfl rfl)
theorem dX0_ranked_13 : decode cX0_ranked 13 = .ok (.astore 4, 2) := dk_58 4 (dk_at dksX0_ranked_0 13 rfl rfl)
theorem dX0_ranked_15 : decode cX0_ranked 15 = .ok (.iconst 1, 1) := dk_4 (dk_at dksX0_ranked_0 15 rfl rfl)
theorem dX0_ranked_16 : decode cX0_ranked 16 = .ok (.ireturn, 1) := dk_172 (dk_at dksX0_ranked_0 16 rfl rfl)
theorem dX0_ranked_17 : decode cX0_ranked 17 = .ok (.astore 4, 2) := dk_58 4 (dk_at dksX0_ranked_0 17 rfl rfl)
theorem dX0_ranked_19 : decode cX0_ranked 19 = .ok (.iconst 2, 1) := dk_5 (dk_at dksX0_ranked_0 19 rfl rfl)
theorem dX0_ranked_20 : decode cX0_ranked 20 = .ok (.ireturn, 1) := dk_172 (dk_at dksX0_ranked_0 20 rfl rfl)
theorem dX0_ranked_21 : decode cX0_ranked 21 = .ok (.iconst 0, 1) := dk_3 (dk_at dksX0_ranked_0 21 rfl rfl)
theorem dX0_ranked_22 : decode cX0_ranked 22 = .ok (.ireturn, 1) := dk_172 (dk_at dksX0_ranked_0 22 rfl rfl)
abbrev cX0_richest : ByteArray := method_26_code
def yX0_richest : MethodName := ⟨RX0, "richest", "(LMazeBonds;I[J)I"⟩
def dkwX0_richest_0 : List UInt8 := [44, 3, 42, 27, 182, 0, 90, 133, 80, 167, 0, 6, 78, 4, 172, 3, 172]
abbrev dktX0_richest_0 : List UInt8 := dkwX0_richest_0 ++ []
theorem dksX0_richest_0 : cX0_richest.data.toList.drop 0 = dktX0_richest_0 := by decide +kernel
theorem dX0_richest_0 : decode cX0_richest 0 = .ok (.aload_n 2, 1) := dk_44 (dk_at dksX0_richest_0 0 rfl rfl)
theorem dX0_richest_1 : decode cX0_richest 1 = .ok (.iconst 0, 1) := dk_3 (dk_at dksX0_richest_0 1 rfl rfl)
theorem dX0_richest_2 : decode cX0_richest 2 = .ok (.aload_n 0, 1) := dk_42 (dk_at dksX0_richest_0 2 rfl rfl)
theorem dX0_richest_3 : decode cX0_richest 3 = .ok (.iload_n 1, 1) := dk_27 (dk_at dksX0_richest_0 3 rfl rfl)
theorem dX0_richest_4 : decode cX0_richest 4 = .ok (.invokevirtual 90, 3) := dk_182 0 90 (dk_at dksX0_richest_0 4 rfl rfl)
theorem dX0_richest_7 : decode cX0_richest 7 = .ok (.i2l, 1) := dk_133 (dk_at dksX0_richest_0 7 rfl rfl)
theorem dX0_richest_8 : decode cX0_richest 8 = .ok (.lastore, 1) := dk_80 (dk_at dksX0_richest_0 8 rfl rfl)
theorem dX0_richest_9 : decode cX0_richest 9 = .ok (.goto 6, 3) := dk_167 0 6 (dk_at dksX0_richest_0 9 rfl rfl)
theorem dX0_richest_12 : decode cX0_richest 12 = .ok (.astore_n 3, 1) := dk_78 (dk_at dksX0_richest_0 12 rfl rfl)
theorem dX0_richest_13 : decode cX0_richest 13 = .ok (.iconst 1, 1) := dk_4 (dk_at dksX0_richest_0 13 rfl rfl)
theorem dX0_richest_14 : decode cX0_richest 14 = .ok (.ireturn, 1) := dk_172 (dk_at dksX0_richest_0 14 rfl rfl)
theorem dX0_richest_15 : decode cX0_richest 15 = .ok (.iconst 0, 1) := dk_3 (dk_at dksX0_richest_0 15 rfl rfl)
theorem dX0_richest_16 : decode cX0_richest 16 = .ok (.ireturn, 1) := dk_172 (dk_at dksX0_richest_0 16 rfl rfl)
abbrev cX0_append : ByteArray := method_27_code
def yX0_append : MethodName := ⟨RX0, "append", "(LMazeBonds;C[J)I"⟩
def dkwX0_append_0 : List UInt8 := [44, 3, 42, 27, 182, 0, 93, 133, 80, 167, 0, 6, 78, 4, 172, 3, 172]
abbrev dktX0_append_0 : List UInt8 := dkwX0_append_0 ++ []
theorem dksX0_append_0 : cX0_append.data.toList.drop 0 = dktX0_append_0 := by decide +kernel
theorem dX0_append_0 : decode cX0_append 0 = .ok (.aload_n 2, 1) := dk_44 (dk_at dksX0_append_0 0 rfl rfl)
theorem dX0_append_1 : decode cX0_append 1 = .ok (.iconst 0, 1) := dk_3 (dk_at dksX0_append_0 1 rfl rfl)
theorem dX0_append_2 : decode cX0_append 2 = .ok (.aload_n 0, 1) := dk_42 (dk_at dksX0_append_0 2 rfl rfl)
theorem dX0_append_3 : decode cX0_append 3 = .ok (.iload_n 1, 1) := dk_27 (dk_at dksX0_append_0 3 rfl rfl)
theorem dX0_append_4 : decode cX0_append 4 = .ok (.invokevirtual 93, 3) := dk_182 0 93 (dk_at dksX0_append_0 4 rfl rfl)
theorem dX0_append_7 : decode cX0_append 7 = .ok (.i2l, 1) := dk_133 (dk_at dksX0_append_0 7 rfl rfl)
theorem dX0_append_8 : decode cX0_append 8 = .ok (.lastore, 1) := dk_80 (dk_at dksX0_append_0 8 rfl rfl)
theorem dX0_append_9 : decode cX0_append 9 = .ok (.goto 6, 3) := dk_167 0 6 (dk_at dksX0_append_0 9 rfl rfl)
theorem dX0_append_12 : decode cX0_append 12 = .ok (.astore_n 3, 1) := dk_78 (dk_at dksX0_append_0 12 rfl rfl)
theorem dX0_append_13 : decode cX0_append 13 = .ok (.iconst 1, 1) := dk_4 (dk_at dksX0_append_0 13 rfl rfl)
theorem dX0_append_14 : decode cX0_append 14 = .ok (.ireturn, 1) := dk_172 (dk_at dksX0_append_0 14 rfl rfl)
theorem dX0_append_15 : decode cX0_append 15 = .ok (.iconst 0, 1) := dk_3 (dk_at dksX0_append_0 15 rfl rfl)
theorem dX0_append_16 : decode cX0_append 16 = .ok (.ireturn, 1) := dk_172 (dk_at dksX0_append_0 16 rfl rfl)
abbrev cX0_commands : ByteArray := method_28_code
def yX0_commands : MethodName := ⟨RX0, "commands", "(LMazeBonds;[J)I"⟩
def dkwX0_commands_0 : List UInt8 := [43, 3, 42, 182, 0, 99, 133, 80, 167, 0, 9, 77, 4, 172, 77, 5, 172, 3, 172]
abbrev dktX0_commands_0 : List UInt8 := dkwX0_commands_0 ++ []
theorem dksX0_commands_0 : cX0_commands.data.toList.drop 0 = dktX0_commands_0 := by decide +kernel
theorem dX0_commands_0 : decode cX0_commands 0 = .ok (.aload_n 1, 1) := dk_43 (dk_at dksX0_commands_0 0 rfl rfl)
theorem dX0_commands_1 : decode cX0_commands 1 = .ok (.iconst 0, 1) := dk_3 (dk_at dksX0_commands_0 1 rfl rfl)
theorem dX0_commands_2 : decode cX0_commands 2 = .ok (.aload_n 0, 1) := dk_42 (dk_at dksX0_commands_0 2 rfl rfl)
theorem dX0_commands_3 : decode cX0_commands 3 = .ok (.invokevirtual 99, 3) := dk_182 0 99 (dk_at dksX0_commands_0 3 rfl rfl)
theorem dX0_commands_6 : decode cX0_commands 6 = .ok (.i2l, 1) := dk_133 (dk_at dksX0_commands_0 6 rfl rfl)
theorem dX0_commands_7 : decode cX0_commands 7 = .ok (.lastore, 1) := dk_80 (dk_at dksX0_commands_0 7 rfl rfl)
theorem dX0_commands_8 : decode cX0_commands 8 = .ok (.goto 9, 3) := dk_167 0 9 (dk_at dksX0_commands_0 8 rfl rfl)
theorem dX0_commands_11 : decode cX0_commands 11 = .ok (.astore_n 2, 1) := dk_77 (dk_at dksX0_commands_0 11 rfl rfl)
theorem dX0_commands_12 : decode cX0_commands 12 = .ok (.iconst 1, 1) := dk_4 (dk_at dksX0_commands_0 12 rfl rfl)
theorem dX0_commands_13 : decode cX0_commands 13 = .ok (.ireturn, 1) := dk_172 (dk_at dksX0_commands_0 13 rfl rfl)
theorem dX0_commands_14 : decode cX0_commands 14 = .ok (.astore_n 2, 1) := dk_77 (dk_at dksX0_commands_0 14 rfl rfl)
theorem dX0_commands_15 : decode cX0_commands 15 = .ok (.iconst 2, 1) := dk_5 (dk_at dksX0_commands_0 15 rfl rfl)
theorem dX0_commands_16 : decode cX0_commands 16 = .ok (.ireturn, 1) := dk_172 (dk_at dksX0_commands_0 16 rfl rfl)
theorem dX0_commands_17 : decode cX0_commands 17 = .ok (.iconst 0, 1) := dk_3 (dk_at dksX0_commands_0 17 rfl rfl)
theorem dX0_commands_18 : decode cX0_commands 18 = .ok (.ireturn, 1) := dk_172 (dk_at dksX0_commands_0 18 rfl rfl)
abbrev cX0_reason : ByteArray := method_29_code
def yX0_reason : MethodName := ⟨RX0, "reason", "(LMazeBonds;I[J)I"⟩
def dkwX0_reason_0 : List UInt8 := [44, 3, 42, 27, 182, 0, 103, 133, 80, 167, 0, 9, 78, 4, 172, 78, 5, 172, 3, 172]
abbrev dktX0_reason_0 : List UInt8 := dkwX0_reason_0 ++ []
theorem dksX0_reason_0 : cX0_reason.data.toList.drop 0 = dktX0_reason_0 := by decide +kernel
theorem dX0_reason_0 : decode cX0_reason 0 = .ok (.aload_n 2, 1) := dk_44 (dk_at dksX0_reason_0 0 rfl rfl)
theorem dX0_reason_1 : decode cX0_reason 1 = .ok (.iconst 0, 1) := dk_3 (dk_at dksX0_reason_0 1 rfl rfl)
theorem dX0_reason_2 : decode cX0_reason 2 = .ok (.aload_n 0, 1) := dk_42 (dk_at dksX0_reason_0 2 rfl rfl)
theorem dX0_reason_3 : decode cX0_reason 3 = .ok (.iload_n 1, 1) := dk_27 (dk_at dksX0_reason_0 3 rfl rfl)
theorem dX0_reason_4 : decode cX0_reason 4 = .ok (.invokevirtual 103, 3) := dk_182 0 103 (dk_at dksX0_reason_0 4 rfl rfl)
theorem dX0_reason_7 : decode cX0_reason 7 = .ok (.i2l, 1) := dk_133 (dk_at dksX0_reason_0 7 rfl rfl)
theorem dX0_reason_8 : decode cX0_reason 8 = .ok (.lastore, 1) := dk_80 (dk_at dksX0_reason_0 8 rfl rfl)
theorem dX0_reason_9 : decode cX0_reason 9 = .ok (.goto 9, 3) := dk_167 0 9 (dk_at dksX0_reason_0 9 rfl rfl)
theorem dX0_reason_12 : decode cX0_reason 12 = .ok (.astore_n 3, 1) := dk_78 (dk_at dksX0_reason_0 12 rfl rfl)
theorem dX0_reason_13 : decode cX0_reason 13 = .ok (.iconst 1, 1) := dk_4 (dk_at dksX0_reason_0 13 rfl rfl)
theorem dX0_reason_14 : decode cX0_reason 14 = .ok (.ireturn, 1) := dk_172 (dk_at dksX0_reason_0 14 rfl rfl)
theorem dX0_reason_15 : decode cX0_reason 15 = .ok (.astore_n 3, 1) := dk_78 (dk_at dksX0_reason_0 15 rfl rfl)
theorem dX0_reason_16 : decode cX0_reason 16 = .ok (.iconst 2, 1) := dk_5 (dk_at dksX0_reason_0 16 rfl rfl)
theorem dX0_reason_17 : decode cX0_reason 17 = .ok (.ireturn, 1) := dk_172 (dk_at dksX0_reason_0 17 rfl rfl)
theorem dX0_reason_18 : decode cX0_reason 18 = .ok (.iconst 0, 1) := dk_3 (dk_at dksX0_reason_0 18 rfl rfl)
theorem dX0_reason_19 : decode cX0_reason 19 = .ok (.ireturn, 1) := dk_172 (dk_at dksX0_reason_0 19 rfl rfl)
abbrev cX0_line : ByteArray := method_30_code
def yX0_line : MethodName := ⟨RX0, "line", "(LMazeBonds;I[J)I"⟩
def dkwX0_line_0 : List UInt8 := [44, 3, 42, 27, 182, 0, 106, 133, 80, 167, 0, 6, 78, 4, 172, 3, 172]
abbrev dktX0_line_0 : List UInt8 := dkwX0_line_0 ++ []
theorem dksX0_line_0 : cX0_line.data.toList.drop 0 = dktX0_line_0 := by decide +kernel
theorem dX0_line_0 : decode cX0_line 0 = .ok (.aload_n 2, 1) := dk_44 (dk_at dksX0_line_0 0 rfl rfl)
theorem dX0_line_1 : decode cX0_line 1 = .ok (.iconst 0, 1) := dk_3 (dk_at dksX0_line_0 1 rfl rfl)
theorem dX0_line_2 : decode cX0_line 2 = .ok (.aload_n 0, 1) := dk_42 (dk_at dksX0_line_0 2 rfl rfl)
theorem dX0_line_3 : decode cX0_line 3 = .ok (.iload_n 1, 1) := dk_27 (dk_at dksX0_line_0 3 rfl rfl)
theorem dX0_line_4 : decode cX0_line 4 = .ok (.invokevirtual 106, 3) := dk_182 0 106 (dk_at dksX0_line_0 4 rfl rfl)
theorem dX0_line_7 : decode cX0_line 7 = .ok (.i2l, 1) := dk_133 (dk_at dksX0_line_0 7 rfl rfl)
theorem dX0_line_8 : decode cX0_line 8 = .ok (.lastore, 1) := dk_80 (dk_at dksX0_line_0 8 rfl rfl)
theorem dX0_line_9 : decode cX0_line 9 = .ok (.goto 6, 3) := dk_167 0 6 (dk_at dksX0_line_0 9 rfl rfl)
theorem dX0_line_12 : decode cX0_line 12 = .ok (.astore_n 3, 1) := dk_78 (dk_at dksX0_line_0 12 rfl rfl)
theorem dX0_line_13 : decode cX0_line 13 = .ok (.iconst 1, 1) := dk_4 (dk_at dksX0_line_0 13 rfl rfl)
theorem dX0_line_14 : decode cX0_line 14 = .ok (.ireturn, 1) := dk_172 (dk_at dksX0_line_0 14 rfl rfl)
theorem dX0_line_15 : decode cX0_line 15 = .ok (.iconst 0, 1) := dk_3 (dk_at dksX0_line_0 15 rfl rfl)
theorem dX0_line_16 : decode cX0_line 16 = .ok (.ireturn, 1) := dk_172 (dk_at dksX0_line_0 16 rfl rfl)
abbrev cX0_row : ByteArray := method_31_code
def yX0_row : MethodName := ⟨RX0, "row", "(LMazeBonds;I[J)I"⟩
def dkwX0_row_0 : List UInt8 := [44, 3, 42, 27, 182, 0, 109, 133, 80, 167, 0, 6, 78, 4, 172, 3, 172]
abbrev dktX0_row_0 : List UInt8 := dkwX0_row_0 ++ []
theorem dksX0_row_0 : cX0_row.data.toList.drop 0 = dktX0_row_0 := by decide +kernel
theorem dX0_row_0 : decode cX0_row 0 = .ok (.aload_n 2, 1) := dk_44 (dk_at dksX0_row_0 0 rfl rfl)
theorem dX0_row_1 : decode cX0_row 1 = .ok (.iconst 0, 1) := dk_3 (dk_at dksX0_row_0 1 rfl rfl)
theorem dX0_row_2 : decode cX0_row 2 = .ok (.aload_n 0, 1) := dk_42 (dk_at dksX0_row_0 2 rfl rfl)
theorem dX0_row_3 : decode cX0_row 3 = .ok (.iload_n 1, 1) := dk_27 (dk_at dksX0_row_0 3 rfl rfl)
theorem dX0_row_4 : decode cX0_row 4 = .ok (.invokevirtual 109, 3) := dk_182 0 109 (dk_at dksX0_row_0 4 rfl rfl)
theorem dX0_row_7 : decode cX0_row 7 = .ok (.i2l, 1) := dk_133 (dk_at dksX0_row_0 7 rfl rfl)
theorem dX0_row_8 : decode cX0_row 8 = .ok (.lastore, 1) := dk_80 (dk_at dksX0_row_0 8 rfl rfl)
theorem dX0_row_9 : decode cX0_row 9 = .ok (.goto 6, 3) := dk_167 0 6 (dk_at dksX0_row_0 9 rfl rfl)
theorem dX0_row_12 : decode cX0_row 12 = .ok (.astore_n 3, 1) := dk_78 (dk_at dksX0_row_0 12 rfl rfl)
theorem dX0_row_13 : decode cX0_row 13 = .ok (.iconst 1, 1) := dk_4 (dk_at dksX0_row_0 13 rfl rfl)
theorem dX0_row_14 : decode cX0_row 14 = .ok (.ireturn, 1) := dk_172 (dk_at dksX0_row_0 14 rfl rfl)
theorem dX0_row_15 : decode cX0_row 15 = .ok (.iconst 0, 1) := dk_3 (dk_at dksX0_row_0 15 rfl rfl)
theorem dX0_row_16 : decode cX0_row 16 = .ok (.ireturn, 1) := dk_172 (dk_at dksX0_row_0 16 rfl rfl)
abbrev cX0_character : ByteArray := method_32_code
def yX0_character : MethodName := ⟨RX0, "character", "(LMazeBonds;I[J)I"⟩
def dkwX0_character_0 : List UInt8 := [44, 3, 42, 27, 182, 0, 112, 133, 80, 167, 0, 6, 78, 4, 172, 3, 172]
abbrev dktX0_character_0 : List UInt8 := dkwX0_character_0 ++ []
theorem dksX0_character_0 : cX0_character.data.toList.drop 0 = dktX0_character_0 := by decide +kernel
theorem dX0_character_0 : decode cX0_character 0 = .ok (.aload_n 2, 1) := dk_44 (dk_at dksX0_character_0 0 rfl rfl)
theorem dX0_character_1 : decode cX0_character 1 = .ok (.iconst 0, 1) := dk_3 (dk_at dksX0_character_0 1 rfl rfl)
theorem dX0_character_2 : decode cX0_character 2 = .ok (.aload_n 0, 1) := dk_42 (dk_at dksX0_character_0 2 rfl rfl)
theorem dX0_character_3 : decode cX0_character 3 = .ok (.iload_n 1, 1) := dk_27 (dk_at dksX0_character_0 3 rfl rfl)
theorem dX0_character_4 : decode cX0_character 4 = .ok (.invokevirtual 112, 3) := dk_182 0 112 (dk_at dksX0_character_0 4 rfl rfl)
theorem dX0_character_7 : decode cX0_character 7 = .ok (.i2l, 1) := dk_133 (dk_at dksX0_character_0 7 rfl rfl)
theorem dX0_character_8 : decode cX0_character 8 = .ok (.lastore, 1) := dk_80 (dk_at dksX0_character_0 8 rfl rfl)
theorem dX0_character_9 : decode cX0_character 9 = .ok (.goto 6, 3) := dk_167 0 6 (dk_at dksX0_character_0 9 rfl rfl)
theorem dX0_character_12 : decode cX0_character 12 = .ok (.astore_n 3, 1) := dk_78 (dk_at dksX0_character_0 12 rfl rfl)
theorem dX0_character_13 : decode cX0_character 13 = .ok (.iconst 1, 1) := dk_4 (dk_at dksX0_character_0 13 rfl rfl)
theorem dX0_character_14 : decode cX0_character 14 = .ok (.ireturn, 1) := dk_172 (dk_at dksX0_character_0 14 rfl rfl)
theorem dX0_character_15 : decode cX0_character 15 = .ok (.iconst 0, 1) := dk_3 (dk_at dksX0_character_0 15 rfl rfl)
theorem dX0_character_16 : decode cX0_character 16 = .ok (.ireturn, 1) := dk_172 (dk_at dksX0_character_0 16 rfl rfl)
abbrev cX0_meanLost : ByteArray := method_33_code
def yX0_meanLost : MethodName := ⟨RX0, "meanLost", "(LMazeBonds;[D)I"⟩
def dkwX0_meanLost_0 : List UInt8 := [43, 3, 42, 182, 0, 116, 82, 167, 0, 6, 77, 4, 172, 3, 172]
abbrev dktX0_meanLost_0 : List UInt8 := dkwX0_meanLost_0 ++ []
theorem dksX0_meanLost_0 : cX0_meanLost.data.toList.drop 0 = dktX0_meanLost_0 := by decide +kernel
theorem dX0_meanLost_0 : decode cX0_meanLost 0 = .ok (.aload_n 1, 1) := dk_43 (dk_at dksX0_meanLost_0 0 rfl rfl)
theorem dX0_meanLost_1 : decode cX0_meanLost 1 = .ok (.iconst 0, 1) := dk_3 (dk_at dksX0_meanLost_0 1 rfl rfl)
theorem dX0_meanLost_2 : decode cX0_meanLost 2 = .ok (.aload_n 0, 1) := dk_42 (dk_at dksX0_meanLost_0 2 rfl rfl)
theorem dX0_meanLost_3 : decode cX0_meanLost 3 = .ok (.invokevirtual 116, 3) := dk_182 0 116 (dk_at dksX0_meanLost_0 3 rfl rfl)
theorem dX0_meanLost_6 : decode cX0_meanLost 6 = .ok (.dastore, 1) := dk_82 (dk_at dksX0_meanLost_0 6 rfl rfl)
theorem dX0_meanLost_7 : decode cX0_meanLost 7 = .ok (.goto 6, 3) := dk_167 0 6 (dk_at dksX0_meanLost_0 7 rfl rfl)
theorem dX0_meanLost_10 : decode cX0_meanLost 10 = .ok (.astore_n 2, 1) := dk_77 (dk_at dksX0_meanLost_0 10 rfl rfl)
theorem dX0_meanLost_11 : decode cX0_meanLost 11 = .ok (.iconst 1, 1) := dk_4 (dk_at dksX0_meanLost_0 11 rfl rfl)
theorem dX0_meanLost_12 : decode cX0_meanLost 12 = .ok (.ireturn, 1) := dk_172 (dk_at dksX0_meanLost_0 12 rfl rfl)
theorem dX0_meanLost_13 : decode cX0_meanLost 13 = .ok (.iconst 0, 1) := dk_3 (dk_at dksX0_meanLost_0 13 rfl rfl)
theorem dX0_meanLost_14 : decode cX0_meanLost 14 = .ok (.ireturn, 1) := dk_172 (dk_at dksX0_meanLost_0 14 rfl rfl)
abbrev cX0_account : ByteArray := method_34_code
def yX0_account : MethodName := ⟨RX0, "account", "(LMazeBonds;I[J)I"⟩
def dkwX0_account_0 : List UInt8 := [44, 3, 42, 27, 182, 0, 122, 133, 80, 167, 0, 6, 78, 4, 172, 3, 172]
abbrev dktX0_account_0 : List UInt8 := dkwX0_account_0 ++ []
theorem dksX0_account_0 : cX0_account.data.toList.drop 0 = dktX0_account_0 := by decide +kernel
theorem dX0_account_0 : decode cX0_account 0 = .ok (.aload_n 2, 1) := dk_44 (dk_at dksX0_account_0 0 rfl rfl)
theorem dX0_account_1 : decode cX0_account 1 = .ok (.iconst 0, 1) := dk_3 (dk_at dksX0_account_0 1 rfl rfl)
theorem dX0_account_2 : decode cX0_account 2 = .ok (.aload_n 0, 1) := dk_42 (dk_at dksX0_account_0 2 rfl rfl)
theorem dX0_account_3 : decode cX0_account 3 = .ok (.iload_n 1, 1) := dk_27 (dk_at dksX0_account_0 3 rfl rfl)
theorem dX0_account_4 : decode cX0_account 4 = .ok (.invokevirtual 122, 3) := dk_182 0 122 (dk_at dksX0_account_0 4 rfl rfl)
theorem dX0_account_7 : decode cX0_account 7 = .ok (.i2l, 1) := dk_133 (dk_at dksX0_account_0 7 rfl rfl)
theorem dX0_account_8 : decode cX0_account 8 = .ok (.lastore, 1) := dk_80 (dk_at dksX0_account_0 8 rfl rfl)
theorem dX0_account_9 : decode cX0_account 9 = .ok (.goto 6, 3) := dk_167 0 6 (dk_at dksX0_account_0 9 rfl rfl)
theorem dX0_account_12 : decode cX0_account 12 = .ok (.astore_n 3, 1) := dk_78 (dk_at dksX0_account_0 12 rfl rfl)
theorem dX0_account_13 : decode cX0_account 13 = .ok (.iconst 1, 1) := dk_4 (dk_at dksX0_account_0 13 rfl rfl)
theorem dX0_account_14 : decode cX0_account 14 = .ok (.ireturn, 1) := dk_172 (dk_at dksX0_account_0 14 rfl rfl)
theorem dX0_account_15 : decode cX0_account 15 = .ok (.iconst 0, 1) := dk_3 (dk_at dksX0_account_0 15 rfl rfl)
theorem dX0_account_16 : decode cX0_account 16 = .ok (.ireturn, 1) := dk_172 (dk_at dksX0_account_0 16 rfl rfl)
abbrev cX0_undo : ByteArray := method_35_code
def yX0_undo : MethodName := ⟨RX0, "undo", "(LMazeBonds;[J)I"⟩
def dkwX0_undo_0 : List UInt8 := [43, 3, 42, 182, 0, 125, 133, 80, 167, 0, 6, 77, 4, 172, 3, 172]
abbrev dktX0_undo_0 : List UInt8 := dkwX0_undo_0 ++ []
theorem dksX0_undo_0 : cX0_undo.data.toList.drop 0 = dktX0_undo_0 := by decide +kernel
theorem dX0_undo_0 : decode cX0_undo 0 = .ok (.aload_n 1, 1) := dk_43 (dk_at dksX0_undo_0 0 rfl rfl)
theorem dX0_undo_1 : decode cX0_undo 1 = .ok (.iconst 0, 1) := dk_3 (dk_at dksX0_undo_0 1 rfl rfl)
theorem dX0_undo_2 : decode cX0_undo 2 = .ok (.aload_n 0, 1) := dk_42 (dk_at dksX0_undo_0 2 rfl rfl)
theorem dX0_undo_3 : decode cX0_undo 3 = .ok (.invokevirtual 125, 3) := dk_182 0 125 (dk_at dksX0_undo_0 3 rfl rfl)
theorem dX0_undo_6 : decode cX0_undo 6 = .ok (.i2l, 1) := dk_133 (dk_at dksX0_undo_0 6 rfl rfl)
theorem dX0_undo_7 : decode cX0_undo 7 = .ok (.lastore, 1) := dk_80 (dk_at dksX0_undo_0 7 rfl rfl)
theorem dX0_undo_8 : decode cX0_undo 8 = .ok (.goto 6, 3) := dk_167 0 6 (dk_at dksX0_undo_0 8 rfl rfl)
theorem dX0_undo_11 : decode cX0_undo 11 = .ok (.astore_n 2, 1) := dk_77 (dk_at dksX0_undo_0 11 rfl rfl)
theorem dX0_undo_12 : decode cX0_undo 12 = .ok (.iconst 1, 1) := dk_4 (dk_at dksX0_undo_0 12 rfl rfl)
theorem dX0_undo_13 : decode cX0_undo 13 = .ok (.ireturn, 1) := dk_172 (dk_at dksX0_undo_0 13 rfl rfl)
theorem dX0_undo_14 : decode cX0_undo 14 = .ok (.iconst 0, 1) := dk_3 (dk_at dksX0_undo_0 14 rfl rfl)
theorem dX0_undo_15 : decode cX0_undo 15 = .ok (.ireturn, 1) := dk_172 (dk_at dksX0_undo_0 15 rfl rfl)
abbrev cX0_restore : ByteArray := method_36_code
def yX0_restore : MethodName := ⟨RX0, "restore", "(LMazeBonds;[J)I"⟩
def dkwX0_restore_0 : List UInt8 := [43, 3, 42, 182, 0, 128, 133, 80, 167, 0, 6, 77, 4, 172, 3, 172]
abbrev dktX0_restore_0 : List UInt8 := dkwX0_restore_0 ++ []
theorem dksX0_restore_0 : cX0_restore.data.toList.drop 0 = dktX0_restore_0 := by decide +kernel
theorem dX0_restore_0 : decode cX0_restore 0 = .ok (.aload_n 1, 1) := dk_43 (dk_at dksX0_restore_0 0 rfl rfl)
theorem dX0_restore_1 : decode cX0_restore 1 = .ok (.iconst 0, 1) := dk_3 (dk_at dksX0_restore_0 1 rfl rfl)
theorem dX0_restore_2 : decode cX0_restore 2 = .ok (.aload_n 0, 1) := dk_42 (dk_at dksX0_restore_0 2 rfl rfl)
theorem dX0_restore_3 : decode cX0_restore 3 = .ok (.invokevirtual 128, 3) := dk_182 0 128 (dk_at dksX0_restore_0 3 rfl rfl)
theorem dX0_restore_6 : decode cX0_restore 6 = .ok (.i2l, 1) := dk_133 (dk_at dksX0_restore_0 6 rfl rfl)
theorem dX0_restore_7 : decode cX0_restore 7 = .ok (.lastore, 1) := dk_80 (dk_at dksX0_restore_0 7 rfl rfl)
theorem dX0_restore_8 : decode cX0_restore 8 = .ok (.goto 6, 3) := dk_167 0 6 (dk_at dksX0_restore_0 8 rfl rfl)
theorem dX0_restore_11 : decode cX0_restore 11 = .ok (.astore_n 2, 1) := dk_77 (dk_at dksX0_restore_0 11 rfl rfl)
theorem dX0_restore_12 : decode cX0_restore 12 = .ok (.iconst 1, 1) := dk_4 (dk_at dksX0_restore_0 12 rfl rfl)
theorem dX0_restore_13 : decode cX0_restore 13 = .ok (.ireturn, 1) := dk_172 (dk_at dksX0_restore_0 13 rfl rfl)
theorem dX0_restore_14 : decode cX0_restore 14 = .ok (.iconst 0, 1) := dk_3 (dk_at dksX0_restore_0 14 rfl rfl)
theorem dX0_restore_15 : decode cX0_restore 15 = .ok (.ireturn, 1) := dk_172 (dk_at dksX0_restore_0 15 rfl rfl)
theorem q71 : (Jvm.Cond.initialized "MazeBondsLaw") ∈ lw_all := lw_g (lw_at lw_m1 0 rfl) rfl
theorem q110 : (Jvm.Cond.classLink "MazeBondsLaw" (8 : Nat) "MazeBonds") ∈ lw_all := lw_g (lw_at lw_m1 39 rfl) rfl
theorem q112 : (Jvm.Cond.methodLink "MazeBondsLaw" (131 : Nat) ({ cls := "MazeBonds", name := "<init>", desc := "()V" } : Jvm.MethodName)) ∈ lw_all := lw_g (lw_at lw_m1 41 rfl) rfl
theorem q249 : (Jvm.Cond.methodLink "MazeBondsLaw" (144 : Nat) ({ cls := "MazeBonds", name := "summer", desc := "()I" } : Jvm.MethodName)) ∈ lw_all := lw_g (lw_at lw_m1 178 rfl) rfl
theorem q566 : (Jvm.Cond.methodLink "MazeBondsLaw" (201 : Nat) ({ cls := "MazeBonds", name := "summersLeft", desc := "()I" } : Jvm.MethodName)) ∈ lw_all := lw_g (lw_at lw_m3 15 rfl) rfl
theorem q602 : (Jvm.Cond.methodLink "MazeBondsLaw" (231 : Nat) ({ cls := "MazeBonds", name := "faultPosition", desc := "()I" } : Jvm.MethodName)) ∈ lw_all := lw_g (lw_at lw_m3 51 rfl) rfl
theorem q606 : (Jvm.Cond.methodLink "MazeBondsLaw" (251 : Nat) ({ cls := "MazeBonds", name := "gapShare", desc := "()F" } : Jvm.MethodName)) ∈ lw_all := lw_g (lw_at lw_m3 55 rfl) rfl
theorem q612 : (Jvm.Cond.methodLink "MazeBondsLaw" (262 : Nat) ({ cls := "MazeBonds", name := "save", desc := "()I" } : Jvm.MethodName)) ∈ lw_all := lw_g (lw_at lw_m3 61 rfl) rfl
theorem q616 : (Jvm.Cond.methodLink "MazeBondsLaw" (135 : Nat) ({ cls := "MazeBondsLaw", name := "hedge", desc := "(LMazeBonds;III[J)I" } : Jvm.MethodName)) ∈ lw_all := lw_g (lw_at lw_m3 65 rfl) rfl
theorem q617 : (Jvm.Cond.static ({ cls := "MazeBondsLaw", name := "hedge", desc := "(LMazeBonds;III[J)I" } : Jvm.MethodName)) ∈ lw_all := lw_g (lw_at lw_m3 66 rfl) rfl
theorem q618 : (Jvm.Cond.codeWith ({ cls := "MazeBondsLaw", name := "hedge", desc := "(LMazeBonds;III[J)I" } : Jvm.MethodName) method_3_code (6 : Nat) (Option.some Jvm.ClassFile.FieldType.int) [((0 : Nat), (12 : Nat), (15 : Nat), (13 : Nat))]) ∈ lw_all := lw_g (lw_at lw_m3 67 rfl) rfl
theorem q619 : (Jvm.Cond.classLink "MazeBondsLaw" (13 : Nat) "java/lang/UnsupportedOperationException") ∈ lw_all := lw_g (lw_at lw_m3 68 rfl) rfl
theorem q620 : (Jvm.Cond.methodLink "MazeBondsLaw" (7 : Nat) ({ cls := "MazeBonds", name := "hedge", desc := "(III)I" } : Jvm.MethodName)) ∈ lw_all := lw_g (lw_at lw_m3 69 rfl) rfl
theorem q703 : (Jvm.Cond.methodLink "MazeBondsLaw" (148 : Nat) ({ cls := "MazeBondsLaw", name := "trim", desc := "(LMazeBonds;III[J)I" } : Jvm.MethodName)) ∈ lw_all := lw_g (lw_at lw_m3 152 rfl) rfl
theorem q704 : (Jvm.Cond.static ({ cls := "MazeBondsLaw", name := "trim", desc := "(LMazeBonds;III[J)I" } : Jvm.MethodName)) ∈ lw_all := lw_g (lw_at lw_m3 153 rfl) rfl
theorem q705 : (Jvm.Cond.codeWith ({ cls := "MazeBondsLaw", name := "trim", desc := "(LMazeBonds;III[J)I" } : Jvm.MethodName) method_4_code (6 : Nat) (Option.some Jvm.ClassFile.FieldType.int) [((0 : Nat), (12 : Nat), (15 : Nat), (13 : Nat))]) ∈ lw_all := lw_g (lw_at lw_m3 154 rfl) rfl
theorem q706 : (Jvm.Cond.methodLink "MazeBondsLaw" (15 : Nat) ({ cls := "MazeBonds", name := "trim", desc := "(III)I" } : Jvm.MethodName)) ∈ lw_all := lw_g (lw_at lw_m3 155 rfl) rfl
theorem q739 : (Jvm.Cond.methodLink "MazeBondsLaw" (151 : Nat) ({ cls := "MazeBondsLaw", name := "minotaur", desc := "(LMazeBonds;I[J)I" } : Jvm.MethodName)) ∈ lw_all := lw_g (lw_at lw_m3 188 rfl) rfl
theorem q740 : (Jvm.Cond.static ({ cls := "MazeBondsLaw", name := "minotaur", desc := "(LMazeBonds;I[J)I" } : Jvm.MethodName)) ∈ lw_all := lw_g (lw_at lw_m3 189 rfl) rfl
theorem q741 : (Jvm.Cond.codeWith ({ cls := "MazeBondsLaw", name := "minotaur", desc := "(LMazeBonds;I[J)I" } : Jvm.MethodName) method_5_code (4 : Nat) (Option.some Jvm.ClassFile.FieldType.int) [((0 : Nat), (9 : Nat), (12 : Nat), (13 : Nat))]) ∈ lw_all := lw_g (lw_at lw_m3 190 rfl) rfl
theorem q742 : (Jvm.Cond.methodLink "MazeBondsLaw" (18 : Nat) ({ cls := "MazeBonds", name := "minotaur", desc := "(I)I" } : Jvm.MethodName)) ∈ lw_all := lw_g (lw_at lw_m3 191 rfl) rfl
theorem q762 : (Jvm.Cond.methodLink "MazeBondsLaw" (155 : Nat) ({ cls := "MazeBondsLaw", name := "gardener", desc := "(LMazeBonds;I[J)I" } : Jvm.MethodName)) ∈ lw_all := lw_g (lw_at lw_m3 211 rfl) rfl
theorem q763 : (Jvm.Cond.static ({ cls := "MazeBondsLaw", name := "gardener", desc := "(LMazeBonds;I[J)I" } : Jvm.MethodName)) ∈ lw_all := lw_g (lw_at lw_m3 212 rfl) rfl
theorem q764 : (Jvm.Cond.codeWith ({ cls := "MazeBondsLaw", name := "gardener", desc := "(LMazeBonds;I[J)I" } : Jvm.MethodName) method_6_code (4 : Nat) (Option.some Jvm.ClassFile.FieldType.int) [((0 : Nat), (9 : Nat), (12 : Nat), (13 : Nat))]) ∈ lw_all := lw_g (lw_at lw_m3 213 rfl) rfl
theorem q765 : (Jvm.Cond.methodLink "MazeBondsLaw" (22 : Nat) ({ cls := "MazeBonds", name := "gardener", desc := "(I)I" } : Jvm.MethodName)) ∈ lw_all := lw_g (lw_at lw_m3 214 rfl) rfl
theorem q774 : (Jvm.Cond.methodLink "MazeBondsLaw" (158 : Nat) ({ cls := "MazeBondsLaw", name := "visitor", desc := "(LMazeBonds;I[J)I" } : Jvm.MethodName)) ∈ lw_all := lw_g (lw_at lw_m3 223 rfl) rfl
theorem q775 : (Jvm.Cond.static ({ cls := "MazeBondsLaw", name := "visitor", desc := "(LMazeBonds;I[J)I" } : Jvm.MethodName)) ∈ lw_all := lw_g (lw_at lw_m3 224 rfl) rfl
theorem q776 : (Jvm.Cond.codeWith ({ cls := "MazeBondsLaw", name := "visitor", desc := "(LMazeBonds;I[J)I" } : Jvm.MethodName) method_7_code (4 : Nat) (Option.some Jvm.ClassFile.FieldType.int) [((0 : Nat), (9 : Nat), (12 : Nat), (13 : Nat))]) ∈ lw_all := lw_g (lw_at lw_m3 225 rfl) rfl
theorem q777 : (Jvm.Cond.methodLink "MazeBondsLaw" (25 : Nat) ({ cls := "MazeBonds", name := "visitor", desc := "(I)I" } : Jvm.MethodName)) ∈ lw_all := lw_g (lw_at lw_m3 226 rfl) rfl
theorem q797 : (Jvm.Cond.methodLink "MazeBondsLaw" (161 : Nat) ({ cls := "MazeBondsLaw", name := "bond", desc := "(LMazeBonds;III[J)I" } : Jvm.MethodName)) ∈ lw_all := lw_g (lw_at lw_m4 6 rfl) rfl
theorem q798 : (Jvm.Cond.static ({ cls := "MazeBondsLaw", name := "bond", desc := "(LMazeBonds;III[J)I" } : Jvm.MethodName)) ∈ lw_all := lw_g (lw_at lw_m4 7 rfl) rfl
theorem q799 : (Jvm.Cond.codeWith ({ cls := "MazeBondsLaw", name := "bond", desc := "(LMazeBonds;III[J)I" } : Jvm.MethodName) method_8_code (6 : Nat) (Option.some Jvm.ClassFile.FieldType.int) [((0 : Nat), (12 : Nat), (15 : Nat), (13 : Nat))]) ∈ lw_all := lw_g (lw_at lw_m4 8 rfl) rfl
theorem q800 : (Jvm.Cond.methodLink "MazeBondsLaw" (28 : Nat) ({ cls := "MazeBonds", name := "bond", desc := "(III)I" } : Jvm.MethodName)) ∈ lw_all := lw_g (lw_at lw_m4 9 rfl) rfl
theorem q827 : (Jvm.Cond.methodLink "MazeBondsLaw" (164 : Nat) ({ cls := "MazeBondsLaw", name := "walk", desc := "(LMazeBonds;II[J)I" } : Jvm.MethodName)) ∈ lw_all := lw_g (lw_at lw_m4 36 rfl) rfl
theorem q828 : (Jvm.Cond.static ({ cls := "MazeBondsLaw", name := "walk", desc := "(LMazeBonds;II[J)I" } : Jvm.MethodName)) ∈ lw_all := lw_g (lw_at lw_m4 37 rfl) rfl
theorem q829 : (Jvm.Cond.codeWith ({ cls := "MazeBondsLaw", name := "walk", desc := "(LMazeBonds;II[J)I" } : Jvm.MethodName) method_9_code (5 : Nat) (Option.some Jvm.ClassFile.FieldType.int) [((0 : Nat), (10 : Nat), (13 : Nat), (13 : Nat))]) ∈ lw_all := lw_g (lw_at lw_m4 38 rfl) rfl
theorem q830 : (Jvm.Cond.methodLink "MazeBondsLaw" (31 : Nat) ({ cls := "MazeBonds", name := "walk", desc := "(II)I" } : Jvm.MethodName)) ∈ lw_all := lw_g (lw_at lw_m4 39 rfl) rfl
theorem q865 : (Jvm.Cond.methodLink "MazeBondsLaw" (168 : Nat) ({ cls := "MazeBondsLaw", name := "rest", desc := "(LMazeBonds;II[J)I" } : Jvm.MethodName)) ∈ lw_all := lw_g (lw_at lw_m4 74 rfl) rfl
theorem q866 : (Jvm.Cond.static ({ cls := "MazeBondsLaw", name := "rest", desc := "(LMazeBonds;II[J)I" } : Jvm.MethodName)) ∈ lw_all := lw_g (lw_at lw_m4 75 rfl) rfl
theorem q867 : (Jvm.Cond.codeWith ({ cls := "MazeBondsLaw", name := "rest", desc := "(LMazeBonds;II[J)I" } : Jvm.MethodName) method_10_code (5 : Nat) (Option.some Jvm.ClassFile.FieldType.int) [((0 : Nat), (10 : Nat), (13 : Nat), (13 : Nat))]) ∈ lw_all := lw_g (lw_at lw_m4 76 rfl) rfl
theorem q868 : (Jvm.Cond.methodLink "MazeBondsLaw" (35 : Nat) ({ cls := "MazeBonds", name := "rest", desc := "(II)I" } : Jvm.MethodName)) ∈ lw_all := lw_g (lw_at lw_m4 77 rfl) rfl
theorem q876 : (Jvm.Cond.methodLink "MazeBondsLaw" (171 : Nat) ({ cls := "MazeBondsLaw", name := "leaves", desc := "(LMazeBonds;II[J)I" } : Jvm.MethodName)) ∈ lw_all := lw_g (lw_at lw_m4 85 rfl) rfl
theorem q877 : (Jvm.Cond.static ({ cls := "MazeBondsLaw", name := "leaves", desc := "(LMazeBonds;II[J)I" } : Jvm.MethodName)) ∈ lw_all := lw_g (lw_at lw_m4 86 rfl) rfl
theorem q878 : (Jvm.Cond.codeWith ({ cls := "MazeBondsLaw", name := "leaves", desc := "(LMazeBonds;II[J)I" } : Jvm.MethodName) method_11_code (5 : Nat) (Option.some Jvm.ClassFile.FieldType.int) [((0 : Nat), (10 : Nat), (13 : Nat), (41 : Nat)), ((0 : Nat), (10 : Nat), (17 : Nat), (43 : Nat))]) ∈ lw_all := lw_g (lw_at lw_m4 87 rfl) rfl
theorem q879 : (Jvm.Cond.classLink "MazeBondsLaw" (41 : Nat) "java/lang/IndexOutOfBoundsException") ∈ lw_all := lw_g (lw_at lw_m4 88 rfl) rfl
theorem q911 : (Jvm.Cond.classLink "MazeBondsLaw" (43 : Nat) "java/util/NoSuchElementException") ∈ lw_all := lw_g (lw_at lw_m4 120 rfl) rfl
theorem q912 : (Jvm.Cond.methodLink "MazeBondsLaw" (38 : Nat) ({ cls := "MazeBonds", name := "leaves", desc := "(II)I" } : Jvm.MethodName)) ∈ lw_all := lw_g (lw_at lw_m4 121 rfl) rfl
theorem q948 : (Jvm.Cond.methodLink "MazeBondsLaw" (174 : Nat) ({ cls := "MazeBondsLaw", name := "isGap", desc := "(LMazeBonds;II[J)I" } : Jvm.MethodName)) ∈ lw_all := lw_g (lw_at lw_m4 157 rfl) rfl
theorem q949 : (Jvm.Cond.static ({ cls := "MazeBondsLaw", name := "isGap", desc := "(LMazeBonds;II[J)I" } : Jvm.MethodName)) ∈ lw_all := lw_g (lw_at lw_m4 158 rfl) rfl
theorem q950 : (Jvm.Cond.codeWith ({ cls := "MazeBondsLaw", name := "isGap", desc := "(LMazeBonds;II[J)I" } : Jvm.MethodName) method_12_code (5 : Nat) (Option.some Jvm.ClassFile.FieldType.int) [((0 : Nat), (17 : Nat), (20 : Nat), (41 : Nat))]) ∈ lw_all := lw_g (lw_at lw_m4 159 rfl) rfl
theorem q951 : (Jvm.Cond.methodLink "MazeBondsLaw" (45 : Nat) ({ cls := "MazeBonds", name := "isGap", desc := "(II)Z" } : Jvm.MethodName)) ∈ lw_all := lw_g (lw_at lw_m4 160 rfl) rfl
theorem q956 : (Jvm.Cond.methodLink "MazeBondsLaw" (177 : Nat) ({ cls := "MazeBondsLaw", name := "hours", desc := "(LMazeBonds;II[J)I" } : Jvm.MethodName)) ∈ lw_all := lw_g (lw_at lw_m4 165 rfl) rfl
theorem q957 : (Jvm.Cond.static ({ cls := "MazeBondsLaw", name := "hours", desc := "(LMazeBonds;II[J)I" } : Jvm.MethodName)) ∈ lw_all := lw_g (lw_at lw_m4 166 rfl) rfl
theorem q958 : (Jvm.Cond.codeWith ({ cls := "MazeBondsLaw", name := "hours", desc := "(LMazeBonds;II[J)I" } : Jvm.MethodName) method_13_code (5 : Nat) (Option.some Jvm.ClassFile.FieldType.int) [((0 : Nat), (10 : Nat), (13 : Nat), (41 : Nat)), ((0 : Nat), (10 : Nat), (17 : Nat), (43 : Nat))]) ∈ lw_all := lw_g (lw_at lw_m4 167 rfl) rfl
theorem q959 : (Jvm.Cond.methodLink "MazeBondsLaw" (49 : Nat) ({ cls := "MazeBonds", name := "hours", desc := "(II)I" } : Jvm.MethodName)) ∈ lw_all := lw_g (lw_at lw_m4 168 rfl) rfl
theorem q964 : (Jvm.Cond.methodLink "MazeBondsLaw" (180 : Nat) ({ cls := "MazeBondsLaw", name := "hoursAgain", desc := "(LMazeBonds;II[J)I" } : Jvm.MethodName)) ∈ lw_all := lw_g (lw_at lw_m4 173 rfl) rfl
theorem q965 : (Jvm.Cond.static ({ cls := "MazeBondsLaw", name := "hoursAgain", desc := "(LMazeBonds;II[J)I" } : Jvm.MethodName)) ∈ lw_all := lw_g (lw_at lw_m4 174 rfl) rfl
theorem q966 : (Jvm.Cond.codeWith ({ cls := "MazeBondsLaw", name := "hoursAgain", desc := "(LMazeBonds;II[J)I" } : Jvm.MethodName) method_14_code (5 : Nat) (Option.some Jvm.ClassFile.FieldType.int) [((0 : Nat), (10 : Nat), (13 : Nat), (41 : Nat)), ((0 : Nat), (10 : Nat), (17 : Nat), (43 : Nat))]) ∈ lw_all := lw_g (lw_at lw_m4 175 rfl) rfl
theorem q967 : (Jvm.Cond.methodLink "MazeBondsLaw" (52 : Nat) ({ cls := "MazeBonds", name := "hoursAgain", desc := "(II)I" } : Jvm.MethodName)) ∈ lw_all := lw_g (lw_at lw_m4 176 rfl) rfl
theorem q979 : (Jvm.Cond.methodLink "MazeBondsLaw" (183 : Nat) ({ cls := "MazeBondsLaw", name := "next", desc := "(LMazeBonds;I[J)I" } : Jvm.MethodName)) ∈ lw_all := lw_g (lw_at lw_m4 188 rfl) rfl
theorem q980 : (Jvm.Cond.static ({ cls := "MazeBondsLaw", name := "next", desc := "(LMazeBonds;I[J)I" } : Jvm.MethodName)) ∈ lw_all := lw_g (lw_at lw_m4 189 rfl) rfl
theorem q981 : (Jvm.Cond.codeWith ({ cls := "MazeBondsLaw", name := "next", desc := "(LMazeBonds;I[J)I" } : Jvm.MethodName) method_15_code (4 : Nat) (Option.some Jvm.ClassFile.FieldType.int) [((0 : Nat), (9 : Nat), (12 : Nat), (41 : Nat)), ((0 : Nat), (9 : Nat), (15 : Nat), (43 : Nat))]) ∈ lw_all := lw_g (lw_at lw_m4 190 rfl) rfl
theorem q982 : (Jvm.Cond.methodLink "MazeBondsLaw" (55 : Nat) ({ cls := "MazeBonds", name := "next", desc := "(I)I" } : Jvm.MethodName)) ∈ lw_all := lw_g (lw_at lw_m4 191 rfl) rfl
theorem q987 : (Jvm.Cond.methodLink "MazeBondsLaw" (186 : Nat) ({ cls := "MazeBondsLaw", name := "reached", desc := "(LMazeBonds;I[J)I" } : Jvm.MethodName)) ∈ lw_all := lw_g (lw_at lw_m4 196 rfl) rfl
theorem q988 : (Jvm.Cond.static ({ cls := "MazeBondsLaw", name := "reached", desc := "(LMazeBonds;I[J)I" } : Jvm.MethodName)) ∈ lw_all := lw_g (lw_at lw_m4 197 rfl) rfl
theorem q989 : (Jvm.Cond.codeWith ({ cls := "MazeBondsLaw", name := "reached", desc := "(LMazeBonds;I[J)I" } : Jvm.MethodName) method_16_code (4 : Nat) (Option.some Jvm.ClassFile.FieldType.int) [((0 : Nat), (9 : Nat), (12 : Nat), (41 : Nat))]) ∈ lw_all := lw_g (lw_at lw_m4 198 rfl) rfl
theorem q990 : (Jvm.Cond.methodLink "MazeBondsLaw" (58 : Nat) ({ cls := "MazeBonds", name := "reached", desc := "(I)I" } : Jvm.MethodName)) ∈ lw_all := lw_g (lw_at lw_m4 199 rfl) rfl
theorem q995 : (Jvm.Cond.methodLink "MazeBondsLaw" (189 : Nat) ({ cls := "MazeBondsLaw", name := "trims", desc := "(LMazeBonds;I[J)I" } : Jvm.MethodName)) ∈ lw_all := lw_g (lw_at lw_m4 204 rfl) rfl
theorem q996 : (Jvm.Cond.static ({ cls := "MazeBondsLaw", name := "trims", desc := "(LMazeBonds;I[J)I" } : Jvm.MethodName)) ∈ lw_all := lw_g (lw_at lw_m4 205 rfl) rfl
theorem q997 : (Jvm.Cond.codeWith ({ cls := "MazeBondsLaw", name := "trims", desc := "(LMazeBonds;I[J)I" } : Jvm.MethodName) method_17_code (4 : Nat) (Option.some Jvm.ClassFile.FieldType.int) [((0 : Nat), (9 : Nat), (12 : Nat), (41 : Nat))]) ∈ lw_all := lw_g (lw_at lw_m4 206 rfl) rfl
theorem q998 : (Jvm.Cond.methodLink "MazeBondsLaw" (61 : Nat) ({ cls := "MazeBonds", name := "trims", desc := "(I)I" } : Jvm.MethodName)) ∈ lw_all := lw_g (lw_at lw_m4 207 rfl) rfl
theorem q1002 : (Jvm.Cond.methodLink "MazeBondsLaw" (192 : Nat) ({ cls := "MazeBondsLaw", name := "trimsAgain", desc := "(LMazeBonds;I[J)I" } : Jvm.MethodName)) ∈ lw_all := lw_g (lw_at lw_m4 211 rfl) rfl
theorem q1003 : (Jvm.Cond.static ({ cls := "MazeBondsLaw", name := "trimsAgain", desc := "(LMazeBonds;I[J)I" } : Jvm.MethodName)) ∈ lw_all := lw_g (lw_at lw_m4 212 rfl) rfl
theorem q1004 : (Jvm.Cond.codeWith ({ cls := "MazeBondsLaw", name := "trimsAgain", desc := "(LMazeBonds;I[J)I" } : Jvm.MethodName) method_18_code (4 : Nat) (Option.some Jvm.ClassFile.FieldType.int) [((0 : Nat), (9 : Nat), (12 : Nat), (41 : Nat))]) ∈ lw_all := lw_g (lw_at lw_m4 213 rfl) rfl
theorem q1005 : (Jvm.Cond.methodLink "MazeBondsLaw" (64 : Nat) ({ cls := "MazeBonds", name := "trimsAgain", desc := "(I)I" } : Jvm.MethodName)) ∈ lw_all := lw_g (lw_at lw_m4 214 rfl) rfl
theorem q1009 : (Jvm.Cond.methodLink "MazeBondsLaw" (195 : Nat) ({ cls := "MazeBondsLaw", name := "isNeeded", desc := "(LMazeBonds;II[J)I" } : Jvm.MethodName)) ∈ lw_all := lw_g (lw_at lw_m4 218 rfl) rfl
theorem q1010 : (Jvm.Cond.static ({ cls := "MazeBondsLaw", name := "isNeeded", desc := "(LMazeBonds;II[J)I" } : Jvm.MethodName)) ∈ lw_all := lw_g (lw_at lw_m4 219 rfl) rfl
theorem q1011 : (Jvm.Cond.codeWith ({ cls := "MazeBondsLaw", name := "isNeeded", desc := "(LMazeBonds;II[J)I" } : Jvm.MethodName) method_19_code (5 : Nat) (Option.some Jvm.ClassFile.FieldType.int) [((0 : Nat), (17 : Nat), (20 : Nat), (41 : Nat)), ((0 : Nat), (17 : Nat), (24 : Nat), (43 : Nat))]) ∈ lw_all := lw_g (lw_at lw_m4 220 rfl) rfl
theorem q1012 : (Jvm.Cond.methodLink "MazeBondsLaw" (67 : Nat) ({ cls := "MazeBonds", name := "isNeeded", desc := "(II)Z" } : Jvm.MethodName)) ∈ lw_all := lw_g (lw_at lw_m4 221 rfl) rfl
theorem q1016 : (Jvm.Cond.methodLink "MazeBondsLaw" (198 : Nat) ({ cls := "MazeBondsLaw", name := "closesIn", desc := "(LMazeBonds;II[J)I" } : Jvm.MethodName)) ∈ lw_all := lw_g (lw_at lw_m4 225 rfl) rfl
theorem q1017 : (Jvm.Cond.static ({ cls := "MazeBondsLaw", name := "closesIn", desc := "(LMazeBonds;II[J)I" } : Jvm.MethodName)) ∈ lw_all := lw_g (lw_at lw_m4 226 rfl) rfl
theorem q1018 : (Jvm.Cond.codeWith ({ cls := "MazeBondsLaw", name := "closesIn", desc := "(LMazeBonds;II[J)I" } : Jvm.MethodName) method_20_code (5 : Nat) (Option.some Jvm.ClassFile.FieldType.int) [((0 : Nat), (10 : Nat), (13 : Nat), (41 : Nat)), ((0 : Nat), (10 : Nat), (17 : Nat), (43 : Nat))]) ∈ lw_all := lw_g (lw_at lw_m4 227 rfl) rfl
theorem q1019 : (Jvm.Cond.methodLink "MazeBondsLaw" (70 : Nat) ({ cls := "MazeBonds", name := "closesIn", desc := "(II)I" } : Jvm.MethodName)) ∈ lw_all := lw_g (lw_at lw_m4 228 rfl) rfl
theorem q1023 : (Jvm.Cond.methodLink "MazeBondsLaw" (205 : Nat) ({ cls := "MazeBondsLaw", name := "gardenerOf", desc := "(LMazeBonds;II[J)I" } : Jvm.MethodName)) ∈ lw_all := lw_g (lw_at lw_m4 232 rfl) rfl
theorem q1024 : (Jvm.Cond.static ({ cls := "MazeBondsLaw", name := "gardenerOf", desc := "(LMazeBonds;II[J)I" } : Jvm.MethodName)) ∈ lw_all := lw_g (lw_at lw_m4 233 rfl) rfl
theorem q1025 : (Jvm.Cond.codeWith ({ cls := "MazeBondsLaw", name := "gardenerOf", desc := "(LMazeBonds;II[J)I" } : Jvm.MethodName) method_21_code (5 : Nat) (Option.some Jvm.ClassFile.FieldType.int) [((0 : Nat), (10 : Nat), (13 : Nat), (41 : Nat)), ((0 : Nat), (10 : Nat), (17 : Nat), (76 : Nat))]) ∈ lw_all := lw_g (lw_at lw_m4 234 rfl) rfl
theorem q1026 : (Jvm.Cond.classLink "MazeBondsLaw" (76 : Nat) "java/lang/IllegalArgumentException") ∈ lw_all := lw_g (lw_at lw_m4 235 rfl) rfl
theorem q1027 : (Jvm.Cond.methodLink "MazeBondsLaw" (73 : Nat) ({ cls := "MazeBonds", name := "gardenerOf", desc := "(II)I" } : Jvm.MethodName)) ∈ lw_all := lw_g (lw_at lw_m4 236 rfl) rfl
theorem q1061 : (Jvm.Cond.methodLink "MazeBondsLaw" (208 : Nat) ({ cls := "MazeBondsLaw", name := "visitorOf", desc := "(LMazeBonds;II[J)I" } : Jvm.MethodName)) ∈ lw_all := lw_g (lw_at lw_m5 30 rfl) rfl
theorem q1062 : (Jvm.Cond.static ({ cls := "MazeBondsLaw", name := "visitorOf", desc := "(LMazeBonds;II[J)I" } : Jvm.MethodName)) ∈ lw_all := lw_g (lw_at lw_m5 31 rfl) rfl
theorem q1063 : (Jvm.Cond.codeWith ({ cls := "MazeBondsLaw", name := "visitorOf", desc := "(LMazeBonds;II[J)I" } : Jvm.MethodName) method_22_code (5 : Nat) (Option.some Jvm.ClassFile.FieldType.int) [((0 : Nat), (10 : Nat), (13 : Nat), (41 : Nat)), ((0 : Nat), (10 : Nat), (17 : Nat), (76 : Nat))]) ∈ lw_all := lw_g (lw_at lw_m5 32 rfl) rfl
theorem q1064 : (Jvm.Cond.methodLink "MazeBondsLaw" (78 : Nat) ({ cls := "MazeBonds", name := "visitorOf", desc := "(II)I" } : Jvm.MethodName)) ∈ lw_all := lw_g (lw_at lw_m5 33 rfl) rfl
theorem q1080 : (Jvm.Cond.methodLink "MazeBondsLaw" (211 : Nat) ({ cls := "MazeBondsLaw", name := "wouldPay", desc := "(LMazeBonds;I[J)I" } : Jvm.MethodName)) ∈ lw_all := lw_g (lw_at lw_m5 49 rfl) rfl
theorem q1081 : (Jvm.Cond.static ({ cls := "MazeBondsLaw", name := "wouldPay", desc := "(LMazeBonds;I[J)I" } : Jvm.MethodName)) ∈ lw_all := lw_g (lw_at lw_m5 50 rfl) rfl
theorem q1082 : (Jvm.Cond.codeWith ({ cls := "MazeBondsLaw", name := "wouldPay", desc := "(LMazeBonds;I[J)I" } : Jvm.MethodName) method_23_code (4 : Nat) (Option.some Jvm.ClassFile.FieldType.int) [((0 : Nat), (9 : Nat), (12 : Nat), (41 : Nat)), ((0 : Nat), (9 : Nat), (15 : Nat), (43 : Nat))]) ∈ lw_all := lw_g (lw_at lw_m5 51 rfl) rfl
theorem q1083 : (Jvm.Cond.methodLink "MazeBondsLaw" (81 : Nat) ({ cls := "MazeBonds", name := "wouldPay", desc := "(I)I" } : Jvm.MethodName)) ∈ lw_all := lw_g (lw_at lw_m5 52 rfl) rfl
theorem q1089 : (Jvm.Cond.methodLink "MazeBondsLaw" (214 : Nat) ({ cls := "MazeBondsLaw", name := "owed", desc := "(LMazeBonds;I[J)I" } : Jvm.MethodName)) ∈ lw_all := lw_g (lw_at lw_m5 58 rfl) rfl
theorem q1090 : (Jvm.Cond.static ({ cls := "MazeBondsLaw", name := "owed", desc := "(LMazeBonds;I[J)I" } : Jvm.MethodName)) ∈ lw_all := lw_g (lw_at lw_m5 59 rfl) rfl
theorem q1091 : (Jvm.Cond.codeWith ({ cls := "MazeBondsLaw", name := "owed", desc := "(LMazeBonds;I[J)I" } : Jvm.MethodName) method_24_code (4 : Nat) (Option.some Jvm.ClassFile.FieldType.int) [((0 : Nat), (9 : Nat), (12 : Nat), (41 : Nat))]) ∈ lw_all := lw_g (lw_at lw_m5 60 rfl) rfl
theorem q1092 : (Jvm.Cond.methodLink "MazeBondsLaw" (84 : Nat) ({ cls := "MazeBonds", name := "owed", desc := "(I)I" } : Jvm.MethodName)) ∈ lw_all := lw_g (lw_at lw_m5 61 rfl) rfl
theorem q1100 : (Jvm.Cond.methodLink "MazeBondsLaw" (217 : Nat) ({ cls := "MazeBondsLaw", name := "ranked", desc := "(LMazeBonds;II[J)I" } : Jvm.MethodName)) ∈ lw_all := lw_g (lw_at lw_m5 69 rfl) rfl
theorem q1101 : (Jvm.Cond.static ({ cls := "MazeBondsLaw", name := "ranked", desc := "(LMazeBonds;II[J)I" } : Jvm.MethodName)) ∈ lw_all := lw_g (lw_at lw_m5 70 rfl) rfl
theorem q1102 : (Jvm.Cond.codeWith ({ cls := "MazeBondsLaw", name := "ranked", desc := "(LMazeBonds;II[J)I" } : Jvm.MethodName) method_25_code (5 : Nat) (Option.some Jvm.ClassFile.FieldType.int) [((0 : Nat), (10 : Nat), (13 : Nat), (76 : Nat)), ((0 : Nat), (10 : Nat), (17 : Nat), (43 : Nat))]) ∈ lw_all := lw_g (lw_at lw_m5 71 rfl) rfl
theorem q1103 : (Jvm.Cond.methodLink "MazeBondsLaw" (87 : Nat) ({ cls := "MazeBonds", name := "ranked", desc := "(II)I" } : Jvm.MethodName)) ∈ lw_all := lw_g (lw_at lw_m5 72 rfl) rfl
theorem q1110 : (Jvm.Cond.methodLink "MazeBondsLaw" (220 : Nat) ({ cls := "MazeBondsLaw", name := "richest", desc := "(LMazeBonds;I[J)I" } : Jvm.MethodName)) ∈ lw_all := lw_g (lw_at lw_m5 79 rfl) rfl
theorem q1111 : (Jvm.Cond.static ({ cls := "MazeBondsLaw", name := "richest", desc := "(LMazeBonds;I[J)I" } : Jvm.MethodName)) ∈ lw_all := lw_g (lw_at lw_m5 80 rfl) rfl
theorem q1112 : (Jvm.Cond.codeWith ({ cls := "MazeBondsLaw", name := "richest", desc := "(LMazeBonds;I[J)I" } : Jvm.MethodName) method_26_code (4 : Nat) (Option.some Jvm.ClassFile.FieldType.int) [((0 : Nat), (9 : Nat), (12 : Nat), (43 : Nat))]) ∈ lw_all := lw_g (lw_at lw_m5 81 rfl) rfl
theorem q1113 : (Jvm.Cond.methodLink "MazeBondsLaw" (90 : Nat) ({ cls := "MazeBonds", name := "richest", desc := "(I)I" } : Jvm.MethodName)) ∈ lw_all := lw_g (lw_at lw_m5 82 rfl) rfl
theorem q1121 : (Jvm.Cond.methodLink "MazeBondsLaw" (223 : Nat) ({ cls := "MazeBondsLaw", name := "append", desc := "(LMazeBonds;C[J)I" } : Jvm.MethodName)) ∈ lw_all := lw_g (lw_at lw_m5 90 rfl) rfl
theorem q1122 : (Jvm.Cond.static ({ cls := "MazeBondsLaw", name := "append", desc := "(LMazeBonds;C[J)I" } : Jvm.MethodName)) ∈ lw_all := lw_g (lw_at lw_m5 91 rfl) rfl
theorem q1123 : (Jvm.Cond.codeWith ({ cls := "MazeBondsLaw", name := "append", desc := "(LMazeBonds;C[J)I" } : Jvm.MethodName) method_27_code (4 : Nat) (Option.some Jvm.ClassFile.FieldType.int) [((0 : Nat), (9 : Nat), (12 : Nat), (97 : Nat))]) ∈ lw_all := lw_g (lw_at lw_m5 92 rfl) rfl
theorem q1124 : (Jvm.Cond.classLink "MazeBondsLaw" (97 : Nat) "java/lang/IllegalStateException") ∈ lw_all := lw_g (lw_at lw_m5 93 rfl) rfl
theorem q1125 : (Jvm.Cond.methodLink "MazeBondsLaw" (93 : Nat) ({ cls := "MazeBonds", name := "append", desc := "(C)I" } : Jvm.MethodName)) ∈ lw_all := lw_g (lw_at lw_m5 94 rfl) rfl
theorem q1147 : (Jvm.Cond.methodLink "MazeBondsLaw" (227 : Nat) ({ cls := "MazeBondsLaw", name := "commands", desc := "(LMazeBonds;[J)I" } : Jvm.MethodName)) ∈ lw_all := lw_g (lw_at lw_m5 116 rfl) rfl
theorem q1148 : (Jvm.Cond.static ({ cls := "MazeBondsLaw", name := "commands", desc := "(LMazeBonds;[J)I" } : Jvm.MethodName)) ∈ lw_all := lw_g (lw_at lw_m5 117 rfl) rfl
theorem q1149 : (Jvm.Cond.codeWith ({ cls := "MazeBondsLaw", name := "commands", desc := "(LMazeBonds;[J)I" } : Jvm.MethodName) method_28_code (3 : Nat) (Option.some Jvm.ClassFile.FieldType.int) [((0 : Nat), (8 : Nat), (11 : Nat), (76 : Nat)), ((0 : Nat), (8 : Nat), (14 : Nat), (13 : Nat))]) ∈ lw_all := lw_g (lw_at lw_m5 118 rfl) rfl
theorem q1150 : (Jvm.Cond.methodLink "MazeBondsLaw" (99 : Nat) ({ cls := "MazeBonds", name := "commands", desc := "()I" } : Jvm.MethodName)) ∈ lw_all := lw_g (lw_at lw_m5 119 rfl) rfl
theorem q1331 : (Jvm.Cond.methodLink "MazeBondsLaw" (235 : Nat) ({ cls := "MazeBondsLaw", name := "reason", desc := "(LMazeBonds;I[J)I" } : Jvm.MethodName)) ∈ lw_all := lw_g (lw_at lw_m6 60 rfl) rfl
theorem q1332 : (Jvm.Cond.static ({ cls := "MazeBondsLaw", name := "reason", desc := "(LMazeBonds;I[J)I" } : Jvm.MethodName)) ∈ lw_all := lw_g (lw_at lw_m6 61 rfl) rfl
theorem q1333 : (Jvm.Cond.codeWith ({ cls := "MazeBondsLaw", name := "reason", desc := "(LMazeBonds;I[J)I" } : Jvm.MethodName) method_29_code (4 : Nat) (Option.some Jvm.ClassFile.FieldType.int) [((0 : Nat), (9 : Nat), (12 : Nat), (76 : Nat)), ((0 : Nat), (9 : Nat), (15 : Nat), (43 : Nat))]) ∈ lw_all := lw_g (lw_at lw_m6 62 rfl) rfl
theorem q1334 : (Jvm.Cond.methodLink "MazeBondsLaw" (103 : Nat) ({ cls := "MazeBonds", name := "reason", desc := "(I)I" } : Jvm.MethodName)) ∈ lw_all := lw_g (lw_at lw_m6 63 rfl) rfl
theorem q1338 : (Jvm.Cond.methodLink "MazeBondsLaw" (238 : Nat) ({ cls := "MazeBondsLaw", name := "line", desc := "(LMazeBonds;I[J)I" } : Jvm.MethodName)) ∈ lw_all := lw_g (lw_at lw_m6 67 rfl) rfl
theorem q1339 : (Jvm.Cond.static ({ cls := "MazeBondsLaw", name := "line", desc := "(LMazeBonds;I[J)I" } : Jvm.MethodName)) ∈ lw_all := lw_g (lw_at lw_m6 68 rfl) rfl
theorem q1340 : (Jvm.Cond.codeWith ({ cls := "MazeBondsLaw", name := "line", desc := "(LMazeBonds;I[J)I" } : Jvm.MethodName) method_30_code (4 : Nat) (Option.some Jvm.ClassFile.FieldType.int) [((0 : Nat), (9 : Nat), (12 : Nat), (41 : Nat))]) ∈ lw_all := lw_g (lw_at lw_m6 69 rfl) rfl
theorem q1341 : (Jvm.Cond.methodLink "MazeBondsLaw" (106 : Nat) ({ cls := "MazeBonds", name := "line", desc := "(I)I" } : Jvm.MethodName)) ∈ lw_all := lw_g (lw_at lw_m6 70 rfl) rfl
theorem q1583 : (Jvm.Cond.methodLink "MazeBondsLaw" (241 : Nat) ({ cls := "MazeBondsLaw", name := "row", desc := "(LMazeBonds;I[J)I" } : Jvm.MethodName)) ∈ lw_all := lw_g (lw_at lw_m7 72 rfl) rfl
theorem q1584 : (Jvm.Cond.static ({ cls := "MazeBondsLaw", name := "row", desc := "(LMazeBonds;I[J)I" } : Jvm.MethodName)) ∈ lw_all := lw_g (lw_at lw_m7 73 rfl) rfl
theorem q1585 : (Jvm.Cond.codeWith ({ cls := "MazeBondsLaw", name := "row", desc := "(LMazeBonds;I[J)I" } : Jvm.MethodName) method_31_code (4 : Nat) (Option.some Jvm.ClassFile.FieldType.int) [((0 : Nat), (9 : Nat), (12 : Nat), (76 : Nat))]) ∈ lw_all := lw_g (lw_at lw_m7 74 rfl) rfl
theorem q1586 : (Jvm.Cond.methodLink "MazeBondsLaw" (109 : Nat) ({ cls := "MazeBonds", name := "row", desc := "(I)I" } : Jvm.MethodName)) ∈ lw_all := lw_g (lw_at lw_m7 75 rfl) rfl
theorem q1594 : (Jvm.Cond.methodLink "MazeBondsLaw" (244 : Nat) ({ cls := "MazeBondsLaw", name := "character", desc := "(LMazeBonds;I[J)I" } : Jvm.MethodName)) ∈ lw_all := lw_g (lw_at lw_m7 83 rfl) rfl
theorem q1595 : (Jvm.Cond.static ({ cls := "MazeBondsLaw", name := "character", desc := "(LMazeBonds;I[J)I" } : Jvm.MethodName)) ∈ lw_all := lw_g (lw_at lw_m7 84 rfl) rfl
theorem q1596 : (Jvm.Cond.codeWith ({ cls := "MazeBondsLaw", name := "character", desc := "(LMazeBonds;I[J)I" } : Jvm.MethodName) method_32_code (4 : Nat) (Option.some Jvm.ClassFile.FieldType.int) [((0 : Nat), (9 : Nat), (12 : Nat), (41 : Nat))]) ∈ lw_all := lw_g (lw_at lw_m7 85 rfl) rfl
theorem q1597 : (Jvm.Cond.methodLink "MazeBondsLaw" (112 : Nat) ({ cls := "MazeBonds", name := "character", desc := "(I)C" } : Jvm.MethodName)) ∈ lw_all := lw_g (lw_at lw_m7 86 rfl) rfl
theorem q1611 : (Jvm.Cond.methodLink "MazeBondsLaw" (247 : Nat) ({ cls := "MazeBondsLaw", name := "meanLost", desc := "(LMazeBonds;[D)I" } : Jvm.MethodName)) ∈ lw_all := lw_g (lw_at lw_m7 100 rfl) rfl
theorem q1612 : (Jvm.Cond.static ({ cls := "MazeBondsLaw", name := "meanLost", desc := "(LMazeBonds;[D)I" } : Jvm.MethodName)) ∈ lw_all := lw_g (lw_at lw_m7 101 rfl) rfl
theorem q1613 : (Jvm.Cond.codeWith ({ cls := "MazeBondsLaw", name := "meanLost", desc := "(LMazeBonds;[D)I" } : Jvm.MethodName) method_33_code (3 : Nat) (Option.some Jvm.ClassFile.FieldType.int) [((0 : Nat), (7 : Nat), (10 : Nat), (120 : Nat))]) ∈ lw_all := lw_g (lw_at lw_m7 102 rfl) rfl
theorem q1614 : (Jvm.Cond.classLink "MazeBondsLaw" (120 : Nat) "java/lang/ArithmeticException") ∈ lw_all := lw_g (lw_at lw_m7 103 rfl) rfl
theorem q1628 : (Jvm.Cond.methodLink "MazeBondsLaw" (116 : Nat) ({ cls := "MazeBonds", name := "meanLost", desc := "()D" } : Jvm.MethodName)) ∈ lw_all := lw_g (lw_at lw_m7 117 rfl) rfl
theorem q1645 : (Jvm.Cond.methodLink "MazeBondsLaw" (256 : Nat) ({ cls := "MazeBondsLaw", name := "account", desc := "(LMazeBonds;I[J)I" } : Jvm.MethodName)) ∈ lw_all := lw_g (lw_at lw_m7 134 rfl) rfl
theorem q1646 : (Jvm.Cond.static ({ cls := "MazeBondsLaw", name := "account", desc := "(LMazeBonds;I[J)I" } : Jvm.MethodName)) ∈ lw_all := lw_g (lw_at lw_m7 135 rfl) rfl
theorem q1647 : (Jvm.Cond.codeWith ({ cls := "MazeBondsLaw", name := "account", desc := "(LMazeBonds;I[J)I" } : Jvm.MethodName) method_34_code (4 : Nat) (Option.some Jvm.ClassFile.FieldType.int) [((0 : Nat), (9 : Nat), (12 : Nat), (76 : Nat))]) ∈ lw_all := lw_g (lw_at lw_m7 136 rfl) rfl
theorem q1648 : (Jvm.Cond.methodLink "MazeBondsLaw" (122 : Nat) ({ cls := "MazeBonds", name := "account", desc := "(I)I" } : Jvm.MethodName)) ∈ lw_all := lw_g (lw_at lw_m7 137 rfl) rfl
theorem q1675 : (Jvm.Cond.methodLink "MazeBondsLaw" (259 : Nat) ({ cls := "MazeBondsLaw", name := "undo", desc := "(LMazeBonds;[J)I" } : Jvm.MethodName)) ∈ lw_all := lw_g (lw_at lw_m7 164 rfl) rfl
theorem q1676 : (Jvm.Cond.static ({ cls := "MazeBondsLaw", name := "undo", desc := "(LMazeBonds;[J)I" } : Jvm.MethodName)) ∈ lw_all := lw_g (lw_at lw_m7 165 rfl) rfl
theorem q1677 : (Jvm.Cond.codeWith ({ cls := "MazeBondsLaw", name := "undo", desc := "(LMazeBonds;[J)I" } : Jvm.MethodName) method_35_code (3 : Nat) (Option.some Jvm.ClassFile.FieldType.int) [((0 : Nat), (8 : Nat), (11 : Nat), (97 : Nat))]) ∈ lw_all := lw_g (lw_at lw_m7 166 rfl) rfl
theorem q1678 : (Jvm.Cond.methodLink "MazeBondsLaw" (125 : Nat) ({ cls := "MazeBonds", name := "undo", desc := "()I" } : Jvm.MethodName)) ∈ lw_all := lw_g (lw_at lw_m7 167 rfl) rfl
theorem q1686 : (Jvm.Cond.methodLink "MazeBondsLaw" (266 : Nat) ({ cls := "MazeBondsLaw", name := "restore", desc := "(LMazeBonds;[J)I" } : Jvm.MethodName)) ∈ lw_all := lw_g (lw_at lw_m7 175 rfl) rfl
theorem q1687 : (Jvm.Cond.static ({ cls := "MazeBondsLaw", name := "restore", desc := "(LMazeBonds;[J)I" } : Jvm.MethodName)) ∈ lw_all := lw_g (lw_at lw_m7 176 rfl) rfl
theorem q1688 : (Jvm.Cond.codeWith ({ cls := "MazeBondsLaw", name := "restore", desc := "(LMazeBonds;[J)I" } : Jvm.MethodName) method_36_code (3 : Nat) (Option.some Jvm.ClassFile.FieldType.int) [((0 : Nat), (8 : Nat), (11 : Nat), (97 : Nat))]) ∈ lw_all := lw_g (lw_at lw_m7 177 rfl) rfl
theorem q1689 : (Jvm.Cond.methodLink "MazeBondsLaw" (128 : Nat) ({ cls := "MazeBonds", name := "restore", desc := "()I" } : Jvm.MethodName)) ∈ lw_all := lw_g (lw_at lw_m7 178 rfl) rfl
theorem q1697 : (Jvm.Cond.classLink "MazeBondsLaw" (132 : Nat) "MazeBondsModel") ∈ lw_all := lw_g (lw_at lw_m7 186 rfl) rfl
theorem q1699 : (Jvm.Cond.methodLink "MazeBondsLaw" (134 : Nat) ({ cls := "MazeBondsModel", name := "<init>", desc := "()V" } : Jvm.MethodName)) ∈ lw_all := lw_g (lw_at lw_m7 188 rfl) rfl
theorem q1767 : (Jvm.Cond.methodLink "MazeBondsLaw" (141 : Nat) ({ cls := "MazeBondsModel", name := "thrown", desc := "()I" } : Jvm.MethodName)) ∈ lw_all := lw_g (lw_at lw_m8 16 rfl) rfl
theorem q1771 : (Jvm.Cond.methodLink "MazeBondsLaw" (140 : Nat) ({ cls := "MazeBondsModel", name := "hedge", desc := "(III)I" } : Jvm.MethodName)) ∈ lw_all := lw_g (lw_at lw_m8 20 rfl) rfl
theorem q1812 : (Jvm.Cond.methodLink "MazeBondsLaw" (147 : Nat) ({ cls := "MazeBondsModel", name := "summer", desc := "()I" } : Jvm.MethodName)) ∈ lw_all := lw_g (lw_at lw_m8 61 rfl) rfl
theorem q1828 : (Jvm.Cond.methodLink "MazeBondsLaw" (150 : Nat) ({ cls := "MazeBondsModel", name := "trim", desc := "(III)I" } : Jvm.MethodName)) ∈ lw_all := lw_g (lw_at lw_m8 77 rfl) rfl
theorem q1843 : (Jvm.Cond.methodLink "MazeBondsLaw" (154 : Nat) ({ cls := "MazeBondsModel", name := "minotaur", desc := "(I)I" } : Jvm.MethodName)) ∈ lw_all := lw_g (lw_at lw_m8 92 rfl) rfl
theorem q1859 : (Jvm.Cond.methodLink "MazeBondsLaw" (157 : Nat) ({ cls := "MazeBondsModel", name := "gardener", desc := "(I)I" } : Jvm.MethodName)) ∈ lw_all := lw_g (lw_at lw_m8 108 rfl) rfl
theorem q1868 : (Jvm.Cond.methodLink "MazeBondsLaw" (160 : Nat) ({ cls := "MazeBondsModel", name := "visitor", desc := "(I)I" } : Jvm.MethodName)) ∈ lw_all := lw_g (lw_at lw_m8 117 rfl) rfl
theorem q1895 : (Jvm.Cond.methodLink "MazeBondsLaw" (163 : Nat) ({ cls := "MazeBondsModel", name := "bond", desc := "(III)I" } : Jvm.MethodName)) ∈ lw_all := lw_g (lw_at lw_m8 144 rfl) rfl
theorem q1908 : (Jvm.Cond.methodLink "MazeBondsLaw" (167 : Nat) ({ cls := "MazeBondsModel", name := "walk", desc := "(II)I" } : Jvm.MethodName)) ∈ lw_all := lw_g (lw_at lw_m8 157 rfl) rfl
theorem q1924 : (Jvm.Cond.methodLink "MazeBondsLaw" (170 : Nat) ({ cls := "MazeBondsModel", name := "rest", desc := "(II)I" } : Jvm.MethodName)) ∈ lw_all := lw_g (lw_at lw_m8 173 rfl) rfl
theorem q1932 : (Jvm.Cond.methodLink "MazeBondsLaw" (173 : Nat) ({ cls := "MazeBondsModel", name := "leaves", desc := "(II)I" } : Jvm.MethodName)) ∈ lw_all := lw_g (lw_at lw_m8 181 rfl) rfl
theorem q1940 : (Jvm.Cond.methodLink "MazeBondsLaw" (176 : Nat) ({ cls := "MazeBondsModel", name := "isGap", desc := "(II)Z" } : Jvm.MethodName)) ∈ lw_all := lw_g (lw_at lw_m8 189 rfl) rfl
theorem q1944 : (Jvm.Cond.methodLink "MazeBondsLaw" (179 : Nat) ({ cls := "MazeBondsModel", name := "hours", desc := "(II)I" } : Jvm.MethodName)) ∈ lw_all := lw_g (lw_at lw_m8 193 rfl) rfl
theorem q1948 : (Jvm.Cond.methodLink "MazeBondsLaw" (182 : Nat) ({ cls := "MazeBondsModel", name := "hoursAgain", desc := "(II)I" } : Jvm.MethodName)) ∈ lw_all := lw_g (lw_at lw_m8 197 rfl) rfl
theorem q1953 : (Jvm.Cond.methodLink "MazeBondsLaw" (185 : Nat) ({ cls := "MazeBondsModel", name := "next", desc := "(I)I" } : Jvm.MethodName)) ∈ lw_all := lw_g (lw_at lw_m8 202 rfl) rfl
theorem q1957 : (Jvm.Cond.methodLink "MazeBondsLaw" (188 : Nat) ({ cls := "MazeBondsModel", name := "reached", desc := "(I)I" } : Jvm.MethodName)) ∈ lw_all := lw_g (lw_at lw_m8 206 rfl) rfl
theorem q1961 : (Jvm.Cond.methodLink "MazeBondsLaw" (191 : Nat) ({ cls := "MazeBondsModel", name := "trims", desc := "(I)I" } : Jvm.MethodName)) ∈ lw_all := lw_g (lw_at lw_m8 210 rfl) rfl
theorem q1965 : (Jvm.Cond.methodLink "MazeBondsLaw" (194 : Nat) ({ cls := "MazeBondsModel", name := "trimsAgain", desc := "(I)I" } : Jvm.MethodName)) ∈ lw_all := lw_g (lw_at lw_m8 214 rfl) rfl
theorem q1970 : (Jvm.Cond.methodLink "MazeBondsLaw" (197 : Nat) ({ cls := "MazeBondsModel", name := "isNeeded", desc := "(II)Z" } : Jvm.MethodName)) ∈ lw_all := lw_g (lw_at lw_m8 219 rfl) rfl
theorem q1974 : (Jvm.Cond.methodLink "MazeBondsLaw" (200 : Nat) ({ cls := "MazeBondsModel", name := "closesIn", desc := "(II)I" } : Jvm.MethodName)) ∈ lw_all := lw_g (lw_at lw_m8 223 rfl) rfl
theorem q1978 : (Jvm.Cond.methodLink "MazeBondsLaw" (204 : Nat) ({ cls := "MazeBondsModel", name := "summersLeft", desc := "()I" } : Jvm.MethodName)) ∈ lw_all := lw_g (lw_at lw_m8 227 rfl) rfl
theorem q1982 : (Jvm.Cond.methodLink "MazeBondsLaw" (207 : Nat) ({ cls := "MazeBondsModel", name := "gardenerOf", desc := "(II)I" } : Jvm.MethodName)) ∈ lw_all := lw_g (lw_at lw_m8 231 rfl) rfl
theorem q1994 : (Jvm.Cond.methodLink "MazeBondsLaw" (210 : Nat) ({ cls := "MazeBondsModel", name := "visitorOf", desc := "(II)I" } : Jvm.MethodName)) ∈ lw_all := lw_g (lw_at lw_m9 3 rfl) rfl
theorem q1998 : (Jvm.Cond.methodLink "MazeBondsLaw" (213 : Nat) ({ cls := "MazeBondsModel", name := "wouldPay", desc := "(I)I" } : Jvm.MethodName)) ∈ lw_all := lw_g (lw_at lw_m9 7 rfl) rfl
theorem q2002 : (Jvm.Cond.methodLink "MazeBondsLaw" (216 : Nat) ({ cls := "MazeBondsModel", name := "owed", desc := "(I)I" } : Jvm.MethodName)) ∈ lw_all := lw_g (lw_at lw_m9 11 rfl) rfl
theorem q2010 : (Jvm.Cond.methodLink "MazeBondsLaw" (219 : Nat) ({ cls := "MazeBondsModel", name := "ranked", desc := "(II)I" } : Jvm.MethodName)) ∈ lw_all := lw_g (lw_at lw_m9 19 rfl) rfl
theorem q2018 : (Jvm.Cond.methodLink "MazeBondsLaw" (222 : Nat) ({ cls := "MazeBondsModel", name := "richest", desc := "(I)I" } : Jvm.MethodName)) ∈ lw_all := lw_g (lw_at lw_m9 27 rfl) rfl
theorem q2022 : (Jvm.Cond.methodLink "MazeBondsLaw" (226 : Nat) ({ cls := "MazeBondsModel", name := "append", desc := "(C)I" } : Jvm.MethodName)) ∈ lw_all := lw_g (lw_at lw_m9 31 rfl) rfl
theorem q2026 : (Jvm.Cond.methodLink "MazeBondsLaw" (230 : Nat) ({ cls := "MazeBondsModel", name := "commands", desc := "()I" } : Jvm.MethodName)) ∈ lw_all := lw_g (lw_at lw_m9 35 rfl) rfl
theorem q2063 : (Jvm.Cond.methodLink "MazeBondsLaw" (234 : Nat) ({ cls := "MazeBondsModel", name := "faultPosition", desc := "()I" } : Jvm.MethodName)) ∈ lw_all := lw_g (lw_at lw_m9 72 rfl) rfl
theorem q2067 : (Jvm.Cond.methodLink "MazeBondsLaw" (237 : Nat) ({ cls := "MazeBondsModel", name := "reason", desc := "(I)I" } : Jvm.MethodName)) ∈ lw_all := lw_g (lw_at lw_m9 76 rfl) rfl
theorem q2072 : (Jvm.Cond.methodLink "MazeBondsLaw" (240 : Nat) ({ cls := "MazeBondsModel", name := "line", desc := "(I)I" } : Jvm.MethodName)) ∈ lw_all := lw_g (lw_at lw_m9 81 rfl) rfl
theorem q2084 : (Jvm.Cond.methodLink "MazeBondsLaw" (243 : Nat) ({ cls := "MazeBondsModel", name := "row", desc := "(I)I" } : Jvm.MethodName)) ∈ lw_all := lw_g (lw_at lw_m9 93 rfl) rfl
theorem q2092 : (Jvm.Cond.methodLink "MazeBondsLaw" (246 : Nat) ({ cls := "MazeBondsModel", name := "character", desc := "(I)C" } : Jvm.MethodName)) ∈ lw_all := lw_g (lw_at lw_m9 101 rfl) rfl
theorem q2096 : (Jvm.Cond.methodLink "MazeBondsLaw" (250 : Nat) ({ cls := "MazeBondsModel", name := "meanLost", desc := "()D" } : Jvm.MethodName)) ∈ lw_all := lw_g (lw_at lw_m9 105 rfl) rfl
theorem q2100 : (Jvm.Cond.methodLink "MazeBondsLaw" (255 : Nat) ({ cls := "MazeBondsModel", name := "gapShare", desc := "()F" } : Jvm.MethodName)) ∈ lw_all := lw_g (lw_at lw_m9 109 rfl) rfl
theorem q2105 : (Jvm.Cond.methodLink "MazeBondsLaw" (258 : Nat) ({ cls := "MazeBondsModel", name := "account", desc := "(I)I" } : Jvm.MethodName)) ∈ lw_all := lw_g (lw_at lw_m9 114 rfl) rfl
theorem q2121 : (Jvm.Cond.methodLink "MazeBondsLaw" (261 : Nat) ({ cls := "MazeBondsModel", name := "undo", desc := "()I" } : Jvm.MethodName)) ∈ lw_all := lw_g (lw_at lw_m9 130 rfl) rfl
theorem q2125 : (Jvm.Cond.methodLink "MazeBondsLaw" (265 : Nat) ({ cls := "MazeBondsModel", name := "save", desc := "()I" } : Jvm.MethodName)) ∈ lw_all := lw_g (lw_at lw_m9 134 rfl) rfl
theorem q2129 : (Jvm.Cond.methodLink "MazeBondsLaw" (268 : Nat) ({ cls := "MazeBondsModel", name := "restore", desc := "()I" } : Jvm.MethodName)) ∈ lw_all := lw_g (lw_at lw_m9 138 rfl) rfl
/-! MazeBonds -/
set_option maxRecDepth 100000
def RX1 : String := "MazeBonds"
def TX1 : u_T := fun k => match k with
  | 0 => ("MazeBonds", "core", "LMazeBonds$Core;", false)
  | 1 => ("MazeBonds", "before", "Ljava/util/ArrayList;", true)
  | 2 => ("MazeBonds", "saved", "LMazeBonds$Core;", false)
  | 3 => ("MazeBonds", "latest", "LMazeBonds$RefusedException;", false)
  | 4 => ("MazeBonds", "text", "[C", true)
  | 5 => ("MazeBonds", "textLength", "I", false)
  | 6 => ("MazeBonds", "fault", "I", false)
  | _ => ("MazeBonds", "written", "Ljava/lang/StringBuilder;", true)
def tyX1 : Nat → FieldType := fun k => match k with
  | 0 => .object "MazeBonds$Core"
  | 1 => .object "java/util/ArrayList"
  | 2 => .object "MazeBonds$Core"
  | 3 => .object "MazeBonds$RefusedException"
  | 4 => .array .char
  | 5 => .int
  | 6 => .int
  | _ => .object "java/lang/StringBuilder"
abbrev wsX10 : List Cond := u_ws RX1 TX1 8
theorem nmX1 : ∀ a, a < 8 → ∀ b, b < 8 → a ≠ b → (TX1 a).2.1 ≠ (TX1 b).2.1 := by decide +kernel
theorem tyX1_ok : ∀ k, k < 8 → parseFieldDescriptor (TX1 k).2.2.1 = some (tyX1 k) := by decide +kernel
abbrev cX1_init : ByteArray := prog_1_method_13_code
def yX1_init : MethodName := ⟨RX1, "<init>", "()V"⟩
def dkwX1_init_2 : List UInt8 := [181, 0, 71, 177]
abbrev dktX1_init_2 : List UInt8 := dkwX1_init_2 ++ []
def dkwX1_init_1 : List UInt8 := [181, 0, 56, 42, 16, 60, 188, 5, 181, 0, 60, 42, 2, 181, 0, 64, 42, 187, 0, 68, 89, 183, 0, 70]
abbrev dktX1_init_1 : List UInt8 := dkwX1_init_1 ++ dktX1_init_2
def dkwX1_init_0 : List UInt8 := [42, 183, 0, 43, 42, 187, 0, 46, 89, 183, 0, 48, 181, 0, 49, 42, 187, 0, 53, 89, 183, 0, 55]
abbrev dktX1_init_0 : List UInt8 := dkwX1_init_0 ++ dktX1_init_1
theorem dksX1_init_0 : cX1_init.data.toList.drop 0 = dktX1_init_0 := by decide +kernel
theorem dksX1_init_1 : cX1_init.data.toList.drop 23 = dktX1_init_1 := dk_seg dksX1_init_0 23 rfl rfl
theorem dksX1_init_2 : cX1_init.data.toList.drop 47 = dktX1_init_2 := dk_seg dksX1_init_1 24 rfl rfl
theorem dX1_init_0 : decode cX1_init 0 = .ok (.aload_n 0, 1) := dk_42 (dk_at dksX1_init_0 0 rfl rfl)
theorem dX1_init_1 : decode cX1_init 1 = .ok (.invokespecial 43, 3) := dk_183 0 43 (dk_at dksX1_init_0 1 rfl rfl)
theorem dX1_init_4 : decode cX1_init 4 = .ok (.aload_n 0, 1) := dk_42 (dk_at dksX1_init_0 4 rfl rfl)
theorem dX1_init_5 : decode cX1_init 5 = .ok (.new 46, 3) := dk_187 0 46 (dk_at dksX1_init_0 5 rfl rfl)
theorem dX1_init_8 : decode cX1_init 8 = .ok (.dup, 1) := dk_89 (dk_at dksX1_init_0 8 rfl rfl)
theorem dX1_init_9 : decode cX1_init 9 = .ok (.invokespecial 48, 3) := dk_183 0 48 (dk_at dksX1_init_0 9 rfl rfl)
theorem dX1_init_12 : decode cX1_init 12 = .ok (.putfield 49, 3) := dk_181 0 49 (dk_at dksX1_init_0 12 rfl rfl)
theorem dX1_init_15 : decode cX1_init 15 = .ok (.aload_n 0, 1) := dk_42 (dk_at dksX1_init_0 15 rfl rfl)
theorem dX1_init_16 : decode cX1_init 16 = .ok (.new 53, 3) := dk_187 0 53 (dk_at dksX1_init_0 16 rfl rfl)
theorem dX1_init_19 : decode cX1_init 19 = .ok (.dup, 1) := dk_89 (dk_at dksX1_init_0 19 rfl rfl)
theorem dX1_init_20 : decode cX1_init 20 = .ok (.invokespecial 55, 3) := dk_183 0 55 (dk_at dksX1_init_0 20 rfl rfl)
theorem dX1_init_23 : decode cX1_init 23 = .ok (.putfield 56, 3) := dk_181 0 56 (dk_at dksX1_init_1 0 rfl rfl)
theorem dX1_init_26 : decode cX1_init 26 = .ok (.aload_n 0, 1) := dk_42 (dk_at dksX1_init_1 3 rfl rfl)
theorem dX1_init_27 : decode cX1_init 27 = .ok (.bipush 60, 2) := dk_16 60 (dk_at dksX1_init_1 4 rfl rfl)
theorem dX1_init_29 : decode cX1_init 29 = .ok (.newarray .char, 2) := dk_188_5 (dk_at dksX1_init_1 6 rfl rfl)
theorem dX1_init_31 : decode cX1_init 31 = .ok (.putfield 60, 3) := dk_181 0 60 (dk_at dksX1_init_1 8 rfl rfl)
theorem dX1_init_34 : decode cX1_init 34 = .ok (.aload_n 0, 1) := dk_42 (dk_at dksX1_init_1 11 rfl rfl)
theorem dX1_init_35 : decode cX1_init 35 = .ok (.iconst (-1), 1) := dk_2 (dk_at dksX1_init_1 12 rfl rfl)
theorem dX1_init_36 : decode cX1_init 36 = .ok (.putfield 64, 3) := dk_181 0 64 (dk_at dksX1_init_1 13 rfl rfl)
theorem dX1_init_39 : decode cX1_init 39 = .ok (.aload_n 0, 1) := dk_42 (dk_at dksX1_init_1 16 rfl rfl)
theorem dX1_init_40 : decode cX1_init 40 = .ok (.new 68, 3) := dk_187 0 68 (dk_at dksX1_init_1 17 rfl rfl)
theorem dX1_init_43 : decode cX1_init 43 = .ok (.dup, 1) := dk_89 (dk_at dksX1_init_1 20 rfl rfl)
theorem dX1_init_44 : decode cX1_init 44 = .ok (.invokespecial 70, 3) := dk_183 0 70 (dk_at dksX1_init_1 21 rfl rfl)
theorem dX1_init_47 : decode cX1_init 47 = .ok (.putfield 71, 3) := dk_181 0 71 (dk_at dksX1_init_2 0 rfl rfl)
theorem dX1_init_50 : decode cX1_init 50 = .ok (.return_, 1) := dk_177 (dk_at dksX1_init_2 3 rfl rfl)
abbrev cX1_summer : ByteArray := prog_1_method_17_code
def yX1_summer : MethodName := ⟨RX1, "summer", "()I"⟩
def dkwX1_summer_0 : List UInt8 := [42, 180, 0, 49, 182, 0, 94, 76, 42, 43, 43, 182, 0, 110, 182, 0, 102, 172]
abbrev dktX1_summer_0 : List UInt8 := dkwX1_summer_0 ++ []
theorem dksX1_summer_0 : cX1_summer.data.toList.drop 0 = dktX1_summer_0 := by decide +kernel
theorem dX1_summer_0 : decode cX1_summer 0 = .ok (.aload_n 0, 1) := dk_42 (dk_at dksX1_summer_0 0 rfl rfl)
theorem dX1_summer_1 : decode cX1_summer 1 = .ok (.getfield 49, 3) := dk_180 0 49 (dk_at dksX1_summer_0 1 rfl rfl)
theorem dX1_summer_4 : decode cX1_summer 4 = .ok (.invokevirtual 94, 3) := dk_182 0 94 (dk_at dksX1_summer_0 4 rfl rfl)
theorem dX1_summer_7 : decode cX1_summer 7 = .ok (.astore_n 1, 1) := dk_76 (dk_at dksX1_summer_0 7 rfl rfl)
theorem dX1_summer_8 : decode cX1_summer 8 = .ok (.aload_n 0, 1) := dk_42 (dk_at dksX1_summer_0 8 rfl rfl)
theorem dX1_summer_9 : decode cX1_summer 9 = .ok (.aload_n 1, 1) := dk_43 (dk_at dksX1_summer_0 9 rfl rfl)
theorem dX1_summer_10 : decode cX1_summer 10 = .ok (.aload_n 1, 1) := dk_43 (dk_at dksX1_summer_0 10 rfl rfl)
theorem dX1_summer_11 : decode cX1_summer 11 = .ok (.invokevirtual 110, 3) := dk_182 0 110 (dk_at dksX1_summer_0 11 rfl rfl)
theorem dX1_summer_14 : decode cX1_summer 14 = .ok (.invokevirtual 102, 3) := dk_182 0 102 (dk_at dksX1_summer_0 14 rfl rfl)
theorem dX1_summer_17 : decode cX1_summer 17 = .ok (.ireturn, 1) := dk_172 (dk_at dksX1_summer_0 17 rfl rfl)
abbrev cX1_come : ByteArray := prog_1_method_15_code
def yX1_come : MethodName := ⟨RX1, "come", "(LMazeBonds$Core;I)I"⟩
def dkwX1_come_1 : List UInt8 := [180, 0, 56, 42, 180, 0, 49, 182, 0, 90, 87, 42, 43, 181, 0, 49, 28, 172]
abbrev dktX1_come_1 : List UInt8 := dkwX1_come_1 ++ []
def dkwX1_come_0 : List UInt8 := [42, 180, 0, 56, 182, 0, 82, 16, 8, 160, 0, 12, 42, 180, 0, 56, 3, 182, 0, 86, 87, 42]
abbrev dktX1_come_0 : List UInt8 := dkwX1_come_0 ++ dktX1_come_1
theorem dksX1_come_0 : cX1_come.data.toList.drop 0 = dktX1_come_0 := by decide +kernel
theorem dksX1_come_1 : cX1_come.data.toList.drop 22 = dktX1_come_1 := dk_seg dksX1_come_0 22 rfl rfl
theorem dX1_come_0 : decode cX1_come 0 = .ok (.aload_n 0, 1) := dk_42 (dk_at dksX1_come_0 0 rfl rfl)
theorem dX1_come_1 : decode cX1_come 1 = .ok (.getfield 56, 3) := dk_180 0 56 (dk_at dksX1_come_0 1 rfl rfl)
theorem dX1_come_4 : decode cX1_come 4 = .ok (.invokevirtual 82, 3) := dk_182 0 82 (dk_at dksX1_come_0 4 rfl rfl)
theorem dX1_come_7 : decode cX1_come 7 = .ok (.bipush 8, 2) := dk_16 8 (dk_at dksX1_come_0 7 rfl rfl)
theorem dX1_come_9 : decode cX1_come 9 = .ok (.if_icmp .ne 12, 3) := dk_160 0 12 (dk_at dksX1_come_0 9 rfl rfl)
theorem dX1_come_12 : decode cX1_come 12 = .ok (.aload_n 0, 1) := dk_42 (dk_at dksX1_come_0 12 rfl rfl)
theorem dX1_come_13 : decode cX1_come 13 = .ok (.getfield 56, 3) := dk_180 0 56 (dk_at dksX1_come_0 13 rfl rfl)
theorem dX1_come_16 : decode cX1_come 16 = .ok (.iconst 0, 1) := dk_3 (dk_at dksX1_come_0 16 rfl rfl)
theorem dX1_come_17 : decode cX1_come 17 = .ok (.invokevirtual 86, 3) := dk_182 0 86 (dk_at dksX1_come_0 17 rfl rfl)
theorem dX1_come_20 : decode cX1_come 20 = .ok (.pop, 1) := dk_87 (dk_at dksX1_come_0 20 rfl rfl)
theorem dX1_come_21 : decode cX1_come 21 = .ok (.aload_n 0, 1) := dk_42 (dk_at dksX1_come_0 21 rfl rfl)
theorem dX1_come_22 : decode cX1_come 22 = .ok (.getfield 56, 3) := dk_180 0 56 (dk_at dksX1_come_1 0 rfl rfl)
theorem dX1_come_25 : decode cX1_come 25 = .ok (.aload_n 0, 1) := dk_42 (dk_at dksX1_come_1 3 rfl rfl)
theorem dX1_come_26 : decode cX1_come 26 = .ok (.getfield 49, 3) := dk_180 0 49 (dk_at dksX1_come_1 4 rfl rfl)
theorem dX1_come_29 : decode cX1_come 29 = .ok (.invokevirtual 90, 3) := dk_182 0 90 (dk_at dksX1_come_1 7 rfl rfl)
theorem dX1_come_32 : decode cX1_come 32 = .ok (.pop, 1) := dk_87 (dk_at dksX1_come_1 10 rfl rfl)
theorem dX1_come_33 : decode cX1_come 33 = .ok (.aload_n 0, 1) := dk_42 (dk_at dksX1_come_1 11 rfl rfl)
theorem dX1_come_34 : decode cX1_come 34 = .ok (.aload_n 1, 1) := dk_43 (dk_at dksX1_come_1 12 rfl rfl)
theorem dX1_come_35 : decode cX1_come 35 = .ok (.putfield 49, 3) := dk_181 0 49 (dk_at dksX1_come_1 13 rfl rfl)
theorem dX1_come_38 : decode cX1_come 38 = .ok (.iload_n 2, 1) := dk_28 (dk_at dksX1_come_1 16 rfl rfl)
theorem dX1_come_39 : decode cX1_come 39 = .ok (.ireturn, 1) := dk_172 (dk_at dksX1_come_1 17 rfl rfl)
abbrev cX1_summersLeft : ByteArray := prog_1_method_37_code
def yX1_summersLeft : MethodName := ⟨RX1, "summersLeft", "()I"⟩
def dkwX1_summersLeft_1 : List UInt8 := [132, 2, 1, 167, 255, 241, 28, 172]
abbrev dktX1_summersLeft_1 : List UInt8 := dkwX1_summersLeft_1 ++ []
def dkwX1_summersLeft_0 : List UInt8 := [42, 180, 0, 49, 182, 0, 94, 76, 3, 61, 43, 182, 0, 178, 153, 0, 14, 43, 182, 0, 110, 87]
abbrev dktX1_summersLeft_0 : List UInt8 := dkwX1_summersLeft_0 ++ dktX1_summersLeft_1
theorem dksX1_summersLeft_0 : cX1_summersLeft.data.toList.drop 0 = dktX1_summersLeft_0 := by decide +kernel
theorem dksX1_summersLeft_1 : cX1_summersLeft.data.toList.drop 22 = dktX1_summersLeft_1 := dk_seg dksX1_summersLeft_0 22 rfl rfl
theorem dX1_summersLeft_0 : decode cX1_summersLeft 0 = .ok (.aload_n 0, 1) := dk_42 (dk_at dksX1_summersLeft_0 0 rfl rfl)
theorem dX1_summersLeft_1 : decode cX1_summersLeft 1 = .ok (.getfield 49, 3) := dk_180 0 49 (dk_at dksX1_summersLeft_0 1 rfl rfl)
theorem dX1_summersLeft_4 : decode cX1_summersLeft 4 = .ok (.invokevirtual 94, 3) := dk_182 0 94 (dk_at dksX1_summersLeft_0 4 rfl rfl)
theorem dX1_summersLeft_7 : decode cX1_summersLeft 7 = .ok (.astore_n 1, 1) := dk_76 (dk_at dksX1_summersLeft_0 7 rfl rfl)
theorem dX1_summersLeft_8 : decode cX1_summersLeft 8 = .ok (.iconst 0, 1) := dk_3 (dk_at dksX1_summersLeft_0 8 rfl rfl)
theorem dX1_summersLeft_9 : decode cX1_summersLeft 9 = .ok (.istore_n 2, 1) := dk_61 (dk_at dksX1_summersLeft_0 9 rfl rfl)
theorem dX1_summersLeft_10 : decode cX1_summersLeft 10 = .ok (.aload_n 1, 1) := dk_43 (dk_at dksX1_summersLeft_0 10 rfl rfl)
theorem dX1_summersLeft_11 : decode cX1_summersLeft 11 = .ok (.invokevirtual 178, 3) := dk_182 0 178 (dk_at dksX1_summersLeft_0 11 rfl rfl)
theorem dX1_summersLeft_14 : decode cX1_summersLeft 14 = .ok (.ifCond .eq 14, 3) := dk_153 0 14 (dk_at dksX1_summersLeft_0 14 rfl rfl)
theorem dX1_summersLeft_17 : decode cX1_summersLeft 17 = .ok (.aload_n 1, 1) := dk_43 (dk_at dksX1_summersLeft_0 17 rfl rfl)
theorem dX1_summersLeft_18 : decode cX1_summersLeft 18 = .ok (.invokevirtual 110, 3) := dk_182 0 110 (dk_at dksX1_summersLeft_0 18 rfl rfl)
theorem dX1_summersLeft_21 : decode cX1_summersLeft 21 = .ok (.pop, 1) := dk_87 (dk_at dksX1_summersLeft_0 21 rfl rfl)
theorem dX1_summersLeft_22 : decode cX1_summersLeft 22 = .ok (.iinc 2 1, 3) := dk_132 2 1 (dk_at dksX1_summersLeft_1 0 rfl rfl)
theorem dX1_summersLeft_25 : decode cX1_summersLeft 25 = .ok (.goto (-15), 3) := dk_167 255 241 (dk_at dksX1_summersLeft_1 3 rfl rfl)
theorem dX1_summersLeft_28 : decode cX1_summersLeft 28 = .ok (.iload_n 2, 1) := dk_28 (dk_at dksX1_summersLeft_1 6 rfl rfl)
theorem dX1_summersLeft_29 : decode cX1_summersLeft 29 = .ok (.ireturn, 1) := dk_172 (dk_at dksX1_summersLeft_1 7 rfl rfl)
abbrev cX1_neighbour : ByteArray := prog_1_method_11_code
def yX1_neighbour : MethodName := ⟨RX1, "neighbour", "(II)I"⟩
def dkwX1_neighbour_4 : List UInt8 := [2, 167, 0, 6, 26, 4, 100, 172]
abbrev dktX1_neighbour_4 : List UInt8 := dkwX1_neighbour_4 ++ []
def dkwX1_neighbour_3 : List UInt8 := [26, 4, 96, 172, 26, 16, 12, 161, 0, 7, 2, 167, 0, 6, 26, 7, 96, 172, 26, 7, 112, 154, 0, 7]
abbrev dktX1_neighbour_3 : List UInt8 := dkwX1_neighbour_3 ++ dktX1_neighbour_4
def dkwX1_neighbour_2 : List UInt8 := [26, 7, 162, 0, 7, 2, 167, 0, 6, 26, 7, 100, 172, 26, 7, 112, 6, 160, 0, 7, 2, 167, 0, 6]
abbrev dktX1_neighbour_2 : List UInt8 := dkwX1_neighbour_2 ++ dktX1_neighbour_3
def dkwX1_neighbour_1 : List UInt8 := [170, 0, 0, 0, 0, 0, 69, 0, 0, 0, 0, 0, 0, 0, 2, 0, 0, 0, 27, 0, 0, 0, 40, 0, 0, 0, 55]
abbrev dktX1_neighbour_1 : List UInt8 := dkwX1_neighbour_1 ++ dktX1_neighbour_2
def dkwX1_neighbour_0 : List UInt8 := [27]
abbrev dktX1_neighbour_0 : List UInt8 := dkwX1_neighbour_0 ++ dktX1_neighbour_1
theorem dksX1_neighbour_0 : cX1_neighbour.data.toList.drop 0 = dktX1_neighbour_0 := by decide +kernel
theorem dksX1_neighbour_1 : cX1_neighbour.data.toList.drop 1 = dktX1_neighbour_1 := dk_seg dksX1_neighbour_0 1 rfl rfl
theorem dksX1_neighbour_2 : cX1_neighbour.data.toList.drop 28 = dktX1_neighbour_2 := dk_seg dksX1_neighbour_1 27 rfl rfl
theorem dksX1_neighbour_3 : cX1_neighbour.data.toList.drop 52 = dktX1_neighbour_3 := dk_seg dksX1_neighbour_2 24 rfl rfl
theorem dksX1_neighbour_4 : cX1_neighbour.data.toList.drop 76 = dktX1_neighbour_4 := dk_seg dksX1_neighbour_3 24 rfl rfl
theorem dX1_neighbour_0 : decode cX1_neighbour 0 = .ok (.iload_n 1, 1) := dk_27 (dk_at dksX1_neighbour_0 0 rfl rfl)
theorem dX1_neighbour_1 : decode cX1_neighbour 1 = .ok (.tableswitch 69 0 2 #[27, 40, 55], 27) := by decide +kernel
theorem dX1_neighbour_28 : decode cX1_neighbour 28 = .ok (.iload_n 0, 1) := dk_26 (dk_at dksX1_neighbour_2 0 rfl rfl)
theorem dX1_neighbour_29 : decode cX1_neighbour 29 = .ok (.iconst 4, 1) := dk_7 (dk_at dksX1_neighbour_2 1 rfl rfl)
theorem dX1_neighbour_30 : decode cX1_neighbour 30 = .ok (.if_icmp .ge 7, 3) := dk_162 0 7 (dk_at dksX1_neighbour_2 2 rfl rfl)
theorem dX1_neighbour_33 : decode cX1_neighbour 33 = .ok (.iconst (-1), 1) := dk_2 (dk_at dksX1_neighbour_2 5 rfl rfl)
theorem dX1_neighbour_34 : decode cX1_neighbour 34 = .ok (.goto 6, 3) := dk_167 0 6 (dk_at dksX1_neighbour_2 6 rfl rfl)
theorem dX1_neighbour_37 : decode cX1_neighbour 37 = .ok (.iload_n 0, 1) := dk_26 (dk_at dksX1_neighbour_2 9 rfl rfl)
theorem dX1_neighbour_38 : decode cX1_neighbour 38 = .ok (.iconst 4, 1) := dk_7 (dk_at dksX1_neighbour_2 10 rfl rfl)
theorem dX1_neighbour_39 : decode cX1_neighbour 39 = .ok (.isub, 1) := dk_100 (dk_at dksX1_neighbour_2 11 rfl rfl)
theorem dX1_neighbour_40 : decode cX1_neighbour 40 = .ok (.ireturn, 1) := dk_172 (dk_at dksX1_neighbour_2 12 rfl rfl)
theorem dX1_neighbour_41 : decode cX1_neighbour 41 = .ok (.iload_n 0, 1) := dk_26 (dk_at dksX1_neighbour_2 13 rfl rfl)
theorem dX1_neighbour_42 : decode cX1_neighbour 42 = .ok (.iconst 4, 1) := dk_7 (dk_at dksX1_neighbour_2 14 rfl rfl)
theorem dX1_neighbour_43 : decode cX1_neighbour 43 = .ok (.irem, 1) := dk_112 (dk_at dksX1_neighbour_2 15 rfl rfl)
theorem dX1_neighbour_44 : decode cX1_neighbour 44 = .ok (.iconst 3, 1) := dk_6 (dk_at dksX1_neighbour_2 16 rfl rfl)
theorem dX1_neighbour_45 : decode cX1_neighbour 45 = .ok (.if_icmp .ne 7, 3) := dk_160 0 7 (dk_at dksX1_neighbour_2 17 rfl rfl)
theorem dX1_neighbour_48 : decode cX1_neighbour 48 = .ok (.iconst (-1), 1) := dk_2 (dk_at dksX1_neighbour_2 20 rfl rfl)
theorem dX1_neighbour_49 : decode cX1_neighbour 49 = .ok (.goto 6, 3) := dk_167 0 6 (dk_at dksX1_neighbour_2 21 rfl rfl)
theorem dX1_neighbour_52 : decode cX1_neighbour 52 = .ok (.iload_n 0, 1) := dk_26 (dk_at dksX1_neighbour_3 0 rfl rfl)
theorem dX1_neighbour_53 : decode cX1_neighbour 53 = .ok (.iconst 1, 1) := dk_4 (dk_at dksX1_neighbour_3 1 rfl rfl)
theorem dX1_neighbour_54 : decode cX1_neighbour 54 = .ok (.iadd, 1) := dk_96 (dk_at dksX1_neighbour_3 2 rfl rfl)
theorem dX1_neighbour_55 : decode cX1_neighbour 55 = .ok (.ireturn, 1) := dk_172 (dk_at dksX1_neighbour_3 3 rfl rfl)
theorem dX1_neighbour_56 : decode cX1_neighbour 56 = .ok (.iload_n 0, 1) := dk_26 (dk_at dksX1_neighbour_3 4 rfl rfl)
theorem dX1_neighbour_57 : decode cX1_neighbour 57 = .ok (.bipush 12, 2) := dk_16 12 (dk_at dksX1_neighbour_3 5 rfl rfl)
theorem dX1_neighbour_59 : decode cX1_neighbour 59 = .ok (.if_icmp .lt 7, 3) := dk_161 0 7 (dk_at dksX1_neighbour_3 7 rfl rfl)
theorem dX1_neighbour_62 : decode cX1_neighbour 62 = .ok (.iconst (-1), 1) := dk_2 (dk_at dksX1_neighbour_3 10 rfl rfl)
theorem dX1_neighbour_63 : decode cX1_neighbour 63 = .ok (.goto 6, 3) := dk_167 0 6 (dk_at dksX1_neighbour_3 11 rfl rfl)
theorem dX1_neighbour_66 : decode cX1_neighbour 66 = .ok (.iload_n 0, 1) := dk_26 (dk_at dksX1_neighbour_3 14 rfl rfl)
theorem dX1_neighbour_67 : decode cX1_neighbour 67 = .ok (.iconst 4, 1) := dk_7 (dk_at dksX1_neighbour_3 15 rfl rfl)
theorem dX1_neighbour_68 : decode cX1_neighbour 68 = .ok (.iadd, 1) := dk_96 (dk_at dksX1_neighbour_3 16 rfl rfl)
theorem dX1_neighbour_69 : decode cX1_neighbour 69 = .ok (.ireturn, 1) := dk_172 (dk_at dksX1_neighbour_3 17 rfl rfl)
theorem dX1_neighbour_70 : decode cX1_neighbour 70 = .ok (.iload_n 0, 1) := dk_26 (dk_at dksX1_neighbour_3 18 rfl rfl)
theorem dX1_neighbour_71 : decode cX1_neighbour 71 = .ok (.iconst 4, 1) := dk_7 (dk_at dksX1_neighbour_3 19 rfl rfl)
theorem dX1_neighbour_72 : decode cX1_neighbour 72 = .ok (.irem, 1) := dk_112 (dk_at dksX1_neighbour_3 20 rfl rfl)
theorem dX1_neighbour_73 : decode cX1_neighbour 73 = .ok (.ifCond .ne 7, 3) := dk_154 0 7 (dk_at dksX1_neighbour_3 21 rfl rfl)
theorem dX1_neighbour_76 : decode cX1_neighbour 76 = .ok (.iconst (-1), 1) := dk_2 (dk_at dksX1_neighbour_4 0 rfl rfl)
theorem dX1_neighbour_77 : decode cX1_neighbour 77 = .ok (.goto 6, 3) := dk_167 0 6 (dk_at dksX1_neighbour_4 1 rfl rfl)
theorem dX1_neighbour_80 : decode cX1_neighbour 80 = .ok (.iload_n 0, 1) := dk_26 (dk_at dksX1_neighbour_4 4 rfl rfl)
theorem dX1_neighbour_81 : decode cX1_neighbour 81 = .ok (.iconst 1, 1) := dk_4 (dk_at dksX1_neighbour_4 5 rfl rfl)
theorem dX1_neighbour_82 : decode cX1_neighbour 82 = .ok (.isub, 1) := dk_100 (dk_at dksX1_neighbour_4 6 rfl rfl)
theorem dX1_neighbour_83 : decode cX1_neighbour 83 = .ok (.ireturn, 1) := dk_172 (dk_at dksX1_neighbour_4 7 rfl rfl)
abbrev cX1_hedgeOf : ByteArray := prog_1_method_12_code
def yX1_hedgeOf : MethodName := ⟨RX1, "hedgeOf", "(II)I"⟩
def dkwX1_hedgeOf_2 : List UInt8 := [167, 0, 4, 2, 172]
abbrev dktX1_hedgeOf_2 : List UInt8 := dkwX1_hedgeOf_2 ++ []
def dkwX1_hedgeOf_1 : List UInt8 := [162, 0, 13, 28, 7, 108, 6, 104, 28, 7, 112, 96, 172, 29, 28, 7, 96, 160, 0, 10, 16, 12, 28, 96]
abbrev dktX1_hedgeOf_1 : List UInt8 := dkwX1_hedgeOf_1 ++ dktX1_hedgeOf_2
def dkwX1_hedgeOf_0 : List UInt8 := [26, 27, 184, 0, 34, 61, 26, 27, 184, 0, 40, 62, 29, 28, 4, 96, 160, 0, 20, 28, 7, 112, 6]
abbrev dktX1_hedgeOf_0 : List UInt8 := dkwX1_hedgeOf_0 ++ dktX1_hedgeOf_1
theorem dksX1_hedgeOf_0 : cX1_hedgeOf.data.toList.drop 0 = dktX1_hedgeOf_0 := by decide +kernel
theorem dksX1_hedgeOf_1 : cX1_hedgeOf.data.toList.drop 23 = dktX1_hedgeOf_1 := dk_seg dksX1_hedgeOf_0 23 rfl rfl
theorem dksX1_hedgeOf_2 : cX1_hedgeOf.data.toList.drop 47 = dktX1_hedgeOf_2 := dk_seg dksX1_hedgeOf_1 24 rfl rfl
theorem dX1_hedgeOf_0 : decode cX1_hedgeOf 0 = .ok (.iload_n 0, 1) := dk_26 (dk_at dksX1_hedgeOf_0 0 rfl rfl)
theorem dX1_hedgeOf_1 : decode cX1_hedgeOf 1 = .ok (.iload_n 1, 1) := dk_27 (dk_at dksX1_hedgeOf_0 1 rfl rfl)
theorem dX1_hedgeOf_2 : decode cX1_hedgeOf 2 = .ok (.invokestatic 34, 3) := dk_184 0 34 (dk_at dksX1_hedgeOf_0 2 rfl rfl)
theorem dX1_hedgeOf_5 : decode cX1_hedgeOf 5 = .ok (.istore_n 2, 1) := dk_61 (dk_at dksX1_hedgeOf_0 5 rfl rfl)
theorem dX1_hedgeOf_6 : decode cX1_hedgeOf 6 = .ok (.iload_n 0, 1) := dk_26 (dk_at dksX1_hedgeOf_0 6 rfl rfl)
theorem dX1_hedgeOf_7 : decode cX1_hedgeOf 7 = .ok (.iload_n 1, 1) := dk_27 (dk_at dksX1_hedgeOf_0 7 rfl rfl)
theorem dX1_hedgeOf_8 : decode cX1_hedgeOf 8 = .ok (.invokestatic 40, 3) := dk_184 0 40 (dk_at dksX1_hedgeOf_0 8 rfl rfl)
theorem dX1_hedgeOf_11 : decode cX1_hedgeOf 11 = .ok (.istore_n 3, 1) := dk_62 (dk_at dksX1_hedgeOf_0 11 rfl rfl)
theorem dX1_hedgeOf_12 : decode cX1_hedgeOf 12 = .ok (.iload_n 3, 1) := dk_29 (dk_at dksX1_hedgeOf_0 12 rfl rfl)
theorem dX1_hedgeOf_13 : decode cX1_hedgeOf 13 = .ok (.iload_n 2, 1) := dk_28 (dk_at dksX1_hedgeOf_0 13 rfl rfl)
theorem dX1_hedgeOf_14 : decode cX1_hedgeOf 14 = .ok (.iconst 1, 1) := dk_4 (dk_at dksX1_hedgeOf_0 14 rfl rfl)
theorem dX1_hedgeOf_15 : decode cX1_hedgeOf 15 = .ok (.iadd, 1) := dk_96 (dk_at dksX1_hedgeOf_0 15 rfl rfl)
theorem dX1_hedgeOf_16 : decode cX1_hedgeOf 16 = .ok (.if_icmp .ne 20, 3) := dk_160 0 20 (dk_at dksX1_hedgeOf_0 16 rfl rfl)
theorem dX1_hedgeOf_19 : decode cX1_hedgeOf 19 = .ok (.iload_n 2, 1) := dk_28 (dk_at dksX1_hedgeOf_0 19 rfl rfl)
theorem dX1_hedgeOf_20 : decode cX1_hedgeOf 20 = .ok (.iconst 4, 1) := dk_7 (dk_at dksX1_hedgeOf_0 20 rfl rfl)
theorem dX1_hedgeOf_21 : decode cX1_hedgeOf 21 = .ok (.irem, 1) := dk_112 (dk_at dksX1_hedgeOf_0 21 rfl rfl)
theorem dX1_hedgeOf_22 : decode cX1_hedgeOf 22 = .ok (.iconst 3, 1) := dk_6 (dk_at dksX1_hedgeOf_0 22 rfl rfl)
theorem dX1_hedgeOf_23 : decode cX1_hedgeOf 23 = .ok (.if_icmp .ge 13, 3) := dk_162 0 13 (dk_at dksX1_hedgeOf_1 0 rfl rfl)
theorem dX1_hedgeOf_26 : decode cX1_hedgeOf 26 = .ok (.iload_n 2, 1) := dk_28 (dk_at dksX1_hedgeOf_1 3 rfl rfl)
theorem dX1_hedgeOf_27 : decode cX1_hedgeOf 27 = .ok (.iconst 4, 1) := dk_7 (dk_at dksX1_hedgeOf_1 4 rfl rfl)
theorem dX1_hedgeOf_28 : decode cX1_hedgeOf 28 = .ok (.idiv, 1) := dk_108 (dk_at dksX1_hedgeOf_1 5 rfl rfl)
theorem dX1_hedgeOf_29 : decode cX1_hedgeOf 29 = .ok (.iconst 3, 1) := dk_6 (dk_at dksX1_hedgeOf_1 6 rfl rfl)
theorem dX1_hedgeOf_30 : decode cX1_hedgeOf 30 = .ok (.imul, 1) := dk_104 (dk_at dksX1_hedgeOf_1 7 rfl rfl)
theorem dX1_hedgeOf_31 : decode cX1_hedgeOf 31 = .ok (.iload_n 2, 1) := dk_28 (dk_at dksX1_hedgeOf_1 8 rfl rfl)
theorem dX1_hedgeOf_32 : decode cX1_hedgeOf 32 = .ok (.iconst 4, 1) := dk_7 (dk_at dksX1_hedgeOf_1 9 rfl rfl)
theorem dX1_hedgeOf_33 : decode cX1_hedgeOf 33 = .ok (.irem, 1) := dk_112 (dk_at dksX1_hedgeOf_1 10 rfl rfl)
theorem dX1_hedgeOf_34 : decode cX1_hedgeOf 34 = .ok (.iadd, 1) := dk_96 (dk_at dksX1_hedgeOf_1 11 rfl rfl)
theorem dX1_hedgeOf_35 : decode cX1_hedgeOf 35 = .ok (.ireturn, 1) := dk_172 (dk_at dksX1_hedgeOf_1 12 rfl rfl)
theorem dX1_hedgeOf_36 : decode cX1_hedgeOf 36 = .ok (.iload_n 3, 1) := dk_29 (dk_at dksX1_hedgeOf_1 13 rfl rfl)
theorem dX1_hedgeOf_37 : decode cX1_hedgeOf 37 = .ok (.iload_n 2, 1) := dk_28 (dk_at dksX1_hedgeOf_1 14 rfl rfl)
theorem dX1_hedgeOf_38 : decode cX1_hedgeOf 38 = .ok (.iconst 4, 1) := dk_7 (dk_at dksX1_hedgeOf_1 15 rfl rfl)
theorem dX1_hedgeOf_39 : decode cX1_hedgeOf 39 = .ok (.iadd, 1) := dk_96 (dk_at dksX1_hedgeOf_1 16 rfl rfl)
theorem dX1_hedgeOf_40 : decode cX1_hedgeOf 40 = .ok (.if_icmp .ne 10, 3) := dk_160 0 10 (dk_at dksX1_hedgeOf_1 17 rfl rfl)
theorem dX1_hedgeOf_43 : decode cX1_hedgeOf 43 = .ok (.bipush 12, 2) := dk_16 12 (dk_at dksX1_hedgeOf_1 20 rfl rfl)
theorem dX1_hedgeOf_45 : decode cX1_hedgeOf 45 = .ok (.iload_n 2, 1) := dk_28 (dk_at dksX1_hedgeOf_1 22 rfl rfl)
theorem dX1_hedgeOf_46 : decode cX1_hedgeOf 46 = .ok (.iadd, 1) := dk_96 (dk_at dksX1_hedgeOf_1 23 rfl rfl)
theorem dX1_hedgeOf_47 : decode cX1_hedgeOf 47 = .ok (.goto 4, 3) := dk_167 0 4 (dk_at dksX1_hedgeOf_2 0 rfl rfl)
theorem dX1_hedgeOf_50 : decode cX1_hedgeOf 50 = .ok (.iconst (-1), 1) := dk_2 (dk_at dksX1_hedgeOf_2 3 rfl rfl)
theorem dX1_hedgeOf_51 : decode cX1_hedgeOf 51 = .ok (.ireturn, 1) := dk_172 (dk_at dksX1_hedgeOf_2 4 rfl rfl)
abbrev cX1_faultPosition : ByteArray := prog_1_method_50_code
def yX1_faultPosition : MethodName := ⟨RX1, "faultPosition", "()I"⟩
theorem dX1_faultPosition_0 : decode cX1_faultPosition 0 = .ok (.aload_n 0, 1) := by decide +kernel
theorem dX1_faultPosition_1 : decode cX1_faultPosition 1 = .ok (.getfield 64, 3) := by decide +kernel
theorem dX1_faultPosition_4 : decode cX1_faultPosition 4 = .ok (.ireturn, 1) := by decide +kernel
abbrev cX1_gapShare : ByteArray := prog_1_method_56_code
def yX1_gapShare : MethodName := ⟨RX1, "gapShare", "()F"⟩
def dkwX1_gapShare_0 : List UInt8 := [42, 180, 0, 49, 182, 1, 89, 134, 19, 1, 92, 110, 174]
abbrev dktX1_gapShare_0 : List UInt8 := dkwX1_gapShare_0 ++ []
theorem dksX1_gapShare_0 : cX1_gapShare.data.toList.drop 0 = dktX1_gapShare_0 := by decide +kernel
theorem dX1_gapShare_0 : decode cX1_gapShare 0 = .ok (.aload_n 0, 1) := dk_42 (dk_at dksX1_gapShare_0 0 rfl rfl)
theorem dX1_gapShare_1 : decode cX1_gapShare 1 = .ok (.getfield 49, 3) := dk_180 0 49 (dk_at dksX1_gapShare_0 1 rfl rfl)
theorem dX1_gapShare_4 : decode cX1_gapShare 4 = .ok (.invokevirtual 345, 3) := dk_182 1 89 (dk_at dksX1_gapShare_0 4 rfl rfl)
theorem dX1_gapShare_7 : decode cX1_gapShare 7 = .ok (.i2f, 1) := dk_134 (dk_at dksX1_gapShare_0 7 rfl rfl)
theorem dX1_gapShare_8 : decode cX1_gapShare 8 = .ok (.ldc_w 348, 3) := dk_19 1 92 (dk_at dksX1_gapShare_0 8 rfl rfl)
theorem dX1_gapShare_11 : decode cX1_gapShare 11 = .ok (.fdiv, 1) := dk_110 (dk_at dksX1_gapShare_0 11 rfl rfl)
theorem dX1_gapShare_12 : decode cX1_gapShare 12 = .ok (.freturn, 1) := dk_174 (dk_at dksX1_gapShare_0 12 rfl rfl)
abbrev cX1_save : ByteArray := prog_1_method_61_code
def yX1_save : MethodName := ⟨RX1, "save", "()I"⟩
def dkwX1_save_0 : List UInt8 := [42, 42, 180, 0, 49, 182, 0, 94, 181, 1, 121, 42, 180, 0, 49, 180, 0, 197, 182, 0, 82, 172]
abbrev dktX1_save_0 : List UInt8 := dkwX1_save_0 ++ []
theorem dksX1_save_0 : cX1_save.data.toList.drop 0 = dktX1_save_0 := by decide +kernel
theorem dX1_save_0 : decode cX1_save 0 = .ok (.aload_n 0, 1) := dk_42 (dk_at dksX1_save_0 0 rfl rfl)
theorem dX1_save_1 : decode cX1_save 1 = .ok (.aload_n 0, 1) := dk_42 (dk_at dksX1_save_0 1 rfl rfl)
theorem dX1_save_2 : decode cX1_save 2 = .ok (.getfield 49, 3) := dk_180 0 49 (dk_at dksX1_save_0 2 rfl rfl)
theorem dX1_save_5 : decode cX1_save 5 = .ok (.invokevirtual 94, 3) := dk_182 0 94 (dk_at dksX1_save_0 5 rfl rfl)
theorem dX1_save_8 : decode cX1_save 8 = .ok (.putfield 377, 3) := dk_181 1 121 (dk_at dksX1_save_0 8 rfl rfl)
theorem dX1_save_11 : decode cX1_save 11 = .ok (.aload_n 0, 1) := dk_42 (dk_at dksX1_save_0 11 rfl rfl)
theorem dX1_save_12 : decode cX1_save 12 = .ok (.getfield 49, 3) := dk_180 0 49 (dk_at dksX1_save_0 12 rfl rfl)
theorem dX1_save_15 : decode cX1_save 15 = .ok (.getfield 197, 3) := dk_180 0 197 (dk_at dksX1_save_0 15 rfl rfl)
theorem dX1_save_18 : decode cX1_save 18 = .ok (.invokevirtual 82, 3) := dk_182 0 82 (dk_at dksX1_save_0 18 rfl rfl)
theorem dX1_save_21 : decode cX1_save 21 = .ok (.ireturn, 1) := dk_172 (dk_at dksX1_save_0 21 rfl rfl)
abbrev cX1_hedge : ByteArray := prog_1_method_16_code
def yX1_hedge : MethodName := ⟨RX1, "hedge", "(III)I"⟩
def dkwX1_hedge_1 : List UInt8 := [58, 4, 42, 25, 4, 182, 0, 106, 191]
abbrev dktX1_hedge_1 : List UInt8 := dkwX1_hedge_1 ++ []
def dkwX1_hedge_0 : List UInt8 := [42, 180, 0, 49, 182, 0, 94, 58, 4, 42, 25, 4, 25, 4, 27, 28, 29, 182, 0, 98, 182, 0, 102, 172]
abbrev dktX1_hedge_0 : List UInt8 := dkwX1_hedge_0 ++ dktX1_hedge_1
theorem dksX1_hedge_0 : cX1_hedge.data.toList.drop 0 = dktX1_hedge_0 := by decide +kernel
theorem dksX1_hedge_1 : cX1_hedge.data.toList.drop 24 = dktX1_hedge_1 := dk_seg dksX1_hedge_0 24 rfl rfl
theorem dX1_hedge_0 : decode cX1_hedge 0 = .ok (.aload_n 0, 1) := dk_42 (dk_at dksX1_hedge_0 0 rfl rfl)
theorem dX1_hedge_1 : decode cX1_hedge 1 = .ok (.getfield 49, 3) := dk_180 0 49 (dk_at dksX1_hedge_0 1 rfl rfl)
theorem dX1_hedge_4 : decode cX1_hedge 4 = .ok (.invokevirtual 94, 3) := dk_182 0 94 (dk_at dksX1_hedge_0 4 rfl rfl)
theorem dX1_hedge_7 : decode cX1_hedge 7 = .ok (.astore 4, 2) := dk_58 4 (dk_at dksX1_hedge_0 7 rfl rfl)
theorem dX1_hedge_9 : decode cX1_hedge 9 = .ok (.aload_n 0, 1) := dk_42 (dk_at dksX1_hedge_0 9 rfl rfl)
theorem dX1_hedge_10 : decode cX1_hedge 10 = .ok (.aload 4, 2) := dk_25 4 (dk_at dksX1_hedge_0 10 rfl rfl)
theorem dX1_hedge_12 : decode cX1_hedge 12 = .ok (.aload 4, 2) := dk_25 4 (dk_at dksX1_hedge_0 12 rfl rfl)
theorem dX1_hedge_14 : decode cX1_hedge 14 = .ok (.iload_n 1, 1) := dk_27 (dk_at dksX1_hedge_0 14 rfl rfl)
theorem dX1_hedge_15 : decode cX1_hedge 15 = .ok (.iload_n 2, 1) := dk_28 (dk_at dksX1_hedge_0 15 rfl rfl)
theorem dX1_hedge_16 : decode cX1_hedge 16 = .ok (.iload_n 3, 1) := dk_29 (dk_at dksX1_hedge_0 16 rfl rfl)
theorem dX1_hedge_17 : decode cX1_hedge 17 = .ok (.invokevirtual 98, 3) := dk_182 0 98 (dk_at dksX1_hedge_0 17 rfl rfl)
theorem dX1_hedge_20 : decode cX1_hedge 20 = .ok (.invokevirtual 102, 3) := dk_182 0 102 (dk_at dksX1_hedge_0 20 rfl rfl)
theorem dX1_hedge_23 : decode cX1_hedge 23 = .ok (.ireturn, 1) := dk_172 (dk_at dksX1_hedge_0 23 rfl rfl)
theorem dX1_hedge_24 : decode cX1_hedge 24 = .ok (.astore 4, 2) := dk_58 4 (dk_at dksX1_hedge_1 0 rfl rfl)
theorem dX1_hedge_26 : decode cX1_hedge 26 = .ok (.aload_n 0, 1) := dk_42 (dk_at dksX1_hedge_1 2 rfl rfl)
theorem dX1_hedge_27 : decode cX1_hedge 27 = .ok (.aload 4, 2) := dk_25 4 (dk_at dksX1_hedge_1 3 rfl rfl)
theorem dX1_hedge_29 : decode cX1_hedge 29 = .ok (.invokevirtual 106, 3) := dk_182 0 106 (dk_at dksX1_hedge_1 5 rfl rfl)
theorem dX1_hedge_32 : decode cX1_hedge 32 = .ok (.athrow, 1) := dk_191 (dk_at dksX1_hedge_1 8 rfl rfl)
abbrev cX1_areCells : ByteArray := prog_1_method_2_code
def yX1_areCells : MethodName := ⟨RX1, "areCells", "([I)Z"⟩
def dkwX1_areCells_1 : List UInt8 := [21, 5, 3, 16, 15, 184, 0, 3, 126, 60, 132, 4, 1, 167, 255, 230, 27, 172]
abbrev dktX1_areCells_1 : List UInt8 := dkwX1_areCells_1 ++ []
def dkwX1_areCells_0 : List UInt8 := [4, 60, 42, 77, 44, 190, 62, 3, 54, 4, 21, 4, 29, 162, 0, 26, 44, 21, 4, 46, 54, 5, 27]
abbrev dktX1_areCells_0 : List UInt8 := dkwX1_areCells_0 ++ dktX1_areCells_1
theorem dksX1_areCells_0 : cX1_areCells.data.toList.drop 0 = dktX1_areCells_0 := by decide +kernel
theorem dksX1_areCells_1 : cX1_areCells.data.toList.drop 23 = dktX1_areCells_1 := dk_seg dksX1_areCells_0 23 rfl rfl
theorem dX1_areCells_0 : decode cX1_areCells 0 = .ok (.iconst 1, 1) := dk_4 (dk_at dksX1_areCells_0 0 rfl rfl)
theorem dX1_areCells_1 : decode cX1_areCells 1 = .ok (.istore_n 1, 1) := dk_60 (dk_at dksX1_areCells_0 1 rfl rfl)
theorem dX1_areCells_2 : decode cX1_areCells 2 = .ok (.aload_n 0, 1) := dk_42 (dk_at dksX1_areCells_0 2 rfl rfl)
theorem dX1_areCells_3 : decode cX1_areCells 3 = .ok (.astore_n 2, 1) := dk_77 (dk_at dksX1_areCells_0 3 rfl rfl)
theorem dX1_areCells_4 : decode cX1_areCells 4 = .ok (.aload_n 2, 1) := dk_44 (dk_at dksX1_areCells_0 4 rfl rfl)
theorem dX1_areCells_5 : decode cX1_areCells 5 = .ok (.arraylength, 1) := dk_190 (dk_at dksX1_areCells_0 5 rfl rfl)
theorem dX1_areCells_6 : decode cX1_areCells 6 = .ok (.istore_n 3, 1) := dk_62 (dk_at dksX1_areCells_0 6 rfl rfl)
theorem dX1_areCells_7 : decode cX1_areCells 7 = .ok (.iconst 0, 1) := dk_3 (dk_at dksX1_areCells_0 7 rfl rfl)
theorem dX1_areCells_8 : decode cX1_areCells 8 = .ok (.istore 4, 2) := dk_54 4 (dk_at dksX1_areCells_0 8 rfl rfl)
theorem dX1_areCells_10 : decode cX1_areCells 10 = .ok (.iload 4, 2) := dk_21 4 (dk_at dksX1_areCells_0 10 rfl rfl)
theorem dX1_areCells_12 : decode cX1_areCells 12 = .ok (.iload_n 3, 1) := dk_29 (dk_at dksX1_areCells_0 12 rfl rfl)
theorem dX1_areCells_13 : decode cX1_areCells 13 = .ok (.if_icmp .ge 26, 3) := dk_162 0 26 (dk_at dksX1_areCells_0 13 rfl rfl)
theorem dX1_areCells_16 : decode cX1_areCells 16 = .ok (.aload_n 2, 1) := dk_44 (dk_at dksX1_areCells_0 16 rfl rfl)
theorem dX1_areCells_17 : decode cX1_areCells 17 = .ok (.iload 4, 2) := dk_21 4 (dk_at dksX1_areCells_0 17 rfl rfl)
theorem dX1_areCells_19 : decode cX1_areCells 19 = .ok (.iaload, 1) := dk_46 (dk_at dksX1_areCells_0 19 rfl rfl)
theorem dX1_areCells_20 : decode cX1_areCells 20 = .ok (.istore 5, 2) := dk_54 5 (dk_at dksX1_areCells_0 20 rfl rfl)
theorem dX1_areCells_22 : decode cX1_areCells 22 = .ok (.iload_n 1, 1) := dk_27 (dk_at dksX1_areCells_0 22 rfl rfl)
theorem dX1_areCells_23 : decode cX1_areCells 23 = .ok (.iload 5, 2) := dk_21 5 (dk_at dksX1_areCells_1 0 rfl rfl)
theorem dX1_areCells_25 : decode cX1_areCells 25 = .ok (.iconst 0, 1) := dk_3 (dk_at dksX1_areCells_1 2 rfl rfl)
theorem dX1_areCells_26 : decode cX1_areCells 26 = .ok (.bipush 15, 2) := dk_16 15 (dk_at dksX1_areCells_1 3 rfl rfl)
theorem dX1_areCells_28 : decode cX1_areCells 28 = .ok (.invokestatic 3, 3) := dk_184 0 3 (dk_at dksX1_areCells_1 5 rfl rfl)
theorem dX1_areCells_31 : decode cX1_areCells 31 = .ok (.iand, 1) := dk_126 (dk_at dksX1_areCells_1 8 rfl rfl)
theorem dX1_areCells_32 : decode cX1_areCells 32 = .ok (.istore_n 1, 1) := dk_60 (dk_at dksX1_areCells_1 9 rfl rfl)
theorem dX1_areCells_33 : decode cX1_areCells 33 = .ok (.iinc 4 1, 3) := dk_132 4 1 (dk_at dksX1_areCells_1 10 rfl rfl)
theorem dX1_areCells_36 : decode cX1_areCells 36 = .ok (.goto (-26), 3) := dk_167 255 230 (dk_at dksX1_areCells_1 13 rfl rfl)
theorem dX1_areCells_39 : decode cX1_areCells 39 = .ok (.iload_n 1, 1) := dk_27 (dk_at dksX1_areCells_1 16 rfl rfl)
theorem dX1_areCells_40 : decode cX1_areCells 40 = .ok (.ireturn, 1) := dk_172 (dk_at dksX1_areCells_1 17 rfl rfl)
abbrev cX1_isIn : ByteArray := prog_1_method_1_code
def yX1_isIn : MethodName := ⟨RX1, "isIn", "(III)Z"⟩
def dkwX1_isIn_0 : List UInt8 := [26, 27, 161, 0, 12, 26, 28, 163, 0, 7, 4, 167, 0, 4, 3, 172]
abbrev dktX1_isIn_0 : List UInt8 := dkwX1_isIn_0 ++ []
theorem dksX1_isIn_0 : cX1_isIn.data.toList.drop 0 = dktX1_isIn_0 := by decide +kernel
theorem dX1_isIn_0 : decode cX1_isIn 0 = .ok (.iload_n 0, 1) := dk_26 (dk_at dksX1_isIn_0 0 rfl rfl)
theorem dX1_isIn_1 : decode cX1_isIn 1 = .ok (.iload_n 1, 1) := dk_27 (dk_at dksX1_isIn_0 1 rfl rfl)
theorem dX1_isIn_2 : decode cX1_isIn 2 = .ok (.if_icmp .lt 12, 3) := dk_161 0 12 (dk_at dksX1_isIn_0 2 rfl rfl)
theorem dX1_isIn_5 : decode cX1_isIn 5 = .ok (.iload_n 0, 1) := dk_26 (dk_at dksX1_isIn_0 5 rfl rfl)
theorem dX1_isIn_6 : decode cX1_isIn 6 = .ok (.iload_n 2, 1) := dk_28 (dk_at dksX1_isIn_0 6 rfl rfl)
theorem dX1_isIn_7 : decode cX1_isIn 7 = .ok (.if_icmp .gt 7, 3) := dk_163 0 7 (dk_at dksX1_isIn_0 7 rfl rfl)
theorem dX1_isIn_10 : decode cX1_isIn 10 = .ok (.iconst 1, 1) := dk_4 (dk_at dksX1_isIn_0 10 rfl rfl)
theorem dX1_isIn_11 : decode cX1_isIn 11 = .ok (.goto 4, 3) := dk_167 0 4 (dk_at dksX1_isIn_0 11 rfl rfl)
theorem dX1_isIn_14 : decode cX1_isIn 14 = .ok (.iconst 0, 1) := dk_3 (dk_at dksX1_isIn_0 14 rfl rfl)
theorem dX1_isIn_15 : decode cX1_isIn 15 = .ok (.ireturn, 1) := dk_172 (dk_at dksX1_isIn_0 15 rfl rfl)
abbrev cX1_requireRange : ByteArray := prog_1_method_10_code
def yX1_requireRange : MethodName := ⟨RX1, "requireRange", "(Z)V"⟩
def dkwX1_requireRange_0 : List UInt8 := [26, 154, 0, 7, 4, 167, 0, 4, 3, 4, 3, 184, 0, 30, 177]
abbrev dktX1_requireRange_0 : List UInt8 := dkwX1_requireRange_0 ++ []
theorem dksX1_requireRange_0 : cX1_requireRange.data.toList.drop 0 = dktX1_requireRange_0 := by decide +kernel
theorem dX1_requireRange_0 : decode cX1_requireRange 0 = .ok (.iload_n 0, 1) := dk_26 (dk_at dksX1_requireRange_0 0 rfl rfl)
theorem dX1_requireRange_1 : decode cX1_requireRange 1 = .ok (.ifCond .ne 7, 3) := dk_154 0 7 (dk_at dksX1_requireRange_0 1 rfl rfl)
theorem dX1_requireRange_4 : decode cX1_requireRange 4 = .ok (.iconst 1, 1) := dk_4 (dk_at dksX1_requireRange_0 4 rfl rfl)
theorem dX1_requireRange_5 : decode cX1_requireRange 5 = .ok (.goto 4, 3) := dk_167 0 4 (dk_at dksX1_requireRange_0 5 rfl rfl)
theorem dX1_requireRange_8 : decode cX1_requireRange 8 = .ok (.iconst 0, 1) := dk_3 (dk_at dksX1_requireRange_0 8 rfl rfl)
theorem dX1_requireRange_9 : decode cX1_requireRange 9 = .ok (.iconst 1, 1) := dk_4 (dk_at dksX1_requireRange_0 9 rfl rfl)
theorem dX1_requireRange_10 : decode cX1_requireRange 10 = .ok (.iconst 0, 1) := dk_3 (dk_at dksX1_requireRange_0 10 rfl rfl)
theorem dX1_requireRange_11 : decode cX1_requireRange 11 = .ok (.invokestatic 30, 3) := dk_184 0 30 (dk_at dksX1_requireRange_0 11 rfl rfl)
theorem dX1_requireRange_14 : decode cX1_requireRange 14 = .ok (.return_, 1) := dk_177 (dk_at dksX1_requireRange_0 14 rfl rfl)
abbrev cX1_refuse : ByteArray := prog_1_method_9_code
def yX1_refuse : MethodName := ⟨RX1, "refuse", "(ZII)V"⟩
def dkwX1_refuse_0 : List UInt8 := [26, 153, 0, 13, 187, 0, 25, 89, 27, 28, 183, 0, 27, 191, 177]
abbrev dktX1_refuse_0 : List UInt8 := dkwX1_refuse_0 ++ []
theorem dksX1_refuse_0 : cX1_refuse.data.toList.drop 0 = dktX1_refuse_0 := by decide +kernel
theorem dX1_refuse_0 : decode cX1_refuse 0 = .ok (.iload_n 0, 1) := dk_26 (dk_at dksX1_refuse_0 0 rfl rfl)
theorem dX1_refuse_1 : decode cX1_refuse 1 = .ok (.ifCond .eq 13, 3) := dk_153 0 13 (dk_at dksX1_refuse_0 1 rfl rfl)
theorem dX1_refuse_4 : decode cX1_refuse 4 = .ok (.new 25, 3) := dk_187 0 25 (dk_at dksX1_refuse_0 4 rfl rfl)
theorem dX1_refuse_7 : decode cX1_refuse 7 = .ok (.dup, 1) := dk_89 (dk_at dksX1_refuse_0 7 rfl rfl)
theorem dX1_refuse_8 : decode cX1_refuse 8 = .ok (.iload_n 1, 1) := dk_27 (dk_at dksX1_refuse_0 8 rfl rfl)
theorem dX1_refuse_9 : decode cX1_refuse 9 = .ok (.iload_n 2, 1) := dk_28 (dk_at dksX1_refuse_0 9 rfl rfl)
theorem dX1_refuse_10 : decode cX1_refuse 10 = .ok (.invokespecial 27, 3) := dk_183 0 27 (dk_at dksX1_refuse_0 10 rfl rfl)
theorem dX1_refuse_13 : decode cX1_refuse 13 = .ok (.athrow, 1) := dk_191 (dk_at dksX1_refuse_0 13 rfl rfl)
theorem dX1_refuse_14 : decode cX1_refuse 14 = .ok (.return_, 1) := dk_177 (dk_at dksX1_refuse_0 14 rfl rfl)
abbrev cX1_keep : ByteArray := prog_1_method_14_code
def yX1_keep : MethodName := ⟨RX1, "keep", "(LMazeBonds$RefusedException;)Ljava/lang/UnsupportedOperationException;"⟩
def dkwX1_keep_0 : List UInt8 := [42, 43, 181, 0, 75, 187, 0, 79, 89, 183, 0, 81, 176]
abbrev dktX1_keep_0 : List UInt8 := dkwX1_keep_0 ++ []
theorem dksX1_keep_0 : cX1_keep.data.toList.drop 0 = dktX1_keep_0 := by decide +kernel
theorem dX1_keep_0 : decode cX1_keep 0 = .ok (.aload_n 0, 1) := dk_42 (dk_at dksX1_keep_0 0 rfl rfl)
theorem dX1_keep_1 : decode cX1_keep 1 = .ok (.aload_n 1, 1) := dk_43 (dk_at dksX1_keep_0 1 rfl rfl)
theorem dX1_keep_2 : decode cX1_keep 2 = .ok (.putfield 75, 3) := dk_181 0 75 (dk_at dksX1_keep_0 2 rfl rfl)
theorem dX1_keep_5 : decode cX1_keep 5 = .ok (.new 79, 3) := dk_187 0 79 (dk_at dksX1_keep_0 5 rfl rfl)
theorem dX1_keep_8 : decode cX1_keep 8 = .ok (.dup, 1) := dk_89 (dk_at dksX1_keep_0 8 rfl rfl)
theorem dX1_keep_9 : decode cX1_keep 9 = .ok (.invokespecial 81, 3) := dk_183 0 81 (dk_at dksX1_keep_0 9 rfl rfl)
theorem dX1_keep_12 : decode cX1_keep 12 = .ok (.areturn, 1) := dk_176 (dk_at dksX1_keep_0 12 rfl rfl)
abbrev cX1_trim : ByteArray := prog_1_method_18_code
def yX1_trim : MethodName := ⟨RX1, "trim", "(III)I"⟩
def dkwX1_trim_1 : List UInt8 := [58, 4, 42, 25, 4, 182, 0, 106, 191]
abbrev dktX1_trim_1 : List UInt8 := dkwX1_trim_1 ++ []
def dkwX1_trim_0 : List UInt8 := [42, 180, 0, 49, 182, 0, 94, 58, 4, 42, 25, 4, 25, 4, 27, 28, 29, 182, 0, 113, 182, 0, 102, 172]
abbrev dktX1_trim_0 : List UInt8 := dkwX1_trim_0 ++ dktX1_trim_1
theorem dksX1_trim_0 : cX1_trim.data.toList.drop 0 = dktX1_trim_0 := by decide +kernel
theorem dksX1_trim_1 : cX1_trim.data.toList.drop 24 = dktX1_trim_1 := dk_seg dksX1_trim_0 24 rfl rfl
theorem dX1_trim_0 : decode cX1_trim 0 = .ok (.aload_n 0, 1) := dk_42 (dk_at dksX1_trim_0 0 rfl rfl)
theorem dX1_trim_1 : decode cX1_trim 1 = .ok (.getfield 49, 3) := dk_180 0 49 (dk_at dksX1_trim_0 1 rfl rfl)
theorem dX1_trim_4 : decode cX1_trim 4 = .ok (.invokevirtual 94, 3) := dk_182 0 94 (dk_at dksX1_trim_0 4 rfl rfl)
theorem dX1_trim_7 : decode cX1_trim 7 = .ok (.astore 4, 2) := dk_58 4 (dk_at dksX1_trim_0 7 rfl rfl)
theorem dX1_trim_9 : decode cX1_trim 9 = .ok (.aload_n 0, 1) := dk_42 (dk_at dksX1_trim_0 9 rfl rfl)
theorem dX1_trim_10 : decode cX1_trim 10 = .ok (.aload 4, 2) := dk_25 4 (dk_at dksX1_trim_0 10 rfl rfl)
theorem dX1_trim_12 : decode cX1_trim 12 = .ok (.aload 4, 2) := dk_25 4 (dk_at dksX1_trim_0 12 rfl rfl)
theorem dX1_trim_14 : decode cX1_trim 14 = .ok (.iload_n 1, 1) := dk_27 (dk_at dksX1_trim_0 14 rfl rfl)
theorem dX1_trim_15 : decode cX1_trim 15 = .ok (.iload_n 2, 1) := dk_28 (dk_at dksX1_trim_0 15 rfl rfl)
theorem dX1_trim_16 : decode cX1_trim 16 = .ok (.iload_n 3, 1) := dk_29 (dk_at dksX1_trim_0 16 rfl rfl)
theorem dX1_trim_17 : decode cX1_trim 17 = .ok (.invokevirtual 113, 3) := dk_182 0 113 (dk_at dksX1_trim_0 17 rfl rfl)
theorem dX1_trim_20 : decode cX1_trim 20 = .ok (.invokevirtual 102, 3) := dk_182 0 102 (dk_at dksX1_trim_0 20 rfl rfl)
theorem dX1_trim_23 : decode cX1_trim 23 = .ok (.ireturn, 1) := dk_172 (dk_at dksX1_trim_0 23 rfl rfl)
theorem dX1_trim_24 : decode cX1_trim 24 = .ok (.astore 4, 2) := dk_58 4 (dk_at dksX1_trim_1 0 rfl rfl)
theorem dX1_trim_26 : decode cX1_trim 26 = .ok (.aload_n 0, 1) := dk_42 (dk_at dksX1_trim_1 2 rfl rfl)
theorem dX1_trim_27 : decode cX1_trim 27 = .ok (.aload 4, 2) := dk_25 4 (dk_at dksX1_trim_1 3 rfl rfl)
theorem dX1_trim_29 : decode cX1_trim 29 = .ok (.invokevirtual 106, 3) := dk_182 0 106 (dk_at dksX1_trim_1 5 rfl rfl)
theorem dX1_trim_32 : decode cX1_trim 32 = .ok (.athrow, 1) := dk_191 (dk_at dksX1_trim_1 8 rfl rfl)
abbrev cX1_minotaur : ByteArray := prog_1_method_19_code
def yX1_minotaur : MethodName := ⟨RX1, "minotaur", "(I)I"⟩
def dkwX1_minotaur_1 : List UInt8 := [182, 0, 106, 191]
abbrev dktX1_minotaur_1 : List UInt8 := dkwX1_minotaur_1 ++ []
def dkwX1_minotaur_0 : List UInt8 := [42, 180, 0, 49, 182, 0, 94, 77, 42, 44, 44, 27, 182, 0, 116, 182, 0, 102, 172, 77, 42, 44]
abbrev dktX1_minotaur_0 : List UInt8 := dkwX1_minotaur_0 ++ dktX1_minotaur_1
theorem dksX1_minotaur_0 : cX1_minotaur.data.toList.drop 0 = dktX1_minotaur_0 := by decide +kernel
theorem dksX1_minotaur_1 : cX1_minotaur.data.toList.drop 22 = dktX1_minotaur_1 := dk_seg dksX1_minotaur_0 22 rfl rfl
theorem dX1_minotaur_0 : decode cX1_minotaur 0 = .ok (.aload_n 0, 1) := dk_42 (dk_at dksX1_minotaur_0 0 rfl rfl)
theorem dX1_minotaur_1 : decode cX1_minotaur 1 = .ok (.getfield 49, 3) := dk_180 0 49 (dk_at dksX1_minotaur_0 1 rfl rfl)
theorem dX1_minotaur_4 : decode cX1_minotaur 4 = .ok (.invokevirtual 94, 3) := dk_182 0 94 (dk_at dksX1_minotaur_0 4 rfl rfl)
theorem dX1_minotaur_7 : decode cX1_minotaur 7 = .ok (.astore_n 2, 1) := dk_77 (dk_at dksX1_minotaur_0 7 rfl rfl)
theorem dX1_minotaur_8 : decode cX1_minotaur 8 = .ok (.aload_n 0, 1) := dk_42 (dk_at dksX1_minotaur_0 8 rfl rfl)
theorem dX1_minotaur_9 : decode cX1_minotaur 9 = .ok (.aload_n 2, 1) := dk_44 (dk_at dksX1_minotaur_0 9 rfl rfl)
theorem dX1_minotaur_10 : decode cX1_minotaur 10 = .ok (.aload_n 2, 1) := dk_44 (dk_at dksX1_minotaur_0 10 rfl rfl)
theorem dX1_minotaur_11 : decode cX1_minotaur 11 = .ok (.iload_n 1, 1) := dk_27 (dk_at dksX1_minotaur_0 11 rfl rfl)
theorem dX1_minotaur_12 : decode cX1_minotaur 12 = .ok (.invokevirtual 116, 3) := dk_182 0 116 (dk_at dksX1_minotaur_0 12 rfl rfl)
theorem dX1_minotaur_15 : decode cX1_minotaur 15 = .ok (.invokevirtual 102, 3) := dk_182 0 102 (dk_at dksX1_minotaur_0 15 rfl rfl)
theorem dX1_minotaur_18 : decode cX1_minotaur 18 = .ok (.ireturn, 1) := dk_172 (dk_at dksX1_minotaur_0 18 rfl rfl)
theorem dX1_minotaur_19 : decode cX1_minotaur 19 = .ok (.astore_n 2, 1) := dk_77 (dk_at dksX1_minotaur_0 19 rfl rfl)
theorem dX1_minotaur_20 : decode cX1_minotaur 20 = .ok (.aload_n 0, 1) := dk_42 (dk_at dksX1_minotaur_0 20 rfl rfl)
theorem dX1_minotaur_21 : decode cX1_minotaur 21 = .ok (.aload_n 2, 1) := dk_44 (dk_at dksX1_minotaur_0 21 rfl rfl)
theorem dX1_minotaur_22 : decode cX1_minotaur 22 = .ok (.invokevirtual 106, 3) := dk_182 0 106 (dk_at dksX1_minotaur_1 0 rfl rfl)
theorem dX1_minotaur_25 : decode cX1_minotaur 25 = .ok (.athrow, 1) := dk_191 (dk_at dksX1_minotaur_1 3 rfl rfl)
abbrev cX1_gardener : ByteArray := prog_1_method_20_code
def yX1_gardener : MethodName := ⟨RX1, "gardener", "(I)I"⟩
def dkwX1_gardener_1 : List UInt8 := [182, 0, 106, 191]
abbrev dktX1_gardener_1 : List UInt8 := dkwX1_gardener_1 ++ []
def dkwX1_gardener_0 : List UInt8 := [42, 180, 0, 49, 182, 0, 94, 77, 42, 44, 44, 27, 182, 0, 120, 182, 0, 102, 172, 77, 42, 44]
abbrev dktX1_gardener_0 : List UInt8 := dkwX1_gardener_0 ++ dktX1_gardener_1
theorem dksX1_gardener_0 : cX1_gardener.data.toList.drop 0 = dktX1_gardener_0 := by decide +kernel
theorem dksX1_gardener_1 : cX1_gardener.data.toList.drop 22 = dktX1_gardener_1 := dk_seg dksX1_gardener_0 22 rfl rfl
theorem dX1_gardener_0 : decode cX1_gardener 0 = .ok (.aload_n 0, 1) := dk_42 (dk_at dksX1_gardener_0 0 rfl rfl)
theorem dX1_gardener_1 : decode cX1_gardener 1 = .ok (.getfield 49, 3) := dk_180 0 49 (dk_at dksX1_gardener_0 1 rfl rfl)
theorem dX1_gardener_4 : decode cX1_gardener 4 = .ok (.invokevirtual 94, 3) := dk_182 0 94 (dk_at dksX1_gardener_0 4 rfl rfl)
theorem dX1_gardener_7 : decode cX1_gardener 7 = .ok (.astore_n 2, 1) := dk_77 (dk_at dksX1_gardener_0 7 rfl rfl)
theorem dX1_gardener_8 : decode cX1_gardener 8 = .ok (.aload_n 0, 1) := dk_42 (dk_at dksX1_gardener_0 8 rfl rfl)
theorem dX1_gardener_9 : decode cX1_gardener 9 = .ok (.aload_n 2, 1) := dk_44 (dk_at dksX1_gardener_0 9 rfl rfl)
theorem dX1_gardener_10 : decode cX1_gardener 10 = .ok (.aload_n 2, 1) := dk_44 (dk_at dksX1_gardener_0 10 rfl rfl)
theorem dX1_gardener_11 : decode cX1_gardener 11 = .ok (.iload_n 1, 1) := dk_27 (dk_at dksX1_gardener_0 11 rfl rfl)
theorem dX1_gardener_12 : decode cX1_gardener 12 = .ok (.invokevirtual 120, 3) := dk_182 0 120 (dk_at dksX1_gardener_0 12 rfl rfl)
theorem dX1_gardener_15 : decode cX1_gardener 15 = .ok (.invokevirtual 102, 3) := dk_182 0 102 (dk_at dksX1_gardener_0 15 rfl rfl)
theorem dX1_gardener_18 : decode cX1_gardener 18 = .ok (.ireturn, 1) := dk_172 (dk_at dksX1_gardener_0 18 rfl rfl)
theorem dX1_gardener_19 : decode cX1_gardener 19 = .ok (.astore_n 2, 1) := dk_77 (dk_at dksX1_gardener_0 19 rfl rfl)
theorem dX1_gardener_20 : decode cX1_gardener 20 = .ok (.aload_n 0, 1) := dk_42 (dk_at dksX1_gardener_0 20 rfl rfl)
theorem dX1_gardener_21 : decode cX1_gardener 21 = .ok (.aload_n 2, 1) := dk_44 (dk_at dksX1_gardener_0 21 rfl rfl)
theorem dX1_gardener_22 : decode cX1_gardener 22 = .ok (.invokevirtual 106, 3) := dk_182 0 106 (dk_at dksX1_gardener_1 0 rfl rfl)
theorem dX1_gardener_25 : decode cX1_gardener 25 = .ok (.athrow, 1) := dk_191 (dk_at dksX1_gardener_1 3 rfl rfl)
abbrev cX1_visitor : ByteArray := prog_1_method_21_code
def yX1_visitor : MethodName := ⟨RX1, "visitor", "(I)I"⟩
def dkwX1_visitor_1 : List UInt8 := [182, 0, 106, 191]
abbrev dktX1_visitor_1 : List UInt8 := dkwX1_visitor_1 ++ []
def dkwX1_visitor_0 : List UInt8 := [42, 180, 0, 49, 182, 0, 94, 77, 42, 44, 44, 27, 182, 0, 123, 182, 0, 102, 172, 77, 42, 44]
abbrev dktX1_visitor_0 : List UInt8 := dkwX1_visitor_0 ++ dktX1_visitor_1
theorem dksX1_visitor_0 : cX1_visitor.data.toList.drop 0 = dktX1_visitor_0 := by decide +kernel
theorem dksX1_visitor_1 : cX1_visitor.data.toList.drop 22 = dktX1_visitor_1 := dk_seg dksX1_visitor_0 22 rfl rfl
theorem dX1_visitor_0 : decode cX1_visitor 0 = .ok (.aload_n 0, 1) := dk_42 (dk_at dksX1_visitor_0 0 rfl rfl)
theorem dX1_visitor_1 : decode cX1_visitor 1 = .ok (.getfield 49, 3) := dk_180 0 49 (dk_at dksX1_visitor_0 1 rfl rfl)
theorem dX1_visitor_4 : decode cX1_visitor 4 = .ok (.invokevirtual 94, 3) := dk_182 0 94 (dk_at dksX1_visitor_0 4 rfl rfl)
theorem dX1_visitor_7 : decode cX1_visitor 7 = .ok (.astore_n 2, 1) := dk_77 (dk_at dksX1_visitor_0 7 rfl rfl)
theorem dX1_visitor_8 : decode cX1_visitor 8 = .ok (.aload_n 0, 1) := dk_42 (dk_at dksX1_visitor_0 8 rfl rfl)
theorem dX1_visitor_9 : decode cX1_visitor 9 = .ok (.aload_n 2, 1) := dk_44 (dk_at dksX1_visitor_0 9 rfl rfl)
theorem dX1_visitor_10 : decode cX1_visitor 10 = .ok (.aload_n 2, 1) := dk_44 (dk_at dksX1_visitor_0 10 rfl rfl)
theorem dX1_visitor_11 : decode cX1_visitor 11 = .ok (.iload_n 1, 1) := dk_27 (dk_at dksX1_visitor_0 11 rfl rfl)
theorem dX1_visitor_12 : decode cX1_visitor 12 = .ok (.invokevirtual 123, 3) := dk_182 0 123 (dk_at dksX1_visitor_0 12 rfl rfl)
theorem dX1_visitor_15 : decode cX1_visitor 15 = .ok (.invokevirtual 102, 3) := dk_182 0 102 (dk_at dksX1_visitor_0 15 rfl rfl)
theorem dX1_visitor_18 : decode cX1_visitor 18 = .ok (.ireturn, 1) := dk_172 (dk_at dksX1_visitor_0 18 rfl rfl)
theorem dX1_visitor_19 : decode cX1_visitor 19 = .ok (.astore_n 2, 1) := dk_77 (dk_at dksX1_visitor_0 19 rfl rfl)
theorem dX1_visitor_20 : decode cX1_visitor 20 = .ok (.aload_n 0, 1) := dk_42 (dk_at dksX1_visitor_0 20 rfl rfl)
theorem dX1_visitor_21 : decode cX1_visitor 21 = .ok (.aload_n 2, 1) := dk_44 (dk_at dksX1_visitor_0 21 rfl rfl)
theorem dX1_visitor_22 : decode cX1_visitor 22 = .ok (.invokevirtual 106, 3) := dk_182 0 106 (dk_at dksX1_visitor_1 0 rfl rfl)
theorem dX1_visitor_25 : decode cX1_visitor 25 = .ok (.athrow, 1) := dk_191 (dk_at dksX1_visitor_1 3 rfl rfl)
abbrev cX1_bond : ByteArray := prog_1_method_22_code
def yX1_bond : MethodName := ⟨RX1, "bond", "(III)I"⟩
def dkwX1_bond_1 : List UInt8 := [58, 4, 42, 25, 4, 182, 0, 106, 191]
abbrev dktX1_bond_1 : List UInt8 := dkwX1_bond_1 ++ []
def dkwX1_bond_0 : List UInt8 := [42, 180, 0, 49, 182, 0, 94, 58, 4, 42, 25, 4, 25, 4, 27, 28, 29, 182, 0, 126, 182, 0, 102, 172]
abbrev dktX1_bond_0 : List UInt8 := dkwX1_bond_0 ++ dktX1_bond_1
theorem dksX1_bond_0 : cX1_bond.data.toList.drop 0 = dktX1_bond_0 := by decide +kernel
theorem dksX1_bond_1 : cX1_bond.data.toList.drop 24 = dktX1_bond_1 := dk_seg dksX1_bond_0 24 rfl rfl
theorem dX1_bond_0 : decode cX1_bond 0 = .ok (.aload_n 0, 1) := dk_42 (dk_at dksX1_bond_0 0 rfl rfl)
theorem dX1_bond_1 : decode cX1_bond 1 = .ok (.getfield 49, 3) := dk_180 0 49 (dk_at dksX1_bond_0 1 rfl rfl)
theorem dX1_bond_4 : decode cX1_bond 4 = .ok (.invokevirtual 94, 3) := dk_182 0 94 (dk_at dksX1_bond_0 4 rfl rfl)
theorem dX1_bond_7 : decode cX1_bond 7 = .ok (.astore 4, 2) := dk_58 4 (dk_at dksX1_bond_0 7 rfl rfl)
theorem dX1_bond_9 : decode cX1_bond 9 = .ok (.aload_n 0, 1) := dk_42 (dk_at dksX1_bond_0 9 rfl rfl)
theorem dX1_bond_10 : decode cX1_bond 10 = .ok (.aload 4, 2) := dk_25 4 (dk_at dksX1_bond_0 10 rfl rfl)
theorem dX1_bond_12 : decode cX1_bond 12 = .ok (.aload 4, 2) := dk_25 4 (dk_at dksX1_bond_0 12 rfl rfl)
theorem dX1_bond_14 : decode cX1_bond 14 = .ok (.iload_n 1, 1) := dk_27 (dk_at dksX1_bond_0 14 rfl rfl)
theorem dX1_bond_15 : decode cX1_bond 15 = .ok (.iload_n 2, 1) := dk_28 (dk_at dksX1_bond_0 15 rfl rfl)
theorem dX1_bond_16 : decode cX1_bond 16 = .ok (.iload_n 3, 1) := dk_29 (dk_at dksX1_bond_0 16 rfl rfl)
theorem dX1_bond_17 : decode cX1_bond 17 = .ok (.invokevirtual 126, 3) := dk_182 0 126 (dk_at dksX1_bond_0 17 rfl rfl)
theorem dX1_bond_20 : decode cX1_bond 20 = .ok (.invokevirtual 102, 3) := dk_182 0 102 (dk_at dksX1_bond_0 20 rfl rfl)
theorem dX1_bond_23 : decode cX1_bond 23 = .ok (.ireturn, 1) := dk_172 (dk_at dksX1_bond_0 23 rfl rfl)
theorem dX1_bond_24 : decode cX1_bond 24 = .ok (.astore 4, 2) := dk_58 4 (dk_at dksX1_bond_1 0 rfl rfl)
theorem dX1_bond_26 : decode cX1_bond 26 = .ok (.aload_n 0, 1) := dk_42 (dk_at dksX1_bond_1 2 rfl rfl)
theorem dX1_bond_27 : decode cX1_bond 27 = .ok (.aload 4, 2) := dk_25 4 (dk_at dksX1_bond_1 3 rfl rfl)
theorem dX1_bond_29 : decode cX1_bond 29 = .ok (.invokevirtual 106, 3) := dk_182 0 106 (dk_at dksX1_bond_1 5 rfl rfl)
theorem dX1_bond_32 : decode cX1_bond 32 = .ok (.athrow, 1) := dk_191 (dk_at dksX1_bond_1 8 rfl rfl)
abbrev cX1_walk : ByteArray := prog_1_method_23_code
def yX1_walk : MethodName := ⟨RX1, "walk", "(II)I"⟩
def dkwX1_walk_1 : List UInt8 := [182, 0, 106, 191]
abbrev dktX1_walk_1 : List UInt8 := dkwX1_walk_1 ++ []
def dkwX1_walk_0 : List UInt8 := [42, 180, 0, 49, 182, 0, 94, 78, 42, 45, 45, 27, 28, 182, 0, 129, 182, 0, 102, 172, 78, 42, 45]
abbrev dktX1_walk_0 : List UInt8 := dkwX1_walk_0 ++ dktX1_walk_1
theorem dksX1_walk_0 : cX1_walk.data.toList.drop 0 = dktX1_walk_0 := by decide +kernel
theorem dksX1_walk_1 : cX1_walk.data.toList.drop 23 = dktX1_walk_1 := dk_seg dksX1_walk_0 23 rfl rfl
theorem dX1_walk_0 : decode cX1_walk 0 = .ok (.aload_n 0, 1) := dk_42 (dk_at dksX1_walk_0 0 rfl rfl)
theorem dX1_walk_1 : decode cX1_walk 1 = .ok (.getfield 49, 3) := dk_180 0 49 (dk_at dksX1_walk_0 1 rfl rfl)
theorem dX1_walk_4 : decode cX1_walk 4 = .ok (.invokevirtual 94, 3) := dk_182 0 94 (dk_at dksX1_walk_0 4 rfl rfl)
theorem dX1_walk_7 : decode cX1_walk 7 = .ok (.astore_n 3, 1) := dk_78 (dk_at dksX1_walk_0 7 rfl rfl)
theorem dX1_walk_8 : decode cX1_walk 8 = .ok (.aload_n 0, 1) := dk_42 (dk_at dksX1_walk_0 8 rfl rfl)
theorem dX1_walk_9 : decode cX1_walk 9 = .ok (.aload_n 3, 1) := dk_45 (dk_at dksX1_walk_0 9 rfl rfl)
theorem dX1_walk_10 : decode cX1_walk 10 = .ok (.aload_n 3, 1) := dk_45 (dk_at dksX1_walk_0 10 rfl rfl)
theorem dX1_walk_11 : decode cX1_walk 11 = .ok (.iload_n 1, 1) := dk_27 (dk_at dksX1_walk_0 11 rfl rfl)
theorem dX1_walk_12 : decode cX1_walk 12 = .ok (.iload_n 2, 1) := dk_28 (dk_at dksX1_walk_0 12 rfl rfl)
theorem dX1_walk_13 : decode cX1_walk 13 = .ok (.invokevirtual 129, 3) := dk_182 0 129 (dk_at dksX1_walk_0 13 rfl rfl)
theorem dX1_walk_16 : decode cX1_walk 16 = .ok (.invokevirtual 102, 3) := dk_182 0 102 (dk_at dksX1_walk_0 16 rfl rfl)
theorem dX1_walk_19 : decode cX1_walk 19 = .ok (.ireturn, 1) := dk_172 (dk_at dksX1_walk_0 19 rfl rfl)
theorem dX1_walk_20 : decode cX1_walk 20 = .ok (.astore_n 3, 1) := dk_78 (dk_at dksX1_walk_0 20 rfl rfl)
theorem dX1_walk_21 : decode cX1_walk 21 = .ok (.aload_n 0, 1) := dk_42 (dk_at dksX1_walk_0 21 rfl rfl)
theorem dX1_walk_22 : decode cX1_walk 22 = .ok (.aload_n 3, 1) := dk_45 (dk_at dksX1_walk_0 22 rfl rfl)
theorem dX1_walk_23 : decode cX1_walk 23 = .ok (.invokevirtual 106, 3) := dk_182 0 106 (dk_at dksX1_walk_1 0 rfl rfl)
theorem dX1_walk_26 : decode cX1_walk 26 = .ok (.athrow, 1) := dk_191 (dk_at dksX1_walk_1 3 rfl rfl)
abbrev cX1_rest : ByteArray := prog_1_method_24_code
def yX1_rest : MethodName := ⟨RX1, "rest", "(II)I"⟩
def dkwX1_rest_1 : List UInt8 := [182, 0, 106, 191]
abbrev dktX1_rest_1 : List UInt8 := dkwX1_rest_1 ++ []
def dkwX1_rest_0 : List UInt8 := [42, 180, 0, 49, 182, 0, 94, 78, 42, 45, 45, 27, 28, 182, 0, 132, 182, 0, 102, 172, 78, 42, 45]
abbrev dktX1_rest_0 : List UInt8 := dkwX1_rest_0 ++ dktX1_rest_1
theorem dksX1_rest_0 : cX1_rest.data.toList.drop 0 = dktX1_rest_0 := by decide +kernel
theorem dksX1_rest_1 : cX1_rest.data.toList.drop 23 = dktX1_rest_1 := dk_seg dksX1_rest_0 23 rfl rfl
theorem dX1_rest_0 : decode cX1_rest 0 = .ok (.aload_n 0, 1) := dk_42 (dk_at dksX1_rest_0 0 rfl rfl)
theorem dX1_rest_1 : decode cX1_rest 1 = .ok (.getfield 49, 3) := dk_180 0 49 (dk_at dksX1_rest_0 1 rfl rfl)
theorem dX1_rest_4 : decode cX1_rest 4 = .ok (.invokevirtual 94, 3) := dk_182 0 94 (dk_at dksX1_rest_0 4 rfl rfl)
theorem dX1_rest_7 : decode cX1_rest 7 = .ok (.astore_n 3, 1) := dk_78 (dk_at dksX1_rest_0 7 rfl rfl)
theorem dX1_rest_8 : decode cX1_rest 8 = .ok (.aload_n 0, 1) := dk_42 (dk_at dksX1_rest_0 8 rfl rfl)
theorem dX1_rest_9 : decode cX1_rest 9 = .ok (.aload_n 3, 1) := dk_45 (dk_at dksX1_rest_0 9 rfl rfl)
theorem dX1_rest_10 : decode cX1_rest 10 = .ok (.aload_n 3, 1) := dk_45 (dk_at dksX1_rest_0 10 rfl rfl)
theorem dX1_rest_11 : decode cX1_rest 11 = .ok (.iload_n 1, 1) := dk_27 (dk_at dksX1_rest_0 11 rfl rfl)
theorem dX1_rest_12 : decode cX1_rest 12 = .ok (.iload_n 2, 1) := dk_28 (dk_at dksX1_rest_0 12 rfl rfl)
theorem dX1_rest_13 : decode cX1_rest 13 = .ok (.invokevirtual 132, 3) := dk_182 0 132 (dk_at dksX1_rest_0 13 rfl rfl)
theorem dX1_rest_16 : decode cX1_rest 16 = .ok (.invokevirtual 102, 3) := dk_182 0 102 (dk_at dksX1_rest_0 16 rfl rfl)
theorem dX1_rest_19 : decode cX1_rest 19 = .ok (.ireturn, 1) := dk_172 (dk_at dksX1_rest_0 19 rfl rfl)
theorem dX1_rest_20 : decode cX1_rest 20 = .ok (.astore_n 3, 1) := dk_78 (dk_at dksX1_rest_0 20 rfl rfl)
theorem dX1_rest_21 : decode cX1_rest 21 = .ok (.aload_n 0, 1) := dk_42 (dk_at dksX1_rest_0 21 rfl rfl)
theorem dX1_rest_22 : decode cX1_rest 22 = .ok (.aload_n 3, 1) := dk_45 (dk_at dksX1_rest_0 22 rfl rfl)
theorem dX1_rest_23 : decode cX1_rest 23 = .ok (.invokevirtual 106, 3) := dk_182 0 106 (dk_at dksX1_rest_1 0 rfl rfl)
theorem dX1_rest_26 : decode cX1_rest 26 = .ok (.athrow, 1) := dk_191 (dk_at dksX1_rest_1 3 rfl rfl)
abbrev cX1_leaves : ByteArray := prog_1_method_27_code
def yX1_leaves : MethodName := ⟨RX1, "leaves", "(II)I"⟩
def dkwX1_leaves_0 : List UInt8 := [42, 180, 0, 49, 180, 0, 153, 42, 27, 28, 182, 0, 157, 46, 172]
abbrev dktX1_leaves_0 : List UInt8 := dkwX1_leaves_0 ++ []
theorem dksX1_leaves_0 : cX1_leaves.data.toList.drop 0 = dktX1_leaves_0 := by decide +kernel
theorem dX1_leaves_0 : decode cX1_leaves 0 = .ok (.aload_n 0, 1) := dk_42 (dk_at dksX1_leaves_0 0 rfl rfl)
theorem dX1_leaves_1 : decode cX1_leaves 1 = .ok (.getfield 49, 3) := dk_180 0 49 (dk_at dksX1_leaves_0 1 rfl rfl)
theorem dX1_leaves_4 : decode cX1_leaves 4 = .ok (.getfield 153, 3) := dk_180 0 153 (dk_at dksX1_leaves_0 4 rfl rfl)
theorem dX1_leaves_7 : decode cX1_leaves 7 = .ok (.aload_n 0, 1) := dk_42 (dk_at dksX1_leaves_0 7 rfl rfl)
theorem dX1_leaves_8 : decode cX1_leaves 8 = .ok (.iload_n 1, 1) := dk_27 (dk_at dksX1_leaves_0 8 rfl rfl)
theorem dX1_leaves_9 : decode cX1_leaves 9 = .ok (.iload_n 2, 1) := dk_28 (dk_at dksX1_leaves_0 9 rfl rfl)
theorem dX1_leaves_10 : decode cX1_leaves 10 = .ok (.invokevirtual 157, 3) := dk_182 0 157 (dk_at dksX1_leaves_0 10 rfl rfl)
theorem dX1_leaves_13 : decode cX1_leaves 13 = .ok (.iaload, 1) := dk_46 (dk_at dksX1_leaves_0 13 rfl rfl)
theorem dX1_leaves_14 : decode cX1_leaves 14 = .ok (.ireturn, 1) := dk_172 (dk_at dksX1_leaves_0 14 rfl rfl)
abbrev cX1_getHedge : ByteArray := prog_1_method_26_code
def yX1_getHedge : MethodName := ⟨RX1, "getHedge", "(II)I"⟩
def dkwX1_getHedge_1 : List UInt8 := [159, 0, 7, 4, 167, 0, 4, 3, 184, 0, 150, 29, 172]
abbrev dktX1_getHedge_1 : List UInt8 := dkwX1_getHedge_1 ++ []
def dkwX1_getHedge_0 : List UInt8 := [5, 188, 10, 89, 3, 27, 79, 89, 4, 28, 79, 184, 0, 143, 27, 28, 184, 0, 147, 62, 29, 2]
abbrev dktX1_getHedge_0 : List UInt8 := dkwX1_getHedge_0 ++ dktX1_getHedge_1
theorem dksX1_getHedge_0 : cX1_getHedge.data.toList.drop 0 = dktX1_getHedge_0 := by decide +kernel
theorem dksX1_getHedge_1 : cX1_getHedge.data.toList.drop 22 = dktX1_getHedge_1 := dk_seg dksX1_getHedge_0 22 rfl rfl
theorem dX1_getHedge_0 : decode cX1_getHedge 0 = .ok (.iconst 2, 1) := dk_5 (dk_at dksX1_getHedge_0 0 rfl rfl)
theorem dX1_getHedge_1 : decode cX1_getHedge 1 = .ok (.newarray .int, 2) := dk_188_10 (dk_at dksX1_getHedge_0 1 rfl rfl)
theorem dX1_getHedge_3 : decode cX1_getHedge 3 = .ok (.dup, 1) := dk_89 (dk_at dksX1_getHedge_0 3 rfl rfl)
theorem dX1_getHedge_4 : decode cX1_getHedge 4 = .ok (.iconst 0, 1) := dk_3 (dk_at dksX1_getHedge_0 4 rfl rfl)
theorem dX1_getHedge_5 : decode cX1_getHedge 5 = .ok (.iload_n 1, 1) := dk_27 (dk_at dksX1_getHedge_0 5 rfl rfl)
theorem dX1_getHedge_6 : decode cX1_getHedge 6 = .ok (.iastore, 1) := dk_79 (dk_at dksX1_getHedge_0 6 rfl rfl)
theorem dX1_getHedge_7 : decode cX1_getHedge 7 = .ok (.dup, 1) := dk_89 (dk_at dksX1_getHedge_0 7 rfl rfl)
theorem dX1_getHedge_8 : decode cX1_getHedge 8 = .ok (.iconst 1, 1) := dk_4 (dk_at dksX1_getHedge_0 8 rfl rfl)
theorem dX1_getHedge_9 : decode cX1_getHedge 9 = .ok (.iload_n 2, 1) := dk_28 (dk_at dksX1_getHedge_0 9 rfl rfl)
theorem dX1_getHedge_10 : decode cX1_getHedge 10 = .ok (.iastore, 1) := dk_79 (dk_at dksX1_getHedge_0 10 rfl rfl)
theorem dX1_getHedge_11 : decode cX1_getHedge 11 = .ok (.invokestatic 143, 3) := dk_184 0 143 (dk_at dksX1_getHedge_0 11 rfl rfl)
theorem dX1_getHedge_14 : decode cX1_getHedge 14 = .ok (.iload_n 1, 1) := dk_27 (dk_at dksX1_getHedge_0 14 rfl rfl)
theorem dX1_getHedge_15 : decode cX1_getHedge 15 = .ok (.iload_n 2, 1) := dk_28 (dk_at dksX1_getHedge_0 15 rfl rfl)
theorem dX1_getHedge_16 : decode cX1_getHedge 16 = .ok (.invokestatic 147, 3) := dk_184 0 147 (dk_at dksX1_getHedge_0 16 rfl rfl)
theorem dX1_getHedge_19 : decode cX1_getHedge 19 = .ok (.istore_n 3, 1) := dk_62 (dk_at dksX1_getHedge_0 19 rfl rfl)
theorem dX1_getHedge_20 : decode cX1_getHedge 20 = .ok (.iload_n 3, 1) := dk_29 (dk_at dksX1_getHedge_0 20 rfl rfl)
theorem dX1_getHedge_21 : decode cX1_getHedge 21 = .ok (.iconst (-1), 1) := dk_2 (dk_at dksX1_getHedge_0 21 rfl rfl)
theorem dX1_getHedge_22 : decode cX1_getHedge 22 = .ok (.if_icmp .eq 7, 3) := dk_159 0 7 (dk_at dksX1_getHedge_1 0 rfl rfl)
theorem dX1_getHedge_25 : decode cX1_getHedge 25 = .ok (.iconst 1, 1) := dk_4 (dk_at dksX1_getHedge_1 3 rfl rfl)
theorem dX1_getHedge_26 : decode cX1_getHedge 26 = .ok (.goto 4, 3) := dk_167 0 4 (dk_at dksX1_getHedge_1 4 rfl rfl)
theorem dX1_getHedge_29 : decode cX1_getHedge 29 = .ok (.iconst 0, 1) := dk_3 (dk_at dksX1_getHedge_1 7 rfl rfl)
theorem dX1_getHedge_30 : decode cX1_getHedge 30 = .ok (.invokestatic 150, 3) := dk_184 0 150 (dk_at dksX1_getHedge_1 8 rfl rfl)
theorem dX1_getHedge_33 : decode cX1_getHedge 33 = .ok (.iload_n 3, 1) := dk_29 (dk_at dksX1_getHedge_1 11 rfl rfl)
theorem dX1_getHedge_34 : decode cX1_getHedge 34 = .ok (.ireturn, 1) := dk_172 (dk_at dksX1_getHedge_1 12 rfl rfl)
abbrev cX1_requireCells : ByteArray := prog_1_method_25_code
def yX1_requireCells : MethodName := ⟨RX1, "requireCells", "([I)V"⟩
def dkwX1_requireCells_0 : List UInt8 := [42, 184, 0, 135, 184, 0, 139, 177]
abbrev dktX1_requireCells_0 : List UInt8 := dkwX1_requireCells_0 ++ []
theorem dksX1_requireCells_0 : cX1_requireCells.data.toList.drop 0 = dktX1_requireCells_0 := by decide +kernel
theorem dX1_requireCells_0 : decode cX1_requireCells 0 = .ok (.aload_n 0, 1) := dk_42 (dk_at dksX1_requireCells_0 0 rfl rfl)
theorem dX1_requireCells_1 : decode cX1_requireCells 1 = .ok (.invokestatic 135, 3) := dk_184 0 135 (dk_at dksX1_requireCells_0 1 rfl rfl)
theorem dX1_requireCells_4 : decode cX1_requireCells 4 = .ok (.invokestatic 139, 3) := dk_184 0 139 (dk_at dksX1_requireCells_0 4 rfl rfl)
theorem dX1_requireCells_7 : decode cX1_requireCells 7 = .ok (.return_, 1) := dk_177 (dk_at dksX1_requireCells_0 7 rfl rfl)
abbrev cX1_requireIndex : ByteArray := prog_1_method_4_code
def yX1_requireIndex : MethodName := ⟨RX1, "requireIndex", "(Z)V"⟩
def dkwX1_requireIndex_0 : List UInt8 := [26, 154, 0, 11, 187, 0, 7, 89, 183, 0, 9, 191, 177]
abbrev dktX1_requireIndex_0 : List UInt8 := dkwX1_requireIndex_0 ++ []
theorem dksX1_requireIndex_0 : cX1_requireIndex.data.toList.drop 0 = dktX1_requireIndex_0 := by decide +kernel
theorem dX1_requireIndex_0 : decode cX1_requireIndex 0 = .ok (.iload_n 0, 1) := dk_26 (dk_at dksX1_requireIndex_0 0 rfl rfl)
theorem dX1_requireIndex_1 : decode cX1_requireIndex 1 = .ok (.ifCond .ne 11, 3) := dk_154 0 11 (dk_at dksX1_requireIndex_0 1 rfl rfl)
theorem dX1_requireIndex_4 : decode cX1_requireIndex 4 = .ok (.new 7, 3) := dk_187 0 7 (dk_at dksX1_requireIndex_0 4 rfl rfl)
theorem dX1_requireIndex_7 : decode cX1_requireIndex 7 = .ok (.dup, 1) := dk_89 (dk_at dksX1_requireIndex_0 7 rfl rfl)
theorem dX1_requireIndex_8 : decode cX1_requireIndex 8 = .ok (.invokespecial 9, 3) := dk_183 0 9 (dk_at dksX1_requireIndex_0 8 rfl rfl)
theorem dX1_requireIndex_11 : decode cX1_requireIndex 11 = .ok (.athrow, 1) := dk_191 (dk_at dksX1_requireIndex_0 11 rfl rfl)
theorem dX1_requireIndex_12 : decode cX1_requireIndex 12 = .ok (.return_, 1) := dk_177 (dk_at dksX1_requireIndex_0 12 rfl rfl)
abbrev cX1_requireElement : ByteArray := prog_1_method_7_code
def yX1_requireElement : MethodName := ⟨RX1, "requireElement", "(Z)V"⟩
def dkwX1_requireElement_0 : List UInt8 := [26, 154, 0, 11, 187, 0, 19, 89, 183, 0, 21, 191, 177]
abbrev dktX1_requireElement_0 : List UInt8 := dkwX1_requireElement_0 ++ []
theorem dksX1_requireElement_0 : cX1_requireElement.data.toList.drop 0 = dktX1_requireElement_0 := by decide +kernel
theorem dX1_requireElement_0 : decode cX1_requireElement 0 = .ok (.iload_n 0, 1) := dk_26 (dk_at dksX1_requireElement_0 0 rfl rfl)
theorem dX1_requireElement_1 : decode cX1_requireElement 1 = .ok (.ifCond .ne 11, 3) := dk_154 0 11 (dk_at dksX1_requireElement_0 1 rfl rfl)
theorem dX1_requireElement_4 : decode cX1_requireElement 4 = .ok (.new 19, 3) := dk_187 0 19 (dk_at dksX1_requireElement_0 4 rfl rfl)
theorem dX1_requireElement_7 : decode cX1_requireElement 7 = .ok (.dup, 1) := dk_89 (dk_at dksX1_requireElement_0 7 rfl rfl)
theorem dX1_requireElement_8 : decode cX1_requireElement 8 = .ok (.invokespecial 21, 3) := dk_183 0 21 (dk_at dksX1_requireElement_0 8 rfl rfl)
theorem dX1_requireElement_11 : decode cX1_requireElement 11 = .ok (.athrow, 1) := dk_191 (dk_at dksX1_requireElement_0 11 rfl rfl)
theorem dX1_requireElement_12 : decode cX1_requireElement 12 = .ok (.return_, 1) := dk_177 (dk_at dksX1_requireElement_0 12 rfl rfl)
abbrev cX1_isGap : ByteArray := prog_1_method_28_code
def yX1_isGap : MethodName := ⟨RX1, "isGap", "(II)Z"⟩
def dkwX1_isGap_0 : List UInt8 := [5, 188, 10, 89, 3, 27, 79, 89, 4, 28, 79, 184, 0, 143, 42, 180, 0, 49, 27, 28, 182, 0, 160, 172]
abbrev dktX1_isGap_0 : List UInt8 := dkwX1_isGap_0 ++ []
theorem dksX1_isGap_0 : cX1_isGap.data.toList.drop 0 = dktX1_isGap_0 := by decide +kernel
theorem dX1_isGap_0 : decode cX1_isGap 0 = .ok (.iconst 2, 1) := dk_5 (dk_at dksX1_isGap_0 0 rfl rfl)
theorem dX1_isGap_1 : decode cX1_isGap 1 = .ok (.newarray .int, 2) := dk_188_10 (dk_at dksX1_isGap_0 1 rfl rfl)
theorem dX1_isGap_3 : decode cX1_isGap 3 = .ok (.dup, 1) := dk_89 (dk_at dksX1_isGap_0 3 rfl rfl)
theorem dX1_isGap_4 : decode cX1_isGap 4 = .ok (.iconst 0, 1) := dk_3 (dk_at dksX1_isGap_0 4 rfl rfl)
theorem dX1_isGap_5 : decode cX1_isGap 5 = .ok (.iload_n 1, 1) := dk_27 (dk_at dksX1_isGap_0 5 rfl rfl)
theorem dX1_isGap_6 : decode cX1_isGap 6 = .ok (.iastore, 1) := dk_79 (dk_at dksX1_isGap_0 6 rfl rfl)
theorem dX1_isGap_7 : decode cX1_isGap 7 = .ok (.dup, 1) := dk_89 (dk_at dksX1_isGap_0 7 rfl rfl)
theorem dX1_isGap_8 : decode cX1_isGap 8 = .ok (.iconst 1, 1) := dk_4 (dk_at dksX1_isGap_0 8 rfl rfl)
theorem dX1_isGap_9 : decode cX1_isGap 9 = .ok (.iload_n 2, 1) := dk_28 (dk_at dksX1_isGap_0 9 rfl rfl)
theorem dX1_isGap_10 : decode cX1_isGap 10 = .ok (.iastore, 1) := dk_79 (dk_at dksX1_isGap_0 10 rfl rfl)
theorem dX1_isGap_11 : decode cX1_isGap 11 = .ok (.invokestatic 143, 3) := dk_184 0 143 (dk_at dksX1_isGap_0 11 rfl rfl)
theorem dX1_isGap_14 : decode cX1_isGap 14 = .ok (.aload_n 0, 1) := dk_42 (dk_at dksX1_isGap_0 14 rfl rfl)
theorem dX1_isGap_15 : decode cX1_isGap 15 = .ok (.getfield 49, 3) := dk_180 0 49 (dk_at dksX1_isGap_0 15 rfl rfl)
theorem dX1_isGap_18 : decode cX1_isGap 18 = .ok (.iload_n 1, 1) := dk_27 (dk_at dksX1_isGap_0 18 rfl rfl)
theorem dX1_isGap_19 : decode cX1_isGap 19 = .ok (.iload_n 2, 1) := dk_28 (dk_at dksX1_isGap_0 19 rfl rfl)
theorem dX1_isGap_20 : decode cX1_isGap 20 = .ok (.invokevirtual 160, 3) := dk_182 0 160 (dk_at dksX1_isGap_0 20 rfl rfl)
theorem dX1_isGap_23 : decode cX1_isGap 23 = .ok (.ireturn, 1) := dk_172 (dk_at dksX1_isGap_0 23 rfl rfl)
abbrev cX1_hours : ByteArray := prog_1_method_29_code
def yX1_hours : MethodName := ⟨RX1, "hours", "(II)I"⟩
def dkwX1_hours_1 : List UInt8 := [29, 2, 159, 0, 7, 4, 167, 0, 4, 3, 184, 0, 150, 29, 172]
abbrev dktX1_hours_1 : List UInt8 := dkwX1_hours_1 ++ []
def dkwX1_hours_0 : List UInt8 := [5, 188, 10, 89, 3, 27, 79, 89, 4, 28, 79, 184, 0, 143, 42, 180, 0, 49, 27, 28, 182, 0, 164, 62]
abbrev dktX1_hours_0 : List UInt8 := dkwX1_hours_0 ++ dktX1_hours_1
theorem dksX1_hours_0 : cX1_hours.data.toList.drop 0 = dktX1_hours_0 := by decide +kernel
theorem dksX1_hours_1 : cX1_hours.data.toList.drop 24 = dktX1_hours_1 := dk_seg dksX1_hours_0 24 rfl rfl
theorem dX1_hours_0 : decode cX1_hours 0 = .ok (.iconst 2, 1) := dk_5 (dk_at dksX1_hours_0 0 rfl rfl)
theorem dX1_hours_1 : decode cX1_hours 1 = .ok (.newarray .int, 2) := dk_188_10 (dk_at dksX1_hours_0 1 rfl rfl)
theorem dX1_hours_3 : decode cX1_hours 3 = .ok (.dup, 1) := dk_89 (dk_at dksX1_hours_0 3 rfl rfl)
theorem dX1_hours_4 : decode cX1_hours 4 = .ok (.iconst 0, 1) := dk_3 (dk_at dksX1_hours_0 4 rfl rfl)
theorem dX1_hours_5 : decode cX1_hours 5 = .ok (.iload_n 1, 1) := dk_27 (dk_at dksX1_hours_0 5 rfl rfl)
theorem dX1_hours_6 : decode cX1_hours 6 = .ok (.iastore, 1) := dk_79 (dk_at dksX1_hours_0 6 rfl rfl)
theorem dX1_hours_7 : decode cX1_hours 7 = .ok (.dup, 1) := dk_89 (dk_at dksX1_hours_0 7 rfl rfl)
theorem dX1_hours_8 : decode cX1_hours 8 = .ok (.iconst 1, 1) := dk_4 (dk_at dksX1_hours_0 8 rfl rfl)
theorem dX1_hours_9 : decode cX1_hours 9 = .ok (.iload_n 2, 1) := dk_28 (dk_at dksX1_hours_0 9 rfl rfl)
theorem dX1_hours_10 : decode cX1_hours 10 = .ok (.iastore, 1) := dk_79 (dk_at dksX1_hours_0 10 rfl rfl)
theorem dX1_hours_11 : decode cX1_hours 11 = .ok (.invokestatic 143, 3) := dk_184 0 143 (dk_at dksX1_hours_0 11 rfl rfl)
theorem dX1_hours_14 : decode cX1_hours 14 = .ok (.aload_n 0, 1) := dk_42 (dk_at dksX1_hours_0 14 rfl rfl)
theorem dX1_hours_15 : decode cX1_hours 15 = .ok (.getfield 49, 3) := dk_180 0 49 (dk_at dksX1_hours_0 15 rfl rfl)
theorem dX1_hours_18 : decode cX1_hours 18 = .ok (.iload_n 1, 1) := dk_27 (dk_at dksX1_hours_0 18 rfl rfl)
theorem dX1_hours_19 : decode cX1_hours 19 = .ok (.iload_n 2, 1) := dk_28 (dk_at dksX1_hours_0 19 rfl rfl)
theorem dX1_hours_20 : decode cX1_hours 20 = .ok (.invokevirtual 164, 3) := dk_182 0 164 (dk_at dksX1_hours_0 20 rfl rfl)
theorem dX1_hours_23 : decode cX1_hours 23 = .ok (.istore_n 3, 1) := dk_62 (dk_at dksX1_hours_0 23 rfl rfl)
theorem dX1_hours_24 : decode cX1_hours 24 = .ok (.iload_n 3, 1) := dk_29 (dk_at dksX1_hours_1 0 rfl rfl)
theorem dX1_hours_25 : decode cX1_hours 25 = .ok (.iconst (-1), 1) := dk_2 (dk_at dksX1_hours_1 1 rfl rfl)
theorem dX1_hours_26 : decode cX1_hours 26 = .ok (.if_icmp .eq 7, 3) := dk_159 0 7 (dk_at dksX1_hours_1 2 rfl rfl)
theorem dX1_hours_29 : decode cX1_hours 29 = .ok (.iconst 1, 1) := dk_4 (dk_at dksX1_hours_1 5 rfl rfl)
theorem dX1_hours_30 : decode cX1_hours 30 = .ok (.goto 4, 3) := dk_167 0 4 (dk_at dksX1_hours_1 6 rfl rfl)
theorem dX1_hours_33 : decode cX1_hours 33 = .ok (.iconst 0, 1) := dk_3 (dk_at dksX1_hours_1 9 rfl rfl)
theorem dX1_hours_34 : decode cX1_hours 34 = .ok (.invokestatic 150, 3) := dk_184 0 150 (dk_at dksX1_hours_1 10 rfl rfl)
theorem dX1_hours_37 : decode cX1_hours 37 = .ok (.iload_n 3, 1) := dk_29 (dk_at dksX1_hours_1 13 rfl rfl)
theorem dX1_hours_38 : decode cX1_hours 38 = .ok (.ireturn, 1) := dk_172 (dk_at dksX1_hours_1 14 rfl rfl)
abbrev cX1_hoursAgain : ByteArray := prog_1_method_30_code
def yX1_hoursAgain : MethodName := ⟨RX1, "hoursAgain", "(II)I"⟩
def dkwX1_hoursAgain_1 : List UInt8 := [182, 0, 167, 27, 46, 62, 29, 16, 16, 162, 0, 7, 4, 167, 0, 4, 3, 184, 0, 150, 29, 172]
abbrev dktX1_hoursAgain_1 : List UInt8 := dkwX1_hoursAgain_1 ++ []
def dkwX1_hoursAgain_0 : List UInt8 := [5, 188, 10, 89, 3, 27, 79, 89, 4, 28, 79, 184, 0, 143, 42, 180, 0, 49, 28, 4, 16, 16]
abbrev dktX1_hoursAgain_0 : List UInt8 := dkwX1_hoursAgain_0 ++ dktX1_hoursAgain_1
theorem dksX1_hoursAgain_0 : cX1_hoursAgain.data.toList.drop 0 = dktX1_hoursAgain_0 := by decide +kernel
theorem dksX1_hoursAgain_1 : cX1_hoursAgain.data.toList.drop 22 = dktX1_hoursAgain_1 := dk_seg dksX1_hoursAgain_0 22 rfl rfl
theorem dX1_hoursAgain_0 : decode cX1_hoursAgain 0 = .ok (.iconst 2, 1) := dk_5 (dk_at dksX1_hoursAgain_0 0 rfl rfl)
theorem dX1_hoursAgain_1 : decode cX1_hoursAgain 1 = .ok (.newarray .int, 2) := dk_188_10 (dk_at dksX1_hoursAgain_0 1 rfl rfl)
theorem dX1_hoursAgain_3 : decode cX1_hoursAgain 3 = .ok (.dup, 1) := dk_89 (dk_at dksX1_hoursAgain_0 3 rfl rfl)
theorem dX1_hoursAgain_4 : decode cX1_hoursAgain 4 = .ok (.iconst 0, 1) := dk_3 (dk_at dksX1_hoursAgain_0 4 rfl rfl)
theorem dX1_hoursAgain_5 : decode cX1_hoursAgain 5 = .ok (.iload_n 1, 1) := dk_27 (dk_at dksX1_hoursAgain_0 5 rfl rfl)
theorem dX1_hoursAgain_6 : decode cX1_hoursAgain 6 = .ok (.iastore, 1) := dk_79 (dk_at dksX1_hoursAgain_0 6 rfl rfl)
theorem dX1_hoursAgain_7 : decode cX1_hoursAgain 7 = .ok (.dup, 1) := dk_89 (dk_at dksX1_hoursAgain_0 7 rfl rfl)
theorem dX1_hoursAgain_8 : decode cX1_hoursAgain 8 = .ok (.iconst 1, 1) := dk_4 (dk_at dksX1_hoursAgain_0 8 rfl rfl)
theorem dX1_hoursAgain_9 : decode cX1_hoursAgain 9 = .ok (.iload_n 2, 1) := dk_28 (dk_at dksX1_hoursAgain_0 9 rfl rfl)
theorem dX1_hoursAgain_10 : decode cX1_hoursAgain 10 = .ok (.iastore, 1) := dk_79 (dk_at dksX1_hoursAgain_0 10 rfl rfl)
theorem dX1_hoursAgain_11 : decode cX1_hoursAgain 11 = .ok (.invokestatic 143, 3) := dk_184 0 143 (dk_at dksX1_hoursAgain_0 11 rfl rfl)
theorem dX1_hoursAgain_14 : decode cX1_hoursAgain 14 = .ok (.aload_n 0, 1) := dk_42 (dk_at dksX1_hoursAgain_0 14 rfl rfl)
theorem dX1_hoursAgain_15 : decode cX1_hoursAgain 15 = .ok (.getfield 49, 3) := dk_180 0 49 (dk_at dksX1_hoursAgain_0 15 rfl rfl)
theorem dX1_hoursAgain_18 : decode cX1_hoursAgain 18 = .ok (.iload_n 2, 1) := dk_28 (dk_at dksX1_hoursAgain_0 18 rfl rfl)
theorem dX1_hoursAgain_19 : decode cX1_hoursAgain 19 = .ok (.iconst 1, 1) := dk_4 (dk_at dksX1_hoursAgain_0 19 rfl rfl)
theorem dX1_hoursAgain_20 : decode cX1_hoursAgain 20 = .ok (.bipush 16, 2) := dk_16 16 (dk_at dksX1_hoursAgain_0 20 rfl rfl)
theorem dX1_hoursAgain_22 : decode cX1_hoursAgain 22 = .ok (.invokevirtual 167, 3) := dk_182 0 167 (dk_at dksX1_hoursAgain_1 0 rfl rfl)
theorem dX1_hoursAgain_25 : decode cX1_hoursAgain 25 = .ok (.iload_n 1, 1) := dk_27 (dk_at dksX1_hoursAgain_1 3 rfl rfl)
theorem dX1_hoursAgain_26 : decode cX1_hoursAgain 26 = .ok (.iaload, 1) := dk_46 (dk_at dksX1_hoursAgain_1 4 rfl rfl)
theorem dX1_hoursAgain_27 : decode cX1_hoursAgain 27 = .ok (.istore_n 3, 1) := dk_62 (dk_at dksX1_hoursAgain_1 5 rfl rfl)
theorem dX1_hoursAgain_28 : decode cX1_hoursAgain 28 = .ok (.iload_n 3, 1) := dk_29 (dk_at dksX1_hoursAgain_1 6 rfl rfl)
theorem dX1_hoursAgain_29 : decode cX1_hoursAgain 29 = .ok (.bipush 16, 2) := dk_16 16 (dk_at dksX1_hoursAgain_1 7 rfl rfl)
theorem dX1_hoursAgain_31 : decode cX1_hoursAgain 31 = .ok (.if_icmp .ge 7, 3) := dk_162 0 7 (dk_at dksX1_hoursAgain_1 9 rfl rfl)
theorem dX1_hoursAgain_34 : decode cX1_hoursAgain 34 = .ok (.iconst 1, 1) := dk_4 (dk_at dksX1_hoursAgain_1 12 rfl rfl)
theorem dX1_hoursAgain_35 : decode cX1_hoursAgain 35 = .ok (.goto 4, 3) := dk_167 0 4 (dk_at dksX1_hoursAgain_1 13 rfl rfl)
theorem dX1_hoursAgain_38 : decode cX1_hoursAgain 38 = .ok (.iconst 0, 1) := dk_3 (dk_at dksX1_hoursAgain_1 16 rfl rfl)
theorem dX1_hoursAgain_39 : decode cX1_hoursAgain 39 = .ok (.invokestatic 150, 3) := dk_184 0 150 (dk_at dksX1_hoursAgain_1 17 rfl rfl)
theorem dX1_hoursAgain_42 : decode cX1_hoursAgain 42 = .ok (.iload_n 3, 1) := dk_29 (dk_at dksX1_hoursAgain_1 20 rfl rfl)
theorem dX1_hoursAgain_43 : decode cX1_hoursAgain 43 = .ok (.ireturn, 1) := dk_172 (dk_at dksX1_hoursAgain_1 21 rfl rfl)
abbrev cX1_next : ByteArray := prog_1_method_31_code
def yX1_next : MethodName := ⟨RX1, "next", "(I)I"⟩
def dkwX1_next_3 : List UInt8 := [160, 0, 5, 29, 172, 132, 3, 1, 167, 255, 222, 187, 0, 19, 89, 183, 0, 21, 191]
abbrev dktX1_next_3 : List UInt8 := dkwX1_next_3 ++ []
def dkwX1_next_2 : List UInt8 := [162, 0, 34, 42, 180, 0, 49, 27, 29, 182, 0, 160, 153, 0, 16, 44, 29, 46, 44, 27, 46, 4, 100]
abbrev dktX1_next_2 : List UInt8 := dkwX1_next_2 ++ dktX1_next_3
def dkwX1_next_1 : List UInt8 := [159, 0, 14, 44, 27, 46, 2, 159, 0, 7, 4, 167, 0, 4, 3, 184, 0, 150, 3, 62, 29, 16, 16]
abbrev dktX1_next_1 : List UInt8 := dkwX1_next_1 ++ dktX1_next_2
def dkwX1_next_0 : List UInt8 := [4, 188, 10, 89, 3, 27, 79, 184, 0, 143, 42, 180, 0, 49, 16, 15, 3, 182, 0, 171, 77, 27, 16, 15]
abbrev dktX1_next_0 : List UInt8 := dkwX1_next_0 ++ dktX1_next_1
theorem dksX1_next_0 : cX1_next.data.toList.drop 0 = dktX1_next_0 := by decide +kernel
theorem dksX1_next_1 : cX1_next.data.toList.drop 24 = dktX1_next_1 := dk_seg dksX1_next_0 24 rfl rfl
theorem dksX1_next_2 : cX1_next.data.toList.drop 47 = dktX1_next_2 := dk_seg dksX1_next_1 23 rfl rfl
theorem dksX1_next_3 : cX1_next.data.toList.drop 70 = dktX1_next_3 := dk_seg dksX1_next_2 23 rfl rfl
theorem dX1_next_0 : decode cX1_next 0 = .ok (.iconst 1, 1) := dk_4 (dk_at dksX1_next_0 0 rfl rfl)
theorem dX1_next_1 : decode cX1_next 1 = .ok (.newarray .int, 2) := dk_188_10 (dk_at dksX1_next_0 1 rfl rfl)
theorem dX1_next_3 : decode cX1_next 3 = .ok (.dup, 1) := dk_89 (dk_at dksX1_next_0 3 rfl rfl)
theorem dX1_next_4 : decode cX1_next 4 = .ok (.iconst 0, 1) := dk_3 (dk_at dksX1_next_0 4 rfl rfl)
theorem dX1_next_5 : decode cX1_next 5 = .ok (.iload_n 1, 1) := dk_27 (dk_at dksX1_next_0 5 rfl rfl)
theorem dX1_next_6 : decode cX1_next 6 = .ok (.iastore, 1) := dk_79 (dk_at dksX1_next_0 6 rfl rfl)
theorem dX1_next_7 : decode cX1_next 7 = .ok (.invokestatic 143, 3) := dk_184 0 143 (dk_at dksX1_next_0 7 rfl rfl)
theorem dX1_next_10 : decode cX1_next 10 = .ok (.aload_n 0, 1) := dk_42 (dk_at dksX1_next_0 10 rfl rfl)
theorem dX1_next_11 : decode cX1_next 11 = .ok (.getfield 49, 3) := dk_180 0 49 (dk_at dksX1_next_0 11 rfl rfl)
theorem dX1_next_14 : decode cX1_next 14 = .ok (.bipush 15, 2) := dk_16 15 (dk_at dksX1_next_0 14 rfl rfl)
theorem dX1_next_16 : decode cX1_next 16 = .ok (.iconst 0, 1) := dk_3 (dk_at dksX1_next_0 16 rfl rfl)
theorem dX1_next_17 : decode cX1_next 17 = .ok (.invokevirtual 171, 3) := dk_182 0 171 (dk_at dksX1_next_0 17 rfl rfl)
theorem dX1_next_20 : decode cX1_next 20 = .ok (.astore_n 2, 1) := dk_77 (dk_at dksX1_next_0 20 rfl rfl)
theorem dX1_next_21 : decode cX1_next 21 = .ok (.iload_n 1, 1) := dk_27 (dk_at dksX1_next_0 21 rfl rfl)
theorem dX1_next_22 : decode cX1_next 22 = .ok (.bipush 15, 2) := dk_16 15 (dk_at dksX1_next_0 22 rfl rfl)
theorem dX1_next_24 : decode cX1_next 24 = .ok (.if_icmp .eq 14, 3) := dk_159 0 14 (dk_at dksX1_next_1 0 rfl rfl)
theorem dX1_next_27 : decode cX1_next 27 = .ok (.aload_n 2, 1) := dk_44 (dk_at dksX1_next_1 3 rfl rfl)
theorem dX1_next_28 : decode cX1_next 28 = .ok (.iload_n 1, 1) := dk_27 (dk_at dksX1_next_1 4 rfl rfl)
theorem dX1_next_29 : decode cX1_next 29 = .ok (.iaload, 1) := dk_46 (dk_at dksX1_next_1 5 rfl rfl)
theorem dX1_next_30 : decode cX1_next 30 = .ok (.iconst (-1), 1) := dk_2 (dk_at dksX1_next_1 6 rfl rfl)
theorem dX1_next_31 : decode cX1_next 31 = .ok (.if_icmp .eq 7, 3) := dk_159 0 7 (dk_at dksX1_next_1 7 rfl rfl)
theorem dX1_next_34 : decode cX1_next 34 = .ok (.iconst 1, 1) := dk_4 (dk_at dksX1_next_1 10 rfl rfl)
theorem dX1_next_35 : decode cX1_next 35 = .ok (.goto 4, 3) := dk_167 0 4 (dk_at dksX1_next_1 11 rfl rfl)
theorem dX1_next_38 : decode cX1_next 38 = .ok (.iconst 0, 1) := dk_3 (dk_at dksX1_next_1 14 rfl rfl)
theorem dX1_next_39 : decode cX1_next 39 = .ok (.invokestatic 150, 3) := dk_184 0 150 (dk_at dksX1_next_1 15 rfl rfl)
theorem dX1_next_42 : decode cX1_next 42 = .ok (.iconst 0, 1) := dk_3 (dk_at dksX1_next_1 18 rfl rfl)
theorem dX1_next_43 : decode cX1_next 43 = .ok (.istore_n 3, 1) := dk_62 (dk_at dksX1_next_1 19 rfl rfl)
theorem dX1_next_44 : decode cX1_next 44 = .ok (.iload_n 3, 1) := dk_29 (dk_at dksX1_next_1 20 rfl rfl)
theorem dX1_next_45 : decode cX1_next 45 = .ok (.bipush 16, 2) := dk_16 16 (dk_at dksX1_next_1 21 rfl rfl)
theorem dX1_next_47 : decode cX1_next 47 = .ok (.if_icmp .ge 34, 3) := dk_162 0 34 (dk_at dksX1_next_2 0 rfl rfl)
theorem dX1_next_50 : decode cX1_next 50 = .ok (.aload_n 0, 1) := dk_42 (dk_at dksX1_next_2 3 rfl rfl)
theorem dX1_next_51 : decode cX1_next 51 = .ok (.getfield 49, 3) := dk_180 0 49 (dk_at dksX1_next_2 4 rfl rfl)
theorem dX1_next_54 : decode cX1_next 54 = .ok (.iload_n 1, 1) := dk_27 (dk_at dksX1_next_2 7 rfl rfl)
theorem dX1_next_55 : decode cX1_next 55 = .ok (.iload_n 3, 1) := dk_29 (dk_at dksX1_next_2 8 rfl rfl)
theorem dX1_next_56 : decode cX1_next 56 = .ok (.invokevirtual 160, 3) := dk_182 0 160 (dk_at dksX1_next_2 9 rfl rfl)
theorem dX1_next_59 : decode cX1_next 59 = .ok (.ifCond .eq 16, 3) := dk_153 0 16 (dk_at dksX1_next_2 12 rfl rfl)
theorem dX1_next_62 : decode cX1_next 62 = .ok (.aload_n 2, 1) := dk_44 (dk_at dksX1_next_2 15 rfl rfl)
theorem dX1_next_63 : decode cX1_next 63 = .ok (.iload_n 3, 1) := dk_29 (dk_at dksX1_next_2 16 rfl rfl)
theorem dX1_next_64 : decode cX1_next 64 = .ok (.iaload, 1) := dk_46 (dk_at dksX1_next_2 17 rfl rfl)
theorem dX1_next_65 : decode cX1_next 65 = .ok (.aload_n 2, 1) := dk_44 (dk_at dksX1_next_2 18 rfl rfl)
theorem dX1_next_66 : decode cX1_next 66 = .ok (.iload_n 1, 1) := dk_27 (dk_at dksX1_next_2 19 rfl rfl)
theorem dX1_next_67 : decode cX1_next 67 = .ok (.iaload, 1) := dk_46 (dk_at dksX1_next_2 20 rfl rfl)
theorem dX1_next_68 : decode cX1_next 68 = .ok (.iconst 1, 1) := dk_4 (dk_at dksX1_next_2 21 rfl rfl)
theorem dX1_next_69 : decode cX1_next 69 = .ok (.isub, 1) := dk_100 (dk_at dksX1_next_2 22 rfl rfl)
theorem dX1_next_70 : decode cX1_next 70 = .ok (.if_icmp .ne 5, 3) := dk_160 0 5 (dk_at dksX1_next_3 0 rfl rfl)
theorem dX1_next_73 : decode cX1_next 73 = .ok (.iload_n 3, 1) := dk_29 (dk_at dksX1_next_3 3 rfl rfl)
theorem dX1_next_74 : decode cX1_next 74 = .ok (.ireturn, 1) := dk_172 (dk_at dksX1_next_3 4 rfl rfl)
theorem dX1_next_75 : decode cX1_next 75 = .ok (.iinc 3 1, 3) := dk_132 3 1 (dk_at dksX1_next_3 5 rfl rfl)
theorem dX1_next_78 : decode cX1_next 78 = .ok (.goto (-34), 3) := dk_167 255 222 (dk_at dksX1_next_3 8 rfl rfl)
theorem dX1_next_81 : decode cX1_next 81 = .ok (.new 19, 3) := dk_187 0 19 (dk_at dksX1_next_3 11 rfl rfl)
theorem dX1_next_84 : decode cX1_next 84 = .ok (.dup, 1) := dk_89 (dk_at dksX1_next_3 14 rfl rfl)
theorem dX1_next_85 : decode cX1_next 85 = .ok (.invokespecial 21, 3) := dk_183 0 21 (dk_at dksX1_next_3 15 rfl rfl)
theorem dX1_next_88 : decode cX1_next 88 = .ok (.athrow, 1) := dk_191 (dk_at dksX1_next_3 18 rfl rfl)
abbrev cX1_reached : ByteArray := prog_1_method_32_code
def yX1_reached : MethodName := ⟨RX1, "reached", "(I)I"⟩
def dkwX1_reached_0 : List UInt8 := [4, 188, 10, 89, 3, 27, 79, 184, 0, 143, 42, 180, 0, 49, 27, 182, 0, 175, 172]
abbrev dktX1_reached_0 : List UInt8 := dkwX1_reached_0 ++ []
theorem dksX1_reached_0 : cX1_reached.data.toList.drop 0 = dktX1_reached_0 := by decide +kernel
theorem dX1_reached_0 : decode cX1_reached 0 = .ok (.iconst 1, 1) := dk_4 (dk_at dksX1_reached_0 0 rfl rfl)
theorem dX1_reached_1 : decode cX1_reached 1 = .ok (.newarray .int, 2) := dk_188_10 (dk_at dksX1_reached_0 1 rfl rfl)
theorem dX1_reached_3 : decode cX1_reached 3 = .ok (.dup, 1) := dk_89 (dk_at dksX1_reached_0 3 rfl rfl)
theorem dX1_reached_4 : decode cX1_reached 4 = .ok (.iconst 0, 1) := dk_3 (dk_at dksX1_reached_0 4 rfl rfl)
theorem dX1_reached_5 : decode cX1_reached 5 = .ok (.iload_n 1, 1) := dk_27 (dk_at dksX1_reached_0 5 rfl rfl)
theorem dX1_reached_6 : decode cX1_reached 6 = .ok (.iastore, 1) := dk_79 (dk_at dksX1_reached_0 6 rfl rfl)
theorem dX1_reached_7 : decode cX1_reached 7 = .ok (.invokestatic 143, 3) := dk_184 0 143 (dk_at dksX1_reached_0 7 rfl rfl)
theorem dX1_reached_10 : decode cX1_reached 10 = .ok (.aload_n 0, 1) := dk_42 (dk_at dksX1_reached_0 10 rfl rfl)
theorem dX1_reached_11 : decode cX1_reached 11 = .ok (.getfield 49, 3) := dk_180 0 49 (dk_at dksX1_reached_0 11 rfl rfl)
theorem dX1_reached_14 : decode cX1_reached 14 = .ok (.iload_n 1, 1) := dk_27 (dk_at dksX1_reached_0 14 rfl rfl)
theorem dX1_reached_15 : decode cX1_reached 15 = .ok (.invokevirtual 175, 3) := dk_182 0 175 (dk_at dksX1_reached_0 15 rfl rfl)
theorem dX1_reached_18 : decode cX1_reached 18 = .ok (.ireturn, 1) := dk_172 (dk_at dksX1_reached_0 18 rfl rfl)
abbrev cX1_trims : ByteArray := prog_1_method_33_code
def yX1_trims : MethodName := ⟨RX1, "trims", "(I)I"⟩
def dkwX1_trims_0 : List UInt8 := [4, 188, 10, 89, 3, 27, 79, 184, 0, 143, 42, 180, 0, 49, 27, 4, 182, 0, 171, 16, 15, 46, 172]
abbrev dktX1_trims_0 : List UInt8 := dkwX1_trims_0 ++ []
theorem dksX1_trims_0 : cX1_trims.data.toList.drop 0 = dktX1_trims_0 := by decide +kernel
theorem dX1_trims_0 : decode cX1_trims 0 = .ok (.iconst 1, 1) := dk_4 (dk_at dksX1_trims_0 0 rfl rfl)
theorem dX1_trims_1 : decode cX1_trims 1 = .ok (.newarray .int, 2) := dk_188_10 (dk_at dksX1_trims_0 1 rfl rfl)
theorem dX1_trims_3 : decode cX1_trims 3 = .ok (.dup, 1) := dk_89 (dk_at dksX1_trims_0 3 rfl rfl)
theorem dX1_trims_4 : decode cX1_trims 4 = .ok (.iconst 0, 1) := dk_3 (dk_at dksX1_trims_0 4 rfl rfl)
theorem dX1_trims_5 : decode cX1_trims 5 = .ok (.iload_n 1, 1) := dk_27 (dk_at dksX1_trims_0 5 rfl rfl)
theorem dX1_trims_6 : decode cX1_trims 6 = .ok (.iastore, 1) := dk_79 (dk_at dksX1_trims_0 6 rfl rfl)
theorem dX1_trims_7 : decode cX1_trims 7 = .ok (.invokestatic 143, 3) := dk_184 0 143 (dk_at dksX1_trims_0 7 rfl rfl)
theorem dX1_trims_10 : decode cX1_trims 10 = .ok (.aload_n 0, 1) := dk_42 (dk_at dksX1_trims_0 10 rfl rfl)
theorem dX1_trims_11 : decode cX1_trims 11 = .ok (.getfield 49, 3) := dk_180 0 49 (dk_at dksX1_trims_0 11 rfl rfl)
theorem dX1_trims_14 : decode cX1_trims 14 = .ok (.iload_n 1, 1) := dk_27 (dk_at dksX1_trims_0 14 rfl rfl)
theorem dX1_trims_15 : decode cX1_trims 15 = .ok (.iconst 1, 1) := dk_4 (dk_at dksX1_trims_0 15 rfl rfl)
theorem dX1_trims_16 : decode cX1_trims 16 = .ok (.invokevirtual 171, 3) := dk_182 0 171 (dk_at dksX1_trims_0 16 rfl rfl)
theorem dX1_trims_19 : decode cX1_trims 19 = .ok (.bipush 15, 2) := dk_16 15 (dk_at dksX1_trims_0 19 rfl rfl)
theorem dX1_trims_21 : decode cX1_trims 21 = .ok (.iaload, 1) := dk_46 (dk_at dksX1_trims_0 21 rfl rfl)
theorem dX1_trims_22 : decode cX1_trims 22 = .ok (.ireturn, 1) := dk_172 (dk_at dksX1_trims_0 22 rfl rfl)
abbrev cX1_trimsAgain : ByteArray := prog_1_method_34_code
def yX1_trimsAgain : MethodName := ⟨RX1, "trimsAgain", "(I)I"⟩
def dkwX1_trimsAgain_0 : List UInt8 := [4, 188, 10, 89, 3, 27, 79, 184, 0, 143, 42, 180, 0, 49, 16, 15, 3, 4, 182, 0, 167, 27, 46, 172]
abbrev dktX1_trimsAgain_0 : List UInt8 := dkwX1_trimsAgain_0 ++ []
theorem dksX1_trimsAgain_0 : cX1_trimsAgain.data.toList.drop 0 = dktX1_trimsAgain_0 := by decide +kernel
theorem dX1_trimsAgain_0 : decode cX1_trimsAgain 0 = .ok (.iconst 1, 1) := dk_4 (dk_at dksX1_trimsAgain_0 0 rfl rfl)
theorem dX1_trimsAgain_1 : decode cX1_trimsAgain 1 = .ok (.newarray .int, 2) := dk_188_10 (dk_at dksX1_trimsAgain_0 1 rfl rfl)
theorem dX1_trimsAgain_3 : decode cX1_trimsAgain 3 = .ok (.dup, 1) := dk_89 (dk_at dksX1_trimsAgain_0 3 rfl rfl)
theorem dX1_trimsAgain_4 : decode cX1_trimsAgain 4 = .ok (.iconst 0, 1) := dk_3 (dk_at dksX1_trimsAgain_0 4 rfl rfl)
theorem dX1_trimsAgain_5 : decode cX1_trimsAgain 5 = .ok (.iload_n 1, 1) := dk_27 (dk_at dksX1_trimsAgain_0 5 rfl rfl)
theorem dX1_trimsAgain_6 : decode cX1_trimsAgain 6 = .ok (.iastore, 1) := dk_79 (dk_at dksX1_trimsAgain_0 6 rfl rfl)
theorem dX1_trimsAgain_7 : decode cX1_trimsAgain 7 = .ok (.invokestatic 143, 3) := dk_184 0 143 (dk_at dksX1_trimsAgain_0 7 rfl rfl)
theorem dX1_trimsAgain_10 : decode cX1_trimsAgain 10 = .ok (.aload_n 0, 1) := dk_42 (dk_at dksX1_trimsAgain_0 10 rfl rfl)
theorem dX1_trimsAgain_11 : decode cX1_trimsAgain 11 = .ok (.getfield 49, 3) := dk_180 0 49 (dk_at dksX1_trimsAgain_0 11 rfl rfl)
theorem dX1_trimsAgain_14 : decode cX1_trimsAgain 14 = .ok (.bipush 15, 2) := dk_16 15 (dk_at dksX1_trimsAgain_0 14 rfl rfl)
theorem dX1_trimsAgain_16 : decode cX1_trimsAgain 16 = .ok (.iconst 0, 1) := dk_3 (dk_at dksX1_trimsAgain_0 16 rfl rfl)
theorem dX1_trimsAgain_17 : decode cX1_trimsAgain 17 = .ok (.iconst 1, 1) := dk_4 (dk_at dksX1_trimsAgain_0 17 rfl rfl)
theorem dX1_trimsAgain_18 : decode cX1_trimsAgain 18 = .ok (.invokevirtual 167, 3) := dk_182 0 167 (dk_at dksX1_trimsAgain_0 18 rfl rfl)
theorem dX1_trimsAgain_21 : decode cX1_trimsAgain 21 = .ok (.iload_n 1, 1) := dk_27 (dk_at dksX1_trimsAgain_0 21 rfl rfl)
theorem dX1_trimsAgain_22 : decode cX1_trimsAgain 22 = .ok (.iaload, 1) := dk_46 (dk_at dksX1_trimsAgain_0 22 rfl rfl)
theorem dX1_trimsAgain_23 : decode cX1_trimsAgain 23 = .ok (.ireturn, 1) := dk_172 (dk_at dksX1_trimsAgain_0 23 rfl rfl)
abbrev cX1_isNeeded : ByteArray := prog_1_method_35_code
def yX1_isNeeded : MethodName := ⟨RX1, "isNeeded", "(II)Z"⟩
def dkwX1_isNeeded_1 : List UInt8 := [42, 180, 0, 49, 182, 0, 178, 153, 0, 15, 25, 4, 182, 0, 178, 154, 0, 7, 4, 167, 0, 4, 3, 172]
abbrev dktX1_isNeeded_1 : List UInt8 := dkwX1_isNeeded_1 ++ []
def dkwX1_isNeeded_0 : List UInt8 := [42, 27, 28, 182, 0, 157, 62, 42, 180, 0, 49, 182, 0, 94, 58, 4, 25, 4, 180, 0, 153, 29, 8, 79]
abbrev dktX1_isNeeded_0 : List UInt8 := dkwX1_isNeeded_0 ++ dktX1_isNeeded_1
theorem dksX1_isNeeded_0 : cX1_isNeeded.data.toList.drop 0 = dktX1_isNeeded_0 := by decide +kernel
theorem dksX1_isNeeded_1 : cX1_isNeeded.data.toList.drop 24 = dktX1_isNeeded_1 := dk_seg dksX1_isNeeded_0 24 rfl rfl
theorem dX1_isNeeded_0 : decode cX1_isNeeded 0 = .ok (.aload_n 0, 1) := dk_42 (dk_at dksX1_isNeeded_0 0 rfl rfl)
theorem dX1_isNeeded_1 : decode cX1_isNeeded 1 = .ok (.iload_n 1, 1) := dk_27 (dk_at dksX1_isNeeded_0 1 rfl rfl)
theorem dX1_isNeeded_2 : decode cX1_isNeeded 2 = .ok (.iload_n 2, 1) := dk_28 (dk_at dksX1_isNeeded_0 2 rfl rfl)
theorem dX1_isNeeded_3 : decode cX1_isNeeded 3 = .ok (.invokevirtual 157, 3) := dk_182 0 157 (dk_at dksX1_isNeeded_0 3 rfl rfl)
theorem dX1_isNeeded_6 : decode cX1_isNeeded 6 = .ok (.istore_n 3, 1) := dk_62 (dk_at dksX1_isNeeded_0 6 rfl rfl)
theorem dX1_isNeeded_7 : decode cX1_isNeeded 7 = .ok (.aload_n 0, 1) := dk_42 (dk_at dksX1_isNeeded_0 7 rfl rfl)
theorem dX1_isNeeded_8 : decode cX1_isNeeded 8 = .ok (.getfield 49, 3) := dk_180 0 49 (dk_at dksX1_isNeeded_0 8 rfl rfl)
theorem dX1_isNeeded_11 : decode cX1_isNeeded 11 = .ok (.invokevirtual 94, 3) := dk_182 0 94 (dk_at dksX1_isNeeded_0 11 rfl rfl)
theorem dX1_isNeeded_14 : decode cX1_isNeeded 14 = .ok (.astore 4, 2) := dk_58 4 (dk_at dksX1_isNeeded_0 14 rfl rfl)
theorem dX1_isNeeded_16 : decode cX1_isNeeded 16 = .ok (.aload 4, 2) := dk_25 4 (dk_at dksX1_isNeeded_0 16 rfl rfl)
theorem dX1_isNeeded_18 : decode cX1_isNeeded 18 = .ok (.getfield 153, 3) := dk_180 0 153 (dk_at dksX1_isNeeded_0 18 rfl rfl)
theorem dX1_isNeeded_21 : decode cX1_isNeeded 21 = .ok (.iload_n 3, 1) := dk_29 (dk_at dksX1_isNeeded_0 21 rfl rfl)
theorem dX1_isNeeded_22 : decode cX1_isNeeded 22 = .ok (.iconst 5, 1) := dk_8 (dk_at dksX1_isNeeded_0 22 rfl rfl)
theorem dX1_isNeeded_23 : decode cX1_isNeeded 23 = .ok (.iastore, 1) := dk_79 (dk_at dksX1_isNeeded_0 23 rfl rfl)
theorem dX1_isNeeded_24 : decode cX1_isNeeded 24 = .ok (.aload_n 0, 1) := dk_42 (dk_at dksX1_isNeeded_1 0 rfl rfl)
theorem dX1_isNeeded_25 : decode cX1_isNeeded 25 = .ok (.getfield 49, 3) := dk_180 0 49 (dk_at dksX1_isNeeded_1 1 rfl rfl)
theorem dX1_isNeeded_28 : decode cX1_isNeeded 28 = .ok (.invokevirtual 178, 3) := dk_182 0 178 (dk_at dksX1_isNeeded_1 4 rfl rfl)
theorem dX1_isNeeded_31 : decode cX1_isNeeded 31 = .ok (.ifCond .eq 15, 3) := dk_153 0 15 (dk_at dksX1_isNeeded_1 7 rfl rfl)
theorem dX1_isNeeded_34 : decode cX1_isNeeded 34 = .ok (.aload 4, 2) := dk_25 4 (dk_at dksX1_isNeeded_1 10 rfl rfl)
theorem dX1_isNeeded_36 : decode cX1_isNeeded 36 = .ok (.invokevirtual 178, 3) := dk_182 0 178 (dk_at dksX1_isNeeded_1 12 rfl rfl)
theorem dX1_isNeeded_39 : decode cX1_isNeeded 39 = .ok (.ifCond .ne 7, 3) := dk_154 0 7 (dk_at dksX1_isNeeded_1 15 rfl rfl)
theorem dX1_isNeeded_42 : decode cX1_isNeeded 42 = .ok (.iconst 1, 1) := dk_4 (dk_at dksX1_isNeeded_1 18 rfl rfl)
theorem dX1_isNeeded_43 : decode cX1_isNeeded 43 = .ok (.goto 4, 3) := dk_167 0 4 (dk_at dksX1_isNeeded_1 19 rfl rfl)
theorem dX1_isNeeded_46 : decode cX1_isNeeded 46 = .ok (.iconst 0, 1) := dk_3 (dk_at dksX1_isNeeded_1 22 rfl rfl)
theorem dX1_isNeeded_47 : decode cX1_isNeeded 47 = .ok (.ireturn, 1) := dk_172 (dk_at dksX1_isNeeded_1 23 rfl rfl)
abbrev cX1_closesIn : ByteArray := prog_1_method_36_code
def yX1_closesIn : MethodName := ⟨RX1, "closesIn", "(II)I"⟩
def dkwX1_closesIn_0 : List UInt8 := [3, 8, 42, 180, 0, 49, 180, 0, 153, 42, 27, 28, 182, 0, 157, 46, 100, 184, 0, 40, 172]
abbrev dktX1_closesIn_0 : List UInt8 := dkwX1_closesIn_0 ++ []
theorem dksX1_closesIn_0 : cX1_closesIn.data.toList.drop 0 = dktX1_closesIn_0 := by decide +kernel
theorem dX1_closesIn_0 : decode cX1_closesIn 0 = .ok (.iconst 0, 1) := dk_3 (dk_at dksX1_closesIn_0 0 rfl rfl)
theorem dX1_closesIn_1 : decode cX1_closesIn 1 = .ok (.iconst 5, 1) := dk_8 (dk_at dksX1_closesIn_0 1 rfl rfl)
theorem dX1_closesIn_2 : decode cX1_closesIn 2 = .ok (.aload_n 0, 1) := dk_42 (dk_at dksX1_closesIn_0 2 rfl rfl)
theorem dX1_closesIn_3 : decode cX1_closesIn 3 = .ok (.getfield 49, 3) := dk_180 0 49 (dk_at dksX1_closesIn_0 3 rfl rfl)
theorem dX1_closesIn_6 : decode cX1_closesIn 6 = .ok (.getfield 153, 3) := dk_180 0 153 (dk_at dksX1_closesIn_0 6 rfl rfl)
theorem dX1_closesIn_9 : decode cX1_closesIn 9 = .ok (.aload_n 0, 1) := dk_42 (dk_at dksX1_closesIn_0 9 rfl rfl)
theorem dX1_closesIn_10 : decode cX1_closesIn 10 = .ok (.iload_n 1, 1) := dk_27 (dk_at dksX1_closesIn_0 10 rfl rfl)
theorem dX1_closesIn_11 : decode cX1_closesIn 11 = .ok (.iload_n 2, 1) := dk_28 (dk_at dksX1_closesIn_0 11 rfl rfl)
theorem dX1_closesIn_12 : decode cX1_closesIn 12 = .ok (.invokevirtual 157, 3) := dk_182 0 157 (dk_at dksX1_closesIn_0 12 rfl rfl)
theorem dX1_closesIn_15 : decode cX1_closesIn 15 = .ok (.iaload, 1) := dk_46 (dk_at dksX1_closesIn_0 15 rfl rfl)
theorem dX1_closesIn_16 : decode cX1_closesIn 16 = .ok (.isub, 1) := dk_100 (dk_at dksX1_closesIn_0 16 rfl rfl)
theorem dX1_closesIn_17 : decode cX1_closesIn 17 = .ok (.invokestatic 40, 3) := dk_184 0 40 (dk_at dksX1_closesIn_0 17 rfl rfl)
theorem dX1_closesIn_20 : decode cX1_closesIn 20 = .ok (.ireturn, 1) := dk_172 (dk_at dksX1_closesIn_0 20 rfl rfl)
abbrev cX1_gardenerOf : ByteArray := prog_1_method_40_code
def yX1_gardenerOf : MethodName := ⟨RX1, "gardenerOf", "(II)I"⟩
def dkwX1_gardenerOf_3 : List UInt8 := [45, 180, 0, 221, 172]
abbrev dktX1_gardenerOf_3 : List UInt8 := dkwX1_gardenerOf_3 ++ []
def dkwX1_gardenerOf_2 : List UInt8 := [45, 182, 0, 209, 172, 42, 180, 0, 49, 27, 182, 0, 212, 172, 45, 180, 0, 215, 172, 45, 180, 0, 218, 172]
abbrev dktX1_gardenerOf_2 : List UInt8 := dkwX1_gardenerOf_2 ++ dktX1_gardenerOf_3
def dkwX1_gardenerOf_1 : List UInt8 := [170, 0, 0, 0, 0, 0, 0, 56, 0, 0, 0, 0, 0, 0, 0, 3, 0, 0, 0, 32, 0, 0, 0, 37, 0, 0, 0, 46, 0, 0, 0, 51]
abbrev dktX1_gardenerOf_1 : List UInt8 := dkwX1_gardenerOf_1 ++ dktX1_gardenerOf_2
def dkwX1_gardenerOf_0 : List UInt8 := [42, 27, 182, 0, 202, 78, 28, 3, 7, 184, 0, 3, 184, 0, 206, 28]
abbrev dktX1_gardenerOf_0 : List UInt8 := dkwX1_gardenerOf_0 ++ dktX1_gardenerOf_1
theorem dksX1_gardenerOf_0 : cX1_gardenerOf.data.toList.drop 0 = dktX1_gardenerOf_0 := by decide +kernel
theorem dksX1_gardenerOf_1 : cX1_gardenerOf.data.toList.drop 16 = dktX1_gardenerOf_1 := dk_seg dksX1_gardenerOf_0 16 rfl rfl
theorem dksX1_gardenerOf_2 : cX1_gardenerOf.data.toList.drop 48 = dktX1_gardenerOf_2 := dk_seg dksX1_gardenerOf_1 32 rfl rfl
theorem dksX1_gardenerOf_3 : cX1_gardenerOf.data.toList.drop 72 = dktX1_gardenerOf_3 := dk_seg dksX1_gardenerOf_2 24 rfl rfl
theorem dX1_gardenerOf_0 : decode cX1_gardenerOf 0 = .ok (.aload_n 0, 1) := dk_42 (dk_at dksX1_gardenerOf_0 0 rfl rfl)
theorem dX1_gardenerOf_1 : decode cX1_gardenerOf 1 = .ok (.iload_n 1, 1) := dk_27 (dk_at dksX1_gardenerOf_0 1 rfl rfl)
theorem dX1_gardenerOf_2 : decode cX1_gardenerOf 2 = .ok (.invokevirtual 202, 3) := dk_182 0 202 (dk_at dksX1_gardenerOf_0 2 rfl rfl)
theorem dX1_gardenerOf_5 : decode cX1_gardenerOf 5 = .ok (.astore_n 3, 1) := dk_78 (dk_at dksX1_gardenerOf_0 5 rfl rfl)
theorem dX1_gardenerOf_6 : decode cX1_gardenerOf 6 = .ok (.iload_n 2, 1) := dk_28 (dk_at dksX1_gardenerOf_0 6 rfl rfl)
theorem dX1_gardenerOf_7 : decode cX1_gardenerOf 7 = .ok (.iconst 0, 1) := dk_3 (dk_at dksX1_gardenerOf_0 7 rfl rfl)
theorem dX1_gardenerOf_8 : decode cX1_gardenerOf 8 = .ok (.iconst 4, 1) := dk_7 (dk_at dksX1_gardenerOf_0 8 rfl rfl)
theorem dX1_gardenerOf_9 : decode cX1_gardenerOf 9 = .ok (.invokestatic 3, 3) := dk_184 0 3 (dk_at dksX1_gardenerOf_0 9 rfl rfl)
theorem dX1_gardenerOf_12 : decode cX1_gardenerOf 12 = .ok (.invokestatic 206, 3) := dk_184 0 206 (dk_at dksX1_gardenerOf_0 12 rfl rfl)
theorem dX1_gardenerOf_15 : decode cX1_gardenerOf 15 = .ok (.iload_n 2, 1) := dk_28 (dk_at dksX1_gardenerOf_0 15 rfl rfl)
theorem dX1_gardenerOf_16 : decode cX1_gardenerOf 16 = .ok (.tableswitch 56 0 3 #[32, 37, 46, 51], 32) := by decide +kernel
theorem dX1_gardenerOf_48 : decode cX1_gardenerOf 48 = .ok (.aload_n 3, 1) := dk_45 (dk_at dksX1_gardenerOf_2 0 rfl rfl)
theorem dX1_gardenerOf_49 : decode cX1_gardenerOf 49 = .ok (.invokevirtual 209, 3) := dk_182 0 209 (dk_at dksX1_gardenerOf_2 1 rfl rfl)
theorem dX1_gardenerOf_52 : decode cX1_gardenerOf 52 = .ok (.ireturn, 1) := dk_172 (dk_at dksX1_gardenerOf_2 4 rfl rfl)
theorem dX1_gardenerOf_53 : decode cX1_gardenerOf 53 = .ok (.aload_n 0, 1) := dk_42 (dk_at dksX1_gardenerOf_2 5 rfl rfl)
theorem dX1_gardenerOf_54 : decode cX1_gardenerOf 54 = .ok (.getfield 49, 3) := dk_180 0 49 (dk_at dksX1_gardenerOf_2 6 rfl rfl)
theorem dX1_gardenerOf_57 : decode cX1_gardenerOf 57 = .ok (.iload_n 1, 1) := dk_27 (dk_at dksX1_gardenerOf_2 9 rfl rfl)
theorem dX1_gardenerOf_58 : decode cX1_gardenerOf 58 = .ok (.invokevirtual 212, 3) := dk_182 0 212 (dk_at dksX1_gardenerOf_2 10 rfl rfl)
theorem dX1_gardenerOf_61 : decode cX1_gardenerOf 61 = .ok (.ireturn, 1) := dk_172 (dk_at dksX1_gardenerOf_2 13 rfl rfl)
theorem dX1_gardenerOf_62 : decode cX1_gardenerOf 62 = .ok (.aload_n 3, 1) := dk_45 (dk_at dksX1_gardenerOf_2 14 rfl rfl)
theorem dX1_gardenerOf_63 : decode cX1_gardenerOf 63 = .ok (.getfield 215, 3) := dk_180 0 215 (dk_at dksX1_gardenerOf_2 15 rfl rfl)
theorem dX1_gardenerOf_66 : decode cX1_gardenerOf 66 = .ok (.ireturn, 1) := dk_172 (dk_at dksX1_gardenerOf_2 18 rfl rfl)
theorem dX1_gardenerOf_67 : decode cX1_gardenerOf 67 = .ok (.aload_n 3, 1) := dk_45 (dk_at dksX1_gardenerOf_2 19 rfl rfl)
theorem dX1_gardenerOf_68 : decode cX1_gardenerOf 68 = .ok (.getfield 218, 3) := dk_180 0 218 (dk_at dksX1_gardenerOf_2 20 rfl rfl)
theorem dX1_gardenerOf_71 : decode cX1_gardenerOf 71 = .ok (.ireturn, 1) := dk_172 (dk_at dksX1_gardenerOf_2 23 rfl rfl)
theorem dX1_gardenerOf_72 : decode cX1_gardenerOf 72 = .ok (.aload_n 3, 1) := dk_45 (dk_at dksX1_gardenerOf_3 0 rfl rfl)
theorem dX1_gardenerOf_73 : decode cX1_gardenerOf 73 = .ok (.getfield 221, 3) := dk_180 0 221 (dk_at dksX1_gardenerOf_3 1 rfl rfl)
theorem dX1_gardenerOf_76 : decode cX1_gardenerOf 76 = .ok (.ireturn, 1) := dk_172 (dk_at dksX1_gardenerOf_3 4 rfl rfl)
abbrev cX1_getGardener : ByteArray := prog_1_method_38_code
def yX1_getGardener : MethodName := ⟨RX1, "getGardener", "(I)LMazeBonds$Gardener;"⟩
def dkwX1_getGardener_1 : List UInt8 := [192, 0, 192, 176]
abbrev dktX1_getGardener_1 : List UInt8 := dkwX1_getGardener_1 ++ []
def dkwX1_getGardener_0 : List UInt8 := [42, 180, 0, 49, 27, 182, 0, 182, 184, 0, 139, 42, 180, 0, 49, 180, 0, 186, 27, 182, 0, 189]
abbrev dktX1_getGardener_0 : List UInt8 := dkwX1_getGardener_0 ++ dktX1_getGardener_1
theorem dksX1_getGardener_0 : cX1_getGardener.data.toList.drop 0 = dktX1_getGardener_0 := by decide +kernel
theorem dksX1_getGardener_1 : cX1_getGardener.data.toList.drop 22 = dktX1_getGardener_1 := dk_seg dksX1_getGardener_0 22 rfl rfl
theorem dX1_getGardener_0 : decode cX1_getGardener 0 = .ok (.aload_n 0, 1) := dk_42 (dk_at dksX1_getGardener_0 0 rfl rfl)
theorem dX1_getGardener_1 : decode cX1_getGardener 1 = .ok (.getfield 49, 3) := dk_180 0 49 (dk_at dksX1_getGardener_0 1 rfl rfl)
theorem dX1_getGardener_4 : decode cX1_getGardener 4 = .ok (.iload_n 1, 1) := dk_27 (dk_at dksX1_getGardener_0 4 rfl rfl)
theorem dX1_getGardener_5 : decode cX1_getGardener 5 = .ok (.invokevirtual 182, 3) := dk_182 0 182 (dk_at dksX1_getGardener_0 5 rfl rfl)
theorem dX1_getGardener_8 : decode cX1_getGardener 8 = .ok (.invokestatic 139, 3) := dk_184 0 139 (dk_at dksX1_getGardener_0 8 rfl rfl)
theorem dX1_getGardener_11 : decode cX1_getGardener 11 = .ok (.aload_n 0, 1) := dk_42 (dk_at dksX1_getGardener_0 11 rfl rfl)
theorem dX1_getGardener_12 : decode cX1_getGardener 12 = .ok (.getfield 49, 3) := dk_180 0 49 (dk_at dksX1_getGardener_0 12 rfl rfl)
theorem dX1_getGardener_15 : decode cX1_getGardener 15 = .ok (.getfield 186, 3) := dk_180 0 186 (dk_at dksX1_getGardener_0 15 rfl rfl)
theorem dX1_getGardener_18 : decode cX1_getGardener 18 = .ok (.iload_n 1, 1) := dk_27 (dk_at dksX1_getGardener_0 18 rfl rfl)
theorem dX1_getGardener_19 : decode cX1_getGardener 19 = .ok (.invokevirtual 189, 3) := dk_182 0 189 (dk_at dksX1_getGardener_0 19 rfl rfl)
theorem dX1_getGardener_22 : decode cX1_getGardener 22 = .ok (.checkcast 192, 3) := dk_192 0 192 (dk_at dksX1_getGardener_1 0 rfl rfl)
theorem dX1_getGardener_25 : decode cX1_getGardener 25 = .ok (.areturn, 1) := dk_176 (dk_at dksX1_getGardener_1 3 rfl rfl)
abbrev cX1_requireArgument : ByteArray := prog_1_method_5_code
def yX1_requireArgument : MethodName := ⟨RX1, "requireArgument", "(Z)V"⟩
def dkwX1_requireArgument_0 : List UInt8 := [26, 154, 0, 11, 187, 0, 13, 89, 183, 0, 15, 191, 177]
abbrev dktX1_requireArgument_0 : List UInt8 := dkwX1_requireArgument_0 ++ []
theorem dksX1_requireArgument_0 : cX1_requireArgument.data.toList.drop 0 = dktX1_requireArgument_0 := by decide +kernel
theorem dX1_requireArgument_0 : decode cX1_requireArgument 0 = .ok (.iload_n 0, 1) := dk_26 (dk_at dksX1_requireArgument_0 0 rfl rfl)
theorem dX1_requireArgument_1 : decode cX1_requireArgument 1 = .ok (.ifCond .ne 11, 3) := dk_154 0 11 (dk_at dksX1_requireArgument_0 1 rfl rfl)
theorem dX1_requireArgument_4 : decode cX1_requireArgument 4 = .ok (.new 13, 3) := dk_187 0 13 (dk_at dksX1_requireArgument_0 4 rfl rfl)
theorem dX1_requireArgument_7 : decode cX1_requireArgument 7 = .ok (.dup, 1) := dk_89 (dk_at dksX1_requireArgument_0 7 rfl rfl)
theorem dX1_requireArgument_8 : decode cX1_requireArgument 8 = .ok (.invokespecial 15, 3) := dk_183 0 15 (dk_at dksX1_requireArgument_0 8 rfl rfl)
theorem dX1_requireArgument_11 : decode cX1_requireArgument 11 = .ok (.athrow, 1) := dk_191 (dk_at dksX1_requireArgument_0 11 rfl rfl)
theorem dX1_requireArgument_12 : decode cX1_requireArgument 12 = .ok (.return_, 1) := dk_177 (dk_at dksX1_requireArgument_0 12 rfl rfl)
abbrev cX1_visitorOf : ByteArray := prog_1_method_41_code
def yX1_visitorOf : MethodName := ⟨RX1, "visitorOf", "(II)I"⟩
def dkwX1_visitorOf_4 : List UInt8 := [45, 182, 0, 249, 153, 0, 7, 4, 167, 0, 4, 3, 172]
abbrev dktX1_visitorOf_4 : List UInt8 := dkwX1_visitorOf_4 ++ []
def dkwX1_visitorOf_3 : List UInt8 := [172, 45, 180, 0, 240, 172, 45, 180, 0, 242, 172, 45, 180, 0, 245, 153, 0, 7, 4, 167, 0, 4, 3, 172]
abbrev dktX1_visitorOf_3 : List UInt8 := dkwX1_visitorOf_3 ++ dktX1_visitorOf_4
def dkwX1_visitorOf_2 : List UInt8 := [45, 182, 0, 228, 172, 45, 180, 0, 229, 172, 45, 180, 0, 232, 172, 45, 180, 0, 234, 172, 45, 182, 0, 237]
abbrev dktX1_visitorOf_2 : List UInt8 := dkwX1_visitorOf_2 ++ dktX1_visitorOf_3
def dkwX1_visitorOf_1 : List UInt8 := [170, 0, 0, 0, 0, 0, 95, 0, 0, 0, 0, 0, 0, 0, 7, 0, 0, 0, 47, 0, 0, 0, 52, 0, 0, 0, 57, 0, 0, 0, 62, 0, 0, 0, 67, 0, 0, 0, 72, 0, 0, 0, 77, 0, 0, 0, 82]
abbrev dktX1_visitorOf_1 : List UInt8 := dkwX1_visitorOf_1 ++ dktX1_visitorOf_2
def dkwX1_visitorOf_0 : List UInt8 := [42, 27, 182, 0, 224, 78, 28, 3, 16, 8, 184, 0, 3, 184, 0, 206, 28]
abbrev dktX1_visitorOf_0 : List UInt8 := dkwX1_visitorOf_0 ++ dktX1_visitorOf_1
theorem dksX1_visitorOf_0 : cX1_visitorOf.data.toList.drop 0 = dktX1_visitorOf_0 := by decide +kernel
theorem dksX1_visitorOf_1 : cX1_visitorOf.data.toList.drop 17 = dktX1_visitorOf_1 := dk_seg dksX1_visitorOf_0 17 rfl rfl
theorem dksX1_visitorOf_2 : cX1_visitorOf.data.toList.drop 64 = dktX1_visitorOf_2 := dk_seg dksX1_visitorOf_1 47 rfl rfl
theorem dksX1_visitorOf_3 : cX1_visitorOf.data.toList.drop 88 = dktX1_visitorOf_3 := dk_seg dksX1_visitorOf_2 24 rfl rfl
theorem dksX1_visitorOf_4 : cX1_visitorOf.data.toList.drop 112 = dktX1_visitorOf_4 := dk_seg dksX1_visitorOf_3 24 rfl rfl
theorem dX1_visitorOf_0 : decode cX1_visitorOf 0 = .ok (.aload_n 0, 1) := dk_42 (dk_at dksX1_visitorOf_0 0 rfl rfl)
theorem dX1_visitorOf_1 : decode cX1_visitorOf 1 = .ok (.iload_n 1, 1) := dk_27 (dk_at dksX1_visitorOf_0 1 rfl rfl)
theorem dX1_visitorOf_2 : decode cX1_visitorOf 2 = .ok (.invokevirtual 224, 3) := dk_182 0 224 (dk_at dksX1_visitorOf_0 2 rfl rfl)
theorem dX1_visitorOf_5 : decode cX1_visitorOf 5 = .ok (.astore_n 3, 1) := dk_78 (dk_at dksX1_visitorOf_0 5 rfl rfl)
theorem dX1_visitorOf_6 : decode cX1_visitorOf 6 = .ok (.iload_n 2, 1) := dk_28 (dk_at dksX1_visitorOf_0 6 rfl rfl)
theorem dX1_visitorOf_7 : decode cX1_visitorOf 7 = .ok (.iconst 0, 1) := dk_3 (dk_at dksX1_visitorOf_0 7 rfl rfl)
theorem dX1_visitorOf_8 : decode cX1_visitorOf 8 = .ok (.bipush 8, 2) := dk_16 8 (dk_at dksX1_visitorOf_0 8 rfl rfl)
theorem dX1_visitorOf_10 : decode cX1_visitorOf 10 = .ok (.invokestatic 3, 3) := dk_184 0 3 (dk_at dksX1_visitorOf_0 10 rfl rfl)
theorem dX1_visitorOf_13 : decode cX1_visitorOf 13 = .ok (.invokestatic 206, 3) := dk_184 0 206 (dk_at dksX1_visitorOf_0 13 rfl rfl)
theorem dX1_visitorOf_16 : decode cX1_visitorOf 16 = .ok (.iload_n 2, 1) := dk_28 (dk_at dksX1_visitorOf_0 16 rfl rfl)
theorem dX1_visitorOf_17 : decode cX1_visitorOf 17 = .ok (.tableswitch 95 0 7 #[47, 52, 57, 62, 67, 72, 77, 82], 47) := by decide +kernel
theorem dX1_visitorOf_64 : decode cX1_visitorOf 64 = .ok (.aload_n 3, 1) := dk_45 (dk_at dksX1_visitorOf_2 0 rfl rfl)
theorem dX1_visitorOf_65 : decode cX1_visitorOf 65 = .ok (.invokevirtual 228, 3) := dk_182 0 228 (dk_at dksX1_visitorOf_2 1 rfl rfl)
theorem dX1_visitorOf_68 : decode cX1_visitorOf 68 = .ok (.ireturn, 1) := dk_172 (dk_at dksX1_visitorOf_2 4 rfl rfl)
theorem dX1_visitorOf_69 : decode cX1_visitorOf 69 = .ok (.aload_n 3, 1) := dk_45 (dk_at dksX1_visitorOf_2 5 rfl rfl)
theorem dX1_visitorOf_70 : decode cX1_visitorOf 70 = .ok (.getfield 229, 3) := dk_180 0 229 (dk_at dksX1_visitorOf_2 6 rfl rfl)
theorem dX1_visitorOf_73 : decode cX1_visitorOf 73 = .ok (.ireturn, 1) := dk_172 (dk_at dksX1_visitorOf_2 9 rfl rfl)
theorem dX1_visitorOf_74 : decode cX1_visitorOf 74 = .ok (.aload_n 3, 1) := dk_45 (dk_at dksX1_visitorOf_2 10 rfl rfl)
theorem dX1_visitorOf_75 : decode cX1_visitorOf 75 = .ok (.getfield 232, 3) := dk_180 0 232 (dk_at dksX1_visitorOf_2 11 rfl rfl)
theorem dX1_visitorOf_78 : decode cX1_visitorOf 78 = .ok (.ireturn, 1) := dk_172 (dk_at dksX1_visitorOf_2 14 rfl rfl)
theorem dX1_visitorOf_79 : decode cX1_visitorOf 79 = .ok (.aload_n 3, 1) := dk_45 (dk_at dksX1_visitorOf_2 15 rfl rfl)
theorem dX1_visitorOf_80 : decode cX1_visitorOf 80 = .ok (.getfield 234, 3) := dk_180 0 234 (dk_at dksX1_visitorOf_2 16 rfl rfl)
theorem dX1_visitorOf_83 : decode cX1_visitorOf 83 = .ok (.ireturn, 1) := dk_172 (dk_at dksX1_visitorOf_2 19 rfl rfl)
theorem dX1_visitorOf_84 : decode cX1_visitorOf 84 = .ok (.aload_n 3, 1) := dk_45 (dk_at dksX1_visitorOf_2 20 rfl rfl)
theorem dX1_visitorOf_85 : decode cX1_visitorOf 85 = .ok (.invokevirtual 237, 3) := dk_182 0 237 (dk_at dksX1_visitorOf_2 21 rfl rfl)
theorem dX1_visitorOf_88 : decode cX1_visitorOf 88 = .ok (.ireturn, 1) := dk_172 (dk_at dksX1_visitorOf_3 0 rfl rfl)
theorem dX1_visitorOf_89 : decode cX1_visitorOf 89 = .ok (.aload_n 3, 1) := dk_45 (dk_at dksX1_visitorOf_3 1 rfl rfl)
theorem dX1_visitorOf_90 : decode cX1_visitorOf 90 = .ok (.getfield 240, 3) := dk_180 0 240 (dk_at dksX1_visitorOf_3 2 rfl rfl)
theorem dX1_visitorOf_93 : decode cX1_visitorOf 93 = .ok (.ireturn, 1) := dk_172 (dk_at dksX1_visitorOf_3 5 rfl rfl)
theorem dX1_visitorOf_94 : decode cX1_visitorOf 94 = .ok (.aload_n 3, 1) := dk_45 (dk_at dksX1_visitorOf_3 6 rfl rfl)
theorem dX1_visitorOf_95 : decode cX1_visitorOf 95 = .ok (.getfield 242, 3) := dk_180 0 242 (dk_at dksX1_visitorOf_3 7 rfl rfl)
theorem dX1_visitorOf_98 : decode cX1_visitorOf 98 = .ok (.ireturn, 1) := dk_172 (dk_at dksX1_visitorOf_3 10 rfl rfl)
theorem dX1_visitorOf_99 : decode cX1_visitorOf 99 = .ok (.aload_n 3, 1) := dk_45 (dk_at dksX1_visitorOf_3 11 rfl rfl)
theorem dX1_visitorOf_100 : decode cX1_visitorOf 100 = .ok (.getfield 245, 3) := dk_180 0 245 (dk_at dksX1_visitorOf_3 12 rfl rfl)
theorem dX1_visitorOf_103 : decode cX1_visitorOf 103 = .ok (.ifCond .eq 7, 3) := dk_153 0 7 (dk_at dksX1_visitorOf_3 15 rfl rfl)
theorem dX1_visitorOf_106 : decode cX1_visitorOf 106 = .ok (.iconst 1, 1) := dk_4 (dk_at dksX1_visitorOf_3 18 rfl rfl)
theorem dX1_visitorOf_107 : decode cX1_visitorOf 107 = .ok (.goto 4, 3) := dk_167 0 4 (dk_at dksX1_visitorOf_3 19 rfl rfl)
theorem dX1_visitorOf_110 : decode cX1_visitorOf 110 = .ok (.iconst 0, 1) := dk_3 (dk_at dksX1_visitorOf_3 22 rfl rfl)
theorem dX1_visitorOf_111 : decode cX1_visitorOf 111 = .ok (.ireturn, 1) := dk_172 (dk_at dksX1_visitorOf_3 23 rfl rfl)
theorem dX1_visitorOf_112 : decode cX1_visitorOf 112 = .ok (.aload_n 3, 1) := dk_45 (dk_at dksX1_visitorOf_4 0 rfl rfl)
theorem dX1_visitorOf_113 : decode cX1_visitorOf 113 = .ok (.invokevirtual 249, 3) := dk_182 0 249 (dk_at dksX1_visitorOf_4 1 rfl rfl)
theorem dX1_visitorOf_116 : decode cX1_visitorOf 116 = .ok (.ifCond .eq 7, 3) := dk_153 0 7 (dk_at dksX1_visitorOf_4 4 rfl rfl)
theorem dX1_visitorOf_119 : decode cX1_visitorOf 119 = .ok (.iconst 1, 1) := dk_4 (dk_at dksX1_visitorOf_4 7 rfl rfl)
theorem dX1_visitorOf_120 : decode cX1_visitorOf 120 = .ok (.goto 4, 3) := dk_167 0 4 (dk_at dksX1_visitorOf_4 8 rfl rfl)
theorem dX1_visitorOf_123 : decode cX1_visitorOf 123 = .ok (.iconst 0, 1) := dk_3 (dk_at dksX1_visitorOf_4 11 rfl rfl)
theorem dX1_visitorOf_124 : decode cX1_visitorOf 124 = .ok (.ireturn, 1) := dk_172 (dk_at dksX1_visitorOf_4 12 rfl rfl)
abbrev cX1_getVisitor : ByteArray := prog_1_method_39_code
def yX1_getVisitor : MethodName := ⟨RX1, "getVisitor", "(I)LMazeBonds$Visitor;"⟩
def dkwX1_getVisitor_1 : List UInt8 := [192, 0, 200, 176]
abbrev dktX1_getVisitor_1 : List UInt8 := dkwX1_getVisitor_1 ++ []
def dkwX1_getVisitor_0 : List UInt8 := [42, 180, 0, 49, 27, 182, 0, 194, 184, 0, 139, 42, 180, 0, 49, 180, 0, 197, 27, 182, 0, 189]
abbrev dktX1_getVisitor_0 : List UInt8 := dkwX1_getVisitor_0 ++ dktX1_getVisitor_1
theorem dksX1_getVisitor_0 : cX1_getVisitor.data.toList.drop 0 = dktX1_getVisitor_0 := by decide +kernel
theorem dksX1_getVisitor_1 : cX1_getVisitor.data.toList.drop 22 = dktX1_getVisitor_1 := dk_seg dksX1_getVisitor_0 22 rfl rfl
theorem dX1_getVisitor_0 : decode cX1_getVisitor 0 = .ok (.aload_n 0, 1) := dk_42 (dk_at dksX1_getVisitor_0 0 rfl rfl)
theorem dX1_getVisitor_1 : decode cX1_getVisitor 1 = .ok (.getfield 49, 3) := dk_180 0 49 (dk_at dksX1_getVisitor_0 1 rfl rfl)
theorem dX1_getVisitor_4 : decode cX1_getVisitor 4 = .ok (.iload_n 1, 1) := dk_27 (dk_at dksX1_getVisitor_0 4 rfl rfl)
theorem dX1_getVisitor_5 : decode cX1_getVisitor 5 = .ok (.invokevirtual 194, 3) := dk_182 0 194 (dk_at dksX1_getVisitor_0 5 rfl rfl)
theorem dX1_getVisitor_8 : decode cX1_getVisitor 8 = .ok (.invokestatic 139, 3) := dk_184 0 139 (dk_at dksX1_getVisitor_0 8 rfl rfl)
theorem dX1_getVisitor_11 : decode cX1_getVisitor 11 = .ok (.aload_n 0, 1) := dk_42 (dk_at dksX1_getVisitor_0 11 rfl rfl)
theorem dX1_getVisitor_12 : decode cX1_getVisitor 12 = .ok (.getfield 49, 3) := dk_180 0 49 (dk_at dksX1_getVisitor_0 12 rfl rfl)
theorem dX1_getVisitor_15 : decode cX1_getVisitor 15 = .ok (.getfield 197, 3) := dk_180 0 197 (dk_at dksX1_getVisitor_0 15 rfl rfl)
theorem dX1_getVisitor_18 : decode cX1_getVisitor 18 = .ok (.iload_n 1, 1) := dk_27 (dk_at dksX1_getVisitor_0 18 rfl rfl)
theorem dX1_getVisitor_19 : decode cX1_getVisitor 19 = .ok (.invokevirtual 189, 3) := dk_182 0 189 (dk_at dksX1_getVisitor_0 19 rfl rfl)
theorem dX1_getVisitor_22 : decode cX1_getVisitor 22 = .ok (.checkcast 200, 3) := dk_192 0 200 (dk_at dksX1_getVisitor_1 0 rfl rfl)
theorem dX1_getVisitor_25 : decode cX1_getVisitor 25 = .ok (.areturn, 1) := dk_176 (dk_at dksX1_getVisitor_1 3 rfl rfl)
abbrev cX1_wouldPay : ByteArray := prog_1_method_42_code
def yX1_wouldPay : MethodName := ⟨RX1, "wouldPay", "(I)I"⟩
def dkwX1_wouldPay_3 : List UInt8 := [184, 0, 34, 172]
abbrev dktX1_wouldPay_3 : List UInt8 := dkwX1_wouldPay_3 ++ []
def dkwX1_wouldPay_2 : List UInt8 := [180, 0, 49, 180, 0, 186, 44, 180, 0, 240, 182, 0, 189, 192, 0, 192, 182, 0, 209, 44, 29, 182, 0, 255]
abbrev dktX1_wouldPay_2 : List UInt8 := dkwX1_wouldPay_2 ++ dktX1_wouldPay_3
def dkwX1_wouldPay_1 : List UInt8 := [154, 0, 19, 44, 182, 0, 252, 153, 0, 12, 29, 2, 159, 0, 7, 4, 167, 0, 4, 3, 184, 0, 150, 42]
abbrev dktX1_wouldPay_1 : List UInt8 := dkwX1_wouldPay_1 ++ dktX1_wouldPay_2
def dkwX1_wouldPay_0 : List UInt8 := [42, 27, 182, 0, 224, 77, 42, 180, 0, 49, 44, 180, 0, 229, 16, 15, 182, 0, 164, 62, 44, 182, 0, 249]
abbrev dktX1_wouldPay_0 : List UInt8 := dkwX1_wouldPay_0 ++ dktX1_wouldPay_1
theorem dksX1_wouldPay_0 : cX1_wouldPay.data.toList.drop 0 = dktX1_wouldPay_0 := by decide +kernel
theorem dksX1_wouldPay_1 : cX1_wouldPay.data.toList.drop 24 = dktX1_wouldPay_1 := dk_seg dksX1_wouldPay_0 24 rfl rfl
theorem dksX1_wouldPay_2 : cX1_wouldPay.data.toList.drop 48 = dktX1_wouldPay_2 := dk_seg dksX1_wouldPay_1 24 rfl rfl
theorem dksX1_wouldPay_3 : cX1_wouldPay.data.toList.drop 72 = dktX1_wouldPay_3 := dk_seg dksX1_wouldPay_2 24 rfl rfl
theorem dX1_wouldPay_0 : decode cX1_wouldPay 0 = .ok (.aload_n 0, 1) := dk_42 (dk_at dksX1_wouldPay_0 0 rfl rfl)
theorem dX1_wouldPay_1 : decode cX1_wouldPay 1 = .ok (.iload_n 1, 1) := dk_27 (dk_at dksX1_wouldPay_0 1 rfl rfl)
theorem dX1_wouldPay_2 : decode cX1_wouldPay 2 = .ok (.invokevirtual 224, 3) := dk_182 0 224 (dk_at dksX1_wouldPay_0 2 rfl rfl)
theorem dX1_wouldPay_5 : decode cX1_wouldPay 5 = .ok (.astore_n 2, 1) := dk_77 (dk_at dksX1_wouldPay_0 5 rfl rfl)
theorem dX1_wouldPay_6 : decode cX1_wouldPay 6 = .ok (.aload_n 0, 1) := dk_42 (dk_at dksX1_wouldPay_0 6 rfl rfl)
theorem dX1_wouldPay_7 : decode cX1_wouldPay 7 = .ok (.getfield 49, 3) := dk_180 0 49 (dk_at dksX1_wouldPay_0 7 rfl rfl)
theorem dX1_wouldPay_10 : decode cX1_wouldPay 10 = .ok (.aload_n 2, 1) := dk_44 (dk_at dksX1_wouldPay_0 10 rfl rfl)
theorem dX1_wouldPay_11 : decode cX1_wouldPay 11 = .ok (.getfield 229, 3) := dk_180 0 229 (dk_at dksX1_wouldPay_0 11 rfl rfl)
theorem dX1_wouldPay_14 : decode cX1_wouldPay 14 = .ok (.bipush 15, 2) := dk_16 15 (dk_at dksX1_wouldPay_0 14 rfl rfl)
theorem dX1_wouldPay_16 : decode cX1_wouldPay 16 = .ok (.invokevirtual 164, 3) := dk_182 0 164 (dk_at dksX1_wouldPay_0 16 rfl rfl)
theorem dX1_wouldPay_19 : decode cX1_wouldPay 19 = .ok (.istore_n 3, 1) := dk_62 (dk_at dksX1_wouldPay_0 19 rfl rfl)
theorem dX1_wouldPay_20 : decode cX1_wouldPay 20 = .ok (.aload_n 2, 1) := dk_44 (dk_at dksX1_wouldPay_0 20 rfl rfl)
theorem dX1_wouldPay_21 : decode cX1_wouldPay 21 = .ok (.invokevirtual 249, 3) := dk_182 0 249 (dk_at dksX1_wouldPay_0 21 rfl rfl)
theorem dX1_wouldPay_24 : decode cX1_wouldPay 24 = .ok (.ifCond .ne 19, 3) := dk_154 0 19 (dk_at dksX1_wouldPay_1 0 rfl rfl)
theorem dX1_wouldPay_27 : decode cX1_wouldPay 27 = .ok (.aload_n 2, 1) := dk_44 (dk_at dksX1_wouldPay_1 3 rfl rfl)
theorem dX1_wouldPay_28 : decode cX1_wouldPay 28 = .ok (.invokevirtual 252, 3) := dk_182 0 252 (dk_at dksX1_wouldPay_1 4 rfl rfl)
theorem dX1_wouldPay_31 : decode cX1_wouldPay 31 = .ok (.ifCond .eq 12, 3) := dk_153 0 12 (dk_at dksX1_wouldPay_1 7 rfl rfl)
theorem dX1_wouldPay_34 : decode cX1_wouldPay 34 = .ok (.iload_n 3, 1) := dk_29 (dk_at dksX1_wouldPay_1 10 rfl rfl)
theorem dX1_wouldPay_35 : decode cX1_wouldPay 35 = .ok (.iconst (-1), 1) := dk_2 (dk_at dksX1_wouldPay_1 11 rfl rfl)
theorem dX1_wouldPay_36 : decode cX1_wouldPay 36 = .ok (.if_icmp .eq 7, 3) := dk_159 0 7 (dk_at dksX1_wouldPay_1 12 rfl rfl)
theorem dX1_wouldPay_39 : decode cX1_wouldPay 39 = .ok (.iconst 1, 1) := dk_4 (dk_at dksX1_wouldPay_1 15 rfl rfl)
theorem dX1_wouldPay_40 : decode cX1_wouldPay 40 = .ok (.goto 4, 3) := dk_167 0 4 (dk_at dksX1_wouldPay_1 16 rfl rfl)
theorem dX1_wouldPay_43 : decode cX1_wouldPay 43 = .ok (.iconst 0, 1) := dk_3 (dk_at dksX1_wouldPay_1 19 rfl rfl)
theorem dX1_wouldPay_44 : decode cX1_wouldPay 44 = .ok (.invokestatic 150, 3) := dk_184 0 150 (dk_at dksX1_wouldPay_1 20 rfl rfl)
theorem dX1_wouldPay_47 : decode cX1_wouldPay 47 = .ok (.aload_n 0, 1) := dk_42 (dk_at dksX1_wouldPay_1 23 rfl rfl)
theorem dX1_wouldPay_48 : decode cX1_wouldPay 48 = .ok (.getfield 49, 3) := dk_180 0 49 (dk_at dksX1_wouldPay_2 0 rfl rfl)
theorem dX1_wouldPay_51 : decode cX1_wouldPay 51 = .ok (.getfield 186, 3) := dk_180 0 186 (dk_at dksX1_wouldPay_2 3 rfl rfl)
theorem dX1_wouldPay_54 : decode cX1_wouldPay 54 = .ok (.aload_n 2, 1) := dk_44 (dk_at dksX1_wouldPay_2 6 rfl rfl)
theorem dX1_wouldPay_55 : decode cX1_wouldPay 55 = .ok (.getfield 240, 3) := dk_180 0 240 (dk_at dksX1_wouldPay_2 7 rfl rfl)
theorem dX1_wouldPay_58 : decode cX1_wouldPay 58 = .ok (.invokevirtual 189, 3) := dk_182 0 189 (dk_at dksX1_wouldPay_2 10 rfl rfl)
theorem dX1_wouldPay_61 : decode cX1_wouldPay 61 = .ok (.checkcast 192, 3) := dk_192 0 192 (dk_at dksX1_wouldPay_2 13 rfl rfl)
theorem dX1_wouldPay_64 : decode cX1_wouldPay 64 = .ok (.invokevirtual 209, 3) := dk_182 0 209 (dk_at dksX1_wouldPay_2 16 rfl rfl)
theorem dX1_wouldPay_67 : decode cX1_wouldPay 67 = .ok (.aload_n 2, 1) := dk_44 (dk_at dksX1_wouldPay_2 19 rfl rfl)
theorem dX1_wouldPay_68 : decode cX1_wouldPay 68 = .ok (.iload_n 3, 1) := dk_29 (dk_at dksX1_wouldPay_2 20 rfl rfl)
theorem dX1_wouldPay_69 : decode cX1_wouldPay 69 = .ok (.invokevirtual 255, 3) := dk_182 0 255 (dk_at dksX1_wouldPay_2 21 rfl rfl)
theorem dX1_wouldPay_72 : decode cX1_wouldPay 72 = .ok (.invokestatic 34, 3) := dk_184 0 34 (dk_at dksX1_wouldPay_3 0 rfl rfl)
theorem dX1_wouldPay_75 : decode cX1_wouldPay 75 = .ok (.ireturn, 1) := dk_172 (dk_at dksX1_wouldPay_3 3 rfl rfl)
abbrev cX1_owed : ByteArray := prog_1_method_43_code
def yX1_owed : MethodName := ⟨RX1, "owed", "(I)I"⟩
def dkwX1_owed_0 : List UInt8 := [42, 27, 182, 0, 202, 87, 42, 180, 0, 49, 27, 182, 1, 2, 172]
abbrev dktX1_owed_0 : List UInt8 := dkwX1_owed_0 ++ []
theorem dksX1_owed_0 : cX1_owed.data.toList.drop 0 = dktX1_owed_0 := by decide +kernel
theorem dX1_owed_0 : decode cX1_owed 0 = .ok (.aload_n 0, 1) := dk_42 (dk_at dksX1_owed_0 0 rfl rfl)
theorem dX1_owed_1 : decode cX1_owed 1 = .ok (.iload_n 1, 1) := dk_27 (dk_at dksX1_owed_0 1 rfl rfl)
theorem dX1_owed_2 : decode cX1_owed 2 = .ok (.invokevirtual 202, 3) := dk_182 0 202 (dk_at dksX1_owed_0 2 rfl rfl)
theorem dX1_owed_5 : decode cX1_owed 5 = .ok (.pop, 1) := dk_87 (dk_at dksX1_owed_0 5 rfl rfl)
theorem dX1_owed_6 : decode cX1_owed 6 = .ok (.aload_n 0, 1) := dk_42 (dk_at dksX1_owed_0 6 rfl rfl)
theorem dX1_owed_7 : decode cX1_owed 7 = .ok (.getfield 49, 3) := dk_180 0 49 (dk_at dksX1_owed_0 7 rfl rfl)
theorem dX1_owed_10 : decode cX1_owed 10 = .ok (.iload_n 1, 1) := dk_27 (dk_at dksX1_owed_0 10 rfl rfl)
theorem dX1_owed_11 : decode cX1_owed 11 = .ok (.invokevirtual 258, 3) := dk_182 1 2 (dk_at dksX1_owed_0 11 rfl rfl)
theorem dX1_owed_14 : decode cX1_owed 14 = .ok (.ireturn, 1) := dk_172 (dk_at dksX1_owed_0 14 rfl rfl)
abbrev cX1_ranked : ByteArray := prog_1_method_45_code
def yX1_ranked : MethodName := ⟨RX1, "ranked", "(II)I"⟩
def dkwX1_ranked_6 : List UInt8 := [191]
abbrev dktX1_ranked_6 : List UInt8 := dkwX1_ranked_6 ++ []
def dkwX1_ranked_5 : List UInt8 := [167, 255, 172, 21, 4, 28, 160, 0, 5, 29, 172, 132, 3, 1, 167, 255, 138, 187, 0, 19, 89, 183, 0, 21]
abbrev dktX1_ranked_5 : List UInt8 := dkwX1_ranked_5 ++ dktX1_ranked_6
def dkwX1_ranked_4 : List UInt8 := [21, 6, 154, 0, 13, 21, 5, 29, 162, 0, 7, 4, 167, 0, 4, 3, 96, 54, 4, 132, 5, 1]
abbrev dktX1_ranked_4 : List UInt8 := dkwX1_ranked_4 ++ dktX1_ranked_5
def dkwX1_ranked_3 : List UInt8 := [180, 0, 197, 29, 182, 0, 189, 192, 0, 200, 184, 1, 5, 100, 54, 6, 21, 4, 21, 6, 157, 0, 14]
abbrev dktX1_ranked_3 : List UInt8 := dkwX1_ranked_3 ++ dktX1_ranked_4
def dkwX1_ranked_2 : List UInt8 := [27, 42, 180, 0, 49, 180, 0, 197, 21, 5, 182, 0, 189, 192, 0, 200, 184, 1, 5, 27, 42, 180, 0, 49]
abbrev dktX1_ranked_2 : List UInt8 := dkwX1_ranked_2 ++ dktX1_ranked_3
def dkwX1_ranked_1 : List UInt8 := [162, 0, 110, 3, 54, 4, 3, 54, 5, 21, 5, 42, 180, 0, 49, 180, 0, 197, 182, 0, 82, 162, 0, 75]
abbrev dktX1_ranked_1 : List UInt8 := dkwX1_ranked_1 ++ dktX1_ranked_2
def dkwX1_ranked_0 : List UInt8 := [27, 3, 6, 184, 0, 3, 184, 0, 206, 3, 62, 29, 42, 180, 0, 49, 180, 0, 197, 182, 0, 82]
abbrev dktX1_ranked_0 : List UInt8 := dkwX1_ranked_0 ++ dktX1_ranked_1
theorem dksX1_ranked_0 : cX1_ranked.data.toList.drop 0 = dktX1_ranked_0 := by decide +kernel
theorem dksX1_ranked_1 : cX1_ranked.data.toList.drop 22 = dktX1_ranked_1 := dk_seg dksX1_ranked_0 22 rfl rfl
theorem dksX1_ranked_2 : cX1_ranked.data.toList.drop 46 = dktX1_ranked_2 := dk_seg dksX1_ranked_1 24 rfl rfl
theorem dksX1_ranked_3 : cX1_ranked.data.toList.drop 70 = dktX1_ranked_3 := dk_seg dksX1_ranked_2 24 rfl rfl
theorem dksX1_ranked_4 : cX1_ranked.data.toList.drop 93 = dktX1_ranked_4 := dk_seg dksX1_ranked_3 23 rfl rfl
theorem dksX1_ranked_5 : cX1_ranked.data.toList.drop 115 = dktX1_ranked_5 := dk_seg dksX1_ranked_4 22 rfl rfl
theorem dksX1_ranked_6 : cX1_ranked.data.toList.drop 139 = dktX1_ranked_6 := dk_seg dksX1_ranked_5 24 rfl rfl
theorem dX1_ranked_0 : decode cX1_ranked 0 = .ok (.iload_n 1, 1) := dk_27 (dk_at dksX1_ranked_0 0 rfl rfl)
theorem dX1_ranked_1 : decode cX1_ranked 1 = .ok (.iconst 0, 1) := dk_3 (dk_at dksX1_ranked_0 1 rfl rfl)
theorem dX1_ranked_2 : decode cX1_ranked 2 = .ok (.iconst 3, 1) := dk_6 (dk_at dksX1_ranked_0 2 rfl rfl)
theorem dX1_ranked_3 : decode cX1_ranked 3 = .ok (.invokestatic 3, 3) := dk_184 0 3 (dk_at dksX1_ranked_0 3 rfl rfl)
theorem dX1_ranked_6 : decode cX1_ranked 6 = .ok (.invokestatic 206, 3) := dk_184 0 206 (dk_at dksX1_ranked_0 6 rfl rfl)
theorem dX1_ranked_9 : decode cX1_ranked 9 = .ok (.iconst 0, 1) := dk_3 (dk_at dksX1_ranked_0 9 rfl rfl)
theorem dX1_ranked_10 : decode cX1_ranked 10 = .ok (.istore_n 3, 1) := dk_62 (dk_at dksX1_ranked_0 10 rfl rfl)
theorem dX1_ranked_11 : decode cX1_ranked 11 = .ok (.iload_n 3, 1) := dk_29 (dk_at dksX1_ranked_0 11 rfl rfl)
theorem dX1_ranked_12 : decode cX1_ranked 12 = .ok (.aload_n 0, 1) := dk_42 (dk_at dksX1_ranked_0 12 rfl rfl)
theorem dX1_ranked_13 : decode cX1_ranked 13 = .ok (.getfield 49, 3) := dk_180 0 49 (dk_at dksX1_ranked_0 13 rfl rfl)
theorem dX1_ranked_16 : decode cX1_ranked 16 = .ok (.getfield 197, 3) := dk_180 0 197 (dk_at dksX1_ranked_0 16 rfl rfl)
theorem dX1_ranked_19 : decode cX1_ranked 19 = .ok (.invokevirtual 82, 3) := dk_182 0 82 (dk_at dksX1_ranked_0 19 rfl rfl)
theorem dX1_ranked_22 : decode cX1_ranked 22 = .ok (.if_icmp .ge 110, 3) := dk_162 0 110 (dk_at dksX1_ranked_1 0 rfl rfl)
theorem dX1_ranked_25 : decode cX1_ranked 25 = .ok (.iconst 0, 1) := dk_3 (dk_at dksX1_ranked_1 3 rfl rfl)
theorem dX1_ranked_26 : decode cX1_ranked 26 = .ok (.istore 4, 2) := dk_54 4 (dk_at dksX1_ranked_1 4 rfl rfl)
theorem dX1_ranked_28 : decode cX1_ranked 28 = .ok (.iconst 0, 1) := dk_3 (dk_at dksX1_ranked_1 6 rfl rfl)
theorem dX1_ranked_29 : decode cX1_ranked 29 = .ok (.istore 5, 2) := dk_54 5 (dk_at dksX1_ranked_1 7 rfl rfl)
theorem dX1_ranked_31 : decode cX1_ranked 31 = .ok (.iload 5, 2) := dk_21 5 (dk_at dksX1_ranked_1 9 rfl rfl)
theorem dX1_ranked_33 : decode cX1_ranked 33 = .ok (.aload_n 0, 1) := dk_42 (dk_at dksX1_ranked_1 11 rfl rfl)
theorem dX1_ranked_34 : decode cX1_ranked 34 = .ok (.getfield 49, 3) := dk_180 0 49 (dk_at dksX1_ranked_1 12 rfl rfl)
theorem dX1_ranked_37 : decode cX1_ranked 37 = .ok (.getfield 197, 3) := dk_180 0 197 (dk_at dksX1_ranked_1 15 rfl rfl)
theorem dX1_ranked_40 : decode cX1_ranked 40 = .ok (.invokevirtual 82, 3) := dk_182 0 82 (dk_at dksX1_ranked_1 18 rfl rfl)
theorem dX1_ranked_43 : decode cX1_ranked 43 = .ok (.if_icmp .ge 75, 3) := dk_162 0 75 (dk_at dksX1_ranked_1 21 rfl rfl)
theorem dX1_ranked_46 : decode cX1_ranked 46 = .ok (.iload_n 1, 1) := dk_27 (dk_at dksX1_ranked_2 0 rfl rfl)
theorem dX1_ranked_47 : decode cX1_ranked 47 = .ok (.aload_n 0, 1) := dk_42 (dk_at dksX1_ranked_2 1 rfl rfl)
theorem dX1_ranked_48 : decode cX1_ranked 48 = .ok (.getfield 49, 3) := dk_180 0 49 (dk_at dksX1_ranked_2 2 rfl rfl)
theorem dX1_ranked_51 : decode cX1_ranked 51 = .ok (.getfield 197, 3) := dk_180 0 197 (dk_at dksX1_ranked_2 5 rfl rfl)
theorem dX1_ranked_54 : decode cX1_ranked 54 = .ok (.iload 5, 2) := dk_21 5 (dk_at dksX1_ranked_2 8 rfl rfl)
theorem dX1_ranked_56 : decode cX1_ranked 56 = .ok (.invokevirtual 189, 3) := dk_182 0 189 (dk_at dksX1_ranked_2 10 rfl rfl)
theorem dX1_ranked_59 : decode cX1_ranked 59 = .ok (.checkcast 200, 3) := dk_192 0 200 (dk_at dksX1_ranked_2 13 rfl rfl)
theorem dX1_ranked_62 : decode cX1_ranked 62 = .ok (.invokestatic 261, 3) := dk_184 1 5 (dk_at dksX1_ranked_2 16 rfl rfl)
theorem dX1_ranked_65 : decode cX1_ranked 65 = .ok (.iload_n 1, 1) := dk_27 (dk_at dksX1_ranked_2 19 rfl rfl)
theorem dX1_ranked_66 : decode cX1_ranked 66 = .ok (.aload_n 0, 1) := dk_42 (dk_at dksX1_ranked_2 20 rfl rfl)
theorem dX1_ranked_67 : decode cX1_ranked 67 = .ok (.getfield 49, 3) := dk_180 0 49 (dk_at dksX1_ranked_2 21 rfl rfl)
theorem dX1_ranked_70 : decode cX1_ranked 70 = .ok (.getfield 197, 3) := dk_180 0 197 (dk_at dksX1_ranked_3 0 rfl rfl)
theorem dX1_ranked_73 : decode cX1_ranked 73 = .ok (.iload_n 3, 1) := dk_29 (dk_at dksX1_ranked_3 3 rfl rfl)
theorem dX1_ranked_74 : decode cX1_ranked 74 = .ok (.invokevirtual 189, 3) := dk_182 0 189 (dk_at dksX1_ranked_3 4 rfl rfl)
theorem dX1_ranked_77 : decode cX1_ranked 77 = .ok (.checkcast 200, 3) := dk_192 0 200 (dk_at dksX1_ranked_3 7 rfl rfl)
theorem dX1_ranked_80 : decode cX1_ranked 80 = .ok (.invokestatic 261, 3) := dk_184 1 5 (dk_at dksX1_ranked_3 10 rfl rfl)
theorem dX1_ranked_83 : decode cX1_ranked 83 = .ok (.isub, 1) := dk_100 (dk_at dksX1_ranked_3 13 rfl rfl)
theorem dX1_ranked_84 : decode cX1_ranked 84 = .ok (.istore 6, 2) := dk_54 6 (dk_at dksX1_ranked_3 14 rfl rfl)
theorem dX1_ranked_86 : decode cX1_ranked 86 = .ok (.iload 4, 2) := dk_21 4 (dk_at dksX1_ranked_3 16 rfl rfl)
theorem dX1_ranked_88 : decode cX1_ranked 88 = .ok (.iload 6, 2) := dk_21 6 (dk_at dksX1_ranked_3 18 rfl rfl)
theorem dX1_ranked_90 : decode cX1_ranked 90 = .ok (.ifCond .gt 14, 3) := dk_157 0 14 (dk_at dksX1_ranked_3 20 rfl rfl)
theorem dX1_ranked_93 : decode cX1_ranked 93 = .ok (.iload 6, 2) := dk_21 6 (dk_at dksX1_ranked_4 0 rfl rfl)
theorem dX1_ranked_95 : decode cX1_ranked 95 = .ok (.ifCond .ne 13, 3) := dk_154 0 13 (dk_at dksX1_ranked_4 2 rfl rfl)
theorem dX1_ranked_98 : decode cX1_ranked 98 = .ok (.iload 5, 2) := dk_21 5 (dk_at dksX1_ranked_4 5 rfl rfl)
theorem dX1_ranked_100 : decode cX1_ranked 100 = .ok (.iload_n 3, 1) := dk_29 (dk_at dksX1_ranked_4 7 rfl rfl)
theorem dX1_ranked_101 : decode cX1_ranked 101 = .ok (.if_icmp .ge 7, 3) := dk_162 0 7 (dk_at dksX1_ranked_4 8 rfl rfl)
theorem dX1_ranked_104 : decode cX1_ranked 104 = .ok (.iconst 1, 1) := dk_4 (dk_at dksX1_ranked_4 11 rfl rfl)
theorem dX1_ranked_105 : decode cX1_ranked 105 = .ok (.goto 4, 3) := dk_167 0 4 (dk_at dksX1_ranked_4 12 rfl rfl)
theorem dX1_ranked_108 : decode cX1_ranked 108 = .ok (.iconst 0, 1) := dk_3 (dk_at dksX1_ranked_4 15 rfl rfl)
theorem dX1_ranked_109 : decode cX1_ranked 109 = .ok (.iadd, 1) := dk_96 (dk_at dksX1_ranked_4 16 rfl rfl)
theorem dX1_ranked_110 : decode cX1_ranked 110 = .ok (.istore 4, 2) := dk_54 4 (dk_at dksX1_ranked_4 17 rfl rfl)
theorem dX1_ranked_112 : decode cX1_ranked 112 = .ok (.iinc 5 1, 3) := dk_132 5 1 (dk_at dksX1_ranked_4 19 rfl rfl)
theorem dX1_ranked_115 : decode cX1_ranked 115 = .ok (.goto (-84), 3) := dk_167 255 172 (dk_at dksX1_ranked_5 0 rfl rfl)
theorem dX1_ranked_118 : decode cX1_ranked 118 = .ok (.iload 4, 2) := dk_21 4 (dk_at dksX1_ranked_5 3 rfl rfl)
theorem dX1_ranked_120 : decode cX1_ranked 120 = .ok (.iload_n 2, 1) := dk_28 (dk_at dksX1_ranked_5 5 rfl rfl)
theorem dX1_ranked_121 : decode cX1_ranked 121 = .ok (.if_icmp .ne 5, 3) := dk_160 0 5 (dk_at dksX1_ranked_5 6 rfl rfl)
theorem dX1_ranked_124 : decode cX1_ranked 124 = .ok (.iload_n 3, 1) := dk_29 (dk_at dksX1_ranked_5 9 rfl rfl)
theorem dX1_ranked_125 : decode cX1_ranked 125 = .ok (.ireturn, 1) := dk_172 (dk_at dksX1_ranked_5 10 rfl rfl)
theorem dX1_ranked_126 : decode cX1_ranked 126 = .ok (.iinc 3 1, 3) := dk_132 3 1 (dk_at dksX1_ranked_5 11 rfl rfl)
theorem dX1_ranked_129 : decode cX1_ranked 129 = .ok (.goto (-118), 3) := dk_167 255 138 (dk_at dksX1_ranked_5 14 rfl rfl)
theorem dX1_ranked_132 : decode cX1_ranked 132 = .ok (.new 19, 3) := dk_187 0 19 (dk_at dksX1_ranked_5 17 rfl rfl)
theorem dX1_ranked_135 : decode cX1_ranked 135 = .ok (.dup, 1) := dk_89 (dk_at dksX1_ranked_5 20 rfl rfl)
theorem dX1_ranked_136 : decode cX1_ranked 136 = .ok (.invokespecial 21, 3) := dk_183 0 21 (dk_at dksX1_ranked_5 21 rfl rfl)
theorem dX1_ranked_139 : decode cX1_ranked 139 = .ok (.athrow, 1) := dk_191 (dk_at dksX1_ranked_6 0 rfl rfl)
abbrev cX1_measure : ByteArray := prog_1_method_44_code
def yX1_measure : MethodName := ⟨RX1, "measure", "(ILMazeBonds$Visitor;)I"⟩
def dkwX1_measure_2 : List UInt8 := [43, 182, 0, 228, 172, 43, 180, 0, 232, 172, 43, 182, 0, 237, 172, 43, 180, 0, 242, 172]
abbrev dktX1_measure_2 : List UInt8 := dkwX1_measure_2 ++ []
def dkwX1_measure_1 : List UInt8 := [170, 0, 0, 0, 0, 0, 42, 0, 0, 0, 0, 0, 0, 0, 2, 0, 0, 0, 27, 0, 0, 0, 32, 0, 0, 0, 37]
abbrev dktX1_measure_1 : List UInt8 := dkwX1_measure_1 ++ dktX1_measure_2
def dkwX1_measure_0 : List UInt8 := [26]
abbrev dktX1_measure_0 : List UInt8 := dkwX1_measure_0 ++ dktX1_measure_1
theorem dksX1_measure_0 : cX1_measure.data.toList.drop 0 = dktX1_measure_0 := by decide +kernel
theorem dksX1_measure_1 : cX1_measure.data.toList.drop 1 = dktX1_measure_1 := dk_seg dksX1_measure_0 1 rfl rfl
theorem dksX1_measure_2 : cX1_measure.data.toList.drop 28 = dktX1_measure_2 := dk_seg dksX1_measure_1 27 rfl rfl
theorem dX1_measure_0 : decode cX1_measure 0 = .ok (.iload_n 0, 1) := dk_26 (dk_at dksX1_measure_0 0 rfl rfl)
theorem dX1_measure_1 : decode cX1_measure 1 = .ok (.tableswitch 42 0 2 #[27, 32, 37], 27) := by decide +kernel
theorem dX1_measure_28 : decode cX1_measure 28 = .ok (.aload_n 1, 1) := dk_43 (dk_at dksX1_measure_2 0 rfl rfl)
theorem dX1_measure_29 : decode cX1_measure 29 = .ok (.invokevirtual 228, 3) := dk_182 0 228 (dk_at dksX1_measure_2 1 rfl rfl)
theorem dX1_measure_32 : decode cX1_measure 32 = .ok (.ireturn, 1) := dk_172 (dk_at dksX1_measure_2 4 rfl rfl)
theorem dX1_measure_33 : decode cX1_measure 33 = .ok (.aload_n 1, 1) := dk_43 (dk_at dksX1_measure_2 5 rfl rfl)
theorem dX1_measure_34 : decode cX1_measure 34 = .ok (.getfield 232, 3) := dk_180 0 232 (dk_at dksX1_measure_2 6 rfl rfl)
theorem dX1_measure_37 : decode cX1_measure 37 = .ok (.ireturn, 1) := dk_172 (dk_at dksX1_measure_2 9 rfl rfl)
theorem dX1_measure_38 : decode cX1_measure 38 = .ok (.aload_n 1, 1) := dk_43 (dk_at dksX1_measure_2 10 rfl rfl)
theorem dX1_measure_39 : decode cX1_measure 39 = .ok (.invokevirtual 237, 3) := dk_182 0 237 (dk_at dksX1_measure_2 11 rfl rfl)
theorem dX1_measure_42 : decode cX1_measure 42 = .ok (.ireturn, 1) := dk_172 (dk_at dksX1_measure_2 14 rfl rfl)
theorem dX1_measure_43 : decode cX1_measure 43 = .ok (.aload_n 1, 1) := dk_43 (dk_at dksX1_measure_2 15 rfl rfl)
theorem dX1_measure_44 : decode cX1_measure 44 = .ok (.getfield 242, 3) := dk_180 0 242 (dk_at dksX1_measure_2 16 rfl rfl)
theorem dX1_measure_47 : decode cX1_measure 47 = .ok (.ireturn, 1) := dk_172 (dk_at dksX1_measure_2 19 rfl rfl)
abbrev cX1_richest : ByteArray := prog_1_method_47_code
def yX1_richest : MethodName := ⟨RX1, "richest", "(I)I"⟩
def dkwX1_richest_3 : List UInt8 := [167, 255, 188, 187, 0, 19, 89, 183, 0, 21, 191]
abbrev dktX1_richest_3 : List UInt8 := dkwX1_richest_3 ++ []
def dkwX1_richest_2 : List UInt8 := [167, 0, 4, 3, 96, 62, 132, 4, 1, 167, 255, 220, 29, 27, 160, 0, 5, 28, 172, 132, 2, 1]
abbrev dktX1_richest_2 : List UInt8 := dkwX1_richest_2 ++ dktX1_richest_3
def dkwX1_richest_1 : List UInt8 := [180, 0, 49, 180, 0, 186, 182, 0, 82, 162, 0, 27, 29, 42, 21, 4, 28, 182, 1, 9, 153, 0, 7, 4]
abbrev dktX1_richest_1 : List UInt8 := dkwX1_richest_1 ++ dktX1_richest_2
def dkwX1_richest_0 : List UInt8 := [3, 61, 28, 42, 180, 0, 49, 180, 0, 186, 182, 0, 82, 162, 0, 60, 3, 62, 3, 54, 4, 21, 4, 42]
abbrev dktX1_richest_0 : List UInt8 := dkwX1_richest_0 ++ dktX1_richest_1
theorem dksX1_richest_0 : cX1_richest.data.toList.drop 0 = dktX1_richest_0 := by decide +kernel
theorem dksX1_richest_1 : cX1_richest.data.toList.drop 24 = dktX1_richest_1 := dk_seg dksX1_richest_0 24 rfl rfl
theorem dksX1_richest_2 : cX1_richest.data.toList.drop 48 = dktX1_richest_2 := dk_seg dksX1_richest_1 24 rfl rfl
theorem dksX1_richest_3 : cX1_richest.data.toList.drop 70 = dktX1_richest_3 := dk_seg dksX1_richest_2 22 rfl rfl
theorem dX1_richest_0 : decode cX1_richest 0 = .ok (.iconst 0, 1) := dk_3 (dk_at dksX1_richest_0 0 rfl rfl)
theorem dX1_richest_1 : decode cX1_richest 1 = .ok (.istore_n 2, 1) := dk_61 (dk_at dksX1_richest_0 1 rfl rfl)
theorem dX1_richest_2 : decode cX1_richest 2 = .ok (.iload_n 2, 1) := dk_28 (dk_at dksX1_richest_0 2 rfl rfl)
theorem dX1_richest_3 : decode cX1_richest 3 = .ok (.aload_n 0, 1) := dk_42 (dk_at dksX1_richest_0 3 rfl rfl)
theorem dX1_richest_4 : decode cX1_richest 4 = .ok (.getfield 49, 3) := dk_180 0 49 (dk_at dksX1_richest_0 4 rfl rfl)
theorem dX1_richest_7 : decode cX1_richest 7 = .ok (.getfield 186, 3) := dk_180 0 186 (dk_at dksX1_richest_0 7 rfl rfl)
theorem dX1_richest_10 : decode cX1_richest 10 = .ok (.invokevirtual 82, 3) := dk_182 0 82 (dk_at dksX1_richest_0 10 rfl rfl)
theorem dX1_richest_13 : decode cX1_richest 13 = .ok (.if_icmp .ge 60, 3) := dk_162 0 60 (dk_at dksX1_richest_0 13 rfl rfl)
theorem dX1_richest_16 : decode cX1_richest 16 = .ok (.iconst 0, 1) := dk_3 (dk_at dksX1_richest_0 16 rfl rfl)
theorem dX1_richest_17 : decode cX1_richest 17 = .ok (.istore_n 3, 1) := dk_62 (dk_at dksX1_richest_0 17 rfl rfl)
theorem dX1_richest_18 : decode cX1_richest 18 = .ok (.iconst 0, 1) := dk_3 (dk_at dksX1_richest_0 18 rfl rfl)
theorem dX1_richest_19 : decode cX1_richest 19 = .ok (.istore 4, 2) := dk_54 4 (dk_at dksX1_richest_0 19 rfl rfl)
theorem dX1_richest_21 : decode cX1_richest 21 = .ok (.iload 4, 2) := dk_21 4 (dk_at dksX1_richest_0 21 rfl rfl)
theorem dX1_richest_23 : decode cX1_richest 23 = .ok (.aload_n 0, 1) := dk_42 (dk_at dksX1_richest_0 23 rfl rfl)
theorem dX1_richest_24 : decode cX1_richest 24 = .ok (.getfield 49, 3) := dk_180 0 49 (dk_at dksX1_richest_1 0 rfl rfl)
theorem dX1_richest_27 : decode cX1_richest 27 = .ok (.getfield 186, 3) := dk_180 0 186 (dk_at dksX1_richest_1 3 rfl rfl)
theorem dX1_richest_30 : decode cX1_richest 30 = .ok (.invokevirtual 82, 3) := dk_182 0 82 (dk_at dksX1_richest_1 6 rfl rfl)
theorem dX1_richest_33 : decode cX1_richest 33 = .ok (.if_icmp .ge 27, 3) := dk_162 0 27 (dk_at dksX1_richest_1 9 rfl rfl)
theorem dX1_richest_36 : decode cX1_richest 36 = .ok (.iload_n 3, 1) := dk_29 (dk_at dksX1_richest_1 12 rfl rfl)
theorem dX1_richest_37 : decode cX1_richest 37 = .ok (.aload_n 0, 1) := dk_42 (dk_at dksX1_richest_1 13 rfl rfl)
theorem dX1_richest_38 : decode cX1_richest 38 = .ok (.iload 4, 2) := dk_21 4 (dk_at dksX1_richest_1 14 rfl rfl)
theorem dX1_richest_40 : decode cX1_richest 40 = .ok (.iload_n 2, 1) := dk_28 (dk_at dksX1_richest_1 16 rfl rfl)
theorem dX1_richest_41 : decode cX1_richest 41 = .ok (.invokevirtual 265, 3) := dk_182 1 9 (dk_at dksX1_richest_1 17 rfl rfl)
theorem dX1_richest_44 : decode cX1_richest 44 = .ok (.ifCond .eq 7, 3) := dk_153 0 7 (dk_at dksX1_richest_1 20 rfl rfl)
theorem dX1_richest_47 : decode cX1_richest 47 = .ok (.iconst 1, 1) := dk_4 (dk_at dksX1_richest_1 23 rfl rfl)
theorem dX1_richest_48 : decode cX1_richest 48 = .ok (.goto 4, 3) := dk_167 0 4 (dk_at dksX1_richest_2 0 rfl rfl)
theorem dX1_richest_51 : decode cX1_richest 51 = .ok (.iconst 0, 1) := dk_3 (dk_at dksX1_richest_2 3 rfl rfl)
theorem dX1_richest_52 : decode cX1_richest 52 = .ok (.iadd, 1) := dk_96 (dk_at dksX1_richest_2 4 rfl rfl)
theorem dX1_richest_53 : decode cX1_richest 53 = .ok (.istore_n 3, 1) := dk_62 (dk_at dksX1_richest_2 5 rfl rfl)
theorem dX1_richest_54 : decode cX1_richest 54 = .ok (.iinc 4 1, 3) := dk_132 4 1 (dk_at dksX1_richest_2 6 rfl rfl)
theorem dX1_richest_57 : decode cX1_richest 57 = .ok (.goto (-36), 3) := dk_167 255 220 (dk_at dksX1_richest_2 9 rfl rfl)
theorem dX1_richest_60 : decode cX1_richest 60 = .ok (.iload_n 3, 1) := dk_29 (dk_at dksX1_richest_2 12 rfl rfl)
theorem dX1_richest_61 : decode cX1_richest 61 = .ok (.iload_n 1, 1) := dk_27 (dk_at dksX1_richest_2 13 rfl rfl)
theorem dX1_richest_62 : decode cX1_richest 62 = .ok (.if_icmp .ne 5, 3) := dk_160 0 5 (dk_at dksX1_richest_2 14 rfl rfl)
theorem dX1_richest_65 : decode cX1_richest 65 = .ok (.iload_n 2, 1) := dk_28 (dk_at dksX1_richest_2 17 rfl rfl)
theorem dX1_richest_66 : decode cX1_richest 66 = .ok (.ireturn, 1) := dk_172 (dk_at dksX1_richest_2 18 rfl rfl)
theorem dX1_richest_67 : decode cX1_richest 67 = .ok (.iinc 2 1, 3) := dk_132 2 1 (dk_at dksX1_richest_2 19 rfl rfl)
theorem dX1_richest_70 : decode cX1_richest 70 = .ok (.goto (-68), 3) := dk_167 255 188 (dk_at dksX1_richest_3 0 rfl rfl)
theorem dX1_richest_73 : decode cX1_richest 73 = .ok (.new 19, 3) := dk_187 0 19 (dk_at dksX1_richest_3 3 rfl rfl)
theorem dX1_richest_76 : decode cX1_richest 76 = .ok (.dup, 1) := dk_89 (dk_at dksX1_richest_3 6 rfl rfl)
theorem dX1_richest_77 : decode cX1_richest 77 = .ok (.invokespecial 21, 3) := dk_183 0 21 (dk_at dksX1_richest_3 7 rfl rfl)
theorem dX1_richest_80 : decode cX1_richest 80 = .ok (.athrow, 1) := dk_191 (dk_at dksX1_richest_3 10 rfl rfl)
abbrev cX1_isRicher : ByteArray := prog_1_method_46_code
def yX1_isRicher : MethodName := ⟨RX1, "isRicher", "(II)Z"⟩
def dkwX1_isRicher_4 : List UInt8 := [167, 0, 4, 3, 172]
abbrev dktX1_isRicher_4 : List UInt8 := dkwX1_isRicher_4 ++ []
def dkwX1_isRicher_3 : List UInt8 := [21, 4, 153, 0, 16, 21, 4, 158, 0, 7, 4, 167, 0, 17, 3, 167, 0, 13, 27, 28, 162, 0, 7, 4]
abbrev dktX1_isRicher_3 : List UInt8 := dkwX1_isRicher_3 ++ dktX1_isRicher_4
def dkwX1_isRicher_2 : List UInt8 := [27, 182, 1, 2, 100, 54, 4, 29, 153, 0, 15, 29, 158, 0, 7, 4, 167, 0, 35, 3, 167, 0, 31]
abbrev dktX1_isRicher_2 : List UInt8 := dkwX1_isRicher_2 ++ dktX1_isRicher_3
def dkwX1_isRicher_1 : List UInt8 := [28, 182, 0, 189, 192, 0, 192, 182, 0, 209, 100, 62, 42, 180, 0, 49, 28, 182, 1, 2, 42, 180, 0, 49]
abbrev dktX1_isRicher_1 : List UInt8 := dkwX1_isRicher_1 ++ dktX1_isRicher_2
def dkwX1_isRicher_0 : List UInt8 := [42, 180, 0, 49, 180, 0, 186, 27, 182, 0, 189, 192, 0, 192, 182, 0, 209, 42, 180, 0, 49, 180, 0, 186]
abbrev dktX1_isRicher_0 : List UInt8 := dkwX1_isRicher_0 ++ dktX1_isRicher_1
theorem dksX1_isRicher_0 : cX1_isRicher.data.toList.drop 0 = dktX1_isRicher_0 := by decide +kernel
theorem dksX1_isRicher_1 : cX1_isRicher.data.toList.drop 24 = dktX1_isRicher_1 := dk_seg dksX1_isRicher_0 24 rfl rfl
theorem dksX1_isRicher_2 : cX1_isRicher.data.toList.drop 48 = dktX1_isRicher_2 := dk_seg dksX1_isRicher_1 24 rfl rfl
theorem dksX1_isRicher_3 : cX1_isRicher.data.toList.drop 71 = dktX1_isRicher_3 := dk_seg dksX1_isRicher_2 23 rfl rfl
theorem dksX1_isRicher_4 : cX1_isRicher.data.toList.drop 95 = dktX1_isRicher_4 := dk_seg dksX1_isRicher_3 24 rfl rfl
theorem dX1_isRicher_0 : decode cX1_isRicher 0 = .ok (.aload_n 0, 1) := dk_42 (dk_at dksX1_isRicher_0 0 rfl rfl)
theorem dX1_isRicher_1 : decode cX1_isRicher 1 = .ok (.getfield 49, 3) := dk_180 0 49 (dk_at dksX1_isRicher_0 1 rfl rfl)
theorem dX1_isRicher_4 : decode cX1_isRicher 4 = .ok (.getfield 186, 3) := dk_180 0 186 (dk_at dksX1_isRicher_0 4 rfl rfl)
theorem dX1_isRicher_7 : decode cX1_isRicher 7 = .ok (.iload_n 1, 1) := dk_27 (dk_at dksX1_isRicher_0 7 rfl rfl)
theorem dX1_isRicher_8 : decode cX1_isRicher 8 = .ok (.invokevirtual 189, 3) := dk_182 0 189 (dk_at dksX1_isRicher_0 8 rfl rfl)
theorem dX1_isRicher_11 : decode cX1_isRicher 11 = .ok (.checkcast 192, 3) := dk_192 0 192 (dk_at dksX1_isRicher_0 11 rfl rfl)
theorem dX1_isRicher_14 : decode cX1_isRicher 14 = .ok (.invokevirtual 209, 3) := dk_182 0 209 (dk_at dksX1_isRicher_0 14 rfl rfl)
theorem dX1_isRicher_17 : decode cX1_isRicher 17 = .ok (.aload_n 0, 1) := dk_42 (dk_at dksX1_isRicher_0 17 rfl rfl)
theorem dX1_isRicher_18 : decode cX1_isRicher 18 = .ok (.getfield 49, 3) := dk_180 0 49 (dk_at dksX1_isRicher_0 18 rfl rfl)
theorem dX1_isRicher_21 : decode cX1_isRicher 21 = .ok (.getfield 186, 3) := dk_180 0 186 (dk_at dksX1_isRicher_0 21 rfl rfl)
theorem dX1_isRicher_24 : decode cX1_isRicher 24 = .ok (.iload_n 2, 1) := dk_28 (dk_at dksX1_isRicher_1 0 rfl rfl)
theorem dX1_isRicher_25 : decode cX1_isRicher 25 = .ok (.invokevirtual 189, 3) := dk_182 0 189 (dk_at dksX1_isRicher_1 1 rfl rfl)
theorem dX1_isRicher_28 : decode cX1_isRicher 28 = .ok (.checkcast 192, 3) := dk_192 0 192 (dk_at dksX1_isRicher_1 4 rfl rfl)
theorem dX1_isRicher_31 : decode cX1_isRicher 31 = .ok (.invokevirtual 209, 3) := dk_182 0 209 (dk_at dksX1_isRicher_1 7 rfl rfl)
theorem dX1_isRicher_34 : decode cX1_isRicher 34 = .ok (.isub, 1) := dk_100 (dk_at dksX1_isRicher_1 10 rfl rfl)
theorem dX1_isRicher_35 : decode cX1_isRicher 35 = .ok (.istore_n 3, 1) := dk_62 (dk_at dksX1_isRicher_1 11 rfl rfl)
theorem dX1_isRicher_36 : decode cX1_isRicher 36 = .ok (.aload_n 0, 1) := dk_42 (dk_at dksX1_isRicher_1 12 rfl rfl)
theorem dX1_isRicher_37 : decode cX1_isRicher 37 = .ok (.getfield 49, 3) := dk_180 0 49 (dk_at dksX1_isRicher_1 13 rfl rfl)
theorem dX1_isRicher_40 : decode cX1_isRicher 40 = .ok (.iload_n 2, 1) := dk_28 (dk_at dksX1_isRicher_1 16 rfl rfl)
theorem dX1_isRicher_41 : decode cX1_isRicher 41 = .ok (.invokevirtual 258, 3) := dk_182 1 2 (dk_at dksX1_isRicher_1 17 rfl rfl)
theorem dX1_isRicher_44 : decode cX1_isRicher 44 = .ok (.aload_n 0, 1) := dk_42 (dk_at dksX1_isRicher_1 20 rfl rfl)
theorem dX1_isRicher_45 : decode cX1_isRicher 45 = .ok (.getfield 49, 3) := dk_180 0 49 (dk_at dksX1_isRicher_1 21 rfl rfl)
theorem dX1_isRicher_48 : decode cX1_isRicher 48 = .ok (.iload_n 1, 1) := dk_27 (dk_at dksX1_isRicher_2 0 rfl rfl)
theorem dX1_isRicher_49 : decode cX1_isRicher 49 = .ok (.invokevirtual 258, 3) := dk_182 1 2 (dk_at dksX1_isRicher_2 1 rfl rfl)
theorem dX1_isRicher_52 : decode cX1_isRicher 52 = .ok (.isub, 1) := dk_100 (dk_at dksX1_isRicher_2 4 rfl rfl)
theorem dX1_isRicher_53 : decode cX1_isRicher 53 = .ok (.istore 4, 2) := dk_54 4 (dk_at dksX1_isRicher_2 5 rfl rfl)
theorem dX1_isRicher_55 : decode cX1_isRicher 55 = .ok (.iload_n 3, 1) := dk_29 (dk_at dksX1_isRicher_2 7 rfl rfl)
theorem dX1_isRicher_56 : decode cX1_isRicher 56 = .ok (.ifCond .eq 15, 3) := dk_153 0 15 (dk_at dksX1_isRicher_2 8 rfl rfl)
theorem dX1_isRicher_59 : decode cX1_isRicher 59 = .ok (.iload_n 3, 1) := dk_29 (dk_at dksX1_isRicher_2 11 rfl rfl)
theorem dX1_isRicher_60 : decode cX1_isRicher 60 = .ok (.ifCond .le 7, 3) := dk_158 0 7 (dk_at dksX1_isRicher_2 12 rfl rfl)
theorem dX1_isRicher_63 : decode cX1_isRicher 63 = .ok (.iconst 1, 1) := dk_4 (dk_at dksX1_isRicher_2 15 rfl rfl)
theorem dX1_isRicher_64 : decode cX1_isRicher 64 = .ok (.goto 35, 3) := dk_167 0 35 (dk_at dksX1_isRicher_2 16 rfl rfl)
theorem dX1_isRicher_67 : decode cX1_isRicher 67 = .ok (.iconst 0, 1) := dk_3 (dk_at dksX1_isRicher_2 19 rfl rfl)
theorem dX1_isRicher_68 : decode cX1_isRicher 68 = .ok (.goto 31, 3) := dk_167 0 31 (dk_at dksX1_isRicher_2 20 rfl rfl)
theorem dX1_isRicher_71 : decode cX1_isRicher 71 = .ok (.iload 4, 2) := dk_21 4 (dk_at dksX1_isRicher_3 0 rfl rfl)
theorem dX1_isRicher_73 : decode cX1_isRicher 73 = .ok (.ifCond .eq 16, 3) := dk_153 0 16 (dk_at dksX1_isRicher_3 2 rfl rfl)
theorem dX1_isRicher_76 : decode cX1_isRicher 76 = .ok (.iload 4, 2) := dk_21 4 (dk_at dksX1_isRicher_3 5 rfl rfl)
theorem dX1_isRicher_78 : decode cX1_isRicher 78 = .ok (.ifCond .le 7, 3) := dk_158 0 7 (dk_at dksX1_isRicher_3 7 rfl rfl)
theorem dX1_isRicher_81 : decode cX1_isRicher 81 = .ok (.iconst 1, 1) := dk_4 (dk_at dksX1_isRicher_3 10 rfl rfl)
theorem dX1_isRicher_82 : decode cX1_isRicher 82 = .ok (.goto 17, 3) := dk_167 0 17 (dk_at dksX1_isRicher_3 11 rfl rfl)
theorem dX1_isRicher_85 : decode cX1_isRicher 85 = .ok (.iconst 0, 1) := dk_3 (dk_at dksX1_isRicher_3 14 rfl rfl)
theorem dX1_isRicher_86 : decode cX1_isRicher 86 = .ok (.goto 13, 3) := dk_167 0 13 (dk_at dksX1_isRicher_3 15 rfl rfl)
theorem dX1_isRicher_89 : decode cX1_isRicher 89 = .ok (.iload_n 1, 1) := dk_27 (dk_at dksX1_isRicher_3 18 rfl rfl)
theorem dX1_isRicher_90 : decode cX1_isRicher 90 = .ok (.iload_n 2, 1) := dk_28 (dk_at dksX1_isRicher_3 19 rfl rfl)
theorem dX1_isRicher_91 : decode cX1_isRicher 91 = .ok (.if_icmp .ge 7, 3) := dk_162 0 7 (dk_at dksX1_isRicher_3 20 rfl rfl)
theorem dX1_isRicher_94 : decode cX1_isRicher 94 = .ok (.iconst 1, 1) := dk_4 (dk_at dksX1_isRicher_3 23 rfl rfl)
theorem dX1_isRicher_95 : decode cX1_isRicher 95 = .ok (.goto 4, 3) := dk_167 0 4 (dk_at dksX1_isRicher_4 0 rfl rfl)
theorem dX1_isRicher_98 : decode cX1_isRicher 98 = .ok (.iconst 0, 1) := dk_3 (dk_at dksX1_isRicher_4 3 rfl rfl)
theorem dX1_isRicher_99 : decode cX1_isRicher 99 = .ok (.ireturn, 1) := dk_172 (dk_at dksX1_isRicher_4 4 rfl rfl)
abbrev cX1_append : ByteArray := prog_1_method_48_code
def yX1_append : MethodName := ⟨RX1, "append", "(C)I"⟩
def dkwX1_append_1 : List UInt8 := [180, 1, 12, 27, 85, 42, 89, 180, 1, 12, 4, 96, 181, 1, 12, 42, 180, 1, 12, 172]
abbrev dktX1_append_1 : List UInt8 := dkwX1_append_1 ++ []
def dkwX1_append_0 : List UInt8 := [42, 180, 1, 12, 16, 60, 162, 0, 7, 4, 167, 0, 4, 3, 184, 1, 15, 42, 180, 0, 60, 42]
abbrev dktX1_append_0 : List UInt8 := dkwX1_append_0 ++ dktX1_append_1
theorem dksX1_append_0 : cX1_append.data.toList.drop 0 = dktX1_append_0 := by decide +kernel
theorem dksX1_append_1 : cX1_append.data.toList.drop 22 = dktX1_append_1 := dk_seg dksX1_append_0 22 rfl rfl
theorem dX1_append_0 : decode cX1_append 0 = .ok (.aload_n 0, 1) := dk_42 (dk_at dksX1_append_0 0 rfl rfl)
theorem dX1_append_1 : decode cX1_append 1 = .ok (.getfield 268, 3) := dk_180 1 12 (dk_at dksX1_append_0 1 rfl rfl)
theorem dX1_append_4 : decode cX1_append 4 = .ok (.bipush 60, 2) := dk_16 60 (dk_at dksX1_append_0 4 rfl rfl)
theorem dX1_append_6 : decode cX1_append 6 = .ok (.if_icmp .ge 7, 3) := dk_162 0 7 (dk_at dksX1_append_0 6 rfl rfl)
theorem dX1_append_9 : decode cX1_append 9 = .ok (.iconst 1, 1) := dk_4 (dk_at dksX1_append_0 9 rfl rfl)
theorem dX1_append_10 : decode cX1_append 10 = .ok (.goto 4, 3) := dk_167 0 4 (dk_at dksX1_append_0 10 rfl rfl)
theorem dX1_append_13 : decode cX1_append 13 = .ok (.iconst 0, 1) := dk_3 (dk_at dksX1_append_0 13 rfl rfl)
theorem dX1_append_14 : decode cX1_append 14 = .ok (.invokestatic 271, 3) := dk_184 1 15 (dk_at dksX1_append_0 14 rfl rfl)
theorem dX1_append_17 : decode cX1_append 17 = .ok (.aload_n 0, 1) := dk_42 (dk_at dksX1_append_0 17 rfl rfl)
theorem dX1_append_18 : decode cX1_append 18 = .ok (.getfield 60, 3) := dk_180 0 60 (dk_at dksX1_append_0 18 rfl rfl)
theorem dX1_append_21 : decode cX1_append 21 = .ok (.aload_n 0, 1) := dk_42 (dk_at dksX1_append_0 21 rfl rfl)
theorem dX1_append_22 : decode cX1_append 22 = .ok (.getfield 268, 3) := dk_180 1 12 (dk_at dksX1_append_1 0 rfl rfl)
theorem dX1_append_25 : decode cX1_append 25 = .ok (.iload_n 1, 1) := dk_27 (dk_at dksX1_append_1 3 rfl rfl)
theorem dX1_append_26 : decode cX1_append 26 = .ok (.castore, 1) := dk_85 (dk_at dksX1_append_1 4 rfl rfl)
theorem dX1_append_27 : decode cX1_append 27 = .ok (.aload_n 0, 1) := dk_42 (dk_at dksX1_append_1 5 rfl rfl)
theorem dX1_append_28 : decode cX1_append 28 = .ok (.dup, 1) := dk_89 (dk_at dksX1_append_1 6 rfl rfl)
theorem dX1_append_29 : decode cX1_append 29 = .ok (.getfield 268, 3) := dk_180 1 12 (dk_at dksX1_append_1 7 rfl rfl)
theorem dX1_append_32 : decode cX1_append 32 = .ok (.iconst 1, 1) := dk_4 (dk_at dksX1_append_1 10 rfl rfl)
theorem dX1_append_33 : decode cX1_append 33 = .ok (.iadd, 1) := dk_96 (dk_at dksX1_append_1 11 rfl rfl)
theorem dX1_append_34 : decode cX1_append 34 = .ok (.putfield 268, 3) := dk_181 1 12 (dk_at dksX1_append_1 12 rfl rfl)
theorem dX1_append_37 : decode cX1_append 37 = .ok (.aload_n 0, 1) := dk_42 (dk_at dksX1_append_1 15 rfl rfl)
theorem dX1_append_38 : decode cX1_append 38 = .ok (.getfield 268, 3) := dk_180 1 12 (dk_at dksX1_append_1 16 rfl rfl)
theorem dX1_append_41 : decode cX1_append 41 = .ok (.ireturn, 1) := dk_172 (dk_at dksX1_append_1 19 rfl rfl)
abbrev cX1_requireState : ByteArray := prog_1_method_6_code
def yX1_requireState : MethodName := ⟨RX1, "requireState", "(Z)V"⟩
def dkwX1_requireState_0 : List UInt8 := [26, 154, 0, 11, 187, 0, 16, 89, 183, 0, 18, 191, 177]
abbrev dktX1_requireState_0 : List UInt8 := dkwX1_requireState_0 ++ []
theorem dksX1_requireState_0 : cX1_requireState.data.toList.drop 0 = dktX1_requireState_0 := by decide +kernel
theorem dX1_requireState_0 : decode cX1_requireState 0 = .ok (.iload_n 0, 1) := dk_26 (dk_at dksX1_requireState_0 0 rfl rfl)
theorem dX1_requireState_1 : decode cX1_requireState 1 = .ok (.ifCond .ne 11, 3) := dk_154 0 11 (dk_at dksX1_requireState_0 1 rfl rfl)
theorem dX1_requireState_4 : decode cX1_requireState 4 = .ok (.new 16, 3) := dk_187 0 16 (dk_at dksX1_requireState_0 4 rfl rfl)
theorem dX1_requireState_7 : decode cX1_requireState 7 = .ok (.dup, 1) := dk_89 (dk_at dksX1_requireState_0 7 rfl rfl)
theorem dX1_requireState_8 : decode cX1_requireState 8 = .ok (.invokespecial 18, 3) := dk_183 0 18 (dk_at dksX1_requireState_0 8 rfl rfl)
theorem dX1_requireState_11 : decode cX1_requireState 11 = .ok (.athrow, 1) := dk_191 (dk_at dksX1_requireState_0 11 rfl rfl)
theorem dX1_requireState_12 : decode cX1_requireState 12 = .ok (.return_, 1) := dk_177 (dk_at dksX1_requireState_0 12 rfl rfl)
abbrev cX1_commands : ByteArray := prog_1_method_49_code
def yX1_commands : MethodName := ⟨RX1, "commands", "()I"⟩
def dkwX1_commands_3 : List UInt8 := [43, 182, 0, 106, 191, 78, 42, 3, 181, 1, 12, 45, 191]
abbrev dktX1_commands_3 : List UInt8 := dkwX1_commands_3 ++ []
def dkwX1_commands_2 : List UInt8 := [181, 1, 12, 28, 172, 76, 42, 43, 180, 1, 29, 181, 0, 64, 187, 0, 13, 89, 183, 0, 15, 191, 76, 42]
abbrev dktX1_commands_2 : List UInt8 := dkwX1_commands_2 ++ dktX1_commands_3
def dkwX1_commands_1 : List UInt8 := [182, 0, 94, 76, 42, 43, 187, 1, 18, 89, 42, 183, 1, 20, 43, 182, 1, 23, 182, 0, 102, 61, 42, 3]
abbrev dktX1_commands_1 : List UInt8 := dkwX1_commands_1 ++ dktX1_commands_2
def dkwX1_commands_0 : List UInt8 := [187, 1, 18, 89, 42, 183, 1, 20, 1, 182, 1, 23, 87, 42, 2, 181, 0, 64, 42, 180, 0, 49]
abbrev dktX1_commands_0 : List UInt8 := dkwX1_commands_0 ++ dktX1_commands_1
theorem dksX1_commands_0 : cX1_commands.data.toList.drop 0 = dktX1_commands_0 := by decide +kernel
theorem dksX1_commands_1 : cX1_commands.data.toList.drop 22 = dktX1_commands_1 := dk_seg dksX1_commands_0 22 rfl rfl
theorem dksX1_commands_2 : cX1_commands.data.toList.drop 46 = dktX1_commands_2 := dk_seg dksX1_commands_1 24 rfl rfl
theorem dksX1_commands_3 : cX1_commands.data.toList.drop 70 = dktX1_commands_3 := dk_seg dksX1_commands_2 24 rfl rfl
theorem dX1_commands_0 : decode cX1_commands 0 = .ok (.new 274, 3) := dk_187 1 18 (dk_at dksX1_commands_0 0 rfl rfl)
theorem dX1_commands_3 : decode cX1_commands 3 = .ok (.dup, 1) := dk_89 (dk_at dksX1_commands_0 3 rfl rfl)
theorem dX1_commands_4 : decode cX1_commands 4 = .ok (.aload_n 0, 1) := dk_42 (dk_at dksX1_commands_0 4 rfl rfl)
theorem dX1_commands_5 : decode cX1_commands 5 = .ok (.invokespecial 276, 3) := dk_183 1 20 (dk_at dksX1_commands_0 5 rfl rfl)
theorem dX1_commands_8 : decode cX1_commands 8 = .ok (.aconst_null, 1) := dk_1 (dk_at dksX1_commands_0 8 rfl rfl)
theorem dX1_commands_9 : decode cX1_commands 9 = .ok (.invokevirtual 279, 3) := dk_182 1 23 (dk_at dksX1_commands_0 9 rfl rfl)
theorem dX1_commands_12 : decode cX1_commands 12 = .ok (.pop, 1) := dk_87 (dk_at dksX1_commands_0 12 rfl rfl)
theorem dX1_commands_13 : decode cX1_commands 13 = .ok (.aload_n 0, 1) := dk_42 (dk_at dksX1_commands_0 13 rfl rfl)
theorem dX1_commands_14 : decode cX1_commands 14 = .ok (.iconst (-1), 1) := dk_2 (dk_at dksX1_commands_0 14 rfl rfl)
theorem dX1_commands_15 : decode cX1_commands 15 = .ok (.putfield 64, 3) := dk_181 0 64 (dk_at dksX1_commands_0 15 rfl rfl)
theorem dX1_commands_18 : decode cX1_commands 18 = .ok (.aload_n 0, 1) := dk_42 (dk_at dksX1_commands_0 18 rfl rfl)
theorem dX1_commands_19 : decode cX1_commands 19 = .ok (.getfield 49, 3) := dk_180 0 49 (dk_at dksX1_commands_0 19 rfl rfl)
theorem dX1_commands_22 : decode cX1_commands 22 = .ok (.invokevirtual 94, 3) := dk_182 0 94 (dk_at dksX1_commands_1 0 rfl rfl)
theorem dX1_commands_25 : decode cX1_commands 25 = .ok (.astore_n 1, 1) := dk_76 (dk_at dksX1_commands_1 3 rfl rfl)
theorem dX1_commands_26 : decode cX1_commands 26 = .ok (.aload_n 0, 1) := dk_42 (dk_at dksX1_commands_1 4 rfl rfl)
theorem dX1_commands_27 : decode cX1_commands 27 = .ok (.aload_n 1, 1) := dk_43 (dk_at dksX1_commands_1 5 rfl rfl)
theorem dX1_commands_28 : decode cX1_commands 28 = .ok (.new 274, 3) := dk_187 1 18 (dk_at dksX1_commands_1 6 rfl rfl)
theorem dX1_commands_31 : decode cX1_commands 31 = .ok (.dup, 1) := dk_89 (dk_at dksX1_commands_1 9 rfl rfl)
theorem dX1_commands_32 : decode cX1_commands 32 = .ok (.aload_n 0, 1) := dk_42 (dk_at dksX1_commands_1 10 rfl rfl)
theorem dX1_commands_33 : decode cX1_commands 33 = .ok (.invokespecial 276, 3) := dk_183 1 20 (dk_at dksX1_commands_1 11 rfl rfl)
theorem dX1_commands_36 : decode cX1_commands 36 = .ok (.aload_n 1, 1) := dk_43 (dk_at dksX1_commands_1 14 rfl rfl)
theorem dX1_commands_37 : decode cX1_commands 37 = .ok (.invokevirtual 279, 3) := dk_182 1 23 (dk_at dksX1_commands_1 15 rfl rfl)
theorem dX1_commands_40 : decode cX1_commands 40 = .ok (.invokevirtual 102, 3) := dk_182 0 102 (dk_at dksX1_commands_1 18 rfl rfl)
theorem dX1_commands_43 : decode cX1_commands 43 = .ok (.istore_n 2, 1) := dk_61 (dk_at dksX1_commands_1 21 rfl rfl)
theorem dX1_commands_44 : decode cX1_commands 44 = .ok (.aload_n 0, 1) := dk_42 (dk_at dksX1_commands_1 22 rfl rfl)
theorem dX1_commands_45 : decode cX1_commands 45 = .ok (.iconst 0, 1) := dk_3 (dk_at dksX1_commands_1 23 rfl rfl)
theorem dX1_commands_46 : decode cX1_commands 46 = .ok (.putfield 268, 3) := dk_181 1 12 (dk_at dksX1_commands_2 0 rfl rfl)
theorem dX1_commands_49 : decode cX1_commands 49 = .ok (.iload_n 2, 1) := dk_28 (dk_at dksX1_commands_2 3 rfl rfl)
theorem dX1_commands_50 : decode cX1_commands 50 = .ok (.ireturn, 1) := dk_172 (dk_at dksX1_commands_2 4 rfl rfl)
theorem dX1_commands_51 : decode cX1_commands 51 = .ok (.astore_n 1, 1) := dk_76 (dk_at dksX1_commands_2 5 rfl rfl)
theorem dX1_commands_52 : decode cX1_commands 52 = .ok (.aload_n 0, 1) := dk_42 (dk_at dksX1_commands_2 6 rfl rfl)
theorem dX1_commands_53 : decode cX1_commands 53 = .ok (.aload_n 1, 1) := dk_43 (dk_at dksX1_commands_2 7 rfl rfl)
theorem dX1_commands_54 : decode cX1_commands 54 = .ok (.getfield 285, 3) := dk_180 1 29 (dk_at dksX1_commands_2 8 rfl rfl)
theorem dX1_commands_57 : decode cX1_commands 57 = .ok (.putfield 64, 3) := dk_181 0 64 (dk_at dksX1_commands_2 11 rfl rfl)
theorem dX1_commands_60 : decode cX1_commands 60 = .ok (.new 13, 3) := dk_187 0 13 (dk_at dksX1_commands_2 14 rfl rfl)
theorem dX1_commands_63 : decode cX1_commands 63 = .ok (.dup, 1) := dk_89 (dk_at dksX1_commands_2 17 rfl rfl)
theorem dX1_commands_64 : decode cX1_commands 64 = .ok (.invokespecial 15, 3) := dk_183 0 15 (dk_at dksX1_commands_2 18 rfl rfl)
theorem dX1_commands_67 : decode cX1_commands 67 = .ok (.athrow, 1) := dk_191 (dk_at dksX1_commands_2 21 rfl rfl)
theorem dX1_commands_68 : decode cX1_commands 68 = .ok (.astore_n 1, 1) := dk_76 (dk_at dksX1_commands_2 22 rfl rfl)
theorem dX1_commands_69 : decode cX1_commands 69 = .ok (.aload_n 0, 1) := dk_42 (dk_at dksX1_commands_2 23 rfl rfl)
theorem dX1_commands_70 : decode cX1_commands 70 = .ok (.aload_n 1, 1) := dk_43 (dk_at dksX1_commands_3 0 rfl rfl)
theorem dX1_commands_71 : decode cX1_commands 71 = .ok (.invokevirtual 106, 3) := dk_182 0 106 (dk_at dksX1_commands_3 1 rfl rfl)
theorem dX1_commands_74 : decode cX1_commands 74 = .ok (.athrow, 1) := dk_191 (dk_at dksX1_commands_3 4 rfl rfl)
theorem dX1_commands_75 : decode cX1_commands 75 = .ok (.astore_n 3, 1) := dk_78 (dk_at dksX1_commands_3 5 rfl rfl)
theorem dX1_commands_76 : decode cX1_commands 76 = .ok (.aload_n 0, 1) := dk_42 (dk_at dksX1_commands_3 6 rfl rfl)
theorem dX1_commands_77 : decode cX1_commands 77 = .ok (.iconst 0, 1) := dk_3 (dk_at dksX1_commands_3 7 rfl rfl)
theorem dX1_commands_78 : decode cX1_commands 78 = .ok (.putfield 268, 3) := dk_181 1 12 (dk_at dksX1_commands_3 8 rfl rfl)
theorem dX1_commands_81 : decode cX1_commands 81 = .ok (.aload_n 3, 1) := dk_45 (dk_at dksX1_commands_3 11 rfl rfl)
theorem dX1_commands_82 : decode cX1_commands 82 = .ok (.athrow, 1) := dk_191 (dk_at dksX1_commands_3 12 rfl rfl)
abbrev cX1_reason : ByteArray := prog_1_method_51_code
def yX1_reason : MethodName := ⟨RX1, "reason", "(I)I"⟩
def dkwX1_reason_2 : List UInt8 := [180, 1, 35, 167, 0, 10, 42, 180, 0, 75, 180, 1, 38, 172]
abbrev dktX1_reason_2 : List UInt8 := dkwX1_reason_2 ++ []
def dkwX1_reason_1 : List UInt8 := [27, 154, 0, 13, 42, 180, 0, 75, 180, 1, 32, 167, 0, 25, 27, 4, 160, 0, 13, 42, 180, 0, 75]
abbrev dktX1_reason_1 : List UInt8 := dkwX1_reason_1 ++ dktX1_reason_2
def dkwX1_reason_0 : List UInt8 := [27, 3, 5, 184, 0, 3, 184, 0, 206, 42, 180, 0, 75, 198, 0, 7, 4, 167, 0, 4, 3, 184, 0, 150]
abbrev dktX1_reason_0 : List UInt8 := dkwX1_reason_0 ++ dktX1_reason_1
theorem dksX1_reason_0 : cX1_reason.data.toList.drop 0 = dktX1_reason_0 := by decide +kernel
theorem dksX1_reason_1 : cX1_reason.data.toList.drop 24 = dktX1_reason_1 := dk_seg dksX1_reason_0 24 rfl rfl
theorem dksX1_reason_2 : cX1_reason.data.toList.drop 47 = dktX1_reason_2 := dk_seg dksX1_reason_1 23 rfl rfl
theorem dX1_reason_0 : decode cX1_reason 0 = .ok (.iload_n 1, 1) := dk_27 (dk_at dksX1_reason_0 0 rfl rfl)
theorem dX1_reason_1 : decode cX1_reason 1 = .ok (.iconst 0, 1) := dk_3 (dk_at dksX1_reason_0 1 rfl rfl)
theorem dX1_reason_2 : decode cX1_reason 2 = .ok (.iconst 2, 1) := dk_5 (dk_at dksX1_reason_0 2 rfl rfl)
theorem dX1_reason_3 : decode cX1_reason 3 = .ok (.invokestatic 3, 3) := dk_184 0 3 (dk_at dksX1_reason_0 3 rfl rfl)
theorem dX1_reason_6 : decode cX1_reason 6 = .ok (.invokestatic 206, 3) := dk_184 0 206 (dk_at dksX1_reason_0 6 rfl rfl)
theorem dX1_reason_9 : decode cX1_reason 9 = .ok (.aload_n 0, 1) := dk_42 (dk_at dksX1_reason_0 9 rfl rfl)
theorem dX1_reason_10 : decode cX1_reason 10 = .ok (.getfield 75, 3) := dk_180 0 75 (dk_at dksX1_reason_0 10 rfl rfl)
theorem dX1_reason_13 : decode cX1_reason 13 = .ok (.ifnull 7, 3) := dk_198 0 7 (dk_at dksX1_reason_0 13 rfl rfl)
theorem dX1_reason_16 : decode cX1_reason 16 = .ok (.iconst 1, 1) := dk_4 (dk_at dksX1_reason_0 16 rfl rfl)
theorem dX1_reason_17 : decode cX1_reason 17 = .ok (.goto 4, 3) := dk_167 0 4 (dk_at dksX1_reason_0 17 rfl rfl)
theorem dX1_reason_20 : decode cX1_reason 20 = .ok (.iconst 0, 1) := dk_3 (dk_at dksX1_reason_0 20 rfl rfl)
theorem dX1_reason_21 : decode cX1_reason 21 = .ok (.invokestatic 150, 3) := dk_184 0 150 (dk_at dksX1_reason_0 21 rfl rfl)
theorem dX1_reason_24 : decode cX1_reason 24 = .ok (.iload_n 1, 1) := dk_27 (dk_at dksX1_reason_1 0 rfl rfl)
theorem dX1_reason_25 : decode cX1_reason 25 = .ok (.ifCond .ne 13, 3) := dk_154 0 13 (dk_at dksX1_reason_1 1 rfl rfl)
theorem dX1_reason_28 : decode cX1_reason 28 = .ok (.aload_n 0, 1) := dk_42 (dk_at dksX1_reason_1 4 rfl rfl)
theorem dX1_reason_29 : decode cX1_reason 29 = .ok (.getfield 75, 3) := dk_180 0 75 (dk_at dksX1_reason_1 5 rfl rfl)
theorem dX1_reason_32 : decode cX1_reason 32 = .ok (.getfield 288, 3) := dk_180 1 32 (dk_at dksX1_reason_1 8 rfl rfl)
theorem dX1_reason_35 : decode cX1_reason 35 = .ok (.goto 25, 3) := dk_167 0 25 (dk_at dksX1_reason_1 11 rfl rfl)
theorem dX1_reason_38 : decode cX1_reason 38 = .ok (.iload_n 1, 1) := dk_27 (dk_at dksX1_reason_1 14 rfl rfl)
theorem dX1_reason_39 : decode cX1_reason 39 = .ok (.iconst 1, 1) := dk_4 (dk_at dksX1_reason_1 15 rfl rfl)
theorem dX1_reason_40 : decode cX1_reason 40 = .ok (.if_icmp .ne 13, 3) := dk_160 0 13 (dk_at dksX1_reason_1 16 rfl rfl)
theorem dX1_reason_43 : decode cX1_reason 43 = .ok (.aload_n 0, 1) := dk_42 (dk_at dksX1_reason_1 19 rfl rfl)
theorem dX1_reason_44 : decode cX1_reason 44 = .ok (.getfield 75, 3) := dk_180 0 75 (dk_at dksX1_reason_1 20 rfl rfl)
theorem dX1_reason_47 : decode cX1_reason 47 = .ok (.getfield 291, 3) := dk_180 1 35 (dk_at dksX1_reason_2 0 rfl rfl)
theorem dX1_reason_50 : decode cX1_reason 50 = .ok (.goto 10, 3) := dk_167 0 10 (dk_at dksX1_reason_2 3 rfl rfl)
theorem dX1_reason_53 : decode cX1_reason 53 = .ok (.aload_n 0, 1) := dk_42 (dk_at dksX1_reason_2 6 rfl rfl)
theorem dX1_reason_54 : decode cX1_reason 54 = .ok (.getfield 75, 3) := dk_180 0 75 (dk_at dksX1_reason_2 7 rfl rfl)
theorem dX1_reason_57 : decode cX1_reason 57 = .ok (.getfield 294, 3) := dk_180 1 38 (dk_at dksX1_reason_2 10 rfl rfl)
theorem dX1_reason_60 : decode cX1_reason 60 = .ok (.ireturn, 1) := dk_172 (dk_at dksX1_reason_2 13 rfl rfl)
abbrev cX1_line : ByteArray := prog_1_method_52_code
def yX1_line : MethodName := ⟨RX1, "line", "(I)I"⟩
def dkwX1_line_5 : List UInt8 := [182, 1, 47, 87, 42, 180, 0, 71, 182, 1, 61, 172]
abbrev dktX1_line_5 : List UInt8 := dkwX1_line_5 ++ []
def dkwX1_line_4 : List UInt8 := [44, 180, 0, 242, 182, 1, 51, 44, 180, 0, 245, 153, 0, 9, 19, 1, 57, 167, 0, 6, 19, 1, 59]
abbrev dktX1_line_4 : List UInt8 := dkwX1_line_4 ++ dktX1_line_5
def dkwX1_line_3 : List UInt8 := [153, 0, 51, 42, 180, 0, 71, 16, 35, 182, 1, 54, 44, 180, 0, 240, 182, 1, 51, 16, 42, 182, 1, 54]
abbrev dktX1_line_3 : List UInt8 := dkwX1_line_3 ++ dktX1_line_4
def dkwX1_line_2 : List UInt8 := [87, 42, 180, 0, 71, 16, 43, 182, 1, 54, 44, 180, 0, 232, 182, 1, 51, 87, 44, 182, 0, 252]
abbrev dktX1_line_2 : List UInt8 := dkwX1_line_2 ++ dktX1_line_3
def dkwX1_line_1 : List UInt8 := [180, 0, 71, 19, 1, 45, 182, 1, 47, 87, 167, 0, 15, 42, 180, 0, 71, 44, 180, 0, 229, 182, 1, 51]
abbrev dktX1_line_1 : List UInt8 := dkwX1_line_1 ++ dktX1_line_2
def dkwX1_line_0 : List UInt8 := [42, 27, 182, 0, 224, 77, 42, 180, 0, 71, 3, 182, 1, 41, 44, 182, 0, 249, 153, 0, 17, 42]
abbrev dktX1_line_0 : List UInt8 := dkwX1_line_0 ++ dktX1_line_1
theorem dksX1_line_0 : cX1_line.data.toList.drop 0 = dktX1_line_0 := by decide +kernel
theorem dksX1_line_1 : cX1_line.data.toList.drop 22 = dktX1_line_1 := dk_seg dksX1_line_0 22 rfl rfl
theorem dksX1_line_2 : cX1_line.data.toList.drop 46 = dktX1_line_2 := dk_seg dksX1_line_1 24 rfl rfl
theorem dksX1_line_3 : cX1_line.data.toList.drop 68 = dktX1_line_3 := dk_seg dksX1_line_2 22 rfl rfl
theorem dksX1_line_4 : cX1_line.data.toList.drop 92 = dktX1_line_4 := dk_seg dksX1_line_3 24 rfl rfl
theorem dksX1_line_5 : cX1_line.data.toList.drop 115 = dktX1_line_5 := dk_seg dksX1_line_4 23 rfl rfl
theorem dX1_line_0 : decode cX1_line 0 = .ok (.aload_n 0, 1) := dk_42 (dk_at dksX1_line_0 0 rfl rfl)
theorem dX1_line_1 : decode cX1_line 1 = .ok (.iload_n 1, 1) := dk_27 (dk_at dksX1_line_0 1 rfl rfl)
theorem dX1_line_2 : decode cX1_line 2 = .ok (.invokevirtual 224, 3) := dk_182 0 224 (dk_at dksX1_line_0 2 rfl rfl)
theorem dX1_line_5 : decode cX1_line 5 = .ok (.astore_n 2, 1) := dk_77 (dk_at dksX1_line_0 5 rfl rfl)
theorem dX1_line_6 : decode cX1_line 6 = .ok (.aload_n 0, 1) := dk_42 (dk_at dksX1_line_0 6 rfl rfl)
theorem dX1_line_7 : decode cX1_line 7 = .ok (.getfield 71, 3) := dk_180 0 71 (dk_at dksX1_line_0 7 rfl rfl)
theorem dX1_line_10 : decode cX1_line 10 = .ok (.iconst 0, 1) := dk_3 (dk_at dksX1_line_0 10 rfl rfl)
theorem dX1_line_11 : decode cX1_line 11 = .ok (.invokevirtual 297, 3) := dk_182 1 41 (dk_at dksX1_line_0 11 rfl rfl)
theorem dX1_line_14 : decode cX1_line 14 = .ok (.aload_n 2, 1) := dk_44 (dk_at dksX1_line_0 14 rfl rfl)
theorem dX1_line_15 : decode cX1_line 15 = .ok (.invokevirtual 249, 3) := dk_182 0 249 (dk_at dksX1_line_0 15 rfl rfl)
theorem dX1_line_18 : decode cX1_line 18 = .ok (.ifCond .eq 17, 3) := dk_153 0 17 (dk_at dksX1_line_0 18 rfl rfl)
theorem dX1_line_21 : decode cX1_line 21 = .ok (.aload_n 0, 1) := dk_42 (dk_at dksX1_line_0 21 rfl rfl)
theorem dX1_line_22 : decode cX1_line 22 = .ok (.getfield 71, 3) := dk_180 0 71 (dk_at dksX1_line_1 0 rfl rfl)
theorem dX1_line_25 : decode cX1_line 25 = .ok (.ldc_w 301, 3) := dk_19 1 45 (dk_at dksX1_line_1 3 rfl rfl)
theorem dX1_line_28 : decode cX1_line 28 = .ok (.invokevirtual 303, 3) := dk_182 1 47 (dk_at dksX1_line_1 6 rfl rfl)
theorem dX1_line_31 : decode cX1_line 31 = .ok (.pop, 1) := dk_87 (dk_at dksX1_line_1 9 rfl rfl)
theorem dX1_line_32 : decode cX1_line 32 = .ok (.goto 15, 3) := dk_167 0 15 (dk_at dksX1_line_1 10 rfl rfl)
theorem dX1_line_35 : decode cX1_line 35 = .ok (.aload_n 0, 1) := dk_42 (dk_at dksX1_line_1 13 rfl rfl)
theorem dX1_line_36 : decode cX1_line 36 = .ok (.getfield 71, 3) := dk_180 0 71 (dk_at dksX1_line_1 14 rfl rfl)
theorem dX1_line_39 : decode cX1_line 39 = .ok (.aload_n 2, 1) := dk_44 (dk_at dksX1_line_1 17 rfl rfl)
theorem dX1_line_40 : decode cX1_line 40 = .ok (.getfield 229, 3) := dk_180 0 229 (dk_at dksX1_line_1 18 rfl rfl)
theorem dX1_line_43 : decode cX1_line 43 = .ok (.invokevirtual 307, 3) := dk_182 1 51 (dk_at dksX1_line_1 21 rfl rfl)
theorem dX1_line_46 : decode cX1_line 46 = .ok (.pop, 1) := dk_87 (dk_at dksX1_line_2 0 rfl rfl)
theorem dX1_line_47 : decode cX1_line 47 = .ok (.aload_n 0, 1) := dk_42 (dk_at dksX1_line_2 1 rfl rfl)
theorem dX1_line_48 : decode cX1_line 48 = .ok (.getfield 71, 3) := dk_180 0 71 (dk_at dksX1_line_2 2 rfl rfl)
theorem dX1_line_51 : decode cX1_line 51 = .ok (.bipush 43, 2) := dk_16 43 (dk_at dksX1_line_2 5 rfl rfl)
theorem dX1_line_53 : decode cX1_line 53 = .ok (.invokevirtual 310, 3) := dk_182 1 54 (dk_at dksX1_line_2 7 rfl rfl)
theorem dX1_line_56 : decode cX1_line 56 = .ok (.aload_n 2, 1) := dk_44 (dk_at dksX1_line_2 10 rfl rfl)
theorem dX1_line_57 : decode cX1_line 57 = .ok (.getfield 232, 3) := dk_180 0 232 (dk_at dksX1_line_2 11 rfl rfl)
theorem dX1_line_60 : decode cX1_line 60 = .ok (.invokevirtual 307, 3) := dk_182 1 51 (dk_at dksX1_line_2 14 rfl rfl)
theorem dX1_line_63 : decode cX1_line 63 = .ok (.pop, 1) := dk_87 (dk_at dksX1_line_2 17 rfl rfl)
theorem dX1_line_64 : decode cX1_line 64 = .ok (.aload_n 2, 1) := dk_44 (dk_at dksX1_line_2 18 rfl rfl)
theorem dX1_line_65 : decode cX1_line 65 = .ok (.invokevirtual 252, 3) := dk_182 0 252 (dk_at dksX1_line_2 19 rfl rfl)
theorem dX1_line_68 : decode cX1_line 68 = .ok (.ifCond .eq 51, 3) := dk_153 0 51 (dk_at dksX1_line_3 0 rfl rfl)
theorem dX1_line_71 : decode cX1_line 71 = .ok (.aload_n 0, 1) := dk_42 (dk_at dksX1_line_3 3 rfl rfl)
theorem dX1_line_72 : decode cX1_line 72 = .ok (.getfield 71, 3) := dk_180 0 71 (dk_at dksX1_line_3 4 rfl rfl)
theorem dX1_line_75 : decode cX1_line 75 = .ok (.bipush 35, 2) := dk_16 35 (dk_at dksX1_line_3 7 rfl rfl)
theorem dX1_line_77 : decode cX1_line 77 = .ok (.invokevirtual 310, 3) := dk_182 1 54 (dk_at dksX1_line_3 9 rfl rfl)
theorem dX1_line_80 : decode cX1_line 80 = .ok (.aload_n 2, 1) := dk_44 (dk_at dksX1_line_3 12 rfl rfl)
theorem dX1_line_81 : decode cX1_line 81 = .ok (.getfield 240, 3) := dk_180 0 240 (dk_at dksX1_line_3 13 rfl rfl)
theorem dX1_line_84 : decode cX1_line 84 = .ok (.invokevirtual 307, 3) := dk_182 1 51 (dk_at dksX1_line_3 16 rfl rfl)
theorem dX1_line_87 : decode cX1_line 87 = .ok (.bipush 42, 2) := dk_16 42 (dk_at dksX1_line_3 19 rfl rfl)
theorem dX1_line_89 : decode cX1_line 89 = .ok (.invokevirtual 310, 3) := dk_182 1 54 (dk_at dksX1_line_3 21 rfl rfl)
theorem dX1_line_92 : decode cX1_line 92 = .ok (.aload_n 2, 1) := dk_44 (dk_at dksX1_line_4 0 rfl rfl)
theorem dX1_line_93 : decode cX1_line 93 = .ok (.getfield 242, 3) := dk_180 0 242 (dk_at dksX1_line_4 1 rfl rfl)
theorem dX1_line_96 : decode cX1_line 96 = .ok (.invokevirtual 307, 3) := dk_182 1 51 (dk_at dksX1_line_4 4 rfl rfl)
theorem dX1_line_99 : decode cX1_line 99 = .ok (.aload_n 2, 1) := dk_44 (dk_at dksX1_line_4 7 rfl rfl)
theorem dX1_line_100 : decode cX1_line 100 = .ok (.getfield 245, 3) := dk_180 0 245 (dk_at dksX1_line_4 8 rfl rfl)
theorem dX1_line_103 : decode cX1_line 103 = .ok (.ifCond .eq 9, 3) := dk_153 0 9 (dk_at dksX1_line_4 11 rfl rfl)
theorem dX1_line_106 : decode cX1_line 106 = .ok (.ldc_w 313, 3) := dk_19 1 57 (dk_at dksX1_line_4 14 rfl rfl)
theorem dX1_line_109 : decode cX1_line 109 = .ok (.goto 6, 3) := dk_167 0 6 (dk_at dksX1_line_4 17 rfl rfl)
theorem dX1_line_112 : decode cX1_line 112 = .ok (.ldc_w 315, 3) := dk_19 1 59 (dk_at dksX1_line_4 20 rfl rfl)
theorem dX1_line_115 : decode cX1_line 115 = .ok (.invokevirtual 303, 3) := dk_182 1 47 (dk_at dksX1_line_5 0 rfl rfl)
theorem dX1_line_118 : decode cX1_line 118 = .ok (.pop, 1) := dk_87 (dk_at dksX1_line_5 3 rfl rfl)
theorem dX1_line_119 : decode cX1_line 119 = .ok (.aload_n 0, 1) := dk_42 (dk_at dksX1_line_5 4 rfl rfl)
theorem dX1_line_120 : decode cX1_line 120 = .ok (.getfield 71, 3) := dk_180 0 71 (dk_at dksX1_line_5 5 rfl rfl)
theorem dX1_line_123 : decode cX1_line 123 = .ok (.invokevirtual 317, 3) := dk_182 1 61 (dk_at dksX1_line_5 8 rfl rfl)
theorem dX1_line_126 : decode cX1_line 126 = .ok (.ireturn, 1) := dk_172 (dk_at dksX1_line_5 11 rfl rfl)
abbrev cX1_row : ByteArray := prog_1_method_53_code
def yX1_row : MethodName := ⟨RX1, "row", "(I)I"⟩
def dkwX1_row_4 : List UInt8 := [96, 146, 182, 1, 54, 87, 132, 2, 1, 167, 255, 173, 42, 180, 0, 71, 182, 1, 61, 172]
abbrev dktX1_row_4 : List UInt8 := dkwX1_row_4 ++ []
def dkwX1_row_3 : List UInt8 := [180, 0, 49, 180, 1, 64, 160, 0, 8, 16, 77, 167, 0, 15, 16, 48, 42, 180, 0, 49, 28, 182, 1, 66]
abbrev dktX1_row_3 : List UInt8 := dkwX1_row_3 ++ dktX1_row_4
def dkwX1_row_2 : List UInt8 := [182, 0, 160, 153, 0, 8, 16, 32, 167, 0, 5, 16, 124, 182, 1, 54, 87, 42, 180, 0, 71, 28, 42]
abbrev dktX1_row_2 : List UInt8 := dkwX1_row_2 ++ dktX1_row_3
def dkwX1_row_1 : List UInt8 := [4, 96, 104, 162, 0, 80, 28, 7, 112, 158, 0, 32, 42, 180, 0, 71, 42, 180, 0, 49, 28, 4, 100, 28]
abbrev dktX1_row_1 : List UInt8 := dkwX1_row_1 ++ dktX1_row_2
def dkwX1_row_0 : List UInt8 := [27, 3, 6, 184, 0, 3, 184, 0, 206, 42, 180, 0, 71, 3, 182, 1, 41, 7, 27, 104, 61, 28, 7, 27]
abbrev dktX1_row_0 : List UInt8 := dkwX1_row_0 ++ dktX1_row_1
theorem dksX1_row_0 : cX1_row.data.toList.drop 0 = dktX1_row_0 := by decide +kernel
theorem dksX1_row_1 : cX1_row.data.toList.drop 24 = dktX1_row_1 := dk_seg dksX1_row_0 24 rfl rfl
theorem dksX1_row_2 : cX1_row.data.toList.drop 48 = dktX1_row_2 := dk_seg dksX1_row_1 24 rfl rfl
theorem dksX1_row_3 : cX1_row.data.toList.drop 71 = dktX1_row_3 := dk_seg dksX1_row_2 23 rfl rfl
theorem dksX1_row_4 : cX1_row.data.toList.drop 95 = dktX1_row_4 := dk_seg dksX1_row_3 24 rfl rfl
theorem dX1_row_0 : decode cX1_row 0 = .ok (.iload_n 1, 1) := dk_27 (dk_at dksX1_row_0 0 rfl rfl)
theorem dX1_row_1 : decode cX1_row 1 = .ok (.iconst 0, 1) := dk_3 (dk_at dksX1_row_0 1 rfl rfl)
theorem dX1_row_2 : decode cX1_row 2 = .ok (.iconst 3, 1) := dk_6 (dk_at dksX1_row_0 2 rfl rfl)
theorem dX1_row_3 : decode cX1_row 3 = .ok (.invokestatic 3, 3) := dk_184 0 3 (dk_at dksX1_row_0 3 rfl rfl)
theorem dX1_row_6 : decode cX1_row 6 = .ok (.invokestatic 206, 3) := dk_184 0 206 (dk_at dksX1_row_0 6 rfl rfl)
theorem dX1_row_9 : decode cX1_row 9 = .ok (.aload_n 0, 1) := dk_42 (dk_at dksX1_row_0 9 rfl rfl)
theorem dX1_row_10 : decode cX1_row 10 = .ok (.getfield 71, 3) := dk_180 0 71 (dk_at dksX1_row_0 10 rfl rfl)
theorem dX1_row_13 : decode cX1_row 13 = .ok (.iconst 0, 1) := dk_3 (dk_at dksX1_row_0 13 rfl rfl)
theorem dX1_row_14 : decode cX1_row 14 = .ok (.invokevirtual 297, 3) := dk_182 1 41 (dk_at dksX1_row_0 14 rfl rfl)
theorem dX1_row_17 : decode cX1_row 17 = .ok (.iconst 4, 1) := dk_7 (dk_at dksX1_row_0 17 rfl rfl)
theorem dX1_row_18 : decode cX1_row 18 = .ok (.iload_n 1, 1) := dk_27 (dk_at dksX1_row_0 18 rfl rfl)
theorem dX1_row_19 : decode cX1_row 19 = .ok (.imul, 1) := dk_104 (dk_at dksX1_row_0 19 rfl rfl)
theorem dX1_row_20 : decode cX1_row 20 = .ok (.istore_n 2, 1) := dk_61 (dk_at dksX1_row_0 20 rfl rfl)
theorem dX1_row_21 : decode cX1_row 21 = .ok (.iload_n 2, 1) := dk_28 (dk_at dksX1_row_0 21 rfl rfl)
theorem dX1_row_22 : decode cX1_row 22 = .ok (.iconst 4, 1) := dk_7 (dk_at dksX1_row_0 22 rfl rfl)
theorem dX1_row_23 : decode cX1_row 23 = .ok (.iload_n 1, 1) := dk_27 (dk_at dksX1_row_0 23 rfl rfl)
theorem dX1_row_24 : decode cX1_row 24 = .ok (.iconst 1, 1) := dk_4 (dk_at dksX1_row_1 0 rfl rfl)
theorem dX1_row_25 : decode cX1_row 25 = .ok (.iadd, 1) := dk_96 (dk_at dksX1_row_1 1 rfl rfl)
theorem dX1_row_26 : decode cX1_row 26 = .ok (.imul, 1) := dk_104 (dk_at dksX1_row_1 2 rfl rfl)
theorem dX1_row_27 : decode cX1_row 27 = .ok (.if_icmp .ge 80, 3) := dk_162 0 80 (dk_at dksX1_row_1 3 rfl rfl)
theorem dX1_row_30 : decode cX1_row 30 = .ok (.iload_n 2, 1) := dk_28 (dk_at dksX1_row_1 6 rfl rfl)
theorem dX1_row_31 : decode cX1_row 31 = .ok (.iconst 4, 1) := dk_7 (dk_at dksX1_row_1 7 rfl rfl)
theorem dX1_row_32 : decode cX1_row 32 = .ok (.irem, 1) := dk_112 (dk_at dksX1_row_1 8 rfl rfl)
theorem dX1_row_33 : decode cX1_row 33 = .ok (.ifCond .le 32, 3) := dk_158 0 32 (dk_at dksX1_row_1 9 rfl rfl)
theorem dX1_row_36 : decode cX1_row 36 = .ok (.aload_n 0, 1) := dk_42 (dk_at dksX1_row_1 12 rfl rfl)
theorem dX1_row_37 : decode cX1_row 37 = .ok (.getfield 71, 3) := dk_180 0 71 (dk_at dksX1_row_1 13 rfl rfl)
theorem dX1_row_40 : decode cX1_row 40 = .ok (.aload_n 0, 1) := dk_42 (dk_at dksX1_row_1 16 rfl rfl)
theorem dX1_row_41 : decode cX1_row 41 = .ok (.getfield 49, 3) := dk_180 0 49 (dk_at dksX1_row_1 17 rfl rfl)
theorem dX1_row_44 : decode cX1_row 44 = .ok (.iload_n 2, 1) := dk_28 (dk_at dksX1_row_1 20 rfl rfl)
theorem dX1_row_45 : decode cX1_row 45 = .ok (.iconst 1, 1) := dk_4 (dk_at dksX1_row_1 21 rfl rfl)
theorem dX1_row_46 : decode cX1_row 46 = .ok (.isub, 1) := dk_100 (dk_at dksX1_row_1 22 rfl rfl)
theorem dX1_row_47 : decode cX1_row 47 = .ok (.iload_n 2, 1) := dk_28 (dk_at dksX1_row_1 23 rfl rfl)
theorem dX1_row_48 : decode cX1_row 48 = .ok (.invokevirtual 160, 3) := dk_182 0 160 (dk_at dksX1_row_2 0 rfl rfl)
theorem dX1_row_51 : decode cX1_row 51 = .ok (.ifCond .eq 8, 3) := dk_153 0 8 (dk_at dksX1_row_2 3 rfl rfl)
theorem dX1_row_54 : decode cX1_row 54 = .ok (.bipush 32, 2) := dk_16 32 (dk_at dksX1_row_2 6 rfl rfl)
theorem dX1_row_56 : decode cX1_row 56 = .ok (.goto 5, 3) := dk_167 0 5 (dk_at dksX1_row_2 8 rfl rfl)
theorem dX1_row_59 : decode cX1_row 59 = .ok (.bipush 124, 2) := dk_16 124 (dk_at dksX1_row_2 11 rfl rfl)
theorem dX1_row_61 : decode cX1_row 61 = .ok (.invokevirtual 310, 3) := dk_182 1 54 (dk_at dksX1_row_2 13 rfl rfl)
theorem dX1_row_64 : decode cX1_row 64 = .ok (.pop, 1) := dk_87 (dk_at dksX1_row_2 16 rfl rfl)
theorem dX1_row_65 : decode cX1_row 65 = .ok (.aload_n 0, 1) := dk_42 (dk_at dksX1_row_2 17 rfl rfl)
theorem dX1_row_66 : decode cX1_row 66 = .ok (.getfield 71, 3) := dk_180 0 71 (dk_at dksX1_row_2 18 rfl rfl)
theorem dX1_row_69 : decode cX1_row 69 = .ok (.iload_n 2, 1) := dk_28 (dk_at dksX1_row_2 21 rfl rfl)
theorem dX1_row_70 : decode cX1_row 70 = .ok (.aload_n 0, 1) := dk_42 (dk_at dksX1_row_2 22 rfl rfl)
theorem dX1_row_71 : decode cX1_row 71 = .ok (.getfield 49, 3) := dk_180 0 49 (dk_at dksX1_row_3 0 rfl rfl)
theorem dX1_row_74 : decode cX1_row 74 = .ok (.getfield 320, 3) := dk_180 1 64 (dk_at dksX1_row_3 3 rfl rfl)
theorem dX1_row_77 : decode cX1_row 77 = .ok (.if_icmp .ne 8, 3) := dk_160 0 8 (dk_at dksX1_row_3 6 rfl rfl)
theorem dX1_row_80 : decode cX1_row 80 = .ok (.bipush 77, 2) := dk_16 77 (dk_at dksX1_row_3 9 rfl rfl)
theorem dX1_row_82 : decode cX1_row 82 = .ok (.goto 15, 3) := dk_167 0 15 (dk_at dksX1_row_3 11 rfl rfl)
theorem dX1_row_85 : decode cX1_row 85 = .ok (.bipush 48, 2) := dk_16 48 (dk_at dksX1_row_3 14 rfl rfl)
theorem dX1_row_87 : decode cX1_row 87 = .ok (.aload_n 0, 1) := dk_42 (dk_at dksX1_row_3 16 rfl rfl)
theorem dX1_row_88 : decode cX1_row 88 = .ok (.getfield 49, 3) := dk_180 0 49 (dk_at dksX1_row_3 17 rfl rfl)
theorem dX1_row_91 : decode cX1_row 91 = .ok (.iload_n 2, 1) := dk_28 (dk_at dksX1_row_3 20 rfl rfl)
theorem dX1_row_92 : decode cX1_row 92 = .ok (.invokevirtual 322, 3) := dk_182 1 66 (dk_at dksX1_row_3 21 rfl rfl)
theorem dX1_row_95 : decode cX1_row 95 = .ok (.iadd, 1) := dk_96 (dk_at dksX1_row_4 0 rfl rfl)
theorem dX1_row_96 : decode cX1_row 96 = .ok (.i2c, 1) := dk_146 (dk_at dksX1_row_4 1 rfl rfl)
theorem dX1_row_97 : decode cX1_row 97 = .ok (.invokevirtual 310, 3) := dk_182 1 54 (dk_at dksX1_row_4 2 rfl rfl)
theorem dX1_row_100 : decode cX1_row 100 = .ok (.pop, 1) := dk_87 (dk_at dksX1_row_4 5 rfl rfl)
theorem dX1_row_101 : decode cX1_row 101 = .ok (.iinc 2 1, 3) := dk_132 2 1 (dk_at dksX1_row_4 6 rfl rfl)
theorem dX1_row_104 : decode cX1_row 104 = .ok (.goto (-83), 3) := dk_167 255 173 (dk_at dksX1_row_4 9 rfl rfl)
theorem dX1_row_107 : decode cX1_row 107 = .ok (.aload_n 0, 1) := dk_42 (dk_at dksX1_row_4 12 rfl rfl)
theorem dX1_row_108 : decode cX1_row 108 = .ok (.getfield 71, 3) := dk_180 0 71 (dk_at dksX1_row_4 13 rfl rfl)
theorem dX1_row_111 : decode cX1_row 111 = .ok (.invokevirtual 317, 3) := dk_182 1 61 (dk_at dksX1_row_4 16 rfl rfl)
theorem dX1_row_114 : decode cX1_row 114 = .ok (.ireturn, 1) := dk_172 (dk_at dksX1_row_4 19 rfl rfl)
abbrev cX1_character : ByteArray := prog_1_method_54_code
def yX1_character : MethodName := ⟨RX1, "character", "(I)C"⟩
def dkwX1_character_1 : List UInt8 := [182, 1, 69, 172]
abbrev dktX1_character_1 : List UInt8 := dkwX1_character_1 ++ []
def dkwX1_character_0 : List UInt8 := [27, 3, 42, 180, 0, 71, 182, 1, 61, 4, 100, 184, 0, 3, 184, 0, 139, 42, 180, 0, 71, 27]
abbrev dktX1_character_0 : List UInt8 := dkwX1_character_0 ++ dktX1_character_1
theorem dksX1_character_0 : cX1_character.data.toList.drop 0 = dktX1_character_0 := by decide +kernel
theorem dksX1_character_1 : cX1_character.data.toList.drop 22 = dktX1_character_1 := dk_seg dksX1_character_0 22 rfl rfl
theorem dX1_character_0 : decode cX1_character 0 = .ok (.iload_n 1, 1) := dk_27 (dk_at dksX1_character_0 0 rfl rfl)
theorem dX1_character_1 : decode cX1_character 1 = .ok (.iconst 0, 1) := dk_3 (dk_at dksX1_character_0 1 rfl rfl)
theorem dX1_character_2 : decode cX1_character 2 = .ok (.aload_n 0, 1) := dk_42 (dk_at dksX1_character_0 2 rfl rfl)
theorem dX1_character_3 : decode cX1_character 3 = .ok (.getfield 71, 3) := dk_180 0 71 (dk_at dksX1_character_0 3 rfl rfl)
theorem dX1_character_6 : decode cX1_character 6 = .ok (.invokevirtual 317, 3) := dk_182 1 61 (dk_at dksX1_character_0 6 rfl rfl)
theorem dX1_character_9 : decode cX1_character 9 = .ok (.iconst 1, 1) := dk_4 (dk_at dksX1_character_0 9 rfl rfl)
theorem dX1_character_10 : decode cX1_character 10 = .ok (.isub, 1) := dk_100 (dk_at dksX1_character_0 10 rfl rfl)
theorem dX1_character_11 : decode cX1_character 11 = .ok (.invokestatic 3, 3) := dk_184 0 3 (dk_at dksX1_character_0 11 rfl rfl)
theorem dX1_character_14 : decode cX1_character 14 = .ok (.invokestatic 139, 3) := dk_184 0 139 (dk_at dksX1_character_0 14 rfl rfl)
theorem dX1_character_17 : decode cX1_character 17 = .ok (.aload_n 0, 1) := dk_42 (dk_at dksX1_character_0 17 rfl rfl)
theorem dX1_character_18 : decode cX1_character 18 = .ok (.getfield 71, 3) := dk_180 0 71 (dk_at dksX1_character_0 18 rfl rfl)
theorem dX1_character_21 : decode cX1_character 21 = .ok (.iload_n 1, 1) := dk_27 (dk_at dksX1_character_0 21 rfl rfl)
theorem dX1_character_22 : decode cX1_character 22 = .ok (.invokevirtual 325, 3) := dk_182 1 69 (dk_at dksX1_character_1 0 rfl rfl)
theorem dX1_character_25 : decode cX1_character 25 = .ok (.ireturn, 1) := dk_172 (dk_at dksX1_character_1 3 rfl rfl)
abbrev cX1_meanLost : ByteArray := prog_1_method_55_code
def yX1_meanLost : MethodName := ⟨RX1, "meanLost", "()D"⟩
def dkwX1_meanLost_2 : List UInt8 := [45, 182, 0, 237, 96, 60, 167, 255, 230, 27, 135, 42, 180, 0, 49, 180, 0, 197, 182, 0, 82, 135, 111, 175]
abbrev dktX1_meanLost_2 : List UInt8 := dkwX1_meanLost_2 ++ []
def dkwX1_meanLost_1 : List UInt8 := [182, 1, 76, 77, 44, 185, 1, 80, 1, 0, 153, 0, 23, 44, 185, 1, 85, 1, 0, 192, 0, 200, 78, 27]
abbrev dktX1_meanLost_1 : List UInt8 := dkwX1_meanLost_1 ++ dktX1_meanLost_2
def dkwX1_meanLost_0 : List UInt8 := [42, 180, 0, 49, 180, 0, 197, 182, 0, 82, 184, 1, 73, 3, 60, 42, 180, 0, 49, 180, 0, 197]
abbrev dktX1_meanLost_0 : List UInt8 := dkwX1_meanLost_0 ++ dktX1_meanLost_1
theorem dksX1_meanLost_0 : cX1_meanLost.data.toList.drop 0 = dktX1_meanLost_0 := by decide +kernel
theorem dksX1_meanLost_1 : cX1_meanLost.data.toList.drop 22 = dktX1_meanLost_1 := dk_seg dksX1_meanLost_0 22 rfl rfl
theorem dksX1_meanLost_2 : cX1_meanLost.data.toList.drop 46 = dktX1_meanLost_2 := dk_seg dksX1_meanLost_1 24 rfl rfl
theorem dX1_meanLost_0 : decode cX1_meanLost 0 = .ok (.aload_n 0, 1) := dk_42 (dk_at dksX1_meanLost_0 0 rfl rfl)
theorem dX1_meanLost_1 : decode cX1_meanLost 1 = .ok (.getfield 49, 3) := dk_180 0 49 (dk_at dksX1_meanLost_0 1 rfl rfl)
theorem dX1_meanLost_4 : decode cX1_meanLost 4 = .ok (.getfield 197, 3) := dk_180 0 197 (dk_at dksX1_meanLost_0 4 rfl rfl)
theorem dX1_meanLost_7 : decode cX1_meanLost 7 = .ok (.invokevirtual 82, 3) := dk_182 0 82 (dk_at dksX1_meanLost_0 7 rfl rfl)
theorem dX1_meanLost_10 : decode cX1_meanLost 10 = .ok (.invokestatic 329, 3) := dk_184 1 73 (dk_at dksX1_meanLost_0 10 rfl rfl)
theorem dX1_meanLost_13 : decode cX1_meanLost 13 = .ok (.iconst 0, 1) := dk_3 (dk_at dksX1_meanLost_0 13 rfl rfl)
theorem dX1_meanLost_14 : decode cX1_meanLost 14 = .ok (.istore_n 1, 1) := dk_60 (dk_at dksX1_meanLost_0 14 rfl rfl)
theorem dX1_meanLost_15 : decode cX1_meanLost 15 = .ok (.aload_n 0, 1) := dk_42 (dk_at dksX1_meanLost_0 15 rfl rfl)
theorem dX1_meanLost_16 : decode cX1_meanLost 16 = .ok (.getfield 49, 3) := dk_180 0 49 (dk_at dksX1_meanLost_0 16 rfl rfl)
theorem dX1_meanLost_19 : decode cX1_meanLost 19 = .ok (.getfield 197, 3) := dk_180 0 197 (dk_at dksX1_meanLost_0 19 rfl rfl)
theorem dX1_meanLost_22 : decode cX1_meanLost 22 = .ok (.invokevirtual 332, 3) := dk_182 1 76 (dk_at dksX1_meanLost_1 0 rfl rfl)
theorem dX1_meanLost_25 : decode cX1_meanLost 25 = .ok (.astore_n 2, 1) := dk_77 (dk_at dksX1_meanLost_1 3 rfl rfl)
theorem dX1_meanLost_26 : decode cX1_meanLost 26 = .ok (.aload_n 2, 1) := dk_44 (dk_at dksX1_meanLost_1 4 rfl rfl)
theorem dX1_meanLost_27 : decode cX1_meanLost 27 = .ok (.invokeinterface 336 1, 5) := by decide +kernel
theorem dX1_meanLost_32 : decode cX1_meanLost 32 = .ok (.ifCond .eq 23, 3) := dk_153 0 23 (dk_at dksX1_meanLost_1 10 rfl rfl)
theorem dX1_meanLost_35 : decode cX1_meanLost 35 = .ok (.aload_n 2, 1) := dk_44 (dk_at dksX1_meanLost_1 13 rfl rfl)
theorem dX1_meanLost_36 : decode cX1_meanLost 36 = .ok (.invokeinterface 341 1, 5) := by decide +kernel
theorem dX1_meanLost_41 : decode cX1_meanLost 41 = .ok (.checkcast 200, 3) := dk_192 0 200 (dk_at dksX1_meanLost_1 19 rfl rfl)
theorem dX1_meanLost_44 : decode cX1_meanLost 44 = .ok (.astore_n 3, 1) := dk_78 (dk_at dksX1_meanLost_1 22 rfl rfl)
theorem dX1_meanLost_45 : decode cX1_meanLost 45 = .ok (.iload_n 1, 1) := dk_27 (dk_at dksX1_meanLost_1 23 rfl rfl)
theorem dX1_meanLost_46 : decode cX1_meanLost 46 = .ok (.aload_n 3, 1) := dk_45 (dk_at dksX1_meanLost_2 0 rfl rfl)
theorem dX1_meanLost_47 : decode cX1_meanLost 47 = .ok (.invokevirtual 237, 3) := dk_182 0 237 (dk_at dksX1_meanLost_2 1 rfl rfl)
theorem dX1_meanLost_50 : decode cX1_meanLost 50 = .ok (.iadd, 1) := dk_96 (dk_at dksX1_meanLost_2 4 rfl rfl)
theorem dX1_meanLost_51 : decode cX1_meanLost 51 = .ok (.istore_n 1, 1) := dk_60 (dk_at dksX1_meanLost_2 5 rfl rfl)
theorem dX1_meanLost_52 : decode cX1_meanLost 52 = .ok (.goto (-26), 3) := dk_167 255 230 (dk_at dksX1_meanLost_2 6 rfl rfl)
theorem dX1_meanLost_55 : decode cX1_meanLost 55 = .ok (.iload_n 1, 1) := dk_27 (dk_at dksX1_meanLost_2 9 rfl rfl)
theorem dX1_meanLost_56 : decode cX1_meanLost 56 = .ok (.i2d, 1) := dk_135 (dk_at dksX1_meanLost_2 10 rfl rfl)
theorem dX1_meanLost_57 : decode cX1_meanLost 57 = .ok (.aload_n 0, 1) := dk_42 (dk_at dksX1_meanLost_2 11 rfl rfl)
theorem dX1_meanLost_58 : decode cX1_meanLost 58 = .ok (.getfield 49, 3) := dk_180 0 49 (dk_at dksX1_meanLost_2 12 rfl rfl)
theorem dX1_meanLost_61 : decode cX1_meanLost 61 = .ok (.getfield 197, 3) := dk_180 0 197 (dk_at dksX1_meanLost_2 15 rfl rfl)
theorem dX1_meanLost_64 : decode cX1_meanLost 64 = .ok (.invokevirtual 82, 3) := dk_182 0 82 (dk_at dksX1_meanLost_2 18 rfl rfl)
theorem dX1_meanLost_67 : decode cX1_meanLost 67 = .ok (.i2d, 1) := dk_135 (dk_at dksX1_meanLost_2 21 rfl rfl)
theorem dX1_meanLost_68 : decode cX1_meanLost 68 = .ok (.ddiv, 1) := dk_111 (dk_at dksX1_meanLost_2 22 rfl rfl)
theorem dX1_meanLost_69 : decode cX1_meanLost 69 = .ok (.dreturn, 1) := dk_175 (dk_at dksX1_meanLost_2 23 rfl rfl)
abbrev cX1_requireSome : ByteArray := prog_1_method_8_code
def yX1_requireSome : MethodName := ⟨RX1, "requireSome", "(I)V"⟩
def dkwX1_requireSome_0 : List UInt8 := [26, 154, 0, 11, 187, 0, 22, 89, 183, 0, 24, 191, 177]
abbrev dktX1_requireSome_0 : List UInt8 := dkwX1_requireSome_0 ++ []
theorem dksX1_requireSome_0 : cX1_requireSome.data.toList.drop 0 = dktX1_requireSome_0 := by decide +kernel
theorem dX1_requireSome_0 : decode cX1_requireSome 0 = .ok (.iload_n 0, 1) := dk_26 (dk_at dksX1_requireSome_0 0 rfl rfl)
theorem dX1_requireSome_1 : decode cX1_requireSome 1 = .ok (.ifCond .ne 11, 3) := dk_154 0 11 (dk_at dksX1_requireSome_0 1 rfl rfl)
theorem dX1_requireSome_4 : decode cX1_requireSome 4 = .ok (.new 22, 3) := dk_187 0 22 (dk_at dksX1_requireSome_0 4 rfl rfl)
theorem dX1_requireSome_7 : decode cX1_requireSome 7 = .ok (.dup, 1) := dk_89 (dk_at dksX1_requireSome_0 7 rfl rfl)
theorem dX1_requireSome_8 : decode cX1_requireSome 8 = .ok (.invokespecial 24, 3) := dk_183 0 24 (dk_at dksX1_requireSome_0 8 rfl rfl)
theorem dX1_requireSome_11 : decode cX1_requireSome 11 = .ok (.athrow, 1) := dk_191 (dk_at dksX1_requireSome_0 11 rfl rfl)
theorem dX1_requireSome_12 : decode cX1_requireSome 12 = .ok (.return_, 1) := dk_177 (dk_at dksX1_requireSome_0 12 rfl rfl)
abbrev cX1_account : ByteArray := prog_1_method_59_code
def yX1_account : MethodName := ⟨RX1, "account", "(I)I"⟩
def dkwX1_account_4 : List UInt8 := [182, 1, 89, 172, 42, 27, 182, 1, 115, 172]
abbrev dktX1_account_4 : List UInt8 := dkwX1_account_4 ++ []
def dkwX1_account_3 : List UInt8 := [180, 0, 49, 182, 1, 107, 172, 42, 182, 1, 109, 172, 42, 180, 0, 49, 182, 1, 112, 172, 42, 180, 0, 49]
abbrev dktX1_account_3 : List UInt8 := dkwX1_account_3 ++ dktX1_account_4
def dkwX1_account_2 : List UInt8 := [42, 180, 0, 49, 180, 0, 186, 182, 0, 82, 172, 42, 180, 0, 49, 180, 0, 197, 182, 0, 82, 172, 42]
abbrev dktX1_account_2 : List UInt8 := dkwX1_account_2 ++ dktX1_account_3
def dkwX1_account_1 : List UInt8 := [170, 0, 0, 0, 88, 0, 0, 0, 0, 0, 0, 0, 5, 0, 0, 0, 37, 0, 0, 0, 48, 0, 0, 0, 59, 0, 0, 0, 67, 0, 0, 0, 72, 0, 0, 0, 80]
abbrev dktX1_account_1 : List UInt8 := dkwX1_account_1 ++ dktX1_account_2
def dkwX1_account_0 : List UInt8 := [27, 3, 16, 11, 184, 0, 3, 184, 0, 206, 27]
abbrev dktX1_account_0 : List UInt8 := dkwX1_account_0 ++ dktX1_account_1
theorem dksX1_account_0 : cX1_account.data.toList.drop 0 = dktX1_account_0 := by decide +kernel
theorem dksX1_account_1 : cX1_account.data.toList.drop 11 = dktX1_account_1 := dk_seg dksX1_account_0 11 rfl rfl
theorem dksX1_account_2 : cX1_account.data.toList.drop 48 = dktX1_account_2 := dk_seg dksX1_account_1 37 rfl rfl
theorem dksX1_account_3 : cX1_account.data.toList.drop 71 = dktX1_account_3 := dk_seg dksX1_account_2 23 rfl rfl
theorem dksX1_account_4 : cX1_account.data.toList.drop 95 = dktX1_account_4 := dk_seg dksX1_account_3 24 rfl rfl
theorem dX1_account_0 : decode cX1_account 0 = .ok (.iload_n 1, 1) := dk_27 (dk_at dksX1_account_0 0 rfl rfl)
theorem dX1_account_1 : decode cX1_account 1 = .ok (.iconst 0, 1) := dk_3 (dk_at dksX1_account_0 1 rfl rfl)
theorem dX1_account_2 : decode cX1_account 2 = .ok (.bipush 11, 2) := dk_16 11 (dk_at dksX1_account_0 2 rfl rfl)
theorem dX1_account_4 : decode cX1_account 4 = .ok (.invokestatic 3, 3) := dk_184 0 3 (dk_at dksX1_account_0 4 rfl rfl)
theorem dX1_account_7 : decode cX1_account 7 = .ok (.invokestatic 206, 3) := dk_184 0 206 (dk_at dksX1_account_0 7 rfl rfl)
theorem dX1_account_10 : decode cX1_account 10 = .ok (.iload_n 1, 1) := dk_27 (dk_at dksX1_account_0 10 rfl rfl)
theorem dX1_account_11 : decode cX1_account 11 = .ok (.tableswitch 88 0 5 #[37, 48, 59, 67, 72, 80], 37) := by decide +kernel
theorem dX1_account_48 : decode cX1_account 48 = .ok (.aload_n 0, 1) := dk_42 (dk_at dksX1_account_2 0 rfl rfl)
theorem dX1_account_49 : decode cX1_account 49 = .ok (.getfield 49, 3) := dk_180 0 49 (dk_at dksX1_account_2 1 rfl rfl)
theorem dX1_account_52 : decode cX1_account 52 = .ok (.getfield 186, 3) := dk_180 0 186 (dk_at dksX1_account_2 4 rfl rfl)
theorem dX1_account_55 : decode cX1_account 55 = .ok (.invokevirtual 82, 3) := dk_182 0 82 (dk_at dksX1_account_2 7 rfl rfl)
theorem dX1_account_58 : decode cX1_account 58 = .ok (.ireturn, 1) := dk_172 (dk_at dksX1_account_2 10 rfl rfl)
theorem dX1_account_59 : decode cX1_account 59 = .ok (.aload_n 0, 1) := dk_42 (dk_at dksX1_account_2 11 rfl rfl)
theorem dX1_account_60 : decode cX1_account 60 = .ok (.getfield 49, 3) := dk_180 0 49 (dk_at dksX1_account_2 12 rfl rfl)
theorem dX1_account_63 : decode cX1_account 63 = .ok (.getfield 197, 3) := dk_180 0 197 (dk_at dksX1_account_2 15 rfl rfl)
theorem dX1_account_66 : decode cX1_account 66 = .ok (.invokevirtual 82, 3) := dk_182 0 82 (dk_at dksX1_account_2 18 rfl rfl)
theorem dX1_account_69 : decode cX1_account 69 = .ok (.ireturn, 1) := dk_172 (dk_at dksX1_account_2 21 rfl rfl)
theorem dX1_account_70 : decode cX1_account 70 = .ok (.aload_n 0, 1) := dk_42 (dk_at dksX1_account_2 22 rfl rfl)
theorem dX1_account_71 : decode cX1_account 71 = .ok (.getfield 49, 3) := dk_180 0 49 (dk_at dksX1_account_3 0 rfl rfl)
theorem dX1_account_74 : decode cX1_account 74 = .ok (.invokevirtual 363, 3) := dk_182 1 107 (dk_at dksX1_account_3 3 rfl rfl)
theorem dX1_account_77 : decode cX1_account 77 = .ok (.ireturn, 1) := dk_172 (dk_at dksX1_account_3 6 rfl rfl)
theorem dX1_account_78 : decode cX1_account 78 = .ok (.aload_n 0, 1) := dk_42 (dk_at dksX1_account_3 7 rfl rfl)
theorem dX1_account_79 : decode cX1_account 79 = .ok (.invokevirtual 365, 3) := dk_182 1 109 (dk_at dksX1_account_3 8 rfl rfl)
theorem dX1_account_82 : decode cX1_account 82 = .ok (.ireturn, 1) := dk_172 (dk_at dksX1_account_3 11 rfl rfl)
theorem dX1_account_83 : decode cX1_account 83 = .ok (.aload_n 0, 1) := dk_42 (dk_at dksX1_account_3 12 rfl rfl)
theorem dX1_account_84 : decode cX1_account 84 = .ok (.getfield 49, 3) := dk_180 0 49 (dk_at dksX1_account_3 13 rfl rfl)
theorem dX1_account_87 : decode cX1_account 87 = .ok (.invokevirtual 368, 3) := dk_182 1 112 (dk_at dksX1_account_3 16 rfl rfl)
theorem dX1_account_90 : decode cX1_account 90 = .ok (.ireturn, 1) := dk_172 (dk_at dksX1_account_3 19 rfl rfl)
theorem dX1_account_91 : decode cX1_account 91 = .ok (.aload_n 0, 1) := dk_42 (dk_at dksX1_account_3 20 rfl rfl)
theorem dX1_account_92 : decode cX1_account 92 = .ok (.getfield 49, 3) := dk_180 0 49 (dk_at dksX1_account_3 21 rfl rfl)
theorem dX1_account_95 : decode cX1_account 95 = .ok (.invokevirtual 345, 3) := dk_182 1 89 (dk_at dksX1_account_4 0 rfl rfl)
theorem dX1_account_98 : decode cX1_account 98 = .ok (.ireturn, 1) := dk_172 (dk_at dksX1_account_4 3 rfl rfl)
theorem dX1_account_99 : decode cX1_account 99 = .ok (.aload_n 0, 1) := dk_42 (dk_at dksX1_account_4 4 rfl rfl)
theorem dX1_account_100 : decode cX1_account 100 = .ok (.iload_n 1, 1) := dk_27 (dk_at dksX1_account_4 5 rfl rfl)
theorem dX1_account_101 : decode cX1_account 101 = .ok (.invokevirtual 371, 3) := dk_182 1 115 (dk_at dksX1_account_4 6 rfl rfl)
theorem dX1_account_104 : decode cX1_account 104 = .ok (.ireturn, 1) := dk_172 (dk_at dksX1_account_4 9 rfl rfl)
abbrev cX1_bonds : ByteArray := prog_1_method_57_code
def yX1_bonds : MethodName := ⟨RX1, "bonds", "()I"⟩
def dkwX1_bonds_1 : List UInt8 := [180, 0, 49, 28, 182, 0, 212, 79, 132, 2, 1, 167, 255, 228, 43, 184, 1, 93, 172]
abbrev dktX1_bonds_1 : List UInt8 := dkwX1_bonds_1 ++ []
def dkwX1_bonds_0 : List UInt8 := [7, 188, 10, 76, 3, 61, 28, 42, 180, 0, 49, 180, 0, 186, 182, 0, 82, 162, 0, 20, 43, 28, 42]
abbrev dktX1_bonds_0 : List UInt8 := dkwX1_bonds_0 ++ dktX1_bonds_1
theorem dksX1_bonds_0 : cX1_bonds.data.toList.drop 0 = dktX1_bonds_0 := by decide +kernel
theorem dksX1_bonds_1 : cX1_bonds.data.toList.drop 23 = dktX1_bonds_1 := dk_seg dksX1_bonds_0 23 rfl rfl
theorem dX1_bonds_0 : decode cX1_bonds 0 = .ok (.iconst 4, 1) := dk_7 (dk_at dksX1_bonds_0 0 rfl rfl)
theorem dX1_bonds_1 : decode cX1_bonds 1 = .ok (.newarray .int, 2) := dk_188_10 (dk_at dksX1_bonds_0 1 rfl rfl)
theorem dX1_bonds_3 : decode cX1_bonds 3 = .ok (.astore_n 1, 1) := dk_76 (dk_at dksX1_bonds_0 3 rfl rfl)
theorem dX1_bonds_4 : decode cX1_bonds 4 = .ok (.iconst 0, 1) := dk_3 (dk_at dksX1_bonds_0 4 rfl rfl)
theorem dX1_bonds_5 : decode cX1_bonds 5 = .ok (.istore_n 2, 1) := dk_61 (dk_at dksX1_bonds_0 5 rfl rfl)
theorem dX1_bonds_6 : decode cX1_bonds 6 = .ok (.iload_n 2, 1) := dk_28 (dk_at dksX1_bonds_0 6 rfl rfl)
theorem dX1_bonds_7 : decode cX1_bonds 7 = .ok (.aload_n 0, 1) := dk_42 (dk_at dksX1_bonds_0 7 rfl rfl)
theorem dX1_bonds_8 : decode cX1_bonds 8 = .ok (.getfield 49, 3) := dk_180 0 49 (dk_at dksX1_bonds_0 8 rfl rfl)
theorem dX1_bonds_11 : decode cX1_bonds 11 = .ok (.getfield 186, 3) := dk_180 0 186 (dk_at dksX1_bonds_0 11 rfl rfl)
theorem dX1_bonds_14 : decode cX1_bonds 14 = .ok (.invokevirtual 82, 3) := dk_182 0 82 (dk_at dksX1_bonds_0 14 rfl rfl)
theorem dX1_bonds_17 : decode cX1_bonds 17 = .ok (.if_icmp .ge 20, 3) := dk_162 0 20 (dk_at dksX1_bonds_0 17 rfl rfl)
theorem dX1_bonds_20 : decode cX1_bonds 20 = .ok (.aload_n 1, 1) := dk_43 (dk_at dksX1_bonds_0 20 rfl rfl)
theorem dX1_bonds_21 : decode cX1_bonds 21 = .ok (.iload_n 2, 1) := dk_28 (dk_at dksX1_bonds_0 21 rfl rfl)
theorem dX1_bonds_22 : decode cX1_bonds 22 = .ok (.aload_n 0, 1) := dk_42 (dk_at dksX1_bonds_0 22 rfl rfl)
theorem dX1_bonds_23 : decode cX1_bonds 23 = .ok (.getfield 49, 3) := dk_180 0 49 (dk_at dksX1_bonds_1 0 rfl rfl)
theorem dX1_bonds_26 : decode cX1_bonds 26 = .ok (.iload_n 2, 1) := dk_28 (dk_at dksX1_bonds_1 3 rfl rfl)
theorem dX1_bonds_27 : decode cX1_bonds 27 = .ok (.invokevirtual 212, 3) := dk_182 0 212 (dk_at dksX1_bonds_1 4 rfl rfl)
theorem dX1_bonds_30 : decode cX1_bonds 30 = .ok (.iastore, 1) := dk_79 (dk_at dksX1_bonds_1 7 rfl rfl)
theorem dX1_bonds_31 : decode cX1_bonds 31 = .ok (.iinc 2 1, 3) := dk_132 2 1 (dk_at dksX1_bonds_1 8 rfl rfl)
theorem dX1_bonds_34 : decode cX1_bonds 34 = .ok (.goto (-28), 3) := dk_167 255 228 (dk_at dksX1_bonds_1 11 rfl rfl)
theorem dX1_bonds_37 : decode cX1_bonds 37 = .ok (.aload_n 1, 1) := dk_43 (dk_at dksX1_bonds_1 14 rfl rfl)
theorem dX1_bonds_38 : decode cX1_bonds 38 = .ok (.invokestatic 349, 3) := dk_184 1 93 (dk_at dksX1_bonds_1 15 rfl rfl)
theorem dX1_bonds_41 : decode cX1_bonds 41 = .ok (.ireturn, 1) := dk_172 (dk_at dksX1_bonds_1 18 rfl rfl)
abbrev cX1_sum : ByteArray := prog_1_method_3_code
def yX1_sum : MethodName := ⟨RX1, "sum", "([I)I"⟩
def dkwX1_sum_1 : List UInt8 := [21, 5, 96, 60, 132, 4, 1, 167, 255, 236, 27, 172]
abbrev dktX1_sum_1 : List UInt8 := dkwX1_sum_1 ++ []
def dkwX1_sum_0 : List UInt8 := [3, 60, 42, 77, 44, 190, 62, 3, 54, 4, 21, 4, 29, 162, 0, 20, 44, 21, 4, 46, 54, 5, 27]
abbrev dktX1_sum_0 : List UInt8 := dkwX1_sum_0 ++ dktX1_sum_1
theorem dksX1_sum_0 : cX1_sum.data.toList.drop 0 = dktX1_sum_0 := by decide +kernel
theorem dksX1_sum_1 : cX1_sum.data.toList.drop 23 = dktX1_sum_1 := dk_seg dksX1_sum_0 23 rfl rfl
theorem dX1_sum_0 : decode cX1_sum 0 = .ok (.iconst 0, 1) := dk_3 (dk_at dksX1_sum_0 0 rfl rfl)
theorem dX1_sum_1 : decode cX1_sum 1 = .ok (.istore_n 1, 1) := dk_60 (dk_at dksX1_sum_0 1 rfl rfl)
theorem dX1_sum_2 : decode cX1_sum 2 = .ok (.aload_n 0, 1) := dk_42 (dk_at dksX1_sum_0 2 rfl rfl)
theorem dX1_sum_3 : decode cX1_sum 3 = .ok (.astore_n 2, 1) := dk_77 (dk_at dksX1_sum_0 3 rfl rfl)
theorem dX1_sum_4 : decode cX1_sum 4 = .ok (.aload_n 2, 1) := dk_44 (dk_at dksX1_sum_0 4 rfl rfl)
theorem dX1_sum_5 : decode cX1_sum 5 = .ok (.arraylength, 1) := dk_190 (dk_at dksX1_sum_0 5 rfl rfl)
theorem dX1_sum_6 : decode cX1_sum 6 = .ok (.istore_n 3, 1) := dk_62 (dk_at dksX1_sum_0 6 rfl rfl)
theorem dX1_sum_7 : decode cX1_sum 7 = .ok (.iconst 0, 1) := dk_3 (dk_at dksX1_sum_0 7 rfl rfl)
theorem dX1_sum_8 : decode cX1_sum 8 = .ok (.istore 4, 2) := dk_54 4 (dk_at dksX1_sum_0 8 rfl rfl)
theorem dX1_sum_10 : decode cX1_sum 10 = .ok (.iload 4, 2) := dk_21 4 (dk_at dksX1_sum_0 10 rfl rfl)
theorem dX1_sum_12 : decode cX1_sum 12 = .ok (.iload_n 3, 1) := dk_29 (dk_at dksX1_sum_0 12 rfl rfl)
theorem dX1_sum_13 : decode cX1_sum 13 = .ok (.if_icmp .ge 20, 3) := dk_162 0 20 (dk_at dksX1_sum_0 13 rfl rfl)
theorem dX1_sum_16 : decode cX1_sum 16 = .ok (.aload_n 2, 1) := dk_44 (dk_at dksX1_sum_0 16 rfl rfl)
theorem dX1_sum_17 : decode cX1_sum 17 = .ok (.iload 4, 2) := dk_21 4 (dk_at dksX1_sum_0 17 rfl rfl)
theorem dX1_sum_19 : decode cX1_sum 19 = .ok (.iaload, 1) := dk_46 (dk_at dksX1_sum_0 19 rfl rfl)
theorem dX1_sum_20 : decode cX1_sum 20 = .ok (.istore 5, 2) := dk_54 5 (dk_at dksX1_sum_0 20 rfl rfl)
theorem dX1_sum_22 : decode cX1_sum 22 = .ok (.iload_n 1, 1) := dk_27 (dk_at dksX1_sum_0 22 rfl rfl)
theorem dX1_sum_23 : decode cX1_sum 23 = .ok (.iload 5, 2) := dk_21 5 (dk_at dksX1_sum_1 0 rfl rfl)
theorem dX1_sum_25 : decode cX1_sum 25 = .ok (.iadd, 1) := dk_96 (dk_at dksX1_sum_1 2 rfl rfl)
theorem dX1_sum_26 : decode cX1_sum 26 = .ok (.istore_n 1, 1) := dk_60 (dk_at dksX1_sum_1 3 rfl rfl)
theorem dX1_sum_27 : decode cX1_sum 27 = .ok (.iinc 4 1, 3) := dk_132 4 1 (dk_at dksX1_sum_1 4 rfl rfl)
theorem dX1_sum_30 : decode cX1_sum 30 = .ok (.goto (-20), 3) := dk_167 255 236 (dk_at dksX1_sum_1 7 rfl rfl)
theorem dX1_sum_33 : decode cX1_sum 33 = .ok (.iload_n 1, 1) := dk_27 (dk_at dksX1_sum_1 10 rfl rfl)
theorem dX1_sum_34 : decode cX1_sum 34 = .ok (.ireturn, 1) := dk_172 (dk_at dksX1_sum_1 11 rfl rfl)
abbrev cX1_otherAccount : ByteArray := prog_1_method_58_code
def yX1_otherAccount : MethodName := ⟨RX1, "otherAccount", "(I)I"⟩
def dkwX1_otherAccount_3 : List UInt8 := [42, 180, 0, 49, 182, 1, 106, 172, 42, 180, 0, 56, 182, 0, 82, 172, 42, 180, 1, 12, 172]
abbrev dktX1_otherAccount_3 : List UInt8 := dkwX1_otherAccount_3 ++ []
def dkwX1_otherAccount_2 : List UInt8 := [42, 180, 0, 49, 180, 1, 97, 172, 42, 180, 0, 49, 180, 1, 100, 172, 42, 180, 0, 49, 180, 1, 103, 172]
abbrev dktX1_otherAccount_2 : List UInt8 := dkwX1_otherAccount_2 ++ dktX1_otherAccount_3
def dkwX1_otherAccount_1 : List UInt8 := [170, 0, 0, 0, 0, 0, 75, 0, 0, 0, 6, 0, 0, 0, 10, 0, 0, 0, 35, 0, 0, 0, 43, 0, 0, 0, 51, 0, 0, 0, 59, 0, 0, 0, 67]
abbrev dktX1_otherAccount_1 : List UInt8 := dkwX1_otherAccount_1 ++ dktX1_otherAccount_2
def dkwX1_otherAccount_0 : List UInt8 := [27]
abbrev dktX1_otherAccount_0 : List UInt8 := dkwX1_otherAccount_0 ++ dktX1_otherAccount_1
theorem dksX1_otherAccount_0 : cX1_otherAccount.data.toList.drop 0 = dktX1_otherAccount_0 := by decide +kernel
theorem dksX1_otherAccount_1 : cX1_otherAccount.data.toList.drop 1 = dktX1_otherAccount_1 := dk_seg dksX1_otherAccount_0 1 rfl rfl
theorem dksX1_otherAccount_2 : cX1_otherAccount.data.toList.drop 36 = dktX1_otherAccount_2 := dk_seg dksX1_otherAccount_1 35 rfl rfl
theorem dksX1_otherAccount_3 : cX1_otherAccount.data.toList.drop 60 = dktX1_otherAccount_3 := dk_seg dksX1_otherAccount_2 24 rfl rfl
theorem dX1_otherAccount_0 : decode cX1_otherAccount 0 = .ok (.iload_n 1, 1) := dk_27 (dk_at dksX1_otherAccount_0 0 rfl rfl)
theorem dX1_otherAccount_1 : decode cX1_otherAccount 1 = .ok (.tableswitch 75 6 10 #[35, 43, 51, 59, 67], 35) := by decide +kernel
theorem dX1_otherAccount_36 : decode cX1_otherAccount 36 = .ok (.aload_n 0, 1) := dk_42 (dk_at dksX1_otherAccount_2 0 rfl rfl)
theorem dX1_otherAccount_37 : decode cX1_otherAccount 37 = .ok (.getfield 49, 3) := dk_180 0 49 (dk_at dksX1_otherAccount_2 1 rfl rfl)
theorem dX1_otherAccount_40 : decode cX1_otherAccount 40 = .ok (.getfield 353, 3) := dk_180 1 97 (dk_at dksX1_otherAccount_2 4 rfl rfl)
theorem dX1_otherAccount_43 : decode cX1_otherAccount 43 = .ok (.ireturn, 1) := dk_172 (dk_at dksX1_otherAccount_2 7 rfl rfl)
theorem dX1_otherAccount_44 : decode cX1_otherAccount 44 = .ok (.aload_n 0, 1) := dk_42 (dk_at dksX1_otherAccount_2 8 rfl rfl)
theorem dX1_otherAccount_45 : decode cX1_otherAccount 45 = .ok (.getfield 49, 3) := dk_180 0 49 (dk_at dksX1_otherAccount_2 9 rfl rfl)
theorem dX1_otherAccount_48 : decode cX1_otherAccount 48 = .ok (.getfield 356, 3) := dk_180 1 100 (dk_at dksX1_otherAccount_2 12 rfl rfl)
theorem dX1_otherAccount_51 : decode cX1_otherAccount 51 = .ok (.ireturn, 1) := dk_172 (dk_at dksX1_otherAccount_2 15 rfl rfl)
theorem dX1_otherAccount_52 : decode cX1_otherAccount 52 = .ok (.aload_n 0, 1) := dk_42 (dk_at dksX1_otherAccount_2 16 rfl rfl)
theorem dX1_otherAccount_53 : decode cX1_otherAccount 53 = .ok (.getfield 49, 3) := dk_180 0 49 (dk_at dksX1_otherAccount_2 17 rfl rfl)
theorem dX1_otherAccount_56 : decode cX1_otherAccount 56 = .ok (.getfield 359, 3) := dk_180 1 103 (dk_at dksX1_otherAccount_2 20 rfl rfl)
theorem dX1_otherAccount_59 : decode cX1_otherAccount 59 = .ok (.ireturn, 1) := dk_172 (dk_at dksX1_otherAccount_2 23 rfl rfl)
theorem dX1_otherAccount_60 : decode cX1_otherAccount 60 = .ok (.aload_n 0, 1) := dk_42 (dk_at dksX1_otherAccount_3 0 rfl rfl)
theorem dX1_otherAccount_61 : decode cX1_otherAccount 61 = .ok (.getfield 49, 3) := dk_180 0 49 (dk_at dksX1_otherAccount_3 1 rfl rfl)
theorem dX1_otherAccount_64 : decode cX1_otherAccount 64 = .ok (.invokevirtual 362, 3) := dk_182 1 106 (dk_at dksX1_otherAccount_3 4 rfl rfl)
theorem dX1_otherAccount_67 : decode cX1_otherAccount 67 = .ok (.ireturn, 1) := dk_172 (dk_at dksX1_otherAccount_3 7 rfl rfl)
theorem dX1_otherAccount_68 : decode cX1_otherAccount 68 = .ok (.aload_n 0, 1) := dk_42 (dk_at dksX1_otherAccount_3 8 rfl rfl)
theorem dX1_otherAccount_69 : decode cX1_otherAccount 69 = .ok (.getfield 56, 3) := dk_180 0 56 (dk_at dksX1_otherAccount_3 9 rfl rfl)
theorem dX1_otherAccount_72 : decode cX1_otherAccount 72 = .ok (.invokevirtual 82, 3) := dk_182 0 82 (dk_at dksX1_otherAccount_3 12 rfl rfl)
theorem dX1_otherAccount_75 : decode cX1_otherAccount 75 = .ok (.ireturn, 1) := dk_172 (dk_at dksX1_otherAccount_3 15 rfl rfl)
theorem dX1_otherAccount_76 : decode cX1_otherAccount 76 = .ok (.aload_n 0, 1) := dk_42 (dk_at dksX1_otherAccount_3 16 rfl rfl)
theorem dX1_otherAccount_77 : decode cX1_otherAccount 77 = .ok (.getfield 268, 3) := dk_180 1 12 (dk_at dksX1_otherAccount_3 17 rfl rfl)
theorem dX1_otherAccount_80 : decode cX1_otherAccount 80 = .ok (.ireturn, 1) := dk_172 (dk_at dksX1_otherAccount_3 20 rfl rfl)
abbrev cX1_undo : ByteArray := prog_1_method_60_code
def yX1_undo : MethodName := ⟨RX1, "undo", "()I"⟩
def dkwX1_undo_2 : List UInt8 := [172]
abbrev dktX1_undo_2 : List UInt8 := dkwX1_undo_2 ++ []
def dkwX1_undo_1 : List UInt8 := [180, 0, 56, 182, 0, 82, 4, 100, 182, 0, 86, 192, 0, 46, 181, 0, 49, 42, 180, 0, 56, 182, 0, 82]
abbrev dktX1_undo_1 : List UInt8 := dkwX1_undo_1 ++ dktX1_undo_2
def dkwX1_undo_0 : List UInt8 := [42, 180, 0, 56, 182, 1, 118, 154, 0, 7, 4, 167, 0, 4, 3, 184, 1, 15, 42, 42, 180, 0, 56, 42]
abbrev dktX1_undo_0 : List UInt8 := dkwX1_undo_0 ++ dktX1_undo_1
theorem dksX1_undo_0 : cX1_undo.data.toList.drop 0 = dktX1_undo_0 := by decide +kernel
theorem dksX1_undo_1 : cX1_undo.data.toList.drop 24 = dktX1_undo_1 := dk_seg dksX1_undo_0 24 rfl rfl
theorem dksX1_undo_2 : cX1_undo.data.toList.drop 48 = dktX1_undo_2 := dk_seg dksX1_undo_1 24 rfl rfl
theorem dX1_undo_0 : decode cX1_undo 0 = .ok (.aload_n 0, 1) := dk_42 (dk_at dksX1_undo_0 0 rfl rfl)
theorem dX1_undo_1 : decode cX1_undo 1 = .ok (.getfield 56, 3) := dk_180 0 56 (dk_at dksX1_undo_0 1 rfl rfl)
theorem dX1_undo_4 : decode cX1_undo 4 = .ok (.invokevirtual 374, 3) := dk_182 1 118 (dk_at dksX1_undo_0 4 rfl rfl)
theorem dX1_undo_7 : decode cX1_undo 7 = .ok (.ifCond .ne 7, 3) := dk_154 0 7 (dk_at dksX1_undo_0 7 rfl rfl)
theorem dX1_undo_10 : decode cX1_undo 10 = .ok (.iconst 1, 1) := dk_4 (dk_at dksX1_undo_0 10 rfl rfl)
theorem dX1_undo_11 : decode cX1_undo 11 = .ok (.goto 4, 3) := dk_167 0 4 (dk_at dksX1_undo_0 11 rfl rfl)
theorem dX1_undo_14 : decode cX1_undo 14 = .ok (.iconst 0, 1) := dk_3 (dk_at dksX1_undo_0 14 rfl rfl)
theorem dX1_undo_15 : decode cX1_undo 15 = .ok (.invokestatic 271, 3) := dk_184 1 15 (dk_at dksX1_undo_0 15 rfl rfl)
theorem dX1_undo_18 : decode cX1_undo 18 = .ok (.aload_n 0, 1) := dk_42 (dk_at dksX1_undo_0 18 rfl rfl)
theorem dX1_undo_19 : decode cX1_undo 19 = .ok (.aload_n 0, 1) := dk_42 (dk_at dksX1_undo_0 19 rfl rfl)
theorem dX1_undo_20 : decode cX1_undo 20 = .ok (.getfield 56, 3) := dk_180 0 56 (dk_at dksX1_undo_0 20 rfl rfl)
theorem dX1_undo_23 : decode cX1_undo 23 = .ok (.aload_n 0, 1) := dk_42 (dk_at dksX1_undo_0 23 rfl rfl)
theorem dX1_undo_24 : decode cX1_undo 24 = .ok (.getfield 56, 3) := dk_180 0 56 (dk_at dksX1_undo_1 0 rfl rfl)
theorem dX1_undo_27 : decode cX1_undo 27 = .ok (.invokevirtual 82, 3) := dk_182 0 82 (dk_at dksX1_undo_1 3 rfl rfl)
theorem dX1_undo_30 : decode cX1_undo 30 = .ok (.iconst 1, 1) := dk_4 (dk_at dksX1_undo_1 6 rfl rfl)
theorem dX1_undo_31 : decode cX1_undo 31 = .ok (.isub, 1) := dk_100 (dk_at dksX1_undo_1 7 rfl rfl)
theorem dX1_undo_32 : decode cX1_undo 32 = .ok (.invokevirtual 86, 3) := dk_182 0 86 (dk_at dksX1_undo_1 8 rfl rfl)
theorem dX1_undo_35 : decode cX1_undo 35 = .ok (.checkcast 46, 3) := dk_192 0 46 (dk_at dksX1_undo_1 11 rfl rfl)
theorem dX1_undo_38 : decode cX1_undo 38 = .ok (.putfield 49, 3) := dk_181 0 49 (dk_at dksX1_undo_1 14 rfl rfl)
theorem dX1_undo_41 : decode cX1_undo 41 = .ok (.aload_n 0, 1) := dk_42 (dk_at dksX1_undo_1 17 rfl rfl)
theorem dX1_undo_42 : decode cX1_undo 42 = .ok (.getfield 56, 3) := dk_180 0 56 (dk_at dksX1_undo_1 18 rfl rfl)
theorem dX1_undo_45 : decode cX1_undo 45 = .ok (.invokevirtual 82, 3) := dk_182 0 82 (dk_at dksX1_undo_1 21 rfl rfl)
theorem dX1_undo_48 : decode cX1_undo 48 = .ok (.ireturn, 1) := dk_172 (dk_at dksX1_undo_2 0 rfl rfl)
abbrev cX1_restore : ByteArray := prog_1_method_62_code
def yX1_restore : MethodName := ⟨RX1, "restore", "()I"⟩
def dkwX1_restore_1 : List UInt8 := [181, 0, 49, 42, 180, 0, 56, 182, 1, 124, 42, 180, 0, 49, 180, 0, 197, 182, 0, 82, 172]
abbrev dktX1_restore_1 : List UInt8 := dkwX1_restore_1 ++ []
def dkwX1_restore_0 : List UInt8 := [42, 180, 1, 121, 198, 0, 7, 4, 167, 0, 4, 3, 184, 1, 15, 42, 42, 180, 1, 121, 182, 0, 94]
abbrev dktX1_restore_0 : List UInt8 := dkwX1_restore_0 ++ dktX1_restore_1
theorem dksX1_restore_0 : cX1_restore.data.toList.drop 0 = dktX1_restore_0 := by decide +kernel
theorem dksX1_restore_1 : cX1_restore.data.toList.drop 23 = dktX1_restore_1 := dk_seg dksX1_restore_0 23 rfl rfl
theorem dX1_restore_0 : decode cX1_restore 0 = .ok (.aload_n 0, 1) := dk_42 (dk_at dksX1_restore_0 0 rfl rfl)
theorem dX1_restore_1 : decode cX1_restore 1 = .ok (.getfield 377, 3) := dk_180 1 121 (dk_at dksX1_restore_0 1 rfl rfl)
theorem dX1_restore_4 : decode cX1_restore 4 = .ok (.ifnull 7, 3) := dk_198 0 7 (dk_at dksX1_restore_0 4 rfl rfl)
theorem dX1_restore_7 : decode cX1_restore 7 = .ok (.iconst 1, 1) := dk_4 (dk_at dksX1_restore_0 7 rfl rfl)
theorem dX1_restore_8 : decode cX1_restore 8 = .ok (.goto 4, 3) := dk_167 0 4 (dk_at dksX1_restore_0 8 rfl rfl)
theorem dX1_restore_11 : decode cX1_restore 11 = .ok (.iconst 0, 1) := dk_3 (dk_at dksX1_restore_0 11 rfl rfl)
theorem dX1_restore_12 : decode cX1_restore 12 = .ok (.invokestatic 271, 3) := dk_184 1 15 (dk_at dksX1_restore_0 12 rfl rfl)
theorem dX1_restore_15 : decode cX1_restore 15 = .ok (.aload_n 0, 1) := dk_42 (dk_at dksX1_restore_0 15 rfl rfl)
theorem dX1_restore_16 : decode cX1_restore 16 = .ok (.aload_n 0, 1) := dk_42 (dk_at dksX1_restore_0 16 rfl rfl)
theorem dX1_restore_17 : decode cX1_restore 17 = .ok (.getfield 377, 3) := dk_180 1 121 (dk_at dksX1_restore_0 17 rfl rfl)
theorem dX1_restore_20 : decode cX1_restore 20 = .ok (.invokevirtual 94, 3) := dk_182 0 94 (dk_at dksX1_restore_0 20 rfl rfl)
theorem dX1_restore_23 : decode cX1_restore 23 = .ok (.putfield 49, 3) := dk_181 0 49 (dk_at dksX1_restore_1 0 rfl rfl)
theorem dX1_restore_26 : decode cX1_restore 26 = .ok (.aload_n 0, 1) := dk_42 (dk_at dksX1_restore_1 3 rfl rfl)
theorem dX1_restore_27 : decode cX1_restore 27 = .ok (.getfield 56, 3) := dk_180 0 56 (dk_at dksX1_restore_1 4 rfl rfl)
theorem dX1_restore_30 : decode cX1_restore 30 = .ok (.invokevirtual 380, 3) := dk_182 1 124 (dk_at dksX1_restore_1 7 rfl rfl)
theorem dX1_restore_33 : decode cX1_restore 33 = .ok (.aload_n 0, 1) := dk_42 (dk_at dksX1_restore_1 10 rfl rfl)
theorem dX1_restore_34 : decode cX1_restore 34 = .ok (.getfield 49, 3) := dk_180 0 49 (dk_at dksX1_restore_1 11 rfl rfl)
theorem dX1_restore_37 : decode cX1_restore 37 = .ok (.getfield 197, 3) := dk_180 0 197 (dk_at dksX1_restore_1 14 rfl rfl)
theorem dX1_restore_40 : decode cX1_restore 40 = .ok (.invokevirtual 82, 3) := dk_182 0 82 (dk_at dksX1_restore_1 17 rfl rfl)
theorem dX1_restore_43 : decode cX1_restore 43 = .ok (.ireturn, 1) := dk_172 (dk_at dksX1_restore_1 20 rfl rfl)
theorem q72 : (Jvm.Cond.initialized "MazeBonds") ∈ lw_all := lw_g (lw_at lw_m1 1 rfl) rfl
theorem q111 : (Jvm.Cond.instantiable "MazeBonds" (8 : Nat)) ∈ lw_all := lw_g (lw_at lw_m1 40 rfl) rfl
theorem q113 : (Jvm.Cond.instanceMethod ({ cls := "MazeBonds", name := "<init>", desc := "()V" } : Jvm.MethodName)) ∈ lw_all := lw_g (lw_at lw_m1 42 rfl) rfl
theorem q114 : (Jvm.Cond.code ({ cls := "MazeBonds", name := "<init>", desc := "()V" } : Jvm.MethodName) prog_1_method_13_code (1 : Nat) (Option.none : Option Jvm.ClassFile.FieldType)) ∈ lw_all := lw_g (lw_at lw_m1 43 rfl) rfl
theorem q115 : (Jvm.Cond.methodLink "MazeBonds" (43 : Nat) ({ cls := "java/lang/Object", name := "<init>", desc := "()V" } : Jvm.MethodName)) ∈ lw_all := lw_g (lw_at lw_m1 44 rfl) rfl
theorem q118 : (Jvm.Cond.classLink "MazeBonds" (46 : Nat) "MazeBonds$Core") ∈ lw_all := lw_g (lw_at lw_m1 47 rfl) rfl
theorem q120 : (Jvm.Cond.methodLink "MazeBonds" (48 : Nat) ({ cls := "MazeBonds$Core", name := "<init>", desc := "()V" } : Jvm.MethodName)) ∈ lw_all := lw_g (lw_at lw_m1 49 rfl) rfl
theorem q158 : (Jvm.Cond.fieldLinkNest "MazeBonds" (153 : Nat) "MazeBonds$Core" "leaves" "[I" "MazeBonds") ∈ lw_tbl := lw_at lw_m1 87 rfl
theorem q160 : (Jvm.Cond.fieldLinkNest "MazeBonds" (186 : Nat) "MazeBonds$Core" "gardeners" "Ljava/util/ArrayList;" "MazeBonds") ∈ lw_tbl := lw_at lw_m1 89 rfl
theorem q162 : (Jvm.Cond.fieldLinkNest "MazeBonds" (197 : Nat) "MazeBonds$Core" "visitors" "Ljava/util/ArrayList;" "MazeBonds") ∈ lw_tbl := lw_at lw_m1 91 rfl
theorem q164 : (Jvm.Cond.fieldLinkNest "MazeBonds" (320 : Nat) "MazeBonds$Core" "minotaur" "I" "MazeBonds") ∈ lw_tbl := lw_at lw_m1 93 rfl
theorem q166 : (Jvm.Cond.fieldLinkNest "MazeBonds" (353 : Nat) "MazeBonds$Core" "summers" "I" "MazeBonds") ∈ lw_tbl := lw_at lw_m1 95 rfl
theorem q168 : (Jvm.Cond.fieldLinkNest "MazeBonds" (356 : Nat) "MazeBonds$Core" "brought" "I" "MazeBonds") ∈ lw_tbl := lw_at lw_m1 97 rfl
theorem q170 : (Jvm.Cond.fieldLinkNest "MazeBonds" (359 : Nat) "MazeBonds$Core" "spent" "I" "MazeBonds") ∈ lw_tbl := lw_at lw_m1 99 rfl
theorem q186 : (Jvm.Cond.classLink "MazeBonds" (53 : Nat) "java/util/ArrayList") ∈ lw_all := lw_g (lw_at lw_m1 115 rfl) rfl
theorem q187 : (Jvm.Cond.methodLink "MazeBonds" (55 : Nat) ({ cls := "java/util/ArrayList", name := "<init>", desc := "()V" } : Jvm.MethodName)) ∈ lw_all := lw_g (lw_at lw_m1 116 rfl) rfl
theorem q188 : (Jvm.Cond.classLink "MazeBonds" (68 : Nat) "java/lang/StringBuilder") ∈ lw_all := lw_g (lw_at lw_m1 117 rfl) rfl
theorem q190 : (Jvm.Cond.methodLink "MazeBonds" (70 : Nat) ({ cls := "java/lang/StringBuilder", name := "<init>", desc := "()V" } : Jvm.MethodName)) ∈ lw_all := lw_g (lw_at lw_m1 119 rfl) rfl
theorem q222 : (Jvm.Cond.fieldLink "MazeBonds" (49 : Nat) "MazeBonds" "core" "LMazeBonds$Core;") ∈ lw_all := lw_g (lw_at lw_m1 151 rfl) rfl
theorem q223 : (Jvm.Cond.fieldLink "MazeBonds" (56 : Nat) "MazeBonds" "before" "Ljava/util/ArrayList;") ∈ lw_all := lw_g (lw_at lw_m1 152 rfl) rfl
theorem q224 : (Jvm.Cond.fieldLink "MazeBonds" (377 : Nat) "MazeBonds" "saved" "LMazeBonds$Core;") ∈ lw_all := lw_g (lw_at lw_m1 153 rfl) rfl
theorem q225 : (Jvm.Cond.fieldLink "MazeBonds" (75 : Nat) "MazeBonds" "latest" "LMazeBonds$RefusedException;") ∈ lw_all := lw_g (lw_at lw_m1 154 rfl) rfl
theorem q227 : (Jvm.Cond.fieldLink "MazeBonds" (60 : Nat) "MazeBonds" "text" "[C") ∈ lw_all := lw_g (lw_at lw_m1 156 rfl) rfl
theorem q229 : (Jvm.Cond.fieldLink "MazeBonds" (268 : Nat) "MazeBonds" "textLength" "I") ∈ lw_all := lw_g (lw_at lw_m1 158 rfl) rfl
theorem q230 : (Jvm.Cond.fieldLink "MazeBonds" (64 : Nat) "MazeBonds" "fault" "I") ∈ lw_all := lw_g (lw_at lw_m1 159 rfl) rfl
theorem q231 : (Jvm.Cond.fieldLink "MazeBonds" (71 : Nat) "MazeBonds" "written" "Ljava/lang/StringBuilder;") ∈ lw_all := lw_g (lw_at lw_m1 160 rfl) rfl
theorem q232 : (Jvm.Cond.lays "MazeBonds" "MazeBonds" "core" "LMazeBonds$Core;") ∈ lw_all := lw_g (lw_at lw_m1 161 rfl) rfl
theorem q233 : (Jvm.Cond.soleField "MazeBonds" "core") ∈ lw_all := lw_g (lw_at lw_m1 162 rfl) rfl
theorem q234 : (Jvm.Cond.laysFinal "MazeBonds" "MazeBonds" "before" "Ljava/util/ArrayList;") ∈ lw_all := lw_g (lw_at lw_m1 163 rfl) rfl
theorem q235 : (Jvm.Cond.soleField "MazeBonds" "before") ∈ lw_all := lw_g (lw_at lw_m1 164 rfl) rfl
theorem q236 : (Jvm.Cond.lays "MazeBonds" "MazeBonds" "saved" "LMazeBonds$Core;") ∈ lw_all := lw_g (lw_at lw_m1 165 rfl) rfl
theorem q237 : (Jvm.Cond.soleField "MazeBonds" "saved") ∈ lw_all := lw_g (lw_at lw_m1 166 rfl) rfl
theorem q238 : (Jvm.Cond.lays "MazeBonds" "MazeBonds" "latest" "LMazeBonds$RefusedException;") ∈ lw_all := lw_g (lw_at lw_m1 167 rfl) rfl
theorem q239 : (Jvm.Cond.soleField "MazeBonds" "latest") ∈ lw_all := lw_g (lw_at lw_m1 168 rfl) rfl
theorem q240 : (Jvm.Cond.laysFinal "MazeBonds" "MazeBonds" "text" "[C") ∈ lw_all := lw_g (lw_at lw_m1 169 rfl) rfl
theorem q241 : (Jvm.Cond.soleField "MazeBonds" "text") ∈ lw_all := lw_g (lw_at lw_m1 170 rfl) rfl
theorem q242 : (Jvm.Cond.lays "MazeBonds" "MazeBonds" "textLength" "I") ∈ lw_all := lw_g (lw_at lw_m1 171 rfl) rfl
theorem q243 : (Jvm.Cond.soleField "MazeBonds" "textLength") ∈ lw_all := lw_g (lw_at lw_m1 172 rfl) rfl
theorem q244 : (Jvm.Cond.lays "MazeBonds" "MazeBonds" "fault" "I") ∈ lw_all := lw_g (lw_at lw_m1 173 rfl) rfl
theorem q245 : (Jvm.Cond.soleField "MazeBonds" "fault") ∈ lw_all := lw_g (lw_at lw_m1 174 rfl) rfl
theorem q246 : (Jvm.Cond.laysFinal "MazeBonds" "MazeBonds" "written" "Ljava/lang/StringBuilder;") ∈ lw_all := lw_g (lw_at lw_m1 175 rfl) rfl
theorem q247 : (Jvm.Cond.soleField "MazeBonds" "written") ∈ lw_all := lw_g (lw_at lw_m1 176 rfl) rfl
theorem q248 : (Jvm.Cond.superclass "MazeBonds" "java/lang/Object") ∈ lw_all := lw_g (lw_at lw_m1 177 rfl) rfl
theorem q250 : (Jvm.Cond.instanceMethod ({ cls := "MazeBonds", name := "summer", desc := "()I" } : Jvm.MethodName)) ∈ lw_all := lw_g (lw_at lw_m1 179 rfl) rfl
theorem q251 : (Jvm.Cond.selects "MazeBonds" ({ cls := "MazeBonds", name := "summer", desc := "()I" } : Jvm.MethodName) ({ cls := "MazeBonds", name := "summer", desc := "()I" } : Jvm.MethodName)) ∈ lw_all := lw_g (lw_at lw_m1 180 rfl) rfl
theorem q252 : (Jvm.Cond.code ({ cls := "MazeBonds", name := "summer", desc := "()I" } : Jvm.MethodName) prog_1_method_17_code (2 : Nat) (Option.some Jvm.ClassFile.FieldType.int)) ∈ lw_all := lw_g (lw_at lw_m1 181 rfl) rfl
theorem q253 : (Jvm.Cond.methodLink "MazeBonds" (94 : Nat) ({ cls := "MazeBonds$Core", name := "copy", desc := "()LMazeBonds$Core;" } : Jvm.MethodName)) ∈ lw_all := lw_g (lw_at lw_m1 182 rfl) rfl
theorem q404 : (Jvm.Cond.fieldLinkNest "MazeBonds" (215 : Nat) "MazeBonds$Gardener" "premiums" "I" "MazeBonds") ∈ lw_tbl := lw_at lw_m2 93 rfl
theorem q407 : (Jvm.Cond.fieldLinkNest "MazeBonds" (218 : Nat) "MazeBonds$Gardener" "paid" "I" "MazeBonds") ∈ lw_tbl := lw_at lw_m2 96 rfl
theorem q410 : (Jvm.Cond.fieldLinkNest "MazeBonds" (221 : Nat) "MazeBonds$Gardener" "trimmed" "I" "MazeBonds") ∈ lw_tbl := lw_at lw_m2 99 rfl
theorem q453 : (Jvm.Cond.selects "MazeBonds" ({ cls := "java/lang/Object", name := "getClass", desc := "()Ljava/lang/Class;" } : Jvm.MethodName) ({ cls := "java/lang/Object", name := "getClass", desc := "()Ljava/lang/Class;" } : Jvm.MethodName)) ∈ lw_all := lw_g (lw_at lw_m2 142 rfl) rfl
theorem q503 : (Jvm.Cond.fieldLinkNest "MazeBonds" (234 : Nat) "MazeBonds$Visitor" "allowance" "I" "MazeBonds") ∈ lw_tbl := lw_at lw_m2 192 rfl
theorem q506 : (Jvm.Cond.fieldLinkNest "MazeBonds" (229 : Nat) "MazeBonds$Visitor" "cell" "I" "MazeBonds") ∈ lw_tbl := lw_at lw_m2 195 rfl
theorem q509 : (Jvm.Cond.fieldLinkNest "MazeBonds" (232 : Nat) "MazeBonds$Visitor" "hours" "I" "MazeBonds") ∈ lw_tbl := lw_at lw_m2 198 rfl
theorem q512 : (Jvm.Cond.fieldLinkNest "MazeBonds" (240 : Nat) "MazeBonds$Visitor" "gardener" "I" "MazeBonds") ∈ lw_tbl := lw_at lw_m2 201 rfl
theorem q515 : (Jvm.Cond.fieldLinkNest "MazeBonds" (242 : Nat) "MazeBonds$Visitor" "rate" "I" "MazeBonds") ∈ lw_tbl := lw_at lw_m2 204 rfl
theorem q518 : (Jvm.Cond.fieldLinkNest "MazeBonds" (245 : Nat) "MazeBonds$Visitor" "isVoid" "Z" "MazeBonds") ∈ lw_tbl := lw_at lw_m2 207 rfl
theorem q533 : (Jvm.Cond.methodLink "MazeBonds" (110 : Nat) ({ cls := "MazeBonds$Core", name := "summer", desc := "()I" } : Jvm.MethodName)) ∈ lw_all := lw_g (lw_at lw_m2 222 rfl) rfl
theorem q542 : (Jvm.Cond.methodLink "MazeBonds" (102 : Nat) ({ cls := "MazeBonds", name := "come", desc := "(LMazeBonds$Core;I)I" } : Jvm.MethodName)) ∈ lw_all := lw_g (lw_at lw_m2 231 rfl) rfl
theorem q543 : (Jvm.Cond.privateMethod ({ cls := "MazeBonds", name := "come", desc := "(LMazeBonds$Core;I)I" } : Jvm.MethodName)) ∈ lw_tbl := lw_at lw_m2 232 rfl
theorem q544 : (Jvm.Cond.instanceMethod ({ cls := "MazeBonds", name := "come", desc := "(LMazeBonds$Core;I)I" } : Jvm.MethodName)) ∈ lw_all := lw_g (lw_at lw_m2 233 rfl) rfl
theorem q545 : (Jvm.Cond.code ({ cls := "MazeBonds", name := "come", desc := "(LMazeBonds$Core;I)I" } : Jvm.MethodName) prog_1_method_15_code (3 : Nat) (Option.some Jvm.ClassFile.FieldType.int)) ∈ lw_all := lw_g (lw_at lw_m2 234 rfl) rfl
theorem q546 : (Jvm.Cond.methodLink "MazeBonds" (82 : Nat) ({ cls := "java/util/ArrayList", name := "size", desc := "()I" } : Jvm.MethodName)) ∈ lw_all := lw_g (lw_at lw_m2 235 rfl) rfl
theorem q550 : (Jvm.Cond.methodLink "MazeBonds" (86 : Nat) ({ cls := "java/util/ArrayList", name := "remove", desc := "(I)Ljava/lang/Object;" } : Jvm.MethodName)) ∈ lw_all := lw_g (lw_at lw_m2 239 rfl) rfl
theorem q565 : (Jvm.Cond.methodLink "MazeBonds" (90 : Nat) ({ cls := "java/util/ArrayList", name := "add", desc := "(Ljava/lang/Object;)Z" } : Jvm.MethodName)) ∈ lw_all := lw_g (lw_at lw_m3 14 rfl) rfl
theorem q567 : (Jvm.Cond.instanceMethod ({ cls := "MazeBonds", name := "summersLeft", desc := "()I" } : Jvm.MethodName)) ∈ lw_all := lw_g (lw_at lw_m3 16 rfl) rfl
theorem q568 : (Jvm.Cond.selects "MazeBonds" ({ cls := "MazeBonds", name := "summersLeft", desc := "()I" } : Jvm.MethodName) ({ cls := "MazeBonds", name := "summersLeft", desc := "()I" } : Jvm.MethodName)) ∈ lw_all := lw_g (lw_at lw_m3 17 rfl) rfl
theorem q569 : (Jvm.Cond.code ({ cls := "MazeBonds", name := "summersLeft", desc := "()I" } : Jvm.MethodName) prog_1_method_37_code (3 : Nat) (Option.some Jvm.ClassFile.FieldType.int)) ∈ lw_all := lw_g (lw_at lw_m3 18 rfl) rfl
theorem q570 : (Jvm.Cond.methodLink "MazeBonds" (178 : Nat) ({ cls := "MazeBonds$Core", name := "hasWay", desc := "()Z" } : Jvm.MethodName)) ∈ lw_all := lw_g (lw_at lw_m3 19 rfl) rfl
theorem q591 : (Jvm.Cond.static ({ cls := "MazeBonds", name := "neighbour", desc := "(II)I" } : Jvm.MethodName)) ∈ lw_all := lw_g (lw_at lw_m3 40 rfl) rfl
theorem q592 : (Jvm.Cond.code ({ cls := "MazeBonds", name := "neighbour", desc := "(II)I" } : Jvm.MethodName) prog_1_method_11_code (2 : Nat) (Option.some Jvm.ClassFile.FieldType.int)) ∈ lw_all := lw_g (lw_at lw_m3 41 rfl) rfl
theorem q598 : (Jvm.Cond.static ({ cls := "MazeBonds", name := "hedgeOf", desc := "(II)I" } : Jvm.MethodName)) ∈ lw_all := lw_g (lw_at lw_m3 47 rfl) rfl
theorem q599 : (Jvm.Cond.code ({ cls := "MazeBonds", name := "hedgeOf", desc := "(II)I" } : Jvm.MethodName) prog_1_method_12_code (4 : Nat) (Option.some Jvm.ClassFile.FieldType.int)) ∈ lw_all := lw_g (lw_at lw_m3 48 rfl) rfl
theorem q600 : (Jvm.Cond.methodLink "MazeBonds" (34 : Nat) ({ cls := "java/lang/Math", name := "min", desc := "(II)I" } : Jvm.MethodName)) ∈ lw_all := lw_g (lw_at lw_m3 49 rfl) rfl
theorem q601 : (Jvm.Cond.methodLink "MazeBonds" (40 : Nat) ({ cls := "java/lang/Math", name := "max", desc := "(II)I" } : Jvm.MethodName)) ∈ lw_all := lw_g (lw_at lw_m3 50 rfl) rfl
theorem q603 : (Jvm.Cond.instanceMethod ({ cls := "MazeBonds", name := "faultPosition", desc := "()I" } : Jvm.MethodName)) ∈ lw_all := lw_g (lw_at lw_m3 52 rfl) rfl
theorem q604 : (Jvm.Cond.selects "MazeBonds" ({ cls := "MazeBonds", name := "faultPosition", desc := "()I" } : Jvm.MethodName) ({ cls := "MazeBonds", name := "faultPosition", desc := "()I" } : Jvm.MethodName)) ∈ lw_all := lw_g (lw_at lw_m3 53 rfl) rfl
theorem q605 : (Jvm.Cond.code ({ cls := "MazeBonds", name := "faultPosition", desc := "()I" } : Jvm.MethodName) prog_1_method_50_code (1 : Nat) (Option.some Jvm.ClassFile.FieldType.int)) ∈ lw_all := lw_g (lw_at lw_m3 54 rfl) rfl
theorem q607 : (Jvm.Cond.instanceMethod ({ cls := "MazeBonds", name := "gapShare", desc := "()F" } : Jvm.MethodName)) ∈ lw_all := lw_g (lw_at lw_m3 56 rfl) rfl
theorem q608 : (Jvm.Cond.selects "MazeBonds" ({ cls := "MazeBonds", name := "gapShare", desc := "()F" } : Jvm.MethodName) ({ cls := "MazeBonds", name := "gapShare", desc := "()F" } : Jvm.MethodName)) ∈ lw_all := lw_g (lw_at lw_m3 57 rfl) rfl
theorem q609 : (Jvm.Cond.code ({ cls := "MazeBonds", name := "gapShare", desc := "()F" } : Jvm.MethodName) prog_1_method_56_code (1 : Nat) (Option.some Jvm.ClassFile.FieldType.float)) ∈ lw_all := lw_g (lw_at lw_m3 58 rfl) rfl
theorem q610 : (Jvm.Cond.methodLink "MazeBonds" (345 : Nat) ({ cls := "MazeBonds$Core", name := "gaps", desc := "()I" } : Jvm.MethodName)) ∈ lw_all := lw_g (lw_at lw_m3 59 rfl) rfl
theorem q611 : (Jvm.Cond.constantFloat "MazeBonds" (348 : Nat) (1103101952 : UInt32)) ∈ lw_all := lw_g (lw_at lw_m3 60 rfl) rfl
theorem q613 : (Jvm.Cond.instanceMethod ({ cls := "MazeBonds", name := "save", desc := "()I" } : Jvm.MethodName)) ∈ lw_all := lw_g (lw_at lw_m3 62 rfl) rfl
theorem q614 : (Jvm.Cond.selects "MazeBonds" ({ cls := "MazeBonds", name := "save", desc := "()I" } : Jvm.MethodName) ({ cls := "MazeBonds", name := "save", desc := "()I" } : Jvm.MethodName)) ∈ lw_all := lw_g (lw_at lw_m3 63 rfl) rfl
theorem q615 : (Jvm.Cond.code ({ cls := "MazeBonds", name := "save", desc := "()I" } : Jvm.MethodName) prog_1_method_61_code (1 : Nat) (Option.some Jvm.ClassFile.FieldType.int)) ∈ lw_all := lw_g (lw_at lw_m3 64 rfl) rfl
theorem q621 : (Jvm.Cond.instanceMethod ({ cls := "MazeBonds", name := "hedge", desc := "(III)I" } : Jvm.MethodName)) ∈ lw_all := lw_g (lw_at lw_m3 70 rfl) rfl
theorem q622 : (Jvm.Cond.selects "MazeBonds" ({ cls := "MazeBonds", name := "hedge", desc := "(III)I" } : Jvm.MethodName) ({ cls := "MazeBonds", name := "hedge", desc := "(III)I" } : Jvm.MethodName)) ∈ lw_all := lw_g (lw_at lw_m3 71 rfl) rfl
theorem q623 : (Jvm.Cond.codeWith ({ cls := "MazeBonds", name := "hedge", desc := "(III)I" } : Jvm.MethodName) prog_1_method_16_code (5 : Nat) (Option.some Jvm.ClassFile.FieldType.int) [((0 : Nat), (23 : Nat), (24 : Nat), (25 : Nat))]) ∈ lw_all := lw_g (lw_at lw_m3 72 rfl) rfl
theorem q624 : (Jvm.Cond.classLink "MazeBonds" (25 : Nat) "MazeBonds$RefusedException") ∈ lw_all := lw_g (lw_at lw_m3 73 rfl) rfl
theorem q625 : (Jvm.Cond.methodLink "MazeBonds" (98 : Nat) ({ cls := "MazeBonds$Core", name := "hedge", desc := "(III)I" } : Jvm.MethodName)) ∈ lw_all := lw_g (lw_at lw_m3 74 rfl) rfl
theorem q630 : (Jvm.Cond.static ({ cls := "MazeBonds", name := "areCells", desc := "([I)Z" } : Jvm.MethodName)) ∈ lw_all := lw_g (lw_at lw_m3 79 rfl) rfl
theorem q631 : (Jvm.Cond.code ({ cls := "MazeBonds", name := "areCells", desc := "([I)Z" } : Jvm.MethodName) prog_1_method_2_code (6 : Nat) (Option.some Jvm.ClassFile.FieldType.boolean)) ∈ lw_all := lw_g (lw_at lw_m3 80 rfl) rfl
theorem q632 : (Jvm.Cond.methodLink "MazeBonds" (3 : Nat) ({ cls := "MazeBonds", name := "isIn", desc := "(III)Z" } : Jvm.MethodName)) ∈ lw_all := lw_g (lw_at lw_m3 81 rfl) rfl
theorem q633 : (Jvm.Cond.static ({ cls := "MazeBonds", name := "isIn", desc := "(III)Z" } : Jvm.MethodName)) ∈ lw_all := lw_g (lw_at lw_m3 82 rfl) rfl
theorem q634 : (Jvm.Cond.code ({ cls := "MazeBonds", name := "isIn", desc := "(III)Z" } : Jvm.MethodName) prog_1_method_1_code (3 : Nat) (Option.some Jvm.ClassFile.FieldType.boolean)) ∈ lw_all := lw_g (lw_at lw_m3 83 rfl) rfl
theorem q637 : (Jvm.Cond.static ({ cls := "MazeBonds", name := "requireRange", desc := "(Z)V" } : Jvm.MethodName)) ∈ lw_all := lw_g (lw_at lw_m3 86 rfl) rfl
theorem q638 : (Jvm.Cond.code ({ cls := "MazeBonds", name := "requireRange", desc := "(Z)V" } : Jvm.MethodName) prog_1_method_10_code (1 : Nat) (Option.none : Option Jvm.ClassFile.FieldType)) ∈ lw_all := lw_g (lw_at lw_m3 87 rfl) rfl
theorem q639 : (Jvm.Cond.methodLink "MazeBonds" (30 : Nat) ({ cls := "MazeBonds", name := "refuse", desc := "(ZII)V" } : Jvm.MethodName)) ∈ lw_all := lw_g (lw_at lw_m3 88 rfl) rfl
theorem q640 : (Jvm.Cond.static ({ cls := "MazeBonds", name := "refuse", desc := "(ZII)V" } : Jvm.MethodName)) ∈ lw_all := lw_g (lw_at lw_m3 89 rfl) rfl
theorem q641 : (Jvm.Cond.code ({ cls := "MazeBonds", name := "refuse", desc := "(ZII)V" } : Jvm.MethodName) prog_1_method_9_code (3 : Nat) (Option.none : Option Jvm.ClassFile.FieldType)) ∈ lw_all := lw_g (lw_at lw_m3 90 rfl) rfl
theorem q650 : (Jvm.Cond.methodLink "MazeBonds" (27 : Nat) ({ cls := "MazeBonds$RefusedException", name := "<init>", desc := "(II)V" } : Jvm.MethodName)) ∈ lw_all := lw_g (lw_at lw_m3 99 rfl) rfl
theorem q664 : (Jvm.Cond.fieldLinkNest "MazeBonds" (288 : Nat) "MazeBonds$RefusedException" "reason" "I" "MazeBonds") ∈ lw_tbl := lw_at lw_m3 113 rfl
theorem q667 : (Jvm.Cond.fieldLinkNest "MazeBonds" (291 : Nat) "MazeBonds$RefusedException" "detail" "I" "MazeBonds") ∈ lw_tbl := lw_at lw_m3 116 rfl
theorem q669 : (Jvm.Cond.fieldLinkNest "MazeBonds" (294 : Nat) "MazeBonds$RefusedException" "command" "I" "MazeBonds") ∈ lw_tbl := lw_at lw_m3 118 rfl
theorem q684 : (Jvm.Cond.methodLink "MazeBonds" (106 : Nat) ({ cls := "MazeBonds", name := "keep", desc := "(LMazeBonds$RefusedException;)Ljava/lang/UnsupportedOperationException;" } : Jvm.MethodName)) ∈ lw_all := lw_g (lw_at lw_m3 133 rfl) rfl
theorem q685 : (Jvm.Cond.privateMethod ({ cls := "MazeBonds", name := "keep", desc := "(LMazeBonds$RefusedException;)Ljava/lang/UnsupportedOperationException;" } : Jvm.MethodName)) ∈ lw_tbl := lw_at lw_m3 134 rfl
theorem q686 : (Jvm.Cond.instanceMethod ({ cls := "MazeBonds", name := "keep", desc := "(LMazeBonds$RefusedException;)Ljava/lang/UnsupportedOperationException;" } : Jvm.MethodName)) ∈ lw_all := lw_g (lw_at lw_m3 135 rfl) rfl
theorem q687 : (Jvm.Cond.code ({ cls := "MazeBonds", name := "keep", desc := "(LMazeBonds$RefusedException;)Ljava/lang/UnsupportedOperationException;" } : Jvm.MethodName) prog_1_method_14_code (2 : Nat) (Option.some (Jvm.ClassFile.FieldType.object "java/lang/UnsupportedOperationException"))) ∈ lw_all := lw_g (lw_at lw_m3 136 rfl) rfl
theorem q688 : (Jvm.Cond.classLink "MazeBonds" (79 : Nat) "java/lang/UnsupportedOperationException") ∈ lw_all := lw_g (lw_at lw_m3 137 rfl) rfl
theorem q697 : (Jvm.Cond.methodLink "MazeBonds" (81 : Nat) ({ cls := "java/lang/UnsupportedOperationException", name := "<init>", desc := "()V" } : Jvm.MethodName)) ∈ lw_all := lw_g (lw_at lw_m3 146 rfl) rfl
theorem q707 : (Jvm.Cond.instanceMethod ({ cls := "MazeBonds", name := "trim", desc := "(III)I" } : Jvm.MethodName)) ∈ lw_all := lw_g (lw_at lw_m3 156 rfl) rfl
theorem q708 : (Jvm.Cond.selects "MazeBonds" ({ cls := "MazeBonds", name := "trim", desc := "(III)I" } : Jvm.MethodName) ({ cls := "MazeBonds", name := "trim", desc := "(III)I" } : Jvm.MethodName)) ∈ lw_all := lw_g (lw_at lw_m3 157 rfl) rfl
theorem q709 : (Jvm.Cond.codeWith ({ cls := "MazeBonds", name := "trim", desc := "(III)I" } : Jvm.MethodName) prog_1_method_18_code (5 : Nat) (Option.some Jvm.ClassFile.FieldType.int) [((0 : Nat), (23 : Nat), (24 : Nat), (25 : Nat))]) ∈ lw_all := lw_g (lw_at lw_m3 158 rfl) rfl
theorem q710 : (Jvm.Cond.methodLink "MazeBonds" (113 : Nat) ({ cls := "MazeBonds$Core", name := "trim", desc := "(III)I" } : Jvm.MethodName)) ∈ lw_all := lw_g (lw_at lw_m3 159 rfl) rfl
theorem q743 : (Jvm.Cond.instanceMethod ({ cls := "MazeBonds", name := "minotaur", desc := "(I)I" } : Jvm.MethodName)) ∈ lw_all := lw_g (lw_at lw_m3 192 rfl) rfl
theorem q744 : (Jvm.Cond.selects "MazeBonds" ({ cls := "MazeBonds", name := "minotaur", desc := "(I)I" } : Jvm.MethodName) ({ cls := "MazeBonds", name := "minotaur", desc := "(I)I" } : Jvm.MethodName)) ∈ lw_all := lw_g (lw_at lw_m3 193 rfl) rfl
theorem q745 : (Jvm.Cond.codeWith ({ cls := "MazeBonds", name := "minotaur", desc := "(I)I" } : Jvm.MethodName) prog_1_method_19_code (3 : Nat) (Option.some Jvm.ClassFile.FieldType.int) [((0 : Nat), (18 : Nat), (19 : Nat), (25 : Nat))]) ∈ lw_all := lw_g (lw_at lw_m3 194 rfl) rfl
theorem q746 : (Jvm.Cond.methodLink "MazeBonds" (116 : Nat) ({ cls := "MazeBonds$Core", name := "minotaur", desc := "(I)I" } : Jvm.MethodName)) ∈ lw_all := lw_g (lw_at lw_m3 195 rfl) rfl
theorem q766 : (Jvm.Cond.instanceMethod ({ cls := "MazeBonds", name := "gardener", desc := "(I)I" } : Jvm.MethodName)) ∈ lw_all := lw_g (lw_at lw_m3 215 rfl) rfl
theorem q767 : (Jvm.Cond.selects "MazeBonds" ({ cls := "MazeBonds", name := "gardener", desc := "(I)I" } : Jvm.MethodName) ({ cls := "MazeBonds", name := "gardener", desc := "(I)I" } : Jvm.MethodName)) ∈ lw_all := lw_g (lw_at lw_m3 216 rfl) rfl
theorem q768 : (Jvm.Cond.codeWith ({ cls := "MazeBonds", name := "gardener", desc := "(I)I" } : Jvm.MethodName) prog_1_method_20_code (3 : Nat) (Option.some Jvm.ClassFile.FieldType.int) [((0 : Nat), (18 : Nat), (19 : Nat), (25 : Nat))]) ∈ lw_all := lw_g (lw_at lw_m3 217 rfl) rfl
theorem q769 : (Jvm.Cond.methodLink "MazeBonds" (120 : Nat) ({ cls := "MazeBonds$Core", name := "gardener", desc := "(I)I" } : Jvm.MethodName)) ∈ lw_all := lw_g (lw_at lw_m3 218 rfl) rfl
theorem q778 : (Jvm.Cond.instanceMethod ({ cls := "MazeBonds", name := "visitor", desc := "(I)I" } : Jvm.MethodName)) ∈ lw_all := lw_g (lw_at lw_m3 227 rfl) rfl
theorem q779 : (Jvm.Cond.selects "MazeBonds" ({ cls := "MazeBonds", name := "visitor", desc := "(I)I" } : Jvm.MethodName) ({ cls := "MazeBonds", name := "visitor", desc := "(I)I" } : Jvm.MethodName)) ∈ lw_all := lw_g (lw_at lw_m3 228 rfl) rfl
theorem q780 : (Jvm.Cond.codeWith ({ cls := "MazeBonds", name := "visitor", desc := "(I)I" } : Jvm.MethodName) prog_1_method_21_code (3 : Nat) (Option.some Jvm.ClassFile.FieldType.int) [((0 : Nat), (18 : Nat), (19 : Nat), (25 : Nat))]) ∈ lw_all := lw_g (lw_at lw_m3 229 rfl) rfl
theorem q781 : (Jvm.Cond.methodLink "MazeBonds" (123 : Nat) ({ cls := "MazeBonds$Core", name := "visitor", desc := "(I)I" } : Jvm.MethodName)) ∈ lw_all := lw_g (lw_at lw_m3 230 rfl) rfl
theorem q801 : (Jvm.Cond.instanceMethod ({ cls := "MazeBonds", name := "bond", desc := "(III)I" } : Jvm.MethodName)) ∈ lw_all := lw_g (lw_at lw_m4 10 rfl) rfl
theorem q802 : (Jvm.Cond.selects "MazeBonds" ({ cls := "MazeBonds", name := "bond", desc := "(III)I" } : Jvm.MethodName) ({ cls := "MazeBonds", name := "bond", desc := "(III)I" } : Jvm.MethodName)) ∈ lw_all := lw_g (lw_at lw_m4 11 rfl) rfl
theorem q803 : (Jvm.Cond.codeWith ({ cls := "MazeBonds", name := "bond", desc := "(III)I" } : Jvm.MethodName) prog_1_method_22_code (5 : Nat) (Option.some Jvm.ClassFile.FieldType.int) [((0 : Nat), (23 : Nat), (24 : Nat), (25 : Nat))]) ∈ lw_all := lw_g (lw_at lw_m4 12 rfl) rfl
theorem q804 : (Jvm.Cond.methodLink "MazeBonds" (126 : Nat) ({ cls := "MazeBonds$Core", name := "bond", desc := "(III)I" } : Jvm.MethodName)) ∈ lw_all := lw_g (lw_at lw_m4 13 rfl) rfl
theorem q831 : (Jvm.Cond.instanceMethod ({ cls := "MazeBonds", name := "walk", desc := "(II)I" } : Jvm.MethodName)) ∈ lw_all := lw_g (lw_at lw_m4 40 rfl) rfl
theorem q832 : (Jvm.Cond.selects "MazeBonds" ({ cls := "MazeBonds", name := "walk", desc := "(II)I" } : Jvm.MethodName) ({ cls := "MazeBonds", name := "walk", desc := "(II)I" } : Jvm.MethodName)) ∈ lw_all := lw_g (lw_at lw_m4 41 rfl) rfl
theorem q833 : (Jvm.Cond.codeWith ({ cls := "MazeBonds", name := "walk", desc := "(II)I" } : Jvm.MethodName) prog_1_method_23_code (4 : Nat) (Option.some Jvm.ClassFile.FieldType.int) [((0 : Nat), (19 : Nat), (20 : Nat), (25 : Nat))]) ∈ lw_all := lw_g (lw_at lw_m4 42 rfl) rfl
theorem q834 : (Jvm.Cond.methodLink "MazeBonds" (129 : Nat) ({ cls := "MazeBonds$Core", name := "walk", desc := "(II)I" } : Jvm.MethodName)) ∈ lw_all := lw_g (lw_at lw_m4 43 rfl) rfl
theorem q869 : (Jvm.Cond.instanceMethod ({ cls := "MazeBonds", name := "rest", desc := "(II)I" } : Jvm.MethodName)) ∈ lw_all := lw_g (lw_at lw_m4 78 rfl) rfl
theorem q870 : (Jvm.Cond.selects "MazeBonds" ({ cls := "MazeBonds", name := "rest", desc := "(II)I" } : Jvm.MethodName) ({ cls := "MazeBonds", name := "rest", desc := "(II)I" } : Jvm.MethodName)) ∈ lw_all := lw_g (lw_at lw_m4 79 rfl) rfl
theorem q871 : (Jvm.Cond.codeWith ({ cls := "MazeBonds", name := "rest", desc := "(II)I" } : Jvm.MethodName) prog_1_method_24_code (4 : Nat) (Option.some Jvm.ClassFile.FieldType.int) [((0 : Nat), (19 : Nat), (20 : Nat), (25 : Nat))]) ∈ lw_all := lw_g (lw_at lw_m4 80 rfl) rfl
theorem q872 : (Jvm.Cond.methodLink "MazeBonds" (132 : Nat) ({ cls := "MazeBonds$Core", name := "rest", desc := "(II)I" } : Jvm.MethodName)) ∈ lw_all := lw_g (lw_at lw_m4 81 rfl) rfl
theorem q913 : (Jvm.Cond.instanceMethod ({ cls := "MazeBonds", name := "leaves", desc := "(II)I" } : Jvm.MethodName)) ∈ lw_all := lw_g (lw_at lw_m4 122 rfl) rfl
theorem q914 : (Jvm.Cond.selects "MazeBonds" ({ cls := "MazeBonds", name := "leaves", desc := "(II)I" } : Jvm.MethodName) ({ cls := "MazeBonds", name := "leaves", desc := "(II)I" } : Jvm.MethodName)) ∈ lw_all := lw_g (lw_at lw_m4 123 rfl) rfl
theorem q915 : (Jvm.Cond.code ({ cls := "MazeBonds", name := "leaves", desc := "(II)I" } : Jvm.MethodName) prog_1_method_27_code (3 : Nat) (Option.some Jvm.ClassFile.FieldType.int)) ∈ lw_all := lw_g (lw_at lw_m4 124 rfl) rfl
theorem q916 : (Jvm.Cond.methodLink "MazeBonds" (157 : Nat) ({ cls := "MazeBonds", name := "getHedge", desc := "(II)I" } : Jvm.MethodName)) ∈ lw_all := lw_g (lw_at lw_m4 125 rfl) rfl
theorem q917 : (Jvm.Cond.privateMethod ({ cls := "MazeBonds", name := "getHedge", desc := "(II)I" } : Jvm.MethodName)) ∈ lw_tbl := lw_at lw_m4 126 rfl
theorem q918 : (Jvm.Cond.instanceMethod ({ cls := "MazeBonds", name := "getHedge", desc := "(II)I" } : Jvm.MethodName)) ∈ lw_all := lw_g (lw_at lw_m4 127 rfl) rfl
theorem q919 : (Jvm.Cond.code ({ cls := "MazeBonds", name := "getHedge", desc := "(II)I" } : Jvm.MethodName) prog_1_method_26_code (4 : Nat) (Option.some Jvm.ClassFile.FieldType.int)) ∈ lw_all := lw_g (lw_at lw_m4 128 rfl) rfl
theorem q920 : (Jvm.Cond.methodLink "MazeBonds" (143 : Nat) ({ cls := "MazeBonds", name := "requireCells", desc := "([I)V" } : Jvm.MethodName)) ∈ lw_all := lw_g (lw_at lw_m4 129 rfl) rfl
theorem q921 : (Jvm.Cond.static ({ cls := "MazeBonds", name := "requireCells", desc := "([I)V" } : Jvm.MethodName)) ∈ lw_all := lw_g (lw_at lw_m4 130 rfl) rfl
theorem q922 : (Jvm.Cond.code ({ cls := "MazeBonds", name := "requireCells", desc := "([I)V" } : Jvm.MethodName) prog_1_method_25_code (1 : Nat) (Option.none : Option Jvm.ClassFile.FieldType)) ∈ lw_all := lw_g (lw_at lw_m4 131 rfl) rfl
theorem q923 : (Jvm.Cond.methodLink "MazeBonds" (135 : Nat) ({ cls := "MazeBonds", name := "areCells", desc := "([I)Z" } : Jvm.MethodName)) ∈ lw_all := lw_g (lw_at lw_m4 132 rfl) rfl
theorem q924 : (Jvm.Cond.methodLink "MazeBonds" (139 : Nat) ({ cls := "MazeBonds", name := "requireIndex", desc := "(Z)V" } : Jvm.MethodName)) ∈ lw_all := lw_g (lw_at lw_m4 133 rfl) rfl
theorem q925 : (Jvm.Cond.static ({ cls := "MazeBonds", name := "requireIndex", desc := "(Z)V" } : Jvm.MethodName)) ∈ lw_all := lw_g (lw_at lw_m4 134 rfl) rfl
theorem q926 : (Jvm.Cond.code ({ cls := "MazeBonds", name := "requireIndex", desc := "(Z)V" } : Jvm.MethodName) prog_1_method_4_code (1 : Nat) (Option.none : Option Jvm.ClassFile.FieldType)) ∈ lw_all := lw_g (lw_at lw_m4 135 rfl) rfl
theorem q927 : (Jvm.Cond.classLink "MazeBonds" (7 : Nat) "java/lang/IndexOutOfBoundsException") ∈ lw_all := lw_g (lw_at lw_m4 136 rfl) rfl
theorem q936 : (Jvm.Cond.methodLink "MazeBonds" (9 : Nat) ({ cls := "java/lang/IndexOutOfBoundsException", name := "<init>", desc := "()V" } : Jvm.MethodName)) ∈ lw_all := lw_g (lw_at lw_m4 145 rfl) rfl
theorem q942 : (Jvm.Cond.methodLink "MazeBonds" (147 : Nat) ({ cls := "MazeBonds", name := "hedgeOf", desc := "(II)I" } : Jvm.MethodName)) ∈ lw_all := lw_g (lw_at lw_m4 151 rfl) rfl
theorem q943 : (Jvm.Cond.methodLink "MazeBonds" (150 : Nat) ({ cls := "MazeBonds", name := "requireElement", desc := "(Z)V" } : Jvm.MethodName)) ∈ lw_all := lw_g (lw_at lw_m4 152 rfl) rfl
theorem q944 : (Jvm.Cond.static ({ cls := "MazeBonds", name := "requireElement", desc := "(Z)V" } : Jvm.MethodName)) ∈ lw_all := lw_g (lw_at lw_m4 153 rfl) rfl
theorem q945 : (Jvm.Cond.code ({ cls := "MazeBonds", name := "requireElement", desc := "(Z)V" } : Jvm.MethodName) prog_1_method_7_code (1 : Nat) (Option.none : Option Jvm.ClassFile.FieldType)) ∈ lw_all := lw_g (lw_at lw_m4 154 rfl) rfl
theorem q946 : (Jvm.Cond.classLink "MazeBonds" (19 : Nat) "java/util/NoSuchElementException") ∈ lw_all := lw_g (lw_at lw_m4 155 rfl) rfl
theorem q947 : (Jvm.Cond.methodLink "MazeBonds" (21 : Nat) ({ cls := "java/util/NoSuchElementException", name := "<init>", desc := "()V" } : Jvm.MethodName)) ∈ lw_all := lw_g (lw_at lw_m4 156 rfl) rfl
theorem q952 : (Jvm.Cond.instanceMethod ({ cls := "MazeBonds", name := "isGap", desc := "(II)Z" } : Jvm.MethodName)) ∈ lw_all := lw_g (lw_at lw_m4 161 rfl) rfl
theorem q953 : (Jvm.Cond.selects "MazeBonds" ({ cls := "MazeBonds", name := "isGap", desc := "(II)Z" } : Jvm.MethodName) ({ cls := "MazeBonds", name := "isGap", desc := "(II)Z" } : Jvm.MethodName)) ∈ lw_all := lw_g (lw_at lw_m4 162 rfl) rfl
theorem q954 : (Jvm.Cond.code ({ cls := "MazeBonds", name := "isGap", desc := "(II)Z" } : Jvm.MethodName) prog_1_method_28_code (3 : Nat) (Option.some Jvm.ClassFile.FieldType.boolean)) ∈ lw_all := lw_g (lw_at lw_m4 163 rfl) rfl
theorem q955 : (Jvm.Cond.methodLink "MazeBonds" (160 : Nat) ({ cls := "MazeBonds$Core", name := "isGap", desc := "(II)Z" } : Jvm.MethodName)) ∈ lw_all := lw_g (lw_at lw_m4 164 rfl) rfl
theorem q960 : (Jvm.Cond.instanceMethod ({ cls := "MazeBonds", name := "hours", desc := "(II)I" } : Jvm.MethodName)) ∈ lw_all := lw_g (lw_at lw_m4 169 rfl) rfl
theorem q961 : (Jvm.Cond.selects "MazeBonds" ({ cls := "MazeBonds", name := "hours", desc := "(II)I" } : Jvm.MethodName) ({ cls := "MazeBonds", name := "hours", desc := "(II)I" } : Jvm.MethodName)) ∈ lw_all := lw_g (lw_at lw_m4 170 rfl) rfl
theorem q962 : (Jvm.Cond.code ({ cls := "MazeBonds", name := "hours", desc := "(II)I" } : Jvm.MethodName) prog_1_method_29_code (4 : Nat) (Option.some Jvm.ClassFile.FieldType.int)) ∈ lw_all := lw_g (lw_at lw_m4 171 rfl) rfl
theorem q963 : (Jvm.Cond.methodLink "MazeBonds" (164 : Nat) ({ cls := "MazeBonds$Core", name := "hours", desc := "(II)I" } : Jvm.MethodName)) ∈ lw_all := lw_g (lw_at lw_m4 172 rfl) rfl
theorem q968 : (Jvm.Cond.instanceMethod ({ cls := "MazeBonds", name := "hoursAgain", desc := "(II)I" } : Jvm.MethodName)) ∈ lw_all := lw_g (lw_at lw_m4 177 rfl) rfl
theorem q969 : (Jvm.Cond.selects "MazeBonds" ({ cls := "MazeBonds", name := "hoursAgain", desc := "(II)I" } : Jvm.MethodName) ({ cls := "MazeBonds", name := "hoursAgain", desc := "(II)I" } : Jvm.MethodName)) ∈ lw_all := lw_g (lw_at lw_m4 178 rfl) rfl
theorem q970 : (Jvm.Cond.code ({ cls := "MazeBonds", name := "hoursAgain", desc := "(II)I" } : Jvm.MethodName) prog_1_method_30_code (4 : Nat) (Option.some Jvm.ClassFile.FieldType.int)) ∈ lw_all := lw_g (lw_at lw_m4 179 rfl) rfl
theorem q971 : (Jvm.Cond.methodLink "MazeBonds" (167 : Nat) ({ cls := "MazeBonds$Core", name := "relaxed", desc := "(III)[I" } : Jvm.MethodName)) ∈ lw_all := lw_g (lw_at lw_m4 180 rfl) rfl
theorem q983 : (Jvm.Cond.instanceMethod ({ cls := "MazeBonds", name := "next", desc := "(I)I" } : Jvm.MethodName)) ∈ lw_all := lw_g (lw_at lw_m4 192 rfl) rfl
theorem q984 : (Jvm.Cond.selects "MazeBonds" ({ cls := "MazeBonds", name := "next", desc := "(I)I" } : Jvm.MethodName) ({ cls := "MazeBonds", name := "next", desc := "(I)I" } : Jvm.MethodName)) ∈ lw_all := lw_g (lw_at lw_m4 193 rfl) rfl
theorem q985 : (Jvm.Cond.code ({ cls := "MazeBonds", name := "next", desc := "(I)I" } : Jvm.MethodName) prog_1_method_31_code (4 : Nat) (Option.some Jvm.ClassFile.FieldType.int)) ∈ lw_all := lw_g (lw_at lw_m4 194 rfl) rfl
theorem q986 : (Jvm.Cond.methodLink "MazeBonds" (171 : Nat) ({ cls := "MazeBonds$Core", name := "distances", desc := "(IZ)[I" } : Jvm.MethodName)) ∈ lw_all := lw_g (lw_at lw_m4 195 rfl) rfl
theorem q991 : (Jvm.Cond.instanceMethod ({ cls := "MazeBonds", name := "reached", desc := "(I)I" } : Jvm.MethodName)) ∈ lw_all := lw_g (lw_at lw_m4 200 rfl) rfl
theorem q992 : (Jvm.Cond.selects "MazeBonds" ({ cls := "MazeBonds", name := "reached", desc := "(I)I" } : Jvm.MethodName) ({ cls := "MazeBonds", name := "reached", desc := "(I)I" } : Jvm.MethodName)) ∈ lw_all := lw_g (lw_at lw_m4 201 rfl) rfl
theorem q993 : (Jvm.Cond.code ({ cls := "MazeBonds", name := "reached", desc := "(I)I" } : Jvm.MethodName) prog_1_method_32_code (2 : Nat) (Option.some Jvm.ClassFile.FieldType.int)) ∈ lw_all := lw_g (lw_at lw_m4 202 rfl) rfl
theorem q994 : (Jvm.Cond.methodLink "MazeBonds" (175 : Nat) ({ cls := "MazeBonds$Core", name := "reached", desc := "(I)I" } : Jvm.MethodName)) ∈ lw_all := lw_g (lw_at lw_m4 203 rfl) rfl
theorem q999 : (Jvm.Cond.instanceMethod ({ cls := "MazeBonds", name := "trims", desc := "(I)I" } : Jvm.MethodName)) ∈ lw_all := lw_g (lw_at lw_m4 208 rfl) rfl
theorem q1000 : (Jvm.Cond.selects "MazeBonds" ({ cls := "MazeBonds", name := "trims", desc := "(I)I" } : Jvm.MethodName) ({ cls := "MazeBonds", name := "trims", desc := "(I)I" } : Jvm.MethodName)) ∈ lw_all := lw_g (lw_at lw_m4 209 rfl) rfl
theorem q1001 : (Jvm.Cond.code ({ cls := "MazeBonds", name := "trims", desc := "(I)I" } : Jvm.MethodName) prog_1_method_33_code (2 : Nat) (Option.some Jvm.ClassFile.FieldType.int)) ∈ lw_all := lw_g (lw_at lw_m4 210 rfl) rfl
theorem q1006 : (Jvm.Cond.instanceMethod ({ cls := "MazeBonds", name := "trimsAgain", desc := "(I)I" } : Jvm.MethodName)) ∈ lw_all := lw_g (lw_at lw_m4 215 rfl) rfl
theorem q1007 : (Jvm.Cond.selects "MazeBonds" ({ cls := "MazeBonds", name := "trimsAgain", desc := "(I)I" } : Jvm.MethodName) ({ cls := "MazeBonds", name := "trimsAgain", desc := "(I)I" } : Jvm.MethodName)) ∈ lw_all := lw_g (lw_at lw_m4 216 rfl) rfl
theorem q1008 : (Jvm.Cond.code ({ cls := "MazeBonds", name := "trimsAgain", desc := "(I)I" } : Jvm.MethodName) prog_1_method_34_code (2 : Nat) (Option.some Jvm.ClassFile.FieldType.int)) ∈ lw_all := lw_g (lw_at lw_m4 217 rfl) rfl
theorem q1013 : (Jvm.Cond.instanceMethod ({ cls := "MazeBonds", name := "isNeeded", desc := "(II)Z" } : Jvm.MethodName)) ∈ lw_all := lw_g (lw_at lw_m4 222 rfl) rfl
theorem q1014 : (Jvm.Cond.selects "MazeBonds" ({ cls := "MazeBonds", name := "isNeeded", desc := "(II)Z" } : Jvm.MethodName) ({ cls := "MazeBonds", name := "isNeeded", desc := "(II)Z" } : Jvm.MethodName)) ∈ lw_all := lw_g (lw_at lw_m4 223 rfl) rfl
theorem q1015 : (Jvm.Cond.code ({ cls := "MazeBonds", name := "isNeeded", desc := "(II)Z" } : Jvm.MethodName) prog_1_method_35_code (5 : Nat) (Option.some Jvm.ClassFile.FieldType.boolean)) ∈ lw_all := lw_g (lw_at lw_m4 224 rfl) rfl
theorem q1020 : (Jvm.Cond.instanceMethod ({ cls := "MazeBonds", name := "closesIn", desc := "(II)I" } : Jvm.MethodName)) ∈ lw_all := lw_g (lw_at lw_m4 229 rfl) rfl
theorem q1021 : (Jvm.Cond.selects "MazeBonds" ({ cls := "MazeBonds", name := "closesIn", desc := "(II)I" } : Jvm.MethodName) ({ cls := "MazeBonds", name := "closesIn", desc := "(II)I" } : Jvm.MethodName)) ∈ lw_all := lw_g (lw_at lw_m4 230 rfl) rfl
theorem q1022 : (Jvm.Cond.code ({ cls := "MazeBonds", name := "closesIn", desc := "(II)I" } : Jvm.MethodName) prog_1_method_36_code (3 : Nat) (Option.some Jvm.ClassFile.FieldType.int)) ∈ lw_all := lw_g (lw_at lw_m4 231 rfl) rfl
theorem q1028 : (Jvm.Cond.instanceMethod ({ cls := "MazeBonds", name := "gardenerOf", desc := "(II)I" } : Jvm.MethodName)) ∈ lw_all := lw_g (lw_at lw_m4 237 rfl) rfl
theorem q1029 : (Jvm.Cond.selects "MazeBonds" ({ cls := "MazeBonds", name := "gardenerOf", desc := "(II)I" } : Jvm.MethodName) ({ cls := "MazeBonds", name := "gardenerOf", desc := "(II)I" } : Jvm.MethodName)) ∈ lw_all := lw_g (lw_at lw_m4 238 rfl) rfl
theorem q1030 : (Jvm.Cond.code ({ cls := "MazeBonds", name := "gardenerOf", desc := "(II)I" } : Jvm.MethodName) prog_1_method_40_code (4 : Nat) (Option.some Jvm.ClassFile.FieldType.int)) ∈ lw_all := lw_g (lw_at lw_m4 239 rfl) rfl
theorem q1031 : (Jvm.Cond.methodLink "MazeBonds" (202 : Nat) ({ cls := "MazeBonds", name := "getGardener", desc := "(I)LMazeBonds$Gardener;" } : Jvm.MethodName)) ∈ lw_all := lw_g (lw_at lw_m5 0 rfl) rfl
theorem q1032 : (Jvm.Cond.privateMethod ({ cls := "MazeBonds", name := "getGardener", desc := "(I)LMazeBonds$Gardener;" } : Jvm.MethodName)) ∈ lw_tbl := lw_at lw_m5 1 rfl
theorem q1033 : (Jvm.Cond.instanceMethod ({ cls := "MazeBonds", name := "getGardener", desc := "(I)LMazeBonds$Gardener;" } : Jvm.MethodName)) ∈ lw_all := lw_g (lw_at lw_m5 2 rfl) rfl
theorem q1034 : (Jvm.Cond.code ({ cls := "MazeBonds", name := "getGardener", desc := "(I)LMazeBonds$Gardener;" } : Jvm.MethodName) prog_1_method_38_code (2 : Nat) (Option.some (Jvm.ClassFile.FieldType.object "MazeBonds$Gardener"))) ∈ lw_all := lw_g (lw_at lw_m5 3 rfl) rfl
theorem q1035 : (Jvm.Cond.methodLink "MazeBonds" (182 : Nat) ({ cls := "MazeBonds$Core", name := "isGardener", desc := "(I)Z" } : Jvm.MethodName)) ∈ lw_all := lw_g (lw_at lw_m5 4 rfl) rfl
theorem q1036 : (Jvm.Cond.methodLink "MazeBonds" (189 : Nat) ({ cls := "java/util/ArrayList", name := "get", desc := "(I)Ljava/lang/Object;" } : Jvm.MethodName)) ∈ lw_all := lw_g (lw_at lw_m5 5 rfl) rfl
theorem q1037 : (Jvm.Cond.classLink "MazeBonds" (192 : Nat) "MazeBonds$Gardener") ∈ lw_all := lw_g (lw_at lw_m5 6 rfl) rfl
theorem q1038 : (Jvm.Cond.methodLink "MazeBonds" (206 : Nat) ({ cls := "MazeBonds", name := "requireArgument", desc := "(Z)V" } : Jvm.MethodName)) ∈ lw_all := lw_g (lw_at lw_m5 7 rfl) rfl
theorem q1039 : (Jvm.Cond.static ({ cls := "MazeBonds", name := "requireArgument", desc := "(Z)V" } : Jvm.MethodName)) ∈ lw_all := lw_g (lw_at lw_m5 8 rfl) rfl
theorem q1040 : (Jvm.Cond.code ({ cls := "MazeBonds", name := "requireArgument", desc := "(Z)V" } : Jvm.MethodName) prog_1_method_5_code (1 : Nat) (Option.none : Option Jvm.ClassFile.FieldType)) ∈ lw_all := lw_g (lw_at lw_m5 9 rfl) rfl
theorem q1041 : (Jvm.Cond.classLink "MazeBonds" (13 : Nat) "java/lang/IllegalArgumentException") ∈ lw_all := lw_g (lw_at lw_m5 10 rfl) rfl
theorem q1050 : (Jvm.Cond.methodLink "MazeBonds" (15 : Nat) ({ cls := "java/lang/IllegalArgumentException", name := "<init>", desc := "()V" } : Jvm.MethodName)) ∈ lw_all := lw_g (lw_at lw_m5 19 rfl) rfl
theorem q1056 : (Jvm.Cond.methodLink "MazeBonds" (209 : Nat) ({ cls := "MazeBonds$Gardener", name := "coins", desc := "()I" } : Jvm.MethodName)) ∈ lw_all := lw_g (lw_at lw_m5 25 rfl) rfl
theorem q1057 : (Jvm.Cond.methodLink "MazeBonds" (212 : Nat) ({ cls := "MazeBonds$Core", name := "bondsOf", desc := "(I)I" } : Jvm.MethodName)) ∈ lw_all := lw_g (lw_at lw_m5 26 rfl) rfl
theorem q1065 : (Jvm.Cond.instanceMethod ({ cls := "MazeBonds", name := "visitorOf", desc := "(II)I" } : Jvm.MethodName)) ∈ lw_all := lw_g (lw_at lw_m5 34 rfl) rfl
theorem q1066 : (Jvm.Cond.selects "MazeBonds" ({ cls := "MazeBonds", name := "visitorOf", desc := "(II)I" } : Jvm.MethodName) ({ cls := "MazeBonds", name := "visitorOf", desc := "(II)I" } : Jvm.MethodName)) ∈ lw_all := lw_g (lw_at lw_m5 35 rfl) rfl
theorem q1067 : (Jvm.Cond.code ({ cls := "MazeBonds", name := "visitorOf", desc := "(II)I" } : Jvm.MethodName) prog_1_method_41_code (4 : Nat) (Option.some Jvm.ClassFile.FieldType.int)) ∈ lw_all := lw_g (lw_at lw_m5 36 rfl) rfl
theorem q1068 : (Jvm.Cond.methodLink "MazeBonds" (224 : Nat) ({ cls := "MazeBonds", name := "getVisitor", desc := "(I)LMazeBonds$Visitor;" } : Jvm.MethodName)) ∈ lw_all := lw_g (lw_at lw_m5 37 rfl) rfl
theorem q1069 : (Jvm.Cond.privateMethod ({ cls := "MazeBonds", name := "getVisitor", desc := "(I)LMazeBonds$Visitor;" } : Jvm.MethodName)) ∈ lw_tbl := lw_at lw_m5 38 rfl
theorem q1070 : (Jvm.Cond.instanceMethod ({ cls := "MazeBonds", name := "getVisitor", desc := "(I)LMazeBonds$Visitor;" } : Jvm.MethodName)) ∈ lw_all := lw_g (lw_at lw_m5 39 rfl) rfl
theorem q1071 : (Jvm.Cond.code ({ cls := "MazeBonds", name := "getVisitor", desc := "(I)LMazeBonds$Visitor;" } : Jvm.MethodName) prog_1_method_39_code (2 : Nat) (Option.some (Jvm.ClassFile.FieldType.object "MazeBonds$Visitor"))) ∈ lw_all := lw_g (lw_at lw_m5 40 rfl) rfl
theorem q1072 : (Jvm.Cond.methodLink "MazeBonds" (194 : Nat) ({ cls := "MazeBonds$Core", name := "isVisitor", desc := "(I)Z" } : Jvm.MethodName)) ∈ lw_all := lw_g (lw_at lw_m5 41 rfl) rfl
theorem q1073 : (Jvm.Cond.classLink "MazeBonds" (200 : Nat) "MazeBonds$Visitor") ∈ lw_all := lw_g (lw_at lw_m5 42 rfl) rfl
theorem q1074 : (Jvm.Cond.methodLink "MazeBonds" (228 : Nat) ({ cls := "MazeBonds$Visitor", name := "coins", desc := "()I" } : Jvm.MethodName)) ∈ lw_all := lw_g (lw_at lw_m5 43 rfl) rfl
theorem q1075 : (Jvm.Cond.methodLink "MazeBonds" (237 : Nat) ({ cls := "MazeBonds$Visitor", name := "lost", desc := "()I" } : Jvm.MethodName)) ∈ lw_all := lw_g (lw_at lw_m5 44 rfl) rfl
theorem q1079 : (Jvm.Cond.methodLink "MazeBonds" (249 : Nat) ({ cls := "MazeBonds$Visitor", name := "isOut", desc := "()Z" } : Jvm.MethodName)) ∈ lw_all := lw_g (lw_at lw_m5 48 rfl) rfl
theorem q1084 : (Jvm.Cond.instanceMethod ({ cls := "MazeBonds", name := "wouldPay", desc := "(I)I" } : Jvm.MethodName)) ∈ lw_all := lw_g (lw_at lw_m5 53 rfl) rfl
theorem q1085 : (Jvm.Cond.selects "MazeBonds" ({ cls := "MazeBonds", name := "wouldPay", desc := "(I)I" } : Jvm.MethodName) ({ cls := "MazeBonds", name := "wouldPay", desc := "(I)I" } : Jvm.MethodName)) ∈ lw_all := lw_g (lw_at lw_m5 54 rfl) rfl
theorem q1086 : (Jvm.Cond.code ({ cls := "MazeBonds", name := "wouldPay", desc := "(I)I" } : Jvm.MethodName) prog_1_method_42_code (4 : Nat) (Option.some Jvm.ClassFile.FieldType.int)) ∈ lw_all := lw_g (lw_at lw_m5 55 rfl) rfl
theorem q1087 : (Jvm.Cond.methodLink "MazeBonds" (252 : Nat) ({ cls := "MazeBonds$Visitor", name := "hasBond", desc := "()Z" } : Jvm.MethodName)) ∈ lw_all := lw_g (lw_at lw_m5 56 rfl) rfl
theorem q1088 : (Jvm.Cond.methodLink "MazeBonds" (255 : Nat) ({ cls := "MazeBonds$Visitor", name := "dueWith", desc := "(I)I" } : Jvm.MethodName)) ∈ lw_all := lw_g (lw_at lw_m5 57 rfl) rfl
theorem q1093 : (Jvm.Cond.instanceMethod ({ cls := "MazeBonds", name := "owed", desc := "(I)I" } : Jvm.MethodName)) ∈ lw_all := lw_g (lw_at lw_m5 62 rfl) rfl
theorem q1094 : (Jvm.Cond.selects "MazeBonds" ({ cls := "MazeBonds", name := "owed", desc := "(I)I" } : Jvm.MethodName) ({ cls := "MazeBonds", name := "owed", desc := "(I)I" } : Jvm.MethodName)) ∈ lw_all := lw_g (lw_at lw_m5 63 rfl) rfl
theorem q1095 : (Jvm.Cond.code ({ cls := "MazeBonds", name := "owed", desc := "(I)I" } : Jvm.MethodName) prog_1_method_43_code (2 : Nat) (Option.some Jvm.ClassFile.FieldType.int)) ∈ lw_all := lw_g (lw_at lw_m5 64 rfl) rfl
theorem q1096 : (Jvm.Cond.methodLink "MazeBonds" (258 : Nat) ({ cls := "MazeBonds$Core", name := "owed", desc := "(I)I" } : Jvm.MethodName)) ∈ lw_all := lw_g (lw_at lw_m5 65 rfl) rfl
theorem q1104 : (Jvm.Cond.instanceMethod ({ cls := "MazeBonds", name := "ranked", desc := "(II)I" } : Jvm.MethodName)) ∈ lw_all := lw_g (lw_at lw_m5 73 rfl) rfl
theorem q1105 : (Jvm.Cond.selects "MazeBonds" ({ cls := "MazeBonds", name := "ranked", desc := "(II)I" } : Jvm.MethodName) ({ cls := "MazeBonds", name := "ranked", desc := "(II)I" } : Jvm.MethodName)) ∈ lw_all := lw_g (lw_at lw_m5 74 rfl) rfl
theorem q1106 : (Jvm.Cond.code ({ cls := "MazeBonds", name := "ranked", desc := "(II)I" } : Jvm.MethodName) prog_1_method_45_code (7 : Nat) (Option.some Jvm.ClassFile.FieldType.int)) ∈ lw_all := lw_g (lw_at lw_m5 75 rfl) rfl
theorem q1107 : (Jvm.Cond.methodLink "MazeBonds" (261 : Nat) ({ cls := "MazeBonds", name := "measure", desc := "(ILMazeBonds$Visitor;)I" } : Jvm.MethodName)) ∈ lw_all := lw_g (lw_at lw_m5 76 rfl) rfl
theorem q1108 : (Jvm.Cond.static ({ cls := "MazeBonds", name := "measure", desc := "(ILMazeBonds$Visitor;)I" } : Jvm.MethodName)) ∈ lw_all := lw_g (lw_at lw_m5 77 rfl) rfl
theorem q1109 : (Jvm.Cond.code ({ cls := "MazeBonds", name := "measure", desc := "(ILMazeBonds$Visitor;)I" } : Jvm.MethodName) prog_1_method_44_code (2 : Nat) (Option.some Jvm.ClassFile.FieldType.int)) ∈ lw_all := lw_g (lw_at lw_m5 78 rfl) rfl
theorem q1114 : (Jvm.Cond.instanceMethod ({ cls := "MazeBonds", name := "richest", desc := "(I)I" } : Jvm.MethodName)) ∈ lw_all := lw_g (lw_at lw_m5 83 rfl) rfl
theorem q1115 : (Jvm.Cond.selects "MazeBonds" ({ cls := "MazeBonds", name := "richest", desc := "(I)I" } : Jvm.MethodName) ({ cls := "MazeBonds", name := "richest", desc := "(I)I" } : Jvm.MethodName)) ∈ lw_all := lw_g (lw_at lw_m5 84 rfl) rfl
theorem q1116 : (Jvm.Cond.code ({ cls := "MazeBonds", name := "richest", desc := "(I)I" } : Jvm.MethodName) prog_1_method_47_code (5 : Nat) (Option.some Jvm.ClassFile.FieldType.int)) ∈ lw_all := lw_g (lw_at lw_m5 85 rfl) rfl
theorem q1117 : (Jvm.Cond.methodLink "MazeBonds" (265 : Nat) ({ cls := "MazeBonds", name := "isRicher", desc := "(II)Z" } : Jvm.MethodName)) ∈ lw_all := lw_g (lw_at lw_m5 86 rfl) rfl
theorem q1118 : (Jvm.Cond.privateMethod ({ cls := "MazeBonds", name := "isRicher", desc := "(II)Z" } : Jvm.MethodName)) ∈ lw_tbl := lw_at lw_m5 87 rfl
theorem q1119 : (Jvm.Cond.instanceMethod ({ cls := "MazeBonds", name := "isRicher", desc := "(II)Z" } : Jvm.MethodName)) ∈ lw_all := lw_g (lw_at lw_m5 88 rfl) rfl
theorem q1120 : (Jvm.Cond.code ({ cls := "MazeBonds", name := "isRicher", desc := "(II)Z" } : Jvm.MethodName) prog_1_method_46_code (5 : Nat) (Option.some Jvm.ClassFile.FieldType.boolean)) ∈ lw_all := lw_g (lw_at lw_m5 89 rfl) rfl
theorem q1126 : (Jvm.Cond.instanceMethod ({ cls := "MazeBonds", name := "append", desc := "(C)I" } : Jvm.MethodName)) ∈ lw_all := lw_g (lw_at lw_m5 95 rfl) rfl
theorem q1127 : (Jvm.Cond.selects "MazeBonds" ({ cls := "MazeBonds", name := "append", desc := "(C)I" } : Jvm.MethodName) ({ cls := "MazeBonds", name := "append", desc := "(C)I" } : Jvm.MethodName)) ∈ lw_all := lw_g (lw_at lw_m5 96 rfl) rfl
theorem q1128 : (Jvm.Cond.code ({ cls := "MazeBonds", name := "append", desc := "(C)I" } : Jvm.MethodName) prog_1_method_48_code (2 : Nat) (Option.some Jvm.ClassFile.FieldType.int)) ∈ lw_all := lw_g (lw_at lw_m5 97 rfl) rfl
theorem q1129 : (Jvm.Cond.methodLink "MazeBonds" (271 : Nat) ({ cls := "MazeBonds", name := "requireState", desc := "(Z)V" } : Jvm.MethodName)) ∈ lw_all := lw_g (lw_at lw_m5 98 rfl) rfl
theorem q1130 : (Jvm.Cond.static ({ cls := "MazeBonds", name := "requireState", desc := "(Z)V" } : Jvm.MethodName)) ∈ lw_all := lw_g (lw_at lw_m5 99 rfl) rfl
theorem q1131 : (Jvm.Cond.code ({ cls := "MazeBonds", name := "requireState", desc := "(Z)V" } : Jvm.MethodName) prog_1_method_6_code (1 : Nat) (Option.none : Option Jvm.ClassFile.FieldType)) ∈ lw_all := lw_g (lw_at lw_m5 100 rfl) rfl
theorem q1132 : (Jvm.Cond.classLink "MazeBonds" (16 : Nat) "java/lang/IllegalStateException") ∈ lw_all := lw_g (lw_at lw_m5 101 rfl) rfl
theorem q1141 : (Jvm.Cond.methodLink "MazeBonds" (18 : Nat) ({ cls := "java/lang/IllegalStateException", name := "<init>", desc := "()V" } : Jvm.MethodName)) ∈ lw_all := lw_g (lw_at lw_m5 110 rfl) rfl
theorem q1151 : (Jvm.Cond.instanceMethod ({ cls := "MazeBonds", name := "commands", desc := "()I" } : Jvm.MethodName)) ∈ lw_all := lw_g (lw_at lw_m5 120 rfl) rfl
theorem q1152 : (Jvm.Cond.selects "MazeBonds" ({ cls := "MazeBonds", name := "commands", desc := "()I" } : Jvm.MethodName) ({ cls := "MazeBonds", name := "commands", desc := "()I" } : Jvm.MethodName)) ∈ lw_all := lw_g (lw_at lw_m5 121 rfl) rfl
theorem q1153 : (Jvm.Cond.codeWith ({ cls := "MazeBonds", name := "commands", desc := "()I" } : Jvm.MethodName) prog_1_method_49_code (4 : Nat) (Option.some Jvm.ClassFile.FieldType.int) [((0 : Nat), (44 : Nat), (51 : Nat), (283 : Nat)), ((0 : Nat), (44 : Nat), (68 : Nat), (25 : Nat)), ((0 : Nat), (44 : Nat), (75 : Nat), (0 : Nat)), ((51 : Nat), (76 : Nat), (75 : Nat), (0 : Nat))]) ∈ lw_all := lw_g (lw_at lw_m5 122 rfl) rfl
theorem q1154 : (Jvm.Cond.classLink "MazeBonds" (283 : Nat) "MazeBonds$FaultException") ∈ lw_all := lw_g (lw_at lw_m5 123 rfl) rfl
theorem q1155 : (Jvm.Cond.classLink "MazeBonds" (274 : Nat) "MazeBonds$Reader") ∈ lw_all := lw_g (lw_at lw_m5 124 rfl) rfl
theorem q1157 : (Jvm.Cond.methodLinkNest "MazeBonds" (276 : Nat) ({ cls := "MazeBonds$Reader", name := "<init>", desc := "(LMazeBonds;)V" } : Jvm.MethodName) "MazeBonds") ∈ lw_tbl := lw_at lw_m5 126 rfl
theorem q1177 : (Jvm.Cond.methodLink "MazeBonds" (279 : Nat) ({ cls := "MazeBonds$Reader", name := "commands", desc := "(LMazeBonds$Core;)I" } : Jvm.MethodName)) ∈ lw_all := lw_g (lw_at lw_m5 146 rfl) rfl
theorem q1290 : (Jvm.Cond.fieldLinkNest "MazeBonds" (285 : Nat) "MazeBonds$FaultException" "position" "I" "MazeBonds") ∈ lw_tbl := lw_at lw_m6 19 rfl
theorem q1335 : (Jvm.Cond.instanceMethod ({ cls := "MazeBonds", name := "reason", desc := "(I)I" } : Jvm.MethodName)) ∈ lw_all := lw_g (lw_at lw_m6 64 rfl) rfl
theorem q1336 : (Jvm.Cond.selects "MazeBonds" ({ cls := "MazeBonds", name := "reason", desc := "(I)I" } : Jvm.MethodName) ({ cls := "MazeBonds", name := "reason", desc := "(I)I" } : Jvm.MethodName)) ∈ lw_all := lw_g (lw_at lw_m6 65 rfl) rfl
theorem q1337 : (Jvm.Cond.code ({ cls := "MazeBonds", name := "reason", desc := "(I)I" } : Jvm.MethodName) prog_1_method_51_code (2 : Nat) (Option.some Jvm.ClassFile.FieldType.int)) ∈ lw_all := lw_g (lw_at lw_m6 66 rfl) rfl
theorem q1342 : (Jvm.Cond.instanceMethod ({ cls := "MazeBonds", name := "line", desc := "(I)I" } : Jvm.MethodName)) ∈ lw_all := lw_g (lw_at lw_m6 71 rfl) rfl
theorem q1343 : (Jvm.Cond.selects "MazeBonds" ({ cls := "MazeBonds", name := "line", desc := "(I)I" } : Jvm.MethodName) ({ cls := "MazeBonds", name := "line", desc := "(I)I" } : Jvm.MethodName)) ∈ lw_all := lw_g (lw_at lw_m6 72 rfl) rfl
theorem q1344 : (Jvm.Cond.code ({ cls := "MazeBonds", name := "line", desc := "(I)I" } : Jvm.MethodName) prog_1_method_52_code (3 : Nat) (Option.some Jvm.ClassFile.FieldType.int)) ∈ lw_all := lw_g (lw_at lw_m6 73 rfl) rfl
theorem q1345 : (Jvm.Cond.methodLink "MazeBonds" (297 : Nat) ({ cls := "java/lang/StringBuilder", name := "setLength", desc := "(I)V" } : Jvm.MethodName)) ∈ lw_all := lw_g (lw_at lw_m6 74 rfl) rfl
theorem q1557 : (Jvm.Cond.stringRef "MazeBonds" (301 : Nat) "out") ∈ lw_tbl := lw_at lw_m7 46 rfl
theorem q1558 : (Jvm.Cond.methodLink "MazeBonds" (303 : Nat) ({ cls := "java/lang/StringBuilder", name := "append", desc := "(Ljava/lang/String;)Ljava/lang/StringBuilder;" } : Jvm.MethodName)) ∈ lw_all := lw_g (lw_at lw_m7 47 rfl) rfl
theorem q1559 : (Jvm.Cond.methodLink "MazeBonds" (307 : Nat) ({ cls := "java/lang/StringBuilder", name := "append", desc := "(I)Ljava/lang/StringBuilder;" } : Jvm.MethodName)) ∈ lw_all := lw_g (lw_at lw_m7 48 rfl) rfl
theorem q1560 : (Jvm.Cond.methodLink "MazeBonds" (310 : Nat) ({ cls := "java/lang/StringBuilder", name := "append", desc := "(C)Ljava/lang/StringBuilder;" } : Jvm.MethodName)) ∈ lw_all := lw_g (lw_at lw_m7 49 rfl) rfl
theorem q1580 : (Jvm.Cond.stringRef "MazeBonds" (313 : Nat) "!") ∈ lw_tbl := lw_at lw_m7 69 rfl
theorem q1581 : (Jvm.Cond.stringRef "MazeBonds" (315 : Nat) "") ∈ lw_tbl := lw_at lw_m7 70 rfl
theorem q1582 : (Jvm.Cond.methodLink "MazeBonds" (317 : Nat) ({ cls := "java/lang/StringBuilder", name := "length", desc := "()I" } : Jvm.MethodName)) ∈ lw_all := lw_g (lw_at lw_m7 71 rfl) rfl
theorem q1587 : (Jvm.Cond.instanceMethod ({ cls := "MazeBonds", name := "row", desc := "(I)I" } : Jvm.MethodName)) ∈ lw_all := lw_g (lw_at lw_m7 76 rfl) rfl
theorem q1588 : (Jvm.Cond.selects "MazeBonds" ({ cls := "MazeBonds", name := "row", desc := "(I)I" } : Jvm.MethodName) ({ cls := "MazeBonds", name := "row", desc := "(I)I" } : Jvm.MethodName)) ∈ lw_all := lw_g (lw_at lw_m7 77 rfl) rfl
theorem q1589 : (Jvm.Cond.code ({ cls := "MazeBonds", name := "row", desc := "(I)I" } : Jvm.MethodName) prog_1_method_53_code (3 : Nat) (Option.some Jvm.ClassFile.FieldType.int)) ∈ lw_all := lw_g (lw_at lw_m7 78 rfl) rfl
theorem q1590 : (Jvm.Cond.methodLink "MazeBonds" (322 : Nat) ({ cls := "MazeBonds$Core", name := "in", desc := "(I)I" } : Jvm.MethodName)) ∈ lw_all := lw_g (lw_at lw_m7 79 rfl) rfl
theorem q1598 : (Jvm.Cond.instanceMethod ({ cls := "MazeBonds", name := "character", desc := "(I)C" } : Jvm.MethodName)) ∈ lw_all := lw_g (lw_at lw_m7 87 rfl) rfl
theorem q1599 : (Jvm.Cond.selects "MazeBonds" ({ cls := "MazeBonds", name := "character", desc := "(I)C" } : Jvm.MethodName) ({ cls := "MazeBonds", name := "character", desc := "(I)C" } : Jvm.MethodName)) ∈ lw_all := lw_g (lw_at lw_m7 88 rfl) rfl
theorem q1600 : (Jvm.Cond.code ({ cls := "MazeBonds", name := "character", desc := "(I)C" } : Jvm.MethodName) prog_1_method_54_code (2 : Nat) (Option.some Jvm.ClassFile.FieldType.char)) ∈ lw_all := lw_g (lw_at lw_m7 89 rfl) rfl
theorem q1601 : (Jvm.Cond.methodLink "MazeBonds" (325 : Nat) ({ cls := "java/lang/StringBuilder", name := "charAt", desc := "(I)C" } : Jvm.MethodName)) ∈ lw_all := lw_g (lw_at lw_m7 90 rfl) rfl
theorem q1629 : (Jvm.Cond.instanceMethod ({ cls := "MazeBonds", name := "meanLost", desc := "()D" } : Jvm.MethodName)) ∈ lw_all := lw_g (lw_at lw_m7 118 rfl) rfl
theorem q1630 : (Jvm.Cond.selects "MazeBonds" ({ cls := "MazeBonds", name := "meanLost", desc := "()D" } : Jvm.MethodName) ({ cls := "MazeBonds", name := "meanLost", desc := "()D" } : Jvm.MethodName)) ∈ lw_all := lw_g (lw_at lw_m7 119 rfl) rfl
theorem q1631 : (Jvm.Cond.code ({ cls := "MazeBonds", name := "meanLost", desc := "()D" } : Jvm.MethodName) prog_1_method_55_code (4 : Nat) (Option.some Jvm.ClassFile.FieldType.double)) ∈ lw_all := lw_g (lw_at lw_m7 120 rfl) rfl
theorem q1632 : (Jvm.Cond.methodLink "MazeBonds" (329 : Nat) ({ cls := "MazeBonds", name := "requireSome", desc := "(I)V" } : Jvm.MethodName)) ∈ lw_all := lw_g (lw_at lw_m7 121 rfl) rfl
theorem q1633 : (Jvm.Cond.static ({ cls := "MazeBonds", name := "requireSome", desc := "(I)V" } : Jvm.MethodName)) ∈ lw_all := lw_g (lw_at lw_m7 122 rfl) rfl
theorem q1634 : (Jvm.Cond.code ({ cls := "MazeBonds", name := "requireSome", desc := "(I)V" } : Jvm.MethodName) prog_1_method_8_code (1 : Nat) (Option.none : Option Jvm.ClassFile.FieldType)) ∈ lw_all := lw_g (lw_at lw_m7 123 rfl) rfl
theorem q1635 : (Jvm.Cond.classLink "MazeBonds" (22 : Nat) "java/lang/ArithmeticException") ∈ lw_all := lw_g (lw_at lw_m7 124 rfl) rfl
theorem q1636 : (Jvm.Cond.methodLink "MazeBonds" (24 : Nat) ({ cls := "java/lang/ArithmeticException", name := "<init>", desc := "()V" } : Jvm.MethodName)) ∈ lw_all := lw_g (lw_at lw_m7 125 rfl) rfl
theorem q1640 : (Jvm.Cond.methodLink "MazeBonds" (332 : Nat) ({ cls := "java/util/ArrayList", name := "iterator", desc := "()Ljava/util/Iterator;" } : Jvm.MethodName)) ∈ lw_all := lw_g (lw_at lw_m7 129 rfl) rfl
theorem q1641 : (Jvm.Cond.interfaceEntry "MazeBonds" (336 : Nat)) ∈ lw_tbl := lw_at lw_m7 130 rfl
theorem q1642 : (Jvm.Cond.methodLink "MazeBonds" (336 : Nat) ({ cls := "java/util/Iterator", name := "hasNext", desc := "()Z" } : Jvm.MethodName)) ∈ lw_all := lw_g (lw_at lw_m7 131 rfl) rfl
theorem q1643 : (Jvm.Cond.interfaceEntry "MazeBonds" (341 : Nat)) ∈ lw_tbl := lw_at lw_m7 132 rfl
theorem q1644 : (Jvm.Cond.methodLink "MazeBonds" (341 : Nat) ({ cls := "java/util/Iterator", name := "next", desc := "()Ljava/lang/Object;" } : Jvm.MethodName)) ∈ lw_all := lw_g (lw_at lw_m7 133 rfl) rfl
theorem q1649 : (Jvm.Cond.instanceMethod ({ cls := "MazeBonds", name := "account", desc := "(I)I" } : Jvm.MethodName)) ∈ lw_all := lw_g (lw_at lw_m7 138 rfl) rfl
theorem q1650 : (Jvm.Cond.selects "MazeBonds" ({ cls := "MazeBonds", name := "account", desc := "(I)I" } : Jvm.MethodName) ({ cls := "MazeBonds", name := "account", desc := "(I)I" } : Jvm.MethodName)) ∈ lw_all := lw_g (lw_at lw_m7 139 rfl) rfl
theorem q1651 : (Jvm.Cond.code ({ cls := "MazeBonds", name := "account", desc := "(I)I" } : Jvm.MethodName) prog_1_method_59_code (2 : Nat) (Option.some Jvm.ClassFile.FieldType.int)) ∈ lw_all := lw_g (lw_at lw_m7 140 rfl) rfl
theorem q1652 : (Jvm.Cond.methodLink "MazeBonds" (363 : Nat) ({ cls := "MazeBonds$Core", name := "out", desc := "()I" } : Jvm.MethodName)) ∈ lw_all := lw_g (lw_at lw_m7 141 rfl) rfl
theorem q1656 : (Jvm.Cond.methodLink "MazeBonds" (365 : Nat) ({ cls := "MazeBonds", name := "bonds", desc := "()I" } : Jvm.MethodName)) ∈ lw_all := lw_g (lw_at lw_m7 145 rfl) rfl
theorem q1657 : (Jvm.Cond.privateMethod ({ cls := "MazeBonds", name := "bonds", desc := "()I" } : Jvm.MethodName)) ∈ lw_tbl := lw_at lw_m7 146 rfl
theorem q1658 : (Jvm.Cond.instanceMethod ({ cls := "MazeBonds", name := "bonds", desc := "()I" } : Jvm.MethodName)) ∈ lw_all := lw_g (lw_at lw_m7 147 rfl) rfl
theorem q1659 : (Jvm.Cond.code ({ cls := "MazeBonds", name := "bonds", desc := "()I" } : Jvm.MethodName) prog_1_method_57_code (3 : Nat) (Option.some Jvm.ClassFile.FieldType.int)) ∈ lw_all := lw_g (lw_at lw_m7 148 rfl) rfl
theorem q1660 : (Jvm.Cond.methodLink "MazeBonds" (349 : Nat) ({ cls := "MazeBonds", name := "sum", desc := "([I)I" } : Jvm.MethodName)) ∈ lw_all := lw_g (lw_at lw_m7 149 rfl) rfl
theorem q1661 : (Jvm.Cond.static ({ cls := "MazeBonds", name := "sum", desc := "([I)I" } : Jvm.MethodName)) ∈ lw_all := lw_g (lw_at lw_m7 150 rfl) rfl
theorem q1662 : (Jvm.Cond.code ({ cls := "MazeBonds", name := "sum", desc := "([I)I" } : Jvm.MethodName) prog_1_method_3_code (6 : Nat) (Option.some Jvm.ClassFile.FieldType.int)) ∈ lw_all := lw_g (lw_at lw_m7 151 rfl) rfl
theorem q1663 : (Jvm.Cond.methodLink "MazeBonds" (368 : Nat) ({ cls := "MazeBonds$Core", name := "voids", desc := "()I" } : Jvm.MethodName)) ∈ lw_all := lw_g (lw_at lw_m7 152 rfl) rfl
theorem q1667 : (Jvm.Cond.methodLink "MazeBonds" (371 : Nat) ({ cls := "MazeBonds", name := "otherAccount", desc := "(I)I" } : Jvm.MethodName)) ∈ lw_all := lw_g (lw_at lw_m7 156 rfl) rfl
theorem q1668 : (Jvm.Cond.privateMethod ({ cls := "MazeBonds", name := "otherAccount", desc := "(I)I" } : Jvm.MethodName)) ∈ lw_tbl := lw_at lw_m7 157 rfl
theorem q1669 : (Jvm.Cond.instanceMethod ({ cls := "MazeBonds", name := "otherAccount", desc := "(I)I" } : Jvm.MethodName)) ∈ lw_all := lw_g (lw_at lw_m7 158 rfl) rfl
theorem q1670 : (Jvm.Cond.code ({ cls := "MazeBonds", name := "otherAccount", desc := "(I)I" } : Jvm.MethodName) prog_1_method_58_code (2 : Nat) (Option.some Jvm.ClassFile.FieldType.int)) ∈ lw_all := lw_g (lw_at lw_m7 159 rfl) rfl
theorem q1671 : (Jvm.Cond.methodLink "MazeBonds" (362 : Nat) ({ cls := "MazeBonds$Core", name := "coins", desc := "()I" } : Jvm.MethodName)) ∈ lw_all := lw_g (lw_at lw_m7 160 rfl) rfl
theorem q1679 : (Jvm.Cond.instanceMethod ({ cls := "MazeBonds", name := "undo", desc := "()I" } : Jvm.MethodName)) ∈ lw_all := lw_g (lw_at lw_m7 168 rfl) rfl
theorem q1680 : (Jvm.Cond.selects "MazeBonds" ({ cls := "MazeBonds", name := "undo", desc := "()I" } : Jvm.MethodName) ({ cls := "MazeBonds", name := "undo", desc := "()I" } : Jvm.MethodName)) ∈ lw_all := lw_g (lw_at lw_m7 169 rfl) rfl
theorem q1681 : (Jvm.Cond.code ({ cls := "MazeBonds", name := "undo", desc := "()I" } : Jvm.MethodName) prog_1_method_60_code (1 : Nat) (Option.some Jvm.ClassFile.FieldType.int)) ∈ lw_all := lw_g (lw_at lw_m7 170 rfl) rfl
theorem q1682 : (Jvm.Cond.methodLink "MazeBonds" (374 : Nat) ({ cls := "java/util/ArrayList", name := "isEmpty", desc := "()Z" } : Jvm.MethodName)) ∈ lw_all := lw_g (lw_at lw_m7 171 rfl) rfl
theorem q1690 : (Jvm.Cond.instanceMethod ({ cls := "MazeBonds", name := "restore", desc := "()I" } : Jvm.MethodName)) ∈ lw_all := lw_g (lw_at lw_m7 179 rfl) rfl
theorem q1691 : (Jvm.Cond.selects "MazeBonds" ({ cls := "MazeBonds", name := "restore", desc := "()I" } : Jvm.MethodName) ({ cls := "MazeBonds", name := "restore", desc := "()I" } : Jvm.MethodName)) ∈ lw_all := lw_g (lw_at lw_m7 180 rfl) rfl
theorem q1692 : (Jvm.Cond.code ({ cls := "MazeBonds", name := "restore", desc := "()I" } : Jvm.MethodName) prog_1_method_62_code (1 : Nat) (Option.some Jvm.ClassFile.FieldType.int)) ∈ lw_all := lw_g (lw_at lw_m7 181 rfl) rfl
theorem q1693 : (Jvm.Cond.methodLink "MazeBonds" (380 : Nat) ({ cls := "java/util/ArrayList", name := "clear", desc := "()V" } : Jvm.MethodName)) ∈ lw_all := lw_g (lw_at lw_m7 182 rfl) rfl
theorem q2151 : (Jvm.Cond.castable "MazeBonds" "java/lang/Object") ∈ lw_tbl := lw_at lw_m9 160 rfl
theorem in_X1 : ∀ w ∈ wsX10, w ∈ lw_all := lw_in wsX10 [232, 234, 236, 238, 240, 242, 244, 246] (by decide +kernel) (by decide +kernel)
/-! MazeBonds$Core -/
set_option maxRecDepth 100000
def RX2 : String := "MazeBonds$Core"
def TX2 : u_T := fun k => match k with
  | 0 => ("MazeBonds$Core", "leaves", "[I", true)
  | 1 => ("MazeBonds$Core", "gardeners", "Ljava/util/ArrayList;", true)
  | 2 => ("MazeBonds$Core", "visitors", "Ljava/util/ArrayList;", true)
  | 3 => ("MazeBonds$Core", "minotaur", "I", false)
  | 4 => ("MazeBonds$Core", "summers", "I", false)
  | 5 => ("MazeBonds$Core", "brought", "I", false)
  | _ => ("MazeBonds$Core", "spent", "I", false)
def tyX2 : Nat → FieldType := fun k => match k with
  | 0 => .array .int
  | 1 => .object "java/util/ArrayList"
  | 2 => .object "java/util/ArrayList"
  | 3 => .int
  | 4 => .int
  | 5 => .int
  | _ => .int
abbrev wsX20 : List Cond := u_ws RX2 TX2 7
theorem nmX2 : ∀ a, a < 7 → ∀ b, b < 7 → a ≠ b → (TX2 a).2.1 ≠ (TX2 b).2.1 := by decide +kernel
theorem tyX2_ok : ∀ k, k < 7 → parseFieldDescriptor (TX2 k).2.2.1 = some (tyX2 k) := by decide +kernel
abbrev cX2_init : ByteArray := prog_2_method_2_code
def yX2_init : MethodName := ⟨RX2, "<init>", "()V"⟩
def dkwX2_init_0 : List UInt8 := [42, 16, 24, 188, 10, 183, 0, 29, 177]
abbrev dktX2_init_0 : List UInt8 := dkwX2_init_0 ++ []
theorem dksX2_init_0 : cX2_init.data.toList.drop 0 = dktX2_init_0 := by decide +kernel
theorem dX2_init_0 : decode cX2_init 0 = .ok (.aload_n 0, 1) := dk_42 (dk_at dksX2_init_0 0 rfl rfl)
theorem dX2_init_1 : decode cX2_init 1 = .ok (.bipush 24, 2) := dk_16 24 (dk_at dksX2_init_0 1 rfl rfl)
theorem dX2_init_3 : decode cX2_init 3 = .ok (.newarray .int, 2) := dk_188_10 (dk_at dksX2_init_0 3 rfl rfl)
theorem dX2_init_5 : decode cX2_init 5 = .ok (.invokespecial 29, 3) := dk_183 0 29 (dk_at dksX2_init_0 5 rfl rfl)
theorem dX2_init_8 : decode cX2_init 8 = .ok (.return_, 1) := dk_177 (dk_at dksX2_init_0 8 rfl rfl)
abbrev cX2_init_2 : ByteArray := prog_2_method_1_code
def yX2_init_2 : MethodName := ⟨RX2, "<init>", "([I)V"⟩
def dkwX2_init_2_1 : List UInt8 := [181, 0, 18, 42, 2, 181, 0, 21, 42, 43, 181, 0, 25, 177]
abbrev dktX2_init_2_1 : List UInt8 := dkwX2_init_2_1 ++ []
def dkwX2_init_2_0 : List UInt8 := [42, 183, 0, 3, 42, 187, 0, 9, 89, 183, 0, 11, 181, 0, 12, 42, 187, 0, 9, 89, 183, 0, 11]
abbrev dktX2_init_2_0 : List UInt8 := dkwX2_init_2_0 ++ dktX2_init_2_1
theorem dksX2_init_2_0 : cX2_init_2.data.toList.drop 0 = dktX2_init_2_0 := by decide +kernel
theorem dksX2_init_2_1 : cX2_init_2.data.toList.drop 23 = dktX2_init_2_1 := dk_seg dksX2_init_2_0 23 rfl rfl
theorem dX2_init_2_0 : decode cX2_init_2 0 = .ok (.aload_n 0, 1) := dk_42 (dk_at dksX2_init_2_0 0 rfl rfl)
theorem dX2_init_2_1 : decode cX2_init_2 1 = .ok (.invokespecial 3, 3) := dk_183 0 3 (dk_at dksX2_init_2_0 1 rfl rfl)
theorem dX2_init_2_4 : decode cX2_init_2 4 = .ok (.aload_n 0, 1) := dk_42 (dk_at dksX2_init_2_0 4 rfl rfl)
theorem dX2_init_2_5 : decode cX2_init_2 5 = .ok (.new 9, 3) := dk_187 0 9 (dk_at dksX2_init_2_0 5 rfl rfl)
theorem dX2_init_2_8 : decode cX2_init_2 8 = .ok (.dup, 1) := dk_89 (dk_at dksX2_init_2_0 8 rfl rfl)
theorem dX2_init_2_9 : decode cX2_init_2 9 = .ok (.invokespecial 11, 3) := dk_183 0 11 (dk_at dksX2_init_2_0 9 rfl rfl)
theorem dX2_init_2_12 : decode cX2_init_2 12 = .ok (.putfield 12, 3) := dk_181 0 12 (dk_at dksX2_init_2_0 12 rfl rfl)
theorem dX2_init_2_15 : decode cX2_init_2 15 = .ok (.aload_n 0, 1) := dk_42 (dk_at dksX2_init_2_0 15 rfl rfl)
theorem dX2_init_2_16 : decode cX2_init_2 16 = .ok (.new 9, 3) := dk_187 0 9 (dk_at dksX2_init_2_0 16 rfl rfl)
theorem dX2_init_2_19 : decode cX2_init_2 19 = .ok (.dup, 1) := dk_89 (dk_at dksX2_init_2_0 19 rfl rfl)
theorem dX2_init_2_20 : decode cX2_init_2 20 = .ok (.invokespecial 11, 3) := dk_183 0 11 (dk_at dksX2_init_2_0 20 rfl rfl)
theorem dX2_init_2_23 : decode cX2_init_2 23 = .ok (.putfield 18, 3) := dk_181 0 18 (dk_at dksX2_init_2_1 0 rfl rfl)
theorem dX2_init_2_26 : decode cX2_init_2 26 = .ok (.aload_n 0, 1) := dk_42 (dk_at dksX2_init_2_1 3 rfl rfl)
theorem dX2_init_2_27 : decode cX2_init_2 27 = .ok (.iconst (-1), 1) := dk_2 (dk_at dksX2_init_2_1 4 rfl rfl)
theorem dX2_init_2_28 : decode cX2_init_2 28 = .ok (.putfield 21, 3) := dk_181 0 21 (dk_at dksX2_init_2_1 5 rfl rfl)
theorem dX2_init_2_31 : decode cX2_init_2 31 = .ok (.aload_n 0, 1) := dk_42 (dk_at dksX2_init_2_1 8 rfl rfl)
theorem dX2_init_2_32 : decode cX2_init_2 32 = .ok (.aload_n 1, 1) := dk_43 (dk_at dksX2_init_2_1 9 rfl rfl)
theorem dX2_init_2_33 : decode cX2_init_2 33 = .ok (.putfield 25, 3) := dk_181 0 25 (dk_at dksX2_init_2_1 10 rfl rfl)
theorem dX2_init_2_36 : decode cX2_init_2 36 = .ok (.return_, 1) := dk_177 (dk_at dksX2_init_2_1 13 rfl rfl)
abbrev cX2_copy : ByteArray := prog_2_method_3_code
def yX2_copy : MethodName := ⟨RX2, "copy", "()LMazeBonds$Core;"⟩
def dkwX2_copy_5 : List UInt8 := [181, 0, 65, 43, 42, 180, 0, 68, 181, 0, 68, 43, 42, 180, 0, 71, 181, 0, 71, 43, 176]
abbrev dktX2_copy_5 : List UInt8 := dkwX2_copy_5 ++ []
def dkwX2_copy_4 : List UInt8 := [182, 0, 62, 182, 0, 56, 87, 167, 255, 225, 43, 42, 180, 0, 21, 181, 0, 21, 43, 42, 180, 0, 65]
abbrev dktX2_copy_4 : List UInt8 := dkwX2_copy_4 ++ dktX2_copy_5
def dkwX2_copy_3 : List UInt8 := [185, 0, 41, 1, 0, 153, 0, 28, 44, 185, 0, 47, 1, 0, 192, 0, 60, 78, 43, 180, 0, 18, 45]
abbrev dktX2_copy_3 : List UInt8 := dkwX2_copy_3 ++ dktX2_copy_4
def dkwX2_copy_2 : List UInt8 := [180, 0, 12, 45, 182, 0, 52, 182, 0, 56, 87, 167, 255, 225, 42, 180, 0, 18, 182, 0, 37, 77, 44]
abbrev dktX2_copy_2 : List UInt8 := dkwX2_copy_2 ++ dktX2_copy_3
def dkwX2_copy_1 : List UInt8 := [182, 0, 37, 77, 44, 185, 0, 41, 1, 0, 153, 0, 28, 44, 185, 0, 47, 1, 0, 192, 0, 50, 78, 43]
abbrev dktX2_copy_1 : List UInt8 := dkwX2_copy_1 ++ dktX2_copy_2
def dkwX2_copy_0 : List UInt8 := [187, 0, 13, 89, 42, 180, 0, 25, 182, 0, 32, 192, 0, 33, 183, 0, 29, 76, 42, 180, 0, 12]
abbrev dktX2_copy_0 : List UInt8 := dkwX2_copy_0 ++ dktX2_copy_1
theorem dksX2_copy_0 : cX2_copy.data.toList.drop 0 = dktX2_copy_0 := by decide +kernel
theorem dksX2_copy_1 : cX2_copy.data.toList.drop 22 = dktX2_copy_1 := dk_seg dksX2_copy_0 22 rfl rfl
theorem dksX2_copy_2 : cX2_copy.data.toList.drop 46 = dktX2_copy_2 := dk_seg dksX2_copy_1 24 rfl rfl
theorem dksX2_copy_3 : cX2_copy.data.toList.drop 69 = dktX2_copy_3 := dk_seg dksX2_copy_2 23 rfl rfl
theorem dksX2_copy_4 : cX2_copy.data.toList.drop 92 = dktX2_copy_4 := dk_seg dksX2_copy_3 23 rfl rfl
theorem dksX2_copy_5 : cX2_copy.data.toList.drop 115 = dktX2_copy_5 := dk_seg dksX2_copy_4 23 rfl rfl
theorem dX2_copy_0 : decode cX2_copy 0 = .ok (.new 13, 3) := dk_187 0 13 (dk_at dksX2_copy_0 0 rfl rfl)
theorem dX2_copy_3 : decode cX2_copy 3 = .ok (.dup, 1) := dk_89 (dk_at dksX2_copy_0 3 rfl rfl)
theorem dX2_copy_4 : decode cX2_copy 4 = .ok (.aload_n 0, 1) := dk_42 (dk_at dksX2_copy_0 4 rfl rfl)
theorem dX2_copy_5 : decode cX2_copy 5 = .ok (.getfield 25, 3) := dk_180 0 25 (dk_at dksX2_copy_0 5 rfl rfl)
theorem dX2_copy_8 : decode cX2_copy 8 = .ok (.invokevirtual 32, 3) := dk_182 0 32 (dk_at dksX2_copy_0 8 rfl rfl)
theorem dX2_copy_11 : decode cX2_copy 11 = .ok (.checkcast 33, 3) := dk_192 0 33 (dk_at dksX2_copy_0 11 rfl rfl)
theorem dX2_copy_14 : decode cX2_copy 14 = .ok (.invokespecial 29, 3) := dk_183 0 29 (dk_at dksX2_copy_0 14 rfl rfl)
theorem dX2_copy_17 : decode cX2_copy 17 = .ok (.astore_n 1, 1) := dk_76 (dk_at dksX2_copy_0 17 rfl rfl)
theorem dX2_copy_18 : decode cX2_copy 18 = .ok (.aload_n 0, 1) := dk_42 (dk_at dksX2_copy_0 18 rfl rfl)
theorem dX2_copy_19 : decode cX2_copy 19 = .ok (.getfield 12, 3) := dk_180 0 12 (dk_at dksX2_copy_0 19 rfl rfl)
theorem dX2_copy_22 : decode cX2_copy 22 = .ok (.invokevirtual 37, 3) := dk_182 0 37 (dk_at dksX2_copy_1 0 rfl rfl)
theorem dX2_copy_25 : decode cX2_copy 25 = .ok (.astore_n 2, 1) := dk_77 (dk_at dksX2_copy_1 3 rfl rfl)
theorem dX2_copy_26 : decode cX2_copy 26 = .ok (.aload_n 2, 1) := dk_44 (dk_at dksX2_copy_1 4 rfl rfl)
theorem dX2_copy_27 : decode cX2_copy 27 = .ok (.invokeinterface 41 1, 5) := by decide +kernel
theorem dX2_copy_32 : decode cX2_copy 32 = .ok (.ifCond .eq 28, 3) := dk_153 0 28 (dk_at dksX2_copy_1 10 rfl rfl)
theorem dX2_copy_35 : decode cX2_copy 35 = .ok (.aload_n 2, 1) := dk_44 (dk_at dksX2_copy_1 13 rfl rfl)
theorem dX2_copy_36 : decode cX2_copy 36 = .ok (.invokeinterface 47 1, 5) := by decide +kernel
theorem dX2_copy_41 : decode cX2_copy 41 = .ok (.checkcast 50, 3) := dk_192 0 50 (dk_at dksX2_copy_1 19 rfl rfl)
theorem dX2_copy_44 : decode cX2_copy 44 = .ok (.astore_n 3, 1) := dk_78 (dk_at dksX2_copy_1 22 rfl rfl)
theorem dX2_copy_45 : decode cX2_copy 45 = .ok (.aload_n 1, 1) := dk_43 (dk_at dksX2_copy_1 23 rfl rfl)
theorem dX2_copy_46 : decode cX2_copy 46 = .ok (.getfield 12, 3) := dk_180 0 12 (dk_at dksX2_copy_2 0 rfl rfl)
theorem dX2_copy_49 : decode cX2_copy 49 = .ok (.aload_n 3, 1) := dk_45 (dk_at dksX2_copy_2 3 rfl rfl)
theorem dX2_copy_50 : decode cX2_copy 50 = .ok (.invokevirtual 52, 3) := dk_182 0 52 (dk_at dksX2_copy_2 4 rfl rfl)
theorem dX2_copy_53 : decode cX2_copy 53 = .ok (.invokevirtual 56, 3) := dk_182 0 56 (dk_at dksX2_copy_2 7 rfl rfl)
theorem dX2_copy_56 : decode cX2_copy 56 = .ok (.pop, 1) := dk_87 (dk_at dksX2_copy_2 10 rfl rfl)
theorem dX2_copy_57 : decode cX2_copy 57 = .ok (.goto (-31), 3) := dk_167 255 225 (dk_at dksX2_copy_2 11 rfl rfl)
theorem dX2_copy_60 : decode cX2_copy 60 = .ok (.aload_n 0, 1) := dk_42 (dk_at dksX2_copy_2 14 rfl rfl)
theorem dX2_copy_61 : decode cX2_copy 61 = .ok (.getfield 18, 3) := dk_180 0 18 (dk_at dksX2_copy_2 15 rfl rfl)
theorem dX2_copy_64 : decode cX2_copy 64 = .ok (.invokevirtual 37, 3) := dk_182 0 37 (dk_at dksX2_copy_2 18 rfl rfl)
theorem dX2_copy_67 : decode cX2_copy 67 = .ok (.astore_n 2, 1) := dk_77 (dk_at dksX2_copy_2 21 rfl rfl)
theorem dX2_copy_68 : decode cX2_copy 68 = .ok (.aload_n 2, 1) := dk_44 (dk_at dksX2_copy_2 22 rfl rfl)
theorem dX2_copy_69 : decode cX2_copy 69 = .ok (.invokeinterface 41 1, 5) := by decide +kernel
theorem dX2_copy_74 : decode cX2_copy 74 = .ok (.ifCond .eq 28, 3) := dk_153 0 28 (dk_at dksX2_copy_3 5 rfl rfl)
theorem dX2_copy_77 : decode cX2_copy 77 = .ok (.aload_n 2, 1) := dk_44 (dk_at dksX2_copy_3 8 rfl rfl)
theorem dX2_copy_78 : decode cX2_copy 78 = .ok (.invokeinterface 47 1, 5) := by decide +kernel
theorem dX2_copy_83 : decode cX2_copy 83 = .ok (.checkcast 60, 3) := dk_192 0 60 (dk_at dksX2_copy_3 14 rfl rfl)
theorem dX2_copy_86 : decode cX2_copy 86 = .ok (.astore_n 3, 1) := dk_78 (dk_at dksX2_copy_3 17 rfl rfl)
theorem dX2_copy_87 : decode cX2_copy 87 = .ok (.aload_n 1, 1) := dk_43 (dk_at dksX2_copy_3 18 rfl rfl)
theorem dX2_copy_88 : decode cX2_copy 88 = .ok (.getfield 18, 3) := dk_180 0 18 (dk_at dksX2_copy_3 19 rfl rfl)
theorem dX2_copy_91 : decode cX2_copy 91 = .ok (.aload_n 3, 1) := dk_45 (dk_at dksX2_copy_3 22 rfl rfl)
theorem dX2_copy_92 : decode cX2_copy 92 = .ok (.invokevirtual 62, 3) := dk_182 0 62 (dk_at dksX2_copy_4 0 rfl rfl)
theorem dX2_copy_95 : decode cX2_copy 95 = .ok (.invokevirtual 56, 3) := dk_182 0 56 (dk_at dksX2_copy_4 3 rfl rfl)
theorem dX2_copy_98 : decode cX2_copy 98 = .ok (.pop, 1) := dk_87 (dk_at dksX2_copy_4 6 rfl rfl)
theorem dX2_copy_99 : decode cX2_copy 99 = .ok (.goto (-31), 3) := dk_167 255 225 (dk_at dksX2_copy_4 7 rfl rfl)
theorem dX2_copy_102 : decode cX2_copy 102 = .ok (.aload_n 1, 1) := dk_43 (dk_at dksX2_copy_4 10 rfl rfl)
theorem dX2_copy_103 : decode cX2_copy 103 = .ok (.aload_n 0, 1) := dk_42 (dk_at dksX2_copy_4 11 rfl rfl)
theorem dX2_copy_104 : decode cX2_copy 104 = .ok (.getfield 21, 3) := dk_180 0 21 (dk_at dksX2_copy_4 12 rfl rfl)
theorem dX2_copy_107 : decode cX2_copy 107 = .ok (.putfield 21, 3) := dk_181 0 21 (dk_at dksX2_copy_4 15 rfl rfl)
theorem dX2_copy_110 : decode cX2_copy 110 = .ok (.aload_n 1, 1) := dk_43 (dk_at dksX2_copy_4 18 rfl rfl)
theorem dX2_copy_111 : decode cX2_copy 111 = .ok (.aload_n 0, 1) := dk_42 (dk_at dksX2_copy_4 19 rfl rfl)
theorem dX2_copy_112 : decode cX2_copy 112 = .ok (.getfield 65, 3) := dk_180 0 65 (dk_at dksX2_copy_4 20 rfl rfl)
theorem dX2_copy_115 : decode cX2_copy 115 = .ok (.putfield 65, 3) := dk_181 0 65 (dk_at dksX2_copy_5 0 rfl rfl)
theorem dX2_copy_118 : decode cX2_copy 118 = .ok (.aload_n 1, 1) := dk_43 (dk_at dksX2_copy_5 3 rfl rfl)
theorem dX2_copy_119 : decode cX2_copy 119 = .ok (.aload_n 0, 1) := dk_42 (dk_at dksX2_copy_5 4 rfl rfl)
theorem dX2_copy_120 : decode cX2_copy 120 = .ok (.getfield 68, 3) := dk_180 0 68 (dk_at dksX2_copy_5 5 rfl rfl)
theorem dX2_copy_123 : decode cX2_copy 123 = .ok (.putfield 68, 3) := dk_181 0 68 (dk_at dksX2_copy_5 8 rfl rfl)
theorem dX2_copy_126 : decode cX2_copy 126 = .ok (.aload_n 1, 1) := dk_43 (dk_at dksX2_copy_5 11 rfl rfl)
theorem dX2_copy_127 : decode cX2_copy 127 = .ok (.aload_n 0, 1) := dk_42 (dk_at dksX2_copy_5 12 rfl rfl)
theorem dX2_copy_128 : decode cX2_copy 128 = .ok (.getfield 71, 3) := dk_180 0 71 (dk_at dksX2_copy_5 13 rfl rfl)
theorem dX2_copy_131 : decode cX2_copy 131 = .ok (.putfield 71, 3) := dk_181 0 71 (dk_at dksX2_copy_5 16 rfl rfl)
theorem dX2_copy_134 : decode cX2_copy 134 = .ok (.aload_n 1, 1) := dk_43 (dk_at dksX2_copy_5 19 rfl rfl)
theorem dX2_copy_135 : decode cX2_copy 135 = .ok (.areturn, 1) := dk_176 (dk_at dksX2_copy_5 20 rfl rfl)
abbrev cX2_summer : ByteArray := prog_2_method_20_code
def yX2_summer : MethodName := ⟨RX2, "summer", "()I"⟩
def dkwX2_summer_2 : List UInt8 := [27, 42, 182, 0, 146, 100, 172]
abbrev dktX2_summer_2 : List UInt8 := dkwX2_summer_2 ++ []
def dkwX2_summer_1 : List UInt8 := [28, 46, 4, 96, 184, 0, 105, 79, 132, 2, 1, 167, 255, 228, 42, 89, 180, 0, 65, 4, 96, 181, 0, 65]
abbrev dktX2_summer_1 : List UInt8 := dkwX2_summer_1 ++ dktX2_summer_2
def dkwX2_summer_0 : List UInt8 := [42, 182, 0, 146, 60, 3, 61, 28, 16, 24, 162, 0, 28, 42, 180, 0, 25, 28, 16, 9, 42, 180, 0, 25]
abbrev dktX2_summer_0 : List UInt8 := dkwX2_summer_0 ++ dktX2_summer_1
theorem dksX2_summer_0 : cX2_summer.data.toList.drop 0 = dktX2_summer_0 := by decide +kernel
theorem dksX2_summer_1 : cX2_summer.data.toList.drop 24 = dktX2_summer_1 := dk_seg dksX2_summer_0 24 rfl rfl
theorem dksX2_summer_2 : cX2_summer.data.toList.drop 48 = dktX2_summer_2 := dk_seg dksX2_summer_1 24 rfl rfl
theorem dX2_summer_0 : decode cX2_summer 0 = .ok (.aload_n 0, 1) := dk_42 (dk_at dksX2_summer_0 0 rfl rfl)
theorem dX2_summer_1 : decode cX2_summer 1 = .ok (.invokevirtual 146, 3) := dk_182 0 146 (dk_at dksX2_summer_0 1 rfl rfl)
theorem dX2_summer_4 : decode cX2_summer 4 = .ok (.istore_n 1, 1) := dk_60 (dk_at dksX2_summer_0 4 rfl rfl)
theorem dX2_summer_5 : decode cX2_summer 5 = .ok (.iconst 0, 1) := dk_3 (dk_at dksX2_summer_0 5 rfl rfl)
theorem dX2_summer_6 : decode cX2_summer 6 = .ok (.istore_n 2, 1) := dk_61 (dk_at dksX2_summer_0 6 rfl rfl)
theorem dX2_summer_7 : decode cX2_summer 7 = .ok (.iload_n 2, 1) := dk_28 (dk_at dksX2_summer_0 7 rfl rfl)
theorem dX2_summer_8 : decode cX2_summer 8 = .ok (.bipush 24, 2) := dk_16 24 (dk_at dksX2_summer_0 8 rfl rfl)
theorem dX2_summer_10 : decode cX2_summer 10 = .ok (.if_icmp .ge 28, 3) := dk_162 0 28 (dk_at dksX2_summer_0 10 rfl rfl)
theorem dX2_summer_13 : decode cX2_summer 13 = .ok (.aload_n 0, 1) := dk_42 (dk_at dksX2_summer_0 13 rfl rfl)
theorem dX2_summer_14 : decode cX2_summer 14 = .ok (.getfield 25, 3) := dk_180 0 25 (dk_at dksX2_summer_0 14 rfl rfl)
theorem dX2_summer_17 : decode cX2_summer 17 = .ok (.iload_n 2, 1) := dk_28 (dk_at dksX2_summer_0 17 rfl rfl)
theorem dX2_summer_18 : decode cX2_summer 18 = .ok (.bipush 9, 2) := dk_16 9 (dk_at dksX2_summer_0 18 rfl rfl)
theorem dX2_summer_20 : decode cX2_summer 20 = .ok (.aload_n 0, 1) := dk_42 (dk_at dksX2_summer_0 20 rfl rfl)
theorem dX2_summer_21 : decode cX2_summer 21 = .ok (.getfield 25, 3) := dk_180 0 25 (dk_at dksX2_summer_0 21 rfl rfl)
theorem dX2_summer_24 : decode cX2_summer 24 = .ok (.iload_n 2, 1) := dk_28 (dk_at dksX2_summer_1 0 rfl rfl)
theorem dX2_summer_25 : decode cX2_summer 25 = .ok (.iaload, 1) := dk_46 (dk_at dksX2_summer_1 1 rfl rfl)
theorem dX2_summer_26 : decode cX2_summer 26 = .ok (.iconst 1, 1) := dk_4 (dk_at dksX2_summer_1 2 rfl rfl)
theorem dX2_summer_27 : decode cX2_summer 27 = .ok (.iadd, 1) := dk_96 (dk_at dksX2_summer_1 3 rfl rfl)
theorem dX2_summer_28 : decode cX2_summer 28 = .ok (.invokestatic 105, 3) := dk_184 0 105 (dk_at dksX2_summer_1 4 rfl rfl)
theorem dX2_summer_31 : decode cX2_summer 31 = .ok (.iastore, 1) := dk_79 (dk_at dksX2_summer_1 7 rfl rfl)
theorem dX2_summer_32 : decode cX2_summer 32 = .ok (.iinc 2 1, 3) := dk_132 2 1 (dk_at dksX2_summer_1 8 rfl rfl)
theorem dX2_summer_35 : decode cX2_summer 35 = .ok (.goto (-28), 3) := dk_167 255 228 (dk_at dksX2_summer_1 11 rfl rfl)
theorem dX2_summer_38 : decode cX2_summer 38 = .ok (.aload_n 0, 1) := dk_42 (dk_at dksX2_summer_1 14 rfl rfl)
theorem dX2_summer_39 : decode cX2_summer 39 = .ok (.dup, 1) := dk_89 (dk_at dksX2_summer_1 15 rfl rfl)
theorem dX2_summer_40 : decode cX2_summer 40 = .ok (.getfield 65, 3) := dk_180 0 65 (dk_at dksX2_summer_1 16 rfl rfl)
theorem dX2_summer_43 : decode cX2_summer 43 = .ok (.iconst 1, 1) := dk_4 (dk_at dksX2_summer_1 19 rfl rfl)
theorem dX2_summer_44 : decode cX2_summer 44 = .ok (.iadd, 1) := dk_96 (dk_at dksX2_summer_1 20 rfl rfl)
theorem dX2_summer_45 : decode cX2_summer 45 = .ok (.putfield 65, 3) := dk_181 0 65 (dk_at dksX2_summer_1 21 rfl rfl)
theorem dX2_summer_48 : decode cX2_summer 48 = .ok (.iload_n 1, 1) := dk_27 (dk_at dksX2_summer_2 0 rfl rfl)
theorem dX2_summer_49 : decode cX2_summer 49 = .ok (.aload_n 0, 1) := dk_42 (dk_at dksX2_summer_2 1 rfl rfl)
theorem dX2_summer_50 : decode cX2_summer 50 = .ok (.invokevirtual 146, 3) := dk_182 0 146 (dk_at dksX2_summer_2 2 rfl rfl)
theorem dX2_summer_53 : decode cX2_summer 53 = .ok (.isub, 1) := dk_100 (dk_at dksX2_summer_2 5 rfl rfl)
theorem dX2_summer_54 : decode cX2_summer 54 = .ok (.ireturn, 1) := dk_172 (dk_at dksX2_summer_2 6 rfl rfl)
abbrev cX2_gaps : ByteArray := prog_2_method_7_code
def yX2_gaps : MethodName := ⟨RX2, "gaps", "()I"⟩
def dkwX2_gaps_1 : List UInt8 := [54, 5, 27, 21, 5, 8, 162, 0, 7, 4, 167, 0, 4, 3, 96, 60, 132, 4, 1, 167, 255, 227, 27, 172]
abbrev dktX2_gaps_1 : List UInt8 := dkwX2_gaps_1 ++ []
def dkwX2_gaps_0 : List UInt8 := [3, 60, 42, 180, 0, 25, 77, 44, 190, 62, 3, 54, 4, 21, 4, 29, 162, 0, 29, 44, 21, 4, 46]
abbrev dktX2_gaps_0 : List UInt8 := dkwX2_gaps_0 ++ dktX2_gaps_1
theorem dksX2_gaps_0 : cX2_gaps.data.toList.drop 0 = dktX2_gaps_0 := by decide +kernel
theorem dksX2_gaps_1 : cX2_gaps.data.toList.drop 23 = dktX2_gaps_1 := dk_seg dksX2_gaps_0 23 rfl rfl
theorem dX2_gaps_0 : decode cX2_gaps 0 = .ok (.iconst 0, 1) := dk_3 (dk_at dksX2_gaps_0 0 rfl rfl)
theorem dX2_gaps_1 : decode cX2_gaps 1 = .ok (.istore_n 1, 1) := dk_60 (dk_at dksX2_gaps_0 1 rfl rfl)
theorem dX2_gaps_2 : decode cX2_gaps 2 = .ok (.aload_n 0, 1) := dk_42 (dk_at dksX2_gaps_0 2 rfl rfl)
theorem dX2_gaps_3 : decode cX2_gaps 3 = .ok (.getfield 25, 3) := dk_180 0 25 (dk_at dksX2_gaps_0 3 rfl rfl)
theorem dX2_gaps_6 : decode cX2_gaps 6 = .ok (.astore_n 2, 1) := dk_77 (dk_at dksX2_gaps_0 6 rfl rfl)
theorem dX2_gaps_7 : decode cX2_gaps 7 = .ok (.aload_n 2, 1) := dk_44 (dk_at dksX2_gaps_0 7 rfl rfl)
theorem dX2_gaps_8 : decode cX2_gaps 8 = .ok (.arraylength, 1) := dk_190 (dk_at dksX2_gaps_0 8 rfl rfl)
theorem dX2_gaps_9 : decode cX2_gaps 9 = .ok (.istore_n 3, 1) := dk_62 (dk_at dksX2_gaps_0 9 rfl rfl)
theorem dX2_gaps_10 : decode cX2_gaps 10 = .ok (.iconst 0, 1) := dk_3 (dk_at dksX2_gaps_0 10 rfl rfl)
theorem dX2_gaps_11 : decode cX2_gaps 11 = .ok (.istore 4, 2) := dk_54 4 (dk_at dksX2_gaps_0 11 rfl rfl)
theorem dX2_gaps_13 : decode cX2_gaps 13 = .ok (.iload 4, 2) := dk_21 4 (dk_at dksX2_gaps_0 13 rfl rfl)
theorem dX2_gaps_15 : decode cX2_gaps 15 = .ok (.iload_n 3, 1) := dk_29 (dk_at dksX2_gaps_0 15 rfl rfl)
theorem dX2_gaps_16 : decode cX2_gaps 16 = .ok (.if_icmp .ge 29, 3) := dk_162 0 29 (dk_at dksX2_gaps_0 16 rfl rfl)
theorem dX2_gaps_19 : decode cX2_gaps 19 = .ok (.aload_n 2, 1) := dk_44 (dk_at dksX2_gaps_0 19 rfl rfl)
theorem dX2_gaps_20 : decode cX2_gaps 20 = .ok (.iload 4, 2) := dk_21 4 (dk_at dksX2_gaps_0 20 rfl rfl)
theorem dX2_gaps_22 : decode cX2_gaps 22 = .ok (.iaload, 1) := dk_46 (dk_at dksX2_gaps_0 22 rfl rfl)
theorem dX2_gaps_23 : decode cX2_gaps 23 = .ok (.istore 5, 2) := dk_54 5 (dk_at dksX2_gaps_1 0 rfl rfl)
theorem dX2_gaps_25 : decode cX2_gaps 25 = .ok (.iload_n 1, 1) := dk_27 (dk_at dksX2_gaps_1 2 rfl rfl)
theorem dX2_gaps_26 : decode cX2_gaps 26 = .ok (.iload 5, 2) := dk_21 5 (dk_at dksX2_gaps_1 3 rfl rfl)
theorem dX2_gaps_28 : decode cX2_gaps 28 = .ok (.iconst 5, 1) := dk_8 (dk_at dksX2_gaps_1 5 rfl rfl)
theorem dX2_gaps_29 : decode cX2_gaps 29 = .ok (.if_icmp .ge 7, 3) := dk_162 0 7 (dk_at dksX2_gaps_1 6 rfl rfl)
theorem dX2_gaps_32 : decode cX2_gaps 32 = .ok (.iconst 1, 1) := dk_4 (dk_at dksX2_gaps_1 9 rfl rfl)
theorem dX2_gaps_33 : decode cX2_gaps 33 = .ok (.goto 4, 3) := dk_167 0 4 (dk_at dksX2_gaps_1 10 rfl rfl)
theorem dX2_gaps_36 : decode cX2_gaps 36 = .ok (.iconst 0, 1) := dk_3 (dk_at dksX2_gaps_1 13 rfl rfl)
theorem dX2_gaps_37 : decode cX2_gaps 37 = .ok (.iadd, 1) := dk_96 (dk_at dksX2_gaps_1 14 rfl rfl)
theorem dX2_gaps_38 : decode cX2_gaps 38 = .ok (.istore_n 1, 1) := dk_60 (dk_at dksX2_gaps_1 15 rfl rfl)
theorem dX2_gaps_39 : decode cX2_gaps 39 = .ok (.iinc 4 1, 3) := dk_132 4 1 (dk_at dksX2_gaps_1 16 rfl rfl)
theorem dX2_gaps_42 : decode cX2_gaps 42 = .ok (.goto (-29), 3) := dk_167 255 227 (dk_at dksX2_gaps_1 19 rfl rfl)
theorem dX2_gaps_45 : decode cX2_gaps 45 = .ok (.iload_n 1, 1) := dk_27 (dk_at dksX2_gaps_1 22 rfl rfl)
theorem dX2_gaps_46 : decode cX2_gaps 46 = .ok (.ireturn, 1) := dk_172 (dk_at dksX2_gaps_1 23 rfl rfl)
abbrev cX2_hasWay : ByteArray := prog_2_method_14_code
def yX2_hasWay : MethodName := ⟨RX2, "hasWay", "()Z"⟩
def dkwX2_hasWay_0 : List UInt8 := [42, 3, 16, 15, 182, 0, 114, 2, 159, 0, 7, 4, 167, 0, 4, 3, 172]
abbrev dktX2_hasWay_0 : List UInt8 := dkwX2_hasWay_0 ++ []
theorem dksX2_hasWay_0 : cX2_hasWay.data.toList.drop 0 = dktX2_hasWay_0 := by decide +kernel
theorem dX2_hasWay_0 : decode cX2_hasWay 0 = .ok (.aload_n 0, 1) := dk_42 (dk_at dksX2_hasWay_0 0 rfl rfl)
theorem dX2_hasWay_1 : decode cX2_hasWay 1 = .ok (.iconst 0, 1) := dk_3 (dk_at dksX2_hasWay_0 1 rfl rfl)
theorem dX2_hasWay_2 : decode cX2_hasWay 2 = .ok (.bipush 15, 2) := dk_16 15 (dk_at dksX2_hasWay_0 2 rfl rfl)
theorem dX2_hasWay_4 : decode cX2_hasWay 4 = .ok (.invokevirtual 114, 3) := dk_182 0 114 (dk_at dksX2_hasWay_0 4 rfl rfl)
theorem dX2_hasWay_7 : decode cX2_hasWay 7 = .ok (.iconst (-1), 1) := dk_2 (dk_at dksX2_hasWay_0 7 rfl rfl)
theorem dX2_hasWay_8 : decode cX2_hasWay 8 = .ok (.if_icmp .eq 7, 3) := dk_159 0 7 (dk_at dksX2_hasWay_0 8 rfl rfl)
theorem dX2_hasWay_11 : decode cX2_hasWay 11 = .ok (.iconst 1, 1) := dk_4 (dk_at dksX2_hasWay_0 11 rfl rfl)
theorem dX2_hasWay_12 : decode cX2_hasWay 12 = .ok (.goto 4, 3) := dk_167 0 4 (dk_at dksX2_hasWay_0 12 rfl rfl)
theorem dX2_hasWay_15 : decode cX2_hasWay 15 = .ok (.iconst 0, 1) := dk_3 (dk_at dksX2_hasWay_0 15 rfl rfl)
theorem dX2_hasWay_16 : decode cX2_hasWay 16 = .ok (.ireturn, 1) := dk_172 (dk_at dksX2_hasWay_0 16 rfl rfl)
abbrev cX2_hours : ByteArray := prog_2_method_13_code
def yX2_hours : MethodName := ⟨RX2, "hours", "(II)I"⟩
def dkwX2_hours_0 : List UInt8 := [42, 27, 3, 182, 0, 110, 28, 46, 172]
abbrev dktX2_hours_0 : List UInt8 := dkwX2_hours_0 ++ []
theorem dksX2_hours_0 : cX2_hours.data.toList.drop 0 = dktX2_hours_0 := by decide +kernel
theorem dX2_hours_0 : decode cX2_hours 0 = .ok (.aload_n 0, 1) := dk_42 (dk_at dksX2_hours_0 0 rfl rfl)
theorem dX2_hours_1 : decode cX2_hours 1 = .ok (.iload_n 1, 1) := dk_27 (dk_at dksX2_hours_0 1 rfl rfl)
theorem dX2_hours_2 : decode cX2_hours 2 = .ok (.iconst 0, 1) := dk_3 (dk_at dksX2_hours_0 2 rfl rfl)
theorem dX2_hours_3 : decode cX2_hours 3 = .ok (.invokevirtual 110, 3) := dk_182 0 110 (dk_at dksX2_hours_0 3 rfl rfl)
theorem dX2_hours_6 : decode cX2_hours 6 = .ok (.iload_n 2, 1) := dk_28 (dk_at dksX2_hours_0 6 rfl rfl)
theorem dX2_hours_7 : decode cX2_hours 7 = .ok (.iaload, 1) := dk_46 (dk_at dksX2_hours_0 7 rfl rfl)
theorem dX2_hours_8 : decode cX2_hours 8 = .ok (.ireturn, 1) := dk_172 (dk_at dksX2_hours_0 8 rfl rfl)
abbrev cX2_distances : ByteArray := prog_2_method_8_code
def yX2_distances : MethodName := ⟨RX2, "distances", "(IZ)[I"⟩
def dkwX2_distances_2 : List UInt8 := [21, 4, 28, 182, 0, 86, 132, 4, 1, 167, 255, 238, 45, 176]
abbrev dktX2_distances_2 : List UInt8 := dkwX2_distances_2 ++ []
def dkwX2_distances_1 : List UInt8 := [3, 167, 0, 4, 2, 79, 132, 4, 1, 167, 255, 231, 3, 54, 4, 21, 4, 16, 16, 163, 0, 17, 42, 45]
abbrev dktX2_distances_1 : List UInt8 := dkwX2_distances_1 ++ dktX2_distances_2
def dkwX2_distances_0 : List UInt8 := [16, 16, 188, 10, 78, 3, 54, 4, 21, 4, 16, 16, 162, 0, 24, 45, 21, 4, 21, 4, 27, 160, 0, 7]
abbrev dktX2_distances_0 : List UInt8 := dkwX2_distances_0 ++ dktX2_distances_1
theorem dksX2_distances_0 : cX2_distances.data.toList.drop 0 = dktX2_distances_0 := by decide +kernel
theorem dksX2_distances_1 : cX2_distances.data.toList.drop 24 = dktX2_distances_1 := dk_seg dksX2_distances_0 24 rfl rfl
theorem dksX2_distances_2 : cX2_distances.data.toList.drop 48 = dktX2_distances_2 := dk_seg dksX2_distances_1 24 rfl rfl
theorem dX2_distances_0 : decode cX2_distances 0 = .ok (.bipush 16, 2) := dk_16 16 (dk_at dksX2_distances_0 0 rfl rfl)
theorem dX2_distances_2 : decode cX2_distances 2 = .ok (.newarray .int, 2) := dk_188_10 (dk_at dksX2_distances_0 2 rfl rfl)
theorem dX2_distances_4 : decode cX2_distances 4 = .ok (.astore_n 3, 1) := dk_78 (dk_at dksX2_distances_0 4 rfl rfl)
theorem dX2_distances_5 : decode cX2_distances 5 = .ok (.iconst 0, 1) := dk_3 (dk_at dksX2_distances_0 5 rfl rfl)
theorem dX2_distances_6 : decode cX2_distances 6 = .ok (.istore 4, 2) := dk_54 4 (dk_at dksX2_distances_0 6 rfl rfl)
theorem dX2_distances_8 : decode cX2_distances 8 = .ok (.iload 4, 2) := dk_21 4 (dk_at dksX2_distances_0 8 rfl rfl)
theorem dX2_distances_10 : decode cX2_distances 10 = .ok (.bipush 16, 2) := dk_16 16 (dk_at dksX2_distances_0 10 rfl rfl)
theorem dX2_distances_12 : decode cX2_distances 12 = .ok (.if_icmp .ge 24, 3) := dk_162 0 24 (dk_at dksX2_distances_0 12 rfl rfl)
theorem dX2_distances_15 : decode cX2_distances 15 = .ok (.aload_n 3, 1) := dk_45 (dk_at dksX2_distances_0 15 rfl rfl)
theorem dX2_distances_16 : decode cX2_distances 16 = .ok (.iload 4, 2) := dk_21 4 (dk_at dksX2_distances_0 16 rfl rfl)
theorem dX2_distances_18 : decode cX2_distances 18 = .ok (.iload 4, 2) := dk_21 4 (dk_at dksX2_distances_0 18 rfl rfl)
theorem dX2_distances_20 : decode cX2_distances 20 = .ok (.iload_n 1, 1) := dk_27 (dk_at dksX2_distances_0 20 rfl rfl)
theorem dX2_distances_21 : decode cX2_distances 21 = .ok (.if_icmp .ne 7, 3) := dk_160 0 7 (dk_at dksX2_distances_0 21 rfl rfl)
theorem dX2_distances_24 : decode cX2_distances 24 = .ok (.iconst 0, 1) := dk_3 (dk_at dksX2_distances_1 0 rfl rfl)
theorem dX2_distances_25 : decode cX2_distances 25 = .ok (.goto 4, 3) := dk_167 0 4 (dk_at dksX2_distances_1 1 rfl rfl)
theorem dX2_distances_28 : decode cX2_distances 28 = .ok (.iconst (-1), 1) := dk_2 (dk_at dksX2_distances_1 4 rfl rfl)
theorem dX2_distances_29 : decode cX2_distances 29 = .ok (.iastore, 1) := dk_79 (dk_at dksX2_distances_1 5 rfl rfl)
theorem dX2_distances_30 : decode cX2_distances 30 = .ok (.iinc 4 1, 3) := dk_132 4 1 (dk_at dksX2_distances_1 6 rfl rfl)
theorem dX2_distances_33 : decode cX2_distances 33 = .ok (.goto (-25), 3) := dk_167 255 231 (dk_at dksX2_distances_1 9 rfl rfl)
theorem dX2_distances_36 : decode cX2_distances 36 = .ok (.iconst 0, 1) := dk_3 (dk_at dksX2_distances_1 12 rfl rfl)
theorem dX2_distances_37 : decode cX2_distances 37 = .ok (.istore 4, 2) := dk_54 4 (dk_at dksX2_distances_1 13 rfl rfl)
theorem dX2_distances_39 : decode cX2_distances 39 = .ok (.iload 4, 2) := dk_21 4 (dk_at dksX2_distances_1 15 rfl rfl)
theorem dX2_distances_41 : decode cX2_distances 41 = .ok (.bipush 16, 2) := dk_16 16 (dk_at dksX2_distances_1 17 rfl rfl)
theorem dX2_distances_43 : decode cX2_distances 43 = .ok (.if_icmp .gt 17, 3) := dk_163 0 17 (dk_at dksX2_distances_1 19 rfl rfl)
theorem dX2_distances_46 : decode cX2_distances 46 = .ok (.aload_n 0, 1) := dk_42 (dk_at dksX2_distances_1 22 rfl rfl)
theorem dX2_distances_47 : decode cX2_distances 47 = .ok (.aload_n 3, 1) := dk_45 (dk_at dksX2_distances_1 23 rfl rfl)
theorem dX2_distances_48 : decode cX2_distances 48 = .ok (.iload 4, 2) := dk_21 4 (dk_at dksX2_distances_2 0 rfl rfl)
theorem dX2_distances_50 : decode cX2_distances 50 = .ok (.iload_n 2, 1) := dk_28 (dk_at dksX2_distances_2 2 rfl rfl)
theorem dX2_distances_51 : decode cX2_distances 51 = .ok (.invokevirtual 86, 3) := dk_182 0 86 (dk_at dksX2_distances_2 3 rfl rfl)
theorem dX2_distances_54 : decode cX2_distances 54 = .ok (.iinc 4 1, 3) := dk_132 4 1 (dk_at dksX2_distances_2 6 rfl rfl)
theorem dX2_distances_57 : decode cX2_distances 57 = .ok (.goto (-18), 3) := dk_167 255 238 (dk_at dksX2_distances_2 9 rfl rfl)
theorem dX2_distances_60 : decode cX2_distances 60 = .ok (.aload_n 3, 1) := dk_45 (dk_at dksX2_distances_2 12 rfl rfl)
theorem dX2_distances_61 : decode cX2_distances 61 = .ok (.areturn, 1) := dk_176 (dk_at dksX2_distances_2 13 rfl rfl)
abbrev cX2_spread : ByteArray := prog_2_method_9_code
def yX2_spread : MethodName := ⟨RX2, "spread", "([IIZ)V"⟩
def dkwX2_spread_2 : List UInt8 := [54, 4, 132, 5, 1, 167, 255, 217, 167, 255, 203, 177]
abbrev dktX2_spread_2 : List UInt8 := dkwX2_spread_2 ++ []
def dkwX2_spread_1 : List UInt8 := [21, 5, 46, 28, 160, 0, 18, 42, 43, 21, 5, 29, 182, 0, 90, 153, 0, 7, 4, 167, 0, 4, 3, 128]
abbrev dktX2_spread_1 : List UInt8 := dkwX2_spread_1 ++ dktX2_spread_2
def dkwX2_spread_0 : List UInt8 := [4, 54, 4, 21, 4, 153, 0, 54, 3, 54, 4, 3, 54, 5, 21, 5, 16, 16, 162, 0, 38, 21, 4, 43]
abbrev dktX2_spread_0 : List UInt8 := dkwX2_spread_0 ++ dktX2_spread_1
theorem dksX2_spread_0 : cX2_spread.data.toList.drop 0 = dktX2_spread_0 := by decide +kernel
theorem dksX2_spread_1 : cX2_spread.data.toList.drop 24 = dktX2_spread_1 := dk_seg dksX2_spread_0 24 rfl rfl
theorem dksX2_spread_2 : cX2_spread.data.toList.drop 48 = dktX2_spread_2 := dk_seg dksX2_spread_1 24 rfl rfl
theorem dX2_spread_0 : decode cX2_spread 0 = .ok (.iconst 1, 1) := dk_4 (dk_at dksX2_spread_0 0 rfl rfl)
theorem dX2_spread_1 : decode cX2_spread 1 = .ok (.istore 4, 2) := dk_54 4 (dk_at dksX2_spread_0 1 rfl rfl)
theorem dX2_spread_3 : decode cX2_spread 3 = .ok (.iload 4, 2) := dk_21 4 (dk_at dksX2_spread_0 3 rfl rfl)
theorem dX2_spread_5 : decode cX2_spread 5 = .ok (.ifCond .eq 54, 3) := dk_153 0 54 (dk_at dksX2_spread_0 5 rfl rfl)
theorem dX2_spread_8 : decode cX2_spread 8 = .ok (.iconst 0, 1) := dk_3 (dk_at dksX2_spread_0 8 rfl rfl)
theorem dX2_spread_9 : decode cX2_spread 9 = .ok (.istore 4, 2) := dk_54 4 (dk_at dksX2_spread_0 9 rfl rfl)
theorem dX2_spread_11 : decode cX2_spread 11 = .ok (.iconst 0, 1) := dk_3 (dk_at dksX2_spread_0 11 rfl rfl)
theorem dX2_spread_12 : decode cX2_spread 12 = .ok (.istore 5, 2) := dk_54 5 (dk_at dksX2_spread_0 12 rfl rfl)
theorem dX2_spread_14 : decode cX2_spread 14 = .ok (.iload 5, 2) := dk_21 5 (dk_at dksX2_spread_0 14 rfl rfl)
theorem dX2_spread_16 : decode cX2_spread 16 = .ok (.bipush 16, 2) := dk_16 16 (dk_at dksX2_spread_0 16 rfl rfl)
theorem dX2_spread_18 : decode cX2_spread 18 = .ok (.if_icmp .ge 38, 3) := dk_162 0 38 (dk_at dksX2_spread_0 18 rfl rfl)
theorem dX2_spread_21 : decode cX2_spread 21 = .ok (.iload 4, 2) := dk_21 4 (dk_at dksX2_spread_0 21 rfl rfl)
theorem dX2_spread_23 : decode cX2_spread 23 = .ok (.aload_n 1, 1) := dk_43 (dk_at dksX2_spread_0 23 rfl rfl)
theorem dX2_spread_24 : decode cX2_spread 24 = .ok (.iload 5, 2) := dk_21 5 (dk_at dksX2_spread_1 0 rfl rfl)
theorem dX2_spread_26 : decode cX2_spread 26 = .ok (.iaload, 1) := dk_46 (dk_at dksX2_spread_1 2 rfl rfl)
theorem dX2_spread_27 : decode cX2_spread 27 = .ok (.iload_n 2, 1) := dk_28 (dk_at dksX2_spread_1 3 rfl rfl)
theorem dX2_spread_28 : decode cX2_spread 28 = .ok (.if_icmp .ne 18, 3) := dk_160 0 18 (dk_at dksX2_spread_1 4 rfl rfl)
theorem dX2_spread_31 : decode cX2_spread 31 = .ok (.aload_n 0, 1) := dk_42 (dk_at dksX2_spread_1 7 rfl rfl)
theorem dX2_spread_32 : decode cX2_spread 32 = .ok (.aload_n 1, 1) := dk_43 (dk_at dksX2_spread_1 8 rfl rfl)
theorem dX2_spread_33 : decode cX2_spread 33 = .ok (.iload 5, 2) := dk_21 5 (dk_at dksX2_spread_1 9 rfl rfl)
theorem dX2_spread_35 : decode cX2_spread 35 = .ok (.iload_n 3, 1) := dk_29 (dk_at dksX2_spread_1 11 rfl rfl)
theorem dX2_spread_36 : decode cX2_spread 36 = .ok (.invokevirtual 90, 3) := dk_182 0 90 (dk_at dksX2_spread_1 12 rfl rfl)
theorem dX2_spread_39 : decode cX2_spread 39 = .ok (.ifCond .eq 7, 3) := dk_153 0 7 (dk_at dksX2_spread_1 15 rfl rfl)
theorem dX2_spread_42 : decode cX2_spread 42 = .ok (.iconst 1, 1) := dk_4 (dk_at dksX2_spread_1 18 rfl rfl)
theorem dX2_spread_43 : decode cX2_spread 43 = .ok (.goto 4, 3) := dk_167 0 4 (dk_at dksX2_spread_1 19 rfl rfl)
theorem dX2_spread_46 : decode cX2_spread 46 = .ok (.iconst 0, 1) := dk_3 (dk_at dksX2_spread_1 22 rfl rfl)
theorem dX2_spread_47 : decode cX2_spread 47 = .ok (.ior, 1) := dk_128 (dk_at dksX2_spread_1 23 rfl rfl)
theorem dX2_spread_48 : decode cX2_spread 48 = .ok (.istore 4, 2) := dk_54 4 (dk_at dksX2_spread_2 0 rfl rfl)
theorem dX2_spread_50 : decode cX2_spread 50 = .ok (.iinc 5 1, 3) := dk_132 5 1 (dk_at dksX2_spread_2 2 rfl rfl)
theorem dX2_spread_53 : decode cX2_spread 53 = .ok (.goto (-39), 3) := dk_167 255 217 (dk_at dksX2_spread_2 5 rfl rfl)
theorem dX2_spread_56 : decode cX2_spread 56 = .ok (.goto (-53), 3) := dk_167 255 203 (dk_at dksX2_spread_2 8 rfl rfl)
theorem dX2_spread_59 : decode cX2_spread 59 = .ok (.return_, 1) := dk_177 (dk_at dksX2_spread_2 11 rfl rfl)
abbrev cX2_spreadFrom : ByteArray := prog_2_method_10_code
def yX2_spreadFrom : MethodName := ⟨RX2, "spreadFrom", "([IIZ)Z"⟩
def dkwX2_spreadFrom_5 : List UInt8 := [160, 0, 12, 43, 21, 6, 43, 28, 46, 4, 96, 79, 132, 5, 1, 167, 255, 134, 21, 4, 172]
abbrev dktX2_spreadFrom_5 : List UInt8 := dkwX2_spreadFrom_5 ++ []
def dkwX2_spreadFrom_4 : List UInt8 := [29, 128, 54, 4, 167, 0, 30, 21, 6, 2, 159, 0, 24, 29, 153, 0, 20, 43, 21, 6, 46, 2]
abbrev dktX2_spreadFrom_4 : List UInt8 := dkwX2_spreadFrom_4 ++ dktX2_spreadFrom_5
def dkwX2_spreadFrom_3 : List UInt8 := [164, 0, 31, 43, 21, 6, 29, 153, 0, 9, 43, 28, 46, 167, 0, 8, 43, 28, 46, 4, 96, 79, 21, 4]
abbrev dktX2_spreadFrom_3 : List UInt8 := dkwX2_spreadFrom_3 ++ dktX2_spreadFrom_4
def dkwX2_spreadFrom_2 : List UInt8 := [153, 0, 53, 43, 21, 6, 46, 2, 159, 0, 17, 29, 153, 0, 41, 43, 21, 6, 46, 43, 28, 46]
abbrev dktX2_spreadFrom_2 : List UInt8 := dkwX2_spreadFrom_2 ++ dktX2_spreadFrom_3
def dkwX2_spreadFrom_1 : List UInt8 := [159, 0, 17, 42, 28, 21, 6, 182, 0, 97, 153, 0, 7, 4, 167, 0, 4, 3, 54, 7, 21, 7]
abbrev dktX2_spreadFrom_1 : List UInt8 := dkwX2_spreadFrom_1 ++ dktX2_spreadFrom_2
def dkwX2_spreadFrom_0 : List UInt8 := [3, 54, 4, 3, 54, 5, 21, 5, 7, 162, 0, 122, 28, 21, 5, 184, 0, 94, 54, 6, 21, 6, 2]
abbrev dktX2_spreadFrom_0 : List UInt8 := dkwX2_spreadFrom_0 ++ dktX2_spreadFrom_1
theorem dksX2_spreadFrom_0 : cX2_spreadFrom.data.toList.drop 0 = dktX2_spreadFrom_0 := by decide +kernel
theorem dksX2_spreadFrom_1 : cX2_spreadFrom.data.toList.drop 23 = dktX2_spreadFrom_1 := dk_seg dksX2_spreadFrom_0 23 rfl rfl
theorem dksX2_spreadFrom_2 : cX2_spreadFrom.data.toList.drop 45 = dktX2_spreadFrom_2 := dk_seg dksX2_spreadFrom_1 22 rfl rfl
theorem dksX2_spreadFrom_3 : cX2_spreadFrom.data.toList.drop 67 = dktX2_spreadFrom_3 := dk_seg dksX2_spreadFrom_2 22 rfl rfl
theorem dksX2_spreadFrom_4 : cX2_spreadFrom.data.toList.drop 91 = dktX2_spreadFrom_4 := dk_seg dksX2_spreadFrom_3 24 rfl rfl
theorem dksX2_spreadFrom_5 : cX2_spreadFrom.data.toList.drop 113 = dktX2_spreadFrom_5 := dk_seg dksX2_spreadFrom_4 22 rfl rfl
theorem dX2_spreadFrom_0 : decode cX2_spreadFrom 0 = .ok (.iconst 0, 1) := dk_3 (dk_at dksX2_spreadFrom_0 0 rfl rfl)
theorem dX2_spreadFrom_1 : decode cX2_spreadFrom 1 = .ok (.istore 4, 2) := dk_54 4 (dk_at dksX2_spreadFrom_0 1 rfl rfl)
theorem dX2_spreadFrom_3 : decode cX2_spreadFrom 3 = .ok (.iconst 0, 1) := dk_3 (dk_at dksX2_spreadFrom_0 3 rfl rfl)
theorem dX2_spreadFrom_4 : decode cX2_spreadFrom 4 = .ok (.istore 5, 2) := dk_54 5 (dk_at dksX2_spreadFrom_0 4 rfl rfl)
theorem dX2_spreadFrom_6 : decode cX2_spreadFrom 6 = .ok (.iload 5, 2) := dk_21 5 (dk_at dksX2_spreadFrom_0 6 rfl rfl)
theorem dX2_spreadFrom_8 : decode cX2_spreadFrom 8 = .ok (.iconst 4, 1) := dk_7 (dk_at dksX2_spreadFrom_0 8 rfl rfl)
theorem dX2_spreadFrom_9 : decode cX2_spreadFrom 9 = .ok (.if_icmp .ge 122, 3) := dk_162 0 122 (dk_at dksX2_spreadFrom_0 9 rfl rfl)
theorem dX2_spreadFrom_12 : decode cX2_spreadFrom 12 = .ok (.iload_n 2, 1) := dk_28 (dk_at dksX2_spreadFrom_0 12 rfl rfl)
theorem dX2_spreadFrom_13 : decode cX2_spreadFrom 13 = .ok (.iload 5, 2) := dk_21 5 (dk_at dksX2_spreadFrom_0 13 rfl rfl)
theorem dX2_spreadFrom_15 : decode cX2_spreadFrom 15 = .ok (.invokestatic 94, 3) := dk_184 0 94 (dk_at dksX2_spreadFrom_0 15 rfl rfl)
theorem dX2_spreadFrom_18 : decode cX2_spreadFrom 18 = .ok (.istore 6, 2) := dk_54 6 (dk_at dksX2_spreadFrom_0 18 rfl rfl)
theorem dX2_spreadFrom_20 : decode cX2_spreadFrom 20 = .ok (.iload 6, 2) := dk_21 6 (dk_at dksX2_spreadFrom_0 20 rfl rfl)
theorem dX2_spreadFrom_22 : decode cX2_spreadFrom 22 = .ok (.iconst (-1), 1) := dk_2 (dk_at dksX2_spreadFrom_0 22 rfl rfl)
theorem dX2_spreadFrom_23 : decode cX2_spreadFrom 23 = .ok (.if_icmp .eq 17, 3) := dk_159 0 17 (dk_at dksX2_spreadFrom_1 0 rfl rfl)
theorem dX2_spreadFrom_26 : decode cX2_spreadFrom 26 = .ok (.aload_n 0, 1) := dk_42 (dk_at dksX2_spreadFrom_1 3 rfl rfl)
theorem dX2_spreadFrom_27 : decode cX2_spreadFrom 27 = .ok (.iload_n 2, 1) := dk_28 (dk_at dksX2_spreadFrom_1 4 rfl rfl)
theorem dX2_spreadFrom_28 : decode cX2_spreadFrom 28 = .ok (.iload 6, 2) := dk_21 6 (dk_at dksX2_spreadFrom_1 5 rfl rfl)
theorem dX2_spreadFrom_30 : decode cX2_spreadFrom 30 = .ok (.invokevirtual 97, 3) := dk_182 0 97 (dk_at dksX2_spreadFrom_1 7 rfl rfl)
theorem dX2_spreadFrom_33 : decode cX2_spreadFrom 33 = .ok (.ifCond .eq 7, 3) := dk_153 0 7 (dk_at dksX2_spreadFrom_1 10 rfl rfl)
theorem dX2_spreadFrom_36 : decode cX2_spreadFrom 36 = .ok (.iconst 1, 1) := dk_4 (dk_at dksX2_spreadFrom_1 13 rfl rfl)
theorem dX2_spreadFrom_37 : decode cX2_spreadFrom 37 = .ok (.goto 4, 3) := dk_167 0 4 (dk_at dksX2_spreadFrom_1 14 rfl rfl)
theorem dX2_spreadFrom_40 : decode cX2_spreadFrom 40 = .ok (.iconst 0, 1) := dk_3 (dk_at dksX2_spreadFrom_1 17 rfl rfl)
theorem dX2_spreadFrom_41 : decode cX2_spreadFrom 41 = .ok (.istore 7, 2) := dk_54 7 (dk_at dksX2_spreadFrom_1 18 rfl rfl)
theorem dX2_spreadFrom_43 : decode cX2_spreadFrom 43 = .ok (.iload 7, 2) := dk_21 7 (dk_at dksX2_spreadFrom_1 20 rfl rfl)
theorem dX2_spreadFrom_45 : decode cX2_spreadFrom 45 = .ok (.ifCond .eq 53, 3) := dk_153 0 53 (dk_at dksX2_spreadFrom_2 0 rfl rfl)
theorem dX2_spreadFrom_48 : decode cX2_spreadFrom 48 = .ok (.aload_n 1, 1) := dk_43 (dk_at dksX2_spreadFrom_2 3 rfl rfl)
theorem dX2_spreadFrom_49 : decode cX2_spreadFrom 49 = .ok (.iload 6, 2) := dk_21 6 (dk_at dksX2_spreadFrom_2 4 rfl rfl)
theorem dX2_spreadFrom_51 : decode cX2_spreadFrom 51 = .ok (.iaload, 1) := dk_46 (dk_at dksX2_spreadFrom_2 6 rfl rfl)
theorem dX2_spreadFrom_52 : decode cX2_spreadFrom 52 = .ok (.iconst (-1), 1) := dk_2 (dk_at dksX2_spreadFrom_2 7 rfl rfl)
theorem dX2_spreadFrom_53 : decode cX2_spreadFrom 53 = .ok (.if_icmp .eq 17, 3) := dk_159 0 17 (dk_at dksX2_spreadFrom_2 8 rfl rfl)
theorem dX2_spreadFrom_56 : decode cX2_spreadFrom 56 = .ok (.iload_n 3, 1) := dk_29 (dk_at dksX2_spreadFrom_2 11 rfl rfl)
theorem dX2_spreadFrom_57 : decode cX2_spreadFrom 57 = .ok (.ifCond .eq 41, 3) := dk_153 0 41 (dk_at dksX2_spreadFrom_2 12 rfl rfl)
theorem dX2_spreadFrom_60 : decode cX2_spreadFrom 60 = .ok (.aload_n 1, 1) := dk_43 (dk_at dksX2_spreadFrom_2 15 rfl rfl)
theorem dX2_spreadFrom_61 : decode cX2_spreadFrom 61 = .ok (.iload 6, 2) := dk_21 6 (dk_at dksX2_spreadFrom_2 16 rfl rfl)
theorem dX2_spreadFrom_63 : decode cX2_spreadFrom 63 = .ok (.iaload, 1) := dk_46 (dk_at dksX2_spreadFrom_2 18 rfl rfl)
theorem dX2_spreadFrom_64 : decode cX2_spreadFrom 64 = .ok (.aload_n 1, 1) := dk_43 (dk_at dksX2_spreadFrom_2 19 rfl rfl)
theorem dX2_spreadFrom_65 : decode cX2_spreadFrom 65 = .ok (.iload_n 2, 1) := dk_28 (dk_at dksX2_spreadFrom_2 20 rfl rfl)
theorem dX2_spreadFrom_66 : decode cX2_spreadFrom 66 = .ok (.iaload, 1) := dk_46 (dk_at dksX2_spreadFrom_2 21 rfl rfl)
theorem dX2_spreadFrom_67 : decode cX2_spreadFrom 67 = .ok (.if_icmp .le 31, 3) := dk_164 0 31 (dk_at dksX2_spreadFrom_3 0 rfl rfl)
theorem dX2_spreadFrom_70 : decode cX2_spreadFrom 70 = .ok (.aload_n 1, 1) := dk_43 (dk_at dksX2_spreadFrom_3 3 rfl rfl)
theorem dX2_spreadFrom_71 : decode cX2_spreadFrom 71 = .ok (.iload 6, 2) := dk_21 6 (dk_at dksX2_spreadFrom_3 4 rfl rfl)
theorem dX2_spreadFrom_73 : decode cX2_spreadFrom 73 = .ok (.iload_n 3, 1) := dk_29 (dk_at dksX2_spreadFrom_3 6 rfl rfl)
theorem dX2_spreadFrom_74 : decode cX2_spreadFrom 74 = .ok (.ifCond .eq 9, 3) := dk_153 0 9 (dk_at dksX2_spreadFrom_3 7 rfl rfl)
theorem dX2_spreadFrom_77 : decode cX2_spreadFrom 77 = .ok (.aload_n 1, 1) := dk_43 (dk_at dksX2_spreadFrom_3 10 rfl rfl)
theorem dX2_spreadFrom_78 : decode cX2_spreadFrom 78 = .ok (.iload_n 2, 1) := dk_28 (dk_at dksX2_spreadFrom_3 11 rfl rfl)
theorem dX2_spreadFrom_79 : decode cX2_spreadFrom 79 = .ok (.iaload, 1) := dk_46 (dk_at dksX2_spreadFrom_3 12 rfl rfl)
theorem dX2_spreadFrom_80 : decode cX2_spreadFrom 80 = .ok (.goto 8, 3) := dk_167 0 8 (dk_at dksX2_spreadFrom_3 13 rfl rfl)
theorem dX2_spreadFrom_83 : decode cX2_spreadFrom 83 = .ok (.aload_n 1, 1) := dk_43 (dk_at dksX2_spreadFrom_3 16 rfl rfl)
theorem dX2_spreadFrom_84 : decode cX2_spreadFrom 84 = .ok (.iload_n 2, 1) := dk_28 (dk_at dksX2_spreadFrom_3 17 rfl rfl)
theorem dX2_spreadFrom_85 : decode cX2_spreadFrom 85 = .ok (.iaload, 1) := dk_46 (dk_at dksX2_spreadFrom_3 18 rfl rfl)
theorem dX2_spreadFrom_86 : decode cX2_spreadFrom 86 = .ok (.iconst 1, 1) := dk_4 (dk_at dksX2_spreadFrom_3 19 rfl rfl)
theorem dX2_spreadFrom_87 : decode cX2_spreadFrom 87 = .ok (.iadd, 1) := dk_96 (dk_at dksX2_spreadFrom_3 20 rfl rfl)
theorem dX2_spreadFrom_88 : decode cX2_spreadFrom 88 = .ok (.iastore, 1) := dk_79 (dk_at dksX2_spreadFrom_3 21 rfl rfl)
theorem dX2_spreadFrom_89 : decode cX2_spreadFrom 89 = .ok (.iload 4, 2) := dk_21 4 (dk_at dksX2_spreadFrom_3 22 rfl rfl)
theorem dX2_spreadFrom_91 : decode cX2_spreadFrom 91 = .ok (.iload_n 3, 1) := dk_29 (dk_at dksX2_spreadFrom_4 0 rfl rfl)
theorem dX2_spreadFrom_92 : decode cX2_spreadFrom 92 = .ok (.ior, 1) := dk_128 (dk_at dksX2_spreadFrom_4 1 rfl rfl)
theorem dX2_spreadFrom_93 : decode cX2_spreadFrom 93 = .ok (.istore 4, 2) := dk_54 4 (dk_at dksX2_spreadFrom_4 2 rfl rfl)
theorem dX2_spreadFrom_95 : decode cX2_spreadFrom 95 = .ok (.goto 30, 3) := dk_167 0 30 (dk_at dksX2_spreadFrom_4 4 rfl rfl)
theorem dX2_spreadFrom_98 : decode cX2_spreadFrom 98 = .ok (.iload 6, 2) := dk_21 6 (dk_at dksX2_spreadFrom_4 7 rfl rfl)
theorem dX2_spreadFrom_100 : decode cX2_spreadFrom 100 = .ok (.iconst (-1), 1) := dk_2 (dk_at dksX2_spreadFrom_4 9 rfl rfl)
theorem dX2_spreadFrom_101 : decode cX2_spreadFrom 101 = .ok (.if_icmp .eq 24, 3) := dk_159 0 24 (dk_at dksX2_spreadFrom_4 10 rfl rfl)
theorem dX2_spreadFrom_104 : decode cX2_spreadFrom 104 = .ok (.iload_n 3, 1) := dk_29 (dk_at dksX2_spreadFrom_4 13 rfl rfl)
theorem dX2_spreadFrom_105 : decode cX2_spreadFrom 105 = .ok (.ifCond .eq 20, 3) := dk_153 0 20 (dk_at dksX2_spreadFrom_4 14 rfl rfl)
theorem dX2_spreadFrom_108 : decode cX2_spreadFrom 108 = .ok (.aload_n 1, 1) := dk_43 (dk_at dksX2_spreadFrom_4 17 rfl rfl)
theorem dX2_spreadFrom_109 : decode cX2_spreadFrom 109 = .ok (.iload 6, 2) := dk_21 6 (dk_at dksX2_spreadFrom_4 18 rfl rfl)
theorem dX2_spreadFrom_111 : decode cX2_spreadFrom 111 = .ok (.iaload, 1) := dk_46 (dk_at dksX2_spreadFrom_4 20 rfl rfl)
theorem dX2_spreadFrom_112 : decode cX2_spreadFrom 112 = .ok (.iconst (-1), 1) := dk_2 (dk_at dksX2_spreadFrom_4 21 rfl rfl)
theorem dX2_spreadFrom_113 : decode cX2_spreadFrom 113 = .ok (.if_icmp .ne 12, 3) := dk_160 0 12 (dk_at dksX2_spreadFrom_5 0 rfl rfl)
theorem dX2_spreadFrom_116 : decode cX2_spreadFrom 116 = .ok (.aload_n 1, 1) := dk_43 (dk_at dksX2_spreadFrom_5 3 rfl rfl)
theorem dX2_spreadFrom_117 : decode cX2_spreadFrom 117 = .ok (.iload 6, 2) := dk_21 6 (dk_at dksX2_spreadFrom_5 4 rfl rfl)
theorem dX2_spreadFrom_119 : decode cX2_spreadFrom 119 = .ok (.aload_n 1, 1) := dk_43 (dk_at dksX2_spreadFrom_5 6 rfl rfl)
theorem dX2_spreadFrom_120 : decode cX2_spreadFrom 120 = .ok (.iload_n 2, 1) := dk_28 (dk_at dksX2_spreadFrom_5 7 rfl rfl)
theorem dX2_spreadFrom_121 : decode cX2_spreadFrom 121 = .ok (.iaload, 1) := dk_46 (dk_at dksX2_spreadFrom_5 8 rfl rfl)
theorem dX2_spreadFrom_122 : decode cX2_spreadFrom 122 = .ok (.iconst 1, 1) := dk_4 (dk_at dksX2_spreadFrom_5 9 rfl rfl)
theorem dX2_spreadFrom_123 : decode cX2_spreadFrom 123 = .ok (.iadd, 1) := dk_96 (dk_at dksX2_spreadFrom_5 10 rfl rfl)
theorem dX2_spreadFrom_124 : decode cX2_spreadFrom 124 = .ok (.iastore, 1) := dk_79 (dk_at dksX2_spreadFrom_5 11 rfl rfl)
theorem dX2_spreadFrom_125 : decode cX2_spreadFrom 125 = .ok (.iinc 5 1, 3) := dk_132 5 1 (dk_at dksX2_spreadFrom_5 12 rfl rfl)
theorem dX2_spreadFrom_128 : decode cX2_spreadFrom 128 = .ok (.goto (-122), 3) := dk_167 255 134 (dk_at dksX2_spreadFrom_5 15 rfl rfl)
theorem dX2_spreadFrom_131 : decode cX2_spreadFrom 131 = .ok (.iload 4, 2) := dk_21 4 (dk_at dksX2_spreadFrom_5 18 rfl rfl)
theorem dX2_spreadFrom_133 : decode cX2_spreadFrom 133 = .ok (.ireturn, 1) := dk_172 (dk_at dksX2_spreadFrom_5 20 rfl rfl)
abbrev cX2_isGap : ByteArray := prog_2_method_6_code
def yX2_isGap : MethodName := ⟨RX2, "isGap", "(II)Z"⟩
def dkwX2_isGap_1 : List UInt8 := [167, 0, 4, 3, 172]
abbrev dktX2_isGap_1 : List UInt8 := dkwX2_isGap_1 ++ []
def dkwX2_isGap_0 : List UInt8 := [27, 28, 184, 0, 82, 62, 29, 2, 159, 0, 17, 42, 180, 0, 25, 29, 46, 8, 162, 0, 7, 4]
abbrev dktX2_isGap_0 : List UInt8 := dkwX2_isGap_0 ++ dktX2_isGap_1
theorem dksX2_isGap_0 : cX2_isGap.data.toList.drop 0 = dktX2_isGap_0 := by decide +kernel
theorem dksX2_isGap_1 : cX2_isGap.data.toList.drop 22 = dktX2_isGap_1 := dk_seg dksX2_isGap_0 22 rfl rfl
theorem dX2_isGap_0 : decode cX2_isGap 0 = .ok (.iload_n 1, 1) := dk_27 (dk_at dksX2_isGap_0 0 rfl rfl)
theorem dX2_isGap_1 : decode cX2_isGap 1 = .ok (.iload_n 2, 1) := dk_28 (dk_at dksX2_isGap_0 1 rfl rfl)
theorem dX2_isGap_2 : decode cX2_isGap 2 = .ok (.invokestatic 82, 3) := dk_184 0 82 (dk_at dksX2_isGap_0 2 rfl rfl)
theorem dX2_isGap_5 : decode cX2_isGap 5 = .ok (.istore_n 3, 1) := dk_62 (dk_at dksX2_isGap_0 5 rfl rfl)
theorem dX2_isGap_6 : decode cX2_isGap 6 = .ok (.iload_n 3, 1) := dk_29 (dk_at dksX2_isGap_0 6 rfl rfl)
theorem dX2_isGap_7 : decode cX2_isGap 7 = .ok (.iconst (-1), 1) := dk_2 (dk_at dksX2_isGap_0 7 rfl rfl)
theorem dX2_isGap_8 : decode cX2_isGap 8 = .ok (.if_icmp .eq 17, 3) := dk_159 0 17 (dk_at dksX2_isGap_0 8 rfl rfl)
theorem dX2_isGap_11 : decode cX2_isGap 11 = .ok (.aload_n 0, 1) := dk_42 (dk_at dksX2_isGap_0 11 rfl rfl)
theorem dX2_isGap_12 : decode cX2_isGap 12 = .ok (.getfield 25, 3) := dk_180 0 25 (dk_at dksX2_isGap_0 12 rfl rfl)
theorem dX2_isGap_15 : decode cX2_isGap 15 = .ok (.iload_n 3, 1) := dk_29 (dk_at dksX2_isGap_0 15 rfl rfl)
theorem dX2_isGap_16 : decode cX2_isGap 16 = .ok (.iaload, 1) := dk_46 (dk_at dksX2_isGap_0 16 rfl rfl)
theorem dX2_isGap_17 : decode cX2_isGap 17 = .ok (.iconst 5, 1) := dk_8 (dk_at dksX2_isGap_0 17 rfl rfl)
theorem dX2_isGap_18 : decode cX2_isGap 18 = .ok (.if_icmp .ge 7, 3) := dk_162 0 7 (dk_at dksX2_isGap_0 18 rfl rfl)
theorem dX2_isGap_21 : decode cX2_isGap 21 = .ok (.iconst 1, 1) := dk_4 (dk_at dksX2_isGap_0 21 rfl rfl)
theorem dX2_isGap_22 : decode cX2_isGap 22 = .ok (.goto 4, 3) := dk_167 0 4 (dk_at dksX2_isGap_1 0 rfl rfl)
theorem dX2_isGap_25 : decode cX2_isGap 25 = .ok (.iconst 0, 1) := dk_3 (dk_at dksX2_isGap_1 3 rfl rfl)
theorem dX2_isGap_26 : decode cX2_isGap 26 = .ok (.ireturn, 1) := dk_172 (dk_at dksX2_isGap_1 4 rfl rfl)
abbrev cX2_hedge : ByteArray := prog_2_method_19_code
def yX2_hedge : MethodName := ⟨RX2, "hedge", "(III)I"⟩
def dkwX2_hedge_3 : List UInt8 := [180, 0, 25, 21, 4, 29, 79, 21, 5, 172]
abbrev dktX2_hedge_3 : List UInt8 := dkwX2_hedge_3 ++ []
def dkwX2_hedge_2 : List UInt8 := [21, 4, 46, 54, 5, 21, 5, 29, 160, 0, 7, 4, 167, 0, 4, 3, 6, 29, 184, 0, 120, 42]
abbrev dktX2_hedge_2 : List UInt8 := dkwX2_hedge_2 ++ dktX2_hedge_3
def dkwX2_hedge_1 : List UInt8 := [153, 0, 7, 4, 167, 0, 4, 3, 184, 0, 139, 42, 27, 28, 182, 0, 143, 54, 4, 42, 180, 0, 25]
abbrev dktX2_hedge_1 : List UInt8 := dkwX2_hedge_1 ++ dktX2_hedge_2
def dkwX2_hedge_0 : List UInt8 := [5, 188, 10, 89, 3, 27, 79, 89, 4, 28, 79, 184, 0, 135, 153, 0, 17, 29, 3, 16, 9, 184, 0, 78]
abbrev dktX2_hedge_0 : List UInt8 := dkwX2_hedge_0 ++ dktX2_hedge_1
theorem dksX2_hedge_0 : cX2_hedge.data.toList.drop 0 = dktX2_hedge_0 := by decide +kernel
theorem dksX2_hedge_1 : cX2_hedge.data.toList.drop 24 = dktX2_hedge_1 := dk_seg dksX2_hedge_0 24 rfl rfl
theorem dksX2_hedge_2 : cX2_hedge.data.toList.drop 47 = dktX2_hedge_2 := dk_seg dksX2_hedge_1 23 rfl rfl
theorem dksX2_hedge_3 : cX2_hedge.data.toList.drop 69 = dktX2_hedge_3 := dk_seg dksX2_hedge_2 22 rfl rfl
theorem dX2_hedge_0 : decode cX2_hedge 0 = .ok (.iconst 2, 1) := dk_5 (dk_at dksX2_hedge_0 0 rfl rfl)
theorem dX2_hedge_1 : decode cX2_hedge 1 = .ok (.newarray .int, 2) := dk_188_10 (dk_at dksX2_hedge_0 1 rfl rfl)
theorem dX2_hedge_3 : decode cX2_hedge 3 = .ok (.dup, 1) := dk_89 (dk_at dksX2_hedge_0 3 rfl rfl)
theorem dX2_hedge_4 : decode cX2_hedge 4 = .ok (.iconst 0, 1) := dk_3 (dk_at dksX2_hedge_0 4 rfl rfl)
theorem dX2_hedge_5 : decode cX2_hedge 5 = .ok (.iload_n 1, 1) := dk_27 (dk_at dksX2_hedge_0 5 rfl rfl)
theorem dX2_hedge_6 : decode cX2_hedge 6 = .ok (.iastore, 1) := dk_79 (dk_at dksX2_hedge_0 6 rfl rfl)
theorem dX2_hedge_7 : decode cX2_hedge 7 = .ok (.dup, 1) := dk_89 (dk_at dksX2_hedge_0 7 rfl rfl)
theorem dX2_hedge_8 : decode cX2_hedge 8 = .ok (.iconst 1, 1) := dk_4 (dk_at dksX2_hedge_0 8 rfl rfl)
theorem dX2_hedge_9 : decode cX2_hedge 9 = .ok (.iload_n 2, 1) := dk_28 (dk_at dksX2_hedge_0 9 rfl rfl)
theorem dX2_hedge_10 : decode cX2_hedge 10 = .ok (.iastore, 1) := dk_79 (dk_at dksX2_hedge_0 10 rfl rfl)
theorem dX2_hedge_11 : decode cX2_hedge 11 = .ok (.invokestatic 135, 3) := dk_184 0 135 (dk_at dksX2_hedge_0 11 rfl rfl)
theorem dX2_hedge_14 : decode cX2_hedge 14 = .ok (.ifCond .eq 17, 3) := dk_153 0 17 (dk_at dksX2_hedge_0 14 rfl rfl)
theorem dX2_hedge_17 : decode cX2_hedge 17 = .ok (.iload_n 3, 1) := dk_29 (dk_at dksX2_hedge_0 17 rfl rfl)
theorem dX2_hedge_18 : decode cX2_hedge 18 = .ok (.iconst 0, 1) := dk_3 (dk_at dksX2_hedge_0 18 rfl rfl)
theorem dX2_hedge_19 : decode cX2_hedge 19 = .ok (.bipush 9, 2) := dk_16 9 (dk_at dksX2_hedge_0 19 rfl rfl)
theorem dX2_hedge_21 : decode cX2_hedge 21 = .ok (.invokestatic 78, 3) := dk_184 0 78 (dk_at dksX2_hedge_0 21 rfl rfl)
theorem dX2_hedge_24 : decode cX2_hedge 24 = .ok (.ifCond .eq 7, 3) := dk_153 0 7 (dk_at dksX2_hedge_1 0 rfl rfl)
theorem dX2_hedge_27 : decode cX2_hedge 27 = .ok (.iconst 1, 1) := dk_4 (dk_at dksX2_hedge_1 3 rfl rfl)
theorem dX2_hedge_28 : decode cX2_hedge 28 = .ok (.goto 4, 3) := dk_167 0 4 (dk_at dksX2_hedge_1 4 rfl rfl)
theorem dX2_hedge_31 : decode cX2_hedge 31 = .ok (.iconst 0, 1) := dk_3 (dk_at dksX2_hedge_1 7 rfl rfl)
theorem dX2_hedge_32 : decode cX2_hedge 32 = .ok (.invokestatic 139, 3) := dk_184 0 139 (dk_at dksX2_hedge_1 8 rfl rfl)
theorem dX2_hedge_35 : decode cX2_hedge 35 = .ok (.aload_n 0, 1) := dk_42 (dk_at dksX2_hedge_1 11 rfl rfl)
theorem dX2_hedge_36 : decode cX2_hedge 36 = .ok (.iload_n 1, 1) := dk_27 (dk_at dksX2_hedge_1 12 rfl rfl)
theorem dX2_hedge_37 : decode cX2_hedge 37 = .ok (.iload_n 2, 1) := dk_28 (dk_at dksX2_hedge_1 13 rfl rfl)
theorem dX2_hedge_38 : decode cX2_hedge 38 = .ok (.invokevirtual 143, 3) := dk_182 0 143 (dk_at dksX2_hedge_1 14 rfl rfl)
theorem dX2_hedge_41 : decode cX2_hedge 41 = .ok (.istore 4, 2) := dk_54 4 (dk_at dksX2_hedge_1 17 rfl rfl)
theorem dX2_hedge_43 : decode cX2_hedge 43 = .ok (.aload_n 0, 1) := dk_42 (dk_at dksX2_hedge_1 19 rfl rfl)
theorem dX2_hedge_44 : decode cX2_hedge 44 = .ok (.getfield 25, 3) := dk_180 0 25 (dk_at dksX2_hedge_1 20 rfl rfl)
theorem dX2_hedge_47 : decode cX2_hedge 47 = .ok (.iload 4, 2) := dk_21 4 (dk_at dksX2_hedge_2 0 rfl rfl)
theorem dX2_hedge_49 : decode cX2_hedge 49 = .ok (.iaload, 1) := dk_46 (dk_at dksX2_hedge_2 2 rfl rfl)
theorem dX2_hedge_50 : decode cX2_hedge 50 = .ok (.istore 5, 2) := dk_54 5 (dk_at dksX2_hedge_2 3 rfl rfl)
theorem dX2_hedge_52 : decode cX2_hedge 52 = .ok (.iload 5, 2) := dk_21 5 (dk_at dksX2_hedge_2 5 rfl rfl)
theorem dX2_hedge_54 : decode cX2_hedge 54 = .ok (.iload_n 3, 1) := dk_29 (dk_at dksX2_hedge_2 7 rfl rfl)
theorem dX2_hedge_55 : decode cX2_hedge 55 = .ok (.if_icmp .ne 7, 3) := dk_160 0 7 (dk_at dksX2_hedge_2 8 rfl rfl)
theorem dX2_hedge_58 : decode cX2_hedge 58 = .ok (.iconst 1, 1) := dk_4 (dk_at dksX2_hedge_2 11 rfl rfl)
theorem dX2_hedge_59 : decode cX2_hedge 59 = .ok (.goto 4, 3) := dk_167 0 4 (dk_at dksX2_hedge_2 12 rfl rfl)
theorem dX2_hedge_62 : decode cX2_hedge 62 = .ok (.iconst 0, 1) := dk_3 (dk_at dksX2_hedge_2 15 rfl rfl)
theorem dX2_hedge_63 : decode cX2_hedge 63 = .ok (.iconst 3, 1) := dk_6 (dk_at dksX2_hedge_2 16 rfl rfl)
theorem dX2_hedge_64 : decode cX2_hedge 64 = .ok (.iload_n 3, 1) := dk_29 (dk_at dksX2_hedge_2 17 rfl rfl)
theorem dX2_hedge_65 : decode cX2_hedge 65 = .ok (.invokestatic 120, 3) := dk_184 0 120 (dk_at dksX2_hedge_2 18 rfl rfl)
theorem dX2_hedge_68 : decode cX2_hedge 68 = .ok (.aload_n 0, 1) := dk_42 (dk_at dksX2_hedge_2 21 rfl rfl)
theorem dX2_hedge_69 : decode cX2_hedge 69 = .ok (.getfield 25, 3) := dk_180 0 25 (dk_at dksX2_hedge_3 0 rfl rfl)
theorem dX2_hedge_72 : decode cX2_hedge 72 = .ok (.iload 4, 2) := dk_21 4 (dk_at dksX2_hedge_3 3 rfl rfl)
theorem dX2_hedge_74 : decode cX2_hedge 74 = .ok (.iload_n 3, 1) := dk_29 (dk_at dksX2_hedge_3 5 rfl rfl)
theorem dX2_hedge_75 : decode cX2_hedge 75 = .ok (.iastore, 1) := dk_79 (dk_at dksX2_hedge_3 6 rfl rfl)
theorem dX2_hedge_76 : decode cX2_hedge 76 = .ok (.iload 5, 2) := dk_21 5 (dk_at dksX2_hedge_3 7 rfl rfl)
theorem dX2_hedge_78 : decode cX2_hedge 78 = .ok (.ireturn, 1) := dk_172 (dk_at dksX2_hedge_3 9 rfl rfl)
abbrev cX2_requireHedge : ByteArray := prog_2_method_16_code
def yX2_requireHedge : MethodName := ⟨RX2, "requireHedge", "(II)I"⟩
def dkwX2_requireHedge_1 : List UInt8 := [28, 184, 0, 82, 172]
abbrev dktX2_requireHedge_1 : List UInt8 := dkwX2_requireHedge_1 ++ []
def dkwX2_requireHedge_0 : List UInt8 := [27, 28, 184, 0, 82, 2, 160, 0, 7, 4, 167, 0, 4, 3, 5, 27, 28, 184, 0, 117, 184, 0, 120, 27]
abbrev dktX2_requireHedge_0 : List UInt8 := dkwX2_requireHedge_0 ++ dktX2_requireHedge_1
theorem dksX2_requireHedge_0 : cX2_requireHedge.data.toList.drop 0 = dktX2_requireHedge_0 := by decide +kernel
theorem dksX2_requireHedge_1 : cX2_requireHedge.data.toList.drop 24 = dktX2_requireHedge_1 := dk_seg dksX2_requireHedge_0 24 rfl rfl
theorem dX2_requireHedge_0 : decode cX2_requireHedge 0 = .ok (.iload_n 1, 1) := dk_27 (dk_at dksX2_requireHedge_0 0 rfl rfl)
theorem dX2_requireHedge_1 : decode cX2_requireHedge 1 = .ok (.iload_n 2, 1) := dk_28 (dk_at dksX2_requireHedge_0 1 rfl rfl)
theorem dX2_requireHedge_2 : decode cX2_requireHedge 2 = .ok (.invokestatic 82, 3) := dk_184 0 82 (dk_at dksX2_requireHedge_0 2 rfl rfl)
theorem dX2_requireHedge_5 : decode cX2_requireHedge 5 = .ok (.iconst (-1), 1) := dk_2 (dk_at dksX2_requireHedge_0 5 rfl rfl)
theorem dX2_requireHedge_6 : decode cX2_requireHedge 6 = .ok (.if_icmp .ne 7, 3) := dk_160 0 7 (dk_at dksX2_requireHedge_0 6 rfl rfl)
theorem dX2_requireHedge_9 : decode cX2_requireHedge 9 = .ok (.iconst 1, 1) := dk_4 (dk_at dksX2_requireHedge_0 9 rfl rfl)
theorem dX2_requireHedge_10 : decode cX2_requireHedge 10 = .ok (.goto 4, 3) := dk_167 0 4 (dk_at dksX2_requireHedge_0 10 rfl rfl)
theorem dX2_requireHedge_13 : decode cX2_requireHedge 13 = .ok (.iconst 0, 1) := dk_3 (dk_at dksX2_requireHedge_0 13 rfl rfl)
theorem dX2_requireHedge_14 : decode cX2_requireHedge 14 = .ok (.iconst 2, 1) := dk_5 (dk_at dksX2_requireHedge_0 14 rfl rfl)
theorem dX2_requireHedge_15 : decode cX2_requireHedge 15 = .ok (.iload_n 1, 1) := dk_27 (dk_at dksX2_requireHedge_0 15 rfl rfl)
theorem dX2_requireHedge_16 : decode cX2_requireHedge 16 = .ok (.iload_n 2, 1) := dk_28 (dk_at dksX2_requireHedge_0 16 rfl rfl)
theorem dX2_requireHedge_17 : decode cX2_requireHedge 17 = .ok (.invokestatic 117, 3) := dk_184 0 117 (dk_at dksX2_requireHedge_0 17 rfl rfl)
theorem dX2_requireHedge_20 : decode cX2_requireHedge 20 = .ok (.invokestatic 120, 3) := dk_184 0 120 (dk_at dksX2_requireHedge_0 20 rfl rfl)
theorem dX2_requireHedge_23 : decode cX2_requireHedge 23 = .ok (.iload_n 1, 1) := dk_27 (dk_at dksX2_requireHedge_0 23 rfl rfl)
theorem dX2_requireHedge_24 : decode cX2_requireHedge 24 = .ok (.iload_n 2, 1) := dk_28 (dk_at dksX2_requireHedge_1 0 rfl rfl)
theorem dX2_requireHedge_25 : decode cX2_requireHedge 25 = .ok (.invokestatic 82, 3) := dk_184 0 82 (dk_at dksX2_requireHedge_1 1 rfl rfl)
theorem dX2_requireHedge_28 : decode cX2_requireHedge 28 = .ok (.ireturn, 1) := dk_172 (dk_at dksX2_requireHedge_1 4 rfl rfl)
abbrev cX2_trim : ByteArray := prog_2_method_21_code
def yX2_trim : MethodName := ⟨RX2, "trim", "(III)I"⟩
def dkwX2_trim_3 : List UInt8 := [180, 0, 71, 5, 96, 181, 0, 71, 42, 180, 0, 25, 21, 5, 3, 79, 25, 4, 182, 0, 160, 172]
abbrev dktX2_trim_3 : List UInt8 := dkwX2_trim_3 ++ []
def dkwX2_trim_2 : List UInt8 := [3, 184, 0, 120, 25, 4, 5, 182, 0, 153, 25, 4, 89, 180, 0, 157, 4, 96, 181, 0, 157, 42, 89]
abbrev dktX2_trim_2 : List UInt8 := dkwX2_trim_2 ++ dktX2_trim_3
def dkwX2_trim_1 : List UInt8 := [42, 28, 29, 182, 0, 143, 54, 5, 42, 180, 0, 25, 21, 5, 46, 154, 0, 7, 4, 167, 0, 4, 3, 6]
abbrev dktX2_trim_1 : List UInt8 := dkwX2_trim_1 ++ dktX2_trim_2
def dkwX2_trim_0 : List UInt8 := [42, 27, 182, 0, 149, 58, 4, 5, 188, 10, 89, 3, 28, 79, 89, 4, 29, 79, 184, 0, 135, 184, 0, 139]
abbrev dktX2_trim_0 : List UInt8 := dkwX2_trim_0 ++ dktX2_trim_1
theorem dksX2_trim_0 : cX2_trim.data.toList.drop 0 = dktX2_trim_0 := by decide +kernel
theorem dksX2_trim_1 : cX2_trim.data.toList.drop 24 = dktX2_trim_1 := dk_seg dksX2_trim_0 24 rfl rfl
theorem dksX2_trim_2 : cX2_trim.data.toList.drop 48 = dktX2_trim_2 := dk_seg dksX2_trim_1 24 rfl rfl
theorem dksX2_trim_3 : cX2_trim.data.toList.drop 71 = dktX2_trim_3 := dk_seg dksX2_trim_2 23 rfl rfl
theorem dX2_trim_0 : decode cX2_trim 0 = .ok (.aload_n 0, 1) := dk_42 (dk_at dksX2_trim_0 0 rfl rfl)
theorem dX2_trim_1 : decode cX2_trim 1 = .ok (.iload_n 1, 1) := dk_27 (dk_at dksX2_trim_0 1 rfl rfl)
theorem dX2_trim_2 : decode cX2_trim 2 = .ok (.invokevirtual 149, 3) := dk_182 0 149 (dk_at dksX2_trim_0 2 rfl rfl)
theorem dX2_trim_5 : decode cX2_trim 5 = .ok (.astore 4, 2) := dk_58 4 (dk_at dksX2_trim_0 5 rfl rfl)
theorem dX2_trim_7 : decode cX2_trim 7 = .ok (.iconst 2, 1) := dk_5 (dk_at dksX2_trim_0 7 rfl rfl)
theorem dX2_trim_8 : decode cX2_trim 8 = .ok (.newarray .int, 2) := dk_188_10 (dk_at dksX2_trim_0 8 rfl rfl)
theorem dX2_trim_10 : decode cX2_trim 10 = .ok (.dup, 1) := dk_89 (dk_at dksX2_trim_0 10 rfl rfl)
theorem dX2_trim_11 : decode cX2_trim 11 = .ok (.iconst 0, 1) := dk_3 (dk_at dksX2_trim_0 11 rfl rfl)
theorem dX2_trim_12 : decode cX2_trim 12 = .ok (.iload_n 2, 1) := dk_28 (dk_at dksX2_trim_0 12 rfl rfl)
theorem dX2_trim_13 : decode cX2_trim 13 = .ok (.iastore, 1) := dk_79 (dk_at dksX2_trim_0 13 rfl rfl)
theorem dX2_trim_14 : decode cX2_trim 14 = .ok (.dup, 1) := dk_89 (dk_at dksX2_trim_0 14 rfl rfl)
theorem dX2_trim_15 : decode cX2_trim 15 = .ok (.iconst 1, 1) := dk_4 (dk_at dksX2_trim_0 15 rfl rfl)
theorem dX2_trim_16 : decode cX2_trim 16 = .ok (.iload_n 3, 1) := dk_29 (dk_at dksX2_trim_0 16 rfl rfl)
theorem dX2_trim_17 : decode cX2_trim 17 = .ok (.iastore, 1) := dk_79 (dk_at dksX2_trim_0 17 rfl rfl)
theorem dX2_trim_18 : decode cX2_trim 18 = .ok (.invokestatic 135, 3) := dk_184 0 135 (dk_at dksX2_trim_0 18 rfl rfl)
theorem dX2_trim_21 : decode cX2_trim 21 = .ok (.invokestatic 139, 3) := dk_184 0 139 (dk_at dksX2_trim_0 21 rfl rfl)
theorem dX2_trim_24 : decode cX2_trim 24 = .ok (.aload_n 0, 1) := dk_42 (dk_at dksX2_trim_1 0 rfl rfl)
theorem dX2_trim_25 : decode cX2_trim 25 = .ok (.iload_n 2, 1) := dk_28 (dk_at dksX2_trim_1 1 rfl rfl)
theorem dX2_trim_26 : decode cX2_trim 26 = .ok (.iload_n 3, 1) := dk_29 (dk_at dksX2_trim_1 2 rfl rfl)
theorem dX2_trim_27 : decode cX2_trim 27 = .ok (.invokevirtual 143, 3) := dk_182 0 143 (dk_at dksX2_trim_1 3 rfl rfl)
theorem dX2_trim_30 : decode cX2_trim 30 = .ok (.istore 5, 2) := dk_54 5 (dk_at dksX2_trim_1 6 rfl rfl)
theorem dX2_trim_32 : decode cX2_trim 32 = .ok (.aload_n 0, 1) := dk_42 (dk_at dksX2_trim_1 8 rfl rfl)
theorem dX2_trim_33 : decode cX2_trim 33 = .ok (.getfield 25, 3) := dk_180 0 25 (dk_at dksX2_trim_1 9 rfl rfl)
theorem dX2_trim_36 : decode cX2_trim 36 = .ok (.iload 5, 2) := dk_21 5 (dk_at dksX2_trim_1 12 rfl rfl)
theorem dX2_trim_38 : decode cX2_trim 38 = .ok (.iaload, 1) := dk_46 (dk_at dksX2_trim_1 14 rfl rfl)
theorem dX2_trim_39 : decode cX2_trim 39 = .ok (.ifCond .ne 7, 3) := dk_154 0 7 (dk_at dksX2_trim_1 15 rfl rfl)
theorem dX2_trim_42 : decode cX2_trim 42 = .ok (.iconst 1, 1) := dk_4 (dk_at dksX2_trim_1 18 rfl rfl)
theorem dX2_trim_43 : decode cX2_trim 43 = .ok (.goto 4, 3) := dk_167 0 4 (dk_at dksX2_trim_1 19 rfl rfl)
theorem dX2_trim_46 : decode cX2_trim 46 = .ok (.iconst 0, 1) := dk_3 (dk_at dksX2_trim_1 22 rfl rfl)
theorem dX2_trim_47 : decode cX2_trim 47 = .ok (.iconst 3, 1) := dk_6 (dk_at dksX2_trim_1 23 rfl rfl)
theorem dX2_trim_48 : decode cX2_trim 48 = .ok (.iconst 0, 1) := dk_3 (dk_at dksX2_trim_2 0 rfl rfl)
theorem dX2_trim_49 : decode cX2_trim 49 = .ok (.invokestatic 120, 3) := dk_184 0 120 (dk_at dksX2_trim_2 1 rfl rfl)
theorem dX2_trim_52 : decode cX2_trim 52 = .ok (.aload 4, 2) := dk_25 4 (dk_at dksX2_trim_2 4 rfl rfl)
theorem dX2_trim_54 : decode cX2_trim 54 = .ok (.iconst 2, 1) := dk_5 (dk_at dksX2_trim_2 6 rfl rfl)
theorem dX2_trim_55 : decode cX2_trim 55 = .ok (.invokevirtual 153, 3) := dk_182 0 153 (dk_at dksX2_trim_2 7 rfl rfl)
theorem dX2_trim_58 : decode cX2_trim 58 = .ok (.aload 4, 2) := dk_25 4 (dk_at dksX2_trim_2 10 rfl rfl)
theorem dX2_trim_60 : decode cX2_trim 60 = .ok (.dup, 1) := dk_89 (dk_at dksX2_trim_2 12 rfl rfl)
theorem dX2_trim_61 : decode cX2_trim 61 = .ok (.getfield 157, 3) := dk_180 0 157 (dk_at dksX2_trim_2 13 rfl rfl)
theorem dX2_trim_64 : decode cX2_trim 64 = .ok (.iconst 1, 1) := dk_4 (dk_at dksX2_trim_2 16 rfl rfl)
theorem dX2_trim_65 : decode cX2_trim 65 = .ok (.iadd, 1) := dk_96 (dk_at dksX2_trim_2 17 rfl rfl)
theorem dX2_trim_66 : decode cX2_trim 66 = .ok (.putfield 157, 3) := dk_181 0 157 (dk_at dksX2_trim_2 18 rfl rfl)
theorem dX2_trim_69 : decode cX2_trim 69 = .ok (.aload_n 0, 1) := dk_42 (dk_at dksX2_trim_2 21 rfl rfl)
theorem dX2_trim_70 : decode cX2_trim 70 = .ok (.dup, 1) := dk_89 (dk_at dksX2_trim_2 22 rfl rfl)
theorem dX2_trim_71 : decode cX2_trim 71 = .ok (.getfield 71, 3) := dk_180 0 71 (dk_at dksX2_trim_3 0 rfl rfl)
theorem dX2_trim_74 : decode cX2_trim 74 = .ok (.iconst 2, 1) := dk_5 (dk_at dksX2_trim_3 3 rfl rfl)
theorem dX2_trim_75 : decode cX2_trim 75 = .ok (.iadd, 1) := dk_96 (dk_at dksX2_trim_3 4 rfl rfl)
theorem dX2_trim_76 : decode cX2_trim 76 = .ok (.putfield 71, 3) := dk_181 0 71 (dk_at dksX2_trim_3 5 rfl rfl)
theorem dX2_trim_79 : decode cX2_trim 79 = .ok (.aload_n 0, 1) := dk_42 (dk_at dksX2_trim_3 8 rfl rfl)
theorem dX2_trim_80 : decode cX2_trim 80 = .ok (.getfield 25, 3) := dk_180 0 25 (dk_at dksX2_trim_3 9 rfl rfl)
theorem dX2_trim_83 : decode cX2_trim 83 = .ok (.iload 5, 2) := dk_21 5 (dk_at dksX2_trim_3 12 rfl rfl)
theorem dX2_trim_85 : decode cX2_trim 85 = .ok (.iconst 0, 1) := dk_3 (dk_at dksX2_trim_3 14 rfl rfl)
theorem dX2_trim_86 : decode cX2_trim 86 = .ok (.iastore, 1) := dk_79 (dk_at dksX2_trim_3 15 rfl rfl)
theorem dX2_trim_87 : decode cX2_trim 87 = .ok (.aload 4, 2) := dk_25 4 (dk_at dksX2_trim_3 16 rfl rfl)
theorem dX2_trim_89 : decode cX2_trim 89 = .ok (.invokevirtual 160, 3) := dk_182 0 160 (dk_at dksX2_trim_3 18 rfl rfl)
theorem dX2_trim_92 : decode cX2_trim 92 = .ok (.ireturn, 1) := dk_172 (dk_at dksX2_trim_3 21 rfl rfl)
abbrev cX2_requireGardener : ByteArray := prog_2_method_17_code
def yX2_requireGardener : MethodName := ⟨RX2, "requireGardener", "(I)LMazeBonds$Gardener;"⟩
def dkwX2_requireGardener_1 : List UInt8 := [42, 180, 0, 12, 27, 182, 0, 128, 192, 0, 50, 176]
abbrev dktX2_requireGardener_1 : List UInt8 := dkwX2_requireGardener_1 ++ []
def dkwX2_requireGardener_0 : List UInt8 := [42, 27, 182, 0, 124, 154, 0, 7, 4, 167, 0, 4, 3, 7, 42, 180, 0, 12, 182, 0, 74, 184, 0, 120]
abbrev dktX2_requireGardener_0 : List UInt8 := dkwX2_requireGardener_0 ++ dktX2_requireGardener_1
theorem dksX2_requireGardener_0 : cX2_requireGardener.data.toList.drop 0 = dktX2_requireGardener_0 := by decide +kernel
theorem dksX2_requireGardener_1 : cX2_requireGardener.data.toList.drop 24 = dktX2_requireGardener_1 := dk_seg dksX2_requireGardener_0 24 rfl rfl
theorem dX2_requireGardener_0 : decode cX2_requireGardener 0 = .ok (.aload_n 0, 1) := dk_42 (dk_at dksX2_requireGardener_0 0 rfl rfl)
theorem dX2_requireGardener_1 : decode cX2_requireGardener 1 = .ok (.iload_n 1, 1) := dk_27 (dk_at dksX2_requireGardener_0 1 rfl rfl)
theorem dX2_requireGardener_2 : decode cX2_requireGardener 2 = .ok (.invokevirtual 124, 3) := dk_182 0 124 (dk_at dksX2_requireGardener_0 2 rfl rfl)
theorem dX2_requireGardener_5 : decode cX2_requireGardener 5 = .ok (.ifCond .ne 7, 3) := dk_154 0 7 (dk_at dksX2_requireGardener_0 5 rfl rfl)
theorem dX2_requireGardener_8 : decode cX2_requireGardener 8 = .ok (.iconst 1, 1) := dk_4 (dk_at dksX2_requireGardener_0 8 rfl rfl)
theorem dX2_requireGardener_9 : decode cX2_requireGardener 9 = .ok (.goto 4, 3) := dk_167 0 4 (dk_at dksX2_requireGardener_0 9 rfl rfl)
theorem dX2_requireGardener_12 : decode cX2_requireGardener 12 = .ok (.iconst 0, 1) := dk_3 (dk_at dksX2_requireGardener_0 12 rfl rfl)
theorem dX2_requireGardener_13 : decode cX2_requireGardener 13 = .ok (.iconst 4, 1) := dk_7 (dk_at dksX2_requireGardener_0 13 rfl rfl)
theorem dX2_requireGardener_14 : decode cX2_requireGardener 14 = .ok (.aload_n 0, 1) := dk_42 (dk_at dksX2_requireGardener_0 14 rfl rfl)
theorem dX2_requireGardener_15 : decode cX2_requireGardener 15 = .ok (.getfield 12, 3) := dk_180 0 12 (dk_at dksX2_requireGardener_0 15 rfl rfl)
theorem dX2_requireGardener_18 : decode cX2_requireGardener 18 = .ok (.invokevirtual 74, 3) := dk_182 0 74 (dk_at dksX2_requireGardener_0 18 rfl rfl)
theorem dX2_requireGardener_21 : decode cX2_requireGardener 21 = .ok (.invokestatic 120, 3) := dk_184 0 120 (dk_at dksX2_requireGardener_0 21 rfl rfl)
theorem dX2_requireGardener_24 : decode cX2_requireGardener 24 = .ok (.aload_n 0, 1) := dk_42 (dk_at dksX2_requireGardener_1 0 rfl rfl)
theorem dX2_requireGardener_25 : decode cX2_requireGardener 25 = .ok (.getfield 12, 3) := dk_180 0 12 (dk_at dksX2_requireGardener_1 1 rfl rfl)
theorem dX2_requireGardener_28 : decode cX2_requireGardener 28 = .ok (.iload_n 1, 1) := dk_27 (dk_at dksX2_requireGardener_1 4 rfl rfl)
theorem dX2_requireGardener_29 : decode cX2_requireGardener 29 = .ok (.invokevirtual 128, 3) := dk_182 0 128 (dk_at dksX2_requireGardener_1 5 rfl rfl)
theorem dX2_requireGardener_32 : decode cX2_requireGardener 32 = .ok (.checkcast 50, 3) := dk_192 0 50 (dk_at dksX2_requireGardener_1 8 rfl rfl)
theorem dX2_requireGardener_35 : decode cX2_requireGardener 35 = .ok (.areturn, 1) := dk_176 (dk_at dksX2_requireGardener_1 11 rfl rfl)
abbrev cX2_isGardener : ByteArray := prog_2_method_4_code
def yX2_isGardener : MethodName := ⟨RX2, "isGardener", "(I)Z"⟩
def dkwX2_isGardener_0 : List UInt8 := [27, 3, 42, 180, 0, 12, 182, 0, 74, 4, 100, 184, 0, 78, 172]
abbrev dktX2_isGardener_0 : List UInt8 := dkwX2_isGardener_0 ++ []
theorem dksX2_isGardener_0 : cX2_isGardener.data.toList.drop 0 = dktX2_isGardener_0 := by decide +kernel
theorem dX2_isGardener_0 : decode cX2_isGardener 0 = .ok (.iload_n 1, 1) := dk_27 (dk_at dksX2_isGardener_0 0 rfl rfl)
theorem dX2_isGardener_1 : decode cX2_isGardener 1 = .ok (.iconst 0, 1) := dk_3 (dk_at dksX2_isGardener_0 1 rfl rfl)
theorem dX2_isGardener_2 : decode cX2_isGardener 2 = .ok (.aload_n 0, 1) := dk_42 (dk_at dksX2_isGardener_0 2 rfl rfl)
theorem dX2_isGardener_3 : decode cX2_isGardener 3 = .ok (.getfield 12, 3) := dk_180 0 12 (dk_at dksX2_isGardener_0 3 rfl rfl)
theorem dX2_isGardener_6 : decode cX2_isGardener 6 = .ok (.invokevirtual 74, 3) := dk_182 0 74 (dk_at dksX2_isGardener_0 6 rfl rfl)
theorem dX2_isGardener_9 : decode cX2_isGardener 9 = .ok (.iconst 1, 1) := dk_4 (dk_at dksX2_isGardener_0 9 rfl rfl)
theorem dX2_isGardener_10 : decode cX2_isGardener 10 = .ok (.isub, 1) := dk_100 (dk_at dksX2_isGardener_0 10 rfl rfl)
theorem dX2_isGardener_11 : decode cX2_isGardener 11 = .ok (.invokestatic 78, 3) := dk_184 0 78 (dk_at dksX2_isGardener_0 11 rfl rfl)
theorem dX2_isGardener_14 : decode cX2_isGardener 14 = .ok (.ireturn, 1) := dk_172 (dk_at dksX2_isGardener_0 14 rfl rfl)
abbrev cX2_minotaur : ByteArray := prog_2_method_22_code
def yX2_minotaur : MethodName := ⟨RX2, "minotaur", "(I)I"⟩
def dkwX2_minotaur_4 : List UInt8 := [172]
abbrev dktX2_minotaur_4 : List UInt8 := dkwX2_minotaur_4 ++ []
def dkwX2_minotaur_3 : List UInt8 := [154, 0, 20, 25, 4, 180, 0, 166, 27, 160, 0, 11, 25, 4, 182, 0, 169, 132, 2, 1, 167, 255, 211, 28]
abbrev dktX2_minotaur_3 : List UInt8 := dkwX2_minotaur_3 ++ dktX2_minotaur_4
def dkwX2_minotaur_2 : List UInt8 := [185, 0, 41, 1, 0, 153, 0, 42, 45, 185, 0, 47, 1, 0, 192, 0, 60, 58, 4, 25, 4, 182, 0, 163]
abbrev dktX2_minotaur_2 : List UInt8 := dkwX2_minotaur_2 ++ dktX2_minotaur_3
def dkwX2_minotaur_1 : List UInt8 := [27, 184, 0, 120, 42, 27, 181, 0, 21, 3, 61, 42, 180, 0, 18, 182, 0, 37, 78, 45]
abbrev dktX2_minotaur_1 : List UInt8 := dkwX2_minotaur_1 ++ dktX2_minotaur_2
def dkwX2_minotaur_0 : List UInt8 := [27, 2, 16, 15, 184, 0, 78, 184, 0, 139, 42, 180, 0, 21, 27, 160, 0, 7, 4, 167, 0, 4, 3, 6]
abbrev dktX2_minotaur_0 : List UInt8 := dkwX2_minotaur_0 ++ dktX2_minotaur_1
theorem dksX2_minotaur_0 : cX2_minotaur.data.toList.drop 0 = dktX2_minotaur_0 := by decide +kernel
theorem dksX2_minotaur_1 : cX2_minotaur.data.toList.drop 24 = dktX2_minotaur_1 := dk_seg dksX2_minotaur_0 24 rfl rfl
theorem dksX2_minotaur_2 : cX2_minotaur.data.toList.drop 44 = dktX2_minotaur_2 := dk_seg dksX2_minotaur_1 20 rfl rfl
theorem dksX2_minotaur_3 : cX2_minotaur.data.toList.drop 68 = dktX2_minotaur_3 := dk_seg dksX2_minotaur_2 24 rfl rfl
theorem dksX2_minotaur_4 : cX2_minotaur.data.toList.drop 92 = dktX2_minotaur_4 := dk_seg dksX2_minotaur_3 24 rfl rfl
theorem dX2_minotaur_0 : decode cX2_minotaur 0 = .ok (.iload_n 1, 1) := dk_27 (dk_at dksX2_minotaur_0 0 rfl rfl)
theorem dX2_minotaur_1 : decode cX2_minotaur 1 = .ok (.iconst (-1), 1) := dk_2 (dk_at dksX2_minotaur_0 1 rfl rfl)
theorem dX2_minotaur_2 : decode cX2_minotaur 2 = .ok (.bipush 15, 2) := dk_16 15 (dk_at dksX2_minotaur_0 2 rfl rfl)
theorem dX2_minotaur_4 : decode cX2_minotaur 4 = .ok (.invokestatic 78, 3) := dk_184 0 78 (dk_at dksX2_minotaur_0 4 rfl rfl)
theorem dX2_minotaur_7 : decode cX2_minotaur 7 = .ok (.invokestatic 139, 3) := dk_184 0 139 (dk_at dksX2_minotaur_0 7 rfl rfl)
theorem dX2_minotaur_10 : decode cX2_minotaur 10 = .ok (.aload_n 0, 1) := dk_42 (dk_at dksX2_minotaur_0 10 rfl rfl)
theorem dX2_minotaur_11 : decode cX2_minotaur 11 = .ok (.getfield 21, 3) := dk_180 0 21 (dk_at dksX2_minotaur_0 11 rfl rfl)
theorem dX2_minotaur_14 : decode cX2_minotaur 14 = .ok (.iload_n 1, 1) := dk_27 (dk_at dksX2_minotaur_0 14 rfl rfl)
theorem dX2_minotaur_15 : decode cX2_minotaur 15 = .ok (.if_icmp .ne 7, 3) := dk_160 0 7 (dk_at dksX2_minotaur_0 15 rfl rfl)
theorem dX2_minotaur_18 : decode cX2_minotaur 18 = .ok (.iconst 1, 1) := dk_4 (dk_at dksX2_minotaur_0 18 rfl rfl)
theorem dX2_minotaur_19 : decode cX2_minotaur 19 = .ok (.goto 4, 3) := dk_167 0 4 (dk_at dksX2_minotaur_0 19 rfl rfl)
theorem dX2_minotaur_22 : decode cX2_minotaur 22 = .ok (.iconst 0, 1) := dk_3 (dk_at dksX2_minotaur_0 22 rfl rfl)
theorem dX2_minotaur_23 : decode cX2_minotaur 23 = .ok (.iconst 3, 1) := dk_6 (dk_at dksX2_minotaur_0 23 rfl rfl)
theorem dX2_minotaur_24 : decode cX2_minotaur 24 = .ok (.iload_n 1, 1) := dk_27 (dk_at dksX2_minotaur_1 0 rfl rfl)
theorem dX2_minotaur_25 : decode cX2_minotaur 25 = .ok (.invokestatic 120, 3) := dk_184 0 120 (dk_at dksX2_minotaur_1 1 rfl rfl)
theorem dX2_minotaur_28 : decode cX2_minotaur 28 = .ok (.aload_n 0, 1) := dk_42 (dk_at dksX2_minotaur_1 4 rfl rfl)
theorem dX2_minotaur_29 : decode cX2_minotaur 29 = .ok (.iload_n 1, 1) := dk_27 (dk_at dksX2_minotaur_1 5 rfl rfl)
theorem dX2_minotaur_30 : decode cX2_minotaur 30 = .ok (.putfield 21, 3) := dk_181 0 21 (dk_at dksX2_minotaur_1 6 rfl rfl)
theorem dX2_minotaur_33 : decode cX2_minotaur 33 = .ok (.iconst 0, 1) := dk_3 (dk_at dksX2_minotaur_1 9 rfl rfl)
theorem dX2_minotaur_34 : decode cX2_minotaur 34 = .ok (.istore_n 2, 1) := dk_61 (dk_at dksX2_minotaur_1 10 rfl rfl)
theorem dX2_minotaur_35 : decode cX2_minotaur 35 = .ok (.aload_n 0, 1) := dk_42 (dk_at dksX2_minotaur_1 11 rfl rfl)
theorem dX2_minotaur_36 : decode cX2_minotaur 36 = .ok (.getfield 18, 3) := dk_180 0 18 (dk_at dksX2_minotaur_1 12 rfl rfl)
theorem dX2_minotaur_39 : decode cX2_minotaur 39 = .ok (.invokevirtual 37, 3) := dk_182 0 37 (dk_at dksX2_minotaur_1 15 rfl rfl)
theorem dX2_minotaur_42 : decode cX2_minotaur 42 = .ok (.astore_n 3, 1) := dk_78 (dk_at dksX2_minotaur_1 18 rfl rfl)
theorem dX2_minotaur_43 : decode cX2_minotaur 43 = .ok (.aload_n 3, 1) := dk_45 (dk_at dksX2_minotaur_1 19 rfl rfl)
theorem dX2_minotaur_44 : decode cX2_minotaur 44 = .ok (.invokeinterface 41 1, 5) := by decide +kernel
theorem dX2_minotaur_49 : decode cX2_minotaur 49 = .ok (.ifCond .eq 42, 3) := dk_153 0 42 (dk_at dksX2_minotaur_2 5 rfl rfl)
theorem dX2_minotaur_52 : decode cX2_minotaur 52 = .ok (.aload_n 3, 1) := dk_45 (dk_at dksX2_minotaur_2 8 rfl rfl)
theorem dX2_minotaur_53 : decode cX2_minotaur 53 = .ok (.invokeinterface 47 1, 5) := by decide +kernel
theorem dX2_minotaur_58 : decode cX2_minotaur 58 = .ok (.checkcast 60, 3) := dk_192 0 60 (dk_at dksX2_minotaur_2 14 rfl rfl)
theorem dX2_minotaur_61 : decode cX2_minotaur 61 = .ok (.astore 4, 2) := dk_58 4 (dk_at dksX2_minotaur_2 17 rfl rfl)
theorem dX2_minotaur_63 : decode cX2_minotaur 63 = .ok (.aload 4, 2) := dk_25 4 (dk_at dksX2_minotaur_2 19 rfl rfl)
theorem dX2_minotaur_65 : decode cX2_minotaur 65 = .ok (.invokevirtual 163, 3) := dk_182 0 163 (dk_at dksX2_minotaur_2 21 rfl rfl)
theorem dX2_minotaur_68 : decode cX2_minotaur 68 = .ok (.ifCond .ne 20, 3) := dk_154 0 20 (dk_at dksX2_minotaur_3 0 rfl rfl)
theorem dX2_minotaur_71 : decode cX2_minotaur 71 = .ok (.aload 4, 2) := dk_25 4 (dk_at dksX2_minotaur_3 3 rfl rfl)
theorem dX2_minotaur_73 : decode cX2_minotaur 73 = .ok (.getfield 166, 3) := dk_180 0 166 (dk_at dksX2_minotaur_3 5 rfl rfl)
theorem dX2_minotaur_76 : decode cX2_minotaur 76 = .ok (.iload_n 1, 1) := dk_27 (dk_at dksX2_minotaur_3 8 rfl rfl)
theorem dX2_minotaur_77 : decode cX2_minotaur 77 = .ok (.if_icmp .ne 11, 3) := dk_160 0 11 (dk_at dksX2_minotaur_3 9 rfl rfl)
theorem dX2_minotaur_80 : decode cX2_minotaur 80 = .ok (.aload 4, 2) := dk_25 4 (dk_at dksX2_minotaur_3 12 rfl rfl)
theorem dX2_minotaur_82 : decode cX2_minotaur 82 = .ok (.invokevirtual 169, 3) := dk_182 0 169 (dk_at dksX2_minotaur_3 14 rfl rfl)
theorem dX2_minotaur_85 : decode cX2_minotaur 85 = .ok (.iinc 2 1, 3) := dk_132 2 1 (dk_at dksX2_minotaur_3 17 rfl rfl)
theorem dX2_minotaur_88 : decode cX2_minotaur 88 = .ok (.goto (-45), 3) := dk_167 255 211 (dk_at dksX2_minotaur_3 20 rfl rfl)
theorem dX2_minotaur_91 : decode cX2_minotaur 91 = .ok (.iload_n 2, 1) := dk_28 (dk_at dksX2_minotaur_3 23 rfl rfl)
theorem dX2_minotaur_92 : decode cX2_minotaur 92 = .ok (.ireturn, 1) := dk_172 (dk_at dksX2_minotaur_4 0 rfl rfl)
abbrev cX2_gardener : ByteArray := prog_2_method_23_code
def yX2_gardener : MethodName := ⟨RX2, "gardener", "(I)I"⟩
def dkwX2_gardener_2 : List UInt8 := [182, 0, 56, 87, 42, 89, 180, 0, 68, 27, 96, 181, 0, 68, 42, 180, 0, 12, 182, 0, 74, 4, 100, 172]
abbrev dktX2_gardener_2 : List UInt8 := dkwX2_gardener_2 ++ []
def dkwX2_gardener_1 : List UInt8 := [167, 0, 4, 3, 16, 13, 7, 184, 0, 120, 42, 180, 0, 12, 187, 0, 50, 89, 27, 183, 0, 172]
abbrev dktX2_gardener_1 : List UInt8 := dkwX2_gardener_1 ++ dktX2_gardener_2
def dkwX2_gardener_0 : List UInt8 := [27, 3, 16, 99, 184, 0, 78, 184, 0, 139, 42, 180, 0, 12, 182, 0, 74, 7, 160, 0, 7, 4]
abbrev dktX2_gardener_0 : List UInt8 := dkwX2_gardener_0 ++ dktX2_gardener_1
theorem dksX2_gardener_0 : cX2_gardener.data.toList.drop 0 = dktX2_gardener_0 := by decide +kernel
theorem dksX2_gardener_1 : cX2_gardener.data.toList.drop 22 = dktX2_gardener_1 := dk_seg dksX2_gardener_0 22 rfl rfl
theorem dksX2_gardener_2 : cX2_gardener.data.toList.drop 44 = dktX2_gardener_2 := dk_seg dksX2_gardener_1 22 rfl rfl
theorem dX2_gardener_0 : decode cX2_gardener 0 = .ok (.iload_n 1, 1) := dk_27 (dk_at dksX2_gardener_0 0 rfl rfl)
theorem dX2_gardener_1 : decode cX2_gardener 1 = .ok (.iconst 0, 1) := dk_3 (dk_at dksX2_gardener_0 1 rfl rfl)
theorem dX2_gardener_2 : decode cX2_gardener 2 = .ok (.bipush 99, 2) := dk_16 99 (dk_at dksX2_gardener_0 2 rfl rfl)
theorem dX2_gardener_4 : decode cX2_gardener 4 = .ok (.invokestatic 78, 3) := dk_184 0 78 (dk_at dksX2_gardener_0 4 rfl rfl)
theorem dX2_gardener_7 : decode cX2_gardener 7 = .ok (.invokestatic 139, 3) := dk_184 0 139 (dk_at dksX2_gardener_0 7 rfl rfl)
theorem dX2_gardener_10 : decode cX2_gardener 10 = .ok (.aload_n 0, 1) := dk_42 (dk_at dksX2_gardener_0 10 rfl rfl)
theorem dX2_gardener_11 : decode cX2_gardener 11 = .ok (.getfield 12, 3) := dk_180 0 12 (dk_at dksX2_gardener_0 11 rfl rfl)
theorem dX2_gardener_14 : decode cX2_gardener 14 = .ok (.invokevirtual 74, 3) := dk_182 0 74 (dk_at dksX2_gardener_0 14 rfl rfl)
theorem dX2_gardener_17 : decode cX2_gardener 17 = .ok (.iconst 4, 1) := dk_7 (dk_at dksX2_gardener_0 17 rfl rfl)
theorem dX2_gardener_18 : decode cX2_gardener 18 = .ok (.if_icmp .ne 7, 3) := dk_160 0 7 (dk_at dksX2_gardener_0 18 rfl rfl)
theorem dX2_gardener_21 : decode cX2_gardener 21 = .ok (.iconst 1, 1) := dk_4 (dk_at dksX2_gardener_0 21 rfl rfl)
theorem dX2_gardener_22 : decode cX2_gardener 22 = .ok (.goto 4, 3) := dk_167 0 4 (dk_at dksX2_gardener_1 0 rfl rfl)
theorem dX2_gardener_25 : decode cX2_gardener 25 = .ok (.iconst 0, 1) := dk_3 (dk_at dksX2_gardener_1 3 rfl rfl)
theorem dX2_gardener_26 : decode cX2_gardener 26 = .ok (.bipush 13, 2) := dk_16 13 (dk_at dksX2_gardener_1 4 rfl rfl)
theorem dX2_gardener_28 : decode cX2_gardener 28 = .ok (.iconst 4, 1) := dk_7 (dk_at dksX2_gardener_1 6 rfl rfl)
theorem dX2_gardener_29 : decode cX2_gardener 29 = .ok (.invokestatic 120, 3) := dk_184 0 120 (dk_at dksX2_gardener_1 7 rfl rfl)
theorem dX2_gardener_32 : decode cX2_gardener 32 = .ok (.aload_n 0, 1) := dk_42 (dk_at dksX2_gardener_1 10 rfl rfl)
theorem dX2_gardener_33 : decode cX2_gardener 33 = .ok (.getfield 12, 3) := dk_180 0 12 (dk_at dksX2_gardener_1 11 rfl rfl)
theorem dX2_gardener_36 : decode cX2_gardener 36 = .ok (.new 50, 3) := dk_187 0 50 (dk_at dksX2_gardener_1 14 rfl rfl)
theorem dX2_gardener_39 : decode cX2_gardener 39 = .ok (.dup, 1) := dk_89 (dk_at dksX2_gardener_1 17 rfl rfl)
theorem dX2_gardener_40 : decode cX2_gardener 40 = .ok (.iload_n 1, 1) := dk_27 (dk_at dksX2_gardener_1 18 rfl rfl)
theorem dX2_gardener_41 : decode cX2_gardener 41 = .ok (.invokespecial 172, 3) := dk_183 0 172 (dk_at dksX2_gardener_1 19 rfl rfl)
theorem dX2_gardener_44 : decode cX2_gardener 44 = .ok (.invokevirtual 56, 3) := dk_182 0 56 (dk_at dksX2_gardener_2 0 rfl rfl)
theorem dX2_gardener_47 : decode cX2_gardener 47 = .ok (.pop, 1) := dk_87 (dk_at dksX2_gardener_2 3 rfl rfl)
theorem dX2_gardener_48 : decode cX2_gardener 48 = .ok (.aload_n 0, 1) := dk_42 (dk_at dksX2_gardener_2 4 rfl rfl)
theorem dX2_gardener_49 : decode cX2_gardener 49 = .ok (.dup, 1) := dk_89 (dk_at dksX2_gardener_2 5 rfl rfl)
theorem dX2_gardener_50 : decode cX2_gardener 50 = .ok (.getfield 68, 3) := dk_180 0 68 (dk_at dksX2_gardener_2 6 rfl rfl)
theorem dX2_gardener_53 : decode cX2_gardener 53 = .ok (.iload_n 1, 1) := dk_27 (dk_at dksX2_gardener_2 9 rfl rfl)
theorem dX2_gardener_54 : decode cX2_gardener 54 = .ok (.iadd, 1) := dk_96 (dk_at dksX2_gardener_2 10 rfl rfl)
theorem dX2_gardener_55 : decode cX2_gardener 55 = .ok (.putfield 68, 3) := dk_181 0 68 (dk_at dksX2_gardener_2 11 rfl rfl)
theorem dX2_gardener_58 : decode cX2_gardener 58 = .ok (.aload_n 0, 1) := dk_42 (dk_at dksX2_gardener_2 14 rfl rfl)
theorem dX2_gardener_59 : decode cX2_gardener 59 = .ok (.getfield 12, 3) := dk_180 0 12 (dk_at dksX2_gardener_2 15 rfl rfl)
theorem dX2_gardener_62 : decode cX2_gardener 62 = .ok (.invokevirtual 74, 3) := dk_182 0 74 (dk_at dksX2_gardener_2 18 rfl rfl)
theorem dX2_gardener_65 : decode cX2_gardener 65 = .ok (.iconst 1, 1) := dk_4 (dk_at dksX2_gardener_2 21 rfl rfl)
theorem dX2_gardener_66 : decode cX2_gardener 66 = .ok (.isub, 1) := dk_100 (dk_at dksX2_gardener_2 22 rfl rfl)
theorem dX2_gardener_67 : decode cX2_gardener 67 = .ok (.ireturn, 1) := dk_172 (dk_at dksX2_gardener_2 23 rfl rfl)
abbrev cX2_visitor : ByteArray := prog_2_method_24_code
def yX2_visitor : MethodName := ⟨RX2, "visitor", "(I)I"⟩
def dkwX2_visitor_4 : List UInt8 := [182, 0, 74, 4, 100, 172]
abbrev dktX2_visitor_4 : List UInt8 := dkwX2_visitor_4 ++ []
def dkwX2_visitor_3 : List UInt8 := [182, 0, 114, 183, 0, 186, 182, 0, 56, 87, 42, 89, 180, 0, 68, 27, 96, 181, 0, 68, 42, 180, 0, 18]
abbrev dktX2_visitor_3 : List UInt8 := dkwX2_visitor_3 ++ dktX2_visitor_4
def dkwX2_visitor_2 : List UInt8 := [42, 3, 182, 0, 177, 184, 0, 181, 184, 0, 120, 42, 180, 0, 18, 187, 0, 60, 89, 27, 42, 3, 16, 15]
abbrev dktX2_visitor_2 : List UInt8 := dkwX2_visitor_2 ++ dktX2_visitor_3
def dkwX2_visitor_1 : List UInt8 := [167, 0, 4, 3, 16, 13, 8, 184, 0, 120, 42, 182, 0, 174, 154, 0, 7, 4, 167, 0, 4, 3, 16, 6]
abbrev dktX2_visitor_1 : List UInt8 := dkwX2_visitor_1 ++ dktX2_visitor_2
def dkwX2_visitor_0 : List UInt8 := [27, 3, 16, 99, 184, 0, 78, 184, 0, 139, 42, 180, 0, 18, 182, 0, 74, 8, 160, 0, 7, 4]
abbrev dktX2_visitor_0 : List UInt8 := dkwX2_visitor_0 ++ dktX2_visitor_1
theorem dksX2_visitor_0 : cX2_visitor.data.toList.drop 0 = dktX2_visitor_0 := by decide +kernel
theorem dksX2_visitor_1 : cX2_visitor.data.toList.drop 22 = dktX2_visitor_1 := dk_seg dksX2_visitor_0 22 rfl rfl
theorem dksX2_visitor_2 : cX2_visitor.data.toList.drop 46 = dktX2_visitor_2 := dk_seg dksX2_visitor_1 24 rfl rfl
theorem dksX2_visitor_3 : cX2_visitor.data.toList.drop 70 = dktX2_visitor_3 := dk_seg dksX2_visitor_2 24 rfl rfl
theorem dksX2_visitor_4 : cX2_visitor.data.toList.drop 94 = dktX2_visitor_4 := dk_seg dksX2_visitor_3 24 rfl rfl
theorem dX2_visitor_0 : decode cX2_visitor 0 = .ok (.iload_n 1, 1) := dk_27 (dk_at dksX2_visitor_0 0 rfl rfl)
theorem dX2_visitor_1 : decode cX2_visitor 1 = .ok (.iconst 0, 1) := dk_3 (dk_at dksX2_visitor_0 1 rfl rfl)
theorem dX2_visitor_2 : decode cX2_visitor 2 = .ok (.bipush 99, 2) := dk_16 99 (dk_at dksX2_visitor_0 2 rfl rfl)
theorem dX2_visitor_4 : decode cX2_visitor 4 = .ok (.invokestatic 78, 3) := dk_184 0 78 (dk_at dksX2_visitor_0 4 rfl rfl)
theorem dX2_visitor_7 : decode cX2_visitor 7 = .ok (.invokestatic 139, 3) := dk_184 0 139 (dk_at dksX2_visitor_0 7 rfl rfl)
theorem dX2_visitor_10 : decode cX2_visitor 10 = .ok (.aload_n 0, 1) := dk_42 (dk_at dksX2_visitor_0 10 rfl rfl)
theorem dX2_visitor_11 : decode cX2_visitor 11 = .ok (.getfield 18, 3) := dk_180 0 18 (dk_at dksX2_visitor_0 11 rfl rfl)
theorem dX2_visitor_14 : decode cX2_visitor 14 = .ok (.invokevirtual 74, 3) := dk_182 0 74 (dk_at dksX2_visitor_0 14 rfl rfl)
theorem dX2_visitor_17 : decode cX2_visitor 17 = .ok (.iconst 5, 1) := dk_8 (dk_at dksX2_visitor_0 17 rfl rfl)
theorem dX2_visitor_18 : decode cX2_visitor 18 = .ok (.if_icmp .ne 7, 3) := dk_160 0 7 (dk_at dksX2_visitor_0 18 rfl rfl)
theorem dX2_visitor_21 : decode cX2_visitor 21 = .ok (.iconst 1, 1) := dk_4 (dk_at dksX2_visitor_0 21 rfl rfl)
theorem dX2_visitor_22 : decode cX2_visitor 22 = .ok (.goto 4, 3) := dk_167 0 4 (dk_at dksX2_visitor_1 0 rfl rfl)
theorem dX2_visitor_25 : decode cX2_visitor 25 = .ok (.iconst 0, 1) := dk_3 (dk_at dksX2_visitor_1 3 rfl rfl)
theorem dX2_visitor_26 : decode cX2_visitor 26 = .ok (.bipush 13, 2) := dk_16 13 (dk_at dksX2_visitor_1 4 rfl rfl)
theorem dX2_visitor_28 : decode cX2_visitor 28 = .ok (.iconst 5, 1) := dk_8 (dk_at dksX2_visitor_1 6 rfl rfl)
theorem dX2_visitor_29 : decode cX2_visitor 29 = .ok (.invokestatic 120, 3) := dk_184 0 120 (dk_at dksX2_visitor_1 7 rfl rfl)
theorem dX2_visitor_32 : decode cX2_visitor 32 = .ok (.aload_n 0, 1) := dk_42 (dk_at dksX2_visitor_1 10 rfl rfl)
theorem dX2_visitor_33 : decode cX2_visitor 33 = .ok (.invokevirtual 174, 3) := dk_182 0 174 (dk_at dksX2_visitor_1 11 rfl rfl)
theorem dX2_visitor_36 : decode cX2_visitor 36 = .ok (.ifCond .ne 7, 3) := dk_154 0 7 (dk_at dksX2_visitor_1 14 rfl rfl)
theorem dX2_visitor_39 : decode cX2_visitor 39 = .ok (.iconst 1, 1) := dk_4 (dk_at dksX2_visitor_1 17 rfl rfl)
theorem dX2_visitor_40 : decode cX2_visitor 40 = .ok (.goto 4, 3) := dk_167 0 4 (dk_at dksX2_visitor_1 18 rfl rfl)
theorem dX2_visitor_43 : decode cX2_visitor 43 = .ok (.iconst 0, 1) := dk_3 (dk_at dksX2_visitor_1 21 rfl rfl)
theorem dX2_visitor_44 : decode cX2_visitor 44 = .ok (.bipush 6, 2) := dk_16 6 (dk_at dksX2_visitor_1 22 rfl rfl)
theorem dX2_visitor_46 : decode cX2_visitor 46 = .ok (.aload_n 0, 1) := dk_42 (dk_at dksX2_visitor_2 0 rfl rfl)
theorem dX2_visitor_47 : decode cX2_visitor 47 = .ok (.iconst 0, 1) := dk_3 (dk_at dksX2_visitor_2 1 rfl rfl)
theorem dX2_visitor_48 : decode cX2_visitor 48 = .ok (.invokevirtual 177, 3) := dk_182 0 177 (dk_at dksX2_visitor_2 2 rfl rfl)
theorem dX2_visitor_51 : decode cX2_visitor 51 = .ok (.invokestatic 181, 3) := dk_184 0 181 (dk_at dksX2_visitor_2 5 rfl rfl)
theorem dX2_visitor_54 : decode cX2_visitor 54 = .ok (.invokestatic 120, 3) := dk_184 0 120 (dk_at dksX2_visitor_2 8 rfl rfl)
theorem dX2_visitor_57 : decode cX2_visitor 57 = .ok (.aload_n 0, 1) := dk_42 (dk_at dksX2_visitor_2 11 rfl rfl)
theorem dX2_visitor_58 : decode cX2_visitor 58 = .ok (.getfield 18, 3) := dk_180 0 18 (dk_at dksX2_visitor_2 12 rfl rfl)
theorem dX2_visitor_61 : decode cX2_visitor 61 = .ok (.new 60, 3) := dk_187 0 60 (dk_at dksX2_visitor_2 15 rfl rfl)
theorem dX2_visitor_64 : decode cX2_visitor 64 = .ok (.dup, 1) := dk_89 (dk_at dksX2_visitor_2 18 rfl rfl)
theorem dX2_visitor_65 : decode cX2_visitor 65 = .ok (.iload_n 1, 1) := dk_27 (dk_at dksX2_visitor_2 19 rfl rfl)
theorem dX2_visitor_66 : decode cX2_visitor 66 = .ok (.aload_n 0, 1) := dk_42 (dk_at dksX2_visitor_2 20 rfl rfl)
theorem dX2_visitor_67 : decode cX2_visitor 67 = .ok (.iconst 0, 1) := dk_3 (dk_at dksX2_visitor_2 21 rfl rfl)
theorem dX2_visitor_68 : decode cX2_visitor 68 = .ok (.bipush 15, 2) := dk_16 15 (dk_at dksX2_visitor_2 22 rfl rfl)
theorem dX2_visitor_70 : decode cX2_visitor 70 = .ok (.invokevirtual 114, 3) := dk_182 0 114 (dk_at dksX2_visitor_3 0 rfl rfl)
theorem dX2_visitor_73 : decode cX2_visitor 73 = .ok (.invokespecial 186, 3) := dk_183 0 186 (dk_at dksX2_visitor_3 3 rfl rfl)
theorem dX2_visitor_76 : decode cX2_visitor 76 = .ok (.invokevirtual 56, 3) := dk_182 0 56 (dk_at dksX2_visitor_3 6 rfl rfl)
theorem dX2_visitor_79 : decode cX2_visitor 79 = .ok (.pop, 1) := dk_87 (dk_at dksX2_visitor_3 9 rfl rfl)
theorem dX2_visitor_80 : decode cX2_visitor 80 = .ok (.aload_n 0, 1) := dk_42 (dk_at dksX2_visitor_3 10 rfl rfl)
theorem dX2_visitor_81 : decode cX2_visitor 81 = .ok (.dup, 1) := dk_89 (dk_at dksX2_visitor_3 11 rfl rfl)
theorem dX2_visitor_82 : decode cX2_visitor 82 = .ok (.getfield 68, 3) := dk_180 0 68 (dk_at dksX2_visitor_3 12 rfl rfl)
theorem dX2_visitor_85 : decode cX2_visitor 85 = .ok (.iload_n 1, 1) := dk_27 (dk_at dksX2_visitor_3 15 rfl rfl)
theorem dX2_visitor_86 : decode cX2_visitor 86 = .ok (.iadd, 1) := dk_96 (dk_at dksX2_visitor_3 16 rfl rfl)
theorem dX2_visitor_87 : decode cX2_visitor 87 = .ok (.putfield 68, 3) := dk_181 0 68 (dk_at dksX2_visitor_3 17 rfl rfl)
theorem dX2_visitor_90 : decode cX2_visitor 90 = .ok (.aload_n 0, 1) := dk_42 (dk_at dksX2_visitor_3 20 rfl rfl)
theorem dX2_visitor_91 : decode cX2_visitor 91 = .ok (.getfield 18, 3) := dk_180 0 18 (dk_at dksX2_visitor_3 21 rfl rfl)
theorem dX2_visitor_94 : decode cX2_visitor 94 = .ok (.invokevirtual 74, 3) := dk_182 0 74 (dk_at dksX2_visitor_4 0 rfl rfl)
theorem dX2_visitor_97 : decode cX2_visitor 97 = .ok (.iconst 1, 1) := dk_4 (dk_at dksX2_visitor_4 3 rfl rfl)
theorem dX2_visitor_98 : decode cX2_visitor 98 = .ok (.isub, 1) := dk_100 (dk_at dksX2_visitor_4 4 rfl rfl)
theorem dX2_visitor_99 : decode cX2_visitor 99 = .ok (.ireturn, 1) := dk_172 (dk_at dksX2_visitor_4 5 rfl rfl)
abbrev cX2_reached : ByteArray := prog_2_method_15_code
def yX2_reached : MethodName := ⟨RX2, "reached", "(I)I"⟩
def dkwX2_reached_1 : List UInt8 := [2, 160, 0, 7, 3, 167, 0, 7, 4, 21, 4, 120, 128, 61, 132, 4, 1, 167, 255, 227, 28, 172]
abbrev dktX2_reached_1 : List UInt8 := dkwX2_reached_1 ++ []
def dkwX2_reached_0 : List UInt8 := [3, 61, 42, 27, 3, 182, 0, 110, 78, 3, 54, 4, 21, 4, 16, 16, 162, 0, 28, 28, 45, 21, 4, 46]
abbrev dktX2_reached_0 : List UInt8 := dkwX2_reached_0 ++ dktX2_reached_1
theorem dksX2_reached_0 : cX2_reached.data.toList.drop 0 = dktX2_reached_0 := by decide +kernel
theorem dksX2_reached_1 : cX2_reached.data.toList.drop 24 = dktX2_reached_1 := dk_seg dksX2_reached_0 24 rfl rfl
theorem dX2_reached_0 : decode cX2_reached 0 = .ok (.iconst 0, 1) := dk_3 (dk_at dksX2_reached_0 0 rfl rfl)
theorem dX2_reached_1 : decode cX2_reached 1 = .ok (.istore_n 2, 1) := dk_61 (dk_at dksX2_reached_0 1 rfl rfl)
theorem dX2_reached_2 : decode cX2_reached 2 = .ok (.aload_n 0, 1) := dk_42 (dk_at dksX2_reached_0 2 rfl rfl)
theorem dX2_reached_3 : decode cX2_reached 3 = .ok (.iload_n 1, 1) := dk_27 (dk_at dksX2_reached_0 3 rfl rfl)
theorem dX2_reached_4 : decode cX2_reached 4 = .ok (.iconst 0, 1) := dk_3 (dk_at dksX2_reached_0 4 rfl rfl)
theorem dX2_reached_5 : decode cX2_reached 5 = .ok (.invokevirtual 110, 3) := dk_182 0 110 (dk_at dksX2_reached_0 5 rfl rfl)
theorem dX2_reached_8 : decode cX2_reached 8 = .ok (.astore_n 3, 1) := dk_78 (dk_at dksX2_reached_0 8 rfl rfl)
theorem dX2_reached_9 : decode cX2_reached 9 = .ok (.iconst 0, 1) := dk_3 (dk_at dksX2_reached_0 9 rfl rfl)
theorem dX2_reached_10 : decode cX2_reached 10 = .ok (.istore 4, 2) := dk_54 4 (dk_at dksX2_reached_0 10 rfl rfl)
theorem dX2_reached_12 : decode cX2_reached 12 = .ok (.iload 4, 2) := dk_21 4 (dk_at dksX2_reached_0 12 rfl rfl)
theorem dX2_reached_14 : decode cX2_reached 14 = .ok (.bipush 16, 2) := dk_16 16 (dk_at dksX2_reached_0 14 rfl rfl)
theorem dX2_reached_16 : decode cX2_reached 16 = .ok (.if_icmp .ge 28, 3) := dk_162 0 28 (dk_at dksX2_reached_0 16 rfl rfl)
theorem dX2_reached_19 : decode cX2_reached 19 = .ok (.iload_n 2, 1) := dk_28 (dk_at dksX2_reached_0 19 rfl rfl)
theorem dX2_reached_20 : decode cX2_reached 20 = .ok (.aload_n 3, 1) := dk_45 (dk_at dksX2_reached_0 20 rfl rfl)
theorem dX2_reached_21 : decode cX2_reached 21 = .ok (.iload 4, 2) := dk_21 4 (dk_at dksX2_reached_0 21 rfl rfl)
theorem dX2_reached_23 : decode cX2_reached 23 = .ok (.iaload, 1) := dk_46 (dk_at dksX2_reached_0 23 rfl rfl)
theorem dX2_reached_24 : decode cX2_reached 24 = .ok (.iconst (-1), 1) := dk_2 (dk_at dksX2_reached_1 0 rfl rfl)
theorem dX2_reached_25 : decode cX2_reached 25 = .ok (.if_icmp .ne 7, 3) := dk_160 0 7 (dk_at dksX2_reached_1 1 rfl rfl)
theorem dX2_reached_28 : decode cX2_reached 28 = .ok (.iconst 0, 1) := dk_3 (dk_at dksX2_reached_1 4 rfl rfl)
theorem dX2_reached_29 : decode cX2_reached 29 = .ok (.goto 7, 3) := dk_167 0 7 (dk_at dksX2_reached_1 5 rfl rfl)
theorem dX2_reached_32 : decode cX2_reached 32 = .ok (.iconst 1, 1) := dk_4 (dk_at dksX2_reached_1 8 rfl rfl)
theorem dX2_reached_33 : decode cX2_reached 33 = .ok (.iload 4, 2) := dk_21 4 (dk_at dksX2_reached_1 9 rfl rfl)
theorem dX2_reached_35 : decode cX2_reached 35 = .ok (.ishl, 1) := dk_120 (dk_at dksX2_reached_1 11 rfl rfl)
theorem dX2_reached_36 : decode cX2_reached 36 = .ok (.ior, 1) := dk_128 (dk_at dksX2_reached_1 12 rfl rfl)
theorem dX2_reached_37 : decode cX2_reached 37 = .ok (.istore_n 2, 1) := dk_61 (dk_at dksX2_reached_1 13 rfl rfl)
theorem dX2_reached_38 : decode cX2_reached 38 = .ok (.iinc 4 1, 3) := dk_132 4 1 (dk_at dksX2_reached_1 14 rfl rfl)
theorem dX2_reached_41 : decode cX2_reached 41 = .ok (.goto (-29), 3) := dk_167 255 227 (dk_at dksX2_reached_1 17 rfl rfl)
theorem dX2_reached_44 : decode cX2_reached 44 = .ok (.iload_n 2, 1) := dk_28 (dk_at dksX2_reached_1 20 rfl rfl)
theorem dX2_reached_45 : decode cX2_reached 45 = .ok (.ireturn, 1) := dk_172 (dk_at dksX2_reached_1 21 rfl rfl)
abbrev cX2_bond : ByteArray := prog_2_method_25_code
def yX2_bond : MethodName := ⟨RX2, "bond", "(III)I"⟩
def dkwX2_bond_5 : List UInt8 := [29, 181, 0, 207, 25, 5, 182, 0, 210, 172]
abbrev dktX2_bond_5 : List UInt8 := dkwX2_bond_5 ++ []
def dkwX2_bond_4 : List UInt8 := [182, 0, 202, 25, 4, 89, 180, 0, 204, 5, 29, 104, 96, 181, 0, 204, 25, 5, 27, 181, 0, 198, 25, 5]
abbrev dktX2_bond_4 : List UInt8 := dkwX2_bond_4 ++ dktX2_bond_5
def dkwX2_bond_3 : List UInt8 := [16, 10, 42, 180, 0, 21, 184, 0, 120, 25, 5, 5, 29, 104, 182, 0, 201, 25, 4, 5, 29, 104]
abbrev dktX2_bond_3 : List UInt8 := dkwX2_bond_3 ++ dktX2_bond_4
def dkwX2_bond_2 : List UInt8 := [180, 0, 198, 184, 0, 120, 25, 5, 180, 0, 166, 42, 180, 0, 21, 160, 0, 7, 4, 167, 0, 4, 3]
abbrev dktX2_bond_2 : List UInt8 := dkwX2_bond_2 ++ dktX2_bond_3
def dkwX2_bond_1 : List UInt8 := [25, 5, 182, 0, 163, 16, 9, 25, 5, 180, 0, 193, 184, 0, 120, 25, 5, 182, 0, 195, 16, 8, 25, 5]
abbrev dktX2_bond_1 : List UInt8 := dkwX2_bond_1 ++ dktX2_bond_2
def dkwX2_bond_0 : List UInt8 := [42, 27, 182, 0, 149, 58, 4, 42, 28, 182, 0, 189, 58, 5, 29, 4, 8, 184, 0, 78, 184, 0, 139]
abbrev dktX2_bond_0 : List UInt8 := dkwX2_bond_0 ++ dktX2_bond_1
theorem dksX2_bond_0 : cX2_bond.data.toList.drop 0 = dktX2_bond_0 := by decide +kernel
theorem dksX2_bond_1 : cX2_bond.data.toList.drop 23 = dktX2_bond_1 := dk_seg dksX2_bond_0 23 rfl rfl
theorem dksX2_bond_2 : cX2_bond.data.toList.drop 47 = dktX2_bond_2 := dk_seg dksX2_bond_1 24 rfl rfl
theorem dksX2_bond_3 : cX2_bond.data.toList.drop 70 = dktX2_bond_3 := dk_seg dksX2_bond_2 23 rfl rfl
theorem dksX2_bond_4 : cX2_bond.data.toList.drop 92 = dktX2_bond_4 := dk_seg dksX2_bond_3 22 rfl rfl
theorem dksX2_bond_5 : cX2_bond.data.toList.drop 116 = dktX2_bond_5 := dk_seg dksX2_bond_4 24 rfl rfl
theorem dX2_bond_0 : decode cX2_bond 0 = .ok (.aload_n 0, 1) := dk_42 (dk_at dksX2_bond_0 0 rfl rfl)
theorem dX2_bond_1 : decode cX2_bond 1 = .ok (.iload_n 1, 1) := dk_27 (dk_at dksX2_bond_0 1 rfl rfl)
theorem dX2_bond_2 : decode cX2_bond 2 = .ok (.invokevirtual 149, 3) := dk_182 0 149 (dk_at dksX2_bond_0 2 rfl rfl)
theorem dX2_bond_5 : decode cX2_bond 5 = .ok (.astore 4, 2) := dk_58 4 (dk_at dksX2_bond_0 5 rfl rfl)
theorem dX2_bond_7 : decode cX2_bond 7 = .ok (.aload_n 0, 1) := dk_42 (dk_at dksX2_bond_0 7 rfl rfl)
theorem dX2_bond_8 : decode cX2_bond 8 = .ok (.iload_n 2, 1) := dk_28 (dk_at dksX2_bond_0 8 rfl rfl)
theorem dX2_bond_9 : decode cX2_bond 9 = .ok (.invokevirtual 189, 3) := dk_182 0 189 (dk_at dksX2_bond_0 9 rfl rfl)
theorem dX2_bond_12 : decode cX2_bond 12 = .ok (.astore 5, 2) := dk_58 5 (dk_at dksX2_bond_0 12 rfl rfl)
theorem dX2_bond_14 : decode cX2_bond 14 = .ok (.iload_n 3, 1) := dk_29 (dk_at dksX2_bond_0 14 rfl rfl)
theorem dX2_bond_15 : decode cX2_bond 15 = .ok (.iconst 1, 1) := dk_4 (dk_at dksX2_bond_0 15 rfl rfl)
theorem dX2_bond_16 : decode cX2_bond 16 = .ok (.iconst 5, 1) := dk_8 (dk_at dksX2_bond_0 16 rfl rfl)
theorem dX2_bond_17 : decode cX2_bond 17 = .ok (.invokestatic 78, 3) := dk_184 0 78 (dk_at dksX2_bond_0 17 rfl rfl)
theorem dX2_bond_20 : decode cX2_bond 20 = .ok (.invokestatic 139, 3) := dk_184 0 139 (dk_at dksX2_bond_0 20 rfl rfl)
theorem dX2_bond_23 : decode cX2_bond 23 = .ok (.aload 5, 2) := dk_25 5 (dk_at dksX2_bond_1 0 rfl rfl)
theorem dX2_bond_25 : decode cX2_bond 25 = .ok (.invokevirtual 163, 3) := dk_182 0 163 (dk_at dksX2_bond_1 2 rfl rfl)
theorem dX2_bond_28 : decode cX2_bond 28 = .ok (.bipush 9, 2) := dk_16 9 (dk_at dksX2_bond_1 5 rfl rfl)
theorem dX2_bond_30 : decode cX2_bond 30 = .ok (.aload 5, 2) := dk_25 5 (dk_at dksX2_bond_1 7 rfl rfl)
theorem dX2_bond_32 : decode cX2_bond 32 = .ok (.getfield 193, 3) := dk_180 0 193 (dk_at dksX2_bond_1 9 rfl rfl)
theorem dX2_bond_35 : decode cX2_bond 35 = .ok (.invokestatic 120, 3) := dk_184 0 120 (dk_at dksX2_bond_1 12 rfl rfl)
theorem dX2_bond_38 : decode cX2_bond 38 = .ok (.aload 5, 2) := dk_25 5 (dk_at dksX2_bond_1 15 rfl rfl)
theorem dX2_bond_40 : decode cX2_bond 40 = .ok (.invokevirtual 195, 3) := dk_182 0 195 (dk_at dksX2_bond_1 17 rfl rfl)
theorem dX2_bond_43 : decode cX2_bond 43 = .ok (.bipush 8, 2) := dk_16 8 (dk_at dksX2_bond_1 20 rfl rfl)
theorem dX2_bond_45 : decode cX2_bond 45 = .ok (.aload 5, 2) := dk_25 5 (dk_at dksX2_bond_1 22 rfl rfl)
theorem dX2_bond_47 : decode cX2_bond 47 = .ok (.getfield 198, 3) := dk_180 0 198 (dk_at dksX2_bond_2 0 rfl rfl)
theorem dX2_bond_50 : decode cX2_bond 50 = .ok (.invokestatic 120, 3) := dk_184 0 120 (dk_at dksX2_bond_2 3 rfl rfl)
theorem dX2_bond_53 : decode cX2_bond 53 = .ok (.aload 5, 2) := dk_25 5 (dk_at dksX2_bond_2 6 rfl rfl)
theorem dX2_bond_55 : decode cX2_bond 55 = .ok (.getfield 166, 3) := dk_180 0 166 (dk_at dksX2_bond_2 8 rfl rfl)
theorem dX2_bond_58 : decode cX2_bond 58 = .ok (.aload_n 0, 1) := dk_42 (dk_at dksX2_bond_2 11 rfl rfl)
theorem dX2_bond_59 : decode cX2_bond 59 = .ok (.getfield 21, 3) := dk_180 0 21 (dk_at dksX2_bond_2 12 rfl rfl)
theorem dX2_bond_62 : decode cX2_bond 62 = .ok (.if_icmp .ne 7, 3) := dk_160 0 7 (dk_at dksX2_bond_2 15 rfl rfl)
theorem dX2_bond_65 : decode cX2_bond 65 = .ok (.iconst 1, 1) := dk_4 (dk_at dksX2_bond_2 18 rfl rfl)
theorem dX2_bond_66 : decode cX2_bond 66 = .ok (.goto 4, 3) := dk_167 0 4 (dk_at dksX2_bond_2 19 rfl rfl)
theorem dX2_bond_69 : decode cX2_bond 69 = .ok (.iconst 0, 1) := dk_3 (dk_at dksX2_bond_2 22 rfl rfl)
theorem dX2_bond_70 : decode cX2_bond 70 = .ok (.bipush 10, 2) := dk_16 10 (dk_at dksX2_bond_3 0 rfl rfl)
theorem dX2_bond_72 : decode cX2_bond 72 = .ok (.aload_n 0, 1) := dk_42 (dk_at dksX2_bond_3 2 rfl rfl)
theorem dX2_bond_73 : decode cX2_bond 73 = .ok (.getfield 21, 3) := dk_180 0 21 (dk_at dksX2_bond_3 3 rfl rfl)
theorem dX2_bond_76 : decode cX2_bond 76 = .ok (.invokestatic 120, 3) := dk_184 0 120 (dk_at dksX2_bond_3 6 rfl rfl)
theorem dX2_bond_79 : decode cX2_bond 79 = .ok (.aload 5, 2) := dk_25 5 (dk_at dksX2_bond_3 9 rfl rfl)
theorem dX2_bond_81 : decode cX2_bond 81 = .ok (.iconst 2, 1) := dk_5 (dk_at dksX2_bond_3 11 rfl rfl)
theorem dX2_bond_82 : decode cX2_bond 82 = .ok (.iload_n 3, 1) := dk_29 (dk_at dksX2_bond_3 12 rfl rfl)
theorem dX2_bond_83 : decode cX2_bond 83 = .ok (.imul, 1) := dk_104 (dk_at dksX2_bond_3 13 rfl rfl)
theorem dX2_bond_84 : decode cX2_bond 84 = .ok (.invokevirtual 201, 3) := dk_182 0 201 (dk_at dksX2_bond_3 14 rfl rfl)
theorem dX2_bond_87 : decode cX2_bond 87 = .ok (.aload 4, 2) := dk_25 4 (dk_at dksX2_bond_3 17 rfl rfl)
theorem dX2_bond_89 : decode cX2_bond 89 = .ok (.iconst 2, 1) := dk_5 (dk_at dksX2_bond_3 19 rfl rfl)
theorem dX2_bond_90 : decode cX2_bond 90 = .ok (.iload_n 3, 1) := dk_29 (dk_at dksX2_bond_3 20 rfl rfl)
theorem dX2_bond_91 : decode cX2_bond 91 = .ok (.imul, 1) := dk_104 (dk_at dksX2_bond_3 21 rfl rfl)
theorem dX2_bond_92 : decode cX2_bond 92 = .ok (.invokevirtual 202, 3) := dk_182 0 202 (dk_at dksX2_bond_4 0 rfl rfl)
theorem dX2_bond_95 : decode cX2_bond 95 = .ok (.aload 4, 2) := dk_25 4 (dk_at dksX2_bond_4 3 rfl rfl)
theorem dX2_bond_97 : decode cX2_bond 97 = .ok (.dup, 1) := dk_89 (dk_at dksX2_bond_4 5 rfl rfl)
theorem dX2_bond_98 : decode cX2_bond 98 = .ok (.getfield 204, 3) := dk_180 0 204 (dk_at dksX2_bond_4 6 rfl rfl)
theorem dX2_bond_101 : decode cX2_bond 101 = .ok (.iconst 2, 1) := dk_5 (dk_at dksX2_bond_4 9 rfl rfl)
theorem dX2_bond_102 : decode cX2_bond 102 = .ok (.iload_n 3, 1) := dk_29 (dk_at dksX2_bond_4 10 rfl rfl)
theorem dX2_bond_103 : decode cX2_bond 103 = .ok (.imul, 1) := dk_104 (dk_at dksX2_bond_4 11 rfl rfl)
theorem dX2_bond_104 : decode cX2_bond 104 = .ok (.iadd, 1) := dk_96 (dk_at dksX2_bond_4 12 rfl rfl)
theorem dX2_bond_105 : decode cX2_bond 105 = .ok (.putfield 204, 3) := dk_181 0 204 (dk_at dksX2_bond_4 13 rfl rfl)
theorem dX2_bond_108 : decode cX2_bond 108 = .ok (.aload 5, 2) := dk_25 5 (dk_at dksX2_bond_4 16 rfl rfl)
theorem dX2_bond_110 : decode cX2_bond 110 = .ok (.iload_n 1, 1) := dk_27 (dk_at dksX2_bond_4 18 rfl rfl)
theorem dX2_bond_111 : decode cX2_bond 111 = .ok (.putfield 198, 3) := dk_181 0 198 (dk_at dksX2_bond_4 19 rfl rfl)
theorem dX2_bond_114 : decode cX2_bond 114 = .ok (.aload 5, 2) := dk_25 5 (dk_at dksX2_bond_4 22 rfl rfl)
theorem dX2_bond_116 : decode cX2_bond 116 = .ok (.iload_n 3, 1) := dk_29 (dk_at dksX2_bond_5 0 rfl rfl)
theorem dX2_bond_117 : decode cX2_bond 117 = .ok (.putfield 207, 3) := dk_181 0 207 (dk_at dksX2_bond_5 1 rfl rfl)
theorem dX2_bond_120 : decode cX2_bond 120 = .ok (.aload 5, 2) := dk_25 5 (dk_at dksX2_bond_5 4 rfl rfl)
theorem dX2_bond_122 : decode cX2_bond 122 = .ok (.invokevirtual 210, 3) := dk_182 0 210 (dk_at dksX2_bond_5 6 rfl rfl)
theorem dX2_bond_125 : decode cX2_bond 125 = .ok (.ireturn, 1) := dk_172 (dk_at dksX2_bond_5 9 rfl rfl)
abbrev cX2_requireVisitor : ByteArray := prog_2_method_18_code
def yX2_requireVisitor : MethodName := ⟨RX2, "requireVisitor", "(I)LMazeBonds$Visitor;"⟩
def dkwX2_requireVisitor_1 : List UInt8 := [184, 0, 120, 42, 180, 0, 18, 27, 182, 0, 128, 192, 0, 60, 176]
abbrev dktX2_requireVisitor_1 : List UInt8 := dkwX2_requireVisitor_1 ++ []
def dkwX2_requireVisitor_0 : List UInt8 := [42, 27, 182, 0, 132, 154, 0, 7, 4, 167, 0, 4, 3, 16, 7, 42, 180, 0, 18, 182, 0, 74]
abbrev dktX2_requireVisitor_0 : List UInt8 := dkwX2_requireVisitor_0 ++ dktX2_requireVisitor_1
theorem dksX2_requireVisitor_0 : cX2_requireVisitor.data.toList.drop 0 = dktX2_requireVisitor_0 := by decide +kernel
theorem dksX2_requireVisitor_1 : cX2_requireVisitor.data.toList.drop 22 = dktX2_requireVisitor_1 := dk_seg dksX2_requireVisitor_0 22 rfl rfl
theorem dX2_requireVisitor_0 : decode cX2_requireVisitor 0 = .ok (.aload_n 0, 1) := dk_42 (dk_at dksX2_requireVisitor_0 0 rfl rfl)
theorem dX2_requireVisitor_1 : decode cX2_requireVisitor 1 = .ok (.iload_n 1, 1) := dk_27 (dk_at dksX2_requireVisitor_0 1 rfl rfl)
theorem dX2_requireVisitor_2 : decode cX2_requireVisitor 2 = .ok (.invokevirtual 132, 3) := dk_182 0 132 (dk_at dksX2_requireVisitor_0 2 rfl rfl)
theorem dX2_requireVisitor_5 : decode cX2_requireVisitor 5 = .ok (.ifCond .ne 7, 3) := dk_154 0 7 (dk_at dksX2_requireVisitor_0 5 rfl rfl)
theorem dX2_requireVisitor_8 : decode cX2_requireVisitor 8 = .ok (.iconst 1, 1) := dk_4 (dk_at dksX2_requireVisitor_0 8 rfl rfl)
theorem dX2_requireVisitor_9 : decode cX2_requireVisitor 9 = .ok (.goto 4, 3) := dk_167 0 4 (dk_at dksX2_requireVisitor_0 9 rfl rfl)
theorem dX2_requireVisitor_12 : decode cX2_requireVisitor 12 = .ok (.iconst 0, 1) := dk_3 (dk_at dksX2_requireVisitor_0 12 rfl rfl)
theorem dX2_requireVisitor_13 : decode cX2_requireVisitor 13 = .ok (.bipush 7, 2) := dk_16 7 (dk_at dksX2_requireVisitor_0 13 rfl rfl)
theorem dX2_requireVisitor_15 : decode cX2_requireVisitor 15 = .ok (.aload_n 0, 1) := dk_42 (dk_at dksX2_requireVisitor_0 15 rfl rfl)
theorem dX2_requireVisitor_16 : decode cX2_requireVisitor 16 = .ok (.getfield 18, 3) := dk_180 0 18 (dk_at dksX2_requireVisitor_0 16 rfl rfl)
theorem dX2_requireVisitor_19 : decode cX2_requireVisitor 19 = .ok (.invokevirtual 74, 3) := dk_182 0 74 (dk_at dksX2_requireVisitor_0 19 rfl rfl)
theorem dX2_requireVisitor_22 : decode cX2_requireVisitor 22 = .ok (.invokestatic 120, 3) := dk_184 0 120 (dk_at dksX2_requireVisitor_1 0 rfl rfl)
theorem dX2_requireVisitor_25 : decode cX2_requireVisitor 25 = .ok (.aload_n 0, 1) := dk_42 (dk_at dksX2_requireVisitor_1 3 rfl rfl)
theorem dX2_requireVisitor_26 : decode cX2_requireVisitor 26 = .ok (.getfield 18, 3) := dk_180 0 18 (dk_at dksX2_requireVisitor_1 4 rfl rfl)
theorem dX2_requireVisitor_29 : decode cX2_requireVisitor 29 = .ok (.iload_n 1, 1) := dk_27 (dk_at dksX2_requireVisitor_1 7 rfl rfl)
theorem dX2_requireVisitor_30 : decode cX2_requireVisitor 30 = .ok (.invokevirtual 128, 3) := dk_182 0 128 (dk_at dksX2_requireVisitor_1 8 rfl rfl)
theorem dX2_requireVisitor_33 : decode cX2_requireVisitor 33 = .ok (.checkcast 60, 3) := dk_192 0 60 (dk_at dksX2_requireVisitor_1 11 rfl rfl)
theorem dX2_requireVisitor_36 : decode cX2_requireVisitor 36 = .ok (.areturn, 1) := dk_176 (dk_at dksX2_requireVisitor_1 14 rfl rfl)
abbrev cX2_isVisitor : ByteArray := prog_2_method_5_code
def yX2_isVisitor : MethodName := ⟨RX2, "isVisitor", "(I)Z"⟩
def dkwX2_isVisitor_0 : List UInt8 := [27, 3, 42, 180, 0, 18, 182, 0, 74, 4, 100, 184, 0, 78, 172]
abbrev dktX2_isVisitor_0 : List UInt8 := dkwX2_isVisitor_0 ++ []
theorem dksX2_isVisitor_0 : cX2_isVisitor.data.toList.drop 0 = dktX2_isVisitor_0 := by decide +kernel
theorem dX2_isVisitor_0 : decode cX2_isVisitor 0 = .ok (.iload_n 1, 1) := dk_27 (dk_at dksX2_isVisitor_0 0 rfl rfl)
theorem dX2_isVisitor_1 : decode cX2_isVisitor 1 = .ok (.iconst 0, 1) := dk_3 (dk_at dksX2_isVisitor_0 1 rfl rfl)
theorem dX2_isVisitor_2 : decode cX2_isVisitor 2 = .ok (.aload_n 0, 1) := dk_42 (dk_at dksX2_isVisitor_0 2 rfl rfl)
theorem dX2_isVisitor_3 : decode cX2_isVisitor 3 = .ok (.getfield 18, 3) := dk_180 0 18 (dk_at dksX2_isVisitor_0 3 rfl rfl)
theorem dX2_isVisitor_6 : decode cX2_isVisitor 6 = .ok (.invokevirtual 74, 3) := dk_182 0 74 (dk_at dksX2_isVisitor_0 6 rfl rfl)
theorem dX2_isVisitor_9 : decode cX2_isVisitor 9 = .ok (.iconst 1, 1) := dk_4 (dk_at dksX2_isVisitor_0 9 rfl rfl)
theorem dX2_isVisitor_10 : decode cX2_isVisitor 10 = .ok (.isub, 1) := dk_100 (dk_at dksX2_isVisitor_0 10 rfl rfl)
theorem dX2_isVisitor_11 : decode cX2_isVisitor 11 = .ok (.invokestatic 78, 3) := dk_184 0 78 (dk_at dksX2_isVisitor_0 11 rfl rfl)
theorem dX2_isVisitor_14 : decode cX2_isVisitor 14 = .ok (.ireturn, 1) := dk_172 (dk_at dksX2_isVisitor_0 14 rfl rfl)
abbrev cX2_walk : ByteArray := prog_2_method_27_code
def yX2_walk : MethodName := ⟨RX2, "walk", "(II)I"⟩
def dkwX2_walk_6 : List UInt8 := [172]
abbrev dktX2_walk_6 : List UInt8 := dkwX2_walk_6 ++ []
def dkwX2_walk_5 : List UInt8 := [180, 0, 21, 160, 0, 7, 45, 182, 0, 169, 45, 182, 0, 163, 153, 0, 8, 42, 45, 182, 0, 224, 21, 4]
abbrev dktX2_walk_5 : List UInt8 := dkwX2_walk_5 ++ dktX2_walk_6
def dkwX2_walk_4 : List UInt8 := [184, 0, 120, 45, 21, 4, 181, 0, 166, 45, 89, 180, 0, 193, 4, 96, 181, 0, 193, 21, 4, 42]
abbrev dktX2_walk_4 : List UInt8 := dkwX2_walk_4 ++ dktX2_walk_5
def dkwX2_walk_3 : List UInt8 := [154, 0, 7, 4, 167, 0, 4, 3, 16, 12, 42, 180, 0, 25, 45, 180, 0, 166, 21, 4, 184, 0, 82, 46]
abbrev dktX2_walk_3 : List UInt8 := dkwX2_walk_3 ++ dktX2_walk_4
def dkwX2_walk_2 : List UInt8 := [167, 0, 4, 3, 16, 11, 45, 180, 0, 166, 184, 0, 120, 42, 45, 180, 0, 166, 21, 4, 182, 0, 97]
abbrev dktX2_walk_2 : List UInt8 := dkwX2_walk_2 ++ dktX2_walk_3
def dkwX2_walk_1 : List UInt8 := [180, 0, 193, 184, 0, 120, 45, 180, 0, 166, 28, 184, 0, 94, 54, 4, 21, 4, 2, 160, 0, 7, 4]
abbrev dktX2_walk_1 : List UInt8 := dkwX2_walk_1 ++ dktX2_walk_2
def dkwX2_walk_0 : List UInt8 := [42, 27, 182, 0, 189, 78, 28, 3, 6, 184, 0, 78, 184, 0, 139, 45, 182, 0, 163, 16, 9, 45]
abbrev dktX2_walk_0 : List UInt8 := dkwX2_walk_0 ++ dktX2_walk_1
theorem dksX2_walk_0 : cX2_walk.data.toList.drop 0 = dktX2_walk_0 := by decide +kernel
theorem dksX2_walk_1 : cX2_walk.data.toList.drop 22 = dktX2_walk_1 := dk_seg dksX2_walk_0 22 rfl rfl
theorem dksX2_walk_2 : cX2_walk.data.toList.drop 45 = dktX2_walk_2 := dk_seg dksX2_walk_1 23 rfl rfl
theorem dksX2_walk_3 : cX2_walk.data.toList.drop 68 = dktX2_walk_3 := dk_seg dksX2_walk_2 23 rfl rfl
theorem dksX2_walk_4 : cX2_walk.data.toList.drop 92 = dktX2_walk_4 := dk_seg dksX2_walk_3 24 rfl rfl
theorem dksX2_walk_5 : cX2_walk.data.toList.drop 114 = dktX2_walk_5 := dk_seg dksX2_walk_4 22 rfl rfl
theorem dksX2_walk_6 : cX2_walk.data.toList.drop 138 = dktX2_walk_6 := dk_seg dksX2_walk_5 24 rfl rfl
theorem dX2_walk_0 : decode cX2_walk 0 = .ok (.aload_n 0, 1) := dk_42 (dk_at dksX2_walk_0 0 rfl rfl)
theorem dX2_walk_1 : decode cX2_walk 1 = .ok (.iload_n 1, 1) := dk_27 (dk_at dksX2_walk_0 1 rfl rfl)
theorem dX2_walk_2 : decode cX2_walk 2 = .ok (.invokevirtual 189, 3) := dk_182 0 189 (dk_at dksX2_walk_0 2 rfl rfl)
theorem dX2_walk_5 : decode cX2_walk 5 = .ok (.astore_n 3, 1) := dk_78 (dk_at dksX2_walk_0 5 rfl rfl)
theorem dX2_walk_6 : decode cX2_walk 6 = .ok (.iload_n 2, 1) := dk_28 (dk_at dksX2_walk_0 6 rfl rfl)
theorem dX2_walk_7 : decode cX2_walk 7 = .ok (.iconst 0, 1) := dk_3 (dk_at dksX2_walk_0 7 rfl rfl)
theorem dX2_walk_8 : decode cX2_walk 8 = .ok (.iconst 3, 1) := dk_6 (dk_at dksX2_walk_0 8 rfl rfl)
theorem dX2_walk_9 : decode cX2_walk 9 = .ok (.invokestatic 78, 3) := dk_184 0 78 (dk_at dksX2_walk_0 9 rfl rfl)
theorem dX2_walk_12 : decode cX2_walk 12 = .ok (.invokestatic 139, 3) := dk_184 0 139 (dk_at dksX2_walk_0 12 rfl rfl)
theorem dX2_walk_15 : decode cX2_walk 15 = .ok (.aload_n 3, 1) := dk_45 (dk_at dksX2_walk_0 15 rfl rfl)
theorem dX2_walk_16 : decode cX2_walk 16 = .ok (.invokevirtual 163, 3) := dk_182 0 163 (dk_at dksX2_walk_0 16 rfl rfl)
theorem dX2_walk_19 : decode cX2_walk 19 = .ok (.bipush 9, 2) := dk_16 9 (dk_at dksX2_walk_0 19 rfl rfl)
theorem dX2_walk_21 : decode cX2_walk 21 = .ok (.aload_n 3, 1) := dk_45 (dk_at dksX2_walk_0 21 rfl rfl)
theorem dX2_walk_22 : decode cX2_walk 22 = .ok (.getfield 193, 3) := dk_180 0 193 (dk_at dksX2_walk_1 0 rfl rfl)
theorem dX2_walk_25 : decode cX2_walk 25 = .ok (.invokestatic 120, 3) := dk_184 0 120 (dk_at dksX2_walk_1 3 rfl rfl)
theorem dX2_walk_28 : decode cX2_walk 28 = .ok (.aload_n 3, 1) := dk_45 (dk_at dksX2_walk_1 6 rfl rfl)
theorem dX2_walk_29 : decode cX2_walk 29 = .ok (.getfield 166, 3) := dk_180 0 166 (dk_at dksX2_walk_1 7 rfl rfl)
theorem dX2_walk_32 : decode cX2_walk 32 = .ok (.iload_n 2, 1) := dk_28 (dk_at dksX2_walk_1 10 rfl rfl)
theorem dX2_walk_33 : decode cX2_walk 33 = .ok (.invokestatic 94, 3) := dk_184 0 94 (dk_at dksX2_walk_1 11 rfl rfl)
theorem dX2_walk_36 : decode cX2_walk 36 = .ok (.istore 4, 2) := dk_54 4 (dk_at dksX2_walk_1 14 rfl rfl)
theorem dX2_walk_38 : decode cX2_walk 38 = .ok (.iload 4, 2) := dk_21 4 (dk_at dksX2_walk_1 16 rfl rfl)
theorem dX2_walk_40 : decode cX2_walk 40 = .ok (.iconst (-1), 1) := dk_2 (dk_at dksX2_walk_1 18 rfl rfl)
theorem dX2_walk_41 : decode cX2_walk 41 = .ok (.if_icmp .ne 7, 3) := dk_160 0 7 (dk_at dksX2_walk_1 19 rfl rfl)
theorem dX2_walk_44 : decode cX2_walk 44 = .ok (.iconst 1, 1) := dk_4 (dk_at dksX2_walk_1 22 rfl rfl)
theorem dX2_walk_45 : decode cX2_walk 45 = .ok (.goto 4, 3) := dk_167 0 4 (dk_at dksX2_walk_2 0 rfl rfl)
theorem dX2_walk_48 : decode cX2_walk 48 = .ok (.iconst 0, 1) := dk_3 (dk_at dksX2_walk_2 3 rfl rfl)
theorem dX2_walk_49 : decode cX2_walk 49 = .ok (.bipush 11, 2) := dk_16 11 (dk_at dksX2_walk_2 4 rfl rfl)
theorem dX2_walk_51 : decode cX2_walk 51 = .ok (.aload_n 3, 1) := dk_45 (dk_at dksX2_walk_2 6 rfl rfl)
theorem dX2_walk_52 : decode cX2_walk 52 = .ok (.getfield 166, 3) := dk_180 0 166 (dk_at dksX2_walk_2 7 rfl rfl)
theorem dX2_walk_55 : decode cX2_walk 55 = .ok (.invokestatic 120, 3) := dk_184 0 120 (dk_at dksX2_walk_2 10 rfl rfl)
theorem dX2_walk_58 : decode cX2_walk 58 = .ok (.aload_n 0, 1) := dk_42 (dk_at dksX2_walk_2 13 rfl rfl)
theorem dX2_walk_59 : decode cX2_walk 59 = .ok (.aload_n 3, 1) := dk_45 (dk_at dksX2_walk_2 14 rfl rfl)
theorem dX2_walk_60 : decode cX2_walk 60 = .ok (.getfield 166, 3) := dk_180 0 166 (dk_at dksX2_walk_2 15 rfl rfl)
theorem dX2_walk_63 : decode cX2_walk 63 = .ok (.iload 4, 2) := dk_21 4 (dk_at dksX2_walk_2 18 rfl rfl)
theorem dX2_walk_65 : decode cX2_walk 65 = .ok (.invokevirtual 97, 3) := dk_182 0 97 (dk_at dksX2_walk_2 20 rfl rfl)
theorem dX2_walk_68 : decode cX2_walk 68 = .ok (.ifCond .ne 7, 3) := dk_154 0 7 (dk_at dksX2_walk_3 0 rfl rfl)
theorem dX2_walk_71 : decode cX2_walk 71 = .ok (.iconst 1, 1) := dk_4 (dk_at dksX2_walk_3 3 rfl rfl)
theorem dX2_walk_72 : decode cX2_walk 72 = .ok (.goto 4, 3) := dk_167 0 4 (dk_at dksX2_walk_3 4 rfl rfl)
theorem dX2_walk_75 : decode cX2_walk 75 = .ok (.iconst 0, 1) := dk_3 (dk_at dksX2_walk_3 7 rfl rfl)
theorem dX2_walk_76 : decode cX2_walk 76 = .ok (.bipush 12, 2) := dk_16 12 (dk_at dksX2_walk_3 8 rfl rfl)
theorem dX2_walk_78 : decode cX2_walk 78 = .ok (.aload_n 0, 1) := dk_42 (dk_at dksX2_walk_3 10 rfl rfl)
theorem dX2_walk_79 : decode cX2_walk 79 = .ok (.getfield 25, 3) := dk_180 0 25 (dk_at dksX2_walk_3 11 rfl rfl)
theorem dX2_walk_82 : decode cX2_walk 82 = .ok (.aload_n 3, 1) := dk_45 (dk_at dksX2_walk_3 14 rfl rfl)
theorem dX2_walk_83 : decode cX2_walk 83 = .ok (.getfield 166, 3) := dk_180 0 166 (dk_at dksX2_walk_3 15 rfl rfl)
theorem dX2_walk_86 : decode cX2_walk 86 = .ok (.iload 4, 2) := dk_21 4 (dk_at dksX2_walk_3 18 rfl rfl)
theorem dX2_walk_88 : decode cX2_walk 88 = .ok (.invokestatic 82, 3) := dk_184 0 82 (dk_at dksX2_walk_3 20 rfl rfl)
theorem dX2_walk_91 : decode cX2_walk 91 = .ok (.iaload, 1) := dk_46 (dk_at dksX2_walk_3 23 rfl rfl)
theorem dX2_walk_92 : decode cX2_walk 92 = .ok (.invokestatic 120, 3) := dk_184 0 120 (dk_at dksX2_walk_4 0 rfl rfl)
theorem dX2_walk_95 : decode cX2_walk 95 = .ok (.aload_n 3, 1) := dk_45 (dk_at dksX2_walk_4 3 rfl rfl)
theorem dX2_walk_96 : decode cX2_walk 96 = .ok (.iload 4, 2) := dk_21 4 (dk_at dksX2_walk_4 4 rfl rfl)
theorem dX2_walk_98 : decode cX2_walk 98 = .ok (.putfield 166, 3) := dk_181 0 166 (dk_at dksX2_walk_4 6 rfl rfl)
theorem dX2_walk_101 : decode cX2_walk 101 = .ok (.aload_n 3, 1) := dk_45 (dk_at dksX2_walk_4 9 rfl rfl)
theorem dX2_walk_102 : decode cX2_walk 102 = .ok (.dup, 1) := dk_89 (dk_at dksX2_walk_4 10 rfl rfl)
theorem dX2_walk_103 : decode cX2_walk 103 = .ok (.getfield 193, 3) := dk_180 0 193 (dk_at dksX2_walk_4 11 rfl rfl)
theorem dX2_walk_106 : decode cX2_walk 106 = .ok (.iconst 1, 1) := dk_4 (dk_at dksX2_walk_4 14 rfl rfl)
theorem dX2_walk_107 : decode cX2_walk 107 = .ok (.iadd, 1) := dk_96 (dk_at dksX2_walk_4 15 rfl rfl)
theorem dX2_walk_108 : decode cX2_walk 108 = .ok (.putfield 193, 3) := dk_181 0 193 (dk_at dksX2_walk_4 16 rfl rfl)
theorem dX2_walk_111 : decode cX2_walk 111 = .ok (.iload 4, 2) := dk_21 4 (dk_at dksX2_walk_4 19 rfl rfl)
theorem dX2_walk_113 : decode cX2_walk 113 = .ok (.aload_n 0, 1) := dk_42 (dk_at dksX2_walk_4 21 rfl rfl)
theorem dX2_walk_114 : decode cX2_walk 114 = .ok (.getfield 21, 3) := dk_180 0 21 (dk_at dksX2_walk_5 0 rfl rfl)
theorem dX2_walk_117 : decode cX2_walk 117 = .ok (.if_icmp .ne 7, 3) := dk_160 0 7 (dk_at dksX2_walk_5 3 rfl rfl)
theorem dX2_walk_120 : decode cX2_walk 120 = .ok (.aload_n 3, 1) := dk_45 (dk_at dksX2_walk_5 6 rfl rfl)
theorem dX2_walk_121 : decode cX2_walk 121 = .ok (.invokevirtual 169, 3) := dk_182 0 169 (dk_at dksX2_walk_5 7 rfl rfl)
theorem dX2_walk_124 : decode cX2_walk 124 = .ok (.aload_n 3, 1) := dk_45 (dk_at dksX2_walk_5 10 rfl rfl)
theorem dX2_walk_125 : decode cX2_walk 125 = .ok (.invokevirtual 163, 3) := dk_182 0 163 (dk_at dksX2_walk_5 11 rfl rfl)
theorem dX2_walk_128 : decode cX2_walk 128 = .ok (.ifCond .eq 8, 3) := dk_153 0 8 (dk_at dksX2_walk_5 14 rfl rfl)
theorem dX2_walk_131 : decode cX2_walk 131 = .ok (.aload_n 0, 1) := dk_42 (dk_at dksX2_walk_5 17 rfl rfl)
theorem dX2_walk_132 : decode cX2_walk 132 = .ok (.aload_n 3, 1) := dk_45 (dk_at dksX2_walk_5 18 rfl rfl)
theorem dX2_walk_133 : decode cX2_walk 133 = .ok (.invokevirtual 224, 3) := dk_182 0 224 (dk_at dksX2_walk_5 19 rfl rfl)
theorem dX2_walk_136 : decode cX2_walk 136 = .ok (.iload 4, 2) := dk_21 4 (dk_at dksX2_walk_5 22 rfl rfl)
theorem dX2_walk_138 : decode cX2_walk 138 = .ok (.ireturn, 1) := dk_172 (dk_at dksX2_walk_6 0 rfl rfl)
abbrev cX2_settle : ByteArray := prog_2_method_26_code
def yX2_settle : MethodName := ⟨RX2, "settle", "(LMazeBonds$Visitor;)V"⟩
def dkwX2_settle_2 : List UInt8 := [182, 0, 221, 177]
abbrev dktX2_settle_2 : List UInt8 := dkwX2_settle_2 ++ []
def dkwX2_settle_1 : List UInt8 := [3, 182, 0, 211, 182, 0, 214, 62, 44, 89, 180, 0, 217, 29, 96, 181, 0, 217, 43, 29, 182, 0, 220, 43]
abbrev dktX2_settle_1 : List UInt8 := dkwX2_settle_1 ++ dktX2_settle_2
def dkwX2_settle_0 : List UInt8 := [43, 182, 0, 195, 153, 0, 47, 42, 180, 0, 12, 43, 180, 0, 198, 182, 0, 128, 192, 0, 50, 77, 44, 43]
abbrev dktX2_settle_0 : List UInt8 := dkwX2_settle_0 ++ dktX2_settle_1
theorem dksX2_settle_0 : cX2_settle.data.toList.drop 0 = dktX2_settle_0 := by decide +kernel
theorem dksX2_settle_1 : cX2_settle.data.toList.drop 24 = dktX2_settle_1 := dk_seg dksX2_settle_0 24 rfl rfl
theorem dksX2_settle_2 : cX2_settle.data.toList.drop 48 = dktX2_settle_2 := dk_seg dksX2_settle_1 24 rfl rfl
theorem dX2_settle_0 : decode cX2_settle 0 = .ok (.aload_n 1, 1) := dk_43 (dk_at dksX2_settle_0 0 rfl rfl)
theorem dX2_settle_1 : decode cX2_settle 1 = .ok (.invokevirtual 195, 3) := dk_182 0 195 (dk_at dksX2_settle_0 1 rfl rfl)
theorem dX2_settle_4 : decode cX2_settle 4 = .ok (.ifCond .eq 47, 3) := dk_153 0 47 (dk_at dksX2_settle_0 4 rfl rfl)
theorem dX2_settle_7 : decode cX2_settle 7 = .ok (.aload_n 0, 1) := dk_42 (dk_at dksX2_settle_0 7 rfl rfl)
theorem dX2_settle_8 : decode cX2_settle 8 = .ok (.getfield 12, 3) := dk_180 0 12 (dk_at dksX2_settle_0 8 rfl rfl)
theorem dX2_settle_11 : decode cX2_settle 11 = .ok (.aload_n 1, 1) := dk_43 (dk_at dksX2_settle_0 11 rfl rfl)
theorem dX2_settle_12 : decode cX2_settle 12 = .ok (.getfield 198, 3) := dk_180 0 198 (dk_at dksX2_settle_0 12 rfl rfl)
theorem dX2_settle_15 : decode cX2_settle 15 = .ok (.invokevirtual 128, 3) := dk_182 0 128 (dk_at dksX2_settle_0 15 rfl rfl)
theorem dX2_settle_18 : decode cX2_settle 18 = .ok (.checkcast 50, 3) := dk_192 0 50 (dk_at dksX2_settle_0 18 rfl rfl)
theorem dX2_settle_21 : decode cX2_settle 21 = .ok (.astore_n 2, 1) := dk_77 (dk_at dksX2_settle_0 21 rfl rfl)
theorem dX2_settle_22 : decode cX2_settle 22 = .ok (.aload_n 2, 1) := dk_44 (dk_at dksX2_settle_0 22 rfl rfl)
theorem dX2_settle_23 : decode cX2_settle 23 = .ok (.aload_n 1, 1) := dk_43 (dk_at dksX2_settle_0 23 rfl rfl)
theorem dX2_settle_24 : decode cX2_settle 24 = .ok (.iconst 0, 1) := dk_3 (dk_at dksX2_settle_1 0 rfl rfl)
theorem dX2_settle_25 : decode cX2_settle 25 = .ok (.invokevirtual 211, 3) := dk_182 0 211 (dk_at dksX2_settle_1 1 rfl rfl)
theorem dX2_settle_28 : decode cX2_settle 28 = .ok (.invokevirtual 214, 3) := dk_182 0 214 (dk_at dksX2_settle_1 4 rfl rfl)
theorem dX2_settle_31 : decode cX2_settle 31 = .ok (.istore_n 3, 1) := dk_62 (dk_at dksX2_settle_1 7 rfl rfl)
theorem dX2_settle_32 : decode cX2_settle 32 = .ok (.aload_n 2, 1) := dk_44 (dk_at dksX2_settle_1 8 rfl rfl)
theorem dX2_settle_33 : decode cX2_settle 33 = .ok (.dup, 1) := dk_89 (dk_at dksX2_settle_1 9 rfl rfl)
theorem dX2_settle_34 : decode cX2_settle 34 = .ok (.getfield 217, 3) := dk_180 0 217 (dk_at dksX2_settle_1 10 rfl rfl)
theorem dX2_settle_37 : decode cX2_settle 37 = .ok (.iload_n 3, 1) := dk_29 (dk_at dksX2_settle_1 13 rfl rfl)
theorem dX2_settle_38 : decode cX2_settle 38 = .ok (.iadd, 1) := dk_96 (dk_at dksX2_settle_1 14 rfl rfl)
theorem dX2_settle_39 : decode cX2_settle 39 = .ok (.putfield 217, 3) := dk_181 0 217 (dk_at dksX2_settle_1 15 rfl rfl)
theorem dX2_settle_42 : decode cX2_settle 42 = .ok (.aload_n 1, 1) := dk_43 (dk_at dksX2_settle_1 18 rfl rfl)
theorem dX2_settle_43 : decode cX2_settle 43 = .ok (.iload_n 3, 1) := dk_29 (dk_at dksX2_settle_1 19 rfl rfl)
theorem dX2_settle_44 : decode cX2_settle 44 = .ok (.invokevirtual 220, 3) := dk_182 0 220 (dk_at dksX2_settle_1 20 rfl rfl)
theorem dX2_settle_47 : decode cX2_settle 47 = .ok (.aload_n 1, 1) := dk_43 (dk_at dksX2_settle_1 23 rfl rfl)
theorem dX2_settle_48 : decode cX2_settle 48 = .ok (.invokevirtual 221, 3) := dk_182 0 221 (dk_at dksX2_settle_2 0 rfl rfl)
theorem dX2_settle_51 : decode cX2_settle 51 = .ok (.return_, 1) := dk_177 (dk_at dksX2_settle_2 3 rfl rfl)
abbrev cX2_rest : ByteArray := prog_2_method_28_code
def yX2_rest : MethodName := ⟨RX2, "rest", "(II)I"⟩
def dkwX2_rest_1 : List UInt8 := [180, 0, 193, 184, 0, 120, 45, 89, 180, 0, 193, 28, 96, 181, 0, 193, 45, 180, 0, 193, 172]
abbrev dktX2_rest_1 : List UInt8 := dkwX2_rest_1 ++ []
def dkwX2_rest_0 : List UInt8 := [42, 27, 182, 0, 189, 78, 28, 4, 16, 9, 184, 0, 78, 184, 0, 139, 45, 182, 0, 163, 16, 9, 45]
abbrev dktX2_rest_0 : List UInt8 := dkwX2_rest_0 ++ dktX2_rest_1
theorem dksX2_rest_0 : cX2_rest.data.toList.drop 0 = dktX2_rest_0 := by decide +kernel
theorem dksX2_rest_1 : cX2_rest.data.toList.drop 23 = dktX2_rest_1 := dk_seg dksX2_rest_0 23 rfl rfl
theorem dX2_rest_0 : decode cX2_rest 0 = .ok (.aload_n 0, 1) := dk_42 (dk_at dksX2_rest_0 0 rfl rfl)
theorem dX2_rest_1 : decode cX2_rest 1 = .ok (.iload_n 1, 1) := dk_27 (dk_at dksX2_rest_0 1 rfl rfl)
theorem dX2_rest_2 : decode cX2_rest 2 = .ok (.invokevirtual 189, 3) := dk_182 0 189 (dk_at dksX2_rest_0 2 rfl rfl)
theorem dX2_rest_5 : decode cX2_rest 5 = .ok (.astore_n 3, 1) := dk_78 (dk_at dksX2_rest_0 5 rfl rfl)
theorem dX2_rest_6 : decode cX2_rest 6 = .ok (.iload_n 2, 1) := dk_28 (dk_at dksX2_rest_0 6 rfl rfl)
theorem dX2_rest_7 : decode cX2_rest 7 = .ok (.iconst 1, 1) := dk_4 (dk_at dksX2_rest_0 7 rfl rfl)
theorem dX2_rest_8 : decode cX2_rest 8 = .ok (.bipush 9, 2) := dk_16 9 (dk_at dksX2_rest_0 8 rfl rfl)
theorem dX2_rest_10 : decode cX2_rest 10 = .ok (.invokestatic 78, 3) := dk_184 0 78 (dk_at dksX2_rest_0 10 rfl rfl)
theorem dX2_rest_13 : decode cX2_rest 13 = .ok (.invokestatic 139, 3) := dk_184 0 139 (dk_at dksX2_rest_0 13 rfl rfl)
theorem dX2_rest_16 : decode cX2_rest 16 = .ok (.aload_n 3, 1) := dk_45 (dk_at dksX2_rest_0 16 rfl rfl)
theorem dX2_rest_17 : decode cX2_rest 17 = .ok (.invokevirtual 163, 3) := dk_182 0 163 (dk_at dksX2_rest_0 17 rfl rfl)
theorem dX2_rest_20 : decode cX2_rest 20 = .ok (.bipush 9, 2) := dk_16 9 (dk_at dksX2_rest_0 20 rfl rfl)
theorem dX2_rest_22 : decode cX2_rest 22 = .ok (.aload_n 3, 1) := dk_45 (dk_at dksX2_rest_0 22 rfl rfl)
theorem dX2_rest_23 : decode cX2_rest 23 = .ok (.getfield 193, 3) := dk_180 0 193 (dk_at dksX2_rest_1 0 rfl rfl)
theorem dX2_rest_26 : decode cX2_rest 26 = .ok (.invokestatic 120, 3) := dk_184 0 120 (dk_at dksX2_rest_1 3 rfl rfl)
theorem dX2_rest_29 : decode cX2_rest 29 = .ok (.aload_n 3, 1) := dk_45 (dk_at dksX2_rest_1 6 rfl rfl)
theorem dX2_rest_30 : decode cX2_rest 30 = .ok (.dup, 1) := dk_89 (dk_at dksX2_rest_1 7 rfl rfl)
theorem dX2_rest_31 : decode cX2_rest 31 = .ok (.getfield 193, 3) := dk_180 0 193 (dk_at dksX2_rest_1 8 rfl rfl)
theorem dX2_rest_34 : decode cX2_rest 34 = .ok (.iload_n 2, 1) := dk_28 (dk_at dksX2_rest_1 11 rfl rfl)
theorem dX2_rest_35 : decode cX2_rest 35 = .ok (.iadd, 1) := dk_96 (dk_at dksX2_rest_1 12 rfl rfl)
theorem dX2_rest_36 : decode cX2_rest 36 = .ok (.putfield 193, 3) := dk_181 0 193 (dk_at dksX2_rest_1 13 rfl rfl)
theorem dX2_rest_39 : decode cX2_rest 39 = .ok (.aload_n 3, 1) := dk_45 (dk_at dksX2_rest_1 16 rfl rfl)
theorem dX2_rest_40 : decode cX2_rest 40 = .ok (.getfield 193, 3) := dk_180 0 193 (dk_at dksX2_rest_1 17 rfl rfl)
theorem dX2_rest_43 : decode cX2_rest 43 = .ok (.ireturn, 1) := dk_172 (dk_at dksX2_rest_1 20 rfl rfl)
abbrev cX2_relaxed : ByteArray := prog_2_method_11_code
def yX2_relaxed : MethodName := ⟨RX2, "relaxed", "(III)[I"⟩
def dkwX2_relaxed_5 : List UInt8 := [176]
abbrev dktX2_relaxed_5 : List UInt8 := dkwX2_relaxed_5 ++ []
def dkwX2_relaxed_4 : List UInt8 := [21, 6, 25, 4, 21, 6, 46, 21, 7, 184, 0, 105, 79, 132, 6, 1, 167, 255, 199, 167, 255, 185, 25, 4]
abbrev dktX2_relaxed_4 : List UInt8 := dkwX2_relaxed_4 ++ dktX2_relaxed_5
def dkwX2_relaxed_3 : List UInt8 := [54, 7, 21, 5, 21, 7, 25, 4, 21, 6, 46, 162, 0, 7, 4, 167, 0, 4, 3, 128, 54, 5, 25, 4]
abbrev dktX2_relaxed_3 : List UInt8 := dkwX2_relaxed_3 ++ dktX2_relaxed_4
def dkwX2_relaxed_2 : List UInt8 := [3, 54, 5, 3, 54, 6, 21, 6, 16, 16, 162, 0, 56, 42, 25, 4, 21, 6, 28, 29, 182, 0, 101]
abbrev dktX2_relaxed_2 : List UInt8 := dkwX2_relaxed_2 ++ dktX2_relaxed_3
def dkwX2_relaxed_1 : List UInt8 := [160, 0, 7, 3, 167, 0, 5, 16, 16, 79, 132, 5, 1, 167, 255, 229, 4, 54, 5, 21, 5, 153, 0, 72]
abbrev dktX2_relaxed_1 : List UInt8 := dkwX2_relaxed_1 ++ dktX2_relaxed_2
def dkwX2_relaxed_0 : List UInt8 := [16, 16, 188, 10, 58, 4, 3, 54, 5, 21, 5, 16, 16, 162, 0, 26, 25, 4, 21, 5, 21, 5, 27]
abbrev dktX2_relaxed_0 : List UInt8 := dkwX2_relaxed_0 ++ dktX2_relaxed_1
theorem dksX2_relaxed_0 : cX2_relaxed.data.toList.drop 0 = dktX2_relaxed_0 := by decide +kernel
theorem dksX2_relaxed_1 : cX2_relaxed.data.toList.drop 23 = dktX2_relaxed_1 := dk_seg dksX2_relaxed_0 23 rfl rfl
theorem dksX2_relaxed_2 : cX2_relaxed.data.toList.drop 47 = dktX2_relaxed_2 := dk_seg dksX2_relaxed_1 24 rfl rfl
theorem dksX2_relaxed_3 : cX2_relaxed.data.toList.drop 70 = dktX2_relaxed_3 := dk_seg dksX2_relaxed_2 23 rfl rfl
theorem dksX2_relaxed_4 : cX2_relaxed.data.toList.drop 94 = dktX2_relaxed_4 := dk_seg dksX2_relaxed_3 24 rfl rfl
theorem dksX2_relaxed_5 : cX2_relaxed.data.toList.drop 118 = dktX2_relaxed_5 := dk_seg dksX2_relaxed_4 24 rfl rfl
theorem dX2_relaxed_0 : decode cX2_relaxed 0 = .ok (.bipush 16, 2) := dk_16 16 (dk_at dksX2_relaxed_0 0 rfl rfl)
theorem dX2_relaxed_2 : decode cX2_relaxed 2 = .ok (.newarray .int, 2) := dk_188_10 (dk_at dksX2_relaxed_0 2 rfl rfl)
theorem dX2_relaxed_4 : decode cX2_relaxed 4 = .ok (.astore 4, 2) := dk_58 4 (dk_at dksX2_relaxed_0 4 rfl rfl)
theorem dX2_relaxed_6 : decode cX2_relaxed 6 = .ok (.iconst 0, 1) := dk_3 (dk_at dksX2_relaxed_0 6 rfl rfl)
theorem dX2_relaxed_7 : decode cX2_relaxed 7 = .ok (.istore 5, 2) := dk_54 5 (dk_at dksX2_relaxed_0 7 rfl rfl)
theorem dX2_relaxed_9 : decode cX2_relaxed 9 = .ok (.iload 5, 2) := dk_21 5 (dk_at dksX2_relaxed_0 9 rfl rfl)
theorem dX2_relaxed_11 : decode cX2_relaxed 11 = .ok (.bipush 16, 2) := dk_16 16 (dk_at dksX2_relaxed_0 11 rfl rfl)
theorem dX2_relaxed_13 : decode cX2_relaxed 13 = .ok (.if_icmp .ge 26, 3) := dk_162 0 26 (dk_at dksX2_relaxed_0 13 rfl rfl)
theorem dX2_relaxed_16 : decode cX2_relaxed 16 = .ok (.aload 4, 2) := dk_25 4 (dk_at dksX2_relaxed_0 16 rfl rfl)
theorem dX2_relaxed_18 : decode cX2_relaxed 18 = .ok (.iload 5, 2) := dk_21 5 (dk_at dksX2_relaxed_0 18 rfl rfl)
theorem dX2_relaxed_20 : decode cX2_relaxed 20 = .ok (.iload 5, 2) := dk_21 5 (dk_at dksX2_relaxed_0 20 rfl rfl)
theorem dX2_relaxed_22 : decode cX2_relaxed 22 = .ok (.iload_n 1, 1) := dk_27 (dk_at dksX2_relaxed_0 22 rfl rfl)
theorem dX2_relaxed_23 : decode cX2_relaxed 23 = .ok (.if_icmp .ne 7, 3) := dk_160 0 7 (dk_at dksX2_relaxed_1 0 rfl rfl)
theorem dX2_relaxed_26 : decode cX2_relaxed 26 = .ok (.iconst 0, 1) := dk_3 (dk_at dksX2_relaxed_1 3 rfl rfl)
theorem dX2_relaxed_27 : decode cX2_relaxed 27 = .ok (.goto 5, 3) := dk_167 0 5 (dk_at dksX2_relaxed_1 4 rfl rfl)
theorem dX2_relaxed_30 : decode cX2_relaxed 30 = .ok (.bipush 16, 2) := dk_16 16 (dk_at dksX2_relaxed_1 7 rfl rfl)
theorem dX2_relaxed_32 : decode cX2_relaxed 32 = .ok (.iastore, 1) := dk_79 (dk_at dksX2_relaxed_1 9 rfl rfl)
theorem dX2_relaxed_33 : decode cX2_relaxed 33 = .ok (.iinc 5 1, 3) := dk_132 5 1 (dk_at dksX2_relaxed_1 10 rfl rfl)
theorem dX2_relaxed_36 : decode cX2_relaxed 36 = .ok (.goto (-27), 3) := dk_167 255 229 (dk_at dksX2_relaxed_1 13 rfl rfl)
theorem dX2_relaxed_39 : decode cX2_relaxed 39 = .ok (.iconst 1, 1) := dk_4 (dk_at dksX2_relaxed_1 16 rfl rfl)
theorem dX2_relaxed_40 : decode cX2_relaxed 40 = .ok (.istore 5, 2) := dk_54 5 (dk_at dksX2_relaxed_1 17 rfl rfl)
theorem dX2_relaxed_42 : decode cX2_relaxed 42 = .ok (.iload 5, 2) := dk_21 5 (dk_at dksX2_relaxed_1 19 rfl rfl)
theorem dX2_relaxed_44 : decode cX2_relaxed 44 = .ok (.ifCond .eq 72, 3) := dk_153 0 72 (dk_at dksX2_relaxed_1 21 rfl rfl)
theorem dX2_relaxed_47 : decode cX2_relaxed 47 = .ok (.iconst 0, 1) := dk_3 (dk_at dksX2_relaxed_2 0 rfl rfl)
theorem dX2_relaxed_48 : decode cX2_relaxed 48 = .ok (.istore 5, 2) := dk_54 5 (dk_at dksX2_relaxed_2 1 rfl rfl)
theorem dX2_relaxed_50 : decode cX2_relaxed 50 = .ok (.iconst 0, 1) := dk_3 (dk_at dksX2_relaxed_2 3 rfl rfl)
theorem dX2_relaxed_51 : decode cX2_relaxed 51 = .ok (.istore 6, 2) := dk_54 6 (dk_at dksX2_relaxed_2 4 rfl rfl)
theorem dX2_relaxed_53 : decode cX2_relaxed 53 = .ok (.iload 6, 2) := dk_21 6 (dk_at dksX2_relaxed_2 6 rfl rfl)
theorem dX2_relaxed_55 : decode cX2_relaxed 55 = .ok (.bipush 16, 2) := dk_16 16 (dk_at dksX2_relaxed_2 8 rfl rfl)
theorem dX2_relaxed_57 : decode cX2_relaxed 57 = .ok (.if_icmp .ge 56, 3) := dk_162 0 56 (dk_at dksX2_relaxed_2 10 rfl rfl)
theorem dX2_relaxed_60 : decode cX2_relaxed 60 = .ok (.aload_n 0, 1) := dk_42 (dk_at dksX2_relaxed_2 13 rfl rfl)
theorem dX2_relaxed_61 : decode cX2_relaxed 61 = .ok (.aload 4, 2) := dk_25 4 (dk_at dksX2_relaxed_2 14 rfl rfl)
theorem dX2_relaxed_63 : decode cX2_relaxed 63 = .ok (.iload 6, 2) := dk_21 6 (dk_at dksX2_relaxed_2 16 rfl rfl)
theorem dX2_relaxed_65 : decode cX2_relaxed 65 = .ok (.iload_n 2, 1) := dk_28 (dk_at dksX2_relaxed_2 18 rfl rfl)
theorem dX2_relaxed_66 : decode cX2_relaxed 66 = .ok (.iload_n 3, 1) := dk_29 (dk_at dksX2_relaxed_2 19 rfl rfl)
theorem dX2_relaxed_67 : decode cX2_relaxed 67 = .ok (.invokevirtual 101, 3) := dk_182 0 101 (dk_at dksX2_relaxed_2 20 rfl rfl)
theorem dX2_relaxed_70 : decode cX2_relaxed 70 = .ok (.istore 7, 2) := dk_54 7 (dk_at dksX2_relaxed_3 0 rfl rfl)
theorem dX2_relaxed_72 : decode cX2_relaxed 72 = .ok (.iload 5, 2) := dk_21 5 (dk_at dksX2_relaxed_3 2 rfl rfl)
theorem dX2_relaxed_74 : decode cX2_relaxed 74 = .ok (.iload 7, 2) := dk_21 7 (dk_at dksX2_relaxed_3 4 rfl rfl)
theorem dX2_relaxed_76 : decode cX2_relaxed 76 = .ok (.aload 4, 2) := dk_25 4 (dk_at dksX2_relaxed_3 6 rfl rfl)
theorem dX2_relaxed_78 : decode cX2_relaxed 78 = .ok (.iload 6, 2) := dk_21 6 (dk_at dksX2_relaxed_3 8 rfl rfl)
theorem dX2_relaxed_80 : decode cX2_relaxed 80 = .ok (.iaload, 1) := dk_46 (dk_at dksX2_relaxed_3 10 rfl rfl)
theorem dX2_relaxed_81 : decode cX2_relaxed 81 = .ok (.if_icmp .ge 7, 3) := dk_162 0 7 (dk_at dksX2_relaxed_3 11 rfl rfl)
theorem dX2_relaxed_84 : decode cX2_relaxed 84 = .ok (.iconst 1, 1) := dk_4 (dk_at dksX2_relaxed_3 14 rfl rfl)
theorem dX2_relaxed_85 : decode cX2_relaxed 85 = .ok (.goto 4, 3) := dk_167 0 4 (dk_at dksX2_relaxed_3 15 rfl rfl)
theorem dX2_relaxed_88 : decode cX2_relaxed 88 = .ok (.iconst 0, 1) := dk_3 (dk_at dksX2_relaxed_3 18 rfl rfl)
theorem dX2_relaxed_89 : decode cX2_relaxed 89 = .ok (.ior, 1) := dk_128 (dk_at dksX2_relaxed_3 19 rfl rfl)
theorem dX2_relaxed_90 : decode cX2_relaxed 90 = .ok (.istore 5, 2) := dk_54 5 (dk_at dksX2_relaxed_3 20 rfl rfl)
theorem dX2_relaxed_92 : decode cX2_relaxed 92 = .ok (.aload 4, 2) := dk_25 4 (dk_at dksX2_relaxed_3 22 rfl rfl)
theorem dX2_relaxed_94 : decode cX2_relaxed 94 = .ok (.iload 6, 2) := dk_21 6 (dk_at dksX2_relaxed_4 0 rfl rfl)
theorem dX2_relaxed_96 : decode cX2_relaxed 96 = .ok (.aload 4, 2) := dk_25 4 (dk_at dksX2_relaxed_4 2 rfl rfl)
theorem dX2_relaxed_98 : decode cX2_relaxed 98 = .ok (.iload 6, 2) := dk_21 6 (dk_at dksX2_relaxed_4 4 rfl rfl)
theorem dX2_relaxed_100 : decode cX2_relaxed 100 = .ok (.iaload, 1) := dk_46 (dk_at dksX2_relaxed_4 6 rfl rfl)
theorem dX2_relaxed_101 : decode cX2_relaxed 101 = .ok (.iload 7, 2) := dk_21 7 (dk_at dksX2_relaxed_4 7 rfl rfl)
theorem dX2_relaxed_103 : decode cX2_relaxed 103 = .ok (.invokestatic 105, 3) := dk_184 0 105 (dk_at dksX2_relaxed_4 9 rfl rfl)
theorem dX2_relaxed_106 : decode cX2_relaxed 106 = .ok (.iastore, 1) := dk_79 (dk_at dksX2_relaxed_4 12 rfl rfl)
theorem dX2_relaxed_107 : decode cX2_relaxed 107 = .ok (.iinc 6 1, 3) := dk_132 6 1 (dk_at dksX2_relaxed_4 13 rfl rfl)
theorem dX2_relaxed_110 : decode cX2_relaxed 110 = .ok (.goto (-57), 3) := dk_167 255 199 (dk_at dksX2_relaxed_4 16 rfl rfl)
theorem dX2_relaxed_113 : decode cX2_relaxed 113 = .ok (.goto (-71), 3) := dk_167 255 185 (dk_at dksX2_relaxed_4 19 rfl rfl)
theorem dX2_relaxed_116 : decode cX2_relaxed 116 = .ok (.aload 4, 2) := dk_25 4 (dk_at dksX2_relaxed_4 22 rfl rfl)
theorem dX2_relaxed_118 : decode cX2_relaxed 118 = .ok (.areturn, 1) := dk_176 (dk_at dksX2_relaxed_5 0 rfl rfl)
abbrev cX2_byNeighbours : ByteArray := prog_2_method_12_code
def yX2_byNeighbours : MethodName := ⟨RX2, "byNeighbours", "([IIII)I"⟩
def dkwX2_byNeighbours_2 : List UInt8 := [21, 4, 96, 184, 0, 105, 54, 5, 132, 6, 1, 167, 255, 205, 21, 5, 172]
abbrev dktX2_byNeighbours_2 : List UInt8 := dkwX2_byNeighbours_2 ++ []
def dkwX2_byNeighbours_1 : List UInt8 := [159, 0, 31, 21, 5, 43, 21, 7, 46, 42, 28, 21, 7, 182, 0, 97, 153, 0, 7, 29, 167, 0, 5]
abbrev dktX2_byNeighbours_1 : List UInt8 := dkwX2_byNeighbours_1 ++ dktX2_byNeighbours_2
def dkwX2_byNeighbours_0 : List UInt8 := [16, 16, 54, 5, 3, 54, 6, 21, 6, 7, 162, 0, 51, 28, 21, 6, 184, 0, 94, 54, 7, 21, 7, 2]
abbrev dktX2_byNeighbours_0 : List UInt8 := dkwX2_byNeighbours_0 ++ dktX2_byNeighbours_1
theorem dksX2_byNeighbours_0 : cX2_byNeighbours.data.toList.drop 0 = dktX2_byNeighbours_0 := by decide +kernel
theorem dksX2_byNeighbours_1 : cX2_byNeighbours.data.toList.drop 24 = dktX2_byNeighbours_1 := dk_seg dksX2_byNeighbours_0 24 rfl rfl
theorem dksX2_byNeighbours_2 : cX2_byNeighbours.data.toList.drop 47 = dktX2_byNeighbours_2 := dk_seg dksX2_byNeighbours_1 23 rfl rfl
theorem dX2_byNeighbours_0 : decode cX2_byNeighbours 0 = .ok (.bipush 16, 2) := dk_16 16 (dk_at dksX2_byNeighbours_0 0 rfl rfl)
theorem dX2_byNeighbours_2 : decode cX2_byNeighbours 2 = .ok (.istore 5, 2) := dk_54 5 (dk_at dksX2_byNeighbours_0 2 rfl rfl)
theorem dX2_byNeighbours_4 : decode cX2_byNeighbours 4 = .ok (.iconst 0, 1) := dk_3 (dk_at dksX2_byNeighbours_0 4 rfl rfl)
theorem dX2_byNeighbours_5 : decode cX2_byNeighbours 5 = .ok (.istore 6, 2) := dk_54 6 (dk_at dksX2_byNeighbours_0 5 rfl rfl)
theorem dX2_byNeighbours_7 : decode cX2_byNeighbours 7 = .ok (.iload 6, 2) := dk_21 6 (dk_at dksX2_byNeighbours_0 7 rfl rfl)
theorem dX2_byNeighbours_9 : decode cX2_byNeighbours 9 = .ok (.iconst 4, 1) := dk_7 (dk_at dksX2_byNeighbours_0 9 rfl rfl)
theorem dX2_byNeighbours_10 : decode cX2_byNeighbours 10 = .ok (.if_icmp .ge 51, 3) := dk_162 0 51 (dk_at dksX2_byNeighbours_0 10 rfl rfl)
theorem dX2_byNeighbours_13 : decode cX2_byNeighbours 13 = .ok (.iload_n 2, 1) := dk_28 (dk_at dksX2_byNeighbours_0 13 rfl rfl)
theorem dX2_byNeighbours_14 : decode cX2_byNeighbours 14 = .ok (.iload 6, 2) := dk_21 6 (dk_at dksX2_byNeighbours_0 14 rfl rfl)
theorem dX2_byNeighbours_16 : decode cX2_byNeighbours 16 = .ok (.invokestatic 94, 3) := dk_184 0 94 (dk_at dksX2_byNeighbours_0 16 rfl rfl)
theorem dX2_byNeighbours_19 : decode cX2_byNeighbours 19 = .ok (.istore 7, 2) := dk_54 7 (dk_at dksX2_byNeighbours_0 19 rfl rfl)
theorem dX2_byNeighbours_21 : decode cX2_byNeighbours 21 = .ok (.iload 7, 2) := dk_21 7 (dk_at dksX2_byNeighbours_0 21 rfl rfl)
theorem dX2_byNeighbours_23 : decode cX2_byNeighbours 23 = .ok (.iconst (-1), 1) := dk_2 (dk_at dksX2_byNeighbours_0 23 rfl rfl)
theorem dX2_byNeighbours_24 : decode cX2_byNeighbours 24 = .ok (.if_icmp .eq 31, 3) := dk_159 0 31 (dk_at dksX2_byNeighbours_1 0 rfl rfl)
theorem dX2_byNeighbours_27 : decode cX2_byNeighbours 27 = .ok (.iload 5, 2) := dk_21 5 (dk_at dksX2_byNeighbours_1 3 rfl rfl)
theorem dX2_byNeighbours_29 : decode cX2_byNeighbours 29 = .ok (.aload_n 1, 1) := dk_43 (dk_at dksX2_byNeighbours_1 5 rfl rfl)
theorem dX2_byNeighbours_30 : decode cX2_byNeighbours 30 = .ok (.iload 7, 2) := dk_21 7 (dk_at dksX2_byNeighbours_1 6 rfl rfl)
theorem dX2_byNeighbours_32 : decode cX2_byNeighbours 32 = .ok (.iaload, 1) := dk_46 (dk_at dksX2_byNeighbours_1 8 rfl rfl)
theorem dX2_byNeighbours_33 : decode cX2_byNeighbours 33 = .ok (.aload_n 0, 1) := dk_42 (dk_at dksX2_byNeighbours_1 9 rfl rfl)
theorem dX2_byNeighbours_34 : decode cX2_byNeighbours 34 = .ok (.iload_n 2, 1) := dk_28 (dk_at dksX2_byNeighbours_1 10 rfl rfl)
theorem dX2_byNeighbours_35 : decode cX2_byNeighbours 35 = .ok (.iload 7, 2) := dk_21 7 (dk_at dksX2_byNeighbours_1 11 rfl rfl)
theorem dX2_byNeighbours_37 : decode cX2_byNeighbours 37 = .ok (.invokevirtual 97, 3) := dk_182 0 97 (dk_at dksX2_byNeighbours_1 13 rfl rfl)
theorem dX2_byNeighbours_40 : decode cX2_byNeighbours 40 = .ok (.ifCond .eq 7, 3) := dk_153 0 7 (dk_at dksX2_byNeighbours_1 16 rfl rfl)
theorem dX2_byNeighbours_43 : decode cX2_byNeighbours 43 = .ok (.iload_n 3, 1) := dk_29 (dk_at dksX2_byNeighbours_1 19 rfl rfl)
theorem dX2_byNeighbours_44 : decode cX2_byNeighbours 44 = .ok (.goto 5, 3) := dk_167 0 5 (dk_at dksX2_byNeighbours_1 20 rfl rfl)
theorem dX2_byNeighbours_47 : decode cX2_byNeighbours 47 = .ok (.iload 4, 2) := dk_21 4 (dk_at dksX2_byNeighbours_2 0 rfl rfl)
theorem dX2_byNeighbours_49 : decode cX2_byNeighbours 49 = .ok (.iadd, 1) := dk_96 (dk_at dksX2_byNeighbours_2 2 rfl rfl)
theorem dX2_byNeighbours_50 : decode cX2_byNeighbours 50 = .ok (.invokestatic 105, 3) := dk_184 0 105 (dk_at dksX2_byNeighbours_2 3 rfl rfl)
theorem dX2_byNeighbours_53 : decode cX2_byNeighbours 53 = .ok (.istore 5, 2) := dk_54 5 (dk_at dksX2_byNeighbours_2 6 rfl rfl)
theorem dX2_byNeighbours_55 : decode cX2_byNeighbours 55 = .ok (.iinc 6 1, 3) := dk_132 6 1 (dk_at dksX2_byNeighbours_2 8 rfl rfl)
theorem dX2_byNeighbours_58 : decode cX2_byNeighbours 58 = .ok (.goto (-51), 3) := dk_167 255 205 (dk_at dksX2_byNeighbours_2 11 rfl rfl)
theorem dX2_byNeighbours_61 : decode cX2_byNeighbours 61 = .ok (.iload 5, 2) := dk_21 5 (dk_at dksX2_byNeighbours_2 14 rfl rfl)
theorem dX2_byNeighbours_63 : decode cX2_byNeighbours 63 = .ok (.ireturn, 1) := dk_172 (dk_at dksX2_byNeighbours_2 16 rfl rfl)
abbrev cX2_bondsOf : ByteArray := prog_2_method_29_code
def yX2_bondsOf : MethodName := ⟨RX2, "bondsOf", "(I)I"⟩
def dkwX2_bondsOf_2 : List UInt8 := [3, 96, 61, 167, 255, 219, 28, 172]
abbrev dktX2_bondsOf_2 : List UInt8 := dkwX2_bondsOf_2 ++ []
def dkwX2_bondsOf_1 : List UInt8 := [185, 0, 47, 1, 0, 192, 0, 60, 58, 4, 28, 25, 4, 180, 0, 198, 27, 160, 0, 7, 4, 167, 0, 4]
abbrev dktX2_bondsOf_1 : List UInt8 := dkwX2_bondsOf_1 ++ dktX2_bondsOf_2
def dkwX2_bondsOf_0 : List UInt8 := [3, 61, 42, 180, 0, 18, 182, 0, 37, 78, 45, 185, 0, 41, 1, 0, 153, 0, 34, 45]
abbrev dktX2_bondsOf_0 : List UInt8 := dkwX2_bondsOf_0 ++ dktX2_bondsOf_1
theorem dksX2_bondsOf_0 : cX2_bondsOf.data.toList.drop 0 = dktX2_bondsOf_0 := by decide +kernel
theorem dksX2_bondsOf_1 : cX2_bondsOf.data.toList.drop 20 = dktX2_bondsOf_1 := dk_seg dksX2_bondsOf_0 20 rfl rfl
theorem dksX2_bondsOf_2 : cX2_bondsOf.data.toList.drop 44 = dktX2_bondsOf_2 := dk_seg dksX2_bondsOf_1 24 rfl rfl
theorem dX2_bondsOf_0 : decode cX2_bondsOf 0 = .ok (.iconst 0, 1) := dk_3 (dk_at dksX2_bondsOf_0 0 rfl rfl)
theorem dX2_bondsOf_1 : decode cX2_bondsOf 1 = .ok (.istore_n 2, 1) := dk_61 (dk_at dksX2_bondsOf_0 1 rfl rfl)
theorem dX2_bondsOf_2 : decode cX2_bondsOf 2 = .ok (.aload_n 0, 1) := dk_42 (dk_at dksX2_bondsOf_0 2 rfl rfl)
theorem dX2_bondsOf_3 : decode cX2_bondsOf 3 = .ok (.getfield 18, 3) := dk_180 0 18 (dk_at dksX2_bondsOf_0 3 rfl rfl)
theorem dX2_bondsOf_6 : decode cX2_bondsOf 6 = .ok (.invokevirtual 37, 3) := dk_182 0 37 (dk_at dksX2_bondsOf_0 6 rfl rfl)
theorem dX2_bondsOf_9 : decode cX2_bondsOf 9 = .ok (.astore_n 3, 1) := dk_78 (dk_at dksX2_bondsOf_0 9 rfl rfl)
theorem dX2_bondsOf_10 : decode cX2_bondsOf 10 = .ok (.aload_n 3, 1) := dk_45 (dk_at dksX2_bondsOf_0 10 rfl rfl)
theorem dX2_bondsOf_11 : decode cX2_bondsOf 11 = .ok (.invokeinterface 41 1, 5) := by decide +kernel
theorem dX2_bondsOf_16 : decode cX2_bondsOf 16 = .ok (.ifCond .eq 34, 3) := dk_153 0 34 (dk_at dksX2_bondsOf_0 16 rfl rfl)
theorem dX2_bondsOf_19 : decode cX2_bondsOf 19 = .ok (.aload_n 3, 1) := dk_45 (dk_at dksX2_bondsOf_0 19 rfl rfl)
theorem dX2_bondsOf_20 : decode cX2_bondsOf 20 = .ok (.invokeinterface 47 1, 5) := by decide +kernel
theorem dX2_bondsOf_25 : decode cX2_bondsOf 25 = .ok (.checkcast 60, 3) := dk_192 0 60 (dk_at dksX2_bondsOf_1 5 rfl rfl)
theorem dX2_bondsOf_28 : decode cX2_bondsOf 28 = .ok (.astore 4, 2) := dk_58 4 (dk_at dksX2_bondsOf_1 8 rfl rfl)
theorem dX2_bondsOf_30 : decode cX2_bondsOf 30 = .ok (.iload_n 2, 1) := dk_28 (dk_at dksX2_bondsOf_1 10 rfl rfl)
theorem dX2_bondsOf_31 : decode cX2_bondsOf 31 = .ok (.aload 4, 2) := dk_25 4 (dk_at dksX2_bondsOf_1 11 rfl rfl)
theorem dX2_bondsOf_33 : decode cX2_bondsOf 33 = .ok (.getfield 198, 3) := dk_180 0 198 (dk_at dksX2_bondsOf_1 13 rfl rfl)
theorem dX2_bondsOf_36 : decode cX2_bondsOf 36 = .ok (.iload_n 1, 1) := dk_27 (dk_at dksX2_bondsOf_1 16 rfl rfl)
theorem dX2_bondsOf_37 : decode cX2_bondsOf 37 = .ok (.if_icmp .ne 7, 3) := dk_160 0 7 (dk_at dksX2_bondsOf_1 17 rfl rfl)
theorem dX2_bondsOf_40 : decode cX2_bondsOf 40 = .ok (.iconst 1, 1) := dk_4 (dk_at dksX2_bondsOf_1 20 rfl rfl)
theorem dX2_bondsOf_41 : decode cX2_bondsOf 41 = .ok (.goto 4, 3) := dk_167 0 4 (dk_at dksX2_bondsOf_1 21 rfl rfl)
theorem dX2_bondsOf_44 : decode cX2_bondsOf 44 = .ok (.iconst 0, 1) := dk_3 (dk_at dksX2_bondsOf_2 0 rfl rfl)
theorem dX2_bondsOf_45 : decode cX2_bondsOf 45 = .ok (.iadd, 1) := dk_96 (dk_at dksX2_bondsOf_2 1 rfl rfl)
theorem dX2_bondsOf_46 : decode cX2_bondsOf 46 = .ok (.istore_n 2, 1) := dk_61 (dk_at dksX2_bondsOf_2 2 rfl rfl)
theorem dX2_bondsOf_47 : decode cX2_bondsOf 47 = .ok (.goto (-37), 3) := dk_167 255 219 (dk_at dksX2_bondsOf_2 3 rfl rfl)
theorem dX2_bondsOf_50 : decode cX2_bondsOf 50 = .ok (.iload_n 2, 1) := dk_28 (dk_at dksX2_bondsOf_2 6 rfl rfl)
theorem dX2_bondsOf_51 : decode cX2_bondsOf 51 = .ok (.ireturn, 1) := dk_172 (dk_at dksX2_bondsOf_2 7 rfl rfl)
abbrev cX2_owed : ByteArray := prog_2_method_30_code
def yX2_owed : MethodName := ⟨RX2, "owed", "(I)I"⟩
def dkwX2_owed_2 : List UInt8 := [182, 0, 211, 167, 0, 4, 3, 96, 61, 167, 255, 214, 28, 172]
abbrev dktX2_owed_2 : List UInt8 := dkwX2_owed_2 ++ []
def dkwX2_owed_1 : List UInt8 := [185, 0, 47, 1, 0, 192, 0, 60, 58, 4, 28, 25, 4, 180, 0, 198, 27, 160, 0, 12, 25, 4, 3]
abbrev dktX2_owed_1 : List UInt8 := dkwX2_owed_1 ++ dktX2_owed_2
def dkwX2_owed_0 : List UInt8 := [3, 61, 42, 180, 0, 18, 182, 0, 37, 78, 45, 185, 0, 41, 1, 0, 153, 0, 39, 45]
abbrev dktX2_owed_0 : List UInt8 := dkwX2_owed_0 ++ dktX2_owed_1
theorem dksX2_owed_0 : cX2_owed.data.toList.drop 0 = dktX2_owed_0 := by decide +kernel
theorem dksX2_owed_1 : cX2_owed.data.toList.drop 20 = dktX2_owed_1 := dk_seg dksX2_owed_0 20 rfl rfl
theorem dksX2_owed_2 : cX2_owed.data.toList.drop 43 = dktX2_owed_2 := dk_seg dksX2_owed_1 23 rfl rfl
theorem dX2_owed_0 : decode cX2_owed 0 = .ok (.iconst 0, 1) := dk_3 (dk_at dksX2_owed_0 0 rfl rfl)
theorem dX2_owed_1 : decode cX2_owed 1 = .ok (.istore_n 2, 1) := dk_61 (dk_at dksX2_owed_0 1 rfl rfl)
theorem dX2_owed_2 : decode cX2_owed 2 = .ok (.aload_n 0, 1) := dk_42 (dk_at dksX2_owed_0 2 rfl rfl)
theorem dX2_owed_3 : decode cX2_owed 3 = .ok (.getfield 18, 3) := dk_180 0 18 (dk_at dksX2_owed_0 3 rfl rfl)
theorem dX2_owed_6 : decode cX2_owed 6 = .ok (.invokevirtual 37, 3) := dk_182 0 37 (dk_at dksX2_owed_0 6 rfl rfl)
theorem dX2_owed_9 : decode cX2_owed 9 = .ok (.astore_n 3, 1) := dk_78 (dk_at dksX2_owed_0 9 rfl rfl)
theorem dX2_owed_10 : decode cX2_owed 10 = .ok (.aload_n 3, 1) := dk_45 (dk_at dksX2_owed_0 10 rfl rfl)
theorem dX2_owed_11 : decode cX2_owed 11 = .ok (.invokeinterface 41 1, 5) := by decide +kernel
theorem dX2_owed_16 : decode cX2_owed 16 = .ok (.ifCond .eq 39, 3) := dk_153 0 39 (dk_at dksX2_owed_0 16 rfl rfl)
theorem dX2_owed_19 : decode cX2_owed 19 = .ok (.aload_n 3, 1) := dk_45 (dk_at dksX2_owed_0 19 rfl rfl)
theorem dX2_owed_20 : decode cX2_owed 20 = .ok (.invokeinterface 47 1, 5) := by decide +kernel
theorem dX2_owed_25 : decode cX2_owed 25 = .ok (.checkcast 60, 3) := dk_192 0 60 (dk_at dksX2_owed_1 5 rfl rfl)
theorem dX2_owed_28 : decode cX2_owed 28 = .ok (.astore 4, 2) := dk_58 4 (dk_at dksX2_owed_1 8 rfl rfl)
theorem dX2_owed_30 : decode cX2_owed 30 = .ok (.iload_n 2, 1) := dk_28 (dk_at dksX2_owed_1 10 rfl rfl)
theorem dX2_owed_31 : decode cX2_owed 31 = .ok (.aload 4, 2) := dk_25 4 (dk_at dksX2_owed_1 11 rfl rfl)
theorem dX2_owed_33 : decode cX2_owed 33 = .ok (.getfield 198, 3) := dk_180 0 198 (dk_at dksX2_owed_1 13 rfl rfl)
theorem dX2_owed_36 : decode cX2_owed 36 = .ok (.iload_n 1, 1) := dk_27 (dk_at dksX2_owed_1 16 rfl rfl)
theorem dX2_owed_37 : decode cX2_owed 37 = .ok (.if_icmp .ne 12, 3) := dk_160 0 12 (dk_at dksX2_owed_1 17 rfl rfl)
theorem dX2_owed_40 : decode cX2_owed 40 = .ok (.aload 4, 2) := dk_25 4 (dk_at dksX2_owed_1 20 rfl rfl)
theorem dX2_owed_42 : decode cX2_owed 42 = .ok (.iconst 0, 1) := dk_3 (dk_at dksX2_owed_1 22 rfl rfl)
theorem dX2_owed_43 : decode cX2_owed 43 = .ok (.invokevirtual 211, 3) := dk_182 0 211 (dk_at dksX2_owed_2 0 rfl rfl)
theorem dX2_owed_46 : decode cX2_owed 46 = .ok (.goto 4, 3) := dk_167 0 4 (dk_at dksX2_owed_2 3 rfl rfl)
theorem dX2_owed_49 : decode cX2_owed 49 = .ok (.iconst 0, 1) := dk_3 (dk_at dksX2_owed_2 6 rfl rfl)
theorem dX2_owed_50 : decode cX2_owed 50 = .ok (.iadd, 1) := dk_96 (dk_at dksX2_owed_2 7 rfl rfl)
theorem dX2_owed_51 : decode cX2_owed 51 = .ok (.istore_n 2, 1) := dk_61 (dk_at dksX2_owed_2 8 rfl rfl)
theorem dX2_owed_52 : decode cX2_owed 52 = .ok (.goto (-42), 3) := dk_167 255 214 (dk_at dksX2_owed_2 9 rfl rfl)
theorem dX2_owed_55 : decode cX2_owed 55 = .ok (.iload_n 2, 1) := dk_28 (dk_at dksX2_owed_2 12 rfl rfl)
theorem dX2_owed_56 : decode cX2_owed 56 = .ok (.ireturn, 1) := dk_172 (dk_at dksX2_owed_2 13 rfl rfl)
abbrev cX2_in : ByteArray := prog_2_method_34_code
def yX2_in : MethodName := ⟨RX2, "in", "(I)I"⟩
def dkwX2_in_2 : List UInt8 := [27, 160, 0, 7, 4, 167, 0, 4, 3, 96, 61, 167, 255, 211, 28, 172]
abbrev dktX2_in_2 : List UInt8 := dkwX2_in_2 ++ []
def dkwX2_in_1 : List UInt8 := [185, 0, 47, 1, 0, 192, 0, 60, 58, 4, 28, 25, 4, 182, 0, 163, 154, 0, 16, 25, 4, 180, 0, 166]
abbrev dktX2_in_1 : List UInt8 := dkwX2_in_1 ++ dktX2_in_2
def dkwX2_in_0 : List UInt8 := [3, 61, 42, 180, 0, 18, 182, 0, 37, 78, 45, 185, 0, 41, 1, 0, 153, 0, 42, 45]
abbrev dktX2_in_0 : List UInt8 := dkwX2_in_0 ++ dktX2_in_1
theorem dksX2_in_0 : cX2_in.data.toList.drop 0 = dktX2_in_0 := by decide +kernel
theorem dksX2_in_1 : cX2_in.data.toList.drop 20 = dktX2_in_1 := dk_seg dksX2_in_0 20 rfl rfl
theorem dksX2_in_2 : cX2_in.data.toList.drop 44 = dktX2_in_2 := dk_seg dksX2_in_1 24 rfl rfl
theorem dX2_in_0 : decode cX2_in 0 = .ok (.iconst 0, 1) := dk_3 (dk_at dksX2_in_0 0 rfl rfl)
theorem dX2_in_1 : decode cX2_in 1 = .ok (.istore_n 2, 1) := dk_61 (dk_at dksX2_in_0 1 rfl rfl)
theorem dX2_in_2 : decode cX2_in 2 = .ok (.aload_n 0, 1) := dk_42 (dk_at dksX2_in_0 2 rfl rfl)
theorem dX2_in_3 : decode cX2_in 3 = .ok (.getfield 18, 3) := dk_180 0 18 (dk_at dksX2_in_0 3 rfl rfl)
theorem dX2_in_6 : decode cX2_in 6 = .ok (.invokevirtual 37, 3) := dk_182 0 37 (dk_at dksX2_in_0 6 rfl rfl)
theorem dX2_in_9 : decode cX2_in 9 = .ok (.astore_n 3, 1) := dk_78 (dk_at dksX2_in_0 9 rfl rfl)
theorem dX2_in_10 : decode cX2_in 10 = .ok (.aload_n 3, 1) := dk_45 (dk_at dksX2_in_0 10 rfl rfl)
theorem dX2_in_11 : decode cX2_in 11 = .ok (.invokeinterface 41 1, 5) := by decide +kernel
theorem dX2_in_16 : decode cX2_in 16 = .ok (.ifCond .eq 42, 3) := dk_153 0 42 (dk_at dksX2_in_0 16 rfl rfl)
theorem dX2_in_19 : decode cX2_in 19 = .ok (.aload_n 3, 1) := dk_45 (dk_at dksX2_in_0 19 rfl rfl)
theorem dX2_in_20 : decode cX2_in 20 = .ok (.invokeinterface 47 1, 5) := by decide +kernel
theorem dX2_in_25 : decode cX2_in 25 = .ok (.checkcast 60, 3) := dk_192 0 60 (dk_at dksX2_in_1 5 rfl rfl)
theorem dX2_in_28 : decode cX2_in 28 = .ok (.astore 4, 2) := dk_58 4 (dk_at dksX2_in_1 8 rfl rfl)
theorem dX2_in_30 : decode cX2_in 30 = .ok (.iload_n 2, 1) := dk_28 (dk_at dksX2_in_1 10 rfl rfl)
theorem dX2_in_31 : decode cX2_in 31 = .ok (.aload 4, 2) := dk_25 4 (dk_at dksX2_in_1 11 rfl rfl)
theorem dX2_in_33 : decode cX2_in 33 = .ok (.invokevirtual 163, 3) := dk_182 0 163 (dk_at dksX2_in_1 13 rfl rfl)
theorem dX2_in_36 : decode cX2_in 36 = .ok (.ifCond .ne 16, 3) := dk_154 0 16 (dk_at dksX2_in_1 16 rfl rfl)
theorem dX2_in_39 : decode cX2_in 39 = .ok (.aload 4, 2) := dk_25 4 (dk_at dksX2_in_1 19 rfl rfl)
theorem dX2_in_41 : decode cX2_in 41 = .ok (.getfield 166, 3) := dk_180 0 166 (dk_at dksX2_in_1 21 rfl rfl)
theorem dX2_in_44 : decode cX2_in 44 = .ok (.iload_n 1, 1) := dk_27 (dk_at dksX2_in_2 0 rfl rfl)
theorem dX2_in_45 : decode cX2_in 45 = .ok (.if_icmp .ne 7, 3) := dk_160 0 7 (dk_at dksX2_in_2 1 rfl rfl)
theorem dX2_in_48 : decode cX2_in 48 = .ok (.iconst 1, 1) := dk_4 (dk_at dksX2_in_2 4 rfl rfl)
theorem dX2_in_49 : decode cX2_in 49 = .ok (.goto 4, 3) := dk_167 0 4 (dk_at dksX2_in_2 5 rfl rfl)
theorem dX2_in_52 : decode cX2_in 52 = .ok (.iconst 0, 1) := dk_3 (dk_at dksX2_in_2 8 rfl rfl)
theorem dX2_in_53 : decode cX2_in 53 = .ok (.iadd, 1) := dk_96 (dk_at dksX2_in_2 9 rfl rfl)
theorem dX2_in_54 : decode cX2_in 54 = .ok (.istore_n 2, 1) := dk_61 (dk_at dksX2_in_2 10 rfl rfl)
theorem dX2_in_55 : decode cX2_in 55 = .ok (.goto (-45), 3) := dk_167 255 211 (dk_at dksX2_in_2 11 rfl rfl)
theorem dX2_in_58 : decode cX2_in 58 = .ok (.iload_n 2, 1) := dk_28 (dk_at dksX2_in_2 14 rfl rfl)
theorem dX2_in_59 : decode cX2_in 59 = .ok (.ireturn, 1) := dk_172 (dk_at dksX2_in_2 15 rfl rfl)
abbrev cX2_out : ByteArray := prog_2_method_32_code
def yX2_out : MethodName := ⟨RX2, "out", "()I"⟩
def dkwX2_out_2 : List UInt8 := [167, 255, 222, 27, 172]
abbrev dktX2_out_2 : List UInt8 := dkwX2_out_2 ++ []
def dkwX2_out_1 : List UInt8 := [185, 0, 47, 1, 0, 192, 0, 60, 78, 27, 45, 182, 0, 163, 153, 0, 7, 4, 167, 0, 4, 3, 96, 60]
abbrev dktX2_out_1 : List UInt8 := dkwX2_out_1 ++ dktX2_out_2
def dkwX2_out_0 : List UInt8 := [3, 60, 42, 180, 0, 18, 182, 0, 37, 77, 44, 185, 0, 41, 1, 0, 153, 0, 31, 44]
abbrev dktX2_out_0 : List UInt8 := dkwX2_out_0 ++ dktX2_out_1
theorem dksX2_out_0 : cX2_out.data.toList.drop 0 = dktX2_out_0 := by decide +kernel
theorem dksX2_out_1 : cX2_out.data.toList.drop 20 = dktX2_out_1 := dk_seg dksX2_out_0 20 rfl rfl
theorem dksX2_out_2 : cX2_out.data.toList.drop 44 = dktX2_out_2 := dk_seg dksX2_out_1 24 rfl rfl
theorem dX2_out_0 : decode cX2_out 0 = .ok (.iconst 0, 1) := dk_3 (dk_at dksX2_out_0 0 rfl rfl)
theorem dX2_out_1 : decode cX2_out 1 = .ok (.istore_n 1, 1) := dk_60 (dk_at dksX2_out_0 1 rfl rfl)
theorem dX2_out_2 : decode cX2_out 2 = .ok (.aload_n 0, 1) := dk_42 (dk_at dksX2_out_0 2 rfl rfl)
theorem dX2_out_3 : decode cX2_out 3 = .ok (.getfield 18, 3) := dk_180 0 18 (dk_at dksX2_out_0 3 rfl rfl)
theorem dX2_out_6 : decode cX2_out 6 = .ok (.invokevirtual 37, 3) := dk_182 0 37 (dk_at dksX2_out_0 6 rfl rfl)
theorem dX2_out_9 : decode cX2_out 9 = .ok (.astore_n 2, 1) := dk_77 (dk_at dksX2_out_0 9 rfl rfl)
theorem dX2_out_10 : decode cX2_out 10 = .ok (.aload_n 2, 1) := dk_44 (dk_at dksX2_out_0 10 rfl rfl)
theorem dX2_out_11 : decode cX2_out 11 = .ok (.invokeinterface 41 1, 5) := by decide +kernel
theorem dX2_out_16 : decode cX2_out 16 = .ok (.ifCond .eq 31, 3) := dk_153 0 31 (dk_at dksX2_out_0 16 rfl rfl)
theorem dX2_out_19 : decode cX2_out 19 = .ok (.aload_n 2, 1) := dk_44 (dk_at dksX2_out_0 19 rfl rfl)
theorem dX2_out_20 : decode cX2_out 20 = .ok (.invokeinterface 47 1, 5) := by decide +kernel
theorem dX2_out_25 : decode cX2_out 25 = .ok (.checkcast 60, 3) := dk_192 0 60 (dk_at dksX2_out_1 5 rfl rfl)
theorem dX2_out_28 : decode cX2_out 28 = .ok (.astore_n 3, 1) := dk_78 (dk_at dksX2_out_1 8 rfl rfl)
theorem dX2_out_29 : decode cX2_out 29 = .ok (.iload_n 1, 1) := dk_27 (dk_at dksX2_out_1 9 rfl rfl)
theorem dX2_out_30 : decode cX2_out 30 = .ok (.aload_n 3, 1) := dk_45 (dk_at dksX2_out_1 10 rfl rfl)
theorem dX2_out_31 : decode cX2_out 31 = .ok (.invokevirtual 163, 3) := dk_182 0 163 (dk_at dksX2_out_1 11 rfl rfl)
theorem dX2_out_34 : decode cX2_out 34 = .ok (.ifCond .eq 7, 3) := dk_153 0 7 (dk_at dksX2_out_1 14 rfl rfl)
theorem dX2_out_37 : decode cX2_out 37 = .ok (.iconst 1, 1) := dk_4 (dk_at dksX2_out_1 17 rfl rfl)
theorem dX2_out_38 : decode cX2_out 38 = .ok (.goto 4, 3) := dk_167 0 4 (dk_at dksX2_out_1 18 rfl rfl)
theorem dX2_out_41 : decode cX2_out 41 = .ok (.iconst 0, 1) := dk_3 (dk_at dksX2_out_1 21 rfl rfl)
theorem dX2_out_42 : decode cX2_out 42 = .ok (.iadd, 1) := dk_96 (dk_at dksX2_out_1 22 rfl rfl)
theorem dX2_out_43 : decode cX2_out 43 = .ok (.istore_n 1, 1) := dk_60 (dk_at dksX2_out_1 23 rfl rfl)
theorem dX2_out_44 : decode cX2_out 44 = .ok (.goto (-34), 3) := dk_167 255 222 (dk_at dksX2_out_2 0 rfl rfl)
theorem dX2_out_47 : decode cX2_out 47 = .ok (.iload_n 1, 1) := dk_27 (dk_at dksX2_out_2 3 rfl rfl)
theorem dX2_out_48 : decode cX2_out 48 = .ok (.ireturn, 1) := dk_172 (dk_at dksX2_out_2 4 rfl rfl)
abbrev cX2_voids : ByteArray := prog_2_method_33_code
def yX2_voids : MethodName := ⟨RX2, "voids", "()I"⟩
def dkwX2_voids_2 : List UInt8 := [167, 255, 222, 27, 172]
abbrev dktX2_voids_2 : List UInt8 := dkwX2_voids_2 ++ []
def dkwX2_voids_1 : List UInt8 := [185, 0, 47, 1, 0, 192, 0, 60, 78, 27, 45, 180, 0, 228, 153, 0, 7, 4, 167, 0, 4, 3, 96, 60]
abbrev dktX2_voids_1 : List UInt8 := dkwX2_voids_1 ++ dktX2_voids_2
def dkwX2_voids_0 : List UInt8 := [3, 60, 42, 180, 0, 18, 182, 0, 37, 77, 44, 185, 0, 41, 1, 0, 153, 0, 31, 44]
abbrev dktX2_voids_0 : List UInt8 := dkwX2_voids_0 ++ dktX2_voids_1
theorem dksX2_voids_0 : cX2_voids.data.toList.drop 0 = dktX2_voids_0 := by decide +kernel
theorem dksX2_voids_1 : cX2_voids.data.toList.drop 20 = dktX2_voids_1 := dk_seg dksX2_voids_0 20 rfl rfl
theorem dksX2_voids_2 : cX2_voids.data.toList.drop 44 = dktX2_voids_2 := dk_seg dksX2_voids_1 24 rfl rfl
theorem dX2_voids_0 : decode cX2_voids 0 = .ok (.iconst 0, 1) := dk_3 (dk_at dksX2_voids_0 0 rfl rfl)
theorem dX2_voids_1 : decode cX2_voids 1 = .ok (.istore_n 1, 1) := dk_60 (dk_at dksX2_voids_0 1 rfl rfl)
theorem dX2_voids_2 : decode cX2_voids 2 = .ok (.aload_n 0, 1) := dk_42 (dk_at dksX2_voids_0 2 rfl rfl)
theorem dX2_voids_3 : decode cX2_voids 3 = .ok (.getfield 18, 3) := dk_180 0 18 (dk_at dksX2_voids_0 3 rfl rfl)
theorem dX2_voids_6 : decode cX2_voids 6 = .ok (.invokevirtual 37, 3) := dk_182 0 37 (dk_at dksX2_voids_0 6 rfl rfl)
theorem dX2_voids_9 : decode cX2_voids 9 = .ok (.astore_n 2, 1) := dk_77 (dk_at dksX2_voids_0 9 rfl rfl)
theorem dX2_voids_10 : decode cX2_voids 10 = .ok (.aload_n 2, 1) := dk_44 (dk_at dksX2_voids_0 10 rfl rfl)
theorem dX2_voids_11 : decode cX2_voids 11 = .ok (.invokeinterface 41 1, 5) := by decide +kernel
theorem dX2_voids_16 : decode cX2_voids 16 = .ok (.ifCond .eq 31, 3) := dk_153 0 31 (dk_at dksX2_voids_0 16 rfl rfl)
theorem dX2_voids_19 : decode cX2_voids 19 = .ok (.aload_n 2, 1) := dk_44 (dk_at dksX2_voids_0 19 rfl rfl)
theorem dX2_voids_20 : decode cX2_voids 20 = .ok (.invokeinterface 47 1, 5) := by decide +kernel
theorem dX2_voids_25 : decode cX2_voids 25 = .ok (.checkcast 60, 3) := dk_192 0 60 (dk_at dksX2_voids_1 5 rfl rfl)
theorem dX2_voids_28 : decode cX2_voids 28 = .ok (.astore_n 3, 1) := dk_78 (dk_at dksX2_voids_1 8 rfl rfl)
theorem dX2_voids_29 : decode cX2_voids 29 = .ok (.iload_n 1, 1) := dk_27 (dk_at dksX2_voids_1 9 rfl rfl)
theorem dX2_voids_30 : decode cX2_voids 30 = .ok (.aload_n 3, 1) := dk_45 (dk_at dksX2_voids_1 10 rfl rfl)
theorem dX2_voids_31 : decode cX2_voids 31 = .ok (.getfield 228, 3) := dk_180 0 228 (dk_at dksX2_voids_1 11 rfl rfl)
theorem dX2_voids_34 : decode cX2_voids 34 = .ok (.ifCond .eq 7, 3) := dk_153 0 7 (dk_at dksX2_voids_1 14 rfl rfl)
theorem dX2_voids_37 : decode cX2_voids 37 = .ok (.iconst 1, 1) := dk_4 (dk_at dksX2_voids_1 17 rfl rfl)
theorem dX2_voids_38 : decode cX2_voids 38 = .ok (.goto 4, 3) := dk_167 0 4 (dk_at dksX2_voids_1 18 rfl rfl)
theorem dX2_voids_41 : decode cX2_voids 41 = .ok (.iconst 0, 1) := dk_3 (dk_at dksX2_voids_1 21 rfl rfl)
theorem dX2_voids_42 : decode cX2_voids 42 = .ok (.iadd, 1) := dk_96 (dk_at dksX2_voids_1 22 rfl rfl)
theorem dX2_voids_43 : decode cX2_voids 43 = .ok (.istore_n 1, 1) := dk_60 (dk_at dksX2_voids_1 23 rfl rfl)
theorem dX2_voids_44 : decode cX2_voids 44 = .ok (.goto (-34), 3) := dk_167 255 222 (dk_at dksX2_voids_2 0 rfl rfl)
theorem dX2_voids_47 : decode cX2_voids 47 = .ok (.iload_n 1, 1) := dk_27 (dk_at dksX2_voids_2 3 rfl rfl)
theorem dX2_voids_48 : decode cX2_voids 48 = .ok (.ireturn, 1) := dk_172 (dk_at dksX2_voids_2 4 rfl rfl)
abbrev cX2_coins : ByteArray := prog_2_method_31_code
def yX2_coins : MethodName := ⟨RX2, "coins", "()I"⟩
def dkwX2_coins_3 : List UInt8 := [45, 182, 0, 210, 96, 60, 167, 255, 230, 27, 172]
abbrev dktX2_coins_3 : List UInt8 := dkwX2_coins_3 ++ []
def dkwX2_coins_2 : List UInt8 := [182, 0, 37, 77, 44, 185, 0, 41, 1, 0, 153, 0, 23, 44, 185, 0, 47, 1, 0, 192, 0, 60, 78, 27]
abbrev dktX2_coins_2 : List UInt8 := dkwX2_coins_2 ++ dktX2_coins_3
def dkwX2_coins_1 : List UInt8 := [185, 0, 47, 1, 0, 192, 0, 50, 78, 27, 45, 182, 0, 160, 96, 60, 167, 255, 230, 42, 180, 0, 18]
abbrev dktX2_coins_1 : List UInt8 := dkwX2_coins_1 ++ dktX2_coins_2
def dkwX2_coins_0 : List UInt8 := [3, 60, 42, 180, 0, 12, 182, 0, 37, 77, 44, 185, 0, 41, 1, 0, 153, 0, 23, 44]
abbrev dktX2_coins_0 : List UInt8 := dkwX2_coins_0 ++ dktX2_coins_1
theorem dksX2_coins_0 : cX2_coins.data.toList.drop 0 = dktX2_coins_0 := by decide +kernel
theorem dksX2_coins_1 : cX2_coins.data.toList.drop 20 = dktX2_coins_1 := dk_seg dksX2_coins_0 20 rfl rfl
theorem dksX2_coins_2 : cX2_coins.data.toList.drop 43 = dktX2_coins_2 := dk_seg dksX2_coins_1 23 rfl rfl
theorem dksX2_coins_3 : cX2_coins.data.toList.drop 67 = dktX2_coins_3 := dk_seg dksX2_coins_2 24 rfl rfl
theorem dX2_coins_0 : decode cX2_coins 0 = .ok (.iconst 0, 1) := dk_3 (dk_at dksX2_coins_0 0 rfl rfl)
theorem dX2_coins_1 : decode cX2_coins 1 = .ok (.istore_n 1, 1) := dk_60 (dk_at dksX2_coins_0 1 rfl rfl)
theorem dX2_coins_2 : decode cX2_coins 2 = .ok (.aload_n 0, 1) := dk_42 (dk_at dksX2_coins_0 2 rfl rfl)
theorem dX2_coins_3 : decode cX2_coins 3 = .ok (.getfield 12, 3) := dk_180 0 12 (dk_at dksX2_coins_0 3 rfl rfl)
theorem dX2_coins_6 : decode cX2_coins 6 = .ok (.invokevirtual 37, 3) := dk_182 0 37 (dk_at dksX2_coins_0 6 rfl rfl)
theorem dX2_coins_9 : decode cX2_coins 9 = .ok (.astore_n 2, 1) := dk_77 (dk_at dksX2_coins_0 9 rfl rfl)
theorem dX2_coins_10 : decode cX2_coins 10 = .ok (.aload_n 2, 1) := dk_44 (dk_at dksX2_coins_0 10 rfl rfl)
theorem dX2_coins_11 : decode cX2_coins 11 = .ok (.invokeinterface 41 1, 5) := by decide +kernel
theorem dX2_coins_16 : decode cX2_coins 16 = .ok (.ifCond .eq 23, 3) := dk_153 0 23 (dk_at dksX2_coins_0 16 rfl rfl)
theorem dX2_coins_19 : decode cX2_coins 19 = .ok (.aload_n 2, 1) := dk_44 (dk_at dksX2_coins_0 19 rfl rfl)
theorem dX2_coins_20 : decode cX2_coins 20 = .ok (.invokeinterface 47 1, 5) := by decide +kernel
theorem dX2_coins_25 : decode cX2_coins 25 = .ok (.checkcast 50, 3) := dk_192 0 50 (dk_at dksX2_coins_1 5 rfl rfl)
theorem dX2_coins_28 : decode cX2_coins 28 = .ok (.astore_n 3, 1) := dk_78 (dk_at dksX2_coins_1 8 rfl rfl)
theorem dX2_coins_29 : decode cX2_coins 29 = .ok (.iload_n 1, 1) := dk_27 (dk_at dksX2_coins_1 9 rfl rfl)
theorem dX2_coins_30 : decode cX2_coins 30 = .ok (.aload_n 3, 1) := dk_45 (dk_at dksX2_coins_1 10 rfl rfl)
theorem dX2_coins_31 : decode cX2_coins 31 = .ok (.invokevirtual 160, 3) := dk_182 0 160 (dk_at dksX2_coins_1 11 rfl rfl)
theorem dX2_coins_34 : decode cX2_coins 34 = .ok (.iadd, 1) := dk_96 (dk_at dksX2_coins_1 14 rfl rfl)
theorem dX2_coins_35 : decode cX2_coins 35 = .ok (.istore_n 1, 1) := dk_60 (dk_at dksX2_coins_1 15 rfl rfl)
theorem dX2_coins_36 : decode cX2_coins 36 = .ok (.goto (-26), 3) := dk_167 255 230 (dk_at dksX2_coins_1 16 rfl rfl)
theorem dX2_coins_39 : decode cX2_coins 39 = .ok (.aload_n 0, 1) := dk_42 (dk_at dksX2_coins_1 19 rfl rfl)
theorem dX2_coins_40 : decode cX2_coins 40 = .ok (.getfield 18, 3) := dk_180 0 18 (dk_at dksX2_coins_1 20 rfl rfl)
theorem dX2_coins_43 : decode cX2_coins 43 = .ok (.invokevirtual 37, 3) := dk_182 0 37 (dk_at dksX2_coins_2 0 rfl rfl)
theorem dX2_coins_46 : decode cX2_coins 46 = .ok (.astore_n 2, 1) := dk_77 (dk_at dksX2_coins_2 3 rfl rfl)
theorem dX2_coins_47 : decode cX2_coins 47 = .ok (.aload_n 2, 1) := dk_44 (dk_at dksX2_coins_2 4 rfl rfl)
theorem dX2_coins_48 : decode cX2_coins 48 = .ok (.invokeinterface 41 1, 5) := by decide +kernel
theorem dX2_coins_53 : decode cX2_coins 53 = .ok (.ifCond .eq 23, 3) := dk_153 0 23 (dk_at dksX2_coins_2 10 rfl rfl)
theorem dX2_coins_56 : decode cX2_coins 56 = .ok (.aload_n 2, 1) := dk_44 (dk_at dksX2_coins_2 13 rfl rfl)
theorem dX2_coins_57 : decode cX2_coins 57 = .ok (.invokeinterface 47 1, 5) := by decide +kernel
theorem dX2_coins_62 : decode cX2_coins 62 = .ok (.checkcast 60, 3) := dk_192 0 60 (dk_at dksX2_coins_2 19 rfl rfl)
theorem dX2_coins_65 : decode cX2_coins 65 = .ok (.astore_n 3, 1) := dk_78 (dk_at dksX2_coins_2 22 rfl rfl)
theorem dX2_coins_66 : decode cX2_coins 66 = .ok (.iload_n 1, 1) := dk_27 (dk_at dksX2_coins_2 23 rfl rfl)
theorem dX2_coins_67 : decode cX2_coins 67 = .ok (.aload_n 3, 1) := dk_45 (dk_at dksX2_coins_3 0 rfl rfl)
theorem dX2_coins_68 : decode cX2_coins 68 = .ok (.invokevirtual 210, 3) := dk_182 0 210 (dk_at dksX2_coins_3 1 rfl rfl)
theorem dX2_coins_71 : decode cX2_coins 71 = .ok (.iadd, 1) := dk_96 (dk_at dksX2_coins_3 4 rfl rfl)
theorem dX2_coins_72 : decode cX2_coins 72 = .ok (.istore_n 1, 1) := dk_60 (dk_at dksX2_coins_3 5 rfl rfl)
theorem dX2_coins_73 : decode cX2_coins 73 = .ok (.goto (-26), 3) := dk_167 255 230 (dk_at dksX2_coins_3 6 rfl rfl)
theorem dX2_coins_76 : decode cX2_coins 76 = .ok (.iload_n 1, 1) := dk_27 (dk_at dksX2_coins_3 9 rfl rfl)
theorem dX2_coins_77 : decode cX2_coins 77 = .ok (.ireturn, 1) := dk_172 (dk_at dksX2_coins_3 10 rfl rfl)
theorem q73 : (Jvm.Cond.initialized "MazeBonds$Core") ∈ lw_all := lw_g (lw_at lw_m1 2 rfl) rfl
theorem q119 : (Jvm.Cond.instantiable "MazeBonds$Core" (7 : Nat)) ∈ lw_all := lw_g (lw_at lw_m1 48 rfl) rfl
theorem q121 : (Jvm.Cond.instanceMethod ({ cls := "MazeBonds$Core", name := "<init>", desc := "()V" } : Jvm.MethodName)) ∈ lw_all := lw_g (lw_at lw_m1 50 rfl) rfl
theorem q122 : (Jvm.Cond.code ({ cls := "MazeBonds$Core", name := "<init>", desc := "()V" } : Jvm.MethodName) prog_2_method_2_code (1 : Nat) (Option.none : Option Jvm.ClassFile.FieldType)) ∈ lw_all := lw_g (lw_at lw_m1 51 rfl) rfl
theorem q123 : (Jvm.Cond.methodLink "MazeBonds$Core" (29 : Nat) ({ cls := "MazeBonds$Core", name := "<init>", desc := "([I)V" } : Jvm.MethodName)) ∈ lw_all := lw_g (lw_at lw_m1 52 rfl) rfl
theorem q124 : (Jvm.Cond.instanceMethod ({ cls := "MazeBonds$Core", name := "<init>", desc := "([I)V" } : Jvm.MethodName)) ∈ lw_all := lw_g (lw_at lw_m1 53 rfl) rfl
theorem q125 : (Jvm.Cond.code ({ cls := "MazeBonds$Core", name := "<init>", desc := "([I)V" } : Jvm.MethodName) prog_2_method_1_code (2 : Nat) (Option.none : Option Jvm.ClassFile.FieldType)) ∈ lw_all := lw_g (lw_at lw_m1 54 rfl) rfl
theorem q126 : (Jvm.Cond.methodLink "MazeBonds$Core" (3 : Nat) ({ cls := "java/lang/Object", name := "<init>", desc := "()V" } : Jvm.MethodName)) ∈ lw_all := lw_g (lw_at lw_m1 55 rfl) rfl
theorem q127 : (Jvm.Cond.classLink "MazeBonds$Core" (9 : Nat) "java/util/ArrayList") ∈ lw_all := lw_g (lw_at lw_m1 56 rfl) rfl
theorem q129 : (Jvm.Cond.methodLink "MazeBonds$Core" (11 : Nat) ({ cls := "java/util/ArrayList", name := "<init>", desc := "()V" } : Jvm.MethodName)) ∈ lw_all := lw_g (lw_at lw_m1 58 rfl) rfl
theorem q157 : (Jvm.Cond.fieldLink "MazeBonds$Core" (25 : Nat) "MazeBonds$Core" "leaves" "[I") ∈ lw_all := lw_g (lw_at lw_m1 86 rfl) rfl
theorem q159 : (Jvm.Cond.fieldLink "MazeBonds$Core" (12 : Nat) "MazeBonds$Core" "gardeners" "Ljava/util/ArrayList;") ∈ lw_all := lw_g (lw_at lw_m1 88 rfl) rfl
theorem q161 : (Jvm.Cond.fieldLink "MazeBonds$Core" (18 : Nat) "MazeBonds$Core" "visitors" "Ljava/util/ArrayList;") ∈ lw_all := lw_g (lw_at lw_m1 90 rfl) rfl
theorem q163 : (Jvm.Cond.fieldLink "MazeBonds$Core" (21 : Nat) "MazeBonds$Core" "minotaur" "I") ∈ lw_all := lw_g (lw_at lw_m1 92 rfl) rfl
theorem q165 : (Jvm.Cond.fieldLink "MazeBonds$Core" (65 : Nat) "MazeBonds$Core" "summers" "I") ∈ lw_all := lw_g (lw_at lw_m1 94 rfl) rfl
theorem q167 : (Jvm.Cond.fieldLink "MazeBonds$Core" (68 : Nat) "MazeBonds$Core" "brought" "I") ∈ lw_all := lw_g (lw_at lw_m1 96 rfl) rfl
theorem q169 : (Jvm.Cond.fieldLink "MazeBonds$Core" (71 : Nat) "MazeBonds$Core" "spent" "I") ∈ lw_all := lw_g (lw_at lw_m1 98 rfl) rfl
theorem q171 : (Jvm.Cond.laysFinal "MazeBonds$Core" "MazeBonds$Core" "leaves" "[I") ∈ lw_all := lw_g (lw_at lw_m1 100 rfl) rfl
theorem q172 : (Jvm.Cond.soleField "MazeBonds$Core" "leaves") ∈ lw_all := lw_g (lw_at lw_m1 101 rfl) rfl
theorem q173 : (Jvm.Cond.laysFinal "MazeBonds$Core" "MazeBonds$Core" "gardeners" "Ljava/util/ArrayList;") ∈ lw_all := lw_g (lw_at lw_m1 102 rfl) rfl
theorem q174 : (Jvm.Cond.soleField "MazeBonds$Core" "gardeners") ∈ lw_all := lw_g (lw_at lw_m1 103 rfl) rfl
theorem q175 : (Jvm.Cond.laysFinal "MazeBonds$Core" "MazeBonds$Core" "visitors" "Ljava/util/ArrayList;") ∈ lw_all := lw_g (lw_at lw_m1 104 rfl) rfl
theorem q176 : (Jvm.Cond.soleField "MazeBonds$Core" "visitors") ∈ lw_all := lw_g (lw_at lw_m1 105 rfl) rfl
theorem q177 : (Jvm.Cond.lays "MazeBonds$Core" "MazeBonds$Core" "minotaur" "I") ∈ lw_all := lw_g (lw_at lw_m1 106 rfl) rfl
theorem q178 : (Jvm.Cond.soleField "MazeBonds$Core" "minotaur") ∈ lw_all := lw_g (lw_at lw_m1 107 rfl) rfl
theorem q179 : (Jvm.Cond.lays "MazeBonds$Core" "MazeBonds$Core" "summers" "I") ∈ lw_all := lw_g (lw_at lw_m1 108 rfl) rfl
theorem q180 : (Jvm.Cond.soleField "MazeBonds$Core" "summers") ∈ lw_all := lw_g (lw_at lw_m1 109 rfl) rfl
theorem q181 : (Jvm.Cond.lays "MazeBonds$Core" "MazeBonds$Core" "brought" "I") ∈ lw_all := lw_g (lw_at lw_m1 110 rfl) rfl
theorem q182 : (Jvm.Cond.soleField "MazeBonds$Core" "brought") ∈ lw_all := lw_g (lw_at lw_m1 111 rfl) rfl
theorem q183 : (Jvm.Cond.lays "MazeBonds$Core" "MazeBonds$Core" "spent" "I") ∈ lw_all := lw_g (lw_at lw_m1 112 rfl) rfl
theorem q184 : (Jvm.Cond.soleField "MazeBonds$Core" "spent") ∈ lw_all := lw_g (lw_at lw_m1 113 rfl) rfl
theorem q185 : (Jvm.Cond.superclass "MazeBonds$Core" "java/lang/Object") ∈ lw_all := lw_g (lw_at lw_m1 114 rfl) rfl
theorem q254 : (Jvm.Cond.instanceMethod ({ cls := "MazeBonds$Core", name := "copy", desc := "()LMazeBonds$Core;" } : Jvm.MethodName)) ∈ lw_all := lw_g (lw_at lw_m1 183 rfl) rfl
theorem q255 : (Jvm.Cond.selects "MazeBonds$Core" ({ cls := "MazeBonds$Core", name := "copy", desc := "()LMazeBonds$Core;" } : Jvm.MethodName) ({ cls := "MazeBonds$Core", name := "copy", desc := "()LMazeBonds$Core;" } : Jvm.MethodName)) ∈ lw_all := lw_g (lw_at lw_m1 184 rfl) rfl
theorem q256 : (Jvm.Cond.code ({ cls := "MazeBonds$Core", name := "copy", desc := "()LMazeBonds$Core;" } : Jvm.MethodName) prog_2_method_3_code (4 : Nat) (Option.some (Jvm.ClassFile.FieldType.object "MazeBonds$Core"))) ∈ lw_all := lw_g (lw_at lw_m1 185 rfl) rfl
theorem q257 : (Jvm.Cond.classLink "MazeBonds$Core" (13 : Nat) "MazeBonds$Core") ∈ lw_all := lw_g (lw_at lw_m1 186 rfl) rfl
theorem q258 : (Jvm.Cond.methodLink "MazeBonds$Core" (32 : Nat) ({ cls := "[I", name := "clone", desc := "()Ljava/lang/Object;" } : Jvm.MethodName)) ∈ lw_all := lw_g (lw_at lw_m1 187 rfl) rfl
theorem q264 : (Jvm.Cond.classLink "MazeBonds$Core" (33 : Nat) "[I") ∈ lw_all := lw_g (lw_at lw_m1 193 rfl) rfl
theorem q265 : (Jvm.Cond.methodLink "MazeBonds$Core" (37 : Nat) ({ cls := "java/util/ArrayList", name := "iterator", desc := "()Ljava/util/Iterator;" } : Jvm.MethodName)) ∈ lw_all := lw_g (lw_at lw_m1 194 rfl) rfl
theorem q288 : (Jvm.Cond.interfaceEntry "MazeBonds$Core" (41 : Nat)) ∈ lw_tbl := lw_at lw_m1 217 rfl
theorem q289 : (Jvm.Cond.methodLink "MazeBonds$Core" (41 : Nat) ({ cls := "java/util/Iterator", name := "hasNext", desc := "()Z" } : Jvm.MethodName)) ∈ lw_all := lw_g (lw_at lw_m1 218 rfl) rfl
theorem q298 : (Jvm.Cond.interfaceEntry "MazeBonds$Core" (47 : Nat)) ∈ lw_tbl := lw_at lw_m1 227 rfl
theorem q299 : (Jvm.Cond.methodLink "MazeBonds$Core" (47 : Nat) ({ cls := "java/util/Iterator", name := "next", desc := "()Ljava/lang/Object;" } : Jvm.MethodName)) ∈ lw_all := lw_g (lw_at lw_m1 228 rfl) rfl
theorem q382 : (Jvm.Cond.classLink "MazeBonds$Core" (50 : Nat) "MazeBonds$Gardener") ∈ lw_all := lw_g (lw_at lw_m2 71 rfl) rfl
theorem q383 : (Jvm.Cond.methodLink "MazeBonds$Core" (52 : Nat) ({ cls := "MazeBonds$Gardener", name := "copy", desc := "()LMazeBonds$Gardener;" } : Jvm.MethodName)) ∈ lw_all := lw_g (lw_at lw_m2 72 rfl) rfl
theorem q403 : (Jvm.Cond.fieldLinkNest "MazeBonds$Core" (204 : Nat) "MazeBonds$Gardener" "premiums" "I" "MazeBonds") ∈ lw_tbl := lw_at lw_m2 92 rfl
theorem q406 : (Jvm.Cond.fieldLinkNest "MazeBonds$Core" (217 : Nat) "MazeBonds$Gardener" "paid" "I" "MazeBonds") ∈ lw_tbl := lw_at lw_m2 95 rfl
theorem q409 : (Jvm.Cond.fieldLinkNest "MazeBonds$Core" (157 : Nat) "MazeBonds$Gardener" "trimmed" "I" "MazeBonds") ∈ lw_tbl := lw_at lw_m2 98 rfl
theorem q421 : (Jvm.Cond.methodLink "MazeBonds$Core" (56 : Nat) ({ cls := "java/util/ArrayList", name := "add", desc := "(Ljava/lang/Object;)Z" } : Jvm.MethodName)) ∈ lw_all := lw_g (lw_at lw_m2 110 rfl) rfl
theorem q454 : (Jvm.Cond.selects "MazeBonds$Core" ({ cls := "java/lang/Object", name := "getClass", desc := "()Ljava/lang/Class;" } : Jvm.MethodName) ({ cls := "java/lang/Object", name := "getClass", desc := "()Ljava/lang/Class;" } : Jvm.MethodName)) ∈ lw_all := lw_g (lw_at lw_m2 143 rfl) rfl
theorem q488 : (Jvm.Cond.classLink "MazeBonds$Core" (60 : Nat) "MazeBonds$Visitor") ∈ lw_all := lw_g (lw_at lw_m2 177 rfl) rfl
theorem q489 : (Jvm.Cond.methodLink "MazeBonds$Core" (62 : Nat) ({ cls := "MazeBonds$Visitor", name := "copy", desc := "()LMazeBonds$Visitor;" } : Jvm.MethodName)) ∈ lw_all := lw_g (lw_at lw_m2 178 rfl) rfl
theorem q505 : (Jvm.Cond.fieldLinkNest "MazeBonds$Core" (166 : Nat) "MazeBonds$Visitor" "cell" "I" "MazeBonds") ∈ lw_tbl := lw_at lw_m2 194 rfl
theorem q508 : (Jvm.Cond.fieldLinkNest "MazeBonds$Core" (193 : Nat) "MazeBonds$Visitor" "hours" "I" "MazeBonds") ∈ lw_tbl := lw_at lw_m2 197 rfl
theorem q511 : (Jvm.Cond.fieldLinkNest "MazeBonds$Core" (198 : Nat) "MazeBonds$Visitor" "gardener" "I" "MazeBonds") ∈ lw_tbl := lw_at lw_m2 200 rfl
theorem q514 : (Jvm.Cond.fieldLinkNest "MazeBonds$Core" (207 : Nat) "MazeBonds$Visitor" "rate" "I" "MazeBonds") ∈ lw_tbl := lw_at lw_m2 203 rfl
theorem q517 : (Jvm.Cond.fieldLinkNest "MazeBonds$Core" (228 : Nat) "MazeBonds$Visitor" "isVoid" "Z" "MazeBonds") ∈ lw_tbl := lw_at lw_m2 206 rfl
theorem q534 : (Jvm.Cond.instanceMethod ({ cls := "MazeBonds$Core", name := "summer", desc := "()I" } : Jvm.MethodName)) ∈ lw_all := lw_g (lw_at lw_m2 223 rfl) rfl
theorem q535 : (Jvm.Cond.selects "MazeBonds$Core" ({ cls := "MazeBonds$Core", name := "summer", desc := "()I" } : Jvm.MethodName) ({ cls := "MazeBonds$Core", name := "summer", desc := "()I" } : Jvm.MethodName)) ∈ lw_all := lw_g (lw_at lw_m2 224 rfl) rfl
theorem q536 : (Jvm.Cond.code ({ cls := "MazeBonds$Core", name := "summer", desc := "()I" } : Jvm.MethodName) prog_2_method_20_code (3 : Nat) (Option.some Jvm.ClassFile.FieldType.int)) ∈ lw_all := lw_g (lw_at lw_m2 225 rfl) rfl
theorem q537 : (Jvm.Cond.methodLink "MazeBonds$Core" (146 : Nat) ({ cls := "MazeBonds$Core", name := "gaps", desc := "()I" } : Jvm.MethodName)) ∈ lw_all := lw_g (lw_at lw_m2 226 rfl) rfl
theorem q538 : (Jvm.Cond.instanceMethod ({ cls := "MazeBonds$Core", name := "gaps", desc := "()I" } : Jvm.MethodName)) ∈ lw_all := lw_g (lw_at lw_m2 227 rfl) rfl
theorem q539 : (Jvm.Cond.selects "MazeBonds$Core" ({ cls := "MazeBonds$Core", name := "gaps", desc := "()I" } : Jvm.MethodName) ({ cls := "MazeBonds$Core", name := "gaps", desc := "()I" } : Jvm.MethodName)) ∈ lw_all := lw_g (lw_at lw_m2 228 rfl) rfl
theorem q540 : (Jvm.Cond.code ({ cls := "MazeBonds$Core", name := "gaps", desc := "()I" } : Jvm.MethodName) prog_2_method_7_code (6 : Nat) (Option.some Jvm.ClassFile.FieldType.int)) ∈ lw_all := lw_g (lw_at lw_m2 229 rfl) rfl
theorem q541 : (Jvm.Cond.methodLink "MazeBonds$Core" (105 : Nat) ({ cls := "java/lang/Math", name := "min", desc := "(II)I" } : Jvm.MethodName)) ∈ lw_all := lw_g (lw_at lw_m2 230 rfl) rfl
theorem q571 : (Jvm.Cond.instanceMethod ({ cls := "MazeBonds$Core", name := "hasWay", desc := "()Z" } : Jvm.MethodName)) ∈ lw_all := lw_g (lw_at lw_m3 20 rfl) rfl
theorem q572 : (Jvm.Cond.selects "MazeBonds$Core" ({ cls := "MazeBonds$Core", name := "hasWay", desc := "()Z" } : Jvm.MethodName) ({ cls := "MazeBonds$Core", name := "hasWay", desc := "()Z" } : Jvm.MethodName)) ∈ lw_all := lw_g (lw_at lw_m3 21 rfl) rfl
theorem q573 : (Jvm.Cond.code ({ cls := "MazeBonds$Core", name := "hasWay", desc := "()Z" } : Jvm.MethodName) prog_2_method_14_code (1 : Nat) (Option.some Jvm.ClassFile.FieldType.boolean)) ∈ lw_all := lw_g (lw_at lw_m3 22 rfl) rfl
theorem q574 : (Jvm.Cond.methodLink "MazeBonds$Core" (114 : Nat) ({ cls := "MazeBonds$Core", name := "hours", desc := "(II)I" } : Jvm.MethodName)) ∈ lw_all := lw_g (lw_at lw_m3 23 rfl) rfl
theorem q575 : (Jvm.Cond.instanceMethod ({ cls := "MazeBonds$Core", name := "hours", desc := "(II)I" } : Jvm.MethodName)) ∈ lw_all := lw_g (lw_at lw_m3 24 rfl) rfl
theorem q576 : (Jvm.Cond.selects "MazeBonds$Core" ({ cls := "MazeBonds$Core", name := "hours", desc := "(II)I" } : Jvm.MethodName) ({ cls := "MazeBonds$Core", name := "hours", desc := "(II)I" } : Jvm.MethodName)) ∈ lw_all := lw_g (lw_at lw_m3 25 rfl) rfl
theorem q577 : (Jvm.Cond.code ({ cls := "MazeBonds$Core", name := "hours", desc := "(II)I" } : Jvm.MethodName) prog_2_method_13_code (3 : Nat) (Option.some Jvm.ClassFile.FieldType.int)) ∈ lw_all := lw_g (lw_at lw_m3 26 rfl) rfl
theorem q578 : (Jvm.Cond.methodLink "MazeBonds$Core" (110 : Nat) ({ cls := "MazeBonds$Core", name := "distances", desc := "(IZ)[I" } : Jvm.MethodName)) ∈ lw_all := lw_g (lw_at lw_m3 27 rfl) rfl
theorem q579 : (Jvm.Cond.instanceMethod ({ cls := "MazeBonds$Core", name := "distances", desc := "(IZ)[I" } : Jvm.MethodName)) ∈ lw_all := lw_g (lw_at lw_m3 28 rfl) rfl
theorem q580 : (Jvm.Cond.selects "MazeBonds$Core" ({ cls := "MazeBonds$Core", name := "distances", desc := "(IZ)[I" } : Jvm.MethodName) ({ cls := "MazeBonds$Core", name := "distances", desc := "(IZ)[I" } : Jvm.MethodName)) ∈ lw_all := lw_g (lw_at lw_m3 29 rfl) rfl
theorem q581 : (Jvm.Cond.code ({ cls := "MazeBonds$Core", name := "distances", desc := "(IZ)[I" } : Jvm.MethodName) prog_2_method_8_code (5 : Nat) (Option.some (Jvm.ClassFile.FieldType.array Jvm.ClassFile.FieldType.int))) ∈ lw_all := lw_g (lw_at lw_m3 30 rfl) rfl
theorem q582 : (Jvm.Cond.methodLink "MazeBonds$Core" (86 : Nat) ({ cls := "MazeBonds$Core", name := "spread", desc := "([IIZ)V" } : Jvm.MethodName)) ∈ lw_all := lw_g (lw_at lw_m3 31 rfl) rfl
theorem q583 : (Jvm.Cond.privateMethod ({ cls := "MazeBonds$Core", name := "spread", desc := "([IIZ)V" } : Jvm.MethodName)) ∈ lw_tbl := lw_at lw_m3 32 rfl
theorem q584 : (Jvm.Cond.instanceMethod ({ cls := "MazeBonds$Core", name := "spread", desc := "([IIZ)V" } : Jvm.MethodName)) ∈ lw_all := lw_g (lw_at lw_m3 33 rfl) rfl
theorem q585 : (Jvm.Cond.code ({ cls := "MazeBonds$Core", name := "spread", desc := "([IIZ)V" } : Jvm.MethodName) prog_2_method_9_code (6 : Nat) (Option.none : Option Jvm.ClassFile.FieldType)) ∈ lw_all := lw_g (lw_at lw_m3 34 rfl) rfl
theorem q586 : (Jvm.Cond.methodLink "MazeBonds$Core" (90 : Nat) ({ cls := "MazeBonds$Core", name := "spreadFrom", desc := "([IIZ)Z" } : Jvm.MethodName)) ∈ lw_all := lw_g (lw_at lw_m3 35 rfl) rfl
theorem q587 : (Jvm.Cond.privateMethod ({ cls := "MazeBonds$Core", name := "spreadFrom", desc := "([IIZ)Z" } : Jvm.MethodName)) ∈ lw_tbl := lw_at lw_m3 36 rfl
theorem q588 : (Jvm.Cond.instanceMethod ({ cls := "MazeBonds$Core", name := "spreadFrom", desc := "([IIZ)Z" } : Jvm.MethodName)) ∈ lw_all := lw_g (lw_at lw_m3 37 rfl) rfl
theorem q589 : (Jvm.Cond.code ({ cls := "MazeBonds$Core", name := "spreadFrom", desc := "([IIZ)Z" } : Jvm.MethodName) prog_2_method_10_code (8 : Nat) (Option.some Jvm.ClassFile.FieldType.boolean)) ∈ lw_all := lw_g (lw_at lw_m3 38 rfl) rfl
theorem q590 : (Jvm.Cond.methodLinkNest "MazeBonds$Core" (94 : Nat) ({ cls := "MazeBonds", name := "neighbour", desc := "(II)I" } : Jvm.MethodName) "MazeBonds") ∈ lw_tbl := lw_at lw_m3 39 rfl
theorem q593 : (Jvm.Cond.methodLink "MazeBonds$Core" (97 : Nat) ({ cls := "MazeBonds$Core", name := "isGap", desc := "(II)Z" } : Jvm.MethodName)) ∈ lw_all := lw_g (lw_at lw_m3 42 rfl) rfl
theorem q594 : (Jvm.Cond.instanceMethod ({ cls := "MazeBonds$Core", name := "isGap", desc := "(II)Z" } : Jvm.MethodName)) ∈ lw_all := lw_g (lw_at lw_m3 43 rfl) rfl
theorem q595 : (Jvm.Cond.selects "MazeBonds$Core" ({ cls := "MazeBonds$Core", name := "isGap", desc := "(II)Z" } : Jvm.MethodName) ({ cls := "MazeBonds$Core", name := "isGap", desc := "(II)Z" } : Jvm.MethodName)) ∈ lw_all := lw_g (lw_at lw_m3 44 rfl) rfl
theorem q596 : (Jvm.Cond.code ({ cls := "MazeBonds$Core", name := "isGap", desc := "(II)Z" } : Jvm.MethodName) prog_2_method_6_code (4 : Nat) (Option.some Jvm.ClassFile.FieldType.boolean)) ∈ lw_all := lw_g (lw_at lw_m3 45 rfl) rfl
theorem q597 : (Jvm.Cond.methodLinkNest "MazeBonds$Core" (82 : Nat) ({ cls := "MazeBonds", name := "hedgeOf", desc := "(II)I" } : Jvm.MethodName) "MazeBonds") ∈ lw_tbl := lw_at lw_m3 46 rfl
theorem q626 : (Jvm.Cond.instanceMethod ({ cls := "MazeBonds$Core", name := "hedge", desc := "(III)I" } : Jvm.MethodName)) ∈ lw_all := lw_g (lw_at lw_m3 75 rfl) rfl
theorem q627 : (Jvm.Cond.selects "MazeBonds$Core" ({ cls := "MazeBonds$Core", name := "hedge", desc := "(III)I" } : Jvm.MethodName) ({ cls := "MazeBonds$Core", name := "hedge", desc := "(III)I" } : Jvm.MethodName)) ∈ lw_all := lw_g (lw_at lw_m3 76 rfl) rfl
theorem q628 : (Jvm.Cond.code ({ cls := "MazeBonds$Core", name := "hedge", desc := "(III)I" } : Jvm.MethodName) prog_2_method_19_code (6 : Nat) (Option.some Jvm.ClassFile.FieldType.int)) ∈ lw_all := lw_g (lw_at lw_m3 77 rfl) rfl
theorem q629 : (Jvm.Cond.methodLinkNest "MazeBonds$Core" (135 : Nat) ({ cls := "MazeBonds", name := "areCells", desc := "([I)Z" } : Jvm.MethodName) "MazeBonds") ∈ lw_tbl := lw_at lw_m3 78 rfl
theorem q635 : (Jvm.Cond.methodLinkNest "MazeBonds$Core" (78 : Nat) ({ cls := "MazeBonds", name := "isIn", desc := "(III)Z" } : Jvm.MethodName) "MazeBonds") ∈ lw_tbl := lw_at lw_m3 84 rfl
theorem q636 : (Jvm.Cond.methodLinkNest "MazeBonds$Core" (139 : Nat) ({ cls := "MazeBonds", name := "requireRange", desc := "(Z)V" } : Jvm.MethodName) "MazeBonds") ∈ lw_tbl := lw_at lw_m3 85 rfl
theorem q678 : (Jvm.Cond.methodLink "MazeBonds$Core" (143 : Nat) ({ cls := "MazeBonds$Core", name := "requireHedge", desc := "(II)I" } : Jvm.MethodName)) ∈ lw_all := lw_g (lw_at lw_m3 127 rfl) rfl
theorem q679 : (Jvm.Cond.privateMethod ({ cls := "MazeBonds$Core", name := "requireHedge", desc := "(II)I" } : Jvm.MethodName)) ∈ lw_tbl := lw_at lw_m3 128 rfl
theorem q680 : (Jvm.Cond.instanceMethod ({ cls := "MazeBonds$Core", name := "requireHedge", desc := "(II)I" } : Jvm.MethodName)) ∈ lw_all := lw_g (lw_at lw_m3 129 rfl) rfl
theorem q681 : (Jvm.Cond.code ({ cls := "MazeBonds$Core", name := "requireHedge", desc := "(II)I" } : Jvm.MethodName) prog_2_method_16_code (3 : Nat) (Option.some Jvm.ClassFile.FieldType.int)) ∈ lw_all := lw_g (lw_at lw_m3 130 rfl) rfl
theorem q682 : (Jvm.Cond.methodLink "MazeBonds$Core" (117 : Nat) ({ cls := "java/lang/Math", name := "max", desc := "(II)I" } : Jvm.MethodName)) ∈ lw_all := lw_g (lw_at lw_m3 131 rfl) rfl
theorem q683 : (Jvm.Cond.methodLinkNest "MazeBonds$Core" (120 : Nat) ({ cls := "MazeBonds", name := "refuse", desc := "(ZII)V" } : Jvm.MethodName) "MazeBonds") ∈ lw_tbl := lw_at lw_m3 132 rfl
theorem q711 : (Jvm.Cond.instanceMethod ({ cls := "MazeBonds$Core", name := "trim", desc := "(III)I" } : Jvm.MethodName)) ∈ lw_all := lw_g (lw_at lw_m3 160 rfl) rfl
theorem q712 : (Jvm.Cond.selects "MazeBonds$Core" ({ cls := "MazeBonds$Core", name := "trim", desc := "(III)I" } : Jvm.MethodName) ({ cls := "MazeBonds$Core", name := "trim", desc := "(III)I" } : Jvm.MethodName)) ∈ lw_all := lw_g (lw_at lw_m3 161 rfl) rfl
theorem q713 : (Jvm.Cond.code ({ cls := "MazeBonds$Core", name := "trim", desc := "(III)I" } : Jvm.MethodName) prog_2_method_21_code (6 : Nat) (Option.some Jvm.ClassFile.FieldType.int)) ∈ lw_all := lw_g (lw_at lw_m3 162 rfl) rfl
theorem q714 : (Jvm.Cond.methodLink "MazeBonds$Core" (149 : Nat) ({ cls := "MazeBonds$Core", name := "requireGardener", desc := "(I)LMazeBonds$Gardener;" } : Jvm.MethodName)) ∈ lw_all := lw_g (lw_at lw_m3 163 rfl) rfl
theorem q715 : (Jvm.Cond.privateMethod ({ cls := "MazeBonds$Core", name := "requireGardener", desc := "(I)LMazeBonds$Gardener;" } : Jvm.MethodName)) ∈ lw_tbl := lw_at lw_m3 164 rfl
theorem q716 : (Jvm.Cond.instanceMethod ({ cls := "MazeBonds$Core", name := "requireGardener", desc := "(I)LMazeBonds$Gardener;" } : Jvm.MethodName)) ∈ lw_all := lw_g (lw_at lw_m3 165 rfl) rfl
theorem q717 : (Jvm.Cond.code ({ cls := "MazeBonds$Core", name := "requireGardener", desc := "(I)LMazeBonds$Gardener;" } : Jvm.MethodName) prog_2_method_17_code (2 : Nat) (Option.some (Jvm.ClassFile.FieldType.object "MazeBonds$Gardener"))) ∈ lw_all := lw_g (lw_at lw_m3 166 rfl) rfl
theorem q718 : (Jvm.Cond.methodLink "MazeBonds$Core" (124 : Nat) ({ cls := "MazeBonds$Core", name := "isGardener", desc := "(I)Z" } : Jvm.MethodName)) ∈ lw_all := lw_g (lw_at lw_m3 167 rfl) rfl
theorem q719 : (Jvm.Cond.instanceMethod ({ cls := "MazeBonds$Core", name := "isGardener", desc := "(I)Z" } : Jvm.MethodName)) ∈ lw_all := lw_g (lw_at lw_m3 168 rfl) rfl
theorem q720 : (Jvm.Cond.selects "MazeBonds$Core" ({ cls := "MazeBonds$Core", name := "isGardener", desc := "(I)Z" } : Jvm.MethodName) ({ cls := "MazeBonds$Core", name := "isGardener", desc := "(I)Z" } : Jvm.MethodName)) ∈ lw_all := lw_g (lw_at lw_m3 169 rfl) rfl
theorem q721 : (Jvm.Cond.code ({ cls := "MazeBonds$Core", name := "isGardener", desc := "(I)Z" } : Jvm.MethodName) prog_2_method_4_code (2 : Nat) (Option.some Jvm.ClassFile.FieldType.boolean)) ∈ lw_all := lw_g (lw_at lw_m3 170 rfl) rfl
theorem q722 : (Jvm.Cond.methodLink "MazeBonds$Core" (74 : Nat) ({ cls := "java/util/ArrayList", name := "size", desc := "()I" } : Jvm.MethodName)) ∈ lw_all := lw_g (lw_at lw_m3 171 rfl) rfl
theorem q723 : (Jvm.Cond.methodLink "MazeBonds$Core" (128 : Nat) ({ cls := "java/util/ArrayList", name := "get", desc := "(I)Ljava/lang/Object;" } : Jvm.MethodName)) ∈ lw_all := lw_g (lw_at lw_m3 172 rfl) rfl
theorem q731 : (Jvm.Cond.methodLink "MazeBonds$Core" (153 : Nat) ({ cls := "MazeBonds$Gardener", name := "pay", desc := "(I)V" } : Jvm.MethodName)) ∈ lw_all := lw_g (lw_at lw_m3 180 rfl) rfl
theorem q738 : (Jvm.Cond.methodLink "MazeBonds$Core" (160 : Nat) ({ cls := "MazeBonds$Gardener", name := "coins", desc := "()I" } : Jvm.MethodName)) ∈ lw_all := lw_g (lw_at lw_m3 187 rfl) rfl
theorem q747 : (Jvm.Cond.instanceMethod ({ cls := "MazeBonds$Core", name := "minotaur", desc := "(I)I" } : Jvm.MethodName)) ∈ lw_all := lw_g (lw_at lw_m3 196 rfl) rfl
theorem q748 : (Jvm.Cond.selects "MazeBonds$Core" ({ cls := "MazeBonds$Core", name := "minotaur", desc := "(I)I" } : Jvm.MethodName) ({ cls := "MazeBonds$Core", name := "minotaur", desc := "(I)I" } : Jvm.MethodName)) ∈ lw_all := lw_g (lw_at lw_m3 197 rfl) rfl
theorem q749 : (Jvm.Cond.code ({ cls := "MazeBonds$Core", name := "minotaur", desc := "(I)I" } : Jvm.MethodName) prog_2_method_22_code (5 : Nat) (Option.some Jvm.ClassFile.FieldType.int)) ∈ lw_all := lw_g (lw_at lw_m3 198 rfl) rfl
theorem q750 : (Jvm.Cond.methodLink "MazeBonds$Core" (163 : Nat) ({ cls := "MazeBonds$Visitor", name := "isOut", desc := "()Z" } : Jvm.MethodName)) ∈ lw_all := lw_g (lw_at lw_m3 199 rfl) rfl
theorem q754 : (Jvm.Cond.methodLink "MazeBonds$Core" (169 : Nat) ({ cls := "MazeBonds$Visitor", name := "meet", desc := "()V" } : Jvm.MethodName)) ∈ lw_all := lw_g (lw_at lw_m3 203 rfl) rfl
theorem q770 : (Jvm.Cond.instanceMethod ({ cls := "MazeBonds$Core", name := "gardener", desc := "(I)I" } : Jvm.MethodName)) ∈ lw_all := lw_g (lw_at lw_m3 219 rfl) rfl
theorem q771 : (Jvm.Cond.selects "MazeBonds$Core" ({ cls := "MazeBonds$Core", name := "gardener", desc := "(I)I" } : Jvm.MethodName) ({ cls := "MazeBonds$Core", name := "gardener", desc := "(I)I" } : Jvm.MethodName)) ∈ lw_all := lw_g (lw_at lw_m3 220 rfl) rfl
theorem q772 : (Jvm.Cond.code ({ cls := "MazeBonds$Core", name := "gardener", desc := "(I)I" } : Jvm.MethodName) prog_2_method_23_code (2 : Nat) (Option.some Jvm.ClassFile.FieldType.int)) ∈ lw_all := lw_g (lw_at lw_m3 221 rfl) rfl
theorem q773 : (Jvm.Cond.methodLink "MazeBonds$Core" (172 : Nat) ({ cls := "MazeBonds$Gardener", name := "<init>", desc := "(I)V" } : Jvm.MethodName)) ∈ lw_all := lw_g (lw_at lw_m3 222 rfl) rfl
theorem q782 : (Jvm.Cond.instanceMethod ({ cls := "MazeBonds$Core", name := "visitor", desc := "(I)I" } : Jvm.MethodName)) ∈ lw_all := lw_g (lw_at lw_m3 231 rfl) rfl
theorem q783 : (Jvm.Cond.selects "MazeBonds$Core" ({ cls := "MazeBonds$Core", name := "visitor", desc := "(I)I" } : Jvm.MethodName) ({ cls := "MazeBonds$Core", name := "visitor", desc := "(I)I" } : Jvm.MethodName)) ∈ lw_all := lw_g (lw_at lw_m3 232 rfl) rfl
theorem q784 : (Jvm.Cond.code ({ cls := "MazeBonds$Core", name := "visitor", desc := "(I)I" } : Jvm.MethodName) prog_2_method_24_code (2 : Nat) (Option.some Jvm.ClassFile.FieldType.int)) ∈ lw_all := lw_g (lw_at lw_m3 233 rfl) rfl
theorem q785 : (Jvm.Cond.methodLink "MazeBonds$Core" (174 : Nat) ({ cls := "MazeBonds$Core", name := "hasWay", desc := "()Z" } : Jvm.MethodName)) ∈ lw_all := lw_g (lw_at lw_m3 234 rfl) rfl
theorem q786 : (Jvm.Cond.methodLink "MazeBonds$Core" (177 : Nat) ({ cls := "MazeBonds$Core", name := "reached", desc := "(I)I" } : Jvm.MethodName)) ∈ lw_all := lw_g (lw_at lw_m3 235 rfl) rfl
theorem q787 : (Jvm.Cond.instanceMethod ({ cls := "MazeBonds$Core", name := "reached", desc := "(I)I" } : Jvm.MethodName)) ∈ lw_all := lw_g (lw_at lw_m3 236 rfl) rfl
theorem q788 : (Jvm.Cond.selects "MazeBonds$Core" ({ cls := "MazeBonds$Core", name := "reached", desc := "(I)I" } : Jvm.MethodName) ({ cls := "MazeBonds$Core", name := "reached", desc := "(I)I" } : Jvm.MethodName)) ∈ lw_all := lw_g (lw_at lw_m3 237 rfl) rfl
theorem q789 : (Jvm.Cond.code ({ cls := "MazeBonds$Core", name := "reached", desc := "(I)I" } : Jvm.MethodName) prog_2_method_15_code (5 : Nat) (Option.some Jvm.ClassFile.FieldType.int)) ∈ lw_all := lw_g (lw_at lw_m3 238 rfl) rfl
theorem q790 : (Jvm.Cond.methodLink "MazeBonds$Core" (181 : Nat) ({ cls := "java/lang/Integer", name := "bitCount", desc := "(I)I" } : Jvm.MethodName)) ∈ lw_all := lw_g (lw_at lw_m3 239 rfl) rfl
theorem q796 : (Jvm.Cond.methodLink "MazeBonds$Core" (186 : Nat) ({ cls := "MazeBonds$Visitor", name := "<init>", desc := "(II)V" } : Jvm.MethodName)) ∈ lw_all := lw_g (lw_at lw_m4 5 rfl) rfl
theorem q805 : (Jvm.Cond.instanceMethod ({ cls := "MazeBonds$Core", name := "bond", desc := "(III)I" } : Jvm.MethodName)) ∈ lw_all := lw_g (lw_at lw_m4 14 rfl) rfl
theorem q806 : (Jvm.Cond.selects "MazeBonds$Core" ({ cls := "MazeBonds$Core", name := "bond", desc := "(III)I" } : Jvm.MethodName) ({ cls := "MazeBonds$Core", name := "bond", desc := "(III)I" } : Jvm.MethodName)) ∈ lw_all := lw_g (lw_at lw_m4 15 rfl) rfl
theorem q807 : (Jvm.Cond.code ({ cls := "MazeBonds$Core", name := "bond", desc := "(III)I" } : Jvm.MethodName) prog_2_method_25_code (6 : Nat) (Option.some Jvm.ClassFile.FieldType.int)) ∈ lw_all := lw_g (lw_at lw_m4 16 rfl) rfl
theorem q808 : (Jvm.Cond.methodLink "MazeBonds$Core" (189 : Nat) ({ cls := "MazeBonds$Core", name := "requireVisitor", desc := "(I)LMazeBonds$Visitor;" } : Jvm.MethodName)) ∈ lw_all := lw_g (lw_at lw_m4 17 rfl) rfl
theorem q809 : (Jvm.Cond.privateMethod ({ cls := "MazeBonds$Core", name := "requireVisitor", desc := "(I)LMazeBonds$Visitor;" } : Jvm.MethodName)) ∈ lw_tbl := lw_at lw_m4 18 rfl
theorem q810 : (Jvm.Cond.instanceMethod ({ cls := "MazeBonds$Core", name := "requireVisitor", desc := "(I)LMazeBonds$Visitor;" } : Jvm.MethodName)) ∈ lw_all := lw_g (lw_at lw_m4 19 rfl) rfl
theorem q811 : (Jvm.Cond.code ({ cls := "MazeBonds$Core", name := "requireVisitor", desc := "(I)LMazeBonds$Visitor;" } : Jvm.MethodName) prog_2_method_18_code (2 : Nat) (Option.some (Jvm.ClassFile.FieldType.object "MazeBonds$Visitor"))) ∈ lw_all := lw_g (lw_at lw_m4 20 rfl) rfl
theorem q812 : (Jvm.Cond.methodLink "MazeBonds$Core" (132 : Nat) ({ cls := "MazeBonds$Core", name := "isVisitor", desc := "(I)Z" } : Jvm.MethodName)) ∈ lw_all := lw_g (lw_at lw_m4 21 rfl) rfl
theorem q813 : (Jvm.Cond.instanceMethod ({ cls := "MazeBonds$Core", name := "isVisitor", desc := "(I)Z" } : Jvm.MethodName)) ∈ lw_all := lw_g (lw_at lw_m4 22 rfl) rfl
theorem q814 : (Jvm.Cond.selects "MazeBonds$Core" ({ cls := "MazeBonds$Core", name := "isVisitor", desc := "(I)Z" } : Jvm.MethodName) ({ cls := "MazeBonds$Core", name := "isVisitor", desc := "(I)Z" } : Jvm.MethodName)) ∈ lw_all := lw_g (lw_at lw_m4 23 rfl) rfl
theorem q815 : (Jvm.Cond.code ({ cls := "MazeBonds$Core", name := "isVisitor", desc := "(I)Z" } : Jvm.MethodName) prog_2_method_5_code (2 : Nat) (Option.some Jvm.ClassFile.FieldType.boolean)) ∈ lw_all := lw_g (lw_at lw_m4 24 rfl) rfl
theorem q816 : (Jvm.Cond.methodLink "MazeBonds$Core" (195 : Nat) ({ cls := "MazeBonds$Visitor", name := "hasBond", desc := "()Z" } : Jvm.MethodName)) ∈ lw_all := lw_g (lw_at lw_m4 25 rfl) rfl
theorem q817 : (Jvm.Cond.methodLink "MazeBonds$Core" (201 : Nat) ({ cls := "MazeBonds$Visitor", name := "pay", desc := "(I)V" } : Jvm.MethodName)) ∈ lw_all := lw_g (lw_at lw_m4 26 rfl) rfl
theorem q820 : (Jvm.Cond.methodLink "MazeBonds$Core" (202 : Nat) ({ cls := "MazeBonds$Gardener", name := "get", desc := "(I)V" } : Jvm.MethodName)) ∈ lw_all := lw_g (lw_at lw_m4 29 rfl) rfl
theorem q826 : (Jvm.Cond.methodLink "MazeBonds$Core" (210 : Nat) ({ cls := "MazeBonds$Visitor", name := "coins", desc := "()I" } : Jvm.MethodName)) ∈ lw_all := lw_g (lw_at lw_m4 35 rfl) rfl
theorem q835 : (Jvm.Cond.instanceMethod ({ cls := "MazeBonds$Core", name := "walk", desc := "(II)I" } : Jvm.MethodName)) ∈ lw_all := lw_g (lw_at lw_m4 44 rfl) rfl
theorem q836 : (Jvm.Cond.selects "MazeBonds$Core" ({ cls := "MazeBonds$Core", name := "walk", desc := "(II)I" } : Jvm.MethodName) ({ cls := "MazeBonds$Core", name := "walk", desc := "(II)I" } : Jvm.MethodName)) ∈ lw_all := lw_g (lw_at lw_m4 45 rfl) rfl
theorem q837 : (Jvm.Cond.code ({ cls := "MazeBonds$Core", name := "walk", desc := "(II)I" } : Jvm.MethodName) prog_2_method_27_code (5 : Nat) (Option.some Jvm.ClassFile.FieldType.int)) ∈ lw_all := lw_g (lw_at lw_m4 46 rfl) rfl
theorem q838 : (Jvm.Cond.methodLink "MazeBonds$Core" (224 : Nat) ({ cls := "MazeBonds$Core", name := "settle", desc := "(LMazeBonds$Visitor;)V" } : Jvm.MethodName)) ∈ lw_all := lw_g (lw_at lw_m4 47 rfl) rfl
theorem q839 : (Jvm.Cond.privateMethod ({ cls := "MazeBonds$Core", name := "settle", desc := "(LMazeBonds$Visitor;)V" } : Jvm.MethodName)) ∈ lw_tbl := lw_at lw_m4 48 rfl
theorem q840 : (Jvm.Cond.instanceMethod ({ cls := "MazeBonds$Core", name := "settle", desc := "(LMazeBonds$Visitor;)V" } : Jvm.MethodName)) ∈ lw_all := lw_g (lw_at lw_m4 49 rfl) rfl
theorem q841 : (Jvm.Cond.code ({ cls := "MazeBonds$Core", name := "settle", desc := "(LMazeBonds$Visitor;)V" } : Jvm.MethodName) prog_2_method_26_code (4 : Nat) (Option.none : Option Jvm.ClassFile.FieldType)) ∈ lw_all := lw_g (lw_at lw_m4 50 rfl) rfl
theorem q842 : (Jvm.Cond.methodLink "MazeBonds$Core" (211 : Nat) ({ cls := "MazeBonds$Visitor", name := "dueWith", desc := "(I)I" } : Jvm.MethodName)) ∈ lw_all := lw_g (lw_at lw_m4 51 rfl) rfl
theorem q851 : (Jvm.Cond.methodLink "MazeBonds$Core" (214 : Nat) ({ cls := "MazeBonds$Gardener", name := "payUpTo", desc := "(I)I" } : Jvm.MethodName)) ∈ lw_all := lw_g (lw_at lw_m4 60 rfl) rfl
theorem q858 : (Jvm.Cond.methodLink "MazeBonds$Core" (220 : Nat) ({ cls := "MazeBonds$Visitor", name := "get", desc := "(I)V" } : Jvm.MethodName)) ∈ lw_all := lw_g (lw_at lw_m4 67 rfl) rfl
theorem q861 : (Jvm.Cond.methodLink "MazeBonds$Core" (221 : Nat) ({ cls := "MazeBonds$Visitor", name := "endBond", desc := "()V" } : Jvm.MethodName)) ∈ lw_all := lw_g (lw_at lw_m4 70 rfl) rfl
theorem q873 : (Jvm.Cond.instanceMethod ({ cls := "MazeBonds$Core", name := "rest", desc := "(II)I" } : Jvm.MethodName)) ∈ lw_all := lw_g (lw_at lw_m4 82 rfl) rfl
theorem q874 : (Jvm.Cond.selects "MazeBonds$Core" ({ cls := "MazeBonds$Core", name := "rest", desc := "(II)I" } : Jvm.MethodName) ({ cls := "MazeBonds$Core", name := "rest", desc := "(II)I" } : Jvm.MethodName)) ∈ lw_all := lw_g (lw_at lw_m4 83 rfl) rfl
theorem q875 : (Jvm.Cond.code ({ cls := "MazeBonds$Core", name := "rest", desc := "(II)I" } : Jvm.MethodName) prog_2_method_28_code (4 : Nat) (Option.some Jvm.ClassFile.FieldType.int)) ∈ lw_all := lw_g (lw_at lw_m4 84 rfl) rfl
theorem q972 : (Jvm.Cond.instanceMethod ({ cls := "MazeBonds$Core", name := "relaxed", desc := "(III)[I" } : Jvm.MethodName)) ∈ lw_all := lw_g (lw_at lw_m4 181 rfl) rfl
theorem q973 : (Jvm.Cond.selects "MazeBonds$Core" ({ cls := "MazeBonds$Core", name := "relaxed", desc := "(III)[I" } : Jvm.MethodName) ({ cls := "MazeBonds$Core", name := "relaxed", desc := "(III)[I" } : Jvm.MethodName)) ∈ lw_all := lw_g (lw_at lw_m4 182 rfl) rfl
theorem q974 : (Jvm.Cond.code ({ cls := "MazeBonds$Core", name := "relaxed", desc := "(III)[I" } : Jvm.MethodName) prog_2_method_11_code (8 : Nat) (Option.some (Jvm.ClassFile.FieldType.array Jvm.ClassFile.FieldType.int))) ∈ lw_all := lw_g (lw_at lw_m4 183 rfl) rfl
theorem q975 : (Jvm.Cond.methodLink "MazeBonds$Core" (101 : Nat) ({ cls := "MazeBonds$Core", name := "byNeighbours", desc := "([IIII)I" } : Jvm.MethodName)) ∈ lw_all := lw_g (lw_at lw_m4 184 rfl) rfl
theorem q976 : (Jvm.Cond.privateMethod ({ cls := "MazeBonds$Core", name := "byNeighbours", desc := "([IIII)I" } : Jvm.MethodName)) ∈ lw_tbl := lw_at lw_m4 185 rfl
theorem q977 : (Jvm.Cond.instanceMethod ({ cls := "MazeBonds$Core", name := "byNeighbours", desc := "([IIII)I" } : Jvm.MethodName)) ∈ lw_all := lw_g (lw_at lw_m4 186 rfl) rfl
theorem q978 : (Jvm.Cond.code ({ cls := "MazeBonds$Core", name := "byNeighbours", desc := "([IIII)I" } : Jvm.MethodName) prog_2_method_12_code (8 : Nat) (Option.some Jvm.ClassFile.FieldType.int)) ∈ lw_all := lw_g (lw_at lw_m4 187 rfl) rfl
theorem q1058 : (Jvm.Cond.instanceMethod ({ cls := "MazeBonds$Core", name := "bondsOf", desc := "(I)I" } : Jvm.MethodName)) ∈ lw_all := lw_g (lw_at lw_m5 27 rfl) rfl
theorem q1059 : (Jvm.Cond.selects "MazeBonds$Core" ({ cls := "MazeBonds$Core", name := "bondsOf", desc := "(I)I" } : Jvm.MethodName) ({ cls := "MazeBonds$Core", name := "bondsOf", desc := "(I)I" } : Jvm.MethodName)) ∈ lw_all := lw_g (lw_at lw_m5 28 rfl) rfl
theorem q1060 : (Jvm.Cond.code ({ cls := "MazeBonds$Core", name := "bondsOf", desc := "(I)I" } : Jvm.MethodName) prog_2_method_29_code (5 : Nat) (Option.some Jvm.ClassFile.FieldType.int)) ∈ lw_all := lw_g (lw_at lw_m5 29 rfl) rfl
theorem q1097 : (Jvm.Cond.instanceMethod ({ cls := "MazeBonds$Core", name := "owed", desc := "(I)I" } : Jvm.MethodName)) ∈ lw_all := lw_g (lw_at lw_m5 66 rfl) rfl
theorem q1098 : (Jvm.Cond.selects "MazeBonds$Core" ({ cls := "MazeBonds$Core", name := "owed", desc := "(I)I" } : Jvm.MethodName) ({ cls := "MazeBonds$Core", name := "owed", desc := "(I)I" } : Jvm.MethodName)) ∈ lw_all := lw_g (lw_at lw_m5 67 rfl) rfl
theorem q1099 : (Jvm.Cond.code ({ cls := "MazeBonds$Core", name := "owed", desc := "(I)I" } : Jvm.MethodName) prog_2_method_30_code (5 : Nat) (Option.some Jvm.ClassFile.FieldType.int)) ∈ lw_all := lw_g (lw_at lw_m5 68 rfl) rfl
theorem q1591 : (Jvm.Cond.instanceMethod ({ cls := "MazeBonds$Core", name := "in", desc := "(I)I" } : Jvm.MethodName)) ∈ lw_all := lw_g (lw_at lw_m7 80 rfl) rfl
theorem q1592 : (Jvm.Cond.selects "MazeBonds$Core" ({ cls := "MazeBonds$Core", name := "in", desc := "(I)I" } : Jvm.MethodName) ({ cls := "MazeBonds$Core", name := "in", desc := "(I)I" } : Jvm.MethodName)) ∈ lw_all := lw_g (lw_at lw_m7 81 rfl) rfl
theorem q1593 : (Jvm.Cond.code ({ cls := "MazeBonds$Core", name := "in", desc := "(I)I" } : Jvm.MethodName) prog_2_method_34_code (5 : Nat) (Option.some Jvm.ClassFile.FieldType.int)) ∈ lw_all := lw_g (lw_at lw_m7 82 rfl) rfl
theorem q1653 : (Jvm.Cond.instanceMethod ({ cls := "MazeBonds$Core", name := "out", desc := "()I" } : Jvm.MethodName)) ∈ lw_all := lw_g (lw_at lw_m7 142 rfl) rfl
theorem q1654 : (Jvm.Cond.selects "MazeBonds$Core" ({ cls := "MazeBonds$Core", name := "out", desc := "()I" } : Jvm.MethodName) ({ cls := "MazeBonds$Core", name := "out", desc := "()I" } : Jvm.MethodName)) ∈ lw_all := lw_g (lw_at lw_m7 143 rfl) rfl
theorem q1655 : (Jvm.Cond.code ({ cls := "MazeBonds$Core", name := "out", desc := "()I" } : Jvm.MethodName) prog_2_method_32_code (4 : Nat) (Option.some Jvm.ClassFile.FieldType.int)) ∈ lw_all := lw_g (lw_at lw_m7 144 rfl) rfl
theorem q1664 : (Jvm.Cond.instanceMethod ({ cls := "MazeBonds$Core", name := "voids", desc := "()I" } : Jvm.MethodName)) ∈ lw_all := lw_g (lw_at lw_m7 153 rfl) rfl
theorem q1665 : (Jvm.Cond.selects "MazeBonds$Core" ({ cls := "MazeBonds$Core", name := "voids", desc := "()I" } : Jvm.MethodName) ({ cls := "MazeBonds$Core", name := "voids", desc := "()I" } : Jvm.MethodName)) ∈ lw_all := lw_g (lw_at lw_m7 154 rfl) rfl
theorem q1666 : (Jvm.Cond.code ({ cls := "MazeBonds$Core", name := "voids", desc := "()I" } : Jvm.MethodName) prog_2_method_33_code (4 : Nat) (Option.some Jvm.ClassFile.FieldType.int)) ∈ lw_all := lw_g (lw_at lw_m7 155 rfl) rfl
theorem q1672 : (Jvm.Cond.instanceMethod ({ cls := "MazeBonds$Core", name := "coins", desc := "()I" } : Jvm.MethodName)) ∈ lw_all := lw_g (lw_at lw_m7 161 rfl) rfl
theorem q1673 : (Jvm.Cond.selects "MazeBonds$Core" ({ cls := "MazeBonds$Core", name := "coins", desc := "()I" } : Jvm.MethodName) ({ cls := "MazeBonds$Core", name := "coins", desc := "()I" } : Jvm.MethodName)) ∈ lw_all := lw_g (lw_at lw_m7 162 rfl) rfl
theorem q1674 : (Jvm.Cond.code ({ cls := "MazeBonds$Core", name := "coins", desc := "()I" } : Jvm.MethodName) prog_2_method_31_code (4 : Nat) (Option.some Jvm.ClassFile.FieldType.int)) ∈ lw_all := lw_g (lw_at lw_m7 163 rfl) rfl
theorem q2152 : (Jvm.Cond.castable "MazeBonds$Core" "java/lang/Object") ∈ lw_tbl := lw_at lw_m9 161 rfl
theorem in_X2 : ∀ w ∈ wsX20, w ∈ lw_all := lw_in wsX20 [171, 173, 175, 177, 179, 181, 183] (by decide +kernel) (by decide +kernel)
/-! MazeBonds$Somebody -/
set_option maxRecDepth 100000
def RX4 : String := "MazeBonds$Somebody"
abbrev cX4_coins : ByteArray := prog_7_method_2_code
def yX4_coins : MethodName := ⟨RX4, "coins", "()I"⟩
theorem dX4_coins_0 : decode cX4_coins 0 = .ok (.aload_n 0, 1) := by decide +kernel
theorem dX4_coins_1 : decode cX4_coins 1 = .ok (.getfield 9, 3) := by decide +kernel
theorem dX4_coins_4 : decode cX4_coins 4 = .ok (.ireturn, 1) := by decide +kernel
abbrev cX4_init : ByteArray := prog_7_method_1_code
def yX4_init : MethodName := ⟨RX4, "<init>", "(I)V"⟩
def dkwX4_init_0 : List UInt8 := [42, 183, 0, 3, 42, 27, 181, 0, 9, 177]
abbrev dktX4_init_0 : List UInt8 := dkwX4_init_0 ++ []
theorem dksX4_init_0 : cX4_init.data.toList.drop 0 = dktX4_init_0 := by decide +kernel
theorem dX4_init_0 : decode cX4_init 0 = .ok (.aload_n 0, 1) := dk_42 (dk_at dksX4_init_0 0 rfl rfl)
theorem dX4_init_1 : decode cX4_init 1 = .ok (.invokespecial 3, 3) := dk_183 0 3 (dk_at dksX4_init_0 1 rfl rfl)
theorem dX4_init_4 : decode cX4_init 4 = .ok (.aload_n 0, 1) := dk_42 (dk_at dksX4_init_0 4 rfl rfl)
theorem dX4_init_5 : decode cX4_init 5 = .ok (.iload_n 1, 1) := dk_27 (dk_at dksX4_init_0 5 rfl rfl)
theorem dX4_init_6 : decode cX4_init 6 = .ok (.putfield 9, 3) := dk_181 0 9 (dk_at dksX4_init_0 6 rfl rfl)
theorem dX4_init_9 : decode cX4_init 9 = .ok (.return_, 1) := dk_177 (dk_at dksX4_init_0 9 rfl rfl)
abbrev cX4_pay : ByteArray := prog_7_method_4_code
def yX4_pay : MethodName := ⟨RX4, "pay", "(I)V"⟩
def dkwX4_pay_1 : List UInt8 := [89, 180, 0, 9, 27, 100, 181, 0, 9, 177]
abbrev dktX4_pay_1 : List UInt8 := dkwX4_pay_1 ++ []
def dkwX4_pay_0 : List UInt8 := [42, 180, 0, 9, 27, 162, 0, 7, 4, 167, 0, 4, 3, 8, 27, 42, 180, 0, 9, 100, 184, 0, 15, 42]
abbrev dktX4_pay_0 : List UInt8 := dkwX4_pay_0 ++ dktX4_pay_1
theorem dksX4_pay_0 : cX4_pay.data.toList.drop 0 = dktX4_pay_0 := by decide +kernel
theorem dksX4_pay_1 : cX4_pay.data.toList.drop 24 = dktX4_pay_1 := dk_seg dksX4_pay_0 24 rfl rfl
theorem dX4_pay_0 : decode cX4_pay 0 = .ok (.aload_n 0, 1) := dk_42 (dk_at dksX4_pay_0 0 rfl rfl)
theorem dX4_pay_1 : decode cX4_pay 1 = .ok (.getfield 9, 3) := dk_180 0 9 (dk_at dksX4_pay_0 1 rfl rfl)
theorem dX4_pay_4 : decode cX4_pay 4 = .ok (.iload_n 1, 1) := dk_27 (dk_at dksX4_pay_0 4 rfl rfl)
theorem dX4_pay_5 : decode cX4_pay 5 = .ok (.if_icmp .ge 7, 3) := dk_162 0 7 (dk_at dksX4_pay_0 5 rfl rfl)
theorem dX4_pay_8 : decode cX4_pay 8 = .ok (.iconst 1, 1) := dk_4 (dk_at dksX4_pay_0 8 rfl rfl)
theorem dX4_pay_9 : decode cX4_pay 9 = .ok (.goto 4, 3) := dk_167 0 4 (dk_at dksX4_pay_0 9 rfl rfl)
theorem dX4_pay_12 : decode cX4_pay 12 = .ok (.iconst 0, 1) := dk_3 (dk_at dksX4_pay_0 12 rfl rfl)
theorem dX4_pay_13 : decode cX4_pay 13 = .ok (.iconst 5, 1) := dk_8 (dk_at dksX4_pay_0 13 rfl rfl)
theorem dX4_pay_14 : decode cX4_pay 14 = .ok (.iload_n 1, 1) := dk_27 (dk_at dksX4_pay_0 14 rfl rfl)
theorem dX4_pay_15 : decode cX4_pay 15 = .ok (.aload_n 0, 1) := dk_42 (dk_at dksX4_pay_0 15 rfl rfl)
theorem dX4_pay_16 : decode cX4_pay 16 = .ok (.getfield 9, 3) := dk_180 0 9 (dk_at dksX4_pay_0 16 rfl rfl)
theorem dX4_pay_19 : decode cX4_pay 19 = .ok (.isub, 1) := dk_100 (dk_at dksX4_pay_0 19 rfl rfl)
theorem dX4_pay_20 : decode cX4_pay 20 = .ok (.invokestatic 15, 3) := dk_184 0 15 (dk_at dksX4_pay_0 20 rfl rfl)
theorem dX4_pay_23 : decode cX4_pay 23 = .ok (.aload_n 0, 1) := dk_42 (dk_at dksX4_pay_0 23 rfl rfl)
theorem dX4_pay_24 : decode cX4_pay 24 = .ok (.dup, 1) := dk_89 (dk_at dksX4_pay_1 0 rfl rfl)
theorem dX4_pay_25 : decode cX4_pay 25 = .ok (.getfield 9, 3) := dk_180 0 9 (dk_at dksX4_pay_1 1 rfl rfl)
theorem dX4_pay_28 : decode cX4_pay 28 = .ok (.iload_n 1, 1) := dk_27 (dk_at dksX4_pay_1 4 rfl rfl)
theorem dX4_pay_29 : decode cX4_pay 29 = .ok (.isub, 1) := dk_100 (dk_at dksX4_pay_1 5 rfl rfl)
theorem dX4_pay_30 : decode cX4_pay 30 = .ok (.putfield 9, 3) := dk_181 0 9 (dk_at dksX4_pay_1 6 rfl rfl)
theorem dX4_pay_33 : decode cX4_pay 33 = .ok (.return_, 1) := dk_177 (dk_at dksX4_pay_1 9 rfl rfl)
abbrev cX4_get : ByteArray := prog_7_method_3_code
def yX4_get : MethodName := ⟨RX4, "get", "(I)V"⟩
def dkwX4_get_0 : List UInt8 := [42, 89, 180, 0, 9, 27, 96, 181, 0, 9, 177]
abbrev dktX4_get_0 : List UInt8 := dkwX4_get_0 ++ []
theorem dksX4_get_0 : cX4_get.data.toList.drop 0 = dktX4_get_0 := by decide +kernel
theorem dX4_get_0 : decode cX4_get 0 = .ok (.aload_n 0, 1) := dk_42 (dk_at dksX4_get_0 0 rfl rfl)
theorem dX4_get_1 : decode cX4_get 1 = .ok (.dup, 1) := dk_89 (dk_at dksX4_get_0 1 rfl rfl)
theorem dX4_get_2 : decode cX4_get 2 = .ok (.getfield 9, 3) := dk_180 0 9 (dk_at dksX4_get_0 2 rfl rfl)
theorem dX4_get_5 : decode cX4_get 5 = .ok (.iload_n 1, 1) := dk_27 (dk_at dksX4_get_0 5 rfl rfl)
theorem dX4_get_6 : decode cX4_get 6 = .ok (.iadd, 1) := dk_96 (dk_at dksX4_get_0 6 rfl rfl)
theorem dX4_get_7 : decode cX4_get 7 = .ok (.putfield 9, 3) := dk_181 0 9 (dk_at dksX4_get_0 7 rfl rfl)
theorem dX4_get_10 : decode cX4_get 10 = .ok (.return_, 1) := dk_177 (dk_at dksX4_get_0 10 rfl rfl)
abbrev cX4_payUpTo : ByteArray := prog_7_method_5_code
def yX4_payUpTo : MethodName := ⟨RX4, "payUpTo", "(I)I"⟩
def dkwX4_payUpTo_0 : List UInt8 := [42, 180, 0, 9, 27, 184, 0, 19, 61, 42, 89, 180, 0, 9, 28, 100, 181, 0, 9, 28, 172]
abbrev dktX4_payUpTo_0 : List UInt8 := dkwX4_payUpTo_0 ++ []
theorem dksX4_payUpTo_0 : cX4_payUpTo.data.toList.drop 0 = dktX4_payUpTo_0 := by decide +kernel
theorem dX4_payUpTo_0 : decode cX4_payUpTo 0 = .ok (.aload_n 0, 1) := dk_42 (dk_at dksX4_payUpTo_0 0 rfl rfl)
theorem dX4_payUpTo_1 : decode cX4_payUpTo 1 = .ok (.getfield 9, 3) := dk_180 0 9 (dk_at dksX4_payUpTo_0 1 rfl rfl)
theorem dX4_payUpTo_4 : decode cX4_payUpTo 4 = .ok (.iload_n 1, 1) := dk_27 (dk_at dksX4_payUpTo_0 4 rfl rfl)
theorem dX4_payUpTo_5 : decode cX4_payUpTo 5 = .ok (.invokestatic 19, 3) := dk_184 0 19 (dk_at dksX4_payUpTo_0 5 rfl rfl)
theorem dX4_payUpTo_8 : decode cX4_payUpTo 8 = .ok (.istore_n 2, 1) := dk_61 (dk_at dksX4_payUpTo_0 8 rfl rfl)
theorem dX4_payUpTo_9 : decode cX4_payUpTo 9 = .ok (.aload_n 0, 1) := dk_42 (dk_at dksX4_payUpTo_0 9 rfl rfl)
theorem dX4_payUpTo_10 : decode cX4_payUpTo 10 = .ok (.dup, 1) := dk_89 (dk_at dksX4_payUpTo_0 10 rfl rfl)
theorem dX4_payUpTo_11 : decode cX4_payUpTo 11 = .ok (.getfield 9, 3) := dk_180 0 9 (dk_at dksX4_payUpTo_0 11 rfl rfl)
theorem dX4_payUpTo_14 : decode cX4_payUpTo 14 = .ok (.iload_n 2, 1) := dk_28 (dk_at dksX4_payUpTo_0 14 rfl rfl)
theorem dX4_payUpTo_15 : decode cX4_payUpTo 15 = .ok (.isub, 1) := dk_100 (dk_at dksX4_payUpTo_0 15 rfl rfl)
theorem dX4_payUpTo_16 : decode cX4_payUpTo 16 = .ok (.putfield 9, 3) := dk_181 0 9 (dk_at dksX4_payUpTo_0 16 rfl rfl)
theorem dX4_payUpTo_19 : decode cX4_payUpTo 19 = .ok (.iload_n 2, 1) := dk_28 (dk_at dksX4_payUpTo_0 19 rfl rfl)
theorem dX4_payUpTo_20 : decode cX4_payUpTo 20 = .ok (.ireturn, 1) := dk_172 (dk_at dksX4_payUpTo_0 20 rfl rfl)
theorem q87 : (Jvm.Cond.initialized "MazeBonds$Somebody") ∈ lw_all := lw_g (lw_at lw_m1 16 rfl) rfl
theorem q391 : (Jvm.Cond.declares ({ cls := "MazeBonds$Somebody", name := "coins", desc := "()I" } : Jvm.MethodName)) ∈ lw_tbl := lw_at lw_m2 80 rfl
theorem q393 : (Jvm.Cond.instanceMethod ({ cls := "MazeBonds$Somebody", name := "coins", desc := "()I" } : Jvm.MethodName)) ∈ lw_all := lw_g (lw_at lw_m2 82 rfl) rfl
theorem q394 : (Jvm.Cond.code ({ cls := "MazeBonds$Somebody", name := "coins", desc := "()I" } : Jvm.MethodName) prog_7_method_2_code (1 : Nat) (Option.some Jvm.ClassFile.FieldType.int)) ∈ lw_all := lw_g (lw_at lw_m2 83 rfl) rfl
theorem q399 : (Jvm.Cond.instanceMethod ({ cls := "MazeBonds$Somebody", name := "<init>", desc := "(I)V" } : Jvm.MethodName)) ∈ lw_all := lw_g (lw_at lw_m2 88 rfl) rfl
theorem q400 : (Jvm.Cond.code ({ cls := "MazeBonds$Somebody", name := "<init>", desc := "(I)V" } : Jvm.MethodName) prog_7_method_1_code (2 : Nat) (Option.none : Option Jvm.ClassFile.FieldType)) ∈ lw_all := lw_g (lw_at lw_m2 89 rfl) rfl
theorem q401 : (Jvm.Cond.methodLink "MazeBonds$Somebody" (3 : Nat) ({ cls := "java/lang/Object", name := "<init>", desc := "()V" } : Jvm.MethodName)) ∈ lw_all := lw_g (lw_at lw_m2 90 rfl) rfl
theorem q411 : (Jvm.Cond.fieldLink "MazeBonds$Somebody" (9 : Nat) "MazeBonds$Somebody" "coins" "I") ∈ lw_all := lw_g (lw_at lw_m2 100 rfl) rfl
theorem q419 : (Jvm.Cond.soleField "MazeBonds$Somebody" "coins") ∈ lw_all := lw_g (lw_at lw_m2 108 rfl) rfl
theorem q733 : (Jvm.Cond.declares ({ cls := "MazeBonds$Somebody", name := "pay", desc := "(I)V" } : Jvm.MethodName)) ∈ lw_tbl := lw_at lw_m3 182 rfl
theorem q735 : (Jvm.Cond.instanceMethod ({ cls := "MazeBonds$Somebody", name := "pay", desc := "(I)V" } : Jvm.MethodName)) ∈ lw_all := lw_g (lw_at lw_m3 184 rfl) rfl
theorem q736 : (Jvm.Cond.code ({ cls := "MazeBonds$Somebody", name := "pay", desc := "(I)V" } : Jvm.MethodName) prog_7_method_4_code (2 : Nat) (Option.none : Option Jvm.ClassFile.FieldType)) ∈ lw_all := lw_g (lw_at lw_m3 185 rfl) rfl
theorem q737 : (Jvm.Cond.methodLinkNest "MazeBonds$Somebody" (15 : Nat) ({ cls := "MazeBonds", name := "refuse", desc := "(ZII)V" } : Jvm.MethodName) "MazeBonds") ∈ lw_tbl := lw_at lw_m3 186 rfl
theorem q822 : (Jvm.Cond.declares ({ cls := "MazeBonds$Somebody", name := "get", desc := "(I)V" } : Jvm.MethodName)) ∈ lw_tbl := lw_at lw_m4 31 rfl
theorem q824 : (Jvm.Cond.instanceMethod ({ cls := "MazeBonds$Somebody", name := "get", desc := "(I)V" } : Jvm.MethodName)) ∈ lw_all := lw_g (lw_at lw_m4 33 rfl) rfl
theorem q825 : (Jvm.Cond.code ({ cls := "MazeBonds$Somebody", name := "get", desc := "(I)V" } : Jvm.MethodName) prog_7_method_3_code (2 : Nat) (Option.none : Option Jvm.ClassFile.FieldType)) ∈ lw_all := lw_g (lw_at lw_m4 34 rfl) rfl
theorem q853 : (Jvm.Cond.declares ({ cls := "MazeBonds$Somebody", name := "payUpTo", desc := "(I)I" } : Jvm.MethodName)) ∈ lw_tbl := lw_at lw_m4 62 rfl
theorem q855 : (Jvm.Cond.instanceMethod ({ cls := "MazeBonds$Somebody", name := "payUpTo", desc := "(I)I" } : Jvm.MethodName)) ∈ lw_all := lw_g (lw_at lw_m4 64 rfl) rfl
theorem q856 : (Jvm.Cond.code ({ cls := "MazeBonds$Somebody", name := "payUpTo", desc := "(I)I" } : Jvm.MethodName) prog_7_method_5_code (3 : Nat) (Option.some Jvm.ClassFile.FieldType.int)) ∈ lw_all := lw_g (lw_at lw_m4 65 rfl) rfl
theorem q857 : (Jvm.Cond.methodLink "MazeBonds$Somebody" (19 : Nat) ({ cls := "java/lang/Math", name := "min", desc := "(II)I" } : Jvm.MethodName)) ∈ lw_all := lw_g (lw_at lw_m4 66 rfl) rfl
/-! MazeBonds$Gardener -/
set_option maxRecDepth 100000
def RX5 : String := "MazeBonds$Gardener"
def TX5 : u_T := fun k => match k with
  | 0 => ("MazeBonds$Somebody", "coins", "I", false)
  | 1 => ("MazeBonds$Gardener", "premiums", "I", false)
  | 2 => ("MazeBonds$Gardener", "paid", "I", false)
  | _ => ("MazeBonds$Gardener", "trimmed", "I", false)
def tyX5 : Nat → FieldType := fun k => match k with
  | 0 => .int
  | 1 => .int
  | 2 => .int
  | _ => .int
abbrev wsX50 : List Cond := u_ws RX5 TX5 4
theorem nmX5 : ∀ a, a < 4 → ∀ b, b < 4 → a ≠ b → (TX5 a).2.1 ≠ (TX5 b).2.1 := by decide +kernel
theorem tyX5_ok : ∀ k, k < 4 → parseFieldDescriptor (TX5 k).2.2.1 = some (tyX5 k) := by decide +kernel
abbrev cX5_copy : ByteArray := prog_4_method_2_code
def yX5_copy : MethodName := ⟨RX5, "copy", "()LMazeBonds$Gardener;"⟩
def dkwX5_copy_1 : List UInt8 := [180, 0, 18, 181, 0, 18, 43, 42, 180, 0, 21, 181, 0, 21, 43, 176]
abbrev dktX5_copy_1 : List UInt8 := dkwX5_copy_1 ++ []
def dkwX5_copy_0 : List UInt8 := [187, 0, 7, 89, 42, 182, 0, 9, 183, 0, 13, 76, 43, 42, 180, 0, 14, 181, 0, 14, 43, 42]
abbrev dktX5_copy_0 : List UInt8 := dkwX5_copy_0 ++ dktX5_copy_1
theorem dksX5_copy_0 : cX5_copy.data.toList.drop 0 = dktX5_copy_0 := by decide +kernel
theorem dksX5_copy_1 : cX5_copy.data.toList.drop 22 = dktX5_copy_1 := dk_seg dksX5_copy_0 22 rfl rfl
theorem dX5_copy_0 : decode cX5_copy 0 = .ok (.new 7, 3) := dk_187 0 7 (dk_at dksX5_copy_0 0 rfl rfl)
theorem dX5_copy_3 : decode cX5_copy 3 = .ok (.dup, 1) := dk_89 (dk_at dksX5_copy_0 3 rfl rfl)
theorem dX5_copy_4 : decode cX5_copy 4 = .ok (.aload_n 0, 1) := dk_42 (dk_at dksX5_copy_0 4 rfl rfl)
theorem dX5_copy_5 : decode cX5_copy 5 = .ok (.invokevirtual 9, 3) := dk_182 0 9 (dk_at dksX5_copy_0 5 rfl rfl)
theorem dX5_copy_8 : decode cX5_copy 8 = .ok (.invokespecial 13, 3) := dk_183 0 13 (dk_at dksX5_copy_0 8 rfl rfl)
theorem dX5_copy_11 : decode cX5_copy 11 = .ok (.astore_n 1, 1) := dk_76 (dk_at dksX5_copy_0 11 rfl rfl)
theorem dX5_copy_12 : decode cX5_copy 12 = .ok (.aload_n 1, 1) := dk_43 (dk_at dksX5_copy_0 12 rfl rfl)
theorem dX5_copy_13 : decode cX5_copy 13 = .ok (.aload_n 0, 1) := dk_42 (dk_at dksX5_copy_0 13 rfl rfl)
theorem dX5_copy_14 : decode cX5_copy 14 = .ok (.getfield 14, 3) := dk_180 0 14 (dk_at dksX5_copy_0 14 rfl rfl)
theorem dX5_copy_17 : decode cX5_copy 17 = .ok (.putfield 14, 3) := dk_181 0 14 (dk_at dksX5_copy_0 17 rfl rfl)
theorem dX5_copy_20 : decode cX5_copy 20 = .ok (.aload_n 1, 1) := dk_43 (dk_at dksX5_copy_0 20 rfl rfl)
theorem dX5_copy_21 : decode cX5_copy 21 = .ok (.aload_n 0, 1) := dk_42 (dk_at dksX5_copy_0 21 rfl rfl)
theorem dX5_copy_22 : decode cX5_copy 22 = .ok (.getfield 18, 3) := dk_180 0 18 (dk_at dksX5_copy_1 0 rfl rfl)
theorem dX5_copy_25 : decode cX5_copy 25 = .ok (.putfield 18, 3) := dk_181 0 18 (dk_at dksX5_copy_1 3 rfl rfl)
theorem dX5_copy_28 : decode cX5_copy 28 = .ok (.aload_n 1, 1) := dk_43 (dk_at dksX5_copy_1 6 rfl rfl)
theorem dX5_copy_29 : decode cX5_copy 29 = .ok (.aload_n 0, 1) := dk_42 (dk_at dksX5_copy_1 7 rfl rfl)
theorem dX5_copy_30 : decode cX5_copy 30 = .ok (.getfield 21, 3) := dk_180 0 21 (dk_at dksX5_copy_1 8 rfl rfl)
theorem dX5_copy_33 : decode cX5_copy 33 = .ok (.putfield 21, 3) := dk_181 0 21 (dk_at dksX5_copy_1 11 rfl rfl)
theorem dX5_copy_36 : decode cX5_copy 36 = .ok (.aload_n 1, 1) := dk_43 (dk_at dksX5_copy_1 14 rfl rfl)
theorem dX5_copy_37 : decode cX5_copy 37 = .ok (.areturn, 1) := dk_176 (dk_at dksX5_copy_1 15 rfl rfl)
abbrev cX5_init : ByteArray := prog_4_method_1_code
def yX5_init : MethodName := ⟨RX5, "<init>", "(I)V"⟩
def dkwX5_init_0 : List UInt8 := [42, 27, 183, 0, 1, 177]
abbrev dktX5_init_0 : List UInt8 := dkwX5_init_0 ++ []
theorem dksX5_init_0 : cX5_init.data.toList.drop 0 = dktX5_init_0 := by decide +kernel
theorem dX5_init_0 : decode cX5_init 0 = .ok (.aload_n 0, 1) := dk_42 (dk_at dksX5_init_0 0 rfl rfl)
theorem dX5_init_1 : decode cX5_init 1 = .ok (.iload_n 1, 1) := dk_27 (dk_at dksX5_init_0 1 rfl rfl)
theorem dX5_init_2 : decode cX5_init 2 = .ok (.invokespecial 1, 3) := dk_183 0 1 (dk_at dksX5_init_0 2 rfl rfl)
theorem dX5_init_5 : decode cX5_init 5 = .ok (.return_, 1) := dk_177 (dk_at dksX5_init_0 5 rfl rfl)
theorem q88 : (Jvm.Cond.initialized "MazeBonds$Gardener") ∈ lw_all := lw_g (lw_at lw_m1 17 rfl) rfl
theorem q384 : (Jvm.Cond.instanceMethod ({ cls := "MazeBonds$Gardener", name := "copy", desc := "()LMazeBonds$Gardener;" } : Jvm.MethodName)) ∈ lw_all := lw_g (lw_at lw_m2 73 rfl) rfl
theorem q385 : (Jvm.Cond.selects "MazeBonds$Gardener" ({ cls := "MazeBonds$Gardener", name := "copy", desc := "()LMazeBonds$Gardener;" } : Jvm.MethodName) ({ cls := "MazeBonds$Gardener", name := "copy", desc := "()LMazeBonds$Gardener;" } : Jvm.MethodName)) ∈ lw_all := lw_g (lw_at lw_m2 74 rfl) rfl
theorem q386 : (Jvm.Cond.code ({ cls := "MazeBonds$Gardener", name := "copy", desc := "()LMazeBonds$Gardener;" } : Jvm.MethodName) prog_4_method_2_code (2 : Nat) (Option.some (Jvm.ClassFile.FieldType.object "MazeBonds$Gardener"))) ∈ lw_all := lw_g (lw_at lw_m2 75 rfl) rfl
theorem q387 : (Jvm.Cond.classLink "MazeBonds$Gardener" (7 : Nat) "MazeBonds$Gardener") ∈ lw_all := lw_g (lw_at lw_m2 76 rfl) rfl
theorem q388 : (Jvm.Cond.instantiable "MazeBonds$Gardener" (4 : Nat)) ∈ lw_all := lw_g (lw_at lw_m2 77 rfl) rfl
theorem q389 : (Jvm.Cond.methodLink "MazeBonds$Gardener" (9 : Nat) ({ cls := "MazeBonds$Gardener", name := "coins", desc := "()I" } : Jvm.MethodName)) ∈ lw_all := lw_g (lw_at lw_m2 78 rfl) rfl
theorem q390 : (Jvm.Cond.sameMethod "MazeBonds$Gardener" "MazeBonds$Somebody" "coins" "()I") ∈ lw_all := lw_g (lw_at lw_m2 79 rfl) rfl
theorem q392 : (Jvm.Cond.selects "MazeBonds$Gardener" ({ cls := "MazeBonds$Gardener", name := "coins", desc := "()I" } : Jvm.MethodName) ({ cls := "MazeBonds$Somebody", name := "coins", desc := "()I" } : Jvm.MethodName)) ∈ lw_all := lw_g (lw_at lw_m2 81 rfl) rfl
theorem q395 : (Jvm.Cond.methodLink "MazeBonds$Gardener" (13 : Nat) ({ cls := "MazeBonds$Gardener", name := "<init>", desc := "(I)V" } : Jvm.MethodName)) ∈ lw_all := lw_g (lw_at lw_m2 84 rfl) rfl
theorem q396 : (Jvm.Cond.instanceMethod ({ cls := "MazeBonds$Gardener", name := "<init>", desc := "(I)V" } : Jvm.MethodName)) ∈ lw_all := lw_g (lw_at lw_m2 85 rfl) rfl
theorem q397 : (Jvm.Cond.code ({ cls := "MazeBonds$Gardener", name := "<init>", desc := "(I)V" } : Jvm.MethodName) prog_4_method_1_code (2 : Nat) (Option.none : Option Jvm.ClassFile.FieldType)) ∈ lw_all := lw_g (lw_at lw_m2 86 rfl) rfl
theorem q398 : (Jvm.Cond.methodLink "MazeBonds$Gardener" (1 : Nat) ({ cls := "MazeBonds$Somebody", name := "<init>", desc := "(I)V" } : Jvm.MethodName)) ∈ lw_all := lw_g (lw_at lw_m2 87 rfl) rfl
theorem q402 : (Jvm.Cond.fieldLink "MazeBonds$Gardener" (14 : Nat) "MazeBonds$Gardener" "premiums" "I") ∈ lw_all := lw_g (lw_at lw_m2 91 rfl) rfl
theorem q405 : (Jvm.Cond.fieldLink "MazeBonds$Gardener" (18 : Nat) "MazeBonds$Gardener" "paid" "I") ∈ lw_all := lw_g (lw_at lw_m2 94 rfl) rfl
theorem q408 : (Jvm.Cond.fieldLink "MazeBonds$Gardener" (21 : Nat) "MazeBonds$Gardener" "trimmed" "I") ∈ lw_all := lw_g (lw_at lw_m2 97 rfl) rfl
theorem q412 : (Jvm.Cond.lays "MazeBonds$Gardener" "MazeBonds$Gardener" "premiums" "I") ∈ lw_all := lw_g (lw_at lw_m2 101 rfl) rfl
theorem q413 : (Jvm.Cond.soleField "MazeBonds$Gardener" "premiums") ∈ lw_all := lw_g (lw_at lw_m2 102 rfl) rfl
theorem q414 : (Jvm.Cond.lays "MazeBonds$Gardener" "MazeBonds$Gardener" "paid" "I") ∈ lw_all := lw_g (lw_at lw_m2 103 rfl) rfl
theorem q415 : (Jvm.Cond.soleField "MazeBonds$Gardener" "paid") ∈ lw_all := lw_g (lw_at lw_m2 104 rfl) rfl
theorem q416 : (Jvm.Cond.lays "MazeBonds$Gardener" "MazeBonds$Gardener" "trimmed" "I") ∈ lw_all := lw_g (lw_at lw_m2 105 rfl) rfl
theorem q417 : (Jvm.Cond.soleField "MazeBonds$Gardener" "trimmed") ∈ lw_all := lw_g (lw_at lw_m2 106 rfl) rfl
theorem q418 : (Jvm.Cond.lays "MazeBonds$Gardener" "MazeBonds$Somebody" "coins" "I") ∈ lw_all := lw_g (lw_at lw_m2 107 rfl) rfl
theorem q420 : (Jvm.Cond.superclass "MazeBonds$Gardener" "MazeBonds$Somebody") ∈ lw_all := lw_g (lw_at lw_m2 109 rfl) rfl
theorem q456 : (Jvm.Cond.selects "MazeBonds$Gardener" ({ cls := "java/lang/Object", name := "getClass", desc := "()Ljava/lang/Class;" } : Jvm.MethodName) ({ cls := "java/lang/Object", name := "getClass", desc := "()Ljava/lang/Class;" } : Jvm.MethodName)) ∈ lw_all := lw_g (lw_at lw_m2 145 rfl) rfl
theorem q732 : (Jvm.Cond.sameMethod "MazeBonds$Gardener" "MazeBonds$Somebody" "pay" "(I)V") ∈ lw_all := lw_g (lw_at lw_m3 181 rfl) rfl
theorem q734 : (Jvm.Cond.selects "MazeBonds$Gardener" ({ cls := "MazeBonds$Gardener", name := "pay", desc := "(I)V" } : Jvm.MethodName) ({ cls := "MazeBonds$Somebody", name := "pay", desc := "(I)V" } : Jvm.MethodName)) ∈ lw_all := lw_g (lw_at lw_m3 183 rfl) rfl
theorem q821 : (Jvm.Cond.sameMethod "MazeBonds$Gardener" "MazeBonds$Somebody" "get" "(I)V") ∈ lw_all := lw_g (lw_at lw_m4 30 rfl) rfl
theorem q823 : (Jvm.Cond.selects "MazeBonds$Gardener" ({ cls := "MazeBonds$Gardener", name := "get", desc := "(I)V" } : Jvm.MethodName) ({ cls := "MazeBonds$Somebody", name := "get", desc := "(I)V" } : Jvm.MethodName)) ∈ lw_all := lw_g (lw_at lw_m4 32 rfl) rfl
theorem q852 : (Jvm.Cond.sameMethod "MazeBonds$Gardener" "MazeBonds$Somebody" "payUpTo" "(I)I") ∈ lw_all := lw_g (lw_at lw_m4 61 rfl) rfl
theorem q854 : (Jvm.Cond.selects "MazeBonds$Gardener" ({ cls := "MazeBonds$Gardener", name := "payUpTo", desc := "(I)I" } : Jvm.MethodName) ({ cls := "MazeBonds$Somebody", name := "payUpTo", desc := "(I)I" } : Jvm.MethodName)) ∈ lw_all := lw_g (lw_at lw_m4 63 rfl) rfl
theorem q2158 : (Jvm.Cond.castable "MazeBonds$Gardener" "java/lang/Object") ∈ lw_tbl := lw_at lw_m9 167 rfl
theorem in_X5 : ∀ w ∈ wsX50, w ∈ lw_all := lw_in wsX50 [418, 412, 414, 416] (by decide +kernel) (by decide +kernel)
/-! MazeBonds$Visitor -/
set_option maxRecDepth 100000
def RX6 : String := "MazeBonds$Visitor"
def TX6 : u_T := fun k => match k with
  | 0 => ("MazeBonds$Somebody", "coins", "I", false)
  | 1 => ("MazeBonds$Visitor", "allowance", "I", true)
  | 2 => ("MazeBonds$Visitor", "cell", "I", false)
  | 3 => ("MazeBonds$Visitor", "hours", "I", false)
  | 4 => ("MazeBonds$Visitor", "gardener", "I", false)
  | 5 => ("MazeBonds$Visitor", "rate", "I", false)
  | _ => ("MazeBonds$Visitor", "isVoid", "Z", false)
def tyX6 : Nat → FieldType := fun k => match k with
  | 0 => .int
  | 1 => .int
  | 2 => .int
  | 3 => .int
  | 4 => .int
  | 5 => .int
  | _ => .boolean
abbrev wsX60 : List Cond := u_ws RX6 TX6 7
theorem nmX6 : ∀ a, a < 7 → ∀ b, b < 7 → a ≠ b → (TX6 a).2.1 ≠ (TX6 b).2.1 := by decide +kernel
theorem tyX6_ok : ∀ k, k < 7 → parseFieldDescriptor (TX6 k).2.2.1 = some (tyX6 k) := by decide +kernel
abbrev cX6_copy : ByteArray := prog_8_method_2_code
def yX6_copy : MethodName := ⟨RX6, "copy", "()LMazeBonds$Visitor;"⟩
def dkwX6_copy_2 : List UInt8 := [43, 42, 180, 0, 34, 181, 0, 34, 43, 176]
abbrev dktX6_copy_2 : List UInt8 := dkwX6_copy_2 ++ []
def dkwX6_copy_1 : List UInt8 := [43, 42, 180, 0, 28, 181, 0, 28, 43, 42, 180, 0, 15, 181, 0, 15, 43, 42, 180, 0, 31, 181, 0, 31]
abbrev dktX6_copy_1 : List UInt8 := dkwX6_copy_1 ++ dktX6_copy_2
def dkwX6_copy_0 : List UInt8 := [187, 0, 10, 89, 42, 182, 0, 21, 42, 180, 0, 18, 183, 0, 25, 76, 43, 42, 180, 0, 9, 181, 0, 9]
abbrev dktX6_copy_0 : List UInt8 := dkwX6_copy_0 ++ dktX6_copy_1
theorem dksX6_copy_0 : cX6_copy.data.toList.drop 0 = dktX6_copy_0 := by decide +kernel
theorem dksX6_copy_1 : cX6_copy.data.toList.drop 24 = dktX6_copy_1 := dk_seg dksX6_copy_0 24 rfl rfl
theorem dksX6_copy_2 : cX6_copy.data.toList.drop 48 = dktX6_copy_2 := dk_seg dksX6_copy_1 24 rfl rfl
theorem dX6_copy_0 : decode cX6_copy 0 = .ok (.new 10, 3) := dk_187 0 10 (dk_at dksX6_copy_0 0 rfl rfl)
theorem dX6_copy_3 : decode cX6_copy 3 = .ok (.dup, 1) := dk_89 (dk_at dksX6_copy_0 3 rfl rfl)
theorem dX6_copy_4 : decode cX6_copy 4 = .ok (.aload_n 0, 1) := dk_42 (dk_at dksX6_copy_0 4 rfl rfl)
theorem dX6_copy_5 : decode cX6_copy 5 = .ok (.invokevirtual 21, 3) := dk_182 0 21 (dk_at dksX6_copy_0 5 rfl rfl)
theorem dX6_copy_8 : decode cX6_copy 8 = .ok (.aload_n 0, 1) := dk_42 (dk_at dksX6_copy_0 8 rfl rfl)
theorem dX6_copy_9 : decode cX6_copy 9 = .ok (.getfield 18, 3) := dk_180 0 18 (dk_at dksX6_copy_0 9 rfl rfl)
theorem dX6_copy_12 : decode cX6_copy 12 = .ok (.invokespecial 25, 3) := dk_183 0 25 (dk_at dksX6_copy_0 12 rfl rfl)
theorem dX6_copy_15 : decode cX6_copy 15 = .ok (.astore_n 1, 1) := dk_76 (dk_at dksX6_copy_0 15 rfl rfl)
theorem dX6_copy_16 : decode cX6_copy 16 = .ok (.aload_n 1, 1) := dk_43 (dk_at dksX6_copy_0 16 rfl rfl)
theorem dX6_copy_17 : decode cX6_copy 17 = .ok (.aload_n 0, 1) := dk_42 (dk_at dksX6_copy_0 17 rfl rfl)
theorem dX6_copy_18 : decode cX6_copy 18 = .ok (.getfield 9, 3) := dk_180 0 9 (dk_at dksX6_copy_0 18 rfl rfl)
theorem dX6_copy_21 : decode cX6_copy 21 = .ok (.putfield 9, 3) := dk_181 0 9 (dk_at dksX6_copy_0 21 rfl rfl)
theorem dX6_copy_24 : decode cX6_copy 24 = .ok (.aload_n 1, 1) := dk_43 (dk_at dksX6_copy_1 0 rfl rfl)
theorem dX6_copy_25 : decode cX6_copy 25 = .ok (.aload_n 0, 1) := dk_42 (dk_at dksX6_copy_1 1 rfl rfl)
theorem dX6_copy_26 : decode cX6_copy 26 = .ok (.getfield 28, 3) := dk_180 0 28 (dk_at dksX6_copy_1 2 rfl rfl)
theorem dX6_copy_29 : decode cX6_copy 29 = .ok (.putfield 28, 3) := dk_181 0 28 (dk_at dksX6_copy_1 5 rfl rfl)
theorem dX6_copy_32 : decode cX6_copy 32 = .ok (.aload_n 1, 1) := dk_43 (dk_at dksX6_copy_1 8 rfl rfl)
theorem dX6_copy_33 : decode cX6_copy 33 = .ok (.aload_n 0, 1) := dk_42 (dk_at dksX6_copy_1 9 rfl rfl)
theorem dX6_copy_34 : decode cX6_copy 34 = .ok (.getfield 15, 3) := dk_180 0 15 (dk_at dksX6_copy_1 10 rfl rfl)
theorem dX6_copy_37 : decode cX6_copy 37 = .ok (.putfield 15, 3) := dk_181 0 15 (dk_at dksX6_copy_1 13 rfl rfl)
theorem dX6_copy_40 : decode cX6_copy 40 = .ok (.aload_n 1, 1) := dk_43 (dk_at dksX6_copy_1 16 rfl rfl)
theorem dX6_copy_41 : decode cX6_copy 41 = .ok (.aload_n 0, 1) := dk_42 (dk_at dksX6_copy_1 17 rfl rfl)
theorem dX6_copy_42 : decode cX6_copy 42 = .ok (.getfield 31, 3) := dk_180 0 31 (dk_at dksX6_copy_1 18 rfl rfl)
theorem dX6_copy_45 : decode cX6_copy 45 = .ok (.putfield 31, 3) := dk_181 0 31 (dk_at dksX6_copy_1 21 rfl rfl)
theorem dX6_copy_48 : decode cX6_copy 48 = .ok (.aload_n 1, 1) := dk_43 (dk_at dksX6_copy_2 0 rfl rfl)
theorem dX6_copy_49 : decode cX6_copy 49 = .ok (.aload_n 0, 1) := dk_42 (dk_at dksX6_copy_2 1 rfl rfl)
theorem dX6_copy_50 : decode cX6_copy 50 = .ok (.getfield 34, 3) := dk_180 0 34 (dk_at dksX6_copy_2 2 rfl rfl)
theorem dX6_copy_53 : decode cX6_copy 53 = .ok (.putfield 34, 3) := dk_181 0 34 (dk_at dksX6_copy_2 5 rfl rfl)
theorem dX6_copy_56 : decode cX6_copy 56 = .ok (.aload_n 1, 1) := dk_43 (dk_at dksX6_copy_2 8 rfl rfl)
theorem dX6_copy_57 : decode cX6_copy 57 = .ok (.areturn, 1) := dk_176 (dk_at dksX6_copy_2 9 rfl rfl)
abbrev cX6_init : ByteArray := prog_8_method_1_code
def yX6_init : MethodName := ⟨RX6, "<init>", "(II)V"⟩
def dkwX6_init_0 : List UInt8 := [42, 27, 183, 0, 3, 42, 3, 181, 0, 9, 42, 2, 181, 0, 15, 42, 28, 181, 0, 18, 177]
abbrev dktX6_init_0 : List UInt8 := dkwX6_init_0 ++ []
theorem dksX6_init_0 : cX6_init.data.toList.drop 0 = dktX6_init_0 := by decide +kernel
theorem dX6_init_0 : decode cX6_init 0 = .ok (.aload_n 0, 1) := dk_42 (dk_at dksX6_init_0 0 rfl rfl)
theorem dX6_init_1 : decode cX6_init 1 = .ok (.iload_n 1, 1) := dk_27 (dk_at dksX6_init_0 1 rfl rfl)
theorem dX6_init_2 : decode cX6_init 2 = .ok (.invokespecial 3, 3) := dk_183 0 3 (dk_at dksX6_init_0 2 rfl rfl)
theorem dX6_init_5 : decode cX6_init 5 = .ok (.aload_n 0, 1) := dk_42 (dk_at dksX6_init_0 5 rfl rfl)
theorem dX6_init_6 : decode cX6_init 6 = .ok (.iconst 0, 1) := dk_3 (dk_at dksX6_init_0 6 rfl rfl)
theorem dX6_init_7 : decode cX6_init 7 = .ok (.putfield 9, 3) := dk_181 0 9 (dk_at dksX6_init_0 7 rfl rfl)
theorem dX6_init_10 : decode cX6_init 10 = .ok (.aload_n 0, 1) := dk_42 (dk_at dksX6_init_0 10 rfl rfl)
theorem dX6_init_11 : decode cX6_init 11 = .ok (.iconst (-1), 1) := dk_2 (dk_at dksX6_init_0 11 rfl rfl)
theorem dX6_init_12 : decode cX6_init 12 = .ok (.putfield 15, 3) := dk_181 0 15 (dk_at dksX6_init_0 12 rfl rfl)
theorem dX6_init_15 : decode cX6_init 15 = .ok (.aload_n 0, 1) := dk_42 (dk_at dksX6_init_0 15 rfl rfl)
theorem dX6_init_16 : decode cX6_init 16 = .ok (.iload_n 2, 1) := dk_28 (dk_at dksX6_init_0 16 rfl rfl)
theorem dX6_init_17 : decode cX6_init 17 = .ok (.putfield 18, 3) := dk_181 0 18 (dk_at dksX6_init_0 17 rfl rfl)
theorem dX6_init_20 : decode cX6_init 20 = .ok (.return_, 1) := dk_177 (dk_at dksX6_init_0 20 rfl rfl)
abbrev cX6_isOut : ByteArray := prog_8_method_3_code
def yX6_isOut : MethodName := ⟨RX6, "isOut", "()Z"⟩
def dkwX6_isOut_0 : List UInt8 := [42, 180, 0, 9, 16, 15, 160, 0, 7, 4, 167, 0, 4, 3, 172]
abbrev dktX6_isOut_0 : List UInt8 := dkwX6_isOut_0 ++ []
theorem dksX6_isOut_0 : cX6_isOut.data.toList.drop 0 = dktX6_isOut_0 := by decide +kernel
theorem dX6_isOut_0 : decode cX6_isOut 0 = .ok (.aload_n 0, 1) := dk_42 (dk_at dksX6_isOut_0 0 rfl rfl)
theorem dX6_isOut_1 : decode cX6_isOut 1 = .ok (.getfield 9, 3) := dk_180 0 9 (dk_at dksX6_isOut_0 1 rfl rfl)
theorem dX6_isOut_4 : decode cX6_isOut 4 = .ok (.bipush 15, 2) := dk_16 15 (dk_at dksX6_isOut_0 4 rfl rfl)
theorem dX6_isOut_6 : decode cX6_isOut 6 = .ok (.if_icmp .ne 7, 3) := dk_160 0 7 (dk_at dksX6_isOut_0 6 rfl rfl)
theorem dX6_isOut_9 : decode cX6_isOut 9 = .ok (.iconst 1, 1) := dk_4 (dk_at dksX6_isOut_0 9 rfl rfl)
theorem dX6_isOut_10 : decode cX6_isOut 10 = .ok (.goto 4, 3) := dk_167 0 4 (dk_at dksX6_isOut_0 10 rfl rfl)
theorem dX6_isOut_13 : decode cX6_isOut 13 = .ok (.iconst 0, 1) := dk_3 (dk_at dksX6_isOut_0 13 rfl rfl)
theorem dX6_isOut_14 : decode cX6_isOut 14 = .ok (.ireturn, 1) := dk_172 (dk_at dksX6_isOut_0 14 rfl rfl)
abbrev cX6_meet : ByteArray := prog_8_method_8_code
def yX6_meet : MethodName := ⟨RX6, "meet", "()V"⟩
def dkwX6_meet_0 : List UInt8 := [42, 89, 180, 0, 34, 42, 182, 0, 48, 128, 181, 0, 34, 177]
abbrev dktX6_meet_0 : List UInt8 := dkwX6_meet_0 ++ []
theorem dksX6_meet_0 : cX6_meet.data.toList.drop 0 = dktX6_meet_0 := by decide +kernel
theorem dX6_meet_0 : decode cX6_meet 0 = .ok (.aload_n 0, 1) := dk_42 (dk_at dksX6_meet_0 0 rfl rfl)
theorem dX6_meet_1 : decode cX6_meet 1 = .ok (.dup, 1) := dk_89 (dk_at dksX6_meet_0 1 rfl rfl)
theorem dX6_meet_2 : decode cX6_meet 2 = .ok (.getfield 34, 3) := dk_180 0 34 (dk_at dksX6_meet_0 2 rfl rfl)
theorem dX6_meet_5 : decode cX6_meet 5 = .ok (.aload_n 0, 1) := dk_42 (dk_at dksX6_meet_0 5 rfl rfl)
theorem dX6_meet_6 : decode cX6_meet 6 = .ok (.invokevirtual 48, 3) := dk_182 0 48 (dk_at dksX6_meet_0 6 rfl rfl)
theorem dX6_meet_9 : decode cX6_meet 9 = .ok (.ior, 1) := dk_128 (dk_at dksX6_meet_0 9 rfl rfl)
theorem dX6_meet_10 : decode cX6_meet 10 = .ok (.putfield 34, 3) := dk_181 0 34 (dk_at dksX6_meet_0 10 rfl rfl)
theorem dX6_meet_13 : decode cX6_meet 13 = .ok (.return_, 1) := dk_177 (dk_at dksX6_meet_0 13 rfl rfl)
abbrev cX6_hasBond : ByteArray := prog_8_method_4_code
def yX6_hasBond : MethodName := ⟨RX6, "hasBond", "()Z"⟩
def dkwX6_hasBond_0 : List UInt8 := [42, 180, 0, 15, 2, 159, 0, 7, 4, 167, 0, 4, 3, 172]
abbrev dktX6_hasBond_0 : List UInt8 := dkwX6_hasBond_0 ++ []
theorem dksX6_hasBond_0 : cX6_hasBond.data.toList.drop 0 = dktX6_hasBond_0 := by decide +kernel
theorem dX6_hasBond_0 : decode cX6_hasBond 0 = .ok (.aload_n 0, 1) := dk_42 (dk_at dksX6_hasBond_0 0 rfl rfl)
theorem dX6_hasBond_1 : decode cX6_hasBond 1 = .ok (.getfield 15, 3) := dk_180 0 15 (dk_at dksX6_hasBond_0 1 rfl rfl)
theorem dX6_hasBond_4 : decode cX6_hasBond 4 = .ok (.iconst (-1), 1) := dk_2 (dk_at dksX6_hasBond_0 4 rfl rfl)
theorem dX6_hasBond_5 : decode cX6_hasBond 5 = .ok (.if_icmp .eq 7, 3) := dk_159 0 7 (dk_at dksX6_hasBond_0 5 rfl rfl)
theorem dX6_hasBond_8 : decode cX6_hasBond 8 = .ok (.iconst 1, 1) := dk_4 (dk_at dksX6_hasBond_0 8 rfl rfl)
theorem dX6_hasBond_9 : decode cX6_hasBond 9 = .ok (.goto 4, 3) := dk_167 0 4 (dk_at dksX6_hasBond_0 9 rfl rfl)
theorem dX6_hasBond_12 : decode cX6_hasBond 12 = .ok (.iconst 0, 1) := dk_3 (dk_at dksX6_hasBond_0 12 rfl rfl)
theorem dX6_hasBond_13 : decode cX6_hasBond 13 = .ok (.ireturn, 1) := dk_172 (dk_at dksX6_hasBond_0 13 rfl rfl)
abbrev cX6_dueWith : ByteArray := prog_8_method_7_code
def yX6_dueWith : MethodName := ⟨RX6, "dueWith", "(I)I"⟩
def dkwX6_dueWith_0 : List UInt8 := [42, 180, 0, 34, 153, 0, 7, 3, 167, 0, 13, 42, 180, 0, 31, 42, 27, 182, 0, 44, 104, 172]
abbrev dktX6_dueWith_0 : List UInt8 := dkwX6_dueWith_0 ++ []
theorem dksX6_dueWith_0 : cX6_dueWith.data.toList.drop 0 = dktX6_dueWith_0 := by decide +kernel
theorem dX6_dueWith_0 : decode cX6_dueWith 0 = .ok (.aload_n 0, 1) := dk_42 (dk_at dksX6_dueWith_0 0 rfl rfl)
theorem dX6_dueWith_1 : decode cX6_dueWith 1 = .ok (.getfield 34, 3) := dk_180 0 34 (dk_at dksX6_dueWith_0 1 rfl rfl)
theorem dX6_dueWith_4 : decode cX6_dueWith 4 = .ok (.ifCond .eq 7, 3) := dk_153 0 7 (dk_at dksX6_dueWith_0 4 rfl rfl)
theorem dX6_dueWith_7 : decode cX6_dueWith 7 = .ok (.iconst 0, 1) := dk_3 (dk_at dksX6_dueWith_0 7 rfl rfl)
theorem dX6_dueWith_8 : decode cX6_dueWith 8 = .ok (.goto 13, 3) := dk_167 0 13 (dk_at dksX6_dueWith_0 8 rfl rfl)
theorem dX6_dueWith_11 : decode cX6_dueWith 11 = .ok (.aload_n 0, 1) := dk_42 (dk_at dksX6_dueWith_0 11 rfl rfl)
theorem dX6_dueWith_12 : decode cX6_dueWith 12 = .ok (.getfield 31, 3) := dk_180 0 31 (dk_at dksX6_dueWith_0 12 rfl rfl)
theorem dX6_dueWith_15 : decode cX6_dueWith 15 = .ok (.aload_n 0, 1) := dk_42 (dk_at dksX6_dueWith_0 15 rfl rfl)
theorem dX6_dueWith_16 : decode cX6_dueWith 16 = .ok (.iload_n 1, 1) := dk_27 (dk_at dksX6_dueWith_0 16 rfl rfl)
theorem dX6_dueWith_17 : decode cX6_dueWith 17 = .ok (.invokevirtual 44, 3) := dk_182 0 44 (dk_at dksX6_dueWith_0 17 rfl rfl)
theorem dX6_dueWith_20 : decode cX6_dueWith 20 = .ok (.imul, 1) := dk_104 (dk_at dksX6_dueWith_0 20 rfl rfl)
theorem dX6_dueWith_21 : decode cX6_dueWith 21 = .ok (.ireturn, 1) := dk_172 (dk_at dksX6_dueWith_0 21 rfl rfl)
abbrev cX6_lostWith : ByteArray := prog_8_method_5_code
def yX6_lostWith : MethodName := ⟨RX6, "lostWith", "(I)I"⟩
def dkwX6_lostWith_0 : List UInt8 := [3, 42, 180, 0, 28, 27, 96, 42, 180, 0, 18, 100, 184, 0, 38, 172]
abbrev dktX6_lostWith_0 : List UInt8 := dkwX6_lostWith_0 ++ []
theorem dksX6_lostWith_0 : cX6_lostWith.data.toList.drop 0 = dktX6_lostWith_0 := by decide +kernel
theorem dX6_lostWith_0 : decode cX6_lostWith 0 = .ok (.iconst 0, 1) := dk_3 (dk_at dksX6_lostWith_0 0 rfl rfl)
theorem dX6_lostWith_1 : decode cX6_lostWith 1 = .ok (.aload_n 0, 1) := dk_42 (dk_at dksX6_lostWith_0 1 rfl rfl)
theorem dX6_lostWith_2 : decode cX6_lostWith 2 = .ok (.getfield 28, 3) := dk_180 0 28 (dk_at dksX6_lostWith_0 2 rfl rfl)
theorem dX6_lostWith_5 : decode cX6_lostWith 5 = .ok (.iload_n 1, 1) := dk_27 (dk_at dksX6_lostWith_0 5 rfl rfl)
theorem dX6_lostWith_6 : decode cX6_lostWith 6 = .ok (.iadd, 1) := dk_96 (dk_at dksX6_lostWith_0 6 rfl rfl)
theorem dX6_lostWith_7 : decode cX6_lostWith 7 = .ok (.aload_n 0, 1) := dk_42 (dk_at dksX6_lostWith_0 7 rfl rfl)
theorem dX6_lostWith_8 : decode cX6_lostWith 8 = .ok (.getfield 18, 3) := dk_180 0 18 (dk_at dksX6_lostWith_0 8 rfl rfl)
theorem dX6_lostWith_11 : decode cX6_lostWith 11 = .ok (.isub, 1) := dk_100 (dk_at dksX6_lostWith_0 11 rfl rfl)
theorem dX6_lostWith_12 : decode cX6_lostWith 12 = .ok (.invokestatic 38, 3) := dk_184 0 38 (dk_at dksX6_lostWith_0 12 rfl rfl)
theorem dX6_lostWith_15 : decode cX6_lostWith 15 = .ok (.ireturn, 1) := dk_172 (dk_at dksX6_lostWith_0 15 rfl rfl)
abbrev cX6_endBond : ByteArray := prog_8_method_9_code
def yX6_endBond : MethodName := ⟨RX6, "endBond", "()V"⟩
def dkwX6_endBond_0 : List UInt8 := [42, 2, 181, 0, 15, 42, 3, 181, 0, 31, 42, 3, 181, 0, 34, 177]
abbrev dktX6_endBond_0 : List UInt8 := dkwX6_endBond_0 ++ []
theorem dksX6_endBond_0 : cX6_endBond.data.toList.drop 0 = dktX6_endBond_0 := by decide +kernel
theorem dX6_endBond_0 : decode cX6_endBond 0 = .ok (.aload_n 0, 1) := dk_42 (dk_at dksX6_endBond_0 0 rfl rfl)
theorem dX6_endBond_1 : decode cX6_endBond 1 = .ok (.iconst (-1), 1) := dk_2 (dk_at dksX6_endBond_0 1 rfl rfl)
theorem dX6_endBond_2 : decode cX6_endBond 2 = .ok (.putfield 15, 3) := dk_181 0 15 (dk_at dksX6_endBond_0 2 rfl rfl)
theorem dX6_endBond_5 : decode cX6_endBond 5 = .ok (.aload_n 0, 1) := dk_42 (dk_at dksX6_endBond_0 5 rfl rfl)
theorem dX6_endBond_6 : decode cX6_endBond 6 = .ok (.iconst 0, 1) := dk_3 (dk_at dksX6_endBond_0 6 rfl rfl)
theorem dX6_endBond_7 : decode cX6_endBond 7 = .ok (.putfield 31, 3) := dk_181 0 31 (dk_at dksX6_endBond_0 7 rfl rfl)
theorem dX6_endBond_10 : decode cX6_endBond 10 = .ok (.aload_n 0, 1) := dk_42 (dk_at dksX6_endBond_0 10 rfl rfl)
theorem dX6_endBond_11 : decode cX6_endBond 11 = .ok (.iconst 0, 1) := dk_3 (dk_at dksX6_endBond_0 11 rfl rfl)
theorem dX6_endBond_12 : decode cX6_endBond 12 = .ok (.putfield 34, 3) := dk_181 0 34 (dk_at dksX6_endBond_0 12 rfl rfl)
theorem dX6_endBond_15 : decode cX6_endBond 15 = .ok (.return_, 1) := dk_177 (dk_at dksX6_endBond_0 15 rfl rfl)
abbrev cX6_lost : ByteArray := prog_8_method_6_code
def yX6_lost : MethodName := ⟨RX6, "lost", "()I"⟩
def dkwX6_lost_0 : List UInt8 := [42, 3, 182, 0, 44, 172]
abbrev dktX6_lost_0 : List UInt8 := dkwX6_lost_0 ++ []
theorem dksX6_lost_0 : cX6_lost.data.toList.drop 0 = dktX6_lost_0 := by decide +kernel
theorem dX6_lost_0 : decode cX6_lost 0 = .ok (.aload_n 0, 1) := dk_42 (dk_at dksX6_lost_0 0 rfl rfl)
theorem dX6_lost_1 : decode cX6_lost 1 = .ok (.iconst 0, 1) := dk_3 (dk_at dksX6_lost_0 1 rfl rfl)
theorem dX6_lost_2 : decode cX6_lost 2 = .ok (.invokevirtual 44, 3) := dk_182 0 44 (dk_at dksX6_lost_0 2 rfl rfl)
theorem dX6_lost_5 : decode cX6_lost 5 = .ok (.ireturn, 1) := dk_172 (dk_at dksX6_lost_0 5 rfl rfl)
theorem q93 : (Jvm.Cond.initialized "MazeBonds$Visitor") ∈ lw_all := lw_g (lw_at lw_m1 22 rfl) rfl
theorem q459 : (Jvm.Cond.selects "MazeBonds$Visitor" ({ cls := "java/lang/Object", name := "getClass", desc := "()Ljava/lang/Class;" } : Jvm.MethodName) ({ cls := "java/lang/Object", name := "getClass", desc := "()Ljava/lang/Class;" } : Jvm.MethodName)) ∈ lw_all := lw_g (lw_at lw_m2 148 rfl) rfl
theorem q490 : (Jvm.Cond.instanceMethod ({ cls := "MazeBonds$Visitor", name := "copy", desc := "()LMazeBonds$Visitor;" } : Jvm.MethodName)) ∈ lw_all := lw_g (lw_at lw_m2 179 rfl) rfl
theorem q491 : (Jvm.Cond.selects "MazeBonds$Visitor" ({ cls := "MazeBonds$Visitor", name := "copy", desc := "()LMazeBonds$Visitor;" } : Jvm.MethodName) ({ cls := "MazeBonds$Visitor", name := "copy", desc := "()LMazeBonds$Visitor;" } : Jvm.MethodName)) ∈ lw_all := lw_g (lw_at lw_m2 180 rfl) rfl
theorem q492 : (Jvm.Cond.code ({ cls := "MazeBonds$Visitor", name := "copy", desc := "()LMazeBonds$Visitor;" } : Jvm.MethodName) prog_8_method_2_code (2 : Nat) (Option.some (Jvm.ClassFile.FieldType.object "MazeBonds$Visitor"))) ∈ lw_all := lw_g (lw_at lw_m2 181 rfl) rfl
theorem q493 : (Jvm.Cond.classLink "MazeBonds$Visitor" (10 : Nat) "MazeBonds$Visitor") ∈ lw_all := lw_g (lw_at lw_m2 182 rfl) rfl
theorem q494 : (Jvm.Cond.instantiable "MazeBonds$Visitor" (7 : Nat)) ∈ lw_all := lw_g (lw_at lw_m2 183 rfl) rfl
theorem q495 : (Jvm.Cond.methodLink "MazeBonds$Visitor" (21 : Nat) ({ cls := "MazeBonds$Visitor", name := "coins", desc := "()I" } : Jvm.MethodName)) ∈ lw_all := lw_g (lw_at lw_m2 184 rfl) rfl
theorem q496 : (Jvm.Cond.sameMethod "MazeBonds$Visitor" "MazeBonds$Somebody" "coins" "()I") ∈ lw_all := lw_g (lw_at lw_m2 185 rfl) rfl
theorem q497 : (Jvm.Cond.selects "MazeBonds$Visitor" ({ cls := "MazeBonds$Visitor", name := "coins", desc := "()I" } : Jvm.MethodName) ({ cls := "MazeBonds$Somebody", name := "coins", desc := "()I" } : Jvm.MethodName)) ∈ lw_all := lw_g (lw_at lw_m2 186 rfl) rfl
theorem q498 : (Jvm.Cond.methodLink "MazeBonds$Visitor" (25 : Nat) ({ cls := "MazeBonds$Visitor", name := "<init>", desc := "(II)V" } : Jvm.MethodName)) ∈ lw_all := lw_g (lw_at lw_m2 187 rfl) rfl
theorem q499 : (Jvm.Cond.instanceMethod ({ cls := "MazeBonds$Visitor", name := "<init>", desc := "(II)V" } : Jvm.MethodName)) ∈ lw_all := lw_g (lw_at lw_m2 188 rfl) rfl
theorem q500 : (Jvm.Cond.code ({ cls := "MazeBonds$Visitor", name := "<init>", desc := "(II)V" } : Jvm.MethodName) prog_8_method_1_code (3 : Nat) (Option.none : Option Jvm.ClassFile.FieldType)) ∈ lw_all := lw_g (lw_at lw_m2 189 rfl) rfl
theorem q501 : (Jvm.Cond.methodLink "MazeBonds$Visitor" (3 : Nat) ({ cls := "MazeBonds$Somebody", name := "<init>", desc := "(I)V" } : Jvm.MethodName)) ∈ lw_all := lw_g (lw_at lw_m2 190 rfl) rfl
theorem q502 : (Jvm.Cond.fieldLink "MazeBonds$Visitor" (18 : Nat) "MazeBonds$Visitor" "allowance" "I") ∈ lw_all := lw_g (lw_at lw_m2 191 rfl) rfl
theorem q504 : (Jvm.Cond.fieldLink "MazeBonds$Visitor" (9 : Nat) "MazeBonds$Visitor" "cell" "I") ∈ lw_all := lw_g (lw_at lw_m2 193 rfl) rfl
theorem q507 : (Jvm.Cond.fieldLink "MazeBonds$Visitor" (28 : Nat) "MazeBonds$Visitor" "hours" "I") ∈ lw_all := lw_g (lw_at lw_m2 196 rfl) rfl
theorem q510 : (Jvm.Cond.fieldLink "MazeBonds$Visitor" (15 : Nat) "MazeBonds$Visitor" "gardener" "I") ∈ lw_all := lw_g (lw_at lw_m2 199 rfl) rfl
theorem q513 : (Jvm.Cond.fieldLink "MazeBonds$Visitor" (31 : Nat) "MazeBonds$Visitor" "rate" "I") ∈ lw_all := lw_g (lw_at lw_m2 202 rfl) rfl
theorem q516 : (Jvm.Cond.fieldLink "MazeBonds$Visitor" (34 : Nat) "MazeBonds$Visitor" "isVoid" "Z") ∈ lw_all := lw_g (lw_at lw_m2 205 rfl) rfl
theorem q519 : (Jvm.Cond.laysFinal "MazeBonds$Visitor" "MazeBonds$Visitor" "allowance" "I") ∈ lw_all := lw_g (lw_at lw_m2 208 rfl) rfl
theorem q520 : (Jvm.Cond.soleField "MazeBonds$Visitor" "allowance") ∈ lw_all := lw_g (lw_at lw_m2 209 rfl) rfl
theorem q521 : (Jvm.Cond.lays "MazeBonds$Visitor" "MazeBonds$Visitor" "cell" "I") ∈ lw_all := lw_g (lw_at lw_m2 210 rfl) rfl
theorem q522 : (Jvm.Cond.soleField "MazeBonds$Visitor" "cell") ∈ lw_all := lw_g (lw_at lw_m2 211 rfl) rfl
theorem q523 : (Jvm.Cond.lays "MazeBonds$Visitor" "MazeBonds$Visitor" "hours" "I") ∈ lw_all := lw_g (lw_at lw_m2 212 rfl) rfl
theorem q524 : (Jvm.Cond.soleField "MazeBonds$Visitor" "hours") ∈ lw_all := lw_g (lw_at lw_m2 213 rfl) rfl
theorem q525 : (Jvm.Cond.lays "MazeBonds$Visitor" "MazeBonds$Visitor" "gardener" "I") ∈ lw_all := lw_g (lw_at lw_m2 214 rfl) rfl
theorem q526 : (Jvm.Cond.soleField "MazeBonds$Visitor" "gardener") ∈ lw_all := lw_g (lw_at lw_m2 215 rfl) rfl
theorem q527 : (Jvm.Cond.lays "MazeBonds$Visitor" "MazeBonds$Visitor" "rate" "I") ∈ lw_all := lw_g (lw_at lw_m2 216 rfl) rfl
theorem q528 : (Jvm.Cond.soleField "MazeBonds$Visitor" "rate") ∈ lw_all := lw_g (lw_at lw_m2 217 rfl) rfl
theorem q529 : (Jvm.Cond.lays "MazeBonds$Visitor" "MazeBonds$Visitor" "isVoid" "Z") ∈ lw_all := lw_g (lw_at lw_m2 218 rfl) rfl
theorem q530 : (Jvm.Cond.soleField "MazeBonds$Visitor" "isVoid") ∈ lw_all := lw_g (lw_at lw_m2 219 rfl) rfl
theorem q531 : (Jvm.Cond.lays "MazeBonds$Visitor" "MazeBonds$Somebody" "coins" "I") ∈ lw_all := lw_g (lw_at lw_m2 220 rfl) rfl
theorem q532 : (Jvm.Cond.superclass "MazeBonds$Visitor" "MazeBonds$Somebody") ∈ lw_all := lw_g (lw_at lw_m2 221 rfl) rfl
theorem q751 : (Jvm.Cond.instanceMethod ({ cls := "MazeBonds$Visitor", name := "isOut", desc := "()Z" } : Jvm.MethodName)) ∈ lw_all := lw_g (lw_at lw_m3 200 rfl) rfl
theorem q752 : (Jvm.Cond.selects "MazeBonds$Visitor" ({ cls := "MazeBonds$Visitor", name := "isOut", desc := "()Z" } : Jvm.MethodName) ({ cls := "MazeBonds$Visitor", name := "isOut", desc := "()Z" } : Jvm.MethodName)) ∈ lw_all := lw_g (lw_at lw_m3 201 rfl) rfl
theorem q753 : (Jvm.Cond.code ({ cls := "MazeBonds$Visitor", name := "isOut", desc := "()Z" } : Jvm.MethodName) prog_8_method_3_code (1 : Nat) (Option.some Jvm.ClassFile.FieldType.boolean)) ∈ lw_all := lw_g (lw_at lw_m3 202 rfl) rfl
theorem q755 : (Jvm.Cond.instanceMethod ({ cls := "MazeBonds$Visitor", name := "meet", desc := "()V" } : Jvm.MethodName)) ∈ lw_all := lw_g (lw_at lw_m3 204 rfl) rfl
theorem q756 : (Jvm.Cond.selects "MazeBonds$Visitor" ({ cls := "MazeBonds$Visitor", name := "meet", desc := "()V" } : Jvm.MethodName) ({ cls := "MazeBonds$Visitor", name := "meet", desc := "()V" } : Jvm.MethodName)) ∈ lw_all := lw_g (lw_at lw_m3 205 rfl) rfl
theorem q757 : (Jvm.Cond.code ({ cls := "MazeBonds$Visitor", name := "meet", desc := "()V" } : Jvm.MethodName) prog_8_method_8_code (1 : Nat) (Option.none : Option Jvm.ClassFile.FieldType)) ∈ lw_all := lw_g (lw_at lw_m3 206 rfl) rfl
theorem q758 : (Jvm.Cond.methodLink "MazeBonds$Visitor" (48 : Nat) ({ cls := "MazeBonds$Visitor", name := "hasBond", desc := "()Z" } : Jvm.MethodName)) ∈ lw_all := lw_g (lw_at lw_m3 207 rfl) rfl
theorem q759 : (Jvm.Cond.instanceMethod ({ cls := "MazeBonds$Visitor", name := "hasBond", desc := "()Z" } : Jvm.MethodName)) ∈ lw_all := lw_g (lw_at lw_m3 208 rfl) rfl
theorem q760 : (Jvm.Cond.selects "MazeBonds$Visitor" ({ cls := "MazeBonds$Visitor", name := "hasBond", desc := "()Z" } : Jvm.MethodName) ({ cls := "MazeBonds$Visitor", name := "hasBond", desc := "()Z" } : Jvm.MethodName)) ∈ lw_all := lw_g (lw_at lw_m3 209 rfl) rfl
theorem q761 : (Jvm.Cond.code ({ cls := "MazeBonds$Visitor", name := "hasBond", desc := "()Z" } : Jvm.MethodName) prog_8_method_4_code (1 : Nat) (Option.some Jvm.ClassFile.FieldType.boolean)) ∈ lw_all := lw_g (lw_at lw_m3 210 rfl) rfl
theorem q818 : (Jvm.Cond.sameMethod "MazeBonds$Visitor" "MazeBonds$Somebody" "pay" "(I)V") ∈ lw_all := lw_g (lw_at lw_m4 27 rfl) rfl
theorem q819 : (Jvm.Cond.selects "MazeBonds$Visitor" ({ cls := "MazeBonds$Visitor", name := "pay", desc := "(I)V" } : Jvm.MethodName) ({ cls := "MazeBonds$Somebody", name := "pay", desc := "(I)V" } : Jvm.MethodName)) ∈ lw_all := lw_g (lw_at lw_m4 28 rfl) rfl
theorem q843 : (Jvm.Cond.instanceMethod ({ cls := "MazeBonds$Visitor", name := "dueWith", desc := "(I)I" } : Jvm.MethodName)) ∈ lw_all := lw_g (lw_at lw_m4 52 rfl) rfl
theorem q844 : (Jvm.Cond.selects "MazeBonds$Visitor" ({ cls := "MazeBonds$Visitor", name := "dueWith", desc := "(I)I" } : Jvm.MethodName) ({ cls := "MazeBonds$Visitor", name := "dueWith", desc := "(I)I" } : Jvm.MethodName)) ∈ lw_all := lw_g (lw_at lw_m4 53 rfl) rfl
theorem q845 : (Jvm.Cond.code ({ cls := "MazeBonds$Visitor", name := "dueWith", desc := "(I)I" } : Jvm.MethodName) prog_8_method_7_code (2 : Nat) (Option.some Jvm.ClassFile.FieldType.int)) ∈ lw_all := lw_g (lw_at lw_m4 54 rfl) rfl
theorem q846 : (Jvm.Cond.methodLink "MazeBonds$Visitor" (44 : Nat) ({ cls := "MazeBonds$Visitor", name := "lostWith", desc := "(I)I" } : Jvm.MethodName)) ∈ lw_all := lw_g (lw_at lw_m4 55 rfl) rfl
theorem q847 : (Jvm.Cond.instanceMethod ({ cls := "MazeBonds$Visitor", name := "lostWith", desc := "(I)I" } : Jvm.MethodName)) ∈ lw_all := lw_g (lw_at lw_m4 56 rfl) rfl
theorem q848 : (Jvm.Cond.selects "MazeBonds$Visitor" ({ cls := "MazeBonds$Visitor", name := "lostWith", desc := "(I)I" } : Jvm.MethodName) ({ cls := "MazeBonds$Visitor", name := "lostWith", desc := "(I)I" } : Jvm.MethodName)) ∈ lw_all := lw_g (lw_at lw_m4 57 rfl) rfl
theorem q849 : (Jvm.Cond.code ({ cls := "MazeBonds$Visitor", name := "lostWith", desc := "(I)I" } : Jvm.MethodName) prog_8_method_5_code (2 : Nat) (Option.some Jvm.ClassFile.FieldType.int)) ∈ lw_all := lw_g (lw_at lw_m4 58 rfl) rfl
theorem q850 : (Jvm.Cond.methodLink "MazeBonds$Visitor" (38 : Nat) ({ cls := "java/lang/Math", name := "max", desc := "(II)I" } : Jvm.MethodName)) ∈ lw_all := lw_g (lw_at lw_m4 59 rfl) rfl
theorem q859 : (Jvm.Cond.sameMethod "MazeBonds$Visitor" "MazeBonds$Somebody" "get" "(I)V") ∈ lw_all := lw_g (lw_at lw_m4 68 rfl) rfl
theorem q860 : (Jvm.Cond.selects "MazeBonds$Visitor" ({ cls := "MazeBonds$Visitor", name := "get", desc := "(I)V" } : Jvm.MethodName) ({ cls := "MazeBonds$Somebody", name := "get", desc := "(I)V" } : Jvm.MethodName)) ∈ lw_all := lw_g (lw_at lw_m4 69 rfl) rfl
theorem q862 : (Jvm.Cond.instanceMethod ({ cls := "MazeBonds$Visitor", name := "endBond", desc := "()V" } : Jvm.MethodName)) ∈ lw_all := lw_g (lw_at lw_m4 71 rfl) rfl
theorem q863 : (Jvm.Cond.selects "MazeBonds$Visitor" ({ cls := "MazeBonds$Visitor", name := "endBond", desc := "()V" } : Jvm.MethodName) ({ cls := "MazeBonds$Visitor", name := "endBond", desc := "()V" } : Jvm.MethodName)) ∈ lw_all := lw_g (lw_at lw_m4 72 rfl) rfl
theorem q864 : (Jvm.Cond.code ({ cls := "MazeBonds$Visitor", name := "endBond", desc := "()V" } : Jvm.MethodName) prog_8_method_9_code (1 : Nat) (Option.none : Option Jvm.ClassFile.FieldType)) ∈ lw_all := lw_g (lw_at lw_m4 73 rfl) rfl
theorem q1076 : (Jvm.Cond.instanceMethod ({ cls := "MazeBonds$Visitor", name := "lost", desc := "()I" } : Jvm.MethodName)) ∈ lw_all := lw_g (lw_at lw_m5 45 rfl) rfl
theorem q1077 : (Jvm.Cond.selects "MazeBonds$Visitor" ({ cls := "MazeBonds$Visitor", name := "lost", desc := "()I" } : Jvm.MethodName) ({ cls := "MazeBonds$Visitor", name := "lost", desc := "()I" } : Jvm.MethodName)) ∈ lw_all := lw_g (lw_at lw_m5 46 rfl) rfl
theorem q1078 : (Jvm.Cond.code ({ cls := "MazeBonds$Visitor", name := "lost", desc := "()I" } : Jvm.MethodName) prog_8_method_6_code (1 : Nat) (Option.some Jvm.ClassFile.FieldType.int)) ∈ lw_all := lw_g (lw_at lw_m5 47 rfl) rfl
theorem q2159 : (Jvm.Cond.castable "MazeBonds$Visitor" "java/lang/Object") ∈ lw_tbl := lw_at lw_m9 168 rfl
theorem in_X6 : ∀ w ∈ wsX60, w ∈ lw_all := lw_in wsX60 [531, 519, 521, 523, 525, 527, 529] (by decide +kernel) (by decide +kernel)
/-! MazeBonds$RefusedException -/
set_option maxRecDepth 100000
def RX7 : String := "MazeBonds$RefusedException"
def TX7 : u_T := fun k => match k with
  | 0 => ("java/lang/Throwable", "cause", "Ljava/lang/Throwable;", false)
  | 1 => ("java/lang/Throwable", "stackTrace", "[Ljava/lang/StackTraceElement;", false)
  | 2 => ("java/lang/Throwable", "suppressedExceptions", "Ljava/util/List;", false)
  | 3 => ("java/lang/Throwable", "detailMessage", "Ljava/lang/String;", false)
  | 4 => ("java/lang/Throwable", "backtrace", "Ljava/lang/Object;", false)
  | 5 => ("java/lang/Throwable", "depth", "I", false)
  | 6 => ("MazeBonds$RefusedException", "reason", "I", true)
  | 7 => ("MazeBonds$RefusedException", "detail", "I", true)
  | _ => ("MazeBonds$RefusedException", "command", "I", true)
def tyX7 : Nat → FieldType := fun k => match k with
  | 0 => .object "java/lang/Throwable"
  | 1 => .array (.object "java/lang/StackTraceElement")
  | 2 => .object "java/util/List"
  | 3 => .object "java/lang/String"
  | 4 => .object "java/lang/Object"
  | 5 => .int
  | 6 => .int
  | 7 => .int
  | _ => .int
abbrev wsX70 : List Cond := u_ws RX7 TX7 9
theorem nmX7 : ∀ a, a < 9 → ∀ b, b < 9 → a ≠ b → (TX7 a).2.1 ≠ (TX7 b).2.1 := by decide +kernel
theorem tyX7_ok : ∀ k, k < 9 → parseFieldDescriptor (TX7 k).2.2.1 = some (tyX7 k) := by decide +kernel
abbrev cX7_init : ByteArray := prog_6_method_2_code
def yX7_init : MethodName := ⟨RX7, "<init>", "(II)V"⟩
def dkwX7_init_0 : List UInt8 := [42, 27, 28, 3, 183, 0, 19, 177]
abbrev dktX7_init_0 : List UInt8 := dkwX7_init_0 ++ []
theorem dksX7_init_0 : cX7_init.data.toList.drop 0 = dktX7_init_0 := by decide +kernel
theorem dX7_init_0 : decode cX7_init 0 = .ok (.aload_n 0, 1) := dk_42 (dk_at dksX7_init_0 0 rfl rfl)
theorem dX7_init_1 : decode cX7_init 1 = .ok (.iload_n 1, 1) := dk_27 (dk_at dksX7_init_0 1 rfl rfl)
theorem dX7_init_2 : decode cX7_init 2 = .ok (.iload_n 2, 1) := dk_28 (dk_at dksX7_init_0 2 rfl rfl)
theorem dX7_init_3 : decode cX7_init 3 = .ok (.iconst 0, 1) := dk_3 (dk_at dksX7_init_0 3 rfl rfl)
theorem dX7_init_4 : decode cX7_init 4 = .ok (.invokespecial 19, 3) := dk_183 0 19 (dk_at dksX7_init_0 4 rfl rfl)
theorem dX7_init_7 : decode cX7_init 7 = .ok (.return_, 1) := dk_177 (dk_at dksX7_init_0 7 rfl rfl)
abbrev cX7_init_2 : ByteArray := prog_6_method_1_code
def yX7_init_2 : MethodName := ⟨RX7, "<init>", "(III)V"⟩
def dkwX7_init_2_0 : List UInt8 := [42, 1, 1, 3, 3, 183, 0, 1, 42, 27, 181, 0, 7, 42, 28, 181, 0, 13, 42, 29, 181, 0, 16, 177]
abbrev dktX7_init_2_0 : List UInt8 := dkwX7_init_2_0 ++ []
theorem dksX7_init_2_0 : cX7_init_2.data.toList.drop 0 = dktX7_init_2_0 := by decide +kernel
theorem dX7_init_2_0 : decode cX7_init_2 0 = .ok (.aload_n 0, 1) := dk_42 (dk_at dksX7_init_2_0 0 rfl rfl)
theorem dX7_init_2_1 : decode cX7_init_2 1 = .ok (.aconst_null, 1) := dk_1 (dk_at dksX7_init_2_0 1 rfl rfl)
theorem dX7_init_2_2 : decode cX7_init_2 2 = .ok (.aconst_null, 1) := dk_1 (dk_at dksX7_init_2_0 2 rfl rfl)
theorem dX7_init_2_3 : decode cX7_init_2 3 = .ok (.iconst 0, 1) := dk_3 (dk_at dksX7_init_2_0 3 rfl rfl)
theorem dX7_init_2_4 : decode cX7_init_2 4 = .ok (.iconst 0, 1) := dk_3 (dk_at dksX7_init_2_0 4 rfl rfl)
theorem dX7_init_2_5 : decode cX7_init_2 5 = .ok (.invokespecial 1, 3) := dk_183 0 1 (dk_at dksX7_init_2_0 5 rfl rfl)
theorem dX7_init_2_8 : decode cX7_init_2 8 = .ok (.aload_n 0, 1) := dk_42 (dk_at dksX7_init_2_0 8 rfl rfl)
theorem dX7_init_2_9 : decode cX7_init_2 9 = .ok (.iload_n 1, 1) := dk_27 (dk_at dksX7_init_2_0 9 rfl rfl)
theorem dX7_init_2_10 : decode cX7_init_2 10 = .ok (.putfield 7, 3) := dk_181 0 7 (dk_at dksX7_init_2_0 10 rfl rfl)
theorem dX7_init_2_13 : decode cX7_init_2 13 = .ok (.aload_n 0, 1) := dk_42 (dk_at dksX7_init_2_0 13 rfl rfl)
theorem dX7_init_2_14 : decode cX7_init_2 14 = .ok (.iload_n 2, 1) := dk_28 (dk_at dksX7_init_2_0 14 rfl rfl)
theorem dX7_init_2_15 : decode cX7_init_2 15 = .ok (.putfield 13, 3) := dk_181 0 13 (dk_at dksX7_init_2_0 15 rfl rfl)
theorem dX7_init_2_18 : decode cX7_init_2 18 = .ok (.aload_n 0, 1) := dk_42 (dk_at dksX7_init_2_0 18 rfl rfl)
theorem dX7_init_2_19 : decode cX7_init_2 19 = .ok (.iload_n 3, 1) := dk_29 (dk_at dksX7_init_2_0 19 rfl rfl)
theorem dX7_init_2_20 : decode cX7_init_2 20 = .ok (.putfield 16, 3) := dk_181 0 16 (dk_at dksX7_init_2_0 20 rfl rfl)
theorem dX7_init_2_23 : decode cX7_init_2 23 = .ok (.return_, 1) := dk_177 (dk_at dksX7_init_2_0 23 rfl rfl)
theorem q94 : (Jvm.Cond.initialized "MazeBonds$RefusedException") ∈ lw_all := lw_g (lw_at lw_m1 23 rfl) rfl
theorem q345 : (Jvm.Cond.selects "MazeBonds$RefusedException" ({ cls := "java/lang/Throwable", name := "fillInStackTrace", desc := "()Ljava/lang/Throwable;" } : Jvm.MethodName) ({ cls := "java/lang/Throwable", name := "fillInStackTrace", desc := "()Ljava/lang/Throwable;" } : Jvm.MethodName)) ∈ lw_all := lw_g (lw_at lw_m2 34 rfl) rfl
theorem q458 : (Jvm.Cond.selects "MazeBonds$RefusedException" ({ cls := "java/lang/Object", name := "getClass", desc := "()Ljava/lang/Class;" } : Jvm.MethodName) ({ cls := "java/lang/Object", name := "getClass", desc := "()Ljava/lang/Class;" } : Jvm.MethodName)) ∈ lw_all := lw_g (lw_at lw_m2 147 rfl) rfl
theorem q642 : (Jvm.Cond.instantiable "MazeBonds$RefusedException" (9 : Nat)) ∈ lw_all := lw_g (lw_at lw_m3 91 rfl) rfl
theorem q643 : (Jvm.Cond.castable "MazeBonds$RefusedException" "MazeBonds$RefusedException") ∈ lw_tbl := lw_at lw_m3 92 rfl
theorem q644 : (Jvm.Cond.selects "MazeBonds$RefusedException" ({ cls := "java/lang/Throwable", name := "fillInStackTrace", desc := "(I)Ljava/lang/Throwable;" } : Jvm.MethodName) ({ cls := "java/lang/Throwable", name := "fillInStackTrace", desc := "(I)Ljava/lang/Throwable;" } : Jvm.MethodName)) ∈ lw_all := lw_g (lw_at lw_m3 93 rfl) rfl
theorem q645 : (Jvm.Cond.lays "MazeBonds$RefusedException" "java/lang/Throwable" "cause" "Ljava/lang/Throwable;") ∈ lw_all := lw_g (lw_at lw_m3 94 rfl) rfl
theorem q646 : (Jvm.Cond.lays "MazeBonds$RefusedException" "java/lang/Throwable" "stackTrace" "[Ljava/lang/StackTraceElement;") ∈ lw_all := lw_g (lw_at lw_m3 95 rfl) rfl
theorem q647 : (Jvm.Cond.lays "MazeBonds$RefusedException" "java/lang/Throwable" "suppressedExceptions" "Ljava/util/List;") ∈ lw_all := lw_g (lw_at lw_m3 96 rfl) rfl
theorem q648 : (Jvm.Cond.lays "MazeBonds$RefusedException" "java/lang/Throwable" "detailMessage" "Ljava/lang/String;") ∈ lw_all := lw_g (lw_at lw_m3 97 rfl) rfl
theorem q649 : (Jvm.Cond.lays "MazeBonds$RefusedException" "java/lang/Throwable" "backtrace" "Ljava/lang/Object;") ∈ lw_all := lw_g (lw_at lw_m3 98 rfl) rfl
theorem q651 : (Jvm.Cond.instanceMethod ({ cls := "MazeBonds$RefusedException", name := "<init>", desc := "(II)V" } : Jvm.MethodName)) ∈ lw_all := lw_g (lw_at lw_m3 100 rfl) rfl
theorem q652 : (Jvm.Cond.code ({ cls := "MazeBonds$RefusedException", name := "<init>", desc := "(II)V" } : Jvm.MethodName) prog_6_method_2_code (3 : Nat) (Option.none : Option Jvm.ClassFile.FieldType)) ∈ lw_all := lw_g (lw_at lw_m3 101 rfl) rfl
theorem q653 : (Jvm.Cond.methodLink "MazeBonds$RefusedException" (19 : Nat) ({ cls := "MazeBonds$RefusedException", name := "<init>", desc := "(III)V" } : Jvm.MethodName)) ∈ lw_all := lw_g (lw_at lw_m3 102 rfl) rfl
theorem q654 : (Jvm.Cond.instanceMethod ({ cls := "MazeBonds$RefusedException", name := "<init>", desc := "(III)V" } : Jvm.MethodName)) ∈ lw_all := lw_g (lw_at lw_m3 103 rfl) rfl
theorem q655 : (Jvm.Cond.code ({ cls := "MazeBonds$RefusedException", name := "<init>", desc := "(III)V" } : Jvm.MethodName) prog_6_method_1_code (4 : Nat) (Option.none : Option Jvm.ClassFile.FieldType)) ∈ lw_all := lw_g (lw_at lw_m3 104 rfl) rfl
theorem q656 : (Jvm.Cond.methodLink "MazeBonds$RefusedException" (1 : Nat) ({ cls := "java/lang/Exception", name := "<init>", desc := "(Ljava/lang/String;Ljava/lang/Throwable;ZZ)V" } : Jvm.MethodName)) ∈ lw_all := lw_g (lw_at lw_m3 105 rfl) rfl
theorem q662 : (Jvm.Cond.fieldLink "MazeBonds$RefusedException" (7 : Nat) "MazeBonds$RefusedException" "reason" "I") ∈ lw_all := lw_g (lw_at lw_m3 111 rfl) rfl
theorem q665 : (Jvm.Cond.fieldLink "MazeBonds$RefusedException" (13 : Nat) "MazeBonds$RefusedException" "detail" "I") ∈ lw_all := lw_g (lw_at lw_m3 114 rfl) rfl
theorem q668 : (Jvm.Cond.fieldLink "MazeBonds$RefusedException" (16 : Nat) "MazeBonds$RefusedException" "command" "I") ∈ lw_all := lw_g (lw_at lw_m3 117 rfl) rfl
theorem q670 : (Jvm.Cond.laysFinal "MazeBonds$RefusedException" "MazeBonds$RefusedException" "reason" "I") ∈ lw_all := lw_g (lw_at lw_m3 119 rfl) rfl
theorem q671 : (Jvm.Cond.soleField "MazeBonds$RefusedException" "reason") ∈ lw_all := lw_g (lw_at lw_m3 120 rfl) rfl
theorem q672 : (Jvm.Cond.laysFinal "MazeBonds$RefusedException" "MazeBonds$RefusedException" "detail" "I") ∈ lw_all := lw_g (lw_at lw_m3 121 rfl) rfl
theorem q673 : (Jvm.Cond.soleField "MazeBonds$RefusedException" "detail") ∈ lw_all := lw_g (lw_at lw_m3 122 rfl) rfl
theorem q674 : (Jvm.Cond.laysFinal "MazeBonds$RefusedException" "MazeBonds$RefusedException" "command" "I") ∈ lw_all := lw_g (lw_at lw_m3 123 rfl) rfl
theorem q675 : (Jvm.Cond.soleField "MazeBonds$RefusedException" "command") ∈ lw_all := lw_g (lw_at lw_m3 124 rfl) rfl
theorem q676 : (Jvm.Cond.lays "MazeBonds$RefusedException" "java/lang/Throwable" "depth" "I") ∈ lw_all := lw_g (lw_at lw_m3 125 rfl) rfl
theorem q677 : (Jvm.Cond.superclass "MazeBonds$RefusedException" "java/lang/Exception") ∈ lw_all := lw_g (lw_at lw_m3 126 rfl) rfl
theorem q2160 : (Jvm.Cond.castable "MazeBonds$RefusedException" "java/lang/Object") ∈ lw_tbl := lw_at lw_m9 169 rfl
theorem in_X7 : ∀ w ∈ wsX70, w ∈ lw_all := lw_in wsX70 [645, 646, 647, 648, 649, 676, 670, 672, 674] (by decide +kernel) (by decide +kernel)
/-! MazeBonds$Reader -/
set_option maxRecDepth 100000
def RX8 : String := "MazeBonds$Reader"
def TX8 : u_T := fun k => match k with
  | 0 => ("MazeBonds$Reader", "at", "I", false)
  | 1 => ("MazeBonds$Reader", "one", "I", false)
  | 2 => ("MazeBonds$Reader", "other", "I", false)
  | 3 => ("MazeBonds$Reader", "third", "I", false)
  | _ => ("MazeBonds$Reader", "this$0", "LMazeBonds;", true)
def tyX8 : Nat → FieldType := fun k => match k with
  | 0 => .int
  | 1 => .int
  | 2 => .int
  | 3 => .int
  | _ => .object "MazeBonds"
abbrev wsX80 : List Cond := u_ws RX8 TX8 5
theorem nmX8 : ∀ a, a < 5 → ∀ b, b < 5 → a ≠ b → (TX8 a).2.1 ≠ (TX8 b).2.1 := by decide +kernel
theorem tyX8_ok : ∀ k, k < 5 → parseFieldDescriptor (TX8 k).2.2.1 = some (tyX8 k) := by decide +kernel
abbrev cX8_init : ByteArray := prog_5_method_1_code
def yX8_init : MethodName := ⟨RX8, "<init>", "(LMazeBonds;)V"⟩
def dkwX8_init_0 : List UInt8 := [42, 43, 181, 0, 3, 42, 183, 0, 9, 177]
abbrev dktX8_init_0 : List UInt8 := dkwX8_init_0 ++ []
theorem dksX8_init_0 : cX8_init.data.toList.drop 0 = dktX8_init_0 := by decide +kernel
theorem dX8_init_0 : decode cX8_init 0 = .ok (.aload_n 0, 1) := dk_42 (dk_at dksX8_init_0 0 rfl rfl)
theorem dX8_init_1 : decode cX8_init 1 = .ok (.aload_n 1, 1) := dk_43 (dk_at dksX8_init_0 1 rfl rfl)
theorem dX8_init_2 : decode cX8_init 2 = .ok (.putfield 3, 3) := dk_181 0 3 (dk_at dksX8_init_0 2 rfl rfl)
theorem dX8_init_5 : decode cX8_init 5 = .ok (.aload_n 0, 1) := dk_42 (dk_at dksX8_init_0 5 rfl rfl)
theorem dX8_init_6 : decode cX8_init 6 = .ok (.invokespecial 9, 3) := dk_183 0 9 (dk_at dksX8_init_0 6 rfl rfl)
theorem dX8_init_9 : decode cX8_init 9 = .ok (.return_, 1) := dk_177 (dk_at dksX8_init_0 9 rfl rfl)
abbrev cX8_commands : ByteArray := prog_5_method_11_code
def yX8_commands : MethodName := ⟨RX8, "commands", "(LMazeBonds$Core;)I"⟩
def dkwX8_commands_3 : List UInt8 := [182, 0, 39, 28, 172]
abbrev dktX8_commands_3 : List UInt8 := dkwX8_commands_3 ++ []
def dkwX8_commands_2 : List UInt8 := [167, 255, 216, 42, 42, 180, 0, 15, 42, 180, 0, 3, 180, 0, 19, 160, 0, 7, 4, 167, 0, 4, 3]
abbrev dktX8_commands_2 : List UInt8 := dkwX8_commands_2 ++ dktX8_commands_3
def dkwX8_commands_1 : List UInt8 := [182, 0, 35, 62, 42, 89, 180, 0, 15, 29, 153, 0, 7, 4, 167, 0, 4, 3, 96, 181, 0, 15]
abbrev dktX8_commands_1 : List UInt8 := dkwX8_commands_1 ++ dktX8_commands_2
def dkwX8_commands_0 : List UInt8 := [3, 61, 4, 62, 29, 153, 0, 42, 42, 43, 28, 182, 0, 126, 132, 2, 1, 42, 16, 59, 16, 59]
abbrev dktX8_commands_0 : List UInt8 := dkwX8_commands_0 ++ dktX8_commands_1
theorem dksX8_commands_0 : cX8_commands.data.toList.drop 0 = dktX8_commands_0 := by decide +kernel
theorem dksX8_commands_1 : cX8_commands.data.toList.drop 22 = dktX8_commands_1 := dk_seg dksX8_commands_0 22 rfl rfl
theorem dksX8_commands_2 : cX8_commands.data.toList.drop 44 = dktX8_commands_2 := dk_seg dksX8_commands_1 22 rfl rfl
theorem dksX8_commands_3 : cX8_commands.data.toList.drop 67 = dktX8_commands_3 := dk_seg dksX8_commands_2 23 rfl rfl
theorem dX8_commands_0 : decode cX8_commands 0 = .ok (.iconst 0, 1) := dk_3 (dk_at dksX8_commands_0 0 rfl rfl)
theorem dX8_commands_1 : decode cX8_commands 1 = .ok (.istore_n 2, 1) := dk_61 (dk_at dksX8_commands_0 1 rfl rfl)
theorem dX8_commands_2 : decode cX8_commands 2 = .ok (.iconst 1, 1) := dk_4 (dk_at dksX8_commands_0 2 rfl rfl)
theorem dX8_commands_3 : decode cX8_commands 3 = .ok (.istore_n 3, 1) := dk_62 (dk_at dksX8_commands_0 3 rfl rfl)
theorem dX8_commands_4 : decode cX8_commands 4 = .ok (.iload_n 3, 1) := dk_29 (dk_at dksX8_commands_0 4 rfl rfl)
theorem dX8_commands_5 : decode cX8_commands 5 = .ok (.ifCond .eq 42, 3) := dk_153 0 42 (dk_at dksX8_commands_0 5 rfl rfl)
theorem dX8_commands_8 : decode cX8_commands 8 = .ok (.aload_n 0, 1) := dk_42 (dk_at dksX8_commands_0 8 rfl rfl)
theorem dX8_commands_9 : decode cX8_commands 9 = .ok (.aload_n 1, 1) := dk_43 (dk_at dksX8_commands_0 9 rfl rfl)
theorem dX8_commands_10 : decode cX8_commands 10 = .ok (.iload_n 2, 1) := dk_28 (dk_at dksX8_commands_0 10 rfl rfl)
theorem dX8_commands_11 : decode cX8_commands 11 = .ok (.invokevirtual 126, 3) := dk_182 0 126 (dk_at dksX8_commands_0 11 rfl rfl)
theorem dX8_commands_14 : decode cX8_commands 14 = .ok (.iinc 2 1, 3) := dk_132 2 1 (dk_at dksX8_commands_0 14 rfl rfl)
theorem dX8_commands_17 : decode cX8_commands 17 = .ok (.aload_n 0, 1) := dk_42 (dk_at dksX8_commands_0 17 rfl rfl)
theorem dX8_commands_18 : decode cX8_commands 18 = .ok (.bipush 59, 2) := dk_16 59 (dk_at dksX8_commands_0 18 rfl rfl)
theorem dX8_commands_20 : decode cX8_commands 20 = .ok (.bipush 59, 2) := dk_16 59 (dk_at dksX8_commands_0 20 rfl rfl)
theorem dX8_commands_22 : decode cX8_commands 22 = .ok (.invokevirtual 35, 3) := dk_182 0 35 (dk_at dksX8_commands_1 0 rfl rfl)
theorem dX8_commands_25 : decode cX8_commands 25 = .ok (.istore_n 3, 1) := dk_62 (dk_at dksX8_commands_1 3 rfl rfl)
theorem dX8_commands_26 : decode cX8_commands 26 = .ok (.aload_n 0, 1) := dk_42 (dk_at dksX8_commands_1 4 rfl rfl)
theorem dX8_commands_27 : decode cX8_commands 27 = .ok (.dup, 1) := dk_89 (dk_at dksX8_commands_1 5 rfl rfl)
theorem dX8_commands_28 : decode cX8_commands 28 = .ok (.getfield 15, 3) := dk_180 0 15 (dk_at dksX8_commands_1 6 rfl rfl)
theorem dX8_commands_31 : decode cX8_commands 31 = .ok (.iload_n 3, 1) := dk_29 (dk_at dksX8_commands_1 9 rfl rfl)
theorem dX8_commands_32 : decode cX8_commands 32 = .ok (.ifCond .eq 7, 3) := dk_153 0 7 (dk_at dksX8_commands_1 10 rfl rfl)
theorem dX8_commands_35 : decode cX8_commands 35 = .ok (.iconst 1, 1) := dk_4 (dk_at dksX8_commands_1 13 rfl rfl)
theorem dX8_commands_36 : decode cX8_commands 36 = .ok (.goto 4, 3) := dk_167 0 4 (dk_at dksX8_commands_1 14 rfl rfl)
theorem dX8_commands_39 : decode cX8_commands 39 = .ok (.iconst 0, 1) := dk_3 (dk_at dksX8_commands_1 17 rfl rfl)
theorem dX8_commands_40 : decode cX8_commands 40 = .ok (.iadd, 1) := dk_96 (dk_at dksX8_commands_1 18 rfl rfl)
theorem dX8_commands_41 : decode cX8_commands 41 = .ok (.putfield 15, 3) := dk_181 0 15 (dk_at dksX8_commands_1 19 rfl rfl)
theorem dX8_commands_44 : decode cX8_commands 44 = .ok (.goto (-40), 3) := dk_167 255 216 (dk_at dksX8_commands_2 0 rfl rfl)
theorem dX8_commands_47 : decode cX8_commands 47 = .ok (.aload_n 0, 1) := dk_42 (dk_at dksX8_commands_2 3 rfl rfl)
theorem dX8_commands_48 : decode cX8_commands 48 = .ok (.aload_n 0, 1) := dk_42 (dk_at dksX8_commands_2 4 rfl rfl)
theorem dX8_commands_49 : decode cX8_commands 49 = .ok (.getfield 15, 3) := dk_180 0 15 (dk_at dksX8_commands_2 5 rfl rfl)
theorem dX8_commands_52 : decode cX8_commands 52 = .ok (.aload_n 0, 1) := dk_42 (dk_at dksX8_commands_2 8 rfl rfl)
theorem dX8_commands_53 : decode cX8_commands 53 = .ok (.getfield 3, 3) := dk_180 0 3 (dk_at dksX8_commands_2 9 rfl rfl)
theorem dX8_commands_56 : decode cX8_commands 56 = .ok (.getfield 19, 3) := dk_180 0 19 (dk_at dksX8_commands_2 12 rfl rfl)
theorem dX8_commands_59 : decode cX8_commands 59 = .ok (.if_icmp .ne 7, 3) := dk_160 0 7 (dk_at dksX8_commands_2 15 rfl rfl)
theorem dX8_commands_62 : decode cX8_commands 62 = .ok (.iconst 1, 1) := dk_4 (dk_at dksX8_commands_2 18 rfl rfl)
theorem dX8_commands_63 : decode cX8_commands 63 = .ok (.goto 4, 3) := dk_167 0 4 (dk_at dksX8_commands_2 19 rfl rfl)
theorem dX8_commands_66 : decode cX8_commands 66 = .ok (.iconst 0, 1) := dk_3 (dk_at dksX8_commands_2 22 rfl rfl)
theorem dX8_commands_67 : decode cX8_commands 67 = .ok (.invokevirtual 39, 3) := dk_182 0 39 (dk_at dksX8_commands_3 0 rfl rfl)
theorem dX8_commands_70 : decode cX8_commands 70 = .ok (.iload_n 2, 1) := dk_28 (dk_at dksX8_commands_3 3 rfl rfl)
theorem dX8_commands_71 : decode cX8_commands 71 = .ok (.ireturn, 1) := dk_172 (dk_at dksX8_commands_3 4 rfl rfl)
abbrev cX8_step : ByteArray := prog_5_method_10_code
def yX8_step : MethodName := ⟨RX8, "step", "(LMazeBonds$Core;I)V"⟩
def dkwX8_step_1 : List UInt8 := [89, 25, 4, 180, 0, 117, 25, 4, 180, 0, 120, 28, 183, 0, 123, 191, 177]
abbrev dktX8_step_1 : List UInt8 := dkwX8_step_1 ++ []
def dkwX8_step_0 : List UInt8 := [42, 182, 0, 107, 62, 43, 199, 0, 4, 177, 42, 43, 29, 182, 0, 111, 167, 0, 24, 58, 4, 187, 0, 115]
abbrev dktX8_step_0 : List UInt8 := dkwX8_step_0 ++ dktX8_step_1
theorem dksX8_step_0 : cX8_step.data.toList.drop 0 = dktX8_step_0 := by decide +kernel
theorem dksX8_step_1 : cX8_step.data.toList.drop 24 = dktX8_step_1 := dk_seg dksX8_step_0 24 rfl rfl
theorem dX8_step_0 : decode cX8_step 0 = .ok (.aload_n 0, 1) := dk_42 (dk_at dksX8_step_0 0 rfl rfl)
theorem dX8_step_1 : decode cX8_step 1 = .ok (.invokevirtual 107, 3) := dk_182 0 107 (dk_at dksX8_step_0 1 rfl rfl)
theorem dX8_step_4 : decode cX8_step 4 = .ok (.istore_n 3, 1) := dk_62 (dk_at dksX8_step_0 4 rfl rfl)
theorem dX8_step_5 : decode cX8_step 5 = .ok (.aload_n 1, 1) := dk_43 (dk_at dksX8_step_0 5 rfl rfl)
theorem dX8_step_6 : decode cX8_step 6 = .ok (.ifnonnull 4, 3) := dk_199 0 4 (dk_at dksX8_step_0 6 rfl rfl)
theorem dX8_step_9 : decode cX8_step 9 = .ok (.return_, 1) := dk_177 (dk_at dksX8_step_0 9 rfl rfl)
theorem dX8_step_10 : decode cX8_step 10 = .ok (.aload_n 0, 1) := dk_42 (dk_at dksX8_step_0 10 rfl rfl)
theorem dX8_step_11 : decode cX8_step 11 = .ok (.aload_n 1, 1) := dk_43 (dk_at dksX8_step_0 11 rfl rfl)
theorem dX8_step_12 : decode cX8_step 12 = .ok (.iload_n 3, 1) := dk_29 (dk_at dksX8_step_0 12 rfl rfl)
theorem dX8_step_13 : decode cX8_step 13 = .ok (.invokevirtual 111, 3) := dk_182 0 111 (dk_at dksX8_step_0 13 rfl rfl)
theorem dX8_step_16 : decode cX8_step 16 = .ok (.goto 24, 3) := dk_167 0 24 (dk_at dksX8_step_0 16 rfl rfl)
theorem dX8_step_19 : decode cX8_step 19 = .ok (.astore 4, 2) := dk_58 4 (dk_at dksX8_step_0 19 rfl rfl)
theorem dX8_step_21 : decode cX8_step 21 = .ok (.new 115, 3) := dk_187 0 115 (dk_at dksX8_step_0 21 rfl rfl)
theorem dX8_step_24 : decode cX8_step 24 = .ok (.dup, 1) := dk_89 (dk_at dksX8_step_1 0 rfl rfl)
theorem dX8_step_25 : decode cX8_step 25 = .ok (.aload 4, 2) := dk_25 4 (dk_at dksX8_step_1 1 rfl rfl)
theorem dX8_step_27 : decode cX8_step 27 = .ok (.getfield 117, 3) := dk_180 0 117 (dk_at dksX8_step_1 3 rfl rfl)
theorem dX8_step_30 : decode cX8_step 30 = .ok (.aload 4, 2) := dk_25 4 (dk_at dksX8_step_1 6 rfl rfl)
theorem dX8_step_32 : decode cX8_step 32 = .ok (.getfield 120, 3) := dk_180 0 120 (dk_at dksX8_step_1 8 rfl rfl)
theorem dX8_step_35 : decode cX8_step 35 = .ok (.iload_n 2, 1) := dk_28 (dk_at dksX8_step_1 11 rfl rfl)
theorem dX8_step_36 : decode cX8_step 36 = .ok (.invokespecial 123, 3) := dk_183 0 123 (dk_at dksX8_step_1 12 rfl rfl)
theorem dX8_step_39 : decode cX8_step 39 = .ok (.athrow, 1) := dk_191 (dk_at dksX8_step_1 15 rfl rfl)
theorem dX8_step_40 : decode cX8_step 40 = .ok (.return_, 1) := dk_177 (dk_at dksX8_step_1 16 rfl rfl)
abbrev cX8_command : ByteArray := prog_5_method_8_code
def yX8_command : MethodName := ⟨RX8, "command", "()C"⟩
def dkwX8_command_11 : List UInt8 := [181, 0, 56, 27, 172]
abbrev dktX8_command_11 : List UInt8 := dkwX8_command_11 ++ []
def dkwX8_command_10 : List UInt8 := [181, 0, 56, 42, 42, 16, 43, 4, 182, 0, 59, 181, 0, 63, 167, 0, 12, 42, 42, 5, 182, 0, 43]
abbrev dktX8_command_10 : List UInt8 := dkwX8_command_10 ++ dktX8_command_11
def dkwX8_command_9 : List UInt8 := [182, 0, 43, 181, 0, 56, 42, 42, 182, 0, 73, 181, 0, 63, 167, 0, 35, 42, 42, 4, 182, 0, 43]
abbrev dktX8_command_9 : List UInt8 := dkwX8_command_9 ++ dktX8_command_10
def dkwX8_command_8 : List UInt8 := [182, 0, 59, 181, 0, 63, 42, 42, 16, 42, 4, 182, 0, 59, 181, 0, 66, 167, 0, 55, 42, 42, 4]
abbrev dktX8_command_8 : List UInt8 := dkwX8_command_8 ++ dktX8_command_9
def dkwX8_command_7 : List UInt8 := [42, 182, 0, 69, 181, 0, 56, 167, 0, 89, 42, 42, 4, 182, 0, 43, 181, 0, 56, 42, 42, 16, 62, 4]
abbrev dktX8_command_7 : List UInt8 := dkwX8_command_7 ++ dktX8_command_8
def dkwX8_command_6 : List UInt8 := [16, 58, 5, 182, 0, 59, 181, 0, 63, 42, 42, 16, 45, 5, 182, 0, 59, 181, 0, 66, 167, 0, 100, 42]
abbrev dktX8_command_6 : List UInt8 := dkwX8_command_6 ++ dktX8_command_7
def dkwX8_command_5 : List UInt8 := [4, 182, 0, 59, 181, 0, 66, 167, 0, 137, 167, 0, 134, 42, 42, 4, 182, 0, 43, 181, 0, 56, 42, 42]
abbrev dktX8_command_5 : List UInt8 := dkwX8_command_5 ++ dktX8_command_6
def dkwX8_command_4 : List UInt8 := [42, 42, 5, 182, 0, 43, 181, 0, 56, 42, 42, 16, 45, 5, 182, 0, 59, 181, 0, 63, 42, 42, 16, 61]
abbrev dktX8_command_4 : List UInt8 := dkwX8_command_4 ++ dktX8_command_5
def dkwX8_command_3 : List UInt8 := [170, 0, 0, 1, 4, 0, 0, 0, 98, 0, 0, 0, 119, 0, 0, 0, 183, 0, 0, 1, 4, 0, 0, 1, 4, 0, 0, 1, 4, 0, 0, 1, 4, 0, 0, 1, 4, 0, 0, 0, 101, 0, 0, 1, 4, 0, 0, 1, 4, 0, 0, 1, 4, 0, 0, 1, 4, 0, 0, 0, 172, 0, 0, 1, 4, 0, 0, 1, 4, 0, 0, 1, 4, 0, 0, 1, 4, 0, 0, 0, 237, 0, 0, 0, 135, 0, 0, 0, 138, 0, 0, 1, 4, 0, 0, 1, 4, 0, 0, 0, 217]
abbrev dktX8_command_3 : List UInt8 := dkwX8_command_3 ++ dktX8_command_4
def dkwX8_command_2 : List UInt8 := [180, 0, 22, 42, 180, 0, 15, 52, 60, 42, 89, 180, 0, 15, 4, 96, 181, 0, 15, 27]
abbrev dktX8_command_2 : List UInt8 := dkwX8_command_2 ++ dktX8_command_3
def dkwX8_command_1 : List UInt8 := [42, 180, 0, 15, 52, 182, 0, 49, 155, 0, 7, 4, 167, 0, 4, 3, 182, 0, 39, 42, 180, 0, 3]
abbrev dktX8_command_1 : List UInt8 := dkwX8_command_1 ++ dktX8_command_2
def dkwX8_command_0 : List UInt8 := [42, 42, 180, 0, 15, 42, 180, 0, 3, 180, 0, 19, 162, 0, 27, 18, 54, 42, 180, 0, 3, 180, 0, 22]
abbrev dktX8_command_0 : List UInt8 := dkwX8_command_0 ++ dktX8_command_1
theorem dksX8_command_0 : cX8_command.data.toList.drop 0 = dktX8_command_0 := by decide +kernel
theorem dksX8_command_1 : cX8_command.data.toList.drop 24 = dktX8_command_1 := dk_seg dksX8_command_0 24 rfl rfl
theorem dksX8_command_2 : cX8_command.data.toList.drop 47 = dktX8_command_2 := dk_seg dksX8_command_1 23 rfl rfl
theorem dksX8_command_3 : cX8_command.data.toList.drop 67 = dktX8_command_3 := dk_seg dksX8_command_2 20 rfl rfl
theorem dksX8_command_4 : cX8_command.data.toList.drop 168 = dktX8_command_4 := dk_seg dksX8_command_3 101 rfl rfl
theorem dksX8_command_5 : cX8_command.data.toList.drop 192 = dktX8_command_5 := dk_seg dksX8_command_4 24 rfl rfl
theorem dksX8_command_6 : cX8_command.data.toList.drop 216 = dktX8_command_6 := dk_seg dksX8_command_5 24 rfl rfl
theorem dksX8_command_7 : cX8_command.data.toList.drop 240 = dktX8_command_7 := dk_seg dksX8_command_6 24 rfl rfl
theorem dksX8_command_8 : cX8_command.data.toList.drop 264 = dktX8_command_8 := dk_seg dksX8_command_7 24 rfl rfl
theorem dksX8_command_9 : cX8_command.data.toList.drop 287 = dktX8_command_9 := dk_seg dksX8_command_8 23 rfl rfl
theorem dksX8_command_10 : cX8_command.data.toList.drop 310 = dktX8_command_10 := dk_seg dksX8_command_9 23 rfl rfl
theorem dksX8_command_11 : cX8_command.data.toList.drop 333 = dktX8_command_11 := dk_seg dksX8_command_10 23 rfl rfl
theorem dX8_command_0 : decode cX8_command 0 = .ok (.aload_n 0, 1) := dk_42 (dk_at dksX8_command_0 0 rfl rfl)
theorem dX8_command_1 : decode cX8_command 1 = .ok (.aload_n 0, 1) := dk_42 (dk_at dksX8_command_0 1 rfl rfl)
theorem dX8_command_2 : decode cX8_command 2 = .ok (.getfield 15, 3) := dk_180 0 15 (dk_at dksX8_command_0 2 rfl rfl)
theorem dX8_command_5 : decode cX8_command 5 = .ok (.aload_n 0, 1) := dk_42 (dk_at dksX8_command_0 5 rfl rfl)
theorem dX8_command_6 : decode cX8_command 6 = .ok (.getfield 3, 3) := dk_180 0 3 (dk_at dksX8_command_0 6 rfl rfl)
theorem dX8_command_9 : decode cX8_command 9 = .ok (.getfield 19, 3) := dk_180 0 19 (dk_at dksX8_command_0 9 rfl rfl)
theorem dX8_command_12 : decode cX8_command 12 = .ok (.if_icmp .ge 27, 3) := dk_162 0 27 (dk_at dksX8_command_0 12 rfl rfl)
theorem dX8_command_15 : decode cX8_command 15 = .ok (.ldc 54, 2) := dk_18 54 (dk_at dksX8_command_0 15 rfl rfl)
theorem dX8_command_17 : decode cX8_command 17 = .ok (.aload_n 0, 1) := dk_42 (dk_at dksX8_command_0 17 rfl rfl)
theorem dX8_command_18 : decode cX8_command 18 = .ok (.getfield 3, 3) := dk_180 0 3 (dk_at dksX8_command_0 18 rfl rfl)
theorem dX8_command_21 : decode cX8_command 21 = .ok (.getfield 22, 3) := dk_180 0 22 (dk_at dksX8_command_0 21 rfl rfl)
theorem dX8_command_24 : decode cX8_command 24 = .ok (.aload_n 0, 1) := dk_42 (dk_at dksX8_command_1 0 rfl rfl)
theorem dX8_command_25 : decode cX8_command 25 = .ok (.getfield 15, 3) := dk_180 0 15 (dk_at dksX8_command_1 1 rfl rfl)
theorem dX8_command_28 : decode cX8_command 28 = .ok (.caload, 1) := dk_52 (dk_at dksX8_command_1 4 rfl rfl)
theorem dX8_command_29 : decode cX8_command 29 = .ok (.invokevirtual 49, 3) := dk_182 0 49 (dk_at dksX8_command_1 5 rfl rfl)
theorem dX8_command_32 : decode cX8_command 32 = .ok (.ifCond .lt 7, 3) := dk_155 0 7 (dk_at dksX8_command_1 8 rfl rfl)
theorem dX8_command_35 : decode cX8_command 35 = .ok (.iconst 1, 1) := dk_4 (dk_at dksX8_command_1 11 rfl rfl)
theorem dX8_command_36 : decode cX8_command 36 = .ok (.goto 4, 3) := dk_167 0 4 (dk_at dksX8_command_1 12 rfl rfl)
theorem dX8_command_39 : decode cX8_command 39 = .ok (.iconst 0, 1) := dk_3 (dk_at dksX8_command_1 15 rfl rfl)
theorem dX8_command_40 : decode cX8_command 40 = .ok (.invokevirtual 39, 3) := dk_182 0 39 (dk_at dksX8_command_1 16 rfl rfl)
theorem dX8_command_43 : decode cX8_command 43 = .ok (.aload_n 0, 1) := dk_42 (dk_at dksX8_command_1 19 rfl rfl)
theorem dX8_command_44 : decode cX8_command 44 = .ok (.getfield 3, 3) := dk_180 0 3 (dk_at dksX8_command_1 20 rfl rfl)
theorem dX8_command_47 : decode cX8_command 47 = .ok (.getfield 22, 3) := dk_180 0 22 (dk_at dksX8_command_2 0 rfl rfl)
theorem dX8_command_50 : decode cX8_command 50 = .ok (.aload_n 0, 1) := dk_42 (dk_at dksX8_command_2 3 rfl rfl)
theorem dX8_command_51 : decode cX8_command 51 = .ok (.getfield 15, 3) := dk_180 0 15 (dk_at dksX8_command_2 4 rfl rfl)
theorem dX8_command_54 : decode cX8_command 54 = .ok (.caload, 1) := dk_52 (dk_at dksX8_command_2 7 rfl rfl)
theorem dX8_command_55 : decode cX8_command 55 = .ok (.istore_n 1, 1) := dk_60 (dk_at dksX8_command_2 8 rfl rfl)
theorem dX8_command_56 : decode cX8_command 56 = .ok (.aload_n 0, 1) := dk_42 (dk_at dksX8_command_2 9 rfl rfl)
theorem dX8_command_57 : decode cX8_command 57 = .ok (.dup, 1) := dk_89 (dk_at dksX8_command_2 10 rfl rfl)
theorem dX8_command_58 : decode cX8_command 58 = .ok (.getfield 15, 3) := dk_180 0 15 (dk_at dksX8_command_2 11 rfl rfl)
theorem dX8_command_61 : decode cX8_command 61 = .ok (.iconst 1, 1) := dk_4 (dk_at dksX8_command_2 14 rfl rfl)
theorem dX8_command_62 : decode cX8_command 62 = .ok (.iadd, 1) := dk_96 (dk_at dksX8_command_2 15 rfl rfl)
theorem dX8_command_63 : decode cX8_command 63 = .ok (.putfield 15, 3) := dk_181 0 15 (dk_at dksX8_command_2 16 rfl rfl)
theorem dX8_command_66 : decode cX8_command 66 = .ok (.iload_n 1, 1) := dk_27 (dk_at dksX8_command_2 19 rfl rfl)
theorem dX8_command_67 : decode cX8_command 67 = .ok (.tableswitch 260 98 119 #[183, 260, 260, 260, 260, 260, 101, 260, 260, 260, 260, 172, 260, 260, 260, 260, 237, 135, 138, 260, 260, 217], 101) := by decide +kernel
theorem dX8_command_168 : decode cX8_command 168 = .ok (.aload_n 0, 1) := dk_42 (dk_at dksX8_command_4 0 rfl rfl)
theorem dX8_command_169 : decode cX8_command 169 = .ok (.aload_n 0, 1) := dk_42 (dk_at dksX8_command_4 1 rfl rfl)
theorem dX8_command_170 : decode cX8_command 170 = .ok (.iconst 2, 1) := dk_5 (dk_at dksX8_command_4 2 rfl rfl)
theorem dX8_command_171 : decode cX8_command 171 = .ok (.invokevirtual 43, 3) := dk_182 0 43 (dk_at dksX8_command_4 3 rfl rfl)
theorem dX8_command_174 : decode cX8_command 174 = .ok (.putfield 56, 3) := dk_181 0 56 (dk_at dksX8_command_4 6 rfl rfl)
theorem dX8_command_177 : decode cX8_command 177 = .ok (.aload_n 0, 1) := dk_42 (dk_at dksX8_command_4 9 rfl rfl)
theorem dX8_command_178 : decode cX8_command 178 = .ok (.aload_n 0, 1) := dk_42 (dk_at dksX8_command_4 10 rfl rfl)
theorem dX8_command_179 : decode cX8_command 179 = .ok (.bipush 45, 2) := dk_16 45 (dk_at dksX8_command_4 11 rfl rfl)
theorem dX8_command_181 : decode cX8_command 181 = .ok (.iconst 2, 1) := dk_5 (dk_at dksX8_command_4 13 rfl rfl)
theorem dX8_command_182 : decode cX8_command 182 = .ok (.invokevirtual 59, 3) := dk_182 0 59 (dk_at dksX8_command_4 14 rfl rfl)
theorem dX8_command_185 : decode cX8_command 185 = .ok (.putfield 63, 3) := dk_181 0 63 (dk_at dksX8_command_4 17 rfl rfl)
theorem dX8_command_188 : decode cX8_command 188 = .ok (.aload_n 0, 1) := dk_42 (dk_at dksX8_command_4 20 rfl rfl)
theorem dX8_command_189 : decode cX8_command 189 = .ok (.aload_n 0, 1) := dk_42 (dk_at dksX8_command_4 21 rfl rfl)
theorem dX8_command_190 : decode cX8_command 190 = .ok (.bipush 61, 2) := dk_16 61 (dk_at dksX8_command_4 22 rfl rfl)
theorem dX8_command_192 : decode cX8_command 192 = .ok (.iconst 1, 1) := dk_4 (dk_at dksX8_command_5 0 rfl rfl)
theorem dX8_command_193 : decode cX8_command 193 = .ok (.invokevirtual 59, 3) := dk_182 0 59 (dk_at dksX8_command_5 1 rfl rfl)
theorem dX8_command_196 : decode cX8_command 196 = .ok (.putfield 66, 3) := dk_181 0 66 (dk_at dksX8_command_5 4 rfl rfl)
theorem dX8_command_199 : decode cX8_command 199 = .ok (.goto 137, 3) := dk_167 0 137 (dk_at dksX8_command_5 7 rfl rfl)
theorem dX8_command_202 : decode cX8_command 202 = .ok (.goto 134, 3) := dk_167 0 134 (dk_at dksX8_command_5 10 rfl rfl)
theorem dX8_command_205 : decode cX8_command 205 = .ok (.aload_n 0, 1) := dk_42 (dk_at dksX8_command_5 13 rfl rfl)
theorem dX8_command_206 : decode cX8_command 206 = .ok (.aload_n 0, 1) := dk_42 (dk_at dksX8_command_5 14 rfl rfl)
theorem dX8_command_207 : decode cX8_command 207 = .ok (.iconst 1, 1) := dk_4 (dk_at dksX8_command_5 15 rfl rfl)
theorem dX8_command_208 : decode cX8_command 208 = .ok (.invokevirtual 43, 3) := dk_182 0 43 (dk_at dksX8_command_5 16 rfl rfl)
theorem dX8_command_211 : decode cX8_command 211 = .ok (.putfield 56, 3) := dk_181 0 56 (dk_at dksX8_command_5 19 rfl rfl)
theorem dX8_command_214 : decode cX8_command 214 = .ok (.aload_n 0, 1) := dk_42 (dk_at dksX8_command_5 22 rfl rfl)
theorem dX8_command_215 : decode cX8_command 215 = .ok (.aload_n 0, 1) := dk_42 (dk_at dksX8_command_5 23 rfl rfl)
theorem dX8_command_216 : decode cX8_command 216 = .ok (.bipush 58, 2) := dk_16 58 (dk_at dksX8_command_6 0 rfl rfl)
theorem dX8_command_218 : decode cX8_command 218 = .ok (.iconst 2, 1) := dk_5 (dk_at dksX8_command_6 2 rfl rfl)
theorem dX8_command_219 : decode cX8_command 219 = .ok (.invokevirtual 59, 3) := dk_182 0 59 (dk_at dksX8_command_6 3 rfl rfl)
theorem dX8_command_222 : decode cX8_command 222 = .ok (.putfield 63, 3) := dk_181 0 63 (dk_at dksX8_command_6 6 rfl rfl)
theorem dX8_command_225 : decode cX8_command 225 = .ok (.aload_n 0, 1) := dk_42 (dk_at dksX8_command_6 9 rfl rfl)
theorem dX8_command_226 : decode cX8_command 226 = .ok (.aload_n 0, 1) := dk_42 (dk_at dksX8_command_6 10 rfl rfl)
theorem dX8_command_227 : decode cX8_command 227 = .ok (.bipush 45, 2) := dk_16 45 (dk_at dksX8_command_6 11 rfl rfl)
theorem dX8_command_229 : decode cX8_command 229 = .ok (.iconst 2, 1) := dk_5 (dk_at dksX8_command_6 13 rfl rfl)
theorem dX8_command_230 : decode cX8_command 230 = .ok (.invokevirtual 59, 3) := dk_182 0 59 (dk_at dksX8_command_6 14 rfl rfl)
theorem dX8_command_233 : decode cX8_command 233 = .ok (.putfield 66, 3) := dk_181 0 66 (dk_at dksX8_command_6 17 rfl rfl)
theorem dX8_command_236 : decode cX8_command 236 = .ok (.goto 100, 3) := dk_167 0 100 (dk_at dksX8_command_6 20 rfl rfl)
theorem dX8_command_239 : decode cX8_command 239 = .ok (.aload_n 0, 1) := dk_42 (dk_at dksX8_command_6 23 rfl rfl)
theorem dX8_command_240 : decode cX8_command 240 = .ok (.aload_n 0, 1) := dk_42 (dk_at dksX8_command_7 0 rfl rfl)
theorem dX8_command_241 : decode cX8_command 241 = .ok (.invokevirtual 69, 3) := dk_182 0 69 (dk_at dksX8_command_7 1 rfl rfl)
theorem dX8_command_244 : decode cX8_command 244 = .ok (.putfield 56, 3) := dk_181 0 56 (dk_at dksX8_command_7 4 rfl rfl)
theorem dX8_command_247 : decode cX8_command 247 = .ok (.goto 89, 3) := dk_167 0 89 (dk_at dksX8_command_7 7 rfl rfl)
theorem dX8_command_250 : decode cX8_command 250 = .ok (.aload_n 0, 1) := dk_42 (dk_at dksX8_command_7 10 rfl rfl)
theorem dX8_command_251 : decode cX8_command 251 = .ok (.aload_n 0, 1) := dk_42 (dk_at dksX8_command_7 11 rfl rfl)
theorem dX8_command_252 : decode cX8_command 252 = .ok (.iconst 1, 1) := dk_4 (dk_at dksX8_command_7 12 rfl rfl)
theorem dX8_command_253 : decode cX8_command 253 = .ok (.invokevirtual 43, 3) := dk_182 0 43 (dk_at dksX8_command_7 13 rfl rfl)
theorem dX8_command_256 : decode cX8_command 256 = .ok (.putfield 56, 3) := dk_181 0 56 (dk_at dksX8_command_7 16 rfl rfl)
theorem dX8_command_259 : decode cX8_command 259 = .ok (.aload_n 0, 1) := dk_42 (dk_at dksX8_command_7 19 rfl rfl)
theorem dX8_command_260 : decode cX8_command 260 = .ok (.aload_n 0, 1) := dk_42 (dk_at dksX8_command_7 20 rfl rfl)
theorem dX8_command_261 : decode cX8_command 261 = .ok (.bipush 62, 2) := dk_16 62 (dk_at dksX8_command_7 21 rfl rfl)
theorem dX8_command_263 : decode cX8_command 263 = .ok (.iconst 1, 1) := dk_4 (dk_at dksX8_command_7 23 rfl rfl)
theorem dX8_command_264 : decode cX8_command 264 = .ok (.invokevirtual 59, 3) := dk_182 0 59 (dk_at dksX8_command_8 0 rfl rfl)
theorem dX8_command_267 : decode cX8_command 267 = .ok (.putfield 63, 3) := dk_181 0 63 (dk_at dksX8_command_8 3 rfl rfl)
theorem dX8_command_270 : decode cX8_command 270 = .ok (.aload_n 0, 1) := dk_42 (dk_at dksX8_command_8 6 rfl rfl)
theorem dX8_command_271 : decode cX8_command 271 = .ok (.aload_n 0, 1) := dk_42 (dk_at dksX8_command_8 7 rfl rfl)
theorem dX8_command_272 : decode cX8_command 272 = .ok (.bipush 42, 2) := dk_16 42 (dk_at dksX8_command_8 8 rfl rfl)
theorem dX8_command_274 : decode cX8_command 274 = .ok (.iconst 1, 1) := dk_4 (dk_at dksX8_command_8 10 rfl rfl)
theorem dX8_command_275 : decode cX8_command 275 = .ok (.invokevirtual 59, 3) := dk_182 0 59 (dk_at dksX8_command_8 11 rfl rfl)
theorem dX8_command_278 : decode cX8_command 278 = .ok (.putfield 66, 3) := dk_181 0 66 (dk_at dksX8_command_8 14 rfl rfl)
theorem dX8_command_281 : decode cX8_command 281 = .ok (.goto 55, 3) := dk_167 0 55 (dk_at dksX8_command_8 17 rfl rfl)
theorem dX8_command_284 : decode cX8_command 284 = .ok (.aload_n 0, 1) := dk_42 (dk_at dksX8_command_8 20 rfl rfl)
theorem dX8_command_285 : decode cX8_command 285 = .ok (.aload_n 0, 1) := dk_42 (dk_at dksX8_command_8 21 rfl rfl)
theorem dX8_command_286 : decode cX8_command 286 = .ok (.iconst 1, 1) := dk_4 (dk_at dksX8_command_8 22 rfl rfl)
theorem dX8_command_287 : decode cX8_command 287 = .ok (.invokevirtual 43, 3) := dk_182 0 43 (dk_at dksX8_command_9 0 rfl rfl)
theorem dX8_command_290 : decode cX8_command 290 = .ok (.putfield 56, 3) := dk_181 0 56 (dk_at dksX8_command_9 3 rfl rfl)
theorem dX8_command_293 : decode cX8_command 293 = .ok (.aload_n 0, 1) := dk_42 (dk_at dksX8_command_9 6 rfl rfl)
theorem dX8_command_294 : decode cX8_command 294 = .ok (.aload_n 0, 1) := dk_42 (dk_at dksX8_command_9 7 rfl rfl)
theorem dX8_command_295 : decode cX8_command 295 = .ok (.invokevirtual 73, 3) := dk_182 0 73 (dk_at dksX8_command_9 8 rfl rfl)
theorem dX8_command_298 : decode cX8_command 298 = .ok (.putfield 63, 3) := dk_181 0 63 (dk_at dksX8_command_9 11 rfl rfl)
theorem dX8_command_301 : decode cX8_command 301 = .ok (.goto 35, 3) := dk_167 0 35 (dk_at dksX8_command_9 14 rfl rfl)
theorem dX8_command_304 : decode cX8_command 304 = .ok (.aload_n 0, 1) := dk_42 (dk_at dksX8_command_9 17 rfl rfl)
theorem dX8_command_305 : decode cX8_command 305 = .ok (.aload_n 0, 1) := dk_42 (dk_at dksX8_command_9 18 rfl rfl)
theorem dX8_command_306 : decode cX8_command 306 = .ok (.iconst 1, 1) := dk_4 (dk_at dksX8_command_9 19 rfl rfl)
theorem dX8_command_307 : decode cX8_command 307 = .ok (.invokevirtual 43, 3) := dk_182 0 43 (dk_at dksX8_command_9 20 rfl rfl)
theorem dX8_command_310 : decode cX8_command 310 = .ok (.putfield 56, 3) := dk_181 0 56 (dk_at dksX8_command_10 0 rfl rfl)
theorem dX8_command_313 : decode cX8_command 313 = .ok (.aload_n 0, 1) := dk_42 (dk_at dksX8_command_10 3 rfl rfl)
theorem dX8_command_314 : decode cX8_command 314 = .ok (.aload_n 0, 1) := dk_42 (dk_at dksX8_command_10 4 rfl rfl)
theorem dX8_command_315 : decode cX8_command 315 = .ok (.bipush 43, 2) := dk_16 43 (dk_at dksX8_command_10 5 rfl rfl)
theorem dX8_command_317 : decode cX8_command 317 = .ok (.iconst 1, 1) := dk_4 (dk_at dksX8_command_10 7 rfl rfl)
theorem dX8_command_318 : decode cX8_command 318 = .ok (.invokevirtual 59, 3) := dk_182 0 59 (dk_at dksX8_command_10 8 rfl rfl)
theorem dX8_command_321 : decode cX8_command 321 = .ok (.putfield 63, 3) := dk_181 0 63 (dk_at dksX8_command_10 11 rfl rfl)
theorem dX8_command_324 : decode cX8_command 324 = .ok (.goto 12, 3) := dk_167 0 12 (dk_at dksX8_command_10 14 rfl rfl)
theorem dX8_command_327 : decode cX8_command 327 = .ok (.aload_n 0, 1) := dk_42 (dk_at dksX8_command_10 17 rfl rfl)
theorem dX8_command_328 : decode cX8_command 328 = .ok (.aload_n 0, 1) := dk_42 (dk_at dksX8_command_10 18 rfl rfl)
theorem dX8_command_329 : decode cX8_command 329 = .ok (.iconst 2, 1) := dk_5 (dk_at dksX8_command_10 19 rfl rfl)
theorem dX8_command_330 : decode cX8_command 330 = .ok (.invokevirtual 43, 3) := dk_182 0 43 (dk_at dksX8_command_10 20 rfl rfl)
theorem dX8_command_333 : decode cX8_command 333 = .ok (.putfield 56, 3) := dk_181 0 56 (dk_at dksX8_command_11 0 rfl rfl)
theorem dX8_command_336 : decode cX8_command 336 = .ok (.iload_n 1, 1) := dk_27 (dk_at dksX8_command_11 3 rfl rfl)
theorem dX8_command_337 : decode cX8_command 337 = .ok (.ireturn, 1) := dk_172 (dk_at dksX8_command_11 4 rfl rfl)
abbrev cX8_must : ByteArray := prog_5_method_3_code
def yX8_must : MethodName := ⟨RX8, "must", "(Z)V"⟩
def dkwX8_must_0 : List UInt8 := [27, 154, 0, 15, 187, 0, 30, 89, 42, 180, 0, 15, 183, 0, 32, 191, 177]
abbrev dktX8_must_0 : List UInt8 := dkwX8_must_0 ++ []
theorem dksX8_must_0 : cX8_must.data.toList.drop 0 = dktX8_must_0 := by decide +kernel
theorem dX8_must_0 : decode cX8_must 0 = .ok (.iload_n 1, 1) := dk_27 (dk_at dksX8_must_0 0 rfl rfl)
theorem dX8_must_1 : decode cX8_must 1 = .ok (.ifCond .ne 15, 3) := dk_154 0 15 (dk_at dksX8_must_0 1 rfl rfl)
theorem dX8_must_4 : decode cX8_must 4 = .ok (.new 30, 3) := dk_187 0 30 (dk_at dksX8_must_0 4 rfl rfl)
theorem dX8_must_7 : decode cX8_must 7 = .ok (.dup, 1) := dk_89 (dk_at dksX8_must_0 7 rfl rfl)
theorem dX8_must_8 : decode cX8_must 8 = .ok (.aload_n 0, 1) := dk_42 (dk_at dksX8_must_0 8 rfl rfl)
theorem dX8_must_9 : decode cX8_must 9 = .ok (.getfield 15, 3) := dk_180 0 15 (dk_at dksX8_must_0 9 rfl rfl)
theorem dX8_must_12 : decode cX8_must 12 = .ok (.invokespecial 32, 3) := dk_183 0 32 (dk_at dksX8_must_0 12 rfl rfl)
theorem dX8_must_15 : decode cX8_must 15 = .ok (.athrow, 1) := dk_191 (dk_at dksX8_must_0 15 rfl rfl)
theorem dX8_must_16 : decode cX8_must 16 = .ok (.return_, 1) := dk_177 (dk_at dksX8_must_0 16 rfl rfl)
abbrev cX8_number : ByteArray := prog_5_method_4_code
def yX8_number : MethodName := ⟨RX8, "number", "(I)I"⟩
def dkwX8_number_2 : List UInt8 := [96, 16, 48, 100, 61, 42, 89, 180, 0, 15, 4, 96, 181, 0, 15, 132, 3, 1, 167, 255, 206, 28, 172]
abbrev dktX8_number_2 : List UInt8 := dkwX8_number_2 ++ []
def dkwX8_number_1 : List UInt8 := [16, 57, 182, 0, 35, 153, 0, 40, 16, 10, 28, 104, 42, 180, 0, 3, 180, 0, 22, 42, 180, 0, 15, 52]
abbrev dktX8_number_1 : List UInt8 := dkwX8_number_1 ++ dktX8_number_2
def dkwX8_number_0 : List UInt8 := [42, 42, 16, 48, 16, 57, 182, 0, 35, 182, 0, 39, 3, 61, 3, 62, 29, 27, 162, 0, 51, 42, 16, 48]
abbrev dktX8_number_0 : List UInt8 := dkwX8_number_0 ++ dktX8_number_1
theorem dksX8_number_0 : cX8_number.data.toList.drop 0 = dktX8_number_0 := by decide +kernel
theorem dksX8_number_1 : cX8_number.data.toList.drop 24 = dktX8_number_1 := dk_seg dksX8_number_0 24 rfl rfl
theorem dksX8_number_2 : cX8_number.data.toList.drop 48 = dktX8_number_2 := dk_seg dksX8_number_1 24 rfl rfl
theorem dX8_number_0 : decode cX8_number 0 = .ok (.aload_n 0, 1) := dk_42 (dk_at dksX8_number_0 0 rfl rfl)
theorem dX8_number_1 : decode cX8_number 1 = .ok (.aload_n 0, 1) := dk_42 (dk_at dksX8_number_0 1 rfl rfl)
theorem dX8_number_2 : decode cX8_number 2 = .ok (.bipush 48, 2) := dk_16 48 (dk_at dksX8_number_0 2 rfl rfl)
theorem dX8_number_4 : decode cX8_number 4 = .ok (.bipush 57, 2) := dk_16 57 (dk_at dksX8_number_0 4 rfl rfl)
theorem dX8_number_6 : decode cX8_number 6 = .ok (.invokevirtual 35, 3) := dk_182 0 35 (dk_at dksX8_number_0 6 rfl rfl)
theorem dX8_number_9 : decode cX8_number 9 = .ok (.invokevirtual 39, 3) := dk_182 0 39 (dk_at dksX8_number_0 9 rfl rfl)
theorem dX8_number_12 : decode cX8_number 12 = .ok (.iconst 0, 1) := dk_3 (dk_at dksX8_number_0 12 rfl rfl)
theorem dX8_number_13 : decode cX8_number 13 = .ok (.istore_n 2, 1) := dk_61 (dk_at dksX8_number_0 13 rfl rfl)
theorem dX8_number_14 : decode cX8_number 14 = .ok (.iconst 0, 1) := dk_3 (dk_at dksX8_number_0 14 rfl rfl)
theorem dX8_number_15 : decode cX8_number 15 = .ok (.istore_n 3, 1) := dk_62 (dk_at dksX8_number_0 15 rfl rfl)
theorem dX8_number_16 : decode cX8_number 16 = .ok (.iload_n 3, 1) := dk_29 (dk_at dksX8_number_0 16 rfl rfl)
theorem dX8_number_17 : decode cX8_number 17 = .ok (.iload_n 1, 1) := dk_27 (dk_at dksX8_number_0 17 rfl rfl)
theorem dX8_number_18 : decode cX8_number 18 = .ok (.if_icmp .ge 51, 3) := dk_162 0 51 (dk_at dksX8_number_0 18 rfl rfl)
theorem dX8_number_21 : decode cX8_number 21 = .ok (.aload_n 0, 1) := dk_42 (dk_at dksX8_number_0 21 rfl rfl)
theorem dX8_number_22 : decode cX8_number 22 = .ok (.bipush 48, 2) := dk_16 48 (dk_at dksX8_number_0 22 rfl rfl)
theorem dX8_number_24 : decode cX8_number 24 = .ok (.bipush 57, 2) := dk_16 57 (dk_at dksX8_number_1 0 rfl rfl)
theorem dX8_number_26 : decode cX8_number 26 = .ok (.invokevirtual 35, 3) := dk_182 0 35 (dk_at dksX8_number_1 2 rfl rfl)
theorem dX8_number_29 : decode cX8_number 29 = .ok (.ifCond .eq 40, 3) := dk_153 0 40 (dk_at dksX8_number_1 5 rfl rfl)
theorem dX8_number_32 : decode cX8_number 32 = .ok (.bipush 10, 2) := dk_16 10 (dk_at dksX8_number_1 8 rfl rfl)
theorem dX8_number_34 : decode cX8_number 34 = .ok (.iload_n 2, 1) := dk_28 (dk_at dksX8_number_1 10 rfl rfl)
theorem dX8_number_35 : decode cX8_number 35 = .ok (.imul, 1) := dk_104 (dk_at dksX8_number_1 11 rfl rfl)
theorem dX8_number_36 : decode cX8_number 36 = .ok (.aload_n 0, 1) := dk_42 (dk_at dksX8_number_1 12 rfl rfl)
theorem dX8_number_37 : decode cX8_number 37 = .ok (.getfield 3, 3) := dk_180 0 3 (dk_at dksX8_number_1 13 rfl rfl)
theorem dX8_number_40 : decode cX8_number 40 = .ok (.getfield 22, 3) := dk_180 0 22 (dk_at dksX8_number_1 16 rfl rfl)
theorem dX8_number_43 : decode cX8_number 43 = .ok (.aload_n 0, 1) := dk_42 (dk_at dksX8_number_1 19 rfl rfl)
theorem dX8_number_44 : decode cX8_number 44 = .ok (.getfield 15, 3) := dk_180 0 15 (dk_at dksX8_number_1 20 rfl rfl)
theorem dX8_number_47 : decode cX8_number 47 = .ok (.caload, 1) := dk_52 (dk_at dksX8_number_1 23 rfl rfl)
theorem dX8_number_48 : decode cX8_number 48 = .ok (.iadd, 1) := dk_96 (dk_at dksX8_number_2 0 rfl rfl)
theorem dX8_number_49 : decode cX8_number 49 = .ok (.bipush 48, 2) := dk_16 48 (dk_at dksX8_number_2 1 rfl rfl)
theorem dX8_number_51 : decode cX8_number 51 = .ok (.isub, 1) := dk_100 (dk_at dksX8_number_2 3 rfl rfl)
theorem dX8_number_52 : decode cX8_number 52 = .ok (.istore_n 2, 1) := dk_61 (dk_at dksX8_number_2 4 rfl rfl)
theorem dX8_number_53 : decode cX8_number 53 = .ok (.aload_n 0, 1) := dk_42 (dk_at dksX8_number_2 5 rfl rfl)
theorem dX8_number_54 : decode cX8_number 54 = .ok (.dup, 1) := dk_89 (dk_at dksX8_number_2 6 rfl rfl)
theorem dX8_number_55 : decode cX8_number 55 = .ok (.getfield 15, 3) := dk_180 0 15 (dk_at dksX8_number_2 7 rfl rfl)
theorem dX8_number_58 : decode cX8_number 58 = .ok (.iconst 1, 1) := dk_4 (dk_at dksX8_number_2 10 rfl rfl)
theorem dX8_number_59 : decode cX8_number 59 = .ok (.iadd, 1) := dk_96 (dk_at dksX8_number_2 11 rfl rfl)
theorem dX8_number_60 : decode cX8_number 60 = .ok (.putfield 15, 3) := dk_181 0 15 (dk_at dksX8_number_2 12 rfl rfl)
theorem dX8_number_63 : decode cX8_number 63 = .ok (.iinc 3 1, 3) := dk_132 3 1 (dk_at dksX8_number_2 15 rfl rfl)
theorem dX8_number_66 : decode cX8_number 66 = .ok (.goto (-50), 3) := dk_167 255 206 (dk_at dksX8_number_2 18 rfl rfl)
theorem dX8_number_69 : decode cX8_number 69 = .ok (.iload_n 2, 1) := dk_28 (dk_at dksX8_number_2 21 rfl rfl)
theorem dX8_number_70 : decode cX8_number 70 = .ok (.ireturn, 1) := dk_172 (dk_at dksX8_number_2 22 rfl rfl)
abbrev cX8_sees : ByteArray := prog_5_method_2_code
def yX8_sees : MethodName := ⟨RX8, "sees", "(CC)Z"⟩
def dkwX8_sees_1 : List UInt8 := [180, 0, 15, 52, 27, 28, 184, 0, 26, 153, 0, 7, 4, 167, 0, 4, 3, 172]
abbrev dktX8_sees_1 : List UInt8 := dkwX8_sees_1 ++ []
def dkwX8_sees_0 : List UInt8 := [42, 180, 0, 15, 42, 180, 0, 3, 180, 0, 19, 162, 0, 27, 42, 180, 0, 3, 180, 0, 22, 42]
abbrev dktX8_sees_0 : List UInt8 := dkwX8_sees_0 ++ dktX8_sees_1
theorem dksX8_sees_0 : cX8_sees.data.toList.drop 0 = dktX8_sees_0 := by decide +kernel
theorem dksX8_sees_1 : cX8_sees.data.toList.drop 22 = dktX8_sees_1 := dk_seg dksX8_sees_0 22 rfl rfl
theorem dX8_sees_0 : decode cX8_sees 0 = .ok (.aload_n 0, 1) := dk_42 (dk_at dksX8_sees_0 0 rfl rfl)
theorem dX8_sees_1 : decode cX8_sees 1 = .ok (.getfield 15, 3) := dk_180 0 15 (dk_at dksX8_sees_0 1 rfl rfl)
theorem dX8_sees_4 : decode cX8_sees 4 = .ok (.aload_n 0, 1) := dk_42 (dk_at dksX8_sees_0 4 rfl rfl)
theorem dX8_sees_5 : decode cX8_sees 5 = .ok (.getfield 3, 3) := dk_180 0 3 (dk_at dksX8_sees_0 5 rfl rfl)
theorem dX8_sees_8 : decode cX8_sees 8 = .ok (.getfield 19, 3) := dk_180 0 19 (dk_at dksX8_sees_0 8 rfl rfl)
theorem dX8_sees_11 : decode cX8_sees 11 = .ok (.if_icmp .ge 27, 3) := dk_162 0 27 (dk_at dksX8_sees_0 11 rfl rfl)
theorem dX8_sees_14 : decode cX8_sees 14 = .ok (.aload_n 0, 1) := dk_42 (dk_at dksX8_sees_0 14 rfl rfl)
theorem dX8_sees_15 : decode cX8_sees 15 = .ok (.getfield 3, 3) := dk_180 0 3 (dk_at dksX8_sees_0 15 rfl rfl)
theorem dX8_sees_18 : decode cX8_sees 18 = .ok (.getfield 22, 3) := dk_180 0 22 (dk_at dksX8_sees_0 18 rfl rfl)
theorem dX8_sees_21 : decode cX8_sees 21 = .ok (.aload_n 0, 1) := dk_42 (dk_at dksX8_sees_0 21 rfl rfl)
theorem dX8_sees_22 : decode cX8_sees 22 = .ok (.getfield 15, 3) := dk_180 0 15 (dk_at dksX8_sees_1 0 rfl rfl)
theorem dX8_sees_25 : decode cX8_sees 25 = .ok (.caload, 1) := dk_52 (dk_at dksX8_sees_1 3 rfl rfl)
theorem dX8_sees_26 : decode cX8_sees 26 = .ok (.iload_n 1, 1) := dk_27 (dk_at dksX8_sees_1 4 rfl rfl)
theorem dX8_sees_27 : decode cX8_sees 27 = .ok (.iload_n 2, 1) := dk_28 (dk_at dksX8_sees_1 5 rfl rfl)
theorem dX8_sees_28 : decode cX8_sees 28 = .ok (.invokestatic 26, 3) := dk_184 0 26 (dk_at dksX8_sees_1 6 rfl rfl)
theorem dX8_sees_31 : decode cX8_sees 31 = .ok (.ifCond .eq 7, 3) := dk_153 0 7 (dk_at dksX8_sees_1 9 rfl rfl)
theorem dX8_sees_34 : decode cX8_sees 34 = .ok (.iconst 1, 1) := dk_4 (dk_at dksX8_sees_1 12 rfl rfl)
theorem dX8_sees_35 : decode cX8_sees 35 = .ok (.goto 4, 3) := dk_167 0 4 (dk_at dksX8_sees_1 13 rfl rfl)
theorem dX8_sees_38 : decode cX8_sees 38 = .ok (.iconst 0, 1) := dk_3 (dk_at dksX8_sees_1 16 rfl rfl)
theorem dX8_sees_39 : decode cX8_sees 39 = .ok (.ireturn, 1) := dk_172 (dk_at dksX8_sees_1 17 rfl rfl)
abbrev cX8_behind : ByteArray := prog_5_method_5_code
def yX8_behind : MethodName := ⟨RX8, "behind", "(CI)I"⟩
def dkwX8_behind_1 : List UInt8 := [182, 0, 43, 172]
abbrev dktX8_behind_1 : List UInt8 := dkwX8_behind_1 ++ []
def dkwX8_behind_0 : List UInt8 := [42, 42, 27, 27, 182, 0, 35, 182, 0, 39, 42, 89, 180, 0, 15, 4, 96, 181, 0, 15, 42, 28]
abbrev dktX8_behind_0 : List UInt8 := dkwX8_behind_0 ++ dktX8_behind_1
theorem dksX8_behind_0 : cX8_behind.data.toList.drop 0 = dktX8_behind_0 := by decide +kernel
theorem dksX8_behind_1 : cX8_behind.data.toList.drop 22 = dktX8_behind_1 := dk_seg dksX8_behind_0 22 rfl rfl
theorem dX8_behind_0 : decode cX8_behind 0 = .ok (.aload_n 0, 1) := dk_42 (dk_at dksX8_behind_0 0 rfl rfl)
theorem dX8_behind_1 : decode cX8_behind 1 = .ok (.aload_n 0, 1) := dk_42 (dk_at dksX8_behind_0 1 rfl rfl)
theorem dX8_behind_2 : decode cX8_behind 2 = .ok (.iload_n 1, 1) := dk_27 (dk_at dksX8_behind_0 2 rfl rfl)
theorem dX8_behind_3 : decode cX8_behind 3 = .ok (.iload_n 1, 1) := dk_27 (dk_at dksX8_behind_0 3 rfl rfl)
theorem dX8_behind_4 : decode cX8_behind 4 = .ok (.invokevirtual 35, 3) := dk_182 0 35 (dk_at dksX8_behind_0 4 rfl rfl)
theorem dX8_behind_7 : decode cX8_behind 7 = .ok (.invokevirtual 39, 3) := dk_182 0 39 (dk_at dksX8_behind_0 7 rfl rfl)
theorem dX8_behind_10 : decode cX8_behind 10 = .ok (.aload_n 0, 1) := dk_42 (dk_at dksX8_behind_0 10 rfl rfl)
theorem dX8_behind_11 : decode cX8_behind 11 = .ok (.dup, 1) := dk_89 (dk_at dksX8_behind_0 11 rfl rfl)
theorem dX8_behind_12 : decode cX8_behind 12 = .ok (.getfield 15, 3) := dk_180 0 15 (dk_at dksX8_behind_0 12 rfl rfl)
theorem dX8_behind_15 : decode cX8_behind 15 = .ok (.iconst 1, 1) := dk_4 (dk_at dksX8_behind_0 15 rfl rfl)
theorem dX8_behind_16 : decode cX8_behind 16 = .ok (.iadd, 1) := dk_96 (dk_at dksX8_behind_0 16 rfl rfl)
theorem dX8_behind_17 : decode cX8_behind 17 = .ok (.putfield 15, 3) := dk_181 0 15 (dk_at dksX8_behind_0 17 rfl rfl)
theorem dX8_behind_20 : decode cX8_behind 20 = .ok (.aload_n 0, 1) := dk_42 (dk_at dksX8_behind_0 20 rfl rfl)
theorem dX8_behind_21 : decode cX8_behind 21 = .ok (.iload_n 2, 1) := dk_28 (dk_at dksX8_behind_0 21 rfl rfl)
theorem dX8_behind_22 : decode cX8_behind 22 = .ok (.invokevirtual 43, 3) := dk_182 0 43 (dk_at dksX8_behind_1 0 rfl rfl)
theorem dX8_behind_25 : decode cX8_behind 25 = .ok (.ireturn, 1) := dk_172 (dk_at dksX8_behind_1 3 rfl rfl)
abbrev cX8_cellOrNone : ByteArray := prog_5_method_7_code
def yX8_cellOrNone : MethodName := ⟨RX8, "cellOrNone", "()I"⟩
def dkwX8_cellOrNone_1 : List UInt8 := [5, 182, 0, 43, 172]
abbrev dktX8_cellOrNone_1 : List UInt8 := dkwX8_cellOrNone_1 ++ []
def dkwX8_cellOrNone_0 : List UInt8 := [42, 16, 120, 16, 120, 182, 0, 35, 153, 0, 15, 42, 89, 180, 0, 15, 4, 96, 181, 0, 15, 2, 172, 42]
abbrev dktX8_cellOrNone_0 : List UInt8 := dkwX8_cellOrNone_0 ++ dktX8_cellOrNone_1
theorem dksX8_cellOrNone_0 : cX8_cellOrNone.data.toList.drop 0 = dktX8_cellOrNone_0 := by decide +kernel
theorem dksX8_cellOrNone_1 : cX8_cellOrNone.data.toList.drop 24 = dktX8_cellOrNone_1 := dk_seg dksX8_cellOrNone_0 24 rfl rfl
theorem dX8_cellOrNone_0 : decode cX8_cellOrNone 0 = .ok (.aload_n 0, 1) := dk_42 (dk_at dksX8_cellOrNone_0 0 rfl rfl)
theorem dX8_cellOrNone_1 : decode cX8_cellOrNone 1 = .ok (.bipush 120, 2) := dk_16 120 (dk_at dksX8_cellOrNone_0 1 rfl rfl)
theorem dX8_cellOrNone_3 : decode cX8_cellOrNone 3 = .ok (.bipush 120, 2) := dk_16 120 (dk_at dksX8_cellOrNone_0 3 rfl rfl)
theorem dX8_cellOrNone_5 : decode cX8_cellOrNone 5 = .ok (.invokevirtual 35, 3) := dk_182 0 35 (dk_at dksX8_cellOrNone_0 5 rfl rfl)
theorem dX8_cellOrNone_8 : decode cX8_cellOrNone 8 = .ok (.ifCond .eq 15, 3) := dk_153 0 15 (dk_at dksX8_cellOrNone_0 8 rfl rfl)
theorem dX8_cellOrNone_11 : decode cX8_cellOrNone 11 = .ok (.aload_n 0, 1) := dk_42 (dk_at dksX8_cellOrNone_0 11 rfl rfl)
theorem dX8_cellOrNone_12 : decode cX8_cellOrNone 12 = .ok (.dup, 1) := dk_89 (dk_at dksX8_cellOrNone_0 12 rfl rfl)
theorem dX8_cellOrNone_13 : decode cX8_cellOrNone 13 = .ok (.getfield 15, 3) := dk_180 0 15 (dk_at dksX8_cellOrNone_0 13 rfl rfl)
theorem dX8_cellOrNone_16 : decode cX8_cellOrNone 16 = .ok (.iconst 1, 1) := dk_4 (dk_at dksX8_cellOrNone_0 16 rfl rfl)
theorem dX8_cellOrNone_17 : decode cX8_cellOrNone 17 = .ok (.iadd, 1) := dk_96 (dk_at dksX8_cellOrNone_0 17 rfl rfl)
theorem dX8_cellOrNone_18 : decode cX8_cellOrNone 18 = .ok (.putfield 15, 3) := dk_181 0 15 (dk_at dksX8_cellOrNone_0 18 rfl rfl)
theorem dX8_cellOrNone_21 : decode cX8_cellOrNone 21 = .ok (.iconst (-1), 1) := dk_2 (dk_at dksX8_cellOrNone_0 21 rfl rfl)
theorem dX8_cellOrNone_22 : decode cX8_cellOrNone 22 = .ok (.ireturn, 1) := dk_172 (dk_at dksX8_cellOrNone_0 22 rfl rfl)
theorem dX8_cellOrNone_23 : decode cX8_cellOrNone 23 = .ok (.aload_n 0, 1) := dk_42 (dk_at dksX8_cellOrNone_0 23 rfl rfl)
theorem dX8_cellOrNone_24 : decode cX8_cellOrNone 24 = .ok (.iconst 2, 1) := dk_5 (dk_at dksX8_cellOrNone_1 0 rfl rfl)
theorem dX8_cellOrNone_25 : decode cX8_cellOrNone 25 = .ok (.invokevirtual 43, 3) := dk_182 0 43 (dk_at dksX8_cellOrNone_1 1 rfl rfl)
theorem dX8_cellOrNone_28 : decode cX8_cellOrNone 28 = .ok (.ireturn, 1) := dk_172 (dk_at dksX8_cellOrNone_1 4 rfl rfl)
abbrev cX8_direction : ByteArray := prog_5_method_6_code
def yX8_direction : MethodName := ⟨RX8, "direction", "()I"⟩
def dkwX8_direction_2 : List UInt8 := [182, 0, 39, 42, 89, 180, 0, 15, 4, 96, 181, 0, 15, 27, 172]
abbrev dktX8_direction_2 : List UInt8 := dkwX8_direction_2 ++ []
def dkwX8_direction_1 : List UInt8 := [180, 0, 15, 52, 182, 0, 49, 167, 0, 4, 2, 60, 42, 27, 2, 159, 0, 7, 4, 167, 0, 4, 3]
abbrev dktX8_direction_1 : List UInt8 := dkwX8_direction_1 ++ dktX8_direction_2
def dkwX8_direction_0 : List UInt8 := [42, 180, 0, 15, 42, 180, 0, 3, 180, 0, 19, 162, 0, 23, 18, 47, 42, 180, 0, 3, 180, 0, 22, 42]
abbrev dktX8_direction_0 : List UInt8 := dkwX8_direction_0 ++ dktX8_direction_1
theorem dksX8_direction_0 : cX8_direction.data.toList.drop 0 = dktX8_direction_0 := by decide +kernel
theorem dksX8_direction_1 : cX8_direction.data.toList.drop 24 = dktX8_direction_1 := dk_seg dksX8_direction_0 24 rfl rfl
theorem dksX8_direction_2 : cX8_direction.data.toList.drop 47 = dktX8_direction_2 := dk_seg dksX8_direction_1 23 rfl rfl
theorem dX8_direction_0 : decode cX8_direction 0 = .ok (.aload_n 0, 1) := dk_42 (dk_at dksX8_direction_0 0 rfl rfl)
theorem dX8_direction_1 : decode cX8_direction 1 = .ok (.getfield 15, 3) := dk_180 0 15 (dk_at dksX8_direction_0 1 rfl rfl)
theorem dX8_direction_4 : decode cX8_direction 4 = .ok (.aload_n 0, 1) := dk_42 (dk_at dksX8_direction_0 4 rfl rfl)
theorem dX8_direction_5 : decode cX8_direction 5 = .ok (.getfield 3, 3) := dk_180 0 3 (dk_at dksX8_direction_0 5 rfl rfl)
theorem dX8_direction_8 : decode cX8_direction 8 = .ok (.getfield 19, 3) := dk_180 0 19 (dk_at dksX8_direction_0 8 rfl rfl)
theorem dX8_direction_11 : decode cX8_direction 11 = .ok (.if_icmp .ge 23, 3) := dk_162 0 23 (dk_at dksX8_direction_0 11 rfl rfl)
theorem dX8_direction_14 : decode cX8_direction 14 = .ok (.ldc 47, 2) := dk_18 47 (dk_at dksX8_direction_0 14 rfl rfl)
theorem dX8_direction_16 : decode cX8_direction 16 = .ok (.aload_n 0, 1) := dk_42 (dk_at dksX8_direction_0 16 rfl rfl)
theorem dX8_direction_17 : decode cX8_direction 17 = .ok (.getfield 3, 3) := dk_180 0 3 (dk_at dksX8_direction_0 17 rfl rfl)
theorem dX8_direction_20 : decode cX8_direction 20 = .ok (.getfield 22, 3) := dk_180 0 22 (dk_at dksX8_direction_0 20 rfl rfl)
theorem dX8_direction_23 : decode cX8_direction 23 = .ok (.aload_n 0, 1) := dk_42 (dk_at dksX8_direction_0 23 rfl rfl)
theorem dX8_direction_24 : decode cX8_direction 24 = .ok (.getfield 15, 3) := dk_180 0 15 (dk_at dksX8_direction_1 0 rfl rfl)
theorem dX8_direction_27 : decode cX8_direction 27 = .ok (.caload, 1) := dk_52 (dk_at dksX8_direction_1 3 rfl rfl)
theorem dX8_direction_28 : decode cX8_direction 28 = .ok (.invokevirtual 49, 3) := dk_182 0 49 (dk_at dksX8_direction_1 4 rfl rfl)
theorem dX8_direction_31 : decode cX8_direction 31 = .ok (.goto 4, 3) := dk_167 0 4 (dk_at dksX8_direction_1 7 rfl rfl)
theorem dX8_direction_34 : decode cX8_direction 34 = .ok (.iconst (-1), 1) := dk_2 (dk_at dksX8_direction_1 10 rfl rfl)
theorem dX8_direction_35 : decode cX8_direction 35 = .ok (.istore_n 1, 1) := dk_60 (dk_at dksX8_direction_1 11 rfl rfl)
theorem dX8_direction_36 : decode cX8_direction 36 = .ok (.aload_n 0, 1) := dk_42 (dk_at dksX8_direction_1 12 rfl rfl)
theorem dX8_direction_37 : decode cX8_direction 37 = .ok (.iload_n 1, 1) := dk_27 (dk_at dksX8_direction_1 13 rfl rfl)
theorem dX8_direction_38 : decode cX8_direction 38 = .ok (.iconst (-1), 1) := dk_2 (dk_at dksX8_direction_1 14 rfl rfl)
theorem dX8_direction_39 : decode cX8_direction 39 = .ok (.if_icmp .eq 7, 3) := dk_159 0 7 (dk_at dksX8_direction_1 15 rfl rfl)
theorem dX8_direction_42 : decode cX8_direction 42 = .ok (.iconst 1, 1) := dk_4 (dk_at dksX8_direction_1 18 rfl rfl)
theorem dX8_direction_43 : decode cX8_direction 43 = .ok (.goto 4, 3) := dk_167 0 4 (dk_at dksX8_direction_1 19 rfl rfl)
theorem dX8_direction_46 : decode cX8_direction 46 = .ok (.iconst 0, 1) := dk_3 (dk_at dksX8_direction_1 22 rfl rfl)
theorem dX8_direction_47 : decode cX8_direction 47 = .ok (.invokevirtual 39, 3) := dk_182 0 39 (dk_at dksX8_direction_2 0 rfl rfl)
theorem dX8_direction_50 : decode cX8_direction 50 = .ok (.aload_n 0, 1) := dk_42 (dk_at dksX8_direction_2 3 rfl rfl)
theorem dX8_direction_51 : decode cX8_direction 51 = .ok (.dup, 1) := dk_89 (dk_at dksX8_direction_2 4 rfl rfl)
theorem dX8_direction_52 : decode cX8_direction 52 = .ok (.getfield 15, 3) := dk_180 0 15 (dk_at dksX8_direction_2 5 rfl rfl)
theorem dX8_direction_55 : decode cX8_direction 55 = .ok (.iconst 1, 1) := dk_4 (dk_at dksX8_direction_2 8 rfl rfl)
theorem dX8_direction_56 : decode cX8_direction 56 = .ok (.iadd, 1) := dk_96 (dk_at dksX8_direction_2 9 rfl rfl)
theorem dX8_direction_57 : decode cX8_direction 57 = .ok (.putfield 15, 3) := dk_181 0 15 (dk_at dksX8_direction_2 10 rfl rfl)
theorem dX8_direction_60 : decode cX8_direction 60 = .ok (.iload_n 1, 1) := dk_27 (dk_at dksX8_direction_2 13 rfl rfl)
theorem dX8_direction_61 : decode cX8_direction 61 = .ok (.ireturn, 1) := dk_172 (dk_at dksX8_direction_2 14 rfl rfl)
abbrev cX8_carryOut : ByteArray := prog_5_method_9_code
def yX8_carryOut : MethodName := ⟨RX8, "carryOut", "(LMazeBonds$Core;C)V"⟩
def dkwX8_carryOut_7 : List UInt8 := [167, 0, 16, 43, 42, 180, 0, 56, 42, 180, 0, 63, 182, 0, 104, 87, 177]
abbrev dktX8_carryOut_7 : List UInt8 := dkwX8_carryOut_7 ++ []
def dkwX8_carryOut_6 : List UInt8 := [180, 0, 66, 182, 0, 97, 87, 167, 0, 32, 43, 42, 180, 0, 56, 42, 180, 0, 63, 182, 0, 100, 87]
abbrev dktX8_carryOut_6 : List UInt8 := dkwX8_carryOut_6 ++ dktX8_carryOut_7
def dkwX8_carryOut_5 : List UInt8 := [43, 42, 180, 0, 56, 182, 0, 94, 87, 167, 0, 52, 43, 42, 180, 0, 56, 42, 180, 0, 63, 42]
abbrev dktX8_carryOut_5 : List UInt8 := dkwX8_carryOut_5 ++ dktX8_carryOut_6
def dkwX8_carryOut_4 : List UInt8 := [43, 42, 180, 0, 56, 182, 0, 88, 87, 167, 0, 76, 43, 42, 180, 0, 56, 182, 0, 91, 87, 167, 0, 64]
abbrev dktX8_carryOut_4 : List UInt8 := dkwX8_carryOut_4 ++ dktX8_carryOut_5
def dkwX8_carryOut_3 : List UInt8 := [87, 167, 0, 108, 43, 42, 180, 0, 56, 42, 180, 0, 63, 42, 180, 0, 66, 182, 0, 85, 87, 167, 0, 88]
abbrev dktX8_carryOut_3 : List UInt8 := dkwX8_carryOut_3 ++ dktX8_carryOut_4
def dkwX8_carryOut_2 : List UInt8 := [43, 42, 180, 0, 56, 42, 180, 0, 63, 42, 180, 0, 66, 182, 0, 76, 87, 167, 0, 116, 43, 182, 0, 82]
abbrev dktX8_carryOut_2 : List UInt8 := dkwX8_carryOut_2 ++ dktX8_carryOut_3
def dkwX8_carryOut_1 : List UInt8 := [170, 0, 0, 0, 0, 0, 223, 0, 0, 0, 98, 0, 0, 0, 119, 0, 0, 0, 187, 0, 0, 0, 223, 0, 0, 0, 223, 0, 0, 0, 223, 0, 0, 0, 223, 0, 0, 0, 163, 0, 0, 0, 103, 0, 0, 0, 223, 0, 0, 0, 223, 0, 0, 0, 223, 0, 0, 0, 223, 0, 0, 0, 151, 0, 0, 0, 223, 0, 0, 0, 223, 0, 0, 0, 223, 0, 0, 0, 223, 0, 0, 0, 223, 0, 0, 0, 123, 0, 0, 0, 131, 0, 0, 0, 223, 0, 0, 0, 175, 0, 0, 0, 207]
abbrev dktX8_carryOut_1 : List UInt8 := dkwX8_carryOut_1 ++ dktX8_carryOut_2
def dkwX8_carryOut_0 : List UInt8 := [28]
abbrev dktX8_carryOut_0 : List UInt8 := dkwX8_carryOut_0 ++ dktX8_carryOut_1
theorem dksX8_carryOut_0 : cX8_carryOut.data.toList.drop 0 = dktX8_carryOut_0 := by decide +kernel
theorem dksX8_carryOut_1 : cX8_carryOut.data.toList.drop 1 = dktX8_carryOut_1 := dk_seg dksX8_carryOut_0 1 rfl rfl
theorem dksX8_carryOut_2 : cX8_carryOut.data.toList.drop 104 = dktX8_carryOut_2 := dk_seg dksX8_carryOut_1 103 rfl rfl
theorem dksX8_carryOut_3 : cX8_carryOut.data.toList.drop 128 = dktX8_carryOut_3 := dk_seg dksX8_carryOut_2 24 rfl rfl
theorem dksX8_carryOut_4 : cX8_carryOut.data.toList.drop 152 = dktX8_carryOut_4 := dk_seg dksX8_carryOut_3 24 rfl rfl
theorem dksX8_carryOut_5 : cX8_carryOut.data.toList.drop 176 = dktX8_carryOut_5 := dk_seg dksX8_carryOut_4 24 rfl rfl
theorem dksX8_carryOut_6 : cX8_carryOut.data.toList.drop 198 = dktX8_carryOut_6 := dk_seg dksX8_carryOut_5 22 rfl rfl
theorem dksX8_carryOut_7 : cX8_carryOut.data.toList.drop 221 = dktX8_carryOut_7 := dk_seg dksX8_carryOut_6 23 rfl rfl
theorem dX8_carryOut_0 : decode cX8_carryOut 0 = .ok (.iload_n 2, 1) := dk_28 (dk_at dksX8_carryOut_0 0 rfl rfl)
theorem dX8_carryOut_1 : decode cX8_carryOut 1 = .ok (.tableswitch 223 98 119 #[187, 223, 223, 223, 223, 163, 103, 223, 223, 223, 223, 151, 223, 223, 223, 223, 223, 123, 131, 223, 175, 207], 103) := by decide +kernel
theorem dX8_carryOut_104 : decode cX8_carryOut 104 = .ok (.aload_n 1, 1) := dk_43 (dk_at dksX8_carryOut_2 0 rfl rfl)
theorem dX8_carryOut_105 : decode cX8_carryOut 105 = .ok (.aload_n 0, 1) := dk_42 (dk_at dksX8_carryOut_2 1 rfl rfl)
theorem dX8_carryOut_106 : decode cX8_carryOut 106 = .ok (.getfield 56, 3) := dk_180 0 56 (dk_at dksX8_carryOut_2 2 rfl rfl)
theorem dX8_carryOut_109 : decode cX8_carryOut 109 = .ok (.aload_n 0, 1) := dk_42 (dk_at dksX8_carryOut_2 5 rfl rfl)
theorem dX8_carryOut_110 : decode cX8_carryOut 110 = .ok (.getfield 63, 3) := dk_180 0 63 (dk_at dksX8_carryOut_2 6 rfl rfl)
theorem dX8_carryOut_113 : decode cX8_carryOut 113 = .ok (.aload_n 0, 1) := dk_42 (dk_at dksX8_carryOut_2 9 rfl rfl)
theorem dX8_carryOut_114 : decode cX8_carryOut 114 = .ok (.getfield 66, 3) := dk_180 0 66 (dk_at dksX8_carryOut_2 10 rfl rfl)
theorem dX8_carryOut_117 : decode cX8_carryOut 117 = .ok (.invokevirtual 76, 3) := dk_182 0 76 (dk_at dksX8_carryOut_2 13 rfl rfl)
theorem dX8_carryOut_120 : decode cX8_carryOut 120 = .ok (.pop, 1) := dk_87 (dk_at dksX8_carryOut_2 16 rfl rfl)
theorem dX8_carryOut_121 : decode cX8_carryOut 121 = .ok (.goto 116, 3) := dk_167 0 116 (dk_at dksX8_carryOut_2 17 rfl rfl)
theorem dX8_carryOut_124 : decode cX8_carryOut 124 = .ok (.aload_n 1, 1) := dk_43 (dk_at dksX8_carryOut_2 20 rfl rfl)
theorem dX8_carryOut_125 : decode cX8_carryOut 125 = .ok (.invokevirtual 82, 3) := dk_182 0 82 (dk_at dksX8_carryOut_2 21 rfl rfl)
theorem dX8_carryOut_128 : decode cX8_carryOut 128 = .ok (.pop, 1) := dk_87 (dk_at dksX8_carryOut_3 0 rfl rfl)
theorem dX8_carryOut_129 : decode cX8_carryOut 129 = .ok (.goto 108, 3) := dk_167 0 108 (dk_at dksX8_carryOut_3 1 rfl rfl)
theorem dX8_carryOut_132 : decode cX8_carryOut 132 = .ok (.aload_n 1, 1) := dk_43 (dk_at dksX8_carryOut_3 4 rfl rfl)
theorem dX8_carryOut_133 : decode cX8_carryOut 133 = .ok (.aload_n 0, 1) := dk_42 (dk_at dksX8_carryOut_3 5 rfl rfl)
theorem dX8_carryOut_134 : decode cX8_carryOut 134 = .ok (.getfield 56, 3) := dk_180 0 56 (dk_at dksX8_carryOut_3 6 rfl rfl)
theorem dX8_carryOut_137 : decode cX8_carryOut 137 = .ok (.aload_n 0, 1) := dk_42 (dk_at dksX8_carryOut_3 9 rfl rfl)
theorem dX8_carryOut_138 : decode cX8_carryOut 138 = .ok (.getfield 63, 3) := dk_180 0 63 (dk_at dksX8_carryOut_3 10 rfl rfl)
theorem dX8_carryOut_141 : decode cX8_carryOut 141 = .ok (.aload_n 0, 1) := dk_42 (dk_at dksX8_carryOut_3 13 rfl rfl)
theorem dX8_carryOut_142 : decode cX8_carryOut 142 = .ok (.getfield 66, 3) := dk_180 0 66 (dk_at dksX8_carryOut_3 14 rfl rfl)
theorem dX8_carryOut_145 : decode cX8_carryOut 145 = .ok (.invokevirtual 85, 3) := dk_182 0 85 (dk_at dksX8_carryOut_3 17 rfl rfl)
theorem dX8_carryOut_148 : decode cX8_carryOut 148 = .ok (.pop, 1) := dk_87 (dk_at dksX8_carryOut_3 20 rfl rfl)
theorem dX8_carryOut_149 : decode cX8_carryOut 149 = .ok (.goto 88, 3) := dk_167 0 88 (dk_at dksX8_carryOut_3 21 rfl rfl)
theorem dX8_carryOut_152 : decode cX8_carryOut 152 = .ok (.aload_n 1, 1) := dk_43 (dk_at dksX8_carryOut_4 0 rfl rfl)
theorem dX8_carryOut_153 : decode cX8_carryOut 153 = .ok (.aload_n 0, 1) := dk_42 (dk_at dksX8_carryOut_4 1 rfl rfl)
theorem dX8_carryOut_154 : decode cX8_carryOut 154 = .ok (.getfield 56, 3) := dk_180 0 56 (dk_at dksX8_carryOut_4 2 rfl rfl)
theorem dX8_carryOut_157 : decode cX8_carryOut 157 = .ok (.invokevirtual 88, 3) := dk_182 0 88 (dk_at dksX8_carryOut_4 5 rfl rfl)
theorem dX8_carryOut_160 : decode cX8_carryOut 160 = .ok (.pop, 1) := dk_87 (dk_at dksX8_carryOut_4 8 rfl rfl)
theorem dX8_carryOut_161 : decode cX8_carryOut 161 = .ok (.goto 76, 3) := dk_167 0 76 (dk_at dksX8_carryOut_4 9 rfl rfl)
theorem dX8_carryOut_164 : decode cX8_carryOut 164 = .ok (.aload_n 1, 1) := dk_43 (dk_at dksX8_carryOut_4 12 rfl rfl)
theorem dX8_carryOut_165 : decode cX8_carryOut 165 = .ok (.aload_n 0, 1) := dk_42 (dk_at dksX8_carryOut_4 13 rfl rfl)
theorem dX8_carryOut_166 : decode cX8_carryOut 166 = .ok (.getfield 56, 3) := dk_180 0 56 (dk_at dksX8_carryOut_4 14 rfl rfl)
theorem dX8_carryOut_169 : decode cX8_carryOut 169 = .ok (.invokevirtual 91, 3) := dk_182 0 91 (dk_at dksX8_carryOut_4 17 rfl rfl)
theorem dX8_carryOut_172 : decode cX8_carryOut 172 = .ok (.pop, 1) := dk_87 (dk_at dksX8_carryOut_4 20 rfl rfl)
theorem dX8_carryOut_173 : decode cX8_carryOut 173 = .ok (.goto 64, 3) := dk_167 0 64 (dk_at dksX8_carryOut_4 21 rfl rfl)
theorem dX8_carryOut_176 : decode cX8_carryOut 176 = .ok (.aload_n 1, 1) := dk_43 (dk_at dksX8_carryOut_5 0 rfl rfl)
theorem dX8_carryOut_177 : decode cX8_carryOut 177 = .ok (.aload_n 0, 1) := dk_42 (dk_at dksX8_carryOut_5 1 rfl rfl)
theorem dX8_carryOut_178 : decode cX8_carryOut 178 = .ok (.getfield 56, 3) := dk_180 0 56 (dk_at dksX8_carryOut_5 2 rfl rfl)
theorem dX8_carryOut_181 : decode cX8_carryOut 181 = .ok (.invokevirtual 94, 3) := dk_182 0 94 (dk_at dksX8_carryOut_5 5 rfl rfl)
theorem dX8_carryOut_184 : decode cX8_carryOut 184 = .ok (.pop, 1) := dk_87 (dk_at dksX8_carryOut_5 8 rfl rfl)
theorem dX8_carryOut_185 : decode cX8_carryOut 185 = .ok (.goto 52, 3) := dk_167 0 52 (dk_at dksX8_carryOut_5 9 rfl rfl)
theorem dX8_carryOut_188 : decode cX8_carryOut 188 = .ok (.aload_n 1, 1) := dk_43 (dk_at dksX8_carryOut_5 12 rfl rfl)
theorem dX8_carryOut_189 : decode cX8_carryOut 189 = .ok (.aload_n 0, 1) := dk_42 (dk_at dksX8_carryOut_5 13 rfl rfl)
theorem dX8_carryOut_190 : decode cX8_carryOut 190 = .ok (.getfield 56, 3) := dk_180 0 56 (dk_at dksX8_carryOut_5 14 rfl rfl)
theorem dX8_carryOut_193 : decode cX8_carryOut 193 = .ok (.aload_n 0, 1) := dk_42 (dk_at dksX8_carryOut_5 17 rfl rfl)
theorem dX8_carryOut_194 : decode cX8_carryOut 194 = .ok (.getfield 63, 3) := dk_180 0 63 (dk_at dksX8_carryOut_5 18 rfl rfl)
theorem dX8_carryOut_197 : decode cX8_carryOut 197 = .ok (.aload_n 0, 1) := dk_42 (dk_at dksX8_carryOut_5 21 rfl rfl)
theorem dX8_carryOut_198 : decode cX8_carryOut 198 = .ok (.getfield 66, 3) := dk_180 0 66 (dk_at dksX8_carryOut_6 0 rfl rfl)
theorem dX8_carryOut_201 : decode cX8_carryOut 201 = .ok (.invokevirtual 97, 3) := dk_182 0 97 (dk_at dksX8_carryOut_6 3 rfl rfl)
theorem dX8_carryOut_204 : decode cX8_carryOut 204 = .ok (.pop, 1) := dk_87 (dk_at dksX8_carryOut_6 6 rfl rfl)
theorem dX8_carryOut_205 : decode cX8_carryOut 205 = .ok (.goto 32, 3) := dk_167 0 32 (dk_at dksX8_carryOut_6 7 rfl rfl)
theorem dX8_carryOut_208 : decode cX8_carryOut 208 = .ok (.aload_n 1, 1) := dk_43 (dk_at dksX8_carryOut_6 10 rfl rfl)
theorem dX8_carryOut_209 : decode cX8_carryOut 209 = .ok (.aload_n 0, 1) := dk_42 (dk_at dksX8_carryOut_6 11 rfl rfl)
theorem dX8_carryOut_210 : decode cX8_carryOut 210 = .ok (.getfield 56, 3) := dk_180 0 56 (dk_at dksX8_carryOut_6 12 rfl rfl)
theorem dX8_carryOut_213 : decode cX8_carryOut 213 = .ok (.aload_n 0, 1) := dk_42 (dk_at dksX8_carryOut_6 15 rfl rfl)
theorem dX8_carryOut_214 : decode cX8_carryOut 214 = .ok (.getfield 63, 3) := dk_180 0 63 (dk_at dksX8_carryOut_6 16 rfl rfl)
theorem dX8_carryOut_217 : decode cX8_carryOut 217 = .ok (.invokevirtual 100, 3) := dk_182 0 100 (dk_at dksX8_carryOut_6 19 rfl rfl)
theorem dX8_carryOut_220 : decode cX8_carryOut 220 = .ok (.pop, 1) := dk_87 (dk_at dksX8_carryOut_6 22 rfl rfl)
theorem dX8_carryOut_221 : decode cX8_carryOut 221 = .ok (.goto 16, 3) := dk_167 0 16 (dk_at dksX8_carryOut_7 0 rfl rfl)
theorem dX8_carryOut_224 : decode cX8_carryOut 224 = .ok (.aload_n 1, 1) := dk_43 (dk_at dksX8_carryOut_7 3 rfl rfl)
theorem dX8_carryOut_225 : decode cX8_carryOut 225 = .ok (.aload_n 0, 1) := dk_42 (dk_at dksX8_carryOut_7 4 rfl rfl)
theorem dX8_carryOut_226 : decode cX8_carryOut 226 = .ok (.getfield 56, 3) := dk_180 0 56 (dk_at dksX8_carryOut_7 5 rfl rfl)
theorem dX8_carryOut_229 : decode cX8_carryOut 229 = .ok (.aload_n 0, 1) := dk_42 (dk_at dksX8_carryOut_7 8 rfl rfl)
theorem dX8_carryOut_230 : decode cX8_carryOut 230 = .ok (.getfield 63, 3) := dk_180 0 63 (dk_at dksX8_carryOut_7 9 rfl rfl)
theorem dX8_carryOut_233 : decode cX8_carryOut 233 = .ok (.invokevirtual 104, 3) := dk_182 0 104 (dk_at dksX8_carryOut_7 12 rfl rfl)
theorem dX8_carryOut_236 : decode cX8_carryOut 236 = .ok (.pop, 1) := dk_87 (dk_at dksX8_carryOut_7 15 rfl rfl)
theorem dX8_carryOut_237 : decode cX8_carryOut 237 = .ok (.return_, 1) := dk_177 (dk_at dksX8_carryOut_7 16 rfl rfl)
theorem q104 : (Jvm.Cond.initialized "MazeBonds$Reader") ∈ lw_all := lw_g (lw_at lw_m1 33 rfl) rfl
theorem q226 : (Jvm.Cond.fieldLinkNest "MazeBonds$Reader" (22 : Nat) "MazeBonds" "text" "[C" "MazeBonds") ∈ lw_tbl := lw_at lw_m1 155 rfl
theorem q228 : (Jvm.Cond.fieldLinkNest "MazeBonds$Reader" (19 : Nat) "MazeBonds" "textLength" "I" "MazeBonds") ∈ lw_tbl := lw_at lw_m1 157 rfl
theorem q457 : (Jvm.Cond.selects "MazeBonds$Reader" ({ cls := "java/lang/Object", name := "getClass", desc := "()Ljava/lang/Class;" } : Jvm.MethodName) ({ cls := "java/lang/Object", name := "getClass", desc := "()Ljava/lang/Class;" } : Jvm.MethodName)) ∈ lw_all := lw_g (lw_at lw_m2 146 rfl) rfl
theorem q663 : (Jvm.Cond.fieldLinkNest "MazeBonds$Reader" (117 : Nat) "MazeBonds$RefusedException" "reason" "I" "MazeBonds") ∈ lw_tbl := lw_at lw_m3 112 rfl
theorem q666 : (Jvm.Cond.fieldLinkNest "MazeBonds$Reader" (120 : Nat) "MazeBonds$RefusedException" "detail" "I" "MazeBonds") ∈ lw_tbl := lw_at lw_m3 115 rfl
theorem q1156 : (Jvm.Cond.instantiable "MazeBonds$Reader" (5 : Nat)) ∈ lw_all := lw_g (lw_at lw_m5 125 rfl) rfl
theorem q1158 : (Jvm.Cond.instanceMethod ({ cls := "MazeBonds$Reader", name := "<init>", desc := "(LMazeBonds;)V" } : Jvm.MethodName)) ∈ lw_all := lw_g (lw_at lw_m5 127 rfl) rfl
theorem q1159 : (Jvm.Cond.code ({ cls := "MazeBonds$Reader", name := "<init>", desc := "(LMazeBonds;)V" } : Jvm.MethodName) prog_5_method_1_code (2 : Nat) (Option.none : Option Jvm.ClassFile.FieldType)) ∈ lw_all := lw_g (lw_at lw_m5 128 rfl) rfl
theorem q1160 : (Jvm.Cond.methodLink "MazeBonds$Reader" (9 : Nat) ({ cls := "java/lang/Object", name := "<init>", desc := "()V" } : Jvm.MethodName)) ∈ lw_all := lw_g (lw_at lw_m5 129 rfl) rfl
theorem q1161 : (Jvm.Cond.fieldLink "MazeBonds$Reader" (15 : Nat) "MazeBonds$Reader" "at" "I") ∈ lw_all := lw_g (lw_at lw_m5 130 rfl) rfl
theorem q1162 : (Jvm.Cond.fieldLink "MazeBonds$Reader" (56 : Nat) "MazeBonds$Reader" "one" "I") ∈ lw_all := lw_g (lw_at lw_m5 131 rfl) rfl
theorem q1163 : (Jvm.Cond.fieldLink "MazeBonds$Reader" (63 : Nat) "MazeBonds$Reader" "other" "I") ∈ lw_all := lw_g (lw_at lw_m5 132 rfl) rfl
theorem q1164 : (Jvm.Cond.fieldLink "MazeBonds$Reader" (66 : Nat) "MazeBonds$Reader" "third" "I") ∈ lw_all := lw_g (lw_at lw_m5 133 rfl) rfl
theorem q1165 : (Jvm.Cond.fieldLink "MazeBonds$Reader" (3 : Nat) "MazeBonds$Reader" "this$0" "LMazeBonds;") ∈ lw_all := lw_g (lw_at lw_m5 134 rfl) rfl
theorem q1166 : (Jvm.Cond.lays "MazeBonds$Reader" "MazeBonds$Reader" "at" "I") ∈ lw_all := lw_g (lw_at lw_m5 135 rfl) rfl
theorem q1167 : (Jvm.Cond.soleField "MazeBonds$Reader" "at") ∈ lw_all := lw_g (lw_at lw_m5 136 rfl) rfl
theorem q1168 : (Jvm.Cond.lays "MazeBonds$Reader" "MazeBonds$Reader" "one" "I") ∈ lw_all := lw_g (lw_at lw_m5 137 rfl) rfl
theorem q1169 : (Jvm.Cond.soleField "MazeBonds$Reader" "one") ∈ lw_all := lw_g (lw_at lw_m5 138 rfl) rfl
theorem q1170 : (Jvm.Cond.lays "MazeBonds$Reader" "MazeBonds$Reader" "other" "I") ∈ lw_all := lw_g (lw_at lw_m5 139 rfl) rfl
theorem q1171 : (Jvm.Cond.soleField "MazeBonds$Reader" "other") ∈ lw_all := lw_g (lw_at lw_m5 140 rfl) rfl
theorem q1172 : (Jvm.Cond.lays "MazeBonds$Reader" "MazeBonds$Reader" "third" "I") ∈ lw_all := lw_g (lw_at lw_m5 141 rfl) rfl
theorem q1173 : (Jvm.Cond.soleField "MazeBonds$Reader" "third") ∈ lw_all := lw_g (lw_at lw_m5 142 rfl) rfl
theorem q1174 : (Jvm.Cond.laysFinal "MazeBonds$Reader" "MazeBonds$Reader" "this$0" "LMazeBonds;") ∈ lw_all := lw_g (lw_at lw_m5 143 rfl) rfl
theorem q1175 : (Jvm.Cond.soleField "MazeBonds$Reader" "this$0") ∈ lw_all := lw_g (lw_at lw_m5 144 rfl) rfl
theorem q1176 : (Jvm.Cond.superclass "MazeBonds$Reader" "java/lang/Object") ∈ lw_all := lw_g (lw_at lw_m5 145 rfl) rfl
theorem q1178 : (Jvm.Cond.instanceMethod ({ cls := "MazeBonds$Reader", name := "commands", desc := "(LMazeBonds$Core;)I" } : Jvm.MethodName)) ∈ lw_all := lw_g (lw_at lw_m5 147 rfl) rfl
theorem q1179 : (Jvm.Cond.selects "MazeBonds$Reader" ({ cls := "MazeBonds$Reader", name := "commands", desc := "(LMazeBonds$Core;)I" } : Jvm.MethodName) ({ cls := "MazeBonds$Reader", name := "commands", desc := "(LMazeBonds$Core;)I" } : Jvm.MethodName)) ∈ lw_all := lw_g (lw_at lw_m5 148 rfl) rfl
theorem q1180 : (Jvm.Cond.code ({ cls := "MazeBonds$Reader", name := "commands", desc := "(LMazeBonds$Core;)I" } : Jvm.MethodName) prog_5_method_11_code (4 : Nat) (Option.some Jvm.ClassFile.FieldType.int)) ∈ lw_all := lw_g (lw_at lw_m5 149 rfl) rfl
theorem q1181 : (Jvm.Cond.methodLink "MazeBonds$Reader" (126 : Nat) ({ cls := "MazeBonds$Reader", name := "step", desc := "(LMazeBonds$Core;I)V" } : Jvm.MethodName)) ∈ lw_all := lw_g (lw_at lw_m5 150 rfl) rfl
theorem q1182 : (Jvm.Cond.privateMethod ({ cls := "MazeBonds$Reader", name := "step", desc := "(LMazeBonds$Core;I)V" } : Jvm.MethodName)) ∈ lw_tbl := lw_at lw_m5 151 rfl
theorem q1183 : (Jvm.Cond.instanceMethod ({ cls := "MazeBonds$Reader", name := "step", desc := "(LMazeBonds$Core;I)V" } : Jvm.MethodName)) ∈ lw_all := lw_g (lw_at lw_m5 152 rfl) rfl
theorem q1184 : (Jvm.Cond.codeWith ({ cls := "MazeBonds$Reader", name := "step", desc := "(LMazeBonds$Core;I)V" } : Jvm.MethodName) prog_5_method_10_code (5 : Nat) (Option.none : Option Jvm.ClassFile.FieldType) [((10 : Nat), (16 : Nat), (19 : Nat), (115 : Nat))]) ∈ lw_all := lw_g (lw_at lw_m5 153 rfl) rfl
theorem q1185 : (Jvm.Cond.classLink "MazeBonds$Reader" (115 : Nat) "MazeBonds$RefusedException") ∈ lw_all := lw_g (lw_at lw_m5 154 rfl) rfl
theorem q1186 : (Jvm.Cond.methodLink "MazeBonds$Reader" (107 : Nat) ({ cls := "MazeBonds$Reader", name := "command", desc := "()C" } : Jvm.MethodName)) ∈ lw_all := lw_g (lw_at lw_m5 155 rfl) rfl
theorem q1187 : (Jvm.Cond.privateMethod ({ cls := "MazeBonds$Reader", name := "command", desc := "()C" } : Jvm.MethodName)) ∈ lw_tbl := lw_at lw_m5 156 rfl
theorem q1188 : (Jvm.Cond.instanceMethod ({ cls := "MazeBonds$Reader", name := "command", desc := "()C" } : Jvm.MethodName)) ∈ lw_all := lw_g (lw_at lw_m5 157 rfl) rfl
theorem q1189 : (Jvm.Cond.code ({ cls := "MazeBonds$Reader", name := "command", desc := "()C" } : Jvm.MethodName) prog_5_method_8_code (2 : Nat) (Option.some Jvm.ClassFile.FieldType.char)) ∈ lw_all := lw_g (lw_at lw_m5 158 rfl) rfl
theorem q1190 : (Jvm.Cond.stringRef "MazeBonds$Reader" (54 : Nat) "hstmgvbwr") ∈ lw_tbl := lw_at lw_m5 159 rfl
theorem q1191 : (Jvm.Cond.methodLink "MazeBonds$Reader" (49 : Nat) ({ cls := "java/lang/String", name := "indexOf", desc := "(I)I" } : Jvm.MethodName)) ∈ lw_all := lw_g (lw_at lw_m5 160 rfl) rfl
theorem q1272 : (Jvm.Cond.methodLink "MazeBonds$Reader" (39 : Nat) ({ cls := "MazeBonds$Reader", name := "must", desc := "(Z)V" } : Jvm.MethodName)) ∈ lw_all := lw_g (lw_at lw_m6 1 rfl) rfl
theorem q1273 : (Jvm.Cond.privateMethod ({ cls := "MazeBonds$Reader", name := "must", desc := "(Z)V" } : Jvm.MethodName)) ∈ lw_tbl := lw_at lw_m6 2 rfl
theorem q1274 : (Jvm.Cond.instanceMethod ({ cls := "MazeBonds$Reader", name := "must", desc := "(Z)V" } : Jvm.MethodName)) ∈ lw_all := lw_g (lw_at lw_m6 3 rfl) rfl
theorem q1275 : (Jvm.Cond.code ({ cls := "MazeBonds$Reader", name := "must", desc := "(Z)V" } : Jvm.MethodName) prog_5_method_3_code (2 : Nat) (Option.none : Option Jvm.ClassFile.FieldType)) ∈ lw_all := lw_g (lw_at lw_m6 4 rfl) rfl
theorem q1276 : (Jvm.Cond.classLink "MazeBonds$Reader" (30 : Nat) "MazeBonds$FaultException") ∈ lw_all := lw_g (lw_at lw_m6 5 rfl) rfl
theorem q1285 : (Jvm.Cond.methodLink "MazeBonds$Reader" (32 : Nat) ({ cls := "MazeBonds$FaultException", name := "<init>", desc := "(I)V" } : Jvm.MethodName)) ∈ lw_all := lw_g (lw_at lw_m6 14 rfl) rfl
theorem q1295 : (Jvm.Cond.methodLink "MazeBonds$Reader" (43 : Nat) ({ cls := "MazeBonds$Reader", name := "number", desc := "(I)I" } : Jvm.MethodName)) ∈ lw_all := lw_g (lw_at lw_m6 24 rfl) rfl
theorem q1296 : (Jvm.Cond.privateMethod ({ cls := "MazeBonds$Reader", name := "number", desc := "(I)I" } : Jvm.MethodName)) ∈ lw_tbl := lw_at lw_m6 25 rfl
theorem q1297 : (Jvm.Cond.instanceMethod ({ cls := "MazeBonds$Reader", name := "number", desc := "(I)I" } : Jvm.MethodName)) ∈ lw_all := lw_g (lw_at lw_m6 26 rfl) rfl
theorem q1298 : (Jvm.Cond.code ({ cls := "MazeBonds$Reader", name := "number", desc := "(I)I" } : Jvm.MethodName) prog_5_method_4_code (4 : Nat) (Option.some Jvm.ClassFile.FieldType.int)) ∈ lw_all := lw_g (lw_at lw_m6 27 rfl) rfl
theorem q1299 : (Jvm.Cond.methodLink "MazeBonds$Reader" (35 : Nat) ({ cls := "MazeBonds$Reader", name := "sees", desc := "(CC)Z" } : Jvm.MethodName)) ∈ lw_all := lw_g (lw_at lw_m6 28 rfl) rfl
theorem q1300 : (Jvm.Cond.privateMethod ({ cls := "MazeBonds$Reader", name := "sees", desc := "(CC)Z" } : Jvm.MethodName)) ∈ lw_tbl := lw_at lw_m6 29 rfl
theorem q1301 : (Jvm.Cond.instanceMethod ({ cls := "MazeBonds$Reader", name := "sees", desc := "(CC)Z" } : Jvm.MethodName)) ∈ lw_all := lw_g (lw_at lw_m6 30 rfl) rfl
theorem q1302 : (Jvm.Cond.code ({ cls := "MazeBonds$Reader", name := "sees", desc := "(CC)Z" } : Jvm.MethodName) prog_5_method_2_code (3 : Nat) (Option.some Jvm.ClassFile.FieldType.boolean)) ∈ lw_all := lw_g (lw_at lw_m6 31 rfl) rfl
theorem q1303 : (Jvm.Cond.methodLinkNest "MazeBonds$Reader" (26 : Nat) ({ cls := "MazeBonds", name := "isIn", desc := "(III)Z" } : Jvm.MethodName) "MazeBonds") ∈ lw_tbl := lw_at lw_m6 32 rfl
theorem q1304 : (Jvm.Cond.methodLink "MazeBonds$Reader" (59 : Nat) ({ cls := "MazeBonds$Reader", name := "behind", desc := "(CI)I" } : Jvm.MethodName)) ∈ lw_all := lw_g (lw_at lw_m6 33 rfl) rfl
theorem q1305 : (Jvm.Cond.privateMethod ({ cls := "MazeBonds$Reader", name := "behind", desc := "(CI)I" } : Jvm.MethodName)) ∈ lw_tbl := lw_at lw_m6 34 rfl
theorem q1306 : (Jvm.Cond.instanceMethod ({ cls := "MazeBonds$Reader", name := "behind", desc := "(CI)I" } : Jvm.MethodName)) ∈ lw_all := lw_g (lw_at lw_m6 35 rfl) rfl
theorem q1307 : (Jvm.Cond.code ({ cls := "MazeBonds$Reader", name := "behind", desc := "(CI)I" } : Jvm.MethodName) prog_5_method_5_code (3 : Nat) (Option.some Jvm.ClassFile.FieldType.int)) ∈ lw_all := lw_g (lw_at lw_m6 36 rfl) rfl
theorem q1308 : (Jvm.Cond.methodLink "MazeBonds$Reader" (69 : Nat) ({ cls := "MazeBonds$Reader", name := "cellOrNone", desc := "()I" } : Jvm.MethodName)) ∈ lw_all := lw_g (lw_at lw_m6 37 rfl) rfl
theorem q1309 : (Jvm.Cond.privateMethod ({ cls := "MazeBonds$Reader", name := "cellOrNone", desc := "()I" } : Jvm.MethodName)) ∈ lw_tbl := lw_at lw_m6 38 rfl
theorem q1310 : (Jvm.Cond.instanceMethod ({ cls := "MazeBonds$Reader", name := "cellOrNone", desc := "()I" } : Jvm.MethodName)) ∈ lw_all := lw_g (lw_at lw_m6 39 rfl) rfl
theorem q1311 : (Jvm.Cond.code ({ cls := "MazeBonds$Reader", name := "cellOrNone", desc := "()I" } : Jvm.MethodName) prog_5_method_7_code (1 : Nat) (Option.some Jvm.ClassFile.FieldType.int)) ∈ lw_all := lw_g (lw_at lw_m6 40 rfl) rfl
theorem q1312 : (Jvm.Cond.methodLink "MazeBonds$Reader" (73 : Nat) ({ cls := "MazeBonds$Reader", name := "direction", desc := "()I" } : Jvm.MethodName)) ∈ lw_all := lw_g (lw_at lw_m6 41 rfl) rfl
theorem q1313 : (Jvm.Cond.privateMethod ({ cls := "MazeBonds$Reader", name := "direction", desc := "()I" } : Jvm.MethodName)) ∈ lw_tbl := lw_at lw_m6 42 rfl
theorem q1314 : (Jvm.Cond.instanceMethod ({ cls := "MazeBonds$Reader", name := "direction", desc := "()I" } : Jvm.MethodName)) ∈ lw_all := lw_g (lw_at lw_m6 43 rfl) rfl
theorem q1315 : (Jvm.Cond.code ({ cls := "MazeBonds$Reader", name := "direction", desc := "()I" } : Jvm.MethodName) prog_5_method_6_code (2 : Nat) (Option.some Jvm.ClassFile.FieldType.int)) ∈ lw_all := lw_g (lw_at lw_m6 44 rfl) rfl
theorem q1316 : (Jvm.Cond.stringRef "MazeBonds$Reader" (47 : Nat) "nesw") ∈ lw_tbl := lw_at lw_m6 45 rfl
theorem q1317 : (Jvm.Cond.methodLink "MazeBonds$Reader" (111 : Nat) ({ cls := "MazeBonds$Reader", name := "carryOut", desc := "(LMazeBonds$Core;C)V" } : Jvm.MethodName)) ∈ lw_all := lw_g (lw_at lw_m6 46 rfl) rfl
theorem q1318 : (Jvm.Cond.privateMethod ({ cls := "MazeBonds$Reader", name := "carryOut", desc := "(LMazeBonds$Core;C)V" } : Jvm.MethodName)) ∈ lw_tbl := lw_at lw_m6 47 rfl
theorem q1319 : (Jvm.Cond.instanceMethod ({ cls := "MazeBonds$Reader", name := "carryOut", desc := "(LMazeBonds$Core;C)V" } : Jvm.MethodName)) ∈ lw_all := lw_g (lw_at lw_m6 48 rfl) rfl
theorem q1320 : (Jvm.Cond.code ({ cls := "MazeBonds$Reader", name := "carryOut", desc := "(LMazeBonds$Core;C)V" } : Jvm.MethodName) prog_5_method_9_code (3 : Nat) (Option.none : Option Jvm.ClassFile.FieldType)) ∈ lw_all := lw_g (lw_at lw_m6 49 rfl) rfl
theorem q1321 : (Jvm.Cond.methodLink "MazeBonds$Reader" (76 : Nat) ({ cls := "MazeBonds$Core", name := "hedge", desc := "(III)I" } : Jvm.MethodName)) ∈ lw_all := lw_g (lw_at lw_m6 50 rfl) rfl
theorem q1322 : (Jvm.Cond.methodLink "MazeBonds$Reader" (82 : Nat) ({ cls := "MazeBonds$Core", name := "summer", desc := "()I" } : Jvm.MethodName)) ∈ lw_all := lw_g (lw_at lw_m6 51 rfl) rfl
theorem q1323 : (Jvm.Cond.methodLink "MazeBonds$Reader" (85 : Nat) ({ cls := "MazeBonds$Core", name := "trim", desc := "(III)I" } : Jvm.MethodName)) ∈ lw_all := lw_g (lw_at lw_m6 52 rfl) rfl
theorem q1324 : (Jvm.Cond.methodLink "MazeBonds$Reader" (88 : Nat) ({ cls := "MazeBonds$Core", name := "minotaur", desc := "(I)I" } : Jvm.MethodName)) ∈ lw_all := lw_g (lw_at lw_m6 53 rfl) rfl
theorem q1325 : (Jvm.Cond.methodLink "MazeBonds$Reader" (91 : Nat) ({ cls := "MazeBonds$Core", name := "gardener", desc := "(I)I" } : Jvm.MethodName)) ∈ lw_all := lw_g (lw_at lw_m6 54 rfl) rfl
theorem q1326 : (Jvm.Cond.methodLink "MazeBonds$Reader" (94 : Nat) ({ cls := "MazeBonds$Core", name := "visitor", desc := "(I)I" } : Jvm.MethodName)) ∈ lw_all := lw_g (lw_at lw_m6 55 rfl) rfl
theorem q1327 : (Jvm.Cond.methodLink "MazeBonds$Reader" (97 : Nat) ({ cls := "MazeBonds$Core", name := "bond", desc := "(III)I" } : Jvm.MethodName)) ∈ lw_all := lw_g (lw_at lw_m6 56 rfl) rfl
theorem q1328 : (Jvm.Cond.methodLink "MazeBonds$Reader" (100 : Nat) ({ cls := "MazeBonds$Core", name := "walk", desc := "(II)I" } : Jvm.MethodName)) ∈ lw_all := lw_g (lw_at lw_m6 57 rfl) rfl
theorem q1329 : (Jvm.Cond.methodLink "MazeBonds$Reader" (104 : Nat) ({ cls := "MazeBonds$Core", name := "rest", desc := "(II)I" } : Jvm.MethodName)) ∈ lw_all := lw_g (lw_at lw_m6 58 rfl) rfl
theorem q1330 : (Jvm.Cond.methodLink "MazeBonds$Reader" (123 : Nat) ({ cls := "MazeBonds$RefusedException", name := "<init>", desc := "(III)V" } : Jvm.MethodName)) ∈ lw_all := lw_g (lw_at lw_m6 59 rfl) rfl
theorem q2166 : (Jvm.Cond.castable "MazeBonds$Reader" "java/lang/Object") ∈ lw_tbl := lw_at lw_m9 175 rfl
theorem in_X8 : ∀ w ∈ wsX80, w ∈ lw_all := lw_in wsX80 [1166, 1168, 1170, 1172, 1174] (by decide +kernel) (by decide +kernel)
/-! MazeBonds$FaultException -/
set_option maxRecDepth 100000
def RX9 : String := "MazeBonds$FaultException"
def TX9 : u_T := fun k => match k with
  | 0 => ("java/lang/Throwable", "cause", "Ljava/lang/Throwable;", false)
  | 1 => ("java/lang/Throwable", "stackTrace", "[Ljava/lang/StackTraceElement;", false)
  | 2 => ("java/lang/Throwable", "suppressedExceptions", "Ljava/util/List;", false)
  | 3 => ("java/lang/Throwable", "detailMessage", "Ljava/lang/String;", false)
  | 4 => ("java/lang/Throwable", "backtrace", "Ljava/lang/Object;", false)
  | 5 => ("java/lang/Throwable", "depth", "I", false)
  | _ => ("MazeBonds$FaultException", "position", "I", true)
def tyX9 : Nat → FieldType := fun k => match k with
  | 0 => .object "java/lang/Throwable"
  | 1 => .array (.object "java/lang/StackTraceElement")
  | 2 => .object "java/util/List"
  | 3 => .object "java/lang/String"
  | 4 => .object "java/lang/Object"
  | 5 => .int
  | _ => .int
abbrev wsX90 : List Cond := u_ws RX9 TX9 7
theorem nmX9 : ∀ a, a < 7 → ∀ b, b < 7 → a ≠ b → (TX9 a).2.1 ≠ (TX9 b).2.1 := by decide +kernel
theorem tyX9_ok : ∀ k, k < 7 → parseFieldDescriptor (TX9 k).2.2.1 = some (tyX9 k) := by decide +kernel
abbrev cX9_init : ByteArray := prog_3_method_1_code
def yX9_init : MethodName := ⟨RX9, "<init>", "(I)V"⟩
def dkwX9_init_0 : List UInt8 := [42, 1, 1, 3, 3, 183, 0, 1, 42, 27, 181, 0, 7, 177]
abbrev dktX9_init_0 : List UInt8 := dkwX9_init_0 ++ []
theorem dksX9_init_0 : cX9_init.data.toList.drop 0 = dktX9_init_0 := by decide +kernel
theorem dX9_init_0 : decode cX9_init 0 = .ok (.aload_n 0, 1) := dk_42 (dk_at dksX9_init_0 0 rfl rfl)
theorem dX9_init_1 : decode cX9_init 1 = .ok (.aconst_null, 1) := dk_1 (dk_at dksX9_init_0 1 rfl rfl)
theorem dX9_init_2 : decode cX9_init 2 = .ok (.aconst_null, 1) := dk_1 (dk_at dksX9_init_0 2 rfl rfl)
theorem dX9_init_3 : decode cX9_init 3 = .ok (.iconst 0, 1) := dk_3 (dk_at dksX9_init_0 3 rfl rfl)
theorem dX9_init_4 : decode cX9_init 4 = .ok (.iconst 0, 1) := dk_3 (dk_at dksX9_init_0 4 rfl rfl)
theorem dX9_init_5 : decode cX9_init 5 = .ok (.invokespecial 1, 3) := dk_183 0 1 (dk_at dksX9_init_0 5 rfl rfl)
theorem dX9_init_8 : decode cX9_init 8 = .ok (.aload_n 0, 1) := dk_42 (dk_at dksX9_init_0 8 rfl rfl)
theorem dX9_init_9 : decode cX9_init 9 = .ok (.iload_n 1, 1) := dk_27 (dk_at dksX9_init_0 9 rfl rfl)
theorem dX9_init_10 : decode cX9_init 10 = .ok (.putfield 7, 3) := dk_181 0 7 (dk_at dksX9_init_0 10 rfl rfl)
theorem dX9_init_13 : decode cX9_init 13 = .ok (.return_, 1) := dk_177 (dk_at dksX9_init_0 13 rfl rfl)
theorem q107 : (Jvm.Cond.initialized "MazeBonds$FaultException") ∈ lw_all := lw_g (lw_at lw_m1 36 rfl) rfl
theorem q344 : (Jvm.Cond.selects "MazeBonds$FaultException" ({ cls := "java/lang/Throwable", name := "fillInStackTrace", desc := "()Ljava/lang/Throwable;" } : Jvm.MethodName) ({ cls := "java/lang/Throwable", name := "fillInStackTrace", desc := "()Ljava/lang/Throwable;" } : Jvm.MethodName)) ∈ lw_all := lw_g (lw_at lw_m2 33 rfl) rfl
theorem q455 : (Jvm.Cond.selects "MazeBonds$FaultException" ({ cls := "java/lang/Object", name := "getClass", desc := "()Ljava/lang/Class;" } : Jvm.MethodName) ({ cls := "java/lang/Object", name := "getClass", desc := "()Ljava/lang/Class;" } : Jvm.MethodName)) ∈ lw_all := lw_g (lw_at lw_m2 144 rfl) rfl
theorem q1277 : (Jvm.Cond.instantiable "MazeBonds$FaultException" (7 : Nat)) ∈ lw_all := lw_g (lw_at lw_m6 6 rfl) rfl
theorem q1278 : (Jvm.Cond.castable "MazeBonds$FaultException" "MazeBonds$FaultException") ∈ lw_tbl := lw_at lw_m6 7 rfl
theorem q1279 : (Jvm.Cond.selects "MazeBonds$FaultException" ({ cls := "java/lang/Throwable", name := "fillInStackTrace", desc := "(I)Ljava/lang/Throwable;" } : Jvm.MethodName) ({ cls := "java/lang/Throwable", name := "fillInStackTrace", desc := "(I)Ljava/lang/Throwable;" } : Jvm.MethodName)) ∈ lw_all := lw_g (lw_at lw_m6 8 rfl) rfl
theorem q1280 : (Jvm.Cond.lays "MazeBonds$FaultException" "java/lang/Throwable" "cause" "Ljava/lang/Throwable;") ∈ lw_all := lw_g (lw_at lw_m6 9 rfl) rfl
theorem q1281 : (Jvm.Cond.lays "MazeBonds$FaultException" "java/lang/Throwable" "stackTrace" "[Ljava/lang/StackTraceElement;") ∈ lw_all := lw_g (lw_at lw_m6 10 rfl) rfl
theorem q1282 : (Jvm.Cond.lays "MazeBonds$FaultException" "java/lang/Throwable" "suppressedExceptions" "Ljava/util/List;") ∈ lw_all := lw_g (lw_at lw_m6 11 rfl) rfl
theorem q1283 : (Jvm.Cond.lays "MazeBonds$FaultException" "java/lang/Throwable" "detailMessage" "Ljava/lang/String;") ∈ lw_all := lw_g (lw_at lw_m6 12 rfl) rfl
theorem q1284 : (Jvm.Cond.lays "MazeBonds$FaultException" "java/lang/Throwable" "backtrace" "Ljava/lang/Object;") ∈ lw_all := lw_g (lw_at lw_m6 13 rfl) rfl
theorem q1286 : (Jvm.Cond.instanceMethod ({ cls := "MazeBonds$FaultException", name := "<init>", desc := "(I)V" } : Jvm.MethodName)) ∈ lw_all := lw_g (lw_at lw_m6 15 rfl) rfl
theorem q1287 : (Jvm.Cond.code ({ cls := "MazeBonds$FaultException", name := "<init>", desc := "(I)V" } : Jvm.MethodName) prog_3_method_1_code (2 : Nat) (Option.none : Option Jvm.ClassFile.FieldType)) ∈ lw_all := lw_g (lw_at lw_m6 16 rfl) rfl
theorem q1288 : (Jvm.Cond.methodLink "MazeBonds$FaultException" (1 : Nat) ({ cls := "java/lang/Exception", name := "<init>", desc := "(Ljava/lang/String;Ljava/lang/Throwable;ZZ)V" } : Jvm.MethodName)) ∈ lw_all := lw_g (lw_at lw_m6 17 rfl) rfl
theorem q1289 : (Jvm.Cond.fieldLink "MazeBonds$FaultException" (7 : Nat) "MazeBonds$FaultException" "position" "I") ∈ lw_all := lw_g (lw_at lw_m6 18 rfl) rfl
theorem q1291 : (Jvm.Cond.laysFinal "MazeBonds$FaultException" "MazeBonds$FaultException" "position" "I") ∈ lw_all := lw_g (lw_at lw_m6 20 rfl) rfl
theorem q1292 : (Jvm.Cond.soleField "MazeBonds$FaultException" "position") ∈ lw_all := lw_g (lw_at lw_m6 21 rfl) rfl
theorem q1293 : (Jvm.Cond.lays "MazeBonds$FaultException" "java/lang/Throwable" "depth" "I") ∈ lw_all := lw_g (lw_at lw_m6 22 rfl) rfl
theorem q1294 : (Jvm.Cond.superclass "MazeBonds$FaultException" "java/lang/Exception") ∈ lw_all := lw_g (lw_at lw_m6 23 rfl) rfl
theorem q2167 : (Jvm.Cond.castable "MazeBonds$FaultException" "java/lang/Object") ∈ lw_tbl := lw_at lw_m9 176 rfl
theorem in_X9 : ∀ w ∈ wsX90, w ∈ lw_all := lw_in wsX90 [1280, 1281, 1282, 1283, 1284, 1293, 1291] (by decide +kernel) (by decide +kernel)
