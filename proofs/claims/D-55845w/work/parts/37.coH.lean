/-! decompiled (written by gen/comp.py) -/
set_option maxRecDepth 100000
abbrev M_X0_gardenerOf : aM := (yX0_gardenerOf.cls, cX0_gardenerOf, 5, (Option.some Jvm.ClassFile.FieldType.int), [((0 : Nat), (10 : Nat), (13 : Nat), (41 : Nat)), ((0 : Nat), (10 : Nat), (17 : Nat), (76 : Nat))], yX0_gardenerOf.name)
def t_X0_gardenerOf (Z : aZ) (h : aH) (x0 : Nat) (x1 : Int32) (x2 : Int32) (x3 : Nat) : Option (Int32 × aH) :=
  if isC 0 h x0 = true then
  (t_X1_gardenerOf Z h x0 x1 x2).bind fun r4 =>
  (match r4 with
  | (.inl y6, h7) =>
    (stJ Z h7 x3 0 ((y6 : Int32).toInt64)).bind fun h9 =>
    some (0, h9)
  | (.inr y6, h7) =>
    if y6.1 = "java/lang/IllegalArgumentException" then
      some (2, h7)
    else
      if y6.1 = "java/lang/IndexOutOfBoundsException" then
        some (1, h7)
      else
        none
  )
  else none
theorem k_X0_gardenerOf {G : aG} {h : aH} {x0 : Nat} {x1 : Int32} {x2 : Int32} {x3 : Nat} {e : (Int32 × aH)} (hT : t_X0_gardenerOf (gZ G) h x0 x1 x2 x3 = some e) : aMet G yX0_gardenerOf (wsW_ yX0_gardenerOf cX0_gardenerOf 5 (Option.some Jvm.ClassFile.FieldType.int) [((0 : Nat), (10 : Nat), (13 : Nat), (41 : Nat)), ((0 : Nat), (10 : Nat), (17 : Nat), (76 : Nat))]) 12 264 [.ref x0, .int x1, .int x2, .ref x3] h (aEI e.1 e.2) := by
  refine aMet.ofH (lv := [some (.ref x0), some (.int x1), some (.int x2), some (.ref x3), none]) (by decide) (Nat.le_of_ble_eq_true rfl) 1 rfl ?_
  have he : aTo (aEI e.1 e.2) (aEI e.1 e.2) := aTo.rf
  unfold t_X0_gardenerOf at hT
  refine a_aload_n dX0_gardenerOf_0 rfl ?_
  refine a_iconst (v := 0) dX0_gardenerOf_1 (by decide) ?_
  refine a_aload_n dX0_gardenerOf_2 rfl ?_
  refine a_iload_n dX0_gardenerOf_3 rfl ?_
  refine a_iload_n dX0_gardenerOf_4 rfl ?_
  obtain ⟨g3, hT⟩ := oifg hT
  obtain ⟨⟨y6 | y6, h7⟩, e5, hT⟩ := obnd hT
  · dsimp only at hT
    refine a_callV kv_X0_73 g3 (k_X1_gardenerOf e5) ⟨Nat.le_of_ble_eq_true rfl, Nat.le_of_ble_eq_true rfl⟩ (As := [.int x1, .int x2]) (rest := [.int 0, .ref x3]) rfl rfl (Nat.le_of_ble_eq_true rfl) dX0_gardenerOf_5 (kXI ?_) yXI
    refine a_i2l dX0_gardenerOf_8 ?_
    obtain ⟨h9, e8, hT⟩ := obnd hT
    refine a_stJ e8 dX0_gardenerOf_9 ?_
    refine a_goto 21 dX0_gardenerOf_10 rfl ?_
    refine a_iconst (v := 0) dX0_gardenerOf_21 (by decide) ?_
    obtain rfl := Option.some.inj hT
    exact a_iret rfl rfl dX0_gardenerOf_22 (he _ _ ⟨rfl, rfl⟩)
  · dsimp only at hT
    refine a_callV kv_X0_73 g3 (k_X1_gardenerOf e5) ⟨Nat.le_of_ble_eq_true rfl, Nat.le_of_ble_eq_true rfl⟩ (As := [.int x1, .int x2]) (rest := [.int 0, .ref x3]) rfl rfl (Nat.le_of_ble_eq_true rfl) dX0_gardenerOf_5 rXI (zXI ?_)
    by_cases c10 : y6.1 = "java/lang/IllegalArgumentException"
    · have hT := oifp c10 hT
      rw [c10]
      refine a_catchI 1 rfl (aCons (Or.inr ⟨by decide, _, q879, fun s hK => hK.2.2.2.2.1 _ (List.mem_of_getElem? (i := 1) rfl)⟩) aNil) (by decide) (by decide) q1026 q1043 ?_
      refine a_astore (lv' := [some (.ref x0), some (.int x1), some (.int x2), some (.ref x3), some (.ref y6.2)]) dX0_gardenerOf_17 rfl (by decide) rfl ?_
      refine a_iconst (v := 2) dX0_gardenerOf_19 (by decide) ?_
      obtain rfl := Option.some.inj hT
      exact a_iret rfl rfl dX0_gardenerOf_20 (he _ _ ⟨rfl, rfl⟩)
    · have hT := oifn c10 hT
      by_cases c11 : y6.1 = "java/lang/IndexOutOfBoundsException"
      · have hT := oifp c11 hT
        rw [c11]
        refine a_catchI 0 rfl aNil (by decide) (by decide) q879 q929 ?_
        refine a_astore (lv' := [some (.ref x0), some (.int x1), some (.int x2), some (.ref x3), some (.ref y6.2)]) dX0_gardenerOf_13 rfl (by decide) rfl ?_
        refine a_iconst (v := 1) dX0_gardenerOf_15 (by decide) ?_
        obtain rfl := Option.some.inj hT
        exact a_iret rfl rfl dX0_gardenerOf_16 (he _ _ ⟨rfl, rfl⟩)
      · have hT := oifn c11 hT
        cases hT
theorem kv_X0_78 : aKV "MazeBondsLaw" 78 0 yX1_visitorOf cX1_visitorOf 4 (Option.some Jvm.ClassFile.FieldType.int) 2 := ⟨⟨TX1, 8, rfl⟩, Or.inl q1064, q1065, q1066, q72, q1067, ⟨by decide +kernel, by decide +kernel, by decide +kernel⟩⟩
abbrev M_X0_visitorOf : aM := (yX0_visitorOf.cls, cX0_visitorOf, 5, (Option.some Jvm.ClassFile.FieldType.int), [((0 : Nat), (10 : Nat), (13 : Nat), (41 : Nat)), ((0 : Nat), (10 : Nat), (17 : Nat), (76 : Nat))], yX0_visitorOf.name)
def t_X0_visitorOf (Z : aZ) (h : aH) (x0 : Nat) (x1 : Int32) (x2 : Int32) (x3 : Nat) : Option (Int32 × aH) :=
  if isC 0 h x0 = true then
  (t_X1_visitorOf Z h x0 x1 x2).bind fun r4 =>
  (match r4 with
  | (.inl y6, h7) =>
    (stJ Z h7 x3 0 ((y6 : Int32).toInt64)).bind fun h9 =>
    some (0, h9)
  | (.inr y6, h7) =>
    if y6.1 = "java/lang/IllegalArgumentException" then
      some (2, h7)
    else
      if y6.1 = "java/lang/IndexOutOfBoundsException" then
        some (1, h7)
      else
        none
  )
  else none
theorem k_X0_visitorOf {G : aG} {h : aH} {x0 : Nat} {x1 : Int32} {x2 : Int32} {x3 : Nat} {e : (Int32 × aH)} (hT : t_X0_visitorOf (gZ G) h x0 x1 x2 x3 = some e) : aMet G yX0_visitorOf (wsW_ yX0_visitorOf cX0_visitorOf 5 (Option.some Jvm.ClassFile.FieldType.int) [((0 : Nat), (10 : Nat), (13 : Nat), (41 : Nat)), ((0 : Nat), (10 : Nat), (17 : Nat), (76 : Nat))]) 12 264 [.ref x0, .int x1, .int x2, .ref x3] h (aEI e.1 e.2) := by
  refine aMet.ofH (lv := [some (.ref x0), some (.int x1), some (.int x2), some (.ref x3), none]) (by decide) (Nat.le_of_ble_eq_true rfl) 1 rfl ?_
  have he : aTo (aEI e.1 e.2) (aEI e.1 e.2) := aTo.rf
  unfold t_X0_visitorOf at hT
  refine a_aload_n dX0_visitorOf_0 rfl ?_
  refine a_iconst (v := 0) dX0_visitorOf_1 (by decide) ?_
  refine a_aload_n dX0_visitorOf_2 rfl ?_
  refine a_iload_n dX0_visitorOf_3 rfl ?_
  refine a_iload_n dX0_visitorOf_4 rfl ?_
  obtain ⟨g3, hT⟩ := oifg hT
  obtain ⟨⟨y6 | y6, h7⟩, e5, hT⟩ := obnd hT
  · dsimp only at hT
    refine a_callV kv_X0_78 g3 (k_X1_visitorOf e5) ⟨Nat.le_of_ble_eq_true rfl, Nat.le_of_ble_eq_true rfl⟩ (As := [.int x1, .int x2]) (rest := [.int 0, .ref x3]) rfl rfl (Nat.le_of_ble_eq_true rfl) dX0_visitorOf_5 (kXI ?_) yXI
    refine a_i2l dX0_visitorOf_8 ?_
    obtain ⟨h9, e8, hT⟩ := obnd hT
    refine a_stJ e8 dX0_visitorOf_9 ?_
    refine a_goto 21 dX0_visitorOf_10 rfl ?_
    refine a_iconst (v := 0) dX0_visitorOf_21 (by decide) ?_
    obtain rfl := Option.some.inj hT
    exact a_iret rfl rfl dX0_visitorOf_22 (he _ _ ⟨rfl, rfl⟩)
  · dsimp only at hT
    refine a_callV kv_X0_78 g3 (k_X1_visitorOf e5) ⟨Nat.le_of_ble_eq_true rfl, Nat.le_of_ble_eq_true rfl⟩ (As := [.int x1, .int x2]) (rest := [.int 0, .ref x3]) rfl rfl (Nat.le_of_ble_eq_true rfl) dX0_visitorOf_5 rXI (zXI ?_)
    by_cases c10 : y6.1 = "java/lang/IllegalArgumentException"
    · have hT := oifp c10 hT
      rw [c10]
      refine a_catchI 1 rfl (aCons (Or.inr ⟨by decide, _, q879, fun s hK => hK.2.2.2.2.1 _ (List.mem_of_getElem? (i := 1) rfl)⟩) aNil) (by decide) (by decide) q1026 q1043 ?_
      refine a_astore (lv' := [some (.ref x0), some (.int x1), some (.int x2), some (.ref x3), some (.ref y6.2)]) dX0_visitorOf_17 rfl (by decide) rfl ?_
      refine a_iconst (v := 2) dX0_visitorOf_19 (by decide) ?_
      obtain rfl := Option.some.inj hT
      exact a_iret rfl rfl dX0_visitorOf_20 (he _ _ ⟨rfl, rfl⟩)
    · have hT := oifn c10 hT
      by_cases c11 : y6.1 = "java/lang/IndexOutOfBoundsException"
      · have hT := oifp c11 hT
        rw [c11]
        refine a_catchI 0 rfl aNil (by decide) (by decide) q879 q929 ?_
        refine a_astore (lv' := [some (.ref x0), some (.int x1), some (.int x2), some (.ref x3), some (.ref y6.2)]) dX0_visitorOf_13 rfl (by decide) rfl ?_
        refine a_iconst (v := 1) dX0_visitorOf_15 (by decide) ?_
        obtain rfl := Option.some.inj hT
        exact a_iret rfl rfl dX0_visitorOf_16 (he _ _ ⟨rfl, rfl⟩)
      · have hT := oifn c11 hT
        cases hT
theorem kv_X0_87 : aKV "MazeBondsLaw" 87 0 yX1_ranked cX1_ranked 7 (Option.some Jvm.ClassFile.FieldType.int) 2 := ⟨⟨TX1, 8, rfl⟩, Or.inl q1103, q1104, q1105, q72, q1106, ⟨by decide +kernel, by decide +kernel, by decide +kernel⟩⟩
abbrev M_X0_ranked : aM := (yX0_ranked.cls, cX0_ranked, 5, (Option.some Jvm.ClassFile.FieldType.int), [((0 : Nat), (10 : Nat), (13 : Nat), (76 : Nat)), ((0 : Nat), (10 : Nat), (17 : Nat), (43 : Nat))], yX0_ranked.name)
def t_X0_ranked (Z : aZ) (h : aH) (x0 : Nat) (x1 : Int32) (x2 : Int32) (x3 : Nat) : Option (Int32 × aH) :=
  if isC 0 h x0 = true then
  (t_X1_ranked Z h x0 x1 x2).bind fun r4 =>
  (match r4 with
  | (.inl y6, h7) =>
    (stJ Z h7 x3 0 ((y6 : Int32).toInt64)).bind fun h9 =>
    some (0, h9)
  | (.inr y6, h7) =>
    if y6.1 = "java/lang/IllegalArgumentException" then
      some (1, h7)
    else
      if y6.1 = "java/util/NoSuchElementException" then
        some (2, h7)
      else
        none
  )
  else none
theorem k_X0_ranked {G : aG} {h : aH} {x0 : Nat} {x1 : Int32} {x2 : Int32} {x3 : Nat} {e : (Int32 × aH)} (hT : t_X0_ranked (gZ G) h x0 x1 x2 x3 = some e) : aMet G yX0_ranked (wsW_ yX0_ranked cX0_ranked 5 (Option.some Jvm.ClassFile.FieldType.int) [((0 : Nat), (10 : Nat), (13 : Nat), (76 : Nat)), ((0 : Nat), (10 : Nat), (17 : Nat), (43 : Nat))]) 11 246 [.ref x0, .int x1, .int x2, .ref x3] h (aEI e.1 e.2) := by
  refine aMet.ofH (lv := [some (.ref x0), some (.int x1), some (.int x2), some (.ref x3), none]) (by decide) (Nat.le_of_ble_eq_true rfl) 1 rfl ?_
  have he : aTo (aEI e.1 e.2) (aEI e.1 e.2) := aTo.rf
  unfold t_X0_ranked at hT
  refine a_aload_n dX0_ranked_0 rfl ?_
  refine a_iconst (v := 0) dX0_ranked_1 (by decide) ?_
  refine a_aload_n dX0_ranked_2 rfl ?_
  refine a_iload_n dX0_ranked_3 rfl ?_
  refine a_iload_n dX0_ranked_4 rfl ?_
  obtain ⟨g3, hT⟩ := oifg hT
  obtain ⟨⟨y6 | y6, h7⟩, e5, hT⟩ := obnd hT
  · dsimp only at hT
    refine a_callV kv_X0_87 g3 (k_X1_ranked e5) ⟨Nat.le_of_ble_eq_true rfl, Nat.le_of_ble_eq_true rfl⟩ (As := [.int x1, .int x2]) (rest := [.int 0, .ref x3]) rfl rfl (Nat.le_of_ble_eq_true rfl) dX0_ranked_5 (kXI ?_) yXI
    refine a_i2l dX0_ranked_8 ?_
    obtain ⟨h9, e8, hT⟩ := obnd hT
    refine a_stJ e8 dX0_ranked_9 ?_
    refine a_goto 21 dX0_ranked_10 rfl ?_
    refine a_iconst (v := 0) dX0_ranked_21 (by decide) ?_
    obtain rfl := Option.some.inj hT
    exact a_iret rfl rfl dX0_ranked_22 (he _ _ ⟨rfl, rfl⟩)
  · dsimp only at hT
    refine a_callV kv_X0_87 g3 (k_X1_ranked e5) ⟨Nat.le_of_ble_eq_true rfl, Nat.le_of_ble_eq_true rfl⟩ (As := [.int x1, .int x2]) (rest := [.int 0, .ref x3]) rfl rfl (Nat.le_of_ble_eq_true rfl) dX0_ranked_5 rXI (zXI ?_)
    by_cases c10 : y6.1 = "java/lang/IllegalArgumentException"
    · have hT := oifp c10 hT
      rw [c10]
      refine a_catchI 0 rfl aNil (by decide) (by decide) q1026 q1043 ?_
      refine a_astore (lv' := [some (.ref x0), some (.int x1), some (.int x2), some (.ref x3), some (.ref y6.2)]) dX0_ranked_13 rfl (by decide) rfl ?_
      refine a_iconst (v := 1) dX0_ranked_15 (by decide) ?_
      obtain rfl := Option.some.inj hT
      exact a_iret rfl rfl dX0_ranked_16 (he _ _ ⟨rfl, rfl⟩)
    · have hT := oifn c10 hT
      by_cases c11 : y6.1 = "java/util/NoSuchElementException"
      · have hT := oifp c11 hT
        rw [c11]
        refine a_catchI 1 rfl (aCons (Or.inr ⟨by decide, _, q1026, fun s hK => hK.2.2.2.2.1 _ (List.mem_of_getElem? (i := 2) rfl)⟩) aNil) (by decide) (by decide) q911 q313 ?_
        refine a_astore (lv' := [some (.ref x0), some (.int x1), some (.int x2), some (.ref x3), some (.ref y6.2)]) dX0_ranked_17 rfl (by decide) rfl ?_
        refine a_iconst (v := 2) dX0_ranked_19 (by decide) ?_
        obtain rfl := Option.some.inj hT
        exact a_iret rfl rfl dX0_ranked_20 (he _ _ ⟨rfl, rfl⟩)
      · have hT := oifn c11 hT
        cases hT
theorem kv_X0_109 : aKV "MazeBondsLaw" 109 0 yX1_row cX1_row 3 (Option.some Jvm.ClassFile.FieldType.int) 1 := ⟨⟨TX1, 8, rfl⟩, Or.inl q1586, q1587, q1588, q72, q1589, ⟨by decide +kernel, by decide +kernel, by decide +kernel⟩⟩
abbrev M_X0_row : aM := (yX0_row.cls, cX0_row, 4, (Option.some Jvm.ClassFile.FieldType.int), [((0 : Nat), (9 : Nat), (12 : Nat), (76 : Nat))], yX0_row.name)
def t_X0_row (Z : aZ) (h : aH) (x0 : Nat) (x1 : Int32) (x2 : Nat) : Option (Int32 × aH) :=
  if isC 0 h x0 = true then
  (t_X1_row Z h x0 x1).bind fun r4 =>
  (match r4 with
  | (.inl y6, h7) =>
    (stJ Z h7 x2 0 ((y6 : Int32).toInt64)).bind fun h9 =>
    some (0, h9)
  | (.inr y6, h7) =>
    if y6.1 = "java/lang/IllegalArgumentException" then
      some (1, h7)
    else
      none
  )
  else none
theorem k_X0_row {G : aG} {h : aH} {x0 : Nat} {x1 : Int32} {x2 : Nat} {e : (Int32 × aH)} (hT : t_X0_row (gZ G) h x0 x1 x2 = some e) : aMet G yX0_row (wsW_ yX0_row cX0_row 4 (Option.some Jvm.ClassFile.FieldType.int) [((0 : Nat), (9 : Nat), (12 : Nat), (76 : Nat))]) 11 242 [.ref x0, .int x1, .ref x2] h (aEI e.1 e.2) := by
  refine aMet.ofH (lv := [some (.ref x0), some (.int x1), some (.ref x2), none]) (by decide) (Nat.le_of_ble_eq_true rfl) 1 rfl ?_
  have he : aTo (aEI e.1 e.2) (aEI e.1 e.2) := aTo.rf
  unfold t_X0_row at hT
  refine a_aload_n dX0_row_0 rfl ?_
  refine a_iconst (v := 0) dX0_row_1 (by decide) ?_
  refine a_aload_n dX0_row_2 rfl ?_
  refine a_iload_n dX0_row_3 rfl ?_
  obtain ⟨g3, hT⟩ := oifg hT
  obtain ⟨⟨y6 | y6, h7⟩, e5, hT⟩ := obnd hT
  · dsimp only at hT
    refine a_callV kv_X0_109 g3 (k_X1_row e5) ⟨Nat.le_of_ble_eq_true rfl, Nat.le_of_ble_eq_true rfl⟩ (As := [.int x1]) (rest := [.int 0, .ref x2]) rfl rfl (Nat.le_of_ble_eq_true rfl) dX0_row_4 (kXI ?_) yXI
    refine a_i2l dX0_row_7 ?_
    obtain ⟨h9, e8, hT⟩ := obnd hT
    refine a_stJ e8 dX0_row_8 ?_
    refine a_goto 15 dX0_row_9 rfl ?_
    refine a_iconst (v := 0) dX0_row_15 (by decide) ?_
    obtain rfl := Option.some.inj hT
    exact a_iret rfl rfl dX0_row_16 (he _ _ ⟨rfl, rfl⟩)
  · dsimp only at hT
    refine a_callV kv_X0_109 g3 (k_X1_row e5) ⟨Nat.le_of_ble_eq_true rfl, Nat.le_of_ble_eq_true rfl⟩ (As := [.int x1]) (rest := [.int 0, .ref x2]) rfl rfl (Nat.le_of_ble_eq_true rfl) dX0_row_4 rXI (zXI ?_)
    by_cases c10 : y6.1 = "java/lang/IllegalArgumentException"
    · have hT := oifp c10 hT
      rw [c10]
      refine a_catchI 0 rfl aNil (by decide) (by decide) q1026 q1043 ?_
      refine a_astore_n (lv' := [some (.ref x0), some (.int x1), some (.ref x2), some (.ref y6.2)]) dX0_row_12 rfl (by decide) rfl ?_
      refine a_iconst (v := 1) dX0_row_13 (by decide) ?_
      obtain rfl := Option.some.inj hT
      exact a_iret rfl rfl dX0_row_14 (he _ _ ⟨rfl, rfl⟩)
    · have hT := oifn c10 hT
      cases hT
theorem ks_X4_15 : aKS "MazeBonds$Somebody" 15 yX1_refuse cX1_refuse 3 (Option.none : Option Jvm.ClassFile.FieldType) 3 := ⟨Or.inr ⟨_, q737⟩, q640, q72, q641, ⟨by decide +kernel, by decide +kernel, by decide +kernel⟩⟩
abbrev M_X4_pay_3 : aM := (yX4_pay.cls, cX4_pay, 2, (Option.none : Option Jvm.ClassFile.FieldType), [], yX4_pay.name)
def t_X4_pay_3_l13 (Z : aZ) (h : aH) (v0 : Nat) (v1 : Int32) (u0 : Int32) : Option ((Unit ⊕ aXX) × aH) :=
  (gI 3 0 h v0).bind fun z5 =>
  (t_X1_refuse Z h u0 5 (v1 - z5)).bind fun r8 =>
  (match r8 with
  | (.inl y10, h11) =>
    (gI 3 0 h11 v0).bind fun z13 =>
    (pF 3 0 Z h11 v0 (.int (z13 - v1))).bind fun h15 =>
    some (.inl (), h15)
  | (.inr y10, h11) =>
    some (.inr y10, h11)
  )
theorem k_X4_pay_3_l13 {G : aG} {h0 : aH} {K : aRes → aH → Prop} {h : aH} {v0 : Nat} {v1 : Int32} {u0 : Int32} {e : ((Unit ⊕ aXX) × aH)} (hT : t_X4_pay_3_l13 (gZ G) h v0 v1 u0 = some e) (he : (fun e => aTo (aXV e.1 e.2) K) e) : aW G M_X4_pay_3 6 127 h0 K h 13 [some (.ref v0), some (.int v1)] [.int u0] := by
  unfold t_X4_pay_3_l13 at hT
  refine a_iconst (v := 5) dX4_pay_13 (by decide) ?_
  refine a_iload_n dX4_pay_14 rfl ?_
  refine a_aload_n dX4_pay_15 rfl ?_
  obtain ⟨z5, e4, hT⟩ := obnd hT
  refine a_gI fl_X4_9_3 e4 dX4_pay_16 ?_
  refine a_isub dX4_pay_19 ?_
  obtain ⟨⟨y10 | y10, h11⟩, e9, hT⟩ := obnd hT
  · dsimp only at hT
    refine a_callS ks_X4_15 (k_X1_refuse e9) ⟨Nat.le_of_ble_eq_true rfl, Nat.le_of_ble_eq_true rfl⟩ (As := [.int u0, .int 5, .int (v1 - z5)]) (rest := []) rfl rfl (Nat.le_of_ble_eq_true rfl) dX4_pay_20 (kXV ?_) yXV
    refine a_aload_n dX4_pay_23 rfl ?_
    refine a_dup dX4_pay_24 rfl ?_
    obtain ⟨z13, e12, hT⟩ := obnd hT
    refine a_gI fl_X4_9_3 e12 dX4_pay_25 ?_
    refine a_iload_n dX4_pay_28 rfl ?_
    refine a_isub dX4_pay_29 ?_
    obtain ⟨h15, e14, hT⟩ := obnd hT
    refine a_put (fp_X4_9_3 _) ⟨rfl, rfl⟩ e14 dX4_pay_30 ?_
    obtain rfl := Option.some.inj hT
    exact a_vret rfl dX4_pay_33 (he _ _ ⟨rfl, rfl⟩)
  · dsimp only at hT
    refine a_callS ks_X4_15 (k_X1_refuse e9) ⟨Nat.le_of_ble_eq_true rfl, Nat.le_of_ble_eq_true rfl⟩ (As := [.int u0, .int 5, .int (v1 - z5)]) (rest := []) rfl rfl (Nat.le_of_ble_eq_true rfl) dX4_pay_20 rXV (zXV ?_)
    obtain rfl := Option.some.inj hT
    exact a_out (by decide) (he _ _ ⟨rfl, rfl⟩)
def t_X4_pay_3 (Z : aZ) (h : aH) (o : Nat) (x0 : Int32) : Option ((Unit ⊕ aXX) × aH) :=
  (gI 3 0 h o).bind fun z2 =>
  if x0 ≤ z2 then
    t_X4_pay_3_l13 Z h o x0 0
  else
    t_X4_pay_3_l13 Z h o x0 1
theorem k_X4_pay_3 {G : aG} {h : aH} {o : Nat} {x0 : Int32} {e : ((Unit ⊕ aXX) × aH)} (hT : t_X4_pay_3 (gZ G) h o x0 = some e) : aMet G yX4_pay (ws_ yX4_pay cX4_pay 2 (Option.none : Option Jvm.ClassFile.FieldType)) 6 127 [.ref o, .int x0] h (aXV e.1 e.2) := by
  refine aMet.of (lv := [some (.ref o), some (.int x0)]) (by decide) (Nat.le_of_ble_eq_true rfl) 0 rfl ?_
  have he : aTo (aXV e.1 e.2) (aXV e.1 e.2) := aTo.rf
  unfold t_X4_pay_3 at hT
  refine a_aload_n dX4_pay_0 rfl ?_
  obtain ⟨z2, e1, hT⟩ := obnd hT
  refine a_gI fl_X4_9_3 e1 dX4_pay_1 ?_
  refine a_iload_n dX4_pay_4 rfl ?_
  refine a_icmp_ge 12 dX4_pay_5 rfl (fun c3 => ?_) (fun c3 => ?_)
  · have hT := oifp c3 hT
    refine a_iconst (v := 0) dX4_pay_12 (by decide) ?_
    exact k_X4_pay_3_l13 hT he
  · have hT := oifn c3 hT
    refine a_iconst (v := 1) dX4_pay_8 (by decide) ?_
    refine a_goto 13 dX4_pay_9 rfl ?_
    exact k_X4_pay_3_l13 hT he
abbrev M_X4_pay_4 : aM := (yX4_pay.cls, cX4_pay, 2, (Option.none : Option Jvm.ClassFile.FieldType), [], yX4_pay.name)
def t_X4_pay_4_l13 (Z : aZ) (h : aH) (v0 : Nat) (v1 : Int32) (u0 : Int32) : Option ((Unit ⊕ aXX) × aH) :=
  (gI 4 0 h v0).bind fun z5 =>
  (t_X1_refuse Z h u0 5 (v1 - z5)).bind fun r8 =>
  (match r8 with
  | (.inl y10, h11) =>
    (gI 4 0 h11 v0).bind fun z13 =>
    (pF 4 0 Z h11 v0 (.int (z13 - v1))).bind fun h15 =>
    some (.inl (), h15)
  | (.inr y10, h11) =>
    some (.inr y10, h11)
  )
theorem k_X4_pay_4_l13 {G : aG} {h0 : aH} {K : aRes → aH → Prop} {h : aH} {v0 : Nat} {v1 : Int32} {u0 : Int32} {e : ((Unit ⊕ aXX) × aH)} (hT : t_X4_pay_4_l13 (gZ G) h v0 v1 u0 = some e) (he : (fun e => aTo (aXV e.1 e.2) K) e) : aW G M_X4_pay_4 6 127 h0 K h 13 [some (.ref v0), some (.int v1)] [.int u0] := by
  unfold t_X4_pay_4_l13 at hT
  refine a_iconst (v := 5) dX4_pay_13 (by decide) ?_
  refine a_iload_n dX4_pay_14 rfl ?_
  refine a_aload_n dX4_pay_15 rfl ?_
  obtain ⟨z5, e4, hT⟩ := obnd hT
  refine a_gI fl_X4_9_4 e4 dX4_pay_16 ?_
  refine a_isub dX4_pay_19 ?_
  obtain ⟨⟨y10 | y10, h11⟩, e9, hT⟩ := obnd hT
  · dsimp only at hT
    refine a_callS ks_X4_15 (k_X1_refuse e9) ⟨Nat.le_of_ble_eq_true rfl, Nat.le_of_ble_eq_true rfl⟩ (As := [.int u0, .int 5, .int (v1 - z5)]) (rest := []) rfl rfl (Nat.le_of_ble_eq_true rfl) dX4_pay_20 (kXV ?_) yXV
    refine a_aload_n dX4_pay_23 rfl ?_
    refine a_dup dX4_pay_24 rfl ?_
    obtain ⟨z13, e12, hT⟩ := obnd hT
    refine a_gI fl_X4_9_4 e12 dX4_pay_25 ?_
    refine a_iload_n dX4_pay_28 rfl ?_
    refine a_isub dX4_pay_29 ?_
    obtain ⟨h15, e14, hT⟩ := obnd hT
    refine a_put (fp_X4_9_4 _) ⟨rfl, rfl⟩ e14 dX4_pay_30 ?_
    obtain rfl := Option.some.inj hT
    exact a_vret rfl dX4_pay_33 (he _ _ ⟨rfl, rfl⟩)
  · dsimp only at hT
    refine a_callS ks_X4_15 (k_X1_refuse e9) ⟨Nat.le_of_ble_eq_true rfl, Nat.le_of_ble_eq_true rfl⟩ (As := [.int u0, .int 5, .int (v1 - z5)]) (rest := []) rfl rfl (Nat.le_of_ble_eq_true rfl) dX4_pay_20 rXV (zXV ?_)
    obtain rfl := Option.some.inj hT
    exact a_out (by decide) (he _ _ ⟨rfl, rfl⟩)
def t_X4_pay_4 (Z : aZ) (h : aH) (o : Nat) (x0 : Int32) : Option ((Unit ⊕ aXX) × aH) :=
  (gI 4 0 h o).bind fun z2 =>
  if x0 ≤ z2 then
    t_X4_pay_4_l13 Z h o x0 0
  else
    t_X4_pay_4_l13 Z h o x0 1
theorem k_X4_pay_4 {G : aG} {h : aH} {o : Nat} {x0 : Int32} {e : ((Unit ⊕ aXX) × aH)} (hT : t_X4_pay_4 (gZ G) h o x0 = some e) : aMet G yX4_pay (ws_ yX4_pay cX4_pay 2 (Option.none : Option Jvm.ClassFile.FieldType)) 6 127 [.ref o, .int x0] h (aXV e.1 e.2) := by
  refine aMet.of (lv := [some (.ref o), some (.int x0)]) (by decide) (Nat.le_of_ble_eq_true rfl) 0 rfl ?_
  have he : aTo (aXV e.1 e.2) (aXV e.1 e.2) := aTo.rf
  unfold t_X4_pay_4 at hT
  refine a_aload_n dX4_pay_0 rfl ?_
  obtain ⟨z2, e1, hT⟩ := obnd hT
  refine a_gI fl_X4_9_4 e1 dX4_pay_1 ?_
  refine a_iload_n dX4_pay_4 rfl ?_
  refine a_icmp_ge 12 dX4_pay_5 rfl (fun c3 => ?_) (fun c3 => ?_)
  · have hT := oifp c3 hT
    refine a_iconst (v := 0) dX4_pay_12 (by decide) ?_
    exact k_X4_pay_4_l13 hT he
  · have hT := oifn c3 hT
    refine a_iconst (v := 1) dX4_pay_8 (by decide) ?_
    refine a_goto 13 dX4_pay_9 rfl ?_
    exact k_X4_pay_4_l13 hT he
theorem kv_X1_94 : aKV "MazeBonds" 94 1 yX2_copy cX2_copy 4 (Option.some (Jvm.ClassFile.FieldType.object "MazeBonds$Core")) 0 := ⟨⟨TX2, 7, rfl⟩, Or.inl q253, q254, q255, q73, q256, ⟨by decide +kernel, by decide +kernel, by decide +kernel⟩⟩
theorem kv_X1_110 : aKV "MazeBonds" 110 1 yX2_summer cX2_summer 3 (Option.some Jvm.ClassFile.FieldType.int) 0 := ⟨⟨TX2, 7, rfl⟩, Or.inl q533, q534, q535, q73, q536, ⟨by decide +kernel, by decide +kernel, by decide +kernel⟩⟩
theorem kv_X1_102 : aKV "MazeBonds" 102 0 yX1_come cX1_come 3 (Option.some Jvm.ClassFile.FieldType.int) 2 := ⟨⟨TX1, 8, rfl⟩, Or.inl q542, q544, qs4, q72, q545, ⟨by decide +kernel, by decide +kernel, by decide +kernel⟩⟩
abbrev M_X1_summer : aM := (yX1_summer.cls, cX1_summer, 2, (Option.some Jvm.ClassFile.FieldType.int), [], yX1_summer.name)
def t_X1_summer (Z : aZ) (h : aH) (o : Nat) : Option (Int32 × aH) :=
  (gA 0 0 h o).bind fun a2 =>
  if isC 1 h a2 = true then
  (t_X2_copy Z h a2).bind fun r6 =>
  if isC 1 r6.2 r6.1 = true then
  (t_X2_summer Z r6.2 r6.1).bind fun r11 =>
  if isC 0 r11.2 o = true then
  (t_X1_come Z r11.2 o r6.1 r11.1).bind fun r16 =>
  some (r16.1, r16.2)
  else none
  else none
  else none
theorem k_X1_summer {G : aG} {h : aH} {o : Nat} {e : (Int32 × aH)} (hT : t_X1_summer (gZ G) h o = some e) : aMet G yX1_summer (ws_ yX1_summer cX1_summer 2 (Option.some Jvm.ClassFile.FieldType.int)) 6 150 [.ref o] h (aEI e.1 e.2) := by
  refine aMet.of (lv := [some (.ref o), none]) (by decide) (Nat.le_of_ble_eq_true rfl) 1 rfl ?_
  have he : aTo (aEI e.1 e.2) (aEI e.1 e.2) := aTo.rf
  unfold t_X1_summer at hT
  refine a_aload_n dX1_summer_0 rfl ?_
  obtain ⟨a2, e1, hT⟩ := obnd hT
  refine a_gA fl_X1_49_0 e1 dX1_summer_1 ?_
  obtain ⟨g5, hT⟩ := oifg hT
  obtain ⟨r6, e7, hT⟩ := obnd hT
  refine a_callV kv_X1_94 g5 (k_X2_copy e7) ⟨Nat.le_of_ble_eq_true rfl, Nat.le_of_ble_eq_true rfl⟩ (As := []) (rest := []) rfl rfl (Nat.le_of_ble_eq_true rfl) dX1_summer_4 (kA ?_) xA
  refine a_astore_n (lv' := [some (.ref o), some (.ref r6.1)]) dX1_summer_7 rfl (by decide) rfl ?_
  refine a_aload_n dX1_summer_8 rfl ?_
  refine a_aload_n dX1_summer_9 rfl ?_
  refine a_aload_n dX1_summer_10 rfl ?_
  obtain ⟨g10, hT⟩ := oifg hT
  obtain ⟨r11, e12, hT⟩ := obnd hT
  refine a_callV kv_X1_110 g10 (k_X2_summer e12) ⟨Nat.le_of_ble_eq_true rfl, Nat.le_of_ble_eq_true rfl⟩ (As := []) (rest := [.ref r6.1, .ref o]) rfl rfl (Nat.le_of_ble_eq_true rfl) dX1_summer_11 (kI ?_) xI
  obtain ⟨g15, hT⟩ := oifg hT
  obtain ⟨r16, e17, hT⟩ := obnd hT
  refine a_callV kv_X1_102 g15 (k_X1_come e17) ⟨Nat.le_of_ble_eq_true rfl, Nat.le_of_ble_eq_true rfl⟩ (As := [.ref r6.1, .int r11.1]) (rest := []) rfl rfl (Nat.le_of_ble_eq_true rfl) dX1_summer_14 (kI ?_) xI
  obtain rfl := Option.some.inj hT
  exact a_iret rfl rfl dX1_summer_17 (he _ _ ⟨rfl, rfl⟩)
theorem fp_X1_377_0 (nm9 : String) : aFP "MazeBonds" 377 0 2 (.object "MazeBonds$Core") nm9 := ⟨RX1, TX1, 8, "MazeBonds", tyX1, rfl, in_X1, by decide, Or.inl rfl, Or.inl q224, tyX1_ok, nmX1, rfl, Or.inl rfl⟩
abbrev M_X1_save : aM := (yX1_save.cls, cX1_save, 1, (Option.some Jvm.ClassFile.FieldType.int), [], yX1_save.name)
def t_X1_save (Z : aZ) (h : aH) (o : Nat) : Option (Int32 × aH) :=
  (gA 0 0 h o).bind fun a2 =>
  if isC 1 h a2 = true then
  (t_X2_copy Z h a2).bind fun r6 =>
  (pF 0 2 Z r6.2 o (.ref r6.1)).bind fun h9 =>
  (gA 0 0 h9 o).bind fun a11 =>
  (gA 1 2 h9 a11).bind fun a13 =>
  if isC 8 h9 a13 = true then
  (t_J2_size Z h9 a13).bind fun r17 =>
  some (r17.1, r17.2)
  else none
  else none
theorem k_X1_save {G : aG} {h : aH} {o : Nat} {e : (Int32 × aH)} (hT : t_X1_save (gZ G) h o = some e) : aMet G yX1_save (ws_ yX1_save cX1_save 1 (Option.some Jvm.ClassFile.FieldType.int)) 6 150 [.ref o] h (aEI e.1 e.2) := by
  refine aMet.of (lv := [some (.ref o)]) (by decide) (Nat.le_of_ble_eq_true rfl) 0 rfl ?_
  have he : aTo (aEI e.1 e.2) (aEI e.1 e.2) := aTo.rf
  unfold t_X1_save at hT
  refine a_aload_n dX1_save_0 rfl ?_
  refine a_aload_n dX1_save_1 rfl ?_
  obtain ⟨a2, e1, hT⟩ := obnd hT
  refine a_gA fl_X1_49_0 e1 dX1_save_2 ?_
  obtain ⟨g5, hT⟩ := oifg hT
  obtain ⟨r6, e7, hT⟩ := obnd hT
  refine a_callV kv_X1_94 g5 (k_X2_copy e7) ⟨Nat.le_of_ble_eq_true rfl, Nat.le_of_ble_eq_true rfl⟩ (As := []) (rest := [.ref o]) rfl rfl (Nat.le_of_ble_eq_true rfl) dX1_save_5 (kA ?_) xA
  obtain ⟨h9, e8, hT⟩ := obnd hT
  refine a_put (fp_X1_377_0 _) ⟨rfl, rfl⟩ e8 dX1_save_8 ?_
  refine a_aload_n dX1_save_11 rfl ?_
  obtain ⟨a11, e10, hT⟩ := obnd hT
  refine a_gA fl_X1_49_0 e10 dX1_save_12 ?_
  obtain ⟨a13, e12, hT⟩ := obnd hT
  refine a_gA fl_X1_197_1 e12 dX1_save_15 ?_
  obtain ⟨g16, hT⟩ := oifg hT
  obtain ⟨r17, e18, hT⟩ := obnd hT
  refine a_callV kv_X1_82 g16 (k_J2_size e18) ⟨Nat.le_of_ble_eq_true rfl, Nat.le_of_ble_eq_true rfl⟩ (As := []) (rest := []) rfl rfl (Nat.le_of_ble_eq_true rfl) dX1_save_18 (kI ?_) xI
  obtain rfl := Option.some.inj hT
  exact a_iret rfl rfl dX1_save_21 (he _ _ ⟨rfl, rfl⟩)
theorem ks_X1_30 : aKS "MazeBonds" 30 yX1_refuse cX1_refuse 3 (Option.none : Option Jvm.ClassFile.FieldType) 3 := ⟨Or.inl q639, q640, q72, q641, ⟨by decide +kernel, by decide +kernel, by decide +kernel⟩⟩
abbrev M_X1_requireRange : aM := (yX1_requireRange.cls, cX1_requireRange, 1, (Option.none : Option Jvm.ClassFile.FieldType), [], yX1_requireRange.name)
def t_X1_requireRange_l9 (Z : aZ) (h : aH) (u0 : Int32) : Option ((Unit ⊕ aXX) × aH) :=
  (t_X1_refuse Z h u0 1 0).bind fun r4 =>
  (match r4 with
  | (.inl y6, h7) =>
    some (.inl (), h7)
  | (.inr y6, h7) =>
    some (.inr y6, h7)
  )
theorem k_X1_requireRange_l9 {G : aG} {h0 : aH} {K : aRes → aH → Prop} {h : aH} {u0 : Int32} {e : ((Unit ⊕ aXX) × aH)} (hT : t_X1_requireRange_l9 (gZ G) h u0 = some e) (he : (fun e => aTo (aXV e.1 e.2) K) e) : aW G M_X1_requireRange 6 127 h0 K h 9 [none] [.int u0] := by
  unfold t_X1_requireRange_l9 at hT
  refine a_iconst (v := 1) dX1_requireRange_9 (by decide) ?_
  refine a_iconst (v := 0) dX1_requireRange_10 (by decide) ?_
  obtain ⟨⟨y6 | y6, h7⟩, e5, hT⟩ := obnd hT
  · dsimp only at hT
    refine a_callS ks_X1_30 (k_X1_refuse e5) ⟨Nat.le_of_ble_eq_true rfl, Nat.le_of_ble_eq_true rfl⟩ (As := [.int u0, .int 1, .int 0]) (rest := []) rfl rfl (Nat.le_of_ble_eq_true rfl) dX1_requireRange_11 (kXV ?_) yXV
    obtain rfl := Option.some.inj hT
    exact a_vret rfl dX1_requireRange_14 (he _ _ ⟨rfl, rfl⟩)
  · dsimp only at hT
    refine a_callS ks_X1_30 (k_X1_refuse e5) ⟨Nat.le_of_ble_eq_true rfl, Nat.le_of_ble_eq_true rfl⟩ (As := [.int u0, .int 1, .int 0]) (rest := []) rfl rfl (Nat.le_of_ble_eq_true rfl) dX1_requireRange_11 rXV (zXV ?_)
    obtain rfl := Option.some.inj hT
    exact a_out (by decide) (he _ _ ⟨rfl, rfl⟩)
def t_X1_requireRange (Z : aZ) (h : aH) (x0 : Int32) : Option ((Unit ⊕ aXX) × aH) :=
  if x0 = 0 then
    t_X1_requireRange_l9 Z h 1
  else
    t_X1_requireRange_l9 Z h 0
theorem k_X1_requireRange {G : aG} {h : aH} {x0 : Int32} {e : ((Unit ⊕ aXX) × aH)} (hT : t_X1_requireRange (gZ G) h x0 = some e) : aMet G yX1_requireRange (ws_ yX1_requireRange cX1_requireRange 1 (Option.none : Option Jvm.ClassFile.FieldType)) 6 127 [.int x0] h (aXV e.1 e.2) := by
  refine aMet.of (lv := [some (.int x0)]) (by decide) (Nat.le_of_ble_eq_true rfl) 0 rfl ?_
  have he : aTo (aXV e.1 e.2) (aXV e.1 e.2) := aTo.rf
  unfold t_X1_requireRange at hT
  refine a_iload_n dX1_requireRange_0 rfl ?_
  refine a_if_ne 8 dX1_requireRange_1 rfl (fun c1 => ?_) (fun c1 => ?_)
  · have hT := oifn c1 hT
    refine a_iconst (v := 0) dX1_requireRange_8 (by decide) ?_
    refine a_mask [false] ?_
    exact k_X1_requireRange_l9 hT he
  · have hT := oifp c1 hT
    refine a_iconst (v := 1) dX1_requireRange_4 (by decide) ?_
    refine a_goto 9 dX1_requireRange_5 rfl ?_
    refine a_mask [false] ?_
    exact k_X1_requireRange_l9 hT he
abbrev M_X1_leaves : aM := (yX1_leaves.cls, cX1_leaves, 3, (Option.some Jvm.ClassFile.FieldType.int), [], yX1_leaves.name)
def t_X1_leaves (Z : aZ) (h : aH) (o : Nat) (x0 : Int32) (x1 : Int32) : Option ((Int32 ⊕ aXX) × aH) :=
  (gA 0 0 h o).bind fun a2 =>
  (gA 1 0 h a2).bind fun a4 =>
  if isC 0 h o = true then
  (t_X1_getHedge Z h o x0 x1).bind fun r8 =>
  (match r8 with
  | (.inl y10, h11) =>
    (ldI Z h11 a4 y10).bind fun z13 =>
    some (.inl z13, h11)
  | (.inr y10, h11) =>
    some (.inr y10, h11)
  )
  else none
theorem k_X1_leaves {G : aG} {h : aH} {o : Nat} {x0 : Int32} {x1 : Int32} {e : ((Int32 ⊕ aXX) × aH)} (hT : t_X1_leaves (gZ G) h o x0 x1 = some e) : aMet G yX1_leaves (ws_ yX1_leaves cX1_leaves 3 (Option.some Jvm.ClassFile.FieldType.int)) 12 263 [.ref o, .int x0, .int x1] h (aXI e.1 e.2) := by
  refine aMet.of (lv := [some (.ref o), some (.int x0), some (.int x1)]) (by decide) (Nat.le_of_ble_eq_true rfl) 0 rfl ?_
  have he : aTo (aXI e.1 e.2) (aXI e.1 e.2) := aTo.rf
  unfold t_X1_leaves at hT
  refine a_aload_n dX1_leaves_0 rfl ?_
  obtain ⟨a2, e1, hT⟩ := obnd hT
  refine a_gA fl_X1_49_0 e1 dX1_leaves_1 ?_
  obtain ⟨a4, e3, hT⟩ := obnd hT
  refine a_gA fl_X1_153_1 e3 dX1_leaves_4 ?_
  refine a_aload_n dX1_leaves_7 rfl ?_
  refine a_iload_n dX1_leaves_8 rfl ?_
  refine a_iload_n dX1_leaves_9 rfl ?_
  obtain ⟨g7, hT⟩ := oifg hT
  obtain ⟨⟨y10 | y10, h11⟩, e9, hT⟩ := obnd hT
  · dsimp only at hT
    refine a_callV kv_X1_157 g7 (k_X1_getHedge e9) ⟨Nat.le_of_ble_eq_true rfl, Nat.le_of_ble_eq_true rfl⟩ (As := [.int x0, .int x1]) (rest := [.ref a4]) rfl rfl (Nat.le_of_ble_eq_true rfl) dX1_leaves_10 (kXI ?_) yXI
    obtain ⟨z13, e12, hT⟩ := obnd hT
    refine a_ldI e12 dX1_leaves_13 ?_
    obtain rfl := Option.some.inj hT
    exact a_iret rfl rfl dX1_leaves_14 (he _ _ ⟨rfl, rfl⟩)
  · dsimp only at hT
    refine a_callV kv_X1_157 g7 (k_X1_getHedge e9) ⟨Nat.le_of_ble_eq_true rfl, Nat.le_of_ble_eq_true rfl⟩ (As := [.int x0, .int x1]) (rest := [.ref a4]) rfl rfl (Nat.le_of_ble_eq_true rfl) dX1_leaves_10 rXI (zXI ?_)
    obtain rfl := Option.some.inj hT
    exact a_out (by decide) (he _ _ ⟨rfl, rfl⟩)
theorem kv_X1_258 : aKV "MazeBonds" 258 1 yX2_owed cX2_owed 5 (Option.some Jvm.ClassFile.FieldType.int) 1 := ⟨⟨TX2, 7, rfl⟩, Or.inl q1096, q1097, q1098, q73, q1099, ⟨by decide +kernel, by decide +kernel, by decide +kernel⟩⟩
abbrev M_X1_owed : aM := (yX1_owed.cls, cX1_owed, 2, (Option.some Jvm.ClassFile.FieldType.int), [], yX1_owed.name)
def t_X1_owed (Z : aZ) (h : aH) (o : Nat) (x0 : Int32) : Option ((Int32 ⊕ aXX) × aH) :=
  if isC 0 h o = true then
  (t_X1_getGardener Z h o x0).bind fun r4 =>
  (match r4 with
  | (.inl y6, h7) =>
    (gA 0 0 h7 o).bind fun a9 =>
    if isC 1 h7 a9 = true then
    (t_X2_owed Z h7 a9 x0).bind fun r13 =>
    some (.inl r13.1, r13.2)
    else none
  | (.inr y6, h7) =>
    some (.inr y6, h7)
  )
  else none
theorem k_X1_owed {G : aG} {h : aH} {o : Nat} {x0 : Int32} {e : ((Int32 ⊕ aXX) × aH)} (hT : t_X1_owed (gZ G) h o x0 = some e) : aMet G yX1_owed (ws_ yX1_owed cX1_owed 2 (Option.some Jvm.ClassFile.FieldType.int)) 11 241 [.ref o, .int x0] h (aXI e.1 e.2) := by
  refine aMet.of (lv := [some (.ref o), some (.int x0)]) (by decide) (Nat.le_of_ble_eq_true rfl) 0 rfl ?_
  have he : aTo (aXI e.1 e.2) (aXI e.1 e.2) := aTo.rf
  unfold t_X1_owed at hT
  refine a_aload_n dX1_owed_0 rfl ?_
  refine a_iload_n dX1_owed_1 rfl ?_
  obtain ⟨g3, hT⟩ := oifg hT
  obtain ⟨⟨y6 | y6, h7⟩, e5, hT⟩ := obnd hT
  · dsimp only at hT
    refine a_callV kv_X1_202 g3 (k_X1_getGardener e5) ⟨Nat.le_of_ble_eq_true rfl, Nat.le_of_ble_eq_true rfl⟩ (As := [.int x0]) (rest := []) rfl rfl (Nat.le_of_ble_eq_true rfl) dX1_owed_2 (kXA ?_) yXA
    refine a_pop dX1_owed_5 rfl ?_
    refine a_aload_n dX1_owed_6 rfl ?_
    obtain ⟨a9, e8, hT⟩ := obnd hT
    refine a_gA fl_X1_49_0 e8 dX1_owed_7 ?_
    refine a_iload_n dX1_owed_10 rfl ?_
    obtain ⟨g12, hT⟩ := oifg hT
    obtain ⟨r13, e14, hT⟩ := obnd hT
    refine a_callV kv_X1_258 g12 (k_X2_owed e14) ⟨Nat.le_of_ble_eq_true rfl, Nat.le_of_ble_eq_true rfl⟩ (As := [.int x0]) (rest := []) rfl rfl (Nat.le_of_ble_eq_true rfl) dX1_owed_11 (kI ?_) xI
    obtain rfl := Option.some.inj hT
    exact a_iret rfl rfl dX1_owed_14 (he _ _ ⟨rfl, rfl⟩)
  · dsimp only at hT
    refine a_callV kv_X1_202 g3 (k_X1_getGardener e5) ⟨Nat.le_of_ble_eq_true rfl, Nat.le_of_ble_eq_true rfl⟩ (As := [.int x0]) (rest := []) rfl rfl (Nat.le_of_ble_eq_true rfl) dX1_owed_2 rXA (zXA ?_)
    obtain rfl := Option.some.inj hT
    exact a_out (by decide) (he _ _ ⟨rfl, rfl⟩)
abbrev M_X1_isRicher : aM := (yX1_isRicher.cls, cX1_isRicher, 5, (Option.some Jvm.ClassFile.FieldType.boolean), [], yX1_isRicher.name)
def t_X1_isRicher (Z : aZ) (h : aH) (o : Nat) (x0 : Int32) (x1 : Int32) : Option (Int32 × aH) :=
  (gA 0 0 h o).bind fun a2 =>
  (gA 1 1 h a2).bind fun a4 =>
  if isC 8 h a4 = true then
  (t_J2_get Z h a4 x0).bind fun r8 =>
  if isC 3 r8.2 r8.1 = true then
  if isC 3 r8.2 r8.1 = true then
  (t_X4_coins_3 Z r8.2 r8.1).bind fun r14 =>
  (gA 0 0 r14.2 o).bind fun a17 =>
  (gA 1 1 r14.2 a17).bind fun a19 =>
  if isC 8 r14.2 a19 = true then
  (t_J2_get Z r14.2 a19 x1).bind fun r23 =>
  if isC 3 r23.2 r23.1 = true then
  if isC 3 r23.2 r23.1 = true then
  (t_X4_coins_3 Z r23.2 r23.1).bind fun r29 =>
  (gA 0 0 r29.2 o).bind fun a32 =>
  if isC 1 r29.2 a32 = true then
  (t_X2_owed Z r29.2 a32 x1).bind fun r36 =>
  (gA 0 0 r36.2 o).bind fun a39 =>
  if isC 1 r36.2 a39 = true then
  (t_X2_owed Z r36.2 a39 x0).bind fun r43 =>
  if (r14.1 - r29.1) = 0 then
    if (r36.1 - r43.1) = 0 then
      if x1 ≤ x0 then
        some (0, r43.2)
      else
        some (1, r43.2)
    else
      if (r36.1 - r43.1) ≤ 0 then
        some (0, r43.2)
      else
        some (1, r43.2)
  else
    if (r14.1 - r29.1) ≤ 0 then
      some (0, r43.2)
    else
      some (1, r43.2)
  else none
  else none
  else none
  else none
  else none
  else none
  else none
  else none
theorem k_X1_isRicher {G : aG} {h : aH} {o : Nat} {x0 : Int32} {x1 : Int32} {e : (Int32 × aH)} (hT : t_X1_isRicher (gZ G) h o x0 x1 = some e) : aMet G yX1_isRicher (ws_ yX1_isRicher cX1_isRicher 5 (Option.some Jvm.ClassFile.FieldType.boolean)) 4 106 [.ref o, .int x0, .int x1] h (aEI e.1 e.2) := by
  refine aMet.of (lv := [some (.ref o), some (.int x0), some (.int x1), none, none]) (by decide) (Nat.le_of_ble_eq_true rfl) 2 rfl ?_
  have he : aTo (aEI e.1 e.2) (aEI e.1 e.2) := aTo.rf
  unfold t_X1_isRicher at hT
  refine a_aload_n dX1_isRicher_0 rfl ?_
  obtain ⟨a2, e1, hT⟩ := obnd hT
  refine a_gA fl_X1_49_0 e1 dX1_isRicher_1 ?_
  obtain ⟨a4, e3, hT⟩ := obnd hT
  refine a_gA fl_X1_186_1 e3 dX1_isRicher_4 ?_
  refine a_iload_n dX1_isRicher_7 rfl ?_
  obtain ⟨g7, hT⟩ := oifg hT
  obtain ⟨r8, e9, hT⟩ := obnd hT
  refine a_callV kv_X1_189 g7 (k_J2_get e9) ⟨Nat.le_of_ble_eq_true rfl, Nat.le_of_ble_eq_true rfl⟩ (As := [.int x0]) (rest := []) rfl rfl (Nat.le_of_ble_eq_true rfl) dX1_isRicher_8 (kA ?_) xA
  obtain ⟨g10, hT⟩ := oifg hT
  refine a_cast (ci := 3) rfl q1037 g10 dX1_isRicher_11 ?_
  obtain ⟨g13, hT⟩ := oifg hT
  obtain ⟨r14, e15, hT⟩ := obnd hT
  refine a_callU ku_X1_209_3 g13 (k_X4_coins_3 e15) ⟨Nat.le_of_ble_eq_true rfl, Nat.le_of_ble_eq_true rfl⟩ (As := []) (rest := []) rfl rfl (Nat.le_of_ble_eq_true rfl) dX1_isRicher_14 (kI ?_) xI
  refine a_aload_n dX1_isRicher_17 rfl ?_
  obtain ⟨a17, e16, hT⟩ := obnd hT
  refine a_gA fl_X1_49_0 e16 dX1_isRicher_18 ?_
  obtain ⟨a19, e18, hT⟩ := obnd hT
  refine a_gA fl_X1_186_1 e18 dX1_isRicher_21 ?_
  refine a_iload_n dX1_isRicher_24 rfl ?_
  obtain ⟨g22, hT⟩ := oifg hT
  obtain ⟨r23, e24, hT⟩ := obnd hT
  refine a_callV kv_X1_189 g22 (k_J2_get e24) ⟨Nat.le_of_ble_eq_true rfl, Nat.le_of_ble_eq_true rfl⟩ (As := [.int x1]) (rest := [.int r14.1]) rfl rfl (Nat.le_of_ble_eq_true rfl) dX1_isRicher_25 (kA ?_) xA
  obtain ⟨g25, hT⟩ := oifg hT
  refine a_cast (ci := 3) rfl q1037 g25 dX1_isRicher_28 ?_
  obtain ⟨g28, hT⟩ := oifg hT
  obtain ⟨r29, e30, hT⟩ := obnd hT
  refine a_callU ku_X1_209_3 g28 (k_X4_coins_3 e30) ⟨Nat.le_of_ble_eq_true rfl, Nat.le_of_ble_eq_true rfl⟩ (As := []) (rest := [.int r14.1]) rfl rfl (Nat.le_of_ble_eq_true rfl) dX1_isRicher_31 (kI ?_) xI
  refine a_isub dX1_isRicher_34 ?_
  refine a_istore_n (lv' := [some (.ref o), some (.int x0), some (.int x1), some (.int (r14.1 - r29.1)), none]) dX1_isRicher_35 rfl (by decide) rfl ?_
  refine a_aload_n dX1_isRicher_36 rfl ?_
  obtain ⟨a32, e31, hT⟩ := obnd hT
  refine a_gA fl_X1_49_0 e31 dX1_isRicher_37 ?_
  refine a_iload_n dX1_isRicher_40 rfl ?_
  obtain ⟨g35, hT⟩ := oifg hT
  obtain ⟨r36, e37, hT⟩ := obnd hT
  refine a_callV kv_X1_258 g35 (k_X2_owed e37) ⟨Nat.le_of_ble_eq_true rfl, Nat.le_of_ble_eq_true rfl⟩ (As := [.int x1]) (rest := []) rfl rfl (Nat.le_of_ble_eq_true rfl) dX1_isRicher_41 (kI ?_) xI
  refine a_aload_n dX1_isRicher_44 rfl ?_
  obtain ⟨a39, e38, hT⟩ := obnd hT
  refine a_gA fl_X1_49_0 e38 dX1_isRicher_45 ?_
  refine a_iload_n dX1_isRicher_48 rfl ?_
  obtain ⟨g42, hT⟩ := oifg hT
  obtain ⟨r43, e44, hT⟩ := obnd hT
  refine a_callV kv_X1_258 g42 (k_X2_owed e44) ⟨Nat.le_of_ble_eq_true rfl, Nat.le_of_ble_eq_true rfl⟩ (As := [.int x0]) (rest := [.int r36.1]) rfl rfl (Nat.le_of_ble_eq_true rfl) dX1_isRicher_49 (kI ?_) xI
  refine a_isub dX1_isRicher_52 ?_
  refine a_istore (lv' := [some (.ref o), some (.int x0), some (.int x1), some (.int (r14.1 - r29.1)), some (.int (r36.1 - r43.1))]) dX1_isRicher_53 rfl (by decide) rfl ?_
  refine a_iload_n dX1_isRicher_55 rfl ?_
  refine a_if_eq 71 dX1_isRicher_56 rfl (fun c45 => ?_) (fun c45 => ?_)
  · have hT := oifp c45 hT
    refine a_iload dX1_isRicher_71 rfl ?_
    refine a_if_eq 89 dX1_isRicher_73 rfl (fun c46 => ?_) (fun c46 => ?_)
    · have hT := oifp c46 hT
      refine a_iload_n dX1_isRicher_89 rfl ?_
      refine a_iload_n dX1_isRicher_90 rfl ?_
      refine a_icmp_ge 98 dX1_isRicher_91 rfl (fun c47 => ?_) (fun c47 => ?_)
      · have hT := oifp c47 hT
        refine a_iconst (v := 0) dX1_isRicher_98 (by decide) ?_
        obtain rfl := Option.some.inj hT
        exact a_iret rfl (by decide) dX1_isRicher_99 (he _ _ ⟨rfl, rfl⟩)
      · have hT := oifn c47 hT
        refine a_iconst (v := 1) dX1_isRicher_94 (by decide) ?_
        refine a_goto 99 dX1_isRicher_95 rfl ?_
        obtain rfl := Option.some.inj hT
        exact a_iret rfl (by decide) dX1_isRicher_99 (he _ _ ⟨rfl, rfl⟩)
    · have hT := oifn c46 hT
      refine a_iload dX1_isRicher_76 rfl ?_
      refine a_if_le 85 dX1_isRicher_78 rfl (fun c48 => ?_) (fun c48 => ?_)
      · have hT := oifp c48 hT
        refine a_iconst (v := 0) dX1_isRicher_85 (by decide) ?_
        refine a_goto 99 dX1_isRicher_86 rfl ?_
        obtain rfl := Option.some.inj hT
        exact a_iret rfl (by decide) dX1_isRicher_99 (he _ _ ⟨rfl, rfl⟩)
      · have hT := oifn c48 hT
        refine a_iconst (v := 1) dX1_isRicher_81 (by decide) ?_
        refine a_goto 99 dX1_isRicher_82 rfl ?_
        obtain rfl := Option.some.inj hT
        exact a_iret rfl (by decide) dX1_isRicher_99 (he _ _ ⟨rfl, rfl⟩)
  · have hT := oifn c45 hT
    refine a_iload_n dX1_isRicher_59 rfl ?_
    refine a_if_le 67 dX1_isRicher_60 rfl (fun c49 => ?_) (fun c49 => ?_)
    · have hT := oifp c49 hT
      refine a_iconst (v := 0) dX1_isRicher_67 (by decide) ?_
      refine a_goto 99 dX1_isRicher_68 rfl ?_
      obtain rfl := Option.some.inj hT
      exact a_iret rfl (by decide) dX1_isRicher_99 (he _ _ ⟨rfl, rfl⟩)
    · have hT := oifn c49 hT
      refine a_iconst (v := 1) dX1_isRicher_63 (by decide) ?_
      refine a_goto 99 dX1_isRicher_64 rfl ?_
      obtain rfl := Option.some.inj hT
      exact a_iret rfl (by decide) dX1_isRicher_99 (he _ _ ⟨rfl, rfl⟩)
theorem kv_X1_363 : aKV "MazeBonds" 363 1 yX2_out cX2_out 4 (Option.some Jvm.ClassFile.FieldType.int) 0 := ⟨⟨TX2, 7, rfl⟩, Or.inl q1652, q1653, q1654, q73, q1655, ⟨by decide +kernel, by decide +kernel, by decide +kernel⟩⟩
theorem kv_X1_365 : aKV "MazeBonds" 365 0 yX1_bonds cX1_bonds 3 (Option.some Jvm.ClassFile.FieldType.int) 0 := ⟨⟨TX1, 8, rfl⟩, Or.inl q1656, q1658, qs27, q72, q1659, ⟨by decide +kernel, by decide +kernel, by decide +kernel⟩⟩
theorem kv_X1_368 : aKV "MazeBonds" 368 1 yX2_voids cX2_voids 4 (Option.some Jvm.ClassFile.FieldType.int) 0 := ⟨⟨TX2, 7, rfl⟩, Or.inl q1663, q1664, q1665, q73, q1666, ⟨by decide +kernel, by decide +kernel, by decide +kernel⟩⟩
theorem kv_X1_371 : aKV "MazeBonds" 371 0 yX1_otherAccount cX1_otherAccount 2 (Option.some Jvm.ClassFile.FieldType.int) 1 := ⟨⟨TX1, 8, rfl⟩, Or.inl q1667, q1669, qs28, q72, q1670, ⟨by decide +kernel, by decide +kernel, by decide +kernel⟩⟩
abbrev M_X1_account : aM := (yX1_account.cls, cX1_account, 2, (Option.some Jvm.ClassFile.FieldType.int), [], yX1_account.name)
def t_X1_account (Z : aZ) (h : aH) (o : Nat) (x0 : Int32) : Option ((Int32 ⊕ aXX) × aH) :=
  (t_X1_isIn x0 0 11).bind fun r3 =>
  (t_X1_requireArgument Z h r3).bind fun r7 =>
  (match r7 with
  | (.inl y9, h10) =>
    if x0 = 0 then
      (gA 0 0 h10 o).bind fun a13 =>
      (gA 1 1 h10 a13).bind fun a15 =>
      if isC 8 h10 a15 = true then
      (t_J2_size Z h10 a15).bind fun r19 =>
      some (.inl r19.1, r19.2)
      else none
    else
      if x0 = 1 then
        (gA 0 0 h10 o).bind fun a23 =>
        (gA 1 2 h10 a23).bind fun a25 =>
        if isC 8 h10 a25 = true then
        (t_J2_size Z h10 a25).bind fun r29 =>
        some (.inl r29.1, r29.2)
        else none
      else
        if x0 = 2 then
          (gA 0 0 h10 o).bind fun a33 =>
          if isC 1 h10 a33 = true then
          (t_X2_out Z h10 a33).bind fun r37 =>
          some (.inl r37.1, r37.2)
          else none
        else
          if x0 = 3 then
            if isC 0 h10 o = true then
            (t_X1_bonds Z h10 o).bind fun r43 =>
            some (.inl r43.1, r43.2)
            else none
          else
            if x0 = 4 then
              (gA 0 0 h10 o).bind fun a47 =>
              if isC 1 h10 a47 = true then
              (t_X2_voids Z h10 a47).bind fun r51 =>
              some (.inl r51.1, r51.2)
              else none
            else
              if x0 = 5 then
                (gA 0 0 h10 o).bind fun a55 =>
                if isC 1 h10 a55 = true then
                (t_X2_gaps Z h10 a55).bind fun r59 =>
                some (.inl r59.1, r59.2)
                else none
              else
                if isC 0 h10 o = true then
                (t_X1_otherAccount Z h10 o x0).bind fun r64 =>
                some (.inl r64.1, r64.2)
                else none
  | (.inr y9, h10) =>
    some (.inr y9, h10)
  )
theorem k_X1_account {G : aG} {h : aH} {o : Nat} {x0 : Int32} {e : ((Int32 ⊕ aXX) × aH)} (hT : t_X1_account (gZ G) h o x0 = some e) : aMet G yX1_account (ws_ yX1_account cX1_account 2 (Option.some Jvm.ClassFile.FieldType.int)) 10 220 [.ref o, .int x0] h (aXI e.1 e.2) := by
  refine aMet.of (lv := [some (.ref o), some (.int x0)]) (by decide) (Nat.le_of_ble_eq_true rfl) 0 rfl ?_
  have he : aTo (aXI e.1 e.2) (aXI e.1 e.2) := aTo.rf
  unfold t_X1_account at hT
  refine a_iload_n dX1_account_0 rfl ?_
  refine a_iconst (v := 0) dX1_account_1 (by decide) ?_
  refine a_bipush (v := 11) dX1_account_2 (by decide) ?_
  obtain ⟨r3, e4, hT⟩ := obnd hT
  refine a_callS ks_X1_3 (k_X1_isIn e4) ⟨Nat.le_of_ble_eq_true rfl, Nat.le_of_ble_eq_true rfl⟩ (As := [.int x0, .int 0, .int 11]) (rest := []) rfl rfl (Nat.le_of_ble_eq_true rfl) dX1_account_4 (kI ?_) xI
  obtain ⟨⟨y9 | y9, h10⟩, e8, hT⟩ := obnd hT
  · dsimp only at hT
    refine a_callS ks_X1_206 (k_X1_requireArgument e8) ⟨Nat.le_of_ble_eq_true rfl, Nat.le_of_ble_eq_true rfl⟩ (As := [.int r3]) (rest := []) rfl rfl (Nat.le_of_ble_eq_true rfl) dX1_account_7 (kXV ?_) yXV
    refine a_iload_n dX1_account_10 rfl ?_
    by_cases c11 : x0 = 0
    · have hT := oifp c11 hT
      refine a_tswIn 48 dX1_account_11 (by rw [c11]; decide) (by rw [c11]; decide) (off := 37) (by rw [c11]; rfl) rfl ?_
      refine a_aload_n dX1_account_48 rfl ?_
      obtain ⟨a13, e12, hT⟩ := obnd hT
      refine a_gA fl_X1_49_0 e12 dX1_account_49 ?_
      obtain ⟨a15, e14, hT⟩ := obnd hT
      refine a_gA fl_X1_186_1 e14 dX1_account_52 ?_
      obtain ⟨g18, hT⟩ := oifg hT
      obtain ⟨r19, e20, hT⟩ := obnd hT
      refine a_callV kv_X1_82 g18 (k_J2_size e20) ⟨Nat.le_of_ble_eq_true rfl, Nat.le_of_ble_eq_true rfl⟩ (As := []) (rest := []) rfl rfl (Nat.le_of_ble_eq_true rfl) dX1_account_55 (kI ?_) xI
      obtain rfl := Option.some.inj hT
      exact a_iret rfl rfl dX1_account_58 (he _ _ ⟨rfl, rfl⟩)
    · have hT := oifn c11 hT
      by_cases c21 : x0 = 1
      · have hT := oifp c21 hT
        refine a_tswIn 59 dX1_account_11 (by rw [c21]; decide) (by rw [c21]; decide) (off := 48) (by rw [c21]; rfl) rfl ?_
        refine a_aload_n dX1_account_59 rfl ?_
        obtain ⟨a23, e22, hT⟩ := obnd hT
        refine a_gA fl_X1_49_0 e22 dX1_account_60 ?_
        obtain ⟨a25, e24, hT⟩ := obnd hT
        refine a_gA fl_X1_197_1 e24 dX1_account_63 ?_
        obtain ⟨g28, hT⟩ := oifg hT
        obtain ⟨r29, e30, hT⟩ := obnd hT
        refine a_callV kv_X1_82 g28 (k_J2_size e30) ⟨Nat.le_of_ble_eq_true rfl, Nat.le_of_ble_eq_true rfl⟩ (As := []) (rest := []) rfl rfl (Nat.le_of_ble_eq_true rfl) dX1_account_66 (kI ?_) xI
        obtain rfl := Option.some.inj hT
        exact a_iret rfl rfl dX1_account_69 (he _ _ ⟨rfl, rfl⟩)
      · have hT := oifn c21 hT
        by_cases c31 : x0 = 2
        · have hT := oifp c31 hT
          refine a_tswIn 70 dX1_account_11 (by rw [c31]; decide) (by rw [c31]; decide) (off := 59) (by rw [c31]; rfl) rfl ?_
          refine a_aload_n dX1_account_70 rfl ?_
          obtain ⟨a33, e32, hT⟩ := obnd hT
          refine a_gA fl_X1_49_0 e32 dX1_account_71 ?_
          obtain ⟨g36, hT⟩ := oifg hT
          obtain ⟨r37, e38, hT⟩ := obnd hT
          refine a_callV kv_X1_363 g36 (k_X2_out e38) ⟨Nat.le_of_ble_eq_true rfl, Nat.le_of_ble_eq_true rfl⟩ (As := []) (rest := []) rfl rfl (Nat.le_of_ble_eq_true rfl) dX1_account_74 (kI ?_) xI
          obtain rfl := Option.some.inj hT
          exact a_iret rfl rfl dX1_account_77 (he _ _ ⟨rfl, rfl⟩)
        · have hT := oifn c31 hT
          by_cases c39 : x0 = 3
          · have hT := oifp c39 hT
            refine a_tswIn 78 dX1_account_11 (by rw [c39]; decide) (by rw [c39]; decide) (off := 67) (by rw [c39]; rfl) rfl ?_
            refine a_aload_n dX1_account_78 rfl ?_
            obtain ⟨g42, hT⟩ := oifg hT
            obtain ⟨r43, e44, hT⟩ := obnd hT
            refine a_callV kv_X1_365 g42 (k_X1_bonds e44) ⟨Nat.le_of_ble_eq_true rfl, Nat.le_of_ble_eq_true rfl⟩ (As := []) (rest := []) rfl rfl (Nat.le_of_ble_eq_true rfl) dX1_account_79 (kI ?_) xI
            obtain rfl := Option.some.inj hT
            exact a_iret rfl rfl dX1_account_82 (he _ _ ⟨rfl, rfl⟩)
          · have hT := oifn c39 hT
            by_cases c45 : x0 = 4
            · have hT := oifp c45 hT
              refine a_tswIn 83 dX1_account_11 (by rw [c45]; decide) (by rw [c45]; decide) (off := 72) (by rw [c45]; rfl) rfl ?_
              refine a_aload_n dX1_account_83 rfl ?_
              obtain ⟨a47, e46, hT⟩ := obnd hT
              refine a_gA fl_X1_49_0 e46 dX1_account_84 ?_
              obtain ⟨g50, hT⟩ := oifg hT
              obtain ⟨r51, e52, hT⟩ := obnd hT
              refine a_callV kv_X1_368 g50 (k_X2_voids e52) ⟨Nat.le_of_ble_eq_true rfl, Nat.le_of_ble_eq_true rfl⟩ (As := []) (rest := []) rfl rfl (Nat.le_of_ble_eq_true rfl) dX1_account_87 (kI ?_) xI
              obtain rfl := Option.some.inj hT
              exact a_iret rfl rfl dX1_account_90 (he _ _ ⟨rfl, rfl⟩)
            · have hT := oifn c45 hT
              by_cases c53 : x0 = 5
              · have hT := oifp c53 hT
                refine a_tswIn 91 dX1_account_11 (by rw [c53]; decide) (by rw [c53]; decide) (off := 80) (by rw [c53]; rfl) rfl ?_
                refine a_aload_n dX1_account_91 rfl ?_
                obtain ⟨a55, e54, hT⟩ := obnd hT
                refine a_gA fl_X1_49_0 e54 dX1_account_92 ?_
                obtain ⟨g58, hT⟩ := oifg hT
                obtain ⟨r59, e60, hT⟩ := obnd hT
                refine a_callV kv_X1_345 g58 (k_X2_gaps e60) ⟨Nat.le_of_ble_eq_true rfl, Nat.le_of_ble_eq_true rfl⟩ (As := []) (rest := []) rfl rfl (Nat.le_of_ble_eq_true rfl) dX1_account_95 (kI ?_) xI
                obtain rfl := Option.some.inj hT
                exact a_iret rfl rfl dX1_account_98 (he _ _ ⟨rfl, rfl⟩)
              · have hT := oifn c53 hT
                refine aTsw 99 dX1_account_11 rfl (cs := [0, 1, 2, 3, 4, 5]) (by decide +kernel) (by simp only [List.mem_cons, List.not_mem_nil, or_false]; rintro z9 (rfl | rfl | rfl | rfl | rfl | rfl) <;> assumption) ?_
                refine a_aload_n dX1_account_99 rfl ?_
                refine a_iload_n dX1_account_100 rfl ?_
                obtain ⟨g63, hT⟩ := oifg hT
                obtain ⟨r64, e65, hT⟩ := obnd hT
                refine a_callV kv_X1_371 g63 (k_X1_otherAccount e65) ⟨Nat.le_of_ble_eq_true rfl, Nat.le_of_ble_eq_true rfl⟩ (As := [.int x0]) (rest := []) rfl rfl (Nat.le_of_ble_eq_true rfl) dX1_account_101 (kI ?_) xI
                obtain rfl := Option.some.inj hT
                exact a_iret rfl rfl dX1_account_104 (he _ _ ⟨rfl, rfl⟩)
  · dsimp only at hT
    refine a_callS ks_X1_206 (k_X1_requireArgument e8) ⟨Nat.le_of_ble_eq_true rfl, Nat.le_of_ble_eq_true rfl⟩ (As := [.int r3]) (rest := []) rfl rfl (Nat.le_of_ble_eq_true rfl) dX1_account_7 rXV (zXV ?_)
    obtain rfl := Option.some.inj hT
    exact a_out (by decide) (he _ _ ⟨rfl, rfl⟩)
theorem fl_X1_377_0 : aFL "MazeBonds" 377 0 2 := ⟨RX1, TX1, 8, "MazeBonds", rfl, in_X1, by decide, Or.inl rfl, Or.inl q224⟩
theorem kv_X1_380 : aKV "MazeBonds" 380 8 yJ2_clear cJ2_clear 4 (Option.none : Option Jvm.ClassFile.FieldType) 0 := ⟨⟨TJ2, 3, rfl⟩, Or.inl q1693, q1694, q1695, q76, q1696, ⟨by decide +kernel, by decide +kernel, by decide +kernel⟩⟩
abbrev M_X1_restore : aM := (yX1_restore.cls, cX1_restore, 1, (Option.some Jvm.ClassFile.FieldType.int), [], yX1_restore.name)
def t_X1_restore_l12 (Z : aZ) (h : aH) (v0 : Nat) (u0 : Int32) : Option ((Int32 ⊕ aXX) × aH) :=
  (t_X1_requireState Z h u0).bind fun r6 =>
  (match r6 with
  | (.inl y8, h9) =>
    (gA 0 2 h9 v0).bind fun a11 =>
    if isC 1 h9 a11 = true then
    (t_X2_copy Z h9 a11).bind fun r15 =>
    (pF 0 0 Z r15.2 v0 (.ref r15.1)).bind fun h18 =>
    (gA 0 1 h18 v0).bind fun a20 =>
    if isC 8 h18 a20 = true then
    (t_J2_clear Z h18 a20).bind fun r24 =>
    (gA 0 0 r24.2 v0).bind fun a27 =>
    (gA 1 2 r24.2 a27).bind fun a29 =>
    if isC 8 r24.2 a29 = true then
    (t_J2_size Z r24.2 a29).bind fun r33 =>
    some (.inl r33.1, r33.2)
    else none
    else none
    else none
  | (.inr y8, h9) =>
    some (.inr y8, h9)
  )
theorem k_X1_restore_l12 {G : aG} {h0 : aH} {K : aRes → aH → Prop} {h : aH} {v0 : Nat} {u0 : Int32} {e : ((Int32 ⊕ aXX) × aH)} (hT : t_X1_restore_l12 (gZ G) h v0 u0 = some e) (he : (fun e => aTo (aXI e.1 e.2) K) e) : aW G M_X1_restore 10 220 h0 K h 12 [some (.ref v0)] [.int u0] := by
  unfold t_X1_restore_l12 at hT
  obtain ⟨⟨y8 | y8, h9⟩, e7, hT⟩ := obnd hT
  · dsimp only at hT
    refine a_callS ks_X1_271 (k_X1_requireState e7) ⟨Nat.le_of_ble_eq_true rfl, Nat.le_of_ble_eq_true rfl⟩ (As := [.int u0]) (rest := []) rfl rfl (Nat.le_of_ble_eq_true rfl) dX1_restore_12 (kXV ?_) yXV
    refine a_aload_n dX1_restore_15 rfl ?_
    refine a_aload_n dX1_restore_16 rfl ?_
    obtain ⟨a11, e10, hT⟩ := obnd hT
    refine a_gA fl_X1_377_0 e10 dX1_restore_17 ?_
    obtain ⟨g14, hT⟩ := oifg hT
    obtain ⟨r15, e16, hT⟩ := obnd hT
    refine a_callV kv_X1_94 g14 (k_X2_copy e16) ⟨Nat.le_of_ble_eq_true rfl, Nat.le_of_ble_eq_true rfl⟩ (As := []) (rest := [.ref v0]) rfl rfl (Nat.le_of_ble_eq_true rfl) dX1_restore_20 (kA ?_) xA
    obtain ⟨h18, e17, hT⟩ := obnd hT
    refine a_put (fp_X1_49_0 _) ⟨rfl, rfl⟩ e17 dX1_restore_23 ?_
    refine a_aload_n dX1_restore_26 rfl ?_
    obtain ⟨a20, e19, hT⟩ := obnd hT
    refine a_gA fl_X1_56_0 e19 dX1_restore_27 ?_
    obtain ⟨g23, hT⟩ := oifg hT
    obtain ⟨r24, e25, hT⟩ := obnd hT
    refine a_callV kv_X1_380 g23 (k_J2_clear e25) ⟨Nat.le_of_ble_eq_true rfl, Nat.le_of_ble_eq_true rfl⟩ (As := []) (rest := []) rfl rfl (Nat.le_of_ble_eq_true rfl) dX1_restore_30 (kV ?_) xV
    refine a_aload_n dX1_restore_33 rfl ?_
    obtain ⟨a27, e26, hT⟩ := obnd hT
    refine a_gA fl_X1_49_0 e26 dX1_restore_34 ?_
    obtain ⟨a29, e28, hT⟩ := obnd hT
    refine a_gA fl_X1_197_1 e28 dX1_restore_37 ?_
    obtain ⟨g32, hT⟩ := oifg hT
    obtain ⟨r33, e34, hT⟩ := obnd hT
    refine a_callV kv_X1_82 g32 (k_J2_size e34) ⟨Nat.le_of_ble_eq_true rfl, Nat.le_of_ble_eq_true rfl⟩ (As := []) (rest := []) rfl rfl (Nat.le_of_ble_eq_true rfl) dX1_restore_40 (kI ?_) xI
    obtain rfl := Option.some.inj hT
    exact a_iret rfl rfl dX1_restore_43 (he _ _ ⟨rfl, rfl⟩)
  · dsimp only at hT
    refine a_callS ks_X1_271 (k_X1_requireState e7) ⟨Nat.le_of_ble_eq_true rfl, Nat.le_of_ble_eq_true rfl⟩ (As := [.int u0]) (rest := []) rfl rfl (Nat.le_of_ble_eq_true rfl) dX1_restore_12 rXV (zXV ?_)
    obtain rfl := Option.some.inj hT
    exact a_out (by decide) (he _ _ ⟨rfl, rfl⟩)
def t_X1_restore (Z : aZ) (h : aH) (o : Nat) : Option ((Int32 ⊕ aXX) × aH) :=
  (gO 0 2 h o).bind fun a2 =>
  (match a2 with
  | none =>
    t_X1_restore_l12 Z h o 0
  | some a3 =>
    t_X1_restore_l12 Z h o 1
  )
theorem k_X1_restore {G : aG} {h : aH} {o : Nat} {e : ((Int32 ⊕ aXX) × aH)} (hT : t_X1_restore (gZ G) h o = some e) : aMet G yX1_restore (ws_ yX1_restore cX1_restore 1 (Option.some Jvm.ClassFile.FieldType.int)) 10 220 [.ref o] h (aXI e.1 e.2) := by
  refine aMet.of (lv := [some (.ref o)]) (by decide) (Nat.le_of_ble_eq_true rfl) 0 rfl ?_
  have he : aTo (aXI e.1 e.2) (aXI e.1 e.2) := aTo.rf
  unfold t_X1_restore at hT
  refine a_aload_n dX1_restore_0 rfl ?_
  obtain ⟨a2, e1, hT⟩ := obnd hT
  refine a_gO fl_X1_377_0 e1 dX1_restore_1 ?_
  cases a2 with
  | none =>
    refine a_ifnullN 11 dX1_restore_4 rfl ?_
    refine a_iconst (v := 0) dX1_restore_11 (by decide) ?_
    exact k_X1_restore_l12 hT he
  | some a3 =>
    refine a_ifnull dX1_restore_4 ?_
    refine a_iconst (v := 1) dX1_restore_7 (by decide) ?_
    refine a_goto 12 dX1_restore_8 rfl ?_
    exact k_X1_restore_l12 hT he
theorem kv_X2_86 : aKV "MazeBonds$Core" 86 1 yX2_spread cX2_spread 6 (Option.none : Option Jvm.ClassFile.FieldType) 3 := ⟨⟨TX2, 7, rfl⟩, Or.inl q582, q584, qs6, q73, q585, ⟨by decide +kernel, by decide +kernel, by decide +kernel⟩⟩
abbrev M_X2_distances : aM := (yX2_distances.cls, cX2_distances, 5, (Option.some (Jvm.ClassFile.FieldType.array Jvm.ClassFile.FieldType.int)), [], yX2_distances.name)
def p_X2_distances_b8 (G : aG) (h0 : aH) (K : aRes → aH → Prop) (x9 : (Nat × Int32 × Int32 × Nat × Int32 × aH)) : Prop := aW G M_X2_distances 5 138 h0 K x9.2.2.2.2.2 8 [some (.ref x9.1), some (.int x9.2.1), some (.int x9.2.2.1), some (.ref x9.2.2.2.1), some (.int x9.2.2.2.2.1)] []
def p_X2_distances_b39 (G : aG) (h0 : aH) (K : aRes → aH → Prop) (x9 : (Nat × Int32 × Nat × Int32 × aH)) : Prop := aW G M_X2_distances 5 138 h0 K x9.2.2.2.2 39 [some (.ref x9.1), none, some (.int x9.2.1), some (.ref x9.2.2.1), some (.int x9.2.2.2.1)] []
def t_X2_distances_b39 (Z : aZ) : (Nat × Int32 × Nat × Int32 × aH) → Option ((Nat × Int32 × Nat × Int32 × aH) ⊕ (Nat × aH)) := fun (v0, v2, v3, v4, h) =>
  if 16 < v4 then
    some (.inr ((v3, h)))
  else
    if isC 1 h v0 = true then
    (t_X2_spread Z h v0 v3 v4 v2).bind fun r8 =>
    some (.inl (v0, v2, v3, (v4 + 1), r8.2))
    else none
theorem kb_X2_distances_b39 {G : aG} {h0 : aH} {K : aRes → aH → Prop} : ∀ (x9 : (Nat × Int32 × Nat × Int32 × aH)) (e : ((Nat × Int32 × Nat × Int32 × aH) ⊕ (Nat × aH))), t_X2_distances_b39 (gZ G) x9 = some e → (Sum.elim (p_X2_distances_b39 G h0 K) (fun e => aTo (aEA e.1 e.2) K)) e → p_X2_distances_b39 G h0 K x9 := by
  intro x9 e hT he
  obtain ⟨v0, v2, v3, v4, h⟩ := x9
  unfold p_X2_distances_b39
  unfold t_X2_distances_b39 at hT
  show aW G M_X2_distances 5 138 h0 K h 39 [some (.ref v0), none, some (.int v2), some (.ref v3), some (.int v4)] []
  dsimp only at hT
  refine a_iload dX2_distances_39 rfl ?_
  refine a_bipush (v := 16) dX2_distances_41 (by decide) ?_
  refine a_icmp_gt 60 dX2_distances_43 rfl (fun c4 => ?_) (fun c4 => ?_)
  · have hT := oifp c4 hT
    refine a_aload_n dX2_distances_60 rfl ?_
    obtain rfl := Option.some.inj hT
    exact a_aret rfl (Or.inr ⟨_, rfl⟩) dX2_distances_61 (he _ _ ⟨rfl, rfl⟩)
  · have hT := oifn c4 hT
    refine a_aload_n dX2_distances_46 rfl ?_
    refine a_aload_n dX2_distances_47 rfl ?_
    refine a_iload dX2_distances_48 rfl ?_
    refine a_iload_n dX2_distances_50 rfl ?_
    obtain ⟨g7, hT⟩ := oifg hT
    obtain ⟨r8, e9, hT⟩ := obnd hT
    refine a_callV kv_X2_86 g7 (k_X2_spread e9) ⟨Nat.le_of_ble_eq_true rfl, Nat.le_of_ble_eq_true rfl⟩ (As := [.ref v3, .int v4, .int v2]) (rest := []) rfl rfl (Nat.le_of_ble_eq_true rfl) dX2_distances_51 (kV ?_) xV
    refine a_iinc (v := (v4 + 1)) (lv' := [some (.ref v0), none, some (.int v2), some (.ref v3), some (.int (v4 + 1))]) dX2_distances_54 rfl (by rfl) rfl (by decide) rfl ?_
    refine a_goto 39 dX2_distances_57 rfl ?_
    obtain rfl := Option.some.inj hT
    exact he
theorem k_X2_distances_b39 {G : aG} {h0 : aH} {K : aRes → aH → Prop} {n9 : Nat} {x9 : (Nat × Int32 × Nat × Int32 × aH)} {e : (Nat × aH)} (hT : wlo (t_X2_distances_b39 (gZ G)) n9 x9 = some e) (he : (fun e => aTo (aEA e.1 e.2) K) e) : p_X2_distances_b39 G h0 K x9 := wlo_W kb_X2_distances_b39 n9 x9 e hT he
def t_X2_distances_l36 (Z : aZ) (h : aH) (v0 : Nat) (v2 : Int32) (v3 : Nat) : Option (Nat × aH) :=
  wlo (t_X2_distances_b39 Z) 100 (v0, v2, v3, 0, h)
theorem k_X2_distances_l36 {G : aG} {h0 : aH} {K : aRes → aH → Prop} {h : aH} {v0 : Nat} {v2 : Int32} {v3 : Nat} {e : (Nat × aH)} (hT : t_X2_distances_l36 (gZ G) h v0 v2 v3 = some e) (he : (fun e => aTo (aEA e.1 e.2) K) e) : aW G M_X2_distances 5 138 h0 K h 36 [some (.ref v0), none, some (.int v2), some (.ref v3), none] [] := by
  unfold t_X2_distances_l36 at hT
  refine a_iconst (v := 0) dX2_distances_36 (by decide) ?_
  refine a_istore (lv' := [some (.ref v0), none, some (.int v2), some (.ref v3), some (.int 0)]) dX2_distances_37 rfl (by decide) rfl ?_
  exact k_X2_distances_b39 hT he
def t_X2_distances_l29 (Z : aZ) (h : aH) (v0 : Nat) (v1 : Int32) (v2 : Int32) (v3 : Nat) (v4 : Int32) (u0 : Int32) (u1 : Int32) (u2 : Nat) : Option ((Nat × Int32 × Int32 × Nat × Int32 × aH) ⊕ (Nat × aH)) :=
  (stI Z h u2 u1 u0).bind fun h12 =>
  some (.inl (v0, v1, v2, v3, (v4 + 1), h12))
theorem k_X2_distances_l29 {G : aG} {h0 : aH} {K : aRes → aH → Prop} {h : aH} {v0 : Nat} {v1 : Int32} {v2 : Int32} {v3 : Nat} {v4 : Int32} {u0 : Int32} {u1 : Int32} {u2 : Nat} {e : ((Nat × Int32 × Int32 × Nat × Int32 × aH) ⊕ (Nat × aH))} (hT : t_X2_distances_l29 (gZ G) h v0 v1 v2 v3 v4 u0 u1 u2 = some e) (he : (Sum.elim (p_X2_distances_b8 G h0 K) (fun e => aTo (aEA e.1 e.2) K)) e) : aW G M_X2_distances 5 138 h0 K h 29 [some (.ref v0), some (.int v1), some (.int v2), some (.ref v3), some (.int v4)] [.int u0, .int u1, .ref u2] := by
  unfold t_X2_distances_l29 at hT
  obtain ⟨h12, e11, hT⟩ := obnd hT
  refine a_stI e11 dX2_distances_29 ?_
  refine a_iinc (v := (v4 + 1)) (lv' := [some (.ref v0), some (.int v1), some (.int v2), some (.ref v3), some (.int (v4 + 1))]) dX2_distances_30 rfl (by rfl) rfl (by decide) rfl ?_
  refine a_goto 8 dX2_distances_33 rfl ?_
  obtain rfl := Option.some.inj hT
  exact he
def t_X2_distances_b8 (Z : aZ) : (Nat × Int32 × Int32 × Nat × Int32 × aH) → Option ((Nat × Int32 × Int32 × Nat × Int32 × aH) ⊕ (Nat × aH)) := fun (v0, v1, v2, v3, v4, h) =>
  if 16 ≤ v4 then
    (t_X2_distances_l36 Z h v0 v2 v3).map .inr
  else
    if v4 = v1 then
      t_X2_distances_l29 Z h v0 v1 v2 v3 v4 0 v4 v3
    else
      t_X2_distances_l29 Z h v0 v1 v2 v3 v4 (-1) v4 v3
theorem kb_X2_distances_b8 {G : aG} {h0 : aH} {K : aRes → aH → Prop} : ∀ (x9 : (Nat × Int32 × Int32 × Nat × Int32 × aH)) (e : ((Nat × Int32 × Int32 × Nat × Int32 × aH) ⊕ (Nat × aH))), t_X2_distances_b8 (gZ G) x9 = some e → (Sum.elim (p_X2_distances_b8 G h0 K) (fun e => aTo (aEA e.1 e.2) K)) e → p_X2_distances_b8 G h0 K x9 := by
  intro x9 e hT he
  obtain ⟨v0, v1, v2, v3, v4, h⟩ := x9
  unfold p_X2_distances_b8
  unfold t_X2_distances_b8 at hT
  show aW G M_X2_distances 5 138 h0 K h 8 [some (.ref v0), some (.int v1), some (.int v2), some (.ref v3), some (.int v4)] []
  dsimp only at hT
  refine a_iload dX2_distances_8 rfl ?_
  refine a_bipush (v := 16) dX2_distances_10 (by decide) ?_
  refine a_icmp_ge 36 dX2_distances_12 rfl (fun c3 => ?_) (fun c3 => ?_)
  · have hT := oifp c3 hT
    refine a_mask [true, false, true, true, false] ?_
    obtain ⟨e8, hT8, rfl⟩ := omap hT
    exact k_X2_distances_l36 hT8 he
  · have hT := oifn c3 hT
    refine a_aload_n dX2_distances_15 rfl ?_
    refine a_iload dX2_distances_16 rfl ?_
    refine a_iload dX2_distances_18 rfl ?_
    refine a_iload_n dX2_distances_20 rfl ?_
    refine a_icmp_ne 28 dX2_distances_21 rfl (fun c10 => ?_) (fun c10 => ?_)
    · have hT := oifn c10 hT
      refine a_iconst (v := (-1)) dX2_distances_28 (by decide) ?_
      exact k_X2_distances_l29 hT he
    · have hT := oifp c10 hT
      refine a_iconst (v := 0) dX2_distances_24 (by decide) ?_
      refine a_goto 29 dX2_distances_25 rfl ?_
      exact k_X2_distances_l29 hT he
theorem k_X2_distances_b8 {G : aG} {h0 : aH} {K : aRes → aH → Prop} {n9 : Nat} {x9 : (Nat × Int32 × Int32 × Nat × Int32 × aH)} {e : (Nat × aH)} (hT : wlo (t_X2_distances_b8 (gZ G)) n9 x9 = some e) (he : (fun e => aTo (aEA e.1 e.2) K) e) : p_X2_distances_b8 G h0 K x9 := wlo_W kb_X2_distances_b8 n9 x9 e hT he
def t_X2_distances (Z : aZ) (h : aH) (o : Nat) (x0 : Int32) (x1 : Int32) : Option (Nat × aH) :=
  (nwA Z h 16 (fun N => .inl (zI Z, N, .inl fun _ => 0))).bind fun h1 =>
  wlo (t_X2_distances_b8 Z) 100 (o, x0, x1, h.2.1, 0, h1)
theorem k_X2_distances {G : aG} {h : aH} {o : Nat} {x0 : Int32} {x1 : Int32} {e : (Nat × aH)} (hT : t_X2_distances (gZ G) h o x0 x1 = some e) : aMet G yX2_distances (ws_ yX2_distances cX2_distances 5 (Option.some (Jvm.ClassFile.FieldType.array Jvm.ClassFile.FieldType.int))) 5 138 [.ref o, .int x0, .int x1] h (aEA e.1 e.2) := by
  refine aMet.of (lv := [some (.ref o), some (.int x0), some (.int x1), none, none]) (by decide) (Nat.le_of_ble_eq_true rfl) 2 rfl ?_
  have he : aTo (aEA e.1 e.2) (aEA e.1 e.2) := aTo.rf
  unfold t_X2_distances at hT
  refine a_bipush (v := 16) dX2_distances_0 (by decide) ?_
  obtain ⟨h1, e2, hT⟩ := obnd hT
  refine a_newI q156 e2 dX2_distances_2 ?_
  refine a_astore_n (lv' := [some (.ref o), some (.int x0), some (.int x1), some (.ref h.2.1), none]) dX2_distances_4 rfl (by decide) rfl ?_
  refine a_iconst (v := 0) dX2_distances_5 (by decide) ?_
  refine a_istore (lv' := [some (.ref o), some (.int x0), some (.int x1), some (.ref h.2.1), some (.int 0)]) dX2_distances_6 rfl (by decide) rfl ?_
  exact k_X2_distances_b8 hT he
theorem ks_X2_135 : aKS "MazeBonds$Core" 135 yX1_areCells cX1_areCells 6 (Option.some Jvm.ClassFile.FieldType.boolean) 1 := ⟨Or.inr ⟨_, q629⟩, q630, q72, q631, ⟨by decide +kernel, by decide +kernel, by decide +kernel⟩⟩
theorem ks_X2_139 : aKS "MazeBonds$Core" 139 yX1_requireRange cX1_requireRange 1 (Option.none : Option Jvm.ClassFile.FieldType) 1 := ⟨Or.inr ⟨_, q636⟩, q637, q72, q638, ⟨by decide +kernel, by decide +kernel, by decide +kernel⟩⟩
theorem kv_X2_143 : aKV "MazeBonds$Core" 143 1 yX2_requireHedge cX2_requireHedge 3 (Option.some Jvm.ClassFile.FieldType.int) 2 := ⟨⟨TX2, 7, rfl⟩, Or.inl q678, q680, qs8, q73, q681, ⟨by decide +kernel, by decide +kernel, by decide +kernel⟩⟩
abbrev M_X2_hedge : aM := (yX2_hedge.cls, cX2_hedge, 6, (Option.some Jvm.ClassFile.FieldType.int), [], yX2_hedge.name)
def t_X2_hedge_l63 (Z : aZ) (h : aH) (v0 : Nat) (v3 : Int32) (v4 : Int32) (v5 : Int32) (u0 : Int32) : Option ((Int32 ⊕ aXX) × aH) :=
  (t_X1_refuse Z h u0 3 v3).bind fun r32 =>
  (match r32 with
  | (.inl y34, h35) =>
    (gA 1 0 h35 v0).bind fun a37 =>
    (stI Z h35 a37 v4 v3).bind fun h39 =>
    some (.inl v5, h39)
  | (.inr y34, h35) =>
    some (.inr y34, h35)
  )
theorem k_X2_hedge_l63 {G : aG} {h0 : aH} {K : aRes → aH → Prop} {h : aH} {v0 : Nat} {v3 : Int32} {v4 : Int32} {v5 : Int32} {u0 : Int32} {e : ((Int32 ⊕ aXX) × aH)} (hT : t_X2_hedge_l63 (gZ G) h v0 v3 v4 v5 u0 = some e) (he : (fun e => aTo (aXI e.1 e.2) K) e) : aW G M_X2_hedge 7 149 h0 K h 63 [some (.ref v0), none, none, some (.int v3), some (.int v4), some (.int v5)] [.int u0] := by
  unfold t_X2_hedge_l63 at hT
  refine a_iconst (v := 3) dX2_hedge_63 (by decide) ?_
  refine a_iload_n dX2_hedge_64 rfl ?_
  obtain ⟨⟨y34 | y34, h35⟩, e33, hT⟩ := obnd hT
  · dsimp only at hT
    refine a_callS ks_X2_120 (k_X1_refuse e33) ⟨Nat.le_of_ble_eq_true rfl, Nat.le_of_ble_eq_true rfl⟩ (As := [.int u0, .int 3, .int v3]) (rest := []) rfl rfl (Nat.le_of_ble_eq_true rfl) dX2_hedge_65 (kXV ?_) yXV
    refine a_aload_n dX2_hedge_68 rfl ?_
    obtain ⟨a37, e36, hT⟩ := obnd hT
    refine a_gA fl_X2_25_1 e36 dX2_hedge_69 ?_
    refine a_iload dX2_hedge_72 rfl ?_
    refine a_iload_n dX2_hedge_74 rfl ?_
    obtain ⟨h39, e38, hT⟩ := obnd hT
    refine a_stI e38 dX2_hedge_75 ?_
    refine a_iload dX2_hedge_76 rfl ?_
    obtain rfl := Option.some.inj hT
    exact a_iret rfl rfl dX2_hedge_78 (he _ _ ⟨rfl, rfl⟩)
  · dsimp only at hT
    refine a_callS ks_X2_120 (k_X1_refuse e33) ⟨Nat.le_of_ble_eq_true rfl, Nat.le_of_ble_eq_true rfl⟩ (As := [.int u0, .int 3, .int v3]) (rest := []) rfl rfl (Nat.le_of_ble_eq_true rfl) dX2_hedge_65 rXV (zXV ?_)
    obtain rfl := Option.some.inj hT
    exact a_out (by decide) (he _ _ ⟨rfl, rfl⟩)
def t_X2_hedge_l32 (Z : aZ) (h : aH) (v0 : Nat) (v1 : Int32) (v2 : Int32) (v3 : Int32) (u0 : Int32) : Option ((Int32 ⊕ aXX) × aH) :=
  (t_X1_requireRange Z h u0).bind fun r14 =>
  (match r14 with
  | (.inl y16, h17) =>
    if isC 1 h17 v0 = true then
    (t_X2_requireHedge Z h17 v0 v1 v2).bind fun r21 =>
    (match r21 with
    | (.inl y23, h24) =>
      (gA 1 0 h24 v0).bind fun a26 =>
      (ldI Z h24 a26 y23).bind fun z28 =>
      if z28 = v3 then
        t_X2_hedge_l63 Z h24 v0 v3 y23 z28 1
      else
        t_X2_hedge_l63 Z h24 v0 v3 y23 z28 0
    | (.inr y23, h24) =>
      some (.inr y23, h24)
    )
    else none
  | (.inr y16, h17) =>
    some (.inr y16, h17)
  )
theorem k_X2_hedge_l32 {G : aG} {h0 : aH} {K : aRes → aH → Prop} {h : aH} {v0 : Nat} {v1 : Int32} {v2 : Int32} {v3 : Int32} {u0 : Int32} {e : ((Int32 ⊕ aXX) × aH)} (hT : t_X2_hedge_l32 (gZ G) h v0 v1 v2 v3 u0 = some e) (he : (fun e => aTo (aXI e.1 e.2) K) e) : aW G M_X2_hedge 7 149 h0 K h 32 [some (.ref v0), some (.int v1), some (.int v2), some (.int v3), none, none] [.int u0] := by
  unfold t_X2_hedge_l32 at hT
  obtain ⟨⟨y16 | y16, h17⟩, e15, hT⟩ := obnd hT
  · dsimp only at hT
    refine a_callS ks_X2_139 (k_X1_requireRange e15) ⟨Nat.le_of_ble_eq_true rfl, Nat.le_of_ble_eq_true rfl⟩ (As := [.int u0]) (rest := []) rfl rfl (Nat.le_of_ble_eq_true rfl) dX2_hedge_32 (kXV ?_) yXV
    refine a_aload_n dX2_hedge_35 rfl ?_
    refine a_iload_n dX2_hedge_36 rfl ?_
    refine a_iload_n dX2_hedge_37 rfl ?_
    obtain ⟨g20, hT⟩ := oifg hT
    obtain ⟨⟨y23 | y23, h24⟩, e22, hT⟩ := obnd hT
    · dsimp only at hT
      refine a_callV kv_X2_143 g20 (k_X2_requireHedge e22) ⟨Nat.le_of_ble_eq_true rfl, Nat.le_of_ble_eq_true rfl⟩ (As := [.int v1, .int v2]) (rest := []) rfl rfl (Nat.le_of_ble_eq_true rfl) dX2_hedge_38 (kXI ?_) yXI
      refine a_istore (lv' := [some (.ref v0), some (.int v1), some (.int v2), some (.int v3), some (.int y23), none]) dX2_hedge_41 rfl (by decide) rfl ?_
      refine a_aload_n dX2_hedge_43 rfl ?_
      obtain ⟨a26, e25, hT⟩ := obnd hT
      refine a_gA fl_X2_25_1 e25 dX2_hedge_44 ?_
      refine a_iload dX2_hedge_47 rfl ?_
      obtain ⟨z28, e27, hT⟩ := obnd hT
      refine a_ldI e27 dX2_hedge_49 ?_
      refine a_istore (lv' := [some (.ref v0), some (.int v1), some (.int v2), some (.int v3), some (.int y23), some (.int z28)]) dX2_hedge_50 rfl (by decide) rfl ?_
      refine a_iload dX2_hedge_52 rfl ?_
      refine a_iload_n dX2_hedge_54 rfl ?_
      refine a_icmp_ne 62 dX2_hedge_55 rfl (fun c29 => ?_) (fun c29 => ?_)
      · have hT := oifn c29 hT
        refine a_iconst (v := 0) dX2_hedge_62 (by decide) ?_
        refine a_mask [true, false, false, true, true, true] ?_
        exact k_X2_hedge_l63 hT he
      · have hT := oifp c29 hT
        refine a_iconst (v := 1) dX2_hedge_58 (by decide) ?_
        refine a_goto 63 dX2_hedge_59 rfl ?_
        refine a_mask [true, false, false, true, true, true] ?_
        exact k_X2_hedge_l63 hT he
    · dsimp only at hT
      refine a_callV kv_X2_143 g20 (k_X2_requireHedge e22) ⟨Nat.le_of_ble_eq_true rfl, Nat.le_of_ble_eq_true rfl⟩ (As := [.int v1, .int v2]) (rest := []) rfl rfl (Nat.le_of_ble_eq_true rfl) dX2_hedge_38 rXI (zXI ?_)
      obtain rfl := Option.some.inj hT
      exact a_out (by decide) (he _ _ ⟨rfl, rfl⟩)
  · dsimp only at hT
    refine a_callS ks_X2_139 (k_X1_requireRange e15) ⟨Nat.le_of_ble_eq_true rfl, Nat.le_of_ble_eq_true rfl⟩ (As := [.int u0]) (rest := []) rfl rfl (Nat.le_of_ble_eq_true rfl) dX2_hedge_32 rXV (zXV ?_)
    obtain rfl := Option.some.inj hT
    exact a_out (by decide) (he _ _ ⟨rfl, rfl⟩)
def t_X2_hedge_l31 (Z : aZ) (h : aH) (v0 : Nat) (v1 : Int32) (v2 : Int32) (v3 : Int32) : Option ((Int32 ⊕ aXX) × aH) :=
  t_X2_hedge_l32 Z h v0 v1 v2 v3 0
theorem k_X2_hedge_l31 {G : aG} {h0 : aH} {K : aRes → aH → Prop} {h : aH} {v0 : Nat} {v1 : Int32} {v2 : Int32} {v3 : Int32} {e : ((Int32 ⊕ aXX) × aH)} (hT : t_X2_hedge_l31 (gZ G) h v0 v1 v2 v3 = some e) (he : (fun e => aTo (aXI e.1 e.2) K) e) : aW G M_X2_hedge 7 149 h0 K h 31 [some (.ref v0), some (.int v1), some (.int v2), some (.int v3), none, none] [] := by
  unfold t_X2_hedge_l31 at hT
  refine a_iconst (v := 0) dX2_hedge_31 (by decide) ?_
  exact k_X2_hedge_l32 hT he
def t_X2_hedge (Z : aZ) (h : aH) (o : Nat) (x0 : Int32) (x1 : Int32) (x2 : Int32) : Option ((Int32 ⊕ aXX) × aH) :=
  (nwA Z h 2 (fun N => .inl (zI Z, N, .inl fun _ => 0))).bind fun h1 =>
  (stI Z h1 h.2.1 0 x0).bind fun h4 =>
  (stI Z h4 h.2.1 1 x1).bind fun h6 =>
  (t_X1_areCells Z h6 h.2.1).bind fun r9 =>
  if r9.1 = 0 then
    t_X2_hedge_l31 Z r9.2 o x0 x1 x2
  else
    (t_X1_isIn x2 0 9).bind fun r42 =>
    if r42 = 0 then
      t_X2_hedge_l31 Z r9.2 o x0 x1 x2
    else
      t_X2_hedge_l32 Z r9.2 o x0 x1 x2 1
theorem k_X2_hedge {G : aG} {h : aH} {o : Nat} {x0 : Int32} {x1 : Int32} {x2 : Int32} {e : ((Int32 ⊕ aXX) × aH)} (hT : t_X2_hedge (gZ G) h o x0 x1 x2 = some e) : aMet G yX2_hedge (ws_ yX2_hedge cX2_hedge 6 (Option.some Jvm.ClassFile.FieldType.int)) 7 149 [.ref o, .int x0, .int x1, .int x2] h (aXI e.1 e.2) := by
  refine aMet.of (lv := [some (.ref o), some (.int x0), some (.int x1), some (.int x2), none, none]) (by decide) (Nat.le_of_ble_eq_true rfl) 2 rfl ?_
  have he : aTo (aXI e.1 e.2) (aXI e.1 e.2) := aTo.rf
  unfold t_X2_hedge at hT
  refine a_iconst (v := 2) dX2_hedge_0 (by decide) ?_
  obtain ⟨h1, e2, hT⟩ := obnd hT
  refine a_newI q156 e2 dX2_hedge_1 ?_
  refine a_dup dX2_hedge_3 rfl ?_
  refine a_iconst (v := 0) dX2_hedge_4 (by decide) ?_
  refine a_iload_n dX2_hedge_5 rfl ?_
  obtain ⟨h4, e3, hT⟩ := obnd hT
  refine a_stI e3 dX2_hedge_6 ?_
  refine a_dup dX2_hedge_7 rfl ?_
  refine a_iconst (v := 1) dX2_hedge_8 (by decide) ?_
  refine a_iload_n dX2_hedge_9 rfl ?_
  obtain ⟨h6, e5, hT⟩ := obnd hT
  refine a_stI e5 dX2_hedge_10 ?_
  obtain ⟨r9, e10, hT⟩ := obnd hT
  refine a_callS ks_X2_135 (k_X1_areCells e10) ⟨Nat.le_of_ble_eq_true rfl, Nat.le_of_ble_eq_true rfl⟩ (As := [.ref h.2.1]) (rest := []) rfl rfl (Nat.le_of_ble_eq_true rfl) dX2_hedge_11 (kI ?_) xI
  refine a_if_eq 31 dX2_hedge_14 rfl (fun c11 => ?_) (fun c11 => ?_)
  · have hT := oifp c11 hT
    exact k_X2_hedge_l31 hT he
  · have hT := oifn c11 hT
    refine a_iload_n dX2_hedge_17 rfl ?_
    refine a_iconst (v := 0) dX2_hedge_18 (by decide) ?_
    refine a_bipush (v := 9) dX2_hedge_19 (by decide) ?_
    obtain ⟨r42, e43, hT⟩ := obnd hT
    refine a_callS ks_X2_78 (k_X1_isIn e43) ⟨Nat.le_of_ble_eq_true rfl, Nat.le_of_ble_eq_true rfl⟩ (As := [.int x2, .int 0, .int 9]) (rest := []) rfl rfl (Nat.le_of_ble_eq_true rfl) dX2_hedge_21 (kI ?_) xI
    refine a_if_eq 31 dX2_hedge_24 rfl (fun c44 => ?_) (fun c44 => ?_)
    · have hT := oifp c44 hT
      exact k_X2_hedge_l31 hT he
    · have hT := oifn c44 hT
      refine a_iconst (v := 1) dX2_hedge_27 (by decide) ?_
      refine a_goto 32 dX2_hedge_28 rfl ?_
      exact k_X2_hedge_l32 hT he
theorem kv_X2_149 : aKV "MazeBonds$Core" 149 1 yX2_requireGardener cX2_requireGardener 2 (Option.some (Jvm.ClassFile.FieldType.object "MazeBonds$Gardener")) 1 := ⟨⟨TX2, 7, rfl⟩, Or.inl q714, q716, qs10, q73, q717, ⟨by decide +kernel, by decide +kernel, by decide +kernel⟩⟩
theorem ku_X2_153_3 : aKU "MazeBonds$Core" 153 3 ⟨"MazeBonds$Gardener", "pay", "(I)V"⟩ yX4_pay cX4_pay 2 (Option.none : Option Jvm.ClassFile.FieldType) 1 := ⟨RX5, TX5, 4, rfl, rfl, q731, q732, q734, q735, q87, q736, ⟨by decide +kernel, by decide +kernel, by decide +kernel⟩⟩
theorem fl_X2_157_3 : aFL "MazeBonds$Core" 157 3 3 := ⟨RX5, TX5, 4, "MazeBonds$Gardener", rfl, in_X5, by decide, Or.inl rfl, Or.inr ⟨_, q409⟩⟩
theorem fp_X2_157_3 (nm9 : String) : aFP "MazeBonds$Core" 157 3 3 .int nm9 := ⟨RX5, TX5, 4, "MazeBonds$Gardener", tyX5, rfl, in_X5, by decide, Or.inl rfl, Or.inr ⟨_, q409⟩, tyX5_ok, nmX5, rfl, Or.inl rfl⟩
abbrev M_X2_trim : aM := (yX2_trim.cls, cX2_trim, 6, (Option.some Jvm.ClassFile.FieldType.int), [], yX2_trim.name)
def t_X2_trim_l47 (Z : aZ) (h : aH) (v0 : Nat) (v4 : Nat) (v5 : Int32) (u0 : Int32) : Option ((Int32 ⊕ aXX) × aH) :=
  (t_X1_refuse Z h u0 3 0).bind fun r38 =>
  (match r38 with
  | (.inl y40, h41) =>
    if isC 3 h41 v4 = true then
    (t_X4_pay_3 Z h41 v4 2).bind fun r45 =>
    (match r45 with
    | (.inl y47, h48) =>
      (gI 3 3 h48 v4).bind fun z50 =>
      (pF 3 3 Z h48 v4 (.int (z50 + 1))).bind fun h52 =>
      (gI 1 6 h52 v0).bind fun z54 =>
      (pF 1 6 Z h52 v0 (.int (z54 + 2))).bind fun h56 =>
      (gA 1 0 h56 v0).bind fun a58 =>
      (stI Z h56 a58 v5 0).bind fun h60 =>
      if isC 3 h60 v4 = true then
      (t_X4_coins_3 Z h60 v4).bind fun r64 =>
      some (.inl r64.1, r64.2)
      else none
    | (.inr y47, h48) =>
      some (.inr y47, h48)
    )
    else none
  | (.inr y40, h41) =>
    some (.inr y40, h41)
  )
theorem k_X2_trim_l47 {G : aG} {h0 : aH} {K : aRes → aH → Prop} {h : aH} {v0 : Nat} {v4 : Nat} {v5 : Int32} {u0 : Int32} {e : ((Int32 ⊕ aXX) × aH)} (hT : t_X2_trim_l47 (gZ G) h v0 v4 v5 u0 = some e) (he : (fun e => aTo (aXI e.1 e.2) K) e) : aW G M_X2_trim 7 149 h0 K h 47 [some (.ref v0), none, none, none, some (.ref v4), some (.int v5)] [.int u0] := by
  unfold t_X2_trim_l47 at hT
  refine a_iconst (v := 3) dX2_trim_47 (by decide) ?_
  refine a_iconst (v := 0) dX2_trim_48 (by decide) ?_
  obtain ⟨⟨y40 | y40, h41⟩, e39, hT⟩ := obnd hT
  · dsimp only at hT
    refine a_callS ks_X2_120 (k_X1_refuse e39) ⟨Nat.le_of_ble_eq_true rfl, Nat.le_of_ble_eq_true rfl⟩ (As := [.int u0, .int 3, .int 0]) (rest := []) rfl rfl (Nat.le_of_ble_eq_true rfl) dX2_trim_49 (kXV ?_) yXV
    refine a_aload dX2_trim_52 rfl ?_
    refine a_iconst (v := 2) dX2_trim_54 (by decide) ?_
    obtain ⟨g44, hT⟩ := oifg hT
    obtain ⟨⟨y47 | y47, h48⟩, e46, hT⟩ := obnd hT
    · dsimp only at hT
      refine a_callU ku_X2_153_3 g44 (k_X4_pay_3 e46) ⟨Nat.le_of_ble_eq_true rfl, Nat.le_of_ble_eq_true rfl⟩ (As := [.int 2]) (rest := []) rfl rfl (Nat.le_of_ble_eq_true rfl) dX2_trim_55 (kXV ?_) yXV
      refine a_aload dX2_trim_58 rfl ?_
      refine a_dup dX2_trim_60 rfl ?_
      obtain ⟨z50, e49, hT⟩ := obnd hT
      refine a_gI fl_X2_157_3 e49 dX2_trim_61 ?_
      refine a_iconst (v := 1) dX2_trim_64 (by decide) ?_
      refine a_iadd dX2_trim_65 ?_
      obtain ⟨h52, e51, hT⟩ := obnd hT
      refine a_put (fp_X2_157_3 _) ⟨rfl, rfl⟩ e51 dX2_trim_66 ?_
      refine a_aload_n dX2_trim_69 rfl ?_
      refine a_dup dX2_trim_70 rfl ?_
      obtain ⟨z54, e53, hT⟩ := obnd hT
      refine a_gI fl_X2_71_1 e53 dX2_trim_71 ?_
      refine a_iconst (v := 2) dX2_trim_74 (by decide) ?_
      refine a_iadd dX2_trim_75 ?_
      obtain ⟨h56, e55, hT⟩ := obnd hT
      refine a_put (fp_X2_71_1 _) ⟨rfl, rfl⟩ e55 dX2_trim_76 ?_
      refine a_aload_n dX2_trim_79 rfl ?_
      obtain ⟨a58, e57, hT⟩ := obnd hT
      refine a_gA fl_X2_25_1 e57 dX2_trim_80 ?_
      refine a_iload dX2_trim_83 rfl ?_
      refine a_iconst (v := 0) dX2_trim_85 (by decide) ?_
      obtain ⟨h60, e59, hT⟩ := obnd hT
      refine a_stI e59 dX2_trim_86 ?_
      refine a_aload dX2_trim_87 rfl ?_
      obtain ⟨g63, hT⟩ := oifg hT
      obtain ⟨r64, e65, hT⟩ := obnd hT
      refine a_callU ku_X2_160_3 g63 (k_X4_coins_3 e65) ⟨Nat.le_of_ble_eq_true rfl, Nat.le_of_ble_eq_true rfl⟩ (As := []) (rest := []) rfl rfl (Nat.le_of_ble_eq_true rfl) dX2_trim_89 (kI ?_) xI
      obtain rfl := Option.some.inj hT
      exact a_iret rfl rfl dX2_trim_92 (he _ _ ⟨rfl, rfl⟩)
    · dsimp only at hT
      refine a_callU ku_X2_153_3 g44 (k_X4_pay_3 e46) ⟨Nat.le_of_ble_eq_true rfl, Nat.le_of_ble_eq_true rfl⟩ (As := [.int 2]) (rest := []) rfl rfl (Nat.le_of_ble_eq_true rfl) dX2_trim_55 rXV (zXV ?_)
      obtain rfl := Option.some.inj hT
      exact a_out (by decide) (he _ _ ⟨rfl, rfl⟩)
  · dsimp only at hT
    refine a_callS ks_X2_120 (k_X1_refuse e39) ⟨Nat.le_of_ble_eq_true rfl, Nat.le_of_ble_eq_true rfl⟩ (As := [.int u0, .int 3, .int 0]) (rest := []) rfl rfl (Nat.le_of_ble_eq_true rfl) dX2_trim_49 rXV (zXV ?_)
    obtain rfl := Option.some.inj hT
    exact a_out (by decide) (he _ _ ⟨rfl, rfl⟩)
def t_X2_trim (Z : aZ) (h : aH) (o : Nat) (x0 : Int32) (x1 : Int32) (x2 : Int32) : Option ((Int32 ⊕ aXX) × aH) :=
  if isC 1 h o = true then
  (t_X2_requireGardener Z h o x0).bind fun r4 =>
  (match r4 with
  | (.inl y6, h7) =>
    (nwA Z h7 2 (fun N => .inl (zI Z, N, .inl fun _ => 0))).bind fun h8 =>
    (stI Z h8 h7.2.1 0 x1).bind fun h11 =>
    (stI Z h11 h7.2.1 1 x2).bind fun h13 =>
    (t_X1_areCells Z h13 h7.2.1).bind fun r16 =>
    (t_X1_requireRange Z r16.2 r16.1).bind fun r20 =>
    (match r20 with
    | (.inl y22, h23) =>
      if isC 1 h23 o = true then
      (t_X2_requireHedge Z h23 o x1 x2).bind fun r27 =>
      (match r27 with
      | (.inl y29, h30) =>
        (gA 1 0 h30 o).bind fun a32 =>
        (ldI Z h30 a32 y29).bind fun z34 =>
        if z34 = 0 then
          t_X2_trim_l47 Z h30 o y6 y29 1
        else
          t_X2_trim_l47 Z h30 o y6 y29 0
      | (.inr y29, h30) =>
        some (.inr y29, h30)
      )
      else none
    | (.inr y22, h23) =>
      some (.inr y22, h23)
    )
  | (.inr y6, h7) =>
    some (.inr y6, h7)
  )
  else none
theorem k_X2_trim {G : aG} {h : aH} {o : Nat} {x0 : Int32} {x1 : Int32} {x2 : Int32} {e : ((Int32 ⊕ aXX) × aH)} (hT : t_X2_trim (gZ G) h o x0 x1 x2 = some e) : aMet G yX2_trim (ws_ yX2_trim cX2_trim 6 (Option.some Jvm.ClassFile.FieldType.int)) 7 149 [.ref o, .int x0, .int x1, .int x2] h (aXI e.1 e.2) := by
  refine aMet.of (lv := [some (.ref o), some (.int x0), some (.int x1), some (.int x2), none, none]) (by decide) (Nat.le_of_ble_eq_true rfl) 2 rfl ?_
  have he : aTo (aXI e.1 e.2) (aXI e.1 e.2) := aTo.rf
  unfold t_X2_trim at hT
  refine a_aload_n dX2_trim_0 rfl ?_
  refine a_iload_n dX2_trim_1 rfl ?_
  obtain ⟨g3, hT⟩ := oifg hT
  obtain ⟨⟨y6 | y6, h7⟩, e5, hT⟩ := obnd hT
  · dsimp only at hT
    refine a_callV kv_X2_149 g3 (k_X2_requireGardener e5) ⟨Nat.le_of_ble_eq_true rfl, Nat.le_of_ble_eq_true rfl⟩ (As := [.int x0]) (rest := []) rfl rfl (Nat.le_of_ble_eq_true rfl) dX2_trim_2 (kXA ?_) yXA
    refine a_astore (lv' := [some (.ref o), some (.int x0), some (.int x1), some (.int x2), some (.ref y6), none]) dX2_trim_5 rfl (by decide) rfl ?_
    refine a_iconst (v := 2) dX2_trim_7 (by decide) ?_
    obtain ⟨h8, e9, hT⟩ := obnd hT
    refine a_newI q156 e9 dX2_trim_8 ?_
    refine a_dup dX2_trim_10 rfl ?_
    refine a_iconst (v := 0) dX2_trim_11 (by decide) ?_
    refine a_iload_n dX2_trim_12 rfl ?_
    obtain ⟨h11, e10, hT⟩ := obnd hT
    refine a_stI e10 dX2_trim_13 ?_
    refine a_dup dX2_trim_14 rfl ?_
    refine a_iconst (v := 1) dX2_trim_15 (by decide) ?_
    refine a_iload_n dX2_trim_16 rfl ?_
    obtain ⟨h13, e12, hT⟩ := obnd hT
    refine a_stI e12 dX2_trim_17 ?_
    obtain ⟨r16, e17, hT⟩ := obnd hT
    refine a_callS ks_X2_135 (k_X1_areCells e17) ⟨Nat.le_of_ble_eq_true rfl, Nat.le_of_ble_eq_true rfl⟩ (As := [.ref h7.2.1]) (rest := []) rfl rfl (Nat.le_of_ble_eq_true rfl) dX2_trim_18 (kI ?_) xI
    obtain ⟨⟨y22 | y22, h23⟩, e21, hT⟩ := obnd hT
    · dsimp only at hT
      refine a_callS ks_X2_139 (k_X1_requireRange e21) ⟨Nat.le_of_ble_eq_true rfl, Nat.le_of_ble_eq_true rfl⟩ (As := [.int r16.1]) (rest := []) rfl rfl (Nat.le_of_ble_eq_true rfl) dX2_trim_21 (kXV ?_) yXV
      refine a_aload_n dX2_trim_24 rfl ?_
      refine a_iload_n dX2_trim_25 rfl ?_
      refine a_iload_n dX2_trim_26 rfl ?_
      obtain ⟨g26, hT⟩ := oifg hT
      obtain ⟨⟨y29 | y29, h30⟩, e28, hT⟩ := obnd hT
      · dsimp only at hT
        refine a_callV kv_X2_143 g26 (k_X2_requireHedge e28) ⟨Nat.le_of_ble_eq_true rfl, Nat.le_of_ble_eq_true rfl⟩ (As := [.int x1, .int x2]) (rest := []) rfl rfl (Nat.le_of_ble_eq_true rfl) dX2_trim_27 (kXI ?_) yXI
        refine a_istore (lv' := [some (.ref o), some (.int x0), some (.int x1), some (.int x2), some (.ref y6), some (.int y29)]) dX2_trim_30 rfl (by decide) rfl ?_
        refine a_aload_n dX2_trim_32 rfl ?_
        obtain ⟨a32, e31, hT⟩ := obnd hT
        refine a_gA fl_X2_25_1 e31 dX2_trim_33 ?_
        refine a_iload dX2_trim_36 rfl ?_
        obtain ⟨z34, e33, hT⟩ := obnd hT
        refine a_ldI e33 dX2_trim_38 ?_
        refine a_if_ne 46 dX2_trim_39 rfl (fun c35 => ?_) (fun c35 => ?_)
        · have hT := oifn c35 hT
          refine a_iconst (v := 0) dX2_trim_46 (by decide) ?_
          refine a_mask [true, false, false, false, true, true] ?_
          exact k_X2_trim_l47 hT he
        · have hT := oifp c35 hT
          refine a_iconst (v := 1) dX2_trim_42 (by decide) ?_
          refine a_goto 47 dX2_trim_43 rfl ?_
          refine a_mask [true, false, false, false, true, true] ?_
          exact k_X2_trim_l47 hT he
      · dsimp only at hT
        refine a_callV kv_X2_143 g26 (k_X2_requireHedge e28) ⟨Nat.le_of_ble_eq_true rfl, Nat.le_of_ble_eq_true rfl⟩ (As := [.int x1, .int x2]) (rest := []) rfl rfl (Nat.le_of_ble_eq_true rfl) dX2_trim_27 rXI (zXI ?_)
        obtain rfl := Option.some.inj hT
        exact a_out (by decide) (he _ _ ⟨rfl, rfl⟩)
    · dsimp only at hT
      refine a_callS ks_X2_139 (k_X1_requireRange e21) ⟨Nat.le_of_ble_eq_true rfl, Nat.le_of_ble_eq_true rfl⟩ (As := [.int r16.1]) (rest := []) rfl rfl (Nat.le_of_ble_eq_true rfl) dX2_trim_21 rXV (zXV ?_)
      obtain rfl := Option.some.inj hT
      exact a_out (by decide) (he _ _ ⟨rfl, rfl⟩)
  · dsimp only at hT
    refine a_callV kv_X2_149 g3 (k_X2_requireGardener e5) ⟨Nat.le_of_ble_eq_true rfl, Nat.le_of_ble_eq_true rfl⟩ (As := [.int x0]) (rest := []) rfl rfl (Nat.le_of_ble_eq_true rfl) dX2_trim_2 rXA (zXA ?_)
    obtain rfl := Option.some.inj hT
    exact a_out (by decide) (he _ _ ⟨rfl, rfl⟩)
theorem kv_X2_169 : aKV "MazeBonds$Core" 169 4 yX6_meet cX6_meet 1 (Option.none : Option Jvm.ClassFile.FieldType) 0 := ⟨⟨TX6, 7, rfl⟩, Or.inl q754, q755, q756, q93, q757, ⟨by decide +kernel, by decide +kernel, by decide +kernel⟩⟩
abbrev M_X2_minotaur : aM := (yX2_minotaur.cls, cX2_minotaur, 5, (Option.some Jvm.ClassFile.FieldType.int), [], yX2_minotaur.name)
def p_X2_minotaur_b43 (G : aG) (h0 : aH) (K : aRes → aH → Prop) (x9 : (Int32 × Int32 × Nat × aH)) : Prop := aW G M_X2_minotaur 7 147 h0 K x9.2.2.2 43 [none, some (.int x9.1), some (.int x9.2.1), some (.ref x9.2.2.1), none] []
def t_X2_minotaur_l88 (Z : aZ) (h : aH) (v1 : Int32) (v2 : Int32) (v3 : Nat) : Option ((Int32 × Int32 × Nat × aH) ⊕ ((Int32 ⊕ aXX) × aH)) :=
  some (.inl (v1, v2, v3, h))
theorem k_X2_minotaur_l88 {G : aG} {h0 : aH} {K : aRes → aH → Prop} {h : aH} {v1 : Int32} {v2 : Int32} {v3 : Nat} {e : ((Int32 × Int32 × Nat × aH) ⊕ ((Int32 ⊕ aXX) × aH))} (hT : t_X2_minotaur_l88 (gZ G) h v1 v2 v3 = some e) (he : (Sum.elim (p_X2_minotaur_b43 G h0 K) (fun e => aTo (aXI e.1 e.2) K)) e) : aW G M_X2_minotaur 7 147 h0 K h 88 [none, some (.int v1), some (.int v2), some (.ref v3), none] [] := by
  unfold t_X2_minotaur_l88 at hT
  refine a_goto 43 dX2_minotaur_88 rfl ?_
  obtain rfl := Option.some.inj hT
  exact he
def t_X2_minotaur_b43 (Z : aZ) : (Int32 × Int32 × Nat × aH) → Option ((Int32 × Int32 × Nat × aH) ⊕ ((Int32 ⊕ aXX) × aH)) := fun (v1, v2, v3, h) =>
  if isC 9 h v3 = true then
  (t_J7_hasNext Z h v3).bind fun r32 =>
  if r32.1 = 0 then
    some (.inr ((.inl v2, r32.2)))
  else
    if isC 9 r32.2 v3 = true then
    (t_J7_next Z r32.2 v3).bind fun r38 =>
    if isC 4 r38.2 r38.1 = true then
    if isC 4 r38.2 r38.1 = true then
    (t_X6_isOut Z r38.2 r38.1).bind fun r44 =>
    if r44.1 = 0 then
      (gI 4 2 r44.2 r38.1).bind fun z48 =>
      if z48 = v1 then
        if isC 4 r44.2 r38.1 = true then
        (t_X6_meet Z r44.2 r38.1).bind fun r53 =>
        t_X2_minotaur_l88 Z r53.2 v1 (v2 + 1) v3
        else none
      else
        t_X2_minotaur_l88 Z r44.2 v1 v2 v3
    else
      t_X2_minotaur_l88 Z r44.2 v1 v2 v3
    else none
    else none
    else none
  else none
theorem kb_X2_minotaur_b43 {G : aG} {h0 : aH} {K : aRes → aH → Prop} : ∀ (x9 : (Int32 × Int32 × Nat × aH)) (e : ((Int32 × Int32 × Nat × aH) ⊕ ((Int32 ⊕ aXX) × aH))), t_X2_minotaur_b43 (gZ G) x9 = some e → (Sum.elim (p_X2_minotaur_b43 G h0 K) (fun e => aTo (aXI e.1 e.2) K)) e → p_X2_minotaur_b43 G h0 K x9 := by
  intro x9 e hT he
  obtain ⟨v1, v2, v3, h⟩ := x9
  unfold p_X2_minotaur_b43
  unfold t_X2_minotaur_b43 at hT
  show aW G M_X2_minotaur 7 147 h0 K h 43 [none, some (.int v1), some (.int v2), some (.ref v3), none] []
  dsimp only at hT
  refine a_aload_n dX2_minotaur_43 rfl ?_
  obtain ⟨g31, hT⟩ := oifg hT
  obtain ⟨r32, e33, hT⟩ := obnd hT
  refine a_callF kf_X2_41 g31 (k_J7_hasNext e33) ⟨Nat.le_of_ble_eq_true rfl, Nat.le_of_ble_eq_true rfl⟩ (As := []) (rest := []) rfl rfl (Nat.le_of_ble_eq_true rfl) dX2_minotaur_44 (kI ?_) xI
  refine a_if_eq 91 dX2_minotaur_49 rfl (fun c34 => ?_) (fun c34 => ?_)
  · have hT := oifp c34 hT
    refine a_iload_n dX2_minotaur_91 rfl ?_
    obtain rfl := Option.some.inj hT
    exact a_iret rfl rfl dX2_minotaur_92 (he _ _ ⟨rfl, rfl⟩)
  · have hT := oifn c34 hT
    refine a_aload_n dX2_minotaur_52 rfl ?_
    obtain ⟨g37, hT⟩ := oifg hT
    obtain ⟨r38, e39, hT⟩ := obnd hT
    refine a_callF kf_X2_47 g37 (k_J7_next e39) ⟨Nat.le_of_ble_eq_true rfl, Nat.le_of_ble_eq_true rfl⟩ (As := []) (rest := []) rfl rfl (Nat.le_of_ble_eq_true rfl) dX2_minotaur_53 (kA ?_) xA
    obtain ⟨g40, hT⟩ := oifg hT
    refine a_cast (ci := 4) rfl q488 g40 dX2_minotaur_58 ?_
    refine a_astore (lv' := [none, some (.int v1), some (.int v2), some (.ref v3), some (.ref r38.1)]) dX2_minotaur_61 rfl (by decide) rfl ?_
    refine a_aload dX2_minotaur_63 rfl ?_
    obtain ⟨g43, hT⟩ := oifg hT
    obtain ⟨r44, e45, hT⟩ := obnd hT
    refine a_callV kv_X2_163 g43 (k_X6_isOut e45) ⟨Nat.le_of_ble_eq_true rfl, Nat.le_of_ble_eq_true rfl⟩ (As := []) (rest := []) rfl rfl (Nat.le_of_ble_eq_true rfl) dX2_minotaur_65 (kI ?_) xI
    refine a_if_ne 88 dX2_minotaur_68 rfl (fun c46 => ?_) (fun c46 => ?_)
    · have hT := oifn c46 hT
      refine a_mask [true, true, true, true, false] ?_
      exact k_X2_minotaur_l88 hT he
    · have hT := oifp c46 hT
      refine a_aload dX2_minotaur_71 rfl ?_
      obtain ⟨z48, e47, hT⟩ := obnd hT
      refine a_gI fl_X2_166_4 e47 dX2_minotaur_73 ?_
      refine a_iload_n dX2_minotaur_76 rfl ?_
      refine a_icmp_ne 88 dX2_minotaur_77 rfl (fun c49 => ?_) (fun c49 => ?_)
      · have hT := oifn c49 hT
        refine a_mask [true, true, true, true, false] ?_
        exact k_X2_minotaur_l88 hT he
      · have hT := oifp c49 hT
        refine a_aload dX2_minotaur_80 rfl ?_
        obtain ⟨g52, hT⟩ := oifg hT
        obtain ⟨r53, e54, hT⟩ := obnd hT
        refine a_callV kv_X2_169 g52 (k_X6_meet e54) ⟨Nat.le_of_ble_eq_true rfl, Nat.le_of_ble_eq_true rfl⟩ (As := []) (rest := []) rfl rfl (Nat.le_of_ble_eq_true rfl) dX2_minotaur_82 (kV ?_) xV
        refine a_iinc (v := (v2 + 1)) (lv' := [none, some (.int v1), some (.int (v2 + 1)), some (.ref v3), some (.ref r38.1)]) dX2_minotaur_85 rfl (by rfl) rfl (by decide) rfl ?_
        refine a_mask [true, true, true, true, false] ?_
        exact k_X2_minotaur_l88 hT he
theorem k_X2_minotaur_b43 {G : aG} {h0 : aH} {K : aRes → aH → Prop} {n9 : Nat} {x9 : (Int32 × Int32 × Nat × aH)} {e : ((Int32 ⊕ aXX) × aH)} (hT : wlo (t_X2_minotaur_b43 (gZ G)) n9 x9 = some e) (he : (fun e => aTo (aXI e.1 e.2) K) e) : p_X2_minotaur_b43 G h0 K x9 := wlo_W kb_X2_minotaur_b43 n9 x9 e hT he
def t_X2_minotaur_l23 (Z : aZ) (h : aH) (v0 : Nat) (v1 : Int32) (u0 : Int32) : Option ((Int32 ⊕ aXX) × aH) :=
  (t_X1_refuse Z h u0 3 v1).bind fun r16 =>
  (match r16 with
  | (.inl y18, h19) =>
    (pF 1 3 Z h19 v0 (.int v1)).bind fun h21 =>
    (gA 1 2 h21 v0).bind fun a23 =>
    if isC 8 h21 a23 = true then
    (t_J2_iterator Z h21 a23).bind fun r27 =>
    wlo (t_X2_minotaur_b43 Z) 100 (v1, 0, r27.1, r27.2)
    else none
  | (.inr y18, h19) =>
    some (.inr y18, h19)
  )
theorem k_X2_minotaur_l23 {G : aG} {h0 : aH} {K : aRes → aH → Prop} {h : aH} {v0 : Nat} {v1 : Int32} {u0 : Int32} {e : ((Int32 ⊕ aXX) × aH)} (hT : t_X2_minotaur_l23 (gZ G) h v0 v1 u0 = some e) (he : (fun e => aTo (aXI e.1 e.2) K) e) : aW G M_X2_minotaur 7 147 h0 K h 23 [some (.ref v0), some (.int v1), none, none, none] [.int u0] := by
  unfold t_X2_minotaur_l23 at hT
  refine a_iconst (v := 3) dX2_minotaur_23 (by decide) ?_
  refine a_iload_n dX2_minotaur_24 rfl ?_
  obtain ⟨⟨y18 | y18, h19⟩, e17, hT⟩ := obnd hT
  · dsimp only at hT
    refine a_callS ks_X2_120 (k_X1_refuse e17) ⟨Nat.le_of_ble_eq_true rfl, Nat.le_of_ble_eq_true rfl⟩ (As := [.int u0, .int 3, .int v1]) (rest := []) rfl rfl (Nat.le_of_ble_eq_true rfl) dX2_minotaur_25 (kXV ?_) yXV
    refine a_aload_n dX2_minotaur_28 rfl ?_
    refine a_iload_n dX2_minotaur_29 rfl ?_
    obtain ⟨h21, e20, hT⟩ := obnd hT
    refine a_put (fp_X2_21_1 _) ⟨rfl, rfl⟩ e20 dX2_minotaur_30 ?_
    refine a_iconst (v := 0) dX2_minotaur_33 (by decide) ?_
    refine a_istore_n (lv' := [some (.ref v0), some (.int v1), some (.int 0), none, none]) dX2_minotaur_34 rfl (by decide) rfl ?_
    refine a_aload_n dX2_minotaur_35 rfl ?_
    obtain ⟨a23, e22, hT⟩ := obnd hT
    refine a_gA fl_X2_18_1 e22 dX2_minotaur_36 ?_
    obtain ⟨g26, hT⟩ := oifg hT
    obtain ⟨r27, e28, hT⟩ := obnd hT
    refine a_callV kv_X2_37 g26 (k_J2_iterator e28) ⟨Nat.le_of_ble_eq_true rfl, Nat.le_of_ble_eq_true rfl⟩ (As := []) (rest := []) rfl rfl (Nat.le_of_ble_eq_true rfl) dX2_minotaur_39 (kA ?_) xA
    refine a_astore_n (lv' := [some (.ref v0), some (.int v1), some (.int 0), some (.ref r27.1), none]) dX2_minotaur_42 rfl (by decide) rfl ?_
    refine a_mask [false, true, true, true, true] ?_
    exact k_X2_minotaur_b43 hT he
  · dsimp only at hT
    refine a_callS ks_X2_120 (k_X1_refuse e17) ⟨Nat.le_of_ble_eq_true rfl, Nat.le_of_ble_eq_true rfl⟩ (As := [.int u0, .int 3, .int v1]) (rest := []) rfl rfl (Nat.le_of_ble_eq_true rfl) dX2_minotaur_25 rXV (zXV ?_)
    obtain rfl := Option.some.inj hT
    exact a_out (by decide) (he _ _ ⟨rfl, rfl⟩)
def t_X2_minotaur (Z : aZ) (h : aH) (o : Nat) (x0 : Int32) : Option ((Int32 ⊕ aXX) × aH) :=
  (t_X1_isIn x0 (-1) 15).bind fun r3 =>
  (t_X1_requireRange Z h r3).bind fun r7 =>
  (match r7 with
  | (.inl y9, h10) =>
    (gI 1 3 h10 o).bind fun z12 =>
    if z12 = x0 then
      t_X2_minotaur_l23 Z h10 o x0 1
    else
      t_X2_minotaur_l23 Z h10 o x0 0
  | (.inr y9, h10) =>
    some (.inr y9, h10)
  )
theorem k_X2_minotaur {G : aG} {h : aH} {o : Nat} {x0 : Int32} {e : ((Int32 ⊕ aXX) × aH)} (hT : t_X2_minotaur (gZ G) h o x0 = some e) : aMet G yX2_minotaur (ws_ yX2_minotaur cX2_minotaur 5 (Option.some Jvm.ClassFile.FieldType.int)) 7 147 [.ref o, .int x0] h (aXI e.1 e.2) := by
  refine aMet.of (lv := [some (.ref o), some (.int x0), none, none, none]) (by decide) (Nat.le_of_ble_eq_true rfl) 3 rfl ?_
  have he : aTo (aXI e.1 e.2) (aXI e.1 e.2) := aTo.rf
  unfold t_X2_minotaur at hT
  refine a_iload_n dX2_minotaur_0 rfl ?_
  refine a_iconst (v := (-1)) dX2_minotaur_1 (by decide) ?_
  refine a_bipush (v := 15) dX2_minotaur_2 (by decide) ?_
  obtain ⟨r3, e4, hT⟩ := obnd hT
  refine a_callS ks_X2_78 (k_X1_isIn e4) ⟨Nat.le_of_ble_eq_true rfl, Nat.le_of_ble_eq_true rfl⟩ (As := [.int x0, .int (-1), .int 15]) (rest := []) rfl rfl (Nat.le_of_ble_eq_true rfl) dX2_minotaur_4 (kI ?_) xI
  obtain ⟨⟨y9 | y9, h10⟩, e8, hT⟩ := obnd hT
  · dsimp only at hT
    refine a_callS ks_X2_139 (k_X1_requireRange e8) ⟨Nat.le_of_ble_eq_true rfl, Nat.le_of_ble_eq_true rfl⟩ (As := [.int r3]) (rest := []) rfl rfl (Nat.le_of_ble_eq_true rfl) dX2_minotaur_7 (kXV ?_) yXV
    refine a_aload_n dX2_minotaur_10 rfl ?_
    obtain ⟨z12, e11, hT⟩ := obnd hT
    refine a_gI fl_X2_21_1 e11 dX2_minotaur_11 ?_
    refine a_iload_n dX2_minotaur_14 rfl ?_
    refine a_icmp_ne 22 dX2_minotaur_15 rfl (fun c13 => ?_) (fun c13 => ?_)
    · have hT := oifn c13 hT
      refine a_iconst (v := 0) dX2_minotaur_22 (by decide) ?_
      exact k_X2_minotaur_l23 hT he
    · have hT := oifp c13 hT
      refine a_iconst (v := 1) dX2_minotaur_18 (by decide) ?_
      refine a_goto 23 dX2_minotaur_19 rfl ?_
      exact k_X2_minotaur_l23 hT he
  · dsimp only at hT
    refine a_callS ks_X2_139 (k_X1_requireRange e8) ⟨Nat.le_of_ble_eq_true rfl, Nat.le_of_ble_eq_true rfl⟩ (As := [.int r3]) (rest := []) rfl rfl (Nat.le_of_ble_eq_true rfl) dX2_minotaur_7 rXV (zXV ?_)
    obtain rfl := Option.some.inj hT
    exact a_out (by decide) (he _ _ ⟨rfl, rfl⟩)
