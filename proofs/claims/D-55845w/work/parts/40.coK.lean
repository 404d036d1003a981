/-! decompiled (written by gen/comp.py) -/
set_option maxRecDepth 100000
abbrev M_X0_hours : aM := (yX0_hours.cls, cX0_hours, 5, (Option.some Jvm.ClassFile.FieldType.int), [((0 : Nat), (10 : Nat), (13 : Nat), (41 : Nat)), ((0 : Nat), (10 : Nat), (17 : Nat), (43 : Nat))], yX0_hours.name)
def t_X0_hours (Z : aZ) (h : aH) (x0 : Nat) (x1 : Int32) (x2 : Int32) (x3 : Nat) : Option (Int32 × aH) :=
  if isC 0 h x0 = true then
  (t_X1_hours Z h x0 x1 x2).bind fun r4 =>
  (match r4 with
  | (.inl y6, h7) =>
    (stJ Z h7 x3 0 ((y6 : Int32).toInt64)).bind fun h9 =>
    some (0, h9)
  | (.inr y6, h7) =>
    if y6.1 = "java/lang/IndexOutOfBoundsException" then
      some (1, h7)
    else
      if y6.1 = "java/util/NoSuchElementException" then
        some (2, h7)
      else
        none
  )
  else none
theorem k_X0_hours {G : aG} {h : aH} {x0 : Nat} {x1 : Int32} {x2 : Int32} {x3 : Nat} {e : (Int32 × aH)} (hT : t_X0_hours (gZ G) h x0 x1 x2 x3 = some e) : aMet G yX0_hours (wsW_ yX0_hours cX0_hours 5 (Option.some Jvm.ClassFile.FieldType.int) [((0 : Nat), (10 : Nat), (13 : Nat), (41 : Nat)), ((0 : Nat), (10 : Nat), (17 : Nat), (43 : Nat))]) 12 263 [.ref x0, .int x1, .int x2, .ref x3] h (aEI e.1 e.2) := by
  refine aMet.ofH (lv := [some (.ref x0), some (.int x1), some (.int x2), some (.ref x3), none]) (by decide) (Nat.le_of_ble_eq_true rfl) 1 rfl ?_
  have he : aTo (aEI e.1 e.2) (aEI e.1 e.2) := aTo.rf
  unfold t_X0_hours at hT
  refine a_aload_n dX0_hours_0 rfl ?_
  refine a_iconst (v := 0) dX0_hours_1 (by decide) ?_
  refine a_aload_n dX0_hours_2 rfl ?_
  refine a_iload_n dX0_hours_3 rfl ?_
  refine a_iload_n dX0_hours_4 rfl ?_
  obtain ⟨g3, hT⟩ := oifg hT
  obtain ⟨⟨y6 | y6, h7⟩, e5, hT⟩ := obnd hT
  · dsimp only at hT
    refine a_callV kv_X0_49 g3 (k_X1_hours e5) ⟨Nat.le_of_ble_eq_true rfl, Nat.le_of_ble_eq_true rfl⟩ (As := [.int x1, .int x2]) (rest := [.int 0, .ref x3]) rfl rfl (Nat.le_of_ble_eq_true rfl) dX0_hours_5 (kXI ?_) yXI
    refine a_i2l dX0_hours_8 ?_
    obtain ⟨h9, e8, hT⟩ := obnd hT
    refine a_stJ e8 dX0_hours_9 ?_
    refine a_goto 21 dX0_hours_10 rfl ?_
    refine a_iconst (v := 0) dX0_hours_21 (by decide) ?_
    obtain rfl := Option.some.inj hT
    exact a_iret rfl rfl dX0_hours_22 (he _ _ ⟨rfl, rfl⟩)
  · dsimp only at hT
    refine a_callV kv_X0_49 g3 (k_X1_hours e5) ⟨Nat.le_of_ble_eq_true rfl, Nat.le_of_ble_eq_true rfl⟩ (As := [.int x1, .int x2]) (rest := [.int 0, .ref x3]) rfl rfl (Nat.le_of_ble_eq_true rfl) dX0_hours_5 rXI (zXI ?_)
    by_cases c10 : y6.1 = "java/lang/IndexOutOfBoundsException"
    · have hT := oifp c10 hT
      rw [c10]
      refine a_catchI 0 rfl aNil (by decide) (by decide) q879 q929 ?_
      refine a_astore (lv' := [some (.ref x0), some (.int x1), some (.int x2), some (.ref x3), some (.ref y6.2)]) dX0_hours_13 rfl (by decide) rfl ?_
      refine a_iconst (v := 1) dX0_hours_15 (by decide) ?_
      obtain rfl := Option.some.inj hT
      exact a_iret rfl rfl dX0_hours_16 (he _ _ ⟨rfl, rfl⟩)
    · have hT := oifn c10 hT
      by_cases c11 : y6.1 = "java/util/NoSuchElementException"
      · have hT := oifp c11 hT
        rw [c11]
        refine a_catchI 1 rfl (aCons (Or.inr ⟨by decide, _, q879, fun s hK => hK.2.2.2.2.1 _ (List.mem_of_getElem? (i := 0) rfl)⟩) aNil) (by decide) (by decide) q911 q313 ?_
        refine a_astore (lv' := [some (.ref x0), some (.int x1), some (.int x2), some (.ref x3), some (.ref y6.2)]) dX0_hours_17 rfl (by decide) rfl ?_
        refine a_iconst (v := 2) dX0_hours_19 (by decide) ?_
        obtain rfl := Option.some.inj hT
        exact a_iret rfl rfl dX0_hours_20 (he _ _ ⟨rfl, rfl⟩)
      · have hT := oifn c11 hT
        cases hT
theorem kv_X0_81 : aKV "MazeBondsLaw" 81 0 yX1_wouldPay cX1_wouldPay 4 (Option.some Jvm.ClassFile.FieldType.int) 1 := ⟨⟨TX1, 8, rfl⟩, Or.inl q1083, q1084, q1085, q72, q1086, ⟨by decide +kernel, by decide +kernel, by decide +kernel⟩⟩
abbrev M_X0_wouldPay : aM := (yX0_wouldPay.cls, cX0_wouldPay, 4, (Option.some Jvm.ClassFile.FieldType.int), [((0 : Nat), (9 : Nat), (12 : Nat), (41 : Nat)), ((0 : Nat), (9 : Nat), (15 : Nat), (43 : Nat))], yX0_wouldPay.name)
def t_X0_wouldPay (Z : aZ) (h : aH) (x0 : Nat) (x1 : Int32) (x2 : Nat) : Option (Int32 × aH) :=
  if isC 0 h x0 = true then
  (t_X1_wouldPay Z h x0 x1).bind fun r4 =>
  (match r4 with
  | (.inl y6, h7) =>
    (stJ Z h7 x2 0 ((y6 : Int32).toInt64)).bind fun h9 =>
    some (0, h9)
  | (.inr y6, h7) =>
    if y6.1 = "java/lang/IndexOutOfBoundsException" then
      some (1, h7)
    else
      if y6.1 = "java/util/NoSuchElementException" then
        some (2, h7)
      else
        none
  )
  else none
theorem k_X0_wouldPay {G : aG} {h : aH} {x0 : Nat} {x1 : Int32} {x2 : Nat} {e : (Int32 × aH)} (hT : t_X0_wouldPay (gZ G) h x0 x1 x2 = some e) : aMet G yX0_wouldPay (wsW_ yX0_wouldPay cX0_wouldPay 4 (Option.some Jvm.ClassFile.FieldType.int) [((0 : Nat), (9 : Nat), (12 : Nat), (41 : Nat)), ((0 : Nat), (9 : Nat), (15 : Nat), (43 : Nat))]) 12 264 [.ref x0, .int x1, .ref x2] h (aEI e.1 e.2) := by
  refine aMet.ofH (lv := [some (.ref x0), some (.int x1), some (.ref x2), none]) (by decide) (Nat.le_of_ble_eq_true rfl) 1 rfl ?_
  have he : aTo (aEI e.1 e.2) (aEI e.1 e.2) := aTo.rf
  unfold t_X0_wouldPay at hT
  refine a_aload_n dX0_wouldPay_0 rfl ?_
  refine a_iconst (v := 0) dX0_wouldPay_1 (by decide) ?_
  refine a_aload_n dX0_wouldPay_2 rfl ?_
  refine a_iload_n dX0_wouldPay_3 rfl ?_
  obtain ⟨g3, hT⟩ := oifg hT
  obtain ⟨⟨y6 | y6, h7⟩, e5, hT⟩ := obnd hT
  · dsimp only at hT
    refine a_callV kv_X0_81 g3 (k_X1_wouldPay e5) ⟨Nat.le_of_ble_eq_true rfl, Nat.le_of_ble_eq_true rfl⟩ (As := [.int x1]) (rest := [.int 0, .ref x2]) rfl rfl (Nat.le_of_ble_eq_true rfl) dX0_wouldPay_4 (kXI ?_) yXI
    refine a_i2l dX0_wouldPay_7 ?_
    obtain ⟨h9, e8, hT⟩ := obnd hT
    refine a_stJ e8 dX0_wouldPay_8 ?_
    refine a_goto 18 dX0_wouldPay_9 rfl ?_
    refine a_iconst (v := 0) dX0_wouldPay_18 (by decide) ?_
    obtain rfl := Option.some.inj hT
    exact a_iret rfl rfl dX0_wouldPay_19 (he _ _ ⟨rfl, rfl⟩)
  · dsimp only at hT
    refine a_callV kv_X0_81 g3 (k_X1_wouldPay e5) ⟨Nat.le_of_ble_eq_true rfl, Nat.le_of_ble_eq_true rfl⟩ (As := [.int x1]) (rest := [.int 0, .ref x2]) rfl rfl (Nat.le_of_ble_eq_true rfl) dX0_wouldPay_4 rXI (zXI ?_)
    by_cases c10 : y6.1 = "java/lang/IndexOutOfBoundsException"
    · have hT := oifp c10 hT
      rw [c10]
      refine a_catchI 0 rfl aNil (by decide) (by decide) q879 q929 ?_
      refine a_astore_n (lv' := [some (.ref x0), some (.int x1), some (.ref x2), some (.ref y6.2)]) dX0_wouldPay_12 rfl (by decide) rfl ?_
      refine a_iconst (v := 1) dX0_wouldPay_13 (by decide) ?_
      obtain rfl := Option.some.inj hT
      exact a_iret rfl rfl dX0_wouldPay_14 (he _ _ ⟨rfl, rfl⟩)
    · have hT := oifn c10 hT
      by_cases c11 : y6.1 = "java/util/NoSuchElementException"
      · have hT := oifp c11 hT
        rw [c11]
        refine a_catchI 1 rfl (aCons (Or.inr ⟨by decide, _, q879, fun s hK => hK.2.2.2.2.1 _ (List.mem_of_getElem? (i := 0) rfl)⟩) aNil) (by decide) (by decide) q911 q313 ?_
        refine a_astore_n (lv' := [some (.ref x0), some (.int x1), some (.ref x2), some (.ref y6.2)]) dX0_wouldPay_15 rfl (by decide) rfl ?_
        refine a_iconst (v := 2) dX0_wouldPay_16 (by decide) ?_
        obtain rfl := Option.some.inj hT
        exact a_iret rfl rfl dX0_wouldPay_17 (he _ _ ⟨rfl, rfl⟩)
      · have hT := oifn c11 hT
        cases hT
theorem kv_X1_178 : aKV "MazeBonds" 178 1 yX2_hasWay cX2_hasWay 1 (Option.some Jvm.ClassFile.FieldType.boolean) 0 := ⟨⟨TX2, 7, rfl⟩, Or.inl q570, q571, q572, q73, q573, ⟨by decide +kernel, by decide +kernel, by decide +kernel⟩⟩
abbrev M_X1_summersLeft : aM := (yX1_summersLeft.cls, cX1_summersLeft, 3, (Option.some Jvm.ClassFile.FieldType.int), [], yX1_summersLeft.name)
def p_X1_summersLeft_b10 (G : aG) (h0 : aH) (K : aRes → aH → Prop) (x9 : (Nat × Int32 × aH)) : Prop := aW G M_X1_summersLeft 8 204 h0 K x9.2.2 10 [none, some (.ref x9.1), some (.int x9.2.1)] []
def t_X1_summersLeft_b10 (Z : aZ) : (Nat × Int32 × aH) → Option ((Nat × Int32 × aH) ⊕ (Int32 × aH)) := fun (v1, v2, h) =>
  if isC 1 h v1 = true then
  (t_X2_hasWay Z h v1).bind fun r11 =>
  if r11.1 = 0 then
    some (.inr ((v2, r11.2)))
  else
    if isC 1 r11.2 v1 = true then
    (t_X2_summer Z r11.2 v1).bind fun r17 =>
    some (.inl (v1, (v2 + 1), r17.2))
    else none
  else none
theorem kb_X1_summersLeft_b10 {G : aG} {h0 : aH} {K : aRes → aH → Prop} : ∀ (x9 : (Nat × Int32 × aH)) (e : ((Nat × Int32 × aH) ⊕ (Int32 × aH))), t_X1_summersLeft_b10 (gZ G) x9 = some e → (Sum.elim (p_X1_summersLeft_b10 G h0 K) (fun e => aTo (aEI e.1 e.2) K)) e → p_X1_summersLeft_b10 G h0 K x9 := by
  intro x9 e hT he
  obtain ⟨v1, v2, h⟩ := x9
  unfold p_X1_summersLeft_b10
  unfold t_X1_summersLeft_b10 at hT
  show aW G M_X1_summersLeft 8 204 h0 K h 10 [none, some (.ref v1), some (.int v2)] []
  dsimp only at hT
  refine a_aload_n dX1_summersLeft_10 rfl ?_
  obtain ⟨g10, hT⟩ := oifg hT
  obtain ⟨r11, e12, hT⟩ := obnd hT
  refine a_callV kv_X1_178 g10 (k_X2_hasWay e12) ⟨Nat.le_of_ble_eq_true rfl, Nat.le_of_ble_eq_true rfl⟩ (As := []) (rest := []) rfl rfl (Nat.le_of_ble_eq_true rfl) dX1_summersLeft_11 (kI ?_) xI
  refine a_if_eq 28 dX1_summersLeft_14 rfl (fun c13 => ?_) (fun c13 => ?_)
  · have hT := oifp c13 hT
    refine a_iload_n dX1_summersLeft_28 rfl ?_
    obtain rfl := Option.some.inj hT
    exact a_iret rfl rfl dX1_summersLeft_29 (he _ _ ⟨rfl, rfl⟩)
  · have hT := oifn c13 hT
    refine a_aload_n dX1_summersLeft_17 rfl ?_
    obtain ⟨g16, hT⟩ := oifg hT
    obtain ⟨r17, e18, hT⟩ := obnd hT
    refine a_callV kv_X1_110 g16 (k_X2_summer e18) ⟨Nat.le_of_ble_eq_true rfl, Nat.le_of_ble_eq_true rfl⟩ (As := []) (rest := []) rfl rfl (Nat.le_of_ble_eq_true rfl) dX1_summersLeft_18 (kI ?_) xI
    refine a_pop dX1_summersLeft_21 rfl ?_
    refine a_iinc (v := (v2 + 1)) (lv' := [none, some (.ref v1), some (.int (v2 + 1))]) dX1_summersLeft_22 rfl (by rfl) rfl (by decide) rfl ?_
    refine a_goto 10 dX1_summersLeft_25 rfl ?_
    obtain rfl := Option.some.inj hT
    exact he
theorem k_X1_summersLeft_b10 {G : aG} {h0 : aH} {K : aRes → aH → Prop} {n9 : Nat} {x9 : (Nat × Int32 × aH)} {e : (Int32 × aH)} (hT : wlo (t_X1_summersLeft_b10 (gZ G)) n9 x9 = some e) (he : (fun e => aTo (aEI e.1 e.2) K) e) : p_X1_summersLeft_b10 G h0 K x9 := wlo_W kb_X1_summersLeft_b10 n9 x9 e hT he
def t_X1_summersLeft (Z : aZ) (h : aH) (o : Nat) : Option (Int32 × aH) :=
  (gA 0 0 h o).bind fun a2 =>
  if isC 1 h a2 = true then
  (t_X2_copy Z h a2).bind fun r6 =>
  wlo (t_X1_summersLeft_b10 Z) 100 (r6.1, 0, r6.2)
  else none
theorem k_X1_summersLeft {G : aG} {h : aH} {o : Nat} {e : (Int32 × aH)} (hT : t_X1_summersLeft (gZ G) h o = some e) : aMet G yX1_summersLeft (ws_ yX1_summersLeft cX1_summersLeft 3 (Option.some Jvm.ClassFile.FieldType.int)) 8 204 [.ref o] h (aEI e.1 e.2) := by
  refine aMet.of (lv := [some (.ref o), none, none]) (by decide) (Nat.le_of_ble_eq_true rfl) 2 rfl ?_
  have he : aTo (aEI e.1 e.2) (aEI e.1 e.2) := aTo.rf
  unfold t_X1_summersLeft at hT
  refine a_aload_n dX1_summersLeft_0 rfl ?_
  obtain ⟨a2, e1, hT⟩ := obnd hT
  refine a_gA fl_X1_49_0 e1 dX1_summersLeft_1 ?_
  obtain ⟨g5, hT⟩ := oifg hT
  obtain ⟨r6, e7, hT⟩ := obnd hT
  refine a_callV kv_X1_94 g5 (k_X2_copy e7) ⟨Nat.le_of_ble_eq_true rfl, Nat.le_of_ble_eq_true rfl⟩ (As := []) (rest := []) rfl rfl (Nat.le_of_ble_eq_true rfl) dX1_summersLeft_4 (kA ?_) xA
  refine a_astore_n (lv' := [some (.ref o), some (.ref r6.1), none]) dX1_summersLeft_7 rfl (by decide) rfl ?_
  refine a_iconst (v := 0) dX1_summersLeft_8 (by decide) ?_
  refine a_istore_n (lv' := [some (.ref o), some (.ref r6.1), some (.int 0)]) dX1_summersLeft_9 rfl (by decide) rfl ?_
  refine a_mask [false, true, true] ?_
  exact k_X1_summersLeft_b10 hT he
theorem kv_X1_123 : aKV "MazeBonds" 123 1 yX2_visitor cX2_visitor 2 (Option.some Jvm.ClassFile.FieldType.int) 1 := ⟨⟨TX2, 7, rfl⟩, Or.inl q781, q782, q783, q73, q784, ⟨by decide +kernel, by decide +kernel, by decide +kernel⟩⟩
abbrev M_X1_visitor : aM := (yX1_visitor.cls, cX1_visitor, 3, (Option.some Jvm.ClassFile.FieldType.int), [((0 : Nat), (18 : Nat), (19 : Nat), (25 : Nat))], yX1_visitor.name)
def t_X1_visitor (Z : aZ) (h : aH) (o : Nat) (x0 : Int32) : Option ((Int32 ⊕ aXX) × aH) :=
  (gA 0 0 h o).bind fun a2 =>
  if isC 1 h a2 = true then
  (t_X2_copy Z h a2).bind fun r6 =>
  if isC 1 r6.2 r6.1 = true then
  (t_X2_visitor Z r6.2 r6.1 x0).bind fun r11 =>
  (match r11 with
  | (.inl y13, h14) =>
    if isC 0 h14 o = true then
    (t_X1_come Z h14 o r6.1 y13).bind fun r18 =>
    some (.inl r18.1, r18.2)
    else none
  | (.inr y13, h14) =>
    if y13.1 = "MazeBonds$RefusedException" then
      if isC 0 h14 o = true then
      (t_X1_keep Z h14 o y13.2).bind fun r24 =>
      if isC 13 r24.2 r24.1 = true then
      some (.inr ("java/lang/UnsupportedOperationException", r24.1), r24.2)
      else none
      else none
    else
      none
  )
  else none
  else none
theorem k_X1_visitor {G : aG} {h : aH} {o : Nat} {x0 : Int32} {e : ((Int32 ⊕ aXX) × aH)} (hT : t_X1_visitor (gZ G) h o x0 = some e) : aMet G yX1_visitor (wsW_ yX1_visitor cX1_visitor 3 (Option.some Jvm.ClassFile.FieldType.int) [((0 : Nat), (18 : Nat), (19 : Nat), (25 : Nat))]) 10 225 [.ref o, .int x0] h (aXI e.1 e.2) := by
  refine aMet.ofH (lv := [some (.ref o), some (.int x0), none]) (by decide) (Nat.le_of_ble_eq_true rfl) 1 rfl ?_
  have he : aTo (aXI e.1 e.2) (aXI e.1 e.2) := aTo.rf
  unfold t_X1_visitor at hT
  refine a_aload_n dX1_visitor_0 rfl ?_
  obtain ⟨a2, e1, hT⟩ := obnd hT
  refine a_gA fl_X1_49_0 e1 dX1_visitor_1 ?_
  obtain ⟨g5, hT⟩ := oifg hT
  obtain ⟨r6, e7, hT⟩ := obnd hT
  refine a_callV kv_X1_94 g5 (k_X2_copy e7) ⟨Nat.le_of_ble_eq_true rfl, Nat.le_of_ble_eq_true rfl⟩ (As := []) (rest := []) rfl rfl (Nat.le_of_ble_eq_true rfl) dX1_visitor_4 (kA ?_) xA
  refine a_astore_n (lv' := [some (.ref o), some (.int x0), some (.ref r6.1)]) dX1_visitor_7 rfl (by decide) rfl ?_
  refine a_aload_n dX1_visitor_8 rfl ?_
  refine a_aload_n dX1_visitor_9 rfl ?_
  refine a_aload_n dX1_visitor_10 rfl ?_
  refine a_iload_n dX1_visitor_11 rfl ?_
  obtain ⟨g10, hT⟩ := oifg hT
  obtain ⟨⟨y13 | y13, h14⟩, e12, hT⟩ := obnd hT
  · dsimp only at hT
    refine a_callV kv_X1_123 g10 (k_X2_visitor e12) ⟨Nat.le_of_ble_eq_true rfl, Nat.le_of_ble_eq_true rfl⟩ (As := [.int x0]) (rest := [.ref r6.1, .ref o]) rfl rfl (Nat.le_of_ble_eq_true rfl) dX1_visitor_12 (kXI ?_) yXI
    obtain ⟨g17, hT⟩ := oifg hT
    obtain ⟨r18, e19, hT⟩ := obnd hT
    refine a_callV kv_X1_102 g17 (k_X1_come e19) ⟨Nat.le_of_ble_eq_true rfl, Nat.le_of_ble_eq_true rfl⟩ (As := [.ref r6.1, .int y13]) (rest := []) rfl rfl (Nat.le_of_ble_eq_true rfl) dX1_visitor_15 (kI ?_) xI
    obtain rfl := Option.some.inj hT
    exact a_iret rfl rfl dX1_visitor_18 (he _ _ ⟨rfl, rfl⟩)
  · dsimp only at hT
    refine a_callV kv_X1_123 g10 (k_X2_visitor e12) ⟨Nat.le_of_ble_eq_true rfl, Nat.le_of_ble_eq_true rfl⟩ (As := [.int x0]) (rest := [.ref r6.1, .ref o]) rfl rfl (Nat.le_of_ble_eq_true rfl) dX1_visitor_12 rXI (zXI ?_)
    by_cases c20 : y13.1 = "MazeBonds$RefusedException"
    · have hT := oifp c20 hT
      rw [c20]
      refine a_catchI 0 rfl aNil (by decide) (by decide) q624 q643 ?_
      refine a_astore_n (lv' := [some (.ref o), some (.int x0), some (.ref y13.2)]) dX1_visitor_19 rfl (by decide) rfl ?_
      refine a_aload_n dX1_visitor_20 rfl ?_
      refine a_aload_n dX1_visitor_21 rfl ?_
      obtain ⟨g23, hT⟩ := oifg hT
      obtain ⟨r24, e25, hT⟩ := obnd hT
      refine a_callV kv_X1_106 g23 (k_X1_keep e25) ⟨Nat.le_of_ble_eq_true rfl, Nat.le_of_ble_eq_true rfl⟩ (As := [.ref y13.2]) (rest := []) rfl rfl (Nat.le_of_ble_eq_true rfl) dX1_visitor_22 (kA ?_) xA
      obtain ⟨g26, hT⟩ := oifg hT
      refine a_athrow (ci := 13) (fs := []) rfl g26 dX1_visitor_25 ?_
      obtain rfl := Option.some.inj hT
      exact a_out (by decide) (he _ _ ⟨rfl, rfl⟩)
    · have hT := oifn c20 hT
      cases hT
abbrev M_X1_isNeeded : aM := (yX1_isNeeded.cls, cX1_isNeeded, 5, (Option.some Jvm.ClassFile.FieldType.boolean), [], yX1_isNeeded.name)
def t_X1_isNeeded (Z : aZ) (h : aH) (o : Nat) (x0 : Int32) (x1 : Int32) : Option ((Int32 ⊕ aXX) × aH) :=
  if isC 0 h o = true then
  (t_X1_getHedge Z h o x0 x1).bind fun r4 =>
  (match r4 with
  | (.inl y6, h7) =>
    (gA 0 0 h7 o).bind fun a9 =>
    if isC 1 h7 a9 = true then
    (t_X2_copy Z h7 a9).bind fun r13 =>
    (gA 1 0 r13.2 r13.1).bind fun a16 =>
    (stI Z r13.2 a16 y6 5).bind fun h18 =>
    (gA 0 0 h18 o).bind fun a20 =>
    if isC 1 h18 a20 = true then
    (t_X2_hasWay Z h18 a20).bind fun r24 =>
    if r24.1 = 0 then
      some (.inl 0, r24.2)
    else
      if isC 1 r24.2 r13.1 = true then
      (t_X2_hasWay Z r24.2 r13.1).bind fun r30 =>
      if r30.1 = 0 then
        some (.inl 1, r30.2)
      else
        some (.inl 0, r30.2)
      else none
    else none
    else none
  | (.inr y6, h7) =>
    some (.inr y6, h7)
  )
  else none
theorem k_X1_isNeeded {G : aG} {h : aH} {o : Nat} {x0 : Int32} {x1 : Int32} {e : ((Int32 ⊕ aXX) × aH)} (hT : t_X1_isNeeded (gZ G) h o x0 x1 = some e) : aMet G yX1_isNeeded (ws_ yX1_isNeeded cX1_isNeeded 5 (Option.some Jvm.ClassFile.FieldType.boolean)) 12 263 [.ref o, .int x0, .int x1] h (aXI e.1 e.2) := by
  refine aMet.of (lv := [some (.ref o), some (.int x0), some (.int x1), none, none]) (by decide) (Nat.le_of_ble_eq_true rfl) 2 rfl ?_
  have he : aTo (aXI e.1 e.2) (aXI e.1 e.2) := aTo.rf
  unfold t_X1_isNeeded at hT
  refine a_aload_n dX1_isNeeded_0 rfl ?_
  refine a_iload_n dX1_isNeeded_1 rfl ?_
  refine a_iload_n dX1_isNeeded_2 rfl ?_
  obtain ⟨g3, hT⟩ := oifg hT
  obtain ⟨⟨y6 | y6, h7⟩, e5, hT⟩ := obnd hT
  · dsimp only at hT
    refine a_callV kv_X1_157 g3 (k_X1_getHedge e5) ⟨Nat.le_of_ble_eq_true rfl, Nat.le_of_ble_eq_true rfl⟩ (As := [.int x0, .int x1]) (rest := []) rfl rfl (Nat.le_of_ble_eq_true rfl) dX1_isNeeded_3 (kXI ?_) yXI
    refine a_istore_n (lv' := [some (.ref o), some (.int x0), some (.int x1), some (.int y6), none]) dX1_isNeeded_6 rfl (by decide) rfl ?_
    refine a_aload_n dX1_isNeeded_7 rfl ?_
    obtain ⟨a9, e8, hT⟩ := obnd hT
    refine a_gA fl_X1_49_0 e8 dX1_isNeeded_8 ?_
    obtain ⟨g12, hT⟩ := oifg hT
    obtain ⟨r13, e14, hT⟩ := obnd hT
    refine a_callV kv_X1_94 g12 (k_X2_copy e14) ⟨Nat.le_of_ble_eq_true rfl, Nat.le_of_ble_eq_true rfl⟩ (As := []) (rest := []) rfl rfl (Nat.le_of_ble_eq_true rfl) dX1_isNeeded_11 (kA ?_) xA
    refine a_astore (lv' := [some (.ref o), some (.int x0), some (.int x1), some (.int y6), some (.ref r13.1)]) dX1_isNeeded_14 rfl (by decide) rfl ?_
    refine a_aload dX1_isNeeded_16 rfl ?_
    obtain ⟨a16, e15, hT⟩ := obnd hT
    refine a_gA fl_X1_153_1 e15 dX1_isNeeded_18 ?_
    refine a_iload_n dX1_isNeeded_21 rfl ?_
    refine a_iconst (v := 5) dX1_isNeeded_22 (by decide) ?_
    obtain ⟨h18, e17, hT⟩ := obnd hT
    refine a_stI e17 dX1_isNeeded_23 ?_
    refine a_aload_n dX1_isNeeded_24 rfl ?_
    obtain ⟨a20, e19, hT⟩ := obnd hT
    refine a_gA fl_X1_49_0 e19 dX1_isNeeded_25 ?_
    obtain ⟨g23, hT⟩ := oifg hT
    obtain ⟨r24, e25, hT⟩ := obnd hT
    refine a_callV kv_X1_178 g23 (k_X2_hasWay e25) ⟨Nat.le_of_ble_eq_true rfl, Nat.le_of_ble_eq_true rfl⟩ (As := []) (rest := []) rfl rfl (Nat.le_of_ble_eq_true rfl) dX1_isNeeded_28 (kI ?_) xI
    refine a_if_eq 46 dX1_isNeeded_31 rfl (fun c26 => ?_) (fun c26 => ?_)
    · have hT := oifp c26 hT
      refine a_iconst (v := 0) dX1_isNeeded_46 (by decide) ?_
      obtain rfl := Option.some.inj hT
      exact a_iret rfl (by decide) dX1_isNeeded_47 (he _ _ ⟨rfl, rfl⟩)
    · have hT := oifn c26 hT
      refine a_aload dX1_isNeeded_34 rfl ?_
      obtain ⟨g29, hT⟩ := oifg hT
      obtain ⟨r30, e31, hT⟩ := obnd hT
      refine a_callV kv_X1_178 g29 (k_X2_hasWay e31) ⟨Nat.le_of_ble_eq_true rfl, Nat.le_of_ble_eq_true rfl⟩ (As := []) (rest := []) rfl rfl (Nat.le_of_ble_eq_true rfl) dX1_isNeeded_36 (kI ?_) xI
      refine a_if_ne 46 dX1_isNeeded_39 rfl (fun c32 => ?_) (fun c32 => ?_)
      · have hT := oifn c32 hT
        refine a_iconst (v := 0) dX1_isNeeded_46 (by decide) ?_
        obtain rfl := Option.some.inj hT
        exact a_iret rfl (by decide) dX1_isNeeded_47 (he _ _ ⟨rfl, rfl⟩)
      · have hT := oifp c32 hT
        refine a_iconst (v := 1) dX1_isNeeded_42 (by decide) ?_
        refine a_goto 47 dX1_isNeeded_43 rfl ?_
        obtain rfl := Option.some.inj hT
        exact a_iret rfl (by decide) dX1_isNeeded_47 (he _ _ ⟨rfl, rfl⟩)
  · dsimp only at hT
    refine a_callV kv_X1_157 g3 (k_X1_getHedge e5) ⟨Nat.le_of_ble_eq_true rfl, Nat.le_of_ble_eq_true rfl⟩ (As := [.int x0, .int x1]) (rest := []) rfl rfl (Nat.le_of_ble_eq_true rfl) dX1_isNeeded_3 rXI (zXI ?_)
    obtain rfl := Option.some.inj hT
    exact a_out (by decide) (he _ _ ⟨rfl, rfl⟩)
theorem kv_X8_111 : aKV "MazeBonds$Reader" 111 6 yX8_carryOut cX8_carryOut 3 (Option.none : Option Jvm.ClassFile.FieldType) 2 := ⟨⟨TX8, 5, rfl⟩, Or.inl q1317, q1319, qs26, q104, q1320, ⟨by decide +kernel, by decide +kernel, by decide +kernel⟩⟩
theorem fn_X8_115 : aFN "MazeBonds$Reader" 115 5 [.null, .null, .null, .null, .null, .int 0, .int 0, .int 0, .int 0] 9 := ⟨RX7, TX7, tyX7, rfl, in_X7, tyX7_ok, q1185, q642, q94, by decide⟩
theorem fl_X8_117_5 : aFL "MazeBonds$Reader" 117 5 6 := ⟨RX7, TX7, 9, "MazeBonds$RefusedException", rfl, in_X7, by decide, Or.inl rfl, Or.inr ⟨_, q663⟩⟩
theorem fl_X8_120_5 : aFL "MazeBonds$Reader" 120 5 7 := ⟨RX7, TX7, 9, "MazeBonds$RefusedException", rfl, in_X7, by decide, Or.inl rfl, Or.inr ⟨_, q666⟩⟩
theorem ki_X8_123 : aKI "MazeBonds$Reader" 123 yX7_init_2 cX7_init_2 4 3 := ⟨rfl, Or.inl q1330, q654, q94, q655, ⟨by decide +kernel, by decide +kernel, by decide +kernel⟩⟩
abbrev M_X8_step : aM := (yX8_step.cls, cX8_step, 5, (Option.none : Option Jvm.ClassFile.FieldType), [((10 : Nat), (16 : Nat), (19 : Nat), (115 : Nat))], yX8_step.name)
def t_X8_step (Z : aZ) (h : aH) (o : Nat) (x0 : Nat) (x1 : Int32) : Option ((Unit ⊕ aXX) × aH) :=
  if isC 6 h o = true then
  (t_X8_command Z h o).bind fun r4 =>
  (match r4 with
  | (.inl y6, h7) =>
    if isC 6 h7 o = true then
    (t_X8_carryOut Z h7 o x0 y6).bind fun r11 =>
    (match r11 with
    | (.inl y13, h14) =>
      some (.inl (), h14)
    | (.inr y13, h14) =>
      if y13.1 = "MazeBonds$RefusedException" then
        (nw Z h14 (.inr (5, [.null, .null, .null, .null, .null, .int 0, .int 0, .int 0, .int 0])) 9).bind fun h16 =>
        (gI 5 6 h16 y13.2).bind fun z19 =>
        (gI 5 7 h16 y13.2).bind fun z21 =>
        (t_X7_init_2 Z h16 h14.2.1 z19 z21 x1).bind fun r24 =>
        if isC 5 r24.2 h14.2.1 = true then
        some (.inr ("MazeBonds$RefusedException", h14.2.1), r24.2)
        else none
      else
        none
    )
    else none
  | (.inr y6, h7) =>
    some (.inr y6, h7)
  )
  else none
theorem k_X8_step {G : aG} {h : aH} {o : Nat} {x0 : Nat} {x1 : Int32} {e : ((Unit ⊕ aXX) × aH)} (hT : t_X8_step (gZ G) h o x0 x1 = some e) : aMet G yX8_step (wsW_ yX8_step cX8_step 5 (Option.none : Option Jvm.ClassFile.FieldType) [((10 : Nat), (16 : Nat), (19 : Nat), (115 : Nat))]) 10 247 [.ref o, .ref x0, .int x1] h (aXV e.1 e.2) := by
  refine aMet.ofH (lv := [some (.ref o), some (.ref x0), some (.int x1), none, none]) (by decide) (Nat.le_of_ble_eq_true rfl) 2 rfl ?_
  have he : aTo (aXV e.1 e.2) (aXV e.1 e.2) := aTo.rf
  unfold t_X8_step at hT
  refine a_aload_n dX8_step_0 rfl ?_
  obtain ⟨g3, hT⟩ := oifg hT
  obtain ⟨⟨y6 | y6, h7⟩, e5, hT⟩ := obnd hT
  · dsimp only at hT
    refine a_callV kv_X8_107 g3 (k_X8_command e5) ⟨Nat.le_of_ble_eq_true rfl, Nat.le_of_ble_eq_true rfl⟩ (As := []) (rest := []) rfl rfl (Nat.le_of_ble_eq_true rfl) dX8_step_1 (kXI ?_) yXI
    refine a_istore_n (lv' := [some (.ref o), some (.ref x0), some (.int x1), some (.int y6), none]) dX8_step_4 rfl (by decide) rfl ?_
    refine a_aload_n dX8_step_5 rfl ?_
    refine a_ifnonnull 10 dX8_step_6 rfl ?_
    refine a_aload_n dX8_step_10 rfl ?_
    refine a_aload_n dX8_step_11 rfl ?_
    refine a_iload_n dX8_step_12 rfl ?_
    obtain ⟨g10, hT⟩ := oifg hT
    obtain ⟨⟨y13 | y13, h14⟩, e12, hT⟩ := obnd hT
    · dsimp only at hT
      refine a_callV kv_X8_111 g10 (k_X8_carryOut e12) ⟨Nat.le_of_ble_eq_true rfl, Nat.le_of_ble_eq_true rfl⟩ (As := [.ref x0, .int y6]) (rest := []) rfl rfl (Nat.le_of_ble_eq_true rfl) dX8_step_13 (kXV ?_) yXV
      refine a_goto 40 dX8_step_16 rfl ?_
      obtain rfl := Option.some.inj hT
      exact a_vret rfl dX8_step_40 (he _ _ ⟨rfl, rfl⟩)
    · dsimp only at hT
      refine a_callV kv_X8_111 g10 (k_X8_carryOut e12) ⟨Nat.le_of_ble_eq_true rfl, Nat.le_of_ble_eq_true rfl⟩ (As := [.ref x0, .int y6]) (rest := []) rfl rfl (Nat.le_of_ble_eq_true rfl) dX8_step_13 rXV (zXV ?_)
      by_cases c15 : y13.1 = "MazeBonds$RefusedException"
      · have hT := oifp c15 hT
        rw [c15]
        refine a_catchI 0 rfl aNil (by decide) (by decide) q1185 q643 ?_
        refine a_astore (lv' := [some (.ref o), some (.ref x0), some (.int x1), some (.int y6), some (.ref y13.2)]) dX8_step_19 rfl (by decide) rfl ?_
        obtain ⟨h16, e17, hT⟩ := obnd hT
        refine a_new fn_X8_115 e17 dX8_step_21 ?_
        refine a_dup dX8_step_24 rfl ?_
        refine a_aload dX8_step_25 rfl ?_
        obtain ⟨z19, e18, hT⟩ := obnd hT
        refine a_gI fl_X8_117_5 e18 dX8_step_27 ?_
        refine a_aload dX8_step_30 rfl ?_
        obtain ⟨z21, e20, hT⟩ := obnd hT
        refine a_gI fl_X8_120_5 e20 dX8_step_32 ?_
        refine a_iload_n dX8_step_35 rfl ?_
        obtain ⟨r24, e25, hT⟩ := obnd hT
        refine a_callI ki_X8_123 (k_X7_init_2 e25) ⟨Nat.le_of_ble_eq_true rfl, Nat.le_of_ble_eq_true rfl⟩ (As := [.int z19, .int z21, .int x1]) (rest := [.ref h14.2.1]) rfl rfl (Nat.le_of_ble_eq_true rfl) dX8_step_36 (kV ?_) xV
        obtain ⟨g26, hT⟩ := oifg hT
        refine a_athrow (ci := 5) (fs := []) rfl g26 dX8_step_39 ?_
        obtain rfl := Option.some.inj hT
        exact a_out (by decide) (he _ _ ⟨rfl, rfl⟩)
      · have hT := oifn c15 hT
        cases hT
  · dsimp only at hT
    refine a_callV kv_X8_107 g3 (k_X8_command e5) ⟨Nat.le_of_ble_eq_true rfl, Nat.le_of_ble_eq_true rfl⟩ (As := []) (rest := []) rfl rfl (Nat.le_of_ble_eq_true rfl) dX8_step_1 rXI (zXI ?_)
    obtain rfl := Option.some.inj hT
    exact a_out (by decide) (he _ _ ⟨rfl, rfl⟩)
theorem kv_X0_25 : aKVW "MazeBondsLaw" 25 0 yX1_visitor cX1_visitor 3 (Option.some Jvm.ClassFile.FieldType.int) [((0 : Nat), (18 : Nat), (19 : Nat), (25 : Nat))] 1 := ⟨⟨TX1, 8, rfl⟩, q777, q778, q779, q72, q780, ⟨by decide +kernel, by decide +kernel, by decide +kernel⟩⟩
abbrev M_X0_visitor : aM := (yX0_visitor.cls, cX0_visitor, 4, (Option.some Jvm.ClassFile.FieldType.int), [((0 : Nat), (9 : Nat), (12 : Nat), (13 : Nat))], yX0_visitor.name)
def t_X0_visitor (Z : aZ) (h : aH) (x0 : Nat) (x1 : Int32) (x2 : Nat) : Option (Int32 × aH) :=
  if isC 0 h x0 = true then
  (t_X1_visitor Z h x0 x1).bind fun r4 =>
  (match r4 with
  | (.inl y6, h7) =>
    (stJ Z h7 x2 0 ((y6 : Int32).toInt64)).bind fun h9 =>
    some (0, h9)
  | (.inr y6, h7) =>
    if y6.1 = "java/lang/UnsupportedOperationException" then
      some (1, h7)
    else
      none
  )
  else none
theorem k_X0_visitor {G : aG} {h : aH} {x0 : Nat} {x1 : Int32} {x2 : Nat} {e : (Int32 × aH)} (hT : t_X0_visitor (gZ G) h x0 x1 x2 = some e) : aMet G yX0_visitor (wsW_ yX0_visitor cX0_visitor 4 (Option.some Jvm.ClassFile.FieldType.int) [((0 : Nat), (9 : Nat), (12 : Nat), (13 : Nat))]) 11 247 [.ref x0, .int x1, .ref x2] h (aEI e.1 e.2) := by
  refine aMet.ofH (lv := [some (.ref x0), some (.int x1), some (.ref x2), none]) (by decide) (Nat.le_of_ble_eq_true rfl) 1 rfl ?_
  have he : aTo (aEI e.1 e.2) (aEI e.1 e.2) := aTo.rf
  unfold t_X0_visitor at hT
  refine a_aload_n dX0_visitor_0 rfl ?_
  refine a_iconst (v := 0) dX0_visitor_1 (by decide) ?_
  refine a_aload_n dX0_visitor_2 rfl ?_
  refine a_iload_n dX0_visitor_3 rfl ?_
  obtain ⟨g3, hT⟩ := oifg hT
  obtain ⟨⟨y6 | y6, h7⟩, e5, hT⟩ := obnd hT
  · dsimp only at hT
    refine a_callVW kv_X0_25 g3 (k_X1_visitor e5) ⟨Nat.le_of_ble_eq_true rfl, Nat.le_of_ble_eq_true rfl⟩ (As := [.int x1]) (rest := [.int 0, .ref x2]) rfl rfl (Nat.le_of_ble_eq_true rfl) dX0_visitor_4 (kXI ?_) yXI
    refine a_i2l dX0_visitor_7 ?_
    obtain ⟨h9, e8, hT⟩ := obnd hT
    refine a_stJ e8 dX0_visitor_8 ?_
    refine a_goto 15 dX0_visitor_9 rfl ?_
    refine a_iconst (v := 0) dX0_visitor_15 (by decide) ?_
    obtain rfl := Option.some.inj hT
    exact a_iret rfl rfl dX0_visitor_16 (he _ _ ⟨rfl, rfl⟩)
  · dsimp only at hT
    refine a_callVW kv_X0_25 g3 (k_X1_visitor e5) ⟨Nat.le_of_ble_eq_true rfl, Nat.le_of_ble_eq_true rfl⟩ (As := [.int x1]) (rest := [.int 0, .ref x2]) rfl rfl (Nat.le_of_ble_eq_true rfl) dX0_visitor_4 rXI (zXI ?_)
    by_cases c10 : y6.1 = "java/lang/UnsupportedOperationException"
    · have hT := oifp c10 hT
      rw [c10]
      refine a_catchI 0 rfl aNil (by decide) (by decide) q619 q690 ?_
      refine a_astore_n (lv' := [some (.ref x0), some (.int x1), some (.ref x2), some (.ref y6.2)]) dX0_visitor_12 rfl (by decide) rfl ?_
      refine a_iconst (v := 1) dX0_visitor_13 (by decide) ?_
      obtain rfl := Option.some.inj hT
      exact a_iret rfl rfl dX0_visitor_14 (he _ _ ⟨rfl, rfl⟩)
    · have hT := oifn c10 hT
      cases hT
theorem kv_X0_67 : aKV "MazeBondsLaw" 67 0 yX1_isNeeded cX1_isNeeded 5 (Option.some Jvm.ClassFile.FieldType.boolean) 2 := ⟨⟨TX1, 8, rfl⟩, Or.inl q1012, q1013, q1014, q72, q1015, ⟨by decide +kernel, by decide +kernel, by decide +kernel⟩⟩
abbrev M_X0_isNeeded : aM := (yX0_isNeeded.cls, cX0_isNeeded, 5, (Option.some Jvm.ClassFile.FieldType.int), [((0 : Nat), (17 : Nat), (20 : Nat), (41 : Nat)), ((0 : Nat), (17 : Nat), (24 : Nat), (43 : Nat))], yX0_isNeeded.name)
def t_X0_isNeeded_l16 (Z : aZ) (h : aH) (u0 : Int64) (u1 : Int32) (u2 : Nat) : Option (Int32 × aH) :=
  (stJ Z h u2 u1 u0).bind fun h10 =>
  some (0, h10)
theorem k_X0_isNeeded_l16 {G : aG} {h0 : aH} {K : aRes → aH → Prop} {h : aH} {u0 : Int64} {u1 : Int32} {u2 : Nat} {e : (Int32 × aH)} (hT : t_X0_isNeeded_l16 (gZ G) h u0 u1 u2 = some e) (he : (fun e => aTo (aEI e.1 e.2) K) e) : aW G M_X0_isNeeded 13 287 h0 K h 16 [none, none, none, none, none] [.long u0, .int u1, .ref u2] := by
  unfold t_X0_isNeeded_l16 at hT
  obtain ⟨h10, e9, hT⟩ := obnd hT
  refine a_stJ e9 dX0_isNeeded_16 ?_
  refine a_goto 28 dX0_isNeeded_17 rfl ?_
  refine a_iconst (v := 0) dX0_isNeeded_28 (by decide) ?_
  obtain rfl := Option.some.inj hT
  exact a_iret rfl rfl dX0_isNeeded_29 (he _ _ ⟨rfl, rfl⟩)
def t_X0_isNeeded (Z : aZ) (h : aH) (x0 : Nat) (x1 : Int32) (x2 : Int32) (x3 : Nat) : Option (Int32 × aH) :=
  if isC 0 h x0 = true then
  (t_X1_isNeeded Z h x0 x1 x2).bind fun r4 =>
  (match r4 with
  | (.inl y6, h7) =>
    if y6 = 0 then
      t_X0_isNeeded_l16 Z h7 0 0 x3
    else
      t_X0_isNeeded_l16 Z h7 1 0 x3
  | (.inr y6, h7) =>
    if y6.1 = "java/lang/IndexOutOfBoundsException" then
      some (1, h7)
    else
      if y6.1 = "java/util/NoSuchElementException" then
        some (2, h7)
      else
        none
  )
  else none
theorem k_X0_isNeeded {G : aG} {h : aH} {x0 : Nat} {x1 : Int32} {x2 : Int32} {x3 : Nat} {e : (Int32 × aH)} (hT : t_X0_isNeeded (gZ G) h x0 x1 x2 x3 = some e) : aMet G yX0_isNeeded (wsW_ yX0_isNeeded cX0_isNeeded 5 (Option.some Jvm.ClassFile.FieldType.int) [((0 : Nat), (17 : Nat), (20 : Nat), (41 : Nat)), ((0 : Nat), (17 : Nat), (24 : Nat), (43 : Nat))]) 13 287 [.ref x0, .int x1, .int x2, .ref x3] h (aEI e.1 e.2) := by
  refine aMet.ofH (lv := [some (.ref x0), some (.int x1), some (.int x2), some (.ref x3), none]) (by decide) (Nat.le_of_ble_eq_true rfl) 1 rfl ?_
  have he : aTo (aEI e.1 e.2) (aEI e.1 e.2) := aTo.rf
  unfold t_X0_isNeeded at hT
  refine a_aload_n dX0_isNeeded_0 rfl ?_
  refine a_iconst (v := 0) dX0_isNeeded_1 (by decide) ?_
  refine a_aload_n dX0_isNeeded_2 rfl ?_
  refine a_iload_n dX0_isNeeded_3 rfl ?_
  refine a_iload_n dX0_isNeeded_4 rfl ?_
  obtain ⟨g3, hT⟩ := oifg hT
  obtain ⟨⟨y6 | y6, h7⟩, e5, hT⟩ := obnd hT
  · dsimp only at hT
    refine a_callV kv_X0_67 g3 (k_X1_isNeeded e5) ⟨Nat.le_of_ble_eq_true rfl, Nat.le_of_ble_eq_true rfl⟩ (As := [.int x1, .int x2]) (rest := [.int 0, .ref x3]) rfl rfl (Nat.le_of_ble_eq_true rfl) dX0_isNeeded_5 (kXI ?_) yXI
    refine a_if_eq 15 dX0_isNeeded_8 rfl (fun c8 => ?_) (fun c8 => ?_)
    · have hT := oifp c8 hT
      refine a_lconst (v := 0) dX0_isNeeded_15 (by decide) ?_
      refine a_mask [false, false, false, false, true] ?_
      exact k_X0_isNeeded_l16 hT he
    · have hT := oifn c8 hT
      refine a_lconst (v := 1) dX0_isNeeded_11 (by decide) ?_
      refine a_goto 16 dX0_isNeeded_12 rfl ?_
      refine a_mask [false, false, false, false, true] ?_
      exact k_X0_isNeeded_l16 hT he
  · dsimp only at hT
    refine a_callV kv_X0_67 g3 (k_X1_isNeeded e5) ⟨Nat.le_of_ble_eq_true rfl, Nat.le_of_ble_eq_true rfl⟩ (As := [.int x1, .int x2]) (rest := [.int 0, .ref x3]) rfl rfl (Nat.le_of_ble_eq_true rfl) dX0_isNeeded_5 rXI (zXI ?_)
    by_cases c11 : y6.1 = "java/lang/IndexOutOfBoundsException"
    · have hT := oifp c11 hT
      rw [c11]
      refine a_catchI 0 rfl aNil (by decide) (by decide) q879 q929 ?_
      refine a_astore (lv' := [some (.ref x0), some (.int x1), some (.int x2), some (.ref x3), some (.ref y6.2)]) dX0_isNeeded_20 rfl (by decide) rfl ?_
      refine a_iconst (v := 1) dX0_isNeeded_22 (by decide) ?_
      obtain rfl := Option.some.inj hT
      exact a_iret rfl rfl dX0_isNeeded_23 (he _ _ ⟨rfl, rfl⟩)
    · have hT := oifn c11 hT
      by_cases c12 : y6.1 = "java/util/NoSuchElementException"
      · have hT := oifp c12 hT
        rw [c12]
        refine a_catchI 1 rfl (aCons (Or.inr ⟨by decide, _, q879, fun s hK => hK.2.2.2.2.1 _ (List.mem_of_getElem? (i := 0) rfl)⟩) aNil) (by decide) (by decide) q911 q313 ?_
        refine a_astore (lv' := [some (.ref x0), some (.int x1), some (.int x2), some (.ref x3), some (.ref y6.2)]) dX0_isNeeded_24 rfl (by decide) rfl ?_
        refine a_iconst (v := 2) dX0_isNeeded_26 (by decide) ?_
        obtain rfl := Option.some.inj hT
        exact a_iret rfl rfl dX0_isNeeded_27 (he _ _ ⟨rfl, rfl⟩)
      · have hT := oifn c12 hT
        cases hT
abbrev M_X8_commands : aM := (yX8_commands.cls, cX8_commands, 4, (Option.some Jvm.ClassFile.FieldType.int), [], yX8_commands.name)
def p_X8_commands_b4 (G : aG) (h0 : aH) (K : aRes → aH → Prop) (x9 : (Nat × Nat × Int32 × Int32 × aH)) : Prop := aW G M_X8_commands 11 271 h0 K x9.2.2.2.2 4 [some (.ref x9.1), some (.ref x9.2.1), some (.int x9.2.2.1), some (.int x9.2.2.2.1)] []
def t_X8_commands_l67 (Z : aZ) (h : aH) (v2 : Int32) (u0 : Int32) (u1 : Nat) : Option ((Int32 ⊕ aXX) × aH) :=
  if isC 6 h u1 = true then
  (t_X8_must Z h u1 u0).bind fun r12 =>
  (match r12 with
  | (.inl y14, h15) =>
    some (.inl v2, h15)
  | (.inr y14, h15) =>
    some (.inr y14, h15)
  )
  else none
theorem k_X8_commands_l67 {G : aG} {h0 : aH} {K : aRes → aH → Prop} {h : aH} {v2 : Int32} {u0 : Int32} {u1 : Nat} {e : ((Int32 ⊕ aXX) × aH)} (hT : t_X8_commands_l67 (gZ G) h v2 u0 u1 = some e) (he : (fun e => aTo (aXI e.1 e.2) K) e) : aW G M_X8_commands 11 271 h0 K h 67 [none, none, some (.int v2), none] [.int u0, .ref u1] := by
  unfold t_X8_commands_l67 at hT
  obtain ⟨g11, hT⟩ := oifg hT
  obtain ⟨⟨y14 | y14, h15⟩, e13, hT⟩ := obnd hT
  · dsimp only at hT
    refine a_callV kv_X8_39 g11 (k_X8_must e13) ⟨Nat.le_of_ble_eq_true rfl, Nat.le_of_ble_eq_true rfl⟩ (As := [.int u0]) (rest := []) rfl rfl (Nat.le_of_ble_eq_true rfl) dX8_commands_67 (kXV ?_) yXV
    refine a_iload_n dX8_commands_70 rfl ?_
    obtain rfl := Option.some.inj hT
    exact a_iret rfl rfl dX8_commands_71 (he _ _ ⟨rfl, rfl⟩)
  · dsimp only at hT
    refine a_callV kv_X8_39 g11 (k_X8_must e13) ⟨Nat.le_of_ble_eq_true rfl, Nat.le_of_ble_eq_true rfl⟩ (As := [.int u0]) (rest := []) rfl rfl (Nat.le_of_ble_eq_true rfl) dX8_commands_67 rXV (zXV ?_)
    obtain rfl := Option.some.inj hT
    exact a_out (by decide) (he _ _ ⟨rfl, rfl⟩)
def t_X8_commands_l47 (Z : aZ) (h : aH) (v0 : Nat) (v2 : Int32) : Option ((Int32 ⊕ aXX) × aH) :=
  (gI 6 0 h v0).bind fun z3 =>
  (gA 6 4 h v0).bind fun a5 =>
  (gI 0 5 h a5).bind fun z7 =>
  if z3 = z7 then
    t_X8_commands_l67 Z h v2 1 v0
  else
    t_X8_commands_l67 Z h v2 0 v0
theorem k_X8_commands_l47 {G : aG} {h0 : aH} {K : aRes → aH → Prop} {h : aH} {v0 : Nat} {v2 : Int32} {e : ((Int32 ⊕ aXX) × aH)} (hT : t_X8_commands_l47 (gZ G) h v0 v2 = some e) (he : (fun e => aTo (aXI e.1 e.2) K) e) : aW G M_X8_commands 11 271 h0 K h 47 [some (.ref v0), none, some (.int v2), none] [] := by
  unfold t_X8_commands_l47 at hT
  refine a_aload_n dX8_commands_47 rfl ?_
  refine a_aload_n dX8_commands_48 rfl ?_
  obtain ⟨z3, e2, hT⟩ := obnd hT
  refine a_gI fl_X8_15_6 e2 dX8_commands_49 ?_
  refine a_aload_n dX8_commands_52 rfl ?_
  obtain ⟨a5, e4, hT⟩ := obnd hT
  refine a_gA fl_X8_3_6 e4 dX8_commands_53 ?_
  obtain ⟨z7, e6, hT⟩ := obnd hT
  refine a_gI fl_X8_19_0 e6 dX8_commands_56 ?_
  refine a_icmp_ne 66 dX8_commands_59 rfl (fun c8 => ?_) (fun c8 => ?_)
  · have hT := oifn c8 hT
    refine a_iconst (v := 0) dX8_commands_66 (by decide) ?_
    refine a_mask [false, true, true, true] ?_
    exact k_X8_commands_l67 hT he
  · have hT := oifp c8 hT
    refine a_iconst (v := 1) dX8_commands_62 (by decide) ?_
    refine a_goto 67 dX8_commands_63 rfl ?_
    refine a_mask [false, true, true, true] ?_
    exact k_X8_commands_l67 hT he
def t_X8_commands_l40 (Z : aZ) (h : aH) (v0 : Nat) (v1 : Nat) (v2 : Int32) (v3 : Int32) (u0 : Int32) (u1 : Int32) (u2 : Nat) : Option ((Nat × Nat × Int32 × Int32 × aH) ⊕ ((Int32 ⊕ aXX) × aH)) :=
  (pF 6 0 Z h u2 (.int (u1 + u0))).bind fun h32 =>
  some (.inl (v0, v1, v2, v3, h32))
theorem k_X8_commands_l40 {G : aG} {h0 : aH} {K : aRes → aH → Prop} {h : aH} {v0 : Nat} {v1 : Nat} {v2 : Int32} {v3 : Int32} {u0 : Int32} {u1 : Int32} {u2 : Nat} {e : ((Nat × Nat × Int32 × Int32 × aH) ⊕ ((Int32 ⊕ aXX) × aH))} (hT : t_X8_commands_l40 (gZ G) h v0 v1 v2 v3 u0 u1 u2 = some e) (he : (Sum.elim (p_X8_commands_b4 G h0 K) (fun e => aTo (aXI e.1 e.2) K)) e) : aW G M_X8_commands 11 271 h0 K h 40 [some (.ref v0), some (.ref v1), some (.int v2), some (.int v3)] [.int u0, .int u1, .ref u2] := by
  unfold t_X8_commands_l40 at hT
  refine a_iadd dX8_commands_40 ?_
  obtain ⟨h32, e31, hT⟩ := obnd hT
  refine a_put (fp_X8_15_6 _) ⟨rfl, rfl⟩ e31 dX8_commands_41 ?_
  refine a_goto 4 dX8_commands_44 rfl ?_
  obtain rfl := Option.some.inj hT
  exact he
def t_X8_commands_b4 (Z : aZ) : (Nat × Nat × Int32 × Int32 × aH) → Option ((Nat × Nat × Int32 × Int32 × aH) ⊕ ((Int32 ⊕ aXX) × aH)) := fun (v0, v1, v2, v3, h) =>
  if v3 = 0 then
    (t_X8_commands_l47 Z h v0 v2).map .inr
  else
    if isC 6 h v0 = true then
    (t_X8_step Z h v0 v1 v2).bind fun r19 =>
    (match r19 with
    | (.inl y21, h22) =>
      if isC 6 h22 v0 = true then
      (t_X8_sees Z h22 v0 59 59).bind fun r26 =>
      (gI 6 0 r26.2 v0).bind fun z29 =>
      if r26.1 = 0 then
        t_X8_commands_l40 Z r26.2 v0 v1 (v2 + 1) r26.1 0 z29 v0
      else
        t_X8_commands_l40 Z r26.2 v0 v1 (v2 + 1) r26.1 1 z29 v0
      else none
    | (.inr y21, h22) =>
      some (.inr ((.inr y21, h22)))
    )
    else none
theorem kb_X8_commands_b4 {G : aG} {h0 : aH} {K : aRes → aH → Prop} : ∀ (x9 : (Nat × Nat × Int32 × Int32 × aH)) (e : ((Nat × Nat × Int32 × Int32 × aH) ⊕ ((Int32 ⊕ aXX) × aH))), t_X8_commands_b4 (gZ G) x9 = some e → (Sum.elim (p_X8_commands_b4 G h0 K) (fun e => aTo (aXI e.1 e.2) K)) e → p_X8_commands_b4 G h0 K x9 := by
  intro x9 e hT he
  obtain ⟨v0, v1, v2, v3, h⟩ := x9
  unfold p_X8_commands_b4
  unfold t_X8_commands_b4 at hT
  show aW G M_X8_commands 11 271 h0 K h 4 [some (.ref v0), some (.ref v1), some (.int v2), some (.int v3)] []
  dsimp only at hT
  refine a_iload_n dX8_commands_4 rfl ?_
  refine a_if_eq 47 dX8_commands_5 rfl (fun c1 => ?_) (fun c1 => ?_)
  · have hT := oifp c1 hT
    refine a_mask [true, false, true, false] ?_
    obtain ⟨e8, hT8, rfl⟩ := omap hT
    exact k_X8_commands_l47 hT8 he
  · have hT := oifn c1 hT
    refine a_aload_n dX8_commands_8 rfl ?_
    refine a_aload_n dX8_commands_9 rfl ?_
    refine a_iload_n dX8_commands_10 rfl ?_
    obtain ⟨g18, hT⟩ := oifg hT
    obtain ⟨⟨y21 | y21, h22⟩, e20, hT⟩ := obnd hT
    · dsimp only at hT
      refine a_callVW kv_X8_126 g18 (k_X8_step e20) ⟨Nat.le_of_ble_eq_true rfl, Nat.le_of_ble_eq_true rfl⟩ (As := [.ref v1, .int v2]) (rest := []) rfl rfl (Nat.le_of_ble_eq_true rfl) dX8_commands_11 (kXV ?_) yXV
      refine a_iinc (v := (v2 + 1)) (lv' := [some (.ref v0), some (.ref v1), some (.int (v2 + 1)), some (.int v3)]) dX8_commands_14 rfl (by rfl) rfl (by decide) rfl ?_
      refine a_aload_n dX8_commands_17 rfl ?_
      refine a_bipush (v := 59) dX8_commands_18 (by decide) ?_
      refine a_bipush (v := 59) dX8_commands_20 (by decide) ?_
      obtain ⟨g25, hT⟩ := oifg hT
      obtain ⟨r26, e27, hT⟩ := obnd hT
      refine a_callV kv_X8_35 g25 (k_X8_sees e27) ⟨Nat.le_of_ble_eq_true rfl, Nat.le_of_ble_eq_true rfl⟩ (As := [.int 59, .int 59]) (rest := []) rfl rfl (Nat.le_of_ble_eq_true rfl) dX8_commands_22 (kI ?_) xI
      refine a_istore_n (lv' := [some (.ref v0), some (.ref v1), some (.int (v2 + 1)), some (.int r26.1)]) dX8_commands_25 rfl (by decide) rfl ?_
      refine a_aload_n dX8_commands_26 rfl ?_
      refine a_dup dX8_commands_27 rfl ?_
      obtain ⟨z29, e28, hT⟩ := obnd hT
      refine a_gI fl_X8_15_6 e28 dX8_commands_28 ?_
      refine a_iload_n dX8_commands_31 rfl ?_
      refine a_if_eq 39 dX8_commands_32 rfl (fun c30 => ?_) (fun c30 => ?_)
      · have hT := oifp c30 hT
        refine a_iconst (v := 0) dX8_commands_39 (by decide) ?_
        exact k_X8_commands_l40 hT he
      · have hT := oifn c30 hT
        refine a_iconst (v := 1) dX8_commands_35 (by decide) ?_
        refine a_goto 40 dX8_commands_36 rfl ?_
        exact k_X8_commands_l40 hT he
    · dsimp only at hT
      refine a_callVW kv_X8_126 g18 (k_X8_step e20) ⟨Nat.le_of_ble_eq_true rfl, Nat.le_of_ble_eq_true rfl⟩ (As := [.ref v1, .int v2]) (rest := []) rfl rfl (Nat.le_of_ble_eq_true rfl) dX8_commands_11 rXV (zXV ?_)
      obtain rfl := Option.some.inj hT
      exact a_out (by decide) (he _ _ ⟨rfl, rfl⟩)
theorem k_X8_commands_b4 {G : aG} {h0 : aH} {K : aRes → aH → Prop} {n9 : Nat} {x9 : (Nat × Nat × Int32 × Int32 × aH)} {e : ((Int32 ⊕ aXX) × aH)} (hT : wlo (t_X8_commands_b4 (gZ G)) n9 x9 = some e) (he : (fun e => aTo (aXI e.1 e.2) K) e) : p_X8_commands_b4 G h0 K x9 := wlo_W kb_X8_commands_b4 n9 x9 e hT he
def t_X8_commands (Z : aZ) (h : aH) (o : Nat) (x0 : Nat) : Option ((Int32 ⊕ aXX) × aH) :=
  wlo (t_X8_commands_b4 Z) 100 (o, x0, 0, 1, h)
theorem k_X8_commands {G : aG} {h : aH} {o : Nat} {x0 : Nat} {e : ((Int32 ⊕ aXX) × aH)} (hT : t_X8_commands (gZ G) h o x0 = some e) : aMet G yX8_commands (ws_ yX8_commands cX8_commands 4 (Option.some Jvm.ClassFile.FieldType.int)) 11 271 [.ref o, .ref x0] h (aXI e.1 e.2) := by
  refine aMet.of (lv := [some (.ref o), some (.ref x0), none, none]) (by decide) (Nat.le_of_ble_eq_true rfl) 2 rfl ?_
  have he : aTo (aXI e.1 e.2) (aXI e.1 e.2) := aTo.rf
  unfold t_X8_commands at hT
  refine a_iconst (v := 0) dX8_commands_0 (by decide) ?_
  refine a_istore_n (lv' := [some (.ref o), some (.ref x0), some (.int 0), none]) dX8_commands_1 rfl (by decide) rfl ?_
  refine a_iconst (v := 1) dX8_commands_2 (by decide) ?_
  refine a_istore_n (lv' := [some (.ref o), some (.ref x0), some (.int 0), some (.int 1)]) dX8_commands_3 rfl (by decide) rfl ?_
  exact k_X8_commands_b4 hT he
theorem fn_X1_274 : aFN "MazeBonds" 274 6 [.int 0, .int 0, .int 0, .int 0, .null] 5 := ⟨RX8, TX8, tyX8, rfl, in_X8, tyX8_ok, q1155, q1156, q104, by decide⟩
theorem ki_X1_276 : aKI "MazeBonds" 276 yX8_init cX8_init 2 1 := ⟨rfl, Or.inr ⟨_, q1157⟩, q1158, q104, q1159, ⟨by decide +kernel, by decide +kernel, by decide +kernel⟩⟩
theorem kv_X1_279 : aKV "MazeBonds" 279 6 yX8_commands cX8_commands 4 (Option.some Jvm.ClassFile.FieldType.int) 1 := ⟨⟨TX8, 5, rfl⟩, Or.inl q1177, q1178, q1179, q104, q1180, ⟨by decide +kernel, by decide +kernel, by decide +kernel⟩⟩
theorem fp_X1_64_0 (nm9 : String) : aFP "MazeBonds" 64 0 6 .int nm9 := ⟨RX1, TX1, 8, "MazeBonds", tyX1, rfl, in_X1, by decide, Or.inl rfl, Or.inl q230, tyX1_ok, nmX1, rfl, Or.inl rfl⟩
theorem fl_X1_285_7 : aFL "MazeBonds" 285 7 6 := ⟨RX9, TX9, 7, "MazeBonds$FaultException", rfl, in_X9, by decide, Or.inl rfl, Or.inr ⟨_, q1290⟩⟩
abbrev M_X1_commands : aM := (yX1_commands.cls, cX1_commands, 4, (Option.some Jvm.ClassFile.FieldType.int), [((0 : Nat), (44 : Nat), (51 : Nat), (283 : Nat)), ((0 : Nat), (44 : Nat), (68 : Nat), (25 : Nat)), ((0 : Nat), (44 : Nat), (75 : Nat), (0 : Nat)), ((51 : Nat), (76 : Nat), (75 : Nat), (0 : Nat))], yX1_commands.name)
def t_X1_commands (Z : aZ) (h : aH) (o : Nat) : Option ((Int32 ⊕ aXX) × aH) :=
  (nw Z h (.inr (6, [.int 0, .int 0, .int 0, .int 0, .null])) 5).bind fun h1 =>
  (t_X8_init Z h1 h.2.1 o).bind fun r5 =>
  if isC 6 r5.2 h.2.1 = true then
  (t_X8_commands_n Z r5.2 h.2.1).bind fun r10 =>
  (match r10 with
  | (.inl y12, h13) =>
    (pF 0 6 Z h13 o (.int (-1))).bind fun h15 =>
    (gA 0 0 h15 o).bind fun a17 =>
    if isC 1 h15 a17 = true then
    (t_X2_copy Z h15 a17).bind fun r21 =>
    (nw Z r21.2 (.inr (6, [.int 0, .int 0, .int 0, .int 0, .null])) 5).bind fun h23 =>
    (t_X8_init Z h23 r21.2.2.1 o).bind fun r27 =>
    if isC 6 r27.2 r21.2.2.1 = true then
    (t_X8_commands Z r27.2 r21.2.2.1 r21.1).bind fun r32 =>
    (match r32 with
    | (.inl y34, h35) =>
      if isC 0 h35 o = true then
      (t_X1_come Z h35 o r21.1 y34).bind fun r39 =>
      (pF 0 5 Z r39.2 o (.int 0)).bind fun h42 =>
      some (.inl r39.1, h42)
      else none
    | (.inr y34, h35) =>
      if y34.1 = "MazeBonds$FaultException" then
        (gI 7 6 h35 y34.2).bind fun z45 =>
        (pF 0 6 Z h35 o (.int z45)).bind fun h47 =>
        (nw Z h47 (.inr (15, [])) 6).bind fun h48 =>
        if isC 15 h48 h47.2.1 = true then
        (pF 0 5 Z h48 o (.int 0)).bind fun h52 =>
        if isC 15 h52 h47.2.1 = true then
        some (.inr ("java/lang/IllegalArgumentException", h47.2.1), h52)
        else none
        else none
      else
        if y34.1 = "MazeBonds$RefusedException" then
          if isC 0 h35 o = true then
          (t_X1_keep Z h35 o y34.2).bind fun r58 =>
          if isC 13 r58.2 r58.1 = true then
          (pF 0 5 Z r58.2 o (.int 0)).bind fun h62 =>
          if isC 13 h62 r58.1 = true then
          some (.inr ("java/lang/UnsupportedOperationException", r58.1), h62)
          else none
          else none
          else none
        else
          none
    )
    else none
    else none
  | (.inr y12, h13) =>
    if y12.1 = "MazeBonds$FaultException" then
      (gI 7 6 h13 y12.2).bind fun z66 =>
      (pF 0 6 Z h13 o (.int z66)).bind fun h68 =>
      (nw Z h68 (.inr (15, [])) 6).bind fun h69 =>
      if isC 15 h69 h68.2.1 = true then
      (pF 0 5 Z h69 o (.int 0)).bind fun h73 =>
      if isC 15 h73 h68.2.1 = true then
      some (.inr ("java/lang/IllegalArgumentException", h68.2.1), h73)
      else none
      else none
    else
      none
  )
  else none
theorem k_X1_commands {G : aG} {h : aH} {o : Nat} {e : ((Int32 ⊕ aXX) × aH)} (hT : t_X1_commands (gZ G) h o = some e) : aMet G yX1_commands (wsW_ yX1_commands cX1_commands 4 (Option.some Jvm.ClassFile.FieldType.int) [((0 : Nat), (44 : Nat), (51 : Nat), (283 : Nat)), ((0 : Nat), (44 : Nat), (68 : Nat), (25 : Nat)), ((0 : Nat), (44 : Nat), (75 : Nat), (0 : Nat)), ((51 : Nat), (76 : Nat), (75 : Nat), (0 : Nat))]) 12 294 [.ref o] h (aXI e.1 e.2) := by
  refine aMet.ofH (lv := [some (.ref o), none, none, none]) (by decide) (Nat.le_of_ble_eq_true rfl) 3 rfl ?_
  have he : aTo (aXI e.1 e.2) (aXI e.1 e.2) := aTo.rf
  unfold t_X1_commands at hT
  obtain ⟨h1, e2, hT⟩ := obnd hT
  refine a_new fn_X1_274 e2 dX1_commands_0 ?_
  refine a_dup dX1_commands_3 rfl ?_
  refine a_aload_n dX1_commands_4 rfl ?_
  obtain ⟨r5, e6, hT⟩ := obnd hT
  refine a_callI ki_X1_276 (k_X8_init e6) ⟨Nat.le_of_ble_eq_true rfl, Nat.le_of_ble_eq_true rfl⟩ (As := [.ref o]) (rest := [.ref h.2.1]) rfl rfl (Nat.le_of_ble_eq_true rfl) dX1_commands_5 (kV ?_) xV
  refine a_null dX1_commands_8 ?_
  obtain ⟨g9, hT⟩ := oifg hT
  obtain ⟨⟨y12 | y12, h13⟩, e11, hT⟩ := obnd hT
  · dsimp only at hT
    refine a_callV kv_X1_279 g9 (k_X8_commands_n e11) ⟨Nat.le_of_ble_eq_true rfl, Nat.le_of_ble_eq_true rfl⟩ (As := [.null]) (rest := []) rfl rfl (Nat.le_of_ble_eq_true rfl) dX1_commands_9 (kXI ?_) yXI
    refine a_pop dX1_commands_12 rfl ?_
    refine a_aload_n dX1_commands_13 rfl ?_
    refine a_iconst (v := (-1)) dX1_commands_14 (by decide) ?_
    obtain ⟨h15, e14, hT⟩ := obnd hT
    refine a_put (fp_X1_64_0 _) ⟨rfl, rfl⟩ e14 dX1_commands_15 ?_
    refine a_aload_n dX1_commands_18 rfl ?_
    obtain ⟨a17, e16, hT⟩ := obnd hT
    refine a_gA fl_X1_49_0 e16 dX1_commands_19 ?_
    obtain ⟨g20, hT⟩ := oifg hT
    obtain ⟨r21, e22, hT⟩ := obnd hT
    refine a_callV kv_X1_94 g20 (k_X2_copy e22) ⟨Nat.le_of_ble_eq_true rfl, Nat.le_of_ble_eq_true rfl⟩ (As := []) (rest := []) rfl rfl (Nat.le_of_ble_eq_true rfl) dX1_commands_22 (kA ?_) xA
    refine a_astore_n (lv' := [some (.ref o), some (.ref r21.1), none, none]) dX1_commands_25 rfl (by decide) rfl ?_
    refine a_aload_n dX1_commands_26 rfl ?_
    refine a_aload_n dX1_commands_27 rfl ?_
    obtain ⟨h23, e24, hT⟩ := obnd hT
    refine a_new fn_X1_274 e24 dX1_commands_28 ?_
    refine a_dup dX1_commands_31 rfl ?_
    refine a_aload_n dX1_commands_32 rfl ?_
    obtain ⟨r27, e28, hT⟩ := obnd hT
    refine a_callI ki_X1_276 (k_X8_init e28) ⟨Nat.le_of_ble_eq_true rfl, Nat.le_of_ble_eq_true rfl⟩ (As := [.ref o]) (rest := [.ref r21.2.2.1, .ref r21.1, .ref o]) rfl rfl (Nat.le_of_ble_eq_true rfl) dX1_commands_33 (kV ?_) xV
    refine a_aload_n dX1_commands_36 rfl ?_
    obtain ⟨g31, hT⟩ := oifg hT
    obtain ⟨⟨y34 | y34, h35⟩, e33, hT⟩ := obnd hT
    · dsimp only at hT
      refine a_callV kv_X1_279 g31 (k_X8_commands e33) ⟨Nat.le_of_ble_eq_true rfl, Nat.le_of_ble_eq_true rfl⟩ (As := [.ref r21.1]) (rest := [.ref r21.1, .ref o]) rfl rfl (Nat.le_of_ble_eq_true rfl) dX1_commands_37 (kXI ?_) yXI
      obtain ⟨g38, hT⟩ := oifg hT
      obtain ⟨r39, e40, hT⟩ := obnd hT
      refine a_callV kv_X1_102 g38 (k_X1_come e40) ⟨Nat.le_of_ble_eq_true rfl, Nat.le_of_ble_eq_true rfl⟩ (As := [.ref r21.1, .int y34]) (rest := []) rfl rfl (Nat.le_of_ble_eq_true rfl) dX1_commands_40 (kI ?_) xI
      refine a_istore_n (lv' := [some (.ref o), some (.ref r21.1), some (.int r39.1), none]) dX1_commands_43 rfl (by decide) rfl ?_
      refine a_aload_n dX1_commands_44 rfl ?_
      refine a_iconst (v := 0) dX1_commands_45 (by decide) ?_
      obtain ⟨h42, e41, hT⟩ := obnd hT
      refine a_put (fp_X1_268_0 _) ⟨rfl, rfl⟩ e41 dX1_commands_46 ?_
      refine a_iload_n dX1_commands_49 rfl ?_
      obtain rfl := Option.some.inj hT
      exact a_iret rfl rfl dX1_commands_50 (he _ _ ⟨rfl, rfl⟩)
    · dsimp only at hT
      refine a_callV kv_X1_279 g31 (k_X8_commands e33) ⟨Nat.le_of_ble_eq_true rfl, Nat.le_of_ble_eq_true rfl⟩ (As := [.ref r21.1]) (rest := [.ref r21.1, .ref o]) rfl rfl (Nat.le_of_ble_eq_true rfl) dX1_commands_37 rXI (zXI ?_)
      by_cases c43 : y34.1 = "MazeBonds$FaultException"
      · have hT := oifp c43 hT
        rw [c43]
        refine a_catchI 0 rfl aNil (by decide) (by decide) q1154 q1278 ?_
        refine a_astore_n (lv' := [some (.ref o), some (.ref y34.2), none, none]) dX1_commands_51 rfl (by decide) rfl ?_
        refine a_aload_n dX1_commands_52 rfl ?_
        refine a_aload_n dX1_commands_53 rfl ?_
        obtain ⟨z45, e44, hT⟩ := obnd hT
        refine a_gI fl_X1_285_7 e44 dX1_commands_54 ?_
        obtain ⟨h47, e46, hT⟩ := obnd hT
        refine a_put (fp_X1_64_0 _) ⟨rfl, rfl⟩ e46 dX1_commands_57 ?_
        obtain ⟨h48, e49, hT⟩ := obnd hT
        refine a_make0 mk_X1_13 e49 dX1_commands_60 dX1_commands_63 dX1_commands_64 (by decide) (by decide) ?_
        obtain ⟨g50, hT⟩ := oifg hT
        refine a_athrow (ci := 15) (fs := []) rfl g50 dX1_commands_67 ?_
        refine a_catch0 3 rfl (aCons (Or.inl rfl) (aCons (Or.inl rfl) (aCons (Or.inl rfl) aNil))) (by decide) rfl ?_
        refine a_astore_n (lv' := [some (.ref o), some (.ref y34.2), none, some (.ref h47.2.1)]) dX1_commands_75 rfl (by decide) rfl ?_
        refine a_aload_n dX1_commands_76 rfl ?_
        refine a_iconst (v := 0) dX1_commands_77 (by decide) ?_
        obtain ⟨h52, e51, hT⟩ := obnd hT
        refine a_put (fp_X1_268_0 _) ⟨rfl, rfl⟩ e51 dX1_commands_78 ?_
        refine a_aload_n dX1_commands_81 rfl ?_
        obtain ⟨g53, hT⟩ := oifg hT
        refine a_athrow (ci := 15) (fs := []) rfl g53 dX1_commands_82 ?_
        obtain rfl := Option.some.inj hT
        exact a_out (by decide) (he _ _ ⟨rfl, rfl⟩)
      · have hT := oifn c43 hT
        by_cases c54 : y34.1 = "MazeBonds$RefusedException"
        · have hT := oifp c54 hT
          rw [c54]
          refine a_catchI 1 rfl (aCons (Or.inr ⟨by decide, _, q1154, fun s hK => hK.2.2.2.2.1 _ (List.mem_of_getElem? (i := 4) rfl)⟩) aNil) (by decide) (by decide) q624 q643 ?_
          refine a_astore_n (lv' := [some (.ref o), some (.ref y34.2), none, none]) dX1_commands_68 rfl (by decide) rfl ?_
          refine a_aload_n dX1_commands_69 rfl ?_
          refine a_aload_n dX1_commands_70 rfl ?_
          obtain ⟨g57, hT⟩ := oifg hT
          obtain ⟨r58, e59, hT⟩ := obnd hT
          refine a_callV kv_X1_106 g57 (k_X1_keep e59) ⟨Nat.le_of_ble_eq_true rfl, Nat.le_of_ble_eq_true rfl⟩ (As := [.ref y34.2]) (rest := []) rfl rfl (Nat.le_of_ble_eq_true rfl) dX1_commands_71 (kA ?_) xA
          obtain ⟨g60, hT⟩ := oifg hT
          refine a_athrow (ci := 13) (fs := []) rfl g60 dX1_commands_74 ?_
          refine a_catch0 3 rfl (aCons (Or.inl rfl) (aCons (Or.inl rfl) (aCons (Or.inl rfl) aNil))) (by decide) rfl ?_
          refine a_astore_n (lv' := [some (.ref o), some (.ref y34.2), none, some (.ref r58.1)]) dX1_commands_75 rfl (by decide) rfl ?_
          refine a_aload_n dX1_commands_76 rfl ?_
          refine a_iconst (v := 0) dX1_commands_77 (by decide) ?_
          obtain ⟨h62, e61, hT⟩ := obnd hT
          refine a_put (fp_X1_268_0 _) ⟨rfl, rfl⟩ e61 dX1_commands_78 ?_
          refine a_aload_n dX1_commands_81 rfl ?_
          obtain ⟨g63, hT⟩ := oifg hT
          refine a_athrow (ci := 13) (fs := []) rfl g63 dX1_commands_82 ?_
          obtain rfl := Option.some.inj hT
          exact a_out (by decide) (he _ _ ⟨rfl, rfl⟩)
        · have hT := oifn c54 hT
          cases hT
  · dsimp only at hT
    refine a_callV kv_X1_279 g9 (k_X8_commands_n e11) ⟨Nat.le_of_ble_eq_true rfl, Nat.le_of_ble_eq_true rfl⟩ (As := [.null]) (rest := []) rfl rfl (Nat.le_of_ble_eq_true rfl) dX1_commands_9 rXI (zXI ?_)
    by_cases c64 : y12.1 = "MazeBonds$FaultException"
    · have hT := oifp c64 hT
      rw [c64]
      refine a_catchI 0 rfl aNil (by decide) (by decide) q1154 q1278 ?_
      refine a_astore_n (lv' := [some (.ref o), some (.ref y12.2), none, none]) dX1_commands_51 rfl (by decide) rfl ?_
      refine a_aload_n dX1_commands_52 rfl ?_
      refine a_aload_n dX1_commands_53 rfl ?_
      obtain ⟨z66, e65, hT⟩ := obnd hT
      refine a_gI fl_X1_285_7 e65 dX1_commands_54 ?_
      obtain ⟨h68, e67, hT⟩ := obnd hT
      refine a_put (fp_X1_64_0 _) ⟨rfl, rfl⟩ e67 dX1_commands_57 ?_
      obtain ⟨h69, e70, hT⟩ := obnd hT
      refine a_make0 mk_X1_13 e70 dX1_commands_60 dX1_commands_63 dX1_commands_64 (by decide) (by decide) ?_
      obtain ⟨g71, hT⟩ := oifg hT
      refine a_athrow (ci := 15) (fs := []) rfl g71 dX1_commands_67 ?_
      refine a_catch0 3 rfl (aCons (Or.inl rfl) (aCons (Or.inl rfl) (aCons (Or.inl rfl) aNil))) (by decide) rfl ?_
      refine a_astore_n (lv' := [some (.ref o), some (.ref y12.2), none, some (.ref h68.2.1)]) dX1_commands_75 rfl (by decide) rfl ?_
      refine a_aload_n dX1_commands_76 rfl ?_
      refine a_iconst (v := 0) dX1_commands_77 (by decide) ?_
      obtain ⟨h73, e72, hT⟩ := obnd hT
      refine a_put (fp_X1_268_0 _) ⟨rfl, rfl⟩ e72 dX1_commands_78 ?_
      refine a_aload_n dX1_commands_81 rfl ?_
      obtain ⟨g74, hT⟩ := oifg hT
      refine a_athrow (ci := 15) (fs := []) rfl g74 dX1_commands_82 ?_
      obtain rfl := Option.some.inj hT
      exact a_out (by decide) (he _ _ ⟨rfl, rfl⟩)
    · have hT := oifn c64 hT
      cases hT
theorem kv_X0_99 : aKVW "MazeBondsLaw" 99 0 yX1_commands cX1_commands 4 (Option.some Jvm.ClassFile.FieldType.int) [((0 : Nat), (44 : Nat), (51 : Nat), (283 : Nat)), ((0 : Nat), (44 : Nat), (68 : Nat), (25 : Nat)), ((0 : Nat), (44 : Nat), (75 : Nat), (0 : Nat)), ((51 : Nat), (76 : Nat), (75 : Nat), (0 : Nat))] 0 := ⟨⟨TX1, 8, rfl⟩, q1150, q1151, q1152, q72, q1153, ⟨by decide +kernel, by decide +kernel, by decide +kernel⟩⟩
abbrev M_X0_commands : aM := (yX0_commands.cls, cX0_commands, 3, (Option.some Jvm.ClassFile.FieldType.int), [((0 : Nat), (8 : Nat), (11 : Nat), (76 : Nat)), ((0 : Nat), (8 : Nat), (14 : Nat), (13 : Nat))], yX0_commands.name)
def t_X0_commands (Z : aZ) (h : aH) (x0 : Nat) (x1 : Nat) : Option (Int32 × aH) :=
  if isC 0 h x0 = true then
  (t_X1_commands Z h x0).bind fun r4 =>
  (match r4 with
  | (.inl y6, h7) =>
    (stJ Z h7 x1 0 ((y6 : Int32).toInt64)).bind fun h9 =>
    some (0, h9)
  | (.inr y6, h7) =>
    if y6.1 = "java/lang/IllegalArgumentException" then
      some (1, h7)
    else
      if y6.1 = "java/lang/UnsupportedOperationException" then
        some (2, h7)
      else
        none
  )
  else none
theorem k_X0_commands {G : aG} {h : aH} {x0 : Nat} {x1 : Nat} {e : (Int32 × aH)} (hT : t_X0_commands (gZ G) h x0 x1 = some e) : aMet G yX0_commands (wsW_ yX0_commands cX0_commands 3 (Option.some Jvm.ClassFile.FieldType.int) [((0 : Nat), (8 : Nat), (11 : Nat), (76 : Nat)), ((0 : Nat), (8 : Nat), (14 : Nat), (13 : Nat))]) 13 317 [.ref x0, .ref x1] h (aEI e.1 e.2) := by
  refine aMet.ofH (lv := [some (.ref x0), some (.ref x1), none]) (by decide) (Nat.le_of_ble_eq_true rfl) 1 rfl ?_
  have he : aTo (aEI e.1 e.2) (aEI e.1 e.2) := aTo.rf
  unfold t_X0_commands at hT
  refine a_aload_n dX0_commands_0 rfl ?_
  refine a_iconst (v := 0) dX0_commands_1 (by decide) ?_
  refine a_aload_n dX0_commands_2 rfl ?_
  obtain ⟨g3, hT⟩ := oifg hT
  obtain ⟨⟨y6 | y6, h7⟩, e5, hT⟩ := obnd hT
  · dsimp only at hT
    refine a_callVW kv_X0_99 g3 (k_X1_commands e5) ⟨Nat.le_of_ble_eq_true rfl, Nat.le_of_ble_eq_true rfl⟩ (As := []) (rest := [.int 0, .ref x1]) rfl rfl (Nat.le_of_ble_eq_true rfl) dX0_commands_3 (kXI ?_) yXI
    refine a_i2l dX0_commands_6 ?_
    obtain ⟨h9, e8, hT⟩ := obnd hT
    refine a_stJ e8 dX0_commands_7 ?_
    refine a_goto 17 dX0_commands_8 rfl ?_
    refine a_iconst (v := 0) dX0_commands_17 (by decide) ?_
    obtain rfl := Option.some.inj hT
    exact a_iret rfl rfl dX0_commands_18 (he _ _ ⟨rfl, rfl⟩)
  · dsimp only at hT
    refine a_callVW kv_X0_99 g3 (k_X1_commands e5) ⟨Nat.le_of_ble_eq_true rfl, Nat.le_of_ble_eq_true rfl⟩ (As := []) (rest := [.int 0, .ref x1]) rfl rfl (Nat.le_of_ble_eq_true rfl) dX0_commands_3 rXI (zXI ?_)
    by_cases c10 : y6.1 = "java/lang/IllegalArgumentException"
    · have hT := oifp c10 hT
      rw [c10]
      refine a_catchI 0 rfl aNil (by decide) (by decide) q1026 q1043 ?_
      refine a_astore_n (lv' := [some (.ref x0), some (.ref x1), some (.ref y6.2)]) dX0_commands_11 rfl (by decide) rfl ?_
      refine a_iconst (v := 1) dX0_commands_12 (by decide) ?_
      obtain rfl := Option.some.inj hT
      exact a_iret rfl rfl dX0_commands_13 (he _ _ ⟨rfl, rfl⟩)
    · have hT := oifn c10 hT
      by_cases c11 : y6.1 = "java/lang/UnsupportedOperationException"
      · have hT := oifp c11 hT
        rw [c11]
        refine a_catchI 1 rfl (aCons (Or.inr ⟨by decide, _, q1026, fun s hK => hK.2.2.2.2.1 _ (List.mem_of_getElem? (i := 3) rfl)⟩) aNil) (by decide) (by decide) q619 q690 ?_
        refine a_astore_n (lv' := [some (.ref x0), some (.ref x1), some (.ref y6.2)]) dX0_commands_14 rfl (by decide) rfl ?_
        refine a_iconst (v := 2) dX0_commands_15 (by decide) ?_
        obtain rfl := Option.some.inj hT
        exact a_iret rfl rfl dX0_commands_16 (he _ _ ⟨rfl, rfl⟩)
      · have hT := oifn c11 hT
        cases hT
