/-! decompiled (written by gen/comp.py) -/
set_option maxRecDepth 100000
abbrev M_J5_indexOf : aM := (yJ5_indexOf.cls, cJ5_indexOf, 2, (Option.some Jvm.ClassFile.FieldType.int), [], yJ5_indexOf.name)
def t_J5_indexOf (Z : aZ) (h : aH) (o : Nat) (x0 : Int32) : Option (Int32 × aH) :=
  (oldV Z o).bind fun b4 =>
  (t_J5_indexOf_2 Z h o x0 0).bind fun r5 =>
  some (r5.1, r5.2)
theorem k_J5_indexOf {G : aG} {h : aH} {o : Nat} {x0 : Int32} {e : (Int32 × aH)} (hT : t_J5_indexOf (gZ G) h o x0 = some e) : aMet G yJ5_indexOf (ws_ yJ5_indexOf cJ5_indexOf 2 (Option.some Jvm.ClassFile.FieldType.int)) 4 85 [.ref o, .int x0] h (aEI e.1 e.2) := by
  refine aMet.of (lv := [some (.ref o), some (.int x0)]) (by decide) (Nat.le_of_ble_eq_true rfl) 0 rfl ?_
  have he : aTo (aEI e.1 e.2) (aEI e.1 e.2) := aTo.rf
  unfold t_J5_indexOf at hT
  refine a_aload_n dJ5_indexOf_0 rfl ?_
  refine a_iload_n dJ5_indexOf_1 rfl ?_
  refine a_iconst (v := 0) dJ5_indexOf_2 (by decide) ?_
  obtain ⟨b4, g3, hT⟩ := obnd hT
  obtain ⟨r5, e6, hT⟩ := obnd hT
  refine a_callVO kv_J5_633 g3 (k_J5_indexOf_2 e6) ⟨Nat.le_of_ble_eq_true rfl, Nat.le_of_ble_eq_true rfl⟩ (As := [.int x0, .int 0]) (rest := []) rfl rfl (Nat.le_of_ble_eq_true rfl) dJ5_indexOf_3 (kI ?_) xI
  obtain rfl := Option.some.inj hT
  exact a_iret rfl rfl dJ5_indexOf_6 (he _ _ ⟨rfl, rfl⟩)
abbrev M_J5_getBytes : aM := (yJ5_getBytes.cls, cJ5_getBytes, 4, (Option.none : Option Jvm.ClassFile.FieldType), [], yJ5_getBytes.name)
def t_J5_getBytes (Z : aZ) (h : aH) (o : Nat) (x0 : Nat) (x1 : Int32) (x2 : Int32) : Option (Unit × aH) :=
  (oldV Z o).bind fun b4 =>
  (t_J5_coder Z h o).bind fun r5 =>
  if r5.1 = x2 then
    (oldV Z o).bind fun b17 =>
    (oldV Z o).bind fun b19 =>
    (oldLen Z b19).bind fun z20 =>
    (cpB Z r5.2 b17 0 x0 (x1 <<< (x2 &&& 31)) z20).bind fun h22 =>
    some ((), h22)
  else
    (oldV Z o).bind fun b9 =>
    (oldV Z o).bind fun b11 =>
    (oldLen Z b11).bind fun z12 =>
    none
theorem k_J5_getBytes {G : aG} {h : aH} {o : Nat} {x0 : Nat} {x1 : Int32} {x2 : Int32} {e : (Unit × aH)} (hT : t_J5_getBytes (gZ G) h o x0 x1 x2 = some e) : aMet G yJ5_getBytes (ws_ yJ5_getBytes cJ5_getBytes 4 (Option.none : Option Jvm.ClassFile.FieldType)) 2 60 [.ref o, .ref x0, .int x1, .int x2] h (aEV e.1 e.2) := by
  refine aMet.of (lv := [some (.ref o), some (.ref x0), some (.int x1), some (.int x2)]) (by decide) (Nat.le_of_ble_eq_true rfl) 0 rfl ?_
  have he : aTo (aEV e.1 e.2) (aEV e.1 e.2) := aTo.rf
  unfold t_J5_getBytes at hT
  refine a_aload_n dJ5_getBytes_0 rfl ?_
  obtain ⟨b4, g3, hT⟩ := obnd hT
  obtain ⟨r5, e6, hT⟩ := obnd hT
  refine a_callVO kv_J5_335 g3 (k_J5_coder e6) ⟨Nat.le_of_ble_eq_true rfl, Nat.le_of_ble_eq_true rfl⟩ (As := []) (rest := []) rfl rfl (Nat.le_of_ble_eq_true rfl) dJ5_getBytes_1 (kI ?_) xI
  refine a_iload_n dJ5_getBytes_4 rfl ?_
  refine a_icmp_ne 28 dJ5_getBytes_5 rfl (fun c7 => ?_) (fun c7 => ?_)
  · have hT := oifn c7 hT
    refine a_aload_n dJ5_getBytes_28 rfl ?_
    obtain ⟨b9, e8, hT⟩ := obnd hT
    refine a_oldV e8 q1516 dJ5_getBytes_29 ?_
    refine a_iconst (v := 0) dJ5_getBytes_32 (by decide) ?_
    refine a_aload_n dJ5_getBytes_33 rfl ?_
    refine a_iload_n dJ5_getBytes_34 rfl ?_
    refine a_aload_n dJ5_getBytes_35 rfl ?_
    obtain ⟨b11, e10, hT⟩ := obnd hT
    refine a_oldV e10 q1516 dJ5_getBytes_36 ?_
    obtain ⟨z12, e13, hT⟩ := obnd hT
    refine a_oldLen e13 dJ5_getBytes_39 ?_
    cases hT
  · have hT := oifp c7 hT
    refine a_aload_n dJ5_getBytes_8 rfl ?_
    obtain ⟨b17, e16, hT⟩ := obnd hT
    refine a_oldV e16 q1516 dJ5_getBytes_9 ?_
    refine a_iconst (v := 0) dJ5_getBytes_12 (by decide) ?_
    refine a_aload_n dJ5_getBytes_13 rfl ?_
    refine a_iload_n dJ5_getBytes_14 rfl ?_
    refine a_iload_n dJ5_getBytes_15 rfl ?_
    refine a_ishl dJ5_getBytes_16 ?_
    refine a_aload_n dJ5_getBytes_17 rfl ?_
    obtain ⟨b19, e18, hT⟩ := obnd hT
    refine a_oldV e18 q1516 dJ5_getBytes_18 ?_
    obtain ⟨z20, e21, hT⟩ := obnd hT
    refine a_oldLen e21 dJ5_getBytes_21 ?_
    obtain ⟨h22, e23, hT⟩ := obnd hT
    refine a_copyB q1433 q485 q484 q92 e23 (by decide) (by decide +kernel) dJ5_getBytes_22 ?_
    refine a_goto 43 dJ5_getBytes_25 rfl ?_
    obtain rfl := Option.some.inj hT
    exact a_vret rfl dJ5_getBytes_43 (he _ _ ⟨rfl, rfl⟩)
theorem fl_J3_22_10 : aFL "java/lang/AbstractStringBuilder" 22 10 1 := ⟨RJ4, TJ4, 4, "java/lang/AbstractStringBuilder", rfl, in_J4, by decide, Or.inl rfl, Or.inl q207⟩
abbrev M_J3_isLatin1 : aM := (yJ3_isLatin1.cls, cJ3_isLatin1, 1, (Option.some Jvm.ClassFile.FieldType.boolean), [], yJ3_isLatin1.name)
def t_J3_isLatin1 (Z : aZ) (h : aH) (o : Nat) : Option (Int32 × aH) :=
  if (1 : Int32) = 0 then
    some (0, h)
  else
    (gI 10 1 h o).bind fun z3 =>
    if z3 = 0 then
      some (1, h)
    else
      some (0, h)
theorem k_J3_isLatin1 {G : aG} {h : aH} {o : Nat} {e : (Int32 × aH)} (hT : t_J3_isLatin1 (gZ G) h o = some e) : aMet G yJ3_isLatin1 (ws_ yJ3_isLatin1 cJ3_isLatin1 1 (Option.some Jvm.ClassFile.FieldType.boolean)) 1 1 [.ref o] h (aEI e.1 e.2) := by
  refine aMet.of (lv := [some (.ref o)]) (by decide) (Nat.le_of_ble_eq_true rfl) 0 rfl ?_
  have he : aTo (aEI e.1 e.2) (aEI e.1 e.2) := aTo.rf
  unfold t_J3_isLatin1 at hT
  refine a_gets (k := 1) rfl q197 dJ3_isLatin1_0 ?_
  refine a_if_eq 17 dJ3_isLatin1_3 rfl (fun c1 => ?_) (fun c1 => ?_)
  · have hT := oifp c1 hT
    refine a_iconst (v := 0) dJ3_isLatin1_17 (by decide) ?_
    obtain rfl := Option.some.inj hT
    exact a_iret rfl (by decide) dJ3_isLatin1_18 (he _ _ ⟨rfl, rfl⟩)
  · have hT := oifn c1 hT
    refine a_aload_n dJ3_isLatin1_6 rfl ?_
    obtain ⟨z3, e2, hT⟩ := obnd hT
    refine a_gI fl_J3_22_10 e2 dJ3_isLatin1_7 ?_
    refine a_if_ne 17 dJ3_isLatin1_10 rfl (fun c4 => ?_) (fun c4 => ?_)
    · have hT := oifn c4 hT
      refine a_iconst (v := 0) dJ3_isLatin1_17 (by decide) ?_
      obtain rfl := Option.some.inj hT
      exact a_iret rfl (by decide) dJ3_isLatin1_18 (he _ _ ⟨rfl, rfl⟩)
    · have hT := oifp c4 hT
      refine a_iconst (v := 1) dJ3_isLatin1_13 (by decide) ?_
      refine a_goto 18 dJ3_isLatin1_14 rfl ?_
      obtain rfl := Option.some.inj hT
      exact a_iret rfl (by decide) dJ3_isLatin1_18 (he _ _ ⟨rfl, rfl⟩)
theorem fl_J3_15_10 : aFL "java/lang/AbstractStringBuilder" 15 10 0 := ⟨RJ4, TJ4, 4, "java/lang/AbstractStringBuilder", rfl, in_J4, by decide, Or.inl rfl, Or.inl q206⟩
abbrev M_J3_ensureCapacityInternal : aM := (yJ3_ensureCapacityInternal.cls, cJ3_ensureCapacityInternal, 3, (Option.none : Option Jvm.ClassFile.FieldType), [], yJ3_ensureCapacityInternal.name)
def t_J3_ensureCapacityInternal (Z : aZ) (h : aH) (o : Nat) (x0 : Int32) : Option (Unit × aH) :=
  (gA 10 0 h o).bind fun a2 =>
  (alen Z h a2).bind fun z3 =>
  (gI 10 1 h o).bind fun z6 =>
  if (x0 - (z3 >>> (z6 &&& 31))) ≤ 0 then
    some ((), h)
  else
    (gA 10 0 h o).bind fun a9 =>
    none
theorem k_J3_ensureCapacityInternal {G : aG} {h : aH} {o : Nat} {x0 : Int32} {e : (Unit × aH)} (hT : t_J3_ensureCapacityInternal (gZ G) h o x0 = some e) : aMet G yJ3_ensureCapacityInternal (ws_ yJ3_ensureCapacityInternal cJ3_ensureCapacityInternal 3 (Option.none : Option Jvm.ClassFile.FieldType)) 1 1 [.ref o, .int x0] h (aEV e.1 e.2) := by
  refine aMet.of (lv := [some (.ref o), some (.int x0), none]) (by decide) (Nat.le_of_ble_eq_true rfl) 1 rfl ?_
  have he : aTo (aEV e.1 e.2) (aEV e.1 e.2) := aTo.rf
  unfold t_J3_ensureCapacityInternal at hT
  refine a_aload_n dJ3_ensureCapacityInternal_0 rfl ?_
  obtain ⟨a2, e1, hT⟩ := obnd hT
  refine a_gA fl_J3_15_10 e1 dJ3_ensureCapacityInternal_1 ?_
  obtain ⟨z3, e4, hT⟩ := obnd hT
  refine a_alen e4 dJ3_ensureCapacityInternal_4 ?_
  refine a_aload_n dJ3_ensureCapacityInternal_5 rfl ?_
  obtain ⟨z6, e5, hT⟩ := obnd hT
  refine a_gI fl_J3_22_10 e5 dJ3_ensureCapacityInternal_6 ?_
  refine a_ishr dJ3_ensureCapacityInternal_9 ?_
  refine a_istore_n (lv' := [some (.ref o), some (.int x0), some (.int (z3 >>> (z6 &&& 31)))]) dJ3_ensureCapacityInternal_10 rfl (by decide) rfl ?_
  refine a_iload_n dJ3_ensureCapacityInternal_11 rfl ?_
  refine a_iload_n dJ3_ensureCapacityInternal_12 rfl ?_
  refine a_isub dJ3_ensureCapacityInternal_13 ?_
  refine a_if_le 38 dJ3_ensureCapacityInternal_14 rfl (fun c7 => ?_) (fun c7 => ?_)
  · have hT := oifp c7 hT
    obtain rfl := Option.some.inj hT
    exact a_vret rfl dJ3_ensureCapacityInternal_38 (he _ _ ⟨rfl, rfl⟩)
  · have hT := oifn c7 hT
    refine a_aload_n dJ3_ensureCapacityInternal_17 rfl ?_
    refine a_aload_n dJ3_ensureCapacityInternal_18 rfl ?_
    obtain ⟨a9, e8, hT⟩ := obnd hT
    refine a_gA fl_J3_15_10 e8 dJ3_ensureCapacityInternal_19 ?_
    refine a_aload_n dJ3_ensureCapacityInternal_22 rfl ?_
    refine a_iload_n dJ3_ensureCapacityInternal_23 rfl ?_
    cases hT
theorem fl_J3_79_10 : aFL "java/lang/AbstractStringBuilder" 79 10 3 := ⟨RJ4, TJ4, 4, "java/lang/AbstractStringBuilder", rfl, in_J4, by decide, Or.inl rfl, Or.inl q210⟩
abbrev M_J3_length : aM := (yJ3_length.cls, cJ3_length, 1, (Option.some Jvm.ClassFile.FieldType.int), [], yJ3_length.name)
def t_J3_length (Z : aZ) (h : aH) (o : Nat) : Option (Int32 × aH) :=
  (gI 10 3 h o).bind fun z2 =>
  some (z2, h)
theorem k_J3_length {G : aG} {h : aH} {o : Nat} {e : (Int32 × aH)} (hT : t_J3_length (gZ G) h o = some e) : aMet G yJ3_length (ws_ yJ3_length cJ3_length 1 (Option.some Jvm.ClassFile.FieldType.int)) 1 1 [.ref o] h (aEI e.1 e.2) := by
  refine aMet.of (lv := [some (.ref o)]) (by decide) (Nat.le_of_ble_eq_true rfl) 0 rfl ?_
  have he : aTo (aEI e.1 e.2) (aEI e.1 e.2) := aTo.rf
  unfold t_J3_length at hT
  refine a_aload_n dJ3_length_0 rfl ?_
  obtain ⟨z2, e1, hT⟩ := obnd hT
  refine a_gI fl_J3_79_10 e1 dJ3_length_1 ?_
  obtain rfl := Option.some.inj hT
  exact a_iret rfl rfl dJ3_length_4 (he _ _ ⟨rfl, rfl⟩)
theorem ks_J3_144 : aKS "java/lang/AbstractStringBuilder" 144 yJ5_checkIndex cJ5_checkIndex 2 (Option.none : Option Jvm.ClassFile.FieldType) 2 := ⟨Or.inl q1609, q1577, q79, q1578, ⟨by decide +kernel, by decide +kernel, by decide +kernel⟩⟩
abbrev M_J3_charAt : aM := (yJ3_charAt.cls, cJ3_charAt, 5, (Option.some Jvm.ClassFile.FieldType.char), [], yJ3_charAt.name)
def t_J3_charAt (Z : aZ) (h : aH) (o : Nat) (x0 : Int32) : Option (Int32 × aH) :=
  (gI 10 1 h o).bind fun z2 =>
  (gA 10 0 h o).bind fun a4 =>
  (gI 10 3 h o).bind fun z6 =>
  (alen Z h a4).bind fun z7 =>
  (t_J5_checkIndex Z h x0 (jmin z6 (z7 >>> (z2 &&& 31)))).bind fun r11 =>
  if z2 = 0 then
    (ldB Z r11.2 a4 x0).bind fun z17 =>
    if 0 ≤ ((((z17 &&& 255) : Int32).toUInt32 % 65536).toInt32) ∧ ((((z17 &&& 255) : Int32).toUInt32 % 65536).toInt32) ≤ 65535 then some (((((z17 &&& 255) : Int32).toUInt32 % 65536).toInt32), r11.2) else none
  else
    none
theorem k_J3_charAt {G : aG} {h : aH} {o : Nat} {x0 : Int32} {e : (Int32 × aH)} (hT : t_J3_charAt (gZ G) h o x0 = some e) : aMet G yJ3_charAt (ws_ yJ3_charAt cJ3_charAt 5 (Option.some Jvm.ClassFile.FieldType.char)) 3 44 [.ref o, .int x0] h (aEI e.1 e.2) := by
  refine aMet.of (lv := [some (.ref o), some (.int x0), none, none, none]) (by decide) (Nat.le_of_ble_eq_true rfl) 3 rfl ?_
  have he : aTo (aEI e.1 e.2) (aEI e.1 e.2) := aTo.rf
  unfold t_J3_charAt at hT
  refine a_aload_n dJ3_charAt_0 rfl ?_
  obtain ⟨z2, e1, hT⟩ := obnd hT
  refine a_gI fl_J3_22_10 e1 dJ3_charAt_1 ?_
  refine a_istore_n (lv' := [some (.ref o), some (.int x0), some (.int z2), none, none]) dJ3_charAt_4 rfl (by decide) rfl ?_
  refine a_aload_n dJ3_charAt_5 rfl ?_
  obtain ⟨a4, e3, hT⟩ := obnd hT
  refine a_gA fl_J3_15_10 e3 dJ3_charAt_6 ?_
  refine a_astore_n (lv' := [some (.ref o), some (.int x0), some (.int z2), some (.ref a4), none]) dJ3_charAt_9 rfl (by decide) rfl ?_
  refine a_aload_n dJ3_charAt_10 rfl ?_
  obtain ⟨z6, e5, hT⟩ := obnd hT
  refine a_gI fl_J3_79_10 e5 dJ3_charAt_11 ?_
  refine a_aload_n dJ3_charAt_14 rfl ?_
  obtain ⟨z7, e8, hT⟩ := obnd hT
  refine a_alen e8 dJ3_charAt_15 ?_
  refine a_iload_n dJ3_charAt_16 rfl ?_
  refine a_ishr dJ3_charAt_17 ?_
  refine a_mmin q1608 q481 q90 q482 (by decide) (Nat.le_of_ble_eq_true rfl) dJ3_charAt_18 ?_
  refine a_istore (lv' := [some (.ref o), some (.int x0), some (.int z2), some (.ref a4), some (.int (jmin z6 (z7 >>> (z2 &&& 31))))]) dJ3_charAt_21 rfl (by decide) rfl ?_
  refine a_iload_n dJ3_charAt_23 rfl ?_
  refine a_iload dJ3_charAt_24 rfl ?_
  obtain ⟨r11, e12, hT⟩ := obnd hT
  refine a_callS ks_J3_144 (k_J5_checkIndex e12) ⟨Nat.le_of_ble_eq_true rfl, Nat.le_of_ble_eq_true rfl⟩ (As := [.int x0, .int (jmin z6 (z7 >>> (z2 &&& 31)))]) (rest := []) rfl rfl (Nat.le_of_ble_eq_true rfl) dJ3_charAt_26 (kV ?_) xV
  refine a_iload_n dJ3_charAt_29 rfl ?_
  refine a_if_ne 42 dJ3_charAt_30 rfl (fun c13 => ?_) (fun c13 => ?_)
  · have hT := oifn c13 hT
    refine a_aload_n dJ3_charAt_42 rfl ?_
    refine a_iload_n dJ3_charAt_43 rfl ?_
    cases hT
  · have hT := oifp c13 hT
    refine a_aload_n dJ3_charAt_33 rfl ?_
    refine a_iload_n dJ3_charAt_34 rfl ?_
    obtain ⟨z17, e16, hT⟩ := obnd hT
    refine a_ldB e16 dJ3_charAt_35 ?_
    refine a_sipush (v := 255) dJ3_charAt_36 (by decide) ?_
    refine a_iand dJ3_charAt_39 ?_
    refine a_i2c dJ3_charAt_40 ?_
    obtain ⟨g9, hT⟩ := oifg hT
    obtain rfl := Option.some.inj hT
    exact a_iret rfl (nC g9) dJ3_charAt_41 (he _ _ ⟨rfl, rfl⟩)
theorem kp_J3_100_10 : aKP "java/lang/AbstractStringBuilder" 100 10 yJ3_ensureCapacityInternal cJ3_ensureCapacityInternal 3 (Option.none : Option Jvm.ClassFile.FieldType) 1 := ⟨⟨RJ4, TJ4, 4, rfl, List.mem_of_getElem? (i := 0) rfl⟩, q1371, q1373, q77, q1374, ⟨by decide +kernel, by decide +kernel, by decide +kernel⟩⟩
theorem ku_J3_83_10 : aKU "java/lang/AbstractStringBuilder" 83 10 ⟨"java/lang/AbstractStringBuilder", "isLatin1", "()Z"⟩ yJ3_isLatin1 cJ3_isLatin1 1 (Option.some Jvm.ClassFile.FieldType.boolean) 0 := ⟨RJ4, TJ4, 4, rfl, rfl, q1389, q1391, q1392, q1390, q77, q1393, ⟨by decide +kernel, by decide +kernel, by decide +kernel⟩⟩
theorem fp_J3_79_10 (nm9 : String) : aFP "java/lang/AbstractStringBuilder" 79 10 3 .int nm9 := ⟨RJ4, TJ4, 4, "java/lang/AbstractStringBuilder", tyJ4, rfl, in_J4, by decide, Or.inl rfl, Or.inl q210, tyJ4_ok, nmJ4, rfl, Or.inl rfl⟩
theorem ks_J3_191 : aKS "java/lang/AbstractStringBuilder" 191 yJ23_canEncode_2 cJ23_canEncode_2 1 (Option.some Jvm.ClassFile.FieldType.boolean) 1 := ⟨Or.inl q1567, q1568, q105, q1569, ⟨by decide +kernel, by decide +kernel, by decide +kernel⟩⟩
abbrev M_J3_append_3 : aM := (yJ3_append_3.cls, cJ3_append_3, 2, (Option.some (Jvm.ClassFile.FieldType.object "java/lang/AbstractStringBuilder")), [], yJ3_append_3.name)
def t_J3_append_3_l56 (Z : aZ) (h : aH) (v0 : Nat) (v1 : Int32) : Option (Nat × aH) :=
  (gA 10 0 h v0).bind fun a21 =>
  (gI 10 3 h v0).bind fun z23 =>
  (pF 10 3 Z h v0 (.int (z23 + 1))).bind fun h25 =>
  none
theorem k_J3_append_3_l56 {G : aG} {h0 : aH} {K : aRes → aH → Prop} {h : aH} {v0 : Nat} {v1 : Int32} {e : (Nat × aH)} (hT : t_J3_append_3_l56 (gZ G) h v0 v1 = some e) (he : (fun e => aTo (aEA e.1 e.2) K) e) : aW G M_J3_append_3 2 23 h0 K h 56 [some (.ref v0), some (.int v1)] [] := by
  unfold t_J3_append_3_l56 at hT
  refine a_aload_n dJ3_append_3_56 rfl ?_
  obtain ⟨a21, e20, hT⟩ := obnd hT
  refine a_gA fl_J3_15_10 e20 dJ3_append_3_57 ?_
  refine a_aload_n dJ3_append_3_60 rfl ?_
  refine a_dup dJ3_append_3_61 rfl ?_
  obtain ⟨z23, e22, hT⟩ := obnd hT
  refine a_gI fl_J3_79_10 e22 dJ3_append_3_62 ?_
  refine a_dup_x1 dJ3_append_3_65 rfl rfl ?_
  refine a_iconst (v := 1) dJ3_append_3_66 (by decide) ?_
  refine a_iadd dJ3_append_3_67 ?_
  obtain ⟨h25, e24, hT⟩ := obnd hT
  refine a_put (fp_J3_79_10 _) ⟨rfl, rfl⟩ e24 dJ3_append_3_68 ?_
  refine a_iload_n dJ3_append_3_71 rfl ?_
  cases hT
def t_J3_append_3_l45 (Z : aZ) (h : aH) (v0 : Nat) (v1 : Int32) : Option (Nat × aH) :=
  if isC 10 h v0 = true then
  (t_J3_isLatin1 Z h v0).bind fun r17 =>
  if r17.1 = 0 then
    t_J3_append_3_l56 Z r17.2 v0 v1
  else
    none
  else none
theorem k_J3_append_3_l45 {G : aG} {h0 : aH} {K : aRes → aH → Prop} {h : aH} {v0 : Nat} {v1 : Int32} {e : (Nat × aH)} (hT : t_J3_append_3_l45 (gZ G) h v0 v1 = some e) (he : (fun e => aTo (aEA e.1 e.2) K) e) : aW G M_J3_append_3 2 23 h0 K h 45 [some (.ref v0), some (.int v1)] [] := by
  unfold t_J3_append_3_l45 at hT
  refine a_aload_n dJ3_append_3_45 rfl ?_
  obtain ⟨g16, hT⟩ := oifg hT
  obtain ⟨r17, e18, hT⟩ := obnd hT
  refine a_callU ku_J3_83_10 g16 (k_J3_isLatin1 e18) ⟨Nat.le_of_ble_eq_true rfl, Nat.le_of_ble_eq_true rfl⟩ (As := []) (rest := []) rfl rfl (Nat.le_of_ble_eq_true rfl) dJ3_append_3_46 (kI ?_) xI
  refine a_if_eq 56 dJ3_append_3_49 rfl (fun c19 => ?_) (fun c19 => ?_)
  · have hT := oifp c19 hT
    exact k_J3_append_3_l56 hT he
  · have hT := oifn c19 hT
    refine a_aload_n dJ3_append_3_52 rfl ?_
    cases hT
def t_J3_append_3 (Z : aZ) (h : aH) (o : Nat) (x0 : Int32) : Option (Nat × aH) :=
  (gI 10 3 h o).bind fun z2 =>
  if isC 10 h o = true then
  (t_J3_ensureCapacityInternal Z h o (z2 + 1)).bind fun r6 =>
  if isC 10 r6.2 o = true then
  (t_J3_isLatin1 Z r6.2 o).bind fun r11 =>
  if r11.1 = 0 then
    t_J3_append_3_l45 Z r11.2 o x0
  else
    (t_J23_canEncode_2 x0).bind fun r32 =>
    if r32 = 0 then
      t_J3_append_3_l45 Z r11.2 o x0
    else
      (gA 10 0 r11.2 o).bind fun a36 =>
      (gI 10 3 r11.2 o).bind fun z38 =>
      (pF 10 3 Z r11.2 o (.int (z38 + 1))).bind fun h40 =>
      (stB Z h40 a36 z38 ((x0 : Int32).toInt8.toInt32)).bind fun h42 =>
      some (o, h42)
  else none
  else none
theorem k_J3_append_3 {G : aG} {h : aH} {o : Nat} {x0 : Int32} {e : (Nat × aH)} (hT : t_J3_append_3 (gZ G) h o x0 = some e) : aMet G yJ3_append_3 (ws_ yJ3_append_3 cJ3_append_3 2 (Option.some (Jvm.ClassFile.FieldType.object "java/lang/AbstractStringBuilder"))) 2 23 [.ref o, .int x0] h (aEA e.1 e.2) := by
  refine aMet.of (lv := [some (.ref o), some (.int x0)]) (by decide) (Nat.le_of_ble_eq_true rfl) 0 rfl ?_
  have he : aTo (aEA e.1 e.2) (aEA e.1 e.2) := aTo.rf
  unfold t_J3_append_3 at hT
  refine a_aload_n dJ3_append_3_0 rfl ?_
  refine a_aload_n dJ3_append_3_1 rfl ?_
  obtain ⟨z2, e1, hT⟩ := obnd hT
  refine a_gI fl_J3_79_10 e1 dJ3_append_3_2 ?_
  refine a_iconst (v := 1) dJ3_append_3_5 (by decide) ?_
  refine a_iadd dJ3_append_3_6 ?_
  obtain ⟨g5, hT⟩ := oifg hT
  obtain ⟨r6, e7, hT⟩ := obnd hT
  refine a_callP kp_J3_100_10 g5 (k_J3_ensureCapacityInternal e7) ⟨Nat.le_of_ble_eq_true rfl, Nat.le_of_ble_eq_true rfl⟩ (As := [.int (z2 + 1)]) (rest := []) rfl rfl (Nat.le_of_ble_eq_true rfl) dJ3_append_3_7 (kV ?_) xV
  refine a_aload_n dJ3_append_3_10 rfl ?_
  obtain ⟨g10, hT⟩ := oifg hT
  obtain ⟨r11, e12, hT⟩ := obnd hT
  refine a_callU ku_J3_83_10 g10 (k_J3_isLatin1 e12) ⟨Nat.le_of_ble_eq_true rfl, Nat.le_of_ble_eq_true rfl⟩ (As := []) (rest := []) rfl rfl (Nat.le_of_ble_eq_true rfl) dJ3_append_3_11 (kI ?_) xI
  refine a_if_eq 45 dJ3_append_3_14 rfl (fun c13 => ?_) (fun c13 => ?_)
  · have hT := oifp c13 hT
    exact k_J3_append_3_l45 hT he
  · have hT := oifn c13 hT
    refine a_iload_n dJ3_append_3_17 rfl ?_
    obtain ⟨r32, e33, hT⟩ := obnd hT
    refine a_callS ks_J3_191 (k_J23_canEncode_2 e33) ⟨Nat.le_of_ble_eq_true rfl, Nat.le_of_ble_eq_true rfl⟩ (As := [.int x0]) (rest := []) rfl rfl (Nat.le_of_ble_eq_true rfl) dJ3_append_3_18 (kI ?_) xI
    refine a_if_eq 45 dJ3_append_3_21 rfl (fun c34 => ?_) (fun c34 => ?_)
    · have hT := oifp c34 hT
      exact k_J3_append_3_l45 hT he
    · have hT := oifn c34 hT
      refine a_aload_n dJ3_append_3_24 rfl ?_
      obtain ⟨a36, e35, hT⟩ := obnd hT
      refine a_gA fl_J3_15_10 e35 dJ3_append_3_25 ?_
      refine a_aload_n dJ3_append_3_28 rfl ?_
      refine a_dup dJ3_append_3_29 rfl ?_
      obtain ⟨z38, e37, hT⟩ := obnd hT
      refine a_gI fl_J3_79_10 e37 dJ3_append_3_30 ?_
      refine a_dup_x1 dJ3_append_3_33 rfl rfl ?_
      refine a_iconst (v := 1) dJ3_append_3_34 (by decide) ?_
      refine a_iadd dJ3_append_3_35 ?_
      obtain ⟨h40, e39, hT⟩ := obnd hT
      refine a_put (fp_J3_79_10 _) ⟨rfl, rfl⟩ e39 dJ3_append_3_36 ?_
      refine a_iload_n dJ3_append_3_39 rfl ?_
      refine a_i2b dJ3_append_3_40 ?_
      obtain ⟨h42, e41, hT⟩ := obnd hT
      refine a_stB e41 dJ3_append_3_41 ?_
      refine a_goto 75 dJ3_append_3_42 rfl ?_
      refine a_aload_n dJ3_append_3_75 rfl ?_
      obtain rfl := Option.some.inj hT
      exact a_aret rfl (Or.inl ⟨_, rfl⟩) dJ3_append_3_76 (he _ _ ⟨rfl, rfl⟩)
theorem ks_J3_245 : aKS "java/lang/AbstractStringBuilder" 245 yJ18_stringSize cJ18_stringSize 4 (Option.some Jvm.ClassFile.FieldType.int) 1 := ⟨Or.inl q1442, q1443, q99, q1444, ⟨by decide +kernel, by decide +kernel, by decide +kernel⟩⟩
theorem ks_J3_248 : aKS "java/lang/AbstractStringBuilder" 248 yJ18_getChars cJ18_getChars 7 (Option.some Jvm.ClassFile.FieldType.int) 3 := ⟨Or.inl q1445, q1446, q99, q1447, ⟨by decide +kernel, by decide +kernel, by decide +kernel⟩⟩
abbrev M_J3_append_2 : aM := (yJ3_append_2.cls, cJ3_append_2, 4, (Option.some (Jvm.ClassFile.FieldType.object "java/lang/AbstractStringBuilder")), [], yJ3_append_2.name)
def t_J3_append_2_l48 (Z : aZ) (h : aH) (v0 : Nat) (v3 : Int32) : Option (Nat × aH) :=
  (pF 10 3 Z h v0 (.int v3)).bind fun h29 =>
  some (v0, h29)
theorem k_J3_append_2_l48 {G : aG} {h0 : aH} {K : aRes → aH → Prop} {h : aH} {v0 : Nat} {v3 : Int32} {e : (Nat × aH)} (hT : t_J3_append_2_l48 (gZ G) h v0 v3 = some e) (he : (fun e => aTo (aEA e.1 e.2) K) e) : aW G M_J3_append_2 2 27 h0 K h 48 [some (.ref v0), none, none, some (.int v3)] [] := by
  unfold t_J3_append_2_l48 at hT
  refine a_aload_n dJ3_append_2_48 rfl ?_
  refine a_iload_n dJ3_append_2_49 rfl ?_
  obtain ⟨h29, e28, hT⟩ := obnd hT
  refine a_put (fp_J3_79_10 _) ⟨rfl, rfl⟩ e28 dJ3_append_2_50 ?_
  refine a_aload_n dJ3_append_2_53 rfl ?_
  obtain rfl := Option.some.inj hT
  exact a_aret rfl (Or.inl ⟨_, rfl⟩) dJ3_append_2_54 (he _ _ ⟨rfl, rfl⟩)
def t_J3_append_2 (Z : aZ) (h : aH) (o : Nat) (x0 : Int32) : Option (Nat × aH) :=
  (gI 10 3 h o).bind fun z2 =>
  (t_J18_stringSize x0).bind fun r5 =>
  if isC 10 h o = true then
  (t_J3_ensureCapacityInternal Z h o (z2 + r5)).bind fun r10 =>
  if isC 10 r10.2 o = true then
  (t_J3_isLatin1 Z r10.2 o).bind fun r15 =>
  if r15.1 = 0 then
    (gA 10 0 r15.2 o).bind fun a19 =>
    none
  else
    (gA 10 0 r15.2 o).bind fun a23 =>
    (t_J18_getChars Z r15.2 x0 (z2 + r5) a23).bind fun r26 =>
    t_J3_append_2_l48 Z r26.2 o (z2 + r5)
  else none
  else none
theorem k_J3_append_2 {G : aG} {h : aH} {o : Nat} {x0 : Int32} {e : (Nat × aH)} (hT : t_J3_append_2 (gZ G) h o x0 = some e) : aMet G yJ3_append_2 (ws_ yJ3_append_2 cJ3_append_2 4 (Option.some (Jvm.ClassFile.FieldType.object "java/lang/AbstractStringBuilder"))) 2 27 [.ref o, .int x0] h (aEA e.1 e.2) := by
  refine aMet.of (lv := [some (.ref o), some (.int x0), none, none]) (by decide) (Nat.le_of_ble_eq_true rfl) 2 rfl ?_
  have he : aTo (aEA e.1 e.2) (aEA e.1 e.2) := aTo.rf
  unfold t_J3_append_2 at hT
  refine a_aload_n dJ3_append_2_0 rfl ?_
  obtain ⟨z2, e1, hT⟩ := obnd hT
  refine a_gI fl_J3_79_10 e1 dJ3_append_2_1 ?_
  refine a_istore_n (lv' := [some (.ref o), some (.int x0), some (.int z2), none]) dJ3_append_2_4 rfl (by decide) rfl ?_
  refine a_iload_n dJ3_append_2_5 rfl ?_
  refine a_iload_n dJ3_append_2_6 rfl ?_
  obtain ⟨r5, e6, hT⟩ := obnd hT
  refine a_callS ks_J3_245 (k_J18_stringSize e6) ⟨Nat.le_of_ble_eq_true rfl, Nat.le_of_ble_eq_true rfl⟩ (As := [.int x0]) (rest := [.int z2]) rfl rfl (Nat.le_of_ble_eq_true rfl) dJ3_append_2_7 (kI ?_) xI
  refine a_iadd dJ3_append_2_10 ?_
  refine a_istore_n (lv' := [some (.ref o), some (.int x0), some (.int z2), some (.int (z2 + r5))]) dJ3_append_2_11 rfl (by decide) rfl ?_
  refine a_aload_n dJ3_append_2_12 rfl ?_
  refine a_iload_n dJ3_append_2_13 rfl ?_
  obtain ⟨g9, hT⟩ := oifg hT
  obtain ⟨r10, e11, hT⟩ := obnd hT
  refine a_callP kp_J3_100_10 g9 (k_J3_ensureCapacityInternal e11) ⟨Nat.le_of_ble_eq_true rfl, Nat.le_of_ble_eq_true rfl⟩ (As := [.int (z2 + r5)]) (rest := []) rfl rfl (Nat.le_of_ble_eq_true rfl) dJ3_append_2_14 (kV ?_) xV
  refine a_aload_n dJ3_append_2_17 rfl ?_
  obtain ⟨g14, hT⟩ := oifg hT
  obtain ⟨r15, e16, hT⟩ := obnd hT
  refine a_callU ku_J3_83_10 g14 (k_J3_isLatin1 e16) ⟨Nat.le_of_ble_eq_true rfl, Nat.le_of_ble_eq_true rfl⟩ (As := []) (rest := []) rfl rfl (Nat.le_of_ble_eq_true rfl) dJ3_append_2_18 (kI ?_) xI
  refine a_if_eq 37 dJ3_append_2_21 rfl (fun c17 => ?_) (fun c17 => ?_)
  · have hT := oifp c17 hT
    refine a_iload_n dJ3_append_2_37 rfl ?_
    refine a_iload_n dJ3_append_2_38 rfl ?_
    refine a_iload_n dJ3_append_2_39 rfl ?_
    refine a_aload_n dJ3_append_2_40 rfl ?_
    obtain ⟨a19, e18, hT⟩ := obnd hT
    refine a_gA fl_J3_15_10 e18 dJ3_append_2_41 ?_
    cases hT
  · have hT := oifn c17 hT
    refine a_iload_n dJ3_append_2_24 rfl ?_
    refine a_iload_n dJ3_append_2_25 rfl ?_
    refine a_aload_n dJ3_append_2_26 rfl ?_
    obtain ⟨a23, e22, hT⟩ := obnd hT
    refine a_gA fl_J3_15_10 e22 dJ3_append_2_27 ?_
    obtain ⟨r26, e27, hT⟩ := obnd hT
    refine a_callS ks_J3_248 (k_J18_getChars e27) ⟨Nat.le_of_ble_eq_true rfl, Nat.le_of_ble_eq_true rfl⟩ (As := [.int x0, .int (z2 + r5), .ref a23]) (rest := []) rfl rfl (Nat.le_of_ble_eq_true rfl) dJ3_append_2_30 (kI ?_) xI
    refine a_pop dJ3_append_2_33 rfl ?_
    refine a_goto 48 dJ3_append_2_34 rfl ?_
    refine a_mask [true, false, false, true] ?_
    exact k_J3_append_2_l48 hT he
theorem fp_J3_73_10 (nm9 : String) : aFP "java/lang/AbstractStringBuilder" 73 10 2 .boolean nm9 := ⟨RJ4, TJ4, 4, "java/lang/AbstractStringBuilder", tyJ4, rfl, in_J4, by decide, Or.inl rfl, Or.inl q208, tyJ4_ok, nmJ4, rfl, Or.inl rfl⟩
abbrev M_J3_setLength : aM := (yJ3_setLength.cls, cJ3_setLength, 2, (Option.none : Option Jvm.ClassFile.FieldType), [], yJ3_setLength.name)
def t_J3_setLength_l76 (Z : aZ) (h : aH) (v0 : Nat) (v1 : Int32) : Option (Unit × aH) :=
  (pF 10 3 Z h v0 (.int v1)).bind fun h14 =>
  some ((), h14)
theorem k_J3_setLength_l76 {G : aG} {h0 : aH} {K : aRes → aH → Prop} {h : aH} {v0 : Nat} {v1 : Int32} {e : (Unit × aH)} (hT : t_J3_setLength_l76 (gZ G) h v0 v1 = some e) (he : (fun e => aTo (aEV e.1 e.2) K) e) : aW G M_J3_setLength 2 23 h0 K h 76 [some (.ref v0), some (.int v1)] [] := by
  unfold t_J3_setLength_l76 at hT
  refine a_aload_n dJ3_setLength_76 rfl ?_
  refine a_iload_n dJ3_setLength_77 rfl ?_
  obtain ⟨h14, e13, hT⟩ := obnd hT
  refine a_put (fp_J3_79_10 _) ⟨rfl, rfl⟩ e13 dJ3_setLength_78 ?_
  obtain rfl := Option.some.inj hT
  exact a_vret rfl dJ3_setLength_81 (he _ _ ⟨rfl, rfl⟩)
def t_J3_setLength (Z : aZ) (h : aH) (o : Nat) (x0 : Int32) : Option (Unit × aH) :=
  if 0 ≤ x0 then
    if isC 10 h o = true then
    (t_J3_ensureCapacityInternal Z h o x0).bind fun r5 =>
    (gI 10 3 r5.2 o).bind fun z8 =>
    if x0 ≤ z8 then
      (gI 10 3 r5.2 o).bind fun z11 =>
      if z11 ≤ x0 then
        t_J3_setLength_l76 Z r5.2 o x0
      else
        (pF 10 2 Z r5.2 o (.int 1)).bind fun h16 =>
        t_J3_setLength_l76 Z h16 o x0
    else
      if isC 10 r5.2 o = true then
      (t_J3_isLatin1 Z r5.2 o).bind fun r20 =>
      if r20.1 = 0 then
        (gA 10 0 r20.2 o).bind fun a24 =>
        (gI 10 3 r20.2 o).bind fun z26 =>
        none
      else
        (gA 10 0 r20.2 o).bind fun a30 =>
        (gI 10 3 r20.2 o).bind fun z32 =>
        none
      else none
    else none
  else
    none
theorem k_J3_setLength {G : aG} {h : aH} {o : Nat} {x0 : Int32} {e : (Unit × aH)} (hT : t_J3_setLength (gZ G) h o x0 = some e) : aMet G yJ3_setLength (ws_ yJ3_setLength cJ3_setLength 2 (Option.none : Option Jvm.ClassFile.FieldType)) 2 23 [.ref o, .int x0] h (aEV e.1 e.2) := by
  refine aMet.of (lv := [some (.ref o), some (.int x0)]) (by decide) (Nat.le_of_ble_eq_true rfl) 0 rfl ?_
  have he : aTo (aEV e.1 e.2) (aEV e.1 e.2) := aTo.rf
  unfold t_J3_setLength at hT
  refine a_iload_n dJ3_setLength_0 rfl ?_
  refine a_if_ge 13 dJ3_setLength_1 rfl (fun c1 => ?_) (fun c1 => ?_)
  · have hT := oifp c1 hT
    refine a_aload_n dJ3_setLength_13 rfl ?_
    refine a_iload_n dJ3_setLength_14 rfl ?_
    obtain ⟨g4, hT⟩ := oifg hT
    obtain ⟨r5, e6, hT⟩ := obnd hT
    refine a_callP kp_J3_100_10 g4 (k_J3_ensureCapacityInternal e6) ⟨Nat.le_of_ble_eq_true rfl, Nat.le_of_ble_eq_true rfl⟩ (As := [.int x0]) (rest := []) rfl rfl (Nat.le_of_ble_eq_true rfl) dJ3_setLength_15 (kV ?_) xV
    refine a_aload_n dJ3_setLength_18 rfl ?_
    obtain ⟨z8, e7, hT⟩ := obnd hT
    refine a_gI fl_J3_79_10 e7 dJ3_setLength_19 ?_
    refine a_iload_n dJ3_setLength_22 rfl ?_
    refine a_icmp_ge 63 dJ3_setLength_23 rfl (fun c9 => ?_) (fun c9 => ?_)
    · have hT := oifp c9 hT
      refine a_aload_n dJ3_setLength_63 rfl ?_
      obtain ⟨z11, e10, hT⟩ := obnd hT
      refine a_gI fl_J3_79_10 e10 dJ3_setLength_64 ?_
      refine a_iload_n dJ3_setLength_67 rfl ?_
      refine a_icmp_le 76 dJ3_setLength_68 rfl (fun c12 => ?_) (fun c12 => ?_)
      · have hT := oifp c12 hT
        exact k_J3_setLength_l76 hT he
      · have hT := oifn c12 hT
        refine a_aload_n dJ3_setLength_71 rfl ?_
        refine a_iconst (v := 1) dJ3_setLength_72 (by decide) ?_
        obtain ⟨h16, e15, hT⟩ := obnd hT
        refine a_put (fp_J3_73_10 _) ⟨by decide, by decide⟩ e15 dJ3_setLength_73 ?_
        exact k_J3_setLength_l76 hT he
    · have hT := oifn c9 hT
      refine a_aload_n dJ3_setLength_26 rfl ?_
      obtain ⟨g19, hT⟩ := oifg hT
      obtain ⟨r20, e21, hT⟩ := obnd hT
      refine a_callU ku_J3_83_10 g19 (k_J3_isLatin1 e21) ⟨Nat.le_of_ble_eq_true rfl, Nat.le_of_ble_eq_true rfl⟩ (As := []) (rest := []) rfl rfl (Nat.le_of_ble_eq_true rfl) dJ3_setLength_27 (kI ?_) xI
      refine a_if_eq 48 dJ3_setLength_30 rfl (fun c22 => ?_) (fun c22 => ?_)
      · have hT := oifp c22 hT
        refine a_aload_n dJ3_setLength_48 rfl ?_
        obtain ⟨a24, e23, hT⟩ := obnd hT
        refine a_gA fl_J3_15_10 e23 dJ3_setLength_49 ?_
        refine a_aload_n dJ3_setLength_52 rfl ?_
        obtain ⟨z26, e25, hT⟩ := obnd hT
        refine a_gI fl_J3_79_10 e25 dJ3_setLength_53 ?_
        refine a_iload_n dJ3_setLength_56 rfl ?_
        cases hT
      · have hT := oifn c22 hT
        refine a_aload_n dJ3_setLength_33 rfl ?_
        obtain ⟨a30, e29, hT⟩ := obnd hT
        refine a_gA fl_J3_15_10 e29 dJ3_setLength_34 ?_
        refine a_aload_n dJ3_setLength_37 rfl ?_
        obtain ⟨z32, e31, hT⟩ := obnd hT
        refine a_gI fl_J3_79_10 e31 dJ3_setLength_38 ?_
        refine a_iload_n dJ3_setLength_41 rfl ?_
        cases hT
  · have hT := oifn c1 hT
    cases hT
theorem fp_J3_15_10i : aFP "java/lang/AbstractStringBuilder" 15 10 0 (.array .byte) "<init>" := ⟨RJ4, TJ4, 4, "java/lang/AbstractStringBuilder", tyJ4, rfl, in_J4, by decide, Or.inl rfl, Or.inl q206, tyJ4_ok, nmJ4, rfl, Or.inl rfl⟩
theorem fp_J3_22_10i : aFP "java/lang/AbstractStringBuilder" 22 10 1 .byte "<init>" := ⟨RJ4, TJ4, 4, "java/lang/AbstractStringBuilder", tyJ4, rfl, in_J4, by decide, Or.inl rfl, Or.inl q207, tyJ4_ok, nmJ4, rfl, Or.inl rfl⟩
abbrev M_J3_init : aM := (yJ3_init.cls, cJ3_init, 2, (Option.none : Option Jvm.ClassFile.FieldType), [], yJ3_init.name)
def t_J3_init (Z : aZ) (h : aH) (o : Nat) (x0 : Int32) : Option (Unit × aH) :=
  if (1 : Int32) = 0 then
    none
  else
    (nwA Z h x0 (fun N => .inl (zB Z, N, .inl fun _ => 0))).bind fun h4 =>
    (pF 10 0 Z h4 o (.ref h.2.1)).bind fun h7 =>
    (pF 10 1 Z h7 o (.int 0)).bind fun h9 =>
    some ((), h9)
theorem k_J3_init {G : aG} {h : aH} {o : Nat} {x0 : Int32} {e : (Unit × aH)} (hT : t_J3_init (gZ G) h o x0 = some e) : aMet G yJ3_init (ws_ yJ3_init cJ3_init 2 (Option.none : Option Jvm.ClassFile.FieldType)) 1 12 [.ref o, .int x0] h (aEV e.1 e.2) := by
  refine aMet.of (lv := [some (.ref o), some (.int x0)]) (by decide) (Nat.le_of_ble_eq_true rfl) 0 rfl ?_
  have he : aTo (aEV e.1 e.2) (aEV e.1 e.2) := aTo.rf
  unfold t_J3_init at hT
  refine a_aload_n dJ3_init_0 rfl ?_
  refine a_objInit q196 q_oi q_oc (by decide) (Nat.le_of_ble_eq_true rfl) dJ3_init_1 ?_
  refine a_gets (k := 1) rfl q197 dJ3_init_4 ?_
  refine a_if_eq 25 dJ3_init_7 rfl (fun c1 => ?_) (fun c1 => ?_)
  · have hT := oifp c1 hT
    refine a_aload_n dJ3_init_25 rfl ?_
    refine a_iload_n dJ3_init_26 rfl ?_
    cases hT
  · have hT := oifn c1 hT
    refine a_aload_n dJ3_init_10 rfl ?_
    refine a_iload_n dJ3_init_11 rfl ?_
    obtain ⟨h4, e5, hT⟩ := obnd hT
    refine a_newB q221 e5 dJ3_init_12 ?_
    obtain ⟨h7, e6, hT⟩ := obnd hT
    refine a_put fp_J3_15_10i ⟨rfl, rfl⟩ e6 dJ3_init_14 ?_
    refine a_aload_n dJ3_init_17 rfl ?_
    refine a_iconst (v := 0) dJ3_init_18 (by decide) ?_
    obtain ⟨h9, e8, hT⟩ := obnd hT
    refine a_put fp_J3_22_10i ⟨by decide, by decide⟩ e8 dJ3_init_19 ?_
    refine a_goto 38 dJ3_init_22 rfl ?_
    obtain rfl := Option.some.inj hT
    exact a_vret rfl dJ3_init_38 (he _ _ ⟨rfl, rfl⟩)
theorem kv_J3_40 : aKV "java/lang/AbstractStringBuilder" 40 11 yJ5_coder cJ5_coder 1 (Option.some Jvm.ClassFile.FieldType.byte) 0 := ⟨⟨TJ5, 4, rfl⟩, Or.inl q1409, q1209, q1210, q79, q1211, ⟨by decide +kernel, by decide +kernel, by decide +kernel⟩⟩
abbrev M_J3_inflateIfNeededFor : aM := (yJ3_inflateIfNeededFor.cls, cJ3_inflateIfNeededFor, 2, (Option.none : Option Jvm.ClassFile.FieldType), [], yJ3_inflateIfNeededFor.name)
def t_J3_inflateIfNeededFor (Z : aZ) (h : aH) (o : Nat) (x0 : Nat) : Option (Unit × aH) :=
  if (1 : Int32) = 0 then
    some ((), h)
  else
    (gI 10 1 h o).bind fun z3 =>
    (oldV Z x0).bind fun b7 =>
    (t_J5_coder Z h x0).bind fun r8 =>
    if z3 = r8.1 then
      some ((), r8.2)
    else
      none
theorem k_J3_inflateIfNeededFor {G : aG} {h : aH} {o : Nat} {x0 : Nat} {e : (Unit × aH)} (hT : t_J3_inflateIfNeededFor (gZ G) h o x0 = some e) : aMet G yJ3_inflateIfNeededFor (ws_ yJ3_inflateIfNeededFor cJ3_inflateIfNeededFor 2 (Option.none : Option Jvm.ClassFile.FieldType)) 2 21 [.ref o, .ref x0] h (aEV e.1 e.2) := by
  refine aMet.of (lv := [some (.ref o), some (.ref x0)]) (by decide) (Nat.le_of_ble_eq_true rfl) 0 rfl ?_
  have he : aTo (aEV e.1 e.2) (aEV e.1 e.2) := aTo.rf
  unfold t_J3_inflateIfNeededFor at hT
  refine a_gets (k := 1) rfl q197 dJ3_inflateIfNeededFor_0 ?_
  refine a_if_eq 21 dJ3_inflateIfNeededFor_3 rfl (fun c1 => ?_) (fun c1 => ?_)
  · have hT := oifp c1 hT
    obtain rfl := Option.some.inj hT
    exact a_vret rfl dJ3_inflateIfNeededFor_21 (he _ _ ⟨rfl, rfl⟩)
  · have hT := oifn c1 hT
    refine a_aload_n dJ3_inflateIfNeededFor_6 rfl ?_
    obtain ⟨z3, e2, hT⟩ := obnd hT
    refine a_gI fl_J3_22_10 e2 dJ3_inflateIfNeededFor_7 ?_
    refine a_aload_n dJ3_inflateIfNeededFor_10 rfl ?_
    obtain ⟨b7, g6, hT⟩ := obnd hT
    obtain ⟨r8, e9, hT⟩ := obnd hT
    refine a_callVO kv_J3_40 g6 (k_J5_coder e9) ⟨Nat.le_of_ble_eq_true rfl, Nat.le_of_ble_eq_true rfl⟩ (As := []) (rest := [.int z3]) rfl rfl (Nat.le_of_ble_eq_true rfl) dJ3_inflateIfNeededFor_11 (kI ?_) xI
    refine a_icmp_eq 21 dJ3_inflateIfNeededFor_14 rfl (fun c10 => ?_) (fun c10 => ?_)
    · have hT := oifp c10 hT
      obtain rfl := Option.some.inj hT
      exact a_vret rfl dJ3_inflateIfNeededFor_21 (he _ _ ⟨rfl, rfl⟩)
    · have hT := oifn c10 hT
      refine a_aload_n dJ3_inflateIfNeededFor_17 rfl ?_
      cases hT
theorem kp_J3_397_10 : aKP "java/lang/AbstractStringBuilder" 397 10 yJ3_inflateIfNeededFor cJ3_inflateIfNeededFor 2 (Option.none : Option Jvm.ClassFile.FieldType) 1 := ⟨⟨RJ4, TJ4, 4, rfl, List.mem_of_getElem? (i := 2) rfl⟩, q1405, q1407, q77, q1408, ⟨by decide +kernel, by decide +kernel, by decide +kernel⟩⟩
theorem kv_J3_399 : aKV "java/lang/AbstractStringBuilder" 399 11 yJ5_getBytes cJ5_getBytes 4 (Option.none : Option Jvm.ClassFile.FieldType) 3 := ⟨⟨TJ5, 4, rfl⟩, Or.inl q1429, q1430, q1431, q79, q1432, ⟨by decide +kernel, by decide +kernel, by decide +kernel⟩⟩
abbrev M_J3_putStringAt : aM := (yJ3_putStringAt.cls, cJ3_putStringAt, 3, (Option.none : Option Jvm.ClassFile.FieldType), [], yJ3_putStringAt.name)
def t_J3_putStringAt (Z : aZ) (h : aH) (o : Nat) (x0 : Int32) (x1 : Nat) : Option (Unit × aH) :=
  if isC 10 h o = true then
  (t_J3_inflateIfNeededFor Z h o x1).bind fun r4 =>
  (gA 10 0 r4.2 o).bind fun a7 =>
  (gI 10 1 r4.2 o).bind fun z9 =>
  (oldV Z x1).bind fun b13 =>
  (t_J5_getBytes Z r4.2 x1 a7 x0 z9).bind fun r14 =>
  some ((), r14.2)
  else none
theorem k_J3_putStringAt {G : aG} {h : aH} {o : Nat} {x0 : Int32} {x1 : Nat} {e : (Unit × aH)} (hT : t_J3_putStringAt (gZ G) h o x0 x1 = some e) : aMet G yJ3_putStringAt (ws_ yJ3_putStringAt cJ3_putStringAt 3 (Option.none : Option Jvm.ClassFile.FieldType)) 3 83 [.ref o, .int x0, .ref x1] h (aEV e.1 e.2) := by
  refine aMet.of (lv := [some (.ref o), some (.int x0), some (.ref x1)]) (by decide) (Nat.le_of_ble_eq_true rfl) 0 rfl ?_
  have he : aTo (aEV e.1 e.2) (aEV e.1 e.2) := aTo.rf
  unfold t_J3_putStringAt at hT
  refine a_aload_n dJ3_putStringAt_0 rfl ?_
  refine a_aload_n dJ3_putStringAt_1 rfl ?_
  obtain ⟨g3, hT⟩ := oifg hT
  obtain ⟨r4, e5, hT⟩ := obnd hT
  refine a_callP kp_J3_397_10 g3 (k_J3_inflateIfNeededFor e5) ⟨Nat.le_of_ble_eq_true rfl, Nat.le_of_ble_eq_true rfl⟩ (As := [.ref x1]) (rest := []) rfl rfl (Nat.le_of_ble_eq_true rfl) dJ3_putStringAt_2 (kV ?_) xV
  refine a_aload_n dJ3_putStringAt_5 rfl ?_
  refine a_aload_n dJ3_putStringAt_6 rfl ?_
  obtain ⟨a7, e6, hT⟩ := obnd hT
  refine a_gA fl_J3_15_10 e6 dJ3_putStringAt_7 ?_
  refine a_iload_n dJ3_putStringAt_10 rfl ?_
  refine a_aload_n dJ3_putStringAt_11 rfl ?_
  obtain ⟨z9, e8, hT⟩ := obnd hT
  refine a_gI fl_J3_22_10 e8 dJ3_putStringAt_12 ?_
  obtain ⟨b13, g12, hT⟩ := obnd hT
  obtain ⟨r14, e15, hT⟩ := obnd hT
  refine a_callVO kv_J3_399 g12 (k_J5_getBytes e15) ⟨Nat.le_of_ble_eq_true rfl, Nat.le_of_ble_eq_true rfl⟩ (As := [.ref a7, .int x0, .int z9]) (rest := []) rfl rfl (Nat.le_of_ble_eq_true rfl) dJ3_putStringAt_15 (kV ?_) xV
  obtain rfl := Option.some.inj hT
  exact a_vret rfl dJ3_putStringAt_18 (he _ _ ⟨rfl, rfl⟩)
theorem kv_J3_32 : aKV "java/lang/AbstractStringBuilder" 32 11 yJ5_length cJ5_length 1 (Option.some Jvm.ClassFile.FieldType.int) 0 := ⟨⟨TJ5, 4, rfl⟩, Or.inl q1400, q1205, q1206, q79, q1207, ⟨by decide +kernel, by decide +kernel, by decide +kernel⟩⟩
theorem kp_J3_208_10 : aKP "java/lang/AbstractStringBuilder" 208 10 yJ3_putStringAt cJ3_putStringAt 3 (Option.none : Option Jvm.ClassFile.FieldType) 2 := ⟨⟨RJ4, TJ4, 4, rfl, List.mem_of_getElem? (i := 1) rfl⟩, q1401, q1403, q77, q1404, ⟨by decide +kernel, by decide +kernel, by decide +kernel⟩⟩
abbrev M_J3_append : aM := (yJ3_append.cls, cJ3_append, 3, (Option.some (Jvm.ClassFile.FieldType.object "java/lang/AbstractStringBuilder")), [], yJ3_append.name)
def t_J3_append (Z : aZ) (h : aH) (o : Nat) (x0 : Nat) : Option (Nat × aH) :=
  (oldV Z x0).bind fun b4 =>
  (t_J5_length Z h x0).bind fun r5 =>
  (gI 10 3 r5.2 o).bind fun z8 =>
  if isC 10 r5.2 o = true then
  (t_J3_ensureCapacityInternal Z r5.2 o (z8 + r5.1)).bind fun r12 =>
  (gI 10 3 r12.2 o).bind fun z15 =>
  if isC 10 r12.2 o = true then
  (t_J3_putStringAt Z r12.2 o z15 x0).bind fun r19 =>
  (gI 10 3 r19.2 o).bind fun z22 =>
  (pF 10 3 Z r19.2 o (.int (z22 + r5.1))).bind fun h24 =>
  some (o, h24)
  else none
  else none
theorem k_J3_append {G : aG} {h : aH} {o : Nat} {x0 : Nat} {e : (Nat × aH)} (hT : t_J3_append (gZ G) h o x0 = some e) : aMet G yJ3_append (ws_ yJ3_append cJ3_append 3 (Option.some (Jvm.ClassFile.FieldType.object "java/lang/AbstractStringBuilder"))) 4 105 [.ref o, .ref x0] h (aEA e.1 e.2) := by
  refine aMet.of (lv := [some (.ref o), some (.ref x0), none]) (by decide) (Nat.le_of_ble_eq_true rfl) 1 rfl ?_
  have he : aTo (aEA e.1 e.2) (aEA e.1 e.2) := aTo.rf
  unfold t_J3_append at hT
  refine a_aload_n dJ3_append_0 rfl ?_
  refine a_ifnonnull 9 dJ3_append_1 rfl ?_
  refine a_aload_n dJ3_append_9 rfl ?_
  obtain ⟨b4, g3, hT⟩ := obnd hT
  obtain ⟨r5, e6, hT⟩ := obnd hT
  refine a_callVO kv_J3_32 g3 (k_J5_length e6) ⟨Nat.le_of_ble_eq_true rfl, Nat.le_of_ble_eq_true rfl⟩ (As := []) (rest := []) rfl rfl (Nat.le_of_ble_eq_true rfl) dJ3_append_10 (kI ?_) xI
  refine a_istore_n (lv' := [some (.ref o), some (.ref x0), some (.int r5.1)]) dJ3_append_13 rfl (by decide) rfl ?_
  refine a_aload_n dJ3_append_14 rfl ?_
  refine a_aload_n dJ3_append_15 rfl ?_
  obtain ⟨z8, e7, hT⟩ := obnd hT
  refine a_gI fl_J3_79_10 e7 dJ3_append_16 ?_
  refine a_iload_n dJ3_append_19 rfl ?_
  refine a_iadd dJ3_append_20 ?_
  obtain ⟨g11, hT⟩ := oifg hT
  obtain ⟨r12, e13, hT⟩ := obnd hT
  refine a_callP kp_J3_100_10 g11 (k_J3_ensureCapacityInternal e13) ⟨Nat.le_of_ble_eq_true rfl, Nat.le_of_ble_eq_true rfl⟩ (As := [.int (z8 + r5.1)]) (rest := []) rfl rfl (Nat.le_of_ble_eq_true rfl) dJ3_append_21 (kV ?_) xV
  refine a_aload_n dJ3_append_24 rfl ?_
  refine a_aload_n dJ3_append_25 rfl ?_
  obtain ⟨z15, e14, hT⟩ := obnd hT
  refine a_gI fl_J3_79_10 e14 dJ3_append_26 ?_
  refine a_aload_n dJ3_append_29 rfl ?_
  obtain ⟨g18, hT⟩ := oifg hT
  obtain ⟨r19, e20, hT⟩ := obnd hT
  refine a_callP kp_J3_208_10 g18 (k_J3_putStringAt e20) ⟨Nat.le_of_ble_eq_true rfl, Nat.le_of_ble_eq_true rfl⟩ (As := [.int z15, .ref x0]) (rest := []) rfl rfl (Nat.le_of_ble_eq_true rfl) dJ3_append_30 (kV ?_) xV
  refine a_aload_n dJ3_append_33 rfl ?_
  refine a_dup dJ3_append_34 rfl ?_
  obtain ⟨z22, e21, hT⟩ := obnd hT
  refine a_gI fl_J3_79_10 e21 dJ3_append_35 ?_
  refine a_iload_n dJ3_append_38 rfl ?_
  refine a_iadd dJ3_append_39 ?_
  obtain ⟨h24, e23, hT⟩ := obnd hT
  refine a_put (fp_J3_79_10 _) ⟨rfl, rfl⟩ e23 dJ3_append_40 ?_
  refine a_aload_n dJ3_append_43 rfl ?_
  obtain rfl := Option.some.inj hT
  exact a_aret rfl (Or.inl ⟨_, rfl⟩) dJ3_append_44 (he _ _ ⟨rfl, rfl⟩)
theorem ki_J4_1 : aKI "java/lang/StringBuilder" 1 yJ3_init cJ3_init 2 1 := ⟨rfl, Or.inl q193, q194, q77, q195, ⟨by decide +kernel, by decide +kernel, by decide +kernel⟩⟩
abbrev M_J4_init : aM := (yJ4_init.cls, cJ4_init, 1, (Option.none : Option Jvm.ClassFile.FieldType), [], yJ4_init.name)
def t_J4_init (Z : aZ) (h : aH) (o : Nat) : Option (Unit × aH) :=
  (t_J3_init Z h o 16).bind fun r3 =>
  some ((), r3.2)
theorem k_J4_init {G : aG} {h : aH} {o : Nat} {e : (Unit × aH)} (hT : t_J4_init (gZ G) h o = some e) : aMet G yJ4_init (ws_ yJ4_init cJ4_init 1 (Option.none : Option Jvm.ClassFile.FieldType)) 2 33 [.ref o] h (aEV e.1 e.2) := by
  refine aMet.of (lv := [some (.ref o)]) (by decide) (Nat.le_of_ble_eq_true rfl) 0 rfl ?_
  have he : aTo (aEV e.1 e.2) (aEV e.1 e.2) := aTo.rf
  unfold t_J4_init at hT
  refine a_aload_n dJ4_init_0 rfl ?_
  refine a_bipush (v := 16) dJ4_init_1 (by decide) ?_
  obtain ⟨r3, e4, hT⟩ := obnd hT
  refine a_callI ki_J4_1 (k_J3_init e4) ⟨Nat.le_of_ble_eq_true rfl, Nat.le_of_ble_eq_true rfl⟩ (As := [.int 16]) (rest := []) rfl rfl (Nat.le_of_ble_eq_true rfl) dJ4_init_3 (kV ?_) xV
  obtain rfl := Option.some.inj hT
  exact a_vret rfl dJ4_init_6 (he _ _ ⟨rfl, rfl⟩)
theorem ku_J4_333_s : aKSU "java/lang/StringBuilder" 333 10 yJ3_setLength cJ3_setLength 2 (Option.none : Option Jvm.ClassFile.FieldType) 1 := ⟨⟨RJ4, TJ4, 4, rfl⟩, q1349, q2136, q219, q1350, q77, q1351, by decide, ⟨by decide +kernel, by decide +kernel, by decide +kernel⟩⟩
abbrev M_J4_setLength : aM := (yJ4_setLength.cls, cJ4_setLength, 2, (Option.none : Option Jvm.ClassFile.FieldType), [], yJ4_setLength.name)
def t_J4_setLength (Z : aZ) (h : aH) (o : Nat) (x0 : Int32) : Option (Unit × aH) :=
  if isC 10 h o = true then
  (t_J3_setLength Z h o x0).bind fun r4 =>
  some ((), r4.2)
  else none
theorem k_J4_setLength {G : aG} {h : aH} {o : Nat} {x0 : Int32} {e : (Unit × aH)} (hT : t_J4_setLength (gZ G) h o x0 = some e) : aMet G yJ4_setLength (ws_ yJ4_setLength cJ4_setLength 2 (Option.none : Option Jvm.ClassFile.FieldType)) 3 44 [.ref o, .int x0] h (aEV e.1 e.2) := by
  refine aMet.of (lv := [some (.ref o), some (.int x0)]) (by decide) (Nat.le_of_ble_eq_true rfl) 0 rfl ?_
  have he : aTo (aEV e.1 e.2) (aEV e.1 e.2) := aTo.rf
  unfold t_J4_setLength at hT
  refine a_aload_n dJ4_setLength_0 rfl ?_
  refine a_iload_n dJ4_setLength_1 rfl ?_
  obtain ⟨g3, hT⟩ := oifg hT
  obtain ⟨r4, e5, hT⟩ := obnd hT
  refine a_callSU ku_J4_333_s g3 (k_J3_setLength e5) ⟨Nat.le_of_ble_eq_true rfl, Nat.le_of_ble_eq_true rfl⟩ (As := [.int x0]) (rest := []) rfl rfl (Nat.le_of_ble_eq_true rfl) dJ4_setLength_2 (kV ?_) xV
  obtain rfl := Option.some.inj hT
  exact a_vret rfl dJ4_setLength_5 (he _ _ ⟨rfl, rfl⟩)
theorem ku_J4_53_s : aKSU "java/lang/StringBuilder" 53 10 yJ3_append_2 cJ3_append_2 4 (Option.some (Jvm.ClassFile.FieldType.object "java/lang/AbstractStringBuilder")) 1 := ⟨⟨RJ4, TJ4, 4, rfl⟩, q1439, q2144, q219, q1440, q77, q1441, by decide, ⟨by decide +kernel, by decide +kernel, by decide +kernel⟩⟩
abbrev M_J4_append_2 : aM := (yJ4_append_2.cls, cJ4_append_2, 2, (Option.some (Jvm.ClassFile.FieldType.object "java/lang/StringBuilder")), [], yJ4_append_2.name)
def t_J4_append_2 (Z : aZ) (h : aH) (o : Nat) (x0 : Int32) : Option (Nat × aH) :=
  if isC 10 h o = true then
  (t_J3_append_2 Z h o x0).bind fun r4 =>
  some (o, r4.2)
  else none
theorem k_J4_append_2 {G : aG} {h : aH} {o : Nat} {x0 : Int32} {e : (Nat × aH)} (hT : t_J4_append_2 (gZ G) h o x0 = some e) : aMet G yJ4_append_2 (ws_ yJ4_append_2 cJ4_append_2 2 (Option.some (Jvm.ClassFile.FieldType.object "java/lang/StringBuilder"))) 3 50 [.ref o, .int x0] h (aEA e.1 e.2) := by
  refine aMet.of (lv := [some (.ref o), some (.int x0)]) (by decide) (Nat.le_of_ble_eq_true rfl) 0 rfl ?_
  have he : aTo (aEA e.1 e.2) (aEA e.1 e.2) := aTo.rf
  unfold t_J4_append_2 at hT
  refine a_aload_n dJ4_append_2_0 rfl ?_
  refine a_iload_n dJ4_append_2_1 rfl ?_
  obtain ⟨g3, hT⟩ := oifg hT
  obtain ⟨r4, e5, hT⟩ := obnd hT
  refine a_callSU ku_J4_53_s g3 (k_J3_append_2 e5) ⟨Nat.le_of_ble_eq_true rfl, Nat.le_of_ble_eq_true rfl⟩ (As := [.int x0]) (rest := []) rfl rfl (Nat.le_of_ble_eq_true rfl) dJ4_append_2_2 (kA ?_) xA
  refine a_pop dJ4_append_2_5 rfl ?_
  refine a_aload_n dJ4_append_2_6 rfl ?_
  obtain rfl := Option.some.inj hT
  exact a_aret rfl (Or.inl ⟨_, rfl⟩) dJ4_append_2_7 (he _ _ ⟨rfl, rfl⟩)
theorem ku_J4_343_s : aKSU "java/lang/StringBuilder" 343 10 yJ3_length cJ3_length 1 (Option.some Jvm.ClassFile.FieldType.int) 0 := ⟨⟨RJ4, TJ4, 4, rfl⟩, q1483, q1479, q219, q1478, q77, q1484, by decide, ⟨by decide +kernel, by decide +kernel, by decide +kernel⟩⟩
abbrev M_J4_length : aM := (yJ4_length.cls, cJ4_length, 1, (Option.some Jvm.ClassFile.FieldType.int), [], yJ4_length.name)
def t_J4_length (Z : aZ) (h : aH) (o : Nat) : Option (Int32 × aH) :=
  if isC 10 h o = true then
  (t_J3_length Z h o).bind fun r4 =>
  some (r4.1, r4.2)
  else none
theorem k_J4_length {G : aG} {h : aH} {o : Nat} {e : (Int32 × aH)} (hT : t_J4_length (gZ G) h o = some e) : aMet G yJ4_length (ws_ yJ4_length cJ4_length 1 (Option.some Jvm.ClassFile.FieldType.int)) 2 21 [.ref o] h (aEI e.1 e.2) := by
  refine aMet.of (lv := [some (.ref o)]) (by decide) (Nat.le_of_ble_eq_true rfl) 0 rfl ?_
  have he : aTo (aEI e.1 e.2) (aEI e.1 e.2) := aTo.rf
  unfold t_J4_length at hT
  refine a_aload_n dJ4_length_0 rfl ?_
  obtain ⟨g3, hT⟩ := oifg hT
  obtain ⟨r4, e5, hT⟩ := obnd hT
  refine a_callSU ku_J4_343_s g3 (k_J3_length e5) ⟨Nat.le_of_ble_eq_true rfl, Nat.le_of_ble_eq_true rfl⟩ (As := []) (rest := []) rfl rfl (Nat.le_of_ble_eq_true rfl) dJ4_length_1 (kI ?_) xI
  obtain rfl := Option.some.inj hT
  exact a_iret rfl rfl dJ4_length_4 (he _ _ ⟨rfl, rfl⟩)
theorem ku_J4_50_s : aKSU "java/lang/StringBuilder" 50 10 yJ3_append_3 cJ3_append_3 2 (Option.some (Jvm.ClassFile.FieldType.object "java/lang/AbstractStringBuilder")) 1 := ⟨⟨RJ4, TJ4, 4, rfl⟩, q1564, q2145, q219, q1565, q77, q1566, by decide, ⟨by decide +kernel, by decide +kernel, by decide +kernel⟩⟩
abbrev M_J4_append_3 : aM := (yJ4_append_3.cls, cJ4_append_3, 2, (Option.some (Jvm.ClassFile.FieldType.object "java/lang/StringBuilder")), [], yJ4_append_3.name)
def t_J4_append_3 (Z : aZ) (h : aH) (o : Nat) (x0 : Int32) : Option (Nat × aH) :=
  if isC 10 h o = true then
  (t_J3_append_3 Z h o x0).bind fun r4 =>
  some (o, r4.2)
  else none
theorem k_J4_append_3 {G : aG} {h : aH} {o : Nat} {x0 : Int32} {e : (Nat × aH)} (hT : t_J4_append_3 (gZ G) h o x0 = some e) : aMet G yJ4_append_3 (ws_ yJ4_append_3 cJ4_append_3 2 (Option.some (Jvm.ClassFile.FieldType.object "java/lang/StringBuilder"))) 3 44 [.ref o, .int x0] h (aEA e.1 e.2) := by
  refine aMet.of (lv := [some (.ref o), some (.int x0)]) (by decide) (Nat.le_of_ble_eq_true rfl) 0 rfl ?_
  have he : aTo (aEA e.1 e.2) (aEA e.1 e.2) := aTo.rf
  unfold t_J4_append_3 at hT
  refine a_aload_n dJ4_append_3_0 rfl ?_
  refine a_iload_n dJ4_append_3_1 rfl ?_
  obtain ⟨g3, hT⟩ := oifg hT
  obtain ⟨r4, e5, hT⟩ := obnd hT
  refine a_callSU ku_J4_50_s g3 (k_J3_append_3 e5) ⟨Nat.le_of_ble_eq_true rfl, Nat.le_of_ble_eq_true rfl⟩ (As := [.int x0]) (rest := []) rfl rfl (Nat.le_of_ble_eq_true rfl) dJ4_append_3_2 (kA ?_) xA
  refine a_pop dJ4_append_3_5 rfl ?_
  refine a_aload_n dJ4_append_3_6 rfl ?_
  obtain rfl := Option.some.inj hT
  exact a_aret rfl (Or.inl ⟨_, rfl⟩) dJ4_append_3_7 (he _ _ ⟨rfl, rfl⟩)
theorem ku_J4_329_s : aKSU "java/lang/StringBuilder" 329 10 yJ3_charAt cJ3_charAt 5 (Option.some Jvm.ClassFile.FieldType.char) 1 := ⟨⟨RJ4, TJ4, 4, rfl⟩, q1605, q2147, q219, q1606, q77, q1607, by decide, ⟨by decide +kernel, by decide +kernel, by decide +kernel⟩⟩
abbrev M_J4_charAt : aM := (yJ4_charAt.cls, cJ4_charAt, 2, (Option.some Jvm.ClassFile.FieldType.char), [], yJ4_charAt.name)
def t_J4_charAt (Z : aZ) (h : aH) (o : Nat) (x0 : Int32) : Option (Int32 × aH) :=
  if isC 10 h o = true then
  (t_J3_charAt Z h o x0).bind fun r4 =>
  if 0 ≤ r4.1 ∧ r4.1 ≤ 65535 then some (r4.1, r4.2) else none
  else none
theorem k_J4_charAt {G : aG} {h : aH} {o : Nat} {x0 : Int32} {e : (Int32 × aH)} (hT : t_J4_charAt (gZ G) h o x0 = some e) : aMet G yJ4_charAt (ws_ yJ4_charAt cJ4_charAt 2 (Option.some Jvm.ClassFile.FieldType.char)) 4 68 [.ref o, .int x0] h (aEI e.1 e.2) := by
  refine aMet.of (lv := [some (.ref o), some (.int x0)]) (by decide) (Nat.le_of_ble_eq_true rfl) 0 rfl ?_
  have he : aTo (aEI e.1 e.2) (aEI e.1 e.2) := aTo.rf
  unfold t_J4_charAt at hT
  refine a_aload_n dJ4_charAt_0 rfl ?_
  refine a_iload_n dJ4_charAt_1 rfl ?_
  obtain ⟨g3, hT⟩ := oifg hT
  obtain ⟨r4, e5, hT⟩ := obnd hT
  refine a_callSU ku_J4_329_s g3 (k_J3_charAt e5) ⟨Nat.le_of_ble_eq_true rfl, Nat.le_of_ble_eq_true rfl⟩ (As := [.int x0]) (rest := []) rfl rfl (Nat.le_of_ble_eq_true rfl) dJ4_charAt_2 (kI ?_) xI
  obtain ⟨g9, hT⟩ := oifg hT
  obtain rfl := Option.some.inj hT
  exact a_iret rfl (nC g9) dJ4_charAt_5 (he _ _ ⟨rfl, rfl⟩)
theorem ku_J4_29_s : aKSU "java/lang/StringBuilder" 29 10 yJ3_append cJ3_append 3 (Option.some (Jvm.ClassFile.FieldType.object "java/lang/AbstractStringBuilder")) 1 := ⟨⟨RJ4, TJ4, 4, rfl⟩, q1364, q2137, q219, q1365, q77, q1366, by decide, ⟨by decide +kernel, by decide +kernel, by decide +kernel⟩⟩
abbrev M_J4_append : aM := (yJ4_append.cls, cJ4_append, 2, (Option.some (Jvm.ClassFile.FieldType.object "java/lang/StringBuilder")), [], yJ4_append.name)
def t_J4_append (Z : aZ) (h : aH) (o : Nat) (x0 : Nat) : Option (Nat × aH) :=
  if isC 10 h o = true then
  (t_J3_append Z h o x0).bind fun r4 =>
  some (o, r4.2)
  else none
theorem k_J4_append {G : aG} {h : aH} {o : Nat} {x0 : Nat} {e : (Nat × aH)} (hT : t_J4_append (gZ G) h o x0 = some e) : aMet G yJ4_append (ws_ yJ4_append cJ4_append 2 (Option.some (Jvm.ClassFile.FieldType.object "java/lang/StringBuilder"))) 5 127 [.ref o, .ref x0] h (aEA e.1 e.2) := by
  refine aMet.of (lv := [some (.ref o), some (.ref x0)]) (by decide) (Nat.le_of_ble_eq_true rfl) 0 rfl ?_
  have he : aTo (aEA e.1 e.2) (aEA e.1 e.2) := aTo.rf
  unfold t_J4_append at hT
  refine a_aload_n dJ4_append_0 rfl ?_
  refine a_aload_n dJ4_append_1 rfl ?_
  obtain ⟨g3, hT⟩ := oifg hT
  obtain ⟨r4, e5, hT⟩ := obnd hT
  refine a_callSU ku_J4_29_s g3 (k_J3_append e5) ⟨Nat.le_of_ble_eq_true rfl, Nat.le_of_ble_eq_true rfl⟩ (As := [.ref x0]) (rest := []) rfl rfl (Nat.le_of_ble_eq_true rfl) dJ4_append_2 (kA ?_) xA
  refine a_pop dJ4_append_5 rfl ?_
  refine a_aload_n dJ4_append_6 rfl ?_
  obtain rfl := Option.some.inj hT
  exact a_aret rfl (Or.inl ⟨_, rfl⟩) dJ4_append_7 (he _ _ ⟨rfl, rfl⟩)
theorem fp_J8_7_5i : aFP "java/lang/Throwable" 7 5 0 (.object "java/lang/Throwable") "<init>" := ⟨RX7, TX7, 9, "java/lang/Throwable", tyX7, rfl, in_X7, by decide, Or.inl rfl, Or.inl q371, tyX7_ok, nmX7, rfl, Or.inl rfl⟩
theorem fp_J8_17_5i : aFP "java/lang/Throwable" 17 5 1 (.array (.object "java/lang/StackTraceElement")) "<init>" := ⟨RX7, TX7, 9, "java/lang/Throwable", tyX7, rfl, in_X7, by decide, Or.inl rfl, Or.inl q372, tyX7_ok, nmX7, rfl, Or.inl rfl⟩
theorem fp_J8_24_5i : aFP "java/lang/Throwable" 24 5 2 (.object "java/util/List") "<init>" := ⟨RX7, TX7, 9, "java/lang/Throwable", tyX7, rfl, in_X7, by decide, Or.inl rfl, Or.inl q373, tyX7_ok, nmX7, rfl, Or.inl rfl⟩
theorem fp_J8_31_5i : aFP "java/lang/Throwable" 31 5 3 (.object "java/lang/String") "<init>" := ⟨RX7, TX7, 9, "java/lang/Throwable", tyX7, rfl, in_X7, by decide, Or.inl rfl, Or.inl q370, tyX7_ok, nmX7, rfl, Or.inl rfl⟩
abbrev M_J8_init_2_5 : aM := (yJ8_init_2.cls, cJ8_init_2, 5, (Option.none : Option Jvm.ClassFile.FieldType), [], yJ8_init_2.name)
def t_J8_init_2_5_l41 (Z : aZ) (h : aH) (v0 : Nat) (v3 : Int32) : Option (Unit × aH) :=
  (pF 5 3 Z h v0 (.null)).bind fun h11 =>
  (pF 5 0 Z h11 v0 (.null)).bind fun h13 =>
  if v3 = 0 then
    (pF 5 2 Z h13 v0 (.null)).bind fun h16 =>
    some ((), h16)
  else
    some ((), h13)
theorem k_J8_init_2_5_l41 {G : aG} {h0 : aH} {K : aRes → aH → Prop} {h : aH} {v0 : Nat} {v3 : Int32} {e : (Unit × aH)} (hT : t_J8_init_2_5_l41 (gZ G) h v0 v3 = some e) (he : (fun e => aTo (aEV e.1 e.2) K) e) : aW G M_J8_init_2_5 1 12 h0 K h 41 [some (.ref v0), some (.null), some (.null), some (.int v3), none] [] := by
  unfold t_J8_init_2_5_l41 at hT
  refine a_aload_n dJ8_init_2_41 rfl ?_
  refine a_aload_nN dJ8_init_2_42 rfl ?_
  obtain ⟨h11, e10, hT⟩ := obnd hT
  refine a_put fp_J8_31_5i ⟨rfl, rfl⟩ e10 dJ8_init_2_43 ?_
  refine a_aload_n dJ8_init_2_46 rfl ?_
  refine a_aload_nN dJ8_init_2_47 rfl ?_
  obtain ⟨h13, e12, hT⟩ := obnd hT
  refine a_put fp_J8_7_5i ⟨rfl, rfl⟩ e12 dJ8_init_2_48 ?_
  refine a_iload_n dJ8_init_2_51 rfl ?_
  refine a_if_ne 60 dJ8_init_2_52 rfl (fun c14 => ?_) (fun c14 => ?_)
  · have hT := oifn c14 hT
    obtain rfl := Option.some.inj hT
    exact a_vret rfl dJ8_init_2_60 (he _ _ ⟨rfl, rfl⟩)
  · have hT := oifp c14 hT
    refine a_aload_n dJ8_init_2_55 rfl ?_
    refine a_null dJ8_init_2_56 ?_
    obtain ⟨h16, e15, hT⟩ := obnd hT
    refine a_put fp_J8_24_5i ⟨rfl, rfl⟩ e15 dJ8_init_2_57 ?_
    obtain rfl := Option.some.inj hT
    exact a_vret rfl dJ8_init_2_60 (he _ _ ⟨rfl, rfl⟩)
def t_J8_init_2_5 (Z : aZ) (h : aH) (o : Nat) (x2 : Int32) (x3 : Int32) : Option (Unit × aH) :=
  (pF 5 0 Z h o (.ref o)).bind fun h2 =>
  (pF 5 1 Z h2 o (va_rf (znq Z 0))).bind fun h4 =>
  (pF 5 2 Z h4 o (va_rf (znq Z 1))).bind fun h6 =>
  if x3 = 0 then
    (pF 5 1 Z h6 o (.null)).bind fun h9 =>
    t_J8_init_2_5_l41 Z h9 o x2
  else
    none
theorem k_J8_init_2_5 {G : aG} {h : aH} {o : Nat} {x2 : Int32} {x3 : Int32} {e : (Unit × aH)} (hT : t_J8_init_2_5 (gZ G) h o x2 x3 = some e) : aMet G yJ8_init_2 (ws_ yJ8_init_2 cJ8_init_2 5 (Option.none : Option Jvm.ClassFile.FieldType)) 1 12 [.ref o, .null, .null, .int x2, .int x3] h (aEV e.1 e.2) := by
  refine aMet.of (lv := [some (.ref o), some (.null), some (.null), some (.int x2), some (.int x3)]) (by decide) (Nat.le_of_ble_eq_true rfl) 0 rfl ?_
  have he : aTo (aEV e.1 e.2) (aEV e.1 e.2) := aTo.rf
  unfold t_J8_init_2_5 at hT
  refine a_aload_n dJ8_init_2_0 rfl ?_
  refine a_objInit q336 q_oi q_oc (by decide) (Nat.le_of_ble_eq_true rfl) dJ8_init_2_1 ?_
  refine a_aload_n dJ8_init_2_4 rfl ?_
  refine a_aload_n dJ8_init_2_5 rfl ?_
  obtain ⟨h2, e1, hT⟩ := obnd hT
  refine a_put fp_J8_7_5i ⟨rfl, rfl⟩ e1 dJ8_init_2_6 ?_
  refine a_aload_n dJ8_init_2_9 rfl ?_
  refine a_gets (k := 4) rfl q337 dJ8_init_2_10 ?_
  obtain ⟨h4, e3, hT⟩ := obnd hT
  refine a_put fp_J8_17_5i (nOA _) e3 dJ8_init_2_13 ?_
  refine a_aload_n dJ8_init_2_16 rfl ?_
  refine a_gets (k := 5) rfl q339 dJ8_init_2_17 ?_
  obtain ⟨h6, e5, hT⟩ := obnd hT
  refine a_put fp_J8_24_5i (nO _) e5 dJ8_init_2_20 ?_
  refine a_iload dJ8_init_2_23 rfl ?_
  refine a_if_eq 36 dJ8_init_2_25 rfl (fun c7 => ?_) (fun c7 => ?_)
  · have hT := oifp c7 hT
    refine a_aload_n dJ8_init_2_36 rfl ?_
    refine a_null dJ8_init_2_37 ?_
    obtain ⟨h9, e8, hT⟩ := obnd hT
    refine a_put fp_J8_17_5i ⟨rfl, rfl⟩ e8 dJ8_init_2_38 ?_
    refine a_mask [true, true, true, true, false] ?_
    exact k_J8_init_2_5_l41 hT he
  · have hT := oifn c7 hT
    refine a_aload_n dJ8_init_2_28 rfl ?_
    cases hT
theorem ki_J9_16 : aKI "java/lang/Exception" 16 yJ8_init_2 cJ8_init_2 5 4 := ⟨rfl, Or.inl q659, q660, q83, q661, ⟨by decide +kernel, by decide +kernel, by decide +kernel⟩⟩
abbrev M_J9_init_2_5 : aM := (yJ9_init_2.cls, cJ9_init_2, 5, (Option.none : Option Jvm.ClassFile.FieldType), [], yJ9_init_2.name)
def t_J9_init_2_5 (Z : aZ) (h : aH) (o : Nat) (x2 : Int32) (x3 : Int32) : Option (Unit × aH) :=
  (t_J8_init_2_5 Z h o x2 x3).bind fun r3 =>
  some ((), r3.2)
theorem k_J9_init_2_5 {G : aG} {h : aH} {o : Nat} {x2 : Int32} {x3 : Int32} {e : (Unit × aH)} (hT : t_J9_init_2_5 (gZ G) h o x2 x3 = some e) : aMet G yJ9_init_2 (ws_ yJ9_init_2 cJ9_init_2 5 (Option.none : Option Jvm.ClassFile.FieldType)) 2 36 [.ref o, .null, .null, .int x2, .int x3] h (aEV e.1 e.2) := by
  refine aMet.of (lv := [some (.ref o), some (.null), some (.null), some (.int x2), some (.int x3)]) (by decide) (Nat.le_of_ble_eq_true rfl) 0 rfl ?_
  have he : aTo (aEV e.1 e.2) (aEV e.1 e.2) := aTo.rf
  unfold t_J9_init_2_5 at hT
  refine a_aload_n dJ9_init_2_0 rfl ?_
  refine a_aload_nN dJ9_init_2_1 rfl ?_
  refine a_aload_nN dJ9_init_2_2 rfl ?_
  refine a_iload_n dJ9_init_2_3 rfl ?_
  refine a_iload dJ9_init_2_4 rfl ?_
  obtain ⟨r3, e4, hT⟩ := obnd hT
  refine a_callI ki_J9_16 (k_J8_init_2_5 e4) ⟨Nat.le_of_ble_eq_true rfl, Nat.le_of_ble_eq_true rfl⟩ (As := [.null, .null, .int x2, .int x3]) (rest := []) rfl rfl (Nat.le_of_ble_eq_true rfl) dJ9_init_2_6 (kV ?_) xV
  obtain rfl := Option.some.inj hT
  exact a_vret rfl dJ9_init_2_9 (he _ _ ⟨rfl, rfl⟩)
theorem fp_J8_7_7i : aFP "java/lang/Throwable" 7 7 0 (.object "java/lang/Throwable") "<init>" := ⟨RX9, TX9, 7, "java/lang/Throwable", tyX9, rfl, in_X9, by decide, Or.inl rfl, Or.inl q371, tyX9_ok, nmX9, rfl, Or.inl rfl⟩
theorem fp_J8_17_7i : aFP "java/lang/Throwable" 17 7 1 (.array (.object "java/lang/StackTraceElement")) "<init>" := ⟨RX9, TX9, 7, "java/lang/Throwable", tyX9, rfl, in_X9, by decide, Or.inl rfl, Or.inl q372, tyX9_ok, nmX9, rfl, Or.inl rfl⟩
theorem fp_J8_24_7i : aFP "java/lang/Throwable" 24 7 2 (.object "java/util/List") "<init>" := ⟨RX9, TX9, 7, "java/lang/Throwable", tyX9, rfl, in_X9, by decide, Or.inl rfl, Or.inl q373, tyX9_ok, nmX9, rfl, Or.inl rfl⟩
theorem fp_J8_31_7i : aFP "java/lang/Throwable" 31 7 3 (.object "java/lang/String") "<init>" := ⟨RX9, TX9, 7, "java/lang/Throwable", tyX9, rfl, in_X9, by decide, Or.inl rfl, Or.inl q370, tyX9_ok, nmX9, rfl, Or.inl rfl⟩
abbrev M_J8_init_2_7 : aM := (yJ8_init_2.cls, cJ8_init_2, 5, (Option.none : Option Jvm.ClassFile.FieldType), [], yJ8_init_2.name)
def t_J8_init_2_7_l41 (Z : aZ) (h : aH) (v0 : Nat) (v3 : Int32) : Option (Unit × aH) :=
  (pF 7 3 Z h v0 (.null)).bind fun h11 =>
  (pF 7 0 Z h11 v0 (.null)).bind fun h13 =>
  if v3 = 0 then
    (pF 7 2 Z h13 v0 (.null)).bind fun h16 =>
    some ((), h16)
  else
    some ((), h13)
theorem k_J8_init_2_7_l41 {G : aG} {h0 : aH} {K : aRes → aH → Prop} {h : aH} {v0 : Nat} {v3 : Int32} {e : (Unit × aH)} (hT : t_J8_init_2_7_l41 (gZ G) h v0 v3 = some e) (he : (fun e => aTo (aEV e.1 e.2) K) e) : aW G M_J8_init_2_7 1 12 h0 K h 41 [some (.ref v0), some (.null), some (.null), some (.int v3), none] [] := by
  unfold t_J8_init_2_7_l41 at hT
  refine a_aload_n dJ8_init_2_41 rfl ?_
  refine a_aload_nN dJ8_init_2_42 rfl ?_
  obtain ⟨h11, e10, hT⟩ := obnd hT
  refine a_put fp_J8_31_7i ⟨rfl, rfl⟩ e10 dJ8_init_2_43 ?_
  refine a_aload_n dJ8_init_2_46 rfl ?_
  refine a_aload_nN dJ8_init_2_47 rfl ?_
  obtain ⟨h13, e12, hT⟩ := obnd hT
  refine a_put fp_J8_7_7i ⟨rfl, rfl⟩ e12 dJ8_init_2_48 ?_
  refine a_iload_n dJ8_init_2_51 rfl ?_
  refine a_if_ne 60 dJ8_init_2_52 rfl (fun c14 => ?_) (fun c14 => ?_)
  · have hT := oifn c14 hT
    obtain rfl := Option.some.inj hT
    exact a_vret rfl dJ8_init_2_60 (he _ _ ⟨rfl, rfl⟩)
  · have hT := oifp c14 hT
    refine a_aload_n dJ8_init_2_55 rfl ?_
    refine a_null dJ8_init_2_56 ?_
    obtain ⟨h16, e15, hT⟩ := obnd hT
    refine a_put fp_J8_24_7i ⟨rfl, rfl⟩ e15 dJ8_init_2_57 ?_
    obtain rfl := Option.some.inj hT
    exact a_vret rfl dJ8_init_2_60 (he _ _ ⟨rfl, rfl⟩)
def t_J8_init_2_7 (Z : aZ) (h : aH) (o : Nat) (x2 : Int32) (x3 : Int32) : Option (Unit × aH) :=
  (pF 7 0 Z h o (.ref o)).bind fun h2 =>
  (pF 7 1 Z h2 o (va_rf (znq Z 0))).bind fun h4 =>
  (pF 7 2 Z h4 o (va_rf (znq Z 1))).bind fun h6 =>
  if x3 = 0 then
    (pF 7 1 Z h6 o (.null)).bind fun h9 =>
    t_J8_init_2_7_l41 Z h9 o x2
  else
    none
theorem k_J8_init_2_7 {G : aG} {h : aH} {o : Nat} {x2 : Int32} {x3 : Int32} {e : (Unit × aH)} (hT : t_J8_init_2_7 (gZ G) h o x2 x3 = some e) : aMet G yJ8_init_2 (ws_ yJ8_init_2 cJ8_init_2 5 (Option.none : Option Jvm.ClassFile.FieldType)) 1 12 [.ref o, .null, .null, .int x2, .int x3] h (aEV e.1 e.2) := by
  refine aMet.of (lv := [some (.ref o), some (.null), some (.null), some (.int x2), some (.int x3)]) (by decide) (Nat.le_of_ble_eq_true rfl) 0 rfl ?_
  have he : aTo (aEV e.1 e.2) (aEV e.1 e.2) := aTo.rf
  unfold t_J8_init_2_7 at hT
  refine a_aload_n dJ8_init_2_0 rfl ?_
  refine a_objInit q336 q_oi q_oc (by decide) (Nat.le_of_ble_eq_true rfl) dJ8_init_2_1 ?_
  refine a_aload_n dJ8_init_2_4 rfl ?_
  refine a_aload_n dJ8_init_2_5 rfl ?_
  obtain ⟨h2, e1, hT⟩ := obnd hT
  refine a_put fp_J8_7_7i ⟨rfl, rfl⟩ e1 dJ8_init_2_6 ?_
  refine a_aload_n dJ8_init_2_9 rfl ?_
  refine a_gets (k := 4) rfl q337 dJ8_init_2_10 ?_
  obtain ⟨h4, e3, hT⟩ := obnd hT
  refine a_put fp_J8_17_7i (nOA _) e3 dJ8_init_2_13 ?_
  refine a_aload_n dJ8_init_2_16 rfl ?_
  refine a_gets (k := 5) rfl q339 dJ8_init_2_17 ?_
  obtain ⟨h6, e5, hT⟩ := obnd hT
  refine a_put fp_J8_24_7i (nO _) e5 dJ8_init_2_20 ?_
  refine a_iload dJ8_init_2_23 rfl ?_
  refine a_if_eq 36 dJ8_init_2_25 rfl (fun c7 => ?_) (fun c7 => ?_)
  · have hT := oifp c7 hT
    refine a_aload_n dJ8_init_2_36 rfl ?_
    refine a_null dJ8_init_2_37 ?_
    obtain ⟨h9, e8, hT⟩ := obnd hT
    refine a_put fp_J8_17_7i ⟨rfl, rfl⟩ e8 dJ8_init_2_38 ?_
    refine a_mask [true, true, true, true, false] ?_
    exact k_J8_init_2_7_l41 hT he
  · have hT := oifn c7 hT
    refine a_aload_n dJ8_init_2_28 rfl ?_
    cases hT
abbrev M_J9_init_2_7 : aM := (yJ9_init_2.cls, cJ9_init_2, 5, (Option.none : Option Jvm.ClassFile.FieldType), [], yJ9_init_2.name)
def t_J9_init_2_7 (Z : aZ) (h : aH) (o : Nat) (x2 : Int32) (x3 : Int32) : Option (Unit × aH) :=
  (t_J8_init_2_7 Z h o x2 x3).bind fun r3 =>
  some ((), r3.2)
theorem k_J9_init_2_7 {G : aG} {h : aH} {o : Nat} {x2 : Int32} {x3 : Int32} {e : (Unit × aH)} (hT : t_J9_init_2_7 (gZ G) h o x2 x3 = some e) : aMet G yJ9_init_2 (ws_ yJ9_init_2 cJ9_init_2 5 (Option.none : Option Jvm.ClassFile.FieldType)) 2 36 [.ref o, .null, .null, .int x2, .int x3] h (aEV e.1 e.2) := by
  refine aMet.of (lv := [some (.ref o), some (.null), some (.null), some (.int x2), some (.int x3)]) (by decide) (Nat.le_of_ble_eq_true rfl) 0 rfl ?_
  have he : aTo (aEV e.1 e.2) (aEV e.1 e.2) := aTo.rf
  unfold t_J9_init_2_7 at hT
  refine a_aload_n dJ9_init_2_0 rfl ?_
  refine a_aload_nN dJ9_init_2_1 rfl ?_
  refine a_aload_nN dJ9_init_2_2 rfl ?_
  refine a_iload_n dJ9_init_2_3 rfl ?_
  refine a_iload dJ9_init_2_4 rfl ?_
  obtain ⟨r3, e4, hT⟩ := obnd hT
  refine a_callI ki_J9_16 (k_J8_init_2_7 e4) ⟨Nat.le_of_ble_eq_true rfl, Nat.le_of_ble_eq_true rfl⟩ (As := [.null, .null, .int x2, .int x3]) (rest := []) rfl rfl (Nat.le_of_ble_eq_true rfl) dJ9_init_2_6 (kV ?_) xV
  obtain rfl := Option.some.inj hT
  exact a_vret rfl dJ9_init_2_9 (he _ _ ⟨rfl, rfl⟩)
theorem fp_X4_9_3i : aFP "MazeBonds$Somebody" 9 3 0 .int "<init>" := ⟨RX5, TX5, 4, "MazeBonds$Somebody", tyX5, rfl, in_X5, by decide, Or.inl rfl, Or.inl q411, tyX5_ok, nmX5, rfl, Or.inl rfl⟩
abbrev M_X4_init_3 : aM := (yX4_init.cls, cX4_init, 2, (Option.none : Option Jvm.ClassFile.FieldType), [], yX4_init.name)
def t_X4_init_3 (Z : aZ) (h : aH) (o : Nat) (x0 : Int32) : Option (Unit × aH) :=
  (pF 3 0 Z h o (.int x0)).bind fun h2 =>
  some ((), h2)
theorem k_X4_init_3 {G : aG} {h : aH} {o : Nat} {x0 : Int32} {e : (Unit × aH)} (hT : t_X4_init_3 (gZ G) h o x0 = some e) : aMet G yX4_init (ws_ yX4_init cX4_init 2 (Option.none : Option Jvm.ClassFile.FieldType)) 1 12 [.ref o, .int x0] h (aEV e.1 e.2) := by
  refine aMet.of (lv := [some (.ref o), some (.int x0)]) (by decide) (Nat.le_of_ble_eq_true rfl) 0 rfl ?_
  have he : aTo (aEV e.1 e.2) (aEV e.1 e.2) := aTo.rf
  unfold t_X4_init_3 at hT
  refine a_aload_n dX4_init_0 rfl ?_
  refine a_objInit q401 q_oi q_oc (by decide) (Nat.le_of_ble_eq_true rfl) dX4_init_1 ?_
  refine a_aload_n dX4_init_4 rfl ?_
  refine a_iload_n dX4_init_5 rfl ?_
  obtain ⟨h2, e1, hT⟩ := obnd hT
  refine a_put fp_X4_9_3i ⟨rfl, rfl⟩ e1 dX4_init_6 ?_
  obtain rfl := Option.some.inj hT
  exact a_vret rfl dX4_init_9 (he _ _ ⟨rfl, rfl⟩)
theorem fl_X4_9_3 : aFL "MazeBonds$Somebody" 9 3 0 := ⟨RX5, TX5, 4, "MazeBonds$Somebody", rfl, in_X5, by decide, Or.inl rfl, Or.inl q411⟩
abbrev M_X4_coins_3 : aM := (yX4_coins.cls, cX4_coins, 1, (Option.some Jvm.ClassFile.FieldType.int), [], yX4_coins.name)
def t_X4_coins_3 (Z : aZ) (h : aH) (o : Nat) : Option (Int32 × aH) :=
  (gI 3 0 h o).bind fun z2 =>
  some (z2, h)
theorem k_X4_coins_3 {G : aG} {h : aH} {o : Nat} {e : (Int32 × aH)} (hT : t_X4_coins_3 (gZ G) h o = some e) : aMet G yX4_coins (ws_ yX4_coins cX4_coins 1 (Option.some Jvm.ClassFile.FieldType.int)) 1 1 [.ref o] h (aEI e.1 e.2) := by
  refine aMet.of (lv := [some (.ref o)]) (by decide) (Nat.le_of_ble_eq_true rfl) 0 rfl ?_
  have he : aTo (aEI e.1 e.2) (aEI e.1 e.2) := aTo.rf
  unfold t_X4_coins_3 at hT
  refine a_aload_n dX4_coins_0 rfl ?_
  obtain ⟨z2, e1, hT⟩ := obnd hT
  refine a_gI fl_X4_9_3 e1 dX4_coins_1 ?_
  obtain rfl := Option.some.inj hT
  exact a_iret rfl rfl dX4_coins_4 (he _ _ ⟨rfl, rfl⟩)
theorem fp_X4_9_3 (nm9 : String) : aFP "MazeBonds$Somebody" 9 3 0 .int nm9 := ⟨RX5, TX5, 4, "MazeBonds$Somebody", tyX5, rfl, in_X5, by decide, Or.inl rfl, Or.inl q411, tyX5_ok, nmX5, rfl, Or.inl rfl⟩
abbrev M_X4_get_3 : aM := (yX4_get.cls, cX4_get, 2, (Option.none : Option Jvm.ClassFile.FieldType), [], yX4_get.name)
def t_X4_get_3 (Z : aZ) (h : aH) (o : Nat) (x0 : Int32) : Option (Unit × aH) :=
  (gI 3 0 h o).bind fun z2 =>
  (pF 3 0 Z h o (.int (z2 + x0))).bind fun h4 =>
  some ((), h4)
theorem k_X4_get_3 {G : aG} {h : aH} {o : Nat} {x0 : Int32} {e : (Unit × aH)} (hT : t_X4_get_3 (gZ G) h o x0 = some e) : aMet G yX4_get (ws_ yX4_get cX4_get 2 (Option.none : Option Jvm.ClassFile.FieldType)) 1 1 [.ref o, .int x0] h (aEV e.1 e.2) := by
  refine aMet.of (lv := [some (.ref o), some (.int x0)]) (by decide) (Nat.le_of_ble_eq_true rfl) 0 rfl ?_
  have he : aTo (aEV e.1 e.2) (aEV e.1 e.2) := aTo.rf
  unfold t_X4_get_3 at hT
  refine a_aload_n dX4_get_0 rfl ?_
  refine a_dup dX4_get_1 rfl ?_
  obtain ⟨z2, e1, hT⟩ := obnd hT
  refine a_gI fl_X4_9_3 e1 dX4_get_2 ?_
  refine a_iload_n dX4_get_5 rfl ?_
  refine a_iadd dX4_get_6 ?_
  obtain ⟨h4, e3, hT⟩ := obnd hT
  refine a_put (fp_X4_9_3 _) ⟨rfl, rfl⟩ e3 dX4_get_7 ?_
  obtain rfl := Option.some.inj hT
  exact a_vret rfl dX4_get_10 (he _ _ ⟨rfl, rfl⟩)
abbrev M_X4_payUpTo_3 : aM := (yX4_payUpTo.cls, cX4_payUpTo, 3, (Option.some Jvm.ClassFile.FieldType.int), [], yX4_payUpTo.name)
def t_X4_payUpTo_3 (Z : aZ) (h : aH) (o : Nat) (x0 : Int32) : Option (Int32 × aH) :=
  (gI 3 0 h o).bind fun z2 =>
  (gI 3 0 h o).bind fun z4 =>
  (pF 3 0 Z h o (.int (z4 - (jmin z2 x0)))).bind fun h6 =>
  some ((jmin z2 x0), h6)
theorem k_X4_payUpTo_3 {G : aG} {h : aH} {o : Nat} {x0 : Int32} {e : (Int32 × aH)} (hT : t_X4_payUpTo_3 (gZ G) h o x0 = some e) : aMet G yX4_payUpTo (ws_ yX4_payUpTo cX4_payUpTo 3 (Option.some Jvm.ClassFile.FieldType.int)) 1 40 [.ref o, .int x0] h (aEI e.1 e.2) := by
  refine aMet.of (lv := [some (.ref o), some (.int x0), none]) (by decide) (Nat.le_of_ble_eq_true rfl) 1 rfl ?_
  have he : aTo (aEI e.1 e.2) (aEI e.1 e.2) := aTo.rf
  unfold t_X4_payUpTo_3 at hT
  refine a_aload_n dX4_payUpTo_0 rfl ?_
  obtain ⟨z2, e1, hT⟩ := obnd hT
  refine a_gI fl_X4_9_3 e1 dX4_payUpTo_1 ?_
  refine a_iload_n dX4_payUpTo_4 rfl ?_
  refine a_mmin q857 q481 q90 q482 (by decide) (Nat.le_of_ble_eq_true rfl) dX4_payUpTo_5 ?_
  refine a_istore_n (lv' := [some (.ref o), some (.int x0), some (.int (jmin z2 x0))]) dX4_payUpTo_8 rfl (by decide) rfl ?_
  refine a_aload_n dX4_payUpTo_9 rfl ?_
  refine a_dup dX4_payUpTo_10 rfl ?_
  obtain ⟨z4, e3, hT⟩ := obnd hT
  refine a_gI fl_X4_9_3 e3 dX4_payUpTo_11 ?_
  refine a_iload_n dX4_payUpTo_14 rfl ?_
  refine a_isub dX4_payUpTo_15 ?_
  obtain ⟨h6, e5, hT⟩ := obnd hT
  refine a_put (fp_X4_9_3 _) ⟨rfl, rfl⟩ e5 dX4_payUpTo_16 ?_
  refine a_iload_n dX4_payUpTo_19 rfl ?_
  obtain rfl := Option.some.inj hT
  exact a_iret rfl rfl dX4_payUpTo_20 (he _ _ ⟨rfl, rfl⟩)
theorem fp_X4_9_4i : aFP "MazeBonds$Somebody" 9 4 0 .int "<init>" := ⟨RX6, TX6, 7, "MazeBonds$Somebody", tyX6, rfl, in_X6, by decide, Or.inl rfl, Or.inl q411, tyX6_ok, nmX6, rfl, Or.inl rfl⟩
abbrev M_X4_init_4 : aM := (yX4_init.cls, cX4_init, 2, (Option.none : Option Jvm.ClassFile.FieldType), [], yX4_init.name)
def t_X4_init_4 (Z : aZ) (h : aH) (o : Nat) (x0 : Int32) : Option (Unit × aH) :=
  (pF 4 0 Z h o (.int x0)).bind fun h2 =>
  some ((), h2)
theorem k_X4_init_4 {G : aG} {h : aH} {o : Nat} {x0 : Int32} {e : (Unit × aH)} (hT : t_X4_init_4 (gZ G) h o x0 = some e) : aMet G yX4_init (ws_ yX4_init cX4_init 2 (Option.none : Option Jvm.ClassFile.FieldType)) 1 12 [.ref o, .int x0] h (aEV e.1 e.2) := by
  refine aMet.of (lv := [some (.ref o), some (.int x0)]) (by decide) (Nat.le_of_ble_eq_true rfl) 0 rfl ?_
  have he : aTo (aEV e.1 e.2) (aEV e.1 e.2) := aTo.rf
  unfold t_X4_init_4 at hT
  refine a_aload_n dX4_init_0 rfl ?_
  refine a_objInit q401 q_oi q_oc (by decide) (Nat.le_of_ble_eq_true rfl) dX4_init_1 ?_
  refine a_aload_n dX4_init_4 rfl ?_
  refine a_iload_n dX4_init_5 rfl ?_
  obtain ⟨h2, e1, hT⟩ := obnd hT
  refine a_put fp_X4_9_4i ⟨rfl, rfl⟩ e1 dX4_init_6 ?_
  obtain rfl := Option.some.inj hT
  exact a_vret rfl dX4_init_9 (he _ _ ⟨rfl, rfl⟩)
theorem fl_X4_9_4 : aFL "MazeBonds$Somebody" 9 4 0 := ⟨RX6, TX6, 7, "MazeBonds$Somebody", rfl, in_X6, by decide, Or.inl rfl, Or.inl q411⟩
abbrev M_X4_coins_4 : aM := (yX4_coins.cls, cX4_coins, 1, (Option.some Jvm.ClassFile.FieldType.int), [], yX4_coins.name)
def t_X4_coins_4 (Z : aZ) (h : aH) (o : Nat) : Option (Int32 × aH) :=
  (gI 4 0 h o).bind fun z2 =>
  some (z2, h)
theorem k_X4_coins_4 {G : aG} {h : aH} {o : Nat} {e : (Int32 × aH)} (hT : t_X4_coins_4 (gZ G) h o = some e) : aMet G yX4_coins (ws_ yX4_coins cX4_coins 1 (Option.some Jvm.ClassFile.FieldType.int)) 1 1 [.ref o] h (aEI e.1 e.2) := by
  refine aMet.of (lv := [some (.ref o)]) (by decide) (Nat.le_of_ble_eq_true rfl) 0 rfl ?_
  have he : aTo (aEI e.1 e.2) (aEI e.1 e.2) := aTo.rf
  unfold t_X4_coins_4 at hT
  refine a_aload_n dX4_coins_0 rfl ?_
  obtain ⟨z2, e1, hT⟩ := obnd hT
  refine a_gI fl_X4_9_4 e1 dX4_coins_1 ?_
  obtain rfl := Option.some.inj hT
  exact a_iret rfl rfl dX4_coins_4 (he _ _ ⟨rfl, rfl⟩)
theorem fp_X4_9_4 (nm9 : String) : aFP "MazeBonds$Somebody" 9 4 0 .int nm9 := ⟨RX6, TX6, 7, "MazeBonds$Somebody", tyX6, rfl, in_X6, by decide, Or.inl rfl, Or.inl q411, tyX6_ok, nmX6, rfl, Or.inl rfl⟩
abbrev M_X4_get_4 : aM := (yX4_get.cls, cX4_get, 2, (Option.none : Option Jvm.ClassFile.FieldType), [], yX4_get.name)
def t_X4_get_4 (Z : aZ) (h : aH) (o : Nat) (x0 : Int32) : Option (Unit × aH) :=
  (gI 4 0 h o).bind fun z2 =>
  (pF 4 0 Z h o (.int (z2 + x0))).bind fun h4 =>
  some ((), h4)
theorem k_X4_get_4 {G : aG} {h : aH} {o : Nat} {x0 : Int32} {e : (Unit × aH)} (hT : t_X4_get_4 (gZ G) h o x0 = some e) : aMet G yX4_get (ws_ yX4_get cX4_get 2 (Option.none : Option Jvm.ClassFile.FieldType)) 1 1 [.ref o, .int x0] h (aEV e.1 e.2) := by
  refine aMet.of (lv := [some (.ref o), some (.int x0)]) (by decide) (Nat.le_of_ble_eq_true rfl) 0 rfl ?_
  have he : aTo (aEV e.1 e.2) (aEV e.1 e.2) := aTo.rf
  unfold t_X4_get_4 at hT
  refine a_aload_n dX4_get_0 rfl ?_
  refine a_dup dX4_get_1 rfl ?_
  obtain ⟨z2, e1, hT⟩ := obnd hT
  refine a_gI fl_X4_9_4 e1 dX4_get_2 ?_
  refine a_iload_n dX4_get_5 rfl ?_
  refine a_iadd dX4_get_6 ?_
  obtain ⟨h4, e3, hT⟩ := obnd hT
  refine a_put (fp_X4_9_4 _) ⟨rfl, rfl⟩ e3 dX4_get_7 ?_
  obtain rfl := Option.some.inj hT
  exact a_vret rfl dX4_get_10 (he _ _ ⟨rfl, rfl⟩)
abbrev M_X4_payUpTo_4 : aM := (yX4_payUpTo.cls, cX4_payUpTo, 3, (Option.some Jvm.ClassFile.FieldType.int), [], yX4_payUpTo.name)
def t_X4_payUpTo_4 (Z : aZ) (h : aH) (o : Nat) (x0 : Int32) : Option (Int32 × aH) :=
  (gI 4 0 h o).bind fun z2 =>
  (gI 4 0 h o).bind fun z4 =>
  (pF 4 0 Z h o (.int (z4 - (jmin z2 x0)))).bind fun h6 =>
  some ((jmin z2 x0), h6)
theorem k_X4_payUpTo_4 {G : aG} {h : aH} {o : Nat} {x0 : Int32} {e : (Int32 × aH)} (hT : t_X4_payUpTo_4 (gZ G) h o x0 = some e) : aMet G yX4_payUpTo (ws_ yX4_payUpTo cX4_payUpTo 3 (Option.some Jvm.ClassFile.FieldType.int)) 1 40 [.ref o, .int x0] h (aEI e.1 e.2) := by
  refine aMet.of (lv := [some (.ref o), some (.int x0), none]) (by decide) (Nat.le_of_ble_eq_true rfl) 1 rfl ?_
  have he : aTo (aEI e.1 e.2) (aEI e.1 e.2) := aTo.rf
  unfold t_X4_payUpTo_4 at hT
  refine a_aload_n dX4_payUpTo_0 rfl ?_
  obtain ⟨z2, e1, hT⟩ := obnd hT
  refine a_gI fl_X4_9_4 e1 dX4_payUpTo_1 ?_
  refine a_iload_n dX4_payUpTo_4 rfl ?_
  refine a_mmin q857 q481 q90 q482 (by decide) (Nat.le_of_ble_eq_true rfl) dX4_payUpTo_5 ?_
  refine a_istore_n (lv' := [some (.ref o), some (.int x0), some (.int (jmin z2 x0))]) dX4_payUpTo_8 rfl (by decide) rfl ?_
  refine a_aload_n dX4_payUpTo_9 rfl ?_
  refine a_dup dX4_payUpTo_10 rfl ?_
  obtain ⟨z4, e3, hT⟩ := obnd hT
  refine a_gI fl_X4_9_4 e3 dX4_payUpTo_11 ?_
  refine a_iload_n dX4_payUpTo_14 rfl ?_
  refine a_isub dX4_payUpTo_15 ?_
  obtain ⟨h6, e5, hT⟩ := obnd hT
  refine a_put (fp_X4_9_4 _) ⟨rfl, rfl⟩ e5 dX4_payUpTo_16 ?_
  refine a_iload_n dX4_payUpTo_19 rfl ?_
  obtain rfl := Option.some.inj hT
  exact a_iret rfl rfl dX4_payUpTo_20 (he _ _ ⟨rfl, rfl⟩)
theorem fp_X3_9_2i : aFP "MazeBondsModel" 9 2 0 (.array .int) "<init>" := ⟨RX3, TX3, 21, "MazeBondsModel", tyX3, rfl, in_X3, by decide, Or.inl rfl, Or.inl q1703, tyX3_ok, nmX3, rfl, Or.inr ⟨rfl, rfl, rfl, q1703⟩⟩
theorem fp_X3_13_2i : aFP "MazeBondsModel" 13 2 1 (.array .int) "<init>" := ⟨RX3, TX3, 21, "MazeBondsModel", tyX3, rfl, in_X3, by decide, Or.inl rfl, Or.inl q1704, tyX3_ok, nmX3, rfl, Or.inr ⟨rfl, rfl, rfl, q1704⟩⟩
theorem fp_X3_16_2i : aFP "MazeBondsModel" 16 2 2 (.array .int) "<init>" := ⟨RX3, TX3, 21, "MazeBondsModel", tyX3, rfl, in_X3, by decide, Or.inl rfl, Or.inl q1705, tyX3_ok, nmX3, rfl, Or.inr ⟨rfl, rfl, rfl, q1705⟩⟩
theorem fp_X3_19_2i : aFP "MazeBondsModel" 19 2 4 (.array .int) "<init>" := ⟨RX3, TX3, 21, "MazeBondsModel", tyX3, rfl, in_X3, by decide, Or.inl rfl, Or.inl q1707, tyX3_ok, nmX3, rfl, Or.inr ⟨rfl, rfl, rfl, q1707⟩⟩
theorem fp_X3_22_2i : aFP "MazeBondsModel" 22 2 9 .int "<init>" := ⟨RX3, TX3, 21, "MazeBondsModel", tyX3, rfl, in_X3, by decide, Or.inl rfl, Or.inl q1712, tyX3_ok, nmX3, rfl, Or.inl rfl⟩
theorem fp_X3_26_2i : aFP "MazeBondsModel" 26 2 10 (.array .int) "<init>" := ⟨RX3, TX3, 21, "MazeBondsModel", tyX3, rfl, in_X3, by decide, Or.inl rfl, Or.inl q1713, tyX3_ok, nmX3, rfl, Or.inr ⟨rfl, rfl, rfl, q1713⟩⟩
theorem fp_X3_29_2i : aFP "MazeBondsModel" 29 2 13 (.array .int) "<init>" := ⟨RX3, TX3, 21, "MazeBondsModel", tyX3, rfl, in_X3, by decide, Or.inl rfl, Or.inl q1716, tyX3_ok, nmX3, rfl, Or.inr ⟨rfl, rfl, rfl, q1716⟩⟩
theorem fp_X3_32_2i : aFP "MazeBondsModel" 32 2 14 (.array .int) "<init>" := ⟨RX3, TX3, 21, "MazeBondsModel", tyX3, rfl, in_X3, by decide, Or.inl rfl, Or.inl q1717, tyX3_ok, nmX3, rfl, Or.inr ⟨rfl, rfl, rfl, q1717⟩⟩
theorem fp_X3_35_2i : aFP "MazeBondsModel" 35 2 19 (.array .int) "<init>" := ⟨RX3, TX3, 21, "MazeBondsModel", tyX3, rfl, in_X3, by decide, Or.inl rfl, Or.inl q1722, tyX3_ok, nmX3, rfl, Or.inr ⟨rfl, rfl, rfl, q1722⟩⟩
abbrev M_X3_init : aM := (yX3_init.cls, cX3_init, 1, (Option.none : Option Jvm.ClassFile.FieldType), [], yX3_init.name)
def t_X3_init (Z : aZ) (h : aH) (o : Nat) : Option (Unit × aH) :=
  (nwA Z h 86 (fun N => .inl (zI Z, N, .inl fun _ => 0))).bind fun h1 =>
  (pF 2 0 Z h1 o (.ref h.2.1)).bind fun h4 =>
  (nwA Z h4 86 (fun N => .inl (zI Z, N, .inl fun _ => 0))).bind fun h5 =>
  (pF 2 1 Z h5 o (.ref h4.2.1)).bind fun h8 =>
  (nwA Z h8 86 (fun N => .inl (zI Z, N, .inl fun _ => 0))).bind fun h9 =>
  (pF 2 2 Z h9 o (.ref h8.2.1)).bind fun h12 =>
  (nwA Z h12 688 (fun N => .inl (zI Z, N, .inl fun _ => 0))).bind fun h13 =>
  (pF 2 4 Z h13 o (.ref h12.2.1)).bind fun h16 =>
  (pF 2 9 Z h16 o (.int (-1))).bind fun h18 =>
  (nwA Z h18 60 (fun N => .inl (zI Z, N, .inl fun _ => 0))).bind fun h19 =>
  (pF 2 10 Z h19 o (.ref h18.2.1)).bind fun h22 =>
  (nwA Z h22 16 (fun N => .inl (zI Z, N, .inl fun _ => 0))).bind fun h23 =>
  (pF 2 13 Z h23 o (.ref h22.2.1)).bind fun h26 =>
  (nwA Z h26 244 (fun N => .inl (zI Z, N, .inl fun _ => 0))).bind fun h27 =>
  (pF 2 14 Z h27 o (.ref h26.2.1)).bind fun h30 =>
  (nwA Z h30 30 (fun N => .inl (zI Z, N, .inl fun _ => 0))).bind fun h31 =>
  (pF 2 19 Z h31 o (.ref h30.2.1)).bind fun h34 =>
  (gA 2 0 h34 o).bind fun a36 =>
  (stI Z h34 a36 2 (-1)).bind fun h38 =>
  some ((), h38)
theorem k_X3_init {G : aG} {h : aH} {o : Nat} {e : (Unit × aH)} (hT : t_X3_init (gZ G) h o = some e) : aMet G yX3_init (ws_ yX3_init cX3_init 1 (Option.none : Option Jvm.ClassFile.FieldType)) 1 12 [.ref o] h (aEV e.1 e.2) := by
  refine aMet.of (lv := [some (.ref o)]) (by decide) (Nat.le_of_ble_eq_true rfl) 0 rfl ?_
  have he : aTo (aEV e.1 e.2) (aEV e.1 e.2) := aTo.rf
  unfold t_X3_init at hT
  refine a_aload_n dX3_init_0 rfl ?_
  refine a_objInit q1702 q_oi q_oc (by decide) (Nat.le_of_ble_eq_true rfl) dX3_init_1 ?_
  refine a_aload_n dX3_init_4 rfl ?_
  refine a_bipush (v := 86) dX3_init_5 (by decide) ?_
  obtain ⟨h1, e2, hT⟩ := obnd hT
  refine a_newI q156 e2 dX3_init_7 ?_
  obtain ⟨h4, e3, hT⟩ := obnd hT
  refine a_put fp_X3_9_2i ⟨rfl, rfl⟩ e3 dX3_init_9 ?_
  refine a_aload_n dX3_init_12 rfl ?_
  refine a_bipush (v := 86) dX3_init_13 (by decide) ?_
  obtain ⟨h5, e6, hT⟩ := obnd hT
  refine a_newI q156 e6 dX3_init_15 ?_
  obtain ⟨h8, e7, hT⟩ := obnd hT
  refine a_put fp_X3_13_2i ⟨rfl, rfl⟩ e7 dX3_init_17 ?_
  refine a_aload_n dX3_init_20 rfl ?_
  refine a_bipush (v := 86) dX3_init_21 (by decide) ?_
  obtain ⟨h9, e10, hT⟩ := obnd hT
  refine a_newI q156 e10 dX3_init_23 ?_
  obtain ⟨h12, e11, hT⟩ := obnd hT
  refine a_put fp_X3_16_2i ⟨rfl, rfl⟩ e11 dX3_init_25 ?_
  refine a_aload_n dX3_init_28 rfl ?_
  refine a_sipush (v := 688) dX3_init_29 (by decide) ?_
  obtain ⟨h13, e14, hT⟩ := obnd hT
  refine a_newI q156 e14 dX3_init_32 ?_
  obtain ⟨h16, e15, hT⟩ := obnd hT
  refine a_put fp_X3_19_2i ⟨rfl, rfl⟩ e15 dX3_init_34 ?_
  refine a_aload_n dX3_init_37 rfl ?_
  refine a_iconst (v := (-1)) dX3_init_38 (by decide) ?_
  obtain ⟨h18, e17, hT⟩ := obnd hT
  refine a_put fp_X3_22_2i ⟨rfl, rfl⟩ e17 dX3_init_39 ?_
  refine a_aload_n dX3_init_42 rfl ?_
  refine a_bipush (v := 60) dX3_init_43 (by decide) ?_
  obtain ⟨h19, e20, hT⟩ := obnd hT
  refine a_newI q156 e20 dX3_init_45 ?_
  obtain ⟨h22, e21, hT⟩ := obnd hT
  refine a_put fp_X3_26_2i ⟨rfl, rfl⟩ e21 dX3_init_47 ?_
  refine a_aload_n dX3_init_50 rfl ?_
  refine a_bipush (v := 16) dX3_init_51 (by decide) ?_
  obtain ⟨h23, e24, hT⟩ := obnd hT
  refine a_newI q156 e24 dX3_init_53 ?_
  obtain ⟨h26, e25, hT⟩ := obnd hT
  refine a_put fp_X3_29_2i ⟨rfl, rfl⟩ e25 dX3_init_55 ?_
  refine a_aload_n dX3_init_58 rfl ?_
  refine a_sipush (v := 244) dX3_init_59 (by decide) ?_
  obtain ⟨h27, e28, hT⟩ := obnd hT
  refine a_newI q156 e28 dX3_init_62 ?_
  obtain ⟨h30, e29, hT⟩ := obnd hT
  refine a_put fp_X3_32_2i ⟨rfl, rfl⟩ e29 dX3_init_64 ?_
  refine a_aload_n dX3_init_67 rfl ?_
  refine a_bipush (v := 30) dX3_init_68 (by decide) ?_
  obtain ⟨h31, e32, hT⟩ := obnd hT
  refine a_newI q156 e32 dX3_init_70 ?_
  obtain ⟨h34, e33, hT⟩ := obnd hT
  refine a_put fp_X3_35_2i ⟨rfl, rfl⟩ e33 dX3_init_72 ?_
  refine a_aload_n dX3_init_75 rfl ?_
  obtain ⟨a36, e35, hT⟩ := obnd hT
  refine a_gA fl_X3_9_2 e35 dX3_init_76 ?_
  refine a_iconst (v := 2) dX3_init_79 (by decide) ?_
  refine a_iconst (v := (-1)) dX3_init_80 (by decide) ?_
  obtain ⟨h38, e37, hT⟩ := obnd hT
  refine a_stI e37 dX3_init_81 ?_
  obtain rfl := Option.some.inj hT
  exact a_vret rfl dX3_init_82 (he _ _ ⟨rfl, rfl⟩)
abbrev M_X1_neighbour : aM := (yX1_neighbour.cls, cX1_neighbour, 2, (Option.some Jvm.ClassFile.FieldType.int), [], yX1_neighbour.name)
def t_X1_neighbour (x0 : Int32) (x1 : Int32) : Option Int32 :=
  if x1 = 0 then
    if 4 ≤ x0 then
      some (x0 - 4)
    else
      some (-1)
  else
    if x1 = 1 then
      if (x0 - x0 / 4 * 4) = 3 then
        some (-1)
      else
        some (x0 + 1)
    else
      if x1 = 2 then
        if x0 < 12 then
          some (x0 + 4)
        else
          some (-1)
      else
        if (x0 - x0 / 4 * 4) = 0 then
          some (-1)
        else
          some (x0 - 1)
theorem k_X1_neighbour {G : aG} {h : aH} {x0 : Int32} {x1 : Int32} {e : Int32} (hT : t_X1_neighbour x0 x1 = some e) : aMet G yX1_neighbour (ws_ yX1_neighbour cX1_neighbour 2 (Option.some Jvm.ClassFile.FieldType.int)) 1 1 [.int x0, .int x1] h (aEI e h) := by
  refine aMet.of (lv := [some (.int x0), some (.int x1)]) (by decide) (Nat.le_of_ble_eq_true rfl) 0 rfl ?_
  have he : aTo (aEI e h) (aEI e h) := aTo.rf
  unfold t_X1_neighbour at hT
  refine a_iload_n dX1_neighbour_0 rfl ?_
  by_cases c1 : x1 = 0
  · have hT := oifp c1 hT
    refine a_tswIn 28 dX1_neighbour_1 (by rw [c1]; decide) (by rw [c1]; decide) (off := 27) (by rw [c1]; rfl) rfl ?_
    refine a_iload_n dX1_neighbour_28 rfl ?_
    refine a_iconst (v := 4) dX1_neighbour_29 (by decide) ?_
    refine a_icmp_ge 37 dX1_neighbour_30 rfl (fun c2 => ?_) (fun c2 => ?_)
    · have hT := oifp c2 hT
      refine a_iload_n dX1_neighbour_37 rfl ?_
      refine a_iconst (v := 4) dX1_neighbour_38 (by decide) ?_
      refine a_isub dX1_neighbour_39 ?_
      obtain rfl := Option.some.inj hT
      exact a_iret rfl rfl dX1_neighbour_40 (he _ _ ⟨rfl, rfl⟩)
    · have hT := oifn c2 hT
      refine a_iconst (v := (-1)) dX1_neighbour_33 (by decide) ?_
      refine a_goto 40 dX1_neighbour_34 rfl ?_
      obtain rfl := Option.some.inj hT
      exact a_iret rfl rfl dX1_neighbour_40 (he _ _ ⟨rfl, rfl⟩)
  · have hT := oifn c1 hT
    by_cases c3 : x1 = 1
    · have hT := oifp c3 hT
      refine a_tswIn 41 dX1_neighbour_1 (by rw [c3]; decide) (by rw [c3]; decide) (off := 40) (by rw [c3]; rfl) rfl ?_
      refine a_iload_n dX1_neighbour_41 rfl ?_
      refine a_iconst (v := 4) dX1_neighbour_42 (by decide) ?_
      refine a_irem dX1_neighbour_43 (by decide) ?_
      refine a_iconst (v := 3) dX1_neighbour_44 (by decide) ?_
      refine a_icmp_ne 52 dX1_neighbour_45 rfl (fun c4 => ?_) (fun c4 => ?_)
      · have hT := oifn c4 hT
        refine a_iload_n dX1_neighbour_52 rfl ?_
        refine a_iconst (v := 1) dX1_neighbour_53 (by decide) ?_
        refine a_iadd dX1_neighbour_54 ?_
        obtain rfl := Option.some.inj hT
        exact a_iret rfl rfl dX1_neighbour_55 (he _ _ ⟨rfl, rfl⟩)
      · have hT := oifp c4 hT
        refine a_iconst (v := (-1)) dX1_neighbour_48 (by decide) ?_
        refine a_goto 55 dX1_neighbour_49 rfl ?_
        obtain rfl := Option.some.inj hT
        exact a_iret rfl rfl dX1_neighbour_55 (he _ _ ⟨rfl, rfl⟩)
    · have hT := oifn c3 hT
      by_cases c5 : x1 = 2
      · have hT := oifp c5 hT
        refine a_tswIn 56 dX1_neighbour_1 (by rw [c5]; decide) (by rw [c5]; decide) (off := 55) (by rw [c5]; rfl) rfl ?_
        refine a_iload_n dX1_neighbour_56 rfl ?_
        refine a_bipush (v := 12) dX1_neighbour_57 (by decide) ?_
        refine a_icmp_lt 66 dX1_neighbour_59 rfl (fun c6 => ?_) (fun c6 => ?_)
        · have hT := oifp c6 hT
          refine a_iload_n dX1_neighbour_66 rfl ?_
          refine a_iconst (v := 4) dX1_neighbour_67 (by decide) ?_
          refine a_iadd dX1_neighbour_68 ?_
          obtain rfl := Option.some.inj hT
          exact a_iret rfl rfl dX1_neighbour_69 (he _ _ ⟨rfl, rfl⟩)
        · have hT := oifn c6 hT
          refine a_iconst (v := (-1)) dX1_neighbour_62 (by decide) ?_
          refine a_goto 69 dX1_neighbour_63 rfl ?_
          obtain rfl := Option.some.inj hT
          exact a_iret rfl rfl dX1_neighbour_69 (he _ _ ⟨rfl, rfl⟩)
      · have hT := oifn c5 hT
        refine aTsw 70 dX1_neighbour_1 rfl (cs := [0, 1, 2]) (by decide +kernel) (by simp only [List.mem_cons, List.not_mem_nil, or_false]; rintro z9 (rfl | rfl | rfl) <;> assumption) ?_
        refine a_iload_n dX1_neighbour_70 rfl ?_
        refine a_iconst (v := 4) dX1_neighbour_71 (by decide) ?_
        refine a_irem dX1_neighbour_72 (by decide) ?_
        refine a_if_ne 80 dX1_neighbour_73 rfl (fun c7 => ?_) (fun c7 => ?_)
        · have hT := oifn c7 hT
          refine a_iload_n dX1_neighbour_80 rfl ?_
          refine a_iconst (v := 1) dX1_neighbour_81 (by decide) ?_
          refine a_isub dX1_neighbour_82 ?_
          obtain rfl := Option.some.inj hT
          exact a_iret rfl rfl dX1_neighbour_83 (he _ _ ⟨rfl, rfl⟩)
        · have hT := oifp c7 hT
          refine a_iconst (v := (-1)) dX1_neighbour_76 (by decide) ?_
          refine a_goto 83 dX1_neighbour_77 rfl ?_
          obtain rfl := Option.some.inj hT
          exact a_iret rfl rfl dX1_neighbour_83 (he _ _ ⟨rfl, rfl⟩)
abbrev M_X1_hedgeOf : aM := (yX1_hedgeOf.cls, cX1_hedgeOf, 4, (Option.some Jvm.ClassFile.FieldType.int), [], yX1_hedgeOf.name)
def t_X1_hedgeOf_l36 (v2 : Int32) (v3 : Int32) : Option Int32 :=
  if v3 = (v2 + 4) then
    some (12 + v2)
  else
    some (-1)
theorem k_X1_hedgeOf_l36 {G : aG} {h0 : aH} {K : aRes → aH → Prop} {h : aH} {v2 : Int32} {v3 : Int32} {e : Int32} (hT : t_X1_hedgeOf_l36 v2 v3 = some e) (he : (fun e => aTo (aEI e h) K) e) : aW G M_X1_hedgeOf 1 40 h0 K h 36 [none, none, some (.int v2), some (.int v3)] [] := by
  unfold t_X1_hedgeOf_l36 at hT
  refine a_iload_n dX1_hedgeOf_36 rfl ?_
  refine a_iload_n dX1_hedgeOf_37 rfl ?_
  refine a_iconst (v := 4) dX1_hedgeOf_38 (by decide) ?_
  refine a_iadd dX1_hedgeOf_39 ?_
  refine a_icmp_ne 50 dX1_hedgeOf_40 rfl (fun c2 => ?_) (fun c2 => ?_)
  · have hT := oifn c2 hT
    refine a_iconst (v := (-1)) dX1_hedgeOf_50 (by decide) ?_
    obtain rfl := Option.some.inj hT
    exact a_iret rfl rfl dX1_hedgeOf_51 (he _ _ ⟨rfl, rfl⟩)
  · have hT := oifp c2 hT
    refine a_bipush (v := 12) dX1_hedgeOf_43 (by decide) ?_
    refine a_iload_n dX1_hedgeOf_45 rfl ?_
    refine a_iadd dX1_hedgeOf_46 ?_
    refine a_goto 51 dX1_hedgeOf_47 rfl ?_
    obtain rfl := Option.some.inj hT
    exact a_iret rfl rfl dX1_hedgeOf_51 (he _ _ ⟨rfl, rfl⟩)
def t_X1_hedgeOf (x0 : Int32) (x1 : Int32) : Option Int32 :=
  if (jmax x0 x1) = ((jmin x0 x1) + 1) then
    if 3 ≤ ((jmin x0 x1) - (jmin x0 x1) / 4 * 4) then
      t_X1_hedgeOf_l36 (jmin x0 x1) (jmax x0 x1)
    else
      some ((((jmin x0 x1) / 4) * 3) + ((jmin x0 x1) - (jmin x0 x1) / 4 * 4))
  else
    t_X1_hedgeOf_l36 (jmin x0 x1) (jmax x0 x1)
theorem k_X1_hedgeOf {G : aG} {h : aH} {x0 : Int32} {x1 : Int32} {e : Int32} (hT : t_X1_hedgeOf x0 x1 = some e) : aMet G yX1_hedgeOf (ws_ yX1_hedgeOf cX1_hedgeOf 4 (Option.some Jvm.ClassFile.FieldType.int)) 1 40 [.int x0, .int x1] h (aEI e h) := by
  refine aMet.of (lv := [some (.int x0), some (.int x1), none, none]) (by decide) (Nat.le_of_ble_eq_true rfl) 2 rfl ?_
  have he : aTo (aEI e h) (aEI e h) := aTo.rf
  unfold t_X1_hedgeOf at hT
  refine a_iload_n dX1_hedgeOf_0 rfl ?_
  refine a_iload_n dX1_hedgeOf_1 rfl ?_
  refine a_mmin q600 q481 q90 q482 (by decide) (Nat.le_of_ble_eq_true rfl) dX1_hedgeOf_2 ?_
  refine a_istore_n (lv' := [some (.int x0), some (.int x1), some (.int (jmin x0 x1)), none]) dX1_hedgeOf_5 rfl (by decide) rfl ?_
  refine a_iload_n dX1_hedgeOf_6 rfl ?_
  refine a_iload_n dX1_hedgeOf_7 rfl ?_
  refine a_mmax q601 q441 q90 q442 (by decide) (Nat.le_of_ble_eq_true rfl) dX1_hedgeOf_8 ?_
  refine a_istore_n (lv' := [some (.int x0), some (.int x1), some (.int (jmin x0 x1)), some (.int (jmax x0 x1))]) dX1_hedgeOf_11 rfl (by decide) rfl ?_
  refine a_iload_n dX1_hedgeOf_12 rfl ?_
  refine a_iload_n dX1_hedgeOf_13 rfl ?_
  refine a_iconst (v := 1) dX1_hedgeOf_14 (by decide) ?_
  refine a_iadd dX1_hedgeOf_15 ?_
  refine a_icmp_ne 36 dX1_hedgeOf_16 rfl (fun c1 => ?_) (fun c1 => ?_)
  · have hT := oifn c1 hT
    refine a_mask [false, false, true, true] ?_
    exact k_X1_hedgeOf_l36 hT he
  · have hT := oifp c1 hT
    refine a_iload_n dX1_hedgeOf_19 rfl ?_
    refine a_iconst (v := 4) dX1_hedgeOf_20 (by decide) ?_
    refine a_irem dX1_hedgeOf_21 (by decide) ?_
    refine a_iconst (v := 3) dX1_hedgeOf_22 (by decide) ?_
    refine a_icmp_ge 36 dX1_hedgeOf_23 rfl (fun c3 => ?_) (fun c3 => ?_)
    · have hT := oifp c3 hT
      refine a_mask [false, false, true, true] ?_
      exact k_X1_hedgeOf_l36 hT he
    · have hT := oifn c3 hT
      refine a_iload_n dX1_hedgeOf_26 rfl ?_
      refine a_iconst (v := 4) dX1_hedgeOf_27 (by decide) ?_
      refine a_idiv dX1_hedgeOf_28 (by decide) ?_
      refine a_iconst (v := 3) dX1_hedgeOf_29 (by decide) ?_
      refine a_imul dX1_hedgeOf_30 ?_
      refine a_iload_n dX1_hedgeOf_31 rfl ?_
      refine a_iconst (v := 4) dX1_hedgeOf_32 (by decide) ?_
      refine a_irem dX1_hedgeOf_33 (by decide) ?_
      refine a_iadd dX1_hedgeOf_34 ?_
      obtain rfl := Option.some.inj hT
      exact a_iret rfl rfl dX1_hedgeOf_35 (he _ _ ⟨rfl, rfl⟩)
theorem fl_X1_64_0 : aFL "MazeBonds" 64 0 6 := ⟨RX1, TX1, 8, "MazeBonds", rfl, in_X1, by decide, Or.inl rfl, Or.inl q230⟩
abbrev M_X1_faultPosition : aM := (yX1_faultPosition.cls, cX1_faultPosition, 1, (Option.some Jvm.ClassFile.FieldType.int), [], yX1_faultPosition.name)
def t_X1_faultPosition (Z : aZ) (h : aH) (o : Nat) : Option (Int32 × aH) :=
  (gI 0 6 h o).bind fun z2 =>
  some (z2, h)
theorem k_X1_faultPosition {G : aG} {h : aH} {o : Nat} {e : (Int32 × aH)} (hT : t_X1_faultPosition (gZ G) h o = some e) : aMet G yX1_faultPosition (ws_ yX1_faultPosition cX1_faultPosition 1 (Option.some Jvm.ClassFile.FieldType.int)) 1 1 [.ref o] h (aEI e.1 e.2) := by
  refine aMet.of (lv := [some (.ref o)]) (by decide) (Nat.le_of_ble_eq_true rfl) 0 rfl ?_
  have he : aTo (aEI e.1 e.2) (aEI e.1 e.2) := aTo.rf
  unfold t_X1_faultPosition at hT
  refine a_aload_n dX1_faultPosition_0 rfl ?_
  obtain ⟨z2, e1, hT⟩ := obnd hT
  refine a_gI fl_X1_64_0 e1 dX1_faultPosition_1 ?_
  obtain rfl := Option.some.inj hT
  exact a_iret rfl rfl dX1_faultPosition_4 (he _ _ ⟨rfl, rfl⟩)
