/-! decompiled (written by gen/comp.py) -/
set_option maxRecDepth 100000
abbrev M_J16_checkIndex_n : aM := (yJ16_checkIndex.cls, cJ16_checkIndex, 3, (Option.some Jvm.ClassFile.FieldType.int), [], yJ16_checkIndex.name)
def t_J16_checkIndex_n_l9 (v0 : Int32) (v1 : Int32) : Option Int32 :=
  none
theorem k_J16_checkIndex_n_l9 {G : aG} {h0 : aH} {K : aRes → aH → Prop} {h : aH} {v0 : Int32} {v1 : Int32} {e : Int32} (hT : t_J16_checkIndex_n_l9 v0 v1 = some e) (he : (fun e => aTo (aEI e h) K) e) : aW G M_J16_checkIndex_n 1 1 h0 K h 9 [some (.int v0), some (.int v1), some (.null)] [] := by
  unfold t_J16_checkIndex_n_l9 at hT
  refine a_aload_nN dJ16_checkIndex_9 rfl ?_
  refine a_iload_n dJ16_checkIndex_10 rfl ?_
  refine a_iload_n dJ16_checkIndex_11 rfl ?_
  cases hT
def t_J16_checkIndex_n (x0 : Int32) (x1 : Int32) : Option Int32 :=
  if x0 < 0 then
    t_J16_checkIndex_n_l9 x0 x1
  else
    if x0 < x1 then
      some x0
    else
      t_J16_checkIndex_n_l9 x0 x1
theorem k_J16_checkIndex_n {G : aG} {h : aH} {x0 : Int32} {x1 : Int32} {e : Int32} (hT : t_J16_checkIndex_n x0 x1 = some e) : aMet G yJ16_checkIndex (ws_ yJ16_checkIndex cJ16_checkIndex 3 (Option.some Jvm.ClassFile.FieldType.int)) 1 1 [.int x0, .int x1, .null] h (aEI e h) := by
  refine aMet.of (lv := [some (.int x0), some (.int x1), some (.null)]) (by decide) (Nat.le_of_ble_eq_true rfl) 0 rfl ?_
  have he : aTo (aEI e h) (aEI e h) := aTo.rf
  unfold t_J16_checkIndex_n at hT
  refine a_iload_n dJ16_checkIndex_0 rfl ?_
  refine a_if_lt 9 dJ16_checkIndex_1 rfl (fun c1 => ?_) (fun c1 => ?_)
  · have hT := oifp c1 hT
    exact k_J16_checkIndex_n_l9 hT he
  · have hT := oifn c1 hT
    refine a_iload_n dJ16_checkIndex_4 rfl ?_
    refine a_iload_n dJ16_checkIndex_5 rfl ?_
    refine a_icmp_lt 16 dJ16_checkIndex_6 rfl (fun c2 => ?_) (fun c2 => ?_)
    · have hT := oifp c2 hT
      refine a_iload_n dJ16_checkIndex_16 rfl ?_
      obtain rfl := Option.some.inj hT
      exact a_iret rfl rfl dJ16_checkIndex_17 (he _ _ ⟨rfl, rfl⟩)
    · have hT := oifn c2 hT
      exact k_J16_checkIndex_n_l9 hT he
abbrev M_J16_checkIndex_a : aM := (yJ16_checkIndex.cls, cJ16_checkIndex, 3, (Option.some Jvm.ClassFile.FieldType.int), [], yJ16_checkIndex.name)
def t_J16_checkIndex_a_l9 (v0 : Int32) (v1 : Int32) (v2 : Nat) : Option Int32 :=
  none
theorem k_J16_checkIndex_a_l9 {G : aG} {h0 : aH} {K : aRes → aH → Prop} {h : aH} {v0 : Int32} {v1 : Int32} {v2 : Nat} {e : Int32} (hT : t_J16_checkIndex_a_l9 v0 v1 v2 = some e) (he : (fun e => aTo (aEI e h) K) e) : aW G M_J16_checkIndex_a 1 1 h0 K h 9 [some (.int v0), some (.int v1), some (.ref v2)] [] := by
  unfold t_J16_checkIndex_a_l9 at hT
  refine a_aload_n dJ16_checkIndex_9 rfl ?_
  refine a_iload_n dJ16_checkIndex_10 rfl ?_
  refine a_iload_n dJ16_checkIndex_11 rfl ?_
  cases hT
def t_J16_checkIndex_a (x0 : Int32) (x1 : Int32) (x2 : Nat) : Option Int32 :=
  if x0 < 0 then
    t_J16_checkIndex_a_l9 x0 x1 x2
  else
    if x0 < x1 then
      some x0
    else
      t_J16_checkIndex_a_l9 x0 x1 x2
theorem k_J16_checkIndex_a {G : aG} {h : aH} {x0 : Int32} {x1 : Int32} {x2 : Nat} {e : Int32} (hT : t_J16_checkIndex_a x0 x1 x2 = some e) : aMet G yJ16_checkIndex (ws_ yJ16_checkIndex cJ16_checkIndex 3 (Option.some Jvm.ClassFile.FieldType.int)) 1 1 [.int x0, .int x1, .ref x2] h (aEI e h) := by
  refine aMet.of (lv := [some (.int x0), some (.int x1), some (.ref x2)]) (by decide) (Nat.le_of_ble_eq_true rfl) 0 rfl ?_
  have he : aTo (aEI e h) (aEI e h) := aTo.rf
  unfold t_J16_checkIndex_a at hT
  refine a_iload_n dJ16_checkIndex_0 rfl ?_
  refine a_if_lt 9 dJ16_checkIndex_1 rfl (fun c1 => ?_) (fun c1 => ?_)
  · have hT := oifp c1 hT
    exact k_J16_checkIndex_a_l9 hT he
  · have hT := oifn c1 hT
    refine a_iload_n dJ16_checkIndex_4 rfl ?_
    refine a_iload_n dJ16_checkIndex_5 rfl ?_
    refine a_icmp_lt 16 dJ16_checkIndex_6 rfl (fun c2 => ?_) (fun c2 => ?_)
    · have hT := oifp c2 hT
      refine a_iload_n dJ16_checkIndex_16 rfl ?_
      obtain rfl := Option.some.inj hT
      exact a_iret rfl rfl dJ16_checkIndex_17 (he _ _ ⟨rfl, rfl⟩)
    · have hT := oifn c2 hT
      exact k_J16_checkIndex_a_l9 hT he
theorem ks_J15_105 : aKS "java/util/Objects" 105 yJ16_checkIndex cJ16_checkIndex 3 (Option.some Jvm.ClassFile.FieldType.int) 3 := ⟨Or.inl q557, q558, q96, q559, ⟨by decide +kernel, by decide +kernel, by decide +kernel⟩⟩
abbrev M_J15_checkIndex : aM := (yJ15_checkIndex.cls, cJ15_checkIndex, 2, (Option.some Jvm.ClassFile.FieldType.int), [], yJ15_checkIndex.name)
def t_J15_checkIndex (x0 : Int32) (x1 : Int32) : Option Int32 :=
  (t_J16_checkIndex_n x0 x1).bind fun r3 =>
  some r3
theorem k_J15_checkIndex {G : aG} {h : aH} {x0 : Int32} {x1 : Int32} {e : Int32} (hT : t_J15_checkIndex x0 x1 = some e) : aMet G yJ15_checkIndex (ws_ yJ15_checkIndex cJ15_checkIndex 2 (Option.some Jvm.ClassFile.FieldType.int)) 2 23 [.int x0, .int x1] h (aEI e h) := by
  refine aMet.of (lv := [some (.int x0), some (.int x1)]) (by decide) (Nat.le_of_ble_eq_true rfl) 0 rfl ?_
  have he : aTo (aEI e h) (aEI e h) := aTo.rf
  unfold t_J15_checkIndex at hT
  refine a_iload_n dJ15_checkIndex_0 rfl ?_
  refine a_iload_n dJ15_checkIndex_1 rfl ?_
  refine a_null dJ15_checkIndex_2 ?_
  obtain ⟨r3, e4, hT⟩ := obnd hT
  refine a_callS ks_J15_105 (k_J16_checkIndex_n e4) ⟨Nat.le_of_ble_eq_true rfl, Nat.le_of_ble_eq_true rfl⟩ (As := [.int x0, .int x1, .null]) (rest := []) rfl rfl (Nat.le_of_ble_eq_true rfl) dJ15_checkIndex_3 (kI ?_) xI
  obtain rfl := Option.some.inj hT
  exact a_iret rfl rfl dJ15_checkIndex_6 (he _ _ ⟨rfl, rfl⟩)
theorem ks_J5_1059 : aKS "java/lang/String" 1059 yJ16_checkIndex cJ16_checkIndex 3 (Option.some Jvm.ClassFile.FieldType.int) 3 := ⟨Or.inl q1579, q558, q96, q559, ⟨by decide +kernel, by decide +kernel, by decide +kernel⟩⟩
abbrev M_J5_checkIndex : aM := (yJ5_checkIndex.cls, cJ5_checkIndex, 2, (Option.none : Option Jvm.ClassFile.FieldType), [], yJ5_checkIndex.name)
def t_J5_checkIndex (Z : aZ) (h : aH) (x0 : Int32) (x1 : Int32) : Option (Unit × aH) :=
  (match znq Z 2 with
  | none =>
    (t_J16_checkIndex_n x0 x1).bind fun r5 =>
    some ((), h)
  | some a1 =>
    (t_J16_checkIndex_a x0 x1 a1).bind fun r9 =>
    some ((), h)
  )
theorem k_J5_checkIndex {G : aG} {h : aH} {x0 : Int32} {x1 : Int32} {e : (Unit × aH)} (hT : t_J5_checkIndex (gZ G) h x0 x1 = some e) : aMet G yJ5_checkIndex (ws_ yJ5_checkIndex cJ5_checkIndex 2 (Option.none : Option Jvm.ClassFile.FieldType)) 2 23 [.int x0, .int x1] h (aEV e.1 e.2) := by
  refine aMet.of (lv := [some (.int x0), some (.int x1)]) (by decide) (Nat.le_of_ble_eq_true rfl) 0 rfl ?_
  have he : aTo (aEV e.1 e.2) (aEV e.1 e.2) := aTo.rf
  unfold t_J5_checkIndex at hT
  refine a_iload_n dJ5_checkIndex_0 rfl ?_
  refine a_iload_n dJ5_checkIndex_1 rfl ?_
  refine a_gets (k := 6) rfl q1241 dJ5_checkIndex_2 ?_
  generalize znq (gZ G) 2 = o2 at hT ⊢
  cases o2 with
  | none =>
    obtain ⟨r5, e6, hT⟩ := obnd hT
    refine a_callS ks_J5_1059 (k_J16_checkIndex_n e6) ⟨Nat.le_of_ble_eq_true rfl, Nat.le_of_ble_eq_true rfl⟩ (As := [.int x0, .int x1, .null]) (rest := []) rfl rfl (Nat.le_of_ble_eq_true rfl) dJ5_checkIndex_5 (kI ?_) xI
    refine a_pop dJ5_checkIndex_8 rfl ?_
    obtain rfl := Option.some.inj hT
    exact a_vret rfl dJ5_checkIndex_9 (he _ _ ⟨rfl, rfl⟩)
  | some a1 =>
    obtain ⟨r9, e10, hT⟩ := obnd hT
    refine a_callS ks_J5_1059 (k_J16_checkIndex_a e10) ⟨Nat.le_of_ble_eq_true rfl, Nat.le_of_ble_eq_true rfl⟩ (As := [.int x0, .int x1, .ref a1]) (rest := []) rfl rfl (Nat.le_of_ble_eq_true rfl) dJ5_checkIndex_5 (kI ?_) xI
    refine a_pop dJ5_checkIndex_8 rfl ?_
    obtain rfl := Option.some.inj hT
    exact a_vret rfl dJ5_checkIndex_9 (he _ _ ⟨rfl, rfl⟩)
abbrev M_J0_init : aM := (yJ0_init.cls, cJ0_init, 1, (Option.none : Option Jvm.ClassFile.FieldType), [], yJ0_init.name)
def t_J0_init (Z : aZ) (h : aH) (o : Nat) : Option (Unit × aH) :=
  some ((), h)
theorem k_J0_init {G : aG} {h : aH} {o : Nat} {e : (Unit × aH)} (hT : t_J0_init (gZ G) h o = some e) : aMet G yJ0_init (ws_ yJ0_init cJ0_init 1 (Option.none : Option Jvm.ClassFile.FieldType)) 1 12 [.ref o] h (aEV e.1 e.2) := by
  refine aMet.of (lv := [some (.ref o)]) (by decide) (Nat.le_of_ble_eq_true rfl) 0 rfl ?_
  have he : aTo (aEV e.1 e.2) (aEV e.1 e.2) := aTo.rf
  unfold t_J0_init at hT
  refine a_aload_n dJ0_init_0 rfl ?_
  refine a_objInit q138 q_oi q_oc (by decide) (Nat.le_of_ble_eq_true rfl) dJ0_init_1 ?_
  obtain rfl := Option.some.inj hT
  exact a_vret rfl dJ0_init_4 (he _ _ ⟨rfl, rfl⟩)
theorem ki_J1_1 : aKI "java/util/AbstractList" 1 yJ0_init cJ0_init 1 0 := ⟨rfl, Or.inl q135, q136, q74, q137, ⟨by decide +kernel, by decide +kernel, by decide +kernel⟩⟩
theorem fp_J1_7_8i : aFP "java/util/AbstractList" 7 8 0 .int "<init>" := ⟨RJ2, TJ2, 3, "java/util/AbstractList", tyJ2, rfl, in_J2, by decide, Or.inl rfl, Or.inl q145, tyJ2_ok, nmJ2, rfl, Or.inl rfl⟩
abbrev M_J1_init : aM := (yJ1_init.cls, cJ1_init, 1, (Option.none : Option Jvm.ClassFile.FieldType), [], yJ1_init.name)
def t_J1_init (Z : aZ) (h : aH) (o : Nat) : Option (Unit × aH) :=
  (t_J0_init Z h o).bind fun r3 =>
  (pF 8 0 Z r3.2 o (.int 0)).bind fun h6 =>
  some ((), h6)
theorem k_J1_init {G : aG} {h : aH} {o : Nat} {e : (Unit × aH)} (hT : t_J1_init (gZ G) h o = some e) : aMet G yJ1_init (ws_ yJ1_init cJ1_init 1 (Option.none : Option Jvm.ClassFile.FieldType)) 2 32 [.ref o] h (aEV e.1 e.2) := by
  refine aMet.of (lv := [some (.ref o)]) (by decide) (Nat.le_of_ble_eq_true rfl) 0 rfl ?_
  have he : aTo (aEV e.1 e.2) (aEV e.1 e.2) := aTo.rf
  unfold t_J1_init at hT
  refine a_aload_n dJ1_init_0 rfl ?_
  obtain ⟨r3, e4, hT⟩ := obnd hT
  refine a_callI ki_J1_1 (k_J0_init e4) ⟨Nat.le_of_ble_eq_true rfl, Nat.le_of_ble_eq_true rfl⟩ (As := []) (rest := []) rfl rfl (Nat.le_of_ble_eq_true rfl) dJ1_init_1 (kV ?_) xV
  refine a_aload_n dJ1_init_4 rfl ?_
  refine a_iconst (v := 0) dJ1_init_5 (by decide) ?_
  obtain ⟨h6, e5, hT⟩ := obnd hT
  refine a_put fp_J1_7_8i ⟨rfl, rfl⟩ e5 dJ1_init_6 ?_
  obtain rfl := Option.some.inj hT
  exact a_vret rfl dJ1_init_9 (he _ _ ⟨rfl, rfl⟩)
theorem ki_J2_1 : aKI "java/util/ArrayList" 1 yJ1_init cJ1_init 1 0 := ⟨rfl, Or.inl q132, q133, q75, q134, ⟨by decide +kernel, by decide +kernel, by decide +kernel⟩⟩
theorem fp_J2_9_8i : aFP "java/util/ArrayList" 9 8 1 (.array (.object "java/lang/Object")) "<init>" := ⟨RJ2, TJ2, 3, "java/util/ArrayList", tyJ2, rfl, in_J2, by decide, Or.inl rfl, Or.inl q141, tyJ2_ok, nmJ2, rfl, Or.inl rfl⟩
abbrev M_J2_init : aM := (yJ2_init.cls, cJ2_init, 1, (Option.none : Option Jvm.ClassFile.FieldType), [], yJ2_init.name)
def t_J2_init (Z : aZ) (h : aH) (o : Nat) : Option (Unit × aH) :=
  (t_J1_init Z h o).bind fun r3 =>
  (pF 8 1 Z r3.2 o (.ref (znm Z 0))).bind fun h6 =>
  some ((), h6)
theorem k_J2_init {G : aG} {h : aH} {o : Nat} {e : (Unit × aH)} (hT : t_J2_init (gZ G) h o = some e) : aMet G yJ2_init (ws_ yJ2_init cJ2_init 1 (Option.none : Option Jvm.ClassFile.FieldType)) 3 52 [.ref o] h (aEV e.1 e.2) := by
  refine aMet.of (lv := [some (.ref o)]) (by decide) (Nat.le_of_ble_eq_true rfl) 0 rfl ?_
  have he : aTo (aEV e.1 e.2) (aEV e.1 e.2) := aTo.rf
  unfold t_J2_init at hT
  refine a_aload_n dJ2_init_0 rfl ?_
  obtain ⟨r3, e4, hT⟩ := obnd hT
  refine a_callI ki_J2_1 (k_J1_init e4) ⟨Nat.le_of_ble_eq_true rfl, Nat.le_of_ble_eq_true rfl⟩ (As := []) (rest := []) rfl rfl (Nat.le_of_ble_eq_true rfl) dJ2_init_1 (kV ?_) xV
  refine a_aload_n dJ2_init_4 rfl ?_
  refine a_gets (k := 0) rfl q139 dJ2_init_5 ?_
  obtain ⟨h6, e5, hT⟩ := obnd hT
  refine a_put fp_J2_9_8i ⟨rfl, rfl⟩ e5 dJ2_init_8 ?_
  obtain rfl := Option.some.inj hT
  exact a_vret rfl dJ2_init_11 (he _ _ ⟨rfl, rfl⟩)
theorem fl_J2_9_8 : aFL "java/util/ArrayList" 9 8 1 := ⟨RJ2, TJ2, 3, "java/util/ArrayList", rfl, in_J2, by decide, Or.inl rfl, Or.inl q141⟩
theorem fp_J2_9_8 (nm9 : String) : aFP "java/util/ArrayList" 9 8 1 (.array (.object "java/lang/Object")) nm9 := ⟨RJ2, TJ2, 3, "java/util/ArrayList", tyJ2, rfl, in_J2, by decide, Or.inl rfl, Or.inl q141, tyJ2_ok, nmJ2, rfl, Or.inl rfl⟩
abbrev M_J2_grow_2 : aM := (yJ2_grow_2.cls, cJ2_grow_2, 4, (Option.some (Jvm.ClassFile.FieldType.array (Jvm.ClassFile.FieldType.object "java/lang/Object"))), [], yJ2_grow_2.name)
def t_J2_grow_2_l20 (Z : aZ) (h : aH) (v0 : Nat) (v1 : Int32) (v2 : Int32) : Option (Nat × aH) :=
  none
theorem k_J2_grow_2_l20 {G : aG} {h0 : aH} {K : aRes → aH → Prop} {h : aH} {v0 : Nat} {v1 : Int32} {v2 : Int32} {e : (Nat × aH)} (hT : t_J2_grow_2_l20 (gZ G) h v0 v1 v2 = some e) (he : (fun e => aTo (aEA e.1 e.2) K) e) : aW G M_J2_grow_2 1 40 h0 K h 20 [some (.ref v0), some (.int v1), some (.int v2), none] [] := by
  unfold t_J2_grow_2_l20 at hT
  refine a_iload_n dJ2_grow_2_20 rfl ?_
  refine a_iload_n dJ2_grow_2_21 rfl ?_
  refine a_iload_n dJ2_grow_2_22 rfl ?_
  refine a_isub dJ2_grow_2_23 ?_
  refine a_iload_n dJ2_grow_2_24 rfl ?_
  refine a_iconst (v := 1) dJ2_grow_2_25 (by decide) ?_
  refine a_ishr dJ2_grow_2_26 ?_
  cases hT
def t_J2_grow_2 (Z : aZ) (h : aH) (o : Nat) (x0 : Int32) : Option (Nat × aH) :=
  (gA 8 1 h o).bind fun a2 =>
  (alen Z h a2).bind fun z3 =>
  if 0 < z3 then
    t_J2_grow_2_l20 Z h o x0 z3
  else
    (gA 8 1 h o).bind fun a9 =>
    if a9 = (znm Z 0) then
      (nwA Z h (jmax 10 x0) (fun N => .inl (zO Z, N, .inr (.inr (.inr (.inr fun _ => none)))))).bind fun h11 =>
      (pF 8 1 Z h11 o (.ref h.2.1)).bind fun h14 =>
      some (h.2.1, h14)
    else
      t_J2_grow_2_l20 Z h o x0 z3
theorem k_J2_grow_2 {G : aG} {h : aH} {o : Nat} {x0 : Int32} {e : (Nat × aH)} (hT : t_J2_grow_2 (gZ G) h o x0 = some e) : aMet G yJ2_grow_2 (ws_ yJ2_grow_2 cJ2_grow_2 4 (Option.some (Jvm.ClassFile.FieldType.array (Jvm.ClassFile.FieldType.object "java/lang/Object")))) 1 40 [.ref o, .int x0] h (aEA e.1 e.2) := by
  refine aMet.of (lv := [some (.ref o), some (.int x0), none, none]) (by decide) (Nat.le_of_ble_eq_true rfl) 2 rfl ?_
  have he : aTo (aEA e.1 e.2) (aEA e.1 e.2) := aTo.rf
  unfold t_J2_grow_2 at hT
  refine a_aload_n dJ2_grow_2_0 rfl ?_
  obtain ⟨a2, e1, hT⟩ := obnd hT
  refine a_gA fl_J2_9_8 e1 dJ2_grow_2_1 ?_
  obtain ⟨z3, e4, hT⟩ := obnd hT
  refine a_alen e4 dJ2_grow_2_4 ?_
  refine a_istore_n (lv' := [some (.ref o), some (.int x0), some (.int z3), none]) dJ2_grow_2_5 rfl (by decide) rfl ?_
  refine a_iload_n dJ2_grow_2_6 rfl ?_
  refine a_if_gt 20 dJ2_grow_2_7 rfl (fun c5 => ?_) (fun c5 => ?_)
  · have hT := oifp c5 hT
    exact k_J2_grow_2_l20 hT he
  · have hT := oifn c5 hT
    refine a_aload_n dJ2_grow_2_10 rfl ?_
    obtain ⟨a9, e8, hT⟩ := obnd hT
    refine a_gA fl_J2_9_8 e8 dJ2_grow_2_11 ?_
    refine a_gets (k := 0) rfl q139 dJ2_grow_2_14 ?_
    refine a_acmp_eq 45 dJ2_grow_2_17 rfl (fun c10 => ?_) (fun c10 => ?_)
    · have hT := oifp c10 hT
      refine a_aload_n dJ2_grow_2_45 rfl ?_
      refine a_bipush (v := 10) dJ2_grow_2_46 (by decide) ?_
      refine a_iload_n dJ2_grow_2_48 rfl ?_
      refine a_mmax q486 q441 q90 q442 (by decide) (Nat.le_of_ble_eq_true rfl) dJ2_grow_2_49 ?_
      obtain ⟨h11, e12, hT⟩ := obnd hT
      refine a_newR q487 e12 dJ2_grow_2_52 ?_
      refine a_dup_x1 dJ2_grow_2_55 rfl rfl ?_
      obtain ⟨h14, e13, hT⟩ := obnd hT
      refine a_put (fp_J2_9_8 _) ⟨rfl, rfl⟩ e13 dJ2_grow_2_56 ?_
      obtain rfl := Option.some.inj hT
      exact a_aret rfl (Or.inr ⟨_, rfl⟩) dJ2_grow_2_59 (he _ _ ⟨rfl, rfl⟩)
    · have hT := oifn c10 hT
      exact k_J2_grow_2_l20 hT he
theorem fl_J2_48_8 : aFL "java/util/ArrayList" 48 8 2 := ⟨RJ2, TJ2, 3, "java/util/ArrayList", rfl, in_J2, by decide, Or.inl rfl, Or.inl q144⟩
theorem kv_J2_69 : aKV "java/util/ArrayList" 69 8 yJ2_grow_2 cJ2_grow_2 4 (Option.some (Jvm.ClassFile.FieldType.array (Jvm.ClassFile.FieldType.object "java/lang/Object"))) 1 := ⟨⟨TJ2, 3, rfl⟩, Or.inl q433, q435, qs3, q76, q436, ⟨by decide +kernel, by decide +kernel, by decide +kernel⟩⟩
abbrev M_J2_grow : aM := (yJ2_grow.cls, cJ2_grow, 1, (Option.some (Jvm.ClassFile.FieldType.array (Jvm.ClassFile.FieldType.object "java/lang/Object"))), [], yJ2_grow.name)
def t_J2_grow (Z : aZ) (h : aH) (o : Nat) : Option (Nat × aH) :=
  (gI 8 2 h o).bind fun z2 =>
  if isC 8 h o = true then
  (t_J2_grow_2 Z h o (z2 + 1)).bind fun r6 =>
  some (r6.1, r6.2)
  else none
theorem k_J2_grow {G : aG} {h : aH} {o : Nat} {e : (Nat × aH)} (hT : t_J2_grow (gZ G) h o = some e) : aMet G yJ2_grow (ws_ yJ2_grow cJ2_grow 1 (Option.some (Jvm.ClassFile.FieldType.array (Jvm.ClassFile.FieldType.object "java/lang/Object")))) 2 63 [.ref o] h (aEA e.1 e.2) := by
  refine aMet.of (lv := [some (.ref o)]) (by decide) (Nat.le_of_ble_eq_true rfl) 0 rfl ?_
  have he : aTo (aEA e.1 e.2) (aEA e.1 e.2) := aTo.rf
  unfold t_J2_grow at hT
  refine a_aload_n dJ2_grow_0 rfl ?_
  refine a_aload_n dJ2_grow_1 rfl ?_
  obtain ⟨z2, e1, hT⟩ := obnd hT
  refine a_gI fl_J2_48_8 e1 dJ2_grow_2 ?_
  refine a_iconst (v := 1) dJ2_grow_5 (by decide) ?_
  refine a_iadd dJ2_grow_6 ?_
  obtain ⟨g5, hT⟩ := oifg hT
  obtain ⟨r6, e7, hT⟩ := obnd hT
  refine a_callV kv_J2_69 g5 (k_J2_grow_2 e7) ⟨Nat.le_of_ble_eq_true rfl, Nat.le_of_ble_eq_true rfl⟩ (As := [.int (z2 + 1)]) (rest := []) rfl rfl (Nat.le_of_ble_eq_true rfl) dJ2_grow_7 (kA ?_) xA
  obtain rfl := Option.some.inj hT
  exact a_aret rfl (Or.inr ⟨_, rfl⟩) dJ2_grow_10 (he _ _ ⟨rfl, rfl⟩)
abbrev M_J2_size : aM := (yJ2_size.cls, cJ2_size, 1, (Option.some Jvm.ClassFile.FieldType.int), [], yJ2_size.name)
def t_J2_size (Z : aZ) (h : aH) (o : Nat) : Option (Int32 × aH) :=
  (gI 8 2 h o).bind fun z2 =>
  some (z2, h)
theorem k_J2_size {G : aG} {h : aH} {o : Nat} {e : (Int32 × aH)} (hT : t_J2_size (gZ G) h o = some e) : aMet G yJ2_size (ws_ yJ2_size cJ2_size 1 (Option.some Jvm.ClassFile.FieldType.int)) 1 1 [.ref o] h (aEI e.1 e.2) := by
  refine aMet.of (lv := [some (.ref o)]) (by decide) (Nat.le_of_ble_eq_true rfl) 0 rfl ?_
  have he : aTo (aEI e.1 e.2) (aEI e.1 e.2) := aTo.rf
  unfold t_J2_size at hT
  refine a_aload_n dJ2_size_0 rfl ?_
  obtain ⟨z2, e1, hT⟩ := obnd hT
  refine a_gI fl_J2_48_8 e1 dJ2_size_1 ?_
  obtain rfl := Option.some.inj hT
  exact a_iret rfl rfl dJ2_size_4 (he _ _ ⟨rfl, rfl⟩)
abbrev M_J2_elementData : aM := (yJ2_elementData.cls, cJ2_elementData, 2, (Option.some (Jvm.ClassFile.FieldType.object "java/lang/Object")), [], yJ2_elementData.name)
def t_J2_elementData (Z : aZ) (h : aH) (o : Nat) (x0 : Int32) : Option (Nat × aH) :=
  (gA 8 1 h o).bind fun a2 =>
  (ldX Z h a2 x0).bind fun a3 =>
  some (a3, h)
theorem k_J2_elementData {G : aG} {h : aH} {o : Nat} {x0 : Int32} {e : (Nat × aH)} (hT : t_J2_elementData (gZ G) h o x0 = some e) : aMet G yJ2_elementData (ws_ yJ2_elementData cJ2_elementData 2 (Option.some (Jvm.ClassFile.FieldType.object "java/lang/Object"))) 1 1 [.ref o, .int x0] h (aEA e.1 e.2) := by
  refine aMet.of (lv := [some (.ref o), some (.int x0)]) (by decide) (Nat.le_of_ble_eq_true rfl) 0 rfl ?_
  have he : aTo (aEA e.1 e.2) (aEA e.1 e.2) := aTo.rf
  unfold t_J2_elementData at hT
  refine a_aload_n dJ2_elementData_0 rfl ?_
  obtain ⟨a2, e1, hT⟩ := obnd hT
  refine a_gA fl_J2_9_8 e1 dJ2_elementData_1 ?_
  refine a_iload_n dJ2_elementData_4 rfl ?_
  obtain ⟨a3, e4, hT⟩ := obnd hT
  refine a_ldX e4 dJ2_elementData_5 ?_
  obtain rfl := Option.some.inj hT
  exact a_aret rfl (Or.inl ⟨_, rfl⟩) dJ2_elementData_6 (he _ _ ⟨rfl, rfl⟩)
theorem ks_J2_118 : aKS "java/util/ArrayList" 118 yJ15_checkIndex cJ15_checkIndex 2 (Option.some Jvm.ClassFile.FieldType.int) 2 := ⟨Or.inl q554, q555, q95, q556, ⟨by decide +kernel, by decide +kernel, by decide +kernel⟩⟩
theorem kv_J2_123 : aKV "java/util/ArrayList" 123 8 yJ2_elementData cJ2_elementData 2 (Option.some (Jvm.ClassFile.FieldType.object "java/lang/Object")) 1 := ⟨⟨TJ2, 3, rfl⟩, Or.inl q727, q728, q729, q76, q730, ⟨by decide +kernel, by decide +kernel, by decide +kernel⟩⟩
abbrev M_J2_get : aM := (yJ2_get.cls, cJ2_get, 2, (Option.some (Jvm.ClassFile.FieldType.object "java/lang/Object")), [], yJ2_get.name)
def t_J2_get (Z : aZ) (h : aH) (o : Nat) (x0 : Int32) : Option (Nat × aH) :=
  (gI 8 2 h o).bind fun z2 =>
  (t_J15_checkIndex x0 z2).bind fun r5 =>
  if isC 8 h o = true then
  (t_J2_elementData Z h o x0).bind fun r10 =>
  some (r10.1, r10.2)
  else none
theorem k_J2_get {G : aG} {h : aH} {o : Nat} {x0 : Int32} {e : (Nat × aH)} (hT : t_J2_get (gZ G) h o x0 = some e) : aMet G yJ2_get (ws_ yJ2_get cJ2_get 2 (Option.some (Jvm.ClassFile.FieldType.object "java/lang/Object"))) 3 44 [.ref o, .int x0] h (aEA e.1 e.2) := by
  refine aMet.of (lv := [some (.ref o), some (.int x0)]) (by decide) (Nat.le_of_ble_eq_true rfl) 0 rfl ?_
  have he : aTo (aEA e.1 e.2) (aEA e.1 e.2) := aTo.rf
  unfold t_J2_get at hT
  refine a_iload_n dJ2_get_0 rfl ?_
  refine a_aload_n dJ2_get_1 rfl ?_
  obtain ⟨z2, e1, hT⟩ := obnd hT
  refine a_gI fl_J2_48_8 e1 dJ2_get_2 ?_
  obtain ⟨r5, e6, hT⟩ := obnd hT
  refine a_callS ks_J2_118 (k_J15_checkIndex e6) ⟨Nat.le_of_ble_eq_true rfl, Nat.le_of_ble_eq_true rfl⟩ (As := [.int x0, .int z2]) (rest := []) rfl rfl (Nat.le_of_ble_eq_true rfl) dJ2_get_5 (kI ?_) xI
  refine a_pop dJ2_get_8 rfl ?_
  refine a_aload_n dJ2_get_9 rfl ?_
  refine a_iload_n dJ2_get_10 rfl ?_
  obtain ⟨g9, hT⟩ := oifg hT
  obtain ⟨r10, e11, hT⟩ := obnd hT
  refine a_callV kv_J2_123 g9 (k_J2_elementData e11) ⟨Nat.le_of_ble_eq_true rfl, Nat.le_of_ble_eq_true rfl⟩ (As := [.int x0]) (rest := []) rfl rfl (Nat.le_of_ble_eq_true rfl) dJ2_get_11 (kA ?_) xA
  obtain rfl := Option.some.inj hT
  exact a_aret rfl (Or.inl ⟨_, rfl⟩) dJ2_get_14 (he _ _ ⟨rfl, rfl⟩)
abbrev M_J2_isEmpty : aM := (yJ2_isEmpty.cls, cJ2_isEmpty, 1, (Option.some Jvm.ClassFile.FieldType.boolean), [], yJ2_isEmpty.name)
def t_J2_isEmpty (Z : aZ) (h : aH) (o : Nat) : Option (Int32 × aH) :=
  (gI 8 2 h o).bind fun z2 =>
  if z2 = 0 then
    some (1, h)
  else
    some (0, h)
theorem k_J2_isEmpty {G : aG} {h : aH} {o : Nat} {e : (Int32 × aH)} (hT : t_J2_isEmpty (gZ G) h o = some e) : aMet G yJ2_isEmpty (ws_ yJ2_isEmpty cJ2_isEmpty 1 (Option.some Jvm.ClassFile.FieldType.boolean)) 1 1 [.ref o] h (aEI e.1 e.2) := by
  refine aMet.of (lv := [some (.ref o)]) (by decide) (Nat.le_of_ble_eq_true rfl) 0 rfl ?_
  have he : aTo (aEI e.1 e.2) (aEI e.1 e.2) := aTo.rf
  unfold t_J2_isEmpty at hT
  refine a_aload_n dJ2_isEmpty_0 rfl ?_
  obtain ⟨z2, e1, hT⟩ := obnd hT
  refine a_gI fl_J2_48_8 e1 dJ2_isEmpty_1 ?_
  refine a_if_ne 11 dJ2_isEmpty_4 rfl (fun c3 => ?_) (fun c3 => ?_)
  · have hT := oifn c3 hT
    refine a_iconst (v := 0) dJ2_isEmpty_11 (by decide) ?_
    obtain rfl := Option.some.inj hT
    exact a_iret rfl (by decide) dJ2_isEmpty_12 (he _ _ ⟨rfl, rfl⟩)
  · have hT := oifp c3 hT
    refine a_iconst (v := 1) dJ2_isEmpty_7 (by decide) ?_
    refine a_goto 12 dJ2_isEmpty_8 rfl ?_
    obtain rfl := Option.some.inj hT
    exact a_iret rfl (by decide) dJ2_isEmpty_12 (he _ _ ⟨rfl, rfl⟩)
theorem fl_J2_63_8 : aFL "java/util/ArrayList" 63 8 0 := ⟨RJ2, TJ2, 3, "java/util/ArrayList", rfl, in_J2, by decide, Or.inr q147, Or.inl q148⟩
theorem fp_J2_63_8 (nm9 : String) : aFP "java/util/ArrayList" 63 8 0 .int nm9 := ⟨RJ2, TJ2, 3, "java/util/ArrayList", tyJ2, rfl, in_J2, by decide, Or.inr q147, Or.inl q148, tyJ2_ok, nmJ2, rfl, Or.inl rfl⟩
theorem fp_J2_48_8 (nm9 : String) : aFP "java/util/ArrayList" 48 8 2 .int nm9 := ⟨RJ2, TJ2, 3, "java/util/ArrayList", tyJ2, rfl, in_J2, by decide, Or.inl rfl, Or.inl q144, tyJ2_ok, nmJ2, rfl, Or.inl rfl⟩
abbrev M_J2_clear : aM := (yJ2_clear.cls, cJ2_clear, 4, (Option.none : Option Jvm.ClassFile.FieldType), [], yJ2_clear.name)
def p_J2_clear_b27 (G : aG) (h0 : aH) (K : aRes → aH → Prop) (x9 : (Nat × Int32 × Int32 × aH)) : Prop := aW G M_J2_clear 1 1 h0 K x9.2.2.2 27 [none, some (.ref x9.1), some (.int x9.2.1), some (.int x9.2.2.1)] []
def t_J2_clear_b27 (Z : aZ) : (Nat × Int32 × Int32 × aH) → Option ((Nat × Int32 × Int32 × aH) ⊕ (Unit × aH)) := fun (v1, v2, v3, h) =>
  if v2 ≤ v3 then
    some (.inr (((), h)))
  else
    (stR Z h v1 v3 none).bind fun h12 =>
    some (.inl (v1, v2, (v3 + 1), h12))
theorem kb_J2_clear_b27 {G : aG} {h0 : aH} {K : aRes → aH → Prop} : ∀ (x9 : (Nat × Int32 × Int32 × aH)) (e : ((Nat × Int32 × Int32 × aH) ⊕ (Unit × aH))), t_J2_clear_b27 (gZ G) x9 = some e → (Sum.elim (p_J2_clear_b27 G h0 K) (fun e => aTo (aEV e.1 e.2) K)) e → p_J2_clear_b27 G h0 K x9 := by
  intro x9 e hT he
  obtain ⟨v1, v2, v3, h⟩ := x9
  unfold p_J2_clear_b27
  unfold t_J2_clear_b27 at hT
  show aW G M_J2_clear 1 1 h0 K h 27 [none, some (.ref v1), some (.int v2), some (.int v3)] []
  dsimp only at hT
  refine a_iload_n dJ2_clear_27 rfl ?_
  refine a_iload_n dJ2_clear_28 rfl ?_
  refine a_icmp_ge 42 dJ2_clear_29 rfl (fun c11 => ?_) (fun c11 => ?_)
  · have hT := oifp c11 hT
    obtain rfl := Option.some.inj hT
    exact a_vret rfl dJ2_clear_42 (he _ _ ⟨rfl, rfl⟩)
  · have hT := oifn c11 hT
    refine a_aload_n dJ2_clear_32 rfl ?_
    refine a_iload_n dJ2_clear_33 rfl ?_
    refine a_null dJ2_clear_34 ?_
    obtain ⟨h12, e13, hT⟩ := obnd hT
    refine a_stN e13 dJ2_clear_35 ?_
    refine a_iinc (v := (v3 + 1)) (lv' := [none, some (.ref v1), some (.int v2), some (.int (v3 + 1))]) dJ2_clear_36 rfl (by rfl) rfl (by decide) rfl ?_
    refine a_goto 27 dJ2_clear_39 rfl ?_
    obtain rfl := Option.some.inj hT
    exact he
theorem k_J2_clear_b27 {G : aG} {h0 : aH} {K : aRes → aH → Prop} {n9 : Nat} {x9 : (Nat × Int32 × Int32 × aH)} {e : (Unit × aH)} (hT : wlo (t_J2_clear_b27 (gZ G)) n9 x9 = some e) (he : (fun e => aTo (aEV e.1 e.2) K) e) : p_J2_clear_b27 G h0 K x9 := wlo_W kb_J2_clear_b27 n9 x9 e hT he
def t_J2_clear (Z : aZ) (h : aH) (o : Nat) : Option (Unit × aH) :=
  (gI 8 0 h o).bind fun z2 =>
  (pF 8 0 Z h o (.int (z2 + 1))).bind fun h4 =>
  (gA 8 1 h4 o).bind fun a6 =>
  (gI 8 2 h4 o).bind fun z8 =>
  (pF 8 2 Z h4 o (.int 0)).bind fun h10 =>
  wlo (t_J2_clear_b27 Z) 100 (a6, z8, 0, h10)
theorem k_J2_clear {G : aG} {h : aH} {o : Nat} {e : (Unit × aH)} (hT : t_J2_clear (gZ G) h o = some e) : aMet G yJ2_clear (ws_ yJ2_clear cJ2_clear 4 (Option.none : Option Jvm.ClassFile.FieldType)) 1 1 [.ref o] h (aEV e.1 e.2) := by
  refine aMet.of (lv := [some (.ref o), none, none, none]) (by decide) (Nat.le_of_ble_eq_true rfl) 3 rfl ?_
  have he : aTo (aEV e.1 e.2) (aEV e.1 e.2) := aTo.rf
  unfold t_J2_clear at hT
  refine a_aload_n dJ2_clear_0 rfl ?_
  refine a_dup dJ2_clear_1 rfl ?_
  obtain ⟨z2, e1, hT⟩ := obnd hT
  refine a_gI fl_J2_63_8 e1 dJ2_clear_2 ?_
  refine a_iconst (v := 1) dJ2_clear_5 (by decide) ?_
  refine a_iadd dJ2_clear_6 ?_
  obtain ⟨h4, e3, hT⟩ := obnd hT
  refine a_put (fp_J2_63_8 _) ⟨rfl, rfl⟩ e3 dJ2_clear_7 ?_
  refine a_aload_n dJ2_clear_10 rfl ?_
  obtain ⟨a6, e5, hT⟩ := obnd hT
  refine a_gA fl_J2_9_8 e5 dJ2_clear_11 ?_
  refine a_astore_n (lv' := [some (.ref o), some (.ref a6), none, none]) dJ2_clear_14 rfl (by decide) rfl ?_
  refine a_aload_n dJ2_clear_15 rfl ?_
  obtain ⟨z8, e7, hT⟩ := obnd hT
  refine a_gI fl_J2_48_8 e7 dJ2_clear_16 ?_
  refine a_istore_n (lv' := [some (.ref o), some (.ref a6), some (.int z8), none]) dJ2_clear_19 rfl (by decide) rfl ?_
  refine a_aload_n dJ2_clear_20 rfl ?_
  refine a_iconst (v := 0) dJ2_clear_21 (by decide) ?_
  refine a_dup_x1 dJ2_clear_22 rfl rfl ?_
  obtain ⟨h10, e9, hT⟩ := obnd hT
  refine a_put (fp_J2_48_8 _) ⟨rfl, rfl⟩ e9 dJ2_clear_23 ?_
  refine a_istore_n (lv' := [some (.ref o), some (.ref a6), some (.int z8), some (.int 0)]) dJ2_clear_26 rfl (by decide) rfl ?_
  refine a_mask [false, true, true, true] ?_
  exact k_J2_clear_b27 hT he
abbrev M_J2_fastRemove : aM := (yJ2_fastRemove.cls, cJ2_fastRemove, 4, (Option.none : Option Jvm.ClassFile.FieldType), [], yJ2_fastRemove.name)
def t_J2_fastRemove_l34 (Z : aZ) (h : aH) (v0 : Nat) (v1 : Nat) (v3 : Int32) : Option (Unit × aH) :=
  (pF 8 2 Z h v0 (.int v3)).bind fun h9 =>
  (stR Z h9 v1 v3 none).bind fun h10 =>
  some ((), h10)
theorem k_J2_fastRemove_l34 {G : aG} {h0 : aH} {K : aRes → aH → Prop} {h : aH} {v0 : Nat} {v1 : Nat} {v3 : Int32} {e : (Unit × aH)} (hT : t_J2_fastRemove_l34 (gZ G) h v0 v1 v3 = some e) (he : (fun e => aTo (aEV e.1 e.2) K) e) : aW G M_J2_fastRemove 1 60 h0 K h 34 [some (.ref v0), some (.ref v1), none, some (.int v3)] [] := by
  unfold t_J2_fastRemove_l34 at hT
  refine a_aload_n dJ2_fastRemove_34 rfl ?_
  refine a_aload_n dJ2_fastRemove_35 rfl ?_
  refine a_iload_n dJ2_fastRemove_36 rfl ?_
  refine a_dup_x1 dJ2_fastRemove_37 rfl rfl ?_
  obtain ⟨h9, e8, hT⟩ := obnd hT
  refine a_put (fp_J2_48_8 _) ⟨rfl, rfl⟩ e8 dJ2_fastRemove_38 ?_
  refine a_null dJ2_fastRemove_41 ?_
  obtain ⟨h10, e11, hT⟩ := obnd hT
  refine a_stN e11 dJ2_fastRemove_42 ?_
  obtain rfl := Option.some.inj hT
  exact a_vret rfl dJ2_fastRemove_43 (he _ _ ⟨rfl, rfl⟩)
def t_J2_fastRemove (Z : aZ) (h : aH) (o : Nat) (x0 : Nat) (x1 : Int32) : Option (Unit × aH) :=
  (gI 8 0 h o).bind fun z2 =>
  (pF 8 0 Z h o (.int (z2 + 1))).bind fun h4 =>
  (gI 8 2 h4 o).bind fun z6 =>
  if (z6 - 1) ≤ x1 then
    t_J2_fastRemove_l34 Z h4 o x0 (z6 - 1)
  else
    (cpR 1 Z h4 x0 (x1 + 1) x1 ((z6 - 1) - x1)).bind fun h12 =>
    t_J2_fastRemove_l34 Z h12 o x0 (z6 - 1)
theorem k_J2_fastRemove {G : aG} {h : aH} {o : Nat} {x0 : Nat} {x1 : Int32} {e : (Unit × aH)} (hT : t_J2_fastRemove (gZ G) h o x0 x1 = some e) : aMet G yJ2_fastRemove (ws_ yJ2_fastRemove cJ2_fastRemove 4 (Option.none : Option Jvm.ClassFile.FieldType)) 1 60 [.ref o, .ref x0, .int x1] h (aEV e.1 e.2) := by
  refine aMet.of (lv := [some (.ref o), some (.ref x0), some (.int x1), none]) (by decide) (Nat.le_of_ble_eq_true rfl) 1 rfl ?_
  have he : aTo (aEV e.1 e.2) (aEV e.1 e.2) := aTo.rf
  unfold t_J2_fastRemove at hT
  refine a_aload_n dJ2_fastRemove_0 rfl ?_
  refine a_dup dJ2_fastRemove_1 rfl ?_
  obtain ⟨z2, e1, hT⟩ := obnd hT
  refine a_gI fl_J2_63_8 e1 dJ2_fastRemove_2 ?_
  refine a_iconst (v := 1) dJ2_fastRemove_5 (by decide) ?_
  refine a_iadd dJ2_fastRemove_6 ?_
  obtain ⟨h4, e3, hT⟩ := obnd hT
  refine a_put (fp_J2_63_8 _) ⟨rfl, rfl⟩ e3 dJ2_fastRemove_7 ?_
  refine a_aload_n dJ2_fastRemove_10 rfl ?_
  obtain ⟨z6, e5, hT⟩ := obnd hT
  refine a_gI fl_J2_48_8 e5 dJ2_fastRemove_11 ?_
  refine a_iconst (v := 1) dJ2_fastRemove_14 (by decide) ?_
  refine a_isub dJ2_fastRemove_15 ?_
  refine a_dup dJ2_fastRemove_16 rfl ?_
  refine a_istore_n (lv' := [some (.ref o), some (.ref x0), some (.int x1), some (.int (z6 - 1))]) dJ2_fastRemove_17 rfl (by decide) rfl ?_
  refine a_iload_n dJ2_fastRemove_18 rfl ?_
  refine a_icmp_le 34 dJ2_fastRemove_19 rfl (fun c7 => ?_) (fun c7 => ?_)
  · have hT := oifp c7 hT
    refine a_mask [true, true, false, true] ?_
    exact k_J2_fastRemove_l34 hT he
  · have hT := oifn c7 hT
    refine a_aload_n dJ2_fastRemove_22 rfl ?_
    refine a_iload_n dJ2_fastRemove_23 rfl ?_
    refine a_iconst (v := 1) dJ2_fastRemove_24 (by decide) ?_
    refine a_iadd dJ2_fastRemove_25 ?_
    refine a_aload_n dJ2_fastRemove_26 rfl ?_
    refine a_iload_n dJ2_fastRemove_27 rfl ?_
    refine a_iload_n dJ2_fastRemove_28 rfl ?_
    refine a_iload_n dJ2_fastRemove_29 rfl ?_
    refine a_isub dJ2_fastRemove_30 ?_
    obtain ⟨h12, e13, hT⟩ := obnd hT
    refine a_copyR (ci := 1) rfl q2152 q564 q485 q484 q92 e13 (by decide) (by decide +kernel) dJ2_fastRemove_31 ?_
    refine a_mask [true, true, false, true] ?_
    exact k_J2_fastRemove_l34 hT he
theorem kv_J2_144 : aKV "java/util/ArrayList" 144 8 yJ2_fastRemove cJ2_fastRemove 4 (Option.none : Option Jvm.ClassFile.FieldType) 2 := ⟨⟨TJ2, 3, rfl⟩, Or.inl q560, q562, qs5, q76, q563, ⟨by decide +kernel, by decide +kernel, by decide +kernel⟩⟩
abbrev M_J2_remove : aM := (yJ2_remove.cls, cJ2_remove, 4, (Option.some (Jvm.ClassFile.FieldType.object "java/lang/Object")), [], yJ2_remove.name)
def t_J2_remove (Z : aZ) (h : aH) (o : Nat) (x0 : Int32) : Option (Nat × aH) :=
  (gI 8 2 h o).bind fun z2 =>
  (t_J15_checkIndex x0 z2).bind fun r5 =>
  (gA 8 1 h o).bind fun a8 =>
  (ldX Z h a8 x0).bind fun a9 =>
  if isC 8 h o = true then
  (t_J2_fastRemove Z h o a8 x0).bind fun r14 =>
  some (a9, r14.2)
  else none
theorem k_J2_remove {G : aG} {h : aH} {o : Nat} {x0 : Int32} {e : (Nat × aH)} (hT : t_J2_remove (gZ G) h o x0 = some e) : aMet G yJ2_remove (ws_ yJ2_remove cJ2_remove 4 (Option.some (Jvm.ClassFile.FieldType.object "java/lang/Object"))) 3 83 [.ref o, .int x0] h (aEA e.1 e.2) := by
  refine aMet.of (lv := [some (.ref o), some (.int x0), none, none]) (by decide) (Nat.le_of_ble_eq_true rfl) 2 rfl ?_
  have he : aTo (aEA e.1 e.2) (aEA e.1 e.2) := aTo.rf
  unfold t_J2_remove at hT
  refine a_iload_n dJ2_remove_0 rfl ?_
  refine a_aload_n dJ2_remove_1 rfl ?_
  obtain ⟨z2, e1, hT⟩ := obnd hT
  refine a_gI fl_J2_48_8 e1 dJ2_remove_2 ?_
  obtain ⟨r5, e6, hT⟩ := obnd hT
  refine a_callS ks_J2_118 (k_J15_checkIndex e6) ⟨Nat.le_of_ble_eq_true rfl, Nat.le_of_ble_eq_true rfl⟩ (As := [.int x0, .int z2]) (rest := []) rfl rfl (Nat.le_of_ble_eq_true rfl) dJ2_remove_5 (kI ?_) xI
  refine a_pop dJ2_remove_8 rfl ?_
  refine a_aload_n dJ2_remove_9 rfl ?_
  obtain ⟨a8, e7, hT⟩ := obnd hT
  refine a_gA fl_J2_9_8 e7 dJ2_remove_10 ?_
  refine a_astore_n (lv' := [some (.ref o), some (.int x0), some (.ref a8), none]) dJ2_remove_13 rfl (by decide) rfl ?_
  refine a_aload_n dJ2_remove_14 rfl ?_
  refine a_iload_n dJ2_remove_15 rfl ?_
  obtain ⟨a9, e10, hT⟩ := obnd hT
  refine a_ldX e10 dJ2_remove_16 ?_
  refine a_astore_n (lv' := [some (.ref o), some (.int x0), some (.ref a8), some (.ref a9)]) dJ2_remove_17 rfl (by decide) rfl ?_
  refine a_aload_n dJ2_remove_18 rfl ?_
  refine a_aload_n dJ2_remove_19 rfl ?_
  refine a_iload_n dJ2_remove_20 rfl ?_
  obtain ⟨g13, hT⟩ := oifg hT
  obtain ⟨r14, e15, hT⟩ := obnd hT
  refine a_callV kv_J2_144 g13 (k_J2_fastRemove e15) ⟨Nat.le_of_ble_eq_true rfl, Nat.le_of_ble_eq_true rfl⟩ (As := [.ref a8, .int x0]) (rest := []) rfl rfl (Nat.le_of_ble_eq_true rfl) dJ2_remove_21 (kV ?_) xV
  refine a_aload_n dJ2_remove_24 rfl ?_
  obtain rfl := Option.some.inj hT
  exact a_aret rfl (Or.inl ⟨_, rfl⟩) dJ2_remove_25 (he _ _ ⟨rfl, rfl⟩)
theorem fp_J7_1_9i : aFP "java/util/ArrayList$Itr" 1 9 3 (.object "java/util/ArrayList") "<init>" := ⟨RJ7, TJ7, 4, "java/util/ArrayList$Itr", tyJ7, rfl, in_J7, by decide, Or.inl rfl, Or.inl q278, tyJ7_ok, nmJ7, rfl, Or.inr ⟨rfl, rfl, rfl, q278⟩⟩
theorem fp_J7_13_9i : aFP "java/util/ArrayList$Itr" 13 9 1 .int "<init>" := ⟨RJ7, TJ7, 4, "java/util/ArrayList$Itr", tyJ7, rfl, in_J7, by decide, Or.inl rfl, Or.inl q276, tyJ7_ok, nmJ7, rfl, Or.inl rfl⟩
theorem fl_J7_1_9 : aFL "java/util/ArrayList$Itr" 1 9 3 := ⟨RJ7, TJ7, 4, "java/util/ArrayList$Itr", rfl, in_J7, by decide, Or.inl rfl, Or.inl q278⟩
theorem fl_J7_17_8 : aFL "java/util/ArrayList$Itr" 17 8 0 := ⟨RJ2, TJ2, 3, "java/util/ArrayList", rfl, in_J2, by decide, Or.inr q147, Or.inl q146⟩
theorem fp_J7_22_9i : aFP "java/util/ArrayList$Itr" 22 9 2 .int "<init>" := ⟨RJ7, TJ7, 4, "java/util/ArrayList$Itr", tyJ7, rfl, in_J7, by decide, Or.inl rfl, Or.inl q277, tyJ7_ok, nmJ7, rfl, Or.inl rfl⟩
abbrev M_J7_init : aM := (yJ7_init.cls, cJ7_init, 2, (Option.none : Option Jvm.ClassFile.FieldType), [], yJ7_init.name)
def t_J7_init (Z : aZ) (h : aH) (o : Nat) (x0 : Nat) : Option (Unit × aH) :=
  (pF 9 3 Z h o (.ref x0)).bind fun h2 =>
  (pF 9 1 Z h2 o (.int (-1))).bind fun h4 =>
  (gA 9 3 h4 o).bind fun a6 =>
  (gI 8 0 h4 a6).bind fun z8 =>
  (pF 9 2 Z h4 o (.int z8)).bind fun h10 =>
  some ((), h10)
theorem k_J7_init {G : aG} {h : aH} {o : Nat} {x0 : Nat} {e : (Unit × aH)} (hT : t_J7_init (gZ G) h o x0 = some e) : aMet G yJ7_init (ws_ yJ7_init cJ7_init 2 (Option.none : Option Jvm.ClassFile.FieldType)) 1 12 [.ref o, .ref x0] h (aEV e.1 e.2) := by
  refine aMet.of (lv := [some (.ref o), some (.ref x0)]) (by decide) (Nat.le_of_ble_eq_true rfl) 0 rfl ?_
  have he : aTo (aEV e.1 e.2) (aEV e.1 e.2) := aTo.rf
  unfold t_J7_init at hT
  refine a_aload_n dJ7_init_0 rfl ?_
  refine a_aload_n dJ7_init_1 rfl ?_
  obtain ⟨h2, e1, hT⟩ := obnd hT
  refine a_put fp_J7_1_9i ⟨rfl, rfl⟩ e1 dJ7_init_2 ?_
  refine a_aload_n dJ7_init_5 rfl ?_
  refine a_objInit q274 q_oi q_oc (by decide) (Nat.le_of_ble_eq_true rfl) dJ7_init_6 ?_
  refine a_aload_n dJ7_init_9 rfl ?_
  refine a_iconst (v := (-1)) dJ7_init_10 (by decide) ?_
  obtain ⟨h4, e3, hT⟩ := obnd hT
  refine a_put fp_J7_13_9i ⟨rfl, rfl⟩ e3 dJ7_init_11 ?_
  refine a_aload_n dJ7_init_14 rfl ?_
  refine a_aload_n dJ7_init_15 rfl ?_
  obtain ⟨a6, e5, hT⟩ := obnd hT
  refine a_gA fl_J7_1_9 e5 dJ7_init_16 ?_
  obtain ⟨z8, e7, hT⟩ := obnd hT
  refine a_gI fl_J7_17_8 e7 dJ7_init_19 ?_
  obtain ⟨h10, e9, hT⟩ := obnd hT
  refine a_put fp_J7_22_9i ⟨rfl, rfl⟩ e9 dJ7_init_22 ?_
  obtain rfl := Option.some.inj hT
  exact a_vret rfl dJ7_init_25 (he _ _ ⟨rfl, rfl⟩)
theorem fl_J7_25_9 : aFL "java/util/ArrayList$Itr" 25 9 0 := ⟨RJ7, TJ7, 4, "java/util/ArrayList$Itr", rfl, in_J7, by decide, Or.inl rfl, Or.inl q275⟩
theorem fl_J7_28_8 : aFL "java/util/ArrayList$Itr" 28 8 2 := ⟨RJ2, TJ2, 3, "java/util/ArrayList", rfl, in_J2, by decide, Or.inl rfl, Or.inr ⟨_, q143⟩⟩
abbrev M_J7_hasNext : aM := (yJ7_hasNext.cls, cJ7_hasNext, 1, (Option.some Jvm.ClassFile.FieldType.boolean), [], yJ7_hasNext.name)
def t_J7_hasNext (Z : aZ) (h : aH) (o : Nat) : Option (Int32 × aH) :=
  (gI 9 0 h o).bind fun z2 =>
  (gA 9 3 h o).bind fun a4 =>
  (gI 8 2 h a4).bind fun z6 =>
  if z2 = z6 then
    some (0, h)
  else
    some (1, h)
theorem k_J7_hasNext {G : aG} {h : aH} {o : Nat} {e : (Int32 × aH)} (hT : t_J7_hasNext (gZ G) h o = some e) : aMet G yJ7_hasNext (ws_ yJ7_hasNext cJ7_hasNext 1 (Option.some Jvm.ClassFile.FieldType.boolean)) 1 1 [.ref o] h (aEI e.1 e.2) := by
  refine aMet.of (lv := [some (.ref o)]) (by decide) (Nat.le_of_ble_eq_true rfl) 0 rfl ?_
  have he : aTo (aEI e.1 e.2) (aEI e.1 e.2) := aTo.rf
  unfold t_J7_hasNext at hT
  refine a_aload_n dJ7_hasNext_0 rfl ?_
  obtain ⟨z2, e1, hT⟩ := obnd hT
  refine a_gI fl_J7_25_9 e1 dJ7_hasNext_1 ?_
  refine a_aload_n dJ7_hasNext_4 rfl ?_
  obtain ⟨a4, e3, hT⟩ := obnd hT
  refine a_gA fl_J7_1_9 e3 dJ7_hasNext_5 ?_
  obtain ⟨z6, e5, hT⟩ := obnd hT
  refine a_gI fl_J7_28_8 e5 dJ7_hasNext_8 ?_
  refine a_icmp_eq 18 dJ7_hasNext_11 rfl (fun c7 => ?_) (fun c7 => ?_)
  · have hT := oifp c7 hT
    refine a_iconst (v := 0) dJ7_hasNext_18 (by decide) ?_
    obtain rfl := Option.some.inj hT
    exact a_iret rfl (by decide) dJ7_hasNext_19 (he _ _ ⟨rfl, rfl⟩)
  · have hT := oifn c7 hT
    refine a_iconst (v := 1) dJ7_hasNext_14 (by decide) ?_
    refine a_goto 19 dJ7_hasNext_15 rfl ?_
    obtain rfl := Option.some.inj hT
    exact a_iret rfl (by decide) dJ7_hasNext_19 (he _ _ ⟨rfl, rfl⟩)
theorem fl_J7_22_9 : aFL "java/util/ArrayList$Itr" 22 9 2 := ⟨RJ7, TJ7, 4, "java/util/ArrayList$Itr", rfl, in_J7, by decide, Or.inl rfl, Or.inl q277⟩
abbrev M_J7_checkForComodification : aM := (yJ7_checkForComodification.cls, cJ7_checkForComodification, 1, (Option.none : Option Jvm.ClassFile.FieldType), [], yJ7_checkForComodification.name)
def t_J7_checkForComodification (Z : aZ) (h : aH) (o : Nat) : Option (Unit × aH) :=
  (gA 9 3 h o).bind fun a2 =>
  (gI 8 0 h a2).bind fun z4 =>
  (gI 9 2 h o).bind fun z6 =>
  if z4 = z6 then
    some ((), h)
  else
    none
theorem k_J7_checkForComodification {G : aG} {h : aH} {o : Nat} {e : (Unit × aH)} (hT : t_J7_checkForComodification (gZ G) h o = some e) : aMet G yJ7_checkForComodification (ws_ yJ7_checkForComodification cJ7_checkForComodification 1 (Option.none : Option Jvm.ClassFile.FieldType)) 1 1 [.ref o] h (aEV e.1 e.2) := by
  refine aMet.of (lv := [some (.ref o)]) (by decide) (Nat.le_of_ble_eq_true rfl) 0 rfl ?_
  have he : aTo (aEV e.1 e.2) (aEV e.1 e.2) := aTo.rf
  unfold t_J7_checkForComodification at hT
  refine a_aload_n dJ7_checkForComodification_0 rfl ?_
  obtain ⟨a2, e1, hT⟩ := obnd hT
  refine a_gA fl_J7_1_9 e1 dJ7_checkForComodification_1 ?_
  obtain ⟨z4, e3, hT⟩ := obnd hT
  refine a_gI fl_J7_17_8 e3 dJ7_checkForComodification_4 ?_
  refine a_aload_n dJ7_checkForComodification_7 rfl ?_
  obtain ⟨z6, e5, hT⟩ := obnd hT
  refine a_gI fl_J7_22_9 e5 dJ7_checkForComodification_8 ?_
  refine a_icmp_eq 22 dJ7_checkForComodification_11 rfl (fun c7 => ?_) (fun c7 => ?_)
  · have hT := oifp c7 hT
    obtain rfl := Option.some.inj hT
    exact a_vret rfl dJ7_checkForComodification_22 (he _ _ ⟨rfl, rfl⟩)
  · have hT := oifn c7 hT
    cases hT
theorem kv_J7_31 : aKV "java/util/ArrayList$Itr" 31 9 yJ7_checkForComodification cJ7_checkForComodification 1 (Option.none : Option Jvm.ClassFile.FieldType) 0 := ⟨⟨TJ7, 4, rfl⟩, Or.inl q307, q308, q309, q82, q310, ⟨by decide +kernel, by decide +kernel, by decide +kernel⟩⟩
theorem fl_J7_37_8 : aFL "java/util/ArrayList$Itr" 37 8 1 := ⟨RJ2, TJ2, 3, "java/util/ArrayList", rfl, in_J2, by decide, Or.inl rfl, Or.inl q142⟩
theorem fp_J7_25_9 (nm9 : String) : aFP "java/util/ArrayList$Itr" 25 9 0 .int nm9 := ⟨RJ7, TJ7, 4, "java/util/ArrayList$Itr", tyJ7, rfl, in_J7, by decide, Or.inl rfl, Or.inl q275, tyJ7_ok, nmJ7, rfl, Or.inl rfl⟩
theorem fp_J7_13_9 (nm9 : String) : aFP "java/util/ArrayList$Itr" 13 9 1 .int nm9 := ⟨RJ7, TJ7, 4, "java/util/ArrayList$Itr", tyJ7, rfl, in_J7, by decide, Or.inl rfl, Or.inl q276, tyJ7_ok, nmJ7, rfl, Or.inl rfl⟩
abbrev M_J7_next : aM := (yJ7_next.cls, cJ7_next, 3, (Option.some (Jvm.ClassFile.FieldType.object "java/lang/Object")), [], yJ7_next.name)
def t_J7_next (Z : aZ) (h : aH) (o : Nat) : Option (Nat × aH) :=
  if isC 9 h o = true then
  (t_J7_checkForComodification Z h o).bind fun r4 =>
  (gI 9 0 r4.2 o).bind fun z7 =>
  (gA 9 3 r4.2 o).bind fun a9 =>
  (gI 8 2 r4.2 a9).bind fun z11 =>
  if z7 < z11 then
    (gA 9 3 r4.2 o).bind fun a14 =>
    (gA 8 1 r4.2 a14).bind fun a16 =>
    (alen Z r4.2 a16).bind fun z17 =>
    if z7 < z17 then
      (pF 9 0 Z r4.2 o (.int (z7 + 1))).bind fun h21 =>
      (pF 9 1 Z h21 o (.int z7)).bind fun h23 =>
      (ldX Z h23 a16 z7).bind fun a24 =>
      some (a24, h23)
    else
      none
  else
    none
  else none
theorem k_J7_next {G : aG} {h : aH} {o : Nat} {e : (Nat × aH)} (hT : t_J7_next (gZ G) h o = some e) : aMet G yJ7_next (ws_ yJ7_next cJ7_next 3 (Option.some (Jvm.ClassFile.FieldType.object "java/lang/Object"))) 2 21 [.ref o] h (aEA e.1 e.2) := by
  refine aMet.of (lv := [some (.ref o), none, none]) (by decide) (Nat.le_of_ble_eq_true rfl) 2 rfl ?_
  have he : aTo (aEA e.1 e.2) (aEA e.1 e.2) := aTo.rf
  unfold t_J7_next at hT
  refine a_aload_n dJ7_next_0 rfl ?_
  obtain ⟨g3, hT⟩ := oifg hT
  obtain ⟨r4, e5, hT⟩ := obnd hT
  refine a_callV kv_J7_31 g3 (k_J7_checkForComodification e5) ⟨Nat.le_of_ble_eq_true rfl, Nat.le_of_ble_eq_true rfl⟩ (As := []) (rest := []) rfl rfl (Nat.le_of_ble_eq_true rfl) dJ7_next_1 (kV ?_) xV
  refine a_aload_n dJ7_next_4 rfl ?_
  obtain ⟨z7, e6, hT⟩ := obnd hT
  refine a_gI fl_J7_25_9 e6 dJ7_next_5 ?_
  refine a_istore_n (lv' := [some (.ref o), some (.int z7), none]) dJ7_next_8 rfl (by decide) rfl ?_
  refine a_iload_n dJ7_next_9 rfl ?_
  refine a_aload_n dJ7_next_10 rfl ?_
  obtain ⟨a9, e8, hT⟩ := obnd hT
  refine a_gA fl_J7_1_9 e8 dJ7_next_11 ?_
  obtain ⟨z11, e10, hT⟩ := obnd hT
  refine a_gI fl_J7_28_8 e10 dJ7_next_14 ?_
  refine a_icmp_lt 28 dJ7_next_17 rfl (fun c12 => ?_) (fun c12 => ?_)
  · have hT := oifp c12 hT
    refine a_aload_n dJ7_next_28 rfl ?_
    obtain ⟨a14, e13, hT⟩ := obnd hT
    refine a_gA fl_J7_1_9 e13 dJ7_next_29 ?_
    obtain ⟨a16, e15, hT⟩ := obnd hT
    refine a_gA fl_J7_37_8 e15 dJ7_next_32 ?_
    refine a_astore_n (lv' := [some (.ref o), some (.int z7), some (.ref a16)]) dJ7_next_35 rfl (by decide) rfl ?_
    refine a_iload_n dJ7_next_36 rfl ?_
    refine a_aload_n dJ7_next_37 rfl ?_
    obtain ⟨z17, e18, hT⟩ := obnd hT
    refine a_alen e18 dJ7_next_38 ?_
    refine a_icmp_lt 50 dJ7_next_39 rfl (fun c19 => ?_) (fun c19 => ?_)
    · have hT := oifp c19 hT
      refine a_aload_n dJ7_next_50 rfl ?_
      refine a_iload_n dJ7_next_51 rfl ?_
      refine a_iconst (v := 1) dJ7_next_52 (by decide) ?_
      refine a_iadd dJ7_next_53 ?_
      obtain ⟨h21, e20, hT⟩ := obnd hT
      refine a_put (fp_J7_25_9 _) ⟨rfl, rfl⟩ e20 dJ7_next_54 ?_
      refine a_aload_n dJ7_next_57 rfl ?_
      refine a_aload_n dJ7_next_58 rfl ?_
      refine a_iload_n dJ7_next_59 rfl ?_
      refine a_dup_x1 dJ7_next_60 rfl rfl ?_
      obtain ⟨h23, e22, hT⟩ := obnd hT
      refine a_put (fp_J7_13_9 _) ⟨rfl, rfl⟩ e22 dJ7_next_61 ?_
      obtain ⟨a24, e25, hT⟩ := obnd hT
      refine a_ldX e25 dJ7_next_64 ?_
      obtain rfl := Option.some.inj hT
      exact a_aret rfl (Or.inl ⟨_, rfl⟩) dJ7_next_65 (he _ _ ⟨rfl, rfl⟩)
    · have hT := oifn c19 hT
      cases hT
  · have hT := oifn c12 hT
    cases hT
abbrev M_J18_bitCount : aM := (yJ18_bitCount.cls, cJ18_bitCount, 1, (Option.some Jvm.ClassFile.FieldType.int), [], yJ18_bitCount.name)
def t_J18_bitCount (x0 : Int32) : Option Int32 :=
  some ((((((((x0 - (((x0).toUInt32 >>> ((1 : Int32).toUInt32 &&& Int32.toUInt32 31)).toInt32 &&& 1431655765)) &&& 858993459) + ((((x0 - (((x0).toUInt32 >>> ((1 : Int32).toUInt32 &&& Int32.toUInt32 31)).toInt32 &&& 1431655765))).toUInt32 >>> ((2 : Int32).toUInt32 &&& Int32.toUInt32 31)).toInt32 &&& 858993459)) + (((((x0 - (((x0).toUInt32 >>> ((1 : Int32).toUInt32 &&& Int32.toUInt32 31)).toInt32 &&& 1431655765)) &&& 858993459) + ((((x0 - (((x0).toUInt32 >>> ((1 : Int32).toUInt32 &&& Int32.toUInt32 31)).toInt32 &&& 1431655765))).toUInt32 >>> ((2 : Int32).toUInt32 &&& Int32.toUInt32 31)).toInt32 &&& 858993459))).toUInt32 >>> ((4 : Int32).toUInt32 &&& Int32.toUInt32 31)).toInt32) &&& 252645135) + (((((((x0 - (((x0).toUInt32 >>> ((1 : Int32).toUInt32 &&& Int32.toUInt32 31)).toInt32 &&& 1431655765)) &&& 858993459) + ((((x0 - (((x0).toUInt32 >>> ((1 : Int32).toUInt32 &&& Int32.toUInt32 31)).toInt32 &&& 1431655765))).toUInt32 >>> ((2 : Int32).toUInt32 &&& Int32.toUInt32 31)).toInt32 &&& 858993459)) + (((((x0 - (((x0).toUInt32 >>> ((1 : Int32).toUInt32 &&& Int32.toUInt32 31)).toInt32 &&& 1431655765)) &&& 858993459) + ((((x0 - (((x0).toUInt32 >>> ((1 : Int32).toUInt32 &&& Int32.toUInt32 31)).toInt32 &&& 1431655765))).toUInt32 >>> ((2 : Int32).toUInt32 &&& Int32.toUInt32 31)).toInt32 &&& 858993459))).toUInt32 >>> ((4 : Int32).toUInt32 &&& Int32.toUInt32 31)).toInt32) &&& 252645135)).toUInt32 >>> ((8 : Int32).toUInt32 &&& Int32.toUInt32 31)).toInt32) + ((((((((x0 - (((x0).toUInt32 >>> ((1 : Int32).toUInt32 &&& Int32.toUInt32 31)).toInt32 &&& 1431655765)) &&& 858993459) + ((((x0 - (((x0).toUInt32 >>> ((1 : Int32).toUInt32 &&& Int32.toUInt32 31)).toInt32 &&& 1431655765))).toUInt32 >>> ((2 : Int32).toUInt32 &&& Int32.toUInt32 31)).toInt32 &&& 858993459)) + (((((x0 - (((x0).toUInt32 >>> ((1 : Int32).toUInt32 &&& Int32.toUInt32 31)).toInt32 &&& 1431655765)) &&& 858993459) + ((((x0 - (((x0).toUInt32 >>> ((1 : Int32).toUInt32 &&& Int32.toUInt32 31)).toInt32 &&& 1431655765))).toUInt32 >>> ((2 : Int32).toUInt32 &&& Int32.toUInt32 31)).toInt32 &&& 858993459))).toUInt32 >>> ((4 : Int32).toUInt32 &&& Int32.toUInt32 31)).toInt32) &&& 252645135) + (((((((x0 - (((x0).toUInt32 >>> ((1 : Int32).toUInt32 &&& Int32.toUInt32 31)).toInt32 &&& 1431655765)) &&& 858993459) + ((((x0 - (((x0).toUInt32 >>> ((1 : Int32).toUInt32 &&& Int32.toUInt32 31)).toInt32 &&& 1431655765))).toUInt32 >>> ((2 : Int32).toUInt32 &&& Int32.toUInt32 31)).toInt32 &&& 858993459)) + (((((x0 - (((x0).toUInt32 >>> ((1 : Int32).toUInt32 &&& Int32.toUInt32 31)).toInt32 &&& 1431655765)) &&& 858993459) + ((((x0 - (((x0).toUInt32 >>> ((1 : Int32).toUInt32 &&& Int32.toUInt32 31)).toInt32 &&& 1431655765))).toUInt32 >>> ((2 : Int32).toUInt32 &&& Int32.toUInt32 31)).toInt32 &&& 858993459))).toUInt32 >>> ((4 : Int32).toUInt32 &&& Int32.toUInt32 31)).toInt32) &&& 252645135)).toUInt32 >>> ((8 : Int32).toUInt32 &&& Int32.toUInt32 31)).toInt32)).toUInt32 >>> ((16 : Int32).toUInt32 &&& Int32.toUInt32 31)).toInt32) &&& 63)
theorem k_J18_bitCount {G : aG} {h : aH} {x0 : Int32} {e : Int32} (hT : t_J18_bitCount x0 = some e) : aMet G yJ18_bitCount (ws_ yJ18_bitCount cJ18_bitCount 1 (Option.some Jvm.ClassFile.FieldType.int)) 1 1 [.int x0] h (aEI e h) := by
  refine aMet.of (lv := [some (.int x0)]) (by decide) (Nat.le_of_ble_eq_true rfl) 0 rfl ?_
  have he : aTo (aEI e h) (aEI e h) := aTo.rf
  unfold t_J18_bitCount at hT
  refine a_iload_n dJ18_bitCount_0 rfl ?_
  refine a_iload_n dJ18_bitCount_1 rfl ?_
  refine a_iconst (v := 1) dJ18_bitCount_2 (by decide) ?_
  refine a_iushr dJ18_bitCount_3 ?_
  refine a_ldcw q793 dJ18_bitCount_4 ?_
  refine a_iand dJ18_bitCount_7 ?_
  refine a_isub dJ18_bitCount_8 ?_
  refine a_istore_n (lv' := [some (.int (x0 - (((x0).toUInt32 >>> ((1 : Int32).toUInt32 &&& Int32.toUInt32 31)).toInt32 &&& 1431655765)))]) dJ18_bitCount_9 rfl (by decide) rfl ?_
  refine a_iload_n dJ18_bitCount_10 rfl ?_
  refine a_ldcw q794 dJ18_bitCount_11 ?_
  refine a_iand dJ18_bitCount_14 ?_
  refine a_iload_n dJ18_bitCount_15 rfl ?_
  refine a_iconst (v := 2) dJ18_bitCount_16 (by decide) ?_
  refine a_iushr dJ18_bitCount_17 ?_
  refine a_ldcw q794 dJ18_bitCount_18 ?_
  refine a_iand dJ18_bitCount_21 ?_
  refine a_iadd dJ18_bitCount_22 ?_
  refine a_istore_n (lv' := [some (.int (((x0 - (((x0).toUInt32 >>> ((1 : Int32).toUInt32 &&& Int32.toUInt32 31)).toInt32 &&& 1431655765)) &&& 858993459) + ((((x0 - (((x0).toUInt32 >>> ((1 : Int32).toUInt32 &&& Int32.toUInt32 31)).toInt32 &&& 1431655765))).toUInt32 >>> ((2 : Int32).toUInt32 &&& Int32.toUInt32 31)).toInt32 &&& 858993459)))]) dJ18_bitCount_23 rfl (by decide) rfl ?_
  refine a_iload_n dJ18_bitCount_24 rfl ?_
  refine a_iload_n dJ18_bitCount_25 rfl ?_
  refine a_iconst (v := 4) dJ18_bitCount_26 (by decide) ?_
  refine a_iushr dJ18_bitCount_27 ?_
  refine a_iadd dJ18_bitCount_28 ?_
  refine a_ldcw q795 dJ18_bitCount_29 ?_
  refine a_iand dJ18_bitCount_32 ?_
  refine a_istore_n (lv' := [some (.int (((((x0 - (((x0).toUInt32 >>> ((1 : Int32).toUInt32 &&& Int32.toUInt32 31)).toInt32 &&& 1431655765)) &&& 858993459) + ((((x0 - (((x0).toUInt32 >>> ((1 : Int32).toUInt32 &&& Int32.toUInt32 31)).toInt32 &&& 1431655765))).toUInt32 >>> ((2 : Int32).toUInt32 &&& Int32.toUInt32 31)).toInt32 &&& 858993459)) + (((((x0 - (((x0).toUInt32 >>> ((1 : Int32).toUInt32 &&& Int32.toUInt32 31)).toInt32 &&& 1431655765)) &&& 858993459) + ((((x0 - (((x0).toUInt32 >>> ((1 : Int32).toUInt32 &&& Int32.toUInt32 31)).toInt32 &&& 1431655765))).toUInt32 >>> ((2 : Int32).toUInt32 &&& Int32.toUInt32 31)).toInt32 &&& 858993459))).toUInt32 >>> ((4 : Int32).toUInt32 &&& Int32.toUInt32 31)).toInt32) &&& 252645135))]) dJ18_bitCount_33 rfl (by decide) rfl ?_
  refine a_iload_n dJ18_bitCount_34 rfl ?_
  refine a_iload_n dJ18_bitCount_35 rfl ?_
  refine a_bipush (v := 8) dJ18_bitCount_36 (by decide) ?_
  refine a_iushr dJ18_bitCount_38 ?_
  refine a_iadd dJ18_bitCount_39 ?_
  refine a_istore_n (lv' := [some (.int ((((((x0 - (((x0).toUInt32 >>> ((1 : Int32).toUInt32 &&& Int32.toUInt32 31)).toInt32 &&& 1431655765)) &&& 858993459) + ((((x0 - (((x0).toUInt32 >>> ((1 : Int32).toUInt32 &&& Int32.toUInt32 31)).toInt32 &&& 1431655765))).toUInt32 >>> ((2 : Int32).toUInt32 &&& Int32.toUInt32 31)).toInt32 &&& 858993459)) + (((((x0 - (((x0).toUInt32 >>> ((1 : Int32).toUInt32 &&& Int32.toUInt32 31)).toInt32 &&& 1431655765)) &&& 858993459) + ((((x0 - (((x0).toUInt32 >>> ((1 : Int32).toUInt32 &&& Int32.toUInt32 31)).toInt32 &&& 1431655765))).toUInt32 >>> ((2 : Int32).toUInt32 &&& Int32.toUInt32 31)).toInt32 &&& 858993459))).toUInt32 >>> ((4 : Int32).toUInt32 &&& Int32.toUInt32 31)).toInt32) &&& 252645135) + (((((((x0 - (((x0).toUInt32 >>> ((1 : Int32).toUInt32 &&& Int32.toUInt32 31)).toInt32 &&& 1431655765)) &&& 858993459) + ((((x0 - (((x0).toUInt32 >>> ((1 : Int32).toUInt32 &&& Int32.toUInt32 31)).toInt32 &&& 1431655765))).toUInt32 >>> ((2 : Int32).toUInt32 &&& Int32.toUInt32 31)).toInt32 &&& 858993459)) + (((((x0 - (((x0).toUInt32 >>> ((1 : Int32).toUInt32 &&& Int32.toUInt32 31)).toInt32 &&& 1431655765)) &&& 858993459) + ((((x0 - (((x0).toUInt32 >>> ((1 : Int32).toUInt32 &&& Int32.toUInt32 31)).toInt32 &&& 1431655765))).toUInt32 >>> ((2 : Int32).toUInt32 &&& Int32.toUInt32 31)).toInt32 &&& 858993459))).toUInt32 >>> ((4 : Int32).toUInt32 &&& Int32.toUInt32 31)).toInt32) &&& 252645135)).toUInt32 >>> ((8 : Int32).toUInt32 &&& Int32.toUInt32 31)).toInt32))]) dJ18_bitCount_40 rfl (by decide) rfl ?_
  refine a_iload_n dJ18_bitCount_41 rfl ?_
  refine a_iload_n dJ18_bitCount_42 rfl ?_
  refine a_bipush (v := 16) dJ18_bitCount_43 (by decide) ?_
  refine a_iushr dJ18_bitCount_45 ?_
  refine a_iadd dJ18_bitCount_46 ?_
  refine a_istore_n (lv' := [some (.int (((((((x0 - (((x0).toUInt32 >>> ((1 : Int32).toUInt32 &&& Int32.toUInt32 31)).toInt32 &&& 1431655765)) &&& 858993459) + ((((x0 - (((x0).toUInt32 >>> ((1 : Int32).toUInt32 &&& Int32.toUInt32 31)).toInt32 &&& 1431655765))).toUInt32 >>> ((2 : Int32).toUInt32 &&& Int32.toUInt32 31)).toInt32 &&& 858993459)) + (((((x0 - (((x0).toUInt32 >>> ((1 : Int32).toUInt32 &&& Int32.toUInt32 31)).toInt32 &&& 1431655765)) &&& 858993459) + ((((x0 - (((x0).toUInt32 >>> ((1 : Int32).toUInt32 &&& Int32.toUInt32 31)).toInt32 &&& 1431655765))).toUInt32 >>> ((2 : Int32).toUInt32 &&& Int32.toUInt32 31)).toInt32 &&& 858993459))).toUInt32 >>> ((4 : Int32).toUInt32 &&& Int32.toUInt32 31)).toInt32) &&& 252645135) + (((((((x0 - (((x0).toUInt32 >>> ((1 : Int32).toUInt32 &&& Int32.toUInt32 31)).toInt32 &&& 1431655765)) &&& 858993459) + ((((x0 - (((x0).toUInt32 >>> ((1 : Int32).toUInt32 &&& Int32.toUInt32 31)).toInt32 &&& 1431655765))).toUInt32 >>> ((2 : Int32).toUInt32 &&& Int32.toUInt32 31)).toInt32 &&& 858993459)) + (((((x0 - (((x0).toUInt32 >>> ((1 : Int32).toUInt32 &&& Int32.toUInt32 31)).toInt32 &&& 1431655765)) &&& 858993459) + ((((x0 - (((x0).toUInt32 >>> ((1 : Int32).toUInt32 &&& Int32.toUInt32 31)).toInt32 &&& 1431655765))).toUInt32 >>> ((2 : Int32).toUInt32 &&& Int32.toUInt32 31)).toInt32 &&& 858993459))).toUInt32 >>> ((4 : Int32).toUInt32 &&& Int32.toUInt32 31)).toInt32) &&& 252645135)).toUInt32 >>> ((8 : Int32).toUInt32 &&& Int32.toUInt32 31)).toInt32) + ((((((((x0 - (((x0).toUInt32 >>> ((1 : Int32).toUInt32 &&& Int32.toUInt32 31)).toInt32 &&& 1431655765)) &&& 858993459) + ((((x0 - (((x0).toUInt32 >>> ((1 : Int32).toUInt32 &&& Int32.toUInt32 31)).toInt32 &&& 1431655765))).toUInt32 >>> ((2 : Int32).toUInt32 &&& Int32.toUInt32 31)).toInt32 &&& 858993459)) + (((((x0 - (((x0).toUInt32 >>> ((1 : Int32).toUInt32 &&& Int32.toUInt32 31)).toInt32 &&& 1431655765)) &&& 858993459) + ((((x0 - (((x0).toUInt32 >>> ((1 : Int32).toUInt32 &&& Int32.toUInt32 31)).toInt32 &&& 1431655765))).toUInt32 >>> ((2 : Int32).toUInt32 &&& Int32.toUInt32 31)).toInt32 &&& 858993459))).toUInt32 >>> ((4 : Int32).toUInt32 &&& Int32.toUInt32 31)).toInt32) &&& 252645135) + (((((((x0 - (((x0).toUInt32 >>> ((1 : Int32).toUInt32 &&& Int32.toUInt32 31)).toInt32 &&& 1431655765)) &&& 858993459) + ((((x0 - (((x0).toUInt32 >>> ((1 : Int32).toUInt32 &&& Int32.toUInt32 31)).toInt32 &&& 1431655765))).toUInt32 >>> ((2 : Int32).toUInt32 &&& Int32.toUInt32 31)).toInt32 &&& 858993459)) + (((((x0 - (((x0).toUInt32 >>> ((1 : Int32).toUInt32 &&& Int32.toUInt32 31)).toInt32 &&& 1431655765)) &&& 858993459) + ((((x0 - (((x0).toUInt32 >>> ((1 : Int32).toUInt32 &&& Int32.toUInt32 31)).toInt32 &&& 1431655765))).toUInt32 >>> ((2 : Int32).toUInt32 &&& Int32.toUInt32 31)).toInt32 &&& 858993459))).toUInt32 >>> ((4 : Int32).toUInt32 &&& Int32.toUInt32 31)).toInt32) &&& 252645135)).toUInt32 >>> ((8 : Int32).toUInt32 &&& Int32.toUInt32 31)).toInt32)).toUInt32 >>> ((16 : Int32).toUInt32 &&& Int32.toUInt32 31)).toInt32))]) dJ18_bitCount_47 rfl (by decide) rfl ?_
  refine a_iload_n dJ18_bitCount_48 rfl ?_
  refine a_bipush (v := 63) dJ18_bitCount_49 (by decide) ?_
  refine a_iand dJ18_bitCount_51 ?_
  obtain rfl := Option.some.inj hT
  exact a_iret rfl rfl dJ18_bitCount_52 (he _ _ ⟨rfl, rfl⟩)
abbrev M_J18_stringSize : aM := (yJ18_stringSize.cls, cJ18_stringSize, 4, (Option.some Jvm.ClassFile.FieldType.int), [], yJ18_stringSize.name)
def p_J18_stringSize_b16 (G : aG) (h0 : aH) (K : aRes → aH → Prop) (h : aH) (x9 : (Int32 × Int32 × Int32 × Int32)) : Prop := aW G M_J18_stringSize 1 1 h0 K h 16 [some (.int x9.1), some (.int x9.2.1), some (.int x9.2.2.1), some (.int x9.2.2.2)] []
def t_J18_stringSize_b16 : (Int32 × Int32 × Int32 × Int32) → Option ((Int32 × Int32 × Int32 × Int32) ⊕ Int32) := fun (v0, v1, v2, v3) =>
  if 10 ≤ v3 then
    some (.inr ((10 + v1)))
  else
    if v0 ≤ v2 then
      some (.inl (v0, v1, (10 * v2), (v3 + 1)))
    else
      some (.inr ((v3 + v1)))
theorem kb_J18_stringSize_b16 {G : aG} {h0 : aH} {K : aRes → aH → Prop} {h : aH} : ∀ (x9 : (Int32 × Int32 × Int32 × Int32)) (e : ((Int32 × Int32 × Int32 × Int32) ⊕ Int32)), t_J18_stringSize_b16 x9 = some e → (Sum.elim (p_J18_stringSize_b16 G h0 K h) (fun e => aTo (aEI e h) K)) e → p_J18_stringSize_b16 G h0 K h x9 := by
  intro x9 e hT he
  obtain ⟨v0, v1, v2, v3⟩ := x9
  unfold p_J18_stringSize_b16
  unfold t_J18_stringSize_b16 at hT
  show aW G M_J18_stringSize 1 1 h0 K h 16 [some (.int v0), some (.int v1), some (.int v2), some (.int v3)] []
  dsimp only at hT
  refine a_iload_n dJ18_stringSize_16 rfl ?_
  refine a_bipush (v := 10) dJ18_stringSize_17 (by decide) ?_
  refine a_icmp_ge 42 dJ18_stringSize_19 rfl (fun c2 => ?_) (fun c2 => ?_)
  · have hT := oifp c2 hT
    refine a_bipush (v := 10) dJ18_stringSize_42 (by decide) ?_
    refine a_iload_n dJ18_stringSize_44 rfl ?_
    refine a_iadd dJ18_stringSize_45 ?_
    obtain rfl := Option.some.inj hT
    exact a_iret rfl rfl dJ18_stringSize_46 (he _ _ ⟨rfl, rfl⟩)
  · have hT := oifn c2 hT
    refine a_iload_n dJ18_stringSize_22 rfl ?_
    refine a_iload_n dJ18_stringSize_23 rfl ?_
    refine a_icmp_le 31 dJ18_stringSize_24 rfl (fun c3 => ?_) (fun c3 => ?_)
    · have hT := oifp c3 hT
      refine a_bipush (v := 10) dJ18_stringSize_31 (by decide) ?_
      refine a_iload_n dJ18_stringSize_33 rfl ?_
      refine a_imul dJ18_stringSize_34 ?_
      refine a_istore_n (lv' := [some (.int v0), some (.int v1), some (.int (10 * v2)), some (.int v3)]) dJ18_stringSize_35 rfl (by decide) rfl ?_
      refine a_iinc (v := (v3 + 1)) (lv' := [some (.int v0), some (.int v1), some (.int (10 * v2)), some (.int (v3 + 1))]) dJ18_stringSize_36 rfl (by rfl) rfl (by decide) rfl ?_
      refine a_goto 16 dJ18_stringSize_39 rfl ?_
      obtain rfl := Option.some.inj hT
      exact he
    · have hT := oifn c3 hT
      refine a_iload_n dJ18_stringSize_27 rfl ?_
      refine a_iload_n dJ18_stringSize_28 rfl ?_
      refine a_iadd dJ18_stringSize_29 ?_
      obtain rfl := Option.some.inj hT
      exact a_iret rfl rfl dJ18_stringSize_30 (he _ _ ⟨rfl, rfl⟩)
theorem k_J18_stringSize_b16 {G : aG} {h0 : aH} {K : aRes → aH → Prop} {h : aH} {n9 : Nat} {x9 : (Int32 × Int32 × Int32 × Int32)} {e : Int32} (hT : wlo t_J18_stringSize_b16 n9 x9 = some e) (he : (fun e => aTo (aEI e h) K) e) : p_J18_stringSize_b16 G h0 K h x9 := wlo_W kb_J18_stringSize_b16 n9 x9 e hT he
def t_J18_stringSize_l11 (v0 : Int32) (v1 : Int32) : Option Int32 :=
  wlo t_J18_stringSize_b16 100 (v0, v1, (-10), 1)
theorem k_J18_stringSize_l11 {G : aG} {h0 : aH} {K : aRes → aH → Prop} {h : aH} {v0 : Int32} {v1 : Int32} {e : Int32} (hT : t_J18_stringSize_l11 v0 v1 = some e) (he : (fun e => aTo (aEI e h) K) e) : aW G M_J18_stringSize 1 1 h0 K h 11 [some (.int v0), some (.int v1), none, none] [] := by
  unfold t_J18_stringSize_l11 at hT
  refine a_bipush (v := (-10)) dJ18_stringSize_11 (by decide) ?_
  refine a_istore_n (lv' := [some (.int v0), some (.int v1), some (.int (-10)), none]) dJ18_stringSize_13 rfl (by decide) rfl ?_
  refine a_iconst (v := 1) dJ18_stringSize_14 (by decide) ?_
  refine a_istore_n (lv' := [some (.int v0), some (.int v1), some (.int (-10)), some (.int 1)]) dJ18_stringSize_15 rfl (by decide) rfl ?_
  exact k_J18_stringSize_b16 hT he
def t_J18_stringSize (x0 : Int32) : Option Int32 :=
  if x0 < 0 then
    t_J18_stringSize_l11 x0 1
  else
    t_J18_stringSize_l11 (-x0) 0
theorem k_J18_stringSize {G : aG} {h : aH} {x0 : Int32} {e : Int32} (hT : t_J18_stringSize x0 = some e) : aMet G yJ18_stringSize (ws_ yJ18_stringSize cJ18_stringSize 4 (Option.some Jvm.ClassFile.FieldType.int)) 1 1 [.int x0] h (aEI e h) := by
  refine aMet.of (lv := [some (.int x0), none, none, none]) (by decide) (Nat.le_of_ble_eq_true rfl) 3 rfl ?_
  have he : aTo (aEI e h) (aEI e h) := aTo.rf
  unfold t_J18_stringSize at hT
  refine a_iconst (v := 1) dJ18_stringSize_0 (by decide) ?_
  refine a_istore_n (lv' := [some (.int x0), some (.int 1), none, none]) dJ18_stringSize_1 rfl (by decide) rfl ?_
  refine a_iload_n dJ18_stringSize_2 rfl ?_
  refine a_if_lt 11 dJ18_stringSize_3 rfl (fun c1 => ?_) (fun c1 => ?_)
  · have hT := oifp c1 hT
    exact k_J18_stringSize_l11 hT he
  · have hT := oifn c1 hT
    refine a_iconst (v := 0) dJ18_stringSize_6 (by decide) ?_
    refine a_istore_n (lv' := [some (.int x0), some (.int 0), none, none]) dJ18_stringSize_7 rfl (by decide) rfl ?_
    refine a_iload_n dJ18_stringSize_8 rfl ?_
    refine a_ineg dJ18_stringSize_9 ?_
    refine a_istore_n (lv' := [some (.int (-x0)), some (.int 0), none, none]) dJ18_stringSize_10 rfl (by decide) rfl ?_
    exact k_J18_stringSize_l11 hT he
abbrev M_J23_canEncode : aM := (yJ23_canEncode.cls, cJ23_canEncode, 1, (Option.some Jvm.ClassFile.FieldType.boolean), [], yJ23_canEncode.name)
def t_J23_canEncode (x0 : Int32) : Option Int32 :=
  if x0 < 0 then
    some 0
  else
    if 255 < x0 then
      some 0
    else
      some 1
theorem k_J23_canEncode {G : aG} {h : aH} {x0 : Int32} {e : Int32} (hT : t_J23_canEncode x0 = some e) : aMet G yJ23_canEncode (ws_ yJ23_canEncode cJ23_canEncode 1 (Option.some Jvm.ClassFile.FieldType.boolean)) 1 1 [.int x0] h (aEI e h) := by
  refine aMet.of (lv := [some (.int x0)]) (by decide) (Nat.le_of_ble_eq_true rfl) 0 rfl ?_
  have he : aTo (aEI e h) (aEI e h) := aTo.rf
  unfold t_J23_canEncode at hT
  refine a_iload_n dJ23_canEncode_0 rfl ?_
  refine a_if_lt 15 dJ23_canEncode_1 rfl (fun c1 => ?_) (fun c1 => ?_)
  · have hT := oifp c1 hT
    refine a_iconst (v := 0) dJ23_canEncode_15 (by decide) ?_
    obtain rfl := Option.some.inj hT
    exact a_iret rfl (by decide) dJ23_canEncode_16 (he _ _ ⟨rfl, rfl⟩)
  · have hT := oifn c1 hT
    refine a_iload_n dJ23_canEncode_4 rfl ?_
    refine a_sipush (v := 255) dJ23_canEncode_5 (by decide) ?_
    refine a_icmp_gt 15 dJ23_canEncode_8 rfl (fun c2 => ?_) (fun c2 => ?_)
    · have hT := oifp c2 hT
      refine a_iconst (v := 0) dJ23_canEncode_15 (by decide) ?_
      obtain rfl := Option.some.inj hT
      exact a_iret rfl (by decide) dJ23_canEncode_16 (he _ _ ⟨rfl, rfl⟩)
    · have hT := oifn c2 hT
      refine a_iconst (v := 1) dJ23_canEncode_11 (by decide) ?_
      refine a_goto 16 dJ23_canEncode_12 rfl ?_
      obtain rfl := Option.some.inj hT
      exact a_iret rfl (by decide) dJ23_canEncode_16 (he _ _ ⟨rfl, rfl⟩)
abbrev M_J23_canEncode_2 : aM := (yJ23_canEncode_2.cls, cJ23_canEncode_2, 1, (Option.some Jvm.ClassFile.FieldType.boolean), [], yJ23_canEncode_2.name)
def t_J23_canEncode_2 (x0 : Int32) : Option Int32 :=
  if 255 < x0 then
    some 0
  else
    some 1
theorem k_J23_canEncode_2 {G : aG} {h : aH} {x0 : Int32} {e : Int32} (hT : t_J23_canEncode_2 x0 = some e) : aMet G yJ23_canEncode_2 (ws_ yJ23_canEncode_2 cJ23_canEncode_2 1 (Option.some Jvm.ClassFile.FieldType.boolean)) 1 1 [.int x0] h (aEI e h) := by
  refine aMet.of (lv := [some (.int x0)]) (by decide) (Nat.le_of_ble_eq_true rfl) 0 rfl ?_
  have he : aTo (aEI e h) (aEI e h) := aTo.rf
  unfold t_J23_canEncode_2 at hT
  refine a_iload_n dJ23_canEncode_2_0 rfl ?_
  refine a_sipush (v := 255) dJ23_canEncode_2_1 (by decide) ?_
  refine a_icmp_gt 11 dJ23_canEncode_2_4 rfl (fun c1 => ?_) (fun c1 => ?_)
  · have hT := oifp c1 hT
    refine a_iconst (v := 0) dJ23_canEncode_2_11 (by decide) ?_
    obtain rfl := Option.some.inj hT
    exact a_iret rfl (by decide) dJ23_canEncode_2_12 (he _ _ ⟨rfl, rfl⟩)
  · have hT := oifn c1 hT
    refine a_iconst (v := 1) dJ23_canEncode_2_7 (by decide) ?_
    refine a_goto 12 dJ23_canEncode_2_8 rfl ?_
    obtain rfl := Option.some.inj hT
    exact a_iret rfl (by decide) dJ23_canEncode_2_12 (he _ _ ⟨rfl, rfl⟩)
abbrev M_J18_getChars : aM := (yJ18_getChars.cls, cJ18_getChars, 7, (Option.some Jvm.ClassFile.FieldType.int), [], yJ18_getChars.name)
def p_J18_getChars_b22 (G : aG) (h0 : aH) (K : aRes → aH → Prop) (x9 : (Int32 × Nat × Int32 × Int32 × aH)) : Prop := aW G M_J18_getChars 1 1 h0 K x9.2.2.2.2 22 [some (.int x9.1), none, some (.ref x9.2.1), none, none, some (.int x9.2.2.1), some (.int x9.2.2.2.1)] []
def t_J18_getChars_l104 (Z : aZ) (h : aH) (v2 : Nat) (v5 : Int32) (v6 : Int32) : Option (Int32 × aH) :=
  if v6 = 0 then
    some (v5, h)
  else
    (stB Z h v2 (v5 + (-1)) 45).bind fun h11 =>
    some ((v5 + (-1)), h11)
theorem k_J18_getChars_l104 {G : aG} {h0 : aH} {K : aRes → aH → Prop} {h : aH} {v2 : Nat} {v5 : Int32} {v6 : Int32} {e : (Int32 × aH)} (hT : t_J18_getChars_l104 (gZ G) h v2 v5 v6 = some e) (he : (fun e => aTo (aEI e.1 e.2) K) e) : aW G M_J18_getChars 1 1 h0 K h 104 [none, none, some (.ref v2), none, none, some (.int v5), some (.int v6)] [] := by
  unfold t_J18_getChars_l104 at hT
  refine a_iload dJ18_getChars_104 rfl ?_
  refine a_if_eq 118 dJ18_getChars_106 rfl (fun c9 => ?_) (fun c9 => ?_)
  · have hT := oifp c9 hT
    refine a_iload dJ18_getChars_118 rfl ?_
    obtain rfl := Option.some.inj hT
    exact a_iret rfl rfl dJ18_getChars_120 (he _ _ ⟨rfl, rfl⟩)
  · have hT := oifn c9 hT
    refine a_aload_n dJ18_getChars_109 rfl ?_
    refine a_iinc (v := (v5 + (-1))) (lv' := [none, none, some (.ref v2), none, none, some (.int (v5 + (-1))), some (.int v6)]) dJ18_getChars_110 rfl (by rfl) rfl (by decide) rfl ?_
    refine a_iload dJ18_getChars_113 rfl ?_
    refine a_bipush (v := 45) dJ18_getChars_115 (by decide) ?_
    obtain ⟨h11, e10, hT⟩ := obnd hT
    refine a_stB e10 dJ18_getChars_117 ?_
    refine a_iload dJ18_getChars_118 rfl ?_
    obtain rfl := Option.some.inj hT
    exact a_iret rfl rfl dJ18_getChars_120 (he _ _ ⟨rfl, rfl⟩)
def t_J18_getChars_l72 (Z : aZ) (h : aH) (v0 : Int32) (v2 : Nat) (v5 : Int32) (v6 : Int32) : Option (Int32 × aH) :=
  (oldLd .byte Z (znm Z 2) (-v0)).bind fun z5 =>
  (stB Z h v2 (v5 + (-1)) z5).bind fun h7 =>
  if (-9) ≤ v0 then
    t_J18_getChars_l104 Z h7 v2 (v5 + (-1)) v6
  else
    (oldLd .byte Z (znm Z 1) (-v0)).bind fun z13 =>
    (stB Z h7 v2 ((v5 + (-1)) + (-1)) z13).bind fun h15 =>
    t_J18_getChars_l104 Z h15 v2 ((v5 + (-1)) + (-1)) v6
theorem k_J18_getChars_l72 {G : aG} {h0 : aH} {K : aRes → aH → Prop} {h : aH} {v0 : Int32} {v2 : Nat} {v5 : Int32} {v6 : Int32} {e : (Int32 × aH)} (hT : t_J18_getChars_l72 (gZ G) h v0 v2 v5 v6 = some e) (he : (fun e => aTo (aEI e.1 e.2) K) e) : aW G M_J18_getChars 1 1 h0 K h 72 [some (.int v0), none, some (.ref v2), none, none, some (.int v5), some (.int v6)] [] := by
  unfold t_J18_getChars_l72 at hT
  refine a_aload_n dJ18_getChars_72 rfl ?_
  refine a_iinc (v := (v5 + (-1))) (lv' := [some (.int v0), none, some (.ref v2), none, none, some (.int (v5 + (-1))), some (.int v6)]) dJ18_getChars_73 rfl (by rfl) rfl (by decide) rfl ?_
  refine a_iload dJ18_getChars_76 rfl ?_
  refine a_gets (k := 3) rfl q1448 dJ18_getChars_78 ?_
  refine a_iload_n dJ18_getChars_81 rfl ?_
  refine a_ineg dJ18_getChars_82 ?_
  obtain ⟨z5, e4, hT⟩ := obnd hT
  refine a_oldB e4 dJ18_getChars_83 ?_
  obtain ⟨h7, e6, hT⟩ := obnd hT
  refine a_stB e6 dJ18_getChars_84 ?_
  refine a_iload_n dJ18_getChars_85 rfl ?_
  refine a_bipush (v := (-9)) dJ18_getChars_86 (by decide) ?_
  refine a_icmp_ge 104 dJ18_getChars_88 rfl (fun c8 => ?_) (fun c8 => ?_)
  · have hT := oifp c8 hT
    refine a_mask [false, true, true, true, true, true, true] ?_
    exact k_J18_getChars_l104 hT he
  · have hT := oifn c8 hT
    refine a_aload_n dJ18_getChars_91 rfl ?_
    refine a_iinc (v := ((v5 + (-1)) + (-1))) (lv' := [some (.int v0), none, some (.ref v2), none, none, some (.int ((v5 + (-1)) + (-1))), some (.int v6)]) dJ18_getChars_92 rfl (by rfl) rfl (by decide) rfl ?_
    refine a_iload dJ18_getChars_95 rfl ?_
    refine a_gets (k := 2) rfl q1450 dJ18_getChars_97 ?_
    refine a_iload_n dJ18_getChars_100 rfl ?_
    refine a_ineg dJ18_getChars_101 ?_
    obtain ⟨z13, e12, hT⟩ := obnd hT
    refine a_oldB e12 dJ18_getChars_102 ?_
    obtain ⟨h15, e14, hT⟩ := obnd hT
    refine a_stB e14 dJ18_getChars_103 ?_
    refine a_mask [false, true, true, true, true, true, true] ?_
    exact k_J18_getChars_l104 hT he
def t_J18_getChars_b22 (Z : aZ) : (Int32 × Nat × Int32 × Int32 × aH) → Option ((Int32 × Nat × Int32 × Int32 × aH) ⊕ (Int32 × aH)) := fun (v0, v2, v5, v6, h) =>
  if (-100) < v0 then
    (t_J18_getChars_l72 Z h v0 v2 v5 v6).map .inr
  else
    (oldLd .byte Z (znm Z 2) (((v0 / 100) * 100) - v0)).bind fun z17 =>
    (stB Z h v2 (v5 + (-1)) z17).bind fun h19 =>
    (oldLd .byte Z (znm Z 1) (((v0 / 100) * 100) - v0)).bind fun z21 =>
    (stB Z h19 v2 ((v5 + (-1)) + (-1)) z21).bind fun h23 =>
    some (.inl ((v0 / 100), v2, ((v5 + (-1)) + (-1)), v6, h23))
theorem kb_J18_getChars_b22 {G : aG} {h0 : aH} {K : aRes → aH → Prop} : ∀ (x9 : (Int32 × Nat × Int32 × Int32 × aH)) (e : ((Int32 × Nat × Int32 × Int32 × aH) ⊕ (Int32 × aH))), t_J18_getChars_b22 (gZ G) x9 = some e → (Sum.elim (p_J18_getChars_b22 G h0 K) (fun e => aTo (aEI e.1 e.2) K)) e → p_J18_getChars_b22 G h0 K x9 := by
  intro x9 e hT he
  obtain ⟨v0, v2, v5, v6, h⟩ := x9
  unfold p_J18_getChars_b22
  unfold t_J18_getChars_b22 at hT
  show aW G M_J18_getChars 1 1 h0 K h 22 [some (.int v0), none, some (.ref v2), none, none, some (.int v5), some (.int v6)] []
  dsimp only at hT
  refine a_iload_n dJ18_getChars_22 rfl ?_
  refine a_bipush (v := (-100)) dJ18_getChars_23 (by decide) ?_
  refine a_icmp_gt 72 dJ18_getChars_25 rfl (fun c3 => ?_) (fun c3 => ?_)
  · have hT := oifp c3 hT
    obtain ⟨e8, hT8, rfl⟩ := omap hT
    exact k_J18_getChars_l72 hT8 he
  · have hT := oifn c3 hT
    refine a_iload_n dJ18_getChars_28 rfl ?_
    refine a_bipush (v := 100) dJ18_getChars_29 (by decide) ?_
    refine a_idiv dJ18_getChars_31 (by decide) ?_
    refine a_istore_n (lv' := [some (.int v0), none, some (.ref v2), some (.int (v0 / 100)), none, some (.int v5), some (.int v6)]) dJ18_getChars_32 rfl (by decide) rfl ?_
    refine a_iload_n dJ18_getChars_33 rfl ?_
    refine a_bipush (v := 100) dJ18_getChars_34 (by decide) ?_
    refine a_imul dJ18_getChars_36 ?_
    refine a_iload_n dJ18_getChars_37 rfl ?_
    refine a_isub dJ18_getChars_38 ?_
    refine a_istore (lv' := [some (.int v0), none, some (.ref v2), some (.int (v0 / 100)), some (.int (((v0 / 100) * 100) - v0)), some (.int v5), some (.int v6)]) dJ18_getChars_39 rfl (by decide) rfl ?_
    refine a_iload_n dJ18_getChars_41 rfl ?_
    refine a_istore_n (lv' := [some (.int (v0 / 100)), none, some (.ref v2), some (.int (v0 / 100)), some (.int (((v0 / 100) * 100) - v0)), some (.int v5), some (.int v6)]) dJ18_getChars_42 rfl (by decide) rfl ?_
    refine a_aload_n dJ18_getChars_43 rfl ?_
    refine a_iinc (v := (v5 + (-1))) (lv' := [some (.int (v0 / 100)), none, some (.ref v2), some (.int (v0 / 100)), some (.int (((v0 / 100) * 100) - v0)), some (.int (v5 + (-1))), some (.int v6)]) dJ18_getChars_44 rfl (by rfl) rfl (by decide) rfl ?_
    refine a_iload dJ18_getChars_47 rfl ?_
    refine a_gets (k := 3) rfl q1448 dJ18_getChars_49 ?_
    refine a_iload dJ18_getChars_52 rfl ?_
    obtain ⟨z17, e16, hT⟩ := obnd hT
    refine a_oldB e16 dJ18_getChars_54 ?_
    obtain ⟨h19, e18, hT⟩ := obnd hT
    refine a_stB e18 dJ18_getChars_55 ?_
    refine a_aload_n dJ18_getChars_56 rfl ?_
    refine a_iinc (v := ((v5 + (-1)) + (-1))) (lv' := [some (.int (v0 / 100)), none, some (.ref v2), some (.int (v0 / 100)), some (.int (((v0 / 100) * 100) - v0)), some (.int ((v5 + (-1)) + (-1))), some (.int v6)]) dJ18_getChars_57 rfl (by rfl) rfl (by decide) rfl ?_
    refine a_iload dJ18_getChars_60 rfl ?_
    refine a_gets (k := 2) rfl q1450 dJ18_getChars_62 ?_
    refine a_iload dJ18_getChars_65 rfl ?_
    obtain ⟨z21, e20, hT⟩ := obnd hT
    refine a_oldB e20 dJ18_getChars_67 ?_
    obtain ⟨h23, e22, hT⟩ := obnd hT
    refine a_stB e22 dJ18_getChars_68 ?_
    refine a_goto 22 dJ18_getChars_69 rfl ?_
    obtain rfl := Option.some.inj hT
    refine a_mask [true, true, true, false, false, true, true] ?_
    exact he
theorem k_J18_getChars_b22 {G : aG} {h0 : aH} {K : aRes → aH → Prop} {n9 : Nat} {x9 : (Int32 × Nat × Int32 × Int32 × aH)} {e : (Int32 × aH)} (hT : wlo (t_J18_getChars_b22 (gZ G)) n9 x9 = some e) (he : (fun e => aTo (aEI e.1 e.2) K) e) : p_J18_getChars_b22 G h0 K x9 := wlo_W kb_J18_getChars_b22 n9 x9 e hT he
def t_J18_getChars_l12 (Z : aZ) (h : aH) (v0 : Int32) (v2 : Nat) (v5 : Int32) (u0 : Int32) : Option (Int32 × aH) :=
  if u0 = 0 then
    wlo (t_J18_getChars_b22 Z) 10 ((-v0), v2, v5, u0, h)
  else
    wlo (t_J18_getChars_b22 Z) 10 (v0, v2, v5, u0, h)
theorem k_J18_getChars_l12 {G : aG} {h0 : aH} {K : aRes → aH → Prop} {h : aH} {v0 : Int32} {v2 : Nat} {v5 : Int32} {u0 : Int32} {e : (Int32 × aH)} (hT : t_J18_getChars_l12 (gZ G) h v0 v2 v5 u0 = some e) (he : (fun e => aTo (aEI e.1 e.2) K) e) : aW G M_J18_getChars 1 1 h0 K h 12 [some (.int v0), none, some (.ref v2), none, none, some (.int v5), none] [.int u0] := by
  unfold t_J18_getChars_l12 at hT
  refine a_istore (lv' := [some (.int v0), none, some (.ref v2), none, none, some (.int v5), some (.int u0)]) dJ18_getChars_12 rfl (by decide) rfl ?_
  refine a_iload dJ18_getChars_14 rfl ?_
  refine a_if_ne 22 dJ18_getChars_16 rfl (fun c2 => ?_) (fun c2 => ?_)
  · have hT := oifn c2 hT
    exact k_J18_getChars_b22 hT he
  · have hT := oifp c2 hT
    refine a_iload_n dJ18_getChars_19 rfl ?_
    refine a_ineg dJ18_getChars_20 ?_
    refine a_istore_n (lv' := [some (.int (-v0)), none, some (.ref v2), none, none, some (.int v5), some (.int u0)]) dJ18_getChars_21 rfl (by decide) rfl ?_
    exact k_J18_getChars_b22 hT he
def t_J18_getChars (Z : aZ) (h : aH) (x0 : Int32) (x1 : Int32) (x2 : Nat) : Option (Int32 × aH) :=
  if 0 ≤ x0 then
    t_J18_getChars_l12 Z h x0 x2 x1 0
  else
    t_J18_getChars_l12 Z h x0 x2 x1 1
theorem k_J18_getChars {G : aG} {h : aH} {x0 : Int32} {x1 : Int32} {x2 : Nat} {e : (Int32 × aH)} (hT : t_J18_getChars (gZ G) h x0 x1 x2 = some e) : aMet G yJ18_getChars (ws_ yJ18_getChars cJ18_getChars 7 (Option.some Jvm.ClassFile.FieldType.int)) 1 1 [.int x0, .int x1, .ref x2] h (aEI e.1 e.2) := by
  refine aMet.of (lv := [some (.int x0), some (.int x1), some (.ref x2), none, none, none, none]) (by decide) (Nat.le_of_ble_eq_true rfl) 4 rfl ?_
  have he : aTo (aEI e.1 e.2) (aEI e.1 e.2) := aTo.rf
  unfold t_J18_getChars at hT
  refine a_iload_n dJ18_getChars_0 rfl ?_
  refine a_istore (lv' := [some (.int x0), some (.int x1), some (.ref x2), none, none, some (.int x1), none]) dJ18_getChars_1 rfl (by decide) rfl ?_
  refine a_iload_n dJ18_getChars_3 rfl ?_
  refine a_if_ge 11 dJ18_getChars_4 rfl (fun c1 => ?_) (fun c1 => ?_)
  · have hT := oifp c1 hT
    refine a_iconst (v := 0) dJ18_getChars_11 (by decide) ?_
    refine a_mask [true, false, true, true, true, true, true] ?_
    exact k_J18_getChars_l12 hT he
  · have hT := oifn c1 hT
    refine a_iconst (v := 1) dJ18_getChars_7 (by decide) ?_
    refine a_goto 12 dJ18_getChars_8 rfl ?_
    refine a_mask [true, false, true, true, true, true, true] ?_
    exact k_J18_getChars_l12 hT he
abbrev M_J23_indexOfChar : aM := (yJ23_indexOfChar.cls, cJ23_indexOfChar, 6, (Option.some Jvm.ClassFile.FieldType.int), [], yJ23_indexOfChar.name)
def p_J23_indexOfChar_b7 (G : aG) (h0 : aH) (K : aRes → aH → Prop) (x9 : (Nat × Int32 × Int32 × Int32 × aH)) : Prop := aW G M_J23_indexOfChar 1 1 h0 K x9.2.2.2.2 7 [some (.ref x9.1), none, none, some (.int x9.2.1), some (.int x9.2.2.1), some (.int x9.2.2.2.1)] []
def t_J23_indexOfChar_b7 (Z : aZ) : (Nat × Int32 × Int32 × Int32 × aH) → Option ((Nat × Int32 × Int32 × Int32 × aH) ⊕ (Int32 × aH)) := fun (v0, v3, v4, v5, h) =>
  if v3 ≤ v5 then
    some (.inr (((-1), h)))
  else
    (oldLd .byte Z v0 v5).bind fun z3 =>
    if z3 = v4 then
      some (.inr ((v5, h)))
    else
      some (.inl (v0, v3, v4, (v5 + 1), h))
theorem kb_J23_indexOfChar_b7 {G : aG} {h0 : aH} {K : aRes → aH → Prop} : ∀ (x9 : (Nat × Int32 × Int32 × Int32 × aH)) (e : ((Nat × Int32 × Int32 × Int32 × aH) ⊕ (Int32 × aH))), t_J23_indexOfChar_b7 (gZ G) x9 = some e → (Sum.elim (p_J23_indexOfChar_b7 G h0 K) (fun e => aTo (aEI e.1 e.2) K)) e → p_J23_indexOfChar_b7 G h0 K x9 := by
  intro x9 e hT he
  obtain ⟨v0, v3, v4, v5, h⟩ := x9
  unfold p_J23_indexOfChar_b7
  unfold t_J23_indexOfChar_b7 at hT
  show aW G M_J23_indexOfChar 1 1 h0 K h 7 [some (.ref v0), none, none, some (.int v3), some (.int v4), some (.int v5)] []
  dsimp only at hT
  refine a_iload dJ23_indexOfChar_7 rfl ?_
  refine a_iload_n dJ23_indexOfChar_9 rfl ?_
  refine a_icmp_ge 31 dJ23_indexOfChar_10 rfl (fun c1 => ?_) (fun c1 => ?_)
  · have hT := oifp c1 hT
    refine a_iconst (v := (-1)) dJ23_indexOfChar_31 (by decide) ?_
    obtain rfl := Option.some.inj hT
    exact a_iret rfl rfl dJ23_indexOfChar_32 (he _ _ ⟨rfl, rfl⟩)
  · have hT := oifn c1 hT
    refine a_aload_n dJ23_indexOfChar_13 rfl ?_
    refine a_iload dJ23_indexOfChar_14 rfl ?_
    obtain ⟨z3, e2, hT⟩ := obnd hT
    refine a_oldB e2 dJ23_indexOfChar_16 ?_
    refine a_iload dJ23_indexOfChar_17 rfl ?_
    refine a_icmp_ne 25 dJ23_indexOfChar_19 rfl (fun c4 => ?_) (fun c4 => ?_)
    · have hT := oifn c4 hT
      refine a_iinc (v := (v5 + 1)) (lv' := [some (.ref v0), none, none, some (.int v3), some (.int v4), some (.int (v5 + 1))]) dJ23_indexOfChar_25 rfl (by rfl) rfl (by decide) rfl ?_
      refine a_goto 7 dJ23_indexOfChar_28 rfl ?_
      obtain rfl := Option.some.inj hT
      exact he
    · have hT := oifp c4 hT
      refine a_iload dJ23_indexOfChar_22 rfl ?_
      obtain rfl := Option.some.inj hT
      exact a_iret rfl rfl dJ23_indexOfChar_24 (he _ _ ⟨rfl, rfl⟩)
theorem k_J23_indexOfChar_b7 {G : aG} {h0 : aH} {K : aRes → aH → Prop} {n9 : Nat} {x9 : (Nat × Int32 × Int32 × Int32 × aH)} {e : (Int32 × aH)} (hT : wlo (t_J23_indexOfChar_b7 (gZ G)) n9 x9 = some e) (he : (fun e => aTo (aEI e.1 e.2) K) e) : p_J23_indexOfChar_b7 G h0 K x9 := wlo_W kb_J23_indexOfChar_b7 n9 x9 e hT he
def t_J23_indexOfChar (Z : aZ) (h : aH) (x0 : Nat) (x1 : Int32) (x2 : Int32) (x3 : Int32) : Option (Int32 × aH) :=
  wlo (t_J23_indexOfChar_b7 Z) 20 (x0, x3, ((x1 : Int32).toInt8.toInt32), x2, h)
theorem k_J23_indexOfChar {G : aG} {h : aH} {x0 : Nat} {x1 : Int32} {x2 : Int32} {x3 : Int32} {e : (Int32 × aH)} (hT : t_J23_indexOfChar (gZ G) h x0 x1 x2 x3 = some e) : aMet G yJ23_indexOfChar (ws_ yJ23_indexOfChar cJ23_indexOfChar 6 (Option.some Jvm.ClassFile.FieldType.int)) 1 1 [.ref x0, .int x1, .int x2, .int x3] h (aEI e.1 e.2) := by
  refine aMet.of (lv := [some (.ref x0), some (.int x1), some (.int x2), some (.int x3), none, none]) (by decide) (Nat.le_of_ble_eq_true rfl) 2 rfl ?_
  have he : aTo (aEI e.1 e.2) (aEI e.1 e.2) := aTo.rf
  unfold t_J23_indexOfChar at hT
  refine a_iload_n dJ23_indexOfChar_0 rfl ?_
  refine a_i2b dJ23_indexOfChar_1 ?_
  refine a_istore (lv' := [some (.ref x0), some (.int x1), some (.int x2), some (.int x3), some (.int ((x1 : Int32).toInt8.toInt32)), none]) dJ23_indexOfChar_2 rfl (by decide) rfl ?_
  refine a_iload_n dJ23_indexOfChar_4 rfl ?_
  refine a_istore (lv' := [some (.ref x0), some (.int x1), some (.int x2), some (.int x3), some (.int ((x1 : Int32).toInt8.toInt32)), some (.int x2)]) dJ23_indexOfChar_5 rfl (by decide) rfl ?_
  refine a_mask [true, false, false, true, true, true] ?_
  exact k_J23_indexOfChar_b7 hT he
theorem ks_J23_88 : aKS "java/lang/StringLatin1" 88 yJ23_canEncode cJ23_canEncode 1 (Option.some Jvm.ClassFile.FieldType.boolean) 1 := ⟨Or.inl q1215, q1216, q105, q1217, ⟨by decide +kernel, by decide +kernel, by decide +kernel⟩⟩
theorem ks_J23_95 : aKS "java/lang/StringLatin1" 95 yJ23_indexOfChar cJ23_indexOfChar 6 (Option.some Jvm.ClassFile.FieldType.int) 4 := ⟨Or.inl q1220, q1221, q105, q1222, ⟨by decide +kernel, by decide +kernel, by decide +kernel⟩⟩
abbrev M_J23_indexOf : aM := (yJ23_indexOf.cls, cJ23_indexOf, 4, (Option.some Jvm.ClassFile.FieldType.int), [], yJ23_indexOf.name)
def t_J23_indexOf (Z : aZ) (h : aH) (x0 : Nat) (x1 : Int32) (x2 : Int32) (x3 : Int32) : Option (Int32 × aH) :=
  (t_J23_canEncode x1).bind fun r3 =>
  if r3 = 0 then
    some ((-1), h)
  else
    (oldLen Z x0).bind fun z6 =>
    if (jmax x2 0) < (jmin x3 z6) then
      (t_J23_indexOfChar Z h x0 x1 (jmax x2 0) (jmin x3 z6)).bind fun r11 =>
      some (r11.1, r11.2)
    else
      some ((-1), h)
theorem k_J23_indexOf {G : aG} {h : aH} {x0 : Nat} {x1 : Int32} {x2 : Int32} {x3 : Int32} {e : (Int32 × aH)} (hT : t_J23_indexOf (gZ G) h x0 x1 x2 x3 = some e) : aMet G yJ23_indexOf (ws_ yJ23_indexOf cJ23_indexOf 4 (Option.some Jvm.ClassFile.FieldType.int)) 2 40 [.ref x0, .int x1, .int x2, .int x3] h (aEI e.1 e.2) := by
  refine aMet.of (lv := [some (.ref x0), some (.int x1), some (.int x2), some (.int x3)]) (by decide) (Nat.le_of_ble_eq_true rfl) 0 rfl ?_
  have he : aTo (aEI e.1 e.2) (aEI e.1 e.2) := aTo.rf
  unfold t_J23_indexOf at hT
  refine a_iload_n dJ23_indexOf_0 rfl ?_
  obtain ⟨r3, e4, hT⟩ := obnd hT
  refine a_callS ks_J23_88 (k_J23_canEncode e4) ⟨Nat.le_of_ble_eq_true rfl, Nat.le_of_ble_eq_true rfl⟩ (As := [.int x1]) (rest := []) rfl rfl (Nat.le_of_ble_eq_true rfl) dJ23_indexOf_1 (kI ?_) xI
  refine a_if_ne 9 dJ23_indexOf_4 rfl (fun c5 => ?_) (fun c5 => ?_)
  · have hT := oifn c5 hT
    refine a_iload_n dJ23_indexOf_9 rfl ?_
    refine a_iconst (v := 0) dJ23_indexOf_10 (by decide) ?_
    refine a_mmax q1218 q441 q90 q442 (by decide) (Nat.le_of_ble_eq_true rfl) dJ23_indexOf_11 ?_
    refine a_istore_n (lv' := [some (.ref x0), some (.int x1), some (.int (jmax x2 0)), some (.int x3)]) dJ23_indexOf_14 rfl (by decide) rfl ?_
    refine a_iload_n dJ23_indexOf_15 rfl ?_
    refine a_aload_n dJ23_indexOf_16 rfl ?_
    obtain ⟨z6, e7, hT⟩ := obnd hT
    refine a_oldLen e7 dJ23_indexOf_17 ?_
    refine a_mmin q1219 q481 q90 q482 (by decide) (Nat.le_of_ble_eq_true rfl) dJ23_indexOf_18 ?_
    refine a_istore_n (lv' := [some (.ref x0), some (.int x1), some (.int (jmax x2 0)), some (.int (jmin x3 z6))]) dJ23_indexOf_21 rfl (by decide) rfl ?_
    refine a_iload_n dJ23_indexOf_22 rfl ?_
    refine a_iload_n dJ23_indexOf_23 rfl ?_
    refine a_icmp_lt 29 dJ23_indexOf_24 rfl (fun c8 => ?_) (fun c8 => ?_)
    · have hT := oifp c8 hT
      refine a_aload_n dJ23_indexOf_29 rfl ?_
      refine a_iload_n dJ23_indexOf_30 rfl ?_
      refine a_iload_n dJ23_indexOf_31 rfl ?_
      refine a_iload_n dJ23_indexOf_32 rfl ?_
      obtain ⟨r11, e12, hT⟩ := obnd hT
      refine a_callS ks_J23_95 (k_J23_indexOfChar e12) ⟨Nat.le_of_ble_eq_true rfl, Nat.le_of_ble_eq_true rfl⟩ (As := [.ref x0, .int x1, .int (jmax x2 0), .int (jmin x3 z6)]) (rest := []) rfl rfl (Nat.le_of_ble_eq_true rfl) dJ23_indexOf_33 (kI ?_) xI
      obtain rfl := Option.some.inj hT
      exact a_iret rfl rfl dJ23_indexOf_36 (he _ _ ⟨rfl, rfl⟩)
    · have hT := oifn c8 hT
      refine a_iconst (v := (-1)) dJ23_indexOf_27 (by decide) ?_
      obtain rfl := Option.some.inj hT
      exact a_iret rfl rfl dJ23_indexOf_28 (he _ _ ⟨rfl, rfl⟩)
  · have hT := oifp c5 hT
    refine a_iconst (v := (-1)) dJ23_indexOf_7 (by decide) ?_
    obtain rfl := Option.some.inj hT
    exact a_iret rfl rfl dJ23_indexOf_8 (he _ _ ⟨rfl, rfl⟩)
abbrev M_J5_coder : aM := (yJ5_coder.cls, cJ5_coder, 1, (Option.some Jvm.ClassFile.FieldType.byte), [], yJ5_coder.name)
def t_J5_coder (Z : aZ) (h : aH) (o : Nat) : Option (Int32 × aH) :=
  if (1 : Int32) = 0 then
    some (1, h)
  else
    (oldV Z o).bind fun b3 =>
    some (0, h)
theorem k_J5_coder {G : aG} {h : aH} {o : Nat} {e : (Int32 × aH)} (hT : t_J5_coder (gZ G) h o = some e) : aMet G yJ5_coder (ws_ yJ5_coder cJ5_coder 1 (Option.some Jvm.ClassFile.FieldType.byte)) 1 1 [.ref o] h (aEI e.1 e.2) := by
  refine aMet.of (lv := [some (.ref o)]) (by decide) (Nat.le_of_ble_eq_true rfl) 0 rfl ?_
  have he : aTo (aEI e.1 e.2) (aEI e.1 e.2) := aTo.rf
  unfold t_J5_coder at hT
  refine a_gets (k := 1) rfl q1203 dJ5_coder_0 ?_
  refine a_if_eq 13 dJ5_coder_3 rfl (fun c1 => ?_) (fun c1 => ?_)
  · have hT := oifp c1 hT
    refine a_iconst (v := 1) dJ5_coder_13 (by decide) ?_
    obtain rfl := Option.some.inj hT
    exact a_iret rfl (by decide) dJ5_coder_14 (he _ _ ⟨rfl, rfl⟩)
  · have hT := oifn c1 hT
    refine a_aload_n dJ5_coder_6 rfl ?_
    obtain ⟨b3, e2, hT⟩ := obnd hT
    refine a_oldC e2 q1517 dJ5_coder_7 ?_
    refine a_goto 14 dJ5_coder_10 rfl ?_
    obtain rfl := Option.some.inj hT
    exact a_iret rfl (by decide) dJ5_coder_14 (he _ _ ⟨rfl, rfl⟩)
abbrev M_J5_isLatin1 : aM := (yJ5_isLatin1.cls, cJ5_isLatin1, 1, (Option.some Jvm.ClassFile.FieldType.boolean), [], yJ5_isLatin1.name)
def t_J5_isLatin1 (Z : aZ) (h : aH) (o : Nat) : Option (Int32 × aH) :=
  if (1 : Int32) = 0 then
    some (0, h)
  else
    (oldV Z o).bind fun b3 =>
    if (0 : Int32) = 0 then
      some (1, h)
    else
      some (0, h)
theorem k_J5_isLatin1 {G : aG} {h : aH} {o : Nat} {e : (Int32 × aH)} (hT : t_J5_isLatin1 (gZ G) h o = some e) : aMet G yJ5_isLatin1 (ws_ yJ5_isLatin1 cJ5_isLatin1 1 (Option.some Jvm.ClassFile.FieldType.boolean)) 1 1 [.ref o] h (aEI e.1 e.2) := by
  refine aMet.of (lv := [some (.ref o)]) (by decide) (Nat.le_of_ble_eq_true rfl) 0 rfl ?_
  have he : aTo (aEI e.1 e.2) (aEI e.1 e.2) := aTo.rf
  unfold t_J5_isLatin1 at hT
  refine a_gets (k := 1) rfl q1203 dJ5_isLatin1_0 ?_
  refine a_if_eq 17 dJ5_isLatin1_3 rfl (fun c1 => ?_) (fun c1 => ?_)
  · have hT := oifp c1 hT
    refine a_iconst (v := 0) dJ5_isLatin1_17 (by decide) ?_
    obtain rfl := Option.some.inj hT
    exact a_iret rfl (by decide) dJ5_isLatin1_18 (he _ _ ⟨rfl, rfl⟩)
  · have hT := oifn c1 hT
    refine a_aload_n dJ5_isLatin1_6 rfl ?_
    obtain ⟨b3, e2, hT⟩ := obnd hT
    refine a_oldC e2 q1517 dJ5_isLatin1_7 ?_
    refine a_if_ne 17 dJ5_isLatin1_10 rfl (fun c4 => ?_) (fun c4 => ?_)
    · have hT := oifn c4 hT
      refine a_iconst (v := 0) dJ5_isLatin1_17 (by decide) ?_
      obtain rfl := Option.some.inj hT
      exact a_iret rfl (by decide) dJ5_isLatin1_18 (he _ _ ⟨rfl, rfl⟩)
    · have hT := oifp c4 hT
      refine a_iconst (v := 1) dJ5_isLatin1_13 (by decide) ?_
      refine a_goto 18 dJ5_isLatin1_14 rfl ?_
      obtain rfl := Option.some.inj hT
      exact a_iret rfl (by decide) dJ5_isLatin1_18 (he _ _ ⟨rfl, rfl⟩)
theorem kv_J5_335 : aKV "java/lang/String" 335 11 yJ5_coder cJ5_coder 1 (Option.some Jvm.ClassFile.FieldType.byte) 0 := ⟨⟨TJ5, 4, rfl⟩, Or.inl q1208, q1209, q1210, q79, q1211, ⟨by decide +kernel, by decide +kernel, by decide +kernel⟩⟩
abbrev M_J5_length : aM := (yJ5_length.cls, cJ5_length, 1, (Option.some Jvm.ClassFile.FieldType.int), [], yJ5_length.name)
def t_J5_length (Z : aZ) (h : aH) (o : Nat) : Option (Int32 × aH) :=
  (oldV Z o).bind fun b2 =>
  (oldLen Z b2).bind fun z3 =>
  (oldV Z o).bind fun b8 =>
  (t_J5_coder Z h o).bind fun r9 =>
  some ((z3 >>> (r9.1 &&& 31)), r9.2)
theorem k_J5_length {G : aG} {h : aH} {o : Nat} {e : (Int32 × aH)} (hT : t_J5_length (gZ G) h o = some e) : aMet G yJ5_length (ws_ yJ5_length cJ5_length 1 (Option.some Jvm.ClassFile.FieldType.int)) 2 21 [.ref o] h (aEI e.1 e.2) := by
  refine aMet.of (lv := [some (.ref o)]) (by decide) (Nat.le_of_ble_eq_true rfl) 0 rfl ?_
  have he : aTo (aEI e.1 e.2) (aEI e.1 e.2) := aTo.rf
  unfold t_J5_length at hT
  refine a_aload_n dJ5_length_0 rfl ?_
  obtain ⟨b2, e1, hT⟩ := obnd hT
  refine a_oldV e1 q1516 dJ5_length_1 ?_
  obtain ⟨z3, e4, hT⟩ := obnd hT
  refine a_oldLen e4 dJ5_length_4 ?_
  refine a_aload_n dJ5_length_5 rfl ?_
  obtain ⟨b8, g7, hT⟩ := obnd hT
  obtain ⟨r9, e10, hT⟩ := obnd hT
  refine a_callVO kv_J5_335 g7 (k_J5_coder e10) ⟨Nat.le_of_ble_eq_true rfl, Nat.le_of_ble_eq_true rfl⟩ (As := []) (rest := [.int z3]) rfl rfl (Nat.le_of_ble_eq_true rfl) dJ5_length_6 (kI ?_) xI
  refine a_ishr dJ5_length_9 ?_
  obtain rfl := Option.some.inj hT
  exact a_iret rfl rfl dJ5_length_10 (he _ _ ⟨rfl, rfl⟩)
theorem kv_J5_492 : aKV "java/lang/String" 492 11 yJ5_isLatin1 cJ5_isLatin1 1 (Option.some Jvm.ClassFile.FieldType.boolean) 0 := ⟨⟨TJ5, 4, rfl⟩, Or.inl q1199, q1200, q1201, q79, q1202, ⟨by decide +kernel, by decide +kernel, by decide +kernel⟩⟩
theorem kv_J5_505 : aKV "java/lang/String" 505 11 yJ5_length cJ5_length 1 (Option.some Jvm.ClassFile.FieldType.int) 0 := ⟨⟨TJ5, 4, rfl⟩, Or.inl q1204, q1205, q1206, q79, q1207, ⟨by decide +kernel, by decide +kernel, by decide +kernel⟩⟩
theorem ks_J5_637 : aKS "java/lang/String" 637 yJ23_indexOf cJ23_indexOf 4 (Option.some Jvm.ClassFile.FieldType.int) 4 := ⟨Or.inl q1212, q1213, q105, q1214, ⟨by decide +kernel, by decide +kernel, by decide +kernel⟩⟩
abbrev M_J5_indexOf_2 : aM := (yJ5_indexOf_2.cls, cJ5_indexOf_2, 3, (Option.some Jvm.ClassFile.FieldType.int), [], yJ5_indexOf_2.name)
def t_J5_indexOf_2 (Z : aZ) (h : aH) (o : Nat) (x0 : Int32) (x1 : Int32) : Option (Int32 × aH) :=
  (oldV Z o).bind fun b4 =>
  (t_J5_isLatin1 Z h o).bind fun r5 =>
  if r5.1 = 0 then
    (oldV Z o).bind fun b9 =>
    (oldV Z o).bind fun b13 =>
    (t_J5_length Z r5.2 o).bind fun r14 =>
    none
  else
    (oldV Z o).bind fun b19 =>
    (oldV Z o).bind fun b23 =>
    (t_J5_length Z r5.2 o).bind fun r24 =>
    (t_J23_indexOf Z r24.2 b19 x0 x1 r24.1).bind fun r28 =>
    some (r28.1, r28.2)
theorem k_J5_indexOf_2 {G : aG} {h : aH} {o : Nat} {x0 : Int32} {x1 : Int32} {e : (Int32 × aH)} (hT : t_J5_indexOf_2 (gZ G) h o x0 x1 = some e) : aMet G yJ5_indexOf_2 (ws_ yJ5_indexOf_2 cJ5_indexOf_2 3 (Option.some Jvm.ClassFile.FieldType.int)) 3 63 [.ref o, .int x0, .int x1] h (aEI e.1 e.2) := by
  refine aMet.of (lv := [some (.ref o), some (.int x0), some (.int x1)]) (by decide) (Nat.le_of_ble_eq_true rfl) 0 rfl ?_
  have he : aTo (aEI e.1 e.2) (aEI e.1 e.2) := aTo.rf
  unfold t_J5_indexOf_2 at hT
  refine a_aload_n dJ5_indexOf_2_0 rfl ?_
  obtain ⟨b4, g3, hT⟩ := obnd hT
  obtain ⟨r5, e6, hT⟩ := obnd hT
  refine a_callVO kv_J5_492 g3 (k_J5_isLatin1 e6) ⟨Nat.le_of_ble_eq_true rfl, Nat.le_of_ble_eq_true rfl⟩ (As := []) (rest := []) rfl rfl (Nat.le_of_ble_eq_true rfl) dJ5_indexOf_2_1 (kI ?_) xI
  refine a_if_eq 23 dJ5_indexOf_2_4 rfl (fun c7 => ?_) (fun c7 => ?_)
  · have hT := oifp c7 hT
    refine a_aload_n dJ5_indexOf_2_23 rfl ?_
    obtain ⟨b9, e8, hT⟩ := obnd hT
    refine a_oldV e8 q1516 dJ5_indexOf_2_24 ?_
    refine a_iload_n dJ5_indexOf_2_27 rfl ?_
    refine a_iload_n dJ5_indexOf_2_28 rfl ?_
    refine a_aload_n dJ5_indexOf_2_29 rfl ?_
    obtain ⟨b13, g12, hT⟩ := obnd hT
    obtain ⟨r14, e15, hT⟩ := obnd hT
    refine a_callVO kv_J5_505 g12 (k_J5_length e15) ⟨Nat.le_of_ble_eq_true rfl, Nat.le_of_ble_eq_true rfl⟩ (As := []) (rest := [.int x1, .int x0, .ref b9]) rfl rfl (Nat.le_of_ble_eq_true rfl) dJ5_indexOf_2_30 (kI ?_) xI
    cases hT
  · have hT := oifn c7 hT
    refine a_aload_n dJ5_indexOf_2_7 rfl ?_
    obtain ⟨b19, e18, hT⟩ := obnd hT
    refine a_oldV e18 q1516 dJ5_indexOf_2_8 ?_
    refine a_iload_n dJ5_indexOf_2_11 rfl ?_
    refine a_iload_n dJ5_indexOf_2_12 rfl ?_
    refine a_aload_n dJ5_indexOf_2_13 rfl ?_
    obtain ⟨b23, g22, hT⟩ := obnd hT
    obtain ⟨r24, e25, hT⟩ := obnd hT
    refine a_callVO kv_J5_505 g22 (k_J5_length e25) ⟨Nat.le_of_ble_eq_true rfl, Nat.le_of_ble_eq_true rfl⟩ (As := []) (rest := [.int x1, .int x0, .ref b19]) rfl rfl (Nat.le_of_ble_eq_true rfl) dJ5_indexOf_2_14 (kI ?_) xI
    obtain ⟨r28, e29, hT⟩ := obnd hT
    refine a_callS ks_J5_637 (k_J23_indexOf e29) ⟨Nat.le_of_ble_eq_true rfl, Nat.le_of_ble_eq_true rfl⟩ (As := [.ref b19, .int x0, .int x1, .int r24.1]) (rest := []) rfl rfl (Nat.le_of_ble_eq_true rfl) dJ5_indexOf_2_17 (kI ?_) xI
    refine a_goto 36 dJ5_indexOf_2_20 rfl ?_
    obtain rfl := Option.some.inj hT
    exact a_iret rfl rfl dJ5_indexOf_2_36 (he _ _ ⟨rfl, rfl⟩)
theorem kv_J5_633 : aKV "java/lang/String" 633 11 yJ5_indexOf_2 cJ5_indexOf_2 3 (Option.some Jvm.ClassFile.FieldType.int) 2 := ⟨⟨TJ5, 4, rfl⟩, Or.inl q1195, q1196, q1197, q79, q1198, ⟨by decide +kernel, by decide +kernel, by decide +kernel⟩⟩
