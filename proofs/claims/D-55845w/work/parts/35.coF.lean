/-! decompiled (written by gen/comp.py) -/
set_option maxRecDepth 100000
theorem fp_X1_49_0i : aFP "MazeBonds" 49 0 0 (.object "MazeBonds$Core") "<init>" := ⟨RX1, TX1, 8, "MazeBonds", tyX1, rfl, in_X1, by decide, Or.inl rfl, Or.inl q222, tyX1_ok, nmX1, rfl, Or.inl rfl⟩
theorem fn_X1_53 : aFN "MazeBonds" 53 8 [.int 0, .null, .int 0] 3 := ⟨RJ2, TJ2, tyJ2, rfl, in_J2, tyJ2_ok, q186, q128, q76, by decide⟩
theorem ki_X1_55 : aKI "MazeBonds" 55 yJ2_init cJ2_init 1 0 := ⟨rfl, Or.inl q187, q130, q76, q131, ⟨by decide +kernel, by decide +kernel, by decide +kernel⟩⟩
theorem fp_X1_56_0i : aFP "MazeBonds" 56 0 1 (.object "java/util/ArrayList") "<init>" := ⟨RX1, TX1, 8, "MazeBonds", tyX1, rfl, in_X1, by decide, Or.inl rfl, Or.inl q223, tyX1_ok, nmX1, rfl, Or.inr ⟨rfl, rfl, rfl, q223⟩⟩
theorem fp_X1_60_0i : aFP "MazeBonds" 60 0 4 (.array .char) "<init>" := ⟨RX1, TX1, 8, "MazeBonds", tyX1, rfl, in_X1, by decide, Or.inl rfl, Or.inl q227, tyX1_ok, nmX1, rfl, Or.inr ⟨rfl, rfl, rfl, q227⟩⟩
theorem fp_X1_64_0i : aFP "MazeBonds" 64 0 6 .int "<init>" := ⟨RX1, TX1, 8, "MazeBonds", tyX1, rfl, in_X1, by decide, Or.inl rfl, Or.inl q230, tyX1_ok, nmX1, rfl, Or.inl rfl⟩
theorem fn_X1_68 : aFN "MazeBonds" 68 10 [.null, .int 0, .int 0, .int 0] 4 := ⟨RJ4, TJ4, tyJ4, rfl, in_J4, tyJ4_ok, q188, q189, q78, by decide⟩
theorem ki_X1_70 : aKI "MazeBonds" 70 yJ4_init cJ4_init 1 0 := ⟨rfl, Or.inl q190, q191, q78, q192, ⟨by decide +kernel, by decide +kernel, by decide +kernel⟩⟩
theorem fp_X1_71_0i : aFP "MazeBonds" 71 0 7 (.object "java/lang/StringBuilder") "<init>" := ⟨RX1, TX1, 8, "MazeBonds", tyX1, rfl, in_X1, by decide, Or.inl rfl, Or.inl q231, tyX1_ok, nmX1, rfl, Or.inr ⟨rfl, rfl, rfl, q231⟩⟩
abbrev M_X1_init : aM := (yX1_init.cls, cX1_init, 1, (Option.none : Option Jvm.ClassFile.FieldType), [], yX1_init.name)
def t_X1_init (Z : aZ) (h : aH) (o : Nat) : Option (Unit × aH) :=
  (nw Z h (.inr (1, [.null, .null, .null, .int 0, .int 0, .int 0, .int 0])) 7).bind fun h1 =>
  (t_X2_init Z h1 h.2.1).bind fun r5 =>
  (pF 0 0 Z r5.2 o (.ref h.2.1)).bind fun h8 =>
  (nw Z h8 (.inr (8, [.int 0, .null, .int 0])) 3).bind fun h9 =>
  (t_J2_init Z h9 h8.2.1).bind fun r13 =>
  (pF 0 1 Z r13.2 o (.ref h8.2.1)).bind fun h16 =>
  (nwA Z h16 60 (fun N => .inl (zC Z, N, .inl fun _ => 0))).bind fun h17 =>
  (pF 0 4 Z h17 o (.ref h16.2.1)).bind fun h20 =>
  (pF 0 6 Z h20 o (.int (-1))).bind fun h22 =>
  (nw Z h22 (.inr (10, [.null, .int 0, .int 0, .int 0])) 4).bind fun h23 =>
  (t_J4_init Z h23 h22.2.1).bind fun r27 =>
  (pF 0 7 Z r27.2 o (.ref h22.2.1)).bind fun h30 =>
  some ((), h30)
theorem k_X1_init {G : aG} {h : aH} {o : Nat} {e : (Unit × aH)} (hT : t_X1_init (gZ G) h o = some e) : aMet G yX1_init (ws_ yX1_init cX1_init 1 (Option.none : Option Jvm.ClassFile.FieldType)) 6 113 [.ref o] h (aEV e.1 e.2) := by
  refine aMet.of (lv := [some (.ref o)]) (by decide) (Nat.le_of_ble_eq_true rfl) 0 rfl ?_
  have he : aTo (aEV e.1 e.2) (aEV e.1 e.2) := aTo.rf
  unfold t_X1_init at hT
  refine a_aload_n dX1_init_0 rfl ?_
  refine a_objInit q115 q_oi q_oc (by decide) (Nat.le_of_ble_eq_true rfl) dX1_init_1 ?_
  refine a_aload_n dX1_init_4 rfl ?_
  obtain ⟨h1, e2, hT⟩ := obnd hT
  refine a_new fn_X1_46 e2 dX1_init_5 ?_
  refine a_dup dX1_init_8 rfl ?_
  obtain ⟨r5, e6, hT⟩ := obnd hT
  refine a_callI ki_X1_48 (k_X2_init e6) ⟨Nat.le_of_ble_eq_true rfl, Nat.le_of_ble_eq_true rfl⟩ (As := []) (rest := [.ref h.2.1, .ref o]) rfl rfl (Nat.le_of_ble_eq_true rfl) dX1_init_9 (kV ?_) xV
  obtain ⟨h8, e7, hT⟩ := obnd hT
  refine a_put fp_X1_49_0i ⟨rfl, rfl⟩ e7 dX1_init_12 ?_
  refine a_aload_n dX1_init_15 rfl ?_
  obtain ⟨h9, e10, hT⟩ := obnd hT
  refine a_new fn_X1_53 e10 dX1_init_16 ?_
  refine a_dup dX1_init_19 rfl ?_
  obtain ⟨r13, e14, hT⟩ := obnd hT
  refine a_callI ki_X1_55 (k_J2_init e14) ⟨Nat.le_of_ble_eq_true rfl, Nat.le_of_ble_eq_true rfl⟩ (As := []) (rest := [.ref h8.2.1, .ref o]) rfl rfl (Nat.le_of_ble_eq_true rfl) dX1_init_20 (kV ?_) xV
  obtain ⟨h16, e15, hT⟩ := obnd hT
  refine a_put fp_X1_56_0i ⟨rfl, rfl⟩ e15 dX1_init_23 ?_
  refine a_aload_n dX1_init_26 rfl ?_
  refine a_bipush (v := 60) dX1_init_27 (by decide) ?_
  obtain ⟨h17, e18, hT⟩ := obnd hT
  refine a_newC q220 e18 dX1_init_29 ?_
  obtain ⟨h20, e19, hT⟩ := obnd hT
  refine a_put fp_X1_60_0i ⟨rfl, rfl⟩ e19 dX1_init_31 ?_
  refine a_aload_n dX1_init_34 rfl ?_
  refine a_iconst (v := (-1)) dX1_init_35 (by decide) ?_
  obtain ⟨h22, e21, hT⟩ := obnd hT
  refine a_put fp_X1_64_0i ⟨rfl, rfl⟩ e21 dX1_init_36 ?_
  refine a_aload_n dX1_init_39 rfl ?_
  obtain ⟨h23, e24, hT⟩ := obnd hT
  refine a_new fn_X1_68 e24 dX1_init_40 ?_
  refine a_dup dX1_init_43 rfl ?_
  obtain ⟨r27, e28, hT⟩ := obnd hT
  refine a_callI ki_X1_70 (k_J4_init e28) ⟨Nat.le_of_ble_eq_true rfl, Nat.le_of_ble_eq_true rfl⟩ (As := []) (rest := [.ref h22.2.1, .ref o]) rfl rfl (Nat.le_of_ble_eq_true rfl) dX1_init_44 (kV ?_) xV
  obtain ⟨h30, e29, hT⟩ := obnd hT
  refine a_put fp_X1_71_0i ⟨rfl, rfl⟩ e29 dX1_init_47 ?_
  obtain rfl := Option.some.inj hT
  exact a_vret rfl dX1_init_50 (he _ _ ⟨rfl, rfl⟩)
theorem fn_X1_25 : aFN "MazeBonds" 25 5 [.null, .null, .null, .null, .null, .int 0, .int 0, .int 0, .int 0] 9 := ⟨RX7, TX7, tyX7, rfl, in_X7, tyX7_ok, q624, q642, q94, by decide⟩
theorem ki_X1_27 : aKI "MazeBonds" 27 yX7_init cX7_init 3 2 := ⟨rfl, Or.inl q650, q651, q94, q652, ⟨by decide +kernel, by decide +kernel, by decide +kernel⟩⟩
abbrev M_X1_refuse : aM := (yX1_refuse.cls, cX1_refuse, 3, (Option.none : Option Jvm.ClassFile.FieldType), [], yX1_refuse.name)
def t_X1_refuse (Z : aZ) (h : aH) (x0 : Int32) (x1 : Int32) (x2 : Int32) : Option ((Unit ⊕ aXX) × aH) :=
  if x0 = 0 then
    some (.inl (), h)
  else
    (nw Z h (.inr (5, [.null, .null, .null, .null, .null, .int 0, .int 0, .int 0, .int 0])) 9).bind fun h2 =>
    (t_X7_init Z h2 h.2.1 x1 x2).bind fun r6 =>
    if isC 5 r6.2 h.2.1 = true then
    some (.inr ("MazeBonds$RefusedException", h.2.1), r6.2)
    else none
theorem k_X1_refuse {G : aG} {h : aH} {x0 : Int32} {x1 : Int32} {x2 : Int32} {e : ((Unit ⊕ aXX) × aH)} (hT : t_X1_refuse (gZ G) h x0 x1 x2 = some e) : aMet G yX1_refuse (ws_ yX1_refuse cX1_refuse 3 (Option.none : Option Jvm.ClassFile.FieldType)) 5 105 [.int x0, .int x1, .int x2] h (aXV e.1 e.2) := by
  refine aMet.of (lv := [some (.int x0), some (.int x1), some (.int x2)]) (by decide) (Nat.le_of_ble_eq_true rfl) 0 rfl ?_
  have he : aTo (aXV e.1 e.2) (aXV e.1 e.2) := aTo.rf
  unfold t_X1_refuse at hT
  refine a_iload_n dX1_refuse_0 rfl ?_
  refine a_if_eq 14 dX1_refuse_1 rfl (fun c1 => ?_) (fun c1 => ?_)
  · have hT := oifp c1 hT
    obtain rfl := Option.some.inj hT
    exact a_vret rfl dX1_refuse_14 (he _ _ ⟨rfl, rfl⟩)
  · have hT := oifn c1 hT
    obtain ⟨h2, e3, hT⟩ := obnd hT
    refine a_new fn_X1_25 e3 dX1_refuse_4 ?_
    refine a_dup dX1_refuse_7 rfl ?_
    refine a_iload_n dX1_refuse_8 rfl ?_
    refine a_iload_n dX1_refuse_9 rfl ?_
    obtain ⟨r6, e7, hT⟩ := obnd hT
    refine a_callI ki_X1_27 (k_X7_init e7) ⟨Nat.le_of_ble_eq_true rfl, Nat.le_of_ble_eq_true rfl⟩ (As := [.int x1, .int x2]) (rest := [.ref h.2.1]) rfl rfl (Nat.le_of_ble_eq_true rfl) dX1_refuse_10 (kV ?_) xV
    obtain ⟨g8, hT⟩ := oifg hT
    refine a_athrow (ci := 5) (fs := []) rfl g8 dX1_refuse_13 ?_
    obtain rfl := Option.some.inj hT
    exact a_out (by decide) (he _ _ ⟨rfl, rfl⟩)
theorem ks_X1_147 : aKS "MazeBonds" 147 yX1_hedgeOf cX1_hedgeOf 4 (Option.some Jvm.ClassFile.FieldType.int) 2 := ⟨Or.inl q942, q598, q72, q599, ⟨by decide +kernel, by decide +kernel, by decide +kernel⟩⟩
abbrev M_X1_getHedge : aM := (yX1_getHedge.cls, cX1_getHedge, 4, (Option.some Jvm.ClassFile.FieldType.int), [], yX1_getHedge.name)
def t_X1_getHedge_l30 (Z : aZ) (h : aH) (v3 : Int32) (u0 : Int32) : Option ((Int32 ⊕ aXX) × aH) :=
  (t_X1_requireElement Z h u0).bind fun r20 =>
  (match r20 with
  | (.inl y22, h23) =>
    some (.inl v3, h23)
  | (.inr y22, h23) =>
    some (.inr y22, h23)
  )
theorem k_X1_getHedge_l30 {G : aG} {h0 : aH} {K : aRes → aH → Prop} {h : aH} {v3 : Int32} {u0 : Int32} {e : ((Int32 ⊕ aXX) × aH)} (hT : t_X1_getHedge_l30 (gZ G) h v3 u0 = some e) (he : (fun e => aTo (aXI e.1 e.2) K) e) : aW G M_X1_getHedge 11 240 h0 K h 30 [none, none, none, some (.int v3)] [.int u0] := by
  unfold t_X1_getHedge_l30 at hT
  obtain ⟨⟨y22 | y22, h23⟩, e21, hT⟩ := obnd hT
  · dsimp only at hT
    refine a_callS ks_X1_150 (k_X1_requireElement e21) ⟨Nat.le_of_ble_eq_true rfl, Nat.le_of_ble_eq_true rfl⟩ (As := [.int u0]) (rest := []) rfl rfl (Nat.le_of_ble_eq_true rfl) dX1_getHedge_30 (kXV ?_) yXV
    refine a_iload_n dX1_getHedge_33 rfl ?_
    obtain rfl := Option.some.inj hT
    exact a_iret rfl rfl dX1_getHedge_34 (he _ _ ⟨rfl, rfl⟩)
  · dsimp only at hT
    refine a_callS ks_X1_150 (k_X1_requireElement e21) ⟨Nat.le_of_ble_eq_true rfl, Nat.le_of_ble_eq_true rfl⟩ (As := [.int u0]) (rest := []) rfl rfl (Nat.le_of_ble_eq_true rfl) dX1_getHedge_30 rXV (zXV ?_)
    obtain rfl := Option.some.inj hT
    exact a_out (by decide) (he _ _ ⟨rfl, rfl⟩)
def t_X1_getHedge (Z : aZ) (h : aH) (o : Nat) (x0 : Int32) (x1 : Int32) : Option ((Int32 ⊕ aXX) × aH) :=
  (nwA Z h 2 (fun N => .inl (zI Z, N, .inl fun _ => 0))).bind fun h1 =>
  (stI Z h1 h.2.1 0 x0).bind fun h4 =>
  (stI Z h4 h.2.1 1 x1).bind fun h6 =>
  (t_X1_requireCells Z h6 h.2.1).bind fun r9 =>
  (match r9 with
  | (.inl y11, h12) =>
    (t_X1_hedgeOf x0 x1).bind fun r15 =>
    if r15 = (-1) then
      t_X1_getHedge_l30 Z h12 r15 0
    else
      t_X1_getHedge_l30 Z h12 r15 1
  | (.inr y11, h12) =>
    some (.inr y11, h12)
  )
theorem k_X1_getHedge {G : aG} {h : aH} {o : Nat} {x0 : Int32} {x1 : Int32} {e : ((Int32 ⊕ aXX) × aH)} (hT : t_X1_getHedge (gZ G) h o x0 x1 = some e) : aMet G yX1_getHedge (ws_ yX1_getHedge cX1_getHedge 4 (Option.some Jvm.ClassFile.FieldType.int)) 11 240 [.ref o, .int x0, .int x1] h (aXI e.1 e.2) := by
  refine aMet.of (lv := [some (.ref o), some (.int x0), some (.int x1), none]) (by decide) (Nat.le_of_ble_eq_true rfl) 1 rfl ?_
  have he : aTo (aXI e.1 e.2) (aXI e.1 e.2) := aTo.rf
  unfold t_X1_getHedge at hT
  refine a_iconst (v := 2) dX1_getHedge_0 (by decide) ?_
  obtain ⟨h1, e2, hT⟩ := obnd hT
  refine a_newI q156 e2 dX1_getHedge_1 ?_
  refine a_dup dX1_getHedge_3 rfl ?_
  refine a_iconst (v := 0) dX1_getHedge_4 (by decide) ?_
  refine a_iload_n dX1_getHedge_5 rfl ?_
  obtain ⟨h4, e3, hT⟩ := obnd hT
  refine a_stI e3 dX1_getHedge_6 ?_
  refine a_dup dX1_getHedge_7 rfl ?_
  refine a_iconst (v := 1) dX1_getHedge_8 (by decide) ?_
  refine a_iload_n dX1_getHedge_9 rfl ?_
  obtain ⟨h6, e5, hT⟩ := obnd hT
  refine a_stI e5 dX1_getHedge_10 ?_
  obtain ⟨⟨y11 | y11, h12⟩, e10, hT⟩ := obnd hT
  · dsimp only at hT
    refine a_callS ks_X1_143 (k_X1_requireCells e10) ⟨Nat.le_of_ble_eq_true rfl, Nat.le_of_ble_eq_true rfl⟩ (As := [.ref h.2.1]) (rest := []) rfl rfl (Nat.le_of_ble_eq_true rfl) dX1_getHedge_11 (kXV ?_) yXV
    refine a_iload_n dX1_getHedge_14 rfl ?_
    refine a_iload_n dX1_getHedge_15 rfl ?_
    obtain ⟨r15, e16, hT⟩ := obnd hT
    refine a_callS ks_X1_147 (k_X1_hedgeOf e16) ⟨Nat.le_of_ble_eq_true rfl, Nat.le_of_ble_eq_true rfl⟩ (As := [.int x0, .int x1]) (rest := []) rfl rfl (Nat.le_of_ble_eq_true rfl) dX1_getHedge_16 (kI ?_) xI
    refine a_istore_n (lv' := [some (.ref o), some (.int x0), some (.int x1), some (.int r15)]) dX1_getHedge_19 rfl (by decide) rfl ?_
    refine a_iload_n dX1_getHedge_20 rfl ?_
    refine a_iconst (v := (-1)) dX1_getHedge_21 (by decide) ?_
    refine a_icmp_eq 29 dX1_getHedge_22 rfl (fun c17 => ?_) (fun c17 => ?_)
    · have hT := oifp c17 hT
      refine a_iconst (v := 0) dX1_getHedge_29 (by decide) ?_
      refine a_mask [false, false, false, true] ?_
      exact k_X1_getHedge_l30 hT he
    · have hT := oifn c17 hT
      refine a_iconst (v := 1) dX1_getHedge_25 (by decide) ?_
      refine a_goto 30 dX1_getHedge_26 rfl ?_
      refine a_mask [false, false, false, true] ?_
      exact k_X1_getHedge_l30 hT he
  · dsimp only at hT
    refine a_callS ks_X1_143 (k_X1_requireCells e10) ⟨Nat.le_of_ble_eq_true rfl, Nat.le_of_ble_eq_true rfl⟩ (As := [.ref h.2.1]) (rest := []) rfl rfl (Nat.le_of_ble_eq_true rfl) dX1_getHedge_11 rXV (zXV ?_)
    obtain rfl := Option.some.inj hT
    exact a_out (by decide) (he _ _ ⟨rfl, rfl⟩)
theorem kv_X1_167 : aKV "MazeBonds" 167 1 yX2_relaxed cX2_relaxed 8 (Option.some (Jvm.ClassFile.FieldType.array Jvm.ClassFile.FieldType.int)) 3 := ⟨⟨TX2, 7, rfl⟩, Or.inl q971, q972, q973, q73, q974, ⟨by decide +kernel, by decide +kernel, by decide +kernel⟩⟩
abbrev M_X1_hoursAgain : aM := (yX1_hoursAgain.cls, cX1_hoursAgain, 4, (Option.some Jvm.ClassFile.FieldType.int), [], yX1_hoursAgain.name)
def t_X1_hoursAgain_l39 (Z : aZ) (h : aH) (v3 : Int32) (u0 : Int32) : Option ((Int32 ⊕ aXX) × aH) :=
  (t_X1_requireElement Z h u0).bind fun r25 =>
  (match r25 with
  | (.inl y27, h28) =>
    some (.inl v3, h28)
  | (.inr y27, h28) =>
    some (.inr y27, h28)
  )
theorem k_X1_hoursAgain_l39 {G : aG} {h0 : aH} {K : aRes → aH → Prop} {h : aH} {v3 : Int32} {u0 : Int32} {e : ((Int32 ⊕ aXX) × aH)} (hT : t_X1_hoursAgain_l39 (gZ G) h v3 u0 = some e) (he : (fun e => aTo (aXI e.1 e.2) K) e) : aW G M_X1_hoursAgain 11 240 h0 K h 39 [none, none, none, some (.int v3)] [.int u0] := by
  unfold t_X1_hoursAgain_l39 at hT
  obtain ⟨⟨y27 | y27, h28⟩, e26, hT⟩ := obnd hT
  · dsimp only at hT
    refine a_callS ks_X1_150 (k_X1_requireElement e26) ⟨Nat.le_of_ble_eq_true rfl, Nat.le_of_ble_eq_true rfl⟩ (As := [.int u0]) (rest := []) rfl rfl (Nat.le_of_ble_eq_true rfl) dX1_hoursAgain_39 (kXV ?_) yXV
    refine a_iload_n dX1_hoursAgain_42 rfl ?_
    obtain rfl := Option.some.inj hT
    exact a_iret rfl rfl dX1_hoursAgain_43 (he _ _ ⟨rfl, rfl⟩)
  · dsimp only at hT
    refine a_callS ks_X1_150 (k_X1_requireElement e26) ⟨Nat.le_of_ble_eq_true rfl, Nat.le_of_ble_eq_true rfl⟩ (As := [.int u0]) (rest := []) rfl rfl (Nat.le_of_ble_eq_true rfl) dX1_hoursAgain_39 rXV (zXV ?_)
    obtain rfl := Option.some.inj hT
    exact a_out (by decide) (he _ _ ⟨rfl, rfl⟩)
def t_X1_hoursAgain (Z : aZ) (h : aH) (o : Nat) (x0 : Int32) (x1 : Int32) : Option ((Int32 ⊕ aXX) × aH) :=
  (nwA Z h 2 (fun N => .inl (zI Z, N, .inl fun _ => 0))).bind fun h1 =>
  (stI Z h1 h.2.1 0 x0).bind fun h4 =>
  (stI Z h4 h.2.1 1 x1).bind fun h6 =>
  (t_X1_requireCells Z h6 h.2.1).bind fun r9 =>
  (match r9 with
  | (.inl y11, h12) =>
    (gA 0 0 h12 o).bind fun a14 =>
    if isC 1 h12 a14 = true then
    (t_X2_relaxed Z h12 a14 x1 1 16).bind fun r18 =>
    (ldI Z r18.2 r18.1 x0).bind fun z21 =>
    if 16 ≤ z21 then
      t_X1_hoursAgain_l39 Z r18.2 z21 0
    else
      t_X1_hoursAgain_l39 Z r18.2 z21 1
    else none
  | (.inr y11, h12) =>
    some (.inr y11, h12)
  )
theorem k_X1_hoursAgain {G : aG} {h : aH} {o : Nat} {x0 : Int32} {x1 : Int32} {e : ((Int32 ⊕ aXX) × aH)} (hT : t_X1_hoursAgain (gZ G) h o x0 x1 = some e) : aMet G yX1_hoursAgain (ws_ yX1_hoursAgain cX1_hoursAgain 4 (Option.some Jvm.ClassFile.FieldType.int)) 11 240 [.ref o, .int x0, .int x1] h (aXI e.1 e.2) := by
  refine aMet.of (lv := [some (.ref o), some (.int x0), some (.int x1), none]) (by decide) (Nat.le_of_ble_eq_true rfl) 1 rfl ?_
  have he : aTo (aXI e.1 e.2) (aXI e.1 e.2) := aTo.rf
  unfold t_X1_hoursAgain at hT
  refine a_iconst (v := 2) dX1_hoursAgain_0 (by decide) ?_
  obtain ⟨h1, e2, hT⟩ := obnd hT
  refine a_newI q156 e2 dX1_hoursAgain_1 ?_
  refine a_dup dX1_hoursAgain_3 rfl ?_
  refine a_iconst (v := 0) dX1_hoursAgain_4 (by decide) ?_
  refine a_iload_n dX1_hoursAgain_5 rfl ?_
  obtain ⟨h4, e3, hT⟩ := obnd hT
  refine a_stI e3 dX1_hoursAgain_6 ?_
  refine a_dup dX1_hoursAgain_7 rfl ?_
  refine a_iconst (v := 1) dX1_hoursAgain_8 (by decide) ?_
  refine a_iload_n dX1_hoursAgain_9 rfl ?_
  obtain ⟨h6, e5, hT⟩ := obnd hT
  refine a_stI e5 dX1_hoursAgain_10 ?_
  obtain ⟨⟨y11 | y11, h12⟩, e10, hT⟩ := obnd hT
  · dsimp only at hT
    refine a_callS ks_X1_143 (k_X1_requireCells e10) ⟨Nat.le_of_ble_eq_true rfl, Nat.le_of_ble_eq_true rfl⟩ (As := [.ref h.2.1]) (rest := []) rfl rfl (Nat.le_of_ble_eq_true rfl) dX1_hoursAgain_11 (kXV ?_) yXV
    refine a_aload_n dX1_hoursAgain_14 rfl ?_
    obtain ⟨a14, e13, hT⟩ := obnd hT
    refine a_gA fl_X1_49_0 e13 dX1_hoursAgain_15 ?_
    refine a_iload_n dX1_hoursAgain_18 rfl ?_
    refine a_iconst (v := 1) dX1_hoursAgain_19 (by decide) ?_
    refine a_bipush (v := 16) dX1_hoursAgain_20 (by decide) ?_
    obtain ⟨g17, hT⟩ := oifg hT
    obtain ⟨r18, e19, hT⟩ := obnd hT
    refine a_callV kv_X1_167 g17 (k_X2_relaxed e19) ⟨Nat.le_of_ble_eq_true rfl, Nat.le_of_ble_eq_true rfl⟩ (As := [.int x1, .int 1, .int 16]) (rest := []) rfl rfl (Nat.le_of_ble_eq_true rfl) dX1_hoursAgain_22 (kA ?_) xA
    refine a_iload_n dX1_hoursAgain_25 rfl ?_
    obtain ⟨z21, e20, hT⟩ := obnd hT
    refine a_ldI e20 dX1_hoursAgain_26 ?_
    refine a_istore_n (lv' := [some (.ref o), some (.int x0), some (.int x1), some (.int z21)]) dX1_hoursAgain_27 rfl (by decide) rfl ?_
    refine a_iload_n dX1_hoursAgain_28 rfl ?_
    refine a_bipush (v := 16) dX1_hoursAgain_29 (by decide) ?_
    refine a_icmp_ge 38 dX1_hoursAgain_31 rfl (fun c22 => ?_) (fun c22 => ?_)
    · have hT := oifp c22 hT
      refine a_iconst (v := 0) dX1_hoursAgain_38 (by decide) ?_
      refine a_mask [false, false, false, true] ?_
      exact k_X1_hoursAgain_l39 hT he
    · have hT := oifn c22 hT
      refine a_iconst (v := 1) dX1_hoursAgain_34 (by decide) ?_
      refine a_goto 39 dX1_hoursAgain_35 rfl ?_
      refine a_mask [false, false, false, true] ?_
      exact k_X1_hoursAgain_l39 hT he
  · dsimp only at hT
    refine a_callS ks_X1_143 (k_X1_requireCells e10) ⟨Nat.le_of_ble_eq_true rfl, Nat.le_of_ble_eq_true rfl⟩ (As := [.ref h.2.1]) (rest := []) rfl rfl (Nat.le_of_ble_eq_true rfl) dX1_hoursAgain_11 rXV (zXV ?_)
    obtain rfl := Option.some.inj hT
    exact a_out (by decide) (he _ _ ⟨rfl, rfl⟩)
abbrev M_X1_trimsAgain : aM := (yX1_trimsAgain.cls, cX1_trimsAgain, 2, (Option.some Jvm.ClassFile.FieldType.int), [], yX1_trimsAgain.name)
def t_X1_trimsAgain (Z : aZ) (h : aH) (o : Nat) (x0 : Int32) : Option ((Int32 ⊕ aXX) × aH) :=
  (nwA Z h 1 (fun N => .inl (zI Z, N, .inl fun _ => 0))).bind fun h1 =>
  (stI Z h1 h.2.1 0 x0).bind fun h4 =>
  (t_X1_requireCells Z h4 h.2.1).bind fun r7 =>
  (match r7 with
  | (.inl y9, h10) =>
    (gA 0 0 h10 o).bind fun a12 =>
    if isC 1 h10 a12 = true then
    (t_X2_relaxed Z h10 a12 15 0 1).bind fun r16 =>
    (ldI Z r16.2 r16.1 x0).bind fun z19 =>
    some (.inl z19, r16.2)
    else none
  | (.inr y9, h10) =>
    some (.inr y9, h10)
  )
theorem k_X1_trimsAgain {G : aG} {h : aH} {o : Nat} {x0 : Int32} {e : ((Int32 ⊕ aXX) × aH)} (hT : t_X1_trimsAgain (gZ G) h o x0 = some e) : aMet G yX1_trimsAgain (ws_ yX1_trimsAgain cX1_trimsAgain 2 (Option.some Jvm.ClassFile.FieldType.int)) 11 240 [.ref o, .int x0] h (aXI e.1 e.2) := by
  refine aMet.of (lv := [some (.ref o), some (.int x0)]) (by decide) (Nat.le_of_ble_eq_true rfl) 0 rfl ?_
  have he : aTo (aXI e.1 e.2) (aXI e.1 e.2) := aTo.rf
  unfold t_X1_trimsAgain at hT
  refine a_iconst (v := 1) dX1_trimsAgain_0 (by decide) ?_
  obtain ⟨h1, e2, hT⟩ := obnd hT
  refine a_newI q156 e2 dX1_trimsAgain_1 ?_
  refine a_dup dX1_trimsAgain_3 rfl ?_
  refine a_iconst (v := 0) dX1_trimsAgain_4 (by decide) ?_
  refine a_iload_n dX1_trimsAgain_5 rfl ?_
  obtain ⟨h4, e3, hT⟩ := obnd hT
  refine a_stI e3 dX1_trimsAgain_6 ?_
  obtain ⟨⟨y9 | y9, h10⟩, e8, hT⟩ := obnd hT
  · dsimp only at hT
    refine a_callS ks_X1_143 (k_X1_requireCells e8) ⟨Nat.le_of_ble_eq_true rfl, Nat.le_of_ble_eq_true rfl⟩ (As := [.ref h.2.1]) (rest := []) rfl rfl (Nat.le_of_ble_eq_true rfl) dX1_trimsAgain_7 (kXV ?_) yXV
    refine a_aload_n dX1_trimsAgain_10 rfl ?_
    obtain ⟨a12, e11, hT⟩ := obnd hT
    refine a_gA fl_X1_49_0 e11 dX1_trimsAgain_11 ?_
    refine a_bipush (v := 15) dX1_trimsAgain_14 (by decide) ?_
    refine a_iconst (v := 0) dX1_trimsAgain_16 (by decide) ?_
    refine a_iconst (v := 1) dX1_trimsAgain_17 (by decide) ?_
    obtain ⟨g15, hT⟩ := oifg hT
    obtain ⟨r16, e17, hT⟩ := obnd hT
    refine a_callV kv_X1_167 g15 (k_X2_relaxed e17) ⟨Nat.le_of_ble_eq_true rfl, Nat.le_of_ble_eq_true rfl⟩ (As := [.int 15, .int 0, .int 1]) (rest := []) rfl rfl (Nat.le_of_ble_eq_true rfl) dX1_trimsAgain_18 (kA ?_) xA
    refine a_iload_n dX1_trimsAgain_21 rfl ?_
    obtain ⟨z19, e18, hT⟩ := obnd hT
    refine a_ldI e18 dX1_trimsAgain_22 ?_
    obtain rfl := Option.some.inj hT
    exact a_iret rfl rfl dX1_trimsAgain_23 (he _ _ ⟨rfl, rfl⟩)
  · dsimp only at hT
    refine a_callS ks_X1_143 (k_X1_requireCells e8) ⟨Nat.le_of_ble_eq_true rfl, Nat.le_of_ble_eq_true rfl⟩ (As := [.ref h.2.1]) (rest := []) rfl rfl (Nat.le_of_ble_eq_true rfl) dX1_trimsAgain_7 rXV (zXV ?_)
    obtain rfl := Option.some.inj hT
    exact a_out (by decide) (he _ _ ⟨rfl, rfl⟩)
theorem fl_X1_153_1 : aFL "MazeBonds" 153 1 0 := ⟨RX2, TX2, 7, "MazeBonds$Core", rfl, in_X2, by decide, Or.inl rfl, Or.inr ⟨_, q158⟩⟩
theorem kv_X1_157 : aKV "MazeBonds" 157 0 yX1_getHedge cX1_getHedge 4 (Option.some Jvm.ClassFile.FieldType.int) 2 := ⟨⟨TX1, 8, rfl⟩, Or.inl q916, q918, qs13, q72, q919, ⟨by decide +kernel, by decide +kernel, by decide +kernel⟩⟩
abbrev M_X1_closesIn : aM := (yX1_closesIn.cls, cX1_closesIn, 3, (Option.some Jvm.ClassFile.FieldType.int), [], yX1_closesIn.name)
def t_X1_closesIn (Z : aZ) (h : aH) (o : Nat) (x0 : Int32) (x1 : Int32) : Option ((Int32 ⊕ aXX) × aH) :=
  (gA 0 0 h o).bind fun a2 =>
  (gA 1 0 h a2).bind fun a4 =>
  if isC 0 h o = true then
  (t_X1_getHedge Z h o x0 x1).bind fun r8 =>
  (match r8 with
  | (.inl y10, h11) =>
    (ldI Z h11 a4 y10).bind fun z13 =>
    some (.inl (jmax 0 (5 - z13)), h11)
  | (.inr y10, h11) =>
    some (.inr y10, h11)
  )
  else none
theorem k_X1_closesIn {G : aG} {h : aH} {o : Nat} {x0 : Int32} {x1 : Int32} {e : ((Int32 ⊕ aXX) × aH)} (hT : t_X1_closesIn (gZ G) h o x0 x1 = some e) : aMet G yX1_closesIn (ws_ yX1_closesIn cX1_closesIn 3 (Option.some Jvm.ClassFile.FieldType.int)) 12 263 [.ref o, .int x0, .int x1] h (aXI e.1 e.2) := by
  refine aMet.of (lv := [some (.ref o), some (.int x0), some (.int x1)]) (by decide) (Nat.le_of_ble_eq_true rfl) 0 rfl ?_
  have he : aTo (aXI e.1 e.2) (aXI e.1 e.2) := aTo.rf
  unfold t_X1_closesIn at hT
  refine a_iconst (v := 0) dX1_closesIn_0 (by decide) ?_
  refine a_iconst (v := 5) dX1_closesIn_1 (by decide) ?_
  refine a_aload_n dX1_closesIn_2 rfl ?_
  obtain ⟨a2, e1, hT⟩ := obnd hT
  refine a_gA fl_X1_49_0 e1 dX1_closesIn_3 ?_
  obtain ⟨a4, e3, hT⟩ := obnd hT
  refine a_gA fl_X1_153_1 e3 dX1_closesIn_6 ?_
  refine a_aload_n dX1_closesIn_9 rfl ?_
  refine a_iload_n dX1_closesIn_10 rfl ?_
  refine a_iload_n dX1_closesIn_11 rfl ?_
  obtain ⟨g7, hT⟩ := oifg hT
  obtain ⟨⟨y10 | y10, h11⟩, e9, hT⟩ := obnd hT
  · dsimp only at hT
    refine a_callV kv_X1_157 g7 (k_X1_getHedge e9) ⟨Nat.le_of_ble_eq_true rfl, Nat.le_of_ble_eq_true rfl⟩ (As := [.int x0, .int x1]) (rest := [.ref a4, .int 5, .int 0]) rfl rfl (Nat.le_of_ble_eq_true rfl) dX1_closesIn_12 (kXI ?_) yXI
    obtain ⟨z13, e12, hT⟩ := obnd hT
    refine a_ldI e12 dX1_closesIn_15 ?_
    refine a_isub dX1_closesIn_16 ?_
    refine a_mmax q601 q441 q90 q442 (by decide) (Nat.le_of_ble_eq_true rfl) dX1_closesIn_17 ?_
    obtain rfl := Option.some.inj hT
    exact a_iret rfl rfl dX1_closesIn_20 (he _ _ ⟨rfl, rfl⟩)
  · dsimp only at hT
    refine a_callV kv_X1_157 g7 (k_X1_getHedge e9) ⟨Nat.le_of_ble_eq_true rfl, Nat.le_of_ble_eq_true rfl⟩ (As := [.int x0, .int x1]) (rest := [.ref a4, .int 5, .int 0]) rfl rfl (Nat.le_of_ble_eq_true rfl) dX1_closesIn_12 rXI (zXI ?_)
    obtain rfl := Option.some.inj hT
    exact a_out (by decide) (he _ _ ⟨rfl, rfl⟩)
theorem kv_X1_202 : aKV "MazeBonds" 202 0 yX1_getGardener cX1_getGardener 2 (Option.some (Jvm.ClassFile.FieldType.object "MazeBonds$Gardener")) 1 := ⟨⟨TX1, 8, rfl⟩, Or.inl q1031, q1033, qs15, q72, q1034, ⟨by decide +kernel, by decide +kernel, by decide +kernel⟩⟩
theorem ku_X1_209_3 : aKU "MazeBonds" 209 3 ⟨"MazeBonds$Gardener", "coins", "()I"⟩ yX4_coins cX4_coins 1 (Option.some Jvm.ClassFile.FieldType.int) 0 := ⟨RX5, TX5, 4, rfl, rfl, q1056, q390, q392, q393, q87, q394, ⟨by decide +kernel, by decide +kernel, by decide +kernel⟩⟩
theorem kv_X1_212 : aKV "MazeBonds" 212 1 yX2_bondsOf cX2_bondsOf 5 (Option.some Jvm.ClassFile.FieldType.int) 1 := ⟨⟨TX2, 7, rfl⟩, Or.inl q1057, q1058, q1059, q73, q1060, ⟨by decide +kernel, by decide +kernel, by decide +kernel⟩⟩
theorem fl_X1_215_3 : aFL "MazeBonds" 215 3 1 := ⟨RX5, TX5, 4, "MazeBonds$Gardener", rfl, in_X5, by decide, Or.inl rfl, Or.inr ⟨_, q404⟩⟩
theorem fl_X1_218_3 : aFL "MazeBonds" 218 3 2 := ⟨RX5, TX5, 4, "MazeBonds$Gardener", rfl, in_X5, by decide, Or.inl rfl, Or.inr ⟨_, q407⟩⟩
theorem fl_X1_221_3 : aFL "MazeBonds" 221 3 3 := ⟨RX5, TX5, 4, "MazeBonds$Gardener", rfl, in_X5, by decide, Or.inl rfl, Or.inr ⟨_, q410⟩⟩
abbrev M_X1_gardenerOf : aM := (yX1_gardenerOf.cls, cX1_gardenerOf, 4, (Option.some Jvm.ClassFile.FieldType.int), [], yX1_gardenerOf.name)
def t_X1_gardenerOf (Z : aZ) (h : aH) (o : Nat) (x0 : Int32) (x1 : Int32) : Option ((Int32 ⊕ aXX) × aH) :=
  if isC 0 h o = true then
  (t_X1_getGardener Z h o x0).bind fun r4 =>
  (match r4 with
  | (.inl y6, h7) =>
    (t_X1_isIn x1 0 4).bind fun r10 =>
    (t_X1_requireArgument Z h7 r10).bind fun r14 =>
    (match r14 with
    | (.inl y16, h17) =>
      if x1 = 0 then
        if isC 3 h17 y6 = true then
        (t_X4_coins_3 Z h17 y6).bind fun r22 =>
        some (.inl r22.1, r22.2)
        else none
      else
        if x1 = 1 then
          (gA 0 0 h17 o).bind fun a26 =>
          if isC 1 h17 a26 = true then
          (t_X2_bondsOf Z h17 a26 x0).bind fun r30 =>
          some (.inl r30.1, r30.2)
          else none
        else
          if x1 = 2 then
            (gI 3 1 h17 y6).bind fun z34 =>
            some (.inl z34, h17)
          else
            if x1 = 3 then
              (gI 3 2 h17 y6).bind fun z37 =>
              some (.inl z37, h17)
            else
              (gI 3 3 h17 y6).bind fun z39 =>
              some (.inl z39, h17)
    | (.inr y16, h17) =>
      some (.inr y16, h17)
    )
  | (.inr y6, h7) =>
    some (.inr y6, h7)
  )
  else none
theorem k_X1_gardenerOf {G : aG} {h : aH} {o : Nat} {x0 : Int32} {x1 : Int32} {e : ((Int32 ⊕ aXX) × aH)} (hT : t_X1_gardenerOf (gZ G) h o x0 x1 = some e) : aMet G yX1_gardenerOf (ws_ yX1_gardenerOf cX1_gardenerOf 4 (Option.some Jvm.ClassFile.FieldType.int)) 11 241 [.ref o, .int x0, .int x1] h (aXI e.1 e.2) := by
  refine aMet.of (lv := [some (.ref o), some (.int x0), some (.int x1), none]) (by decide) (Nat.le_of_ble_eq_true rfl) 1 rfl ?_
  have he : aTo (aXI e.1 e.2) (aXI e.1 e.2) := aTo.rf
  unfold t_X1_gardenerOf at hT
  refine a_aload_n dX1_gardenerOf_0 rfl ?_
  refine a_iload_n dX1_gardenerOf_1 rfl ?_
  obtain ⟨g3, hT⟩ := oifg hT
  obtain ⟨⟨y6 | y6, h7⟩, e5, hT⟩ := obnd hT
  · dsimp only at hT
    refine a_callV kv_X1_202 g3 (k_X1_getGardener e5) ⟨Nat.le_of_ble_eq_true rfl, Nat.le_of_ble_eq_true rfl⟩ (As := [.int x0]) (rest := []) rfl rfl (Nat.le_of_ble_eq_true rfl) dX1_gardenerOf_2 (kXA ?_) yXA
    refine a_astore_n (lv' := [some (.ref o), some (.int x0), some (.int x1), some (.ref y6)]) dX1_gardenerOf_5 rfl (by decide) rfl ?_
    refine a_iload_n dX1_gardenerOf_6 rfl ?_
    refine a_iconst (v := 0) dX1_gardenerOf_7 (by decide) ?_
    refine a_iconst (v := 4) dX1_gardenerOf_8 (by decide) ?_
    obtain ⟨r10, e11, hT⟩ := obnd hT
    refine a_callS ks_X1_3 (k_X1_isIn e11) ⟨Nat.le_of_ble_eq_true rfl, Nat.le_of_ble_eq_true rfl⟩ (As := [.int x1, .int 0, .int 4]) (rest := []) rfl rfl (Nat.le_of_ble_eq_true rfl) dX1_gardenerOf_9 (kI ?_) xI
    obtain ⟨⟨y16 | y16, h17⟩, e15, hT⟩ := obnd hT
    · dsimp only at hT
      refine a_callS ks_X1_206 (k_X1_requireArgument e15) ⟨Nat.le_of_ble_eq_true rfl, Nat.le_of_ble_eq_true rfl⟩ (As := [.int r10]) (rest := []) rfl rfl (Nat.le_of_ble_eq_true rfl) dX1_gardenerOf_12 (kXV ?_) yXV
      refine a_iload_n dX1_gardenerOf_15 rfl ?_
      by_cases c18 : x1 = 0
      · have hT := oifp c18 hT
        refine a_tswIn 48 dX1_gardenerOf_16 (by rw [c18]; decide) (by rw [c18]; decide) (off := 32) (by rw [c18]; rfl) rfl ?_
        refine a_aload_n dX1_gardenerOf_48 rfl ?_
        obtain ⟨g21, hT⟩ := oifg hT
        obtain ⟨r22, e23, hT⟩ := obnd hT
        refine a_callU ku_X1_209_3 g21 (k_X4_coins_3 e23) ⟨Nat.le_of_ble_eq_true rfl, Nat.le_of_ble_eq_true rfl⟩ (As := []) (rest := []) rfl rfl (Nat.le_of_ble_eq_true rfl) dX1_gardenerOf_49 (kI ?_) xI
        obtain rfl := Option.some.inj hT
        exact a_iret rfl rfl dX1_gardenerOf_52 (he _ _ ⟨rfl, rfl⟩)
      · have hT := oifn c18 hT
        by_cases c24 : x1 = 1
        · have hT := oifp c24 hT
          refine a_tswIn 53 dX1_gardenerOf_16 (by rw [c24]; decide) (by rw [c24]; decide) (off := 37) (by rw [c24]; rfl) rfl ?_
          refine a_aload_n dX1_gardenerOf_53 rfl ?_
          obtain ⟨a26, e25, hT⟩ := obnd hT
          refine a_gA fl_X1_49_0 e25 dX1_gardenerOf_54 ?_
          refine a_iload_n dX1_gardenerOf_57 rfl ?_
          obtain ⟨g29, hT⟩ := oifg hT
          obtain ⟨r30, e31, hT⟩ := obnd hT
          refine a_callV kv_X1_212 g29 (k_X2_bondsOf e31) ⟨Nat.le_of_ble_eq_true rfl, Nat.le_of_ble_eq_true rfl⟩ (As := [.int x0]) (rest := []) rfl rfl (Nat.le_of_ble_eq_true rfl) dX1_gardenerOf_58 (kI ?_) xI
          obtain rfl := Option.some.inj hT
          exact a_iret rfl rfl dX1_gardenerOf_61 (he _ _ ⟨rfl, rfl⟩)
        · have hT := oifn c24 hT
          by_cases c32 : x1 = 2
          · have hT := oifp c32 hT
            refine a_tswIn 62 dX1_gardenerOf_16 (by rw [c32]; decide) (by rw [c32]; decide) (off := 46) (by rw [c32]; rfl) rfl ?_
            refine a_aload_n dX1_gardenerOf_62 rfl ?_
            obtain ⟨z34, e33, hT⟩ := obnd hT
            refine a_gI fl_X1_215_3 e33 dX1_gardenerOf_63 ?_
            obtain rfl := Option.some.inj hT
            exact a_iret rfl rfl dX1_gardenerOf_66 (he _ _ ⟨rfl, rfl⟩)
          · have hT := oifn c32 hT
            by_cases c35 : x1 = 3
            · have hT := oifp c35 hT
              refine a_tswIn 67 dX1_gardenerOf_16 (by rw [c35]; decide) (by rw [c35]; decide) (off := 51) (by rw [c35]; rfl) rfl ?_
              refine a_aload_n dX1_gardenerOf_67 rfl ?_
              obtain ⟨z37, e36, hT⟩ := obnd hT
              refine a_gI fl_X1_218_3 e36 dX1_gardenerOf_68 ?_
              obtain rfl := Option.some.inj hT
              exact a_iret rfl rfl dX1_gardenerOf_71 (he _ _ ⟨rfl, rfl⟩)
            · have hT := oifn c35 hT
              refine aTsw 72 dX1_gardenerOf_16 rfl (cs := [0, 1, 2, 3]) (by decide +kernel) (by simp only [List.mem_cons, List.not_mem_nil, or_false]; rintro z9 (rfl | rfl | rfl | rfl) <;> assumption) ?_
              refine a_aload_n dX1_gardenerOf_72 rfl ?_
              obtain ⟨z39, e38, hT⟩ := obnd hT
              refine a_gI fl_X1_221_3 e38 dX1_gardenerOf_73 ?_
              obtain rfl := Option.some.inj hT
              exact a_iret rfl rfl dX1_gardenerOf_76 (he _ _ ⟨rfl, rfl⟩)
    · dsimp only at hT
      refine a_callS ks_X1_206 (k_X1_requireArgument e15) ⟨Nat.le_of_ble_eq_true rfl, Nat.le_of_ble_eq_true rfl⟩ (As := [.int r10]) (rest := []) rfl rfl (Nat.le_of_ble_eq_true rfl) dX1_gardenerOf_12 rXV (zXV ?_)
      obtain rfl := Option.some.inj hT
      exact a_out (by decide) (he _ _ ⟨rfl, rfl⟩)
  · dsimp only at hT
    refine a_callV kv_X1_202 g3 (k_X1_getGardener e5) ⟨Nat.le_of_ble_eq_true rfl, Nat.le_of_ble_eq_true rfl⟩ (As := [.int x0]) (rest := []) rfl rfl (Nat.le_of_ble_eq_true rfl) dX1_gardenerOf_2 rXA (zXA ?_)
    obtain rfl := Option.some.inj hT
    exact a_out (by decide) (he _ _ ⟨rfl, rfl⟩)
theorem fl_X1_234_4 : aFL "MazeBonds" 234 4 1 := ⟨RX6, TX6, 7, "MazeBonds$Visitor", rfl, in_X6, by decide, Or.inl rfl, Or.inr ⟨_, q503⟩⟩
abbrev M_X1_visitorOf : aM := (yX1_visitorOf.cls, cX1_visitorOf, 4, (Option.some Jvm.ClassFile.FieldType.int), [], yX1_visitorOf.name)
def t_X1_visitorOf (Z : aZ) (h : aH) (o : Nat) (x0 : Int32) (x1 : Int32) : Option ((Int32 ⊕ aXX) × aH) :=
  if isC 0 h o = true then
  (t_X1_getVisitor Z h o x0).bind fun r4 =>
  (match r4 with
  | (.inl y6, h7) =>
    (t_X1_isIn x1 0 8).bind fun r10 =>
    (t_X1_requireArgument Z h7 r10).bind fun r14 =>
    (match r14 with
    | (.inl y16, h17) =>
      if x1 = 0 then
        if isC 4 h17 y6 = true then
        (t_X4_coins_4 Z h17 y6).bind fun r22 =>
        some (.inl r22.1, r22.2)
        else none
      else
        if x1 = 1 then
          (gI 4 2 h17 y6).bind fun z26 =>
          some (.inl z26, h17)
        else
          if x1 = 2 then
            (gI 4 3 h17 y6).bind fun z29 =>
            some (.inl z29, h17)
          else
            if x1 = 3 then
              (gI 4 1 h17 y6).bind fun z32 =>
              some (.inl z32, h17)
            else
              if x1 = 4 then
                if isC 4 h17 y6 = true then
                (t_X6_lost Z h17 y6).bind fun r37 =>
                some (.inl r37.1, r37.2)
                else none
              else
                if x1 = 5 then
                  (gI 4 4 h17 y6).bind fun z41 =>
                  some (.inl z41, h17)
                else
                  if x1 = 6 then
                    (gI 4 5 h17 y6).bind fun z44 =>
                    some (.inl z44, h17)
                  else
                    if x1 = 7 then
                      (gI 4 6 h17 y6).bind fun z47 =>
                      if z47 = 0 then
                        some (.inl 0, h17)
                      else
                        some (.inl 1, h17)
                    else
                      if isC 4 h17 y6 = true then
                      (t_X6_isOut Z h17 y6).bind fun r52 =>
                      if r52.1 = 0 then
                        some (.inl 0, r52.2)
                      else
                        some (.inl 1, r52.2)
                      else none
    | (.inr y16, h17) =>
      some (.inr y16, h17)
    )
  | (.inr y6, h7) =>
    some (.inr y6, h7)
  )
  else none
theorem k_X1_visitorOf {G : aG} {h : aH} {o : Nat} {x0 : Int32} {x1 : Int32} {e : ((Int32 ⊕ aXX) × aH)} (hT : t_X1_visitorOf (gZ G) h o x0 x1 = some e) : aMet G yX1_visitorOf (ws_ yX1_visitorOf cX1_visitorOf 4 (Option.some Jvm.ClassFile.FieldType.int)) 11 241 [.ref o, .int x0, .int x1] h (aXI e.1 e.2) := by
  refine aMet.of (lv := [some (.ref o), some (.int x0), some (.int x1), none]) (by decide) (Nat.le_of_ble_eq_true rfl) 1 rfl ?_
  have he : aTo (aXI e.1 e.2) (aXI e.1 e.2) := aTo.rf
  unfold t_X1_visitorOf at hT
  refine a_aload_n dX1_visitorOf_0 rfl ?_
  refine a_iload_n dX1_visitorOf_1 rfl ?_
  obtain ⟨g3, hT⟩ := oifg hT
  obtain ⟨⟨y6 | y6, h7⟩, e5, hT⟩ := obnd hT
  · dsimp only at hT
    refine a_callV kv_X1_224 g3 (k_X1_getVisitor e5) ⟨Nat.le_of_ble_eq_true rfl, Nat.le_of_ble_eq_true rfl⟩ (As := [.int x0]) (rest := []) rfl rfl (Nat.le_of_ble_eq_true rfl) dX1_visitorOf_2 (kXA ?_) yXA
    refine a_astore_n (lv' := [some (.ref o), some (.int x0), some (.int x1), some (.ref y6)]) dX1_visitorOf_5 rfl (by decide) rfl ?_
    refine a_iload_n dX1_visitorOf_6 rfl ?_
    refine a_iconst (v := 0) dX1_visitorOf_7 (by decide) ?_
    refine a_bipush (v := 8) dX1_visitorOf_8 (by decide) ?_
    obtain ⟨r10, e11, hT⟩ := obnd hT
    refine a_callS ks_X1_3 (k_X1_isIn e11) ⟨Nat.le_of_ble_eq_true rfl, Nat.le_of_ble_eq_true rfl⟩ (As := [.int x1, .int 0, .int 8]) (rest := []) rfl rfl (Nat.le_of_ble_eq_true rfl) dX1_visitorOf_10 (kI ?_) xI
    obtain ⟨⟨y16 | y16, h17⟩, e15, hT⟩ := obnd hT
    · dsimp only at hT
      refine a_callS ks_X1_206 (k_X1_requireArgument e15) ⟨Nat.le_of_ble_eq_true rfl, Nat.le_of_ble_eq_true rfl⟩ (As := [.int r10]) (rest := []) rfl rfl (Nat.le_of_ble_eq_true rfl) dX1_visitorOf_13 (kXV ?_) yXV
      refine a_iload_n dX1_visitorOf_16 rfl ?_
      by_cases c18 : x1 = 0
      · have hT := oifp c18 hT
        refine a_tswIn 64 dX1_visitorOf_17 (by rw [c18]; decide) (by rw [c18]; decide) (off := 47) (by rw [c18]; rfl) rfl ?_
        refine a_aload_n dX1_visitorOf_64 rfl ?_
        obtain ⟨g21, hT⟩ := oifg hT
        obtain ⟨r22, e23, hT⟩ := obnd hT
        refine a_callU ku_X1_228_4 g21 (k_X4_coins_4 e23) ⟨Nat.le_of_ble_eq_true rfl, Nat.le_of_ble_eq_true rfl⟩ (As := []) (rest := []) rfl rfl (Nat.le_of_ble_eq_true rfl) dX1_visitorOf_65 (kI ?_) xI
        obtain rfl := Option.some.inj hT
        exact a_iret rfl rfl dX1_visitorOf_68 (he _ _ ⟨rfl, rfl⟩)
      · have hT := oifn c18 hT
        by_cases c24 : x1 = 1
        · have hT := oifp c24 hT
          refine a_tswIn 69 dX1_visitorOf_17 (by rw [c24]; decide) (by rw [c24]; decide) (off := 52) (by rw [c24]; rfl) rfl ?_
          refine a_aload_n dX1_visitorOf_69 rfl ?_
          obtain ⟨z26, e25, hT⟩ := obnd hT
          refine a_gI fl_X1_229_4 e25 dX1_visitorOf_70 ?_
          obtain rfl := Option.some.inj hT
          exact a_iret rfl rfl dX1_visitorOf_73 (he _ _ ⟨rfl, rfl⟩)
        · have hT := oifn c24 hT
          by_cases c27 : x1 = 2
          · have hT := oifp c27 hT
            refine a_tswIn 74 dX1_visitorOf_17 (by rw [c27]; decide) (by rw [c27]; decide) (off := 57) (by rw [c27]; rfl) rfl ?_
            refine a_aload_n dX1_visitorOf_74 rfl ?_
            obtain ⟨z29, e28, hT⟩ := obnd hT
            refine a_gI fl_X1_232_4 e28 dX1_visitorOf_75 ?_
            obtain rfl := Option.some.inj hT
            exact a_iret rfl rfl dX1_visitorOf_78 (he _ _ ⟨rfl, rfl⟩)
          · have hT := oifn c27 hT
            by_cases c30 : x1 = 3
            · have hT := oifp c30 hT
              refine a_tswIn 79 dX1_visitorOf_17 (by rw [c30]; decide) (by rw [c30]; decide) (off := 62) (by rw [c30]; rfl) rfl ?_
              refine a_aload_n dX1_visitorOf_79 rfl ?_
              obtain ⟨z32, e31, hT⟩ := obnd hT
              refine a_gI fl_X1_234_4 e31 dX1_visitorOf_80 ?_
              obtain rfl := Option.some.inj hT
              exact a_iret rfl rfl dX1_visitorOf_83 (he _ _ ⟨rfl, rfl⟩)
            · have hT := oifn c30 hT
              by_cases c33 : x1 = 4
              · have hT := oifp c33 hT
                refine a_tswIn 84 dX1_visitorOf_17 (by rw [c33]; decide) (by rw [c33]; decide) (off := 67) (by rw [c33]; rfl) rfl ?_
                refine a_aload_n dX1_visitorOf_84 rfl ?_
                obtain ⟨g36, hT⟩ := oifg hT
                obtain ⟨r37, e38, hT⟩ := obnd hT
                refine a_callV kv_X1_237 g36 (k_X6_lost e38) ⟨Nat.le_of_ble_eq_true rfl, Nat.le_of_ble_eq_true rfl⟩ (As := []) (rest := []) rfl rfl (Nat.le_of_ble_eq_true rfl) dX1_visitorOf_85 (kI ?_) xI
                obtain rfl := Option.some.inj hT
                exact a_iret rfl rfl dX1_visitorOf_88 (he _ _ ⟨rfl, rfl⟩)
              · have hT := oifn c33 hT
                by_cases c39 : x1 = 5
                · have hT := oifp c39 hT
                  refine a_tswIn 89 dX1_visitorOf_17 (by rw [c39]; decide) (by rw [c39]; decide) (off := 72) (by rw [c39]; rfl) rfl ?_
                  refine a_aload_n dX1_visitorOf_89 rfl ?_
                  obtain ⟨z41, e40, hT⟩ := obnd hT
                  refine a_gI fl_X1_240_4 e40 dX1_visitorOf_90 ?_
                  obtain rfl := Option.some.inj hT
                  exact a_iret rfl rfl dX1_visitorOf_93 (he _ _ ⟨rfl, rfl⟩)
                · have hT := oifn c39 hT
                  by_cases c42 : x1 = 6
                  · have hT := oifp c42 hT
                    refine a_tswIn 94 dX1_visitorOf_17 (by rw [c42]; decide) (by rw [c42]; decide) (off := 77) (by rw [c42]; rfl) rfl ?_
                    refine a_aload_n dX1_visitorOf_94 rfl ?_
                    obtain ⟨z44, e43, hT⟩ := obnd hT
                    refine a_gI fl_X1_242_4 e43 dX1_visitorOf_95 ?_
                    obtain rfl := Option.some.inj hT
                    exact a_iret rfl rfl dX1_visitorOf_98 (he _ _ ⟨rfl, rfl⟩)
                  · have hT := oifn c42 hT
                    by_cases c45 : x1 = 7
                    · have hT := oifp c45 hT
                      refine a_tswIn 99 dX1_visitorOf_17 (by rw [c45]; decide) (by rw [c45]; decide) (off := 82) (by rw [c45]; rfl) rfl ?_
                      refine a_aload_n dX1_visitorOf_99 rfl ?_
                      obtain ⟨z47, e46, hT⟩ := obnd hT
                      refine a_gI fl_X1_245_4 e46 dX1_visitorOf_100 ?_
                      refine a_if_eq 110 dX1_visitorOf_103 rfl (fun c48 => ?_) (fun c48 => ?_)
                      · have hT := oifp c48 hT
                        refine a_iconst (v := 0) dX1_visitorOf_110 (by decide) ?_
                        obtain rfl := Option.some.inj hT
                        exact a_iret rfl rfl dX1_visitorOf_111 (he _ _ ⟨rfl, rfl⟩)
                      · have hT := oifn c48 hT
                        refine a_iconst (v := 1) dX1_visitorOf_106 (by decide) ?_
                        refine a_goto 111 dX1_visitorOf_107 rfl ?_
                        obtain rfl := Option.some.inj hT
                        exact a_iret rfl rfl dX1_visitorOf_111 (he _ _ ⟨rfl, rfl⟩)
                    · have hT := oifn c45 hT
                      refine aTsw 112 dX1_visitorOf_17 rfl (cs := [0, 1, 2, 3, 4, 5, 6, 7]) (by decide +kernel) (by simp only [List.mem_cons, List.not_mem_nil, or_false]; rintro z9 (rfl | rfl | rfl | rfl | rfl | rfl | rfl | rfl) <;> assumption) ?_
                      refine a_aload_n dX1_visitorOf_112 rfl ?_
                      obtain ⟨g51, hT⟩ := oifg hT
                      obtain ⟨r52, e53, hT⟩ := obnd hT
                      refine a_callV kv_X1_249 g51 (k_X6_isOut e53) ⟨Nat.le_of_ble_eq_true rfl, Nat.le_of_ble_eq_true rfl⟩ (As := []) (rest := []) rfl rfl (Nat.le_of_ble_eq_true rfl) dX1_visitorOf_113 (kI ?_) xI
                      refine a_if_eq 123 dX1_visitorOf_116 rfl (fun c54 => ?_) (fun c54 => ?_)
                      · have hT := oifp c54 hT
                        refine a_iconst (v := 0) dX1_visitorOf_123 (by decide) ?_
                        obtain rfl := Option.some.inj hT
                        exact a_iret rfl rfl dX1_visitorOf_124 (he _ _ ⟨rfl, rfl⟩)
                      · have hT := oifn c54 hT
                        refine a_iconst (v := 1) dX1_visitorOf_119 (by decide) ?_
                        refine a_goto 124 dX1_visitorOf_120 rfl ?_
                        obtain rfl := Option.some.inj hT
                        exact a_iret rfl rfl dX1_visitorOf_124 (he _ _ ⟨rfl, rfl⟩)
    · dsimp only at hT
      refine a_callS ks_X1_206 (k_X1_requireArgument e15) ⟨Nat.le_of_ble_eq_true rfl, Nat.le_of_ble_eq_true rfl⟩ (As := [.int r10]) (rest := []) rfl rfl (Nat.le_of_ble_eq_true rfl) dX1_visitorOf_13 rXV (zXV ?_)
      obtain rfl := Option.some.inj hT
      exact a_out (by decide) (he _ _ ⟨rfl, rfl⟩)
  · dsimp only at hT
    refine a_callV kv_X1_224 g3 (k_X1_getVisitor e5) ⟨Nat.le_of_ble_eq_true rfl, Nat.le_of_ble_eq_true rfl⟩ (As := [.int x0]) (rest := []) rfl rfl (Nat.le_of_ble_eq_true rfl) dX1_visitorOf_2 rXA (zXA ?_)
    obtain rfl := Option.some.inj hT
    exact a_out (by decide) (he _ _ ⟨rfl, rfl⟩)
theorem ks_X1_261 : aKS "MazeBonds" 261 yX1_measure cX1_measure 2 (Option.some Jvm.ClassFile.FieldType.int) 2 := ⟨Or.inl q1107, q1108, q72, q1109, ⟨by decide +kernel, by decide +kernel, by decide +kernel⟩⟩
abbrev M_X1_ranked : aM := (yX1_ranked.cls, cX1_ranked, 7, (Option.some Jvm.ClassFile.FieldType.int), [], yX1_ranked.name)
def p_X1_ranked_b11 (G : aG) (h0 : aH) (K : aRes → aH → Prop) (x9 : (Nat × Int32 × Int32 × Int32 × aH)) : Prop := aW G M_X1_ranked 10 220 h0 K x9.2.2.2.2 11 [some (.ref x9.1), some (.int x9.2.1), some (.int x9.2.2.1), some (.int x9.2.2.2.1), none, none, none] []
def t_X1_ranked_l132 (Z : aZ) (h : aH)  : Option ((Int32 ⊕ aXX) × aH) :=
  (nw Z h (.inr (12, [])) 6).bind fun h21 =>
  if isC 12 h21 h.2.1 = true then
  some (.inr ("java/util/NoSuchElementException", h.2.1), h21)
  else none
theorem k_X1_ranked_l132 {G : aG} {h0 : aH} {K : aRes → aH → Prop} {h : aH}  {e : ((Int32 ⊕ aXX) × aH)} (hT : t_X1_ranked_l132 (gZ G) h  = some e) (he : (fun e => aTo (aXI e.1 e.2) K) e) : aW G M_X1_ranked 10 220 h0 K h 132 [none, none, none, none, none, none, none] [] := by
  unfold t_X1_ranked_l132 at hT
  obtain ⟨h21, e22, hT⟩ := obnd hT
  refine a_make0 mk_X1_19 e22 dX1_ranked_132 dX1_ranked_135 dX1_ranked_136 (by decide) (by decide) ?_
  obtain ⟨g23, hT⟩ := oifg hT
  refine a_athrow (ci := 12) (fs := []) rfl g23 dX1_ranked_139 ?_
  obtain rfl := Option.some.inj hT
  exact a_out (by decide) (he _ _ ⟨rfl, rfl⟩)
def p_X1_ranked_b31 (G : aG) (h0 : aH) (K : aRes → aH → Prop) (x9 : (Nat × Int32 × Int32 × Int32 × Int32 × Int32 × aH)) : Prop := aW G M_X1_ranked 10 220 h0 K x9.2.2.2.2.2.2 31 [some (.ref x9.1), some (.int x9.2.1), some (.int x9.2.2.1), some (.int x9.2.2.2.1), some (.int x9.2.2.2.2.1), some (.int x9.2.2.2.2.2.1), none] []
def t_X1_ranked_l109 (Z : aZ) (h : aH) (v0 : Nat) (v1 : Int32) (v2 : Int32) (v3 : Int32) (v5 : Int32) (u0 : Int32) (u1 : Int32) : Option ((Nat × Int32 × Int32 × Int32 × Int32 × Int32 × aH) ⊕ ((Nat × Int32 × Int32 × Int32 × aH) ⊕ ((Int32 ⊕ aXX) × aH))) :=
  some (.inl (v0, v1, v2, v3, (u1 + u0), (v5 + 1), h))
theorem k_X1_ranked_l109 {G : aG} {h0 : aH} {K : aRes → aH → Prop} {h : aH} {v0 : Nat} {v1 : Int32} {v2 : Int32} {v3 : Int32} {v5 : Int32} {u0 : Int32} {u1 : Int32} {e : ((Nat × Int32 × Int32 × Int32 × Int32 × Int32 × aH) ⊕ ((Nat × Int32 × Int32 × Int32 × aH) ⊕ ((Int32 ⊕ aXX) × aH)))} (hT : t_X1_ranked_l109 (gZ G) h v0 v1 v2 v3 v5 u0 u1 = some e) (he : (Sum.elim (p_X1_ranked_b31 G h0 K) (Sum.elim (p_X1_ranked_b11 G h0 K) (fun e => aTo (aXI e.1 e.2) K))) e) : aW G M_X1_ranked 10 220 h0 K h 109 [some (.ref v0), some (.int v1), some (.int v2), some (.int v3), none, some (.int v5), none] [.int u0, .int u1] := by
  unfold t_X1_ranked_l109 at hT
  refine a_iadd dX1_ranked_109 ?_
  refine a_istore (lv' := [some (.ref v0), some (.int v1), some (.int v2), some (.int v3), some (.int (u1 + u0)), some (.int v5), none]) dX1_ranked_110 rfl (by decide) rfl ?_
  refine a_iinc (v := (v5 + 1)) (lv' := [some (.ref v0), some (.int v1), some (.int v2), some (.int v3), some (.int (u1 + u0)), some (.int (v5 + 1)), none]) dX1_ranked_112 rfl (by rfl) rfl (by decide) rfl ?_
  refine a_goto 31 dX1_ranked_115 rfl ?_
  obtain rfl := Option.some.inj hT
  exact he
def t_X1_ranked_l104 (Z : aZ) (h : aH) (v0 : Nat) (v1 : Int32) (v2 : Int32) (v3 : Int32) (v5 : Int32) (u0 : Int32) : Option ((Nat × Int32 × Int32 × Int32 × Int32 × Int32 × aH) ⊕ ((Nat × Int32 × Int32 × Int32 × aH) ⊕ ((Int32 ⊕ aXX) × aH))) :=
  t_X1_ranked_l109 Z h v0 v1 v2 v3 v5 1 u0
theorem k_X1_ranked_l104 {G : aG} {h0 : aH} {K : aRes → aH → Prop} {h : aH} {v0 : Nat} {v1 : Int32} {v2 : Int32} {v3 : Int32} {v5 : Int32} {u0 : Int32} {e : ((Nat × Int32 × Int32 × Int32 × Int32 × Int32 × aH) ⊕ ((Nat × Int32 × Int32 × Int32 × aH) ⊕ ((Int32 ⊕ aXX) × aH)))} (hT : t_X1_ranked_l104 (gZ G) h v0 v1 v2 v3 v5 u0 = some e) (he : (Sum.elim (p_X1_ranked_b31 G h0 K) (Sum.elim (p_X1_ranked_b11 G h0 K) (fun e => aTo (aXI e.1 e.2) K))) e) : aW G M_X1_ranked 10 220 h0 K h 104 [some (.ref v0), some (.int v1), some (.int v2), some (.int v3), none, some (.int v5), none] [.int u0] := by
  unfold t_X1_ranked_l104 at hT
  refine a_iconst (v := 1) dX1_ranked_104 (by decide) ?_
  refine a_goto 109 dX1_ranked_105 rfl ?_
  exact k_X1_ranked_l109 hT he
def t_X1_ranked_l108 (Z : aZ) (h : aH) (v0 : Nat) (v1 : Int32) (v2 : Int32) (v3 : Int32) (v5 : Int32) (u0 : Int32) : Option ((Nat × Int32 × Int32 × Int32 × Int32 × Int32 × aH) ⊕ ((Nat × Int32 × Int32 × Int32 × aH) ⊕ ((Int32 ⊕ aXX) × aH))) :=
  t_X1_ranked_l109 Z h v0 v1 v2 v3 v5 0 u0
theorem k_X1_ranked_l108 {G : aG} {h0 : aH} {K : aRes → aH → Prop} {h : aH} {v0 : Nat} {v1 : Int32} {v2 : Int32} {v3 : Int32} {v5 : Int32} {u0 : Int32} {e : ((Nat × Int32 × Int32 × Int32 × Int32 × Int32 × aH) ⊕ ((Nat × Int32 × Int32 × Int32 × aH) ⊕ ((Int32 ⊕ aXX) × aH)))} (hT : t_X1_ranked_l108 (gZ G) h v0 v1 v2 v3 v5 u0 = some e) (he : (Sum.elim (p_X1_ranked_b31 G h0 K) (Sum.elim (p_X1_ranked_b11 G h0 K) (fun e => aTo (aXI e.1 e.2) K))) e) : aW G M_X1_ranked 10 220 h0 K h 108 [some (.ref v0), some (.int v1), some (.int v2), some (.int v3), none, some (.int v5), none] [.int u0] := by
  unfold t_X1_ranked_l108 at hT
  refine a_iconst (v := 0) dX1_ranked_108 (by decide) ?_
  exact k_X1_ranked_l109 hT he
def t_X1_ranked_b31 (Z : aZ) : (Nat × Int32 × Int32 × Int32 × Int32 × Int32 × aH) → Option ((Nat × Int32 × Int32 × Int32 × Int32 × Int32 × aH) ⊕ ((Nat × Int32 × Int32 × Int32 × aH) ⊕ ((Int32 ⊕ aXX) × aH))) := fun (v0, v1, v2, v3, v4, v5, h) =>
  (gA 0 0 h v0).bind fun a25 =>
  (gA 1 2 h a25).bind fun a27 =>
  if isC 8 h a27 = true then
  (t_J2_size Z h a27).bind fun r31 =>
  if r31.1 ≤ v5 then
    if v4 = v2 then
      some (.inr (.inr ((.inl v3, r31.2))))
    else
      some (.inr (.inl (v0, v1, v2, (v3 + 1), r31.2)))
  else
    (gA 0 0 r31.2 v0).bind fun a36 =>
    (gA 1 2 r31.2 a36).bind fun a38 =>
    if isC 8 r31.2 a38 = true then
    (t_J2_get Z r31.2 a38 v5).bind fun r42 =>
    if isC 4 r42.2 r42.1 = true then
    (t_X1_measure Z r42.2 v1 r42.1).bind fun r47 =>
    (gA 0 0 r47.2 v0).bind fun a50 =>
    (gA 1 2 r47.2 a50).bind fun a52 =>
    if isC 8 r47.2 a52 = true then
    (t_J2_get Z r47.2 a52 v3).bind fun r56 =>
    if isC 4 r56.2 r56.1 = true then
    (t_X1_measure Z r56.2 v1 r56.1).bind fun r61 =>
    if 0 < (r47.1 - r61.1) then
      t_X1_ranked_l104 Z r61.2 v0 v1 v2 v3 v5 v4
    else
      if (r47.1 - r61.1) = 0 then
        if v3 ≤ v5 then
          t_X1_ranked_l108 Z r61.2 v0 v1 v2 v3 v5 v4
        else
          t_X1_ranked_l104 Z r61.2 v0 v1 v2 v3 v5 v4
      else
        t_X1_ranked_l108 Z r61.2 v0 v1 v2 v3 v5 v4
    else none
    else none
    else none
    else none
  else none
theorem kb_X1_ranked_b31 {G : aG} {h0 : aH} {K : aRes → aH → Prop} : ∀ (x9 : (Nat × Int32 × Int32 × Int32 × Int32 × Int32 × aH)) (e : ((Nat × Int32 × Int32 × Int32 × Int32 × Int32 × aH) ⊕ ((Nat × Int32 × Int32 × Int32 × aH) ⊕ ((Int32 ⊕ aXX) × aH)))), t_X1_ranked_b31 (gZ G) x9 = some e → (Sum.elim (p_X1_ranked_b31 G h0 K) (Sum.elim (p_X1_ranked_b11 G h0 K) (fun e => aTo (aXI e.1 e.2) K))) e → p_X1_ranked_b31 G h0 K x9 := by
  intro x9 e hT he
  obtain ⟨v0, v1, v2, v3, v4, v5, h⟩ := x9
  unfold p_X1_ranked_b31
  unfold t_X1_ranked_b31 at hT
  show aW G M_X1_ranked 10 220 h0 K h 31 [some (.ref v0), some (.int v1), some (.int v2), some (.int v3), some (.int v4), some (.int v5), none] []
  dsimp only at hT
  refine a_iload dX1_ranked_31 rfl ?_
  refine a_aload_n dX1_ranked_33 rfl ?_
  obtain ⟨a25, e24, hT⟩ := obnd hT
  refine a_gA fl_X1_49_0 e24 dX1_ranked_34 ?_
  obtain ⟨a27, e26, hT⟩ := obnd hT
  refine a_gA fl_X1_197_1 e26 dX1_ranked_37 ?_
  obtain ⟨g30, hT⟩ := oifg hT
  obtain ⟨r31, e32, hT⟩ := obnd hT
  refine a_callV kv_X1_82 g30 (k_J2_size e32) ⟨Nat.le_of_ble_eq_true rfl, Nat.le_of_ble_eq_true rfl⟩ (As := []) (rest := [.int v5]) rfl rfl (Nat.le_of_ble_eq_true rfl) dX1_ranked_40 (kI ?_) xI
  refine a_icmp_ge 118 dX1_ranked_43 rfl (fun c33 => ?_) (fun c33 => ?_)
  · have hT := oifp c33 hT
    refine a_iload dX1_ranked_118 rfl ?_
    refine a_iload_n dX1_ranked_120 rfl ?_
    refine a_icmp_ne 126 dX1_ranked_121 rfl (fun c34 => ?_) (fun c34 => ?_)
    · have hT := oifn c34 hT
      refine a_iinc (v := (v3 + 1)) (lv' := [some (.ref v0), some (.int v1), some (.int v2), some (.int (v3 + 1)), some (.int v4), some (.int v5), none]) dX1_ranked_126 rfl (by rfl) rfl (by decide) rfl ?_
      refine a_goto 11 dX1_ranked_129 rfl ?_
      obtain rfl := Option.some.inj hT
      refine a_mask [true, true, true, true, false, false, true] ?_
      exact he
    · have hT := oifp c34 hT
      refine a_iload_n dX1_ranked_124 rfl ?_
      obtain rfl := Option.some.inj hT
      exact a_iret rfl rfl dX1_ranked_125 (he _ _ ⟨rfl, rfl⟩)
  · have hT := oifn c33 hT
    refine a_iload_n dX1_ranked_46 rfl ?_
    refine a_aload_n dX1_ranked_47 rfl ?_
    obtain ⟨a36, e35, hT⟩ := obnd hT
    refine a_gA fl_X1_49_0 e35 dX1_ranked_48 ?_
    obtain ⟨a38, e37, hT⟩ := obnd hT
    refine a_gA fl_X1_197_1 e37 dX1_ranked_51 ?_
    refine a_iload dX1_ranked_54 rfl ?_
    obtain ⟨g41, hT⟩ := oifg hT
    obtain ⟨r42, e43, hT⟩ := obnd hT
    refine a_callV kv_X1_189 g41 (k_J2_get e43) ⟨Nat.le_of_ble_eq_true rfl, Nat.le_of_ble_eq_true rfl⟩ (As := [.int v5]) (rest := [.int v1]) rfl rfl (Nat.le_of_ble_eq_true rfl) dX1_ranked_56 (kA ?_) xA
    obtain ⟨g44, hT⟩ := oifg hT
    refine a_cast (ci := 4) rfl q1073 g44 dX1_ranked_59 ?_
    obtain ⟨r47, e48, hT⟩ := obnd hT
    refine a_callS ks_X1_261 (k_X1_measure e48) ⟨Nat.le_of_ble_eq_true rfl, Nat.le_of_ble_eq_true rfl⟩ (As := [.int v1, .ref r42.1]) (rest := []) rfl rfl (Nat.le_of_ble_eq_true rfl) dX1_ranked_62 (kI ?_) xI
    refine a_iload_n dX1_ranked_65 rfl ?_
    refine a_aload_n dX1_ranked_66 rfl ?_
    obtain ⟨a50, e49, hT⟩ := obnd hT
    refine a_gA fl_X1_49_0 e49 dX1_ranked_67 ?_
    obtain ⟨a52, e51, hT⟩ := obnd hT
    refine a_gA fl_X1_197_1 e51 dX1_ranked_70 ?_
    refine a_iload_n dX1_ranked_73 rfl ?_
    obtain ⟨g55, hT⟩ := oifg hT
    obtain ⟨r56, e57, hT⟩ := obnd hT
    refine a_callV kv_X1_189 g55 (k_J2_get e57) ⟨Nat.le_of_ble_eq_true rfl, Nat.le_of_ble_eq_true rfl⟩ (As := [.int v3]) (rest := [.int v1, .int r47.1]) rfl rfl (Nat.le_of_ble_eq_true rfl) dX1_ranked_74 (kA ?_) xA
    obtain ⟨g58, hT⟩ := oifg hT
    refine a_cast (ci := 4) rfl q1073 g58 dX1_ranked_77 ?_
    obtain ⟨r61, e62, hT⟩ := obnd hT
    refine a_callS ks_X1_261 (k_X1_measure e62) ⟨Nat.le_of_ble_eq_true rfl, Nat.le_of_ble_eq_true rfl⟩ (As := [.int v1, .ref r56.1]) (rest := [.int r47.1]) rfl rfl (Nat.le_of_ble_eq_true rfl) dX1_ranked_80 (kI ?_) xI
    refine a_isub dX1_ranked_83 ?_
    refine a_istore (lv' := [some (.ref v0), some (.int v1), some (.int v2), some (.int v3), some (.int v4), some (.int v5), some (.int (r47.1 - r61.1))]) dX1_ranked_84 rfl (by decide) rfl ?_
    refine a_iload dX1_ranked_86 rfl ?_
    refine a_iload dX1_ranked_88 rfl ?_
    refine a_if_gt 104 dX1_ranked_90 rfl (fun c63 => ?_) (fun c63 => ?_)
    · have hT := oifp c63 hT
      refine a_mask [true, true, true, true, false, true, false] ?_
      exact k_X1_ranked_l104 hT he
    · have hT := oifn c63 hT
      refine a_iload dX1_ranked_93 rfl ?_
      refine a_if_ne 108 dX1_ranked_95 rfl (fun c64 => ?_) (fun c64 => ?_)
      · have hT := oifn c64 hT
        refine a_mask [true, true, true, true, false, true, false] ?_
        exact k_X1_ranked_l108 hT he
      · have hT := oifp c64 hT
        refine a_iload dX1_ranked_98 rfl ?_
        refine a_iload_n dX1_ranked_100 rfl ?_
        refine a_icmp_ge 108 dX1_ranked_101 rfl (fun c65 => ?_) (fun c65 => ?_)
        · have hT := oifp c65 hT
          refine a_mask [true, true, true, true, false, true, false] ?_
          exact k_X1_ranked_l108 hT he
        · have hT := oifn c65 hT
          refine a_mask [true, true, true, true, false, true, false] ?_
          exact k_X1_ranked_l104 hT he
theorem k_X1_ranked_b31 {G : aG} {h0 : aH} {K : aRes → aH → Prop} {n9 : Nat} {x9 : (Nat × Int32 × Int32 × Int32 × Int32 × Int32 × aH)} {e : ((Nat × Int32 × Int32 × Int32 × aH) ⊕ ((Int32 ⊕ aXX) × aH))} (hT : wlo (t_X1_ranked_b31 (gZ G)) n9 x9 = some e) (he : (Sum.elim (p_X1_ranked_b11 G h0 K) (fun e => aTo (aXI e.1 e.2) K)) e) : p_X1_ranked_b31 G h0 K x9 := wlo_W kb_X1_ranked_b31 n9 x9 e hT he
def t_X1_ranked_b11 (Z : aZ) : (Nat × Int32 × Int32 × Int32 × aH) → Option ((Nat × Int32 × Int32 × Int32 × aH) ⊕ ((Int32 ⊕ aXX) × aH)) := fun (v0, v1, v2, v3, h) =>
  (gA 0 0 h v0).bind fun a12 =>
  (gA 1 2 h a12).bind fun a14 =>
  if isC 8 h a14 = true then
  (t_J2_size Z h a14).bind fun r18 =>
  if r18.1 ≤ v3 then
    (t_X1_ranked_l132 Z r18.2).map .inr
  else
    wlo (t_X1_ranked_b31 Z) 100 (v0, v1, v2, v3, 0, 0, r18.2)
  else none
theorem kb_X1_ranked_b11 {G : aG} {h0 : aH} {K : aRes → aH → Prop} : ∀ (x9 : (Nat × Int32 × Int32 × Int32 × aH)) (e : ((Nat × Int32 × Int32 × Int32 × aH) ⊕ ((Int32 ⊕ aXX) × aH))), t_X1_ranked_b11 (gZ G) x9 = some e → (Sum.elim (p_X1_ranked_b11 G h0 K) (fun e => aTo (aXI e.1 e.2) K)) e → p_X1_ranked_b11 G h0 K x9 := by
  intro x9 e hT he
  obtain ⟨v0, v1, v2, v3, h⟩ := x9
  unfold p_X1_ranked_b11
  unfold t_X1_ranked_b11 at hT
  show aW G M_X1_ranked 10 220 h0 K h 11 [some (.ref v0), some (.int v1), some (.int v2), some (.int v3), none, none, none] []
  dsimp only at hT
  refine a_iload_n dX1_ranked_11 rfl ?_
  refine a_aload_n dX1_ranked_12 rfl ?_
  obtain ⟨a12, e11, hT⟩ := obnd hT
  refine a_gA fl_X1_49_0 e11 dX1_ranked_13 ?_
  obtain ⟨a14, e13, hT⟩ := obnd hT
  refine a_gA fl_X1_197_1 e13 dX1_ranked_16 ?_
  obtain ⟨g17, hT⟩ := oifg hT
  obtain ⟨r18, e19, hT⟩ := obnd hT
  refine a_callV kv_X1_82 g17 (k_J2_size e19) ⟨Nat.le_of_ble_eq_true rfl, Nat.le_of_ble_eq_true rfl⟩ (As := []) (rest := [.int v3]) rfl rfl (Nat.le_of_ble_eq_true rfl) dX1_ranked_19 (kI ?_) xI
  refine a_icmp_ge 132 dX1_ranked_22 rfl (fun c20 => ?_) (fun c20 => ?_)
  · have hT := oifp c20 hT
    refine a_mask [false, false, false, false, true, true, true] ?_
    obtain ⟨e8, hT8, rfl⟩ := omap hT
    exact k_X1_ranked_l132 hT8 he
  · have hT := oifn c20 hT
    refine a_iconst (v := 0) dX1_ranked_25 (by decide) ?_
    refine a_istore (lv' := [some (.ref v0), some (.int v1), some (.int v2), some (.int v3), some (.int 0), none, none]) dX1_ranked_26 rfl (by decide) rfl ?_
    refine a_iconst (v := 0) dX1_ranked_28 (by decide) ?_
    refine a_istore (lv' := [some (.ref v0), some (.int v1), some (.int v2), some (.int v3), some (.int 0), some (.int 0), none]) dX1_ranked_29 rfl (by decide) rfl ?_
    exact k_X1_ranked_b31 hT he
theorem k_X1_ranked_b11 {G : aG} {h0 : aH} {K : aRes → aH → Prop} {n9 : Nat} {x9 : (Nat × Int32 × Int32 × Int32 × aH)} {e : ((Int32 ⊕ aXX) × aH)} (hT : wlo (t_X1_ranked_b11 (gZ G)) n9 x9 = some e) (he : (fun e => aTo (aXI e.1 e.2) K) e) : p_X1_ranked_b11 G h0 K x9 := wlo_W kb_X1_ranked_b11 n9 x9 e hT he
def t_X1_ranked (Z : aZ) (h : aH) (o : Nat) (x0 : Int32) (x1 : Int32) : Option ((Int32 ⊕ aXX) × aH) :=
  (t_X1_isIn x0 0 3).bind fun r3 =>
  (t_X1_requireArgument Z h r3).bind fun r7 =>
  (match r7 with
  | (.inl y9, h10) =>
    wlo (t_X1_ranked_b11 Z) 100 (o, x0, x1, 0, h10)
  | (.inr y9, h10) =>
    some (.inr y9, h10)
  )
theorem k_X1_ranked {G : aG} {h : aH} {o : Nat} {x0 : Int32} {x1 : Int32} {e : ((Int32 ⊕ aXX) × aH)} (hT : t_X1_ranked (gZ G) h o x0 x1 = some e) : aMet G yX1_ranked (ws_ yX1_ranked cX1_ranked 7 (Option.some Jvm.ClassFile.FieldType.int)) 10 220 [.ref o, .int x0, .int x1] h (aXI e.1 e.2) := by
  refine aMet.of (lv := [some (.ref o), some (.int x0), some (.int x1), none, none, none, none]) (by decide) (Nat.le_of_ble_eq_true rfl) 4 rfl ?_
  have he : aTo (aXI e.1 e.2) (aXI e.1 e.2) := aTo.rf
  unfold t_X1_ranked at hT
  refine a_iload_n dX1_ranked_0 rfl ?_
  refine a_iconst (v := 0) dX1_ranked_1 (by decide) ?_
  refine a_iconst (v := 3) dX1_ranked_2 (by decide) ?_
  obtain ⟨r3, e4, hT⟩ := obnd hT
  refine a_callS ks_X1_3 (k_X1_isIn e4) ⟨Nat.le_of_ble_eq_true rfl, Nat.le_of_ble_eq_true rfl⟩ (As := [.int x0, .int 0, .int 3]) (rest := []) rfl rfl (Nat.le_of_ble_eq_true rfl) dX1_ranked_3 (kI ?_) xI
  obtain ⟨⟨y9 | y9, h10⟩, e8, hT⟩ := obnd hT
  · dsimp only at hT
    refine a_callS ks_X1_206 (k_X1_requireArgument e8) ⟨Nat.le_of_ble_eq_true rfl, Nat.le_of_ble_eq_true rfl⟩ (As := [.int r3]) (rest := []) rfl rfl (Nat.le_of_ble_eq_true rfl) dX1_ranked_6 (kXV ?_) yXV
    refine a_iconst (v := 0) dX1_ranked_9 (by decide) ?_
    refine a_istore_n (lv' := [some (.ref o), some (.int x0), some (.int x1), some (.int 0), none, none, none]) dX1_ranked_10 rfl (by decide) rfl ?_
    exact k_X1_ranked_b11 hT he
  · dsimp only at hT
    refine a_callS ks_X1_206 (k_X1_requireArgument e8) ⟨Nat.le_of_ble_eq_true rfl, Nat.le_of_ble_eq_true rfl⟩ (As := [.int r3]) (rest := []) rfl rfl (Nat.le_of_ble_eq_true rfl) dX1_ranked_6 rXV (zXV ?_)
    obtain rfl := Option.some.inj hT
    exact a_out (by decide) (he _ _ ⟨rfl, rfl⟩)
theorem fl_X1_320_1 : aFL "MazeBonds" 320 1 3 := ⟨RX2, TX2, 7, "MazeBonds$Core", rfl, in_X2, by decide, Or.inl rfl, Or.inr ⟨_, q164⟩⟩
theorem kv_X1_322 : aKV "MazeBonds" 322 1 yX2_in cX2_in 5 (Option.some Jvm.ClassFile.FieldType.int) 1 := ⟨⟨TX2, 7, rfl⟩, Or.inl q1590, q1591, q1592, q73, q1593, ⟨by decide +kernel, by decide +kernel, by decide +kernel⟩⟩
abbrev M_X1_row : aM := (yX1_row.cls, cX1_row, 3, (Option.some Jvm.ClassFile.FieldType.int), [], yX1_row.name)
def p_X1_row_b21 (G : aG) (h0 : aH) (K : aRes → aH → Prop) (x9 : (Nat × Int32 × Int32 × aH)) : Prop := aW G M_X1_row 10 220 h0 K x9.2.2.2 21 [some (.ref x9.1), some (.int x9.2.1), some (.int x9.2.2.1)] []
def t_X1_row_l107 (Z : aZ) (h : aH) (v0 : Nat) : Option ((Int32 ⊕ aXX) × aH) :=
  (gA 0 7 h v0).bind fun a20 =>
  if isC 10 h a20 = true then
  (t_J4_length Z h a20).bind fun r24 =>
  some (.inl r24.1, r24.2)
  else none
theorem k_X1_row_l107 {G : aG} {h0 : aH} {K : aRes → aH → Prop} {h : aH} {v0 : Nat} {e : ((Int32 ⊕ aXX) × aH)} (hT : t_X1_row_l107 (gZ G) h v0 = some e) (he : (fun e => aTo (aXI e.1 e.2) K) e) : aW G M_X1_row 10 220 h0 K h 107 [some (.ref v0), none, none] [] := by
  unfold t_X1_row_l107 at hT
  refine a_aload_n dX1_row_107 rfl ?_
  obtain ⟨a20, e19, hT⟩ := obnd hT
  refine a_gA fl_X1_71_0 e19 dX1_row_108 ?_
  obtain ⟨g23, hT⟩ := oifg hT
  obtain ⟨r24, e25, hT⟩ := obnd hT
  refine a_callV kv_X1_317 g23 (k_J4_length e25) ⟨Nat.le_of_ble_eq_true rfl, Nat.le_of_ble_eq_true rfl⟩ (As := []) (rest := []) rfl rfl (Nat.le_of_ble_eq_true rfl) dX1_row_111 (kI ?_) xI
  obtain rfl := Option.some.inj hT
  exact a_iret rfl rfl dX1_row_114 (he _ _ ⟨rfl, rfl⟩)
def t_X1_row_l97 (Z : aZ) (h : aH) (v0 : Nat) (v1 : Int32) (v2 : Int32) (u0 : Int32) (u1 : Nat) : Option ((Nat × Int32 × Int32 × aH) ⊕ ((Int32 ⊕ aXX) × aH)) :=
  if isC 10 h u1 = true then
  (t_J4_append_3 Z h u1 u0).bind fun r44 =>
  some (.inl (v0, v1, (v2 + 1), r44.2))
  else none
theorem k_X1_row_l97 {G : aG} {h0 : aH} {K : aRes → aH → Prop} {h : aH} {v0 : Nat} {v1 : Int32} {v2 : Int32} {u0 : Int32} {u1 : Nat} {e : ((Nat × Int32 × Int32 × aH) ⊕ ((Int32 ⊕ aXX) × aH))} (hT : t_X1_row_l97 (gZ G) h v0 v1 v2 u0 u1 = some e) (he : (Sum.elim (p_X1_row_b21 G h0 K) (fun e => aTo (aXI e.1 e.2) K)) e) : aW G M_X1_row 10 220 h0 K h 97 [some (.ref v0), some (.int v1), some (.int v2)] [.int u0, .ref u1] := by
  unfold t_X1_row_l97 at hT
  obtain ⟨g43, hT⟩ := oifg hT
  obtain ⟨r44, e45, hT⟩ := obnd hT
  refine a_callV kv_X1_310 g43 (k_J4_append_3 e45) ⟨Nat.le_of_ble_eq_true rfl, Nat.le_of_ble_eq_true rfl⟩ (As := [.int u0]) (rest := []) rfl rfl (Nat.le_of_ble_eq_true rfl) dX1_row_97 (kA ?_) xA
  refine a_pop dX1_row_100 rfl ?_
  refine a_iinc (v := (v2 + 1)) (lv' := [some (.ref v0), some (.int v1), some (.int (v2 + 1))]) dX1_row_101 rfl (by rfl) rfl (by decide) rfl ?_
  refine a_goto 21 dX1_row_104 rfl ?_
  obtain rfl := Option.some.inj hT
  exact he
def t_X1_row_l65 (Z : aZ) (h : aH) (v0 : Nat) (v1 : Int32) (v2 : Int32) : Option ((Nat × Int32 × Int32 × aH) ⊕ ((Int32 ⊕ aXX) × aH)) :=
  (gA 0 7 h v0).bind fun a28 =>
  (gA 0 0 h v0).bind fun a30 =>
  (gI 1 3 h a30).bind fun z32 =>
  if v2 = z32 then
    t_X1_row_l97 Z h v0 v1 v2 77 a28
  else
    (gA 0 0 h v0).bind fun a35 =>
    if isC 1 h a35 = true then
    (t_X2_in Z h a35 v2).bind fun r39 =>
    t_X1_row_l97 Z r39.2 v0 v1 v2 ((((48 + r39.1) : Int32).toUInt32 % 65536).toInt32) a28
    else none
theorem k_X1_row_l65 {G : aG} {h0 : aH} {K : aRes → aH → Prop} {h : aH} {v0 : Nat} {v1 : Int32} {v2 : Int32} {e : ((Nat × Int32 × Int32 × aH) ⊕ ((Int32 ⊕ aXX) × aH))} (hT : t_X1_row_l65 (gZ G) h v0 v1 v2 = some e) (he : (Sum.elim (p_X1_row_b21 G h0 K) (fun e => aTo (aXI e.1 e.2) K)) e) : aW G M_X1_row 10 220 h0 K h 65 [some (.ref v0), some (.int v1), some (.int v2)] [] := by
  unfold t_X1_row_l65 at hT
  refine a_aload_n dX1_row_65 rfl ?_
  obtain ⟨a28, e27, hT⟩ := obnd hT
  refine a_gA fl_X1_71_0 e27 dX1_row_66 ?_
  refine a_iload_n dX1_row_69 rfl ?_
  refine a_aload_n dX1_row_70 rfl ?_
  obtain ⟨a30, e29, hT⟩ := obnd hT
  refine a_gA fl_X1_49_0 e29 dX1_row_71 ?_
  obtain ⟨z32, e31, hT⟩ := obnd hT
  refine a_gI fl_X1_320_1 e31 dX1_row_74 ?_
  refine a_icmp_ne 85 dX1_row_77 rfl (fun c33 => ?_) (fun c33 => ?_)
  · have hT := oifn c33 hT
    refine a_bipush (v := 48) dX1_row_85 (by decide) ?_
    refine a_aload_n dX1_row_87 rfl ?_
    obtain ⟨a35, e34, hT⟩ := obnd hT
    refine a_gA fl_X1_49_0 e34 dX1_row_88 ?_
    refine a_iload_n dX1_row_91 rfl ?_
    obtain ⟨g38, hT⟩ := oifg hT
    obtain ⟨r39, e40, hT⟩ := obnd hT
    refine a_callV kv_X1_322 g38 (k_X2_in e40) ⟨Nat.le_of_ble_eq_true rfl, Nat.le_of_ble_eq_true rfl⟩ (As := [.int v2]) (rest := [.int 48, .ref a28]) rfl rfl (Nat.le_of_ble_eq_true rfl) dX1_row_92 (kI ?_) xI
    refine a_iadd dX1_row_95 ?_
    refine a_i2c dX1_row_96 ?_
    exact k_X1_row_l97 hT he
  · have hT := oifp c33 hT
    refine a_bipush (v := 77) dX1_row_80 (by decide) ?_
    refine a_goto 97 dX1_row_82 rfl ?_
    exact k_X1_row_l97 hT he
def t_X1_row_l61 (Z : aZ) (h : aH) (v0 : Nat) (v1 : Int32) (v2 : Int32) (u0 : Int32) (u1 : Nat) : Option ((Nat × Int32 × Int32 × aH) ⊕ ((Int32 ⊕ aXX) × aH)) :=
  if isC 10 h u1 = true then
  (t_J4_append_3 Z h u1 u0).bind fun r59 =>
  t_X1_row_l65 Z r59.2 v0 v1 v2
  else none
theorem k_X1_row_l61 {G : aG} {h0 : aH} {K : aRes → aH → Prop} {h : aH} {v0 : Nat} {v1 : Int32} {v2 : Int32} {u0 : Int32} {u1 : Nat} {e : ((Nat × Int32 × Int32 × aH) ⊕ ((Int32 ⊕ aXX) × aH))} (hT : t_X1_row_l61 (gZ G) h v0 v1 v2 u0 u1 = some e) (he : (Sum.elim (p_X1_row_b21 G h0 K) (fun e => aTo (aXI e.1 e.2) K)) e) : aW G M_X1_row 10 220 h0 K h 61 [some (.ref v0), some (.int v1), some (.int v2)] [.int u0, .ref u1] := by
  unfold t_X1_row_l61 at hT
  obtain ⟨g58, hT⟩ := oifg hT
  obtain ⟨r59, e60, hT⟩ := obnd hT
  refine a_callV kv_X1_310 g58 (k_J4_append_3 e60) ⟨Nat.le_of_ble_eq_true rfl, Nat.le_of_ble_eq_true rfl⟩ (As := [.int u0]) (rest := []) rfl rfl (Nat.le_of_ble_eq_true rfl) dX1_row_61 (kA ?_) xA
  refine a_pop dX1_row_64 rfl ?_
  exact k_X1_row_l65 hT he
def t_X1_row_b21 (Z : aZ) : (Nat × Int32 × Int32 × aH) → Option ((Nat × Int32 × Int32 × aH) ⊕ ((Int32 ⊕ aXX) × aH)) := fun (v0, v1, v2, h) =>
  if (4 * (v1 + 1)) ≤ v2 then
    (t_X1_row_l107 Z h v0).map .inr
  else
    if (v2 - v2 / 4 * 4) ≤ 0 then
      t_X1_row_l65 Z h v0 v1 v2
    else
      (gA 0 7 h v0).bind fun a47 =>
      (gA 0 0 h v0).bind fun a49 =>
      if isC 1 h a49 = true then
      (t_X2_isGap Z h a49 (v2 - 1) v2).bind fun r53 =>
      if r53.1 = 0 then
        t_X1_row_l61 Z r53.2 v0 v1 v2 124 a47
      else
        t_X1_row_l61 Z r53.2 v0 v1 v2 32 a47
      else none
theorem kb_X1_row_b21 {G : aG} {h0 : aH} {K : aRes → aH → Prop} : ∀ (x9 : (Nat × Int32 × Int32 × aH)) (e : ((Nat × Int32 × Int32 × aH) ⊕ ((Int32 ⊕ aXX) × aH))), t_X1_row_b21 (gZ G) x9 = some e → (Sum.elim (p_X1_row_b21 G h0 K) (fun e => aTo (aXI e.1 e.2) K)) e → p_X1_row_b21 G h0 K x9 := by
  intro x9 e hT he
  obtain ⟨v0, v1, v2, h⟩ := x9
  unfold p_X1_row_b21
  unfold t_X1_row_b21 at hT
  show aW G M_X1_row 10 220 h0 K h 21 [some (.ref v0), some (.int v1), some (.int v2)] []
  dsimp only at hT
  refine a_iload_n dX1_row_21 rfl ?_
  refine a_iconst (v := 4) dX1_row_22 (by decide) ?_
  refine a_iload_n dX1_row_23 rfl ?_
  refine a_iconst (v := 1) dX1_row_24 (by decide) ?_
  refine a_iadd dX1_row_25 ?_
  refine a_imul dX1_row_26 ?_
  refine a_icmp_ge 107 dX1_row_27 rfl (fun c18 => ?_) (fun c18 => ?_)
  · have hT := oifp c18 hT
    refine a_mask [true, false, false] ?_
    obtain ⟨e8, hT8, rfl⟩ := omap hT
    exact k_X1_row_l107 hT8 he
  · have hT := oifn c18 hT
    refine a_iload_n dX1_row_30 rfl ?_
    refine a_iconst (v := 4) dX1_row_31 (by decide) ?_
    refine a_irem dX1_row_32 (by decide) ?_
    refine a_if_le 65 dX1_row_33 rfl (fun c26 => ?_) (fun c26 => ?_)
    · have hT := oifp c26 hT
      exact k_X1_row_l65 hT he
    · have hT := oifn c26 hT
      refine a_aload_n dX1_row_36 rfl ?_
      obtain ⟨a47, e46, hT⟩ := obnd hT
      refine a_gA fl_X1_71_0 e46 dX1_row_37 ?_
      refine a_aload_n dX1_row_40 rfl ?_
      obtain ⟨a49, e48, hT⟩ := obnd hT
      refine a_gA fl_X1_49_0 e48 dX1_row_41 ?_
      refine a_iload_n dX1_row_44 rfl ?_
      refine a_iconst (v := 1) dX1_row_45 (by decide) ?_
      refine a_isub dX1_row_46 ?_
      refine a_iload_n dX1_row_47 rfl ?_
      obtain ⟨g52, hT⟩ := oifg hT
      obtain ⟨r53, e54, hT⟩ := obnd hT
      refine a_callV kv_X1_160 g52 (k_X2_isGap e54) ⟨Nat.le_of_ble_eq_true rfl, Nat.le_of_ble_eq_true rfl⟩ (As := [.int (v2 - 1), .int v2]) (rest := [.ref a47]) rfl rfl (Nat.le_of_ble_eq_true rfl) dX1_row_48 (kI ?_) xI
      refine a_if_eq 59 dX1_row_51 rfl (fun c55 => ?_) (fun c55 => ?_)
      · have hT := oifp c55 hT
        refine a_bipush (v := 124) dX1_row_59 (by decide) ?_
        exact k_X1_row_l61 hT he
      · have hT := oifn c55 hT
        refine a_bipush (v := 32) dX1_row_54 (by decide) ?_
        refine a_goto 61 dX1_row_56 rfl ?_
        exact k_X1_row_l61 hT he
theorem k_X1_row_b21 {G : aG} {h0 : aH} {K : aRes → aH → Prop} {n9 : Nat} {x9 : (Nat × Int32 × Int32 × aH)} {e : ((Int32 ⊕ aXX) × aH)} (hT : wlo (t_X1_row_b21 (gZ G)) n9 x9 = some e) (he : (fun e => aTo (aXI e.1 e.2) K) e) : p_X1_row_b21 G h0 K x9 := wlo_W kb_X1_row_b21 n9 x9 e hT he
def t_X1_row (Z : aZ) (h : aH) (o : Nat) (x0 : Int32) : Option ((Int32 ⊕ aXX) × aH) :=
  (t_X1_isIn x0 0 3).bind fun r3 =>
  (t_X1_requireArgument Z h r3).bind fun r7 =>
  (match r7 with
  | (.inl y9, h10) =>
    (gA 0 7 h10 o).bind fun a12 =>
    if isC 10 h10 a12 = true then
    (t_J4_setLength Z h10 a12 0).bind fun r16 =>
    wlo (t_X1_row_b21 Z) 100 (o, x0, (4 * x0), r16.2)
    else none
  | (.inr y9, h10) =>
    some (.inr y9, h10)
  )
theorem k_X1_row {G : aG} {h : aH} {o : Nat} {x0 : Int32} {e : ((Int32 ⊕ aXX) × aH)} (hT : t_X1_row (gZ G) h o x0 = some e) : aMet G yX1_row (ws_ yX1_row cX1_row 3 (Option.some Jvm.ClassFile.FieldType.int)) 10 220 [.ref o, .int x0] h (aXI e.1 e.2) := by
  refine aMet.of (lv := [some (.ref o), some (.int x0), none]) (by decide) (Nat.le_of_ble_eq_true rfl) 1 rfl ?_
  have he : aTo (aXI e.1 e.2) (aXI e.1 e.2) := aTo.rf
  unfold t_X1_row at hT
  refine a_iload_n dX1_row_0 rfl ?_
  refine a_iconst (v := 0) dX1_row_1 (by decide) ?_
  refine a_iconst (v := 3) dX1_row_2 (by decide) ?_
  obtain ⟨r3, e4, hT⟩ := obnd hT
  refine a_callS ks_X1_3 (k_X1_isIn e4) ⟨Nat.le_of_ble_eq_true rfl, Nat.le_of_ble_eq_true rfl⟩ (As := [.int x0, .int 0, .int 3]) (rest := []) rfl rfl (Nat.le_of_ble_eq_true rfl) dX1_row_3 (kI ?_) xI
  obtain ⟨⟨y9 | y9, h10⟩, e8, hT⟩ := obnd hT
  · dsimp only at hT
    refine a_callS ks_X1_206 (k_X1_requireArgument e8) ⟨Nat.le_of_ble_eq_true rfl, Nat.le_of_ble_eq_true rfl⟩ (As := [.int r3]) (rest := []) rfl rfl (Nat.le_of_ble_eq_true rfl) dX1_row_6 (kXV ?_) yXV
    refine a_aload_n dX1_row_9 rfl ?_
    obtain ⟨a12, e11, hT⟩ := obnd hT
    refine a_gA fl_X1_71_0 e11 dX1_row_10 ?_
    refine a_iconst (v := 0) dX1_row_13 (by decide) ?_
    obtain ⟨g15, hT⟩ := oifg hT
    obtain ⟨r16, e17, hT⟩ := obnd hT
    refine a_callV kv_X1_297 g15 (k_J4_setLength e17) ⟨Nat.le_of_ble_eq_true rfl, Nat.le_of_ble_eq_true rfl⟩ (As := [.int 0]) (rest := []) rfl rfl (Nat.le_of_ble_eq_true rfl) dX1_row_14 (kV ?_) xV
    refine a_iconst (v := 4) dX1_row_17 (by decide) ?_
    refine a_iload_n dX1_row_18 rfl ?_
    refine a_imul dX1_row_19 ?_
    refine a_istore_n (lv' := [some (.ref o), some (.int x0), some (.int (4 * x0))]) dX1_row_20 rfl (by decide) rfl ?_
    exact k_X1_row_b21 hT he
  · dsimp only at hT
    refine a_callS ks_X1_206 (k_X1_requireArgument e8) ⟨Nat.le_of_ble_eq_true rfl, Nat.le_of_ble_eq_true rfl⟩ (As := [.int r3]) (rest := []) rfl rfl (Nat.le_of_ble_eq_true rfl) dX1_row_6 rXV (zXV ?_)
    obtain rfl := Option.some.inj hT
    exact a_out (by decide) (he _ _ ⟨rfl, rfl⟩)
theorem ks_X1_349 : aKS "MazeBonds" 349 yX1_sum cX1_sum 6 (Option.some Jvm.ClassFile.FieldType.int) 1 := ⟨Or.inl q1660, q1661, q72, q1662, ⟨by decide +kernel, by decide +kernel, by decide +kernel⟩⟩
abbrev M_X1_bonds : aM := (yX1_bonds.cls, cX1_bonds, 3, (Option.some Jvm.ClassFile.FieldType.int), [], yX1_bonds.name)
def p_X1_bonds_b6 (G : aG) (h0 : aH) (K : aRes → aH → Prop) (x9 : (Nat × Nat × Int32 × aH)) : Prop := aW G M_X1_bonds 4 77 h0 K x9.2.2.2 6 [some (.ref x9.1), some (.ref x9.2.1), some (.int x9.2.2.1)] []
def t_X1_bonds_l37 (Z : aZ) (h : aH) (v1 : Nat) : Option (Int32 × aH) :=
  (t_X1_sum Z h v1).bind fun r15 =>
  some (r15.1, r15.2)
theorem k_X1_bonds_l37 {G : aG} {h0 : aH} {K : aRes → aH → Prop} {h : aH} {v1 : Nat} {e : (Int32 × aH)} (hT : t_X1_bonds_l37 (gZ G) h v1 = some e) (he : (fun e => aTo (aEI e.1 e.2) K) e) : aW G M_X1_bonds 4 77 h0 K h 37 [none, some (.ref v1), none] [] := by
  unfold t_X1_bonds_l37 at hT
  refine a_aload_n dX1_bonds_37 rfl ?_
  obtain ⟨r15, e16, hT⟩ := obnd hT
  refine a_callS ks_X1_349 (k_X1_sum e16) ⟨Nat.le_of_ble_eq_true rfl, Nat.le_of_ble_eq_true rfl⟩ (As := [.ref v1]) (rest := []) rfl rfl (Nat.le_of_ble_eq_true rfl) dX1_bonds_38 (kI ?_) xI
  obtain rfl := Option.some.inj hT
  exact a_iret rfl rfl dX1_bonds_41 (he _ _ ⟨rfl, rfl⟩)
def t_X1_bonds_b6 (Z : aZ) : (Nat × Nat × Int32 × aH) → Option ((Nat × Nat × Int32 × aH) ⊕ (Int32 × aH)) := fun (v0, v1, v2, h) =>
  (gA 0 0 h v0).bind fun a4 =>
  (gA 1 1 h a4).bind fun a6 =>
  if isC 8 h a6 = true then
  (t_J2_size Z h a6).bind fun r10 =>
  if r10.1 ≤ v2 then
    (t_X1_bonds_l37 Z r10.2 v1).map .inr
  else
    (gA 0 0 r10.2 v0).bind fun a18 =>
    if isC 1 r10.2 a18 = true then
    (t_X2_bondsOf Z r10.2 a18 v2).bind fun r22 =>
    (stI Z r22.2 v1 v2 r22.1).bind fun h25 =>
    some (.inl (v0, v1, (v2 + 1), h25))
    else none
  else none
theorem kb_X1_bonds_b6 {G : aG} {h0 : aH} {K : aRes → aH → Prop} : ∀ (x9 : (Nat × Nat × Int32 × aH)) (e : ((Nat × Nat × Int32 × aH) ⊕ (Int32 × aH))), t_X1_bonds_b6 (gZ G) x9 = some e → (Sum.elim (p_X1_bonds_b6 G h0 K) (fun e => aTo (aEI e.1 e.2) K)) e → p_X1_bonds_b6 G h0 K x9 := by
  intro x9 e hT he
  obtain ⟨v0, v1, v2, h⟩ := x9
  unfold p_X1_bonds_b6
  unfold t_X1_bonds_b6 at hT
  show aW G M_X1_bonds 4 77 h0 K h 6 [some (.ref v0), some (.ref v1), some (.int v2)] []
  dsimp only at hT
  refine a_iload_n dX1_bonds_6 rfl ?_
  refine a_aload_n dX1_bonds_7 rfl ?_
  obtain ⟨a4, e3, hT⟩ := obnd hT
  refine a_gA fl_X1_49_0 e3 dX1_bonds_8 ?_
  obtain ⟨a6, e5, hT⟩ := obnd hT
  refine a_gA fl_X1_186_1 e5 dX1_bonds_11 ?_
  obtain ⟨g9, hT⟩ := oifg hT
  obtain ⟨r10, e11, hT⟩ := obnd hT
  refine a_callV kv_X1_82 g9 (k_J2_size e11) ⟨Nat.le_of_ble_eq_true rfl, Nat.le_of_ble_eq_true rfl⟩ (As := []) (rest := [.int v2]) rfl rfl (Nat.le_of_ble_eq_true rfl) dX1_bonds_14 (kI ?_) xI
  refine a_icmp_ge 37 dX1_bonds_17 rfl (fun c12 => ?_) (fun c12 => ?_)
  · have hT := oifp c12 hT
    refine a_mask [false, true, false] ?_
    obtain ⟨e8, hT8, rfl⟩ := omap hT
    exact k_X1_bonds_l37 hT8 he
  · have hT := oifn c12 hT
    refine a_aload_n dX1_bonds_20 rfl ?_
    refine a_iload_n dX1_bonds_21 rfl ?_
    refine a_aload_n dX1_bonds_22 rfl ?_
    obtain ⟨a18, e17, hT⟩ := obnd hT
    refine a_gA fl_X1_49_0 e17 dX1_bonds_23 ?_
    refine a_iload_n dX1_bonds_26 rfl ?_
    obtain ⟨g21, hT⟩ := oifg hT
    obtain ⟨r22, e23, hT⟩ := obnd hT
    refine a_callV kv_X1_212 g21 (k_X2_bondsOf e23) ⟨Nat.le_of_ble_eq_true rfl, Nat.le_of_ble_eq_true rfl⟩ (As := [.int v2]) (rest := [.int v2, .ref v1]) rfl rfl (Nat.le_of_ble_eq_true rfl) dX1_bonds_27 (kI ?_) xI
    obtain ⟨h25, e24, hT⟩ := obnd hT
    refine a_stI e24 dX1_bonds_30 ?_
    refine a_iinc (v := (v2 + 1)) (lv' := [some (.ref v0), some (.ref v1), some (.int (v2 + 1))]) dX1_bonds_31 rfl (by rfl) rfl (by decide) rfl ?_
    refine a_goto 6 dX1_bonds_34 rfl ?_
    obtain rfl := Option.some.inj hT
    exact he
theorem k_X1_bonds_b6 {G : aG} {h0 : aH} {K : aRes → aH → Prop} {n9 : Nat} {x9 : (Nat × Nat × Int32 × aH)} {e : (Int32 × aH)} (hT : wlo (t_X1_bonds_b6 (gZ G)) n9 x9 = some e) (he : (fun e => aTo (aEI e.1 e.2) K) e) : p_X1_bonds_b6 G h0 K x9 := wlo_W kb_X1_bonds_b6 n9 x9 e hT he
def t_X1_bonds (Z : aZ) (h : aH) (o : Nat) : Option (Int32 × aH) :=
  (nwA Z h 4 (fun N => .inl (zI Z, N, .inl fun _ => 0))).bind fun h1 =>
  wlo (t_X1_bonds_b6 Z) 100 (o, h.2.1, 0, h1)
theorem k_X1_bonds {G : aG} {h : aH} {o : Nat} {e : (Int32 × aH)} (hT : t_X1_bonds (gZ G) h o = some e) : aMet G yX1_bonds (ws_ yX1_bonds cX1_bonds 3 (Option.some Jvm.ClassFile.FieldType.int)) 4 77 [.ref o] h (aEI e.1 e.2) := by
  refine aMet.of (lv := [some (.ref o), none, none]) (by decide) (Nat.le_of_ble_eq_true rfl) 2 rfl ?_
  have he : aTo (aEI e.1 e.2) (aEI e.1 e.2) := aTo.rf
  unfold t_X1_bonds at hT
  refine a_iconst (v := 4) dX1_bonds_0 (by decide) ?_
  obtain ⟨h1, e2, hT⟩ := obnd hT
  refine a_newI q156 e2 dX1_bonds_1 ?_
  refine a_astore_n (lv' := [some (.ref o), some (.ref h.2.1), none]) dX1_bonds_3 rfl (by decide) rfl ?_
  refine a_iconst (v := 0) dX1_bonds_4 (by decide) ?_
  refine a_istore_n (lv' := [some (.ref o), some (.ref h.2.1), some (.int 0)]) dX1_bonds_5 rfl (by decide) rfl ?_
  exact k_X1_bonds_b6 hT he
theorem fl_X1_353_1 : aFL "MazeBonds" 353 1 4 := ⟨RX2, TX2, 7, "MazeBonds$Core", rfl, in_X2, by decide, Or.inl rfl, Or.inr ⟨_, q166⟩⟩
theorem fl_X1_356_1 : aFL "MazeBonds" 356 1 5 := ⟨RX2, TX2, 7, "MazeBonds$Core", rfl, in_X2, by decide, Or.inl rfl, Or.inr ⟨_, q168⟩⟩
theorem fl_X1_359_1 : aFL "MazeBonds" 359 1 6 := ⟨RX2, TX2, 7, "MazeBonds$Core", rfl, in_X2, by decide, Or.inl rfl, Or.inr ⟨_, q170⟩⟩
theorem kv_X1_362 : aKV "MazeBonds" 362 1 yX2_coins cX2_coins 4 (Option.some Jvm.ClassFile.FieldType.int) 0 := ⟨⟨TX2, 7, rfl⟩, Or.inl q1671, q1672, q1673, q73, q1674, ⟨by decide +kernel, by decide +kernel, by decide +kernel⟩⟩
abbrev M_X1_otherAccount : aM := (yX1_otherAccount.cls, cX1_otherAccount, 2, (Option.some Jvm.ClassFile.FieldType.int), [], yX1_otherAccount.name)
def t_X1_otherAccount (Z : aZ) (h : aH) (o : Nat) (x0 : Int32) : Option (Int32 × aH) :=
  if x0 = 6 then
    (gA 0 0 h o).bind fun a3 =>
    (gI 1 4 h a3).bind fun z5 =>
    some (z5, h)
  else
    if x0 = 7 then
      (gA 0 0 h o).bind fun a8 =>
      (gI 1 5 h a8).bind fun z10 =>
      some (z10, h)
    else
      if x0 = 8 then
        (gA 0 0 h o).bind fun a13 =>
        (gI 1 6 h a13).bind fun z15 =>
        some (z15, h)
      else
        if x0 = 9 then
          (gA 0 0 h o).bind fun a18 =>
          if isC 1 h a18 = true then
          (t_X2_coins Z h a18).bind fun r22 =>
          some (r22.1, r22.2)
          else none
        else
          if x0 = 10 then
            (gA 0 1 h o).bind fun a26 =>
            if isC 8 h a26 = true then
            (t_J2_size Z h a26).bind fun r30 =>
            some (r30.1, r30.2)
            else none
          else
            (gI 0 5 h o).bind fun z33 =>
            some (z33, h)
theorem k_X1_otherAccount {G : aG} {h : aH} {o : Nat} {x0 : Int32} {e : (Int32 × aH)} (hT : t_X1_otherAccount (gZ G) h o x0 = some e) : aMet G yX1_otherAccount (ws_ yX1_otherAccount cX1_otherAccount 2 (Option.some Jvm.ClassFile.FieldType.int)) 4 76 [.ref o, .int x0] h (aEI e.1 e.2) := by
  refine aMet.of (lv := [some (.ref o), some (.int x0)]) (by decide) (Nat.le_of_ble_eq_true rfl) 0 rfl ?_
  have he : aTo (aEI e.1 e.2) (aEI e.1 e.2) := aTo.rf
  unfold t_X1_otherAccount at hT
  refine a_iload_n dX1_otherAccount_0 rfl ?_
  by_cases c1 : x0 = 6
  · have hT := oifp c1 hT
    refine a_tswIn 36 dX1_otherAccount_1 (by rw [c1]; decide) (by rw [c1]; decide) (off := 35) (by rw [c1]; rfl) rfl ?_
    refine a_aload_n dX1_otherAccount_36 rfl ?_
    obtain ⟨a3, e2, hT⟩ := obnd hT
    refine a_gA fl_X1_49_0 e2 dX1_otherAccount_37 ?_
    obtain ⟨z5, e4, hT⟩ := obnd hT
    refine a_gI fl_X1_353_1 e4 dX1_otherAccount_40 ?_
    obtain rfl := Option.some.inj hT
    exact a_iret rfl rfl dX1_otherAccount_43 (he _ _ ⟨rfl, rfl⟩)
  · have hT := oifn c1 hT
    by_cases c6 : x0 = 7
    · have hT := oifp c6 hT
      refine a_tswIn 44 dX1_otherAccount_1 (by rw [c6]; decide) (by rw [c6]; decide) (off := 43) (by rw [c6]; rfl) rfl ?_
      refine a_aload_n dX1_otherAccount_44 rfl ?_
      obtain ⟨a8, e7, hT⟩ := obnd hT
      refine a_gA fl_X1_49_0 e7 dX1_otherAccount_45 ?_
      obtain ⟨z10, e9, hT⟩ := obnd hT
      refine a_gI fl_X1_356_1 e9 dX1_otherAccount_48 ?_
      obtain rfl := Option.some.inj hT
      exact a_iret rfl rfl dX1_otherAccount_51 (he _ _ ⟨rfl, rfl⟩)
    · have hT := oifn c6 hT
      by_cases c11 : x0 = 8
      · have hT := oifp c11 hT
        refine a_tswIn 52 dX1_otherAccount_1 (by rw [c11]; decide) (by rw [c11]; decide) (off := 51) (by rw [c11]; rfl) rfl ?_
        refine a_aload_n dX1_otherAccount_52 rfl ?_
        obtain ⟨a13, e12, hT⟩ := obnd hT
        refine a_gA fl_X1_49_0 e12 dX1_otherAccount_53 ?_
        obtain ⟨z15, e14, hT⟩ := obnd hT
        refine a_gI fl_X1_359_1 e14 dX1_otherAccount_56 ?_
        obtain rfl := Option.some.inj hT
        exact a_iret rfl rfl dX1_otherAccount_59 (he _ _ ⟨rfl, rfl⟩)
      · have hT := oifn c11 hT
        by_cases c16 : x0 = 9
        · have hT := oifp c16 hT
          refine a_tswIn 60 dX1_otherAccount_1 (by rw [c16]; decide) (by rw [c16]; decide) (off := 59) (by rw [c16]; rfl) rfl ?_
          refine a_aload_n dX1_otherAccount_60 rfl ?_
          obtain ⟨a18, e17, hT⟩ := obnd hT
          refine a_gA fl_X1_49_0 e17 dX1_otherAccount_61 ?_
          obtain ⟨g21, hT⟩ := oifg hT
          obtain ⟨r22, e23, hT⟩ := obnd hT
          refine a_callV kv_X1_362 g21 (k_X2_coins e23) ⟨Nat.le_of_ble_eq_true rfl, Nat.le_of_ble_eq_true rfl⟩ (As := []) (rest := []) rfl rfl (Nat.le_of_ble_eq_true rfl) dX1_otherAccount_64 (kI ?_) xI
          obtain rfl := Option.some.inj hT
          exact a_iret rfl rfl dX1_otherAccount_67 (he _ _ ⟨rfl, rfl⟩)
        · have hT := oifn c16 hT
          by_cases c24 : x0 = 10
          · have hT := oifp c24 hT
            refine a_tswIn 68 dX1_otherAccount_1 (by rw [c24]; decide) (by rw [c24]; decide) (off := 67) (by rw [c24]; rfl) rfl ?_
            refine a_aload_n dX1_otherAccount_68 rfl ?_
            obtain ⟨a26, e25, hT⟩ := obnd hT
            refine a_gA fl_X1_56_0 e25 dX1_otherAccount_69 ?_
            obtain ⟨g29, hT⟩ := oifg hT
            obtain ⟨r30, e31, hT⟩ := obnd hT
            refine a_callV kv_X1_82 g29 (k_J2_size e31) ⟨Nat.le_of_ble_eq_true rfl, Nat.le_of_ble_eq_true rfl⟩ (As := []) (rest := []) rfl rfl (Nat.le_of_ble_eq_true rfl) dX1_otherAccount_72 (kI ?_) xI
            obtain rfl := Option.some.inj hT
            exact a_iret rfl rfl dX1_otherAccount_75 (he _ _ ⟨rfl, rfl⟩)
          · have hT := oifn c24 hT
            refine aTsw 76 dX1_otherAccount_1 rfl (cs := [6, 7, 8, 9, 10]) (by decide +kernel) (by simp only [List.mem_cons, List.not_mem_nil, or_false]; rintro z9 (rfl | rfl | rfl | rfl | rfl) <;> assumption) ?_
            refine a_aload_n dX1_otherAccount_76 rfl ?_
            obtain ⟨z33, e32, hT⟩ := obnd hT
            refine a_gI fl_X1_268_0 e32 dX1_otherAccount_77 ?_
            obtain rfl := Option.some.inj hT
            exact a_iret rfl rfl dX1_otherAccount_80 (he _ _ ⟨rfl, rfl⟩)
theorem fn_X2_13 : aFN "MazeBonds$Core" 13 1 [.null, .null, .null, .int 0, .int 0, .int 0, .int 0] 7 := ⟨RX2, TX2, tyX2, rfl, in_X2, tyX2_ok, q257, q119, q73, by decide⟩
theorem fl_X2_21_1 : aFL "MazeBonds$Core" 21 1 3 := ⟨RX2, TX2, 7, "MazeBonds$Core", rfl, in_X2, by decide, Or.inl rfl, Or.inl q163⟩
theorem fp_X2_21_1 (nm9 : String) : aFP "MazeBonds$Core" 21 1 3 .int nm9 := ⟨RX2, TX2, 7, "MazeBonds$Core", tyX2, rfl, in_X2, by decide, Or.inl rfl, Or.inl q163, tyX2_ok, nmX2, rfl, Or.inl rfl⟩
theorem fl_X2_68_1 : aFL "MazeBonds$Core" 68 1 5 := ⟨RX2, TX2, 7, "MazeBonds$Core", rfl, in_X2, by decide, Or.inl rfl, Or.inl q167⟩
theorem fp_X2_68_1 (nm9 : String) : aFP "MazeBonds$Core" 68 1 5 .int nm9 := ⟨RX2, TX2, 7, "MazeBonds$Core", tyX2, rfl, in_X2, by decide, Or.inl rfl, Or.inl q167, tyX2_ok, nmX2, rfl, Or.inl rfl⟩
theorem fl_X2_71_1 : aFL "MazeBonds$Core" 71 1 6 := ⟨RX2, TX2, 7, "MazeBonds$Core", rfl, in_X2, by decide, Or.inl rfl, Or.inl q169⟩
theorem fp_X2_71_1 (nm9 : String) : aFP "MazeBonds$Core" 71 1 6 .int nm9 := ⟨RX2, TX2, 7, "MazeBonds$Core", tyX2, rfl, in_X2, by decide, Or.inl rfl, Or.inl q169, tyX2_ok, nmX2, rfl, Or.inl rfl⟩
theorem kv_X2_62 : aKV "MazeBonds$Core" 62 4 yX6_copy cX6_copy 2 (Option.some (Jvm.ClassFile.FieldType.object "MazeBonds$Visitor")) 0 := ⟨⟨TX6, 7, rfl⟩, Or.inl q489, q490, q491, q93, q492, ⟨by decide +kernel, by decide +kernel, by decide +kernel⟩⟩
theorem kv_X2_56 : aKV "MazeBonds$Core" 56 8 yJ2_add cJ2_add 2 (Option.some Jvm.ClassFile.FieldType.boolean) 1 := ⟨⟨TJ2, 3, rfl⟩, Or.inl q421, q422, q423, q76, q424, ⟨by decide +kernel, by decide +kernel, by decide +kernel⟩⟩
theorem kv_X2_52 : aKV "MazeBonds$Core" 52 3 yX5_copy cX5_copy 2 (Option.some (Jvm.ClassFile.FieldType.object "MazeBonds$Gardener")) 0 := ⟨⟨TX5, 4, rfl⟩, Or.inl q383, q384, q385, q88, q386, ⟨by decide +kernel, by decide +kernel, by decide +kernel⟩⟩
abbrev M_X2_copy : aM := (yX2_copy.cls, cX2_copy, 4, (Option.some (Jvm.ClassFile.FieldType.object "MazeBonds$Core")), [], yX2_copy.name)
def p_X2_copy_b26 (G : aG) (h0 : aH) (K : aRes → aH → Prop) (x9 : (Nat × Nat × Nat × aH)) : Prop := aW G M_X2_copy 5 127 h0 K x9.2.2.2 26 [some (.ref x9.1), some (.ref x9.2.1), some (.ref x9.2.2.1), none] []
def p_X2_copy_b68 (G : aG) (h0 : aH) (K : aRes → aH → Prop) (x9 : (Nat × Nat × Nat × aH)) : Prop := aW G M_X2_copy 5 127 h0 K x9.2.2.2 68 [some (.ref x9.1), some (.ref x9.2.1), some (.ref x9.2.2.1), none] []
def t_X2_copy_l102 (Z : aZ) (h : aH) (v0 : Nat) (v1 : Nat) : Option (Nat × aH) :=
  (gI 1 3 h v0).bind fun z39 =>
  (pF 1 3 Z h v1 (.int z39)).bind fun h41 =>
  (gI 1 4 h41 v0).bind fun z43 =>
  (pF 1 4 Z h41 v1 (.int z43)).bind fun h45 =>
  (gI 1 5 h45 v0).bind fun z47 =>
  (pF 1 5 Z h45 v1 (.int z47)).bind fun h49 =>
  (gI 1 6 h49 v0).bind fun z51 =>
  (pF 1 6 Z h49 v1 (.int z51)).bind fun h53 =>
  some (v1, h53)
theorem k_X2_copy_l102 {G : aG} {h0 : aH} {K : aRes → aH → Prop} {h : aH} {v0 : Nat} {v1 : Nat} {e : (Nat × aH)} (hT : t_X2_copy_l102 (gZ G) h v0 v1 = some e) (he : (fun e => aTo (aEA e.1 e.2) K) e) : aW G M_X2_copy 5 127 h0 K h 102 [some (.ref v0), some (.ref v1), none, none] [] := by
  unfold t_X2_copy_l102 at hT
  refine a_aload_n dX2_copy_102 rfl ?_
  refine a_aload_n dX2_copy_103 rfl ?_
  obtain ⟨z39, e38, hT⟩ := obnd hT
  refine a_gI fl_X2_21_1 e38 dX2_copy_104 ?_
  obtain ⟨h41, e40, hT⟩ := obnd hT
  refine a_put (fp_X2_21_1 _) ⟨rfl, rfl⟩ e40 dX2_copy_107 ?_
  refine a_aload_n dX2_copy_110 rfl ?_
  refine a_aload_n dX2_copy_111 rfl ?_
  obtain ⟨z43, e42, hT⟩ := obnd hT
  refine a_gI fl_X2_65_1 e42 dX2_copy_112 ?_
  obtain ⟨h45, e44, hT⟩ := obnd hT
  refine a_put (fp_X2_65_1 _) ⟨rfl, rfl⟩ e44 dX2_copy_115 ?_
  refine a_aload_n dX2_copy_118 rfl ?_
  refine a_aload_n dX2_copy_119 rfl ?_
  obtain ⟨z47, e46, hT⟩ := obnd hT
  refine a_gI fl_X2_68_1 e46 dX2_copy_120 ?_
  obtain ⟨h49, e48, hT⟩ := obnd hT
  refine a_put (fp_X2_68_1 _) ⟨rfl, rfl⟩ e48 dX2_copy_123 ?_
  refine a_aload_n dX2_copy_126 rfl ?_
  refine a_aload_n dX2_copy_127 rfl ?_
  obtain ⟨z51, e50, hT⟩ := obnd hT
  refine a_gI fl_X2_71_1 e50 dX2_copy_128 ?_
  obtain ⟨h53, e52, hT⟩ := obnd hT
  refine a_put (fp_X2_71_1 _) ⟨rfl, rfl⟩ e52 dX2_copy_131 ?_
  refine a_aload_n dX2_copy_134 rfl ?_
  obtain rfl := Option.some.inj hT
  exact a_aret rfl (Or.inl ⟨_, rfl⟩) dX2_copy_135 (he _ _ ⟨rfl, rfl⟩)
def t_X2_copy_b68 (Z : aZ) : (Nat × Nat × Nat × aH) → Option ((Nat × Nat × Nat × aH) ⊕ (Nat × aH)) := fun (v0, v1, v2, h) =>
  if isC 9 h v2 = true then
  (t_J7_hasNext Z h v2).bind fun r35 =>
  if r35.1 = 0 then
    (t_X2_copy_l102 Z r35.2 v0 v1).map .inr
  else
    if isC 9 r35.2 v2 = true then
    (t_J7_next Z r35.2 v2).bind fun r57 =>
    if isC 4 r57.2 r57.1 = true then
    (gA 1 2 r57.2 v1).bind fun a61 =>
    if isC 4 r57.2 r57.1 = true then
    (t_X6_copy Z r57.2 r57.1).bind fun r65 =>
    if isC 8 r65.2 a61 = true then
    (t_J2_add_4 Z r65.2 a61 r65.1).bind fun r70 =>
    some (.inl (v0, v1, v2, r70.2))
    else none
    else none
    else none
    else none
  else none
theorem kb_X2_copy_b68 {G : aG} {h0 : aH} {K : aRes → aH → Prop} : ∀ (x9 : (Nat × Nat × Nat × aH)) (e : ((Nat × Nat × Nat × aH) ⊕ (Nat × aH))), t_X2_copy_b68 (gZ G) x9 = some e → (Sum.elim (p_X2_copy_b68 G h0 K) (fun e => aTo (aEA e.1 e.2) K)) e → p_X2_copy_b68 G h0 K x9 := by
  intro x9 e hT he
  obtain ⟨v0, v1, v2, h⟩ := x9
  unfold p_X2_copy_b68
  unfold t_X2_copy_b68 at hT
  show aW G M_X2_copy 5 127 h0 K h 68 [some (.ref v0), some (.ref v1), some (.ref v2), none] []
  dsimp only at hT
  refine a_aload_n dX2_copy_68 rfl ?_
  obtain ⟨g34, hT⟩ := oifg hT
  obtain ⟨r35, e36, hT⟩ := obnd hT
  refine a_callF kf_X2_41 g34 (k_J7_hasNext e36) ⟨Nat.le_of_ble_eq_true rfl, Nat.le_of_ble_eq_true rfl⟩ (As := []) (rest := []) rfl rfl (Nat.le_of_ble_eq_true rfl) dX2_copy_69 (kI ?_) xI
  refine a_if_eq 102 dX2_copy_74 rfl (fun c37 => ?_) (fun c37 => ?_)
  · have hT := oifp c37 hT
    refine a_mask [true, true, false, true] ?_
    obtain ⟨e8, hT8, rfl⟩ := omap hT
    exact k_X2_copy_l102 hT8 he
  · have hT := oifn c37 hT
    refine a_aload_n dX2_copy_77 rfl ?_
    obtain ⟨g56, hT⟩ := oifg hT
    obtain ⟨r57, e58, hT⟩ := obnd hT
    refine a_callF kf_X2_47 g56 (k_J7_next e58) ⟨Nat.le_of_ble_eq_true rfl, Nat.le_of_ble_eq_true rfl⟩ (As := []) (rest := []) rfl rfl (Nat.le_of_ble_eq_true rfl) dX2_copy_78 (kA ?_) xA
    obtain ⟨g59, hT⟩ := oifg hT
    refine a_cast (ci := 4) rfl q488 g59 dX2_copy_83 ?_
    refine a_astore_n (lv' := [some (.ref v0), some (.ref v1), some (.ref v2), some (.ref r57.1)]) dX2_copy_86 rfl (by decide) rfl ?_
    refine a_aload_n dX2_copy_87 rfl ?_
    obtain ⟨a61, e60, hT⟩ := obnd hT
    refine a_gA fl_X2_18_1 e60 dX2_copy_88 ?_
    refine a_aload_n dX2_copy_91 rfl ?_
    obtain ⟨g64, hT⟩ := oifg hT
    obtain ⟨r65, e66, hT⟩ := obnd hT
    refine a_callV kv_X2_62 g64 (k_X6_copy e66) ⟨Nat.le_of_ble_eq_true rfl, Nat.le_of_ble_eq_true rfl⟩ (As := []) (rest := [.ref a61]) rfl rfl (Nat.le_of_ble_eq_true rfl) dX2_copy_92 (kA ?_) xA
    obtain ⟨g69, hT⟩ := oifg hT
    obtain ⟨r70, e71, hT⟩ := obnd hT
    refine a_callV kv_X2_56 g69 (k_J2_add_4 e71) ⟨Nat.le_of_ble_eq_true rfl, Nat.le_of_ble_eq_true rfl⟩ (As := [.ref r65.1]) (rest := []) rfl rfl (Nat.le_of_ble_eq_true rfl) dX2_copy_95 (kI ?_) xI
    refine a_pop dX2_copy_98 rfl ?_
    refine a_goto 68 dX2_copy_99 rfl ?_
    obtain rfl := Option.some.inj hT
    refine a_mask [true, true, true, false] ?_
    exact he
theorem k_X2_copy_b68 {G : aG} {h0 : aH} {K : aRes → aH → Prop} {n9 : Nat} {x9 : (Nat × Nat × Nat × aH)} {e : (Nat × aH)} (hT : wlo (t_X2_copy_b68 (gZ G)) n9 x9 = some e) (he : (fun e => aTo (aEA e.1 e.2) K) e) : p_X2_copy_b68 G h0 K x9 := wlo_W kb_X2_copy_b68 n9 x9 e hT he
def t_X2_copy_l60 (Z : aZ) (h : aH) (v0 : Nat) (v1 : Nat) : Option (Nat × aH) :=
  (gA 1 2 h v0).bind fun a26 =>
  if isC 8 h a26 = true then
  (t_J2_iterator Z h a26).bind fun r30 =>
  wlo (t_X2_copy_b68 Z) 100 (v0, v1, r30.1, r30.2)
  else none
theorem k_X2_copy_l60 {G : aG} {h0 : aH} {K : aRes → aH → Prop} {h : aH} {v0 : Nat} {v1 : Nat} {e : (Nat × aH)} (hT : t_X2_copy_l60 (gZ G) h v0 v1 = some e) (he : (fun e => aTo (aEA e.1 e.2) K) e) : aW G M_X2_copy 5 127 h0 K h 60 [some (.ref v0), some (.ref v1), none, none] [] := by
  unfold t_X2_copy_l60 at hT
  refine a_aload_n dX2_copy_60 rfl ?_
  obtain ⟨a26, e25, hT⟩ := obnd hT
  refine a_gA fl_X2_18_1 e25 dX2_copy_61 ?_
  obtain ⟨g29, hT⟩ := oifg hT
  obtain ⟨r30, e31, hT⟩ := obnd hT
  refine a_callV kv_X2_37 g29 (k_J2_iterator e31) ⟨Nat.le_of_ble_eq_true rfl, Nat.le_of_ble_eq_true rfl⟩ (As := []) (rest := []) rfl rfl (Nat.le_of_ble_eq_true rfl) dX2_copy_64 (kA ?_) xA
  refine a_astore_n (lv' := [some (.ref v0), some (.ref v1), some (.ref r30.1), none]) dX2_copy_67 rfl (by decide) rfl ?_
  exact k_X2_copy_b68 hT he
def t_X2_copy_b26 (Z : aZ) : (Nat × Nat × Nat × aH) → Option ((Nat × Nat × Nat × aH) ⊕ (Nat × aH)) := fun (v0, v1, v2, h) =>
  if isC 9 h v2 = true then
  (t_J7_hasNext Z h v2).bind fun r22 =>
  if r22.1 = 0 then
    (t_X2_copy_l60 Z r22.2 v0 v1).map .inr
  else
    if isC 9 r22.2 v2 = true then
    (t_J7_next Z r22.2 v2).bind fun r75 =>
    if isC 3 r75.2 r75.1 = true then
    (gA 1 1 r75.2 v1).bind fun a79 =>
    if isC 3 r75.2 r75.1 = true then
    (t_X5_copy Z r75.2 r75.1).bind fun r83 =>
    if isC 8 r83.2 a79 = true then
    (t_J2_add_3 Z r83.2 a79 r83.1).bind fun r88 =>
    some (.inl (v0, v1, v2, r88.2))
    else none
    else none
    else none
    else none
  else none
theorem kb_X2_copy_b26 {G : aG} {h0 : aH} {K : aRes → aH → Prop} : ∀ (x9 : (Nat × Nat × Nat × aH)) (e : ((Nat × Nat × Nat × aH) ⊕ (Nat × aH))), t_X2_copy_b26 (gZ G) x9 = some e → (Sum.elim (p_X2_copy_b26 G h0 K) (fun e => aTo (aEA e.1 e.2) K)) e → p_X2_copy_b26 G h0 K x9 := by
  intro x9 e hT he
  obtain ⟨v0, v1, v2, h⟩ := x9
  unfold p_X2_copy_b26
  unfold t_X2_copy_b26 at hT
  show aW G M_X2_copy 5 127 h0 K h 26 [some (.ref v0), some (.ref v1), some (.ref v2), none] []
  dsimp only at hT
  refine a_aload_n dX2_copy_26 rfl ?_
  obtain ⟨g21, hT⟩ := oifg hT
  obtain ⟨r22, e23, hT⟩ := obnd hT
  refine a_callF kf_X2_41 g21 (k_J7_hasNext e23) ⟨Nat.le_of_ble_eq_true rfl, Nat.le_of_ble_eq_true rfl⟩ (As := []) (rest := []) rfl rfl (Nat.le_of_ble_eq_true rfl) dX2_copy_27 (kI ?_) xI
  refine a_if_eq 60 dX2_copy_32 rfl (fun c24 => ?_) (fun c24 => ?_)
  · have hT := oifp c24 hT
    refine a_mask [true, true, false, true] ?_
    obtain ⟨e8, hT8, rfl⟩ := omap hT
    exact k_X2_copy_l60 hT8 he
  · have hT := oifn c24 hT
    refine a_aload_n dX2_copy_35 rfl ?_
    obtain ⟨g74, hT⟩ := oifg hT
    obtain ⟨r75, e76, hT⟩ := obnd hT
    refine a_callF kf_X2_47 g74 (k_J7_next e76) ⟨Nat.le_of_ble_eq_true rfl, Nat.le_of_ble_eq_true rfl⟩ (As := []) (rest := []) rfl rfl (Nat.le_of_ble_eq_true rfl) dX2_copy_36 (kA ?_) xA
    obtain ⟨g77, hT⟩ := oifg hT
    refine a_cast (ci := 3) rfl q382 g77 dX2_copy_41 ?_
    refine a_astore_n (lv' := [some (.ref v0), some (.ref v1), some (.ref v2), some (.ref r75.1)]) dX2_copy_44 rfl (by decide) rfl ?_
    refine a_aload_n dX2_copy_45 rfl ?_
    obtain ⟨a79, e78, hT⟩ := obnd hT
    refine a_gA fl_X2_12_1 e78 dX2_copy_46 ?_
    refine a_aload_n dX2_copy_49 rfl ?_
    obtain ⟨g82, hT⟩ := oifg hT
    obtain ⟨r83, e84, hT⟩ := obnd hT
    refine a_callV kv_X2_52 g82 (k_X5_copy e84) ⟨Nat.le_of_ble_eq_true rfl, Nat.le_of_ble_eq_true rfl⟩ (As := []) (rest := [.ref a79]) rfl rfl (Nat.le_of_ble_eq_true rfl) dX2_copy_50 (kA ?_) xA
    obtain ⟨g87, hT⟩ := oifg hT
    obtain ⟨r88, e89, hT⟩ := obnd hT
    refine a_callV kv_X2_56 g87 (k_J2_add_3 e89) ⟨Nat.le_of_ble_eq_true rfl, Nat.le_of_ble_eq_true rfl⟩ (As := [.ref r83.1]) (rest := []) rfl rfl (Nat.le_of_ble_eq_true rfl) dX2_copy_53 (kI ?_) xI
    refine a_pop dX2_copy_56 rfl ?_
    refine a_goto 26 dX2_copy_57 rfl ?_
    obtain rfl := Option.some.inj hT
    refine a_mask [true, true, true, false] ?_
    exact he
theorem k_X2_copy_b26 {G : aG} {h0 : aH} {K : aRes → aH → Prop} {n9 : Nat} {x9 : (Nat × Nat × Nat × aH)} {e : (Nat × aH)} (hT : wlo (t_X2_copy_b26 (gZ G)) n9 x9 = some e) (he : (fun e => aTo (aEA e.1 e.2) K) e) : p_X2_copy_b26 G h0 K x9 := wlo_W kb_X2_copy_b26 n9 x9 e hT he
def t_X2_copy (Z : aZ) (h : aH) (o : Nat) : Option (Nat × aH) :=
  (nw Z h (.inr (1, [.null, .null, .null, .int 0, .int 0, .int 0, .int 0])) 7).bind fun h1 =>
  (gA 1 0 h1 o).bind fun a4 =>
  (clI Z h1 a4).bind fun h5 =>
  if isI Z h5 h1.2.1 = true then
  (t_X2_init_2 Z h5 h.2.1 h1.2.1).bind fun r10 =>
  (gA 1 1 r10.2 o).bind fun a13 =>
  if isC 8 r10.2 a13 = true then
  (t_J2_iterator Z r10.2 a13).bind fun r17 =>
  wlo (t_X2_copy_b26 Z) 100 (o, h.2.1, r17.1, r17.2)
  else none
  else none
theorem k_X2_copy {G : aG} {h : aH} {o : Nat} {e : (Nat × aH)} (hT : t_X2_copy (gZ G) h o = some e) : aMet G yX2_copy (ws_ yX2_copy cX2_copy 4 (Option.some (Jvm.ClassFile.FieldType.object "MazeBonds$Core"))) 5 127 [.ref o] h (aEA e.1 e.2) := by
  refine aMet.of (lv := [some (.ref o), none, none, none]) (by decide) (Nat.le_of_ble_eq_true rfl) 3 rfl ?_
  have he : aTo (aEA e.1 e.2) (aEA e.1 e.2) := aTo.rf
  unfold t_X2_copy at hT
  obtain ⟨h1, e2, hT⟩ := obnd hT
  refine a_new fn_X2_13 e2 dX2_copy_0 ?_
  refine a_dup dX2_copy_3 rfl ?_
  refine a_aload_n dX2_copy_4 rfl ?_
  obtain ⟨a4, e3, hT⟩ := obnd hT
  refine a_gA fl_X2_25_1 e3 dX2_copy_5 ?_
  obtain ⟨h5, e6, hT⟩ := obnd hT
  refine a_clone q258 q259 q260 q261 q262 q263 e6 (by decide) (Nat.le_of_ble_eq_true rfl) dX2_copy_8 ?_
  obtain ⟨g7, hT⟩ := oifg hT
  refine a_castI q264 g7 dX2_copy_11 ?_
  obtain ⟨r10, e11, hT⟩ := obnd hT
  refine a_callI ki_X2_29 (k_X2_init_2 e11) ⟨Nat.le_of_ble_eq_true rfl, Nat.le_of_ble_eq_true rfl⟩ (As := [.ref h1.2.1]) (rest := [.ref h.2.1]) rfl rfl (Nat.le_of_ble_eq_true rfl) dX2_copy_14 (kV ?_) xV
  refine a_astore_n (lv' := [some (.ref o), some (.ref h.2.1), none, none]) dX2_copy_17 rfl (by decide) rfl ?_
  refine a_aload_n dX2_copy_18 rfl ?_
  obtain ⟨a13, e12, hT⟩ := obnd hT
  refine a_gA fl_X2_12_1 e12 dX2_copy_19 ?_
  obtain ⟨g16, hT⟩ := oifg hT
  obtain ⟨r17, e18, hT⟩ := obnd hT
  refine a_callV kv_X2_37 g16 (k_J2_iterator e18) ⟨Nat.le_of_ble_eq_true rfl, Nat.le_of_ble_eq_true rfl⟩ (As := []) (rest := []) rfl rfl (Nat.le_of_ble_eq_true rfl) dX2_copy_22 (kA ?_) xA
  refine a_astore_n (lv' := [some (.ref o), some (.ref h.2.1), some (.ref r17.1), none]) dX2_copy_25 rfl (by decide) rfl ?_
  exact k_X2_copy_b26 hT he
theorem kv_X2_90 : aKV "MazeBonds$Core" 90 1 yX2_spreadFrom cX2_spreadFrom 8 (Option.some Jvm.ClassFile.FieldType.boolean) 3 := ⟨⟨TX2, 7, rfl⟩, Or.inl q586, q588, qs7, q73, q589, ⟨by decide +kernel, by decide +kernel, by decide +kernel⟩⟩
