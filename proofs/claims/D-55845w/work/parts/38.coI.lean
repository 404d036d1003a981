/-! decompiled (written by gen/comp.py) -/
set_option maxRecDepth 100000
theorem fn_X2_50 : aFN "MazeBonds$Core" 50 3 [.int 0, .int 0, .int 0, .int 0] 4 := ⟨RX5, TX5, tyX5, rfl, in_X5, tyX5_ok, q382, q388, q88, by decide⟩
theorem ki_X2_172 : aKI "MazeBonds$Core" 172 yX5_init cX5_init 2 1 := ⟨rfl, Or.inl q773, q396, q88, q397, ⟨by decide +kernel, by decide +kernel, by decide +kernel⟩⟩
abbrev M_X2_gardener : aM := (yX2_gardener.cls, cX2_gardener, 2, (Option.some Jvm.ClassFile.FieldType.int), [], yX2_gardener.name)
def t_X2_gardener_l26 (Z : aZ) (h : aH) (v0 : Nat) (v1 : Int32) (u0 : Int32) : Option ((Int32 ⊕ aXX) × aH) :=
  (t_X1_refuse Z h u0 13 4).bind fun r21 =>
  (match r21 with
  | (.inl y23, h24) =>
    (gA 1 1 h24 v0).bind fun a26 =>
    (nw Z h24 (.inr (3, [.int 0, .int 0, .int 0, .int 0])) 4).bind fun h27 =>
    (t_X5_init Z h27 h24.2.1 v1).bind fun r31 =>
    if isC 8 r31.2 a26 = true then
    (t_J2_add_3 Z r31.2 a26 h24.2.1).bind fun r36 =>
    (gI 1 5 r36.2 v0).bind fun z39 =>
    (pF 1 5 Z r36.2 v0 (.int (z39 + v1))).bind fun h41 =>
    (gA 1 1 h41 v0).bind fun a43 =>
    if isC 8 h41 a43 = true then
    (t_J2_size Z h41 a43).bind fun r47 =>
    some (.inl (r47.1 - 1), r47.2)
    else none
    else none
  | (.inr y23, h24) =>
    some (.inr y23, h24)
  )
theorem k_X2_gardener_l26 {G : aG} {h0 : aH} {K : aRes → aH → Prop} {h : aH} {v0 : Nat} {v1 : Int32} {u0 : Int32} {e : ((Int32 ⊕ aXX) × aH)} (hT : t_X2_gardener_l26 (gZ G) h v0 v1 u0 = some e) (he : (fun e => aTo (aXI e.1 e.2) K) e) : aW G M_X2_gardener 7 147 h0 K h 26 [some (.ref v0), some (.int v1)] [.int u0] := by
  unfold t_X2_gardener_l26 at hT
  refine a_bipush (v := 13) dX2_gardener_26 (by decide) ?_
  refine a_iconst (v := 4) dX2_gardener_28 (by decide) ?_
  obtain ⟨⟨y23 | y23, h24⟩, e22, hT⟩ := obnd hT
  · dsimp only at hT
    refine a_callS ks_X2_120 (k_X1_refuse e22) ⟨Nat.le_of_ble_eq_true rfl, Nat.le_of_ble_eq_true rfl⟩ (As := [.int u0, .int 13, .int 4]) (rest := []) rfl rfl (Nat.le_of_ble_eq_true rfl) dX2_gardener_29 (kXV ?_) yXV
    refine a_aload_n dX2_gardener_32 rfl ?_
    obtain ⟨a26, e25, hT⟩ := obnd hT
    refine a_gA fl_X2_12_1 e25 dX2_gardener_33 ?_
    obtain ⟨h27, e28, hT⟩ := obnd hT
    refine a_new fn_X2_50 e28 dX2_gardener_36 ?_
    refine a_dup dX2_gardener_39 rfl ?_
    refine a_iload_n dX2_gardener_40 rfl ?_
    obtain ⟨r31, e32, hT⟩ := obnd hT
    refine a_callI ki_X2_172 (k_X5_init e32) ⟨Nat.le_of_ble_eq_true rfl, Nat.le_of_ble_eq_true rfl⟩ (As := [.int v1]) (rest := [.ref h24.2.1, .ref a26]) rfl rfl (Nat.le_of_ble_eq_true rfl) dX2_gardener_41 (kV ?_) xV
    obtain ⟨g35, hT⟩ := oifg hT
    obtain ⟨r36, e37, hT⟩ := obnd hT
    refine a_callV kv_X2_56 g35 (k_J2_add_3 e37) ⟨Nat.le_of_ble_eq_true rfl, Nat.le_of_ble_eq_true rfl⟩ (As := [.ref h24.2.1]) (rest := []) rfl rfl (Nat.le_of_ble_eq_true rfl) dX2_gardener_44 (kI ?_) xI
    refine a_pop dX2_gardener_47 rfl ?_
    refine a_aload_n dX2_gardener_48 rfl ?_
    refine a_dup dX2_gardener_49 rfl ?_
    obtain ⟨z39, e38, hT⟩ := obnd hT
    refine a_gI fl_X2_68_1 e38 dX2_gardener_50 ?_
    refine a_iload_n dX2_gardener_53 rfl ?_
    refine a_iadd dX2_gardener_54 ?_
    obtain ⟨h41, e40, hT⟩ := obnd hT
    refine a_put (fp_X2_68_1 _) ⟨rfl, rfl⟩ e40 dX2_gardener_55 ?_
    refine a_aload_n dX2_gardener_58 rfl ?_
    obtain ⟨a43, e42, hT⟩ := obnd hT
    refine a_gA fl_X2_12_1 e42 dX2_gardener_59 ?_
    obtain ⟨g46, hT⟩ := oifg hT
    obtain ⟨r47, e48, hT⟩ := obnd hT
    refine a_callV kv_X2_74 g46 (k_J2_size e48) ⟨Nat.le_of_ble_eq_true rfl, Nat.le_of_ble_eq_true rfl⟩ (As := []) (rest := []) rfl rfl (Nat.le_of_ble_eq_true rfl) dX2_gardener_62 (kI ?_) xI
    refine a_iconst (v := 1) dX2_gardener_65 (by decide) ?_
    refine a_isub dX2_gardener_66 ?_
    obtain rfl := Option.some.inj hT
    exact a_iret rfl rfl dX2_gardener_67 (he _ _ ⟨rfl, rfl⟩)
  · dsimp only at hT
    refine a_callS ks_X2_120 (k_X1_refuse e22) ⟨Nat.le_of_ble_eq_true rfl, Nat.le_of_ble_eq_true rfl⟩ (As := [.int u0, .int 13, .int 4]) (rest := []) rfl rfl (Nat.le_of_ble_eq_true rfl) dX2_gardener_29 rXV (zXV ?_)
    obtain rfl := Option.some.inj hT
    exact a_out (by decide) (he _ _ ⟨rfl, rfl⟩)
def t_X2_gardener (Z : aZ) (h : aH) (o : Nat) (x0 : Int32) : Option ((Int32 ⊕ aXX) × aH) :=
  (t_X1_isIn x0 0 99).bind fun r3 =>
  (t_X1_requireRange Z h r3).bind fun r7 =>
  (match r7 with
  | (.inl y9, h10) =>
    (gA 1 1 h10 o).bind fun a12 =>
    if isC 8 h10 a12 = true then
    (t_J2_size Z h10 a12).bind fun r16 =>
    if r16.1 = 4 then
      t_X2_gardener_l26 Z r16.2 o x0 1
    else
      t_X2_gardener_l26 Z r16.2 o x0 0
    else none
  | (.inr y9, h10) =>
    some (.inr y9, h10)
  )
theorem k_X2_gardener {G : aG} {h : aH} {o : Nat} {x0 : Int32} {e : ((Int32 ⊕ aXX) × aH)} (hT : t_X2_gardener (gZ G) h o x0 = some e) : aMet G yX2_gardener (ws_ yX2_gardener cX2_gardener 2 (Option.some Jvm.ClassFile.FieldType.int)) 7 147 [.ref o, .int x0] h (aXI e.1 e.2) := by
  refine aMet.of (lv := [some (.ref o), some (.int x0)]) (by decide) (Nat.le_of_ble_eq_true rfl) 0 rfl ?_
  have he : aTo (aXI e.1 e.2) (aXI e.1 e.2) := aTo.rf
  unfold t_X2_gardener at hT
  refine a_iload_n dX2_gardener_0 rfl ?_
  refine a_iconst (v := 0) dX2_gardener_1 (by decide) ?_
  refine a_bipush (v := 99) dX2_gardener_2 (by decide) ?_
  obtain ⟨r3, e4, hT⟩ := obnd hT
  refine a_callS ks_X2_78 (k_X1_isIn e4) ⟨Nat.le_of_ble_eq_true rfl, Nat.le_of_ble_eq_true rfl⟩ (As := [.int x0, .int 0, .int 99]) (rest := []) rfl rfl (Nat.le_of_ble_eq_true rfl) dX2_gardener_4 (kI ?_) xI
  obtain ⟨⟨y9 | y9, h10⟩, e8, hT⟩ := obnd hT
  · dsimp only at hT
    refine a_callS ks_X2_139 (k_X1_requireRange e8) ⟨Nat.le_of_ble_eq_true rfl, Nat.le_of_ble_eq_true rfl⟩ (As := [.int r3]) (rest := []) rfl rfl (Nat.le_of_ble_eq_true rfl) dX2_gardener_7 (kXV ?_) yXV
    refine a_aload_n dX2_gardener_10 rfl ?_
    obtain ⟨a12, e11, hT⟩ := obnd hT
    refine a_gA fl_X2_12_1 e11 dX2_gardener_11 ?_
    obtain ⟨g15, hT⟩ := oifg hT
    obtain ⟨r16, e17, hT⟩ := obnd hT
    refine a_callV kv_X2_74 g15 (k_J2_size e17) ⟨Nat.le_of_ble_eq_true rfl, Nat.le_of_ble_eq_true rfl⟩ (As := []) (rest := []) rfl rfl (Nat.le_of_ble_eq_true rfl) dX2_gardener_14 (kI ?_) xI
    refine a_iconst (v := 4) dX2_gardener_17 (by decide) ?_
    refine a_icmp_ne 25 dX2_gardener_18 rfl (fun c18 => ?_) (fun c18 => ?_)
    · have hT := oifn c18 hT
      refine a_iconst (v := 0) dX2_gardener_25 (by decide) ?_
      exact k_X2_gardener_l26 hT he
    · have hT := oifp c18 hT
      refine a_iconst (v := 1) dX2_gardener_21 (by decide) ?_
      refine a_goto 26 dX2_gardener_22 rfl ?_
      exact k_X2_gardener_l26 hT he
  · dsimp only at hT
    refine a_callS ks_X2_139 (k_X1_requireRange e8) ⟨Nat.le_of_ble_eq_true rfl, Nat.le_of_ble_eq_true rfl⟩ (As := [.int r3]) (rest := []) rfl rfl (Nat.le_of_ble_eq_true rfl) dX2_gardener_7 rXV (zXV ?_)
    obtain rfl := Option.some.inj hT
    exact a_out (by decide) (he _ _ ⟨rfl, rfl⟩)
theorem kv_X2_110 : aKV "MazeBonds$Core" 110 1 yX2_distances cX2_distances 5 (Option.some (Jvm.ClassFile.FieldType.array Jvm.ClassFile.FieldType.int)) 2 := ⟨⟨TX2, 7, rfl⟩, Or.inl q578, q579, q580, q73, q581, ⟨by decide +kernel, by decide +kernel, by decide +kernel⟩⟩
abbrev M_X2_reached : aM := (yX2_reached.cls, cX2_reached, 5, (Option.some Jvm.ClassFile.FieldType.int), [], yX2_reached.name)
def p_X2_reached_b12 (G : aG) (h0 : aH) (K : aRes → aH → Prop) (x9 : (Int32 × Nat × Int32 × aH)) : Prop := aW G M_X2_reached 6 162 h0 K x9.2.2.2 12 [none, none, some (.int x9.1), some (.ref x9.2.1), some (.int x9.2.2.1)] []
def t_X2_reached_l36 (Z : aZ) (h : aH) (v3 : Nat) (v4 : Int32) (u0 : Int32) (u1 : Int32) : Option ((Int32 × Nat × Int32 × aH) ⊕ (Int32 × aH)) :=
  some (.inl ((u1 ||| u0), v3, (v4 + 1), h))
theorem k_X2_reached_l36 {G : aG} {h0 : aH} {K : aRes → aH → Prop} {h : aH} {v3 : Nat} {v4 : Int32} {u0 : Int32} {u1 : Int32} {e : ((Int32 × Nat × Int32 × aH) ⊕ (Int32 × aH))} (hT : t_X2_reached_l36 (gZ G) h v3 v4 u0 u1 = some e) (he : (Sum.elim (p_X2_reached_b12 G h0 K) (fun e => aTo (aEI e.1 e.2) K)) e) : aW G M_X2_reached 6 162 h0 K h 36 [none, none, none, some (.ref v3), some (.int v4)] [.int u0, .int u1] := by
  unfold t_X2_reached_l36 at hT
  refine a_ior dX2_reached_36 ?_
  refine a_istore_n (lv' := [none, none, some (.int (u1 ||| u0)), some (.ref v3), some (.int v4)]) dX2_reached_37 rfl (by decide) rfl ?_
  refine a_iinc (v := (v4 + 1)) (lv' := [none, none, some (.int (u1 ||| u0)), some (.ref v3), some (.int (v4 + 1))]) dX2_reached_38 rfl (by rfl) rfl (by decide) rfl ?_
  refine a_goto 12 dX2_reached_41 rfl ?_
  obtain rfl := Option.some.inj hT
  exact he
def t_X2_reached_b12 (Z : aZ) : (Int32 × Nat × Int32 × aH) → Option ((Int32 × Nat × Int32 × aH) ⊕ (Int32 × aH)) := fun (v2, v3, v4, h) =>
  if 16 ≤ v4 then
    some (.inr ((v2, h)))
  else
    (ldI Z h v3 v4).bind fun z8 =>
    if z8 = (-1) then
      t_X2_reached_l36 Z h v3 v4 0 v2
    else
      t_X2_reached_l36 Z h v3 v4 (1 <<< (v4 &&& 31)) v2
theorem kb_X2_reached_b12 {G : aG} {h0 : aH} {K : aRes → aH → Prop} : ∀ (x9 : (Int32 × Nat × Int32 × aH)) (e : ((Int32 × Nat × Int32 × aH) ⊕ (Int32 × aH))), t_X2_reached_b12 (gZ G) x9 = some e → (Sum.elim (p_X2_reached_b12 G h0 K) (fun e => aTo (aEI e.1 e.2) K)) e → p_X2_reached_b12 G h0 K x9 := by
  intro x9 e hT he
  obtain ⟨v2, v3, v4, h⟩ := x9
  unfold p_X2_reached_b12
  unfold t_X2_reached_b12 at hT
  show aW G M_X2_reached 6 162 h0 K h 12 [none, none, some (.int v2), some (.ref v3), some (.int v4)] []
  dsimp only at hT
  refine a_iload dX2_reached_12 rfl ?_
  refine a_bipush (v := 16) dX2_reached_14 (by decide) ?_
  refine a_icmp_ge 44 dX2_reached_16 rfl (fun c6 => ?_) (fun c6 => ?_)
  · have hT := oifp c6 hT
    refine a_iload_n dX2_reached_44 rfl ?_
    obtain rfl := Option.some.inj hT
    exact a_iret rfl rfl dX2_reached_45 (he _ _ ⟨rfl, rfl⟩)
  · have hT := oifn c6 hT
    refine a_iload_n dX2_reached_19 rfl ?_
    refine a_aload_n dX2_reached_20 rfl ?_
    refine a_iload dX2_reached_21 rfl ?_
    obtain ⟨z8, e7, hT⟩ := obnd hT
    refine a_ldI e7 dX2_reached_23 ?_
    refine a_iconst (v := (-1)) dX2_reached_24 (by decide) ?_
    refine a_icmp_ne 32 dX2_reached_25 rfl (fun c9 => ?_) (fun c9 => ?_)
    · have hT := oifn c9 hT
      refine a_iconst (v := 1) dX2_reached_32 (by decide) ?_
      refine a_iload dX2_reached_33 rfl ?_
      refine a_ishl dX2_reached_35 ?_
      refine a_mask [true, true, false, true, true] ?_
      exact k_X2_reached_l36 hT he
    · have hT := oifp c9 hT
      refine a_iconst (v := 0) dX2_reached_28 (by decide) ?_
      refine a_goto 36 dX2_reached_29 rfl ?_
      refine a_mask [true, true, false, true, true] ?_
      exact k_X2_reached_l36 hT he
theorem k_X2_reached_b12 {G : aG} {h0 : aH} {K : aRes → aH → Prop} {n9 : Nat} {x9 : (Int32 × Nat × Int32 × aH)} {e : (Int32 × aH)} (hT : wlo (t_X2_reached_b12 (gZ G)) n9 x9 = some e) (he : (fun e => aTo (aEI e.1 e.2) K) e) : p_X2_reached_b12 G h0 K x9 := wlo_W kb_X2_reached_b12 n9 x9 e hT he
def t_X2_reached (Z : aZ) (h : aH) (o : Nat) (x0 : Int32) : Option (Int32 × aH) :=
  if isC 1 h o = true then
  (t_X2_distances Z h o x0 0).bind fun r4 =>
  wlo (t_X2_reached_b12 Z) 100 (0, r4.1, 0, r4.2)
  else none
theorem k_X2_reached {G : aG} {h : aH} {o : Nat} {x0 : Int32} {e : (Int32 × aH)} (hT : t_X2_reached (gZ G) h o x0 = some e) : aMet G yX2_reached (ws_ yX2_reached cX2_reached 5 (Option.some Jvm.ClassFile.FieldType.int)) 6 162 [.ref o, .int x0] h (aEI e.1 e.2) := by
  refine aMet.of (lv := [some (.ref o), some (.int x0), none, none, none]) (by decide) (Nat.le_of_ble_eq_true rfl) 3 rfl ?_
  have he : aTo (aEI e.1 e.2) (aEI e.1 e.2) := aTo.rf
  unfold t_X2_reached at hT
  refine a_iconst (v := 0) dX2_reached_0 (by decide) ?_
  refine a_istore_n (lv' := [some (.ref o), some (.int x0), some (.int 0), none, none]) dX2_reached_1 rfl (by decide) rfl ?_
  refine a_aload_n dX2_reached_2 rfl ?_
  refine a_iload_n dX2_reached_3 rfl ?_
  refine a_iconst (v := 0) dX2_reached_4 (by decide) ?_
  obtain ⟨g3, hT⟩ := oifg hT
  obtain ⟨r4, e5, hT⟩ := obnd hT
  refine a_callV kv_X2_110 g3 (k_X2_distances e5) ⟨Nat.le_of_ble_eq_true rfl, Nat.le_of_ble_eq_true rfl⟩ (As := [.int x0, .int 0]) (rest := []) rfl rfl (Nat.le_of_ble_eq_true rfl) dX2_reached_5 (kA ?_) xA
  refine a_astore_n (lv' := [some (.ref o), some (.int x0), some (.int 0), some (.ref r4.1), none]) dX2_reached_8 rfl (by decide) rfl ?_
  refine a_iconst (v := 0) dX2_reached_9 (by decide) ?_
  refine a_istore (lv' := [some (.ref o), some (.int x0), some (.int 0), some (.ref r4.1), some (.int 0)]) dX2_reached_10 rfl (by decide) rfl ?_
  refine a_mask [false, false, true, true, true] ?_
  exact k_X2_reached_b12 hT he
theorem kv_X2_189 : aKV "MazeBonds$Core" 189 1 yX2_requireVisitor cX2_requireVisitor 2 (Option.some (Jvm.ClassFile.FieldType.object "MazeBonds$Visitor")) 1 := ⟨⟨TX2, 7, rfl⟩, Or.inl q808, q810, qs11, q73, q811, ⟨by decide +kernel, by decide +kernel, by decide +kernel⟩⟩
theorem fl_X2_193_4 : aFL "MazeBonds$Core" 193 4 3 := ⟨RX6, TX6, 7, "MazeBonds$Visitor", rfl, in_X6, by decide, Or.inl rfl, Or.inr ⟨_, q508⟩⟩
theorem ku_X2_201_4 : aKU "MazeBonds$Core" 201 4 ⟨"MazeBonds$Visitor", "pay", "(I)V"⟩ yX4_pay cX4_pay 2 (Option.none : Option Jvm.ClassFile.FieldType) 1 := ⟨RX6, TX6, 7, rfl, rfl, q817, q818, q819, q735, q87, q736, ⟨by decide +kernel, by decide +kernel, by decide +kernel⟩⟩
theorem ku_X2_202_3 : aKU "MazeBonds$Core" 202 3 ⟨"MazeBonds$Gardener", "get", "(I)V"⟩ yX4_get cX4_get 2 (Option.none : Option Jvm.ClassFile.FieldType) 1 := ⟨RX5, TX5, 4, rfl, rfl, q820, q821, q823, q824, q87, q825, ⟨by decide +kernel, by decide +kernel, by decide +kernel⟩⟩
theorem fl_X2_204_3 : aFL "MazeBonds$Core" 204 3 1 := ⟨RX5, TX5, 4, "MazeBonds$Gardener", rfl, in_X5, by decide, Or.inl rfl, Or.inr ⟨_, q403⟩⟩
theorem fp_X2_204_3 (nm9 : String) : aFP "MazeBonds$Core" 204 3 1 .int nm9 := ⟨RX5, TX5, 4, "MazeBonds$Gardener", tyX5, rfl, in_X5, by decide, Or.inl rfl, Or.inr ⟨_, q403⟩, tyX5_ok, nmX5, rfl, Or.inl rfl⟩
theorem fp_X2_198_4 (nm9 : String) : aFP "MazeBonds$Core" 198 4 4 .int nm9 := ⟨RX6, TX6, 7, "MazeBonds$Visitor", tyX6, rfl, in_X6, by decide, Or.inl rfl, Or.inr ⟨_, q511⟩, tyX6_ok, nmX6, rfl, Or.inl rfl⟩
theorem fp_X2_207_4 (nm9 : String) : aFP "MazeBonds$Core" 207 4 5 .int nm9 := ⟨RX6, TX6, 7, "MazeBonds$Visitor", tyX6, rfl, in_X6, by decide, Or.inl rfl, Or.inr ⟨_, q514⟩, tyX6_ok, nmX6, rfl, Or.inl rfl⟩
abbrev M_X2_bond : aM := (yX2_bond.cls, cX2_bond, 6, (Option.some Jvm.ClassFile.FieldType.int), [], yX2_bond.name)
def t_X2_bond_l70 (Z : aZ) (h : aH) (v0 : Nat) (v1 : Int32) (v3 : Int32) (v4 : Nat) (v5 : Nat) (u0 : Int32) : Option ((Int32 ⊕ aXX) × aH) :=
  (gI 1 3 h v0).bind fun z57 =>
  (t_X1_refuse Z h u0 10 z57).bind fun r60 =>
  (match r60 with
  | (.inl y62, h63) =>
    if isC 4 h63 v5 = true then
    (t_X4_pay_4 Z h63 v5 (2 * v3)).bind fun r67 =>
    (match r67 with
    | (.inl y69, h70) =>
      if isC 3 h70 v4 = true then
      (t_X4_get_3 Z h70 v4 (2 * v3)).bind fun r74 =>
      (gI 3 1 r74.2 v4).bind fun z77 =>
      (pF 3 1 Z r74.2 v4 (.int (z77 + (2 * v3)))).bind fun h79 =>
      (pF 4 4 Z h79 v5 (.int v1)).bind fun h81 =>
      (pF 4 5 Z h81 v5 (.int v3)).bind fun h83 =>
      if isC 4 h83 v5 = true then
      (t_X4_coins_4 Z h83 v5).bind fun r87 =>
      some (.inl r87.1, r87.2)
      else none
      else none
    | (.inr y69, h70) =>
      some (.inr y69, h70)
    )
    else none
  | (.inr y62, h63) =>
    some (.inr y62, h63)
  )
theorem k_X2_bond_l70 {G : aG} {h0 : aH} {K : aRes → aH → Prop} {h : aH} {v0 : Nat} {v1 : Int32} {v3 : Int32} {v4 : Nat} {v5 : Nat} {u0 : Int32} {e : ((Int32 ⊕ aXX) × aH)} (hT : t_X2_bond_l70 (gZ G) h v0 v1 v3 v4 v5 u0 = some e) (he : (fun e => aTo (aXI e.1 e.2) K) e) : aW G M_X2_bond 7 148 h0 K h 70 [some (.ref v0), some (.int v1), none, some (.int v3), some (.ref v4), some (.ref v5)] [.int u0] := by
  unfold t_X2_bond_l70 at hT
  refine a_bipush (v := 10) dX2_bond_70 (by decide) ?_
  refine a_aload_n dX2_bond_72 rfl ?_
  obtain ⟨z57, e56, hT⟩ := obnd hT
  refine a_gI fl_X2_21_1 e56 dX2_bond_73 ?_
  obtain ⟨⟨y62 | y62, h63⟩, e61, hT⟩ := obnd hT
  · dsimp only at hT
    refine a_callS ks_X2_120 (k_X1_refuse e61) ⟨Nat.le_of_ble_eq_true rfl, Nat.le_of_ble_eq_true rfl⟩ (As := [.int u0, .int 10, .int z57]) (rest := []) rfl rfl (Nat.le_of_ble_eq_true rfl) dX2_bond_76 (kXV ?_) yXV
    refine a_aload dX2_bond_79 rfl ?_
    refine a_iconst (v := 2) dX2_bond_81 (by decide) ?_
    refine a_iload_n dX2_bond_82 rfl ?_
    refine a_imul dX2_bond_83 ?_
    obtain ⟨g66, hT⟩ := oifg hT
    obtain ⟨⟨y69 | y69, h70⟩, e68, hT⟩ := obnd hT
    · dsimp only at hT
      refine a_callU ku_X2_201_4 g66 (k_X4_pay_4 e68) ⟨Nat.le_of_ble_eq_true rfl, Nat.le_of_ble_eq_true rfl⟩ (As := [.int (2 * v3)]) (rest := []) rfl rfl (Nat.le_of_ble_eq_true rfl) dX2_bond_84 (kXV ?_) yXV
      refine a_aload dX2_bond_87 rfl ?_
      refine a_iconst (v := 2) dX2_bond_89 (by decide) ?_
      refine a_iload_n dX2_bond_90 rfl ?_
      refine a_imul dX2_bond_91 ?_
      obtain ⟨g73, hT⟩ := oifg hT
      obtain ⟨r74, e75, hT⟩ := obnd hT
      refine a_callU ku_X2_202_3 g73 (k_X4_get_3 e75) ⟨Nat.le_of_ble_eq_true rfl, Nat.le_of_ble_eq_true rfl⟩ (As := [.int (2 * v3)]) (rest := []) rfl rfl (Nat.le_of_ble_eq_true rfl) dX2_bond_92 (kV ?_) xV
      refine a_aload dX2_bond_95 rfl ?_
      refine a_dup dX2_bond_97 rfl ?_
      obtain ⟨z77, e76, hT⟩ := obnd hT
      refine a_gI fl_X2_204_3 e76 dX2_bond_98 ?_
      refine a_iconst (v := 2) dX2_bond_101 (by decide) ?_
      refine a_iload_n dX2_bond_102 rfl ?_
      refine a_imul dX2_bond_103 ?_
      refine a_iadd dX2_bond_104 ?_
      obtain ⟨h79, e78, hT⟩ := obnd hT
      refine a_put (fp_X2_204_3 _) ⟨rfl, rfl⟩ e78 dX2_bond_105 ?_
      refine a_aload dX2_bond_108 rfl ?_
      refine a_iload_n dX2_bond_110 rfl ?_
      obtain ⟨h81, e80, hT⟩ := obnd hT
      refine a_put (fp_X2_198_4 _) ⟨rfl, rfl⟩ e80 dX2_bond_111 ?_
      refine a_aload dX2_bond_114 rfl ?_
      refine a_iload_n dX2_bond_116 rfl ?_
      obtain ⟨h83, e82, hT⟩ := obnd hT
      refine a_put (fp_X2_207_4 _) ⟨rfl, rfl⟩ e82 dX2_bond_117 ?_
      refine a_aload dX2_bond_120 rfl ?_
      obtain ⟨g86, hT⟩ := oifg hT
      obtain ⟨r87, e88, hT⟩ := obnd hT
      refine a_callU ku_X2_210_4 g86 (k_X4_coins_4 e88) ⟨Nat.le_of_ble_eq_true rfl, Nat.le_of_ble_eq_true rfl⟩ (As := []) (rest := []) rfl rfl (Nat.le_of_ble_eq_true rfl) dX2_bond_122 (kI ?_) xI
      obtain rfl := Option.some.inj hT
      exact a_iret rfl rfl dX2_bond_125 (he _ _ ⟨rfl, rfl⟩)
    · dsimp only at hT
      refine a_callU ku_X2_201_4 g66 (k_X4_pay_4 e68) ⟨Nat.le_of_ble_eq_true rfl, Nat.le_of_ble_eq_true rfl⟩ (As := [.int (2 * v3)]) (rest := []) rfl rfl (Nat.le_of_ble_eq_true rfl) dX2_bond_84 rXV (zXV ?_)
      obtain rfl := Option.some.inj hT
      exact a_out (by decide) (he _ _ ⟨rfl, rfl⟩)
  · dsimp only at hT
    refine a_callS ks_X2_120 (k_X1_refuse e61) ⟨Nat.le_of_ble_eq_true rfl, Nat.le_of_ble_eq_true rfl⟩ (As := [.int u0, .int 10, .int z57]) (rest := []) rfl rfl (Nat.le_of_ble_eq_true rfl) dX2_bond_76 rXV (zXV ?_)
    obtain rfl := Option.some.inj hT
    exact a_out (by decide) (he _ _ ⟨rfl, rfl⟩)
def t_X2_bond (Z : aZ) (h : aH) (o : Nat) (x0 : Int32) (x1 : Int32) (x2 : Int32) : Option ((Int32 ⊕ aXX) × aH) :=
  if isC 1 h o = true then
  (t_X2_requireGardener Z h o x0).bind fun r4 =>
  (match r4 with
  | (.inl y6, h7) =>
    if isC 1 h7 o = true then
    (t_X2_requireVisitor Z h7 o x1).bind fun r11 =>
    (match r11 with
    | (.inl y13, h14) =>
      (t_X1_isIn x2 1 5).bind fun r17 =>
      (t_X1_requireRange Z h14 r17).bind fun r21 =>
      (match r21 with
      | (.inl y23, h24) =>
        if isC 4 h24 y13 = true then
        (t_X6_isOut Z h24 y13).bind fun r28 =>
        (gI 4 3 r28.2 y13).bind fun z31 =>
        (t_X1_refuse Z r28.2 r28.1 9 z31).bind fun r34 =>
        (match r34 with
        | (.inl y36, h37) =>
          if isC 4 h37 y13 = true then
          (t_X6_hasBond Z h37 y13).bind fun r41 =>
          (gI 4 4 r41.2 y13).bind fun z44 =>
          (t_X1_refuse Z r41.2 r41.1 8 z44).bind fun r47 =>
          (match r47 with
          | (.inl y49, h50) =>
            (gI 4 2 h50 y13).bind fun z52 =>
            (gI 1 3 h50 o).bind fun z54 =>
            if z52 = z54 then
              t_X2_bond_l70 Z h50 o x0 x2 y6 y13 1
            else
              t_X2_bond_l70 Z h50 o x0 x2 y6 y13 0
          | (.inr y49, h50) =>
            some (.inr y49, h50)
          )
          else none
        | (.inr y36, h37) =>
          some (.inr y36, h37)
        )
        else none
      | (.inr y23, h24) =>
        some (.inr y23, h24)
      )
    | (.inr y13, h14) =>
      some (.inr y13, h14)
    )
    else none
  | (.inr y6, h7) =>
    some (.inr y6, h7)
  )
  else none
theorem k_X2_bond {G : aG} {h : aH} {o : Nat} {x0 : Int32} {x1 : Int32} {x2 : Int32} {e : ((Int32 ⊕ aXX) × aH)} (hT : t_X2_bond (gZ G) h o x0 x1 x2 = some e) : aMet G yX2_bond (ws_ yX2_bond cX2_bond 6 (Option.some Jvm.ClassFile.FieldType.int)) 7 148 [.ref o, .int x0, .int x1, .int x2] h (aXI e.1 e.2) := by
  refine aMet.of (lv := [some (.ref o), some (.int x0), some (.int x1), some (.int x2), none, none]) (by decide) (Nat.le_of_ble_eq_true rfl) 2 rfl ?_
  have he : aTo (aXI e.1 e.2) (aXI e.1 e.2) := aTo.rf
  unfold t_X2_bond at hT
  refine a_aload_n dX2_bond_0 rfl ?_
  refine a_iload_n dX2_bond_1 rfl ?_
  obtain ⟨g3, hT⟩ := oifg hT
  obtain ⟨⟨y6 | y6, h7⟩, e5, hT⟩ := obnd hT
  · dsimp only at hT
    refine a_callV kv_X2_149 g3 (k_X2_requireGardener e5) ⟨Nat.le_of_ble_eq_true rfl, Nat.le_of_ble_eq_true rfl⟩ (As := [.int x0]) (rest := []) rfl rfl (Nat.le_of_ble_eq_true rfl) dX2_bond_2 (kXA ?_) yXA
    refine a_astore (lv' := [some (.ref o), some (.int x0), some (.int x1), some (.int x2), some (.ref y6), none]) dX2_bond_5 rfl (by decide) rfl ?_
    refine a_aload_n dX2_bond_7 rfl ?_
    refine a_iload_n dX2_bond_8 rfl ?_
    obtain ⟨g10, hT⟩ := oifg hT
    obtain ⟨⟨y13 | y13, h14⟩, e12, hT⟩ := obnd hT
    · dsimp only at hT
      refine a_callV kv_X2_189 g10 (k_X2_requireVisitor e12) ⟨Nat.le_of_ble_eq_true rfl, Nat.le_of_ble_eq_true rfl⟩ (As := [.int x1]) (rest := []) rfl rfl (Nat.le_of_ble_eq_true rfl) dX2_bond_9 (kXA ?_) yXA
      refine a_astore (lv' := [some (.ref o), some (.int x0), some (.int x1), some (.int x2), some (.ref y6), some (.ref y13)]) dX2_bond_12 rfl (by decide) rfl ?_
      refine a_iload_n dX2_bond_14 rfl ?_
      refine a_iconst (v := 1) dX2_bond_15 (by decide) ?_
      refine a_iconst (v := 5) dX2_bond_16 (by decide) ?_
      obtain ⟨r17, e18, hT⟩ := obnd hT
      refine a_callS ks_X2_78 (k_X1_isIn e18) ⟨Nat.le_of_ble_eq_true rfl, Nat.le_of_ble_eq_true rfl⟩ (As := [.int x2, .int 1, .int 5]) (rest := []) rfl rfl (Nat.le_of_ble_eq_true rfl) dX2_bond_17 (kI ?_) xI
      obtain ⟨⟨y23 | y23, h24⟩, e22, hT⟩ := obnd hT
      · dsimp only at hT
        refine a_callS ks_X2_139 (k_X1_requireRange e22) ⟨Nat.le_of_ble_eq_true rfl, Nat.le_of_ble_eq_true rfl⟩ (As := [.int r17]) (rest := []) rfl rfl (Nat.le_of_ble_eq_true rfl) dX2_bond_20 (kXV ?_) yXV
        refine a_aload dX2_bond_23 rfl ?_
        obtain ⟨g27, hT⟩ := oifg hT
        obtain ⟨r28, e29, hT⟩ := obnd hT
        refine a_callV kv_X2_163 g27 (k_X6_isOut e29) ⟨Nat.le_of_ble_eq_true rfl, Nat.le_of_ble_eq_true rfl⟩ (As := []) (rest := []) rfl rfl (Nat.le_of_ble_eq_true rfl) dX2_bond_25 (kI ?_) xI
        refine a_bipush (v := 9) dX2_bond_28 (by decide) ?_
        refine a_aload dX2_bond_30 rfl ?_
        obtain ⟨z31, e30, hT⟩ := obnd hT
        refine a_gI fl_X2_193_4 e30 dX2_bond_32 ?_
        obtain ⟨⟨y36 | y36, h37⟩, e35, hT⟩ := obnd hT
        · dsimp only at hT
          refine a_callS ks_X2_120 (k_X1_refuse e35) ⟨Nat.le_of_ble_eq_true rfl, Nat.le_of_ble_eq_true rfl⟩ (As := [.int r28.1, .int 9, .int z31]) (rest := []) rfl rfl (Nat.le_of_ble_eq_true rfl) dX2_bond_35 (kXV ?_) yXV
          refine a_aload dX2_bond_38 rfl ?_
          obtain ⟨g40, hT⟩ := oifg hT
          obtain ⟨r41, e42, hT⟩ := obnd hT
          refine a_callV kv_X2_195 g40 (k_X6_hasBond e42) ⟨Nat.le_of_ble_eq_true rfl, Nat.le_of_ble_eq_true rfl⟩ (As := []) (rest := []) rfl rfl (Nat.le_of_ble_eq_true rfl) dX2_bond_40 (kI ?_) xI
          refine a_bipush (v := 8) dX2_bond_43 (by decide) ?_
          refine a_aload dX2_bond_45 rfl ?_
          obtain ⟨z44, e43, hT⟩ := obnd hT
          refine a_gI fl_X2_198_4 e43 dX2_bond_47 ?_
          obtain ⟨⟨y49 | y49, h50⟩, e48, hT⟩ := obnd hT
          · dsimp only at hT
            refine a_callS ks_X2_120 (k_X1_refuse e48) ⟨Nat.le_of_ble_eq_true rfl, Nat.le_of_ble_eq_true rfl⟩ (As := [.int r41.1, .int 8, .int z44]) (rest := []) rfl rfl (Nat.le_of_ble_eq_true rfl) dX2_bond_50 (kXV ?_) yXV
            refine a_aload dX2_bond_53 rfl ?_
            obtain ⟨z52, e51, hT⟩ := obnd hT
            refine a_gI fl_X2_166_4 e51 dX2_bond_55 ?_
            refine a_aload_n dX2_bond_58 rfl ?_
            obtain ⟨z54, e53, hT⟩ := obnd hT
            refine a_gI fl_X2_21_1 e53 dX2_bond_59 ?_
            refine a_icmp_ne 69 dX2_bond_62 rfl (fun c55 => ?_) (fun c55 => ?_)
            · have hT := oifn c55 hT
              refine a_iconst (v := 0) dX2_bond_69 (by decide) ?_
              refine a_mask [true, true, false, true, true, true] ?_
              exact k_X2_bond_l70 hT he
            · have hT := oifp c55 hT
              refine a_iconst (v := 1) dX2_bond_65 (by decide) ?_
              refine a_goto 70 dX2_bond_66 rfl ?_
              refine a_mask [true, true, false, true, true, true] ?_
              exact k_X2_bond_l70 hT he
          · dsimp only at hT
            refine a_callS ks_X2_120 (k_X1_refuse e48) ⟨Nat.le_of_ble_eq_true rfl, Nat.le_of_ble_eq_true rfl⟩ (As := [.int r41.1, .int 8, .int z44]) (rest := []) rfl rfl (Nat.le_of_ble_eq_true rfl) dX2_bond_50 rXV (zXV ?_)
            obtain rfl := Option.some.inj hT
            exact a_out (by decide) (he _ _ ⟨rfl, rfl⟩)
        · dsimp only at hT
          refine a_callS ks_X2_120 (k_X1_refuse e35) ⟨Nat.le_of_ble_eq_true rfl, Nat.le_of_ble_eq_true rfl⟩ (As := [.int r28.1, .int 9, .int z31]) (rest := []) rfl rfl (Nat.le_of_ble_eq_true rfl) dX2_bond_35 rXV (zXV ?_)
          obtain rfl := Option.some.inj hT
          exact a_out (by decide) (he _ _ ⟨rfl, rfl⟩)
      · dsimp only at hT
        refine a_callS ks_X2_139 (k_X1_requireRange e22) ⟨Nat.le_of_ble_eq_true rfl, Nat.le_of_ble_eq_true rfl⟩ (As := [.int r17]) (rest := []) rfl rfl (Nat.le_of_ble_eq_true rfl) dX2_bond_20 rXV (zXV ?_)
        obtain rfl := Option.some.inj hT
        exact a_out (by decide) (he _ _ ⟨rfl, rfl⟩)
    · dsimp only at hT
      refine a_callV kv_X2_189 g10 (k_X2_requireVisitor e12) ⟨Nat.le_of_ble_eq_true rfl, Nat.le_of_ble_eq_true rfl⟩ (As := [.int x1]) (rest := []) rfl rfl (Nat.le_of_ble_eq_true rfl) dX2_bond_9 rXA (zXA ?_)
      obtain rfl := Option.some.inj hT
      exact a_out (by decide) (he _ _ ⟨rfl, rfl⟩)
  · dsimp only at hT
    refine a_callV kv_X2_149 g3 (k_X2_requireGardener e5) ⟨Nat.le_of_ble_eq_true rfl, Nat.le_of_ble_eq_true rfl⟩ (As := [.int x0]) (rest := []) rfl rfl (Nat.le_of_ble_eq_true rfl) dX2_bond_2 rXA (zXA ?_)
    obtain rfl := Option.some.inj hT
    exact a_out (by decide) (he _ _ ⟨rfl, rfl⟩)
theorem fp_X2_166_4 (nm9 : String) : aFP "MazeBonds$Core" 166 4 2 .int nm9 := ⟨RX6, TX6, 7, "MazeBonds$Visitor", tyX6, rfl, in_X6, by decide, Or.inl rfl, Or.inr ⟨_, q505⟩, tyX6_ok, nmX6, rfl, Or.inl rfl⟩
theorem fp_X2_193_4 (nm9 : String) : aFP "MazeBonds$Core" 193 4 3 .int nm9 := ⟨RX6, TX6, 7, "MazeBonds$Visitor", tyX6, rfl, in_X6, by decide, Or.inl rfl, Or.inr ⟨_, q508⟩, tyX6_ok, nmX6, rfl, Or.inl rfl⟩
theorem kv_X2_224 : aKV "MazeBonds$Core" 224 1 yX2_settle cX2_settle 4 (Option.none : Option Jvm.ClassFile.FieldType) 1 := ⟨⟨TX2, 7, rfl⟩, Or.inl q838, q840, qs12, q73, q841, ⟨by decide +kernel, by decide +kernel, by decide +kernel⟩⟩
abbrev M_X2_walk : aM := (yX2_walk.cls, cX2_walk, 5, (Option.some Jvm.ClassFile.FieldType.int), [], yX2_walk.name)
def t_X2_walk_l124 (Z : aZ) (h : aH) (v0 : Nat) (v3 : Nat) (v4 : Int32) : Option ((Int32 ⊕ aXX) × aH) :=
  if isC 4 h v3 = true then
  (t_X6_isOut Z h v3).bind fun r82 =>
  if r82.1 = 0 then
    some (.inl v4, r82.2)
  else
    if isC 1 r82.2 v0 = true then
    (t_X2_settle Z r82.2 v0 v3).bind fun r88 =>
    some (.inl v4, r88.2)
    else none
  else none
theorem k_X2_walk_l124 {G : aG} {h0 : aH} {K : aRes → aH → Prop} {h : aH} {v0 : Nat} {v3 : Nat} {v4 : Int32} {e : ((Int32 ⊕ aXX) × aH)} (hT : t_X2_walk_l124 (gZ G) h v0 v3 v4 = some e) (he : (fun e => aTo (aXI e.1 e.2) K) e) : aW G M_X2_walk 7 148 h0 K h 124 [some (.ref v0), none, none, some (.ref v3), some (.int v4)] [] := by
  unfold t_X2_walk_l124 at hT
  refine a_aload_n dX2_walk_124 rfl ?_
  obtain ⟨g81, hT⟩ := oifg hT
  obtain ⟨r82, e83, hT⟩ := obnd hT
  refine a_callV kv_X2_163 g81 (k_X6_isOut e83) ⟨Nat.le_of_ble_eq_true rfl, Nat.le_of_ble_eq_true rfl⟩ (As := []) (rest := []) rfl rfl (Nat.le_of_ble_eq_true rfl) dX2_walk_125 (kI ?_) xI
  refine a_if_eq 136 dX2_walk_128 rfl (fun c84 => ?_) (fun c84 => ?_)
  · have hT := oifp c84 hT
    refine a_iload dX2_walk_136 rfl ?_
    obtain rfl := Option.some.inj hT
    exact a_iret rfl rfl dX2_walk_138 (he _ _ ⟨rfl, rfl⟩)
  · have hT := oifn c84 hT
    refine a_aload_n dX2_walk_131 rfl ?_
    refine a_aload_n dX2_walk_132 rfl ?_
    obtain ⟨g87, hT⟩ := oifg hT
    obtain ⟨r88, e89, hT⟩ := obnd hT
    refine a_callV kv_X2_224 g87 (k_X2_settle e89) ⟨Nat.le_of_ble_eq_true rfl, Nat.le_of_ble_eq_true rfl⟩ (As := [.ref v3]) (rest := []) rfl rfl (Nat.le_of_ble_eq_true rfl) dX2_walk_133 (kV ?_) xV
    refine a_iload dX2_walk_136 rfl ?_
    obtain rfl := Option.some.inj hT
    exact a_iret rfl rfl dX2_walk_138 (he _ _ ⟨rfl, rfl⟩)
def t_X2_walk_l76 (Z : aZ) (h : aH) (v0 : Nat) (v3 : Nat) (v4 : Int32) (u0 : Int32) : Option ((Int32 ⊕ aXX) × aH) :=
  (gA 1 0 h v0).bind fun a55 =>
  (gI 4 2 h v3).bind fun z57 =>
  (t_X1_hedgeOf z57 v4).bind fun r60 =>
  (ldI Z h a55 r60).bind fun z63 =>
  (t_X1_refuse Z h u0 12 z63).bind fun r66 =>
  (match r66 with
  | (.inl y68, h69) =>
    (pF 4 2 Z h69 v3 (.int v4)).bind fun h71 =>
    (gI 4 3 h71 v3).bind fun z73 =>
    (pF 4 3 Z h71 v3 (.int (z73 + 1))).bind fun h75 =>
    (gI 1 3 h75 v0).bind fun z77 =>
    if v4 = z77 then
      if isC 4 h75 v3 = true then
      (t_X6_meet Z h75 v3).bind fun r93 =>
      t_X2_walk_l124 Z r93.2 v0 v3 v4
      else none
    else
      t_X2_walk_l124 Z h75 v0 v3 v4
  | (.inr y68, h69) =>
    some (.inr y68, h69)
  )
theorem k_X2_walk_l76 {G : aG} {h0 : aH} {K : aRes → aH → Prop} {h : aH} {v0 : Nat} {v3 : Nat} {v4 : Int32} {u0 : Int32} {e : ((Int32 ⊕ aXX) × aH)} (hT : t_X2_walk_l76 (gZ G) h v0 v3 v4 u0 = some e) (he : (fun e => aTo (aXI e.1 e.2) K) e) : aW G M_X2_walk 7 148 h0 K h 76 [some (.ref v0), none, none, some (.ref v3), some (.int v4)] [.int u0] := by
  unfold t_X2_walk_l76 at hT
  refine a_bipush (v := 12) dX2_walk_76 (by decide) ?_
  refine a_aload_n dX2_walk_78 rfl ?_
  obtain ⟨a55, e54, hT⟩ := obnd hT
  refine a_gA fl_X2_25_1 e54 dX2_walk_79 ?_
  refine a_aload_n dX2_walk_82 rfl ?_
  obtain ⟨z57, e56, hT⟩ := obnd hT
  refine a_gI fl_X2_166_4 e56 dX2_walk_83 ?_
  refine a_iload dX2_walk_86 rfl ?_
  obtain ⟨r60, e61, hT⟩ := obnd hT
  refine a_callS ks_X2_82 (k_X1_hedgeOf e61) ⟨Nat.le_of_ble_eq_true rfl, Nat.le_of_ble_eq_true rfl⟩ (As := [.int z57, .int v4]) (rest := [.ref a55, .int 12, .int u0]) rfl rfl (Nat.le_of_ble_eq_true rfl) dX2_walk_88 (kI ?_) xI
  obtain ⟨z63, e62, hT⟩ := obnd hT
  refine a_ldI e62 dX2_walk_91 ?_
  obtain ⟨⟨y68 | y68, h69⟩, e67, hT⟩ := obnd hT
  · dsimp only at hT
    refine a_callS ks_X2_120 (k_X1_refuse e67) ⟨Nat.le_of_ble_eq_true rfl, Nat.le_of_ble_eq_true rfl⟩ (As := [.int u0, .int 12, .int z63]) (rest := []) rfl rfl (Nat.le_of_ble_eq_true rfl) dX2_walk_92 (kXV ?_) yXV
    refine a_aload_n dX2_walk_95 rfl ?_
    refine a_iload dX2_walk_96 rfl ?_
    obtain ⟨h71, e70, hT⟩ := obnd hT
    refine a_put (fp_X2_166_4 _) ⟨rfl, rfl⟩ e70 dX2_walk_98 ?_
    refine a_aload_n dX2_walk_101 rfl ?_
    refine a_dup dX2_walk_102 rfl ?_
    obtain ⟨z73, e72, hT⟩ := obnd hT
    refine a_gI fl_X2_193_4 e72 dX2_walk_103 ?_
    refine a_iconst (v := 1) dX2_walk_106 (by decide) ?_
    refine a_iadd dX2_walk_107 ?_
    obtain ⟨h75, e74, hT⟩ := obnd hT
    refine a_put (fp_X2_193_4 _) ⟨rfl, rfl⟩ e74 dX2_walk_108 ?_
    refine a_iload dX2_walk_111 rfl ?_
    refine a_aload_n dX2_walk_113 rfl ?_
    obtain ⟨z77, e76, hT⟩ := obnd hT
    refine a_gI fl_X2_21_1 e76 dX2_walk_114 ?_
    refine a_icmp_ne 124 dX2_walk_117 rfl (fun c78 => ?_) (fun c78 => ?_)
    · have hT := oifn c78 hT
      exact k_X2_walk_l124 hT he
    · have hT := oifp c78 hT
      refine a_aload_n dX2_walk_120 rfl ?_
      obtain ⟨g92, hT⟩ := oifg hT
      obtain ⟨r93, e94, hT⟩ := obnd hT
      refine a_callV kv_X2_169 g92 (k_X6_meet e94) ⟨Nat.le_of_ble_eq_true rfl, Nat.le_of_ble_eq_true rfl⟩ (As := []) (rest := []) rfl rfl (Nat.le_of_ble_eq_true rfl) dX2_walk_121 (kV ?_) xV
      exact k_X2_walk_l124 hT he
  · dsimp only at hT
    refine a_callS ks_X2_120 (k_X1_refuse e67) ⟨Nat.le_of_ble_eq_true rfl, Nat.le_of_ble_eq_true rfl⟩ (As := [.int u0, .int 12, .int z63]) (rest := []) rfl rfl (Nat.le_of_ble_eq_true rfl) dX2_walk_92 rXV (zXV ?_)
    obtain rfl := Option.some.inj hT
    exact a_out (by decide) (he _ _ ⟨rfl, rfl⟩)
def t_X2_walk_l49 (Z : aZ) (h : aH) (v0 : Nat) (v3 : Nat) (v4 : Int32) (u0 : Int32) : Option ((Int32 ⊕ aXX) × aH) :=
  (gI 4 2 h v3).bind fun z39 =>
  (t_X1_refuse Z h u0 11 z39).bind fun r42 =>
  (match r42 with
  | (.inl y44, h45) =>
    (gI 4 2 h45 v3).bind fun z47 =>
    if isC 1 h45 v0 = true then
    (t_X2_isGap Z h45 v0 z47 v4).bind fun r51 =>
    if r51.1 = 0 then
      t_X2_walk_l76 Z r51.2 v0 v3 v4 1
    else
      t_X2_walk_l76 Z r51.2 v0 v3 v4 0
    else none
  | (.inr y44, h45) =>
    some (.inr y44, h45)
  )
theorem k_X2_walk_l49 {G : aG} {h0 : aH} {K : aRes → aH → Prop} {h : aH} {v0 : Nat} {v3 : Nat} {v4 : Int32} {u0 : Int32} {e : ((Int32 ⊕ aXX) × aH)} (hT : t_X2_walk_l49 (gZ G) h v0 v3 v4 u0 = some e) (he : (fun e => aTo (aXI e.1 e.2) K) e) : aW G M_X2_walk 7 148 h0 K h 49 [some (.ref v0), none, none, some (.ref v3), some (.int v4)] [.int u0] := by
  unfold t_X2_walk_l49 at hT
  refine a_bipush (v := 11) dX2_walk_49 (by decide) ?_
  refine a_aload_n dX2_walk_51 rfl ?_
  obtain ⟨z39, e38, hT⟩ := obnd hT
  refine a_gI fl_X2_166_4 e38 dX2_walk_52 ?_
  obtain ⟨⟨y44 | y44, h45⟩, e43, hT⟩ := obnd hT
  · dsimp only at hT
    refine a_callS ks_X2_120 (k_X1_refuse e43) ⟨Nat.le_of_ble_eq_true rfl, Nat.le_of_ble_eq_true rfl⟩ (As := [.int u0, .int 11, .int z39]) (rest := []) rfl rfl (Nat.le_of_ble_eq_true rfl) dX2_walk_55 (kXV ?_) yXV
    refine a_aload_n dX2_walk_58 rfl ?_
    refine a_aload_n dX2_walk_59 rfl ?_
    obtain ⟨z47, e46, hT⟩ := obnd hT
    refine a_gI fl_X2_166_4 e46 dX2_walk_60 ?_
    refine a_iload dX2_walk_63 rfl ?_
    obtain ⟨g50, hT⟩ := oifg hT
    obtain ⟨r51, e52, hT⟩ := obnd hT
    refine a_callV kv_X2_97 g50 (k_X2_isGap e52) ⟨Nat.le_of_ble_eq_true rfl, Nat.le_of_ble_eq_true rfl⟩ (As := [.int z47, .int v4]) (rest := []) rfl rfl (Nat.le_of_ble_eq_true rfl) dX2_walk_65 (kI ?_) xI
    refine a_if_ne 75 dX2_walk_68 rfl (fun c53 => ?_) (fun c53 => ?_)
    · have hT := oifn c53 hT
      refine a_iconst (v := 0) dX2_walk_75 (by decide) ?_
      exact k_X2_walk_l76 hT he
    · have hT := oifp c53 hT
      refine a_iconst (v := 1) dX2_walk_71 (by decide) ?_
      refine a_goto 76 dX2_walk_72 rfl ?_
      exact k_X2_walk_l76 hT he
  · dsimp only at hT
    refine a_callS ks_X2_120 (k_X1_refuse e43) ⟨Nat.le_of_ble_eq_true rfl, Nat.le_of_ble_eq_true rfl⟩ (As := [.int u0, .int 11, .int z39]) (rest := []) rfl rfl (Nat.le_of_ble_eq_true rfl) dX2_walk_55 rXV (zXV ?_)
    obtain rfl := Option.some.inj hT
    exact a_out (by decide) (he _ _ ⟨rfl, rfl⟩)
def t_X2_walk (Z : aZ) (h : aH) (o : Nat) (x0 : Int32) (x1 : Int32) : Option ((Int32 ⊕ aXX) × aH) :=
  if isC 1 h o = true then
  (t_X2_requireVisitor Z h o x0).bind fun r4 =>
  (match r4 with
  | (.inl y6, h7) =>
    (t_X1_isIn x1 0 3).bind fun r10 =>
    (t_X1_requireRange Z h7 r10).bind fun r14 =>
    (match r14 with
    | (.inl y16, h17) =>
      if isC 4 h17 y6 = true then
      (t_X6_isOut Z h17 y6).bind fun r21 =>
      (gI 4 3 r21.2 y6).bind fun z24 =>
      (t_X1_refuse Z r21.2 r21.1 9 z24).bind fun r27 =>
      (match r27 with
      | (.inl y29, h30) =>
        (gI 4 2 h30 y6).bind fun z32 =>
        (t_X1_neighbour z32 x1).bind fun r35 =>
        if r35 = (-1) then
          t_X2_walk_l49 Z h30 o y6 r35 1
        else
          t_X2_walk_l49 Z h30 o y6 r35 0
      | (.inr y29, h30) =>
        some (.inr y29, h30)
      )
      else none
    | (.inr y16, h17) =>
      some (.inr y16, h17)
    )
  | (.inr y6, h7) =>
    some (.inr y6, h7)
  )
  else none
theorem k_X2_walk {G : aG} {h : aH} {o : Nat} {x0 : Int32} {x1 : Int32} {e : ((Int32 ⊕ aXX) × aH)} (hT : t_X2_walk (gZ G) h o x0 x1 = some e) : aMet G yX2_walk (ws_ yX2_walk cX2_walk 5 (Option.some Jvm.ClassFile.FieldType.int)) 7 148 [.ref o, .int x0, .int x1] h (aXI e.1 e.2) := by
  refine aMet.of (lv := [some (.ref o), some (.int x0), some (.int x1), none, none]) (by decide) (Nat.le_of_ble_eq_true rfl) 2 rfl ?_
  have he : aTo (aXI e.1 e.2) (aXI e.1 e.2) := aTo.rf
  unfold t_X2_walk at hT
  refine a_aload_n dX2_walk_0 rfl ?_
  refine a_iload_n dX2_walk_1 rfl ?_
  obtain ⟨g3, hT⟩ := oifg hT
  obtain ⟨⟨y6 | y6, h7⟩, e5, hT⟩ := obnd hT
  · dsimp only at hT
    refine a_callV kv_X2_189 g3 (k_X2_requireVisitor e5) ⟨Nat.le_of_ble_eq_true rfl, Nat.le_of_ble_eq_true rfl⟩ (As := [.int x0]) (rest := []) rfl rfl (Nat.le_of_ble_eq_true rfl) dX2_walk_2 (kXA ?_) yXA
    refine a_astore_n (lv' := [some (.ref o), some (.int x0), some (.int x1), some (.ref y6), none]) dX2_walk_5 rfl (by decide) rfl ?_
    refine a_iload_n dX2_walk_6 rfl ?_
    refine a_iconst (v := 0) dX2_walk_7 (by decide) ?_
    refine a_iconst (v := 3) dX2_walk_8 (by decide) ?_
    obtain ⟨r10, e11, hT⟩ := obnd hT
    refine a_callS ks_X2_78 (k_X1_isIn e11) ⟨Nat.le_of_ble_eq_true rfl, Nat.le_of_ble_eq_true rfl⟩ (As := [.int x1, .int 0, .int 3]) (rest := []) rfl rfl (Nat.le_of_ble_eq_true rfl) dX2_walk_9 (kI ?_) xI
    obtain ⟨⟨y16 | y16, h17⟩, e15, hT⟩ := obnd hT
    · dsimp only at hT
      refine a_callS ks_X2_139 (k_X1_requireRange e15) ⟨Nat.le_of_ble_eq_true rfl, Nat.le_of_ble_eq_true rfl⟩ (As := [.int r10]) (rest := []) rfl rfl (Nat.le_of_ble_eq_true rfl) dX2_walk_12 (kXV ?_) yXV
      refine a_aload_n dX2_walk_15 rfl ?_
      obtain ⟨g20, hT⟩ := oifg hT
      obtain ⟨r21, e22, hT⟩ := obnd hT
      refine a_callV kv_X2_163 g20 (k_X6_isOut e22) ⟨Nat.le_of_ble_eq_true rfl, Nat.le_of_ble_eq_true rfl⟩ (As := []) (rest := []) rfl rfl (Nat.le_of_ble_eq_true rfl) dX2_walk_16 (kI ?_) xI
      refine a_bipush (v := 9) dX2_walk_19 (by decide) ?_
      refine a_aload_n dX2_walk_21 rfl ?_
      obtain ⟨z24, e23, hT⟩ := obnd hT
      refine a_gI fl_X2_193_4 e23 dX2_walk_22 ?_
      obtain ⟨⟨y29 | y29, h30⟩, e28, hT⟩ := obnd hT
      · dsimp only at hT
        refine a_callS ks_X2_120 (k_X1_refuse e28) ⟨Nat.le_of_ble_eq_true rfl, Nat.le_of_ble_eq_true rfl⟩ (As := [.int r21.1, .int 9, .int z24]) (rest := []) rfl rfl (Nat.le_of_ble_eq_true rfl) dX2_walk_25 (kXV ?_) yXV
        refine a_aload_n dX2_walk_28 rfl ?_
        obtain ⟨z32, e31, hT⟩ := obnd hT
        refine a_gI fl_X2_166_4 e31 dX2_walk_29 ?_
        refine a_iload_n dX2_walk_32 rfl ?_
        obtain ⟨r35, e36, hT⟩ := obnd hT
        refine a_callS ks_X2_94 (k_X1_neighbour e36) ⟨Nat.le_of_ble_eq_true rfl, Nat.le_of_ble_eq_true rfl⟩ (As := [.int z32, .int x1]) (rest := []) rfl rfl (Nat.le_of_ble_eq_true rfl) dX2_walk_33 (kI ?_) xI
        refine a_istore (lv' := [some (.ref o), some (.int x0), some (.int x1), some (.ref y6), some (.int r35)]) dX2_walk_36 rfl (by decide) rfl ?_
        refine a_iload dX2_walk_38 rfl ?_
        refine a_iconst (v := (-1)) dX2_walk_40 (by decide) ?_
        refine a_icmp_ne 48 dX2_walk_41 rfl (fun c37 => ?_) (fun c37 => ?_)
        · have hT := oifn c37 hT
          refine a_iconst (v := 0) dX2_walk_48 (by decide) ?_
          refine a_mask [true, false, false, true, true] ?_
          exact k_X2_walk_l49 hT he
        · have hT := oifp c37 hT
          refine a_iconst (v := 1) dX2_walk_44 (by decide) ?_
          refine a_goto 49 dX2_walk_45 rfl ?_
          refine a_mask [true, false, false, true, true] ?_
          exact k_X2_walk_l49 hT he
      · dsimp only at hT
        refine a_callS ks_X2_120 (k_X1_refuse e28) ⟨Nat.le_of_ble_eq_true rfl, Nat.le_of_ble_eq_true rfl⟩ (As := [.int r21.1, .int 9, .int z24]) (rest := []) rfl rfl (Nat.le_of_ble_eq_true rfl) dX2_walk_25 rXV (zXV ?_)
        obtain rfl := Option.some.inj hT
        exact a_out (by decide) (he _ _ ⟨rfl, rfl⟩)
    · dsimp only at hT
      refine a_callS ks_X2_139 (k_X1_requireRange e15) ⟨Nat.le_of_ble_eq_true rfl, Nat.le_of_ble_eq_true rfl⟩ (As := [.int r10]) (rest := []) rfl rfl (Nat.le_of_ble_eq_true rfl) dX2_walk_12 rXV (zXV ?_)
      obtain rfl := Option.some.inj hT
      exact a_out (by decide) (he _ _ ⟨rfl, rfl⟩)
  · dsimp only at hT
    refine a_callV kv_X2_189 g3 (k_X2_requireVisitor e5) ⟨Nat.le_of_ble_eq_true rfl, Nat.le_of_ble_eq_true rfl⟩ (As := [.int x0]) (rest := []) rfl rfl (Nat.le_of_ble_eq_true rfl) dX2_walk_2 rXA (zXA ?_)
    obtain rfl := Option.some.inj hT
    exact a_out (by decide) (he _ _ ⟨rfl, rfl⟩)
abbrev M_X2_rest : aM := (yX2_rest.cls, cX2_rest, 4, (Option.some Jvm.ClassFile.FieldType.int), [], yX2_rest.name)
def t_X2_rest (Z : aZ) (h : aH) (o : Nat) (x0 : Int32) (x1 : Int32) : Option ((Int32 ⊕ aXX) × aH) :=
  if isC 1 h o = true then
  (t_X2_requireVisitor Z h o x0).bind fun r4 =>
  (match r4 with
  | (.inl y6, h7) =>
    (t_X1_isIn x1 1 9).bind fun r10 =>
    (t_X1_requireRange Z h7 r10).bind fun r14 =>
    (match r14 with
    | (.inl y16, h17) =>
      if isC 4 h17 y6 = true then
      (t_X6_isOut Z h17 y6).bind fun r21 =>
      (gI 4 3 r21.2 y6).bind fun z24 =>
      (t_X1_refuse Z r21.2 r21.1 9 z24).bind fun r27 =>
      (match r27 with
      | (.inl y29, h30) =>
        (gI 4 3 h30 y6).bind fun z32 =>
        (pF 4 3 Z h30 y6 (.int (z32 + x1))).bind fun h34 =>
        (gI 4 3 h34 y6).bind fun z36 =>
        some (.inl z36, h34)
      | (.inr y29, h30) =>
        some (.inr y29, h30)
      )
      else none
    | (.inr y16, h17) =>
      some (.inr y16, h17)
    )
  | (.inr y6, h7) =>
    some (.inr y6, h7)
  )
  else none
theorem k_X2_rest {G : aG} {h : aH} {o : Nat} {x0 : Int32} {x1 : Int32} {e : ((Int32 ⊕ aXX) × aH)} (hT : t_X2_rest (gZ G) h o x0 x1 = some e) : aMet G yX2_rest (ws_ yX2_rest cX2_rest 4 (Option.some Jvm.ClassFile.FieldType.int)) 7 148 [.ref o, .int x0, .int x1] h (aXI e.1 e.2) := by
  refine aMet.of (lv := [some (.ref o), some (.int x0), some (.int x1), none]) (by decide) (Nat.le_of_ble_eq_true rfl) 1 rfl ?_
  have he : aTo (aXI e.1 e.2) (aXI e.1 e.2) := aTo.rf
  unfold t_X2_rest at hT
  refine a_aload_n dX2_rest_0 rfl ?_
  refine a_iload_n dX2_rest_1 rfl ?_
  obtain ⟨g3, hT⟩ := oifg hT
  obtain ⟨⟨y6 | y6, h7⟩, e5, hT⟩ := obnd hT
  · dsimp only at hT
    refine a_callV kv_X2_189 g3 (k_X2_requireVisitor e5) ⟨Nat.le_of_ble_eq_true rfl, Nat.le_of_ble_eq_true rfl⟩ (As := [.int x0]) (rest := []) rfl rfl (Nat.le_of_ble_eq_true rfl) dX2_rest_2 (kXA ?_) yXA
    refine a_astore_n (lv' := [some (.ref o), some (.int x0), some (.int x1), some (.ref y6)]) dX2_rest_5 rfl (by decide) rfl ?_
    refine a_iload_n dX2_rest_6 rfl ?_
    refine a_iconst (v := 1) dX2_rest_7 (by decide) ?_
    refine a_bipush (v := 9) dX2_rest_8 (by decide) ?_
    obtain ⟨r10, e11, hT⟩ := obnd hT
    refine a_callS ks_X2_78 (k_X1_isIn e11) ⟨Nat.le_of_ble_eq_true rfl, Nat.le_of_ble_eq_true rfl⟩ (As := [.int x1, .int 1, .int 9]) (rest := []) rfl rfl (Nat.le_of_ble_eq_true rfl) dX2_rest_10 (kI ?_) xI
    obtain ⟨⟨y16 | y16, h17⟩, e15, hT⟩ := obnd hT
    · dsimp only at hT
      refine a_callS ks_X2_139 (k_X1_requireRange e15) ⟨Nat.le_of_ble_eq_true rfl, Nat.le_of_ble_eq_true rfl⟩ (As := [.int r10]) (rest := []) rfl rfl (Nat.le_of_ble_eq_true rfl) dX2_rest_13 (kXV ?_) yXV
      refine a_aload_n dX2_rest_16 rfl ?_
      obtain ⟨g20, hT⟩ := oifg hT
      obtain ⟨r21, e22, hT⟩ := obnd hT
      refine a_callV kv_X2_163 g20 (k_X6_isOut e22) ⟨Nat.le_of_ble_eq_true rfl, Nat.le_of_ble_eq_true rfl⟩ (As := []) (rest := []) rfl rfl (Nat.le_of_ble_eq_true rfl) dX2_rest_17 (kI ?_) xI
      refine a_bipush (v := 9) dX2_rest_20 (by decide) ?_
      refine a_aload_n dX2_rest_22 rfl ?_
      obtain ⟨z24, e23, hT⟩ := obnd hT
      refine a_gI fl_X2_193_4 e23 dX2_rest_23 ?_
      obtain ⟨⟨y29 | y29, h30⟩, e28, hT⟩ := obnd hT
      · dsimp only at hT
        refine a_callS ks_X2_120 (k_X1_refuse e28) ⟨Nat.le_of_ble_eq_true rfl, Nat.le_of_ble_eq_true rfl⟩ (As := [.int r21.1, .int 9, .int z24]) (rest := []) rfl rfl (Nat.le_of_ble_eq_true rfl) dX2_rest_26 (kXV ?_) yXV
        refine a_aload_n dX2_rest_29 rfl ?_
        refine a_dup dX2_rest_30 rfl ?_
        obtain ⟨z32, e31, hT⟩ := obnd hT
        refine a_gI fl_X2_193_4 e31 dX2_rest_31 ?_
        refine a_iload_n dX2_rest_34 rfl ?_
        refine a_iadd dX2_rest_35 ?_
        obtain ⟨h34, e33, hT⟩ := obnd hT
        refine a_put (fp_X2_193_4 _) ⟨rfl, rfl⟩ e33 dX2_rest_36 ?_
        refine a_aload_n dX2_rest_39 rfl ?_
        obtain ⟨z36, e35, hT⟩ := obnd hT
        refine a_gI fl_X2_193_4 e35 dX2_rest_40 ?_
        obtain rfl := Option.some.inj hT
        exact a_iret rfl rfl dX2_rest_43 (he _ _ ⟨rfl, rfl⟩)
      · dsimp only at hT
        refine a_callS ks_X2_120 (k_X1_refuse e28) ⟨Nat.le_of_ble_eq_true rfl, Nat.le_of_ble_eq_true rfl⟩ (As := [.int r21.1, .int 9, .int z24]) (rest := []) rfl rfl (Nat.le_of_ble_eq_true rfl) dX2_rest_26 rXV (zXV ?_)
        obtain rfl := Option.some.inj hT
        exact a_out (by decide) (he _ _ ⟨rfl, rfl⟩)
    · dsimp only at hT
      refine a_callS ks_X2_139 (k_X1_requireRange e15) ⟨Nat.le_of_ble_eq_true rfl, Nat.le_of_ble_eq_true rfl⟩ (As := [.int r10]) (rest := []) rfl rfl (Nat.le_of_ble_eq_true rfl) dX2_rest_13 rXV (zXV ?_)
      obtain rfl := Option.some.inj hT
      exact a_out (by decide) (he _ _ ⟨rfl, rfl⟩)
  · dsimp only at hT
    refine a_callV kv_X2_189 g3 (k_X2_requireVisitor e5) ⟨Nat.le_of_ble_eq_true rfl, Nat.le_of_ble_eq_true rfl⟩ (As := [.int x0]) (rest := []) rfl rfl (Nat.le_of_ble_eq_true rfl) dX2_rest_2 rXA (zXA ?_)
    obtain rfl := Option.some.inj hT
    exact a_out (by decide) (he _ _ ⟨rfl, rfl⟩)
theorem kv_X0_38 : aKV "MazeBondsLaw" 38 0 yX1_leaves cX1_leaves 3 (Option.some Jvm.ClassFile.FieldType.int) 2 := ⟨⟨TX1, 8, rfl⟩, Or.inl q912, q913, q914, q72, q915, ⟨by decide +kernel, by decide +kernel, by decide +kernel⟩⟩
abbrev M_X0_leaves : aM := (yX0_leaves.cls, cX0_leaves, 5, (Option.some Jvm.ClassFile.FieldType.int), [((0 : Nat), (10 : Nat), (13 : Nat), (41 : Nat)), ((0 : Nat), (10 : Nat), (17 : Nat), (43 : Nat))], yX0_leaves.name)
def t_X0_leaves (Z : aZ) (h : aH) (x0 : Nat) (x1 : Int32) (x2 : Int32) (x3 : Nat) : Option (Int32 × aH) :=
  if isC 0 h x0 = true then
  (t_X1_leaves Z h x0 x1 x2).bind fun r4 =>
  (match r4 with
  | (.inl y6, h7) =>
    (stJ Z h7 x3 0 ((y6 : Int32).toInt64)).bind fun h9 =>
    some (0, h9)
  | (.inr y6, h7) =>
    if y6.1 = "java/lang/IndexOutOfBoundsException" then
      some (1, h7)
    else
      if y6.1 = "java/util/NoSuchElementException" then
        some (2, h7)
      else
        none
  )
  else none
theorem k_X0_leaves {G : aG} {h : aH} {x0 : Nat} {x1 : Int32} {x2 : Int32} {x3 : Nat} {e : (Int32 × aH)} (hT : t_X0_leaves (gZ G) h x0 x1 x2 x3 = some e) : aMet G yX0_leaves (wsW_ yX0_leaves cX0_leaves 5 (Option.some Jvm.ClassFile.FieldType.int) [((0 : Nat), (10 : Nat), (13 : Nat), (41 : Nat)), ((0 : Nat), (10 : Nat), (17 : Nat), (43 : Nat))]) 13 285 [.ref x0, .int x1, .int x2, .ref x3] h (aEI e.1 e.2) := by
  refine aMet.ofH (lv := [some (.ref x0), some (.int x1), some (.int x2), some (.ref x3), none]) (by decide) (Nat.le_of_ble_eq_true rfl) 1 rfl ?_
  have he : aTo (aEI e.1 e.2) (aEI e.1 e.2) := aTo.rf
  unfold t_X0_leaves at hT
  refine a_aload_n dX0_leaves_0 rfl ?_
  refine a_iconst (v := 0) dX0_leaves_1 (by decide) ?_
  refine a_aload_n dX0_leaves_2 rfl ?_
  refine a_iload_n dX0_leaves_3 rfl ?_
  refine a_iload_n dX0_leaves_4 rfl ?_
  obtain ⟨g3, hT⟩ := oifg hT
  obtain ⟨⟨y6 | y6, h7⟩, e5, hT⟩ := obnd hT
  · dsimp only at hT
    refine a_callV kv_X0_38 g3 (k_X1_leaves e5) ⟨Nat.le_of_ble_eq_true rfl, Nat.le_of_ble_eq_true rfl⟩ (As := [.int x1, .int x2]) (rest := [.int 0, .ref x3]) rfl rfl (Nat.le_of_ble_eq_true rfl) dX0_leaves_5 (kXI ?_) yXI
    refine a_i2l dX0_leaves_8 ?_
    obtain ⟨h9, e8, hT⟩ := obnd hT
    refine a_stJ e8 dX0_leaves_9 ?_
    refine a_goto 21 dX0_leaves_10 rfl ?_
    refine a_iconst (v := 0) dX0_leaves_21 (by decide) ?_
    obtain rfl := Option.some.inj hT
    exact a_iret rfl rfl dX0_leaves_22 (he _ _ ⟨rfl, rfl⟩)
  · dsimp only at hT
    refine a_callV kv_X0_38 g3 (k_X1_leaves e5) ⟨Nat.le_of_ble_eq_true rfl, Nat.le_of_ble_eq_true rfl⟩ (As := [.int x1, .int x2]) (rest := [.int 0, .ref x3]) rfl rfl (Nat.le_of_ble_eq_true rfl) dX0_leaves_5 rXI (zXI ?_)
    by_cases c10 : y6.1 = "java/lang/IndexOutOfBoundsException"
    · have hT := oifp c10 hT
      rw [c10]
      refine a_catchI 0 rfl aNil (by decide) (by decide) q879 q929 ?_
      refine a_astore (lv' := [some (.ref x0), some (.int x1), some (.int x2), some (.ref x3), some (.ref y6.2)]) dX0_leaves_13 rfl (by decide) rfl ?_
      refine a_iconst (v := 1) dX0_leaves_15 (by decide) ?_
      obtain rfl := Option.some.inj hT
      exact a_iret rfl rfl dX0_leaves_16 (he _ _ ⟨rfl, rfl⟩)
    · have hT := oifn c10 hT
      by_cases c11 : y6.1 = "java/util/NoSuchElementException"
      · have hT := oifp c11 hT
        rw [c11]
        refine a_catchI 1 rfl (aCons (Or.inr ⟨by decide, _, q879, fun s hK => hK.2.2.2.2.1 _ (List.mem_of_getElem? (i := 0) rfl)⟩) aNil) (by decide) (by decide) q911 q313 ?_
        refine a_astore (lv' := [some (.ref x0), some (.int x1), some (.int x2), some (.ref x3), some (.ref y6.2)]) dX0_leaves_17 rfl (by decide) rfl ?_
        refine a_iconst (v := 2) dX0_leaves_19 (by decide) ?_
        obtain rfl := Option.some.inj hT
        exact a_iret rfl rfl dX0_leaves_20 (he _ _ ⟨rfl, rfl⟩)
      · have hT := oifn c11 hT
        cases hT
theorem kv_X0_84 : aKV "MazeBondsLaw" 84 0 yX1_owed cX1_owed 2 (Option.some Jvm.ClassFile.FieldType.int) 1 := ⟨⟨TX1, 8, rfl⟩, Or.inl q1092, q1093, q1094, q72, q1095, ⟨by decide +kernel, by decide +kernel, by decide +kernel⟩⟩
abbrev M_X0_owed : aM := (yX0_owed.cls, cX0_owed, 4, (Option.some Jvm.ClassFile.FieldType.int), [((0 : Nat), (9 : Nat), (12 : Nat), (41 : Nat))], yX0_owed.name)
def t_X0_owed (Z : aZ) (h : aH) (x0 : Nat) (x1 : Int32) (x2 : Nat) : Option (Int32 × aH) :=
  if isC 0 h x0 = true then
  (t_X1_owed Z h x0 x1).bind fun r4 =>
  (match r4 with
  | (.inl y6, h7) =>
    (stJ Z h7 x2 0 ((y6 : Int32).toInt64)).bind fun h9 =>
    some (0, h9)
  | (.inr y6, h7) =>
    if y6.1 = "java/lang/IndexOutOfBoundsException" then
      some (1, h7)
    else
      none
  )
  else none
theorem k_X0_owed {G : aG} {h : aH} {x0 : Nat} {x1 : Int32} {x2 : Nat} {e : (Int32 × aH)} (hT : t_X0_owed (gZ G) h x0 x1 x2 = some e) : aMet G yX0_owed (wsW_ yX0_owed cX0_owed 4 (Option.some Jvm.ClassFile.FieldType.int) [((0 : Nat), (9 : Nat), (12 : Nat), (41 : Nat))]) 12 262 [.ref x0, .int x1, .ref x2] h (aEI e.1 e.2) := by
  refine aMet.ofH (lv := [some (.ref x0), some (.int x1), some (.ref x2), none]) (by decide) (Nat.le_of_ble_eq_true rfl) 1 rfl ?_
  have he : aTo (aEI e.1 e.2) (aEI e.1 e.2) := aTo.rf
  unfold t_X0_owed at hT
  refine a_aload_n dX0_owed_0 rfl ?_
  refine a_iconst (v := 0) dX0_owed_1 (by decide) ?_
  refine a_aload_n dX0_owed_2 rfl ?_
  refine a_iload_n dX0_owed_3 rfl ?_
  obtain ⟨g3, hT⟩ := oifg hT
  obtain ⟨⟨y6 | y6, h7⟩, e5, hT⟩ := obnd hT
  · dsimp only at hT
    refine a_callV kv_X0_84 g3 (k_X1_owed e5) ⟨Nat.le_of_ble_eq_true rfl, Nat.le_of_ble_eq_true rfl⟩ (As := [.int x1]) (rest := [.int 0, .ref x2]) rfl rfl (Nat.le_of_ble_eq_true rfl) dX0_owed_4 (kXI ?_) yXI
    refine a_i2l dX0_owed_7 ?_
    obtain ⟨h9, e8, hT⟩ := obnd hT
    refine a_stJ e8 dX0_owed_8 ?_
    refine a_goto 15 dX0_owed_9 rfl ?_
    refine a_iconst (v := 0) dX0_owed_15 (by decide) ?_
    obtain rfl := Option.some.inj hT
    exact a_iret rfl rfl dX0_owed_16 (he _ _ ⟨rfl, rfl⟩)
  · dsimp only at hT
    refine a_callV kv_X0_84 g3 (k_X1_owed e5) ⟨Nat.le_of_ble_eq_true rfl, Nat.le_of_ble_eq_true rfl⟩ (As := [.int x1]) (rest := [.int 0, .ref x2]) rfl rfl (Nat.le_of_ble_eq_true rfl) dX0_owed_4 rXI (zXI ?_)
    by_cases c10 : y6.1 = "java/lang/IndexOutOfBoundsException"
    · have hT := oifp c10 hT
      rw [c10]
      refine a_catchI 0 rfl aNil (by decide) (by decide) q879 q929 ?_
      refine a_astore_n (lv' := [some (.ref x0), some (.int x1), some (.ref x2), some (.ref y6.2)]) dX0_owed_12 rfl (by decide) rfl ?_
      refine a_iconst (v := 1) dX0_owed_13 (by decide) ?_
      obtain rfl := Option.some.inj hT
      exact a_iret rfl rfl dX0_owed_14 (he _ _ ⟨rfl, rfl⟩)
    · have hT := oifn c10 hT
      cases hT
theorem kv_X0_122 : aKV "MazeBondsLaw" 122 0 yX1_account cX1_account 2 (Option.some Jvm.ClassFile.FieldType.int) 1 := ⟨⟨TX1, 8, rfl⟩, Or.inl q1648, q1649, q1650, q72, q1651, ⟨by decide +kernel, by decide +kernel, by decide +kernel⟩⟩
abbrev M_X0_account : aM := (yX0_account.cls, cX0_account, 4, (Option.some Jvm.ClassFile.FieldType.int), [((0 : Nat), (9 : Nat), (12 : Nat), (76 : Nat))], yX0_account.name)
def t_X0_account (Z : aZ) (h : aH) (x0 : Nat) (x1 : Int32) (x2 : Nat) : Option (Int32 × aH) :=
  if isC 0 h x0 = true then
  (t_X1_account Z h x0 x1).bind fun r4 =>
  (match r4 with
  | (.inl y6, h7) =>
    (stJ Z h7 x2 0 ((y6 : Int32).toInt64)).bind fun h9 =>
    some (0, h9)
  | (.inr y6, h7) =>
    if y6.1 = "java/lang/IllegalArgumentException" then
      some (1, h7)
    else
      none
  )
  else none
theorem k_X0_account {G : aG} {h : aH} {x0 : Nat} {x1 : Int32} {x2 : Nat} {e : (Int32 × aH)} (hT : t_X0_account (gZ G) h x0 x1 x2 = some e) : aMet G yX0_account (wsW_ yX0_account cX0_account 4 (Option.some Jvm.ClassFile.FieldType.int) [((0 : Nat), (9 : Nat), (12 : Nat), (76 : Nat))]) 11 241 [.ref x0, .int x1, .ref x2] h (aEI e.1 e.2) := by
  refine aMet.ofH (lv := [some (.ref x0), some (.int x1), some (.ref x2), none]) (by decide) (Nat.le_of_ble_eq_true rfl) 1 rfl ?_
  have he : aTo (aEI e.1 e.2) (aEI e.1 e.2) := aTo.rf
  unfold t_X0_account at hT
  refine a_aload_n dX0_account_0 rfl ?_
  refine a_iconst (v := 0) dX0_account_1 (by decide) ?_
  refine a_aload_n dX0_account_2 rfl ?_
  refine a_iload_n dX0_account_3 rfl ?_
  obtain ⟨g3, hT⟩ := oifg hT
  obtain ⟨⟨y6 | y6, h7⟩, e5, hT⟩ := obnd hT
  · dsimp only at hT
    refine a_callV kv_X0_122 g3 (k_X1_account e5) ⟨Nat.le_of_ble_eq_true rfl, Nat.le_of_ble_eq_true rfl⟩ (As := [.int x1]) (rest := [.int 0, .ref x2]) rfl rfl (Nat.le_of_ble_eq_true rfl) dX0_account_4 (kXI ?_) yXI
    refine a_i2l dX0_account_7 ?_
    obtain ⟨h9, e8, hT⟩ := obnd hT
    refine a_stJ e8 dX0_account_8 ?_
    refine a_goto 15 dX0_account_9 rfl ?_
    refine a_iconst (v := 0) dX0_account_15 (by decide) ?_
    obtain rfl := Option.some.inj hT
    exact a_iret rfl rfl dX0_account_16 (he _ _ ⟨rfl, rfl⟩)
  · dsimp only at hT
    refine a_callV kv_X0_122 g3 (k_X1_account e5) ⟨Nat.le_of_ble_eq_true rfl, Nat.le_of_ble_eq_true rfl⟩ (As := [.int x1]) (rest := [.int 0, .ref x2]) rfl rfl (Nat.le_of_ble_eq_true rfl) dX0_account_4 rXI (zXI ?_)
    by_cases c10 : y6.1 = "java/lang/IllegalArgumentException"
    · have hT := oifp c10 hT
      rw [c10]
      refine a_catchI 0 rfl aNil (by decide) (by decide) q1026 q1043 ?_
      refine a_astore_n (lv' := [some (.ref x0), some (.int x1), some (.ref x2), some (.ref y6.2)]) dX0_account_12 rfl (by decide) rfl ?_
      refine a_iconst (v := 1) dX0_account_13 (by decide) ?_
      obtain rfl := Option.some.inj hT
      exact a_iret rfl rfl dX0_account_14 (he _ _ ⟨rfl, rfl⟩)
    · have hT := oifn c10 hT
      cases hT
theorem kv_X0_128 : aKV "MazeBondsLaw" 128 0 yX1_restore cX1_restore 1 (Option.some Jvm.ClassFile.FieldType.int) 0 := ⟨⟨TX1, 8, rfl⟩, Or.inl q1689, q1690, q1691, q72, q1692, ⟨by decide +kernel, by decide +kernel, by decide +kernel⟩⟩
abbrev M_X0_restore : aM := (yX0_restore.cls, cX0_restore, 3, (Option.some Jvm.ClassFile.FieldType.int), [((0 : Nat), (8 : Nat), (11 : Nat), (97 : Nat))], yX0_restore.name)
def t_X0_restore (Z : aZ) (h : aH) (x0 : Nat) (x1 : Nat) : Option (Int32 × aH) :=
  if isC 0 h x0 = true then
  (t_X1_restore Z h x0).bind fun r4 =>
  (match r4 with
  | (.inl y6, h7) =>
    (stJ Z h7 x1 0 ((y6 : Int32).toInt64)).bind fun h9 =>
    some (0, h9)
  | (.inr y6, h7) =>
    if y6.1 = "java/lang/IllegalStateException" then
      some (1, h7)
    else
      none
  )
  else none
theorem k_X0_restore {G : aG} {h : aH} {x0 : Nat} {x1 : Nat} {e : (Int32 × aH)} (hT : t_X0_restore (gZ G) h x0 x1 = some e) : aMet G yX0_restore (wsW_ yX0_restore cX0_restore 3 (Option.some Jvm.ClassFile.FieldType.int) [((0 : Nat), (8 : Nat), (11 : Nat), (97 : Nat))]) 11 240 [.ref x0, .ref x1] h (aEI e.1 e.2) := by
  refine aMet.ofH (lv := [some (.ref x0), some (.ref x1), none]) (by decide) (Nat.le_of_ble_eq_true rfl) 1 rfl ?_
  have he : aTo (aEI e.1 e.2) (aEI e.1 e.2) := aTo.rf
  unfold t_X0_restore at hT
  refine a_aload_n dX0_restore_0 rfl ?_
  refine a_iconst (v := 0) dX0_restore_1 (by decide) ?_
  refine a_aload_n dX0_restore_2 rfl ?_
  obtain ⟨g3, hT⟩ := oifg hT
  obtain ⟨⟨y6 | y6, h7⟩, e5, hT⟩ := obnd hT
  · dsimp only at hT
    refine a_callV kv_X0_128 g3 (k_X1_restore e5) ⟨Nat.le_of_ble_eq_true rfl, Nat.le_of_ble_eq_true rfl⟩ (As := []) (rest := [.int 0, .ref x1]) rfl rfl (Nat.le_of_ble_eq_true rfl) dX0_restore_3 (kXI ?_) yXI
    refine a_i2l dX0_restore_6 ?_
    obtain ⟨h9, e8, hT⟩ := obnd hT
    refine a_stJ e8 dX0_restore_7 ?_
    refine a_goto 14 dX0_restore_8 rfl ?_
    refine a_iconst (v := 0) dX0_restore_14 (by decide) ?_
    obtain rfl := Option.some.inj hT
    exact a_iret rfl rfl dX0_restore_15 (he _ _ ⟨rfl, rfl⟩)
  · dsimp only at hT
    refine a_callV kv_X0_128 g3 (k_X1_restore e5) ⟨Nat.le_of_ble_eq_true rfl, Nat.le_of_ble_eq_true rfl⟩ (As := []) (rest := [.int 0, .ref x1]) rfl rfl (Nat.le_of_ble_eq_true rfl) dX0_restore_3 rXI (zXI ?_)
    by_cases c10 : y6.1 = "java/lang/IllegalStateException"
    · have hT := oifp c10 hT
      rw [c10]
      refine a_catchI 0 rfl aNil (by decide) (by decide) q1124 q1134 ?_
      refine a_astore_n (lv' := [some (.ref x0), some (.ref x1), some (.ref y6.2)]) dX0_restore_11 rfl (by decide) rfl ?_
      refine a_iconst (v := 1) dX0_restore_12 (by decide) ?_
      obtain rfl := Option.some.inj hT
      exact a_iret rfl rfl dX0_restore_13 (he _ _ ⟨rfl, rfl⟩)
    · have hT := oifn c10 hT
      cases hT
theorem kv_X1_98 : aKV "MazeBonds" 98 1 yX2_hedge cX2_hedge 6 (Option.some Jvm.ClassFile.FieldType.int) 3 := ⟨⟨TX2, 7, rfl⟩, Or.inl q625, q626, q627, q73, q628, ⟨by decide +kernel, by decide +kernel, by decide +kernel⟩⟩
theorem kv_X1_106 : aKV "MazeBonds" 106 0 yX1_keep cX1_keep 2 (Option.some (Jvm.ClassFile.FieldType.object "java/lang/UnsupportedOperationException")) 1 := ⟨⟨TX1, 8, rfl⟩, Or.inl q684, q686, qs9, q72, q687, ⟨by decide +kernel, by decide +kernel, by decide +kernel⟩⟩
abbrev M_X1_hedge : aM := (yX1_hedge.cls, cX1_hedge, 5, (Option.some Jvm.ClassFile.FieldType.int), [((0 : Nat), (23 : Nat), (24 : Nat), (25 : Nat))], yX1_hedge.name)
def t_X1_hedge (Z : aZ) (h : aH) (o : Nat) (x0 : Int32) (x1 : Int32) (x2 : Int32) : Option ((Int32 ⊕ aXX) × aH) :=
  (gA 0 0 h o).bind fun a2 =>
  if isC 1 h a2 = true then
  (t_X2_copy Z h a2).bind fun r6 =>
  if isC 1 r6.2 r6.1 = true then
  (t_X2_hedge Z r6.2 r6.1 x0 x1 x2).bind fun r11 =>
  (match r11 with
  | (.inl y13, h14) =>
    if isC 0 h14 o = true then
    (t_X1_come Z h14 o r6.1 y13).bind fun r18 =>
    some (.inl r18.1, r18.2)
    else none
  | (.inr y13, h14) =>
    if y13.1 = "MazeBonds$RefusedException" then
      if isC 0 h14 o = true then
      (t_X1_keep Z h14 o y13.2).bind fun r24 =>
      if isC 13 r24.2 r24.1 = true then
      some (.inr ("java/lang/UnsupportedOperationException", r24.1), r24.2)
      else none
      else none
    else
      none
  )
  else none
  else none
theorem k_X1_hedge {G : aG} {h : aH} {o : Nat} {x0 : Int32} {x1 : Int32} {x2 : Int32} {e : ((Int32 ⊕ aXX) × aH)} (hT : t_X1_hedge (gZ G) h o x0 x1 x2 = some e) : aMet G yX1_hedge (wsW_ yX1_hedge cX1_hedge 5 (Option.some Jvm.ClassFile.FieldType.int) [((0 : Nat), (23 : Nat), (24 : Nat), (25 : Nat))]) 10 221 [.ref o, .int x0, .int x1, .int x2] h (aXI e.1 e.2) := by
  refine aMet.ofH (lv := [some (.ref o), some (.int x0), some (.int x1), some (.int x2), none]) (by decide) (Nat.le_of_ble_eq_true rfl) 1 rfl ?_
  have he : aTo (aXI e.1 e.2) (aXI e.1 e.2) := aTo.rf
  unfold t_X1_hedge at hT
  refine a_aload_n dX1_hedge_0 rfl ?_
  obtain ⟨a2, e1, hT⟩ := obnd hT
  refine a_gA fl_X1_49_0 e1 dX1_hedge_1 ?_
  obtain ⟨g5, hT⟩ := oifg hT
  obtain ⟨r6, e7, hT⟩ := obnd hT
  refine a_callV kv_X1_94 g5 (k_X2_copy e7) ⟨Nat.le_of_ble_eq_true rfl, Nat.le_of_ble_eq_true rfl⟩ (As := []) (rest := []) rfl rfl (Nat.le_of_ble_eq_true rfl) dX1_hedge_4 (kA ?_) xA
  refine a_astore (lv' := [some (.ref o), some (.int x0), some (.int x1), some (.int x2), some (.ref r6.1)]) dX1_hedge_7 rfl (by decide) rfl ?_
  refine a_aload_n dX1_hedge_9 rfl ?_
  refine a_aload dX1_hedge_10 rfl ?_
  refine a_aload dX1_hedge_12 rfl ?_
  refine a_iload_n dX1_hedge_14 rfl ?_
  refine a_iload_n dX1_hedge_15 rfl ?_
  refine a_iload_n dX1_hedge_16 rfl ?_
  obtain ⟨g10, hT⟩ := oifg hT
  obtain ⟨⟨y13 | y13, h14⟩, e12, hT⟩ := obnd hT
  · dsimp only at hT
    refine a_callV kv_X1_98 g10 (k_X2_hedge e12) ⟨Nat.le_of_ble_eq_true rfl, Nat.le_of_ble_eq_true rfl⟩ (As := [.int x0, .int x1, .int x2]) (rest := [.ref r6.1, .ref o]) rfl rfl (Nat.le_of_ble_eq_true rfl) dX1_hedge_17 (kXI ?_) yXI
    obtain ⟨g17, hT⟩ := oifg hT
    obtain ⟨r18, e19, hT⟩ := obnd hT
    refine a_callV kv_X1_102 g17 (k_X1_come e19) ⟨Nat.le_of_ble_eq_true rfl, Nat.le_of_ble_eq_true rfl⟩ (As := [.ref r6.1, .int y13]) (rest := []) rfl rfl (Nat.le_of_ble_eq_true rfl) dX1_hedge_20 (kI ?_) xI
    obtain rfl := Option.some.inj hT
    exact a_iret rfl rfl dX1_hedge_23 (he _ _ ⟨rfl, rfl⟩)
  · dsimp only at hT
    refine a_callV kv_X1_98 g10 (k_X2_hedge e12) ⟨Nat.le_of_ble_eq_true rfl, Nat.le_of_ble_eq_true rfl⟩ (As := [.int x0, .int x1, .int x2]) (rest := [.ref r6.1, .ref o]) rfl rfl (Nat.le_of_ble_eq_true rfl) dX1_hedge_17 rXI (zXI ?_)
    by_cases c20 : y13.1 = "MazeBonds$RefusedException"
    · have hT := oifp c20 hT
      rw [c20]
      refine a_catchI 0 rfl aNil (by decide) (by decide) q624 q643 ?_
      refine a_astore (lv' := [some (.ref o), some (.int x0), some (.int x1), some (.int x2), some (.ref y13.2)]) dX1_hedge_24 rfl (by decide) rfl ?_
      refine a_aload_n dX1_hedge_26 rfl ?_
      refine a_aload dX1_hedge_27 rfl ?_
      obtain ⟨g23, hT⟩ := oifg hT
      obtain ⟨r24, e25, hT⟩ := obnd hT
      refine a_callV kv_X1_106 g23 (k_X1_keep e25) ⟨Nat.le_of_ble_eq_true rfl, Nat.le_of_ble_eq_true rfl⟩ (As := [.ref y13.2]) (rest := []) rfl rfl (Nat.le_of_ble_eq_true rfl) dX1_hedge_29 (kA ?_) xA
      obtain ⟨g26, hT⟩ := oifg hT
      refine a_athrow (ci := 13) (fs := []) rfl g26 dX1_hedge_32 ?_
      obtain rfl := Option.some.inj hT
      exact a_out (by decide) (he _ _ ⟨rfl, rfl⟩)
    · have hT := oifn c20 hT
      cases hT
theorem kv_X1_113 : aKV "MazeBonds" 113 1 yX2_trim cX2_trim 6 (Option.some Jvm.ClassFile.FieldType.int) 3 := ⟨⟨TX2, 7, rfl⟩, Or.inl q710, q711, q712, q73, q713, ⟨by decide +kernel, by decide +kernel, by decide +kernel⟩⟩
abbrev M_X1_trim : aM := (yX1_trim.cls, cX1_trim, 5, (Option.some Jvm.ClassFile.FieldType.int), [((0 : Nat), (23 : Nat), (24 : Nat), (25 : Nat))], yX1_trim.name)
def t_X1_trim (Z : aZ) (h : aH) (o : Nat) (x0 : Int32) (x1 : Int32) (x2 : Int32) : Option ((Int32 ⊕ aXX) × aH) :=
  (gA 0 0 h o).bind fun a2 =>
  if isC 1 h a2 = true then
  (t_X2_copy Z h a2).bind fun r6 =>
  if isC 1 r6.2 r6.1 = true then
  (t_X2_trim Z r6.2 r6.1 x0 x1 x2).bind fun r11 =>
  (match r11 with
  | (.inl y13, h14) =>
    if isC 0 h14 o = true then
    (t_X1_come Z h14 o r6.1 y13).bind fun r18 =>
    some (.inl r18.1, r18.2)
    else none
  | (.inr y13, h14) =>
    if y13.1 = "MazeBonds$RefusedException" then
      if isC 0 h14 o = true then
      (t_X1_keep Z h14 o y13.2).bind fun r24 =>
      if isC 13 r24.2 r24.1 = true then
      some (.inr ("java/lang/UnsupportedOperationException", r24.1), r24.2)
      else none
      else none
    else
      none
  )
  else none
  else none
theorem k_X1_trim {G : aG} {h : aH} {o : Nat} {x0 : Int32} {x1 : Int32} {x2 : Int32} {e : ((Int32 ⊕ aXX) × aH)} (hT : t_X1_trim (gZ G) h o x0 x1 x2 = some e) : aMet G yX1_trim (wsW_ yX1_trim cX1_trim 5 (Option.some Jvm.ClassFile.FieldType.int) [((0 : Nat), (23 : Nat), (24 : Nat), (25 : Nat))]) 10 221 [.ref o, .int x0, .int x1, .int x2] h (aXI e.1 e.2) := by
  refine aMet.ofH (lv := [some (.ref o), some (.int x0), some (.int x1), some (.int x2), none]) (by decide) (Nat.le_of_ble_eq_true rfl) 1 rfl ?_
  have he : aTo (aXI e.1 e.2) (aXI e.1 e.2) := aTo.rf
  unfold t_X1_trim at hT
  refine a_aload_n dX1_trim_0 rfl ?_
  obtain ⟨a2, e1, hT⟩ := obnd hT
  refine a_gA fl_X1_49_0 e1 dX1_trim_1 ?_
  obtain ⟨g5, hT⟩ := oifg hT
  obtain ⟨r6, e7, hT⟩ := obnd hT
  refine a_callV kv_X1_94 g5 (k_X2_copy e7) ⟨Nat.le_of_ble_eq_true rfl, Nat.le_of_ble_eq_true rfl⟩ (As := []) (rest := []) rfl rfl (Nat.le_of_ble_eq_true rfl) dX1_trim_4 (kA ?_) xA
  refine a_astore (lv' := [some (.ref o), some (.int x0), some (.int x1), some (.int x2), some (.ref r6.1)]) dX1_trim_7 rfl (by decide) rfl ?_
  refine a_aload_n dX1_trim_9 rfl ?_
  refine a_aload dX1_trim_10 rfl ?_
  refine a_aload dX1_trim_12 rfl ?_
  refine a_iload_n dX1_trim_14 rfl ?_
  refine a_iload_n dX1_trim_15 rfl ?_
  refine a_iload_n dX1_trim_16 rfl ?_
  obtain ⟨g10, hT⟩ := oifg hT
  obtain ⟨⟨y13 | y13, h14⟩, e12, hT⟩ := obnd hT
  · dsimp only at hT
    refine a_callV kv_X1_113 g10 (k_X2_trim e12) ⟨Nat.le_of_ble_eq_true rfl, Nat.le_of_ble_eq_true rfl⟩ (As := [.int x0, .int x1, .int x2]) (rest := [.ref r6.1, .ref o]) rfl rfl (Nat.le_of_ble_eq_true rfl) dX1_trim_17 (kXI ?_) yXI
    obtain ⟨g17, hT⟩ := oifg hT
    obtain ⟨r18, e19, hT⟩ := obnd hT
    refine a_callV kv_X1_102 g17 (k_X1_come e19) ⟨Nat.le_of_ble_eq_true rfl, Nat.le_of_ble_eq_true rfl⟩ (As := [.ref r6.1, .int y13]) (rest := []) rfl rfl (Nat.le_of_ble_eq_true rfl) dX1_trim_20 (kI ?_) xI
    obtain rfl := Option.some.inj hT
    exact a_iret rfl rfl dX1_trim_23 (he _ _ ⟨rfl, rfl⟩)
  · dsimp only at hT
    refine a_callV kv_X1_113 g10 (k_X2_trim e12) ⟨Nat.le_of_ble_eq_true rfl, Nat.le_of_ble_eq_true rfl⟩ (As := [.int x0, .int x1, .int x2]) (rest := [.ref r6.1, .ref o]) rfl rfl (Nat.le_of_ble_eq_true rfl) dX1_trim_17 rXI (zXI ?_)
    by_cases c20 : y13.1 = "MazeBonds$RefusedException"
    · have hT := oifp c20 hT
      rw [c20]
      refine a_catchI 0 rfl aNil (by decide) (by decide) q624 q643 ?_
      refine a_astore (lv' := [some (.ref o), some (.int x0), some (.int x1), some (.int x2), some (.ref y13.2)]) dX1_trim_24 rfl (by decide) rfl ?_
      refine a_aload_n dX1_trim_26 rfl ?_
      refine a_aload dX1_trim_27 rfl ?_
      obtain ⟨g23, hT⟩ := oifg hT
      obtain ⟨r24, e25, hT⟩ := obnd hT
      refine a_callV kv_X1_106 g23 (k_X1_keep e25) ⟨Nat.le_of_ble_eq_true rfl, Nat.le_of_ble_eq_true rfl⟩ (As := [.ref y13.2]) (rest := []) rfl rfl (Nat.le_of_ble_eq_true rfl) dX1_trim_29 (kA ?_) xA
      obtain ⟨g26, hT⟩ := oifg hT
      refine a_athrow (ci := 13) (fs := []) rfl g26 dX1_trim_32 ?_
      obtain rfl := Option.some.inj hT
      exact a_out (by decide) (he _ _ ⟨rfl, rfl⟩)
    · have hT := oifn c20 hT
      cases hT
theorem kv_X1_116 : aKV "MazeBonds" 116 1 yX2_minotaur cX2_minotaur 5 (Option.some Jvm.ClassFile.FieldType.int) 1 := ⟨⟨TX2, 7, rfl⟩, Or.inl q746, q747, q748, q73, q749, ⟨by decide +kernel, by decide +kernel, by decide +kernel⟩⟩
abbrev M_X1_minotaur : aM := (yX1_minotaur.cls, cX1_minotaur, 3, (Option.some Jvm.ClassFile.FieldType.int), [((0 : Nat), (18 : Nat), (19 : Nat), (25 : Nat))], yX1_minotaur.name)
def t_X1_minotaur (Z : aZ) (h : aH) (o : Nat) (x0 : Int32) : Option ((Int32 ⊕ aXX) × aH) :=
  (gA 0 0 h o).bind fun a2 =>
  if isC 1 h a2 = true then
  (t_X2_copy Z h a2).bind fun r6 =>
  if isC 1 r6.2 r6.1 = true then
  (t_X2_minotaur Z r6.2 r6.1 x0).bind fun r11 =>
  (match r11 with
  | (.inl y13, h14) =>
    if isC 0 h14 o = true then
    (t_X1_come Z h14 o r6.1 y13).bind fun r18 =>
    some (.inl r18.1, r18.2)
    else none
  | (.inr y13, h14) =>
    if y13.1 = "MazeBonds$RefusedException" then
      if isC 0 h14 o = true then
      (t_X1_keep Z h14 o y13.2).bind fun r24 =>
      if isC 13 r24.2 r24.1 = true then
      some (.inr ("java/lang/UnsupportedOperationException", r24.1), r24.2)
      else none
      else none
    else
      none
  )
  else none
  else none
theorem k_X1_minotaur {G : aG} {h : aH} {o : Nat} {x0 : Int32} {e : ((Int32 ⊕ aXX) × aH)} (hT : t_X1_minotaur (gZ G) h o x0 = some e) : aMet G yX1_minotaur (wsW_ yX1_minotaur cX1_minotaur 3 (Option.some Jvm.ClassFile.FieldType.int) [((0 : Nat), (18 : Nat), (19 : Nat), (25 : Nat))]) 10 221 [.ref o, .int x0] h (aXI e.1 e.2) := by
  refine aMet.ofH (lv := [some (.ref o), some (.int x0), none]) (by decide) (Nat.le_of_ble_eq_true rfl) 1 rfl ?_
  have he : aTo (aXI e.1 e.2) (aXI e.1 e.2) := aTo.rf
  unfold t_X1_minotaur at hT
  refine a_aload_n dX1_minotaur_0 rfl ?_
  obtain ⟨a2, e1, hT⟩ := obnd hT
  refine a_gA fl_X1_49_0 e1 dX1_minotaur_1 ?_
  obtain ⟨g5, hT⟩ := oifg hT
  obtain ⟨r6, e7, hT⟩ := obnd hT
  refine a_callV kv_X1_94 g5 (k_X2_copy e7) ⟨Nat.le_of_ble_eq_true rfl, Nat.le_of_ble_eq_true rfl⟩ (As := []) (rest := []) rfl rfl (Nat.le_of_ble_eq_true rfl) dX1_minotaur_4 (kA ?_) xA
  refine a_astore_n (lv' := [some (.ref o), some (.int x0), some (.ref r6.1)]) dX1_minotaur_7 rfl (by decide) rfl ?_
  refine a_aload_n dX1_minotaur_8 rfl ?_
  refine a_aload_n dX1_minotaur_9 rfl ?_
  refine a_aload_n dX1_minotaur_10 rfl ?_
  refine a_iload_n dX1_minotaur_11 rfl ?_
  obtain ⟨g10, hT⟩ := oifg hT
  obtain ⟨⟨y13 | y13, h14⟩, e12, hT⟩ := obnd hT
  · dsimp only at hT
    refine a_callV kv_X1_116 g10 (k_X2_minotaur e12) ⟨Nat.le_of_ble_eq_true rfl, Nat.le_of_ble_eq_true rfl⟩ (As := [.int x0]) (rest := [.ref r6.1, .ref o]) rfl rfl (Nat.le_of_ble_eq_true rfl) dX1_minotaur_12 (kXI ?_) yXI
    obtain ⟨g17, hT⟩ := oifg hT
    obtain ⟨r18, e19, hT⟩ := obnd hT
    refine a_callV kv_X1_102 g17 (k_X1_come e19) ⟨Nat.le_of_ble_eq_true rfl, Nat.le_of_ble_eq_true rfl⟩ (As := [.ref r6.1, .int y13]) (rest := []) rfl rfl (Nat.le_of_ble_eq_true rfl) dX1_minotaur_15 (kI ?_) xI
    obtain rfl := Option.some.inj hT
    exact a_iret rfl rfl dX1_minotaur_18 (he _ _ ⟨rfl, rfl⟩)
  · dsimp only at hT
    refine a_callV kv_X1_116 g10 (k_X2_minotaur e12) ⟨Nat.le_of_ble_eq_true rfl, Nat.le_of_ble_eq_true rfl⟩ (As := [.int x0]) (rest := [.ref r6.1, .ref o]) rfl rfl (Nat.le_of_ble_eq_true rfl) dX1_minotaur_12 rXI (zXI ?_)
    by_cases c20 : y13.1 = "MazeBonds$RefusedException"
    · have hT := oifp c20 hT
      rw [c20]
      refine a_catchI 0 rfl aNil (by decide) (by decide) q624 q643 ?_
      refine a_astore_n (lv' := [some (.ref o), some (.int x0), some (.ref y13.2)]) dX1_minotaur_19 rfl (by decide) rfl ?_
      refine a_aload_n dX1_minotaur_20 rfl ?_
      refine a_aload_n dX1_minotaur_21 rfl ?_
      obtain ⟨g23, hT⟩ := oifg hT
      obtain ⟨r24, e25, hT⟩ := obnd hT
      refine a_callV kv_X1_106 g23 (k_X1_keep e25) ⟨Nat.le_of_ble_eq_true rfl, Nat.le_of_ble_eq_true rfl⟩ (As := [.ref y13.2]) (rest := []) rfl rfl (Nat.le_of_ble_eq_true rfl) dX1_minotaur_22 (kA ?_) xA
      obtain ⟨g26, hT⟩ := oifg hT
      refine a_athrow (ci := 13) (fs := []) rfl g26 dX1_minotaur_25 ?_
      obtain rfl := Option.some.inj hT
      exact a_out (by decide) (he _ _ ⟨rfl, rfl⟩)
    · have hT := oifn c20 hT
      cases hT
theorem kv_X1_120 : aKV "MazeBonds" 120 1 yX2_gardener cX2_gardener 2 (Option.some Jvm.ClassFile.FieldType.int) 1 := ⟨⟨TX2, 7, rfl⟩, Or.inl q769, q770, q771, q73, q772, ⟨by decide +kernel, by decide +kernel, by decide +kernel⟩⟩
abbrev M_X1_gardener : aM := (yX1_gardener.cls, cX1_gardener, 3, (Option.some Jvm.ClassFile.FieldType.int), [((0 : Nat), (18 : Nat), (19 : Nat), (25 : Nat))], yX1_gardener.name)
def t_X1_gardener (Z : aZ) (h : aH) (o : Nat) (x0 : Int32) : Option ((Int32 ⊕ aXX) × aH) :=
  (gA 0 0 h o).bind fun a2 =>
  if isC 1 h a2 = true then
  (t_X2_copy Z h a2).bind fun r6 =>
  if isC 1 r6.2 r6.1 = true then
  (t_X2_gardener Z r6.2 r6.1 x0).bind fun r11 =>
  (match r11 with
  | (.inl y13, h14) =>
    if isC 0 h14 o = true then
    (t_X1_come Z h14 o r6.1 y13).bind fun r18 =>
    some (.inl r18.1, r18.2)
    else none
  | (.inr y13, h14) =>
    if y13.1 = "MazeBonds$RefusedException" then
      if isC 0 h14 o = true then
      (t_X1_keep Z h14 o y13.2).bind fun r24 =>
      if isC 13 r24.2 r24.1 = true then
      some (.inr ("java/lang/UnsupportedOperationException", r24.1), r24.2)
      else none
      else none
    else
      none
  )
  else none
  else none
theorem k_X1_gardener {G : aG} {h : aH} {o : Nat} {x0 : Int32} {e : ((Int32 ⊕ aXX) × aH)} (hT : t_X1_gardener (gZ G) h o x0 = some e) : aMet G yX1_gardener (wsW_ yX1_gardener cX1_gardener 3 (Option.some Jvm.ClassFile.FieldType.int) [((0 : Nat), (18 : Nat), (19 : Nat), (25 : Nat))]) 10 221 [.ref o, .int x0] h (aXI e.1 e.2) := by
  refine aMet.ofH (lv := [some (.ref o), some (.int x0), none]) (by decide) (Nat.le_of_ble_eq_true rfl) 1 rfl ?_
  have he : aTo (aXI e.1 e.2) (aXI e.1 e.2) := aTo.rf
  unfold t_X1_gardener at hT
  refine a_aload_n dX1_gardener_0 rfl ?_
  obtain ⟨a2, e1, hT⟩ := obnd hT
  refine a_gA fl_X1_49_0 e1 dX1_gardener_1 ?_
  obtain ⟨g5, hT⟩ := oifg hT
  obtain ⟨r6, e7, hT⟩ := obnd hT
  refine a_callV kv_X1_94 g5 (k_X2_copy e7) ⟨Nat.le_of_ble_eq_true rfl, Nat.le_of_ble_eq_true rfl⟩ (As := []) (rest := []) rfl rfl (Nat.le_of_ble_eq_true rfl) dX1_gardener_4 (kA ?_) xA
  refine a_astore_n (lv' := [some (.ref o), some (.int x0), some (.ref r6.1)]) dX1_gardener_7 rfl (by decide) rfl ?_
  refine a_aload_n dX1_gardener_8 rfl ?_
  refine a_aload_n dX1_gardener_9 rfl ?_
  refine a_aload_n dX1_gardener_10 rfl ?_
  refine a_iload_n dX1_gardener_11 rfl ?_
  obtain ⟨g10, hT⟩ := oifg hT
  obtain ⟨⟨y13 | y13, h14⟩, e12, hT⟩ := obnd hT
  · dsimp only at hT
    refine a_callV kv_X1_120 g10 (k_X2_gardener e12) ⟨Nat.le_of_ble_eq_true rfl, Nat.le_of_ble_eq_true rfl⟩ (As := [.int x0]) (rest := [.ref r6.1, .ref o]) rfl rfl (Nat.le_of_ble_eq_true rfl) dX1_gardener_12 (kXI ?_) yXI
    obtain ⟨g17, hT⟩ := oifg hT
    obtain ⟨r18, e19, hT⟩ := obnd hT
    refine a_callV kv_X1_102 g17 (k_X1_come e19) ⟨Nat.le_of_ble_eq_true rfl, Nat.le_of_ble_eq_true rfl⟩ (As := [.ref r6.1, .int y13]) (rest := []) rfl rfl (Nat.le_of_ble_eq_true rfl) dX1_gardener_15 (kI ?_) xI
    obtain rfl := Option.some.inj hT
    exact a_iret rfl rfl dX1_gardener_18 (he _ _ ⟨rfl, rfl⟩)
  · dsimp only at hT
    refine a_callV kv_X1_120 g10 (k_X2_gardener e12) ⟨Nat.le_of_ble_eq_true rfl, Nat.le_of_ble_eq_true rfl⟩ (As := [.int x0]) (rest := [.ref r6.1, .ref o]) rfl rfl (Nat.le_of_ble_eq_true rfl) dX1_gardener_12 rXI (zXI ?_)
    by_cases c20 : y13.1 = "MazeBonds$RefusedException"
    · have hT := oifp c20 hT
      rw [c20]
      refine a_catchI 0 rfl aNil (by decide) (by decide) q624 q643 ?_
      refine a_astore_n (lv' := [some (.ref o), some (.int x0), some (.ref y13.2)]) dX1_gardener_19 rfl (by decide) rfl ?_
      refine a_aload_n dX1_gardener_20 rfl ?_
      refine a_aload_n dX1_gardener_21 rfl ?_
      obtain ⟨g23, hT⟩ := oifg hT
      obtain ⟨r24, e25, hT⟩ := obnd hT
      refine a_callV kv_X1_106 g23 (k_X1_keep e25) ⟨Nat.le_of_ble_eq_true rfl, Nat.le_of_ble_eq_true rfl⟩ (As := [.ref y13.2]) (rest := []) rfl rfl (Nat.le_of_ble_eq_true rfl) dX1_gardener_22 (kA ?_) xA
      obtain ⟨g26, hT⟩ := oifg hT
      refine a_athrow (ci := 13) (fs := []) rfl g26 dX1_gardener_25 ?_
      obtain rfl := Option.some.inj hT
      exact a_out (by decide) (he _ _ ⟨rfl, rfl⟩)
    · have hT := oifn c20 hT
      cases hT
theorem kv_X1_126 : aKV "MazeBonds" 126 1 yX2_bond cX2_bond 6 (Option.some Jvm.ClassFile.FieldType.int) 3 := ⟨⟨TX2, 7, rfl⟩, Or.inl q804, q805, q806, q73, q807, ⟨by decide +kernel, by decide +kernel, by decide +kernel⟩⟩
abbrev M_X1_bond : aM := (yX1_bond.cls, cX1_bond, 5, (Option.some Jvm.ClassFile.FieldType.int), [((0 : Nat), (23 : Nat), (24 : Nat), (25 : Nat))], yX1_bond.name)
def t_X1_bond (Z : aZ) (h : aH) (o : Nat) (x0 : Int32) (x1 : Int32) (x2 : Int32) : Option ((Int32 ⊕ aXX) × aH) :=
  (gA 0 0 h o).bind fun a2 =>
  if isC 1 h a2 = true then
  (t_X2_copy Z h a2).bind fun r6 =>
  if isC 1 r6.2 r6.1 = true then
  (t_X2_bond Z r6.2 r6.1 x0 x1 x2).bind fun r11 =>
  (match r11 with
  | (.inl y13, h14) =>
    if isC 0 h14 o = true then
    (t_X1_come Z h14 o r6.1 y13).bind fun r18 =>
    some (.inl r18.1, r18.2)
    else none
  | (.inr y13, h14) =>
    if y13.1 = "MazeBonds$RefusedException" then
      if isC 0 h14 o = true then
      (t_X1_keep Z h14 o y13.2).bind fun r24 =>
      if isC 13 r24.2 r24.1 = true then
      some (.inr ("java/lang/UnsupportedOperationException", r24.1), r24.2)
      else none
      else none
    else
      none
  )
  else none
  else none
theorem k_X1_bond {G : aG} {h : aH} {o : Nat} {x0 : Int32} {x1 : Int32} {x2 : Int32} {e : ((Int32 ⊕ aXX) × aH)} (hT : t_X1_bond (gZ G) h o x0 x1 x2 = some e) : aMet G yX1_bond (wsW_ yX1_bond cX1_bond 5 (Option.some Jvm.ClassFile.FieldType.int) [((0 : Nat), (23 : Nat), (24 : Nat), (25 : Nat))]) 10 221 [.ref o, .int x0, .int x1, .int x2] h (aXI e.1 e.2) := by
  refine aMet.ofH (lv := [some (.ref o), some (.int x0), some (.int x1), some (.int x2), none]) (by decide) (Nat.le_of_ble_eq_true rfl) 1 rfl ?_
  have he : aTo (aXI e.1 e.2) (aXI e.1 e.2) := aTo.rf
  unfold t_X1_bond at hT
  refine a_aload_n dX1_bond_0 rfl ?_
  obtain ⟨a2, e1, hT⟩ := obnd hT
  refine a_gA fl_X1_49_0 e1 dX1_bond_1 ?_
  obtain ⟨g5, hT⟩ := oifg hT
  obtain ⟨r6, e7, hT⟩ := obnd hT
  refine a_callV kv_X1_94 g5 (k_X2_copy e7) ⟨Nat.le_of_ble_eq_true rfl, Nat.le_of_ble_eq_true rfl⟩ (As := []) (rest := []) rfl rfl (Nat.le_of_ble_eq_true rfl) dX1_bond_4 (kA ?_) xA
  refine a_astore (lv' := [some (.ref o), some (.int x0), some (.int x1), some (.int x2), some (.ref r6.1)]) dX1_bond_7 rfl (by decide) rfl ?_
  refine a_aload_n dX1_bond_9 rfl ?_
  refine a_aload dX1_bond_10 rfl ?_
  refine a_aload dX1_bond_12 rfl ?_
  refine a_iload_n dX1_bond_14 rfl ?_
  refine a_iload_n dX1_bond_15 rfl ?_
  refine a_iload_n dX1_bond_16 rfl ?_
  obtain ⟨g10, hT⟩ := oifg hT
  obtain ⟨⟨y13 | y13, h14⟩, e12, hT⟩ := obnd hT
  · dsimp only at hT
    refine a_callV kv_X1_126 g10 (k_X2_bond e12) ⟨Nat.le_of_ble_eq_true rfl, Nat.le_of_ble_eq_true rfl⟩ (As := [.int x0, .int x1, .int x2]) (rest := [.ref r6.1, .ref o]) rfl rfl (Nat.le_of_ble_eq_true rfl) dX1_bond_17 (kXI ?_) yXI
    obtain ⟨g17, hT⟩ := oifg hT
    obtain ⟨r18, e19, hT⟩ := obnd hT
    refine a_callV kv_X1_102 g17 (k_X1_come e19) ⟨Nat.le_of_ble_eq_true rfl, Nat.le_of_ble_eq_true rfl⟩ (As := [.ref r6.1, .int y13]) (rest := []) rfl rfl (Nat.le_of_ble_eq_true rfl) dX1_bond_20 (kI ?_) xI
    obtain rfl := Option.some.inj hT
    exact a_iret rfl rfl dX1_bond_23 (he _ _ ⟨rfl, rfl⟩)
  · dsimp only at hT
    refine a_callV kv_X1_126 g10 (k_X2_bond e12) ⟨Nat.le_of_ble_eq_true rfl, Nat.le_of_ble_eq_true rfl⟩ (As := [.int x0, .int x1, .int x2]) (rest := [.ref r6.1, .ref o]) rfl rfl (Nat.le_of_ble_eq_true rfl) dX1_bond_17 rXI (zXI ?_)
    by_cases c20 : y13.1 = "MazeBonds$RefusedException"
    · have hT := oifp c20 hT
      rw [c20]
      refine a_catchI 0 rfl aNil (by decide) (by decide) q624 q643 ?_
      refine a_astore (lv' := [some (.ref o), some (.int x0), some (.int x1), some (.int x2), some (.ref y13.2)]) dX1_bond_24 rfl (by decide) rfl ?_
      refine a_aload_n dX1_bond_26 rfl ?_
      refine a_aload dX1_bond_27 rfl ?_
      obtain ⟨g23, hT⟩ := oifg hT
      obtain ⟨r24, e25, hT⟩ := obnd hT
      refine a_callV kv_X1_106 g23 (k_X1_keep e25) ⟨Nat.le_of_ble_eq_true rfl, Nat.le_of_ble_eq_true rfl⟩ (As := [.ref y13.2]) (rest := []) rfl rfl (Nat.le_of_ble_eq_true rfl) dX1_bond_29 (kA ?_) xA
      obtain ⟨g26, hT⟩ := oifg hT
      refine a_athrow (ci := 13) (fs := []) rfl g26 dX1_bond_32 ?_
      obtain rfl := Option.some.inj hT
      exact a_out (by decide) (he _ _ ⟨rfl, rfl⟩)
    · have hT := oifn c20 hT
      cases hT
theorem kv_X1_129 : aKV "MazeBonds" 129 1 yX2_walk cX2_walk 5 (Option.some Jvm.ClassFile.FieldType.int) 2 := ⟨⟨TX2, 7, rfl⟩, Or.inl q834, q835, q836, q73, q837, ⟨by decide +kernel, by decide +kernel, by decide +kernel⟩⟩
abbrev M_X1_walk : aM := (yX1_walk.cls, cX1_walk, 4, (Option.some Jvm.ClassFile.FieldType.int), [((0 : Nat), (19 : Nat), (20 : Nat), (25 : Nat))], yX1_walk.name)
def t_X1_walk (Z : aZ) (h : aH) (o : Nat) (x0 : Int32) (x1 : Int32) : Option ((Int32 ⊕ aXX) × aH) :=
  (gA 0 0 h o).bind fun a2 =>
  if isC 1 h a2 = true then
  (t_X2_copy Z h a2).bind fun r6 =>
  if isC 1 r6.2 r6.1 = true then
  (t_X2_walk Z r6.2 r6.1 x0 x1).bind fun r11 =>
  (match r11 with
  | (.inl y13, h14) =>
    if isC 0 h14 o = true then
    (t_X1_come Z h14 o r6.1 y13).bind fun r18 =>
    some (.inl r18.1, r18.2)
    else none
  | (.inr y13, h14) =>
    if y13.1 = "MazeBonds$RefusedException" then
      if isC 0 h14 o = true then
      (t_X1_keep Z h14 o y13.2).bind fun r24 =>
      if isC 13 r24.2 r24.1 = true then
      some (.inr ("java/lang/UnsupportedOperationException", r24.1), r24.2)
      else none
      else none
    else
      none
  )
  else none
  else none
theorem k_X1_walk {G : aG} {h : aH} {o : Nat} {x0 : Int32} {x1 : Int32} {e : ((Int32 ⊕ aXX) × aH)} (hT : t_X1_walk (gZ G) h o x0 x1 = some e) : aMet G yX1_walk (wsW_ yX1_walk cX1_walk 4 (Option.some Jvm.ClassFile.FieldType.int) [((0 : Nat), (19 : Nat), (20 : Nat), (25 : Nat))]) 10 221 [.ref o, .int x0, .int x1] h (aXI e.1 e.2) := by
  refine aMet.ofH (lv := [some (.ref o), some (.int x0), some (.int x1), none]) (by decide) (Nat.le_of_ble_eq_true rfl) 1 rfl ?_
  have he : aTo (aXI e.1 e.2) (aXI e.1 e.2) := aTo.rf
  unfold t_X1_walk at hT
  refine a_aload_n dX1_walk_0 rfl ?_
  obtain ⟨a2, e1, hT⟩ := obnd hT
  refine a_gA fl_X1_49_0 e1 dX1_walk_1 ?_
  obtain ⟨g5, hT⟩ := oifg hT
  obtain ⟨r6, e7, hT⟩ := obnd hT
  refine a_callV kv_X1_94 g5 (k_X2_copy e7) ⟨Nat.le_of_ble_eq_true rfl, Nat.le_of_ble_eq_true rfl⟩ (As := []) (rest := []) rfl rfl (Nat.le_of_ble_eq_true rfl) dX1_walk_4 (kA ?_) xA
  refine a_astore_n (lv' := [some (.ref o), some (.int x0), some (.int x1), some (.ref r6.1)]) dX1_walk_7 rfl (by decide) rfl ?_
  refine a_aload_n dX1_walk_8 rfl ?_
  refine a_aload_n dX1_walk_9 rfl ?_
  refine a_aload_n dX1_walk_10 rfl ?_
  refine a_iload_n dX1_walk_11 rfl ?_
  refine a_iload_n dX1_walk_12 rfl ?_
  obtain ⟨g10, hT⟩ := oifg hT
  obtain ⟨⟨y13 | y13, h14⟩, e12, hT⟩ := obnd hT
  · dsimp only at hT
    refine a_callV kv_X1_129 g10 (k_X2_walk e12) ⟨Nat.le_of_ble_eq_true rfl, Nat.le_of_ble_eq_true rfl⟩ (As := [.int x0, .int x1]) (rest := [.ref r6.1, .ref o]) rfl rfl (Nat.le_of_ble_eq_true rfl) dX1_walk_13 (kXI ?_) yXI
    obtain ⟨g17, hT⟩ := oifg hT
    obtain ⟨r18, e19, hT⟩ := obnd hT
    refine a_callV kv_X1_102 g17 (k_X1_come e19) ⟨Nat.le_of_ble_eq_true rfl, Nat.le_of_ble_eq_true rfl⟩ (As := [.ref r6.1, .int y13]) (rest := []) rfl rfl (Nat.le_of_ble_eq_true rfl) dX1_walk_16 (kI ?_) xI
    obtain rfl := Option.some.inj hT
    exact a_iret rfl rfl dX1_walk_19 (he _ _ ⟨rfl, rfl⟩)
  · dsimp only at hT
    refine a_callV kv_X1_129 g10 (k_X2_walk e12) ⟨Nat.le_of_ble_eq_true rfl, Nat.le_of_ble_eq_true rfl⟩ (As := [.int x0, .int x1]) (rest := [.ref r6.1, .ref o]) rfl rfl (Nat.le_of_ble_eq_true rfl) dX1_walk_13 rXI (zXI ?_)
    by_cases c20 : y13.1 = "MazeBonds$RefusedException"
    · have hT := oifp c20 hT
      rw [c20]
      refine a_catchI 0 rfl aNil (by decide) (by decide) q624 q643 ?_
      refine a_astore_n (lv' := [some (.ref o), some (.int x0), some (.int x1), some (.ref y13.2)]) dX1_walk_20 rfl (by decide) rfl ?_
      refine a_aload_n dX1_walk_21 rfl ?_
      refine a_aload_n dX1_walk_22 rfl ?_
      obtain ⟨g23, hT⟩ := oifg hT
      obtain ⟨r24, e25, hT⟩ := obnd hT
      refine a_callV kv_X1_106 g23 (k_X1_keep e25) ⟨Nat.le_of_ble_eq_true rfl, Nat.le_of_ble_eq_true rfl⟩ (As := [.ref y13.2]) (rest := []) rfl rfl (Nat.le_of_ble_eq_true rfl) dX1_walk_23 (kA ?_) xA
      obtain ⟨g26, hT⟩ := oifg hT
      refine a_athrow (ci := 13) (fs := []) rfl g26 dX1_walk_26 ?_
      obtain rfl := Option.some.inj hT
      exact a_out (by decide) (he _ _ ⟨rfl, rfl⟩)
    · have hT := oifn c20 hT
      cases hT
theorem kv_X1_132 : aKV "MazeBonds" 132 1 yX2_rest cX2_rest 4 (Option.some Jvm.ClassFile.FieldType.int) 2 := ⟨⟨TX2, 7, rfl⟩, Or.inl q872, q873, q874, q73, q875, ⟨by decide +kernel, by decide +kernel, by decide +kernel⟩⟩
abbrev M_X1_rest : aM := (yX1_rest.cls, cX1_rest, 4, (Option.some Jvm.ClassFile.FieldType.int), [((0 : Nat), (19 : Nat), (20 : Nat), (25 : Nat))], yX1_rest.name)
def t_X1_rest (Z : aZ) (h : aH) (o : Nat) (x0 : Int32) (x1 : Int32) : Option ((Int32 ⊕ aXX) × aH) :=
  (gA 0 0 h o).bind fun a2 =>
  if isC 1 h a2 = true then
  (t_X2_copy Z h a2).bind fun r6 =>
  if isC 1 r6.2 r6.1 = true then
  (t_X2_rest Z r6.2 r6.1 x0 x1).bind fun r11 =>
  (match r11 with
  | (.inl y13, h14) =>
    if isC 0 h14 o = true then
    (t_X1_come Z h14 o r6.1 y13).bind fun r18 =>
    some (.inl r18.1, r18.2)
    else none
  | (.inr y13, h14) =>
    if y13.1 = "MazeBonds$RefusedException" then
      if isC 0 h14 o = true then
      (t_X1_keep Z h14 o y13.2).bind fun r24 =>
      if isC 13 r24.2 r24.1 = true then
      some (.inr ("java/lang/UnsupportedOperationException", r24.1), r24.2)
      else none
      else none
    else
      none
  )
  else none
  else none
theorem k_X1_rest {G : aG} {h : aH} {o : Nat} {x0 : Int32} {x1 : Int32} {e : ((Int32 ⊕ aXX) × aH)} (hT : t_X1_rest (gZ G) h o x0 x1 = some e) : aMet G yX1_rest (wsW_ yX1_rest cX1_rest 4 (Option.some Jvm.ClassFile.FieldType.int) [((0 : Nat), (19 : Nat), (20 : Nat), (25 : Nat))]) 10 221 [.ref o, .int x0, .int x1] h (aXI e.1 e.2) := by
  refine aMet.ofH (lv := [some (.ref o), some (.int x0), some (.int x1), none]) (by decide) (Nat.le_of_ble_eq_true rfl) 1 rfl ?_
  have he : aTo (aXI e.1 e.2) (aXI e.1 e.2) := aTo.rf
  unfold t_X1_rest at hT
  refine a_aload_n dX1_rest_0 rfl ?_
  obtain ⟨a2, e1, hT⟩ := obnd hT
  refine a_gA fl_X1_49_0 e1 dX1_rest_1 ?_
  obtain ⟨g5, hT⟩ := oifg hT
  obtain ⟨r6, e7, hT⟩ := obnd hT
  refine a_callV kv_X1_94 g5 (k_X2_copy e7) ⟨Nat.le_of_ble_eq_true rfl, Nat.le_of_ble_eq_true rfl⟩ (As := []) (rest := []) rfl rfl (Nat.le_of_ble_eq_true rfl) dX1_rest_4 (kA ?_) xA
  refine a_astore_n (lv' := [some (.ref o), some (.int x0), some (.int x1), some (.ref r6.1)]) dX1_rest_7 rfl (by decide) rfl ?_
  refine a_aload_n dX1_rest_8 rfl ?_
  refine a_aload_n dX1_rest_9 rfl ?_
  refine a_aload_n dX1_rest_10 rfl ?_
  refine a_iload_n dX1_rest_11 rfl ?_
  refine a_iload_n dX1_rest_12 rfl ?_
  obtain ⟨g10, hT⟩ := oifg hT
  obtain ⟨⟨y13 | y13, h14⟩, e12, hT⟩ := obnd hT
  · dsimp only at hT
    refine a_callV kv_X1_132 g10 (k_X2_rest e12) ⟨Nat.le_of_ble_eq_true rfl, Nat.le_of_ble_eq_true rfl⟩ (As := [.int x0, .int x1]) (rest := [.ref r6.1, .ref o]) rfl rfl (Nat.le_of_ble_eq_true rfl) dX1_rest_13 (kXI ?_) yXI
    obtain ⟨g17, hT⟩ := oifg hT
    obtain ⟨r18, e19, hT⟩ := obnd hT
    refine a_callV kv_X1_102 g17 (k_X1_come e19) ⟨Nat.le_of_ble_eq_true rfl, Nat.le_of_ble_eq_true rfl⟩ (As := [.ref r6.1, .int y13]) (rest := []) rfl rfl (Nat.le_of_ble_eq_true rfl) dX1_rest_16 (kI ?_) xI
    obtain rfl := Option.some.inj hT
    exact a_iret rfl rfl dX1_rest_19 (he _ _ ⟨rfl, rfl⟩)
  · dsimp only at hT
    refine a_callV kv_X1_132 g10 (k_X2_rest e12) ⟨Nat.le_of_ble_eq_true rfl, Nat.le_of_ble_eq_true rfl⟩ (As := [.int x0, .int x1]) (rest := [.ref r6.1, .ref o]) rfl rfl (Nat.le_of_ble_eq_true rfl) dX1_rest_13 rXI (zXI ?_)
    by_cases c20 : y13.1 = "MazeBonds$RefusedException"
    · have hT := oifp c20 hT
      rw [c20]
      refine a_catchI 0 rfl aNil (by decide) (by decide) q624 q643 ?_
      refine a_astore_n (lv' := [some (.ref o), some (.int x0), some (.int x1), some (.ref y13.2)]) dX1_rest_20 rfl (by decide) rfl ?_
      refine a_aload_n dX1_rest_21 rfl ?_
      refine a_aload_n dX1_rest_22 rfl ?_
      obtain ⟨g23, hT⟩ := oifg hT
      obtain ⟨r24, e25, hT⟩ := obnd hT
      refine a_callV kv_X1_106 g23 (k_X1_keep e25) ⟨Nat.le_of_ble_eq_true rfl, Nat.le_of_ble_eq_true rfl⟩ (As := [.ref y13.2]) (rest := []) rfl rfl (Nat.le_of_ble_eq_true rfl) dX1_rest_23 (kA ?_) xA
      obtain ⟨g26, hT⟩ := oifg hT
      refine a_athrow (ci := 13) (fs := []) rfl g26 dX1_rest_26 ?_
      obtain rfl := Option.some.inj hT
      exact a_out (by decide) (he _ _ ⟨rfl, rfl⟩)
    · have hT := oifn c20 hT
      cases hT
theorem kv_X1_171 : aKV "MazeBonds" 171 1 yX2_distances cX2_distances 5 (Option.some (Jvm.ClassFile.FieldType.array Jvm.ClassFile.FieldType.int)) 2 := ⟨⟨TX2, 7, rfl⟩, Or.inl q986, q579, q580, q73, q581, ⟨by decide +kernel, by decide +kernel, by decide +kernel⟩⟩
abbrev M_X1_next : aM := (yX1_next.cls, cX1_next, 4, (Option.some Jvm.ClassFile.FieldType.int), [], yX1_next.name)
def p_X1_next_b44 (G : aG) (h0 : aH) (K : aRes → aH → Prop) (x9 : (Nat × Int32 × Nat × Int32 × aH)) : Prop := aW G M_X1_next 11 240 h0 K x9.2.2.2.2 44 [some (.ref x9.1), some (.int x9.2.1), some (.ref x9.2.2.1), some (.int x9.2.2.2.1)] []
def t_X1_next_l81 (Z : aZ) (h : aH)  : Option ((Int32 ⊕ aXX) × aH) :=
  (nw Z h (.inr (12, [])) 6).bind fun h26 =>
  if isC 12 h26 h.2.1 = true then
  some (.inr ("java/util/NoSuchElementException", h.2.1), h26)
  else none
theorem k_X1_next_l81 {G : aG} {h0 : aH} {K : aRes → aH → Prop} {h : aH}  {e : ((Int32 ⊕ aXX) × aH)} (hT : t_X1_next_l81 (gZ G) h  = some e) (he : (fun e => aTo (aXI e.1 e.2) K) e) : aW G M_X1_next 11 240 h0 K h 81 [none, none, none, none] [] := by
  unfold t_X1_next_l81 at hT
  obtain ⟨h26, e27, hT⟩ := obnd hT
  refine a_make0 mk_X1_19 e27 dX1_next_81 dX1_next_84 dX1_next_85 (by decide) (by decide) ?_
  obtain ⟨g28, hT⟩ := oifg hT
  refine a_athrow (ci := 12) (fs := []) rfl g28 dX1_next_88 ?_
  obtain rfl := Option.some.inj hT
  exact a_out (by decide) (he _ _ ⟨rfl, rfl⟩)
def t_X1_next_l75 (Z : aZ) (h : aH) (v0 : Nat) (v1 : Int32) (v2 : Nat) (v3 : Int32) : Option ((Nat × Int32 × Nat × Int32 × aH) ⊕ ((Int32 ⊕ aXX) × aH)) :=
  some (.inl (v0, v1, v2, (v3 + 1), h))
theorem k_X1_next_l75 {G : aG} {h0 : aH} {K : aRes → aH → Prop} {h : aH} {v0 : Nat} {v1 : Int32} {v2 : Nat} {v3 : Int32} {e : ((Nat × Int32 × Nat × Int32 × aH) ⊕ ((Int32 ⊕ aXX) × aH))} (hT : t_X1_next_l75 (gZ G) h v0 v1 v2 v3 = some e) (he : (Sum.elim (p_X1_next_b44 G h0 K) (fun e => aTo (aXI e.1 e.2) K)) e) : aW G M_X1_next 11 240 h0 K h 75 [some (.ref v0), some (.int v1), some (.ref v2), some (.int v3)] [] := by
  unfold t_X1_next_l75 at hT
  refine a_iinc (v := (v3 + 1)) (lv' := [some (.ref v0), some (.int v1), some (.ref v2), some (.int (v3 + 1))]) dX1_next_75 rfl (by rfl) rfl (by decide) rfl ?_
  refine a_goto 44 dX1_next_78 rfl ?_
  obtain rfl := Option.some.inj hT
  exact he
def t_X1_next_b44 (Z : aZ) : (Nat × Int32 × Nat × Int32 × aH) → Option ((Nat × Int32 × Nat × Int32 × aH) ⊕ ((Int32 ⊕ aXX) × aH)) := fun (v0, v1, v2, v3, h) =>
  if 16 ≤ v3 then
    (t_X1_next_l81 Z h).map .inr
  else
    (gA 0 0 h v0).bind fun a30 =>
    if isC 1 h a30 = true then
    (t_X2_isGap Z h a30 v1 v3).bind fun r34 =>
    if r34.1 = 0 then
      t_X1_next_l75 Z r34.2 v0 v1 v2 v3
    else
      (ldI Z r34.2 v2 v3).bind fun z38 =>
      (ldI Z r34.2 v2 v1).bind fun z40 =>
      if z38 = (z40 - 1) then
        some (.inr ((.inl v3, r34.2)))
      else
        t_X1_next_l75 Z r34.2 v0 v1 v2 v3
    else none
theorem kb_X1_next_b44 {G : aG} {h0 : aH} {K : aRes → aH → Prop} : ∀ (x9 : (Nat × Int32 × Nat × Int32 × aH)) (e : ((Nat × Int32 × Nat × Int32 × aH) ⊕ ((Int32 ⊕ aXX) × aH))), t_X1_next_b44 (gZ G) x9 = some e → (Sum.elim (p_X1_next_b44 G h0 K) (fun e => aTo (aXI e.1 e.2) K)) e → p_X1_next_b44 G h0 K x9 := by
  intro x9 e hT he
  obtain ⟨v0, v1, v2, v3, h⟩ := x9
  unfold p_X1_next_b44
  unfold t_X1_next_b44 at hT
  show aW G M_X1_next 11 240 h0 K h 44 [some (.ref v0), some (.int v1), some (.ref v2), some (.int v3)] []
  dsimp only at hT
  refine a_iload_n dX1_next_44 rfl ?_
  refine a_bipush (v := 16) dX1_next_45 (by decide) ?_
  refine a_icmp_ge 81 dX1_next_47 rfl (fun c25 => ?_) (fun c25 => ?_)
  · have hT := oifp c25 hT
    refine a_mask [false, false, false, false] ?_
    obtain ⟨e8, hT8, rfl⟩ := omap hT
    exact k_X1_next_l81 hT8 he
  · have hT := oifn c25 hT
    refine a_aload_n dX1_next_50 rfl ?_
    obtain ⟨a30, e29, hT⟩ := obnd hT
    refine a_gA fl_X1_49_0 e29 dX1_next_51 ?_
    refine a_iload_n dX1_next_54 rfl ?_
    refine a_iload_n dX1_next_55 rfl ?_
    obtain ⟨g33, hT⟩ := oifg hT
    obtain ⟨r34, e35, hT⟩ := obnd hT
    refine a_callV kv_X1_160 g33 (k_X2_isGap e35) ⟨Nat.le_of_ble_eq_true rfl, Nat.le_of_ble_eq_true rfl⟩ (As := [.int v1, .int v3]) (rest := []) rfl rfl (Nat.le_of_ble_eq_true rfl) dX1_next_56 (kI ?_) xI
    refine a_if_eq 75 dX1_next_59 rfl (fun c36 => ?_) (fun c36 => ?_)
    · have hT := oifp c36 hT
      exact k_X1_next_l75 hT he
    · have hT := oifn c36 hT
      refine a_aload_n dX1_next_62 rfl ?_
      refine a_iload_n dX1_next_63 rfl ?_
      obtain ⟨z38, e37, hT⟩ := obnd hT
      refine a_ldI e37 dX1_next_64 ?_
      refine a_aload_n dX1_next_65 rfl ?_
      refine a_iload_n dX1_next_66 rfl ?_
      obtain ⟨z40, e39, hT⟩ := obnd hT
      refine a_ldI e39 dX1_next_67 ?_
      refine a_iconst (v := 1) dX1_next_68 (by decide) ?_
      refine a_isub dX1_next_69 ?_
      refine a_icmp_ne 75 dX1_next_70 rfl (fun c41 => ?_) (fun c41 => ?_)
      · have hT := oifn c41 hT
        exact k_X1_next_l75 hT he
      · have hT := oifp c41 hT
        refine a_iload_n dX1_next_73 rfl ?_
        obtain rfl := Option.some.inj hT
        exact a_iret rfl rfl dX1_next_74 (he _ _ ⟨rfl, rfl⟩)
theorem k_X1_next_b44 {G : aG} {h0 : aH} {K : aRes → aH → Prop} {n9 : Nat} {x9 : (Nat × Int32 × Nat × Int32 × aH)} {e : ((Int32 ⊕ aXX) × aH)} (hT : wlo (t_X1_next_b44 (gZ G)) n9 x9 = some e) (he : (fun e => aTo (aXI e.1 e.2) K) e) : p_X1_next_b44 G h0 K x9 := wlo_W kb_X1_next_b44 n9 x9 e hT he
def t_X1_next_l39 (Z : aZ) (h : aH) (v0 : Nat) (v1 : Int32) (v2 : Nat) (u0 : Int32) : Option ((Int32 ⊕ aXX) × aH) :=
  (t_X1_requireElement Z h u0).bind fun r21 =>
  (match r21 with
  | (.inl y23, h24) =>
    wlo (t_X1_next_b44 Z) 100 (v0, v1, v2, 0, h24)
  | (.inr y23, h24) =>
    some (.inr y23, h24)
  )
theorem k_X1_next_l39 {G : aG} {h0 : aH} {K : aRes → aH → Prop} {h : aH} {v0 : Nat} {v1 : Int32} {v2 : Nat} {u0 : Int32} {e : ((Int32 ⊕ aXX) × aH)} (hT : t_X1_next_l39 (gZ G) h v0 v1 v2 u0 = some e) (he : (fun e => aTo (aXI e.1 e.2) K) e) : aW G M_X1_next 11 240 h0 K h 39 [some (.ref v0), some (.int v1), some (.ref v2), none] [.int u0] := by
  unfold t_X1_next_l39 at hT
  obtain ⟨⟨y23 | y23, h24⟩, e22, hT⟩ := obnd hT
  · dsimp only at hT
    refine a_callS ks_X1_150 (k_X1_requireElement e22) ⟨Nat.le_of_ble_eq_true rfl, Nat.le_of_ble_eq_true rfl⟩ (As := [.int u0]) (rest := []) rfl rfl (Nat.le_of_ble_eq_true rfl) dX1_next_39 (kXV ?_) yXV
    refine a_iconst (v := 0) dX1_next_42 (by decide) ?_
    refine a_istore_n (lv' := [some (.ref v0), some (.int v1), some (.ref v2), some (.int 0)]) dX1_next_43 rfl (by decide) rfl ?_
    exact k_X1_next_b44 hT he
  · dsimp only at hT
    refine a_callS ks_X1_150 (k_X1_requireElement e22) ⟨Nat.le_of_ble_eq_true rfl, Nat.le_of_ble_eq_true rfl⟩ (As := [.int u0]) (rest := []) rfl rfl (Nat.le_of_ble_eq_true rfl) dX1_next_39 rXV (zXV ?_)
    obtain rfl := Option.some.inj hT
    exact a_out (by decide) (he _ _ ⟨rfl, rfl⟩)
def t_X1_next_l38 (Z : aZ) (h : aH) (v0 : Nat) (v1 : Int32) (v2 : Nat) : Option ((Int32 ⊕ aXX) × aH) :=
  t_X1_next_l39 Z h v0 v1 v2 0
theorem k_X1_next_l38 {G : aG} {h0 : aH} {K : aRes → aH → Prop} {h : aH} {v0 : Nat} {v1 : Int32} {v2 : Nat} {e : ((Int32 ⊕ aXX) × aH)} (hT : t_X1_next_l38 (gZ G) h v0 v1 v2 = some e) (he : (fun e => aTo (aXI e.1 e.2) K) e) : aW G M_X1_next 11 240 h0 K h 38 [some (.ref v0), some (.int v1), some (.ref v2), none] [] := by
  unfold t_X1_next_l38 at hT
  refine a_iconst (v := 0) dX1_next_38 (by decide) ?_
  exact k_X1_next_l39 hT he
def t_X1_next (Z : aZ) (h : aH) (o : Nat) (x0 : Int32) : Option ((Int32 ⊕ aXX) × aH) :=
  (nwA Z h 1 (fun N => .inl (zI Z, N, .inl fun _ => 0))).bind fun h1 =>
  (stI Z h1 h.2.1 0 x0).bind fun h4 =>
  (t_X1_requireCells Z h4 h.2.1).bind fun r7 =>
  (match r7 with
  | (.inl y9, h10) =>
    (gA 0 0 h10 o).bind fun a12 =>
    if isC 1 h10 a12 = true then
    (t_X2_distances Z h10 a12 15 0).bind fun r16 =>
    if x0 = 15 then
      t_X1_next_l38 Z r16.2 o x0 r16.1
    else
      (ldI Z r16.2 r16.1 x0).bind fun z43 =>
      if z43 = (-1) then
        t_X1_next_l38 Z r16.2 o x0 r16.1
      else
        t_X1_next_l39 Z r16.2 o x0 r16.1 1
    else none
  | (.inr y9, h10) =>
    some (.inr y9, h10)
  )
theorem k_X1_next {G : aG} {h : aH} {o : Nat} {x0 : Int32} {e : ((Int32 ⊕ aXX) × aH)} (hT : t_X1_next (gZ G) h o x0 = some e) : aMet G yX1_next (ws_ yX1_next cX1_next 4 (Option.some Jvm.ClassFile.FieldType.int)) 11 240 [.ref o, .int x0] h (aXI e.1 e.2) := by
  refine aMet.of (lv := [some (.ref o), some (.int x0), none, none]) (by decide) (Nat.le_of_ble_eq_true rfl) 2 rfl ?_
  have he : aTo (aXI e.1 e.2) (aXI e.1 e.2) := aTo.rf
  unfold t_X1_next at hT
  refine a_iconst (v := 1) dX1_next_0 (by decide) ?_
  obtain ⟨h1, e2, hT⟩ := obnd hT
  refine a_newI q156 e2 dX1_next_1 ?_
  refine a_dup dX1_next_3 rfl ?_
  refine a_iconst (v := 0) dX1_next_4 (by decide) ?_
  refine a_iload_n dX1_next_5 rfl ?_
  obtain ⟨h4, e3, hT⟩ := obnd hT
  refine a_stI e3 dX1_next_6 ?_
  obtain ⟨⟨y9 | y9, h10⟩, e8, hT⟩ := obnd hT
  · dsimp only at hT
    refine a_callS ks_X1_143 (k_X1_requireCells e8) ⟨Nat.le_of_ble_eq_true rfl, Nat.le_of_ble_eq_true rfl⟩ (As := [.ref h.2.1]) (rest := []) rfl rfl (Nat.le_of_ble_eq_true rfl) dX1_next_7 (kXV ?_) yXV
    refine a_aload_n dX1_next_10 rfl ?_
    obtain ⟨a12, e11, hT⟩ := obnd hT
    refine a_gA fl_X1_49_0 e11 dX1_next_11 ?_
    refine a_bipush (v := 15) dX1_next_14 (by decide) ?_
    refine a_iconst (v := 0) dX1_next_16 (by decide) ?_
    obtain ⟨g15, hT⟩ := oifg hT
    obtain ⟨r16, e17, hT⟩ := obnd hT
    refine a_callV kv_X1_171 g15 (k_X2_distances e17) ⟨Nat.le_of_ble_eq_true rfl, Nat.le_of_ble_eq_true rfl⟩ (As := [.int 15, .int 0]) (rest := []) rfl rfl (Nat.le_of_ble_eq_true rfl) dX1_next_17 (kA ?_) xA
    refine a_astore_n (lv' := [some (.ref o), some (.int x0), some (.ref r16.1), none]) dX1_next_20 rfl (by decide) rfl ?_
    refine a_iload_n dX1_next_21 rfl ?_
    refine a_bipush (v := 15) dX1_next_22 (by decide) ?_
    refine a_icmp_eq 38 dX1_next_24 rfl (fun c18 => ?_) (fun c18 => ?_)
    · have hT := oifp c18 hT
      exact k_X1_next_l38 hT he
    · have hT := oifn c18 hT
      refine a_aload_n dX1_next_27 rfl ?_
      refine a_iload_n dX1_next_28 rfl ?_
      obtain ⟨z43, e42, hT⟩ := obnd hT
      refine a_ldI e42 dX1_next_29 ?_
      refine a_iconst (v := (-1)) dX1_next_30 (by decide) ?_
      refine a_icmp_eq 38 dX1_next_31 rfl (fun c44 => ?_) (fun c44 => ?_)
      · have hT := oifp c44 hT
        exact k_X1_next_l38 hT he
      · have hT := oifn c44 hT
        refine a_iconst (v := 1) dX1_next_34 (by decide) ?_
        refine a_goto 39 dX1_next_35 rfl ?_
        exact k_X1_next_l39 hT he
  · dsimp only at hT
    refine a_callS ks_X1_143 (k_X1_requireCells e8) ⟨Nat.le_of_ble_eq_true rfl, Nat.le_of_ble_eq_true rfl⟩ (As := [.ref h.2.1]) (rest := []) rfl rfl (Nat.le_of_ble_eq_true rfl) dX1_next_7 rXV (zXV ?_)
    obtain rfl := Option.some.inj hT
    exact a_out (by decide) (he _ _ ⟨rfl, rfl⟩)
theorem kv_X1_175 : aKV "MazeBonds" 175 1 yX2_reached cX2_reached 5 (Option.some Jvm.ClassFile.FieldType.int) 1 := ⟨⟨TX2, 7, rfl⟩, Or.inl q994, q787, q788, q73, q789, ⟨by decide +kernel, by decide +kernel, by decide +kernel⟩⟩
