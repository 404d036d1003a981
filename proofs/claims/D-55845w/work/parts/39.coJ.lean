/-! decompiled (written by gen/comp.py) -/
set_option maxRecDepth 100000
abbrev M_X1_reached : aM := (yX1_reached.cls, cX1_reached, 2, (Option.some Jvm.ClassFile.FieldType.int), [], yX1_reached.name)
def t_X1_reached (Z : aZ) (h : aH) (o : Nat) (x0 : Int32) : Option ((Int32 ⊕ aXX) × aH) :=
  (nwA Z h 1 (fun N => .inl (zI Z, N, .inl fun _ => 0))).bind fun h1 =>
  (stI Z h1 h.2.1 0 x0).bind fun h4 =>
  (t_X1_requireCells Z h4 h.2.1).bind fun r7 =>
  (match r7 with
  | (.inl y9, h10) =>
    (gA 0 0 h10 o).bind fun a12 =>
    if isC 1 h10 a12 = true then
    (t_X2_reached Z h10 a12 x0).bind fun r16 =>
    some (.inl r16.1, r16.2)
    else none
  | (.inr y9, h10) =>
    some (.inr y9, h10)
  )
theorem k_X1_reached {G : aG} {h : aH} {o : Nat} {x0 : Int32} {e : ((Int32 ⊕ aXX) × aH)} (hT : t_X1_reached (gZ G) h o x0 = some e) : aMet G yX1_reached (ws_ yX1_reached cX1_reached 2 (Option.some Jvm.ClassFile.FieldType.int)) 11 240 [.ref o, .int x0] h (aXI e.1 e.2) := by
  refine aMet.of (lv := [some (.ref o), some (.int x0)]) (by decide) (Nat.le_of_ble_eq_true rfl) 0 rfl ?_
  have he : aTo (aXI e.1 e.2) (aXI e.1 e.2) := aTo.rf
  unfold t_X1_reached at hT
  refine a_iconst (v := 1) dX1_reached_0 (by decide) ?_
  obtain ⟨h1, e2, hT⟩ := obnd hT
  refine a_newI q156 e2 dX1_reached_1 ?_
  refine a_dup dX1_reached_3 rfl ?_
  refine a_iconst (v := 0) dX1_reached_4 (by decide) ?_
  refine a_iload_n dX1_reached_5 rfl ?_
  obtain ⟨h4, e3, hT⟩ := obnd hT
  refine a_stI e3 dX1_reached_6 ?_
  obtain ⟨⟨y9 | y9, h10⟩, e8, hT⟩ := obnd hT
  · dsimp only at hT
    refine a_callS ks_X1_143 (k_X1_requireCells e8) ⟨Nat.le_of_ble_eq_true rfl, Nat.le_of_ble_eq_true rfl⟩ (As := [.ref h.2.1]) (rest := []) rfl rfl (Nat.le_of_ble_eq_true rfl) dX1_reached_7 (kXV ?_) yXV
    refine a_aload_n dX1_reached_10 rfl ?_
    obtain ⟨a12, e11, hT⟩ := obnd hT
    refine a_gA fl_X1_49_0 e11 dX1_reached_11 ?_
    refine a_iload_n dX1_reached_14 rfl ?_
    obtain ⟨g15, hT⟩ := oifg hT
    obtain ⟨r16, e17, hT⟩ := obnd hT
    refine a_callV kv_X1_175 g15 (k_X2_reached e17) ⟨Nat.le_of_ble_eq_true rfl, Nat.le_of_ble_eq_true rfl⟩ (As := [.int x0]) (rest := []) rfl rfl (Nat.le_of_ble_eq_true rfl) dX1_reached_15 (kI ?_) xI
    obtain rfl := Option.some.inj hT
    exact a_iret rfl rfl dX1_reached_18 (he _ _ ⟨rfl, rfl⟩)
  · dsimp only at hT
    refine a_callS ks_X1_143 (k_X1_requireCells e8) ⟨Nat.le_of_ble_eq_true rfl, Nat.le_of_ble_eq_true rfl⟩ (As := [.ref h.2.1]) (rest := []) rfl rfl (Nat.le_of_ble_eq_true rfl) dX1_reached_7 rXV (zXV ?_)
    obtain rfl := Option.some.inj hT
    exact a_out (by decide) (he _ _ ⟨rfl, rfl⟩)
abbrev M_X1_trims : aM := (yX1_trims.cls, cX1_trims, 2, (Option.some Jvm.ClassFile.FieldType.int), [], yX1_trims.name)
def t_X1_trims (Z : aZ) (h : aH) (o : Nat) (x0 : Int32) : Option ((Int32 ⊕ aXX) × aH) :=
  (nwA Z h 1 (fun N => .inl (zI Z, N, .inl fun _ => 0))).bind fun h1 =>
  (stI Z h1 h.2.1 0 x0).bind fun h4 =>
  (t_X1_requireCells Z h4 h.2.1).bind fun r7 =>
  (match r7 with
  | (.inl y9, h10) =>
    (gA 0 0 h10 o).bind fun a12 =>
    if isC 1 h10 a12 = true then
    (t_X2_distances Z h10 a12 x0 1).bind fun r16 =>
    (ldI Z r16.2 r16.1 15).bind fun z19 =>
    some (.inl z19, r16.2)
    else none
  | (.inr y9, h10) =>
    some (.inr y9, h10)
  )
theorem k_X1_trims {G : aG} {h : aH} {o : Nat} {x0 : Int32} {e : ((Int32 ⊕ aXX) × aH)} (hT : t_X1_trims (gZ G) h o x0 = some e) : aMet G yX1_trims (ws_ yX1_trims cX1_trims 2 (Option.some Jvm.ClassFile.FieldType.int)) 11 240 [.ref o, .int x0] h (aXI e.1 e.2) := by
  refine aMet.of (lv := [some (.ref o), some (.int x0)]) (by decide) (Nat.le_of_ble_eq_true rfl) 0 rfl ?_
  have he : aTo (aXI e.1 e.2) (aXI e.1 e.2) := aTo.rf
  unfold t_X1_trims at hT
  refine a_iconst (v := 1) dX1_trims_0 (by decide) ?_
  obtain ⟨h1, e2, hT⟩ := obnd hT
  refine a_newI q156 e2 dX1_trims_1 ?_
  refine a_dup dX1_trims_3 rfl ?_
  refine a_iconst (v := 0) dX1_trims_4 (by decide) ?_
  refine a_iload_n dX1_trims_5 rfl ?_
  obtain ⟨h4, e3, hT⟩ := obnd hT
  refine a_stI e3 dX1_trims_6 ?_
  obtain ⟨⟨y9 | y9, h10⟩, e8, hT⟩ := obnd hT
  · dsimp only at hT
    refine a_callS ks_X1_143 (k_X1_requireCells e8) ⟨Nat.le_of_ble_eq_true rfl, Nat.le_of_ble_eq_true rfl⟩ (As := [.ref h.2.1]) (rest := []) rfl rfl (Nat.le_of_ble_eq_true rfl) dX1_trims_7 (kXV ?_) yXV
    refine a_aload_n dX1_trims_10 rfl ?_
    obtain ⟨a12, e11, hT⟩ := obnd hT
    refine a_gA fl_X1_49_0 e11 dX1_trims_11 ?_
    refine a_iload_n dX1_trims_14 rfl ?_
    refine a_iconst (v := 1) dX1_trims_15 (by decide) ?_
    obtain ⟨g15, hT⟩ := oifg hT
    obtain ⟨r16, e17, hT⟩ := obnd hT
    refine a_callV kv_X1_171 g15 (k_X2_distances e17) ⟨Nat.le_of_ble_eq_true rfl, Nat.le_of_ble_eq_true rfl⟩ (As := [.int x0, .int 1]) (rest := []) rfl rfl (Nat.le_of_ble_eq_true rfl) dX1_trims_16 (kA ?_) xA
    refine a_bipush (v := 15) dX1_trims_19 (by decide) ?_
    obtain ⟨z19, e18, hT⟩ := obnd hT
    refine a_ldI e18 dX1_trims_21 ?_
    obtain rfl := Option.some.inj hT
    exact a_iret rfl rfl dX1_trims_22 (he _ _ ⟨rfl, rfl⟩)
  · dsimp only at hT
    refine a_callS ks_X1_143 (k_X1_requireCells e8) ⟨Nat.le_of_ble_eq_true rfl, Nat.le_of_ble_eq_true rfl⟩ (As := [.ref h.2.1]) (rest := []) rfl rfl (Nat.le_of_ble_eq_true rfl) dX1_trims_7 rXV (zXV ?_)
    obtain rfl := Option.some.inj hT
    exact a_out (by decide) (he _ _ ⟨rfl, rfl⟩)
theorem kv_X1_265 : aKV "MazeBonds" 265 0 yX1_isRicher cX1_isRicher 5 (Option.some Jvm.ClassFile.FieldType.boolean) 2 := ⟨⟨TX1, 8, rfl⟩, Or.inl q1117, q1119, qs17, q72, q1120, ⟨by decide +kernel, by decide +kernel, by decide +kernel⟩⟩
abbrev M_X1_richest : aM := (yX1_richest.cls, cX1_richest, 5, (Option.some Jvm.ClassFile.FieldType.int), [], yX1_richest.name)
def p_X1_richest_b2 (G : aG) (h0 : aH) (K : aRes → aH → Prop) (x9 : (Nat × Int32 × Int32 × aH)) : Prop := aW G M_X1_richest 9 200 h0 K x9.2.2.2 2 [some (.ref x9.1), some (.int x9.2.1), some (.int x9.2.2.1), none, none] []
def t_X1_richest_l73 (Z : aZ) (h : aH)  : Option ((Int32 ⊕ aXX) × aH) :=
  (nw Z h (.inr (12, [])) 6).bind fun h11 =>
  if isC 12 h11 h.2.1 = true then
  some (.inr ("java/util/NoSuchElementException", h.2.1), h11)
  else none
theorem k_X1_richest_l73 {G : aG} {h0 : aH} {K : aRes → aH → Prop} {h : aH}  {e : ((Int32 ⊕ aXX) × aH)} (hT : t_X1_richest_l73 (gZ G) h  = some e) (he : (fun e => aTo (aXI e.1 e.2) K) e) : aW G M_X1_richest 9 200 h0 K h 73 [none, none, none, none, none] [] := by
  unfold t_X1_richest_l73 at hT
  obtain ⟨h11, e12, hT⟩ := obnd hT
  refine a_make0 mk_X1_19 e12 dX1_richest_73 dX1_richest_76 dX1_richest_77 (by decide) (by decide) ?_
  obtain ⟨g13, hT⟩ := oifg hT
  refine a_athrow (ci := 12) (fs := []) rfl g13 dX1_richest_80 ?_
  obtain rfl := Option.some.inj hT
  exact a_out (by decide) (he _ _ ⟨rfl, rfl⟩)
def p_X1_richest_b21 (G : aG) (h0 : aH) (K : aRes → aH → Prop) (x9 : (Nat × Int32 × Int32 × Int32 × Int32 × aH)) : Prop := aW G M_X1_richest 9 200 h0 K x9.2.2.2.2.2 21 [some (.ref x9.1), some (.int x9.2.1), some (.int x9.2.2.1), some (.int x9.2.2.2.1), some (.int x9.2.2.2.2.1)] []
def t_X1_richest_l52 (Z : aZ) (h : aH) (v0 : Nat) (v1 : Int32) (v2 : Int32) (v4 : Int32) (u0 : Int32) (u1 : Int32) : Option ((Nat × Int32 × Int32 × Int32 × Int32 × aH) ⊕ ((Nat × Int32 × Int32 × aH) ⊕ ((Int32 ⊕ aXX) × aH))) :=
  some (.inl (v0, v1, v2, (u1 + u0), (v4 + 1), h))
theorem k_X1_richest_l52 {G : aG} {h0 : aH} {K : aRes → aH → Prop} {h : aH} {v0 : Nat} {v1 : Int32} {v2 : Int32} {v4 : Int32} {u0 : Int32} {u1 : Int32} {e : ((Nat × Int32 × Int32 × Int32 × Int32 × aH) ⊕ ((Nat × Int32 × Int32 × aH) ⊕ ((Int32 ⊕ aXX) × aH)))} (hT : t_X1_richest_l52 (gZ G) h v0 v1 v2 v4 u0 u1 = some e) (he : (Sum.elim (p_X1_richest_b21 G h0 K) (Sum.elim (p_X1_richest_b2 G h0 K) (fun e => aTo (aXI e.1 e.2) K))) e) : aW G M_X1_richest 9 200 h0 K h 52 [some (.ref v0), some (.int v1), some (.int v2), none, some (.int v4)] [.int u0, .int u1] := by
  unfold t_X1_richest_l52 at hT
  refine a_iadd dX1_richest_52 ?_
  refine a_istore_n (lv' := [some (.ref v0), some (.int v1), some (.int v2), some (.int (u1 + u0)), some (.int v4)]) dX1_richest_53 rfl (by decide) rfl ?_
  refine a_iinc (v := (v4 + 1)) (lv' := [some (.ref v0), some (.int v1), some (.int v2), some (.int (u1 + u0)), some (.int (v4 + 1))]) dX1_richest_54 rfl (by rfl) rfl (by decide) rfl ?_
  refine a_goto 21 dX1_richest_57 rfl ?_
  obtain rfl := Option.some.inj hT
  exact he
def t_X1_richest_b21 (Z : aZ) : (Nat × Int32 × Int32 × Int32 × Int32 × aH) → Option ((Nat × Int32 × Int32 × Int32 × Int32 × aH) ⊕ ((Nat × Int32 × Int32 × aH) ⊕ ((Int32 ⊕ aXX) × aH))) := fun (v0, v1, v2, v3, v4, h) =>
  (gA 0 0 h v0).bind fun a15 =>
  (gA 1 1 h a15).bind fun a17 =>
  if isC 8 h a17 = true then
  (t_J2_size Z h a17).bind fun r21 =>
  if r21.1 ≤ v4 then
    if v3 = v1 then
      some (.inr (.inr ((.inl v2, r21.2))))
    else
      some (.inr (.inl (v0, v1, (v2 + 1), r21.2)))
  else
    if isC 0 r21.2 v0 = true then
    (t_X1_isRicher Z r21.2 v0 v4 v2).bind fun r28 =>
    if r28.1 = 0 then
      t_X1_richest_l52 Z r28.2 v0 v1 v2 v4 0 v3
    else
      t_X1_richest_l52 Z r28.2 v0 v1 v2 v4 1 v3
    else none
  else none
theorem kb_X1_richest_b21 {G : aG} {h0 : aH} {K : aRes → aH → Prop} : ∀ (x9 : (Nat × Int32 × Int32 × Int32 × Int32 × aH)) (e : ((Nat × Int32 × Int32 × Int32 × Int32 × aH) ⊕ ((Nat × Int32 × Int32 × aH) ⊕ ((Int32 ⊕ aXX) × aH)))), t_X1_richest_b21 (gZ G) x9 = some e → (Sum.elim (p_X1_richest_b21 G h0 K) (Sum.elim (p_X1_richest_b2 G h0 K) (fun e => aTo (aXI e.1 e.2) K))) e → p_X1_richest_b21 G h0 K x9 := by
  intro x9 e hT he
  obtain ⟨v0, v1, v2, v3, v4, h⟩ := x9
  unfold p_X1_richest_b21
  unfold t_X1_richest_b21 at hT
  show aW G M_X1_richest 9 200 h0 K h 21 [some (.ref v0), some (.int v1), some (.int v2), some (.int v3), some (.int v4)] []
  dsimp only at hT
  refine a_iload dX1_richest_21 rfl ?_
  refine a_aload_n dX1_richest_23 rfl ?_
  obtain ⟨a15, e14, hT⟩ := obnd hT
  refine a_gA fl_X1_49_0 e14 dX1_richest_24 ?_
  obtain ⟨a17, e16, hT⟩ := obnd hT
  refine a_gA fl_X1_186_1 e16 dX1_richest_27 ?_
  obtain ⟨g20, hT⟩ := oifg hT
  obtain ⟨r21, e22, hT⟩ := obnd hT
  refine a_callV kv_X1_82 g20 (k_J2_size e22) ⟨Nat.le_of_ble_eq_true rfl, Nat.le_of_ble_eq_true rfl⟩ (As := []) (rest := [.int v4]) rfl rfl (Nat.le_of_ble_eq_true rfl) dX1_richest_30 (kI ?_) xI
  refine a_icmp_ge 60 dX1_richest_33 rfl (fun c23 => ?_) (fun c23 => ?_)
  · have hT := oifp c23 hT
    refine a_iload_n dX1_richest_60 rfl ?_
    refine a_iload_n dX1_richest_61 rfl ?_
    refine a_icmp_ne 67 dX1_richest_62 rfl (fun c24 => ?_) (fun c24 => ?_)
    · have hT := oifn c24 hT
      refine a_iinc (v := (v2 + 1)) (lv' := [some (.ref v0), some (.int v1), some (.int (v2 + 1)), some (.int v3), some (.int v4)]) dX1_richest_67 rfl (by rfl) rfl (by decide) rfl ?_
      refine a_goto 2 dX1_richest_70 rfl ?_
      obtain rfl := Option.some.inj hT
      refine a_mask [true, true, true, false, false] ?_
      exact he
    · have hT := oifp c24 hT
      refine a_iload_n dX1_richest_65 rfl ?_
      obtain rfl := Option.some.inj hT
      exact a_iret rfl rfl dX1_richest_66 (he _ _ ⟨rfl, rfl⟩)
  · have hT := oifn c23 hT
    refine a_iload_n dX1_richest_36 rfl ?_
    refine a_aload_n dX1_richest_37 rfl ?_
    refine a_iload dX1_richest_38 rfl ?_
    refine a_iload_n dX1_richest_40 rfl ?_
    obtain ⟨g27, hT⟩ := oifg hT
    obtain ⟨r28, e29, hT⟩ := obnd hT
    refine a_callV kv_X1_265 g27 (k_X1_isRicher e29) ⟨Nat.le_of_ble_eq_true rfl, Nat.le_of_ble_eq_true rfl⟩ (As := [.int v4, .int v2]) (rest := [.int v3]) rfl rfl (Nat.le_of_ble_eq_true rfl) dX1_richest_41 (kI ?_) xI
    refine a_if_eq 51 dX1_richest_44 rfl (fun c30 => ?_) (fun c30 => ?_)
    · have hT := oifp c30 hT
      refine a_iconst (v := 0) dX1_richest_51 (by decide) ?_
      refine a_mask [true, true, true, false, true] ?_
      exact k_X1_richest_l52 hT he
    · have hT := oifn c30 hT
      refine a_iconst (v := 1) dX1_richest_47 (by decide) ?_
      refine a_goto 52 dX1_richest_48 rfl ?_
      refine a_mask [true, true, true, false, true] ?_
      exact k_X1_richest_l52 hT he
theorem k_X1_richest_b21 {G : aG} {h0 : aH} {K : aRes → aH → Prop} {n9 : Nat} {x9 : (Nat × Int32 × Int32 × Int32 × Int32 × aH)} {e : ((Nat × Int32 × Int32 × aH) ⊕ ((Int32 ⊕ aXX) × aH))} (hT : wlo (t_X1_richest_b21 (gZ G)) n9 x9 = some e) (he : (Sum.elim (p_X1_richest_b2 G h0 K) (fun e => aTo (aXI e.1 e.2) K)) e) : p_X1_richest_b21 G h0 K x9 := wlo_W kb_X1_richest_b21 n9 x9 e hT he
def t_X1_richest_b2 (Z : aZ) : (Nat × Int32 × Int32 × aH) → Option ((Nat × Int32 × Int32 × aH) ⊕ ((Int32 ⊕ aXX) × aH)) := fun (v0, v1, v2, h) =>
  (gA 0 0 h v0).bind fun a2 =>
  (gA 1 1 h a2).bind fun a4 =>
  if isC 8 h a4 = true then
  (t_J2_size Z h a4).bind fun r8 =>
  if r8.1 ≤ v2 then
    (t_X1_richest_l73 Z r8.2).map .inr
  else
    wlo (t_X1_richest_b21 Z) 100 (v0, v1, v2, 0, 0, r8.2)
  else none
theorem kb_X1_richest_b2 {G : aG} {h0 : aH} {K : aRes → aH → Prop} : ∀ (x9 : (Nat × Int32 × Int32 × aH)) (e : ((Nat × Int32 × Int32 × aH) ⊕ ((Int32 ⊕ aXX) × aH))), t_X1_richest_b2 (gZ G) x9 = some e → (Sum.elim (p_X1_richest_b2 G h0 K) (fun e => aTo (aXI e.1 e.2) K)) e → p_X1_richest_b2 G h0 K x9 := by
  intro x9 e hT he
  obtain ⟨v0, v1, v2, h⟩ := x9
  unfold p_X1_richest_b2
  unfold t_X1_richest_b2 at hT
  show aW G M_X1_richest 9 200 h0 K h 2 [some (.ref v0), some (.int v1), some (.int v2), none, none] []
  dsimp only at hT
  refine a_iload_n dX1_richest_2 rfl ?_
  refine a_aload_n dX1_richest_3 rfl ?_
  obtain ⟨a2, e1, hT⟩ := obnd hT
  refine a_gA fl_X1_49_0 e1 dX1_richest_4 ?_
  obtain ⟨a4, e3, hT⟩ := obnd hT
  refine a_gA fl_X1_186_1 e3 dX1_richest_7 ?_
  obtain ⟨g7, hT⟩ := oifg hT
  obtain ⟨r8, e9, hT⟩ := obnd hT
  refine a_callV kv_X1_82 g7 (k_J2_size e9) ⟨Nat.le_of_ble_eq_true rfl, Nat.le_of_ble_eq_true rfl⟩ (As := []) (rest := [.int v2]) rfl rfl (Nat.le_of_ble_eq_true rfl) dX1_richest_10 (kI ?_) xI
  refine a_icmp_ge 73 dX1_richest_13 rfl (fun c10 => ?_) (fun c10 => ?_)
  · have hT := oifp c10 hT
    refine a_mask [false, false, false, true, true] ?_
    obtain ⟨e8, hT8, rfl⟩ := omap hT
    exact k_X1_richest_l73 hT8 he
  · have hT := oifn c10 hT
    refine a_iconst (v := 0) dX1_richest_16 (by decide) ?_
    refine a_istore_n (lv' := [some (.ref v0), some (.int v1), some (.int v2), some (.int 0), none]) dX1_richest_17 rfl (by decide) rfl ?_
    refine a_iconst (v := 0) dX1_richest_18 (by decide) ?_
    refine a_istore (lv' := [some (.ref v0), some (.int v1), some (.int v2), some (.int 0), some (.int 0)]) dX1_richest_19 rfl (by decide) rfl ?_
    exact k_X1_richest_b21 hT he
theorem k_X1_richest_b2 {G : aG} {h0 : aH} {K : aRes → aH → Prop} {n9 : Nat} {x9 : (Nat × Int32 × Int32 × aH)} {e : ((Int32 ⊕ aXX) × aH)} (hT : wlo (t_X1_richest_b2 (gZ G)) n9 x9 = some e) (he : (fun e => aTo (aXI e.1 e.2) K) e) : p_X1_richest_b2 G h0 K x9 := wlo_W kb_X1_richest_b2 n9 x9 e hT he
def t_X1_richest (Z : aZ) (h : aH) (o : Nat) (x0 : Int32) : Option ((Int32 ⊕ aXX) × aH) :=
  wlo (t_X1_richest_b2 Z) 100 (o, x0, 0, h)
theorem k_X1_richest {G : aG} {h : aH} {o : Nat} {x0 : Int32} {e : ((Int32 ⊕ aXX) × aH)} (hT : t_X1_richest (gZ G) h o x0 = some e) : aMet G yX1_richest (ws_ yX1_richest cX1_richest 5 (Option.some Jvm.ClassFile.FieldType.int)) 9 200 [.ref o, .int x0] h (aXI e.1 e.2) := by
  refine aMet.of (lv := [some (.ref o), some (.int x0), none, none, none]) (by decide) (Nat.le_of_ble_eq_true rfl) 3 rfl ?_
  have he : aTo (aXI e.1 e.2) (aXI e.1 e.2) := aTo.rf
  unfold t_X1_richest at hT
  refine a_iconst (v := 0) dX1_richest_0 (by decide) ?_
  refine a_istore_n (lv' := [some (.ref o), some (.int x0), some (.int 0), none, none]) dX1_richest_1 rfl (by decide) rfl ?_
  exact k_X1_richest_b2 hT he
abbrev M_X2_hours : aM := (yX2_hours.cls, cX2_hours, 3, (Option.some Jvm.ClassFile.FieldType.int), [], yX2_hours.name)
def t_X2_hours (Z : aZ) (h : aH) (o : Nat) (x0 : Int32) (x1 : Int32) : Option (Int32 × aH) :=
  if isC 1 h o = true then
  (t_X2_distances Z h o x0 0).bind fun r4 =>
  (ldI Z r4.2 r4.1 x1).bind fun z7 =>
  some (z7, r4.2)
  else none
theorem k_X2_hours {G : aG} {h : aH} {o : Nat} {x0 : Int32} {x1 : Int32} {e : (Int32 × aH)} (hT : t_X2_hours (gZ G) h o x0 x1 = some e) : aMet G yX2_hours (ws_ yX2_hours cX2_hours 3 (Option.some Jvm.ClassFile.FieldType.int)) 6 162 [.ref o, .int x0, .int x1] h (aEI e.1 e.2) := by
  refine aMet.of (lv := [some (.ref o), some (.int x0), some (.int x1)]) (by decide) (Nat.le_of_ble_eq_true rfl) 0 rfl ?_
  have he : aTo (aEI e.1 e.2) (aEI e.1 e.2) := aTo.rf
  unfold t_X2_hours at hT
  refine a_aload_n dX2_hours_0 rfl ?_
  refine a_iload_n dX2_hours_1 rfl ?_
  refine a_iconst (v := 0) dX2_hours_2 (by decide) ?_
  obtain ⟨g3, hT⟩ := oifg hT
  obtain ⟨r4, e5, hT⟩ := obnd hT
  refine a_callV kv_X2_110 g3 (k_X2_distances e5) ⟨Nat.le_of_ble_eq_true rfl, Nat.le_of_ble_eq_true rfl⟩ (As := [.int x0, .int 0]) (rest := []) rfl rfl (Nat.le_of_ble_eq_true rfl) dX2_hours_3 (kA ?_) xA
  refine a_iload_n dX2_hours_6 rfl ?_
  obtain ⟨z7, e6, hT⟩ := obnd hT
  refine a_ldI e6 dX2_hours_7 ?_
  obtain rfl := Option.some.inj hT
  exact a_iret rfl rfl dX2_hours_8 (he _ _ ⟨rfl, rfl⟩)
theorem kv_X0_7 : aKVW "MazeBondsLaw" 7 0 yX1_hedge cX1_hedge 5 (Option.some Jvm.ClassFile.FieldType.int) [((0 : Nat), (23 : Nat), (24 : Nat), (25 : Nat))] 3 := ⟨⟨TX1, 8, rfl⟩, q620, q621, q622, q72, q623, ⟨by decide +kernel, by decide +kernel, by decide +kernel⟩⟩
abbrev M_X0_hedge : aM := (yX0_hedge.cls, cX0_hedge, 6, (Option.some Jvm.ClassFile.FieldType.int), [((0 : Nat), (12 : Nat), (15 : Nat), (13 : Nat))], yX0_hedge.name)
def t_X0_hedge (Z : aZ) (h : aH) (x0 : Nat) (x1 : Int32) (x2 : Int32) (x3 : Int32) (x4 : Nat) : Option (Int32 × aH) :=
  if isC 0 h x0 = true then
  (t_X1_hedge Z h x0 x1 x2 x3).bind fun r4 =>
  (match r4 with
  | (.inl y6, h7) =>
    (stJ Z h7 x4 0 ((y6 : Int32).toInt64)).bind fun h9 =>
    some (0, h9)
  | (.inr y6, h7) =>
    if y6.1 = "java/lang/UnsupportedOperationException" then
      some (1, h7)
    else
      none
  )
  else none
theorem k_X0_hedge {G : aG} {h : aH} {x0 : Nat} {x1 : Int32} {x2 : Int32} {x3 : Int32} {x4 : Nat} {e : (Int32 × aH)} (hT : t_X0_hedge (gZ G) h x0 x1 x2 x3 x4 = some e) : aMet G yX0_hedge (wsW_ yX0_hedge cX0_hedge 6 (Option.some Jvm.ClassFile.FieldType.int) [((0 : Nat), (12 : Nat), (15 : Nat), (13 : Nat))]) 11 245 [.ref x0, .int x1, .int x2, .int x3, .ref x4] h (aEI e.1 e.2) := by
  refine aMet.ofH (lv := [some (.ref x0), some (.int x1), some (.int x2), some (.int x3), some (.ref x4), none]) (by decide) (Nat.le_of_ble_eq_true rfl) 1 rfl ?_
  have he : aTo (aEI e.1 e.2) (aEI e.1 e.2) := aTo.rf
  unfold t_X0_hedge at hT
  refine a_aload dX0_hedge_0 rfl ?_
  refine a_iconst (v := 0) dX0_hedge_2 (by decide) ?_
  refine a_aload_n dX0_hedge_3 rfl ?_
  refine a_iload_n dX0_hedge_4 rfl ?_
  refine a_iload_n dX0_hedge_5 rfl ?_
  refine a_iload_n dX0_hedge_6 rfl ?_
  obtain ⟨g3, hT⟩ := oifg hT
  obtain ⟨⟨y6 | y6, h7⟩, e5, hT⟩ := obnd hT
  · dsimp only at hT
    refine a_callVW kv_X0_7 g3 (k_X1_hedge e5) ⟨Nat.le_of_ble_eq_true rfl, Nat.le_of_ble_eq_true rfl⟩ (As := [.int x1, .int x2, .int x3]) (rest := [.int 0, .ref x4]) rfl rfl (Nat.le_of_ble_eq_true rfl) dX0_hedge_7 (kXI ?_) yXI
    refine a_i2l dX0_hedge_10 ?_
    obtain ⟨h9, e8, hT⟩ := obnd hT
    refine a_stJ e8 dX0_hedge_11 ?_
    refine a_goto 19 dX0_hedge_12 rfl ?_
    refine a_iconst (v := 0) dX0_hedge_19 (by decide) ?_
    obtain rfl := Option.some.inj hT
    exact a_iret rfl rfl dX0_hedge_20 (he _ _ ⟨rfl, rfl⟩)
  · dsimp only at hT
    refine a_callVW kv_X0_7 g3 (k_X1_hedge e5) ⟨Nat.le_of_ble_eq_true rfl, Nat.le_of_ble_eq_true rfl⟩ (As := [.int x1, .int x2, .int x3]) (rest := [.int 0, .ref x4]) rfl rfl (Nat.le_of_ble_eq_true rfl) dX0_hedge_7 rXI (zXI ?_)
    by_cases c10 : y6.1 = "java/lang/UnsupportedOperationException"
    · have hT := oifp c10 hT
      rw [c10]
      refine a_catchI 0 rfl aNil (by decide) (by decide) q619 q690 ?_
      refine a_astore (lv' := [some (.ref x0), some (.int x1), some (.int x2), some (.int x3), some (.ref x4), some (.ref y6.2)]) dX0_hedge_15 rfl (by decide) rfl ?_
      refine a_iconst (v := 1) dX0_hedge_17 (by decide) ?_
      obtain rfl := Option.some.inj hT
      exact a_iret rfl rfl dX0_hedge_18 (he _ _ ⟨rfl, rfl⟩)
    · have hT := oifn c10 hT
      cases hT
theorem kv_X0_15 : aKVW "MazeBondsLaw" 15 0 yX1_trim cX1_trim 5 (Option.some Jvm.ClassFile.FieldType.int) [((0 : Nat), (23 : Nat), (24 : Nat), (25 : Nat))] 3 := ⟨⟨TX1, 8, rfl⟩, q706, q707, q708, q72, q709, ⟨by decide +kernel, by decide +kernel, by decide +kernel⟩⟩
abbrev M_X0_trim : aM := (yX0_trim.cls, cX0_trim, 6, (Option.some Jvm.ClassFile.FieldType.int), [((0 : Nat), (12 : Nat), (15 : Nat), (13 : Nat))], yX0_trim.name)
def t_X0_trim (Z : aZ) (h : aH) (x0 : Nat) (x1 : Int32) (x2 : Int32) (x3 : Int32) (x4 : Nat) : Option (Int32 × aH) :=
  if isC 0 h x0 = true then
  (t_X1_trim Z h x0 x1 x2 x3).bind fun r4 =>
  (match r4 with
  | (.inl y6, h7) =>
    (stJ Z h7 x4 0 ((y6 : Int32).toInt64)).bind fun h9 =>
    some (0, h9)
  | (.inr y6, h7) =>
    if y6.1 = "java/lang/UnsupportedOperationException" then
      some (1, h7)
    else
      none
  )
  else none
theorem k_X0_trim {G : aG} {h : aH} {x0 : Nat} {x1 : Int32} {x2 : Int32} {x3 : Int32} {x4 : Nat} {e : (Int32 × aH)} (hT : t_X0_trim (gZ G) h x0 x1 x2 x3 x4 = some e) : aMet G yX0_trim (wsW_ yX0_trim cX0_trim 6 (Option.some Jvm.ClassFile.FieldType.int) [((0 : Nat), (12 : Nat), (15 : Nat), (13 : Nat))]) 11 245 [.ref x0, .int x1, .int x2, .int x3, .ref x4] h (aEI e.1 e.2) := by
  refine aMet.ofH (lv := [some (.ref x0), some (.int x1), some (.int x2), some (.int x3), some (.ref x4), none]) (by decide) (Nat.le_of_ble_eq_true rfl) 1 rfl ?_
  have he : aTo (aEI e.1 e.2) (aEI e.1 e.2) := aTo.rf
  unfold t_X0_trim at hT
  refine a_aload dX0_trim_0 rfl ?_
  refine a_iconst (v := 0) dX0_trim_2 (by decide) ?_
  refine a_aload_n dX0_trim_3 rfl ?_
  refine a_iload_n dX0_trim_4 rfl ?_
  refine a_iload_n dX0_trim_5 rfl ?_
  refine a_iload_n dX0_trim_6 rfl ?_
  obtain ⟨g3, hT⟩ := oifg hT
  obtain ⟨⟨y6 | y6, h7⟩, e5, hT⟩ := obnd hT
  · dsimp only at hT
    refine a_callVW kv_X0_15 g3 (k_X1_trim e5) ⟨Nat.le_of_ble_eq_true rfl, Nat.le_of_ble_eq_true rfl⟩ (As := [.int x1, .int x2, .int x3]) (rest := [.int 0, .ref x4]) rfl rfl (Nat.le_of_ble_eq_true rfl) dX0_trim_7 (kXI ?_) yXI
    refine a_i2l dX0_trim_10 ?_
    obtain ⟨h9, e8, hT⟩ := obnd hT
    refine a_stJ e8 dX0_trim_11 ?_
    refine a_goto 19 dX0_trim_12 rfl ?_
    refine a_iconst (v := 0) dX0_trim_19 (by decide) ?_
    obtain rfl := Option.some.inj hT
    exact a_iret rfl rfl dX0_trim_20 (he _ _ ⟨rfl, rfl⟩)
  · dsimp only at hT
    refine a_callVW kv_X0_15 g3 (k_X1_trim e5) ⟨Nat.le_of_ble_eq_true rfl, Nat.le_of_ble_eq_true rfl⟩ (As := [.int x1, .int x2, .int x3]) (rest := [.int 0, .ref x4]) rfl rfl (Nat.le_of_ble_eq_true rfl) dX0_trim_7 rXI (zXI ?_)
    by_cases c10 : y6.1 = "java/lang/UnsupportedOperationException"
    · have hT := oifp c10 hT
      rw [c10]
      refine a_catchI 0 rfl aNil (by decide) (by decide) q619 q690 ?_
      refine a_astore (lv' := [some (.ref x0), some (.int x1), some (.int x2), some (.int x3), some (.ref x4), some (.ref y6.2)]) dX0_trim_15 rfl (by decide) rfl ?_
      refine a_iconst (v := 1) dX0_trim_17 (by decide) ?_
      obtain rfl := Option.some.inj hT
      exact a_iret rfl rfl dX0_trim_18 (he _ _ ⟨rfl, rfl⟩)
    · have hT := oifn c10 hT
      cases hT
theorem kv_X0_18 : aKVW "MazeBondsLaw" 18 0 yX1_minotaur cX1_minotaur 3 (Option.some Jvm.ClassFile.FieldType.int) [((0 : Nat), (18 : Nat), (19 : Nat), (25 : Nat))] 1 := ⟨⟨TX1, 8, rfl⟩, q742, q743, q744, q72, q745, ⟨by decide +kernel, by decide +kernel, by decide +kernel⟩⟩
abbrev M_X0_minotaur : aM := (yX0_minotaur.cls, cX0_minotaur, 4, (Option.some Jvm.ClassFile.FieldType.int), [((0 : Nat), (9 : Nat), (12 : Nat), (13 : Nat))], yX0_minotaur.name)
def t_X0_minotaur (Z : aZ) (h : aH) (x0 : Nat) (x1 : Int32) (x2 : Nat) : Option (Int32 × aH) :=
  if isC 0 h x0 = true then
  (t_X1_minotaur Z h x0 x1).bind fun r4 =>
  (match r4 with
  | (.inl y6, h7) =>
    (stJ Z h7 x2 0 ((y6 : Int32).toInt64)).bind fun h9 =>
    some (0, h9)
  | (.inr y6, h7) =>
    if y6.1 = "java/lang/UnsupportedOperationException" then
      some (1, h7)
    else
      none
  )
  else none
theorem k_X0_minotaur {G : aG} {h : aH} {x0 : Nat} {x1 : Int32} {x2 : Nat} {e : (Int32 × aH)} (hT : t_X0_minotaur (gZ G) h x0 x1 x2 = some e) : aMet G yX0_minotaur (wsW_ yX0_minotaur cX0_minotaur 4 (Option.some Jvm.ClassFile.FieldType.int) [((0 : Nat), (9 : Nat), (12 : Nat), (13 : Nat))]) 11 243 [.ref x0, .int x1, .ref x2] h (aEI e.1 e.2) := by
  refine aMet.ofH (lv := [some (.ref x0), some (.int x1), some (.ref x2), none]) (by decide) (Nat.le_of_ble_eq_true rfl) 1 rfl ?_
  have he : aTo (aEI e.1 e.2) (aEI e.1 e.2) := aTo.rf
  unfold t_X0_minotaur at hT
  refine a_aload_n dX0_minotaur_0 rfl ?_
  refine a_iconst (v := 0) dX0_minotaur_1 (by decide) ?_
  refine a_aload_n dX0_minotaur_2 rfl ?_
  refine a_iload_n dX0_minotaur_3 rfl ?_
  obtain ⟨g3, hT⟩ := oifg hT
  obtain ⟨⟨y6 | y6, h7⟩, e5, hT⟩ := obnd hT
  · dsimp only at hT
    refine a_callVW kv_X0_18 g3 (k_X1_minotaur e5) ⟨Nat.le_of_ble_eq_true rfl, Nat.le_of_ble_eq_true rfl⟩ (As := [.int x1]) (rest := [.int 0, .ref x2]) rfl rfl (Nat.le_of_ble_eq_true rfl) dX0_minotaur_4 (kXI ?_) yXI
    refine a_i2l dX0_minotaur_7 ?_
    obtain ⟨h9, e8, hT⟩ := obnd hT
    refine a_stJ e8 dX0_minotaur_8 ?_
    refine a_goto 15 dX0_minotaur_9 rfl ?_
    refine a_iconst (v := 0) dX0_minotaur_15 (by decide) ?_
    obtain rfl := Option.some.inj hT
    exact a_iret rfl rfl dX0_minotaur_16 (he _ _ ⟨rfl, rfl⟩)
  · dsimp only at hT
    refine a_callVW kv_X0_18 g3 (k_X1_minotaur e5) ⟨Nat.le_of_ble_eq_true rfl, Nat.le_of_ble_eq_true rfl⟩ (As := [.int x1]) (rest := [.int 0, .ref x2]) rfl rfl (Nat.le_of_ble_eq_true rfl) dX0_minotaur_4 rXI (zXI ?_)
    by_cases c10 : y6.1 = "java/lang/UnsupportedOperationException"
    · have hT := oifp c10 hT
      rw [c10]
      refine a_catchI 0 rfl aNil (by decide) (by decide) q619 q690 ?_
      refine a_astore_n (lv' := [some (.ref x0), some (.int x1), some (.ref x2), some (.ref y6.2)]) dX0_minotaur_12 rfl (by decide) rfl ?_
      refine a_iconst (v := 1) dX0_minotaur_13 (by decide) ?_
      obtain rfl := Option.some.inj hT
      exact a_iret rfl rfl dX0_minotaur_14 (he _ _ ⟨rfl, rfl⟩)
    · have hT := oifn c10 hT
      cases hT
theorem kv_X0_22 : aKVW "MazeBondsLaw" 22 0 yX1_gardener cX1_gardener 3 (Option.some Jvm.ClassFile.FieldType.int) [((0 : Nat), (18 : Nat), (19 : Nat), (25 : Nat))] 1 := ⟨⟨TX1, 8, rfl⟩, q765, q766, q767, q72, q768, ⟨by decide +kernel, by decide +kernel, by decide +kernel⟩⟩
abbrev M_X0_gardener : aM := (yX0_gardener.cls, cX0_gardener, 4, (Option.some Jvm.ClassFile.FieldType.int), [((0 : Nat), (9 : Nat), (12 : Nat), (13 : Nat))], yX0_gardener.name)
def t_X0_gardener (Z : aZ) (h : aH) (x0 : Nat) (x1 : Int32) (x2 : Nat) : Option (Int32 × aH) :=
  if isC 0 h x0 = true then
  (t_X1_gardener Z h x0 x1).bind fun r4 =>
  (match r4 with
  | (.inl y6, h7) =>
    (stJ Z h7 x2 0 ((y6 : Int32).toInt64)).bind fun h9 =>
    some (0, h9)
  | (.inr y6, h7) =>
    if y6.1 = "java/lang/UnsupportedOperationException" then
      some (1, h7)
    else
      none
  )
  else none
theorem k_X0_gardener {G : aG} {h : aH} {x0 : Nat} {x1 : Int32} {x2 : Nat} {e : (Int32 × aH)} (hT : t_X0_gardener (gZ G) h x0 x1 x2 = some e) : aMet G yX0_gardener (wsW_ yX0_gardener cX0_gardener 4 (Option.some Jvm.ClassFile.FieldType.int) [((0 : Nat), (9 : Nat), (12 : Nat), (13 : Nat))]) 11 243 [.ref x0, .int x1, .ref x2] h (aEI e.1 e.2) := by
  refine aMet.ofH (lv := [some (.ref x0), some (.int x1), some (.ref x2), none]) (by decide) (Nat.le_of_ble_eq_true rfl) 1 rfl ?_
  have he : aTo (aEI e.1 e.2) (aEI e.1 e.2) := aTo.rf
  unfold t_X0_gardener at hT
  refine a_aload_n dX0_gardener_0 rfl ?_
  refine a_iconst (v := 0) dX0_gardener_1 (by decide) ?_
  refine a_aload_n dX0_gardener_2 rfl ?_
  refine a_iload_n dX0_gardener_3 rfl ?_
  obtain ⟨g3, hT⟩ := oifg hT
  obtain ⟨⟨y6 | y6, h7⟩, e5, hT⟩ := obnd hT
  · dsimp only at hT
    refine a_callVW kv_X0_22 g3 (k_X1_gardener e5) ⟨Nat.le_of_ble_eq_true rfl, Nat.le_of_ble_eq_true rfl⟩ (As := [.int x1]) (rest := [.int 0, .ref x2]) rfl rfl (Nat.le_of_ble_eq_true rfl) dX0_gardener_4 (kXI ?_) yXI
    refine a_i2l dX0_gardener_7 ?_
    obtain ⟨h9, e8, hT⟩ := obnd hT
    refine a_stJ e8 dX0_gardener_8 ?_
    refine a_goto 15 dX0_gardener_9 rfl ?_
    refine a_iconst (v := 0) dX0_gardener_15 (by decide) ?_
    obtain rfl := Option.some.inj hT
    exact a_iret rfl rfl dX0_gardener_16 (he _ _ ⟨rfl, rfl⟩)
  · dsimp only at hT
    refine a_callVW kv_X0_22 g3 (k_X1_gardener e5) ⟨Nat.le_of_ble_eq_true rfl, Nat.le_of_ble_eq_true rfl⟩ (As := [.int x1]) (rest := [.int 0, .ref x2]) rfl rfl (Nat.le_of_ble_eq_true rfl) dX0_gardener_4 rXI (zXI ?_)
    by_cases c10 : y6.1 = "java/lang/UnsupportedOperationException"
    · have hT := oifp c10 hT
      rw [c10]
      refine a_catchI 0 rfl aNil (by decide) (by decide) q619 q690 ?_
      refine a_astore_n (lv' := [some (.ref x0), some (.int x1), some (.ref x2), some (.ref y6.2)]) dX0_gardener_12 rfl (by decide) rfl ?_
      refine a_iconst (v := 1) dX0_gardener_13 (by decide) ?_
      obtain rfl := Option.some.inj hT
      exact a_iret rfl rfl dX0_gardener_14 (he _ _ ⟨rfl, rfl⟩)
    · have hT := oifn c10 hT
      cases hT
theorem kv_X0_28 : aKVW "MazeBondsLaw" 28 0 yX1_bond cX1_bond 5 (Option.some Jvm.ClassFile.FieldType.int) [((0 : Nat), (23 : Nat), (24 : Nat), (25 : Nat))] 3 := ⟨⟨TX1, 8, rfl⟩, q800, q801, q802, q72, q803, ⟨by decide +kernel, by decide +kernel, by decide +kernel⟩⟩
abbrev M_X0_bond : aM := (yX0_bond.cls, cX0_bond, 6, (Option.some Jvm.ClassFile.FieldType.int), [((0 : Nat), (12 : Nat), (15 : Nat), (13 : Nat))], yX0_bond.name)
def t_X0_bond (Z : aZ) (h : aH) (x0 : Nat) (x1 : Int32) (x2 : Int32) (x3 : Int32) (x4 : Nat) : Option (Int32 × aH) :=
  if isC 0 h x0 = true then
  (t_X1_bond Z h x0 x1 x2 x3).bind fun r4 =>
  (match r4 with
  | (.inl y6, h7) =>
    (stJ Z h7 x4 0 ((y6 : Int32).toInt64)).bind fun h9 =>
    some (0, h9)
  | (.inr y6, h7) =>
    if y6.1 = "java/lang/UnsupportedOperationException" then
      some (1, h7)
    else
      none
  )
  else none
theorem k_X0_bond {G : aG} {h : aH} {x0 : Nat} {x1 : Int32} {x2 : Int32} {x3 : Int32} {x4 : Nat} {e : (Int32 × aH)} (hT : t_X0_bond (gZ G) h x0 x1 x2 x3 x4 = some e) : aMet G yX0_bond (wsW_ yX0_bond cX0_bond 6 (Option.some Jvm.ClassFile.FieldType.int) [((0 : Nat), (12 : Nat), (15 : Nat), (13 : Nat))]) 11 245 [.ref x0, .int x1, .int x2, .int x3, .ref x4] h (aEI e.1 e.2) := by
  refine aMet.ofH (lv := [some (.ref x0), some (.int x1), some (.int x2), some (.int x3), some (.ref x4), none]) (by decide) (Nat.le_of_ble_eq_true rfl) 1 rfl ?_
  have he : aTo (aEI e.1 e.2) (aEI e.1 e.2) := aTo.rf
  unfold t_X0_bond at hT
  refine a_aload dX0_bond_0 rfl ?_
  refine a_iconst (v := 0) dX0_bond_2 (by decide) ?_
  refine a_aload_n dX0_bond_3 rfl ?_
  refine a_iload_n dX0_bond_4 rfl ?_
  refine a_iload_n dX0_bond_5 rfl ?_
  refine a_iload_n dX0_bond_6 rfl ?_
  obtain ⟨g3, hT⟩ := oifg hT
  obtain ⟨⟨y6 | y6, h7⟩, e5, hT⟩ := obnd hT
  · dsimp only at hT
    refine a_callVW kv_X0_28 g3 (k_X1_bond e5) ⟨Nat.le_of_ble_eq_true rfl, Nat.le_of_ble_eq_true rfl⟩ (As := [.int x1, .int x2, .int x3]) (rest := [.int 0, .ref x4]) rfl rfl (Nat.le_of_ble_eq_true rfl) dX0_bond_7 (kXI ?_) yXI
    refine a_i2l dX0_bond_10 ?_
    obtain ⟨h9, e8, hT⟩ := obnd hT
    refine a_stJ e8 dX0_bond_11 ?_
    refine a_goto 19 dX0_bond_12 rfl ?_
    refine a_iconst (v := 0) dX0_bond_19 (by decide) ?_
    obtain rfl := Option.some.inj hT
    exact a_iret rfl rfl dX0_bond_20 (he _ _ ⟨rfl, rfl⟩)
  · dsimp only at hT
    refine a_callVW kv_X0_28 g3 (k_X1_bond e5) ⟨Nat.le_of_ble_eq_true rfl, Nat.le_of_ble_eq_true rfl⟩ (As := [.int x1, .int x2, .int x3]) (rest := [.int 0, .ref x4]) rfl rfl (Nat.le_of_ble_eq_true rfl) dX0_bond_7 rXI (zXI ?_)
    by_cases c10 : y6.1 = "java/lang/UnsupportedOperationException"
    · have hT := oifp c10 hT
      rw [c10]
      refine a_catchI 0 rfl aNil (by decide) (by decide) q619 q690 ?_
      refine a_astore (lv' := [some (.ref x0), some (.int x1), some (.int x2), some (.int x3), some (.ref x4), some (.ref y6.2)]) dX0_bond_15 rfl (by decide) rfl ?_
      refine a_iconst (v := 1) dX0_bond_17 (by decide) ?_
      obtain rfl := Option.some.inj hT
      exact a_iret rfl rfl dX0_bond_18 (he _ _ ⟨rfl, rfl⟩)
    · have hT := oifn c10 hT
      cases hT
theorem kv_X0_31 : aKVW "MazeBondsLaw" 31 0 yX1_walk cX1_walk 4 (Option.some Jvm.ClassFile.FieldType.int) [((0 : Nat), (19 : Nat), (20 : Nat), (25 : Nat))] 2 := ⟨⟨TX1, 8, rfl⟩, q830, q831, q832, q72, q833, ⟨by decide +kernel, by decide +kernel, by decide +kernel⟩⟩
abbrev M_X0_walk : aM := (yX0_walk.cls, cX0_walk, 5, (Option.some Jvm.ClassFile.FieldType.int), [((0 : Nat), (10 : Nat), (13 : Nat), (13 : Nat))], yX0_walk.name)
def t_X0_walk (Z : aZ) (h : aH) (x0 : Nat) (x1 : Int32) (x2 : Int32) (x3 : Nat) : Option (Int32 × aH) :=
  if isC 0 h x0 = true then
  (t_X1_walk Z h x0 x1 x2).bind fun r4 =>
  (match r4 with
  | (.inl y6, h7) =>
    (stJ Z h7 x3 0 ((y6 : Int32).toInt64)).bind fun h9 =>
    some (0, h9)
  | (.inr y6, h7) =>
    if y6.1 = "java/lang/UnsupportedOperationException" then
      some (1, h7)
    else
      none
  )
  else none
theorem k_X0_walk {G : aG} {h : aH} {x0 : Nat} {x1 : Int32} {x2 : Int32} {x3 : Nat} {e : (Int32 × aH)} (hT : t_X0_walk (gZ G) h x0 x1 x2 x3 = some e) : aMet G yX0_walk (wsW_ yX0_walk cX0_walk 5 (Option.some Jvm.ClassFile.FieldType.int) [((0 : Nat), (10 : Nat), (13 : Nat), (13 : Nat))]) 11 244 [.ref x0, .int x1, .int x2, .ref x3] h (aEI e.1 e.2) := by
  refine aMet.ofH (lv := [some (.ref x0), some (.int x1), some (.int x2), some (.ref x3), none]) (by decide) (Nat.le_of_ble_eq_true rfl) 1 rfl ?_
  have he : aTo (aEI e.1 e.2) (aEI e.1 e.2) := aTo.rf
  unfold t_X0_walk at hT
  refine a_aload_n dX0_walk_0 rfl ?_
  refine a_iconst (v := 0) dX0_walk_1 (by decide) ?_
  refine a_aload_n dX0_walk_2 rfl ?_
  refine a_iload_n dX0_walk_3 rfl ?_
  refine a_iload_n dX0_walk_4 rfl ?_
  obtain ⟨g3, hT⟩ := oifg hT
  obtain ⟨⟨y6 | y6, h7⟩, e5, hT⟩ := obnd hT
  · dsimp only at hT
    refine a_callVW kv_X0_31 g3 (k_X1_walk e5) ⟨Nat.le_of_ble_eq_true rfl, Nat.le_of_ble_eq_true rfl⟩ (As := [.int x1, .int x2]) (rest := [.int 0, .ref x3]) rfl rfl (Nat.le_of_ble_eq_true rfl) dX0_walk_5 (kXI ?_) yXI
    refine a_i2l dX0_walk_8 ?_
    obtain ⟨h9, e8, hT⟩ := obnd hT
    refine a_stJ e8 dX0_walk_9 ?_
    refine a_goto 17 dX0_walk_10 rfl ?_
    refine a_iconst (v := 0) dX0_walk_17 (by decide) ?_
    obtain rfl := Option.some.inj hT
    exact a_iret rfl rfl dX0_walk_18 (he _ _ ⟨rfl, rfl⟩)
  · dsimp only at hT
    refine a_callVW kv_X0_31 g3 (k_X1_walk e5) ⟨Nat.le_of_ble_eq_true rfl, Nat.le_of_ble_eq_true rfl⟩ (As := [.int x1, .int x2]) (rest := [.int 0, .ref x3]) rfl rfl (Nat.le_of_ble_eq_true rfl) dX0_walk_5 rXI (zXI ?_)
    by_cases c10 : y6.1 = "java/lang/UnsupportedOperationException"
    · have hT := oifp c10 hT
      rw [c10]
      refine a_catchI 0 rfl aNil (by decide) (by decide) q619 q690 ?_
      refine a_astore (lv' := [some (.ref x0), some (.int x1), some (.int x2), some (.ref x3), some (.ref y6.2)]) dX0_walk_13 rfl (by decide) rfl ?_
      refine a_iconst (v := 1) dX0_walk_15 (by decide) ?_
      obtain rfl := Option.some.inj hT
      exact a_iret rfl rfl dX0_walk_16 (he _ _ ⟨rfl, rfl⟩)
    · have hT := oifn c10 hT
      cases hT
theorem kv_X0_35 : aKVW "MazeBondsLaw" 35 0 yX1_rest cX1_rest 4 (Option.some Jvm.ClassFile.FieldType.int) [((0 : Nat), (19 : Nat), (20 : Nat), (25 : Nat))] 2 := ⟨⟨TX1, 8, rfl⟩, q868, q869, q870, q72, q871, ⟨by decide +kernel, by decide +kernel, by decide +kernel⟩⟩
abbrev M_X0_rest : aM := (yX0_rest.cls, cX0_rest, 5, (Option.some Jvm.ClassFile.FieldType.int), [((0 : Nat), (10 : Nat), (13 : Nat), (13 : Nat))], yX0_rest.name)
def t_X0_rest (Z : aZ) (h : aH) (x0 : Nat) (x1 : Int32) (x2 : Int32) (x3 : Nat) : Option (Int32 × aH) :=
  if isC 0 h x0 = true then
  (t_X1_rest Z h x0 x1 x2).bind fun r4 =>
  (match r4 with
  | (.inl y6, h7) =>
    (stJ Z h7 x3 0 ((y6 : Int32).toInt64)).bind fun h9 =>
    some (0, h9)
  | (.inr y6, h7) =>
    if y6.1 = "java/lang/UnsupportedOperationException" then
      some (1, h7)
    else
      none
  )
  else none
theorem k_X0_rest {G : aG} {h : aH} {x0 : Nat} {x1 : Int32} {x2 : Int32} {x3 : Nat} {e : (Int32 × aH)} (hT : t_X0_rest (gZ G) h x0 x1 x2 x3 = some e) : aMet G yX0_rest (wsW_ yX0_rest cX0_rest 5 (Option.some Jvm.ClassFile.FieldType.int) [((0 : Nat), (10 : Nat), (13 : Nat), (13 : Nat))]) 11 244 [.ref x0, .int x1, .int x2, .ref x3] h (aEI e.1 e.2) := by
  refine aMet.ofH (lv := [some (.ref x0), some (.int x1), some (.int x2), some (.ref x3), none]) (by decide) (Nat.le_of_ble_eq_true rfl) 1 rfl ?_
  have he : aTo (aEI e.1 e.2) (aEI e.1 e.2) := aTo.rf
  unfold t_X0_rest at hT
  refine a_aload_n dX0_rest_0 rfl ?_
  refine a_iconst (v := 0) dX0_rest_1 (by decide) ?_
  refine a_aload_n dX0_rest_2 rfl ?_
  refine a_iload_n dX0_rest_3 rfl ?_
  refine a_iload_n dX0_rest_4 rfl ?_
  obtain ⟨g3, hT⟩ := oifg hT
  obtain ⟨⟨y6 | y6, h7⟩, e5, hT⟩ := obnd hT
  · dsimp only at hT
    refine a_callVW kv_X0_35 g3 (k_X1_rest e5) ⟨Nat.le_of_ble_eq_true rfl, Nat.le_of_ble_eq_true rfl⟩ (As := [.int x1, .int x2]) (rest := [.int 0, .ref x3]) rfl rfl (Nat.le_of_ble_eq_true rfl) dX0_rest_5 (kXI ?_) yXI
    refine a_i2l dX0_rest_8 ?_
    obtain ⟨h9, e8, hT⟩ := obnd hT
    refine a_stJ e8 dX0_rest_9 ?_
    refine a_goto 17 dX0_rest_10 rfl ?_
    refine a_iconst (v := 0) dX0_rest_17 (by decide) ?_
    obtain rfl := Option.some.inj hT
    exact a_iret rfl rfl dX0_rest_18 (he _ _ ⟨rfl, rfl⟩)
  · dsimp only at hT
    refine a_callVW kv_X0_35 g3 (k_X1_rest e5) ⟨Nat.le_of_ble_eq_true rfl, Nat.le_of_ble_eq_true rfl⟩ (As := [.int x1, .int x2]) (rest := [.int 0, .ref x3]) rfl rfl (Nat.le_of_ble_eq_true rfl) dX0_rest_5 rXI (zXI ?_)
    by_cases c10 : y6.1 = "java/lang/UnsupportedOperationException"
    · have hT := oifp c10 hT
      rw [c10]
      refine a_catchI 0 rfl aNil (by decide) (by decide) q619 q690 ?_
      refine a_astore (lv' := [some (.ref x0), some (.int x1), some (.int x2), some (.ref x3), some (.ref y6.2)]) dX0_rest_13 rfl (by decide) rfl ?_
      refine a_iconst (v := 1) dX0_rest_15 (by decide) ?_
      obtain rfl := Option.some.inj hT
      exact a_iret rfl rfl dX0_rest_16 (he _ _ ⟨rfl, rfl⟩)
    · have hT := oifn c10 hT
      cases hT
theorem kv_X0_55 : aKV "MazeBondsLaw" 55 0 yX1_next cX1_next 4 (Option.some Jvm.ClassFile.FieldType.int) 1 := ⟨⟨TX1, 8, rfl⟩, Or.inl q982, q983, q984, q72, q985, ⟨by decide +kernel, by decide +kernel, by decide +kernel⟩⟩
abbrev M_X0_next : aM := (yX0_next.cls, cX0_next, 4, (Option.some Jvm.ClassFile.FieldType.int), [((0 : Nat), (9 : Nat), (12 : Nat), (41 : Nat)), ((0 : Nat), (9 : Nat), (15 : Nat), (43 : Nat))], yX0_next.name)
def t_X0_next (Z : aZ) (h : aH) (x0 : Nat) (x1 : Int32) (x2 : Nat) : Option (Int32 × aH) :=
  if isC 0 h x0 = true then
  (t_X1_next Z h x0 x1).bind fun r4 =>
  (match r4 with
  | (.inl y6, h7) =>
    (stJ Z h7 x2 0 ((y6 : Int32).toInt64)).bind fun h9 =>
    some (0, h9)
  | (.inr y6, h7) =>
    if y6.1 = "java/lang/IndexOutOfBoundsException" then
      some (1, h7)
    else
      if y6.1 = "java/util/NoSuchElementException" then
        some (2, h7)
      else
        none
  )
  else none
theorem k_X0_next {G : aG} {h : aH} {x0 : Nat} {x1 : Int32} {x2 : Nat} {e : (Int32 × aH)} (hT : t_X0_next (gZ G) h x0 x1 x2 = some e) : aMet G yX0_next (wsW_ yX0_next cX0_next 4 (Option.some Jvm.ClassFile.FieldType.int) [((0 : Nat), (9 : Nat), (12 : Nat), (41 : Nat)), ((0 : Nat), (9 : Nat), (15 : Nat), (43 : Nat))]) 12 263 [.ref x0, .int x1, .ref x2] h (aEI e.1 e.2) := by
  refine aMet.ofH (lv := [some (.ref x0), some (.int x1), some (.ref x2), none]) (by decide) (Nat.le_of_ble_eq_true rfl) 1 rfl ?_
  have he : aTo (aEI e.1 e.2) (aEI e.1 e.2) := aTo.rf
  unfold t_X0_next at hT
  refine a_aload_n dX0_next_0 rfl ?_
  refine a_iconst (v := 0) dX0_next_1 (by decide) ?_
  refine a_aload_n dX0_next_2 rfl ?_
  refine a_iload_n dX0_next_3 rfl ?_
  obtain ⟨g3, hT⟩ := oifg hT
  obtain ⟨⟨y6 | y6, h7⟩, e5, hT⟩ := obnd hT
  · dsimp only at hT
    refine a_callV kv_X0_55 g3 (k_X1_next e5) ⟨Nat.le_of_ble_eq_true rfl, Nat.le_of_ble_eq_true rfl⟩ (As := [.int x1]) (rest := [.int 0, .ref x2]) rfl rfl (Nat.le_of_ble_eq_true rfl) dX0_next_4 (kXI ?_) yXI
    refine a_i2l dX0_next_7 ?_
    obtain ⟨h9, e8, hT⟩ := obnd hT
    refine a_stJ e8 dX0_next_8 ?_
    refine a_goto 18 dX0_next_9 rfl ?_
    refine a_iconst (v := 0) dX0_next_18 (by decide) ?_
    obtain rfl := Option.some.inj hT
    exact a_iret rfl rfl dX0_next_19 (he _ _ ⟨rfl, rfl⟩)
  · dsimp only at hT
    refine a_callV kv_X0_55 g3 (k_X1_next e5) ⟨Nat.le_of_ble_eq_true rfl, Nat.le_of_ble_eq_true rfl⟩ (As := [.int x1]) (rest := [.int 0, .ref x2]) rfl rfl (Nat.le_of_ble_eq_true rfl) dX0_next_4 rXI (zXI ?_)
    by_cases c10 : y6.1 = "java/lang/IndexOutOfBoundsException"
    · have hT := oifp c10 hT
      rw [c10]
      refine a_catchI 0 rfl aNil (by decide) (by decide) q879 q929 ?_
      refine a_astore_n (lv' := [some (.ref x0), some (.int x1), some (.ref x2), some (.ref y6.2)]) dX0_next_12 rfl (by decide) rfl ?_
      refine a_iconst (v := 1) dX0_next_13 (by decide) ?_
      obtain rfl := Option.some.inj hT
      exact a_iret rfl rfl dX0_next_14 (he _ _ ⟨rfl, rfl⟩)
    · have hT := oifn c10 hT
      by_cases c11 : y6.1 = "java/util/NoSuchElementException"
      · have hT := oifp c11 hT
        rw [c11]
        refine a_catchI 1 rfl (aCons (Or.inr ⟨by decide, _, q879, fun s hK => hK.2.2.2.2.1 _ (List.mem_of_getElem? (i := 0) rfl)⟩) aNil) (by decide) (by decide) q911 q313 ?_
        refine a_astore_n (lv' := [some (.ref x0), some (.int x1), some (.ref x2), some (.ref y6.2)]) dX0_next_15 rfl (by decide) rfl ?_
        refine a_iconst (v := 2) dX0_next_16 (by decide) ?_
        obtain rfl := Option.some.inj hT
        exact a_iret rfl rfl dX0_next_17 (he _ _ ⟨rfl, rfl⟩)
      · have hT := oifn c11 hT
        cases hT
theorem kv_X0_58 : aKV "MazeBondsLaw" 58 0 yX1_reached cX1_reached 2 (Option.some Jvm.ClassFile.FieldType.int) 1 := ⟨⟨TX1, 8, rfl⟩, Or.inl q990, q991, q992, q72, q993, ⟨by decide +kernel, by decide +kernel, by decide +kernel⟩⟩
abbrev M_X0_reached : aM := (yX0_reached.cls, cX0_reached, 4, (Option.some Jvm.ClassFile.FieldType.int), [((0 : Nat), (9 : Nat), (12 : Nat), (41 : Nat))], yX0_reached.name)
def t_X0_reached (Z : aZ) (h : aH) (x0 : Nat) (x1 : Int32) (x2 : Nat) : Option (Int32 × aH) :=
  if isC 0 h x0 = true then
  (t_X1_reached Z h x0 x1).bind fun r4 =>
  (match r4 with
  | (.inl y6, h7) =>
    (stJ Z h7 x2 0 ((y6 : Int32).toInt64)).bind fun h9 =>
    some (0, h9)
  | (.inr y6, h7) =>
    if y6.1 = "java/lang/IndexOutOfBoundsException" then
      some (1, h7)
    else
      none
  )
  else none
theorem k_X0_reached {G : aG} {h : aH} {x0 : Nat} {x1 : Int32} {x2 : Nat} {e : (Int32 × aH)} (hT : t_X0_reached (gZ G) h x0 x1 x2 = some e) : aMet G yX0_reached (wsW_ yX0_reached cX0_reached 4 (Option.some Jvm.ClassFile.FieldType.int) [((0 : Nat), (9 : Nat), (12 : Nat), (41 : Nat))]) 12 261 [.ref x0, .int x1, .ref x2] h (aEI e.1 e.2) := by
  refine aMet.ofH (lv := [some (.ref x0), some (.int x1), some (.ref x2), none]) (by decide) (Nat.le_of_ble_eq_true rfl) 1 rfl ?_
  have he : aTo (aEI e.1 e.2) (aEI e.1 e.2) := aTo.rf
  unfold t_X0_reached at hT
  refine a_aload_n dX0_reached_0 rfl ?_
  refine a_iconst (v := 0) dX0_reached_1 (by decide) ?_
  refine a_aload_n dX0_reached_2 rfl ?_
  refine a_iload_n dX0_reached_3 rfl ?_
  obtain ⟨g3, hT⟩ := oifg hT
  obtain ⟨⟨y6 | y6, h7⟩, e5, hT⟩ := obnd hT
  · dsimp only at hT
    refine a_callV kv_X0_58 g3 (k_X1_reached e5) ⟨Nat.le_of_ble_eq_true rfl, Nat.le_of_ble_eq_true rfl⟩ (As := [.int x1]) (rest := [.int 0, .ref x2]) rfl rfl (Nat.le_of_ble_eq_true rfl) dX0_reached_4 (kXI ?_) yXI
    refine a_i2l dX0_reached_7 ?_
    obtain ⟨h9, e8, hT⟩ := obnd hT
    refine a_stJ e8 dX0_reached_8 ?_
    refine a_goto 15 dX0_reached_9 rfl ?_
    refine a_iconst (v := 0) dX0_reached_15 (by decide) ?_
    obtain rfl := Option.some.inj hT
    exact a_iret rfl rfl dX0_reached_16 (he _ _ ⟨rfl, rfl⟩)
  · dsimp only at hT
    refine a_callV kv_X0_58 g3 (k_X1_reached e5) ⟨Nat.le_of_ble_eq_true rfl, Nat.le_of_ble_eq_true rfl⟩ (As := [.int x1]) (rest := [.int 0, .ref x2]) rfl rfl (Nat.le_of_ble_eq_true rfl) dX0_reached_4 rXI (zXI ?_)
    by_cases c10 : y6.1 = "java/lang/IndexOutOfBoundsException"
    · have hT := oifp c10 hT
      rw [c10]
      refine a_catchI 0 rfl aNil (by decide) (by decide) q879 q929 ?_
      refine a_astore_n (lv' := [some (.ref x0), some (.int x1), some (.ref x2), some (.ref y6.2)]) dX0_reached_12 rfl (by decide) rfl ?_
      refine a_iconst (v := 1) dX0_reached_13 (by decide) ?_
      obtain rfl := Option.some.inj hT
      exact a_iret rfl rfl dX0_reached_14 (he _ _ ⟨rfl, rfl⟩)
    · have hT := oifn c10 hT
      cases hT
theorem kv_X0_61 : aKV "MazeBondsLaw" 61 0 yX1_trims cX1_trims 2 (Option.some Jvm.ClassFile.FieldType.int) 1 := ⟨⟨TX1, 8, rfl⟩, Or.inl q998, q999, q1000, q72, q1001, ⟨by decide +kernel, by decide +kernel, by decide +kernel⟩⟩
abbrev M_X0_trims : aM := (yX0_trims.cls, cX0_trims, 4, (Option.some Jvm.ClassFile.FieldType.int), [((0 : Nat), (9 : Nat), (12 : Nat), (41 : Nat))], yX0_trims.name)
def t_X0_trims (Z : aZ) (h : aH) (x0 : Nat) (x1 : Int32) (x2 : Nat) : Option (Int32 × aH) :=
  if isC 0 h x0 = true then
  (t_X1_trims Z h x0 x1).bind fun r4 =>
  (match r4 with
  | (.inl y6, h7) =>
    (stJ Z h7 x2 0 ((y6 : Int32).toInt64)).bind fun h9 =>
    some (0, h9)
  | (.inr y6, h7) =>
    if y6.1 = "java/lang/IndexOutOfBoundsException" then
      some (1, h7)
    else
      none
  )
  else none
theorem k_X0_trims {G : aG} {h : aH} {x0 : Nat} {x1 : Int32} {x2 : Nat} {e : (Int32 × aH)} (hT : t_X0_trims (gZ G) h x0 x1 x2 = some e) : aMet G yX0_trims (wsW_ yX0_trims cX0_trims 4 (Option.some Jvm.ClassFile.FieldType.int) [((0 : Nat), (9 : Nat), (12 : Nat), (41 : Nat))]) 12 261 [.ref x0, .int x1, .ref x2] h (aEI e.1 e.2) := by
  refine aMet.ofH (lv := [some (.ref x0), some (.int x1), some (.ref x2), none]) (by decide) (Nat.le_of_ble_eq_true rfl) 1 rfl ?_
  have he : aTo (aEI e.1 e.2) (aEI e.1 e.2) := aTo.rf
  unfold t_X0_trims at hT
  refine a_aload_n dX0_trims_0 rfl ?_
  refine a_iconst (v := 0) dX0_trims_1 (by decide) ?_
  refine a_aload_n dX0_trims_2 rfl ?_
  refine a_iload_n dX0_trims_3 rfl ?_
  obtain ⟨g3, hT⟩ := oifg hT
  obtain ⟨⟨y6 | y6, h7⟩, e5, hT⟩ := obnd hT
  · dsimp only at hT
    refine a_callV kv_X0_61 g3 (k_X1_trims e5) ⟨Nat.le_of_ble_eq_true rfl, Nat.le_of_ble_eq_true rfl⟩ (As := [.int x1]) (rest := [.int 0, .ref x2]) rfl rfl (Nat.le_of_ble_eq_true rfl) dX0_trims_4 (kXI ?_) yXI
    refine a_i2l dX0_trims_7 ?_
    obtain ⟨h9, e8, hT⟩ := obnd hT
    refine a_stJ e8 dX0_trims_8 ?_
    refine a_goto 15 dX0_trims_9 rfl ?_
    refine a_iconst (v := 0) dX0_trims_15 (by decide) ?_
    obtain rfl := Option.some.inj hT
    exact a_iret rfl rfl dX0_trims_16 (he _ _ ⟨rfl, rfl⟩)
  · dsimp only at hT
    refine a_callV kv_X0_61 g3 (k_X1_trims e5) ⟨Nat.le_of_ble_eq_true rfl, Nat.le_of_ble_eq_true rfl⟩ (As := [.int x1]) (rest := [.int 0, .ref x2]) rfl rfl (Nat.le_of_ble_eq_true rfl) dX0_trims_4 rXI (zXI ?_)
    by_cases c10 : y6.1 = "java/lang/IndexOutOfBoundsException"
    · have hT := oifp c10 hT
      rw [c10]
      refine a_catchI 0 rfl aNil (by decide) (by decide) q879 q929 ?_
      refine a_astore_n (lv' := [some (.ref x0), some (.int x1), some (.ref x2), some (.ref y6.2)]) dX0_trims_12 rfl (by decide) rfl ?_
      refine a_iconst (v := 1) dX0_trims_13 (by decide) ?_
      obtain rfl := Option.some.inj hT
      exact a_iret rfl rfl dX0_trims_14 (he _ _ ⟨rfl, rfl⟩)
    · have hT := oifn c10 hT
      cases hT
theorem kv_X0_90 : aKV "MazeBondsLaw" 90 0 yX1_richest cX1_richest 5 (Option.some Jvm.ClassFile.FieldType.int) 1 := ⟨⟨TX1, 8, rfl⟩, Or.inl q1113, q1114, q1115, q72, q1116, ⟨by decide +kernel, by decide +kernel, by decide +kernel⟩⟩
abbrev M_X0_richest : aM := (yX0_richest.cls, cX0_richest, 4, (Option.some Jvm.ClassFile.FieldType.int), [((0 : Nat), (9 : Nat), (12 : Nat), (43 : Nat))], yX0_richest.name)
def t_X0_richest (Z : aZ) (h : aH) (x0 : Nat) (x1 : Int32) (x2 : Nat) : Option (Int32 × aH) :=
  if isC 0 h x0 = true then
  (t_X1_richest Z h x0 x1).bind fun r4 =>
  (match r4 with
  | (.inl y6, h7) =>
    (stJ Z h7 x2 0 ((y6 : Int32).toInt64)).bind fun h9 =>
    some (0, h9)
  | (.inr y6, h7) =>
    if y6.1 = "java/util/NoSuchElementException" then
      some (1, h7)
    else
      none
  )
  else none
theorem k_X0_richest {G : aG} {h : aH} {x0 : Nat} {x1 : Int32} {x2 : Nat} {e : (Int32 × aH)} (hT : t_X0_richest (gZ G) h x0 x1 x2 = some e) : aMet G yX0_richest (wsW_ yX0_richest cX0_richest 4 (Option.some Jvm.ClassFile.FieldType.int) [((0 : Nat), (9 : Nat), (12 : Nat), (43 : Nat))]) 10 224 [.ref x0, .int x1, .ref x2] h (aEI e.1 e.2) := by
  refine aMet.ofH (lv := [some (.ref x0), some (.int x1), some (.ref x2), none]) (by decide) (Nat.le_of_ble_eq_true rfl) 1 rfl ?_
  have he : aTo (aEI e.1 e.2) (aEI e.1 e.2) := aTo.rf
  unfold t_X0_richest at hT
  refine a_aload_n dX0_richest_0 rfl ?_
  refine a_iconst (v := 0) dX0_richest_1 (by decide) ?_
  refine a_aload_n dX0_richest_2 rfl ?_
  refine a_iload_n dX0_richest_3 rfl ?_
  obtain ⟨g3, hT⟩ := oifg hT
  obtain ⟨⟨y6 | y6, h7⟩, e5, hT⟩ := obnd hT
  · dsimp only at hT
    refine a_callV kv_X0_90 g3 (k_X1_richest e5) ⟨Nat.le_of_ble_eq_true rfl, Nat.le_of_ble_eq_true rfl⟩ (As := [.int x1]) (rest := [.int 0, .ref x2]) rfl rfl (Nat.le_of_ble_eq_true rfl) dX0_richest_4 (kXI ?_) yXI
    refine a_i2l dX0_richest_7 ?_
    obtain ⟨h9, e8, hT⟩ := obnd hT
    refine a_stJ e8 dX0_richest_8 ?_
    refine a_goto 15 dX0_richest_9 rfl ?_
    refine a_iconst (v := 0) dX0_richest_15 (by decide) ?_
    obtain rfl := Option.some.inj hT
    exact a_iret rfl rfl dX0_richest_16 (he _ _ ⟨rfl, rfl⟩)
  · dsimp only at hT
    refine a_callV kv_X0_90 g3 (k_X1_richest e5) ⟨Nat.le_of_ble_eq_true rfl, Nat.le_of_ble_eq_true rfl⟩ (As := [.int x1]) (rest := [.int 0, .ref x2]) rfl rfl (Nat.le_of_ble_eq_true rfl) dX0_richest_4 rXI (zXI ?_)
    by_cases c10 : y6.1 = "java/util/NoSuchElementException"
    · have hT := oifp c10 hT
      rw [c10]
      refine a_catchI 0 rfl aNil (by decide) (by decide) q911 q313 ?_
      refine a_astore_n (lv' := [some (.ref x0), some (.int x1), some (.ref x2), some (.ref y6.2)]) dX0_richest_12 rfl (by decide) rfl ?_
      refine a_iconst (v := 1) dX0_richest_13 (by decide) ?_
      obtain rfl := Option.some.inj hT
      exact a_iret rfl rfl dX0_richest_14 (he _ _ ⟨rfl, rfl⟩)
    · have hT := oifn c10 hT
      cases hT
theorem kv_X1_164 : aKV "MazeBonds" 164 1 yX2_hours cX2_hours 3 (Option.some Jvm.ClassFile.FieldType.int) 2 := ⟨⟨TX2, 7, rfl⟩, Or.inl q963, q575, q576, q73, q577, ⟨by decide +kernel, by decide +kernel, by decide +kernel⟩⟩
abbrev M_X1_hours : aM := (yX1_hours.cls, cX1_hours, 4, (Option.some Jvm.ClassFile.FieldType.int), [], yX1_hours.name)
def t_X1_hours_l34 (Z : aZ) (h : aH) (v3 : Int32) (u0 : Int32) : Option ((Int32 ⊕ aXX) × aH) :=
  (t_X1_requireElement Z h u0).bind fun r23 =>
  (match r23 with
  | (.inl y25, h26) =>
    some (.inl v3, h26)
  | (.inr y25, h26) =>
    some (.inr y25, h26)
  )
theorem k_X1_hours_l34 {G : aG} {h0 : aH} {K : aRes → aH → Prop} {h : aH} {v3 : Int32} {u0 : Int32} {e : ((Int32 ⊕ aXX) × aH)} (hT : t_X1_hours_l34 (gZ G) h v3 u0 = some e) (he : (fun e => aTo (aXI e.1 e.2) K) e) : aW G M_X1_hours 11 240 h0 K h 34 [none, none, none, some (.int v3)] [.int u0] := by
  unfold t_X1_hours_l34 at hT
  obtain ⟨⟨y25 | y25, h26⟩, e24, hT⟩ := obnd hT
  · dsimp only at hT
    refine a_callS ks_X1_150 (k_X1_requireElement e24) ⟨Nat.le_of_ble_eq_true rfl, Nat.le_of_ble_eq_true rfl⟩ (As := [.int u0]) (rest := []) rfl rfl (Nat.le_of_ble_eq_true rfl) dX1_hours_34 (kXV ?_) yXV
    refine a_iload_n dX1_hours_37 rfl ?_
    obtain rfl := Option.some.inj hT
    exact a_iret rfl rfl dX1_hours_38 (he _ _ ⟨rfl, rfl⟩)
  · dsimp only at hT
    refine a_callS ks_X1_150 (k_X1_requireElement e24) ⟨Nat.le_of_ble_eq_true rfl, Nat.le_of_ble_eq_true rfl⟩ (As := [.int u0]) (rest := []) rfl rfl (Nat.le_of_ble_eq_true rfl) dX1_hours_34 rXV (zXV ?_)
    obtain rfl := Option.some.inj hT
    exact a_out (by decide) (he _ _ ⟨rfl, rfl⟩)
def t_X1_hours (Z : aZ) (h : aH) (o : Nat) (x0 : Int32) (x1 : Int32) : Option ((Int32 ⊕ aXX) × aH) :=
  (nwA Z h 2 (fun N => .inl (zI Z, N, .inl fun _ => 0))).bind fun h1 =>
  (stI Z h1 h.2.1 0 x0).bind fun h4 =>
  (stI Z h4 h.2.1 1 x1).bind fun h6 =>
  (t_X1_requireCells Z h6 h.2.1).bind fun r9 =>
  (match r9 with
  | (.inl y11, h12) =>
    (gA 0 0 h12 o).bind fun a14 =>
    if isC 1 h12 a14 = true then
    (t_X2_hours Z h12 a14 x0 x1).bind fun r18 =>
    if r18.1 = (-1) then
      t_X1_hours_l34 Z r18.2 r18.1 0
    else
      t_X1_hours_l34 Z r18.2 r18.1 1
    else none
  | (.inr y11, h12) =>
    some (.inr y11, h12)
  )
theorem k_X1_hours {G : aG} {h : aH} {o : Nat} {x0 : Int32} {x1 : Int32} {e : ((Int32 ⊕ aXX) × aH)} (hT : t_X1_hours (gZ G) h o x0 x1 = some e) : aMet G yX1_hours (ws_ yX1_hours cX1_hours 4 (Option.some Jvm.ClassFile.FieldType.int)) 11 240 [.ref o, .int x0, .int x1] h (aXI e.1 e.2) := by
  refine aMet.of (lv := [some (.ref o), some (.int x0), some (.int x1), none]) (by decide) (Nat.le_of_ble_eq_true rfl) 1 rfl ?_
  have he : aTo (aXI e.1 e.2) (aXI e.1 e.2) := aTo.rf
  unfold t_X1_hours at hT
  refine a_iconst (v := 2) dX1_hours_0 (by decide) ?_
  obtain ⟨h1, e2, hT⟩ := obnd hT
  refine a_newI q156 e2 dX1_hours_1 ?_
  refine a_dup dX1_hours_3 rfl ?_
  refine a_iconst (v := 0) dX1_hours_4 (by decide) ?_
  refine a_iload_n dX1_hours_5 rfl ?_
  obtain ⟨h4, e3, hT⟩ := obnd hT
  refine a_stI e3 dX1_hours_6 ?_
  refine a_dup dX1_hours_7 rfl ?_
  refine a_iconst (v := 1) dX1_hours_8 (by decide) ?_
  refine a_iload_n dX1_hours_9 rfl ?_
  obtain ⟨h6, e5, hT⟩ := obnd hT
  refine a_stI e5 dX1_hours_10 ?_
  obtain ⟨⟨y11 | y11, h12⟩, e10, hT⟩ := obnd hT
  · dsimp only at hT
    refine a_callS ks_X1_143 (k_X1_requireCells e10) ⟨Nat.le_of_ble_eq_true rfl, Nat.le_of_ble_eq_true rfl⟩ (As := [.ref h.2.1]) (rest := []) rfl rfl (Nat.le_of_ble_eq_true rfl) dX1_hours_11 (kXV ?_) yXV
    refine a_aload_n dX1_hours_14 rfl ?_
    obtain ⟨a14, e13, hT⟩ := obnd hT
    refine a_gA fl_X1_49_0 e13 dX1_hours_15 ?_
    refine a_iload_n dX1_hours_18 rfl ?_
    refine a_iload_n dX1_hours_19 rfl ?_
    obtain ⟨g17, hT⟩ := oifg hT
    obtain ⟨r18, e19, hT⟩ := obnd hT
    refine a_callV kv_X1_164 g17 (k_X2_hours e19) ⟨Nat.le_of_ble_eq_true rfl, Nat.le_of_ble_eq_true rfl⟩ (As := [.int x0, .int x1]) (rest := []) rfl rfl (Nat.le_of_ble_eq_true rfl) dX1_hours_20 (kI ?_) xI
    refine a_istore_n (lv' := [some (.ref o), some (.int x0), some (.int x1), some (.int r18.1)]) dX1_hours_23 rfl (by decide) rfl ?_
    refine a_iload_n dX1_hours_24 rfl ?_
    refine a_iconst (v := (-1)) dX1_hours_25 (by decide) ?_
    refine a_icmp_eq 33 dX1_hours_26 rfl (fun c20 => ?_) (fun c20 => ?_)
    · have hT := oifp c20 hT
      refine a_iconst (v := 0) dX1_hours_33 (by decide) ?_
      refine a_mask [false, false, false, true] ?_
      exact k_X1_hours_l34 hT he
    · have hT := oifn c20 hT
      refine a_iconst (v := 1) dX1_hours_29 (by decide) ?_
      refine a_goto 34 dX1_hours_30 rfl ?_
      refine a_mask [false, false, false, true] ?_
      exact k_X1_hours_l34 hT he
  · dsimp only at hT
    refine a_callS ks_X1_143 (k_X1_requireCells e10) ⟨Nat.le_of_ble_eq_true rfl, Nat.le_of_ble_eq_true rfl⟩ (As := [.ref h.2.1]) (rest := []) rfl rfl (Nat.le_of_ble_eq_true rfl) dX1_hours_11 rXV (zXV ?_)
    obtain rfl := Option.some.inj hT
    exact a_out (by decide) (he _ _ ⟨rfl, rfl⟩)
theorem kv_X1_255 : aKV "MazeBonds" 255 4 yX6_dueWith cX6_dueWith 2 (Option.some Jvm.ClassFile.FieldType.int) 1 := ⟨⟨TX6, 7, rfl⟩, Or.inl q1088, q843, q844, q93, q845, ⟨by decide +kernel, by decide +kernel, by decide +kernel⟩⟩
abbrev M_X1_wouldPay : aM := (yX1_wouldPay.cls, cX1_wouldPay, 4, (Option.some Jvm.ClassFile.FieldType.int), [], yX1_wouldPay.name)
def t_X1_wouldPay_l44 (Z : aZ) (h : aH) (v0 : Nat) (v2 : Nat) (v3 : Int32) (u0 : Int32) : Option ((Int32 ⊕ aXX) × aH) :=
  (t_X1_requireElement Z h u0).bind fun r25 =>
  (match r25 with
  | (.inl y27, h28) =>
    (gA 0 0 h28 v0).bind fun a30 =>
    (gA 1 1 h28 a30).bind fun a32 =>
    (gI 4 4 h28 v2).bind fun z34 =>
    if isC 8 h28 a32 = true then
    (t_J2_get Z h28 a32 z34).bind fun r38 =>
    if isC 3 r38.2 r38.1 = true then
    if isC 3 r38.2 r38.1 = true then
    (t_X4_coins_3 Z r38.2 r38.1).bind fun r44 =>
    if isC 4 r44.2 v2 = true then
    (t_X6_dueWith Z r44.2 v2 v3).bind fun r49 =>
    some (.inl (jmin r44.1 r49.1), r49.2)
    else none
    else none
    else none
    else none
  | (.inr y27, h28) =>
    some (.inr y27, h28)
  )
theorem k_X1_wouldPay_l44 {G : aG} {h0 : aH} {K : aRes → aH → Prop} {h : aH} {v0 : Nat} {v2 : Nat} {v3 : Int32} {u0 : Int32} {e : ((Int32 ⊕ aXX) × aH)} (hT : t_X1_wouldPay_l44 (gZ G) h v0 v2 v3 u0 = some e) (he : (fun e => aTo (aXI e.1 e.2) K) e) : aW G M_X1_wouldPay 11 241 h0 K h 44 [some (.ref v0), none, some (.ref v2), some (.int v3)] [.int u0] := by
  unfold t_X1_wouldPay_l44 at hT
  obtain ⟨⟨y27 | y27, h28⟩, e26, hT⟩ := obnd hT
  · dsimp only at hT
    refine a_callS ks_X1_150 (k_X1_requireElement e26) ⟨Nat.le_of_ble_eq_true rfl, Nat.le_of_ble_eq_true rfl⟩ (As := [.int u0]) (rest := []) rfl rfl (Nat.le_of_ble_eq_true rfl) dX1_wouldPay_44 (kXV ?_) yXV
    refine a_aload_n dX1_wouldPay_47 rfl ?_
    obtain ⟨a30, e29, hT⟩ := obnd hT
    refine a_gA fl_X1_49_0 e29 dX1_wouldPay_48 ?_
    obtain ⟨a32, e31, hT⟩ := obnd hT
    refine a_gA fl_X1_186_1 e31 dX1_wouldPay_51 ?_
    refine a_aload_n dX1_wouldPay_54 rfl ?_
    obtain ⟨z34, e33, hT⟩ := obnd hT
    refine a_gI fl_X1_240_4 e33 dX1_wouldPay_55 ?_
    obtain ⟨g37, hT⟩ := oifg hT
    obtain ⟨r38, e39, hT⟩ := obnd hT
    refine a_callV kv_X1_189 g37 (k_J2_get e39) ⟨Nat.le_of_ble_eq_true rfl, Nat.le_of_ble_eq_true rfl⟩ (As := [.int z34]) (rest := []) rfl rfl (Nat.le_of_ble_eq_true rfl) dX1_wouldPay_58 (kA ?_) xA
    obtain ⟨g40, hT⟩ := oifg hT
    refine a_cast (ci := 3) rfl q1037 g40 dX1_wouldPay_61 ?_
    obtain ⟨g43, hT⟩ := oifg hT
    obtain ⟨r44, e45, hT⟩ := obnd hT
    refine a_callU ku_X1_209_3 g43 (k_X4_coins_3 e45) ⟨Nat.le_of_ble_eq_true rfl, Nat.le_of_ble_eq_true rfl⟩ (As := []) (rest := []) rfl rfl (Nat.le_of_ble_eq_true rfl) dX1_wouldPay_64 (kI ?_) xI
    refine a_aload_n dX1_wouldPay_67 rfl ?_
    refine a_iload_n dX1_wouldPay_68 rfl ?_
    obtain ⟨g48, hT⟩ := oifg hT
    obtain ⟨r49, e50, hT⟩ := obnd hT
    refine a_callV kv_X1_255 g48 (k_X6_dueWith e50) ⟨Nat.le_of_ble_eq_true rfl, Nat.le_of_ble_eq_true rfl⟩ (As := [.int v3]) (rest := [.int r44.1]) rfl rfl (Nat.le_of_ble_eq_true rfl) dX1_wouldPay_69 (kI ?_) xI
    refine a_mmin q600 q481 q90 q482 (by decide) (Nat.le_of_ble_eq_true rfl) dX1_wouldPay_72 ?_
    obtain rfl := Option.some.inj hT
    exact a_iret rfl rfl dX1_wouldPay_75 (he _ _ ⟨rfl, rfl⟩)
  · dsimp only at hT
    refine a_callS ks_X1_150 (k_X1_requireElement e26) ⟨Nat.le_of_ble_eq_true rfl, Nat.le_of_ble_eq_true rfl⟩ (As := [.int u0]) (rest := []) rfl rfl (Nat.le_of_ble_eq_true rfl) dX1_wouldPay_44 rXV (zXV ?_)
    obtain rfl := Option.some.inj hT
    exact a_out (by decide) (he _ _ ⟨rfl, rfl⟩)
def t_X1_wouldPay_l43 (Z : aZ) (h : aH) (v0 : Nat) (v2 : Nat) (v3 : Int32) : Option ((Int32 ⊕ aXX) × aH) :=
  t_X1_wouldPay_l44 Z h v0 v2 v3 0
theorem k_X1_wouldPay_l43 {G : aG} {h0 : aH} {K : aRes → aH → Prop} {h : aH} {v0 : Nat} {v2 : Nat} {v3 : Int32} {e : ((Int32 ⊕ aXX) × aH)} (hT : t_X1_wouldPay_l43 (gZ G) h v0 v2 v3 = some e) (he : (fun e => aTo (aXI e.1 e.2) K) e) : aW G M_X1_wouldPay 11 241 h0 K h 43 [some (.ref v0), none, some (.ref v2), some (.int v3)] [] := by
  unfold t_X1_wouldPay_l43 at hT
  refine a_iconst (v := 0) dX1_wouldPay_43 (by decide) ?_
  exact k_X1_wouldPay_l44 hT he
def t_X1_wouldPay (Z : aZ) (h : aH) (o : Nat) (x0 : Int32) : Option ((Int32 ⊕ aXX) × aH) :=
  if isC 0 h o = true then
  (t_X1_getVisitor Z h o x0).bind fun r4 =>
  (match r4 with
  | (.inl y6, h7) =>
    (gA 0 0 h7 o).bind fun a9 =>
    (gI 4 2 h7 y6).bind fun z11 =>
    if isC 1 h7 a9 = true then
    (t_X2_hours Z h7 a9 z11 15).bind fun r15 =>
    if isC 4 r15.2 y6 = true then
    (t_X6_isOut Z r15.2 y6).bind fun r20 =>
    if r20.1 = 0 then
      if isC 4 r20.2 y6 = true then
      (t_X6_hasBond Z r20.2 y6).bind fun r54 =>
      if r54.1 = 0 then
        t_X1_wouldPay_l43 Z r54.2 o y6 r15.1
      else
        if r15.1 = (-1) then
          t_X1_wouldPay_l43 Z r54.2 o y6 r15.1
        else
          t_X1_wouldPay_l44 Z r54.2 o y6 r15.1 1
      else none
    else
      t_X1_wouldPay_l43 Z r20.2 o y6 r15.1
    else none
    else none
  | (.inr y6, h7) =>
    some (.inr y6, h7)
  )
  else none
theorem k_X1_wouldPay {G : aG} {h : aH} {o : Nat} {x0 : Int32} {e : ((Int32 ⊕ aXX) × aH)} (hT : t_X1_wouldPay (gZ G) h o x0 = some e) : aMet G yX1_wouldPay (ws_ yX1_wouldPay cX1_wouldPay 4 (Option.some Jvm.ClassFile.FieldType.int)) 11 241 [.ref o, .int x0] h (aXI e.1 e.2) := by
  refine aMet.of (lv := [some (.ref o), some (.int x0), none, none]) (by decide) (Nat.le_of_ble_eq_true rfl) 2 rfl ?_
  have he : aTo (aXI e.1 e.2) (aXI e.1 e.2) := aTo.rf
  unfold t_X1_wouldPay at hT
  refine a_aload_n dX1_wouldPay_0 rfl ?_
  refine a_iload_n dX1_wouldPay_1 rfl ?_
  obtain ⟨g3, hT⟩ := oifg hT
  obtain ⟨⟨y6 | y6, h7⟩, e5, hT⟩ := obnd hT
  · dsimp only at hT
    refine a_callV kv_X1_224 g3 (k_X1_getVisitor e5) ⟨Nat.le_of_ble_eq_true rfl, Nat.le_of_ble_eq_true rfl⟩ (As := [.int x0]) (rest := []) rfl rfl (Nat.le_of_ble_eq_true rfl) dX1_wouldPay_2 (kXA ?_) yXA
    refine a_astore_n (lv' := [some (.ref o), some (.int x0), some (.ref y6), none]) dX1_wouldPay_5 rfl (by decide) rfl ?_
    refine a_aload_n dX1_wouldPay_6 rfl ?_
    obtain ⟨a9, e8, hT⟩ := obnd hT
    refine a_gA fl_X1_49_0 e8 dX1_wouldPay_7 ?_
    refine a_aload_n dX1_wouldPay_10 rfl ?_
    obtain ⟨z11, e10, hT⟩ := obnd hT
    refine a_gI fl_X1_229_4 e10 dX1_wouldPay_11 ?_
    refine a_bipush (v := 15) dX1_wouldPay_14 (by decide) ?_
    obtain ⟨g14, hT⟩ := oifg hT
    obtain ⟨r15, e16, hT⟩ := obnd hT
    refine a_callV kv_X1_164 g14 (k_X2_hours e16) ⟨Nat.le_of_ble_eq_true rfl, Nat.le_of_ble_eq_true rfl⟩ (As := [.int z11, .int 15]) (rest := []) rfl rfl (Nat.le_of_ble_eq_true rfl) dX1_wouldPay_16 (kI ?_) xI
    refine a_istore_n (lv' := [some (.ref o), some (.int x0), some (.ref y6), some (.int r15.1)]) dX1_wouldPay_19 rfl (by decide) rfl ?_
    refine a_aload_n dX1_wouldPay_20 rfl ?_
    obtain ⟨g19, hT⟩ := oifg hT
    obtain ⟨r20, e21, hT⟩ := obnd hT
    refine a_callV kv_X1_249 g19 (k_X6_isOut e21) ⟨Nat.le_of_ble_eq_true rfl, Nat.le_of_ble_eq_true rfl⟩ (As := []) (rest := []) rfl rfl (Nat.le_of_ble_eq_true rfl) dX1_wouldPay_21 (kI ?_) xI
    refine a_if_ne 43 dX1_wouldPay_24 rfl (fun c22 => ?_) (fun c22 => ?_)
    · have hT := oifn c22 hT
      refine a_mask [true, false, true, true] ?_
      exact k_X1_wouldPay_l43 hT he
    · have hT := oifp c22 hT
      refine a_aload_n dX1_wouldPay_27 rfl ?_
      obtain ⟨g53, hT⟩ := oifg hT
      obtain ⟨r54, e55, hT⟩ := obnd hT
      refine a_callV kv_X1_252 g53 (k_X6_hasBond e55) ⟨Nat.le_of_ble_eq_true rfl, Nat.le_of_ble_eq_true rfl⟩ (As := []) (rest := []) rfl rfl (Nat.le_of_ble_eq_true rfl) dX1_wouldPay_28 (kI ?_) xI
      refine a_if_eq 43 dX1_wouldPay_31 rfl (fun c56 => ?_) (fun c56 => ?_)
      · have hT := oifp c56 hT
        refine a_mask [true, false, true, true] ?_
        exact k_X1_wouldPay_l43 hT he
      · have hT := oifn c56 hT
        refine a_iload_n dX1_wouldPay_34 rfl ?_
        refine a_iconst (v := (-1)) dX1_wouldPay_35 (by decide) ?_
        refine a_icmp_eq 43 dX1_wouldPay_36 rfl (fun c57 => ?_) (fun c57 => ?_)
        · have hT := oifp c57 hT
          refine a_mask [true, false, true, true] ?_
          exact k_X1_wouldPay_l43 hT he
        · have hT := oifn c57 hT
          refine a_iconst (v := 1) dX1_wouldPay_39 (by decide) ?_
          refine a_goto 44 dX1_wouldPay_40 rfl ?_
          refine a_mask [true, false, true, true] ?_
          exact k_X1_wouldPay_l44 hT he
  · dsimp only at hT
    refine a_callV kv_X1_224 g3 (k_X1_getVisitor e5) ⟨Nat.le_of_ble_eq_true rfl, Nat.le_of_ble_eq_true rfl⟩ (As := [.int x0]) (rest := []) rfl rfl (Nat.le_of_ble_eq_true rfl) dX1_wouldPay_2 rXA (zXA ?_)
    obtain rfl := Option.some.inj hT
    exact a_out (by decide) (he _ _ ⟨rfl, rfl⟩)
theorem kv_X2_114 : aKV "MazeBonds$Core" 114 1 yX2_hours cX2_hours 3 (Option.some Jvm.ClassFile.FieldType.int) 2 := ⟨⟨TX2, 7, rfl⟩, Or.inl q574, q575, q576, q73, q577, ⟨by decide +kernel, by decide +kernel, by decide +kernel⟩⟩
abbrev M_X2_hasWay : aM := (yX2_hasWay.cls, cX2_hasWay, 1, (Option.some Jvm.ClassFile.FieldType.boolean), [], yX2_hasWay.name)
def t_X2_hasWay (Z : aZ) (h : aH) (o : Nat) : Option (Int32 × aH) :=
  if isC 1 h o = true then
  (t_X2_hours Z h o 0 15).bind fun r4 =>
  if r4.1 = (-1) then
    some (0, r4.2)
  else
    some (1, r4.2)
  else none
theorem k_X2_hasWay {G : aG} {h : aH} {o : Nat} {e : (Int32 × aH)} (hT : t_X2_hasWay (gZ G) h o = some e) : aMet G yX2_hasWay (ws_ yX2_hasWay cX2_hasWay 1 (Option.some Jvm.ClassFile.FieldType.boolean)) 7 184 [.ref o] h (aEI e.1 e.2) := by
  refine aMet.of (lv := [some (.ref o)]) (by decide) (Nat.le_of_ble_eq_true rfl) 0 rfl ?_
  have he : aTo (aEI e.1 e.2) (aEI e.1 e.2) := aTo.rf
  unfold t_X2_hasWay at hT
  refine a_aload_n dX2_hasWay_0 rfl ?_
  refine a_iconst (v := 0) dX2_hasWay_1 (by decide) ?_
  refine a_bipush (v := 15) dX2_hasWay_2 (by decide) ?_
  obtain ⟨g3, hT⟩ := oifg hT
  obtain ⟨r4, e5, hT⟩ := obnd hT
  refine a_callV kv_X2_114 g3 (k_X2_hours e5) ⟨Nat.le_of_ble_eq_true rfl, Nat.le_of_ble_eq_true rfl⟩ (As := [.int 0, .int 15]) (rest := []) rfl rfl (Nat.le_of_ble_eq_true rfl) dX2_hasWay_4 (kI ?_) xI
  refine a_iconst (v := (-1)) dX2_hasWay_7 (by decide) ?_
  refine a_icmp_eq 15 dX2_hasWay_8 rfl (fun c6 => ?_) (fun c6 => ?_)
  · have hT := oifp c6 hT
    refine a_iconst (v := 0) dX2_hasWay_15 (by decide) ?_
    obtain rfl := Option.some.inj hT
    exact a_iret rfl (by decide) dX2_hasWay_16 (he _ _ ⟨rfl, rfl⟩)
  · have hT := oifn c6 hT
    refine a_iconst (v := 1) dX2_hasWay_11 (by decide) ?_
    refine a_goto 16 dX2_hasWay_12 rfl ?_
    obtain rfl := Option.some.inj hT
    exact a_iret rfl (by decide) dX2_hasWay_16 (he _ _ ⟨rfl, rfl⟩)
theorem kv_X2_174 : aKV "MazeBonds$Core" 174 1 yX2_hasWay cX2_hasWay 1 (Option.some Jvm.ClassFile.FieldType.boolean) 0 := ⟨⟨TX2, 7, rfl⟩, Or.inl q785, q571, q572, q73, q573, ⟨by decide +kernel, by decide +kernel, by decide +kernel⟩⟩
theorem kv_X2_177 : aKV "MazeBonds$Core" 177 1 yX2_reached cX2_reached 5 (Option.some Jvm.ClassFile.FieldType.int) 1 := ⟨⟨TX2, 7, rfl⟩, Or.inl q786, q787, q788, q73, q789, ⟨by decide +kernel, by decide +kernel, by decide +kernel⟩⟩
theorem ks_X2_181 : aKS "MazeBonds$Core" 181 yJ18_bitCount cJ18_bitCount 1 (Option.some Jvm.ClassFile.FieldType.int) 1 := ⟨Or.inl q790, q791, q99, q792, ⟨by decide +kernel, by decide +kernel, by decide +kernel⟩⟩
theorem fn_X2_60 : aFN "MazeBonds$Core" 60 4 [.int 0, .int 0, .int 0, .int 0, .int 0, .int 0, .int 0] 7 := ⟨RX6, TX6, tyX6, rfl, in_X6, tyX6_ok, q488, q494, q93, by decide⟩
theorem ki_X2_186 : aKI "MazeBonds$Core" 186 yX6_init cX6_init 3 2 := ⟨rfl, Or.inl q796, q499, q93, q500, ⟨by decide +kernel, by decide +kernel, by decide +kernel⟩⟩
abbrev M_X2_visitor : aM := (yX2_visitor.cls, cX2_visitor, 2, (Option.some Jvm.ClassFile.FieldType.int), [], yX2_visitor.name)
def t_X2_visitor_l44 (Z : aZ) (h : aH) (v0 : Nat) (v1 : Int32) (u0 : Int32) : Option ((Int32 ⊕ aXX) × aH) :=
  if isC 1 h v0 = true then
  (t_X2_reached Z h v0 0).bind fun r34 =>
  (t_J18_bitCount r34.1).bind fun r38 =>
  (t_X1_refuse Z r34.2 u0 6 r38).bind fun r42 =>
  (match r42 with
  | (.inl y44, h45) =>
    (gA 1 2 h45 v0).bind fun a47 =>
    (nw Z h45 (.inr (4, [.int 0, .int 0, .int 0, .int 0, .int 0, .int 0, .int 0])) 7).bind fun h48 =>
    if isC 1 h48 v0 = true then
    (t_X2_hours Z h48 v0 0 15).bind fun r53 =>
    (t_X6_init Z r53.2 h45.2.1 v1 r53.1).bind fun r57 =>
    if isC 8 r57.2 a47 = true then
    (t_J2_add_4 Z r57.2 a47 h45.2.1).bind fun r62 =>
    (gI 1 5 r62.2 v0).bind fun z65 =>
    (pF 1 5 Z r62.2 v0 (.int (z65 + v1))).bind fun h67 =>
    (gA 1 2 h67 v0).bind fun a69 =>
    if isC 8 h67 a69 = true then
    (t_J2_size Z h67 a69).bind fun r73 =>
    some (.inl (r73.1 - 1), r73.2)
    else none
    else none
    else none
  | (.inr y44, h45) =>
    some (.inr y44, h45)
  )
  else none
theorem k_X2_visitor_l44 {G : aG} {h0 : aH} {K : aRes → aH → Prop} {h : aH} {v0 : Nat} {v1 : Int32} {u0 : Int32} {e : ((Int32 ⊕ aXX) × aH)} (hT : t_X2_visitor_l44 (gZ G) h v0 v1 u0 = some e) (he : (fun e => aTo (aXI e.1 e.2) K) e) : aW G M_X2_visitor 8 204 h0 K h 44 [some (.ref v0), some (.int v1)] [.int u0] := by
  unfold t_X2_visitor_l44 at hT
  refine a_bipush (v := 6) dX2_visitor_44 (by decide) ?_
  refine a_aload_n dX2_visitor_46 rfl ?_
  refine a_iconst (v := 0) dX2_visitor_47 (by decide) ?_
  obtain ⟨g33, hT⟩ := oifg hT
  obtain ⟨r34, e35, hT⟩ := obnd hT
  refine a_callV kv_X2_177 g33 (k_X2_reached e35) ⟨Nat.le_of_ble_eq_true rfl, Nat.le_of_ble_eq_true rfl⟩ (As := [.int 0]) (rest := [.int 6, .int u0]) rfl rfl (Nat.le_of_ble_eq_true rfl) dX2_visitor_48 (kI ?_) xI
  obtain ⟨r38, e39, hT⟩ := obnd hT
  refine a_callS ks_X2_181 (k_J18_bitCount e39) ⟨Nat.le_of_ble_eq_true rfl, Nat.le_of_ble_eq_true rfl⟩ (As := [.int r34.1]) (rest := [.int 6, .int u0]) rfl rfl (Nat.le_of_ble_eq_true rfl) dX2_visitor_51 (kI ?_) xI
  obtain ⟨⟨y44 | y44, h45⟩, e43, hT⟩ := obnd hT
  · dsimp only at hT
    refine a_callS ks_X2_120 (k_X1_refuse e43) ⟨Nat.le_of_ble_eq_true rfl, Nat.le_of_ble_eq_true rfl⟩ (As := [.int u0, .int 6, .int r38]) (rest := []) rfl rfl (Nat.le_of_ble_eq_true rfl) dX2_visitor_54 (kXV ?_) yXV
    refine a_aload_n dX2_visitor_57 rfl ?_
    obtain ⟨a47, e46, hT⟩ := obnd hT
    refine a_gA fl_X2_18_1 e46 dX2_visitor_58 ?_
    obtain ⟨h48, e49, hT⟩ := obnd hT
    refine a_new fn_X2_60 e49 dX2_visitor_61 ?_
    refine a_dup dX2_visitor_64 rfl ?_
    refine a_iload_n dX2_visitor_65 rfl ?_
    refine a_aload_n dX2_visitor_66 rfl ?_
    refine a_iconst (v := 0) dX2_visitor_67 (by decide) ?_
    refine a_bipush (v := 15) dX2_visitor_68 (by decide) ?_
    obtain ⟨g52, hT⟩ := oifg hT
    obtain ⟨r53, e54, hT⟩ := obnd hT
    refine a_callV kv_X2_114 g52 (k_X2_hours e54) ⟨Nat.le_of_ble_eq_true rfl, Nat.le_of_ble_eq_true rfl⟩ (As := [.int 0, .int 15]) (rest := [.int v1, .ref h45.2.1, .ref h45.2.1, .ref a47]) rfl rfl (Nat.le_of_ble_eq_true rfl) dX2_visitor_70 (kI ?_) xI
    obtain ⟨r57, e58, hT⟩ := obnd hT
    refine a_callI ki_X2_186 (k_X6_init e58) ⟨Nat.le_of_ble_eq_true rfl, Nat.le_of_ble_eq_true rfl⟩ (As := [.int v1, .int r53.1]) (rest := [.ref h45.2.1, .ref a47]) rfl rfl (Nat.le_of_ble_eq_true rfl) dX2_visitor_73 (kV ?_) xV
    obtain ⟨g61, hT⟩ := oifg hT
    obtain ⟨r62, e63, hT⟩ := obnd hT
    refine a_callV kv_X2_56 g61 (k_J2_add_4 e63) ⟨Nat.le_of_ble_eq_true rfl, Nat.le_of_ble_eq_true rfl⟩ (As := [.ref h45.2.1]) (rest := []) rfl rfl (Nat.le_of_ble_eq_true rfl) dX2_visitor_76 (kI ?_) xI
    refine a_pop dX2_visitor_79 rfl ?_
    refine a_aload_n dX2_visitor_80 rfl ?_
    refine a_dup dX2_visitor_81 rfl ?_
    obtain ⟨z65, e64, hT⟩ := obnd hT
    refine a_gI fl_X2_68_1 e64 dX2_visitor_82 ?_
    refine a_iload_n dX2_visitor_85 rfl ?_
    refine a_iadd dX2_visitor_86 ?_
    obtain ⟨h67, e66, hT⟩ := obnd hT
    refine a_put (fp_X2_68_1 _) ⟨rfl, rfl⟩ e66 dX2_visitor_87 ?_
    refine a_aload_n dX2_visitor_90 rfl ?_
    obtain ⟨a69, e68, hT⟩ := obnd hT
    refine a_gA fl_X2_18_1 e68 dX2_visitor_91 ?_
    obtain ⟨g72, hT⟩ := oifg hT
    obtain ⟨r73, e74, hT⟩ := obnd hT
    refine a_callV kv_X2_74 g72 (k_J2_size e74) ⟨Nat.le_of_ble_eq_true rfl, Nat.le_of_ble_eq_true rfl⟩ (As := []) (rest := []) rfl rfl (Nat.le_of_ble_eq_true rfl) dX2_visitor_94 (kI ?_) xI
    refine a_iconst (v := 1) dX2_visitor_97 (by decide) ?_
    refine a_isub dX2_visitor_98 ?_
    obtain rfl := Option.some.inj hT
    exact a_iret rfl rfl dX2_visitor_99 (he _ _ ⟨rfl, rfl⟩)
  · dsimp only at hT
    refine a_callS ks_X2_120 (k_X1_refuse e43) ⟨Nat.le_of_ble_eq_true rfl, Nat.le_of_ble_eq_true rfl⟩ (As := [.int u0, .int 6, .int r38]) (rest := []) rfl rfl (Nat.le_of_ble_eq_true rfl) dX2_visitor_54 rXV (zXV ?_)
    obtain rfl := Option.some.inj hT
    exact a_out (by decide) (he _ _ ⟨rfl, rfl⟩)
def t_X2_visitor_l26 (Z : aZ) (h : aH) (v0 : Nat) (v1 : Int32) (u0 : Int32) : Option ((Int32 ⊕ aXX) × aH) :=
  (t_X1_refuse Z h u0 13 5).bind fun r21 =>
  (match r21 with
  | (.inl y23, h24) =>
    if isC 1 h24 v0 = true then
    (t_X2_hasWay Z h24 v0).bind fun r28 =>
    if r28.1 = 0 then
      t_X2_visitor_l44 Z r28.2 v0 v1 1
    else
      t_X2_visitor_l44 Z r28.2 v0 v1 0
    else none
  | (.inr y23, h24) =>
    some (.inr y23, h24)
  )
theorem k_X2_visitor_l26 {G : aG} {h0 : aH} {K : aRes → aH → Prop} {h : aH} {v0 : Nat} {v1 : Int32} {u0 : Int32} {e : ((Int32 ⊕ aXX) × aH)} (hT : t_X2_visitor_l26 (gZ G) h v0 v1 u0 = some e) (he : (fun e => aTo (aXI e.1 e.2) K) e) : aW G M_X2_visitor 8 204 h0 K h 26 [some (.ref v0), some (.int v1)] [.int u0] := by
  unfold t_X2_visitor_l26 at hT
  refine a_bipush (v := 13) dX2_visitor_26 (by decide) ?_
  refine a_iconst (v := 5) dX2_visitor_28 (by decide) ?_
  obtain ⟨⟨y23 | y23, h24⟩, e22, hT⟩ := obnd hT
  · dsimp only at hT
    refine a_callS ks_X2_120 (k_X1_refuse e22) ⟨Nat.le_of_ble_eq_true rfl, Nat.le_of_ble_eq_true rfl⟩ (As := [.int u0, .int 13, .int 5]) (rest := []) rfl rfl (Nat.le_of_ble_eq_true rfl) dX2_visitor_29 (kXV ?_) yXV
    refine a_aload_n dX2_visitor_32 rfl ?_
    obtain ⟨g27, hT⟩ := oifg hT
    obtain ⟨r28, e29, hT⟩ := obnd hT
    refine a_callV kv_X2_174 g27 (k_X2_hasWay e29) ⟨Nat.le_of_ble_eq_true rfl, Nat.le_of_ble_eq_true rfl⟩ (As := []) (rest := []) rfl rfl (Nat.le_of_ble_eq_true rfl) dX2_visitor_33 (kI ?_) xI
    refine a_if_ne 43 dX2_visitor_36 rfl (fun c30 => ?_) (fun c30 => ?_)
    · have hT := oifn c30 hT
      refine a_iconst (v := 0) dX2_visitor_43 (by decide) ?_
      exact k_X2_visitor_l44 hT he
    · have hT := oifp c30 hT
      refine a_iconst (v := 1) dX2_visitor_39 (by decide) ?_
      refine a_goto 44 dX2_visitor_40 rfl ?_
      exact k_X2_visitor_l44 hT he
  · dsimp only at hT
    refine a_callS ks_X2_120 (k_X1_refuse e22) ⟨Nat.le_of_ble_eq_true rfl, Nat.le_of_ble_eq_true rfl⟩ (As := [.int u0, .int 13, .int 5]) (rest := []) rfl rfl (Nat.le_of_ble_eq_true rfl) dX2_visitor_29 rXV (zXV ?_)
    obtain rfl := Option.some.inj hT
    exact a_out (by decide) (he _ _ ⟨rfl, rfl⟩)
def t_X2_visitor (Z : aZ) (h : aH) (o : Nat) (x0 : Int32) : Option ((Int32 ⊕ aXX) × aH) :=
  (t_X1_isIn x0 0 99).bind fun r3 =>
  (t_X1_requireRange Z h r3).bind fun r7 =>
  (match r7 with
  | (.inl y9, h10) =>
    (gA 1 2 h10 o).bind fun a12 =>
    if isC 8 h10 a12 = true then
    (t_J2_size Z h10 a12).bind fun r16 =>
    if r16.1 = 5 then
      t_X2_visitor_l26 Z r16.2 o x0 1
    else
      t_X2_visitor_l26 Z r16.2 o x0 0
    else none
  | (.inr y9, h10) =>
    some (.inr y9, h10)
  )
theorem k_X2_visitor {G : aG} {h : aH} {o : Nat} {x0 : Int32} {e : ((Int32 ⊕ aXX) × aH)} (hT : t_X2_visitor (gZ G) h o x0 = some e) : aMet G yX2_visitor (ws_ yX2_visitor cX2_visitor 2 (Option.some Jvm.ClassFile.FieldType.int)) 8 204 [.ref o, .int x0] h (aXI e.1 e.2) := by
  refine aMet.of (lv := [some (.ref o), some (.int x0)]) (by decide) (Nat.le_of_ble_eq_true rfl) 0 rfl ?_
  have he : aTo (aXI e.1 e.2) (aXI e.1 e.2) := aTo.rf
  unfold t_X2_visitor at hT
  refine a_iload_n dX2_visitor_0 rfl ?_
  refine a_iconst (v := 0) dX2_visitor_1 (by decide) ?_
  refine a_bipush (v := 99) dX2_visitor_2 (by decide) ?_
  obtain ⟨r3, e4, hT⟩ := obnd hT
  refine a_callS ks_X2_78 (k_X1_isIn e4) ⟨Nat.le_of_ble_eq_true rfl, Nat.le_of_ble_eq_true rfl⟩ (As := [.int x0, .int 0, .int 99]) (rest := []) rfl rfl (Nat.le_of_ble_eq_true rfl) dX2_visitor_4 (kI ?_) xI
  obtain ⟨⟨y9 | y9, h10⟩, e8, hT⟩ := obnd hT
  · dsimp only at hT
    refine a_callS ks_X2_139 (k_X1_requireRange e8) ⟨Nat.le_of_ble_eq_true rfl, Nat.le_of_ble_eq_true rfl⟩ (As := [.int r3]) (rest := []) rfl rfl (Nat.le_of_ble_eq_true rfl) dX2_visitor_7 (kXV ?_) yXV
    refine a_aload_n dX2_visitor_10 rfl ?_
    obtain ⟨a12, e11, hT⟩ := obnd hT
    refine a_gA fl_X2_18_1 e11 dX2_visitor_11 ?_
    obtain ⟨g15, hT⟩ := oifg hT
    obtain ⟨r16, e17, hT⟩ := obnd hT
    refine a_callV kv_X2_74 g15 (k_J2_size e17) ⟨Nat.le_of_ble_eq_true rfl, Nat.le_of_ble_eq_true rfl⟩ (As := []) (rest := []) rfl rfl (Nat.le_of_ble_eq_true rfl) dX2_visitor_14 (kI ?_) xI
    refine a_iconst (v := 5) dX2_visitor_17 (by decide) ?_
    refine a_icmp_ne 25 dX2_visitor_18 rfl (fun c18 => ?_) (fun c18 => ?_)
    · have hT := oifn c18 hT
      refine a_iconst (v := 0) dX2_visitor_25 (by decide) ?_
      exact k_X2_visitor_l26 hT he
    · have hT := oifp c18 hT
      refine a_iconst (v := 1) dX2_visitor_21 (by decide) ?_
      refine a_goto 26 dX2_visitor_22 rfl ?_
      exact k_X2_visitor_l26 hT he
  · dsimp only at hT
    refine a_callS ks_X2_139 (k_X1_requireRange e8) ⟨Nat.le_of_ble_eq_true rfl, Nat.le_of_ble_eq_true rfl⟩ (As := [.int r3]) (rest := []) rfl rfl (Nat.le_of_ble_eq_true rfl) dX2_visitor_7 rXV (zXV ?_)
    obtain rfl := Option.some.inj hT
    exact a_out (by decide) (he _ _ ⟨rfl, rfl⟩)
theorem fl_X8_56_6 : aFL "MazeBonds$Reader" 56 6 1 := ⟨RX8, TX8, 5, "MazeBonds$Reader", rfl, in_X8, by decide, Or.inl rfl, Or.inl q1162⟩
theorem fl_X8_63_6 : aFL "MazeBonds$Reader" 63 6 2 := ⟨RX8, TX8, 5, "MazeBonds$Reader", rfl, in_X8, by decide, Or.inl rfl, Or.inl q1163⟩
theorem fl_X8_66_6 : aFL "MazeBonds$Reader" 66 6 3 := ⟨RX8, TX8, 5, "MazeBonds$Reader", rfl, in_X8, by decide, Or.inl rfl, Or.inl q1164⟩
theorem kv_X8_97 : aKV "MazeBonds$Reader" 97 1 yX2_bond cX2_bond 6 (Option.some Jvm.ClassFile.FieldType.int) 3 := ⟨⟨TX2, 7, rfl⟩, Or.inl q1327, q805, q806, q73, q807, ⟨by decide +kernel, by decide +kernel, by decide +kernel⟩⟩
theorem kv_X8_91 : aKV "MazeBonds$Reader" 91 1 yX2_gardener cX2_gardener 2 (Option.some Jvm.ClassFile.FieldType.int) 1 := ⟨⟨TX2, 7, rfl⟩, Or.inl q1325, q770, q771, q73, q772, ⟨by decide +kernel, by decide +kernel, by decide +kernel⟩⟩
theorem kv_X8_76 : aKV "MazeBonds$Reader" 76 1 yX2_hedge cX2_hedge 6 (Option.some Jvm.ClassFile.FieldType.int) 3 := ⟨⟨TX2, 7, rfl⟩, Or.inl q1321, q626, q627, q73, q628, ⟨by decide +kernel, by decide +kernel, by decide +kernel⟩⟩
theorem kv_X8_88 : aKV "MazeBonds$Reader" 88 1 yX2_minotaur cX2_minotaur 5 (Option.some Jvm.ClassFile.FieldType.int) 1 := ⟨⟨TX2, 7, rfl⟩, Or.inl q1324, q747, q748, q73, q749, ⟨by decide +kernel, by decide +kernel, by decide +kernel⟩⟩
theorem kv_X8_82 : aKV "MazeBonds$Reader" 82 1 yX2_summer cX2_summer 3 (Option.some Jvm.ClassFile.FieldType.int) 0 := ⟨⟨TX2, 7, rfl⟩, Or.inl q1322, q534, q535, q73, q536, ⟨by decide +kernel, by decide +kernel, by decide +kernel⟩⟩
theorem kv_X8_85 : aKV "MazeBonds$Reader" 85 1 yX2_trim cX2_trim 6 (Option.some Jvm.ClassFile.FieldType.int) 3 := ⟨⟨TX2, 7, rfl⟩, Or.inl q1323, q711, q712, q73, q713, ⟨by decide +kernel, by decide +kernel, by decide +kernel⟩⟩
theorem kv_X8_94 : aKV "MazeBonds$Reader" 94 1 yX2_visitor cX2_visitor 2 (Option.some Jvm.ClassFile.FieldType.int) 1 := ⟨⟨TX2, 7, rfl⟩, Or.inl q1326, q782, q783, q73, q784, ⟨by decide +kernel, by decide +kernel, by decide +kernel⟩⟩
theorem kv_X8_100 : aKV "MazeBonds$Reader" 100 1 yX2_walk cX2_walk 5 (Option.some Jvm.ClassFile.FieldType.int) 2 := ⟨⟨TX2, 7, rfl⟩, Or.inl q1328, q835, q836, q73, q837, ⟨by decide +kernel, by decide +kernel, by decide +kernel⟩⟩
theorem kv_X8_104 : aKV "MazeBonds$Reader" 104 1 yX2_rest cX2_rest 4 (Option.some Jvm.ClassFile.FieldType.int) 2 := ⟨⟨TX2, 7, rfl⟩, Or.inl q1329, q873, q874, q73, q875, ⟨by decide +kernel, by decide +kernel, by decide +kernel⟩⟩
abbrev M_X8_carryOut : aM := (yX8_carryOut.cls, cX8_carryOut, 3, (Option.none : Option Jvm.ClassFile.FieldType), [], yX8_carryOut.name)
def t_X8_carryOut (Z : aZ) (h : aH) (o : Nat) (x0 : Nat) (x1 : Int32) : Option ((Unit ⊕ aXX) × aH) :=
  if x1 = 98 then
    (gI 6 1 h o).bind fun z3 =>
    (gI 6 2 h o).bind fun z5 =>
    (gI 6 3 h o).bind fun z7 =>
    if isC 1 h x0 = true then
    (t_X2_bond Z h x0 z3 z5 z7).bind fun r11 =>
    (match r11 with
    | (.inl y13, h14) =>
      some (.inl (), h14)
    | (.inr y13, h14) =>
      some (.inr y13, h14)
    )
    else none
  else
    if x1 = 103 then
      (gI 6 1 h o).bind fun z17 =>
      if isC 1 h x0 = true then
      (t_X2_gardener Z h x0 z17).bind fun r21 =>
      (match r21 with
      | (.inl y23, h24) =>
        some (.inl (), h24)
      | (.inr y23, h24) =>
        some (.inr y23, h24)
      )
      else none
    else
      if x1 = 104 then
        (gI 6 1 h o).bind fun z27 =>
        (gI 6 2 h o).bind fun z29 =>
        (gI 6 3 h o).bind fun z31 =>
        if isC 1 h x0 = true then
        (t_X2_hedge Z h x0 z27 z29 z31).bind fun r35 =>
        (match r35 with
        | (.inl y37, h38) =>
          some (.inl (), h38)
        | (.inr y37, h38) =>
          some (.inr y37, h38)
        )
        else none
      else
        if x1 = 109 then
          (gI 6 1 h o).bind fun z41 =>
          if isC 1 h x0 = true then
          (t_X2_minotaur Z h x0 z41).bind fun r45 =>
          (match r45 with
          | (.inl y47, h48) =>
            some (.inl (), h48)
          | (.inr y47, h48) =>
            some (.inr y47, h48)
          )
          else none
        else
          if x1 = 115 then
            if isC 1 h x0 = true then
            (t_X2_summer Z h x0).bind fun r53 =>
            some (.inl (), r53.2)
            else none
          else
            if x1 = 116 then
              (gI 6 1 h o).bind fun z57 =>
              (gI 6 2 h o).bind fun z59 =>
              (gI 6 3 h o).bind fun z61 =>
              if isC 1 h x0 = true then
              (t_X2_trim Z h x0 z57 z59 z61).bind fun r65 =>
              (match r65 with
              | (.inl y67, h68) =>
                some (.inl (), h68)
              | (.inr y67, h68) =>
                some (.inr y67, h68)
              )
              else none
            else
              if x1 = 118 then
                (gI 6 1 h o).bind fun z71 =>
                if isC 1 h x0 = true then
                (t_X2_visitor Z h x0 z71).bind fun r75 =>
                (match r75 with
                | (.inl y77, h78) =>
                  some (.inl (), h78)
                | (.inr y77, h78) =>
                  some (.inr y77, h78)
                )
                else none
              else
                if x1 = 119 then
                  (gI 6 1 h o).bind fun z81 =>
                  (gI 6 2 h o).bind fun z83 =>
                  if isC 1 h x0 = true then
                  (t_X2_walk Z h x0 z81 z83).bind fun r87 =>
                  (match r87 with
                  | (.inl y89, h90) =>
                    some (.inl (), h90)
                  | (.inr y89, h90) =>
                    some (.inr y89, h90)
                  )
                  else none
                else
                  (gI 6 1 h o).bind fun z92 =>
                  (gI 6 2 h o).bind fun z94 =>
                  if isC 1 h x0 = true then
                  (t_X2_rest Z h x0 z92 z94).bind fun r98 =>
                  (match r98 with
                  | (.inl y100, h101) =>
                    some (.inl (), h101)
                  | (.inr y100, h101) =>
                    some (.inr y100, h101)
                  )
                  else none
theorem k_X8_carryOut {G : aG} {h : aH} {o : Nat} {x0 : Nat} {x1 : Int32} {e : ((Unit ⊕ aXX) × aH)} (hT : t_X8_carryOut (gZ G) h o x0 x1 = some e) : aMet G yX8_carryOut (ws_ yX8_carryOut cX8_carryOut 3 (Option.none : Option Jvm.ClassFile.FieldType)) 9 225 [.ref o, .ref x0, .int x1] h (aXV e.1 e.2) := by
  refine aMet.of (lv := [some (.ref o), some (.ref x0), some (.int x1)]) (by decide) (Nat.le_of_ble_eq_true rfl) 0 rfl ?_
  have he : aTo (aXV e.1 e.2) (aXV e.1 e.2) := aTo.rf
  unfold t_X8_carryOut at hT
  refine a_iload_n dX8_carryOut_0 rfl ?_
  by_cases c1 : x1 = 98
  · have hT := oifp c1 hT
    refine a_tswIn 188 dX8_carryOut_1 (by rw [c1]; decide) (by rw [c1]; decide) (off := 187) (by rw [c1]; rfl) rfl ?_
    refine a_aload_n dX8_carryOut_188 rfl ?_
    refine a_aload_n dX8_carryOut_189 rfl ?_
    obtain ⟨z3, e2, hT⟩ := obnd hT
    refine a_gI fl_X8_56_6 e2 dX8_carryOut_190 ?_
    refine a_aload_n dX8_carryOut_193 rfl ?_
    obtain ⟨z5, e4, hT⟩ := obnd hT
    refine a_gI fl_X8_63_6 e4 dX8_carryOut_194 ?_
    refine a_aload_n dX8_carryOut_197 rfl ?_
    obtain ⟨z7, e6, hT⟩ := obnd hT
    refine a_gI fl_X8_66_6 e6 dX8_carryOut_198 ?_
    obtain ⟨g10, hT⟩ := oifg hT
    obtain ⟨⟨y13 | y13, h14⟩, e12, hT⟩ := obnd hT
    · dsimp only at hT
      refine a_callV kv_X8_97 g10 (k_X2_bond e12) ⟨Nat.le_of_ble_eq_true rfl, Nat.le_of_ble_eq_true rfl⟩ (As := [.int z3, .int z5, .int z7]) (rest := []) rfl rfl (Nat.le_of_ble_eq_true rfl) dX8_carryOut_201 (kXI ?_) yXI
      refine a_pop dX8_carryOut_204 rfl ?_
      refine a_goto 237 dX8_carryOut_205 rfl ?_
      obtain rfl := Option.some.inj hT
      exact a_vret rfl dX8_carryOut_237 (he _ _ ⟨rfl, rfl⟩)
    · dsimp only at hT
      refine a_callV kv_X8_97 g10 (k_X2_bond e12) ⟨Nat.le_of_ble_eq_true rfl, Nat.le_of_ble_eq_true rfl⟩ (As := [.int z3, .int z5, .int z7]) (rest := []) rfl rfl (Nat.le_of_ble_eq_true rfl) dX8_carryOut_201 rXI (zXI ?_)
      obtain rfl := Option.some.inj hT
      exact a_out (by decide) (he _ _ ⟨rfl, rfl⟩)
  · have hT := oifn c1 hT
    by_cases c15 : x1 = 103
    · have hT := oifp c15 hT
      refine a_tswIn 164 dX8_carryOut_1 (by rw [c15]; decide) (by rw [c15]; decide) (off := 163) (by rw [c15]; rfl) rfl ?_
      refine a_aload_n dX8_carryOut_164 rfl ?_
      refine a_aload_n dX8_carryOut_165 rfl ?_
      obtain ⟨z17, e16, hT⟩ := obnd hT
      refine a_gI fl_X8_56_6 e16 dX8_carryOut_166 ?_
      obtain ⟨g20, hT⟩ := oifg hT
      obtain ⟨⟨y23 | y23, h24⟩, e22, hT⟩ := obnd hT
      · dsimp only at hT
        refine a_callV kv_X8_91 g20 (k_X2_gardener e22) ⟨Nat.le_of_ble_eq_true rfl, Nat.le_of_ble_eq_true rfl⟩ (As := [.int z17]) (rest := []) rfl rfl (Nat.le_of_ble_eq_true rfl) dX8_carryOut_169 (kXI ?_) yXI
        refine a_pop dX8_carryOut_172 rfl ?_
        refine a_goto 237 dX8_carryOut_173 rfl ?_
        obtain rfl := Option.some.inj hT
        exact a_vret rfl dX8_carryOut_237 (he _ _ ⟨rfl, rfl⟩)
      · dsimp only at hT
        refine a_callV kv_X8_91 g20 (k_X2_gardener e22) ⟨Nat.le_of_ble_eq_true rfl, Nat.le_of_ble_eq_true rfl⟩ (As := [.int z17]) (rest := []) rfl rfl (Nat.le_of_ble_eq_true rfl) dX8_carryOut_169 rXI (zXI ?_)
        obtain rfl := Option.some.inj hT
        exact a_out (by decide) (he _ _ ⟨rfl, rfl⟩)
    · have hT := oifn c15 hT
      by_cases c25 : x1 = 104
      · have hT := oifp c25 hT
        refine a_tswIn 104 dX8_carryOut_1 (by rw [c25]; decide) (by rw [c25]; decide) (off := 103) (by rw [c25]; rfl) rfl ?_
        refine a_aload_n dX8_carryOut_104 rfl ?_
        refine a_aload_n dX8_carryOut_105 rfl ?_
        obtain ⟨z27, e26, hT⟩ := obnd hT
        refine a_gI fl_X8_56_6 e26 dX8_carryOut_106 ?_
        refine a_aload_n dX8_carryOut_109 rfl ?_
        obtain ⟨z29, e28, hT⟩ := obnd hT
        refine a_gI fl_X8_63_6 e28 dX8_carryOut_110 ?_
        refine a_aload_n dX8_carryOut_113 rfl ?_
        obtain ⟨z31, e30, hT⟩ := obnd hT
        refine a_gI fl_X8_66_6 e30 dX8_carryOut_114 ?_
        obtain ⟨g34, hT⟩ := oifg hT
        obtain ⟨⟨y37 | y37, h38⟩, e36, hT⟩ := obnd hT
        · dsimp only at hT
          refine a_callV kv_X8_76 g34 (k_X2_hedge e36) ⟨Nat.le_of_ble_eq_true rfl, Nat.le_of_ble_eq_true rfl⟩ (As := [.int z27, .int z29, .int z31]) (rest := []) rfl rfl (Nat.le_of_ble_eq_true rfl) dX8_carryOut_117 (kXI ?_) yXI
          refine a_pop dX8_carryOut_120 rfl ?_
          refine a_goto 237 dX8_carryOut_121 rfl ?_
          obtain rfl := Option.some.inj hT
          exact a_vret rfl dX8_carryOut_237 (he _ _ ⟨rfl, rfl⟩)
        · dsimp only at hT
          refine a_callV kv_X8_76 g34 (k_X2_hedge e36) ⟨Nat.le_of_ble_eq_true rfl, Nat.le_of_ble_eq_true rfl⟩ (As := [.int z27, .int z29, .int z31]) (rest := []) rfl rfl (Nat.le_of_ble_eq_true rfl) dX8_carryOut_117 rXI (zXI ?_)
          obtain rfl := Option.some.inj hT
          exact a_out (by decide) (he _ _ ⟨rfl, rfl⟩)
      · have hT := oifn c25 hT
        by_cases c39 : x1 = 109
        · have hT := oifp c39 hT
          refine a_tswIn 152 dX8_carryOut_1 (by rw [c39]; decide) (by rw [c39]; decide) (off := 151) (by rw [c39]; rfl) rfl ?_
          refine a_aload_n dX8_carryOut_152 rfl ?_
          refine a_aload_n dX8_carryOut_153 rfl ?_
          obtain ⟨z41, e40, hT⟩ := obnd hT
          refine a_gI fl_X8_56_6 e40 dX8_carryOut_154 ?_
          obtain ⟨g44, hT⟩ := oifg hT
          obtain ⟨⟨y47 | y47, h48⟩, e46, hT⟩ := obnd hT
          · dsimp only at hT
            refine a_callV kv_X8_88 g44 (k_X2_minotaur e46) ⟨Nat.le_of_ble_eq_true rfl, Nat.le_of_ble_eq_true rfl⟩ (As := [.int z41]) (rest := []) rfl rfl (Nat.le_of_ble_eq_true rfl) dX8_carryOut_157 (kXI ?_) yXI
            refine a_pop dX8_carryOut_160 rfl ?_
            refine a_goto 237 dX8_carryOut_161 rfl ?_
            obtain rfl := Option.some.inj hT
            exact a_vret rfl dX8_carryOut_237 (he _ _ ⟨rfl, rfl⟩)
          · dsimp only at hT
            refine a_callV kv_X8_88 g44 (k_X2_minotaur e46) ⟨Nat.le_of_ble_eq_true rfl, Nat.le_of_ble_eq_true rfl⟩ (As := [.int z41]) (rest := []) rfl rfl (Nat.le_of_ble_eq_true rfl) dX8_carryOut_157 rXI (zXI ?_)
            obtain rfl := Option.some.inj hT
            exact a_out (by decide) (he _ _ ⟨rfl, rfl⟩)
        · have hT := oifn c39 hT
          by_cases c49 : x1 = 115
          · have hT := oifp c49 hT
            refine a_tswIn 124 dX8_carryOut_1 (by rw [c49]; decide) (by rw [c49]; decide) (off := 123) (by rw [c49]; rfl) rfl ?_
            refine a_aload_n dX8_carryOut_124 rfl ?_
            obtain ⟨g52, hT⟩ := oifg hT
            obtain ⟨r53, e54, hT⟩ := obnd hT
            refine a_callV kv_X8_82 g52 (k_X2_summer e54) ⟨Nat.le_of_ble_eq_true rfl, Nat.le_of_ble_eq_true rfl⟩ (As := []) (rest := []) rfl rfl (Nat.le_of_ble_eq_true rfl) dX8_carryOut_125 (kI ?_) xI
            refine a_pop dX8_carryOut_128 rfl ?_
            refine a_goto 237 dX8_carryOut_129 rfl ?_
            obtain rfl := Option.some.inj hT
            exact a_vret rfl dX8_carryOut_237 (he _ _ ⟨rfl, rfl⟩)
          · have hT := oifn c49 hT
            by_cases c55 : x1 = 116
            · have hT := oifp c55 hT
              refine a_tswIn 132 dX8_carryOut_1 (by rw [c55]; decide) (by rw [c55]; decide) (off := 131) (by rw [c55]; rfl) rfl ?_
              refine a_aload_n dX8_carryOut_132 rfl ?_
              refine a_aload_n dX8_carryOut_133 rfl ?_
              obtain ⟨z57, e56, hT⟩ := obnd hT
              refine a_gI fl_X8_56_6 e56 dX8_carryOut_134 ?_
              refine a_aload_n dX8_carryOut_137 rfl ?_
              obtain ⟨z59, e58, hT⟩ := obnd hT
              refine a_gI fl_X8_63_6 e58 dX8_carryOut_138 ?_
              refine a_aload_n dX8_carryOut_141 rfl ?_
              obtain ⟨z61, e60, hT⟩ := obnd hT
              refine a_gI fl_X8_66_6 e60 dX8_carryOut_142 ?_
              obtain ⟨g64, hT⟩ := oifg hT
              obtain ⟨⟨y67 | y67, h68⟩, e66, hT⟩ := obnd hT
              · dsimp only at hT
                refine a_callV kv_X8_85 g64 (k_X2_trim e66) ⟨Nat.le_of_ble_eq_true rfl, Nat.le_of_ble_eq_true rfl⟩ (As := [.int z57, .int z59, .int z61]) (rest := []) rfl rfl (Nat.le_of_ble_eq_true rfl) dX8_carryOut_145 (kXI ?_) yXI
                refine a_pop dX8_carryOut_148 rfl ?_
                refine a_goto 237 dX8_carryOut_149 rfl ?_
                obtain rfl := Option.some.inj hT
                exact a_vret rfl dX8_carryOut_237 (he _ _ ⟨rfl, rfl⟩)
              · dsimp only at hT
                refine a_callV kv_X8_85 g64 (k_X2_trim e66) ⟨Nat.le_of_ble_eq_true rfl, Nat.le_of_ble_eq_true rfl⟩ (As := [.int z57, .int z59, .int z61]) (rest := []) rfl rfl (Nat.le_of_ble_eq_true rfl) dX8_carryOut_145 rXI (zXI ?_)
                obtain rfl := Option.some.inj hT
                exact a_out (by decide) (he _ _ ⟨rfl, rfl⟩)
            · have hT := oifn c55 hT
              by_cases c69 : x1 = 118
              · have hT := oifp c69 hT
                refine a_tswIn 176 dX8_carryOut_1 (by rw [c69]; decide) (by rw [c69]; decide) (off := 175) (by rw [c69]; rfl) rfl ?_
                refine a_aload_n dX8_carryOut_176 rfl ?_
                refine a_aload_n dX8_carryOut_177 rfl ?_
                obtain ⟨z71, e70, hT⟩ := obnd hT
                refine a_gI fl_X8_56_6 e70 dX8_carryOut_178 ?_
                obtain ⟨g74, hT⟩ := oifg hT
                obtain ⟨⟨y77 | y77, h78⟩, e76, hT⟩ := obnd hT
                · dsimp only at hT
                  refine a_callV kv_X8_94 g74 (k_X2_visitor e76) ⟨Nat.le_of_ble_eq_true rfl, Nat.le_of_ble_eq_true rfl⟩ (As := [.int z71]) (rest := []) rfl rfl (Nat.le_of_ble_eq_true rfl) dX8_carryOut_181 (kXI ?_) yXI
                  refine a_pop dX8_carryOut_184 rfl ?_
                  refine a_goto 237 dX8_carryOut_185 rfl ?_
                  obtain rfl := Option.some.inj hT
                  exact a_vret rfl dX8_carryOut_237 (he _ _ ⟨rfl, rfl⟩)
                · dsimp only at hT
                  refine a_callV kv_X8_94 g74 (k_X2_visitor e76) ⟨Nat.le_of_ble_eq_true rfl, Nat.le_of_ble_eq_true rfl⟩ (As := [.int z71]) (rest := []) rfl rfl (Nat.le_of_ble_eq_true rfl) dX8_carryOut_181 rXI (zXI ?_)
                  obtain rfl := Option.some.inj hT
                  exact a_out (by decide) (he _ _ ⟨rfl, rfl⟩)
              · have hT := oifn c69 hT
                by_cases c79 : x1 = 119
                · have hT := oifp c79 hT
                  refine a_tswIn 208 dX8_carryOut_1 (by rw [c79]; decide) (by rw [c79]; decide) (off := 207) (by rw [c79]; rfl) rfl ?_
                  refine a_aload_n dX8_carryOut_208 rfl ?_
                  refine a_aload_n dX8_carryOut_209 rfl ?_
                  obtain ⟨z81, e80, hT⟩ := obnd hT
                  refine a_gI fl_X8_56_6 e80 dX8_carryOut_210 ?_
                  refine a_aload_n dX8_carryOut_213 rfl ?_
                  obtain ⟨z83, e82, hT⟩ := obnd hT
                  refine a_gI fl_X8_63_6 e82 dX8_carryOut_214 ?_
                  obtain ⟨g86, hT⟩ := oifg hT
                  obtain ⟨⟨y89 | y89, h90⟩, e88, hT⟩ := obnd hT
                  · dsimp only at hT
                    refine a_callV kv_X8_100 g86 (k_X2_walk e88) ⟨Nat.le_of_ble_eq_true rfl, Nat.le_of_ble_eq_true rfl⟩ (As := [.int z81, .int z83]) (rest := []) rfl rfl (Nat.le_of_ble_eq_true rfl) dX8_carryOut_217 (kXI ?_) yXI
                    refine a_pop dX8_carryOut_220 rfl ?_
                    refine a_goto 237 dX8_carryOut_221 rfl ?_
                    obtain rfl := Option.some.inj hT
                    exact a_vret rfl dX8_carryOut_237 (he _ _ ⟨rfl, rfl⟩)
                  · dsimp only at hT
                    refine a_callV kv_X8_100 g86 (k_X2_walk e88) ⟨Nat.le_of_ble_eq_true rfl, Nat.le_of_ble_eq_true rfl⟩ (As := [.int z81, .int z83]) (rest := []) rfl rfl (Nat.le_of_ble_eq_true rfl) dX8_carryOut_217 rXI (zXI ?_)
                    obtain rfl := Option.some.inj hT
                    exact a_out (by decide) (he _ _ ⟨rfl, rfl⟩)
                · have hT := oifn c79 hT
                  refine aTsw 224 dX8_carryOut_1 rfl (cs := [98, 103, 104, 109, 115, 116, 118, 119]) (by decide +kernel) (by simp only [List.mem_cons, List.not_mem_nil, or_false]; rintro z9 (rfl | rfl | rfl | rfl | rfl | rfl | rfl | rfl) <;> assumption) ?_
                  refine a_aload_n dX8_carryOut_224 rfl ?_
                  refine a_aload_n dX8_carryOut_225 rfl ?_
                  obtain ⟨z92, e91, hT⟩ := obnd hT
                  refine a_gI fl_X8_56_6 e91 dX8_carryOut_226 ?_
                  refine a_aload_n dX8_carryOut_229 rfl ?_
                  obtain ⟨z94, e93, hT⟩ := obnd hT
                  refine a_gI fl_X8_63_6 e93 dX8_carryOut_230 ?_
                  obtain ⟨g97, hT⟩ := oifg hT
                  obtain ⟨⟨y100 | y100, h101⟩, e99, hT⟩ := obnd hT
                  · dsimp only at hT
                    refine a_callV kv_X8_104 g97 (k_X2_rest e99) ⟨Nat.le_of_ble_eq_true rfl, Nat.le_of_ble_eq_true rfl⟩ (As := [.int z92, .int z94]) (rest := []) rfl rfl (Nat.le_of_ble_eq_true rfl) dX8_carryOut_233 (kXI ?_) yXI
                    refine a_pop dX8_carryOut_236 rfl ?_
                    obtain rfl := Option.some.inj hT
                    exact a_vret rfl dX8_carryOut_237 (he _ _ ⟨rfl, rfl⟩)
                  · dsimp only at hT
                    refine a_callV kv_X8_104 g97 (k_X2_rest e99) ⟨Nat.le_of_ble_eq_true rfl, Nat.le_of_ble_eq_true rfl⟩ (As := [.int z92, .int z94]) (rest := []) rfl rfl (Nat.le_of_ble_eq_true rfl) dX8_carryOut_233 rXI (zXI ?_)
                    obtain rfl := Option.some.inj hT
                    exact a_out (by decide) (he _ _ ⟨rfl, rfl⟩)
theorem kv_X0_49 : aKV "MazeBondsLaw" 49 0 yX1_hours cX1_hours 4 (Option.some Jvm.ClassFile.FieldType.int) 2 := ⟨⟨TX1, 8, rfl⟩, Or.inl q959, q960, q961, q72, q962, ⟨by decide +kernel, by decide +kernel, by decide +kernel⟩⟩
