/-! decompiled (written by gen/comp.py) -/
set_option maxRecDepth 100000
abbrev M_X2_spread : aM := (yX2_spread.cls, cX2_spread, 6, (Option.none : Option Jvm.ClassFile.FieldType), [], yX2_spread.name)
def p_X2_spread_b3 (G : aG) (h0 : aH) (K : aRes → aH → Prop) (x9 : (Nat × Nat × Int32 × Int32 × Int32 × aH)) : Prop := aW G M_X2_spread 4 113 h0 K x9.2.2.2.2.2 3 [some (.ref x9.1), some (.ref x9.2.1), some (.int x9.2.2.1), some (.int x9.2.2.2.1), some (.int x9.2.2.2.2.1), none] []
def p_X2_spread_b14 (G : aG) (h0 : aH) (K : aRes → aH → Prop) (x9 : (Nat × Nat × Int32 × Int32 × Int32 × Int32 × aH)) : Prop := aW G M_X2_spread 4 113 h0 K x9.2.2.2.2.2.2 14 [some (.ref x9.1), some (.ref x9.2.1), some (.int x9.2.2.1), some (.int x9.2.2.2.1), some (.int x9.2.2.2.2.1), some (.int x9.2.2.2.2.2.1)] []
def t_X2_spread_l47 (Z : aZ) (h : aH) (v0 : Nat) (v1 : Nat) (v2 : Int32) (v3 : Int32) (v5 : Int32) (u0 : Int32) (u1 : Int32) : Option ((Nat × Nat × Int32 × Int32 × Int32 × Int32 × aH) ⊕ ((Nat × Nat × Int32 × Int32 × Int32 × aH) ⊕ (Unit × aH))) :=
  some (.inl (v0, v1, v2, v3, (u1 ||| u0), (v5 + 1), h))
theorem k_X2_spread_l47 {G : aG} {h0 : aH} {K : aRes → aH → Prop} {h : aH} {v0 : Nat} {v1 : Nat} {v2 : Int32} {v3 : Int32} {v5 : Int32} {u0 : Int32} {u1 : Int32} {e : ((Nat × Nat × Int32 × Int32 × Int32 × Int32 × aH) ⊕ ((Nat × Nat × Int32 × Int32 × Int32 × aH) ⊕ (Unit × aH)))} (hT : t_X2_spread_l47 (gZ G) h v0 v1 v2 v3 v5 u0 u1 = some e) (he : (Sum.elim (p_X2_spread_b14 G h0 K) (Sum.elim (p_X2_spread_b3 G h0 K) (fun e => aTo (aEV e.1 e.2) K))) e) : aW G M_X2_spread 4 113 h0 K h 47 [some (.ref v0), some (.ref v1), some (.int v2), some (.int v3), none, some (.int v5)] [.int u0, .int u1] := by
  unfold t_X2_spread_l47 at hT
  refine a_ior dX2_spread_47 ?_
  refine a_istore (lv' := [some (.ref v0), some (.ref v1), some (.int v2), some (.int v3), some (.int (u1 ||| u0)), some (.int v5)]) dX2_spread_48 rfl (by decide) rfl ?_
  refine a_iinc (v := (v5 + 1)) (lv' := [some (.ref v0), some (.ref v1), some (.int v2), some (.int v3), some (.int (u1 ||| u0)), some (.int (v5 + 1))]) dX2_spread_50 rfl (by rfl) rfl (by decide) rfl ?_
  refine a_goto 14 dX2_spread_53 rfl ?_
  obtain rfl := Option.some.inj hT
  exact he
def t_X2_spread_l46 (Z : aZ) (h : aH) (v0 : Nat) (v1 : Nat) (v2 : Int32) (v3 : Int32) (v5 : Int32) (u0 : Int32) : Option ((Nat × Nat × Int32 × Int32 × Int32 × Int32 × aH) ⊕ ((Nat × Nat × Int32 × Int32 × Int32 × aH) ⊕ (Unit × aH))) :=
  t_X2_spread_l47 Z h v0 v1 v2 v3 v5 0 u0
theorem k_X2_spread_l46 {G : aG} {h0 : aH} {K : aRes → aH → Prop} {h : aH} {v0 : Nat} {v1 : Nat} {v2 : Int32} {v3 : Int32} {v5 : Int32} {u0 : Int32} {e : ((Nat × Nat × Int32 × Int32 × Int32 × Int32 × aH) ⊕ ((Nat × Nat × Int32 × Int32 × Int32 × aH) ⊕ (Unit × aH)))} (hT : t_X2_spread_l46 (gZ G) h v0 v1 v2 v3 v5 u0 = some e) (he : (Sum.elim (p_X2_spread_b14 G h0 K) (Sum.elim (p_X2_spread_b3 G h0 K) (fun e => aTo (aEV e.1 e.2) K))) e) : aW G M_X2_spread 4 113 h0 K h 46 [some (.ref v0), some (.ref v1), some (.int v2), some (.int v3), none, some (.int v5)] [.int u0] := by
  unfold t_X2_spread_l46 at hT
  refine a_iconst (v := 0) dX2_spread_46 (by decide) ?_
  exact k_X2_spread_l47 hT he
def t_X2_spread_b14 (Z : aZ) : (Nat × Nat × Int32 × Int32 × Int32 × Int32 × aH) → Option ((Nat × Nat × Int32 × Int32 × Int32 × Int32 × aH) ⊕ ((Nat × Nat × Int32 × Int32 × Int32 × aH) ⊕ (Unit × aH))) := fun (v0, v1, v2, v3, v4, v5, h) =>
  if 16 ≤ v5 then
    some (.inr (.inl (v0, v1, v2, v3, v4, h)))
  else
    (ldI Z h v1 v5).bind fun z4 =>
    if z4 = v2 then
      if isC 1 h v0 = true then
      (t_X2_spreadFrom Z h v0 v1 v5 v3).bind fun r9 =>
      if r9.1 = 0 then
        t_X2_spread_l46 Z r9.2 v0 v1 v2 v3 v5 v4
      else
        t_X2_spread_l47 Z r9.2 v0 v1 v2 v3 v5 1 v4
      else none
    else
      t_X2_spread_l46 Z h v0 v1 v2 v3 v5 v4
theorem kb_X2_spread_b14 {G : aG} {h0 : aH} {K : aRes → aH → Prop} : ∀ (x9 : (Nat × Nat × Int32 × Int32 × Int32 × Int32 × aH)) (e : ((Nat × Nat × Int32 × Int32 × Int32 × Int32 × aH) ⊕ ((Nat × Nat × Int32 × Int32 × Int32 × aH) ⊕ (Unit × aH)))), t_X2_spread_b14 (gZ G) x9 = some e → (Sum.elim (p_X2_spread_b14 G h0 K) (Sum.elim (p_X2_spread_b3 G h0 K) (fun e => aTo (aEV e.1 e.2) K))) e → p_X2_spread_b14 G h0 K x9 := by
  intro x9 e hT he
  obtain ⟨v0, v1, v2, v3, v4, v5, h⟩ := x9
  unfold p_X2_spread_b14
  unfold t_X2_spread_b14 at hT
  show aW G M_X2_spread 4 113 h0 K h 14 [some (.ref v0), some (.ref v1), some (.int v2), some (.int v3), some (.int v4), some (.int v5)] []
  dsimp only at hT
  refine a_iload dX2_spread_14 rfl ?_
  refine a_bipush (v := 16) dX2_spread_16 (by decide) ?_
  refine a_icmp_ge 56 dX2_spread_18 rfl (fun c2 => ?_) (fun c2 => ?_)
  · have hT := oifp c2 hT
    refine a_goto 3 dX2_spread_56 rfl ?_
    obtain rfl := Option.some.inj hT
    refine a_mask [true, true, true, true, true, false] ?_
    exact he
  · have hT := oifn c2 hT
    refine a_iload dX2_spread_21 rfl ?_
    refine a_aload_n dX2_spread_23 rfl ?_
    refine a_iload dX2_spread_24 rfl ?_
    obtain ⟨z4, e3, hT⟩ := obnd hT
    refine a_ldI e3 dX2_spread_26 ?_
    refine a_iload_n dX2_spread_27 rfl ?_
    refine a_icmp_ne 46 dX2_spread_28 rfl (fun c5 => ?_) (fun c5 => ?_)
    · have hT := oifn c5 hT
      refine a_mask [true, true, true, true, false, true] ?_
      exact k_X2_spread_l46 hT he
    · have hT := oifp c5 hT
      refine a_aload_n dX2_spread_31 rfl ?_
      refine a_aload_n dX2_spread_32 rfl ?_
      refine a_iload dX2_spread_33 rfl ?_
      refine a_iload_n dX2_spread_35 rfl ?_
      obtain ⟨g8, hT⟩ := oifg hT
      obtain ⟨r9, e10, hT⟩ := obnd hT
      refine a_callV kv_X2_90 g8 (k_X2_spreadFrom e10) ⟨Nat.le_of_ble_eq_true rfl, Nat.le_of_ble_eq_true rfl⟩ (As := [.ref v1, .int v5, .int v3]) (rest := [.int v4]) rfl rfl (Nat.le_of_ble_eq_true rfl) dX2_spread_36 (kI ?_) xI
      refine a_if_eq 46 dX2_spread_39 rfl (fun c11 => ?_) (fun c11 => ?_)
      · have hT := oifp c11 hT
        refine a_mask [true, true, true, true, false, true] ?_
        exact k_X2_spread_l46 hT he
      · have hT := oifn c11 hT
        refine a_iconst (v := 1) dX2_spread_42 (by decide) ?_
        refine a_goto 47 dX2_spread_43 rfl ?_
        refine a_mask [true, true, true, true, false, true] ?_
        exact k_X2_spread_l47 hT he
theorem k_X2_spread_b14 {G : aG} {h0 : aH} {K : aRes → aH → Prop} {n9 : Nat} {x9 : (Nat × Nat × Int32 × Int32 × Int32 × Int32 × aH)} {e : ((Nat × Nat × Int32 × Int32 × Int32 × aH) ⊕ (Unit × aH))} (hT : wlo (t_X2_spread_b14 (gZ G)) n9 x9 = some e) (he : (Sum.elim (p_X2_spread_b3 G h0 K) (fun e => aTo (aEV e.1 e.2) K)) e) : p_X2_spread_b14 G h0 K x9 := wlo_W kb_X2_spread_b14 n9 x9 e hT he
def t_X2_spread_b3 (Z : aZ) : (Nat × Nat × Int32 × Int32 × Int32 × aH) → Option ((Nat × Nat × Int32 × Int32 × Int32 × aH) ⊕ (Unit × aH)) := fun (v0, v1, v2, v3, v4, h) =>
  if v4 = 0 then
    some (.inr (((), h)))
  else
    wlo (t_X2_spread_b14 Z) 300 (v0, v1, v2, v3, 0, 0, h)
theorem kb_X2_spread_b3 {G : aG} {h0 : aH} {K : aRes → aH → Prop} : ∀ (x9 : (Nat × Nat × Int32 × Int32 × Int32 × aH)) (e : ((Nat × Nat × Int32 × Int32 × Int32 × aH) ⊕ (Unit × aH))), t_X2_spread_b3 (gZ G) x9 = some e → (Sum.elim (p_X2_spread_b3 G h0 K) (fun e => aTo (aEV e.1 e.2) K)) e → p_X2_spread_b3 G h0 K x9 := by
  intro x9 e hT he
  obtain ⟨v0, v1, v2, v3, v4, h⟩ := x9
  unfold p_X2_spread_b3
  unfold t_X2_spread_b3 at hT
  show aW G M_X2_spread 4 113 h0 K h 3 [some (.ref v0), some (.ref v1), some (.int v2), some (.int v3), some (.int v4), none] []
  dsimp only at hT
  refine a_iload dX2_spread_3 rfl ?_
  refine a_if_eq 59 dX2_spread_5 rfl (fun c1 => ?_) (fun c1 => ?_)
  · have hT := oifp c1 hT
    obtain rfl := Option.some.inj hT
    exact a_vret rfl dX2_spread_59 (he _ _ ⟨rfl, rfl⟩)
  · have hT := oifn c1 hT
    refine a_iconst (v := 0) dX2_spread_8 (by decide) ?_
    refine a_istore (lv' := [some (.ref v0), some (.ref v1), some (.int v2), some (.int v3), some (.int 0), none]) dX2_spread_9 rfl (by decide) rfl ?_
    refine a_iconst (v := 0) dX2_spread_11 (by decide) ?_
    refine a_istore (lv' := [some (.ref v0), some (.ref v1), some (.int v2), some (.int v3), some (.int 0), some (.int 0)]) dX2_spread_12 rfl (by decide) rfl ?_
    exact k_X2_spread_b14 hT he
theorem k_X2_spread_b3 {G : aG} {h0 : aH} {K : aRes → aH → Prop} {n9 : Nat} {x9 : (Nat × Nat × Int32 × Int32 × Int32 × aH)} {e : (Unit × aH)} (hT : wlo (t_X2_spread_b3 (gZ G)) n9 x9 = some e) (he : (fun e => aTo (aEV e.1 e.2) K) e) : p_X2_spread_b3 G h0 K x9 := wlo_W kb_X2_spread_b3 n9 x9 e hT he
def t_X2_spread (Z : aZ) (h : aH) (o : Nat) (x0 : Nat) (x1 : Int32) (x2 : Int32) : Option (Unit × aH) :=
  wlo (t_X2_spread_b3 Z) 300 (o, x0, x1, x2, 1, h)
theorem k_X2_spread {G : aG} {h : aH} {o : Nat} {x0 : Nat} {x1 : Int32} {x2 : Int32} {e : (Unit × aH)} (hT : t_X2_spread (gZ G) h o x0 x1 x2 = some e) : aMet G yX2_spread (ws_ yX2_spread cX2_spread 6 (Option.none : Option Jvm.ClassFile.FieldType)) 4 113 [.ref o, .ref x0, .int x1, .int x2] h (aEV e.1 e.2) := by
  refine aMet.of (lv := [some (.ref o), some (.ref x0), some (.int x1), some (.int x2), none, none]) (by decide) (Nat.le_of_ble_eq_true rfl) 2 rfl ?_
  have he : aTo (aEV e.1 e.2) (aEV e.1 e.2) := aTo.rf
  unfold t_X2_spread at hT
  refine a_iconst (v := 1) dX2_spread_0 (by decide) ?_
  refine a_istore (lv' := [some (.ref o), some (.ref x0), some (.int x1), some (.int x2), some (.int 1), none]) dX2_spread_1 rfl (by decide) rfl ?_
  exact k_X2_spread_b3 hT he
theorem ks_X2_120 : aKS "MazeBonds$Core" 120 yX1_refuse cX1_refuse 3 (Option.none : Option Jvm.ClassFile.FieldType) 3 := ⟨Or.inr ⟨_, q683⟩, q640, q72, q641, ⟨by decide +kernel, by decide +kernel, by decide +kernel⟩⟩
abbrev M_X2_requireHedge : aM := (yX2_requireHedge.cls, cX2_requireHedge, 3, (Option.some Jvm.ClassFile.FieldType.int), [], yX2_requireHedge.name)
def t_X2_requireHedge_l14 (Z : aZ) (h : aH) (v1 : Int32) (v2 : Int32) (u0 : Int32) : Option ((Int32 ⊕ aXX) × aH) :=
  (t_X1_refuse Z h u0 2 (jmax v1 v2)).bind fun r8 =>
  (match r8 with
  | (.inl y10, h11) =>
    (t_X1_hedgeOf v1 v2).bind fun r14 =>
    some (.inl r14, h11)
  | (.inr y10, h11) =>
    some (.inr y10, h11)
  )
theorem k_X2_requireHedge_l14 {G : aG} {h0 : aH} {K : aRes → aH → Prop} {h : aH} {v1 : Int32} {v2 : Int32} {u0 : Int32} {e : ((Int32 ⊕ aXX) × aH)} (hT : t_X2_requireHedge_l14 (gZ G) h v1 v2 u0 = some e) (he : (fun e => aTo (aXI e.1 e.2) K) e) : aW G M_X2_requireHedge 6 127 h0 K h 14 [none, some (.int v1), some (.int v2)] [.int u0] := by
  unfold t_X2_requireHedge_l14 at hT
  refine a_iconst (v := 2) dX2_requireHedge_14 (by decide) ?_
  refine a_iload_n dX2_requireHedge_15 rfl ?_
  refine a_iload_n dX2_requireHedge_16 rfl ?_
  refine a_mmax q682 q441 q90 q442 (by decide) (Nat.le_of_ble_eq_true rfl) dX2_requireHedge_17 ?_
  obtain ⟨⟨y10 | y10, h11⟩, e9, hT⟩ := obnd hT
  · dsimp only at hT
    refine a_callS ks_X2_120 (k_X1_refuse e9) ⟨Nat.le_of_ble_eq_true rfl, Nat.le_of_ble_eq_true rfl⟩ (As := [.int u0, .int 2, .int (jmax v1 v2)]) (rest := []) rfl rfl (Nat.le_of_ble_eq_true rfl) dX2_requireHedge_20 (kXV ?_) yXV
    refine a_iload_n dX2_requireHedge_23 rfl ?_
    refine a_iload_n dX2_requireHedge_24 rfl ?_
    obtain ⟨r14, e15, hT⟩ := obnd hT
    refine a_callS ks_X2_82 (k_X1_hedgeOf e15) ⟨Nat.le_of_ble_eq_true rfl, Nat.le_of_ble_eq_true rfl⟩ (As := [.int v1, .int v2]) (rest := []) rfl rfl (Nat.le_of_ble_eq_true rfl) dX2_requireHedge_25 (kI ?_) xI
    obtain rfl := Option.some.inj hT
    exact a_iret rfl rfl dX2_requireHedge_28 (he _ _ ⟨rfl, rfl⟩)
  · dsimp only at hT
    refine a_callS ks_X2_120 (k_X1_refuse e9) ⟨Nat.le_of_ble_eq_true rfl, Nat.le_of_ble_eq_true rfl⟩ (As := [.int u0, .int 2, .int (jmax v1 v2)]) (rest := []) rfl rfl (Nat.le_of_ble_eq_true rfl) dX2_requireHedge_20 rXV (zXV ?_)
    obtain rfl := Option.some.inj hT
    exact a_out (by decide) (he _ _ ⟨rfl, rfl⟩)
def t_X2_requireHedge (Z : aZ) (h : aH) (o : Nat) (x0 : Int32) (x1 : Int32) : Option ((Int32 ⊕ aXX) × aH) :=
  (t_X1_hedgeOf x0 x1).bind fun r3 =>
  if r3 = (-1) then
    t_X2_requireHedge_l14 Z h x0 x1 1
  else
    t_X2_requireHedge_l14 Z h x0 x1 0
theorem k_X2_requireHedge {G : aG} {h : aH} {o : Nat} {x0 : Int32} {x1 : Int32} {e : ((Int32 ⊕ aXX) × aH)} (hT : t_X2_requireHedge (gZ G) h o x0 x1 = some e) : aMet G yX2_requireHedge (ws_ yX2_requireHedge cX2_requireHedge 3 (Option.some Jvm.ClassFile.FieldType.int)) 6 127 [.ref o, .int x0, .int x1] h (aXI e.1 e.2) := by
  refine aMet.of (lv := [some (.ref o), some (.int x0), some (.int x1)]) (by decide) (Nat.le_of_ble_eq_true rfl) 0 rfl ?_
  have he : aTo (aXI e.1 e.2) (aXI e.1 e.2) := aTo.rf
  unfold t_X2_requireHedge at hT
  refine a_iload_n dX2_requireHedge_0 rfl ?_
  refine a_iload_n dX2_requireHedge_1 rfl ?_
  obtain ⟨r3, e4, hT⟩ := obnd hT
  refine a_callS ks_X2_82 (k_X1_hedgeOf e4) ⟨Nat.le_of_ble_eq_true rfl, Nat.le_of_ble_eq_true rfl⟩ (As := [.int x0, .int x1]) (rest := []) rfl rfl (Nat.le_of_ble_eq_true rfl) dX2_requireHedge_2 (kI ?_) xI
  refine a_iconst (v := (-1)) dX2_requireHedge_5 (by decide) ?_
  refine a_icmp_ne 13 dX2_requireHedge_6 rfl (fun c5 => ?_) (fun c5 => ?_)
  · have hT := oifn c5 hT
    refine a_iconst (v := 0) dX2_requireHedge_13 (by decide) ?_
    refine a_mask [false, true, true] ?_
    exact k_X2_requireHedge_l14 hT he
  · have hT := oifp c5 hT
    refine a_iconst (v := 1) dX2_requireHedge_9 (by decide) ?_
    refine a_goto 14 dX2_requireHedge_10 rfl ?_
    refine a_mask [false, true, true] ?_
    exact k_X2_requireHedge_l14 hT he
theorem kv_X2_124 : aKV "MazeBonds$Core" 124 1 yX2_isGardener cX2_isGardener 2 (Option.some Jvm.ClassFile.FieldType.boolean) 1 := ⟨⟨TX2, 7, rfl⟩, Or.inl q718, q719, q720, q73, q721, ⟨by decide +kernel, by decide +kernel, by decide +kernel⟩⟩
theorem kv_X2_128 : aKV "MazeBonds$Core" 128 8 yJ2_get cJ2_get 2 (Option.some (Jvm.ClassFile.FieldType.object "java/lang/Object")) 1 := ⟨⟨TJ2, 3, rfl⟩, Or.inl q723, q724, q725, q76, q726, ⟨by decide +kernel, by decide +kernel, by decide +kernel⟩⟩
abbrev M_X2_requireGardener : aM := (yX2_requireGardener.cls, cX2_requireGardener, 2, (Option.some (Jvm.ClassFile.FieldType.object "MazeBonds$Gardener")), [], yX2_requireGardener.name)
def t_X2_requireGardener_l13 (Z : aZ) (h : aH) (v0 : Nat) (v1 : Int32) (u0 : Int32) : Option ((Nat ⊕ aXX) × aH) :=
  (gA 1 1 h v0).bind fun a8 =>
  if isC 8 h a8 = true then
  (t_J2_size Z h a8).bind fun r12 =>
  (t_X1_refuse Z r12.2 u0 4 r12.1).bind fun r16 =>
  (match r16 with
  | (.inl y18, h19) =>
    (gA 1 1 h19 v0).bind fun a21 =>
    if isC 8 h19 a21 = true then
    (t_J2_get Z h19 a21 v1).bind fun r25 =>
    if isC 3 r25.2 r25.1 = true then
    some (.inl r25.1, r25.2)
    else none
    else none
  | (.inr y18, h19) =>
    some (.inr y18, h19)
  )
  else none
theorem k_X2_requireGardener_l13 {G : aG} {h0 : aH} {K : aRes → aH → Prop} {h : aH} {v0 : Nat} {v1 : Int32} {u0 : Int32} {e : ((Nat ⊕ aXX) × aH)} (hT : t_X2_requireGardener_l13 (gZ G) h v0 v1 u0 = some e) (he : (fun e => aTo (aXA e.1 e.2) K) e) : aW G M_X2_requireGardener 6 127 h0 K h 13 [some (.ref v0), some (.int v1)] [.int u0] := by
  unfold t_X2_requireGardener_l13 at hT
  refine a_iconst (v := 4) dX2_requireGardener_13 (by decide) ?_
  refine a_aload_n dX2_requireGardener_14 rfl ?_
  obtain ⟨a8, e7, hT⟩ := obnd hT
  refine a_gA fl_X2_12_1 e7 dX2_requireGardener_15 ?_
  obtain ⟨g11, hT⟩ := oifg hT
  obtain ⟨r12, e13, hT⟩ := obnd hT
  refine a_callV kv_X2_74 g11 (k_J2_size e13) ⟨Nat.le_of_ble_eq_true rfl, Nat.le_of_ble_eq_true rfl⟩ (As := []) (rest := [.int 4, .int u0]) rfl rfl (Nat.le_of_ble_eq_true rfl) dX2_requireGardener_18 (kI ?_) xI
  obtain ⟨⟨y18 | y18, h19⟩, e17, hT⟩ := obnd hT
  · dsimp only at hT
    refine a_callS ks_X2_120 (k_X1_refuse e17) ⟨Nat.le_of_ble_eq_true rfl, Nat.le_of_ble_eq_true rfl⟩ (As := [.int u0, .int 4, .int r12.1]) (rest := []) rfl rfl (Nat.le_of_ble_eq_true rfl) dX2_requireGardener_21 (kXV ?_) yXV
    refine a_aload_n dX2_requireGardener_24 rfl ?_
    obtain ⟨a21, e20, hT⟩ := obnd hT
    refine a_gA fl_X2_12_1 e20 dX2_requireGardener_25 ?_
    refine a_iload_n dX2_requireGardener_28 rfl ?_
    obtain ⟨g24, hT⟩ := oifg hT
    obtain ⟨r25, e26, hT⟩ := obnd hT
    refine a_callV kv_X2_128 g24 (k_J2_get e26) ⟨Nat.le_of_ble_eq_true rfl, Nat.le_of_ble_eq_true rfl⟩ (As := [.int v1]) (rest := []) rfl rfl (Nat.le_of_ble_eq_true rfl) dX2_requireGardener_29 (kA ?_) xA
    obtain ⟨g27, hT⟩ := oifg hT
    refine a_cast (ci := 3) rfl q382 g27 dX2_requireGardener_32 ?_
    obtain rfl := Option.some.inj hT
    exact a_aret rfl (Or.inl ⟨_, rfl⟩) dX2_requireGardener_35 (he _ _ ⟨rfl, rfl⟩)
  · dsimp only at hT
    refine a_callS ks_X2_120 (k_X1_refuse e17) ⟨Nat.le_of_ble_eq_true rfl, Nat.le_of_ble_eq_true rfl⟩ (As := [.int u0, .int 4, .int r12.1]) (rest := []) rfl rfl (Nat.le_of_ble_eq_true rfl) dX2_requireGardener_21 rXV (zXV ?_)
    obtain rfl := Option.some.inj hT
    exact a_out (by decide) (he _ _ ⟨rfl, rfl⟩)
def t_X2_requireGardener (Z : aZ) (h : aH) (o : Nat) (x0 : Int32) : Option ((Nat ⊕ aXX) × aH) :=
  if isC 1 h o = true then
  (t_X2_isGardener Z h o x0).bind fun r4 =>
  if r4.1 = 0 then
    t_X2_requireGardener_l13 Z r4.2 o x0 1
  else
    t_X2_requireGardener_l13 Z r4.2 o x0 0
  else none
theorem k_X2_requireGardener {G : aG} {h : aH} {o : Nat} {x0 : Int32} {e : ((Nat ⊕ aXX) × aH)} (hT : t_X2_requireGardener (gZ G) h o x0 = some e) : aMet G yX2_requireGardener (ws_ yX2_requireGardener cX2_requireGardener 2 (Option.some (Jvm.ClassFile.FieldType.object "MazeBonds$Gardener"))) 6 127 [.ref o, .int x0] h (aXA e.1 e.2) := by
  refine aMet.of (lv := [some (.ref o), some (.int x0)]) (by decide) (Nat.le_of_ble_eq_true rfl) 0 rfl ?_
  have he : aTo (aXA e.1 e.2) (aXA e.1 e.2) := aTo.rf
  unfold t_X2_requireGardener at hT
  refine a_aload_n dX2_requireGardener_0 rfl ?_
  refine a_iload_n dX2_requireGardener_1 rfl ?_
  obtain ⟨g3, hT⟩ := oifg hT
  obtain ⟨r4, e5, hT⟩ := obnd hT
  refine a_callV kv_X2_124 g3 (k_X2_isGardener e5) ⟨Nat.le_of_ble_eq_true rfl, Nat.le_of_ble_eq_true rfl⟩ (As := [.int x0]) (rest := []) rfl rfl (Nat.le_of_ble_eq_true rfl) dX2_requireGardener_2 (kI ?_) xI
  refine a_if_ne 12 dX2_requireGardener_5 rfl (fun c6 => ?_) (fun c6 => ?_)
  · have hT := oifn c6 hT
    refine a_iconst (v := 0) dX2_requireGardener_12 (by decide) ?_
    exact k_X2_requireGardener_l13 hT he
  · have hT := oifp c6 hT
    refine a_iconst (v := 1) dX2_requireGardener_8 (by decide) ?_
    refine a_goto 13 dX2_requireGardener_9 rfl ?_
    exact k_X2_requireGardener_l13 hT he
theorem kv_X2_132 : aKV "MazeBonds$Core" 132 1 yX2_isVisitor cX2_isVisitor 2 (Option.some Jvm.ClassFile.FieldType.boolean) 1 := ⟨⟨TX2, 7, rfl⟩, Or.inl q812, q813, q814, q73, q815, ⟨by decide +kernel, by decide +kernel, by decide +kernel⟩⟩
abbrev M_X2_requireVisitor : aM := (yX2_requireVisitor.cls, cX2_requireVisitor, 2, (Option.some (Jvm.ClassFile.FieldType.object "MazeBonds$Visitor")), [], yX2_requireVisitor.name)
def t_X2_requireVisitor_l13 (Z : aZ) (h : aH) (v0 : Nat) (v1 : Int32) (u0 : Int32) : Option ((Nat ⊕ aXX) × aH) :=
  (gA 1 2 h v0).bind fun a8 =>
  if isC 8 h a8 = true then
  (t_J2_size Z h a8).bind fun r12 =>
  (t_X1_refuse Z r12.2 u0 7 r12.1).bind fun r16 =>
  (match r16 with
  | (.inl y18, h19) =>
    (gA 1 2 h19 v0).bind fun a21 =>
    if isC 8 h19 a21 = true then
    (t_J2_get Z h19 a21 v1).bind fun r25 =>
    if isC 4 r25.2 r25.1 = true then
    some (.inl r25.1, r25.2)
    else none
    else none
  | (.inr y18, h19) =>
    some (.inr y18, h19)
  )
  else none
theorem k_X2_requireVisitor_l13 {G : aG} {h0 : aH} {K : aRes → aH → Prop} {h : aH} {v0 : Nat} {v1 : Int32} {u0 : Int32} {e : ((Nat ⊕ aXX) × aH)} (hT : t_X2_requireVisitor_l13 (gZ G) h v0 v1 u0 = some e) (he : (fun e => aTo (aXA e.1 e.2) K) e) : aW G M_X2_requireVisitor 6 127 h0 K h 13 [some (.ref v0), some (.int v1)] [.int u0] := by
  unfold t_X2_requireVisitor_l13 at hT
  refine a_bipush (v := 7) dX2_requireVisitor_13 (by decide) ?_
  refine a_aload_n dX2_requireVisitor_15 rfl ?_
  obtain ⟨a8, e7, hT⟩ := obnd hT
  refine a_gA fl_X2_18_1 e7 dX2_requireVisitor_16 ?_
  obtain ⟨g11, hT⟩ := oifg hT
  obtain ⟨r12, e13, hT⟩ := obnd hT
  refine a_callV kv_X2_74 g11 (k_J2_size e13) ⟨Nat.le_of_ble_eq_true rfl, Nat.le_of_ble_eq_true rfl⟩ (As := []) (rest := [.int 7, .int u0]) rfl rfl (Nat.le_of_ble_eq_true rfl) dX2_requireVisitor_19 (kI ?_) xI
  obtain ⟨⟨y18 | y18, h19⟩, e17, hT⟩ := obnd hT
  · dsimp only at hT
    refine a_callS ks_X2_120 (k_X1_refuse e17) ⟨Nat.le_of_ble_eq_true rfl, Nat.le_of_ble_eq_true rfl⟩ (As := [.int u0, .int 7, .int r12.1]) (rest := []) rfl rfl (Nat.le_of_ble_eq_true rfl) dX2_requireVisitor_22 (kXV ?_) yXV
    refine a_aload_n dX2_requireVisitor_25 rfl ?_
    obtain ⟨a21, e20, hT⟩ := obnd hT
    refine a_gA fl_X2_18_1 e20 dX2_requireVisitor_26 ?_
    refine a_iload_n dX2_requireVisitor_29 rfl ?_
    obtain ⟨g24, hT⟩ := oifg hT
    obtain ⟨r25, e26, hT⟩ := obnd hT
    refine a_callV kv_X2_128 g24 (k_J2_get e26) ⟨Nat.le_of_ble_eq_true rfl, Nat.le_of_ble_eq_true rfl⟩ (As := [.int v1]) (rest := []) rfl rfl (Nat.le_of_ble_eq_true rfl) dX2_requireVisitor_30 (kA ?_) xA
    obtain ⟨g27, hT⟩ := oifg hT
    refine a_cast (ci := 4) rfl q488 g27 dX2_requireVisitor_33 ?_
    obtain rfl := Option.some.inj hT
    exact a_aret rfl (Or.inl ⟨_, rfl⟩) dX2_requireVisitor_36 (he _ _ ⟨rfl, rfl⟩)
  · dsimp only at hT
    refine a_callS ks_X2_120 (k_X1_refuse e17) ⟨Nat.le_of_ble_eq_true rfl, Nat.le_of_ble_eq_true rfl⟩ (As := [.int u0, .int 7, .int r12.1]) (rest := []) rfl rfl (Nat.le_of_ble_eq_true rfl) dX2_requireVisitor_22 rXV (zXV ?_)
    obtain rfl := Option.some.inj hT
    exact a_out (by decide) (he _ _ ⟨rfl, rfl⟩)
def t_X2_requireVisitor (Z : aZ) (h : aH) (o : Nat) (x0 : Int32) : Option ((Nat ⊕ aXX) × aH) :=
  if isC 1 h o = true then
  (t_X2_isVisitor Z h o x0).bind fun r4 =>
  if r4.1 = 0 then
    t_X2_requireVisitor_l13 Z r4.2 o x0 1
  else
    t_X2_requireVisitor_l13 Z r4.2 o x0 0
  else none
theorem k_X2_requireVisitor {G : aG} {h : aH} {o : Nat} {x0 : Int32} {e : ((Nat ⊕ aXX) × aH)} (hT : t_X2_requireVisitor (gZ G) h o x0 = some e) : aMet G yX2_requireVisitor (ws_ yX2_requireVisitor cX2_requireVisitor 2 (Option.some (Jvm.ClassFile.FieldType.object "MazeBonds$Visitor"))) 6 127 [.ref o, .int x0] h (aXA e.1 e.2) := by
  refine aMet.of (lv := [some (.ref o), some (.int x0)]) (by decide) (Nat.le_of_ble_eq_true rfl) 0 rfl ?_
  have he : aTo (aXA e.1 e.2) (aXA e.1 e.2) := aTo.rf
  unfold t_X2_requireVisitor at hT
  refine a_aload_n dX2_requireVisitor_0 rfl ?_
  refine a_iload_n dX2_requireVisitor_1 rfl ?_
  obtain ⟨g3, hT⟩ := oifg hT
  obtain ⟨r4, e5, hT⟩ := obnd hT
  refine a_callV kv_X2_132 g3 (k_X2_isVisitor e5) ⟨Nat.le_of_ble_eq_true rfl, Nat.le_of_ble_eq_true rfl⟩ (As := [.int x0]) (rest := []) rfl rfl (Nat.le_of_ble_eq_true rfl) dX2_requireVisitor_2 (kI ?_) xI
  refine a_if_ne 12 dX2_requireVisitor_5 rfl (fun c6 => ?_) (fun c6 => ?_)
  · have hT := oifn c6 hT
    refine a_iconst (v := 0) dX2_requireVisitor_12 (by decide) ?_
    exact k_X2_requireVisitor_l13 hT he
  · have hT := oifp c6 hT
    refine a_iconst (v := 1) dX2_requireVisitor_8 (by decide) ?_
    refine a_goto 13 dX2_requireVisitor_9 rfl ?_
    exact k_X2_requireVisitor_l13 hT he
theorem kv_X2_195 : aKV "MazeBonds$Core" 195 4 yX6_hasBond cX6_hasBond 1 (Option.some Jvm.ClassFile.FieldType.boolean) 0 := ⟨⟨TX6, 7, rfl⟩, Or.inl q816, q759, q760, q93, q761, ⟨by decide +kernel, by decide +kernel, by decide +kernel⟩⟩
theorem kv_X2_211 : aKV "MazeBonds$Core" 211 4 yX6_dueWith cX6_dueWith 2 (Option.some Jvm.ClassFile.FieldType.int) 1 := ⟨⟨TX6, 7, rfl⟩, Or.inl q842, q843, q844, q93, q845, ⟨by decide +kernel, by decide +kernel, by decide +kernel⟩⟩
theorem ku_X2_214_3 : aKU "MazeBonds$Core" 214 3 ⟨"MazeBonds$Gardener", "payUpTo", "(I)I"⟩ yX4_payUpTo cX4_payUpTo 3 (Option.some Jvm.ClassFile.FieldType.int) 1 := ⟨RX5, TX5, 4, rfl, rfl, q851, q852, q854, q855, q87, q856, ⟨by decide +kernel, by decide +kernel, by decide +kernel⟩⟩
theorem fl_X2_217_3 : aFL "MazeBonds$Core" 217 3 2 := ⟨RX5, TX5, 4, "MazeBonds$Gardener", rfl, in_X5, by decide, Or.inl rfl, Or.inr ⟨_, q406⟩⟩
theorem fp_X2_217_3 (nm9 : String) : aFP "MazeBonds$Core" 217 3 2 .int nm9 := ⟨RX5, TX5, 4, "MazeBonds$Gardener", tyX5, rfl, in_X5, by decide, Or.inl rfl, Or.inr ⟨_, q406⟩, tyX5_ok, nmX5, rfl, Or.inl rfl⟩
theorem ku_X2_220_4 : aKU "MazeBonds$Core" 220 4 ⟨"MazeBonds$Visitor", "get", "(I)V"⟩ yX4_get cX4_get 2 (Option.none : Option Jvm.ClassFile.FieldType) 1 := ⟨RX6, TX6, 7, rfl, rfl, q858, q859, q860, q824, q87, q825, ⟨by decide +kernel, by decide +kernel, by decide +kernel⟩⟩
theorem kv_X2_221 : aKV "MazeBonds$Core" 221 4 yX6_endBond cX6_endBond 1 (Option.none : Option Jvm.ClassFile.FieldType) 0 := ⟨⟨TX6, 7, rfl⟩, Or.inl q861, q862, q863, q93, q864, ⟨by decide +kernel, by decide +kernel, by decide +kernel⟩⟩
abbrev M_X2_settle : aM := (yX2_settle.cls, cX2_settle, 4, (Option.none : Option Jvm.ClassFile.FieldType), [], yX2_settle.name)
def t_X2_settle (Z : aZ) (h : aH) (o : Nat) (x0 : Nat) : Option (Unit × aH) :=
  if isC 4 h x0 = true then
  (t_X6_hasBond Z h x0).bind fun r4 =>
  if r4.1 = 0 then
    some ((), r4.2)
  else
    (gA 1 1 r4.2 o).bind fun a8 =>
    (gI 4 4 r4.2 x0).bind fun z10 =>
    if isC 8 r4.2 a8 = true then
    (t_J2_get Z r4.2 a8 z10).bind fun r14 =>
    if isC 3 r14.2 r14.1 = true then
    if isC 4 r14.2 x0 = true then
    (t_X6_dueWith Z r14.2 x0 0).bind fun r20 =>
    if isC 3 r20.2 r14.1 = true then
    (t_X4_payUpTo_3 Z r20.2 r14.1 r20.1).bind fun r25 =>
    (gI 3 2 r25.2 r14.1).bind fun z28 =>
    (pF 3 2 Z r25.2 r14.1 (.int (z28 + r25.1))).bind fun h30 =>
    if isC 4 h30 x0 = true then
    (t_X4_get_4 Z h30 x0 r25.1).bind fun r34 =>
    if isC 4 r34.2 x0 = true then
    (t_X6_endBond Z r34.2 x0).bind fun r39 =>
    some ((), r39.2)
    else none
    else none
    else none
    else none
    else none
    else none
  else none
theorem k_X2_settle {G : aG} {h : aH} {o : Nat} {x0 : Nat} {e : (Unit × aH)} (hT : t_X2_settle (gZ G) h o x0 = some e) : aMet G yX2_settle (ws_ yX2_settle cX2_settle 4 (Option.none : Option Jvm.ClassFile.FieldType)) 4 82 [.ref o, .ref x0] h (aEV e.1 e.2) := by
  refine aMet.of (lv := [some (.ref o), some (.ref x0), none, none]) (by decide) (Nat.le_of_ble_eq_true rfl) 2 rfl ?_
  have he : aTo (aEV e.1 e.2) (aEV e.1 e.2) := aTo.rf
  unfold t_X2_settle at hT
  refine a_aload_n dX2_settle_0 rfl ?_
  obtain ⟨g3, hT⟩ := oifg hT
  obtain ⟨r4, e5, hT⟩ := obnd hT
  refine a_callV kv_X2_195 g3 (k_X6_hasBond e5) ⟨Nat.le_of_ble_eq_true rfl, Nat.le_of_ble_eq_true rfl⟩ (As := []) (rest := []) rfl rfl (Nat.le_of_ble_eq_true rfl) dX2_settle_1 (kI ?_) xI
  refine a_if_eq 51 dX2_settle_4 rfl (fun c6 => ?_) (fun c6 => ?_)
  · have hT := oifp c6 hT
    obtain rfl := Option.some.inj hT
    exact a_vret rfl dX2_settle_51 (he _ _ ⟨rfl, rfl⟩)
  · have hT := oifn c6 hT
    refine a_aload_n dX2_settle_7 rfl ?_
    obtain ⟨a8, e7, hT⟩ := obnd hT
    refine a_gA fl_X2_12_1 e7 dX2_settle_8 ?_
    refine a_aload_n dX2_settle_11 rfl ?_
    obtain ⟨z10, e9, hT⟩ := obnd hT
    refine a_gI fl_X2_198_4 e9 dX2_settle_12 ?_
    obtain ⟨g13, hT⟩ := oifg hT
    obtain ⟨r14, e15, hT⟩ := obnd hT
    refine a_callV kv_X2_128 g13 (k_J2_get e15) ⟨Nat.le_of_ble_eq_true rfl, Nat.le_of_ble_eq_true rfl⟩ (As := [.int z10]) (rest := []) rfl rfl (Nat.le_of_ble_eq_true rfl) dX2_settle_15 (kA ?_) xA
    obtain ⟨g16, hT⟩ := oifg hT
    refine a_cast (ci := 3) rfl q382 g16 dX2_settle_18 ?_
    refine a_astore_n (lv' := [some (.ref o), some (.ref x0), some (.ref r14.1), none]) dX2_settle_21 rfl (by decide) rfl ?_
    refine a_aload_n dX2_settle_22 rfl ?_
    refine a_aload_n dX2_settle_23 rfl ?_
    refine a_iconst (v := 0) dX2_settle_24 (by decide) ?_
    obtain ⟨g19, hT⟩ := oifg hT
    obtain ⟨r20, e21, hT⟩ := obnd hT
    refine a_callV kv_X2_211 g19 (k_X6_dueWith e21) ⟨Nat.le_of_ble_eq_true rfl, Nat.le_of_ble_eq_true rfl⟩ (As := [.int 0]) (rest := [.ref r14.1]) rfl rfl (Nat.le_of_ble_eq_true rfl) dX2_settle_25 (kI ?_) xI
    obtain ⟨g24, hT⟩ := oifg hT
    obtain ⟨r25, e26, hT⟩ := obnd hT
    refine a_callU ku_X2_214_3 g24 (k_X4_payUpTo_3 e26) ⟨Nat.le_of_ble_eq_true rfl, Nat.le_of_ble_eq_true rfl⟩ (As := [.int r20.1]) (rest := []) rfl rfl (Nat.le_of_ble_eq_true rfl) dX2_settle_28 (kI ?_) xI
    refine a_istore_n (lv' := [some (.ref o), some (.ref x0), some (.ref r14.1), some (.int r25.1)]) dX2_settle_31 rfl (by decide) rfl ?_
    refine a_aload_n dX2_settle_32 rfl ?_
    refine a_dup dX2_settle_33 rfl ?_
    obtain ⟨z28, e27, hT⟩ := obnd hT
    refine a_gI fl_X2_217_3 e27 dX2_settle_34 ?_
    refine a_iload_n dX2_settle_37 rfl ?_
    refine a_iadd dX2_settle_38 ?_
    obtain ⟨h30, e29, hT⟩ := obnd hT
    refine a_put (fp_X2_217_3 _) ⟨rfl, rfl⟩ e29 dX2_settle_39 ?_
    refine a_aload_n dX2_settle_42 rfl ?_
    refine a_iload_n dX2_settle_43 rfl ?_
    obtain ⟨g33, hT⟩ := oifg hT
    obtain ⟨r34, e35, hT⟩ := obnd hT
    refine a_callU ku_X2_220_4 g33 (k_X4_get_4 e35) ⟨Nat.le_of_ble_eq_true rfl, Nat.le_of_ble_eq_true rfl⟩ (As := [.int r25.1]) (rest := []) rfl rfl (Nat.le_of_ble_eq_true rfl) dX2_settle_44 (kV ?_) xV
    refine a_aload_n dX2_settle_47 rfl ?_
    obtain ⟨g38, hT⟩ := oifg hT
    obtain ⟨r39, e40, hT⟩ := obnd hT
    refine a_callV kv_X2_221 g38 (k_X6_endBond e40) ⟨Nat.le_of_ble_eq_true rfl, Nat.le_of_ble_eq_true rfl⟩ (As := []) (rest := []) rfl rfl (Nat.le_of_ble_eq_true rfl) dX2_settle_48 (kV ?_) xV
    obtain rfl := Option.some.inj hT
    exact a_vret rfl dX2_settle_51 (he _ _ ⟨rfl, rfl⟩)
abbrev M_X2_owed : aM := (yX2_owed.cls, cX2_owed, 5, (Option.some Jvm.ClassFile.FieldType.int), [], yX2_owed.name)
def p_X2_owed_b10 (G : aG) (h0 : aH) (K : aRes → aH → Prop) (x9 : (Int32 × Int32 × Nat × aH)) : Prop := aW G M_X2_owed 3 82 h0 K x9.2.2.2 10 [none, some (.int x9.1), some (.int x9.2.1), some (.ref x9.2.2.1), none] []
def t_X2_owed_l50 (Z : aZ) (h : aH) (v1 : Int32) (v3 : Nat) (u0 : Int32) (u1 : Int32) : Option ((Int32 × Int32 × Nat × aH) ⊕ (Int32 × aH)) :=
  some (.inl (v1, (u1 + u0), v3, h))
theorem k_X2_owed_l50 {G : aG} {h0 : aH} {K : aRes → aH → Prop} {h : aH} {v1 : Int32} {v3 : Nat} {u0 : Int32} {u1 : Int32} {e : ((Int32 × Int32 × Nat × aH) ⊕ (Int32 × aH))} (hT : t_X2_owed_l50 (gZ G) h v1 v3 u0 u1 = some e) (he : (Sum.elim (p_X2_owed_b10 G h0 K) (fun e => aTo (aEI e.1 e.2) K)) e) : aW G M_X2_owed 3 82 h0 K h 50 [none, some (.int v1), none, some (.ref v3), none] [.int u0, .int u1] := by
  unfold t_X2_owed_l50 at hT
  refine a_iadd dX2_owed_50 ?_
  refine a_istore_n (lv' := [none, some (.int v1), some (.int (u1 + u0)), some (.ref v3), none]) dX2_owed_51 rfl (by decide) rfl ?_
  refine a_goto 10 dX2_owed_52 rfl ?_
  obtain rfl := Option.some.inj hT
  exact he
def t_X2_owed_b10 (Z : aZ) : (Int32 × Int32 × Nat × aH) → Option ((Int32 × Int32 × Nat × aH) ⊕ (Int32 × aH)) := fun (v1, v2, v3, h) =>
  if isC 9 h v3 = true then
  (t_J7_hasNext Z h v3).bind fun r11 =>
  if r11.1 = 0 then
    some (.inr ((v2, r11.2)))
  else
    if isC 9 r11.2 v3 = true then
    (t_J7_next Z r11.2 v3).bind fun r17 =>
    if isC 4 r17.2 r17.1 = true then
    (gI 4 4 r17.2 r17.1).bind fun z21 =>
    if z21 = v1 then
      if isC 4 r17.2 r17.1 = true then
      (t_X6_dueWith Z r17.2 r17.1 0).bind fun r26 =>
      t_X2_owed_l50 Z r26.2 v1 v3 r26.1 v2
      else none
    else
      t_X2_owed_l50 Z r17.2 v1 v3 0 v2
    else none
    else none
  else none
theorem kb_X2_owed_b10 {G : aG} {h0 : aH} {K : aRes → aH → Prop} : ∀ (x9 : (Int32 × Int32 × Nat × aH)) (e : ((Int32 × Int32 × Nat × aH) ⊕ (Int32 × aH))), t_X2_owed_b10 (gZ G) x9 = some e → (Sum.elim (p_X2_owed_b10 G h0 K) (fun e => aTo (aEI e.1 e.2) K)) e → p_X2_owed_b10 G h0 K x9 := by
  intro x9 e hT he
  obtain ⟨v1, v2, v3, h⟩ := x9
  unfold p_X2_owed_b10
  unfold t_X2_owed_b10 at hT
  show aW G M_X2_owed 3 82 h0 K h 10 [none, some (.int v1), some (.int v2), some (.ref v3), none] []
  dsimp only at hT
  refine a_aload_n dX2_owed_10 rfl ?_
  obtain ⟨g10, hT⟩ := oifg hT
  obtain ⟨r11, e12, hT⟩ := obnd hT
  refine a_callF kf_X2_41 g10 (k_J7_hasNext e12) ⟨Nat.le_of_ble_eq_true rfl, Nat.le_of_ble_eq_true rfl⟩ (As := []) (rest := []) rfl rfl (Nat.le_of_ble_eq_true rfl) dX2_owed_11 (kI ?_) xI
  refine a_if_eq 55 dX2_owed_16 rfl (fun c13 => ?_) (fun c13 => ?_)
  · have hT := oifp c13 hT
    refine a_iload_n dX2_owed_55 rfl ?_
    obtain rfl := Option.some.inj hT
    exact a_iret rfl rfl dX2_owed_56 (he _ _ ⟨rfl, rfl⟩)
  · have hT := oifn c13 hT
    refine a_aload_n dX2_owed_19 rfl ?_
    obtain ⟨g16, hT⟩ := oifg hT
    obtain ⟨r17, e18, hT⟩ := obnd hT
    refine a_callF kf_X2_47 g16 (k_J7_next e18) ⟨Nat.le_of_ble_eq_true rfl, Nat.le_of_ble_eq_true rfl⟩ (As := []) (rest := []) rfl rfl (Nat.le_of_ble_eq_true rfl) dX2_owed_20 (kA ?_) xA
    obtain ⟨g19, hT⟩ := oifg hT
    refine a_cast (ci := 4) rfl q488 g19 dX2_owed_25 ?_
    refine a_astore (lv' := [none, some (.int v1), some (.int v2), some (.ref v3), some (.ref r17.1)]) dX2_owed_28 rfl (by decide) rfl ?_
    refine a_iload_n dX2_owed_30 rfl ?_
    refine a_aload dX2_owed_31 rfl ?_
    obtain ⟨z21, e20, hT⟩ := obnd hT
    refine a_gI fl_X2_198_4 e20 dX2_owed_33 ?_
    refine a_iload_n dX2_owed_36 rfl ?_
    refine a_icmp_ne 49 dX2_owed_37 rfl (fun c22 => ?_) (fun c22 => ?_)
    · have hT := oifn c22 hT
      refine a_iconst (v := 0) dX2_owed_49 (by decide) ?_
      refine a_mask [true, true, false, true, false] ?_
      exact k_X2_owed_l50 hT he
    · have hT := oifp c22 hT
      refine a_aload dX2_owed_40 rfl ?_
      refine a_iconst (v := 0) dX2_owed_42 (by decide) ?_
      obtain ⟨g25, hT⟩ := oifg hT
      obtain ⟨r26, e27, hT⟩ := obnd hT
      refine a_callV kv_X2_211 g25 (k_X6_dueWith e27) ⟨Nat.le_of_ble_eq_true rfl, Nat.le_of_ble_eq_true rfl⟩ (As := [.int 0]) (rest := [.int v2]) rfl rfl (Nat.le_of_ble_eq_true rfl) dX2_owed_43 (kI ?_) xI
      refine a_goto 50 dX2_owed_46 rfl ?_
      refine a_mask [true, true, false, true, false] ?_
      exact k_X2_owed_l50 hT he
theorem k_X2_owed_b10 {G : aG} {h0 : aH} {K : aRes → aH → Prop} {n9 : Nat} {x9 : (Int32 × Int32 × Nat × aH)} {e : (Int32 × aH)} (hT : wlo (t_X2_owed_b10 (gZ G)) n9 x9 = some e) (he : (fun e => aTo (aEI e.1 e.2) K) e) : p_X2_owed_b10 G h0 K x9 := wlo_W kb_X2_owed_b10 n9 x9 e hT he
def t_X2_owed (Z : aZ) (h : aH) (o : Nat) (x0 : Int32) : Option (Int32 × aH) :=
  (gA 1 2 h o).bind fun a2 =>
  if isC 8 h a2 = true then
  (t_J2_iterator Z h a2).bind fun r6 =>
  wlo (t_X2_owed_b10 Z) 100 (x0, 0, r6.1, r6.2)
  else none
theorem k_X2_owed {G : aG} {h : aH} {o : Nat} {x0 : Int32} {e : (Int32 × aH)} (hT : t_X2_owed (gZ G) h o x0 = some e) : aMet G yX2_owed (ws_ yX2_owed cX2_owed 5 (Option.some Jvm.ClassFile.FieldType.int)) 3 82 [.ref o, .int x0] h (aEI e.1 e.2) := by
  refine aMet.of (lv := [some (.ref o), some (.int x0), none, none, none]) (by decide) (Nat.le_of_ble_eq_true rfl) 3 rfl ?_
  have he : aTo (aEI e.1 e.2) (aEI e.1 e.2) := aTo.rf
  unfold t_X2_owed at hT
  refine a_iconst (v := 0) dX2_owed_0 (by decide) ?_
  refine a_istore_n (lv' := [some (.ref o), some (.int x0), some (.int 0), none, none]) dX2_owed_1 rfl (by decide) rfl ?_
  refine a_aload_n dX2_owed_2 rfl ?_
  obtain ⟨a2, e1, hT⟩ := obnd hT
  refine a_gA fl_X2_18_1 e1 dX2_owed_3 ?_
  obtain ⟨g5, hT⟩ := oifg hT
  obtain ⟨r6, e7, hT⟩ := obnd hT
  refine a_callV kv_X2_37 g5 (k_J2_iterator e7) ⟨Nat.le_of_ble_eq_true rfl, Nat.le_of_ble_eq_true rfl⟩ (As := []) (rest := []) rfl rfl (Nat.le_of_ble_eq_true rfl) dX2_owed_6 (kA ?_) xA
  refine a_astore_n (lv' := [some (.ref o), some (.int x0), some (.int 0), some (.ref r6.1), none]) dX2_owed_9 rfl (by decide) rfl ?_
  refine a_mask [false, true, true, true, true] ?_
  exact k_X2_owed_b10 hT he
theorem fp_X8_56_6 (nm9 : String) : aFP "MazeBonds$Reader" 56 6 1 .int nm9 := ⟨RX8, TX8, 5, "MazeBonds$Reader", tyX8, rfl, in_X8, by decide, Or.inl rfl, Or.inl q1162, tyX8_ok, nmX8, rfl, Or.inl rfl⟩
theorem kv_X8_59 : aKV "MazeBonds$Reader" 59 6 yX8_behind cX8_behind 3 (Option.some Jvm.ClassFile.FieldType.int) 2 := ⟨⟨TX8, 5, rfl⟩, Or.inl q1304, q1306, qs23, q104, q1307, ⟨by decide +kernel, by decide +kernel, by decide +kernel⟩⟩
theorem fp_X8_63_6 (nm9 : String) : aFP "MazeBonds$Reader" 63 6 2 .int nm9 := ⟨RX8, TX8, 5, "MazeBonds$Reader", tyX8, rfl, in_X8, by decide, Or.inl rfl, Or.inl q1163, tyX8_ok, nmX8, rfl, Or.inl rfl⟩
theorem fp_X8_66_6 (nm9 : String) : aFP "MazeBonds$Reader" 66 6 3 .int nm9 := ⟨RX8, TX8, 5, "MazeBonds$Reader", tyX8, rfl, in_X8, by decide, Or.inl rfl, Or.inl q1164, tyX8_ok, nmX8, rfl, Or.inl rfl⟩
theorem kv_X8_69 : aKV "MazeBonds$Reader" 69 6 yX8_cellOrNone cX8_cellOrNone 1 (Option.some Jvm.ClassFile.FieldType.int) 0 := ⟨⟨TX8, 5, rfl⟩, Or.inl q1308, q1310, qs24, q104, q1311, ⟨by decide +kernel, by decide +kernel, by decide +kernel⟩⟩
theorem kv_X8_73 : aKV "MazeBonds$Reader" 73 6 yX8_direction cX8_direction 2 (Option.some Jvm.ClassFile.FieldType.int) 0 := ⟨⟨TX8, 5, rfl⟩, Or.inl q1312, q1314, qs25, q104, q1315, ⟨by decide +kernel, by decide +kernel, by decide +kernel⟩⟩
abbrev M_X8_command : aM := (yX8_command.cls, cX8_command, 2, (Option.some Jvm.ClassFile.FieldType.char), [], yX8_command.name)
def t_X8_command_l40 (Z : aZ) (h : aH) (v0 : Nat) (u0 : Int32) (u1 : Nat) : Option ((Int32 ⊕ aXX) × aH) :=
  if isC 6 h u1 = true then
  (t_X8_must Z h u1 u0).bind fun r11 =>
  (match r11 with
  | (.inl y13, h14) =>
    (gA 6 4 h14 v0).bind fun a16 =>
    (gA 0 4 h14 a16).bind fun a18 =>
    (gI 6 0 h14 v0).bind fun z20 =>
    (ldC Z h14 a18 z20).bind fun z22 =>
    (gI 6 0 h14 v0).bind fun z24 =>
    (pF 6 0 Z h14 v0 (.int (z24 + 1))).bind fun h26 =>
    if z22 = 98 then
      if isC 6 h26 v0 = true then
      (t_X8_number Z h26 v0 1).bind fun r31 =>
      (match r31 with
      | (.inl y33, h34) =>
        (pF 6 1 Z h34 v0 (.int y33)).bind fun h36 =>
        if isC 6 h36 v0 = true then
        (t_X8_behind Z h36 v0 62 1).bind fun r40 =>
        (match r40 with
        | (.inl y42, h43) =>
          (pF 6 2 Z h43 v0 (.int y42)).bind fun h45 =>
          if isC 6 h45 v0 = true then
          (t_X8_behind Z h45 v0 42 1).bind fun r49 =>
          (match r49 with
          | (.inl y51, h52) =>
            (pF 6 3 Z h52 v0 (.int y51)).bind fun h54 =>
            if 0 ≤ z22 ∧ z22 ≤ 65535 then some (.inl z22, h54) else none
          | (.inr y51, h52) =>
            some (.inr y51, h52)
          )
          else none
        | (.inr y42, h43) =>
          some (.inr y42, h43)
        )
        else none
      | (.inr y33, h34) =>
        some (.inr y33, h34)
      )
      else none
    else
      if z22 = 104 then
        if isC 6 h26 v0 = true then
        (t_X8_number Z h26 v0 2).bind fun r59 =>
        (match r59 with
        | (.inl y61, h62) =>
          (pF 6 1 Z h62 v0 (.int y61)).bind fun h64 =>
          if isC 6 h64 v0 = true then
          (t_X8_behind Z h64 v0 45 2).bind fun r68 =>
          (match r68 with
          | (.inl y70, h71) =>
            (pF 6 2 Z h71 v0 (.int y70)).bind fun h73 =>
            if isC 6 h73 v0 = true then
            (t_X8_behind Z h73 v0 61 1).bind fun r77 =>
            (match r77 with
            | (.inl y79, h80) =>
              (pF 6 3 Z h80 v0 (.int y79)).bind fun h82 =>
              if 0 ≤ z22 ∧ z22 ≤ 65535 then some (.inl z22, h82) else none
            | (.inr y79, h80) =>
              some (.inr y79, h80)
            )
            else none
          | (.inr y70, h71) =>
            some (.inr y70, h71)
          )
          else none
        | (.inr y61, h62) =>
          some (.inr y61, h62)
        )
        else none
      else
        if z22 = 109 then
          if isC 6 h26 v0 = true then
          (t_X8_cellOrNone Z h26 v0).bind fun r87 =>
          (match r87 with
          | (.inl y89, h90) =>
            (pF 6 1 Z h90 v0 (.int y89)).bind fun h92 =>
            if 0 ≤ z22 ∧ z22 ≤ 65535 then some (.inl z22, h92) else none
          | (.inr y89, h90) =>
            some (.inr y89, h90)
          )
          else none
        else
          if z22 = 114 then
            if isC 6 h26 v0 = true then
            (t_X8_number Z h26 v0 1).bind fun r97 =>
            (match r97 with
            | (.inl y99, h100) =>
              (pF 6 1 Z h100 v0 (.int y99)).bind fun h102 =>
              if isC 6 h102 v0 = true then
              (t_X8_behind Z h102 v0 43 1).bind fun r106 =>
              (match r106 with
              | (.inl y108, h109) =>
                (pF 6 2 Z h109 v0 (.int y108)).bind fun h111 =>
                if 0 ≤ z22 ∧ z22 ≤ 65535 then some (.inl z22, h111) else none
              | (.inr y108, h109) =>
                some (.inr y108, h109)
              )
              else none
            | (.inr y99, h100) =>
              some (.inr y99, h100)
            )
            else none
          else
            if z22 = 115 then
              if 0 ≤ z22 ∧ z22 ≤ 65535 then some (.inl z22, h26) else none
            else
              if z22 = 116 then
                if isC 6 h26 v0 = true then
                (t_X8_number Z h26 v0 1).bind fun r117 =>
                (match r117 with
                | (.inl y119, h120) =>
                  (pF 6 1 Z h120 v0 (.int y119)).bind fun h122 =>
                  if isC 6 h122 v0 = true then
                  (t_X8_behind Z h122 v0 58 2).bind fun r126 =>
                  (match r126 with
                  | (.inl y128, h129) =>
                    (pF 6 2 Z h129 v0 (.int y128)).bind fun h131 =>
                    if isC 6 h131 v0 = true then
                    (t_X8_behind Z h131 v0 45 2).bind fun r135 =>
                    (match r135 with
                    | (.inl y137, h138) =>
                      (pF 6 3 Z h138 v0 (.int y137)).bind fun h140 =>
                      if 0 ≤ z22 ∧ z22 ≤ 65535 then some (.inl z22, h140) else none
                    | (.inr y137, h138) =>
                      some (.inr y137, h138)
                    )
                    else none
                  | (.inr y128, h129) =>
                    some (.inr y128, h129)
                  )
                  else none
                | (.inr y119, h120) =>
                  some (.inr y119, h120)
                )
                else none
              else
                if z22 = 119 then
                  if isC 6 h26 v0 = true then
                  (t_X8_number Z h26 v0 1).bind fun r145 =>
                  (match r145 with
                  | (.inl y147, h148) =>
                    (pF 6 1 Z h148 v0 (.int y147)).bind fun h150 =>
                    if isC 6 h150 v0 = true then
                    (t_X8_direction Z h150 v0).bind fun r154 =>
                    (match r154 with
                    | (.inl y156, h157) =>
                      (pF 6 2 Z h157 v0 (.int y156)).bind fun h159 =>
                      if 0 ≤ z22 ∧ z22 ≤ 65535 then some (.inl z22, h159) else none
                    | (.inr y156, h157) =>
                      some (.inr y156, h157)
                    )
                    else none
                  | (.inr y147, h148) =>
                    some (.inr y147, h148)
                  )
                  else none
                else
                  if isC 6 h26 v0 = true then
                  (t_X8_number Z h26 v0 2).bind fun r163 =>
                  (match r163 with
                  | (.inl y165, h166) =>
                    (pF 6 1 Z h166 v0 (.int y165)).bind fun h168 =>
                    if 0 ≤ z22 ∧ z22 ≤ 65535 then some (.inl z22, h168) else none
                  | (.inr y165, h166) =>
                    some (.inr y165, h166)
                  )
                  else none
  | (.inr y13, h14) =>
    some (.inr y13, h14)
  )
  else none
theorem k_X8_command_l40 {G : aG} {h0 : aH} {K : aRes → aH → Prop} {h : aH} {v0 : Nat} {u0 : Int32} {u1 : Nat} {e : ((Int32 ⊕ aXX) × aH)} (hT : t_X8_command_l40 (gZ G) h v0 u0 u1 = some e) (he : (fun e => aTo (aXI e.1 e.2) K) e) : aW G M_X8_command 7 147 h0 K h 40 [some (.ref v0), none] [.int u0, .ref u1] := by
  unfold t_X8_command_l40 at hT
  obtain ⟨g10, hT⟩ := oifg hT
  obtain ⟨⟨y13 | y13, h14⟩, e12, hT⟩ := obnd hT
  · dsimp only at hT
    refine a_callV kv_X8_39 g10 (k_X8_must e12) ⟨Nat.le_of_ble_eq_true rfl, Nat.le_of_ble_eq_true rfl⟩ (As := [.int u0]) (rest := []) rfl rfl (Nat.le_of_ble_eq_true rfl) dX8_command_40 (kXV ?_) yXV
    refine a_aload_n dX8_command_43 rfl ?_
    obtain ⟨a16, e15, hT⟩ := obnd hT
    refine a_gA fl_X8_3_6 e15 dX8_command_44 ?_
    obtain ⟨a18, e17, hT⟩ := obnd hT
    refine a_gA fl_X8_22_0 e17 dX8_command_47 ?_
    refine a_aload_n dX8_command_50 rfl ?_
    obtain ⟨z20, e19, hT⟩ := obnd hT
    refine a_gI fl_X8_15_6 e19 dX8_command_51 ?_
    obtain ⟨z22, e21, hT⟩ := obnd hT
    refine a_ldC e21 dX8_command_54 ?_
    refine a_istore_n (lv' := [some (.ref v0), some (.int z22)]) dX8_command_55 rfl (by decide) rfl ?_
    refine a_aload_n dX8_command_56 rfl ?_
    refine a_dup dX8_command_57 rfl ?_
    obtain ⟨z24, e23, hT⟩ := obnd hT
    refine a_gI fl_X8_15_6 e23 dX8_command_58 ?_
    refine a_iconst (v := 1) dX8_command_61 (by decide) ?_
    refine a_iadd dX8_command_62 ?_
    obtain ⟨h26, e25, hT⟩ := obnd hT
    refine a_put (fp_X8_15_6 _) ⟨rfl, rfl⟩ e25 dX8_command_63 ?_
    refine a_iload_n dX8_command_66 rfl ?_
    by_cases c27 : z22 = 98
    · have hT := oifp c27 hT
      refine a_tswIn 250 dX8_command_67 (by rw [c27]; decide) (by rw [c27]; decide) (off := 183) (by rw [c27]; rfl) rfl ?_
      refine a_aload_n dX8_command_250 rfl ?_
      refine a_aload_n dX8_command_251 rfl ?_
      refine a_iconst (v := 1) dX8_command_252 (by decide) ?_
      obtain ⟨g30, hT⟩ := oifg hT
      obtain ⟨⟨y33 | y33, h34⟩, e32, hT⟩ := obnd hT
      · dsimp only at hT
        refine a_callV kv_X8_43 g30 (k_X8_number e32) ⟨Nat.le_of_ble_eq_true rfl, Nat.le_of_ble_eq_true rfl⟩ (As := [.int 1]) (rest := [.ref v0]) rfl rfl (Nat.le_of_ble_eq_true rfl) dX8_command_253 (kXI ?_) yXI
        obtain ⟨h36, e35, hT⟩ := obnd hT
        refine a_put (fp_X8_56_6 _) ⟨rfl, rfl⟩ e35 dX8_command_256 ?_
        refine a_aload_n dX8_command_259 rfl ?_
        refine a_aload_n dX8_command_260 rfl ?_
        refine a_bipush (v := 62) dX8_command_261 (by decide) ?_
        refine a_iconst (v := 1) dX8_command_263 (by decide) ?_
        obtain ⟨g39, hT⟩ := oifg hT
        obtain ⟨⟨y42 | y42, h43⟩, e41, hT⟩ := obnd hT
        · dsimp only at hT
          refine a_callV kv_X8_59 g39 (k_X8_behind e41) ⟨Nat.le_of_ble_eq_true rfl, Nat.le_of_ble_eq_true rfl⟩ (As := [.int 62, .int 1]) (rest := [.ref v0]) rfl rfl (Nat.le_of_ble_eq_true rfl) dX8_command_264 (kXI ?_) yXI
          obtain ⟨h45, e44, hT⟩ := obnd hT
          refine a_put (fp_X8_63_6 _) ⟨rfl, rfl⟩ e44 dX8_command_267 ?_
          refine a_aload_n dX8_command_270 rfl ?_
          refine a_aload_n dX8_command_271 rfl ?_
          refine a_bipush (v := 42) dX8_command_272 (by decide) ?_
          refine a_iconst (v := 1) dX8_command_274 (by decide) ?_
          obtain ⟨g48, hT⟩ := oifg hT
          obtain ⟨⟨y51 | y51, h52⟩, e50, hT⟩ := obnd hT
          · dsimp only at hT
            refine a_callV kv_X8_59 g48 (k_X8_behind e50) ⟨Nat.le_of_ble_eq_true rfl, Nat.le_of_ble_eq_true rfl⟩ (As := [.int 42, .int 1]) (rest := [.ref v0]) rfl rfl (Nat.le_of_ble_eq_true rfl) dX8_command_275 (kXI ?_) yXI
            obtain ⟨h54, e53, hT⟩ := obnd hT
            refine a_put (fp_X8_66_6 _) ⟨rfl, rfl⟩ e53 dX8_command_278 ?_
            refine a_goto 336 dX8_command_281 rfl ?_
            refine a_iload_n dX8_command_336 rfl ?_
            obtain ⟨g9, hT⟩ := oifg hT
            obtain rfl := Option.some.inj hT
            exact a_iret rfl (nC g9) dX8_command_337 (he _ _ ⟨rfl, rfl⟩)
          · dsimp only at hT
            refine a_callV kv_X8_59 g48 (k_X8_behind e50) ⟨Nat.le_of_ble_eq_true rfl, Nat.le_of_ble_eq_true rfl⟩ (As := [.int 42, .int 1]) (rest := [.ref v0]) rfl rfl (Nat.le_of_ble_eq_true rfl) dX8_command_275 rXI (zXI ?_)
            obtain rfl := Option.some.inj hT
            exact a_out (by decide) (he _ _ ⟨rfl, rfl⟩)
        · dsimp only at hT
          refine a_callV kv_X8_59 g39 (k_X8_behind e41) ⟨Nat.le_of_ble_eq_true rfl, Nat.le_of_ble_eq_true rfl⟩ (As := [.int 62, .int 1]) (rest := [.ref v0]) rfl rfl (Nat.le_of_ble_eq_true rfl) dX8_command_264 rXI (zXI ?_)
          obtain rfl := Option.some.inj hT
          exact a_out (by decide) (he _ _ ⟨rfl, rfl⟩)
      · dsimp only at hT
        refine a_callV kv_X8_43 g30 (k_X8_number e32) ⟨Nat.le_of_ble_eq_true rfl, Nat.le_of_ble_eq_true rfl⟩ (As := [.int 1]) (rest := [.ref v0]) rfl rfl (Nat.le_of_ble_eq_true rfl) dX8_command_253 rXI (zXI ?_)
        obtain rfl := Option.some.inj hT
        exact a_out (by decide) (he _ _ ⟨rfl, rfl⟩)
    · have hT := oifn c27 hT
      by_cases c55 : z22 = 104
      · have hT := oifp c55 hT
        refine a_tswIn 168 dX8_command_67 (by rw [c55]; decide) (by rw [c55]; decide) (off := 101) (by rw [c55]; rfl) rfl ?_
        refine a_aload_n dX8_command_168 rfl ?_
        refine a_aload_n dX8_command_169 rfl ?_
        refine a_iconst (v := 2) dX8_command_170 (by decide) ?_
        obtain ⟨g58, hT⟩ := oifg hT
        obtain ⟨⟨y61 | y61, h62⟩, e60, hT⟩ := obnd hT
        · dsimp only at hT
          refine a_callV kv_X8_43 g58 (k_X8_number e60) ⟨Nat.le_of_ble_eq_true rfl, Nat.le_of_ble_eq_true rfl⟩ (As := [.int 2]) (rest := [.ref v0]) rfl rfl (Nat.le_of_ble_eq_true rfl) dX8_command_171 (kXI ?_) yXI
          obtain ⟨h64, e63, hT⟩ := obnd hT
          refine a_put (fp_X8_56_6 _) ⟨rfl, rfl⟩ e63 dX8_command_174 ?_
          refine a_aload_n dX8_command_177 rfl ?_
          refine a_aload_n dX8_command_178 rfl ?_
          refine a_bipush (v := 45) dX8_command_179 (by decide) ?_
          refine a_iconst (v := 2) dX8_command_181 (by decide) ?_
          obtain ⟨g67, hT⟩ := oifg hT
          obtain ⟨⟨y70 | y70, h71⟩, e69, hT⟩ := obnd hT
          · dsimp only at hT
            refine a_callV kv_X8_59 g67 (k_X8_behind e69) ⟨Nat.le_of_ble_eq_true rfl, Nat.le_of_ble_eq_true rfl⟩ (As := [.int 45, .int 2]) (rest := [.ref v0]) rfl rfl (Nat.le_of_ble_eq_true rfl) dX8_command_182 (kXI ?_) yXI
            obtain ⟨h73, e72, hT⟩ := obnd hT
            refine a_put (fp_X8_63_6 _) ⟨rfl, rfl⟩ e72 dX8_command_185 ?_
            refine a_aload_n dX8_command_188 rfl ?_
            refine a_aload_n dX8_command_189 rfl ?_
            refine a_bipush (v := 61) dX8_command_190 (by decide) ?_
            refine a_iconst (v := 1) dX8_command_192 (by decide) ?_
            obtain ⟨g76, hT⟩ := oifg hT
            obtain ⟨⟨y79 | y79, h80⟩, e78, hT⟩ := obnd hT
            · dsimp only at hT
              refine a_callV kv_X8_59 g76 (k_X8_behind e78) ⟨Nat.le_of_ble_eq_true rfl, Nat.le_of_ble_eq_true rfl⟩ (As := [.int 61, .int 1]) (rest := [.ref v0]) rfl rfl (Nat.le_of_ble_eq_true rfl) dX8_command_193 (kXI ?_) yXI
              obtain ⟨h82, e81, hT⟩ := obnd hT
              refine a_put (fp_X8_66_6 _) ⟨rfl, rfl⟩ e81 dX8_command_196 ?_
              refine a_goto 336 dX8_command_199 rfl ?_
              refine a_iload_n dX8_command_336 rfl ?_
              obtain ⟨g9, hT⟩ := oifg hT
              obtain rfl := Option.some.inj hT
              exact a_iret rfl (nC g9) dX8_command_337 (he _ _ ⟨rfl, rfl⟩)
            · dsimp only at hT
              refine a_callV kv_X8_59 g76 (k_X8_behind e78) ⟨Nat.le_of_ble_eq_true rfl, Nat.le_of_ble_eq_true rfl⟩ (As := [.int 61, .int 1]) (rest := [.ref v0]) rfl rfl (Nat.le_of_ble_eq_true rfl) dX8_command_193 rXI (zXI ?_)
              obtain rfl := Option.some.inj hT
              exact a_out (by decide) (he _ _ ⟨rfl, rfl⟩)
          · dsimp only at hT
            refine a_callV kv_X8_59 g67 (k_X8_behind e69) ⟨Nat.le_of_ble_eq_true rfl, Nat.le_of_ble_eq_true rfl⟩ (As := [.int 45, .int 2]) (rest := [.ref v0]) rfl rfl (Nat.le_of_ble_eq_true rfl) dX8_command_182 rXI (zXI ?_)
            obtain rfl := Option.some.inj hT
            exact a_out (by decide) (he _ _ ⟨rfl, rfl⟩)
        · dsimp only at hT
          refine a_callV kv_X8_43 g58 (k_X8_number e60) ⟨Nat.le_of_ble_eq_true rfl, Nat.le_of_ble_eq_true rfl⟩ (As := [.int 2]) (rest := [.ref v0]) rfl rfl (Nat.le_of_ble_eq_true rfl) dX8_command_171 rXI (zXI ?_)
          obtain rfl := Option.some.inj hT
          exact a_out (by decide) (he _ _ ⟨rfl, rfl⟩)
      · have hT := oifn c55 hT
        by_cases c83 : z22 = 109
        · have hT := oifp c83 hT
          refine a_tswIn 239 dX8_command_67 (by rw [c83]; decide) (by rw [c83]; decide) (off := 172) (by rw [c83]; rfl) rfl ?_
          refine a_aload_n dX8_command_239 rfl ?_
          refine a_aload_n dX8_command_240 rfl ?_
          obtain ⟨g86, hT⟩ := oifg hT
          obtain ⟨⟨y89 | y89, h90⟩, e88, hT⟩ := obnd hT
          · dsimp only at hT
            refine a_callV kv_X8_69 g86 (k_X8_cellOrNone e88) ⟨Nat.le_of_ble_eq_true rfl, Nat.le_of_ble_eq_true rfl⟩ (As := []) (rest := [.ref v0]) rfl rfl (Nat.le_of_ble_eq_true rfl) dX8_command_241 (kXI ?_) yXI
            obtain ⟨h92, e91, hT⟩ := obnd hT
            refine a_put (fp_X8_56_6 _) ⟨rfl, rfl⟩ e91 dX8_command_244 ?_
            refine a_goto 336 dX8_command_247 rfl ?_
            refine a_iload_n dX8_command_336 rfl ?_
            obtain ⟨g9, hT⟩ := oifg hT
            obtain rfl := Option.some.inj hT
            exact a_iret rfl (nC g9) dX8_command_337 (he _ _ ⟨rfl, rfl⟩)
          · dsimp only at hT
            refine a_callV kv_X8_69 g86 (k_X8_cellOrNone e88) ⟨Nat.le_of_ble_eq_true rfl, Nat.le_of_ble_eq_true rfl⟩ (As := []) (rest := [.ref v0]) rfl rfl (Nat.le_of_ble_eq_true rfl) dX8_command_241 rXI (zXI ?_)
            obtain rfl := Option.some.inj hT
            exact a_out (by decide) (he _ _ ⟨rfl, rfl⟩)
        · have hT := oifn c83 hT
          by_cases c93 : z22 = 114
          · have hT := oifp c93 hT
            refine a_tswIn 304 dX8_command_67 (by rw [c93]; decide) (by rw [c93]; decide) (off := 237) (by rw [c93]; rfl) rfl ?_
            refine a_aload_n dX8_command_304 rfl ?_
            refine a_aload_n dX8_command_305 rfl ?_
            refine a_iconst (v := 1) dX8_command_306 (by decide) ?_
            obtain ⟨g96, hT⟩ := oifg hT
            obtain ⟨⟨y99 | y99, h100⟩, e98, hT⟩ := obnd hT
            · dsimp only at hT
              refine a_callV kv_X8_43 g96 (k_X8_number e98) ⟨Nat.le_of_ble_eq_true rfl, Nat.le_of_ble_eq_true rfl⟩ (As := [.int 1]) (rest := [.ref v0]) rfl rfl (Nat.le_of_ble_eq_true rfl) dX8_command_307 (kXI ?_) yXI
              obtain ⟨h102, e101, hT⟩ := obnd hT
              refine a_put (fp_X8_56_6 _) ⟨rfl, rfl⟩ e101 dX8_command_310 ?_
              refine a_aload_n dX8_command_313 rfl ?_
              refine a_aload_n dX8_command_314 rfl ?_
              refine a_bipush (v := 43) dX8_command_315 (by decide) ?_
              refine a_iconst (v := 1) dX8_command_317 (by decide) ?_
              obtain ⟨g105, hT⟩ := oifg hT
              obtain ⟨⟨y108 | y108, h109⟩, e107, hT⟩ := obnd hT
              · dsimp only at hT
                refine a_callV kv_X8_59 g105 (k_X8_behind e107) ⟨Nat.le_of_ble_eq_true rfl, Nat.le_of_ble_eq_true rfl⟩ (As := [.int 43, .int 1]) (rest := [.ref v0]) rfl rfl (Nat.le_of_ble_eq_true rfl) dX8_command_318 (kXI ?_) yXI
                obtain ⟨h111, e110, hT⟩ := obnd hT
                refine a_put (fp_X8_63_6 _) ⟨rfl, rfl⟩ e110 dX8_command_321 ?_
                refine a_goto 336 dX8_command_324 rfl ?_
                refine a_iload_n dX8_command_336 rfl ?_
                obtain ⟨g9, hT⟩ := oifg hT
                obtain rfl := Option.some.inj hT
                exact a_iret rfl (nC g9) dX8_command_337 (he _ _ ⟨rfl, rfl⟩)
              · dsimp only at hT
                refine a_callV kv_X8_59 g105 (k_X8_behind e107) ⟨Nat.le_of_ble_eq_true rfl, Nat.le_of_ble_eq_true rfl⟩ (As := [.int 43, .int 1]) (rest := [.ref v0]) rfl rfl (Nat.le_of_ble_eq_true rfl) dX8_command_318 rXI (zXI ?_)
                obtain rfl := Option.some.inj hT
                exact a_out (by decide) (he _ _ ⟨rfl, rfl⟩)
            · dsimp only at hT
              refine a_callV kv_X8_43 g96 (k_X8_number e98) ⟨Nat.le_of_ble_eq_true rfl, Nat.le_of_ble_eq_true rfl⟩ (As := [.int 1]) (rest := [.ref v0]) rfl rfl (Nat.le_of_ble_eq_true rfl) dX8_command_307 rXI (zXI ?_)
              obtain rfl := Option.some.inj hT
              exact a_out (by decide) (he _ _ ⟨rfl, rfl⟩)
          · have hT := oifn c93 hT
            by_cases c112 : z22 = 115
            · have hT := oifp c112 hT
              refine a_tswIn 202 dX8_command_67 (by rw [c112]; decide) (by rw [c112]; decide) (off := 135) (by rw [c112]; rfl) rfl ?_
              refine a_goto 336 dX8_command_202 rfl ?_
              refine a_iload_n dX8_command_336 rfl ?_
              obtain ⟨g9, hT⟩ := oifg hT
              obtain rfl := Option.some.inj hT
              exact a_iret rfl (nC g9) dX8_command_337 (he _ _ ⟨rfl, rfl⟩)
            · have hT := oifn c112 hT
              by_cases c113 : z22 = 116
              · have hT := oifp c113 hT
                refine a_tswIn 205 dX8_command_67 (by rw [c113]; decide) (by rw [c113]; decide) (off := 138) (by rw [c113]; rfl) rfl ?_
                refine a_aload_n dX8_command_205 rfl ?_
                refine a_aload_n dX8_command_206 rfl ?_
                refine a_iconst (v := 1) dX8_command_207 (by decide) ?_
                obtain ⟨g116, hT⟩ := oifg hT
                obtain ⟨⟨y119 | y119, h120⟩, e118, hT⟩ := obnd hT
                · dsimp only at hT
                  refine a_callV kv_X8_43 g116 (k_X8_number e118) ⟨Nat.le_of_ble_eq_true rfl, Nat.le_of_ble_eq_true rfl⟩ (As := [.int 1]) (rest := [.ref v0]) rfl rfl (Nat.le_of_ble_eq_true rfl) dX8_command_208 (kXI ?_) yXI
                  obtain ⟨h122, e121, hT⟩ := obnd hT
                  refine a_put (fp_X8_56_6 _) ⟨rfl, rfl⟩ e121 dX8_command_211 ?_
                  refine a_aload_n dX8_command_214 rfl ?_
                  refine a_aload_n dX8_command_215 rfl ?_
                  refine a_bipush (v := 58) dX8_command_216 (by decide) ?_
                  refine a_iconst (v := 2) dX8_command_218 (by decide) ?_
                  obtain ⟨g125, hT⟩ := oifg hT
                  obtain ⟨⟨y128 | y128, h129⟩, e127, hT⟩ := obnd hT
                  · dsimp only at hT
                    refine a_callV kv_X8_59 g125 (k_X8_behind e127) ⟨Nat.le_of_ble_eq_true rfl, Nat.le_of_ble_eq_true rfl⟩ (As := [.int 58, .int 2]) (rest := [.ref v0]) rfl rfl (Nat.le_of_ble_eq_true rfl) dX8_command_219 (kXI ?_) yXI
                    obtain ⟨h131, e130, hT⟩ := obnd hT
                    refine a_put (fp_X8_63_6 _) ⟨rfl, rfl⟩ e130 dX8_command_222 ?_
                    refine a_aload_n dX8_command_225 rfl ?_
                    refine a_aload_n dX8_command_226 rfl ?_
                    refine a_bipush (v := 45) dX8_command_227 (by decide) ?_
                    refine a_iconst (v := 2) dX8_command_229 (by decide) ?_
                    obtain ⟨g134, hT⟩ := oifg hT
                    obtain ⟨⟨y137 | y137, h138⟩, e136, hT⟩ := obnd hT
                    · dsimp only at hT
                      refine a_callV kv_X8_59 g134 (k_X8_behind e136) ⟨Nat.le_of_ble_eq_true rfl, Nat.le_of_ble_eq_true rfl⟩ (As := [.int 45, .int 2]) (rest := [.ref v0]) rfl rfl (Nat.le_of_ble_eq_true rfl) dX8_command_230 (kXI ?_) yXI
                      obtain ⟨h140, e139, hT⟩ := obnd hT
                      refine a_put (fp_X8_66_6 _) ⟨rfl, rfl⟩ e139 dX8_command_233 ?_
                      refine a_goto 336 dX8_command_236 rfl ?_
                      refine a_iload_n dX8_command_336 rfl ?_
                      obtain ⟨g9, hT⟩ := oifg hT
                      obtain rfl := Option.some.inj hT
                      exact a_iret rfl (nC g9) dX8_command_337 (he _ _ ⟨rfl, rfl⟩)
                    · dsimp only at hT
                      refine a_callV kv_X8_59 g134 (k_X8_behind e136) ⟨Nat.le_of_ble_eq_true rfl, Nat.le_of_ble_eq_true rfl⟩ (As := [.int 45, .int 2]) (rest := [.ref v0]) rfl rfl (Nat.le_of_ble_eq_true rfl) dX8_command_230 rXI (zXI ?_)
                      obtain rfl := Option.some.inj hT
                      exact a_out (by decide) (he _ _ ⟨rfl, rfl⟩)
                  · dsimp only at hT
                    refine a_callV kv_X8_59 g125 (k_X8_behind e127) ⟨Nat.le_of_ble_eq_true rfl, Nat.le_of_ble_eq_true rfl⟩ (As := [.int 58, .int 2]) (rest := [.ref v0]) rfl rfl (Nat.le_of_ble_eq_true rfl) dX8_command_219 rXI (zXI ?_)
                    obtain rfl := Option.some.inj hT
                    exact a_out (by decide) (he _ _ ⟨rfl, rfl⟩)
                · dsimp only at hT
                  refine a_callV kv_X8_43 g116 (k_X8_number e118) ⟨Nat.le_of_ble_eq_true rfl, Nat.le_of_ble_eq_true rfl⟩ (As := [.int 1]) (rest := [.ref v0]) rfl rfl (Nat.le_of_ble_eq_true rfl) dX8_command_208 rXI (zXI ?_)
                  obtain rfl := Option.some.inj hT
                  exact a_out (by decide) (he _ _ ⟨rfl, rfl⟩)
              · have hT := oifn c113 hT
                by_cases c141 : z22 = 119
                · have hT := oifp c141 hT
                  refine a_tswIn 284 dX8_command_67 (by rw [c141]; decide) (by rw [c141]; decide) (off := 217) (by rw [c141]; rfl) rfl ?_
                  refine a_aload_n dX8_command_284 rfl ?_
                  refine a_aload_n dX8_command_285 rfl ?_
                  refine a_iconst (v := 1) dX8_command_286 (by decide) ?_
                  obtain ⟨g144, hT⟩ := oifg hT
                  obtain ⟨⟨y147 | y147, h148⟩, e146, hT⟩ := obnd hT
                  · dsimp only at hT
                    refine a_callV kv_X8_43 g144 (k_X8_number e146) ⟨Nat.le_of_ble_eq_true rfl, Nat.le_of_ble_eq_true rfl⟩ (As := [.int 1]) (rest := [.ref v0]) rfl rfl (Nat.le_of_ble_eq_true rfl) dX8_command_287 (kXI ?_) yXI
                    obtain ⟨h150, e149, hT⟩ := obnd hT
                    refine a_put (fp_X8_56_6 _) ⟨rfl, rfl⟩ e149 dX8_command_290 ?_
                    refine a_aload_n dX8_command_293 rfl ?_
                    refine a_aload_n dX8_command_294 rfl ?_
                    obtain ⟨g153, hT⟩ := oifg hT
                    obtain ⟨⟨y156 | y156, h157⟩, e155, hT⟩ := obnd hT
                    · dsimp only at hT
                      refine a_callV kv_X8_73 g153 (k_X8_direction e155) ⟨Nat.le_of_ble_eq_true rfl, Nat.le_of_ble_eq_true rfl⟩ (As := []) (rest := [.ref v0]) rfl rfl (Nat.le_of_ble_eq_true rfl) dX8_command_295 (kXI ?_) yXI
                      obtain ⟨h159, e158, hT⟩ := obnd hT
                      refine a_put (fp_X8_63_6 _) ⟨rfl, rfl⟩ e158 dX8_command_298 ?_
                      refine a_goto 336 dX8_command_301 rfl ?_
                      refine a_iload_n dX8_command_336 rfl ?_
                      obtain ⟨g9, hT⟩ := oifg hT
                      obtain rfl := Option.some.inj hT
                      exact a_iret rfl (nC g9) dX8_command_337 (he _ _ ⟨rfl, rfl⟩)
                    · dsimp only at hT
                      refine a_callV kv_X8_73 g153 (k_X8_direction e155) ⟨Nat.le_of_ble_eq_true rfl, Nat.le_of_ble_eq_true rfl⟩ (As := []) (rest := [.ref v0]) rfl rfl (Nat.le_of_ble_eq_true rfl) dX8_command_295 rXI (zXI ?_)
                      obtain rfl := Option.some.inj hT
                      exact a_out (by decide) (he _ _ ⟨rfl, rfl⟩)
                  · dsimp only at hT
                    refine a_callV kv_X8_43 g144 (k_X8_number e146) ⟨Nat.le_of_ble_eq_true rfl, Nat.le_of_ble_eq_true rfl⟩ (As := [.int 1]) (rest := [.ref v0]) rfl rfl (Nat.le_of_ble_eq_true rfl) dX8_command_287 rXI (zXI ?_)
                    obtain rfl := Option.some.inj hT
                    exact a_out (by decide) (he _ _ ⟨rfl, rfl⟩)
                · have hT := oifn c141 hT
                  refine aTsw 327 dX8_command_67 rfl (cs := [98, 104, 109, 114, 115, 116, 119]) (by decide +kernel) (by simp only [List.mem_cons, List.not_mem_nil, or_false]; rintro z9 (rfl | rfl | rfl | rfl | rfl | rfl | rfl) <;> assumption) ?_
                  refine a_aload_n dX8_command_327 rfl ?_
                  refine a_aload_n dX8_command_328 rfl ?_
                  refine a_iconst (v := 2) dX8_command_329 (by decide) ?_
                  obtain ⟨g162, hT⟩ := oifg hT
                  obtain ⟨⟨y165 | y165, h166⟩, e164, hT⟩ := obnd hT
                  · dsimp only at hT
                    refine a_callV kv_X8_43 g162 (k_X8_number e164) ⟨Nat.le_of_ble_eq_true rfl, Nat.le_of_ble_eq_true rfl⟩ (As := [.int 2]) (rest := [.ref v0]) rfl rfl (Nat.le_of_ble_eq_true rfl) dX8_command_330 (kXI ?_) yXI
                    obtain ⟨h168, e167, hT⟩ := obnd hT
                    refine a_put (fp_X8_56_6 _) ⟨rfl, rfl⟩ e167 dX8_command_333 ?_
                    refine a_iload_n dX8_command_336 rfl ?_
                    obtain ⟨g9, hT⟩ := oifg hT
                    obtain rfl := Option.some.inj hT
                    exact a_iret rfl (nC g9) dX8_command_337 (he _ _ ⟨rfl, rfl⟩)
                  · dsimp only at hT
                    refine a_callV kv_X8_43 g162 (k_X8_number e164) ⟨Nat.le_of_ble_eq_true rfl, Nat.le_of_ble_eq_true rfl⟩ (As := [.int 2]) (rest := [.ref v0]) rfl rfl (Nat.le_of_ble_eq_true rfl) dX8_command_330 rXI (zXI ?_)
                    obtain rfl := Option.some.inj hT
                    exact a_out (by decide) (he _ _ ⟨rfl, rfl⟩)
  · dsimp only at hT
    refine a_callV kv_X8_39 g10 (k_X8_must e12) ⟨Nat.le_of_ble_eq_true rfl, Nat.le_of_ble_eq_true rfl⟩ (As := [.int u0]) (rest := []) rfl rfl (Nat.le_of_ble_eq_true rfl) dX8_command_40 rXV (zXV ?_)
    obtain rfl := Option.some.inj hT
    exact a_out (by decide) (he _ _ ⟨rfl, rfl⟩)
def t_X8_command_l39 (Z : aZ) (h : aH) (v0 : Nat) (u0 : Nat) : Option ((Int32 ⊕ aXX) × aH) :=
  t_X8_command_l40 Z h v0 0 u0
theorem k_X8_command_l39 {G : aG} {h0 : aH} {K : aRes → aH → Prop} {h : aH} {v0 : Nat} {u0 : Nat} {e : ((Int32 ⊕ aXX) × aH)} (hT : t_X8_command_l39 (gZ G) h v0 u0 = some e) (he : (fun e => aTo (aXI e.1 e.2) K) e) : aW G M_X8_command 7 147 h0 K h 39 [some (.ref v0), none] [.ref u0] := by
  unfold t_X8_command_l39 at hT
  refine a_iconst (v := 0) dX8_command_39 (by decide) ?_
  exact k_X8_command_l40 hT he
def t_X8_command (Z : aZ) (h : aH) (o : Nat) : Option ((Int32 ⊕ aXX) × aH) :=
  (gI 6 0 h o).bind fun z2 =>
  (gA 6 4 h o).bind fun a4 =>
  (gI 0 5 h a4).bind fun z6 =>
  if z6 ≤ z2 then
    t_X8_command_l39 Z h o o
  else
    (gA 6 4 h o).bind fun a171 =>
    (gA 0 4 h a171).bind fun a173 =>
    (gI 6 0 h o).bind fun z175 =>
    (ldC Z h a173 z175).bind fun z177 =>
    (oldV Z (znm Z 6)).bind fun b181 =>
    (t_J5_indexOf Z h (znm Z 6) z177).bind fun r182 =>
    if r182.1 < 0 then
      t_X8_command_l39 Z r182.2 o o
    else
      t_X8_command_l40 Z r182.2 o 1 o
theorem k_X8_command {G : aG} {h : aH} {o : Nat} {e : ((Int32 ⊕ aXX) × aH)} (hT : t_X8_command (gZ G) h o = some e) : aMet G yX8_command (ws_ yX8_command cX8_command 2 (Option.some Jvm.ClassFile.FieldType.char)) 7 147 [.ref o] h (aXI e.1 e.2) := by
  refine aMet.of (lv := [some (.ref o), none]) (by decide) (Nat.le_of_ble_eq_true rfl) 1 rfl ?_
  have he : aTo (aXI e.1 e.2) (aXI e.1 e.2) := aTo.rf
  unfold t_X8_command at hT
  refine a_aload_n dX8_command_0 rfl ?_
  refine a_aload_n dX8_command_1 rfl ?_
  obtain ⟨z2, e1, hT⟩ := obnd hT
  refine a_gI fl_X8_15_6 e1 dX8_command_2 ?_
  refine a_aload_n dX8_command_5 rfl ?_
  obtain ⟨a4, e3, hT⟩ := obnd hT
  refine a_gA fl_X8_3_6 e3 dX8_command_6 ?_
  obtain ⟨z6, e5, hT⟩ := obnd hT
  refine a_gI fl_X8_19_0 e5 dX8_command_9 ?_
  refine a_icmp_ge 39 dX8_command_12 rfl (fun c7 => ?_) (fun c7 => ?_)
  · have hT := oifp c7 hT
    exact k_X8_command_l39 hT he
  · have hT := oifn c7 hT
    refine a_ldcS (k := 3) rfl dX8_command_15 ?_
    refine a_aload_n dX8_command_17 rfl ?_
    obtain ⟨a171, e170, hT⟩ := obnd hT
    refine a_gA fl_X8_3_6 e170 dX8_command_18 ?_
    obtain ⟨a173, e172, hT⟩ := obnd hT
    refine a_gA fl_X8_22_0 e172 dX8_command_21 ?_
    refine a_aload_n dX8_command_24 rfl ?_
    obtain ⟨z175, e174, hT⟩ := obnd hT
    refine a_gI fl_X8_15_6 e174 dX8_command_25 ?_
    obtain ⟨z177, e176, hT⟩ := obnd hT
    refine a_ldC e176 dX8_command_28 ?_
    obtain ⟨b181, g180, hT⟩ := obnd hT
    obtain ⟨r182, e183, hT⟩ := obnd hT
    refine a_callVO kv_X8_49 g180 (k_J5_indexOf e183) ⟨Nat.le_of_ble_eq_true rfl, Nat.le_of_ble_eq_true rfl⟩ (As := [.int z177]) (rest := [.ref o]) rfl rfl (Nat.le_of_ble_eq_true rfl) dX8_command_29 (kI ?_) xI
    refine a_if_lt 39 dX8_command_32 rfl (fun c184 => ?_) (fun c184 => ?_)
    · have hT := oifp c184 hT
      exact k_X8_command_l39 hT he
    · have hT := oifn c184 hT
      refine a_iconst (v := 1) dX8_command_35 (by decide) ?_
      refine a_goto 40 dX8_command_36 rfl ?_
      exact k_X8_command_l40 hT he
theorem kv_X8_107 : aKV "MazeBonds$Reader" 107 6 yX8_command cX8_command 2 (Option.some Jvm.ClassFile.FieldType.char) 0 := ⟨⟨TX8, 5, rfl⟩, Or.inl q1186, q1188, qs19, q104, q1189, ⟨by decide +kernel, by decide +kernel, by decide +kernel⟩⟩
abbrev M_X8_step_n : aM := (yX8_step.cls, cX8_step, 5, (Option.none : Option Jvm.ClassFile.FieldType), [((10 : Nat), (16 : Nat), (19 : Nat), (115 : Nat))], yX8_step.name)
def t_X8_step_n (Z : aZ) (h : aH) (o : Nat) (x1 : Int32) : Option ((Unit ⊕ aXX) × aH) :=
  if isC 6 h o = true then
  (t_X8_command Z h o).bind fun r4 =>
  (match r4 with
  | (.inl y6, h7) =>
    some (.inl (), h7)
  | (.inr y6, h7) =>
    some (.inr y6, h7)
  )
  else none
theorem k_X8_step_n {G : aG} {h : aH} {o : Nat} {x1 : Int32} {e : ((Unit ⊕ aXX) × aH)} (hT : t_X8_step_n (gZ G) h o x1 = some e) : aMet G yX8_step (wsW_ yX8_step cX8_step 5 (Option.none : Option Jvm.ClassFile.FieldType) [((10 : Nat), (16 : Nat), (19 : Nat), (115 : Nat))]) 8 168 [.ref o, .null, .int x1] h (aXV e.1 e.2) := by
  refine aMet.ofH (lv := [some (.ref o), some (.null), some (.int x1), none, none]) (by decide) (Nat.le_of_ble_eq_true rfl) 2 rfl ?_
  have he : aTo (aXV e.1 e.2) (aXV e.1 e.2) := aTo.rf
  unfold t_X8_step_n at hT
  refine a_aload_n dX8_step_0 rfl ?_
  obtain ⟨g3, hT⟩ := oifg hT
  obtain ⟨⟨y6 | y6, h7⟩, e5, hT⟩ := obnd hT
  · dsimp only at hT
    refine a_callV kv_X8_107 g3 (k_X8_command e5) ⟨Nat.le_of_ble_eq_true rfl, Nat.le_of_ble_eq_true rfl⟩ (As := []) (rest := []) rfl rfl (Nat.le_of_ble_eq_true rfl) dX8_step_1 (kXI ?_) yXI
    refine a_istore_n (lv' := [some (.ref o), some (.null), some (.int x1), some (.int y6), none]) dX8_step_4 rfl (by decide) rfl ?_
    refine a_aload_nN dX8_step_5 rfl ?_
    refine a_ifnonnullN dX8_step_6 ?_
    obtain rfl := Option.some.inj hT
    exact a_vret rfl dX8_step_9 (he _ _ ⟨rfl, rfl⟩)
  · dsimp only at hT
    refine a_callV kv_X8_107 g3 (k_X8_command e5) ⟨Nat.le_of_ble_eq_true rfl, Nat.le_of_ble_eq_true rfl⟩ (As := []) (rest := []) rfl rfl (Nat.le_of_ble_eq_true rfl) dX8_step_1 rXI (zXI ?_)
    obtain rfl := Option.some.inj hT
    exact a_out (by decide) (he _ _ ⟨rfl, rfl⟩)
theorem kv_X8_126 : aKVW "MazeBonds$Reader" 126 6 yX8_step cX8_step 5 (Option.none : Option Jvm.ClassFile.FieldType) [((10 : Nat), (16 : Nat), (19 : Nat), (115 : Nat))] 2 := ⟨⟨TX8, 5, rfl⟩, q1181, q1183, qs18, q104, q1184, ⟨by decide +kernel, by decide +kernel, by decide +kernel⟩⟩
abbrev M_X8_commands_n : aM := (yX8_commands.cls, cX8_commands, 4, (Option.some Jvm.ClassFile.FieldType.int), [], yX8_commands.name)
def p_X8_commands_n_b4 (G : aG) (h0 : aH) (K : aRes → aH → Prop) (x9 : (Nat × Int32 × Int32 × aH)) : Prop := aW G M_X8_commands_n 9 192 h0 K x9.2.2.2 4 [some (.ref x9.1), some (.null), some (.int x9.2.1), some (.int x9.2.2.1)] []
def t_X8_commands_n_l67 (Z : aZ) (h : aH) (v2 : Int32) (u0 : Int32) (u1 : Nat) : Option ((Int32 ⊕ aXX) × aH) :=
  if isC 6 h u1 = true then
  (t_X8_must Z h u1 u0).bind fun r12 =>
  (match r12 with
  | (.inl y14, h15) =>
    some (.inl v2, h15)
  | (.inr y14, h15) =>
    some (.inr y14, h15)
  )
  else none
theorem k_X8_commands_n_l67 {G : aG} {h0 : aH} {K : aRes → aH → Prop} {h : aH} {v2 : Int32} {u0 : Int32} {u1 : Nat} {e : ((Int32 ⊕ aXX) × aH)} (hT : t_X8_commands_n_l67 (gZ G) h v2 u0 u1 = some e) (he : (fun e => aTo (aXI e.1 e.2) K) e) : aW G M_X8_commands_n 9 192 h0 K h 67 [none, none, some (.int v2), none] [.int u0, .ref u1] := by
  unfold t_X8_commands_n_l67 at hT
  obtain ⟨g11, hT⟩ := oifg hT
  obtain ⟨⟨y14 | y14, h15⟩, e13, hT⟩ := obnd hT
  · dsimp only at hT
    refine a_callV kv_X8_39 g11 (k_X8_must e13) ⟨Nat.le_of_ble_eq_true rfl, Nat.le_of_ble_eq_true rfl⟩ (As := [.int u0]) (rest := []) rfl rfl (Nat.le_of_ble_eq_true rfl) dX8_commands_67 (kXV ?_) yXV
    refine a_iload_n dX8_commands_70 rfl ?_
    obtain rfl := Option.some.inj hT
    exact a_iret rfl rfl dX8_commands_71 (he _ _ ⟨rfl, rfl⟩)
  · dsimp only at hT
    refine a_callV kv_X8_39 g11 (k_X8_must e13) ⟨Nat.le_of_ble_eq_true rfl, Nat.le_of_ble_eq_true rfl⟩ (As := [.int u0]) (rest := []) rfl rfl (Nat.le_of_ble_eq_true rfl) dX8_commands_67 rXV (zXV ?_)
    obtain rfl := Option.some.inj hT
    exact a_out (by decide) (he _ _ ⟨rfl, rfl⟩)
def t_X8_commands_n_l47 (Z : aZ) (h : aH) (v0 : Nat) (v2 : Int32) : Option ((Int32 ⊕ aXX) × aH) :=
  (gI 6 0 h v0).bind fun z3 =>
  (gA 6 4 h v0).bind fun a5 =>
  (gI 0 5 h a5).bind fun z7 =>
  if z3 = z7 then
    t_X8_commands_n_l67 Z h v2 1 v0
  else
    t_X8_commands_n_l67 Z h v2 0 v0
theorem k_X8_commands_n_l47 {G : aG} {h0 : aH} {K : aRes → aH → Prop} {h : aH} {v0 : Nat} {v2 : Int32} {e : ((Int32 ⊕ aXX) × aH)} (hT : t_X8_commands_n_l47 (gZ G) h v0 v2 = some e) (he : (fun e => aTo (aXI e.1 e.2) K) e) : aW G M_X8_commands_n 9 192 h0 K h 47 [some (.ref v0), none, some (.int v2), none] [] := by
  unfold t_X8_commands_n_l47 at hT
  refine a_aload_n dX8_commands_47 rfl ?_
  refine a_aload_n dX8_commands_48 rfl ?_
  obtain ⟨z3, e2, hT⟩ := obnd hT
  refine a_gI fl_X8_15_6 e2 dX8_commands_49 ?_
  refine a_aload_n dX8_commands_52 rfl ?_
  obtain ⟨a5, e4, hT⟩ := obnd hT
  refine a_gA fl_X8_3_6 e4 dX8_commands_53 ?_
  obtain ⟨z7, e6, hT⟩ := obnd hT
  refine a_gI fl_X8_19_0 e6 dX8_commands_56 ?_
  refine a_icmp_ne 66 dX8_commands_59 rfl (fun c8 => ?_) (fun c8 => ?_)
  · have hT := oifn c8 hT
    refine a_iconst (v := 0) dX8_commands_66 (by decide) ?_
    refine a_mask [false, true, true, true] ?_
    exact k_X8_commands_n_l67 hT he
  · have hT := oifp c8 hT
    refine a_iconst (v := 1) dX8_commands_62 (by decide) ?_
    refine a_goto 67 dX8_commands_63 rfl ?_
    refine a_mask [false, true, true, true] ?_
    exact k_X8_commands_n_l67 hT he
def t_X8_commands_n_l40 (Z : aZ) (h : aH) (v0 : Nat) (v2 : Int32) (v3 : Int32) (u0 : Int32) (u1 : Int32) (u2 : Nat) : Option ((Nat × Int32 × Int32 × aH) ⊕ ((Int32 ⊕ aXX) × aH)) :=
  (pF 6 0 Z h u2 (.int (u1 + u0))).bind fun h32 =>
  some (.inl (v0, v2, v3, h32))
theorem k_X8_commands_n_l40 {G : aG} {h0 : aH} {K : aRes → aH → Prop} {h : aH} {v0 : Nat} {v2 : Int32} {v3 : Int32} {u0 : Int32} {u1 : Int32} {u2 : Nat} {e : ((Nat × Int32 × Int32 × aH) ⊕ ((Int32 ⊕ aXX) × aH))} (hT : t_X8_commands_n_l40 (gZ G) h v0 v2 v3 u0 u1 u2 = some e) (he : (Sum.elim (p_X8_commands_n_b4 G h0 K) (fun e => aTo (aXI e.1 e.2) K)) e) : aW G M_X8_commands_n 9 192 h0 K h 40 [some (.ref v0), some (.null), some (.int v2), some (.int v3)] [.int u0, .int u1, .ref u2] := by
  unfold t_X8_commands_n_l40 at hT
  refine a_iadd dX8_commands_40 ?_
  obtain ⟨h32, e31, hT⟩ := obnd hT
  refine a_put (fp_X8_15_6 _) ⟨rfl, rfl⟩ e31 dX8_commands_41 ?_
  refine a_goto 4 dX8_commands_44 rfl ?_
  obtain rfl := Option.some.inj hT
  exact he
def t_X8_commands_n_b4 (Z : aZ) : (Nat × Int32 × Int32 × aH) → Option ((Nat × Int32 × Int32 × aH) ⊕ ((Int32 ⊕ aXX) × aH)) := fun (v0, v2, v3, h) =>
  if v3 = 0 then
    (t_X8_commands_n_l47 Z h v0 v2).map .inr
  else
    if isC 6 h v0 = true then
    (t_X8_step_n Z h v0 v2).bind fun r19 =>
    (match r19 with
    | (.inl y21, h22) =>
      if isC 6 h22 v0 = true then
      (t_X8_sees Z h22 v0 59 59).bind fun r26 =>
      (gI 6 0 r26.2 v0).bind fun z29 =>
      if r26.1 = 0 then
        t_X8_commands_n_l40 Z r26.2 v0 (v2 + 1) r26.1 0 z29 v0
      else
        t_X8_commands_n_l40 Z r26.2 v0 (v2 + 1) r26.1 1 z29 v0
      else none
    | (.inr y21, h22) =>
      some (.inr ((.inr y21, h22)))
    )
    else none
theorem kb_X8_commands_n_b4 {G : aG} {h0 : aH} {K : aRes → aH → Prop} : ∀ (x9 : (Nat × Int32 × Int32 × aH)) (e : ((Nat × Int32 × Int32 × aH) ⊕ ((Int32 ⊕ aXX) × aH))), t_X8_commands_n_b4 (gZ G) x9 = some e → (Sum.elim (p_X8_commands_n_b4 G h0 K) (fun e => aTo (aXI e.1 e.2) K)) e → p_X8_commands_n_b4 G h0 K x9 := by
  intro x9 e hT he
  obtain ⟨v0, v2, v3, h⟩ := x9
  unfold p_X8_commands_n_b4
  unfold t_X8_commands_n_b4 at hT
  show aW G M_X8_commands_n 9 192 h0 K h 4 [some (.ref v0), some (.null), some (.int v2), some (.int v3)] []
  dsimp only at hT
  refine a_iload_n dX8_commands_4 rfl ?_
  refine a_if_eq 47 dX8_commands_5 rfl (fun c1 => ?_) (fun c1 => ?_)
  · have hT := oifp c1 hT
    refine a_mask [true, false, true, false] ?_
    obtain ⟨e8, hT8, rfl⟩ := omap hT
    exact k_X8_commands_n_l47 hT8 he
  · have hT := oifn c1 hT
    refine a_aload_n dX8_commands_8 rfl ?_
    refine a_aload_nN dX8_commands_9 rfl ?_
    refine a_iload_n dX8_commands_10 rfl ?_
    obtain ⟨g18, hT⟩ := oifg hT
    obtain ⟨⟨y21 | y21, h22⟩, e20, hT⟩ := obnd hT
    · dsimp only at hT
      refine a_callVW kv_X8_126 g18 (k_X8_step_n e20) ⟨Nat.le_of_ble_eq_true rfl, Nat.le_of_ble_eq_true rfl⟩ (As := [.null, .int v2]) (rest := []) rfl rfl (Nat.le_of_ble_eq_true rfl) dX8_commands_11 (kXV ?_) yXV
      refine a_iinc (v := (v2 + 1)) (lv' := [some (.ref v0), some (.null), some (.int (v2 + 1)), some (.int v3)]) dX8_commands_14 rfl (by rfl) rfl (by decide) rfl ?_
      refine a_aload_n dX8_commands_17 rfl ?_
      refine a_bipush (v := 59) dX8_commands_18 (by decide) ?_
      refine a_bipush (v := 59) dX8_commands_20 (by decide) ?_
      obtain ⟨g25, hT⟩ := oifg hT
      obtain ⟨r26, e27, hT⟩ := obnd hT
      refine a_callV kv_X8_35 g25 (k_X8_sees e27) ⟨Nat.le_of_ble_eq_true rfl, Nat.le_of_ble_eq_true rfl⟩ (As := [.int 59, .int 59]) (rest := []) rfl rfl (Nat.le_of_ble_eq_true rfl) dX8_commands_22 (kI ?_) xI
      refine a_istore_n (lv' := [some (.ref v0), some (.null), some (.int (v2 + 1)), some (.int r26.1)]) dX8_commands_25 rfl (by decide) rfl ?_
      refine a_aload_n dX8_commands_26 rfl ?_
      refine a_dup dX8_commands_27 rfl ?_
      obtain ⟨z29, e28, hT⟩ := obnd hT
      refine a_gI fl_X8_15_6 e28 dX8_commands_28 ?_
      refine a_iload_n dX8_commands_31 rfl ?_
      refine a_if_eq 39 dX8_commands_32 rfl (fun c30 => ?_) (fun c30 => ?_)
      · have hT := oifp c30 hT
        refine a_iconst (v := 0) dX8_commands_39 (by decide) ?_
        exact k_X8_commands_n_l40 hT he
      · have hT := oifn c30 hT
        refine a_iconst (v := 1) dX8_commands_35 (by decide) ?_
        refine a_goto 40 dX8_commands_36 rfl ?_
        exact k_X8_commands_n_l40 hT he
    · dsimp only at hT
      refine a_callVW kv_X8_126 g18 (k_X8_step_n e20) ⟨Nat.le_of_ble_eq_true rfl, Nat.le_of_ble_eq_true rfl⟩ (As := [.null, .int v2]) (rest := []) rfl rfl (Nat.le_of_ble_eq_true rfl) dX8_commands_11 rXV (zXV ?_)
      obtain rfl := Option.some.inj hT
      exact a_out (by decide) (he _ _ ⟨rfl, rfl⟩)
theorem k_X8_commands_n_b4 {G : aG} {h0 : aH} {K : aRes → aH → Prop} {n9 : Nat} {x9 : (Nat × Int32 × Int32 × aH)} {e : ((Int32 ⊕ aXX) × aH)} (hT : wlo (t_X8_commands_n_b4 (gZ G)) n9 x9 = some e) (he : (fun e => aTo (aXI e.1 e.2) K) e) : p_X8_commands_n_b4 G h0 K x9 := wlo_W kb_X8_commands_n_b4 n9 x9 e hT he
def t_X8_commands_n (Z : aZ) (h : aH) (o : Nat) : Option ((Int32 ⊕ aXX) × aH) :=
  wlo (t_X8_commands_n_b4 Z) 100 (o, 0, 1, h)
theorem k_X8_commands_n {G : aG} {h : aH} {o : Nat} {e : ((Int32 ⊕ aXX) × aH)} (hT : t_X8_commands_n (gZ G) h o = some e) : aMet G yX8_commands (ws_ yX8_commands cX8_commands 4 (Option.some Jvm.ClassFile.FieldType.int)) 9 192 [.ref o, .null] h (aXI e.1 e.2) := by
  refine aMet.of (lv := [some (.ref o), some (.null), none, none]) (by decide) (Nat.le_of_ble_eq_true rfl) 2 rfl ?_
  have he : aTo (aXI e.1 e.2) (aXI e.1 e.2) := aTo.rf
  unfold t_X8_commands_n at hT
  refine a_iconst (v := 0) dX8_commands_0 (by decide) ?_
  refine a_istore_n (lv' := [some (.ref o), some (.null), some (.int 0), none]) dX8_commands_1 rfl (by decide) rfl ?_
  refine a_iconst (v := 1) dX8_commands_2 (by decide) ?_
  refine a_istore_n (lv' := [some (.ref o), some (.null), some (.int 0), some (.int 1)]) dX8_commands_3 rfl (by decide) rfl ?_
  exact k_X8_commands_n_b4 hT he
theorem kv_X0_52 : aKV "MazeBondsLaw" 52 0 yX1_hoursAgain cX1_hoursAgain 4 (Option.some Jvm.ClassFile.FieldType.int) 2 := ⟨⟨TX1, 8, rfl⟩, Or.inl q967, q968, q969, q72, q970, ⟨by decide +kernel, by decide +kernel, by decide +kernel⟩⟩
abbrev M_X0_hoursAgain : aM := (yX0_hoursAgain.cls, cX0_hoursAgain, 5, (Option.some Jvm.ClassFile.FieldType.int), [((0 : Nat), (10 : Nat), (13 : Nat), (41 : Nat)), ((0 : Nat), (10 : Nat), (17 : Nat), (43 : Nat))], yX0_hoursAgain.name)
def t_X0_hoursAgain (Z : aZ) (h : aH) (x0 : Nat) (x1 : Int32) (x2 : Int32) (x3 : Nat) : Option (Int32 × aH) :=
  if isC 0 h x0 = true then
  (t_X1_hoursAgain Z h x0 x1 x2).bind fun r4 =>
  (match r4 with
  | (.inl y6, h7) =>
    (stJ Z h7 x3 0 ((y6 : Int32).toInt64)).bind fun h9 =>
    some (0, h9)
  | (.inr y6, h7) =>
    if y6.1 = "java/lang/IndexOutOfBoundsException" then
      some (1, h7)
    else
      if y6.1 = "java/util/NoSuchElementException" then
        some (2, h7)
      else
        none
  )
  else none
theorem k_X0_hoursAgain {G : aG} {h : aH} {x0 : Nat} {x1 : Int32} {x2 : Int32} {x3 : Nat} {e : (Int32 × aH)} (hT : t_X0_hoursAgain (gZ G) h x0 x1 x2 x3 = some e) : aMet G yX0_hoursAgain (wsW_ yX0_hoursAgain cX0_hoursAgain 5 (Option.some Jvm.ClassFile.FieldType.int) [((0 : Nat), (10 : Nat), (13 : Nat), (41 : Nat)), ((0 : Nat), (10 : Nat), (17 : Nat), (43 : Nat))]) 12 263 [.ref x0, .int x1, .int x2, .ref x3] h (aEI e.1 e.2) := by
  refine aMet.ofH (lv := [some (.ref x0), some (.int x1), some (.int x2), some (.ref x3), none]) (by decide) (Nat.le_of_ble_eq_true rfl) 1 rfl ?_
  have he : aTo (aEI e.1 e.2) (aEI e.1 e.2) := aTo.rf
  unfold t_X0_hoursAgain at hT
  refine a_aload_n dX0_hoursAgain_0 rfl ?_
  refine a_iconst (v := 0) dX0_hoursAgain_1 (by decide) ?_
  refine a_aload_n dX0_hoursAgain_2 rfl ?_
  refine a_iload_n dX0_hoursAgain_3 rfl ?_
  refine a_iload_n dX0_hoursAgain_4 rfl ?_
  obtain ⟨g3, hT⟩ := oifg hT
  obtain ⟨⟨y6 | y6, h7⟩, e5, hT⟩ := obnd hT
  · dsimp only at hT
    refine a_callV kv_X0_52 g3 (k_X1_hoursAgain e5) ⟨Nat.le_of_ble_eq_true rfl, Nat.le_of_ble_eq_true rfl⟩ (As := [.int x1, .int x2]) (rest := [.int 0, .ref x3]) rfl rfl (Nat.le_of_ble_eq_true rfl) dX0_hoursAgain_5 (kXI ?_) yXI
    refine a_i2l dX0_hoursAgain_8 ?_
    obtain ⟨h9, e8, hT⟩ := obnd hT
    refine a_stJ e8 dX0_hoursAgain_9 ?_
    refine a_goto 21 dX0_hoursAgain_10 rfl ?_
    refine a_iconst (v := 0) dX0_hoursAgain_21 (by decide) ?_
    obtain rfl := Option.some.inj hT
    exact a_iret rfl rfl dX0_hoursAgain_22 (he _ _ ⟨rfl, rfl⟩)
  · dsimp only at hT
    refine a_callV kv_X0_52 g3 (k_X1_hoursAgain e5) ⟨Nat.le_of_ble_eq_true rfl, Nat.le_of_ble_eq_true rfl⟩ (As := [.int x1, .int x2]) (rest := [.int 0, .ref x3]) rfl rfl (Nat.le_of_ble_eq_true rfl) dX0_hoursAgain_5 rXI (zXI ?_)
    by_cases c10 : y6.1 = "java/lang/IndexOutOfBoundsException"
    · have hT := oifp c10 hT
      rw [c10]
      refine a_catchI 0 rfl aNil (by decide) (by decide) q879 q929 ?_
      refine a_astore (lv' := [some (.ref x0), some (.int x1), some (.int x2), some (.ref x3), some (.ref y6.2)]) dX0_hoursAgain_13 rfl (by decide) rfl ?_
      refine a_iconst (v := 1) dX0_hoursAgain_15 (by decide) ?_
      obtain rfl := Option.some.inj hT
      exact a_iret rfl rfl dX0_hoursAgain_16 (he _ _ ⟨rfl, rfl⟩)
    · have hT := oifn c10 hT
      by_cases c11 : y6.1 = "java/util/NoSuchElementException"
      · have hT := oifp c11 hT
        rw [c11]
        refine a_catchI 1 rfl (aCons (Or.inr ⟨by decide, _, q879, fun s hK => hK.2.2.2.2.1 _ (List.mem_of_getElem? (i := 0) rfl)⟩) aNil) (by decide) (by decide) q911 q313 ?_
        refine a_astore (lv' := [some (.ref x0), some (.int x1), some (.int x2), some (.ref x3), some (.ref y6.2)]) dX0_hoursAgain_17 rfl (by decide) rfl ?_
        refine a_iconst (v := 2) dX0_hoursAgain_19 (by decide) ?_
        obtain rfl := Option.some.inj hT
        exact a_iret rfl rfl dX0_hoursAgain_20 (he _ _ ⟨rfl, rfl⟩)
      · have hT := oifn c11 hT
        cases hT
theorem kv_X0_64 : aKV "MazeBondsLaw" 64 0 yX1_trimsAgain cX1_trimsAgain 2 (Option.some Jvm.ClassFile.FieldType.int) 1 := ⟨⟨TX1, 8, rfl⟩, Or.inl q1005, q1006, q1007, q72, q1008, ⟨by decide +kernel, by decide +kernel, by decide +kernel⟩⟩
abbrev M_X0_trimsAgain : aM := (yX0_trimsAgain.cls, cX0_trimsAgain, 4, (Option.some Jvm.ClassFile.FieldType.int), [((0 : Nat), (9 : Nat), (12 : Nat), (41 : Nat))], yX0_trimsAgain.name)
def t_X0_trimsAgain (Z : aZ) (h : aH) (x0 : Nat) (x1 : Int32) (x2 : Nat) : Option (Int32 × aH) :=
  if isC 0 h x0 = true then
  (t_X1_trimsAgain Z h x0 x1).bind fun r4 =>
  (match r4 with
  | (.inl y6, h7) =>
    (stJ Z h7 x2 0 ((y6 : Int32).toInt64)).bind fun h9 =>
    some (0, h9)
  | (.inr y6, h7) =>
    if y6.1 = "java/lang/IndexOutOfBoundsException" then
      some (1, h7)
    else
      none
  )
  else none
theorem k_X0_trimsAgain {G : aG} {h : aH} {x0 : Nat} {x1 : Int32} {x2 : Nat} {e : (Int32 × aH)} (hT : t_X0_trimsAgain (gZ G) h x0 x1 x2 = some e) : aMet G yX0_trimsAgain (wsW_ yX0_trimsAgain cX0_trimsAgain 4 (Option.some Jvm.ClassFile.FieldType.int) [((0 : Nat), (9 : Nat), (12 : Nat), (41 : Nat))]) 12 261 [.ref x0, .int x1, .ref x2] h (aEI e.1 e.2) := by
  refine aMet.ofH (lv := [some (.ref x0), some (.int x1), some (.ref x2), none]) (by decide) (Nat.le_of_ble_eq_true rfl) 1 rfl ?_
  have he : aTo (aEI e.1 e.2) (aEI e.1 e.2) := aTo.rf
  unfold t_X0_trimsAgain at hT
  refine a_aload_n dX0_trimsAgain_0 rfl ?_
  refine a_iconst (v := 0) dX0_trimsAgain_1 (by decide) ?_
  refine a_aload_n dX0_trimsAgain_2 rfl ?_
  refine a_iload_n dX0_trimsAgain_3 rfl ?_
  obtain ⟨g3, hT⟩ := oifg hT
  obtain ⟨⟨y6 | y6, h7⟩, e5, hT⟩ := obnd hT
  · dsimp only at hT
    refine a_callV kv_X0_64 g3 (k_X1_trimsAgain e5) ⟨Nat.le_of_ble_eq_true rfl, Nat.le_of_ble_eq_true rfl⟩ (As := [.int x1]) (rest := [.int 0, .ref x2]) rfl rfl (Nat.le_of_ble_eq_true rfl) dX0_trimsAgain_4 (kXI ?_) yXI
    refine a_i2l dX0_trimsAgain_7 ?_
    obtain ⟨h9, e8, hT⟩ := obnd hT
    refine a_stJ e8 dX0_trimsAgain_8 ?_
    refine a_goto 15 dX0_trimsAgain_9 rfl ?_
    refine a_iconst (v := 0) dX0_trimsAgain_15 (by decide) ?_
    obtain rfl := Option.some.inj hT
    exact a_iret rfl rfl dX0_trimsAgain_16 (he _ _ ⟨rfl, rfl⟩)
  · dsimp only at hT
    refine a_callV kv_X0_64 g3 (k_X1_trimsAgain e5) ⟨Nat.le_of_ble_eq_true rfl, Nat.le_of_ble_eq_true rfl⟩ (As := [.int x1]) (rest := [.int 0, .ref x2]) rfl rfl (Nat.le_of_ble_eq_true rfl) dX0_trimsAgain_4 rXI (zXI ?_)
    by_cases c10 : y6.1 = "java/lang/IndexOutOfBoundsException"
    · have hT := oifp c10 hT
      rw [c10]
      refine a_catchI 0 rfl aNil (by decide) (by decide) q879 q929 ?_
      refine a_astore_n (lv' := [some (.ref x0), some (.int x1), some (.ref x2), some (.ref y6.2)]) dX0_trimsAgain_12 rfl (by decide) rfl ?_
      refine a_iconst (v := 1) dX0_trimsAgain_13 (by decide) ?_
      obtain rfl := Option.some.inj hT
      exact a_iret rfl rfl dX0_trimsAgain_14 (he _ _ ⟨rfl, rfl⟩)
    · have hT := oifn c10 hT
      cases hT
theorem kv_X0_70 : aKV "MazeBondsLaw" 70 0 yX1_closesIn cX1_closesIn 3 (Option.some Jvm.ClassFile.FieldType.int) 2 := ⟨⟨TX1, 8, rfl⟩, Or.inl q1019, q1020, q1021, q72, q1022, ⟨by decide +kernel, by decide +kernel, by decide +kernel⟩⟩
abbrev M_X0_closesIn : aM := (yX0_closesIn.cls, cX0_closesIn, 5, (Option.some Jvm.ClassFile.FieldType.int), [((0 : Nat), (10 : Nat), (13 : Nat), (41 : Nat)), ((0 : Nat), (10 : Nat), (17 : Nat), (43 : Nat))], yX0_closesIn.name)
def t_X0_closesIn (Z : aZ) (h : aH) (x0 : Nat) (x1 : Int32) (x2 : Int32) (x3 : Nat) : Option (Int32 × aH) :=
  if isC 0 h x0 = true then
  (t_X1_closesIn Z h x0 x1 x2).bind fun r4 =>
  (match r4 with
  | (.inl y6, h7) =>
    (stJ Z h7 x3 0 ((y6 : Int32).toInt64)).bind fun h9 =>
    some (0, h9)
  | (.inr y6, h7) =>
    if y6.1 = "java/lang/IndexOutOfBoundsException" then
      some (1, h7)
    else
      if y6.1 = "java/util/NoSuchElementException" then
        some (2, h7)
      else
        none
  )
  else none
theorem k_X0_closesIn {G : aG} {h : aH} {x0 : Nat} {x1 : Int32} {x2 : Int32} {x3 : Nat} {e : (Int32 × aH)} (hT : t_X0_closesIn (gZ G) h x0 x1 x2 x3 = some e) : aMet G yX0_closesIn (wsW_ yX0_closesIn cX0_closesIn 5 (Option.some Jvm.ClassFile.FieldType.int) [((0 : Nat), (10 : Nat), (13 : Nat), (41 : Nat)), ((0 : Nat), (10 : Nat), (17 : Nat), (43 : Nat))]) 13 285 [.ref x0, .int x1, .int x2, .ref x3] h (aEI e.1 e.2) := by
  refine aMet.ofH (lv := [some (.ref x0), some (.int x1), some (.int x2), some (.ref x3), none]) (by decide) (Nat.le_of_ble_eq_true rfl) 1 rfl ?_
  have he : aTo (aEI e.1 e.2) (aEI e.1 e.2) := aTo.rf
  unfold t_X0_closesIn at hT
  refine a_aload_n dX0_closesIn_0 rfl ?_
  refine a_iconst (v := 0) dX0_closesIn_1 (by decide) ?_
  refine a_aload_n dX0_closesIn_2 rfl ?_
  refine a_iload_n dX0_closesIn_3 rfl ?_
  refine a_iload_n dX0_closesIn_4 rfl ?_
  obtain ⟨g3, hT⟩ := oifg hT
  obtain ⟨⟨y6 | y6, h7⟩, e5, hT⟩ := obnd hT
  · dsimp only at hT
    refine a_callV kv_X0_70 g3 (k_X1_closesIn e5) ⟨Nat.le_of_ble_eq_true rfl, Nat.le_of_ble_eq_true rfl⟩ (As := [.int x1, .int x2]) (rest := [.int 0, .ref x3]) rfl rfl (Nat.le_of_ble_eq_true rfl) dX0_closesIn_5 (kXI ?_) yXI
    refine a_i2l dX0_closesIn_8 ?_
    obtain ⟨h9, e8, hT⟩ := obnd hT
    refine a_stJ e8 dX0_closesIn_9 ?_
    refine a_goto 21 dX0_closesIn_10 rfl ?_
    refine a_iconst (v := 0) dX0_closesIn_21 (by decide) ?_
    obtain rfl := Option.some.inj hT
    exact a_iret rfl rfl dX0_closesIn_22 (he _ _ ⟨rfl, rfl⟩)
  · dsimp only at hT
    refine a_callV kv_X0_70 g3 (k_X1_closesIn e5) ⟨Nat.le_of_ble_eq_true rfl, Nat.le_of_ble_eq_true rfl⟩ (As := [.int x1, .int x2]) (rest := [.int 0, .ref x3]) rfl rfl (Nat.le_of_ble_eq_true rfl) dX0_closesIn_5 rXI (zXI ?_)
    by_cases c10 : y6.1 = "java/lang/IndexOutOfBoundsException"
    · have hT := oifp c10 hT
      rw [c10]
      refine a_catchI 0 rfl aNil (by decide) (by decide) q879 q929 ?_
      refine a_astore (lv' := [some (.ref x0), some (.int x1), some (.int x2), some (.ref x3), some (.ref y6.2)]) dX0_closesIn_13 rfl (by decide) rfl ?_
      refine a_iconst (v := 1) dX0_closesIn_15 (by decide) ?_
      obtain rfl := Option.some.inj hT
      exact a_iret rfl rfl dX0_closesIn_16 (he _ _ ⟨rfl, rfl⟩)
    · have hT := oifn c10 hT
      by_cases c11 : y6.1 = "java/util/NoSuchElementException"
      · have hT := oifp c11 hT
        rw [c11]
        refine a_catchI 1 rfl (aCons (Or.inr ⟨by decide, _, q879, fun s hK => hK.2.2.2.2.1 _ (List.mem_of_getElem? (i := 0) rfl)⟩) aNil) (by decide) (by decide) q911 q313 ?_
        refine a_astore (lv' := [some (.ref x0), some (.int x1), some (.int x2), some (.ref x3), some (.ref y6.2)]) dX0_closesIn_17 rfl (by decide) rfl ?_
        refine a_iconst (v := 2) dX0_closesIn_19 (by decide) ?_
        obtain rfl := Option.some.inj hT
        exact a_iret rfl rfl dX0_closesIn_20 (he _ _ ⟨rfl, rfl⟩)
      · have hT := oifn c11 hT
        cases hT
theorem kv_X0_73 : aKV "MazeBondsLaw" 73 0 yX1_gardenerOf cX1_gardenerOf 4 (Option.some Jvm.ClassFile.FieldType.int) 2 := ⟨⟨TX1, 8, rfl⟩, Or.inl q1027, q1028, q1029, q72, q1030, ⟨by decide +kernel, by decide +kernel, by decide +kernel⟩⟩
