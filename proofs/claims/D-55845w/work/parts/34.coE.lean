/-! decompiled (written by gen/comp.py) -/
set_option maxRecDepth 100000
abbrev M_X2_relaxed : aM := (yX2_relaxed.cls, cX2_relaxed, 8, (Option.some (Jvm.ClassFile.FieldType.array Jvm.ClassFile.FieldType.int)), [], yX2_relaxed.name)
def p_X2_relaxed_b9 (G : aG) (h0 : aH) (K : aRes → aH → Prop) (x9 : (Nat × Int32 × Int32 × Int32 × Nat × Int32 × aH)) : Prop := aW G M_X2_relaxed 4 113 h0 K x9.2.2.2.2.2.2 9 [some (.ref x9.1), some (.int x9.2.1), some (.int x9.2.2.1), some (.int x9.2.2.2.1), some (.ref x9.2.2.2.2.1), some (.int x9.2.2.2.2.2.1), none, none] []
def p_X2_relaxed_b42 (G : aG) (h0 : aH) (K : aRes → aH → Prop) (x9 : (Nat × Int32 × Int32 × Nat × Int32 × aH)) : Prop := aW G M_X2_relaxed 4 113 h0 K x9.2.2.2.2.2 42 [some (.ref x9.1), none, some (.int x9.2.1), some (.int x9.2.2.1), some (.ref x9.2.2.2.1), some (.int x9.2.2.2.2.1), none, none] []
def p_X2_relaxed_b53 (G : aG) (h0 : aH) (K : aRes → aH → Prop) (x9 : (Nat × Int32 × Int32 × Nat × Int32 × Int32 × aH)) : Prop := aW G M_X2_relaxed 4 113 h0 K x9.2.2.2.2.2.2 53 [some (.ref x9.1), none, some (.int x9.2.1), some (.int x9.2.2.1), some (.ref x9.2.2.2.1), some (.int x9.2.2.2.2.1), some (.int x9.2.2.2.2.2.1), none] []
def t_X2_relaxed_l89 (Z : aZ) (h : aH) (v0 : Nat) (v2 : Int32) (v3 : Int32) (v4 : Nat) (v6 : Int32) (v7 : Int32) (u0 : Int32) (u1 : Int32) : Option ((Nat × Int32 × Int32 × Nat × Int32 × Int32 × aH) ⊕ ((Nat × Int32 × Int32 × Nat × Int32 × aH) ⊕ (Nat × aH))) :=
  (ldI Z h v4 v6).bind fun z15 =>
  (stI Z h v4 v6 (jmin z15 v7)).bind fun h17 =>
  some (.inl (v0, v2, v3, v4, (u1 ||| u0), (v6 + 1), h17))
theorem k_X2_relaxed_l89 {G : aG} {h0 : aH} {K : aRes → aH → Prop} {h : aH} {v0 : Nat} {v2 : Int32} {v3 : Int32} {v4 : Nat} {v6 : Int32} {v7 : Int32} {u0 : Int32} {u1 : Int32} {e : ((Nat × Int32 × Int32 × Nat × Int32 × Int32 × aH) ⊕ ((Nat × Int32 × Int32 × Nat × Int32 × aH) ⊕ (Nat × aH)))} (hT : t_X2_relaxed_l89 (gZ G) h v0 v2 v3 v4 v6 v7 u0 u1 = some e) (he : (Sum.elim (p_X2_relaxed_b53 G h0 K) (Sum.elim (p_X2_relaxed_b42 G h0 K) (fun e => aTo (aEA e.1 e.2) K))) e) : aW G M_X2_relaxed 4 113 h0 K h 89 [some (.ref v0), none, some (.int v2), some (.int v3), some (.ref v4), none, some (.int v6), some (.int v7)] [.int u0, .int u1] := by
  unfold t_X2_relaxed_l89 at hT
  refine a_ior dX2_relaxed_89 ?_
  refine a_istore (lv' := [some (.ref v0), none, some (.int v2), some (.int v3), some (.ref v4), some (.int (u1 ||| u0)), some (.int v6), some (.int v7)]) dX2_relaxed_90 rfl (by decide) rfl ?_
  refine a_aload dX2_relaxed_92 rfl ?_
  refine a_iload dX2_relaxed_94 rfl ?_
  refine a_aload dX2_relaxed_96 rfl ?_
  refine a_iload dX2_relaxed_98 rfl ?_
  obtain ⟨z15, e14, hT⟩ := obnd hT
  refine a_ldI e14 dX2_relaxed_100 ?_
  refine a_iload dX2_relaxed_101 rfl ?_
  refine a_mmin q541 q481 q90 q482 (by decide) (Nat.le_of_ble_eq_true rfl) dX2_relaxed_103 ?_
  obtain ⟨h17, e16, hT⟩ := obnd hT
  refine a_stI e16 dX2_relaxed_106 ?_
  refine a_iinc (v := (v6 + 1)) (lv' := [some (.ref v0), none, some (.int v2), some (.int v3), some (.ref v4), some (.int (u1 ||| u0)), some (.int (v6 + 1)), some (.int v7)]) dX2_relaxed_107 rfl (by rfl) rfl (by decide) rfl ?_
  refine a_goto 53 dX2_relaxed_110 rfl ?_
  obtain rfl := Option.some.inj hT
  refine a_mask [true, true, true, true, true, true, true, false] ?_
  exact he
def t_X2_relaxed_b53 (Z : aZ) : (Nat × Int32 × Int32 × Nat × Int32 × Int32 × aH) → Option ((Nat × Int32 × Int32 × Nat × Int32 × Int32 × aH) ⊕ ((Nat × Int32 × Int32 × Nat × Int32 × aH) ⊕ (Nat × aH))) := fun (v0, v2, v3, v4, v5, v6, h) =>
  if 16 ≤ v6 then
    some (.inr (.inl (v0, v2, v3, v4, v5, h)))
  else
    if isC 1 h v0 = true then
    (t_X2_byNeighbours Z h v0 v4 v6 v2 v3).bind fun r9 =>
    (ldI Z r9.2 v4 v6).bind fun z12 =>
    if z12 ≤ r9.1 then
      t_X2_relaxed_l89 Z r9.2 v0 v2 v3 v4 v6 r9.1 0 v5
    else
      t_X2_relaxed_l89 Z r9.2 v0 v2 v3 v4 v6 r9.1 1 v5
    else none
theorem kb_X2_relaxed_b53 {G : aG} {h0 : aH} {K : aRes → aH → Prop} : ∀ (x9 : (Nat × Int32 × Int32 × Nat × Int32 × Int32 × aH)) (e : ((Nat × Int32 × Int32 × Nat × Int32 × Int32 × aH) ⊕ ((Nat × Int32 × Int32 × Nat × Int32 × aH) ⊕ (Nat × aH)))), t_X2_relaxed_b53 (gZ G) x9 = some e → (Sum.elim (p_X2_relaxed_b53 G h0 K) (Sum.elim (p_X2_relaxed_b42 G h0 K) (fun e => aTo (aEA e.1 e.2) K))) e → p_X2_relaxed_b53 G h0 K x9 := by
  intro x9 e hT he
  obtain ⟨v0, v2, v3, v4, v5, v6, h⟩ := x9
  unfold p_X2_relaxed_b53
  unfold t_X2_relaxed_b53 at hT
  show aW G M_X2_relaxed 4 113 h0 K h 53 [some (.ref v0), none, some (.int v2), some (.int v3), some (.ref v4), some (.int v5), some (.int v6), none] []
  dsimp only at hT
  refine a_iload dX2_relaxed_53 rfl ?_
  refine a_bipush (v := 16) dX2_relaxed_55 (by decide) ?_
  refine a_icmp_ge 113 dX2_relaxed_57 rfl (fun c5 => ?_) (fun c5 => ?_)
  · have hT := oifp c5 hT
    refine a_goto 42 dX2_relaxed_113 rfl ?_
    obtain rfl := Option.some.inj hT
    refine a_mask [true, true, true, true, true, true, false, true] ?_
    exact he
  · have hT := oifn c5 hT
    refine a_aload_n dX2_relaxed_60 rfl ?_
    refine a_aload dX2_relaxed_61 rfl ?_
    refine a_iload dX2_relaxed_63 rfl ?_
    refine a_iload_n dX2_relaxed_65 rfl ?_
    refine a_iload_n dX2_relaxed_66 rfl ?_
    obtain ⟨g8, hT⟩ := oifg hT
    obtain ⟨r9, e10, hT⟩ := obnd hT
    refine a_callV kv_X2_101 g8 (k_X2_byNeighbours e10) ⟨Nat.le_of_ble_eq_true rfl, Nat.le_of_ble_eq_true rfl⟩ (As := [.ref v4, .int v6, .int v2, .int v3]) (rest := []) rfl rfl (Nat.le_of_ble_eq_true rfl) dX2_relaxed_67 (kI ?_) xI
    refine a_istore (lv' := [some (.ref v0), none, some (.int v2), some (.int v3), some (.ref v4), some (.int v5), some (.int v6), some (.int r9.1)]) dX2_relaxed_70 rfl (by decide) rfl ?_
    refine a_iload dX2_relaxed_72 rfl ?_
    refine a_iload dX2_relaxed_74 rfl ?_
    refine a_aload dX2_relaxed_76 rfl ?_
    refine a_iload dX2_relaxed_78 rfl ?_
    obtain ⟨z12, e11, hT⟩ := obnd hT
    refine a_ldI e11 dX2_relaxed_80 ?_
    refine a_icmp_ge 88 dX2_relaxed_81 rfl (fun c13 => ?_) (fun c13 => ?_)
    · have hT := oifp c13 hT
      refine a_iconst (v := 0) dX2_relaxed_88 (by decide) ?_
      refine a_mask [true, true, true, true, true, false, true, true] ?_
      exact k_X2_relaxed_l89 hT he
    · have hT := oifn c13 hT
      refine a_iconst (v := 1) dX2_relaxed_84 (by decide) ?_
      refine a_goto 89 dX2_relaxed_85 rfl ?_
      refine a_mask [true, true, true, true, true, false, true, true] ?_
      exact k_X2_relaxed_l89 hT he
theorem k_X2_relaxed_b53 {G : aG} {h0 : aH} {K : aRes → aH → Prop} {n9 : Nat} {x9 : (Nat × Int32 × Int32 × Nat × Int32 × Int32 × aH)} {e : ((Nat × Int32 × Int32 × Nat × Int32 × aH) ⊕ (Nat × aH))} (hT : wlo (t_X2_relaxed_b53 (gZ G)) n9 x9 = some e) (he : (Sum.elim (p_X2_relaxed_b42 G h0 K) (fun e => aTo (aEA e.1 e.2) K)) e) : p_X2_relaxed_b53 G h0 K x9 := wlo_W kb_X2_relaxed_b53 n9 x9 e hT he
def t_X2_relaxed_b42 (Z : aZ) : (Nat × Int32 × Int32 × Nat × Int32 × aH) → Option ((Nat × Int32 × Int32 × Nat × Int32 × aH) ⊕ (Nat × aH)) := fun (v0, v2, v3, v4, v5, h) =>
  if v5 = 0 then
    some (.inr ((v4, h)))
  else
    wlo (t_X2_relaxed_b53 Z) 300 (v0, v2, v3, v4, 0, 0, h)
theorem kb_X2_relaxed_b42 {G : aG} {h0 : aH} {K : aRes → aH → Prop} : ∀ (x9 : (Nat × Int32 × Int32 × Nat × Int32 × aH)) (e : ((Nat × Int32 × Int32 × Nat × Int32 × aH) ⊕ (Nat × aH))), t_X2_relaxed_b42 (gZ G) x9 = some e → (Sum.elim (p_X2_relaxed_b42 G h0 K) (fun e => aTo (aEA e.1 e.2) K)) e → p_X2_relaxed_b42 G h0 K x9 := by
  intro x9 e hT he
  obtain ⟨v0, v2, v3, v4, v5, h⟩ := x9
  unfold p_X2_relaxed_b42
  unfold t_X2_relaxed_b42 at hT
  show aW G M_X2_relaxed 4 113 h0 K h 42 [some (.ref v0), none, some (.int v2), some (.int v3), some (.ref v4), some (.int v5), none, none] []
  dsimp only at hT
  refine a_iload dX2_relaxed_42 rfl ?_
  refine a_if_eq 116 dX2_relaxed_44 rfl (fun c4 => ?_) (fun c4 => ?_)
  · have hT := oifp c4 hT
    refine a_aload dX2_relaxed_116 rfl ?_
    obtain rfl := Option.some.inj hT
    exact a_aret rfl (Or.inr ⟨_, rfl⟩) dX2_relaxed_118 (he _ _ ⟨rfl, rfl⟩)
  · have hT := oifn c4 hT
    refine a_iconst (v := 0) dX2_relaxed_47 (by decide) ?_
    refine a_istore (lv' := [some (.ref v0), none, some (.int v2), some (.int v3), some (.ref v4), some (.int 0), none, none]) dX2_relaxed_48 rfl (by decide) rfl ?_
    refine a_iconst (v := 0) dX2_relaxed_50 (by decide) ?_
    refine a_istore (lv' := [some (.ref v0), none, some (.int v2), some (.int v3), some (.ref v4), some (.int 0), some (.int 0), none]) dX2_relaxed_51 rfl (by decide) rfl ?_
    exact k_X2_relaxed_b53 hT he
theorem k_X2_relaxed_b42 {G : aG} {h0 : aH} {K : aRes → aH → Prop} {n9 : Nat} {x9 : (Nat × Int32 × Int32 × Nat × Int32 × aH)} {e : (Nat × aH)} (hT : wlo (t_X2_relaxed_b42 (gZ G)) n9 x9 = some e) (he : (fun e => aTo (aEA e.1 e.2) K) e) : p_X2_relaxed_b42 G h0 K x9 := wlo_W kb_X2_relaxed_b42 n9 x9 e hT he
def t_X2_relaxed_l39 (Z : aZ) (h : aH) (v0 : Nat) (v2 : Int32) (v3 : Int32) (v4 : Nat) : Option (Nat × aH) :=
  wlo (t_X2_relaxed_b42 Z) 300 (v0, v2, v3, v4, 1, h)
theorem k_X2_relaxed_l39 {G : aG} {h0 : aH} {K : aRes → aH → Prop} {h : aH} {v0 : Nat} {v2 : Int32} {v3 : Int32} {v4 : Nat} {e : (Nat × aH)} (hT : t_X2_relaxed_l39 (gZ G) h v0 v2 v3 v4 = some e) (he : (fun e => aTo (aEA e.1 e.2) K) e) : aW G M_X2_relaxed 4 113 h0 K h 39 [some (.ref v0), none, some (.int v2), some (.int v3), some (.ref v4), none, none, none] [] := by
  unfold t_X2_relaxed_l39 at hT
  refine a_iconst (v := 1) dX2_relaxed_39 (by decide) ?_
  refine a_istore (lv' := [some (.ref v0), none, some (.int v2), some (.int v3), some (.ref v4), some (.int 1), none, none]) dX2_relaxed_40 rfl (by decide) rfl ?_
  exact k_X2_relaxed_b42 hT he
def t_X2_relaxed_l32 (Z : aZ) (h : aH) (v0 : Nat) (v1 : Int32) (v2 : Int32) (v3 : Int32) (v4 : Nat) (v5 : Int32) (u0 : Int32) (u1 : Int32) (u2 : Nat) : Option ((Nat × Int32 × Int32 × Int32 × Nat × Int32 × aH) ⊕ (Nat × aH)) :=
  (stI Z h u2 u1 u0).bind fun h20 =>
  some (.inl (v0, v1, v2, v3, v4, (v5 + 1), h20))
theorem k_X2_relaxed_l32 {G : aG} {h0 : aH} {K : aRes → aH → Prop} {h : aH} {v0 : Nat} {v1 : Int32} {v2 : Int32} {v3 : Int32} {v4 : Nat} {v5 : Int32} {u0 : Int32} {u1 : Int32} {u2 : Nat} {e : ((Nat × Int32 × Int32 × Int32 × Nat × Int32 × aH) ⊕ (Nat × aH))} (hT : t_X2_relaxed_l32 (gZ G) h v0 v1 v2 v3 v4 v5 u0 u1 u2 = some e) (he : (Sum.elim (p_X2_relaxed_b9 G h0 K) (fun e => aTo (aEA e.1 e.2) K)) e) : aW G M_X2_relaxed 4 113 h0 K h 32 [some (.ref v0), some (.int v1), some (.int v2), some (.int v3), some (.ref v4), some (.int v5), none, none] [.int u0, .int u1, .ref u2] := by
  unfold t_X2_relaxed_l32 at hT
  obtain ⟨h20, e19, hT⟩ := obnd hT
  refine a_stI e19 dX2_relaxed_32 ?_
  refine a_iinc (v := (v5 + 1)) (lv' := [some (.ref v0), some (.int v1), some (.int v2), some (.int v3), some (.ref v4), some (.int (v5 + 1)), none, none]) dX2_relaxed_33 rfl (by rfl) rfl (by decide) rfl ?_
  refine a_goto 9 dX2_relaxed_36 rfl ?_
  obtain rfl := Option.some.inj hT
  exact he
def t_X2_relaxed_b9 (Z : aZ) : (Nat × Int32 × Int32 × Int32 × Nat × Int32 × aH) → Option ((Nat × Int32 × Int32 × Int32 × Nat × Int32 × aH) ⊕ (Nat × aH)) := fun (v0, v1, v2, v3, v4, v5, h) =>
  if 16 ≤ v5 then
    (t_X2_relaxed_l39 Z h v0 v2 v3 v4).map .inr
  else
    if v5 = v1 then
      t_X2_relaxed_l32 Z h v0 v1 v2 v3 v4 v5 0 v5 v4
    else
      t_X2_relaxed_l32 Z h v0 v1 v2 v3 v4 v5 16 v5 v4
theorem kb_X2_relaxed_b9 {G : aG} {h0 : aH} {K : aRes → aH → Prop} : ∀ (x9 : (Nat × Int32 × Int32 × Int32 × Nat × Int32 × aH)) (e : ((Nat × Int32 × Int32 × Int32 × Nat × Int32 × aH) ⊕ (Nat × aH))), t_X2_relaxed_b9 (gZ G) x9 = some e → (Sum.elim (p_X2_relaxed_b9 G h0 K) (fun e => aTo (aEA e.1 e.2) K)) e → p_X2_relaxed_b9 G h0 K x9 := by
  intro x9 e hT he
  obtain ⟨v0, v1, v2, v3, v4, v5, h⟩ := x9
  unfold p_X2_relaxed_b9
  unfold t_X2_relaxed_b9 at hT
  show aW G M_X2_relaxed 4 113 h0 K h 9 [some (.ref v0), some (.int v1), some (.int v2), some (.int v3), some (.ref v4), some (.int v5), none, none] []
  dsimp only at hT
  refine a_iload dX2_relaxed_9 rfl ?_
  refine a_bipush (v := 16) dX2_relaxed_11 (by decide) ?_
  refine a_icmp_ge 39 dX2_relaxed_13 rfl (fun c3 => ?_) (fun c3 => ?_)
  · have hT := oifp c3 hT
    refine a_mask [true, false, true, true, true, false, true, true] ?_
    obtain ⟨e8, hT8, rfl⟩ := omap hT
    exact k_X2_relaxed_l39 hT8 he
  · have hT := oifn c3 hT
    refine a_aload dX2_relaxed_16 rfl ?_
    refine a_iload dX2_relaxed_18 rfl ?_
    refine a_iload dX2_relaxed_20 rfl ?_
    refine a_iload_n dX2_relaxed_22 rfl ?_
    refine a_icmp_ne 30 dX2_relaxed_23 rfl (fun c18 => ?_) (fun c18 => ?_)
    · have hT := oifn c18 hT
      refine a_bipush (v := 16) dX2_relaxed_30 (by decide) ?_
      exact k_X2_relaxed_l32 hT he
    · have hT := oifp c18 hT
      refine a_iconst (v := 0) dX2_relaxed_26 (by decide) ?_
      refine a_goto 32 dX2_relaxed_27 rfl ?_
      exact k_X2_relaxed_l32 hT he
theorem k_X2_relaxed_b9 {G : aG} {h0 : aH} {K : aRes → aH → Prop} {n9 : Nat} {x9 : (Nat × Int32 × Int32 × Int32 × Nat × Int32 × aH)} {e : (Nat × aH)} (hT : wlo (t_X2_relaxed_b9 (gZ G)) n9 x9 = some e) (he : (fun e => aTo (aEA e.1 e.2) K) e) : p_X2_relaxed_b9 G h0 K x9 := wlo_W kb_X2_relaxed_b9 n9 x9 e hT he
def t_X2_relaxed (Z : aZ) (h : aH) (o : Nat) (x0 : Int32) (x1 : Int32) (x2 : Int32) : Option (Nat × aH) :=
  (nwA Z h 16 (fun N => .inl (zI Z, N, .inl fun _ => 0))).bind fun h1 =>
  wlo (t_X2_relaxed_b9 Z) 300 (o, x0, x1, x2, h.2.1, 0, h1)
theorem k_X2_relaxed {G : aG} {h : aH} {o : Nat} {x0 : Int32} {x1 : Int32} {x2 : Int32} {e : (Nat × aH)} (hT : t_X2_relaxed (gZ G) h o x0 x1 x2 = some e) : aMet G yX2_relaxed (ws_ yX2_relaxed cX2_relaxed 8 (Option.some (Jvm.ClassFile.FieldType.array Jvm.ClassFile.FieldType.int))) 4 113 [.ref o, .int x0, .int x1, .int x2] h (aEA e.1 e.2) := by
  refine aMet.of (lv := [some (.ref o), some (.int x0), some (.int x1), some (.int x2), none, none, none, none]) (by decide) (Nat.le_of_ble_eq_true rfl) 4 rfl ?_
  have he : aTo (aEA e.1 e.2) (aEA e.1 e.2) := aTo.rf
  unfold t_X2_relaxed at hT
  refine a_bipush (v := 16) dX2_relaxed_0 (by decide) ?_
  obtain ⟨h1, e2, hT⟩ := obnd hT
  refine a_newI q156 e2 dX2_relaxed_2 ?_
  refine a_astore (lv' := [some (.ref o), some (.int x0), some (.int x1), some (.int x2), some (.ref h.2.1), none, none, none]) dX2_relaxed_4 rfl (by decide) rfl ?_
  refine a_iconst (v := 0) dX2_relaxed_6 (by decide) ?_
  refine a_istore (lv' := [some (.ref o), some (.int x0), some (.int x1), some (.int x2), some (.ref h.2.1), some (.int 0), none, none]) dX2_relaxed_7 rfl (by decide) rfl ?_
  exact k_X2_relaxed_b9 hT he
theorem kv_X2_37 : aKV "MazeBonds$Core" 37 8 yJ2_iterator cJ2_iterator 1 (Option.some (Jvm.ClassFile.FieldType.object "java/util/Iterator")) 0 := ⟨⟨TJ2, 3, rfl⟩, Or.inl q265, q266, q267, q76, q268, ⟨by decide +kernel, by decide +kernel, by decide +kernel⟩⟩
theorem kf_X2_41 : aKF "MazeBonds$Core" 41 9 yItHas yJ7_hasNext cJ7_hasNext 1 (Option.some Jvm.ClassFile.FieldType.boolean) 0 := ⟨TJ7, 4, rfl, q289, q293, q295, q82, q297, fun s h => h.2.2.1, ⟨by decide +kernel, by decide +kernel, by decide +kernel⟩⟩
theorem kf_X2_47 : aKF "MazeBonds$Core" 47 9 yItNext yJ7_next cJ7_next 3 (Option.some (Jvm.ClassFile.FieldType.object "java/lang/Object")) 0 := ⟨TJ7, 4, rfl, q299, q302, q304, q82, q306, fun s h => h.2.2.2.1, ⟨by decide +kernel, by decide +kernel, by decide +kernel⟩⟩
theorem fl_X2_198_4 : aFL "MazeBonds$Core" 198 4 4 := ⟨RX6, TX6, 7, "MazeBonds$Visitor", rfl, in_X6, by decide, Or.inl rfl, Or.inr ⟨_, q511⟩⟩
abbrev M_X2_bondsOf : aM := (yX2_bondsOf.cls, cX2_bondsOf, 5, (Option.some Jvm.ClassFile.FieldType.int), [], yX2_bondsOf.name)
def p_X2_bondsOf_b10 (G : aG) (h0 : aH) (K : aRes → aH → Prop) (x9 : (Int32 × Int32 × Nat × aH)) : Prop := aW G M_X2_bondsOf 3 53 h0 K x9.2.2.2 10 [none, some (.int x9.1), some (.int x9.2.1), some (.ref x9.2.2.1), none] []
def t_X2_bondsOf_l45 (Z : aZ) (h : aH) (v1 : Int32) (v3 : Nat) (u0 : Int32) (u1 : Int32) : Option ((Int32 × Int32 × Nat × aH) ⊕ (Int32 × aH)) :=
  some (.inl (v1, (u1 + u0), v3, h))
theorem k_X2_bondsOf_l45 {G : aG} {h0 : aH} {K : aRes → aH → Prop} {h : aH} {v1 : Int32} {v3 : Nat} {u0 : Int32} {u1 : Int32} {e : ((Int32 × Int32 × Nat × aH) ⊕ (Int32 × aH))} (hT : t_X2_bondsOf_l45 (gZ G) h v1 v3 u0 u1 = some e) (he : (Sum.elim (p_X2_bondsOf_b10 G h0 K) (fun e => aTo (aEI e.1 e.2) K)) e) : aW G M_X2_bondsOf 3 53 h0 K h 45 [none, some (.int v1), none, some (.ref v3), none] [.int u0, .int u1] := by
  unfold t_X2_bondsOf_l45 at hT
  refine a_iadd dX2_bondsOf_45 ?_
  refine a_istore_n (lv' := [none, some (.int v1), some (.int (u1 + u0)), some (.ref v3), none]) dX2_bondsOf_46 rfl (by decide) rfl ?_
  refine a_goto 10 dX2_bondsOf_47 rfl ?_
  obtain rfl := Option.some.inj hT
  exact he
def t_X2_bondsOf_b10 (Z : aZ) : (Int32 × Int32 × Nat × aH) → Option ((Int32 × Int32 × Nat × aH) ⊕ (Int32 × aH)) := fun (v1, v2, v3, h) =>
  if isC 9 h v3 = true then
  (t_J7_hasNext Z h v3).bind fun r11 =>
  if r11.1 = 0 then
    some (.inr ((v2, r11.2)))
  else
    if isC 9 r11.2 v3 = true then
    (t_J7_next Z r11.2 v3).bind fun r17 =>
    if isC 4 r17.2 r17.1 = true then
    (gI 4 4 r17.2 r17.1).bind fun z21 =>
    if z21 = v1 then
      t_X2_bondsOf_l45 Z r17.2 v1 v3 1 v2
    else
      t_X2_bondsOf_l45 Z r17.2 v1 v3 0 v2
    else none
    else none
  else none
theorem kb_X2_bondsOf_b10 {G : aG} {h0 : aH} {K : aRes → aH → Prop} : ∀ (x9 : (Int32 × Int32 × Nat × aH)) (e : ((Int32 × Int32 × Nat × aH) ⊕ (Int32 × aH))), t_X2_bondsOf_b10 (gZ G) x9 = some e → (Sum.elim (p_X2_bondsOf_b10 G h0 K) (fun e => aTo (aEI e.1 e.2) K)) e → p_X2_bondsOf_b10 G h0 K x9 := by
  intro x9 e hT he
  obtain ⟨v1, v2, v3, h⟩ := x9
  unfold p_X2_bondsOf_b10
  unfold t_X2_bondsOf_b10 at hT
  show aW G M_X2_bondsOf 3 53 h0 K h 10 [none, some (.int v1), some (.int v2), some (.ref v3), none] []
  dsimp only at hT
  refine a_aload_n dX2_bondsOf_10 rfl ?_
  obtain ⟨g10, hT⟩ := oifg hT
  obtain ⟨r11, e12, hT⟩ := obnd hT
  refine a_callF kf_X2_41 g10 (k_J7_hasNext e12) ⟨Nat.le_of_ble_eq_true rfl, Nat.le_of_ble_eq_true rfl⟩ (As := []) (rest := []) rfl rfl (Nat.le_of_ble_eq_true rfl) dX2_bondsOf_11 (kI ?_) xI
  refine a_if_eq 50 dX2_bondsOf_16 rfl (fun c13 => ?_) (fun c13 => ?_)
  · have hT := oifp c13 hT
    refine a_iload_n dX2_bondsOf_50 rfl ?_
    obtain rfl := Option.some.inj hT
    exact a_iret rfl rfl dX2_bondsOf_51 (he _ _ ⟨rfl, rfl⟩)
  · have hT := oifn c13 hT
    refine a_aload_n dX2_bondsOf_19 rfl ?_
    obtain ⟨g16, hT⟩ := oifg hT
    obtain ⟨r17, e18, hT⟩ := obnd hT
    refine a_callF kf_X2_47 g16 (k_J7_next e18) ⟨Nat.le_of_ble_eq_true rfl, Nat.le_of_ble_eq_true rfl⟩ (As := []) (rest := []) rfl rfl (Nat.le_of_ble_eq_true rfl) dX2_bondsOf_20 (kA ?_) xA
    obtain ⟨g19, hT⟩ := oifg hT
    refine a_cast (ci := 4) rfl q488 g19 dX2_bondsOf_25 ?_
    refine a_astore (lv' := [none, some (.int v1), some (.int v2), some (.ref v3), some (.ref r17.1)]) dX2_bondsOf_28 rfl (by decide) rfl ?_
    refine a_iload_n dX2_bondsOf_30 rfl ?_
    refine a_aload dX2_bondsOf_31 rfl ?_
    obtain ⟨z21, e20, hT⟩ := obnd hT
    refine a_gI fl_X2_198_4 e20 dX2_bondsOf_33 ?_
    refine a_iload_n dX2_bondsOf_36 rfl ?_
    refine a_icmp_ne 44 dX2_bondsOf_37 rfl (fun c22 => ?_) (fun c22 => ?_)
    · have hT := oifn c22 hT
      refine a_iconst (v := 0) dX2_bondsOf_44 (by decide) ?_
      refine a_mask [true, true, false, true, false] ?_
      exact k_X2_bondsOf_l45 hT he
    · have hT := oifp c22 hT
      refine a_iconst (v := 1) dX2_bondsOf_40 (by decide) ?_
      refine a_goto 45 dX2_bondsOf_41 rfl ?_
      refine a_mask [true, true, false, true, false] ?_
      exact k_X2_bondsOf_l45 hT he
theorem k_X2_bondsOf_b10 {G : aG} {h0 : aH} {K : aRes → aH → Prop} {n9 : Nat} {x9 : (Int32 × Int32 × Nat × aH)} {e : (Int32 × aH)} (hT : wlo (t_X2_bondsOf_b10 (gZ G)) n9 x9 = some e) (he : (fun e => aTo (aEI e.1 e.2) K) e) : p_X2_bondsOf_b10 G h0 K x9 := wlo_W kb_X2_bondsOf_b10 n9 x9 e hT he
def t_X2_bondsOf (Z : aZ) (h : aH) (o : Nat) (x0 : Int32) : Option (Int32 × aH) :=
  (gA 1 2 h o).bind fun a2 =>
  if isC 8 h a2 = true then
  (t_J2_iterator Z h a2).bind fun r6 =>
  wlo (t_X2_bondsOf_b10 Z) 100 (x0, 0, r6.1, r6.2)
  else none
theorem k_X2_bondsOf {G : aG} {h : aH} {o : Nat} {x0 : Int32} {e : (Int32 × aH)} (hT : t_X2_bondsOf (gZ G) h o x0 = some e) : aMet G yX2_bondsOf (ws_ yX2_bondsOf cX2_bondsOf 5 (Option.some Jvm.ClassFile.FieldType.int)) 3 53 [.ref o, .int x0] h (aEI e.1 e.2) := by
  refine aMet.of (lv := [some (.ref o), some (.int x0), none, none, none]) (by decide) (Nat.le_of_ble_eq_true rfl) 3 rfl ?_
  have he : aTo (aEI e.1 e.2) (aEI e.1 e.2) := aTo.rf
  unfold t_X2_bondsOf at hT
  refine a_iconst (v := 0) dX2_bondsOf_0 (by decide) ?_
  refine a_istore_n (lv' := [some (.ref o), some (.int x0), some (.int 0), none, none]) dX2_bondsOf_1 rfl (by decide) rfl ?_
  refine a_aload_n dX2_bondsOf_2 rfl ?_
  obtain ⟨a2, e1, hT⟩ := obnd hT
  refine a_gA fl_X2_18_1 e1 dX2_bondsOf_3 ?_
  obtain ⟨g5, hT⟩ := oifg hT
  obtain ⟨r6, e7, hT⟩ := obnd hT
  refine a_callV kv_X2_37 g5 (k_J2_iterator e7) ⟨Nat.le_of_ble_eq_true rfl, Nat.le_of_ble_eq_true rfl⟩ (As := []) (rest := []) rfl rfl (Nat.le_of_ble_eq_true rfl) dX2_bondsOf_6 (kA ?_) xA
  refine a_astore_n (lv' := [some (.ref o), some (.int x0), some (.int 0), some (.ref r6.1), none]) dX2_bondsOf_9 rfl (by decide) rfl ?_
  refine a_mask [false, true, true, true, true] ?_
  exact k_X2_bondsOf_b10 hT he
theorem kv_X2_163 : aKV "MazeBonds$Core" 163 4 yX6_isOut cX6_isOut 1 (Option.some Jvm.ClassFile.FieldType.boolean) 0 := ⟨⟨TX6, 7, rfl⟩, Or.inl q750, q751, q752, q93, q753, ⟨by decide +kernel, by decide +kernel, by decide +kernel⟩⟩
theorem fl_X2_166_4 : aFL "MazeBonds$Core" 166 4 2 := ⟨RX6, TX6, 7, "MazeBonds$Visitor", rfl, in_X6, by decide, Or.inl rfl, Or.inr ⟨_, q505⟩⟩
abbrev M_X2_in : aM := (yX2_in.cls, cX2_in, 5, (Option.some Jvm.ClassFile.FieldType.int), [], yX2_in.name)
def p_X2_in_b10 (G : aG) (h0 : aH) (K : aRes → aH → Prop) (x9 : (Int32 × Int32 × Nat × aH)) : Prop := aW G M_X2_in 3 53 h0 K x9.2.2.2 10 [none, some (.int x9.1), some (.int x9.2.1), some (.ref x9.2.2.1), none] []
def t_X2_in_l53 (Z : aZ) (h : aH) (v1 : Int32) (v3 : Nat) (u0 : Int32) (u1 : Int32) : Option ((Int32 × Int32 × Nat × aH) ⊕ (Int32 × aH)) :=
  some (.inl (v1, (u1 + u0), v3, h))
theorem k_X2_in_l53 {G : aG} {h0 : aH} {K : aRes → aH → Prop} {h : aH} {v1 : Int32} {v3 : Nat} {u0 : Int32} {u1 : Int32} {e : ((Int32 × Int32 × Nat × aH) ⊕ (Int32 × aH))} (hT : t_X2_in_l53 (gZ G) h v1 v3 u0 u1 = some e) (he : (Sum.elim (p_X2_in_b10 G h0 K) (fun e => aTo (aEI e.1 e.2) K)) e) : aW G M_X2_in 3 53 h0 K h 53 [none, some (.int v1), none, some (.ref v3), none] [.int u0, .int u1] := by
  unfold t_X2_in_l53 at hT
  refine a_iadd dX2_in_53 ?_
  refine a_istore_n (lv' := [none, some (.int v1), some (.int (u1 + u0)), some (.ref v3), none]) dX2_in_54 rfl (by decide) rfl ?_
  refine a_goto 10 dX2_in_55 rfl ?_
  obtain rfl := Option.some.inj hT
  exact he
def t_X2_in_l52 (Z : aZ) (h : aH) (v1 : Int32) (v3 : Nat) (u0 : Int32) : Option ((Int32 × Int32 × Nat × aH) ⊕ (Int32 × aH)) :=
  t_X2_in_l53 Z h v1 v3 0 u0
theorem k_X2_in_l52 {G : aG} {h0 : aH} {K : aRes → aH → Prop} {h : aH} {v1 : Int32} {v3 : Nat} {u0 : Int32} {e : ((Int32 × Int32 × Nat × aH) ⊕ (Int32 × aH))} (hT : t_X2_in_l52 (gZ G) h v1 v3 u0 = some e) (he : (Sum.elim (p_X2_in_b10 G h0 K) (fun e => aTo (aEI e.1 e.2) K)) e) : aW G M_X2_in 3 53 h0 K h 52 [none, some (.int v1), none, some (.ref v3), none] [.int u0] := by
  unfold t_X2_in_l52 at hT
  refine a_iconst (v := 0) dX2_in_52 (by decide) ?_
  exact k_X2_in_l53 hT he
def t_X2_in_b10 (Z : aZ) : (Int32 × Int32 × Nat × aH) → Option ((Int32 × Int32 × Nat × aH) ⊕ (Int32 × aH)) := fun (v1, v2, v3, h) =>
  if isC 9 h v3 = true then
  (t_J7_hasNext Z h v3).bind fun r11 =>
  if r11.1 = 0 then
    some (.inr ((v2, r11.2)))
  else
    if isC 9 r11.2 v3 = true then
    (t_J7_next Z r11.2 v3).bind fun r17 =>
    if isC 4 r17.2 r17.1 = true then
    if isC 4 r17.2 r17.1 = true then
    (t_X6_isOut Z r17.2 r17.1).bind fun r23 =>
    if r23.1 = 0 then
      (gI 4 2 r23.2 r17.1).bind fun z27 =>
      if z27 = v1 then
        t_X2_in_l53 Z r23.2 v1 v3 1 v2
      else
        t_X2_in_l52 Z r23.2 v1 v3 v2
    else
      t_X2_in_l52 Z r23.2 v1 v3 v2
    else none
    else none
    else none
  else none
theorem kb_X2_in_b10 {G : aG} {h0 : aH} {K : aRes → aH → Prop} : ∀ (x9 : (Int32 × Int32 × Nat × aH)) (e : ((Int32 × Int32 × Nat × aH) ⊕ (Int32 × aH))), t_X2_in_b10 (gZ G) x9 = some e → (Sum.elim (p_X2_in_b10 G h0 K) (fun e => aTo (aEI e.1 e.2) K)) e → p_X2_in_b10 G h0 K x9 := by
  intro x9 e hT he
  obtain ⟨v1, v2, v3, h⟩ := x9
  unfold p_X2_in_b10
  unfold t_X2_in_b10 at hT
  show aW G M_X2_in 3 53 h0 K h 10 [none, some (.int v1), some (.int v2), some (.ref v3), none] []
  dsimp only at hT
  refine a_aload_n dX2_in_10 rfl ?_
  obtain ⟨g10, hT⟩ := oifg hT
  obtain ⟨r11, e12, hT⟩ := obnd hT
  refine a_callF kf_X2_41 g10 (k_J7_hasNext e12) ⟨Nat.le_of_ble_eq_true rfl, Nat.le_of_ble_eq_true rfl⟩ (As := []) (rest := []) rfl rfl (Nat.le_of_ble_eq_true rfl) dX2_in_11 (kI ?_) xI
  refine a_if_eq 58 dX2_in_16 rfl (fun c13 => ?_) (fun c13 => ?_)
  · have hT := oifp c13 hT
    refine a_iload_n dX2_in_58 rfl ?_
    obtain rfl := Option.some.inj hT
    exact a_iret rfl rfl dX2_in_59 (he _ _ ⟨rfl, rfl⟩)
  · have hT := oifn c13 hT
    refine a_aload_n dX2_in_19 rfl ?_
    obtain ⟨g16, hT⟩ := oifg hT
    obtain ⟨r17, e18, hT⟩ := obnd hT
    refine a_callF kf_X2_47 g16 (k_J7_next e18) ⟨Nat.le_of_ble_eq_true rfl, Nat.le_of_ble_eq_true rfl⟩ (As := []) (rest := []) rfl rfl (Nat.le_of_ble_eq_true rfl) dX2_in_20 (kA ?_) xA
    obtain ⟨g19, hT⟩ := oifg hT
    refine a_cast (ci := 4) rfl q488 g19 dX2_in_25 ?_
    refine a_astore (lv' := [none, some (.int v1), some (.int v2), some (.ref v3), some (.ref r17.1)]) dX2_in_28 rfl (by decide) rfl ?_
    refine a_iload_n dX2_in_30 rfl ?_
    refine a_aload dX2_in_31 rfl ?_
    obtain ⟨g22, hT⟩ := oifg hT
    obtain ⟨r23, e24, hT⟩ := obnd hT
    refine a_callV kv_X2_163 g22 (k_X6_isOut e24) ⟨Nat.le_of_ble_eq_true rfl, Nat.le_of_ble_eq_true rfl⟩ (As := []) (rest := [.int v2]) rfl rfl (Nat.le_of_ble_eq_true rfl) dX2_in_33 (kI ?_) xI
    refine a_if_ne 52 dX2_in_36 rfl (fun c25 => ?_) (fun c25 => ?_)
    · have hT := oifn c25 hT
      refine a_mask [true, true, false, true, false] ?_
      exact k_X2_in_l52 hT he
    · have hT := oifp c25 hT
      refine a_aload dX2_in_39 rfl ?_
      obtain ⟨z27, e26, hT⟩ := obnd hT
      refine a_gI fl_X2_166_4 e26 dX2_in_41 ?_
      refine a_iload_n dX2_in_44 rfl ?_
      refine a_icmp_ne 52 dX2_in_45 rfl (fun c28 => ?_) (fun c28 => ?_)
      · have hT := oifn c28 hT
        refine a_mask [true, true, false, true, false] ?_
        exact k_X2_in_l52 hT he
      · have hT := oifp c28 hT
        refine a_iconst (v := 1) dX2_in_48 (by decide) ?_
        refine a_goto 53 dX2_in_49 rfl ?_
        refine a_mask [true, true, false, true, false] ?_
        exact k_X2_in_l53 hT he
theorem k_X2_in_b10 {G : aG} {h0 : aH} {K : aRes → aH → Prop} {n9 : Nat} {x9 : (Int32 × Int32 × Nat × aH)} {e : (Int32 × aH)} (hT : wlo (t_X2_in_b10 (gZ G)) n9 x9 = some e) (he : (fun e => aTo (aEI e.1 e.2) K) e) : p_X2_in_b10 G h0 K x9 := wlo_W kb_X2_in_b10 n9 x9 e hT he
def t_X2_in (Z : aZ) (h : aH) (o : Nat) (x0 : Int32) : Option (Int32 × aH) :=
  (gA 1 2 h o).bind fun a2 =>
  if isC 8 h a2 = true then
  (t_J2_iterator Z h a2).bind fun r6 =>
  wlo (t_X2_in_b10 Z) 100 (x0, 0, r6.1, r6.2)
  else none
theorem k_X2_in {G : aG} {h : aH} {o : Nat} {x0 : Int32} {e : (Int32 × aH)} (hT : t_X2_in (gZ G) h o x0 = some e) : aMet G yX2_in (ws_ yX2_in cX2_in 5 (Option.some Jvm.ClassFile.FieldType.int)) 3 53 [.ref o, .int x0] h (aEI e.1 e.2) := by
  refine aMet.of (lv := [some (.ref o), some (.int x0), none, none, none]) (by decide) (Nat.le_of_ble_eq_true rfl) 3 rfl ?_
  have he : aTo (aEI e.1 e.2) (aEI e.1 e.2) := aTo.rf
  unfold t_X2_in at hT
  refine a_iconst (v := 0) dX2_in_0 (by decide) ?_
  refine a_istore_n (lv' := [some (.ref o), some (.int x0), some (.int 0), none, none]) dX2_in_1 rfl (by decide) rfl ?_
  refine a_aload_n dX2_in_2 rfl ?_
  obtain ⟨a2, e1, hT⟩ := obnd hT
  refine a_gA fl_X2_18_1 e1 dX2_in_3 ?_
  obtain ⟨g5, hT⟩ := oifg hT
  obtain ⟨r6, e7, hT⟩ := obnd hT
  refine a_callV kv_X2_37 g5 (k_J2_iterator e7) ⟨Nat.le_of_ble_eq_true rfl, Nat.le_of_ble_eq_true rfl⟩ (As := []) (rest := []) rfl rfl (Nat.le_of_ble_eq_true rfl) dX2_in_6 (kA ?_) xA
  refine a_astore_n (lv' := [some (.ref o), some (.int x0), some (.int 0), some (.ref r6.1), none]) dX2_in_9 rfl (by decide) rfl ?_
  refine a_mask [false, true, true, true, true] ?_
  exact k_X2_in_b10 hT he
abbrev M_X2_out : aM := (yX2_out.cls, cX2_out, 4, (Option.some Jvm.ClassFile.FieldType.int), [], yX2_out.name)
def p_X2_out_b10 (G : aG) (h0 : aH) (K : aRes → aH → Prop) (x9 : (Int32 × Nat × aH)) : Prop := aW G M_X2_out 3 53 h0 K x9.2.2 10 [none, some (.int x9.1), some (.ref x9.2.1), none] []
def t_X2_out_l42 (Z : aZ) (h : aH) (v2 : Nat) (u0 : Int32) (u1 : Int32) : Option ((Int32 × Nat × aH) ⊕ (Int32 × aH)) :=
  some (.inl ((u1 + u0), v2, h))
theorem k_X2_out_l42 {G : aG} {h0 : aH} {K : aRes → aH → Prop} {h : aH} {v2 : Nat} {u0 : Int32} {u1 : Int32} {e : ((Int32 × Nat × aH) ⊕ (Int32 × aH))} (hT : t_X2_out_l42 (gZ G) h v2 u0 u1 = some e) (he : (Sum.elim (p_X2_out_b10 G h0 K) (fun e => aTo (aEI e.1 e.2) K)) e) : aW G M_X2_out 3 53 h0 K h 42 [none, none, some (.ref v2), none] [.int u0, .int u1] := by
  unfold t_X2_out_l42 at hT
  refine a_iadd dX2_out_42 ?_
  refine a_istore_n (lv' := [none, some (.int (u1 + u0)), some (.ref v2), none]) dX2_out_43 rfl (by decide) rfl ?_
  refine a_goto 10 dX2_out_44 rfl ?_
  obtain rfl := Option.some.inj hT
  exact he
def t_X2_out_b10 (Z : aZ) : (Int32 × Nat × aH) → Option ((Int32 × Nat × aH) ⊕ (Int32 × aH)) := fun (v1, v2, h) =>
  if isC 9 h v2 = true then
  (t_J7_hasNext Z h v2).bind fun r11 =>
  if r11.1 = 0 then
    some (.inr ((v1, r11.2)))
  else
    if isC 9 r11.2 v2 = true then
    (t_J7_next Z r11.2 v2).bind fun r17 =>
    if isC 4 r17.2 r17.1 = true then
    if isC 4 r17.2 r17.1 = true then
    (t_X6_isOut Z r17.2 r17.1).bind fun r23 =>
    if r23.1 = 0 then
      t_X2_out_l42 Z r23.2 v2 0 v1
    else
      t_X2_out_l42 Z r23.2 v2 1 v1
    else none
    else none
    else none
  else none
theorem kb_X2_out_b10 {G : aG} {h0 : aH} {K : aRes → aH → Prop} : ∀ (x9 : (Int32 × Nat × aH)) (e : ((Int32 × Nat × aH) ⊕ (Int32 × aH))), t_X2_out_b10 (gZ G) x9 = some e → (Sum.elim (p_X2_out_b10 G h0 K) (fun e => aTo (aEI e.1 e.2) K)) e → p_X2_out_b10 G h0 K x9 := by
  intro x9 e hT he
  obtain ⟨v1, v2, h⟩ := x9
  unfold p_X2_out_b10
  unfold t_X2_out_b10 at hT
  show aW G M_X2_out 3 53 h0 K h 10 [none, some (.int v1), some (.ref v2), none] []
  dsimp only at hT
  refine a_aload_n dX2_out_10 rfl ?_
  obtain ⟨g10, hT⟩ := oifg hT
  obtain ⟨r11, e12, hT⟩ := obnd hT
  refine a_callF kf_X2_41 g10 (k_J7_hasNext e12) ⟨Nat.le_of_ble_eq_true rfl, Nat.le_of_ble_eq_true rfl⟩ (As := []) (rest := []) rfl rfl (Nat.le_of_ble_eq_true rfl) dX2_out_11 (kI ?_) xI
  refine a_if_eq 47 dX2_out_16 rfl (fun c13 => ?_) (fun c13 => ?_)
  · have hT := oifp c13 hT
    refine a_iload_n dX2_out_47 rfl ?_
    obtain rfl := Option.some.inj hT
    exact a_iret rfl rfl dX2_out_48 (he _ _ ⟨rfl, rfl⟩)
  · have hT := oifn c13 hT
    refine a_aload_n dX2_out_19 rfl ?_
    obtain ⟨g16, hT⟩ := oifg hT
    obtain ⟨r17, e18, hT⟩ := obnd hT
    refine a_callF kf_X2_47 g16 (k_J7_next e18) ⟨Nat.le_of_ble_eq_true rfl, Nat.le_of_ble_eq_true rfl⟩ (As := []) (rest := []) rfl rfl (Nat.le_of_ble_eq_true rfl) dX2_out_20 (kA ?_) xA
    obtain ⟨g19, hT⟩ := oifg hT
    refine a_cast (ci := 4) rfl q488 g19 dX2_out_25 ?_
    refine a_astore_n (lv' := [none, some (.int v1), some (.ref v2), some (.ref r17.1)]) dX2_out_28 rfl (by decide) rfl ?_
    refine a_iload_n dX2_out_29 rfl ?_
    refine a_aload_n dX2_out_30 rfl ?_
    obtain ⟨g22, hT⟩ := oifg hT
    obtain ⟨r23, e24, hT⟩ := obnd hT
    refine a_callV kv_X2_163 g22 (k_X6_isOut e24) ⟨Nat.le_of_ble_eq_true rfl, Nat.le_of_ble_eq_true rfl⟩ (As := []) (rest := [.int v1]) rfl rfl (Nat.le_of_ble_eq_true rfl) dX2_out_31 (kI ?_) xI
    refine a_if_eq 41 dX2_out_34 rfl (fun c25 => ?_) (fun c25 => ?_)
    · have hT := oifp c25 hT
      refine a_iconst (v := 0) dX2_out_41 (by decide) ?_
      refine a_mask [true, false, true, false] ?_
      exact k_X2_out_l42 hT he
    · have hT := oifn c25 hT
      refine a_iconst (v := 1) dX2_out_37 (by decide) ?_
      refine a_goto 42 dX2_out_38 rfl ?_
      refine a_mask [true, false, true, false] ?_
      exact k_X2_out_l42 hT he
theorem k_X2_out_b10 {G : aG} {h0 : aH} {K : aRes → aH → Prop} {n9 : Nat} {x9 : (Int32 × Nat × aH)} {e : (Int32 × aH)} (hT : wlo (t_X2_out_b10 (gZ G)) n9 x9 = some e) (he : (fun e => aTo (aEI e.1 e.2) K) e) : p_X2_out_b10 G h0 K x9 := wlo_W kb_X2_out_b10 n9 x9 e hT he
def t_X2_out (Z : aZ) (h : aH) (o : Nat) : Option (Int32 × aH) :=
  (gA 1 2 h o).bind fun a2 =>
  if isC 8 h a2 = true then
  (t_J2_iterator Z h a2).bind fun r6 =>
  wlo (t_X2_out_b10 Z) 100 (0, r6.1, r6.2)
  else none
theorem k_X2_out {G : aG} {h : aH} {o : Nat} {e : (Int32 × aH)} (hT : t_X2_out (gZ G) h o = some e) : aMet G yX2_out (ws_ yX2_out cX2_out 4 (Option.some Jvm.ClassFile.FieldType.int)) 3 53 [.ref o] h (aEI e.1 e.2) := by
  refine aMet.of (lv := [some (.ref o), none, none, none]) (by decide) (Nat.le_of_ble_eq_true rfl) 3 rfl ?_
  have he : aTo (aEI e.1 e.2) (aEI e.1 e.2) := aTo.rf
  unfold t_X2_out at hT
  refine a_iconst (v := 0) dX2_out_0 (by decide) ?_
  refine a_istore_n (lv' := [some (.ref o), some (.int 0), none, none]) dX2_out_1 rfl (by decide) rfl ?_
  refine a_aload_n dX2_out_2 rfl ?_
  obtain ⟨a2, e1, hT⟩ := obnd hT
  refine a_gA fl_X2_18_1 e1 dX2_out_3 ?_
  obtain ⟨g5, hT⟩ := oifg hT
  obtain ⟨r6, e7, hT⟩ := obnd hT
  refine a_callV kv_X2_37 g5 (k_J2_iterator e7) ⟨Nat.le_of_ble_eq_true rfl, Nat.le_of_ble_eq_true rfl⟩ (As := []) (rest := []) rfl rfl (Nat.le_of_ble_eq_true rfl) dX2_out_6 (kA ?_) xA
  refine a_astore_n (lv' := [some (.ref o), some (.int 0), some (.ref r6.1), none]) dX2_out_9 rfl (by decide) rfl ?_
  refine a_mask [false, true, true, true] ?_
  exact k_X2_out_b10 hT he
theorem fl_X2_228_4 : aFL "MazeBonds$Core" 228 4 6 := ⟨RX6, TX6, 7, "MazeBonds$Visitor", rfl, in_X6, by decide, Or.inl rfl, Or.inr ⟨_, q517⟩⟩
abbrev M_X2_voids : aM := (yX2_voids.cls, cX2_voids, 4, (Option.some Jvm.ClassFile.FieldType.int), [], yX2_voids.name)
def p_X2_voids_b10 (G : aG) (h0 : aH) (K : aRes → aH → Prop) (x9 : (Int32 × Nat × aH)) : Prop := aW G M_X2_voids 3 53 h0 K x9.2.2 10 [none, some (.int x9.1), some (.ref x9.2.1), none] []
def t_X2_voids_l42 (Z : aZ) (h : aH) (v2 : Nat) (u0 : Int32) (u1 : Int32) : Option ((Int32 × Nat × aH) ⊕ (Int32 × aH)) :=
  some (.inl ((u1 + u0), v2, h))
theorem k_X2_voids_l42 {G : aG} {h0 : aH} {K : aRes → aH → Prop} {h : aH} {v2 : Nat} {u0 : Int32} {u1 : Int32} {e : ((Int32 × Nat × aH) ⊕ (Int32 × aH))} (hT : t_X2_voids_l42 (gZ G) h v2 u0 u1 = some e) (he : (Sum.elim (p_X2_voids_b10 G h0 K) (fun e => aTo (aEI e.1 e.2) K)) e) : aW G M_X2_voids 3 53 h0 K h 42 [none, none, some (.ref v2), none] [.int u0, .int u1] := by
  unfold t_X2_voids_l42 at hT
  refine a_iadd dX2_voids_42 ?_
  refine a_istore_n (lv' := [none, some (.int (u1 + u0)), some (.ref v2), none]) dX2_voids_43 rfl (by decide) rfl ?_
  refine a_goto 10 dX2_voids_44 rfl ?_
  obtain rfl := Option.some.inj hT
  exact he
def t_X2_voids_b10 (Z : aZ) : (Int32 × Nat × aH) → Option ((Int32 × Nat × aH) ⊕ (Int32 × aH)) := fun (v1, v2, h) =>
  if isC 9 h v2 = true then
  (t_J7_hasNext Z h v2).bind fun r11 =>
  if r11.1 = 0 then
    some (.inr ((v1, r11.2)))
  else
    if isC 9 r11.2 v2 = true then
    (t_J7_next Z r11.2 v2).bind fun r17 =>
    if isC 4 r17.2 r17.1 = true then
    (gI 4 6 r17.2 r17.1).bind fun z21 =>
    if z21 = 0 then
      t_X2_voids_l42 Z r17.2 v2 0 v1
    else
      t_X2_voids_l42 Z r17.2 v2 1 v1
    else none
    else none
  else none
theorem kb_X2_voids_b10 {G : aG} {h0 : aH} {K : aRes → aH → Prop} : ∀ (x9 : (Int32 × Nat × aH)) (e : ((Int32 × Nat × aH) ⊕ (Int32 × aH))), t_X2_voids_b10 (gZ G) x9 = some e → (Sum.elim (p_X2_voids_b10 G h0 K) (fun e => aTo (aEI e.1 e.2) K)) e → p_X2_voids_b10 G h0 K x9 := by
  intro x9 e hT he
  obtain ⟨v1, v2, h⟩ := x9
  unfold p_X2_voids_b10
  unfold t_X2_voids_b10 at hT
  show aW G M_X2_voids 3 53 h0 K h 10 [none, some (.int v1), some (.ref v2), none] []
  dsimp only at hT
  refine a_aload_n dX2_voids_10 rfl ?_
  obtain ⟨g10, hT⟩ := oifg hT
  obtain ⟨r11, e12, hT⟩ := obnd hT
  refine a_callF kf_X2_41 g10 (k_J7_hasNext e12) ⟨Nat.le_of_ble_eq_true rfl, Nat.le_of_ble_eq_true rfl⟩ (As := []) (rest := []) rfl rfl (Nat.le_of_ble_eq_true rfl) dX2_voids_11 (kI ?_) xI
  refine a_if_eq 47 dX2_voids_16 rfl (fun c13 => ?_) (fun c13 => ?_)
  · have hT := oifp c13 hT
    refine a_iload_n dX2_voids_47 rfl ?_
    obtain rfl := Option.some.inj hT
    exact a_iret rfl rfl dX2_voids_48 (he _ _ ⟨rfl, rfl⟩)
  · have hT := oifn c13 hT
    refine a_aload_n dX2_voids_19 rfl ?_
    obtain ⟨g16, hT⟩ := oifg hT
    obtain ⟨r17, e18, hT⟩ := obnd hT
    refine a_callF kf_X2_47 g16 (k_J7_next e18) ⟨Nat.le_of_ble_eq_true rfl, Nat.le_of_ble_eq_true rfl⟩ (As := []) (rest := []) rfl rfl (Nat.le_of_ble_eq_true rfl) dX2_voids_20 (kA ?_) xA
    obtain ⟨g19, hT⟩ := oifg hT
    refine a_cast (ci := 4) rfl q488 g19 dX2_voids_25 ?_
    refine a_astore_n (lv' := [none, some (.int v1), some (.ref v2), some (.ref r17.1)]) dX2_voids_28 rfl (by decide) rfl ?_
    refine a_iload_n dX2_voids_29 rfl ?_
    refine a_aload_n dX2_voids_30 rfl ?_
    obtain ⟨z21, e20, hT⟩ := obnd hT
    refine a_gI fl_X2_228_4 e20 dX2_voids_31 ?_
    refine a_if_eq 41 dX2_voids_34 rfl (fun c22 => ?_) (fun c22 => ?_)
    · have hT := oifp c22 hT
      refine a_iconst (v := 0) dX2_voids_41 (by decide) ?_
      refine a_mask [true, false, true, false] ?_
      exact k_X2_voids_l42 hT he
    · have hT := oifn c22 hT
      refine a_iconst (v := 1) dX2_voids_37 (by decide) ?_
      refine a_goto 42 dX2_voids_38 rfl ?_
      refine a_mask [true, false, true, false] ?_
      exact k_X2_voids_l42 hT he
theorem k_X2_voids_b10 {G : aG} {h0 : aH} {K : aRes → aH → Prop} {n9 : Nat} {x9 : (Int32 × Nat × aH)} {e : (Int32 × aH)} (hT : wlo (t_X2_voids_b10 (gZ G)) n9 x9 = some e) (he : (fun e => aTo (aEI e.1 e.2) K) e) : p_X2_voids_b10 G h0 K x9 := wlo_W kb_X2_voids_b10 n9 x9 e hT he
def t_X2_voids (Z : aZ) (h : aH) (o : Nat) : Option (Int32 × aH) :=
  (gA 1 2 h o).bind fun a2 =>
  if isC 8 h a2 = true then
  (t_J2_iterator Z h a2).bind fun r6 =>
  wlo (t_X2_voids_b10 Z) 100 (0, r6.1, r6.2)
  else none
theorem k_X2_voids {G : aG} {h : aH} {o : Nat} {e : (Int32 × aH)} (hT : t_X2_voids (gZ G) h o = some e) : aMet G yX2_voids (ws_ yX2_voids cX2_voids 4 (Option.some Jvm.ClassFile.FieldType.int)) 3 53 [.ref o] h (aEI e.1 e.2) := by
  refine aMet.of (lv := [some (.ref o), none, none, none]) (by decide) (Nat.le_of_ble_eq_true rfl) 3 rfl ?_
  have he : aTo (aEI e.1 e.2) (aEI e.1 e.2) := aTo.rf
  unfold t_X2_voids at hT
  refine a_iconst (v := 0) dX2_voids_0 (by decide) ?_
  refine a_istore_n (lv' := [some (.ref o), some (.int 0), none, none]) dX2_voids_1 rfl (by decide) rfl ?_
  refine a_aload_n dX2_voids_2 rfl ?_
  obtain ⟨a2, e1, hT⟩ := obnd hT
  refine a_gA fl_X2_18_1 e1 dX2_voids_3 ?_
  obtain ⟨g5, hT⟩ := oifg hT
  obtain ⟨r6, e7, hT⟩ := obnd hT
  refine a_callV kv_X2_37 g5 (k_J2_iterator e7) ⟨Nat.le_of_ble_eq_true rfl, Nat.le_of_ble_eq_true rfl⟩ (As := []) (rest := []) rfl rfl (Nat.le_of_ble_eq_true rfl) dX2_voids_6 (kA ?_) xA
  refine a_astore_n (lv' := [some (.ref o), some (.int 0), some (.ref r6.1), none]) dX2_voids_9 rfl (by decide) rfl ?_
  refine a_mask [false, true, true, true] ?_
  exact k_X2_voids_b10 hT he
theorem ku_X2_210_4 : aKU "MazeBonds$Core" 210 4 ⟨"MazeBonds$Visitor", "coins", "()I"⟩ yX4_coins cX4_coins 1 (Option.some Jvm.ClassFile.FieldType.int) 0 := ⟨RX6, TX6, 7, rfl, rfl, q826, q496, q497, q393, q87, q394, ⟨by decide +kernel, by decide +kernel, by decide +kernel⟩⟩
theorem ku_X2_160_3 : aKU "MazeBonds$Core" 160 3 ⟨"MazeBonds$Gardener", "coins", "()I"⟩ yX4_coins cX4_coins 1 (Option.some Jvm.ClassFile.FieldType.int) 0 := ⟨RX5, TX5, 4, rfl, rfl, q738, q390, q392, q393, q87, q394, ⟨by decide +kernel, by decide +kernel, by decide +kernel⟩⟩
abbrev M_X2_coins : aM := (yX2_coins.cls, cX2_coins, 4, (Option.some Jvm.ClassFile.FieldType.int), [], yX2_coins.name)
def p_X2_coins_b10 (G : aG) (h0 : aH) (K : aRes → aH → Prop) (x9 : (Nat × Int32 × Nat × aH)) : Prop := aW G M_X2_coins 3 53 h0 K x9.2.2.2 10 [some (.ref x9.1), some (.int x9.2.1), some (.ref x9.2.2.1), none] []
def p_X2_coins_b47 (G : aG) (h0 : aH) (K : aRes → aH → Prop) (x9 : (Int32 × Nat × aH)) : Prop := aW G M_X2_coins 3 53 h0 K x9.2.2 47 [none, some (.int x9.1), some (.ref x9.2.1), none] []
def t_X2_coins_b47 (Z : aZ) : (Int32 × Nat × aH) → Option ((Int32 × Nat × aH) ⊕ (Int32 × aH)) := fun (v1, v2, h) =>
  if isC 9 h v2 = true then
  (t_J7_hasNext Z h v2).bind fun r24 =>
  if r24.1 = 0 then
    some (.inr ((v1, r24.2)))
  else
    if isC 9 r24.2 v2 = true then
    (t_J7_next Z r24.2 v2).bind fun r30 =>
    if isC 4 r30.2 r30.1 = true then
    if isC 4 r30.2 r30.1 = true then
    (t_X4_coins_4 Z r30.2 r30.1).bind fun r36 =>
    some (.inl ((v1 + r36.1), v2, r36.2))
    else none
    else none
    else none
  else none
theorem kb_X2_coins_b47 {G : aG} {h0 : aH} {K : aRes → aH → Prop} : ∀ (x9 : (Int32 × Nat × aH)) (e : ((Int32 × Nat × aH) ⊕ (Int32 × aH))), t_X2_coins_b47 (gZ G) x9 = some e → (Sum.elim (p_X2_coins_b47 G h0 K) (fun e => aTo (aEI e.1 e.2) K)) e → p_X2_coins_b47 G h0 K x9 := by
  intro x9 e hT he
  obtain ⟨v1, v2, h⟩ := x9
  unfold p_X2_coins_b47
  unfold t_X2_coins_b47 at hT
  show aW G M_X2_coins 3 53 h0 K h 47 [none, some (.int v1), some (.ref v2), none] []
  dsimp only at hT
  refine a_aload_n dX2_coins_47 rfl ?_
  obtain ⟨g23, hT⟩ := oifg hT
  obtain ⟨r24, e25, hT⟩ := obnd hT
  refine a_callF kf_X2_41 g23 (k_J7_hasNext e25) ⟨Nat.le_of_ble_eq_true rfl, Nat.le_of_ble_eq_true rfl⟩ (As := []) (rest := []) rfl rfl (Nat.le_of_ble_eq_true rfl) dX2_coins_48 (kI ?_) xI
  refine a_if_eq 76 dX2_coins_53 rfl (fun c26 => ?_) (fun c26 => ?_)
  · have hT := oifp c26 hT
    refine a_iload_n dX2_coins_76 rfl ?_
    obtain rfl := Option.some.inj hT
    exact a_iret rfl rfl dX2_coins_77 (he _ _ ⟨rfl, rfl⟩)
  · have hT := oifn c26 hT
    refine a_aload_n dX2_coins_56 rfl ?_
    obtain ⟨g29, hT⟩ := oifg hT
    obtain ⟨r30, e31, hT⟩ := obnd hT
    refine a_callF kf_X2_47 g29 (k_J7_next e31) ⟨Nat.le_of_ble_eq_true rfl, Nat.le_of_ble_eq_true rfl⟩ (As := []) (rest := []) rfl rfl (Nat.le_of_ble_eq_true rfl) dX2_coins_57 (kA ?_) xA
    obtain ⟨g32, hT⟩ := oifg hT
    refine a_cast (ci := 4) rfl q488 g32 dX2_coins_62 ?_
    refine a_astore_n (lv' := [none, some (.int v1), some (.ref v2), some (.ref r30.1)]) dX2_coins_65 rfl (by decide) rfl ?_
    refine a_iload_n dX2_coins_66 rfl ?_
    refine a_aload_n dX2_coins_67 rfl ?_
    obtain ⟨g35, hT⟩ := oifg hT
    obtain ⟨r36, e37, hT⟩ := obnd hT
    refine a_callU ku_X2_210_4 g35 (k_X4_coins_4 e37) ⟨Nat.le_of_ble_eq_true rfl, Nat.le_of_ble_eq_true rfl⟩ (As := []) (rest := [.int v1]) rfl rfl (Nat.le_of_ble_eq_true rfl) dX2_coins_68 (kI ?_) xI
    refine a_iadd dX2_coins_71 ?_
    refine a_istore_n (lv' := [none, some (.int (v1 + r36.1)), some (.ref v2), some (.ref r30.1)]) dX2_coins_72 rfl (by decide) rfl ?_
    refine a_goto 47 dX2_coins_73 rfl ?_
    obtain rfl := Option.some.inj hT
    refine a_mask [true, true, true, false] ?_
    exact he
theorem k_X2_coins_b47 {G : aG} {h0 : aH} {K : aRes → aH → Prop} {n9 : Nat} {x9 : (Int32 × Nat × aH)} {e : (Int32 × aH)} (hT : wlo (t_X2_coins_b47 (gZ G)) n9 x9 = some e) (he : (fun e => aTo (aEI e.1 e.2) K) e) : p_X2_coins_b47 G h0 K x9 := wlo_W kb_X2_coins_b47 n9 x9 e hT he
def t_X2_coins_l39 (Z : aZ) (h : aH) (v0 : Nat) (v1 : Int32) : Option (Int32 × aH) :=
  (gA 1 2 h v0).bind fun a15 =>
  if isC 8 h a15 = true then
  (t_J2_iterator Z h a15).bind fun r19 =>
  wlo (t_X2_coins_b47 Z) 100 (v1, r19.1, r19.2)
  else none
theorem k_X2_coins_l39 {G : aG} {h0 : aH} {K : aRes → aH → Prop} {h : aH} {v0 : Nat} {v1 : Int32} {e : (Int32 × aH)} (hT : t_X2_coins_l39 (gZ G) h v0 v1 = some e) (he : (fun e => aTo (aEI e.1 e.2) K) e) : aW G M_X2_coins 3 53 h0 K h 39 [some (.ref v0), some (.int v1), none, none] [] := by
  unfold t_X2_coins_l39 at hT
  refine a_aload_n dX2_coins_39 rfl ?_
  obtain ⟨a15, e14, hT⟩ := obnd hT
  refine a_gA fl_X2_18_1 e14 dX2_coins_40 ?_
  obtain ⟨g18, hT⟩ := oifg hT
  obtain ⟨r19, e20, hT⟩ := obnd hT
  refine a_callV kv_X2_37 g18 (k_J2_iterator e20) ⟨Nat.le_of_ble_eq_true rfl, Nat.le_of_ble_eq_true rfl⟩ (As := []) (rest := []) rfl rfl (Nat.le_of_ble_eq_true rfl) dX2_coins_43 (kA ?_) xA
  refine a_astore_n (lv' := [some (.ref v0), some (.int v1), some (.ref r19.1), none]) dX2_coins_46 rfl (by decide) rfl ?_
  refine a_mask [false, true, true, true] ?_
  exact k_X2_coins_b47 hT he
def t_X2_coins_b10 (Z : aZ) : (Nat × Int32 × Nat × aH) → Option ((Nat × Int32 × Nat × aH) ⊕ (Int32 × aH)) := fun (v0, v1, v2, h) =>
  if isC 9 h v2 = true then
  (t_J7_hasNext Z h v2).bind fun r11 =>
  if r11.1 = 0 then
    (t_X2_coins_l39 Z r11.2 v0 v1).map .inr
  else
    if isC 9 r11.2 v2 = true then
    (t_J7_next Z r11.2 v2).bind fun r41 =>
    if isC 3 r41.2 r41.1 = true then
    if isC 3 r41.2 r41.1 = true then
    (t_X4_coins_3 Z r41.2 r41.1).bind fun r47 =>
    some (.inl (v0, (v1 + r47.1), v2, r47.2))
    else none
    else none
    else none
  else none
theorem kb_X2_coins_b10 {G : aG} {h0 : aH} {K : aRes → aH → Prop} : ∀ (x9 : (Nat × Int32 × Nat × aH)) (e : ((Nat × Int32 × Nat × aH) ⊕ (Int32 × aH))), t_X2_coins_b10 (gZ G) x9 = some e → (Sum.elim (p_X2_coins_b10 G h0 K) (fun e => aTo (aEI e.1 e.2) K)) e → p_X2_coins_b10 G h0 K x9 := by
  intro x9 e hT he
  obtain ⟨v0, v1, v2, h⟩ := x9
  unfold p_X2_coins_b10
  unfold t_X2_coins_b10 at hT
  show aW G M_X2_coins 3 53 h0 K h 10 [some (.ref v0), some (.int v1), some (.ref v2), none] []
  dsimp only at hT
  refine a_aload_n dX2_coins_10 rfl ?_
  obtain ⟨g10, hT⟩ := oifg hT
  obtain ⟨r11, e12, hT⟩ := obnd hT
  refine a_callF kf_X2_41 g10 (k_J7_hasNext e12) ⟨Nat.le_of_ble_eq_true rfl, Nat.le_of_ble_eq_true rfl⟩ (As := []) (rest := []) rfl rfl (Nat.le_of_ble_eq_true rfl) dX2_coins_11 (kI ?_) xI
  refine a_if_eq 39 dX2_coins_16 rfl (fun c13 => ?_) (fun c13 => ?_)
  · have hT := oifp c13 hT
    refine a_mask [true, true, false, true] ?_
    obtain ⟨e8, hT8, rfl⟩ := omap hT
    exact k_X2_coins_l39 hT8 he
  · have hT := oifn c13 hT
    refine a_aload_n dX2_coins_19 rfl ?_
    obtain ⟨g40, hT⟩ := oifg hT
    obtain ⟨r41, e42, hT⟩ := obnd hT
    refine a_callF kf_X2_47 g40 (k_J7_next e42) ⟨Nat.le_of_ble_eq_true rfl, Nat.le_of_ble_eq_true rfl⟩ (As := []) (rest := []) rfl rfl (Nat.le_of_ble_eq_true rfl) dX2_coins_20 (kA ?_) xA
    obtain ⟨g43, hT⟩ := oifg hT
    refine a_cast (ci := 3) rfl q382 g43 dX2_coins_25 ?_
    refine a_astore_n (lv' := [some (.ref v0), some (.int v1), some (.ref v2), some (.ref r41.1)]) dX2_coins_28 rfl (by decide) rfl ?_
    refine a_iload_n dX2_coins_29 rfl ?_
    refine a_aload_n dX2_coins_30 rfl ?_
    obtain ⟨g46, hT⟩ := oifg hT
    obtain ⟨r47, e48, hT⟩ := obnd hT
    refine a_callU ku_X2_160_3 g46 (k_X4_coins_3 e48) ⟨Nat.le_of_ble_eq_true rfl, Nat.le_of_ble_eq_true rfl⟩ (As := []) (rest := [.int v1]) rfl rfl (Nat.le_of_ble_eq_true rfl) dX2_coins_31 (kI ?_) xI
    refine a_iadd dX2_coins_34 ?_
    refine a_istore_n (lv' := [some (.ref v0), some (.int (v1 + r47.1)), some (.ref v2), some (.ref r41.1)]) dX2_coins_35 rfl (by decide) rfl ?_
    refine a_goto 10 dX2_coins_36 rfl ?_
    obtain rfl := Option.some.inj hT
    refine a_mask [true, true, true, false] ?_
    exact he
theorem k_X2_coins_b10 {G : aG} {h0 : aH} {K : aRes → aH → Prop} {n9 : Nat} {x9 : (Nat × Int32 × Nat × aH)} {e : (Int32 × aH)} (hT : wlo (t_X2_coins_b10 (gZ G)) n9 x9 = some e) (he : (fun e => aTo (aEI e.1 e.2) K) e) : p_X2_coins_b10 G h0 K x9 := wlo_W kb_X2_coins_b10 n9 x9 e hT he
def t_X2_coins (Z : aZ) (h : aH) (o : Nat) : Option (Int32 × aH) :=
  (gA 1 1 h o).bind fun a2 =>
  if isC 8 h a2 = true then
  (t_J2_iterator Z h a2).bind fun r6 =>
  wlo (t_X2_coins_b10 Z) 100 (o, 0, r6.1, r6.2)
  else none
theorem k_X2_coins {G : aG} {h : aH} {o : Nat} {e : (Int32 × aH)} (hT : t_X2_coins (gZ G) h o = some e) : aMet G yX2_coins (ws_ yX2_coins cX2_coins 4 (Option.some Jvm.ClassFile.FieldType.int)) 3 53 [.ref o] h (aEI e.1 e.2) := by
  refine aMet.of (lv := [some (.ref o), none, none, none]) (by decide) (Nat.le_of_ble_eq_true rfl) 3 rfl ?_
  have he : aTo (aEI e.1 e.2) (aEI e.1 e.2) := aTo.rf
  unfold t_X2_coins at hT
  refine a_iconst (v := 0) dX2_coins_0 (by decide) ?_
  refine a_istore_n (lv' := [some (.ref o), some (.int 0), none, none]) dX2_coins_1 rfl (by decide) rfl ?_
  refine a_aload_n dX2_coins_2 rfl ?_
  obtain ⟨a2, e1, hT⟩ := obnd hT
  refine a_gA fl_X2_12_1 e1 dX2_coins_3 ?_
  obtain ⟨g5, hT⟩ := oifg hT
  obtain ⟨r6, e7, hT⟩ := obnd hT
  refine a_callV kv_X2_37 g5 (k_J2_iterator e7) ⟨Nat.le_of_ble_eq_true rfl, Nat.le_of_ble_eq_true rfl⟩ (As := []) (rest := []) rfl rfl (Nat.le_of_ble_eq_true rfl) dX2_coins_6 (kA ?_) xA
  refine a_astore_n (lv' := [some (.ref o), some (.int 0), some (.ref r6.1), none]) dX2_coins_9 rfl (by decide) rfl ?_
  exact k_X2_coins_b10 hT he
theorem fn_X5_7 : aFN "MazeBonds$Gardener" 7 3 [.int 0, .int 0, .int 0, .int 0] 4 := ⟨RX5, TX5, tyX5, rfl, in_X5, tyX5_ok, q387, q388, q88, by decide⟩
theorem ku_X5_9_3 : aKU "MazeBonds$Gardener" 9 3 ⟨"MazeBonds$Gardener", "coins", "()I"⟩ yX4_coins cX4_coins 1 (Option.some Jvm.ClassFile.FieldType.int) 0 := ⟨RX5, TX5, 4, rfl, rfl, q389, q390, q392, q393, q87, q394, ⟨by decide +kernel, by decide +kernel, by decide +kernel⟩⟩
theorem ki_X5_13 : aKI "MazeBonds$Gardener" 13 yX5_init cX5_init 2 1 := ⟨rfl, Or.inl q395, q396, q88, q397, ⟨by decide +kernel, by decide +kernel, by decide +kernel⟩⟩
theorem fl_X5_14_3 : aFL "MazeBonds$Gardener" 14 3 1 := ⟨RX5, TX5, 4, "MazeBonds$Gardener", rfl, in_X5, by decide, Or.inl rfl, Or.inl q402⟩
theorem fp_X5_14_3 (nm9 : String) : aFP "MazeBonds$Gardener" 14 3 1 .int nm9 := ⟨RX5, TX5, 4, "MazeBonds$Gardener", tyX5, rfl, in_X5, by decide, Or.inl rfl, Or.inl q402, tyX5_ok, nmX5, rfl, Or.inl rfl⟩
theorem fl_X5_18_3 : aFL "MazeBonds$Gardener" 18 3 2 := ⟨RX5, TX5, 4, "MazeBonds$Gardener", rfl, in_X5, by decide, Or.inl rfl, Or.inl q405⟩
theorem fp_X5_18_3 (nm9 : String) : aFP "MazeBonds$Gardener" 18 3 2 .int nm9 := ⟨RX5, TX5, 4, "MazeBonds$Gardener", tyX5, rfl, in_X5, by decide, Or.inl rfl, Or.inl q405, tyX5_ok, nmX5, rfl, Or.inl rfl⟩
theorem fl_X5_21_3 : aFL "MazeBonds$Gardener" 21 3 3 := ⟨RX5, TX5, 4, "MazeBonds$Gardener", rfl, in_X5, by decide, Or.inl rfl, Or.inl q408⟩
theorem fp_X5_21_3 (nm9 : String) : aFP "MazeBonds$Gardener" 21 3 3 .int nm9 := ⟨RX5, TX5, 4, "MazeBonds$Gardener", tyX5, rfl, in_X5, by decide, Or.inl rfl, Or.inl q408, tyX5_ok, nmX5, rfl, Or.inl rfl⟩
abbrev M_X5_copy : aM := (yX5_copy.cls, cX5_copy, 2, (Option.some (Jvm.ClassFile.FieldType.object "MazeBonds$Gardener")), [], yX5_copy.name)
def t_X5_copy (Z : aZ) (h : aH) (o : Nat) : Option (Nat × aH) :=
  (nw Z h (.inr (3, [.int 0, .int 0, .int 0, .int 0])) 4).bind fun h1 =>
  if isC 3 h1 o = true then
  (t_X4_coins_3 Z h1 o).bind fun r6 =>
  (t_X5_init Z r6.2 h.2.1 r6.1).bind fun r10 =>
  (gI 3 1 r10.2 o).bind fun z13 =>
  (pF 3 1 Z r10.2 h.2.1 (.int z13)).bind fun h15 =>
  (gI 3 2 h15 o).bind fun z17 =>
  (pF 3 2 Z h15 h.2.1 (.int z17)).bind fun h19 =>
  (gI 3 3 h19 o).bind fun z21 =>
  (pF 3 3 Z h19 h.2.1 (.int z21)).bind fun h23 =>
  some (h.2.1, h23)
  else none
theorem k_X5_copy {G : aG} {h : aH} {o : Nat} {e : (Nat × aH)} (hT : t_X5_copy (gZ G) h o = some e) : aMet G yX5_copy (ws_ yX5_copy cX5_copy 2 (Option.some (Jvm.ClassFile.FieldType.object "MazeBonds$Gardener"))) 3 54 [.ref o] h (aEA e.1 e.2) := by
  refine aMet.of (lv := [some (.ref o), none]) (by decide) (Nat.le_of_ble_eq_true rfl) 1 rfl ?_
  have he : aTo (aEA e.1 e.2) (aEA e.1 e.2) := aTo.rf
  unfold t_X5_copy at hT
  obtain ⟨h1, e2, hT⟩ := obnd hT
  refine a_new fn_X5_7 e2 dX5_copy_0 ?_
  refine a_dup dX5_copy_3 rfl ?_
  refine a_aload_n dX5_copy_4 rfl ?_
  obtain ⟨g5, hT⟩ := oifg hT
  obtain ⟨r6, e7, hT⟩ := obnd hT
  refine a_callU ku_X5_9_3 g5 (k_X4_coins_3 e7) ⟨Nat.le_of_ble_eq_true rfl, Nat.le_of_ble_eq_true rfl⟩ (As := []) (rest := [.ref h.2.1, .ref h.2.1]) rfl rfl (Nat.le_of_ble_eq_true rfl) dX5_copy_5 (kI ?_) xI
  obtain ⟨r10, e11, hT⟩ := obnd hT
  refine a_callI ki_X5_13 (k_X5_init e11) ⟨Nat.le_of_ble_eq_true rfl, Nat.le_of_ble_eq_true rfl⟩ (As := [.int r6.1]) (rest := [.ref h.2.1]) rfl rfl (Nat.le_of_ble_eq_true rfl) dX5_copy_8 (kV ?_) xV
  refine a_astore_n (lv' := [some (.ref o), some (.ref h.2.1)]) dX5_copy_11 rfl (by decide) rfl ?_
  refine a_aload_n dX5_copy_12 rfl ?_
  refine a_aload_n dX5_copy_13 rfl ?_
  obtain ⟨z13, e12, hT⟩ := obnd hT
  refine a_gI fl_X5_14_3 e12 dX5_copy_14 ?_
  obtain ⟨h15, e14, hT⟩ := obnd hT
  refine a_put (fp_X5_14_3 _) ⟨rfl, rfl⟩ e14 dX5_copy_17 ?_
  refine a_aload_n dX5_copy_20 rfl ?_
  refine a_aload_n dX5_copy_21 rfl ?_
  obtain ⟨z17, e16, hT⟩ := obnd hT
  refine a_gI fl_X5_18_3 e16 dX5_copy_22 ?_
  obtain ⟨h19, e18, hT⟩ := obnd hT
  refine a_put (fp_X5_18_3 _) ⟨rfl, rfl⟩ e18 dX5_copy_25 ?_
  refine a_aload_n dX5_copy_28 rfl ?_
  refine a_aload_n dX5_copy_29 rfl ?_
  obtain ⟨z21, e20, hT⟩ := obnd hT
  refine a_gI fl_X5_21_3 e20 dX5_copy_30 ?_
  obtain ⟨h23, e22, hT⟩ := obnd hT
  refine a_put (fp_X5_21_3 _) ⟨rfl, rfl⟩ e22 dX5_copy_33 ?_
  refine a_aload_n dX5_copy_36 rfl ?_
  obtain rfl := Option.some.inj hT
  exact a_aret rfl (Or.inl ⟨_, rfl⟩) dX5_copy_37 (he _ _ ⟨rfl, rfl⟩)
theorem fn_X6_10 : aFN "MazeBonds$Visitor" 10 4 [.int 0, .int 0, .int 0, .int 0, .int 0, .int 0, .int 0] 7 := ⟨RX6, TX6, tyX6, rfl, in_X6, tyX6_ok, q493, q494, q93, by decide⟩
theorem ku_X6_21_4 : aKU "MazeBonds$Visitor" 21 4 ⟨"MazeBonds$Visitor", "coins", "()I"⟩ yX4_coins cX4_coins 1 (Option.some Jvm.ClassFile.FieldType.int) 0 := ⟨RX6, TX6, 7, rfl, rfl, q495, q496, q497, q393, q87, q394, ⟨by decide +kernel, by decide +kernel, by decide +kernel⟩⟩
theorem ki_X6_25 : aKI "MazeBonds$Visitor" 25 yX6_init cX6_init 3 2 := ⟨rfl, Or.inl q498, q499, q93, q500, ⟨by decide +kernel, by decide +kernel, by decide +kernel⟩⟩
theorem fp_X6_9_4 (nm9 : String) : aFP "MazeBonds$Visitor" 9 4 2 .int nm9 := ⟨RX6, TX6, 7, "MazeBonds$Visitor", tyX6, rfl, in_X6, by decide, Or.inl rfl, Or.inl q504, tyX6_ok, nmX6, rfl, Or.inl rfl⟩
theorem fp_X6_28_4 (nm9 : String) : aFP "MazeBonds$Visitor" 28 4 3 .int nm9 := ⟨RX6, TX6, 7, "MazeBonds$Visitor", tyX6, rfl, in_X6, by decide, Or.inl rfl, Or.inl q507, tyX6_ok, nmX6, rfl, Or.inl rfl⟩
theorem fl_X6_31_4 : aFL "MazeBonds$Visitor" 31 4 5 := ⟨RX6, TX6, 7, "MazeBonds$Visitor", rfl, in_X6, by decide, Or.inl rfl, Or.inl q513⟩
theorem fl_X6_34_4 : aFL "MazeBonds$Visitor" 34 4 6 := ⟨RX6, TX6, 7, "MazeBonds$Visitor", rfl, in_X6, by decide, Or.inl rfl, Or.inl q516⟩
abbrev M_X6_copy : aM := (yX6_copy.cls, cX6_copy, 2, (Option.some (Jvm.ClassFile.FieldType.object "MazeBonds$Visitor")), [], yX6_copy.name)
def t_X6_copy (Z : aZ) (h : aH) (o : Nat) : Option (Nat × aH) :=
  (nw Z h (.inr (4, [.int 0, .int 0, .int 0, .int 0, .int 0, .int 0, .int 0])) 7).bind fun h1 =>
  if isC 4 h1 o = true then
  (t_X4_coins_4 Z h1 o).bind fun r6 =>
  (gI 4 1 r6.2 o).bind fun z9 =>
  (t_X6_init Z r6.2 h.2.1 r6.1 z9).bind fun r12 =>
  (gI 4 2 r12.2 o).bind fun z15 =>
  (pF 4 2 Z r12.2 h.2.1 (.int z15)).bind fun h17 =>
  (gI 4 3 h17 o).bind fun z19 =>
  (pF 4 3 Z h17 h.2.1 (.int z19)).bind fun h21 =>
  (gI 4 4 h21 o).bind fun z23 =>
  (pF 4 4 Z h21 h.2.1 (.int z23)).bind fun h25 =>
  (gI 4 5 h25 o).bind fun z27 =>
  (pF 4 5 Z h25 h.2.1 (.int z27)).bind fun h29 =>
  (gI 4 6 h29 o).bind fun z31 =>
  if z31 = 0 ∨ z31 = 1 then
  (pF 4 6 Z h29 h.2.1 (.int z31)).bind fun h34 =>
  some (h.2.1, h34)
  else none
  else none
theorem k_X6_copy {G : aG} {h : aH} {o : Nat} {e : (Nat × aH)} (hT : t_X6_copy (gZ G) h o = some e) : aMet G yX6_copy (ws_ yX6_copy cX6_copy 2 (Option.some (Jvm.ClassFile.FieldType.object "MazeBonds$Visitor"))) 3 55 [.ref o] h (aEA e.1 e.2) := by
  refine aMet.of (lv := [some (.ref o), none]) (by decide) (Nat.le_of_ble_eq_true rfl) 1 rfl ?_
  have he : aTo (aEA e.1 e.2) (aEA e.1 e.2) := aTo.rf
  unfold t_X6_copy at hT
  obtain ⟨h1, e2, hT⟩ := obnd hT
  refine a_new fn_X6_10 e2 dX6_copy_0 ?_
  refine a_dup dX6_copy_3 rfl ?_
  refine a_aload_n dX6_copy_4 rfl ?_
  obtain ⟨g5, hT⟩ := oifg hT
  obtain ⟨r6, e7, hT⟩ := obnd hT
  refine a_callU ku_X6_21_4 g5 (k_X4_coins_4 e7) ⟨Nat.le_of_ble_eq_true rfl, Nat.le_of_ble_eq_true rfl⟩ (As := []) (rest := [.ref h.2.1, .ref h.2.1]) rfl rfl (Nat.le_of_ble_eq_true rfl) dX6_copy_5 (kI ?_) xI
  refine a_aload_n dX6_copy_8 rfl ?_
  obtain ⟨z9, e8, hT⟩ := obnd hT
  refine a_gI fl_X6_18_4 e8 dX6_copy_9 ?_
  obtain ⟨r12, e13, hT⟩ := obnd hT
  refine a_callI ki_X6_25 (k_X6_init e13) ⟨Nat.le_of_ble_eq_true rfl, Nat.le_of_ble_eq_true rfl⟩ (As := [.int r6.1, .int z9]) (rest := [.ref h.2.1]) rfl rfl (Nat.le_of_ble_eq_true rfl) dX6_copy_12 (kV ?_) xV
  refine a_astore_n (lv' := [some (.ref o), some (.ref h.2.1)]) dX6_copy_15 rfl (by decide) rfl ?_
  refine a_aload_n dX6_copy_16 rfl ?_
  refine a_aload_n dX6_copy_17 rfl ?_
  obtain ⟨z15, e14, hT⟩ := obnd hT
  refine a_gI fl_X6_9_4 e14 dX6_copy_18 ?_
  obtain ⟨h17, e16, hT⟩ := obnd hT
  refine a_put (fp_X6_9_4 _) ⟨rfl, rfl⟩ e16 dX6_copy_21 ?_
  refine a_aload_n dX6_copy_24 rfl ?_
  refine a_aload_n dX6_copy_25 rfl ?_
  obtain ⟨z19, e18, hT⟩ := obnd hT
  refine a_gI fl_X6_28_4 e18 dX6_copy_26 ?_
  obtain ⟨h21, e20, hT⟩ := obnd hT
  refine a_put (fp_X6_28_4 _) ⟨rfl, rfl⟩ e20 dX6_copy_29 ?_
  refine a_aload_n dX6_copy_32 rfl ?_
  refine a_aload_n dX6_copy_33 rfl ?_
  obtain ⟨z23, e22, hT⟩ := obnd hT
  refine a_gI fl_X6_15_4 e22 dX6_copy_34 ?_
  obtain ⟨h25, e24, hT⟩ := obnd hT
  refine a_put (fp_X6_15_4 _) ⟨rfl, rfl⟩ e24 dX6_copy_37 ?_
  refine a_aload_n dX6_copy_40 rfl ?_
  refine a_aload_n dX6_copy_41 rfl ?_
  obtain ⟨z27, e26, hT⟩ := obnd hT
  refine a_gI fl_X6_31_4 e26 dX6_copy_42 ?_
  obtain ⟨h29, e28, hT⟩ := obnd hT
  refine a_put (fp_X6_31_4 _) ⟨rfl, rfl⟩ e28 dX6_copy_45 ?_
  refine a_aload_n dX6_copy_48 rfl ?_
  refine a_aload_n dX6_copy_49 rfl ?_
  obtain ⟨z31, e30, hT⟩ := obnd hT
  refine a_gI fl_X6_34_4 e30 dX6_copy_50 ?_
  obtain ⟨g33, hT⟩ := oifg hT
  obtain ⟨h34, e32, hT⟩ := obnd hT
  refine a_put (fp_X6_34_4 _) (nZf g33) e32 dX6_copy_53 ?_
  refine a_aload_n dX6_copy_56 rfl ?_
  obtain rfl := Option.some.inj hT
  exact a_aret rfl (Or.inl ⟨_, rfl⟩) dX6_copy_57 (he _ _ ⟨rfl, rfl⟩)
theorem kv_X6_48 : aKV "MazeBonds$Visitor" 48 4 yX6_hasBond cX6_hasBond 1 (Option.some Jvm.ClassFile.FieldType.boolean) 0 := ⟨⟨TX6, 7, rfl⟩, Or.inl q758, q759, q760, q93, q761, ⟨by decide +kernel, by decide +kernel, by decide +kernel⟩⟩
abbrev M_X6_meet : aM := (yX6_meet.cls, cX6_meet, 1, (Option.none : Option Jvm.ClassFile.FieldType), [], yX6_meet.name)
def t_X6_meet (Z : aZ) (h : aH) (o : Nat) : Option (Unit × aH) :=
  (gI 4 6 h o).bind fun z2 =>
  if isC 4 h o = true then
  (t_X6_hasBond Z h o).bind fun r6 =>
  if (z2 ||| r6.1) = 0 ∨ (z2 ||| r6.1) = 1 then
  (pF 4 6 Z r6.2 o (.int (z2 ||| r6.1))).bind fun h10 =>
  some ((), h10)
  else none
  else none
theorem k_X6_meet {G : aG} {h : aH} {o : Nat} {e : (Unit × aH)} (hT : t_X6_meet (gZ G) h o = some e) : aMet G yX6_meet (ws_ yX6_meet cX6_meet 1 (Option.none : Option Jvm.ClassFile.FieldType)) 2 21 [.ref o] h (aEV e.1 e.2) := by
  refine aMet.of (lv := [some (.ref o)]) (by decide) (Nat.le_of_ble_eq_true rfl) 0 rfl ?_
  have he : aTo (aEV e.1 e.2) (aEV e.1 e.2) := aTo.rf
  unfold t_X6_meet at hT
  refine a_aload_n dX6_meet_0 rfl ?_
  refine a_dup dX6_meet_1 rfl ?_
  obtain ⟨z2, e1, hT⟩ := obnd hT
  refine a_gI fl_X6_34_4 e1 dX6_meet_2 ?_
  refine a_aload_n dX6_meet_5 rfl ?_
  obtain ⟨g5, hT⟩ := oifg hT
  obtain ⟨r6, e7, hT⟩ := obnd hT
  refine a_callV kv_X6_48 g5 (k_X6_hasBond e7) ⟨Nat.le_of_ble_eq_true rfl, Nat.le_of_ble_eq_true rfl⟩ (As := []) (rest := [.int z2, .ref o]) rfl rfl (Nat.le_of_ble_eq_true rfl) dX6_meet_6 (kI ?_) xI
  refine a_ior dX6_meet_9 ?_
  obtain ⟨g9, hT⟩ := oifg hT
  obtain ⟨h10, e8, hT⟩ := obnd hT
  refine a_put (fp_X6_34_4 _) (nZf g9) e8 dX6_meet_10 ?_
  obtain rfl := Option.some.inj hT
  exact a_vret rfl dX6_meet_13 (he _ _ ⟨rfl, rfl⟩)
abbrev M_X6_dueWith : aM := (yX6_dueWith.cls, cX6_dueWith, 2, (Option.some Jvm.ClassFile.FieldType.int), [], yX6_dueWith.name)
def t_X6_dueWith (Z : aZ) (h : aH) (o : Nat) (x0 : Int32) : Option (Int32 × aH) :=
  (gI 4 6 h o).bind fun z2 =>
  if z2 = 0 then
    (gI 4 5 h o).bind fun z5 =>
    if isC 4 h o = true then
    (t_X6_lostWith Z h o x0).bind fun r9 =>
    some ((z5 * r9.1), r9.2)
    else none
  else
    some (0, h)
theorem k_X6_dueWith {G : aG} {h : aH} {o : Nat} {x0 : Int32} {e : (Int32 × aH)} (hT : t_X6_dueWith (gZ G) h o x0 = some e) : aMet G yX6_dueWith (ws_ yX6_dueWith cX6_dueWith 2 (Option.some Jvm.ClassFile.FieldType.int)) 2 61 [.ref o, .int x0] h (aEI e.1 e.2) := by
  refine aMet.of (lv := [some (.ref o), some (.int x0)]) (by decide) (Nat.le_of_ble_eq_true rfl) 0 rfl ?_
  have he : aTo (aEI e.1 e.2) (aEI e.1 e.2) := aTo.rf
  unfold t_X6_dueWith at hT
  refine a_aload_n dX6_dueWith_0 rfl ?_
  obtain ⟨z2, e1, hT⟩ := obnd hT
  refine a_gI fl_X6_34_4 e1 dX6_dueWith_1 ?_
  refine a_if_eq 11 dX6_dueWith_4 rfl (fun c3 => ?_) (fun c3 => ?_)
  · have hT := oifp c3 hT
    refine a_aload_n dX6_dueWith_11 rfl ?_
    obtain ⟨z5, e4, hT⟩ := obnd hT
    refine a_gI fl_X6_31_4 e4 dX6_dueWith_12 ?_
    refine a_aload_n dX6_dueWith_15 rfl ?_
    refine a_iload_n dX6_dueWith_16 rfl ?_
    obtain ⟨g8, hT⟩ := oifg hT
    obtain ⟨r9, e10, hT⟩ := obnd hT
    refine a_callV kv_X6_44 g8 (k_X6_lostWith e10) ⟨Nat.le_of_ble_eq_true rfl, Nat.le_of_ble_eq_true rfl⟩ (As := [.int x0]) (rest := [.int z5]) rfl rfl (Nat.le_of_ble_eq_true rfl) dX6_dueWith_17 (kI ?_) xI
    refine a_imul dX6_dueWith_20 ?_
    obtain rfl := Option.some.inj hT
    exact a_iret rfl rfl dX6_dueWith_21 (he _ _ ⟨rfl, rfl⟩)
  · have hT := oifn c3 hT
    refine a_iconst (v := 0) dX6_dueWith_7 (by decide) ?_
    refine a_goto 21 dX6_dueWith_8 rfl ?_
    obtain rfl := Option.some.inj hT
    exact a_iret rfl rfl dX6_dueWith_21 (he _ _ ⟨rfl, rfl⟩)
theorem ki_X7_19 : aKI "MazeBonds$RefusedException" 19 yX7_init_2 cX7_init_2 4 3 := ⟨rfl, Or.inl q653, q654, q94, q655, ⟨by decide +kernel, by decide +kernel, by decide +kernel⟩⟩
abbrev M_X7_init : aM := (yX7_init.cls, cX7_init, 3, (Option.none : Option Jvm.ClassFile.FieldType), [], yX7_init.name)
def t_X7_init (Z : aZ) (h : aH) (o : Nat) (x0 : Int32) (x1 : Int32) : Option (Unit × aH) :=
  (t_X7_init_2 Z h o x0 x1 0).bind fun r3 =>
  some ((), r3.2)
theorem k_X7_init {G : aG} {h : aH} {o : Nat} {x0 : Int32} {x1 : Int32} {e : (Unit × aH)} (hT : t_X7_init (gZ G) h o x0 x1 = some e) : aMet G yX7_init (ws_ yX7_init cX7_init 3 (Option.none : Option Jvm.ClassFile.FieldType)) 4 83 [.ref o, .int x0, .int x1] h (aEV e.1 e.2) := by
  refine aMet.of (lv := [some (.ref o), some (.int x0), some (.int x1)]) (by decide) (Nat.le_of_ble_eq_true rfl) 0 rfl ?_
  have he : aTo (aEV e.1 e.2) (aEV e.1 e.2) := aTo.rf
  unfold t_X7_init at hT
  refine a_aload_n dX7_init_0 rfl ?_
  refine a_iload_n dX7_init_1 rfl ?_
  refine a_iload_n dX7_init_2 rfl ?_
  refine a_iconst (v := 0) dX7_init_3 (by decide) ?_
  obtain ⟨r3, e4, hT⟩ := obnd hT
  refine a_callI ki_X7_19 (k_X7_init_2 e4) ⟨Nat.le_of_ble_eq_true rfl, Nat.le_of_ble_eq_true rfl⟩ (As := [.int x0, .int x1, .int 0]) (rest := []) rfl rfl (Nat.le_of_ble_eq_true rfl) dX7_init_4 (kV ?_) xV
  obtain rfl := Option.some.inj hT
  exact a_vret rfl dX7_init_7 (he _ _ ⟨rfl, rfl⟩)
theorem kv_X8_35 : aKV "MazeBonds$Reader" 35 6 yX8_sees cX8_sees 3 (Option.some Jvm.ClassFile.FieldType.boolean) 2 := ⟨⟨TX8, 5, rfl⟩, Or.inl q1299, q1301, qs22, q104, q1302, ⟨by decide +kernel, by decide +kernel, by decide +kernel⟩⟩
abbrev M_X8_number : aM := (yX8_number.cls, cX8_number, 4, (Option.some Jvm.ClassFile.FieldType.int), [], yX8_number.name)
def p_X8_number_b16 (G : aG) (h0 : aH) (K : aRes → aH → Prop) (x9 : (Nat × Int32 × Int32 × Int32 × aH)) : Prop := aW G M_X8_number 5 102 h0 K x9.2.2.2.2 16 [some (.ref x9.1), some (.int x9.2.1), some (.int x9.2.2.1), some (.int x9.2.2.2.1)] []
def t_X8_number_b16 (Z : aZ) : (Nat × Int32 × Int32 × Int32 × aH) → Option ((Nat × Int32 × Int32 × Int32 × aH) ⊕ ((Int32 ⊕ aXX) × aH)) := fun (v0, v1, v2, v3, h) =>
  if v1 ≤ v3 then
    some (.inr ((.inl v2, h)))
  else
    if isC 6 h v0 = true then
    (t_X8_sees Z h v0 48 57).bind fun r17 =>
    if r17.1 = 0 then
      some (.inr ((.inl v2, r17.2)))
    else
      (gA 6 4 r17.2 v0).bind fun a21 =>
      (gA 0 4 r17.2 a21).bind fun a23 =>
      (gI 6 0 r17.2 v0).bind fun z25 =>
      (ldC Z r17.2 a23 z25).bind fun z27 =>
      (gI 6 0 r17.2 v0).bind fun z29 =>
      (pF 6 0 Z r17.2 v0 (.int (z29 + 1))).bind fun h31 =>
      some (.inl (v0, v1, (((10 * v2) + z27) - 48), (v3 + 1), h31))
    else none
theorem kb_X8_number_b16 {G : aG} {h0 : aH} {K : aRes → aH → Prop} : ∀ (x9 : (Nat × Int32 × Int32 × Int32 × aH)) (e : ((Nat × Int32 × Int32 × Int32 × aH) ⊕ ((Int32 ⊕ aXX) × aH))), t_X8_number_b16 (gZ G) x9 = some e → (Sum.elim (p_X8_number_b16 G h0 K) (fun e => aTo (aXI e.1 e.2) K)) e → p_X8_number_b16 G h0 K x9 := by
  intro x9 e hT he
  obtain ⟨v0, v1, v2, v3, h⟩ := x9
  unfold p_X8_number_b16
  unfold t_X8_number_b16 at hT
  show aW G M_X8_number 5 102 h0 K h 16 [some (.ref v0), some (.int v1), some (.int v2), some (.int v3)] []
  dsimp only at hT
  refine a_iload_n dX8_number_16 rfl ?_
  refine a_iload_n dX8_number_17 rfl ?_
  refine a_icmp_ge 69 dX8_number_18 rfl (fun c13 => ?_) (fun c13 => ?_)
  · have hT := oifp c13 hT
    refine a_iload_n dX8_number_69 rfl ?_
    obtain rfl := Option.some.inj hT
    exact a_iret rfl rfl dX8_number_70 (he _ _ ⟨rfl, rfl⟩)
  · have hT := oifn c13 hT
    refine a_aload_n dX8_number_21 rfl ?_
    refine a_bipush (v := 48) dX8_number_22 (by decide) ?_
    refine a_bipush (v := 57) dX8_number_24 (by decide) ?_
    obtain ⟨g16, hT⟩ := oifg hT
    obtain ⟨r17, e18, hT⟩ := obnd hT
    refine a_callV kv_X8_35 g16 (k_X8_sees e18) ⟨Nat.le_of_ble_eq_true rfl, Nat.le_of_ble_eq_true rfl⟩ (As := [.int 48, .int 57]) (rest := []) rfl rfl (Nat.le_of_ble_eq_true rfl) dX8_number_26 (kI ?_) xI
    refine a_if_eq 69 dX8_number_29 rfl (fun c19 => ?_) (fun c19 => ?_)
    · have hT := oifp c19 hT
      refine a_iload_n dX8_number_69 rfl ?_
      obtain rfl := Option.some.inj hT
      exact a_iret rfl rfl dX8_number_70 (he _ _ ⟨rfl, rfl⟩)
    · have hT := oifn c19 hT
      refine a_bipush (v := 10) dX8_number_32 (by decide) ?_
      refine a_iload_n dX8_number_34 rfl ?_
      refine a_imul dX8_number_35 ?_
      refine a_aload_n dX8_number_36 rfl ?_
      obtain ⟨a21, e20, hT⟩ := obnd hT
      refine a_gA fl_X8_3_6 e20 dX8_number_37 ?_
      obtain ⟨a23, e22, hT⟩ := obnd hT
      refine a_gA fl_X8_22_0 e22 dX8_number_40 ?_
      refine a_aload_n dX8_number_43 rfl ?_
      obtain ⟨z25, e24, hT⟩ := obnd hT
      refine a_gI fl_X8_15_6 e24 dX8_number_44 ?_
      obtain ⟨z27, e26, hT⟩ := obnd hT
      refine a_ldC e26 dX8_number_47 ?_
      refine a_iadd dX8_number_48 ?_
      refine a_bipush (v := 48) dX8_number_49 (by decide) ?_
      refine a_isub dX8_number_51 ?_
      refine a_istore_n (lv' := [some (.ref v0), some (.int v1), some (.int (((10 * v2) + z27) - 48)), some (.int v3)]) dX8_number_52 rfl (by decide) rfl ?_
      refine a_aload_n dX8_number_53 rfl ?_
      refine a_dup dX8_number_54 rfl ?_
      obtain ⟨z29, e28, hT⟩ := obnd hT
      refine a_gI fl_X8_15_6 e28 dX8_number_55 ?_
      refine a_iconst (v := 1) dX8_number_58 (by decide) ?_
      refine a_iadd dX8_number_59 ?_
      obtain ⟨h31, e30, hT⟩ := obnd hT
      refine a_put (fp_X8_15_6 _) ⟨rfl, rfl⟩ e30 dX8_number_60 ?_
      refine a_iinc (v := (v3 + 1)) (lv' := [some (.ref v0), some (.int v1), some (.int (((10 * v2) + z27) - 48)), some (.int (v3 + 1))]) dX8_number_63 rfl (by rfl) rfl (by decide) rfl ?_
      refine a_goto 16 dX8_number_66 rfl ?_
      obtain rfl := Option.some.inj hT
      exact he
theorem k_X8_number_b16 {G : aG} {h0 : aH} {K : aRes → aH → Prop} {n9 : Nat} {x9 : (Nat × Int32 × Int32 × Int32 × aH)} {e : ((Int32 ⊕ aXX) × aH)} (hT : wlo (t_X8_number_b16 (gZ G)) n9 x9 = some e) (he : (fun e => aTo (aXI e.1 e.2) K) e) : p_X8_number_b16 G h0 K x9 := wlo_W kb_X8_number_b16 n9 x9 e hT he
def t_X8_number (Z : aZ) (h : aH) (o : Nat) (x0 : Int32) : Option ((Int32 ⊕ aXX) × aH) :=
  if isC 6 h o = true then
  (t_X8_sees Z h o 48 57).bind fun r4 =>
  if isC 6 r4.2 o = true then
  (t_X8_must Z r4.2 o r4.1).bind fun r9 =>
  (match r9 with
  | (.inl y11, h12) =>
    wlo (t_X8_number_b16 Z) 100 (o, x0, 0, 0, h12)
  | (.inr y11, h12) =>
    some (.inr y11, h12)
  )
  else none
  else none
theorem k_X8_number {G : aG} {h : aH} {o : Nat} {x0 : Int32} {e : ((Int32 ⊕ aXX) × aH)} (hT : t_X8_number (gZ G) h o x0 = some e) : aMet G yX8_number (ws_ yX8_number cX8_number 4 (Option.some Jvm.ClassFile.FieldType.int)) 5 102 [.ref o, .int x0] h (aXI e.1 e.2) := by
  refine aMet.of (lv := [some (.ref o), some (.int x0), none, none]) (by decide) (Nat.le_of_ble_eq_true rfl) 2 rfl ?_
  have he : aTo (aXI e.1 e.2) (aXI e.1 e.2) := aTo.rf
  unfold t_X8_number at hT
  refine a_aload_n dX8_number_0 rfl ?_
  refine a_aload_n dX8_number_1 rfl ?_
  refine a_bipush (v := 48) dX8_number_2 (by decide) ?_
  refine a_bipush (v := 57) dX8_number_4 (by decide) ?_
  obtain ⟨g3, hT⟩ := oifg hT
  obtain ⟨r4, e5, hT⟩ := obnd hT
  refine a_callV kv_X8_35 g3 (k_X8_sees e5) ⟨Nat.le_of_ble_eq_true rfl, Nat.le_of_ble_eq_true rfl⟩ (As := [.int 48, .int 57]) (rest := [.ref o]) rfl rfl (Nat.le_of_ble_eq_true rfl) dX8_number_6 (kI ?_) xI
  obtain ⟨g8, hT⟩ := oifg hT
  obtain ⟨⟨y11 | y11, h12⟩, e10, hT⟩ := obnd hT
  · dsimp only at hT
    refine a_callV kv_X8_39 g8 (k_X8_must e10) ⟨Nat.le_of_ble_eq_true rfl, Nat.le_of_ble_eq_true rfl⟩ (As := [.int r4.1]) (rest := []) rfl rfl (Nat.le_of_ble_eq_true rfl) dX8_number_9 (kXV ?_) yXV
    refine a_iconst (v := 0) dX8_number_12 (by decide) ?_
    refine a_istore_n (lv' := [some (.ref o), some (.int x0), some (.int 0), none]) dX8_number_13 rfl (by decide) rfl ?_
    refine a_iconst (v := 0) dX8_number_14 (by decide) ?_
    refine a_istore_n (lv' := [some (.ref o), some (.int x0), some (.int 0), some (.int 0)]) dX8_number_15 rfl (by decide) rfl ?_
    exact k_X8_number_b16 hT he
  · dsimp only at hT
    refine a_callV kv_X8_39 g8 (k_X8_must e10) ⟨Nat.le_of_ble_eq_true rfl, Nat.le_of_ble_eq_true rfl⟩ (As := [.int r4.1]) (rest := []) rfl rfl (Nat.le_of_ble_eq_true rfl) dX8_number_9 rXV (zXV ?_)
    obtain rfl := Option.some.inj hT
    exact a_out (by decide) (he _ _ ⟨rfl, rfl⟩)
theorem kv_X8_43 : aKV "MazeBonds$Reader" 43 6 yX8_number cX8_number 4 (Option.some Jvm.ClassFile.FieldType.int) 1 := ⟨⟨TX8, 5, rfl⟩, Or.inl q1295, q1297, qs21, q104, q1298, ⟨by decide +kernel, by decide +kernel, by decide +kernel⟩⟩
abbrev M_X8_behind : aM := (yX8_behind.cls, cX8_behind, 3, (Option.some Jvm.ClassFile.FieldType.int), [], yX8_behind.name)
def t_X8_behind (Z : aZ) (h : aH) (o : Nat) (x0 : Int32) (x1 : Int32) : Option ((Int32 ⊕ aXX) × aH) :=
  if isC 6 h o = true then
  (t_X8_sees Z h o x0 x0).bind fun r4 =>
  if isC 6 r4.2 o = true then
  (t_X8_must Z r4.2 o r4.1).bind fun r9 =>
  (match r9 with
  | (.inl y11, h12) =>
    (gI 6 0 h12 o).bind fun z14 =>
    (pF 6 0 Z h12 o (.int (z14 + 1))).bind fun h16 =>
    if isC 6 h16 o = true then
    (t_X8_number Z h16 o x1).bind fun r20 =>
    (match r20 with
    | (.inl y22, h23) =>
      some (.inl y22, h23)
    | (.inr y22, h23) =>
      some (.inr y22, h23)
    )
    else none
  | (.inr y11, h12) =>
    some (.inr y11, h12)
  )
  else none
  else none
theorem k_X8_behind {G : aG} {h : aH} {o : Nat} {x0 : Int32} {x1 : Int32} {e : ((Int32 ⊕ aXX) × aH)} (hT : t_X8_behind (gZ G) h o x0 x1 = some e) : aMet G yX8_behind (ws_ yX8_behind cX8_behind 3 (Option.some Jvm.ClassFile.FieldType.int)) 6 125 [.ref o, .int x0, .int x1] h (aXI e.1 e.2) := by
  refine aMet.of (lv := [some (.ref o), some (.int x0), some (.int x1)]) (by decide) (Nat.le_of_ble_eq_true rfl) 0 rfl ?_
  have he : aTo (aXI e.1 e.2) (aXI e.1 e.2) := aTo.rf
  unfold t_X8_behind at hT
  refine a_aload_n dX8_behind_0 rfl ?_
  refine a_aload_n dX8_behind_1 rfl ?_
  refine a_iload_n dX8_behind_2 rfl ?_
  refine a_iload_n dX8_behind_3 rfl ?_
  obtain ⟨g3, hT⟩ := oifg hT
  obtain ⟨r4, e5, hT⟩ := obnd hT
  refine a_callV kv_X8_35 g3 (k_X8_sees e5) ⟨Nat.le_of_ble_eq_true rfl, Nat.le_of_ble_eq_true rfl⟩ (As := [.int x0, .int x0]) (rest := [.ref o]) rfl rfl (Nat.le_of_ble_eq_true rfl) dX8_behind_4 (kI ?_) xI
  obtain ⟨g8, hT⟩ := oifg hT
  obtain ⟨⟨y11 | y11, h12⟩, e10, hT⟩ := obnd hT
  · dsimp only at hT
    refine a_callV kv_X8_39 g8 (k_X8_must e10) ⟨Nat.le_of_ble_eq_true rfl, Nat.le_of_ble_eq_true rfl⟩ (As := [.int r4.1]) (rest := []) rfl rfl (Nat.le_of_ble_eq_true rfl) dX8_behind_7 (kXV ?_) yXV
    refine a_aload_n dX8_behind_10 rfl ?_
    refine a_dup dX8_behind_11 rfl ?_
    obtain ⟨z14, e13, hT⟩ := obnd hT
    refine a_gI fl_X8_15_6 e13 dX8_behind_12 ?_
    refine a_iconst (v := 1) dX8_behind_15 (by decide) ?_
    refine a_iadd dX8_behind_16 ?_
    obtain ⟨h16, e15, hT⟩ := obnd hT
    refine a_put (fp_X8_15_6 _) ⟨rfl, rfl⟩ e15 dX8_behind_17 ?_
    refine a_aload_n dX8_behind_20 rfl ?_
    refine a_iload_n dX8_behind_21 rfl ?_
    obtain ⟨g19, hT⟩ := oifg hT
    obtain ⟨⟨y22 | y22, h23⟩, e21, hT⟩ := obnd hT
    · dsimp only at hT
      refine a_callV kv_X8_43 g19 (k_X8_number e21) ⟨Nat.le_of_ble_eq_true rfl, Nat.le_of_ble_eq_true rfl⟩ (As := [.int x1]) (rest := []) rfl rfl (Nat.le_of_ble_eq_true rfl) dX8_behind_22 (kXI ?_) yXI
      obtain rfl := Option.some.inj hT
      exact a_iret rfl rfl dX8_behind_25 (he _ _ ⟨rfl, rfl⟩)
    · dsimp only at hT
      refine a_callV kv_X8_43 g19 (k_X8_number e21) ⟨Nat.le_of_ble_eq_true rfl, Nat.le_of_ble_eq_true rfl⟩ (As := [.int x1]) (rest := []) rfl rfl (Nat.le_of_ble_eq_true rfl) dX8_behind_22 rXI (zXI ?_)
      obtain rfl := Option.some.inj hT
      exact a_out (by decide) (he _ _ ⟨rfl, rfl⟩)
  · dsimp only at hT
    refine a_callV kv_X8_39 g8 (k_X8_must e10) ⟨Nat.le_of_ble_eq_true rfl, Nat.le_of_ble_eq_true rfl⟩ (As := [.int r4.1]) (rest := []) rfl rfl (Nat.le_of_ble_eq_true rfl) dX8_behind_7 rXV (zXV ?_)
    obtain rfl := Option.some.inj hT
    exact a_out (by decide) (he _ _ ⟨rfl, rfl⟩)
abbrev M_X8_cellOrNone : aM := (yX8_cellOrNone.cls, cX8_cellOrNone, 1, (Option.some Jvm.ClassFile.FieldType.int), [], yX8_cellOrNone.name)
def t_X8_cellOrNone (Z : aZ) (h : aH) (o : Nat) : Option ((Int32 ⊕ aXX) × aH) :=
  if isC 6 h o = true then
  (t_X8_sees Z h o 120 120).bind fun r4 =>
  if r4.1 = 0 then
    if isC 6 r4.2 o = true then
    (t_X8_number Z r4.2 o 2).bind fun r10 =>
    (match r10 with
    | (.inl y12, h13) =>
      some (.inl y12, h13)
    | (.inr y12, h13) =>
      some (.inr y12, h13)
    )
    else none
  else
    (gI 6 0 r4.2 o).bind fun z15 =>
    (pF 6 0 Z r4.2 o (.int (z15 + 1))).bind fun h17 =>
    some (.inl (-1), h17)
  else none
theorem k_X8_cellOrNone {G : aG} {h : aH} {o : Nat} {e : ((Int32 ⊕ aXX) × aH)} (hT : t_X8_cellOrNone (gZ G) h o = some e) : aMet G yX8_cellOrNone (ws_ yX8_cellOrNone cX8_cellOrNone 1 (Option.some Jvm.ClassFile.FieldType.int)) 6 125 [.ref o] h (aXI e.1 e.2) := by
  refine aMet.of (lv := [some (.ref o)]) (by decide) (Nat.le_of_ble_eq_true rfl) 0 rfl ?_
  have he : aTo (aXI e.1 e.2) (aXI e.1 e.2) := aTo.rf
  unfold t_X8_cellOrNone at hT
  refine a_aload_n dX8_cellOrNone_0 rfl ?_
  refine a_bipush (v := 120) dX8_cellOrNone_1 (by decide) ?_
  refine a_bipush (v := 120) dX8_cellOrNone_3 (by decide) ?_
  obtain ⟨g3, hT⟩ := oifg hT
  obtain ⟨r4, e5, hT⟩ := obnd hT
  refine a_callV kv_X8_35 g3 (k_X8_sees e5) ⟨Nat.le_of_ble_eq_true rfl, Nat.le_of_ble_eq_true rfl⟩ (As := [.int 120, .int 120]) (rest := []) rfl rfl (Nat.le_of_ble_eq_true rfl) dX8_cellOrNone_5 (kI ?_) xI
  refine a_if_eq 23 dX8_cellOrNone_8 rfl (fun c6 => ?_) (fun c6 => ?_)
  · have hT := oifp c6 hT
    refine a_aload_n dX8_cellOrNone_23 rfl ?_
    refine a_iconst (v := 2) dX8_cellOrNone_24 (by decide) ?_
    obtain ⟨g9, hT⟩ := oifg hT
    obtain ⟨⟨y12 | y12, h13⟩, e11, hT⟩ := obnd hT
    · dsimp only at hT
      refine a_callV kv_X8_43 g9 (k_X8_number e11) ⟨Nat.le_of_ble_eq_true rfl, Nat.le_of_ble_eq_true rfl⟩ (As := [.int 2]) (rest := []) rfl rfl (Nat.le_of_ble_eq_true rfl) dX8_cellOrNone_25 (kXI ?_) yXI
      obtain rfl := Option.some.inj hT
      exact a_iret rfl rfl dX8_cellOrNone_28 (he _ _ ⟨rfl, rfl⟩)
    · dsimp only at hT
      refine a_callV kv_X8_43 g9 (k_X8_number e11) ⟨Nat.le_of_ble_eq_true rfl, Nat.le_of_ble_eq_true rfl⟩ (As := [.int 2]) (rest := []) rfl rfl (Nat.le_of_ble_eq_true rfl) dX8_cellOrNone_25 rXI (zXI ?_)
      obtain rfl := Option.some.inj hT
      exact a_out (by decide) (he _ _ ⟨rfl, rfl⟩)
  · have hT := oifn c6 hT
    refine a_aload_n dX8_cellOrNone_11 rfl ?_
    refine a_dup dX8_cellOrNone_12 rfl ?_
    obtain ⟨z15, e14, hT⟩ := obnd hT
    refine a_gI fl_X8_15_6 e14 dX8_cellOrNone_13 ?_
    refine a_iconst (v := 1) dX8_cellOrNone_16 (by decide) ?_
    refine a_iadd dX8_cellOrNone_17 ?_
    obtain ⟨h17, e16, hT⟩ := obnd hT
    refine a_put (fp_X8_15_6 _) ⟨rfl, rfl⟩ e16 dX8_cellOrNone_18 ?_
    refine a_iconst (v := (-1)) dX8_cellOrNone_21 (by decide) ?_
    obtain rfl := Option.some.inj hT
    exact a_iret rfl rfl dX8_cellOrNone_22 (he _ _ ⟨rfl, rfl⟩)
theorem kv_X0_45 : aKV "MazeBondsLaw" 45 0 yX1_isGap cX1_isGap 3 (Option.some Jvm.ClassFile.FieldType.boolean) 2 := ⟨⟨TX1, 8, rfl⟩, Or.inl q951, q952, q953, q72, q954, ⟨by decide +kernel, by decide +kernel, by decide +kernel⟩⟩
abbrev M_X0_isGap : aM := (yX0_isGap.cls, cX0_isGap, 5, (Option.some Jvm.ClassFile.FieldType.int), [((0 : Nat), (17 : Nat), (20 : Nat), (41 : Nat))], yX0_isGap.name)
def t_X0_isGap_l16 (Z : aZ) (h : aH) (u0 : Int64) (u1 : Int32) (u2 : Nat) : Option (Int32 × aH) :=
  (stJ Z h u2 u1 u0).bind fun h10 =>
  some (0, h10)
theorem k_X0_isGap_l16 {G : aG} {h0 : aH} {K : aRes → aH → Prop} {h : aH} {u0 : Int64} {u1 : Int32} {u2 : Nat} {e : (Int32 × aH)} (hT : t_X0_isGap_l16 (gZ G) h u0 u1 u2 = some e) (he : (fun e => aTo (aEI e.1 e.2) K) e) : aW G M_X0_isGap 12 262 h0 K h 16 [none, none, none, none, none] [.long u0, .int u1, .ref u2] := by
  unfold t_X0_isGap_l16 at hT
  obtain ⟨h10, e9, hT⟩ := obnd hT
  refine a_stJ e9 dX0_isGap_16 ?_
  refine a_goto 24 dX0_isGap_17 rfl ?_
  refine a_iconst (v := 0) dX0_isGap_24 (by decide) ?_
  obtain rfl := Option.some.inj hT
  exact a_iret rfl rfl dX0_isGap_25 (he _ _ ⟨rfl, rfl⟩)
def t_X0_isGap (Z : aZ) (h : aH) (x0 : Nat) (x1 : Int32) (x2 : Int32) (x3 : Nat) : Option (Int32 × aH) :=
  if isC 0 h x0 = true then
  (t_X1_isGap Z h x0 x1 x2).bind fun r4 =>
  (match r4 with
  | (.inl y6, h7) =>
    if y6 = 0 then
      t_X0_isGap_l16 Z h7 0 0 x3
    else
      t_X0_isGap_l16 Z h7 1 0 x3
  | (.inr y6, h7) =>
    if y6.1 = "java/lang/IndexOutOfBoundsException" then
      some (1, h7)
    else
      none
  )
  else none
theorem k_X0_isGap {G : aG} {h : aH} {x0 : Nat} {x1 : Int32} {x2 : Int32} {x3 : Nat} {e : (Int32 × aH)} (hT : t_X0_isGap (gZ G) h x0 x1 x2 x3 = some e) : aMet G yX0_isGap (wsW_ yX0_isGap cX0_isGap 5 (Option.some Jvm.ClassFile.FieldType.int) [((0 : Nat), (17 : Nat), (20 : Nat), (41 : Nat))]) 12 262 [.ref x0, .int x1, .int x2, .ref x3] h (aEI e.1 e.2) := by
  refine aMet.ofH (lv := [some (.ref x0), some (.int x1), some (.int x2), some (.ref x3), none]) (by decide) (Nat.le_of_ble_eq_true rfl) 1 rfl ?_
  have he : aTo (aEI e.1 e.2) (aEI e.1 e.2) := aTo.rf
  unfold t_X0_isGap at hT
  refine a_aload_n dX0_isGap_0 rfl ?_
  refine a_iconst (v := 0) dX0_isGap_1 (by decide) ?_
  refine a_aload_n dX0_isGap_2 rfl ?_
  refine a_iload_n dX0_isGap_3 rfl ?_
  refine a_iload_n dX0_isGap_4 rfl ?_
  obtain ⟨g3, hT⟩ := oifg hT
  obtain ⟨⟨y6 | y6, h7⟩, e5, hT⟩ := obnd hT
  · dsimp only at hT
    refine a_callV kv_X0_45 g3 (k_X1_isGap e5) ⟨Nat.le_of_ble_eq_true rfl, Nat.le_of_ble_eq_true rfl⟩ (As := [.int x1, .int x2]) (rest := [.int 0, .ref x3]) rfl rfl (Nat.le_of_ble_eq_true rfl) dX0_isGap_5 (kXI ?_) yXI
    refine a_if_eq 15 dX0_isGap_8 rfl (fun c8 => ?_) (fun c8 => ?_)
    · have hT := oifp c8 hT
      refine a_lconst (v := 0) dX0_isGap_15 (by decide) ?_
      refine a_mask [false, false, false, false, true] ?_
      exact k_X0_isGap_l16 hT he
    · have hT := oifn c8 hT
      refine a_lconst (v := 1) dX0_isGap_11 (by decide) ?_
      refine a_goto 16 dX0_isGap_12 rfl ?_
      refine a_mask [false, false, false, false, true] ?_
      exact k_X0_isGap_l16 hT he
  · dsimp only at hT
    refine a_callV kv_X0_45 g3 (k_X1_isGap e5) ⟨Nat.le_of_ble_eq_true rfl, Nat.le_of_ble_eq_true rfl⟩ (As := [.int x1, .int x2]) (rest := [.int 0, .ref x3]) rfl rfl (Nat.le_of_ble_eq_true rfl) dX0_isGap_5 rXI (zXI ?_)
    by_cases c11 : y6.1 = "java/lang/IndexOutOfBoundsException"
    · have hT := oifp c11 hT
      rw [c11]
      refine a_catchI 0 rfl aNil (by decide) (by decide) q879 q929 ?_
      refine a_astore (lv' := [some (.ref x0), some (.int x1), some (.int x2), some (.ref x3), some (.ref y6.2)]) dX0_isGap_20 rfl (by decide) rfl ?_
      refine a_iconst (v := 1) dX0_isGap_22 (by decide) ?_
      obtain rfl := Option.some.inj hT
      exact a_iret rfl rfl dX0_isGap_23 (he _ _ ⟨rfl, rfl⟩)
    · have hT := oifn c11 hT
      cases hT
theorem kv_X0_93 : aKV "MazeBondsLaw" 93 0 yX1_append cX1_append 2 (Option.some Jvm.ClassFile.FieldType.int) 1 := ⟨⟨TX1, 8, rfl⟩, Or.inl q1125, q1126, q1127, q72, q1128, ⟨by decide +kernel, by decide +kernel, by decide +kernel⟩⟩
abbrev M_X0_append : aM := (yX0_append.cls, cX0_append, 4, (Option.some Jvm.ClassFile.FieldType.int), [((0 : Nat), (9 : Nat), (12 : Nat), (97 : Nat))], yX0_append.name)
def t_X0_append (Z : aZ) (h : aH) (x0 : Nat) (x1 : Int32) (x2 : Nat) : Option (Int32 × aH) :=
  if isC 0 h x0 = true then
  (t_X1_append Z h x0 x1).bind fun r4 =>
  (match r4 with
  | (.inl y6, h7) =>
    (stJ Z h7 x2 0 ((y6 : Int32).toInt64)).bind fun h9 =>
    some (0, h9)
  | (.inr y6, h7) =>
    if y6.1 = "java/lang/IllegalStateException" then
      some (1, h7)
    else
      none
  )
  else none
theorem k_X0_append {G : aG} {h : aH} {x0 : Nat} {x1 : Int32} {x2 : Nat} {e : (Int32 × aH)} (hT : t_X0_append (gZ G) h x0 x1 x2 = some e) : aMet G yX0_append (wsW_ yX0_append cX0_append 4 (Option.some Jvm.ClassFile.FieldType.int) [((0 : Nat), (9 : Nat), (12 : Nat), (97 : Nat))]) 11 241 [.ref x0, .int x1, .ref x2] h (aEI e.1 e.2) := by
  refine aMet.ofH (lv := [some (.ref x0), some (.int x1), some (.ref x2), none]) (by decide) (Nat.le_of_ble_eq_true rfl) 1 rfl ?_
  have he : aTo (aEI e.1 e.2) (aEI e.1 e.2) := aTo.rf
  unfold t_X0_append at hT
  refine a_aload_n dX0_append_0 rfl ?_
  refine a_iconst (v := 0) dX0_append_1 (by decide) ?_
  refine a_aload_n dX0_append_2 rfl ?_
  refine a_iload_n dX0_append_3 rfl ?_
  obtain ⟨g3, hT⟩ := oifg hT
  obtain ⟨⟨y6 | y6, h7⟩, e5, hT⟩ := obnd hT
  · dsimp only at hT
    refine a_callV kv_X0_93 g3 (k_X1_append e5) ⟨Nat.le_of_ble_eq_true rfl, Nat.le_of_ble_eq_true rfl⟩ (As := [.int x1]) (rest := [.int 0, .ref x2]) rfl rfl (Nat.le_of_ble_eq_true rfl) dX0_append_4 (kXI ?_) yXI
    refine a_i2l dX0_append_7 ?_
    obtain ⟨h9, e8, hT⟩ := obnd hT
    refine a_stJ e8 dX0_append_8 ?_
    refine a_goto 15 dX0_append_9 rfl ?_
    refine a_iconst (v := 0) dX0_append_15 (by decide) ?_
    obtain rfl := Option.some.inj hT
    exact a_iret rfl rfl dX0_append_16 (he _ _ ⟨rfl, rfl⟩)
  · dsimp only at hT
    refine a_callV kv_X0_93 g3 (k_X1_append e5) ⟨Nat.le_of_ble_eq_true rfl, Nat.le_of_ble_eq_true rfl⟩ (As := [.int x1]) (rest := [.int 0, .ref x2]) rfl rfl (Nat.le_of_ble_eq_true rfl) dX0_append_4 rXI (zXI ?_)
    by_cases c10 : y6.1 = "java/lang/IllegalStateException"
    · have hT := oifp c10 hT
      rw [c10]
      refine a_catchI 0 rfl aNil (by decide) (by decide) q1124 q1134 ?_
      refine a_astore_n (lv' := [some (.ref x0), some (.int x1), some (.ref x2), some (.ref y6.2)]) dX0_append_12 rfl (by decide) rfl ?_
      refine a_iconst (v := 1) dX0_append_13 (by decide) ?_
      obtain rfl := Option.some.inj hT
      exact a_iret rfl rfl dX0_append_14 (he _ _ ⟨rfl, rfl⟩)
    · have hT := oifn c10 hT
      cases hT
theorem kv_X0_106 : aKV "MazeBondsLaw" 106 0 yX1_line cX1_line 3 (Option.some Jvm.ClassFile.FieldType.int) 1 := ⟨⟨TX1, 8, rfl⟩, Or.inl q1341, q1342, q1343, q72, q1344, ⟨by decide +kernel, by decide +kernel, by decide +kernel⟩⟩
abbrev M_X0_line : aM := (yX0_line.cls, cX0_line, 4, (Option.some Jvm.ClassFile.FieldType.int), [((0 : Nat), (9 : Nat), (12 : Nat), (41 : Nat))], yX0_line.name)
def t_X0_line (Z : aZ) (h : aH) (x0 : Nat) (x1 : Int32) (x2 : Nat) : Option (Int32 × aH) :=
  if isC 0 h x0 = true then
  (t_X1_line Z h x0 x1).bind fun r4 =>
  (match r4 with
  | (.inl y6, h7) =>
    (stJ Z h7 x2 0 ((y6 : Int32).toInt64)).bind fun h9 =>
    some (0, h9)
  | (.inr y6, h7) =>
    if y6.1 = "java/lang/IndexOutOfBoundsException" then
      some (1, h7)
    else
      none
  )
  else none
theorem k_X0_line {G : aG} {h : aH} {x0 : Nat} {x1 : Int32} {x2 : Nat} {e : (Int32 × aH)} (hT : t_X0_line (gZ G) h x0 x1 x2 = some e) : aMet G yX0_line (wsW_ yX0_line cX0_line 4 (Option.some Jvm.ClassFile.FieldType.int) [((0 : Nat), (9 : Nat), (12 : Nat), (41 : Nat))]) 12 263 [.ref x0, .int x1, .ref x2] h (aEI e.1 e.2) := by
  refine aMet.ofH (lv := [some (.ref x0), some (.int x1), some (.ref x2), none]) (by decide) (Nat.le_of_ble_eq_true rfl) 1 rfl ?_
  have he : aTo (aEI e.1 e.2) (aEI e.1 e.2) := aTo.rf
  unfold t_X0_line at hT
  refine a_aload_n dX0_line_0 rfl ?_
  refine a_iconst (v := 0) dX0_line_1 (by decide) ?_
  refine a_aload_n dX0_line_2 rfl ?_
  refine a_iload_n dX0_line_3 rfl ?_
  obtain ⟨g3, hT⟩ := oifg hT
  obtain ⟨⟨y6 | y6, h7⟩, e5, hT⟩ := obnd hT
  · dsimp only at hT
    refine a_callV kv_X0_106 g3 (k_X1_line e5) ⟨Nat.le_of_ble_eq_true rfl, Nat.le_of_ble_eq_true rfl⟩ (As := [.int x1]) (rest := [.int 0, .ref x2]) rfl rfl (Nat.le_of_ble_eq_true rfl) dX0_line_4 (kXI ?_) yXI
    refine a_i2l dX0_line_7 ?_
    obtain ⟨h9, e8, hT⟩ := obnd hT
    refine a_stJ e8 dX0_line_8 ?_
    refine a_goto 15 dX0_line_9 rfl ?_
    refine a_iconst (v := 0) dX0_line_15 (by decide) ?_
    obtain rfl := Option.some.inj hT
    exact a_iret rfl rfl dX0_line_16 (he _ _ ⟨rfl, rfl⟩)
  · dsimp only at hT
    refine a_callV kv_X0_106 g3 (k_X1_line e5) ⟨Nat.le_of_ble_eq_true rfl, Nat.le_of_ble_eq_true rfl⟩ (As := [.int x1]) (rest := [.int 0, .ref x2]) rfl rfl (Nat.le_of_ble_eq_true rfl) dX0_line_4 rXI (zXI ?_)
    by_cases c10 : y6.1 = "java/lang/IndexOutOfBoundsException"
    · have hT := oifp c10 hT
      rw [c10]
      refine a_catchI 0 rfl aNil (by decide) (by decide) q879 q929 ?_
      refine a_astore_n (lv' := [some (.ref x0), some (.int x1), some (.ref x2), some (.ref y6.2)]) dX0_line_12 rfl (by decide) rfl ?_
      refine a_iconst (v := 1) dX0_line_13 (by decide) ?_
      obtain rfl := Option.some.inj hT
      exact a_iret rfl rfl dX0_line_14 (he _ _ ⟨rfl, rfl⟩)
    · have hT := oifn c10 hT
      cases hT
theorem kv_X0_116 : aKV "MazeBondsLaw" 116 0 yX1_meanLost cX1_meanLost 4 (Option.some Jvm.ClassFile.FieldType.double) 0 := ⟨⟨TX1, 8, rfl⟩, Or.inl q1628, q1629, q1630, q72, q1631, ⟨by decide +kernel, by decide +kernel, by decide +kernel⟩⟩
abbrev M_X0_meanLost : aM := (yX0_meanLost.cls, cX0_meanLost, 3, (Option.some Jvm.ClassFile.FieldType.int), [((0 : Nat), (7 : Nat), (10 : Nat), (120 : Nat))], yX0_meanLost.name)
def t_X0_meanLost (Z : aZ) (h : aH) (x0 : Nat) (x1 : Nat) : Option (Int32 × aH) :=
  if isC 0 h x0 = true then
  (t_X1_meanLost Z h x0).bind fun r4 =>
  (match r4 with
  | (.inl y6, h7) =>
    (stD Z h7 x1 0 y6).bind fun h9 =>
    some (0, h9)
  | (.inr y6, h7) =>
    if y6.1 = "java/lang/ArithmeticException" then
      some (1, h7)
    else
      none
  )
  else none
theorem k_X0_meanLost {G : aG} {h : aH} {x0 : Nat} {x1 : Nat} {e : (Int32 × aH)} (hT : t_X0_meanLost (gZ G) h x0 x1 = some e) : aMet G yX0_meanLost (wsW_ yX0_meanLost cX0_meanLost 3 (Option.some Jvm.ClassFile.FieldType.int) [((0 : Nat), (7 : Nat), (10 : Nat), (120 : Nat))]) 11 243 [.ref x0, .ref x1] h (aEI e.1 e.2) := by
  refine aMet.ofH (lv := [some (.ref x0), some (.ref x1), none]) (by decide) (Nat.le_of_ble_eq_true rfl) 1 rfl ?_
  have he : aTo (aEI e.1 e.2) (aEI e.1 e.2) := aTo.rf
  unfold t_X0_meanLost at hT
  refine a_aload_n dX0_meanLost_0 rfl ?_
  refine a_iconst (v := 0) dX0_meanLost_1 (by decide) ?_
  refine a_aload_n dX0_meanLost_2 rfl ?_
  obtain ⟨g3, hT⟩ := oifg hT
  obtain ⟨⟨y6 | y6, h7⟩, e5, hT⟩ := obnd hT
  · dsimp only at hT
    refine a_callV kv_X0_116 g3 (k_X1_meanLost e5) ⟨Nat.le_of_ble_eq_true rfl, Nat.le_of_ble_eq_true rfl⟩ (As := []) (rest := [.int 0, .ref x1]) rfl rfl (Nat.le_of_ble_eq_true rfl) dX0_meanLost_3 (kXD ?_) yXD
    obtain ⟨h9, e8, hT⟩ := obnd hT
    refine a_stD e8 dX0_meanLost_6 ?_
    refine a_goto 13 dX0_meanLost_7 rfl ?_
    refine a_iconst (v := 0) dX0_meanLost_13 (by decide) ?_
    obtain rfl := Option.some.inj hT
    exact a_iret rfl rfl dX0_meanLost_14 (he _ _ ⟨rfl, rfl⟩)
  · dsimp only at hT
    refine a_callV kv_X0_116 g3 (k_X1_meanLost e5) ⟨Nat.le_of_ble_eq_true rfl, Nat.le_of_ble_eq_true rfl⟩ (As := []) (rest := [.int 0, .ref x1]) rfl rfl (Nat.le_of_ble_eq_true rfl) dX0_meanLost_3 rXD (zXD ?_)
    by_cases c10 : y6.1 = "java/lang/ArithmeticException"
    · have hT := oifp c10 hT
      rw [c10]
      refine a_catchI 0 rfl aNil (by decide) (by decide) q1614 q1626 ?_
      refine a_astore_n (lv' := [some (.ref x0), some (.ref x1), some (.ref y6.2)]) dX0_meanLost_10 rfl (by decide) rfl ?_
      refine a_iconst (v := 1) dX0_meanLost_11 (by decide) ?_
      obtain rfl := Option.some.inj hT
      exact a_iret rfl rfl dX0_meanLost_12 (he _ _ ⟨rfl, rfl⟩)
    · have hT := oifn c10 hT
      cases hT
theorem fn_X1_46 : aFN "MazeBonds" 46 1 [.null, .null, .null, .int 0, .int 0, .int 0, .int 0] 7 := ⟨RX2, TX2, tyX2, rfl, in_X2, tyX2_ok, q118, q119, q73, by decide⟩
theorem ki_X1_48 : aKI "MazeBonds" 48 yX2_init cX2_init 1 0 := ⟨rfl, Or.inl q120, q121, q73, q122, ⟨by decide +kernel, by decide +kernel, by decide +kernel⟩⟩
