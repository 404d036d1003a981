/-! the twin, decompiled (written by gen/twin.py) -/
set_option maxRecDepth 100000
abbrev M_X3_trim : aM := (yX3_trim.cls, cX3_trim, 4, (Option.some Jvm.ClassFile.FieldType.int), [], yX3_trim.name)
def t_X3_trim (s : tS) (x0 : Int32) (x1 : Int32) (x2 : Int32) : Option (Int32 × tS) :=
  (t_X3_starts s).bind fun r3 =>
  (t_X3_trimIt r3.2 x0 x1 x2).bind fun r7 =>
  (t_X3_changed r7.2 r7.1).bind fun r11 =>
  some (r11.1, r11.2)
theorem k_X3_trim {G : aG} {B : aH} {T : Nat → Nat} (ht : tOk (gZ G) T) {s : tS} {x0 : Int32} {x1 : Int32} {x2 : Int32} {e : (Int32 × tS)} (hT : t_X3_trim s x0 x1 x2 = some e) : aMet G yX3_trim (ws_ yX3_trim cX3_trim 4 (Option.some Jvm.ClassFile.FieldType.int)) 5 110 [.ref (T 100), .int x0, .int x1, .int x2] (tput (gZ G) B T s) (aEI e.1 (tput (gZ G) B T e.2)) := by
  refine aMet.of (lv := [some (.ref (T 100)), some (.int x0), some (.int x1), some (.int x2)]) (by decide) (Nat.le_of_ble_eq_true rfl) 0 rfl ?_
  have he : aTo (aEI e.1 (tput (gZ G) B T e.2)) (aEI e.1 (tput (gZ G) B T e.2)) := aTo.rf
  unfold t_X3_trim at hT
  refine a_aload_n dX3_trim_0 rfl ?_
  obtain ⟨r3, e4, hT⟩ := obnd hT
  refine a_callV kv_X3_100 (tw_is ht) (k_X3_starts ht e4) ⟨Nat.le_of_ble_eq_true rfl, Nat.le_of_ble_eq_true rfl⟩ (As := []) (rest := []) rfl rfl (Nat.le_of_ble_eq_true rfl) dX3_trim_1 (kV ?_) xV
  refine a_aload_n dX3_trim_4 rfl ?_
  refine a_aload_n dX3_trim_5 rfl ?_
  refine a_iload_n dX3_trim_6 rfl ?_
  refine a_iload_n dX3_trim_7 rfl ?_
  refine a_iload_n dX3_trim_8 rfl ?_
  obtain ⟨r7, e8, hT⟩ := obnd hT
  refine a_callV kv_X3_123 (tw_is ht) (k_X3_trimIt ht e8) ⟨Nat.le_of_ble_eq_true rfl, Nat.le_of_ble_eq_true rfl⟩ (As := [.int x0, .int x1, .int x2]) (rest := [.ref (T 100)]) rfl rfl (Nat.le_of_ble_eq_true rfl) dX3_trim_9 (kI ?_) xI
  obtain ⟨r11, e12, hT⟩ := obnd hT
  refine a_callV kv_X3_107 (tw_is ht) (k_X3_changed ht e12) ⟨Nat.le_of_ble_eq_true rfl, Nat.le_of_ble_eq_true rfl⟩ (As := [.int r7.1]) (rest := []) rfl rfl (Nat.le_of_ble_eq_true rfl) dX3_trim_12 (kI ?_) xI
  cases hT
  exact a_iret rfl rfl dX3_trim_15 (he _ _ ⟨rfl, rfl⟩)
abbrev M_X3_minotaurIt : aM := (yX3_minotaurIt.cls, cX3_minotaurIt, 5, (Option.some Jvm.ClassFile.FieldType.int), [], yX3_minotaurIt.name)
def p_X3_minotaurIt_b49 (G : aG) (h0 : aH) (K : aRes → aH → Prop) (B : aH) (T : Nat → Nat) (x9 : (Int32 × Int32 × tS)) : Prop := aW G M_X3_minotaurIt 3 44 h0 K (tput (gZ G) B T x9.2.2) 49 [some (.ref (T 100)), none, some (.int x9.1), some (.int x9.2.1), none] []
def t_X3_minotaurIt_l124 (s : tS) (v3 : Int32) (u0 : Int32) (u1 : Int32) : Option ((Int32 × Int32 × tS) ⊕ (Int32 × tS)) :=
  some (.inl ((u1 + u0), (v3 + 1), s))
theorem k_X3_minotaurIt_l124 {G : aG} {h0 B : aH} {T : Nat → Nat} {K : aRes → aH → Prop} (ht : tOk (gZ G) T) {s : tS} {v3 : Int32} {u0 : Int32} {u1 : Int32} {e : ((Int32 × Int32 × tS) ⊕ (Int32 × tS))} (hT : t_X3_minotaurIt_l124 s v3 u0 u1 = some e) (he : (Sum.elim (p_X3_minotaurIt_b49 G h0 K B T) (fun e => aTo (aEI e.1 (tput (gZ G) B T e.2)) K)) e) : aW G M_X3_minotaurIt 3 44 h0 K (tput (gZ G) B T s) 124 [some (.ref (T 100)), none, none, some (.int v3), none] [.int u0, .int u1] := by
  unfold t_X3_minotaurIt_l124 at hT
  refine a_iadd dX3_minotaurIt_124 ?_
  refine a_istore_n (lv' := [some (.ref (T 100)), none, some (.int (u1 + u0)), some (.int v3), none]) dX3_minotaurIt_125 rfl (by decide) rfl ?_
  refine a_iinc (v := (v3 + 1)) (lv' := [some (.ref (T 100)), none, some (.int (u1 + u0)), some (.int (v3 + 1)), none]) dX3_minotaurIt_126 rfl (by rfl) rfl (by decide) rfl ?_
  refine a_goto 49 dX3_minotaurIt_129 rfl ?_
  cases hT
  exact he
def t_X3_minotaurIt_l112 (s : tS) (v2 : Int32) (v3 : Int32) (v4 : Int32) (u0 : Int32) (u1 : Int32) : Option ((Int32 × Int32 × tS) ⊕ (Int32 × tS)) :=
  (tst 0 s u1 u0).bind fun s30 =>
  if v4 = 0 then
    t_X3_minotaurIt_l124 s30 v3 0 v2
  else
    t_X3_minotaurIt_l124 s30 v3 1 v2
theorem k_X3_minotaurIt_l112 {G : aG} {h0 B : aH} {T : Nat → Nat} {K : aRes → aH → Prop} (ht : tOk (gZ G) T) {s : tS} {v2 : Int32} {v3 : Int32} {v4 : Int32} {u0 : Int32} {u1 : Int32} {e : ((Int32 × Int32 × tS) ⊕ (Int32 × tS))} (hT : t_X3_minotaurIt_l112 s v2 v3 v4 u0 u1 = some e) (he : (Sum.elim (p_X3_minotaurIt_b49 G h0 K B T) (fun e => aTo (aEI e.1 (tput (gZ G) B T e.2)) K)) e) : aW G M_X3_minotaurIt 3 44 h0 K (tput (gZ G) B T s) 112 [some (.ref (T 100)), none, some (.int v2), some (.int v3), some (.int v4)] [.int u0, .int u1, .ref (T 0)] := by
  unfold t_X3_minotaurIt_l112 at hT
  obtain ⟨s30, e29, hT⟩ := obnd hT
  refine a_stI (tw_st ht 0 (by decide) e29) dX3_minotaurIt_112 ?_
  refine a_iload_n dX3_minotaurIt_113 rfl ?_
  refine a_iload dX3_minotaurIt_114 rfl ?_
  refine a_if_eq 123 dX3_minotaurIt_116 rfl (fun c31 => ?_) (fun c31 => ?_)
  · have hT := oifp c31 hT
    refine a_iconst (v := 0) dX3_minotaurIt_123 (by decide) ?_
    refine a_mask [true, true, false, true, false] ?_
    exact k_X3_minotaurIt_l124 ht hT he
  · have hT := oifn c31 hT
    refine a_iconst (v := 1) dX3_minotaurIt_119 (by decide) ?_
    refine a_goto 124 dX3_minotaurIt_120 rfl ?_
    refine a_mask [true, true, false, true, false] ?_
    exact k_X3_minotaurIt_l124 ht hT he
def t_X3_minotaurIt_l100 (s : tS) (v2 : Int32) (v3 : Int32) (v4 : Int32) (u0 : Int32) : Option ((Int32 × Int32 × tS) ⊕ (Int32 × tS)) :=
  (t_X3_visitorAt v3).bind fun r25 =>
  (tld 0 s (r25 + 6)).bind fun z28 =>
  t_X3_minotaurIt_l112 s v2 v3 v4 z28 u0
theorem k_X3_minotaurIt_l100 {G : aG} {h0 B : aH} {T : Nat → Nat} {K : aRes → aH → Prop} (ht : tOk (gZ G) T) {s : tS} {v2 : Int32} {v3 : Int32} {v4 : Int32} {u0 : Int32} {e : ((Int32 × Int32 × tS) ⊕ (Int32 × tS))} (hT : t_X3_minotaurIt_l100 s v2 v3 v4 u0 = some e) (he : (Sum.elim (p_X3_minotaurIt_b49 G h0 K B T) (fun e => aTo (aEI e.1 (tput (gZ G) B T e.2)) K)) e) : aW G M_X3_minotaurIt 3 44 h0 K (tput (gZ G) B T s) 100 [some (.ref (T 100)), none, some (.int v2), some (.int v3), some (.int v4)] [.int u0, .ref (T 0)] := by
  unfold t_X3_minotaurIt_l100 at hT
  refine a_aload_n dX3_minotaurIt_100 rfl ?_
  refine a_gA fl_X3_9_2 (tw_gA ht 0 (by decide)) dX3_minotaurIt_101 ?_
  refine a_iload_n dX3_minotaurIt_104 rfl ?_
  obtain ⟨r25, e26, hT⟩ := obnd hT
  refine a_callS ks_X3_126 (k_X3_visitorAt e26) ⟨Nat.le_of_ble_eq_true rfl, Nat.le_of_ble_eq_true rfl⟩ (As := [.int v3]) (rest := [.ref (T 0), .int u0, .ref (T 0)]) rfl rfl (Nat.le_of_ble_eq_true rfl) dX3_minotaurIt_105 (kI ?_) xI
  refine a_bipush (v := 6) dX3_minotaurIt_108 (by decide) ?_
  refine a_iadd dX3_minotaurIt_110 ?_
  obtain ⟨z28, e27, hT⟩ := obnd hT
  refine a_ldI (tw_ld ht 0 (by decide) e27) dX3_minotaurIt_111 ?_
  exact k_X3_minotaurIt_l112 ht hT he
def t_X3_minotaurIt_b49 : (Int32 × Int32 × tS) → Option ((Int32 × Int32 × tS) ⊕ (Int32 × tS)) := fun (v2, v3, s) =>
  (tld 0 s 1).bind fun z12 =>
  if z12 ≤ v3 then
    some (.inr ((v2, s)))
  else
    (t_X3_meets s v3).bind fun r16 =>
    (t_X3_visitorAt v3).bind fun r20 =>
    if r16.1 = 0 then
      t_X3_minotaurIt_l100 r16.2 v2 v3 r16.1 (r20 + 6)
    else
      (t_X3_visitorAt v3).bind fun r34 =>
      (tld 0 r16.2 (r34 + 5)).bind fun z37 =>
      if z37 ≤ 0 then
        t_X3_minotaurIt_l100 r16.2 v2 v3 r16.1 (r20 + 6)
      else
        t_X3_minotaurIt_l112 r16.2 v2 v3 r16.1 1 (r20 + 6)
theorem kb_X3_minotaurIt_b49 {G : aG} {h0 B : aH} {T : Nat → Nat} {K : aRes → aH → Prop} (ht : tOk (gZ G) T) : ∀ (x9 : (Int32 × Int32 × tS)) (e : ((Int32 × Int32 × tS) ⊕ (Int32 × tS))), t_X3_minotaurIt_b49 x9 = some e → (Sum.elim (p_X3_minotaurIt_b49 G h0 K B T) (fun e => aTo (aEI e.1 (tput (gZ G) B T e.2)) K)) e → p_X3_minotaurIt_b49 G h0 K B T x9 := by
  intro x9 e hT he
  obtain ⟨v2, v3, s⟩ := x9
  unfold p_X3_minotaurIt_b49
  unfold t_X3_minotaurIt_b49 at hT
  show aW G M_X3_minotaurIt 3 44 h0 K (tput (gZ G) B T s) 49 [some (.ref (T 100)), none, some (.int v2), some (.int v3), none] []
  dsimp only at hT
  refine a_iload_n dX3_minotaurIt_49 rfl ?_
  refine a_aload_n dX3_minotaurIt_50 rfl ?_
  refine a_gA fl_X3_9_2 (tw_gA ht 0 (by decide)) dX3_minotaurIt_51 ?_
  refine a_iconst (v := 1) dX3_minotaurIt_54 (by decide) ?_
  obtain ⟨z12, e11, hT⟩ := obnd hT
  refine a_ldI (tw_ld ht 0 (by decide) e11) dX3_minotaurIt_55 ?_
  refine a_icmp_ge 132 dX3_minotaurIt_56 rfl (fun c13 => ?_) (fun c13 => ?_)
  · have hT := oifp c13 hT
    refine a_iload_n dX3_minotaurIt_132 rfl ?_
    cases hT
    exact a_iret rfl rfl dX3_minotaurIt_133 (he _ _ ⟨rfl, rfl⟩)
  · have hT := oifn c13 hT
    refine a_aload_n dX3_minotaurIt_59 rfl ?_
    refine a_iload_n dX3_minotaurIt_60 rfl ?_
    obtain ⟨r16, e17, hT⟩ := obnd hT
    refine a_callV kv_X3_131 (tw_is ht) (k_X3_meets ht e17) ⟨Nat.le_of_ble_eq_true rfl, Nat.le_of_ble_eq_true rfl⟩ (As := [.int v3]) (rest := []) rfl rfl (Nat.le_of_ble_eq_true rfl) dX3_minotaurIt_61 (kI ?_) xI
    refine a_istore (lv' := [some (.ref (T 100)), none, some (.int v2), some (.int v3), some (.int r16.1)]) dX3_minotaurIt_64 rfl (by decide) rfl ?_
    refine a_aload_n dX3_minotaurIt_66 rfl ?_
    refine a_gA fl_X3_9_2 (tw_gA ht 0 (by decide)) dX3_minotaurIt_67 ?_
    refine a_iload_n dX3_minotaurIt_70 rfl ?_
    obtain ⟨r20, e21, hT⟩ := obnd hT
    refine a_callS ks_X3_126 (k_X3_visitorAt e21) ⟨Nat.le_of_ble_eq_true rfl, Nat.le_of_ble_eq_true rfl⟩ (As := [.int v3]) (rest := [.ref (T 0)]) rfl rfl (Nat.le_of_ble_eq_true rfl) dX3_minotaurIt_71 (kI ?_) xI
    refine a_bipush (v := 6) dX3_minotaurIt_74 (by decide) ?_
    refine a_iadd dX3_minotaurIt_76 ?_
    refine a_iload dX3_minotaurIt_77 rfl ?_
    refine a_if_eq 100 dX3_minotaurIt_79 rfl (fun c22 => ?_) (fun c22 => ?_)
    · have hT := oifp c22 hT
      exact k_X3_minotaurIt_l100 ht hT he
    · have hT := oifn c22 hT
      refine a_aload_n dX3_minotaurIt_82 rfl ?_
      refine a_gA fl_X3_9_2 (tw_gA ht 0 (by decide)) dX3_minotaurIt_83 ?_
      refine a_iload_n dX3_minotaurIt_86 rfl ?_
      obtain ⟨r34, e35, hT⟩ := obnd hT
      refine a_callS ks_X3_126 (k_X3_visitorAt e35) ⟨Nat.le_of_ble_eq_true rfl, Nat.le_of_ble_eq_true rfl⟩ (As := [.int v3]) (rest := [.ref (T 0), .int (r20 + 6), .ref (T 0)]) rfl rfl (Nat.le_of_ble_eq_true rfl) dX3_minotaurIt_87 (kI ?_) xI
      refine a_iconst (v := 5) dX3_minotaurIt_90 (by decide) ?_
      refine a_iadd dX3_minotaurIt_91 ?_
      obtain ⟨z37, e36, hT⟩ := obnd hT
      refine a_ldI (tw_ld ht 0 (by decide) e36) dX3_minotaurIt_92 ?_
      refine a_if_le 100 dX3_minotaurIt_93 rfl (fun c38 => ?_) (fun c38 => ?_)
      · have hT := oifp c38 hT
        exact k_X3_minotaurIt_l100 ht hT he
      · have hT := oifn c38 hT
        refine a_iconst (v := 1) dX3_minotaurIt_96 (by decide) ?_
        refine a_goto 112 dX3_minotaurIt_97 rfl ?_
        exact k_X3_minotaurIt_l112 ht hT he
theorem k_X3_minotaurIt_b49 {G : aG} {h0 B : aH} {T : Nat → Nat} {K : aRes → aH → Prop} (ht : tOk (gZ G) T) {n9 : Nat} {x9 : (Int32 × Int32 × tS)} {e : (Int32 × tS)} (hT : wlo t_X3_minotaurIt_b49 n9 x9 = some e) (he : (fun e => aTo (aEI e.1 (tput (gZ G) B T e.2)) K) e) : p_X3_minotaurIt_b49 G h0 K B T x9 := wlo_W (kb_X3_minotaurIt_b49 ht) n9 x9 e hT he
def t_X3_minotaurIt (s : tS) (x0 : Int32) : Option (Int32 × tS) :=
  (t_X3_in ((x0 : Int32).toInt64) (-1) 15).bind fun r3 =>
  if r3 = 0 then
    (t_X3_refuse s 1 0).bind fun r45 =>
    some (r45.1, r45.2)
  else
    (tld 0 s 2).bind fun z7 =>
    if z7 = x0 then
      (t_X3_refuse s 3 x0).bind fun r41 =>
      some (r41.1, r41.2)
    else
      (tst 0 s 2 x0).bind fun s10 =>
      wlo t_X3_minotaurIt_b49 300 (0, 0, s10)
theorem k_X3_minotaurIt {G : aG} {B : aH} {T : Nat → Nat} (ht : tOk (gZ G) T) {s : tS} {x0 : Int32} {e : (Int32 × tS)} (hT : t_X3_minotaurIt s x0 = some e) : aMet G yX3_minotaurIt (ws_ yX3_minotaurIt cX3_minotaurIt 5 (Option.some Jvm.ClassFile.FieldType.int)) 3 44 [.ref (T 100), .int x0] (tput (gZ G) B T s) (aEI e.1 (tput (gZ G) B T e.2)) := by
  refine aMet.of (lv := [some (.ref (T 100)), some (.int x0), none, none, none]) (by decide) (Nat.le_of_ble_eq_true rfl) 3 rfl ?_
  have he : aTo (aEI e.1 (tput (gZ G) B T e.2)) (aEI e.1 (tput (gZ G) B T e.2)) := aTo.rf
  unfold t_X3_minotaurIt at hT
  refine a_iload_n dX3_minotaurIt_0 rfl ?_
  refine a_i2l dX3_minotaurIt_1 ?_
  refine a_ldc2 q1851 dX3_minotaurIt_2 ?_
  refine a_ldc2 q1802 dX3_minotaurIt_5 ?_
  obtain ⟨r3, e4, hT⟩ := obnd hT
  refine a_callS ks_X3_59 (k_X3_in e4) ⟨Nat.le_of_ble_eq_true rfl, Nat.le_of_ble_eq_true rfl⟩ (As := [.long ((x0 : Int32).toInt64), .long (-1), .long 15]) (rest := []) rfl rfl (Nat.le_of_ble_eq_true rfl) dX3_minotaurIt_8 (kI ?_) xI
  refine a_if_ne 21 dX3_minotaurIt_11 rfl (fun c5 => ?_) (fun c5 => ?_)
  · have hT := oifn c5 hT
    refine a_aload_n dX3_minotaurIt_21 rfl ?_
    refine a_gA fl_X3_9_2 (tw_gA ht 0 (by decide)) dX3_minotaurIt_22 ?_
    refine a_iconst (v := 2) dX3_minotaurIt_25 (by decide) ?_
    obtain ⟨z7, e6, hT⟩ := obnd hT
    refine a_ldI (tw_ld ht 0 (by decide) e6) dX3_minotaurIt_26 ?_
    refine a_iload_n dX3_minotaurIt_27 rfl ?_
    refine a_icmp_ne 38 dX3_minotaurIt_28 rfl (fun c8 => ?_) (fun c8 => ?_)
    · have hT := oifn c8 hT
      refine a_aload_n dX3_minotaurIt_38 rfl ?_
      refine a_gA fl_X3_9_2 (tw_gA ht 0 (by decide)) dX3_minotaurIt_39 ?_
      refine a_iconst (v := 2) dX3_minotaurIt_42 (by decide) ?_
      refine a_iload_n dX3_minotaurIt_43 rfl ?_
      obtain ⟨s10, e9, hT⟩ := obnd hT
      refine a_stI (tw_st ht 0 (by decide) e9) dX3_minotaurIt_44 ?_
      refine a_iconst (v := 0) dX3_minotaurIt_45 (by decide) ?_
      refine a_istore_n (lv' := [some (.ref (T 100)), some (.int x0), some (.int 0), none, none]) dX3_minotaurIt_46 rfl (by decide) rfl ?_
      refine a_iconst (v := 0) dX3_minotaurIt_47 (by decide) ?_
      refine a_istore_n (lv' := [some (.ref (T 100)), some (.int x0), some (.int 0), some (.int 0), none]) dX3_minotaurIt_48 rfl (by decide) rfl ?_
      refine a_mask [true, false, true, true, true] ?_
      exact k_X3_minotaurIt_b49 ht hT he
    · have hT := oifp c8 hT
      refine a_aload_n dX3_minotaurIt_31 rfl ?_
      refine a_iconst (v := 3) dX3_minotaurIt_32 (by decide) ?_
      refine a_iload_n dX3_minotaurIt_33 rfl ?_
      obtain ⟨r41, e42, hT⟩ := obnd hT
      refine a_callV kv_X3_91 (tw_is ht) (k_X3_refuse ht e42) ⟨Nat.le_of_ble_eq_true rfl, Nat.le_of_ble_eq_true rfl⟩ (As := [.int 3, .int x0]) (rest := []) rfl rfl (Nat.le_of_ble_eq_true rfl) dX3_minotaurIt_34 (kI ?_) xI
      cases hT
      exact a_iret rfl rfl dX3_minotaurIt_37 (he _ _ ⟨rfl, rfl⟩)
  · have hT := oifp c5 hT
    refine a_aload_n dX3_minotaurIt_14 rfl ?_
    refine a_iconst (v := 1) dX3_minotaurIt_15 (by decide) ?_
    refine a_iconst (v := 0) dX3_minotaurIt_16 (by decide) ?_
    obtain ⟨r45, e46, hT⟩ := obnd hT
    refine a_callV kv_X3_91 (tw_is ht) (k_X3_refuse ht e46) ⟨Nat.le_of_ble_eq_true rfl, Nat.le_of_ble_eq_true rfl⟩ (As := [.int 1, .int 0]) (rest := []) rfl rfl (Nat.le_of_ble_eq_true rfl) dX3_minotaurIt_17 (kI ?_) xI
    cases hT
    exact a_iret rfl rfl dX3_minotaurIt_20 (he _ _ ⟨rfl, rfl⟩)
theorem kv_X3_139 : aKV "MazeBondsModel" 139 2 yX3_gardenerIt cX3_gardenerIt 2 (Option.some Jvm.ClassFile.FieldType.int) 1 := ⟨⟨TX3, 21, rfl⟩, Or.inl q1863, q1865, qs42, q81, q1866, ⟨by decide +kernel, by decide +kernel, by decide +kernel⟩⟩
abbrev M_X3_gardener : aM := (yX3_gardener.cls, cX3_gardener, 2, (Option.some Jvm.ClassFile.FieldType.int), [], yX3_gardener.name)
def t_X3_gardener (s : tS) (x0 : Int32) : Option (Int32 × tS) :=
  (t_X3_starts s).bind fun r3 =>
  (t_X3_gardenerIt r3.2 x0).bind fun r7 =>
  (t_X3_changed r7.2 r7.1).bind fun r11 =>
  some (r11.1, r11.2)
theorem k_X3_gardener {G : aG} {B : aH} {T : Nat → Nat} (ht : tOk (gZ G) T) {s : tS} {x0 : Int32} {e : (Int32 × tS)} (hT : t_X3_gardener s x0 = some e) : aMet G yX3_gardener (ws_ yX3_gardener cX3_gardener 2 (Option.some Jvm.ClassFile.FieldType.int)) 4 65 [.ref (T 100), .int x0] (tput (gZ G) B T s) (aEI e.1 (tput (gZ G) B T e.2)) := by
  refine aMet.of (lv := [some (.ref (T 100)), some (.int x0)]) (by decide) (Nat.le_of_ble_eq_true rfl) 0 rfl ?_
  have he : aTo (aEI e.1 (tput (gZ G) B T e.2)) (aEI e.1 (tput (gZ G) B T e.2)) := aTo.rf
  unfold t_X3_gardener at hT
  refine a_aload_n dX3_gardener_0 rfl ?_
  obtain ⟨r3, e4, hT⟩ := obnd hT
  refine a_callV kv_X3_100 (tw_is ht) (k_X3_starts ht e4) ⟨Nat.le_of_ble_eq_true rfl, Nat.le_of_ble_eq_true rfl⟩ (As := []) (rest := []) rfl rfl (Nat.le_of_ble_eq_true rfl) dX3_gardener_1 (kV ?_) xV
  refine a_aload_n dX3_gardener_4 rfl ?_
  refine a_aload_n dX3_gardener_5 rfl ?_
  refine a_iload_n dX3_gardener_6 rfl ?_
  obtain ⟨r7, e8, hT⟩ := obnd hT
  refine a_callV kv_X3_139 (tw_is ht) (k_X3_gardenerIt ht e8) ⟨Nat.le_of_ble_eq_true rfl, Nat.le_of_ble_eq_true rfl⟩ (As := [.int x0]) (rest := [.ref (T 100)]) rfl rfl (Nat.le_of_ble_eq_true rfl) dX3_gardener_7 (kI ?_) xI
  obtain ⟨r11, e12, hT⟩ := obnd hT
  refine a_callV kv_X3_107 (tw_is ht) (k_X3_changed ht e12) ⟨Nat.le_of_ble_eq_true rfl, Nat.le_of_ble_eq_true rfl⟩ (As := [.int r7.1]) (rest := []) rfl rfl (Nat.le_of_ble_eq_true rfl) dX3_gardener_10 (kI ?_) xI
  cases hT
  exact a_iret rfl rfl dX3_gardener_13 (he _ _ ⟨rfl, rfl⟩)
abbrev M_X3_hoursOf : aM := (yX3_hoursOf.cls, cX3_hoursOf, 3, (Option.some Jvm.ClassFile.FieldType.int), [], yX3_hoursOf.name)
def t_X3_hoursOf (s : tS) (x0 : Int32) (x1 : Int32) : Option (Int32 × tS) :=
  (t_X3_laysWays s x0 0).bind fun r3 =>
  (tld 13 r3.2 x1).bind fun z6 =>
  if z6 < 99 then
    (tld 13 r3.2 x1).bind fun z9 =>
    some (z9, r3.2)
  else
    some ((-1), r3.2)
theorem k_X3_hoursOf {G : aG} {B : aH} {T : Nat → Nat} (ht : tOk (gZ G) T) {s : tS} {x0 : Int32} {x1 : Int32} {e : (Int32 × tS)} (hT : t_X3_hoursOf s x0 x1 = some e) : aMet G yX3_hoursOf (ws_ yX3_hoursOf cX3_hoursOf 3 (Option.some Jvm.ClassFile.FieldType.int)) 4 91 [.ref (T 100), .int x0, .int x1] (tput (gZ G) B T s) (aEI e.1 (tput (gZ G) B T e.2)) := by
  refine aMet.of (lv := [some (.ref (T 100)), some (.int x0), some (.int x1)]) (by decide) (Nat.le_of_ble_eq_true rfl) 0 rfl ?_
  have he : aTo (aEI e.1 (tput (gZ G) B T e.2)) (aEI e.1 (tput (gZ G) B T e.2)) := aTo.rf
  unfold t_X3_hoursOf at hT
  refine a_aload_n dX3_hoursOf_0 rfl ?_
  refine a_iload_n dX3_hoursOf_1 rfl ?_
  refine a_iconst (v := 0) dX3_hoursOf_2 (by decide) ?_
  obtain ⟨r3, e4, hT⟩ := obnd hT
  refine a_callV kv_X3_84 (tw_is ht) (k_X3_laysWays ht e4) ⟨Nat.le_of_ble_eq_true rfl, Nat.le_of_ble_eq_true rfl⟩ (As := [.int x0, .int 0]) (rest := []) rfl rfl (Nat.le_of_ble_eq_true rfl) dX3_hoursOf_3 (kV ?_) xV
  refine a_aload_n dX3_hoursOf_6 rfl ?_
  refine a_gA fl_X3_29_2 (tw_gA ht 13 (by decide)) dX3_hoursOf_7 ?_
  refine a_iload_n dX3_hoursOf_10 rfl ?_
  obtain ⟨z6, e5, hT⟩ := obnd hT
  refine a_ldI (tw_ld ht 13 (by decide) e5) dX3_hoursOf_11 ?_
  refine a_bipush (v := 99) dX3_hoursOf_12 (by decide) ?_
  refine a_icmp_lt 21 dX3_hoursOf_14 rfl (fun c7 => ?_) (fun c7 => ?_)
  · have hT := oifp c7 hT
    refine a_aload_n dX3_hoursOf_21 rfl ?_
    refine a_gA fl_X3_29_2 (tw_gA ht 13 (by decide)) dX3_hoursOf_22 ?_
    refine a_iload_n dX3_hoursOf_25 rfl ?_
    obtain ⟨z9, e8, hT⟩ := obnd hT
    refine a_ldI (tw_ld ht 13 (by decide) e8) dX3_hoursOf_26 ?_
    cases hT
    exact a_iret rfl rfl dX3_hoursOf_27 (he _ _ ⟨rfl, rfl⟩)
  · have hT := oifn c7 hT
    refine a_iconst (v := (-1)) dX3_hoursOf_17 (by decide) ?_
    refine a_goto 27 dX3_hoursOf_18 rfl ?_
    cases hT
    exact a_iret rfl rfl dX3_hoursOf_27 (he _ _ ⟨rfl, rfl⟩)
theorem kv_X3_159 : aKV "MazeBondsModel" 159 2 yX3_bondIt cX3_bondIt 5 (Option.some Jvm.ClassFile.FieldType.int) 3 := ⟨⟨TX3, 21, rfl⟩, Or.inl q1899, q1901, qs47, q81, q1902, ⟨by decide +kernel, by decide +kernel, by decide +kernel⟩⟩
abbrev M_X3_bond : aM := (yX3_bond.cls, cX3_bond, 4, (Option.some Jvm.ClassFile.FieldType.int), [], yX3_bond.name)
def t_X3_bond (s : tS) (x0 : Int32) (x1 : Int32) (x2 : Int32) : Option (Int32 × tS) :=
  (t_X3_starts s).bind fun r3 =>
  (t_X3_bondIt r3.2 x0 x1 x2).bind fun r7 =>
  (t_X3_changed r7.2 r7.1).bind fun r11 =>
  some (r11.1, r11.2)
theorem k_X3_bond {G : aG} {B : aH} {T : Nat → Nat} (ht : tOk (gZ G) T) {s : tS} {x0 : Int32} {x1 : Int32} {x2 : Int32} {e : (Int32 × tS)} (hT : t_X3_bond s x0 x1 x2 = some e) : aMet G yX3_bond (ws_ yX3_bond cX3_bond 4 (Option.some Jvm.ClassFile.FieldType.int)) 4 71 [.ref (T 100), .int x0, .int x1, .int x2] (tput (gZ G) B T s) (aEI e.1 (tput (gZ G) B T e.2)) := by
  refine aMet.of (lv := [some (.ref (T 100)), some (.int x0), some (.int x1), some (.int x2)]) (by decide) (Nat.le_of_ble_eq_true rfl) 0 rfl ?_
  have he : aTo (aEI e.1 (tput (gZ G) B T e.2)) (aEI e.1 (tput (gZ G) B T e.2)) := aTo.rf
  unfold t_X3_bond at hT
  refine a_aload_n dX3_bond_0 rfl ?_
  obtain ⟨r3, e4, hT⟩ := obnd hT
  refine a_callV kv_X3_100 (tw_is ht) (k_X3_starts ht e4) ⟨Nat.le_of_ble_eq_true rfl, Nat.le_of_ble_eq_true rfl⟩ (As := []) (rest := []) rfl rfl (Nat.le_of_ble_eq_true rfl) dX3_bond_1 (kV ?_) xV
  refine a_aload_n dX3_bond_4 rfl ?_
  refine a_aload_n dX3_bond_5 rfl ?_
  refine a_iload_n dX3_bond_6 rfl ?_
  refine a_iload_n dX3_bond_7 rfl ?_
  refine a_iload_n dX3_bond_8 rfl ?_
  obtain ⟨r7, e8, hT⟩ := obnd hT
  refine a_callV kv_X3_159 (tw_is ht) (k_X3_bondIt ht e8) ⟨Nat.le_of_ble_eq_true rfl, Nat.le_of_ble_eq_true rfl⟩ (As := [.int x0, .int x1, .int x2]) (rest := [.ref (T 100)]) rfl rfl (Nat.le_of_ble_eq_true rfl) dX3_bond_9 (kI ?_) xI
  obtain ⟨r11, e12, hT⟩ := obnd hT
  refine a_callV kv_X3_107 (tw_is ht) (k_X3_changed ht e12) ⟨Nat.le_of_ble_eq_true rfl, Nat.le_of_ble_eq_true rfl⟩ (As := [.int r7.1]) (rest := []) rfl rfl (Nat.le_of_ble_eq_true rfl) dX3_bond_12 (kI ?_) xI
  cases hT
  exact a_iret rfl rfl dX3_bond_15 (he _ _ ⟨rfl, rfl⟩)
theorem kv_X3_168 : aKV "MazeBondsModel" 168 2 yX3_walkIt cX3_walkIt 7 (Option.some Jvm.ClassFile.FieldType.int) 2 := ⟨⟨TX3, 21, rfl⟩, Or.inl q1912, q1914, qs49, q81, q1915, ⟨by decide +kernel, by decide +kernel, by decide +kernel⟩⟩
abbrev M_X3_walk : aM := (yX3_walk.cls, cX3_walk, 3, (Option.some Jvm.ClassFile.FieldType.int), [], yX3_walk.name)
def t_X3_walk (s : tS) (x0 : Int32) (x1 : Int32) : Option (Int32 × tS) :=
  (t_X3_starts s).bind fun r3 =>
  (t_X3_walkIt r3.2 x0 x1).bind fun r7 =>
  (t_X3_changed r7.2 r7.1).bind fun r11 =>
  some (r11.1, r11.2)
theorem k_X3_walk {G : aG} {B : aH} {T : Nat → Nat} (ht : tOk (gZ G) T) {s : tS} {x0 : Int32} {x1 : Int32} {e : (Int32 × tS)} (hT : t_X3_walk s x0 x1 = some e) : aMet G yX3_walk (ws_ yX3_walk cX3_walk 3 (Option.some Jvm.ClassFile.FieldType.int)) 4 90 [.ref (T 100), .int x0, .int x1] (tput (gZ G) B T s) (aEI e.1 (tput (gZ G) B T e.2)) := by
  refine aMet.of (lv := [some (.ref (T 100)), some (.int x0), some (.int x1)]) (by decide) (Nat.le_of_ble_eq_true rfl) 0 rfl ?_
  have he : aTo (aEI e.1 (tput (gZ G) B T e.2)) (aEI e.1 (tput (gZ G) B T e.2)) := aTo.rf
  unfold t_X3_walk at hT
  refine a_aload_n dX3_walk_0 rfl ?_
  obtain ⟨r3, e4, hT⟩ := obnd hT
  refine a_callV kv_X3_100 (tw_is ht) (k_X3_starts ht e4) ⟨Nat.le_of_ble_eq_true rfl, Nat.le_of_ble_eq_true rfl⟩ (As := []) (rest := []) rfl rfl (Nat.le_of_ble_eq_true rfl) dX3_walk_1 (kV ?_) xV
  refine a_aload_n dX3_walk_4 rfl ?_
  refine a_aload_n dX3_walk_5 rfl ?_
  refine a_iload_n dX3_walk_6 rfl ?_
  refine a_iload_n dX3_walk_7 rfl ?_
  obtain ⟨r7, e8, hT⟩ := obnd hT
  refine a_callV kv_X3_168 (tw_is ht) (k_X3_walkIt ht e8) ⟨Nat.le_of_ble_eq_true rfl, Nat.le_of_ble_eq_true rfl⟩ (As := [.int x0, .int x1]) (rest := [.ref (T 100)]) rfl rfl (Nat.le_of_ble_eq_true rfl) dX3_walk_8 (kI ?_) xI
  obtain ⟨r11, e12, hT⟩ := obnd hT
  refine a_callV kv_X3_107 (tw_is ht) (k_X3_changed ht e12) ⟨Nat.le_of_ble_eq_true rfl, Nat.le_of_ble_eq_true rfl⟩ (As := [.int r7.1]) (rest := []) rfl rfl (Nat.le_of_ble_eq_true rfl) dX3_walk_11 (kI ?_) xI
  cases hT
  exact a_iret rfl rfl dX3_walk_14 (he _ _ ⟨rfl, rfl⟩)
theorem kv_X3_171 : aKV "MazeBondsModel" 171 2 yX3_restIt cX3_restIt 4 (Option.some Jvm.ClassFile.FieldType.int) 2 := ⟨⟨TX3, 21, rfl⟩, Or.inl q1928, q1930, qs52, q81, q1931, ⟨by decide +kernel, by decide +kernel, by decide +kernel⟩⟩
abbrev M_X3_rest : aM := (yX3_rest.cls, cX3_rest, 3, (Option.some Jvm.ClassFile.FieldType.int), [], yX3_rest.name)
def t_X3_rest (s : tS) (x0 : Int32) (x1 : Int32) : Option (Int32 × tS) :=
  (t_X3_starts s).bind fun r3 =>
  (t_X3_restIt r3.2 x0 x1).bind fun r7 =>
  (t_X3_changed r7.2 r7.1).bind fun r11 =>
  some (r11.1, r11.2)
theorem k_X3_rest {G : aG} {B : aH} {T : Nat → Nat} (ht : tOk (gZ G) T) {s : tS} {x0 : Int32} {x1 : Int32} {e : (Int32 × tS)} (hT : t_X3_rest s x0 x1 = some e) : aMet G yX3_rest (ws_ yX3_rest cX3_rest 3 (Option.some Jvm.ClassFile.FieldType.int)) 4 70 [.ref (T 100), .int x0, .int x1] (tput (gZ G) B T s) (aEI e.1 (tput (gZ G) B T e.2)) := by
  refine aMet.of (lv := [some (.ref (T 100)), some (.int x0), some (.int x1)]) (by decide) (Nat.le_of_ble_eq_true rfl) 0 rfl ?_
  have he : aTo (aEI e.1 (tput (gZ G) B T e.2)) (aEI e.1 (tput (gZ G) B T e.2)) := aTo.rf
  unfold t_X3_rest at hT
  refine a_aload_n dX3_rest_0 rfl ?_
  obtain ⟨r3, e4, hT⟩ := obnd hT
  refine a_callV kv_X3_100 (tw_is ht) (k_X3_starts ht e4) ⟨Nat.le_of_ble_eq_true rfl, Nat.le_of_ble_eq_true rfl⟩ (As := []) (rest := []) rfl rfl (Nat.le_of_ble_eq_true rfl) dX3_rest_1 (kV ?_) xV
  refine a_aload_n dX3_rest_4 rfl ?_
  refine a_aload_n dX3_rest_5 rfl ?_
  refine a_iload_n dX3_rest_6 rfl ?_
  refine a_iload_n dX3_rest_7 rfl ?_
  obtain ⟨r7, e8, hT⟩ := obnd hT
  refine a_callV kv_X3_171 (tw_is ht) (k_X3_restIt ht e8) ⟨Nat.le_of_ble_eq_true rfl, Nat.le_of_ble_eq_true rfl⟩ (As := [.int x0, .int x1]) (rest := [.ref (T 100)]) rfl rfl (Nat.le_of_ble_eq_true rfl) dX3_rest_8 (kI ?_) xI
  obtain ⟨r11, e12, hT⟩ := obnd hT
  refine a_callV kv_X3_107 (tw_is ht) (k_X3_changed ht e12) ⟨Nat.le_of_ble_eq_true rfl, Nat.le_of_ble_eq_true rfl⟩ (As := [.int r7.1]) (rest := []) rfl rfl (Nat.le_of_ble_eq_true rfl) dX3_rest_11 (kI ?_) xI
  cases hT
  exact a_iret rfl rfl dX3_rest_14 (he _ _ ⟨rfl, rfl⟩)
theorem kv_X3_142 : aKV "MazeBondsModel" 142 2 yX3_hoursOf cX3_hoursOf 3 (Option.some Jvm.ClassFile.FieldType.int) 2 := ⟨⟨TX3, 21, rfl⟩, Or.inl q1876, q1878, qs44, q81, q1879, ⟨by decide +kernel, by decide +kernel, by decide +kernel⟩⟩
abbrev M_X3_hours : aM := (yX3_hours.cls, cX3_hours, 4, (Option.some Jvm.ClassFile.FieldType.int), [], yX3_hours.name)
def t_X3_hours (s : tS) (x0 : Int32) (x1 : Int32) : Option (Int32 × tS) :=
  (t_X3_areCells s x0 x1).bind fun r3 =>
  if r3.1 = 0 then
    some ((-1), r3.2)
  else
    (t_X3_hoursOf r3.2 x0 x1).bind fun r8 =>
    if r8.1 = (-1) then
      (t_X3_throwing r8.2 2).bind fun r13 =>
      some (r13.1, r13.2)
    else
      some (r8.1, r8.2)
theorem k_X3_hours {G : aG} {B : aH} {T : Nat → Nat} (ht : tOk (gZ G) T) {s : tS} {x0 : Int32} {x1 : Int32} {e : (Int32 × tS)} (hT : t_X3_hours s x0 x1 = some e) : aMet G yX3_hours (ws_ yX3_hours cX3_hours 4 (Option.some Jvm.ClassFile.FieldType.int)) 5 113 [.ref (T 100), .int x0, .int x1] (tput (gZ G) B T s) (aEI e.1 (tput (gZ G) B T e.2)) := by
  refine aMet.of (lv := [some (.ref (T 100)), some (.int x0), some (.int x1), none]) (by decide) (Nat.le_of_ble_eq_true rfl) 1 rfl ?_
  have he : aTo (aEI e.1 (tput (gZ G) B T e.2)) (aEI e.1 (tput (gZ G) B T e.2)) := aTo.rf
  unfold t_X3_hours at hT
  refine a_aload_n dX3_hours_0 rfl ?_
  refine a_iload_n dX3_hours_1 rfl ?_
  refine a_iload_n dX3_hours_2 rfl ?_
  obtain ⟨r3, e4, hT⟩ := obnd hT
  refine a_callV kv_X3_174 (tw_is ht) (k_X3_areCells ht e4) ⟨Nat.le_of_ble_eq_true rfl, Nat.le_of_ble_eq_true rfl⟩ (As := [.int x0, .int x1]) (rest := []) rfl rfl (Nat.le_of_ble_eq_true rfl) dX3_hours_3 (kI ?_) xI
  refine a_if_ne 11 dX3_hours_6 rfl (fun c5 => ?_) (fun c5 => ?_)
  · have hT := oifn c5 hT
    refine a_aload_n dX3_hours_11 rfl ?_
    refine a_iload_n dX3_hours_12 rfl ?_
    refine a_iload_n dX3_hours_13 rfl ?_
    obtain ⟨r8, e9, hT⟩ := obnd hT
    refine a_callV kv_X3_142 (tw_is ht) (k_X3_hoursOf ht e9) ⟨Nat.le_of_ble_eq_true rfl, Nat.le_of_ble_eq_true rfl⟩ (As := [.int x0, .int x1]) (rest := []) rfl rfl (Nat.le_of_ble_eq_true rfl) dX3_hours_14 (kI ?_) xI
    refine a_istore_n (lv' := [some (.ref (T 100)), some (.int x0), some (.int x1), some (.int r8.1)]) dX3_hours_17 rfl (by decide) rfl ?_
    refine a_iload_n dX3_hours_18 rfl ?_
    refine a_iconst (v := (-1)) dX3_hours_19 (by decide) ?_
    refine a_icmp_ne 31 dX3_hours_20 rfl (fun c10 => ?_) (fun c10 => ?_)
    · have hT := oifn c10 hT
      refine a_iload_n dX3_hours_31 rfl ?_
      cases hT
      exact a_iret rfl rfl dX3_hours_32 (he _ _ ⟨rfl, rfl⟩)
    · have hT := oifp c10 hT
      refine a_aload_n dX3_hours_23 rfl ?_
      refine a_iconst (v := 2) dX3_hours_24 (by decide) ?_
      obtain ⟨r13, e14, hT⟩ := obnd hT
      refine a_callV kv_X3_50 (tw_is ht) (k_X3_throwing ht e14) ⟨Nat.le_of_ble_eq_true rfl, Nat.le_of_ble_eq_true rfl⟩ (As := [.int 2]) (rest := []) rfl rfl (Nat.le_of_ble_eq_true rfl) dX3_hours_25 (kI ?_) xI
      refine a_goto 32 dX3_hours_28 rfl ?_
      cases hT
      exact a_iret rfl rfl dX3_hours_32 (he _ _ ⟨rfl, rfl⟩)
  · have hT := oifp c5 hT
    refine a_iconst (v := (-1)) dX3_hours_9 (by decide) ?_
    cases hT
    exact a_iret rfl rfl dX3_hours_10 (he _ _ ⟨rfl, rfl⟩)
theorem kv_X3_177 : aKV "MazeBondsModel" 177 2 yX3_hours cX3_hours 4 (Option.some Jvm.ClassFile.FieldType.int) 2 := ⟨⟨TX3, 21, rfl⟩, Or.inl q1952, q1945, q1946, q81, q1947, ⟨by decide +kernel, by decide +kernel, by decide +kernel⟩⟩
abbrev M_X3_hoursAgain : aM := (yX3_hoursAgain.cls, cX3_hoursAgain, 3, (Option.some Jvm.ClassFile.FieldType.int), [], yX3_hoursAgain.name)
def t_X3_hoursAgain (s : tS) (x0 : Int32) (x1 : Int32) : Option (Int32 × tS) :=
  (t_X3_hours s x0 x1).bind fun r3 =>
  some (r3.1, r3.2)
theorem k_X3_hoursAgain {G : aG} {B : aH} {T : Nat → Nat} (ht : tOk (gZ G) T) {s : tS} {x0 : Int32} {x1 : Int32} {e : (Int32 × tS)} (hT : t_X3_hoursAgain s x0 x1 = some e) : aMet G yX3_hoursAgain (ws_ yX3_hoursAgain cX3_hoursAgain 3 (Option.some Jvm.ClassFile.FieldType.int)) 6 136 [.ref (T 100), .int x0, .int x1] (tput (gZ G) B T s) (aEI e.1 (tput (gZ G) B T e.2)) := by
  refine aMet.of (lv := [some (.ref (T 100)), some (.int x0), some (.int x1)]) (by decide) (Nat.le_of_ble_eq_true rfl) 0 rfl ?_
  have he : aTo (aEI e.1 (tput (gZ G) B T e.2)) (aEI e.1 (tput (gZ G) B T e.2)) := aTo.rf
  unfold t_X3_hoursAgain at hT
  refine a_aload_n dX3_hoursAgain_0 rfl ?_
  refine a_iload_n dX3_hoursAgain_1 rfl ?_
  refine a_iload_n dX3_hoursAgain_2 rfl ?_
  obtain ⟨r3, e4, hT⟩ := obnd hT
  refine a_callV kv_X3_177 (tw_is ht) (k_X3_hours ht e4) ⟨Nat.le_of_ble_eq_true rfl, Nat.le_of_ble_eq_true rfl⟩ (As := [.int x0, .int x1]) (rest := []) rfl rfl (Nat.le_of_ble_eq_true rfl) dX3_hoursAgain_3 (kI ?_) xI
  cases hT
  exact a_iret rfl rfl dX3_hoursAgain_6 (he _ _ ⟨rfl, rfl⟩)
abbrev M_X3_isNeeded : aM := (yX3_isNeeded.cls, cX3_isNeeded, 6, (Option.some Jvm.ClassFile.FieldType.boolean), [], yX3_isNeeded.name)
def t_X3_isNeeded_l82 (s : tS) (v3 : Int32) (v4 : Int32) (u0 : Int32) : Option (Int32 × tS) :=
  (tst 0 s v3 v4).bind fun s31 =>
  if u0 = 0 ∨ u0 = 1 then some (u0, s31) else none
theorem k_X3_isNeeded_l82 {G : aG} {h0 B : aH} {T : Nat → Nat} {K : aRes → aH → Prop} (ht : tOk (gZ G) T) {s : tS} {v3 : Int32} {v4 : Int32} {u0 : Int32} {e : (Int32 × tS)} (hT : t_X3_isNeeded_l82 s v3 v4 u0 = some e) (he : (fun e => aTo (aEI e.1 (tput (gZ G) B T e.2)) K) e) : aW G M_X3_isNeeded 5 113 h0 K (tput (gZ G) B T s) 82 [some (.ref (T 100)), none, none, some (.int v3), some (.int v4), none] [.int u0] := by
  unfold t_X3_isNeeded_l82 at hT
  refine a_istore (lv' := [some (.ref (T 100)), none, none, some (.int v3), some (.int v4), some (.int u0)]) dX3_isNeeded_82 rfl (by decide) rfl ?_
  refine a_aload_n dX3_isNeeded_84 rfl ?_
  refine a_gA fl_X3_9_2 (tw_gA ht 0 (by decide)) dX3_isNeeded_85 ?_
  refine a_iload_n dX3_isNeeded_88 rfl ?_
  refine a_iload dX3_isNeeded_89 rfl ?_
  obtain ⟨s31, e30, hT⟩ := obnd hT
  refine a_stI (tw_st ht 0 (by decide) e30) dX3_isNeeded_91 ?_
  refine a_iload dX3_isNeeded_92 rfl ?_
  obtain ⟨g9, hT⟩ := oifg hT
  cases hT
  exact a_iret rfl (nZ g9) dX3_isNeeded_94 (he _ _ ⟨rfl, rfl⟩)
def t_X3_isNeeded (s : tS) (x0 : Int32) (x1 : Int32) : Option (Int32 × tS) :=
  (t_X3_areCells s x0 x1).bind fun r3 =>
  if r3.1 = 0 then
    some (0, r3.2)
  else
    (t_X3_hedgeAt x0 x1).bind fun r8 =>
    if r8 = (-1) then
      (t_X3_throwing r3.2 2).bind fun r34 =>
      some (0, r34.2)
    else
      (t_X3_isGapAt r3.2 r8).bind fun r13 =>
      if r13.1 = 0 then
        some (0, r13.2)
      else
        (t_X3_hoursOf r13.2 0 15).bind fun r18 =>
        if r18.1 = (-1) then
          some (0, r18.2)
        else
          (tld 0 r18.2 r8).bind fun z22 =>
          (tst 0 r18.2 r8 5).bind fun s24 =>
          (t_X3_hoursOf s24 0 15).bind fun r27 =>
          if r27.1 = (-1) then
            t_X3_isNeeded_l82 r27.2 r8 z22 1
          else
            t_X3_isNeeded_l82 r27.2 r8 z22 0
theorem k_X3_isNeeded {G : aG} {B : aH} {T : Nat → Nat} (ht : tOk (gZ G) T) {s : tS} {x0 : Int32} {x1 : Int32} {e : (Int32 × tS)} (hT : t_X3_isNeeded s x0 x1 = some e) : aMet G yX3_isNeeded (ws_ yX3_isNeeded cX3_isNeeded 6 (Option.some Jvm.ClassFile.FieldType.boolean)) 5 113 [.ref (T 100), .int x0, .int x1] (tput (gZ G) B T s) (aEI e.1 (tput (gZ G) B T e.2)) := by
  refine aMet.of (lv := [some (.ref (T 100)), some (.int x0), some (.int x1), none, none, none]) (by decide) (Nat.le_of_ble_eq_true rfl) 3 rfl ?_
  have he : aTo (aEI e.1 (tput (gZ G) B T e.2)) (aEI e.1 (tput (gZ G) B T e.2)) := aTo.rf
  unfold t_X3_isNeeded at hT
  refine a_aload_n dX3_isNeeded_0 rfl ?_
  refine a_iload_n dX3_isNeeded_1 rfl ?_
  refine a_iload_n dX3_isNeeded_2 rfl ?_
  obtain ⟨r3, e4, hT⟩ := obnd hT
  refine a_callV kv_X3_174 (tw_is ht) (k_X3_areCells ht e4) ⟨Nat.le_of_ble_eq_true rfl, Nat.le_of_ble_eq_true rfl⟩ (As := [.int x0, .int x1]) (rest := []) rfl rfl (Nat.le_of_ble_eq_true rfl) dX3_isNeeded_3 (kI ?_) xI
  refine a_if_ne 11 dX3_isNeeded_6 rfl (fun c5 => ?_) (fun c5 => ?_)
  · have hT := oifn c5 hT
    refine a_iload_n dX3_isNeeded_11 rfl ?_
    refine a_iload_n dX3_isNeeded_12 rfl ?_
    obtain ⟨r8, e9, hT⟩ := obnd hT
    refine a_callS ks_X3_77 (k_X3_hedgeAt e9) ⟨Nat.le_of_ble_eq_true rfl, Nat.le_of_ble_eq_true rfl⟩ (As := [.int x0, .int x1]) (rest := []) rfl rfl (Nat.le_of_ble_eq_true rfl) dX3_isNeeded_13 (kI ?_) xI
    refine a_istore_n (lv' := [some (.ref (T 100)), some (.int x0), some (.int x1), some (.int r8), none, none]) dX3_isNeeded_16 rfl (by decide) rfl ?_
    refine a_iload_n dX3_isNeeded_17 rfl ?_
    refine a_iconst (v := (-1)) dX3_isNeeded_18 (by decide) ?_
    refine a_icmp_ne 30 dX3_isNeeded_19 rfl (fun c10 => ?_) (fun c10 => ?_)
    · have hT := oifn c10 hT
      refine a_aload_n dX3_isNeeded_30 rfl ?_
      refine a_iload_n dX3_isNeeded_31 rfl ?_
      obtain ⟨r13, e14, hT⟩ := obnd hT
      refine a_callV kv_X3_80 (tw_is ht) (k_X3_isGapAt ht e14) ⟨Nat.le_of_ble_eq_true rfl, Nat.le_of_ble_eq_true rfl⟩ (As := [.int r8]) (rest := []) rfl rfl (Nat.le_of_ble_eq_true rfl) dX3_isNeeded_32 (kI ?_) xI
      refine a_if_eq 49 dX3_isNeeded_35 rfl (fun c15 => ?_) (fun c15 => ?_)
      · have hT := oifp c15 hT
        refine a_iconst (v := 0) dX3_isNeeded_49 (by decide) ?_
        cases hT
        exact a_iret rfl (by decide) dX3_isNeeded_50 (he _ _ ⟨rfl, rfl⟩)
      · have hT := oifn c15 hT
        refine a_aload_n dX3_isNeeded_38 rfl ?_
        refine a_iconst (v := 0) dX3_isNeeded_39 (by decide) ?_
        refine a_bipush (v := 15) dX3_isNeeded_40 (by decide) ?_
        obtain ⟨r18, e19, hT⟩ := obnd hT
        refine a_callV kv_X3_142 (tw_is ht) (k_X3_hoursOf ht e19) ⟨Nat.le_of_ble_eq_true rfl, Nat.le_of_ble_eq_true rfl⟩ (As := [.int 0, .int 15]) (rest := []) rfl rfl (Nat.le_of_ble_eq_true rfl) dX3_isNeeded_42 (kI ?_) xI
        refine a_iconst (v := (-1)) dX3_isNeeded_45 (by decide) ?_
        refine a_icmp_ne 51 dX3_isNeeded_46 rfl (fun c20 => ?_) (fun c20 => ?_)
        · have hT := oifn c20 hT
          refine a_aload_n dX3_isNeeded_51 rfl ?_
          refine a_gA fl_X3_9_2 (tw_gA ht 0 (by decide)) dX3_isNeeded_52 ?_
          refine a_iload_n dX3_isNeeded_55 rfl ?_
          obtain ⟨z22, e21, hT⟩ := obnd hT
          refine a_ldI (tw_ld ht 0 (by decide) e21) dX3_isNeeded_56 ?_
          refine a_istore (lv' := [some (.ref (T 100)), some (.int x0), some (.int x1), some (.int r8), some (.int z22), none]) dX3_isNeeded_57 rfl (by decide) rfl ?_
          refine a_aload_n dX3_isNeeded_59 rfl ?_
          refine a_gA fl_X3_9_2 (tw_gA ht 0 (by decide)) dX3_isNeeded_60 ?_
          refine a_iload_n dX3_isNeeded_63 rfl ?_
          refine a_iconst (v := 5) dX3_isNeeded_64 (by decide) ?_
          obtain ⟨s24, e23, hT⟩ := obnd hT
          refine a_stI (tw_st ht 0 (by decide) e23) dX3_isNeeded_65 ?_
          refine a_aload_n dX3_isNeeded_66 rfl ?_
          refine a_iconst (v := 0) dX3_isNeeded_67 (by decide) ?_
          refine a_bipush (v := 15) dX3_isNeeded_68 (by decide) ?_
          obtain ⟨r27, e28, hT⟩ := obnd hT
          refine a_callV kv_X3_142 (tw_is ht) (k_X3_hoursOf ht e28) ⟨Nat.le_of_ble_eq_true rfl, Nat.le_of_ble_eq_true rfl⟩ (As := [.int 0, .int 15]) (rest := []) rfl rfl (Nat.le_of_ble_eq_true rfl) dX3_isNeeded_70 (kI ?_) xI
          refine a_iconst (v := (-1)) dX3_isNeeded_73 (by decide) ?_
          refine a_icmp_ne 81 dX3_isNeeded_74 rfl (fun c29 => ?_) (fun c29 => ?_)
          · have hT := oifn c29 hT
            refine a_iconst (v := 0) dX3_isNeeded_81 (by decide) ?_
            refine a_mask [true, false, false, true, true, true] ?_
            exact k_X3_isNeeded_l82 ht hT he
          · have hT := oifp c29 hT
            refine a_iconst (v := 1) dX3_isNeeded_77 (by decide) ?_
            refine a_goto 82 dX3_isNeeded_78 rfl ?_
            refine a_mask [true, false, false, true, true, true] ?_
            exact k_X3_isNeeded_l82 ht hT he
        · have hT := oifp c20 hT
          refine a_iconst (v := 0) dX3_isNeeded_49 (by decide) ?_
          cases hT
          exact a_iret rfl (by decide) dX3_isNeeded_50 (he _ _ ⟨rfl, rfl⟩)
    · have hT := oifp c10 hT
      refine a_aload_n dX3_isNeeded_22 rfl ?_
      refine a_iconst (v := 2) dX3_isNeeded_23 (by decide) ?_
      obtain ⟨r34, e35, hT⟩ := obnd hT
      refine a_callV kv_X3_50 (tw_is ht) (k_X3_throwing ht e35) ⟨Nat.le_of_ble_eq_true rfl, Nat.le_of_ble_eq_true rfl⟩ (As := [.int 2]) (rest := []) rfl rfl (Nat.le_of_ble_eq_true rfl) dX3_isNeeded_24 (kI ?_) xI
      refine a_pop dX3_isNeeded_27 rfl ?_
      refine a_iconst (v := 0) dX3_isNeeded_28 (by decide) ?_
      cases hT
      exact a_iret rfl (by decide) dX3_isNeeded_29 (he _ _ ⟨rfl, rfl⟩)
  · have hT := oifp c5 hT
    refine a_iconst (v := 0) dX3_isNeeded_9 (by decide) ?_
    cases hT
    exact a_iret rfl (by decide) dX3_isNeeded_10 (he _ _ ⟨rfl, rfl⟩)
abbrev M_X3_summersLeft : aM := (yX3_summersLeft.cls, cX3_summersLeft, 3, (Option.some Jvm.ClassFile.FieldType.int), [], yX3_summersLeft.name)
def p_X3_summersLeft_b7 (G : aG) (h0 : aH) (K : aRes → aH → Prop) (B : aH) (T : Nat → Nat) (x9 : (Int32 × tS)) : Prop := aW G M_X3_summersLeft 5 113 h0 K (tput (gZ G) B T x9.2) 7 [some (.ref (T 100)), some (.int x9.1), none] []
def p_X3_summersLeft_b53 (G : aG) (h0 : aH) (K : aRes → aH → Prop) (B : aH) (T : Nat → Nat) (x9 : (Int32 × Int32 × tS)) : Prop := aW G M_X3_summersLeft 5 113 h0 K (tput (gZ G) B T x9.2.2) 53 [some (.ref (T 100)), some (.int x9.1), some (.int x9.2.1)] []
def t_X3_summersLeft_b53 : (Int32 × Int32 × tS) → Option ((Int32 × Int32 × tS) ⊕ (Int32 × tS)) := fun (v1, v2, s) =>
  if 24 ≤ v2 then
    some (.inr ((v1, s)))
  else
    (tld 0 s (6 + v2)).bind fun z10 =>
    (tst 0 s (6 + v2) (z10 - v1)).bind fun s12 =>
    some (.inl (v1, (v2 + 1), s12))
theorem kb_X3_summersLeft_b53 {G : aG} {h0 B : aH} {T : Nat → Nat} {K : aRes → aH → Prop} (ht : tOk (gZ G) T) : ∀ (x9 : (Int32 × Int32 × tS)) (e : ((Int32 × Int32 × tS) ⊕ (Int32 × tS))), t_X3_summersLeft_b53 x9 = some e → (Sum.elim (p_X3_summersLeft_b53 G h0 K B T) (fun e => aTo (aEI e.1 (tput (gZ G) B T e.2)) K)) e → p_X3_summersLeft_b53 G h0 K B T x9 := by
  intro x9 e hT he
  obtain ⟨v1, v2, s⟩ := x9
  unfold p_X3_summersLeft_b53
  unfold t_X3_summersLeft_b53 at hT
  show aW G M_X3_summersLeft 5 113 h0 K (tput (gZ G) B T s) 53 [some (.ref (T 100)), some (.int v1), some (.int v2)] []
  dsimp only at hT
  refine a_iload_n dX3_summersLeft_53 rfl ?_
  refine a_bipush (v := 24) dX3_summersLeft_54 (by decide) ?_
  refine a_icmp_ge 78 dX3_summersLeft_56 rfl (fun c8 => ?_) (fun c8 => ?_)
  · have hT := oifp c8 hT
    refine a_iload_n dX3_summersLeft_78 rfl ?_
    cases hT
    exact a_iret rfl rfl dX3_summersLeft_79 (he _ _ ⟨rfl, rfl⟩)
  · have hT := oifn c8 hT
    refine a_aload_n dX3_summersLeft_59 rfl ?_
    refine a_gA fl_X3_9_2 (tw_gA ht 0 (by decide)) dX3_summersLeft_60 ?_
    refine a_bipush (v := 6) dX3_summersLeft_63 (by decide) ?_
    refine a_iload_n dX3_summersLeft_65 rfl ?_
    refine a_iadd dX3_summersLeft_66 ?_
    refine a_dup2_11 dX3_summersLeft_67 rfl rfl ?_
    obtain ⟨z10, e9, hT⟩ := obnd hT
    refine a_ldI (tw_ld ht 0 (by decide) e9) dX3_summersLeft_68 ?_
    refine a_iload_n dX3_summersLeft_69 rfl ?_
    refine a_isub dX3_summersLeft_70 ?_
    obtain ⟨s12, e11, hT⟩ := obnd hT
    refine a_stI (tw_st ht 0 (by decide) e11) dX3_summersLeft_71 ?_
    refine a_iinc (v := (v2 + 1)) (lv' := [some (.ref (T 100)), some (.int v1), some (.int (v2 + 1))]) dX3_summersLeft_72 rfl (by rfl) rfl (by decide) rfl ?_
    refine a_goto 53 dX3_summersLeft_75 rfl ?_
    cases hT
    exact he
theorem k_X3_summersLeft_b53 {G : aG} {h0 B : aH} {T : Nat → Nat} {K : aRes → aH → Prop} (ht : tOk (gZ G) T) {n9 : Nat} {x9 : (Int32 × Int32 × tS)} {e : (Int32 × tS)} (hT : wlo t_X3_summersLeft_b53 n9 x9 = some e) (he : (fun e => aTo (aEI e.1 (tput (gZ G) B T e.2)) K) e) : p_X3_summersLeft_b53 G h0 K B T x9 := wlo_W (kb_X3_summersLeft_b53 ht) n9 x9 e hT he
def t_X3_summersLeft_l51 (s : tS) (v1 : Int32) : Option (Int32 × tS) :=
  wlo t_X3_summersLeft_b53 300 (v1, 0, s)
theorem k_X3_summersLeft_l51 {G : aG} {h0 B : aH} {T : Nat → Nat} {K : aRes → aH → Prop} (ht : tOk (gZ G) T) {s : tS} {v1 : Int32} {e : (Int32 × tS)} (hT : t_X3_summersLeft_l51 s v1 = some e) (he : (fun e => aTo (aEI e.1 (tput (gZ G) B T e.2)) K) e) : aW G M_X3_summersLeft 5 113 h0 K (tput (gZ G) B T s) 51 [some (.ref (T 100)), some (.int v1), none] [] := by
  unfold t_X3_summersLeft_l51 at hT
  refine a_iconst (v := 0) dX3_summersLeft_51 (by decide) ?_
  refine a_istore_n (lv' := [some (.ref (T 100)), some (.int v1), some (.int 0)]) dX3_summersLeft_52 rfl (by decide) rfl ?_
  exact k_X3_summersLeft_b53 ht hT he
def p_X3_summersLeft_b20 (G : aG) (h0 : aH) (K : aRes → aH → Prop) (B : aH) (T : Nat → Nat) (x9 : (Int32 × Int32 × tS)) : Prop := aW G M_X3_summersLeft 5 113 h0 K (tput (gZ G) B T x9.2.2) 20 [some (.ref (T 100)), some (.int x9.1), some (.int x9.2.1)] []
def t_X3_summersLeft_b20 : (Int32 × Int32 × tS) → Option ((Int32 × Int32 × tS) ⊕ ((Int32 × tS) ⊕ (Int32 × tS))) := fun (v1, v2, s) =>
  if 24 ≤ v2 then
    some (.inr (.inl ((v1 + 1), s)))
  else
    (tld 0 s (6 + v2)).bind fun z15 =>
    (tst 0 s (6 + v2) (z15 + 1)).bind fun s17 =>
    some (.inl (v1, (v2 + 1), s17))
theorem kb_X3_summersLeft_b20 {G : aG} {h0 B : aH} {T : Nat → Nat} {K : aRes → aH → Prop} (ht : tOk (gZ G) T) : ∀ (x9 : (Int32 × Int32 × tS)) (e : ((Int32 × Int32 × tS) ⊕ ((Int32 × tS) ⊕ (Int32 × tS)))), t_X3_summersLeft_b20 x9 = some e → (Sum.elim (p_X3_summersLeft_b20 G h0 K B T) (Sum.elim (p_X3_summersLeft_b7 G h0 K B T) (fun e => aTo (aEI e.1 (tput (gZ G) B T e.2)) K))) e → p_X3_summersLeft_b20 G h0 K B T x9 := by
  intro x9 e hT he
  obtain ⟨v1, v2, s⟩ := x9
  unfold p_X3_summersLeft_b20
  unfold t_X3_summersLeft_b20 at hT
  show aW G M_X3_summersLeft 5 113 h0 K (tput (gZ G) B T s) 20 [some (.ref (T 100)), some (.int v1), some (.int v2)] []
  dsimp only at hT
  refine a_iload_n dX3_summersLeft_20 rfl ?_
  refine a_bipush (v := 24) dX3_summersLeft_21 (by decide) ?_
  refine a_icmp_ge 45 dX3_summersLeft_23 rfl (fun c13 => ?_) (fun c13 => ?_)
  · have hT := oifp c13 hT
    refine a_iinc (v := (v1 + 1)) (lv' := [some (.ref (T 100)), some (.int (v1 + 1)), some (.int v2)]) dX3_summersLeft_45 rfl (by rfl) rfl (by decide) rfl ?_
    refine a_goto 7 dX3_summersLeft_48 rfl ?_
    cases hT
    refine a_mask [true, true, false] ?_
    exact he
  · have hT := oifn c13 hT
    refine a_aload_n dX3_summersLeft_26 rfl ?_
    refine a_gA fl_X3_9_2 (tw_gA ht 0 (by decide)) dX3_summersLeft_27 ?_
    refine a_bipush (v := 6) dX3_summersLeft_30 (by decide) ?_
    refine a_iload_n dX3_summersLeft_32 rfl ?_
    refine a_iadd dX3_summersLeft_33 ?_
    refine a_dup2_11 dX3_summersLeft_34 rfl rfl ?_
    obtain ⟨z15, e14, hT⟩ := obnd hT
    refine a_ldI (tw_ld ht 0 (by decide) e14) dX3_summersLeft_35 ?_
    refine a_iconst (v := 1) dX3_summersLeft_36 (by decide) ?_
    refine a_iadd dX3_summersLeft_37 ?_
    obtain ⟨s17, e16, hT⟩ := obnd hT
    refine a_stI (tw_st ht 0 (by decide) e16) dX3_summersLeft_38 ?_
    refine a_iinc (v := (v2 + 1)) (lv' := [some (.ref (T 100)), some (.int v1), some (.int (v2 + 1))]) dX3_summersLeft_39 rfl (by rfl) rfl (by decide) rfl ?_
    refine a_goto 20 dX3_summersLeft_42 rfl ?_
    cases hT
    exact he
theorem k_X3_summersLeft_b20 {G : aG} {h0 B : aH} {T : Nat → Nat} {K : aRes → aH → Prop} (ht : tOk (gZ G) T) {n9 : Nat} {x9 : (Int32 × Int32 × tS)} {e : ((Int32 × tS) ⊕ (Int32 × tS))} (hT : wlo t_X3_summersLeft_b20 n9 x9 = some e) (he : (Sum.elim (p_X3_summersLeft_b7 G h0 K B T) (fun e => aTo (aEI e.1 (tput (gZ G) B T e.2)) K)) e) : p_X3_summersLeft_b20 G h0 K B T x9 := wlo_W (kb_X3_summersLeft_b20 ht) n9 x9 e hT he
def t_X3_summersLeft_b7 : (Int32 × tS) → Option ((Int32 × tS) ⊕ (Int32 × tS)) := fun (v1, s) =>
  (t_X3_hoursOf s 0 15).bind fun r5 =>
  if r5.1 = (-1) then
    (t_X3_summersLeft_l51 r5.2 v1).map .inr
  else
    wlo t_X3_summersLeft_b20 300 (v1, 0, r5.2)
theorem kb_X3_summersLeft_b7 {G : aG} {h0 B : aH} {T : Nat → Nat} {K : aRes → aH → Prop} (ht : tOk (gZ G) T) : ∀ (x9 : (Int32 × tS)) (e : ((Int32 × tS) ⊕ (Int32 × tS))), t_X3_summersLeft_b7 x9 = some e → (Sum.elim (p_X3_summersLeft_b7 G h0 K B T) (fun e => aTo (aEI e.1 (tput (gZ G) B T e.2)) K)) e → p_X3_summersLeft_b7 G h0 K B T x9 := by
  intro x9 e hT he
  obtain ⟨v1, s⟩ := x9
  unfold p_X3_summersLeft_b7
  unfold t_X3_summersLeft_b7 at hT
  show aW G M_X3_summersLeft 5 113 h0 K (tput (gZ G) B T s) 7 [some (.ref (T 100)), some (.int v1), none] []
  dsimp only at hT
  refine a_aload_n dX3_summersLeft_7 rfl ?_
  refine a_iconst (v := 0) dX3_summersLeft_8 (by decide) ?_
  refine a_bipush (v := 15) dX3_summersLeft_9 (by decide) ?_
  obtain ⟨r5, e6, hT⟩ := obnd hT
  refine a_callV kv_X3_142 (tw_is ht) (k_X3_hoursOf ht e6) ⟨Nat.le_of_ble_eq_true rfl, Nat.le_of_ble_eq_true rfl⟩ (As := [.int 0, .int 15]) (rest := []) rfl rfl (Nat.le_of_ble_eq_true rfl) dX3_summersLeft_11 (kI ?_) xI
  refine a_iconst (v := (-1)) dX3_summersLeft_14 (by decide) ?_
  refine a_icmp_eq 51 dX3_summersLeft_15 rfl (fun c7 => ?_) (fun c7 => ?_)
  · have hT := oifp c7 hT
    obtain ⟨e8, hT8, rfl⟩ := omap hT
    exact k_X3_summersLeft_l51 ht hT8 he
  · have hT := oifn c7 hT
    refine a_iconst (v := 0) dX3_summersLeft_18 (by decide) ?_
    refine a_istore_n (lv' := [some (.ref (T 100)), some (.int v1), some (.int 0)]) dX3_summersLeft_19 rfl (by decide) rfl ?_
    exact k_X3_summersLeft_b20 ht hT he
theorem k_X3_summersLeft_b7 {G : aG} {h0 B : aH} {T : Nat → Nat} {K : aRes → aH → Prop} (ht : tOk (gZ G) T) {n9 : Nat} {x9 : (Int32 × tS)} {e : (Int32 × tS)} (hT : wlo t_X3_summersLeft_b7 n9 x9 = some e) (he : (fun e => aTo (aEI e.1 (tput (gZ G) B T e.2)) K) e) : p_X3_summersLeft_b7 G h0 K B T x9 := wlo_W (kb_X3_summersLeft_b7 ht) n9 x9 e hT he
def t_X3_summersLeft (s : tS)  : Option (Int32 × tS) :=
  (tpf 12 s 0).bind fun s2 =>
  wlo t_X3_summersLeft_b7 300 (0, s2)
theorem k_X3_summersLeft {G : aG} {B : aH} {T : Nat → Nat} (ht : tOk (gZ G) T) {s : tS}  {e : (Int32 × tS)} (hT : t_X3_summersLeft s  = some e) : aMet G yX3_summersLeft (ws_ yX3_summersLeft cX3_summersLeft 3 (Option.some Jvm.ClassFile.FieldType.int)) 5 113 [.ref (T 100)] (tput (gZ G) B T s) (aEI e.1 (tput (gZ G) B T e.2)) := by
  refine aMet.of (lv := [some (.ref (T 100)), none, none]) (by decide) (Nat.le_of_ble_eq_true rfl) 2 rfl ?_
  have he : aTo (aEI e.1 (tput (gZ G) B T e.2)) (aEI e.1 (tput (gZ G) B T e.2)) := aTo.rf
  unfold t_X3_summersLeft at hT
  refine a_aload_n dX3_summersLeft_0 rfl ?_
  refine a_iconst (v := 0) dX3_summersLeft_1 (by decide) ?_
  obtain ⟨s2, e1, hT⟩ := obnd hT
  refine a_put (fp_X3_38_2 _) ⟨rfl, rfl⟩ (tw_pf ht 12 (by decide) e1) dX3_summersLeft_2 ?_
  refine a_iconst (v := 0) dX3_summersLeft_5 (by decide) ?_
  refine a_istore_n (lv' := [some (.ref (T 100)), some (.int 0), none]) dX3_summersLeft_6 rfl (by decide) rfl ?_
  exact k_X3_summersLeft_b7 ht hT he
abbrev M_X3_gardenerOf : aM := (yX3_gardenerOf.cls, cX3_gardenerOf, 3, (Option.some Jvm.ClassFile.FieldType.int), [], yX3_gardenerOf.name)
def t_X3_gardenerOf (s : tS) (x0 : Int32) (x1 : Int32) : Option (Int32 × tS) :=
  (tpf 12 s 0).bind fun s2 =>
  (t_X3_isGardener s2 x0).bind fun r5 =>
  if r5.1 = 0 then
    (t_X3_throwing r5.2 1).bind fun r48 =>
    some (r48.1, r48.2)
  else
    if x1 = 0 then
      (t_X3_gardenerAt x0).bind fun r11 =>
      (tld 0 r5.2 r11).bind fun z14 =>
      some (z14, r5.2)
    else
      if x1 = 1 then
        (t_X3_lasting r5.2 x0).bind fun r18 =>
        some (r18.1, r18.2)
      else
        if x1 = 2 then
          (t_X3_gardenerAt x0).bind fun r23 =>
          (tld 0 r5.2 ((r23 + x1) - 1)).bind fun z26 =>
          some (z26, r5.2)
        else
          if x1 = 3 then
            (t_X3_gardenerAt x0).bind fun r30 =>
            (tld 0 r5.2 ((r30 + x1) - 1)).bind fun z33 =>
            some (z33, r5.2)
          else
            if x1 = 4 then
              (t_X3_gardenerAt x0).bind fun r37 =>
              (tld 0 r5.2 ((r37 + x1) - 1)).bind fun z40 =>
              some (z40, r5.2)
            else
              (t_X3_throwing r5.2 2).bind fun r43 =>
              some (r43.1, r43.2)
theorem k_X3_gardenerOf {G : aG} {B : aH} {T : Nat → Nat} (ht : tOk (gZ G) T) {s : tS} {x0 : Int32} {x1 : Int32} {e : (Int32 × tS)} (hT : t_X3_gardenerOf s x0 x1 = some e) : aMet G yX3_gardenerOf (ws_ yX3_gardenerOf cX3_gardenerOf 3 (Option.some Jvm.ClassFile.FieldType.int)) 4 65 [.ref (T 100), .int x0, .int x1] (tput (gZ G) B T s) (aEI e.1 (tput (gZ G) B T e.2)) := by
  refine aMet.of (lv := [some (.ref (T 100)), some (.int x0), some (.int x1)]) (by decide) (Nat.le_of_ble_eq_true rfl) 0 rfl ?_
  have he : aTo (aEI e.1 (tput (gZ G) B T e.2)) (aEI e.1 (tput (gZ G) B T e.2)) := aTo.rf
  unfold t_X3_gardenerOf at hT
  refine a_aload_n dX3_gardenerOf_0 rfl ?_
  refine a_iconst (v := 0) dX3_gardenerOf_1 (by decide) ?_
  obtain ⟨s2, e1, hT⟩ := obnd hT
  refine a_put (fp_X3_38_2 _) ⟨rfl, rfl⟩ (tw_pf ht 12 (by decide) e1) dX3_gardenerOf_2 ?_
  refine a_aload_n dX3_gardenerOf_5 rfl ?_
  refine a_iload_n dX3_gardenerOf_6 rfl ?_
  obtain ⟨r5, e6, hT⟩ := obnd hT
  refine a_callV kv_X3_117 (tw_is ht) (k_X3_isGardener ht e6) ⟨Nat.le_of_ble_eq_true rfl, Nat.le_of_ble_eq_true rfl⟩ (As := [.int x0]) (rest := []) rfl rfl (Nat.le_of_ble_eq_true rfl) dX3_gardenerOf_7 (kI ?_) xI
  refine a_if_ne 19 dX3_gardenerOf_10 rfl (fun c7 => ?_) (fun c7 => ?_)
  · have hT := oifn c7 hT
    refine a_iload_n dX3_gardenerOf_19 rfl ?_
    by_cases c8 : x1 = 0
    · have hT := oifp c8 hT
      refine a_tswIn 56 dX3_gardenerOf_20 (by rw [c8]; decide) (by rw [c8]; decide) (off := 36) (by rw [c8]; rfl) rfl ?_
      refine a_aload_n dX3_gardenerOf_56 rfl ?_
      refine a_gA fl_X3_9_2 (tw_gA ht 0 (by decide)) dX3_gardenerOf_57 ?_
      refine a_iload_n dX3_gardenerOf_60 rfl ?_
      obtain ⟨r11, e12, hT⟩ := obnd hT
      refine a_callS ks_X3_120 (k_X3_gardenerAt e12) ⟨Nat.le_of_ble_eq_true rfl, Nat.le_of_ble_eq_true rfl⟩ (As := [.int x0]) (rest := [.ref (T 0)]) rfl rfl (Nat.le_of_ble_eq_true rfl) dX3_gardenerOf_61 (kI ?_) xI
      obtain ⟨z14, e13, hT⟩ := obnd hT
      refine a_ldI (tw_ld ht 0 (by decide) e13) dX3_gardenerOf_64 ?_
      cases hT
      exact a_iret rfl rfl dX3_gardenerOf_65 (he _ _ ⟨rfl, rfl⟩)
    · have hT := oifn c8 hT
      by_cases c15 : x1 = 1
      · have hT := oifp c15 hT
        refine a_tswIn 66 dX3_gardenerOf_20 (by rw [c15]; decide) (by rw [c15]; decide) (off := 46) (by rw [c15]; rfl) rfl ?_
        refine a_aload_n dX3_gardenerOf_66 rfl ?_
        refine a_iload_n dX3_gardenerOf_67 rfl ?_
        obtain ⟨r18, e19, hT⟩ := obnd hT
        refine a_callV kv_X3_186 (tw_is ht) (k_X3_lasting ht e19) ⟨Nat.le_of_ble_eq_true rfl, Nat.le_of_ble_eq_true rfl⟩ (As := [.int x0]) (rest := []) rfl rfl (Nat.le_of_ble_eq_true rfl) dX3_gardenerOf_68 (kI ?_) xI
        cases hT
        exact a_iret rfl rfl dX3_gardenerOf_71 (he _ _ ⟨rfl, rfl⟩)
      · have hT := oifn c15 hT
        by_cases c20 : x1 = 2
        · have hT := oifp c20 hT
          refine a_tswIn 72 dX3_gardenerOf_20 (by rw [c20]; decide) (by rw [c20]; decide) (off := 52) (by rw [c20]; rfl) rfl ?_
          refine a_aload_n dX3_gardenerOf_72 rfl ?_
          refine a_gA fl_X3_9_2 (tw_gA ht 0 (by decide)) dX3_gardenerOf_73 ?_
          refine a_iload_n dX3_gardenerOf_76 rfl ?_
          obtain ⟨r23, e24, hT⟩ := obnd hT
          refine a_callS ks_X3_120 (k_X3_gardenerAt e24) ⟨Nat.le_of_ble_eq_true rfl, Nat.le_of_ble_eq_true rfl⟩ (As := [.int x0]) (rest := [.ref (T 0)]) rfl rfl (Nat.le_of_ble_eq_true rfl) dX3_gardenerOf_77 (kI ?_) xI
          refine a_iload_n dX3_gardenerOf_80 rfl ?_
          refine a_iadd dX3_gardenerOf_81 ?_
          refine a_iconst (v := 1) dX3_gardenerOf_82 (by decide) ?_
          refine a_isub dX3_gardenerOf_83 ?_
          obtain ⟨z26, e25, hT⟩ := obnd hT
          refine a_ldI (tw_ld ht 0 (by decide) e25) dX3_gardenerOf_84 ?_
          cases hT
          exact a_iret rfl rfl dX3_gardenerOf_85 (he _ _ ⟨rfl, rfl⟩)
        · have hT := oifn c20 hT
          by_cases c27 : x1 = 3
          · have hT := oifp c27 hT
            refine a_tswIn 72 dX3_gardenerOf_20 (by rw [c27]; decide) (by rw [c27]; decide) (off := 52) (by rw [c27]; rfl) rfl ?_
            refine a_aload_n dX3_gardenerOf_72 rfl ?_
            refine a_gA fl_X3_9_2 (tw_gA ht 0 (by decide)) dX3_gardenerOf_73 ?_
            refine a_iload_n dX3_gardenerOf_76 rfl ?_
            obtain ⟨r30, e31, hT⟩ := obnd hT
            refine a_callS ks_X3_120 (k_X3_gardenerAt e31) ⟨Nat.le_of_ble_eq_true rfl, Nat.le_of_ble_eq_true rfl⟩ (As := [.int x0]) (rest := [.ref (T 0)]) rfl rfl (Nat.le_of_ble_eq_true rfl) dX3_gardenerOf_77 (kI ?_) xI
            refine a_iload_n dX3_gardenerOf_80 rfl ?_
            refine a_iadd dX3_gardenerOf_81 ?_
            refine a_iconst (v := 1) dX3_gardenerOf_82 (by decide) ?_
            refine a_isub dX3_gardenerOf_83 ?_
            obtain ⟨z33, e32, hT⟩ := obnd hT
            refine a_ldI (tw_ld ht 0 (by decide) e32) dX3_gardenerOf_84 ?_
            cases hT
            exact a_iret rfl rfl dX3_gardenerOf_85 (he _ _ ⟨rfl, rfl⟩)
          · have hT := oifn c27 hT
            by_cases c34 : x1 = 4
            · have hT := oifp c34 hT
              refine a_tswIn 72 dX3_gardenerOf_20 (by rw [c34]; decide) (by rw [c34]; decide) (off := 52) (by rw [c34]; rfl) rfl ?_
              refine a_aload_n dX3_gardenerOf_72 rfl ?_
              refine a_gA fl_X3_9_2 (tw_gA ht 0 (by decide)) dX3_gardenerOf_73 ?_
              refine a_iload_n dX3_gardenerOf_76 rfl ?_
              obtain ⟨r37, e38, hT⟩ := obnd hT
              refine a_callS ks_X3_120 (k_X3_gardenerAt e38) ⟨Nat.le_of_ble_eq_true rfl, Nat.le_of_ble_eq_true rfl⟩ (As := [.int x0]) (rest := [.ref (T 0)]) rfl rfl (Nat.le_of_ble_eq_true rfl) dX3_gardenerOf_77 (kI ?_) xI
              refine a_iload_n dX3_gardenerOf_80 rfl ?_
              refine a_iadd dX3_gardenerOf_81 ?_
              refine a_iconst (v := 1) dX3_gardenerOf_82 (by decide) ?_
              refine a_isub dX3_gardenerOf_83 ?_
              obtain ⟨z40, e39, hT⟩ := obnd hT
              refine a_ldI (tw_ld ht 0 (by decide) e39) dX3_gardenerOf_84 ?_
              cases hT
              exact a_iret rfl rfl dX3_gardenerOf_85 (he _ _ ⟨rfl, rfl⟩)
            · have hT := oifn c34 hT
              refine aTsw 86 dX3_gardenerOf_20 rfl (cs := [0, 1, 2, 3, 4]) (by decide +kernel) (by simp only [List.mem_cons, List.not_mem_nil, or_false]; rintro z9 (rfl | rfl | rfl | rfl | rfl) <;> assumption) ?_
              refine a_aload_n dX3_gardenerOf_86 rfl ?_
              refine a_iconst (v := 2) dX3_gardenerOf_87 (by decide) ?_
              obtain ⟨r43, e44, hT⟩ := obnd hT
              refine a_callV kv_X3_50 (tw_is ht) (k_X3_throwing ht e44) ⟨Nat.le_of_ble_eq_true rfl, Nat.le_of_ble_eq_true rfl⟩ (As := [.int 2]) (rest := []) rfl rfl (Nat.le_of_ble_eq_true rfl) dX3_gardenerOf_88 (kI ?_) xI
              cases hT
              exact a_iret rfl rfl dX3_gardenerOf_91 (he _ _ ⟨rfl, rfl⟩)
  · have hT := oifp c7 hT
    refine a_aload_n dX3_gardenerOf_13 rfl ?_
    refine a_iconst (v := 1) dX3_gardenerOf_14 (by decide) ?_
    obtain ⟨r48, e49, hT⟩ := obnd hT
    refine a_callV kv_X3_50 (tw_is ht) (k_X3_throwing ht e49) ⟨Nat.le_of_ble_eq_true rfl, Nat.le_of_ble_eq_true rfl⟩ (As := [.int 1]) (rest := []) rfl rfl (Nat.le_of_ble_eq_true rfl) dX3_gardenerOf_15 (kI ?_) xI
    cases hT
    exact a_iret rfl rfl dX3_gardenerOf_18 (he _ _ ⟨rfl, rfl⟩)
abbrev M_X3_wouldPay : aM := (yX3_wouldPay.cls, cX3_wouldPay, 4, (Option.some Jvm.ClassFile.FieldType.int), [], yX3_wouldPay.name)
def t_X3_wouldPay_l52 (s : tS)  : Option (Int32 × tS) :=
  (t_X3_throwing s 2).bind fun r25 =>
  some (r25.1, r25.2)
theorem k_X3_wouldPay_l52 {G : aG} {h0 B : aH} {T : Nat → Nat} {K : aRes → aH → Prop} (ht : tOk (gZ G) T) {s : tS}  {e : (Int32 × tS)} (hT : t_X3_wouldPay_l52 s  = some e) (he : (fun e => aTo (aEI e.1 (tput (gZ G) B T e.2)) K) e) : aW G M_X3_wouldPay 5 113 h0 K (tput (gZ G) B T s) 52 [some (.ref (T 100)), none, none, none] [] := by
  unfold t_X3_wouldPay_l52 at hT
  refine a_aload_n dX3_wouldPay_52 rfl ?_
  refine a_iconst (v := 2) dX3_wouldPay_53 (by decide) ?_
  obtain ⟨r25, e26, hT⟩ := obnd hT
  refine a_callV kv_X3_50 (tw_is ht) (k_X3_throwing ht e26) ⟨Nat.le_of_ble_eq_true rfl, Nat.le_of_ble_eq_true rfl⟩ (As := [.int 2]) (rest := []) rfl rfl (Nat.le_of_ble_eq_true rfl) dX3_wouldPay_54 (kI ?_) xI
  cases hT
  exact a_iret rfl rfl dX3_wouldPay_57 (he _ _ ⟨rfl, rfl⟩)
def t_X3_wouldPay (s : tS) (x0 : Int32) : Option (Int32 × tS) :=
  (tpf 12 s 0).bind fun s2 =>
  (t_X3_isVisitor s2 x0).bind fun r5 =>
  if r5.1 = 0 then
    (t_X3_throwing r5.2 1).bind fun r38 =>
    some (r38.1, r38.2)
  else
    (t_X3_visitorAt x0).bind fun r10 =>
    (tld 0 r5.2 (r10 + 1)).bind fun z13 =>
    (t_X3_hoursOf r5.2 z13 15).bind fun r16 =>
    (t_X3_lasts r16.2 x0).bind fun r20 =>
    if r20.1 = 0 then
      t_X3_wouldPay_l52 r20.2
    else
      if r16.1 = (-1) then
        t_X3_wouldPay_l52 r20.2
      else
        (tld 0 r20.2 (r10 + 2)).bind fun z29 =>
        (tld 0 r20.2 (r10 + 3)).bind fun z31 =>
        (t_X3_pays r20.2 x0 (jmax 0 ((z29 + r16.1) - z31))).bind fun r34 =>
        some (r34.1, r34.2)
theorem k_X3_wouldPay {G : aG} {B : aH} {T : Nat → Nat} (ht : tOk (gZ G) T) {s : tS} {x0 : Int32} {e : (Int32 × tS)} (hT : t_X3_wouldPay s x0 = some e) : aMet G yX3_wouldPay (ws_ yX3_wouldPay cX3_wouldPay 4 (Option.some Jvm.ClassFile.FieldType.int)) 5 113 [.ref (T 100), .int x0] (tput (gZ G) B T s) (aEI e.1 (tput (gZ G) B T e.2)) := by
  refine aMet.of (lv := [some (.ref (T 100)), some (.int x0), none, none]) (by decide) (Nat.le_of_ble_eq_true rfl) 2 rfl ?_
  have he : aTo (aEI e.1 (tput (gZ G) B T e.2)) (aEI e.1 (tput (gZ G) B T e.2)) := aTo.rf
  unfold t_X3_wouldPay at hT
  refine a_aload_n dX3_wouldPay_0 rfl ?_
  refine a_iconst (v := 0) dX3_wouldPay_1 (by decide) ?_
  obtain ⟨s2, e1, hT⟩ := obnd hT
  refine a_put (fp_X3_38_2 _) ⟨rfl, rfl⟩ (tw_pf ht 12 (by decide) e1) dX3_wouldPay_2 ?_
  refine a_aload_n dX3_wouldPay_5 rfl ?_
  refine a_iload_n dX3_wouldPay_6 rfl ?_
  obtain ⟨r5, e6, hT⟩ := obnd hT
  refine a_callV kv_X3_154 (tw_is ht) (k_X3_isVisitor ht e6) ⟨Nat.le_of_ble_eq_true rfl, Nat.le_of_ble_eq_true rfl⟩ (As := [.int x0]) (rest := []) rfl rfl (Nat.le_of_ble_eq_true rfl) dX3_wouldPay_7 (kI ?_) xI
  refine a_if_ne 19 dX3_wouldPay_10 rfl (fun c7 => ?_) (fun c7 => ?_)
  · have hT := oifn c7 hT
    refine a_iload_n dX3_wouldPay_19 rfl ?_
    obtain ⟨r10, e11, hT⟩ := obnd hT
    refine a_callS ks_X3_126 (k_X3_visitorAt e11) ⟨Nat.le_of_ble_eq_true rfl, Nat.le_of_ble_eq_true rfl⟩ (As := [.int x0]) (rest := []) rfl rfl (Nat.le_of_ble_eq_true rfl) dX3_wouldPay_20 (kI ?_) xI
    refine a_istore_n (lv' := [some (.ref (T 100)), some (.int x0), some (.int r10), none]) dX3_wouldPay_23 rfl (by decide) rfl ?_
    refine a_aload_n dX3_wouldPay_24 rfl ?_
    refine a_aload_n dX3_wouldPay_25 rfl ?_
    refine a_gA fl_X3_9_2 (tw_gA ht 0 (by decide)) dX3_wouldPay_26 ?_
    refine a_iload_n dX3_wouldPay_29 rfl ?_
    refine a_iconst (v := 1) dX3_wouldPay_30 (by decide) ?_
    refine a_iadd dX3_wouldPay_31 ?_
    obtain ⟨z13, e12, hT⟩ := obnd hT
    refine a_ldI (tw_ld ht 0 (by decide) e12) dX3_wouldPay_32 ?_
    refine a_bipush (v := 15) dX3_wouldPay_33 (by decide) ?_
    obtain ⟨r16, e17, hT⟩ := obnd hT
    refine a_callV kv_X3_142 (tw_is ht) (k_X3_hoursOf ht e17) ⟨Nat.le_of_ble_eq_true rfl, Nat.le_of_ble_eq_true rfl⟩ (As := [.int z13, .int 15]) (rest := []) rfl rfl (Nat.le_of_ble_eq_true rfl) dX3_wouldPay_35 (kI ?_) xI
    refine a_istore_n (lv' := [some (.ref (T 100)), some (.int x0), some (.int r10), some (.int r16.1)]) dX3_wouldPay_38 rfl (by decide) rfl ?_
    refine a_aload_n dX3_wouldPay_39 rfl ?_
    refine a_iload_n dX3_wouldPay_40 rfl ?_
    obtain ⟨r20, e21, hT⟩ := obnd hT
    refine a_callV kv_X3_183 (tw_is ht) (k_X3_lasts ht e21) ⟨Nat.le_of_ble_eq_true rfl, Nat.le_of_ble_eq_true rfl⟩ (As := [.int x0]) (rest := []) rfl rfl (Nat.le_of_ble_eq_true rfl) dX3_wouldPay_41 (kI ?_) xI
    refine a_if_eq 52 dX3_wouldPay_44 rfl (fun c22 => ?_) (fun c22 => ?_)
    · have hT := oifp c22 hT
      refine a_mask [true, false, false, false] ?_
      exact k_X3_wouldPay_l52 ht hT he
    · have hT := oifn c22 hT
      refine a_iload_n dX3_wouldPay_47 rfl ?_
      refine a_iconst (v := (-1)) dX3_wouldPay_48 (by decide) ?_
      refine a_icmp_ne 58 dX3_wouldPay_49 rfl (fun c27 => ?_) (fun c27 => ?_)
      · have hT := oifn c27 hT
        refine a_aload_n dX3_wouldPay_58 rfl ?_
        refine a_iload_n dX3_wouldPay_59 rfl ?_
        refine a_iconst (v := 0) dX3_wouldPay_60 (by decide) ?_
        refine a_aload_n dX3_wouldPay_61 rfl ?_
        refine a_gA fl_X3_9_2 (tw_gA ht 0 (by decide)) dX3_wouldPay_62 ?_
        refine a_iload_n dX3_wouldPay_65 rfl ?_
        refine a_iconst (v := 2) dX3_wouldPay_66 (by decide) ?_
        refine a_iadd dX3_wouldPay_67 ?_
        obtain ⟨z29, e28, hT⟩ := obnd hT
        refine a_ldI (tw_ld ht 0 (by decide) e28) dX3_wouldPay_68 ?_
        refine a_iload_n dX3_wouldPay_69 rfl ?_
        refine a_iadd dX3_wouldPay_70 ?_
        refine a_aload_n dX3_wouldPay_71 rfl ?_
        refine a_gA fl_X3_9_2 (tw_gA ht 0 (by decide)) dX3_wouldPay_72 ?_
        refine a_iload_n dX3_wouldPay_75 rfl ?_
        refine a_iconst (v := 3) dX3_wouldPay_76 (by decide) ?_
        refine a_iadd dX3_wouldPay_77 ?_
        obtain ⟨z31, e30, hT⟩ := obnd hT
        refine a_ldI (tw_ld ht 0 (by decide) e30) dX3_wouldPay_78 ?_
        refine a_isub dX3_wouldPay_79 ?_
        refine a_mmax q1807 q441 q90 q442 (by decide) (Nat.le_of_ble_eq_true rfl) dX3_wouldPay_80 ?_
        obtain ⟨r34, e35, hT⟩ := obnd hT
        refine a_callV kv_X3_165 (tw_is ht) (k_X3_pays ht e35) ⟨Nat.le_of_ble_eq_true rfl, Nat.le_of_ble_eq_true rfl⟩ (As := [.int x0, .int (jmax 0 ((z29 + r16.1) - z31))]) (rest := []) rfl rfl (Nat.le_of_ble_eq_true rfl) dX3_wouldPay_83 (kI ?_) xI
        cases hT
        exact a_iret rfl rfl dX3_wouldPay_86 (he _ _ ⟨rfl, rfl⟩)
      · have hT := oifp c27 hT
        refine a_mask [true, false, false, false] ?_
        exact k_X3_wouldPay_l52 ht hT he
  · have hT := oifp c7 hT
    refine a_aload_n dX3_wouldPay_13 rfl ?_
    refine a_iconst (v := 1) dX3_wouldPay_14 (by decide) ?_
    obtain ⟨r38, e39, hT⟩ := obnd hT
    refine a_callV kv_X3_50 (tw_is ht) (k_X3_throwing ht e39) ⟨Nat.le_of_ble_eq_true rfl, Nat.le_of_ble_eq_true rfl⟩ (As := [.int 1]) (rest := []) rfl rfl (Nat.le_of_ble_eq_true rfl) dX3_wouldPay_15 (kI ?_) xI
    cases hT
    exact a_iret rfl rfl dX3_wouldPay_18 (he _ _ ⟨rfl, rfl⟩)
theorem fl_X3_32_2 : aFL "MazeBondsModel" 32 2 14 := ⟨RX3, TX3, 21, "MazeBondsModel", rfl, in_X3, by decide, Or.inl rfl, Or.inl q1717⟩
theorem kv_X3_222 : aKV "MazeBondsModel" 222 2 yX3_number cX3_number 2 (Option.some Jvm.ClassFile.FieldType.int) 0 := ⟨⟨TX3, 21, rfl⟩, Or.inl q2046, q2048, qs62, q81, q2049, ⟨by decide +kernel, by decide +kernel, by decide +kernel⟩⟩
abbrev M_X3_cells : aM := (yX3_cells.cls, cX3_cells, 2, (Option.none : Option Jvm.ClassFile.FieldType), [], yX3_cells.name)
def t_X3_cells_l25 (s : tS) (v1 : Int32) (u0 : Int32) : Option (Unit × tS) :=
  (t_X3_expects s u0).bind fun r14 =>
  (t_X3_number r14.2).bind fun r18 =>
  (tst 14 r18.2 (v1 + 1) r18.1).bind fun s21 =>
  some ((), s21)
theorem k_X3_cells_l25 {G : aG} {h0 B : aH} {T : Nat → Nat} {K : aRes → aH → Prop} (ht : tOk (gZ G) T) {s : tS} {v1 : Int32} {u0 : Int32} {e : (Unit × tS)} (hT : t_X3_cells_l25 s v1 u0 = some e) (he : (fun e => aTo (aEV e.1 (tput (gZ G) B T e.2)) K) e) : aW G M_X3_cells 4 68 h0 K (tput (gZ G) B T s) 25 [some (.ref (T 100)), some (.int v1)] [.int u0, .ref (T 100)] := by
  unfold t_X3_cells_l25 at hT
  obtain ⟨r14, e15, hT⟩ := obnd hT
  refine a_callV kv_X3_215 (tw_is ht) (k_X3_expects ht e15) ⟨Nat.le_of_ble_eq_true rfl, Nat.le_of_ble_eq_true rfl⟩ (As := [.int u0]) (rest := []) rfl rfl (Nat.le_of_ble_eq_true rfl) dX3_cells_25 (kV ?_) xV
  refine a_aload_n dX3_cells_28 rfl ?_
  refine a_gA fl_X3_32_2 (tw_gA ht 14 (by decide)) dX3_cells_29 ?_
  refine a_iload_n dX3_cells_32 rfl ?_
  refine a_iconst (v := 1) dX3_cells_33 (by decide) ?_
  refine a_iadd dX3_cells_34 ?_
  refine a_aload_n dX3_cells_35 rfl ?_
  obtain ⟨r18, e19, hT⟩ := obnd hT
  refine a_callV kv_X3_222 (tw_is ht) (k_X3_number ht e19) ⟨Nat.le_of_ble_eq_true rfl, Nat.le_of_ble_eq_true rfl⟩ (As := []) (rest := [.int (v1 + 1), .ref (T 14)]) rfl rfl (Nat.le_of_ble_eq_true rfl) dX3_cells_36 (kI ?_) xI
  obtain ⟨s21, e20, hT⟩ := obnd hT
  refine a_stI (tw_st ht 14 (by decide) e20) dX3_cells_39 ?_
  cases hT
  exact a_vret rfl dX3_cells_40 (he _ _ ⟨rfl, rfl⟩)
def t_X3_cells (s : tS) (x0 : Int32) : Option (Unit × tS) :=
  (t_X3_number s).bind fun r3 =>
  (tst 14 r3.2 x0 r3.1).bind fun s6 =>
  (t_X3_here s6).bind fun r9 =>
  if r9.1 = 45 then
    t_X3_cells_l25 r9.2 x0 1
  else
    t_X3_cells_l25 r9.2 x0 0
theorem k_X3_cells {G : aG} {B : aH} {T : Nat → Nat} (ht : tOk (gZ G) T) {s : tS} {x0 : Int32} {e : (Unit × tS)} (hT : t_X3_cells s x0 = some e) : aMet G yX3_cells (ws_ yX3_cells cX3_cells 2 (Option.none : Option Jvm.ClassFile.FieldType)) 4 68 [.ref (T 100), .int x0] (tput (gZ G) B T s) (aEV e.1 (tput (gZ G) B T e.2)) := by
  refine aMet.of (lv := [some (.ref (T 100)), some (.int x0)]) (by decide) (Nat.le_of_ble_eq_true rfl) 0 rfl ?_
  have he : aTo (aEV e.1 (tput (gZ G) B T e.2)) (aEV e.1 (tput (gZ G) B T e.2)) := aTo.rf
  unfold t_X3_cells at hT
  refine a_aload_n dX3_cells_0 rfl ?_
  refine a_gA fl_X3_32_2 (tw_gA ht 14 (by decide)) dX3_cells_1 ?_
  refine a_iload_n dX3_cells_4 rfl ?_
  refine a_aload_n dX3_cells_5 rfl ?_
  obtain ⟨r3, e4, hT⟩ := obnd hT
  refine a_callV kv_X3_222 (tw_is ht) (k_X3_number ht e4) ⟨Nat.le_of_ble_eq_true rfl, Nat.le_of_ble_eq_true rfl⟩ (As := []) (rest := [.int x0, .ref (T 14)]) rfl rfl (Nat.le_of_ble_eq_true rfl) dX3_cells_6 (kI ?_) xI
  obtain ⟨s6, e5, hT⟩ := obnd hT
  refine a_stI (tw_st ht 14 (by decide) e5) dX3_cells_9 ?_
  refine a_aload_n dX3_cells_10 rfl ?_
  refine a_aload_n dX3_cells_11 rfl ?_
  obtain ⟨r9, e10, hT⟩ := obnd hT
  refine a_callV kv_X3_208 (tw_is ht) (k_X3_here ht e10) ⟨Nat.le_of_ble_eq_true rfl, Nat.le_of_ble_eq_true rfl⟩ (As := []) (rest := [.ref (T 100)]) rfl rfl (Nat.le_of_ble_eq_true rfl) dX3_cells_12 (kI ?_) xI
  refine a_bipush (v := 45) dX3_cells_15 (by decide) ?_
  refine a_icmp_ne 24 dX3_cells_17 rfl (fun c11 => ?_) (fun c11 => ?_)
  · have hT := oifn c11 hT
    refine a_iconst (v := 0) dX3_cells_24 (by decide) ?_
    exact k_X3_cells_l25 ht hT he
  · have hT := oifp c11 hT
    refine a_iconst (v := 1) dX3_cells_20 (by decide) ?_
    refine a_goto 25 dX3_cells_21 rfl ?_
    exact k_X3_cells_l25 ht hT he
theorem kv_X3_103 : aKV "MazeBondsModel" 103 2 yX3_hedgeIt cX3_hedgeIt 6 (Option.some Jvm.ClassFile.FieldType.int) 3 := ⟨⟨TX3, 21, rfl⟩, Or.inl q1779, q1781, qs30, q81, q1782, ⟨by decide +kernel, by decide +kernel, by decide +kernel⟩⟩
abbrev M_X3_hedge : aM := (yX3_hedge.cls, cX3_hedge, 4, (Option.some Jvm.ClassFile.FieldType.int), [], yX3_hedge.name)
def t_X3_hedge (s : tS) (x0 : Int32) (x1 : Int32) (x2 : Int32) : Option (Int32 × tS) :=
  (t_X3_starts s).bind fun r3 =>
  (t_X3_hedgeIt r3.2 x0 x1 x2).bind fun r7 =>
  (t_X3_changed r7.2 r7.1).bind fun r11 =>
  some (r11.1, r11.2)
theorem k_X3_hedge {G : aG} {B : aH} {T : Nat → Nat} (ht : tOk (gZ G) T) {s : tS} {x0 : Int32} {x1 : Int32} {x2 : Int32} {e : (Int32 × tS)} (hT : t_X3_hedge s x0 x1 x2 = some e) : aMet G yX3_hedge (ws_ yX3_hedge cX3_hedge 4 (Option.some Jvm.ClassFile.FieldType.int)) 5 110 [.ref (T 100), .int x0, .int x1, .int x2] (tput (gZ G) B T s) (aEI e.1 (tput (gZ G) B T e.2)) := by
  refine aMet.of (lv := [some (.ref (T 100)), some (.int x0), some (.int x1), some (.int x2)]) (by decide) (Nat.le_of_ble_eq_true rfl) 0 rfl ?_
  have he : aTo (aEI e.1 (tput (gZ G) B T e.2)) (aEI e.1 (tput (gZ G) B T e.2)) := aTo.rf
  unfold t_X3_hedge at hT
  refine a_aload_n dX3_hedge_0 rfl ?_
  obtain ⟨r3, e4, hT⟩ := obnd hT
  refine a_callV kv_X3_100 (tw_is ht) (k_X3_starts ht e4) ⟨Nat.le_of_ble_eq_true rfl, Nat.le_of_ble_eq_true rfl⟩ (As := []) (rest := []) rfl rfl (Nat.le_of_ble_eq_true rfl) dX3_hedge_1 (kV ?_) xV
  refine a_aload_n dX3_hedge_4 rfl ?_
  refine a_aload_n dX3_hedge_5 rfl ?_
  refine a_iload_n dX3_hedge_6 rfl ?_
  refine a_iload_n dX3_hedge_7 rfl ?_
  refine a_iload_n dX3_hedge_8 rfl ?_
  obtain ⟨r7, e8, hT⟩ := obnd hT
  refine a_callV kv_X3_103 (tw_is ht) (k_X3_hedgeIt ht e8) ⟨Nat.le_of_ble_eq_true rfl, Nat.le_of_ble_eq_true rfl⟩ (As := [.int x0, .int x1, .int x2]) (rest := [.ref (T 100)]) rfl rfl (Nat.le_of_ble_eq_true rfl) dX3_hedge_9 (kI ?_) xI
  obtain ⟨r11, e12, hT⟩ := obnd hT
  refine a_callV kv_X3_107 (tw_is ht) (k_X3_changed ht e12) ⟨Nat.le_of_ble_eq_true rfl, Nat.le_of_ble_eq_true rfl⟩ (As := [.int r7.1]) (rest := []) rfl rfl (Nat.le_of_ble_eq_true rfl) dX3_hedge_12 (kI ?_) xI
  cases hT
  exact a_iret rfl rfl dX3_hedge_15 (he _ _ ⟨rfl, rfl⟩)
theorem kv_X3_114 : aKV "MazeBondsModel" 114 2 yX3_summerIt cX3_summerIt 3 (Option.some Jvm.ClassFile.FieldType.int) 0 := ⟨⟨TX3, 21, rfl⟩, Or.inl q1816, q1818, qs35, q81, q1819, ⟨by decide +kernel, by decide +kernel, by decide +kernel⟩⟩
abbrev M_X3_summer : aM := (yX3_summer.cls, cX3_summer, 1, (Option.some Jvm.ClassFile.FieldType.int), [], yX3_summer.name)
def t_X3_summer (s : tS)  : Option (Int32 × tS) :=
  (t_X3_starts s).bind fun r3 =>
  (t_X3_summerIt r3.2).bind fun r7 =>
  (t_X3_changed r7.2 r7.1).bind fun r11 =>
  some (r11.1, r11.2)
theorem k_X3_summer {G : aG} {B : aH} {T : Nat → Nat} (ht : tOk (gZ G) T) {s : tS}  {e : (Int32 × tS)} (hT : t_X3_summer s  = some e) : aMet G yX3_summer (ws_ yX3_summer cX3_summer 1 (Option.some Jvm.ClassFile.FieldType.int)) 4 66 [.ref (T 100)] (tput (gZ G) B T s) (aEI e.1 (tput (gZ G) B T e.2)) := by
  refine aMet.of (lv := [some (.ref (T 100))]) (by decide) (Nat.le_of_ble_eq_true rfl) 0 rfl ?_
  have he : aTo (aEI e.1 (tput (gZ G) B T e.2)) (aEI e.1 (tput (gZ G) B T e.2)) := aTo.rf
  unfold t_X3_summer at hT
  refine a_aload_n dX3_summer_0 rfl ?_
  obtain ⟨r3, e4, hT⟩ := obnd hT
  refine a_callV kv_X3_100 (tw_is ht) (k_X3_starts ht e4) ⟨Nat.le_of_ble_eq_true rfl, Nat.le_of_ble_eq_true rfl⟩ (As := []) (rest := []) rfl rfl (Nat.le_of_ble_eq_true rfl) dX3_summer_1 (kV ?_) xV
  refine a_aload_n dX3_summer_4 rfl ?_
  refine a_aload_n dX3_summer_5 rfl ?_
  obtain ⟨r7, e8, hT⟩ := obnd hT
  refine a_callV kv_X3_114 (tw_is ht) (k_X3_summerIt ht e8) ⟨Nat.le_of_ble_eq_true rfl, Nat.le_of_ble_eq_true rfl⟩ (As := []) (rest := [.ref (T 100)]) rfl rfl (Nat.le_of_ble_eq_true rfl) dX3_summer_6 (kI ?_) xI
  obtain ⟨r11, e12, hT⟩ := obnd hT
  refine a_callV kv_X3_107 (tw_is ht) (k_X3_changed ht e12) ⟨Nat.le_of_ble_eq_true rfl, Nat.le_of_ble_eq_true rfl⟩ (As := [.int r7.1]) (rest := []) rfl rfl (Nat.le_of_ble_eq_true rfl) dX3_summer_9 (kI ?_) xI
  cases hT
  exact a_iret rfl rfl dX3_summer_12 (he _ _ ⟨rfl, rfl⟩)
theorem kv_X3_134 : aKV "MazeBondsModel" 134 2 yX3_minotaurIt cX3_minotaurIt 5 (Option.some Jvm.ClassFile.FieldType.int) 1 := ⟨⟨TX3, 21, rfl⟩, Or.inl q1847, q1849, qs40, q81, q1850, ⟨by decide +kernel, by decide +kernel, by decide +kernel⟩⟩
abbrev M_X3_minotaur : aM := (yX3_minotaur.cls, cX3_minotaur, 2, (Option.some Jvm.ClassFile.FieldType.int), [], yX3_minotaur.name)
def t_X3_minotaur (s : tS) (x0 : Int32) : Option (Int32 × tS) :=
  (t_X3_starts s).bind fun r3 =>
  (t_X3_minotaurIt r3.2 x0).bind fun r7 =>
  (t_X3_changed r7.2 r7.1).bind fun r11 =>
  some (r11.1, r11.2)
theorem k_X3_minotaur {G : aG} {B : aH} {T : Nat → Nat} (ht : tOk (gZ G) T) {s : tS} {x0 : Int32} {e : (Int32 × tS)} (hT : t_X3_minotaur s x0 = some e) : aMet G yX3_minotaur (ws_ yX3_minotaur cX3_minotaur 2 (Option.some Jvm.ClassFile.FieldType.int)) 4 68 [.ref (T 100), .int x0] (tput (gZ G) B T s) (aEI e.1 (tput (gZ G) B T e.2)) := by
  refine aMet.of (lv := [some (.ref (T 100)), some (.int x0)]) (by decide) (Nat.le_of_ble_eq_true rfl) 0 rfl ?_
  have he : aTo (aEI e.1 (tput (gZ G) B T e.2)) (aEI e.1 (tput (gZ G) B T e.2)) := aTo.rf
  unfold t_X3_minotaur at hT
  refine a_aload_n dX3_minotaur_0 rfl ?_
  obtain ⟨r3, e4, hT⟩ := obnd hT
  refine a_callV kv_X3_100 (tw_is ht) (k_X3_starts ht e4) ⟨Nat.le_of_ble_eq_true rfl, Nat.le_of_ble_eq_true rfl⟩ (As := []) (rest := []) rfl rfl (Nat.le_of_ble_eq_true rfl) dX3_minotaur_1 (kV ?_) xV
  refine a_aload_n dX3_minotaur_4 rfl ?_
  refine a_aload_n dX3_minotaur_5 rfl ?_
  refine a_iload_n dX3_minotaur_6 rfl ?_
  obtain ⟨r7, e8, hT⟩ := obnd hT
  refine a_callV kv_X3_134 (tw_is ht) (k_X3_minotaurIt ht e8) ⟨Nat.le_of_ble_eq_true rfl, Nat.le_of_ble_eq_true rfl⟩ (As := [.int x0]) (rest := [.ref (T 100)]) rfl rfl (Nat.le_of_ble_eq_true rfl) dX3_minotaur_7 (kI ?_) xI
  obtain ⟨r11, e12, hT⟩ := obnd hT
  refine a_callV kv_X3_107 (tw_is ht) (k_X3_changed ht e12) ⟨Nat.le_of_ble_eq_true rfl, Nat.le_of_ble_eq_true rfl⟩ (As := [.int r7.1]) (rest := []) rfl rfl (Nat.le_of_ble_eq_true rfl) dX3_minotaur_10 (kI ?_) xI
  cases hT
  exact a_iret rfl rfl dX3_minotaur_13 (he _ _ ⟨rfl, rfl⟩)
theorem ks_X3_148 : aKS "MazeBondsModel" 148 yX3_ones cX3_ones 3 (Option.some Jvm.ClassFile.FieldType.int) 1 := ⟨Or.inl q1892, q1893, q81, q1894, ⟨by decide +kernel, by decide +kernel, by decide +kernel⟩⟩
abbrev M_X3_visitorIt : aM := (yX3_visitorIt.cls, cX3_visitorIt, 4, (Option.some Jvm.ClassFile.FieldType.int), [], yX3_visitorIt.name)
def t_X3_visitorIt (s : tS) (x0 : Int32) : Option (Int32 × tS) :=
  (t_X3_in ((x0 : Int32).toInt64) 0 99).bind fun r3 =>
  if r3 = 0 then
    (t_X3_refuse s 1 0).bind fun r54 =>
    some (r54.1, r54.2)
  else
    (tld 0 s 1).bind fun z7 =>
    if z7 = 5 then
      (t_X3_refuse s 13 5).bind fun r50 =>
      some (r50.1, r50.2)
    else
      (t_X3_hoursOf s 0 15).bind fun r11 =>
      if r11.1 = (-1) then
        (t_X3_reachedFrom r11.2 0).bind fun r38 =>
        (t_X3_ones r38.1).bind fun r42 =>
        (t_X3_refuse r38.2 6 r42).bind fun r46 =>
        some (r46.1, r46.2)
      else
        (tld 0 r11.2 1).bind fun z15 =>
        (t_X3_visitorAt z15).bind fun r18 =>
        (tst 0 r11.2 r18 x0).bind fun s21 =>
        (tst 0 s21 (r18 + 3) r11.1).bind fun s23 =>
        (tst 0 s23 (r18 + 4) (-1)).bind fun s25 =>
        (tld 0 s25 4).bind fun z27 =>
        (tst 0 s25 4 (z27 + x0)).bind fun s29 =>
        (tld 0 s29 1).bind fun z31 =>
        (tst 0 s29 1 (z31 + 1)).bind fun s33 =>
        (tld 0 s33 1).bind fun z35 =>
        some ((z35 - 1), s33)
theorem k_X3_visitorIt {G : aG} {B : aH} {T : Nat → Nat} (ht : tOk (gZ G) T) {s : tS} {x0 : Int32} {e : (Int32 × tS)} (hT : t_X3_visitorIt s x0 = some e) : aMet G yX3_visitorIt (ws_ yX3_visitorIt cX3_visitorIt 4 (Option.some Jvm.ClassFile.FieldType.int)) 5 114 [.ref (T 100), .int x0] (tput (gZ G) B T s) (aEI e.1 (tput (gZ G) B T e.2)) := by
  refine aMet.of (lv := [some (.ref (T 100)), some (.int x0), none, none]) (by decide) (Nat.le_of_ble_eq_true rfl) 2 rfl ?_
  have he : aTo (aEI e.1 (tput (gZ G) B T e.2)) (aEI e.1 (tput (gZ G) B T e.2)) := aTo.rf
  unfold t_X3_visitorIt at hT
  refine a_iload_n dX3_visitorIt_0 rfl ?_
  refine a_i2l dX3_visitorIt_1 ?_
  refine a_lconst (v := 0) dX3_visitorIt_2 (by decide) ?_
  refine a_ldc2 q1867 dX3_visitorIt_3 ?_
  obtain ⟨r3, e4, hT⟩ := obnd hT
  refine a_callS ks_X3_59 (k_X3_in e4) ⟨Nat.le_of_ble_eq_true rfl, Nat.le_of_ble_eq_true rfl⟩ (As := [.long ((x0 : Int32).toInt64), .long 0, .long 99]) (rest := []) rfl rfl (Nat.le_of_ble_eq_true rfl) dX3_visitorIt_6 (kI ?_) xI
  refine a_if_ne 19 dX3_visitorIt_9 rfl (fun c5 => ?_) (fun c5 => ?_)
  · have hT := oifn c5 hT
    refine a_aload_n dX3_visitorIt_19 rfl ?_
    refine a_gA fl_X3_9_2 (tw_gA ht 0 (by decide)) dX3_visitorIt_20 ?_
    refine a_iconst (v := 1) dX3_visitorIt_23 (by decide) ?_
    obtain ⟨z7, e6, hT⟩ := obnd hT
    refine a_ldI (tw_ld ht 0 (by decide) e6) dX3_visitorIt_24 ?_
    refine a_iconst (v := 5) dX3_visitorIt_25 (by decide) ?_
    refine a_icmp_ne 37 dX3_visitorIt_26 rfl (fun c8 => ?_) (fun c8 => ?_)
    · have hT := oifn c8 hT
      refine a_aload_n dX3_visitorIt_37 rfl ?_
      refine a_iconst (v := 0) dX3_visitorIt_38 (by decide) ?_
      refine a_bipush (v := 15) dX3_visitorIt_39 (by decide) ?_
      obtain ⟨r11, e12, hT⟩ := obnd hT
      refine a_callV kv_X3_142 (tw_is ht) (k_X3_hoursOf ht e12) ⟨Nat.le_of_ble_eq_true rfl, Nat.le_of_ble_eq_true rfl⟩ (As := [.int 0, .int 15]) (rest := []) rfl rfl (Nat.le_of_ble_eq_true rfl) dX3_visitorIt_41 (kI ?_) xI
      refine a_istore_n (lv' := [some (.ref (T 100)), some (.int x0), some (.int r11.1), none]) dX3_visitorIt_44 rfl (by decide) rfl ?_
      refine a_iload_n dX3_visitorIt_45 rfl ?_
      refine a_iconst (v := (-1)) dX3_visitorIt_46 (by decide) ?_
      refine a_icmp_ne 65 dX3_visitorIt_47 rfl (fun c13 => ?_) (fun c13 => ?_)
      · have hT := oifn c13 hT
        refine a_aload_n dX3_visitorIt_65 rfl ?_
        refine a_gA fl_X3_9_2 (tw_gA ht 0 (by decide)) dX3_visitorIt_66 ?_
        refine a_iconst (v := 1) dX3_visitorIt_69 (by decide) ?_
        obtain ⟨z15, e14, hT⟩ := obnd hT
        refine a_ldI (tw_ld ht 0 (by decide) e14) dX3_visitorIt_70 ?_
        obtain ⟨r18, e19, hT⟩ := obnd hT
        refine a_callS ks_X3_126 (k_X3_visitorAt e19) ⟨Nat.le_of_ble_eq_true rfl, Nat.le_of_ble_eq_true rfl⟩ (As := [.int z15]) (rest := []) rfl rfl (Nat.le_of_ble_eq_true rfl) dX3_visitorIt_71 (kI ?_) xI
        refine a_istore_n (lv' := [some (.ref (T 100)), some (.int x0), some (.int r11.1), some (.int r18)]) dX3_visitorIt_74 rfl (by decide) rfl ?_
        refine a_aload_n dX3_visitorIt_75 rfl ?_
        refine a_gA fl_X3_9_2 (tw_gA ht 0 (by decide)) dX3_visitorIt_76 ?_
        refine a_iload_n dX3_visitorIt_79 rfl ?_
        refine a_iload_n dX3_visitorIt_80 rfl ?_
        obtain ⟨s21, e20, hT⟩ := obnd hT
        refine a_stI (tw_st ht 0 (by decide) e20) dX3_visitorIt_81 ?_
        refine a_aload_n dX3_visitorIt_82 rfl ?_
        refine a_gA fl_X3_9_2 (tw_gA ht 0 (by decide)) dX3_visitorIt_83 ?_
        refine a_iload_n dX3_visitorIt_86 rfl ?_
        refine a_iconst (v := 3) dX3_visitorIt_87 (by decide) ?_
        refine a_iadd dX3_visitorIt_88 ?_
        refine a_iload_n dX3_visitorIt_89 rfl ?_
        obtain ⟨s23, e22, hT⟩ := obnd hT
        refine a_stI (tw_st ht 0 (by decide) e22) dX3_visitorIt_90 ?_
        refine a_aload_n dX3_visitorIt_91 rfl ?_
        refine a_gA fl_X3_9_2 (tw_gA ht 0 (by decide)) dX3_visitorIt_92 ?_
        refine a_iload_n dX3_visitorIt_95 rfl ?_
        refine a_iconst (v := 4) dX3_visitorIt_96 (by decide) ?_
        refine a_iadd dX3_visitorIt_97 ?_
        refine a_iconst (v := (-1)) dX3_visitorIt_98 (by decide) ?_
        obtain ⟨s25, e24, hT⟩ := obnd hT
        refine a_stI (tw_st ht 0 (by decide) e24) dX3_visitorIt_99 ?_
        refine a_aload_n dX3_visitorIt_100 rfl ?_
        refine a_gA fl_X3_9_2 (tw_gA ht 0 (by decide)) dX3_visitorIt_101 ?_
        refine a_iconst (v := 4) dX3_visitorIt_104 (by decide) ?_
        refine a_dup2_11 dX3_visitorIt_105 rfl rfl ?_
        obtain ⟨z27, e26, hT⟩ := obnd hT
        refine a_ldI (tw_ld ht 0 (by decide) e26) dX3_visitorIt_106 ?_
        refine a_iload_n dX3_visitorIt_107 rfl ?_
        refine a_iadd dX3_visitorIt_108 ?_
        obtain ⟨s29, e28, hT⟩ := obnd hT
        refine a_stI (tw_st ht 0 (by decide) e28) dX3_visitorIt_109 ?_
        refine a_aload_n dX3_visitorIt_110 rfl ?_
        refine a_gA fl_X3_9_2 (tw_gA ht 0 (by decide)) dX3_visitorIt_111 ?_
        refine a_iconst (v := 1) dX3_visitorIt_114 (by decide) ?_
        refine a_dup2_11 dX3_visitorIt_115 rfl rfl ?_
        obtain ⟨z31, e30, hT⟩ := obnd hT
        refine a_ldI (tw_ld ht 0 (by decide) e30) dX3_visitorIt_116 ?_
        refine a_iconst (v := 1) dX3_visitorIt_117 (by decide) ?_
        refine a_iadd dX3_visitorIt_118 ?_
        obtain ⟨s33, e32, hT⟩ := obnd hT
        refine a_stI (tw_st ht 0 (by decide) e32) dX3_visitorIt_119 ?_
        refine a_aload_n dX3_visitorIt_120 rfl ?_
        refine a_gA fl_X3_9_2 (tw_gA ht 0 (by decide)) dX3_visitorIt_121 ?_
        refine a_iconst (v := 1) dX3_visitorIt_124 (by decide) ?_
        obtain ⟨z35, e34, hT⟩ := obnd hT
        refine a_ldI (tw_ld ht 0 (by decide) e34) dX3_visitorIt_125 ?_
        refine a_iconst (v := 1) dX3_visitorIt_126 (by decide) ?_
        refine a_isub dX3_visitorIt_127 ?_
        cases hT
        exact a_iret rfl rfl dX3_visitorIt_128 (he _ _ ⟨rfl, rfl⟩)
      · have hT := oifp c13 hT
        refine a_aload_n dX3_visitorIt_50 rfl ?_
        refine a_bipush (v := 6) dX3_visitorIt_51 (by decide) ?_
        refine a_aload_n dX3_visitorIt_53 rfl ?_
        refine a_iconst (v := 0) dX3_visitorIt_54 (by decide) ?_
        obtain ⟨r38, e39, hT⟩ := obnd hT
        refine a_callV kv_X3_145 (tw_is ht) (k_X3_reachedFrom ht e39) ⟨Nat.le_of_ble_eq_true rfl, Nat.le_of_ble_eq_true rfl⟩ (As := [.int 0]) (rest := [.int 6, .ref (T 100)]) rfl rfl (Nat.le_of_ble_eq_true rfl) dX3_visitorIt_55 (kI ?_) xI
        obtain ⟨r42, e43, hT⟩ := obnd hT
        refine a_callS ks_X3_148 (k_X3_ones e43) ⟨Nat.le_of_ble_eq_true rfl, Nat.le_of_ble_eq_true rfl⟩ (As := [.int r38.1]) (rest := [.int 6, .ref (T 100)]) rfl rfl (Nat.le_of_ble_eq_true rfl) dX3_visitorIt_58 (kI ?_) xI
        obtain ⟨r46, e47, hT⟩ := obnd hT
        refine a_callV kv_X3_91 (tw_is ht) (k_X3_refuse ht e47) ⟨Nat.le_of_ble_eq_true rfl, Nat.le_of_ble_eq_true rfl⟩ (As := [.int 6, .int r42]) (rest := []) rfl rfl (Nat.le_of_ble_eq_true rfl) dX3_visitorIt_61 (kI ?_) xI
        cases hT
        exact a_iret rfl rfl dX3_visitorIt_64 (he _ _ ⟨rfl, rfl⟩)
    · have hT := oifp c8 hT
      refine a_aload_n dX3_visitorIt_29 rfl ?_
      refine a_bipush (v := 13) dX3_visitorIt_30 (by decide) ?_
      refine a_iconst (v := 5) dX3_visitorIt_32 (by decide) ?_
      obtain ⟨r50, e51, hT⟩ := obnd hT
      refine a_callV kv_X3_91 (tw_is ht) (k_X3_refuse ht e51) ⟨Nat.le_of_ble_eq_true rfl, Nat.le_of_ble_eq_true rfl⟩ (As := [.int 13, .int 5]) (rest := []) rfl rfl (Nat.le_of_ble_eq_true rfl) dX3_visitorIt_33 (kI ?_) xI
      cases hT
      exact a_iret rfl rfl dX3_visitorIt_36 (he _ _ ⟨rfl, rfl⟩)
  · have hT := oifp c5 hT
    refine a_aload_n dX3_visitorIt_12 rfl ?_
    refine a_iconst (v := 1) dX3_visitorIt_13 (by decide) ?_
    refine a_iconst (v := 0) dX3_visitorIt_14 (by decide) ?_
    obtain ⟨r54, e55, hT⟩ := obnd hT
    refine a_callV kv_X3_91 (tw_is ht) (k_X3_refuse ht e55) ⟨Nat.le_of_ble_eq_true rfl, Nat.le_of_ble_eq_true rfl⟩ (As := [.int 1, .int 0]) (rest := []) rfl rfl (Nat.le_of_ble_eq_true rfl) dX3_visitorIt_15 (kI ?_) xI
    cases hT
    exact a_iret rfl rfl dX3_visitorIt_18 (he _ _ ⟨rfl, rfl⟩)
theorem fl_X3_225_2 : aFL "MazeBondsModel" 225 2 15 := ⟨RX3, TX3, 21, "MazeBondsModel", rfl, in_X3, by decide, Or.inl rfl, Or.inl q1718⟩
theorem fp_X3_225_2 (nm9 : String) : aFP "MazeBondsModel" 225 2 15 .int nm9 := ⟨RX3, TX3, 21, "MazeBondsModel", tyX3, rfl, in_X3, by decide, Or.inl rfl, Or.inl q1718, tyX3_ok, nmX3, rfl, Or.inl rfl⟩
theorem kv_X3_228 : aKV "MazeBondsModel" 228 2 yX3_cells cX3_cells 2 (Option.none : Option Jvm.ClassFile.FieldType) 1 := ⟨⟨TX3, 21, rfl⟩, Or.inl q2042, q2044, qs61, q81, q2045, ⟨by decide +kernel, by decide +kernel, by decide +kernel⟩⟩
theorem ks_X3_232 : aKS "MazeBondsModel" 232 yX3_directionOf cX3_directionOf 1 (Option.some Jvm.ClassFile.FieldType.int) 1 := ⟨Or.inl q2056, q2057, q81, q2058, ⟨by decide +kernel, by decide +kernel, by decide +kernel⟩⟩
abbrev M_X3_readOrder : aM := (yX3_readOrder.cls, cX3_readOrder, 3, (Option.none : Option Jvm.ClassFile.FieldType), [], yX3_readOrder.name)
def t_X3_readOrder_l394 (s : tS) (v1 : Int32) (u0 : Int32) : Option (Unit × tS) :=
  (t_X3_expects s u0).bind fun r43 =>
  (t_X3_digit r43.2).bind fun r47 =>
  (tst 14 r47.2 (v1 + 3) r47.1).bind fun s50 =>
  some ((), s50)
theorem k_X3_readOrder_l394 {G : aG} {h0 B : aH} {T : Nat → Nat} {K : aRes → aH → Prop} (ht : tOk (gZ G) T) {s : tS} {v1 : Int32} {u0 : Int32} {e : (Unit × tS)} (hT : t_X3_readOrder_l394 s v1 u0 = some e) (he : (fun e => aTo (aEV e.1 (tput (gZ G) B T e.2)) K) e) : aW G M_X3_readOrder 5 89 h0 K (tput (gZ G) B T s) 394 [some (.ref (T 100)), some (.int v1), none] [.int u0, .ref (T 100)] := by
  unfold t_X3_readOrder_l394 at hT
  obtain ⟨r43, e44, hT⟩ := obnd hT
  refine a_callV kv_X3_215 (tw_is ht) (k_X3_expects ht e44) ⟨Nat.le_of_ble_eq_true rfl, Nat.le_of_ble_eq_true rfl⟩ (As := [.int u0]) (rest := []) rfl rfl (Nat.le_of_ble_eq_true rfl) dX3_readOrder_394 (kV ?_) xV
  refine a_aload_n dX3_readOrder_397 rfl ?_
  refine a_gA fl_X3_32_2 (tw_gA ht 14 (by decide)) dX3_readOrder_398 ?_
  refine a_iload_n dX3_readOrder_401 rfl ?_
  refine a_iconst (v := 3) dX3_readOrder_402 (by decide) ?_
  refine a_iadd dX3_readOrder_403 ?_
  refine a_aload_n dX3_readOrder_404 rfl ?_
  obtain ⟨r47, e48, hT⟩ := obnd hT
  refine a_callV kv_X3_219 (tw_is ht) (k_X3_digit ht e48) ⟨Nat.le_of_ble_eq_true rfl, Nat.le_of_ble_eq_true rfl⟩ (As := []) (rest := [.int (v1 + 3), .ref (T 14)]) rfl rfl (Nat.le_of_ble_eq_true rfl) dX3_readOrder_405 (kI ?_) xI
  obtain ⟨s50, e49, hT⟩ := obnd hT
  refine a_stI (tw_st ht 14 (by decide) e49) dX3_readOrder_408 ?_
  refine a_goto 508 dX3_readOrder_409 rfl ?_
  cases hT
  exact a_vret rfl dX3_readOrder_508 (he _ _ ⟨rfl, rfl⟩)
def t_X3_readOrder_l364 (s : tS) (v1 : Int32) (u0 : Int32) : Option (Unit × tS) :=
  (t_X3_expects s u0).bind fun r28 =>
  (t_X3_digit r28.2).bind fun r32 =>
  (tst 14 r32.2 (v1 + 2) r32.1).bind fun s35 =>
  (t_X3_here s35).bind fun r38 =>
  if r38.1 = 42 then
    t_X3_readOrder_l394 r38.2 v1 1
  else
    t_X3_readOrder_l394 r38.2 v1 0
theorem k_X3_readOrder_l364 {G : aG} {h0 B : aH} {T : Nat → Nat} {K : aRes → aH → Prop} (ht : tOk (gZ G) T) {s : tS} {v1 : Int32} {u0 : Int32} {e : (Unit × tS)} (hT : t_X3_readOrder_l364 s v1 u0 = some e) (he : (fun e => aTo (aEV e.1 (tput (gZ G) B T e.2)) K) e) : aW G M_X3_readOrder 5 89 h0 K (tput (gZ G) B T s) 364 [some (.ref (T 100)), some (.int v1), none] [.int u0, .ref (T 100)] := by
  unfold t_X3_readOrder_l364 at hT
  obtain ⟨r28, e29, hT⟩ := obnd hT
  refine a_callV kv_X3_215 (tw_is ht) (k_X3_expects ht e29) ⟨Nat.le_of_ble_eq_true rfl, Nat.le_of_ble_eq_true rfl⟩ (As := [.int u0]) (rest := []) rfl rfl (Nat.le_of_ble_eq_true rfl) dX3_readOrder_364 (kV ?_) xV
  refine a_aload_n dX3_readOrder_367 rfl ?_
  refine a_gA fl_X3_32_2 (tw_gA ht 14 (by decide)) dX3_readOrder_368 ?_
  refine a_iload_n dX3_readOrder_371 rfl ?_
  refine a_iconst (v := 2) dX3_readOrder_372 (by decide) ?_
  refine a_iadd dX3_readOrder_373 ?_
  refine a_aload_n dX3_readOrder_374 rfl ?_
  obtain ⟨r32, e33, hT⟩ := obnd hT
  refine a_callV kv_X3_219 (tw_is ht) (k_X3_digit ht e33) ⟨Nat.le_of_ble_eq_true rfl, Nat.le_of_ble_eq_true rfl⟩ (As := []) (rest := [.int (v1 + 2), .ref (T 14)]) rfl rfl (Nat.le_of_ble_eq_true rfl) dX3_readOrder_375 (kI ?_) xI
  obtain ⟨s35, e34, hT⟩ := obnd hT
  refine a_stI (tw_st ht 14 (by decide) e34) dX3_readOrder_378 ?_
  refine a_aload_n dX3_readOrder_379 rfl ?_
  refine a_aload_n dX3_readOrder_380 rfl ?_
  obtain ⟨r38, e39, hT⟩ := obnd hT
  refine a_callV kv_X3_208 (tw_is ht) (k_X3_here ht e39) ⟨Nat.le_of_ble_eq_true rfl, Nat.le_of_ble_eq_true rfl⟩ (As := []) (rest := [.ref (T 100)]) rfl rfl (Nat.le_of_ble_eq_true rfl) dX3_readOrder_381 (kI ?_) xI
  refine a_bipush (v := 42) dX3_readOrder_384 (by decide) ?_
  refine a_icmp_ne 393 dX3_readOrder_386 rfl (fun c40 => ?_) (fun c40 => ?_)
  · have hT := oifn c40 hT
    refine a_iconst (v := 0) dX3_readOrder_393 (by decide) ?_
    exact k_X3_readOrder_l394 ht hT he
  · have hT := oifp c40 hT
    refine a_iconst (v := 1) dX3_readOrder_389 (by decide) ?_
    refine a_goto 394 dX3_readOrder_390 rfl ?_
    exact k_X3_readOrder_l394 ht hT he
def t_X3_readOrder_l218 (s : tS) (v1 : Int32) (u0 : Int32) : Option (Unit × tS) :=
  (t_X3_expects s u0).bind fun r70 =>
  (t_X3_digit r70.2).bind fun r74 =>
  (tst 14 r74.2 (v1 + 3) r74.1).bind fun s77 =>
  some ((), s77)
theorem k_X3_readOrder_l218 {G : aG} {h0 B : aH} {T : Nat → Nat} {K : aRes → aH → Prop} (ht : tOk (gZ G) T) {s : tS} {v1 : Int32} {u0 : Int32} {e : (Unit × tS)} (hT : t_X3_readOrder_l218 s v1 u0 = some e) (he : (fun e => aTo (aEV e.1 (tput (gZ G) B T e.2)) K) e) : aW G M_X3_readOrder 5 89 h0 K (tput (gZ G) B T s) 218 [some (.ref (T 100)), some (.int v1), none] [.int u0, .ref (T 100)] := by
  unfold t_X3_readOrder_l218 at hT
  obtain ⟨r70, e71, hT⟩ := obnd hT
  refine a_callV kv_X3_215 (tw_is ht) (k_X3_expects ht e71) ⟨Nat.le_of_ble_eq_true rfl, Nat.le_of_ble_eq_true rfl⟩ (As := [.int u0]) (rest := []) rfl rfl (Nat.le_of_ble_eq_true rfl) dX3_readOrder_218 (kV ?_) xV
  refine a_aload_n dX3_readOrder_221 rfl ?_
  refine a_gA fl_X3_32_2 (tw_gA ht 14 (by decide)) dX3_readOrder_222 ?_
  refine a_iload_n dX3_readOrder_225 rfl ?_
  refine a_iconst (v := 3) dX3_readOrder_226 (by decide) ?_
  refine a_iadd dX3_readOrder_227 ?_
  refine a_aload_n dX3_readOrder_228 rfl ?_
  obtain ⟨r74, e75, hT⟩ := obnd hT
  refine a_callV kv_X3_219 (tw_is ht) (k_X3_digit ht e75) ⟨Nat.le_of_ble_eq_true rfl, Nat.le_of_ble_eq_true rfl⟩ (As := []) (rest := [.int (v1 + 3), .ref (T 14)]) rfl rfl (Nat.le_of_ble_eq_true rfl) dX3_readOrder_229 (kI ?_) xI
  obtain ⟨s77, e76, hT⟩ := obnd hT
  refine a_stI (tw_st ht 14 (by decide) e76) dX3_readOrder_232 ?_
  refine a_goto 508 dX3_readOrder_233 rfl ?_
  cases hT
  exact a_vret rfl dX3_readOrder_508 (he _ _ ⟨rfl, rfl⟩)
def t_X3_readOrder_l490 (s : tS) (v1 : Int32) (u0 : Int32) : Option (Unit × tS) :=
  (t_X3_expects s u0).bind fun r108 =>
  (t_X3_digit r108.2).bind fun r112 =>
  (tst 14 r112.2 (v1 + 2) r112.1).bind fun s115 =>
  some ((), s115)
theorem k_X3_readOrder_l490 {G : aG} {h0 B : aH} {T : Nat → Nat} {K : aRes → aH → Prop} (ht : tOk (gZ G) T) {s : tS} {v1 : Int32} {u0 : Int32} {e : (Unit × tS)} (hT : t_X3_readOrder_l490 s v1 u0 = some e) (he : (fun e => aTo (aEV e.1 (tput (gZ G) B T e.2)) K) e) : aW G M_X3_readOrder 5 89 h0 K (tput (gZ G) B T s) 490 [some (.ref (T 100)), some (.int v1), none] [.int u0, .ref (T 100)] := by
  unfold t_X3_readOrder_l490 at hT
  obtain ⟨r108, e109, hT⟩ := obnd hT
  refine a_callV kv_X3_215 (tw_is ht) (k_X3_expects ht e109) ⟨Nat.le_of_ble_eq_true rfl, Nat.le_of_ble_eq_true rfl⟩ (As := [.int u0]) (rest := []) rfl rfl (Nat.le_of_ble_eq_true rfl) dX3_readOrder_490 (kV ?_) xV
  refine a_aload_n dX3_readOrder_493 rfl ?_
  refine a_gA fl_X3_32_2 (tw_gA ht 14 (by decide)) dX3_readOrder_494 ?_
  refine a_iload_n dX3_readOrder_497 rfl ?_
  refine a_iconst (v := 2) dX3_readOrder_498 (by decide) ?_
  refine a_iadd dX3_readOrder_499 ?_
  refine a_aload_n dX3_readOrder_500 rfl ?_
  obtain ⟨r112, e113, hT⟩ := obnd hT
  refine a_callV kv_X3_219 (tw_is ht) (k_X3_digit ht e113) ⟨Nat.le_of_ble_eq_true rfl, Nat.le_of_ble_eq_true rfl⟩ (As := []) (rest := [.int (v1 + 2), .ref (T 14)]) rfl rfl (Nat.le_of_ble_eq_true rfl) dX3_readOrder_501 (kI ?_) xI
  obtain ⟨s115, e114, hT⟩ := obnd hT
  refine a_stI (tw_st ht 14 (by decide) e114) dX3_readOrder_504 ?_
  refine a_goto 508 dX3_readOrder_505 rfl ?_
  cases hT
  exact a_vret rfl dX3_readOrder_508 (he _ _ ⟨rfl, rfl⟩)
def t_X3_readOrder_l263 (s : tS) (v1 : Int32) (u0 : Int32) : Option (Unit × tS) :=
  (t_X3_expects s u0).bind fun r130 =>
  (t_X3_cells r130.2 (v1 + 2)).bind fun r134 =>
  some ((), r134.2)
theorem k_X3_readOrder_l263 {G : aG} {h0 B : aH} {T : Nat → Nat} {K : aRes → aH → Prop} (ht : tOk (gZ G) T) {s : tS} {v1 : Int32} {u0 : Int32} {e : (Unit × tS)} (hT : t_X3_readOrder_l263 s v1 u0 = some e) (he : (fun e => aTo (aEV e.1 (tput (gZ G) B T e.2)) K) e) : aW G M_X3_readOrder 5 89 h0 K (tput (gZ G) B T s) 263 [some (.ref (T 100)), some (.int v1), none] [.int u0, .ref (T 100)] := by
  unfold t_X3_readOrder_l263 at hT
  obtain ⟨r130, e131, hT⟩ := obnd hT
  refine a_callV kv_X3_215 (tw_is ht) (k_X3_expects ht e131) ⟨Nat.le_of_ble_eq_true rfl, Nat.le_of_ble_eq_true rfl⟩ (As := [.int u0]) (rest := []) rfl rfl (Nat.le_of_ble_eq_true rfl) dX3_readOrder_263 (kV ?_) xV
  refine a_aload_n dX3_readOrder_266 rfl ?_
  refine a_iload_n dX3_readOrder_267 rfl ?_
  refine a_iconst (v := 2) dX3_readOrder_268 (by decide) ?_
  refine a_iadd dX3_readOrder_269 ?_
  obtain ⟨r134, e135, hT⟩ := obnd hT
  refine a_callV kv_X3_228 (tw_is ht) (k_X3_cells ht e135) ⟨Nat.le_of_ble_eq_true rfl, Nat.le_of_ble_eq_true rfl⟩ (As := [.int (v1 + 2)]) (rest := []) rfl rfl (Nat.le_of_ble_eq_true rfl) dX3_readOrder_270 (kV ?_) xV
  refine a_goto 508 dX3_readOrder_273 rfl ?_
  cases hT
  exact a_vret rfl dX3_readOrder_508 (he _ _ ⟨rfl, rfl⟩)
def t_X3_readOrder_l457 (s : tS) (u0 : Int32) : Option (Unit × tS) :=
  (t_X3_expects s u0).bind fun r165 =>
  some ((), r165.2)
theorem k_X3_readOrder_l457 {G : aG} {h0 B : aH} {T : Nat → Nat} {K : aRes → aH → Prop} (ht : tOk (gZ G) T) {s : tS} {u0 : Int32} {e : (Unit × tS)} (hT : t_X3_readOrder_l457 s u0 = some e) (he : (fun e => aTo (aEV e.1 (tput (gZ G) B T e.2)) K) e) : aW G M_X3_readOrder 5 89 h0 K (tput (gZ G) B T s) 457 [none, none, none] [.int u0, .ref (T 100)] := by
  unfold t_X3_readOrder_l457 at hT
  obtain ⟨r165, e166, hT⟩ := obnd hT
  refine a_callV kv_X3_215 (tw_is ht) (k_X3_expects ht e166) ⟨Nat.le_of_ble_eq_true rfl, Nat.le_of_ble_eq_true rfl⟩ (As := [.int u0]) (rest := []) rfl rfl (Nat.le_of_ble_eq_true rfl) dX3_readOrder_457 (kV ?_) xV
  refine a_goto 508 dX3_readOrder_460 rfl ?_
  cases hT
  exact a_vret rfl dX3_readOrder_508 (he _ _ ⟨rfl, rfl⟩)
def t_X3_readOrder_l72 (s : tS) (v1 : Int32) (v2 : Int32) (u0 : Int32) : Option (Unit × tS) :=
  (t_X3_expects s u0).bind fun r8 =>
  (tst 14 r8.2 v1 v2).bind fun s11 =>
  (tpf 15 s11 ((s11.1 15) + 1)).bind fun s13 =>
  if v2 = 98 then
    (t_X3_digit s13).bind fun r17 =>
    (tst 14 r17.2 (v1 + 1) r17.1).bind fun s20 =>
    (t_X3_here s20).bind fun r23 =>
    if r23.1 = 62 then
      t_X3_readOrder_l364 r23.2 v1 1
    else
      t_X3_readOrder_l364 r23.2 v1 0
  else
    if v2 = 103 then
      (t_X3_number s13).bind fun r54 =>
      (tst 14 r54.2 (v1 + 1) r54.1).bind fun s57 =>
      some ((), s57)
    else
      if v2 = 104 then
        (t_X3_cells s13 (v1 + 1)).bind fun r61 =>
        (t_X3_here r61.2).bind fun r65 =>
        if r65.1 = 61 then
          t_X3_readOrder_l218 r65.2 v1 1
        else
          t_X3_readOrder_l218 r65.2 v1 0
      else
        if v2 = 109 then
          (t_X3_here s13).bind fun r81 =>
          if r81.1 = 120 then
            (tpf 16 r81.2 ((r81.2.1 16) + 1)).bind fun s91 =>
            (tst 14 s91 (v1 + 1) (-1)).bind fun s93 =>
            some ((), s93)
          else
            (t_X3_number r81.2).bind fun r86 =>
            (tst 14 r86.2 (v1 + 1) r86.1).bind fun s89 =>
            some ((), s89)
        else
          if v2 = 114 then
            (t_X3_digit s13).bind fun r97 =>
            (tst 14 r97.2 (v1 + 1) r97.1).bind fun s100 =>
            (t_X3_here s100).bind fun r103 =>
            if r103.1 = 43 then
              t_X3_readOrder_l490 r103.2 v1 1
            else
              t_X3_readOrder_l490 r103.2 v1 0
          else
            if v2 = 116 then
              (t_X3_digit s13).bind fun r119 =>
              (tst 14 r119.2 (v1 + 1) r119.1).bind fun s122 =>
              (t_X3_here s122).bind fun r125 =>
              if r125.1 = 58 then
                t_X3_readOrder_l263 r125.2 v1 1
              else
                t_X3_readOrder_l263 r125.2 v1 0
            else
              if v2 = 118 then
                (t_X3_number s13).bind fun r139 =>
                (tst 14 r139.2 (v1 + 1) r139.1).bind fun s142 =>
                some ((), s142)
              else
                if v2 = 119 then
                  (t_X3_digit s13).bind fun r146 =>
                  (tst 14 r146.2 (v1 + 1) r146.1).bind fun s149 =>
                  (t_X3_here s149).bind fun r152 =>
                  (t_X3_directionOf r152.1).bind fun r156 =>
                  (tst 14 r152.2 (v1 + 2) r156).bind fun s159 =>
                  (tld 14 s159 (v1 + 2)).bind fun z161 =>
                  if z161 = (-1) then
                    t_X3_readOrder_l457 s159 0
                  else
                    t_X3_readOrder_l457 s159 1
                else
                  some ((), s13)
theorem k_X3_readOrder_l72 {G : aG} {h0 B : aH} {T : Nat → Nat} {K : aRes → aH → Prop} (ht : tOk (gZ G) T) {s : tS} {v1 : Int32} {v2 : Int32} {u0 : Int32} {e : (Unit × tS)} (hT : t_X3_readOrder_l72 s v1 v2 u0 = some e) (he : (fun e => aTo (aEV e.1 (tput (gZ G) B T e.2)) K) e) : aW G M_X3_readOrder 5 89 h0 K (tput (gZ G) B T s) 72 [some (.ref (T 100)), some (.int v1), some (.int v2)] [.int u0, .ref (T 100)] := by
  unfold t_X3_readOrder_l72 at hT
  obtain ⟨r8, e9, hT⟩ := obnd hT
  refine a_callV kv_X3_215 (tw_is ht) (k_X3_expects ht e9) ⟨Nat.le_of_ble_eq_true rfl, Nat.le_of_ble_eq_true rfl⟩ (As := [.int u0]) (rest := []) rfl rfl (Nat.le_of_ble_eq_true rfl) dX3_readOrder_72 (kV ?_) xV
  refine a_aload_n dX3_readOrder_75 rfl ?_
  refine a_gA fl_X3_32_2 (tw_gA ht 14 (by decide)) dX3_readOrder_76 ?_
  refine a_iload_n dX3_readOrder_79 rfl ?_
  refine a_iload_n dX3_readOrder_80 rfl ?_
  obtain ⟨s11, e10, hT⟩ := obnd hT
  refine a_stI (tw_st ht 14 (by decide) e10) dX3_readOrder_81 ?_
  refine a_aload_n dX3_readOrder_82 rfl ?_
  refine a_dup dX3_readOrder_83 rfl ?_
  refine a_gI fl_X3_225_2 (tw_gI ht 15 (by decide)) dX3_readOrder_84 ?_
  refine a_iconst (v := 1) dX3_readOrder_87 (by decide) ?_
  refine a_iadd dX3_readOrder_88 ?_
  obtain ⟨s13, e12, hT⟩ := obnd hT
  refine a_put (fp_X3_225_2 _) ⟨rfl, rfl⟩ (tw_pf ht 15 (by decide) e12) dX3_readOrder_89 ?_
  refine a_iload_n dX3_readOrder_92 rfl ?_
  by_cases c14 : v2 = 98
  · have hT := oifp c14 hT
    refine a_tswIn 337 dX3_readOrder_93 (by rw [c14]; decide) (by rw [c14]; decide) (off := 244) (by rw [c14]; rfl) rfl ?_
    refine a_aload_n dX3_readOrder_337 rfl ?_
    refine a_gA fl_X3_32_2 (tw_gA ht 14 (by decide)) dX3_readOrder_338 ?_
    refine a_iload_n dX3_readOrder_341 rfl ?_
    refine a_iconst (v := 1) dX3_readOrder_342 (by decide) ?_
    refine a_iadd dX3_readOrder_343 ?_
    refine a_aload_n dX3_readOrder_344 rfl ?_
    obtain ⟨r17, e18, hT⟩ := obnd hT
    refine a_callV kv_X3_219 (tw_is ht) (k_X3_digit ht e18) ⟨Nat.le_of_ble_eq_true rfl, Nat.le_of_ble_eq_true rfl⟩ (As := []) (rest := [.int (v1 + 1), .ref (T 14)]) rfl rfl (Nat.le_of_ble_eq_true rfl) dX3_readOrder_345 (kI ?_) xI
    obtain ⟨s20, e19, hT⟩ := obnd hT
    refine a_stI (tw_st ht 14 (by decide) e19) dX3_readOrder_348 ?_
    refine a_aload_n dX3_readOrder_349 rfl ?_
    refine a_aload_n dX3_readOrder_350 rfl ?_
    obtain ⟨r23, e24, hT⟩ := obnd hT
    refine a_callV kv_X3_208 (tw_is ht) (k_X3_here ht e24) ⟨Nat.le_of_ble_eq_true rfl, Nat.le_of_ble_eq_true rfl⟩ (As := []) (rest := [.ref (T 100)]) rfl rfl (Nat.le_of_ble_eq_true rfl) dX3_readOrder_351 (kI ?_) xI
    refine a_bipush (v := 62) dX3_readOrder_354 (by decide) ?_
    refine a_icmp_ne 363 dX3_readOrder_356 rfl (fun c25 => ?_) (fun c25 => ?_)
    · have hT := oifn c25 hT
      refine a_iconst (v := 0) dX3_readOrder_363 (by decide) ?_
      refine a_mask [true, true, false] ?_
      exact k_X3_readOrder_l364 ht hT he
    · have hT := oifp c25 hT
      refine a_iconst (v := 1) dX3_readOrder_359 (by decide) ?_
      refine a_goto 364 dX3_readOrder_360 rfl ?_
      refine a_mask [true, true, false] ?_
      exact k_X3_readOrder_l364 ht hT he
  · have hT := oifn c14 hT
    by_cases c51 : v2 = 103
    · have hT := oifp c51 hT
      refine a_tswIn 322 dX3_readOrder_93 (by rw [c51]; decide) (by rw [c51]; decide) (off := 229) (by rw [c51]; rfl) rfl ?_
      refine a_aload_n dX3_readOrder_322 rfl ?_
      refine a_gA fl_X3_32_2 (tw_gA ht 14 (by decide)) dX3_readOrder_323 ?_
      refine a_iload_n dX3_readOrder_326 rfl ?_
      refine a_iconst (v := 1) dX3_readOrder_327 (by decide) ?_
      refine a_iadd dX3_readOrder_328 ?_
      refine a_aload_n dX3_readOrder_329 rfl ?_
      obtain ⟨r54, e55, hT⟩ := obnd hT
      refine a_callV kv_X3_222 (tw_is ht) (k_X3_number ht e55) ⟨Nat.le_of_ble_eq_true rfl, Nat.le_of_ble_eq_true rfl⟩ (As := []) (rest := [.int (v1 + 1), .ref (T 14)]) rfl rfl (Nat.le_of_ble_eq_true rfl) dX3_readOrder_330 (kI ?_) xI
      obtain ⟨s57, e56, hT⟩ := obnd hT
      refine a_stI (tw_st ht 14 (by decide) e56) dX3_readOrder_333 ?_
      refine a_goto 508 dX3_readOrder_334 rfl ?_
      cases hT
      exact a_vret rfl dX3_readOrder_508 (he _ _ ⟨rfl, rfl⟩)
    · have hT := oifn c51 hT
      by_cases c58 : v2 = 104
      · have hT := oifp c58 hT
        refine a_tswIn 196 dX3_readOrder_93 (by rw [c58]; decide) (by rw [c58]; decide) (off := 103) (by rw [c58]; rfl) rfl ?_
        refine a_aload_n dX3_readOrder_196 rfl ?_
        refine a_iload_n dX3_readOrder_197 rfl ?_
        refine a_iconst (v := 1) dX3_readOrder_198 (by decide) ?_
        refine a_iadd dX3_readOrder_199 ?_
        obtain ⟨r61, e62, hT⟩ := obnd hT
        refine a_callV kv_X3_228 (tw_is ht) (k_X3_cells ht e62) ⟨Nat.le_of_ble_eq_true rfl, Nat.le_of_ble_eq_true rfl⟩ (As := [.int (v1 + 1)]) (rest := []) rfl rfl (Nat.le_of_ble_eq_true rfl) dX3_readOrder_200 (kV ?_) xV
        refine a_aload_n dX3_readOrder_203 rfl ?_
        refine a_aload_n dX3_readOrder_204 rfl ?_
        obtain ⟨r65, e66, hT⟩ := obnd hT
        refine a_callV kv_X3_208 (tw_is ht) (k_X3_here ht e66) ⟨Nat.le_of_ble_eq_true rfl, Nat.le_of_ble_eq_true rfl⟩ (As := []) (rest := [.ref (T 100)]) rfl rfl (Nat.le_of_ble_eq_true rfl) dX3_readOrder_205 (kI ?_) xI
        refine a_bipush (v := 61) dX3_readOrder_208 (by decide) ?_
        refine a_icmp_ne 217 dX3_readOrder_210 rfl (fun c67 => ?_) (fun c67 => ?_)
        · have hT := oifn c67 hT
          refine a_iconst (v := 0) dX3_readOrder_217 (by decide) ?_
          refine a_mask [true, true, false] ?_
          exact k_X3_readOrder_l218 ht hT he
        · have hT := oifp c67 hT
          refine a_iconst (v := 1) dX3_readOrder_213 (by decide) ?_
          refine a_goto 218 dX3_readOrder_214 rfl ?_
          refine a_mask [true, true, false] ?_
          exact k_X3_readOrder_l218 ht hT he
      · have hT := oifn c58 hT
        by_cases c78 : v2 = 109
        · have hT := oifp c78 hT
          refine a_tswIn 276 dX3_readOrder_93 (by rw [c78]; decide) (by rw [c78]; decide) (off := 183) (by rw [c78]; rfl) rfl ?_
          refine a_aload_n dX3_readOrder_276 rfl ?_
          obtain ⟨r81, e82, hT⟩ := obnd hT
          refine a_callV kv_X3_208 (tw_is ht) (k_X3_here ht e82) ⟨Nat.le_of_ble_eq_true rfl, Nat.le_of_ble_eq_true rfl⟩ (As := []) (rest := []) rfl rfl (Nat.le_of_ble_eq_true rfl) dX3_readOrder_277 (kI ?_) xI
          refine a_bipush (v := 120) dX3_readOrder_280 (by decide) ?_
          refine a_icmp_ne 307 dX3_readOrder_282 rfl (fun c83 => ?_) (fun c83 => ?_)
          · have hT := oifn c83 hT
            refine a_aload_n dX3_readOrder_307 rfl ?_
            refine a_gA fl_X3_32_2 (tw_gA ht 14 (by decide)) dX3_readOrder_308 ?_
            refine a_iload_n dX3_readOrder_311 rfl ?_
            refine a_iconst (v := 1) dX3_readOrder_312 (by decide) ?_
            refine a_iadd dX3_readOrder_313 ?_
            refine a_aload_n dX3_readOrder_314 rfl ?_
            obtain ⟨r86, e87, hT⟩ := obnd hT
            refine a_callV kv_X3_222 (tw_is ht) (k_X3_number ht e87) ⟨Nat.le_of_ble_eq_true rfl, Nat.le_of_ble_eq_true rfl⟩ (As := []) (rest := [.int (v1 + 1), .ref (T 14)]) rfl rfl (Nat.le_of_ble_eq_true rfl) dX3_readOrder_315 (kI ?_) xI
            obtain ⟨s89, e88, hT⟩ := obnd hT
            refine a_stI (tw_st ht 14 (by decide) e88) dX3_readOrder_318 ?_
            refine a_goto 508 dX3_readOrder_319 rfl ?_
            cases hT
            exact a_vret rfl dX3_readOrder_508 (he _ _ ⟨rfl, rfl⟩)
          · have hT := oifp c83 hT
            refine a_aload_n dX3_readOrder_285 rfl ?_
            refine a_dup dX3_readOrder_286 rfl ?_
            refine a_gI fl_X3_198_2 (tw_gI ht 16 (by decide)) dX3_readOrder_287 ?_
            refine a_iconst (v := 1) dX3_readOrder_290 (by decide) ?_
            refine a_iadd dX3_readOrder_291 ?_
            obtain ⟨s91, e90, hT⟩ := obnd hT
            refine a_put (fp_X3_198_2 _) ⟨rfl, rfl⟩ (tw_pf ht 16 (by decide) e90) dX3_readOrder_292 ?_
            refine a_aload_n dX3_readOrder_295 rfl ?_
            refine a_gA fl_X3_32_2 (tw_gA ht 14 (by decide)) dX3_readOrder_296 ?_
            refine a_iload_n dX3_readOrder_299 rfl ?_
            refine a_iconst (v := 1) dX3_readOrder_300 (by decide) ?_
            refine a_iadd dX3_readOrder_301 ?_
            refine a_iconst (v := (-1)) dX3_readOrder_302 (by decide) ?_
            obtain ⟨s93, e92, hT⟩ := obnd hT
            refine a_stI (tw_st ht 14 (by decide) e92) dX3_readOrder_303 ?_
            refine a_goto 508 dX3_readOrder_304 rfl ?_
            cases hT
            exact a_vret rfl dX3_readOrder_508 (he _ _ ⟨rfl, rfl⟩)
        · have hT := oifn c78 hT
          by_cases c94 : v2 = 114
          · have hT := oifp c94 hT
            refine a_tswIn 463 dX3_readOrder_93 (by rw [c94]; decide) (by rw [c94]; decide) (off := 370) (by rw [c94]; rfl) rfl ?_
            refine a_aload_n dX3_readOrder_463 rfl ?_
            refine a_gA fl_X3_32_2 (tw_gA ht 14 (by decide)) dX3_readOrder_464 ?_
            refine a_iload_n dX3_readOrder_467 rfl ?_
            refine a_iconst (v := 1) dX3_readOrder_468 (by decide) ?_
            refine a_iadd dX3_readOrder_469 ?_
            refine a_aload_n dX3_readOrder_470 rfl ?_
            obtain ⟨r97, e98, hT⟩ := obnd hT
            refine a_callV kv_X3_219 (tw_is ht) (k_X3_digit ht e98) ⟨Nat.le_of_ble_eq_true rfl, Nat.le_of_ble_eq_true rfl⟩ (As := []) (rest := [.int (v1 + 1), .ref (T 14)]) rfl rfl (Nat.le_of_ble_eq_true rfl) dX3_readOrder_471 (kI ?_) xI
            obtain ⟨s100, e99, hT⟩ := obnd hT
            refine a_stI (tw_st ht 14 (by decide) e99) dX3_readOrder_474 ?_
            refine a_aload_n dX3_readOrder_475 rfl ?_
            refine a_aload_n dX3_readOrder_476 rfl ?_
            obtain ⟨r103, e104, hT⟩ := obnd hT
            refine a_callV kv_X3_208 (tw_is ht) (k_X3_here ht e104) ⟨Nat.le_of_ble_eq_true rfl, Nat.le_of_ble_eq_true rfl⟩ (As := []) (rest := [.ref (T 100)]) rfl rfl (Nat.le_of_ble_eq_true rfl) dX3_readOrder_477 (kI ?_) xI
            refine a_bipush (v := 43) dX3_readOrder_480 (by decide) ?_
            refine a_icmp_ne 489 dX3_readOrder_482 rfl (fun c105 => ?_) (fun c105 => ?_)
            · have hT := oifn c105 hT
              refine a_iconst (v := 0) dX3_readOrder_489 (by decide) ?_
              refine a_mask [true, true, false] ?_
              exact k_X3_readOrder_l490 ht hT he
            · have hT := oifp c105 hT
              refine a_iconst (v := 1) dX3_readOrder_485 (by decide) ?_
              refine a_goto 490 dX3_readOrder_486 rfl ?_
              refine a_mask [true, true, false] ?_
              exact k_X3_readOrder_l490 ht hT he
          · have hT := oifn c94 hT
            by_cases c116 : v2 = 116
            · have hT := oifp c116 hT
              refine a_tswIn 236 dX3_readOrder_93 (by rw [c116]; decide) (by rw [c116]; decide) (off := 143) (by rw [c116]; rfl) rfl ?_
              refine a_aload_n dX3_readOrder_236 rfl ?_
              refine a_gA fl_X3_32_2 (tw_gA ht 14 (by decide)) dX3_readOrder_237 ?_
              refine a_iload_n dX3_readOrder_240 rfl ?_
              refine a_iconst (v := 1) dX3_readOrder_241 (by decide) ?_
              refine a_iadd dX3_readOrder_242 ?_
              refine a_aload_n dX3_readOrder_243 rfl ?_
              obtain ⟨r119, e120, hT⟩ := obnd hT
              refine a_callV kv_X3_219 (tw_is ht) (k_X3_digit ht e120) ⟨Nat.le_of_ble_eq_true rfl, Nat.le_of_ble_eq_true rfl⟩ (As := []) (rest := [.int (v1 + 1), .ref (T 14)]) rfl rfl (Nat.le_of_ble_eq_true rfl) dX3_readOrder_244 (kI ?_) xI
              obtain ⟨s122, e121, hT⟩ := obnd hT
              refine a_stI (tw_st ht 14 (by decide) e121) dX3_readOrder_247 ?_
              refine a_aload_n dX3_readOrder_248 rfl ?_
              refine a_aload_n dX3_readOrder_249 rfl ?_
              obtain ⟨r125, e126, hT⟩ := obnd hT
              refine a_callV kv_X3_208 (tw_is ht) (k_X3_here ht e126) ⟨Nat.le_of_ble_eq_true rfl, Nat.le_of_ble_eq_true rfl⟩ (As := []) (rest := [.ref (T 100)]) rfl rfl (Nat.le_of_ble_eq_true rfl) dX3_readOrder_250 (kI ?_) xI
              refine a_bipush (v := 58) dX3_readOrder_253 (by decide) ?_
              refine a_icmp_ne 262 dX3_readOrder_255 rfl (fun c127 => ?_) (fun c127 => ?_)
              · have hT := oifn c127 hT
                refine a_iconst (v := 0) dX3_readOrder_262 (by decide) ?_
                refine a_mask [true, true, false] ?_
                exact k_X3_readOrder_l263 ht hT he
              · have hT := oifp c127 hT
                refine a_iconst (v := 1) dX3_readOrder_258 (by decide) ?_
                refine a_goto 263 dX3_readOrder_259 rfl ?_
                refine a_mask [true, true, false] ?_
                exact k_X3_readOrder_l263 ht hT he
            · have hT := oifn c116 hT
              by_cases c136 : v2 = 118
              · have hT := oifp c136 hT
                refine a_tswIn 322 dX3_readOrder_93 (by rw [c136]; decide) (by rw [c136]; decide) (off := 229) (by rw [c136]; rfl) rfl ?_
                refine a_aload_n dX3_readOrder_322 rfl ?_
                refine a_gA fl_X3_32_2 (tw_gA ht 14 (by decide)) dX3_readOrder_323 ?_
                refine a_iload_n dX3_readOrder_326 rfl ?_
                refine a_iconst (v := 1) dX3_readOrder_327 (by decide) ?_
                refine a_iadd dX3_readOrder_328 ?_
                refine a_aload_n dX3_readOrder_329 rfl ?_
                obtain ⟨r139, e140, hT⟩ := obnd hT
                refine a_callV kv_X3_222 (tw_is ht) (k_X3_number ht e140) ⟨Nat.le_of_ble_eq_true rfl, Nat.le_of_ble_eq_true rfl⟩ (As := []) (rest := [.int (v1 + 1), .ref (T 14)]) rfl rfl (Nat.le_of_ble_eq_true rfl) dX3_readOrder_330 (kI ?_) xI
                obtain ⟨s142, e141, hT⟩ := obnd hT
                refine a_stI (tw_st ht 14 (by decide) e141) dX3_readOrder_333 ?_
                refine a_goto 508 dX3_readOrder_334 rfl ?_
                cases hT
                exact a_vret rfl dX3_readOrder_508 (he _ _ ⟨rfl, rfl⟩)
              · have hT := oifn c136 hT
                by_cases c143 : v2 = 119
                · have hT := oifp c143 hT
                  refine a_tswIn 412 dX3_readOrder_93 (by rw [c143]; decide) (by rw [c143]; decide) (off := 319) (by rw [c143]; rfl) rfl ?_
                  refine a_aload_n dX3_readOrder_412 rfl ?_
                  refine a_gA fl_X3_32_2 (tw_gA ht 14 (by decide)) dX3_readOrder_413 ?_
                  refine a_iload_n dX3_readOrder_416 rfl ?_
                  refine a_iconst (v := 1) dX3_readOrder_417 (by decide) ?_
                  refine a_iadd dX3_readOrder_418 ?_
                  refine a_aload_n dX3_readOrder_419 rfl ?_
                  obtain ⟨r146, e147, hT⟩ := obnd hT
                  refine a_callV kv_X3_219 (tw_is ht) (k_X3_digit ht e147) ⟨Nat.le_of_ble_eq_true rfl, Nat.le_of_ble_eq_true rfl⟩ (As := []) (rest := [.int (v1 + 1), .ref (T 14)]) rfl rfl (Nat.le_of_ble_eq_true rfl) dX3_readOrder_420 (kI ?_) xI
                  obtain ⟨s149, e148, hT⟩ := obnd hT
                  refine a_stI (tw_st ht 14 (by decide) e148) dX3_readOrder_423 ?_
                  refine a_aload_n dX3_readOrder_424 rfl ?_
                  refine a_gA fl_X3_32_2 (tw_gA ht 14 (by decide)) dX3_readOrder_425 ?_
                  refine a_iload_n dX3_readOrder_428 rfl ?_
                  refine a_iconst (v := 2) dX3_readOrder_429 (by decide) ?_
                  refine a_iadd dX3_readOrder_430 ?_
                  refine a_aload_n dX3_readOrder_431 rfl ?_
                  obtain ⟨r152, e153, hT⟩ := obnd hT
                  refine a_callV kv_X3_208 (tw_is ht) (k_X3_here ht e153) ⟨Nat.le_of_ble_eq_true rfl, Nat.le_of_ble_eq_true rfl⟩ (As := []) (rest := [.int (v1 + 2), .ref (T 14)]) rfl rfl (Nat.le_of_ble_eq_true rfl) dX3_readOrder_432 (kI ?_) xI
                  obtain ⟨r156, e157, hT⟩ := obnd hT
                  refine a_callS ks_X3_232 (k_X3_directionOf e157) ⟨Nat.le_of_ble_eq_true rfl, Nat.le_of_ble_eq_true rfl⟩ (As := [.int r152.1]) (rest := [.int (v1 + 2), .ref (T 14)]) rfl rfl (Nat.le_of_ble_eq_true rfl) dX3_readOrder_435 (kI ?_) xI
                  obtain ⟨s159, e158, hT⟩ := obnd hT
                  refine a_stI (tw_st ht 14 (by decide) e158) dX3_readOrder_438 ?_
                  refine a_aload_n dX3_readOrder_439 rfl ?_
                  refine a_aload_n dX3_readOrder_440 rfl ?_
                  refine a_gA fl_X3_32_2 (tw_gA ht 14 (by decide)) dX3_readOrder_441 ?_
                  refine a_iload_n dX3_readOrder_444 rfl ?_
                  refine a_iconst (v := 2) dX3_readOrder_445 (by decide) ?_
                  refine a_iadd dX3_readOrder_446 ?_
                  obtain ⟨z161, e160, hT⟩ := obnd hT
                  refine a_ldI (tw_ld ht 14 (by decide) e160) dX3_readOrder_447 ?_
                  refine a_iconst (v := (-1)) dX3_readOrder_448 (by decide) ?_
                  refine a_icmp_eq 456 dX3_readOrder_449 rfl (fun c162 => ?_) (fun c162 => ?_)
                  · have hT := oifp c162 hT
                    refine a_iconst (v := 0) dX3_readOrder_456 (by decide) ?_
                    refine a_mask [false, false, false] ?_
                    exact k_X3_readOrder_l457 ht hT he
                  · have hT := oifn c162 hT
                    refine a_iconst (v := 1) dX3_readOrder_452 (by decide) ?_
                    refine a_goto 457 dX3_readOrder_453 rfl ?_
                    refine a_mask [false, false, false] ?_
                    exact k_X3_readOrder_l457 ht hT he
                · have hT := oifn c143 hT
                  refine aTsw 508 dX3_readOrder_93 rfl (cs := [98, 103, 104, 109, 114, 116, 118, 119]) (by decide +kernel) (by simp only [List.mem_cons, List.not_mem_nil, or_false]; rintro z9 (rfl | rfl | rfl | rfl | rfl | rfl | rfl | rfl) <;> assumption) ?_
                  cases hT
                  exact a_vret rfl dX3_readOrder_508 (he _ _ ⟨rfl, rfl⟩)
def t_X3_readOrder_l67 (s : tS) (v1 : Int32) (v2 : Int32) : Option (Unit × tS) :=
  t_X3_readOrder_l72 s v1 v2 1
theorem k_X3_readOrder_l67 {G : aG} {h0 B : aH} {T : Nat → Nat} {K : aRes → aH → Prop} (ht : tOk (gZ G) T) {s : tS} {v1 : Int32} {v2 : Int32} {e : (Unit × tS)} (hT : t_X3_readOrder_l67 s v1 v2 = some e) (he : (fun e => aTo (aEV e.1 (tput (gZ G) B T e.2)) K) e) : aW G M_X3_readOrder 5 89 h0 K (tput (gZ G) B T s) 67 [some (.ref (T 100)), some (.int v1), some (.int v2)] [.ref (T 100)] := by
  unfold t_X3_readOrder_l67 at hT
  refine a_iconst (v := 1) dX3_readOrder_67 (by decide) ?_
  refine a_goto 72 dX3_readOrder_68 rfl ?_
  exact k_X3_readOrder_l72 ht hT he
def t_X3_readOrder (s : tS)  : Option (Unit × tS) :=
  (t_X3_here s).bind fun r3 =>
  if r3.1 = 104 then
    t_X3_readOrder_l67 r3.2 (4 * (s.1 15)) r3.1
  else
    if r3.1 = 115 then
      t_X3_readOrder_l67 r3.2 (4 * (s.1 15)) r3.1
    else
      if r3.1 = 116 then
        t_X3_readOrder_l67 r3.2 (4 * (s.1 15)) r3.1
      else
        if r3.1 = 109 then
          t_X3_readOrder_l67 r3.2 (4 * (s.1 15)) r3.1
        else
          if r3.1 = 103 then
            t_X3_readOrder_l67 r3.2 (4 * (s.1 15)) r3.1
          else
            if r3.1 = 118 then
              t_X3_readOrder_l67 r3.2 (4 * (s.1 15)) r3.1
            else
              if r3.1 = 98 then
                t_X3_readOrder_l67 r3.2 (4 * (s.1 15)) r3.1
              else
                if r3.1 = 119 then
                  t_X3_readOrder_l67 r3.2 (4 * (s.1 15)) r3.1
                else
                  if r3.1 = 114 then
                    t_X3_readOrder_l67 r3.2 (4 * (s.1 15)) r3.1
                  else
                    t_X3_readOrder_l72 r3.2 (4 * (s.1 15)) r3.1 0
theorem k_X3_readOrder {G : aG} {B : aH} {T : Nat → Nat} (ht : tOk (gZ G) T) {s : tS}  {e : (Unit × tS)} (hT : t_X3_readOrder s  = some e) : aMet G yX3_readOrder (ws_ yX3_readOrder cX3_readOrder 3 (Option.none : Option Jvm.ClassFile.FieldType)) 5 89 [.ref (T 100)] (tput (gZ G) B T s) (aEV e.1 (tput (gZ G) B T e.2)) := by
  refine aMet.of (lv := [some (.ref (T 100)), none, none]) (by decide) (Nat.le_of_ble_eq_true rfl) 2 rfl ?_
  have he : aTo (aEV e.1 (tput (gZ G) B T e.2)) (aEV e.1 (tput (gZ G) B T e.2)) := aTo.rf
  unfold t_X3_readOrder at hT
  refine a_iconst (v := 4) dX3_readOrder_0 (by decide) ?_
  refine a_aload_n dX3_readOrder_1 rfl ?_
  refine a_gI fl_X3_225_2 (tw_gI ht 15 (by decide)) dX3_readOrder_2 ?_
  refine a_imul dX3_readOrder_5 ?_
  refine a_istore_n (lv' := [some (.ref (T 100)), some (.int (4 * (s.1 15))), none]) dX3_readOrder_6 rfl (by decide) rfl ?_
  refine a_aload_n dX3_readOrder_7 rfl ?_
  obtain ⟨r3, e4, hT⟩ := obnd hT
  refine a_callV kv_X3_208 (tw_is ht) (k_X3_here ht e4) ⟨Nat.le_of_ble_eq_true rfl, Nat.le_of_ble_eq_true rfl⟩ (As := []) (rest := []) rfl rfl (Nat.le_of_ble_eq_true rfl) dX3_readOrder_8 (kI ?_) xI
  refine a_istore_n (lv' := [some (.ref (T 100)), some (.int (4 * (s.1 15))), some (.int r3.1)]) dX3_readOrder_11 rfl (by decide) rfl ?_
  refine a_aload_n dX3_readOrder_12 rfl ?_
  refine a_iload_n dX3_readOrder_13 rfl ?_
  refine a_bipush (v := 104) dX3_readOrder_14 (by decide) ?_
  refine a_icmp_eq 67 dX3_readOrder_16 rfl (fun c5 => ?_) (fun c5 => ?_)
  · have hT := oifp c5 hT
    exact k_X3_readOrder_l67 ht hT he
  · have hT := oifn c5 hT
    refine a_iload_n dX3_readOrder_19 rfl ?_
    refine a_bipush (v := 115) dX3_readOrder_20 (by decide) ?_
    refine a_icmp_eq 67 dX3_readOrder_22 rfl (fun c168 => ?_) (fun c168 => ?_)
    · have hT := oifp c168 hT
      exact k_X3_readOrder_l67 ht hT he
    · have hT := oifn c168 hT
      refine a_iload_n dX3_readOrder_25 rfl ?_
      refine a_bipush (v := 116) dX3_readOrder_26 (by decide) ?_
      refine a_icmp_eq 67 dX3_readOrder_28 rfl (fun c169 => ?_) (fun c169 => ?_)
      · have hT := oifp c169 hT
        exact k_X3_readOrder_l67 ht hT he
      · have hT := oifn c169 hT
        refine a_iload_n dX3_readOrder_31 rfl ?_
        refine a_bipush (v := 109) dX3_readOrder_32 (by decide) ?_
        refine a_icmp_eq 67 dX3_readOrder_34 rfl (fun c170 => ?_) (fun c170 => ?_)
        · have hT := oifp c170 hT
          exact k_X3_readOrder_l67 ht hT he
        · have hT := oifn c170 hT
          refine a_iload_n dX3_readOrder_37 rfl ?_
          refine a_bipush (v := 103) dX3_readOrder_38 (by decide) ?_
          refine a_icmp_eq 67 dX3_readOrder_40 rfl (fun c171 => ?_) (fun c171 => ?_)
          · have hT := oifp c171 hT
            exact k_X3_readOrder_l67 ht hT he
          · have hT := oifn c171 hT
            refine a_iload_n dX3_readOrder_43 rfl ?_
            refine a_bipush (v := 118) dX3_readOrder_44 (by decide) ?_
            refine a_icmp_eq 67 dX3_readOrder_46 rfl (fun c172 => ?_) (fun c172 => ?_)
            · have hT := oifp c172 hT
              exact k_X3_readOrder_l67 ht hT he
            · have hT := oifn c172 hT
              refine a_iload_n dX3_readOrder_49 rfl ?_
              refine a_bipush (v := 98) dX3_readOrder_50 (by decide) ?_
              refine a_icmp_eq 67 dX3_readOrder_52 rfl (fun c173 => ?_) (fun c173 => ?_)
              · have hT := oifp c173 hT
                exact k_X3_readOrder_l67 ht hT he
              · have hT := oifn c173 hT
                refine a_iload_n dX3_readOrder_55 rfl ?_
                refine a_bipush (v := 119) dX3_readOrder_56 (by decide) ?_
                refine a_icmp_eq 67 dX3_readOrder_58 rfl (fun c174 => ?_) (fun c174 => ?_)
                · have hT := oifp c174 hT
                  exact k_X3_readOrder_l67 ht hT he
                · have hT := oifn c174 hT
                  refine a_iload_n dX3_readOrder_61 rfl ?_
                  refine a_bipush (v := 114) dX3_readOrder_62 (by decide) ?_
                  refine a_icmp_ne 71 dX3_readOrder_64 rfl (fun c175 => ?_) (fun c175 => ?_)
                  · have hT := oifn c175 hT
                    refine a_iconst (v := 0) dX3_readOrder_71 (by decide) ?_
                    exact k_X3_readOrder_l72 ht hT he
                  · have hT := oifp c175 hT
                    exact k_X3_readOrder_l67 ht hT he
theorem kv_X3_151 : aKV "MazeBondsModel" 151 2 yX3_visitorIt cX3_visitorIt 4 (Option.some Jvm.ClassFile.FieldType.int) 1 := ⟨⟨TX3, 21, rfl⟩, Or.inl q1872, q1874, qs43, q81, q1875, ⟨by decide +kernel, by decide +kernel, by decide +kernel⟩⟩
