/-! the twin, decompiled (written by gen/twin.py) -/
set_option maxRecDepth 100000
theorem fl_X3_38_2 : aFL "MazeBondsModel" 38 2 12 := ⟨RX3, TX3, 21, "MazeBondsModel", rfl, in_X3, by decide, Or.inl rfl, Or.inl q1715⟩
abbrev M_X3_thrown : aM := (yX3_thrown.cls, cX3_thrown, 1, (Option.some Jvm.ClassFile.FieldType.int), [], yX3_thrown.name)
def t_X3_thrown (s : tS)  : Option (Int32 × tS) :=
  some ((s.1 12), s)
theorem k_X3_thrown {G : aG} {B : aH} {T : Nat → Nat} (ht : tOk (gZ G) T) {s : tS}  {e : (Int32 × tS)} (hT : t_X3_thrown s  = some e) : aMet G yX3_thrown (ws_ yX3_thrown cX3_thrown 1 (Option.some Jvm.ClassFile.FieldType.int)) 1 1 [.ref (T 100)] (tput (gZ G) B T s) (aEI e.1 (tput (gZ G) B T e.2)) := by
  refine aMet.of (lv := [some (.ref (T 100))]) (by decide) (Nat.le_of_ble_eq_true rfl) 0 rfl ?_
  have he : aTo (aEI e.1 (tput (gZ G) B T e.2)) (aEI e.1 (tput (gZ G) B T e.2)) := aTo.rf
  unfold t_X3_thrown at hT
  refine a_aload_n dX3_thrown_0 rfl ?_
  refine a_gI fl_X3_38_2 (tw_gI ht 12 (by decide)) dX3_thrown_1 ?_
  cases hT
  exact a_iret rfl rfl dX3_thrown_4 (he _ _ ⟨rfl, rfl⟩)
theorem fp_X3_38_2 (nm9 : String) : aFP "MazeBondsModel" 38 2 12 .int nm9 := ⟨RX3, TX3, 21, "MazeBondsModel", tyX3, rfl, in_X3, by decide, Or.inl rfl, Or.inl q1715, tyX3_ok, nmX3, rfl, Or.inl rfl⟩
theorem fl_X3_13_2 : aFL "MazeBondsModel" 13 2 1 := ⟨RX3, TX3, 21, "MazeBondsModel", rfl, in_X3, by decide, Or.inl rfl, Or.inl q1704⟩
theorem fl_X3_9_2 : aFL "MazeBondsModel" 9 2 0 := ⟨RX3, TX3, 21, "MazeBondsModel", rfl, in_X3, by decide, Or.inl rfl, Or.inl q1703⟩
abbrev M_X3_starts : aM := (yX3_starts.cls, cX3_starts, 2, (Option.none : Option Jvm.ClassFile.FieldType), [], yX3_starts.name)
def p_X3_starts_b7 (G : aG) (h0 : aH) (K : aRes → aH → Prop) (B : aH) (T : Nat → Nat) (x9 : (Int32 × tS)) : Prop := aW G M_X3_starts 1 1 h0 K (tput (gZ G) B T x9.2) 7 [some (.ref (T 100)), some (.int x9.1)] []
def t_X3_starts_b7 : (Int32 × tS) → Option ((Int32 × tS) ⊕ (Unit × tS)) := fun (v1, s) =>
  if 86 ≤ v1 then
    some (.inr (((), s)))
  else
    (tld 0 s v1).bind fun z5 =>
    (tst 1 s v1 z5).bind fun s7 =>
    some (.inl ((v1 + 1), s7))
theorem kb_X3_starts_b7 {G : aG} {h0 B : aH} {T : Nat → Nat} {K : aRes → aH → Prop} (ht : tOk (gZ G) T) : ∀ (x9 : (Int32 × tS)) (e : ((Int32 × tS) ⊕ (Unit × tS))), t_X3_starts_b7 x9 = some e → (Sum.elim (p_X3_starts_b7 G h0 K B T) (fun e => aTo (aEV e.1 (tput (gZ G) B T e.2)) K)) e → p_X3_starts_b7 G h0 K B T x9 := by
  intro x9 e hT he
  obtain ⟨v1, s⟩ := x9
  unfold p_X3_starts_b7
  unfold t_X3_starts_b7 at hT
  show aW G M_X3_starts 1 1 h0 K (tput (gZ G) B T s) 7 [some (.ref (T 100)), some (.int v1)] []
  dsimp only at hT
  refine a_iload_n dX3_starts_7 rfl ?_
  refine a_bipush (v := 86) dX3_starts_8 (by decide) ?_
  refine a_icmp_ge 31 dX3_starts_10 rfl (fun c3 => ?_) (fun c3 => ?_)
  · have hT := oifp c3 hT
    cases hT
    exact a_vret rfl dX3_starts_31 (he _ _ ⟨rfl, rfl⟩)
  · have hT := oifn c3 hT
    refine a_aload_n dX3_starts_13 rfl ?_
    refine a_gA fl_X3_13_2 (tw_gA ht 1 (by decide)) dX3_starts_14 ?_
    refine a_iload_n dX3_starts_17 rfl ?_
    refine a_aload_n dX3_starts_18 rfl ?_
    refine a_gA fl_X3_9_2 (tw_gA ht 0 (by decide)) dX3_starts_19 ?_
    refine a_iload_n dX3_starts_22 rfl ?_
    obtain ⟨z5, e4, hT⟩ := obnd hT
    refine a_ldI (tw_ld ht 0 (by decide) e4) dX3_starts_23 ?_
    obtain ⟨s7, e6, hT⟩ := obnd hT
    refine a_stI (tw_st ht 1 (by decide) e6) dX3_starts_24 ?_
    refine a_iinc (v := (v1 + 1)) (lv' := [some (.ref (T 100)), some (.int (v1 + 1))]) dX3_starts_25 rfl (by rfl) rfl (by decide) rfl ?_
    refine a_goto 7 dX3_starts_28 rfl ?_
    cases hT
    exact he
theorem k_X3_starts_b7 {G : aG} {h0 B : aH} {T : Nat → Nat} {K : aRes → aH → Prop} (ht : tOk (gZ G) T) {n9 : Nat} {x9 : (Int32 × tS)} {e : (Unit × tS)} (hT : wlo t_X3_starts_b7 n9 x9 = some e) (he : (fun e => aTo (aEV e.1 (tput (gZ G) B T e.2)) K) e) : p_X3_starts_b7 G h0 K B T x9 := wlo_W (kb_X3_starts_b7 ht) n9 x9 e hT he
def t_X3_starts (s : tS)  : Option (Unit × tS) :=
  (tpf 12 s 0).bind fun s2 =>
  wlo t_X3_starts_b7 300 (0, s2)
theorem k_X3_starts {G : aG} {B : aH} {T : Nat → Nat} (ht : tOk (gZ G) T) {s : tS}  {e : (Unit × tS)} (hT : t_X3_starts s  = some e) : aMet G yX3_starts (ws_ yX3_starts cX3_starts 2 (Option.none : Option Jvm.ClassFile.FieldType)) 1 1 [.ref (T 100)] (tput (gZ G) B T s) (aEV e.1 (tput (gZ G) B T e.2)) := by
  refine aMet.of (lv := [some (.ref (T 100)), none]) (by decide) (Nat.le_of_ble_eq_true rfl) 1 rfl ?_
  have he : aTo (aEV e.1 (tput (gZ G) B T e.2)) (aEV e.1 (tput (gZ G) B T e.2)) := aTo.rf
  unfold t_X3_starts at hT
  refine a_aload_n dX3_starts_0 rfl ?_
  refine a_iconst (v := 0) dX3_starts_1 (by decide) ?_
  obtain ⟨s2, e1, hT⟩ := obnd hT
  refine a_put (fp_X3_38_2 _) ⟨rfl, rfl⟩ (tw_pf ht 12 (by decide) e1) dX3_starts_2 ?_
  refine a_iconst (v := 0) dX3_starts_5 (by decide) ?_
  refine a_istore_n (lv' := [some (.ref (T 100)), some (.int 0)]) dX3_starts_6 rfl (by decide) rfl ?_
  exact k_X3_starts_b7 ht hT he
abbrev M_X3_in : aM := (yX3_in.cls, cX3_in, 6, (Option.some Jvm.ClassFile.FieldType.boolean), [], yX3_in.name)
def t_X3_in (x0 : Int64) (x1 : Int64) (x2 : Int64) : Option Int32 :=
  if (lg_cmp x0 x1) < 0 then
    some 0
  else
    if 0 < (lg_cmp x0 x2) then
      some 0
    else
      some 1
theorem k_X3_in {G : aG} {h : aH} {x0 : Int64} {x1 : Int64} {x2 : Int64} {e : Int32} (hT : t_X3_in x0 x1 x2 = some e) : aMet G yX3_in (ws_ yX3_in cX3_in 6 (Option.some Jvm.ClassFile.FieldType.boolean)) 1 1 [.long x0, .long x1, .long x2] h (aEI e h) := by
  refine aMet.of (lv := [some (.long x0), none, some (.long x1), none, some (.long x2), none]) (by decide) (Nat.le_of_ble_eq_true rfl) 0 rfl ?_
  have he : aTo (aEI e h) (aEI e h) := aTo.rf
  unfold t_X3_in at hT
  refine a_lload_n dX3_in_0 rfl ?_
  refine a_lload_n dX3_in_1 rfl ?_
  refine a_lcmp dX3_in_2 ?_
  refine a_if_lt 17 dX3_in_3 rfl (fun c1 => ?_) (fun c1 => ?_)
  · have hT := oifp c1 hT
    refine a_iconst (v := 0) dX3_in_17 (by decide) ?_
    cases hT
    exact a_iret rfl (by decide) dX3_in_18 (he _ _ ⟨rfl, rfl⟩)
  · have hT := oifn c1 hT
    refine a_lload_n dX3_in_6 rfl ?_
    refine a_lload dX3_in_7 rfl ?_
    refine a_lcmp dX3_in_9 ?_
    refine a_if_gt 17 dX3_in_10 rfl (fun c2 => ?_) (fun c2 => ?_)
    · have hT := oifp c2 hT
      refine a_iconst (v := 0) dX3_in_17 (by decide) ?_
      cases hT
      exact a_iret rfl (by decide) dX3_in_18 (he _ _ ⟨rfl, rfl⟩)
    · have hT := oifn c2 hT
      refine a_iconst (v := 1) dX3_in_13 (by decide) ?_
      refine a_goto 18 dX3_in_14 rfl ?_
      cases hT
      exact a_iret rfl (by decide) dX3_in_18 (he _ _ ⟨rfl, rfl⟩)
abbrev M_X3_throwing : aM := (yX3_throwing.cls, cX3_throwing, 2, (Option.some Jvm.ClassFile.FieldType.int), [], yX3_throwing.name)
def t_X3_throwing (s : tS) (x0 : Int32) : Option (Int32 × tS) :=
  (tpf 12 s x0).bind fun s2 =>
  some ((-1), s2)
theorem k_X3_throwing {G : aG} {B : aH} {T : Nat → Nat} (ht : tOk (gZ G) T) {s : tS} {x0 : Int32} {e : (Int32 × tS)} (hT : t_X3_throwing s x0 = some e) : aMet G yX3_throwing (ws_ yX3_throwing cX3_throwing 2 (Option.some Jvm.ClassFile.FieldType.int)) 1 1 [.ref (T 100), .int x0] (tput (gZ G) B T s) (aEI e.1 (tput (gZ G) B T e.2)) := by
  refine aMet.of (lv := [some (.ref (T 100)), some (.int x0)]) (by decide) (Nat.le_of_ble_eq_true rfl) 0 rfl ?_
  have he : aTo (aEI e.1 (tput (gZ G) B T e.2)) (aEI e.1 (tput (gZ G) B T e.2)) := aTo.rf
  unfold t_X3_throwing at hT
  refine a_aload_n dX3_throwing_0 rfl ?_
  refine a_iload_n dX3_throwing_1 rfl ?_
  obtain ⟨s2, e1, hT⟩ := obnd hT
  refine a_put (fp_X3_38_2 _) ⟨rfl, rfl⟩ (tw_pf ht 12 (by decide) e1) dX3_throwing_2 ?_
  refine a_iconst (v := (-1)) dX3_throwing_5 (by decide) ?_
  cases hT
  exact a_iret rfl rfl dX3_throwing_6 (he _ _ ⟨rfl, rfl⟩)
theorem ks_X3_59 : aKS "MazeBondsModel" 59 yX3_in cX3_in 6 (Option.some Jvm.ClassFile.FieldType.boolean) 3 := ⟨Or.inl q1784, q1785, q81, q1786, ⟨by decide +kernel, by decide +kernel, by decide +kernel⟩⟩
abbrev M_X3_isCell : aM := (yX3_isCell.cls, cX3_isCell, 1, (Option.some Jvm.ClassFile.FieldType.boolean), [], yX3_isCell.name)
def t_X3_isCell (x0 : Int32) : Option Int32 :=
  (t_X3_in ((x0 : Int32).toInt64) 0 15).bind fun r3 =>
  if r3 = 0 ∨ r3 = 1 then some r3 else none
theorem k_X3_isCell {G : aG} {h : aH} {x0 : Int32} {e : Int32} (hT : t_X3_isCell x0 = some e) : aMet G yX3_isCell (ws_ yX3_isCell cX3_isCell 1 (Option.some Jvm.ClassFile.FieldType.boolean)) 2 26 [.int x0] h (aEI e h) := by
  refine aMet.of (lv := [some (.int x0)]) (by decide) (Nat.le_of_ble_eq_true rfl) 0 rfl ?_
  have he : aTo (aEI e h) (aEI e h) := aTo.rf
  unfold t_X3_isCell at hT
  refine a_iload_n dX3_isCell_0 rfl ?_
  refine a_i2l dX3_isCell_1 ?_
  refine a_lconst (v := 0) dX3_isCell_2 (by decide) ?_
  refine a_ldc2 q1802 dX3_isCell_3 ?_
  obtain ⟨r3, e4, hT⟩ := obnd hT
  refine a_callS ks_X3_59 (k_X3_in e4) ⟨Nat.le_of_ble_eq_true rfl, Nat.le_of_ble_eq_true rfl⟩ (As := [.long ((x0 : Int32).toInt64), .long 0, .long 15]) (rest := []) rfl rfl (Nat.le_of_ble_eq_true rfl) dX3_isCell_6 (kI ?_) xI
  obtain ⟨g9, hT⟩ := oifg hT
  cases hT
  exact a_iret rfl (nZ g9) dX3_isCell_9 (he _ _ ⟨rfl, rfl⟩)
abbrev M_X3_hedgeAt : aM := (yX3_hedgeAt.cls, cX3_hedgeAt, 4, (Option.some Jvm.ClassFile.FieldType.int), [], yX3_hedgeAt.name)
def t_X3_hedgeAt (x0 : Int32) (x1 : Int32) : Option Int32 :=
  if ((jmax x0 x1) - (jmin x0 x1)) = 4 then
    some (18 + (jmin x0 x1))
  else
    if ((jmax x0 x1) - (jmin x0 x1)) = 1 then
      if 3 ≤ ((jmin x0 x1) - (jmin x0 x1) / 4 * 4) then
        some (-1)
      else
        some ((6 + (3 * ((jmin x0 x1) / 4))) + ((jmin x0 x1) - (jmin x0 x1) / 4 * 4))
    else
      some (-1)
theorem k_X3_hedgeAt {G : aG} {h : aH} {x0 : Int32} {x1 : Int32} {e : Int32} (hT : t_X3_hedgeAt x0 x1 = some e) : aMet G yX3_hedgeAt (ws_ yX3_hedgeAt cX3_hedgeAt 4 (Option.some Jvm.ClassFile.FieldType.int)) 1 40 [.int x0, .int x1] h (aEI e h) := by
  refine aMet.of (lv := [some (.int x0), some (.int x1), none, none]) (by decide) (Nat.le_of_ble_eq_true rfl) 2 rfl ?_
  have he : aTo (aEI e h) (aEI e h) := aTo.rf
  unfold t_X3_hedgeAt at hT
  refine a_iload_n dX3_hedgeAt_0 rfl ?_
  refine a_iload_n dX3_hedgeAt_1 rfl ?_
  refine a_mmin q1806 q481 q90 q482 (by decide) (Nat.le_of_ble_eq_true rfl) dX3_hedgeAt_2 ?_
  refine a_istore_n (lv' := [some (.int x0), some (.int x1), some (.int (jmin x0 x1)), none]) dX3_hedgeAt_5 rfl (by decide) rfl ?_
  refine a_iload_n dX3_hedgeAt_6 rfl ?_
  refine a_iload_n dX3_hedgeAt_7 rfl ?_
  refine a_mmax q1807 q441 q90 q442 (by decide) (Nat.le_of_ble_eq_true rfl) dX3_hedgeAt_8 ?_
  refine a_istore_n (lv' := [some (.int x0), some (.int x1), some (.int (jmin x0 x1)), some (.int (jmax x0 x1))]) dX3_hedgeAt_11 rfl (by decide) rfl ?_
  refine a_iload_n dX3_hedgeAt_12 rfl ?_
  refine a_iload_n dX3_hedgeAt_13 rfl ?_
  refine a_isub dX3_hedgeAt_14 ?_
  refine a_iconst (v := 4) dX3_hedgeAt_15 (by decide) ?_
  refine a_icmp_ne 24 dX3_hedgeAt_16 rfl (fun c1 => ?_) (fun c1 => ?_)
  · have hT := oifn c1 hT
    refine a_iload_n dX3_hedgeAt_24 rfl ?_
    refine a_iload_n dX3_hedgeAt_25 rfl ?_
    refine a_isub dX3_hedgeAt_26 ?_
    refine a_iconst (v := 1) dX3_hedgeAt_27 (by decide) ?_
    refine a_icmp_ne 53 dX3_hedgeAt_28 rfl (fun c2 => ?_) (fun c2 => ?_)
    · have hT := oifn c2 hT
      refine a_iconst (v := (-1)) dX3_hedgeAt_53 (by decide) ?_
      cases hT
      exact a_iret rfl rfl dX3_hedgeAt_54 (he _ _ ⟨rfl, rfl⟩)
    · have hT := oifp c2 hT
      refine a_iload_n dX3_hedgeAt_31 rfl ?_
      refine a_iconst (v := 4) dX3_hedgeAt_32 (by decide) ?_
      refine a_irem dX3_hedgeAt_33 (by decide) ?_
      refine a_iconst (v := 3) dX3_hedgeAt_34 (by decide) ?_
      refine a_icmp_ge 53 dX3_hedgeAt_35 rfl (fun c3 => ?_) (fun c3 => ?_)
      · have hT := oifp c3 hT
        refine a_iconst (v := (-1)) dX3_hedgeAt_53 (by decide) ?_
        cases hT
        exact a_iret rfl rfl dX3_hedgeAt_54 (he _ _ ⟨rfl, rfl⟩)
      · have hT := oifn c3 hT
        refine a_bipush (v := 6) dX3_hedgeAt_38 (by decide) ?_
        refine a_iconst (v := 3) dX3_hedgeAt_40 (by decide) ?_
        refine a_iload_n dX3_hedgeAt_41 rfl ?_
        refine a_iconst (v := 4) dX3_hedgeAt_42 (by decide) ?_
        refine a_idiv dX3_hedgeAt_43 (by decide) ?_
        refine a_imul dX3_hedgeAt_44 ?_
        refine a_iadd dX3_hedgeAt_45 ?_
        refine a_iload_n dX3_hedgeAt_46 rfl ?_
        refine a_iconst (v := 4) dX3_hedgeAt_47 (by decide) ?_
        refine a_irem dX3_hedgeAt_48 (by decide) ?_
        refine a_iadd dX3_hedgeAt_49 ?_
        refine a_goto 54 dX3_hedgeAt_50 rfl ?_
        cases hT
        exact a_iret rfl rfl dX3_hedgeAt_54 (he _ _ ⟨rfl, rfl⟩)
  · have hT := oifp c1 hT
    refine a_bipush (v := 18) dX3_hedgeAt_19 (by decide) ?_
    refine a_iload_n dX3_hedgeAt_21 rfl ?_
    refine a_iadd dX3_hedgeAt_22 ?_
    cases hT
    exact a_iret rfl rfl dX3_hedgeAt_23 (he _ _ ⟨rfl, rfl⟩)
theorem fl_X3_54_2 : aFL "MazeBondsModel" 54 2 5 := ⟨RX3, TX3, 21, "MazeBondsModel", rfl, in_X3, by decide, Or.inl rfl, Or.inl q1708⟩
theorem fp_X3_54_2 (nm9 : String) : aFP "MazeBondsModel" 54 2 5 .int nm9 := ⟨RX3, TX3, 21, "MazeBondsModel", tyX3, rfl, in_X3, by decide, Or.inl rfl, Or.inl q1708, tyX3_ok, nmX3, rfl, Or.inl rfl⟩
theorem fl_X3_19_2 : aFL "MazeBondsModel" 19 2 4 := ⟨RX3, TX3, 21, "MazeBondsModel", rfl, in_X3, by decide, Or.inl rfl, Or.inl q1707⟩
abbrev M_X3_changed : aM := (yX3_changed.cls, cX3_changed, 3, (Option.some Jvm.ClassFile.FieldType.int), [], yX3_changed.name)
def p_X3_changed_b60 (G : aG) (h0 : aH) (K : aRes → aH → Prop) (B : aH) (T : Nat → Nat) (x9 : (Int32 × Int32 × tS)) : Prop := aW G M_X3_changed 1 1 h0 K (tput (gZ G) B T x9.2.2) 60 [some (.ref (T 100)), some (.int x9.1), some (.int x9.2.1)] []
def t_X3_changed_l92 (s : tS) (v1 : Int32) : Option (Int32 × tS) :=
  (tpf 5 s ((s.1 5) + 1)).bind fun s5 =>
  some (v1, s5)
theorem k_X3_changed_l92 {G : aG} {h0 B : aH} {T : Nat → Nat} {K : aRes → aH → Prop} (ht : tOk (gZ G) T) {s : tS} {v1 : Int32} {e : (Int32 × tS)} (hT : t_X3_changed_l92 s v1 = some e) (he : (fun e => aTo (aEI e.1 (tput (gZ G) B T e.2)) K) e) : aW G M_X3_changed 1 1 h0 K (tput (gZ G) B T s) 92 [some (.ref (T 100)), some (.int v1), none] [] := by
  unfold t_X3_changed_l92 at hT
  refine a_aload_n dX3_changed_92 rfl ?_
  refine a_dup dX3_changed_93 rfl ?_
  refine a_gI fl_X3_54_2 (tw_gI ht 5 (by decide)) dX3_changed_94 ?_
  refine a_iconst (v := 1) dX3_changed_97 (by decide) ?_
  refine a_iadd dX3_changed_98 ?_
  obtain ⟨s5, e4, hT⟩ := obnd hT
  refine a_put (fp_X3_54_2 _) ⟨rfl, rfl⟩ (tw_pf ht 5 (by decide) e4) dX3_changed_99 ?_
  refine a_iload_n dX3_changed_102 rfl ?_
  cases hT
  exact a_iret rfl rfl dX3_changed_103 (he _ _ ⟨rfl, rfl⟩)
def t_X3_changed_b60 : (Int32 × Int32 × tS) → Option ((Int32 × Int32 × tS) ⊕ (Int32 × tS)) := fun (v1, v2, s) =>
  if 86 ≤ v2 then
    (t_X3_changed_l92 s v1).map .inr
  else
    (tld 1 s v2).bind fun z7 =>
    (tst 4 s ((86 * (s.1 5)) + v2) z7).bind fun s9 =>
    some (.inl (v1, (v2 + 1), s9))
theorem kb_X3_changed_b60 {G : aG} {h0 B : aH} {T : Nat → Nat} {K : aRes → aH → Prop} (ht : tOk (gZ G) T) : ∀ (x9 : (Int32 × Int32 × tS)) (e : ((Int32 × Int32 × tS) ⊕ (Int32 × tS))), t_X3_changed_b60 x9 = some e → (Sum.elim (p_X3_changed_b60 G h0 K B T) (fun e => aTo (aEI e.1 (tput (gZ G) B T e.2)) K)) e → p_X3_changed_b60 G h0 K B T x9 := by
  intro x9 e hT he
  obtain ⟨v1, v2, s⟩ := x9
  unfold p_X3_changed_b60
  unfold t_X3_changed_b60 at hT
  show aW G M_X3_changed 1 1 h0 K (tput (gZ G) B T s) 60 [some (.ref (T 100)), some (.int v1), some (.int v2)] []
  dsimp only at hT
  refine a_iload_n dX3_changed_60 rfl ?_
  refine a_bipush (v := 86) dX3_changed_61 (by decide) ?_
  refine a_icmp_ge 92 dX3_changed_63 rfl (fun c3 => ?_) (fun c3 => ?_)
  · have hT := oifp c3 hT
    refine a_mask [true, true, false] ?_
    obtain ⟨e8, hT8, rfl⟩ := omap hT
    exact k_X3_changed_l92 ht hT8 he
  · have hT := oifn c3 hT
    refine a_aload_n dX3_changed_66 rfl ?_
    refine a_gA fl_X3_19_2 (tw_gA ht 4 (by decide)) dX3_changed_67 ?_
    refine a_bipush (v := 86) dX3_changed_70 (by decide) ?_
    refine a_aload_n dX3_changed_72 rfl ?_
    refine a_gI fl_X3_54_2 (tw_gI ht 5 (by decide)) dX3_changed_73 ?_
    refine a_imul dX3_changed_76 ?_
    refine a_iload_n dX3_changed_77 rfl ?_
    refine a_iadd dX3_changed_78 ?_
    refine a_aload_n dX3_changed_79 rfl ?_
    refine a_gA fl_X3_13_2 (tw_gA ht 1 (by decide)) dX3_changed_80 ?_
    refine a_iload_n dX3_changed_83 rfl ?_
    obtain ⟨z7, e6, hT⟩ := obnd hT
    refine a_ldI (tw_ld ht 1 (by decide) e6) dX3_changed_84 ?_
    obtain ⟨s9, e8, hT⟩ := obnd hT
    refine a_stI (tw_st ht 4 (by decide) e8) dX3_changed_85 ?_
    refine a_iinc (v := (v2 + 1)) (lv' := [some (.ref (T 100)), some (.int v1), some (.int (v2 + 1))]) dX3_changed_86 rfl (by rfl) rfl (by decide) rfl ?_
    refine a_goto 60 dX3_changed_89 rfl ?_
    cases hT
    exact he
theorem k_X3_changed_b60 {G : aG} {h0 B : aH} {T : Nat → Nat} {K : aRes → aH → Prop} (ht : tOk (gZ G) T) {n9 : Nat} {x9 : (Int32 × Int32 × tS)} {e : (Int32 × tS)} (hT : wlo t_X3_changed_b60 n9 x9 = some e) (he : (fun e => aTo (aEI e.1 (tput (gZ G) B T e.2)) K) e) : p_X3_changed_b60 G h0 K B T x9 := wlo_W (kb_X3_changed_b60 ht) n9 x9 e hT he
def t_X3_changed_l58 (s : tS) (v1 : Int32) : Option (Int32 × tS) :=
  wlo t_X3_changed_b60 700 (v1, 0, s)
theorem k_X3_changed_l58 {G : aG} {h0 B : aH} {T : Nat → Nat} {K : aRes → aH → Prop} (ht : tOk (gZ G) T) {s : tS} {v1 : Int32} {e : (Int32 × tS)} (hT : t_X3_changed_l58 s v1 = some e) (he : (fun e => aTo (aEI e.1 (tput (gZ G) B T e.2)) K) e) : aW G M_X3_changed 1 1 h0 K (tput (gZ G) B T s) 58 [some (.ref (T 100)), some (.int v1), none] [] := by
  unfold t_X3_changed_l58 at hT
  refine a_iconst (v := 0) dX3_changed_58 (by decide) ?_
  refine a_istore_n (lv' := [some (.ref (T 100)), some (.int v1), some (.int 0)]) dX3_changed_59 rfl (by decide) rfl ?_
  exact k_X3_changed_b60 ht hT he
def p_X3_changed_b20 (G : aG) (h0 : aH) (K : aRes → aH → Prop) (B : aH) (T : Nat → Nat) (x9 : (Int32 × Int32 × tS)) : Prop := aW G M_X3_changed 1 1 h0 K (tput (gZ G) B T x9.2.2) 20 [some (.ref (T 100)), some (.int x9.1), some (.int x9.2.1)] []
def t_X3_changed_l48 (s : tS) (v1 : Int32) : Option (Int32 × tS) :=
  (tpf 5 s ((s.1 5) - 1)).bind fun s12 =>
  t_X3_changed_l58 s12 v1
theorem k_X3_changed_l48 {G : aG} {h0 B : aH} {T : Nat → Nat} {K : aRes → aH → Prop} (ht : tOk (gZ G) T) {s : tS} {v1 : Int32} {e : (Int32 × tS)} (hT : t_X3_changed_l48 s v1 = some e) (he : (fun e => aTo (aEI e.1 (tput (gZ G) B T e.2)) K) e) : aW G M_X3_changed 1 1 h0 K (tput (gZ G) B T s) 48 [some (.ref (T 100)), some (.int v1), none] [] := by
  unfold t_X3_changed_l48 at hT
  refine a_aload_n dX3_changed_48 rfl ?_
  refine a_dup dX3_changed_49 rfl ?_
  refine a_gI fl_X3_54_2 (tw_gI ht 5 (by decide)) dX3_changed_50 ?_
  refine a_iconst (v := 1) dX3_changed_53 (by decide) ?_
  refine a_isub dX3_changed_54 ?_
  obtain ⟨s12, e11, hT⟩ := obnd hT
  refine a_put (fp_X3_54_2 _) ⟨rfl, rfl⟩ (tw_pf ht 5 (by decide) e11) dX3_changed_55 ?_
  exact k_X3_changed_l58 ht hT he
def t_X3_changed_b20 : (Int32 × Int32 × tS) → Option ((Int32 × Int32 × tS) ⊕ (Int32 × tS)) := fun (v1, v2, s) =>
  if 602 ≤ v2 then
    (t_X3_changed_l48 s v1).map .inr
  else
    (tld 4 s (v2 + 86)).bind fun z14 =>
    (tst 4 s v2 z14).bind fun s16 =>
    some (.inl (v1, (v2 + 1), s16))
theorem kb_X3_changed_b20 {G : aG} {h0 B : aH} {T : Nat → Nat} {K : aRes → aH → Prop} (ht : tOk (gZ G) T) : ∀ (x9 : (Int32 × Int32 × tS)) (e : ((Int32 × Int32 × tS) ⊕ (Int32 × tS))), t_X3_changed_b20 x9 = some e → (Sum.elim (p_X3_changed_b20 G h0 K B T) (fun e => aTo (aEI e.1 (tput (gZ G) B T e.2)) K)) e → p_X3_changed_b20 G h0 K B T x9 := by
  intro x9 e hT he
  obtain ⟨v1, v2, s⟩ := x9
  unfold p_X3_changed_b20
  unfold t_X3_changed_b20 at hT
  show aW G M_X3_changed 1 1 h0 K (tput (gZ G) B T s) 20 [some (.ref (T 100)), some (.int v1), some (.int v2)] []
  dsimp only at hT
  refine a_iload_n dX3_changed_20 rfl ?_
  refine a_sipush (v := 602) dX3_changed_21 (by decide) ?_
  refine a_icmp_ge 48 dX3_changed_24 rfl (fun c10 => ?_) (fun c10 => ?_)
  · have hT := oifp c10 hT
    refine a_mask [true, true, false] ?_
    obtain ⟨e8, hT8, rfl⟩ := omap hT
    exact k_X3_changed_l48 ht hT8 he
  · have hT := oifn c10 hT
    refine a_aload_n dX3_changed_27 rfl ?_
    refine a_gA fl_X3_19_2 (tw_gA ht 4 (by decide)) dX3_changed_28 ?_
    refine a_iload_n dX3_changed_31 rfl ?_
    refine a_aload_n dX3_changed_32 rfl ?_
    refine a_gA fl_X3_19_2 (tw_gA ht 4 (by decide)) dX3_changed_33 ?_
    refine a_iload_n dX3_changed_36 rfl ?_
    refine a_bipush (v := 86) dX3_changed_37 (by decide) ?_
    refine a_iadd dX3_changed_39 ?_
    obtain ⟨z14, e13, hT⟩ := obnd hT
    refine a_ldI (tw_ld ht 4 (by decide) e13) dX3_changed_40 ?_
    obtain ⟨s16, e15, hT⟩ := obnd hT
    refine a_stI (tw_st ht 4 (by decide) e15) dX3_changed_41 ?_
    refine a_iinc (v := (v2 + 1)) (lv' := [some (.ref (T 100)), some (.int v1), some (.int (v2 + 1))]) dX3_changed_42 rfl (by rfl) rfl (by decide) rfl ?_
    refine a_goto 20 dX3_changed_45 rfl ?_
    cases hT
    exact he
theorem k_X3_changed_b20 {G : aG} {h0 B : aH} {T : Nat → Nat} {K : aRes → aH → Prop} (ht : tOk (gZ G) T) {n9 : Nat} {x9 : (Int32 × Int32 × tS)} {e : (Int32 × tS)} (hT : wlo t_X3_changed_b20 n9 x9 = some e) (he : (fun e => aTo (aEI e.1 (tput (gZ G) B T e.2)) K) e) : p_X3_changed_b20 G h0 K B T x9 := wlo_W (kb_X3_changed_b20 ht) n9 x9 e hT he
def t_X3_changed (s : tS) (x0 : Int32) : Option (Int32 × tS) :=
  if (s.1 12) ≤ 0 then
    if (s.1 5) = 8 then
      wlo t_X3_changed_b20 700 (x0, 0, s)
    else
      t_X3_changed_l58 s x0
  else
    some (x0, s)
theorem k_X3_changed {G : aG} {B : aH} {T : Nat → Nat} (ht : tOk (gZ G) T) {s : tS} {x0 : Int32} {e : (Int32 × tS)} (hT : t_X3_changed s x0 = some e) : aMet G yX3_changed (ws_ yX3_changed cX3_changed 3 (Option.some Jvm.ClassFile.FieldType.int)) 1 1 [.ref (T 100), .int x0] (tput (gZ G) B T s) (aEI e.1 (tput (gZ G) B T e.2)) := by
  refine aMet.of (lv := [some (.ref (T 100)), some (.int x0), none]) (by decide) (Nat.le_of_ble_eq_true rfl) 1 rfl ?_
  have he : aTo (aEI e.1 (tput (gZ G) B T e.2)) (aEI e.1 (tput (gZ G) B T e.2)) := aTo.rf
  unfold t_X3_changed at hT
  refine a_aload_n dX3_changed_0 rfl ?_
  refine a_gI fl_X3_38_2 (tw_gI ht 12 (by decide)) dX3_changed_1 ?_
  refine a_if_le 9 dX3_changed_4 rfl (fun c1 => ?_) (fun c1 => ?_)
  · have hT := oifp c1 hT
    refine a_aload_n dX3_changed_9 rfl ?_
    refine a_gI fl_X3_54_2 (tw_gI ht 5 (by decide)) dX3_changed_10 ?_
    refine a_bipush (v := 8) dX3_changed_13 (by decide) ?_
    refine a_icmp_ne 58 dX3_changed_15 rfl (fun c2 => ?_) (fun c2 => ?_)
    · have hT := oifn c2 hT
      exact k_X3_changed_l58 ht hT he
    · have hT := oifp c2 hT
      refine a_iconst (v := 0) dX3_changed_18 (by decide) ?_
      refine a_istore_n (lv' := [some (.ref (T 100)), some (.int x0), some (.int 0)]) dX3_changed_19 rfl (by decide) rfl ?_
      exact k_X3_changed_b20 ht hT he
  · have hT := oifn c1 hT
    refine a_iload_n dX3_changed_7 rfl ?_
    cases hT
    exact a_iret rfl rfl dX3_changed_8 (he _ _ ⟨rfl, rfl⟩)
abbrev M_X3_isGapAt : aM := (yX3_isGapAt.cls, cX3_isGapAt, 2, (Option.some Jvm.ClassFile.FieldType.boolean), [], yX3_isGapAt.name)
def t_X3_isGapAt (s : tS) (x0 : Int32) : Option (Int32 × tS) :=
  if x0 = (-1) then
    some (0, s)
  else
    (tld 0 s x0).bind fun z3 =>
    if 5 ≤ z3 then
      some (0, s)
    else
      some (1, s)
theorem k_X3_isGapAt {G : aG} {B : aH} {T : Nat → Nat} (ht : tOk (gZ G) T) {s : tS} {x0 : Int32} {e : (Int32 × tS)} (hT : t_X3_isGapAt s x0 = some e) : aMet G yX3_isGapAt (ws_ yX3_isGapAt cX3_isGapAt 2 (Option.some Jvm.ClassFile.FieldType.boolean)) 1 1 [.ref (T 100), .int x0] (tput (gZ G) B T s) (aEI e.1 (tput (gZ G) B T e.2)) := by
  refine aMet.of (lv := [some (.ref (T 100)), some (.int x0)]) (by decide) (Nat.le_of_ble_eq_true rfl) 0 rfl ?_
  have he : aTo (aEI e.1 (tput (gZ G) B T e.2)) (aEI e.1 (tput (gZ G) B T e.2)) := aTo.rf
  unfold t_X3_isGapAt at hT
  refine a_iload_n dX3_isGapAt_0 rfl ?_
  refine a_iconst (v := (-1)) dX3_isGapAt_1 (by decide) ?_
  refine a_icmp_eq 19 dX3_isGapAt_2 rfl (fun c1 => ?_) (fun c1 => ?_)
  · have hT := oifp c1 hT
    refine a_iconst (v := 0) dX3_isGapAt_19 (by decide) ?_
    cases hT
    exact a_iret rfl (by decide) dX3_isGapAt_20 (he _ _ ⟨rfl, rfl⟩)
  · have hT := oifn c1 hT
    refine a_aload_n dX3_isGapAt_5 rfl ?_
    refine a_gA fl_X3_9_2 (tw_gA ht 0 (by decide)) dX3_isGapAt_6 ?_
    refine a_iload_n dX3_isGapAt_9 rfl ?_
    obtain ⟨z3, e2, hT⟩ := obnd hT
    refine a_ldI (tw_ld ht 0 (by decide) e2) dX3_isGapAt_10 ?_
    refine a_iconst (v := 5) dX3_isGapAt_11 (by decide) ?_
    refine a_icmp_ge 19 dX3_isGapAt_12 rfl (fun c4 => ?_) (fun c4 => ?_)
    · have hT := oifp c4 hT
      refine a_iconst (v := 0) dX3_isGapAt_19 (by decide) ?_
      cases hT
      exact a_iret rfl (by decide) dX3_isGapAt_20 (he _ _ ⟨rfl, rfl⟩)
    · have hT := oifn c4 hT
      refine a_iconst (v := 1) dX3_isGapAt_15 (by decide) ?_
      refine a_goto 20 dX3_isGapAt_16 rfl ?_
      cases hT
      exact a_iret rfl (by decide) dX3_isGapAt_20 (he _ _ ⟨rfl, rfl⟩)
abbrev M_X3_isGardener : aM := (yX3_isGardener.cls, cX3_isGardener, 2, (Option.some Jvm.ClassFile.FieldType.boolean), [], yX3_isGardener.name)
def t_X3_isGardener (s : tS) (x0 : Int32) : Option (Int32 × tS) :=
  (tld 0 s 0).bind fun z2 =>
  (t_X3_in ((x0 : Int32).toInt64) 0 (((z2 - 1) : Int32).toInt64)).bind fun r5 =>
  if r5 = 0 ∨ r5 = 1 then some (r5, s) else none
theorem k_X3_isGardener {G : aG} {B : aH} {T : Nat → Nat} (ht : tOk (gZ G) T) {s : tS} {x0 : Int32} {e : (Int32 × tS)} (hT : t_X3_isGardener s x0 = some e) : aMet G yX3_isGardener (ws_ yX3_isGardener cX3_isGardener 2 (Option.some Jvm.ClassFile.FieldType.boolean)) 2 26 [.ref (T 100), .int x0] (tput (gZ G) B T s) (aEI e.1 (tput (gZ G) B T e.2)) := by
  refine aMet.of (lv := [some (.ref (T 100)), some (.int x0)]) (by decide) (Nat.le_of_ble_eq_true rfl) 0 rfl ?_
  have he : aTo (aEI e.1 (tput (gZ G) B T e.2)) (aEI e.1 (tput (gZ G) B T e.2)) := aTo.rf
  unfold t_X3_isGardener at hT
  refine a_iload_n dX3_isGardener_0 rfl ?_
  refine a_i2l dX3_isGardener_1 ?_
  refine a_lconst (v := 0) dX3_isGardener_2 (by decide) ?_
  refine a_aload_n dX3_isGardener_3 rfl ?_
  refine a_gA fl_X3_9_2 (tw_gA ht 0 (by decide)) dX3_isGardener_4 ?_
  refine a_iconst (v := 0) dX3_isGardener_7 (by decide) ?_
  obtain ⟨z2, e1, hT⟩ := obnd hT
  refine a_ldI (tw_ld ht 0 (by decide) e1) dX3_isGardener_8 ?_
  refine a_iconst (v := 1) dX3_isGardener_9 (by decide) ?_
  refine a_isub dX3_isGardener_10 ?_
  refine a_i2l dX3_isGardener_11 ?_
  obtain ⟨r5, e6, hT⟩ := obnd hT
  refine a_callS ks_X3_59 (k_X3_in e6) ⟨Nat.le_of_ble_eq_true rfl, Nat.le_of_ble_eq_true rfl⟩ (As := [.long ((x0 : Int32).toInt64), .long 0, .long (((z2 - 1) : Int32).toInt64)]) (rest := []) rfl rfl (Nat.le_of_ble_eq_true rfl) dX3_isGardener_12 (kI ?_) xI
  obtain ⟨g9, hT⟩ := oifg hT
  cases hT
  exact a_iret rfl (nZ g9) dX3_isGardener_15 (he _ _ ⟨rfl, rfl⟩)
abbrev M_X3_gardenerAt : aM := (yX3_gardenerAt.cls, cX3_gardenerAt, 1, (Option.some Jvm.ClassFile.FieldType.int), [], yX3_gardenerAt.name)
def t_X3_gardenerAt (x0 : Int32) : Option Int32 :=
  some (30 + (4 * x0))
theorem k_X3_gardenerAt {G : aG} {h : aH} {x0 : Int32} {e : Int32} (hT : t_X3_gardenerAt x0 = some e) : aMet G yX3_gardenerAt (ws_ yX3_gardenerAt cX3_gardenerAt 1 (Option.some Jvm.ClassFile.FieldType.int)) 1 1 [.int x0] h (aEI e h) := by
  refine aMet.of (lv := [some (.int x0)]) (by decide) (Nat.le_of_ble_eq_true rfl) 0 rfl ?_
  have he : aTo (aEI e h) (aEI e h) := aTo.rf
  unfold t_X3_gardenerAt at hT
  refine a_bipush (v := 30) dX3_gardenerAt_0 (by decide) ?_
  refine a_iconst (v := 4) dX3_gardenerAt_2 (by decide) ?_
  refine a_iload_n dX3_gardenerAt_3 rfl ?_
  refine a_imul dX3_gardenerAt_4 ?_
  refine a_iadd dX3_gardenerAt_5 ?_
  cases hT
  exact a_iret rfl rfl dX3_gardenerAt_6 (he _ _ ⟨rfl, rfl⟩)
abbrev M_X3_visitorAt : aM := (yX3_visitorAt.cls, cX3_visitorAt, 1, (Option.some Jvm.ClassFile.FieldType.int), [], yX3_visitorAt.name)
def t_X3_visitorAt (x0 : Int32) : Option Int32 :=
  some (46 + (8 * x0))
theorem k_X3_visitorAt {G : aG} {h : aH} {x0 : Int32} {e : Int32} (hT : t_X3_visitorAt x0 = some e) : aMet G yX3_visitorAt (ws_ yX3_visitorAt cX3_visitorAt 1 (Option.some Jvm.ClassFile.FieldType.int)) 1 1 [.int x0] h (aEI e h) := by
  refine aMet.of (lv := [some (.int x0)]) (by decide) (Nat.le_of_ble_eq_true rfl) 0 rfl ?_
  have he : aTo (aEI e h) (aEI e h) := aTo.rf
  unfold t_X3_visitorAt at hT
  refine a_bipush (v := 46) dX3_visitorAt_0 (by decide) ?_
  refine a_bipush (v := 8) dX3_visitorAt_2 (by decide) ?_
  refine a_iload_n dX3_visitorAt_4 rfl ?_
  refine a_imul dX3_visitorAt_5 ?_
  refine a_iadd dX3_visitorAt_6 ?_
  cases hT
  exact a_iret rfl rfl dX3_visitorAt_7 (he _ _ ⟨rfl, rfl⟩)
abbrev M_X3_nextTo : aM := (yX3_nextTo.cls, cX3_nextTo, 4, (Option.some Jvm.ClassFile.FieldType.int), [], yX3_nextTo.name)
def t_X3_nextTo_l45 (v2 : Int32) (u0 : Int32) (u1 : Int32) : Option Int32 :=
  (t_X3_in ((v2 : Int32).toInt64) 0 3).bind fun r7 =>
  if r7 = 0 then
    some (-1)
  else
    (t_X3_in (((u1 + u0) : Int32).toInt64) 0 3).bind fun r12 =>
    if r12 = 0 then
      some (-1)
    else
      some ((4 * v2) + (u1 + u0))
theorem k_X3_nextTo_l45 {G : aG} {h0 : aH} {K : aRes → aH → Prop} {h : aH} {v2 : Int32} {u0 : Int32} {u1 : Int32} {e : Int32} (hT : t_X3_nextTo_l45 v2 u0 u1 = some e) (he : (fun e => aTo (aEI e h) K) e) : aW G M_X3_nextTo 2 26 h0 K h 45 [none, none, some (.int v2), none] [.int u0, .int u1] := by
  unfold t_X3_nextTo_l45 at hT
  refine a_iadd dX3_nextTo_45 ?_
  refine a_istore_n (lv' := [none, none, some (.int v2), some (.int (u1 + u0))]) dX3_nextTo_46 rfl (by decide) rfl ?_
  refine a_iload_n dX3_nextTo_47 rfl ?_
  refine a_i2l dX3_nextTo_48 ?_
  refine a_lconst (v := 0) dX3_nextTo_49 (by decide) ?_
  refine a_ldc2 q1887 dX3_nextTo_50 ?_
  obtain ⟨r7, e8, hT⟩ := obnd hT
  refine a_callS ks_X3_59 (k_X3_in e8) ⟨Nat.le_of_ble_eq_true rfl, Nat.le_of_ble_eq_true rfl⟩ (As := [.long ((v2 : Int32).toInt64), .long 0, .long 3]) (rest := []) rfl rfl (Nat.le_of_ble_eq_true rfl) dX3_nextTo_53 (kI ?_) xI
  refine a_if_eq 79 dX3_nextTo_56 rfl (fun c9 => ?_) (fun c9 => ?_)
  · have hT := oifp c9 hT
    refine a_iconst (v := (-1)) dX3_nextTo_79 (by decide) ?_
    cases hT
    exact a_iret rfl rfl dX3_nextTo_80 (he _ _ ⟨rfl, rfl⟩)
  · have hT := oifn c9 hT
    refine a_iload_n dX3_nextTo_59 rfl ?_
    refine a_i2l dX3_nextTo_60 ?_
    refine a_lconst (v := 0) dX3_nextTo_61 (by decide) ?_
    refine a_ldc2 q1887 dX3_nextTo_62 ?_
    obtain ⟨r12, e13, hT⟩ := obnd hT
    refine a_callS ks_X3_59 (k_X3_in e13) ⟨Nat.le_of_ble_eq_true rfl, Nat.le_of_ble_eq_true rfl⟩ (As := [.long (((u1 + u0) : Int32).toInt64), .long 0, .long 3]) (rest := []) rfl rfl (Nat.le_of_ble_eq_true rfl) dX3_nextTo_65 (kI ?_) xI
    refine a_if_eq 79 dX3_nextTo_68 rfl (fun c14 => ?_) (fun c14 => ?_)
    · have hT := oifp c14 hT
      refine a_iconst (v := (-1)) dX3_nextTo_79 (by decide) ?_
      cases hT
      exact a_iret rfl rfl dX3_nextTo_80 (he _ _ ⟨rfl, rfl⟩)
    · have hT := oifn c14 hT
      refine a_iconst (v := 4) dX3_nextTo_71 (by decide) ?_
      refine a_iload_n dX3_nextTo_72 rfl ?_
      refine a_imul dX3_nextTo_73 ?_
      refine a_iload_n dX3_nextTo_74 rfl ?_
      refine a_iadd dX3_nextTo_75 ?_
      refine a_goto 80 dX3_nextTo_76 rfl ?_
      cases hT
      exact a_iret rfl rfl dX3_nextTo_80 (he _ _ ⟨rfl, rfl⟩)
def t_X3_nextTo_l21 (v0 : Int32) (v1 : Int32) (u0 : Int32) (u1 : Int32) : Option Int32 :=
  if v1 = 1 then
    t_X3_nextTo_l45 (u1 + u0) 1 (v0 - v0 / 4 * 4)
  else
    if v1 = 3 then
      t_X3_nextTo_l45 (u1 + u0) (-1) (v0 - v0 / 4 * 4)
    else
      t_X3_nextTo_l45 (u1 + u0) 0 (v0 - v0 / 4 * 4)
theorem k_X3_nextTo_l21 {G : aG} {h0 : aH} {K : aRes → aH → Prop} {h : aH} {v0 : Int32} {v1 : Int32} {u0 : Int32} {u1 : Int32} {e : Int32} (hT : t_X3_nextTo_l21 v0 v1 u0 u1 = some e) (he : (fun e => aTo (aEI e h) K) e) : aW G M_X3_nextTo 2 26 h0 K h 21 [some (.int v0), some (.int v1), none, none] [.int u0, .int u1] := by
  unfold t_X3_nextTo_l21 at hT
  refine a_iadd dX3_nextTo_21 ?_
  refine a_istore_n (lv' := [some (.int v0), some (.int v1), some (.int (u1 + u0)), none]) dX3_nextTo_22 rfl (by decide) rfl ?_
  refine a_iload_n dX3_nextTo_23 rfl ?_
  refine a_iconst (v := 4) dX3_nextTo_24 (by decide) ?_
  refine a_irem dX3_nextTo_25 (by decide) ?_
  refine a_iload_n dX3_nextTo_26 rfl ?_
  refine a_iconst (v := 1) dX3_nextTo_27 (by decide) ?_
  refine a_icmp_ne 35 dX3_nextTo_28 rfl (fun c3 => ?_) (fun c3 => ?_)
  · have hT := oifn c3 hT
    refine a_iload_n dX3_nextTo_35 rfl ?_
    refine a_iconst (v := 3) dX3_nextTo_36 (by decide) ?_
    refine a_icmp_ne 44 dX3_nextTo_37 rfl (fun c4 => ?_) (fun c4 => ?_)
    · have hT := oifn c4 hT
      refine a_iconst (v := 0) dX3_nextTo_44 (by decide) ?_
      refine a_mask [false, false, true, true] ?_
      exact k_X3_nextTo_l45 hT he
    · have hT := oifp c4 hT
      refine a_iconst (v := (-1)) dX3_nextTo_40 (by decide) ?_
      refine a_goto 45 dX3_nextTo_41 rfl ?_
      refine a_mask [false, false, true, true] ?_
      exact k_X3_nextTo_l45 hT he
  · have hT := oifp c3 hT
    refine a_iconst (v := 1) dX3_nextTo_31 (by decide) ?_
    refine a_goto 45 dX3_nextTo_32 rfl ?_
    refine a_mask [false, false, true, true] ?_
    exact k_X3_nextTo_l45 hT he
def t_X3_nextTo (x0 : Int32) (x1 : Int32) : Option Int32 :=
  if x1 = 0 then
    t_X3_nextTo_l21 x0 x1 (-1) (x0 / 4)
  else
    if x1 = 2 then
      t_X3_nextTo_l21 x0 x1 1 (x0 / 4)
    else
      t_X3_nextTo_l21 x0 x1 0 (x0 / 4)
theorem k_X3_nextTo {G : aG} {h : aH} {x0 : Int32} {x1 : Int32} {e : Int32} (hT : t_X3_nextTo x0 x1 = some e) : aMet G yX3_nextTo (ws_ yX3_nextTo cX3_nextTo 4 (Option.some Jvm.ClassFile.FieldType.int)) 2 26 [.int x0, .int x1] h (aEI e h) := by
  refine aMet.of (lv := [some (.int x0), some (.int x1), none, none]) (by decide) (Nat.le_of_ble_eq_true rfl) 2 rfl ?_
  have he : aTo (aEI e h) (aEI e h) := aTo.rf
  unfold t_X3_nextTo at hT
  refine a_iload_n dX3_nextTo_0 rfl ?_
  refine a_iconst (v := 4) dX3_nextTo_1 (by decide) ?_
  refine a_idiv dX3_nextTo_2 (by decide) ?_
  refine a_iload_n dX3_nextTo_3 rfl ?_
  refine a_if_ne 11 dX3_nextTo_4 rfl (fun c1 => ?_) (fun c1 => ?_)
  · have hT := oifn c1 hT
    refine a_iload_n dX3_nextTo_11 rfl ?_
    refine a_iconst (v := 2) dX3_nextTo_12 (by decide) ?_
    refine a_icmp_ne 20 dX3_nextTo_13 rfl (fun c2 => ?_) (fun c2 => ?_)
    · have hT := oifn c2 hT
      refine a_iconst (v := 0) dX3_nextTo_20 (by decide) ?_
      exact k_X3_nextTo_l21 hT he
    · have hT := oifp c2 hT
      refine a_iconst (v := 1) dX3_nextTo_16 (by decide) ?_
      refine a_goto 21 dX3_nextTo_17 rfl ?_
      exact k_X3_nextTo_l21 hT he
  · have hT := oifp c1 hT
    refine a_iconst (v := (-1)) dX3_nextTo_7 (by decide) ?_
    refine a_goto 21 dX3_nextTo_8 rfl ?_
    exact k_X3_nextTo_l21 hT he
abbrev M_X3_ones : aM := (yX3_ones.cls, cX3_ones, 3, (Option.some Jvm.ClassFile.FieldType.int), [], yX3_ones.name)
def p_X3_ones_b4 (G : aG) (h0 : aH) (K : aRes → aH → Prop) (h : aH) (x9 : (Int32 × Int32 × Int32)) : Prop := aW G M_X3_ones 1 1 h0 K h 4 [some (.int x9.1), some (.int x9.2.1), some (.int x9.2.2)] []
def t_X3_ones_b4 : (Int32 × Int32 × Int32) → Option ((Int32 × Int32 × Int32) ⊕ Int32) := fun (v0, v1, v2) =>
  if 16 ≤ v2 then
    some (.inr (v1))
  else
    some (.inl (v0, (v1 + ((v0 >>> (v2 &&& 31)) &&& 1)), (v2 + 1)))
theorem kb_X3_ones_b4 {G : aG} {h0 : aH} {K : aRes → aH → Prop} {h : aH} : ∀ (x9 : (Int32 × Int32 × Int32)) (e : ((Int32 × Int32 × Int32) ⊕ Int32)), t_X3_ones_b4 x9 = some e → (Sum.elim (p_X3_ones_b4 G h0 K h) (fun e => aTo (aEI e h) K)) e → p_X3_ones_b4 G h0 K h x9 := by
  intro x9 e hT he
  obtain ⟨v0, v1, v2⟩ := x9
  unfold p_X3_ones_b4
  unfold t_X3_ones_b4 at hT
  show aW G M_X3_ones 1 1 h0 K h 4 [some (.int v0), some (.int v1), some (.int v2)] []
  dsimp only at hT
  refine a_iload_n dX3_ones_4 rfl ?_
  refine a_bipush (v := 16) dX3_ones_5 (by decide) ?_
  refine a_icmp_ge 24 dX3_ones_7 rfl (fun c1 => ?_) (fun c1 => ?_)
  · have hT := oifp c1 hT
    refine a_iload_n dX3_ones_24 rfl ?_
    cases hT
    exact a_iret rfl rfl dX3_ones_25 (he _ _ ⟨rfl, rfl⟩)
  · have hT := oifn c1 hT
    refine a_iload_n dX3_ones_10 rfl ?_
    refine a_iload_n dX3_ones_11 rfl ?_
    refine a_iload_n dX3_ones_12 rfl ?_
    refine a_ishr dX3_ones_13 ?_
    refine a_iconst (v := 1) dX3_ones_14 (by decide) ?_
    refine a_iand dX3_ones_15 ?_
    refine a_iadd dX3_ones_16 ?_
    refine a_istore_n (lv' := [some (.int v0), some (.int (v1 + ((v0 >>> (v2 &&& 31)) &&& 1))), some (.int v2)]) dX3_ones_17 rfl (by decide) rfl ?_
    refine a_iinc (v := (v2 + 1)) (lv' := [some (.int v0), some (.int (v1 + ((v0 >>> (v2 &&& 31)) &&& 1))), some (.int (v2 + 1))]) dX3_ones_18 rfl (by rfl) rfl (by decide) rfl ?_
    refine a_goto 4 dX3_ones_21 rfl ?_
    cases hT
    exact he
theorem k_X3_ones_b4 {G : aG} {h0 : aH} {K : aRes → aH → Prop} {h : aH} {n9 : Nat} {x9 : (Int32 × Int32 × Int32)} {e : Int32} (hT : wlo t_X3_ones_b4 n9 x9 = some e) (he : (fun e => aTo (aEI e h) K) e) : p_X3_ones_b4 G h0 K h x9 := wlo_W kb_X3_ones_b4 n9 x9 e hT he
def t_X3_ones (x0 : Int32) : Option Int32 :=
  wlo t_X3_ones_b4 300 (x0, 0, 0)
theorem k_X3_ones {G : aG} {h : aH} {x0 : Int32} {e : Int32} (hT : t_X3_ones x0 = some e) : aMet G yX3_ones (ws_ yX3_ones cX3_ones 3 (Option.some Jvm.ClassFile.FieldType.int)) 1 1 [.int x0] h (aEI e h) := by
  refine aMet.of (lv := [some (.int x0), none, none]) (by decide) (Nat.le_of_ble_eq_true rfl) 2 rfl ?_
  have he : aTo (aEI e h) (aEI e h) := aTo.rf
  unfold t_X3_ones at hT
  refine a_iconst (v := 0) dX3_ones_0 (by decide) ?_
  refine a_istore_n (lv' := [some (.int x0), some (.int 0), none]) dX3_ones_1 rfl (by decide) rfl ?_
  refine a_iconst (v := 0) dX3_ones_2 (by decide) ?_
  refine a_istore_n (lv' := [some (.int x0), some (.int 0), some (.int 0)]) dX3_ones_3 rfl (by decide) rfl ?_
  exact k_X3_ones_b4 hT he
abbrev M_X3_isVisitor : aM := (yX3_isVisitor.cls, cX3_isVisitor, 2, (Option.some Jvm.ClassFile.FieldType.boolean), [], yX3_isVisitor.name)
def t_X3_isVisitor (s : tS) (x0 : Int32) : Option (Int32 × tS) :=
  (tld 0 s 1).bind fun z2 =>
  (t_X3_in ((x0 : Int32).toInt64) 0 (((z2 - 1) : Int32).toInt64)).bind fun r5 =>
  if r5 = 0 ∨ r5 = 1 then some (r5, s) else none
theorem k_X3_isVisitor {G : aG} {B : aH} {T : Nat → Nat} (ht : tOk (gZ G) T) {s : tS} {x0 : Int32} {e : (Int32 × tS)} (hT : t_X3_isVisitor s x0 = some e) : aMet G yX3_isVisitor (ws_ yX3_isVisitor cX3_isVisitor 2 (Option.some Jvm.ClassFile.FieldType.boolean)) 2 26 [.ref (T 100), .int x0] (tput (gZ G) B T s) (aEI e.1 (tput (gZ G) B T e.2)) := by
  refine aMet.of (lv := [some (.ref (T 100)), some (.int x0)]) (by decide) (Nat.le_of_ble_eq_true rfl) 0 rfl ?_
  have he : aTo (aEI e.1 (tput (gZ G) B T e.2)) (aEI e.1 (tput (gZ G) B T e.2)) := aTo.rf
  unfold t_X3_isVisitor at hT
  refine a_iload_n dX3_isVisitor_0 rfl ?_
  refine a_i2l dX3_isVisitor_1 ?_
  refine a_lconst (v := 0) dX3_isVisitor_2 (by decide) ?_
  refine a_aload_n dX3_isVisitor_3 rfl ?_
  refine a_gA fl_X3_9_2 (tw_gA ht 0 (by decide)) dX3_isVisitor_4 ?_
  refine a_iconst (v := 1) dX3_isVisitor_7 (by decide) ?_
  obtain ⟨z2, e1, hT⟩ := obnd hT
  refine a_ldI (tw_ld ht 0 (by decide) e1) dX3_isVisitor_8 ?_
  refine a_iconst (v := 1) dX3_isVisitor_9 (by decide) ?_
  refine a_isub dX3_isVisitor_10 ?_
  refine a_i2l dX3_isVisitor_11 ?_
  obtain ⟨r5, e6, hT⟩ := obnd hT
  refine a_callS ks_X3_59 (k_X3_in e6) ⟨Nat.le_of_ble_eq_true rfl, Nat.le_of_ble_eq_true rfl⟩ (As := [.long ((x0 : Int32).toInt64), .long 0, .long (((z2 - 1) : Int32).toInt64)]) (rest := []) rfl rfl (Nat.le_of_ble_eq_true rfl) dX3_isVisitor_12 (kI ?_) xI
  obtain ⟨g9, hT⟩ := oifg hT
  cases hT
  exact a_iret rfl (nZ g9) dX3_isVisitor_15 (he _ _ ⟨rfl, rfl⟩)
theorem ks_X3_126 : aKS "MazeBondsModel" 126 yX3_visitorAt cX3_visitorAt 1 (Option.some Jvm.ClassFile.FieldType.int) 1 := ⟨Or.inl q1856, q1857, q81, q1858, ⟨by decide +kernel, by decide +kernel, by decide +kernel⟩⟩
abbrev M_X3_lostOf : aM := (yX3_lostOf.cls, cX3_lostOf, 3, (Option.some Jvm.ClassFile.FieldType.int), [], yX3_lostOf.name)
def t_X3_lostOf (s : tS) (x0 : Int32) : Option (Int32 × tS) :=
  (t_X3_visitorAt x0).bind fun r3 =>
  (tld 0 s (r3 + 2)).bind fun z6 =>
  (tld 0 s (r3 + 3)).bind fun z8 =>
  some ((jmax 0 (z6 - z8)), s)
theorem k_X3_lostOf {G : aG} {B : aH} {T : Nat → Nat} (ht : tOk (gZ G) T) {s : tS} {x0 : Int32} {e : (Int32 × tS)} (hT : t_X3_lostOf s x0 = some e) : aMet G yX3_lostOf (ws_ yX3_lostOf cX3_lostOf 3 (Option.some Jvm.ClassFile.FieldType.int)) 2 40 [.ref (T 100), .int x0] (tput (gZ G) B T s) (aEI e.1 (tput (gZ G) B T e.2)) := by
  refine aMet.of (lv := [some (.ref (T 100)), some (.int x0), none]) (by decide) (Nat.le_of_ble_eq_true rfl) 1 rfl ?_
  have he : aTo (aEI e.1 (tput (gZ G) B T e.2)) (aEI e.1 (tput (gZ G) B T e.2)) := aTo.rf
  unfold t_X3_lostOf at hT
  refine a_iload_n dX3_lostOf_0 rfl ?_
  obtain ⟨r3, e4, hT⟩ := obnd hT
  refine a_callS ks_X3_126 (k_X3_visitorAt e4) ⟨Nat.le_of_ble_eq_true rfl, Nat.le_of_ble_eq_true rfl⟩ (As := [.int x0]) (rest := []) rfl rfl (Nat.le_of_ble_eq_true rfl) dX3_lostOf_1 (kI ?_) xI
  refine a_istore_n (lv' := [some (.ref (T 100)), some (.int x0), some (.int r3)]) dX3_lostOf_4 rfl (by decide) rfl ?_
  refine a_iconst (v := 0) dX3_lostOf_5 (by decide) ?_
  refine a_aload_n dX3_lostOf_6 rfl ?_
  refine a_gA fl_X3_9_2 (tw_gA ht 0 (by decide)) dX3_lostOf_7 ?_
  refine a_iload_n dX3_lostOf_10 rfl ?_
  refine a_iconst (v := 2) dX3_lostOf_11 (by decide) ?_
  refine a_iadd dX3_lostOf_12 ?_
  obtain ⟨z6, e5, hT⟩ := obnd hT
  refine a_ldI (tw_ld ht 0 (by decide) e5) dX3_lostOf_13 ?_
  refine a_aload_n dX3_lostOf_14 rfl ?_
  refine a_gA fl_X3_9_2 (tw_gA ht 0 (by decide)) dX3_lostOf_15 ?_
  refine a_iload_n dX3_lostOf_18 rfl ?_
  refine a_iconst (v := 3) dX3_lostOf_19 (by decide) ?_
  refine a_iadd dX3_lostOf_20 ?_
  obtain ⟨z8, e7, hT⟩ := obnd hT
  refine a_ldI (tw_ld ht 0 (by decide) e7) dX3_lostOf_21 ?_
  refine a_isub dX3_lostOf_22 ?_
  refine a_mmax q1807 q441 q90 q442 (by decide) (Nat.le_of_ble_eq_true rfl) dX3_lostOf_23 ?_
  cases hT
  exact a_iret rfl rfl dX3_lostOf_26 (he _ _ ⟨rfl, rfl⟩)
theorem ks_X3_120 : aKS "MazeBondsModel" 120 yX3_gardenerAt cX3_gardenerAt 1 (Option.some Jvm.ClassFile.FieldType.int) 1 := ⟨Or.inl q1840, q1841, q81, q1842, ⟨by decide +kernel, by decide +kernel, by decide +kernel⟩⟩
abbrev M_X3_pays : aM := (yX3_pays.cls, cX3_pays, 5, (Option.some Jvm.ClassFile.FieldType.int), [], yX3_pays.name)
def t_X3_pays_l35 (s : tS) (v2 : Int32) (v3 : Int32) (u0 : Int32) : Option (Int32 × tS) :=
  if u0 = 0 then
    (tld 0 s (v3 + 5)).bind fun z10 =>
    (tld 0 s (v3 + 4)).bind fun z12 =>
    (t_X3_gardenerAt z12).bind fun r15 =>
    (tld 0 s r15).bind fun z18 =>
    some ((jmin (z10 * v2) z18), s)
  else
    some (0, s)
theorem k_X3_pays_l35 {G : aG} {h0 B : aH} {T : Nat → Nat} {K : aRes → aH → Prop} (ht : tOk (gZ G) T) {s : tS} {v2 : Int32} {v3 : Int32} {u0 : Int32} {e : (Int32 × tS)} (hT : t_X3_pays_l35 s v2 v3 u0 = some e) (he : (fun e => aTo (aEI e.1 (tput (gZ G) B T e.2)) K) e) : aW G M_X3_pays 2 40 h0 K (tput (gZ G) B T s) 35 [some (.ref (T 100)), none, some (.int v2), some (.int v3), none] [.int u0] := by
  unfold t_X3_pays_l35 at hT
  refine a_istore (lv' := [some (.ref (T 100)), none, some (.int v2), some (.int v3), some (.int u0)]) dX3_pays_35 rfl (by decide) rfl ?_
  refine a_iload dX3_pays_37 rfl ?_
  refine a_if_eq 46 dX3_pays_39 rfl (fun c8 => ?_) (fun c8 => ?_)
  · have hT := oifp c8 hT
    refine a_aload_n dX3_pays_46 rfl ?_
    refine a_gA fl_X3_9_2 (tw_gA ht 0 (by decide)) dX3_pays_47 ?_
    refine a_iload_n dX3_pays_50 rfl ?_
    refine a_iconst (v := 5) dX3_pays_51 (by decide) ?_
    refine a_iadd dX3_pays_52 ?_
    obtain ⟨z10, e9, hT⟩ := obnd hT
    refine a_ldI (tw_ld ht 0 (by decide) e9) dX3_pays_53 ?_
    refine a_iload_n dX3_pays_54 rfl ?_
    refine a_imul dX3_pays_55 ?_
    refine a_aload_n dX3_pays_56 rfl ?_
    refine a_gA fl_X3_9_2 (tw_gA ht 0 (by decide)) dX3_pays_57 ?_
    refine a_aload_n dX3_pays_60 rfl ?_
    refine a_gA fl_X3_9_2 (tw_gA ht 0 (by decide)) dX3_pays_61 ?_
    refine a_iload_n dX3_pays_64 rfl ?_
    refine a_iconst (v := 4) dX3_pays_65 (by decide) ?_
    refine a_iadd dX3_pays_66 ?_
    obtain ⟨z12, e11, hT⟩ := obnd hT
    refine a_ldI (tw_ld ht 0 (by decide) e11) dX3_pays_67 ?_
    obtain ⟨r15, e16, hT⟩ := obnd hT
    refine a_callS ks_X3_120 (k_X3_gardenerAt e16) ⟨Nat.le_of_ble_eq_true rfl, Nat.le_of_ble_eq_true rfl⟩ (As := [.int z12]) (rest := [.ref (T 0), .int (z10 * v2)]) rfl rfl (Nat.le_of_ble_eq_true rfl) dX3_pays_68 (kI ?_) xI
    obtain ⟨z18, e17, hT⟩ := obnd hT
    refine a_ldI (tw_ld ht 0 (by decide) e17) dX3_pays_71 ?_
    refine a_mmin q1806 q481 q90 q482 (by decide) (Nat.le_of_ble_eq_true rfl) dX3_pays_72 ?_
    cases hT
    exact a_iret rfl rfl dX3_pays_75 (he _ _ ⟨rfl, rfl⟩)
  · have hT := oifn c8 hT
    refine a_iconst (v := 0) dX3_pays_42 (by decide) ?_
    refine a_goto 75 dX3_pays_43 rfl ?_
    cases hT
    exact a_iret rfl rfl dX3_pays_75 (he _ _ ⟨rfl, rfl⟩)
def t_X3_pays_l30 (s : tS) (v2 : Int32) (v3 : Int32) : Option (Int32 × tS) :=
  t_X3_pays_l35 s v2 v3 1
theorem k_X3_pays_l30 {G : aG} {h0 B : aH} {T : Nat → Nat} {K : aRes → aH → Prop} (ht : tOk (gZ G) T) {s : tS} {v2 : Int32} {v3 : Int32} {e : (Int32 × tS)} (hT : t_X3_pays_l30 s v2 v3 = some e) (he : (fun e => aTo (aEI e.1 (tput (gZ G) B T e.2)) K) e) : aW G M_X3_pays 2 40 h0 K (tput (gZ G) B T s) 30 [some (.ref (T 100)), none, some (.int v2), some (.int v3), none] [] := by
  unfold t_X3_pays_l30 at hT
  refine a_iconst (v := 1) dX3_pays_30 (by decide) ?_
  refine a_goto 35 dX3_pays_31 rfl ?_
  exact k_X3_pays_l35 ht hT he
def t_X3_pays (s : tS) (x0 : Int32) (x1 : Int32) : Option (Int32 × tS) :=
  (t_X3_visitorAt x0).bind fun r3 =>
  (tld 0 s (r3 + 4)).bind fun z6 =>
  if z6 = (-1) then
    t_X3_pays_l30 s x1 r3
  else
    (tld 0 s (r3 + 6)).bind fun z20 =>
    if z20 = 1 then
      t_X3_pays_l30 s x1 r3
    else
      t_X3_pays_l35 s x1 r3 0
theorem k_X3_pays {G : aG} {B : aH} {T : Nat → Nat} (ht : tOk (gZ G) T) {s : tS} {x0 : Int32} {x1 : Int32} {e : (Int32 × tS)} (hT : t_X3_pays s x0 x1 = some e) : aMet G yX3_pays (ws_ yX3_pays cX3_pays 5 (Option.some Jvm.ClassFile.FieldType.int)) 2 40 [.ref (T 100), .int x0, .int x1] (tput (gZ G) B T s) (aEI e.1 (tput (gZ G) B T e.2)) := by
  refine aMet.of (lv := [some (.ref (T 100)), some (.int x0), some (.int x1), none, none]) (by decide) (Nat.le_of_ble_eq_true rfl) 2 rfl ?_
  have he : aTo (aEI e.1 (tput (gZ G) B T e.2)) (aEI e.1 (tput (gZ G) B T e.2)) := aTo.rf
  unfold t_X3_pays at hT
  refine a_iload_n dX3_pays_0 rfl ?_
  obtain ⟨r3, e4, hT⟩ := obnd hT
  refine a_callS ks_X3_126 (k_X3_visitorAt e4) ⟨Nat.le_of_ble_eq_true rfl, Nat.le_of_ble_eq_true rfl⟩ (As := [.int x0]) (rest := []) rfl rfl (Nat.le_of_ble_eq_true rfl) dX3_pays_1 (kI ?_) xI
  refine a_istore_n (lv' := [some (.ref (T 100)), some (.int x0), some (.int x1), some (.int r3), none]) dX3_pays_4 rfl (by decide) rfl ?_
  refine a_aload_n dX3_pays_5 rfl ?_
  refine a_gA fl_X3_9_2 (tw_gA ht 0 (by decide)) dX3_pays_6 ?_
  refine a_iload_n dX3_pays_9 rfl ?_
  refine a_iconst (v := 4) dX3_pays_10 (by decide) ?_
  refine a_iadd dX3_pays_11 ?_
  obtain ⟨z6, e5, hT⟩ := obnd hT
  refine a_ldI (tw_ld ht 0 (by decide) e5) dX3_pays_12 ?_
  refine a_iconst (v := (-1)) dX3_pays_13 (by decide) ?_
  refine a_icmp_eq 30 dX3_pays_14 rfl (fun c7 => ?_) (fun c7 => ?_)
  · have hT := oifp c7 hT
    refine a_mask [true, false, true, true, true] ?_
    exact k_X3_pays_l30 ht hT he
  · have hT := oifn c7 hT
    refine a_aload_n dX3_pays_17 rfl ?_
    refine a_gA fl_X3_9_2 (tw_gA ht 0 (by decide)) dX3_pays_18 ?_
    refine a_iload_n dX3_pays_21 rfl ?_
    refine a_bipush (v := 6) dX3_pays_22 (by decide) ?_
    refine a_iadd dX3_pays_24 ?_
    obtain ⟨z20, e19, hT⟩ := obnd hT
    refine a_ldI (tw_ld ht 0 (by decide) e19) dX3_pays_25 ?_
    refine a_iconst (v := 1) dX3_pays_26 (by decide) ?_
    refine a_icmp_ne 34 dX3_pays_27 rfl (fun c21 => ?_) (fun c21 => ?_)
    · have hT := oifn c21 hT
      refine a_iconst (v := 0) dX3_pays_34 (by decide) ?_
      refine a_mask [true, false, true, true, true] ?_
      exact k_X3_pays_l35 ht hT he
    · have hT := oifp c21 hT
      refine a_mask [true, false, true, true, true] ?_
      exact k_X3_pays_l30 ht hT he
theorem ks_X3_88 : aKS "MazeBondsModel" 88 yX3_isCell cX3_isCell 1 (Option.some Jvm.ClassFile.FieldType.boolean) 1 := ⟨Or.inl q1799, q1800, q81, q1801, ⟨by decide +kernel, by decide +kernel, by decide +kernel⟩⟩
abbrev M_X3_areCells : aM := (yX3_areCells.cls, cX3_areCells, 3, (Option.some Jvm.ClassFile.FieldType.boolean), [], yX3_areCells.name)
def t_X3_areCells_l20 (s : tS) (u0 : Int32) : Option (Int32 × tS) :=
  (tpf 12 s u0).bind fun s7 =>
  if (s7.1 12) = 0 then
    some (1, s7)
  else
    some (0, s7)
theorem k_X3_areCells_l20 {G : aG} {h0 B : aH} {T : Nat → Nat} {K : aRes → aH → Prop} (ht : tOk (gZ G) T) {s : tS} {u0 : Int32} {e : (Int32 × tS)} (hT : t_X3_areCells_l20 s u0 = some e) (he : (fun e => aTo (aEI e.1 (tput (gZ G) B T e.2)) K) e) : aW G M_X3_areCells 3 46 h0 K (tput (gZ G) B T s) 20 [some (.ref (T 100)), none, none] [.int u0, .ref (T 100)] := by
  unfold t_X3_areCells_l20 at hT
  obtain ⟨s7, e6, hT⟩ := obnd hT
  refine a_put (fp_X3_38_2 _) ⟨rfl, rfl⟩ (tw_pf ht 12 (by decide) e6) dX3_areCells_20 ?_
  refine a_aload_n dX3_areCells_23 rfl ?_
  refine a_gI fl_X3_38_2 (tw_gI ht 12 (by decide)) dX3_areCells_24 ?_
  refine a_if_ne 34 dX3_areCells_27 rfl (fun c8 => ?_) (fun c8 => ?_)
  · have hT := oifn c8 hT
    refine a_iconst (v := 0) dX3_areCells_34 (by decide) ?_
    cases hT
    exact a_iret rfl (by decide) dX3_areCells_35 (he _ _ ⟨rfl, rfl⟩)
  · have hT := oifp c8 hT
    refine a_iconst (v := 1) dX3_areCells_30 (by decide) ?_
    refine a_goto 35 dX3_areCells_31 rfl ?_
    cases hT
    exact a_iret rfl (by decide) dX3_areCells_35 (he _ _ ⟨rfl, rfl⟩)
def t_X3_areCells_l19 (s : tS)  : Option (Int32 × tS) :=
  t_X3_areCells_l20 s 1
theorem k_X3_areCells_l19 {G : aG} {h0 B : aH} {T : Nat → Nat} {K : aRes → aH → Prop} (ht : tOk (gZ G) T) {s : tS}  {e : (Int32 × tS)} (hT : t_X3_areCells_l19 s  = some e) (he : (fun e => aTo (aEI e.1 (tput (gZ G) B T e.2)) K) e) : aW G M_X3_areCells 3 46 h0 K (tput (gZ G) B T s) 19 [some (.ref (T 100)), none, none] [.ref (T 100)] := by
  unfold t_X3_areCells_l19 at hT
  refine a_iconst (v := 1) dX3_areCells_19 (by decide) ?_
  exact k_X3_areCells_l20 ht hT he
def t_X3_areCells (s : tS) (x0 : Int32) (x1 : Int32) : Option (Int32 × tS) :=
  (t_X3_isCell x0).bind fun r3 =>
  if r3 = 0 then
    t_X3_areCells_l19 s
  else
    (t_X3_isCell x1).bind fun r11 =>
    if r11 = 0 then
      t_X3_areCells_l19 s
    else
      t_X3_areCells_l20 s 0
theorem k_X3_areCells {G : aG} {B : aH} {T : Nat → Nat} (ht : tOk (gZ G) T) {s : tS} {x0 : Int32} {x1 : Int32} {e : (Int32 × tS)} (hT : t_X3_areCells s x0 x1 = some e) : aMet G yX3_areCells (ws_ yX3_areCells cX3_areCells 3 (Option.some Jvm.ClassFile.FieldType.boolean)) 3 46 [.ref (T 100), .int x0, .int x1] (tput (gZ G) B T s) (aEI e.1 (tput (gZ G) B T e.2)) := by
  refine aMet.of (lv := [some (.ref (T 100)), some (.int x0), some (.int x1)]) (by decide) (Nat.le_of_ble_eq_true rfl) 0 rfl ?_
  have he : aTo (aEI e.1 (tput (gZ G) B T e.2)) (aEI e.1 (tput (gZ G) B T e.2)) := aTo.rf
  unfold t_X3_areCells at hT
  refine a_aload_n dX3_areCells_0 rfl ?_
  refine a_iload_n dX3_areCells_1 rfl ?_
  obtain ⟨r3, e4, hT⟩ := obnd hT
  refine a_callS ks_X3_88 (k_X3_isCell e4) ⟨Nat.le_of_ble_eq_true rfl, Nat.le_of_ble_eq_true rfl⟩ (As := [.int x0]) (rest := [.ref (T 100)]) rfl rfl (Nat.le_of_ble_eq_true rfl) dX3_areCells_2 (kI ?_) xI
  refine a_if_eq 19 dX3_areCells_5 rfl (fun c5 => ?_) (fun c5 => ?_)
  · have hT := oifp c5 hT
    refine a_mask [true, false, false] ?_
    exact k_X3_areCells_l19 ht hT he
  · have hT := oifn c5 hT
    refine a_iload_n dX3_areCells_8 rfl ?_
    obtain ⟨r11, e12, hT⟩ := obnd hT
    refine a_callS ks_X3_88 (k_X3_isCell e12) ⟨Nat.le_of_ble_eq_true rfl, Nat.le_of_ble_eq_true rfl⟩ (As := [.int x1]) (rest := [.ref (T 100)]) rfl rfl (Nat.le_of_ble_eq_true rfl) dX3_areCells_9 (kI ?_) xI
    refine a_if_eq 19 dX3_areCells_12 rfl (fun c13 => ?_) (fun c13 => ?_)
    · have hT := oifp c13 hT
      refine a_mask [true, false, false] ?_
      exact k_X3_areCells_l19 ht hT he
    · have hT := oifn c13 hT
      refine a_iconst (v := 0) dX3_areCells_15 (by decide) ?_
      refine a_goto 20 dX3_areCells_16 rfl ?_
      refine a_mask [true, false, false] ?_
      exact k_X3_areCells_l20 ht hT he
theorem kv_X3_174 : aKV "MazeBondsModel" 174 2 yX3_areCells cX3_areCells 3 (Option.some Jvm.ClassFile.FieldType.boolean) 2 := ⟨⟨TX3, 21, rfl⟩, Or.inl q1936, q1938, qs53, q81, q1939, ⟨by decide +kernel, by decide +kernel, by decide +kernel⟩⟩
theorem ks_X3_77 : aKS "MazeBondsModel" 77 yX3_hedgeAt cX3_hedgeAt 4 (Option.some Jvm.ClassFile.FieldType.int) 2 := ⟨Or.inl q1803, q1804, q81, q1805, ⟨by decide +kernel, by decide +kernel, by decide +kernel⟩⟩
theorem kv_X3_80 : aKV "MazeBondsModel" 80 2 yX3_isGapAt cX3_isGapAt 2 (Option.some Jvm.ClassFile.FieldType.boolean) 1 := ⟨⟨TX3, 21, rfl⟩, Or.inl q1824, q1826, qs37, q81, q1827, ⟨by decide +kernel, by decide +kernel, by decide +kernel⟩⟩
abbrev M_X3_isGap : aM := (yX3_isGap.cls, cX3_isGap, 3, (Option.some Jvm.ClassFile.FieldType.boolean), [], yX3_isGap.name)
def t_X3_isGap (s : tS) (x0 : Int32) (x1 : Int32) : Option (Int32 × tS) :=
  (t_X3_areCells s x0 x1).bind fun r3 =>
  if r3.1 = 0 then
    some (0, r3.2)
  else
    (t_X3_hedgeAt x0 x1).bind fun r8 =>
    (t_X3_isGapAt r3.2 r8).bind fun r12 =>
    if r12.1 = 0 then
      some (0, r12.2)
    else
      some (1, r12.2)
theorem k_X3_isGap {G : aG} {B : aH} {T : Nat → Nat} (ht : tOk (gZ G) T) {s : tS} {x0 : Int32} {x1 : Int32} {e : (Int32 × tS)} (hT : t_X3_isGap s x0 x1 = some e) : aMet G yX3_isGap (ws_ yX3_isGap cX3_isGap 3 (Option.some Jvm.ClassFile.FieldType.boolean)) 4 68 [.ref (T 100), .int x0, .int x1] (tput (gZ G) B T s) (aEI e.1 (tput (gZ G) B T e.2)) := by
  refine aMet.of (lv := [some (.ref (T 100)), some (.int x0), some (.int x1)]) (by decide) (Nat.le_of_ble_eq_true rfl) 0 rfl ?_
  have he : aTo (aEI e.1 (tput (gZ G) B T e.2)) (aEI e.1 (tput (gZ G) B T e.2)) := aTo.rf
  unfold t_X3_isGap at hT
  refine a_aload_n dX3_isGap_0 rfl ?_
  refine a_iload_n dX3_isGap_1 rfl ?_
  refine a_iload_n dX3_isGap_2 rfl ?_
  obtain ⟨r3, e4, hT⟩ := obnd hT
  refine a_callV kv_X3_174 (tw_is ht) (k_X3_areCells ht e4) ⟨Nat.le_of_ble_eq_true rfl, Nat.le_of_ble_eq_true rfl⟩ (As := [.int x0, .int x1]) (rest := []) rfl rfl (Nat.le_of_ble_eq_true rfl) dX3_isGap_3 (kI ?_) xI
  refine a_if_eq 25 dX3_isGap_6 rfl (fun c5 => ?_) (fun c5 => ?_)
  · have hT := oifp c5 hT
    refine a_iconst (v := 0) dX3_isGap_25 (by decide) ?_
    cases hT
    exact a_iret rfl (by decide) dX3_isGap_26 (he _ _ ⟨rfl, rfl⟩)
  · have hT := oifn c5 hT
    refine a_aload_n dX3_isGap_9 rfl ?_
    refine a_iload_n dX3_isGap_10 rfl ?_
    refine a_iload_n dX3_isGap_11 rfl ?_
    obtain ⟨r8, e9, hT⟩ := obnd hT
    refine a_callS ks_X3_77 (k_X3_hedgeAt e9) ⟨Nat.le_of_ble_eq_true rfl, Nat.le_of_ble_eq_true rfl⟩ (As := [.int x0, .int x1]) (rest := [.ref (T 100)]) rfl rfl (Nat.le_of_ble_eq_true rfl) dX3_isGap_12 (kI ?_) xI
    obtain ⟨r12, e13, hT⟩ := obnd hT
    refine a_callV kv_X3_80 (tw_is ht) (k_X3_isGapAt ht e13) ⟨Nat.le_of_ble_eq_true rfl, Nat.le_of_ble_eq_true rfl⟩ (As := [.int r8]) (rest := []) rfl rfl (Nat.le_of_ble_eq_true rfl) dX3_isGap_15 (kI ?_) xI
    refine a_if_eq 25 dX3_isGap_18 rfl (fun c14 => ?_) (fun c14 => ?_)
    · have hT := oifp c14 hT
      refine a_iconst (v := 0) dX3_isGap_25 (by decide) ?_
      cases hT
      exact a_iret rfl (by decide) dX3_isGap_26 (he _ _ ⟨rfl, rfl⟩)
    · have hT := oifn c14 hT
      refine a_iconst (v := 1) dX3_isGap_21 (by decide) ?_
      refine a_goto 26 dX3_isGap_22 rfl ?_
      cases hT
      exact a_iret rfl (by decide) dX3_isGap_26 (he _ _ ⟨rfl, rfl⟩)
theorem kv_X3_50 : aKV "MazeBondsModel" 50 2 yX3_throwing cX3_throwing 2 (Option.some Jvm.ClassFile.FieldType.int) 1 := ⟨⟨TX3, 21, rfl⟩, Or.inl q1791, q1793, qs32, q81, q1794, ⟨by decide +kernel, by decide +kernel, by decide +kernel⟩⟩
abbrev M_X3_closesIn : aM := (yX3_closesIn.cls, cX3_closesIn, 4, (Option.some Jvm.ClassFile.FieldType.int), [], yX3_closesIn.name)
def t_X3_closesIn (s : tS) (x0 : Int32) (x1 : Int32) : Option (Int32 × tS) :=
  (t_X3_areCells s x0 x1).bind fun r3 =>
  if r3.1 = 0 then
    some ((-1), r3.2)
  else
    (t_X3_hedgeAt x0 x1).bind fun r8 =>
    if r8 = (-1) then
      (t_X3_throwing r3.2 2).bind fun r15 =>
      some (r15.1, r15.2)
    else
      (tld 0 r3.2 r8).bind fun z12 =>
      some ((jmax 0 (5 - z12)), r3.2)
theorem k_X3_closesIn {G : aG} {B : aH} {T : Nat → Nat} (ht : tOk (gZ G) T) {s : tS} {x0 : Int32} {x1 : Int32} {e : (Int32 × tS)} (hT : t_X3_closesIn s x0 x1 = some e) : aMet G yX3_closesIn (ws_ yX3_closesIn cX3_closesIn 4 (Option.some Jvm.ClassFile.FieldType.int)) 4 68 [.ref (T 100), .int x0, .int x1] (tput (gZ G) B T s) (aEI e.1 (tput (gZ G) B T e.2)) := by
  refine aMet.of (lv := [some (.ref (T 100)), some (.int x0), some (.int x1), none]) (by decide) (Nat.le_of_ble_eq_true rfl) 1 rfl ?_
  have he : aTo (aEI e.1 (tput (gZ G) B T e.2)) (aEI e.1 (tput (gZ G) B T e.2)) := aTo.rf
  unfold t_X3_closesIn at hT
  refine a_aload_n dX3_closesIn_0 rfl ?_
  refine a_iload_n dX3_closesIn_1 rfl ?_
  refine a_iload_n dX3_closesIn_2 rfl ?_
  obtain ⟨r3, e4, hT⟩ := obnd hT
  refine a_callV kv_X3_174 (tw_is ht) (k_X3_areCells ht e4) ⟨Nat.le_of_ble_eq_true rfl, Nat.le_of_ble_eq_true rfl⟩ (As := [.int x0, .int x1]) (rest := []) rfl rfl (Nat.le_of_ble_eq_true rfl) dX3_closesIn_3 (kI ?_) xI
  refine a_if_ne 11 dX3_closesIn_6 rfl (fun c5 => ?_) (fun c5 => ?_)
  · have hT := oifn c5 hT
    refine a_iload_n dX3_closesIn_11 rfl ?_
    refine a_iload_n dX3_closesIn_12 rfl ?_
    obtain ⟨r8, e9, hT⟩ := obnd hT
    refine a_callS ks_X3_77 (k_X3_hedgeAt e9) ⟨Nat.le_of_ble_eq_true rfl, Nat.le_of_ble_eq_true rfl⟩ (As := [.int x0, .int x1]) (rest := []) rfl rfl (Nat.le_of_ble_eq_true rfl) dX3_closesIn_13 (kI ?_) xI
    refine a_istore_n (lv' := [some (.ref (T 100)), some (.int x0), some (.int x1), some (.int r8)]) dX3_closesIn_16 rfl (by decide) rfl ?_
    refine a_iload_n dX3_closesIn_17 rfl ?_
    refine a_iconst (v := (-1)) dX3_closesIn_18 (by decide) ?_
    refine a_icmp_ne 30 dX3_closesIn_19 rfl (fun c10 => ?_) (fun c10 => ?_)
    · have hT := oifn c10 hT
      refine a_iconst (v := 0) dX3_closesIn_30 (by decide) ?_
      refine a_iconst (v := 5) dX3_closesIn_31 (by decide) ?_
      refine a_aload_n dX3_closesIn_32 rfl ?_
      refine a_gA fl_X3_9_2 (tw_gA ht 0 (by decide)) dX3_closesIn_33 ?_
      refine a_iload_n dX3_closesIn_36 rfl ?_
      obtain ⟨z12, e11, hT⟩ := obnd hT
      refine a_ldI (tw_ld ht 0 (by decide) e11) dX3_closesIn_37 ?_
      refine a_isub dX3_closesIn_38 ?_
      refine a_mmax q1807 q441 q90 q442 (by decide) (Nat.le_of_ble_eq_true rfl) dX3_closesIn_39 ?_
      cases hT
      exact a_iret rfl rfl dX3_closesIn_42 (he _ _ ⟨rfl, rfl⟩)
    · have hT := oifp c10 hT
      refine a_aload_n dX3_closesIn_22 rfl ?_
      refine a_iconst (v := 2) dX3_closesIn_23 (by decide) ?_
      obtain ⟨r15, e16, hT⟩ := obnd hT
      refine a_callV kv_X3_50 (tw_is ht) (k_X3_throwing ht e16) ⟨Nat.le_of_ble_eq_true rfl, Nat.le_of_ble_eq_true rfl⟩ (As := [.int 2]) (rest := []) rfl rfl (Nat.le_of_ble_eq_true rfl) dX3_closesIn_24 (kI ?_) xI
      refine a_goto 42 dX3_closesIn_27 rfl ?_
      cases hT
      exact a_iret rfl rfl dX3_closesIn_42 (he _ _ ⟨rfl, rfl⟩)
  · have hT := oifp c5 hT
    refine a_iconst (v := (-1)) dX3_closesIn_9 (by decide) ?_
    cases hT
    exact a_iret rfl rfl dX3_closesIn_10 (he _ _ ⟨rfl, rfl⟩)
abbrev M_X3_lasts : aM := (yX3_lasts.cls, cX3_lasts, 2, (Option.some Jvm.ClassFile.FieldType.boolean), [], yX3_lasts.name)
def t_X3_lasts (s : tS) (x0 : Int32) : Option (Int32 × tS) :=
  (t_X3_visitorAt x0).bind fun r3 =>
  (tld 0 s (r3 + 4)).bind fun z6 =>
  if z6 = (-1) then
    some (0, s)
  else
    (t_X3_visitorAt x0).bind fun r10 =>
    (tld 0 s (r10 + 7)).bind fun z13 =>
    if z13 = 0 then
      some (1, s)
    else
      some (0, s)
theorem k_X3_lasts {G : aG} {B : aH} {T : Nat → Nat} (ht : tOk (gZ G) T) {s : tS} {x0 : Int32} {e : (Int32 × tS)} (hT : t_X3_lasts s x0 = some e) : aMet G yX3_lasts (ws_ yX3_lasts cX3_lasts 2 (Option.some Jvm.ClassFile.FieldType.boolean)) 2 21 [.ref (T 100), .int x0] (tput (gZ G) B T s) (aEI e.1 (tput (gZ G) B T e.2)) := by
  refine aMet.of (lv := [some (.ref (T 100)), some (.int x0)]) (by decide) (Nat.le_of_ble_eq_true rfl) 0 rfl ?_
  have he : aTo (aEI e.1 (tput (gZ G) B T e.2)) (aEI e.1 (tput (gZ G) B T e.2)) := aTo.rf
  unfold t_X3_lasts at hT
  refine a_aload_n dX3_lasts_0 rfl ?_
  refine a_gA fl_X3_9_2 (tw_gA ht 0 (by decide)) dX3_lasts_1 ?_
  refine a_iload_n dX3_lasts_4 rfl ?_
  obtain ⟨r3, e4, hT⟩ := obnd hT
  refine a_callS ks_X3_126 (k_X3_visitorAt e4) ⟨Nat.le_of_ble_eq_true rfl, Nat.le_of_ble_eq_true rfl⟩ (As := [.int x0]) (rest := [.ref (T 0)]) rfl rfl (Nat.le_of_ble_eq_true rfl) dX3_lasts_5 (kI ?_) xI
  refine a_iconst (v := 4) dX3_lasts_8 (by decide) ?_
  refine a_iadd dX3_lasts_9 ?_
  obtain ⟨z6, e5, hT⟩ := obnd hT
  refine a_ldI (tw_ld ht 0 (by decide) e5) dX3_lasts_10 ?_
  refine a_iconst (v := (-1)) dX3_lasts_11 (by decide) ?_
  refine a_icmp_eq 34 dX3_lasts_12 rfl (fun c7 => ?_) (fun c7 => ?_)
  · have hT := oifp c7 hT
    refine a_iconst (v := 0) dX3_lasts_34 (by decide) ?_
    cases hT
    exact a_iret rfl (by decide) dX3_lasts_35 (he _ _ ⟨rfl, rfl⟩)
  · have hT := oifn c7 hT
    refine a_aload_n dX3_lasts_15 rfl ?_
    refine a_gA fl_X3_9_2 (tw_gA ht 0 (by decide)) dX3_lasts_16 ?_
    refine a_iload_n dX3_lasts_19 rfl ?_
    obtain ⟨r10, e11, hT⟩ := obnd hT
    refine a_callS ks_X3_126 (k_X3_visitorAt e11) ⟨Nat.le_of_ble_eq_true rfl, Nat.le_of_ble_eq_true rfl⟩ (As := [.int x0]) (rest := [.ref (T 0)]) rfl rfl (Nat.le_of_ble_eq_true rfl) dX3_lasts_20 (kI ?_) xI
    refine a_bipush (v := 7) dX3_lasts_23 (by decide) ?_
    refine a_iadd dX3_lasts_25 ?_
    obtain ⟨z13, e12, hT⟩ := obnd hT
    refine a_ldI (tw_ld ht 0 (by decide) e12) dX3_lasts_26 ?_
    refine a_if_ne 34 dX3_lasts_27 rfl (fun c14 => ?_) (fun c14 => ?_)
    · have hT := oifn c14 hT
      refine a_iconst (v := 0) dX3_lasts_34 (by decide) ?_
      cases hT
      exact a_iret rfl (by decide) dX3_lasts_35 (he _ _ ⟨rfl, rfl⟩)
    · have hT := oifp c14 hT
      refine a_iconst (v := 1) dX3_lasts_30 (by decide) ?_
      refine a_goto 35 dX3_lasts_31 rfl ?_
      cases hT
      exact a_iret rfl (by decide) dX3_lasts_35 (he _ _ ⟨rfl, rfl⟩)
theorem kv_X3_154 : aKV "MazeBondsModel" 154 2 yX3_isVisitor cX3_isVisitor 2 (Option.some Jvm.ClassFile.FieldType.boolean) 1 := ⟨⟨TX3, 21, rfl⟩, Or.inl q1903, q1905, qs48, q81, q1906, ⟨by decide +kernel, by decide +kernel, by decide +kernel⟩⟩
theorem kv_X3_162 : aKV "MazeBondsModel" 162 2 yX3_lostOf cX3_lostOf 3 (Option.some Jvm.ClassFile.FieldType.int) 1 := ⟨⟨TX3, 21, rfl⟩, Or.inl q1916, q1918, qs50, q81, q1919, ⟨by decide +kernel, by decide +kernel, by decide +kernel⟩⟩
abbrev M_X3_visitorOf : aM := (yX3_visitorOf.cls, cX3_visitorOf, 4, (Option.some Jvm.ClassFile.FieldType.int), [], yX3_visitorOf.name)
def t_X3_visitorOf (s : tS) (x0 : Int32) (x1 : Int32) : Option (Int32 × tS) :=
  (tpf 12 s 0).bind fun s2 =>
  (t_X3_isVisitor s2 x0).bind fun r5 =>
  if r5.1 = 0 then
    (t_X3_throwing r5.2 1).bind fun r48 =>
    some (r48.1, r48.2)
  else
    (t_X3_visitorAt x0).bind fun r10 =>
    if x1 = 0 then
      (tld 0 r5.2 (r10 + x1)).bind fun z14 =>
      some (z14, r5.2)
    else
      if x1 = 1 then
        (tld 0 r5.2 (r10 + x1)).bind fun z17 =>
        some (z17, r5.2)
      else
        if x1 = 2 then
          (tld 0 r5.2 (r10 + x1)).bind fun z20 =>
          some (z20, r5.2)
        else
          if x1 = 3 then
            (tld 0 r5.2 (r10 + x1)).bind fun z23 =>
            some (z23, r5.2)
          else
            if x1 = 4 then
              (t_X3_lostOf r5.2 x0).bind fun r27 =>
              some (r27.1, r27.2)
            else
              if x1 = 5 then
                (tld 0 r5.2 ((r10 + x1) - 1)).bind fun z31 =>
                some (z31, r5.2)
              else
                if x1 = 6 then
                  (tld 0 r5.2 ((r10 + x1) - 1)).bind fun z34 =>
                  some (z34, r5.2)
                else
                  if x1 = 7 then
                    (tld 0 r5.2 ((r10 + x1) - 1)).bind fun z37 =>
                    some (z37, r5.2)
                  else
                    if x1 = 8 then
                      (tld 0 r5.2 ((r10 + x1) - 1)).bind fun z40 =>
                      some (z40, r5.2)
                    else
                      (t_X3_throwing r5.2 2).bind fun r43 =>
                      some (r43.1, r43.2)
theorem k_X3_visitorOf {G : aG} {B : aH} {T : Nat → Nat} (ht : tOk (gZ G) T) {s : tS} {x0 : Int32} {x1 : Int32} {e : (Int32 × tS)} (hT : t_X3_visitorOf s x0 x1 = some e) : aMet G yX3_visitorOf (ws_ yX3_visitorOf cX3_visitorOf 4 (Option.some Jvm.ClassFile.FieldType.int)) 3 62 [.ref (T 100), .int x0, .int x1] (tput (gZ G) B T s) (aEI e.1 (tput (gZ G) B T e.2)) := by
  refine aMet.of (lv := [some (.ref (T 100)), some (.int x0), some (.int x1), none]) (by decide) (Nat.le_of_ble_eq_true rfl) 1 rfl ?_
  have he : aTo (aEI e.1 (tput (gZ G) B T e.2)) (aEI e.1 (tput (gZ G) B T e.2)) := aTo.rf
  unfold t_X3_visitorOf at hT
  refine a_aload_n dX3_visitorOf_0 rfl ?_
  refine a_iconst (v := 0) dX3_visitorOf_1 (by decide) ?_
  obtain ⟨s2, e1, hT⟩ := obnd hT
  refine a_put (fp_X3_38_2 _) ⟨rfl, rfl⟩ (tw_pf ht 12 (by decide) e1) dX3_visitorOf_2 ?_
  refine a_aload_n dX3_visitorOf_5 rfl ?_
  refine a_iload_n dX3_visitorOf_6 rfl ?_
  obtain ⟨r5, e6, hT⟩ := obnd hT
  refine a_callV kv_X3_154 (tw_is ht) (k_X3_isVisitor ht e6) ⟨Nat.le_of_ble_eq_true rfl, Nat.le_of_ble_eq_true rfl⟩ (As := [.int x0]) (rest := []) rfl rfl (Nat.le_of_ble_eq_true rfl) dX3_visitorOf_7 (kI ?_) xI
  refine a_if_ne 19 dX3_visitorOf_10 rfl (fun c7 => ?_) (fun c7 => ?_)
  · have hT := oifn c7 hT
    refine a_iload_n dX3_visitorOf_19 rfl ?_
    obtain ⟨r10, e11, hT⟩ := obnd hT
    refine a_callS ks_X3_126 (k_X3_visitorAt e11) ⟨Nat.le_of_ble_eq_true rfl, Nat.le_of_ble_eq_true rfl⟩ (As := [.int x0]) (rest := []) rfl rfl (Nat.le_of_ble_eq_true rfl) dX3_visitorOf_20 (kI ?_) xI
    refine a_istore_n (lv' := [some (.ref (T 100)), some (.int x0), some (.int x1), some (.int r10)]) dX3_visitorOf_23 rfl (by decide) rfl ?_
    refine a_iload_n dX3_visitorOf_24 rfl ?_
    by_cases c12 : x1 = 0
    · have hT := oifp c12 hT
      refine a_tswIn 76 dX3_visitorOf_25 (by rw [c12]; decide) (by rw [c12]; decide) (off := 51) (by rw [c12]; rfl) rfl ?_
      refine a_aload_n dX3_visitorOf_76 rfl ?_
      refine a_gA fl_X3_9_2 (tw_gA ht 0 (by decide)) dX3_visitorOf_77 ?_
      refine a_iload_n dX3_visitorOf_80 rfl ?_
      refine a_iload_n dX3_visitorOf_81 rfl ?_
      refine a_iadd dX3_visitorOf_82 ?_
      obtain ⟨z14, e13, hT⟩ := obnd hT
      refine a_ldI (tw_ld ht 0 (by decide) e13) dX3_visitorOf_83 ?_
      cases hT
      exact a_iret rfl rfl dX3_visitorOf_84 (he _ _ ⟨rfl, rfl⟩)
    · have hT := oifn c12 hT
      by_cases c15 : x1 = 1
      · have hT := oifp c15 hT
        refine a_tswIn 76 dX3_visitorOf_25 (by rw [c15]; decide) (by rw [c15]; decide) (off := 51) (by rw [c15]; rfl) rfl ?_
        refine a_aload_n dX3_visitorOf_76 rfl ?_
        refine a_gA fl_X3_9_2 (tw_gA ht 0 (by decide)) dX3_visitorOf_77 ?_
        refine a_iload_n dX3_visitorOf_80 rfl ?_
        refine a_iload_n dX3_visitorOf_81 rfl ?_
        refine a_iadd dX3_visitorOf_82 ?_
        obtain ⟨z17, e16, hT⟩ := obnd hT
        refine a_ldI (tw_ld ht 0 (by decide) e16) dX3_visitorOf_83 ?_
        cases hT
        exact a_iret rfl rfl dX3_visitorOf_84 (he _ _ ⟨rfl, rfl⟩)
      · have hT := oifn c15 hT
        by_cases c18 : x1 = 2
        · have hT := oifp c18 hT
          refine a_tswIn 76 dX3_visitorOf_25 (by rw [c18]; decide) (by rw [c18]; decide) (off := 51) (by rw [c18]; rfl) rfl ?_
          refine a_aload_n dX3_visitorOf_76 rfl ?_
          refine a_gA fl_X3_9_2 (tw_gA ht 0 (by decide)) dX3_visitorOf_77 ?_
          refine a_iload_n dX3_visitorOf_80 rfl ?_
          refine a_iload_n dX3_visitorOf_81 rfl ?_
          refine a_iadd dX3_visitorOf_82 ?_
          obtain ⟨z20, e19, hT⟩ := obnd hT
          refine a_ldI (tw_ld ht 0 (by decide) e19) dX3_visitorOf_83 ?_
          cases hT
          exact a_iret rfl rfl dX3_visitorOf_84 (he _ _ ⟨rfl, rfl⟩)
        · have hT := oifn c18 hT
          by_cases c21 : x1 = 3
          · have hT := oifp c21 hT
            refine a_tswIn 76 dX3_visitorOf_25 (by rw [c21]; decide) (by rw [c21]; decide) (off := 51) (by rw [c21]; rfl) rfl ?_
            refine a_aload_n dX3_visitorOf_76 rfl ?_
            refine a_gA fl_X3_9_2 (tw_gA ht 0 (by decide)) dX3_visitorOf_77 ?_
            refine a_iload_n dX3_visitorOf_80 rfl ?_
            refine a_iload_n dX3_visitorOf_81 rfl ?_
            refine a_iadd dX3_visitorOf_82 ?_
            obtain ⟨z23, e22, hT⟩ := obnd hT
            refine a_ldI (tw_ld ht 0 (by decide) e22) dX3_visitorOf_83 ?_
            cases hT
            exact a_iret rfl rfl dX3_visitorOf_84 (he _ _ ⟨rfl, rfl⟩)
          · have hT := oifn c21 hT
            by_cases c24 : x1 = 4
            · have hT := oifp c24 hT
              refine a_tswIn 85 dX3_visitorOf_25 (by rw [c24]; decide) (by rw [c24]; decide) (off := 60) (by rw [c24]; rfl) rfl ?_
              refine a_aload_n dX3_visitorOf_85 rfl ?_
              refine a_iload_n dX3_visitorOf_86 rfl ?_
              obtain ⟨r27, e28, hT⟩ := obnd hT
              refine a_callV kv_X3_162 (tw_is ht) (k_X3_lostOf ht e28) ⟨Nat.le_of_ble_eq_true rfl, Nat.le_of_ble_eq_true rfl⟩ (As := [.int x0]) (rest := []) rfl rfl (Nat.le_of_ble_eq_true rfl) dX3_visitorOf_87 (kI ?_) xI
              cases hT
              exact a_iret rfl rfl dX3_visitorOf_90 (he _ _ ⟨rfl, rfl⟩)
            · have hT := oifn c24 hT
              by_cases c29 : x1 = 5
              · have hT := oifp c29 hT
                refine a_tswIn 91 dX3_visitorOf_25 (by rw [c29]; decide) (by rw [c29]; decide) (off := 66) (by rw [c29]; rfl) rfl ?_
                refine a_aload_n dX3_visitorOf_91 rfl ?_
                refine a_gA fl_X3_9_2 (tw_gA ht 0 (by decide)) dX3_visitorOf_92 ?_
                refine a_iload_n dX3_visitorOf_95 rfl ?_
                refine a_iload_n dX3_visitorOf_96 rfl ?_
                refine a_iadd dX3_visitorOf_97 ?_
                refine a_iconst (v := 1) dX3_visitorOf_98 (by decide) ?_
                refine a_isub dX3_visitorOf_99 ?_
                obtain ⟨z31, e30, hT⟩ := obnd hT
                refine a_ldI (tw_ld ht 0 (by decide) e30) dX3_visitorOf_100 ?_
                cases hT
                exact a_iret rfl rfl dX3_visitorOf_101 (he _ _ ⟨rfl, rfl⟩)
              · have hT := oifn c29 hT
                by_cases c32 : x1 = 6
                · have hT := oifp c32 hT
                  refine a_tswIn 91 dX3_visitorOf_25 (by rw [c32]; decide) (by rw [c32]; decide) (off := 66) (by rw [c32]; rfl) rfl ?_
                  refine a_aload_n dX3_visitorOf_91 rfl ?_
                  refine a_gA fl_X3_9_2 (tw_gA ht 0 (by decide)) dX3_visitorOf_92 ?_
                  refine a_iload_n dX3_visitorOf_95 rfl ?_
                  refine a_iload_n dX3_visitorOf_96 rfl ?_
                  refine a_iadd dX3_visitorOf_97 ?_
                  refine a_iconst (v := 1) dX3_visitorOf_98 (by decide) ?_
                  refine a_isub dX3_visitorOf_99 ?_
                  obtain ⟨z34, e33, hT⟩ := obnd hT
                  refine a_ldI (tw_ld ht 0 (by decide) e33) dX3_visitorOf_100 ?_
                  cases hT
                  exact a_iret rfl rfl dX3_visitorOf_101 (he _ _ ⟨rfl, rfl⟩)
                · have hT := oifn c32 hT
                  by_cases c35 : x1 = 7
                  · have hT := oifp c35 hT
                    refine a_tswIn 91 dX3_visitorOf_25 (by rw [c35]; decide) (by rw [c35]; decide) (off := 66) (by rw [c35]; rfl) rfl ?_
                    refine a_aload_n dX3_visitorOf_91 rfl ?_
                    refine a_gA fl_X3_9_2 (tw_gA ht 0 (by decide)) dX3_visitorOf_92 ?_
                    refine a_iload_n dX3_visitorOf_95 rfl ?_
                    refine a_iload_n dX3_visitorOf_96 rfl ?_
                    refine a_iadd dX3_visitorOf_97 ?_
                    refine a_iconst (v := 1) dX3_visitorOf_98 (by decide) ?_
                    refine a_isub dX3_visitorOf_99 ?_
                    obtain ⟨z37, e36, hT⟩ := obnd hT
                    refine a_ldI (tw_ld ht 0 (by decide) e36) dX3_visitorOf_100 ?_
                    cases hT
                    exact a_iret rfl rfl dX3_visitorOf_101 (he _ _ ⟨rfl, rfl⟩)
                  · have hT := oifn c35 hT
                    by_cases c38 : x1 = 8
                    · have hT := oifp c38 hT
                      refine a_tswIn 91 dX3_visitorOf_25 (by rw [c38]; decide) (by rw [c38]; decide) (off := 66) (by rw [c38]; rfl) rfl ?_
                      refine a_aload_n dX3_visitorOf_91 rfl ?_
                      refine a_gA fl_X3_9_2 (tw_gA ht 0 (by decide)) dX3_visitorOf_92 ?_
                      refine a_iload_n dX3_visitorOf_95 rfl ?_
                      refine a_iload_n dX3_visitorOf_96 rfl ?_
                      refine a_iadd dX3_visitorOf_97 ?_
                      refine a_iconst (v := 1) dX3_visitorOf_98 (by decide) ?_
                      refine a_isub dX3_visitorOf_99 ?_
                      obtain ⟨z40, e39, hT⟩ := obnd hT
                      refine a_ldI (tw_ld ht 0 (by decide) e39) dX3_visitorOf_100 ?_
                      cases hT
                      exact a_iret rfl rfl dX3_visitorOf_101 (he _ _ ⟨rfl, rfl⟩)
                    · have hT := oifn c38 hT
                      refine aTsw 102 dX3_visitorOf_25 rfl (cs := [0, 1, 2, 3, 4, 5, 6, 7, 8]) (by decide +kernel) (by simp only [List.mem_cons, List.not_mem_nil, or_false]; rintro z9 (rfl | rfl | rfl | rfl | rfl | rfl | rfl | rfl | rfl) <;> assumption) ?_
                      refine a_aload_n dX3_visitorOf_102 rfl ?_
                      refine a_iconst (v := 2) dX3_visitorOf_103 (by decide) ?_
                      obtain ⟨r43, e44, hT⟩ := obnd hT
                      refine a_callV kv_X3_50 (tw_is ht) (k_X3_throwing ht e44) ⟨Nat.le_of_ble_eq_true rfl, Nat.le_of_ble_eq_true rfl⟩ (As := [.int 2]) (rest := []) rfl rfl (Nat.le_of_ble_eq_true rfl) dX3_visitorOf_104 (kI ?_) xI
                      cases hT
                      exact a_iret rfl rfl dX3_visitorOf_107 (he _ _ ⟨rfl, rfl⟩)
  · have hT := oifp c7 hT
    refine a_aload_n dX3_visitorOf_13 rfl ?_
    refine a_iconst (v := 1) dX3_visitorOf_14 (by decide) ?_
    obtain ⟨r48, e49, hT⟩ := obnd hT
    refine a_callV kv_X3_50 (tw_is ht) (k_X3_throwing ht e49) ⟨Nat.le_of_ble_eq_true rfl, Nat.le_of_ble_eq_true rfl⟩ (As := [.int 1]) (rest := []) rfl rfl (Nat.le_of_ble_eq_true rfl) dX3_visitorOf_15 (kI ?_) xI
    cases hT
    exact a_iret rfl rfl dX3_visitorOf_18 (he _ _ ⟨rfl, rfl⟩)
theorem kv_X3_183 : aKV "MazeBondsModel" 183 2 yX3_lasts cX3_lasts 2 (Option.some Jvm.ClassFile.FieldType.boolean) 1 := ⟨⟨TX3, 21, rfl⟩, Or.inl q1990, q1992, qs55, q81, q1993, ⟨by decide +kernel, by decide +kernel, by decide +kernel⟩⟩
abbrev M_X3_owedBy : aM := (yX3_owedBy.cls, cX3_owedBy, 6, (Option.some Jvm.ClassFile.FieldType.int), [], yX3_owedBy.name)
def p_X3_owedBy_b4 (G : aG) (h0 : aH) (K : aRes → aH → Prop) (B : aH) (T : Nat → Nat) (x9 : (Int32 × Int32 × Int32 × tS)) : Prop := aW G M_X3_owedBy 3 62 h0 K (tput (gZ G) B T x9.2.2.2) 4 [some (.ref (T 100)), some (.int x9.1), some (.int x9.2.1), some (.int x9.2.2.1), none, none] []
def t_X3_owedBy_l86 (s : tS) (v1 : Int32) (v3 : Int32) (u0 : Int32) (u1 : Int32) : Option ((Int32 × Int32 × Int32 × tS) ⊕ (Int32 × tS)) :=
  some (.inl (v1, (u1 + u0), (v3 + 1), s))
theorem k_X3_owedBy_l86 {G : aG} {h0 B : aH} {T : Nat → Nat} {K : aRes → aH → Prop} (ht : tOk (gZ G) T) {s : tS} {v1 : Int32} {v3 : Int32} {u0 : Int32} {u1 : Int32} {e : ((Int32 × Int32 × Int32 × tS) ⊕ (Int32 × tS))} (hT : t_X3_owedBy_l86 s v1 v3 u0 u1 = some e) (he : (Sum.elim (p_X3_owedBy_b4 G h0 K B T) (fun e => aTo (aEI e.1 (tput (gZ G) B T e.2)) K)) e) : aW G M_X3_owedBy 3 62 h0 K (tput (gZ G) B T s) 86 [some (.ref (T 100)), some (.int v1), none, some (.int v3), none, none] [.int u0, .int u1] := by
  unfold t_X3_owedBy_l86 at hT
  refine a_iadd dX3_owedBy_86 ?_
  refine a_istore_n (lv' := [some (.ref (T 100)), some (.int v1), some (.int (u1 + u0)), some (.int v3), none, none]) dX3_owedBy_87 rfl (by decide) rfl ?_
  refine a_iinc (v := (v3 + 1)) (lv' := [some (.ref (T 100)), some (.int v1), some (.int (u1 + u0)), some (.int (v3 + 1)), none, none]) dX3_owedBy_88 rfl (by rfl) rfl (by decide) rfl ?_
  refine a_goto 4 dX3_owedBy_91 rfl ?_
  cases hT
  exact he
def t_X3_owedBy_l59 (s : tS) (v1 : Int32) (v2 : Int32) (v3 : Int32) (v4 : Int32) (u0 : Int32) : Option ((Int32 × Int32 × Int32 × tS) ⊕ (Int32 × tS)) :=
  if u0 = 0 then
    t_X3_owedBy_l86 s v1 v3 0 v2
  else
    (tld 0 s (v4 + 5)).bind fun z15 =>
    (t_X3_lostOf s v3).bind fun r18 =>
    t_X3_owedBy_l86 r18.2 v1 v3 (z15 * r18.1) v2
theorem k_X3_owedBy_l59 {G : aG} {h0 B : aH} {T : Nat → Nat} {K : aRes → aH → Prop} (ht : tOk (gZ G) T) {s : tS} {v1 : Int32} {v2 : Int32} {v3 : Int32} {v4 : Int32} {u0 : Int32} {e : ((Int32 × Int32 × Int32 × tS) ⊕ (Int32 × tS))} (hT : t_X3_owedBy_l59 s v1 v2 v3 v4 u0 = some e) (he : (Sum.elim (p_X3_owedBy_b4 G h0 K B T) (fun e => aTo (aEI e.1 (tput (gZ G) B T e.2)) K)) e) : aW G M_X3_owedBy 3 62 h0 K (tput (gZ G) B T s) 59 [some (.ref (T 100)), some (.int v1), some (.int v2), some (.int v3), some (.int v4), none] [.int u0] := by
  unfold t_X3_owedBy_l59 at hT
  refine a_istore (lv' := [some (.ref (T 100)), some (.int v1), some (.int v2), some (.int v3), some (.int v4), some (.int u0)]) dX3_owedBy_59 rfl (by decide) rfl ?_
  refine a_iload_n dX3_owedBy_61 rfl ?_
  refine a_iload dX3_owedBy_62 rfl ?_
  refine a_if_eq 85 dX3_owedBy_64 rfl (fun c13 => ?_) (fun c13 => ?_)
  · have hT := oifp c13 hT
    refine a_iconst (v := 0) dX3_owedBy_85 (by decide) ?_
    refine a_mask [true, true, false, true, false, false] ?_
    exact k_X3_owedBy_l86 ht hT he
  · have hT := oifn c13 hT
    refine a_aload_n dX3_owedBy_67 rfl ?_
    refine a_gA fl_X3_9_2 (tw_gA ht 0 (by decide)) dX3_owedBy_68 ?_
    refine a_iload dX3_owedBy_71 rfl ?_
    refine a_iconst (v := 5) dX3_owedBy_73 (by decide) ?_
    refine a_iadd dX3_owedBy_74 ?_
    obtain ⟨z15, e14, hT⟩ := obnd hT
    refine a_ldI (tw_ld ht 0 (by decide) e14) dX3_owedBy_75 ?_
    refine a_aload_n dX3_owedBy_76 rfl ?_
    refine a_iload_n dX3_owedBy_77 rfl ?_
    obtain ⟨r18, e19, hT⟩ := obnd hT
    refine a_callV kv_X3_162 (tw_is ht) (k_X3_lostOf ht e19) ⟨Nat.le_of_ble_eq_true rfl, Nat.le_of_ble_eq_true rfl⟩ (As := [.int v3]) (rest := [.int z15, .int v2]) rfl rfl (Nat.le_of_ble_eq_true rfl) dX3_owedBy_78 (kI ?_) xI
    refine a_imul dX3_owedBy_81 ?_
    refine a_goto 86 dX3_owedBy_82 rfl ?_
    refine a_mask [true, true, false, true, false, false] ?_
    exact k_X3_owedBy_l86 ht hT he
def t_X3_owedBy_l58 (s : tS) (v1 : Int32) (v2 : Int32) (v3 : Int32) (v4 : Int32) : Option ((Int32 × Int32 × Int32 × tS) ⊕ (Int32 × tS)) :=
  t_X3_owedBy_l59 s v1 v2 v3 v4 0
theorem k_X3_owedBy_l58 {G : aG} {h0 B : aH} {T : Nat → Nat} {K : aRes → aH → Prop} (ht : tOk (gZ G) T) {s : tS} {v1 : Int32} {v2 : Int32} {v3 : Int32} {v4 : Int32} {e : ((Int32 × Int32 × Int32 × tS) ⊕ (Int32 × tS))} (hT : t_X3_owedBy_l58 s v1 v2 v3 v4 = some e) (he : (Sum.elim (p_X3_owedBy_b4 G h0 K B T) (fun e => aTo (aEI e.1 (tput (gZ G) B T e.2)) K)) e) : aW G M_X3_owedBy 3 62 h0 K (tput (gZ G) B T s) 58 [some (.ref (T 100)), some (.int v1), some (.int v2), some (.int v3), some (.int v4), none] [] := by
  unfold t_X3_owedBy_l58 at hT
  refine a_iconst (v := 0) dX3_owedBy_58 (by decide) ?_
  exact k_X3_owedBy_l59 ht hT he
def t_X3_owedBy_b4 : (Int32 × Int32 × Int32 × tS) → Option ((Int32 × Int32 × Int32 × tS) ⊕ (Int32 × tS)) := fun (v1, v2, v3, s) =>
  (tld 0 s 1).bind fun z2 =>
  if z2 ≤ v3 then
    some (.inr ((v2, s)))
  else
    (t_X3_visitorAt v3).bind fun r6 =>
    (t_X3_lasts s v3).bind fun r10 =>
    if r10.1 = 0 then
      t_X3_owedBy_l58 r10.2 v1 v2 v3 r6
    else
      (tld 0 r10.2 (r6 + 4)).bind fun z21 =>
      if z21 = v1 then
        (tld 0 r10.2 (r6 + 6)).bind fun z24 =>
        if z24 = 0 then
          t_X3_owedBy_l59 r10.2 v1 v2 v3 r6 1
        else
          t_X3_owedBy_l58 r10.2 v1 v2 v3 r6
      else
        t_X3_owedBy_l58 r10.2 v1 v2 v3 r6
theorem kb_X3_owedBy_b4 {G : aG} {h0 B : aH} {T : Nat → Nat} {K : aRes → aH → Prop} (ht : tOk (gZ G) T) : ∀ (x9 : (Int32 × Int32 × Int32 × tS)) (e : ((Int32 × Int32 × Int32 × tS) ⊕ (Int32 × tS))), t_X3_owedBy_b4 x9 = some e → (Sum.elim (p_X3_owedBy_b4 G h0 K B T) (fun e => aTo (aEI e.1 (tput (gZ G) B T e.2)) K)) e → p_X3_owedBy_b4 G h0 K B T x9 := by
  intro x9 e hT he
  obtain ⟨v1, v2, v3, s⟩ := x9
  unfold p_X3_owedBy_b4
  unfold t_X3_owedBy_b4 at hT
  show aW G M_X3_owedBy 3 62 h0 K (tput (gZ G) B T s) 4 [some (.ref (T 100)), some (.int v1), some (.int v2), some (.int v3), none, none] []
  dsimp only at hT
  refine a_iload_n dX3_owedBy_4 rfl ?_
  refine a_aload_n dX3_owedBy_5 rfl ?_
  refine a_gA fl_X3_9_2 (tw_gA ht 0 (by decide)) dX3_owedBy_6 ?_
  refine a_iconst (v := 1) dX3_owedBy_9 (by decide) ?_
  obtain ⟨z2, e1, hT⟩ := obnd hT
  refine a_ldI (tw_ld ht 0 (by decide) e1) dX3_owedBy_10 ?_
  refine a_icmp_ge 94 dX3_owedBy_11 rfl (fun c3 => ?_) (fun c3 => ?_)
  · have hT := oifp c3 hT
    refine a_iload_n dX3_owedBy_94 rfl ?_
    cases hT
    exact a_iret rfl rfl dX3_owedBy_95 (he _ _ ⟨rfl, rfl⟩)
  · have hT := oifn c3 hT
    refine a_iload_n dX3_owedBy_14 rfl ?_
    obtain ⟨r6, e7, hT⟩ := obnd hT
    refine a_callS ks_X3_126 (k_X3_visitorAt e7) ⟨Nat.le_of_ble_eq_true rfl, Nat.le_of_ble_eq_true rfl⟩ (As := [.int v3]) (rest := []) rfl rfl (Nat.le_of_ble_eq_true rfl) dX3_owedBy_15 (kI ?_) xI
    refine a_istore (lv' := [some (.ref (T 100)), some (.int v1), some (.int v2), some (.int v3), some (.int r6), none]) dX3_owedBy_18 rfl (by decide) rfl ?_
    refine a_aload_n dX3_owedBy_20 rfl ?_
    refine a_iload_n dX3_owedBy_21 rfl ?_
    obtain ⟨r10, e11, hT⟩ := obnd hT
    refine a_callV kv_X3_183 (tw_is ht) (k_X3_lasts ht e11) ⟨Nat.le_of_ble_eq_true rfl, Nat.le_of_ble_eq_true rfl⟩ (As := [.int v3]) (rest := []) rfl rfl (Nat.le_of_ble_eq_true rfl) dX3_owedBy_22 (kI ?_) xI
    refine a_if_eq 58 dX3_owedBy_25 rfl (fun c12 => ?_) (fun c12 => ?_)
    · have hT := oifp c12 hT
      exact k_X3_owedBy_l58 ht hT he
    · have hT := oifn c12 hT
      refine a_aload_n dX3_owedBy_28 rfl ?_
      refine a_gA fl_X3_9_2 (tw_gA ht 0 (by decide)) dX3_owedBy_29 ?_
      refine a_iload dX3_owedBy_32 rfl ?_
      refine a_iconst (v := 4) dX3_owedBy_34 (by decide) ?_
      refine a_iadd dX3_owedBy_35 ?_
      obtain ⟨z21, e20, hT⟩ := obnd hT
      refine a_ldI (tw_ld ht 0 (by decide) e20) dX3_owedBy_36 ?_
      refine a_iload_n dX3_owedBy_37 rfl ?_
      refine a_icmp_ne 58 dX3_owedBy_38 rfl (fun c22 => ?_) (fun c22 => ?_)
      · have hT := oifn c22 hT
        exact k_X3_owedBy_l58 ht hT he
      · have hT := oifp c22 hT
        refine a_aload_n dX3_owedBy_41 rfl ?_
        refine a_gA fl_X3_9_2 (tw_gA ht 0 (by decide)) dX3_owedBy_42 ?_
        refine a_iload dX3_owedBy_45 rfl ?_
        refine a_bipush (v := 6) dX3_owedBy_47 (by decide) ?_
        refine a_iadd dX3_owedBy_49 ?_
        obtain ⟨z24, e23, hT⟩ := obnd hT
        refine a_ldI (tw_ld ht 0 (by decide) e23) dX3_owedBy_50 ?_
        refine a_if_ne 58 dX3_owedBy_51 rfl (fun c25 => ?_) (fun c25 => ?_)
        · have hT := oifn c25 hT
          exact k_X3_owedBy_l58 ht hT he
        · have hT := oifp c25 hT
          refine a_iconst (v := 1) dX3_owedBy_54 (by decide) ?_
          refine a_goto 59 dX3_owedBy_55 rfl ?_
          exact k_X3_owedBy_l59 ht hT he
theorem k_X3_owedBy_b4 {G : aG} {h0 B : aH} {T : Nat → Nat} {K : aRes → aH → Prop} (ht : tOk (gZ G) T) {n9 : Nat} {x9 : (Int32 × Int32 × Int32 × tS)} {e : (Int32 × tS)} (hT : wlo t_X3_owedBy_b4 n9 x9 = some e) (he : (fun e => aTo (aEI e.1 (tput (gZ G) B T e.2)) K) e) : p_X3_owedBy_b4 G h0 K B T x9 := wlo_W (kb_X3_owedBy_b4 ht) n9 x9 e hT he
def t_X3_owedBy (s : tS) (x0 : Int32) : Option (Int32 × tS) :=
  wlo t_X3_owedBy_b4 300 (x0, 0, 0, s)
theorem k_X3_owedBy {G : aG} {B : aH} {T : Nat → Nat} (ht : tOk (gZ G) T) {s : tS} {x0 : Int32} {e : (Int32 × tS)} (hT : t_X3_owedBy s x0 = some e) : aMet G yX3_owedBy (ws_ yX3_owedBy cX3_owedBy 6 (Option.some Jvm.ClassFile.FieldType.int)) 3 62 [.ref (T 100), .int x0] (tput (gZ G) B T s) (aEI e.1 (tput (gZ G) B T e.2)) := by
  refine aMet.of (lv := [some (.ref (T 100)), some (.int x0), none, none, none, none]) (by decide) (Nat.le_of_ble_eq_true rfl) 4 rfl ?_
  have he : aTo (aEI e.1 (tput (gZ G) B T e.2)) (aEI e.1 (tput (gZ G) B T e.2)) := aTo.rf
  unfold t_X3_owedBy at hT
  refine a_iconst (v := 0) dX3_owedBy_0 (by decide) ?_
  refine a_istore_n (lv' := [some (.ref (T 100)), some (.int x0), some (.int 0), none, none, none]) dX3_owedBy_1 rfl (by decide) rfl ?_
  refine a_iconst (v := 0) dX3_owedBy_2 (by decide) ?_
  refine a_istore_n (lv' := [some (.ref (T 100)), some (.int x0), some (.int 0), some (.int 0), none, none]) dX3_owedBy_3 rfl (by decide) rfl ?_
  exact k_X3_owedBy_b4 ht hT he
abbrev M_X3_measured : aM := (yX3_measured.cls, cX3_measured, 4, (Option.some Jvm.ClassFile.FieldType.int), [], yX3_measured.name)
def t_X3_measured (s : tS) (x0 : Int32) (x1 : Int32) : Option (Int32 × tS) :=
  (t_X3_visitorAt x1).bind fun r3 =>
  if x0 = 0 then
    (tld 0 s r3).bind fun z7 =>
    some (z7, s)
  else
    if x0 = 1 then
      (tld 0 s (r3 + 2)).bind fun z10 =>
      some (z10, s)
    else
      if x0 = 2 then
        (t_X3_lostOf s x1).bind fun r14 =>
        some (r14.1, r14.2)
      else
        (tld 0 s (r3 + 5)).bind fun z17 =>
        some (z17, s)
theorem k_X3_measured {G : aG} {B : aH} {T : Nat → Nat} (ht : tOk (gZ G) T) {s : tS} {x0 : Int32} {x1 : Int32} {e : (Int32 × tS)} (hT : t_X3_measured s x0 x1 = some e) : aMet G yX3_measured (ws_ yX3_measured cX3_measured 4 (Option.some Jvm.ClassFile.FieldType.int)) 3 62 [.ref (T 100), .int x0, .int x1] (tput (gZ G) B T s) (aEI e.1 (tput (gZ G) B T e.2)) := by
  refine aMet.of (lv := [some (.ref (T 100)), some (.int x0), some (.int x1), none]) (by decide) (Nat.le_of_ble_eq_true rfl) 1 rfl ?_
  have he : aTo (aEI e.1 (tput (gZ G) B T e.2)) (aEI e.1 (tput (gZ G) B T e.2)) := aTo.rf
  unfold t_X3_measured at hT
  refine a_iload_n dX3_measured_0 rfl ?_
  obtain ⟨r3, e4, hT⟩ := obnd hT
  refine a_callS ks_X3_126 (k_X3_visitorAt e4) ⟨Nat.le_of_ble_eq_true rfl, Nat.le_of_ble_eq_true rfl⟩ (As := [.int x1]) (rest := []) rfl rfl (Nat.le_of_ble_eq_true rfl) dX3_measured_1 (kI ?_) xI
  refine a_istore_n (lv' := [some (.ref (T 100)), some (.int x0), some (.int x1), some (.int r3)]) dX3_measured_4 rfl (by decide) rfl ?_
  refine a_iload_n dX3_measured_5 rfl ?_
  by_cases c5 : x0 = 0
  · have hT := oifp c5 hT
    refine a_tswIn 32 dX3_measured_6 (by rw [c5]; decide) (by rw [c5]; decide) (off := 26) (by rw [c5]; rfl) rfl ?_
    refine a_aload_n dX3_measured_32 rfl ?_
    refine a_gA fl_X3_9_2 (tw_gA ht 0 (by decide)) dX3_measured_33 ?_
    refine a_iload_n dX3_measured_36 rfl ?_
    obtain ⟨z7, e6, hT⟩ := obnd hT
    refine a_ldI (tw_ld ht 0 (by decide) e6) dX3_measured_37 ?_
    cases hT
    exact a_iret rfl rfl dX3_measured_38 (he _ _ ⟨rfl, rfl⟩)
  · have hT := oifn c5 hT
    by_cases c8 : x0 = 1
    · have hT := oifp c8 hT
      refine a_tswIn 39 dX3_measured_6 (by rw [c8]; decide) (by rw [c8]; decide) (off := 33) (by rw [c8]; rfl) rfl ?_
      refine a_aload_n dX3_measured_39 rfl ?_
      refine a_gA fl_X3_9_2 (tw_gA ht 0 (by decide)) dX3_measured_40 ?_
      refine a_iload_n dX3_measured_43 rfl ?_
      refine a_iconst (v := 2) dX3_measured_44 (by decide) ?_
      refine a_iadd dX3_measured_45 ?_
      obtain ⟨z10, e9, hT⟩ := obnd hT
      refine a_ldI (tw_ld ht 0 (by decide) e9) dX3_measured_46 ?_
      cases hT
      exact a_iret rfl rfl dX3_measured_47 (he _ _ ⟨rfl, rfl⟩)
    · have hT := oifn c8 hT
      by_cases c11 : x0 = 2
      · have hT := oifp c11 hT
        refine a_tswIn 48 dX3_measured_6 (by rw [c11]; decide) (by rw [c11]; decide) (off := 42) (by rw [c11]; rfl) rfl ?_
        refine a_aload_n dX3_measured_48 rfl ?_
        refine a_iload_n dX3_measured_49 rfl ?_
        obtain ⟨r14, e15, hT⟩ := obnd hT
        refine a_callV kv_X3_162 (tw_is ht) (k_X3_lostOf ht e15) ⟨Nat.le_of_ble_eq_true rfl, Nat.le_of_ble_eq_true rfl⟩ (As := [.int x1]) (rest := []) rfl rfl (Nat.le_of_ble_eq_true rfl) dX3_measured_50 (kI ?_) xI
        cases hT
        exact a_iret rfl rfl dX3_measured_53 (he _ _ ⟨rfl, rfl⟩)
      · have hT := oifn c11 hT
        refine aTsw 54 dX3_measured_6 rfl (cs := [0, 1, 2]) (by decide +kernel) (by simp only [List.mem_cons, List.not_mem_nil, or_false]; rintro z9 (rfl | rfl | rfl) <;> assumption) ?_
        refine a_aload_n dX3_measured_54 rfl ?_
        refine a_gA fl_X3_9_2 (tw_gA ht 0 (by decide)) dX3_measured_55 ?_
        refine a_iload_n dX3_measured_58 rfl ?_
        refine a_iconst (v := 5) dX3_measured_59 (by decide) ?_
        refine a_iadd dX3_measured_60 ?_
        obtain ⟨z17, e16, hT⟩ := obnd hT
        refine a_ldI (tw_ld ht 0 (by decide) e16) dX3_measured_61 ?_
        cases hT
        exact a_iret rfl rfl dX3_measured_62 (he _ _ ⟨rfl, rfl⟩)
theorem kv_X3_189 : aKV "MazeBondsModel" 189 2 yX3_owedBy cX3_owedBy 6 (Option.some Jvm.ClassFile.FieldType.int) 1 := ⟨⟨TX3, 21, rfl⟩, Or.inl q2006, q2008, qs56, q81, q2009, ⟨by decide +kernel, by decide +kernel, by decide +kernel⟩⟩
abbrev M_X3_richest : aM := (yX3_richest.cls, cX3_richest, 7, (Option.some Jvm.ClassFile.FieldType.int), [], yX3_richest.name)
def p_X3_richest_b7 (G : aG) (h0 : aH) (K : aRes → aH → Prop) (B : aH) (T : Nat → Nat) (x9 : (Int32 × Int32 × tS)) : Prop := aW G M_X3_richest 4 87 h0 K (tput (gZ G) B T x9.2.2) 7 [some (.ref (T 100)), some (.int x9.1), some (.int x9.2.1), none, none, none, none] []
def t_X3_richest_l122 (s : tS)  : Option (Int32 × tS) :=
  (t_X3_throwing s 1).bind fun r8 =>
  some (r8.1, r8.2)
theorem k_X3_richest_l122 {G : aG} {h0 B : aH} {T : Nat → Nat} {K : aRes → aH → Prop} (ht : tOk (gZ G) T) {s : tS}  {e : (Int32 × tS)} (hT : t_X3_richest_l122 s  = some e) (he : (fun e => aTo (aEI e.1 (tput (gZ G) B T e.2)) K) e) : aW G M_X3_richest 4 87 h0 K (tput (gZ G) B T s) 122 [some (.ref (T 100)), none, none, none, none, none, none] [] := by
  unfold t_X3_richest_l122 at hT
  refine a_aload_n dX3_richest_122 rfl ?_
  refine a_iconst (v := 1) dX3_richest_123 (by decide) ?_
  obtain ⟨r8, e9, hT⟩ := obnd hT
  refine a_callV kv_X3_50 (tw_is ht) (k_X3_throwing ht e9) ⟨Nat.le_of_ble_eq_true rfl, Nat.le_of_ble_eq_true rfl⟩ (As := [.int 1]) (rest := []) rfl rfl (Nat.le_of_ble_eq_true rfl) dX3_richest_124 (kI ?_) xI
  cases hT
  exact a_iret rfl rfl dX3_richest_127 (he _ _ ⟨rfl, rfl⟩)
def p_X3_richest_b22 (G : aG) (h0 : aH) (K : aRes → aH → Prop) (B : aH) (T : Nat → Nat) (x9 : (Int32 × Int32 × Int32 × Int32 × tS)) : Prop := aW G M_X3_richest 4 87 h0 K (tput (gZ G) B T x9.2.2.2.2) 22 [some (.ref (T 100)), some (.int x9.1), some (.int x9.2.1), some (.int x9.2.2.1), some (.int x9.2.2.2.1), none, none] []
def t_X3_richest_l101 (s : tS) (v1 : Int32) (v2 : Int32) (v4 : Int32) (u0 : Int32) (u1 : Int32) : Option ((Int32 × Int32 × Int32 × Int32 × tS) ⊕ ((Int32 × Int32 × tS) ⊕ (Int32 × tS))) :=
  some (.inl (v1, v2, (u1 + u0), (v4 + 1), s))
theorem k_X3_richest_l101 {G : aG} {h0 B : aH} {T : Nat → Nat} {K : aRes → aH → Prop} (ht : tOk (gZ G) T) {s : tS} {v1 : Int32} {v2 : Int32} {v4 : Int32} {u0 : Int32} {u1 : Int32} {e : ((Int32 × Int32 × Int32 × Int32 × tS) ⊕ ((Int32 × Int32 × tS) ⊕ (Int32 × tS)))} (hT : t_X3_richest_l101 s v1 v2 v4 u0 u1 = some e) (he : (Sum.elim (p_X3_richest_b22 G h0 K B T) (Sum.elim (p_X3_richest_b7 G h0 K B T) (fun e => aTo (aEI e.1 (tput (gZ G) B T e.2)) K))) e) : aW G M_X3_richest 4 87 h0 K (tput (gZ G) B T s) 101 [some (.ref (T 100)), some (.int v1), some (.int v2), none, some (.int v4), none, none] [.int u0, .int u1] := by
  unfold t_X3_richest_l101 at hT
  refine a_iadd dX3_richest_101 ?_
  refine a_istore_n (lv' := [some (.ref (T 100)), some (.int v1), some (.int v2), some (.int (u1 + u0)), some (.int v4), none, none]) dX3_richest_102 rfl (by decide) rfl ?_
  refine a_iinc (v := (v4 + 1)) (lv' := [some (.ref (T 100)), some (.int v1), some (.int v2), some (.int (u1 + u0)), some (.int (v4 + 1)), none, none]) dX3_richest_103 rfl (by rfl) rfl (by decide) rfl ?_
  refine a_goto 22 dX3_richest_106 rfl ?_
  cases hT
  exact he
def t_X3_richest_l96 (s : tS) (v1 : Int32) (v2 : Int32) (v4 : Int32) (u0 : Int32) : Option ((Int32 × Int32 × Int32 × Int32 × tS) ⊕ ((Int32 × Int32 × tS) ⊕ (Int32 × tS))) :=
  t_X3_richest_l101 s v1 v2 v4 1 u0
theorem k_X3_richest_l96 {G : aG} {h0 B : aH} {T : Nat → Nat} {K : aRes → aH → Prop} (ht : tOk (gZ G) T) {s : tS} {v1 : Int32} {v2 : Int32} {v4 : Int32} {u0 : Int32} {e : ((Int32 × Int32 × Int32 × Int32 × tS) ⊕ ((Int32 × Int32 × tS) ⊕ (Int32 × tS)))} (hT : t_X3_richest_l96 s v1 v2 v4 u0 = some e) (he : (Sum.elim (p_X3_richest_b22 G h0 K B T) (Sum.elim (p_X3_richest_b7 G h0 K B T) (fun e => aTo (aEI e.1 (tput (gZ G) B T e.2)) K))) e) : aW G M_X3_richest 4 87 h0 K (tput (gZ G) B T s) 96 [some (.ref (T 100)), some (.int v1), some (.int v2), none, some (.int v4), none, none] [.int u0] := by
  unfold t_X3_richest_l96 at hT
  refine a_iconst (v := 1) dX3_richest_96 (by decide) ?_
  refine a_goto 101 dX3_richest_97 rfl ?_
  exact k_X3_richest_l101 ht hT he
def t_X3_richest_l100 (s : tS) (v1 : Int32) (v2 : Int32) (v4 : Int32) (u0 : Int32) : Option ((Int32 × Int32 × Int32 × Int32 × tS) ⊕ ((Int32 × Int32 × tS) ⊕ (Int32 × tS))) :=
  t_X3_richest_l101 s v1 v2 v4 0 u0
theorem k_X3_richest_l100 {G : aG} {h0 B : aH} {T : Nat → Nat} {K : aRes → aH → Prop} (ht : tOk (gZ G) T) {s : tS} {v1 : Int32} {v2 : Int32} {v4 : Int32} {u0 : Int32} {e : ((Int32 × Int32 × Int32 × Int32 × tS) ⊕ ((Int32 × Int32 × tS) ⊕ (Int32 × tS)))} (hT : t_X3_richest_l100 s v1 v2 v4 u0 = some e) (he : (Sum.elim (p_X3_richest_b22 G h0 K B T) (Sum.elim (p_X3_richest_b7 G h0 K B T) (fun e => aTo (aEI e.1 (tput (gZ G) B T e.2)) K))) e) : aW G M_X3_richest 4 87 h0 K (tput (gZ G) B T s) 100 [some (.ref (T 100)), some (.int v1), some (.int v2), none, some (.int v4), none, none] [.int u0] := by
  unfold t_X3_richest_l100 at hT
  refine a_iconst (v := 0) dX3_richest_100 (by decide) ?_
  exact k_X3_richest_l101 ht hT he
def t_X3_richest_l77 (s : tS) (v1 : Int32) (v2 : Int32) (v3 : Int32) (v4 : Int32) (u0 : Int32) : Option ((Int32 × Int32 × Int32 × Int32 × tS) ⊕ ((Int32 × Int32 × tS) ⊕ (Int32 × tS))) :=
  if 0 < u0 then
    t_X3_richest_l96 s v1 v2 v4 v3
  else
    if u0 = 0 then
      if v2 ≤ v4 then
        t_X3_richest_l100 s v1 v2 v4 v3
      else
        t_X3_richest_l96 s v1 v2 v4 v3
    else
      t_X3_richest_l100 s v1 v2 v4 v3
theorem k_X3_richest_l77 {G : aG} {h0 B : aH} {T : Nat → Nat} {K : aRes → aH → Prop} (ht : tOk (gZ G) T) {s : tS} {v1 : Int32} {v2 : Int32} {v3 : Int32} {v4 : Int32} {u0 : Int32} {e : ((Int32 × Int32 × Int32 × Int32 × tS) ⊕ ((Int32 × Int32 × tS) ⊕ (Int32 × tS)))} (hT : t_X3_richest_l77 s v1 v2 v3 v4 u0 = some e) (he : (Sum.elim (p_X3_richest_b22 G h0 K B T) (Sum.elim (p_X3_richest_b7 G h0 K B T) (fun e => aTo (aEI e.1 (tput (gZ G) B T e.2)) K))) e) : aW G M_X3_richest 4 87 h0 K (tput (gZ G) B T s) 77 [some (.ref (T 100)), some (.int v1), some (.int v2), some (.int v3), some (.int v4), none, none] [.int u0] := by
  unfold t_X3_richest_l77 at hT
  refine a_istore (lv' := [some (.ref (T 100)), some (.int v1), some (.int v2), some (.int v3), some (.int v4), none, some (.int u0)]) dX3_richest_77 rfl (by decide) rfl ?_
  refine a_iload_n dX3_richest_79 rfl ?_
  refine a_iload dX3_richest_80 rfl ?_
  refine a_if_gt 96 dX3_richest_82 rfl (fun c27 => ?_) (fun c27 => ?_)
  · have hT := oifp c27 hT
    refine a_mask [true, true, true, false, true, true, false] ?_
    exact k_X3_richest_l96 ht hT he
  · have hT := oifn c27 hT
    refine a_iload dX3_richest_85 rfl ?_
    refine a_if_ne 100 dX3_richest_87 rfl (fun c28 => ?_) (fun c28 => ?_)
    · have hT := oifn c28 hT
      refine a_mask [true, true, true, false, true, true, false] ?_
      exact k_X3_richest_l100 ht hT he
    · have hT := oifp c28 hT
      refine a_iload dX3_richest_90 rfl ?_
      refine a_iload_n dX3_richest_92 rfl ?_
      refine a_icmp_ge 100 dX3_richest_93 rfl (fun c29 => ?_) (fun c29 => ?_)
      · have hT := oifp c29 hT
        refine a_mask [true, true, true, false, true, true, false] ?_
        exact k_X3_richest_l100 ht hT he
      · have hT := oifn c29 hT
        refine a_mask [true, true, true, false, true, true, false] ?_
        exact k_X3_richest_l96 ht hT he
def t_X3_richest_b22 : (Int32 × Int32 × Int32 × Int32 × tS) → Option ((Int32 × Int32 × Int32 × Int32 × tS) ⊕ ((Int32 × Int32 × tS) ⊕ (Int32 × tS))) := fun (v1, v2, v3, v4, s) =>
  (tld 0 s 0).bind fun z11 =>
  if z11 ≤ v4 then
    if v3 = v1 then
      some (.inr (.inr ((v2, s))))
    else
      some (.inr (.inl (v1, (v2 + 1), s)))
  else
    (t_X3_gardenerAt v4).bind fun r16 =>
    (tld 0 s r16).bind fun z19 =>
    (t_X3_gardenerAt v2).bind fun r22 =>
    (tld 0 s r22).bind fun z25 =>
    if (z19 - z25) = 0 then
      (t_X3_owedBy s v2).bind fun r32 =>
      (t_X3_owedBy r32.2 v4).bind fun r36 =>
      t_X3_richest_l77 r36.2 v1 v2 v3 v4 (r32.1 - r36.1)
    else
      t_X3_richest_l77 s v1 v2 v3 v4 (z19 - z25)
theorem kb_X3_richest_b22 {G : aG} {h0 B : aH} {T : Nat → Nat} {K : aRes → aH → Prop} (ht : tOk (gZ G) T) : ∀ (x9 : (Int32 × Int32 × Int32 × Int32 × tS)) (e : ((Int32 × Int32 × Int32 × Int32 × tS) ⊕ ((Int32 × Int32 × tS) ⊕ (Int32 × tS)))), t_X3_richest_b22 x9 = some e → (Sum.elim (p_X3_richest_b22 G h0 K B T) (Sum.elim (p_X3_richest_b7 G h0 K B T) (fun e => aTo (aEI e.1 (tput (gZ G) B T e.2)) K))) e → p_X3_richest_b22 G h0 K B T x9 := by
  intro x9 e hT he
  obtain ⟨v1, v2, v3, v4, s⟩ := x9
  unfold p_X3_richest_b22
  unfold t_X3_richest_b22 at hT
  show aW G M_X3_richest 4 87 h0 K (tput (gZ G) B T s) 22 [some (.ref (T 100)), some (.int v1), some (.int v2), some (.int v3), some (.int v4), none, none] []
  dsimp only at hT
  refine a_iload dX3_richest_22 rfl ?_
  refine a_aload_n dX3_richest_24 rfl ?_
  refine a_gA fl_X3_9_2 (tw_gA ht 0 (by decide)) dX3_richest_25 ?_
  refine a_iconst (v := 0) dX3_richest_28 (by decide) ?_
  obtain ⟨z11, e10, hT⟩ := obnd hT
  refine a_ldI (tw_ld ht 0 (by decide) e10) dX3_richest_29 ?_
  refine a_icmp_ge 109 dX3_richest_30 rfl (fun c12 => ?_) (fun c12 => ?_)
  · have hT := oifp c12 hT
    refine a_iload_n dX3_richest_109 rfl ?_
    refine a_iload_n dX3_richest_110 rfl ?_
    refine a_icmp_ne 116 dX3_richest_111 rfl (fun c13 => ?_) (fun c13 => ?_)
    · have hT := oifn c13 hT
      refine a_iinc (v := (v2 + 1)) (lv' := [some (.ref (T 100)), some (.int v1), some (.int (v2 + 1)), some (.int v3), some (.int v4), none, none]) dX3_richest_116 rfl (by rfl) rfl (by decide) rfl ?_
      refine a_goto 7 dX3_richest_119 rfl ?_
      cases hT
      refine a_mask [true, true, true, false, false, true, true] ?_
      exact he
    · have hT := oifp c13 hT
      refine a_iload_n dX3_richest_114 rfl ?_
      cases hT
      exact a_iret rfl rfl dX3_richest_115 (he _ _ ⟨rfl, rfl⟩)
  · have hT := oifn c12 hT
    refine a_aload_n dX3_richest_33 rfl ?_
    refine a_gA fl_X3_9_2 (tw_gA ht 0 (by decide)) dX3_richest_34 ?_
    refine a_iload dX3_richest_37 rfl ?_
    obtain ⟨r16, e17, hT⟩ := obnd hT
    refine a_callS ks_X3_120 (k_X3_gardenerAt e17) ⟨Nat.le_of_ble_eq_true rfl, Nat.le_of_ble_eq_true rfl⟩ (As := [.int v4]) (rest := [.ref (T 0)]) rfl rfl (Nat.le_of_ble_eq_true rfl) dX3_richest_39 (kI ?_) xI
    obtain ⟨z19, e18, hT⟩ := obnd hT
    refine a_ldI (tw_ld ht 0 (by decide) e18) dX3_richest_42 ?_
    refine a_aload_n dX3_richest_43 rfl ?_
    refine a_gA fl_X3_9_2 (tw_gA ht 0 (by decide)) dX3_richest_44 ?_
    refine a_iload_n dX3_richest_47 rfl ?_
    obtain ⟨r22, e23, hT⟩ := obnd hT
    refine a_callS ks_X3_120 (k_X3_gardenerAt e23) ⟨Nat.le_of_ble_eq_true rfl, Nat.le_of_ble_eq_true rfl⟩ (As := [.int v2]) (rest := [.ref (T 0), .int z19]) rfl rfl (Nat.le_of_ble_eq_true rfl) dX3_richest_48 (kI ?_) xI
    obtain ⟨z25, e24, hT⟩ := obnd hT
    refine a_ldI (tw_ld ht 0 (by decide) e24) dX3_richest_51 ?_
    refine a_isub dX3_richest_52 ?_
    refine a_istore (lv' := [some (.ref (T 100)), some (.int v1), some (.int v2), some (.int v3), some (.int v4), some (.int (z19 - z25)), none]) dX3_richest_53 rfl (by decide) rfl ?_
    refine a_iload dX3_richest_55 rfl ?_
    refine a_if_ne 75 dX3_richest_57 rfl (fun c26 => ?_) (fun c26 => ?_)
    · have hT := oifn c26 hT
      refine a_iload dX3_richest_75 rfl ?_
      refine a_mask [true, true, true, true, true, false, true] ?_
      exact k_X3_richest_l77 ht hT he
    · have hT := oifp c26 hT
      refine a_aload_n dX3_richest_60 rfl ?_
      refine a_iload_n dX3_richest_61 rfl ?_
      obtain ⟨r32, e33, hT⟩ := obnd hT
      refine a_callV kv_X3_189 (tw_is ht) (k_X3_owedBy ht e33) ⟨Nat.le_of_ble_eq_true rfl, Nat.le_of_ble_eq_true rfl⟩ (As := [.int v2]) (rest := []) rfl rfl (Nat.le_of_ble_eq_true rfl) dX3_richest_62 (kI ?_) xI
      refine a_aload_n dX3_richest_65 rfl ?_
      refine a_iload dX3_richest_66 rfl ?_
      obtain ⟨r36, e37, hT⟩ := obnd hT
      refine a_callV kv_X3_189 (tw_is ht) (k_X3_owedBy ht e37) ⟨Nat.le_of_ble_eq_true rfl, Nat.le_of_ble_eq_true rfl⟩ (As := [.int v4]) (rest := [.int r32.1]) rfl rfl (Nat.le_of_ble_eq_true rfl) dX3_richest_68 (kI ?_) xI
      refine a_isub dX3_richest_71 ?_
      refine a_goto 77 dX3_richest_72 rfl ?_
      refine a_mask [true, true, true, true, true, false, true] ?_
      exact k_X3_richest_l77 ht hT he
theorem k_X3_richest_b22 {G : aG} {h0 B : aH} {T : Nat → Nat} {K : aRes → aH → Prop} (ht : tOk (gZ G) T) {n9 : Nat} {x9 : (Int32 × Int32 × Int32 × Int32 × tS)} {e : ((Int32 × Int32 × tS) ⊕ (Int32 × tS))} (hT : wlo t_X3_richest_b22 n9 x9 = some e) (he : (Sum.elim (p_X3_richest_b7 G h0 K B T) (fun e => aTo (aEI e.1 (tput (gZ G) B T e.2)) K)) e) : p_X3_richest_b22 G h0 K B T x9 := wlo_W (kb_X3_richest_b22 ht) n9 x9 e hT he
def t_X3_richest_b7 : (Int32 × Int32 × tS) → Option ((Int32 × Int32 × tS) ⊕ (Int32 × tS)) := fun (v1, v2, s) =>
  (tld 0 s 0).bind fun z4 =>
  if z4 ≤ v2 then
    (t_X3_richest_l122 s).map .inr
  else
    wlo t_X3_richest_b22 300 (v1, v2, 0, 0, s)
theorem kb_X3_richest_b7 {G : aG} {h0 B : aH} {T : Nat → Nat} {K : aRes → aH → Prop} (ht : tOk (gZ G) T) : ∀ (x9 : (Int32 × Int32 × tS)) (e : ((Int32 × Int32 × tS) ⊕ (Int32 × tS))), t_X3_richest_b7 x9 = some e → (Sum.elim (p_X3_richest_b7 G h0 K B T) (fun e => aTo (aEI e.1 (tput (gZ G) B T e.2)) K)) e → p_X3_richest_b7 G h0 K B T x9 := by
  intro x9 e hT he
  obtain ⟨v1, v2, s⟩ := x9
  unfold p_X3_richest_b7
  unfold t_X3_richest_b7 at hT
  show aW G M_X3_richest 4 87 h0 K (tput (gZ G) B T s) 7 [some (.ref (T 100)), some (.int v1), some (.int v2), none, none, none, none] []
  dsimp only at hT
  refine a_iload_n dX3_richest_7 rfl ?_
  refine a_aload_n dX3_richest_8 rfl ?_
  refine a_gA fl_X3_9_2 (tw_gA ht 0 (by decide)) dX3_richest_9 ?_
  refine a_iconst (v := 0) dX3_richest_12 (by decide) ?_
  obtain ⟨z4, e3, hT⟩ := obnd hT
  refine a_ldI (tw_ld ht 0 (by decide) e3) dX3_richest_13 ?_
  refine a_icmp_ge 122 dX3_richest_14 rfl (fun c5 => ?_) (fun c5 => ?_)
  · have hT := oifp c5 hT
    refine a_mask [true, false, false, true, true, true, true] ?_
    obtain ⟨e8, hT8, rfl⟩ := omap hT
    exact k_X3_richest_l122 ht hT8 he
  · have hT := oifn c5 hT
    refine a_iconst (v := 0) dX3_richest_17 (by decide) ?_
    refine a_istore_n (lv' := [some (.ref (T 100)), some (.int v1), some (.int v2), some (.int 0), none, none, none]) dX3_richest_18 rfl (by decide) rfl ?_
    refine a_iconst (v := 0) dX3_richest_19 (by decide) ?_
    refine a_istore (lv' := [some (.ref (T 100)), some (.int v1), some (.int v2), some (.int 0), some (.int 0), none, none]) dX3_richest_20 rfl (by decide) rfl ?_
    exact k_X3_richest_b22 ht hT he
theorem k_X3_richest_b7 {G : aG} {h0 B : aH} {T : Nat → Nat} {K : aRes → aH → Prop} (ht : tOk (gZ G) T) {n9 : Nat} {x9 : (Int32 × Int32 × tS)} {e : (Int32 × tS)} (hT : wlo t_X3_richest_b7 n9 x9 = some e) (he : (fun e => aTo (aEI e.1 (tput (gZ G) B T e.2)) K) e) : p_X3_richest_b7 G h0 K B T x9 := wlo_W (kb_X3_richest_b7 ht) n9 x9 e hT he
def t_X3_richest (s : tS) (x0 : Int32) : Option (Int32 × tS) :=
  (tpf 12 s 0).bind fun s2 =>
  wlo t_X3_richest_b7 300 (x0, 0, s2)
theorem k_X3_richest {G : aG} {B : aH} {T : Nat → Nat} (ht : tOk (gZ G) T) {s : tS} {x0 : Int32} {e : (Int32 × tS)} (hT : t_X3_richest s x0 = some e) : aMet G yX3_richest (ws_ yX3_richest cX3_richest 7 (Option.some Jvm.ClassFile.FieldType.int)) 4 87 [.ref (T 100), .int x0] (tput (gZ G) B T s) (aEI e.1 (tput (gZ G) B T e.2)) := by
  refine aMet.of (lv := [some (.ref (T 100)), some (.int x0), none, none, none, none, none]) (by decide) (Nat.le_of_ble_eq_true rfl) 5 rfl ?_
  have he : aTo (aEI e.1 (tput (gZ G) B T e.2)) (aEI e.1 (tput (gZ G) B T e.2)) := aTo.rf
  unfold t_X3_richest at hT
  refine a_aload_n dX3_richest_0 rfl ?_
  refine a_iconst (v := 0) dX3_richest_1 (by decide) ?_
  obtain ⟨s2, e1, hT⟩ := obnd hT
  refine a_put (fp_X3_38_2 _) ⟨rfl, rfl⟩ (tw_pf ht 12 (by decide) e1) dX3_richest_2 ?_
  refine a_iconst (v := 0) dX3_richest_5 (by decide) ?_
  refine a_istore_n (lv' := [some (.ref (T 100)), some (.int x0), some (.int 0), none, none, none, none]) dX3_richest_6 rfl (by decide) rfl ?_
  exact k_X3_richest_b7 ht hT he
