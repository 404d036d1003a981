/-! the twin, decompiled (written by gen/twin.py) -/
set_option maxRecDepth 100000
abbrev M_X3_leaves : aM := (yX3_leaves.cls, cX3_leaves, 4, (Option.some Jvm.ClassFile.FieldType.int), [], yX3_leaves.name)
def t_X3_leaves (s : tS) (x0 : Int32) (x1 : Int32) : Option (Int32 × tS) :=
  (t_X3_areCells s x0 x1).bind fun r3 =>
  if r3.1 = 0 then
    some ((-1), r3.2)
  else
    (t_X3_hedgeAt x0 x1).bind fun r8 =>
    if r8 = (-1) then
      (t_X3_throwing r3.2 2).bind fun r15 =>
      some (r15.1, r15.2)
    else
      (tld 0 r3.2 r8).bind fun z12 =>
      some (z12, r3.2)
theorem k_X3_leaves {G : aG} {B : aH} {T : Nat → Nat} (ht : tOk (gZ G) T) {s : tS} {x0 : Int32} {x1 : Int32} {e : (Int32 × tS)} (hT : t_X3_leaves s x0 x1 = some e) : aMet G yX3_leaves (ws_ yX3_leaves cX3_leaves 4 (Option.some Jvm.ClassFile.FieldType.int)) 4 68 [.ref (T 100), .int x0, .int x1] (tput (gZ G) B T s) (aEI e.1 (tput (gZ G) B T e.2)) := by
  refine aMet.of (lv := [some (.ref (T 100)), some (.int x0), some (.int x1), none]) (by decide) (Nat.le_of_ble_eq_true rfl) 1 rfl ?_
  have he : aTo (aEI e.1 (tput (gZ G) B T e.2)) (aEI e.1 (tput (gZ G) B T e.2)) := aTo.rf
  unfold t_X3_leaves at hT
  refine a_aload_n dX3_leaves_0 rfl ?_
  refine a_iload_n dX3_leaves_1 rfl ?_
  refine a_iload_n dX3_leaves_2 rfl ?_
  obtain ⟨r3, e4, hT⟩ := obnd hT
  refine a_callV kv_X3_174 (tw_is ht) (k_X3_areCells ht e4) ⟨Nat.le_of_ble_eq_true rfl, Nat.le_of_ble_eq_true rfl⟩ (As := [.int x0, .int x1]) (rest := []) rfl rfl (Nat.le_of_ble_eq_true rfl) dX3_leaves_3 (kI ?_) xI
  refine a_if_ne 11 dX3_leaves_6 rfl (fun c5 => ?_) (fun c5 => ?_)
  · have hT := oifn c5 hT
    refine a_iload_n dX3_leaves_11 rfl ?_
    refine a_iload_n dX3_leaves_12 rfl ?_
    obtain ⟨r8, e9, hT⟩ := obnd hT
    refine a_callS ks_X3_77 (k_X3_hedgeAt e9) ⟨Nat.le_of_ble_eq_true rfl, Nat.le_of_ble_eq_true rfl⟩ (As := [.int x0, .int x1]) (rest := []) rfl rfl (Nat.le_of_ble_eq_true rfl) dX3_leaves_13 (kI ?_) xI
    refine a_istore_n (lv' := [some (.ref (T 100)), some (.int x0), some (.int x1), some (.int r8)]) dX3_leaves_16 rfl (by decide) rfl ?_
    refine a_iload_n dX3_leaves_17 rfl ?_
    refine a_iconst (v := (-1)) dX3_leaves_18 (by decide) ?_
    refine a_icmp_ne 30 dX3_leaves_19 rfl (fun c10 => ?_) (fun c10 => ?_)
    · have hT := oifn c10 hT
      refine a_aload_n dX3_leaves_30 rfl ?_
      refine a_gA fl_X3_9_2 (tw_gA ht 0 (by decide)) dX3_leaves_31 ?_
      refine a_iload_n dX3_leaves_34 rfl ?_
      obtain ⟨z12, e11, hT⟩ := obnd hT
      refine a_ldI (tw_ld ht 0 (by decide) e11) dX3_leaves_35 ?_
      cases hT
      exact a_iret rfl rfl dX3_leaves_36 (he _ _ ⟨rfl, rfl⟩)
    · have hT := oifp c10 hT
      refine a_aload_n dX3_leaves_22 rfl ?_
      refine a_iconst (v := 2) dX3_leaves_23 (by decide) ?_
      obtain ⟨r15, e16, hT⟩ := obnd hT
      refine a_callV kv_X3_50 (tw_is ht) (k_X3_throwing ht e16) ⟨Nat.le_of_ble_eq_true rfl, Nat.le_of_ble_eq_true rfl⟩ (As := [.int 2]) (rest := []) rfl rfl (Nat.le_of_ble_eq_true rfl) dX3_leaves_24 (kI ?_) xI
      refine a_goto 36 dX3_leaves_27 rfl ?_
      cases hT
      exact a_iret rfl rfl dX3_leaves_36 (he _ _ ⟨rfl, rfl⟩)
  · have hT := oifp c5 hT
    refine a_iconst (v := (-1)) dX3_leaves_9 (by decide) ?_
    cases hT
    exact a_iret rfl rfl dX3_leaves_10 (he _ _ ⟨rfl, rfl⟩)
abbrev M_X3_next : aM := (yX3_next.cls, cX3_next, 3, (Option.some Jvm.ClassFile.FieldType.int), [], yX3_next.name)
def t_X3_next_l35 (s : tS)  : Option (Int32 × tS) :=
  (t_X3_throwing s 2).bind fun r13 =>
  some (r13.1, r13.2)
theorem k_X3_next_l35 {G : aG} {h0 B : aH} {T : Nat → Nat} {K : aRes → aH → Prop} (ht : tOk (gZ G) T) {s : tS}  {e : (Int32 × tS)} (hT : t_X3_next_l35 s  = some e) (he : (fun e => aTo (aEI e.1 (tput (gZ G) B T e.2)) K) e) : aW G M_X3_next 4 91 h0 K (tput (gZ G) B T s) 35 [some (.ref (T 100)), none, none] [] := by
  unfold t_X3_next_l35 at hT
  refine a_aload_n dX3_next_35 rfl ?_
  refine a_iconst (v := 2) dX3_next_36 (by decide) ?_
  obtain ⟨r13, e14, hT⟩ := obnd hT
  refine a_callV kv_X3_50 (tw_is ht) (k_X3_throwing ht e14) ⟨Nat.le_of_ble_eq_true rfl, Nat.le_of_ble_eq_true rfl⟩ (As := [.int 2]) (rest := []) rfl rfl (Nat.le_of_ble_eq_true rfl) dX3_next_37 (kI ?_) xI
  cases hT
  exact a_iret rfl rfl dX3_next_40 (he _ _ ⟨rfl, rfl⟩)
def p_X3_next_b43 (G : aG) (h0 : aH) (K : aRes → aH → Prop) (B : aH) (T : Nat → Nat) (x9 : (Int32 × Int32 × tS)) : Prop := aW G M_X3_next 4 91 h0 K (tput (gZ G) B T x9.2.2) 43 [some (.ref (T 100)), some (.int x9.1), some (.int x9.2.1)] []
def t_X3_next_l81 (s : tS) (v1 : Int32) (v2 : Int32) : Option ((Int32 × Int32 × tS) ⊕ (Int32 × tS)) :=
  some (.inl (v1, (v2 + 1), s))
theorem k_X3_next_l81 {G : aG} {h0 B : aH} {T : Nat → Nat} {K : aRes → aH → Prop} (ht : tOk (gZ G) T) {s : tS} {v1 : Int32} {v2 : Int32} {e : ((Int32 × Int32 × tS) ⊕ (Int32 × tS))} (hT : t_X3_next_l81 s v1 v2 = some e) (he : (Sum.elim (p_X3_next_b43 G h0 K B T) (fun e => aTo (aEI e.1 (tput (gZ G) B T e.2)) K)) e) : aW G M_X3_next 4 91 h0 K (tput (gZ G) B T s) 81 [some (.ref (T 100)), some (.int v1), some (.int v2)] [] := by
  unfold t_X3_next_l81 at hT
  refine a_iinc (v := (v2 + 1)) (lv' := [some (.ref (T 100)), some (.int v1), some (.int (v2 + 1))]) dX3_next_81 rfl (by rfl) rfl (by decide) rfl ?_
  refine a_goto 43 dX3_next_84 rfl ?_
  cases hT
  exact he
def t_X3_next_b43 : (Int32 × Int32 × tS) → Option ((Int32 × Int32 × tS) ⊕ (Int32 × tS)) := fun (v1, v2, s) =>
  (t_X3_hedgeAt v1 v2).bind fun r20 =>
  if r20 = (-1) then
    t_X3_next_l81 s v1 v2
  else
    (t_X3_hedgeAt v1 v2).bind fun r25 =>
    (t_X3_isGapAt s r25).bind fun r29 =>
    if r29.1 = 0 then
      t_X3_next_l81 r29.2 v1 v2
    else
      (tld 13 r29.2 v2).bind fun z33 =>
      (tld 13 r29.2 v1).bind fun z35 =>
      if z33 = (z35 - 1) then
        some (.inr ((v2, r29.2)))
      else
        t_X3_next_l81 r29.2 v1 v2
theorem kb_X3_next_b43 {G : aG} {h0 B : aH} {T : Nat → Nat} {K : aRes → aH → Prop} (ht : tOk (gZ G) T) : ∀ (x9 : (Int32 × Int32 × tS)) (e : ((Int32 × Int32 × tS) ⊕ (Int32 × tS))), t_X3_next_b43 x9 = some e → (Sum.elim (p_X3_next_b43 G h0 K B T) (fun e => aTo (aEI e.1 (tput (gZ G) B T e.2)) K)) e → p_X3_next_b43 G h0 K B T x9 := by
  intro x9 e hT he
  obtain ⟨v1, v2, s⟩ := x9
  unfold p_X3_next_b43
  unfold t_X3_next_b43 at hT
  show aW G M_X3_next 4 91 h0 K (tput (gZ G) B T s) 43 [some (.ref (T 100)), some (.int v1), some (.int v2)] []
  dsimp only at hT
  refine a_iload_n dX3_next_43 rfl ?_
  refine a_iload_n dX3_next_44 rfl ?_
  obtain ⟨r20, e21, hT⟩ := obnd hT
  refine a_callS ks_X3_77 (k_X3_hedgeAt e21) ⟨Nat.le_of_ble_eq_true rfl, Nat.le_of_ble_eq_true rfl⟩ (As := [.int v1, .int v2]) (rest := []) rfl rfl (Nat.le_of_ble_eq_true rfl) dX3_next_45 (kI ?_) xI
  refine a_iconst (v := (-1)) dX3_next_48 (by decide) ?_
  refine a_icmp_eq 81 dX3_next_49 rfl (fun c22 => ?_) (fun c22 => ?_)
  · have hT := oifp c22 hT
    exact k_X3_next_l81 ht hT he
  · have hT := oifn c22 hT
    refine a_aload_n dX3_next_52 rfl ?_
    refine a_iload_n dX3_next_53 rfl ?_
    refine a_iload_n dX3_next_54 rfl ?_
    obtain ⟨r25, e26, hT⟩ := obnd hT
    refine a_callS ks_X3_77 (k_X3_hedgeAt e26) ⟨Nat.le_of_ble_eq_true rfl, Nat.le_of_ble_eq_true rfl⟩ (As := [.int v1, .int v2]) (rest := [.ref (T 100)]) rfl rfl (Nat.le_of_ble_eq_true rfl) dX3_next_55 (kI ?_) xI
    obtain ⟨r29, e30, hT⟩ := obnd hT
    refine a_callV kv_X3_80 (tw_is ht) (k_X3_isGapAt ht e30) ⟨Nat.le_of_ble_eq_true rfl, Nat.le_of_ble_eq_true rfl⟩ (As := [.int r25]) (rest := []) rfl rfl (Nat.le_of_ble_eq_true rfl) dX3_next_58 (kI ?_) xI
    refine a_if_eq 81 dX3_next_61 rfl (fun c31 => ?_) (fun c31 => ?_)
    · have hT := oifp c31 hT
      exact k_X3_next_l81 ht hT he
    · have hT := oifn c31 hT
      refine a_aload_n dX3_next_64 rfl ?_
      refine a_gA fl_X3_29_2 (tw_gA ht 13 (by decide)) dX3_next_65 ?_
      refine a_iload_n dX3_next_68 rfl ?_
      obtain ⟨z33, e32, hT⟩ := obnd hT
      refine a_ldI (tw_ld ht 13 (by decide) e32) dX3_next_69 ?_
      refine a_aload_n dX3_next_70 rfl ?_
      refine a_gA fl_X3_29_2 (tw_gA ht 13 (by decide)) dX3_next_71 ?_
      refine a_iload_n dX3_next_74 rfl ?_
      obtain ⟨z35, e34, hT⟩ := obnd hT
      refine a_ldI (tw_ld ht 13 (by decide) e34) dX3_next_75 ?_
      refine a_iconst (v := 1) dX3_next_76 (by decide) ?_
      refine a_isub dX3_next_77 ?_
      refine a_icmp_eq 87 dX3_next_78 rfl (fun c36 => ?_) (fun c36 => ?_)
      · have hT := oifp c36 hT
        refine a_iload_n dX3_next_87 rfl ?_
        cases hT
        exact a_iret rfl rfl dX3_next_88 (he _ _ ⟨rfl, rfl⟩)
      · have hT := oifn c36 hT
        exact k_X3_next_l81 ht hT he
theorem k_X3_next_b43 {G : aG} {h0 B : aH} {T : Nat → Nat} {K : aRes → aH → Prop} (ht : tOk (gZ G) T) {n9 : Nat} {x9 : (Int32 × Int32 × tS)} {e : (Int32 × tS)} (hT : wlo t_X3_next_b43 n9 x9 = some e) (he : (fun e => aTo (aEI e.1 (tput (gZ G) B T e.2)) K) e) : p_X3_next_b43 G h0 K B T x9 := wlo_W (kb_X3_next_b43 ht) n9 x9 e hT he
def t_X3_next (s : tS) (x0 : Int32) : Option (Int32 × tS) :=
  (t_X3_areCells s x0 x0).bind fun r3 =>
  if r3.1 = 0 then
    some ((-1), r3.2)
  else
    (t_X3_laysWays r3.2 15 0).bind fun r8 =>
    if x0 = 15 then
      t_X3_next_l35 r8.2
    else
      (tld 13 r8.2 x0).bind fun z16 =>
      if z16 < 99 then
        wlo t_X3_next_b43 300 (x0, 0, r8.2)
      else
        t_X3_next_l35 r8.2
theorem k_X3_next {G : aG} {B : aH} {T : Nat → Nat} (ht : tOk (gZ G) T) {s : tS} {x0 : Int32} {e : (Int32 × tS)} (hT : t_X3_next s x0 = some e) : aMet G yX3_next (ws_ yX3_next cX3_next 3 (Option.some Jvm.ClassFile.FieldType.int)) 4 91 [.ref (T 100), .int x0] (tput (gZ G) B T s) (aEI e.1 (tput (gZ G) B T e.2)) := by
  refine aMet.of (lv := [some (.ref (T 100)), some (.int x0), none]) (by decide) (Nat.le_of_ble_eq_true rfl) 1 rfl ?_
  have he : aTo (aEI e.1 (tput (gZ G) B T e.2)) (aEI e.1 (tput (gZ G) B T e.2)) := aTo.rf
  unfold t_X3_next at hT
  refine a_aload_n dX3_next_0 rfl ?_
  refine a_iload_n dX3_next_1 rfl ?_
  refine a_iload_n dX3_next_2 rfl ?_
  obtain ⟨r3, e4, hT⟩ := obnd hT
  refine a_callV kv_X3_174 (tw_is ht) (k_X3_areCells ht e4) ⟨Nat.le_of_ble_eq_true rfl, Nat.le_of_ble_eq_true rfl⟩ (As := [.int x0, .int x0]) (rest := []) rfl rfl (Nat.le_of_ble_eq_true rfl) dX3_next_3 (kI ?_) xI
  refine a_if_ne 11 dX3_next_6 rfl (fun c5 => ?_) (fun c5 => ?_)
  · have hT := oifn c5 hT
    refine a_aload_n dX3_next_11 rfl ?_
    refine a_bipush (v := 15) dX3_next_12 (by decide) ?_
    refine a_iconst (v := 0) dX3_next_14 (by decide) ?_
    obtain ⟨r8, e9, hT⟩ := obnd hT
    refine a_callV kv_X3_84 (tw_is ht) (k_X3_laysWays ht e9) ⟨Nat.le_of_ble_eq_true rfl, Nat.le_of_ble_eq_true rfl⟩ (As := [.int 15, .int 0]) (rest := []) rfl rfl (Nat.le_of_ble_eq_true rfl) dX3_next_15 (kV ?_) xV
    refine a_iload_n dX3_next_18 rfl ?_
    refine a_bipush (v := 15) dX3_next_19 (by decide) ?_
    refine a_icmp_eq 35 dX3_next_21 rfl (fun c10 => ?_) (fun c10 => ?_)
    · have hT := oifp c10 hT
      refine a_mask [true, false, true] ?_
      exact k_X3_next_l35 ht hT he
    · have hT := oifn c10 hT
      refine a_aload_n dX3_next_24 rfl ?_
      refine a_gA fl_X3_29_2 (tw_gA ht 13 (by decide)) dX3_next_25 ?_
      refine a_iload_n dX3_next_28 rfl ?_
      obtain ⟨z16, e15, hT⟩ := obnd hT
      refine a_ldI (tw_ld ht 13 (by decide) e15) dX3_next_29 ?_
      refine a_bipush (v := 99) dX3_next_30 (by decide) ?_
      refine a_icmp_lt 41 dX3_next_32 rfl (fun c17 => ?_) (fun c17 => ?_)
      · have hT := oifp c17 hT
        refine a_iconst (v := 0) dX3_next_41 (by decide) ?_
        refine a_istore_n (lv' := [some (.ref (T 100)), some (.int x0), some (.int 0)]) dX3_next_42 rfl (by decide) rfl ?_
        exact k_X3_next_b43 ht hT he
      · have hT := oifn c17 hT
        refine a_mask [true, false, true] ?_
        exact k_X3_next_l35 ht hT he
  · have hT := oifp c5 hT
    refine a_iconst (v := (-1)) dX3_next_9 (by decide) ?_
    cases hT
    exact a_iret rfl rfl dX3_next_10 (he _ _ ⟨rfl, rfl⟩)
theorem kv_X3_145 : aKV "MazeBondsModel" 145 2 yX3_reachedFrom cX3_reachedFrom 4 (Option.some Jvm.ClassFile.FieldType.int) 1 := ⟨⟨TX3, 21, rfl⟩, Or.inl q1888, q1890, qs46, q81, q1891, ⟨by decide +kernel, by decide +kernel, by decide +kernel⟩⟩
abbrev M_X3_reached : aM := (yX3_reached.cls, cX3_reached, 2, (Option.some Jvm.ClassFile.FieldType.int), [], yX3_reached.name)
def t_X3_reached (s : tS) (x0 : Int32) : Option (Int32 × tS) :=
  (t_X3_areCells s x0 x0).bind fun r3 =>
  if r3.1 = 0 then
    some ((-1), r3.2)
  else
    (t_X3_reachedFrom r3.2 x0).bind fun r8 =>
    some (r8.1, r8.2)
theorem k_X3_reached {G : aG} {B : aH} {T : Nat → Nat} (ht : tOk (gZ G) T) {s : tS} {x0 : Int32} {e : (Int32 × tS)} (hT : t_X3_reached s x0 = some e) : aMet G yX3_reached (ws_ yX3_reached cX3_reached 2 (Option.some Jvm.ClassFile.FieldType.int)) 5 114 [.ref (T 100), .int x0] (tput (gZ G) B T s) (aEI e.1 (tput (gZ G) B T e.2)) := by
  refine aMet.of (lv := [some (.ref (T 100)), some (.int x0)]) (by decide) (Nat.le_of_ble_eq_true rfl) 0 rfl ?_
  have he : aTo (aEI e.1 (tput (gZ G) B T e.2)) (aEI e.1 (tput (gZ G) B T e.2)) := aTo.rf
  unfold t_X3_reached at hT
  refine a_aload_n dX3_reached_0 rfl ?_
  refine a_iload_n dX3_reached_1 rfl ?_
  refine a_iload_n dX3_reached_2 rfl ?_
  obtain ⟨r3, e4, hT⟩ := obnd hT
  refine a_callV kv_X3_174 (tw_is ht) (k_X3_areCells ht e4) ⟨Nat.le_of_ble_eq_true rfl, Nat.le_of_ble_eq_true rfl⟩ (As := [.int x0, .int x0]) (rest := []) rfl rfl (Nat.le_of_ble_eq_true rfl) dX3_reached_3 (kI ?_) xI
  refine a_if_eq 17 dX3_reached_6 rfl (fun c5 => ?_) (fun c5 => ?_)
  · have hT := oifp c5 hT
    refine a_iconst (v := (-1)) dX3_reached_17 (by decide) ?_
    cases hT
    exact a_iret rfl rfl dX3_reached_18 (he _ _ ⟨rfl, rfl⟩)
  · have hT := oifn c5 hT
    refine a_aload_n dX3_reached_9 rfl ?_
    refine a_iload_n dX3_reached_10 rfl ?_
    obtain ⟨r8, e9, hT⟩ := obnd hT
    refine a_callV kv_X3_145 (tw_is ht) (k_X3_reachedFrom ht e9) ⟨Nat.le_of_ble_eq_true rfl, Nat.le_of_ble_eq_true rfl⟩ (As := [.int x0]) (rest := []) rfl rfl (Nat.le_of_ble_eq_true rfl) dX3_reached_11 (kI ?_) xI
    refine a_goto 18 dX3_reached_14 rfl ?_
    cases hT
    exact a_iret rfl rfl dX3_reached_18 (he _ _ ⟨rfl, rfl⟩)
abbrev M_X3_trims : aM := (yX3_trims.cls, cX3_trims, 2, (Option.some Jvm.ClassFile.FieldType.int), [], yX3_trims.name)
def t_X3_trims (s : tS) (x0 : Int32) : Option (Int32 × tS) :=
  (t_X3_areCells s x0 x0).bind fun r3 =>
  if r3.1 = 0 then
    some ((-1), r3.2)
  else
    (t_X3_laysWays r3.2 x0 1).bind fun r8 =>
    (tld 13 r8.2 15).bind fun z11 =>
    some (z11, r8.2)
theorem k_X3_trims {G : aG} {B : aH} {T : Nat → Nat} (ht : tOk (gZ G) T) {s : tS} {x0 : Int32} {e : (Int32 × tS)} (hT : t_X3_trims s x0 = some e) : aMet G yX3_trims (ws_ yX3_trims cX3_trims 2 (Option.some Jvm.ClassFile.FieldType.int)) 4 91 [.ref (T 100), .int x0] (tput (gZ G) B T s) (aEI e.1 (tput (gZ G) B T e.2)) := by
  refine aMet.of (lv := [some (.ref (T 100)), some (.int x0)]) (by decide) (Nat.le_of_ble_eq_true rfl) 0 rfl ?_
  have he : aTo (aEI e.1 (tput (gZ G) B T e.2)) (aEI e.1 (tput (gZ G) B T e.2)) := aTo.rf
  unfold t_X3_trims at hT
  refine a_aload_n dX3_trims_0 rfl ?_
  refine a_iload_n dX3_trims_1 rfl ?_
  refine a_iload_n dX3_trims_2 rfl ?_
  obtain ⟨r3, e4, hT⟩ := obnd hT
  refine a_callV kv_X3_174 (tw_is ht) (k_X3_areCells ht e4) ⟨Nat.le_of_ble_eq_true rfl, Nat.le_of_ble_eq_true rfl⟩ (As := [.int x0, .int x0]) (rest := []) rfl rfl (Nat.le_of_ble_eq_true rfl) dX3_trims_3 (kI ?_) xI
  refine a_if_ne 11 dX3_trims_6 rfl (fun c5 => ?_) (fun c5 => ?_)
  · have hT := oifn c5 hT
    refine a_aload_n dX3_trims_11 rfl ?_
    refine a_iload_n dX3_trims_12 rfl ?_
    refine a_iconst (v := 1) dX3_trims_13 (by decide) ?_
    obtain ⟨r8, e9, hT⟩ := obnd hT
    refine a_callV kv_X3_84 (tw_is ht) (k_X3_laysWays ht e9) ⟨Nat.le_of_ble_eq_true rfl, Nat.le_of_ble_eq_true rfl⟩ (As := [.int x0, .int 1]) (rest := []) rfl rfl (Nat.le_of_ble_eq_true rfl) dX3_trims_14 (kV ?_) xV
    refine a_aload_n dX3_trims_17 rfl ?_
    refine a_gA fl_X3_29_2 (tw_gA ht 13 (by decide)) dX3_trims_18 ?_
    refine a_bipush (v := 15) dX3_trims_21 (by decide) ?_
    obtain ⟨z11, e10, hT⟩ := obnd hT
    refine a_ldI (tw_ld ht 13 (by decide) e10) dX3_trims_23 ?_
    cases hT
    exact a_iret rfl rfl dX3_trims_24 (he _ _ ⟨rfl, rfl⟩)
  · have hT := oifp c5 hT
    refine a_iconst (v := (-1)) dX3_trims_9 (by decide) ?_
    cases hT
    exact a_iret rfl rfl dX3_trims_10 (he _ _ ⟨rfl, rfl⟩)
theorem kv_X3_180 : aKV "MazeBondsModel" 180 2 yX3_trims cX3_trims 2 (Option.some Jvm.ClassFile.FieldType.int) 1 := ⟨⟨TX3, 21, rfl⟩, Or.inl q1969, q1962, q1963, q81, q1964, ⟨by decide +kernel, by decide +kernel, by decide +kernel⟩⟩
abbrev M_X3_trimsAgain : aM := (yX3_trimsAgain.cls, cX3_trimsAgain, 2, (Option.some Jvm.ClassFile.FieldType.int), [], yX3_trimsAgain.name)
def t_X3_trimsAgain (s : tS) (x0 : Int32) : Option (Int32 × tS) :=
  (t_X3_trims s x0).bind fun r3 =>
  some (r3.1, r3.2)
theorem k_X3_trimsAgain {G : aG} {B : aH} {T : Nat → Nat} (ht : tOk (gZ G) T) {s : tS} {x0 : Int32} {e : (Int32 × tS)} (hT : t_X3_trimsAgain s x0 = some e) : aMet G yX3_trimsAgain (ws_ yX3_trimsAgain cX3_trimsAgain 2 (Option.some Jvm.ClassFile.FieldType.int)) 5 112 [.ref (T 100), .int x0] (tput (gZ G) B T s) (aEI e.1 (tput (gZ G) B T e.2)) := by
  refine aMet.of (lv := [some (.ref (T 100)), some (.int x0)]) (by decide) (Nat.le_of_ble_eq_true rfl) 0 rfl ?_
  have he : aTo (aEI e.1 (tput (gZ G) B T e.2)) (aEI e.1 (tput (gZ G) B T e.2)) := aTo.rf
  unfold t_X3_trimsAgain at hT
  refine a_aload_n dX3_trimsAgain_0 rfl ?_
  refine a_iload_n dX3_trimsAgain_1 rfl ?_
  obtain ⟨r3, e4, hT⟩ := obnd hT
  refine a_callV kv_X3_180 (tw_is ht) (k_X3_trims ht e4) ⟨Nat.le_of_ble_eq_true rfl, Nat.le_of_ble_eq_true rfl⟩ (As := [.int x0]) (rest := []) rfl rfl (Nat.le_of_ble_eq_true rfl) dX3_trimsAgain_2 (kI ?_) xI
  cases hT
  exact a_iret rfl rfl dX3_trimsAgain_5 (he _ _ ⟨rfl, rfl⟩)
abbrev M_X3_lasting : aM := (yX3_lasting.cls, cX3_lasting, 4, (Option.some Jvm.ClassFile.FieldType.int), [], yX3_lasting.name)
def p_X3_lasting_b4 (G : aG) (h0 : aH) (K : aRes → aH → Prop) (B : aH) (T : Nat → Nat) (x9 : (Int32 × Int32 × Int32 × tS)) : Prop := aW G M_X3_lasting 3 42 h0 K (tput (gZ G) B T x9.2.2.2) 4 [some (.ref (T 100)), some (.int x9.1), some (.int x9.2.1), some (.int x9.2.2.1)] []
def t_X3_lasting_l48 (s : tS) (v1 : Int32) (v3 : Int32) (u0 : Int32) (u1 : Int32) : Option ((Int32 × Int32 × Int32 × tS) ⊕ (Int32 × tS)) :=
  some (.inl (v1, (u1 + u0), (v3 + 1), s))
theorem k_X3_lasting_l48 {G : aG} {h0 B : aH} {T : Nat → Nat} {K : aRes → aH → Prop} (ht : tOk (gZ G) T) {s : tS} {v1 : Int32} {v3 : Int32} {u0 : Int32} {u1 : Int32} {e : ((Int32 × Int32 × Int32 × tS) ⊕ (Int32 × tS))} (hT : t_X3_lasting_l48 s v1 v3 u0 u1 = some e) (he : (Sum.elim (p_X3_lasting_b4 G h0 K B T) (fun e => aTo (aEI e.1 (tput (gZ G) B T e.2)) K)) e) : aW G M_X3_lasting 3 42 h0 K (tput (gZ G) B T s) 48 [some (.ref (T 100)), some (.int v1), none, some (.int v3)] [.int u0, .int u1] := by
  unfold t_X3_lasting_l48 at hT
  refine a_iadd dX3_lasting_48 ?_
  refine a_istore_n (lv' := [some (.ref (T 100)), some (.int v1), some (.int (u1 + u0)), some (.int v3)]) dX3_lasting_49 rfl (by decide) rfl ?_
  refine a_iinc (v := (v3 + 1)) (lv' := [some (.ref (T 100)), some (.int v1), some (.int (u1 + u0)), some (.int (v3 + 1))]) dX3_lasting_50 rfl (by rfl) rfl (by decide) rfl ?_
  refine a_goto 4 dX3_lasting_53 rfl ?_
  cases hT
  exact he
def t_X3_lasting_l47 (s : tS) (v1 : Int32) (v3 : Int32) (u0 : Int32) : Option ((Int32 × Int32 × Int32 × tS) ⊕ (Int32 × tS)) :=
  t_X3_lasting_l48 s v1 v3 0 u0
theorem k_X3_lasting_l47 {G : aG} {h0 B : aH} {T : Nat → Nat} {K : aRes → aH → Prop} (ht : tOk (gZ G) T) {s : tS} {v1 : Int32} {v3 : Int32} {u0 : Int32} {e : ((Int32 × Int32 × Int32 × tS) ⊕ (Int32 × tS))} (hT : t_X3_lasting_l47 s v1 v3 u0 = some e) (he : (Sum.elim (p_X3_lasting_b4 G h0 K B T) (fun e => aTo (aEI e.1 (tput (gZ G) B T e.2)) K)) e) : aW G M_X3_lasting 3 42 h0 K (tput (gZ G) B T s) 47 [some (.ref (T 100)), some (.int v1), none, some (.int v3)] [.int u0] := by
  unfold t_X3_lasting_l47 at hT
  refine a_iconst (v := 0) dX3_lasting_47 (by decide) ?_
  exact k_X3_lasting_l48 ht hT he
def t_X3_lasting_l43 (s : tS) (v1 : Int32) (v3 : Int32) (u0 : Int32) : Option ((Int32 × Int32 × Int32 × tS) ⊕ (Int32 × tS)) :=
  t_X3_lasting_l48 s v1 v3 1 u0
theorem k_X3_lasting_l43 {G : aG} {h0 B : aH} {T : Nat → Nat} {K : aRes → aH → Prop} (ht : tOk (gZ G) T) {s : tS} {v1 : Int32} {v3 : Int32} {u0 : Int32} {e : ((Int32 × Int32 × Int32 × tS) ⊕ (Int32 × tS))} (hT : t_X3_lasting_l43 s v1 v3 u0 = some e) (he : (Sum.elim (p_X3_lasting_b4 G h0 K B T) (fun e => aTo (aEI e.1 (tput (gZ G) B T e.2)) K)) e) : aW G M_X3_lasting 3 42 h0 K (tput (gZ G) B T s) 43 [some (.ref (T 100)), some (.int v1), none, some (.int v3)] [.int u0] := by
  unfold t_X3_lasting_l43 at hT
  refine a_iconst (v := 1) dX3_lasting_43 (by decide) ?_
  refine a_goto 48 dX3_lasting_44 rfl ?_
  exact k_X3_lasting_l48 ht hT he
def t_X3_lasting_b4 : (Int32 × Int32 × Int32 × tS) → Option ((Int32 × Int32 × Int32 × tS) ⊕ (Int32 × tS)) := fun (v1, v2, v3, s) =>
  (tld 0 s 1).bind fun z2 =>
  if z2 ≤ v3 then
    some (.inr ((v2, s)))
  else
    (t_X3_lasts s v3).bind fun r6 =>
    if r6.1 = 0 then
      t_X3_lasting_l47 r6.2 v1 v3 v2
    else
      if v1 = (-1) then
        t_X3_lasting_l43 r6.2 v1 v3 v2
      else
        (t_X3_visitorAt v3).bind fun r12 =>
        (tld 0 r6.2 (r12 + 4)).bind fun z15 =>
        if z15 = v1 then
          t_X3_lasting_l43 r6.2 v1 v3 v2
        else
          t_X3_lasting_l47 r6.2 v1 v3 v2
theorem kb_X3_lasting_b4 {G : aG} {h0 B : aH} {T : Nat → Nat} {K : aRes → aH → Prop} (ht : tOk (gZ G) T) : ∀ (x9 : (Int32 × Int32 × Int32 × tS)) (e : ((Int32 × Int32 × Int32 × tS) ⊕ (Int32 × tS))), t_X3_lasting_b4 x9 = some e → (Sum.elim (p_X3_lasting_b4 G h0 K B T) (fun e => aTo (aEI e.1 (tput (gZ G) B T e.2)) K)) e → p_X3_lasting_b4 G h0 K B T x9 := by
  intro x9 e hT he
  obtain ⟨v1, v2, v3, s⟩ := x9
  unfold p_X3_lasting_b4
  unfold t_X3_lasting_b4 at hT
  show aW G M_X3_lasting 3 42 h0 K (tput (gZ G) B T s) 4 [some (.ref (T 100)), some (.int v1), some (.int v2), some (.int v3)] []
  dsimp only at hT
  refine a_iload_n dX3_lasting_4 rfl ?_
  refine a_aload_n dX3_lasting_5 rfl ?_
  refine a_gA fl_X3_9_2 (tw_gA ht 0 (by decide)) dX3_lasting_6 ?_
  refine a_iconst (v := 1) dX3_lasting_9 (by decide) ?_
  obtain ⟨z2, e1, hT⟩ := obnd hT
  refine a_ldI (tw_ld ht 0 (by decide) e1) dX3_lasting_10 ?_
  refine a_icmp_ge 56 dX3_lasting_11 rfl (fun c3 => ?_) (fun c3 => ?_)
  · have hT := oifp c3 hT
    refine a_iload_n dX3_lasting_56 rfl ?_
    cases hT
    exact a_iret rfl rfl dX3_lasting_57 (he _ _ ⟨rfl, rfl⟩)
  · have hT := oifn c3 hT
    refine a_iload_n dX3_lasting_14 rfl ?_
    refine a_aload_n dX3_lasting_15 rfl ?_
    refine a_iload_n dX3_lasting_16 rfl ?_
    obtain ⟨r6, e7, hT⟩ := obnd hT
    refine a_callV kv_X3_183 (tw_is ht) (k_X3_lasts ht e7) ⟨Nat.le_of_ble_eq_true rfl, Nat.le_of_ble_eq_true rfl⟩ (As := [.int v3]) (rest := [.int v2]) rfl rfl (Nat.le_of_ble_eq_true rfl) dX3_lasting_17 (kI ?_) xI
    refine a_if_eq 47 dX3_lasting_20 rfl (fun c8 => ?_) (fun c8 => ?_)
    · have hT := oifp c8 hT
      refine a_mask [true, true, false, true] ?_
      exact k_X3_lasting_l47 ht hT he
    · have hT := oifn c8 hT
      refine a_iload_n dX3_lasting_23 rfl ?_
      refine a_iconst (v := (-1)) dX3_lasting_24 (by decide) ?_
      refine a_icmp_eq 43 dX3_lasting_25 rfl (fun c9 => ?_) (fun c9 => ?_)
      · have hT := oifp c9 hT
        refine a_mask [true, true, false, true] ?_
        exact k_X3_lasting_l43 ht hT he
      · have hT := oifn c9 hT
        refine a_aload_n dX3_lasting_28 rfl ?_
        refine a_gA fl_X3_9_2 (tw_gA ht 0 (by decide)) dX3_lasting_29 ?_
        refine a_iload_n dX3_lasting_32 rfl ?_
        obtain ⟨r12, e13, hT⟩ := obnd hT
        refine a_callS ks_X3_126 (k_X3_visitorAt e13) ⟨Nat.le_of_ble_eq_true rfl, Nat.le_of_ble_eq_true rfl⟩ (As := [.int v3]) (rest := [.ref (T 0), .int v2]) rfl rfl (Nat.le_of_ble_eq_true rfl) dX3_lasting_33 (kI ?_) xI
        refine a_iconst (v := 4) dX3_lasting_36 (by decide) ?_
        refine a_iadd dX3_lasting_37 ?_
        obtain ⟨z15, e14, hT⟩ := obnd hT
        refine a_ldI (tw_ld ht 0 (by decide) e14) dX3_lasting_38 ?_
        refine a_iload_n dX3_lasting_39 rfl ?_
        refine a_icmp_ne 47 dX3_lasting_40 rfl (fun c16 => ?_) (fun c16 => ?_)
        · have hT := oifn c16 hT
          refine a_mask [true, true, false, true] ?_
          exact k_X3_lasting_l47 ht hT he
        · have hT := oifp c16 hT
          refine a_mask [true, true, false, true] ?_
          exact k_X3_lasting_l43 ht hT he
theorem k_X3_lasting_b4 {G : aG} {h0 B : aH} {T : Nat → Nat} {K : aRes → aH → Prop} (ht : tOk (gZ G) T) {n9 : Nat} {x9 : (Int32 × Int32 × Int32 × tS)} {e : (Int32 × tS)} (hT : wlo t_X3_lasting_b4 n9 x9 = some e) (he : (fun e => aTo (aEI e.1 (tput (gZ G) B T e.2)) K) e) : p_X3_lasting_b4 G h0 K B T x9 := wlo_W (kb_X3_lasting_b4 ht) n9 x9 e hT he
def t_X3_lasting (s : tS) (x0 : Int32) : Option (Int32 × tS) :=
  wlo t_X3_lasting_b4 300 (x0, 0, 0, s)
theorem k_X3_lasting {G : aG} {B : aH} {T : Nat → Nat} (ht : tOk (gZ G) T) {s : tS} {x0 : Int32} {e : (Int32 × tS)} (hT : t_X3_lasting s x0 = some e) : aMet G yX3_lasting (ws_ yX3_lasting cX3_lasting 4 (Option.some Jvm.ClassFile.FieldType.int)) 3 42 [.ref (T 100), .int x0] (tput (gZ G) B T s) (aEI e.1 (tput (gZ G) B T e.2)) := by
  refine aMet.of (lv := [some (.ref (T 100)), some (.int x0), none, none]) (by decide) (Nat.le_of_ble_eq_true rfl) 2 rfl ?_
  have he : aTo (aEI e.1 (tput (gZ G) B T e.2)) (aEI e.1 (tput (gZ G) B T e.2)) := aTo.rf
  unfold t_X3_lasting at hT
  refine a_iconst (v := 0) dX3_lasting_0 (by decide) ?_
  refine a_istore_n (lv' := [some (.ref (T 100)), some (.int x0), some (.int 0), none]) dX3_lasting_1 rfl (by decide) rfl ?_
  refine a_iconst (v := 0) dX3_lasting_2 (by decide) ?_
  refine a_istore_n (lv' := [some (.ref (T 100)), some (.int x0), some (.int 0), some (.int 0)]) dX3_lasting_3 rfl (by decide) rfl ?_
  exact k_X3_lasting_b4 ht hT he
abbrev M_X3_owed : aM := (yX3_owed.cls, cX3_owed, 2, (Option.some Jvm.ClassFile.FieldType.int), [], yX3_owed.name)
def t_X3_owed (s : tS) (x0 : Int32) : Option (Int32 × tS) :=
  (tpf 12 s 0).bind fun s2 =>
  (t_X3_isGardener s2 x0).bind fun r5 =>
  if r5.1 = 0 then
    (t_X3_throwing r5.2 1).bind fun r10 =>
    some (r10.1, r10.2)
  else
    (t_X3_owedBy r5.2 x0).bind fun r14 =>
    some (r14.1, r14.2)
theorem k_X3_owed {G : aG} {B : aH} {T : Nat → Nat} (ht : tOk (gZ G) T) {s : tS} {x0 : Int32} {e : (Int32 × tS)} (hT : t_X3_owed s x0 = some e) : aMet G yX3_owed (ws_ yX3_owed cX3_owed 2 (Option.some Jvm.ClassFile.FieldType.int)) 4 87 [.ref (T 100), .int x0] (tput (gZ G) B T s) (aEI e.1 (tput (gZ G) B T e.2)) := by
  refine aMet.of (lv := [some (.ref (T 100)), some (.int x0)]) (by decide) (Nat.le_of_ble_eq_true rfl) 0 rfl ?_
  have he : aTo (aEI e.1 (tput (gZ G) B T e.2)) (aEI e.1 (tput (gZ G) B T e.2)) := aTo.rf
  unfold t_X3_owed at hT
  refine a_aload_n dX3_owed_0 rfl ?_
  refine a_iconst (v := 0) dX3_owed_1 (by decide) ?_
  obtain ⟨s2, e1, hT⟩ := obnd hT
  refine a_put (fp_X3_38_2 _) ⟨rfl, rfl⟩ (tw_pf ht 12 (by decide) e1) dX3_owed_2 ?_
  refine a_aload_n dX3_owed_5 rfl ?_
  refine a_iload_n dX3_owed_6 rfl ?_
  obtain ⟨r5, e6, hT⟩ := obnd hT
  refine a_callV kv_X3_117 (tw_is ht) (k_X3_isGardener ht e6) ⟨Nat.le_of_ble_eq_true rfl, Nat.le_of_ble_eq_true rfl⟩ (As := [.int x0]) (rest := []) rfl rfl (Nat.le_of_ble_eq_true rfl) dX3_owed_7 (kI ?_) xI
  refine a_if_eq 21 dX3_owed_10 rfl (fun c7 => ?_) (fun c7 => ?_)
  · have hT := oifp c7 hT
    refine a_aload_n dX3_owed_21 rfl ?_
    refine a_iconst (v := 1) dX3_owed_22 (by decide) ?_
    obtain ⟨r10, e11, hT⟩ := obnd hT
    refine a_callV kv_X3_50 (tw_is ht) (k_X3_throwing ht e11) ⟨Nat.le_of_ble_eq_true rfl, Nat.le_of_ble_eq_true rfl⟩ (As := [.int 1]) (rest := []) rfl rfl (Nat.le_of_ble_eq_true rfl) dX3_owed_23 (kI ?_) xI
    cases hT
    exact a_iret rfl rfl dX3_owed_26 (he _ _ ⟨rfl, rfl⟩)
  · have hT := oifn c7 hT
    refine a_aload_n dX3_owed_13 rfl ?_
    refine a_iload_n dX3_owed_14 rfl ?_
    obtain ⟨r14, e15, hT⟩ := obnd hT
    refine a_callV kv_X3_189 (tw_is ht) (k_X3_owedBy ht e15) ⟨Nat.le_of_ble_eq_true rfl, Nat.le_of_ble_eq_true rfl⟩ (As := [.int x0]) (rest := []) rfl rfl (Nat.le_of_ble_eq_true rfl) dX3_owed_15 (kI ?_) xI
    refine a_goto 26 dX3_owed_18 rfl ?_
    cases hT
    exact a_iret rfl rfl dX3_owed_26 (he _ _ ⟨rfl, rfl⟩)
theorem kv_X3_192 : aKV "MazeBondsModel" 192 2 yX3_measured cX3_measured 4 (Option.some Jvm.ClassFile.FieldType.int) 2 := ⟨⟨TX3, 21, rfl⟩, Or.inl q2014, q2016, qs57, q81, q2017, ⟨by decide +kernel, by decide +kernel, by decide +kernel⟩⟩
abbrev M_X3_ranked : aM := (yX3_ranked.cls, cX3_ranked, 7, (Option.some Jvm.ClassFile.FieldType.int), [], yX3_ranked.name)
def p_X3_ranked_b25 (G : aG) (h0 : aH) (K : aRes → aH → Prop) (B : aH) (T : Nat → Nat) (x9 : (Int32 × Int32 × Int32 × tS)) : Prop := aW G M_X3_ranked 4 85 h0 K (tput (gZ G) B T x9.2.2.2) 25 [some (.ref (T 100)), some (.int x9.1), some (.int x9.2.1), some (.int x9.2.2.1), none, none, none] []
def t_X3_ranked_l114 (s : tS)  : Option (Int32 × tS) :=
  (t_X3_throwing s 2).bind fun r13 =>
  some (r13.1, r13.2)
theorem k_X3_ranked_l114 {G : aG} {h0 B : aH} {T : Nat → Nat} {K : aRes → aH → Prop} (ht : tOk (gZ G) T) {s : tS}  {e : (Int32 × tS)} (hT : t_X3_ranked_l114 s  = some e) (he : (fun e => aTo (aEI e.1 (tput (gZ G) B T e.2)) K) e) : aW G M_X3_ranked 4 85 h0 K (tput (gZ G) B T s) 114 [some (.ref (T 100)), none, none, none, none, none, none] [] := by
  unfold t_X3_ranked_l114 at hT
  refine a_aload_n dX3_ranked_114 rfl ?_
  refine a_iconst (v := 2) dX3_ranked_115 (by decide) ?_
  obtain ⟨r13, e14, hT⟩ := obnd hT
  refine a_callV kv_X3_50 (tw_is ht) (k_X3_throwing ht e14) ⟨Nat.le_of_ble_eq_true rfl, Nat.le_of_ble_eq_true rfl⟩ (As := [.int 2]) (rest := []) rfl rfl (Nat.le_of_ble_eq_true rfl) dX3_ranked_116 (kI ?_) xI
  cases hT
  exact a_iret rfl rfl dX3_ranked_119 (he _ _ ⟨rfl, rfl⟩)
def p_X3_ranked_b41 (G : aG) (h0 : aH) (K : aRes → aH → Prop) (B : aH) (T : Nat → Nat) (x9 : (Int32 × Int32 × Int32 × Int32 × Int32 × tS)) : Prop := aW G M_X3_ranked 4 85 h0 K (tput (gZ G) B T x9.2.2.2.2.2) 41 [some (.ref (T 100)), some (.int x9.1), some (.int x9.2.1), some (.int x9.2.2.1), some (.int x9.2.2.2.1), some (.int x9.2.2.2.2.1), none] []
def t_X3_ranked_l91 (s : tS) (v1 : Int32) (v2 : Int32) (v3 : Int32) (v5 : Int32) (u0 : Int32) (u1 : Int32) : Option ((Int32 × Int32 × Int32 × Int32 × Int32 × tS) ⊕ ((Int32 × Int32 × Int32 × tS) ⊕ (Int32 × tS))) :=
  some (.inl (v1, v2, v3, (u1 + u0), (v5 + 1), s))
theorem k_X3_ranked_l91 {G : aG} {h0 B : aH} {T : Nat → Nat} {K : aRes → aH → Prop} (ht : tOk (gZ G) T) {s : tS} {v1 : Int32} {v2 : Int32} {v3 : Int32} {v5 : Int32} {u0 : Int32} {u1 : Int32} {e : ((Int32 × Int32 × Int32 × Int32 × Int32 × tS) ⊕ ((Int32 × Int32 × Int32 × tS) ⊕ (Int32 × tS)))} (hT : t_X3_ranked_l91 s v1 v2 v3 v5 u0 u1 = some e) (he : (Sum.elim (p_X3_ranked_b41 G h0 K B T) (Sum.elim (p_X3_ranked_b25 G h0 K B T) (fun e => aTo (aEI e.1 (tput (gZ G) B T e.2)) K))) e) : aW G M_X3_ranked 4 85 h0 K (tput (gZ G) B T s) 91 [some (.ref (T 100)), some (.int v1), some (.int v2), some (.int v3), none, some (.int v5), none] [.int u0, .int u1] := by
  unfold t_X3_ranked_l91 at hT
  refine a_iadd dX3_ranked_91 ?_
  refine a_istore (lv' := [some (.ref (T 100)), some (.int v1), some (.int v2), some (.int v3), some (.int (u1 + u0)), some (.int v5), none]) dX3_ranked_92 rfl (by decide) rfl ?_
  refine a_iinc (v := (v5 + 1)) (lv' := [some (.ref (T 100)), some (.int v1), some (.int v2), some (.int v3), some (.int (u1 + u0)), some (.int (v5 + 1)), none]) dX3_ranked_94 rfl (by rfl) rfl (by decide) rfl ?_
  refine a_goto 41 dX3_ranked_97 rfl ?_
  cases hT
  exact he
def t_X3_ranked_l86 (s : tS) (v1 : Int32) (v2 : Int32) (v3 : Int32) (v5 : Int32) (u0 : Int32) : Option ((Int32 × Int32 × Int32 × Int32 × Int32 × tS) ⊕ ((Int32 × Int32 × Int32 × tS) ⊕ (Int32 × tS))) :=
  t_X3_ranked_l91 s v1 v2 v3 v5 1 u0
theorem k_X3_ranked_l86 {G : aG} {h0 B : aH} {T : Nat → Nat} {K : aRes → aH → Prop} (ht : tOk (gZ G) T) {s : tS} {v1 : Int32} {v2 : Int32} {v3 : Int32} {v5 : Int32} {u0 : Int32} {e : ((Int32 × Int32 × Int32 × Int32 × Int32 × tS) ⊕ ((Int32 × Int32 × Int32 × tS) ⊕ (Int32 × tS)))} (hT : t_X3_ranked_l86 s v1 v2 v3 v5 u0 = some e) (he : (Sum.elim (p_X3_ranked_b41 G h0 K B T) (Sum.elim (p_X3_ranked_b25 G h0 K B T) (fun e => aTo (aEI e.1 (tput (gZ G) B T e.2)) K))) e) : aW G M_X3_ranked 4 85 h0 K (tput (gZ G) B T s) 86 [some (.ref (T 100)), some (.int v1), some (.int v2), some (.int v3), none, some (.int v5), none] [.int u0] := by
  unfold t_X3_ranked_l86 at hT
  refine a_iconst (v := 1) dX3_ranked_86 (by decide) ?_
  refine a_goto 91 dX3_ranked_87 rfl ?_
  exact k_X3_ranked_l91 ht hT he
def t_X3_ranked_l90 (s : tS) (v1 : Int32) (v2 : Int32) (v3 : Int32) (v5 : Int32) (u0 : Int32) : Option ((Int32 × Int32 × Int32 × Int32 × Int32 × tS) ⊕ ((Int32 × Int32 × Int32 × tS) ⊕ (Int32 × tS))) :=
  t_X3_ranked_l91 s v1 v2 v3 v5 0 u0
theorem k_X3_ranked_l90 {G : aG} {h0 B : aH} {T : Nat → Nat} {K : aRes → aH → Prop} (ht : tOk (gZ G) T) {s : tS} {v1 : Int32} {v2 : Int32} {v3 : Int32} {v5 : Int32} {u0 : Int32} {e : ((Int32 × Int32 × Int32 × Int32 × Int32 × tS) ⊕ ((Int32 × Int32 × Int32 × tS) ⊕ (Int32 × tS)))} (hT : t_X3_ranked_l90 s v1 v2 v3 v5 u0 = some e) (he : (Sum.elim (p_X3_ranked_b41 G h0 K B T) (Sum.elim (p_X3_ranked_b25 G h0 K B T) (fun e => aTo (aEI e.1 (tput (gZ G) B T e.2)) K))) e) : aW G M_X3_ranked 4 85 h0 K (tput (gZ G) B T s) 90 [some (.ref (T 100)), some (.int v1), some (.int v2), some (.int v3), none, some (.int v5), none] [.int u0] := by
  unfold t_X3_ranked_l90 at hT
  refine a_iconst (v := 0) dX3_ranked_90 (by decide) ?_
  exact k_X3_ranked_l91 ht hT he
def t_X3_ranked_b41 : (Int32 × Int32 × Int32 × Int32 × Int32 × tS) → Option ((Int32 × Int32 × Int32 × Int32 × Int32 × tS) ⊕ ((Int32 × Int32 × Int32 × tS) ⊕ (Int32 × tS))) := fun (v1, v2, v3, v4, v5, s) =>
  (tld 0 s 1).bind fun z16 =>
  if z16 ≤ v5 then
    if v4 = v2 then
      some (.inr (.inr ((v3, s))))
    else
      some (.inr (.inl (v1, v2, (v3 + 1), s)))
  else
    (t_X3_measured s v1 v5).bind fun r21 =>
    (t_X3_measured r21.2 v1 v3).bind fun r25 =>
    if 0 < (r21.1 - r25.1) then
      t_X3_ranked_l86 r25.2 v1 v2 v3 v5 v4
    else
      if (r21.1 - r25.1) = 0 then
        if v3 ≤ v5 then
          t_X3_ranked_l90 r25.2 v1 v2 v3 v5 v4
        else
          t_X3_ranked_l86 r25.2 v1 v2 v3 v5 v4
      else
        t_X3_ranked_l90 r25.2 v1 v2 v3 v5 v4
theorem kb_X3_ranked_b41 {G : aG} {h0 B : aH} {T : Nat → Nat} {K : aRes → aH → Prop} (ht : tOk (gZ G) T) : ∀ (x9 : (Int32 × Int32 × Int32 × Int32 × Int32 × tS)) (e : ((Int32 × Int32 × Int32 × Int32 × Int32 × tS) ⊕ ((Int32 × Int32 × Int32 × tS) ⊕ (Int32 × tS)))), t_X3_ranked_b41 x9 = some e → (Sum.elim (p_X3_ranked_b41 G h0 K B T) (Sum.elim (p_X3_ranked_b25 G h0 K B T) (fun e => aTo (aEI e.1 (tput (gZ G) B T e.2)) K))) e → p_X3_ranked_b41 G h0 K B T x9 := by
  intro x9 e hT he
  obtain ⟨v1, v2, v3, v4, v5, s⟩ := x9
  unfold p_X3_ranked_b41
  unfold t_X3_ranked_b41 at hT
  show aW G M_X3_ranked 4 85 h0 K (tput (gZ G) B T s) 41 [some (.ref (T 100)), some (.int v1), some (.int v2), some (.int v3), some (.int v4), some (.int v5), none] []
  dsimp only at hT
  refine a_iload dX3_ranked_41 rfl ?_
  refine a_aload_n dX3_ranked_43 rfl ?_
  refine a_gA fl_X3_9_2 (tw_gA ht 0 (by decide)) dX3_ranked_44 ?_
  refine a_iconst (v := 1) dX3_ranked_47 (by decide) ?_
  obtain ⟨z16, e15, hT⟩ := obnd hT
  refine a_ldI (tw_ld ht 0 (by decide) e15) dX3_ranked_48 ?_
  refine a_icmp_ge 100 dX3_ranked_49 rfl (fun c17 => ?_) (fun c17 => ?_)
  · have hT := oifp c17 hT
    refine a_iload dX3_ranked_100 rfl ?_
    refine a_iload_n dX3_ranked_102 rfl ?_
    refine a_icmp_ne 108 dX3_ranked_103 rfl (fun c18 => ?_) (fun c18 => ?_)
    · have hT := oifn c18 hT
      refine a_iinc (v := (v3 + 1)) (lv' := [some (.ref (T 100)), some (.int v1), some (.int v2), some (.int (v3 + 1)), some (.int v4), some (.int v5), none]) dX3_ranked_108 rfl (by rfl) rfl (by decide) rfl ?_
      refine a_goto 25 dX3_ranked_111 rfl ?_
      cases hT
      refine a_mask [true, true, true, true, false, false, true] ?_
      exact he
    · have hT := oifp c18 hT
      refine a_iload_n dX3_ranked_106 rfl ?_
      cases hT
      exact a_iret rfl rfl dX3_ranked_107 (he _ _ ⟨rfl, rfl⟩)
  · have hT := oifn c17 hT
    refine a_aload_n dX3_ranked_52 rfl ?_
    refine a_iload_n dX3_ranked_53 rfl ?_
    refine a_iload dX3_ranked_54 rfl ?_
    obtain ⟨r21, e22, hT⟩ := obnd hT
    refine a_callV kv_X3_192 (tw_is ht) (k_X3_measured ht e22) ⟨Nat.le_of_ble_eq_true rfl, Nat.le_of_ble_eq_true rfl⟩ (As := [.int v1, .int v5]) (rest := []) rfl rfl (Nat.le_of_ble_eq_true rfl) dX3_ranked_56 (kI ?_) xI
    refine a_aload_n dX3_ranked_59 rfl ?_
    refine a_iload_n dX3_ranked_60 rfl ?_
    refine a_iload_n dX3_ranked_61 rfl ?_
    obtain ⟨r25, e26, hT⟩ := obnd hT
    refine a_callV kv_X3_192 (tw_is ht) (k_X3_measured ht e26) ⟨Nat.le_of_ble_eq_true rfl, Nat.le_of_ble_eq_true rfl⟩ (As := [.int v1, .int v3]) (rest := [.int r21.1]) rfl rfl (Nat.le_of_ble_eq_true rfl) dX3_ranked_62 (kI ?_) xI
    refine a_isub dX3_ranked_65 ?_
    refine a_istore (lv' := [some (.ref (T 100)), some (.int v1), some (.int v2), some (.int v3), some (.int v4), some (.int v5), some (.int (r21.1 - r25.1))]) dX3_ranked_66 rfl (by decide) rfl ?_
    refine a_iload dX3_ranked_68 rfl ?_
    refine a_iload dX3_ranked_70 rfl ?_
    refine a_if_gt 86 dX3_ranked_72 rfl (fun c27 => ?_) (fun c27 => ?_)
    · have hT := oifp c27 hT
      refine a_mask [true, true, true, true, false, true, false] ?_
      exact k_X3_ranked_l86 ht hT he
    · have hT := oifn c27 hT
      refine a_iload dX3_ranked_75 rfl ?_
      refine a_if_ne 90 dX3_ranked_77 rfl (fun c28 => ?_) (fun c28 => ?_)
      · have hT := oifn c28 hT
        refine a_mask [true, true, true, true, false, true, false] ?_
        exact k_X3_ranked_l90 ht hT he
      · have hT := oifp c28 hT
        refine a_iload dX3_ranked_80 rfl ?_
        refine a_iload_n dX3_ranked_82 rfl ?_
        refine a_icmp_ge 90 dX3_ranked_83 rfl (fun c29 => ?_) (fun c29 => ?_)
        · have hT := oifp c29 hT
          refine a_mask [true, true, true, true, false, true, false] ?_
          exact k_X3_ranked_l90 ht hT he
        · have hT := oifn c29 hT
          refine a_mask [true, true, true, true, false, true, false] ?_
          exact k_X3_ranked_l86 ht hT he
theorem k_X3_ranked_b41 {G : aG} {h0 B : aH} {T : Nat → Nat} {K : aRes → aH → Prop} (ht : tOk (gZ G) T) {n9 : Nat} {x9 : (Int32 × Int32 × Int32 × Int32 × Int32 × tS)} {e : ((Int32 × Int32 × Int32 × tS) ⊕ (Int32 × tS))} (hT : wlo t_X3_ranked_b41 n9 x9 = some e) (he : (Sum.elim (p_X3_ranked_b25 G h0 K B T) (fun e => aTo (aEI e.1 (tput (gZ G) B T e.2)) K)) e) : p_X3_ranked_b41 G h0 K B T x9 := wlo_W (kb_X3_ranked_b41 ht) n9 x9 e hT he
def t_X3_ranked_b25 : (Int32 × Int32 × Int32 × tS) → Option ((Int32 × Int32 × Int32 × tS) ⊕ (Int32 × tS)) := fun (v1, v2, v3, s) =>
  (tld 0 s 1).bind fun z9 =>
  if z9 ≤ v3 then
    (t_X3_ranked_l114 s).map .inr
  else
    wlo t_X3_ranked_b41 300 (v1, v2, v3, 0, 0, s)
theorem kb_X3_ranked_b25 {G : aG} {h0 B : aH} {T : Nat → Nat} {K : aRes → aH → Prop} (ht : tOk (gZ G) T) : ∀ (x9 : (Int32 × Int32 × Int32 × tS)) (e : ((Int32 × Int32 × Int32 × tS) ⊕ (Int32 × tS))), t_X3_ranked_b25 x9 = some e → (Sum.elim (p_X3_ranked_b25 G h0 K B T) (fun e => aTo (aEI e.1 (tput (gZ G) B T e.2)) K)) e → p_X3_ranked_b25 G h0 K B T x9 := by
  intro x9 e hT he
  obtain ⟨v1, v2, v3, s⟩ := x9
  unfold p_X3_ranked_b25
  unfold t_X3_ranked_b25 at hT
  show aW G M_X3_ranked 4 85 h0 K (tput (gZ G) B T s) 25 [some (.ref (T 100)), some (.int v1), some (.int v2), some (.int v3), none, none, none] []
  dsimp only at hT
  refine a_iload_n dX3_ranked_25 rfl ?_
  refine a_aload_n dX3_ranked_26 rfl ?_
  refine a_gA fl_X3_9_2 (tw_gA ht 0 (by decide)) dX3_ranked_27 ?_
  refine a_iconst (v := 1) dX3_ranked_30 (by decide) ?_
  obtain ⟨z9, e8, hT⟩ := obnd hT
  refine a_ldI (tw_ld ht 0 (by decide) e8) dX3_ranked_31 ?_
  refine a_icmp_ge 114 dX3_ranked_32 rfl (fun c10 => ?_) (fun c10 => ?_)
  · have hT := oifp c10 hT
    refine a_mask [true, false, false, false, true, true, true] ?_
    obtain ⟨e8, hT8, rfl⟩ := omap hT
    exact k_X3_ranked_l114 ht hT8 he
  · have hT := oifn c10 hT
    refine a_iconst (v := 0) dX3_ranked_35 (by decide) ?_
    refine a_istore (lv' := [some (.ref (T 100)), some (.int v1), some (.int v2), some (.int v3), some (.int 0), none, none]) dX3_ranked_36 rfl (by decide) rfl ?_
    refine a_iconst (v := 0) dX3_ranked_38 (by decide) ?_
    refine a_istore (lv' := [some (.ref (T 100)), some (.int v1), some (.int v2), some (.int v3), some (.int 0), some (.int 0), none]) dX3_ranked_39 rfl (by decide) rfl ?_
    exact k_X3_ranked_b41 ht hT he
theorem k_X3_ranked_b25 {G : aG} {h0 B : aH} {T : Nat → Nat} {K : aRes → aH → Prop} (ht : tOk (gZ G) T) {n9 : Nat} {x9 : (Int32 × Int32 × Int32 × tS)} {e : (Int32 × tS)} (hT : wlo t_X3_ranked_b25 n9 x9 = some e) (he : (fun e => aTo (aEI e.1 (tput (gZ G) B T e.2)) K) e) : p_X3_ranked_b25 G h0 K B T x9 := wlo_W (kb_X3_ranked_b25 ht) n9 x9 e hT he
def t_X3_ranked (s : tS) (x0 : Int32) (x1 : Int32) : Option (Int32 × tS) :=
  (tpf 12 s 0).bind fun s2 =>
  (t_X3_in ((x0 : Int32).toInt64) 0 3).bind fun r5 =>
  if r5 = 0 then
    (t_X3_throwing s2 1).bind fun r32 =>
    some (r32.1, r32.2)
  else
    wlo t_X3_ranked_b25 300 (x0, x1, 0, s2)
theorem k_X3_ranked {G : aG} {B : aH} {T : Nat → Nat} (ht : tOk (gZ G) T) {s : tS} {x0 : Int32} {x1 : Int32} {e : (Int32 × tS)} (hT : t_X3_ranked s x0 x1 = some e) : aMet G yX3_ranked (ws_ yX3_ranked cX3_ranked 7 (Option.some Jvm.ClassFile.FieldType.int)) 4 85 [.ref (T 100), .int x0, .int x1] (tput (gZ G) B T s) (aEI e.1 (tput (gZ G) B T e.2)) := by
  refine aMet.of (lv := [some (.ref (T 100)), some (.int x0), some (.int x1), none, none, none, none]) (by decide) (Nat.le_of_ble_eq_true rfl) 4 rfl ?_
  have he : aTo (aEI e.1 (tput (gZ G) B T e.2)) (aEI e.1 (tput (gZ G) B T e.2)) := aTo.rf
  unfold t_X3_ranked at hT
  refine a_aload_n dX3_ranked_0 rfl ?_
  refine a_iconst (v := 0) dX3_ranked_1 (by decide) ?_
  obtain ⟨s2, e1, hT⟩ := obnd hT
  refine a_put (fp_X3_38_2 _) ⟨rfl, rfl⟩ (tw_pf ht 12 (by decide) e1) dX3_ranked_2 ?_
  refine a_iload_n dX3_ranked_5 rfl ?_
  refine a_i2l dX3_ranked_6 ?_
  refine a_lconst (v := 0) dX3_ranked_7 (by decide) ?_
  refine a_ldc2 q1887 dX3_ranked_8 ?_
  obtain ⟨r5, e6, hT⟩ := obnd hT
  refine a_callS ks_X3_59 (k_X3_in e6) ⟨Nat.le_of_ble_eq_true rfl, Nat.le_of_ble_eq_true rfl⟩ (As := [.long ((x0 : Int32).toInt64), .long 0, .long 3]) (rest := []) rfl rfl (Nat.le_of_ble_eq_true rfl) dX3_ranked_11 (kI ?_) xI
  refine a_if_ne 23 dX3_ranked_14 rfl (fun c7 => ?_) (fun c7 => ?_)
  · have hT := oifn c7 hT
    refine a_iconst (v := 0) dX3_ranked_23 (by decide) ?_
    refine a_istore_n (lv' := [some (.ref (T 100)), some (.int x0), some (.int x1), some (.int 0), none, none, none]) dX3_ranked_24 rfl (by decide) rfl ?_
    exact k_X3_ranked_b25 ht hT he
  · have hT := oifp c7 hT
    refine a_aload_n dX3_ranked_17 rfl ?_
    refine a_iconst (v := 1) dX3_ranked_18 (by decide) ?_
    obtain ⟨r32, e33, hT⟩ := obnd hT
    refine a_callV kv_X3_50 (tw_is ht) (k_X3_throwing ht e33) ⟨Nat.le_of_ble_eq_true rfl, Nat.le_of_ble_eq_true rfl⟩ (As := [.int 1]) (rest := []) rfl rfl (Nat.le_of_ble_eq_true rfl) dX3_ranked_19 (kI ?_) xI
    cases hT
    exact a_iret rfl rfl dX3_ranked_22 (he _ _ ⟨rfl, rfl⟩)
theorem kv_X3_219 : aKV "MazeBondsModel" 219 2 yX3_digit cX3_digit 2 (Option.some Jvm.ClassFile.FieldType.int) 0 := ⟨⟨TX3, 21, rfl⟩, Or.inl q2050, q2052, qs63, q81, q2053, ⟨by decide +kernel, by decide +kernel, by decide +kernel⟩⟩
abbrev M_X3_number : aM := (yX3_number.cls, cX3_number, 2, (Option.some Jvm.ClassFile.FieldType.int), [], yX3_number.name)
def t_X3_number (s : tS)  : Option (Int32 × tS) :=
  (t_X3_digit s).bind fun r3 =>
  if (r3.2.1 18) = 0 then
    (t_X3_here r3.2).bind fun r8 =>
    (t_X3_in ((r8.1 : Int32).toInt64) 48 57).bind fun r12 =>
    if r12 = 0 then
      some (r3.1, r8.2)
    else
      (t_X3_digit r8.2).bind fun r17 =>
      some (((10 * r3.1) + r17.1), r17.2)
  else
    some (r3.1, r3.2)
theorem k_X3_number {G : aG} {B : aH} {T : Nat → Nat} (ht : tOk (gZ G) T) {s : tS}  {e : (Int32 × tS)} (hT : t_X3_number s  = some e) : aMet G yX3_number (ws_ yX3_number cX3_number 2 (Option.some Jvm.ClassFile.FieldType.int)) 3 47 [.ref (T 100)] (tput (gZ G) B T s) (aEI e.1 (tput (gZ G) B T e.2)) := by
  refine aMet.of (lv := [some (.ref (T 100)), none]) (by decide) (Nat.le_of_ble_eq_true rfl) 1 rfl ?_
  have he : aTo (aEI e.1 (tput (gZ G) B T e.2)) (aEI e.1 (tput (gZ G) B T e.2)) := aTo.rf
  unfold t_X3_number at hT
  refine a_aload_n dX3_number_0 rfl ?_
  obtain ⟨r3, e4, hT⟩ := obnd hT
  refine a_callV kv_X3_219 (tw_is ht) (k_X3_digit ht e4) ⟨Nat.le_of_ble_eq_true rfl, Nat.le_of_ble_eq_true rfl⟩ (As := []) (rest := []) rfl rfl (Nat.le_of_ble_eq_true rfl) dX3_number_1 (kI ?_) xI
  refine a_istore_n (lv' := [some (.ref (T 100)), some (.int r3.1)]) dX3_number_4 rfl (by decide) rfl ?_
  refine a_aload_n dX3_number_5 rfl ?_
  refine a_gI fl_X3_204_2 (tw_gI ht 18 (by decide)) dX3_number_6 ?_
  refine a_if_ne 41 dX3_number_9 rfl (fun c5 => ?_) (fun c5 => ?_)
  · have hT := oifn c5 hT
    refine a_iload_n dX3_number_41 rfl ?_
    cases hT
    exact a_iret rfl rfl dX3_number_42 (he _ _ ⟨rfl, rfl⟩)
  · have hT := oifp c5 hT
    refine a_aload_n dX3_number_12 rfl ?_
    obtain ⟨r8, e9, hT⟩ := obnd hT
    refine a_callV kv_X3_208 (tw_is ht) (k_X3_here ht e9) ⟨Nat.le_of_ble_eq_true rfl, Nat.le_of_ble_eq_true rfl⟩ (As := []) (rest := []) rfl rfl (Nat.le_of_ble_eq_true rfl) dX3_number_13 (kI ?_) xI
    refine a_i2l dX3_number_16 ?_
    refine a_ldc2 q2054 dX3_number_17 ?_
    refine a_ldc2 q2055 dX3_number_20 ?_
    obtain ⟨r12, e13, hT⟩ := obnd hT
    refine a_callS ks_X3_59 (k_X3_in e13) ⟨Nat.le_of_ble_eq_true rfl, Nat.le_of_ble_eq_true rfl⟩ (As := [.long ((r8.1 : Int32).toInt64), .long 48, .long 57]) (rest := []) rfl rfl (Nat.le_of_ble_eq_true rfl) dX3_number_23 (kI ?_) xI
    refine a_if_eq 41 dX3_number_26 rfl (fun c14 => ?_) (fun c14 => ?_)
    · have hT := oifp c14 hT
      refine a_iload_n dX3_number_41 rfl ?_
      cases hT
      exact a_iret rfl rfl dX3_number_42 (he _ _ ⟨rfl, rfl⟩)
    · have hT := oifn c14 hT
      refine a_bipush (v := 10) dX3_number_29 (by decide) ?_
      refine a_iload_n dX3_number_31 rfl ?_
      refine a_imul dX3_number_32 ?_
      refine a_aload_n dX3_number_33 rfl ?_
      obtain ⟨r17, e18, hT⟩ := obnd hT
      refine a_callV kv_X3_219 (tw_is ht) (k_X3_digit ht e18) ⟨Nat.le_of_ble_eq_true rfl, Nat.le_of_ble_eq_true rfl⟩ (As := []) (rest := [.int (10 * r3.1)]) rfl rfl (Nat.le_of_ble_eq_true rfl) dX3_number_34 (kI ?_) xI
      refine a_iadd dX3_number_37 ?_
      refine a_goto 42 dX3_number_38 rfl ?_
      cases hT
      exact a_iret rfl rfl dX3_number_42 (he _ _ ⟨rfl, rfl⟩)
theorem kv_X3_249 : aKV "MazeBondsModel" 249 2 yX3_writesNumber cX3_writesNumber 4 (Option.none : Option Jvm.ClassFile.FieldType) 1 := ⟨⟨TX3, 21, rfl⟩, Or.inl q2080, q2082, qs66, q81, q2083, ⟨by decide +kernel, by decide +kernel, by decide +kernel⟩⟩
abbrev M_X3_line : aM := (yX3_line.cls, cX3_line, 3, (Option.some Jvm.ClassFile.FieldType.int), [], yX3_line.name)
def t_X3_line_l160 (s : tS)  : Option (Int32 × tS) :=
  some ((s.1 20), s)
theorem k_X3_line_l160 {G : aG} {h0 B : aH} {T : Nat → Nat} {K : aRes → aH → Prop} (ht : tOk (gZ G) T) {s : tS}  {e : (Int32 × tS)} (hT : t_X3_line_l160 s  = some e) (he : (fun e => aTo (aEI e.1 (tput (gZ G) B T e.2)) K) e) : aW G M_X3_line 3 47 h0 K (tput (gZ G) B T s) 160 [some (.ref (T 100)), none, none] [] := by
  unfold t_X3_line_l160 at hT
  refine a_aload_n dX3_line_160 rfl ?_
  refine a_gI fl_X3_243_2 (tw_gI ht 20 (by decide)) dX3_line_161 ?_
  cases hT
  exact a_iret rfl rfl dX3_line_164 (he _ _ ⟨rfl, rfl⟩)
def t_X3_line_l75 (s : tS) (v2 : Int32) : Option (Int32 × tS) :=
  (t_X3_sign s 43).bind fun r25 =>
  (tld 0 r25.2 (v2 + 2)).bind fun z28 =>
  (t_X3_writesNumber r25.2 z28).bind fun r31 =>
  (tld 0 r31.2 (v2 + 4)).bind fun z34 =>
  if z34 = (-1) then
    t_X3_line_l160 r31.2
  else
    (t_X3_sign r31.2 35).bind fun r38 =>
    (tld 0 r38.2 (v2 + 4)).bind fun z41 =>
    (t_X3_writesNumber r38.2 z41).bind fun r44 =>
    (t_X3_sign r44.2 42).bind fun r48 =>
    (tld 0 r48.2 (v2 + 5)).bind fun z51 =>
    (t_X3_writesNumber r48.2 z51).bind fun r54 =>
    (tld 0 r54.2 (v2 + 6)).bind fun z57 =>
    if z57 = 1 then
      (t_X3_sign r54.2 33).bind fun r61 =>
      t_X3_line_l160 r61.2
    else
      t_X3_line_l160 r54.2
theorem k_X3_line_l75 {G : aG} {h0 B : aH} {T : Nat → Nat} {K : aRes → aH → Prop} (ht : tOk (gZ G) T) {s : tS} {v2 : Int32} {e : (Int32 × tS)} (hT : t_X3_line_l75 s v2 = some e) (he : (fun e => aTo (aEI e.1 (tput (gZ G) B T e.2)) K) e) : aW G M_X3_line 3 47 h0 K (tput (gZ G) B T s) 75 [some (.ref (T 100)), none, some (.int v2)] [] := by
  unfold t_X3_line_l75 at hT
  refine a_aload_n dX3_line_75 rfl ?_
  refine a_bipush (v := 43) dX3_line_76 (by decide) ?_
  obtain ⟨r25, e26, hT⟩ := obnd hT
  refine a_callV kv_X3_246 (tw_is ht) (k_X3_sign ht e26) ⟨Nat.le_of_ble_eq_true rfl, Nat.le_of_ble_eq_true rfl⟩ (As := [.int 43]) (rest := []) rfl rfl (Nat.le_of_ble_eq_true rfl) dX3_line_78 (kV ?_) xV
  refine a_aload_n dX3_line_81 rfl ?_
  refine a_aload_n dX3_line_82 rfl ?_
  refine a_gA fl_X3_9_2 (tw_gA ht 0 (by decide)) dX3_line_83 ?_
  refine a_iload_n dX3_line_86 rfl ?_
  refine a_iconst (v := 2) dX3_line_87 (by decide) ?_
  refine a_iadd dX3_line_88 ?_
  obtain ⟨z28, e27, hT⟩ := obnd hT
  refine a_ldI (tw_ld ht 0 (by decide) e27) dX3_line_89 ?_
  obtain ⟨r31, e32, hT⟩ := obnd hT
  refine a_callV kv_X3_249 (tw_is ht) (k_X3_writesNumber ht e32) ⟨Nat.le_of_ble_eq_true rfl, Nat.le_of_ble_eq_true rfl⟩ (As := [.int z28]) (rest := []) rfl rfl (Nat.le_of_ble_eq_true rfl) dX3_line_90 (kV ?_) xV
  refine a_aload_n dX3_line_93 rfl ?_
  refine a_gA fl_X3_9_2 (tw_gA ht 0 (by decide)) dX3_line_94 ?_
  refine a_iload_n dX3_line_97 rfl ?_
  refine a_iconst (v := 4) dX3_line_98 (by decide) ?_
  refine a_iadd dX3_line_99 ?_
  obtain ⟨z34, e33, hT⟩ := obnd hT
  refine a_ldI (tw_ld ht 0 (by decide) e33) dX3_line_100 ?_
  refine a_iconst (v := (-1)) dX3_line_101 (by decide) ?_
  refine a_icmp_eq 160 dX3_line_102 rfl (fun c35 => ?_) (fun c35 => ?_)
  · have hT := oifp c35 hT
    refine a_mask [true, true, false] ?_
    exact k_X3_line_l160 ht hT he
  · have hT := oifn c35 hT
    refine a_aload_n dX3_line_105 rfl ?_
    refine a_bipush (v := 35) dX3_line_106 (by decide) ?_
    obtain ⟨r38, e39, hT⟩ := obnd hT
    refine a_callV kv_X3_246 (tw_is ht) (k_X3_sign ht e39) ⟨Nat.le_of_ble_eq_true rfl, Nat.le_of_ble_eq_true rfl⟩ (As := [.int 35]) (rest := []) rfl rfl (Nat.le_of_ble_eq_true rfl) dX3_line_108 (kV ?_) xV
    refine a_aload_n dX3_line_111 rfl ?_
    refine a_aload_n dX3_line_112 rfl ?_
    refine a_gA fl_X3_9_2 (tw_gA ht 0 (by decide)) dX3_line_113 ?_
    refine a_iload_n dX3_line_116 rfl ?_
    refine a_iconst (v := 4) dX3_line_117 (by decide) ?_
    refine a_iadd dX3_line_118 ?_
    obtain ⟨z41, e40, hT⟩ := obnd hT
    refine a_ldI (tw_ld ht 0 (by decide) e40) dX3_line_119 ?_
    obtain ⟨r44, e45, hT⟩ := obnd hT
    refine a_callV kv_X3_249 (tw_is ht) (k_X3_writesNumber ht e45) ⟨Nat.le_of_ble_eq_true rfl, Nat.le_of_ble_eq_true rfl⟩ (As := [.int z41]) (rest := []) rfl rfl (Nat.le_of_ble_eq_true rfl) dX3_line_120 (kV ?_) xV
    refine a_aload_n dX3_line_123 rfl ?_
    refine a_bipush (v := 42) dX3_line_124 (by decide) ?_
    obtain ⟨r48, e49, hT⟩ := obnd hT
    refine a_callV kv_X3_246 (tw_is ht) (k_X3_sign ht e49) ⟨Nat.le_of_ble_eq_true rfl, Nat.le_of_ble_eq_true rfl⟩ (As := [.int 42]) (rest := []) rfl rfl (Nat.le_of_ble_eq_true rfl) dX3_line_126 (kV ?_) xV
    refine a_aload_n dX3_line_129 rfl ?_
    refine a_aload_n dX3_line_130 rfl ?_
    refine a_gA fl_X3_9_2 (tw_gA ht 0 (by decide)) dX3_line_131 ?_
    refine a_iload_n dX3_line_134 rfl ?_
    refine a_iconst (v := 5) dX3_line_135 (by decide) ?_
    refine a_iadd dX3_line_136 ?_
    obtain ⟨z51, e50, hT⟩ := obnd hT
    refine a_ldI (tw_ld ht 0 (by decide) e50) dX3_line_137 ?_
    obtain ⟨r54, e55, hT⟩ := obnd hT
    refine a_callV kv_X3_249 (tw_is ht) (k_X3_writesNumber ht e55) ⟨Nat.le_of_ble_eq_true rfl, Nat.le_of_ble_eq_true rfl⟩ (As := [.int z51]) (rest := []) rfl rfl (Nat.le_of_ble_eq_true rfl) dX3_line_138 (kV ?_) xV
    refine a_aload_n dX3_line_141 rfl ?_
    refine a_gA fl_X3_9_2 (tw_gA ht 0 (by decide)) dX3_line_142 ?_
    refine a_iload_n dX3_line_145 rfl ?_
    refine a_bipush (v := 6) dX3_line_146 (by decide) ?_
    refine a_iadd dX3_line_148 ?_
    obtain ⟨z57, e56, hT⟩ := obnd hT
    refine a_ldI (tw_ld ht 0 (by decide) e56) dX3_line_149 ?_
    refine a_iconst (v := 1) dX3_line_150 (by decide) ?_
    refine a_icmp_ne 160 dX3_line_151 rfl (fun c58 => ?_) (fun c58 => ?_)
    · have hT := oifn c58 hT
      refine a_mask [true, true, false] ?_
      exact k_X3_line_l160 ht hT he
    · have hT := oifp c58 hT
      refine a_aload_n dX3_line_154 rfl ?_
      refine a_bipush (v := 33) dX3_line_155 (by decide) ?_
      obtain ⟨r61, e62, hT⟩ := obnd hT
      refine a_callV kv_X3_246 (tw_is ht) (k_X3_sign ht e62) ⟨Nat.le_of_ble_eq_true rfl, Nat.le_of_ble_eq_true rfl⟩ (As := [.int 33]) (rest := []) rfl rfl (Nat.le_of_ble_eq_true rfl) dX3_line_157 (kV ?_) xV
      refine a_mask [true, true, false] ?_
      exact k_X3_line_l160 ht hT he
def t_X3_line (s : tS) (x0 : Int32) : Option (Int32 × tS) :=
  (tpf 12 s 0).bind fun s2 =>
  (t_X3_isVisitor s2 x0).bind fun r5 =>
  if r5.1 = 0 then
    (t_X3_throwing r5.2 1).bind fun r77 =>
    some (r77.1, r77.2)
  else
    (t_X3_visitorAt x0).bind fun r10 =>
    (tpf 20 r5.2 0).bind fun s13 =>
    (tld 0 s13 (r10 + 7)).bind fun z15 =>
    if z15 = 1 then
      (t_X3_sign s13 111).bind fun r65 =>
      (t_X3_sign r65.2 117).bind fun r69 =>
      (t_X3_sign r69.2 116).bind fun r73 =>
      t_X3_line_l75 r73.2 r10
    else
      (tld 0 s13 (r10 + 1)).bind fun z18 =>
      (t_X3_writesNumber s13 z18).bind fun r21 =>
      t_X3_line_l75 r21.2 r10
theorem k_X3_line {G : aG} {B : aH} {T : Nat → Nat} (ht : tOk (gZ G) T) {s : tS} {x0 : Int32} {e : (Int32 × tS)} (hT : t_X3_line s x0 = some e) : aMet G yX3_line (ws_ yX3_line cX3_line 3 (Option.some Jvm.ClassFile.FieldType.int)) 3 47 [.ref (T 100), .int x0] (tput (gZ G) B T s) (aEI e.1 (tput (gZ G) B T e.2)) := by
  refine aMet.of (lv := [some (.ref (T 100)), some (.int x0), none]) (by decide) (Nat.le_of_ble_eq_true rfl) 1 rfl ?_
  have he : aTo (aEI e.1 (tput (gZ G) B T e.2)) (aEI e.1 (tput (gZ G) B T e.2)) := aTo.rf
  unfold t_X3_line at hT
  refine a_aload_n dX3_line_0 rfl ?_
  refine a_iconst (v := 0) dX3_line_1 (by decide) ?_
  obtain ⟨s2, e1, hT⟩ := obnd hT
  refine a_put (fp_X3_38_2 _) ⟨rfl, rfl⟩ (tw_pf ht 12 (by decide) e1) dX3_line_2 ?_
  refine a_aload_n dX3_line_5 rfl ?_
  refine a_iload_n dX3_line_6 rfl ?_
  obtain ⟨r5, e6, hT⟩ := obnd hT
  refine a_callV kv_X3_154 (tw_is ht) (k_X3_isVisitor ht e6) ⟨Nat.le_of_ble_eq_true rfl, Nat.le_of_ble_eq_true rfl⟩ (As := [.int x0]) (rest := []) rfl rfl (Nat.le_of_ble_eq_true rfl) dX3_line_7 (kI ?_) xI
  refine a_if_ne 19 dX3_line_10 rfl (fun c7 => ?_) (fun c7 => ?_)
  · have hT := oifn c7 hT
    refine a_iload_n dX3_line_19 rfl ?_
    obtain ⟨r10, e11, hT⟩ := obnd hT
    refine a_callS ks_X3_126 (k_X3_visitorAt e11) ⟨Nat.le_of_ble_eq_true rfl, Nat.le_of_ble_eq_true rfl⟩ (As := [.int x0]) (rest := []) rfl rfl (Nat.le_of_ble_eq_true rfl) dX3_line_20 (kI ?_) xI
    refine a_istore_n (lv' := [some (.ref (T 100)), some (.int x0), some (.int r10)]) dX3_line_23 rfl (by decide) rfl ?_
    refine a_aload_n dX3_line_24 rfl ?_
    refine a_iconst (v := 0) dX3_line_25 (by decide) ?_
    obtain ⟨s13, e12, hT⟩ := obnd hT
    refine a_put (fp_X3_243_2 _) ⟨rfl, rfl⟩ (tw_pf ht 20 (by decide) e12) dX3_line_26 ?_
    refine a_aload_n dX3_line_29 rfl ?_
    refine a_gA fl_X3_9_2 (tw_gA ht 0 (by decide)) dX3_line_30 ?_
    refine a_iload_n dX3_line_33 rfl ?_
    refine a_bipush (v := 7) dX3_line_34 (by decide) ?_
    refine a_iadd dX3_line_36 ?_
    obtain ⟨z15, e14, hT⟩ := obnd hT
    refine a_ldI (tw_ld ht 0 (by decide) e14) dX3_line_37 ?_
    refine a_iconst (v := 1) dX3_line_38 (by decide) ?_
    refine a_icmp_ne 63 dX3_line_39 rfl (fun c16 => ?_) (fun c16 => ?_)
    · have hT := oifn c16 hT
      refine a_aload_n dX3_line_63 rfl ?_
      refine a_aload_n dX3_line_64 rfl ?_
      refine a_gA fl_X3_9_2 (tw_gA ht 0 (by decide)) dX3_line_65 ?_
      refine a_iload_n dX3_line_68 rfl ?_
      refine a_iconst (v := 1) dX3_line_69 (by decide) ?_
      refine a_iadd dX3_line_70 ?_
      obtain ⟨z18, e17, hT⟩ := obnd hT
      refine a_ldI (tw_ld ht 0 (by decide) e17) dX3_line_71 ?_
      obtain ⟨r21, e22, hT⟩ := obnd hT
      refine a_callV kv_X3_249 (tw_is ht) (k_X3_writesNumber ht e22) ⟨Nat.le_of_ble_eq_true rfl, Nat.le_of_ble_eq_true rfl⟩ (As := [.int z18]) (rest := []) rfl rfl (Nat.le_of_ble_eq_true rfl) dX3_line_72 (kV ?_) xV
      refine a_mask [true, false, true] ?_
      exact k_X3_line_l75 ht hT he
    · have hT := oifp c16 hT
      refine a_aload_n dX3_line_42 rfl ?_
      refine a_bipush (v := 111) dX3_line_43 (by decide) ?_
      obtain ⟨r65, e66, hT⟩ := obnd hT
      refine a_callV kv_X3_246 (tw_is ht) (k_X3_sign ht e66) ⟨Nat.le_of_ble_eq_true rfl, Nat.le_of_ble_eq_true rfl⟩ (As := [.int 111]) (rest := []) rfl rfl (Nat.le_of_ble_eq_true rfl) dX3_line_45 (kV ?_) xV
      refine a_aload_n dX3_line_48 rfl ?_
      refine a_bipush (v := 117) dX3_line_49 (by decide) ?_
      obtain ⟨r69, e70, hT⟩ := obnd hT
      refine a_callV kv_X3_246 (tw_is ht) (k_X3_sign ht e70) ⟨Nat.le_of_ble_eq_true rfl, Nat.le_of_ble_eq_true rfl⟩ (As := [.int 117]) (rest := []) rfl rfl (Nat.le_of_ble_eq_true rfl) dX3_line_51 (kV ?_) xV
      refine a_aload_n dX3_line_54 rfl ?_
      refine a_bipush (v := 116) dX3_line_55 (by decide) ?_
      obtain ⟨r73, e74, hT⟩ := obnd hT
      refine a_callV kv_X3_246 (tw_is ht) (k_X3_sign ht e74) ⟨Nat.le_of_ble_eq_true rfl, Nat.le_of_ble_eq_true rfl⟩ (As := [.int 116]) (rest := []) rfl rfl (Nat.le_of_ble_eq_true rfl) dX3_line_57 (kV ?_) xV
      refine a_goto 75 dX3_line_60 rfl ?_
      refine a_mask [true, false, true] ?_
      exact k_X3_line_l75 ht hT he
  · have hT := oifp c7 hT
    refine a_aload_n dX3_line_13 rfl ?_
    refine a_iconst (v := 1) dX3_line_14 (by decide) ?_
    obtain ⟨r77, e78, hT⟩ := obnd hT
    refine a_callV kv_X3_50 (tw_is ht) (k_X3_throwing ht e78) ⟨Nat.le_of_ble_eq_true rfl, Nat.le_of_ble_eq_true rfl⟩ (As := [.int 1]) (rest := []) rfl rfl (Nat.le_of_ble_eq_true rfl) dX3_line_15 (kI ?_) xI
    cases hT
    exact a_iret rfl rfl dX3_line_18 (he _ _ ⟨rfl, rfl⟩)
theorem kv_X3_252 : aKV "MazeBondsModel" 252 2 yX3_visitorsIn cX3_visitorsIn 4 (Option.some Jvm.ClassFile.FieldType.int) 1 := ⟨⟨TX3, 21, rfl⟩, Or.inl q2088, q2090, qs67, q81, q2091, ⟨by decide +kernel, by decide +kernel, by decide +kernel⟩⟩
abbrev M_X3_row : aM := (yX3_row.cls, cX3_row, 3, (Option.some Jvm.ClassFile.FieldType.int), [], yX3_row.name)
def p_X3_row_b32 (G : aG) (h0 : aH) (K : aRes → aH → Prop) (B : aH) (T : Nat → Nat) (x9 : (Int32 × Int32 × tS)) : Prop := aW G M_X3_row 3 63 h0 K (tput (gZ G) B T x9.2.2) 32 [some (.ref (T 100)), some (.int x9.1), some (.int x9.2.1)] []
def t_X3_row_l106 (s : tS)  : Option (Int32 × tS) :=
  some ((s.1 20), s)
theorem k_X3_row_l106 {G : aG} {h0 B : aH} {T : Nat → Nat} {K : aRes → aH → Prop} (ht : tOk (gZ G) T) {s : tS}  {e : (Int32 × tS)} (hT : t_X3_row_l106 s  = some e) (he : (fun e => aTo (aEI e.1 (tput (gZ G) B T e.2)) K) e) : aW G M_X3_row 3 63 h0 K (tput (gZ G) B T s) 106 [some (.ref (T 100)), none, none] [] := by
  unfold t_X3_row_l106 at hT
  refine a_aload_n dX3_row_106 rfl ?_
  refine a_gI fl_X3_243_2 (tw_gI ht 20 (by decide)) dX3_row_107 ?_
  cases hT
  exact a_iret rfl rfl dX3_row_110 (he _ _ ⟨rfl, rfl⟩)
def t_X3_row_l97 (s : tS) (v1 : Int32) (v2 : Int32) (u0 : Int32) : Option ((Int32 × Int32 × tS) ⊕ (Int32 × tS)) :=
  (t_X3_sign s u0).bind fun r21 =>
  some (.inl (v1, (v2 + 1), r21.2))
theorem k_X3_row_l97 {G : aG} {h0 B : aH} {T : Nat → Nat} {K : aRes → aH → Prop} (ht : tOk (gZ G) T) {s : tS} {v1 : Int32} {v2 : Int32} {u0 : Int32} {e : ((Int32 × Int32 × tS) ⊕ (Int32 × tS))} (hT : t_X3_row_l97 s v1 v2 u0 = some e) (he : (Sum.elim (p_X3_row_b32 G h0 K B T) (fun e => aTo (aEI e.1 (tput (gZ G) B T e.2)) K)) e) : aW G M_X3_row 3 63 h0 K (tput (gZ G) B T s) 97 [some (.ref (T 100)), some (.int v1), some (.int v2)] [.int u0, .ref (T 100)] := by
  unfold t_X3_row_l97 at hT
  obtain ⟨r21, e22, hT⟩ := obnd hT
  refine a_callV kv_X3_246 (tw_is ht) (k_X3_sign ht e22) ⟨Nat.le_of_ble_eq_true rfl, Nat.le_of_ble_eq_true rfl⟩ (As := [.int u0]) (rest := []) rfl rfl (Nat.le_of_ble_eq_true rfl) dX3_row_97 (kV ?_) xV
  refine a_iinc (v := (v2 + 1)) (lv' := [some (.ref (T 100)), some (.int v1), some (.int (v2 + 1))]) dX3_row_100 rfl (by rfl) rfl (by decide) rfl ?_
  refine a_goto 32 dX3_row_103 rfl ?_
  cases hT
  exact he
def t_X3_row_l73 (s : tS) (v1 : Int32) (v2 : Int32) : Option ((Int32 × Int32 × tS) ⊕ (Int32 × tS)) :=
  (tld 0 s 2).bind fun z13 =>
  if z13 = v2 then
    t_X3_row_l97 s v1 v2 77
  else
    (t_X3_visitorsIn s v2).bind fun r17 =>
    t_X3_row_l97 r17.2 v1 v2 (48 + r17.1)
theorem k_X3_row_l73 {G : aG} {h0 B : aH} {T : Nat → Nat} {K : aRes → aH → Prop} (ht : tOk (gZ G) T) {s : tS} {v1 : Int32} {v2 : Int32} {e : ((Int32 × Int32 × tS) ⊕ (Int32 × tS))} (hT : t_X3_row_l73 s v1 v2 = some e) (he : (Sum.elim (p_X3_row_b32 G h0 K B T) (fun e => aTo (aEI e.1 (tput (gZ G) B T e.2)) K)) e) : aW G M_X3_row 3 63 h0 K (tput (gZ G) B T s) 73 [some (.ref (T 100)), some (.int v1), some (.int v2)] [] := by
  unfold t_X3_row_l73 at hT
  refine a_aload_n dX3_row_73 rfl ?_
  refine a_aload_n dX3_row_74 rfl ?_
  refine a_gA fl_X3_9_2 (tw_gA ht 0 (by decide)) dX3_row_75 ?_
  refine a_iconst (v := 2) dX3_row_78 (by decide) ?_
  obtain ⟨z13, e12, hT⟩ := obnd hT
  refine a_ldI (tw_ld ht 0 (by decide) e12) dX3_row_79 ?_
  refine a_iload_n dX3_row_80 rfl ?_
  refine a_icmp_ne 89 dX3_row_81 rfl (fun c14 => ?_) (fun c14 => ?_)
  · have hT := oifn c14 hT
    refine a_bipush (v := 48) dX3_row_89 (by decide) ?_
    refine a_aload_n dX3_row_91 rfl ?_
    refine a_iload_n dX3_row_92 rfl ?_
    obtain ⟨r17, e18, hT⟩ := obnd hT
    refine a_callV kv_X3_252 (tw_is ht) (k_X3_visitorsIn ht e18) ⟨Nat.le_of_ble_eq_true rfl, Nat.le_of_ble_eq_true rfl⟩ (As := [.int v2]) (rest := [.int 48, .ref (T 100)]) rfl rfl (Nat.le_of_ble_eq_true rfl) dX3_row_93 (kI ?_) xI
    refine a_iadd dX3_row_96 ?_
    exact k_X3_row_l97 ht hT he
  · have hT := oifp c14 hT
    refine a_bipush (v := 77) dX3_row_84 (by decide) ?_
    refine a_goto 97 dX3_row_86 rfl ?_
    exact k_X3_row_l97 ht hT he
def t_X3_row_l70 (s : tS) (v1 : Int32) (v2 : Int32) (u0 : Int32) : Option ((Int32 × Int32 × tS) ⊕ (Int32 × tS)) :=
  (t_X3_sign s u0).bind fun r34 =>
  t_X3_row_l73 r34.2 v1 v2
theorem k_X3_row_l70 {G : aG} {h0 B : aH} {T : Nat → Nat} {K : aRes → aH → Prop} (ht : tOk (gZ G) T) {s : tS} {v1 : Int32} {v2 : Int32} {u0 : Int32} {e : ((Int32 × Int32 × tS) ⊕ (Int32 × tS))} (hT : t_X3_row_l70 s v1 v2 u0 = some e) (he : (Sum.elim (p_X3_row_b32 G h0 K B T) (fun e => aTo (aEI e.1 (tput (gZ G) B T e.2)) K)) e) : aW G M_X3_row 3 63 h0 K (tput (gZ G) B T s) 70 [some (.ref (T 100)), some (.int v1), some (.int v2)] [.int u0, .ref (T 100)] := by
  unfold t_X3_row_l70 at hT
  obtain ⟨r34, e35, hT⟩ := obnd hT
  refine a_callV kv_X3_246 (tw_is ht) (k_X3_sign ht e35) ⟨Nat.le_of_ble_eq_true rfl, Nat.le_of_ble_eq_true rfl⟩ (As := [.int u0]) (rest := []) rfl rfl (Nat.le_of_ble_eq_true rfl) dX3_row_70 (kV ?_) xV
  exact k_X3_row_l73 ht hT he
def t_X3_row_b32 : (Int32 × Int32 × tS) → Option ((Int32 × Int32 × tS) ⊕ (Int32 × tS)) := fun (v1, v2, s) =>
  if ((4 * v1) + 4) ≤ v2 then
    (t_X3_row_l106 s).map .inr
  else
    if v2 ≤ (4 * v1) then
      t_X3_row_l73 s v1 v2
    else
      (t_X3_hedgeAt (v2 - 1) v2).bind fun r25 =>
      (t_X3_isGapAt s r25).bind fun r29 =>
      if r29.1 = 0 then
        t_X3_row_l70 r29.2 v1 v2 124
      else
        t_X3_row_l70 r29.2 v1 v2 32
theorem kb_X3_row_b32 {G : aG} {h0 B : aH} {T : Nat → Nat} {K : aRes → aH → Prop} (ht : tOk (gZ G) T) : ∀ (x9 : (Int32 × Int32 × tS)) (e : ((Int32 × Int32 × tS) ⊕ (Int32 × tS))), t_X3_row_b32 x9 = some e → (Sum.elim (p_X3_row_b32 G h0 K B T) (fun e => aTo (aEI e.1 (tput (gZ G) B T e.2)) K)) e → p_X3_row_b32 G h0 K B T x9 := by
  intro x9 e hT he
  obtain ⟨v1, v2, s⟩ := x9
  unfold p_X3_row_b32
  unfold t_X3_row_b32 at hT
  show aW G M_X3_row 3 63 h0 K (tput (gZ G) B T s) 32 [some (.ref (T 100)), some (.int v1), some (.int v2)] []
  dsimp only at hT
  refine a_iload_n dX3_row_32 rfl ?_
  refine a_iconst (v := 4) dX3_row_33 (by decide) ?_
  refine a_iload_n dX3_row_34 rfl ?_
  refine a_imul dX3_row_35 ?_
  refine a_iconst (v := 4) dX3_row_36 (by decide) ?_
  refine a_iadd dX3_row_37 ?_
  refine a_icmp_ge 106 dX3_row_38 rfl (fun c10 => ?_) (fun c10 => ?_)
  · have hT := oifp c10 hT
    refine a_mask [true, false, false] ?_
    obtain ⟨e8, hT8, rfl⟩ := omap hT
    exact k_X3_row_l106 ht hT8 he
  · have hT := oifn c10 hT
    refine a_iload_n dX3_row_41 rfl ?_
    refine a_iconst (v := 4) dX3_row_42 (by decide) ?_
    refine a_iload_n dX3_row_43 rfl ?_
    refine a_imul dX3_row_44 ?_
    refine a_icmp_le 73 dX3_row_45 rfl (fun c11 => ?_) (fun c11 => ?_)
    · have hT := oifp c11 hT
      exact k_X3_row_l73 ht hT he
    · have hT := oifn c11 hT
      refine a_aload_n dX3_row_48 rfl ?_
      refine a_aload_n dX3_row_49 rfl ?_
      refine a_iload_n dX3_row_50 rfl ?_
      refine a_iconst (v := 1) dX3_row_51 (by decide) ?_
      refine a_isub dX3_row_52 ?_
      refine a_iload_n dX3_row_53 rfl ?_
      obtain ⟨r25, e26, hT⟩ := obnd hT
      refine a_callS ks_X3_77 (k_X3_hedgeAt e26) ⟨Nat.le_of_ble_eq_true rfl, Nat.le_of_ble_eq_true rfl⟩ (As := [.int (v2 - 1), .int v2]) (rest := [.ref (T 100), .ref (T 100)]) rfl rfl (Nat.le_of_ble_eq_true rfl) dX3_row_54 (kI ?_) xI
      obtain ⟨r29, e30, hT⟩ := obnd hT
      refine a_callV kv_X3_80 (tw_is ht) (k_X3_isGapAt ht e30) ⟨Nat.le_of_ble_eq_true rfl, Nat.le_of_ble_eq_true rfl⟩ (As := [.int r25]) (rest := [.ref (T 100)]) rfl rfl (Nat.le_of_ble_eq_true rfl) dX3_row_57 (kI ?_) xI
      refine a_if_eq 68 dX3_row_60 rfl (fun c31 => ?_) (fun c31 => ?_)
      · have hT := oifp c31 hT
        refine a_bipush (v := 124) dX3_row_68 (by decide) ?_
        exact k_X3_row_l70 ht hT he
      · have hT := oifn c31 hT
        refine a_bipush (v := 32) dX3_row_63 (by decide) ?_
        refine a_goto 70 dX3_row_65 rfl ?_
        exact k_X3_row_l70 ht hT he
theorem k_X3_row_b32 {G : aG} {h0 B : aH} {T : Nat → Nat} {K : aRes → aH → Prop} (ht : tOk (gZ G) T) {n9 : Nat} {x9 : (Int32 × Int32 × tS)} {e : (Int32 × tS)} (hT : wlo t_X3_row_b32 n9 x9 = some e) (he : (fun e => aTo (aEI e.1 (tput (gZ G) B T e.2)) K) e) : p_X3_row_b32 G h0 K B T x9 := wlo_W (kb_X3_row_b32 ht) n9 x9 e hT he
def t_X3_row (s : tS) (x0 : Int32) : Option (Int32 × tS) :=
  (tpf 12 s 0).bind fun s2 =>
  (t_X3_in ((x0 : Int32).toInt64) 0 3).bind fun r5 =>
  if r5 = 0 then
    (t_X3_throwing s2 1).bind fun r38 =>
    some (r38.1, r38.2)
  else
    (tpf 20 s2 0).bind fun s9 =>
    wlo t_X3_row_b32 300 (x0, (4 * x0), s9)
theorem k_X3_row {G : aG} {B : aH} {T : Nat → Nat} (ht : tOk (gZ G) T) {s : tS} {x0 : Int32} {e : (Int32 × tS)} (hT : t_X3_row s x0 = some e) : aMet G yX3_row (ws_ yX3_row cX3_row 3 (Option.some Jvm.ClassFile.FieldType.int)) 3 63 [.ref (T 100), .int x0] (tput (gZ G) B T s) (aEI e.1 (tput (gZ G) B T e.2)) := by
  refine aMet.of (lv := [some (.ref (T 100)), some (.int x0), none]) (by decide) (Nat.le_of_ble_eq_true rfl) 1 rfl ?_
  have he : aTo (aEI e.1 (tput (gZ G) B T e.2)) (aEI e.1 (tput (gZ G) B T e.2)) := aTo.rf
  unfold t_X3_row at hT
  refine a_aload_n dX3_row_0 rfl ?_
  refine a_iconst (v := 0) dX3_row_1 (by decide) ?_
  obtain ⟨s2, e1, hT⟩ := obnd hT
  refine a_put (fp_X3_38_2 _) ⟨rfl, rfl⟩ (tw_pf ht 12 (by decide) e1) dX3_row_2 ?_
  refine a_iload_n dX3_row_5 rfl ?_
  refine a_i2l dX3_row_6 ?_
  refine a_lconst (v := 0) dX3_row_7 (by decide) ?_
  refine a_ldc2 q1887 dX3_row_8 ?_
  obtain ⟨r5, e6, hT⟩ := obnd hT
  refine a_callS ks_X3_59 (k_X3_in e6) ⟨Nat.le_of_ble_eq_true rfl, Nat.le_of_ble_eq_true rfl⟩ (As := [.long ((x0 : Int32).toInt64), .long 0, .long 3]) (rest := []) rfl rfl (Nat.le_of_ble_eq_true rfl) dX3_row_11 (kI ?_) xI
  refine a_if_ne 23 dX3_row_14 rfl (fun c7 => ?_) (fun c7 => ?_)
  · have hT := oifn c7 hT
    refine a_aload_n dX3_row_23 rfl ?_
    refine a_iconst (v := 0) dX3_row_24 (by decide) ?_
    obtain ⟨s9, e8, hT⟩ := obnd hT
    refine a_put (fp_X3_243_2 _) ⟨rfl, rfl⟩ (tw_pf ht 20 (by decide) e8) dX3_row_25 ?_
    refine a_iconst (v := 4) dX3_row_28 (by decide) ?_
    refine a_iload_n dX3_row_29 rfl ?_
    refine a_imul dX3_row_30 ?_
    refine a_istore_n (lv' := [some (.ref (T 100)), some (.int x0), some (.int (4 * x0))]) dX3_row_31 rfl (by decide) rfl ?_
    exact k_X3_row_b32 ht hT he
  · have hT := oifp c7 hT
    refine a_aload_n dX3_row_17 rfl ?_
    refine a_iconst (v := 1) dX3_row_18 (by decide) ?_
    obtain ⟨r38, e39, hT⟩ := obnd hT
    refine a_callV kv_X3_50 (tw_is ht) (k_X3_throwing ht e39) ⟨Nat.le_of_ble_eq_true rfl, Nat.le_of_ble_eq_true rfl⟩ (As := [.int 1]) (rest := []) rfl rfl (Nat.le_of_ble_eq_true rfl) dX3_row_19 (kI ?_) xI
    cases hT
    exact a_iret rfl rfl dX3_row_22 (he _ _ ⟨rfl, rfl⟩)
theorem kv_X3_110 : aKV "MazeBondsModel" 110 2 yX3_gaps cX3_gaps 3 (Option.some Jvm.ClassFile.FieldType.int) 0 := ⟨⟨TX3, 21, rfl⟩, Or.inl q1820, q1822, qs36, q81, q1823, ⟨by decide +kernel, by decide +kernel, by decide +kernel⟩⟩
abbrev M_X3_gapShare : aM := (yX3_gapShare.cls, cX3_gapShare, 1, (Option.some Jvm.ClassFile.FieldType.float), [], yX3_gapShare.name)
def t_X3_gapShare (s : tS)  : Option (UInt32 × tS) :=
  (tpf 12 s 0).bind fun s2 =>
  (t_X3_gaps s2).bind fun r5 =>
  if (FP.fdiv (FP.i2f r5.1) 1103101952) &&& 0x7fffffff ≤ 0x7f800000 then
  some ((FP.fdiv (FP.i2f r5.1) 1103101952), r5.2)
  else none
theorem k_X3_gapShare {G : aG} {B : aH} {T : Nat → Nat} (ht : tOk (gZ G) T) {s : tS}  {e : (UInt32 × tS)} (hT : t_X3_gapShare s  = some e) : aMet G yX3_gapShare (ws_ yX3_gapShare cX3_gapShare 1 (Option.some Jvm.ClassFile.FieldType.float)) 3 44 [.ref (T 100)] (tput (gZ G) B T s) (aEF e.1 (tput (gZ G) B T e.2)) := by
  refine aMet.of (lv := [some (.ref (T 100))]) (by decide) (Nat.le_of_ble_eq_true rfl) 0 rfl ?_
  have he : aTo (aEF e.1 (tput (gZ G) B T e.2)) (aEF e.1 (tput (gZ G) B T e.2)) := aTo.rf
  unfold t_X3_gapShare at hT
  refine a_aload_n dX3_gapShare_0 rfl ?_
  refine a_iconst (v := 0) dX3_gapShare_1 (by decide) ?_
  obtain ⟨s2, e1, hT⟩ := obnd hT
  refine a_put (fp_X3_38_2 _) ⟨rfl, rfl⟩ (tw_pf ht 12 (by decide) e1) dX3_gapShare_2 ?_
  refine a_aload_n dX3_gapShare_5 rfl ?_
  obtain ⟨r5, e6, hT⟩ := obnd hT
  refine a_callV kv_X3_110 (tw_is ht) (k_X3_gaps ht e6) ⟨Nat.le_of_ble_eq_true rfl, Nat.le_of_ble_eq_true rfl⟩ (As := []) (rest := []) rfl rfl (Nat.le_of_ble_eq_true rfl) dX3_gapShare_6 (kI ?_) xI
  refine a_i2f dX3_gapShare_9 ?_
  refine a_ldcf q2104 dX3_gapShare_10 ?_
  obtain ⟨g7, hT⟩ := oifg hT
  refine a_fdiv dX3_gapShare_12 g7 ?_
  cases hT
  exact a_fret rfl dX3_gapShare_13 (he _ _ ⟨rfl, rfl⟩)
theorem kv_X3_256 : aKV "MazeBondsModel" 256 2 yX3_outs cX3_outs 3 (Option.some Jvm.ClassFile.FieldType.int) 0 := ⟨⟨TX3, 21, rfl⟩, Or.inl q2109, q2111, qs68, q81, q2112, ⟨by decide +kernel, by decide +kernel, by decide +kernel⟩⟩
theorem kv_X3_186 : aKV "MazeBondsModel" 186 2 yX3_lasting cX3_lasting 4 (Option.some Jvm.ClassFile.FieldType.int) 1 := ⟨⟨TX3, 21, rfl⟩, Or.inl q1986, q1988, qs54, q81, q1989, ⟨by decide +kernel, by decide +kernel, by decide +kernel⟩⟩
theorem kv_X3_259 : aKV "MazeBondsModel" 259 2 yX3_voids cX3_voids 3 (Option.some Jvm.ClassFile.FieldType.int) 0 := ⟨⟨TX3, 21, rfl⟩, Or.inl q2113, q2115, qs69, q81, q2116, ⟨by decide +kernel, by decide +kernel, by decide +kernel⟩⟩
theorem kv_X3_262 : aKV "MazeBondsModel" 262 2 yX3_coins cX3_coins 3 (Option.some Jvm.ClassFile.FieldType.int) 0 := ⟨⟨TX3, 21, rfl⟩, Or.inl q2117, q2119, qs70, q81, q2120, ⟨by decide +kernel, by decide +kernel, by decide +kernel⟩⟩
abbrev M_X3_account : aM := (yX3_account.cls, cX3_account, 2, (Option.some Jvm.ClassFile.FieldType.int), [], yX3_account.name)
def t_X3_account (s : tS) (x0 : Int32) : Option (Int32 × tS) :=
  (tpf 12 s 0).bind fun s2 =>
  if x0 = 0 then
    (tld 0 s2 x0).bind fun z5 =>
    some (z5, s2)
  else
    if x0 = 1 then
      (tld 0 s2 x0).bind fun z8 =>
      some (z8, s2)
    else
      if x0 = 2 then
        (t_X3_outs s2).bind fun r12 =>
        some (r12.1, r12.2)
      else
        if x0 = 3 then
          (t_X3_lasting s2 (-1)).bind fun r17 =>
          some (r17.1, r17.2)
        else
          if x0 = 4 then
            (t_X3_voids s2).bind fun r22 =>
            some (r22.1, r22.2)
          else
            if x0 = 5 then
              (t_X3_gaps s2).bind fun r27 =>
              some (r27.1, r27.2)
            else
              if x0 = 6 then
                (tld 0 s2 ((3 + x0) - 6)).bind fun z31 =>
                some (z31, s2)
              else
                if x0 = 7 then
                  (tld 0 s2 ((3 + x0) - 6)).bind fun z34 =>
                  some (z34, s2)
                else
                  if x0 = 8 then
                    (tld 0 s2 ((3 + x0) - 6)).bind fun z37 =>
                    some (z37, s2)
                  else
                    if x0 = 9 then
                      (t_X3_coins s2).bind fun r41 =>
                      some (r41.1, r41.2)
                    else
                      if x0 = 10 then
                        some ((s2.1 5), s2)
                      else
                        if x0 = 11 then
                          some ((s2.1 11), s2)
                        else
                          (t_X3_throwing s2 1).bind fun r47 =>
                          some (r47.1, r47.2)
theorem k_X3_account {G : aG} {B : aH} {T : Nat → Nat} (ht : tOk (gZ G) T) {s : tS} {x0 : Int32} {e : (Int32 × tS)} (hT : t_X3_account s x0 = some e) : aMet G yX3_account (ws_ yX3_account cX3_account 2 (Option.some Jvm.ClassFile.FieldType.int)) 4 65 [.ref (T 100), .int x0] (tput (gZ G) B T s) (aEI e.1 (tput (gZ G) B T e.2)) := by
  refine aMet.of (lv := [some (.ref (T 100)), some (.int x0)]) (by decide) (Nat.le_of_ble_eq_true rfl) 0 rfl ?_
  have he : aTo (aEI e.1 (tput (gZ G) B T e.2)) (aEI e.1 (tput (gZ G) B T e.2)) := aTo.rf
  unfold t_X3_account at hT
  refine a_aload_n dX3_account_0 rfl ?_
  refine a_iconst (v := 0) dX3_account_1 (by decide) ?_
  obtain ⟨s2, e1, hT⟩ := obnd hT
  refine a_put (fp_X3_38_2 _) ⟨rfl, rfl⟩ (tw_pf ht 12 (by decide) e1) dX3_account_2 ?_
  refine a_iload_n dX3_account_5 rfl ?_
  by_cases c3 : x0 = 0
  · have hT := oifp c3 hT
    refine a_tswIn 68 dX3_account_6 (by rw [c3]; decide) (by rw [c3]; decide) (off := 62) (by rw [c3]; rfl) rfl ?_
    refine a_aload_n dX3_account_68 rfl ?_
    refine a_gA fl_X3_9_2 (tw_gA ht 0 (by decide)) dX3_account_69 ?_
    refine a_iload_n dX3_account_72 rfl ?_
    obtain ⟨z5, e4, hT⟩ := obnd hT
    refine a_ldI (tw_ld ht 0 (by decide) e4) dX3_account_73 ?_
    cases hT
    exact a_iret rfl rfl dX3_account_74 (he _ _ ⟨rfl, rfl⟩)
  · have hT := oifn c3 hT
    by_cases c6 : x0 = 1
    · have hT := oifp c6 hT
      refine a_tswIn 68 dX3_account_6 (by rw [c6]; decide) (by rw [c6]; decide) (off := 62) (by rw [c6]; rfl) rfl ?_
      refine a_aload_n dX3_account_68 rfl ?_
      refine a_gA fl_X3_9_2 (tw_gA ht 0 (by decide)) dX3_account_69 ?_
      refine a_iload_n dX3_account_72 rfl ?_
      obtain ⟨z8, e7, hT⟩ := obnd hT
      refine a_ldI (tw_ld ht 0 (by decide) e7) dX3_account_73 ?_
      cases hT
      exact a_iret rfl rfl dX3_account_74 (he _ _ ⟨rfl, rfl⟩)
    · have hT := oifn c6 hT
      by_cases c9 : x0 = 2
      · have hT := oifp c9 hT
        refine a_tswIn 75 dX3_account_6 (by rw [c9]; decide) (by rw [c9]; decide) (off := 69) (by rw [c9]; rfl) rfl ?_
        refine a_aload_n dX3_account_75 rfl ?_
        obtain ⟨r12, e13, hT⟩ := obnd hT
        refine a_callV kv_X3_256 (tw_is ht) (k_X3_outs ht e13) ⟨Nat.le_of_ble_eq_true rfl, Nat.le_of_ble_eq_true rfl⟩ (As := []) (rest := []) rfl rfl (Nat.le_of_ble_eq_true rfl) dX3_account_76 (kI ?_) xI
        cases hT
        exact a_iret rfl rfl dX3_account_79 (he _ _ ⟨rfl, rfl⟩)
      · have hT := oifn c9 hT
        by_cases c14 : x0 = 3
        · have hT := oifp c14 hT
          refine a_tswIn 80 dX3_account_6 (by rw [c14]; decide) (by rw [c14]; decide) (off := 74) (by rw [c14]; rfl) rfl ?_
          refine a_aload_n dX3_account_80 rfl ?_
          refine a_iconst (v := (-1)) dX3_account_81 (by decide) ?_
          obtain ⟨r17, e18, hT⟩ := obnd hT
          refine a_callV kv_X3_186 (tw_is ht) (k_X3_lasting ht e18) ⟨Nat.le_of_ble_eq_true rfl, Nat.le_of_ble_eq_true rfl⟩ (As := [.int (-1)]) (rest := []) rfl rfl (Nat.le_of_ble_eq_true rfl) dX3_account_82 (kI ?_) xI
          cases hT
          exact a_iret rfl rfl dX3_account_85 (he _ _ ⟨rfl, rfl⟩)
        · have hT := oifn c14 hT
          by_cases c19 : x0 = 4
          · have hT := oifp c19 hT
            refine a_tswIn 86 dX3_account_6 (by rw [c19]; decide) (by rw [c19]; decide) (off := 80) (by rw [c19]; rfl) rfl ?_
            refine a_aload_n dX3_account_86 rfl ?_
            obtain ⟨r22, e23, hT⟩ := obnd hT
            refine a_callV kv_X3_259 (tw_is ht) (k_X3_voids ht e23) ⟨Nat.le_of_ble_eq_true rfl, Nat.le_of_ble_eq_true rfl⟩ (As := []) (rest := []) rfl rfl (Nat.le_of_ble_eq_true rfl) dX3_account_87 (kI ?_) xI
            cases hT
            exact a_iret rfl rfl dX3_account_90 (he _ _ ⟨rfl, rfl⟩)
          · have hT := oifn c19 hT
            by_cases c24 : x0 = 5
            · have hT := oifp c24 hT
              refine a_tswIn 91 dX3_account_6 (by rw [c24]; decide) (by rw [c24]; decide) (off := 85) (by rw [c24]; rfl) rfl ?_
              refine a_aload_n dX3_account_91 rfl ?_
              obtain ⟨r27, e28, hT⟩ := obnd hT
              refine a_callV kv_X3_110 (tw_is ht) (k_X3_gaps ht e28) ⟨Nat.le_of_ble_eq_true rfl, Nat.le_of_ble_eq_true rfl⟩ (As := []) (rest := []) rfl rfl (Nat.le_of_ble_eq_true rfl) dX3_account_92 (kI ?_) xI
              cases hT
              exact a_iret rfl rfl dX3_account_95 (he _ _ ⟨rfl, rfl⟩)
            · have hT := oifn c24 hT
              by_cases c29 : x0 = 6
              · have hT := oifp c29 hT
                refine a_tswIn 96 dX3_account_6 (by rw [c29]; decide) (by rw [c29]; decide) (off := 90) (by rw [c29]; rfl) rfl ?_
                refine a_aload_n dX3_account_96 rfl ?_
                refine a_gA fl_X3_9_2 (tw_gA ht 0 (by decide)) dX3_account_97 ?_
                refine a_iconst (v := 3) dX3_account_100 (by decide) ?_
                refine a_iload_n dX3_account_101 rfl ?_
                refine a_iadd dX3_account_102 ?_
                refine a_bipush (v := 6) dX3_account_103 (by decide) ?_
                refine a_isub dX3_account_105 ?_
                obtain ⟨z31, e30, hT⟩ := obnd hT
                refine a_ldI (tw_ld ht 0 (by decide) e30) dX3_account_106 ?_
                cases hT
                exact a_iret rfl rfl dX3_account_107 (he _ _ ⟨rfl, rfl⟩)
              · have hT := oifn c29 hT
                by_cases c32 : x0 = 7
                · have hT := oifp c32 hT
                  refine a_tswIn 96 dX3_account_6 (by rw [c32]; decide) (by rw [c32]; decide) (off := 90) (by rw [c32]; rfl) rfl ?_
                  refine a_aload_n dX3_account_96 rfl ?_
                  refine a_gA fl_X3_9_2 (tw_gA ht 0 (by decide)) dX3_account_97 ?_
                  refine a_iconst (v := 3) dX3_account_100 (by decide) ?_
                  refine a_iload_n dX3_account_101 rfl ?_
                  refine a_iadd dX3_account_102 ?_
                  refine a_bipush (v := 6) dX3_account_103 (by decide) ?_
                  refine a_isub dX3_account_105 ?_
                  obtain ⟨z34, e33, hT⟩ := obnd hT
                  refine a_ldI (tw_ld ht 0 (by decide) e33) dX3_account_106 ?_
                  cases hT
                  exact a_iret rfl rfl dX3_account_107 (he _ _ ⟨rfl, rfl⟩)
                · have hT := oifn c32 hT
                  by_cases c35 : x0 = 8
                  · have hT := oifp c35 hT
                    refine a_tswIn 96 dX3_account_6 (by rw [c35]; decide) (by rw [c35]; decide) (off := 90) (by rw [c35]; rfl) rfl ?_
                    refine a_aload_n dX3_account_96 rfl ?_
                    refine a_gA fl_X3_9_2 (tw_gA ht 0 (by decide)) dX3_account_97 ?_
                    refine a_iconst (v := 3) dX3_account_100 (by decide) ?_
                    refine a_iload_n dX3_account_101 rfl ?_
                    refine a_iadd dX3_account_102 ?_
                    refine a_bipush (v := 6) dX3_account_103 (by decide) ?_
                    refine a_isub dX3_account_105 ?_
                    obtain ⟨z37, e36, hT⟩ := obnd hT
                    refine a_ldI (tw_ld ht 0 (by decide) e36) dX3_account_106 ?_
                    cases hT
                    exact a_iret rfl rfl dX3_account_107 (he _ _ ⟨rfl, rfl⟩)
                  · have hT := oifn c35 hT
                    by_cases c38 : x0 = 9
                    · have hT := oifp c38 hT
                      refine a_tswIn 108 dX3_account_6 (by rw [c38]; decide) (by rw [c38]; decide) (off := 102) (by rw [c38]; rfl) rfl ?_
                      refine a_aload_n dX3_account_108 rfl ?_
                      obtain ⟨r41, e42, hT⟩ := obnd hT
                      refine a_callV kv_X3_262 (tw_is ht) (k_X3_coins ht e42) ⟨Nat.le_of_ble_eq_true rfl, Nat.le_of_ble_eq_true rfl⟩ (As := []) (rest := []) rfl rfl (Nat.le_of_ble_eq_true rfl) dX3_account_109 (kI ?_) xI
                      cases hT
                      exact a_iret rfl rfl dX3_account_112 (he _ _ ⟨rfl, rfl⟩)
                    · have hT := oifn c38 hT
                      by_cases c43 : x0 = 10
                      · have hT := oifp c43 hT
                        refine a_tswIn 113 dX3_account_6 (by rw [c43]; decide) (by rw [c43]; decide) (off := 107) (by rw [c43]; rfl) rfl ?_
                        refine a_aload_n dX3_account_113 rfl ?_
                        refine a_gI fl_X3_54_2 (tw_gI ht 5 (by decide)) dX3_account_114 ?_
                        cases hT
                        exact a_iret rfl rfl dX3_account_117 (he _ _ ⟨rfl, rfl⟩)
                      · have hT := oifn c43 hT
                        by_cases c44 : x0 = 11
                        · have hT := oifp c44 hT
                          refine a_tswIn 118 dX3_account_6 (by rw [c44]; decide) (by rw [c44]; decide) (off := 112) (by rw [c44]; rfl) rfl ?_
                          refine a_aload_n dX3_account_118 rfl ?_
                          refine a_gI fl_X3_195_2 (tw_gI ht 11 (by decide)) dX3_account_119 ?_
                          cases hT
                          exact a_iret rfl rfl dX3_account_122 (he _ _ ⟨rfl, rfl⟩)
                        · have hT := oifn c44 hT
                          refine aTsw 123 dX3_account_6 rfl (cs := [0, 1, 2, 3, 4, 5, 6, 7, 8, 9, 10, 11]) (by decide +kernel) (by simp only [List.mem_cons, List.not_mem_nil, or_false]; rintro z9 (rfl | rfl | rfl | rfl | rfl | rfl | rfl | rfl | rfl | rfl | rfl | rfl) <;> assumption) ?_
                          refine a_aload_n dX3_account_123 rfl ?_
                          refine a_iconst (v := 1) dX3_account_124 (by decide) ?_
                          obtain ⟨r47, e48, hT⟩ := obnd hT
                          refine a_callV kv_X3_50 (tw_is ht) (k_X3_throwing ht e48) ⟨Nat.le_of_ble_eq_true rfl, Nat.le_of_ble_eq_true rfl⟩ (As := [.int 1]) (rest := []) rfl rfl (Nat.le_of_ble_eq_true rfl) dX3_account_125 (kI ?_) xI
                          cases hT
                          exact a_iret rfl rfl dX3_account_128 (he _ _ ⟨rfl, rfl⟩)
abbrev M_X3_hedgeIt : aM := (yX3_hedgeIt.cls, cX3_hedgeIt, 6, (Option.some Jvm.ClassFile.FieldType.int), [], yX3_hedgeIt.name)
def t_X3_hedgeIt (s : tS) (x0 : Int32) (x1 : Int32) (x2 : Int32) : Option (Int32 × tS) :=
  (t_X3_in ((x2 : Int32).toInt64) 0 9).bind fun r3 =>
  if r3 = 0 then
    (t_X3_refuse s 1 0).bind fun r26 =>
    some (r26.1, r26.2)
  else
    (t_X3_areNeighbours s x0 x1).bind fun r8 =>
    if r8.1 = 0 then
      some ((-1), r8.2)
    else
      (t_X3_hedgeAt x0 x1).bind fun r13 =>
      (tld 0 r8.2 r13).bind fun z16 =>
      if z16 = x2 then
        (t_X3_refuse r8.2 3 x2).bind fun r22 =>
        some (r22.1, r22.2)
      else
        (tst 0 r8.2 r13 x2).bind fun s19 =>
        some (z16, s19)
theorem k_X3_hedgeIt {G : aG} {B : aH} {T : Nat → Nat} (ht : tOk (gZ G) T) {s : tS} {x0 : Int32} {x1 : Int32} {x2 : Int32} {e : (Int32 × tS)} (hT : t_X3_hedgeIt s x0 x1 x2 = some e) : aMet G yX3_hedgeIt (ws_ yX3_hedgeIt cX3_hedgeIt 6 (Option.some Jvm.ClassFile.FieldType.int)) 4 85 [.ref (T 100), .int x0, .int x1, .int x2] (tput (gZ G) B T s) (aEI e.1 (tput (gZ G) B T e.2)) := by
  refine aMet.of (lv := [some (.ref (T 100)), some (.int x0), some (.int x1), some (.int x2), none, none]) (by decide) (Nat.le_of_ble_eq_true rfl) 2 rfl ?_
  have he : aTo (aEI e.1 (tput (gZ G) B T e.2)) (aEI e.1 (tput (gZ G) B T e.2)) := aTo.rf
  unfold t_X3_hedgeIt at hT
  refine a_iload_n dX3_hedgeIt_0 rfl ?_
  refine a_i2l dX3_hedgeIt_1 ?_
  refine a_lconst (v := 0) dX3_hedgeIt_2 (by decide) ?_
  refine a_ldc2 q1783 dX3_hedgeIt_3 ?_
  obtain ⟨r3, e4, hT⟩ := obnd hT
  refine a_callS ks_X3_59 (k_X3_in e4) ⟨Nat.le_of_ble_eq_true rfl, Nat.le_of_ble_eq_true rfl⟩ (As := [.long ((x2 : Int32).toInt64), .long 0, .long 9]) (rest := []) rfl rfl (Nat.le_of_ble_eq_true rfl) dX3_hedgeIt_6 (kI ?_) xI
  refine a_if_ne 19 dX3_hedgeIt_9 rfl (fun c5 => ?_) (fun c5 => ?_)
  · have hT := oifn c5 hT
    refine a_aload_n dX3_hedgeIt_19 rfl ?_
    refine a_iload_n dX3_hedgeIt_20 rfl ?_
    refine a_iload_n dX3_hedgeIt_21 rfl ?_
    obtain ⟨r8, e9, hT⟩ := obnd hT
    refine a_callV kv_X3_96 (tw_is ht) (k_X3_areNeighbours ht e9) ⟨Nat.le_of_ble_eq_true rfl, Nat.le_of_ble_eq_true rfl⟩ (As := [.int x0, .int x1]) (rest := []) rfl rfl (Nat.le_of_ble_eq_true rfl) dX3_hedgeIt_22 (kI ?_) xI
    refine a_if_ne 30 dX3_hedgeIt_25 rfl (fun c10 => ?_) (fun c10 => ?_)
    · have hT := oifn c10 hT
      refine a_iload_n dX3_hedgeIt_30 rfl ?_
      refine a_iload_n dX3_hedgeIt_31 rfl ?_
      obtain ⟨r13, e14, hT⟩ := obnd hT
      refine a_callS ks_X3_77 (k_X3_hedgeAt e14) ⟨Nat.le_of_ble_eq_true rfl, Nat.le_of_ble_eq_true rfl⟩ (As := [.int x0, .int x1]) (rest := []) rfl rfl (Nat.le_of_ble_eq_true rfl) dX3_hedgeIt_32 (kI ?_) xI
      refine a_istore (lv' := [some (.ref (T 100)), some (.int x0), some (.int x1), some (.int x2), some (.int r13), none]) dX3_hedgeIt_35 rfl (by decide) rfl ?_
      refine a_aload_n dX3_hedgeIt_37 rfl ?_
      refine a_gA fl_X3_9_2 (tw_gA ht 0 (by decide)) dX3_hedgeIt_38 ?_
      refine a_iload dX3_hedgeIt_41 rfl ?_
      obtain ⟨z16, e15, hT⟩ := obnd hT
      refine a_ldI (tw_ld ht 0 (by decide) e15) dX3_hedgeIt_43 ?_
      refine a_istore (lv' := [some (.ref (T 100)), some (.int x0), some (.int x1), some (.int x2), some (.int r13), some (.int z16)]) dX3_hedgeIt_44 rfl (by decide) rfl ?_
      refine a_iload dX3_hedgeIt_46 rfl ?_
      refine a_iload_n dX3_hedgeIt_48 rfl ?_
      refine a_icmp_ne 59 dX3_hedgeIt_49 rfl (fun c17 => ?_) (fun c17 => ?_)
      · have hT := oifn c17 hT
        refine a_aload_n dX3_hedgeIt_59 rfl ?_
        refine a_gA fl_X3_9_2 (tw_gA ht 0 (by decide)) dX3_hedgeIt_60 ?_
        refine a_iload dX3_hedgeIt_63 rfl ?_
        refine a_iload_n dX3_hedgeIt_65 rfl ?_
        obtain ⟨s19, e18, hT⟩ := obnd hT
        refine a_stI (tw_st ht 0 (by decide) e18) dX3_hedgeIt_66 ?_
        refine a_iload dX3_hedgeIt_67 rfl ?_
        cases hT
        exact a_iret rfl rfl dX3_hedgeIt_69 (he _ _ ⟨rfl, rfl⟩)
      · have hT := oifp c17 hT
        refine a_aload_n dX3_hedgeIt_52 rfl ?_
        refine a_iconst (v := 3) dX3_hedgeIt_53 (by decide) ?_
        refine a_iload_n dX3_hedgeIt_54 rfl ?_
        obtain ⟨r22, e23, hT⟩ := obnd hT
        refine a_callV kv_X3_91 (tw_is ht) (k_X3_refuse ht e23) ⟨Nat.le_of_ble_eq_true rfl, Nat.le_of_ble_eq_true rfl⟩ (As := [.int 3, .int x2]) (rest := []) rfl rfl (Nat.le_of_ble_eq_true rfl) dX3_hedgeIt_55 (kI ?_) xI
        cases hT
        exact a_iret rfl rfl dX3_hedgeIt_58 (he _ _ ⟨rfl, rfl⟩)
    · have hT := oifp c10 hT
      refine a_iconst (v := (-1)) dX3_hedgeIt_28 (by decide) ?_
      cases hT
      exact a_iret rfl rfl dX3_hedgeIt_29 (he _ _ ⟨rfl, rfl⟩)
  · have hT := oifp c5 hT
    refine a_aload_n dX3_hedgeIt_12 rfl ?_
    refine a_iconst (v := 1) dX3_hedgeIt_13 (by decide) ?_
    refine a_iconst (v := 0) dX3_hedgeIt_14 (by decide) ?_
    obtain ⟨r26, e27, hT⟩ := obnd hT
    refine a_callV kv_X3_91 (tw_is ht) (k_X3_refuse ht e27) ⟨Nat.le_of_ble_eq_true rfl, Nat.le_of_ble_eq_true rfl⟩ (As := [.int 1, .int 0]) (rest := []) rfl rfl (Nat.le_of_ble_eq_true rfl) dX3_hedgeIt_15 (kI ?_) xI
    cases hT
    exact a_iret rfl rfl dX3_hedgeIt_18 (he _ _ ⟨rfl, rfl⟩)
abbrev M_X3_summerIt : aM := (yX3_summerIt.cls, cX3_summerIt, 3, (Option.some Jvm.ClassFile.FieldType.int), [], yX3_summerIt.name)
def p_X3_summerIt_b7 (G : aG) (h0 : aH) (K : aRes → aH → Prop) (B : aH) (T : Nat → Nat) (x9 : (Int32 × Int32 × tS)) : Prop := aW G M_X3_summerIt 3 44 h0 K (tput (gZ G) B T x9.2.2) 7 [some (.ref (T 100)), some (.int x9.1), some (.int x9.2.1)] []
def t_X3_summerIt_l44 (s : tS) (v1 : Int32) : Option (Int32 × tS) :=
  (tld 0 s 3).bind fun z7 =>
  (tst 0 s 3 (z7 + 1)).bind fun s9 =>
  (t_X3_gaps s9).bind fun r12 =>
  some ((v1 - r12.1), r12.2)
theorem k_X3_summerIt_l44 {G : aG} {h0 B : aH} {T : Nat → Nat} {K : aRes → aH → Prop} (ht : tOk (gZ G) T) {s : tS} {v1 : Int32} {e : (Int32 × tS)} (hT : t_X3_summerIt_l44 s v1 = some e) (he : (fun e => aTo (aEI e.1 (tput (gZ G) B T e.2)) K) e) : aW G M_X3_summerIt 3 44 h0 K (tput (gZ G) B T s) 44 [some (.ref (T 100)), some (.int v1), none] [] := by
  unfold t_X3_summerIt_l44 at hT
  refine a_aload_n dX3_summerIt_44 rfl ?_
  refine a_gA fl_X3_9_2 (tw_gA ht 0 (by decide)) dX3_summerIt_45 ?_
  refine a_iconst (v := 3) dX3_summerIt_48 (by decide) ?_
  refine a_dup2_11 dX3_summerIt_49 rfl rfl ?_
  obtain ⟨z7, e6, hT⟩ := obnd hT
  refine a_ldI (tw_ld ht 0 (by decide) e6) dX3_summerIt_50 ?_
  refine a_iconst (v := 1) dX3_summerIt_51 (by decide) ?_
  refine a_iadd dX3_summerIt_52 ?_
  obtain ⟨s9, e8, hT⟩ := obnd hT
  refine a_stI (tw_st ht 0 (by decide) e8) dX3_summerIt_53 ?_
  refine a_iload_n dX3_summerIt_54 rfl ?_
  refine a_aload_n dX3_summerIt_55 rfl ?_
  obtain ⟨r12, e13, hT⟩ := obnd hT
  refine a_callV kv_X3_110 (tw_is ht) (k_X3_gaps ht e13) ⟨Nat.le_of_ble_eq_true rfl, Nat.le_of_ble_eq_true rfl⟩ (As := []) (rest := [.int v1]) rfl rfl (Nat.le_of_ble_eq_true rfl) dX3_summerIt_56 (kI ?_) xI
  refine a_isub dX3_summerIt_59 ?_
  cases hT
  exact a_iret rfl rfl dX3_summerIt_60 (he _ _ ⟨rfl, rfl⟩)
def t_X3_summerIt_b7 : (Int32 × Int32 × tS) → Option ((Int32 × Int32 × tS) ⊕ (Int32 × tS)) := fun (v1, v2, s) =>
  if 24 ≤ v2 then
    (t_X3_summerIt_l44 s v1).map .inr
  else
    (tld 0 s (6 + v2)).bind fun z15 =>
    (tst 0 s (6 + v2) (jmin 9 (z15 + 1))).bind fun s17 =>
    some (.inl (v1, (v2 + 1), s17))
theorem kb_X3_summerIt_b7 {G : aG} {h0 B : aH} {T : Nat → Nat} {K : aRes → aH → Prop} (ht : tOk (gZ G) T) : ∀ (x9 : (Int32 × Int32 × tS)) (e : ((Int32 × Int32 × tS) ⊕ (Int32 × tS))), t_X3_summerIt_b7 x9 = some e → (Sum.elim (p_X3_summerIt_b7 G h0 K B T) (fun e => aTo (aEI e.1 (tput (gZ G) B T e.2)) K)) e → p_X3_summerIt_b7 G h0 K B T x9 := by
  intro x9 e hT he
  obtain ⟨v1, v2, s⟩ := x9
  unfold p_X3_summerIt_b7
  unfold t_X3_summerIt_b7 at hT
  show aW G M_X3_summerIt 3 44 h0 K (tput (gZ G) B T s) 7 [some (.ref (T 100)), some (.int v1), some (.int v2)] []
  dsimp only at hT
  refine a_iload_n dX3_summerIt_7 rfl ?_
  refine a_bipush (v := 24) dX3_summerIt_8 (by decide) ?_
  refine a_icmp_ge 44 dX3_summerIt_10 rfl (fun c5 => ?_) (fun c5 => ?_)
  · have hT := oifp c5 hT
    refine a_mask [true, true, false] ?_
    obtain ⟨e8, hT8, rfl⟩ := omap hT
    exact k_X3_summerIt_l44 ht hT8 he
  · have hT := oifn c5 hT
    refine a_aload_n dX3_summerIt_13 rfl ?_
    refine a_gA fl_X3_9_2 (tw_gA ht 0 (by decide)) dX3_summerIt_14 ?_
    refine a_bipush (v := 6) dX3_summerIt_17 (by decide) ?_
    refine a_iload_n dX3_summerIt_19 rfl ?_
    refine a_iadd dX3_summerIt_20 ?_
    refine a_bipush (v := 9) dX3_summerIt_21 (by decide) ?_
    refine a_aload_n dX3_summerIt_23 rfl ?_
    refine a_gA fl_X3_9_2 (tw_gA ht 0 (by decide)) dX3_summerIt_24 ?_
    refine a_bipush (v := 6) dX3_summerIt_27 (by decide) ?_
    refine a_iload_n dX3_summerIt_29 rfl ?_
    refine a_iadd dX3_summerIt_30 ?_
    obtain ⟨z15, e14, hT⟩ := obnd hT
    refine a_ldI (tw_ld ht 0 (by decide) e14) dX3_summerIt_31 ?_
    refine a_iconst (v := 1) dX3_summerIt_32 (by decide) ?_
    refine a_iadd dX3_summerIt_33 ?_
    refine a_mmin q1806 q481 q90 q482 (by decide) (Nat.le_of_ble_eq_true rfl) dX3_summerIt_34 ?_
    obtain ⟨s17, e16, hT⟩ := obnd hT
    refine a_stI (tw_st ht 0 (by decide) e16) dX3_summerIt_37 ?_
    refine a_iinc (v := (v2 + 1)) (lv' := [some (.ref (T 100)), some (.int v1), some (.int (v2 + 1))]) dX3_summerIt_38 rfl (by rfl) rfl (by decide) rfl ?_
    refine a_goto 7 dX3_summerIt_41 rfl ?_
    cases hT
    exact he
theorem k_X3_summerIt_b7 {G : aG} {h0 B : aH} {T : Nat → Nat} {K : aRes → aH → Prop} (ht : tOk (gZ G) T) {n9 : Nat} {x9 : (Int32 × Int32 × tS)} {e : (Int32 × tS)} (hT : wlo t_X3_summerIt_b7 n9 x9 = some e) (he : (fun e => aTo (aEI e.1 (tput (gZ G) B T e.2)) K) e) : p_X3_summerIt_b7 G h0 K B T x9 := wlo_W (kb_X3_summerIt_b7 ht) n9 x9 e hT he
def t_X3_summerIt (s : tS)  : Option (Int32 × tS) :=
  (t_X3_gaps s).bind fun r3 =>
  wlo t_X3_summerIt_b7 300 (r3.1, 0, r3.2)
theorem k_X3_summerIt {G : aG} {B : aH} {T : Nat → Nat} (ht : tOk (gZ G) T) {s : tS}  {e : (Int32 × tS)} (hT : t_X3_summerIt s  = some e) : aMet G yX3_summerIt (ws_ yX3_summerIt cX3_summerIt 3 (Option.some Jvm.ClassFile.FieldType.int)) 3 44 [.ref (T 100)] (tput (gZ G) B T s) (aEI e.1 (tput (gZ G) B T e.2)) := by
  refine aMet.of (lv := [some (.ref (T 100)), none, none]) (by decide) (Nat.le_of_ble_eq_true rfl) 2 rfl ?_
  have he : aTo (aEI e.1 (tput (gZ G) B T e.2)) (aEI e.1 (tput (gZ G) B T e.2)) := aTo.rf
  unfold t_X3_summerIt at hT
  refine a_aload_n dX3_summerIt_0 rfl ?_
  obtain ⟨r3, e4, hT⟩ := obnd hT
  refine a_callV kv_X3_110 (tw_is ht) (k_X3_gaps ht e4) ⟨Nat.le_of_ble_eq_true rfl, Nat.le_of_ble_eq_true rfl⟩ (As := []) (rest := []) rfl rfl (Nat.le_of_ble_eq_true rfl) dX3_summerIt_1 (kI ?_) xI
  refine a_istore_n (lv' := [some (.ref (T 100)), some (.int r3.1), none]) dX3_summerIt_4 rfl (by decide) rfl ?_
  refine a_iconst (v := 0) dX3_summerIt_5 (by decide) ?_
  refine a_istore_n (lv' := [some (.ref (T 100)), some (.int r3.1), some (.int 0)]) dX3_summerIt_6 rfl (by decide) rfl ?_
  exact k_X3_summerIt_b7 ht hT he
theorem kv_X3_100 : aKV "MazeBondsModel" 100 2 yX3_starts cX3_starts 2 (Option.none : Option Jvm.ClassFile.FieldType) 0 := ⟨⟨TX3, 21, rfl⟩, Or.inl q1775, q1777, qs29, q81, q1778, ⟨by decide +kernel, by decide +kernel, by decide +kernel⟩⟩
theorem kv_X3_123 : aKV "MazeBondsModel" 123 2 yX3_trimIt cX3_trimIt 6 (Option.some Jvm.ClassFile.FieldType.int) 3 := ⟨⟨TX3, 21, rfl⟩, Or.inl q1832, q1834, qs38, q81, q1835, ⟨by decide +kernel, by decide +kernel, by decide +kernel⟩⟩
theorem kv_X3_107 : aKV "MazeBondsModel" 107 2 yX3_changed cX3_changed 3 (Option.some Jvm.ClassFile.FieldType.int) 1 := ⟨⟨TX3, 21, rfl⟩, Or.inl q1808, q1810, qs34, q81, q1811, ⟨by decide +kernel, by decide +kernel, by decide +kernel⟩⟩
