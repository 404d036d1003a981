/-! the twin, decompiled (written by gen/twin.py) -/
set_option maxRecDepth 100000
theorem fl_X3_195_2 : aFL "MazeBondsModel" 195 2 11 := ⟨RX3, TX3, 21, "MazeBondsModel", rfl, in_X3, by decide, Or.inl rfl, Or.inl q1714⟩
theorem fl_X3_26_2 : aFL "MazeBondsModel" 26 2 10 := ⟨RX3, TX3, 21, "MazeBondsModel", rfl, in_X3, by decide, Or.inl rfl, Or.inl q1713⟩
theorem fp_X3_195_2 (nm9 : String) : aFP "MazeBondsModel" 195 2 11 .int nm9 := ⟨RX3, TX3, 21, "MazeBondsModel", tyX3, rfl, in_X3, by decide, Or.inl rfl, Or.inl q1714, tyX3_ok, nmX3, rfl, Or.inl rfl⟩
abbrev M_X3_append : aM := (yX3_append.cls, cX3_append, 2, (Option.some Jvm.ClassFile.FieldType.int), [], yX3_append.name)
def t_X3_append (s : tS) (x0 : Int32) : Option (Int32 × tS) :=
  (tpf 12 s 0).bind fun s2 =>
  if (s2.1 11) = 60 then
    (t_X3_throwing s2 1).bind fun r10 =>
    some (r10.1, r10.2)
  else
    (tst 10 s2 (s2.1 11) x0).bind fun s5 =>
    (tpf 11 s5 ((s5.1 11) + 1)).bind fun s7 =>
    some ((s7.1 11), s7)
theorem k_X3_append {G : aG} {B : aH} {T : Nat → Nat} (ht : tOk (gZ G) T) {s : tS} {x0 : Int32} {e : (Int32 × tS)} (hT : t_X3_append s x0 = some e) : aMet G yX3_append (ws_ yX3_append cX3_append 2 (Option.some Jvm.ClassFile.FieldType.int)) 2 22 [.ref (T 100), .int x0] (tput (gZ G) B T s) (aEI e.1 (tput (gZ G) B T e.2)) := by
  refine aMet.of (lv := [some (.ref (T 100)), some (.int x0)]) (by decide) (Nat.le_of_ble_eq_true rfl) 0 rfl ?_
  have he : aTo (aEI e.1 (tput (gZ G) B T e.2)) (aEI e.1 (tput (gZ G) B T e.2)) := aTo.rf
  unfold t_X3_append at hT
  refine a_aload_n dX3_append_0 rfl ?_
  refine a_iconst (v := 0) dX3_append_1 (by decide) ?_
  obtain ⟨s2, e1, hT⟩ := obnd hT
  refine a_put (fp_X3_38_2 _) ⟨rfl, rfl⟩ (tw_pf ht 12 (by decide) e1) dX3_append_2 ?_
  refine a_aload_n dX3_append_5 rfl ?_
  refine a_gI fl_X3_195_2 (tw_gI ht 11 (by decide)) dX3_append_6 ?_
  refine a_bipush (v := 60) dX3_append_9 (by decide) ?_
  refine a_icmp_ne 20 dX3_append_11 rfl (fun c3 => ?_) (fun c3 => ?_)
  · have hT := oifn c3 hT
    refine a_aload_n dX3_append_20 rfl ?_
    refine a_gA fl_X3_26_2 (tw_gA ht 10 (by decide)) dX3_append_21 ?_
    refine a_aload_n dX3_append_24 rfl ?_
    refine a_gI fl_X3_195_2 (tw_gI ht 11 (by decide)) dX3_append_25 ?_
    refine a_iload_n dX3_append_28 rfl ?_
    obtain ⟨s5, e4, hT⟩ := obnd hT
    refine a_stI (tw_st ht 10 (by decide) e4) dX3_append_29 ?_
    refine a_aload_n dX3_append_30 rfl ?_
    refine a_dup dX3_append_31 rfl ?_
    refine a_gI fl_X3_195_2 (tw_gI ht 11 (by decide)) dX3_append_32 ?_
    refine a_iconst (v := 1) dX3_append_35 (by decide) ?_
    refine a_iadd dX3_append_36 ?_
    obtain ⟨s7, e6, hT⟩ := obnd hT
    refine a_put (fp_X3_195_2 _) ⟨rfl, rfl⟩ (tw_pf ht 11 (by decide) e6) dX3_append_37 ?_
    refine a_aload_n dX3_append_40 rfl ?_
    refine a_gI fl_X3_195_2 (tw_gI ht 11 (by decide)) dX3_append_41 ?_
    cases hT
    exact a_iret rfl rfl dX3_append_44 (he _ _ ⟨rfl, rfl⟩)
  · have hT := oifp c3 hT
    refine a_aload_n dX3_append_14 rfl ?_
    refine a_iconst (v := 1) dX3_append_15 (by decide) ?_
    obtain ⟨r10, e11, hT⟩ := obnd hT
    refine a_callV kv_X3_50 (tw_is ht) (k_X3_throwing ht e11) ⟨Nat.le_of_ble_eq_true rfl, Nat.le_of_ble_eq_true rfl⟩ (As := [.int 1]) (rest := []) rfl rfl (Nat.le_of_ble_eq_true rfl) dX3_append_16 (kI ?_) xI
    cases hT
    exact a_iret rfl rfl dX3_append_19 (he _ _ ⟨rfl, rfl⟩)
theorem fl_X3_198_2 : aFL "MazeBondsModel" 198 2 16 := ⟨RX3, TX3, 21, "MazeBondsModel", rfl, in_X3, by decide, Or.inl rfl, Or.inl q1719⟩
theorem fl_X3_201_2 : aFL "MazeBondsModel" 201 2 17 := ⟨RX3, TX3, 21, "MazeBondsModel", rfl, in_X3, by decide, Or.inl rfl, Or.inl q1720⟩
abbrev M_X3_here : aM := (yX3_here.cls, cX3_here, 1, (Option.some Jvm.ClassFile.FieldType.int), [], yX3_here.name)
def t_X3_here (s : tS)  : Option (Int32 × tS) :=
  if (s.1 17) ≤ (s.1 16) then
    some ((-1), s)
  else
    (tld 10 s (s.1 16)).bind fun z3 =>
    some (z3, s)
theorem k_X3_here {G : aG} {B : aH} {T : Nat → Nat} (ht : tOk (gZ G) T) {s : tS}  {e : (Int32 × tS)} (hT : t_X3_here s  = some e) : aMet G yX3_here (ws_ yX3_here cX3_here 1 (Option.some Jvm.ClassFile.FieldType.int)) 1 1 [.ref (T 100)] (tput (gZ G) B T s) (aEI e.1 (tput (gZ G) B T e.2)) := by
  refine aMet.of (lv := [some (.ref (T 100))]) (by decide) (Nat.le_of_ble_eq_true rfl) 0 rfl ?_
  have he : aTo (aEI e.1 (tput (gZ G) B T e.2)) (aEI e.1 (tput (gZ G) B T e.2)) := aTo.rf
  unfold t_X3_here at hT
  refine a_aload_n dX3_here_0 rfl ?_
  refine a_gI fl_X3_198_2 (tw_gI ht 16 (by decide)) dX3_here_1 ?_
  refine a_aload_n dX3_here_4 rfl ?_
  refine a_gI fl_X3_201_2 (tw_gI ht 17 (by decide)) dX3_here_5 ?_
  refine a_icmp_ge 23 dX3_here_8 rfl (fun c1 => ?_) (fun c1 => ?_)
  · have hT := oifp c1 hT
    refine a_iconst (v := (-1)) dX3_here_23 (by decide) ?_
    cases hT
    exact a_iret rfl rfl dX3_here_24 (he _ _ ⟨rfl, rfl⟩)
  · have hT := oifn c1 hT
    refine a_aload_n dX3_here_11 rfl ?_
    refine a_gA fl_X3_26_2 (tw_gA ht 10 (by decide)) dX3_here_12 ?_
    refine a_aload_n dX3_here_15 rfl ?_
    refine a_gI fl_X3_198_2 (tw_gI ht 16 (by decide)) dX3_here_16 ?_
    obtain ⟨z3, e2, hT⟩ := obnd hT
    refine a_ldI (tw_ld ht 10 (by decide) e2) dX3_here_19 ?_
    refine a_goto 24 dX3_here_20 rfl ?_
    cases hT
    exact a_iret rfl rfl dX3_here_24 (he _ _ ⟨rfl, rfl⟩)
theorem fl_X3_204_2 : aFL "MazeBondsModel" 204 2 18 := ⟨RX3, TX3, 21, "MazeBondsModel", rfl, in_X3, by decide, Or.inl rfl, Or.inl q1721⟩
theorem fp_X3_204_2 (nm9 : String) : aFP "MazeBondsModel" 204 2 18 .boolean nm9 := ⟨RX3, TX3, 21, "MazeBondsModel", tyX3, rfl, in_X3, by decide, Or.inl rfl, Or.inl q1721, tyX3_ok, nmX3, rfl, Or.inl rfl⟩
theorem fp_X3_198_2 (nm9 : String) : aFP "MazeBondsModel" 198 2 16 .int nm9 := ⟨RX3, TX3, 21, "MazeBondsModel", tyX3, rfl, in_X3, by decide, Or.inl rfl, Or.inl q1719, tyX3_ok, nmX3, rfl, Or.inl rfl⟩
abbrev M_X3_expects : aM := (yX3_expects.cls, cX3_expects, 2, (Option.none : Option Jvm.ClassFile.FieldType), [], yX3_expects.name)
def t_X3_expects_l37 (s : tS) (u0 : Int32) (u1 : Int32) : Option (Unit × tS) :=
  (tpf 16 s (u1 + u0)).bind fun s7 =>
  some ((), s7)
theorem k_X3_expects_l37 {G : aG} {h0 B : aH} {T : Nat → Nat} {K : aRes → aH → Prop} (ht : tOk (gZ G) T) {s : tS} {u0 : Int32} {u1 : Int32} {e : (Unit × tS)} (hT : t_X3_expects_l37 s u0 u1 = some e) (he : (fun e => aTo (aEV e.1 (tput (gZ G) B T e.2)) K) e) : aW G M_X3_expects 1 1 h0 K (tput (gZ G) B T s) 37 [none, none] [.int u0, .int u1, .ref (T 100)] := by
  unfold t_X3_expects_l37 at hT
  refine a_iadd dX3_expects_37 ?_
  obtain ⟨s7, e6, hT⟩ := obnd hT
  refine a_put (fp_X3_198_2 _) ⟨rfl, rfl⟩ (tw_pf ht 16 (by decide) e6) dX3_expects_38 ?_
  cases hT
  exact a_vret rfl dX3_expects_41 (he _ _ ⟨rfl, rfl⟩)
def t_X3_expects_l17 (s : tS) (u0 : Int32) : Option (Unit × tS) :=
  if u0 = 0 ∨ u0 = 1 then
  (tpf 18 s u0).bind fun s4 =>
  if (s4.1 18) = 0 then
    t_X3_expects_l37 s4 1 (s4.1 16)
  else
    t_X3_expects_l37 s4 0 (s4.1 16)
  else none
theorem k_X3_expects_l17 {G : aG} {h0 B : aH} {T : Nat → Nat} {K : aRes → aH → Prop} (ht : tOk (gZ G) T) {s : tS} {u0 : Int32} {e : (Unit × tS)} (hT : t_X3_expects_l17 s u0 = some e) (he : (fun e => aTo (aEV e.1 (tput (gZ G) B T e.2)) K) e) : aW G M_X3_expects 1 1 h0 K (tput (gZ G) B T s) 17 [some (.ref (T 100)), none] [.int u0, .ref (T 100)] := by
  unfold t_X3_expects_l17 at hT
  obtain ⟨g3, hT⟩ := oifg hT
  obtain ⟨s4, e2, hT⟩ := obnd hT
  refine a_put (fp_X3_204_2 _) (nZf g3) (tw_pf ht 18 (by decide) e2) dX3_expects_17 ?_
  refine a_aload_n dX3_expects_20 rfl ?_
  refine a_dup dX3_expects_21 rfl ?_
  refine a_gI fl_X3_198_2 (tw_gI ht 16 (by decide)) dX3_expects_22 ?_
  refine a_aload_n dX3_expects_25 rfl ?_
  refine a_gI fl_X3_204_2 (tw_gI ht 18 (by decide)) dX3_expects_26 ?_
  refine a_if_eq 36 dX3_expects_29 rfl (fun c5 => ?_) (fun c5 => ?_)
  · have hT := oifp c5 hT
    refine a_iconst (v := 1) dX3_expects_36 (by decide) ?_
    refine a_mask [false, true] ?_
    exact k_X3_expects_l37 ht hT he
  · have hT := oifn c5 hT
    refine a_iconst (v := 0) dX3_expects_32 (by decide) ?_
    refine a_goto 37 dX3_expects_33 rfl ?_
    refine a_mask [false, true] ?_
    exact k_X3_expects_l37 ht hT he
def t_X3_expects_l12 (s : tS)  : Option (Unit × tS) :=
  t_X3_expects_l17 s 1
theorem k_X3_expects_l12 {G : aG} {h0 B : aH} {T : Nat → Nat} {K : aRes → aH → Prop} (ht : tOk (gZ G) T) {s : tS}  {e : (Unit × tS)} (hT : t_X3_expects_l12 s  = some e) (he : (fun e => aTo (aEV e.1 (tput (gZ G) B T e.2)) K) e) : aW G M_X3_expects 1 1 h0 K (tput (gZ G) B T s) 12 [some (.ref (T 100)), none] [.ref (T 100)] := by
  unfold t_X3_expects_l12 at hT
  refine a_iconst (v := 1) dX3_expects_12 (by decide) ?_
  refine a_goto 17 dX3_expects_13 rfl ?_
  exact k_X3_expects_l17 ht hT he
def t_X3_expects (s : tS) (x0 : Int32) : Option (Unit × tS) :=
  if (s.1 18) = 0 then
    if x0 = 0 then
      t_X3_expects_l12 s
    else
      t_X3_expects_l17 s 0
  else
    t_X3_expects_l12 s
theorem k_X3_expects {G : aG} {B : aH} {T : Nat → Nat} (ht : tOk (gZ G) T) {s : tS} {x0 : Int32} {e : (Unit × tS)} (hT : t_X3_expects s x0 = some e) : aMet G yX3_expects (ws_ yX3_expects cX3_expects 2 (Option.none : Option Jvm.ClassFile.FieldType)) 1 1 [.ref (T 100), .int x0] (tput (gZ G) B T s) (aEV e.1 (tput (gZ G) B T e.2)) := by
  refine aMet.of (lv := [some (.ref (T 100)), some (.int x0)]) (by decide) (Nat.le_of_ble_eq_true rfl) 0 rfl ?_
  have he : aTo (aEV e.1 (tput (gZ G) B T e.2)) (aEV e.1 (tput (gZ G) B T e.2)) := aTo.rf
  unfold t_X3_expects at hT
  refine a_aload_n dX3_expects_0 rfl ?_
  refine a_aload_n dX3_expects_1 rfl ?_
  refine a_gI fl_X3_204_2 (tw_gI ht 18 (by decide)) dX3_expects_2 ?_
  refine a_if_ne 12 dX3_expects_5 rfl (fun c1 => ?_) (fun c1 => ?_)
  · have hT := oifn c1 hT
    refine a_mask [true, false] ?_
    exact k_X3_expects_l12 ht hT he
  · have hT := oifp c1 hT
    refine a_iload_n dX3_expects_8 rfl ?_
    refine a_if_ne 16 dX3_expects_9 rfl (fun c8 => ?_) (fun c8 => ?_)
    · have hT := oifn c8 hT
      refine a_iconst (v := 0) dX3_expects_16 (by decide) ?_
      refine a_mask [true, false] ?_
      exact k_X3_expects_l17 ht hT he
    · have hT := oifp c8 hT
      refine a_mask [true, false] ?_
      exact k_X3_expects_l12 ht hT he
theorem kv_X3_208 : aKV "MazeBondsModel" 208 2 yX3_here cX3_here 1 (Option.some Jvm.ClassFile.FieldType.int) 0 := ⟨⟨TX3, 21, rfl⟩, Or.inl q2034, q2036, qs59, q81, q2037, ⟨by decide +kernel, by decide +kernel, by decide +kernel⟩⟩
theorem kv_X3_215 : aKV "MazeBondsModel" 215 2 yX3_expects cX3_expects 2 (Option.none : Option Jvm.ClassFile.FieldType) 1 := ⟨⟨TX3, 21, rfl⟩, Or.inl q2038, q2040, qs60, q81, q2041, ⟨by decide +kernel, by decide +kernel, by decide +kernel⟩⟩
abbrev M_X3_digit : aM := (yX3_digit.cls, cX3_digit, 2, (Option.some Jvm.ClassFile.FieldType.int), [], yX3_digit.name)
def t_X3_digit (s : tS)  : Option (Int32 × tS) :=
  (t_X3_here s).bind fun r3 =>
  (t_X3_here r3.2).bind fun r7 =>
  (t_X3_in ((r7.1 : Int32).toInt64) 48 57).bind fun r11 =>
  (t_X3_expects r7.2 r11).bind fun r15 =>
  if (r15.2.1 18) = 0 then
    some ((r3.1 - 48), r15.2)
  else
    some (0, r15.2)
theorem k_X3_digit {G : aG} {B : aH} {T : Nat → Nat} (ht : tOk (gZ G) T) {s : tS}  {e : (Int32 × tS)} (hT : t_X3_digit s  = some e) : aMet G yX3_digit (ws_ yX3_digit cX3_digit 2 (Option.some Jvm.ClassFile.FieldType.int)) 2 26 [.ref (T 100)] (tput (gZ G) B T s) (aEI e.1 (tput (gZ G) B T e.2)) := by
  refine aMet.of (lv := [some (.ref (T 100)), none]) (by decide) (Nat.le_of_ble_eq_true rfl) 1 rfl ?_
  have he : aTo (aEI e.1 (tput (gZ G) B T e.2)) (aEI e.1 (tput (gZ G) B T e.2)) := aTo.rf
  unfold t_X3_digit at hT
  refine a_aload_n dX3_digit_0 rfl ?_
  obtain ⟨r3, e4, hT⟩ := obnd hT
  refine a_callV kv_X3_208 (tw_is ht) (k_X3_here ht e4) ⟨Nat.le_of_ble_eq_true rfl, Nat.le_of_ble_eq_true rfl⟩ (As := []) (rest := []) rfl rfl (Nat.le_of_ble_eq_true rfl) dX3_digit_1 (kI ?_) xI
  refine a_bipush (v := 48) dX3_digit_4 (by decide) ?_
  refine a_isub dX3_digit_6 ?_
  refine a_istore_n (lv' := [some (.ref (T 100)), some (.int (r3.1 - 48))]) dX3_digit_7 rfl (by decide) rfl ?_
  refine a_aload_n dX3_digit_8 rfl ?_
  refine a_aload_n dX3_digit_9 rfl ?_
  obtain ⟨r7, e8, hT⟩ := obnd hT
  refine a_callV kv_X3_208 (tw_is ht) (k_X3_here ht e8) ⟨Nat.le_of_ble_eq_true rfl, Nat.le_of_ble_eq_true rfl⟩ (As := []) (rest := [.ref (T 100)]) rfl rfl (Nat.le_of_ble_eq_true rfl) dX3_digit_10 (kI ?_) xI
  refine a_i2l dX3_digit_13 ?_
  refine a_ldc2 q2054 dX3_digit_14 ?_
  refine a_ldc2 q2055 dX3_digit_17 ?_
  obtain ⟨r11, e12, hT⟩ := obnd hT
  refine a_callS ks_X3_59 (k_X3_in e12) ⟨Nat.le_of_ble_eq_true rfl, Nat.le_of_ble_eq_true rfl⟩ (As := [.long ((r7.1 : Int32).toInt64), .long 48, .long 57]) (rest := [.ref (T 100)]) rfl rfl (Nat.le_of_ble_eq_true rfl) dX3_digit_20 (kI ?_) xI
  obtain ⟨r15, e16, hT⟩ := obnd hT
  refine a_callV kv_X3_215 (tw_is ht) (k_X3_expects ht e16) ⟨Nat.le_of_ble_eq_true rfl, Nat.le_of_ble_eq_true rfl⟩ (As := [.int r11]) (rest := []) rfl rfl (Nat.le_of_ble_eq_true rfl) dX3_digit_23 (kV ?_) xV
  refine a_aload_n dX3_digit_26 rfl ?_
  refine a_gI fl_X3_204_2 (tw_gI ht 18 (by decide)) dX3_digit_27 ?_
  refine a_if_eq 37 dX3_digit_30 rfl (fun c17 => ?_) (fun c17 => ?_)
  · have hT := oifp c17 hT
    refine a_iload_n dX3_digit_37 rfl ?_
    cases hT
    exact a_iret rfl rfl dX3_digit_38 (he _ _ ⟨rfl, rfl⟩)
  · have hT := oifn c17 hT
    refine a_iconst (v := 0) dX3_digit_33 (by decide) ?_
    refine a_goto 38 dX3_digit_34 rfl ?_
    cases hT
    exact a_iret rfl rfl dX3_digit_38 (he _ _ ⟨rfl, rfl⟩)
abbrev M_X3_directionOf : aM := (yX3_directionOf.cls, cX3_directionOf, 1, (Option.some Jvm.ClassFile.FieldType.int), [], yX3_directionOf.name)
def t_X3_directionOf (x0 : Int32) : Option Int32 :=
  if x0 = 110 then
    some 0
  else
    if x0 = 101 then
      some 1
    else
      if x0 = 115 then
        some 2
      else
        if x0 = 119 then
          some 3
        else
          some (-1)
theorem k_X3_directionOf {G : aG} {h : aH} {x0 : Int32} {e : Int32} (hT : t_X3_directionOf x0 = some e) : aMet G yX3_directionOf (ws_ yX3_directionOf cX3_directionOf 1 (Option.some Jvm.ClassFile.FieldType.int)) 1 1 [.int x0] h (aEI e h) := by
  refine aMet.of (lv := [some (.int x0)]) (by decide) (Nat.le_of_ble_eq_true rfl) 0 rfl ?_
  have he : aTo (aEI e h) (aEI e h) := aTo.rf
  unfold t_X3_directionOf at hT
  refine a_iload_n dX3_directionOf_0 rfl ?_
  refine a_bipush (v := 110) dX3_directionOf_1 (by decide) ?_
  refine a_icmp_ne 10 dX3_directionOf_3 rfl (fun c1 => ?_) (fun c1 => ?_)
  · have hT := oifn c1 hT
    refine a_iload_n dX3_directionOf_10 rfl ?_
    refine a_bipush (v := 101) dX3_directionOf_11 (by decide) ?_
    refine a_icmp_ne 20 dX3_directionOf_13 rfl (fun c2 => ?_) (fun c2 => ?_)
    · have hT := oifn c2 hT
      refine a_iload_n dX3_directionOf_20 rfl ?_
      refine a_bipush (v := 115) dX3_directionOf_21 (by decide) ?_
      refine a_icmp_ne 30 dX3_directionOf_23 rfl (fun c3 => ?_) (fun c3 => ?_)
      · have hT := oifn c3 hT
        refine a_iload_n dX3_directionOf_30 rfl ?_
        refine a_bipush (v := 119) dX3_directionOf_31 (by decide) ?_
        refine a_icmp_ne 40 dX3_directionOf_33 rfl (fun c4 => ?_) (fun c4 => ?_)
        · have hT := oifn c4 hT
          refine a_iconst (v := (-1)) dX3_directionOf_40 (by decide) ?_
          cases hT
          exact a_iret rfl rfl dX3_directionOf_41 (he _ _ ⟨rfl, rfl⟩)
        · have hT := oifp c4 hT
          refine a_iconst (v := 3) dX3_directionOf_36 (by decide) ?_
          refine a_goto 41 dX3_directionOf_37 rfl ?_
          cases hT
          exact a_iret rfl rfl dX3_directionOf_41 (he _ _ ⟨rfl, rfl⟩)
      · have hT := oifp c3 hT
        refine a_iconst (v := 2) dX3_directionOf_26 (by decide) ?_
        refine a_goto 41 dX3_directionOf_27 rfl ?_
        cases hT
        exact a_iret rfl rfl dX3_directionOf_41 (he _ _ ⟨rfl, rfl⟩)
    · have hT := oifp c2 hT
      refine a_iconst (v := 1) dX3_directionOf_16 (by decide) ?_
      refine a_goto 41 dX3_directionOf_17 rfl ?_
      cases hT
      exact a_iret rfl rfl dX3_directionOf_41 (he _ _ ⟨rfl, rfl⟩)
  · have hT := oifp c1 hT
    refine a_iconst (v := 0) dX3_directionOf_6 (by decide) ?_
    refine a_goto 41 dX3_directionOf_7 rfl ?_
    cases hT
    exact a_iret rfl rfl dX3_directionOf_41 (he _ _ ⟨rfl, rfl⟩)
theorem fl_X3_22_2 : aFL "MazeBondsModel" 22 2 9 := ⟨RX3, TX3, 21, "MazeBondsModel", rfl, in_X3, by decide, Or.inl rfl, Or.inl q1712⟩
abbrev M_X3_faultPosition : aM := (yX3_faultPosition.cls, cX3_faultPosition, 1, (Option.some Jvm.ClassFile.FieldType.int), [], yX3_faultPosition.name)
def t_X3_faultPosition (s : tS)  : Option (Int32 × tS) :=
  (tpf 12 s 0).bind fun s2 =>
  some ((s2.1 9), s2)
theorem k_X3_faultPosition {G : aG} {B : aH} {T : Nat → Nat} (ht : tOk (gZ G) T) {s : tS}  {e : (Int32 × tS)} (hT : t_X3_faultPosition s  = some e) : aMet G yX3_faultPosition (ws_ yX3_faultPosition cX3_faultPosition 1 (Option.some Jvm.ClassFile.FieldType.int)) 1 1 [.ref (T 100)] (tput (gZ G) B T s) (aEI e.1 (tput (gZ G) B T e.2)) := by
  refine aMet.of (lv := [some (.ref (T 100))]) (by decide) (Nat.le_of_ble_eq_true rfl) 0 rfl ?_
  have he : aTo (aEI e.1 (tput (gZ G) B T e.2)) (aEI e.1 (tput (gZ G) B T e.2)) := aTo.rf
  unfold t_X3_faultPosition at hT
  refine a_aload_n dX3_faultPosition_0 rfl ?_
  refine a_iconst (v := 0) dX3_faultPosition_1 (by decide) ?_
  obtain ⟨s2, e1, hT⟩ := obnd hT
  refine a_put (fp_X3_38_2 _) ⟨rfl, rfl⟩ (tw_pf ht 12 (by decide) e1) dX3_faultPosition_2 ?_
  refine a_aload_n dX3_faultPosition_5 rfl ?_
  refine a_gI fl_X3_22_2 (tw_gI ht 9 (by decide)) dX3_faultPosition_6 ?_
  cases hT
  exact a_iret rfl rfl dX3_faultPosition_9 (he _ _ ⟨rfl, rfl⟩)
theorem fl_X3_41_2 : aFL "MazeBondsModel" 41 2 6 := ⟨RX3, TX3, 21, "MazeBondsModel", rfl, in_X3, by decide, Or.inl rfl, Or.inl q1709⟩
theorem fl_X3_47_2 : aFL "MazeBondsModel" 47 2 8 := ⟨RX3, TX3, 21, "MazeBondsModel", rfl, in_X3, by decide, Or.inl rfl, Or.inl q1711⟩
theorem fl_X3_44_2 : aFL "MazeBondsModel" 44 2 7 := ⟨RX3, TX3, 21, "MazeBondsModel", rfl, in_X3, by decide, Or.inl rfl, Or.inl q1710⟩
abbrev M_X3_reason : aM := (yX3_reason.cls, cX3_reason, 2, (Option.some Jvm.ClassFile.FieldType.int), [], yX3_reason.name)
def t_X3_reason (s : tS) (x0 : Int32) : Option (Int32 × tS) :=
  (tpf 12 s 0).bind fun s2 =>
  (t_X3_in ((x0 : Int32).toInt64) 0 2).bind fun r5 =>
  if r5 = 0 then
    (t_X3_throwing s2 1).bind fun r17 =>
    some (r17.1, r17.2)
  else
    if (s2.1 6) = 0 then
      (t_X3_throwing s2 2).bind fun r13 =>
      some (r13.1, r13.2)
    else
      if x0 = 0 then
        some ((s2.1 6), s2)
      else
        if x0 = 1 then
          some ((s2.1 7), s2)
        else
          some ((s2.1 8), s2)
theorem k_X3_reason {G : aG} {B : aH} {T : Nat → Nat} (ht : tOk (gZ G) T) {s : tS} {x0 : Int32} {e : (Int32 × tS)} (hT : t_X3_reason s x0 = some e) : aMet G yX3_reason (ws_ yX3_reason cX3_reason 2 (Option.some Jvm.ClassFile.FieldType.int)) 2 26 [.ref (T 100), .int x0] (tput (gZ G) B T s) (aEI e.1 (tput (gZ G) B T e.2)) := by
  refine aMet.of (lv := [some (.ref (T 100)), some (.int x0)]) (by decide) (Nat.le_of_ble_eq_true rfl) 0 rfl ?_
  have he : aTo (aEI e.1 (tput (gZ G) B T e.2)) (aEI e.1 (tput (gZ G) B T e.2)) := aTo.rf
  unfold t_X3_reason at hT
  refine a_aload_n dX3_reason_0 rfl ?_
  refine a_iconst (v := 0) dX3_reason_1 (by decide) ?_
  obtain ⟨s2, e1, hT⟩ := obnd hT
  refine a_put (fp_X3_38_2 _) ⟨rfl, rfl⟩ (tw_pf ht 12 (by decide) e1) dX3_reason_2 ?_
  refine a_iload_n dX3_reason_5 rfl ?_
  refine a_i2l dX3_reason_6 ?_
  refine a_lconst (v := 0) dX3_reason_7 (by decide) ?_
  refine a_ldc2 q2071 dX3_reason_8 ?_
  obtain ⟨r5, e6, hT⟩ := obnd hT
  refine a_callS ks_X3_59 (k_X3_in e6) ⟨Nat.le_of_ble_eq_true rfl, Nat.le_of_ble_eq_true rfl⟩ (As := [.long ((x0 : Int32).toInt64), .long 0, .long 2]) (rest := []) rfl rfl (Nat.le_of_ble_eq_true rfl) dX3_reason_11 (kI ?_) xI
  refine a_if_ne 23 dX3_reason_14 rfl (fun c7 => ?_) (fun c7 => ?_)
  · have hT := oifn c7 hT
    refine a_aload_n dX3_reason_23 rfl ?_
    refine a_gI fl_X3_41_2 (tw_gI ht 6 (by decide)) dX3_reason_24 ?_
    refine a_if_ne 36 dX3_reason_27 rfl (fun c8 => ?_) (fun c8 => ?_)
    · have hT := oifn c8 hT
      refine a_iload_n dX3_reason_36 rfl ?_
      refine a_if_ne 47 dX3_reason_37 rfl (fun c9 => ?_) (fun c9 => ?_)
      · have hT := oifn c9 hT
        refine a_iload_n dX3_reason_47 rfl ?_
        refine a_iconst (v := 1) dX3_reason_48 (by decide) ?_
        refine a_icmp_ne 59 dX3_reason_49 rfl (fun c10 => ?_) (fun c10 => ?_)
        · have hT := oifn c10 hT
          refine a_aload_n dX3_reason_59 rfl ?_
          refine a_gI fl_X3_47_2 (tw_gI ht 8 (by decide)) dX3_reason_60 ?_
          cases hT
          exact a_iret rfl rfl dX3_reason_63 (he _ _ ⟨rfl, rfl⟩)
        · have hT := oifp c10 hT
          refine a_aload_n dX3_reason_52 rfl ?_
          refine a_gI fl_X3_44_2 (tw_gI ht 7 (by decide)) dX3_reason_53 ?_
          refine a_goto 63 dX3_reason_56 rfl ?_
          cases hT
          exact a_iret rfl rfl dX3_reason_63 (he _ _ ⟨rfl, rfl⟩)
      · have hT := oifp c9 hT
        refine a_aload_n dX3_reason_40 rfl ?_
        refine a_gI fl_X3_41_2 (tw_gI ht 6 (by decide)) dX3_reason_41 ?_
        refine a_goto 63 dX3_reason_44 rfl ?_
        cases hT
        exact a_iret rfl rfl dX3_reason_63 (he _ _ ⟨rfl, rfl⟩)
    · have hT := oifp c8 hT
      refine a_aload_n dX3_reason_30 rfl ?_
      refine a_iconst (v := 2) dX3_reason_31 (by decide) ?_
      obtain ⟨r13, e14, hT⟩ := obnd hT
      refine a_callV kv_X3_50 (tw_is ht) (k_X3_throwing ht e14) ⟨Nat.le_of_ble_eq_true rfl, Nat.le_of_ble_eq_true rfl⟩ (As := [.int 2]) (rest := []) rfl rfl (Nat.le_of_ble_eq_true rfl) dX3_reason_32 (kI ?_) xI
      cases hT
      exact a_iret rfl rfl dX3_reason_35 (he _ _ ⟨rfl, rfl⟩)
  · have hT := oifp c7 hT
    refine a_aload_n dX3_reason_17 rfl ?_
    refine a_iconst (v := 1) dX3_reason_18 (by decide) ?_
    obtain ⟨r17, e18, hT⟩ := obnd hT
    refine a_callV kv_X3_50 (tw_is ht) (k_X3_throwing ht e18) ⟨Nat.le_of_ble_eq_true rfl, Nat.le_of_ble_eq_true rfl⟩ (As := [.int 1]) (rest := []) rfl rfl (Nat.le_of_ble_eq_true rfl) dX3_reason_19 (kI ?_) xI
    cases hT
    exact a_iret rfl rfl dX3_reason_22 (he _ _ ⟨rfl, rfl⟩)
theorem fl_X3_35_2 : aFL "MazeBondsModel" 35 2 19 := ⟨RX3, TX3, 21, "MazeBondsModel", rfl, in_X3, by decide, Or.inl rfl, Or.inl q1722⟩
theorem fl_X3_243_2 : aFL "MazeBondsModel" 243 2 20 := ⟨RX3, TX3, 21, "MazeBondsModel", rfl, in_X3, by decide, Or.inl rfl, Or.inl q1723⟩
theorem fp_X3_243_2 (nm9 : String) : aFP "MazeBondsModel" 243 2 20 .int nm9 := ⟨RX3, TX3, 21, "MazeBondsModel", tyX3, rfl, in_X3, by decide, Or.inl rfl, Or.inl q1723, tyX3_ok, nmX3, rfl, Or.inl rfl⟩
abbrev M_X3_sign : aM := (yX3_sign.cls, cX3_sign, 2, (Option.none : Option Jvm.ClassFile.FieldType), [], yX3_sign.name)
def t_X3_sign (s : tS) (x0 : Int32) : Option (Unit × tS) :=
  (tst 19 s (s.1 20) x0).bind fun s2 =>
  (tpf 20 s2 ((s2.1 20) + 1)).bind fun s4 =>
  some ((), s4)
theorem k_X3_sign {G : aG} {B : aH} {T : Nat → Nat} (ht : tOk (gZ G) T) {s : tS} {x0 : Int32} {e : (Unit × tS)} (hT : t_X3_sign s x0 = some e) : aMet G yX3_sign (ws_ yX3_sign cX3_sign 2 (Option.none : Option Jvm.ClassFile.FieldType)) 1 1 [.ref (T 100), .int x0] (tput (gZ G) B T s) (aEV e.1 (tput (gZ G) B T e.2)) := by
  refine aMet.of (lv := [some (.ref (T 100)), some (.int x0)]) (by decide) (Nat.le_of_ble_eq_true rfl) 0 rfl ?_
  have he : aTo (aEV e.1 (tput (gZ G) B T e.2)) (aEV e.1 (tput (gZ G) B T e.2)) := aTo.rf
  unfold t_X3_sign at hT
  refine a_aload_n dX3_sign_0 rfl ?_
  refine a_gA fl_X3_35_2 (tw_gA ht 19 (by decide)) dX3_sign_1 ?_
  refine a_aload_n dX3_sign_4 rfl ?_
  refine a_gI fl_X3_243_2 (tw_gI ht 20 (by decide)) dX3_sign_5 ?_
  refine a_iload_n dX3_sign_8 rfl ?_
  obtain ⟨s2, e1, hT⟩ := obnd hT
  refine a_stI (tw_st ht 19 (by decide) e1) dX3_sign_9 ?_
  refine a_aload_n dX3_sign_10 rfl ?_
  refine a_dup dX3_sign_11 rfl ?_
  refine a_gI fl_X3_243_2 (tw_gI ht 20 (by decide)) dX3_sign_12 ?_
  refine a_iconst (v := 1) dX3_sign_15 (by decide) ?_
  refine a_iadd dX3_sign_16 ?_
  obtain ⟨s4, e3, hT⟩ := obnd hT
  refine a_put (fp_X3_243_2 _) ⟨rfl, rfl⟩ (tw_pf ht 20 (by decide) e3) dX3_sign_17 ?_
  cases hT
  exact a_vret rfl dX3_sign_20 (he _ _ ⟨rfl, rfl⟩)
theorem kv_X3_246 : aKV "MazeBondsModel" 246 2 yX3_sign cX3_sign 2 (Option.none : Option Jvm.ClassFile.FieldType) 1 := ⟨⟨TX3, 21, rfl⟩, Or.inl q2076, q2078, qs65, q81, q2079, ⟨by decide +kernel, by decide +kernel, by decide +kernel⟩⟩
abbrev M_X3_writesNumber : aM := (yX3_writesNumber.cls, cX3_writesNumber, 4, (Option.none : Option Jvm.ClassFile.FieldType), [], yX3_writesNumber.name)
def p_X3_writesNumber_b2 (G : aG) (h0 : aH) (K : aRes → aH → Prop) (B : aH) (T : Nat → Nat) (x9 : (Int32 × Int32 × tS)) : Prop := aW G M_X3_writesNumber 2 22 h0 K (tput (gZ G) B T x9.2.2) 2 [some (.ref (T 100)), some (.int x9.1), some (.int x9.2.1), none] []
def p_X3_writesNumber_b20 (G : aG) (h0 : aH) (K : aRes → aH → Prop) (B : aH) (T : Nat → Nat) (x9 : (Int32 × Int32 × tS)) : Prop := aW G M_X3_writesNumber 2 22 h0 K (tput (gZ G) B T x9.2.2) 20 [some (.ref (T 100)), some (.int x9.1), none, some (.int x9.2.1)] []
def t_X3_writesNumber_b20 : (Int32 × Int32 × tS) → Option ((Int32 × Int32 × tS) ⊕ (Unit × tS)) := fun (v1, v3, s) =>
  if v3 ≤ 0 then
    some (.inr (((), s)))
  else
    if ¬ v3 = 0 then
    (t_X3_sign s (48 + ((v1 / v3) - (v1 / v3) / 10 * 10))).bind fun r7 =>
    some (.inl (v1, (v3 / 10), r7.2))
    else none
theorem kb_X3_writesNumber_b20 {G : aG} {h0 B : aH} {T : Nat → Nat} {K : aRes → aH → Prop} (ht : tOk (gZ G) T) : ∀ (x9 : (Int32 × Int32 × tS)) (e : ((Int32 × Int32 × tS) ⊕ (Unit × tS))), t_X3_writesNumber_b20 x9 = some e → (Sum.elim (p_X3_writesNumber_b20 G h0 K B T) (fun e => aTo (aEV e.1 (tput (gZ G) B T e.2)) K)) e → p_X3_writesNumber_b20 G h0 K B T x9 := by
  intro x9 e hT he
  obtain ⟨v1, v3, s⟩ := x9
  unfold p_X3_writesNumber_b20
  unfold t_X3_writesNumber_b20 at hT
  show aW G M_X3_writesNumber 2 22 h0 K (tput (gZ G) B T s) 20 [some (.ref (T 100)), some (.int v1), none, some (.int v3)] []
  dsimp only at hT
  refine a_iload_n dX3_writesNumber_20 rfl ?_
  refine a_if_le 45 dX3_writesNumber_21 rfl (fun c3 => ?_) (fun c3 => ?_)
  · have hT := oifp c3 hT
    cases hT
    exact a_vret rfl dX3_writesNumber_45 (he _ _ ⟨rfl, rfl⟩)
  · have hT := oifn c3 hT
    refine a_aload_n dX3_writesNumber_24 rfl ?_
    refine a_bipush (v := 48) dX3_writesNumber_25 (by decide) ?_
    refine a_iload_n dX3_writesNumber_27 rfl ?_
    refine a_iload_n dX3_writesNumber_28 rfl ?_
    obtain ⟨g4, hT⟩ := oifg hT
    refine a_idiv dX3_writesNumber_29 g4 ?_
    refine a_bipush (v := 10) dX3_writesNumber_30 (by decide) ?_
    refine a_irem dX3_writesNumber_32 (by decide) ?_
    refine a_iadd dX3_writesNumber_33 ?_
    obtain ⟨r7, e8, hT⟩ := obnd hT
    refine a_callV kv_X3_246 (tw_is ht) (k_X3_sign ht e8) ⟨Nat.le_of_ble_eq_true rfl, Nat.le_of_ble_eq_true rfl⟩ (As := [.int (48 + ((v1 / v3) - (v1 / v3) / 10 * 10))]) (rest := []) rfl rfl (Nat.le_of_ble_eq_true rfl) dX3_writesNumber_34 (kV ?_) xV
    refine a_iload_n dX3_writesNumber_37 rfl ?_
    refine a_bipush (v := 10) dX3_writesNumber_38 (by decide) ?_
    refine a_idiv dX3_writesNumber_40 (by decide) ?_
    refine a_istore_n (lv' := [some (.ref (T 100)), some (.int v1), none, some (.int (v3 / 10))]) dX3_writesNumber_41 rfl (by decide) rfl ?_
    refine a_goto 20 dX3_writesNumber_42 rfl ?_
    cases hT
    exact he
theorem k_X3_writesNumber_b20 {G : aG} {h0 B : aH} {T : Nat → Nat} {K : aRes → aH → Prop} (ht : tOk (gZ G) T) {n9 : Nat} {x9 : (Int32 × Int32 × tS)} {e : (Unit × tS)} (hT : wlo t_X3_writesNumber_b20 n9 x9 = some e) (he : (fun e => aTo (aEV e.1 (tput (gZ G) B T e.2)) K) e) : p_X3_writesNumber_b20 G h0 K B T x9 := wlo_W (kb_X3_writesNumber_b20 ht) n9 x9 e hT he
def t_X3_writesNumber_l18 (s : tS) (v1 : Int32) (v2 : Int32) : Option (Unit × tS) :=
  wlo t_X3_writesNumber_b20 300 (v1, v2, s)
theorem k_X3_writesNumber_l18 {G : aG} {h0 B : aH} {T : Nat → Nat} {K : aRes → aH → Prop} (ht : tOk (gZ G) T) {s : tS} {v1 : Int32} {v2 : Int32} {e : (Unit × tS)} (hT : t_X3_writesNumber_l18 s v1 v2 = some e) (he : (fun e => aTo (aEV e.1 (tput (gZ G) B T e.2)) K) e) : aW G M_X3_writesNumber 2 22 h0 K (tput (gZ G) B T s) 18 [some (.ref (T 100)), some (.int v1), some (.int v2), none] [] := by
  unfold t_X3_writesNumber_l18 at hT
  refine a_iload_n dX3_writesNumber_18 rfl ?_
  refine a_istore_n (lv' := [some (.ref (T 100)), some (.int v1), some (.int v2), some (.int v2)]) dX3_writesNumber_19 rfl (by decide) rfl ?_
  refine a_mask [true, true, false, true] ?_
  exact k_X3_writesNumber_b20 ht hT he
def t_X3_writesNumber_b2 : (Int32 × Int32 × tS) → Option ((Int32 × Int32 × tS) ⊕ (Unit × tS)) := fun (v1, v2, s) =>
  if ¬ v2 = 0 then
  if (v1 / v2) ≤ 9 then
    (t_X3_writesNumber_l18 s v1 v2).map .inr
  else
    some (.inl (v1, (v2 * 10), s))
  else none
theorem kb_X3_writesNumber_b2 {G : aG} {h0 B : aH} {T : Nat → Nat} {K : aRes → aH → Prop} (ht : tOk (gZ G) T) : ∀ (x9 : (Int32 × Int32 × tS)) (e : ((Int32 × Int32 × tS) ⊕ (Unit × tS))), t_X3_writesNumber_b2 x9 = some e → (Sum.elim (p_X3_writesNumber_b2 G h0 K B T) (fun e => aTo (aEV e.1 (tput (gZ G) B T e.2)) K)) e → p_X3_writesNumber_b2 G h0 K B T x9 := by
  intro x9 e hT he
  obtain ⟨v1, v2, s⟩ := x9
  unfold p_X3_writesNumber_b2
  unfold t_X3_writesNumber_b2 at hT
  show aW G M_X3_writesNumber 2 22 h0 K (tput (gZ G) B T s) 2 [some (.ref (T 100)), some (.int v1), some (.int v2), none] []
  dsimp only at hT
  refine a_iload_n dX3_writesNumber_2 rfl ?_
  refine a_iload_n dX3_writesNumber_3 rfl ?_
  obtain ⟨g1, hT⟩ := oifg hT
  refine a_idiv dX3_writesNumber_4 g1 ?_
  refine a_bipush (v := 9) dX3_writesNumber_5 (by decide) ?_
  refine a_icmp_le 18 dX3_writesNumber_7 rfl (fun c2 => ?_) (fun c2 => ?_)
  · have hT := oifp c2 hT
    obtain ⟨e8, hT8, rfl⟩ := omap hT
    exact k_X3_writesNumber_l18 ht hT8 he
  · have hT := oifn c2 hT
    refine a_iload_n dX3_writesNumber_10 rfl ?_
    refine a_bipush (v := 10) dX3_writesNumber_11 (by decide) ?_
    refine a_imul dX3_writesNumber_13 ?_
    refine a_istore_n (lv' := [some (.ref (T 100)), some (.int v1), some (.int (v2 * 10)), none]) dX3_writesNumber_14 rfl (by decide) rfl ?_
    refine a_goto 2 dX3_writesNumber_15 rfl ?_
    cases hT
    exact he
theorem k_X3_writesNumber_b2 {G : aG} {h0 B : aH} {T : Nat → Nat} {K : aRes → aH → Prop} (ht : tOk (gZ G) T) {n9 : Nat} {x9 : (Int32 × Int32 × tS)} {e : (Unit × tS)} (hT : wlo t_X3_writesNumber_b2 n9 x9 = some e) (he : (fun e => aTo (aEV e.1 (tput (gZ G) B T e.2)) K) e) : p_X3_writesNumber_b2 G h0 K B T x9 := wlo_W (kb_X3_writesNumber_b2 ht) n9 x9 e hT he
def t_X3_writesNumber (s : tS) (x0 : Int32) : Option (Unit × tS) :=
  wlo t_X3_writesNumber_b2 300 (x0, 1, s)
theorem k_X3_writesNumber {G : aG} {B : aH} {T : Nat → Nat} (ht : tOk (gZ G) T) {s : tS} {x0 : Int32} {e : (Unit × tS)} (hT : t_X3_writesNumber s x0 = some e) : aMet G yX3_writesNumber (ws_ yX3_writesNumber cX3_writesNumber 4 (Option.none : Option Jvm.ClassFile.FieldType)) 2 22 [.ref (T 100), .int x0] (tput (gZ G) B T s) (aEV e.1 (tput (gZ G) B T e.2)) := by
  refine aMet.of (lv := [some (.ref (T 100)), some (.int x0), none, none]) (by decide) (Nat.le_of_ble_eq_true rfl) 2 rfl ?_
  have he : aTo (aEV e.1 (tput (gZ G) B T e.2)) (aEV e.1 (tput (gZ G) B T e.2)) := aTo.rf
  unfold t_X3_writesNumber at hT
  refine a_iconst (v := 1) dX3_writesNumber_0 (by decide) ?_
  refine a_istore_n (lv' := [some (.ref (T 100)), some (.int x0), some (.int 1), none]) dX3_writesNumber_1 rfl (by decide) rfl ?_
  exact k_X3_writesNumber_b2 ht hT he
abbrev M_X3_visitorsIn : aM := (yX3_visitorsIn.cls, cX3_visitorsIn, 4, (Option.some Jvm.ClassFile.FieldType.int), [], yX3_visitorsIn.name)
def p_X3_visitorsIn_b4 (G : aG) (h0 : aH) (K : aRes → aH → Prop) (B : aH) (T : Nat → Nat) (x9 : (Int32 × Int32 × Int32 × tS)) : Prop := aW G M_X3_visitorsIn 2 21 h0 K (tput (gZ G) B T x9.2.2.2) 4 [some (.ref (T 100)), some (.int x9.1), some (.int x9.2.1), some (.int x9.2.2.1)] []
def t_X3_visitorsIn_l50 (s : tS) (v1 : Int32) (v3 : Int32) (u0 : Int32) (u1 : Int32) : Option ((Int32 × Int32 × Int32 × tS) ⊕ (Int32 × tS)) :=
  some (.inl (v1, (u1 + u0), (v3 + 1), s))
theorem k_X3_visitorsIn_l50 {G : aG} {h0 B : aH} {T : Nat → Nat} {K : aRes → aH → Prop} (ht : tOk (gZ G) T) {s : tS} {v1 : Int32} {v3 : Int32} {u0 : Int32} {u1 : Int32} {e : ((Int32 × Int32 × Int32 × tS) ⊕ (Int32 × tS))} (hT : t_X3_visitorsIn_l50 s v1 v3 u0 u1 = some e) (he : (Sum.elim (p_X3_visitorsIn_b4 G h0 K B T) (fun e => aTo (aEI e.1 (tput (gZ G) B T e.2)) K)) e) : aW G M_X3_visitorsIn 2 21 h0 K (tput (gZ G) B T s) 50 [some (.ref (T 100)), some (.int v1), none, some (.int v3)] [.int u0, .int u1] := by
  unfold t_X3_visitorsIn_l50 at hT
  refine a_iadd dX3_visitorsIn_50 ?_
  refine a_istore_n (lv' := [some (.ref (T 100)), some (.int v1), some (.int (u1 + u0)), some (.int v3)]) dX3_visitorsIn_51 rfl (by decide) rfl ?_
  refine a_iinc (v := (v3 + 1)) (lv' := [some (.ref (T 100)), some (.int v1), some (.int (u1 + u0)), some (.int (v3 + 1))]) dX3_visitorsIn_52 rfl (by rfl) rfl (by decide) rfl ?_
  refine a_goto 4 dX3_visitorsIn_55 rfl ?_
  cases hT
  exact he
def t_X3_visitorsIn_l49 (s : tS) (v1 : Int32) (v3 : Int32) (u0 : Int32) : Option ((Int32 × Int32 × Int32 × tS) ⊕ (Int32 × tS)) :=
  t_X3_visitorsIn_l50 s v1 v3 0 u0
theorem k_X3_visitorsIn_l49 {G : aG} {h0 B : aH} {T : Nat → Nat} {K : aRes → aH → Prop} (ht : tOk (gZ G) T) {s : tS} {v1 : Int32} {v3 : Int32} {u0 : Int32} {e : ((Int32 × Int32 × Int32 × tS) ⊕ (Int32 × tS))} (hT : t_X3_visitorsIn_l49 s v1 v3 u0 = some e) (he : (Sum.elim (p_X3_visitorsIn_b4 G h0 K B T) (fun e => aTo (aEI e.1 (tput (gZ G) B T e.2)) K)) e) : aW G M_X3_visitorsIn 2 21 h0 K (tput (gZ G) B T s) 49 [some (.ref (T 100)), some (.int v1), none, some (.int v3)] [.int u0] := by
  unfold t_X3_visitorsIn_l49 at hT
  refine a_iconst (v := 0) dX3_visitorsIn_49 (by decide) ?_
  exact k_X3_visitorsIn_l50 ht hT he
def t_X3_visitorsIn_b4 : (Int32 × Int32 × Int32 × tS) → Option ((Int32 × Int32 × Int32 × tS) ⊕ (Int32 × tS)) := fun (v1, v2, v3, s) =>
  (tld 0 s 1).bind fun z2 =>
  if z2 ≤ v3 then
    some (.inr ((v2, s)))
  else
    (t_X3_visitorAt v3).bind fun r6 =>
    (tld 0 s (r6 + 7)).bind fun z9 =>
    if z9 = 0 then
      (t_X3_visitorAt v3).bind fun r13 =>
      (tld 0 s (r13 + 1)).bind fun z16 =>
      if z16 = v1 then
        t_X3_visitorsIn_l50 s v1 v3 1 v2
      else
        t_X3_visitorsIn_l49 s v1 v3 v2
    else
      t_X3_visitorsIn_l49 s v1 v3 v2
theorem kb_X3_visitorsIn_b4 {G : aG} {h0 B : aH} {T : Nat → Nat} {K : aRes → aH → Prop} (ht : tOk (gZ G) T) : ∀ (x9 : (Int32 × Int32 × Int32 × tS)) (e : ((Int32 × Int32 × Int32 × tS) ⊕ (Int32 × tS))), t_X3_visitorsIn_b4 x9 = some e → (Sum.elim (p_X3_visitorsIn_b4 G h0 K B T) (fun e => aTo (aEI e.1 (tput (gZ G) B T e.2)) K)) e → p_X3_visitorsIn_b4 G h0 K B T x9 := by
  intro x9 e hT he
  obtain ⟨v1, v2, v3, s⟩ := x9
  unfold p_X3_visitorsIn_b4
  unfold t_X3_visitorsIn_b4 at hT
  show aW G M_X3_visitorsIn 2 21 h0 K (tput (gZ G) B T s) 4 [some (.ref (T 100)), some (.int v1), some (.int v2), some (.int v3)] []
  dsimp only at hT
  refine a_iload_n dX3_visitorsIn_4 rfl ?_
  refine a_aload_n dX3_visitorsIn_5 rfl ?_
  refine a_gA fl_X3_9_2 (tw_gA ht 0 (by decide)) dX3_visitorsIn_6 ?_
  refine a_iconst (v := 1) dX3_visitorsIn_9 (by decide) ?_
  obtain ⟨z2, e1, hT⟩ := obnd hT
  refine a_ldI (tw_ld ht 0 (by decide) e1) dX3_visitorsIn_10 ?_
  refine a_icmp_ge 58 dX3_visitorsIn_11 rfl (fun c3 => ?_) (fun c3 => ?_)
  · have hT := oifp c3 hT
    refine a_iload_n dX3_visitorsIn_58 rfl ?_
    cases hT
    exact a_iret rfl rfl dX3_visitorsIn_59 (he _ _ ⟨rfl, rfl⟩)
  · have hT := oifn c3 hT
    refine a_iload_n dX3_visitorsIn_14 rfl ?_
    refine a_aload_n dX3_visitorsIn_15 rfl ?_
    refine a_gA fl_X3_9_2 (tw_gA ht 0 (by decide)) dX3_visitorsIn_16 ?_
    refine a_iload_n dX3_visitorsIn_19 rfl ?_
    obtain ⟨r6, e7, hT⟩ := obnd hT
    refine a_callS ks_X3_126 (k_X3_visitorAt e7) ⟨Nat.le_of_ble_eq_true rfl, Nat.le_of_ble_eq_true rfl⟩ (As := [.int v3]) (rest := [.ref (T 0), .int v2]) rfl rfl (Nat.le_of_ble_eq_true rfl) dX3_visitorsIn_20 (kI ?_) xI
    refine a_bipush (v := 7) dX3_visitorsIn_23 (by decide) ?_
    refine a_iadd dX3_visitorsIn_25 ?_
    obtain ⟨z9, e8, hT⟩ := obnd hT
    refine a_ldI (tw_ld ht 0 (by decide) e8) dX3_visitorsIn_26 ?_
    refine a_if_ne 49 dX3_visitorsIn_27 rfl (fun c10 => ?_) (fun c10 => ?_)
    · have hT := oifn c10 hT
      refine a_mask [true, true, false, true] ?_
      exact k_X3_visitorsIn_l49 ht hT he
    · have hT := oifp c10 hT
      refine a_aload_n dX3_visitorsIn_30 rfl ?_
      refine a_gA fl_X3_9_2 (tw_gA ht 0 (by decide)) dX3_visitorsIn_31 ?_
      refine a_iload_n dX3_visitorsIn_34 rfl ?_
      obtain ⟨r13, e14, hT⟩ := obnd hT
      refine a_callS ks_X3_126 (k_X3_visitorAt e14) ⟨Nat.le_of_ble_eq_true rfl, Nat.le_of_ble_eq_true rfl⟩ (As := [.int v3]) (rest := [.ref (T 0), .int v2]) rfl rfl (Nat.le_of_ble_eq_true rfl) dX3_visitorsIn_35 (kI ?_) xI
      refine a_iconst (v := 1) dX3_visitorsIn_38 (by decide) ?_
      refine a_iadd dX3_visitorsIn_39 ?_
      obtain ⟨z16, e15, hT⟩ := obnd hT
      refine a_ldI (tw_ld ht 0 (by decide) e15) dX3_visitorsIn_40 ?_
      refine a_iload_n dX3_visitorsIn_41 rfl ?_
      refine a_icmp_ne 49 dX3_visitorsIn_42 rfl (fun c17 => ?_) (fun c17 => ?_)
      · have hT := oifn c17 hT
        refine a_mask [true, true, false, true] ?_
        exact k_X3_visitorsIn_l49 ht hT he
      · have hT := oifp c17 hT
        refine a_iconst (v := 1) dX3_visitorsIn_45 (by decide) ?_
        refine a_goto 50 dX3_visitorsIn_46 rfl ?_
        refine a_mask [true, true, false, true] ?_
        exact k_X3_visitorsIn_l50 ht hT he
theorem k_X3_visitorsIn_b4 {G : aG} {h0 B : aH} {T : Nat → Nat} {K : aRes → aH → Prop} (ht : tOk (gZ G) T) {n9 : Nat} {x9 : (Int32 × Int32 × Int32 × tS)} {e : (Int32 × tS)} (hT : wlo t_X3_visitorsIn_b4 n9 x9 = some e) (he : (fun e => aTo (aEI e.1 (tput (gZ G) B T e.2)) K) e) : p_X3_visitorsIn_b4 G h0 K B T x9 := wlo_W (kb_X3_visitorsIn_b4 ht) n9 x9 e hT he
def t_X3_visitorsIn (s : tS) (x0 : Int32) : Option (Int32 × tS) :=
  wlo t_X3_visitorsIn_b4 300 (x0, 0, 0, s)
theorem k_X3_visitorsIn {G : aG} {B : aH} {T : Nat → Nat} (ht : tOk (gZ G) T) {s : tS} {x0 : Int32} {e : (Int32 × tS)} (hT : t_X3_visitorsIn s x0 = some e) : aMet G yX3_visitorsIn (ws_ yX3_visitorsIn cX3_visitorsIn 4 (Option.some Jvm.ClassFile.FieldType.int)) 2 21 [.ref (T 100), .int x0] (tput (gZ G) B T s) (aEI e.1 (tput (gZ G) B T e.2)) := by
  refine aMet.of (lv := [some (.ref (T 100)), some (.int x0), none, none]) (by decide) (Nat.le_of_ble_eq_true rfl) 2 rfl ?_
  have he : aTo (aEI e.1 (tput (gZ G) B T e.2)) (aEI e.1 (tput (gZ G) B T e.2)) := aTo.rf
  unfold t_X3_visitorsIn at hT
  refine a_iconst (v := 0) dX3_visitorsIn_0 (by decide) ?_
  refine a_istore_n (lv' := [some (.ref (T 100)), some (.int x0), some (.int 0), none]) dX3_visitorsIn_1 rfl (by decide) rfl ?_
  refine a_iconst (v := 0) dX3_visitorsIn_2 (by decide) ?_
  refine a_istore_n (lv' := [some (.ref (T 100)), some (.int x0), some (.int 0), some (.int 0)]) dX3_visitorsIn_3 rfl (by decide) rfl ?_
  exact k_X3_visitorsIn_b4 ht hT he
abbrev M_X3_character : aM := (yX3_character.cls, cX3_character, 2, (Option.some Jvm.ClassFile.FieldType.char), [], yX3_character.name)
def t_X3_character (s : tS) (x0 : Int32) : Option (Int32 × tS) :=
  (tpf 12 s 0).bind fun s2 =>
  (t_X3_in ((x0 : Int32).toInt64) 0 ((((s2.1 20) - 1) : Int32).toInt64)).bind fun r5 =>
  if r5 = 0 then
    (t_X3_throwing s2 1).bind fun r10 =>
    if 0 ≤ (((r10.1 : Int32).toUInt32 % 65536).toInt32) ∧ (((r10.1 : Int32).toUInt32 % 65536).toInt32) ≤ 65535 then some ((((r10.1 : Int32).toUInt32 % 65536).toInt32), r10.2) else none
  else
    (tld 19 s2 x0).bind fun z13 =>
    if 0 ≤ (((z13 : Int32).toUInt32 % 65536).toInt32) ∧ (((z13 : Int32).toUInt32 % 65536).toInt32) ≤ 65535 then some ((((z13 : Int32).toUInt32 % 65536).toInt32), s2) else none
theorem k_X3_character {G : aG} {B : aH} {T : Nat → Nat} (ht : tOk (gZ G) T) {s : tS} {x0 : Int32} {e : (Int32 × tS)} (hT : t_X3_character s x0 = some e) : aMet G yX3_character (ws_ yX3_character cX3_character 2 (Option.some Jvm.ClassFile.FieldType.char)) 2 26 [.ref (T 100), .int x0] (tput (gZ G) B T s) (aEI e.1 (tput (gZ G) B T e.2)) := by
  refine aMet.of (lv := [some (.ref (T 100)), some (.int x0)]) (by decide) (Nat.le_of_ble_eq_true rfl) 0 rfl ?_
  have he : aTo (aEI e.1 (tput (gZ G) B T e.2)) (aEI e.1 (tput (gZ G) B T e.2)) := aTo.rf
  unfold t_X3_character at hT
  refine a_aload_n dX3_character_0 rfl ?_
  refine a_iconst (v := 0) dX3_character_1 (by decide) ?_
  obtain ⟨s2, e1, hT⟩ := obnd hT
  refine a_put (fp_X3_38_2 _) ⟨rfl, rfl⟩ (tw_pf ht 12 (by decide) e1) dX3_character_2 ?_
  refine a_iload_n dX3_character_5 rfl ?_
  refine a_i2l dX3_character_6 ?_
  refine a_lconst (v := 0) dX3_character_7 (by decide) ?_
  refine a_aload_n dX3_character_8 rfl ?_
  refine a_gI fl_X3_243_2 (tw_gI ht 20 (by decide)) dX3_character_9 ?_
  refine a_iconst (v := 1) dX3_character_12 (by decide) ?_
  refine a_isub dX3_character_13 ?_
  refine a_i2l dX3_character_14 ?_
  obtain ⟨r5, e6, hT⟩ := obnd hT
  refine a_callS ks_X3_59 (k_X3_in e6) ⟨Nat.le_of_ble_eq_true rfl, Nat.le_of_ble_eq_true rfl⟩ (As := [.long ((x0 : Int32).toInt64), .long 0, .long ((((s2.1 20) - 1) : Int32).toInt64)]) (rest := []) rfl rfl (Nat.le_of_ble_eq_true rfl) dX3_character_15 (kI ?_) xI
  refine a_if_eq 31 dX3_character_18 rfl (fun c7 => ?_) (fun c7 => ?_)
  · have hT := oifp c7 hT
    refine a_aload_n dX3_character_31 rfl ?_
    refine a_iconst (v := 1) dX3_character_32 (by decide) ?_
    obtain ⟨r10, e11, hT⟩ := obnd hT
    refine a_callV kv_X3_50 (tw_is ht) (k_X3_throwing ht e11) ⟨Nat.le_of_ble_eq_true rfl, Nat.le_of_ble_eq_true rfl⟩ (As := [.int 1]) (rest := []) rfl rfl (Nat.le_of_ble_eq_true rfl) dX3_character_33 (kI ?_) xI
    refine a_i2c dX3_character_36 ?_
    obtain ⟨g9, hT⟩ := oifg hT
    cases hT
    exact a_iret rfl (nC g9) dX3_character_37 (he _ _ ⟨rfl, rfl⟩)
  · have hT := oifn c7 hT
    refine a_aload_n dX3_character_21 rfl ?_
    refine a_gA fl_X3_35_2 (tw_gA ht 19 (by decide)) dX3_character_22 ?_
    refine a_iload_n dX3_character_25 rfl ?_
    obtain ⟨z13, e12, hT⟩ := obnd hT
    refine a_ldI (tw_ld ht 19 (by decide) e12) dX3_character_26 ?_
    refine a_i2c dX3_character_27 ?_
    refine a_goto 37 dX3_character_28 rfl ?_
    obtain ⟨g9, hT⟩ := oifg hT
    cases hT
    exact a_iret rfl (nC g9) dX3_character_37 (he _ _ ⟨rfl, rfl⟩)
abbrev M_X3_meanLost : aM := (yX3_meanLost.cls, cX3_meanLost, 3, (Option.some Jvm.ClassFile.FieldType.double), [], yX3_meanLost.name)
def p_X3_meanLost_b26 (G : aG) (h0 : aH) (K : aRes → aH → Prop) (B : aH) (T : Nat → Nat) (x9 : (Int32 × Int32 × tS)) : Prop := aW G M_X3_meanLost 3 62 h0 K (tput (gZ G) B T x9.2.2) 26 [some (.ref (T 100)), some (.int x9.1), some (.int x9.2.1)] []
def t_X3_meanLost_l50 (s : tS) (v1 : Int32) : Option (UInt64 × tS) :=
  (tld 0 s 1).bind fun z10 =>
  if (FP.ddiv (FP.i2d v1) (FP.i2d z10)) &&& 0x7fffffffffffffff ≤ 0x7ff0000000000000 then
  some ((FP.ddiv (FP.i2d v1) (FP.i2d z10)), s)
  else none
theorem k_X3_meanLost_l50 {G : aG} {h0 B : aH} {T : Nat → Nat} {K : aRes → aH → Prop} (ht : tOk (gZ G) T) {s : tS} {v1 : Int32} {e : (UInt64 × tS)} (hT : t_X3_meanLost_l50 s v1 = some e) (he : (fun e => aTo (aED e.1 (tput (gZ G) B T e.2)) K) e) : aW G M_X3_meanLost 3 62 h0 K (tput (gZ G) B T s) 50 [some (.ref (T 100)), some (.int v1), none] [] := by
  unfold t_X3_meanLost_l50 at hT
  refine a_iload_n dX3_meanLost_50 rfl ?_
  refine a_i2d dX3_meanLost_51 ?_
  refine a_aload_n dX3_meanLost_52 rfl ?_
  refine a_gA fl_X3_9_2 (tw_gA ht 0 (by decide)) dX3_meanLost_53 ?_
  refine a_iconst (v := 1) dX3_meanLost_56 (by decide) ?_
  obtain ⟨z10, e9, hT⟩ := obnd hT
  refine a_ldI (tw_ld ht 0 (by decide) e9) dX3_meanLost_57 ?_
  refine a_i2d dX3_meanLost_58 ?_
  obtain ⟨g11, hT⟩ := oifg hT
  refine a_ddiv dX3_meanLost_59 g11 ?_
  cases hT
  exact a_dret rfl dX3_meanLost_60 (he _ _ ⟨rfl, rfl⟩)
def t_X3_meanLost_b26 : (Int32 × Int32 × tS) → Option ((Int32 × Int32 × tS) ⊕ (UInt64 × tS)) := fun (v1, v2, s) =>
  (tld 0 s 1).bind fun z7 =>
  if z7 ≤ v2 then
    (t_X3_meanLost_l50 s v1).map .inr
  else
    (t_X3_lostOf s v2).bind fun r14 =>
    some (.inl ((v1 + r14.1), (v2 + 1), r14.2))
theorem kb_X3_meanLost_b26 {G : aG} {h0 B : aH} {T : Nat → Nat} {K : aRes → aH → Prop} (ht : tOk (gZ G) T) : ∀ (x9 : (Int32 × Int32 × tS)) (e : ((Int32 × Int32 × tS) ⊕ (UInt64 × tS))), t_X3_meanLost_b26 x9 = some e → (Sum.elim (p_X3_meanLost_b26 G h0 K B T) (fun e => aTo (aED e.1 (tput (gZ G) B T e.2)) K)) e → p_X3_meanLost_b26 G h0 K B T x9 := by
  intro x9 e hT he
  obtain ⟨v1, v2, s⟩ := x9
  unfold p_X3_meanLost_b26
  unfold t_X3_meanLost_b26 at hT
  show aW G M_X3_meanLost 3 62 h0 K (tput (gZ G) B T s) 26 [some (.ref (T 100)), some (.int v1), some (.int v2)] []
  dsimp only at hT
  refine a_iload_n dX3_meanLost_26 rfl ?_
  refine a_aload_n dX3_meanLost_27 rfl ?_
  refine a_gA fl_X3_9_2 (tw_gA ht 0 (by decide)) dX3_meanLost_28 ?_
  refine a_iconst (v := 1) dX3_meanLost_31 (by decide) ?_
  obtain ⟨z7, e6, hT⟩ := obnd hT
  refine a_ldI (tw_ld ht 0 (by decide) e6) dX3_meanLost_32 ?_
  refine a_icmp_ge 50 dX3_meanLost_33 rfl (fun c8 => ?_) (fun c8 => ?_)
  · have hT := oifp c8 hT
    refine a_mask [true, true, false] ?_
    obtain ⟨e8, hT8, rfl⟩ := omap hT
    exact k_X3_meanLost_l50 ht hT8 he
  · have hT := oifn c8 hT
    refine a_iload_n dX3_meanLost_36 rfl ?_
    refine a_aload_n dX3_meanLost_37 rfl ?_
    refine a_iload_n dX3_meanLost_38 rfl ?_
    obtain ⟨r14, e15, hT⟩ := obnd hT
    refine a_callV kv_X3_162 (tw_is ht) (k_X3_lostOf ht e15) ⟨Nat.le_of_ble_eq_true rfl, Nat.le_of_ble_eq_true rfl⟩ (As := [.int v2]) (rest := [.int v1]) rfl rfl (Nat.le_of_ble_eq_true rfl) dX3_meanLost_39 (kI ?_) xI
    refine a_iadd dX3_meanLost_42 ?_
    refine a_istore_n (lv' := [some (.ref (T 100)), some (.int (v1 + r14.1)), some (.int v2)]) dX3_meanLost_43 rfl (by decide) rfl ?_
    refine a_iinc (v := (v2 + 1)) (lv' := [some (.ref (T 100)), some (.int (v1 + r14.1)), some (.int (v2 + 1))]) dX3_meanLost_44 rfl (by rfl) rfl (by decide) rfl ?_
    refine a_goto 26 dX3_meanLost_47 rfl ?_
    cases hT
    exact he
theorem k_X3_meanLost_b26 {G : aG} {h0 B : aH} {T : Nat → Nat} {K : aRes → aH → Prop} (ht : tOk (gZ G) T) {n9 : Nat} {x9 : (Int32 × Int32 × tS)} {e : (UInt64 × tS)} (hT : wlo t_X3_meanLost_b26 n9 x9 = some e) (he : (fun e => aTo (aED e.1 (tput (gZ G) B T e.2)) K) e) : p_X3_meanLost_b26 G h0 K B T x9 := wlo_W (kb_X3_meanLost_b26 ht) n9 x9 e hT he
def t_X3_meanLost (s : tS)  : Option (UInt64 × tS) :=
  (tpf 12 s 0).bind fun s2 =>
  (tld 0 s2 1).bind fun z4 =>
  if z4 = 0 then
    (t_X3_throwing s2 1).bind fun r18 =>
    some (FP.dconst0, r18.2)
  else
    wlo t_X3_meanLost_b26 300 (0, 0, s2)
theorem k_X3_meanLost {G : aG} {B : aH} {T : Nat → Nat} (ht : tOk (gZ G) T) {s : tS}  {e : (UInt64 × tS)} (hT : t_X3_meanLost s  = some e) : aMet G yX3_meanLost (ws_ yX3_meanLost cX3_meanLost 3 (Option.some Jvm.ClassFile.FieldType.double)) 3 62 [.ref (T 100)] (tput (gZ G) B T s) (aED e.1 (tput (gZ G) B T e.2)) := by
  refine aMet.of (lv := [some (.ref (T 100)), none, none]) (by decide) (Nat.le_of_ble_eq_true rfl) 2 rfl ?_
  have he : aTo (aED e.1 (tput (gZ G) B T e.2)) (aED e.1 (tput (gZ G) B T e.2)) := aTo.rf
  unfold t_X3_meanLost at hT
  refine a_aload_n dX3_meanLost_0 rfl ?_
  refine a_iconst (v := 0) dX3_meanLost_1 (by decide) ?_
  obtain ⟨s2, e1, hT⟩ := obnd hT
  refine a_put (fp_X3_38_2 _) ⟨rfl, rfl⟩ (tw_pf ht 12 (by decide) e1) dX3_meanLost_2 ?_
  refine a_aload_n dX3_meanLost_5 rfl ?_
  refine a_gA fl_X3_9_2 (tw_gA ht 0 (by decide)) dX3_meanLost_6 ?_
  refine a_iconst (v := 1) dX3_meanLost_9 (by decide) ?_
  obtain ⟨z4, e3, hT⟩ := obnd hT
  refine a_ldI (tw_ld ht 0 (by decide) e3) dX3_meanLost_10 ?_
  refine a_if_ne 22 dX3_meanLost_11 rfl (fun c5 => ?_) (fun c5 => ?_)
  · have hT := oifn c5 hT
    refine a_iconst (v := 0) dX3_meanLost_22 (by decide) ?_
    refine a_istore_n (lv' := [some (.ref (T 100)), some (.int 0), none]) dX3_meanLost_23 rfl (by decide) rfl ?_
    refine a_iconst (v := 0) dX3_meanLost_24 (by decide) ?_
    refine a_istore_n (lv' := [some (.ref (T 100)), some (.int 0), some (.int 0)]) dX3_meanLost_25 rfl (by decide) rfl ?_
    exact k_X3_meanLost_b26 ht hT he
  · have hT := oifp c5 hT
    refine a_aload_n dX3_meanLost_14 rfl ?_
    refine a_iconst (v := 1) dX3_meanLost_15 (by decide) ?_
    obtain ⟨r18, e19, hT⟩ := obnd hT
    refine a_callV kv_X3_50 (tw_is ht) (k_X3_throwing ht e19) ⟨Nat.le_of_ble_eq_true rfl, Nat.le_of_ble_eq_true rfl⟩ (As := [.int 1]) (rest := []) rfl rfl (Nat.le_of_ble_eq_true rfl) dX3_meanLost_16 (kI ?_) xI
    refine a_pop dX3_meanLost_19 rfl ?_
    refine a_dconst0 dX3_meanLost_20 ?_
    cases hT
    exact a_dret rfl dX3_meanLost_21 (he _ _ ⟨rfl, rfl⟩)
abbrev M_X3_outs : aM := (yX3_outs.cls, cX3_outs, 3, (Option.some Jvm.ClassFile.FieldType.int), [], yX3_outs.name)
def p_X3_outs_b4 (G : aG) (h0 : aH) (K : aRes → aH → Prop) (B : aH) (T : Nat → Nat) (x9 : (Int32 × Int32 × tS)) : Prop := aW G M_X3_outs 2 21 h0 K (tput (gZ G) B T x9.2.2) 4 [some (.ref (T 100)), some (.int x9.1), some (.int x9.2.1)] []
def t_X3_outs_b4 : (Int32 × Int32 × tS) → Option ((Int32 × Int32 × tS) ⊕ (Int32 × tS)) := fun (v1, v2, s) =>
  (tld 0 s 1).bind fun z2 =>
  if z2 ≤ v2 then
    some (.inr ((v1, s)))
  else
    (t_X3_visitorAt v2).bind fun r6 =>
    (tld 0 s (r6 + 7)).bind fun z9 =>
    some (.inl ((v1 + z9), (v2 + 1), s))
theorem kb_X3_outs_b4 {G : aG} {h0 B : aH} {T : Nat → Nat} {K : aRes → aH → Prop} (ht : tOk (gZ G) T) : ∀ (x9 : (Int32 × Int32 × tS)) (e : ((Int32 × Int32 × tS) ⊕ (Int32 × tS))), t_X3_outs_b4 x9 = some e → (Sum.elim (p_X3_outs_b4 G h0 K B T) (fun e => aTo (aEI e.1 (tput (gZ G) B T e.2)) K)) e → p_X3_outs_b4 G h0 K B T x9 := by
  intro x9 e hT he
  obtain ⟨v1, v2, s⟩ := x9
  unfold p_X3_outs_b4
  unfold t_X3_outs_b4 at hT
  show aW G M_X3_outs 2 21 h0 K (tput (gZ G) B T s) 4 [some (.ref (T 100)), some (.int v1), some (.int v2)] []
  dsimp only at hT
  refine a_iload_n dX3_outs_4 rfl ?_
  refine a_aload_n dX3_outs_5 rfl ?_
  refine a_gA fl_X3_9_2 (tw_gA ht 0 (by decide)) dX3_outs_6 ?_
  refine a_iconst (v := 1) dX3_outs_9 (by decide) ?_
  obtain ⟨z2, e1, hT⟩ := obnd hT
  refine a_ldI (tw_ld ht 0 (by decide) e1) dX3_outs_10 ?_
  refine a_icmp_ge 35 dX3_outs_11 rfl (fun c3 => ?_) (fun c3 => ?_)
  · have hT := oifp c3 hT
    refine a_iload_n dX3_outs_35 rfl ?_
    cases hT
    exact a_iret rfl rfl dX3_outs_36 (he _ _ ⟨rfl, rfl⟩)
  · have hT := oifn c3 hT
    refine a_iload_n dX3_outs_14 rfl ?_
    refine a_aload_n dX3_outs_15 rfl ?_
    refine a_gA fl_X3_9_2 (tw_gA ht 0 (by decide)) dX3_outs_16 ?_
    refine a_iload_n dX3_outs_19 rfl ?_
    obtain ⟨r6, e7, hT⟩ := obnd hT
    refine a_callS ks_X3_126 (k_X3_visitorAt e7) ⟨Nat.le_of_ble_eq_true rfl, Nat.le_of_ble_eq_true rfl⟩ (As := [.int v2]) (rest := [.ref (T 0), .int v1]) rfl rfl (Nat.le_of_ble_eq_true rfl) dX3_outs_20 (kI ?_) xI
    refine a_bipush (v := 7) dX3_outs_23 (by decide) ?_
    refine a_iadd dX3_outs_25 ?_
    obtain ⟨z9, e8, hT⟩ := obnd hT
    refine a_ldI (tw_ld ht 0 (by decide) e8) dX3_outs_26 ?_
    refine a_iadd dX3_outs_27 ?_
    refine a_istore_n (lv' := [some (.ref (T 100)), some (.int (v1 + z9)), some (.int v2)]) dX3_outs_28 rfl (by decide) rfl ?_
    refine a_iinc (v := (v2 + 1)) (lv' := [some (.ref (T 100)), some (.int (v1 + z9)), some (.int (v2 + 1))]) dX3_outs_29 rfl (by rfl) rfl (by decide) rfl ?_
    refine a_goto 4 dX3_outs_32 rfl ?_
    cases hT
    exact he
theorem k_X3_outs_b4 {G : aG} {h0 B : aH} {T : Nat → Nat} {K : aRes → aH → Prop} (ht : tOk (gZ G) T) {n9 : Nat} {x9 : (Int32 × Int32 × tS)} {e : (Int32 × tS)} (hT : wlo t_X3_outs_b4 n9 x9 = some e) (he : (fun e => aTo (aEI e.1 (tput (gZ G) B T e.2)) K) e) : p_X3_outs_b4 G h0 K B T x9 := wlo_W (kb_X3_outs_b4 ht) n9 x9 e hT he
def t_X3_outs (s : tS)  : Option (Int32 × tS) :=
  wlo t_X3_outs_b4 300 (0, 0, s)
theorem k_X3_outs {G : aG} {B : aH} {T : Nat → Nat} (ht : tOk (gZ G) T) {s : tS}  {e : (Int32 × tS)} (hT : t_X3_outs s  = some e) : aMet G yX3_outs (ws_ yX3_outs cX3_outs 3 (Option.some Jvm.ClassFile.FieldType.int)) 2 21 [.ref (T 100)] (tput (gZ G) B T s) (aEI e.1 (tput (gZ G) B T e.2)) := by
  refine aMet.of (lv := [some (.ref (T 100)), none, none]) (by decide) (Nat.le_of_ble_eq_true rfl) 2 rfl ?_
  have he : aTo (aEI e.1 (tput (gZ G) B T e.2)) (aEI e.1 (tput (gZ G) B T e.2)) := aTo.rf
  unfold t_X3_outs at hT
  refine a_iconst (v := 0) dX3_outs_0 (by decide) ?_
  refine a_istore_n (lv' := [some (.ref (T 100)), some (.int 0), none]) dX3_outs_1 rfl (by decide) rfl ?_
  refine a_iconst (v := 0) dX3_outs_2 (by decide) ?_
  refine a_istore_n (lv' := [some (.ref (T 100)), some (.int 0), some (.int 0)]) dX3_outs_3 rfl (by decide) rfl ?_
  exact k_X3_outs_b4 ht hT he
abbrev M_X3_voids : aM := (yX3_voids.cls, cX3_voids, 3, (Option.some Jvm.ClassFile.FieldType.int), [], yX3_voids.name)
def p_X3_voids_b4 (G : aG) (h0 : aH) (K : aRes → aH → Prop) (B : aH) (T : Nat → Nat) (x9 : (Int32 × Int32 × tS)) : Prop := aW G M_X3_voids 3 42 h0 K (tput (gZ G) B T x9.2.2) 4 [some (.ref (T 100)), some (.int x9.1), some (.int x9.2.1)] []
def t_X3_voids_l39 (s : tS) (v2 : Int32) (u0 : Int32) (u1 : Int32) : Option ((Int32 × Int32 × tS) ⊕ (Int32 × tS)) :=
  some (.inl ((u1 + u0), (v2 + 1), s))
theorem k_X3_voids_l39 {G : aG} {h0 B : aH} {T : Nat → Nat} {K : aRes → aH → Prop} (ht : tOk (gZ G) T) {s : tS} {v2 : Int32} {u0 : Int32} {u1 : Int32} {e : ((Int32 × Int32 × tS) ⊕ (Int32 × tS))} (hT : t_X3_voids_l39 s v2 u0 u1 = some e) (he : (Sum.elim (p_X3_voids_b4 G h0 K B T) (fun e => aTo (aEI e.1 (tput (gZ G) B T e.2)) K)) e) : aW G M_X3_voids 3 42 h0 K (tput (gZ G) B T s) 39 [some (.ref (T 100)), none, some (.int v2)] [.int u0, .int u1] := by
  unfold t_X3_voids_l39 at hT
  refine a_iadd dX3_voids_39 ?_
  refine a_istore_n (lv' := [some (.ref (T 100)), some (.int (u1 + u0)), some (.int v2)]) dX3_voids_40 rfl (by decide) rfl ?_
  refine a_iinc (v := (v2 + 1)) (lv' := [some (.ref (T 100)), some (.int (u1 + u0)), some (.int (v2 + 1))]) dX3_voids_41 rfl (by rfl) rfl (by decide) rfl ?_
  refine a_goto 4 dX3_voids_44 rfl ?_
  cases hT
  exact he
def t_X3_voids_b4 : (Int32 × Int32 × tS) → Option ((Int32 × Int32 × tS) ⊕ (Int32 × tS)) := fun (v1, v2, s) =>
  (tld 0 s 1).bind fun z2 =>
  if z2 ≤ v2 then
    some (.inr ((v1, s)))
  else
    (t_X3_lasts s v2).bind fun r6 =>
    if r6.1 = 0 then
      t_X3_voids_l39 r6.2 v2 0 v1
    else
      (t_X3_visitorAt v2).bind fun r11 =>
      (tld 0 r6.2 (r11 + 6)).bind fun z14 =>
      t_X3_voids_l39 r6.2 v2 z14 v1
theorem kb_X3_voids_b4 {G : aG} {h0 B : aH} {T : Nat → Nat} {K : aRes → aH → Prop} (ht : tOk (gZ G) T) : ∀ (x9 : (Int32 × Int32 × tS)) (e : ((Int32 × Int32 × tS) ⊕ (Int32 × tS))), t_X3_voids_b4 x9 = some e → (Sum.elim (p_X3_voids_b4 G h0 K B T) (fun e => aTo (aEI e.1 (tput (gZ G) B T e.2)) K)) e → p_X3_voids_b4 G h0 K B T x9 := by
  intro x9 e hT he
  obtain ⟨v1, v2, s⟩ := x9
  unfold p_X3_voids_b4
  unfold t_X3_voids_b4 at hT
  show aW G M_X3_voids 3 42 h0 K (tput (gZ G) B T s) 4 [some (.ref (T 100)), some (.int v1), some (.int v2)] []
  dsimp only at hT
  refine a_iload_n dX3_voids_4 rfl ?_
  refine a_aload_n dX3_voids_5 rfl ?_
  refine a_gA fl_X3_9_2 (tw_gA ht 0 (by decide)) dX3_voids_6 ?_
  refine a_iconst (v := 1) dX3_voids_9 (by decide) ?_
  obtain ⟨z2, e1, hT⟩ := obnd hT
  refine a_ldI (tw_ld ht 0 (by decide) e1) dX3_voids_10 ?_
  refine a_icmp_ge 47 dX3_voids_11 rfl (fun c3 => ?_) (fun c3 => ?_)
  · have hT := oifp c3 hT
    refine a_iload_n dX3_voids_47 rfl ?_
    cases hT
    exact a_iret rfl rfl dX3_voids_48 (he _ _ ⟨rfl, rfl⟩)
  · have hT := oifn c3 hT
    refine a_iload_n dX3_voids_14 rfl ?_
    refine a_aload_n dX3_voids_15 rfl ?_
    refine a_iload_n dX3_voids_16 rfl ?_
    obtain ⟨r6, e7, hT⟩ := obnd hT
    refine a_callV kv_X3_183 (tw_is ht) (k_X3_lasts ht e7) ⟨Nat.le_of_ble_eq_true rfl, Nat.le_of_ble_eq_true rfl⟩ (As := [.int v2]) (rest := [.int v1]) rfl rfl (Nat.le_of_ble_eq_true rfl) dX3_voids_17 (kI ?_) xI
    refine a_if_eq 38 dX3_voids_20 rfl (fun c8 => ?_) (fun c8 => ?_)
    · have hT := oifp c8 hT
      refine a_iconst (v := 0) dX3_voids_38 (by decide) ?_
      refine a_mask [true, false, true] ?_
      exact k_X3_voids_l39 ht hT he
    · have hT := oifn c8 hT
      refine a_aload_n dX3_voids_23 rfl ?_
      refine a_gA fl_X3_9_2 (tw_gA ht 0 (by decide)) dX3_voids_24 ?_
      refine a_iload_n dX3_voids_27 rfl ?_
      obtain ⟨r11, e12, hT⟩ := obnd hT
      refine a_callS ks_X3_126 (k_X3_visitorAt e12) ⟨Nat.le_of_ble_eq_true rfl, Nat.le_of_ble_eq_true rfl⟩ (As := [.int v2]) (rest := [.ref (T 0), .int v1]) rfl rfl (Nat.le_of_ble_eq_true rfl) dX3_voids_28 (kI ?_) xI
      refine a_bipush (v := 6) dX3_voids_31 (by decide) ?_
      refine a_iadd dX3_voids_33 ?_
      obtain ⟨z14, e13, hT⟩ := obnd hT
      refine a_ldI (tw_ld ht 0 (by decide) e13) dX3_voids_34 ?_
      refine a_goto 39 dX3_voids_35 rfl ?_
      refine a_mask [true, false, true] ?_
      exact k_X3_voids_l39 ht hT he
theorem k_X3_voids_b4 {G : aG} {h0 B : aH} {T : Nat → Nat} {K : aRes → aH → Prop} (ht : tOk (gZ G) T) {n9 : Nat} {x9 : (Int32 × Int32 × tS)} {e : (Int32 × tS)} (hT : wlo t_X3_voids_b4 n9 x9 = some e) (he : (fun e => aTo (aEI e.1 (tput (gZ G) B T e.2)) K) e) : p_X3_voids_b4 G h0 K B T x9 := wlo_W (kb_X3_voids_b4 ht) n9 x9 e hT he
def t_X3_voids (s : tS)  : Option (Int32 × tS) :=
  wlo t_X3_voids_b4 300 (0, 0, s)
theorem k_X3_voids {G : aG} {B : aH} {T : Nat → Nat} (ht : tOk (gZ G) T) {s : tS}  {e : (Int32 × tS)} (hT : t_X3_voids s  = some e) : aMet G yX3_voids (ws_ yX3_voids cX3_voids 3 (Option.some Jvm.ClassFile.FieldType.int)) 3 42 [.ref (T 100)] (tput (gZ G) B T s) (aEI e.1 (tput (gZ G) B T e.2)) := by
  refine aMet.of (lv := [some (.ref (T 100)), none, none]) (by decide) (Nat.le_of_ble_eq_true rfl) 2 rfl ?_
  have he : aTo (aEI e.1 (tput (gZ G) B T e.2)) (aEI e.1 (tput (gZ G) B T e.2)) := aTo.rf
  unfold t_X3_voids at hT
  refine a_iconst (v := 0) dX3_voids_0 (by decide) ?_
  refine a_istore_n (lv' := [some (.ref (T 100)), some (.int 0), none]) dX3_voids_1 rfl (by decide) rfl ?_
  refine a_iconst (v := 0) dX3_voids_2 (by decide) ?_
  refine a_istore_n (lv' := [some (.ref (T 100)), some (.int 0), some (.int 0)]) dX3_voids_3 rfl (by decide) rfl ?_
  exact k_X3_voids_b4 ht hT he
abbrev M_X3_coins : aM := (yX3_coins.cls, cX3_coins, 3, (Option.some Jvm.ClassFile.FieldType.int), [], yX3_coins.name)
def p_X3_coins_b4 (G : aG) (h0 : aH) (K : aRes → aH → Prop) (B : aH) (T : Nat → Nat) (x9 : (Int32 × Int32 × tS)) : Prop := aW G M_X3_coins 2 21 h0 K (tput (gZ G) B T x9.2.2) 4 [some (.ref (T 100)), some (.int x9.1), some (.int x9.2.1)] []
def p_X3_coins_b34 (G : aG) (h0 : aH) (K : aRes → aH → Prop) (B : aH) (T : Nat → Nat) (x9 : (Int32 × Int32 × tS)) : Prop := aW G M_X3_coins 2 21 h0 K (tput (gZ G) B T x9.2.2) 34 [some (.ref (T 100)), some (.int x9.1), some (.int x9.2.1)] []
def t_X3_coins_b34 : (Int32 × Int32 × tS) → Option ((Int32 × Int32 × tS) ⊕ (Int32 × tS)) := fun (v1, v2, s) =>
  (tld 0 s 1).bind fun z5 =>
  if z5 ≤ v2 then
    some (.inr ((v1, s)))
  else
    (t_X3_visitorAt v2).bind fun r9 =>
    (tld 0 s r9).bind fun z12 =>
    some (.inl ((v1 + z12), (v2 + 1), s))
theorem kb_X3_coins_b34 {G : aG} {h0 B : aH} {T : Nat → Nat} {K : aRes → aH → Prop} (ht : tOk (gZ G) T) : ∀ (x9 : (Int32 × Int32 × tS)) (e : ((Int32 × Int32 × tS) ⊕ (Int32 × tS))), t_X3_coins_b34 x9 = some e → (Sum.elim (p_X3_coins_b34 G h0 K B T) (fun e => aTo (aEI e.1 (tput (gZ G) B T e.2)) K)) e → p_X3_coins_b34 G h0 K B T x9 := by
  intro x9 e hT he
  obtain ⟨v1, v2, s⟩ := x9
  unfold p_X3_coins_b34
  unfold t_X3_coins_b34 at hT
  show aW G M_X3_coins 2 21 h0 K (tput (gZ G) B T s) 34 [some (.ref (T 100)), some (.int v1), some (.int v2)] []
  dsimp only at hT
  refine a_iload_n dX3_coins_34 rfl ?_
  refine a_aload_n dX3_coins_35 rfl ?_
  refine a_gA fl_X3_9_2 (tw_gA ht 0 (by decide)) dX3_coins_36 ?_
  refine a_iconst (v := 1) dX3_coins_39 (by decide) ?_
  obtain ⟨z5, e4, hT⟩ := obnd hT
  refine a_ldI (tw_ld ht 0 (by decide) e4) dX3_coins_40 ?_
  refine a_icmp_ge 62 dX3_coins_41 rfl (fun c6 => ?_) (fun c6 => ?_)
  · have hT := oifp c6 hT
    refine a_iload_n dX3_coins_62 rfl ?_
    cases hT
    exact a_iret rfl rfl dX3_coins_63 (he _ _ ⟨rfl, rfl⟩)
  · have hT := oifn c6 hT
    refine a_iload_n dX3_coins_44 rfl ?_
    refine a_aload_n dX3_coins_45 rfl ?_
    refine a_gA fl_X3_9_2 (tw_gA ht 0 (by decide)) dX3_coins_46 ?_
    refine a_iload_n dX3_coins_49 rfl ?_
    obtain ⟨r9, e10, hT⟩ := obnd hT
    refine a_callS ks_X3_126 (k_X3_visitorAt e10) ⟨Nat.le_of_ble_eq_true rfl, Nat.le_of_ble_eq_true rfl⟩ (As := [.int v2]) (rest := [.ref (T 0), .int v1]) rfl rfl (Nat.le_of_ble_eq_true rfl) dX3_coins_50 (kI ?_) xI
    obtain ⟨z12, e11, hT⟩ := obnd hT
    refine a_ldI (tw_ld ht 0 (by decide) e11) dX3_coins_53 ?_
    refine a_iadd dX3_coins_54 ?_
    refine a_istore_n (lv' := [some (.ref (T 100)), some (.int (v1 + z12)), some (.int v2)]) dX3_coins_55 rfl (by decide) rfl ?_
    refine a_iinc (v := (v2 + 1)) (lv' := [some (.ref (T 100)), some (.int (v1 + z12)), some (.int (v2 + 1))]) dX3_coins_56 rfl (by rfl) rfl (by decide) rfl ?_
    refine a_goto 34 dX3_coins_59 rfl ?_
    cases hT
    exact he
theorem k_X3_coins_b34 {G : aG} {h0 B : aH} {T : Nat → Nat} {K : aRes → aH → Prop} (ht : tOk (gZ G) T) {n9 : Nat} {x9 : (Int32 × Int32 × tS)} {e : (Int32 × tS)} (hT : wlo t_X3_coins_b34 n9 x9 = some e) (he : (fun e => aTo (aEI e.1 (tput (gZ G) B T e.2)) K) e) : p_X3_coins_b34 G h0 K B T x9 := wlo_W (kb_X3_coins_b34 ht) n9 x9 e hT he
def t_X3_coins_l32 (s : tS) (v1 : Int32) : Option (Int32 × tS) :=
  wlo t_X3_coins_b34 300 (v1, 0, s)
theorem k_X3_coins_l32 {G : aG} {h0 B : aH} {T : Nat → Nat} {K : aRes → aH → Prop} (ht : tOk (gZ G) T) {s : tS} {v1 : Int32} {e : (Int32 × tS)} (hT : t_X3_coins_l32 s v1 = some e) (he : (fun e => aTo (aEI e.1 (tput (gZ G) B T e.2)) K) e) : aW G M_X3_coins 2 21 h0 K (tput (gZ G) B T s) 32 [some (.ref (T 100)), some (.int v1), none] [] := by
  unfold t_X3_coins_l32 at hT
  refine a_iconst (v := 0) dX3_coins_32 (by decide) ?_
  refine a_istore_n (lv' := [some (.ref (T 100)), some (.int v1), some (.int 0)]) dX3_coins_33 rfl (by decide) rfl ?_
  exact k_X3_coins_b34 ht hT he
def t_X3_coins_b4 : (Int32 × Int32 × tS) → Option ((Int32 × Int32 × tS) ⊕ (Int32 × tS)) := fun (v1, v2, s) =>
  (tld 0 s 0).bind fun z2 =>
  if z2 ≤ v2 then
    (t_X3_coins_l32 s v1).map .inr
  else
    (t_X3_gardenerAt v2).bind fun r15 =>
    (tld 0 s r15).bind fun z18 =>
    some (.inl ((v1 + z18), (v2 + 1), s))
theorem kb_X3_coins_b4 {G : aG} {h0 B : aH} {T : Nat → Nat} {K : aRes → aH → Prop} (ht : tOk (gZ G) T) : ∀ (x9 : (Int32 × Int32 × tS)) (e : ((Int32 × Int32 × tS) ⊕ (Int32 × tS))), t_X3_coins_b4 x9 = some e → (Sum.elim (p_X3_coins_b4 G h0 K B T) (fun e => aTo (aEI e.1 (tput (gZ G) B T e.2)) K)) e → p_X3_coins_b4 G h0 K B T x9 := by
  intro x9 e hT he
  obtain ⟨v1, v2, s⟩ := x9
  unfold p_X3_coins_b4
  unfold t_X3_coins_b4 at hT
  show aW G M_X3_coins 2 21 h0 K (tput (gZ G) B T s) 4 [some (.ref (T 100)), some (.int v1), some (.int v2)] []
  dsimp only at hT
  refine a_iload_n dX3_coins_4 rfl ?_
  refine a_aload_n dX3_coins_5 rfl ?_
  refine a_gA fl_X3_9_2 (tw_gA ht 0 (by decide)) dX3_coins_6 ?_
  refine a_iconst (v := 0) dX3_coins_9 (by decide) ?_
  obtain ⟨z2, e1, hT⟩ := obnd hT
  refine a_ldI (tw_ld ht 0 (by decide) e1) dX3_coins_10 ?_
  refine a_icmp_ge 32 dX3_coins_11 rfl (fun c3 => ?_) (fun c3 => ?_)
  · have hT := oifp c3 hT
    refine a_mask [true, true, false] ?_
    obtain ⟨e8, hT8, rfl⟩ := omap hT
    exact k_X3_coins_l32 ht hT8 he
  · have hT := oifn c3 hT
    refine a_iload_n dX3_coins_14 rfl ?_
    refine a_aload_n dX3_coins_15 rfl ?_
    refine a_gA fl_X3_9_2 (tw_gA ht 0 (by decide)) dX3_coins_16 ?_
    refine a_iload_n dX3_coins_19 rfl ?_
    obtain ⟨r15, e16, hT⟩ := obnd hT
    refine a_callS ks_X3_120 (k_X3_gardenerAt e16) ⟨Nat.le_of_ble_eq_true rfl, Nat.le_of_ble_eq_true rfl⟩ (As := [.int v2]) (rest := [.ref (T 0), .int v1]) rfl rfl (Nat.le_of_ble_eq_true rfl) dX3_coins_20 (kI ?_) xI
    obtain ⟨z18, e17, hT⟩ := obnd hT
    refine a_ldI (tw_ld ht 0 (by decide) e17) dX3_coins_23 ?_
    refine a_iadd dX3_coins_24 ?_
    refine a_istore_n (lv' := [some (.ref (T 100)), some (.int (v1 + z18)), some (.int v2)]) dX3_coins_25 rfl (by decide) rfl ?_
    refine a_iinc (v := (v2 + 1)) (lv' := [some (.ref (T 100)), some (.int (v1 + z18)), some (.int (v2 + 1))]) dX3_coins_26 rfl (by rfl) rfl (by decide) rfl ?_
    refine a_goto 4 dX3_coins_29 rfl ?_
    cases hT
    exact he
theorem k_X3_coins_b4 {G : aG} {h0 B : aH} {T : Nat → Nat} {K : aRes → aH → Prop} (ht : tOk (gZ G) T) {n9 : Nat} {x9 : (Int32 × Int32 × tS)} {e : (Int32 × tS)} (hT : wlo t_X3_coins_b4 n9 x9 = some e) (he : (fun e => aTo (aEI e.1 (tput (gZ G) B T e.2)) K) e) : p_X3_coins_b4 G h0 K B T x9 := wlo_W (kb_X3_coins_b4 ht) n9 x9 e hT he
def t_X3_coins (s : tS)  : Option (Int32 × tS) :=
  wlo t_X3_coins_b4 300 (0, 0, s)
theorem k_X3_coins {G : aG} {B : aH} {T : Nat → Nat} (ht : tOk (gZ G) T) {s : tS}  {e : (Int32 × tS)} (hT : t_X3_coins s  = some e) : aMet G yX3_coins (ws_ yX3_coins cX3_coins 3 (Option.some Jvm.ClassFile.FieldType.int)) 2 21 [.ref (T 100)] (tput (gZ G) B T s) (aEI e.1 (tput (gZ G) B T e.2)) := by
  refine aMet.of (lv := [some (.ref (T 100)), none, none]) (by decide) (Nat.le_of_ble_eq_true rfl) 2 rfl ?_
  have he : aTo (aEI e.1 (tput (gZ G) B T e.2)) (aEI e.1 (tput (gZ G) B T e.2)) := aTo.rf
  unfold t_X3_coins at hT
  refine a_iconst (v := 0) dX3_coins_0 (by decide) ?_
  refine a_istore_n (lv' := [some (.ref (T 100)), some (.int 0), none]) dX3_coins_1 rfl (by decide) rfl ?_
  refine a_iconst (v := 0) dX3_coins_2 (by decide) ?_
  refine a_istore_n (lv' := [some (.ref (T 100)), some (.int 0), some (.int 0)]) dX3_coins_3 rfl (by decide) rfl ?_
  exact k_X3_coins_b4 ht hT he
abbrev M_X3_undo : aM := (yX3_undo.cls, cX3_undo, 2, (Option.some Jvm.ClassFile.FieldType.int), [], yX3_undo.name)
def p_X3_undo_b30 (G : aG) (h0 : aH) (K : aRes → aH → Prop) (B : aH) (T : Nat → Nat) (x9 : (Int32 × tS)) : Prop := aW G M_X3_undo 2 22 h0 K (tput (gZ G) B T x9.2) 30 [some (.ref (T 100)), some (.int x9.1)] []
def t_X3_undo_l62 (s : tS)  : Option (Int32 × tS) :=
  some ((s.1 5), s)
theorem k_X3_undo_l62 {G : aG} {h0 B : aH} {T : Nat → Nat} {K : aRes → aH → Prop} (ht : tOk (gZ G) T) {s : tS}  {e : (Int32 × tS)} (hT : t_X3_undo_l62 s  = some e) (he : (fun e => aTo (aEI e.1 (tput (gZ G) B T e.2)) K) e) : aW G M_X3_undo 2 22 h0 K (tput (gZ G) B T s) 62 [some (.ref (T 100)), none] [] := by
  unfold t_X3_undo_l62 at hT
  refine a_aload_n dX3_undo_62 rfl ?_
  refine a_gI fl_X3_54_2 (tw_gI ht 5 (by decide)) dX3_undo_63 ?_
  cases hT
  exact a_iret rfl rfl dX3_undo_66 (he _ _ ⟨rfl, rfl⟩)
def t_X3_undo_b30 : (Int32 × tS) → Option ((Int32 × tS) ⊕ (Int32 × tS)) := fun (v1, s) =>
  if 86 ≤ v1 then
    (t_X3_undo_l62 s).map .inr
  else
    (tld 4 s ((86 * (s.1 5)) + v1)).bind fun z8 =>
    (tst 0 s v1 z8).bind fun s10 =>
    some (.inl ((v1 + 1), s10))
theorem kb_X3_undo_b30 {G : aG} {h0 B : aH} {T : Nat → Nat} {K : aRes → aH → Prop} (ht : tOk (gZ G) T) : ∀ (x9 : (Int32 × tS)) (e : ((Int32 × tS) ⊕ (Int32 × tS))), t_X3_undo_b30 x9 = some e → (Sum.elim (p_X3_undo_b30 G h0 K B T) (fun e => aTo (aEI e.1 (tput (gZ G) B T e.2)) K)) e → p_X3_undo_b30 G h0 K B T x9 := by
  intro x9 e hT he
  obtain ⟨v1, s⟩ := x9
  unfold p_X3_undo_b30
  unfold t_X3_undo_b30 at hT
  show aW G M_X3_undo 2 22 h0 K (tput (gZ G) B T s) 30 [some (.ref (T 100)), some (.int v1)] []
  dsimp only at hT
  refine a_iload_n dX3_undo_30 rfl ?_
  refine a_bipush (v := 86) dX3_undo_31 (by decide) ?_
  refine a_icmp_ge 62 dX3_undo_33 rfl (fun c6 => ?_) (fun c6 => ?_)
  · have hT := oifp c6 hT
    refine a_mask [true, false] ?_
    obtain ⟨e8, hT8, rfl⟩ := omap hT
    exact k_X3_undo_l62 ht hT8 he
  · have hT := oifn c6 hT
    refine a_aload_n dX3_undo_36 rfl ?_
    refine a_gA fl_X3_9_2 (tw_gA ht 0 (by decide)) dX3_undo_37 ?_
    refine a_iload_n dX3_undo_40 rfl ?_
    refine a_aload_n dX3_undo_41 rfl ?_
    refine a_gA fl_X3_19_2 (tw_gA ht 4 (by decide)) dX3_undo_42 ?_
    refine a_bipush (v := 86) dX3_undo_45 (by decide) ?_
    refine a_aload_n dX3_undo_47 rfl ?_
    refine a_gI fl_X3_54_2 (tw_gI ht 5 (by decide)) dX3_undo_48 ?_
    refine a_imul dX3_undo_51 ?_
    refine a_iload_n dX3_undo_52 rfl ?_
    refine a_iadd dX3_undo_53 ?_
    obtain ⟨z8, e7, hT⟩ := obnd hT
    refine a_ldI (tw_ld ht 4 (by decide) e7) dX3_undo_54 ?_
    obtain ⟨s10, e9, hT⟩ := obnd hT
    refine a_stI (tw_st ht 0 (by decide) e9) dX3_undo_55 ?_
    refine a_iinc (v := (v1 + 1)) (lv' := [some (.ref (T 100)), some (.int (v1 + 1))]) dX3_undo_56 rfl (by rfl) rfl (by decide) rfl ?_
    refine a_goto 30 dX3_undo_59 rfl ?_
    cases hT
    exact he
theorem k_X3_undo_b30 {G : aG} {h0 B : aH} {T : Nat → Nat} {K : aRes → aH → Prop} (ht : tOk (gZ G) T) {n9 : Nat} {x9 : (Int32 × tS)} {e : (Int32 × tS)} (hT : wlo t_X3_undo_b30 n9 x9 = some e) (he : (fun e => aTo (aEI e.1 (tput (gZ G) B T e.2)) K) e) : p_X3_undo_b30 G h0 K B T x9 := wlo_W (kb_X3_undo_b30 ht) n9 x9 e hT he
def t_X3_undo (s : tS)  : Option (Int32 × tS) :=
  (tpf 12 s 0).bind fun s2 =>
  if (s2.1 5) = 0 then
    (t_X3_throwing s2 1).bind fun r13 =>
    some (r13.1, r13.2)
  else
    (tpf 5 s2 ((s2.1 5) - 1)).bind fun s5 =>
    wlo t_X3_undo_b30 300 (0, s5)
theorem k_X3_undo {G : aG} {B : aH} {T : Nat → Nat} (ht : tOk (gZ G) T) {s : tS}  {e : (Int32 × tS)} (hT : t_X3_undo s  = some e) : aMet G yX3_undo (ws_ yX3_undo cX3_undo 2 (Option.some Jvm.ClassFile.FieldType.int)) 2 22 [.ref (T 100)] (tput (gZ G) B T s) (aEI e.1 (tput (gZ G) B T e.2)) := by
  refine aMet.of (lv := [some (.ref (T 100)), none]) (by decide) (Nat.le_of_ble_eq_true rfl) 1 rfl ?_
  have he : aTo (aEI e.1 (tput (gZ G) B T e.2)) (aEI e.1 (tput (gZ G) B T e.2)) := aTo.rf
  unfold t_X3_undo at hT
  refine a_aload_n dX3_undo_0 rfl ?_
  refine a_iconst (v := 0) dX3_undo_1 (by decide) ?_
  obtain ⟨s2, e1, hT⟩ := obnd hT
  refine a_put (fp_X3_38_2 _) ⟨rfl, rfl⟩ (tw_pf ht 12 (by decide) e1) dX3_undo_2 ?_
  refine a_aload_n dX3_undo_5 rfl ?_
  refine a_gI fl_X3_54_2 (tw_gI ht 5 (by decide)) dX3_undo_6 ?_
  refine a_if_ne 18 dX3_undo_9 rfl (fun c3 => ?_) (fun c3 => ?_)
  · have hT := oifn c3 hT
    refine a_aload_n dX3_undo_18 rfl ?_
    refine a_dup dX3_undo_19 rfl ?_
    refine a_gI fl_X3_54_2 (tw_gI ht 5 (by decide)) dX3_undo_20 ?_
    refine a_iconst (v := 1) dX3_undo_23 (by decide) ?_
    refine a_isub dX3_undo_24 ?_
    obtain ⟨s5, e4, hT⟩ := obnd hT
    refine a_put (fp_X3_54_2 _) ⟨rfl, rfl⟩ (tw_pf ht 5 (by decide) e4) dX3_undo_25 ?_
    refine a_iconst (v := 0) dX3_undo_28 (by decide) ?_
    refine a_istore_n (lv' := [some (.ref (T 100)), some (.int 0)]) dX3_undo_29 rfl (by decide) rfl ?_
    exact k_X3_undo_b30 ht hT he
  · have hT := oifp c3 hT
    refine a_aload_n dX3_undo_12 rfl ?_
    refine a_iconst (v := 1) dX3_undo_13 (by decide) ?_
    obtain ⟨r13, e14, hT⟩ := obnd hT
    refine a_callV kv_X3_50 (tw_is ht) (k_X3_throwing ht e14) ⟨Nat.le_of_ble_eq_true rfl, Nat.le_of_ble_eq_true rfl⟩ (As := [.int 1]) (rest := []) rfl rfl (Nat.le_of_ble_eq_true rfl) dX3_undo_14 (kI ?_) xI
    cases hT
    exact a_iret rfl rfl dX3_undo_17 (he _ _ ⟨rfl, rfl⟩)
theorem fp_X3_265_2 (nm9 : String) : aFP "MazeBondsModel" 265 2 3 .boolean nm9 := ⟨RX3, TX3, 21, "MazeBondsModel", tyX3, rfl, in_X3, by decide, Or.inl rfl, Or.inl q1706, tyX3_ok, nmX3, rfl, Or.inl rfl⟩
theorem fl_X3_16_2 : aFL "MazeBondsModel" 16 2 2 := ⟨RX3, TX3, 21, "MazeBondsModel", rfl, in_X3, by decide, Or.inl rfl, Or.inl q1705⟩
abbrev M_X3_save : aM := (yX3_save.cls, cX3_save, 2, (Option.some Jvm.ClassFile.FieldType.int), [], yX3_save.name)
def p_X3_save_b7 (G : aG) (h0 : aH) (K : aRes → aH → Prop) (B : aH) (T : Nat → Nat) (x9 : (Int32 × tS)) : Prop := aW G M_X3_save 1 1 h0 K (tput (gZ G) B T x9.2) 7 [some (.ref (T 100)), some (.int x9.1)] []
def t_X3_save_l31 (s : tS)  : Option (Int32 × tS) :=
  (tpf 3 s 1).bind fun s5 =>
  (tld 0 s5 1).bind fun z7 =>
  some (z7, s5)
theorem k_X3_save_l31 {G : aG} {h0 B : aH} {T : Nat → Nat} {K : aRes → aH → Prop} (ht : tOk (gZ G) T) {s : tS}  {e : (Int32 × tS)} (hT : t_X3_save_l31 s  = some e) (he : (fun e => aTo (aEI e.1 (tput (gZ G) B T e.2)) K) e) : aW G M_X3_save 1 1 h0 K (tput (gZ G) B T s) 31 [some (.ref (T 100)), none] [] := by
  unfold t_X3_save_l31 at hT
  refine a_aload_n dX3_save_31 rfl ?_
  refine a_iconst (v := 1) dX3_save_32 (by decide) ?_
  obtain ⟨s5, e4, hT⟩ := obnd hT
  refine a_put (fp_X3_265_2 _) ⟨by decide, by decide⟩ (tw_pf ht 3 (by decide) e4) dX3_save_33 ?_
  refine a_aload_n dX3_save_36 rfl ?_
  refine a_gA fl_X3_9_2 (tw_gA ht 0 (by decide)) dX3_save_37 ?_
  refine a_iconst (v := 1) dX3_save_40 (by decide) ?_
  obtain ⟨z7, e6, hT⟩ := obnd hT
  refine a_ldI (tw_ld ht 0 (by decide) e6) dX3_save_41 ?_
  cases hT
  exact a_iret rfl rfl dX3_save_42 (he _ _ ⟨rfl, rfl⟩)
def t_X3_save_b7 : (Int32 × tS) → Option ((Int32 × tS) ⊕ (Int32 × tS)) := fun (v1, s) =>
  if 86 ≤ v1 then
    (t_X3_save_l31 s).map .inr
  else
    (tld 0 s v1).bind fun z9 =>
    (tst 2 s v1 z9).bind fun s11 =>
    some (.inl ((v1 + 1), s11))
theorem kb_X3_save_b7 {G : aG} {h0 B : aH} {T : Nat → Nat} {K : aRes → aH → Prop} (ht : tOk (gZ G) T) : ∀ (x9 : (Int32 × tS)) (e : ((Int32 × tS) ⊕ (Int32 × tS))), t_X3_save_b7 x9 = some e → (Sum.elim (p_X3_save_b7 G h0 K B T) (fun e => aTo (aEI e.1 (tput (gZ G) B T e.2)) K)) e → p_X3_save_b7 G h0 K B T x9 := by
  intro x9 e hT he
  obtain ⟨v1, s⟩ := x9
  unfold p_X3_save_b7
  unfold t_X3_save_b7 at hT
  show aW G M_X3_save 1 1 h0 K (tput (gZ G) B T s) 7 [some (.ref (T 100)), some (.int v1)] []
  dsimp only at hT
  refine a_iload_n dX3_save_7 rfl ?_
  refine a_bipush (v := 86) dX3_save_8 (by decide) ?_
  refine a_icmp_ge 31 dX3_save_10 rfl (fun c3 => ?_) (fun c3 => ?_)
  · have hT := oifp c3 hT
    refine a_mask [true, false] ?_
    obtain ⟨e8, hT8, rfl⟩ := omap hT
    exact k_X3_save_l31 ht hT8 he
  · have hT := oifn c3 hT
    refine a_aload_n dX3_save_13 rfl ?_
    refine a_gA fl_X3_16_2 (tw_gA ht 2 (by decide)) dX3_save_14 ?_
    refine a_iload_n dX3_save_17 rfl ?_
    refine a_aload_n dX3_save_18 rfl ?_
    refine a_gA fl_X3_9_2 (tw_gA ht 0 (by decide)) dX3_save_19 ?_
    refine a_iload_n dX3_save_22 rfl ?_
    obtain ⟨z9, e8, hT⟩ := obnd hT
    refine a_ldI (tw_ld ht 0 (by decide) e8) dX3_save_23 ?_
    obtain ⟨s11, e10, hT⟩ := obnd hT
    refine a_stI (tw_st ht 2 (by decide) e10) dX3_save_24 ?_
    refine a_iinc (v := (v1 + 1)) (lv' := [some (.ref (T 100)), some (.int (v1 + 1))]) dX3_save_25 rfl (by rfl) rfl (by decide) rfl ?_
    refine a_goto 7 dX3_save_28 rfl ?_
    cases hT
    exact he
theorem k_X3_save_b7 {G : aG} {h0 B : aH} {T : Nat → Nat} {K : aRes → aH → Prop} (ht : tOk (gZ G) T) {n9 : Nat} {x9 : (Int32 × tS)} {e : (Int32 × tS)} (hT : wlo t_X3_save_b7 n9 x9 = some e) (he : (fun e => aTo (aEI e.1 (tput (gZ G) B T e.2)) K) e) : p_X3_save_b7 G h0 K B T x9 := wlo_W (kb_X3_save_b7 ht) n9 x9 e hT he
def t_X3_save (s : tS)  : Option (Int32 × tS) :=
  (tpf 12 s 0).bind fun s2 =>
  wlo t_X3_save_b7 300 (0, s2)
theorem k_X3_save {G : aG} {B : aH} {T : Nat → Nat} (ht : tOk (gZ G) T) {s : tS}  {e : (Int32 × tS)} (hT : t_X3_save s  = some e) : aMet G yX3_save (ws_ yX3_save cX3_save 2 (Option.some Jvm.ClassFile.FieldType.int)) 1 1 [.ref (T 100)] (tput (gZ G) B T s) (aEI e.1 (tput (gZ G) B T e.2)) := by
  refine aMet.of (lv := [some (.ref (T 100)), none]) (by decide) (Nat.le_of_ble_eq_true rfl) 1 rfl ?_
  have he : aTo (aEI e.1 (tput (gZ G) B T e.2)) (aEI e.1 (tput (gZ G) B T e.2)) := aTo.rf
  unfold t_X3_save at hT
  refine a_aload_n dX3_save_0 rfl ?_
  refine a_iconst (v := 0) dX3_save_1 (by decide) ?_
  obtain ⟨s2, e1, hT⟩ := obnd hT
  refine a_put (fp_X3_38_2 _) ⟨rfl, rfl⟩ (tw_pf ht 12 (by decide) e1) dX3_save_2 ?_
  refine a_iconst (v := 0) dX3_save_5 (by decide) ?_
  refine a_istore_n (lv' := [some (.ref (T 100)), some (.int 0)]) dX3_save_6 rfl (by decide) rfl ?_
  exact k_X3_save_b7 ht hT he
theorem fl_X3_265_2 : aFL "MazeBondsModel" 265 2 3 := ⟨RX3, TX3, 21, "MazeBondsModel", rfl, in_X3, by decide, Or.inl rfl, Or.inl q1706⟩
abbrev M_X3_restore : aM := (yX3_restore.cls, cX3_restore, 2, (Option.some Jvm.ClassFile.FieldType.int), [], yX3_restore.name)
def p_X3_restore_b20 (G : aG) (h0 : aH) (K : aRes → aH → Prop) (B : aH) (T : Nat → Nat) (x9 : (Int32 × tS)) : Prop := aW G M_X3_restore 2 22 h0 K (tput (gZ G) B T x9.2) 20 [some (.ref (T 100)), some (.int x9.1)] []
def t_X3_restore_l44 (s : tS)  : Option (Int32 × tS) :=
  (tpf 5 s 0).bind fun s6 =>
  (tld 0 s6 1).bind fun z8 =>
  some (z8, s6)
theorem k_X3_restore_l44 {G : aG} {h0 B : aH} {T : Nat → Nat} {K : aRes → aH → Prop} (ht : tOk (gZ G) T) {s : tS}  {e : (Int32 × tS)} (hT : t_X3_restore_l44 s  = some e) (he : (fun e => aTo (aEI e.1 (tput (gZ G) B T e.2)) K) e) : aW G M_X3_restore 2 22 h0 K (tput (gZ G) B T s) 44 [some (.ref (T 100)), none] [] := by
  unfold t_X3_restore_l44 at hT
  refine a_aload_n dX3_restore_44 rfl ?_
  refine a_iconst (v := 0) dX3_restore_45 (by decide) ?_
  obtain ⟨s6, e5, hT⟩ := obnd hT
  refine a_put (fp_X3_54_2 _) ⟨rfl, rfl⟩ (tw_pf ht 5 (by decide) e5) dX3_restore_46 ?_
  refine a_aload_n dX3_restore_49 rfl ?_
  refine a_gA fl_X3_9_2 (tw_gA ht 0 (by decide)) dX3_restore_50 ?_
  refine a_iconst (v := 1) dX3_restore_53 (by decide) ?_
  obtain ⟨z8, e7, hT⟩ := obnd hT
  refine a_ldI (tw_ld ht 0 (by decide) e7) dX3_restore_54 ?_
  cases hT
  exact a_iret rfl rfl dX3_restore_55 (he _ _ ⟨rfl, rfl⟩)
def t_X3_restore_b20 : (Int32 × tS) → Option ((Int32 × tS) ⊕ (Int32 × tS)) := fun (v1, s) =>
  if 86 ≤ v1 then
    (t_X3_restore_l44 s).map .inr
  else
    (tld 2 s v1).bind fun z10 =>
    (tst 0 s v1 z10).bind fun s12 =>
    some (.inl ((v1 + 1), s12))
theorem kb_X3_restore_b20 {G : aG} {h0 B : aH} {T : Nat → Nat} {K : aRes → aH → Prop} (ht : tOk (gZ G) T) : ∀ (x9 : (Int32 × tS)) (e : ((Int32 × tS) ⊕ (Int32 × tS))), t_X3_restore_b20 x9 = some e → (Sum.elim (p_X3_restore_b20 G h0 K B T) (fun e => aTo (aEI e.1 (tput (gZ G) B T e.2)) K)) e → p_X3_restore_b20 G h0 K B T x9 := by
  intro x9 e hT he
  obtain ⟨v1, s⟩ := x9
  unfold p_X3_restore_b20
  unfold t_X3_restore_b20 at hT
  show aW G M_X3_restore 2 22 h0 K (tput (gZ G) B T s) 20 [some (.ref (T 100)), some (.int v1)] []
  dsimp only at hT
  refine a_iload_n dX3_restore_20 rfl ?_
  refine a_bipush (v := 86) dX3_restore_21 (by decide) ?_
  refine a_icmp_ge 44 dX3_restore_23 rfl (fun c4 => ?_) (fun c4 => ?_)
  · have hT := oifp c4 hT
    refine a_mask [true, false] ?_
    obtain ⟨e8, hT8, rfl⟩ := omap hT
    exact k_X3_restore_l44 ht hT8 he
  · have hT := oifn c4 hT
    refine a_aload_n dX3_restore_26 rfl ?_
    refine a_gA fl_X3_9_2 (tw_gA ht 0 (by decide)) dX3_restore_27 ?_
    refine a_iload_n dX3_restore_30 rfl ?_
    refine a_aload_n dX3_restore_31 rfl ?_
    refine a_gA fl_X3_16_2 (tw_gA ht 2 (by decide)) dX3_restore_32 ?_
    refine a_iload_n dX3_restore_35 rfl ?_
    obtain ⟨z10, e9, hT⟩ := obnd hT
    refine a_ldI (tw_ld ht 2 (by decide) e9) dX3_restore_36 ?_
    obtain ⟨s12, e11, hT⟩ := obnd hT
    refine a_stI (tw_st ht 0 (by decide) e11) dX3_restore_37 ?_
    refine a_iinc (v := (v1 + 1)) (lv' := [some (.ref (T 100)), some (.int (v1 + 1))]) dX3_restore_38 rfl (by rfl) rfl (by decide) rfl ?_
    refine a_goto 20 dX3_restore_41 rfl ?_
    cases hT
    exact he
theorem k_X3_restore_b20 {G : aG} {h0 B : aH} {T : Nat → Nat} {K : aRes → aH → Prop} (ht : tOk (gZ G) T) {n9 : Nat} {x9 : (Int32 × tS)} {e : (Int32 × tS)} (hT : wlo t_X3_restore_b20 n9 x9 = some e) (he : (fun e => aTo (aEI e.1 (tput (gZ G) B T e.2)) K) e) : p_X3_restore_b20 G h0 K B T x9 := wlo_W (kb_X3_restore_b20 ht) n9 x9 e hT he
def t_X3_restore (s : tS)  : Option (Int32 × tS) :=
  (tpf 12 s 0).bind fun s2 =>
  if (s2.1 3) = 0 then
    (t_X3_throwing s2 1).bind fun r15 =>
    some (r15.1, r15.2)
  else
    wlo t_X3_restore_b20 300 (0, s2)
theorem k_X3_restore {G : aG} {B : aH} {T : Nat → Nat} (ht : tOk (gZ G) T) {s : tS}  {e : (Int32 × tS)} (hT : t_X3_restore s  = some e) : aMet G yX3_restore (ws_ yX3_restore cX3_restore 2 (Option.some Jvm.ClassFile.FieldType.int)) 2 22 [.ref (T 100)] (tput (gZ G) B T s) (aEI e.1 (tput (gZ G) B T e.2)) := by
  refine aMet.of (lv := [some (.ref (T 100)), none]) (by decide) (Nat.le_of_ble_eq_true rfl) 1 rfl ?_
  have he : aTo (aEI e.1 (tput (gZ G) B T e.2)) (aEI e.1 (tput (gZ G) B T e.2)) := aTo.rf
  unfold t_X3_restore at hT
  refine a_aload_n dX3_restore_0 rfl ?_
  refine a_iconst (v := 0) dX3_restore_1 (by decide) ?_
  obtain ⟨s2, e1, hT⟩ := obnd hT
  refine a_put (fp_X3_38_2 _) ⟨rfl, rfl⟩ (tw_pf ht 12 (by decide) e1) dX3_restore_2 ?_
  refine a_aload_n dX3_restore_5 rfl ?_
  refine a_gI fl_X3_265_2 (tw_gI ht 3 (by decide)) dX3_restore_6 ?_
  refine a_if_ne 18 dX3_restore_9 rfl (fun c3 => ?_) (fun c3 => ?_)
  · have hT := oifn c3 hT
    refine a_iconst (v := 0) dX3_restore_18 (by decide) ?_
    refine a_istore_n (lv' := [some (.ref (T 100)), some (.int 0)]) dX3_restore_19 rfl (by decide) rfl ?_
    exact k_X3_restore_b20 ht hT he
  · have hT := oifp c3 hT
    refine a_aload_n dX3_restore_12 rfl ?_
    refine a_iconst (v := 1) dX3_restore_13 (by decide) ?_
    obtain ⟨r15, e16, hT⟩ := obnd hT
    refine a_callV kv_X3_50 (tw_is ht) (k_X3_throwing ht e16) ⟨Nat.le_of_ble_eq_true rfl, Nat.le_of_ble_eq_true rfl⟩ (As := [.int 1]) (rest := []) rfl rfl (Nat.le_of_ble_eq_true rfl) dX3_restore_14 (kI ?_) xI
    cases hT
    exact a_iret rfl rfl dX3_restore_17 (he _ _ ⟨rfl, rfl⟩)
theorem fp_X3_41_2 (nm9 : String) : aFP "MazeBondsModel" 41 2 6 .int nm9 := ⟨RX3, TX3, 21, "MazeBondsModel", tyX3, rfl, in_X3, by decide, Or.inl rfl, Or.inl q1709, tyX3_ok, nmX3, rfl, Or.inl rfl⟩
theorem fp_X3_44_2 (nm9 : String) : aFP "MazeBondsModel" 44 2 7 .int nm9 := ⟨RX3, TX3, 21, "MazeBondsModel", tyX3, rfl, in_X3, by decide, Or.inl rfl, Or.inl q1710, tyX3_ok, nmX3, rfl, Or.inl rfl⟩
theorem fp_X3_47_2 (nm9 : String) : aFP "MazeBondsModel" 47 2 8 .int nm9 := ⟨RX3, TX3, 21, "MazeBondsModel", tyX3, rfl, in_X3, by decide, Or.inl rfl, Or.inl q1711, tyX3_ok, nmX3, rfl, Or.inl rfl⟩
abbrev M_X3_refuse : aM := (yX3_refuse.cls, cX3_refuse, 3, (Option.some Jvm.ClassFile.FieldType.int), [], yX3_refuse.name)
def t_X3_refuse (s : tS) (x0 : Int32) (x1 : Int32) : Option (Int32 × tS) :=
  (tpf 6 s x0).bind fun s2 =>
  (tpf 7 s2 x1).bind fun s4 =>
  (tpf 8 s4 0).bind fun s6 =>
  (t_X3_throwing s6 1).bind fun r9 =>
  some (r9.1, r9.2)
theorem k_X3_refuse {G : aG} {B : aH} {T : Nat → Nat} (ht : tOk (gZ G) T) {s : tS} {x0 : Int32} {x1 : Int32} {e : (Int32 × tS)} (hT : t_X3_refuse s x0 x1 = some e) : aMet G yX3_refuse (ws_ yX3_refuse cX3_refuse 3 (Option.some Jvm.ClassFile.FieldType.int)) 2 22 [.ref (T 100), .int x0, .int x1] (tput (gZ G) B T s) (aEI e.1 (tput (gZ G) B T e.2)) := by
  refine aMet.of (lv := [some (.ref (T 100)), some (.int x0), some (.int x1)]) (by decide) (Nat.le_of_ble_eq_true rfl) 0 rfl ?_
  have he : aTo (aEI e.1 (tput (gZ G) B T e.2)) (aEI e.1 (tput (gZ G) B T e.2)) := aTo.rf
  unfold t_X3_refuse at hT
  refine a_aload_n dX3_refuse_0 rfl ?_
  refine a_iload_n dX3_refuse_1 rfl ?_
  obtain ⟨s2, e1, hT⟩ := obnd hT
  refine a_put (fp_X3_41_2 _) ⟨rfl, rfl⟩ (tw_pf ht 6 (by decide) e1) dX3_refuse_2 ?_
  refine a_aload_n dX3_refuse_5 rfl ?_
  refine a_iload_n dX3_refuse_6 rfl ?_
  obtain ⟨s4, e3, hT⟩ := obnd hT
  refine a_put (fp_X3_44_2 _) ⟨rfl, rfl⟩ (tw_pf ht 7 (by decide) e3) dX3_refuse_7 ?_
  refine a_aload_n dX3_refuse_10 rfl ?_
  refine a_iconst (v := 0) dX3_refuse_11 (by decide) ?_
  obtain ⟨s6, e5, hT⟩ := obnd hT
  refine a_put (fp_X3_47_2 _) ⟨rfl, rfl⟩ (tw_pf ht 8 (by decide) e5) dX3_refuse_12 ?_
  refine a_aload_n dX3_refuse_15 rfl ?_
  refine a_iconst (v := 1) dX3_refuse_16 (by decide) ?_
  obtain ⟨r9, e10, hT⟩ := obnd hT
  refine a_callV kv_X3_50 (tw_is ht) (k_X3_throwing ht e10) ⟨Nat.le_of_ble_eq_true rfl, Nat.le_of_ble_eq_true rfl⟩ (As := [.int 1]) (rest := []) rfl rfl (Nat.le_of_ble_eq_true rfl) dX3_refuse_17 (kI ?_) xI
  cases hT
  exact a_iret rfl rfl dX3_refuse_20 (he _ _ ⟨rfl, rfl⟩)
theorem kv_X3_91 : aKV "MazeBondsModel" 91 2 yX3_refuse cX3_refuse 3 (Option.some Jvm.ClassFile.FieldType.int) 2 := ⟨⟨TX3, 21, rfl⟩, Or.inl q1787, q1789, qs31, q81, q1790, ⟨by decide +kernel, by decide +kernel, by decide +kernel⟩⟩
abbrev M_X3_areNeighbours : aM := (yX3_areNeighbours.cls, cX3_areNeighbours, 3, (Option.some Jvm.ClassFile.FieldType.boolean), [], yX3_areNeighbours.name)
def t_X3_areNeighbours_l14 (s : tS)  : Option (Int32 × tS) :=
  (t_X3_refuse s 1 0).bind fun r8 =>
  some (0, r8.2)
theorem k_X3_areNeighbours_l14 {G : aG} {h0 B : aH} {T : Nat → Nat} {K : aRes → aH → Prop} (ht : tOk (gZ G) T) {s : tS}  {e : (Int32 × tS)} (hT : t_X3_areNeighbours_l14 s  = some e) (he : (fun e => aTo (aEI e.1 (tput (gZ G) B T e.2)) K) e) : aW G M_X3_areNeighbours 3 63 h0 K (tput (gZ G) B T s) 14 [some (.ref (T 100)), none, none] [] := by
  unfold t_X3_areNeighbours_l14 at hT
  refine a_aload_n dX3_areNeighbours_14 rfl ?_
  refine a_iconst (v := 1) dX3_areNeighbours_15 (by decide) ?_
  refine a_iconst (v := 0) dX3_areNeighbours_16 (by decide) ?_
  obtain ⟨r8, e9, hT⟩ := obnd hT
  refine a_callV kv_X3_91 (tw_is ht) (k_X3_refuse ht e9) ⟨Nat.le_of_ble_eq_true rfl, Nat.le_of_ble_eq_true rfl⟩ (As := [.int 1, .int 0]) (rest := []) rfl rfl (Nat.le_of_ble_eq_true rfl) dX3_areNeighbours_17 (kI ?_) xI
  refine a_pop dX3_areNeighbours_20 rfl ?_
  refine a_iconst (v := 0) dX3_areNeighbours_21 (by decide) ?_
  cases hT
  exact a_iret rfl (by decide) dX3_areNeighbours_22 (he _ _ ⟨rfl, rfl⟩)
def t_X3_areNeighbours (s : tS) (x0 : Int32) (x1 : Int32) : Option (Int32 × tS) :=
  (t_X3_isCell x0).bind fun r3 =>
  if r3 = 0 then
    t_X3_areNeighbours_l14 s
  else
    (t_X3_isCell x1).bind fun r12 =>
    if r12 = 0 then
      t_X3_areNeighbours_l14 s
    else
      (t_X3_hedgeAt x0 x1).bind fun r17 =>
      if r17 = (-1) then
        (t_X3_refuse s 2 (jmax x0 x1)).bind fun r22 =>
        some (0, r22.2)
      else
        some (1, s)
theorem k_X3_areNeighbours {G : aG} {B : aH} {T : Nat → Nat} (ht : tOk (gZ G) T) {s : tS} {x0 : Int32} {x1 : Int32} {e : (Int32 × tS)} (hT : t_X3_areNeighbours s x0 x1 = some e) : aMet G yX3_areNeighbours (ws_ yX3_areNeighbours cX3_areNeighbours 3 (Option.some Jvm.ClassFile.FieldType.boolean)) 3 63 [.ref (T 100), .int x0, .int x1] (tput (gZ G) B T s) (aEI e.1 (tput (gZ G) B T e.2)) := by
  refine aMet.of (lv := [some (.ref (T 100)), some (.int x0), some (.int x1)]) (by decide) (Nat.le_of_ble_eq_true rfl) 0 rfl ?_
  have he : aTo (aEI e.1 (tput (gZ G) B T e.2)) (aEI e.1 (tput (gZ G) B T e.2)) := aTo.rf
  unfold t_X3_areNeighbours at hT
  refine a_iload_n dX3_areNeighbours_0 rfl ?_
  obtain ⟨r3, e4, hT⟩ := obnd hT
  refine a_callS ks_X3_88 (k_X3_isCell e4) ⟨Nat.le_of_ble_eq_true rfl, Nat.le_of_ble_eq_true rfl⟩ (As := [.int x0]) (rest := []) rfl rfl (Nat.le_of_ble_eq_true rfl) dX3_areNeighbours_1 (kI ?_) xI
  refine a_if_eq 14 dX3_areNeighbours_4 rfl (fun c5 => ?_) (fun c5 => ?_)
  · have hT := oifp c5 hT
    refine a_mask [true, false, false] ?_
    exact k_X3_areNeighbours_l14 ht hT he
  · have hT := oifn c5 hT
    refine a_iload_n dX3_areNeighbours_7 rfl ?_
    obtain ⟨r12, e13, hT⟩ := obnd hT
    refine a_callS ks_X3_88 (k_X3_isCell e13) ⟨Nat.le_of_ble_eq_true rfl, Nat.le_of_ble_eq_true rfl⟩ (As := [.int x1]) (rest := []) rfl rfl (Nat.le_of_ble_eq_true rfl) dX3_areNeighbours_8 (kI ?_) xI
    refine a_if_ne 23 dX3_areNeighbours_11 rfl (fun c14 => ?_) (fun c14 => ?_)
    · have hT := oifn c14 hT
      refine a_iload_n dX3_areNeighbours_23 rfl ?_
      refine a_iload_n dX3_areNeighbours_24 rfl ?_
      obtain ⟨r17, e18, hT⟩ := obnd hT
      refine a_callS ks_X3_77 (k_X3_hedgeAt e18) ⟨Nat.le_of_ble_eq_true rfl, Nat.le_of_ble_eq_true rfl⟩ (As := [.int x0, .int x1]) (rest := []) rfl rfl (Nat.le_of_ble_eq_true rfl) dX3_areNeighbours_25 (kI ?_) xI
      refine a_iconst (v := (-1)) dX3_areNeighbours_28 (by decide) ?_
      refine a_icmp_ne 45 dX3_areNeighbours_29 rfl (fun c19 => ?_) (fun c19 => ?_)
      · have hT := oifn c19 hT
        refine a_iconst (v := 1) dX3_areNeighbours_45 (by decide) ?_
        cases hT
        exact a_iret rfl (by decide) dX3_areNeighbours_46 (he _ _ ⟨rfl, rfl⟩)
      · have hT := oifp c19 hT
        refine a_aload_n dX3_areNeighbours_32 rfl ?_
        refine a_iconst (v := 2) dX3_areNeighbours_33 (by decide) ?_
        refine a_iload_n dX3_areNeighbours_34 rfl ?_
        refine a_iload_n dX3_areNeighbours_35 rfl ?_
        refine a_mmax q1807 q441 q90 q442 (by decide) (Nat.le_of_ble_eq_true rfl) dX3_areNeighbours_36 ?_
        obtain ⟨r22, e23, hT⟩ := obnd hT
        refine a_callV kv_X3_91 (tw_is ht) (k_X3_refuse ht e23) ⟨Nat.le_of_ble_eq_true rfl, Nat.le_of_ble_eq_true rfl⟩ (As := [.int 2, .int (jmax x0 x1)]) (rest := []) rfl rfl (Nat.le_of_ble_eq_true rfl) dX3_areNeighbours_39 (kI ?_) xI
        refine a_pop dX3_areNeighbours_42 rfl ?_
        refine a_iconst (v := 0) dX3_areNeighbours_43 (by decide) ?_
        cases hT
        exact a_iret rfl (by decide) dX3_areNeighbours_44 (he _ _ ⟨rfl, rfl⟩)
    · have hT := oifp c14 hT
      refine a_mask [true, false, false] ?_
      exact k_X3_areNeighbours_l14 ht hT he
abbrev M_X3_gaps : aM := (yX3_gaps.cls, cX3_gaps, 3, (Option.some Jvm.ClassFile.FieldType.int), [], yX3_gaps.name)
def p_X3_gaps_b4 (G : aG) (h0 : aH) (K : aRes → aH → Prop) (B : aH) (T : Nat → Nat) (x9 : (Int32 × Int32 × tS)) : Prop := aW G M_X3_gaps 2 22 h0 K (tput (gZ G) B T x9.2.2) 4 [some (.ref (T 100)), some (.int x9.1), some (.int x9.2.1)] []
def t_X3_gaps_l27 (s : tS) (v2 : Int32) (u0 : Int32) (u1 : Int32) : Option ((Int32 × Int32 × tS) ⊕ (Int32 × tS)) :=
  some (.inl ((u1 + u0), (v2 + 1), s))
theorem k_X3_gaps_l27 {G : aG} {h0 B : aH} {T : Nat → Nat} {K : aRes → aH → Prop} (ht : tOk (gZ G) T) {s : tS} {v2 : Int32} {u0 : Int32} {u1 : Int32} {e : ((Int32 × Int32 × tS) ⊕ (Int32 × tS))} (hT : t_X3_gaps_l27 s v2 u0 u1 = some e) (he : (Sum.elim (p_X3_gaps_b4 G h0 K B T) (fun e => aTo (aEI e.1 (tput (gZ G) B T e.2)) K)) e) : aW G M_X3_gaps 2 22 h0 K (tput (gZ G) B T s) 27 [some (.ref (T 100)), none, some (.int v2)] [.int u0, .int u1] := by
  unfold t_X3_gaps_l27 at hT
  refine a_iadd dX3_gaps_27 ?_
  refine a_istore_n (lv' := [some (.ref (T 100)), some (.int (u1 + u0)), some (.int v2)]) dX3_gaps_28 rfl (by decide) rfl ?_
  refine a_iinc (v := (v2 + 1)) (lv' := [some (.ref (T 100)), some (.int (u1 + u0)), some (.int (v2 + 1))]) dX3_gaps_29 rfl (by rfl) rfl (by decide) rfl ?_
  refine a_goto 4 dX3_gaps_32 rfl ?_
  cases hT
  exact he
def t_X3_gaps_b4 : (Int32 × Int32 × tS) → Option ((Int32 × Int32 × tS) ⊕ (Int32 × tS)) := fun (v1, v2, s) =>
  if 24 ≤ v2 then
    some (.inr ((v1, s)))
  else
    (t_X3_isGapAt s (6 + v2)).bind fun r4 =>
    if r4.1 = 0 then
      t_X3_gaps_l27 r4.2 v2 0 v1
    else
      t_X3_gaps_l27 r4.2 v2 1 v1
theorem kb_X3_gaps_b4 {G : aG} {h0 B : aH} {T : Nat → Nat} {K : aRes → aH → Prop} (ht : tOk (gZ G) T) : ∀ (x9 : (Int32 × Int32 × tS)) (e : ((Int32 × Int32 × tS) ⊕ (Int32 × tS))), t_X3_gaps_b4 x9 = some e → (Sum.elim (p_X3_gaps_b4 G h0 K B T) (fun e => aTo (aEI e.1 (tput (gZ G) B T e.2)) K)) e → p_X3_gaps_b4 G h0 K B T x9 := by
  intro x9 e hT he
  obtain ⟨v1, v2, s⟩ := x9
  unfold p_X3_gaps_b4
  unfold t_X3_gaps_b4 at hT
  show aW G M_X3_gaps 2 22 h0 K (tput (gZ G) B T s) 4 [some (.ref (T 100)), some (.int v1), some (.int v2)] []
  dsimp only at hT
  refine a_iload_n dX3_gaps_4 rfl ?_
  refine a_bipush (v := 24) dX3_gaps_5 (by decide) ?_
  refine a_icmp_ge 35 dX3_gaps_7 rfl (fun c1 => ?_) (fun c1 => ?_)
  · have hT := oifp c1 hT
    refine a_iload_n dX3_gaps_35 rfl ?_
    cases hT
    exact a_iret rfl rfl dX3_gaps_36 (he _ _ ⟨rfl, rfl⟩)
  · have hT := oifn c1 hT
    refine a_iload_n dX3_gaps_10 rfl ?_
    refine a_aload_n dX3_gaps_11 rfl ?_
    refine a_bipush (v := 6) dX3_gaps_12 (by decide) ?_
    refine a_iload_n dX3_gaps_14 rfl ?_
    refine a_iadd dX3_gaps_15 ?_
    obtain ⟨r4, e5, hT⟩ := obnd hT
    refine a_callV kv_X3_80 (tw_is ht) (k_X3_isGapAt ht e5) ⟨Nat.le_of_ble_eq_true rfl, Nat.le_of_ble_eq_true rfl⟩ (As := [.int (6 + v2)]) (rest := [.int v1]) rfl rfl (Nat.le_of_ble_eq_true rfl) dX3_gaps_16 (kI ?_) xI
    refine a_if_eq 26 dX3_gaps_19 rfl (fun c6 => ?_) (fun c6 => ?_)
    · have hT := oifp c6 hT
      refine a_iconst (v := 0) dX3_gaps_26 (by decide) ?_
      refine a_mask [true, false, true] ?_
      exact k_X3_gaps_l27 ht hT he
    · have hT := oifn c6 hT
      refine a_iconst (v := 1) dX3_gaps_22 (by decide) ?_
      refine a_goto 27 dX3_gaps_23 rfl ?_
      refine a_mask [true, false, true] ?_
      exact k_X3_gaps_l27 ht hT he
theorem k_X3_gaps_b4 {G : aG} {h0 B : aH} {T : Nat → Nat} {K : aRes → aH → Prop} (ht : tOk (gZ G) T) {n9 : Nat} {x9 : (Int32 × Int32 × tS)} {e : (Int32 × tS)} (hT : wlo t_X3_gaps_b4 n9 x9 = some e) (he : (fun e => aTo (aEI e.1 (tput (gZ G) B T e.2)) K) e) : p_X3_gaps_b4 G h0 K B T x9 := wlo_W (kb_X3_gaps_b4 ht) n9 x9 e hT he
def t_X3_gaps (s : tS)  : Option (Int32 × tS) :=
  wlo t_X3_gaps_b4 300 (0, 0, s)
theorem k_X3_gaps {G : aG} {B : aH} {T : Nat → Nat} (ht : tOk (gZ G) T) {s : tS}  {e : (Int32 × tS)} (hT : t_X3_gaps s  = some e) : aMet G yX3_gaps (ws_ yX3_gaps cX3_gaps 3 (Option.some Jvm.ClassFile.FieldType.int)) 2 22 [.ref (T 100)] (tput (gZ G) B T s) (aEI e.1 (tput (gZ G) B T e.2)) := by
  refine aMet.of (lv := [some (.ref (T 100)), none, none]) (by decide) (Nat.le_of_ble_eq_true rfl) 2 rfl ?_
  have he : aTo (aEI e.1 (tput (gZ G) B T e.2)) (aEI e.1 (tput (gZ G) B T e.2)) := aTo.rf
  unfold t_X3_gaps at hT
  refine a_iconst (v := 0) dX3_gaps_0 (by decide) ?_
  refine a_istore_n (lv' := [some (.ref (T 100)), some (.int 0), none]) dX3_gaps_1 rfl (by decide) rfl ?_
  refine a_iconst (v := 0) dX3_gaps_2 (by decide) ?_
  refine a_istore_n (lv' := [some (.ref (T 100)), some (.int 0), some (.int 0)]) dX3_gaps_3 rfl (by decide) rfl ?_
  exact k_X3_gaps_b4 ht hT he
theorem kv_X3_117 : aKV "MazeBondsModel" 117 2 yX3_isGardener cX3_isGardener 2 (Option.some Jvm.ClassFile.FieldType.boolean) 1 := ⟨⟨TX3, 21, rfl⟩, Or.inl q1836, q1838, qs39, q81, q1839, ⟨by decide +kernel, by decide +kernel, by decide +kernel⟩⟩
theorem kv_X3_96 : aKV "MazeBondsModel" 96 2 yX3_areNeighbours cX3_areNeighbours 3 (Option.some Jvm.ClassFile.FieldType.boolean) 2 := ⟨⟨TX3, 21, rfl⟩, Or.inl q1795, q1797, qs33, q81, q1798, ⟨by decide +kernel, by decide +kernel, by decide +kernel⟩⟩
