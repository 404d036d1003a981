/-! the twin, decompiled (written by gen/twin.py) -/
set_option maxRecDepth 100000
abbrev M_X3_trimIt : aM := (yX3_trimIt.cls, cX3_trimIt, 6, (Option.some Jvm.ClassFile.FieldType.int), [], yX3_trimIt.name)
def t_X3_trimIt (s : tS) (x0 : Int32) (x1 : Int32) (x2 : Int32) : Option (Int32 × tS) :=
  (t_X3_isGardener s x0).bind fun r3 =>
  if r3.1 = 0 then
    (tld 0 r3.2 0).bind fun z52 =>
    (t_X3_refuse r3.2 4 z52).bind fun r55 =>
    some (r55.1, r55.2)
  else
    (t_X3_areNeighbours r3.2 x1 x2).bind fun r8 =>
    if r8.1 = 0 then
      some ((-1), r8.2)
    else
      (t_X3_hedgeAt x1 x2).bind fun r13 =>
      (t_X3_gardenerAt x0).bind fun r17 =>
      (tld 0 r8.2 r13).bind fun z20 =>
      if z20 = 0 then
        (t_X3_refuse r8.2 3 0).bind fun r49 =>
        some (r49.1, r49.2)
      else
        (tld 0 r8.2 r17).bind fun z23 =>
        if 2 ≤ z23 then
          (tst 0 r8.2 r13 0).bind fun s26 =>
          (tld 0 s26 r17).bind fun z28 =>
          (tst 0 s26 r17 (z28 - 2)).bind fun s30 =>
          (tld 0 s30 (r17 + 3)).bind fun z32 =>
          (tst 0 s30 (r17 + 3) (z32 + 1)).bind fun s34 =>
          (tld 0 s34 5).bind fun z36 =>
          (tst 0 s34 5 (z36 + 2)).bind fun s38 =>
          (tld 0 s38 r17).bind fun z40 =>
          some (z40, s38)
        else
          (tld 0 r8.2 r17).bind fun z42 =>
          (t_X3_refuse r8.2 5 (2 - z42)).bind fun r45 =>
          some (r45.1, r45.2)
theorem k_X3_trimIt {G : aG} {B : aH} {T : Nat → Nat} (ht : tOk (gZ G) T) {s : tS} {x0 : Int32} {x1 : Int32} {x2 : Int32} {e : (Int32 × tS)} (hT : t_X3_trimIt s x0 x1 x2 = some e) : aMet G yX3_trimIt (ws_ yX3_trimIt cX3_trimIt 6 (Option.some Jvm.ClassFile.FieldType.int)) 4 85 [.ref (T 100), .int x0, .int x1, .int x2] (tput (gZ G) B T s) (aEI e.1 (tput (gZ G) B T e.2)) := by
  refine aMet.of (lv := [some (.ref (T 100)), some (.int x0), some (.int x1), some (.int x2), none, none]) (by decide) (Nat.le_of_ble_eq_true rfl) 2 rfl ?_
  have he : aTo (aEI e.1 (tput (gZ G) B T e.2)) (aEI e.1 (tput (gZ G) B T e.2)) := aTo.rf
  unfold t_X3_trimIt at hT
  refine a_aload_n dX3_trimIt_0 rfl ?_
  refine a_iload_n dX3_trimIt_1 rfl ?_
  obtain ⟨r3, e4, hT⟩ := obnd hT
  refine a_callV kv_X3_117 (tw_is ht) (k_X3_isGardener ht e4) ⟨Nat.le_of_ble_eq_true rfl, Nat.le_of_ble_eq_true rfl⟩ (As := [.int x0]) (rest := []) rfl rfl (Nat.le_of_ble_eq_true rfl) dX3_trimIt_2 (kI ?_) xI
  refine a_if_ne 20 dX3_trimIt_5 rfl (fun c5 => ?_) (fun c5 => ?_)
  · have hT := oifn c5 hT
    refine a_aload_n dX3_trimIt_20 rfl ?_
    refine a_iload_n dX3_trimIt_21 rfl ?_
    refine a_iload_n dX3_trimIt_22 rfl ?_
    obtain ⟨r8, e9, hT⟩ := obnd hT
    refine a_callV kv_X3_96 (tw_is ht) (k_X3_areNeighbours ht e9) ⟨Nat.le_of_ble_eq_true rfl, Nat.le_of_ble_eq_true rfl⟩ (As := [.int x1, .int x2]) (rest := []) rfl rfl (Nat.le_of_ble_eq_true rfl) dX3_trimIt_23 (kI ?_) xI
    refine a_if_ne 31 dX3_trimIt_26 rfl (fun c10 => ?_) (fun c10 => ?_)
    · have hT := oifn c10 hT
      refine a_iload_n dX3_trimIt_31 rfl ?_
      refine a_iload_n dX3_trimIt_32 rfl ?_
      obtain ⟨r13, e14, hT⟩ := obnd hT
      refine a_callS ks_X3_77 (k_X3_hedgeAt e14) ⟨Nat.le_of_ble_eq_true rfl, Nat.le_of_ble_eq_true rfl⟩ (As := [.int x1, .int x2]) (rest := []) rfl rfl (Nat.le_of_ble_eq_true rfl) dX3_trimIt_33 (kI ?_) xI
      refine a_istore (lv' := [some (.ref (T 100)), some (.int x0), some (.int x1), some (.int x2), some (.int r13), none]) dX3_trimIt_36 rfl (by decide) rfl ?_
      refine a_iload_n dX3_trimIt_38 rfl ?_
      obtain ⟨r17, e18, hT⟩ := obnd hT
      refine a_callS ks_X3_120 (k_X3_gardenerAt e18) ⟨Nat.le_of_ble_eq_true rfl, Nat.le_of_ble_eq_true rfl⟩ (As := [.int x0]) (rest := []) rfl rfl (Nat.le_of_ble_eq_true rfl) dX3_trimIt_39 (kI ?_) xI
      refine a_istore (lv' := [some (.ref (T 100)), some (.int x0), some (.int x1), some (.int x2), some (.int r13), some (.int r17)]) dX3_trimIt_42 rfl (by decide) rfl ?_
      refine a_aload_n dX3_trimIt_44 rfl ?_
      refine a_gA fl_X3_9_2 (tw_gA ht 0 (by decide)) dX3_trimIt_45 ?_
      refine a_iload dX3_trimIt_48 rfl ?_
      obtain ⟨z20, e19, hT⟩ := obnd hT
      refine a_ldI (tw_ld ht 0 (by decide) e19) dX3_trimIt_50 ?_
      refine a_if_ne 61 dX3_trimIt_51 rfl (fun c21 => ?_) (fun c21 => ?_)
      · have hT := oifn c21 hT
        refine a_aload_n dX3_trimIt_61 rfl ?_
        refine a_gA fl_X3_9_2 (tw_gA ht 0 (by decide)) dX3_trimIt_62 ?_
        refine a_iload dX3_trimIt_65 rfl ?_
        obtain ⟨z23, e22, hT⟩ := obnd hT
        refine a_ldI (tw_ld ht 0 (by decide) e22) dX3_trimIt_67 ?_
        refine a_iconst (v := 2) dX3_trimIt_68 (by decide) ?_
        refine a_icmp_ge 87 dX3_trimIt_69 rfl (fun c24 => ?_) (fun c24 => ?_)
        · have hT := oifp c24 hT
          refine a_aload_n dX3_trimIt_87 rfl ?_
          refine a_gA fl_X3_9_2 (tw_gA ht 0 (by decide)) dX3_trimIt_88 ?_
          refine a_iload dX3_trimIt_91 rfl ?_
          refine a_iconst (v := 0) dX3_trimIt_93 (by decide) ?_
          obtain ⟨s26, e25, hT⟩ := obnd hT
          refine a_stI (tw_st ht 0 (by decide) e25) dX3_trimIt_94 ?_
          refine a_aload_n dX3_trimIt_95 rfl ?_
          refine a_gA fl_X3_9_2 (tw_gA ht 0 (by decide)) dX3_trimIt_96 ?_
          refine a_iload dX3_trimIt_99 rfl ?_
          refine a_dup2_11 dX3_trimIt_101 rfl rfl ?_
          obtain ⟨z28, e27, hT⟩ := obnd hT
          refine a_ldI (tw_ld ht 0 (by decide) e27) dX3_trimIt_102 ?_
          refine a_iconst (v := 2) dX3_trimIt_103 (by decide) ?_
          refine a_isub dX3_trimIt_104 ?_
          obtain ⟨s30, e29, hT⟩ := obnd hT
          refine a_stI (tw_st ht 0 (by decide) e29) dX3_trimIt_105 ?_
          refine a_aload_n dX3_trimIt_106 rfl ?_
          refine a_gA fl_X3_9_2 (tw_gA ht 0 (by decide)) dX3_trimIt_107 ?_
          refine a_iload dX3_trimIt_110 rfl ?_
          refine a_iconst (v := 3) dX3_trimIt_112 (by decide) ?_
          refine a_iadd dX3_trimIt_113 ?_
          refine a_dup2_11 dX3_trimIt_114 rfl rfl ?_
          obtain ⟨z32, e31, hT⟩ := obnd hT
          refine a_ldI (tw_ld ht 0 (by decide) e31) dX3_trimIt_115 ?_
          refine a_iconst (v := 1) dX3_trimIt_116 (by decide) ?_
          refine a_iadd dX3_trimIt_117 ?_
          obtain ⟨s34, e33, hT⟩ := obnd hT
          refine a_stI (tw_st ht 0 (by decide) e33) dX3_trimIt_118 ?_
          refine a_aload_n dX3_trimIt_119 rfl ?_
          refine a_gA fl_X3_9_2 (tw_gA ht 0 (by decide)) dX3_trimIt_120 ?_
          refine a_iconst (v := 5) dX3_trimIt_123 (by decide) ?_
          refine a_dup2_11 dX3_trimIt_124 rfl rfl ?_
          obtain ⟨z36, e35, hT⟩ := obnd hT
          refine a_ldI (tw_ld ht 0 (by decide) e35) dX3_trimIt_125 ?_
          refine a_iconst (v := 2) dX3_trimIt_126 (by decide) ?_
          refine a_iadd dX3_trimIt_127 ?_
          obtain ⟨s38, e37, hT⟩ := obnd hT
          refine a_stI (tw_st ht 0 (by decide) e37) dX3_trimIt_128 ?_
          refine a_aload_n dX3_trimIt_129 rfl ?_
          refine a_gA fl_X3_9_2 (tw_gA ht 0 (by decide)) dX3_trimIt_130 ?_
          refine a_iload dX3_trimIt_133 rfl ?_
          obtain ⟨z40, e39, hT⟩ := obnd hT
          refine a_ldI (tw_ld ht 0 (by decide) e39) dX3_trimIt_135 ?_
          cases hT
          exact a_iret rfl rfl dX3_trimIt_136 (he _ _ ⟨rfl, rfl⟩)
        · have hT := oifn c24 hT
          refine a_aload_n dX3_trimIt_72 rfl ?_
          refine a_iconst (v := 5) dX3_trimIt_73 (by decide) ?_
          refine a_iconst (v := 2) dX3_trimIt_74 (by decide) ?_
          refine a_aload_n dX3_trimIt_75 rfl ?_
          refine a_gA fl_X3_9_2 (tw_gA ht 0 (by decide)) dX3_trimIt_76 ?_
          refine a_iload dX3_trimIt_79 rfl ?_
          obtain ⟨z42, e41, hT⟩ := obnd hT
          refine a_ldI (tw_ld ht 0 (by decide) e41) dX3_trimIt_81 ?_
          refine a_isub dX3_trimIt_82 ?_
          obtain ⟨r45, e46, hT⟩ := obnd hT
          refine a_callV kv_X3_91 (tw_is ht) (k_X3_refuse ht e46) ⟨Nat.le_of_ble_eq_true rfl, Nat.le_of_ble_eq_true rfl⟩ (As := [.int 5, .int (2 - z42)]) (rest := []) rfl rfl (Nat.le_of_ble_eq_true rfl) dX3_trimIt_83 (kI ?_) xI
          cases hT
          exact a_iret rfl rfl dX3_trimIt_86 (he _ _ ⟨rfl, rfl⟩)
      · have hT := oifp c21 hT
        refine a_aload_n dX3_trimIt_54 rfl ?_
        refine a_iconst (v := 3) dX3_trimIt_55 (by decide) ?_
        refine a_iconst (v := 0) dX3_trimIt_56 (by decide) ?_
        obtain ⟨r49, e50, hT⟩ := obnd hT
        refine a_callV kv_X3_91 (tw_is ht) (k_X3_refuse ht e50) ⟨Nat.le_of_ble_eq_true rfl, Nat.le_of_ble_eq_true rfl⟩ (As := [.int 3, .int 0]) (rest := []) rfl rfl (Nat.le_of_ble_eq_true rfl) dX3_trimIt_57 (kI ?_) xI
        cases hT
        exact a_iret rfl rfl dX3_trimIt_60 (he _ _ ⟨rfl, rfl⟩)
    · have hT := oifp c10 hT
      refine a_iconst (v := (-1)) dX3_trimIt_29 (by decide) ?_
      cases hT
      exact a_iret rfl rfl dX3_trimIt_30 (he _ _ ⟨rfl, rfl⟩)
  · have hT := oifp c5 hT
    refine a_aload_n dX3_trimIt_8 rfl ?_
    refine a_iconst (v := 4) dX3_trimIt_9 (by decide) ?_
    refine a_aload_n dX3_trimIt_10 rfl ?_
    refine a_gA fl_X3_9_2 (tw_gA ht 0 (by decide)) dX3_trimIt_11 ?_
    refine a_iconst (v := 0) dX3_trimIt_14 (by decide) ?_
    obtain ⟨z52, e51, hT⟩ := obnd hT
    refine a_ldI (tw_ld ht 0 (by decide) e51) dX3_trimIt_15 ?_
    obtain ⟨r55, e56, hT⟩ := obnd hT
    refine a_callV kv_X3_91 (tw_is ht) (k_X3_refuse ht e56) ⟨Nat.le_of_ble_eq_true rfl, Nat.le_of_ble_eq_true rfl⟩ (As := [.int 4, .int z52]) (rest := []) rfl rfl (Nat.le_of_ble_eq_true rfl) dX3_trimIt_16 (kI ?_) xI
    cases hT
    exact a_iret rfl rfl dX3_trimIt_19 (he _ _ ⟨rfl, rfl⟩)
abbrev M_X3_meets : aM := (yX3_meets.cls, cX3_meets, 3, (Option.some Jvm.ClassFile.FieldType.boolean), [], yX3_meets.name)
def t_X3_meets (s : tS) (x0 : Int32) : Option (Int32 × tS) :=
  (t_X3_visitorAt x0).bind fun r3 =>
  (tld 0 s (r3 + 7)).bind fun z6 =>
  if z6 = 0 then
    (tld 0 s (r3 + 1)).bind fun z9 =>
    (tld 0 s 2).bind fun z11 =>
    if z9 = z11 then
      some (1, s)
    else
      some (0, s)
  else
    some (0, s)
theorem k_X3_meets {G : aG} {B : aH} {T : Nat → Nat} (ht : tOk (gZ G) T) {s : tS} {x0 : Int32} {e : (Int32 × tS)} (hT : t_X3_meets s x0 = some e) : aMet G yX3_meets (ws_ yX3_meets cX3_meets 3 (Option.some Jvm.ClassFile.FieldType.boolean)) 2 21 [.ref (T 100), .int x0] (tput (gZ G) B T s) (aEI e.1 (tput (gZ G) B T e.2)) := by
  refine aMet.of (lv := [some (.ref (T 100)), some (.int x0), none]) (by decide) (Nat.le_of_ble_eq_true rfl) 1 rfl ?_
  have he : aTo (aEI e.1 (tput (gZ G) B T e.2)) (aEI e.1 (tput (gZ G) B T e.2)) := aTo.rf
  unfold t_X3_meets at hT
  refine a_iload_n dX3_meets_0 rfl ?_
  obtain ⟨r3, e4, hT⟩ := obnd hT
  refine a_callS ks_X3_126 (k_X3_visitorAt e4) ⟨Nat.le_of_ble_eq_true rfl, Nat.le_of_ble_eq_true rfl⟩ (As := [.int x0]) (rest := []) rfl rfl (Nat.le_of_ble_eq_true rfl) dX3_meets_1 (kI ?_) xI
  refine a_istore_n (lv' := [some (.ref (T 100)), some (.int x0), some (.int r3)]) dX3_meets_4 rfl (by decide) rfl ?_
  refine a_aload_n dX3_meets_5 rfl ?_
  refine a_gA fl_X3_9_2 (tw_gA ht 0 (by decide)) dX3_meets_6 ?_
  refine a_iload_n dX3_meets_9 rfl ?_
  refine a_bipush (v := 7) dX3_meets_10 (by decide) ?_
  refine a_iadd dX3_meets_12 ?_
  obtain ⟨z6, e5, hT⟩ := obnd hT
  refine a_ldI (tw_ld ht 0 (by decide) e5) dX3_meets_13 ?_
  refine a_if_ne 38 dX3_meets_14 rfl (fun c7 => ?_) (fun c7 => ?_)
  · have hT := oifn c7 hT
    refine a_iconst (v := 0) dX3_meets_38 (by decide) ?_
    cases hT
    exact a_iret rfl (by decide) dX3_meets_39 (he _ _ ⟨rfl, rfl⟩)
  · have hT := oifp c7 hT
    refine a_aload_n dX3_meets_17 rfl ?_
    refine a_gA fl_X3_9_2 (tw_gA ht 0 (by decide)) dX3_meets_18 ?_
    refine a_iload_n dX3_meets_21 rfl ?_
    refine a_iconst (v := 1) dX3_meets_22 (by decide) ?_
    refine a_iadd dX3_meets_23 ?_
    obtain ⟨z9, e8, hT⟩ := obnd hT
    refine a_ldI (tw_ld ht 0 (by decide) e8) dX3_meets_24 ?_
    refine a_aload_n dX3_meets_25 rfl ?_
    refine a_gA fl_X3_9_2 (tw_gA ht 0 (by decide)) dX3_meets_26 ?_
    refine a_iconst (v := 2) dX3_meets_29 (by decide) ?_
    obtain ⟨z11, e10, hT⟩ := obnd hT
    refine a_ldI (tw_ld ht 0 (by decide) e10) dX3_meets_30 ?_
    refine a_icmp_ne 38 dX3_meets_31 rfl (fun c12 => ?_) (fun c12 => ?_)
    · have hT := oifn c12 hT
      refine a_iconst (v := 0) dX3_meets_38 (by decide) ?_
      cases hT
      exact a_iret rfl (by decide) dX3_meets_39 (he _ _ ⟨rfl, rfl⟩)
    · have hT := oifp c12 hT
      refine a_iconst (v := 1) dX3_meets_34 (by decide) ?_
      refine a_goto 39 dX3_meets_35 rfl ?_
      cases hT
      exact a_iret rfl (by decide) dX3_meets_39 (he _ _ ⟨rfl, rfl⟩)
abbrev M_X3_gardenerIt : aM := (yX3_gardenerIt.cls, cX3_gardenerIt, 2, (Option.some Jvm.ClassFile.FieldType.int), [], yX3_gardenerIt.name)
def t_X3_gardenerIt (s : tS) (x0 : Int32) : Option (Int32 × tS) :=
  (t_X3_in ((x0 : Int32).toInt64) 0 99).bind fun r3 =>
  if r3 = 0 then
    (t_X3_refuse s 1 0).bind fun r33 =>
    some (r33.1, r33.2)
  else
    (tld 0 s 0).bind fun z7 =>
    if z7 = 4 then
      (t_X3_refuse s 13 4).bind fun r29 =>
      some (r29.1, r29.2)
    else
      (tld 0 s 0).bind fun z10 =>
      (t_X3_gardenerAt z10).bind fun r13 =>
      (tst 0 s r13 x0).bind fun s16 =>
      (tld 0 s16 4).bind fun z18 =>
      (tst 0 s16 4 (z18 + x0)).bind fun s20 =>
      (tld 0 s20 0).bind fun z22 =>
      (tst 0 s20 0 (z22 + 1)).bind fun s24 =>
      (tld 0 s24 0).bind fun z26 =>
      some ((z26 - 1), s24)
theorem k_X3_gardenerIt {G : aG} {B : aH} {T : Nat → Nat} (ht : tOk (gZ G) T) {s : tS} {x0 : Int32} {e : (Int32 × tS)} (hT : t_X3_gardenerIt s x0 = some e) : aMet G yX3_gardenerIt (ws_ yX3_gardenerIt cX3_gardenerIt 2 (Option.some Jvm.ClassFile.FieldType.int)) 3 44 [.ref (T 100), .int x0] (tput (gZ G) B T s) (aEI e.1 (tput (gZ G) B T e.2)) := by
  refine aMet.of (lv := [some (.ref (T 100)), some (.int x0)]) (by decide) (Nat.le_of_ble_eq_true rfl) 0 rfl ?_
  have he : aTo (aEI e.1 (tput (gZ G) B T e.2)) (aEI e.1 (tput (gZ G) B T e.2)) := aTo.rf
  unfold t_X3_gardenerIt at hT
  refine a_iload_n dX3_gardenerIt_0 rfl ?_
  refine a_i2l dX3_gardenerIt_1 ?_
  refine a_lconst (v := 0) dX3_gardenerIt_2 (by decide) ?_
  refine a_ldc2 q1867 dX3_gardenerIt_3 ?_
  obtain ⟨r3, e4, hT⟩ := obnd hT
  refine a_callS ks_X3_59 (k_X3_in e4) ⟨Nat.le_of_ble_eq_true rfl, Nat.le_of_ble_eq_true rfl⟩ (As := [.long ((x0 : Int32).toInt64), .long 0, .long 99]) (rest := []) rfl rfl (Nat.le_of_ble_eq_true rfl) dX3_gardenerIt_6 (kI ?_) xI
  refine a_if_ne 19 dX3_gardenerIt_9 rfl (fun c5 => ?_) (fun c5 => ?_)
  · have hT := oifn c5 hT
    refine a_aload_n dX3_gardenerIt_19 rfl ?_
    refine a_gA fl_X3_9_2 (tw_gA ht 0 (by decide)) dX3_gardenerIt_20 ?_
    refine a_iconst (v := 0) dX3_gardenerIt_23 (by decide) ?_
    obtain ⟨z7, e6, hT⟩ := obnd hT
    refine a_ldI (tw_ld ht 0 (by decide) e6) dX3_gardenerIt_24 ?_
    refine a_iconst (v := 4) dX3_gardenerIt_25 (by decide) ?_
    refine a_icmp_ne 37 dX3_gardenerIt_26 rfl (fun c8 => ?_) (fun c8 => ?_)
    · have hT := oifn c8 hT
      refine a_aload_n dX3_gardenerIt_37 rfl ?_
      refine a_gA fl_X3_9_2 (tw_gA ht 0 (by decide)) dX3_gardenerIt_38 ?_
      refine a_aload_n dX3_gardenerIt_41 rfl ?_
      refine a_gA fl_X3_9_2 (tw_gA ht 0 (by decide)) dX3_gardenerIt_42 ?_
      refine a_iconst (v := 0) dX3_gardenerIt_45 (by decide) ?_
      obtain ⟨z10, e9, hT⟩ := obnd hT
      refine a_ldI (tw_ld ht 0 (by decide) e9) dX3_gardenerIt_46 ?_
      obtain ⟨r13, e14, hT⟩ := obnd hT
      refine a_callS ks_X3_120 (k_X3_gardenerAt e14) ⟨Nat.le_of_ble_eq_true rfl, Nat.le_of_ble_eq_true rfl⟩ (As := [.int z10]) (rest := [.ref (T 0)]) rfl rfl (Nat.le_of_ble_eq_true rfl) dX3_gardenerIt_47 (kI ?_) xI
      refine a_iload_n dX3_gardenerIt_50 rfl ?_
      obtain ⟨s16, e15, hT⟩ := obnd hT
      refine a_stI (tw_st ht 0 (by decide) e15) dX3_gardenerIt_51 ?_
      refine a_aload_n dX3_gardenerIt_52 rfl ?_
      refine a_gA fl_X3_9_2 (tw_gA ht 0 (by decide)) dX3_gardenerIt_53 ?_
      refine a_iconst (v := 4) dX3_gardenerIt_56 (by decide) ?_
      refine a_dup2_11 dX3_gardenerIt_57 rfl rfl ?_
      obtain ⟨z18, e17, hT⟩ := obnd hT
      refine a_ldI (tw_ld ht 0 (by decide) e17) dX3_gardenerIt_58 ?_
      refine a_iload_n dX3_gardenerIt_59 rfl ?_
      refine a_iadd dX3_gardenerIt_60 ?_
      obtain ⟨s20, e19, hT⟩ := obnd hT
      refine a_stI (tw_st ht 0 (by decide) e19) dX3_gardenerIt_61 ?_
      refine a_aload_n dX3_gardenerIt_62 rfl ?_
      refine a_gA fl_X3_9_2 (tw_gA ht 0 (by decide)) dX3_gardenerIt_63 ?_
      refine a_iconst (v := 0) dX3_gardenerIt_66 (by decide) ?_
      refine a_dup2_11 dX3_gardenerIt_67 rfl rfl ?_
      obtain ⟨z22, e21, hT⟩ := obnd hT
      refine a_ldI (tw_ld ht 0 (by decide) e21) dX3_gardenerIt_68 ?_
      refine a_iconst (v := 1) dX3_gardenerIt_69 (by decide) ?_
      refine a_iadd dX3_gardenerIt_70 ?_
      obtain ⟨s24, e23, hT⟩ := obnd hT
      refine a_stI (tw_st ht 0 (by decide) e23) dX3_gardenerIt_71 ?_
      refine a_aload_n dX3_gardenerIt_72 rfl ?_
      refine a_gA fl_X3_9_2 (tw_gA ht 0 (by decide)) dX3_gardenerIt_73 ?_
      refine a_iconst (v := 0) dX3_gardenerIt_76 (by decide) ?_
      obtain ⟨z26, e25, hT⟩ := obnd hT
      refine a_ldI (tw_ld ht 0 (by decide) e25) dX3_gardenerIt_77 ?_
      refine a_iconst (v := 1) dX3_gardenerIt_78 (by decide) ?_
      refine a_isub dX3_gardenerIt_79 ?_
      cases hT
      exact a_iret rfl rfl dX3_gardenerIt_80 (he _ _ ⟨rfl, rfl⟩)
    · have hT := oifp c8 hT
      refine a_aload_n dX3_gardenerIt_29 rfl ?_
      refine a_bipush (v := 13) dX3_gardenerIt_30 (by decide) ?_
      refine a_iconst (v := 4) dX3_gardenerIt_32 (by decide) ?_
      obtain ⟨r29, e30, hT⟩ := obnd hT
      refine a_callV kv_X3_91 (tw_is ht) (k_X3_refuse ht e30) ⟨Nat.le_of_ble_eq_true rfl, Nat.le_of_ble_eq_true rfl⟩ (As := [.int 13, .int 4]) (rest := []) rfl rfl (Nat.le_of_ble_eq_true rfl) dX3_gardenerIt_33 (kI ?_) xI
      cases hT
      exact a_iret rfl rfl dX3_gardenerIt_36 (he _ _ ⟨rfl, rfl⟩)
  · have hT := oifp c5 hT
    refine a_aload_n dX3_gardenerIt_12 rfl ?_
    refine a_iconst (v := 1) dX3_gardenerIt_13 (by decide) ?_
    refine a_iconst (v := 0) dX3_gardenerIt_14 (by decide) ?_
    obtain ⟨r33, e34, hT⟩ := obnd hT
    refine a_callV kv_X3_91 (tw_is ht) (k_X3_refuse ht e34) ⟨Nat.le_of_ble_eq_true rfl, Nat.le_of_ble_eq_true rfl⟩ (As := [.int 1, .int 0]) (rest := []) rfl rfl (Nat.le_of_ble_eq_true rfl) dX3_gardenerIt_15 (kI ?_) xI
    cases hT
    exact a_iret rfl rfl dX3_gardenerIt_18 (he _ _ ⟨rfl, rfl⟩)
theorem ks_X3_74 : aKS "MazeBondsModel" 74 yX3_nextTo cX3_nextTo 4 (Option.some Jvm.ClassFile.FieldType.int) 2 := ⟨Or.inl q1884, q1885, q81, q1886, ⟨by decide +kernel, by decide +kernel, by decide +kernel⟩⟩
theorem fl_X3_29_2 : aFL "MazeBondsModel" 29 2 13 := ⟨RX3, TX3, 21, "MazeBondsModel", rfl, in_X3, by decide, Or.inl rfl, Or.inl q1716⟩
abbrev M_X3_laysWays : aM := (yX3_laysWays.cls, cX3_laysWays, 9, (Option.none : Option Jvm.ClassFile.FieldType), [], yX3_laysWays.name)
def p_X3_laysWays_b2 (G : aG) (h0 : aH) (K : aRes → aH → Prop) (B : aH) (T : Nat → Nat) (x9 : (Int32 × Int32 × Int32 × tS)) : Prop := aW G M_X3_laysWays 3 63 h0 K (tput (gZ G) B T x9.2.2.2) 2 [some (.ref (T 100)), some (.int x9.1), some (.int x9.2.1), some (.int x9.2.2.1), none, none, none, none, none] []
def p_X3_laysWays_b33 (G : aG) (h0 : aH) (K : aRes → aH → Prop) (B : aH) (T : Nat → Nat) (x9 : (Int32 × Int32 × tS)) : Prop := aW G M_X3_laysWays 3 63 h0 K (tput (gZ G) B T x9.2.2) 33 [some (.ref (T 100)), none, some (.int x9.1), some (.int x9.2.1), none, none, none, none, none] []
def p_X3_laysWays_b42 (G : aG) (h0 : aH) (K : aRes → aH → Prop) (B : aH) (T : Nat → Nat) (x9 : (Int32 × Int32 × Int32 × tS)) : Prop := aW G M_X3_laysWays 3 63 h0 K (tput (gZ G) B T x9.2.2.2) 42 [some (.ref (T 100)), none, some (.int x9.1), some (.int x9.2.1), some (.int x9.2.2.1), none, none, none, none] []
def p_X3_laysWays_b52 (G : aG) (h0 : aH) (K : aRes → aH → Prop) (B : aH) (T : Nat → Nat) (x9 : (Int32 × Int32 × Int32 × Int32 × tS)) : Prop := aW G M_X3_laysWays 3 63 h0 K (tput (gZ G) B T x9.2.2.2.2) 52 [some (.ref (T 100)), none, some (.int x9.1), some (.int x9.2.1), some (.int x9.2.2.1), some (.int x9.2.2.2.1), none, none, none] []
def t_X3_laysWays_l157 (s : tS) (v2 : Int32) (v3 : Int32) (v4 : Int32) (v5 : Int32) : Option ((Int32 × Int32 × Int32 × Int32 × tS) ⊕ ((Int32 × Int32 × Int32 × tS) ⊕ ((Int32 × Int32 × tS) ⊕ (Unit × tS)))) :=
  some (.inl (v2, v3, v4, (v5 + 1), s))
theorem k_X3_laysWays_l157 {G : aG} {h0 B : aH} {T : Nat → Nat} {K : aRes → aH → Prop} (ht : tOk (gZ G) T) {s : tS} {v2 : Int32} {v3 : Int32} {v4 : Int32} {v5 : Int32} {e : ((Int32 × Int32 × Int32 × Int32 × tS) ⊕ ((Int32 × Int32 × Int32 × tS) ⊕ ((Int32 × Int32 × tS) ⊕ (Unit × tS))))} (hT : t_X3_laysWays_l157 s v2 v3 v4 v5 = some e) (he : (Sum.elim (p_X3_laysWays_b52 G h0 K B T) (Sum.elim (p_X3_laysWays_b42 G h0 K B T) (Sum.elim (p_X3_laysWays_b33 G h0 K B T) (fun e => aTo (aEV e.1 (tput (gZ G) B T e.2)) K)))) e) : aW G M_X3_laysWays 3 63 h0 K (tput (gZ G) B T s) 157 [some (.ref (T 100)), none, some (.int v2), some (.int v3), some (.int v4), some (.int v5), none, none, none] [] := by
  unfold t_X3_laysWays_l157 at hT
  refine a_iinc (v := (v5 + 1)) (lv' := [some (.ref (T 100)), none, some (.int v2), some (.int v3), some (.int v4), some (.int (v5 + 1)), none, none, none]) dX3_laysWays_157 rfl (by rfl) rfl (by decide) rfl ?_
  refine a_goto 52 dX3_laysWays_160 rfl ?_
  cases hT
  exact he
def t_X3_laysWays_l122 (s : tS) (v2 : Int32) (v3 : Int32) (v4 : Int32) (v5 : Int32) (v6 : Int32) (u0 : Int32) : Option ((Int32 × Int32 × Int32 × Int32 × tS) ⊕ ((Int32 × Int32 × Int32 × tS) ⊕ ((Int32 × Int32 × tS) ⊕ (Unit × tS)))) :=
  if v6 = (-1) then
    t_X3_laysWays_l157 s v2 v3 v4 v5
  else
    (tld 13 s v6).bind fun z14 =>
    (tld 13 s v4).bind fun z16 =>
    (tst 13 s v6 (jmin z14 (z16 + u0))).bind fun s18 =>
    t_X3_laysWays_l157 s18 v2 v3 v4 v5
theorem k_X3_laysWays_l122 {G : aG} {h0 B : aH} {T : Nat → Nat} {K : aRes → aH → Prop} (ht : tOk (gZ G) T) {s : tS} {v2 : Int32} {v3 : Int32} {v4 : Int32} {v5 : Int32} {v6 : Int32} {u0 : Int32} {e : ((Int32 × Int32 × Int32 × Int32 × tS) ⊕ ((Int32 × Int32 × Int32 × tS) ⊕ ((Int32 × Int32 × tS) ⊕ (Unit × tS))))} (hT : t_X3_laysWays_l122 s v2 v3 v4 v5 v6 u0 = some e) (he : (Sum.elim (p_X3_laysWays_b52 G h0 K B T) (Sum.elim (p_X3_laysWays_b42 G h0 K B T) (Sum.elim (p_X3_laysWays_b33 G h0 K B T) (fun e => aTo (aEV e.1 (tput (gZ G) B T e.2)) K)))) e) : aW G M_X3_laysWays 3 63 h0 K (tput (gZ G) B T s) 122 [some (.ref (T 100)), none, some (.int v2), some (.int v3), some (.int v4), some (.int v5), some (.int v6), none, none] [.int u0] := by
  unfold t_X3_laysWays_l122 at hT
  refine a_istore (lv' := [some (.ref (T 100)), none, some (.int v2), some (.int v3), some (.int v4), some (.int v5), some (.int v6), none, some (.int u0)]) dX3_laysWays_122 rfl (by decide) rfl ?_
  refine a_iload dX3_laysWays_124 rfl ?_
  refine a_iconst (v := (-1)) dX3_laysWays_126 (by decide) ?_
  refine a_icmp_eq 157 dX3_laysWays_127 rfl (fun c12 => ?_) (fun c12 => ?_)
  · have hT := oifp c12 hT
    refine a_mask [true, true, true, true, true, true, false, true, false] ?_
    exact k_X3_laysWays_l157 ht hT he
  · have hT := oifn c12 hT
    refine a_aload_n dX3_laysWays_130 rfl ?_
    refine a_gA fl_X3_29_2 (tw_gA ht 13 (by decide)) dX3_laysWays_131 ?_
    refine a_iload dX3_laysWays_134 rfl ?_
    refine a_aload_n dX3_laysWays_136 rfl ?_
    refine a_gA fl_X3_29_2 (tw_gA ht 13 (by decide)) dX3_laysWays_137 ?_
    refine a_iload dX3_laysWays_140 rfl ?_
    obtain ⟨z14, e13, hT⟩ := obnd hT
    refine a_ldI (tw_ld ht 13 (by decide) e13) dX3_laysWays_142 ?_
    refine a_aload_n dX3_laysWays_143 rfl ?_
    refine a_gA fl_X3_29_2 (tw_gA ht 13 (by decide)) dX3_laysWays_144 ?_
    refine a_iload dX3_laysWays_147 rfl ?_
    obtain ⟨z16, e15, hT⟩ := obnd hT
    refine a_ldI (tw_ld ht 13 (by decide) e15) dX3_laysWays_149 ?_
    refine a_iload dX3_laysWays_150 rfl ?_
    refine a_iadd dX3_laysWays_152 ?_
    refine a_mmin q1806 q481 q90 q482 (by decide) (Nat.le_of_ble_eq_true rfl) dX3_laysWays_153 ?_
    obtain ⟨s18, e17, hT⟩ := obnd hT
    refine a_stI (tw_st ht 13 (by decide) e17) dX3_laysWays_156 ?_
    refine a_mask [true, true, true, true, true, true, false, true, false] ?_
    exact k_X3_laysWays_l157 ht hT he
def t_X3_laysWays_l92 (s : tS) (v2 : Int32) (v3 : Int32) (v4 : Int32) (v5 : Int32) (v6 : Int32) (u0 : Int32) : Option ((Int32 × Int32 × Int32 × Int32 × tS) ⊕ ((Int32 × Int32 × Int32 × tS) ⊕ ((Int32 × Int32 × tS) ⊕ (Unit × tS)))) :=
  if v2 = 0 then
    if u0 = 0 then
      t_X3_laysWays_l122 s v2 v3 v4 v5 v6 99
    else
      t_X3_laysWays_l122 s v2 v3 v4 v5 v6 1
  else
    if u0 = 0 then
      t_X3_laysWays_l122 s v2 v3 v4 v5 v6 1
    else
      t_X3_laysWays_l122 s v2 v3 v4 v5 v6 0
theorem k_X3_laysWays_l92 {G : aG} {h0 B : aH} {T : Nat → Nat} {K : aRes → aH → Prop} (ht : tOk (gZ G) T) {s : tS} {v2 : Int32} {v3 : Int32} {v4 : Int32} {v5 : Int32} {v6 : Int32} {u0 : Int32} {e : ((Int32 × Int32 × Int32 × Int32 × tS) ⊕ ((Int32 × Int32 × Int32 × tS) ⊕ ((Int32 × Int32 × tS) ⊕ (Unit × tS))))} (hT : t_X3_laysWays_l92 s v2 v3 v4 v5 v6 u0 = some e) (he : (Sum.elim (p_X3_laysWays_b52 G h0 K B T) (Sum.elim (p_X3_laysWays_b42 G h0 K B T) (Sum.elim (p_X3_laysWays_b33 G h0 K B T) (fun e => aTo (aEV e.1 (tput (gZ G) B T e.2)) K)))) e) : aW G M_X3_laysWays 3 63 h0 K (tput (gZ G) B T s) 92 [some (.ref (T 100)), none, some (.int v2), some (.int v3), some (.int v4), some (.int v5), some (.int v6), none, none] [.int u0] := by
  unfold t_X3_laysWays_l92 at hT
  refine a_istore (lv' := [some (.ref (T 100)), none, some (.int v2), some (.int v3), some (.int v4), some (.int v5), some (.int v6), some (.int u0), none]) dX3_laysWays_92 rfl (by decide) rfl ?_
  refine a_iload_n dX3_laysWays_94 rfl ?_
  refine a_if_eq 111 dX3_laysWays_95 rfl (fun c10 => ?_) (fun c10 => ?_)
  · have hT := oifp c10 hT
    refine a_iload dX3_laysWays_111 rfl ?_
    refine a_if_eq 120 dX3_laysWays_113 rfl (fun c11 => ?_) (fun c11 => ?_)
    · have hT := oifp c11 hT
      refine a_bipush (v := 99) dX3_laysWays_120 (by decide) ?_
      refine a_mask [true, true, true, true, true, true, true, false, true] ?_
      exact k_X3_laysWays_l122 ht hT he
    · have hT := oifn c11 hT
      refine a_iconst (v := 1) dX3_laysWays_116 (by decide) ?_
      refine a_goto 122 dX3_laysWays_117 rfl ?_
      refine a_mask [true, true, true, true, true, true, true, false, true] ?_
      exact k_X3_laysWays_l122 ht hT he
  · have hT := oifn c10 hT
    refine a_iload dX3_laysWays_98 rfl ?_
    refine a_if_eq 107 dX3_laysWays_100 rfl (fun c19 => ?_) (fun c19 => ?_)
    · have hT := oifp c19 hT
      refine a_iconst (v := 1) dX3_laysWays_107 (by decide) ?_
      refine a_goto 122 dX3_laysWays_108 rfl ?_
      refine a_mask [true, true, true, true, true, true, true, false, true] ?_
      exact k_X3_laysWays_l122 ht hT he
    · have hT := oifn c19 hT
      refine a_iconst (v := 0) dX3_laysWays_103 (by decide) ?_
      refine a_goto 122 dX3_laysWays_104 rfl ?_
      refine a_mask [true, true, true, true, true, true, true, false, true] ?_
      exact k_X3_laysWays_l122 ht hT he
def t_X3_laysWays_l91 (s : tS) (v2 : Int32) (v3 : Int32) (v4 : Int32) (v5 : Int32) (v6 : Int32) : Option ((Int32 × Int32 × Int32 × Int32 × tS) ⊕ ((Int32 × Int32 × Int32 × tS) ⊕ ((Int32 × Int32 × tS) ⊕ (Unit × tS)))) :=
  t_X3_laysWays_l92 s v2 v3 v4 v5 v6 0
theorem k_X3_laysWays_l91 {G : aG} {h0 B : aH} {T : Nat → Nat} {K : aRes → aH → Prop} (ht : tOk (gZ G) T) {s : tS} {v2 : Int32} {v3 : Int32} {v4 : Int32} {v5 : Int32} {v6 : Int32} {e : ((Int32 × Int32 × Int32 × Int32 × tS) ⊕ ((Int32 × Int32 × Int32 × tS) ⊕ ((Int32 × Int32 × tS) ⊕ (Unit × tS))))} (hT : t_X3_laysWays_l91 s v2 v3 v4 v5 v6 = some e) (he : (Sum.elim (p_X3_laysWays_b52 G h0 K B T) (Sum.elim (p_X3_laysWays_b42 G h0 K B T) (Sum.elim (p_X3_laysWays_b33 G h0 K B T) (fun e => aTo (aEV e.1 (tput (gZ G) B T e.2)) K)))) e) : aW G M_X3_laysWays 3 63 h0 K (tput (gZ G) B T s) 91 [some (.ref (T 100)), none, some (.int v2), some (.int v3), some (.int v4), some (.int v5), some (.int v6), none, none] [] := by
  unfold t_X3_laysWays_l91 at hT
  refine a_iconst (v := 0) dX3_laysWays_91 (by decide) ?_
  exact k_X3_laysWays_l92 ht hT he
def t_X3_laysWays_b52 : (Int32 × Int32 × Int32 × Int32 × tS) → Option ((Int32 × Int32 × Int32 × Int32 × tS) ⊕ ((Int32 × Int32 × Int32 × tS) ⊕ ((Int32 × Int32 × tS) ⊕ (Unit × tS)))) := fun (v2, v3, v4, v5, s) =>
  if 4 ≤ v5 then
    some (.inr (.inl (v2, v3, (v4 + 1), s)))
  else
    (t_X3_nextTo v4 v5).bind fun r7 =>
    if r7 = (-1) then
      t_X3_laysWays_l91 s v2 v3 v4 v5 r7
    else
      (t_X3_hedgeAt v4 r7).bind fun r22 =>
      (t_X3_isGapAt s r22).bind fun r26 =>
      if r26.1 = 0 then
        t_X3_laysWays_l91 r26.2 v2 v3 v4 v5 r7
      else
        t_X3_laysWays_l92 r26.2 v2 v3 v4 v5 r7 1
theorem kb_X3_laysWays_b52 {G : aG} {h0 B : aH} {T : Nat → Nat} {K : aRes → aH → Prop} (ht : tOk (gZ G) T) : ∀ (x9 : (Int32 × Int32 × Int32 × Int32 × tS)) (e : ((Int32 × Int32 × Int32 × Int32 × tS) ⊕ ((Int32 × Int32 × Int32 × tS) ⊕ ((Int32 × Int32 × tS) ⊕ (Unit × tS))))), t_X3_laysWays_b52 x9 = some e → (Sum.elim (p_X3_laysWays_b52 G h0 K B T) (Sum.elim (p_X3_laysWays_b42 G h0 K B T) (Sum.elim (p_X3_laysWays_b33 G h0 K B T) (fun e => aTo (aEV e.1 (tput (gZ G) B T e.2)) K)))) e → p_X3_laysWays_b52 G h0 K B T x9 := by
  intro x9 e hT he
  obtain ⟨v2, v3, v4, v5, s⟩ := x9
  unfold p_X3_laysWays_b52
  unfold t_X3_laysWays_b52 at hT
  show aW G M_X3_laysWays 3 63 h0 K (tput (gZ G) B T s) 52 [some (.ref (T 100)), none, some (.int v2), some (.int v3), some (.int v4), some (.int v5), none, none, none] []
  dsimp only at hT
  refine a_iload dX3_laysWays_52 rfl ?_
  refine a_iconst (v := 4) dX3_laysWays_54 (by decide) ?_
  refine a_icmp_ge 163 dX3_laysWays_55 rfl (fun c4 => ?_) (fun c4 => ?_)
  · have hT := oifp c4 hT
    refine a_iinc (v := (v4 + 1)) (lv' := [some (.ref (T 100)), none, some (.int v2), some (.int v3), some (.int (v4 + 1)), some (.int v5), none, none, none]) dX3_laysWays_163 rfl (by rfl) rfl (by decide) rfl ?_
    refine a_goto 42 dX3_laysWays_166 rfl ?_
    cases hT
    refine a_mask [true, true, true, true, true, false, true, true, true] ?_
    exact he
  · have hT := oifn c4 hT
    refine a_iload dX3_laysWays_58 rfl ?_
    refine a_iload dX3_laysWays_60 rfl ?_
    obtain ⟨r7, e8, hT⟩ := obnd hT
    refine a_callS ks_X3_74 (k_X3_nextTo e8) ⟨Nat.le_of_ble_eq_true rfl, Nat.le_of_ble_eq_true rfl⟩ (As := [.int v4, .int v5]) (rest := []) rfl rfl (Nat.le_of_ble_eq_true rfl) dX3_laysWays_62 (kI ?_) xI
    refine a_istore (lv' := [some (.ref (T 100)), none, some (.int v2), some (.int v3), some (.int v4), some (.int v5), some (.int r7), none, none]) dX3_laysWays_65 rfl (by decide) rfl ?_
    refine a_iload dX3_laysWays_67 rfl ?_
    refine a_iconst (v := (-1)) dX3_laysWays_69 (by decide) ?_
    refine a_icmp_eq 91 dX3_laysWays_70 rfl (fun c9 => ?_) (fun c9 => ?_)
    · have hT := oifp c9 hT
      exact k_X3_laysWays_l91 ht hT he
    · have hT := oifn c9 hT
      refine a_aload_n dX3_laysWays_73 rfl ?_
      refine a_iload dX3_laysWays_74 rfl ?_
      refine a_iload dX3_laysWays_76 rfl ?_
      obtain ⟨r22, e23, hT⟩ := obnd hT
      refine a_callS ks_X3_77 (k_X3_hedgeAt e23) ⟨Nat.le_of_ble_eq_true rfl, Nat.le_of_ble_eq_true rfl⟩ (As := [.int v4, .int r7]) (rest := [.ref (T 100)]) rfl rfl (Nat.le_of_ble_eq_true rfl) dX3_laysWays_78 (kI ?_) xI
      obtain ⟨r26, e27, hT⟩ := obnd hT
      refine a_callV kv_X3_80 (tw_is ht) (k_X3_isGapAt ht e27) ⟨Nat.le_of_ble_eq_true rfl, Nat.le_of_ble_eq_true rfl⟩ (As := [.int r22]) (rest := []) rfl rfl (Nat.le_of_ble_eq_true rfl) dX3_laysWays_81 (kI ?_) xI
      refine a_if_eq 91 dX3_laysWays_84 rfl (fun c28 => ?_) (fun c28 => ?_)
      · have hT := oifp c28 hT
        exact k_X3_laysWays_l91 ht hT he
      · have hT := oifn c28 hT
        refine a_iconst (v := 1) dX3_laysWays_87 (by decide) ?_
        refine a_goto 92 dX3_laysWays_88 rfl ?_
        exact k_X3_laysWays_l92 ht hT he
theorem k_X3_laysWays_b52 {G : aG} {h0 B : aH} {T : Nat → Nat} {K : aRes → aH → Prop} (ht : tOk (gZ G) T) {n9 : Nat} {x9 : (Int32 × Int32 × Int32 × Int32 × tS)} {e : ((Int32 × Int32 × Int32 × tS) ⊕ ((Int32 × Int32 × tS) ⊕ (Unit × tS)))} (hT : wlo t_X3_laysWays_b52 n9 x9 = some e) (he : (Sum.elim (p_X3_laysWays_b42 G h0 K B T) (Sum.elim (p_X3_laysWays_b33 G h0 K B T) (fun e => aTo (aEV e.1 (tput (gZ G) B T e.2)) K))) e) : p_X3_laysWays_b52 G h0 K B T x9 := wlo_W (kb_X3_laysWays_b52 ht) n9 x9 e hT he
def t_X3_laysWays_b42 : (Int32 × Int32 × Int32 × tS) → Option ((Int32 × Int32 × Int32 × tS) ⊕ ((Int32 × Int32 × tS) ⊕ (Unit × tS))) := fun (v2, v3, v4, s) =>
  if 16 ≤ v4 then
    some (.inr (.inl (v2, (v3 + 1), s)))
  else
    wlo t_X3_laysWays_b52 300 (v2, v3, v4, 0, s)
theorem kb_X3_laysWays_b42 {G : aG} {h0 B : aH} {T : Nat → Nat} {K : aRes → aH → Prop} (ht : tOk (gZ G) T) : ∀ (x9 : (Int32 × Int32 × Int32 × tS)) (e : ((Int32 × Int32 × Int32 × tS) ⊕ ((Int32 × Int32 × tS) ⊕ (Unit × tS)))), t_X3_laysWays_b42 x9 = some e → (Sum.elim (p_X3_laysWays_b42 G h0 K B T) (Sum.elim (p_X3_laysWays_b33 G h0 K B T) (fun e => aTo (aEV e.1 (tput (gZ G) B T e.2)) K))) e → p_X3_laysWays_b42 G h0 K B T x9 := by
  intro x9 e hT he
  obtain ⟨v2, v3, v4, s⟩ := x9
  unfold p_X3_laysWays_b42
  unfold t_X3_laysWays_b42 at hT
  show aW G M_X3_laysWays 3 63 h0 K (tput (gZ G) B T s) 42 [some (.ref (T 100)), none, some (.int v2), some (.int v3), some (.int v4), none, none, none, none] []
  dsimp only at hT
  refine a_iload dX3_laysWays_42 rfl ?_
  refine a_bipush (v := 16) dX3_laysWays_44 (by decide) ?_
  refine a_icmp_ge 169 dX3_laysWays_46 rfl (fun c3 => ?_) (fun c3 => ?_)
  · have hT := oifp c3 hT
    refine a_iinc (v := (v3 + 1)) (lv' := [some (.ref (T 100)), none, some (.int v2), some (.int (v3 + 1)), some (.int v4), none, none, none, none]) dX3_laysWays_169 rfl (by rfl) rfl (by decide) rfl ?_
    refine a_goto 33 dX3_laysWays_172 rfl ?_
    cases hT
    refine a_mask [true, true, true, true, false, true, true, true, true] ?_
    exact he
  · have hT := oifn c3 hT
    refine a_iconst (v := 0) dX3_laysWays_49 (by decide) ?_
    refine a_istore (lv' := [some (.ref (T 100)), none, some (.int v2), some (.int v3), some (.int v4), some (.int 0), none, none, none]) dX3_laysWays_50 rfl (by decide) rfl ?_
    exact k_X3_laysWays_b52 ht hT he
theorem k_X3_laysWays_b42 {G : aG} {h0 B : aH} {T : Nat → Nat} {K : aRes → aH → Prop} (ht : tOk (gZ G) T) {n9 : Nat} {x9 : (Int32 × Int32 × Int32 × tS)} {e : ((Int32 × Int32 × tS) ⊕ (Unit × tS))} (hT : wlo t_X3_laysWays_b42 n9 x9 = some e) (he : (Sum.elim (p_X3_laysWays_b33 G h0 K B T) (fun e => aTo (aEV e.1 (tput (gZ G) B T e.2)) K)) e) : p_X3_laysWays_b42 G h0 K B T x9 := wlo_W (kb_X3_laysWays_b42 ht) n9 x9 e hT he
def t_X3_laysWays_b33 : (Int32 × Int32 × tS) → Option ((Int32 × Int32 × tS) ⊕ (Unit × tS)) := fun (v2, v3, s) =>
  if 16 ≤ v3 then
    some (.inr (((), s)))
  else
    wlo t_X3_laysWays_b42 300 (v2, v3, 0, s)
theorem kb_X3_laysWays_b33 {G : aG} {h0 B : aH} {T : Nat → Nat} {K : aRes → aH → Prop} (ht : tOk (gZ G) T) : ∀ (x9 : (Int32 × Int32 × tS)) (e : ((Int32 × Int32 × tS) ⊕ (Unit × tS))), t_X3_laysWays_b33 x9 = some e → (Sum.elim (p_X3_laysWays_b33 G h0 K B T) (fun e => aTo (aEV e.1 (tput (gZ G) B T e.2)) K)) e → p_X3_laysWays_b33 G h0 K B T x9 := by
  intro x9 e hT he
  obtain ⟨v2, v3, s⟩ := x9
  unfold p_X3_laysWays_b33
  unfold t_X3_laysWays_b33 at hT
  show aW G M_X3_laysWays 3 63 h0 K (tput (gZ G) B T s) 33 [some (.ref (T 100)), none, some (.int v2), some (.int v3), none, none, none, none, none] []
  dsimp only at hT
  refine a_iload_n dX3_laysWays_33 rfl ?_
  refine a_bipush (v := 16) dX3_laysWays_34 (by decide) ?_
  refine a_icmp_ge 175 dX3_laysWays_36 rfl (fun c2 => ?_) (fun c2 => ?_)
  · have hT := oifp c2 hT
    cases hT
    exact a_vret rfl dX3_laysWays_175 (he _ _ ⟨rfl, rfl⟩)
  · have hT := oifn c2 hT
    refine a_iconst (v := 0) dX3_laysWays_39 (by decide) ?_
    refine a_istore (lv' := [some (.ref (T 100)), none, some (.int v2), some (.int v3), some (.int 0), none, none, none, none]) dX3_laysWays_40 rfl (by decide) rfl ?_
    exact k_X3_laysWays_b42 ht hT he
theorem k_X3_laysWays_b33 {G : aG} {h0 B : aH} {T : Nat → Nat} {K : aRes → aH → Prop} (ht : tOk (gZ G) T) {n9 : Nat} {x9 : (Int32 × Int32 × tS)} {e : (Unit × tS)} (hT : wlo t_X3_laysWays_b33 n9 x9 = some e) (he : (fun e => aTo (aEV e.1 (tput (gZ G) B T e.2)) K) e) : p_X3_laysWays_b33 G h0 K B T x9 := wlo_W (kb_X3_laysWays_b33 ht) n9 x9 e hT he
def t_X3_laysWays_l31 (s : tS) (v2 : Int32) : Option (Unit × tS) :=
  wlo t_X3_laysWays_b33 300 (v2, 0, s)
theorem k_X3_laysWays_l31 {G : aG} {h0 B : aH} {T : Nat → Nat} {K : aRes → aH → Prop} (ht : tOk (gZ G) T) {s : tS} {v2 : Int32} {e : (Unit × tS)} (hT : t_X3_laysWays_l31 s v2 = some e) (he : (fun e => aTo (aEV e.1 (tput (gZ G) B T e.2)) K) e) : aW G M_X3_laysWays 3 63 h0 K (tput (gZ G) B T s) 31 [some (.ref (T 100)), none, some (.int v2), none, none, none, none, none, none] [] := by
  unfold t_X3_laysWays_l31 at hT
  refine a_iconst (v := 0) dX3_laysWays_31 (by decide) ?_
  refine a_istore_n (lv' := [some (.ref (T 100)), none, some (.int v2), some (.int 0), none, none, none, none, none]) dX3_laysWays_32 rfl (by decide) rfl ?_
  exact k_X3_laysWays_b33 ht hT he
def t_X3_laysWays_l24 (s : tS) (v1 : Int32) (v2 : Int32) (v3 : Int32) (u0 : Int32) (u1 : Int32) : Option ((Int32 × Int32 × Int32 × tS) ⊕ (Unit × tS)) :=
  (tst 13 s u1 u0).bind fun s31 =>
  some (.inl (v1, v2, (v3 + 1), s31))
theorem k_X3_laysWays_l24 {G : aG} {h0 B : aH} {T : Nat → Nat} {K : aRes → aH → Prop} (ht : tOk (gZ G) T) {s : tS} {v1 : Int32} {v2 : Int32} {v3 : Int32} {u0 : Int32} {u1 : Int32} {e : ((Int32 × Int32 × Int32 × tS) ⊕ (Unit × tS))} (hT : t_X3_laysWays_l24 s v1 v2 v3 u0 u1 = some e) (he : (Sum.elim (p_X3_laysWays_b2 G h0 K B T) (fun e => aTo (aEV e.1 (tput (gZ G) B T e.2)) K)) e) : aW G M_X3_laysWays 3 63 h0 K (tput (gZ G) B T s) 24 [some (.ref (T 100)), some (.int v1), some (.int v2), some (.int v3), none, none, none, none, none] [.int u0, .int u1, .ref (T 13)] := by
  unfold t_X3_laysWays_l24 at hT
  obtain ⟨s31, e30, hT⟩ := obnd hT
  refine a_stI (tw_st ht 13 (by decide) e30) dX3_laysWays_24 ?_
  refine a_iinc (v := (v3 + 1)) (lv' := [some (.ref (T 100)), some (.int v1), some (.int v2), some (.int (v3 + 1)), none, none, none, none, none]) dX3_laysWays_25 rfl (by rfl) rfl (by decide) rfl ?_
  refine a_goto 2 dX3_laysWays_28 rfl ?_
  cases hT
  exact he
def t_X3_laysWays_b2 : (Int32 × Int32 × Int32 × tS) → Option ((Int32 × Int32 × Int32 × tS) ⊕ (Unit × tS)) := fun (v1, v2, v3, s) =>
  if 16 ≤ v3 then
    (t_X3_laysWays_l31 s v2).map .inr
  else
    if v3 = v1 then
      t_X3_laysWays_l24 s v1 v2 v3 0 v3
    else
      t_X3_laysWays_l24 s v1 v2 v3 99 v3
theorem kb_X3_laysWays_b2 {G : aG} {h0 B : aH} {T : Nat → Nat} {K : aRes → aH → Prop} (ht : tOk (gZ G) T) : ∀ (x9 : (Int32 × Int32 × Int32 × tS)) (e : ((Int32 × Int32 × Int32 × tS) ⊕ (Unit × tS))), t_X3_laysWays_b2 x9 = some e → (Sum.elim (p_X3_laysWays_b2 G h0 K B T) (fun e => aTo (aEV e.1 (tput (gZ G) B T e.2)) K)) e → p_X3_laysWays_b2 G h0 K B T x9 := by
  intro x9 e hT he
  obtain ⟨v1, v2, v3, s⟩ := x9
  unfold p_X3_laysWays_b2
  unfold t_X3_laysWays_b2 at hT
  show aW G M_X3_laysWays 3 63 h0 K (tput (gZ G) B T s) 2 [some (.ref (T 100)), some (.int v1), some (.int v2), some (.int v3), none, none, none, none, none] []
  dsimp only at hT
  refine a_iload_n dX3_laysWays_2 rfl ?_
  refine a_bipush (v := 16) dX3_laysWays_3 (by decide) ?_
  refine a_icmp_ge 31 dX3_laysWays_5 rfl (fun c1 => ?_) (fun c1 => ?_)
  · have hT := oifp c1 hT
    refine a_mask [true, false, true, false, true, true, true, true, true] ?_
    obtain ⟨e8, hT8, rfl⟩ := omap hT
    exact k_X3_laysWays_l31 ht hT8 he
  · have hT := oifn c1 hT
    refine a_aload_n dX3_laysWays_8 rfl ?_
    refine a_gA fl_X3_29_2 (tw_gA ht 13 (by decide)) dX3_laysWays_9 ?_
    refine a_iload_n dX3_laysWays_12 rfl ?_
    refine a_iload_n dX3_laysWays_13 rfl ?_
    refine a_iload_n dX3_laysWays_14 rfl ?_
    refine a_icmp_ne 22 dX3_laysWays_15 rfl (fun c29 => ?_) (fun c29 => ?_)
    · have hT := oifn c29 hT
      refine a_bipush (v := 99) dX3_laysWays_22 (by decide) ?_
      exact k_X3_laysWays_l24 ht hT he
    · have hT := oifp c29 hT
      refine a_iconst (v := 0) dX3_laysWays_18 (by decide) ?_
      refine a_goto 24 dX3_laysWays_19 rfl ?_
      exact k_X3_laysWays_l24 ht hT he
theorem k_X3_laysWays_b2 {G : aG} {h0 B : aH} {T : Nat → Nat} {K : aRes → aH → Prop} (ht : tOk (gZ G) T) {n9 : Nat} {x9 : (Int32 × Int32 × Int32 × tS)} {e : (Unit × tS)} (hT : wlo t_X3_laysWays_b2 n9 x9 = some e) (he : (fun e => aTo (aEV e.1 (tput (gZ G) B T e.2)) K) e) : p_X3_laysWays_b2 G h0 K B T x9 := wlo_W (kb_X3_laysWays_b2 ht) n9 x9 e hT he
def t_X3_laysWays (s : tS) (x0 : Int32) (x1 : Int32) : Option (Unit × tS) :=
  wlo t_X3_laysWays_b2 300 (x0, x1, 0, s)
theorem k_X3_laysWays {G : aG} {B : aH} {T : Nat → Nat} (ht : tOk (gZ G) T) {s : tS} {x0 : Int32} {x1 : Int32} {e : (Unit × tS)} (hT : t_X3_laysWays s x0 x1 = some e) : aMet G yX3_laysWays (ws_ yX3_laysWays cX3_laysWays 9 (Option.none : Option Jvm.ClassFile.FieldType)) 3 63 [.ref (T 100), .int x0, .int x1] (tput (gZ G) B T s) (aEV e.1 (tput (gZ G) B T e.2)) := by
  refine aMet.of (lv := [some (.ref (T 100)), some (.int x0), some (.int x1), none, none, none, none, none, none]) (by decide) (Nat.le_of_ble_eq_true rfl) 6 rfl ?_
  have he : aTo (aEV e.1 (tput (gZ G) B T e.2)) (aEV e.1 (tput (gZ G) B T e.2)) := aTo.rf
  unfold t_X3_laysWays at hT
  refine a_iconst (v := 0) dX3_laysWays_0 (by decide) ?_
  refine a_istore_n (lv' := [some (.ref (T 100)), some (.int x0), some (.int x1), some (.int 0), none, none, none, none, none]) dX3_laysWays_1 rfl (by decide) rfl ?_
  exact k_X3_laysWays_b2 ht hT he
theorem kv_X3_84 : aKV "MazeBondsModel" 84 2 yX3_laysWays cX3_laysWays 9 (Option.none : Option Jvm.ClassFile.FieldType) 2 := ⟨⟨TX3, 21, rfl⟩, Or.inl q1880, q1882, qs45, q81, q1883, ⟨by decide +kernel, by decide +kernel, by decide +kernel⟩⟩
abbrev M_X3_reachedFrom : aM := (yX3_reachedFrom.cls, cX3_reachedFrom, 4, (Option.some Jvm.ClassFile.FieldType.int), [], yX3_reachedFrom.name)
def p_X3_reachedFrom_b10 (G : aG) (h0 : aH) (K : aRes → aH → Prop) (B : aH) (T : Nat → Nat) (x9 : (Int32 × Int32 × tS)) : Prop := aW G M_X3_reachedFrom 4 91 h0 K (tput (gZ G) B T x9.2.2) 10 [some (.ref (T 100)), none, some (.int x9.1), some (.int x9.2.1)] []
def t_X3_reachedFrom_l35 (s : tS) (v3 : Int32) (u0 : Int32) (u1 : Int32) : Option ((Int32 × Int32 × tS) ⊕ (Int32 × tS)) :=
  some (.inl ((u1 ||| u0), (v3 + 1), s))
theorem k_X3_reachedFrom_l35 {G : aG} {h0 B : aH} {T : Nat → Nat} {K : aRes → aH → Prop} (ht : tOk (gZ G) T) {s : tS} {v3 : Int32} {u0 : Int32} {u1 : Int32} {e : ((Int32 × Int32 × tS) ⊕ (Int32 × tS))} (hT : t_X3_reachedFrom_l35 s v3 u0 u1 = some e) (he : (Sum.elim (p_X3_reachedFrom_b10 G h0 K B T) (fun e => aTo (aEI e.1 (tput (gZ G) B T e.2)) K)) e) : aW G M_X3_reachedFrom 4 91 h0 K (tput (gZ G) B T s) 35 [some (.ref (T 100)), none, none, some (.int v3)] [.int u0, .int u1] := by
  unfold t_X3_reachedFrom_l35 at hT
  refine a_ior dX3_reachedFrom_35 ?_
  refine a_istore_n (lv' := [some (.ref (T 100)), none, some (.int (u1 ||| u0)), some (.int v3)]) dX3_reachedFrom_36 rfl (by decide) rfl ?_
  refine a_iinc (v := (v3 + 1)) (lv' := [some (.ref (T 100)), none, some (.int (u1 ||| u0)), some (.int (v3 + 1))]) dX3_reachedFrom_37 rfl (by rfl) rfl (by decide) rfl ?_
  refine a_goto 10 dX3_reachedFrom_40 rfl ?_
  cases hT
  exact he
def t_X3_reachedFrom_b10 : (Int32 × Int32 × tS) → Option ((Int32 × Int32 × tS) ⊕ (Int32 × tS)) := fun (v2, v3, s) =>
  if 16 ≤ v3 then
    some (.inr ((v2, s)))
  else
    (tld 13 s v3).bind fun z7 =>
    if 99 ≤ z7 then
      t_X3_reachedFrom_l35 s v3 0 v2
    else
      t_X3_reachedFrom_l35 s v3 (1 <<< (v3 &&& 31)) v2
theorem kb_X3_reachedFrom_b10 {G : aG} {h0 B : aH} {T : Nat → Nat} {K : aRes → aH → Prop} (ht : tOk (gZ G) T) : ∀ (x9 : (Int32 × Int32 × tS)) (e : ((Int32 × Int32 × tS) ⊕ (Int32 × tS))), t_X3_reachedFrom_b10 x9 = some e → (Sum.elim (p_X3_reachedFrom_b10 G h0 K B T) (fun e => aTo (aEI e.1 (tput (gZ G) B T e.2)) K)) e → p_X3_reachedFrom_b10 G h0 K B T x9 := by
  intro x9 e hT he
  obtain ⟨v2, v3, s⟩ := x9
  unfold p_X3_reachedFrom_b10
  unfold t_X3_reachedFrom_b10 at hT
  show aW G M_X3_reachedFrom 4 91 h0 K (tput (gZ G) B T s) 10 [some (.ref (T 100)), none, some (.int v2), some (.int v3)] []
  dsimp only at hT
  refine a_iload_n dX3_reachedFrom_10 rfl ?_
  refine a_bipush (v := 16) dX3_reachedFrom_11 (by decide) ?_
  refine a_icmp_ge 43 dX3_reachedFrom_13 rfl (fun c5 => ?_) (fun c5 => ?_)
  · have hT := oifp c5 hT
    refine a_iload_n dX3_reachedFrom_43 rfl ?_
    cases hT
    exact a_iret rfl rfl dX3_reachedFrom_44 (he _ _ ⟨rfl, rfl⟩)
  · have hT := oifn c5 hT
    refine a_iload_n dX3_reachedFrom_16 rfl ?_
    refine a_aload_n dX3_reachedFrom_17 rfl ?_
    refine a_gA fl_X3_29_2 (tw_gA ht 13 (by decide)) dX3_reachedFrom_18 ?_
    refine a_iload_n dX3_reachedFrom_21 rfl ?_
    obtain ⟨z7, e6, hT⟩ := obnd hT
    refine a_ldI (tw_ld ht 13 (by decide) e6) dX3_reachedFrom_22 ?_
    refine a_bipush (v := 99) dX3_reachedFrom_23 (by decide) ?_
    refine a_icmp_ge 34 dX3_reachedFrom_25 rfl (fun c8 => ?_) (fun c8 => ?_)
    · have hT := oifp c8 hT
      refine a_iconst (v := 0) dX3_reachedFrom_34 (by decide) ?_
      refine a_mask [true, true, false, true] ?_
      exact k_X3_reachedFrom_l35 ht hT he
    · have hT := oifn c8 hT
      refine a_iconst (v := 1) dX3_reachedFrom_28 (by decide) ?_
      refine a_iload_n dX3_reachedFrom_29 rfl ?_
      refine a_ishl dX3_reachedFrom_30 ?_
      refine a_goto 35 dX3_reachedFrom_31 rfl ?_
      refine a_mask [true, true, false, true] ?_
      exact k_X3_reachedFrom_l35 ht hT he
theorem k_X3_reachedFrom_b10 {G : aG} {h0 B : aH} {T : Nat → Nat} {K : aRes → aH → Prop} (ht : tOk (gZ G) T) {n9 : Nat} {x9 : (Int32 × Int32 × tS)} {e : (Int32 × tS)} (hT : wlo t_X3_reachedFrom_b10 n9 x9 = some e) (he : (fun e => aTo (aEI e.1 (tput (gZ G) B T e.2)) K) e) : p_X3_reachedFrom_b10 G h0 K B T x9 := wlo_W (kb_X3_reachedFrom_b10 ht) n9 x9 e hT he
def t_X3_reachedFrom (s : tS) (x0 : Int32) : Option (Int32 × tS) :=
  (t_X3_laysWays s x0 0).bind fun r3 =>
  wlo t_X3_reachedFrom_b10 300 (0, 0, r3.2)
theorem k_X3_reachedFrom {G : aG} {B : aH} {T : Nat → Nat} (ht : tOk (gZ G) T) {s : tS} {x0 : Int32} {e : (Int32 × tS)} (hT : t_X3_reachedFrom s x0 = some e) : aMet G yX3_reachedFrom (ws_ yX3_reachedFrom cX3_reachedFrom 4 (Option.some Jvm.ClassFile.FieldType.int)) 4 91 [.ref (T 100), .int x0] (tput (gZ G) B T s) (aEI e.1 (tput (gZ G) B T e.2)) := by
  refine aMet.of (lv := [some (.ref (T 100)), some (.int x0), none, none]) (by decide) (Nat.le_of_ble_eq_true rfl) 2 rfl ?_
  have he : aTo (aEI e.1 (tput (gZ G) B T e.2)) (aEI e.1 (tput (gZ G) B T e.2)) := aTo.rf
  unfold t_X3_reachedFrom at hT
  refine a_aload_n dX3_reachedFrom_0 rfl ?_
  refine a_iload_n dX3_reachedFrom_1 rfl ?_
  refine a_iconst (v := 0) dX3_reachedFrom_2 (by decide) ?_
  obtain ⟨r3, e4, hT⟩ := obnd hT
  refine a_callV kv_X3_84 (tw_is ht) (k_X3_laysWays ht e4) ⟨Nat.le_of_ble_eq_true rfl, Nat.le_of_ble_eq_true rfl⟩ (As := [.int x0, .int 0]) (rest := []) rfl rfl (Nat.le_of_ble_eq_true rfl) dX3_reachedFrom_3 (kV ?_) xV
  refine a_iconst (v := 0) dX3_reachedFrom_6 (by decide) ?_
  refine a_istore_n (lv' := [some (.ref (T 100)), some (.int x0), some (.int 0), none]) dX3_reachedFrom_7 rfl (by decide) rfl ?_
  refine a_iconst (v := 0) dX3_reachedFrom_8 (by decide) ?_
  refine a_istore_n (lv' := [some (.ref (T 100)), some (.int x0), some (.int 0), some (.int 0)]) dX3_reachedFrom_9 rfl (by decide) rfl ?_
  refine a_mask [true, false, true, true] ?_
  exact k_X3_reachedFrom_b10 ht hT he
theorem kv_X3_131 : aKV "MazeBondsModel" 131 2 yX3_meets cX3_meets 3 (Option.some Jvm.ClassFile.FieldType.boolean) 1 := ⟨⟨TX3, 21, rfl⟩, Or.inl q1852, q1854, qs41, q81, q1855, ⟨by decide +kernel, by decide +kernel, by decide +kernel⟩⟩
abbrev M_X3_bondIt : aM := (yX3_bondIt.cls, cX3_bondIt, 5, (Option.some Jvm.ClassFile.FieldType.int), [], yX3_bondIt.name)
def t_X3_bondIt (s : tS) (x0 : Int32) (x1 : Int32) (x2 : Int32) : Option (Int32 × tS) :=
  (t_X3_isGardener s x0).bind fun r3 =>
  if r3.1 = 0 then
    (tld 0 r3.2 0).bind fun z95 =>
    (t_X3_refuse r3.2 4 z95).bind fun r98 =>
    some (r98.1, r98.2)
  else
    (t_X3_isVisitor r3.2 x1).bind fun r8 =>
    if r8.1 = 0 then
      (tld 0 r8.2 1).bind fun z89 =>
      (t_X3_refuse r8.2 7 z89).bind fun r92 =>
      some (r92.1, r92.2)
    else
      (t_X3_in ((x2 : Int32).toInt64) 1 5).bind fun r13 =>
      if r13 = 0 then
        (t_X3_refuse r8.2 1 0).bind fun r86 =>
        some (r86.1, r86.2)
      else
        (t_X3_visitorAt x1).bind fun r18 =>
        (tld 0 r8.2 (r18 + 7)).bind fun z21 =>
        if z21 = 1 then
          (tld 0 r8.2 (r18 + 2)).bind fun z79 =>
          (t_X3_refuse r8.2 9 z79).bind fun r82 =>
          some (r82.1, r82.2)
        else
          (tld 0 r8.2 (r18 + 4)).bind fun z24 =>
          if z24 = (-1) then
            (t_X3_meets r8.2 x1).bind fun r28 =>
            if r28.1 = 0 then
              (tld 0 r28.2 r18).bind fun z32 =>
              if (2 * x2) ≤ z32 then
                (tld 0 r28.2 r18).bind fun z35 =>
                (tst 0 r28.2 r18 (z35 - (2 * x2))).bind fun s37 =>
                (tst 0 s37 (r18 + 4) x0).bind fun s39 =>
                (tst 0 s39 (r18 + 5) x2).bind fun s41 =>
                (t_X3_gardenerAt x0).bind fun r44 =>
                (tld 0 s41 r44).bind fun z47 =>
                (tst 0 s41 r44 (z47 + (2 * x2))).bind fun s49 =>
                (t_X3_gardenerAt x0).bind fun r52 =>
                (tld 0 s49 (r52 + 1)).bind fun z55 =>
                (tst 0 s49 (r52 + 1) (z55 + (2 * x2))).bind fun s57 =>
                (tld 0 s57 r18).bind fun z59 =>
                some (z59, s57)
              else
                (tld 0 r28.2 r18).bind fun z61 =>
                (t_X3_refuse r28.2 5 ((2 * x2) - z61)).bind fun r64 =>
                some (r64.1, r64.2)
            else
              (tld 0 r28.2 2).bind fun z67 =>
              (t_X3_refuse r28.2 10 z67).bind fun r70 =>
              some (r70.1, r70.2)
          else
            (tld 0 r8.2 (r18 + 4)).bind fun z73 =>
            (t_X3_refuse r8.2 8 z73).bind fun r76 =>
            some (r76.1, r76.2)
theorem k_X3_bondIt {G : aG} {B : aH} {T : Nat → Nat} (ht : tOk (gZ G) T) {s : tS} {x0 : Int32} {x1 : Int32} {x2 : Int32} {e : (Int32 × tS)} (hT : t_X3_bondIt s x0 x1 x2 = some e) : aMet G yX3_bondIt (ws_ yX3_bondIt cX3_bondIt 5 (Option.some Jvm.ClassFile.FieldType.int)) 3 47 [.ref (T 100), .int x0, .int x1, .int x2] (tput (gZ G) B T s) (aEI e.1 (tput (gZ G) B T e.2)) := by
  refine aMet.of (lv := [some (.ref (T 100)), some (.int x0), some (.int x1), some (.int x2), none]) (by decide) (Nat.le_of_ble_eq_true rfl) 1 rfl ?_
  have he : aTo (aEI e.1 (tput (gZ G) B T e.2)) (aEI e.1 (tput (gZ G) B T e.2)) := aTo.rf
  unfold t_X3_bondIt at hT
  refine a_aload_n dX3_bondIt_0 rfl ?_
  refine a_iload_n dX3_bondIt_1 rfl ?_
  obtain ⟨r3, e4, hT⟩ := obnd hT
  refine a_callV kv_X3_117 (tw_is ht) (k_X3_isGardener ht e4) ⟨Nat.le_of_ble_eq_true rfl, Nat.le_of_ble_eq_true rfl⟩ (As := [.int x0]) (rest := []) rfl rfl (Nat.le_of_ble_eq_true rfl) dX3_bondIt_2 (kI ?_) xI
  refine a_if_ne 20 dX3_bondIt_5 rfl (fun c5 => ?_) (fun c5 => ?_)
  · have hT := oifn c5 hT
    refine a_aload_n dX3_bondIt_20 rfl ?_
    refine a_iload_n dX3_bondIt_21 rfl ?_
    obtain ⟨r8, e9, hT⟩ := obnd hT
    refine a_callV kv_X3_154 (tw_is ht) (k_X3_isVisitor ht e9) ⟨Nat.le_of_ble_eq_true rfl, Nat.le_of_ble_eq_true rfl⟩ (As := [.int x1]) (rest := []) rfl rfl (Nat.le_of_ble_eq_true rfl) dX3_bondIt_22 (kI ?_) xI
    refine a_if_ne 41 dX3_bondIt_25 rfl (fun c10 => ?_) (fun c10 => ?_)
    · have hT := oifn c10 hT
      refine a_iload_n dX3_bondIt_41 rfl ?_
      refine a_i2l dX3_bondIt_42 ?_
      refine a_lconst (v := 1) dX3_bondIt_43 (by decide) ?_
      refine a_ldc2 q1907 dX3_bondIt_44 ?_
      obtain ⟨r13, e14, hT⟩ := obnd hT
      refine a_callS ks_X3_59 (k_X3_in e14) ⟨Nat.le_of_ble_eq_true rfl, Nat.le_of_ble_eq_true rfl⟩ (As := [.long ((x2 : Int32).toInt64), .long 1, .long 5]) (rest := []) rfl rfl (Nat.le_of_ble_eq_true rfl) dX3_bondIt_47 (kI ?_) xI
      refine a_if_ne 60 dX3_bondIt_50 rfl (fun c15 => ?_) (fun c15 => ?_)
      · have hT := oifn c15 hT
        refine a_iload_n dX3_bondIt_60 rfl ?_
        obtain ⟨r18, e19, hT⟩ := obnd hT
        refine a_callS ks_X3_126 (k_X3_visitorAt e19) ⟨Nat.le_of_ble_eq_true rfl, Nat.le_of_ble_eq_true rfl⟩ (As := [.int x1]) (rest := []) rfl rfl (Nat.le_of_ble_eq_true rfl) dX3_bondIt_61 (kI ?_) xI
        refine a_istore (lv' := [some (.ref (T 100)), some (.int x0), some (.int x1), some (.int x2), some (.int r18)]) dX3_bondIt_64 rfl (by decide) rfl ?_
        refine a_aload_n dX3_bondIt_66 rfl ?_
        refine a_gA fl_X3_9_2 (tw_gA ht 0 (by decide)) dX3_bondIt_67 ?_
        refine a_iload dX3_bondIt_70 rfl ?_
        refine a_bipush (v := 7) dX3_bondIt_72 (by decide) ?_
        refine a_iadd dX3_bondIt_74 ?_
        obtain ⟨z21, e20, hT⟩ := obnd hT
        refine a_ldI (tw_ld ht 0 (by decide) e20) dX3_bondIt_75 ?_
        refine a_iconst (v := 1) dX3_bondIt_76 (by decide) ?_
        refine a_icmp_ne 96 dX3_bondIt_77 rfl (fun c22 => ?_) (fun c22 => ?_)
        · have hT := oifn c22 hT
          refine a_aload_n dX3_bondIt_96 rfl ?_
          refine a_gA fl_X3_9_2 (tw_gA ht 0 (by decide)) dX3_bondIt_97 ?_
          refine a_iload dX3_bondIt_100 rfl ?_
          refine a_iconst (v := 4) dX3_bondIt_102 (by decide) ?_
          refine a_iadd dX3_bondIt_103 ?_
          obtain ⟨z24, e23, hT⟩ := obnd hT
          refine a_ldI (tw_ld ht 0 (by decide) e23) dX3_bondIt_104 ?_
          refine a_iconst (v := (-1)) dX3_bondIt_105 (by decide) ?_
          refine a_icmp_eq 125 dX3_bondIt_106 rfl (fun c25 => ?_) (fun c25 => ?_)
          · have hT := oifp c25 hT
            refine a_aload_n dX3_bondIt_125 rfl ?_
            refine a_iload_n dX3_bondIt_126 rfl ?_
            obtain ⟨r28, e29, hT⟩ := obnd hT
            refine a_callV kv_X3_131 (tw_is ht) (k_X3_meets ht e29) ⟨Nat.le_of_ble_eq_true rfl, Nat.le_of_ble_eq_true rfl⟩ (As := [.int x1]) (rest := []) rfl rfl (Nat.le_of_ble_eq_true rfl) dX3_bondIt_127 (kI ?_) xI
            refine a_if_eq 146 dX3_bondIt_130 rfl (fun c30 => ?_) (fun c30 => ?_)
            · have hT := oifp c30 hT
              refine a_aload_n dX3_bondIt_146 rfl ?_
              refine a_gA fl_X3_9_2 (tw_gA ht 0 (by decide)) dX3_bondIt_147 ?_
              refine a_iload dX3_bondIt_150 rfl ?_
              obtain ⟨z32, e31, hT⟩ := obnd hT
              refine a_ldI (tw_ld ht 0 (by decide) e31) dX3_bondIt_152 ?_
              refine a_iconst (v := 2) dX3_bondIt_153 (by decide) ?_
              refine a_iload_n dX3_bondIt_154 rfl ?_
              refine a_imul dX3_bondIt_155 ?_
              refine a_icmp_ge 176 dX3_bondIt_156 rfl (fun c33 => ?_) (fun c33 => ?_)
              · have hT := oifp c33 hT
                refine a_aload_n dX3_bondIt_176 rfl ?_
                refine a_gA fl_X3_9_2 (tw_gA ht 0 (by decide)) dX3_bondIt_177 ?_
                refine a_iload dX3_bondIt_180 rfl ?_
                refine a_dup2_11 dX3_bondIt_182 rfl rfl ?_
                obtain ⟨z35, e34, hT⟩ := obnd hT
                refine a_ldI (tw_ld ht 0 (by decide) e34) dX3_bondIt_183 ?_
                refine a_iconst (v := 2) dX3_bondIt_184 (by decide) ?_
                refine a_iload_n dX3_bondIt_185 rfl ?_
                refine a_imul dX3_bondIt_186 ?_
                refine a_isub dX3_bondIt_187 ?_
                obtain ⟨s37, e36, hT⟩ := obnd hT
                refine a_stI (tw_st ht 0 (by decide) e36) dX3_bondIt_188 ?_
                refine a_aload_n dX3_bondIt_189 rfl ?_
                refine a_gA fl_X3_9_2 (tw_gA ht 0 (by decide)) dX3_bondIt_190 ?_
                refine a_iload dX3_bondIt_193 rfl ?_
                refine a_iconst (v := 4) dX3_bondIt_195 (by decide) ?_
                refine a_iadd dX3_bondIt_196 ?_
                refine a_iload_n dX3_bondIt_197 rfl ?_
                obtain ⟨s39, e38, hT⟩ := obnd hT
                refine a_stI (tw_st ht 0 (by decide) e38) dX3_bondIt_198 ?_
                refine a_aload_n dX3_bondIt_199 rfl ?_
                refine a_gA fl_X3_9_2 (tw_gA ht 0 (by decide)) dX3_bondIt_200 ?_
                refine a_iload dX3_bondIt_203 rfl ?_
                refine a_iconst (v := 5) dX3_bondIt_205 (by decide) ?_
                refine a_iadd dX3_bondIt_206 ?_
                refine a_iload_n dX3_bondIt_207 rfl ?_
                obtain ⟨s41, e40, hT⟩ := obnd hT
                refine a_stI (tw_st ht 0 (by decide) e40) dX3_bondIt_208 ?_
                refine a_aload_n dX3_bondIt_209 rfl ?_
                refine a_gA fl_X3_9_2 (tw_gA ht 0 (by decide)) dX3_bondIt_210 ?_
                refine a_iload_n dX3_bondIt_213 rfl ?_
                obtain ⟨r44, e45, hT⟩ := obnd hT
                refine a_callS ks_X3_120 (k_X3_gardenerAt e45) ⟨Nat.le_of_ble_eq_true rfl, Nat.le_of_ble_eq_true rfl⟩ (As := [.int x0]) (rest := [.ref (T 0)]) rfl rfl (Nat.le_of_ble_eq_true rfl) dX3_bondIt_214 (kI ?_) xI
                refine a_dup2_11 dX3_bondIt_217 rfl rfl ?_
                obtain ⟨z47, e46, hT⟩ := obnd hT
                refine a_ldI (tw_ld ht 0 (by decide) e46) dX3_bondIt_218 ?_
                refine a_iconst (v := 2) dX3_bondIt_219 (by decide) ?_
                refine a_iload_n dX3_bondIt_220 rfl ?_
                refine a_imul dX3_bondIt_221 ?_
                refine a_iadd dX3_bondIt_222 ?_
                obtain ⟨s49, e48, hT⟩ := obnd hT
                refine a_stI (tw_st ht 0 (by decide) e48) dX3_bondIt_223 ?_
                refine a_aload_n dX3_bondIt_224 rfl ?_
                refine a_gA fl_X3_9_2 (tw_gA ht 0 (by decide)) dX3_bondIt_225 ?_
                refine a_iload_n dX3_bondIt_228 rfl ?_
                obtain ⟨r52, e53, hT⟩ := obnd hT
                refine a_callS ks_X3_120 (k_X3_gardenerAt e53) ⟨Nat.le_of_ble_eq_true rfl, Nat.le_of_ble_eq_true rfl⟩ (As := [.int x0]) (rest := [.ref (T 0)]) rfl rfl (Nat.le_of_ble_eq_true rfl) dX3_bondIt_229 (kI ?_) xI
                refine a_iconst (v := 1) dX3_bondIt_232 (by decide) ?_
                refine a_iadd dX3_bondIt_233 ?_
                refine a_dup2_11 dX3_bondIt_234 rfl rfl ?_
                obtain ⟨z55, e54, hT⟩ := obnd hT
                refine a_ldI (tw_ld ht 0 (by decide) e54) dX3_bondIt_235 ?_
                refine a_iconst (v := 2) dX3_bondIt_236 (by decide) ?_
                refine a_iload_n dX3_bondIt_237 rfl ?_
                refine a_imul dX3_bondIt_238 ?_
                refine a_iadd dX3_bondIt_239 ?_
                obtain ⟨s57, e56, hT⟩ := obnd hT
                refine a_stI (tw_st ht 0 (by decide) e56) dX3_bondIt_240 ?_
                refine a_aload_n dX3_bondIt_241 rfl ?_
                refine a_gA fl_X3_9_2 (tw_gA ht 0 (by decide)) dX3_bondIt_242 ?_
                refine a_iload dX3_bondIt_245 rfl ?_
                obtain ⟨z59, e58, hT⟩ := obnd hT
                refine a_ldI (tw_ld ht 0 (by decide) e58) dX3_bondIt_247 ?_
                cases hT
                exact a_iret rfl rfl dX3_bondIt_248 (he _ _ ⟨rfl, rfl⟩)
              · have hT := oifn c33 hT
                refine a_aload_n dX3_bondIt_159 rfl ?_
                refine a_iconst (v := 5) dX3_bondIt_160 (by decide) ?_
                refine a_iconst (v := 2) dX3_bondIt_161 (by decide) ?_
                refine a_iload_n dX3_bondIt_162 rfl ?_
                refine a_imul dX3_bondIt_163 ?_
                refine a_aload_n dX3_bondIt_164 rfl ?_
                refine a_gA fl_X3_9_2 (tw_gA ht 0 (by decide)) dX3_bondIt_165 ?_
                refine a_iload dX3_bondIt_168 rfl ?_
                obtain ⟨z61, e60, hT⟩ := obnd hT
                refine a_ldI (tw_ld ht 0 (by decide) e60) dX3_bondIt_170 ?_
                refine a_isub dX3_bondIt_171 ?_
                obtain ⟨r64, e65, hT⟩ := obnd hT
                refine a_callV kv_X3_91 (tw_is ht) (k_X3_refuse ht e65) ⟨Nat.le_of_ble_eq_true rfl, Nat.le_of_ble_eq_true rfl⟩ (As := [.int 5, .int ((2 * x2) - z61)]) (rest := []) rfl rfl (Nat.le_of_ble_eq_true rfl) dX3_bondIt_172 (kI ?_) xI
                cases hT
                exact a_iret rfl rfl dX3_bondIt_175 (he _ _ ⟨rfl, rfl⟩)
            · have hT := oifn c30 hT
              refine a_aload_n dX3_bondIt_133 rfl ?_
              refine a_bipush (v := 10) dX3_bondIt_134 (by decide) ?_
              refine a_aload_n dX3_bondIt_136 rfl ?_
              refine a_gA fl_X3_9_2 (tw_gA ht 0 (by decide)) dX3_bondIt_137 ?_
              refine a_iconst (v := 2) dX3_bondIt_140 (by decide) ?_
              obtain ⟨z67, e66, hT⟩ := obnd hT
              refine a_ldI (tw_ld ht 0 (by decide) e66) dX3_bondIt_141 ?_
              obtain ⟨r70, e71, hT⟩ := obnd hT
              refine a_callV kv_X3_91 (tw_is ht) (k_X3_refuse ht e71) ⟨Nat.le_of_ble_eq_true rfl, Nat.le_of_ble_eq_true rfl⟩ (As := [.int 10, .int z67]) (rest := []) rfl rfl (Nat.le_of_ble_eq_true rfl) dX3_bondIt_142 (kI ?_) xI
              cases hT
              exact a_iret rfl rfl dX3_bondIt_145 (he _ _ ⟨rfl, rfl⟩)
          · have hT := oifn c25 hT
            refine a_aload_n dX3_bondIt_109 rfl ?_
            refine a_bipush (v := 8) dX3_bondIt_110 (by decide) ?_
            refine a_aload_n dX3_bondIt_112 rfl ?_
            refine a_gA fl_X3_9_2 (tw_gA ht 0 (by decide)) dX3_bondIt_113 ?_
            refine a_iload dX3_bondIt_116 rfl ?_
            refine a_iconst (v := 4) dX3_bondIt_118 (by decide) ?_
            refine a_iadd dX3_bondIt_119 ?_
            obtain ⟨z73, e72, hT⟩ := obnd hT
            refine a_ldI (tw_ld ht 0 (by decide) e72) dX3_bondIt_120 ?_
            obtain ⟨r76, e77, hT⟩ := obnd hT
            refine a_callV kv_X3_91 (tw_is ht) (k_X3_refuse ht e77) ⟨Nat.le_of_ble_eq_true rfl, Nat.le_of_ble_eq_true rfl⟩ (As := [.int 8, .int z73]) (rest := []) rfl rfl (Nat.le_of_ble_eq_true rfl) dX3_bondIt_121 (kI ?_) xI
            cases hT
            exact a_iret rfl rfl dX3_bondIt_124 (he _ _ ⟨rfl, rfl⟩)
        · have hT := oifp c22 hT
          refine a_aload_n dX3_bondIt_80 rfl ?_
          refine a_bipush (v := 9) dX3_bondIt_81 (by decide) ?_
          refine a_aload_n dX3_bondIt_83 rfl ?_
          refine a_gA fl_X3_9_2 (tw_gA ht 0 (by decide)) dX3_bondIt_84 ?_
          refine a_iload dX3_bondIt_87 rfl ?_
          refine a_iconst (v := 2) dX3_bondIt_89 (by decide) ?_
          refine a_iadd dX3_bondIt_90 ?_
          obtain ⟨z79, e78, hT⟩ := obnd hT
          refine a_ldI (tw_ld ht 0 (by decide) e78) dX3_bondIt_91 ?_
          obtain ⟨r82, e83, hT⟩ := obnd hT
          refine a_callV kv_X3_91 (tw_is ht) (k_X3_refuse ht e83) ⟨Nat.le_of_ble_eq_true rfl, Nat.le_of_ble_eq_true rfl⟩ (As := [.int 9, .int z79]) (rest := []) rfl rfl (Nat.le_of_ble_eq_true rfl) dX3_bondIt_92 (kI ?_) xI
          cases hT
          exact a_iret rfl rfl dX3_bondIt_95 (he _ _ ⟨rfl, rfl⟩)
      · have hT := oifp c15 hT
        refine a_aload_n dX3_bondIt_53 rfl ?_
        refine a_iconst (v := 1) dX3_bondIt_54 (by decide) ?_
        refine a_iconst (v := 0) dX3_bondIt_55 (by decide) ?_
        obtain ⟨r86, e87, hT⟩ := obnd hT
        refine a_callV kv_X3_91 (tw_is ht) (k_X3_refuse ht e87) ⟨Nat.le_of_ble_eq_true rfl, Nat.le_of_ble_eq_true rfl⟩ (As := [.int 1, .int 0]) (rest := []) rfl rfl (Nat.le_of_ble_eq_true rfl) dX3_bondIt_56 (kI ?_) xI
        cases hT
        exact a_iret rfl rfl dX3_bondIt_59 (he _ _ ⟨rfl, rfl⟩)
    · have hT := oifp c10 hT
      refine a_aload_n dX3_bondIt_28 rfl ?_
      refine a_bipush (v := 7) dX3_bondIt_29 (by decide) ?_
      refine a_aload_n dX3_bondIt_31 rfl ?_
      refine a_gA fl_X3_9_2 (tw_gA ht 0 (by decide)) dX3_bondIt_32 ?_
      refine a_iconst (v := 1) dX3_bondIt_35 (by decide) ?_
      obtain ⟨z89, e88, hT⟩ := obnd hT
      refine a_ldI (tw_ld ht 0 (by decide) e88) dX3_bondIt_36 ?_
      obtain ⟨r92, e93, hT⟩ := obnd hT
      refine a_callV kv_X3_91 (tw_is ht) (k_X3_refuse ht e93) ⟨Nat.le_of_ble_eq_true rfl, Nat.le_of_ble_eq_true rfl⟩ (As := [.int 7, .int z89]) (rest := []) rfl rfl (Nat.le_of_ble_eq_true rfl) dX3_bondIt_37 (kI ?_) xI
      cases hT
      exact a_iret rfl rfl dX3_bondIt_40 (he _ _ ⟨rfl, rfl⟩)
  · have hT := oifp c5 hT
    refine a_aload_n dX3_bondIt_8 rfl ?_
    refine a_iconst (v := 4) dX3_bondIt_9 (by decide) ?_
    refine a_aload_n dX3_bondIt_10 rfl ?_
    refine a_gA fl_X3_9_2 (tw_gA ht 0 (by decide)) dX3_bondIt_11 ?_
    refine a_iconst (v := 0) dX3_bondIt_14 (by decide) ?_
    obtain ⟨z95, e94, hT⟩ := obnd hT
    refine a_ldI (tw_ld ht 0 (by decide) e94) dX3_bondIt_15 ?_
    obtain ⟨r98, e99, hT⟩ := obnd hT
    refine a_callV kv_X3_91 (tw_is ht) (k_X3_refuse ht e99) ⟨Nat.le_of_ble_eq_true rfl, Nat.le_of_ble_eq_true rfl⟩ (As := [.int 4, .int z95]) (rest := []) rfl rfl (Nat.le_of_ble_eq_true rfl) dX3_bondIt_16 (kI ?_) xI
    cases hT
    exact a_iret rfl rfl dX3_bondIt_19 (he _ _ ⟨rfl, rfl⟩)
theorem kv_X3_165 : aKV "MazeBondsModel" 165 2 yX3_pays cX3_pays 5 (Option.some Jvm.ClassFile.FieldType.int) 2 := ⟨⟨TX3, 21, rfl⟩, Or.inl q1920, q1922, qs51, q81, q1923, ⟨by decide +kernel, by decide +kernel, by decide +kernel⟩⟩
abbrev M_X3_walkIt : aM := (yX3_walkIt.cls, cX3_walkIt, 7, (Option.some Jvm.ClassFile.FieldType.int), [], yX3_walkIt.name)
def t_X3_walkIt_l288 (s : tS) (v3 : Int32) (v5 : Int32) : Option (Int32 × tS) :=
  (tst 0 s (v3 + 7) 1).bind fun s66 =>
  (tst 0 s66 (v3 + 4) (-1)).bind fun s68 =>
  (tst 0 s68 (v3 + 5) 0).bind fun s70 =>
  (tst 0 s70 (v3 + 6) 0).bind fun s72 =>
  some (v5, s72)
theorem k_X3_walkIt_l288 {G : aG} {h0 B : aH} {T : Nat → Nat} {K : aRes → aH → Prop} (ht : tOk (gZ G) T) {s : tS} {v3 : Int32} {v5 : Int32} {e : (Int32 × tS)} (hT : t_X3_walkIt_l288 s v3 v5 = some e) (he : (fun e => aTo (aEI e.1 (tput (gZ G) B T e.2)) K) e) : aW G M_X3_walkIt 3 64 h0 K (tput (gZ G) B T s) 288 [some (.ref (T 100)), none, none, some (.int v3), none, some (.int v5), none] [] := by
  unfold t_X3_walkIt_l288 at hT
  refine a_aload_n dX3_walkIt_288 rfl ?_
  refine a_gA fl_X3_9_2 (tw_gA ht 0 (by decide)) dX3_walkIt_289 ?_
  refine a_iload_n dX3_walkIt_292 rfl ?_
  refine a_bipush (v := 7) dX3_walkIt_293 (by decide) ?_
  refine a_iadd dX3_walkIt_295 ?_
  refine a_iconst (v := 1) dX3_walkIt_296 (by decide) ?_
  obtain ⟨s66, e65, hT⟩ := obnd hT
  refine a_stI (tw_st ht 0 (by decide) e65) dX3_walkIt_297 ?_
  refine a_aload_n dX3_walkIt_298 rfl ?_
  refine a_gA fl_X3_9_2 (tw_gA ht 0 (by decide)) dX3_walkIt_299 ?_
  refine a_iload_n dX3_walkIt_302 rfl ?_
  refine a_iconst (v := 4) dX3_walkIt_303 (by decide) ?_
  refine a_iadd dX3_walkIt_304 ?_
  refine a_iconst (v := (-1)) dX3_walkIt_305 (by decide) ?_
  obtain ⟨s68, e67, hT⟩ := obnd hT
  refine a_stI (tw_st ht 0 (by decide) e67) dX3_walkIt_306 ?_
  refine a_aload_n dX3_walkIt_307 rfl ?_
  refine a_gA fl_X3_9_2 (tw_gA ht 0 (by decide)) dX3_walkIt_308 ?_
  refine a_iload_n dX3_walkIt_311 rfl ?_
  refine a_iconst (v := 5) dX3_walkIt_312 (by decide) ?_
  refine a_iadd dX3_walkIt_313 ?_
  refine a_iconst (v := 0) dX3_walkIt_314 (by decide) ?_
  obtain ⟨s70, e69, hT⟩ := obnd hT
  refine a_stI (tw_st ht 0 (by decide) e69) dX3_walkIt_315 ?_
  refine a_aload_n dX3_walkIt_316 rfl ?_
  refine a_gA fl_X3_9_2 (tw_gA ht 0 (by decide)) dX3_walkIt_317 ?_
  refine a_iload_n dX3_walkIt_320 rfl ?_
  refine a_bipush (v := 6) dX3_walkIt_321 (by decide) ?_
  refine a_iadd dX3_walkIt_323 ?_
  refine a_iconst (v := 0) dX3_walkIt_324 (by decide) ?_
  obtain ⟨s72, e71, hT⟩ := obnd hT
  refine a_stI (tw_st ht 0 (by decide) e71) dX3_walkIt_325 ?_
  refine a_iload dX3_walkIt_326 rfl ?_
  cases hT
  exact a_iret rfl rfl dX3_walkIt_328 (he _ _ ⟨rfl, rfl⟩)
def t_X3_walkIt_l201 (s : tS) (v1 : Int32) (v3 : Int32) (v5 : Int32) (u0 : Int32) (u1 : Int32) : Option (Int32 × tS) :=
  (tst 0 s u1 u0).bind fun s48 =>
  if v5 = 15 then
    (t_X3_lostOf s48 v1).bind fun r52 =>
    (t_X3_pays r52.2 v1 r52.1).bind fun r56 =>
    (tld 0 r56.2 v3).bind fun z59 =>
    (tst 0 r56.2 v3 (z59 + r56.1)).bind fun s61 =>
    (tld 0 s61 (v3 + 4)).bind fun z63 =>
    if z63 = (-1) then
      t_X3_walkIt_l288 s61 v3 v5
    else
      (tld 0 s61 (v3 + 4)).bind fun z74 =>
      (t_X3_gardenerAt z74).bind fun r77 =>
      (tld 0 s61 r77).bind fun z80 =>
      (tst 0 s61 r77 (z80 - r56.1)).bind fun s82 =>
      (tld 0 s82 (v3 + 4)).bind fun z84 =>
      (t_X3_gardenerAt z84).bind fun r87 =>
      (tld 0 s82 (r87 + 2)).bind fun z90 =>
      (tst 0 s82 (r87 + 2) (z90 + r56.1)).bind fun s92 =>
      t_X3_walkIt_l288 s92 v3 v5
  else
    some (v5, s48)
theorem k_X3_walkIt_l201 {G : aG} {h0 B : aH} {T : Nat → Nat} {K : aRes → aH → Prop} (ht : tOk (gZ G) T) {s : tS} {v1 : Int32} {v3 : Int32} {v5 : Int32} {u0 : Int32} {u1 : Int32} {e : (Int32 × tS)} (hT : t_X3_walkIt_l201 s v1 v3 v5 u0 u1 = some e) (he : (fun e => aTo (aEI e.1 (tput (gZ G) B T e.2)) K) e) : aW G M_X3_walkIt 3 64 h0 K (tput (gZ G) B T s) 201 [some (.ref (T 100)), some (.int v1), none, some (.int v3), none, some (.int v5), none] [.int u0, .int u1, .ref (T 0)] := by
  unfold t_X3_walkIt_l201 at hT
  obtain ⟨s48, e47, hT⟩ := obnd hT
  refine a_stI (tw_st ht 0 (by decide) e47) dX3_walkIt_201 ?_
  refine a_iload dX3_walkIt_202 rfl ?_
  refine a_bipush (v := 15) dX3_walkIt_204 (by decide) ?_
  refine a_icmp_ne 326 dX3_walkIt_206 rfl (fun c49 => ?_) (fun c49 => ?_)
  · have hT := oifn c49 hT
    refine a_iload dX3_walkIt_326 rfl ?_
    cases hT
    exact a_iret rfl rfl dX3_walkIt_328 (he _ _ ⟨rfl, rfl⟩)
  · have hT := oifp c49 hT
    refine a_aload_n dX3_walkIt_209 rfl ?_
    refine a_iload_n dX3_walkIt_210 rfl ?_
    refine a_aload_n dX3_walkIt_211 rfl ?_
    refine a_iload_n dX3_walkIt_212 rfl ?_
    obtain ⟨r52, e53, hT⟩ := obnd hT
    refine a_callV kv_X3_162 (tw_is ht) (k_X3_lostOf ht e53) ⟨Nat.le_of_ble_eq_true rfl, Nat.le_of_ble_eq_true rfl⟩ (As := [.int v1]) (rest := [.int v1, .ref (T 100)]) rfl rfl (Nat.le_of_ble_eq_true rfl) dX3_walkIt_213 (kI ?_) xI
    obtain ⟨r56, e57, hT⟩ := obnd hT
    refine a_callV kv_X3_165 (tw_is ht) (k_X3_pays ht e57) ⟨Nat.le_of_ble_eq_true rfl, Nat.le_of_ble_eq_true rfl⟩ (As := [.int v1, .int r52.1]) (rest := []) rfl rfl (Nat.le_of_ble_eq_true rfl) dX3_walkIt_216 (kI ?_) xI
    refine a_istore (lv' := [some (.ref (T 100)), some (.int v1), none, some (.int v3), none, some (.int v5), some (.int r56.1)]) dX3_walkIt_219 rfl (by decide) rfl ?_
    refine a_aload_n dX3_walkIt_221 rfl ?_
    refine a_gA fl_X3_9_2 (tw_gA ht 0 (by decide)) dX3_walkIt_222 ?_
    refine a_iload_n dX3_walkIt_225 rfl ?_
    refine a_dup2_11 dX3_walkIt_226 rfl rfl ?_
    obtain ⟨z59, e58, hT⟩ := obnd hT
    refine a_ldI (tw_ld ht 0 (by decide) e58) dX3_walkIt_227 ?_
    refine a_iload dX3_walkIt_228 rfl ?_
    refine a_iadd dX3_walkIt_230 ?_
    obtain ⟨s61, e60, hT⟩ := obnd hT
    refine a_stI (tw_st ht 0 (by decide) e60) dX3_walkIt_231 ?_
    refine a_aload_n dX3_walkIt_232 rfl ?_
    refine a_gA fl_X3_9_2 (tw_gA ht 0 (by decide)) dX3_walkIt_233 ?_
    refine a_iload_n dX3_walkIt_236 rfl ?_
    refine a_iconst (v := 4) dX3_walkIt_237 (by decide) ?_
    refine a_iadd dX3_walkIt_238 ?_
    obtain ⟨z63, e62, hT⟩ := obnd hT
    refine a_ldI (tw_ld ht 0 (by decide) e62) dX3_walkIt_239 ?_
    refine a_iconst (v := (-1)) dX3_walkIt_240 (by decide) ?_
    refine a_icmp_eq 288 dX3_walkIt_241 rfl (fun c64 => ?_) (fun c64 => ?_)
    · have hT := oifp c64 hT
      refine a_mask [true, false, true, true, true, true, false] ?_
      exact k_X3_walkIt_l288 ht hT he
    · have hT := oifn c64 hT
      refine a_aload_n dX3_walkIt_244 rfl ?_
      refine a_gA fl_X3_9_2 (tw_gA ht 0 (by decide)) dX3_walkIt_245 ?_
      refine a_aload_n dX3_walkIt_248 rfl ?_
      refine a_gA fl_X3_9_2 (tw_gA ht 0 (by decide)) dX3_walkIt_249 ?_
      refine a_iload_n dX3_walkIt_252 rfl ?_
      refine a_iconst (v := 4) dX3_walkIt_253 (by decide) ?_
      refine a_iadd dX3_walkIt_254 ?_
      obtain ⟨z74, e73, hT⟩ := obnd hT
      refine a_ldI (tw_ld ht 0 (by decide) e73) dX3_walkIt_255 ?_
      obtain ⟨r77, e78, hT⟩ := obnd hT
      refine a_callS ks_X3_120 (k_X3_gardenerAt e78) ⟨Nat.le_of_ble_eq_true rfl, Nat.le_of_ble_eq_true rfl⟩ (As := [.int z74]) (rest := [.ref (T 0)]) rfl rfl (Nat.le_of_ble_eq_true rfl) dX3_walkIt_256 (kI ?_) xI
      refine a_dup2_11 dX3_walkIt_259 rfl rfl ?_
      obtain ⟨z80, e79, hT⟩ := obnd hT
      refine a_ldI (tw_ld ht 0 (by decide) e79) dX3_walkIt_260 ?_
      refine a_iload dX3_walkIt_261 rfl ?_
      refine a_isub dX3_walkIt_263 ?_
      obtain ⟨s82, e81, hT⟩ := obnd hT
      refine a_stI (tw_st ht 0 (by decide) e81) dX3_walkIt_264 ?_
      refine a_aload_n dX3_walkIt_265 rfl ?_
      refine a_gA fl_X3_9_2 (tw_gA ht 0 (by decide)) dX3_walkIt_266 ?_
      refine a_aload_n dX3_walkIt_269 rfl ?_
      refine a_gA fl_X3_9_2 (tw_gA ht 0 (by decide)) dX3_walkIt_270 ?_
      refine a_iload_n dX3_walkIt_273 rfl ?_
      refine a_iconst (v := 4) dX3_walkIt_274 (by decide) ?_
      refine a_iadd dX3_walkIt_275 ?_
      obtain ⟨z84, e83, hT⟩ := obnd hT
      refine a_ldI (tw_ld ht 0 (by decide) e83) dX3_walkIt_276 ?_
      obtain ⟨r87, e88, hT⟩ := obnd hT
      refine a_callS ks_X3_120 (k_X3_gardenerAt e88) ⟨Nat.le_of_ble_eq_true rfl, Nat.le_of_ble_eq_true rfl⟩ (As := [.int z84]) (rest := [.ref (T 0)]) rfl rfl (Nat.le_of_ble_eq_true rfl) dX3_walkIt_277 (kI ?_) xI
      refine a_iconst (v := 2) dX3_walkIt_280 (by decide) ?_
      refine a_iadd dX3_walkIt_281 ?_
      refine a_dup2_11 dX3_walkIt_282 rfl rfl ?_
      obtain ⟨z90, e89, hT⟩ := obnd hT
      refine a_ldI (tw_ld ht 0 (by decide) e89) dX3_walkIt_283 ?_
      refine a_iload dX3_walkIt_284 rfl ?_
      refine a_iadd dX3_walkIt_286 ?_
      obtain ⟨s92, e91, hT⟩ := obnd hT
      refine a_stI (tw_st ht 0 (by decide) e91) dX3_walkIt_287 ?_
      refine a_mask [true, false, true, true, true, true, false] ?_
      exact k_X3_walkIt_l288 ht hT he
def t_X3_walkIt_l192 (s : tS) (v1 : Int32) (v3 : Int32) (v5 : Int32) (u0 : Int32) : Option (Int32 × tS) :=
  (tld 0 s (v3 + 6)).bind fun z46 =>
  t_X3_walkIt_l201 s v1 v3 v5 z46 u0
theorem k_X3_walkIt_l192 {G : aG} {h0 B : aH} {T : Nat → Nat} {K : aRes → aH → Prop} (ht : tOk (gZ G) T) {s : tS} {v1 : Int32} {v3 : Int32} {v5 : Int32} {u0 : Int32} {e : (Int32 × tS)} (hT : t_X3_walkIt_l192 s v1 v3 v5 u0 = some e) (he : (fun e => aTo (aEI e.1 (tput (gZ G) B T e.2)) K) e) : aW G M_X3_walkIt 3 64 h0 K (tput (gZ G) B T s) 192 [some (.ref (T 100)), some (.int v1), none, some (.int v3), none, some (.int v5), none] [.int u0, .ref (T 0)] := by
  unfold t_X3_walkIt_l192 at hT
  refine a_aload_n dX3_walkIt_192 rfl ?_
  refine a_gA fl_X3_9_2 (tw_gA ht 0 (by decide)) dX3_walkIt_193 ?_
  refine a_iload_n dX3_walkIt_196 rfl ?_
  refine a_bipush (v := 6) dX3_walkIt_197 (by decide) ?_
  refine a_iadd dX3_walkIt_199 ?_
  obtain ⟨z46, e45, hT⟩ := obnd hT
  refine a_ldI (tw_ld ht 0 (by decide) e45) dX3_walkIt_200 ?_
  exact k_X3_walkIt_l201 ht hT he
def t_X3_walkIt (s : tS) (x0 : Int32) (x1 : Int32) : Option (Int32 × tS) :=
  (t_X3_isVisitor s x0).bind fun r3 =>
  if r3.1 = 0 then
    (tld 0 r3.2 1).bind fun z121 =>
    (t_X3_refuse r3.2 7 z121).bind fun r124 =>
    some (r124.1, r124.2)
  else
    (t_X3_in ((x1 : Int32).toInt64) 0 3).bind fun r8 =>
    if r8 = 0 then
      (t_X3_refuse r3.2 1 0).bind fun r118 =>
      some (r118.1, r118.2)
    else
      (t_X3_visitorAt x0).bind fun r13 =>
      (tld 0 r3.2 (r13 + 7)).bind fun z16 =>
      if z16 = 1 then
        (tld 0 r3.2 (r13 + 2)).bind fun z111 =>
        (t_X3_refuse r3.2 9 z111).bind fun r114 =>
        some (r114.1, r114.2)
      else
        (tld 0 r3.2 (r13 + 1)).bind fun z19 =>
        (t_X3_nextTo z19 x1).bind fun r22 =>
        if r22 = (-1) then
          (t_X3_refuse r3.2 11 z19).bind fun r108 =>
          some (r108.1, r108.2)
        else
          (t_X3_hedgeAt z19 r22).bind fun r27 =>
          (t_X3_isGapAt r3.2 r27).bind fun r31 =>
          if r31.1 = 0 then
            (t_X3_hedgeAt z19 r22).bind fun r98 =>
            (tld 0 r31.2 r98).bind fun z101 =>
            (t_X3_refuse r31.2 12 z101).bind fun r104 =>
            some (r104.1, r104.2)
          else
            (tst 0 r31.2 (r13 + 1) r22).bind fun s35 =>
            (tld 0 s35 (r13 + 2)).bind fun z37 =>
            (tst 0 s35 (r13 + 2) (z37 + 1)).bind fun s39 =>
            (t_X3_meets s39 x0).bind fun r42 =>
            if r42.1 = 0 then
              t_X3_walkIt_l192 r42.2 x0 r13 r22 (r13 + 6)
            else
              (tld 0 r42.2 (r13 + 5)).bind fun z94 =>
              if z94 ≤ 0 then
                t_X3_walkIt_l192 r42.2 x0 r13 r22 (r13 + 6)
              else
                t_X3_walkIt_l201 r42.2 x0 r13 r22 1 (r13 + 6)
theorem k_X3_walkIt {G : aG} {B : aH} {T : Nat → Nat} (ht : tOk (gZ G) T) {s : tS} {x0 : Int32} {x1 : Int32} {e : (Int32 × tS)} (hT : t_X3_walkIt s x0 x1 = some e) : aMet G yX3_walkIt (ws_ yX3_walkIt cX3_walkIt 7 (Option.some Jvm.ClassFile.FieldType.int)) 3 64 [.ref (T 100), .int x0, .int x1] (tput (gZ G) B T s) (aEI e.1 (tput (gZ G) B T e.2)) := by
  refine aMet.of (lv := [some (.ref (T 100)), some (.int x0), some (.int x1), none, none, none, none]) (by decide) (Nat.le_of_ble_eq_true rfl) 4 rfl ?_
  have he : aTo (aEI e.1 (tput (gZ G) B T e.2)) (aEI e.1 (tput (gZ G) B T e.2)) := aTo.rf
  unfold t_X3_walkIt at hT
  refine a_aload_n dX3_walkIt_0 rfl ?_
  refine a_iload_n dX3_walkIt_1 rfl ?_
  obtain ⟨r3, e4, hT⟩ := obnd hT
  refine a_callV kv_X3_154 (tw_is ht) (k_X3_isVisitor ht e4) ⟨Nat.le_of_ble_eq_true rfl, Nat.le_of_ble_eq_true rfl⟩ (As := [.int x0]) (rest := []) rfl rfl (Nat.le_of_ble_eq_true rfl) dX3_walkIt_2 (kI ?_) xI
  refine a_if_ne 21 dX3_walkIt_5 rfl (fun c5 => ?_) (fun c5 => ?_)
  · have hT := oifn c5 hT
    refine a_iload_n dX3_walkIt_21 rfl ?_
    refine a_i2l dX3_walkIt_22 ?_
    refine a_lconst (v := 0) dX3_walkIt_23 (by decide) ?_
    refine a_ldc2 q1887 dX3_walkIt_24 ?_
    obtain ⟨r8, e9, hT⟩ := obnd hT
    refine a_callS ks_X3_59 (k_X3_in e9) ⟨Nat.le_of_ble_eq_true rfl, Nat.le_of_ble_eq_true rfl⟩ (As := [.long ((x1 : Int32).toInt64), .long 0, .long 3]) (rest := []) rfl rfl (Nat.le_of_ble_eq_true rfl) dX3_walkIt_27 (kI ?_) xI
    refine a_if_ne 40 dX3_walkIt_30 rfl (fun c10 => ?_) (fun c10 => ?_)
    · have hT := oifn c10 hT
      refine a_iload_n dX3_walkIt_40 rfl ?_
      obtain ⟨r13, e14, hT⟩ := obnd hT
      refine a_callS ks_X3_126 (k_X3_visitorAt e14) ⟨Nat.le_of_ble_eq_true rfl, Nat.le_of_ble_eq_true rfl⟩ (As := [.int x0]) (rest := []) rfl rfl (Nat.le_of_ble_eq_true rfl) dX3_walkIt_41 (kI ?_) xI
      refine a_istore_n (lv' := [some (.ref (T 100)), some (.int x0), some (.int x1), some (.int r13), none, none, none]) dX3_walkIt_44 rfl (by decide) rfl ?_
      refine a_aload_n dX3_walkIt_45 rfl ?_
      refine a_gA fl_X3_9_2 (tw_gA ht 0 (by decide)) dX3_walkIt_46 ?_
      refine a_iload_n dX3_walkIt_49 rfl ?_
      refine a_bipush (v := 7) dX3_walkIt_50 (by decide) ?_
      refine a_iadd dX3_walkIt_52 ?_
      obtain ⟨z16, e15, hT⟩ := obnd hT
      refine a_ldI (tw_ld ht 0 (by decide) e15) dX3_walkIt_53 ?_
      refine a_iconst (v := 1) dX3_walkIt_54 (by decide) ?_
      refine a_icmp_ne 73 dX3_walkIt_55 rfl (fun c17 => ?_) (fun c17 => ?_)
      · have hT := oifn c17 hT
        refine a_aload_n dX3_walkIt_73 rfl ?_
        refine a_gA fl_X3_9_2 (tw_gA ht 0 (by decide)) dX3_walkIt_74 ?_
        refine a_iload_n dX3_walkIt_77 rfl ?_
        refine a_iconst (v := 1) dX3_walkIt_78 (by decide) ?_
        refine a_iadd dX3_walkIt_79 ?_
        obtain ⟨z19, e18, hT⟩ := obnd hT
        refine a_ldI (tw_ld ht 0 (by decide) e18) dX3_walkIt_80 ?_
        refine a_istore (lv' := [some (.ref (T 100)), some (.int x0), some (.int x1), some (.int r13), some (.int z19), none, none]) dX3_walkIt_81 rfl (by decide) rfl ?_
        refine a_iload dX3_walkIt_83 rfl ?_
        refine a_iload_n dX3_walkIt_85 rfl ?_
        obtain ⟨r22, e23, hT⟩ := obnd hT
        refine a_callS ks_X3_74 (k_X3_nextTo e23) ⟨Nat.le_of_ble_eq_true rfl, Nat.le_of_ble_eq_true rfl⟩ (As := [.int z19, .int x1]) (rest := []) rfl rfl (Nat.le_of_ble_eq_true rfl) dX3_walkIt_86 (kI ?_) xI
        refine a_istore (lv' := [some (.ref (T 100)), some (.int x0), some (.int x1), some (.int r13), some (.int z19), some (.int r22), none]) dX3_walkIt_89 rfl (by decide) rfl ?_
        refine a_iload dX3_walkIt_91 rfl ?_
        refine a_iconst (v := (-1)) dX3_walkIt_93 (by decide) ?_
        refine a_icmp_ne 106 dX3_walkIt_94 rfl (fun c24 => ?_) (fun c24 => ?_)
        · have hT := oifn c24 hT
          refine a_aload_n dX3_walkIt_106 rfl ?_
          refine a_iload dX3_walkIt_107 rfl ?_
          refine a_iload dX3_walkIt_109 rfl ?_
          obtain ⟨r27, e28, hT⟩ := obnd hT
          refine a_callS ks_X3_77 (k_X3_hedgeAt e28) ⟨Nat.le_of_ble_eq_true rfl, Nat.le_of_ble_eq_true rfl⟩ (As := [.int z19, .int r22]) (rest := [.ref (T 100)]) rfl rfl (Nat.le_of_ble_eq_true rfl) dX3_walkIt_111 (kI ?_) xI
          obtain ⟨r31, e32, hT⟩ := obnd hT
          refine a_callV kv_X3_80 (tw_is ht) (k_X3_isGapAt ht e32) ⟨Nat.le_of_ble_eq_true rfl, Nat.le_of_ble_eq_true rfl⟩ (As := [.int r27]) (rest := []) rfl rfl (Nat.le_of_ble_eq_true rfl) dX3_walkIt_114 (kI ?_) xI
          refine a_if_ne 139 dX3_walkIt_117 rfl (fun c33 => ?_) (fun c33 => ?_)
          · have hT := oifn c33 hT
            refine a_aload_n dX3_walkIt_139 rfl ?_
            refine a_gA fl_X3_9_2 (tw_gA ht 0 (by decide)) dX3_walkIt_140 ?_
            refine a_iload_n dX3_walkIt_143 rfl ?_
            refine a_iconst (v := 1) dX3_walkIt_144 (by decide) ?_
            refine a_iadd dX3_walkIt_145 ?_
            refine a_iload dX3_walkIt_146 rfl ?_
            obtain ⟨s35, e34, hT⟩ := obnd hT
            refine a_stI (tw_st ht 0 (by decide) e34) dX3_walkIt_148 ?_
            refine a_aload_n dX3_walkIt_149 rfl ?_
            refine a_gA fl_X3_9_2 (tw_gA ht 0 (by decide)) dX3_walkIt_150 ?_
            refine a_iload_n dX3_walkIt_153 rfl ?_
            refine a_iconst (v := 2) dX3_walkIt_154 (by decide) ?_
            refine a_iadd dX3_walkIt_155 ?_
            refine a_dup2_11 dX3_walkIt_156 rfl rfl ?_
            obtain ⟨z37, e36, hT⟩ := obnd hT
            refine a_ldI (tw_ld ht 0 (by decide) e36) dX3_walkIt_157 ?_
            refine a_iconst (v := 1) dX3_walkIt_158 (by decide) ?_
            refine a_iadd dX3_walkIt_159 ?_
            obtain ⟨s39, e38, hT⟩ := obnd hT
            refine a_stI (tw_st ht 0 (by decide) e38) dX3_walkIt_160 ?_
            refine a_aload_n dX3_walkIt_161 rfl ?_
            refine a_gA fl_X3_9_2 (tw_gA ht 0 (by decide)) dX3_walkIt_162 ?_
            refine a_iload_n dX3_walkIt_165 rfl ?_
            refine a_bipush (v := 6) dX3_walkIt_166 (by decide) ?_
            refine a_iadd dX3_walkIt_168 ?_
            refine a_aload_n dX3_walkIt_169 rfl ?_
            refine a_iload_n dX3_walkIt_170 rfl ?_
            obtain ⟨r42, e43, hT⟩ := obnd hT
            refine a_callV kv_X3_131 (tw_is ht) (k_X3_meets ht e43) ⟨Nat.le_of_ble_eq_true rfl, Nat.le_of_ble_eq_true rfl⟩ (As := [.int x0]) (rest := [.int (r13 + 6), .ref (T 0)]) rfl rfl (Nat.le_of_ble_eq_true rfl) dX3_walkIt_171 (kI ?_) xI
            refine a_if_eq 192 dX3_walkIt_174 rfl (fun c44 => ?_) (fun c44 => ?_)
            · have hT := oifp c44 hT
              refine a_mask [true, true, false, true, false, true, true] ?_
              exact k_X3_walkIt_l192 ht hT he
            · have hT := oifn c44 hT
              refine a_aload_n dX3_walkIt_177 rfl ?_
              refine a_gA fl_X3_9_2 (tw_gA ht 0 (by decide)) dX3_walkIt_178 ?_
              refine a_iload_n dX3_walkIt_181 rfl ?_
              refine a_iconst (v := 5) dX3_walkIt_182 (by decide) ?_
              refine a_iadd dX3_walkIt_183 ?_
              obtain ⟨z94, e93, hT⟩ := obnd hT
              refine a_ldI (tw_ld ht 0 (by decide) e93) dX3_walkIt_184 ?_
              refine a_if_le 192 dX3_walkIt_185 rfl (fun c95 => ?_) (fun c95 => ?_)
              · have hT := oifp c95 hT
                refine a_mask [true, true, false, true, false, true, true] ?_
                exact k_X3_walkIt_l192 ht hT he
              · have hT := oifn c95 hT
                refine a_iconst (v := 1) dX3_walkIt_188 (by decide) ?_
                refine a_goto 201 dX3_walkIt_189 rfl ?_
                refine a_mask [true, true, false, true, false, true, true] ?_
                exact k_X3_walkIt_l201 ht hT he
          · have hT := oifp c33 hT
            refine a_aload_n dX3_walkIt_120 rfl ?_
            refine a_bipush (v := 12) dX3_walkIt_121 (by decide) ?_
            refine a_aload_n dX3_walkIt_123 rfl ?_
            refine a_gA fl_X3_9_2 (tw_gA ht 0 (by decide)) dX3_walkIt_124 ?_
            refine a_iload dX3_walkIt_127 rfl ?_
            refine a_iload dX3_walkIt_129 rfl ?_
            obtain ⟨r98, e99, hT⟩ := obnd hT
            refine a_callS ks_X3_77 (k_X3_hedgeAt e99) ⟨Nat.le_of_ble_eq_true rfl, Nat.le_of_ble_eq_true rfl⟩ (As := [.int z19, .int r22]) (rest := [.ref (T 0), .int 12, .ref (T 100)]) rfl rfl (Nat.le_of_ble_eq_true rfl) dX3_walkIt_131 (kI ?_) xI
            obtain ⟨z101, e100, hT⟩ := obnd hT
            refine a_ldI (tw_ld ht 0 (by decide) e100) dX3_walkIt_134 ?_
            obtain ⟨r104, e105, hT⟩ := obnd hT
            refine a_callV kv_X3_91 (tw_is ht) (k_X3_refuse ht e105) ⟨Nat.le_of_ble_eq_true rfl, Nat.le_of_ble_eq_true rfl⟩ (As := [.int 12, .int z101]) (rest := []) rfl rfl (Nat.le_of_ble_eq_true rfl) dX3_walkIt_135 (kI ?_) xI
            cases hT
            exact a_iret rfl rfl dX3_walkIt_138 (he _ _ ⟨rfl, rfl⟩)
        · have hT := oifp c24 hT
          refine a_aload_n dX3_walkIt_97 rfl ?_
          refine a_bipush (v := 11) dX3_walkIt_98 (by decide) ?_
          refine a_iload dX3_walkIt_100 rfl ?_
          obtain ⟨r108, e109, hT⟩ := obnd hT
          refine a_callV kv_X3_91 (tw_is ht) (k_X3_refuse ht e109) ⟨Nat.le_of_ble_eq_true rfl, Nat.le_of_ble_eq_true rfl⟩ (As := [.int 11, .int z19]) (rest := []) rfl rfl (Nat.le_of_ble_eq_true rfl) dX3_walkIt_102 (kI ?_) xI
          cases hT
          exact a_iret rfl rfl dX3_walkIt_105 (he _ _ ⟨rfl, rfl⟩)
      · have hT := oifp c17 hT
        refine a_aload_n dX3_walkIt_58 rfl ?_
        refine a_bipush (v := 9) dX3_walkIt_59 (by decide) ?_
        refine a_aload_n dX3_walkIt_61 rfl ?_
        refine a_gA fl_X3_9_2 (tw_gA ht 0 (by decide)) dX3_walkIt_62 ?_
        refine a_iload_n dX3_walkIt_65 rfl ?_
        refine a_iconst (v := 2) dX3_walkIt_66 (by decide) ?_
        refine a_iadd dX3_walkIt_67 ?_
        obtain ⟨z111, e110, hT⟩ := obnd hT
        refine a_ldI (tw_ld ht 0 (by decide) e110) dX3_walkIt_68 ?_
        obtain ⟨r114, e115, hT⟩ := obnd hT
        refine a_callV kv_X3_91 (tw_is ht) (k_X3_refuse ht e115) ⟨Nat.le_of_ble_eq_true rfl, Nat.le_of_ble_eq_true rfl⟩ (As := [.int 9, .int z111]) (rest := []) rfl rfl (Nat.le_of_ble_eq_true rfl) dX3_walkIt_69 (kI ?_) xI
        cases hT
        exact a_iret rfl rfl dX3_walkIt_72 (he _ _ ⟨rfl, rfl⟩)
    · have hT := oifp c10 hT
      refine a_aload_n dX3_walkIt_33 rfl ?_
      refine a_iconst (v := 1) dX3_walkIt_34 (by decide) ?_
      refine a_iconst (v := 0) dX3_walkIt_35 (by decide) ?_
      obtain ⟨r118, e119, hT⟩ := obnd hT
      refine a_callV kv_X3_91 (tw_is ht) (k_X3_refuse ht e119) ⟨Nat.le_of_ble_eq_true rfl, Nat.le_of_ble_eq_true rfl⟩ (As := [.int 1, .int 0]) (rest := []) rfl rfl (Nat.le_of_ble_eq_true rfl) dX3_walkIt_36 (kI ?_) xI
      cases hT
      exact a_iret rfl rfl dX3_walkIt_39 (he _ _ ⟨rfl, rfl⟩)
  · have hT := oifp c5 hT
    refine a_aload_n dX3_walkIt_8 rfl ?_
    refine a_bipush (v := 7) dX3_walkIt_9 (by decide) ?_
    refine a_aload_n dX3_walkIt_11 rfl ?_
    refine a_gA fl_X3_9_2 (tw_gA ht 0 (by decide)) dX3_walkIt_12 ?_
    refine a_iconst (v := 1) dX3_walkIt_15 (by decide) ?_
    obtain ⟨z121, e120, hT⟩ := obnd hT
    refine a_ldI (tw_ld ht 0 (by decide) e120) dX3_walkIt_16 ?_
    obtain ⟨r124, e125, hT⟩ := obnd hT
    refine a_callV kv_X3_91 (tw_is ht) (k_X3_refuse ht e125) ⟨Nat.le_of_ble_eq_true rfl, Nat.le_of_ble_eq_true rfl⟩ (As := [.int 7, .int z121]) (rest := []) rfl rfl (Nat.le_of_ble_eq_true rfl) dX3_walkIt_17 (kI ?_) xI
    cases hT
    exact a_iret rfl rfl dX3_walkIt_20 (he _ _ ⟨rfl, rfl⟩)
abbrev M_X3_restIt : aM := (yX3_restIt.cls, cX3_restIt, 4, (Option.some Jvm.ClassFile.FieldType.int), [], yX3_restIt.name)
def t_X3_restIt (s : tS) (x0 : Int32) (x1 : Int32) : Option (Int32 × tS) :=
  (t_X3_isVisitor s x0).bind fun r3 =>
  if r3.1 = 0 then
    (tld 0 r3.2 1).bind fun z35 =>
    (t_X3_refuse r3.2 7 z35).bind fun r38 =>
    some (r38.1, r38.2)
  else
    (t_X3_in ((x1 : Int32).toInt64) 1 9).bind fun r8 =>
    if r8 = 0 then
      (t_X3_refuse r3.2 1 0).bind fun r32 =>
      some (r32.1, r32.2)
    else
      (t_X3_visitorAt x0).bind fun r13 =>
      (tld 0 r3.2 (r13 + 7)).bind fun z16 =>
      if z16 = 1 then
        (tld 0 r3.2 (r13 + 2)).bind fun z25 =>
        (t_X3_refuse r3.2 9 z25).bind fun r28 =>
        some (r28.1, r28.2)
      else
        (tld 0 r3.2 (r13 + 2)).bind fun z19 =>
        (tst 0 r3.2 (r13 + 2) (z19 + x1)).bind fun s21 =>
        (tld 0 s21 (r13 + 2)).bind fun z23 =>
        some (z23, s21)
theorem k_X3_restIt {G : aG} {B : aH} {T : Nat → Nat} (ht : tOk (gZ G) T) {s : tS} {x0 : Int32} {x1 : Int32} {e : (Int32 × tS)} (hT : t_X3_restIt s x0 x1 = some e) : aMet G yX3_restIt (ws_ yX3_restIt cX3_restIt 4 (Option.some Jvm.ClassFile.FieldType.int)) 3 47 [.ref (T 100), .int x0, .int x1] (tput (gZ G) B T s) (aEI e.1 (tput (gZ G) B T e.2)) := by
  refine aMet.of (lv := [some (.ref (T 100)), some (.int x0), some (.int x1), none]) (by decide) (Nat.le_of_ble_eq_true rfl) 1 rfl ?_
  have he : aTo (aEI e.1 (tput (gZ G) B T e.2)) (aEI e.1 (tput (gZ G) B T e.2)) := aTo.rf
  unfold t_X3_restIt at hT
  refine a_aload_n dX3_restIt_0 rfl ?_
  refine a_iload_n dX3_restIt_1 rfl ?_
  obtain ⟨r3, e4, hT⟩ := obnd hT
  refine a_callV kv_X3_154 (tw_is ht) (k_X3_isVisitor ht e4) ⟨Nat.le_of_ble_eq_true rfl, Nat.le_of_ble_eq_true rfl⟩ (As := [.int x0]) (rest := []) rfl rfl (Nat.le_of_ble_eq_true rfl) dX3_restIt_2 (kI ?_) xI
  refine a_if_ne 21 dX3_restIt_5 rfl (fun c5 => ?_) (fun c5 => ?_)
  · have hT := oifn c5 hT
    refine a_iload_n dX3_restIt_21 rfl ?_
    refine a_i2l dX3_restIt_22 ?_
    refine a_lconst (v := 1) dX3_restIt_23 (by decide) ?_
    refine a_ldc2 q1783 dX3_restIt_24 ?_
    obtain ⟨r8, e9, hT⟩ := obnd hT
    refine a_callS ks_X3_59 (k_X3_in e9) ⟨Nat.le_of_ble_eq_true rfl, Nat.le_of_ble_eq_true rfl⟩ (As := [.long ((x1 : Int32).toInt64), .long 1, .long 9]) (rest := []) rfl rfl (Nat.le_of_ble_eq_true rfl) dX3_restIt_27 (kI ?_) xI
    refine a_if_ne 40 dX3_restIt_30 rfl (fun c10 => ?_) (fun c10 => ?_)
    · have hT := oifn c10 hT
      refine a_iload_n dX3_restIt_40 rfl ?_
      obtain ⟨r13, e14, hT⟩ := obnd hT
      refine a_callS ks_X3_126 (k_X3_visitorAt e14) ⟨Nat.le_of_ble_eq_true rfl, Nat.le_of_ble_eq_true rfl⟩ (As := [.int x0]) (rest := []) rfl rfl (Nat.le_of_ble_eq_true rfl) dX3_restIt_41 (kI ?_) xI
      refine a_istore_n (lv' := [some (.ref (T 100)), some (.int x0), some (.int x1), some (.int r13)]) dX3_restIt_44 rfl (by decide) rfl ?_
      refine a_aload_n dX3_restIt_45 rfl ?_
      refine a_gA fl_X3_9_2 (tw_gA ht 0 (by decide)) dX3_restIt_46 ?_
      refine a_iload_n dX3_restIt_49 rfl ?_
      refine a_bipush (v := 7) dX3_restIt_50 (by decide) ?_
      refine a_iadd dX3_restIt_52 ?_
      obtain ⟨z16, e15, hT⟩ := obnd hT
      refine a_ldI (tw_ld ht 0 (by decide) e15) dX3_restIt_53 ?_
      refine a_iconst (v := 1) dX3_restIt_54 (by decide) ?_
      refine a_icmp_ne 73 dX3_restIt_55 rfl (fun c17 => ?_) (fun c17 => ?_)
      · have hT := oifn c17 hT
        refine a_aload_n dX3_restIt_73 rfl ?_
        refine a_gA fl_X3_9_2 (tw_gA ht 0 (by decide)) dX3_restIt_74 ?_
        refine a_iload_n dX3_restIt_77 rfl ?_
        refine a_iconst (v := 2) dX3_restIt_78 (by decide) ?_
        refine a_iadd dX3_restIt_79 ?_
        refine a_dup2_11 dX3_restIt_80 rfl rfl ?_
        obtain ⟨z19, e18, hT⟩ := obnd hT
        refine a_ldI (tw_ld ht 0 (by decide) e18) dX3_restIt_81 ?_
        refine a_iload_n dX3_restIt_82 rfl ?_
        refine a_iadd dX3_restIt_83 ?_
        obtain ⟨s21, e20, hT⟩ := obnd hT
        refine a_stI (tw_st ht 0 (by decide) e20) dX3_restIt_84 ?_
        refine a_aload_n dX3_restIt_85 rfl ?_
        refine a_gA fl_X3_9_2 (tw_gA ht 0 (by decide)) dX3_restIt_86 ?_
        refine a_iload_n dX3_restIt_89 rfl ?_
        refine a_iconst (v := 2) dX3_restIt_90 (by decide) ?_
        refine a_iadd dX3_restIt_91 ?_
        obtain ⟨z23, e22, hT⟩ := obnd hT
        refine a_ldI (tw_ld ht 0 (by decide) e22) dX3_restIt_92 ?_
        cases hT
        exact a_iret rfl rfl dX3_restIt_93 (he _ _ ⟨rfl, rfl⟩)
      · have hT := oifp c17 hT
        refine a_aload_n dX3_restIt_58 rfl ?_
        refine a_bipush (v := 9) dX3_restIt_59 (by decide) ?_
        refine a_aload_n dX3_restIt_61 rfl ?_
        refine a_gA fl_X3_9_2 (tw_gA ht 0 (by decide)) dX3_restIt_62 ?_
        refine a_iload_n dX3_restIt_65 rfl ?_
        refine a_iconst (v := 2) dX3_restIt_66 (by decide) ?_
        refine a_iadd dX3_restIt_67 ?_
        obtain ⟨z25, e24, hT⟩ := obnd hT
        refine a_ldI (tw_ld ht 0 (by decide) e24) dX3_restIt_68 ?_
        obtain ⟨r28, e29, hT⟩ := obnd hT
        refine a_callV kv_X3_91 (tw_is ht) (k_X3_refuse ht e29) ⟨Nat.le_of_ble_eq_true rfl, Nat.le_of_ble_eq_true rfl⟩ (As := [.int 9, .int z25]) (rest := []) rfl rfl (Nat.le_of_ble_eq_true rfl) dX3_restIt_69 (kI ?_) xI
        cases hT
        exact a_iret rfl rfl dX3_restIt_72 (he _ _ ⟨rfl, rfl⟩)
    · have hT := oifp c10 hT
      refine a_aload_n dX3_restIt_33 rfl ?_
      refine a_iconst (v := 1) dX3_restIt_34 (by decide) ?_
      refine a_iconst (v := 0) dX3_restIt_35 (by decide) ?_
      obtain ⟨r32, e33, hT⟩ := obnd hT
      refine a_callV kv_X3_91 (tw_is ht) (k_X3_refuse ht e33) ⟨Nat.le_of_ble_eq_true rfl, Nat.le_of_ble_eq_true rfl⟩ (As := [.int 1, .int 0]) (rest := []) rfl rfl (Nat.le_of_ble_eq_true rfl) dX3_restIt_36 (kI ?_) xI
      cases hT
      exact a_iret rfl rfl dX3_restIt_39 (he _ _ ⟨rfl, rfl⟩)
  · have hT := oifp c5 hT
    refine a_aload_n dX3_restIt_8 rfl ?_
    refine a_bipush (v := 7) dX3_restIt_9 (by decide) ?_
    refine a_aload_n dX3_restIt_11 rfl ?_
    refine a_gA fl_X3_9_2 (tw_gA ht 0 (by decide)) dX3_restIt_12 ?_
    refine a_iconst (v := 1) dX3_restIt_15 (by decide) ?_
    obtain ⟨z35, e34, hT⟩ := obnd hT
    refine a_ldI (tw_ld ht 0 (by decide) e34) dX3_restIt_16 ?_
    obtain ⟨r38, e39, hT⟩ := obnd hT
    refine a_callV kv_X3_91 (tw_is ht) (k_X3_refuse ht e39) ⟨Nat.le_of_ble_eq_true rfl, Nat.le_of_ble_eq_true rfl⟩ (As := [.int 7, .int z35]) (rest := []) rfl rfl (Nat.le_of_ble_eq_true rfl) dX3_restIt_17 (kI ?_) xI
    cases hT
    exact a_iret rfl rfl dX3_restIt_20 (he _ _ ⟨rfl, rfl⟩)
