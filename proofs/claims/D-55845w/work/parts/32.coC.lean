/-! decompiled (written by gen/comp.py) -/
set_option maxRecDepth 100000
abbrev M_X1_isIn : aM := (yX1_isIn.cls, cX1_isIn, 3, (Option.some Jvm.ClassFile.FieldType.boolean), [], yX1_isIn.name)
def t_X1_isIn (x0 : Int32) (x1 : Int32) (x2 : Int32) : Option Int32 :=
  if x0 < x1 then
    some 0
  else
    if x2 < x0 then
      some 0
    else
      some 1
theorem k_X1_isIn {G : aG} {h : aH} {x0 : Int32} {x1 : Int32} {x2 : Int32} {e : Int32} (hT : t_X1_isIn x0 x1 x2 = some e) : aMet G yX1_isIn (ws_ yX1_isIn cX1_isIn 3 (Option.some Jvm.ClassFile.FieldType.boolean)) 1 1 [.int x0, .int x1, .int x2] h (aEI e h) := by
  refine aMet.of (lv := [some (.int x0), some (.int x1), some (.int x2)]) (by decide) (Nat.le_of_ble_eq_true rfl) 0 rfl ?_
  have he : aTo (aEI e h) (aEI e h) := aTo.rf
  unfold t_X1_isIn at hT
  refine a_iload_n dX1_isIn_0 rfl ?_
  refine a_iload_n dX1_isIn_1 rfl ?_
  refine a_icmp_lt 14 dX1_isIn_2 rfl (fun c1 => ?_) (fun c1 => ?_)
  · have hT := oifp c1 hT
    refine a_iconst (v := 0) dX1_isIn_14 (by decide) ?_
    obtain rfl := Option.some.inj hT
    exact a_iret rfl (by decide) dX1_isIn_15 (he _ _ ⟨rfl, rfl⟩)
  · have hT := oifn c1 hT
    refine a_iload_n dX1_isIn_5 rfl ?_
    refine a_iload_n dX1_isIn_6 rfl ?_
    refine a_icmp_gt 14 dX1_isIn_7 rfl (fun c2 => ?_) (fun c2 => ?_)
    · have hT := oifp c2 hT
      refine a_iconst (v := 0) dX1_isIn_14 (by decide) ?_
      obtain rfl := Option.some.inj hT
      exact a_iret rfl (by decide) dX1_isIn_15 (he _ _ ⟨rfl, rfl⟩)
    · have hT := oifn c2 hT
      refine a_iconst (v := 1) dX1_isIn_10 (by decide) ?_
      refine a_goto 15 dX1_isIn_11 rfl ?_
      obtain rfl := Option.some.inj hT
      exact a_iret rfl (by decide) dX1_isIn_15 (he _ _ ⟨rfl, rfl⟩)
theorem fp_X1_75_0 (nm9 : String) : aFP "MazeBonds" 75 0 3 (.object "MazeBonds$RefusedException") nm9 := ⟨RX1, TX1, 8, "MazeBonds", tyX1, rfl, in_X1, by decide, Or.inl rfl, Or.inl q225, tyX1_ok, nmX1, rfl, Or.inl rfl⟩
theorem mk_X1_79 : aMk "MazeBonds" 79 81 "java/lang/UnsupportedOperationException" 13 := ⟨by decide +kernel, q688, q97, ⟨_, rfl⟩, wIn_spec (ps := [83, 333, 342, 353, 356, 358, 334, 335, 116, 117, 336, 341, 354, 371, 323, 372, 325, 373, 327, 337, 339, 329, 698, 699, 700, 363, 314, 363, 364, 365, 366, 316, 366, 367, 368, 334, 318, 697, 689, 690, 691, 352, 692, 693, 694, 695, 332, 331, 696]) (by decide +kernel)⟩
abbrev M_X1_keep : aM := (yX1_keep.cls, cX1_keep, 2, (Option.some (Jvm.ClassFile.FieldType.object "java/lang/UnsupportedOperationException")), [], yX1_keep.name)
def t_X1_keep (Z : aZ) (h : aH) (o : Nat) (x0 : Nat) : Option (Nat × aH) :=
  (pF 0 3 Z h o (.ref x0)).bind fun h2 =>
  (nw Z h2 (.inr (13, [])) 6).bind fun h3 =>
  some (h2.2.1, h3)
theorem k_X1_keep {G : aG} {h : aH} {o : Nat} {x0 : Nat} {e : (Nat × aH)} (hT : t_X1_keep (gZ G) h o x0 = some e) : aMet G yX1_keep (ws_ yX1_keep cX1_keep 2 (Option.some (Jvm.ClassFile.FieldType.object "java/lang/UnsupportedOperationException"))) 9 200 [.ref o, .ref x0] h (aEA e.1 e.2) := by
  refine aMet.of (lv := [some (.ref o), some (.ref x0)]) (by decide) (Nat.le_of_ble_eq_true rfl) 0 rfl ?_
  have he : aTo (aEA e.1 e.2) (aEA e.1 e.2) := aTo.rf
  unfold t_X1_keep at hT
  refine a_aload_n dX1_keep_0 rfl ?_
  refine a_aload_n dX1_keep_1 rfl ?_
  obtain ⟨h2, e1, hT⟩ := obnd hT
  refine a_put (fp_X1_75_0 _) ⟨rfl, rfl⟩ e1 dX1_keep_2 ?_
  obtain ⟨h3, e4, hT⟩ := obnd hT
  refine a_make0 mk_X1_79 e4 dX1_keep_5 dX1_keep_8 dX1_keep_9 (by decide) (by decide) ?_
  obtain rfl := Option.some.inj hT
  exact a_aret rfl (Or.inl ⟨_, rfl⟩) dX1_keep_12 (he _ _ ⟨rfl, rfl⟩)
theorem mk_X1_7 : aMk "MazeBonds" 7 9 "java/lang/IndexOutOfBoundsException" 14 := ⟨by decide +kernel, q927, q100, ⟨_, rfl⟩, wIn_spec (ps := [83, 333, 342, 353, 356, 358, 334, 335, 116, 117, 336, 341, 354, 371, 323, 372, 325, 373, 327, 337, 339, 329, 937, 938, 939, 363, 314, 363, 364, 365, 366, 316, 366, 367, 368, 334, 318, 936, 928, 929, 930, 350, 931, 932, 933, 934, 332, 331, 935]) (by decide +kernel)⟩
abbrev M_X1_requireIndex : aM := (yX1_requireIndex.cls, cX1_requireIndex, 1, (Option.none : Option Jvm.ClassFile.FieldType), [], yX1_requireIndex.name)
def t_X1_requireIndex (Z : aZ) (h : aH) (x0 : Int32) : Option ((Unit ⊕ aXX) × aH) :=
  if x0 = 0 then
    (nw Z h (.inr (14, [])) 6).bind fun h2 =>
    if isC 14 h2 h.2.1 = true then
    some (.inr ("java/lang/IndexOutOfBoundsException", h.2.1), h2)
    else none
  else
    some (.inl (), h)
theorem k_X1_requireIndex {G : aG} {h : aH} {x0 : Int32} {e : ((Unit ⊕ aXX) × aH)} (hT : t_X1_requireIndex (gZ G) h x0 = some e) : aMet G yX1_requireIndex (ws_ yX1_requireIndex cX1_requireIndex 1 (Option.none : Option Jvm.ClassFile.FieldType)) 9 200 [.int x0] h (aXV e.1 e.2) := by
  refine aMet.of (lv := [some (.int x0)]) (by decide) (Nat.le_of_ble_eq_true rfl) 0 rfl ?_
  have he : aTo (aXV e.1 e.2) (aXV e.1 e.2) := aTo.rf
  unfold t_X1_requireIndex at hT
  refine a_iload_n dX1_requireIndex_0 rfl ?_
  refine a_if_ne 12 dX1_requireIndex_1 rfl (fun c1 => ?_) (fun c1 => ?_)
  · have hT := oifn c1 hT
    obtain rfl := Option.some.inj hT
    exact a_vret rfl dX1_requireIndex_12 (he _ _ ⟨rfl, rfl⟩)
  · have hT := oifp c1 hT
    obtain ⟨h2, e3, hT⟩ := obnd hT
    refine a_make0 mk_X1_7 e3 dX1_requireIndex_4 dX1_requireIndex_7 dX1_requireIndex_8 (by decide) (by decide) ?_
    obtain ⟨g4, hT⟩ := oifg hT
    refine a_athrow (ci := 14) (fs := []) rfl g4 dX1_requireIndex_11 ?_
    obtain rfl := Option.some.inj hT
    exact a_out (by decide) (he _ _ ⟨rfl, rfl⟩)
theorem mk_X1_19 : aMk "MazeBonds" 19 21 "java/util/NoSuchElementException" 12 := ⟨by decide +kernel, q946, q86, ⟨_, rfl⟩, wIn_spec (ps := [83, 333, 342, 353, 356, 358, 334, 335, 116, 117, 336, 341, 354, 371, 323, 372, 325, 373, 327, 337, 339, 329, 360, 361, 362, 363, 314, 363, 364, 365, 366, 316, 366, 367, 368, 334, 318, 947, 312, 313, 320, 321, 322, 324, 326, 328, 332, 331, 330]) (by decide +kernel)⟩
abbrev M_X1_requireElement : aM := (yX1_requireElement.cls, cX1_requireElement, 1, (Option.none : Option Jvm.ClassFile.FieldType), [], yX1_requireElement.name)
def t_X1_requireElement (Z : aZ) (h : aH) (x0 : Int32) : Option ((Unit ⊕ aXX) × aH) :=
  if x0 = 0 then
    (nw Z h (.inr (12, [])) 6).bind fun h2 =>
    if isC 12 h2 h.2.1 = true then
    some (.inr ("java/util/NoSuchElementException", h.2.1), h2)
    else none
  else
    some (.inl (), h)
theorem k_X1_requireElement {G : aG} {h : aH} {x0 : Int32} {e : ((Unit ⊕ aXX) × aH)} (hT : t_X1_requireElement (gZ G) h x0 = some e) : aMet G yX1_requireElement (ws_ yX1_requireElement cX1_requireElement 1 (Option.none : Option Jvm.ClassFile.FieldType)) 9 200 [.int x0] h (aXV e.1 e.2) := by
  refine aMet.of (lv := [some (.int x0)]) (by decide) (Nat.le_of_ble_eq_true rfl) 0 rfl ?_
  have he : aTo (aXV e.1 e.2) (aXV e.1 e.2) := aTo.rf
  unfold t_X1_requireElement at hT
  refine a_iload_n dX1_requireElement_0 rfl ?_
  refine a_if_ne 12 dX1_requireElement_1 rfl (fun c1 => ?_) (fun c1 => ?_)
  · have hT := oifn c1 hT
    obtain rfl := Option.some.inj hT
    exact a_vret rfl dX1_requireElement_12 (he _ _ ⟨rfl, rfl⟩)
  · have hT := oifp c1 hT
    obtain ⟨h2, e3, hT⟩ := obnd hT
    refine a_make0 mk_X1_19 e3 dX1_requireElement_4 dX1_requireElement_7 dX1_requireElement_8 (by decide) (by decide) ?_
    obtain ⟨g4, hT⟩ := oifg hT
    refine a_athrow (ci := 12) (fs := []) rfl g4 dX1_requireElement_11 ?_
    obtain rfl := Option.some.inj hT
    exact a_out (by decide) (he _ _ ⟨rfl, rfl⟩)
theorem mk_X1_13 : aMk "MazeBonds" 13 15 "java/lang/IllegalArgumentException" 15 := ⟨by decide +kernel, q1041, q102, ⟨_, rfl⟩, wIn_spec (ps := [83, 333, 342, 353, 356, 358, 334, 335, 116, 117, 336, 341, 354, 371, 323, 372, 325, 373, 327, 337, 339, 329, 1051, 1052, 1053, 363, 314, 363, 364, 365, 366, 316, 366, 367, 368, 334, 318, 1050, 1042, 1043, 1044, 348, 1045, 1046, 1047, 1048, 332, 331, 1049]) (by decide +kernel)⟩
abbrev M_X1_requireArgument : aM := (yX1_requireArgument.cls, cX1_requireArgument, 1, (Option.none : Option Jvm.ClassFile.FieldType), [], yX1_requireArgument.name)
def t_X1_requireArgument (Z : aZ) (h : aH) (x0 : Int32) : Option ((Unit ⊕ aXX) × aH) :=
  if x0 = 0 then
    (nw Z h (.inr (15, [])) 6).bind fun h2 =>
    if isC 15 h2 h.2.1 = true then
    some (.inr ("java/lang/IllegalArgumentException", h.2.1), h2)
    else none
  else
    some (.inl (), h)
theorem k_X1_requireArgument {G : aG} {h : aH} {x0 : Int32} {e : ((Unit ⊕ aXX) × aH)} (hT : t_X1_requireArgument (gZ G) h x0 = some e) : aMet G yX1_requireArgument (ws_ yX1_requireArgument cX1_requireArgument 1 (Option.none : Option Jvm.ClassFile.FieldType)) 9 200 [.int x0] h (aXV e.1 e.2) := by
  refine aMet.of (lv := [some (.int x0)]) (by decide) (Nat.le_of_ble_eq_true rfl) 0 rfl ?_
  have he : aTo (aXV e.1 e.2) (aXV e.1 e.2) := aTo.rf
  unfold t_X1_requireArgument at hT
  refine a_iload_n dX1_requireArgument_0 rfl ?_
  refine a_if_ne 12 dX1_requireArgument_1 rfl (fun c1 => ?_) (fun c1 => ?_)
  · have hT := oifn c1 hT
    obtain rfl := Option.some.inj hT
    exact a_vret rfl dX1_requireArgument_12 (he _ _ ⟨rfl, rfl⟩)
  · have hT := oifp c1 hT
    obtain ⟨h2, e3, hT⟩ := obnd hT
    refine a_make0 mk_X1_13 e3 dX1_requireArgument_4 dX1_requireArgument_7 dX1_requireArgument_8 (by decide) (by decide) ?_
    obtain ⟨g4, hT⟩ := oifg hT
    refine a_athrow (ci := 15) (fs := []) rfl g4 dX1_requireArgument_11 ?_
    obtain rfl := Option.some.inj hT
    exact a_out (by decide) (he _ _ ⟨rfl, rfl⟩)
theorem mk_X1_16 : aMk "MazeBonds" 16 18 "java/lang/IllegalStateException" 16 := ⟨by decide +kernel, q1132, q103, ⟨_, rfl⟩, wIn_spec (ps := [83, 333, 342, 353, 356, 358, 334, 335, 116, 117, 336, 341, 354, 371, 323, 372, 325, 373, 327, 337, 339, 329, 1142, 1143, 1144, 363, 314, 363, 364, 365, 366, 316, 366, 367, 368, 334, 318, 1141, 1133, 1134, 1135, 349, 1136, 1137, 1138, 1139, 332, 331, 1140]) (by decide +kernel)⟩
abbrev M_X1_requireState : aM := (yX1_requireState.cls, cX1_requireState, 1, (Option.none : Option Jvm.ClassFile.FieldType), [], yX1_requireState.name)
def t_X1_requireState (Z : aZ) (h : aH) (x0 : Int32) : Option ((Unit ⊕ aXX) × aH) :=
  if x0 = 0 then
    (nw Z h (.inr (16, [])) 6).bind fun h2 =>
    if isC 16 h2 h.2.1 = true then
    some (.inr ("java/lang/IllegalStateException", h.2.1), h2)
    else none
  else
    some (.inl (), h)
theorem k_X1_requireState {G : aG} {h : aH} {x0 : Int32} {e : ((Unit ⊕ aXX) × aH)} (hT : t_X1_requireState (gZ G) h x0 = some e) : aMet G yX1_requireState (ws_ yX1_requireState cX1_requireState 1 (Option.none : Option Jvm.ClassFile.FieldType)) 9 200 [.int x0] h (aXV e.1 e.2) := by
  refine aMet.of (lv := [some (.int x0)]) (by decide) (Nat.le_of_ble_eq_true rfl) 0 rfl ?_
  have he : aTo (aXV e.1 e.2) (aXV e.1 e.2) := aTo.rf
  unfold t_X1_requireState at hT
  refine a_iload_n dX1_requireState_0 rfl ?_
  refine a_if_ne 12 dX1_requireState_1 rfl (fun c1 => ?_) (fun c1 => ?_)
  · have hT := oifn c1 hT
    obtain rfl := Option.some.inj hT
    exact a_vret rfl dX1_requireState_12 (he _ _ ⟨rfl, rfl⟩)
  · have hT := oifp c1 hT
    obtain ⟨h2, e3, hT⟩ := obnd hT
    refine a_make0 mk_X1_16 e3 dX1_requireState_4 dX1_requireState_7 dX1_requireState_8 (by decide) (by decide) ?_
    obtain ⟨g4, hT⟩ := oifg hT
    refine a_athrow (ci := 16) (fs := []) rfl g4 dX1_requireState_11 ?_
    obtain rfl := Option.some.inj hT
    exact a_out (by decide) (he _ _ ⟨rfl, rfl⟩)
theorem ks_X1_3 : aKS "MazeBonds" 3 yX1_isIn cX1_isIn 3 (Option.some Jvm.ClassFile.FieldType.boolean) 3 := ⟨Or.inl q632, q633, q72, q634, ⟨by decide +kernel, by decide +kernel, by decide +kernel⟩⟩
theorem ks_X1_206 : aKS "MazeBonds" 206 yX1_requireArgument cX1_requireArgument 1 (Option.none : Option Jvm.ClassFile.FieldType) 1 := ⟨Or.inl q1038, q1039, q72, q1040, ⟨by decide +kernel, by decide +kernel, by decide +kernel⟩⟩
theorem fl_X1_75_0 : aFL "MazeBonds" 75 0 3 := ⟨RX1, TX1, 8, "MazeBonds", rfl, in_X1, by decide, Or.inl rfl, Or.inl q225⟩
theorem ks_X1_150 : aKS "MazeBonds" 150 yX1_requireElement cX1_requireElement 1 (Option.none : Option Jvm.ClassFile.FieldType) 1 := ⟨Or.inl q943, q944, q72, q945, ⟨by decide +kernel, by decide +kernel, by decide +kernel⟩⟩
theorem fl_X1_294_5 : aFL "MazeBonds" 294 5 8 := ⟨RX7, TX7, 9, "MazeBonds$RefusedException", rfl, in_X7, by decide, Or.inl rfl, Or.inr ⟨_, q669⟩⟩
theorem fl_X1_291_5 : aFL "MazeBonds" 291 5 7 := ⟨RX7, TX7, 9, "MazeBonds$RefusedException", rfl, in_X7, by decide, Or.inl rfl, Or.inr ⟨_, q667⟩⟩
theorem fl_X1_288_5 : aFL "MazeBonds" 288 5 6 := ⟨RX7, TX7, 9, "MazeBonds$RefusedException", rfl, in_X7, by decide, Or.inl rfl, Or.inr ⟨_, q664⟩⟩
abbrev M_X1_reason : aM := (yX1_reason.cls, cX1_reason, 2, (Option.some Jvm.ClassFile.FieldType.int), [], yX1_reason.name)
def t_X1_reason_l21 (Z : aZ) (h : aH) (v0 : Nat) (v1 : Int32) (u0 : Int32) : Option ((Int32 ⊕ aXX) × aH) :=
  (t_X1_requireElement Z h u0).bind fun r16 =>
  (match r16 with
  | (.inl y18, h19) =>
    if v1 = 0 then
      (gA 0 3 h19 v0).bind fun a31 =>
      (gI 5 6 h19 a31).bind fun z33 =>
      some (.inl z33, h19)
    else
      if v1 = 1 then
        (gA 0 3 h19 v0).bind fun a27 =>
        (gI 5 7 h19 a27).bind fun z29 =>
        some (.inl z29, h19)
      else
        (gA 0 3 h19 v0).bind fun a23 =>
        (gI 5 8 h19 a23).bind fun z25 =>
        some (.inl z25, h19)
  | (.inr y18, h19) =>
    some (.inr y18, h19)
  )
theorem k_X1_reason_l21 {G : aG} {h0 : aH} {K : aRes → aH → Prop} {h : aH} {v0 : Nat} {v1 : Int32} {u0 : Int32} {e : ((Int32 ⊕ aXX) × aH)} (hT : t_X1_reason_l21 (gZ G) h v0 v1 u0 = some e) (he : (fun e => aTo (aXI e.1 e.2) K) e) : aW G M_X1_reason 10 220 h0 K h 21 [some (.ref v0), some (.int v1)] [.int u0] := by
  unfold t_X1_reason_l21 at hT
  obtain ⟨⟨y18 | y18, h19⟩, e17, hT⟩ := obnd hT
  · dsimp only at hT
    refine a_callS ks_X1_150 (k_X1_requireElement e17) ⟨Nat.le_of_ble_eq_true rfl, Nat.le_of_ble_eq_true rfl⟩ (As := [.int u0]) (rest := []) rfl rfl (Nat.le_of_ble_eq_true rfl) dX1_reason_21 (kXV ?_) yXV
    refine a_iload_n dX1_reason_24 rfl ?_
    refine a_if_ne 38 dX1_reason_25 rfl (fun c20 => ?_) (fun c20 => ?_)
    · have hT := oifn c20 hT
      refine a_iload_n dX1_reason_38 rfl ?_
      refine a_iconst (v := 1) dX1_reason_39 (by decide) ?_
      refine a_icmp_ne 53 dX1_reason_40 rfl (fun c21 => ?_) (fun c21 => ?_)
      · have hT := oifn c21 hT
        refine a_aload_n dX1_reason_53 rfl ?_
        obtain ⟨a23, e22, hT⟩ := obnd hT
        refine a_gA fl_X1_75_0 e22 dX1_reason_54 ?_
        obtain ⟨z25, e24, hT⟩ := obnd hT
        refine a_gI fl_X1_294_5 e24 dX1_reason_57 ?_
        obtain rfl := Option.some.inj hT
        exact a_iret rfl rfl dX1_reason_60 (he _ _ ⟨rfl, rfl⟩)
      · have hT := oifp c21 hT
        refine a_aload_n dX1_reason_43 rfl ?_
        obtain ⟨a27, e26, hT⟩ := obnd hT
        refine a_gA fl_X1_75_0 e26 dX1_reason_44 ?_
        obtain ⟨z29, e28, hT⟩ := obnd hT
        refine a_gI fl_X1_291_5 e28 dX1_reason_47 ?_
        refine a_goto 60 dX1_reason_50 rfl ?_
        obtain rfl := Option.some.inj hT
        exact a_iret rfl rfl dX1_reason_60 (he _ _ ⟨rfl, rfl⟩)
    · have hT := oifp c20 hT
      refine a_aload_n dX1_reason_28 rfl ?_
      obtain ⟨a31, e30, hT⟩ := obnd hT
      refine a_gA fl_X1_75_0 e30 dX1_reason_29 ?_
      obtain ⟨z33, e32, hT⟩ := obnd hT
      refine a_gI fl_X1_288_5 e32 dX1_reason_32 ?_
      refine a_goto 60 dX1_reason_35 rfl ?_
      obtain rfl := Option.some.inj hT
      exact a_iret rfl rfl dX1_reason_60 (he _ _ ⟨rfl, rfl⟩)
  · dsimp only at hT
    refine a_callS ks_X1_150 (k_X1_requireElement e17) ⟨Nat.le_of_ble_eq_true rfl, Nat.le_of_ble_eq_true rfl⟩ (As := [.int u0]) (rest := []) rfl rfl (Nat.le_of_ble_eq_true rfl) dX1_reason_21 rXV (zXV ?_)
    obtain rfl := Option.some.inj hT
    exact a_out (by decide) (he _ _ ⟨rfl, rfl⟩)
def t_X1_reason (Z : aZ) (h : aH) (o : Nat) (x0 : Int32) : Option ((Int32 ⊕ aXX) × aH) :=
  (t_X1_isIn x0 0 2).bind fun r3 =>
  (t_X1_requireArgument Z h r3).bind fun r7 =>
  (match r7 with
  | (.inl y9, h10) =>
    (gO 0 3 h10 o).bind fun a12 =>
    (match a12 with
    | none =>
      t_X1_reason_l21 Z h10 o x0 0
    | some a13 =>
      t_X1_reason_l21 Z h10 o x0 1
    )
  | (.inr y9, h10) =>
    some (.inr y9, h10)
  )
theorem k_X1_reason {G : aG} {h : aH} {o : Nat} {x0 : Int32} {e : ((Int32 ⊕ aXX) × aH)} (hT : t_X1_reason (gZ G) h o x0 = some e) : aMet G yX1_reason (ws_ yX1_reason cX1_reason 2 (Option.some Jvm.ClassFile.FieldType.int)) 10 220 [.ref o, .int x0] h (aXI e.1 e.2) := by
  refine aMet.of (lv := [some (.ref o), some (.int x0)]) (by decide) (Nat.le_of_ble_eq_true rfl) 0 rfl ?_
  have he : aTo (aXI e.1 e.2) (aXI e.1 e.2) := aTo.rf
  unfold t_X1_reason at hT
  refine a_iload_n dX1_reason_0 rfl ?_
  refine a_iconst (v := 0) dX1_reason_1 (by decide) ?_
  refine a_iconst (v := 2) dX1_reason_2 (by decide) ?_
  obtain ⟨r3, e4, hT⟩ := obnd hT
  refine a_callS ks_X1_3 (k_X1_isIn e4) ⟨Nat.le_of_ble_eq_true rfl, Nat.le_of_ble_eq_true rfl⟩ (As := [.int x0, .int 0, .int 2]) (rest := []) rfl rfl (Nat.le_of_ble_eq_true rfl) dX1_reason_3 (kI ?_) xI
  obtain ⟨⟨y9 | y9, h10⟩, e8, hT⟩ := obnd hT
  · dsimp only at hT
    refine a_callS ks_X1_206 (k_X1_requireArgument e8) ⟨Nat.le_of_ble_eq_true rfl, Nat.le_of_ble_eq_true rfl⟩ (As := [.int r3]) (rest := []) rfl rfl (Nat.le_of_ble_eq_true rfl) dX1_reason_6 (kXV ?_) yXV
    refine a_aload_n dX1_reason_9 rfl ?_
    obtain ⟨a12, e11, hT⟩ := obnd hT
    refine a_gO fl_X1_75_0 e11 dX1_reason_10 ?_
    cases a12 with
    | none =>
      refine a_ifnullN 20 dX1_reason_13 rfl ?_
      refine a_iconst (v := 0) dX1_reason_20 (by decide) ?_
      exact k_X1_reason_l21 hT he
    | some a13 =>
      refine a_ifnull dX1_reason_13 ?_
      refine a_iconst (v := 1) dX1_reason_16 (by decide) ?_
      refine a_goto 21 dX1_reason_17 rfl ?_
      exact k_X1_reason_l21 hT he
  · dsimp only at hT
    refine a_callS ks_X1_206 (k_X1_requireArgument e8) ⟨Nat.le_of_ble_eq_true rfl, Nat.le_of_ble_eq_true rfl⟩ (As := [.int r3]) (rest := []) rfl rfl (Nat.le_of_ble_eq_true rfl) dX1_reason_6 rXV (zXV ?_)
    obtain rfl := Option.some.inj hT
    exact a_out (by decide) (he _ _ ⟨rfl, rfl⟩)
theorem fl_X1_71_0 : aFL "MazeBonds" 71 0 7 := ⟨RX1, TX1, 8, "MazeBonds", rfl, in_X1, by decide, Or.inl rfl, Or.inl q231⟩
theorem kv_X1_317 : aKV "MazeBonds" 317 10 yJ4_length cJ4_length 1 (Option.some Jvm.ClassFile.FieldType.int) 0 := ⟨⟨TJ4, 4, rfl⟩, Or.inl q1582, q1481, q2146, q78, q1482, ⟨by decide +kernel, by decide +kernel, by decide +kernel⟩⟩
theorem ks_X1_139 : aKS "MazeBonds" 139 yX1_requireIndex cX1_requireIndex 1 (Option.none : Option Jvm.ClassFile.FieldType) 1 := ⟨Or.inl q924, q925, q72, q926, ⟨by decide +kernel, by decide +kernel, by decide +kernel⟩⟩
theorem kv_X1_325 : aKV "MazeBonds" 325 10 yJ4_charAt cJ4_charAt 2 (Option.some Jvm.ClassFile.FieldType.char) 1 := ⟨⟨TJ4, 4, rfl⟩, Or.inl q1601, q1602, q1603, q78, q1604, ⟨by decide +kernel, by decide +kernel, by decide +kernel⟩⟩
abbrev M_X1_character : aM := (yX1_character.cls, cX1_character, 2, (Option.some Jvm.ClassFile.FieldType.char), [], yX1_character.name)
def t_X1_character (Z : aZ) (h : aH) (o : Nat) (x0 : Int32) : Option ((Int32 ⊕ aXX) × aH) :=
  (gA 0 7 h o).bind fun a2 =>
  if isC 10 h a2 = true then
  (t_J4_length Z h a2).bind fun r6 =>
  (t_X1_isIn x0 0 (r6.1 - 1)).bind fun r10 =>
  (t_X1_requireIndex Z r6.2 r10).bind fun r14 =>
  (match r14 with
  | (.inl y16, h17) =>
    (gA 0 7 h17 o).bind fun a19 =>
    if isC 10 h17 a19 = true then
    (t_J4_charAt Z h17 a19 x0).bind fun r23 =>
    if 0 ≤ r23.1 ∧ r23.1 ≤ 65535 then some (.inl r23.1, r23.2) else none
    else none
  | (.inr y16, h17) =>
    some (.inr y16, h17)
  )
  else none
theorem k_X1_character {G : aG} {h : aH} {o : Nat} {x0 : Int32} {e : ((Int32 ⊕ aXX) × aH)} (hT : t_X1_character (gZ G) h o x0 = some e) : aMet G yX1_character (ws_ yX1_character cX1_character 2 (Option.some Jvm.ClassFile.FieldType.char)) 10 220 [.ref o, .int x0] h (aXI e.1 e.2) := by
  refine aMet.of (lv := [some (.ref o), some (.int x0)]) (by decide) (Nat.le_of_ble_eq_true rfl) 0 rfl ?_
  have he : aTo (aXI e.1 e.2) (aXI e.1 e.2) := aTo.rf
  unfold t_X1_character at hT
  refine a_iload_n dX1_character_0 rfl ?_
  refine a_iconst (v := 0) dX1_character_1 (by decide) ?_
  refine a_aload_n dX1_character_2 rfl ?_
  obtain ⟨a2, e1, hT⟩ := obnd hT
  refine a_gA fl_X1_71_0 e1 dX1_character_3 ?_
  obtain ⟨g5, hT⟩ := oifg hT
  obtain ⟨r6, e7, hT⟩ := obnd hT
  refine a_callV kv_X1_317 g5 (k_J4_length e7) ⟨Nat.le_of_ble_eq_true rfl, Nat.le_of_ble_eq_true rfl⟩ (As := []) (rest := [.int 0, .int x0]) rfl rfl (Nat.le_of_ble_eq_true rfl) dX1_character_6 (kI ?_) xI
  refine a_iconst (v := 1) dX1_character_9 (by decide) ?_
  refine a_isub dX1_character_10 ?_
  obtain ⟨r10, e11, hT⟩ := obnd hT
  refine a_callS ks_X1_3 (k_X1_isIn e11) ⟨Nat.le_of_ble_eq_true rfl, Nat.le_of_ble_eq_true rfl⟩ (As := [.int x0, .int 0, .int (r6.1 - 1)]) (rest := []) rfl rfl (Nat.le_of_ble_eq_true rfl) dX1_character_11 (kI ?_) xI
  obtain ⟨⟨y16 | y16, h17⟩, e15, hT⟩ := obnd hT
  · dsimp only at hT
    refine a_callS ks_X1_139 (k_X1_requireIndex e15) ⟨Nat.le_of_ble_eq_true rfl, Nat.le_of_ble_eq_true rfl⟩ (As := [.int r10]) (rest := []) rfl rfl (Nat.le_of_ble_eq_true rfl) dX1_character_14 (kXV ?_) yXV
    refine a_aload_n dX1_character_17 rfl ?_
    obtain ⟨a19, e18, hT⟩ := obnd hT
    refine a_gA fl_X1_71_0 e18 dX1_character_18 ?_
    refine a_iload_n dX1_character_21 rfl ?_
    obtain ⟨g22, hT⟩ := oifg hT
    obtain ⟨r23, e24, hT⟩ := obnd hT
    refine a_callV kv_X1_325 g22 (k_J4_charAt e24) ⟨Nat.le_of_ble_eq_true rfl, Nat.le_of_ble_eq_true rfl⟩ (As := [.int x0]) (rest := []) rfl rfl (Nat.le_of_ble_eq_true rfl) dX1_character_22 (kI ?_) xI
    obtain ⟨g9, hT⟩ := oifg hT
    obtain rfl := Option.some.inj hT
    exact a_iret rfl (nC g9) dX1_character_25 (he _ _ ⟨rfl, rfl⟩)
  · dsimp only at hT
    refine a_callS ks_X1_139 (k_X1_requireIndex e15) ⟨Nat.le_of_ble_eq_true rfl, Nat.le_of_ble_eq_true rfl⟩ (As := [.int r10]) (rest := []) rfl rfl (Nat.le_of_ble_eq_true rfl) dX1_character_14 rXV (zXV ?_)
    obtain rfl := Option.some.inj hT
    exact a_out (by decide) (he _ _ ⟨rfl, rfl⟩)
theorem mk_X1_22 : aMk "MazeBonds" 22 24 "java/lang/ArithmeticException" 17 := ⟨by decide +kernel, q1635, q109, ⟨_, rfl⟩, wIn_spec (ps := [83, 333, 342, 353, 356, 358, 334, 335, 116, 117, 336, 341, 354, 371, 323, 372, 325, 373, 327, 337, 339, 329, 1637, 1638, 1639, 363, 314, 363, 364, 365, 366, 316, 366, 367, 368, 334, 318, 1636, 1615, 1626, 1627, 346, 1621, 1622, 1624, 1620, 332, 331, 1619]) (by decide +kernel)⟩
abbrev M_X1_requireSome : aM := (yX1_requireSome.cls, cX1_requireSome, 1, (Option.none : Option Jvm.ClassFile.FieldType), [], yX1_requireSome.name)
def t_X1_requireSome (Z : aZ) (h : aH) (x0 : Int32) : Option ((Unit ⊕ aXX) × aH) :=
  if x0 = 0 then
    (nw Z h (.inr (17, [])) 6).bind fun h2 =>
    if isC 17 h2 h.2.1 = true then
    some (.inr ("java/lang/ArithmeticException", h.2.1), h2)
    else none
  else
    some (.inl (), h)
theorem k_X1_requireSome {G : aG} {h : aH} {x0 : Int32} {e : ((Unit ⊕ aXX) × aH)} (hT : t_X1_requireSome (gZ G) h x0 = some e) : aMet G yX1_requireSome (ws_ yX1_requireSome cX1_requireSome 1 (Option.none : Option Jvm.ClassFile.FieldType)) 9 200 [.int x0] h (aXV e.1 e.2) := by
  refine aMet.of (lv := [some (.int x0)]) (by decide) (Nat.le_of_ble_eq_true rfl) 0 rfl ?_
  have he : aTo (aXV e.1 e.2) (aXV e.1 e.2) := aTo.rf
  unfold t_X1_requireSome at hT
  refine a_iload_n dX1_requireSome_0 rfl ?_
  refine a_if_ne 12 dX1_requireSome_1 rfl (fun c1 => ?_) (fun c1 => ?_)
  · have hT := oifn c1 hT
    obtain rfl := Option.some.inj hT
    exact a_vret rfl dX1_requireSome_12 (he _ _ ⟨rfl, rfl⟩)
  · have hT := oifp c1 hT
    obtain ⟨h2, e3, hT⟩ := obnd hT
    refine a_make0 mk_X1_22 e3 dX1_requireSome_4 dX1_requireSome_7 dX1_requireSome_8 (by decide) (by decide) ?_
    obtain ⟨g4, hT⟩ := oifg hT
    refine a_athrow (ci := 17) (fs := []) rfl g4 dX1_requireSome_11 ?_
    obtain rfl := Option.some.inj hT
    exact a_out (by decide) (he _ _ ⟨rfl, rfl⟩)
abbrev M_X1_sum : aM := (yX1_sum.cls, cX1_sum, 6, (Option.some Jvm.ClassFile.FieldType.int), [], yX1_sum.name)
def p_X1_sum_b10 (G : aG) (h0 : aH) (K : aRes → aH → Prop) (x9 : (Int32 × Nat × Int32 × Int32 × aH)) : Prop := aW G M_X1_sum 1 1 h0 K x9.2.2.2.2 10 [none, some (.int x9.1), some (.ref x9.2.1), some (.int x9.2.2.1), some (.int x9.2.2.2.1), none] []
def t_X1_sum_b10 (Z : aZ) : (Int32 × Nat × Int32 × Int32 × aH) → Option ((Int32 × Nat × Int32 × Int32 × aH) ⊕ (Int32 × aH)) := fun (v1, v2, v3, v4, h) =>
  if v3 ≤ v4 then
    some (.inr ((v1, h)))
  else
    (ldI Z h v2 v4).bind fun z5 =>
    some (.inl ((v1 + z5), v2, v3, (v4 + 1), h))
theorem kb_X1_sum_b10 {G : aG} {h0 : aH} {K : aRes → aH → Prop} : ∀ (x9 : (Int32 × Nat × Int32 × Int32 × aH)) (e : ((Int32 × Nat × Int32 × Int32 × aH) ⊕ (Int32 × aH))), t_X1_sum_b10 (gZ G) x9 = some e → (Sum.elim (p_X1_sum_b10 G h0 K) (fun e => aTo (aEI e.1 e.2) K)) e → p_X1_sum_b10 G h0 K x9 := by
  intro x9 e hT he
  obtain ⟨v1, v2, v3, v4, h⟩ := x9
  unfold p_X1_sum_b10
  unfold t_X1_sum_b10 at hT
  show aW G M_X1_sum 1 1 h0 K h 10 [none, some (.int v1), some (.ref v2), some (.int v3), some (.int v4), none] []
  dsimp only at hT
  refine a_iload dX1_sum_10 rfl ?_
  refine a_iload_n dX1_sum_12 rfl ?_
  refine a_icmp_ge 33 dX1_sum_13 rfl (fun c3 => ?_) (fun c3 => ?_)
  · have hT := oifp c3 hT
    refine a_iload_n dX1_sum_33 rfl ?_
    obtain rfl := Option.some.inj hT
    exact a_iret rfl rfl dX1_sum_34 (he _ _ ⟨rfl, rfl⟩)
  · have hT := oifn c3 hT
    refine a_aload_n dX1_sum_16 rfl ?_
    refine a_iload dX1_sum_17 rfl ?_
    obtain ⟨z5, e4, hT⟩ := obnd hT
    refine a_ldI e4 dX1_sum_19 ?_
    refine a_istore (lv' := [none, some (.int v1), some (.ref v2), some (.int v3), some (.int v4), some (.int z5)]) dX1_sum_20 rfl (by decide) rfl ?_
    refine a_iload_n dX1_sum_22 rfl ?_
    refine a_iload dX1_sum_23 rfl ?_
    refine a_iadd dX1_sum_25 ?_
    refine a_istore_n (lv' := [none, some (.int (v1 + z5)), some (.ref v2), some (.int v3), some (.int v4), some (.int z5)]) dX1_sum_26 rfl (by decide) rfl ?_
    refine a_iinc (v := (v4 + 1)) (lv' := [none, some (.int (v1 + z5)), some (.ref v2), some (.int v3), some (.int (v4 + 1)), some (.int z5)]) dX1_sum_27 rfl (by rfl) rfl (by decide) rfl ?_
    refine a_goto 10 dX1_sum_30 rfl ?_
    obtain rfl := Option.some.inj hT
    refine a_mask [true, true, true, true, true, false] ?_
    exact he
theorem k_X1_sum_b10 {G : aG} {h0 : aH} {K : aRes → aH → Prop} {n9 : Nat} {x9 : (Int32 × Nat × Int32 × Int32 × aH)} {e : (Int32 × aH)} (hT : wlo (t_X1_sum_b10 (gZ G)) n9 x9 = some e) (he : (fun e => aTo (aEI e.1 e.2) K) e) : p_X1_sum_b10 G h0 K x9 := wlo_W kb_X1_sum_b10 n9 x9 e hT he
def t_X1_sum (Z : aZ) (h : aH) (x0 : Nat) : Option (Int32 × aH) :=
  (alen Z h x0).bind fun z1 =>
  wlo (t_X1_sum_b10 Z) 100 (0, x0, z1, 0, h)
theorem k_X1_sum {G : aG} {h : aH} {x0 : Nat} {e : (Int32 × aH)} (hT : t_X1_sum (gZ G) h x0 = some e) : aMet G yX1_sum (ws_ yX1_sum cX1_sum 6 (Option.some Jvm.ClassFile.FieldType.int)) 1 1 [.ref x0] h (aEI e.1 e.2) := by
  refine aMet.of (lv := [some (.ref x0), none, none, none, none, none]) (by decide) (Nat.le_of_ble_eq_true rfl) 5 rfl ?_
  have he : aTo (aEI e.1 e.2) (aEI e.1 e.2) := aTo.rf
  unfold t_X1_sum at hT
  refine a_iconst (v := 0) dX1_sum_0 (by decide) ?_
  refine a_istore_n (lv' := [some (.ref x0), some (.int 0), none, none, none, none]) dX1_sum_1 rfl (by decide) rfl ?_
  refine a_aload_n dX1_sum_2 rfl ?_
  refine a_astore_n (lv' := [some (.ref x0), some (.int 0), some (.ref x0), none, none, none]) dX1_sum_3 rfl (by decide) rfl ?_
  refine a_aload_n dX1_sum_4 rfl ?_
  obtain ⟨z1, e2, hT⟩ := obnd hT
  refine a_alen e2 dX1_sum_5 ?_
  refine a_istore_n (lv' := [some (.ref x0), some (.int 0), some (.ref x0), some (.int z1), none, none]) dX1_sum_6 rfl (by decide) rfl ?_
  refine a_iconst (v := 0) dX1_sum_7 (by decide) ?_
  refine a_istore (lv' := [some (.ref x0), some (.int 0), some (.ref x0), some (.int z1), some (.int 0), none]) dX1_sum_8 rfl (by decide) rfl ?_
  refine a_mask [false, true, true, true, true, true] ?_
  exact k_X1_sum_b10 hT he
theorem fl_X1_56_0 : aFL "MazeBonds" 56 0 1 := ⟨RX1, TX1, 8, "MazeBonds", rfl, in_X1, by decide, Or.inl rfl, Or.inl q223⟩
theorem kv_X1_374 : aKV "MazeBonds" 374 8 yJ2_isEmpty cJ2_isEmpty 1 (Option.some Jvm.ClassFile.FieldType.boolean) 0 := ⟨⟨TJ2, 3, rfl⟩, Or.inl q1682, q1683, q1684, q76, q1685, ⟨by decide +kernel, by decide +kernel, by decide +kernel⟩⟩
theorem ks_X1_271 : aKS "MazeBonds" 271 yX1_requireState cX1_requireState 1 (Option.none : Option Jvm.ClassFile.FieldType) 1 := ⟨Or.inl q1129, q1130, q72, q1131, ⟨by decide +kernel, by decide +kernel, by decide +kernel⟩⟩
theorem kv_X1_82 : aKV "MazeBonds" 82 8 yJ2_size cJ2_size 1 (Option.some Jvm.ClassFile.FieldType.int) 0 := ⟨⟨TJ2, 3, rfl⟩, Or.inl q546, q547, q548, q76, q549, ⟨by decide +kernel, by decide +kernel, by decide +kernel⟩⟩
theorem kv_X1_86 : aKV "MazeBonds" 86 8 yJ2_remove cJ2_remove 4 (Option.some (Jvm.ClassFile.FieldType.object "java/lang/Object")) 1 := ⟨⟨TJ2, 3, rfl⟩, Or.inl q550, q551, q552, q76, q553, ⟨by decide +kernel, by decide +kernel, by decide +kernel⟩⟩
theorem fp_X1_49_0 (nm9 : String) : aFP "MazeBonds" 49 0 0 (.object "MazeBonds$Core") nm9 := ⟨RX1, TX1, 8, "MazeBonds", tyX1, rfl, in_X1, by decide, Or.inl rfl, Or.inl q222, tyX1_ok, nmX1, rfl, Or.inl rfl⟩
abbrev M_X1_undo : aM := (yX1_undo.cls, cX1_undo, 1, (Option.some Jvm.ClassFile.FieldType.int), [], yX1_undo.name)
def t_X1_undo_l15 (Z : aZ) (h : aH) (v0 : Nat) (u0 : Int32) : Option ((Int32 ⊕ aXX) × aH) :=
  (t_X1_requireState Z h u0).bind fun r11 =>
  (match r11 with
  | (.inl y13, h14) =>
    (gA 0 1 h14 v0).bind fun a16 =>
    (gA 0 1 h14 v0).bind fun a18 =>
    if isC 8 h14 a18 = true then
    (t_J2_size Z h14 a18).bind fun r22 =>
    if isC 8 r22.2 a16 = true then
    (t_J2_remove Z r22.2 a16 (r22.1 - 1)).bind fun r27 =>
    if isC 1 r27.2 r27.1 = true then
    (pF 0 0 Z r27.2 v0 (.ref r27.1)).bind fun h31 =>
    (gA 0 1 h31 v0).bind fun a33 =>
    if isC 8 h31 a33 = true then
    (t_J2_size Z h31 a33).bind fun r37 =>
    some (.inl r37.1, r37.2)
    else none
    else none
    else none
    else none
  | (.inr y13, h14) =>
    some (.inr y13, h14)
  )
theorem k_X1_undo_l15 {G : aG} {h0 : aH} {K : aRes → aH → Prop} {h : aH} {v0 : Nat} {u0 : Int32} {e : ((Int32 ⊕ aXX) × aH)} (hT : t_X1_undo_l15 (gZ G) h v0 u0 = some e) (he : (fun e => aTo (aXI e.1 e.2) K) e) : aW G M_X1_undo 10 220 h0 K h 15 [some (.ref v0)] [.int u0] := by
  unfold t_X1_undo_l15 at hT
  obtain ⟨⟨y13 | y13, h14⟩, e12, hT⟩ := obnd hT
  · dsimp only at hT
    refine a_callS ks_X1_271 (k_X1_requireState e12) ⟨Nat.le_of_ble_eq_true rfl, Nat.le_of_ble_eq_true rfl⟩ (As := [.int u0]) (rest := []) rfl rfl (Nat.le_of_ble_eq_true rfl) dX1_undo_15 (kXV ?_) yXV
    refine a_aload_n dX1_undo_18 rfl ?_
    refine a_aload_n dX1_undo_19 rfl ?_
    obtain ⟨a16, e15, hT⟩ := obnd hT
    refine a_gA fl_X1_56_0 e15 dX1_undo_20 ?_
    refine a_aload_n dX1_undo_23 rfl ?_
    obtain ⟨a18, e17, hT⟩ := obnd hT
    refine a_gA fl_X1_56_0 e17 dX1_undo_24 ?_
    obtain ⟨g21, hT⟩ := oifg hT
    obtain ⟨r22, e23, hT⟩ := obnd hT
    refine a_callV kv_X1_82 g21 (k_J2_size e23) ⟨Nat.le_of_ble_eq_true rfl, Nat.le_of_ble_eq_true rfl⟩ (As := []) (rest := [.ref a16, .ref v0]) rfl rfl (Nat.le_of_ble_eq_true rfl) dX1_undo_27 (kI ?_) xI
    refine a_iconst (v := 1) dX1_undo_30 (by decide) ?_
    refine a_isub dX1_undo_31 ?_
    obtain ⟨g26, hT⟩ := oifg hT
    obtain ⟨r27, e28, hT⟩ := obnd hT
    refine a_callV kv_X1_86 g26 (k_J2_remove e28) ⟨Nat.le_of_ble_eq_true rfl, Nat.le_of_ble_eq_true rfl⟩ (As := [.int (r22.1 - 1)]) (rest := [.ref v0]) rfl rfl (Nat.le_of_ble_eq_true rfl) dX1_undo_32 (kA ?_) xA
    obtain ⟨g29, hT⟩ := oifg hT
    refine a_cast (ci := 1) rfl q118 g29 dX1_undo_35 ?_
    obtain ⟨h31, e30, hT⟩ := obnd hT
    refine a_put (fp_X1_49_0 _) ⟨rfl, rfl⟩ e30 dX1_undo_38 ?_
    refine a_aload_n dX1_undo_41 rfl ?_
    obtain ⟨a33, e32, hT⟩ := obnd hT
    refine a_gA fl_X1_56_0 e32 dX1_undo_42 ?_
    obtain ⟨g36, hT⟩ := oifg hT
    obtain ⟨r37, e38, hT⟩ := obnd hT
    refine a_callV kv_X1_82 g36 (k_J2_size e38) ⟨Nat.le_of_ble_eq_true rfl, Nat.le_of_ble_eq_true rfl⟩ (As := []) (rest := []) rfl rfl (Nat.le_of_ble_eq_true rfl) dX1_undo_45 (kI ?_) xI
    obtain rfl := Option.some.inj hT
    exact a_iret rfl rfl dX1_undo_48 (he _ _ ⟨rfl, rfl⟩)
  · dsimp only at hT
    refine a_callS ks_X1_271 (k_X1_requireState e12) ⟨Nat.le_of_ble_eq_true rfl, Nat.le_of_ble_eq_true rfl⟩ (As := [.int u0]) (rest := []) rfl rfl (Nat.le_of_ble_eq_true rfl) dX1_undo_15 rXV (zXV ?_)
    obtain rfl := Option.some.inj hT
    exact a_out (by decide) (he _ _ ⟨rfl, rfl⟩)
def t_X1_undo (Z : aZ) (h : aH) (o : Nat) : Option ((Int32 ⊕ aXX) × aH) :=
  (gA 0 1 h o).bind fun a2 =>
  if isC 8 h a2 = true then
  (t_J2_isEmpty Z h a2).bind fun r6 =>
  if r6.1 = 0 then
    t_X1_undo_l15 Z r6.2 o 1
  else
    t_X1_undo_l15 Z r6.2 o 0
  else none
theorem k_X1_undo {G : aG} {h : aH} {o : Nat} {e : ((Int32 ⊕ aXX) × aH)} (hT : t_X1_undo (gZ G) h o = some e) : aMet G yX1_undo (ws_ yX1_undo cX1_undo 1 (Option.some Jvm.ClassFile.FieldType.int)) 10 220 [.ref o] h (aXI e.1 e.2) := by
  refine aMet.of (lv := [some (.ref o)]) (by decide) (Nat.le_of_ble_eq_true rfl) 0 rfl ?_
  have he : aTo (aXI e.1 e.2) (aXI e.1 e.2) := aTo.rf
  unfold t_X1_undo at hT
  refine a_aload_n dX1_undo_0 rfl ?_
  obtain ⟨a2, e1, hT⟩ := obnd hT
  refine a_gA fl_X1_56_0 e1 dX1_undo_1 ?_
  obtain ⟨g5, hT⟩ := oifg hT
  obtain ⟨r6, e7, hT⟩ := obnd hT
  refine a_callV kv_X1_374 g5 (k_J2_isEmpty e7) ⟨Nat.le_of_ble_eq_true rfl, Nat.le_of_ble_eq_true rfl⟩ (As := []) (rest := []) rfl rfl (Nat.le_of_ble_eq_true rfl) dX1_undo_4 (kI ?_) xI
  refine a_if_ne 14 dX1_undo_7 rfl (fun c8 => ?_) (fun c8 => ?_)
  · have hT := oifn c8 hT
    refine a_iconst (v := 0) dX1_undo_14 (by decide) ?_
    exact k_X1_undo_l15 hT he
  · have hT := oifp c8 hT
    refine a_iconst (v := 1) dX1_undo_10 (by decide) ?_
    refine a_goto 15 dX1_undo_11 rfl ?_
    exact k_X1_undo_l15 hT he
theorem fn_X2_9 : aFN "MazeBonds$Core" 9 8 [.int 0, .null, .int 0] 3 := ⟨RJ2, TJ2, tyJ2, rfl, in_J2, tyJ2_ok, q127, q128, q76, by decide⟩
theorem ki_X2_11 : aKI "MazeBonds$Core" 11 yJ2_init cJ2_init 1 0 := ⟨rfl, Or.inl q129, q130, q76, q131, ⟨by decide +kernel, by decide +kernel, by decide +kernel⟩⟩
theorem fp_X2_12_1i : aFP "MazeBonds$Core" 12 1 1 (.object "java/util/ArrayList") "<init>" := ⟨RX2, TX2, 7, "MazeBonds$Core", tyX2, rfl, in_X2, by decide, Or.inl rfl, Or.inl q159, tyX2_ok, nmX2, rfl, Or.inr ⟨rfl, rfl, rfl, q159⟩⟩
theorem fp_X2_18_1i : aFP "MazeBonds$Core" 18 1 2 (.object "java/util/ArrayList") "<init>" := ⟨RX2, TX2, 7, "MazeBonds$Core", tyX2, rfl, in_X2, by decide, Or.inl rfl, Or.inl q161, tyX2_ok, nmX2, rfl, Or.inr ⟨rfl, rfl, rfl, q161⟩⟩
theorem fp_X2_21_1i : aFP "MazeBonds$Core" 21 1 3 .int "<init>" := ⟨RX2, TX2, 7, "MazeBonds$Core", tyX2, rfl, in_X2, by decide, Or.inl rfl, Or.inl q163, tyX2_ok, nmX2, rfl, Or.inl rfl⟩
theorem fp_X2_25_1i : aFP "MazeBonds$Core" 25 1 0 (.array .int) "<init>" := ⟨RX2, TX2, 7, "MazeBonds$Core", tyX2, rfl, in_X2, by decide, Or.inl rfl, Or.inl q157, tyX2_ok, nmX2, rfl, Or.inr ⟨rfl, rfl, rfl, q157⟩⟩
abbrev M_X2_init_2 : aM := (yX2_init_2.cls, cX2_init_2, 2, (Option.none : Option Jvm.ClassFile.FieldType), [], yX2_init_2.name)
def t_X2_init_2 (Z : aZ) (h : aH) (o : Nat) (x0 : Nat) : Option (Unit × aH) :=
  (nw Z h (.inr (8, [.int 0, .null, .int 0])) 3).bind fun h1 =>
  (t_J2_init Z h1 h.2.1).bind fun r5 =>
  (pF 1 1 Z r5.2 o (.ref h.2.1)).bind fun h8 =>
  (nw Z h8 (.inr (8, [.int 0, .null, .int 0])) 3).bind fun h9 =>
  (t_J2_init Z h9 h8.2.1).bind fun r13 =>
  (pF 1 2 Z r13.2 o (.ref h8.2.1)).bind fun h16 =>
  (pF 1 3 Z h16 o (.int (-1))).bind fun h18 =>
  (pF 1 0 Z h18 o (.ref x0)).bind fun h20 =>
  some ((), h20)
theorem k_X2_init_2 {G : aG} {h : aH} {o : Nat} {x0 : Nat} {e : (Unit × aH)} (hT : t_X2_init_2 (gZ G) h o x0 = some e) : aMet G yX2_init_2 (ws_ yX2_init_2 cX2_init_2 2 (Option.none : Option Jvm.ClassFile.FieldType)) 4 72 [.ref o, .ref x0] h (aEV e.1 e.2) := by
  refine aMet.of (lv := [some (.ref o), some (.ref x0)]) (by decide) (Nat.le_of_ble_eq_true rfl) 0 rfl ?_
  have he : aTo (aEV e.1 e.2) (aEV e.1 e.2) := aTo.rf
  unfold t_X2_init_2 at hT
  refine a_aload_n dX2_init_2_0 rfl ?_
  refine a_objInit q126 q_oi q_oc (by decide) (Nat.le_of_ble_eq_true rfl) dX2_init_2_1 ?_
  refine a_aload_n dX2_init_2_4 rfl ?_
  obtain ⟨h1, e2, hT⟩ := obnd hT
  refine a_new fn_X2_9 e2 dX2_init_2_5 ?_
  refine a_dup dX2_init_2_8 rfl ?_
  obtain ⟨r5, e6, hT⟩ := obnd hT
  refine a_callI ki_X2_11 (k_J2_init e6) ⟨Nat.le_of_ble_eq_true rfl, Nat.le_of_ble_eq_true rfl⟩ (As := []) (rest := [.ref h.2.1, .ref o]) rfl rfl (Nat.le_of_ble_eq_true rfl) dX2_init_2_9 (kV ?_) xV
  obtain ⟨h8, e7, hT⟩ := obnd hT
  refine a_put fp_X2_12_1i ⟨rfl, rfl⟩ e7 dX2_init_2_12 ?_
  refine a_aload_n dX2_init_2_15 rfl ?_
  obtain ⟨h9, e10, hT⟩ := obnd hT
  refine a_new fn_X2_9 e10 dX2_init_2_16 ?_
  refine a_dup dX2_init_2_19 rfl ?_
  obtain ⟨r13, e14, hT⟩ := obnd hT
  refine a_callI ki_X2_11 (k_J2_init e14) ⟨Nat.le_of_ble_eq_true rfl, Nat.le_of_ble_eq_true rfl⟩ (As := []) (rest := [.ref h8.2.1, .ref o]) rfl rfl (Nat.le_of_ble_eq_true rfl) dX2_init_2_20 (kV ?_) xV
  obtain ⟨h16, e15, hT⟩ := obnd hT
  refine a_put fp_X2_18_1i ⟨rfl, rfl⟩ e15 dX2_init_2_23 ?_
  refine a_aload_n dX2_init_2_26 rfl ?_
  refine a_iconst (v := (-1)) dX2_init_2_27 (by decide) ?_
  obtain ⟨h18, e17, hT⟩ := obnd hT
  refine a_put fp_X2_21_1i ⟨rfl, rfl⟩ e17 dX2_init_2_28 ?_
  refine a_aload_n dX2_init_2_31 rfl ?_
  refine a_aload_n dX2_init_2_32 rfl ?_
  obtain ⟨h20, e19, hT⟩ := obnd hT
  refine a_put fp_X2_25_1i ⟨rfl, rfl⟩ e19 dX2_init_2_33 ?_
  obtain rfl := Option.some.inj hT
  exact a_vret rfl dX2_init_2_36 (he _ _ ⟨rfl, rfl⟩)
theorem fl_X2_25_1 : aFL "MazeBonds$Core" 25 1 0 := ⟨RX2, TX2, 7, "MazeBonds$Core", rfl, in_X2, by decide, Or.inl rfl, Or.inl q157⟩
abbrev M_X2_gaps : aM := (yX2_gaps.cls, cX2_gaps, 6, (Option.some Jvm.ClassFile.FieldType.int), [], yX2_gaps.name)
def p_X2_gaps_b13 (G : aG) (h0 : aH) (K : aRes → aH → Prop) (x9 : (Int32 × Nat × Int32 × Int32 × aH)) : Prop := aW G M_X2_gaps 1 1 h0 K x9.2.2.2.2 13 [none, some (.int x9.1), some (.ref x9.2.1), some (.int x9.2.2.1), some (.int x9.2.2.2.1), none] []
def t_X2_gaps_l37 (Z : aZ) (h : aH) (v2 : Nat) (v3 : Int32) (v4 : Int32) (u0 : Int32) (u1 : Int32) : Option ((Int32 × Nat × Int32 × Int32 × aH) ⊕ (Int32 × aH)) :=
  some (.inl ((u1 + u0), v2, v3, (v4 + 1), h))
theorem k_X2_gaps_l37 {G : aG} {h0 : aH} {K : aRes → aH → Prop} {h : aH} {v2 : Nat} {v3 : Int32} {v4 : Int32} {u0 : Int32} {u1 : Int32} {e : ((Int32 × Nat × Int32 × Int32 × aH) ⊕ (Int32 × aH))} (hT : t_X2_gaps_l37 (gZ G) h v2 v3 v4 u0 u1 = some e) (he : (Sum.elim (p_X2_gaps_b13 G h0 K) (fun e => aTo (aEI e.1 e.2) K)) e) : aW G M_X2_gaps 1 1 h0 K h 37 [none, none, some (.ref v2), some (.int v3), some (.int v4), none] [.int u0, .int u1] := by
  unfold t_X2_gaps_l37 at hT
  refine a_iadd dX2_gaps_37 ?_
  refine a_istore_n (lv' := [none, some (.int (u1 + u0)), some (.ref v2), some (.int v3), some (.int v4), none]) dX2_gaps_38 rfl (by decide) rfl ?_
  refine a_iinc (v := (v4 + 1)) (lv' := [none, some (.int (u1 + u0)), some (.ref v2), some (.int v3), some (.int (v4 + 1)), none]) dX2_gaps_39 rfl (by rfl) rfl (by decide) rfl ?_
  refine a_goto 13 dX2_gaps_42 rfl ?_
  obtain rfl := Option.some.inj hT
  exact he
def t_X2_gaps_b13 (Z : aZ) : (Int32 × Nat × Int32 × Int32 × aH) → Option ((Int32 × Nat × Int32 × Int32 × aH) ⊕ (Int32 × aH)) := fun (v1, v2, v3, v4, h) =>
  if v3 ≤ v4 then
    some (.inr ((v1, h)))
  else
    (ldI Z h v2 v4).bind fun z7 =>
    if 5 ≤ z7 then
      t_X2_gaps_l37 Z h v2 v3 v4 0 v1
    else
      t_X2_gaps_l37 Z h v2 v3 v4 1 v1
theorem kb_X2_gaps_b13 {G : aG} {h0 : aH} {K : aRes → aH → Prop} : ∀ (x9 : (Int32 × Nat × Int32 × Int32 × aH)) (e : ((Int32 × Nat × Int32 × Int32 × aH) ⊕ (Int32 × aH))), t_X2_gaps_b13 (gZ G) x9 = some e → (Sum.elim (p_X2_gaps_b13 G h0 K) (fun e => aTo (aEI e.1 e.2) K)) e → p_X2_gaps_b13 G h0 K x9 := by
  intro x9 e hT he
  obtain ⟨v1, v2, v3, v4, h⟩ := x9
  unfold p_X2_gaps_b13
  unfold t_X2_gaps_b13 at hT
  show aW G M_X2_gaps 1 1 h0 K h 13 [none, some (.int v1), some (.ref v2), some (.int v3), some (.int v4), none] []
  dsimp only at hT
  refine a_iload dX2_gaps_13 rfl ?_
  refine a_iload_n dX2_gaps_15 rfl ?_
  refine a_icmp_ge 45 dX2_gaps_16 rfl (fun c5 => ?_) (fun c5 => ?_)
  · have hT := oifp c5 hT
    refine a_iload_n dX2_gaps_45 rfl ?_
    obtain rfl := Option.some.inj hT
    exact a_iret rfl rfl dX2_gaps_46 (he _ _ ⟨rfl, rfl⟩)
  · have hT := oifn c5 hT
    refine a_aload_n dX2_gaps_19 rfl ?_
    refine a_iload dX2_gaps_20 rfl ?_
    obtain ⟨z7, e6, hT⟩ := obnd hT
    refine a_ldI e6 dX2_gaps_22 ?_
    refine a_istore (lv' := [none, some (.int v1), some (.ref v2), some (.int v3), some (.int v4), some (.int z7)]) dX2_gaps_23 rfl (by decide) rfl ?_
    refine a_iload_n dX2_gaps_25 rfl ?_
    refine a_iload dX2_gaps_26 rfl ?_
    refine a_iconst (v := 5) dX2_gaps_28 (by decide) ?_
    refine a_icmp_ge 36 dX2_gaps_29 rfl (fun c8 => ?_) (fun c8 => ?_)
    · have hT := oifp c8 hT
      refine a_iconst (v := 0) dX2_gaps_36 (by decide) ?_
      refine a_mask [true, false, true, true, true, false] ?_
      exact k_X2_gaps_l37 hT he
    · have hT := oifn c8 hT
      refine a_iconst (v := 1) dX2_gaps_32 (by decide) ?_
      refine a_goto 37 dX2_gaps_33 rfl ?_
      refine a_mask [true, false, true, true, true, false] ?_
      exact k_X2_gaps_l37 hT he
theorem k_X2_gaps_b13 {G : aG} {h0 : aH} {K : aRes → aH → Prop} {n9 : Nat} {x9 : (Int32 × Nat × Int32 × Int32 × aH)} {e : (Int32 × aH)} (hT : wlo (t_X2_gaps_b13 (gZ G)) n9 x9 = some e) (he : (fun e => aTo (aEI e.1 e.2) K) e) : p_X2_gaps_b13 G h0 K x9 := wlo_W kb_X2_gaps_b13 n9 x9 e hT he
def t_X2_gaps (Z : aZ) (h : aH) (o : Nat) : Option (Int32 × aH) :=
  (gA 1 0 h o).bind fun a2 =>
  (alen Z h a2).bind fun z3 =>
  wlo (t_X2_gaps_b13 Z) 100 (0, a2, z3, 0, h)
theorem k_X2_gaps {G : aG} {h : aH} {o : Nat} {e : (Int32 × aH)} (hT : t_X2_gaps (gZ G) h o = some e) : aMet G yX2_gaps (ws_ yX2_gaps cX2_gaps 6 (Option.some Jvm.ClassFile.FieldType.int)) 1 1 [.ref o] h (aEI e.1 e.2) := by
  refine aMet.of (lv := [some (.ref o), none, none, none, none, none]) (by decide) (Nat.le_of_ble_eq_true rfl) 5 rfl ?_
  have he : aTo (aEI e.1 e.2) (aEI e.1 e.2) := aTo.rf
  unfold t_X2_gaps at hT
  refine a_iconst (v := 0) dX2_gaps_0 (by decide) ?_
  refine a_istore_n (lv' := [some (.ref o), some (.int 0), none, none, none, none]) dX2_gaps_1 rfl (by decide) rfl ?_
  refine a_aload_n dX2_gaps_2 rfl ?_
  obtain ⟨a2, e1, hT⟩ := obnd hT
  refine a_gA fl_X2_25_1 e1 dX2_gaps_3 ?_
  refine a_astore_n (lv' := [some (.ref o), some (.int 0), some (.ref a2), none, none, none]) dX2_gaps_6 rfl (by decide) rfl ?_
  refine a_aload_n dX2_gaps_7 rfl ?_
  obtain ⟨z3, e4, hT⟩ := obnd hT
  refine a_alen e4 dX2_gaps_8 ?_
  refine a_istore_n (lv' := [some (.ref o), some (.int 0), some (.ref a2), some (.int z3), none, none]) dX2_gaps_9 rfl (by decide) rfl ?_
  refine a_iconst (v := 0) dX2_gaps_10 (by decide) ?_
  refine a_istore (lv' := [some (.ref o), some (.int 0), some (.ref a2), some (.int z3), some (.int 0), none]) dX2_gaps_11 rfl (by decide) rfl ?_
  refine a_mask [false, true, true, true, true, true] ?_
  exact k_X2_gaps_b13 hT he
theorem ks_X2_82 : aKS "MazeBonds$Core" 82 yX1_hedgeOf cX1_hedgeOf 4 (Option.some Jvm.ClassFile.FieldType.int) 2 := ⟨Or.inr ⟨_, q597⟩, q598, q72, q599, ⟨by decide +kernel, by decide +kernel, by decide +kernel⟩⟩
abbrev M_X2_isGap : aM := (yX2_isGap.cls, cX2_isGap, 4, (Option.some Jvm.ClassFile.FieldType.boolean), [], yX2_isGap.name)
def t_X2_isGap (Z : aZ) (h : aH) (o : Nat) (x0 : Int32) (x1 : Int32) : Option (Int32 × aH) :=
  (t_X1_hedgeOf x0 x1).bind fun r3 =>
  if r3 = (-1) then
    some (0, h)
  else
    (gA 1 0 h o).bind fun a7 =>
    (ldI Z h a7 r3).bind fun z9 =>
    if 5 ≤ z9 then
      some (0, h)
    else
      some (1, h)
theorem k_X2_isGap {G : aG} {h : aH} {o : Nat} {x0 : Int32} {x1 : Int32} {e : (Int32 × aH)} (hT : t_X2_isGap (gZ G) h o x0 x1 = some e) : aMet G yX2_isGap (ws_ yX2_isGap cX2_isGap 4 (Option.some Jvm.ClassFile.FieldType.boolean)) 2 63 [.ref o, .int x0, .int x1] h (aEI e.1 e.2) := by
  refine aMet.of (lv := [some (.ref o), some (.int x0), some (.int x1), none]) (by decide) (Nat.le_of_ble_eq_true rfl) 1 rfl ?_
  have he : aTo (aEI e.1 e.2) (aEI e.1 e.2) := aTo.rf
  unfold t_X2_isGap at hT
  refine a_iload_n dX2_isGap_0 rfl ?_
  refine a_iload_n dX2_isGap_1 rfl ?_
  obtain ⟨r3, e4, hT⟩ := obnd hT
  refine a_callS ks_X2_82 (k_X1_hedgeOf e4) ⟨Nat.le_of_ble_eq_true rfl, Nat.le_of_ble_eq_true rfl⟩ (As := [.int x0, .int x1]) (rest := []) rfl rfl (Nat.le_of_ble_eq_true rfl) dX2_isGap_2 (kI ?_) xI
  refine a_istore_n (lv' := [some (.ref o), some (.int x0), some (.int x1), some (.int r3)]) dX2_isGap_5 rfl (by decide) rfl ?_
  refine a_iload_n dX2_isGap_6 rfl ?_
  refine a_iconst (v := (-1)) dX2_isGap_7 (by decide) ?_
  refine a_icmp_eq 25 dX2_isGap_8 rfl (fun c5 => ?_) (fun c5 => ?_)
  · have hT := oifp c5 hT
    refine a_iconst (v := 0) dX2_isGap_25 (by decide) ?_
    obtain rfl := Option.some.inj hT
    exact a_iret rfl (by decide) dX2_isGap_26 (he _ _ ⟨rfl, rfl⟩)
  · have hT := oifn c5 hT
    refine a_aload_n dX2_isGap_11 rfl ?_
    obtain ⟨a7, e6, hT⟩ := obnd hT
    refine a_gA fl_X2_25_1 e6 dX2_isGap_12 ?_
    refine a_iload_n dX2_isGap_15 rfl ?_
    obtain ⟨z9, e8, hT⟩ := obnd hT
    refine a_ldI e8 dX2_isGap_16 ?_
    refine a_iconst (v := 5) dX2_isGap_17 (by decide) ?_
    refine a_icmp_ge 25 dX2_isGap_18 rfl (fun c10 => ?_) (fun c10 => ?_)
    · have hT := oifp c10 hT
      refine a_iconst (v := 0) dX2_isGap_25 (by decide) ?_
      obtain rfl := Option.some.inj hT
      exact a_iret rfl (by decide) dX2_isGap_26 (he _ _ ⟨rfl, rfl⟩)
    · have hT := oifn c10 hT
      refine a_iconst (v := 1) dX2_isGap_21 (by decide) ?_
      refine a_goto 26 dX2_isGap_22 rfl ?_
      obtain rfl := Option.some.inj hT
      exact a_iret rfl (by decide) dX2_isGap_26 (he _ _ ⟨rfl, rfl⟩)
theorem fl_X2_12_1 : aFL "MazeBonds$Core" 12 1 1 := ⟨RX2, TX2, 7, "MazeBonds$Core", rfl, in_X2, by decide, Or.inl rfl, Or.inl q159⟩
theorem kv_X2_74 : aKV "MazeBonds$Core" 74 8 yJ2_size cJ2_size 1 (Option.some Jvm.ClassFile.FieldType.int) 0 := ⟨⟨TJ2, 3, rfl⟩, Or.inl q722, q547, q548, q76, q549, ⟨by decide +kernel, by decide +kernel, by decide +kernel⟩⟩
theorem ks_X2_78 : aKS "MazeBonds$Core" 78 yX1_isIn cX1_isIn 3 (Option.some Jvm.ClassFile.FieldType.boolean) 3 := ⟨Or.inr ⟨_, q635⟩, q633, q72, q634, ⟨by decide +kernel, by decide +kernel, by decide +kernel⟩⟩
abbrev M_X2_isGardener : aM := (yX2_isGardener.cls, cX2_isGardener, 2, (Option.some Jvm.ClassFile.FieldType.boolean), [], yX2_isGardener.name)
def t_X2_isGardener (Z : aZ) (h : aH) (o : Nat) (x0 : Int32) : Option (Int32 × aH) :=
  (gA 1 1 h o).bind fun a2 =>
  if isC 8 h a2 = true then
  (t_J2_size Z h a2).bind fun r6 =>
  (t_X1_isIn x0 0 (r6.1 - 1)).bind fun r10 =>
  if r10 = 0 ∨ r10 = 1 then some (r10, r6.2) else none
  else none
theorem k_X2_isGardener {G : aG} {h : aH} {o : Nat} {x0 : Int32} {e : (Int32 × aH)} (hT : t_X2_isGardener (gZ G) h o x0 = some e) : aMet G yX2_isGardener (ws_ yX2_isGardener cX2_isGardener 2 (Option.some Jvm.ClassFile.FieldType.boolean)) 2 23 [.ref o, .int x0] h (aEI e.1 e.2) := by
  refine aMet.of (lv := [some (.ref o), some (.int x0)]) (by decide) (Nat.le_of_ble_eq_true rfl) 0 rfl ?_
  have he : aTo (aEI e.1 e.2) (aEI e.1 e.2) := aTo.rf
  unfold t_X2_isGardener at hT
  refine a_iload_n dX2_isGardener_0 rfl ?_
  refine a_iconst (v := 0) dX2_isGardener_1 (by decide) ?_
  refine a_aload_n dX2_isGardener_2 rfl ?_
  obtain ⟨a2, e1, hT⟩ := obnd hT
  refine a_gA fl_X2_12_1 e1 dX2_isGardener_3 ?_
  obtain ⟨g5, hT⟩ := oifg hT
  obtain ⟨r6, e7, hT⟩ := obnd hT
  refine a_callV kv_X2_74 g5 (k_J2_size e7) ⟨Nat.le_of_ble_eq_true rfl, Nat.le_of_ble_eq_true rfl⟩ (As := []) (rest := [.int 0, .int x0]) rfl rfl (Nat.le_of_ble_eq_true rfl) dX2_isGardener_6 (kI ?_) xI
  refine a_iconst (v := 1) dX2_isGardener_9 (by decide) ?_
  refine a_isub dX2_isGardener_10 ?_
  obtain ⟨r10, e11, hT⟩ := obnd hT
  refine a_callS ks_X2_78 (k_X1_isIn e11) ⟨Nat.le_of_ble_eq_true rfl, Nat.le_of_ble_eq_true rfl⟩ (As := [.int x0, .int 0, .int (r6.1 - 1)]) (rest := []) rfl rfl (Nat.le_of_ble_eq_true rfl) dX2_isGardener_11 (kI ?_) xI
  obtain ⟨g9, hT⟩ := oifg hT
  obtain rfl := Option.some.inj hT
  exact a_iret rfl (nZ g9) dX2_isGardener_14 (he _ _ ⟨rfl, rfl⟩)
theorem fl_X2_18_1 : aFL "MazeBonds$Core" 18 1 2 := ⟨RX2, TX2, 7, "MazeBonds$Core", rfl, in_X2, by decide, Or.inl rfl, Or.inl q161⟩
abbrev M_X2_isVisitor : aM := (yX2_isVisitor.cls, cX2_isVisitor, 2, (Option.some Jvm.ClassFile.FieldType.boolean), [], yX2_isVisitor.name)
def t_X2_isVisitor (Z : aZ) (h : aH) (o : Nat) (x0 : Int32) : Option (Int32 × aH) :=
  (gA 1 2 h o).bind fun a2 =>
  if isC 8 h a2 = true then
  (t_J2_size Z h a2).bind fun r6 =>
  (t_X1_isIn x0 0 (r6.1 - 1)).bind fun r10 =>
  if r10 = 0 ∨ r10 = 1 then some (r10, r6.2) else none
  else none
theorem k_X2_isVisitor {G : aG} {h : aH} {o : Nat} {x0 : Int32} {e : (Int32 × aH)} (hT : t_X2_isVisitor (gZ G) h o x0 = some e) : aMet G yX2_isVisitor (ws_ yX2_isVisitor cX2_isVisitor 2 (Option.some Jvm.ClassFile.FieldType.boolean)) 2 23 [.ref o, .int x0] h (aEI e.1 e.2) := by
  refine aMet.of (lv := [some (.ref o), some (.int x0)]) (by decide) (Nat.le_of_ble_eq_true rfl) 0 rfl ?_
  have he : aTo (aEI e.1 e.2) (aEI e.1 e.2) := aTo.rf
  unfold t_X2_isVisitor at hT
  refine a_iload_n dX2_isVisitor_0 rfl ?_
  refine a_iconst (v := 0) dX2_isVisitor_1 (by decide) ?_
  refine a_aload_n dX2_isVisitor_2 rfl ?_
  obtain ⟨a2, e1, hT⟩ := obnd hT
  refine a_gA fl_X2_18_1 e1 dX2_isVisitor_3 ?_
  obtain ⟨g5, hT⟩ := oifg hT
  obtain ⟨r6, e7, hT⟩ := obnd hT
  refine a_callV kv_X2_74 g5 (k_J2_size e7) ⟨Nat.le_of_ble_eq_true rfl, Nat.le_of_ble_eq_true rfl⟩ (As := []) (rest := [.int 0, .int x0]) rfl rfl (Nat.le_of_ble_eq_true rfl) dX2_isVisitor_6 (kI ?_) xI
  refine a_iconst (v := 1) dX2_isVisitor_9 (by decide) ?_
  refine a_isub dX2_isVisitor_10 ?_
  obtain ⟨r10, e11, hT⟩ := obnd hT
  refine a_callS ks_X2_78 (k_X1_isIn e11) ⟨Nat.le_of_ble_eq_true rfl, Nat.le_of_ble_eq_true rfl⟩ (As := [.int x0, .int 0, .int (r6.1 - 1)]) (rest := []) rfl rfl (Nat.le_of_ble_eq_true rfl) dX2_isVisitor_11 (kI ?_) xI
  obtain ⟨g9, hT⟩ := oifg hT
  obtain rfl := Option.some.inj hT
  exact a_iret rfl (nZ g9) dX2_isVisitor_14 (he _ _ ⟨rfl, rfl⟩)
theorem ks_X2_94 : aKS "MazeBonds$Core" 94 yX1_neighbour cX1_neighbour 2 (Option.some Jvm.ClassFile.FieldType.int) 2 := ⟨Or.inr ⟨_, q590⟩, q591, q72, q592, ⟨by decide +kernel, by decide +kernel, by decide +kernel⟩⟩
theorem kv_X2_97 : aKV "MazeBonds$Core" 97 1 yX2_isGap cX2_isGap 4 (Option.some Jvm.ClassFile.FieldType.boolean) 2 := ⟨⟨TX2, 7, rfl⟩, Or.inl q593, q594, q595, q73, q596, ⟨by decide +kernel, by decide +kernel, by decide +kernel⟩⟩
abbrev M_X2_byNeighbours : aM := (yX2_byNeighbours.cls, cX2_byNeighbours, 8, (Option.some Jvm.ClassFile.FieldType.int), [], yX2_byNeighbours.name)
def p_X2_byNeighbours_b7 (G : aG) (h0 : aH) (K : aRes → aH → Prop) (x9 : (Nat × Nat × Int32 × Int32 × Int32 × Int32 × Int32 × aH)) : Prop := aW G M_X2_byNeighbours 3 86 h0 K x9.2.2.2.2.2.2.2 7 [some (.ref x9.1), some (.ref x9.2.1), some (.int x9.2.2.1), some (.int x9.2.2.2.1), some (.int x9.2.2.2.2.1), some (.int x9.2.2.2.2.2.1), some (.int x9.2.2.2.2.2.2.1), none] []
def t_X2_byNeighbours_l55 (Z : aZ) (h : aH) (v0 : Nat) (v1 : Nat) (v2 : Int32) (v3 : Int32) (v4 : Int32) (v5 : Int32) (v6 : Int32) : Option ((Nat × Nat × Int32 × Int32 × Int32 × Int32 × Int32 × aH) ⊕ (Int32 × aH)) :=
  some (.inl (v0, v1, v2, v3, v4, v5, (v6 + 1), h))
theorem k_X2_byNeighbours_l55 {G : aG} {h0 : aH} {K : aRes → aH → Prop} {h : aH} {v0 : Nat} {v1 : Nat} {v2 : Int32} {v3 : Int32} {v4 : Int32} {v5 : Int32} {v6 : Int32} {e : ((Nat × Nat × Int32 × Int32 × Int32 × Int32 × Int32 × aH) ⊕ (Int32 × aH))} (hT : t_X2_byNeighbours_l55 (gZ G) h v0 v1 v2 v3 v4 v5 v6 = some e) (he : (Sum.elim (p_X2_byNeighbours_b7 G h0 K) (fun e => aTo (aEI e.1 e.2) K)) e) : aW G M_X2_byNeighbours 3 86 h0 K h 55 [some (.ref v0), some (.ref v1), some (.int v2), some (.int v3), some (.int v4), some (.int v5), some (.int v6), none] [] := by
  unfold t_X2_byNeighbours_l55 at hT
  refine a_iinc (v := (v6 + 1)) (lv' := [some (.ref v0), some (.ref v1), some (.int v2), some (.int v3), some (.int v4), some (.int v5), some (.int (v6 + 1)), none]) dX2_byNeighbours_55 rfl (by rfl) rfl (by decide) rfl ?_
  refine a_goto 7 dX2_byNeighbours_58 rfl ?_
  obtain rfl := Option.some.inj hT
  exact he
def t_X2_byNeighbours_l49 (Z : aZ) (h : aH) (v0 : Nat) (v1 : Nat) (v2 : Int32) (v3 : Int32) (v4 : Int32) (v6 : Int32) (u0 : Int32) (u1 : Int32) (u2 : Int32) : Option ((Nat × Nat × Int32 × Int32 × Int32 × Int32 × Int32 × aH) ⊕ (Int32 × aH)) :=
  t_X2_byNeighbours_l55 Z h v0 v1 v2 v3 v4 (jmin u2 (u1 + u0)) v6
theorem k_X2_byNeighbours_l49 {G : aG} {h0 : aH} {K : aRes → aH → Prop} {h : aH} {v0 : Nat} {v1 : Nat} {v2 : Int32} {v3 : Int32} {v4 : Int32} {v6 : Int32} {u0 : Int32} {u1 : Int32} {u2 : Int32} {e : ((Nat × Nat × Int32 × Int32 × Int32 × Int32 × Int32 × aH) ⊕ (Int32 × aH))} (hT : t_X2_byNeighbours_l49 (gZ G) h v0 v1 v2 v3 v4 v6 u0 u1 u2 = some e) (he : (Sum.elim (p_X2_byNeighbours_b7 G h0 K) (fun e => aTo (aEI e.1 e.2) K)) e) : aW G M_X2_byNeighbours 3 86 h0 K h 49 [some (.ref v0), some (.ref v1), some (.int v2), some (.int v3), some (.int v4), none, some (.int v6), none] [.int u0, .int u1, .int u2] := by
  unfold t_X2_byNeighbours_l49 at hT
  refine a_iadd dX2_byNeighbours_49 ?_
  refine a_mmin q541 q481 q90 q482 (by decide) (Nat.le_of_ble_eq_true rfl) dX2_byNeighbours_50 ?_
  refine a_istore (lv' := [some (.ref v0), some (.ref v1), some (.int v2), some (.int v3), some (.int v4), some (.int (jmin u2 (u1 + u0))), some (.int v6), none]) dX2_byNeighbours_53 rfl (by decide) rfl ?_
  exact k_X2_byNeighbours_l55 hT he
def t_X2_byNeighbours_b7 (Z : aZ) : (Nat × Nat × Int32 × Int32 × Int32 × Int32 × Int32 × aH) → Option ((Nat × Nat × Int32 × Int32 × Int32 × Int32 × Int32 × aH) ⊕ (Int32 × aH)) := fun (v0, v1, v2, v3, v4, v5, v6, h) =>
  if 4 ≤ v6 then
    some (.inr ((v5, h)))
  else
    (t_X1_neighbour v2 v6).bind fun r4 =>
    if r4 = (-1) then
      t_X2_byNeighbours_l55 Z h v0 v1 v2 v3 v4 v5 v6
    else
      (ldI Z h v1 r4).bind fun z8 =>
      if isC 1 h v0 = true then
      (t_X2_isGap Z h v0 v2 r4).bind fun r12 =>
      if r12.1 = 0 then
        t_X2_byNeighbours_l49 Z r12.2 v0 v1 v2 v3 v4 v6 v4 z8 v5
      else
        t_X2_byNeighbours_l49 Z r12.2 v0 v1 v2 v3 v4 v6 v3 z8 v5
      else none
theorem kb_X2_byNeighbours_b7 {G : aG} {h0 : aH} {K : aRes → aH → Prop} : ∀ (x9 : (Nat × Nat × Int32 × Int32 × Int32 × Int32 × Int32 × aH)) (e : ((Nat × Nat × Int32 × Int32 × Int32 × Int32 × Int32 × aH) ⊕ (Int32 × aH))), t_X2_byNeighbours_b7 (gZ G) x9 = some e → (Sum.elim (p_X2_byNeighbours_b7 G h0 K) (fun e => aTo (aEI e.1 e.2) K)) e → p_X2_byNeighbours_b7 G h0 K x9 := by
  intro x9 e hT he
  obtain ⟨v0, v1, v2, v3, v4, v5, v6, h⟩ := x9
  unfold p_X2_byNeighbours_b7
  unfold t_X2_byNeighbours_b7 at hT
  show aW G M_X2_byNeighbours 3 86 h0 K h 7 [some (.ref v0), some (.ref v1), some (.int v2), some (.int v3), some (.int v4), some (.int v5), some (.int v6), none] []
  dsimp only at hT
  refine a_iload dX2_byNeighbours_7 rfl ?_
  refine a_iconst (v := 4) dX2_byNeighbours_9 (by decide) ?_
  refine a_icmp_ge 61 dX2_byNeighbours_10 rfl (fun c1 => ?_) (fun c1 => ?_)
  · have hT := oifp c1 hT
    refine a_iload dX2_byNeighbours_61 rfl ?_
    obtain rfl := Option.some.inj hT
    exact a_iret rfl rfl dX2_byNeighbours_63 (he _ _ ⟨rfl, rfl⟩)
  · have hT := oifn c1 hT
    refine a_iload_n dX2_byNeighbours_13 rfl ?_
    refine a_iload dX2_byNeighbours_14 rfl ?_
    obtain ⟨r4, e5, hT⟩ := obnd hT
    refine a_callS ks_X2_94 (k_X1_neighbour e5) ⟨Nat.le_of_ble_eq_true rfl, Nat.le_of_ble_eq_true rfl⟩ (As := [.int v2, .int v6]) (rest := []) rfl rfl (Nat.le_of_ble_eq_true rfl) dX2_byNeighbours_16 (kI ?_) xI
    refine a_istore (lv' := [some (.ref v0), some (.ref v1), some (.int v2), some (.int v3), some (.int v4), some (.int v5), some (.int v6), some (.int r4)]) dX2_byNeighbours_19 rfl (by decide) rfl ?_
    refine a_iload dX2_byNeighbours_21 rfl ?_
    refine a_iconst (v := (-1)) dX2_byNeighbours_23 (by decide) ?_
    refine a_icmp_eq 55 dX2_byNeighbours_24 rfl (fun c6 => ?_) (fun c6 => ?_)
    · have hT := oifp c6 hT
      refine a_mask [true, true, true, true, true, true, true, false] ?_
      exact k_X2_byNeighbours_l55 hT he
    · have hT := oifn c6 hT
      refine a_iload dX2_byNeighbours_27 rfl ?_
      refine a_aload_n dX2_byNeighbours_29 rfl ?_
      refine a_iload dX2_byNeighbours_30 rfl ?_
      obtain ⟨z8, e7, hT⟩ := obnd hT
      refine a_ldI e7 dX2_byNeighbours_32 ?_
      refine a_aload_n dX2_byNeighbours_33 rfl ?_
      refine a_iload_n dX2_byNeighbours_34 rfl ?_
      refine a_iload dX2_byNeighbours_35 rfl ?_
      obtain ⟨g11, hT⟩ := oifg hT
      obtain ⟨r12, e13, hT⟩ := obnd hT
      refine a_callV kv_X2_97 g11 (k_X2_isGap e13) ⟨Nat.le_of_ble_eq_true rfl, Nat.le_of_ble_eq_true rfl⟩ (As := [.int v2, .int r4]) (rest := [.int z8, .int v5]) rfl rfl (Nat.le_of_ble_eq_true rfl) dX2_byNeighbours_37 (kI ?_) xI
      refine a_if_eq 47 dX2_byNeighbours_40 rfl (fun c14 => ?_) (fun c14 => ?_)
      · have hT := oifp c14 hT
        refine a_iload dX2_byNeighbours_47 rfl ?_
        refine a_mask [true, true, true, true, true, false, true, false] ?_
        exact k_X2_byNeighbours_l49 hT he
      · have hT := oifn c14 hT
        refine a_iload_n dX2_byNeighbours_43 rfl ?_
        refine a_goto 49 dX2_byNeighbours_44 rfl ?_
        refine a_mask [true, true, true, true, true, false, true, false] ?_
        exact k_X2_byNeighbours_l49 hT he
theorem k_X2_byNeighbours_b7 {G : aG} {h0 : aH} {K : aRes → aH → Prop} {n9 : Nat} {x9 : (Nat × Nat × Int32 × Int32 × Int32 × Int32 × Int32 × aH)} {e : (Int32 × aH)} (hT : wlo (t_X2_byNeighbours_b7 (gZ G)) n9 x9 = some e) (he : (fun e => aTo (aEI e.1 e.2) K) e) : p_X2_byNeighbours_b7 G h0 K x9 := wlo_W kb_X2_byNeighbours_b7 n9 x9 e hT he
def t_X2_byNeighbours (Z : aZ) (h : aH) (o : Nat) (x0 : Nat) (x1 : Int32) (x2 : Int32) (x3 : Int32) : Option (Int32 × aH) :=
  wlo (t_X2_byNeighbours_b7 Z) 100 (o, x0, x1, x2, x3, 16, 0, h)
theorem k_X2_byNeighbours {G : aG} {h : aH} {o : Nat} {x0 : Nat} {x1 : Int32} {x2 : Int32} {x3 : Int32} {e : (Int32 × aH)} (hT : t_X2_byNeighbours (gZ G) h o x0 x1 x2 x3 = some e) : aMet G yX2_byNeighbours (ws_ yX2_byNeighbours cX2_byNeighbours 8 (Option.some Jvm.ClassFile.FieldType.int)) 3 86 [.ref o, .ref x0, .int x1, .int x2, .int x3] h (aEI e.1 e.2) := by
  refine aMet.of (lv := [some (.ref o), some (.ref x0), some (.int x1), some (.int x2), some (.int x3), none, none, none]) (by decide) (Nat.le_of_ble_eq_true rfl) 3 rfl ?_
  have he : aTo (aEI e.1 e.2) (aEI e.1 e.2) := aTo.rf
  unfold t_X2_byNeighbours at hT
  refine a_bipush (v := 16) dX2_byNeighbours_0 (by decide) ?_
  refine a_istore (lv' := [some (.ref o), some (.ref x0), some (.int x1), some (.int x2), some (.int x3), some (.int 16), none, none]) dX2_byNeighbours_2 rfl (by decide) rfl ?_
  refine a_iconst (v := 0) dX2_byNeighbours_4 (by decide) ?_
  refine a_istore (lv' := [some (.ref o), some (.ref x0), some (.int x1), some (.int x2), some (.int x3), some (.int 16), some (.int 0), none]) dX2_byNeighbours_5 rfl (by decide) rfl ?_
  exact k_X2_byNeighbours_b7 hT he
theorem ki_X5_1 : aKI "MazeBonds$Gardener" 1 yX4_init cX4_init 2 1 := ⟨rfl, Or.inl q398, q399, q87, q400, ⟨by decide +kernel, by decide +kernel, by decide +kernel⟩⟩
abbrev M_X5_init : aM := (yX5_init.cls, cX5_init, 2, (Option.none : Option Jvm.ClassFile.FieldType), [], yX5_init.name)
def t_X5_init (Z : aZ) (h : aH) (o : Nat) (x0 : Int32) : Option (Unit × aH) :=
  (t_X4_init_3 Z h o x0).bind fun r3 =>
  some ((), r3.2)
theorem k_X5_init {G : aG} {h : aH} {o : Nat} {x0 : Int32} {e : (Unit × aH)} (hT : t_X5_init (gZ G) h o x0 = some e) : aMet G yX5_init (ws_ yX5_init cX5_init 2 (Option.none : Option Jvm.ClassFile.FieldType)) 2 33 [.ref o, .int x0] h (aEV e.1 e.2) := by
  refine aMet.of (lv := [some (.ref o), some (.int x0)]) (by decide) (Nat.le_of_ble_eq_true rfl) 0 rfl ?_
  have he : aTo (aEV e.1 e.2) (aEV e.1 e.2) := aTo.rf
  unfold t_X5_init at hT
  refine a_aload_n dX5_init_0 rfl ?_
  refine a_iload_n dX5_init_1 rfl ?_
  obtain ⟨r3, e4, hT⟩ := obnd hT
  refine a_callI ki_X5_1 (k_X4_init_3 e4) ⟨Nat.le_of_ble_eq_true rfl, Nat.le_of_ble_eq_true rfl⟩ (As := [.int x0]) (rest := []) rfl rfl (Nat.le_of_ble_eq_true rfl) dX5_init_2 (kV ?_) xV
  obtain rfl := Option.some.inj hT
  exact a_vret rfl dX5_init_5 (he _ _ ⟨rfl, rfl⟩)
theorem ki_X6_3 : aKI "MazeBonds$Visitor" 3 yX4_init cX4_init 2 1 := ⟨rfl, Or.inl q501, q399, q87, q400, ⟨by decide +kernel, by decide +kernel, by decide +kernel⟩⟩
theorem fp_X6_9_4i : aFP "MazeBonds$Visitor" 9 4 2 .int "<init>" := ⟨RX6, TX6, 7, "MazeBonds$Visitor", tyX6, rfl, in_X6, by decide, Or.inl rfl, Or.inl q504, tyX6_ok, nmX6, rfl, Or.inl rfl⟩
theorem fp_X6_15_4i : aFP "MazeBonds$Visitor" 15 4 4 .int "<init>" := ⟨RX6, TX6, 7, "MazeBonds$Visitor", tyX6, rfl, in_X6, by decide, Or.inl rfl, Or.inl q510, tyX6_ok, nmX6, rfl, Or.inl rfl⟩
theorem fp_X6_18_4i : aFP "MazeBonds$Visitor" 18 4 1 .int "<init>" := ⟨RX6, TX6, 7, "MazeBonds$Visitor", tyX6, rfl, in_X6, by decide, Or.inl rfl, Or.inl q502, tyX6_ok, nmX6, rfl, Or.inr ⟨rfl, rfl, rfl, q502⟩⟩
abbrev M_X6_init : aM := (yX6_init.cls, cX6_init, 3, (Option.none : Option Jvm.ClassFile.FieldType), [], yX6_init.name)
def t_X6_init (Z : aZ) (h : aH) (o : Nat) (x0 : Int32) (x1 : Int32) : Option (Unit × aH) :=
  (t_X4_init_4 Z h o x0).bind fun r3 =>
  (pF 4 2 Z r3.2 o (.int 0)).bind fun h6 =>
  (pF 4 4 Z h6 o (.int (-1))).bind fun h8 =>
  (pF 4 1 Z h8 o (.int x1)).bind fun h10 =>
  some ((), h10)
theorem k_X6_init {G : aG} {h : aH} {o : Nat} {x0 : Int32} {x1 : Int32} {e : (Unit × aH)} (hT : t_X6_init (gZ G) h o x0 x1 = some e) : aMet G yX6_init (ws_ yX6_init cX6_init 3 (Option.none : Option Jvm.ClassFile.FieldType)) 2 33 [.ref o, .int x0, .int x1] h (aEV e.1 e.2) := by
  refine aMet.of (lv := [some (.ref o), some (.int x0), some (.int x1)]) (by decide) (Nat.le_of_ble_eq_true rfl) 0 rfl ?_
  have he : aTo (aEV e.1 e.2) (aEV e.1 e.2) := aTo.rf
  unfold t_X6_init at hT
  refine a_aload_n dX6_init_0 rfl ?_
  refine a_iload_n dX6_init_1 rfl ?_
  obtain ⟨r3, e4, hT⟩ := obnd hT
  refine a_callI ki_X6_3 (k_X4_init_4 e4) ⟨Nat.le_of_ble_eq_true rfl, Nat.le_of_ble_eq_true rfl⟩ (As := [.int x0]) (rest := []) rfl rfl (Nat.le_of_ble_eq_true rfl) dX6_init_2 (kV ?_) xV
  refine a_aload_n dX6_init_5 rfl ?_
  refine a_iconst (v := 0) dX6_init_6 (by decide) ?_
  obtain ⟨h6, e5, hT⟩ := obnd hT
  refine a_put fp_X6_9_4i ⟨rfl, rfl⟩ e5 dX6_init_7 ?_
  refine a_aload_n dX6_init_10 rfl ?_
  refine a_iconst (v := (-1)) dX6_init_11 (by decide) ?_
  obtain ⟨h8, e7, hT⟩ := obnd hT
  refine a_put fp_X6_15_4i ⟨rfl, rfl⟩ e7 dX6_init_12 ?_
  refine a_aload_n dX6_init_15 rfl ?_
  refine a_iload_n dX6_init_16 rfl ?_
  obtain ⟨h10, e9, hT⟩ := obnd hT
  refine a_put fp_X6_18_4i ⟨rfl, rfl⟩ e9 dX6_init_17 ?_
  obtain rfl := Option.some.inj hT
  exact a_vret rfl dX6_init_20 (he _ _ ⟨rfl, rfl⟩)
theorem fl_X6_9_4 : aFL "MazeBonds$Visitor" 9 4 2 := ⟨RX6, TX6, 7, "MazeBonds$Visitor", rfl, in_X6, by decide, Or.inl rfl, Or.inl q504⟩
abbrev M_X6_isOut : aM := (yX6_isOut.cls, cX6_isOut, 1, (Option.some Jvm.ClassFile.FieldType.boolean), [], yX6_isOut.name)
def t_X6_isOut (Z : aZ) (h : aH) (o : Nat) : Option (Int32 × aH) :=
  (gI 4 2 h o).bind fun z2 =>
  if z2 = 15 then
    some (1, h)
  else
    some (0, h)
theorem k_X6_isOut {G : aG} {h : aH} {o : Nat} {e : (Int32 × aH)} (hT : t_X6_isOut (gZ G) h o = some e) : aMet G yX6_isOut (ws_ yX6_isOut cX6_isOut 1 (Option.some Jvm.ClassFile.FieldType.boolean)) 1 1 [.ref o] h (aEI e.1 e.2) := by
  refine aMet.of (lv := [some (.ref o)]) (by decide) (Nat.le_of_ble_eq_true rfl) 0 rfl ?_
  have he : aTo (aEI e.1 e.2) (aEI e.1 e.2) := aTo.rf
  unfold t_X6_isOut at hT
  refine a_aload_n dX6_isOut_0 rfl ?_
  obtain ⟨z2, e1, hT⟩ := obnd hT
  refine a_gI fl_X6_9_4 e1 dX6_isOut_1 ?_
  refine a_bipush (v := 15) dX6_isOut_4 (by decide) ?_
  refine a_icmp_ne 13 dX6_isOut_6 rfl (fun c3 => ?_) (fun c3 => ?_)
  · have hT := oifn c3 hT
    refine a_iconst (v := 0) dX6_isOut_13 (by decide) ?_
    obtain rfl := Option.some.inj hT
    exact a_iret rfl (by decide) dX6_isOut_14 (he _ _ ⟨rfl, rfl⟩)
  · have hT := oifp c3 hT
    refine a_iconst (v := 1) dX6_isOut_9 (by decide) ?_
    refine a_goto 14 dX6_isOut_10 rfl ?_
    obtain rfl := Option.some.inj hT
    exact a_iret rfl (by decide) dX6_isOut_14 (he _ _ ⟨rfl, rfl⟩)
theorem fl_X6_15_4 : aFL "MazeBonds$Visitor" 15 4 4 := ⟨RX6, TX6, 7, "MazeBonds$Visitor", rfl, in_X6, by decide, Or.inl rfl, Or.inl q510⟩
abbrev M_X6_hasBond : aM := (yX6_hasBond.cls, cX6_hasBond, 1, (Option.some Jvm.ClassFile.FieldType.boolean), [], yX6_hasBond.name)
def t_X6_hasBond (Z : aZ) (h : aH) (o : Nat) : Option (Int32 × aH) :=
  (gI 4 4 h o).bind fun z2 =>
  if z2 = (-1) then
    some (0, h)
  else
    some (1, h)
theorem k_X6_hasBond {G : aG} {h : aH} {o : Nat} {e : (Int32 × aH)} (hT : t_X6_hasBond (gZ G) h o = some e) : aMet G yX6_hasBond (ws_ yX6_hasBond cX6_hasBond 1 (Option.some Jvm.ClassFile.FieldType.boolean)) 1 1 [.ref o] h (aEI e.1 e.2) := by
  refine aMet.of (lv := [some (.ref o)]) (by decide) (Nat.le_of_ble_eq_true rfl) 0 rfl ?_
  have he : aTo (aEI e.1 e.2) (aEI e.1 e.2) := aTo.rf
  unfold t_X6_hasBond at hT
  refine a_aload_n dX6_hasBond_0 rfl ?_
  obtain ⟨z2, e1, hT⟩ := obnd hT
  refine a_gI fl_X6_15_4 e1 dX6_hasBond_1 ?_
  refine a_iconst (v := (-1)) dX6_hasBond_4 (by decide) ?_
  refine a_icmp_eq 12 dX6_hasBond_5 rfl (fun c3 => ?_) (fun c3 => ?_)
  · have hT := oifp c3 hT
    refine a_iconst (v := 0) dX6_hasBond_12 (by decide) ?_
    obtain rfl := Option.some.inj hT
    exact a_iret rfl (by decide) dX6_hasBond_13 (he _ _ ⟨rfl, rfl⟩)
  · have hT := oifn c3 hT
    refine a_iconst (v := 1) dX6_hasBond_8 (by decide) ?_
    refine a_goto 13 dX6_hasBond_9 rfl ?_
    obtain rfl := Option.some.inj hT
    exact a_iret rfl (by decide) dX6_hasBond_13 (he _ _ ⟨rfl, rfl⟩)
theorem fl_X6_28_4 : aFL "MazeBonds$Visitor" 28 4 3 := ⟨RX6, TX6, 7, "MazeBonds$Visitor", rfl, in_X6, by decide, Or.inl rfl, Or.inl q507⟩
theorem fl_X6_18_4 : aFL "MazeBonds$Visitor" 18 4 1 := ⟨RX6, TX6, 7, "MazeBonds$Visitor", rfl, in_X6, by decide, Or.inl rfl, Or.inl q502⟩
abbrev M_X6_lostWith : aM := (yX6_lostWith.cls, cX6_lostWith, 2, (Option.some Jvm.ClassFile.FieldType.int), [], yX6_lostWith.name)
def t_X6_lostWith (Z : aZ) (h : aH) (o : Nat) (x0 : Int32) : Option (Int32 × aH) :=
  (gI 4 3 h o).bind fun z2 =>
  (gI 4 1 h o).bind fun z4 =>
  some ((jmax 0 ((z2 + x0) - z4)), h)
theorem k_X6_lostWith {G : aG} {h : aH} {o : Nat} {x0 : Int32} {e : (Int32 × aH)} (hT : t_X6_lostWith (gZ G) h o x0 = some e) : aMet G yX6_lostWith (ws_ yX6_lostWith cX6_lostWith 2 (Option.some Jvm.ClassFile.FieldType.int)) 1 40 [.ref o, .int x0] h (aEI e.1 e.2) := by
  refine aMet.of (lv := [some (.ref o), some (.int x0)]) (by decide) (Nat.le_of_ble_eq_true rfl) 0 rfl ?_
  have he : aTo (aEI e.1 e.2) (aEI e.1 e.2) := aTo.rf
  unfold t_X6_lostWith at hT
  refine a_iconst (v := 0) dX6_lostWith_0 (by decide) ?_
  refine a_aload_n dX6_lostWith_1 rfl ?_
  obtain ⟨z2, e1, hT⟩ := obnd hT
  refine a_gI fl_X6_28_4 e1 dX6_lostWith_2 ?_
  refine a_iload_n dX6_lostWith_5 rfl ?_
  refine a_iadd dX6_lostWith_6 ?_
  refine a_aload_n dX6_lostWith_7 rfl ?_
  obtain ⟨z4, e3, hT⟩ := obnd hT
  refine a_gI fl_X6_18_4 e3 dX6_lostWith_8 ?_
  refine a_isub dX6_lostWith_11 ?_
  refine a_mmax q850 q441 q90 q442 (by decide) (Nat.le_of_ble_eq_true rfl) dX6_lostWith_12 ?_
  obtain rfl := Option.some.inj hT
  exact a_iret rfl rfl dX6_lostWith_15 (he _ _ ⟨rfl, rfl⟩)
theorem fp_X6_15_4 (nm9 : String) : aFP "MazeBonds$Visitor" 15 4 4 .int nm9 := ⟨RX6, TX6, 7, "MazeBonds$Visitor", tyX6, rfl, in_X6, by decide, Or.inl rfl, Or.inl q510, tyX6_ok, nmX6, rfl, Or.inl rfl⟩
theorem fp_X6_31_4 (nm9 : String) : aFP "MazeBonds$Visitor" 31 4 5 .int nm9 := ⟨RX6, TX6, 7, "MazeBonds$Visitor", tyX6, rfl, in_X6, by decide, Or.inl rfl, Or.inl q513, tyX6_ok, nmX6, rfl, Or.inl rfl⟩
theorem fp_X6_34_4 (nm9 : String) : aFP "MazeBonds$Visitor" 34 4 6 .boolean nm9 := ⟨RX6, TX6, 7, "MazeBonds$Visitor", tyX6, rfl, in_X6, by decide, Or.inl rfl, Or.inl q516, tyX6_ok, nmX6, rfl, Or.inl rfl⟩
abbrev M_X6_endBond : aM := (yX6_endBond.cls, cX6_endBond, 1, (Option.none : Option Jvm.ClassFile.FieldType), [], yX6_endBond.name)
def t_X6_endBond (Z : aZ) (h : aH) (o : Nat) : Option (Unit × aH) :=
  (pF 4 4 Z h o (.int (-1))).bind fun h2 =>
  (pF 4 5 Z h2 o (.int 0)).bind fun h4 =>
  (pF 4 6 Z h4 o (.int 0)).bind fun h6 =>
  some ((), h6)
theorem k_X6_endBond {G : aG} {h : aH} {o : Nat} {e : (Unit × aH)} (hT : t_X6_endBond (gZ G) h o = some e) : aMet G yX6_endBond (ws_ yX6_endBond cX6_endBond 1 (Option.none : Option Jvm.ClassFile.FieldType)) 1 1 [.ref o] h (aEV e.1 e.2) := by
  refine aMet.of (lv := [some (.ref o)]) (by decide) (Nat.le_of_ble_eq_true rfl) 0 rfl ?_
  have he : aTo (aEV e.1 e.2) (aEV e.1 e.2) := aTo.rf
  unfold t_X6_endBond at hT
  refine a_aload_n dX6_endBond_0 rfl ?_
  refine a_iconst (v := (-1)) dX6_endBond_1 (by decide) ?_
  obtain ⟨h2, e1, hT⟩ := obnd hT
  refine a_put (fp_X6_15_4 _) ⟨rfl, rfl⟩ e1 dX6_endBond_2 ?_
  refine a_aload_n dX6_endBond_5 rfl ?_
  refine a_iconst (v := 0) dX6_endBond_6 (by decide) ?_
  obtain ⟨h4, e3, hT⟩ := obnd hT
  refine a_put (fp_X6_31_4 _) ⟨rfl, rfl⟩ e3 dX6_endBond_7 ?_
  refine a_aload_n dX6_endBond_10 rfl ?_
  refine a_iconst (v := 0) dX6_endBond_11 (by decide) ?_
  obtain ⟨h6, e5, hT⟩ := obnd hT
  refine a_put (fp_X6_34_4 _) ⟨by decide, by decide⟩ e5 dX6_endBond_12 ?_
  obtain rfl := Option.some.inj hT
  exact a_vret rfl dX6_endBond_15 (he _ _ ⟨rfl, rfl⟩)
theorem kv_X6_44 : aKV "MazeBonds$Visitor" 44 4 yX6_lostWith cX6_lostWith 2 (Option.some Jvm.ClassFile.FieldType.int) 1 := ⟨⟨TX6, 7, rfl⟩, Or.inl q846, q847, q848, q93, q849, ⟨by decide +kernel, by decide +kernel, by decide +kernel⟩⟩
abbrev M_X6_lost : aM := (yX6_lost.cls, cX6_lost, 1, (Option.some Jvm.ClassFile.FieldType.int), [], yX6_lost.name)
def t_X6_lost (Z : aZ) (h : aH) (o : Nat) : Option (Int32 × aH) :=
  if isC 4 h o = true then
  (t_X6_lostWith Z h o 0).bind fun r4 =>
  some (r4.1, r4.2)
  else none
theorem k_X6_lost {G : aG} {h : aH} {o : Nat} {e : (Int32 × aH)} (hT : t_X6_lost (gZ G) h o = some e) : aMet G yX6_lost (ws_ yX6_lost cX6_lost 1 (Option.some Jvm.ClassFile.FieldType.int)) 2 61 [.ref o] h (aEI e.1 e.2) := by
  refine aMet.of (lv := [some (.ref o)]) (by decide) (Nat.le_of_ble_eq_true rfl) 0 rfl ?_
  have he : aTo (aEI e.1 e.2) (aEI e.1 e.2) := aTo.rf
  unfold t_X6_lost at hT
  refine a_aload_n dX6_lost_0 rfl ?_
  refine a_iconst (v := 0) dX6_lost_1 (by decide) ?_
  obtain ⟨g3, hT⟩ := oifg hT
  obtain ⟨r4, e5, hT⟩ := obnd hT
  refine a_callV kv_X6_44 g3 (k_X6_lostWith e5) ⟨Nat.le_of_ble_eq_true rfl, Nat.le_of_ble_eq_true rfl⟩ (As := [.int 0]) (rest := []) rfl rfl (Nat.le_of_ble_eq_true rfl) dX6_lost_2 (kI ?_) xI
  obtain rfl := Option.some.inj hT
  exact a_iret rfl rfl dX6_lost_5 (he _ _ ⟨rfl, rfl⟩)
theorem ki_X7_1 : aKI "MazeBonds$RefusedException" 1 yJ9_init_2 cJ9_init_2 5 4 := ⟨rfl, Or.inl q656, q657, q84, q658, ⟨by decide +kernel, by decide +kernel, by decide +kernel⟩⟩
theorem fp_X7_7_5i : aFP "MazeBonds$RefusedException" 7 5 6 .int "<init>" := ⟨RX7, TX7, 9, "MazeBonds$RefusedException", tyX7, rfl, in_X7, by decide, Or.inl rfl, Or.inl q662, tyX7_ok, nmX7, rfl, Or.inr ⟨rfl, rfl, rfl, q662⟩⟩
theorem fp_X7_13_5i : aFP "MazeBonds$RefusedException" 13 5 7 .int "<init>" := ⟨RX7, TX7, 9, "MazeBonds$RefusedException", tyX7, rfl, in_X7, by decide, Or.inl rfl, Or.inl q665, tyX7_ok, nmX7, rfl, Or.inr ⟨rfl, rfl, rfl, q665⟩⟩
theorem fp_X7_16_5i : aFP "MazeBonds$RefusedException" 16 5 8 .int "<init>" := ⟨RX7, TX7, 9, "MazeBonds$RefusedException", tyX7, rfl, in_X7, by decide, Or.inl rfl, Or.inl q668, tyX7_ok, nmX7, rfl, Or.inr ⟨rfl, rfl, rfl, q668⟩⟩
abbrev M_X7_init_2 : aM := (yX7_init_2.cls, cX7_init_2, 4, (Option.none : Option Jvm.ClassFile.FieldType), [], yX7_init_2.name)
def t_X7_init_2 (Z : aZ) (h : aH) (o : Nat) (x0 : Int32) (x1 : Int32) (x2 : Int32) : Option (Unit × aH) :=
  (t_J9_init_2_5 Z h o 0 0).bind fun r3 =>
  (pF 5 6 Z r3.2 o (.int x0)).bind fun h6 =>
  (pF 5 7 Z h6 o (.int x1)).bind fun h8 =>
  (pF 5 8 Z h8 o (.int x2)).bind fun h10 =>
  some ((), h10)
theorem k_X7_init_2 {G : aG} {h : aH} {o : Nat} {x0 : Int32} {x1 : Int32} {x2 : Int32} {e : (Unit × aH)} (hT : t_X7_init_2 (gZ G) h o x0 x1 x2 = some e) : aMet G yX7_init_2 (ws_ yX7_init_2 cX7_init_2 4 (Option.none : Option Jvm.ClassFile.FieldType)) 3 60 [.ref o, .int x0, .int x1, .int x2] h (aEV e.1 e.2) := by
  refine aMet.of (lv := [some (.ref o), some (.int x0), some (.int x1), some (.int x2)]) (by decide) (Nat.le_of_ble_eq_true rfl) 0 rfl ?_
  have he : aTo (aEV e.1 e.2) (aEV e.1 e.2) := aTo.rf
  unfold t_X7_init_2 at hT
  refine a_aload_n dX7_init_2_0 rfl ?_
  refine a_null dX7_init_2_1 ?_
  refine a_null dX7_init_2_2 ?_
  refine a_iconst (v := 0) dX7_init_2_3 (by decide) ?_
  refine a_iconst (v := 0) dX7_init_2_4 (by decide) ?_
  obtain ⟨r3, e4, hT⟩ := obnd hT
  refine a_callI ki_X7_1 (k_J9_init_2_5 e4) ⟨Nat.le_of_ble_eq_true rfl, Nat.le_of_ble_eq_true rfl⟩ (As := [.null, .null, .int 0, .int 0]) (rest := []) rfl rfl (Nat.le_of_ble_eq_true rfl) dX7_init_2_5 (kV ?_) xV
  refine a_aload_n dX7_init_2_8 rfl ?_
  refine a_iload_n dX7_init_2_9 rfl ?_
  obtain ⟨h6, e5, hT⟩ := obnd hT
  refine a_put fp_X7_7_5i ⟨rfl, rfl⟩ e5 dX7_init_2_10 ?_
  refine a_aload_n dX7_init_2_13 rfl ?_
  refine a_iload_n dX7_init_2_14 rfl ?_
  obtain ⟨h8, e7, hT⟩ := obnd hT
  refine a_put fp_X7_13_5i ⟨rfl, rfl⟩ e7 dX7_init_2_15 ?_
  refine a_aload_n dX7_init_2_18 rfl ?_
  refine a_iload_n dX7_init_2_19 rfl ?_
  obtain ⟨h10, e9, hT⟩ := obnd hT
  refine a_put fp_X7_16_5i ⟨rfl, rfl⟩ e9 dX7_init_2_20 ?_
  obtain rfl := Option.some.inj hT
  exact a_vret rfl dX7_init_2_23 (he _ _ ⟨rfl, rfl⟩)
theorem ki_X9_1 : aKI "MazeBonds$FaultException" 1 yJ9_init_2 cJ9_init_2 5 4 := ⟨rfl, Or.inl q1288, q657, q84, q658, ⟨by decide +kernel, by decide +kernel, by decide +kernel⟩⟩
theorem fp_X9_7_7i : aFP "MazeBonds$FaultException" 7 7 6 .int "<init>" := ⟨RX9, TX9, 7, "MazeBonds$FaultException", tyX9, rfl, in_X9, by decide, Or.inl rfl, Or.inl q1289, tyX9_ok, nmX9, rfl, Or.inr ⟨rfl, rfl, rfl, q1289⟩⟩
abbrev M_X9_init : aM := (yX9_init.cls, cX9_init, 2, (Option.none : Option Jvm.ClassFile.FieldType), [], yX9_init.name)
def t_X9_init (Z : aZ) (h : aH) (o : Nat) (x0 : Int32) : Option (Unit × aH) :=
  (t_J9_init_2_7 Z h o 0 0).bind fun r3 =>
  (pF 7 6 Z r3.2 o (.int x0)).bind fun h6 =>
  some ((), h6)
theorem k_X9_init {G : aG} {h : aH} {o : Nat} {x0 : Int32} {e : (Unit × aH)} (hT : t_X9_init (gZ G) h o x0 = some e) : aMet G yX9_init (ws_ yX9_init cX9_init 2 (Option.none : Option Jvm.ClassFile.FieldType)) 3 60 [.ref o, .int x0] h (aEV e.1 e.2) := by
  refine aMet.of (lv := [some (.ref o), some (.int x0)]) (by decide) (Nat.le_of_ble_eq_true rfl) 0 rfl ?_
  have he : aTo (aEV e.1 e.2) (aEV e.1 e.2) := aTo.rf
  unfold t_X9_init at hT
  refine a_aload_n dX9_init_0 rfl ?_
  refine a_null dX9_init_1 ?_
  refine a_null dX9_init_2 ?_
  refine a_iconst (v := 0) dX9_init_3 (by decide) ?_
  refine a_iconst (v := 0) dX9_init_4 (by decide) ?_
  obtain ⟨r3, e4, hT⟩ := obnd hT
  refine a_callI ki_X9_1 (k_J9_init_2_7 e4) ⟨Nat.le_of_ble_eq_true rfl, Nat.le_of_ble_eq_true rfl⟩ (As := [.null, .null, .int 0, .int 0]) (rest := []) rfl rfl (Nat.le_of_ble_eq_true rfl) dX9_init_5 (kV ?_) xV
  refine a_aload_n dX9_init_8 rfl ?_
  refine a_iload_n dX9_init_9 rfl ?_
  obtain ⟨h6, e5, hT⟩ := obnd hT
  refine a_put fp_X9_7_7i ⟨rfl, rfl⟩ e5 dX9_init_10 ?_
  obtain rfl := Option.some.inj hT
  exact a_vret rfl dX9_init_13 (he _ _ ⟨rfl, rfl⟩)
theorem fp_X8_3_6i : aFP "MazeBonds$Reader" 3 6 4 (.object "MazeBonds") "<init>" := ⟨RX8, TX8, 5, "MazeBonds$Reader", tyX8, rfl, in_X8, by decide, Or.inl rfl, Or.inl q1165, tyX8_ok, nmX8, rfl, Or.inr ⟨rfl, rfl, rfl, q1165⟩⟩
abbrev M_X8_init : aM := (yX8_init.cls, cX8_init, 2, (Option.none : Option Jvm.ClassFile.FieldType), [], yX8_init.name)
def t_X8_init (Z : aZ) (h : aH) (o : Nat) (x0 : Nat) : Option (Unit × aH) :=
  (pF 6 4 Z h o (.ref x0)).bind fun h2 =>
  some ((), h2)
theorem k_X8_init {G : aG} {h : aH} {o : Nat} {x0 : Nat} {e : (Unit × aH)} (hT : t_X8_init (gZ G) h o x0 = some e) : aMet G yX8_init (ws_ yX8_init cX8_init 2 (Option.none : Option Jvm.ClassFile.FieldType)) 1 12 [.ref o, .ref x0] h (aEV e.1 e.2) := by
  refine aMet.of (lv := [some (.ref o), some (.ref x0)]) (by decide) (Nat.le_of_ble_eq_true rfl) 0 rfl ?_
  have he : aTo (aEV e.1 e.2) (aEV e.1 e.2) := aTo.rf
  unfold t_X8_init at hT
  refine a_aload_n dX8_init_0 rfl ?_
  refine a_aload_n dX8_init_1 rfl ?_
  obtain ⟨h2, e1, hT⟩ := obnd hT
  refine a_put fp_X8_3_6i ⟨rfl, rfl⟩ e1 dX8_init_2 ?_
  refine a_aload_n dX8_init_5 rfl ?_
  refine a_objInit q1160 q_oi q_oc (by decide) (Nat.le_of_ble_eq_true rfl) dX8_init_6 ?_
  obtain rfl := Option.some.inj hT
  exact a_vret rfl dX8_init_9 (he _ _ ⟨rfl, rfl⟩)
theorem fn_X8_30 : aFN "MazeBonds$Reader" 30 7 [.null, .null, .null, .null, .null, .int 0, .int 0] 7 := ⟨RX9, TX9, tyX9, rfl, in_X9, tyX9_ok, q1276, q1277, q107, by decide⟩
theorem fl_X8_15_6 : aFL "MazeBonds$Reader" 15 6 0 := ⟨RX8, TX8, 5, "MazeBonds$Reader", rfl, in_X8, by decide, Or.inl rfl, Or.inl q1161⟩
theorem ki_X8_32 : aKI "MazeBonds$Reader" 32 yX9_init cX9_init 2 1 := ⟨rfl, Or.inl q1285, q1286, q107, q1287, ⟨by decide +kernel, by decide +kernel, by decide +kernel⟩⟩
abbrev M_X8_must : aM := (yX8_must.cls, cX8_must, 2, (Option.none : Option Jvm.ClassFile.FieldType), [], yX8_must.name)
def t_X8_must (Z : aZ) (h : aH) (o : Nat) (x0 : Int32) : Option ((Unit ⊕ aXX) × aH) :=
  if x0 = 0 then
    (nw Z h (.inr (7, [.null, .null, .null, .null, .null, .int 0, .int 0])) 7).bind fun h2 =>
    (gI 6 0 h2 o).bind fun z5 =>
    (t_X9_init Z h2 h.2.1 z5).bind fun r8 =>
    if isC 7 r8.2 h.2.1 = true then
    some (.inr ("MazeBonds$FaultException", h.2.1), r8.2)
    else none
  else
    some (.inl (), h)
theorem k_X8_must {G : aG} {h : aH} {o : Nat} {x0 : Int32} {e : ((Unit ⊕ aXX) × aH)} (hT : t_X8_must (gZ G) h o x0 = some e) : aMet G yX8_must (ws_ yX8_must cX8_must 2 (Option.none : Option Jvm.ClassFile.FieldType)) 4 81 [.ref o, .int x0] h (aXV e.1 e.2) := by
  refine aMet.of (lv := [some (.ref o), some (.int x0)]) (by decide) (Nat.le_of_ble_eq_true rfl) 0 rfl ?_
  have he : aTo (aXV e.1 e.2) (aXV e.1 e.2) := aTo.rf
  unfold t_X8_must at hT
  refine a_iload_n dX8_must_0 rfl ?_
  refine a_if_ne 16 dX8_must_1 rfl (fun c1 => ?_) (fun c1 => ?_)
  · have hT := oifn c1 hT
    obtain rfl := Option.some.inj hT
    exact a_vret rfl dX8_must_16 (he _ _ ⟨rfl, rfl⟩)
  · have hT := oifp c1 hT
    obtain ⟨h2, e3, hT⟩ := obnd hT
    refine a_new fn_X8_30 e3 dX8_must_4 ?_
    refine a_dup dX8_must_7 rfl ?_
    refine a_aload_n dX8_must_8 rfl ?_
    obtain ⟨z5, e4, hT⟩ := obnd hT
    refine a_gI fl_X8_15_6 e4 dX8_must_9 ?_
    obtain ⟨r8, e9, hT⟩ := obnd hT
    refine a_callI ki_X8_32 (k_X9_init e9) ⟨Nat.le_of_ble_eq_true rfl, Nat.le_of_ble_eq_true rfl⟩ (As := [.int z5]) (rest := [.ref h.2.1]) rfl rfl (Nat.le_of_ble_eq_true rfl) dX8_must_12 (kV ?_) xV
    obtain ⟨g10, hT⟩ := oifg hT
    refine a_athrow (ci := 7) (fs := []) rfl g10 dX8_must_15 ?_
    obtain rfl := Option.some.inj hT
    exact a_out (by decide) (he _ _ ⟨rfl, rfl⟩)
theorem fl_X8_3_6 : aFL "MazeBonds$Reader" 3 6 4 := ⟨RX8, TX8, 5, "MazeBonds$Reader", rfl, in_X8, by decide, Or.inl rfl, Or.inl q1165⟩
theorem fl_X8_19_0 : aFL "MazeBonds$Reader" 19 0 5 := ⟨RX1, TX1, 8, "MazeBonds", rfl, in_X1, by decide, Or.inl rfl, Or.inr ⟨_, q228⟩⟩
theorem fl_X8_22_0 : aFL "MazeBonds$Reader" 22 0 4 := ⟨RX1, TX1, 8, "MazeBonds", rfl, in_X1, by decide, Or.inl rfl, Or.inr ⟨_, q226⟩⟩
theorem ks_X8_26 : aKS "MazeBonds$Reader" 26 yX1_isIn cX1_isIn 3 (Option.some Jvm.ClassFile.FieldType.boolean) 3 := ⟨Or.inr ⟨_, q1303⟩, q633, q72, q634, ⟨by decide +kernel, by decide +kernel, by decide +kernel⟩⟩
abbrev M_X8_sees : aM := (yX8_sees.cls, cX8_sees, 3, (Option.some Jvm.ClassFile.FieldType.boolean), [], yX8_sees.name)
def t_X8_sees (Z : aZ) (h : aH) (o : Nat) (x0 : Int32) (x1 : Int32) : Option (Int32 × aH) :=
  (gI 6 0 h o).bind fun z2 =>
  (gA 6 4 h o).bind fun a4 =>
  (gI 0 5 h a4).bind fun z6 =>
  if z6 ≤ z2 then
    some (0, h)
  else
    (gA 6 4 h o).bind fun a9 =>
    (gA 0 4 h a9).bind fun a11 =>
    (gI 6 0 h o).bind fun z13 =>
    (ldC Z h a11 z13).bind fun z15 =>
    (t_X1_isIn z15 x0 x1).bind fun r18 =>
    if r18 = 0 then
      some (0, h)
    else
      some (1, h)
theorem k_X8_sees {G : aG} {h : aH} {o : Nat} {x0 : Int32} {x1 : Int32} {e : (Int32 × aH)} (hT : t_X8_sees (gZ G) h o x0 x1 = some e) : aMet G yX8_sees (ws_ yX8_sees cX8_sees 3 (Option.some Jvm.ClassFile.FieldType.boolean)) 2 23 [.ref o, .int x0, .int x1] h (aEI e.1 e.2) := by
  refine aMet.of (lv := [some (.ref o), some (.int x0), some (.int x1)]) (by decide) (Nat.le_of_ble_eq_true rfl) 0 rfl ?_
  have he : aTo (aEI e.1 e.2) (aEI e.1 e.2) := aTo.rf
  unfold t_X8_sees at hT
  refine a_aload_n dX8_sees_0 rfl ?_
  obtain ⟨z2, e1, hT⟩ := obnd hT
  refine a_gI fl_X8_15_6 e1 dX8_sees_1 ?_
  refine a_aload_n dX8_sees_4 rfl ?_
  obtain ⟨a4, e3, hT⟩ := obnd hT
  refine a_gA fl_X8_3_6 e3 dX8_sees_5 ?_
  obtain ⟨z6, e5, hT⟩ := obnd hT
  refine a_gI fl_X8_19_0 e5 dX8_sees_8 ?_
  refine a_icmp_ge 38 dX8_sees_11 rfl (fun c7 => ?_) (fun c7 => ?_)
  · have hT := oifp c7 hT
    refine a_iconst (v := 0) dX8_sees_38 (by decide) ?_
    obtain rfl := Option.some.inj hT
    exact a_iret rfl (by decide) dX8_sees_39 (he _ _ ⟨rfl, rfl⟩)
  · have hT := oifn c7 hT
    refine a_aload_n dX8_sees_14 rfl ?_
    obtain ⟨a9, e8, hT⟩ := obnd hT
    refine a_gA fl_X8_3_6 e8 dX8_sees_15 ?_
    obtain ⟨a11, e10, hT⟩ := obnd hT
    refine a_gA fl_X8_22_0 e10 dX8_sees_18 ?_
    refine a_aload_n dX8_sees_21 rfl ?_
    obtain ⟨z13, e12, hT⟩ := obnd hT
    refine a_gI fl_X8_15_6 e12 dX8_sees_22 ?_
    obtain ⟨z15, e14, hT⟩ := obnd hT
    refine a_ldC e14 dX8_sees_25 ?_
    refine a_iload_n dX8_sees_26 rfl ?_
    refine a_iload_n dX8_sees_27 rfl ?_
    obtain ⟨r18, e19, hT⟩ := obnd hT
    refine a_callS ks_X8_26 (k_X1_isIn e19) ⟨Nat.le_of_ble_eq_true rfl, Nat.le_of_ble_eq_true rfl⟩ (As := [.int z15, .int x0, .int x1]) (rest := []) rfl rfl (Nat.le_of_ble_eq_true rfl) dX8_sees_28 (kI ?_) xI
    refine a_if_eq 38 dX8_sees_31 rfl (fun c20 => ?_) (fun c20 => ?_)
    · have hT := oifp c20 hT
      refine a_iconst (v := 0) dX8_sees_38 (by decide) ?_
      obtain rfl := Option.some.inj hT
      exact a_iret rfl (by decide) dX8_sees_39 (he _ _ ⟨rfl, rfl⟩)
    · have hT := oifn c20 hT
      refine a_iconst (v := 1) dX8_sees_34 (by decide) ?_
      refine a_goto 39 dX8_sees_35 rfl ?_
      obtain rfl := Option.some.inj hT
      exact a_iret rfl (by decide) dX8_sees_39 (he _ _ ⟨rfl, rfl⟩)
theorem kv_X8_39 : aKV "MazeBonds$Reader" 39 6 yX8_must cX8_must 2 (Option.none : Option Jvm.ClassFile.FieldType) 1 := ⟨⟨TX8, 5, rfl⟩, Or.inl q1272, q1274, qs20, q104, q1275, ⟨by decide +kernel, by decide +kernel, by decide +kernel⟩⟩
theorem fp_X8_15_6 (nm9 : String) : aFP "MazeBonds$Reader" 15 6 0 .int nm9 := ⟨RX8, TX8, 5, "MazeBonds$Reader", tyX8, rfl, in_X8, by decide, Or.inl rfl, Or.inl q1161, tyX8_ok, nmX8, rfl, Or.inl rfl⟩
theorem kv_X8_49 : aKV "MazeBonds$Reader" 49 11 yJ5_indexOf cJ5_indexOf 2 (Option.some Jvm.ClassFile.FieldType.int) 1 := ⟨⟨TJ5, 4, rfl⟩, Or.inl q1191, q1192, q1193, q79, q1194, ⟨by decide +kernel, by decide +kernel, by decide +kernel⟩⟩
abbrev M_X8_direction : aM := (yX8_direction.cls, cX8_direction, 2, (Option.some Jvm.ClassFile.FieldType.int), [], yX8_direction.name)
def t_X8_direction_l47 (Z : aZ) (h : aH) (v0 : Nat) (v1 : Int32) (u0 : Int32) (u1 : Nat) : Option ((Int32 ⊕ aXX) × aH) :=
  if isC 6 h u1 = true then
  (t_X8_must Z h u1 u0).bind fun r12 =>
  (match r12 with
  | (.inl y14, h15) =>
    (gI 6 0 h15 v0).bind fun z17 =>
    (pF 6 0 Z h15 v0 (.int (z17 + 1))).bind fun h19 =>
    some (.inl v1, h19)
  | (.inr y14, h15) =>
    some (.inr y14, h15)
  )
  else none
theorem k_X8_direction_l47 {G : aG} {h0 : aH} {K : aRes → aH → Prop} {h : aH} {v0 : Nat} {v1 : Int32} {u0 : Int32} {u1 : Nat} {e : ((Int32 ⊕ aXX) × aH)} (hT : t_X8_direction_l47 (gZ G) h v0 v1 u0 u1 = some e) (he : (fun e => aTo (aXI e.1 e.2) K) e) : aW G M_X8_direction 5 106 h0 K h 47 [some (.ref v0), some (.int v1)] [.int u0, .ref u1] := by
  unfold t_X8_direction_l47 at hT
  obtain ⟨g11, hT⟩ := oifg hT
  obtain ⟨⟨y14 | y14, h15⟩, e13, hT⟩ := obnd hT
  · dsimp only at hT
    refine a_callV kv_X8_39 g11 (k_X8_must e13) ⟨Nat.le_of_ble_eq_true rfl, Nat.le_of_ble_eq_true rfl⟩ (As := [.int u0]) (rest := []) rfl rfl (Nat.le_of_ble_eq_true rfl) dX8_direction_47 (kXV ?_) yXV
    refine a_aload_n dX8_direction_50 rfl ?_
    refine a_dup dX8_direction_51 rfl ?_
    obtain ⟨z17, e16, hT⟩ := obnd hT
    refine a_gI fl_X8_15_6 e16 dX8_direction_52 ?_
    refine a_iconst (v := 1) dX8_direction_55 (by decide) ?_
    refine a_iadd dX8_direction_56 ?_
    obtain ⟨h19, e18, hT⟩ := obnd hT
    refine a_put (fp_X8_15_6 _) ⟨rfl, rfl⟩ e18 dX8_direction_57 ?_
    refine a_iload_n dX8_direction_60 rfl ?_
    obtain rfl := Option.some.inj hT
    exact a_iret rfl rfl dX8_direction_61 (he _ _ ⟨rfl, rfl⟩)
  · dsimp only at hT
    refine a_callV kv_X8_39 g11 (k_X8_must e13) ⟨Nat.le_of_ble_eq_true rfl, Nat.le_of_ble_eq_true rfl⟩ (As := [.int u0]) (rest := []) rfl rfl (Nat.le_of_ble_eq_true rfl) dX8_direction_47 rXV (zXV ?_)
    obtain rfl := Option.some.inj hT
    exact a_out (by decide) (he _ _ ⟨rfl, rfl⟩)
def t_X8_direction_l35 (Z : aZ) (h : aH) (v0 : Nat) (u0 : Int32) : Option ((Int32 ⊕ aXX) × aH) :=
  if u0 = (-1) then
    t_X8_direction_l47 Z h v0 u0 0 v0
  else
    t_X8_direction_l47 Z h v0 u0 1 v0
theorem k_X8_direction_l35 {G : aG} {h0 : aH} {K : aRes → aH → Prop} {h : aH} {v0 : Nat} {u0 : Int32} {e : ((Int32 ⊕ aXX) × aH)} (hT : t_X8_direction_l35 (gZ G) h v0 u0 = some e) (he : (fun e => aTo (aXI e.1 e.2) K) e) : aW G M_X8_direction 5 106 h0 K h 35 [some (.ref v0), none] [.int u0] := by
  unfold t_X8_direction_l35 at hT
  refine a_istore_n (lv' := [some (.ref v0), some (.int u0)]) dX8_direction_35 rfl (by decide) rfl ?_
  refine a_aload_n dX8_direction_36 rfl ?_
  refine a_iload_n dX8_direction_37 rfl ?_
  refine a_iconst (v := (-1)) dX8_direction_38 (by decide) ?_
  refine a_icmp_eq 46 dX8_direction_39 rfl (fun c8 => ?_) (fun c8 => ?_)
  · have hT := oifp c8 hT
    refine a_iconst (v := 0) dX8_direction_46 (by decide) ?_
    exact k_X8_direction_l47 hT he
  · have hT := oifn c8 hT
    refine a_iconst (v := 1) dX8_direction_42 (by decide) ?_
    refine a_goto 47 dX8_direction_43 rfl ?_
    exact k_X8_direction_l47 hT he
def t_X8_direction (Z : aZ) (h : aH) (o : Nat) : Option ((Int32 ⊕ aXX) × aH) :=
  (gI 6 0 h o).bind fun z2 =>
  (gA 6 4 h o).bind fun a4 =>
  (gI 0 5 h a4).bind fun z6 =>
  if z6 ≤ z2 then
    t_X8_direction_l35 Z h o (-1)
  else
    (gA 6 4 h o).bind fun a21 =>
    (gA 0 4 h a21).bind fun a23 =>
    (gI 6 0 h o).bind fun z25 =>
    (ldC Z h a23 z25).bind fun z27 =>
    (oldV Z (znm Z 7)).bind fun b31 =>
    (t_J5_indexOf Z h (znm Z 7) z27).bind fun r32 =>
    t_X8_direction_l35 Z r32.2 o r32.1
theorem k_X8_direction {G : aG} {h : aH} {o : Nat} {e : ((Int32 ⊕ aXX) × aH)} (hT : t_X8_direction (gZ G) h o = some e) : aMet G yX8_direction (ws_ yX8_direction cX8_direction 2 (Option.some Jvm.ClassFile.FieldType.int)) 5 106 [.ref o] h (aXI e.1 e.2) := by
  refine aMet.of (lv := [some (.ref o), none]) (by decide) (Nat.le_of_ble_eq_true rfl) 1 rfl ?_
  have he : aTo (aXI e.1 e.2) (aXI e.1 e.2) := aTo.rf
  unfold t_X8_direction at hT
  refine a_aload_n dX8_direction_0 rfl ?_
  obtain ⟨z2, e1, hT⟩ := obnd hT
  refine a_gI fl_X8_15_6 e1 dX8_direction_1 ?_
  refine a_aload_n dX8_direction_4 rfl ?_
  obtain ⟨a4, e3, hT⟩ := obnd hT
  refine a_gA fl_X8_3_6 e3 dX8_direction_5 ?_
  obtain ⟨z6, e5, hT⟩ := obnd hT
  refine a_gI fl_X8_19_0 e5 dX8_direction_8 ?_
  refine a_icmp_ge 34 dX8_direction_11 rfl (fun c7 => ?_) (fun c7 => ?_)
  · have hT := oifp c7 hT
    refine a_iconst (v := (-1)) dX8_direction_34 (by decide) ?_
    exact k_X8_direction_l35 hT he
  · have hT := oifn c7 hT
    refine a_ldcS (k := 4) rfl dX8_direction_14 ?_
    refine a_aload_n dX8_direction_16 rfl ?_
    obtain ⟨a21, e20, hT⟩ := obnd hT
    refine a_gA fl_X8_3_6 e20 dX8_direction_17 ?_
    obtain ⟨a23, e22, hT⟩ := obnd hT
    refine a_gA fl_X8_22_0 e22 dX8_direction_20 ?_
    refine a_aload_n dX8_direction_23 rfl ?_
    obtain ⟨z25, e24, hT⟩ := obnd hT
    refine a_gI fl_X8_15_6 e24 dX8_direction_24 ?_
    obtain ⟨z27, e26, hT⟩ := obnd hT
    refine a_ldC e26 dX8_direction_27 ?_
    obtain ⟨b31, g30, hT⟩ := obnd hT
    obtain ⟨r32, e33, hT⟩ := obnd hT
    refine a_callVO kv_X8_49 g30 (k_J5_indexOf e33) ⟨Nat.le_of_ble_eq_true rfl, Nat.le_of_ble_eq_true rfl⟩ (As := [.int z27]) (rest := []) rfl rfl (Nat.le_of_ble_eq_true rfl) dX8_direction_28 (kI ?_) xI
    refine a_goto 35 dX8_direction_31 rfl ?_
    exact k_X8_direction_l35 hT he
theorem kv_X0_103 : aKV "MazeBondsLaw" 103 0 yX1_reason cX1_reason 2 (Option.some Jvm.ClassFile.FieldType.int) 1 := ⟨⟨TX1, 8, rfl⟩, Or.inl q1334, q1335, q1336, q72, q1337, ⟨by decide +kernel, by decide +kernel, by decide +kernel⟩⟩
abbrev M_X0_reason : aM := (yX0_reason.cls, cX0_reason, 4, (Option.some Jvm.ClassFile.FieldType.int), [((0 : Nat), (9 : Nat), (12 : Nat), (76 : Nat)), ((0 : Nat), (9 : Nat), (15 : Nat), (43 : Nat))], yX0_reason.name)
def t_X0_reason (Z : aZ) (h : aH) (x0 : Nat) (x1 : Int32) (x2 : Nat) : Option (Int32 × aH) :=
  if isC 0 h x0 = true then
  (t_X1_reason Z h x0 x1).bind fun r4 =>
  (match r4 with
  | (.inl y6, h7) =>
    (stJ Z h7 x2 0 ((y6 : Int32).toInt64)).bind fun h9 =>
    some (0, h9)
  | (.inr y6, h7) =>
    if y6.1 = "java/lang/IllegalArgumentException" then
      some (1, h7)
    else
      if y6.1 = "java/util/NoSuchElementException" then
        some (2, h7)
      else
        none
  )
  else none
theorem k_X0_reason {G : aG} {h : aH} {x0 : Nat} {x1 : Int32} {x2 : Nat} {e : (Int32 × aH)} (hT : t_X0_reason (gZ G) h x0 x1 x2 = some e) : aMet G yX0_reason (wsW_ yX0_reason cX0_reason 4 (Option.some Jvm.ClassFile.FieldType.int) [((0 : Nat), (9 : Nat), (12 : Nat), (76 : Nat)), ((0 : Nat), (9 : Nat), (15 : Nat), (43 : Nat))]) 11 241 [.ref x0, .int x1, .ref x2] h (aEI e.1 e.2) := by
  refine aMet.ofH (lv := [some (.ref x0), some (.int x1), some (.ref x2), none]) (by decide) (Nat.le_of_ble_eq_true rfl) 1 rfl ?_
  have he : aTo (aEI e.1 e.2) (aEI e.1 e.2) := aTo.rf
  unfold t_X0_reason at hT
  refine a_aload_n dX0_reason_0 rfl ?_
  refine a_iconst (v := 0) dX0_reason_1 (by decide) ?_
  refine a_aload_n dX0_reason_2 rfl ?_
  refine a_iload_n dX0_reason_3 rfl ?_
  obtain ⟨g3, hT⟩ := oifg hT
  obtain ⟨⟨y6 | y6, h7⟩, e5, hT⟩ := obnd hT
  · dsimp only at hT
    refine a_callV kv_X0_103 g3 (k_X1_reason e5) ⟨Nat.le_of_ble_eq_true rfl, Nat.le_of_ble_eq_true rfl⟩ (As := [.int x1]) (rest := [.int 0, .ref x2]) rfl rfl (Nat.le_of_ble_eq_true rfl) dX0_reason_4 (kXI ?_) yXI
    refine a_i2l dX0_reason_7 ?_
    obtain ⟨h9, e8, hT⟩ := obnd hT
    refine a_stJ e8 dX0_reason_8 ?_
    refine a_goto 18 dX0_reason_9 rfl ?_
    refine a_iconst (v := 0) dX0_reason_18 (by decide) ?_
    obtain rfl := Option.some.inj hT
    exact a_iret rfl rfl dX0_reason_19 (he _ _ ⟨rfl, rfl⟩)
  · dsimp only at hT
    refine a_callV kv_X0_103 g3 (k_X1_reason e5) ⟨Nat.le_of_ble_eq_true rfl, Nat.le_of_ble_eq_true rfl⟩ (As := [.int x1]) (rest := [.int 0, .ref x2]) rfl rfl (Nat.le_of_ble_eq_true rfl) dX0_reason_4 rXI (zXI ?_)
    by_cases c10 : y6.1 = "java/lang/IllegalArgumentException"
    · have hT := oifp c10 hT
      rw [c10]
      refine a_catchI 0 rfl aNil (by decide) (by decide) q1026 q1043 ?_
      refine a_astore_n (lv' := [some (.ref x0), some (.int x1), some (.ref x2), some (.ref y6.2)]) dX0_reason_12 rfl (by decide) rfl ?_
      refine a_iconst (v := 1) dX0_reason_13 (by decide) ?_
      obtain rfl := Option.some.inj hT
      exact a_iret rfl rfl dX0_reason_14 (he _ _ ⟨rfl, rfl⟩)
    · have hT := oifn c10 hT
      by_cases c11 : y6.1 = "java/util/NoSuchElementException"
      · have hT := oifp c11 hT
        rw [c11]
        refine a_catchI 1 rfl (aCons (Or.inr ⟨by decide, _, q1026, fun s hK => hK.2.2.2.2.1 _ (List.mem_of_getElem? (i := 2) rfl)⟩) aNil) (by decide) (by decide) q911 q313 ?_
        refine a_astore_n (lv' := [some (.ref x0), some (.int x1), some (.ref x2), some (.ref y6.2)]) dX0_reason_15 rfl (by decide) rfl ?_
        refine a_iconst (v := 2) dX0_reason_16 (by decide) ?_
        obtain rfl := Option.some.inj hT
        exact a_iret rfl rfl dX0_reason_17 (he _ _ ⟨rfl, rfl⟩)
      · have hT := oifn c11 hT
        cases hT
theorem kv_X0_112 : aKV "MazeBondsLaw" 112 0 yX1_character cX1_character 2 (Option.some Jvm.ClassFile.FieldType.char) 1 := ⟨⟨TX1, 8, rfl⟩, Or.inl q1597, q1598, q1599, q72, q1600, ⟨by decide +kernel, by decide +kernel, by decide +kernel⟩⟩
