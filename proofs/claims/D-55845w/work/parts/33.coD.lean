/-! decompiled (written by gen/comp.py) -/
set_option maxRecDepth 100000
abbrev M_X0_character : aM := (yX0_character.cls, cX0_character, 4, (Option.some Jvm.ClassFile.FieldType.int), [((0 : Nat), (9 : Nat), (12 : Nat), (41 : Nat))], yX0_character.name)
def t_X0_character (Z : aZ) (h : aH) (x0 : Nat) (x1 : Int32) (x2 : Nat) : Option (Int32 × aH) :=
  if isC 0 h x0 = true then
  (t_X1_character Z h x0 x1).bind fun r4 =>
  (match r4 with
  | (.inl y6, h7) =>
    (stJ Z h7 x2 0 ((y6 : Int32).toInt64)).bind fun h9 =>
    some (0, h9)
  | (.inr y6, h7) =>
    if y6.1 = "java/lang/IndexOutOfBoundsException" then
      some (1, h7)
    else
      none
  )
  else none
theorem k_X0_character {G : aG} {h : aH} {x0 : Nat} {x1 : Int32} {x2 : Nat} {e : (Int32 × aH)} (hT : t_X0_character (gZ G) h x0 x1 x2 = some e) : aMet G yX0_character (wsW_ yX0_character cX0_character 4 (Option.some Jvm.ClassFile.FieldType.int) [((0 : Nat), (9 : Nat), (12 : Nat), (41 : Nat))]) 11 241 [.ref x0, .int x1, .ref x2] h (aEI e.1 e.2) := by
  refine aMet.ofH (lv := [some (.ref x0), some (.int x1), some (.ref x2), none]) (by decide) (Nat.le_of_ble_eq_true rfl) 1 rfl ?_
  have he : aTo (aEI e.1 e.2) (aEI e.1 e.2) := aTo.rf
  unfold t_X0_character at hT
  refine a_aload_n dX0_character_0 rfl ?_
  refine a_iconst (v := 0) dX0_character_1 (by decide) ?_
  refine a_aload_n dX0_character_2 rfl ?_
  refine a_iload_n dX0_character_3 rfl ?_
  obtain ⟨g3, hT⟩ := oifg hT
  obtain ⟨⟨y6 | y6, h7⟩, e5, hT⟩ := obnd hT
  · dsimp only at hT
    refine a_callV kv_X0_112 g3 (k_X1_character e5) ⟨Nat.le_of_ble_eq_true rfl, Nat.le_of_ble_eq_true rfl⟩ (As := [.int x1]) (rest := [.int 0, .ref x2]) rfl rfl (Nat.le_of_ble_eq_true rfl) dX0_character_4 (kXI ?_) yXI
    refine a_i2l dX0_character_7 ?_
    obtain ⟨h9, e8, hT⟩ := obnd hT
    refine a_stJ e8 dX0_character_8 ?_
    refine a_goto 15 dX0_character_9 rfl ?_
    refine a_iconst (v := 0) dX0_character_15 (by decide) ?_
    obtain rfl := Option.some.inj hT
    exact a_iret rfl rfl dX0_character_16 (he _ _ ⟨rfl, rfl⟩)
  · dsimp only at hT
    refine a_callV kv_X0_112 g3 (k_X1_character e5) ⟨Nat.le_of_ble_eq_true rfl, Nat.le_of_ble_eq_true rfl⟩ (As := [.int x1]) (rest := [.int 0, .ref x2]) rfl rfl (Nat.le_of_ble_eq_true rfl) dX0_character_4 rXI (zXI ?_)
    by_cases c10 : y6.1 = "java/lang/IndexOutOfBoundsException"
    · have hT := oifp c10 hT
      rw [c10]
      refine a_catchI 0 rfl aNil (by decide) (by decide) q879 q929 ?_
      refine a_astore_n (lv' := [some (.ref x0), some (.int x1), some (.ref x2), some (.ref y6.2)]) dX0_character_12 rfl (by decide) rfl ?_
      refine a_iconst (v := 1) dX0_character_13 (by decide) ?_
      obtain rfl := Option.some.inj hT
      exact a_iret rfl rfl dX0_character_14 (he _ _ ⟨rfl, rfl⟩)
    · have hT := oifn c10 hT
      cases hT
theorem kv_X0_125 : aKV "MazeBondsLaw" 125 0 yX1_undo cX1_undo 1 (Option.some Jvm.ClassFile.FieldType.int) 0 := ⟨⟨TX1, 8, rfl⟩, Or.inl q1678, q1679, q1680, q72, q1681, ⟨by decide +kernel, by decide +kernel, by decide +kernel⟩⟩
abbrev M_X0_undo : aM := (yX0_undo.cls, cX0_undo, 3, (Option.some Jvm.ClassFile.FieldType.int), [((0 : Nat), (8 : Nat), (11 : Nat), (97 : Nat))], yX0_undo.name)
def t_X0_undo (Z : aZ) (h : aH) (x0 : Nat) (x1 : Nat) : Option (Int32 × aH) :=
  if isC 0 h x0 = true then
  (t_X1_undo Z h x0).bind fun r4 =>
  (match r4 with
  | (.inl y6, h7) =>
    (stJ Z h7 x1 0 ((y6 : Int32).toInt64)).bind fun h9 =>
    some (0, h9)
  | (.inr y6, h7) =>
    if y6.1 = "java/lang/IllegalStateException" then
      some (1, h7)
    else
      none
  )
  else none
theorem k_X0_undo {G : aG} {h : aH} {x0 : Nat} {x1 : Nat} {e : (Int32 × aH)} (hT : t_X0_undo (gZ G) h x0 x1 = some e) : aMet G yX0_undo (wsW_ yX0_undo cX0_undo 3 (Option.some Jvm.ClassFile.FieldType.int) [((0 : Nat), (8 : Nat), (11 : Nat), (97 : Nat))]) 11 240 [.ref x0, .ref x1] h (aEI e.1 e.2) := by
  refine aMet.ofH (lv := [some (.ref x0), some (.ref x1), none]) (by decide) (Nat.le_of_ble_eq_true rfl) 1 rfl ?_
  have he : aTo (aEI e.1 e.2) (aEI e.1 e.2) := aTo.rf
  unfold t_X0_undo at hT
  refine a_aload_n dX0_undo_0 rfl ?_
  refine a_iconst (v := 0) dX0_undo_1 (by decide) ?_
  refine a_aload_n dX0_undo_2 rfl ?_
  obtain ⟨g3, hT⟩ := oifg hT
  obtain ⟨⟨y6 | y6, h7⟩, e5, hT⟩ := obnd hT
  · dsimp only at hT
    refine a_callV kv_X0_125 g3 (k_X1_undo e5) ⟨Nat.le_of_ble_eq_true rfl, Nat.le_of_ble_eq_true rfl⟩ (As := []) (rest := [.int 0, .ref x1]) rfl rfl (Nat.le_of_ble_eq_true rfl) dX0_undo_3 (kXI ?_) yXI
    refine a_i2l dX0_undo_6 ?_
    obtain ⟨h9, e8, hT⟩ := obnd hT
    refine a_stJ e8 dX0_undo_7 ?_
    refine a_goto 14 dX0_undo_8 rfl ?_
    refine a_iconst (v := 0) dX0_undo_14 (by decide) ?_
    obtain rfl := Option.some.inj hT
    exact a_iret rfl rfl dX0_undo_15 (he _ _ ⟨rfl, rfl⟩)
  · dsimp only at hT
    refine a_callV kv_X0_125 g3 (k_X1_undo e5) ⟨Nat.le_of_ble_eq_true rfl, Nat.le_of_ble_eq_true rfl⟩ (As := []) (rest := [.int 0, .ref x1]) rfl rfl (Nat.le_of_ble_eq_true rfl) dX0_undo_3 rXI (zXI ?_)
    by_cases c10 : y6.1 = "java/lang/IllegalStateException"
    · have hT := oifp c10 hT
      rw [c10]
      refine a_catchI 0 rfl aNil (by decide) (by decide) q1124 q1134 ?_
      refine a_astore_n (lv' := [some (.ref x0), some (.ref x1), some (.ref y6.2)]) dX0_undo_11 rfl (by decide) rfl ?_
      refine a_iconst (v := 1) dX0_undo_12 (by decide) ?_
      obtain rfl := Option.some.inj hT
      exact a_iret rfl rfl dX0_undo_13 (he _ _ ⟨rfl, rfl⟩)
    · have hT := oifn c10 hT
      cases hT
theorem kv_J2_129 : aKV "java/util/ArrayList" 129 8 yJ2_grow cJ2_grow 1 (Option.some (Jvm.ClassFile.FieldType.array (Jvm.ClassFile.FieldType.object "java/lang/Object"))) 0 := ⟨⟨TJ2, 3, rfl⟩, Or.inl q429, q431, qs2, q76, q432, ⟨by decide +kernel, by decide +kernel, by decide +kernel⟩⟩
abbrev M_J2_add_2_1 : aM := (yJ2_add_2.cls, cJ2_add_2, 4, (Option.none : Option Jvm.ClassFile.FieldType), [], yJ2_add_2.name)
def t_J2_add_2_1_l11 (Z : aZ) (h : aH) (v0 : Nat) (v1 : Nat) (v2 : Nat) (v3 : Int32) : Option (Unit × aH) :=
  if isC 1 h v1 = true then (stR Z h v2 v3 (some v1)).bind fun h4 =>
  (pF 8 2 Z h4 v0 (.int (v3 + 1))).bind fun h8 =>
  some ((), h8)
  else none
theorem k_J2_add_2_1_l11 {G : aG} {h0 : aH} {K : aRes → aH → Prop} {h : aH} {v0 : Nat} {v1 : Nat} {v2 : Nat} {v3 : Int32} {e : (Unit × aH)} (hT : t_J2_add_2_1_l11 (gZ G) h v0 v1 v2 v3 = some e) (he : (fun e => aTo (aEV e.1 e.2) K) e) : aW G M_J2_add_2_1 3 83 h0 K h 11 [some (.ref v0), some (.ref v1), some (.ref v2), some (.int v3)] [] := by
  unfold t_J2_add_2_1_l11 at hT
  refine a_aload_n dJ2_add_2_11 rfl ?_
  refine a_iload_n dJ2_add_2_12 rfl ?_
  refine a_aload_n dJ2_add_2_13 rfl ?_
  obtain ⟨g6, hT⟩ := oifg hT
  obtain ⟨h4, e5, hT⟩ := obnd hT
  refine a_stX (ci := 1) rfl q2152 g6 e5 dJ2_add_2_14 ?_
  refine a_aload_n dJ2_add_2_15 rfl ?_
  refine a_iload_n dJ2_add_2_16 rfl ?_
  refine a_iconst (v := 1) dJ2_add_2_17 (by decide) ?_
  refine a_iadd dJ2_add_2_18 ?_
  obtain ⟨h8, e7, hT⟩ := obnd hT
  refine a_put (fp_J2_48_8 _) ⟨rfl, rfl⟩ e7 dJ2_add_2_19 ?_
  obtain rfl := Option.some.inj hT
  exact a_vret rfl dJ2_add_2_22 (he _ _ ⟨rfl, rfl⟩)
def t_J2_add_2_1 (Z : aZ) (h : aH) (o : Nat) (x0 : Nat) (x1 : Nat) (x2 : Int32) : Option (Unit × aH) :=
  (alen Z h x1).bind fun z1 =>
  if x2 = z1 then
    if isC 8 h o = true then
    (t_J2_grow Z h o).bind fun r12 =>
    t_J2_add_2_1_l11 Z r12.2 o x0 r12.1 x2
    else none
  else
    t_J2_add_2_1_l11 Z h o x0 x1 x2
theorem k_J2_add_2_1 {G : aG} {h : aH} {o : Nat} {x0 : Nat} {x1 : Nat} {x2 : Int32} {e : (Unit × aH)} (hT : t_J2_add_2_1 (gZ G) h o x0 x1 x2 = some e) : aMet G yJ2_add_2 (ws_ yJ2_add_2 cJ2_add_2 4 (Option.none : Option Jvm.ClassFile.FieldType)) 3 83 [.ref o, .ref x0, .ref x1, .int x2] h (aEV e.1 e.2) := by
  refine aMet.of (lv := [some (.ref o), some (.ref x0), some (.ref x1), some (.int x2)]) (by decide) (Nat.le_of_ble_eq_true rfl) 0 rfl ?_
  have he : aTo (aEV e.1 e.2) (aEV e.1 e.2) := aTo.rf
  unfold t_J2_add_2_1 at hT
  refine a_iload_n dJ2_add_2_0 rfl ?_
  refine a_aload_n dJ2_add_2_1 rfl ?_
  obtain ⟨z1, e2, hT⟩ := obnd hT
  refine a_alen e2 dJ2_add_2_2 ?_
  refine a_icmp_ne 11 dJ2_add_2_3 rfl (fun c3 => ?_) (fun c3 => ?_)
  · have hT := oifn c3 hT
    exact k_J2_add_2_1_l11 hT he
  · have hT := oifp c3 hT
    refine a_aload_n dJ2_add_2_6 rfl ?_
    obtain ⟨g11, hT⟩ := oifg hT
    obtain ⟨r12, e13, hT⟩ := obnd hT
    refine a_callV kv_J2_129 g11 (k_J2_grow e13) ⟨Nat.le_of_ble_eq_true rfl, Nat.le_of_ble_eq_true rfl⟩ (As := []) (rest := []) rfl rfl (Nat.le_of_ble_eq_true rfl) dJ2_add_2_7 (kA ?_) xA
    refine a_astore_n (lv' := [some (.ref o), some (.ref x0), some (.ref r12.1), some (.int x2)]) dJ2_add_2_10 rfl (by decide) rfl ?_
    exact k_J2_add_2_1_l11 hT he
theorem kv_J2_131 : aKV "java/util/ArrayList" 131 8 yJ2_add_2 cJ2_add_2 4 (Option.none : Option Jvm.ClassFile.FieldType) 3 := ⟨⟨TJ2, 3, rfl⟩, Or.inl q425, q427, qs1, q76, q428, ⟨by decide +kernel, by decide +kernel, by decide +kernel⟩⟩
abbrev M_J2_add_1 : aM := (yJ2_add.cls, cJ2_add, 2, (Option.some Jvm.ClassFile.FieldType.boolean), [], yJ2_add.name)
def t_J2_add_1 (Z : aZ) (h : aH) (o : Nat) (x0 : Nat) : Option (Int32 × aH) :=
  (gI 8 0 h o).bind fun z2 =>
  (pF 8 0 Z h o (.int (z2 + 1))).bind fun h4 =>
  (gA 8 1 h4 o).bind fun a6 =>
  (gI 8 2 h4 o).bind fun z8 =>
  if isC 8 h4 o = true then
  (t_J2_add_2_1 Z h4 o x0 a6 z8).bind fun r12 =>
  some (1, r12.2)
  else none
theorem k_J2_add_1 {G : aG} {h : aH} {o : Nat} {x0 : Nat} {e : (Int32 × aH)} (hT : t_J2_add_1 (gZ G) h o x0 = some e) : aMet G yJ2_add (ws_ yJ2_add cJ2_add 2 (Option.some Jvm.ClassFile.FieldType.boolean)) 4 106 [.ref o, .ref x0] h (aEI e.1 e.2) := by
  refine aMet.of (lv := [some (.ref o), some (.ref x0)]) (by decide) (Nat.le_of_ble_eq_true rfl) 0 rfl ?_
  have he : aTo (aEI e.1 e.2) (aEI e.1 e.2) := aTo.rf
  unfold t_J2_add_1 at hT
  refine a_aload_n dJ2_add_0 rfl ?_
  refine a_dup dJ2_add_1 rfl ?_
  obtain ⟨z2, e1, hT⟩ := obnd hT
  refine a_gI fl_J2_63_8 e1 dJ2_add_2 ?_
  refine a_iconst (v := 1) dJ2_add_5 (by decide) ?_
  refine a_iadd dJ2_add_6 ?_
  obtain ⟨h4, e3, hT⟩ := obnd hT
  refine a_put (fp_J2_63_8 _) ⟨rfl, rfl⟩ e3 dJ2_add_7 ?_
  refine a_aload_n dJ2_add_10 rfl ?_
  refine a_aload_n dJ2_add_11 rfl ?_
  refine a_aload_n dJ2_add_12 rfl ?_
  obtain ⟨a6, e5, hT⟩ := obnd hT
  refine a_gA fl_J2_9_8 e5 dJ2_add_13 ?_
  refine a_aload_n dJ2_add_16 rfl ?_
  obtain ⟨z8, e7, hT⟩ := obnd hT
  refine a_gI fl_J2_48_8 e7 dJ2_add_17 ?_
  obtain ⟨g11, hT⟩ := oifg hT
  obtain ⟨r12, e13, hT⟩ := obnd hT
  refine a_callV kv_J2_131 g11 (k_J2_add_2_1 e13) ⟨Nat.le_of_ble_eq_true rfl, Nat.le_of_ble_eq_true rfl⟩ (As := [.ref x0, .ref a6, .int z8]) (rest := []) rfl rfl (Nat.le_of_ble_eq_true rfl) dJ2_add_20 (kV ?_) xV
  refine a_iconst (v := 1) dJ2_add_23 (by decide) ?_
  obtain rfl := Option.some.inj hT
  exact a_iret rfl (by decide) dJ2_add_24 (he _ _ ⟨rfl, rfl⟩)
abbrev M_J2_add_2_3 : aM := (yJ2_add_2.cls, cJ2_add_2, 4, (Option.none : Option Jvm.ClassFile.FieldType), [], yJ2_add_2.name)
def t_J2_add_2_3_l11 (Z : aZ) (h : aH) (v0 : Nat) (v1 : Nat) (v2 : Nat) (v3 : Int32) : Option (Unit × aH) :=
  if isC 3 h v1 = true then (stR Z h v2 v3 (some v1)).bind fun h4 =>
  (pF 8 2 Z h4 v0 (.int (v3 + 1))).bind fun h8 =>
  some ((), h8)
  else none
theorem k_J2_add_2_3_l11 {G : aG} {h0 : aH} {K : aRes → aH → Prop} {h : aH} {v0 : Nat} {v1 : Nat} {v2 : Nat} {v3 : Int32} {e : (Unit × aH)} (hT : t_J2_add_2_3_l11 (gZ G) h v0 v1 v2 v3 = some e) (he : (fun e => aTo (aEV e.1 e.2) K) e) : aW G M_J2_add_2_3 3 83 h0 K h 11 [some (.ref v0), some (.ref v1), some (.ref v2), some (.int v3)] [] := by
  unfold t_J2_add_2_3_l11 at hT
  refine a_aload_n dJ2_add_2_11 rfl ?_
  refine a_iload_n dJ2_add_2_12 rfl ?_
  refine a_aload_n dJ2_add_2_13 rfl ?_
  obtain ⟨g6, hT⟩ := oifg hT
  obtain ⟨h4, e5, hT⟩ := obnd hT
  refine a_stX (ci := 3) rfl q2158 g6 e5 dJ2_add_2_14 ?_
  refine a_aload_n dJ2_add_2_15 rfl ?_
  refine a_iload_n dJ2_add_2_16 rfl ?_
  refine a_iconst (v := 1) dJ2_add_2_17 (by decide) ?_
  refine a_iadd dJ2_add_2_18 ?_
  obtain ⟨h8, e7, hT⟩ := obnd hT
  refine a_put (fp_J2_48_8 _) ⟨rfl, rfl⟩ e7 dJ2_add_2_19 ?_
  obtain rfl := Option.some.inj hT
  exact a_vret rfl dJ2_add_2_22 (he _ _ ⟨rfl, rfl⟩)
def t_J2_add_2_3 (Z : aZ) (h : aH) (o : Nat) (x0 : Nat) (x1 : Nat) (x2 : Int32) : Option (Unit × aH) :=
  (alen Z h x1).bind fun z1 =>
  if x2 = z1 then
    if isC 8 h o = true then
    (t_J2_grow Z h o).bind fun r12 =>
    t_J2_add_2_3_l11 Z r12.2 o x0 r12.1 x2
    else none
  else
    t_J2_add_2_3_l11 Z h o x0 x1 x2
theorem k_J2_add_2_3 {G : aG} {h : aH} {o : Nat} {x0 : Nat} {x1 : Nat} {x2 : Int32} {e : (Unit × aH)} (hT : t_J2_add_2_3 (gZ G) h o x0 x1 x2 = some e) : aMet G yJ2_add_2 (ws_ yJ2_add_2 cJ2_add_2 4 (Option.none : Option Jvm.ClassFile.FieldType)) 3 83 [.ref o, .ref x0, .ref x1, .int x2] h (aEV e.1 e.2) := by
  refine aMet.of (lv := [some (.ref o), some (.ref x0), some (.ref x1), some (.int x2)]) (by decide) (Nat.le_of_ble_eq_true rfl) 0 rfl ?_
  have he : aTo (aEV e.1 e.2) (aEV e.1 e.2) := aTo.rf
  unfold t_J2_add_2_3 at hT
  refine a_iload_n dJ2_add_2_0 rfl ?_
  refine a_aload_n dJ2_add_2_1 rfl ?_
  obtain ⟨z1, e2, hT⟩ := obnd hT
  refine a_alen e2 dJ2_add_2_2 ?_
  refine a_icmp_ne 11 dJ2_add_2_3 rfl (fun c3 => ?_) (fun c3 => ?_)
  · have hT := oifn c3 hT
    exact k_J2_add_2_3_l11 hT he
  · have hT := oifp c3 hT
    refine a_aload_n dJ2_add_2_6 rfl ?_
    obtain ⟨g11, hT⟩ := oifg hT
    obtain ⟨r12, e13, hT⟩ := obnd hT
    refine a_callV kv_J2_129 g11 (k_J2_grow e13) ⟨Nat.le_of_ble_eq_true rfl, Nat.le_of_ble_eq_true rfl⟩ (As := []) (rest := []) rfl rfl (Nat.le_of_ble_eq_true rfl) dJ2_add_2_7 (kA ?_) xA
    refine a_astore_n (lv' := [some (.ref o), some (.ref x0), some (.ref r12.1), some (.int x2)]) dJ2_add_2_10 rfl (by decide) rfl ?_
    exact k_J2_add_2_3_l11 hT he
abbrev M_J2_add_3 : aM := (yJ2_add.cls, cJ2_add, 2, (Option.some Jvm.ClassFile.FieldType.boolean), [], yJ2_add.name)
def t_J2_add_3 (Z : aZ) (h : aH) (o : Nat) (x0 : Nat) : Option (Int32 × aH) :=
  (gI 8 0 h o).bind fun z2 =>
  (pF 8 0 Z h o (.int (z2 + 1))).bind fun h4 =>
  (gA 8 1 h4 o).bind fun a6 =>
  (gI 8 2 h4 o).bind fun z8 =>
  if isC 8 h4 o = true then
  (t_J2_add_2_3 Z h4 o x0 a6 z8).bind fun r12 =>
  some (1, r12.2)
  else none
theorem k_J2_add_3 {G : aG} {h : aH} {o : Nat} {x0 : Nat} {e : (Int32 × aH)} (hT : t_J2_add_3 (gZ G) h o x0 = some e) : aMet G yJ2_add (ws_ yJ2_add cJ2_add 2 (Option.some Jvm.ClassFile.FieldType.boolean)) 4 106 [.ref o, .ref x0] h (aEI e.1 e.2) := by
  refine aMet.of (lv := [some (.ref o), some (.ref x0)]) (by decide) (Nat.le_of_ble_eq_true rfl) 0 rfl ?_
  have he : aTo (aEI e.1 e.2) (aEI e.1 e.2) := aTo.rf
  unfold t_J2_add_3 at hT
  refine a_aload_n dJ2_add_0 rfl ?_
  refine a_dup dJ2_add_1 rfl ?_
  obtain ⟨z2, e1, hT⟩ := obnd hT
  refine a_gI fl_J2_63_8 e1 dJ2_add_2 ?_
  refine a_iconst (v := 1) dJ2_add_5 (by decide) ?_
  refine a_iadd dJ2_add_6 ?_
  obtain ⟨h4, e3, hT⟩ := obnd hT
  refine a_put (fp_J2_63_8 _) ⟨rfl, rfl⟩ e3 dJ2_add_7 ?_
  refine a_aload_n dJ2_add_10 rfl ?_
  refine a_aload_n dJ2_add_11 rfl ?_
  refine a_aload_n dJ2_add_12 rfl ?_
  obtain ⟨a6, e5, hT⟩ := obnd hT
  refine a_gA fl_J2_9_8 e5 dJ2_add_13 ?_
  refine a_aload_n dJ2_add_16 rfl ?_
  obtain ⟨z8, e7, hT⟩ := obnd hT
  refine a_gI fl_J2_48_8 e7 dJ2_add_17 ?_
  obtain ⟨g11, hT⟩ := oifg hT
  obtain ⟨r12, e13, hT⟩ := obnd hT
  refine a_callV kv_J2_131 g11 (k_J2_add_2_3 e13) ⟨Nat.le_of_ble_eq_true rfl, Nat.le_of_ble_eq_true rfl⟩ (As := [.ref x0, .ref a6, .int z8]) (rest := []) rfl rfl (Nat.le_of_ble_eq_true rfl) dJ2_add_20 (kV ?_) xV
  refine a_iconst (v := 1) dJ2_add_23 (by decide) ?_
  obtain rfl := Option.some.inj hT
  exact a_iret rfl (by decide) dJ2_add_24 (he _ _ ⟨rfl, rfl⟩)
abbrev M_J2_add_2_4 : aM := (yJ2_add_2.cls, cJ2_add_2, 4, (Option.none : Option Jvm.ClassFile.FieldType), [], yJ2_add_2.name)
def t_J2_add_2_4_l11 (Z : aZ) (h : aH) (v0 : Nat) (v1 : Nat) (v2 : Nat) (v3 : Int32) : Option (Unit × aH) :=
  if isC 4 h v1 = true then (stR Z h v2 v3 (some v1)).bind fun h4 =>
  (pF 8 2 Z h4 v0 (.int (v3 + 1))).bind fun h8 =>
  some ((), h8)
  else none
theorem k_J2_add_2_4_l11 {G : aG} {h0 : aH} {K : aRes → aH → Prop} {h : aH} {v0 : Nat} {v1 : Nat} {v2 : Nat} {v3 : Int32} {e : (Unit × aH)} (hT : t_J2_add_2_4_l11 (gZ G) h v0 v1 v2 v3 = some e) (he : (fun e => aTo (aEV e.1 e.2) K) e) : aW G M_J2_add_2_4 3 83 h0 K h 11 [some (.ref v0), some (.ref v1), some (.ref v2), some (.int v3)] [] := by
  unfold t_J2_add_2_4_l11 at hT
  refine a_aload_n dJ2_add_2_11 rfl ?_
  refine a_iload_n dJ2_add_2_12 rfl ?_
  refine a_aload_n dJ2_add_2_13 rfl ?_
  obtain ⟨g6, hT⟩ := oifg hT
  obtain ⟨h4, e5, hT⟩ := obnd hT
  refine a_stX (ci := 4) rfl q2159 g6 e5 dJ2_add_2_14 ?_
  refine a_aload_n dJ2_add_2_15 rfl ?_
  refine a_iload_n dJ2_add_2_16 rfl ?_
  refine a_iconst (v := 1) dJ2_add_2_17 (by decide) ?_
  refine a_iadd dJ2_add_2_18 ?_
  obtain ⟨h8, e7, hT⟩ := obnd hT
  refine a_put (fp_J2_48_8 _) ⟨rfl, rfl⟩ e7 dJ2_add_2_19 ?_
  obtain rfl := Option.some.inj hT
  exact a_vret rfl dJ2_add_2_22 (he _ _ ⟨rfl, rfl⟩)
def t_J2_add_2_4 (Z : aZ) (h : aH) (o : Nat) (x0 : Nat) (x1 : Nat) (x2 : Int32) : Option (Unit × aH) :=
  (alen Z h x1).bind fun z1 =>
  if x2 = z1 then
    if isC 8 h o = true then
    (t_J2_grow Z h o).bind fun r12 =>
    t_J2_add_2_4_l11 Z r12.2 o x0 r12.1 x2
    else none
  else
    t_J2_add_2_4_l11 Z h o x0 x1 x2
theorem k_J2_add_2_4 {G : aG} {h : aH} {o : Nat} {x0 : Nat} {x1 : Nat} {x2 : Int32} {e : (Unit × aH)} (hT : t_J2_add_2_4 (gZ G) h o x0 x1 x2 = some e) : aMet G yJ2_add_2 (ws_ yJ2_add_2 cJ2_add_2 4 (Option.none : Option Jvm.ClassFile.FieldType)) 3 83 [.ref o, .ref x0, .ref x1, .int x2] h (aEV e.1 e.2) := by
  refine aMet.of (lv := [some (.ref o), some (.ref x0), some (.ref x1), some (.int x2)]) (by decide) (Nat.le_of_ble_eq_true rfl) 0 rfl ?_
  have he : aTo (aEV e.1 e.2) (aEV e.1 e.2) := aTo.rf
  unfold t_J2_add_2_4 at hT
  refine a_iload_n dJ2_add_2_0 rfl ?_
  refine a_aload_n dJ2_add_2_1 rfl ?_
  obtain ⟨z1, e2, hT⟩ := obnd hT
  refine a_alen e2 dJ2_add_2_2 ?_
  refine a_icmp_ne 11 dJ2_add_2_3 rfl (fun c3 => ?_) (fun c3 => ?_)
  · have hT := oifn c3 hT
    exact k_J2_add_2_4_l11 hT he
  · have hT := oifp c3 hT
    refine a_aload_n dJ2_add_2_6 rfl ?_
    obtain ⟨g11, hT⟩ := oifg hT
    obtain ⟨r12, e13, hT⟩ := obnd hT
    refine a_callV kv_J2_129 g11 (k_J2_grow e13) ⟨Nat.le_of_ble_eq_true rfl, Nat.le_of_ble_eq_true rfl⟩ (As := []) (rest := []) rfl rfl (Nat.le_of_ble_eq_true rfl) dJ2_add_2_7 (kA ?_) xA
    refine a_astore_n (lv' := [some (.ref o), some (.ref x0), some (.ref r12.1), some (.int x2)]) dJ2_add_2_10 rfl (by decide) rfl ?_
    exact k_J2_add_2_4_l11 hT he
abbrev M_J2_add_4 : aM := (yJ2_add.cls, cJ2_add, 2, (Option.some Jvm.ClassFile.FieldType.boolean), [], yJ2_add.name)
def t_J2_add_4 (Z : aZ) (h : aH) (o : Nat) (x0 : Nat) : Option (Int32 × aH) :=
  (gI 8 0 h o).bind fun z2 =>
  (pF 8 0 Z h o (.int (z2 + 1))).bind fun h4 =>
  (gA 8 1 h4 o).bind fun a6 =>
  (gI 8 2 h4 o).bind fun z8 =>
  if isC 8 h4 o = true then
  (t_J2_add_2_4 Z h4 o x0 a6 z8).bind fun r12 =>
  some (1, r12.2)
  else none
theorem k_J2_add_4 {G : aG} {h : aH} {o : Nat} {x0 : Nat} {e : (Int32 × aH)} (hT : t_J2_add_4 (gZ G) h o x0 = some e) : aMet G yJ2_add (ws_ yJ2_add cJ2_add 2 (Option.some Jvm.ClassFile.FieldType.boolean)) 4 106 [.ref o, .ref x0] h (aEI e.1 e.2) := by
  refine aMet.of (lv := [some (.ref o), some (.ref x0)]) (by decide) (Nat.le_of_ble_eq_true rfl) 0 rfl ?_
  have he : aTo (aEI e.1 e.2) (aEI e.1 e.2) := aTo.rf
  unfold t_J2_add_4 at hT
  refine a_aload_n dJ2_add_0 rfl ?_
  refine a_dup dJ2_add_1 rfl ?_
  obtain ⟨z2, e1, hT⟩ := obnd hT
  refine a_gI fl_J2_63_8 e1 dJ2_add_2 ?_
  refine a_iconst (v := 1) dJ2_add_5 (by decide) ?_
  refine a_iadd dJ2_add_6 ?_
  obtain ⟨h4, e3, hT⟩ := obnd hT
  refine a_put (fp_J2_63_8 _) ⟨rfl, rfl⟩ e3 dJ2_add_7 ?_
  refine a_aload_n dJ2_add_10 rfl ?_
  refine a_aload_n dJ2_add_11 rfl ?_
  refine a_aload_n dJ2_add_12 rfl ?_
  obtain ⟨a6, e5, hT⟩ := obnd hT
  refine a_gA fl_J2_9_8 e5 dJ2_add_13 ?_
  refine a_aload_n dJ2_add_16 rfl ?_
  obtain ⟨z8, e7, hT⟩ := obnd hT
  refine a_gI fl_J2_48_8 e7 dJ2_add_17 ?_
  obtain ⟨g11, hT⟩ := oifg hT
  obtain ⟨r12, e13, hT⟩ := obnd hT
  refine a_callV kv_J2_131 g11 (k_J2_add_2_4 e13) ⟨Nat.le_of_ble_eq_true rfl, Nat.le_of_ble_eq_true rfl⟩ (As := [.ref x0, .ref a6, .int z8]) (rest := []) rfl rfl (Nat.le_of_ble_eq_true rfl) dJ2_add_20 (kV ?_) xV
  refine a_iconst (v := 1) dJ2_add_23 (by decide) ?_
  obtain rfl := Option.some.inj hT
  exact a_iret rfl (by decide) dJ2_add_24 (he _ _ ⟨rfl, rfl⟩)
theorem fn_J2_267 : aFN "java/util/ArrayList" 267 9 [.int 0, .int 0, .int 0, .null] 4 := ⟨RJ7, TJ7, tyJ7, rfl, in_J7, tyJ7_ok, q269, q270, q82, by decide⟩
theorem ki_J2_269 : aKI "java/util/ArrayList" 269 yJ7_init cJ7_init 2 1 := ⟨rfl, Or.inl q271, q272, q82, q273, ⟨by decide +kernel, by decide +kernel, by decide +kernel⟩⟩
abbrev M_J2_iterator : aM := (yJ2_iterator.cls, cJ2_iterator, 1, (Option.some (Jvm.ClassFile.FieldType.object "java/util/Iterator")), [], yJ2_iterator.name)
def t_J2_iterator (Z : aZ) (h : aH) (o : Nat) : Option (Nat × aH) :=
  (nw Z h (.inr (9, [.int 0, .int 0, .int 0, .null])) 4).bind fun h1 =>
  (t_J7_init Z h1 h.2.1 o).bind fun r5 =>
  some (h.2.1, r5.2)
theorem k_J2_iterator {G : aG} {h : aH} {o : Nat} {e : (Nat × aH)} (hT : t_J2_iterator (gZ G) h o = some e) : aMet G yJ2_iterator (ws_ yJ2_iterator cJ2_iterator 1 (Option.some (Jvm.ClassFile.FieldType.object "java/util/Iterator"))) 2 33 [.ref o] h (aEA e.1 e.2) := by
  refine aMet.of (lv := [some (.ref o)]) (by decide) (Nat.le_of_ble_eq_true rfl) 0 rfl ?_
  have he : aTo (aEA e.1 e.2) (aEA e.1 e.2) := aTo.rf
  unfold t_J2_iterator at hT
  obtain ⟨h1, e2, hT⟩ := obnd hT
  refine a_new fn_J2_267 e2 dJ2_iterator_0 ?_
  refine a_dup dJ2_iterator_3 rfl ?_
  refine a_aload_n dJ2_iterator_4 rfl ?_
  obtain ⟨r5, e6, hT⟩ := obnd hT
  refine a_callI ki_J2_269 (k_J7_init e6) ⟨Nat.le_of_ble_eq_true rfl, Nat.le_of_ble_eq_true rfl⟩ (As := [.ref o]) (rest := [.ref h.2.1]) rfl rfl (Nat.le_of_ble_eq_true rfl) dJ2_iterator_5 (kV ?_) xV
  obtain rfl := Option.some.inj hT
  exact a_aret rfl (Or.inl ⟨_, rfl⟩) dJ2_iterator_8 (he _ _ ⟨rfl, rfl⟩)
theorem fl_X1_49_0 : aFL "MazeBonds" 49 0 0 := ⟨RX1, TX1, 8, "MazeBonds", rfl, in_X1, by decide, Or.inl rfl, Or.inl q222⟩
theorem kv_X1_90 : aKV "MazeBonds" 90 8 yJ2_add cJ2_add 2 (Option.some Jvm.ClassFile.FieldType.boolean) 1 := ⟨⟨TJ2, 3, rfl⟩, Or.inl q565, q422, q423, q76, q424, ⟨by decide +kernel, by decide +kernel, by decide +kernel⟩⟩
abbrev M_X1_come : aM := (yX1_come.cls, cX1_come, 3, (Option.some Jvm.ClassFile.FieldType.int), [], yX1_come.name)
def t_X1_come_l21 (Z : aZ) (h : aH) (v0 : Nat) (v1 : Nat) (v2 : Int32) : Option (Int32 × aH) :=
  (gA 0 1 h v0).bind fun a10 =>
  (gA 0 0 h v0).bind fun a12 =>
  if isC 8 h a10 = true then
  (t_J2_add_1 Z h a10 a12).bind fun r16 =>
  (pF 0 0 Z r16.2 v0 (.ref v1)).bind fun h19 =>
  some (v2, h19)
  else none
theorem k_X1_come_l21 {G : aG} {h0 : aH} {K : aRes → aH → Prop} {h : aH} {v0 : Nat} {v1 : Nat} {v2 : Int32} {e : (Int32 × aH)} (hT : t_X1_come_l21 (gZ G) h v0 v1 v2 = some e) (he : (fun e => aTo (aEI e.1 e.2) K) e) : aW G M_X1_come 5 127 h0 K h 21 [some (.ref v0), some (.ref v1), some (.int v2)] [] := by
  unfold t_X1_come_l21 at hT
  refine a_aload_n dX1_come_21 rfl ?_
  obtain ⟨a10, e9, hT⟩ := obnd hT
  refine a_gA fl_X1_56_0 e9 dX1_come_22 ?_
  refine a_aload_n dX1_come_25 rfl ?_
  obtain ⟨a12, e11, hT⟩ := obnd hT
  refine a_gA fl_X1_49_0 e11 dX1_come_26 ?_
  obtain ⟨g15, hT⟩ := oifg hT
  obtain ⟨r16, e17, hT⟩ := obnd hT
  refine a_callV kv_X1_90 g15 (k_J2_add_1 e17) ⟨Nat.le_of_ble_eq_true rfl, Nat.le_of_ble_eq_true rfl⟩ (As := [.ref a12]) (rest := []) rfl rfl (Nat.le_of_ble_eq_true rfl) dX1_come_29 (kI ?_) xI
  refine a_pop dX1_come_32 rfl ?_
  refine a_aload_n dX1_come_33 rfl ?_
  refine a_aload_n dX1_come_34 rfl ?_
  obtain ⟨h19, e18, hT⟩ := obnd hT
  refine a_put (fp_X1_49_0 _) ⟨rfl, rfl⟩ e18 dX1_come_35 ?_
  refine a_iload_n dX1_come_38 rfl ?_
  obtain rfl := Option.some.inj hT
  exact a_iret rfl rfl dX1_come_39 (he _ _ ⟨rfl, rfl⟩)
def t_X1_come (Z : aZ) (h : aH) (o : Nat) (x0 : Nat) (x1 : Int32) : Option (Int32 × aH) :=
  (gA 0 1 h o).bind fun a2 =>
  if isC 8 h a2 = true then
  (t_J2_size Z h a2).bind fun r6 =>
  if r6.1 = 8 then
    (gA 0 1 r6.2 o).bind fun a21 =>
    if isC 8 r6.2 a21 = true then
    (t_J2_remove Z r6.2 a21 0).bind fun r25 =>
    t_X1_come_l21 Z r25.2 o x0 x1
    else none
  else
    t_X1_come_l21 Z r6.2 o x0 x1
  else none
theorem k_X1_come {G : aG} {h : aH} {o : Nat} {x0 : Nat} {x1 : Int32} {e : (Int32 × aH)} (hT : t_X1_come (gZ G) h o x0 x1 = some e) : aMet G yX1_come (ws_ yX1_come cX1_come 3 (Option.some Jvm.ClassFile.FieldType.int)) 5 127 [.ref o, .ref x0, .int x1] h (aEI e.1 e.2) := by
  refine aMet.of (lv := [some (.ref o), some (.ref x0), some (.int x1)]) (by decide) (Nat.le_of_ble_eq_true rfl) 0 rfl ?_
  have he : aTo (aEI e.1 e.2) (aEI e.1 e.2) := aTo.rf
  unfold t_X1_come at hT
  refine a_aload_n dX1_come_0 rfl ?_
  obtain ⟨a2, e1, hT⟩ := obnd hT
  refine a_gA fl_X1_56_0 e1 dX1_come_1 ?_
  obtain ⟨g5, hT⟩ := oifg hT
  obtain ⟨r6, e7, hT⟩ := obnd hT
  refine a_callV kv_X1_82 g5 (k_J2_size e7) ⟨Nat.le_of_ble_eq_true rfl, Nat.le_of_ble_eq_true rfl⟩ (As := []) (rest := []) rfl rfl (Nat.le_of_ble_eq_true rfl) dX1_come_4 (kI ?_) xI
  refine a_bipush (v := 8) dX1_come_7 (by decide) ?_
  refine a_icmp_ne 21 dX1_come_9 rfl (fun c8 => ?_) (fun c8 => ?_)
  · have hT := oifn c8 hT
    exact k_X1_come_l21 hT he
  · have hT := oifp c8 hT
    refine a_aload_n dX1_come_12 rfl ?_
    obtain ⟨a21, e20, hT⟩ := obnd hT
    refine a_gA fl_X1_56_0 e20 dX1_come_13 ?_
    refine a_iconst (v := 0) dX1_come_16 (by decide) ?_
    obtain ⟨g24, hT⟩ := oifg hT
    obtain ⟨r25, e26, hT⟩ := obnd hT
    refine a_callV kv_X1_86 g24 (k_J2_remove e26) ⟨Nat.le_of_ble_eq_true rfl, Nat.le_of_ble_eq_true rfl⟩ (As := [.int 0]) (rest := []) rfl rfl (Nat.le_of_ble_eq_true rfl) dX1_come_17 (kA ?_) xA
    refine a_pop dX1_come_20 rfl ?_
    exact k_X1_come_l21 hT he
theorem kv_X1_345 : aKV "MazeBonds" 345 1 yX2_gaps cX2_gaps 6 (Option.some Jvm.ClassFile.FieldType.int) 0 := ⟨⟨TX2, 7, rfl⟩, Or.inl q610, q538, q539, q73, q540, ⟨by decide +kernel, by decide +kernel, by decide +kernel⟩⟩
abbrev M_X1_gapShare : aM := (yX1_gapShare.cls, cX1_gapShare, 1, (Option.some Jvm.ClassFile.FieldType.float), [], yX1_gapShare.name)
def t_X1_gapShare (Z : aZ) (h : aH) (o : Nat) : Option (UInt32 × aH) :=
  (gA 0 0 h o).bind fun a2 =>
  if isC 1 h a2 = true then
  (t_X2_gaps Z h a2).bind fun r6 =>
  if (FP.fdiv (FP.i2f r6.1) 1103101952) &&& 0x7fffffff ≤ 0x7f800000 then
  some ((FP.fdiv (FP.i2f r6.1) 1103101952), r6.2)
  else none
  else none
theorem k_X1_gapShare {G : aG} {h : aH} {o : Nat} {e : (UInt32 × aH)} (hT : t_X1_gapShare (gZ G) h o = some e) : aMet G yX1_gapShare (ws_ yX1_gapShare cX1_gapShare 1 (Option.some Jvm.ClassFile.FieldType.float)) 2 26 [.ref o] h (aEF e.1 e.2) := by
  refine aMet.of (lv := [some (.ref o)]) (by decide) (Nat.le_of_ble_eq_true rfl) 0 rfl ?_
  have he : aTo (aEF e.1 e.2) (aEF e.1 e.2) := aTo.rf
  unfold t_X1_gapShare at hT
  refine a_aload_n dX1_gapShare_0 rfl ?_
  obtain ⟨a2, e1, hT⟩ := obnd hT
  refine a_gA fl_X1_49_0 e1 dX1_gapShare_1 ?_
  obtain ⟨g5, hT⟩ := oifg hT
  obtain ⟨r6, e7, hT⟩ := obnd hT
  refine a_callV kv_X1_345 g5 (k_X2_gaps e7) ⟨Nat.le_of_ble_eq_true rfl, Nat.le_of_ble_eq_true rfl⟩ (As := []) (rest := []) rfl rfl (Nat.le_of_ble_eq_true rfl) dX1_gapShare_4 (kI ?_) xI
  refine a_i2f dX1_gapShare_7 ?_
  refine a_ldcfw q611 dX1_gapShare_8 ?_
  obtain ⟨g8, hT⟩ := oifg hT
  refine a_fdiv dX1_gapShare_11 g8 ?_
  obtain rfl := Option.some.inj hT
  exact a_fret rfl dX1_gapShare_12 (he _ _ ⟨rfl, rfl⟩)
abbrev M_X1_areCells : aM := (yX1_areCells.cls, cX1_areCells, 6, (Option.some Jvm.ClassFile.FieldType.boolean), [], yX1_areCells.name)
def p_X1_areCells_b10 (G : aG) (h0 : aH) (K : aRes → aH → Prop) (x9 : (Int32 × Nat × Int32 × Int32 × aH)) : Prop := aW G M_X1_areCells 2 23 h0 K x9.2.2.2.2 10 [none, some (.int x9.1), some (.ref x9.2.1), some (.int x9.2.2.1), some (.int x9.2.2.2.1), none] []
def t_X1_areCells_b10 (Z : aZ) : (Int32 × Nat × Int32 × Int32 × aH) → Option ((Int32 × Nat × Int32 × Int32 × aH) ⊕ (Int32 × aH)) := fun (v1, v2, v3, v4, h) =>
  if v3 ≤ v4 then
    if v1 = 0 ∨ v1 = 1 then some (.inr ((v1, h))) else none
  else
    (ldI Z h v2 v4).bind fun z5 =>
    (t_X1_isIn z5 0 15).bind fun r8 =>
    some (.inl ((v1 &&& r8), v2, v3, (v4 + 1), h))
theorem kb_X1_areCells_b10 {G : aG} {h0 : aH} {K : aRes → aH → Prop} : ∀ (x9 : (Int32 × Nat × Int32 × Int32 × aH)) (e : ((Int32 × Nat × Int32 × Int32 × aH) ⊕ (Int32 × aH))), t_X1_areCells_b10 (gZ G) x9 = some e → (Sum.elim (p_X1_areCells_b10 G h0 K) (fun e => aTo (aEI e.1 e.2) K)) e → p_X1_areCells_b10 G h0 K x9 := by
  intro x9 e hT he
  obtain ⟨v1, v2, v3, v4, h⟩ := x9
  unfold p_X1_areCells_b10
  unfold t_X1_areCells_b10 at hT
  show aW G M_X1_areCells 2 23 h0 K h 10 [none, some (.int v1), some (.ref v2), some (.int v3), some (.int v4), none] []
  dsimp only at hT
  refine a_iload dX1_areCells_10 rfl ?_
  refine a_iload_n dX1_areCells_12 rfl ?_
  refine a_icmp_ge 39 dX1_areCells_13 rfl (fun c3 => ?_) (fun c3 => ?_)
  · have hT := oifp c3 hT
    refine a_iload_n dX1_areCells_39 rfl ?_
    obtain ⟨g9, hT⟩ := oifg hT
    obtain rfl := Option.some.inj hT
    exact a_iret rfl (nZ g9) dX1_areCells_40 (he _ _ ⟨rfl, rfl⟩)
  · have hT := oifn c3 hT
    refine a_aload_n dX1_areCells_16 rfl ?_
    refine a_iload dX1_areCells_17 rfl ?_
    obtain ⟨z5, e4, hT⟩ := obnd hT
    refine a_ldI e4 dX1_areCells_19 ?_
    refine a_istore (lv' := [none, some (.int v1), some (.ref v2), some (.int v3), some (.int v4), some (.int z5)]) dX1_areCells_20 rfl (by decide) rfl ?_
    refine a_iload_n dX1_areCells_22 rfl ?_
    refine a_iload dX1_areCells_23 rfl ?_
    refine a_iconst (v := 0) dX1_areCells_25 (by decide) ?_
    refine a_bipush (v := 15) dX1_areCells_26 (by decide) ?_
    obtain ⟨r8, e9, hT⟩ := obnd hT
    refine a_callS ks_X1_3 (k_X1_isIn e9) ⟨Nat.le_of_ble_eq_true rfl, Nat.le_of_ble_eq_true rfl⟩ (As := [.int z5, .int 0, .int 15]) (rest := [.int v1]) rfl rfl (Nat.le_of_ble_eq_true rfl) dX1_areCells_28 (kI ?_) xI
    refine a_iand dX1_areCells_31 ?_
    refine a_istore_n (lv' := [none, some (.int (v1 &&& r8)), some (.ref v2), some (.int v3), some (.int v4), some (.int z5)]) dX1_areCells_32 rfl (by decide) rfl ?_
    refine a_iinc (v := (v4 + 1)) (lv' := [none, some (.int (v1 &&& r8)), some (.ref v2), some (.int v3), some (.int (v4 + 1)), some (.int z5)]) dX1_areCells_33 rfl (by rfl) rfl (by decide) rfl ?_
    refine a_goto 10 dX1_areCells_36 rfl ?_
    obtain rfl := Option.some.inj hT
    refine a_mask [true, true, true, true, true, false] ?_
    exact he
theorem k_X1_areCells_b10 {G : aG} {h0 : aH} {K : aRes → aH → Prop} {n9 : Nat} {x9 : (Int32 × Nat × Int32 × Int32 × aH)} {e : (Int32 × aH)} (hT : wlo (t_X1_areCells_b10 (gZ G)) n9 x9 = some e) (he : (fun e => aTo (aEI e.1 e.2) K) e) : p_X1_areCells_b10 G h0 K x9 := wlo_W kb_X1_areCells_b10 n9 x9 e hT he
def t_X1_areCells (Z : aZ) (h : aH) (x0 : Nat) : Option (Int32 × aH) :=
  (alen Z h x0).bind fun z1 =>
  wlo (t_X1_areCells_b10 Z) 100 (1, x0, z1, 0, h)
theorem k_X1_areCells {G : aG} {h : aH} {x0 : Nat} {e : (Int32 × aH)} (hT : t_X1_areCells (gZ G) h x0 = some e) : aMet G yX1_areCells (ws_ yX1_areCells cX1_areCells 6 (Option.some Jvm.ClassFile.FieldType.boolean)) 2 23 [.ref x0] h (aEI e.1 e.2) := by
  refine aMet.of (lv := [some (.ref x0), none, none, none, none, none]) (by decide) (Nat.le_of_ble_eq_true rfl) 5 rfl ?_
  have he : aTo (aEI e.1 e.2) (aEI e.1 e.2) := aTo.rf
  unfold t_X1_areCells at hT
  refine a_iconst (v := 1) dX1_areCells_0 (by decide) ?_
  refine a_istore_n (lv' := [some (.ref x0), some (.int 1), none, none, none, none]) dX1_areCells_1 rfl (by decide) rfl ?_
  refine a_aload_n dX1_areCells_2 rfl ?_
  refine a_astore_n (lv' := [some (.ref x0), some (.int 1), some (.ref x0), none, none, none]) dX1_areCells_3 rfl (by decide) rfl ?_
  refine a_aload_n dX1_areCells_4 rfl ?_
  obtain ⟨z1, e2, hT⟩ := obnd hT
  refine a_alen e2 dX1_areCells_5 ?_
  refine a_istore_n (lv' := [some (.ref x0), some (.int 1), some (.ref x0), some (.int z1), none, none]) dX1_areCells_6 rfl (by decide) rfl ?_
  refine a_iconst (v := 0) dX1_areCells_7 (by decide) ?_
  refine a_istore (lv' := [some (.ref x0), some (.int 1), some (.ref x0), some (.int z1), some (.int 0), none]) dX1_areCells_8 rfl (by decide) rfl ?_
  refine a_mask [false, true, true, true, true, true] ?_
  exact k_X1_areCells_b10 hT he
theorem ks_X1_135 : aKS "MazeBonds" 135 yX1_areCells cX1_areCells 6 (Option.some Jvm.ClassFile.FieldType.boolean) 1 := ⟨Or.inl q923, q630, q72, q631, ⟨by decide +kernel, by decide +kernel, by decide +kernel⟩⟩
abbrev M_X1_requireCells : aM := (yX1_requireCells.cls, cX1_requireCells, 1, (Option.none : Option Jvm.ClassFile.FieldType), [], yX1_requireCells.name)
def t_X1_requireCells (Z : aZ) (h : aH) (x0 : Nat) : Option ((Unit ⊕ aXX) × aH) :=
  (t_X1_areCells Z h x0).bind fun r3 =>
  (t_X1_requireIndex Z r3.2 r3.1).bind fun r7 =>
  (match r7 with
  | (.inl y9, h10) =>
    some (.inl (), h10)
  | (.inr y9, h10) =>
    some (.inr y9, h10)
  )
theorem k_X1_requireCells {G : aG} {h : aH} {x0 : Nat} {e : ((Unit ⊕ aXX) × aH)} (hT : t_X1_requireCells (gZ G) h x0 = some e) : aMet G yX1_requireCells (ws_ yX1_requireCells cX1_requireCells 1 (Option.none : Option Jvm.ClassFile.FieldType)) 10 220 [.ref x0] h (aXV e.1 e.2) := by
  refine aMet.of (lv := [some (.ref x0)]) (by decide) (Nat.le_of_ble_eq_true rfl) 0 rfl ?_
  have he : aTo (aXV e.1 e.2) (aXV e.1 e.2) := aTo.rf
  unfold t_X1_requireCells at hT
  refine a_aload_n dX1_requireCells_0 rfl ?_
  obtain ⟨r3, e4, hT⟩ := obnd hT
  refine a_callS ks_X1_135 (k_X1_areCells e4) ⟨Nat.le_of_ble_eq_true rfl, Nat.le_of_ble_eq_true rfl⟩ (As := [.ref x0]) (rest := []) rfl rfl (Nat.le_of_ble_eq_true rfl) dX1_requireCells_1 (kI ?_) xI
  obtain ⟨⟨y9 | y9, h10⟩, e8, hT⟩ := obnd hT
  · dsimp only at hT
    refine a_callS ks_X1_139 (k_X1_requireIndex e8) ⟨Nat.le_of_ble_eq_true rfl, Nat.le_of_ble_eq_true rfl⟩ (As := [.int r3.1]) (rest := []) rfl rfl (Nat.le_of_ble_eq_true rfl) dX1_requireCells_4 (kXV ?_) yXV
    obtain rfl := Option.some.inj hT
    exact a_vret rfl dX1_requireCells_7 (he _ _ ⟨rfl, rfl⟩)
  · dsimp only at hT
    refine a_callS ks_X1_139 (k_X1_requireIndex e8) ⟨Nat.le_of_ble_eq_true rfl, Nat.le_of_ble_eq_true rfl⟩ (As := [.int r3.1]) (rest := []) rfl rfl (Nat.le_of_ble_eq_true rfl) dX1_requireCells_4 rXV (zXV ?_)
    obtain rfl := Option.some.inj hT
    exact a_out (by decide) (he _ _ ⟨rfl, rfl⟩)
theorem ks_X1_143 : aKS "MazeBonds" 143 yX1_requireCells cX1_requireCells 1 (Option.none : Option Jvm.ClassFile.FieldType) 1 := ⟨Or.inl q920, q921, q72, q922, ⟨by decide +kernel, by decide +kernel, by decide +kernel⟩⟩
theorem kv_X1_160 : aKV "MazeBonds" 160 1 yX2_isGap cX2_isGap 4 (Option.some Jvm.ClassFile.FieldType.boolean) 2 := ⟨⟨TX2, 7, rfl⟩, Or.inl q955, q594, q595, q73, q596, ⟨by decide +kernel, by decide +kernel, by decide +kernel⟩⟩
abbrev M_X1_isGap : aM := (yX1_isGap.cls, cX1_isGap, 3, (Option.some Jvm.ClassFile.FieldType.boolean), [], yX1_isGap.name)
def t_X1_isGap (Z : aZ) (h : aH) (o : Nat) (x0 : Int32) (x1 : Int32) : Option ((Int32 ⊕ aXX) × aH) :=
  (nwA Z h 2 (fun N => .inl (zI Z, N, .inl fun _ => 0))).bind fun h1 =>
  (stI Z h1 h.2.1 0 x0).bind fun h4 =>
  (stI Z h4 h.2.1 1 x1).bind fun h6 =>
  (t_X1_requireCells Z h6 h.2.1).bind fun r9 =>
  (match r9 with
  | (.inl y11, h12) =>
    (gA 0 0 h12 o).bind fun a14 =>
    if isC 1 h12 a14 = true then
    (t_X2_isGap Z h12 a14 x0 x1).bind fun r18 =>
    if r18.1 = 0 ∨ r18.1 = 1 then some (.inl r18.1, r18.2) else none
    else none
  | (.inr y11, h12) =>
    some (.inr y11, h12)
  )
theorem k_X1_isGap {G : aG} {h : aH} {o : Nat} {x0 : Int32} {x1 : Int32} {e : ((Int32 ⊕ aXX) × aH)} (hT : t_X1_isGap (gZ G) h o x0 x1 = some e) : aMet G yX1_isGap (ws_ yX1_isGap cX1_isGap 3 (Option.some Jvm.ClassFile.FieldType.boolean)) 11 240 [.ref o, .int x0, .int x1] h (aXI e.1 e.2) := by
  refine aMet.of (lv := [some (.ref o), some (.int x0), some (.int x1)]) (by decide) (Nat.le_of_ble_eq_true rfl) 0 rfl ?_
  have he : aTo (aXI e.1 e.2) (aXI e.1 e.2) := aTo.rf
  unfold t_X1_isGap at hT
  refine a_iconst (v := 2) dX1_isGap_0 (by decide) ?_
  obtain ⟨h1, e2, hT⟩ := obnd hT
  refine a_newI q156 e2 dX1_isGap_1 ?_
  refine a_dup dX1_isGap_3 rfl ?_
  refine a_iconst (v := 0) dX1_isGap_4 (by decide) ?_
  refine a_iload_n dX1_isGap_5 rfl ?_
  obtain ⟨h4, e3, hT⟩ := obnd hT
  refine a_stI e3 dX1_isGap_6 ?_
  refine a_dup dX1_isGap_7 rfl ?_
  refine a_iconst (v := 1) dX1_isGap_8 (by decide) ?_
  refine a_iload_n dX1_isGap_9 rfl ?_
  obtain ⟨h6, e5, hT⟩ := obnd hT
  refine a_stI e5 dX1_isGap_10 ?_
  obtain ⟨⟨y11 | y11, h12⟩, e10, hT⟩ := obnd hT
  · dsimp only at hT
    refine a_callS ks_X1_143 (k_X1_requireCells e10) ⟨Nat.le_of_ble_eq_true rfl, Nat.le_of_ble_eq_true rfl⟩ (As := [.ref h.2.1]) (rest := []) rfl rfl (Nat.le_of_ble_eq_true rfl) dX1_isGap_11 (kXV ?_) yXV
    refine a_aload_n dX1_isGap_14 rfl ?_
    obtain ⟨a14, e13, hT⟩ := obnd hT
    refine a_gA fl_X1_49_0 e13 dX1_isGap_15 ?_
    refine a_iload_n dX1_isGap_18 rfl ?_
    refine a_iload_n dX1_isGap_19 rfl ?_
    obtain ⟨g17, hT⟩ := oifg hT
    obtain ⟨r18, e19, hT⟩ := obnd hT
    refine a_callV kv_X1_160 g17 (k_X2_isGap e19) ⟨Nat.le_of_ble_eq_true rfl, Nat.le_of_ble_eq_true rfl⟩ (As := [.int x0, .int x1]) (rest := []) rfl rfl (Nat.le_of_ble_eq_true rfl) dX1_isGap_20 (kI ?_) xI
    obtain ⟨g9, hT⟩ := oifg hT
    obtain rfl := Option.some.inj hT
    exact a_iret rfl (nZ g9) dX1_isGap_23 (he _ _ ⟨rfl, rfl⟩)
  · dsimp only at hT
    refine a_callS ks_X1_143 (k_X1_requireCells e10) ⟨Nat.le_of_ble_eq_true rfl, Nat.le_of_ble_eq_true rfl⟩ (As := [.ref h.2.1]) (rest := []) rfl rfl (Nat.le_of_ble_eq_true rfl) dX1_isGap_11 rXV (zXV ?_)
    obtain rfl := Option.some.inj hT
    exact a_out (by decide) (he _ _ ⟨rfl, rfl⟩)
theorem kv_X1_182 : aKV "MazeBonds" 182 1 yX2_isGardener cX2_isGardener 2 (Option.some Jvm.ClassFile.FieldType.boolean) 1 := ⟨⟨TX2, 7, rfl⟩, Or.inl q1035, q719, q720, q73, q721, ⟨by decide +kernel, by decide +kernel, by decide +kernel⟩⟩
theorem fl_X1_186_1 : aFL "MazeBonds" 186 1 1 := ⟨RX2, TX2, 7, "MazeBonds$Core", rfl, in_X2, by decide, Or.inl rfl, Or.inr ⟨_, q160⟩⟩
theorem kv_X1_189 : aKV "MazeBonds" 189 8 yJ2_get cJ2_get 2 (Option.some (Jvm.ClassFile.FieldType.object "java/lang/Object")) 1 := ⟨⟨TJ2, 3, rfl⟩, Or.inl q1036, q724, q725, q76, q726, ⟨by decide +kernel, by decide +kernel, by decide +kernel⟩⟩
abbrev M_X1_getGardener : aM := (yX1_getGardener.cls, cX1_getGardener, 2, (Option.some (Jvm.ClassFile.FieldType.object "MazeBonds$Gardener")), [], yX1_getGardener.name)
def t_X1_getGardener (Z : aZ) (h : aH) (o : Nat) (x0 : Int32) : Option ((Nat ⊕ aXX) × aH) :=
  (gA 0 0 h o).bind fun a2 =>
  if isC 1 h a2 = true then
  (t_X2_isGardener Z h a2 x0).bind fun r6 =>
  (t_X1_requireIndex Z r6.2 r6.1).bind fun r10 =>
  (match r10 with
  | (.inl y12, h13) =>
    (gA 0 0 h13 o).bind fun a15 =>
    (gA 1 1 h13 a15).bind fun a17 =>
    if isC 8 h13 a17 = true then
    (t_J2_get Z h13 a17 x0).bind fun r21 =>
    if isC 3 r21.2 r21.1 = true then
    some (.inl r21.1, r21.2)
    else none
    else none
  | (.inr y12, h13) =>
    some (.inr y12, h13)
  )
  else none
theorem k_X1_getGardener {G : aG} {h : aH} {o : Nat} {x0 : Int32} {e : ((Nat ⊕ aXX) × aH)} (hT : t_X1_getGardener (gZ G) h o x0 = some e) : aMet G yX1_getGardener (ws_ yX1_getGardener cX1_getGardener 2 (Option.some (Jvm.ClassFile.FieldType.object "MazeBonds$Gardener"))) 10 220 [.ref o, .int x0] h (aXA e.1 e.2) := by
  refine aMet.of (lv := [some (.ref o), some (.int x0)]) (by decide) (Nat.le_of_ble_eq_true rfl) 0 rfl ?_
  have he : aTo (aXA e.1 e.2) (aXA e.1 e.2) := aTo.rf
  unfold t_X1_getGardener at hT
  refine a_aload_n dX1_getGardener_0 rfl ?_
  obtain ⟨a2, e1, hT⟩ := obnd hT
  refine a_gA fl_X1_49_0 e1 dX1_getGardener_1 ?_
  refine a_iload_n dX1_getGardener_4 rfl ?_
  obtain ⟨g5, hT⟩ := oifg hT
  obtain ⟨r6, e7, hT⟩ := obnd hT
  refine a_callV kv_X1_182 g5 (k_X2_isGardener e7) ⟨Nat.le_of_ble_eq_true rfl, Nat.le_of_ble_eq_true rfl⟩ (As := [.int x0]) (rest := []) rfl rfl (Nat.le_of_ble_eq_true rfl) dX1_getGardener_5 (kI ?_) xI
  obtain ⟨⟨y12 | y12, h13⟩, e11, hT⟩ := obnd hT
  · dsimp only at hT
    refine a_callS ks_X1_139 (k_X1_requireIndex e11) ⟨Nat.le_of_ble_eq_true rfl, Nat.le_of_ble_eq_true rfl⟩ (As := [.int r6.1]) (rest := []) rfl rfl (Nat.le_of_ble_eq_true rfl) dX1_getGardener_8 (kXV ?_) yXV
    refine a_aload_n dX1_getGardener_11 rfl ?_
    obtain ⟨a15, e14, hT⟩ := obnd hT
    refine a_gA fl_X1_49_0 e14 dX1_getGardener_12 ?_
    obtain ⟨a17, e16, hT⟩ := obnd hT
    refine a_gA fl_X1_186_1 e16 dX1_getGardener_15 ?_
    refine a_iload_n dX1_getGardener_18 rfl ?_
    obtain ⟨g20, hT⟩ := oifg hT
    obtain ⟨r21, e22, hT⟩ := obnd hT
    refine a_callV kv_X1_189 g20 (k_J2_get e22) ⟨Nat.le_of_ble_eq_true rfl, Nat.le_of_ble_eq_true rfl⟩ (As := [.int x0]) (rest := []) rfl rfl (Nat.le_of_ble_eq_true rfl) dX1_getGardener_19 (kA ?_) xA
    obtain ⟨g23, hT⟩ := oifg hT
    refine a_cast (ci := 3) rfl q1037 g23 dX1_getGardener_22 ?_
    obtain rfl := Option.some.inj hT
    exact a_aret rfl (Or.inl ⟨_, rfl⟩) dX1_getGardener_25 (he _ _ ⟨rfl, rfl⟩)
  · dsimp only at hT
    refine a_callS ks_X1_139 (k_X1_requireIndex e11) ⟨Nat.le_of_ble_eq_true rfl, Nat.le_of_ble_eq_true rfl⟩ (As := [.int r6.1]) (rest := []) rfl rfl (Nat.le_of_ble_eq_true rfl) dX1_getGardener_8 rXV (zXV ?_)
    obtain rfl := Option.some.inj hT
    exact a_out (by decide) (he _ _ ⟨rfl, rfl⟩)
theorem kv_X1_194 : aKV "MazeBonds" 194 1 yX2_isVisitor cX2_isVisitor 2 (Option.some Jvm.ClassFile.FieldType.boolean) 1 := ⟨⟨TX2, 7, rfl⟩, Or.inl q1072, q813, q814, q73, q815, ⟨by decide +kernel, by decide +kernel, by decide +kernel⟩⟩
theorem fl_X1_197_1 : aFL "MazeBonds" 197 1 2 := ⟨RX2, TX2, 7, "MazeBonds$Core", rfl, in_X2, by decide, Or.inl rfl, Or.inr ⟨_, q162⟩⟩
abbrev M_X1_getVisitor : aM := (yX1_getVisitor.cls, cX1_getVisitor, 2, (Option.some (Jvm.ClassFile.FieldType.object "MazeBonds$Visitor")), [], yX1_getVisitor.name)
def t_X1_getVisitor (Z : aZ) (h : aH) (o : Nat) (x0 : Int32) : Option ((Nat ⊕ aXX) × aH) :=
  (gA 0 0 h o).bind fun a2 =>
  if isC 1 h a2 = true then
  (t_X2_isVisitor Z h a2 x0).bind fun r6 =>
  (t_X1_requireIndex Z r6.2 r6.1).bind fun r10 =>
  (match r10 with
  | (.inl y12, h13) =>
    (gA 0 0 h13 o).bind fun a15 =>
    (gA 1 2 h13 a15).bind fun a17 =>
    if isC 8 h13 a17 = true then
    (t_J2_get Z h13 a17 x0).bind fun r21 =>
    if isC 4 r21.2 r21.1 = true then
    some (.inl r21.1, r21.2)
    else none
    else none
  | (.inr y12, h13) =>
    some (.inr y12, h13)
  )
  else none
theorem k_X1_getVisitor {G : aG} {h : aH} {o : Nat} {x0 : Int32} {e : ((Nat ⊕ aXX) × aH)} (hT : t_X1_getVisitor (gZ G) h o x0 = some e) : aMet G yX1_getVisitor (ws_ yX1_getVisitor cX1_getVisitor 2 (Option.some (Jvm.ClassFile.FieldType.object "MazeBonds$Visitor"))) 10 220 [.ref o, .int x0] h (aXA e.1 e.2) := by
  refine aMet.of (lv := [some (.ref o), some (.int x0)]) (by decide) (Nat.le_of_ble_eq_true rfl) 0 rfl ?_
  have he : aTo (aXA e.1 e.2) (aXA e.1 e.2) := aTo.rf
  unfold t_X1_getVisitor at hT
  refine a_aload_n dX1_getVisitor_0 rfl ?_
  obtain ⟨a2, e1, hT⟩ := obnd hT
  refine a_gA fl_X1_49_0 e1 dX1_getVisitor_1 ?_
  refine a_iload_n dX1_getVisitor_4 rfl ?_
  obtain ⟨g5, hT⟩ := oifg hT
  obtain ⟨r6, e7, hT⟩ := obnd hT
  refine a_callV kv_X1_194 g5 (k_X2_isVisitor e7) ⟨Nat.le_of_ble_eq_true rfl, Nat.le_of_ble_eq_true rfl⟩ (As := [.int x0]) (rest := []) rfl rfl (Nat.le_of_ble_eq_true rfl) dX1_getVisitor_5 (kI ?_) xI
  obtain ⟨⟨y12 | y12, h13⟩, e11, hT⟩ := obnd hT
  · dsimp only at hT
    refine a_callS ks_X1_139 (k_X1_requireIndex e11) ⟨Nat.le_of_ble_eq_true rfl, Nat.le_of_ble_eq_true rfl⟩ (As := [.int r6.1]) (rest := []) rfl rfl (Nat.le_of_ble_eq_true rfl) dX1_getVisitor_8 (kXV ?_) yXV
    refine a_aload_n dX1_getVisitor_11 rfl ?_
    obtain ⟨a15, e14, hT⟩ := obnd hT
    refine a_gA fl_X1_49_0 e14 dX1_getVisitor_12 ?_
    obtain ⟨a17, e16, hT⟩ := obnd hT
    refine a_gA fl_X1_197_1 e16 dX1_getVisitor_15 ?_
    refine a_iload_n dX1_getVisitor_18 rfl ?_
    obtain ⟨g20, hT⟩ := oifg hT
    obtain ⟨r21, e22, hT⟩ := obnd hT
    refine a_callV kv_X1_189 g20 (k_J2_get e22) ⟨Nat.le_of_ble_eq_true rfl, Nat.le_of_ble_eq_true rfl⟩ (As := [.int x0]) (rest := []) rfl rfl (Nat.le_of_ble_eq_true rfl) dX1_getVisitor_19 (kA ?_) xA
    obtain ⟨g23, hT⟩ := oifg hT
    refine a_cast (ci := 4) rfl q1073 g23 dX1_getVisitor_22 ?_
    obtain rfl := Option.some.inj hT
    exact a_aret rfl (Or.inl ⟨_, rfl⟩) dX1_getVisitor_25 (he _ _ ⟨rfl, rfl⟩)
  · dsimp only at hT
    refine a_callS ks_X1_139 (k_X1_requireIndex e11) ⟨Nat.le_of_ble_eq_true rfl, Nat.le_of_ble_eq_true rfl⟩ (As := [.int r6.1]) (rest := []) rfl rfl (Nat.le_of_ble_eq_true rfl) dX1_getVisitor_8 rXV (zXV ?_)
    obtain rfl := Option.some.inj hT
    exact a_out (by decide) (he _ _ ⟨rfl, rfl⟩)
theorem ku_X1_228_4 : aKU "MazeBonds" 228 4 ⟨"MazeBonds$Visitor", "coins", "()I"⟩ yX4_coins cX4_coins 1 (Option.some Jvm.ClassFile.FieldType.int) 0 := ⟨RX6, TX6, 7, rfl, rfl, q1074, q496, q497, q393, q87, q394, ⟨by decide +kernel, by decide +kernel, by decide +kernel⟩⟩
theorem fl_X1_232_4 : aFL "MazeBonds" 232 4 3 := ⟨RX6, TX6, 7, "MazeBonds$Visitor", rfl, in_X6, by decide, Or.inl rfl, Or.inr ⟨_, q509⟩⟩
theorem kv_X1_237 : aKV "MazeBonds" 237 4 yX6_lost cX6_lost 1 (Option.some Jvm.ClassFile.FieldType.int) 0 := ⟨⟨TX6, 7, rfl⟩, Or.inl q1075, q1076, q1077, q93, q1078, ⟨by decide +kernel, by decide +kernel, by decide +kernel⟩⟩
theorem fl_X1_242_4 : aFL "MazeBonds" 242 4 5 := ⟨RX6, TX6, 7, "MazeBonds$Visitor", rfl, in_X6, by decide, Or.inl rfl, Or.inr ⟨_, q515⟩⟩
abbrev M_X1_measure : aM := (yX1_measure.cls, cX1_measure, 2, (Option.some Jvm.ClassFile.FieldType.int), [], yX1_measure.name)
def t_X1_measure (Z : aZ) (h : aH) (x0 : Int32) (x1 : Nat) : Option (Int32 × aH) :=
  if x0 = 0 then
    if isC 4 h x1 = true then
    (t_X4_coins_4 Z h x1).bind fun r5 =>
    some (r5.1, r5.2)
    else none
  else
    if x0 = 1 then
      (gI 4 3 h x1).bind fun z9 =>
      some (z9, h)
    else
      if x0 = 2 then
        if isC 4 h x1 = true then
        (t_X6_lost Z h x1).bind fun r14 =>
        some (r14.1, r14.2)
        else none
      else
        (gI 4 5 h x1).bind fun z17 =>
        some (z17, h)
theorem k_X1_measure {G : aG} {h : aH} {x0 : Int32} {x1 : Nat} {e : (Int32 × aH)} (hT : t_X1_measure (gZ G) h x0 x1 = some e) : aMet G yX1_measure (ws_ yX1_measure cX1_measure 2 (Option.some Jvm.ClassFile.FieldType.int)) 3 81 [.int x0, .ref x1] h (aEI e.1 e.2) := by
  refine aMet.of (lv := [some (.int x0), some (.ref x1)]) (by decide) (Nat.le_of_ble_eq_true rfl) 0 rfl ?_
  have he : aTo (aEI e.1 e.2) (aEI e.1 e.2) := aTo.rf
  unfold t_X1_measure at hT
  refine a_iload_n dX1_measure_0 rfl ?_
  by_cases c1 : x0 = 0
  · have hT := oifp c1 hT
    refine a_tswIn 28 dX1_measure_1 (by rw [c1]; decide) (by rw [c1]; decide) (off := 27) (by rw [c1]; rfl) rfl ?_
    refine a_aload_n dX1_measure_28 rfl ?_
    obtain ⟨g4, hT⟩ := oifg hT
    obtain ⟨r5, e6, hT⟩ := obnd hT
    refine a_callU ku_X1_228_4 g4 (k_X4_coins_4 e6) ⟨Nat.le_of_ble_eq_true rfl, Nat.le_of_ble_eq_true rfl⟩ (As := []) (rest := []) rfl rfl (Nat.le_of_ble_eq_true rfl) dX1_measure_29 (kI ?_) xI
    obtain rfl := Option.some.inj hT
    exact a_iret rfl rfl dX1_measure_32 (he _ _ ⟨rfl, rfl⟩)
  · have hT := oifn c1 hT
    by_cases c7 : x0 = 1
    · have hT := oifp c7 hT
      refine a_tswIn 33 dX1_measure_1 (by rw [c7]; decide) (by rw [c7]; decide) (off := 32) (by rw [c7]; rfl) rfl ?_
      refine a_aload_n dX1_measure_33 rfl ?_
      obtain ⟨z9, e8, hT⟩ := obnd hT
      refine a_gI fl_X1_232_4 e8 dX1_measure_34 ?_
      obtain rfl := Option.some.inj hT
      exact a_iret rfl rfl dX1_measure_37 (he _ _ ⟨rfl, rfl⟩)
    · have hT := oifn c7 hT
      by_cases c10 : x0 = 2
      · have hT := oifp c10 hT
        refine a_tswIn 38 dX1_measure_1 (by rw [c10]; decide) (by rw [c10]; decide) (off := 37) (by rw [c10]; rfl) rfl ?_
        refine a_aload_n dX1_measure_38 rfl ?_
        obtain ⟨g13, hT⟩ := oifg hT
        obtain ⟨r14, e15, hT⟩ := obnd hT
        refine a_callV kv_X1_237 g13 (k_X6_lost e15) ⟨Nat.le_of_ble_eq_true rfl, Nat.le_of_ble_eq_true rfl⟩ (As := []) (rest := []) rfl rfl (Nat.le_of_ble_eq_true rfl) dX1_measure_39 (kI ?_) xI
        obtain rfl := Option.some.inj hT
        exact a_iret rfl rfl dX1_measure_42 (he _ _ ⟨rfl, rfl⟩)
      · have hT := oifn c10 hT
        refine aTsw 43 dX1_measure_1 rfl (cs := [0, 1, 2]) (by decide +kernel) (by simp only [List.mem_cons, List.not_mem_nil, or_false]; rintro z9 (rfl | rfl | rfl) <;> assumption) ?_
        refine a_aload_n dX1_measure_43 rfl ?_
        obtain ⟨z17, e16, hT⟩ := obnd hT
        refine a_gI fl_X1_242_4 e16 dX1_measure_44 ?_
        obtain rfl := Option.some.inj hT
        exact a_iret rfl rfl dX1_measure_47 (he _ _ ⟨rfl, rfl⟩)
theorem fl_X1_268_0 : aFL "MazeBonds" 268 0 5 := ⟨RX1, TX1, 8, "MazeBonds", rfl, in_X1, by decide, Or.inl rfl, Or.inl q229⟩
theorem fl_X1_60_0 : aFL "MazeBonds" 60 0 4 := ⟨RX1, TX1, 8, "MazeBonds", rfl, in_X1, by decide, Or.inl rfl, Or.inl q227⟩
theorem fp_X1_268_0 (nm9 : String) : aFP "MazeBonds" 268 0 5 .int nm9 := ⟨RX1, TX1, 8, "MazeBonds", tyX1, rfl, in_X1, by decide, Or.inl rfl, Or.inl q229, tyX1_ok, nmX1, rfl, Or.inl rfl⟩
abbrev M_X1_append : aM := (yX1_append.cls, cX1_append, 2, (Option.some Jvm.ClassFile.FieldType.int), [], yX1_append.name)
def t_X1_append_l14 (Z : aZ) (h : aH) (v0 : Nat) (v1 : Int32) (u0 : Int32) : Option ((Int32 ⊕ aXX) × aH) :=
  (t_X1_requireState Z h u0).bind fun r6 =>
  (match r6 with
  | (.inl y8, h9) =>
    (gA 0 4 h9 v0).bind fun a11 =>
    (gI 0 5 h9 v0).bind fun z13 =>
    (stC Z h9 a11 z13 v1).bind fun h15 =>
    (gI 0 5 h15 v0).bind fun z17 =>
    (pF 0 5 Z h15 v0 (.int (z17 + 1))).bind fun h19 =>
    (gI 0 5 h19 v0).bind fun z21 =>
    some (.inl z21, h19)
  | (.inr y8, h9) =>
    some (.inr y8, h9)
  )
theorem k_X1_append_l14 {G : aG} {h0 : aH} {K : aRes → aH → Prop} {h : aH} {v0 : Nat} {v1 : Int32} {u0 : Int32} {e : ((Int32 ⊕ aXX) × aH)} (hT : t_X1_append_l14 (gZ G) h v0 v1 u0 = some e) (he : (fun e => aTo (aXI e.1 e.2) K) e) : aW G M_X1_append 10 220 h0 K h 14 [some (.ref v0), some (.int v1)] [.int u0] := by
  unfold t_X1_append_l14 at hT
  obtain ⟨⟨y8 | y8, h9⟩, e7, hT⟩ := obnd hT
  · dsimp only at hT
    refine a_callS ks_X1_271 (k_X1_requireState e7) ⟨Nat.le_of_ble_eq_true rfl, Nat.le_of_ble_eq_true rfl⟩ (As := [.int u0]) (rest := []) rfl rfl (Nat.le_of_ble_eq_true rfl) dX1_append_14 (kXV ?_) yXV
    refine a_aload_n dX1_append_17 rfl ?_
    obtain ⟨a11, e10, hT⟩ := obnd hT
    refine a_gA fl_X1_60_0 e10 dX1_append_18 ?_
    refine a_aload_n dX1_append_21 rfl ?_
    obtain ⟨z13, e12, hT⟩ := obnd hT
    refine a_gI fl_X1_268_0 e12 dX1_append_22 ?_
    refine a_iload_n dX1_append_25 rfl ?_
    obtain ⟨h15, e14, hT⟩ := obnd hT
    refine a_stC e14 dX1_append_26 ?_
    refine a_aload_n dX1_append_27 rfl ?_
    refine a_dup dX1_append_28 rfl ?_
    obtain ⟨z17, e16, hT⟩ := obnd hT
    refine a_gI fl_X1_268_0 e16 dX1_append_29 ?_
    refine a_iconst (v := 1) dX1_append_32 (by decide) ?_
    refine a_iadd dX1_append_33 ?_
    obtain ⟨h19, e18, hT⟩ := obnd hT
    refine a_put (fp_X1_268_0 _) ⟨rfl, rfl⟩ e18 dX1_append_34 ?_
    refine a_aload_n dX1_append_37 rfl ?_
    obtain ⟨z21, e20, hT⟩ := obnd hT
    refine a_gI fl_X1_268_0 e20 dX1_append_38 ?_
    obtain rfl := Option.some.inj hT
    exact a_iret rfl rfl dX1_append_41 (he _ _ ⟨rfl, rfl⟩)
  · dsimp only at hT
    refine a_callS ks_X1_271 (k_X1_requireState e7) ⟨Nat.le_of_ble_eq_true rfl, Nat.le_of_ble_eq_true rfl⟩ (As := [.int u0]) (rest := []) rfl rfl (Nat.le_of_ble_eq_true rfl) dX1_append_14 rXV (zXV ?_)
    obtain rfl := Option.some.inj hT
    exact a_out (by decide) (he _ _ ⟨rfl, rfl⟩)
def t_X1_append (Z : aZ) (h : aH) (o : Nat) (x0 : Int32) : Option ((Int32 ⊕ aXX) × aH) :=
  (gI 0 5 h o).bind fun z2 =>
  if 60 ≤ z2 then
    t_X1_append_l14 Z h o x0 0
  else
    t_X1_append_l14 Z h o x0 1
theorem k_X1_append {G : aG} {h : aH} {o : Nat} {x0 : Int32} {e : ((Int32 ⊕ aXX) × aH)} (hT : t_X1_append (gZ G) h o x0 = some e) : aMet G yX1_append (ws_ yX1_append cX1_append 2 (Option.some Jvm.ClassFile.FieldType.int)) 10 220 [.ref o, .int x0] h (aXI e.1 e.2) := by
  refine aMet.of (lv := [some (.ref o), some (.int x0)]) (by decide) (Nat.le_of_ble_eq_true rfl) 0 rfl ?_
  have he : aTo (aXI e.1 e.2) (aXI e.1 e.2) := aTo.rf
  unfold t_X1_append at hT
  refine a_aload_n dX1_append_0 rfl ?_
  obtain ⟨z2, e1, hT⟩ := obnd hT
  refine a_gI fl_X1_268_0 e1 dX1_append_1 ?_
  refine a_bipush (v := 60) dX1_append_4 (by decide) ?_
  refine a_icmp_ge 13 dX1_append_6 rfl (fun c3 => ?_) (fun c3 => ?_)
  · have hT := oifp c3 hT
    refine a_iconst (v := 0) dX1_append_13 (by decide) ?_
    exact k_X1_append_l14 hT he
  · have hT := oifn c3 hT
    refine a_iconst (v := 1) dX1_append_9 (by decide) ?_
    refine a_goto 14 dX1_append_10 rfl ?_
    exact k_X1_append_l14 hT he
theorem kv_X1_224 : aKV "MazeBonds" 224 0 yX1_getVisitor cX1_getVisitor 2 (Option.some (Jvm.ClassFile.FieldType.object "MazeBonds$Visitor")) 1 := ⟨⟨TX1, 8, rfl⟩, Or.inl q1068, q1070, qs16, q72, q1071, ⟨by decide +kernel, by decide +kernel, by decide +kernel⟩⟩
theorem kv_X1_297 : aKV "MazeBonds" 297 10 yJ4_setLength cJ4_setLength 2 (Option.none : Option Jvm.ClassFile.FieldType) 1 := ⟨⟨TJ4, 4, rfl⟩, Or.inl q1345, q1346, q1347, q78, q1348, ⟨by decide +kernel, by decide +kernel, by decide +kernel⟩⟩
theorem kv_X1_249 : aKV "MazeBonds" 249 4 yX6_isOut cX6_isOut 1 (Option.some Jvm.ClassFile.FieldType.boolean) 0 := ⟨⟨TX6, 7, rfl⟩, Or.inl q1079, q751, q752, q93, q753, ⟨by decide +kernel, by decide +kernel, by decide +kernel⟩⟩
theorem fl_X1_229_4 : aFL "MazeBonds" 229 4 2 := ⟨RX6, TX6, 7, "MazeBonds$Visitor", rfl, in_X6, by decide, Or.inl rfl, Or.inr ⟨_, q506⟩⟩
theorem kv_X1_307 : aKV "MazeBonds" 307 10 yJ4_append_2 cJ4_append_2 2 (Option.some (Jvm.ClassFile.FieldType.object "java/lang/StringBuilder")) 1 := ⟨⟨TJ4, 4, rfl⟩, Or.inl q1559, q1436, q1437, q78, q1438, ⟨by decide +kernel, by decide +kernel, by decide +kernel⟩⟩
theorem kv_X1_310 : aKV "MazeBonds" 310 10 yJ4_append_3 cJ4_append_3 2 (Option.some (Jvm.ClassFile.FieldType.object "java/lang/StringBuilder")) 1 := ⟨⟨TJ4, 4, rfl⟩, Or.inl q1560, q1561, q1562, q78, q1563, ⟨by decide +kernel, by decide +kernel, by decide +kernel⟩⟩
theorem kv_X1_252 : aKV "MazeBonds" 252 4 yX6_hasBond cX6_hasBond 1 (Option.some Jvm.ClassFile.FieldType.boolean) 0 := ⟨⟨TX6, 7, rfl⟩, Or.inl q1087, q759, q760, q93, q761, ⟨by decide +kernel, by decide +kernel, by decide +kernel⟩⟩
theorem fl_X1_240_4 : aFL "MazeBonds" 240 4 4 := ⟨RX6, TX6, 7, "MazeBonds$Visitor", rfl, in_X6, by decide, Or.inl rfl, Or.inr ⟨_, q512⟩⟩
theorem fl_X1_245_4 : aFL "MazeBonds" 245 4 6 := ⟨RX6, TX6, 7, "MazeBonds$Visitor", rfl, in_X6, by decide, Or.inl rfl, Or.inr ⟨_, q518⟩⟩
theorem kv_X1_303 : aKV "MazeBonds" 303 10 yJ4_append cJ4_append 2 (Option.some (Jvm.ClassFile.FieldType.object "java/lang/StringBuilder")) 1 := ⟨⟨TJ4, 4, rfl⟩, Or.inl q1558, q1361, q1362, q78, q1363, ⟨by decide +kernel, by decide +kernel, by decide +kernel⟩⟩
abbrev M_X1_line : aM := (yX1_line.cls, cX1_line, 3, (Option.some Jvm.ClassFile.FieldType.int), [], yX1_line.name)
def t_X1_line_l119 (Z : aZ) (h : aH) (v0 : Nat) : Option ((Int32 ⊕ aXX) × aH) :=
  (gA 0 7 h v0).bind fun a51 =>
  if isC 10 h a51 = true then
  (t_J4_length Z h a51).bind fun r55 =>
  some (.inl r55.1, r55.2)
  else none
theorem k_X1_line_l119 {G : aG} {h0 : aH} {K : aRes → aH → Prop} {h : aH} {v0 : Nat} {e : ((Int32 ⊕ aXX) × aH)} (hT : t_X1_line_l119 (gZ G) h v0 = some e) (he : (fun e => aTo (aXI e.1 e.2) K) e) : aW G M_X1_line 11 241 h0 K h 119 [some (.ref v0), none, none] [] := by
  unfold t_X1_line_l119 at hT
  refine a_aload_n dX1_line_119 rfl ?_
  obtain ⟨a51, e50, hT⟩ := obnd hT
  refine a_gA fl_X1_71_0 e50 dX1_line_120 ?_
  obtain ⟨g54, hT⟩ := oifg hT
  obtain ⟨r55, e56, hT⟩ := obnd hT
  refine a_callV kv_X1_317 g54 (k_J4_length e56) ⟨Nat.le_of_ble_eq_true rfl, Nat.le_of_ble_eq_true rfl⟩ (As := []) (rest := []) rfl rfl (Nat.le_of_ble_eq_true rfl) dX1_line_123 (kI ?_) xI
  obtain rfl := Option.some.inj hT
  exact a_iret rfl rfl dX1_line_126 (he _ _ ⟨rfl, rfl⟩)
def t_X1_line_l115 (Z : aZ) (h : aH) (v0 : Nat) (u0 : Nat) (u1 : Nat) : Option ((Int32 ⊕ aXX) × aH) :=
  if isC 10 h u1 = true then
  (t_J4_append Z h u1 u0).bind fun r89 =>
  t_X1_line_l119 Z r89.2 v0
  else none
theorem k_X1_line_l115 {G : aG} {h0 : aH} {K : aRes → aH → Prop} {h : aH} {v0 : Nat} {u0 : Nat} {u1 : Nat} {e : ((Int32 ⊕ aXX) × aH)} (hT : t_X1_line_l115 (gZ G) h v0 u0 u1 = some e) (he : (fun e => aTo (aXI e.1 e.2) K) e) : aW G M_X1_line 11 241 h0 K h 115 [some (.ref v0), none, none] [.ref u0, .ref u1] := by
  unfold t_X1_line_l115 at hT
  obtain ⟨g88, hT⟩ := oifg hT
  obtain ⟨r89, e90, hT⟩ := obnd hT
  refine a_callV kv_X1_303 g88 (k_J4_append e90) ⟨Nat.le_of_ble_eq_true rfl, Nat.le_of_ble_eq_true rfl⟩ (As := [.ref u0]) (rest := []) rfl rfl (Nat.le_of_ble_eq_true rfl) dX1_line_115 (kA ?_) xA
  refine a_pop dX1_line_118 rfl ?_
  exact k_X1_line_l119 hT he
def t_X1_line_l47 (Z : aZ) (h : aH) (v0 : Nat) (v2 : Nat) : Option ((Int32 ⊕ aXX) × aH) :=
  (gA 0 7 h v0).bind fun a31 =>
  if isC 10 h a31 = true then
  (t_J4_append_3 Z h a31 43).bind fun r35 =>
  (gI 4 3 r35.2 v2).bind fun z38 =>
  if isC 10 r35.2 r35.1 = true then
  (t_J4_append_2 Z r35.2 r35.1 z38).bind fun r42 =>
  if isC 4 r42.2 v2 = true then
  (t_X6_hasBond Z r42.2 v2).bind fun r47 =>
  if r47.1 = 0 then
    t_X1_line_l119 Z r47.2 v0
  else
    (gA 0 7 r47.2 v0).bind fun a58 =>
    if isC 10 r47.2 a58 = true then
    (t_J4_append_3 Z r47.2 a58 35).bind fun r62 =>
    (gI 4 4 r62.2 v2).bind fun z65 =>
    if isC 10 r62.2 r62.1 = true then
    (t_J4_append_2 Z r62.2 r62.1 z65).bind fun r69 =>
    if isC 10 r69.2 r69.1 = true then
    (t_J4_append_3 Z r69.2 r69.1 42).bind fun r74 =>
    (gI 4 5 r74.2 v2).bind fun z77 =>
    if isC 10 r74.2 r74.1 = true then
    (t_J4_append_2 Z r74.2 r74.1 z77).bind fun r81 =>
    (gI 4 6 r81.2 v2).bind fun z84 =>
    if z84 = 0 then
      t_X1_line_l115 Z r81.2 v0 (znm Z 5) r81.1
    else
      t_X1_line_l115 Z r81.2 v0 (znm Z 4) r81.1
    else none
    else none
    else none
    else none
  else none
  else none
  else none
theorem k_X1_line_l47 {G : aG} {h0 : aH} {K : aRes → aH → Prop} {h : aH} {v0 : Nat} {v2 : Nat} {e : ((Int32 ⊕ aXX) × aH)} (hT : t_X1_line_l47 (gZ G) h v0 v2 = some e) (he : (fun e => aTo (aXI e.1 e.2) K) e) : aW G M_X1_line 11 241 h0 K h 47 [some (.ref v0), none, some (.ref v2)] [] := by
  unfold t_X1_line_l47 at hT
  refine a_aload_n dX1_line_47 rfl ?_
  obtain ⟨a31, e30, hT⟩ := obnd hT
  refine a_gA fl_X1_71_0 e30 dX1_line_48 ?_
  refine a_bipush (v := 43) dX1_line_51 (by decide) ?_
  obtain ⟨g34, hT⟩ := oifg hT
  obtain ⟨r35, e36, hT⟩ := obnd hT
  refine a_callV kv_X1_310 g34 (k_J4_append_3 e36) ⟨Nat.le_of_ble_eq_true rfl, Nat.le_of_ble_eq_true rfl⟩ (As := [.int 43]) (rest := []) rfl rfl (Nat.le_of_ble_eq_true rfl) dX1_line_53 (kA ?_) xA
  refine a_aload_n dX1_line_56 rfl ?_
  obtain ⟨z38, e37, hT⟩ := obnd hT
  refine a_gI fl_X1_232_4 e37 dX1_line_57 ?_
  obtain ⟨g41, hT⟩ := oifg hT
  obtain ⟨r42, e43, hT⟩ := obnd hT
  refine a_callV kv_X1_307 g41 (k_J4_append_2 e43) ⟨Nat.le_of_ble_eq_true rfl, Nat.le_of_ble_eq_true rfl⟩ (As := [.int z38]) (rest := []) rfl rfl (Nat.le_of_ble_eq_true rfl) dX1_line_60 (kA ?_) xA
  refine a_pop dX1_line_63 rfl ?_
  refine a_aload_n dX1_line_64 rfl ?_
  obtain ⟨g46, hT⟩ := oifg hT
  obtain ⟨r47, e48, hT⟩ := obnd hT
  refine a_callV kv_X1_252 g46 (k_X6_hasBond e48) ⟨Nat.le_of_ble_eq_true rfl, Nat.le_of_ble_eq_true rfl⟩ (As := []) (rest := []) rfl rfl (Nat.le_of_ble_eq_true rfl) dX1_line_65 (kI ?_) xI
  refine a_if_eq 119 dX1_line_68 rfl (fun c49 => ?_) (fun c49 => ?_)
  · have hT := oifp c49 hT
    refine a_mask [true, true, false] ?_
    exact k_X1_line_l119 hT he
  · have hT := oifn c49 hT
    refine a_aload_n dX1_line_71 rfl ?_
    obtain ⟨a58, e57, hT⟩ := obnd hT
    refine a_gA fl_X1_71_0 e57 dX1_line_72 ?_
    refine a_bipush (v := 35) dX1_line_75 (by decide) ?_
    obtain ⟨g61, hT⟩ := oifg hT
    obtain ⟨r62, e63, hT⟩ := obnd hT
    refine a_callV kv_X1_310 g61 (k_J4_append_3 e63) ⟨Nat.le_of_ble_eq_true rfl, Nat.le_of_ble_eq_true rfl⟩ (As := [.int 35]) (rest := []) rfl rfl (Nat.le_of_ble_eq_true rfl) dX1_line_77 (kA ?_) xA
    refine a_aload_n dX1_line_80 rfl ?_
    obtain ⟨z65, e64, hT⟩ := obnd hT
    refine a_gI fl_X1_240_4 e64 dX1_line_81 ?_
    obtain ⟨g68, hT⟩ := oifg hT
    obtain ⟨r69, e70, hT⟩ := obnd hT
    refine a_callV kv_X1_307 g68 (k_J4_append_2 e70) ⟨Nat.le_of_ble_eq_true rfl, Nat.le_of_ble_eq_true rfl⟩ (As := [.int z65]) (rest := []) rfl rfl (Nat.le_of_ble_eq_true rfl) dX1_line_84 (kA ?_) xA
    refine a_bipush (v := 42) dX1_line_87 (by decide) ?_
    obtain ⟨g73, hT⟩ := oifg hT
    obtain ⟨r74, e75, hT⟩ := obnd hT
    refine a_callV kv_X1_310 g73 (k_J4_append_3 e75) ⟨Nat.le_of_ble_eq_true rfl, Nat.le_of_ble_eq_true rfl⟩ (As := [.int 42]) (rest := []) rfl rfl (Nat.le_of_ble_eq_true rfl) dX1_line_89 (kA ?_) xA
    refine a_aload_n dX1_line_92 rfl ?_
    obtain ⟨z77, e76, hT⟩ := obnd hT
    refine a_gI fl_X1_242_4 e76 dX1_line_93 ?_
    obtain ⟨g80, hT⟩ := oifg hT
    obtain ⟨r81, e82, hT⟩ := obnd hT
    refine a_callV kv_X1_307 g80 (k_J4_append_2 e82) ⟨Nat.le_of_ble_eq_true rfl, Nat.le_of_ble_eq_true rfl⟩ (As := [.int z77]) (rest := []) rfl rfl (Nat.le_of_ble_eq_true rfl) dX1_line_96 (kA ?_) xA
    refine a_aload_n dX1_line_99 rfl ?_
    obtain ⟨z84, e83, hT⟩ := obnd hT
    refine a_gI fl_X1_245_4 e83 dX1_line_100 ?_
    refine a_if_eq 112 dX1_line_103 rfl (fun c85 => ?_) (fun c85 => ?_)
    · have hT := oifp c85 hT
      refine a_ldcSw (k := 2) rfl dX1_line_112 ?_
      refine a_mask [true, true, false] ?_
      exact k_X1_line_l115 hT he
    · have hT := oifn c85 hT
      refine a_ldcSw (k := 1) rfl dX1_line_106 ?_
      refine a_goto 115 dX1_line_109 rfl ?_
      refine a_mask [true, true, false] ?_
      exact k_X1_line_l115 hT he
def t_X1_line (Z : aZ) (h : aH) (o : Nat) (x0 : Int32) : Option ((Int32 ⊕ aXX) × aH) :=
  if isC 0 h o = true then
  (t_X1_getVisitor Z h o x0).bind fun r4 =>
  (match r4 with
  | (.inl y6, h7) =>
    (gA 0 7 h7 o).bind fun a9 =>
    if isC 10 h7 a9 = true then
    (t_J4_setLength Z h7 a9 0).bind fun r13 =>
    if isC 4 r13.2 y6 = true then
    (t_X6_isOut Z r13.2 y6).bind fun r18 =>
    if r18.1 = 0 then
      (gA 0 7 r18.2 o).bind fun a22 =>
      (gI 4 2 r18.2 y6).bind fun z24 =>
      if isC 10 r18.2 a22 = true then
      (t_J4_append_2 Z r18.2 a22 z24).bind fun r28 =>
      t_X1_line_l47 Z r28.2 o y6
      else none
    else
      (gA 0 7 r18.2 o).bind fun a92 =>
      if isC 10 r18.2 a92 = true then
      (t_J4_append Z r18.2 a92 (znm Z 3)).bind fun r96 =>
      t_X1_line_l47 Z r96.2 o y6
      else none
    else none
    else none
  | (.inr y6, h7) =>
    some (.inr y6, h7)
  )
  else none
theorem k_X1_line {G : aG} {h : aH} {o : Nat} {x0 : Int32} {e : ((Int32 ⊕ aXX) × aH)} (hT : t_X1_line (gZ G) h o x0 = some e) : aMet G yX1_line (ws_ yX1_line cX1_line 3 (Option.some Jvm.ClassFile.FieldType.int)) 11 241 [.ref o, .int x0] h (aXI e.1 e.2) := by
  refine aMet.of (lv := [some (.ref o), some (.int x0), none]) (by decide) (Nat.le_of_ble_eq_true rfl) 1 rfl ?_
  have he : aTo (aXI e.1 e.2) (aXI e.1 e.2) := aTo.rf
  unfold t_X1_line at hT
  refine a_aload_n dX1_line_0 rfl ?_
  refine a_iload_n dX1_line_1 rfl ?_
  obtain ⟨g3, hT⟩ := oifg hT
  obtain ⟨⟨y6 | y6, h7⟩, e5, hT⟩ := obnd hT
  · dsimp only at hT
    refine a_callV kv_X1_224 g3 (k_X1_getVisitor e5) ⟨Nat.le_of_ble_eq_true rfl, Nat.le_of_ble_eq_true rfl⟩ (As := [.int x0]) (rest := []) rfl rfl (Nat.le_of_ble_eq_true rfl) dX1_line_2 (kXA ?_) yXA
    refine a_astore_n (lv' := [some (.ref o), some (.int x0), some (.ref y6)]) dX1_line_5 rfl (by decide) rfl ?_
    refine a_aload_n dX1_line_6 rfl ?_
    obtain ⟨a9, e8, hT⟩ := obnd hT
    refine a_gA fl_X1_71_0 e8 dX1_line_7 ?_
    refine a_iconst (v := 0) dX1_line_10 (by decide) ?_
    obtain ⟨g12, hT⟩ := oifg hT
    obtain ⟨r13, e14, hT⟩ := obnd hT
    refine a_callV kv_X1_297 g12 (k_J4_setLength e14) ⟨Nat.le_of_ble_eq_true rfl, Nat.le_of_ble_eq_true rfl⟩ (As := [.int 0]) (rest := []) rfl rfl (Nat.le_of_ble_eq_true rfl) dX1_line_11 (kV ?_) xV
    refine a_aload_n dX1_line_14 rfl ?_
    obtain ⟨g17, hT⟩ := oifg hT
    obtain ⟨r18, e19, hT⟩ := obnd hT
    refine a_callV kv_X1_249 g17 (k_X6_isOut e19) ⟨Nat.le_of_ble_eq_true rfl, Nat.le_of_ble_eq_true rfl⟩ (As := []) (rest := []) rfl rfl (Nat.le_of_ble_eq_true rfl) dX1_line_15 (kI ?_) xI
    refine a_if_eq 35 dX1_line_18 rfl (fun c20 => ?_) (fun c20 => ?_)
    · have hT := oifp c20 hT
      refine a_aload_n dX1_line_35 rfl ?_
      obtain ⟨a22, e21, hT⟩ := obnd hT
      refine a_gA fl_X1_71_0 e21 dX1_line_36 ?_
      refine a_aload_n dX1_line_39 rfl ?_
      obtain ⟨z24, e23, hT⟩ := obnd hT
      refine a_gI fl_X1_229_4 e23 dX1_line_40 ?_
      obtain ⟨g27, hT⟩ := oifg hT
      obtain ⟨r28, e29, hT⟩ := obnd hT
      refine a_callV kv_X1_307 g27 (k_J4_append_2 e29) ⟨Nat.le_of_ble_eq_true rfl, Nat.le_of_ble_eq_true rfl⟩ (As := [.int z24]) (rest := []) rfl rfl (Nat.le_of_ble_eq_true rfl) dX1_line_43 (kA ?_) xA
      refine a_pop dX1_line_46 rfl ?_
      refine a_mask [true, false, true] ?_
      exact k_X1_line_l47 hT he
    · have hT := oifn c20 hT
      refine a_aload_n dX1_line_21 rfl ?_
      obtain ⟨a92, e91, hT⟩ := obnd hT
      refine a_gA fl_X1_71_0 e91 dX1_line_22 ?_
      refine a_ldcSw (k := 0) rfl dX1_line_25 ?_
      obtain ⟨g95, hT⟩ := oifg hT
      obtain ⟨r96, e97, hT⟩ := obnd hT
      refine a_callV kv_X1_303 g95 (k_J4_append e97) ⟨Nat.le_of_ble_eq_true rfl, Nat.le_of_ble_eq_true rfl⟩ (As := [.ref (znm (gZ G) 3)]) (rest := []) rfl rfl (Nat.le_of_ble_eq_true rfl) dX1_line_28 (kA ?_) xA
      refine a_pop dX1_line_31 rfl ?_
      refine a_goto 47 dX1_line_32 rfl ?_
      refine a_mask [true, false, true] ?_
      exact k_X1_line_l47 hT he
  · dsimp only at hT
    refine a_callV kv_X1_224 g3 (k_X1_getVisitor e5) ⟨Nat.le_of_ble_eq_true rfl, Nat.le_of_ble_eq_true rfl⟩ (As := [.int x0]) (rest := []) rfl rfl (Nat.le_of_ble_eq_true rfl) dX1_line_2 rXA (zXA ?_)
    obtain rfl := Option.some.inj hT
    exact a_out (by decide) (he _ _ ⟨rfl, rfl⟩)
theorem ks_X1_329 : aKS "MazeBonds" 329 yX1_requireSome cX1_requireSome 1 (Option.none : Option Jvm.ClassFile.FieldType) 1 := ⟨Or.inl q1632, q1633, q72, q1634, ⟨by decide +kernel, by decide +kernel, by decide +kernel⟩⟩
theorem kv_X1_332 : aKV "MazeBonds" 332 8 yJ2_iterator cJ2_iterator 1 (Option.some (Jvm.ClassFile.FieldType.object "java/util/Iterator")) 0 := ⟨⟨TJ2, 3, rfl⟩, Or.inl q1640, q266, q267, q76, q268, ⟨by decide +kernel, by decide +kernel, by decide +kernel⟩⟩
theorem kf_X1_336 : aKF "MazeBonds" 336 9 yItHas yJ7_hasNext cJ7_hasNext 1 (Option.some Jvm.ClassFile.FieldType.boolean) 0 := ⟨TJ7, 4, rfl, q1642, q293, q295, q82, q297, fun s h => h.2.2.1, ⟨by decide +kernel, by decide +kernel, by decide +kernel⟩⟩
theorem kf_X1_341 : aKF "MazeBonds" 341 9 yItNext yJ7_next cJ7_next 3 (Option.some (Jvm.ClassFile.FieldType.object "java/lang/Object")) 0 := ⟨TJ7, 4, rfl, q1644, q302, q304, q82, q306, fun s h => h.2.2.2.1, ⟨by decide +kernel, by decide +kernel, by decide +kernel⟩⟩
abbrev M_X1_meanLost : aM := (yX1_meanLost.cls, cX1_meanLost, 4, (Option.some Jvm.ClassFile.FieldType.double), [], yX1_meanLost.name)
def p_X1_meanLost_b26 (G : aG) (h0 : aH) (K : aRes → aH → Prop) (x9 : (Nat × Int32 × Nat × aH)) : Prop := aW G M_X1_meanLost 10 220 h0 K x9.2.2.2 26 [some (.ref x9.1), some (.int x9.2.1), some (.ref x9.2.2.1), none] []
def t_X1_meanLost_l55 (Z : aZ) (h : aH) (v0 : Nat) (v1 : Int32) : Option ((UInt64 ⊕ aXX) × aH) :=
  (gA 0 0 h v0).bind fun a32 =>
  (gA 1 2 h a32).bind fun a34 =>
  if isC 8 h a34 = true then
  (t_J2_size Z h a34).bind fun r38 =>
  if (FP.ddiv (FP.i2d v1) (FP.i2d r38.1)) &&& 0x7fffffffffffffff ≤ 0x7ff0000000000000 then
  some (.inl (FP.ddiv (FP.i2d v1) (FP.i2d r38.1)), r38.2)
  else none
  else none
theorem k_X1_meanLost_l55 {G : aG} {h0 : aH} {K : aRes → aH → Prop} {h : aH} {v0 : Nat} {v1 : Int32} {e : ((UInt64 ⊕ aXX) × aH)} (hT : t_X1_meanLost_l55 (gZ G) h v0 v1 = some e) (he : (fun e => aTo (aXD e.1 e.2) K) e) : aW G M_X1_meanLost 10 220 h0 K h 55 [some (.ref v0), some (.int v1), none, none] [] := by
  unfold t_X1_meanLost_l55 at hT
  refine a_iload_n dX1_meanLost_55 rfl ?_
  refine a_i2d dX1_meanLost_56 ?_
  refine a_aload_n dX1_meanLost_57 rfl ?_
  obtain ⟨a32, e31, hT⟩ := obnd hT
  refine a_gA fl_X1_49_0 e31 dX1_meanLost_58 ?_
  obtain ⟨a34, e33, hT⟩ := obnd hT
  refine a_gA fl_X1_197_1 e33 dX1_meanLost_61 ?_
  obtain ⟨g37, hT⟩ := oifg hT
  obtain ⟨r38, e39, hT⟩ := obnd hT
  refine a_callV kv_X1_82 g37 (k_J2_size e39) ⟨Nat.le_of_ble_eq_true rfl, Nat.le_of_ble_eq_true rfl⟩ (As := []) (rest := [.double (FP.i2d v1)]) rfl rfl (Nat.le_of_ble_eq_true rfl) dX1_meanLost_64 (kI ?_) xI
  refine a_i2d dX1_meanLost_67 ?_
  obtain ⟨g40, hT⟩ := oifg hT
  refine a_ddiv dX1_meanLost_68 g40 ?_
  obtain rfl := Option.some.inj hT
  exact a_dret rfl dX1_meanLost_69 (he _ _ ⟨rfl, rfl⟩)
def t_X1_meanLost_b26 (Z : aZ) : (Nat × Int32 × Nat × aH) → Option ((Nat × Int32 × Nat × aH) ⊕ ((UInt64 ⊕ aXX) × aH)) := fun (v0, v1, v2, h) =>
  if isC 9 h v2 = true then
  (t_J7_hasNext Z h v2).bind fun r28 =>
  if r28.1 = 0 then
    (t_X1_meanLost_l55 Z r28.2 v0 v1).map .inr
  else
    if isC 9 r28.2 v2 = true then
    (t_J7_next Z r28.2 v2).bind fun r44 =>
    if isC 4 r44.2 r44.1 = true then
    if isC 4 r44.2 r44.1 = true then
    (t_X6_lost Z r44.2 r44.1).bind fun r50 =>
    some (.inl (v0, (v1 + r50.1), v2, r50.2))
    else none
    else none
    else none
  else none
theorem kb_X1_meanLost_b26 {G : aG} {h0 : aH} {K : aRes → aH → Prop} : ∀ (x9 : (Nat × Int32 × Nat × aH)) (e : ((Nat × Int32 × Nat × aH) ⊕ ((UInt64 ⊕ aXX) × aH))), t_X1_meanLost_b26 (gZ G) x9 = some e → (Sum.elim (p_X1_meanLost_b26 G h0 K) (fun e => aTo (aXD e.1 e.2) K)) e → p_X1_meanLost_b26 G h0 K x9 := by
  intro x9 e hT he
  obtain ⟨v0, v1, v2, h⟩ := x9
  unfold p_X1_meanLost_b26
  unfold t_X1_meanLost_b26 at hT
  show aW G M_X1_meanLost 10 220 h0 K h 26 [some (.ref v0), some (.int v1), some (.ref v2), none] []
  dsimp only at hT
  refine a_aload_n dX1_meanLost_26 rfl ?_
  obtain ⟨g27, hT⟩ := oifg hT
  obtain ⟨r28, e29, hT⟩ := obnd hT
  refine a_callF kf_X1_336 g27 (k_J7_hasNext e29) ⟨Nat.le_of_ble_eq_true rfl, Nat.le_of_ble_eq_true rfl⟩ (As := []) (rest := []) rfl rfl (Nat.le_of_ble_eq_true rfl) dX1_meanLost_27 (kI ?_) xI
  refine a_if_eq 55 dX1_meanLost_32 rfl (fun c30 => ?_) (fun c30 => ?_)
  · have hT := oifp c30 hT
    refine a_mask [true, true, false, true] ?_
    obtain ⟨e8, hT8, rfl⟩ := omap hT
    exact k_X1_meanLost_l55 hT8 he
  · have hT := oifn c30 hT
    refine a_aload_n dX1_meanLost_35 rfl ?_
    obtain ⟨g43, hT⟩ := oifg hT
    obtain ⟨r44, e45, hT⟩ := obnd hT
    refine a_callF kf_X1_341 g43 (k_J7_next e45) ⟨Nat.le_of_ble_eq_true rfl, Nat.le_of_ble_eq_true rfl⟩ (As := []) (rest := []) rfl rfl (Nat.le_of_ble_eq_true rfl) dX1_meanLost_36 (kA ?_) xA
    obtain ⟨g46, hT⟩ := oifg hT
    refine a_cast (ci := 4) rfl q1073 g46 dX1_meanLost_41 ?_
    refine a_astore_n (lv' := [some (.ref v0), some (.int v1), some (.ref v2), some (.ref r44.1)]) dX1_meanLost_44 rfl (by decide) rfl ?_
    refine a_iload_n dX1_meanLost_45 rfl ?_
    refine a_aload_n dX1_meanLost_46 rfl ?_
    obtain ⟨g49, hT⟩ := oifg hT
    obtain ⟨r50, e51, hT⟩ := obnd hT
    refine a_callV kv_X1_237 g49 (k_X6_lost e51) ⟨Nat.le_of_ble_eq_true rfl, Nat.le_of_ble_eq_true rfl⟩ (As := []) (rest := [.int v1]) rfl rfl (Nat.le_of_ble_eq_true rfl) dX1_meanLost_47 (kI ?_) xI
    refine a_iadd dX1_meanLost_50 ?_
    refine a_istore_n (lv' := [some (.ref v0), some (.int (v1 + r50.1)), some (.ref v2), some (.ref r44.1)]) dX1_meanLost_51 rfl (by decide) rfl ?_
    refine a_goto 26 dX1_meanLost_52 rfl ?_
    obtain rfl := Option.some.inj hT
    refine a_mask [true, true, true, false] ?_
    exact he
theorem k_X1_meanLost_b26 {G : aG} {h0 : aH} {K : aRes → aH → Prop} {n9 : Nat} {x9 : (Nat × Int32 × Nat × aH)} {e : ((UInt64 ⊕ aXX) × aH)} (hT : wlo (t_X1_meanLost_b26 (gZ G)) n9 x9 = some e) (he : (fun e => aTo (aXD e.1 e.2) K) e) : p_X1_meanLost_b26 G h0 K x9 := wlo_W kb_X1_meanLost_b26 n9 x9 e hT he
def t_X1_meanLost (Z : aZ) (h : aH) (o : Nat) : Option ((UInt64 ⊕ aXX) × aH) :=
  (gA 0 0 h o).bind fun a2 =>
  (gA 1 2 h a2).bind fun a4 =>
  if isC 8 h a4 = true then
  (t_J2_size Z h a4).bind fun r8 =>
  (t_X1_requireSome Z r8.2 r8.1).bind fun r12 =>
  (match r12 with
  | (.inl y14, h15) =>
    (gA 0 0 h15 o).bind fun a17 =>
    (gA 1 2 h15 a17).bind fun a19 =>
    if isC 8 h15 a19 = true then
    (t_J2_iterator Z h15 a19).bind fun r23 =>
    wlo (t_X1_meanLost_b26 Z) 100 (o, 0, r23.1, r23.2)
    else none
  | (.inr y14, h15) =>
    some (.inr y14, h15)
  )
  else none
theorem k_X1_meanLost {G : aG} {h : aH} {o : Nat} {e : ((UInt64 ⊕ aXX) × aH)} (hT : t_X1_meanLost (gZ G) h o = some e) : aMet G yX1_meanLost (ws_ yX1_meanLost cX1_meanLost 4 (Option.some Jvm.ClassFile.FieldType.double)) 10 220 [.ref o] h (aXD e.1 e.2) := by
  refine aMet.of (lv := [some (.ref o), none, none, none]) (by decide) (Nat.le_of_ble_eq_true rfl) 3 rfl ?_
  have he : aTo (aXD e.1 e.2) (aXD e.1 e.2) := aTo.rf
  unfold t_X1_meanLost at hT
  refine a_aload_n dX1_meanLost_0 rfl ?_
  obtain ⟨a2, e1, hT⟩ := obnd hT
  refine a_gA fl_X1_49_0 e1 dX1_meanLost_1 ?_
  obtain ⟨a4, e3, hT⟩ := obnd hT
  refine a_gA fl_X1_197_1 e3 dX1_meanLost_4 ?_
  obtain ⟨g7, hT⟩ := oifg hT
  obtain ⟨r8, e9, hT⟩ := obnd hT
  refine a_callV kv_X1_82 g7 (k_J2_size e9) ⟨Nat.le_of_ble_eq_true rfl, Nat.le_of_ble_eq_true rfl⟩ (As := []) (rest := []) rfl rfl (Nat.le_of_ble_eq_true rfl) dX1_meanLost_7 (kI ?_) xI
  obtain ⟨⟨y14 | y14, h15⟩, e13, hT⟩ := obnd hT
  · dsimp only at hT
    refine a_callS ks_X1_329 (k_X1_requireSome e13) ⟨Nat.le_of_ble_eq_true rfl, Nat.le_of_ble_eq_true rfl⟩ (As := [.int r8.1]) (rest := []) rfl rfl (Nat.le_of_ble_eq_true rfl) dX1_meanLost_10 (kXV ?_) yXV
    refine a_iconst (v := 0) dX1_meanLost_13 (by decide) ?_
    refine a_istore_n (lv' := [some (.ref o), some (.int 0), none, none]) dX1_meanLost_14 rfl (by decide) rfl ?_
    refine a_aload_n dX1_meanLost_15 rfl ?_
    obtain ⟨a17, e16, hT⟩ := obnd hT
    refine a_gA fl_X1_49_0 e16 dX1_meanLost_16 ?_
    obtain ⟨a19, e18, hT⟩ := obnd hT
    refine a_gA fl_X1_197_1 e18 dX1_meanLost_19 ?_
    obtain ⟨g22, hT⟩ := oifg hT
    obtain ⟨r23, e24, hT⟩ := obnd hT
    refine a_callV kv_X1_332 g22 (k_J2_iterator e24) ⟨Nat.le_of_ble_eq_true rfl, Nat.le_of_ble_eq_true rfl⟩ (As := []) (rest := []) rfl rfl (Nat.le_of_ble_eq_true rfl) dX1_meanLost_22 (kA ?_) xA
    refine a_astore_n (lv' := [some (.ref o), some (.int 0), some (.ref r23.1), none]) dX1_meanLost_25 rfl (by decide) rfl ?_
    exact k_X1_meanLost_b26 hT he
  · dsimp only at hT
    refine a_callS ks_X1_329 (k_X1_requireSome e13) ⟨Nat.le_of_ble_eq_true rfl, Nat.le_of_ble_eq_true rfl⟩ (As := [.int r8.1]) (rest := []) rfl rfl (Nat.le_of_ble_eq_true rfl) dX1_meanLost_10 rXV (zXV ?_)
    obtain rfl := Option.some.inj hT
    exact a_out (by decide) (he _ _ ⟨rfl, rfl⟩)
theorem ki_X2_29 : aKI "MazeBonds$Core" 29 yX2_init_2 cX2_init_2 2 1 := ⟨rfl, Or.inl q123, q124, q73, q125, ⟨by decide +kernel, by decide +kernel, by decide +kernel⟩⟩
abbrev M_X2_init : aM := (yX2_init.cls, cX2_init, 1, (Option.none : Option Jvm.ClassFile.FieldType), [], yX2_init.name)
def t_X2_init (Z : aZ) (h : aH) (o : Nat) : Option (Unit × aH) :=
  (nwA Z h 24 (fun N => .inl (zI Z, N, .inl fun _ => 0))).bind fun h1 =>
  (t_X2_init_2 Z h1 o h.2.1).bind fun r5 =>
  some ((), r5.2)
theorem k_X2_init {G : aG} {h : aH} {o : Nat} {e : (Unit × aH)} (hT : t_X2_init (gZ G) h o = some e) : aMet G yX2_init (ws_ yX2_init cX2_init 1 (Option.none : Option Jvm.ClassFile.FieldType)) 5 93 [.ref o] h (aEV e.1 e.2) := by
  refine aMet.of (lv := [some (.ref o)]) (by decide) (Nat.le_of_ble_eq_true rfl) 0 rfl ?_
  have he : aTo (aEV e.1 e.2) (aEV e.1 e.2) := aTo.rf
  unfold t_X2_init at hT
  refine a_aload_n dX2_init_0 rfl ?_
  refine a_bipush (v := 24) dX2_init_1 (by decide) ?_
  obtain ⟨h1, e2, hT⟩ := obnd hT
  refine a_newI q156 e2 dX2_init_3 ?_
  obtain ⟨r5, e6, hT⟩ := obnd hT
  refine a_callI ki_X2_29 (k_X2_init_2 e6) ⟨Nat.le_of_ble_eq_true rfl, Nat.le_of_ble_eq_true rfl⟩ (As := [.ref h.2.1]) (rest := []) rfl rfl (Nat.le_of_ble_eq_true rfl) dX2_init_5 (kV ?_) xV
  obtain rfl := Option.some.inj hT
  exact a_vret rfl dX2_init_8 (he _ _ ⟨rfl, rfl⟩)
theorem kv_X2_146 : aKV "MazeBonds$Core" 146 1 yX2_gaps cX2_gaps 6 (Option.some Jvm.ClassFile.FieldType.int) 0 := ⟨⟨TX2, 7, rfl⟩, Or.inl q537, q538, q539, q73, q540, ⟨by decide +kernel, by decide +kernel, by decide +kernel⟩⟩
theorem fl_X2_65_1 : aFL "MazeBonds$Core" 65 1 4 := ⟨RX2, TX2, 7, "MazeBonds$Core", rfl, in_X2, by decide, Or.inl rfl, Or.inl q165⟩
theorem fp_X2_65_1 (nm9 : String) : aFP "MazeBonds$Core" 65 1 4 .int nm9 := ⟨RX2, TX2, 7, "MazeBonds$Core", tyX2, rfl, in_X2, by decide, Or.inl rfl, Or.inl q165, tyX2_ok, nmX2, rfl, Or.inl rfl⟩
abbrev M_X2_summer : aM := (yX2_summer.cls, cX2_summer, 3, (Option.some Jvm.ClassFile.FieldType.int), [], yX2_summer.name)
def p_X2_summer_b7 (G : aG) (h0 : aH) (K : aRes → aH → Prop) (x9 : (Nat × Int32 × Int32 × aH)) : Prop := aW G M_X2_summer 2 40 h0 K x9.2.2.2 7 [some (.ref x9.1), some (.int x9.2.1), some (.int x9.2.2.1)] []
def t_X2_summer_l38 (Z : aZ) (h : aH) (v0 : Nat) (v1 : Int32) : Option (Int32 × aH) :=
  (gI 1 4 h v0).bind fun z8 =>
  (pF 1 4 Z h v0 (.int (z8 + 1))).bind fun h10 =>
  if isC 1 h10 v0 = true then
  (t_X2_gaps Z h10 v0).bind fun r14 =>
  some ((v1 - r14.1), r14.2)
  else none
theorem k_X2_summer_l38 {G : aG} {h0 : aH} {K : aRes → aH → Prop} {h : aH} {v0 : Nat} {v1 : Int32} {e : (Int32 × aH)} (hT : t_X2_summer_l38 (gZ G) h v0 v1 = some e) (he : (fun e => aTo (aEI e.1 e.2) K) e) : aW G M_X2_summer 2 40 h0 K h 38 [some (.ref v0), some (.int v1), none] [] := by
  unfold t_X2_summer_l38 at hT
  refine a_aload_n dX2_summer_38 rfl ?_
  refine a_dup dX2_summer_39 rfl ?_
  obtain ⟨z8, e7, hT⟩ := obnd hT
  refine a_gI fl_X2_65_1 e7 dX2_summer_40 ?_
  refine a_iconst (v := 1) dX2_summer_43 (by decide) ?_
  refine a_iadd dX2_summer_44 ?_
  obtain ⟨h10, e9, hT⟩ := obnd hT
  refine a_put (fp_X2_65_1 _) ⟨rfl, rfl⟩ e9 dX2_summer_45 ?_
  refine a_iload_n dX2_summer_48 rfl ?_
  refine a_aload_n dX2_summer_49 rfl ?_
  obtain ⟨g13, hT⟩ := oifg hT
  obtain ⟨r14, e15, hT⟩ := obnd hT
  refine a_callV kv_X2_146 g13 (k_X2_gaps e15) ⟨Nat.le_of_ble_eq_true rfl, Nat.le_of_ble_eq_true rfl⟩ (As := []) (rest := [.int v1]) rfl rfl (Nat.le_of_ble_eq_true rfl) dX2_summer_50 (kI ?_) xI
  refine a_isub dX2_summer_53 ?_
  obtain rfl := Option.some.inj hT
  exact a_iret rfl rfl dX2_summer_54 (he _ _ ⟨rfl, rfl⟩)
def t_X2_summer_b7 (Z : aZ) : (Nat × Int32 × Int32 × aH) → Option ((Nat × Int32 × Int32 × aH) ⊕ (Int32 × aH)) := fun (v0, v1, v2, h) =>
  if 24 ≤ v2 then
    (t_X2_summer_l38 Z h v0 v1).map .inr
  else
    (gA 1 0 h v0).bind fun a17 =>
    (gA 1 0 h v0).bind fun a19 =>
    (ldI Z h a19 v2).bind fun z21 =>
    (stI Z h a17 v2 (jmin 9 (z21 + 1))).bind fun h23 =>
    some (.inl (v0, v1, (v2 + 1), h23))
theorem kb_X2_summer_b7 {G : aG} {h0 : aH} {K : aRes → aH → Prop} : ∀ (x9 : (Nat × Int32 × Int32 × aH)) (e : ((Nat × Int32 × Int32 × aH) ⊕ (Int32 × aH))), t_X2_summer_b7 (gZ G) x9 = some e → (Sum.elim (p_X2_summer_b7 G h0 K) (fun e => aTo (aEI e.1 e.2) K)) e → p_X2_summer_b7 G h0 K x9 := by
  intro x9 e hT he
  obtain ⟨v0, v1, v2, h⟩ := x9
  unfold p_X2_summer_b7
  unfold t_X2_summer_b7 at hT
  show aW G M_X2_summer 2 40 h0 K h 7 [some (.ref v0), some (.int v1), some (.int v2)] []
  dsimp only at hT
  refine a_iload_n dX2_summer_7 rfl ?_
  refine a_bipush (v := 24) dX2_summer_8 (by decide) ?_
  refine a_icmp_ge 38 dX2_summer_10 rfl (fun c6 => ?_) (fun c6 => ?_)
  · have hT := oifp c6 hT
    refine a_mask [true, true, false] ?_
    obtain ⟨e8, hT8, rfl⟩ := omap hT
    exact k_X2_summer_l38 hT8 he
  · have hT := oifn c6 hT
    refine a_aload_n dX2_summer_13 rfl ?_
    obtain ⟨a17, e16, hT⟩ := obnd hT
    refine a_gA fl_X2_25_1 e16 dX2_summer_14 ?_
    refine a_iload_n dX2_summer_17 rfl ?_
    refine a_bipush (v := 9) dX2_summer_18 (by decide) ?_
    refine a_aload_n dX2_summer_20 rfl ?_
    obtain ⟨a19, e18, hT⟩ := obnd hT
    refine a_gA fl_X2_25_1 e18 dX2_summer_21 ?_
    refine a_iload_n dX2_summer_24 rfl ?_
    obtain ⟨z21, e20, hT⟩ := obnd hT
    refine a_ldI e20 dX2_summer_25 ?_
    refine a_iconst (v := 1) dX2_summer_26 (by decide) ?_
    refine a_iadd dX2_summer_27 ?_
    refine a_mmin q541 q481 q90 q482 (by decide) (Nat.le_of_ble_eq_true rfl) dX2_summer_28 ?_
    obtain ⟨h23, e22, hT⟩ := obnd hT
    refine a_stI e22 dX2_summer_31 ?_
    refine a_iinc (v := (v2 + 1)) (lv' := [some (.ref v0), some (.int v1), some (.int (v2 + 1))]) dX2_summer_32 rfl (by rfl) rfl (by decide) rfl ?_
    refine a_goto 7 dX2_summer_35 rfl ?_
    obtain rfl := Option.some.inj hT
    exact he
theorem k_X2_summer_b7 {G : aG} {h0 : aH} {K : aRes → aH → Prop} {n9 : Nat} {x9 : (Nat × Int32 × Int32 × aH)} {e : (Int32 × aH)} (hT : wlo (t_X2_summer_b7 (gZ G)) n9 x9 = some e) (he : (fun e => aTo (aEI e.1 e.2) K) e) : p_X2_summer_b7 G h0 K x9 := wlo_W kb_X2_summer_b7 n9 x9 e hT he
def t_X2_summer (Z : aZ) (h : aH) (o : Nat) : Option (Int32 × aH) :=
  if isC 1 h o = true then
  (t_X2_gaps Z h o).bind fun r4 =>
  wlo (t_X2_summer_b7 Z) 100 (o, r4.1, 0, r4.2)
  else none
theorem k_X2_summer {G : aG} {h : aH} {o : Nat} {e : (Int32 × aH)} (hT : t_X2_summer (gZ G) h o = some e) : aMet G yX2_summer (ws_ yX2_summer cX2_summer 3 (Option.some Jvm.ClassFile.FieldType.int)) 2 40 [.ref o] h (aEI e.1 e.2) := by
  refine aMet.of (lv := [some (.ref o), none, none]) (by decide) (Nat.le_of_ble_eq_true rfl) 2 rfl ?_
  have he : aTo (aEI e.1 e.2) (aEI e.1 e.2) := aTo.rf
  unfold t_X2_summer at hT
  refine a_aload_n dX2_summer_0 rfl ?_
  obtain ⟨g3, hT⟩ := oifg hT
  obtain ⟨r4, e5, hT⟩ := obnd hT
  refine a_callV kv_X2_146 g3 (k_X2_gaps e5) ⟨Nat.le_of_ble_eq_true rfl, Nat.le_of_ble_eq_true rfl⟩ (As := []) (rest := []) rfl rfl (Nat.le_of_ble_eq_true rfl) dX2_summer_1 (kI ?_) xI
  refine a_istore_n (lv' := [some (.ref o), some (.int r4.1), none]) dX2_summer_4 rfl (by decide) rfl ?_
  refine a_iconst (v := 0) dX2_summer_5 (by decide) ?_
  refine a_istore_n (lv' := [some (.ref o), some (.int r4.1), some (.int 0)]) dX2_summer_6 rfl (by decide) rfl ?_
  exact k_X2_summer_b7 hT he
abbrev M_X2_spreadFrom : aM := (yX2_spreadFrom.cls, cX2_spreadFrom, 8, (Option.some Jvm.ClassFile.FieldType.boolean), [], yX2_spreadFrom.name)
def p_X2_spreadFrom_b6 (G : aG) (h0 : aH) (K : aRes → aH → Prop) (x9 : (Nat × Nat × Int32 × Int32 × Int32 × Int32 × aH)) : Prop := aW G M_X2_spreadFrom 3 86 h0 K x9.2.2.2.2.2.2 6 [some (.ref x9.1), some (.ref x9.2.1), some (.int x9.2.2.1), some (.int x9.2.2.2.1), some (.int x9.2.2.2.2.1), some (.int x9.2.2.2.2.2.1), none, none] []
def t_X2_spreadFrom_l125 (Z : aZ) (h : aH) (v0 : Nat) (v1 : Nat) (v2 : Int32) (v3 : Int32) (v4 : Int32) (v5 : Int32) : Option ((Nat × Nat × Int32 × Int32 × Int32 × Int32 × aH) ⊕ (Int32 × aH)) :=
  some (.inl (v0, v1, v2, v3, v4, (v5 + 1), h))
theorem k_X2_spreadFrom_l125 {G : aG} {h0 : aH} {K : aRes → aH → Prop} {h : aH} {v0 : Nat} {v1 : Nat} {v2 : Int32} {v3 : Int32} {v4 : Int32} {v5 : Int32} {e : ((Nat × Nat × Int32 × Int32 × Int32 × Int32 × aH) ⊕ (Int32 × aH))} (hT : t_X2_spreadFrom_l125 (gZ G) h v0 v1 v2 v3 v4 v5 = some e) (he : (Sum.elim (p_X2_spreadFrom_b6 G h0 K) (fun e => aTo (aEI e.1 e.2) K)) e) : aW G M_X2_spreadFrom 3 86 h0 K h 125 [some (.ref v0), some (.ref v1), some (.int v2), some (.int v3), some (.int v4), some (.int v5), none, none] [] := by
  unfold t_X2_spreadFrom_l125 at hT
  refine a_iinc (v := (v5 + 1)) (lv' := [some (.ref v0), some (.ref v1), some (.int v2), some (.int v3), some (.int v4), some (.int (v5 + 1)), none, none]) dX2_spreadFrom_125 rfl (by rfl) rfl (by decide) rfl ?_
  refine a_goto 6 dX2_spreadFrom_128 rfl ?_
  obtain rfl := Option.some.inj hT
  exact he
def t_X2_spreadFrom_l98 (Z : aZ) (h : aH) (v0 : Nat) (v1 : Nat) (v2 : Int32) (v3 : Int32) (v4 : Int32) (v5 : Int32) (v6 : Int32) : Option ((Nat × Nat × Int32 × Int32 × Int32 × Int32 × aH) ⊕ (Int32 × aH)) :=
  if v6 = (-1) then
    t_X2_spreadFrom_l125 Z h v0 v1 v2 v3 v4 v5
  else
    if v3 = 0 then
      t_X2_spreadFrom_l125 Z h v0 v1 v2 v3 v4 v5
    else
      (ldI Z h v1 v6).bind fun z11 =>
      if z11 = (-1) then
        (ldI Z h v1 v2).bind fun z14 =>
        (stI Z h v1 v6 (z14 + 1)).bind fun h16 =>
        t_X2_spreadFrom_l125 Z h16 v0 v1 v2 v3 v4 v5
      else
        t_X2_spreadFrom_l125 Z h v0 v1 v2 v3 v4 v5
theorem k_X2_spreadFrom_l98 {G : aG} {h0 : aH} {K : aRes → aH → Prop} {h : aH} {v0 : Nat} {v1 : Nat} {v2 : Int32} {v3 : Int32} {v4 : Int32} {v5 : Int32} {v6 : Int32} {e : ((Nat × Nat × Int32 × Int32 × Int32 × Int32 × aH) ⊕ (Int32 × aH))} (hT : t_X2_spreadFrom_l98 (gZ G) h v0 v1 v2 v3 v4 v5 v6 = some e) (he : (Sum.elim (p_X2_spreadFrom_b6 G h0 K) (fun e => aTo (aEI e.1 e.2) K)) e) : aW G M_X2_spreadFrom 3 86 h0 K h 98 [some (.ref v0), some (.ref v1), some (.int v2), some (.int v3), some (.int v4), some (.int v5), some (.int v6), none] [] := by
  unfold t_X2_spreadFrom_l98 at hT
  refine a_iload dX2_spreadFrom_98 rfl ?_
  refine a_iconst (v := (-1)) dX2_spreadFrom_100 (by decide) ?_
  refine a_icmp_eq 125 dX2_spreadFrom_101 rfl (fun c8 => ?_) (fun c8 => ?_)
  · have hT := oifp c8 hT
    refine a_mask [true, true, true, true, true, true, false, true] ?_
    exact k_X2_spreadFrom_l125 hT he
  · have hT := oifn c8 hT
    refine a_iload_n dX2_spreadFrom_104 rfl ?_
    refine a_if_eq 125 dX2_spreadFrom_105 rfl (fun c9 => ?_) (fun c9 => ?_)
    · have hT := oifp c9 hT
      refine a_mask [true, true, true, true, true, true, false, true] ?_
      exact k_X2_spreadFrom_l125 hT he
    · have hT := oifn c9 hT
      refine a_aload_n dX2_spreadFrom_108 rfl ?_
      refine a_iload dX2_spreadFrom_109 rfl ?_
      obtain ⟨z11, e10, hT⟩ := obnd hT
      refine a_ldI e10 dX2_spreadFrom_111 ?_
      refine a_iconst (v := (-1)) dX2_spreadFrom_112 (by decide) ?_
      refine a_icmp_ne 125 dX2_spreadFrom_113 rfl (fun c12 => ?_) (fun c12 => ?_)
      · have hT := oifn c12 hT
        refine a_mask [true, true, true, true, true, true, false, true] ?_
        exact k_X2_spreadFrom_l125 hT he
      · have hT := oifp c12 hT
        refine a_aload_n dX2_spreadFrom_116 rfl ?_
        refine a_iload dX2_spreadFrom_117 rfl ?_
        refine a_aload_n dX2_spreadFrom_119 rfl ?_
        refine a_iload_n dX2_spreadFrom_120 rfl ?_
        obtain ⟨z14, e13, hT⟩ := obnd hT
        refine a_ldI e13 dX2_spreadFrom_121 ?_
        refine a_iconst (v := 1) dX2_spreadFrom_122 (by decide) ?_
        refine a_iadd dX2_spreadFrom_123 ?_
        obtain ⟨h16, e15, hT⟩ := obnd hT
        refine a_stI e15 dX2_spreadFrom_124 ?_
        refine a_mask [true, true, true, true, true, true, false, true] ?_
        exact k_X2_spreadFrom_l125 hT he
def t_X2_spreadFrom_l88 (Z : aZ) (h : aH) (v0 : Nat) (v1 : Nat) (v2 : Int32) (v3 : Int32) (v4 : Int32) (v5 : Int32) (u0 : Int32) (u1 : Int32) (u2 : Nat) : Option ((Nat × Nat × Int32 × Int32 × Int32 × Int32 × aH) ⊕ (Int32 × aH)) :=
  (stI Z h u2 u1 u0).bind fun h24 =>
  t_X2_spreadFrom_l125 Z h24 v0 v1 v2 v3 (v4 ||| v3) v5
theorem k_X2_spreadFrom_l88 {G : aG} {h0 : aH} {K : aRes → aH → Prop} {h : aH} {v0 : Nat} {v1 : Nat} {v2 : Int32} {v3 : Int32} {v4 : Int32} {v5 : Int32} {u0 : Int32} {u1 : Int32} {u2 : Nat} {e : ((Nat × Nat × Int32 × Int32 × Int32 × Int32 × aH) ⊕ (Int32 × aH))} (hT : t_X2_spreadFrom_l88 (gZ G) h v0 v1 v2 v3 v4 v5 u0 u1 u2 = some e) (he : (Sum.elim (p_X2_spreadFrom_b6 G h0 K) (fun e => aTo (aEI e.1 e.2) K)) e) : aW G M_X2_spreadFrom 3 86 h0 K h 88 [some (.ref v0), some (.ref v1), some (.int v2), some (.int v3), some (.int v4), some (.int v5), none, none] [.int u0, .int u1, .ref u2] := by
  unfold t_X2_spreadFrom_l88 at hT
  obtain ⟨h24, e23, hT⟩ := obnd hT
  refine a_stI e23 dX2_spreadFrom_88 ?_
  refine a_iload dX2_spreadFrom_89 rfl ?_
  refine a_iload_n dX2_spreadFrom_91 rfl ?_
  refine a_ior dX2_spreadFrom_92 ?_
  refine a_istore (lv' := [some (.ref v0), some (.ref v1), some (.int v2), some (.int v3), some (.int (v4 ||| v3)), some (.int v5), none, none]) dX2_spreadFrom_93 rfl (by decide) rfl ?_
  refine a_goto 125 dX2_spreadFrom_95 rfl ?_
  exact k_X2_spreadFrom_l125 hT he
def t_X2_spreadFrom_l70 (Z : aZ) (h : aH) (v0 : Nat) (v1 : Nat) (v2 : Int32) (v3 : Int32) (v4 : Int32) (v5 : Int32) (v6 : Int32) : Option ((Nat × Nat × Int32 × Int32 × Int32 × Int32 × aH) ⊕ (Int32 × aH)) :=
  if v3 = 0 then
    (ldI Z h v1 v2).bind fun z22 =>
    t_X2_spreadFrom_l88 Z h v0 v1 v2 v3 v4 v5 (z22 + 1) v6 v1
  else
    (ldI Z h v1 v2).bind fun z26 =>
    t_X2_spreadFrom_l88 Z h v0 v1 v2 v3 v4 v5 z26 v6 v1
theorem k_X2_spreadFrom_l70 {G : aG} {h0 : aH} {K : aRes → aH → Prop} {h : aH} {v0 : Nat} {v1 : Nat} {v2 : Int32} {v3 : Int32} {v4 : Int32} {v5 : Int32} {v6 : Int32} {e : ((Nat × Nat × Int32 × Int32 × Int32 × Int32 × aH) ⊕ (Int32 × aH))} (hT : t_X2_spreadFrom_l70 (gZ G) h v0 v1 v2 v3 v4 v5 v6 = some e) (he : (Sum.elim (p_X2_spreadFrom_b6 G h0 K) (fun e => aTo (aEI e.1 e.2) K)) e) : aW G M_X2_spreadFrom 3 86 h0 K h 70 [some (.ref v0), some (.ref v1), some (.int v2), some (.int v3), some (.int v4), some (.int v5), some (.int v6), none] [] := by
  unfold t_X2_spreadFrom_l70 at hT
  refine a_aload_n dX2_spreadFrom_70 rfl ?_
  refine a_iload dX2_spreadFrom_71 rfl ?_
  refine a_iload_n dX2_spreadFrom_73 rfl ?_
  refine a_if_eq 83 dX2_spreadFrom_74 rfl (fun c20 => ?_) (fun c20 => ?_)
  · have hT := oifp c20 hT
    refine a_aload_n dX2_spreadFrom_83 rfl ?_
    refine a_iload_n dX2_spreadFrom_84 rfl ?_
    obtain ⟨z22, e21, hT⟩ := obnd hT
    refine a_ldI e21 dX2_spreadFrom_85 ?_
    refine a_iconst (v := 1) dX2_spreadFrom_86 (by decide) ?_
    refine a_iadd dX2_spreadFrom_87 ?_
    refine a_mask [true, true, true, true, true, true, false, true] ?_
    exact k_X2_spreadFrom_l88 hT he
  · have hT := oifn c20 hT
    refine a_aload_n dX2_spreadFrom_77 rfl ?_
    refine a_iload_n dX2_spreadFrom_78 rfl ?_
    obtain ⟨z26, e25, hT⟩ := obnd hT
    refine a_ldI e25 dX2_spreadFrom_79 ?_
    refine a_goto 88 dX2_spreadFrom_80 rfl ?_
    refine a_mask [true, true, true, true, true, true, false, true] ?_
    exact k_X2_spreadFrom_l88 hT he
def t_X2_spreadFrom_l41 (Z : aZ) (h : aH) (v0 : Nat) (v1 : Nat) (v2 : Int32) (v3 : Int32) (v4 : Int32) (v5 : Int32) (v6 : Int32) (u0 : Int32) : Option ((Nat × Nat × Int32 × Int32 × Int32 × Int32 × aH) ⊕ (Int32 × aH)) :=
  if u0 = 0 then
    t_X2_spreadFrom_l98 Z h v0 v1 v2 v3 v4 v5 v6
  else
    (ldI Z h v1 v6).bind fun z18 =>
    if z18 = (-1) then
      t_X2_spreadFrom_l70 Z h v0 v1 v2 v3 v4 v5 v6
    else
      if v3 = 0 then
        t_X2_spreadFrom_l98 Z h v0 v1 v2 v3 v4 v5 v6
      else
        (ldI Z h v1 v6).bind fun z29 =>
        (ldI Z h v1 v2).bind fun z31 =>
        if z29 ≤ z31 then
          t_X2_spreadFrom_l98 Z h v0 v1 v2 v3 v4 v5 v6
        else
          t_X2_spreadFrom_l70 Z h v0 v1 v2 v3 v4 v5 v6
theorem k_X2_spreadFrom_l41 {G : aG} {h0 : aH} {K : aRes → aH → Prop} {h : aH} {v0 : Nat} {v1 : Nat} {v2 : Int32} {v3 : Int32} {v4 : Int32} {v5 : Int32} {v6 : Int32} {u0 : Int32} {e : ((Nat × Nat × Int32 × Int32 × Int32 × Int32 × aH) ⊕ (Int32 × aH))} (hT : t_X2_spreadFrom_l41 (gZ G) h v0 v1 v2 v3 v4 v5 v6 u0 = some e) (he : (Sum.elim (p_X2_spreadFrom_b6 G h0 K) (fun e => aTo (aEI e.1 e.2) K)) e) : aW G M_X2_spreadFrom 3 86 h0 K h 41 [some (.ref v0), some (.ref v1), some (.int v2), some (.int v3), some (.int v4), some (.int v5), some (.int v6), none] [.int u0] := by
  unfold t_X2_spreadFrom_l41 at hT
  refine a_istore (lv' := [some (.ref v0), some (.ref v1), some (.int v2), some (.int v3), some (.int v4), some (.int v5), some (.int v6), some (.int u0)]) dX2_spreadFrom_41 rfl (by decide) rfl ?_
  refine a_iload dX2_spreadFrom_43 rfl ?_
  refine a_if_eq 98 dX2_spreadFrom_45 rfl (fun c7 => ?_) (fun c7 => ?_)
  · have hT := oifp c7 hT
    refine a_mask [true, true, true, true, true, true, true, false] ?_
    exact k_X2_spreadFrom_l98 hT he
  · have hT := oifn c7 hT
    refine a_aload_n dX2_spreadFrom_48 rfl ?_
    refine a_iload dX2_spreadFrom_49 rfl ?_
    obtain ⟨z18, e17, hT⟩ := obnd hT
    refine a_ldI e17 dX2_spreadFrom_51 ?_
    refine a_iconst (v := (-1)) dX2_spreadFrom_52 (by decide) ?_
    refine a_icmp_eq 70 dX2_spreadFrom_53 rfl (fun c19 => ?_) (fun c19 => ?_)
    · have hT := oifp c19 hT
      refine a_mask [true, true, true, true, true, true, true, false] ?_
      exact k_X2_spreadFrom_l70 hT he
    · have hT := oifn c19 hT
      refine a_iload_n dX2_spreadFrom_56 rfl ?_
      refine a_if_eq 98 dX2_spreadFrom_57 rfl (fun c27 => ?_) (fun c27 => ?_)
      · have hT := oifp c27 hT
        refine a_mask [true, true, true, true, true, true, true, false] ?_
        exact k_X2_spreadFrom_l98 hT he
      · have hT := oifn c27 hT
        refine a_aload_n dX2_spreadFrom_60 rfl ?_
        refine a_iload dX2_spreadFrom_61 rfl ?_
        obtain ⟨z29, e28, hT⟩ := obnd hT
        refine a_ldI e28 dX2_spreadFrom_63 ?_
        refine a_aload_n dX2_spreadFrom_64 rfl ?_
        refine a_iload_n dX2_spreadFrom_65 rfl ?_
        obtain ⟨z31, e30, hT⟩ := obnd hT
        refine a_ldI e30 dX2_spreadFrom_66 ?_
        refine a_icmp_le 98 dX2_spreadFrom_67 rfl (fun c32 => ?_) (fun c32 => ?_)
        · have hT := oifp c32 hT
          refine a_mask [true, true, true, true, true, true, true, false] ?_
          exact k_X2_spreadFrom_l98 hT he
        · have hT := oifn c32 hT
          refine a_mask [true, true, true, true, true, true, true, false] ?_
          exact k_X2_spreadFrom_l70 hT he
def t_X2_spreadFrom_l40 (Z : aZ) (h : aH) (v0 : Nat) (v1 : Nat) (v2 : Int32) (v3 : Int32) (v4 : Int32) (v5 : Int32) (v6 : Int32) : Option ((Nat × Nat × Int32 × Int32 × Int32 × Int32 × aH) ⊕ (Int32 × aH)) :=
  t_X2_spreadFrom_l41 Z h v0 v1 v2 v3 v4 v5 v6 0
theorem k_X2_spreadFrom_l40 {G : aG} {h0 : aH} {K : aRes → aH → Prop} {h : aH} {v0 : Nat} {v1 : Nat} {v2 : Int32} {v3 : Int32} {v4 : Int32} {v5 : Int32} {v6 : Int32} {e : ((Nat × Nat × Int32 × Int32 × Int32 × Int32 × aH) ⊕ (Int32 × aH))} (hT : t_X2_spreadFrom_l40 (gZ G) h v0 v1 v2 v3 v4 v5 v6 = some e) (he : (Sum.elim (p_X2_spreadFrom_b6 G h0 K) (fun e => aTo (aEI e.1 e.2) K)) e) : aW G M_X2_spreadFrom 3 86 h0 K h 40 [some (.ref v0), some (.ref v1), some (.int v2), some (.int v3), some (.int v4), some (.int v5), some (.int v6), none] [] := by
  unfold t_X2_spreadFrom_l40 at hT
  refine a_iconst (v := 0) dX2_spreadFrom_40 (by decide) ?_
  exact k_X2_spreadFrom_l41 hT he
def t_X2_spreadFrom_b6 (Z : aZ) : (Nat × Nat × Int32 × Int32 × Int32 × Int32 × aH) → Option ((Nat × Nat × Int32 × Int32 × Int32 × Int32 × aH) ⊕ (Int32 × aH)) := fun (v0, v1, v2, v3, v4, v5, h) =>
  if 4 ≤ v5 then
    if v4 = 0 ∨ v4 = 1 then some (.inr ((v4, h))) else none
  else
    (t_X1_neighbour v2 v5).bind fun r4 =>
    if r4 = (-1) then
      t_X2_spreadFrom_l40 Z h v0 v1 v2 v3 v4 v5 r4
    else
      if isC 1 h v0 = true then
      (t_X2_isGap Z h v0 v2 r4).bind fun r36 =>
      if r36.1 = 0 then
        t_X2_spreadFrom_l40 Z r36.2 v0 v1 v2 v3 v4 v5 r4
      else
        t_X2_spreadFrom_l41 Z r36.2 v0 v1 v2 v3 v4 v5 r4 1
      else none
theorem kb_X2_spreadFrom_b6 {G : aG} {h0 : aH} {K : aRes → aH → Prop} : ∀ (x9 : (Nat × Nat × Int32 × Int32 × Int32 × Int32 × aH)) (e : ((Nat × Nat × Int32 × Int32 × Int32 × Int32 × aH) ⊕ (Int32 × aH))), t_X2_spreadFrom_b6 (gZ G) x9 = some e → (Sum.elim (p_X2_spreadFrom_b6 G h0 K) (fun e => aTo (aEI e.1 e.2) K)) e → p_X2_spreadFrom_b6 G h0 K x9 := by
  intro x9 e hT he
  obtain ⟨v0, v1, v2, v3, v4, v5, h⟩ := x9
  unfold p_X2_spreadFrom_b6
  unfold t_X2_spreadFrom_b6 at hT
  show aW G M_X2_spreadFrom 3 86 h0 K h 6 [some (.ref v0), some (.ref v1), some (.int v2), some (.int v3), some (.int v4), some (.int v5), none, none] []
  dsimp only at hT
  refine a_iload dX2_spreadFrom_6 rfl ?_
  refine a_iconst (v := 4) dX2_spreadFrom_8 (by decide) ?_
  refine a_icmp_ge 131 dX2_spreadFrom_9 rfl (fun c1 => ?_) (fun c1 => ?_)
  · have hT := oifp c1 hT
    refine a_iload dX2_spreadFrom_131 rfl ?_
    obtain ⟨g9, hT⟩ := oifg hT
    obtain rfl := Option.some.inj hT
    exact a_iret rfl (nZ g9) dX2_spreadFrom_133 (he _ _ ⟨rfl, rfl⟩)
  · have hT := oifn c1 hT
    refine a_iload_n dX2_spreadFrom_12 rfl ?_
    refine a_iload dX2_spreadFrom_13 rfl ?_
    obtain ⟨r4, e5, hT⟩ := obnd hT
    refine a_callS ks_X2_94 (k_X1_neighbour e5) ⟨Nat.le_of_ble_eq_true rfl, Nat.le_of_ble_eq_true rfl⟩ (As := [.int v2, .int v5]) (rest := []) rfl rfl (Nat.le_of_ble_eq_true rfl) dX2_spreadFrom_15 (kI ?_) xI
    refine a_istore (lv' := [some (.ref v0), some (.ref v1), some (.int v2), some (.int v3), some (.int v4), some (.int v5), some (.int r4), none]) dX2_spreadFrom_18 rfl (by decide) rfl ?_
    refine a_iload dX2_spreadFrom_20 rfl ?_
    refine a_iconst (v := (-1)) dX2_spreadFrom_22 (by decide) ?_
    refine a_icmp_eq 40 dX2_spreadFrom_23 rfl (fun c6 => ?_) (fun c6 => ?_)
    · have hT := oifp c6 hT
      exact k_X2_spreadFrom_l40 hT he
    · have hT := oifn c6 hT
      refine a_aload_n dX2_spreadFrom_26 rfl ?_
      refine a_iload_n dX2_spreadFrom_27 rfl ?_
      refine a_iload dX2_spreadFrom_28 rfl ?_
      obtain ⟨g35, hT⟩ := oifg hT
      obtain ⟨r36, e37, hT⟩ := obnd hT
      refine a_callV kv_X2_97 g35 (k_X2_isGap e37) ⟨Nat.le_of_ble_eq_true rfl, Nat.le_of_ble_eq_true rfl⟩ (As := [.int v2, .int r4]) (rest := []) rfl rfl (Nat.le_of_ble_eq_true rfl) dX2_spreadFrom_30 (kI ?_) xI
      refine a_if_eq 40 dX2_spreadFrom_33 rfl (fun c38 => ?_) (fun c38 => ?_)
      · have hT := oifp c38 hT
        exact k_X2_spreadFrom_l40 hT he
      · have hT := oifn c38 hT
        refine a_iconst (v := 1) dX2_spreadFrom_36 (by decide) ?_
        refine a_goto 41 dX2_spreadFrom_37 rfl ?_
        exact k_X2_spreadFrom_l41 hT he
theorem k_X2_spreadFrom_b6 {G : aG} {h0 : aH} {K : aRes → aH → Prop} {n9 : Nat} {x9 : (Nat × Nat × Int32 × Int32 × Int32 × Int32 × aH)} {e : (Int32 × aH)} (hT : wlo (t_X2_spreadFrom_b6 (gZ G)) n9 x9 = some e) (he : (fun e => aTo (aEI e.1 e.2) K) e) : p_X2_spreadFrom_b6 G h0 K x9 := wlo_W kb_X2_spreadFrom_b6 n9 x9 e hT he
def t_X2_spreadFrom (Z : aZ) (h : aH) (o : Nat) (x0 : Nat) (x1 : Int32) (x2 : Int32) : Option (Int32 × aH) :=
  wlo (t_X2_spreadFrom_b6 Z) 100 (o, x0, x1, x2, 0, 0, h)
theorem k_X2_spreadFrom {G : aG} {h : aH} {o : Nat} {x0 : Nat} {x1 : Int32} {x2 : Int32} {e : (Int32 × aH)} (hT : t_X2_spreadFrom (gZ G) h o x0 x1 x2 = some e) : aMet G yX2_spreadFrom (ws_ yX2_spreadFrom cX2_spreadFrom 8 (Option.some Jvm.ClassFile.FieldType.boolean)) 3 86 [.ref o, .ref x0, .int x1, .int x2] h (aEI e.1 e.2) := by
  refine aMet.of (lv := [some (.ref o), some (.ref x0), some (.int x1), some (.int x2), none, none, none, none]) (by decide) (Nat.le_of_ble_eq_true rfl) 4 rfl ?_
  have he : aTo (aEI e.1 e.2) (aEI e.1 e.2) := aTo.rf
  unfold t_X2_spreadFrom at hT
  refine a_iconst (v := 0) dX2_spreadFrom_0 (by decide) ?_
  refine a_istore (lv' := [some (.ref o), some (.ref x0), some (.int x1), some (.int x2), some (.int 0), none, none, none]) dX2_spreadFrom_1 rfl (by decide) rfl ?_
  refine a_iconst (v := 0) dX2_spreadFrom_3 (by decide) ?_
  refine a_istore (lv' := [some (.ref o), some (.ref x0), some (.int x1), some (.int x2), some (.int 0), some (.int 0), none, none]) dX2_spreadFrom_4 rfl (by decide) rfl ?_
  exact k_X2_spreadFrom_b6 hT he
theorem kv_X2_101 : aKV "MazeBonds$Core" 101 1 yX2_byNeighbours cX2_byNeighbours 8 (Option.some Jvm.ClassFile.FieldType.int) 4 := ⟨⟨TX2, 7, rfl⟩, Or.inl q975, q977, qs14, q73, q978, ⟨by decide +kernel, by decide +kernel, by decide +kernel⟩⟩
