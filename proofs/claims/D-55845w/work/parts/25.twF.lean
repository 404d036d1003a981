/-! the twin, decompiled (written by gen/twin.py) -/
set_option maxRecDepth 100000
abbrev M_X3_does : aM := (yX3_does.cls, cX3_does, 5, (Option.none : Option Jvm.ClassFile.FieldType), [], yX3_does.name)
def t_X3_does (s : tS) (x0 : Int32) : Option (Unit × tS) :=
  (tld 14 s (x0 + 1)).bind fun z2 =>
  (tld 14 s (x0 + 2)).bind fun z4 =>
  (tld 14 s (x0 + 3)).bind fun z6 =>
  (tld 14 s x0).bind fun z8 =>
  if z8 = 98 then
    (t_X3_bondIt s z2 z4 z6).bind fun r12 =>
    some ((), r12.2)
  else
    if z8 = 103 then
      (t_X3_gardenerIt s z2).bind fun r17 =>
      some ((), r17.2)
    else
      if z8 = 104 then
        (t_X3_hedgeIt s z2 z4 z6).bind fun r22 =>
        some ((), r22.2)
      else
        if z8 = 109 then
          (t_X3_minotaurIt s z2).bind fun r27 =>
          some ((), r27.2)
        else
          if z8 = 115 then
            (t_X3_summerIt s).bind fun r32 =>
            some ((), r32.2)
          else
            if z8 = 116 then
              (t_X3_trimIt s z2 z4 z6).bind fun r37 =>
              some ((), r37.2)
            else
              if z8 = 118 then
                (t_X3_visitorIt s z2).bind fun r42 =>
                some ((), r42.2)
              else
                if z8 = 119 then
                  (t_X3_walkIt s z2 z4).bind fun r47 =>
                  some ((), r47.2)
                else
                  (t_X3_restIt s z2 z4).bind fun r51 =>
                  some ((), r51.2)
theorem k_X3_does {G : aG} {B : aH} {T : Nat → Nat} (ht : tOk (gZ G) T) {s : tS} {x0 : Int32} {e : (Unit × tS)} (hT : t_X3_does s x0 = some e) : aMet G yX3_does (ws_ yX3_does cX3_does 5 (Option.none : Option Jvm.ClassFile.FieldType)) 6 137 [.ref (T 100), .int x0] (tput (gZ G) B T s) (aEV e.1 (tput (gZ G) B T e.2)) := by
  refine aMet.of (lv := [some (.ref (T 100)), some (.int x0), none, none, none]) (by decide) (Nat.le_of_ble_eq_true rfl) 3 rfl ?_
  have he : aTo (aEV e.1 (tput (gZ G) B T e.2)) (aEV e.1 (tput (gZ G) B T e.2)) := aTo.rf
  unfold t_X3_does at hT
  refine a_aload_n dX3_does_0 rfl ?_
  refine a_gA fl_X3_32_2 (tw_gA ht 14 (by decide)) dX3_does_1 ?_
  refine a_iload_n dX3_does_4 rfl ?_
  refine a_iconst (v := 1) dX3_does_5 (by decide) ?_
  refine a_iadd dX3_does_6 ?_
  obtain ⟨z2, e1, hT⟩ := obnd hT
  refine a_ldI (tw_ld ht 14 (by decide) e1) dX3_does_7 ?_
  refine a_istore_n (lv' := [some (.ref (T 100)), some (.int x0), some (.int z2), none, none]) dX3_does_8 rfl (by decide) rfl ?_
  refine a_aload_n dX3_does_9 rfl ?_
  refine a_gA fl_X3_32_2 (tw_gA ht 14 (by decide)) dX3_does_10 ?_
  refine a_iload_n dX3_does_13 rfl ?_
  refine a_iconst (v := 2) dX3_does_14 (by decide) ?_
  refine a_iadd dX3_does_15 ?_
  obtain ⟨z4, e3, hT⟩ := obnd hT
  refine a_ldI (tw_ld ht 14 (by decide) e3) dX3_does_16 ?_
  refine a_istore_n (lv' := [some (.ref (T 100)), some (.int x0), some (.int z2), some (.int z4), none]) dX3_does_17 rfl (by decide) rfl ?_
  refine a_aload_n dX3_does_18 rfl ?_
  refine a_gA fl_X3_32_2 (tw_gA ht 14 (by decide)) dX3_does_19 ?_
  refine a_iload_n dX3_does_22 rfl ?_
  refine a_iconst (v := 3) dX3_does_23 (by decide) ?_
  refine a_iadd dX3_does_24 ?_
  obtain ⟨z6, e5, hT⟩ := obnd hT
  refine a_ldI (tw_ld ht 14 (by decide) e5) dX3_does_25 ?_
  refine a_istore (lv' := [some (.ref (T 100)), some (.int x0), some (.int z2), some (.int z4), some (.int z6)]) dX3_does_26 rfl (by decide) rfl ?_
  refine a_aload_n dX3_does_28 rfl ?_
  refine a_gA fl_X3_32_2 (tw_gA ht 14 (by decide)) dX3_does_29 ?_
  refine a_iload_n dX3_does_32 rfl ?_
  obtain ⟨z8, e7, hT⟩ := obnd hT
  refine a_ldI (tw_ld ht 14 (by decide) e7) dX3_does_33 ?_
  by_cases c9 : z8 = 98
  · have hT := oifp c9 hT
    refine a_tswIn 195 dX3_does_34 (by rw [c9]; decide) (by rw [c9]; decide) (off := 161) (by rw [c9]; rfl) rfl ?_
    refine a_aload_n dX3_does_195 rfl ?_
    refine a_iload_n dX3_does_196 rfl ?_
    refine a_iload_n dX3_does_197 rfl ?_
    refine a_iload dX3_does_198 rfl ?_
    obtain ⟨r12, e13, hT⟩ := obnd hT
    refine a_callV kv_X3_159 (tw_is ht) (k_X3_bondIt ht e13) ⟨Nat.le_of_ble_eq_true rfl, Nat.le_of_ble_eq_true rfl⟩ (As := [.int z2, .int z4, .int z6]) (rest := []) rfl rfl (Nat.le_of_ble_eq_true rfl) dX3_does_200 (kI ?_) xI
    refine a_pop dX3_does_203 rfl ?_
    refine a_goto 224 dX3_does_204 rfl ?_
    cases hT
    exact a_vret rfl dX3_does_224 (he _ _ ⟨rfl, rfl⟩)
  · have hT := oifn c9 hT
    by_cases c14 : z8 = 103
    · have hT := oifp c14 hT
      refine a_tswIn 177 dX3_does_34 (by rw [c14]; decide) (by rw [c14]; decide) (off := 143) (by rw [c14]; rfl) rfl ?_
      refine a_aload_n dX3_does_177 rfl ?_
      refine a_iload_n dX3_does_178 rfl ?_
      obtain ⟨r17, e18, hT⟩ := obnd hT
      refine a_callV kv_X3_139 (tw_is ht) (k_X3_gardenerIt ht e18) ⟨Nat.le_of_ble_eq_true rfl, Nat.le_of_ble_eq_true rfl⟩ (As := [.int z2]) (rest := []) rfl rfl (Nat.le_of_ble_eq_true rfl) dX3_does_179 (kI ?_) xI
      refine a_pop dX3_does_182 rfl ?_
      refine a_goto 224 dX3_does_183 rfl ?_
      cases hT
      exact a_vret rfl dX3_does_224 (he _ _ ⟨rfl, rfl⟩)
    · have hT := oifn c14 hT
      by_cases c19 : z8 = 104
      · have hT := oifp c19 hT
        refine a_tswIn 136 dX3_does_34 (by rw [c19]; decide) (by rw [c19]; decide) (off := 102) (by rw [c19]; rfl) rfl ?_
        refine a_aload_n dX3_does_136 rfl ?_
        refine a_iload_n dX3_does_137 rfl ?_
        refine a_iload_n dX3_does_138 rfl ?_
        refine a_iload dX3_does_139 rfl ?_
        obtain ⟨r22, e23, hT⟩ := obnd hT
        refine a_callV kv_X3_103 (tw_is ht) (k_X3_hedgeIt ht e23) ⟨Nat.le_of_ble_eq_true rfl, Nat.le_of_ble_eq_true rfl⟩ (As := [.int z2, .int z4, .int z6]) (rest := []) rfl rfl (Nat.le_of_ble_eq_true rfl) dX3_does_141 (kI ?_) xI
        refine a_pop dX3_does_144 rfl ?_
        refine a_goto 224 dX3_does_145 rfl ?_
        cases hT
        exact a_vret rfl dX3_does_224 (he _ _ ⟨rfl, rfl⟩)
      · have hT := oifn c19 hT
        by_cases c24 : z8 = 109
        · have hT := oifp c24 hT
          refine a_tswIn 168 dX3_does_34 (by rw [c24]; decide) (by rw [c24]; decide) (off := 134) (by rw [c24]; rfl) rfl ?_
          refine a_aload_n dX3_does_168 rfl ?_
          refine a_iload_n dX3_does_169 rfl ?_
          obtain ⟨r27, e28, hT⟩ := obnd hT
          refine a_callV kv_X3_134 (tw_is ht) (k_X3_minotaurIt ht e28) ⟨Nat.le_of_ble_eq_true rfl, Nat.le_of_ble_eq_true rfl⟩ (As := [.int z2]) (rest := []) rfl rfl (Nat.le_of_ble_eq_true rfl) dX3_does_170 (kI ?_) xI
          refine a_pop dX3_does_173 rfl ?_
          refine a_goto 224 dX3_does_174 rfl ?_
          cases hT
          exact a_vret rfl dX3_does_224 (he _ _ ⟨rfl, rfl⟩)
        · have hT := oifn c24 hT
          by_cases c29 : z8 = 115
          · have hT := oifp c29 hT
            refine a_tswIn 148 dX3_does_34 (by rw [c29]; decide) (by rw [c29]; decide) (off := 114) (by rw [c29]; rfl) rfl ?_
            refine a_aload_n dX3_does_148 rfl ?_
            obtain ⟨r32, e33, hT⟩ := obnd hT
            refine a_callV kv_X3_114 (tw_is ht) (k_X3_summerIt ht e33) ⟨Nat.le_of_ble_eq_true rfl, Nat.le_of_ble_eq_true rfl⟩ (As := []) (rest := []) rfl rfl (Nat.le_of_ble_eq_true rfl) dX3_does_149 (kI ?_) xI
            refine a_pop dX3_does_152 rfl ?_
            refine a_goto 224 dX3_does_153 rfl ?_
            cases hT
            exact a_vret rfl dX3_does_224 (he _ _ ⟨rfl, rfl⟩)
          · have hT := oifn c29 hT
            by_cases c34 : z8 = 116
            · have hT := oifp c34 hT
              refine a_tswIn 156 dX3_does_34 (by rw [c34]; decide) (by rw [c34]; decide) (off := 122) (by rw [c34]; rfl) rfl ?_
              refine a_aload_n dX3_does_156 rfl ?_
              refine a_iload_n dX3_does_157 rfl ?_
              refine a_iload_n dX3_does_158 rfl ?_
              refine a_iload dX3_does_159 rfl ?_
              obtain ⟨r37, e38, hT⟩ := obnd hT
              refine a_callV kv_X3_123 (tw_is ht) (k_X3_trimIt ht e38) ⟨Nat.le_of_ble_eq_true rfl, Nat.le_of_ble_eq_true rfl⟩ (As := [.int z2, .int z4, .int z6]) (rest := []) rfl rfl (Nat.le_of_ble_eq_true rfl) dX3_does_161 (kI ?_) xI
              refine a_pop dX3_does_164 rfl ?_
              refine a_goto 224 dX3_does_165 rfl ?_
              cases hT
              exact a_vret rfl dX3_does_224 (he _ _ ⟨rfl, rfl⟩)
            · have hT := oifn c34 hT
              by_cases c39 : z8 = 118
              · have hT := oifp c39 hT
                refine a_tswIn 186 dX3_does_34 (by rw [c39]; decide) (by rw [c39]; decide) (off := 152) (by rw [c39]; rfl) rfl ?_
                refine a_aload_n dX3_does_186 rfl ?_
                refine a_iload_n dX3_does_187 rfl ?_
                obtain ⟨r42, e43, hT⟩ := obnd hT
                refine a_callV kv_X3_151 (tw_is ht) (k_X3_visitorIt ht e43) ⟨Nat.le_of_ble_eq_true rfl, Nat.le_of_ble_eq_true rfl⟩ (As := [.int z2]) (rest := []) rfl rfl (Nat.le_of_ble_eq_true rfl) dX3_does_188 (kI ?_) xI
                refine a_pop dX3_does_191 rfl ?_
                refine a_goto 224 dX3_does_192 rfl ?_
                cases hT
                exact a_vret rfl dX3_does_224 (he _ _ ⟨rfl, rfl⟩)
              · have hT := oifn c39 hT
                by_cases c44 : z8 = 119
                · have hT := oifp c44 hT
                  refine a_tswIn 207 dX3_does_34 (by rw [c44]; decide) (by rw [c44]; decide) (off := 173) (by rw [c44]; rfl) rfl ?_
                  refine a_aload_n dX3_does_207 rfl ?_
                  refine a_iload_n dX3_does_208 rfl ?_
                  refine a_iload_n dX3_does_209 rfl ?_
                  obtain ⟨r47, e48, hT⟩ := obnd hT
                  refine a_callV kv_X3_168 (tw_is ht) (k_X3_walkIt ht e48) ⟨Nat.le_of_ble_eq_true rfl, Nat.le_of_ble_eq_true rfl⟩ (As := [.int z2, .int z4]) (rest := []) rfl rfl (Nat.le_of_ble_eq_true rfl) dX3_does_210 (kI ?_) xI
                  refine a_pop dX3_does_213 rfl ?_
                  refine a_goto 224 dX3_does_214 rfl ?_
                  cases hT
                  exact a_vret rfl dX3_does_224 (he _ _ ⟨rfl, rfl⟩)
                · have hT := oifn c44 hT
                  refine aTsw 217 dX3_does_34 rfl (cs := [98, 103, 104, 109, 115, 116, 118, 119]) (by decide +kernel) (by simp only [List.mem_cons, List.not_mem_nil, or_false]; rintro z9 (rfl | rfl | rfl | rfl | rfl | rfl | rfl | rfl) <;> assumption) ?_
                  refine a_aload_n dX3_does_217 rfl ?_
                  refine a_iload_n dX3_does_218 rfl ?_
                  refine a_iload_n dX3_does_219 rfl ?_
                  obtain ⟨r51, e52, hT⟩ := obnd hT
                  refine a_callV kv_X3_171 (tw_is ht) (k_X3_restIt ht e52) ⟨Nat.le_of_ble_eq_true rfl, Nat.le_of_ble_eq_true rfl⟩ (As := [.int z2, .int z4]) (rest := []) rfl rfl (Nat.le_of_ble_eq_true rfl) dX3_does_220 (kI ?_) xI
                  refine a_pop dX3_does_223 rfl ?_
                  cases hT
                  exact a_vret rfl dX3_does_224 (he _ _ ⟨rfl, rfl⟩)
abbrev M_X3_visitor : aM := (yX3_visitor.cls, cX3_visitor, 2, (Option.some Jvm.ClassFile.FieldType.int), [], yX3_visitor.name)
def t_X3_visitor (s : tS) (x0 : Int32) : Option (Int32 × tS) :=
  (t_X3_starts s).bind fun r3 =>
  (t_X3_visitorIt r3.2 x0).bind fun r7 =>
  (t_X3_changed r7.2 r7.1).bind fun r11 =>
  some (r11.1, r11.2)
theorem k_X3_visitor {G : aG} {B : aH} {T : Nat → Nat} (ht : tOk (gZ G) T) {s : tS} {x0 : Int32} {e : (Int32 × tS)} (hT : t_X3_visitor s x0 = some e) : aMet G yX3_visitor (ws_ yX3_visitor cX3_visitor 2 (Option.some Jvm.ClassFile.FieldType.int)) 6 137 [.ref (T 100), .int x0] (tput (gZ G) B T s) (aEI e.1 (tput (gZ G) B T e.2)) := by
  refine aMet.of (lv := [some (.ref (T 100)), some (.int x0)]) (by decide) (Nat.le_of_ble_eq_true rfl) 0 rfl ?_
  have he : aTo (aEI e.1 (tput (gZ G) B T e.2)) (aEI e.1 (tput (gZ G) B T e.2)) := aTo.rf
  unfold t_X3_visitor at hT
  refine a_aload_n dX3_visitor_0 rfl ?_
  obtain ⟨r3, e4, hT⟩ := obnd hT
  refine a_callV kv_X3_100 (tw_is ht) (k_X3_starts ht e4) ⟨Nat.le_of_ble_eq_true rfl, Nat.le_of_ble_eq_true rfl⟩ (As := []) (rest := []) rfl rfl (Nat.le_of_ble_eq_true rfl) dX3_visitor_1 (kV ?_) xV
  refine a_aload_n dX3_visitor_4 rfl ?_
  refine a_aload_n dX3_visitor_5 rfl ?_
  refine a_iload_n dX3_visitor_6 rfl ?_
  obtain ⟨r7, e8, hT⟩ := obnd hT
  refine a_callV kv_X3_151 (tw_is ht) (k_X3_visitorIt ht e8) ⟨Nat.le_of_ble_eq_true rfl, Nat.le_of_ble_eq_true rfl⟩ (As := [.int x0]) (rest := [.ref (T 100)]) rfl rfl (Nat.le_of_ble_eq_true rfl) dX3_visitor_7 (kI ?_) xI
  obtain ⟨r11, e12, hT⟩ := obnd hT
  refine a_callV kv_X3_107 (tw_is ht) (k_X3_changed ht e12) ⟨Nat.le_of_ble_eq_true rfl, Nat.le_of_ble_eq_true rfl⟩ (As := [.int r7.1]) (rest := []) rfl rfl (Nat.le_of_ble_eq_true rfl) dX3_visitor_10 (kI ?_) xI
  cases hT
  exact a_iret rfl rfl dX3_visitor_13 (he _ _ ⟨rfl, rfl⟩)
theorem fp_X3_201_2 (nm9 : String) : aFP "MazeBondsModel" 201 2 17 .int nm9 := ⟨RX3, TX3, 21, "MazeBondsModel", tyX3, rfl, in_X3, by decide, Or.inl rfl, Or.inl q1720, tyX3_ok, nmX3, rfl, Or.inl rfl⟩
theorem fp_X3_22_2 (nm9 : String) : aFP "MazeBondsModel" 22 2 9 .int nm9 := ⟨RX3, TX3, 21, "MazeBondsModel", tyX3, rfl, in_X3, by decide, Or.inl rfl, Or.inl q1712, tyX3_ok, nmX3, rfl, Or.inl rfl⟩
theorem kv_X3_238 : aKV "MazeBondsModel" 238 2 yX3_does cX3_does 5 (Option.none : Option Jvm.ClassFile.FieldType) 1 := ⟨⟨TX3, 21, rfl⟩, Or.inl q2059, q2061, qs64, q81, q2062, ⟨by decide +kernel, by decide +kernel, by decide +kernel⟩⟩
theorem kv_X3_235 : aKV "MazeBondsModel" 235 2 yX3_readOrder cX3_readOrder 3 (Option.none : Option Jvm.ClassFile.FieldType) 0 := ⟨⟨TX3, 21, rfl⟩, Or.inl q2030, q2032, qs58, q81, q2033, ⟨by decide +kernel, by decide +kernel, by decide +kernel⟩⟩
abbrev M_X3_commands : aM := (yX3_commands.cls, cX3_commands, 4, (Option.some Jvm.ClassFile.FieldType.int), [], yX3_commands.name)
def p_X3_commands_b34 (G : aG) (h0 : aH) (K : aRes → aH → Prop) (B : aH) (T : Nat → Nat) (x9 : (Int32 × tS)) : Prop := aW G M_X3_commands 7 161 h0 K (tput (gZ G) B T x9.2) 34 [some (.ref (T 100)), some (.int x9.1), none, none] []
def p_X3_commands_b138 (G : aG) (h0 : aH) (K : aRes → aH → Prop) (B : aH) (T : Nat → Nat) (x9 : (Int32 × tS)) : Prop := aW G M_X3_commands 7 161 h0 K (tput (gZ G) B T x9.2) 138 [some (.ref (T 100)), none, some (.int x9.1), none] []
def t_X3_commands_l203 (s : tS)  : Option (Int32 × tS) :=
  (t_X3_changed s (s.1 15)).bind fun r23 =>
  some (r23.1, r23.2)
theorem k_X3_commands_l203 {G : aG} {h0 B : aH} {T : Nat → Nat} {K : aRes → aH → Prop} (ht : tOk (gZ G) T) {s : tS}  {e : (Int32 × tS)} (hT : t_X3_commands_l203 s  = some e) (he : (fun e => aTo (aEI e.1 (tput (gZ G) B T e.2)) K) e) : aW G M_X3_commands 7 161 h0 K (tput (gZ G) B T s) 203 [some (.ref (T 100)), none, none, none] [] := by
  unfold t_X3_commands_l203 at hT
  refine a_aload_n dX3_commands_203 rfl ?_
  refine a_aload_n dX3_commands_204 rfl ?_
  refine a_gI fl_X3_225_2 (tw_gI ht 15 (by decide)) dX3_commands_205 ?_
  obtain ⟨r23, e24, hT⟩ := obnd hT
  refine a_callV kv_X3_107 (tw_is ht) (k_X3_changed ht e24) ⟨Nat.le_of_ble_eq_true rfl, Nat.le_of_ble_eq_true rfl⟩ (As := [.int (s.1 15)]) (rest := []) rfl rfl (Nat.le_of_ble_eq_true rfl) dX3_commands_208 (kI ?_) xI
  cases hT
  exact a_iret rfl rfl dX3_commands_211 (he _ _ ⟨rfl, rfl⟩)
def p_X3_commands_b162 (G : aG) (h0 : aH) (K : aRes → aH → Prop) (B : aH) (T : Nat → Nat) (x9 : (Int32 × Int32 × tS)) : Prop := aW G M_X3_commands 7 161 h0 K (tput (gZ G) B T x9.2.2) 162 [some (.ref (T 100)), none, some (.int x9.1), some (.int x9.2.1)] []
def t_X3_commands_l186 (s : tS) (v2 : Int32) : Option (Int32 × tS) :=
  (tpf 8 s v2).bind fun s32 =>
  (t_X3_throwing s32 2).bind fun r35 =>
  some (r35.1, r35.2)
theorem k_X3_commands_l186 {G : aG} {h0 B : aH} {T : Nat → Nat} {K : aRes → aH → Prop} (ht : tOk (gZ G) T) {s : tS} {v2 : Int32} {e : (Int32 × tS)} (hT : t_X3_commands_l186 s v2 = some e) (he : (fun e => aTo (aEI e.1 (tput (gZ G) B T e.2)) K) e) : aW G M_X3_commands 7 161 h0 K (tput (gZ G) B T s) 186 [some (.ref (T 100)), none, some (.int v2), none] [] := by
  unfold t_X3_commands_l186 at hT
  refine a_aload_n dX3_commands_186 rfl ?_
  refine a_iload_n dX3_commands_187 rfl ?_
  obtain ⟨s32, e31, hT⟩ := obnd hT
  refine a_put (fp_X3_47_2 _) ⟨rfl, rfl⟩ (tw_pf ht 8 (by decide) e31) dX3_commands_188 ?_
  refine a_aload_n dX3_commands_191 rfl ?_
  refine a_iconst (v := 2) dX3_commands_192 (by decide) ?_
  obtain ⟨r35, e36, hT⟩ := obnd hT
  refine a_callV kv_X3_50 (tw_is ht) (k_X3_throwing ht e36) ⟨Nat.le_of_ble_eq_true rfl, Nat.le_of_ble_eq_true rfl⟩ (As := [.int 2]) (rest := []) rfl rfl (Nat.le_of_ble_eq_true rfl) dX3_commands_193 (kI ?_) xI
  cases hT
  exact a_iret rfl rfl dX3_commands_196 (he _ _ ⟨rfl, rfl⟩)
def t_X3_commands_b162 : (Int32 × Int32 × tS) → Option ((Int32 × Int32 × tS) ⊕ (Int32 × tS)) := fun (v2, v3, s) =>
  if 86 ≤ v3 then
    (t_X3_commands_l186 s v2).map .inr
  else
    (tld 1 s v3).bind fun z38 =>
    (tst 0 s v3 z38).bind fun s40 =>
    some (.inl (v2, (v3 + 1), s40))
theorem kb_X3_commands_b162 {G : aG} {h0 B : aH} {T : Nat → Nat} {K : aRes → aH → Prop} (ht : tOk (gZ G) T) : ∀ (x9 : (Int32 × Int32 × tS)) (e : ((Int32 × Int32 × tS) ⊕ (Int32 × tS))), t_X3_commands_b162 x9 = some e → (Sum.elim (p_X3_commands_b162 G h0 K B T) (fun e => aTo (aEI e.1 (tput (gZ G) B T e.2)) K)) e → p_X3_commands_b162 G h0 K B T x9 := by
  intro x9 e hT he
  obtain ⟨v2, v3, s⟩ := x9
  unfold p_X3_commands_b162
  unfold t_X3_commands_b162 at hT
  show aW G M_X3_commands 7 161 h0 K (tput (gZ G) B T s) 162 [some (.ref (T 100)), none, some (.int v2), some (.int v3)] []
  dsimp only at hT
  refine a_iload_n dX3_commands_162 rfl ?_
  refine a_bipush (v := 86) dX3_commands_163 (by decide) ?_
  refine a_icmp_ge 186 dX3_commands_165 rfl (fun c30 => ?_) (fun c30 => ?_)
  · have hT := oifp c30 hT
    refine a_mask [true, true, true, false] ?_
    obtain ⟨e8, hT8, rfl⟩ := omap hT
    exact k_X3_commands_l186 ht hT8 he
  · have hT := oifn c30 hT
    refine a_aload_n dX3_commands_168 rfl ?_
    refine a_gA fl_X3_9_2 (tw_gA ht 0 (by decide)) dX3_commands_169 ?_
    refine a_iload_n dX3_commands_172 rfl ?_
    refine a_aload_n dX3_commands_173 rfl ?_
    refine a_gA fl_X3_13_2 (tw_gA ht 1 (by decide)) dX3_commands_174 ?_
    refine a_iload_n dX3_commands_177 rfl ?_
    obtain ⟨z38, e37, hT⟩ := obnd hT
    refine a_ldI (tw_ld ht 1 (by decide) e37) dX3_commands_178 ?_
    obtain ⟨s40, e39, hT⟩ := obnd hT
    refine a_stI (tw_st ht 0 (by decide) e39) dX3_commands_179 ?_
    refine a_iinc (v := (v3 + 1)) (lv' := [some (.ref (T 100)), none, some (.int v2), some (.int (v3 + 1))]) dX3_commands_180 rfl (by rfl) rfl (by decide) rfl ?_
    refine a_goto 162 dX3_commands_183 rfl ?_
    cases hT
    exact he
theorem k_X3_commands_b162 {G : aG} {h0 B : aH} {T : Nat → Nat} {K : aRes → aH → Prop} (ht : tOk (gZ G) T) {n9 : Nat} {x9 : (Int32 × Int32 × tS)} {e : (Int32 × tS)} (hT : wlo t_X3_commands_b162 n9 x9 = some e) (he : (fun e => aTo (aEI e.1 (tput (gZ G) B T e.2)) K) e) : p_X3_commands_b162 G h0 K B T x9 := wlo_W (kb_X3_commands_b162 ht) n9 x9 e hT he
def t_X3_commands_l160 (s : tS) (v2 : Int32) : Option (Int32 × tS) :=
  wlo t_X3_commands_b162 300 (v2, 0, s)
theorem k_X3_commands_l160 {G : aG} {h0 B : aH} {T : Nat → Nat} {K : aRes → aH → Prop} (ht : tOk (gZ G) T) {s : tS} {v2 : Int32} {e : (Int32 × tS)} (hT : t_X3_commands_l160 s v2 = some e) (he : (fun e => aTo (aEI e.1 (tput (gZ G) B T e.2)) K) e) : aW G M_X3_commands 7 161 h0 K (tput (gZ G) B T s) 160 [some (.ref (T 100)), none, some (.int v2), none] [] := by
  unfold t_X3_commands_l160 at hT
  refine a_iconst (v := 0) dX3_commands_160 (by decide) ?_
  refine a_istore_n (lv' := [some (.ref (T 100)), none, some (.int v2), some (.int 0)]) dX3_commands_161 rfl (by decide) rfl ?_
  exact k_X3_commands_b162 ht hT he
def t_X3_commands_b138 : (Int32 × tS) → Option ((Int32 × tS) ⊕ (Int32 × tS)) := fun (v2, s) =>
  if (s.1 15) ≤ v2 then
    (t_X3_commands_l203 s).map .inr
  else
    (t_X3_does s (4 * v2)).bind fun r27 =>
    if (r27.2.1 12) ≤ 0 then
      some (.inl ((v2 + 1), r27.2))
    else
      (t_X3_commands_l160 r27.2 v2).map .inr
theorem kb_X3_commands_b138 {G : aG} {h0 B : aH} {T : Nat → Nat} {K : aRes → aH → Prop} (ht : tOk (gZ G) T) : ∀ (x9 : (Int32 × tS)) (e : ((Int32 × tS) ⊕ (Int32 × tS))), t_X3_commands_b138 x9 = some e → (Sum.elim (p_X3_commands_b138 G h0 K B T) (fun e => aTo (aEI e.1 (tput (gZ G) B T e.2)) K)) e → p_X3_commands_b138 G h0 K B T x9 := by
  intro x9 e hT he
  obtain ⟨v2, s⟩ := x9
  unfold p_X3_commands_b138
  unfold t_X3_commands_b138 at hT
  show aW G M_X3_commands 7 161 h0 K (tput (gZ G) B T s) 138 [some (.ref (T 100)), none, some (.int v2), none] []
  dsimp only at hT
  refine a_iload_n dX3_commands_138 rfl ?_
  refine a_aload_n dX3_commands_139 rfl ?_
  refine a_gI fl_X3_225_2 (tw_gI ht 15 (by decide)) dX3_commands_140 ?_
  refine a_icmp_ge 203 dX3_commands_143 rfl (fun c20 => ?_) (fun c20 => ?_)
  · have hT := oifp c20 hT
    refine a_mask [true, true, false, true] ?_
    obtain ⟨e8, hT8, rfl⟩ := omap hT
    exact k_X3_commands_l203 ht hT8 he
  · have hT := oifn c20 hT
    refine a_aload_n dX3_commands_146 rfl ?_
    refine a_iconst (v := 4) dX3_commands_147 (by decide) ?_
    refine a_iload_n dX3_commands_148 rfl ?_
    refine a_imul dX3_commands_149 ?_
    obtain ⟨r27, e28, hT⟩ := obnd hT
    refine a_callV kv_X3_238 (tw_is ht) (k_X3_does ht e28) ⟨Nat.le_of_ble_eq_true rfl, Nat.le_of_ble_eq_true rfl⟩ (As := [.int (4 * v2)]) (rest := []) rfl rfl (Nat.le_of_ble_eq_true rfl) dX3_commands_150 (kV ?_) xV
    refine a_aload_n dX3_commands_153 rfl ?_
    refine a_gI fl_X3_38_2 (tw_gI ht 12 (by decide)) dX3_commands_154 ?_
    refine a_if_le 197 dX3_commands_157 rfl (fun c29 => ?_) (fun c29 => ?_)
    · have hT := oifp c29 hT
      refine a_iinc (v := (v2 + 1)) (lv' := [some (.ref (T 100)), none, some (.int (v2 + 1)), none]) dX3_commands_197 rfl (by rfl) rfl (by decide) rfl ?_
      refine a_goto 138 dX3_commands_200 rfl ?_
      cases hT
      exact he
    · have hT := oifn c29 hT
      obtain ⟨e8, hT8, rfl⟩ := omap hT
      exact k_X3_commands_l160 ht hT8 he
theorem k_X3_commands_b138 {G : aG} {h0 B : aH} {T : Nat → Nat} {K : aRes → aH → Prop} (ht : tOk (gZ G) T) {n9 : Nat} {x9 : (Int32 × tS)} {e : (Int32 × tS)} (hT : wlo t_X3_commands_b138 n9 x9 = some e) (he : (fun e => aTo (aEI e.1 (tput (gZ G) B T e.2)) K) e) : p_X3_commands_b138 G h0 K B T x9 := wlo_W (kb_X3_commands_b138 ht) n9 x9 e hT he
def t_X3_commands_l120 (s : tS) (u0 : Int32) : Option (Int32 × tS) :=
  (tpf 9 s u0).bind fun s18 =>
  if (s18.1 18) = 0 then
    wlo t_X3_commands_b138 300 (0, s18)
  else
    (t_X3_throwing s18 1).bind fun r43 =>
    some (r43.1, r43.2)
theorem k_X3_commands_l120 {G : aG} {h0 B : aH} {T : Nat → Nat} {K : aRes → aH → Prop} (ht : tOk (gZ G) T) {s : tS} {u0 : Int32} {e : (Int32 × tS)} (hT : t_X3_commands_l120 s u0 = some e) (he : (fun e => aTo (aEI e.1 (tput (gZ G) B T e.2)) K) e) : aW G M_X3_commands 7 161 h0 K (tput (gZ G) B T s) 120 [some (.ref (T 100)), none, none, none] [.int u0, .ref (T 100)] := by
  unfold t_X3_commands_l120 at hT
  obtain ⟨s18, e17, hT⟩ := obnd hT
  refine a_put (fp_X3_22_2 _) ⟨rfl, rfl⟩ (tw_pf ht 9 (by decide) e17) dX3_commands_120 ?_
  refine a_aload_n dX3_commands_123 rfl ?_
  refine a_gI fl_X3_204_2 (tw_gI ht 18 (by decide)) dX3_commands_124 ?_
  refine a_if_eq 136 dX3_commands_127 rfl (fun c19 => ?_) (fun c19 => ?_)
  · have hT := oifp c19 hT
    refine a_iconst (v := 0) dX3_commands_136 (by decide) ?_
    refine a_istore_n (lv' := [some (.ref (T 100)), none, some (.int 0), none]) dX3_commands_137 rfl (by decide) rfl ?_
    exact k_X3_commands_b138 ht hT he
  · have hT := oifn c19 hT
    refine a_aload_n dX3_commands_130 rfl ?_
    refine a_iconst (v := 1) dX3_commands_131 (by decide) ?_
    obtain ⟨r43, e44, hT⟩ := obnd hT
    refine a_callV kv_X3_50 (tw_is ht) (k_X3_throwing ht e44) ⟨Nat.le_of_ble_eq_true rfl, Nat.le_of_ble_eq_true rfl⟩ (As := [.int 1]) (rest := []) rfl rfl (Nat.le_of_ble_eq_true rfl) dX3_commands_132 (kI ?_) xI
    cases hT
    exact a_iret rfl rfl dX3_commands_135 (he _ _ ⟨rfl, rfl⟩)
def t_X3_commands_l104 (s : tS)  : Option (Int32 × tS) :=
  if (s.1 18) = 0 then
    t_X3_commands_l120 s (-1)
  else
    t_X3_commands_l120 s (s.1 16)
theorem k_X3_commands_l104 {G : aG} {h0 B : aH} {T : Nat → Nat} {K : aRes → aH → Prop} (ht : tOk (gZ G) T) {s : tS}  {e : (Int32 × tS)} (hT : t_X3_commands_l104 s  = some e) (he : (fun e => aTo (aEI e.1 (tput (gZ G) B T e.2)) K) e) : aW G M_X3_commands 7 161 h0 K (tput (gZ G) B T s) 104 [some (.ref (T 100)), none, none, none] [] := by
  unfold t_X3_commands_l104 at hT
  refine a_aload_n dX3_commands_104 rfl ?_
  refine a_aload_n dX3_commands_105 rfl ?_
  refine a_gI fl_X3_204_2 (tw_gI ht 18 (by decide)) dX3_commands_106 ?_
  refine a_if_eq 119 dX3_commands_109 rfl (fun c16 => ?_) (fun c16 => ?_)
  · have hT := oifp c16 hT
    refine a_iconst (v := (-1)) dX3_commands_119 (by decide) ?_
    exact k_X3_commands_l120 ht hT he
  · have hT := oifn c16 hT
    refine a_aload_n dX3_commands_112 rfl ?_
    refine a_gI fl_X3_198_2 (tw_gI ht 16 (by decide)) dX3_commands_113 ?_
    refine a_goto 120 dX3_commands_116 rfl ?_
    exact k_X3_commands_l120 ht hT he
def t_X3_commands_l100 (s : tS) (u0 : Int32) : Option ((Int32 × tS) ⊕ (Int32 × tS)) :=
  some (.inl (u0, s))
theorem k_X3_commands_l100 {G : aG} {h0 B : aH} {T : Nat → Nat} {K : aRes → aH → Prop} (ht : tOk (gZ G) T) {s : tS} {u0 : Int32} {e : ((Int32 × tS) ⊕ (Int32 × tS))} (hT : t_X3_commands_l100 s u0 = some e) (he : (Sum.elim (p_X3_commands_b34 G h0 K B T) (fun e => aTo (aEI e.1 (tput (gZ G) B T e.2)) K)) e) : aW G M_X3_commands 7 161 h0 K (tput (gZ G) B T s) 100 [some (.ref (T 100)), none, none, none] [.int u0] := by
  unfold t_X3_commands_l100 at hT
  refine a_istore_n (lv' := [some (.ref (T 100)), some (.int u0), none, none]) dX3_commands_100 rfl (by decide) rfl ?_
  refine a_goto 34 dX3_commands_101 rfl ?_
  cases hT
  exact he
def t_X3_commands_l85 (s : tS) (u0 : Int32) : Option ((Int32 × tS) ⊕ (Int32 × tS)) :=
  (t_X3_expects s u0).bind fun r58 =>
  if (r58.2.1 18) = 0 then
    t_X3_commands_l100 r58.2 1
  else
    t_X3_commands_l100 r58.2 0
theorem k_X3_commands_l85 {G : aG} {h0 B : aH} {T : Nat → Nat} {K : aRes → aH → Prop} (ht : tOk (gZ G) T) {s : tS} {u0 : Int32} {e : ((Int32 × tS) ⊕ (Int32 × tS))} (hT : t_X3_commands_l85 s u0 = some e) (he : (Sum.elim (p_X3_commands_b34 G h0 K B T) (fun e => aTo (aEI e.1 (tput (gZ G) B T e.2)) K)) e) : aW G M_X3_commands 7 161 h0 K (tput (gZ G) B T s) 85 [some (.ref (T 100)), none, none, none] [.int u0, .ref (T 100)] := by
  unfold t_X3_commands_l85 at hT
  obtain ⟨r58, e59, hT⟩ := obnd hT
  refine a_callV kv_X3_215 (tw_is ht) (k_X3_expects ht e59) ⟨Nat.le_of_ble_eq_true rfl, Nat.le_of_ble_eq_true rfl⟩ (As := [.int u0]) (rest := []) rfl rfl (Nat.le_of_ble_eq_true rfl) dX3_commands_85 (kV ?_) xV
  refine a_aload_n dX3_commands_88 rfl ?_
  refine a_gI fl_X3_204_2 (tw_gI ht 18 (by decide)) dX3_commands_89 ?_
  refine a_if_ne 99 dX3_commands_92 rfl (fun c60 => ?_) (fun c60 => ?_)
  · have hT := oifn c60 hT
    refine a_iconst (v := 0) dX3_commands_99 (by decide) ?_
    exact k_X3_commands_l100 ht hT he
  · have hT := oifp c60 hT
    refine a_iconst (v := 1) dX3_commands_95 (by decide) ?_
    refine a_goto 100 dX3_commands_96 rfl ?_
    exact k_X3_commands_l100 ht hT he
def t_X3_commands_l65 (s : tS) (u0 : Int32) : Option ((Int32 × tS) ⊕ (Int32 × tS)) :=
  if u0 = 0 then
    some (.inl (u0, s))
  else
    (t_X3_here s).bind fun r53 =>
    if r53.1 = 59 then
      t_X3_commands_l85 r53.2 1
    else
      t_X3_commands_l85 r53.2 0
theorem k_X3_commands_l65 {G : aG} {h0 B : aH} {T : Nat → Nat} {K : aRes → aH → Prop} (ht : tOk (gZ G) T) {s : tS} {u0 : Int32} {e : ((Int32 × tS) ⊕ (Int32 × tS))} (hT : t_X3_commands_l65 s u0 = some e) (he : (Sum.elim (p_X3_commands_b34 G h0 K B T) (fun e => aTo (aEI e.1 (tput (gZ G) B T e.2)) K)) e) : aW G M_X3_commands 7 161 h0 K (tput (gZ G) B T s) 65 [some (.ref (T 100)), none, none, none] [.int u0] := by
  unfold t_X3_commands_l65 at hT
  refine a_istore_n (lv' := [some (.ref (T 100)), some (.int u0), none, none]) dX3_commands_65 rfl (by decide) rfl ?_
  refine a_iload_n dX3_commands_66 rfl ?_
  refine a_if_eq 34 dX3_commands_67 rfl (fun c50 => ?_) (fun c50 => ?_)
  · have hT := oifp c50 hT
    cases hT
    exact he
  · have hT := oifn c50 hT
    refine a_aload_n dX3_commands_70 rfl ?_
    refine a_aload_n dX3_commands_71 rfl ?_
    obtain ⟨r53, e54, hT⟩ := obnd hT
    refine a_callV kv_X3_208 (tw_is ht) (k_X3_here ht e54) ⟨Nat.le_of_ble_eq_true rfl, Nat.le_of_ble_eq_true rfl⟩ (As := []) (rest := [.ref (T 100)]) rfl rfl (Nat.le_of_ble_eq_true rfl) dX3_commands_72 (kI ?_) xI
    refine a_bipush (v := 59) dX3_commands_75 (by decide) ?_
    refine a_icmp_ne 84 dX3_commands_77 rfl (fun c55 => ?_) (fun c55 => ?_)
    · have hT := oifn c55 hT
      refine a_iconst (v := 0) dX3_commands_84 (by decide) ?_
      refine a_mask [true, false, true, true] ?_
      exact k_X3_commands_l85 ht hT he
    · have hT := oifp c55 hT
      refine a_iconst (v := 1) dX3_commands_80 (by decide) ?_
      refine a_goto 85 dX3_commands_81 rfl ?_
      refine a_mask [true, false, true, true] ?_
      exact k_X3_commands_l85 ht hT he
def t_X3_commands_l64 (s : tS)  : Option ((Int32 × tS) ⊕ (Int32 × tS)) :=
  t_X3_commands_l65 s 0
theorem k_X3_commands_l64 {G : aG} {h0 B : aH} {T : Nat → Nat} {K : aRes → aH → Prop} (ht : tOk (gZ G) T) {s : tS}  {e : ((Int32 × tS) ⊕ (Int32 × tS))} (hT : t_X3_commands_l64 s  = some e) (he : (Sum.elim (p_X3_commands_b34 G h0 K B T) (fun e => aTo (aEI e.1 (tput (gZ G) B T e.2)) K)) e) : aW G M_X3_commands 7 161 h0 K (tput (gZ G) B T s) 64 [some (.ref (T 100)), none, none, none] [] := by
  unfold t_X3_commands_l64 at hT
  refine a_iconst (v := 0) dX3_commands_64 (by decide) ?_
  exact k_X3_commands_l65 ht hT he
def t_X3_commands_b34 : (Int32 × tS) → Option ((Int32 × tS) ⊕ (Int32 × tS)) := fun (v1, s) =>
  if v1 = 0 then
    (t_X3_commands_l104 s).map .inr
  else
    (t_X3_readOrder s).bind fun r47 =>
    if (r47.2.1 18) = 0 then
      if (r47.2.1 17) ≤ (r47.2.1 16) then
        t_X3_commands_l64 r47.2
      else
        t_X3_commands_l65 r47.2 1
    else
      t_X3_commands_l64 r47.2
theorem kb_X3_commands_b34 {G : aG} {h0 B : aH} {T : Nat → Nat} {K : aRes → aH → Prop} (ht : tOk (gZ G) T) : ∀ (x9 : (Int32 × tS)) (e : ((Int32 × tS) ⊕ (Int32 × tS))), t_X3_commands_b34 x9 = some e → (Sum.elim (p_X3_commands_b34 G h0 K B T) (fun e => aTo (aEI e.1 (tput (gZ G) B T e.2)) K)) e → p_X3_commands_b34 G h0 K B T x9 := by
  intro x9 e hT he
  obtain ⟨v1, s⟩ := x9
  unfold p_X3_commands_b34
  unfold t_X3_commands_b34 at hT
  show aW G M_X3_commands 7 161 h0 K (tput (gZ G) B T s) 34 [some (.ref (T 100)), some (.int v1), none, none] []
  dsimp only at hT
  refine a_iload_n dX3_commands_34 rfl ?_
  refine a_if_eq 104 dX3_commands_35 rfl (fun c15 => ?_) (fun c15 => ?_)
  · have hT := oifp c15 hT
    refine a_mask [true, false, true, true] ?_
    obtain ⟨e8, hT8, rfl⟩ := omap hT
    exact k_X3_commands_l104 ht hT8 he
  · have hT := oifn c15 hT
    refine a_aload_n dX3_commands_38 rfl ?_
    obtain ⟨r47, e48, hT⟩ := obnd hT
    refine a_callV kv_X3_235 (tw_is ht) (k_X3_readOrder ht e48) ⟨Nat.le_of_ble_eq_true rfl, Nat.le_of_ble_eq_true rfl⟩ (As := []) (rest := []) rfl rfl (Nat.le_of_ble_eq_true rfl) dX3_commands_39 (kV ?_) xV
    refine a_aload_n dX3_commands_42 rfl ?_
    refine a_gI fl_X3_204_2 (tw_gI ht 18 (by decide)) dX3_commands_43 ?_
    refine a_if_ne 64 dX3_commands_46 rfl (fun c49 => ?_) (fun c49 => ?_)
    · have hT := oifn c49 hT
      refine a_mask [true, false, true, true] ?_
      exact k_X3_commands_l64 ht hT he
    · have hT := oifp c49 hT
      refine a_aload_n dX3_commands_49 rfl ?_
      refine a_gI fl_X3_198_2 (tw_gI ht 16 (by decide)) dX3_commands_50 ?_
      refine a_aload_n dX3_commands_53 rfl ?_
      refine a_gI fl_X3_201_2 (tw_gI ht 17 (by decide)) dX3_commands_54 ?_
      refine a_icmp_ge 64 dX3_commands_57 rfl (fun c61 => ?_) (fun c61 => ?_)
      · have hT := oifp c61 hT
        refine a_mask [true, false, true, true] ?_
        exact k_X3_commands_l64 ht hT he
      · have hT := oifn c61 hT
        refine a_iconst (v := 1) dX3_commands_60 (by decide) ?_
        refine a_goto 65 dX3_commands_61 rfl ?_
        refine a_mask [true, false, true, true] ?_
        exact k_X3_commands_l65 ht hT he
theorem k_X3_commands_b34 {G : aG} {h0 B : aH} {T : Nat → Nat} {K : aRes → aH → Prop} (ht : tOk (gZ G) T) {n9 : Nat} {x9 : (Int32 × tS)} {e : (Int32 × tS)} (hT : wlo t_X3_commands_b34 n9 x9 = some e) (he : (fun e => aTo (aEI e.1 (tput (gZ G) B T e.2)) K) e) : p_X3_commands_b34 G h0 K B T x9 := wlo_W (kb_X3_commands_b34 ht) n9 x9 e hT he
def t_X3_commands (s : tS)  : Option (Int32 × tS) :=
  (t_X3_starts s).bind fun r3 =>
  (tpf 17 r3.2 (r3.2.1 11)).bind fun s6 =>
  (tpf 11 s6 0).bind fun s8 =>
  (tpf 16 s8 0).bind fun s10 =>
  (tpf 15 s10 0).bind fun s12 =>
  (tpf 18 s12 0).bind fun s14 =>
  wlo t_X3_commands_b34 300 (1, s14)
theorem k_X3_commands {G : aG} {B : aH} {T : Nat → Nat} (ht : tOk (gZ G) T) {s : tS}  {e : (Int32 × tS)} (hT : t_X3_commands s  = some e) : aMet G yX3_commands (ws_ yX3_commands cX3_commands 4 (Option.some Jvm.ClassFile.FieldType.int)) 7 161 [.ref (T 100)] (tput (gZ G) B T s) (aEI e.1 (tput (gZ G) B T e.2)) := by
  refine aMet.of (lv := [some (.ref (T 100)), none, none, none]) (by decide) (Nat.le_of_ble_eq_true rfl) 3 rfl ?_
  have he : aTo (aEI e.1 (tput (gZ G) B T e.2)) (aEI e.1 (tput (gZ G) B T e.2)) := aTo.rf
  unfold t_X3_commands at hT
  refine a_aload_n dX3_commands_0 rfl ?_
  obtain ⟨r3, e4, hT⟩ := obnd hT
  refine a_callV kv_X3_100 (tw_is ht) (k_X3_starts ht e4) ⟨Nat.le_of_ble_eq_true rfl, Nat.le_of_ble_eq_true rfl⟩ (As := []) (rest := []) rfl rfl (Nat.le_of_ble_eq_true rfl) dX3_commands_1 (kV ?_) xV
  refine a_aload_n dX3_commands_4 rfl ?_
  refine a_aload_n dX3_commands_5 rfl ?_
  refine a_gI fl_X3_195_2 (tw_gI ht 11 (by decide)) dX3_commands_6 ?_
  obtain ⟨s6, e5, hT⟩ := obnd hT
  refine a_put (fp_X3_201_2 _) ⟨rfl, rfl⟩ (tw_pf ht 17 (by decide) e5) dX3_commands_9 ?_
  refine a_aload_n dX3_commands_12 rfl ?_
  refine a_iconst (v := 0) dX3_commands_13 (by decide) ?_
  obtain ⟨s8, e7, hT⟩ := obnd hT
  refine a_put (fp_X3_195_2 _) ⟨rfl, rfl⟩ (tw_pf ht 11 (by decide) e7) dX3_commands_14 ?_
  refine a_aload_n dX3_commands_17 rfl ?_
  refine a_iconst (v := 0) dX3_commands_18 (by decide) ?_
  obtain ⟨s10, e9, hT⟩ := obnd hT
  refine a_put (fp_X3_198_2 _) ⟨rfl, rfl⟩ (tw_pf ht 16 (by decide) e9) dX3_commands_19 ?_
  refine a_aload_n dX3_commands_22 rfl ?_
  refine a_iconst (v := 0) dX3_commands_23 (by decide) ?_
  obtain ⟨s12, e11, hT⟩ := obnd hT
  refine a_put (fp_X3_225_2 _) ⟨rfl, rfl⟩ (tw_pf ht 15 (by decide) e11) dX3_commands_24 ?_
  refine a_aload_n dX3_commands_27 rfl ?_
  refine a_iconst (v := 0) dX3_commands_28 (by decide) ?_
  obtain ⟨s14, e13, hT⟩ := obnd hT
  refine a_put (fp_X3_204_2 _) ⟨by decide, by decide⟩ (tw_pf ht 18 (by decide) e13) dX3_commands_29 ?_
  refine a_iconst (v := 1) dX3_commands_32 (by decide) ?_
  refine a_istore_n (lv' := [some (.ref (T 100)), some (.int 1), none, none]) dX3_commands_33 rfl (by decide) rfl ?_
  exact k_X3_commands_b34 ht hT he
