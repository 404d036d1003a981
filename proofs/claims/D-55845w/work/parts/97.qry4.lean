/-! asking: gaps, need, summers left -/
set_option maxRecDepth 100000
section qa
variable {Z : aZ} {h h' H : aH} {Rt : Nat → Prop} {q : Nat → Nat} {B B' : Nat} {s s' : tS} {C C' : Nat}
theorem co_gapX {a b : Int32} (k : hOk Z h) (r : Rm Z h 4) (c : cst Z Rt q B h s) : x1Ok Z Rt q B 4 h (t_X1_isGap Z h (q 0) a b) (t_X3_isGap s a b) (cd1 ioob) ∧ ∀ v H, t_X1_isGap Z h (q 0) a b = some (.inl v, H) → v = 0 ∨ v = 1 := by
  generalize hx : t_X1_isGap Z h (q 0) a b = y
  unfold t_X1_isGap at hx
  rw [mk2 k (r.less (by omega))] at hx
  unfold t_X3_isGap
  by_cases z : (inR a 0 15 && inR b 0 15) = true
  · obtain ⟨za, zb⟩ := and_tt z
    obtain ⟨i, hi, rfl⟩ := cell_idx za
    obtain ⟨j, hj, rfl⟩ := cell_idx zb
    rw [tw_cells, if_pos z, Option.bind_some, z]
    dsimp only
    rw [if_neg (by decide), tw_hg hi hj, Option.bind_some]
    rw [cells2_ok z, Option.bind_some] at hx
    dsimp only at hx
    have f1 : Fr non h (hI2 Z h (Int32.ofNat i) (Int32.ofNat j)) 1 := Fr.new (by omega)
    have k1 : hOk Z (hI2 Z h (Int32.ofNat i) (Int32.ofNat j)) := k.new
    obtain ⟨C, e, g1, g2, g3, g4⟩ := c.core k f1
    rw [g1, Option.bind_some, if_pos g3, crd_gap g2 hi hj, Option.bind_some, if_pos (b2i_01 _)] at hx
    refine ⟨?_, fun v H e => by rw [← hx] at e; cases e; exact b2i_01 _⟩
    refine x1_yes (s' := sT s 0) c k k1 (f1.up (by omega)) hx.symm ?_ (vEq_T 0) (sT_12 0)
    unfold gp
    by_cases h99 : hgN i j = 99
    · rw [if_pos h99, show t_X3_isGapAt (sT s 0) (-1) = some (0, sT s 0) from rfl, Option.bind_some, if_pos rfl]
      simp [h99, b2i]
    · have hlt : hgN i j < 24 := by rcases hg_lt i hi j hj with y | y; exact absurd y h99; exact y
      rw [if_neg h99, tw_gapAt' hlt, Option.bind_some]
      dsimp only
      show (if (if s.2 0 (6 + hgN i j) < 5 then (1 : Int32) else 0) = 0 then _ else _) = _
      by_cases hg : s.2 0 (6 + hgN i j) < 5
      · simp [h99, hg, b2i]
      · simp [h99, hg, b2i]
  · have z' : (inR a 0 15 && inR b 0 15) = false := by simpa using z
    rw [tw_cells, if_neg z, Option.bind_some, z']
    dsimp only
    rw [if_pos (by rfl)]
    rw [cells2_no k (r.less (by omega)) z', Option.bind_some] at hx
    exact ⟨x1_no (v := 0) (c9 := 1) c k k.new.new ((f2n (by omega) (by omega)).up (by omega)) hx.symm rfl (by decide) (by decide), fun v H e => by rw [← hx] at e; cases e⟩
/-- is there a way -/
theorem co_way {o : Nat} {m : Nat → Int32} (k : hOk Z h) (r : Rm Z h 1) (l : lvs Z h o m) (hc : isC 1 h o = true) : ∃ f, t_X2_hasWay Z h o = some (b2i (decide (dst false m 0 15 ≠ 99)), hnew h (aI16 Z f) 16) := by
  obtain ⟨r2, e2, f, rfl⟩ := co_hours (a := 0) (b := 15) k r l hc (by omega) (by omega)
  refine ⟨f, ?_⟩
  unfold t_X2_hasWay
  rw [if_pos hc, show t_X2_hours Z h o 0 15 = _ from e2, Option.bind_some]
  dsimp only
  by_cases z : dst false m 0 15 = 99
  · rw [z, enc99, if_pos rfl]; simp [b2i]
  · have := (dst_spec (t := false) (m := m) (a := 0) (by omega)).2 15 (by omega)
    rw [if_neg (enc_ne (by omega))]; simp [z, b2i]
theorem gp_five {m : Nat → Int32} {x : Nat} (h : ¬ m (6 + x) < 5) (a b : Nat) : gp (va_up m (6 + x) 5) a b = gp m a b := by
  unfold gp
  by_cases z : hgN a b = x
  · subst z; rw [vu_eq]; simp [h]
  · rw [vu_ne (by omega)]
theorem co_need {a b : Int32} (k : hOk Z h) (r : Rm Z h 32) (c : cst Z Rt q B h s) : x1Ok Z Rt q B 32 h (t_X1_isNeeded Z h (q 0) a b) (t_X3_isNeeded s a b) (cd2 ioob 1 nsee 2) ∧ ∀ v H, t_X1_isNeeded Z h (q 0) a b = some (.inl v, H) → v = 0 ∨ v = 1 := by
  obtain ⟨C0, e0, g10, g20, g30, g40⟩ := c.core k (Fr.rf (u := 0))
  generalize hx : t_X1_isNeeded Z h (q 0) a b = y
  unfold t_X1_isNeeded at hx
  rw [if_pos g40] at hx
  unfold t_X3_isNeeded
  by_cases z : (inR a 0 15 && inR b 0 15) = true
  · obtain ⟨za, zb⟩ := and_tt z
    obtain ⟨i, hi, rfl⟩ := cell_idx za
    obtain ⟨j, hj, rfl⟩ := cell_idx zb
    rw [tw_cells, if_pos z, Option.bind_some, z]
    dsimp only
    rw [if_neg (by decide), tw_hg hi hj, Option.bind_some]
    by_cases z9 : hgN i j = 99
    · rw [if_pos z9, if_pos rfl]
      rw [hedge_no2 k (r.less (by omega)) hi hj z z9, Option.bind_some] at hx
      refine ⟨x1_no (v := 0) (c9 := 2) c k k.new.new ((f2n (by omega) (by omega)).up (by omega)) hx.symm ?_ (by decide) (by decide), fun v H e => by rw [← hx] at e; cases e⟩
      show some (0, sT (sT s 0) 2) = _
      rw [sT_sT]
    · have hlt : hgN i j < 24 := by rcases hg_lt i hi j hj with y | y; exact absurd y z9; exact y
      rw [if_neg z9, if_neg (iNeg (by omega)), tw_gapAt' hlt, Option.bind_some]
      dsimp only
      rw [hedge_ok k (r.less (by omega)) hi hj z z9, Option.bind_some] at hx
      dsimp only at hx
      generalize hgN i j = x at hx hlt
      have f1 : Fr non h (hI2 Z h (Int32.ofNat i) (Int32.ofNat j)) 1 := Fr.new (by omega)
      have k1 : hOk Z (hI2 Z h (Int32.ofNat i) (Int32.ofNat j)) := k.new
      obtain ⟨C, e, g1, g2, g3, g4⟩ := c.core k f1
      have r1 : Rm Z (hI2 Z h (Int32.ofNat i) (Int32.ofNat j)) 31 := Rm.after (u := 1) (v := 31) r f1
      rw [g1, Option.bind_some, if_pos g3] at hx
      generalize hI2 Z h (Int32.ofNat i) (Int32.ofNat j) = h1 at hx f1 k1 g1 g2 g3 g4 r1
      obtain ⟨⟨C1, h2⟩, ec, e1, k2, f2, d2⟩ := g2.copy k1 (r1.less (by omega))
      dsimp only at e1 k2 f2 d2
      subst e1
      rw [ec, Option.bind_some] at hx
      dsimp only at hx
      obtain ⟨L, G, V, eG, eV, gs, vs, ng, nv, mG, mV, d2⟩ := d2
      rw [gA_of (k := 0) d2.1 rfl, Option.bind_some] at hx
      obtain ⟨h3, e3, k3, f3, d3⟩ := lput (x := 5) k2 d2 hlt
      rw [e3, Option.bind_some] at hx
      have f13 : Fr non h1 h3 24 := f2.tr f3 (fun a z1 z2 => by have : h1.2.1 ≤ a := z2; omega)
      have f03 : Fr non h h3 25 := f1.tr f13 (fun _ _ z => z)
      obtain ⟨C3, e3', g13, g23, g33, g43⟩ := c.core k f03
      have r3 : Rm Z h3 7 := Rm.after (u := 25) (v := 7) r f03
      rw [g13, Option.bind_some, if_pos g33] at hx
      obtain ⟨fa, ea⟩ := co_way k3 (r3.less (by omega)) (crd_lvs g23) g33
      rw [ea, Option.bind_some] at hx
      dsimp only at hx
      have k4 : hOk Z (hnew h3 (aI16 Z fa) 16) := k3.new
      have f04 : Fr non h (hnew h3 (aI16 Z fa) 16) 26 := f03.tr (Fr.new (S := non) (by omega)) (fun _ _ z => z)
      have r4 : Rm Z (hnew h3 (aI16 Z fa) 16) 6 := Rm.after (u := 26) (v := 6) r f04
      have d4 : coreH Z (hnew h3 (aI16 Z fa) 16) h1.2.1 h1.2.1 (va_up (s.2 0) (6 + x) 5) L G V eG eV gs vs ng nv mG mV := coreH.new d3
      generalize hnew h3 (aI16 Z fa) 16 = h4 at hx k4 f04 r4 d4
      obtain ⟨W, eW⟩ := tw_hrs (s := sT s 0) (i := 0) (j := 15) (by omega) (by omega)
      have hd0 := (dst_spec (t := false) (m := s.2 0) (a := 0) (by omega)).2 15 (by omega)
      by_cases w0 : dst false (s.2 0) 0 15 = 99
      · have hx2 : some (.inl 0, h4) = y := by
          rw [← hx, if_pos]
          simp [w0, b2i]
        refine ⟨?_, fun v H e => by rw [← hx2] at e; cases e; exact Or.inl rfl⟩
        by_cases hg : s.2 0 (6 + x) < 5
        · rw [if_neg (show ¬ (if (sT s 0).2 0 (6 + x) < 5 then (1 : Int32) else 0) = 0 by rw [if_pos (show (sT s 0).2 0 (6 + x) < 5 from hg)]; decide), show t_X3_hoursOf (sT s 0) 0 15 = _ from eW, Option.bind_some]
          dsimp only
          rw [show dst false ((sT s 0).2 0) 0 15 = 99 from w0, enc99, if_pos rfl]
          exact x1_yes c k k4 (f04.up (by omega)) hx2.symm rfl ((vEq_T 0).tr (vEq_W W)) (sT_12 (s := s) 0)
        · rw [if_pos (show (if (sT s 0).2 0 (6 + x) < 5 then (1 : Int32) else 0) = 0 by rw [if_neg (show ¬ (sT s 0).2 0 (6 + x) < 5 from hg)])]
          exact x1_yes c k k4 (f04.up (by omega)) hx2.symm rfl (vEq_T 0) (sT_12 (s := s) 0)
      · obtain ⟨fb, eb⟩ := co_way k4 (r4.less (by omega)) d4.ci.lvs (isC_of d4.1)
        have k5 : hOk Z (hnew h4 (aI16 Z fb) 16) := k4.new
        have f05 : Fr non h (hnew h4 (aI16 Z fb) 16) 27 := f04.tr (Fr.new (S := non) (by omega)) (fun _ _ z => z)
        have hx2 : some (.inl (b2i (decide (dst false (va_up (s.2 0) (6 + x) 5) 0 15 = 99))), hnew h4 (aI16 Z fb) 16) = y := by
          rw [← hx, if_neg (by simp [w0, b2i]), if_pos (isC_of d4.1), eb, Option.bind_some]
          dsimp only
          by_cases w5 : dst false (va_up (s.2 0) (6 + x) 5) 0 15 = 99
          · rw [if_pos (by simp [w5, b2i])]; simp [w5, b2i]
          · rw [if_neg (by simp [w5, b2i])]; simp [w5, b2i]
        refine ⟨?_, fun v H e => by rw [← hx2] at e; cases e; exact b2i_01 _⟩
        by_cases hg : s.2 0 (6 + x) < 5
        · rw [if_neg (show ¬ (if (sT s 0).2 0 (6 + x) < 5 then (1 : Int32) else 0) = 0 by rw [if_pos (show (sT s 0).2 0 (6 + x) < 5 from hg)]; decide), show t_X3_hoursOf (sT s 0) 0 15 = _ from eW, Option.bind_some]
          dsimp only
          rw [if_neg (enc_ne (show dst false ((sT s 0).2 0) 0 15 < 99 from by show dst false (s.2 0) 0 15 < 99; omega)), tld0 (by omega), Option.bind_some, tst_of (n := 86) rfl (by omega) (by omega), Option.bind_some, sW_0]
          obtain ⟨W2, eW2⟩ := tw_hrs (s := ((sW (sT s 0) W).1, va_up (sW (sT s 0) W).2 0 (va_up ((sT s 0).2 0) (6 + x) 5))) (i := 0) (j := 15) (by omega) (by omega)
          have e20 : ((sW (sT s 0) W).1, va_up (sW (sT s 0) W).2 0 (va_up ((sT s 0).2 0) (6 + x) 5)).2 0 = va_up (s.2 0) (6 + x) 5 := by dsimp only; rw [vu_eq]; rfl
          rw [show t_X3_hoursOf ((sW (sT s 0) W).1, va_up (sW (sT s 0) W).2 0 (va_up ((sT s 0).2 0) (6 + x) 5)) 0 15 = _ from eW2, Option.bind_some, e20]
          dsimp only
          have hd5 := (dst_spec (t := false) (m := va_up (s.2 0) (6 + x) 5) (a := 0) (by omega)).2 15 (by omega)
          have fin : ∀ z : Int32, z = 0 ∨ z = 1 → ∃ s9, t_X3_isNeeded_l82 (sW ((sW (sT s 0) W).1, va_up (sW (sT s 0) W).2 0 (va_up ((sT s 0).2 0) (6 + x) 5)) W2) (Int32.ofNat (6 + x)) ((sT s 0).2 0 (6 + x)) z = some (z, s9) ∧ vEq s s9 ∧ s9.1 12 = 0 := by
            intro z hz
            unfold t_X3_isNeeded_l82
            rw [tst_of (n := 86) rfl (by omega) (by omega), Option.bind_some, if_pos hz]
            refine ⟨_, rfl, ⟨fun k hk => ?_, ?_, ?_, ?_, ?_, fun i9 h9 => ?_⟩, sT_12 (s := s) 0⟩
            · simp only [List.mem_cons, List.not_mem_nil, or_false] at hk
              exact vu_ne (by omega)
            · simp (disch := omega) only [sW, sT, vu_ne]
            · simp (disch := omega) only [sW, sT, vu_ne]
            · simp (disch := omega) only [sW, sT, vu_ne]
            · simp (disch := omega) only [sW, sT, vu_ne]
            · simp (disch := omega) only [sW, sT, vu_ne, vu_eq]
              by_cases z9 : i9 = 6 + x
              · subst z9; rw [vu_eq]
              · rw [vu_ne z9, vu_ne z9]
          by_cases w5 : dst false (va_up (s.2 0) (6 + x) 5) 0 15 = 99
          · rw [w5, enc99, if_pos rfl]
            obtain ⟨s9, e9, v9, t9⟩ := fin 1 (Or.inr rfl)
            exact x1_yes (s' := s9) c k k5 (f05.up (by omega)) hx2.symm (by rw [e9]; simp [w5, b2i]) v9 t9
          · rw [if_neg (enc_ne (by omega))]
            obtain ⟨s9, e9, v9, t9⟩ := fin 0 (Or.inl rfl)
            exact x1_yes (s' := s9) c k k5 (f05.up (by omega)) hx2.symm (by rw [e9]; simp [w5, b2i]) v9 t9
        · rw [if_pos (show (if (sT s 0).2 0 (6 + x) < 5 then (1 : Int32) else 0) = 0 by rw [if_neg (show ¬ (sT s 0).2 0 (6 + x) < 5 from hg)])]
          have e5 : dst false (va_up (s.2 0) (6 + x) 5) 0 15 ≠ 99 := by rw [dst_congr (gp_five hg)]; exact w0
          exact x1_yes (s' := sT s 0) c k k5 (f05.up (by omega)) hx2.symm (by simp [e5, b2i]) (vEq_T 0) (sT_12 (s := s) 0)
  · have z' : (inR a 0 15 && inR b 0 15) = false := by simpa using z
    rw [tw_cells, if_neg z, Option.bind_some, z']
    dsimp only
    rw [if_pos (by rfl)]
    rw [hedge_no1 k (r.less (by omega)) z', Option.bind_some] at hx
    exact ⟨x1_no (v := 0) (c9 := 1) c k k.new.new ((f2n (by omega) (by omega)).up (by omega)) hx.symm rfl (by decide) (by decide), fun v H e => by rw [← hx] at e; cases e⟩
end qa
