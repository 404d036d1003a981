/-! the core's changes, 5: bond, walk -/
set_option maxRecDepth 100000
section ops
variable {Z : aZ} {h : aH} {lo o : Nat} {m : Nat → Int32} {L G V eG eV : Nat} {gs vs : Nat → Nat} {ng nv : Nat} {mG mV : Int32}
theorem wf_nums {B ng' nv' hi : Nat} (c : coreR Z h lo hi o m L G V eG eV gs vs ng nv mG mV) (w : wfn B ng' nv' m) : ng' = ng ∧ nv' = nv := by
  have h1 := c.num
  have h2 := w.2.2.1
  have h3 := w.2.2.2.1
  exact ⟨(iEq (by omega) (by omega)).mp (w.1.symm.trans h1.1), (iEq (by omega) (by omega)).mp (w.2.1.symm.trans h1.2.1)⟩
theorem co_bond {B : Nat} {g v rt : Int32} (k : hOk Z h) (r : Rm Z h 4) (c : coreIn Z h lo h.2.1 o m) (w : wfm B m) : Ok (t_X2_bond Z h o g v rt) (coOk Z lo o h 4 (sp_bond m g v rt)) := by
  obtain ⟨L, G, V, eG, eV, gs, vs, ng, nv, mG, mV, c⟩ := c
  obtain ⟨ng', nv', w⟩ := w
  obtain ⟨rfl, rfl⟩ := wf_nums c w
  have f0 : Fr (fun a => lo ≤ a) h h 0 := Fr.rf
  have hnn := c.num
  unfold t_X2_bond sp_bond
  rw [if_pos (isC_of c.1), reqG k (r.less (by omega)) c]
  by_cases g0 : inR g 0 (m 0 - 1) = false
  · rw [if_pos g0, if_pos g0, Option.bind_some]
    exact Ok.ret (coOk_ref k f0 (by omega))
  · rw [if_neg g0, if_neg g0, Option.bind_some]
    dsimp only
    rw [if_pos (isC_of c.1), reqV k (r.less (by omega)) c]
    by_cases g1 : inR v 0 (m 1 - 1) = false
    · rw [if_pos g1, if_pos g1, Option.bind_some]
      exact Ok.ret (coOk_ref k f0 (by omega))
    · rw [if_neg g1, if_neg g1, Option.bind_some]
      dsimp only
      rw [co_isIn, Option.bind_some, range_b k (r.less (by omega))]
      by_cases g2 : inR rt 1 5 = false
      · rw [if_pos g2, if_pos g2, Option.bind_some]
        exact Ok.ret (coOk_ref k f0 (by omega))
      · rw [if_neg g2, if_neg g2, Option.bind_some]
        dsimp only
        rw [hnn.1] at g0
        rw [hnn.2.1] at g1
        obtain ⟨n, hn, rfl⟩ := inR_idx (by omega) g0
        obtain ⟨j, hj, rfl⟩ := inR_idx (by omega) g1
        have hv := c.vO hj
        have hg := c.gO hn
        have wj := w.2.2.2.2.2.2.2.1 j hj
        rw [cN_of (n := j) (by omega), cN_of (n := n) (by omega), if_pos (isC_of hv.1), x6_isOut hv.1, Option.bind_some]
        dsimp only
        rw [gI_of (k := 3) hv.1 rfl, Option.bind_some, refuse_b k (r.less (by omega))]
        by_cases g3 : m (46 + 8 * j + 1) = 15
        · rw [if_pos (by simp [g3]), if_pos ((out_iff wj).mp g3), Option.bind_some]
          exact Ok.ret (coOk_ref k f0 (by omega))
        · rw [if_neg (by simp [g3]), if_neg (fun q => g3 ((out_iff wj).mpr q)), Option.bind_some]
          dsimp only
          rw [if_pos (isC_of hv.1), x6_hasBond hv.1, Option.bind_some]
          dsimp only
          rw [gI_of (k := 4) hv.1 rfl, Option.bind_some, refuse_b k (r.less (by omega))]
          by_cases g4 : m (46 + 8 * j + 4) = -1
          · rw [if_neg (by simp [g4]), if_pos g4, Option.bind_some]
            dsimp only
            rw [gI_of (k := 2) hv.1 rfl, Option.bind_some, gI_of (k := 3) c.1 rfl, Option.bind_some]
            unfold t_X2_bond_l70
            by_cases g5 : m (46 + 8 * j + 1) = m 2
            · rw [if_pos g5, if_pos g5, gI_of (k := 3) c.1 rfl, Option.bind_some, refuse_yes k (r.less (by omega)), Option.bind_some]
              exact Ok.ret (coOk_ref k f0 (by omega))
            · rw [if_neg g5, if_neg g5, gI_of (k := 3) c.1 rfl, Option.bind_some, refuse_no, Option.bind_some]
              dsimp only
              rw [if_pos (isC_of hv.1)]
              unfold t_X4_pay_4 t_X4_pay_4_l13
              rw [gI_of (k := 0) hv.1 rfl, Option.bind_some]
              by_cases g6 : m (46 + 8 * j) < 2 * rt
              · rw [if_pos g6, if_neg (Int32.not_le.mpr g6), Option.bind_some, refuse_yes k (r.less (by omega)), Option.bind_some, Option.bind_some]
                exact Ok.ret (coOk_ref k f0 (by omega))
              · rw [if_neg g6, if_pos (Int32.not_lt.mp g6), Option.bind_some, refuse_no, Option.bind_some]
                dsimp only
                rw [gI_of (k := 0) hv.1 rfl, Option.bind_some]
                obtain ⟨X1, e1, kX1, fX1, cX1⟩ := vput (kf := 0) (off := 0) (x := m (46 + 8 * j) - 2 * rt) k c hj (by decide)
                rw [e1, Option.bind_some, Option.bind_some]
                dsimp only
                rw [if_pos (isC_of (cX1.gO hn).1)]
                unfold t_X4_get_3
                rw [gI_of (k := 0) (cX1.gO hn).1 rfl, Option.bind_some]
                obtain ⟨X2, e2, kX2, fX2, cX2⟩ := gput (kf := 0) (x := va_up m (46 + 8 * j + 0) (m (46 + 8 * j) - 2 * rt) (30 + 4 * n) + 2 * rt) kX1 cX1 hn (by omega)
                rw [e2, Option.bind_some, Option.bind_some]
                dsimp only
                rw [gI_of (k := 1) (cX2.gO hn).1 rfl, Option.bind_some]
                refine Ok.call (gput (kf := 1) kX2 cX2 hn (by omega)) fun X3 ⟨kX3, fX3, cX3⟩ => ?_
                refine Ok.call (vput (kf := 4) (off := 4) kX3 cX3 hj (by decide)) fun X4 ⟨kX4, fX4, cX4⟩ => ?_
                refine Ok.call (vput (kf := 5) (off := 5) kX4 cX4 hj (by decide)) fun X5 ⟨kX5, fX5, cX5⟩ => ?_
                rw [if_pos (isC_of (cX5.vO hj).1)]
                unfold t_X4_coins_4
                rw [gI_of (k := 0) (cX5.vO hj).1 rfl, Option.bind_some, Option.bind_some]
                refine Ok.ret (coOk_goC kX5 (((((f0.lo fX1).lo fX2).lo fX3).lo fX4).lo fX5) (by omega) cX5 (fun x _ _ => ?_) ?_)
                · by_cases x0 : x = 46 + 8 * j
                  · subst x0; simp (disch := omega) only [vu_ne, vu_eq, Nat.add_zero]
                  by_cases x4 : x = 46 + 8 * j + 4
                  · subst x4; simp (disch := omega) only [vu_ne, vu_eq, Nat.add_zero]
                  by_cases x5 : x = 46 + 8 * j + 5
                  · subst x5; simp (disch := omega) only [vu_ne, vu_eq, Nat.add_zero]
                  by_cases xa : x = 30 + 4 * n
                  · subst xa; simp (disch := omega) only [vu_ne, vu_eq, Nat.add_zero]
                  by_cases xb : x = 30 + 4 * n + 1
                  · subst xb; simp (disch := omega) only [vu_ne, vu_eq, Nat.add_zero]
                  simp (disch := omega) only [vu_ne, Nat.add_zero]
                · simp (disch := omega) only [vu_ne, vu_eq, Nat.add_zero]
          · rw [if_pos (by simp [g4]), if_neg g4, Option.bind_some]
            exact Ok.ret (coOk_ref k f0 (by omega))
theorem x6_due {a j : Nat} {x : Int32} (ha : h.1 a = some (.inr (4, pV m j))) : t_X6_dueWith Z h a x = some (if m (46 + 8 * j + 6) = 0 then m (46 + 8 * j + 5) * jmax 0 (m (46 + 8 * j + 2) + x - m (46 + 8 * j + 3)) else 0, h) := by
  unfold t_X6_dueWith t_X6_lostWith
  rw [gI_of (k := 6) ha rfl, Option.bind_some]
  by_cases q : m (46 + 8 * j + 6) = 0
  · rw [if_pos q, if_pos q, gI_of (k := 5) ha rfl, Option.bind_some, if_pos (isC_of ha), gI_of (k := 3) ha rfl, Option.bind_some, gI_of (k := 1) ha rfl, Option.bind_some, Option.bind_some]
  · rw [if_neg q, if_neg q]
theorem jmin_comm (a b : Int32) : jmin a b = jmin b a := by
  unfold jmin
  by_cases h : b < a
  · rw [if_pos h, if_neg (fun q => Int32.lt_irrefl (Int32.lt_trans h q))]
  · by_cases g : a < b
    · rw [if_neg h, if_pos g]
    · rw [if_neg h, if_neg g]
      exact Int32.le_antisymm (Int32.not_lt.mp h) (Int32.not_lt.mp g)
theorem iAdd0 (x : Int32) : x + 0 = x := Int32.add_zero x
/-- what the bond pays, as the component has it -/
theorem paid_eq {B ng j : Nat} (hc : ∀ i, i < ng → ∃ x, x ≤ B ∧ m (30 + 4 * i) = Int32.ofNat x) (hB : B < 2147483648) (hn : ng ≤ 4) {g : Nat} (hg : g < ng) (e4 : m (46 + 8 * j + 4) = Int32.ofNat g) (e6 : m (46 + 8 * j + 6) = 0 ∨ m (46 + 8 * j + 6) = 1) : jmin (m (30 + 4 * g)) (if m (46 + 8 * j + 6) = 0 then m (46 + 8 * j + 5) * jmax 0 (m (46 + 8 * j + 2) + 0 - m (46 + 8 * j + 3)) else 0) = paidI m j := by
  unfold paidI lostI
  rw [e4, cN_of (by omega), iAdd0]
  rcases e6 with e6 | e6
  · rw [if_pos e6, if_neg (by rintro (q | q); exact iNeg (by omega) q; rw [e6] at q; exact absurd q (by decide)), jmin_comm]
  · rw [if_neg (by rw [e6]; decide), if_pos (Or.inr e6)]
    obtain ⟨x, hx, ex⟩ := hc g hg
    rw [ex, show (0 : Int32) = Int32.ofNat 0 from rfl, jmin_of (by omega) (by omega), Nat.min_eq_right (by omega)]
theorem co_settle {B j : Nat} (k : hOk Z h) (c : coreH Z h lo o m L G V eG eV gs vs ng nv mG mV) (hj : j < nv) (hc : ∀ i, i < ng → ∃ x, x ≤ B ∧ m (30 + 4 * i) = Int32.ofNat x) (hB : B < 2147483648) (hb : (m (46 + 8 * j + 4) = -1 ∧ m (46 + 8 * j + 5) = 0 ∧ m (46 + 8 * j + 6) = 0) ∨ (∃ g, g < ng ∧ m (46 + 8 * j + 4) = Int32.ofNat g ∧ (m (46 + 8 * j + 6) = 0 ∨ m (46 + 8 * j + 6) = 1))) :
    Ok (t_X2_settle Z h o (vs j)) (fun r => hOk Z r.2 ∧ Fr (fun a => lo ≤ a) h r.2 0 ∧ coreH Z r.2 lo o (settl m j) L G V eG eV gs vs ng nv mG mV) := by
  have hnn := c.num
  have f0 : Fr (fun a => lo ≤ a) h h 0 := Fr.rf
  have hv := c.vO hj
  unfold t_X2_settle
  rw [if_pos (isC_of hv.1), x6_hasBond hv.1, Option.bind_some]
  dsimp only
  rw [b2i_if]
  rcases hb with ⟨e4, e5, e6⟩ | ⟨g, hg, e4, e6⟩
  · rw [if_pos (by simp [e4])]
    refine Ok.ret ⟨k, f0, c.cong (fun x hx _ => ?_)⟩
    have hp : paidI m j = 0 := by unfold paidI; rw [if_pos (Or.inl e4)]
    unfold settl
    rw [hp]
    by_cases x0 : x = 46 + 8 * j
    · rw [if_pos x0, iAdd0]
    by_cases x7 : x = 46 + 8 * j + 7
    · exact absurd x7 (hx j |> fun q z => q (by omega))
    by_cases x4 : x = 46 + 8 * j + 4
    · rw [if_neg x0, if_neg x7, if_pos x4, x4, e4]
    by_cases x5 : x = 46 + 8 * j + 5
    · rw [if_neg x0, if_neg x7, if_neg x4, if_pos x5, x5, e5]
    by_cases x6 : x = 46 + 8 * j + 6
    · rw [if_neg x0, if_neg x7, if_neg x4, if_neg x5, if_pos x6, x6, e6]
    rw [if_neg x0, if_neg x7, if_neg x4, if_neg x5, if_neg x6, if_pos e4]
  · have hne : ¬ m (46 + 8 * j + 4) = -1 := by rw [e4]; exact iNeg (by omega)
    have hgo := c.gO hg
    have hpd := paid_eq (j := j) hc hB hnn.2.2.1 hg e4 e6
    rw [if_neg (by simp [hne]), gA_of (k := 1) c.1 rfl, Option.bind_some, gI_of (k := 4) hv.1 rfl, Option.bind_some, if_pos c.2.2.2.1.isC, e4, c.2.2.2.1.get hg, Option.bind_some]
    dsimp only
    rw [if_pos (isC_of hgo.1), if_pos (isC_of hv.1), x6_due hv.1, Option.bind_some]
    dsimp only
    rw [if_pos (isC_of hgo.1)]
    unfold t_X4_payUpTo_3
    rw [gI_of (k := 0) hgo.1 rfl, Option.bind_some, Option.bind_some, hpd]
    obtain ⟨X1, e1, kX1, fX1, cX1⟩ := gput (kf := 0) (x := m (30 + 4 * g) - paidI m j) k c hg (by omega)
    rw [e1, Option.bind_some, Option.bind_some]
    dsimp only
    rw [gI_of (k := 2) (cX1.gO hg).1 rfl, Option.bind_some]
    refine Ok.call (gput (kf := 2) kX1 cX1 hg (by omega)) fun X2 ⟨kX2, fX2, cX2⟩ => ?_
    rw [if_pos (isC_of (cX2.vO hj).1)]
    unfold t_X4_get_4
    rw [gI_of (k := 0) (cX2.vO hj).1 rfl, Option.bind_some]
    simp (disch := omega) only [vu_ne, vu_eq, Nat.add_zero]
    simp (disch := omega) only [vu_ne, vu_eq, Nat.add_zero] at cX2
    obtain ⟨X3, e3, kX3, fX3, cX3⟩ := vput (kf := 0) (off := 0) (x := m (46 + 8 * j) + paidI m j) kX2 cX2 hj (by decide)
    rw [e3, Option.bind_some, Option.bind_some]
    dsimp only
    rw [if_pos (isC_of (cX3.vO hj).1)]
    unfold t_X6_endBond
    obtain ⟨X4, e5, kX4, fX4, cX4⟩ := vput (kf := 4) (off := 4) (x := -1) kX3 cX3 hj (by decide)
    obtain ⟨X5, e6', kX5, fX5, cX5⟩ := vput (kf := 5) (off := 5) (x := 0) kX4 cX4 hj (by decide)
    obtain ⟨X6, e7, kX6, fX6, cX6⟩ := vput (kf := 6) (off := 6) (x := 0) kX5 cX5 hj (by decide)
    rw [e5, Option.bind_some, e6', Option.bind_some, e7, Option.bind_some, Option.bind_some]
    refine Ok.ret ⟨kX6, (((((f0.lo fX1).lo fX2).lo fX3).lo fX4).lo fX5).lo fX6, cX6.cong (fun x hx _ => ?_)⟩
    have e2 : cN (m (46 + 8 * j + 4)) = g := by rw [e4, cN_of (by omega)]
    unfold settl
    rw [e2]
    by_cases x0 : x = 46 + 8 * j
    · subst x0; rw [if_pos rfl]; simp (disch := omega) only [vu_ne, vu_eq, Nat.add_zero]
    by_cases x7 : x = 46 + 8 * j + 7
    · exact absurd x7 (hx j |> fun q z => q (by omega))
    by_cases x4 : x = 46 + 8 * j + 4
    · subst x4; rw [if_neg (by omega), if_neg (by omega), if_pos rfl]; simp (disch := omega) only [vu_ne, vu_eq, Nat.add_zero]
    by_cases x5 : x = 46 + 8 * j + 5
    · subst x5; rw [if_neg (by omega), if_neg (by omega), if_neg (by omega), if_pos rfl]; simp (disch := omega) only [vu_ne, vu_eq, Nat.add_zero]
    by_cases x6 : x = 46 + 8 * j + 6
    · subst x6; rw [if_neg (by omega), if_neg (by omega), if_neg (by omega), if_neg (by omega), if_pos rfl, vu_eq]
    rw [if_neg x0, if_neg x7, if_neg x4, if_neg x5, if_neg x6, if_neg hne]
    by_cases y0 : x = 30 + 4 * g
    · subst y0; rw [if_pos rfl]; simp (disch := omega) only [vu_ne, vu_eq, Nat.add_zero]
    by_cases y2 : x = 30 + 4 * g + 2
    · subst y2; rw [if_neg (by omega), if_pos rfl]; simp (disch := omega) only [vu_ne, vu_eq, Nat.add_zero]
    rw [if_neg y0, if_neg y2]
    simp (disch := omega) only [vu_ne, Nat.add_zero]
end ops
