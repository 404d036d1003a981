/-! the core's changes, 6: walk, visitor -/
set_option maxRecDepth 100000
section ops
variable {Z : aZ} {h : aH} {lo o : Nat} {m : Nat → Int32} {L G V eG eV : Nat} {gs vs : Nat → Nat} {ng nv : Nat} {mG mV : Int32}
theorem wk1_at {j nx x : Nat} (h1 : x ≠ 46 + 8 * j + 1) (h2 : x ≠ 46 + 8 * j + 2) (h6 : x ≠ 46 + 8 * j + 6) : wk1 m j nx x = m x := by unfold wk1; rw [if_neg h1, if_neg h2, if_neg h6]
theorem wk1_1 {j nx : Nat} : wk1 m j nx (46 + 8 * j + 1) = Int32.ofNat nx := by unfold wk1; rw [if_pos rfl]
theorem wk1_2 {j nx : Nat} : wk1 m j nx (46 + 8 * j + 2) = m (46 + 8 * j + 2) + 1 := by unfold wk1; rw [if_neg (by omega), if_pos rfl]
theorem wk1_6 {j nx : Nat} : wk1 m j nx (46 + 8 * j + 6) = if Int32.ofNat nx = m 2 ∧ 0 < m (46 + 8 * j + 5) then 1 else m (46 + 8 * j + 6) := by unfold wk1; rw [if_neg (by omega), if_neg (by omega), if_pos rfl]
theorem gap_in {hi a b : Nat} (c : coreR Z h lo hi o m L G V eG eV gs vs ng nv mG mV) (ha : a < 16) (hb : b < 16) : t_X2_isGap Z h o (Int32.ofNat a) (Int32.ofNat b) = some (b2i (gp m a b), h) := by
  obtain ⟨c1, ⟨f, c2, c3⟩, -⟩ := c
  exact gap_of c1 c2 c3 ha hb
theorem co_walk {B : Nat} {v d : Int32} (k : hOk Z h) (r : Rm Z h 4) (c : coreIn Z h lo h.2.1 o m) (w : wfm B m) (hB : B < 2147483648) : Ok (t_X2_walk Z h o v d) (coOk Z lo o h 4 (sp_walk m v d)) := by
  obtain ⟨L, G, V, eG, eV, gs, vs, ng, nv, mG, mV, c⟩ := c
  obtain ⟨ng', nv', w⟩ := w
  obtain ⟨rfl, rfl⟩ := wf_nums c w
  have f0 : Fr (fun a => lo ≤ a) h h 0 := Fr.rf
  have hnn := c.num
  unfold t_X2_walk sp_walk
  rw [if_pos (isC_of c.1), reqV k (r.less (by omega)) c]
  by_cases g1 : inR v 0 (m 1 - 1) = false
  · rw [if_pos g1, if_pos g1, Option.bind_some]
    exact Ok.ret (coOk_ref k f0 (by omega))
  · rw [if_neg g1, if_neg g1, Option.bind_some]
    dsimp only
    rw [co_isIn, Option.bind_some, range_b k (r.less (by omega))]
    by_cases g2 : inR d 0 3 = false
    · rw [if_pos g2, if_pos g2, Option.bind_some]
      exact Ok.ret (coOk_ref k f0 (by omega))
    · rw [if_neg g2, if_neg g2, Option.bind_some]
      dsimp only
      rw [hnn.2.1] at g1
      obtain ⟨j, hj, rfl⟩ := inR_idx (by omega) g1
      obtain ⟨dd, hd, rfl⟩ := inR_le (n := 3) (by omega) g2
      have hv := c.vO hj
      have wj := w.2.2.2.2.2.2.2.1 j hj
      rw [cN_of (n := j) (by omega), if_pos (isC_of hv.1), x6_isOut hv.1, Option.bind_some]
      dsimp only
      rw [gI_of (k := 3) hv.1 rfl, Option.bind_some, refuse_b k (r.less (by omega))]
      by_cases g3 : m (46 + 8 * j + 1) = 15
      · rw [if_pos (by simp [g3]), if_pos ((out_iff wj).mp g3), Option.bind_some]
        exact Ok.ret (coOk_ref k f0 (by omega))
      · rw [if_neg (by simp [g3]), if_neg (fun q => g3 ((out_iff wj).mpr q)), Option.bind_some]
        dsimp only
        obtain ⟨cl, hr, al, hcl, -, -, v1, v2, v3, v7, vb⟩ := id wj
        rw [gI_of (k := 2) hv.1 rfl, Option.bind_some, v1, (enc_nb cl hcl dd (by omega)).1, Option.bind_some, cN_of (by omega), cN_of (by omega)]
        unfold t_X2_walk_l49
        rw [gI_of (k := 2) hv.1 rfl]
        by_cases h4 : nbN cl dd = 99
        · rw [h4, enc99, if_pos rfl, if_pos rfl, Option.bind_some, refuse_yes k (r.less (by omega)), Option.bind_some, v1]
          exact Ok.ret (coOk_ref k f0 (by omega))
        · obtain ⟨q1, q2, -⟩ : nbN cl dd < 16 ∧ hgN cl (nbN cl dd) < 24 ∧ _ := by rcases nb_lt cl hcl dd (by omega) with q | q; exact absurd q h4; exact q
          rw [enc_of h4, if_neg (iNeg (by omega)), if_neg h4, Option.bind_some, refuse_no, Option.bind_some]
          dsimp only
          rw [gI_of (k := 2) hv.1 rfl, Option.bind_some, if_pos (isC_of c.1), v1]
          generalize nbN cl dd = nx at *
          rw [gap_in c hcl q1, Option.bind_some]
          dsimp only
          rw [b2i_if]
          unfold t_X2_walk_l76
          have pre : ∀ {β : Type} {K : Int32 → Option β}, ((gA 1 0 h o).bind fun a55 => (gI 4 2 h (vs j)).bind fun z57 => (t_X1_hedgeOf z57 (Int32.ofNat nx)).bind fun r60 => (ldI Z h a55 r60).bind K) = K (m (6 + hgN cl nx)) := by
            intro β K
            rw [gA_of (k := 0) c.1 rfl, Option.bind_some, gI_of (k := 2) hv.1 rfl, Option.bind_some, v1, (enc_hg cl hcl nx q1).1, Option.bind_some, enc_of (by omega), lget c q2, Option.bind_some]
          by_cases h5 : gp m cl nx = false
          · rw [if_pos h5, if_pos h5, pre, refuse_yes k (r.less (by omega)), Option.bind_some]
            exact Ok.ret (coOk_ref k f0 (by omega))
          · rw [if_neg h5, if_neg h5, pre, refuse_no, Option.bind_some]
            dsimp only
            obtain ⟨X1, e1, kX1, fX1, cX1⟩ := vput (kf := 2) (off := 1) (x := Int32.ofNat nx) k c hj (by decide)
            rw [e1, Option.bind_some, gI_of (k := 3) (cX1.vO hj).1 rfl, Option.bind_some]
            refine Ok.call (vput (kf := 3) (off := 2) kX1 cX1 hj (by decide)) fun X2 ⟨kX2, fX2, cX2⟩ => ?_
            simp (disch := omega) only [vu_ne, vu_eq] at cX2
            rw [gI_of (k := 3) cX2.1 rfl, Option.bind_some]
            simp (disch := omega) only [vu_ne, vu_eq]
            -- from here on the row is wk1
            have fin : ∀ X, hOk Z X → Fr (fun a => lo ≤ a) h X 0 → coreH Z X lo o (wk1 m j nx) L G V eG eV gs vs ng' nv' mG mV → Ok (t_X2_walk_l124 Z X o (vs j) (Int32.ofNat nx)) (coOk Z lo o h 4 (.inl (Int32.ofNat nx, if nx = 15 then settl (wk1 m j 15) j else wk1 m j nx))) := by
              intro X kX fX cX
              unfold t_X2_walk_l124
              rw [if_pos (isC_of (cX.vO hj).1), x6_isOut (cX.vO hj).1, Option.bind_some]
              dsimp only
              rw [b2i_if, wk1_1]
              by_cases h15 : nx = 15
              · subst h15
                rw [if_neg (by decide), if_pos (isC_of cX.1), if_pos rfl]
                have hb : (wk1 m j 15 (46 + 8 * j + 4) = -1 ∧ wk1 m j 15 (46 + 8 * j + 5) = 0 ∧ wk1 m j 15 (46 + 8 * j + 6) = 0) ∨ (∃ g, g < ng' ∧ wk1 m j 15 (46 + 8 * j + 4) = Int32.ofNat g ∧ (wk1 m j 15 (46 + 8 * j + 6) = 0 ∨ wk1 m j 15 (46 + 8 * j + 6) = 1)) := by
                  rw [wk1_at (x := 46 + 8 * j + 4) (by omega) (by omega) (by omega), wk1_at (x := 46 + 8 * j + 5) (by omega) (by omega) (by omega), wk1_6]
                  rcases vb with ⟨e4, e5, e6⟩ | ⟨g, rt, hg, -, -, e4, e5, e6, -⟩
                  · exact Or.inl ⟨e4, e5, by rw [if_neg (by rw [e5]; exact fun q => absurd q.2 (by decide))]; exact e6⟩
                  · refine Or.inr ⟨g, hg, e4, ?_⟩
                    split
                    · exact Or.inr rfl
                    · exact e6
                refine Ok.call (co_settle (B := B) kX cX hj (fun i hi => ?_) hB hb) fun r3 ⟨k3, f3, c3⟩ => ?_
                · rw [wk1_at (by omega) (by omega) (by omega)]; exact w.2.2.2.2.2.2.1 i hi
                · exact Ok.ret (coOk_go k3 (fX.lo f3) (by omega) c3)
              · have hne : ¬ Int32.ofNat nx = 15 := fun q => h15 ((iEq (b := 15) (by omega) (by omega)).mp q)
                rw [if_pos (decide_eq_false hne), if_neg h15]
                exact Ok.ret (coOk_go kX fX (by omega) cX)
            have f2 := (f0.lo fX1).lo fX2
            by_cases h6 : Int32.ofNat nx = m 2
            · rw [if_pos h6, if_pos (isC_of (cX2.vO hj).1)]
              unfold t_X6_meet
              rw [gI_of (k := 6) (cX2.vO hj).1 rfl, Option.bind_some, if_pos (isC_of (cX2.vO hj).1), x6_hasBond (cX2.vO hj).1, Option.bind_some]
              dsimp only
              simp (disch := omega) only [vu_ne, vu_eq]
              have key : ∃ y, m (46 + 8 * j + 6) ||| b2i (decide (¬ m (46 + 8 * j + 4) = -1)) = y ∧ (y = 0 ∨ y = 1) ∧ (if Int32.ofNat nx = m 2 ∧ 0 < m (46 + 8 * j + 5) then 1 else m (46 + 8 * j + 6)) = y := by
                rcases vb with ⟨e4, e5, e6⟩ | ⟨g, rt, hg, r1, r2, e4, e5, e6, -⟩
                · refine ⟨0, by rw [e6, e4]; decide, Or.inl rfl, ?_⟩
                  rw [if_neg (by rw [e5]; exact fun q => absurd q.2 (by decide)), e6]
                · refine ⟨1, ?_, Or.inr rfl, ?_⟩
                  · rw [e4, decide_eq_true (iNeg (by omega))]
                    rcases e6 with e6 | e6 <;> rw [e6] <;> decide
                  · rw [e5, if_pos ⟨h6, (iLt (a := 0) (by omega) (by omega)).mpr (by omega)⟩]
              obtain ⟨y, y1, y2, y3⟩ := key
              rw [y1, if_pos y2]
              obtain ⟨X3, e3, kX3, fX3, cX3⟩ := vput (kf := 6) (off := 6) (x := y) kX2 cX2 hj (by decide)
              rw [e3, Option.bind_some, Option.bind_some]
              refine fin X3 kX3 (f2.lo fX3) (cX3.cong (fun x _ _ => ?_))
              by_cases x1 : x = 46 + 8 * j + 1
              · subst x1; rw [wk1_1]; simp (disch := omega) only [vu_ne, vu_eq]
              by_cases x2 : x = 46 + 8 * j + 2
              · subst x2; rw [wk1_2]; simp (disch := omega) only [vu_ne, vu_eq]
              by_cases x6 : x = 46 + 8 * j + 6
              · subst x6; rw [wk1_6, vu_eq]; exact y3
              rw [wk1_at x1 x2 x6]
              simp (disch := omega) only [vu_ne]
            · rw [if_neg h6]
              refine fin X2 kX2 f2 (cX2.cong (fun x _ _ => ?_))
              by_cases x1 : x = 46 + 8 * j + 1
              · subst x1; rw [wk1_1]; simp (disch := omega) only [vu_ne, vu_eq]
              by_cases x2 : x = 46 + 8 * j + 2
              · subst x2; rw [wk1_2]; simp (disch := omega) only [vu_ne, vu_eq]
              by_cases x6 : x = 46 + 8 * j + 6
              · subst x6; rw [wk1_6, if_neg (fun q => h6 q.1)]; simp (disch := omega) only [vu_ne]
              rw [wk1_at x1 x2 x6]
              simp (disch := omega) only [vu_ne]
end ops
