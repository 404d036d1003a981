/-! the twin's changes, 4: a step -/
set_option maxRecDepth 100000
theorem tw_lost {s : tS} {m : Nat → Int32} {j : Nat} (hj : j < 5) : t_X3_lostOf (sM s m) (Int32.ofNat j) = some (lostI m j, sM s m) := by
  unfold t_X3_lostOf lostI
  rw [tw_vAt, Option.bind_some, iA2, iA3, tldM (by omega), Option.bind_some, tldM (by omega), Option.bind_some]
theorem tw_pays {s : tS} {m : Nat → Int32} {j : Nat} {x : Int32} (hj : j < 5) (hb : m (46 + 8 * j + 4) = -1 ∨ ∃ g, g < 4 ∧ m (46 + 8 * j + 4) = Int32.ofNat g) : t_X3_pays (sM s m) (Int32.ofNat j) x = some (if m (46 + 8 * j + 4) = -1 ∨ m (46 + 8 * j + 6) = 1 then 0 else jmin (m (46 + 8 * j + 5) * x) (m (30 + 4 * cN (m (46 + 8 * j + 4)))), sM s m) := by
  unfold t_X3_pays t_X3_pays_l30 t_X3_pays_l35
  rw [tw_vAt, Option.bind_some, iA4, iA5, iA6, tldM (by omega), Option.bind_some]
  by_cases h1 : m (46 + 8 * j + 4) = -1
  · rw [if_pos h1, if_neg (by decide), if_pos (Or.inl h1)]
  · rw [if_neg h1, tldM (by omega), Option.bind_some]
    by_cases h2 : m (46 + 8 * j + 6) = 1
    · rw [if_pos h2, if_neg (by decide), if_pos (Or.inr h2)]
    · obtain ⟨g, hg, e⟩ : ∃ g, g < 4 ∧ m (46 + 8 * j + 4) = Int32.ofNat g := by rcases hb with q | q; exact absurd q h1; exact q
      rw [if_neg h2, if_pos rfl, tldM (by omega), Option.bind_some, Option.bind_some, if_neg (by rintro (q | q); exact h1 q; exact h2 q), e, tw_gAt, Option.bind_some, tldM (by omega), Option.bind_some, cN_of (by omega)]
theorem tw_l288 {s : tS} {m : Nat → Int32} {j : Nat} {v5 : Int32} (hj : j < 5) : t_X3_walkIt_l288 (sM s m) (Int32.ofNat (46 + 8 * j)) v5 = some (v5, sM s (va_up (va_up (va_up (va_up m (46 + 8 * j + 7) 1) (46 + 8 * j + 4) (-1)) (46 + 8 * j + 5) 0) (46 + 8 * j + 6) 0)) := by
  unfold t_X3_walkIt_l288
  rw [iA7, iA4, iA5, iA6, tstM (by omega), Option.bind_some, tstM (by omega), Option.bind_some, tstM (by omega), Option.bind_some, tstM (by omega), Option.bind_some]
theorem tw_settle {s : tS} {m : Nat → Int32} {j : Nat} {u : Int32} (hj : j < 5) (hb : m (46 + 8 * j + 4) = -1 ∨ ∃ g, g < 4 ∧ m (46 + 8 * j + 4) = Int32.ofNat g) (m0 : Nat → Int32) (hm : va_up m0 (46 + 8 * j + 6) u = m) : t_X3_walkIt_l201 (sM s m0) (Int32.ofNat j) (Int32.ofNat (46 + 8 * j)) 15 u (Int32.ofNat (46 + 8 * j + 6)) = some (15, sM s (settl m j)) := by
  unfold t_X3_walkIt_l201
  rw [tstM (by omega), Option.bind_some, hm, if_pos rfl, tw_lost hj, Option.bind_some, tw_pays hj hb, Option.bind_some]
  dsimp only
  have hp : (if m (46 + 8 * j + 4) = -1 ∨ m (46 + 8 * j + 6) = 1 then 0 else jmin (m (46 + 8 * j + 5) * lostI m j) (m (30 + 4 * cN (m (46 + 8 * j + 4))))) = paidI m j := rfl
  rw [hp, tldM (by omega), Option.bind_some, tstM (by omega), Option.bind_some, iA4, tldM (by omega), Option.bind_some, vu_ne (by omega)]
  by_cases h1 : m (46 + 8 * j + 4) = -1
  · rw [if_pos h1, tw_l288 hj]
    congr 3
    funext x
    unfold settl
    by_cases x0 : x = 46 + 8 * j
    · subst x0; simp (disch := omega) only [vu_ne, vu_eq, if_true]
    by_cases x7 : x = 46 + 8 * j + 7
    · subst x7; simp (disch := omega) only [vu_ne, vu_eq, if_true]; rw [if_neg (by omega)]
    by_cases x4 : x = 46 + 8 * j + 4
    · subst x4; simp (disch := omega) only [vu_ne, vu_eq, if_true]; rw [if_neg (by omega), if_neg (by omega)]
    by_cases x5 : x = 46 + 8 * j + 5
    · subst x5; simp (disch := omega) only [vu_ne, vu_eq, if_true]; rw [if_neg (by omega), if_neg (by omega), if_neg (by omega)]
    by_cases x6 : x = 46 + 8 * j + 6
    · subst x6; simp (disch := omega) only [vu_ne, vu_eq, if_true]; rw [if_neg (by omega), if_neg (by omega), if_neg (by omega), if_neg (by omega)]
    rw [if_neg x0, if_neg x7, if_neg x4, if_neg x5, if_neg x6, if_pos h1]
    simp (disch := omega) only [vu_ne]
  · obtain ⟨g, hg, e⟩ : ∃ g, g < 4 ∧ m (46 + 8 * j + 4) = Int32.ofNat g := by rcases hb with q | q; exact absurd q h1; exact q
    have e2 : cN (m (46 + 8 * j + 4)) = g := by rw [e, cN_of (by omega)]
    rw [if_neg h1, Option.bind_some, e, tw_gAt, Option.bind_some, tldM (by omega), Option.bind_some, tstM (by omega), Option.bind_some, tldM (by omega), Option.bind_some]
    simp (disch := omega) only [vu_ne]
    rw [e, tw_gAt, Option.bind_some, iA2, tldM (by omega), Option.bind_some, tstM (by omega), Option.bind_some, tw_l288 hj]
    congr 3
    funext x
    unfold settl
    rw [e2]
    by_cases x0 : x = 46 + 8 * j
    · subst x0; simp (disch := omega) only [vu_ne, vu_eq, if_true]
    by_cases x7 : x = 46 + 8 * j + 7
    · subst x7; simp (disch := omega) only [vu_ne, vu_eq, if_true]; rw [if_neg (by omega)]
    by_cases x4 : x = 46 + 8 * j + 4
    · subst x4; simp (disch := omega) only [vu_ne, vu_eq, if_true]; rw [if_neg (by omega), if_neg (by omega)]
    by_cases x5 : x = 46 + 8 * j + 5
    · subst x5; simp (disch := omega) only [vu_ne, vu_eq, if_true]; rw [if_neg (by omega), if_neg (by omega), if_neg (by omega)]
    by_cases x6 : x = 46 + 8 * j + 6
    · subst x6; simp (disch := omega) only [vu_ne, vu_eq, if_true]; rw [if_neg (by omega), if_neg (by omega), if_neg (by omega), if_neg (by omega)]
    rw [if_neg x0, if_neg x7, if_neg x4, if_neg x5, if_neg x6, if_neg h1]
    by_cases y0 : x = 30 + 4 * g
    · subst y0; rw [if_pos rfl]; simp (disch := omega) only [vu_ne, vu_eq]
    by_cases y2 : x = 30 + 4 * g + 2
    · subst y2; rw [if_neg (by omega), if_pos rfl]; simp (disch := omega) only [vu_ne, vu_eq]
    rw [if_neg y0, if_neg y2]
    simp (disch := omega) only [vu_ne]
theorem tw_walk {s : tS} {m : Nat → Int32} {B ng nv : Nat} {v d : Int32} (w : wfn B ng nv m) : t_X3_walkIt (sM s m) v d = some (twR s m (sp_walk m v d)) := by
  obtain ⟨w1, w2, w3, w4, w5, w6, w7, w8, -⟩ := w
  unfold t_X3_walkIt sp_walk
  rw [tw_isV, Option.bind_some]
  dsimp only
  rw [b2i_if]
  by_cases h1 : inR v 0 (m 1 - 1) = false
  · rw [if_pos h1, if_pos h1, tldM_1, Option.bind_some, tw_refuse]; rfl
  · rw [if_neg h1, if_neg h1, tw_in (lo := 0) (hi := 3) (by decide) (by decide), Option.bind_some, b2i_if]
    by_cases h2 : inR d 0 3 = false
    · rw [if_pos h2, if_pos h2, tw_refuse]; rfl
    · rw [if_neg h2, if_neg h2]
      rw [w2] at h1
      obtain ⟨j, hj, rfl⟩ := inR_idx (by omega) h1
      obtain ⟨dd, hd, rfl⟩ := inR_le (n := 3) (by omega) h2
      obtain ⟨c, hr, al, hc, -, -, v1, v2, v3, v7, vb⟩ := w8 j hj
      rw [tw_vAt, Option.bind_some, iA7, iAdd1, iA2, iA5, iA6, tldM (by omega), Option.bind_some, cN_of (n := j) (by omega)]
      by_cases h3 : m (46 + 8 * j + 7) = 1
      · rw [if_pos h3, if_pos h3, tldM (by omega), Option.bind_some, tw_refuse]; rfl
      · have h30 : m (46 + 8 * j + 7) = 0 := by rw [v7] at h3 ⊢; split at h3 <;> simp_all
        rw [if_neg h3, if_neg h3, tldM (by omega), Option.bind_some, v1, (enc_nb c hc dd (by omega)).2, Option.bind_some, cN_of (by omega), cN_of (by omega)]
        by_cases h4 : nbN c dd = 99
        · rw [h4, enc99, if_pos rfl, if_pos rfl, tw_refuse]; rfl
        · obtain ⟨g1, g2, -⟩ : nbN c dd < 16 ∧ hgN c (nbN c dd) < 24 ∧ _ := by rcases nb_lt c hc dd (by omega) with q | q; exact absurd q h4; exact q
          rw [enc_of h4, if_neg (iNeg (by omega)), if_neg h4, (enc_hg c hc _ g1).2, Option.bind_some, tw_isGapAt hc g1, Option.bind_some, sM_0]
          generalize nbN c dd = nx at *
          dsimp only
          have hif : ∀ {α : Type} {x y : α}, (if (if gp m c nx = true then (1 : Int32) else 0) = 0 then x else y) = if gp m c nx = false then x else y := by
            intro α x y; cases gp m c nx <;> rfl
          rw [hif]
          by_cases h5 : gp m c nx = false
          · rw [if_pos h5, if_pos h5, Option.bind_some, if_neg (by omega), tldM (by omega), Option.bind_some, tw_refuse]; rfl
          · rw [if_neg h5, if_neg h5, tstM (by omega), Option.bind_some, tldM (by omega), Option.bind_some, tstM (by omega), Option.bind_some, tw_meets (by omega), Option.bind_some]
            dsimp only
            rw [b2i_if]
            simp (disch := omega) only [vu_ne, vu_eq]
            have hbond : m (46 + 8 * j + 4) = -1 ∨ ∃ g, g < 4 ∧ m (46 + 8 * j + 4) = Int32.ofNat g := by
              rcases vb with ⟨q, -, -⟩ | ⟨g, rt, q1, -, -, q2, -⟩
              · exact Or.inl q
              · exact Or.inr ⟨g, by omega, q2⟩
            -- the end, whatever the bond's new mark is
            have fin : ∀ u : Int32, u = (if Int32.ofNat nx = m 2 ∧ 0 < m (46 + 8 * j + 5) then 1 else m (46 + 8 * j + 6)) → t_X3_walkIt_l201 (sM s (va_up (va_up m (46 + 8 * j + 1) (Int32.ofNat nx)) (46 + 8 * j + 2) (m (46 + 8 * j + 2) + 1))) (Int32.ofNat j) (Int32.ofNat (46 + 8 * j)) (Int32.ofNat nx) u (Int32.ofNat (46 + 8 * j + 6)) = some (twR s m (.inl (Int32.ofNat nx, if nx = 15 then settl (wk1 m j 15) j else wk1 m j nx))) := by
              intro u hu
              have hm : va_up (va_up (va_up m (46 + 8 * j + 1) (Int32.ofNat nx)) (46 + 8 * j + 2) (m (46 + 8 * j + 2) + 1)) (46 + 8 * j + 6) u = wk1 m j nx := by
                funext x
                unfold wk1
                by_cases x1 : x = 46 + 8 * j + 1
                · subst x1; rw [if_pos rfl]; simp (disch := omega) only [vu_ne, vu_eq]
                by_cases x2 : x = 46 + 8 * j + 2
                · subst x2; rw [if_neg (by omega), if_pos rfl]; simp (disch := omega) only [vu_ne, vu_eq]
                by_cases x6 : x = 46 + 8 * j + 6
                · subst x6; rw [if_neg (by omega), if_neg (by omega), if_pos rfl, vu_eq]; exact hu
                rw [if_neg x1, if_neg x2, if_neg x6]
                simp (disch := omega) only [vu_ne]
              by_cases h15 : nx = 15
              · subst h15
                have hb' : wk1 m j 15 (46 + 8 * j + 4) = m (46 + 8 * j + 4) := by unfold wk1; rw [if_neg (by omega), if_neg (by omega), if_neg (by omega)]
                rw [if_pos rfl, show (Int32.ofNat 15) = 15 from rfl]
                exact tw_settle (by omega) (by rw [hb']; exact hbond) _ hm
              · unfold t_X3_walkIt_l201
                rw [tstM (by omega), Option.bind_some, hm, if_neg (show ¬ Int32.ofNat nx = 15 from fun q => h15 ((iEq (b := 15) (by omega) (by omega)).mp q)), if_neg h15]
                rfl
            have fin' : ∀ u0, t_X3_walkIt_l192 (sM s (va_up (va_up m (46 + 8 * j + 1) (Int32.ofNat nx)) (46 + 8 * j + 2) (m (46 + 8 * j + 2) + 1))) (Int32.ofNat j) (Int32.ofNat (46 + 8 * j)) (Int32.ofNat nx) u0 = t_X3_walkIt_l201 (sM s (va_up (va_up m (46 + 8 * j + 1) (Int32.ofNat nx)) (46 + 8 * j + 2) (m (46 + 8 * j + 2) + 1))) (Int32.ofNat j) (Int32.ofNat (46 + 8 * j)) (Int32.ofNat nx) (m (46 + 8 * j + 6)) u0 := by
              intro u0
              unfold t_X3_walkIt_l192
              rw [iA6, tldM (by omega), Option.bind_some]
              simp (disch := omega) only [vu_ne]
            by_cases h6 : Int32.ofNat nx = m 2
            · rw [if_neg (by simp [h30, h6]), tldM (by omega), Option.bind_some]
              simp (disch := omega) only [vu_ne]
              by_cases h7 : 0 < m (46 + 8 * j + 5)
              · rw [if_neg (Int32.not_le.mpr h7)]
                exact fin 1 (by rw [if_pos ⟨h6, h7⟩])
              · rw [if_pos (Int32.not_lt.mp h7), fin']
                exact fin _ (by rw [if_neg (fun q => h7 q.2)])
            · rw [if_pos (by simp [h6]), fin']
              exact fin _ (by rw [if_neg (fun q => h6 q.1)])
