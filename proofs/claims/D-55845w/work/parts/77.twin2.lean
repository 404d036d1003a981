/-! the twin's changes, 2 -/
set_option maxRecDepth 100000
theorem vu_ne {α : Type} {f : Nat → α} {i j : Nat} {x : α} (h : j ≠ i) : va_up f i x j = f j := by simp [va_up, h]
theorem vu_eq {α : Type} {f : Nat → α} {i : Nat} {x : α} : va_up f i x i = x := by simp [va_up]
theorem tw_trim {s : tS} {m : Nat → Int32} {B ng nv : Nat} {g a b : Int32} (w : wfn B ng nv m) : t_X3_trimIt (sM s m) g a b = some (twR s m (sp_trim m g a b)) := by
  obtain ⟨w1, -, w2, -⟩ := w
  unfold t_X3_trimIt sp_trim
  rw [tw_isG, Option.bind_some]
  dsimp only
  rw [b2i_if]
  by_cases h1 : inR g 0 (m 0 - 1) = false
  · rw [if_pos h1, if_pos h1, tldM_0, Option.bind_some, tw_refuse]; rfl
  · rw [if_neg h1, if_neg h1, tw_areN, Option.bind_some]
    by_cases h2 : (inR a 0 15 && inR b 0 15) = false
    · rw [if_pos h2, if_pos h2]; rfl
    · rw [if_neg h2, if_neg h2]
      simp at h2
      obtain ⟨i, hi, rfl⟩ := inR_le (n := 15) (x := a) (by omega) (by rw [show (Int32.ofNat 15) = 15 from rfl]; simp [h2.1])
      obtain ⟨j, hj, rfl⟩ := inR_le (n := 15) (x := b) (by omega) (by rw [show (Int32.ofNat 15) = 15 from rfl]; simp [h2.2])
      rw [cN_of (by omega), cN_of (by omega)]
      by_cases q : hgN i j = 99
      · rw [if_pos q, if_pos q]; rfl
      · have hk := hg_lt i (by omega) j (by omega)
        rw [w1] at h1
        obtain ⟨n, hn, rfl⟩ := inR_idx (by omega) h1
        rw [if_neg q, if_neg q, cN_of (by omega)]
        dsimp only
        rw [if_neg (by decide), (enc_hg i (by omega) j (by omega)).2, Option.bind_some, if_neg q, tw_gAt, Option.bind_some, tldM (by omega), Option.bind_some]
        generalize hgN i j = k at *
        by_cases w3 : m (6 + k) = 0
        · rw [if_pos w3, if_pos w3, tw_refuse]; rfl
        · rw [if_neg w3, if_neg w3, tldM (by omega), Option.bind_some]
          by_cases w4 : m (30 + 4 * n) < 2
          · rw [if_pos w4, if_neg (Int32.not_le.mpr w4), Option.bind_some, tw_refuse]; rfl
          · rw [if_neg w4, if_pos (Int32.not_lt.mp w4), tstM (by omega), Option.bind_some, tldM (by omega), Option.bind_some, tstM (by omega), Option.bind_some, iA3, tldM (by omega), Option.bind_some, tstM (by omega), Option.bind_some, tldM_5, Option.bind_some, tstM_5, Option.bind_some, tldM (by omega), Option.bind_some]
            simp (disch := omega) only [vu_ne, vu_eq]
            rfl
theorem tw_meets {s : tS} {m : Nat → Int32} {j : Nat} (hj : j < 5) : t_X3_meets (sM s m) (Int32.ofNat j) = some (b2i (decide (m (46 + 8 * j + 7) = 0 ∧ m (46 + 8 * j + 1) = m 2)), sM s m) := by
  unfold t_X3_meets
  rw [tw_vAt, Option.bind_some, iA7, iAdd1, tldM (by omega), Option.bind_some]
  by_cases h1 : m (46 + 8 * j + 7) = 0
  · rw [if_pos h1, tldM (by omega), Option.bind_some, tldM_2, Option.bind_some]
    by_cases h2 : m (46 + 8 * j + 1) = m 2
    · rw [if_pos h2]; simp [h1, h2, b2i]
    · rw [if_neg h2]; simp [h2, b2i]
  · rw [if_neg h1]; simp [h1, b2i]
theorem tw_bond {s : tS} {m : Nat → Int32} {B ng nv : Nat} {g v rt : Int32} (w : wfn B ng nv m) : t_X3_bondIt (sM s m) g v rt = some (twR s m (sp_bond m g v rt)) := by
  obtain ⟨w1, w2, w3, w4, -, -, -, w8, -⟩ := w
  unfold t_X3_bondIt sp_bond
  rw [tw_isG, Option.bind_some]
  dsimp only
  rw [b2i_if]
  by_cases h1 : inR g 0 (m 0 - 1) = false
  · rw [if_pos h1, if_pos h1, tldM_0, Option.bind_some, tw_refuse]; rfl
  · rw [if_neg h1, if_neg h1, tw_isV, Option.bind_some]
    dsimp only
    rw [b2i_if]
    by_cases h2 : inR v 0 (m 1 - 1) = false
    · rw [if_pos h2, if_pos h2, tldM_1, Option.bind_some, tw_refuse]; rfl
    · rw [if_neg h2, if_neg h2, tw_in (lo := 1) (hi := 5) (by decide) (by decide), Option.bind_some, b2i_if]
      by_cases h3 : inR rt 1 5 = false
      · rw [if_pos h3, if_pos h3, tw_refuse]; rfl
      · rw [w1] at h1
        rw [w2] at h2
        obtain ⟨n, hn, rfl⟩ := inR_idx (by omega) h1
        obtain ⟨j, hj, rfl⟩ := inR_idx (by omega) h2
        obtain ⟨c, hr, al, -, -, -, -, -, -, v7, -⟩ := w8 j hj
        rw [if_neg h3, if_neg h3, tw_vAt, Option.bind_some, iA7, tldM (by omega), Option.bind_some, cN_of (by omega), cN_of (by omega), iA2, iA4, iA5]
        by_cases h4 : m (46 + 8 * j + 7) = 1
        · rw [if_pos h4, if_pos h4, tldM (by omega), Option.bind_some, tw_refuse]; rfl
        · have h40 : m (46 + 8 * j + 7) = 0 := by rw [v7] at h4 ⊢; split at h4 <;> simp_all
          rw [if_neg h4, if_neg h4, tldM (by omega), Option.bind_some]
          by_cases h5 : m (46 + 8 * j + 4) = -1
          · rw [if_pos h5, if_pos h5, tw_meets (by omega), Option.bind_some]
            dsimp only
            rw [b2i_if]
            by_cases h6 : m (46 + 8 * j + 1) = m 2
            · rw [if_pos h6, if_neg (by simp [h40, h6]), tldM_2, Option.bind_some, tw_refuse]; rfl
            · rw [if_neg h6, if_pos (by simp [h6]), tldM (by omega), Option.bind_some]
              by_cases h7 : m (46 + 8 * j) < 2 * rt
              · rw [if_pos h7, if_neg (Int32.not_le.mpr h7), Option.bind_some, tw_refuse]; rfl
              · rw [if_neg h7, if_pos (Int32.not_lt.mp h7), Option.bind_some, tstM (by omega), Option.bind_some, tstM (by omega), Option.bind_some, tstM (by omega), Option.bind_some, tw_gAt, Option.bind_some, tldM (by omega), Option.bind_some, tstM (by omega), Option.bind_some, Option.bind_some, iAdd1, tldM (by omega), Option.bind_some, tstM (by omega), Option.bind_some, tldM (by omega), Option.bind_some]
                simp (disch := omega) only [vu_ne, vu_eq]
                rfl
          · rw [if_neg h5, if_neg h5, Option.bind_some, tw_refuse]; rfl
theorem tw_mino {s : tS} {m : Nat → Int32} {B ng nv : Nat} {c : Int32} (w : wfn B ng nv m) : t_X3_minotaurIt (sM s m) c = some (twR s m (sp_minotaur m c)) := by
  obtain ⟨-, w2, -, w4, -⟩ := w
  unfold t_X3_minotaurIt sp_minotaur
  rw [tw_in (lo := -1) (hi := 15) (by decide) (by decide), Option.bind_some, b2i_if]
  by_cases h1 : inR c (-1) 15 = false
  · rw [if_pos h1, if_pos h1, tw_refuse]; rfl
  · rw [if_neg h1, if_neg h1, tldM_2, Option.bind_some]
    by_cases h2 : m 2 = c
    · rw [if_pos h2, if_pos h2, tw_refuse]; rfl
    · rw [if_neg h2, if_neg h2, tstM_2, Option.bind_some]
      have hfix : ∀ i, i ≤ 5 → (foldN (mstep c) i (0, va_up m 2 c)).2 1 = m 1 ∧ (foldN (mstep c) i (0, va_up m 2 c)).2 2 = c := by
        intro i
        induction i with
        | zero => intro _; exact ⟨vu_ne (f := m) (i := 2) (j := 1) (x := c) (by omega), vu_eq (f := m) (i := 2) (x := c)⟩
        | succ i ih =>
          intro hi
          obtain ⟨e1, e2⟩ := ih (by omega)
          show (mstep c i _).2 1 = _ ∧ (mstep c i _).2 2 = _
          unfold mstep
          split
          · dsimp only
            split
            · rw [vu_ne (by omega), vu_ne (by omega)]; exact ⟨e1, e2⟩
            · exact ⟨e1, e2⟩
          · exact ⟨e1, e2⟩
      rw [w2, cN_of (by omega)]
      refine Ok.eq ?_
      refine wlo_for nv (fun i st => st = ((foldN (mstep c) i (0, va_up m 2 c)).1, Int32.ofNat i, sM s (foldN (mstep c) i (0, va_up m 2 c)).2)) _ ?_ ?_ (i := 0) rfl (by omega) (by omega)
      · rintro i st hi rfl
        refine Or.inl ⟨_, ?_, rfl⟩
        obtain ⟨e1, e2⟩ := hfix i (by omega)
        show _ = some (Sum.inl ((mstep c i (foldN (mstep c) i (0, va_up m 2 c))).1, Int32.ofNat (i + 1), sM s (mstep c i (foldN (mstep c) i (0, va_up m 2 c))).2))
        generalize foldN (mstep c) i (0, va_up m 2 c) = q at *
        unfold t_X3_minotaurIt_b49
        dsimp only
        rw [tldM_1, Option.bind_some, e1, w2, if_neg (fun z => by have := (iLe (by omega) (by omega)).mp z; omega), tw_meets (by omega), Option.bind_some, e2]
        dsimp only
        rw [tw_vAt, Option.bind_some, b2i_if, iA6]
        unfold t_X3_minotaurIt_l100 t_X3_minotaurIt_l112 t_X3_minotaurIt_l124 mstep
        have same : va_up q.2 (46 + 8 * i + 6) (q.2 (46 + 8 * i + 6)) = q.2 := by
          funext x
          by_cases hx : x = 46 + 8 * i + 6
          · rw [hx, vu_eq]
          · rw [vu_ne hx]
        by_cases h3 : q.2 (46 + 8 * i + 7) = 0 ∧ q.2 (46 + 8 * i + 1) = c
        · rw [if_neg (by simp [h3]), if_pos h3, Option.bind_some, iA5, tldM (by omega), Option.bind_some]
          dsimp only
          by_cases h4 : 0 < q.2 (46 + 8 * i + 5)
          · rw [if_neg (Int32.not_le.mpr h4), if_pos h4, tstM (by omega), Option.bind_some]
            rw [← iAdd1, show b2i (decide (q.2 (46 + 8 * i + 7) = 0 ∧ q.2 (46 + 8 * i + 1) = c)) = 1 by rw [decide_eq_true h3]; rfl, if_neg (by decide)]
          · rw [if_pos (Int32.not_lt.mp h4), if_neg h4, tw_vAt, Option.bind_some, iA6, tldM (by omega), Option.bind_some, tstM (by omega), Option.bind_some, same]
            rw [← iAdd1, show b2i (decide (q.2 (46 + 8 * i + 7) = 0 ∧ q.2 (46 + 8 * i + 1) = c)) = 1 by rw [decide_eq_true h3]; rfl, if_neg (by decide)]
        · rw [if_pos (by simp only [h3, decide_false]), if_neg h3, tw_vAt, Option.bind_some, iA6, tldM (by omega), Option.bind_some, tstM (by omega), Option.bind_some, same]
          simp only [h3, decide_false, b2i, Bool.false_eq_true, if_false, if_true]
          rw [← iAdd1]
          simp
      · rintro st rfl
        obtain ⟨e1, e2⟩ := hfix nv (by omega)
        refine ⟨_, ?_, rfl⟩
        unfold t_X3_minotaurIt_b49
        dsimp only
        rw [tldM_1, Option.bind_some, e1, w2, if_pos Int32.le_rfl]
        rfl
