/-! the twin's changes, 3: summer, visitors, walks -/
set_option maxRecDepth 100000
theorem lt99 {d : Nat} (h : d < 99) : Int32.ofNat d < 99 := (iLt (b := 99) (by omega) (by omega)).mpr h
theorem nlt99 {d : Nat} (h : d = 99) : ¬ Int32.ofNat d < 99 := by subst h; decide
theorem le99 {d : Nat} (h : d = 99) : (99 : Int32) ≤ Int32.ofNat d := by subst h; decide
theorem tw_gapAt {s : tS} {m : Nat → Int32} {k : Nat} (hk : k < 24) : t_X3_isGapAt (sM s m) (Int32.ofNat (6 + k)) = some (if m (6 + k) < 5 then 1 else 0, sM s m) := by
  unfold t_X3_isGapAt
  rw [if_neg (iNeg (by omega)), tldM (by omega), Option.bind_some]
  by_cases h : m (6 + k) < 5
  · rw [if_neg (Int32.not_le.mpr h), if_pos h]
  · rw [if_pos (Int32.not_lt.mp h), if_neg h]
theorem tw_gaps {s : tS} {m : Nat → Int32} : t_X3_gaps (sM s m) = some (gapsI m, sM s m) := by
  unfold t_X3_gaps gapsI
  refine Ok.eq ?_
  refine wlo_for 24 (fun i st => st = (foldN (fun k acc => acc + (if m (6 + k) < 5 then 1 else 0)) i 0, Int32.ofNat i, sM s m)) _ ?_ ?_ (i := 0) rfl (by omega) (by omega)
  · rintro i st hi rfl
    refine Or.inl ⟨_, ?_, rfl⟩
    unfold t_X3_gaps_b4 t_X3_gaps_l27
    dsimp only
    rw [if_neg (fun q => by have := (iLe (a := 24) (b := i) (by omega) (by omega)).mp q; omega), i6A, tw_gapAt hi, Option.bind_some, ← iAdd1]
    by_cases h : m (6 + i) < 5
    · simp only [foldN, if_pos h]; rw [if_neg (by decide)]
    · simp only [foldN, if_neg h, if_true]
  · rintro st rfl
    exact ⟨_, rfl, rfl⟩
theorem tw_summ {s : tS} {m : Nat → Int32} : t_X3_summerIt (sM s m) = some (gapsI m - gapsI (summ m), sM s (summ m)) := by
  unfold t_X3_summerIt
  rw [tw_gaps, Option.bind_some]
  refine Ok.eq ?_
  refine wlo_for 24 (fun i st => ∃ w, st = (gapsI m, Int32.ofNat i, sM s w) ∧ ∀ x, w x = if 6 ≤ x ∧ x < 6 + i then jmin 9 (m x + 1) else m x) _ ?_ ?_ (i := 0) ⟨m, rfl, fun x => by rw [if_neg (by omega)]⟩ (by omega) (by omega)
  · rintro i st hi ⟨w, rfl, hw⟩
    refine Or.inl ?_
    unfold t_X3_summerIt_b7
    dsimp only
    rw [if_neg (fun q => by have := (iLe (a := 24) (b := i) (by omega) (by omega)).mp q; omega), i6A, tldM (by omega), Option.bind_some, tstM (by omega), Option.bind_some]
    refine ⟨_, rfl, _, by rw [iAdd1], fun x => ?_⟩
    by_cases hx : x = 6 + i
    · subst hx
      rw [vu_eq, hw, if_neg (by omega), if_pos (by omega)]
    · rw [vu_ne hx, hw]
      by_cases q : 6 ≤ x ∧ x < 6 + i
      · rw [if_pos q, if_pos (by omega)]
      · rw [if_neg q, if_neg (by omega)]
  · rintro st ⟨w, rfl, hw⟩
    have hfin : va_up w 3 (w 3 + 1) = summ m := by
      funext x
      unfold summ
      by_cases hx : x = 3
      · subst hx
        rw [vu_eq, if_pos rfl, hw, if_neg (by omega)]
      · rw [vu_ne hx, hw, if_neg hx]
    refine ⟨_, ?_, rfl⟩
    unfold t_X3_summerIt_b7 t_X3_summerIt_l44
    dsimp only
    rw [if_pos (show (24 : Int32) ≤ Int32.ofNat 24 by decide), tldM_3, Option.bind_some, tstM_3, Option.bind_some, hfin, tw_gaps]
    rfl
theorem tw_hoursOf {s : tS} {m : Nat → Int32} {a b : Nat} (ha : a < 16) (hb : b < 16) : Ok (t_X3_hoursOf (sM s m) (Int32.ofNat a) (Int32.ofNat b)) (fun r => ∃ W, r = (enc (dst false m a b), sM (sW s W) m)) := by
  unfold t_X3_hoursOf
  obtain ⟨r, e1, F, W, rfl, hW, h1, h2⟩ := tw_lays (t := false) (s := sM s m) ha
  rw [show (0 : Int32) = b2i false from rfl, e1, Option.bind_some]
  dsimp only
  rw [sM_0] at h1
  rw [tld_W hb, Option.bind_some, hW b hb, dst_eq ha h1 h2 hb]
  have hd : dst false m a b ≤ 99 := by rw [← dst_eq ha h1 h2 hb]; exact h2 b hb
  by_cases q : dst false m a b < 99
  · rw [if_pos (lt99 q), Option.bind_some]
    exact Ok.ret ⟨W, by rw [enc_of (by omega), sW_sM]⟩
  · rw [if_neg (nlt99 (by omega))]
    exact Ok.ret ⟨W, by rw [show dst false m a b = 99 by omega, enc99, sW_sM]⟩
theorem tw_reached {s : tS} {m : Nat → Int32} {a : Nat} (ha : a < 16) : Ok (t_X3_reachedFrom (sM s m) (Int32.ofNat a)) (fun r => ∃ W, r = (reaI m a, sM (sW s W) m)) := by
  unfold t_X3_reachedFrom
  obtain ⟨r, e1, F, W, rfl, hW, h1, h2⟩ := tw_lays (t := false) (s := sM s m) ha
  rw [show (0 : Int32) = b2i false from rfl, e1, Option.bind_some]
  dsimp only
  rw [sM_0] at h1
  unfold reaI
  refine wlo_for 16 (fun i st => st = (foldN (fun c acc => acc ||| (if dst false m a c < 99 then bitI c else 0)) i 0, Int32.ofNat i, sW (sM s m) W)) _ ?_ ?_ (i := 0) rfl (by omega) (by omega)
  · rintro i st hi rfl
    refine Or.inl ⟨_, ?_, rfl⟩
    have hd : dst false m a i ≤ 99 := by rw [← dst_eq ha h1 h2 hi]; exact h2 i hi
    unfold t_X3_reachedFrom_b10 t_X3_reachedFrom_l35
    dsimp only
    rw [if_neg (fun q => by have := (iLe (a := 16) (b := i) (by omega) (by omega)).mp q; omega), tld_W hi, Option.bind_some, hW i hi, dst_eq ha h1 h2 hi, ← iAdd1]
    by_cases q : dst false m a i < 99
    · rw [if_neg (Int32.not_le.mpr (lt99 q))]
      simp only [foldN, if_pos q, bitI]
    · rw [if_pos (le99 (by omega))]
      simp only [foldN, if_neg q]
  · rintro st rfl
    exact ⟨_, rfl, W, by rw [sW_sM]⟩
theorem iOr (a b : Nat) : Int32.ofNat a ||| Int32.ofNat b = Int32.ofNat (a ||| b) := by
  apply Int32.toBitVec.inj
  show BitVec.ofNat 32 a ||| BitVec.ofNat 32 b = BitVec.ofNat 32 (a ||| b)
  exact BitVec.ofNat_or.symm
theorem bitI_eq : ∀ k, k < 16 → bitI k = Int32.ofNat (2 ^ k) := by decide +kernel
theorem reaI_eq (m : Nat → Int32) (a : Nat) : reaI m a = Int32.ofNat (reaN m a) ∧ reaN m a < 65536 := by
  unfold reaI reaN
  have key : ∀ i, i ≤ 16 → foldN (fun c acc => acc ||| (if dst false m a c < 99 then bitI c else 0)) i 0 = Int32.ofNat (foldN (fun c acc => acc ||| (if dst false m a c < 99 then 2 ^ c else 0)) i 0) ∧ foldN (fun c acc => acc ||| (if dst false m a c < 99 then 2 ^ c else 0)) i 0 < 2 ^ 16 := by
    intro i
    induction i with
    | zero => intro _; exact ⟨rfl, Nat.two_pow_pos 16⟩
    | succ i ih =>
      intro hi
      obtain ⟨h1, h2⟩ := ih (by omega)
      simp only [foldN]
      rw [h1]
      by_cases q : dst false m a i < 99
      · rw [if_pos q, if_pos q, bitI_eq i (by omega), iOr]
        exact ⟨rfl, Nat.or_lt_two_pow h2 (Nat.pow_lt_pow_right (by omega) (by omega))⟩
      · rw [if_neg q, if_neg q, show (0 : Int32) = Int32.ofNat 0 from rfl, iOr]
        exact ⟨rfl, Nat.or_lt_two_pow h2 (by decide)⟩
  exact key 16 (by omega)
theorem tw_vis {s : tS} {m : Nat → Int32} {B ng nv : Nat} {x : Int32} (w : wfn B ng nv m) : Ok (t_X3_visitorIt (sM s m) x) (fun r => ∃ W, r = twR (sW s W) m (sp_visitor m x)) := by
  obtain ⟨-, w1, -, w2, -⟩ := w
  have same : sM s m = sM (sW s (s.2 13)) m := by rw [sW_same]
  unfold t_X3_visitorIt sp_visitor
  rw [tw_in (lo := 0) (hi := 99) (by decide) (by decide), Option.bind_some, b2i_if]
  by_cases h1 : inR x 0 99 = false
  · rw [if_pos h1, if_pos h1, tw_refuse]; exact Ok.ret ⟨s.2 13, by rw [sW_same]; rfl⟩
  · rw [if_neg h1, if_neg h1, tldM_1, Option.bind_some]
    by_cases h2 : m 1 = 5
    · rw [if_pos h2, if_pos h2, tw_refuse]; exact Ok.ret ⟨s.2 13, by rw [sW_same]; rfl⟩
    · have hn : nv < 5 := by
        have : nv ≠ 5 := fun q => h2 (by rw [w1, q]; rfl)
        omega
      rw [if_neg h2, if_neg h2]
      obtain ⟨r, e1, W, rfl⟩ := tw_hoursOf (s := s) (m := m) (a := 0) (b := 15) (by omega) (by omega)
      have e1' : t_X3_hoursOf (sM s m) 0 15 = some (enc (dst false m 0 15), sM (sW s W) m) := e1
      rw [e1', Option.bind_some]
      dsimp only
      by_cases q : dst false m 0 15 = 99
      · rw [q, enc99, if_pos rfl, if_pos rfl]
        obtain ⟨r, e2, W', rfl⟩ := tw_reached (s := sW s W) (m := m) (a := 0) (by omega)
        have e2' : t_X3_reachedFrom (sM (sW s W) m) 0 = some (reaI m 0, sM (sW (sW s W) W') m) := e2
        rw [e2', Option.bind_some]
        obtain ⟨r1, r2⟩ := reaI_eq m 0
        dsimp only
        rw [r1, (bits_eq r2).2, Option.bind_some, tw_refuse]
        exact Ok.ret ⟨W', by rw [sW_sW]; rfl⟩
      · have hd : ¬ enc (dst false m 0 15) = -1 := by
          rw [enc_of q]
          intro z
          have hle : dst false m 0 15 ≤ 99 := by
            obtain ⟨r, -, F, W9, -, -, g1, g2⟩ := tw_lays (t := false) (a := 0) (s := sM s m) (by omega)
            rw [sM_0] at g1
            rw [← dst_eq (by omega) g1 g2 (by omega)]; exact g2 15 (by omega)
          exact iNeg (by omega) z
        have e3 : t_X3_visitorAt (m 1) = some (Int32.ofNat (46 + 8 * nv)) := by rw [w1, tw_vAt]
        have e4 : cN (m 1) = nv := by rw [w1, cN_of (by omega)]
        rw [if_neg hd, if_neg q, tldM_1, Option.bind_some, e3, Option.bind_some, tstM (by omega), Option.bind_some, iA3, tstM (by omega), Option.bind_some, iA4, tstM (by omega), Option.bind_some, tldM_4, Option.bind_some, tstM_4, Option.bind_some, tldM_1, Option.bind_some, tstM_1, Option.bind_some, tldM_1, Option.bind_some, e4, enc_of q]
        refine Ok.ret ⟨W, ?_⟩
        simp (disch := omega) only [vu_ne, vu_eq]
        rfl
