/-! the twin's changes meet what is said of them -/
set_option maxRecDepth 100000
def sM (s : tS) (m : Nat → Int32) : tS := (s.1, va_up s.2 0 m)
def sRef (s : tS) (a b : Int32) : tS := (va_up (va_up (va_up (va_up s.1 6 a) 7 b) 8 0) 12 1, s.2)
theorem sM_same (s : tS) : sM s (s.2 0) = s := by
  unfold sM
  refine Prod.ext rfl ?_
  funext k
  by_cases h : k = 0 <;> simp [va_up, h]
theorem sM_sM (s : tS) (m m' : Nat → Int32) : sM (sM s m) m' = sM s m' := by
  unfold sM
  refine Prod.ext rfl ?_
  funext k
  by_cases h : k = 0 <;> simp [va_up, h]
theorem sM_0 (s : tS) (m : Nat → Int32) : (sM s m).2 0 = m := by simp [sM, va_up]
theorem sM_ne (s : tS) (m : Nat → Int32) {k : Nat} (h : k ≠ 0) : (sM s m).2 k = s.2 k := by simp [sM, va_up, h]
theorem sM_1 (s : tS) (m : Nat → Int32) : (sM s m).1 = s.1 := rfl
theorem sW_sM (s : tS) (m W : Nat → Int32) : sW (sM s m) W = sM (sW s W) m := by
  unfold sW sM
  refine Prod.ext rfl ?_
  funext k
  by_cases h : k = 0 <;> by_cases g : k = 13 <;> simp [va_up, h, g]
theorem tldM {s : tS} {m : Nat → Int32} {i : Nat} (hi : i < 86) : tld 0 (sM s m) (Int32.ofNat i) = some (m i) := by rw [tld_of (n := 86) rfl hi (by omega), sM_0]
theorem tstM {s : tS} {m : Nat → Int32} {i : Nat} {x : Int32} (hi : i < 86) : tst 0 (sM s m) (Int32.ofNat i) x = some (sM s (va_up m i x)) := by
  rw [tst_of (n := 86) rfl hi (by omega), sM_0]
  show some (sM (sM s m) (va_up m i x)) = _
  rw [sM_sM]
section lits
variable {s : tS} {m : Nat → Int32} {x : Int32}
theorem tldM_0 : tld 0 (sM s m) 0 = some (m 0) := tldM (i := 0) (by omega)
theorem tldM_1 : tld 0 (sM s m) 1 = some (m 1) := tldM (i := 1) (by omega)
theorem tldM_2 : tld 0 (sM s m) 2 = some (m 2) := tldM (i := 2) (by omega)
theorem tldM_3 : tld 0 (sM s m) 3 = some (m 3) := tldM (i := 3) (by omega)
theorem tldM_4 : tld 0 (sM s m) 4 = some (m 4) := tldM (i := 4) (by omega)
theorem tldM_5 : tld 0 (sM s m) 5 = some (m 5) := tldM (i := 5) (by omega)
theorem tstM_0 : tst 0 (sM s m) 0 x = some (sM s (va_up m 0 x)) := tstM (i := 0) (by omega)
theorem tstM_1 : tst 0 (sM s m) 1 x = some (sM s (va_up m 1 x)) := tstM (i := 1) (by omega)
theorem tstM_2 : tst 0 (sM s m) 2 x = some (sM s (va_up m 2 x)) := tstM (i := 2) (by omega)
theorem tstM_3 : tst 0 (sM s m) 3 x = some (sM s (va_up m 3 x)) := tstM (i := 3) (by omega)
theorem tstM_4 : tst 0 (sM s m) 4 x = some (sM s (va_up m 4 x)) := tstM (i := 4) (by omega)
theorem tstM_5 : tst 0 (sM s m) 5 x = some (sM s (va_up m 5 x)) := tstM (i := 5) (by omega)
end lits
theorem iA2 (a : Nat) : Int32.ofNat a + 2 = Int32.ofNat (a + 2) := iAdd a 2
theorem iA3 (a : Nat) : Int32.ofNat a + 3 = Int32.ofNat (a + 3) := iAdd a 3
theorem iA4 (a : Nat) : Int32.ofNat a + 4 = Int32.ofNat (a + 4) := iAdd a 4
theorem iA5 (a : Nat) : Int32.ofNat a + 5 = Int32.ofNat (a + 5) := iAdd a 5
theorem iA6 (a : Nat) : Int32.ofNat a + 6 = Int32.ofNat (a + 6) := iAdd a 6
theorem iA7 (a : Nat) : Int32.ofNat a + 7 = Int32.ofNat (a + 7) := iAdd a 7
theorem i6A (a : Nat) : 6 + Int32.ofNat a = Int32.ofNat (6 + a) := iAdd 6 a
theorem tw_vAt (j : Nat) : t_X3_visitorAt (Int32.ofNat j) = some (Int32.ofNat (46 + 8 * j)) := by
  unfold t_X3_visitorAt
  rw [show (8 : Int32) = Int32.ofNat 8 from rfl, show (46 : Int32) = Int32.ofNat 46 from rfl, iMul, iAdd]
theorem tw_gAt (j : Nat) : t_X3_gardenerAt (Int32.ofNat j) = some (Int32.ofNat (30 + 4 * j)) := by
  unfold t_X3_gardenerAt
  rw [show (4 : Int32) = Int32.ofNat 4 from rfl, show (30 : Int32) = Int32.ofNat 30 from rfl, iMul, iAdd]
theorem b2i_if {α : Type} {b : Bool} {x y : α} : (if b2i b = 0 then x else y) = if b = false then x else y := by cases b <;> rfl
theorem tw_refuse (s : tS) (a b : Int32) : t_X3_refuse s a b = some (-1, sRef s a b) := rfl
theorem tw_isG (s : tS) (m : Nat → Int32) (g : Int32) : t_X3_isGardener (sM s m) g = some (b2i (inR g 0 (m 0 - 1)), sM s m) := by
  unfold t_X3_isGardener
  rw [tldM_0, Option.bind_some, tw_in (lo := 0) (hi := m 0 - 1) (by decide) rfl, Option.bind_some, if_pos (b2i_01 _)]
theorem tw_isV (s : tS) (m : Nat → Int32) (g : Int32) : t_X3_isVisitor (sM s m) g = some (b2i (inR g 0 (m 1 - 1)), sM s m) := by
  unfold t_X3_isVisitor
  rw [tldM_1, Option.bind_some, tw_in (lo := 0) (hi := m 1 - 1) (by decide) rfl, Option.bind_some, if_pos (b2i_01 _)]
theorem tw_isCell (x : Int32) : t_X3_isCell x = some (b2i (inR x 0 15)) := by
  unfold t_X3_isCell
  rw [tw_in (lo := 0) (hi := 15) (by decide) (by decide), Option.bind_some, if_pos (b2i_01 _)]
theorem inR_le {x : Int32} {n : Nat} (hn : n < 2147483648) (h : ¬ inR x 0 (Int32.ofNat n) = false) : ∃ j, j ≤ n ∧ x = Int32.ofNat j := by
  unfold inR at h
  simp at h
  exact iRange hn h.1 h.2
theorem inR_idx {x : Int32} {n : Nat} (hn : n < 2147483648) (h : ¬ inR x 0 (Int32.ofNat n - 1) = false) : ∃ j, j < n ∧ x = Int32.ofNat j := by
  cases n with
  | zero =>
    unfold inR at h
    simp at h
    obtain ⟨h1, h2⟩ := h
    have := Int32.le_trans h1 h2
    exact absurd this (by decide)
  | succ n =>
    rw [show Int32.ofNat (n + 1) - 1 = Int32.ofNat n by rw [show (1 : Int32) = Int32.ofNat 1 from rfl, iSub (by omega)]; rfl] at h
    obtain ⟨j, h1, h2⟩ := inR_le (by omega) h
    exact ⟨j, by omega, h2⟩
/-- how a change of the twin's ends -/
def twR (s : tS) (m : Nat → Int32) : spR → Int32 × tS
  | .inl (v, m') => (v, sM s m')
  | .inr (a, b) => (-1, sRef (sM s m) a b)
theorem tw_areN {s : tS} {a b : Int32} : t_X3_areNeighbours s a b = some (if (inR a 0 15 && inR b 0 15) = false then (0, sRef s 1 0) else if hgN (cN a) (cN b) = 99 then (0, sRef s 2 (jmax a b)) else (1, s)) := by
  unfold t_X3_areNeighbours t_X3_areNeighbours_l14
  rw [tw_isCell, Option.bind_some, b2i_if]
  by_cases h1 : inR a 0 15 = false
  · rw [if_pos h1, tw_refuse, h1]; rfl
  · rw [if_neg h1, tw_isCell, Option.bind_some, b2i_if]
    by_cases h2 : inR b 0 15 = false
    · rw [if_pos h2, tw_refuse, h2, Bool.and_false]; rfl
    · rw [if_neg h2]
      obtain ⟨i, hi, rfl⟩ := inR_le (n := 15) (by omega) h1
      obtain ⟨j, hj, rfl⟩ := inR_le (n := 15) (by omega) h2
      have e1 : inR (Int32.ofNat i) 0 15 = true := by simpa using h1
      have e2 : inR (Int32.ofNat j) 0 15 = true := by simpa using h2
      rw [e1, e2, (enc_hg i (by omega) j (by omega)).2, Option.bind_some, cN_of (by omega), cN_of (by omega)]
      simp only [Bool.and_self, Bool.true_eq_false, if_false]
      by_cases q : hgN i j = 99
      · rw [if_pos q, if_pos rfl, tw_refuse, if_pos q]; rfl
      · have := hg_lt i (by omega) j (by omega)
        rw [if_neg q, if_neg (iNeg (by omega)), if_neg q]
theorem tw_hedge {s : tS} {m : Nat → Int32} {a b t : Int32} : t_X3_hedgeIt (sM s m) a b t = some (twR s m (sp_hedge m a b t)) := by
  unfold t_X3_hedgeIt sp_hedge
  rw [tw_in (lo := 0) (hi := 9) (by decide) (by decide), Option.bind_some, b2i_if]
  by_cases h1 : inR t 0 9 = false
  · rw [if_pos h1, tw_refuse, h1, Bool.and_false]; rfl
  · have e1 : inR t 0 9 = true := by simpa using h1
    rw [if_neg h1, tw_areN, Option.bind_some, e1, Bool.and_true]
    by_cases h2 : (inR a 0 15 && inR b 0 15) = false
    · rw [if_pos h2, if_pos h2]; rfl
    · rw [if_neg h2, if_neg h2]
      simp at h2
      obtain ⟨i, hi, rfl⟩ := inR_le (n := 15) (x := a) (by omega) (by rw [show (Int32.ofNat 15) = 15 from rfl]; simp [h2.1])
      obtain ⟨j, hj, rfl⟩ := inR_le (n := 15) (x := b) (by omega) (by rw [show (Int32.ofNat 15) = 15 from rfl]; simp [h2.2])
      rw [cN_of (by omega), cN_of (by omega)]
      by_cases q : hgN i j = 99
      · rw [if_pos q, if_pos q]; rfl
      · have := hg_lt i (by omega) j (by omega)
        rw [if_neg q, if_neg q]
        dsimp only
        rw [if_neg (by decide), (enc_hg i (by omega) j (by omega)).2, Option.bind_some, if_neg q, tldM (by omega), Option.bind_some]
        by_cases w : m (6 + hgN i j) = t
        · rw [if_pos w, if_pos w, tw_refuse]; rfl
        · rw [if_neg w, if_neg w, tstM (by omega)]; rfl
theorem tw_rest {s : tS} {m : Nat → Int32} {B ng nv : Nat} {v hr : Int32} (w : wfn B ng nv m) : t_X3_restIt (sM s m) v hr = some (twR s m (sp_rest m v hr)) := by
  obtain ⟨-, w1, -, w2, -⟩ := w
  unfold t_X3_restIt sp_rest
  rw [tw_isV, Option.bind_some]
  dsimp only
  rw [b2i_if]
  by_cases h1 : inR v 0 (m 1 - 1) = false
  · rw [if_pos h1, if_pos h1, tldM_1, Option.bind_some, tw_refuse]; rfl
  · rw [if_neg h1, if_neg h1, tw_in (lo := 1) (hi := 9) (by decide) (by decide), Option.bind_some, b2i_if]
    by_cases h2 : inR hr 1 9 = false
    · rw [if_pos h2, if_pos h2, tw_refuse]; rfl
    · rw [w1] at h1
      obtain ⟨j, hj, rfl⟩ := inR_idx (by omega) h1
      rw [if_neg h2, if_neg h2, tw_vAt, Option.bind_some, cN_of (by omega), iA7, iA2, tldM (by omega), Option.bind_some]
      by_cases h3 : m (46 + 8 * j + 7) = 1
      · rw [if_pos h3, if_pos h3, tldM (by omega), Option.bind_some, tw_refuse]; rfl
      · rw [if_neg h3, if_neg h3, tldM (by omega), Option.bind_some, tstM (by omega), Option.bind_some, tldM (by omega), Option.bind_some]
        simp [twR, va_up]
theorem tw_gard {s : tS} {m : Nat → Int32} {B ng nv : Nat} {x : Int32} (w : wfn B ng nv m) : t_X3_gardenerIt (sM s m) x = some (twR s m (sp_gardener m x)) := by
  obtain ⟨w1, -, w2, -⟩ := w
  unfold t_X3_gardenerIt sp_gardener
  rw [tw_in (lo := 0) (hi := 99) (by decide) (by decide), Option.bind_some, b2i_if]
  by_cases h1 : inR x 0 99 = false
  · rw [if_pos h1, if_pos h1, tw_refuse]; rfl
  · rw [if_neg h1, if_neg h1, tldM_0, Option.bind_some]
    by_cases h2 : m 0 = 4
    · rw [if_pos h2, if_pos h2, tw_refuse]; rfl
    · have hn : ng < 4 := by
        have : ng ≠ 4 := fun q => h2 (by rw [w1, q]; rfl)
        omega
      rw [if_neg h2, if_neg h2, Option.bind_some]
      have e : t_X3_gardenerAt (m 0) = some (Int32.ofNat (30 + 4 * ng)) := by rw [w1, tw_gAt]
      have e2 : cN (m 0) = ng := by rw [w1, cN_of (by omega)]
      rw [e, Option.bind_some, tstM (by omega), Option.bind_some, tldM_4, Option.bind_some, tstM_4, Option.bind_some, tldM_0, Option.bind_some, tstM_0, Option.bind_some, tldM_0, Option.bind_some, e2]
      have z1 : ¬ (4 = 30 + 4 * ng) := by omega
      have z2 : ¬ (0 = 30 + 4 * ng) := by omega
      simp [twR, va_up, z1, z2]
