/-! asking: ranked -/
set_option maxRecDepth 100000
theorem gsum {σ ε : Type} {F : σ → Option (σ ⊕ ε)} {n fuel : Nat} (mk : Int32 → Int32 → σ) (out : Int32 → ε) (g : Nat → Int32) (hend : ∀ acc, F (mk acc (Int32.ofNat n)) = some (.inr (out acc))) (hstep : ∀ acc j, j < n → F (mk acc (Int32.ofNat j)) = some (.inl (mk (acc + g j) (Int32.ofNat (j + 1))))) (hn : n < fuel) {a0 : Int32} : wlo F fuel (mk a0 0) = some (out (sumI g n a0)) := by
  refine Ok.eq ?_
  refine wlo_for n (fun j st => st = mk (sumI g j a0) (Int32.ofNat j)) _ ?_ ?_ (i := 0) rfl (by omega) (by omega)
  · rintro j st hj rfl
    exact Or.inl ⟨_, hstep _ j hj, rfl⟩
  · rintro st rfl
    exact ⟨_, hend _, rfl⟩
def meas (m : Nat → Int32) (x : Int32) (j : Nat) : Int32 := if x = 0 then m (46 + 8 * j) else if x = 1 then m (46 + 8 * j + 2) else if x = 2 then lostI m j else m (46 + 8 * j + 5)
def fBeat (m : Nat → Int32) (x : Int32) (a j : Nat) : Int32 := if 0 < meas m x j - meas m x a then 1 else if meas m x j - meas m x a = 0 then (if a ≤ j then 0 else 1) else 0
section qa
variable {Z : aZ} {h h' H : aH} {Rt : Nat → Prop} {q : Nat → Nat} {B B' : Nat} {s s' : tS} {C C' : Nat}
theorem co_meas {m : Nat → Int32} {x : Int32} {a j : Nat} (ha : h.1 a = some (.inr (4, pV m j))) : t_X1_measure Z h x a = some (meas m x j, h) := by
  unfold t_X1_measure meas
  split
  · unfold t_X4_coins_4
    rw [if_pos (isC_of ha), gI_of (k := 0) ha rfl]; rfl
  · split
    · rw [gI_of (k := 3) ha rfl]; rfl
    · split
      · rw [if_pos (isC_of ha), x6_lost ha]; rfl
      · rw [gI_of (k := 5) ha rfl]; rfl
theorem tw_meas {x : Int32} {j : Nat} (hj : j < 5) : t_X3_measured s x (Int32.ofNat j) = some (meas (s.2 0) x j, s) := by
  unfold t_X3_measured meas
  rw [tw_vAt, Option.bind_some]
  split
  · rw [tld0m (by omega)]; rfl
  · split
    · rw [show Int32.ofNat (46 + 8 * j) + 2 = Int32.ofNat (46 + 8 * j + 2) from v46 j 2, tld0m (by omega)]; rfl
    · split
      · rw [tw_lost' hj]; rfl
      · rw [show Int32.ofNat (46 + 8 * j) + 5 = Int32.ofNat (46 + 8 * j + 5) from v46 j 5, tld0m (by omega)]; rfl
theorem co_rank {x y9 : Int32} (k : hOk Z h) (r : Rm Z h 4) (c : cst Z Rt q B h s) : x1Ok Z Rt q B 4 h (t_X1_ranked Z h (q 0) x y9) (t_X3_ranked s x y9) (cd2 iarg 1 nsee 2) := by
  obtain ⟨C, e, g1, g2, g3, g4⟩ := c.core k (Fr.rf (u := 0))
  obtain ⟨V, mV, eV, nv, vs, v1, v2, v3, v4, v5, -⟩ := crd_vs g2
  generalize hx : t_X1_ranked Z h (q 0) x y9 = y
  unfold t_X1_ranked at hx
  rw [co_isIn, Option.bind_some] at hx
  unfold t_X3_ranked tpf
  rw [Option.bind_some, show t_X3_in x.toInt64 0 3 = some (b2i (inR x 0 3)) from tw_in (lo := 0) (hi := 3) (by decide) (by decide), Option.bind_some]
  by_cases z4 : inR x 0 3 = true
  · rw [z4, arg_ok, Option.bind_some] at hx
    dsimp only at hx
    rw [z4, if_neg (by decide)]
    have iA : ∀ a, a < nv → wlo (t_X1_ranked_b31 Z) 100 (q 0, x, y9, Int32.ofNat a, 0, 0, h) = some (if sumI (fBeat (s.2 0) x a) nv 0 = y9 then .inr (.inl (Int32.ofNat a), h) else .inl (q 0, x, y9, Int32.ofNat (a + 1), h)) := by
      intro a ha
      refine (gsum (F := t_X1_ranked_b31 Z) (n := nv) (fun acc j => (q 0, x, y9, Int32.ofNat a, acc, j, h)) (fun acc => if acc = y9 then .inr (.inl (Int32.ofNat a), h) else .inl (q 0, x, y9, Int32.ofNat (a + 1), h)) (fBeat (s.2 0) x a) (fun acc => ?_) (fun acc j hj => ?_) (by omega))
      · unfold t_X1_ranked_b31
        dsimp only
        rw [g1, Option.bind_some, v1, Option.bind_some, if_pos v2.isC, v2.size, Option.bind_some]
        dsimp only
        rw [if_pos (Int32.le_refl _), iAdd1]
        split <;> rfl
      · unfold t_X1_ranked_b31 t_X1_ranked_l104 t_X1_ranked_l108 t_X1_ranked_l109
        dsimp only
        rw [g1, Option.bind_some, v1, Option.bind_some, if_pos v2.isC, v2.size, Option.bind_some]
        dsimp only
        rw [if_neg (fun y => by have := (iLe (by omega) (by omega)).mp y; omega), g1, Option.bind_some, v1, Option.bind_some, if_pos v2.isC, v2.get hj, Option.bind_some]
        dsimp only
        rw [if_pos (isC_of (v5 j hj)), co_meas (v5 j hj), Option.bind_some]
        dsimp only
        rw [g1, Option.bind_some, v1, Option.bind_some, if_pos v2.isC, v2.get ha, Option.bind_some]
        dsimp only
        rw [if_pos (isC_of (v5 a ha)), co_meas (v5 a ha), Option.bind_some, iAdd1]
        dsimp only
        unfold fBeat
        by_cases w1 : 0 < meas (s.2 0) x j - meas (s.2 0) x a
        · rw [if_pos w1, if_pos w1]
        · rw [if_neg w1, if_neg w1]
          by_cases w2 : meas (s.2 0) x j - meas (s.2 0) x a = 0
          · rw [if_pos w2, if_pos w2]
            by_cases w3 : a ≤ j
            · rw [if_pos ((iLe (by omega) (by omega)).mpr w3), if_pos w3]
            · rw [if_neg (fun y => w3 ((iLe (by omega) (by omega)).mp y)), if_neg w3]
          · rw [if_neg w2, if_neg w2]
    have iB : ∀ a, a < nv → wlo t_X3_ranked_b41 300 (x, y9, Int32.ofNat a, 0, 0, sT s 0) = some (if sumI (fBeat (s.2 0) x a) nv 0 = y9 then .inr (Int32.ofNat a, sT s 0) else .inl (x, y9, Int32.ofNat (a + 1), sT s 0)) := by
      intro a ha
      have t1 : tld 0 (sT s 0) 1 = some (Int32.ofNat nv) := by rw [show tld 0 (sT s 0) 1 = some (s.2 0 1) from tld_of (n := 86) (i := 1) rfl (by omega) (by omega), v4]
      refine (gsum (F := t_X3_ranked_b41) (n := nv) (fun acc j => (x, y9, Int32.ofNat a, acc, j, sT s 0)) (fun acc => if acc = y9 then .inr (Int32.ofNat a, sT s 0) else .inl (x, y9, Int32.ofNat (a + 1), sT s 0)) (fBeat (s.2 0) x a) (fun acc => ?_) (fun acc j hj => ?_) (by omega))
      · unfold t_X3_ranked_b41
        dsimp only
        rw [t1, Option.bind_some, if_pos (Int32.le_refl _), iAdd1]
        split <;> rfl
      · unfold t_X3_ranked_b41 t_X3_ranked_l86 t_X3_ranked_l90 t_X3_ranked_l91
        dsimp only
        rw [t1, Option.bind_some, if_neg (fun y => by have := (iLe (by omega) (by omega)).mp y; omega), tw_meas (by omega), Option.bind_some, tw_meas (by omega), Option.bind_some, iAdd1]
        dsimp only
        rw [show (sT s 0).2 0 = s.2 0 from rfl]
        unfold fBeat
        by_cases w1 : 0 < meas (s.2 0) x j - meas (s.2 0) x a
        · rw [if_pos w1, if_pos w1]
        · rw [if_neg w1, if_neg w1]
          by_cases w2 : meas (s.2 0) x j - meas (s.2 0) x a = 0
          · rw [if_pos w2, if_pos w2]
            by_cases w3 : a ≤ j
            · rw [if_pos ((iLe (by omega) (by omega)).mpr w3), if_pos w3]
            · rw [if_neg (fun y => w3 ((iLe (by omega) (by omega)).mp y)), if_neg w3]
          · rw [if_neg w2, if_neg w2]
    have oA : Ok (wlo (t_X1_ranked_b11 Z) 100 (q 0, x, y9, 0, h)) (fun r => (∃ j, j < nv ∧ sumI (fBeat (s.2 0) x j) nv 0 = y9 ∧ (∀ j', j' < j → sumI (fBeat (s.2 0) x j') nv 0 ≠ y9) ∧ r = (.inl (Int32.ofNat j), h)) ∨ ((∀ j', j' < nv → sumI (fBeat (s.2 0) x j') nv 0 ≠ y9) ∧ r = (.inr (nsee, h.2.1), hnew h (.inr (12, [])) 6))) := by
      refine wlo_for nv (fun j st => st = (q 0, x, y9, Int32.ofNat j, h) ∧ ∀ j', j' < j → sumI (fBeat (s.2 0) x j') nv 0 ≠ y9) _ ?_ ?_ (i := 0) ⟨rfl, fun j' y => by omega⟩ (by omega) (by omega)
      · rintro j st hj ⟨rfl, hno⟩
        unfold t_X1_ranked_b11
        dsimp only
        rw [g1, Option.bind_some, v1, Option.bind_some, if_pos v2.isC, v2.size, Option.bind_some]
        dsimp only
        rw [if_neg (fun y => by have := (iLe (by omega) (by omega)).mp y; omega), iA j hj]
        by_cases w : sumI (fBeat (s.2 0) x j) nv 0 = y9
        · rw [if_pos w]
          exact Or.inr ⟨_, rfl, Or.inl ⟨j, hj, w, hno, rfl⟩⟩
        · rw [if_neg w]
          refine Or.inl ⟨_, rfl, rfl, fun j' hj' => ?_⟩
          by_cases u : j' = j
          · subst u; exact w
          · exact hno j' (by omega)
      · rintro st ⟨rfl, hno⟩
        unfold t_X1_ranked_b11 t_X1_ranked_l132
        dsimp only
        rw [g1, Option.bind_some, v1, Option.bind_some, if_pos v2.isC, v2.size, Option.bind_some]
        dsimp only
        rw [if_pos (Int32.le_refl _), nw_of (r.less (by omega)) (by omega), Option.bind_some, if_pos (isC_of hnew_at)]
        exact ⟨_, rfl, Or.inr ⟨hno, rfl⟩⟩
    have oB : Ok (wlo t_X3_ranked_b25 300 (x, y9, 0, sT s 0)) (fun r => (∃ j, j < nv ∧ sumI (fBeat (s.2 0) x j) nv 0 = y9 ∧ (∀ j', j' < j → sumI (fBeat (s.2 0) x j') nv 0 ≠ y9) ∧ r = (Int32.ofNat j, sT s 0)) ∨ ((∀ j', j' < nv → sumI (fBeat (s.2 0) x j') nv 0 ≠ y9) ∧ r = (-1, sT s 2))) := by
      have t1 : tld 0 (sT s 0) 1 = some (Int32.ofNat nv) := by rw [show tld 0 (sT s 0) 1 = some (s.2 0 1) from tld_of (n := 86) (i := 1) rfl (by omega) (by omega), v4]
      refine wlo_for nv (fun j st => st = (x, y9, Int32.ofNat j, sT s 0) ∧ ∀ j', j' < j → sumI (fBeat (s.2 0) x j') nv 0 ≠ y9) _ ?_ ?_ (i := 0) ⟨rfl, fun j' y => by omega⟩ (by omega) (by omega)
      · rintro j st hj ⟨rfl, hno⟩
        unfold t_X3_ranked_b25
        dsimp only
        rw [t1, Option.bind_some, if_neg (fun y => by have := (iLe (by omega) (by omega)).mp y; omega), iB j hj]
        by_cases w : sumI (fBeat (s.2 0) x j) nv 0 = y9
        · rw [if_pos w]
          exact Or.inr ⟨_, rfl, Or.inl ⟨j, hj, w, hno, rfl⟩⟩
        · rw [if_neg w]
          refine Or.inl ⟨_, rfl, rfl, fun j' hj' => ?_⟩
          by_cases u : j' = j
          · subst u; exact w
          · exact hno j' (by omega)
      · rintro st ⟨rfl, hno⟩
        unfold t_X3_ranked_b25 t_X3_ranked_l114
        dsimp only
        rw [t1, Option.bind_some, if_pos (Int32.le_refl _), tw_thr, Option.bind_some, sT_sT]
        exact ⟨_, rfl, Or.inr ⟨hno, rfl⟩⟩
    obtain ⟨ra, ea, pa⟩ := oA
    obtain ⟨rb, eb, pb⟩ := oB
    rw [ea] at hx
    rw [show wlo t_X3_ranked_b25 300 (x, y9, 0, (va_up s.1 12 0, s.2)) = some rb from eb]
    rcases pa with ⟨j, a1, a2, a3, rfl⟩ | ⟨a3, rfl⟩
    · rcases pb with ⟨j', b1, b2, b3, rfl⟩ | ⟨b3, rfl⟩
      · have : j = j' := by
          rcases Nat.lt_trichotomy j j' with u | u | u
          · exact absurd a2 (b3 j u)
          · exact u
          · exact absurd b2 (a3 j' u)
        subst this
        exact x1_yes c k k Fr.rf hx.symm rfl (vEq_T 0) (sT_12 (s := s) 0)
      · exact absurd a2 (b3 j a1)
    · rcases pb with ⟨j', b1, b2, b3, rfl⟩ | ⟨b3, rfl⟩
      · exact absurd b2 (a3 j' b1)
      · exact x1_no (v := -1) (c9 := 2) c k k.new ((Fr.new (by omega)).up (by omega)) hx.symm rfl (by decide) (by decide)
  · have z4' : inR x 0 3 = false := by simpa using z4
    rw [z4', arg_no' k (r.less (by omega)), Option.bind_some] at hx
    rw [z4', if_pos (by rfl)]
    refine x1_no (v := -1) (c9 := 1) c k k.new ((Fr.new (by omega)).up (by omega)) hx.symm ?_ (by decide) (by decide)
    show some (-1, sT (sT s 0) 1) = _
    rw [sT_sT]
end qa
