/-! asking: richest, 2 -/
set_option maxRecDepth 100000
section qa
variable {Z : aZ} {h h' H : aH} {Rt : Nat → Prop} {q : Nat → Nat} {B B' : Nat} {s s' : tS} {C C' : Nat}
theorem co_rich {x : Int32} (k : hOk Z h) (r : Rm Z h 40) (c : cst Z Rt q B h s) : x1Ok Z Rt q B 40 h (t_X1_richest Z h (q 0) x) (t_X3_richest s x) (cd1 nsee) := by
  obtain ⟨ng, nv, w⟩ := c.nums
  have hng := w.2.2.1
  -- the component: one candidate
  have iA : ∀ a X u, a < ng → hOk Z X → Fr non h X u → Rm Z X 8 → Ok (wlo (t_X1_richest_b21 Z) 100 (q 0, x, Int32.ofNat a, 0, 0, X)) (fun r => ∃ Y, hOk Z Y ∧ Fr non X Y 8 ∧ r = if sumI (fRich (s.2 0) nv a) ng 0 = x then .inr (.inl (Int32.ofNat a), Y) else .inl (q 0, x, Int32.ofNat (a + 1), Y)) := by
    intro a X u ha kX fX rX
    refine wlo_for ng (fun j st => ∃ Y, st = (q 0, x, Int32.ofNat a, sumI (fRich (s.2 0) nv a) j 0, Int32.ofNat j, Y) ∧ hOk Z Y ∧ Fr non X Y (2 * j)) _ ?_ ?_ (i := 0) ⟨X, rfl, kX, Fr.rf⟩ (by omega) (by omega)
    · rintro j st hj ⟨Y, rfl, kY, fY⟩
      have f0 : Fr non h Y (u + 2 * j) := fX.tr fY (fun _ _ z => z)
      obtain ⟨C1, e1, g11, g21, g31, g41⟩ := c.core k f0
      obtain ⟨G, u1, u2, u3⟩ := crd_gsize g21
      obtain ⟨W, o1, k1, f1⟩ := co_isR k c w ha hj kY f0 (Rm.after (u := 2 * j) (v := 2) (rX.less (by omega)) fY)
      refine Or.inl ⟨(q 0, x, Int32.ofNat a, sumI (fRich (s.2 0) nv a) (j + 1) 0, Int32.ofNat (j + 1), W), ?_, W, rfl, k1, (fY.tr f1 (fun _ _ z => z)).up (by omega)⟩
      unfold t_X1_richest_b21 t_X1_richest_l52
      dsimp only
      rw [g11, Option.bind_some, u1, Option.bind_some, if_pos u2, u3, Option.bind_some]
      dsimp only
      rw [w.1, if_neg (fun y => by have := (iLe (by omega) (by omega)).mp y; omega), if_pos g41, o1, Option.bind_some, iAdd1]
      dsimp only
      have h01 : fRich (s.2 0) nv a j = 0 ∨ fRich (s.2 0) nv a j = 1 := by
        unfold fRich
        split
        · split
          · split
            · exact Or.inl rfl
            · exact Or.inr rfl
          · split
            · exact Or.inl rfl
            · exact Or.inr rfl
        · split
          · exact Or.inl rfl
          · exact Or.inr rfl
      rw [sumI_s]
      rcases h01 with h01 | h01
      · rw [h01, if_pos rfl]
      · rw [h01, if_neg (by decide)]
    · rintro st ⟨Y, rfl, kY, fY⟩
      have f0 : Fr non h Y (u + 2 * ng) := fX.tr fY (fun _ _ z => z)
      obtain ⟨C1, e1, g11, g21, g31, g41⟩ := c.core k f0
      obtain ⟨G, u1, u2, u3⟩ := crd_gsize g21
      unfold t_X1_richest_b21
      dsimp only
      rw [g11, Option.bind_some, u1, Option.bind_some, if_pos u2, u3, Option.bind_some]
      dsimp only
      rw [w.1, if_pos (Int32.le_refl _), iAdd1]
      by_cases z : sumI (fRich (s.2 0) nv a) ng 0 = x
      · rw [if_pos z]
        exact ⟨_, rfl, Y, kY, fY.up (by omega), by rw [if_pos z]⟩
      · rw [if_neg z]
        exact ⟨_, rfl, Y, kY, fY.up (by omega), by rw [if_neg z]⟩
  have t0 : tld 0 (sT s 0) 0 = some (Int32.ofNat ng) := by rw [show tld 0 (sT s 0) 0 = some (s.2 0 0) from tld_of (n := 86) (i := 0) rfl (by omega) (by omega), w.1]
  have iB : ∀ a, a < ng → wlo t_X3_richest_b22 300 (x, Int32.ofNat a, 0, 0, sT s 0) = some (if sumI (fRich (s.2 0) nv a) ng 0 = x then .inr (Int32.ofNat a, sT s 0) else .inl (x, Int32.ofNat (a + 1), sT s 0)) := by
    intro a ha
    refine (gsum (F := t_X3_richest_b22) (n := ng) (fun acc j => (x, Int32.ofNat a, acc, j, sT s 0)) (fun acc => if acc = x then .inr (Int32.ofNat a, sT s 0) else .inl (x, Int32.ofNat (a + 1), sT s 0)) (fRich (s.2 0) nv a) (fun acc => ?_) (fun acc j hj => ?_) (by omega))
    · unfold t_X3_richest_b22
      dsimp only
      rw [t0, Option.bind_some, if_pos (Int32.le_refl _), iAdd1]
      split <;> rfl
    · unfold t_X3_richest_b22
      dsimp only
      rw [t0, Option.bind_some, if_neg (fun y => by have := (iLe (by omega) (by omega)).mp y; omega), tw_gAt, Option.bind_some, tld0m (by omega), Option.bind_some, tw_gAt, Option.bind_some, tld0m (by omega), Option.bind_some, show (sT s 0).2 0 = s.2 0 from rfl]
      have fin : ∀ u0 : Int32, t_X3_richest_l77 (sT s 0) x (Int32.ofNat a) acc (Int32.ofNat j) u0 = some (.inl (x, Int32.ofNat a, acc + (if u0 = 0 then (if a ≤ j then 0 else 1) else if u0 ≤ 0 then 0 else 1), Int32.ofNat (j + 1), sT s 0)) := by
        intro u0
        unfold t_X3_richest_l77 t_X3_richest_l96 t_X3_richest_l100 t_X3_richest_l101
        rw [iAdd1]
        by_cases z1 : 0 < u0
        · rw [if_pos z1, if_neg (fun y => by rw [y] at z1; exact absurd z1 (by decide)), if_neg (Int32.not_le.mpr z1)]
        · rw [if_neg z1]
          by_cases z2 : u0 = 0
          · rw [if_pos z2, if_pos z2]
            by_cases z3 : a ≤ j
            · rw [if_pos ((iLe (by omega) (by omega)).mpr z3), if_pos z3]
            · rw [if_neg (fun y => z3 ((iLe (by omega) (by omega)).mp y)), if_neg z3]
          · rw [if_neg z2, if_neg z2, if_pos (Int32.not_lt.mp z1)]
      unfold fRich
      by_cases z1 : s.2 0 (30 + 4 * j) - s.2 0 (30 + 4 * a) = 0
      · rw [if_pos z1, if_pos z1, tw_owedBy (s := sT s 0) w (by omega), Option.bind_some]
        dsimp only
        rw [tw_owedBy (s := sT s 0) w (by omega), Option.bind_some, fin]
        rfl
      · rw [if_neg z1, if_neg z1, fin, if_neg z1]
  have oA : Ok (wlo (t_X1_richest_b2 Z) 100 (q 0, x, 0, h)) (fun r => hOk Z r.2 ∧ Fr non h r.2 40 ∧ ((∃ j, j < ng ∧ sumI (fRich (s.2 0) nv j) ng 0 = x ∧ (∀ j', j' < j → sumI (fRich (s.2 0) nv j') ng 0 ≠ x) ∧ r.1 = .inl (Int32.ofNat j)) ∨ ((∀ j', j' < ng → sumI (fRich (s.2 0) nv j') ng 0 ≠ x) ∧ ∃ a, r.1 = .inr (nsee, a)))) := by
    refine wlo_for ng (fun j st => ∃ X, st = (q 0, x, Int32.ofNat j, X) ∧ hOk Z X ∧ Fr non h X (8 * j) ∧ ∀ j', j' < j → sumI (fRich (s.2 0) nv j') ng 0 ≠ x) _ ?_ ?_ (i := 0) ⟨h, rfl, k, Fr.rf, fun j' y => by omega⟩ (by omega) (by omega)
    · rintro j st hj ⟨X, rfl, kX, fX, hno⟩
      obtain ⟨C1, e1, g11, g21, g31, g41⟩ := c.core k fX
      obtain ⟨G, u1, u2, u3⟩ := crd_gsize g21
      obtain ⟨r9, e9, Y, kY, fY, rfl⟩ := iA j X (8 * j) hj kX fX (Rm.after (u := 8 * j) (v := 8) (r.less (by omega)) fX)
      unfold t_X1_richest_b2
      dsimp only
      rw [g11, Option.bind_some, u1, Option.bind_some, if_pos u2, u3, Option.bind_some]
      dsimp only
      rw [w.1, if_neg (fun y => by have := (iLe (by omega) (by omega)).mp y; omega), e9]
      have f0 : Fr non h Y (8 * (j + 1)) := (fX.tr fY (fun _ _ z => z)).up (by omega)
      by_cases z : sumI (fRich (s.2 0) nv j) ng 0 = x
      · rw [if_pos z]
        exact Or.inr ⟨_, rfl, kY, f0.up (by omega), Or.inl ⟨j, hj, z, hno, rfl⟩⟩
      · rw [if_neg z]
        refine Or.inl ⟨_, rfl, Y, rfl, kY, f0, fun j' hj' => ?_⟩
        by_cases u : j' = j
        · subst u; exact z
        · exact hno j' (by omega)
    · rintro st ⟨X, rfl, kX, fX, hno⟩
      obtain ⟨C1, e1, g11, g21, g31, g41⟩ := c.core k fX
      obtain ⟨G, u1, u2, u3⟩ := crd_gsize g21
      unfold t_X1_richest_b2 t_X1_richest_l73
      dsimp only
      rw [g11, Option.bind_some, u1, Option.bind_some, if_pos u2, u3, Option.bind_some]
      dsimp only
      rw [w.1, if_pos (Int32.le_refl _), nw_of (Rm.after (u := 8 * ng) (v := 1) (r.less (by omega)) fX) (by omega), Option.bind_some, if_pos (isC_of hnew_at)]
      exact ⟨_, rfl, kX.new, (fX.tr (Fr.new (S := non) (by omega)) (fun _ _ z => z)).up (by omega), Or.inr ⟨hno, _, rfl⟩⟩
  have oB : Ok (wlo t_X3_richest_b7 300 (x, 0, sT s 0)) (fun r => (∃ j, j < ng ∧ sumI (fRich (s.2 0) nv j) ng 0 = x ∧ (∀ j', j' < j → sumI (fRich (s.2 0) nv j') ng 0 ≠ x) ∧ r = (Int32.ofNat j, sT s 0)) ∨ ((∀ j', j' < ng → sumI (fRich (s.2 0) nv j') ng 0 ≠ x) ∧ r = (-1, sT s 1))) := by
    refine wlo_for ng (fun j st => st = (x, Int32.ofNat j, sT s 0) ∧ ∀ j', j' < j → sumI (fRich (s.2 0) nv j') ng 0 ≠ x) _ ?_ ?_ (i := 0) ⟨rfl, fun j' y => by omega⟩ (by omega) (by omega)
    · rintro j st hj ⟨rfl, hno⟩
      unfold t_X3_richest_b7
      dsimp only
      rw [t0, Option.bind_some, if_neg (fun y => by have := (iLe (by omega) (by omega)).mp y; omega), iB j hj]
      by_cases z : sumI (fRich (s.2 0) nv j) ng 0 = x
      · rw [if_pos z]
        exact Or.inr ⟨_, rfl, Or.inl ⟨j, hj, z, hno, rfl⟩⟩
      · rw [if_neg z]
        refine Or.inl ⟨_, rfl, rfl, fun j' hj' => ?_⟩
        by_cases u : j' = j
        · subst u; exact z
        · exact hno j' (by omega)
    · rintro st ⟨rfl, hno⟩
      unfold t_X3_richest_b7 t_X3_richest_l122
      dsimp only
      rw [t0, Option.bind_some, if_pos (Int32.le_refl _), tw_thr, Option.bind_some, sT_sT]
      exact ⟨_, rfl, Or.inr ⟨hno, rfl⟩⟩
  obtain ⟨⟨ra, Ha⟩, ea, ka, fa, pa⟩ := oA
  obtain ⟨rb, eb, pb⟩ := oB
  dsimp only at ka fa pa
  have et : t_X3_richest s x = some rb := eb
  rw [et]
  rcases pa with ⟨j, a1, a2, a3, rfl⟩ | ⟨a3, a4, rfl⟩
  · rcases pb with ⟨j', b1, b2, b3, rfl⟩ | ⟨b3, rfl⟩
    · have : j = j' := by
        rcases Nat.lt_trichotomy j j' with u | u | u
        · exact absurd a2 (b3 j u)
        · exact u
        · exact absurd b2 (a3 j' u)
      subst this
      exact x1_yes c k ka fa ea rfl (vEq_T 0) (sT_12 (s := s) 0)
    · exact absurd a2 (b3 j a1)
  · rcases pb with ⟨j', b1, b2, b3, rfl⟩ | ⟨b3, rfl⟩
    · exact absurd b2 (a3 j' b1)
    · exact x1_no (v := -1) (c9 := 1) c k ka fa ea rfl (by decide) (by decide)
end qa
