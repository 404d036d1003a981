/-! asking: next, gaps, need, summers -/
set_option maxRecDepth 100000
section qa
variable {Z : aZ} {h h' H : aH} {Rt : Nat → Prop} {q : Nat → Nat} {B B' : Nat} {s s' : tS} {C C' : Nat}
theorem crd_gap {R : Nat → Prop} {m : Nat → Int32} (c : crd Z h R B C m) {a b : Nat} (ha : a < 16) (hb : b < 16) : t_X2_isGap Z h C (Int32.ofNat a) (Int32.ofNat b) = some (b2i (gp m a b), h) := by
  obtain ⟨w, lo, hi, ⟨L, G, V, eG, eV, gs, vs, ng, nv, mG, mV, c⟩, hR⟩ := c
  exact gap_in c ha hb
theorem tw_gapAt' {k : Nat} (hk : k < 24) : t_X3_isGapAt s (Int32.ofNat (6 + k)) = some (if s.2 0 (6 + k) < 5 then 1 else 0, s) := by
  have := tw_gapAt (s := s) (m := s.2 0) hk
  rw [sM_same] at this
  exact this
theorem enc_nxt {a b : Nat} (ha : a ≤ 99) (hb : b ≤ 15) (h1 : 1 ≤ b) : enc a = enc b - 1 ↔ a + 1 = b := by
  rw [enc_of (x := b) (by omega), show (1 : Int32) = Int32.ofNat 1 from rfl, iSub h1]
  by_cases z : a = 99
  · subst z
    rw [enc99]
    refine ⟨fun y => absurd y.symm (iNeg (by omega)), fun y => by omega⟩
  · rw [enc_of z, iEq (by omega) (by omega)]
    omega
theorem co_next {a : Int32} (k : hOk Z h) (r : Rm Z h 4) (c : cst Z Rt q B h s) : x1Ok Z Rt q B 4 h (t_X1_next Z h (q 0) a) (t_X3_next s a) (cd2 ioob 1 nsee 2) := by
  generalize hx : t_X1_next Z h (q 0) a = y
  unfold t_X1_next at hx
  rw [mk1 k (r.less (by omega))] at hx
  unfold t_X3_next
  rw [tw_cells, Bool.and_self]
  by_cases z : inR a 0 15 = true
  · obtain ⟨i, hi, rfl⟩ := cell_idx z
    rw [if_pos z, Option.bind_some, z]
    dsimp only
    obtain ⟨W, eW, hW⟩ := tw_way (s := sT s 0) (t := false) (a := 15) (by omega)
    rw [if_neg (by decide), show t_X3_laysWays (sT s 0) 15 0 = some ((), sW (sT s 0) W) from eW, Option.bind_some]
    dsimp only
    rw [cells1_ok z, Option.bind_some] at hx
    dsimp only at hx
    have f1 : Fr non h (hI1 Z h (Int32.ofNat i)) 1 := Fr.new (by omega)
    have k1 : hOk Z (hI1 Z h (Int32.ofNat i)) := k.new
    obtain ⟨C, e, g1, g2, g3, g4⟩ := c.core k f1
    have r1 : Rm Z (hI1 Z h (Int32.ofNat i)) 3 := Rm.after (u := 1) (v := 3) r f1
    rw [g1, Option.bind_some, if_pos g3] at hx
    obtain ⟨r2, e2, f, rfl, hf⟩ := co_dstT (t := false) (a := 15) k1 (r1.less (by omega)) (crd_lvs g2) (by omega)
    rw [show t_X2_distances Z (hI1 Z h (Int32.ofNat i)) C 15 0 = _ from e2, Option.bind_some] at hx
    dsimp only at hx
    have f2 : Fr non h (hnew (hI1 Z h (Int32.ofNat i)) (aI16 Z f) 16) 2 := f2n (by omega) (by omega)
    have k2 : hOk Z (hnew (hI1 Z h (Int32.ofNat i)) (aI16 Z f) 16) := k1.new
    have r2 : Rm Z (hnew (hI1 Z h (Int32.ofNat i)) (aI16 Z f) 16) 2 := Rm.after (u := 2) (v := 2) r f2
    have a2 : (hnew (hI1 Z h (Int32.ofNat i)) (aI16 Z f) 16).1 (hI1 Z h (Int32.ofNat i)).2.1 = some (aI16 Z f) := hnew_at
    generalize hnew (hI1 Z h (Int32.ofNat i)) (aI16 Z f) 16 = h2 at hx f2 k2 r2 a2
    generalize (hI1 Z h (Int32.ofNat i)).2.1 = A at hx a2
    have no : t_X1_next_l38 Z h2 (q 0) (Int32.ofNat i) A = y → x1Ok Z Rt q B 4 h y (t_X3_next_l35 (sW (sT s 0) W)) (cd2 ioob 1 nsee 2) := by
      intro hx
      unfold t_X1_next_l38 t_X1_next_l39 at hx
      rw [elem_no k2 (r2.less (by omega)), Option.bind_some] at hx
      unfold t_X3_next_l35
      rw [tw_thr, Option.bind_some]
      exact x1_no' (v := -1) (c9 := 2) c k k2.new ((f2.tr (Fr.new (S := non) (by omega)) (fun _ _ z => z)).up (by omega)) hx.symm rfl ((vEq_T 0).tr ((vEq_W W).tr (vEq_T 2))) (sT_12 2) (by decide) (by decide)
    by_cases z15 : i = 15
    · subst z15
      rw [if_pos (by rfl)] at hx ⊢
      exact no hx
    · have n15 : ¬ Int32.ofNat i = 15 := fun y => z15 ((iEq (b := 15) (by omega) (by omega)).mp y)
      rw [if_neg n15, ldI_of a2 hi (by omega), Option.bind_some, hf i hi] at hx
      rw [if_neg n15, tld_W hi, Option.bind_some, hW i hi]
      have hd := (dst_spec (t := false) (m := s.2 0) (a := 15) (by omega)).2
      by_cases z9 : dst false (s.2 0) 15 i = 99
      · rw [z9, enc99, if_pos rfl] at hx
        rw [if_neg (nlt99 (show dst false ((sT s 0).2 0) 15 i = 99 from z9))]
        exact no hx
      · have z9' : dst false (s.2 0) 15 i < 99 := by have := hd i hi; omega
        have hle := dst_lt15 (by omega) hi z9'
        have h1 : 1 ≤ dst false (s.2 0) 15 i := by
          cases hq : dst false (s.2 0) 15 i with
          | zero => exact absurd (dst_0 hi hq) z15
          | succ n => omega
        rw [if_neg (enc_ne z9')] at hx
        rw [if_pos (lt99 (show dst false ((sT s 0).2 0) 15 i < 99 from z9'))]
        obtain ⟨u, hu, hnx⟩ := nxt_ex hi z15 z9'
        -- the component's loop
        unfold t_X1_next_l39 at hx
        rw [show t_X1_requireElement Z h2 1 = some (.inl (), h2) from rfl, Option.bind_some] at hx
        dsimp only at hx
        obtain ⟨C2, e2', g1', g2', g3', g4'⟩ := c.core k f2
        obtain ⟨r5, e5, v, hv, p1, p2, p3⟩ : Ok (wlo (t_X1_next_b44 Z) 100 (q 0, Int32.ofNat i, A, 0, h2)) (fun r => ∃ v, v < 16 ∧ r = (.inl (Int32.ofNat v), h2) ∧ nxt (s.2 0) i v ∧ ∀ v', v' < v → ¬ nxt (s.2 0) i v') := by
          refine wlo_for 16 (fun j st => st = (q 0, Int32.ofNat i, A, Int32.ofNat j, h2) ∧ ∀ v', v' < j → ¬ nxt (s.2 0) i v') _ ?_ ?_ (i := 0) ⟨rfl, fun v' y => by omega⟩ (by omega) (by omega)
          · rintro j st hj ⟨rfl, hno⟩
            unfold t_X1_next_b44
            dsimp only
            rw [if_neg (show ¬ (16 : Int32) ≤ Int32.ofNat j from fun y => by have := (iLe (a := 16) (by omega) (by omega)).mp y; omega), g1', Option.bind_some, if_pos g3', crd_gap g2' hi hj, Option.bind_some]
            dsimp only
            unfold t_X1_next_l75
            by_cases hg : gp (s.2 0) i j = true
            · rw [hg, if_neg (by decide), ldI_of a2 hj (by omega), Option.bind_some, ldI_of a2 hi (by omega), Option.bind_some, hf j hj, hf i hi]
              by_cases ht : dst false (s.2 0) 15 j + 1 = dst false (s.2 0) 15 i
              · rw [if_pos ((enc_nxt (hd j hj) hle h1).mpr ht)]
                exact Or.inr ⟨_, rfl, j, hj, rfl, ⟨hg, ht⟩, hno⟩
              · rw [if_neg (fun y => ht ((enc_nxt (hd j hj) hle h1).mp y)), iAdd1]
                refine Or.inl ⟨_, rfl, rfl, fun v' hv' y => ?_⟩
                by_cases yy : v' = j
                · subst yy; exact ht y.2
                · exact hno v' (by omega) y
            · have hg' : gp (s.2 0) i j = false := by simpa using hg
              rw [hg', if_pos (by rfl), iAdd1]
              refine Or.inl ⟨_, rfl, rfl, fun v' hv' y => ?_⟩
              by_cases yy : v' = j
              · subst yy; exact hg y.1
              · exact hno v' (by omega) y
          · rintro st ⟨rfl, hno⟩
            exact absurd hnx (hno u hu)
        obtain ⟨r6, e6, v', hv', p1', p2', p3'⟩ : Ok (wlo t_X3_next_b43 300 (Int32.ofNat i, 0, sW (sT s 0) W)) (fun r => ∃ v, v < 16 ∧ r = (Int32.ofNat v, sW (sT s 0) W) ∧ nxt (s.2 0) i v ∧ ∀ v', v' < v → ¬ nxt (s.2 0) i v') := by
          refine wlo_for 16 (fun j st => st = (Int32.ofNat i, Int32.ofNat j, sW (sT s 0) W) ∧ ∀ v', v' < j → ¬ nxt (s.2 0) i v') _ ?_ ?_ (i := 0) ⟨rfl, fun v' y => by omega⟩ (by omega) (by omega)
          · rintro j st hj ⟨rfl, hno⟩
            have step : ¬ nxt (s.2 0) i j → ∀ v', v' < j + 1 → ¬ nxt (s.2 0) i v' := by
              intro hn v' hv' y
              by_cases yy : v' = j
              · subst yy; exact hn y
              · exact hno v' (by omega) y
            unfold t_X3_next_b43 t_X3_next_l81
            dsimp only
            rw [tw_hg hi hj, Option.bind_some]
            by_cases h99 : hgN i j = 99
            · rw [if_pos h99, if_pos rfl, iAdd1]
              exact Or.inl ⟨_, rfl, rfl, step (fun y => (gp_hg y.1).1 h99)⟩
            · have hlt : hgN i j < 24 := by rcases hg_lt i hi j hj with y | y; exact absurd y h99; exact y
              rw [if_neg h99, if_neg (iNeg (by omega)), Option.bind_some, tw_gapAt' hlt, Option.bind_some]
              dsimp only
              rw [sW_0]
              by_cases hg : s.2 0 (6 + hgN i j) < 5
              · rw [show (if (sT s 0).2 0 (6 + hgN i j) < 5 then (1 : Int32) else 0) = 1 from if_pos hg, if_neg (by decide), tld_W hj, Option.bind_some, tld_W hi, Option.bind_some, hW j hj, hW i hi]
                have hgp : gp (s.2 0) i j = true := by unfold gp; simp [h99, hg]
                have hiff : Int32.ofNat (dst false ((sT s 0).2 0) 15 j) = Int32.ofNat (dst false ((sT s 0).2 0) 15 i) - 1 ↔ dst false (s.2 0) 15 j + 1 = dst false (s.2 0) 15 i := by
                  show Int32.ofNat (dst false (s.2 0) 15 j) = Int32.ofNat (dst false (s.2 0) 15 i) - 1 ↔ _
                  have := hd j hj
                  rw [show (1 : Int32) = Int32.ofNat 1 from rfl, iSub h1, iEq (by omega) (by omega)]
                  omega
                by_cases ht : dst false (s.2 0) 15 j + 1 = dst false (s.2 0) 15 i
                · rw [if_pos (hiff.mpr ht)]
                  exact Or.inr ⟨_, rfl, j, hj, rfl, ⟨hgp, ht⟩, hno⟩
                · rw [if_neg (fun y => ht (hiff.mp y)), iAdd1]
                  exact Or.inl ⟨_, rfl, rfl, step (fun y => ht y.2)⟩
              · rw [show (if (sT s 0).2 0 (6 + hgN i j) < 5 then (1 : Int32) else 0) = 0 from if_neg hg, if_pos rfl, iAdd1]
                exact Or.inl ⟨_, rfl, rfl, step (fun y => hg (gp_hg y.1).2)⟩
          · rintro st ⟨rfl, hno⟩
            exact absurd hnx (hno u hu)
        have ev : v = v' := by
          rcases Nat.lt_trichotomy v v' with y | y | y
          · exact absurd p2 (p3' v y)
          · exact y
          · exact absurd p2' (p3 v' y)
        subst ev
        rw [e5, p1] at hx
        rw [e6, p1']
        exact x1_yes c k k2 (f2.up (by omega)) hx.symm rfl ((vEq_T 0).tr (vEq_W W)) (sT_12 (s := s) 0)
  · have z' : inR a 0 15 = false := by simpa using z
    rw [if_neg z, Option.bind_some, z']
    dsimp only
    rw [if_pos (by rfl)]
    rw [cells1_no k (r.less (by omega)) z', Option.bind_some] at hx
    exact x1_no (v := -1) (c9 := 1) c k k.new.new ((f2n (by omega) (by omega)).up (by omega)) hx.symm rfl (by decide) (by decide)
end qa
