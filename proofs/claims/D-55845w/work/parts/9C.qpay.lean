/-! asking: wouldPay, account -/
set_option maxRecDepth 100000
section qa
variable {Z : aZ} {h h' H : aH} {Rt : Nat → Prop} {q : Nat → Nat} {B B' : Nat} {s s' : tS} {C C' : Nat}
theorem tw_pays' {j : Nat} {x : Int32} (hj : j < 5) (hb : s.2 0 (46 + 8 * j + 4) = -1 ∨ ∃ g, g < 4 ∧ s.2 0 (46 + 8 * j + 4) = Int32.ofNat g) : t_X3_pays s (Int32.ofNat j) x = some (if s.2 0 (46 + 8 * j + 4) = -1 ∨ s.2 0 (46 + 8 * j + 6) = 1 then 0 else jmin (s.2 0 (46 + 8 * j + 5) * x) (s.2 0 (30 + 4 * cN (s.2 0 (46 + 8 * j + 4)))), s) := by
  have := tw_pays (s := s) (m := s.2 0) (x := x) hj hb
  rw [sM_same] at this
  exact this
theorem co_pay {x : Int32} (k : hOk Z h) (r : Rm Z h 4) (c : cst Z Rt q B h s) (hB : B < 100000000) : x1Ok Z Rt q B 4 h (t_X1_wouldPay Z h (q 0) x) (t_X3_wouldPay s x) (cd2 ioob 1 nsee 2) := by
  obtain ⟨C, e, g1, g2, g3, g4⟩ := c.core k (Fr.rf (u := 0))
  generalize hx : t_X1_wouldPay Z h (q 0) x = y
  unfold t_X1_wouldPay at hx
  rw [if_pos g4] at hx
  unfold t_X3_wouldPay tpf
  rw [Option.bind_some]
  show x1Ok Z Rt q B 4 h y ((t_X3_isVisitor (sT s 0) x).bind _) _
  rw [tw_isV', Option.bind_some]
  dsimp only
  by_cases z : inR x 0 (s.2 0 1 - 1) = true
  · obtain ⟨n, a, ng, nv, hn, hn5, rfl, w, e1, e2⟩ := getV_ok c z
    have wj := w.2.2.2.2.2.2.2.1 n hn
    obtain ⟨cc, hr, al, v1, v2, v3, v4, v5, v6, v7, v8⟩ := id wj
    rw [e1, Option.bind_some] at hx
    dsimp only at hx
    rw [g1, Option.bind_some, gI_of (k := 2) e2 rfl, Option.bind_some, if_pos g3, v4] at hx
    rw [show inR (Int32.ofNat n) 0 ((sT s 0).2 0 1 - 1) = true from z, if_neg (by decide), tw_vAt, Option.bind_some, show Int32.ofNat (46 + 8 * n) + 1 = Int32.ofNat (46 + 8 * n + 1) from v46 n 1, tld0m (by omega), Option.bind_some, show (sT s 0).2 0 (46 + 8 * n + 1) = Int32.ofNat cc from v4]
    obtain ⟨r2, e3, f, rfl⟩ := co_hours (a := cc) (b := 15) k (r.less (by omega)) (crd_lvs g2) g3 v1 (by omega)
    obtain ⟨W, eW⟩ := tw_hrs (s := sT s 0) (i := cc) (j := 15) v1 (by omega)
    rw [show t_X2_hours Z h C (Int32.ofNat cc) 15 = _ from e3, Option.bind_some] at hx
    dsimp only at hx
    rw [show t_X3_hoursOf (sT s 0) (Int32.ofNat cc) 15 = _ from eW, Option.bind_some]
    dsimp only
    have f1 : Fr non h (hnew h (aI16 Z f) 16) 1 := Fr.new (by omega)
    have k1 : hOk Z (hnew h (aI16 Z f) 16) := k.new
    have r1 : Rm Z (hnew h (aI16 Z f) 16) 3 := Rm.after (u := 1) (v := 3) r f1
    have c1 := c.grow k f1
    have ha := k.2.1 _ _ e2
    have e2' : (hnew h (aI16 Z f) 16).1 a = some (.inr (4, pV (s.2 0) n)) := by rw [hnew_ne (by omega)]; exact e2
    obtain ⟨C1, e9, g11, g21, g31, g41⟩ := c.core k f1
    generalize hnew h (aI16 Z f) 16 = h1 at hx f1 k1 r1 c1 e2' g11 g21 g31 g41
    rw [if_pos (isC_of e2'), x6_isOut e2', Option.bind_some] at hx
    dsimp only at hx
    rw [tw_lasts (s := sW (sT s 0) W) (by omega), Option.bind_some, sW_0]
    dsimp only
    show x1Ok Z Rt q B 4 h y (if (if s.2 0 (46 + 8 * n + 4) = -1 then (0 : Int32) else if s.2 0 (46 + 8 * n + 7) = 0 then 1 else 0) = 0 then _ else _) _
    rw [lasts_w wj]
    have no : t_X1_wouldPay_l43 Z h1 (q 0) a (enc (dst false (s.2 0) cc 15)) = y → x1Ok Z Rt q B 4 h y (t_X3_wouldPay_l52 (sW (sT s 0) W)) (cd2 ioob 1 nsee 2) := by
      intro hx
      unfold t_X1_wouldPay_l43 t_X1_wouldPay_l44 at hx
      rw [elem_no k1 (r1.less (by omega)), Option.bind_some] at hx
      unfold t_X3_wouldPay_l52
      rw [tw_thr, Option.bind_some]
      exact x1_no' (v := -1) (c9 := 2) c k k1.new ((f1.tr (Fr.new (S := non) (by omega)) (fun _ _ z => z)).up (by omega)) hx.symm rfl ((vEq_T 0).tr ((vEq_W W).tr (vEq_T 2))) (sT_12 2) (by decide) (by decide)
    by_cases zo : s.2 0 (46 + 8 * n + 1) = 15
    · -- out: no bond either
      have h4 : s.2 0 (46 + 8 * n + 4) = -1 := by
        rcases v8 with ⟨u, -⟩ | ⟨_, _, _, _, _, _, _, _, u⟩
        · exact u
        · rw [v4] at zo; exact absurd ((iEq (b := 15) (by omega) (by omega)).mp zo) u
      rw [if_neg (by simp [zo, b2i])] at hx
      rw [if_pos h4, if_pos rfl]
      exact no hx
    · rw [if_pos (by simp [zo, b2i]), if_pos (isC_of e2'), x6_hasBond e2', Option.bind_some] at hx
      dsimp only at hx
      by_cases h4 : s.2 0 (46 + 8 * n + 4) = -1
      · rw [if_pos (by simp [h4, b2i])] at hx
        rw [if_pos h4, if_pos rfl]
        exact no hx
      · rw [if_neg (by simp [h4, b2i])] at hx
        rw [if_neg h4, if_neg (by decide)]
        have hd := (dst_spec (t := false) (m := s.2 0) v1).2 15 (by omega)
        by_cases z9 : dst false (s.2 0) cc 15 = 99
        · rw [show enc (dst false (s.2 0) cc 15) = -1 by rw [z9, enc99], if_pos rfl] at hx
          rw [if_pos (show enc (dst false ((sT s 0).2 0) cc 15) = -1 by show enc (dst false (s.2 0) cc 15) = -1; rw [z9, enc99])]
          refine no ?_
          rw [z9, enc99]; exact hx
        · have hlt : dst false (s.2 0) cc 15 < 99 := by omega
          rw [if_neg (enc_ne hlt)] at hx
          rw [if_neg (enc_ne (show dst false ((sT s 0).2 0) cc 15 < 99 from hlt))]
          obtain ⟨g, rt, u1, u2, u3, u4, u5, u6, u7⟩ : ∃ g rt, g < ng ∧ 1 ≤ rt ∧ rt ≤ 5 ∧ s.2 0 (46 + 8 * n + 4) = Int32.ofNat g ∧ s.2 0 (46 + 8 * n + 5) = Int32.ofNat rt ∧ (s.2 0 (46 + 8 * n + 6) = 0 ∨ s.2 0 (46 + 8 * n + 6) = 1) ∧ cc ≠ 15 := by
            rcases v8 with ⟨u, -⟩ | u
            · exact absurd u h4
            · exact u
          have hng := w.2.2.1
          rw [show Int32.ofNat (46 + 8 * n) + 2 = Int32.ofNat (46 + 8 * n + 2) from v46 n 2, tld0m (by omega), Option.bind_some, show Int32.ofNat (46 + 8 * n) + 3 = Int32.ofNat (46 + 8 * n + 3) from v46 n 3, tld0m (by omega), Option.bind_some, tw_pays' (by omega) (Or.inr ⟨g, by omega, by rw [sW_0]; exact u4⟩), Option.bind_some, sW_0]
          unfold t_X1_wouldPay_l44 at hx
          rw [show t_X1_requireElement Z h1 1 = some (.inl (), h1) from rfl, Option.bind_some] at hx
          dsimp only at hx
          obtain ⟨G, mG, eG, ng', gs, w1, w2, w3, w4, w5⟩ := crd_gs g21
          have hnn : ng' = ng := (iEq (by omega) (by omega)).mp (w4.symm.trans w.1)
          subst hnn
          have hg5 := w5 g u1
          rw [g11, Option.bind_some, w1, Option.bind_some, gI_of (k := 4) e2' rfl, Option.bind_some, if_pos w2.isC, u4, w2.get u1, Option.bind_some] at hx
          dsimp only at hx
          rw [if_pos (isC_of hg5), if_pos (isC_of hg5)] at hx
          unfold t_X4_coins_3 at hx
          rw [gI_of (k := 0) hg5 rfl, Option.bind_some, Option.bind_some] at hx
          dsimp only at hx
          rw [if_pos (isC_of e2'), x6_due e2', Option.bind_some] at hx
          refine x1_yes c k k1 (f1.up (by omega)) hx.symm ?_ ((vEq_T 0).tr (vEq_W W)) (sT_12 (s := s) 0)
          dsimp only
          show some (if s.2 0 (46 + 8 * n + 4) = -1 ∨ s.2 0 (46 + 8 * n + 6) = 1 then 0 else jmin (s.2 0 (46 + 8 * n + 5) * jmax 0 (s.2 0 (46 + 8 * n + 2) + enc (dst false (s.2 0) cc 15) - s.2 0 (46 + 8 * n + 3))) (s.2 0 (30 + 4 * cN (s.2 0 (46 + 8 * n + 4)))), sW (sT s 0) W) = _
          rw [u4, cN_of (by omega)]
          rcases u6 with u6 | u6
          · rw [if_neg (by rintro (y | y); exact iNeg (by omega) y; rw [u6] at y; exact absurd y (by decide)), if_pos u6, jmin_comm]
          · rw [if_pos (Or.inr u6), if_neg (by rw [u6]; decide)]
            obtain ⟨xx, hxx, exx⟩ := w.2.2.2.2.2.2.1 g u1
            rw [exx, show (0 : Int32) = Int32.ofNat 0 from rfl, jmin_of (by omega) (by omega), Nat.min_eq_right (by omega)]
  · have z' : inR x 0 (s.2 0 1 - 1) = false := by simpa using z
    rw [getV_no k (r.less (by omega)) c z', Option.bind_some] at hx
    rw [show inR x 0 ((sT s 0).2 0 1 - 1) = false from z', if_pos (by rfl), tw_thr, Option.bind_some, sT_sT]
    exact x1_no (v := -1) (c9 := 1) c k k.new ((Fr.new (by omega)).up (by omega)) hx.symm rfl (by decide) (by decide)
end qa
