/-! asking: gapShare, meanLost, account -/
set_option maxRecDepth 100000
section qa
variable {Z : aZ} {h h' H : aH} {Rt : Nat → Prop} {q : Nat → Nat} {B B' : Nat} {s s' : tS} {C C' : Nat}
theorem tw_gaps' : t_X3_gaps s = some (gapsI (s.2 0), s) := by
  have := tw_gaps (s := s) (m := s.2 0)
  rw [sM_same] at this
  exact this
theorem crd_gaps {R : Nat → Prop} {m : Nat → Int32} (c : crd Z h R B C m) : t_X2_gaps Z h C = some (gapsI m, h) := by
  obtain ⟨w, lo, hi, ⟨L, G, V, eG, eV, gs, vs, ng, nv, mG, mV, c⟩, hR⟩ := c
  exact co_gaps c
theorem co_share (k : hOk Z h) (c : cst Z Rt q B h s) : ∃ v, t_X1_gapShare Z h (q 0) = some (v, h) ∧ t_X3_gapShare s = some (v, sT s 0) ∧ (FP.f2d v) &&& 0x7fffffffffffffff ≤ 0x7ff0000000000000 := by
  obtain ⟨C, e, g1, g2, g3, g4⟩ := c.core k (Fr.rf (u := 0))
  obtain ⟨g, hg, eg⟩ := gapsI_n (s.2 0)
  obtain ⟨h1, h2⟩ := fp_share g hg
  refine ⟨FP.fdiv (FP.i2f (gapsI (s.2 0))) 1103101952, ?_, ?_, by rw [eg]; exact h2⟩
  · unfold t_X1_gapShare
    rw [g1, Option.bind_some, if_pos g3, crd_gaps g2, Option.bind_some, if_pos (by rw [eg]; exact h1)]
  · unfold t_X3_gapShare tpf
    rw [Option.bind_some, tw_gaps', Option.bind_some]
    dsimp only
    rw [if_pos (by rw [eg]; exact h1)]
    rfl
theorem co_mean (k : hOk Z h) (r : Rm Z h 4) (c : cst Z Rt q B h s) : (∃ v H, t_X1_meanLost Z h (q 0) = some (.inl v, H) ∧ t_X3_meanLost s = some (v, sT s 0) ∧ hOk Z H ∧ Fr non h H 4) ∨ (∃ v a H, t_X1_meanLost Z h (q 0) = some (.inr ("java/lang/ArithmeticException", a), H) ∧ t_X3_meanLost s = some (v, sT s 1) ∧ hOk Z H ∧ Fr non h H 4) := by
  obtain ⟨C, e, g1, g2, g3, g4⟩ := c.core k (Fr.rf (u := 0))
  obtain ⟨V, mV, eV, nv, vs, v1, v2, v3, v4, v5, ng, w1, w2, w3⟩ := crd_vs g2
  unfold t_X1_meanLost t_X3_meanLost tpf
  rw [g1, Option.bind_some, v1, Option.bind_some, if_pos v2.isC, v2.size, Option.bind_some, Option.bind_some, show tld 0 (va_up s.1 12 0, s.2) 1 = some (s.2 0 1) from tld_of (n := 86) (i := 1) rfl (by omega) (by omega), Option.bind_some, v4]
  dsimp only
  cases nv with
  | zero =>
    refine Or.inr ⟨FP.dconst0, h.2.1, hnew h (.inr (17, [])) 6, ?_, ?_, k.new, (Fr.new (by omega)).up (by omega)⟩
    · unfold t_X1_requireSome
      rw [if_pos (by rfl), nw_of (r.less (by omega)) (by omega), Option.bind_some, if_pos (isC_of hnew_at), Option.bind_some]
    · rw [if_pos (by rfl)]
      show some (FP.dconst0, sT (sT s 0) 1) = _
      rw [sT_sT]
  | succ n =>
    have hne : ¬ Int32.ofNat (n + 1) = 0 := fun y => by have := (iEq (b := 0) (by omega) (by omega)).mp y; omega
    unfold t_X1_requireSome
    rw [if_neg hne, if_neg hne, Option.bind_some]
    dsimp only
    rw [g1, Option.bind_some, v1, Option.bind_some, if_pos v2.isC, it_new k (r.less (by omega)) v2, Option.bind_some]
    left
    have hn := v2.lt
    -- the component's loop
    obtain ⟨r9, e9, q1, q2, q3⟩ : Ok (wlo (t_X1_meanLost_b26 Z) 100 (q 0, 0, h.2.1, hnew h (itE 0 (-1) mV V) 4)) (fun r => r.1 = .inl (FP.ddiv (FP.i2d (sumI (lostI (s.2 0)) (n + 1) 0)) (FP.i2d (Int32.ofNat (n + 1)))) ∧ hOk Z r.2 ∧ Fr non h r.2 4) := by
      refine wlo_for (n + 1) (fun i st => ∃ lr, st = (q 0, sumI (lostI (s.2 0)) i 0, h.2.1, hnew h (itE (Int32.ofNat i) lr mV V) 4)) _ ?_ ?_ (i := 0) ⟨-1, rfl⟩ (by omega) (by omega)
      · rintro i st hi ⟨lr, rfl⟩
        refine Or.inl ⟨_, ?_, Int32.ofNat i, rfl⟩
        have hgi := v5 i hi
        have hlt := k.2.1 _ _ hgi
        unfold t_X1_meanLost_b26
        dsimp only
        rw [if_pos (isC_of hnew_at), it_has hnew_at (v2.new k).1 (by omega) (by omega), if_neg (by omega), Option.bind_some]
        dsimp only
        rw [if_neg (by decide), if_pos (isC_of hnew_at), it_next (v2.new k) hnew_at hi k.1, hset_hnew, Option.bind_some]
        dsimp only
        have hgi' : (hnew h (itE (Int32.ofNat (i + 1)) (Int32.ofNat i) mV V) 4).1 (vs i) = some (.inr (4, pV (s.2 0) i)) := by rw [hnew_ne (by omega)]; exact hgi
        rw [if_pos (isC_of hgi'), if_pos (isC_of hgi'), x6_lost hgi', Option.bind_some]
        rfl
      · rintro st ⟨lr, rfl⟩
        unfold t_X1_meanLost_b26
        dsimp only
        rw [if_pos (isC_of hnew_at), it_has hnew_at (v2.new k).1 (by omega) (by omega), if_pos rfl, Option.bind_some]
        dsimp only
        rw [if_pos rfl]
        have f1 : Fr non h (hnew h (itE (Int32.ofNat (n + 1)) lr mV V) 4) 1 := Fr.new (by omega)
        have k1 : hOk Z (hnew h (itE (Int32.ofNat (n + 1)) lr mV V) 4) := k.new
        obtain ⟨C1, e1, g11, g21, g31, g41⟩ := c.core k f1
        obtain ⟨V1, u1, u2, u3⟩ := crd_vsize g21
        unfold t_X1_meanLost_l55
        rw [g11, Option.bind_some, u1, Option.bind_some, if_pos u2, u3, Option.bind_some]
        dsimp only
        rw [v4, if_pos (fp_div _ (by omega))]
        exact ⟨_, rfl, rfl, k1, f1.up (by omega)⟩
    refine ⟨_, r9.2, by rw [e9, ← q1], ?_, q2, q3⟩
    have := tw_sum (F := t_X3_meanLost_b26) (n := n + 1) (fun acc j => (acc, j, sT s 0)) (fun acc => (FP.ddiv (FP.i2d acc) (FP.i2d (Int32.ofNat (n + 1))), sT s 0)) (lostI (s.2 0)) (fun acc => by
      unfold t_X3_meanLost_b26 t_X3_meanLost_l50
      dsimp only
      rw [show tld 0 (sT s 0) 1 = some (s.2 0 1) from tld_of (n := 86) (i := 1) rfl (by omega) (by omega), Option.bind_some, v4, if_pos (Int32.le_refl _), Option.bind_some, if_pos (fp_div _ (by omega))]
      rfl) (fun acc j hj => by
      unfold t_X3_meanLost_b26
      dsimp only
      rw [show tld 0 (sT s 0) 1 = some (s.2 0 1) from tld_of (n := 86) (i := 1) rfl (by omega) (by omega), Option.bind_some, v4, if_neg (fun y => by have := (iLe (by omega) (by omega)).mp y; omega), tw_lost' (by omega), Option.bind_some, iAdd1]
      rfl) (by omega) (a0 := 0)
    exact this
theorem iLeft (a b c : Int32) : a + (b + c) = b + (a + c) := by rw [← Int32.add_assoc, Int32.add_comm a b, Int32.add_assoc]
/-- all bonds -/
theorem bonds_tot {m : Nat → Int32} {ng nv : Nat} (w : wfn B ng nv m) : ∀ n, n ≤ nv → sumI (fBond m (Int32.ofNat 0)) n 0 + sumI (fBond m (Int32.ofNat 1)) n 0 + sumI (fBond m (Int32.ofNat 2)) n 0 + sumI (fBond m (Int32.ofNat 3)) n 0 = sumI (fun j => if m (46 + 8 * j + 4) = -1 then 0 else 1) n 0 := by
  intro n
  induction n with
  | zero => intro _; rfl
  | succ n ih =>
    intro hn
    have ih := ih (by omega)
    have wj := w.2.2.2.2.2.2.2.1 n (by omega)
    have hng := w.2.2.1
    rw [sumI_s, sumI_s, sumI_s, sumI_s, sumI_s, ← ih]
    generalize sumI (fBond m (Int32.ofNat 0)) n 0 = a
    generalize sumI (fBond m (Int32.ofNat 1)) n 0 = b
    generalize sumI (fBond m (Int32.ofNat 2)) n 0 = c
    generalize sumI (fBond m (Int32.ofNat 3)) n 0 = d
    obtain ⟨cc, hr, al, v1, v2, v3, v4, v5, v6, v7, v8⟩ := wj
    unfold fBond
    rcases v8 with ⟨u, -⟩ | ⟨g, _, u1, _, _, u4, -⟩
    · rw [u]
      rw [if_neg (by decide), if_neg (by decide), if_neg (by decide), if_neg (by decide), if_pos rfl]
      simp only [iAdd0]
    · rw [u4, if_neg (iNeg (n := g) (by omega))]
      rcases (show g = 0 ∨ g = 1 ∨ g = 2 ∨ g = 3 by omega) with rfl | rfl | rfl | rfl
      · rw [if_pos rfl, if_neg (by decide), if_neg (by decide), if_neg (by decide)]
        simp only [iAdd0]
        simp only [Int32.add_assoc, Int32.add_comm, iLeft]
      · rw [if_neg (by decide), if_pos rfl, if_neg (by decide), if_neg (by decide)]
        simp only [iAdd0]
        simp only [Int32.add_assoc, Int32.add_comm, iLeft]
      · rw [if_neg (by decide), if_neg (by decide), if_pos rfl, if_neg (by decide)]
        simp only [iAdd0]
        simp only [Int32.add_assoc, Int32.add_comm, iLeft]
      · rw [if_neg (by decide), if_neg (by decide), if_neg (by decide), if_pos rfl]
        simp only [iAdd0]
        simp only [Int32.add_assoc, Int32.add_comm, iLeft]
end qa
