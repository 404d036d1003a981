/-! the core's changes, 2: rest, gardener, minotaur -/
set_option maxRecDepth 100000
section ops
variable {Z : aZ} {h : aH} {lo o : Nat} {m : Nat → Int32} {L G V eG eV : Nat} {gs vs : Nat → Nat} {ng nv : Nat} {mG mV : Int32}
/-- what is said of a visitor, as the row has it -/
theorem out_iff {B : Nat} {j : Nat} (w : wfv B ng m j) : m (46 + 8 * j + 1) = 15 ↔ m (46 + 8 * j + 7) = 1 := by
  obtain ⟨c, hr, al, hc, -, -, v1, -, -, v7, -⟩ := w
  rw [v1, v7]
  by_cases q : c = 15
  · rw [if_pos q, q]; exact ⟨fun _ => rfl, fun _ => rfl⟩
  · rw [if_neg q]
    exact ⟨fun z => absurd ((iEq (b := 15) (by omega) (by omega)).mp z) q, fun z => absurd z (by decide)⟩
theorem x6_isOut {a : Nat} {j : Nat} (ha : h.1 a = some (.inr (4, pV m j))) : t_X6_isOut Z h a = some (b2i (decide (m (46 + 8 * j + 1) = 15)), h) := by
  unfold t_X6_isOut
  rw [gI_of (k := 2) ha rfl, Option.bind_some]
  by_cases q : m (46 + 8 * j + 1) = 15
  · rw [if_pos q, decide_eq_true q]; rfl
  · rw [if_neg q, decide_eq_false q]; rfl
theorem x6_hasBond {a : Nat} {j : Nat} (ha : h.1 a = some (.inr (4, pV m j))) : t_X6_hasBond Z h a = some (b2i (decide (¬ m (46 + 8 * j + 4) = -1)), h) := by
  unfold t_X6_hasBond
  rw [gI_of (k := 4) ha rfl, Option.bind_some]
  by_cases q : m (46 + 8 * j + 4) = -1
  · rw [if_pos q, decide_eq_false (by simp [q])]; rfl
  · rw [if_neg q, decide_eq_true q]; rfl
theorem refuse_b {Z : aZ} {h : aH} {a b : Int32} {q : Bool} (k : hOk Z h) (r : Rm Z h 1) : t_X1_refuse Z h (b2i q) a b = if q = true then some (.inr ("MazeBonds$RefusedException", h.2.1), hnew h (rfs a b 0) 9) else some (.inl (), h) := by
  cases q
  · exact refuse_no
  · exact refuse_yes k r
theorem range_b {Z : aZ} {h : aH} {q : Bool} (k : hOk Z h) (r : Rm Z h 1) : t_X1_requireRange Z h (b2i q) = if q = false then some (.inr ("MazeBonds$RefusedException", h.2.1), hnew h (rfs 1 0 0) 9) else some (.inl (), h) := by
  cases q
  · exact range_no k r
  · exact range_ok
theorem pV_set {m m' : Nat → Int32} {j : Nat} (l : List Value) (h : pV m' j = l) : (.inr (4, pV m' j) : va_E) = .inr (4, l) := by rw [h]
theorem co_rest {B : Nat} {v hr : Int32} (k : hOk Z h) (r : Rm Z h 4) (c : coreIn Z h lo h.2.1 o m) (w : wfm B m) : Ok (t_X2_rest Z h o v hr) (coOk Z lo o h 4 (sp_rest m v hr)) := by
  obtain ⟨L, G, V, eG, eV, gs, vs, ng, nv, mG, mV, c⟩ := c
  obtain ⟨ng', nv', w⟩ := w
  have f0 : Fr (fun a => lo ≤ a) h h 0 := Fr.rf
  unfold t_X2_rest sp_rest
  rw [if_pos (isC_of c.1), reqV k (r.less (by omega)) c]
  by_cases h1 : inR v 0 (m 1 - 1) = false
  · rw [if_pos h1, if_pos h1, Option.bind_some]
    exact Ok.ret (coOk_ref k f0 (by omega))
  · rw [if_neg h1, if_neg h1, Option.bind_some]
    dsimp only
    rw [co_isIn, Option.bind_some, range_b k (r.less (by omega))]
    by_cases h2 : inR hr 1 9 = false
    · rw [if_pos h2, if_pos h2, Option.bind_some]
      exact Ok.ret (coOk_ref k f0 (by omega))
    · rw [if_neg h2, if_neg h2, Option.bind_some]
      dsimp only
      rw [c.2.2.1.2.1] at h1
      obtain ⟨j, hj, rfl⟩ := inR_idx (by have := c.2.2.1.2.2; omega) h1
      have hnv := c.2.2.1.2.2.2
      rw [cN_of (by omega)]
      have hv := (c.2.2.2.2.2.2.1 j hj)
      have hvw : wfv B ng' m j := w.2.2.2.2.2.2.2.1 j (by have := c.2.2.1.2.1.symm.trans w.2.1; have := (iEq (by omega) (by have := w.2.2.2.1; omega)).mp this; omega)
      rw [if_pos (isC_of hv.1), x6_isOut hv.1, Option.bind_some]
      dsimp only
      rw [gI_of (k := 3) hv.1 rfl, Option.bind_some, refuse_b k (r.less (by omega))]
      by_cases h3 : m (46 + 8 * j + 1) = 15
      · rw [if_pos (by simp [h3]), if_pos ((out_iff hvw).mp h3), Option.bind_some]
        exact Ok.ret (coOk_ref k f0 (by omega))
      · have hz0 := (c.2.2.2.2.2.2.2.2.2.2.2.2.2.2.2.2).1
        rw [if_neg (by simp [h3]), if_neg (fun q => h3 ((out_iff hvw).mpr q)), Option.bind_some]
        dsimp only
        rw [gI_of (k := 3) hv.1 rfl, Option.bind_some, pF_of hv.1 (Nat.le_of_ble_eq_true rfl) (by omega), Option.bind_some, gI_of (k := 3) hset_at rfl, Option.bind_some]
        have hl := k.2.1 _ _ hv.1
        have hent : (.inr (4, (pV m j).set 3 (.int (m (46 + 8 * j + 2) + hr))) : va_E) = .inr (4, pV (va_up m (46 + 8 * j + 2) (m (46 + 8 * j + 2) + hr)) j) := by
          unfold pV
          simp (disch := omega) only [vu_ne, vu_eq]
          rfl
        rw [hent]
        exact Ok.ret (coOk_go (k.set (by omega) hl) (f0.tr (Fr.set (S := fun a => lo ≤ a) hv.2.1) (fun x _ q => q)) (by omega) (c.vis k hj (fun i hi => vu_ne (by omega))))
theorem co_gard {x : Int32} (k : hOk Z h) (r : Rm Z h 4) (c : coreIn Z h lo h.2.1 o m) (hz : ∀ j i, j < 4 → i < 4 → Int32.ofNat j = m 0 → m (30 + 4 * j + i) = 0) : Ok (t_X2_gardener Z h o x) (coOk Z lo o h 4 (sp_gardener m x)) := by
  obtain ⟨L, G, V, eG, eV, gs, vs, ng, nv, mG, mV, c⟩ := c
  have f0 : Fr (fun a => lo ≤ a) h h 0 := Fr.rf
  obtain ⟨c1, -, c4, c5, -⟩ := id c
  unfold t_X2_gardener sp_gardener t_X2_gardener_l26
  rw [co_isIn, Option.bind_some, range_b k (r.less (by omega))]
  by_cases h1 : inR x 0 99 = false
  · rw [if_pos h1, if_pos h1, Option.bind_some]
    exact Ok.ret (coOk_ref k f0 (by omega))
  · rw [if_neg h1, if_neg h1, Option.bind_some]
    dsimp only
    rw [gA_of (k := 1) c1 rfl, Option.bind_some, if_pos c5.isC, c5.size, Option.bind_some]
    dsimp only
    rw [← c4.1]
    by_cases h2 : m 0 = 4
    · rw [if_pos h2, if_pos h2, refuse_yes k (r.less (by omega)), Option.bind_some]
      exact Ok.ret (coOk_ref k f0 (by omega))
    · have hn : ng < 4 := by
        have : ng ≠ 4 := fun q => h2 (by rw [c4.1, q]; rfl)
        have := c4.2.2.1
        omega
      rw [if_neg h2, if_neg h2, refuse_no, Option.bind_some]
      dsimp only
      rw [gA_of (k := 1) c1 rfl, Option.bind_some, nw_of (r.less (by omega)) (by omega), Option.bind_some]
      unfold t_X5_init t_X4_init_3
      rw [pF_new (Nat.le_of_ble_eq_true rfl) k.1, Option.bind_some, Option.bind_some, Option.bind_some]
      dsimp only
      have e0 : cN (m 0) = ng := by rw [c4.1, cN_of (by omega)]
      rw [e0]
      generalize hm' : va_up (va_up (va_up m (30 + 4 * ng) x) 4 (m 4 + x)) 0 (m 0 + 1) = m'
      have hm4 : m' 4 = m 4 + x := by rw [← hm']; simp (disch := omega) only [vu_ne, vu_eq]
      have hm0 : m' 0 = Int32.ofNat (ng + 1) := by rw [← hm', vu_eq, c4.1, iAdd1]
      have hmo : ∀ i, i ≠ 0 → i ≠ 4 → i ≠ 30 + 4 * ng → m' i = m i := fun i q1 q2 q3 => by rw [← hm', vu_ne q1, vu_ne q2, vu_ne q3]
      have hmg : m' (30 + 4 * ng) = x := by rw [← hm']; simp (disch := omega) only [vu_ne, vu_eq]
      have hobj : (.inr (3, [Value.int 0, .int 0, .int 0, .int 0].set 0 (.int x)) : va_E) = .inr (3, pG m' ng) := by
        unfold pG
        rw [hmg, hmo _ (by omega) (by omega) (by omega), hmo _ (by omega) (by omega) (by omega), hmo _ (by omega) (by omega) (by omega), hz ng 1 hn (by omega) c4.1.symm, hz ng 2 hn (by omega) c4.1.symm, hz ng 3 hn (by omega) c4.1.symm]
        rfl
      rw [hobj]
      have k1 : hOk Z (hnew h (.inr (3, pG m' ng)) 4) := k.new
      have l1 := c5.new k (x := .inr (3, pG m' ng)) (c := 4)
      have f1 : Fr (fun a => lo ≤ a) h (hnew h (.inr (3, pG m' ng)) 4) 1 := Fr.new (by omega)
      rw [if_pos l1.isC]
      obtain ⟨r3, e3, e', p1, p2, p3, p4, p5⟩ := lst_add3 k1 (Rm.after (u := 1) (v := 1) (r.less (by omega)) f1) l1 (by omega) (hnew_at (h := h))
      rw [e3, Option.bind_some]
      have hGi := c.2.2.2.2.2.2.2.2.2.2.2.2.1
      have hz0 := (c.2.2.2.2.2.2.2.2.2.2.2.2.2.2.2.2).1
      have hei := c.2.2.2.2.2.2.2.2.2.2.2.2.2.2.1
      have n1 : (hnew h (.inr (3, pG m' ng)) 4).2.1 = h.2.1 + 1 := rfl
      have f2 : Fr (fun a => lo ≤ a) h r3.2 2 := f1.tr p4 (fun a q1 q2 => by
        rcases q2 with q2 | ⟨q2, q3⟩
        · show lo ≤ a; omega
        · have := (hei q3).1; show lo ≤ a; omega)
      have hle : h.2.1 + 1 ≤ r3.2.2.1 := by have := p4.2.1; rw [n1] at this; exact this
      -- the core with one gardener more, its own numbers as they were
      have cA := c.addG (h' := r3.2) (hi' := r3.2.2.1) (a := h.2.1) (e' := e') (mc' := mG + 1) (m' := va_up m' 4 (m 4)) p2 (by
          rw [p4.1 h.2.1 (by rw [n1]; omega) (fun q => by
            rcases q with q | ⟨q, q9⟩
            · omega
            · have := (hei q9).2; omega), hnew_at]
          congr 3
          exact (pG_congr (fun i q1 q2 => vu_ne (by omega))).symm) (Nat.le_refl _) (by omega) (fun y q1 q2 q3 q4 => by
          rw [p4.1 y (by rw [n1]; omega) (fun q => by rcases q with q | q; exact q3 q; exact q4 q)]
          exact hnew_ne (by omega)) (by
          rcases p3 with p3 | p3
          · exact Or.inl p3
          · refine Or.inr ⟨by rw [p3, n1]; omega, ?_⟩
            rcases p2.2.2 with ⟨-, g⟩ | ⟨-, -, f, g, -⟩
            · omega
            · exact p5.2.1 e' _ g) (by omega) (by rw [vu_ne (by omega)]; exact hm0) (fun i q1 q2 => by
          by_cases q : i = 4
          · subst q; exact vu_eq
          · rw [vu_ne q]; exact hmo i q1 q (by omega)) (by omega) (Nat.le_refl _) k
      rw [gI_of (k := 5) cA.1 rfl, Option.bind_some, pF_of cA.1 (Nat.le_of_ble_eq_true rfl) (by have := c.2.2.2.2.2.2.2.2.2.2.1.1; omega), Option.bind_some]
      have hol := p5.2.1 o _ cA.1
      have hent : (.inr (1, [Value.ref L, .ref G, .ref V, .int (va_up m' 4 (m 4) 2), .int (va_up m' 4 (m 4) 3), .int (va_up m' 4 (m 4) 4), .int (va_up m' 4 (m 4) 5)].set 5 (.int (va_up m' 4 (m 4) 4 + x))) : va_E) = cO m' L G V := by
        unfold cO
        rw [vu_eq, vu_ne (by omega), vu_ne (by omega), vu_ne (by omega), hm4]
        rfl
      show Ok ((gA 1 1 (hset r3.2 o (.inr (1, [Value.ref L, .ref G, .ref V, .int (va_up m' 4 (m 4) 2), .int (va_up m' 4 (m 4) 3), .int (va_up m' 4 (m 4) 4), .int (va_up m' 4 (m 4) 5)].set 5 (.int (va_up m' 4 (m 4) 4 + x))))) o).bind _) _
      have cB := cA.fld p5 (m' := m') (fun i hi => by rw [vu_ne (by omega)])
      rw [hent, gA_of (k := 1) cB.1 rfl, Option.bind_some]
      rw [if_pos cB.2.2.2.1.isC, cB.2.2.2.1.size, Option.bind_some]
      dsimp only
      have hans : Int32.ofNat (ng + 1) - 1 = m 0 + 1 - 1 := by rw [← iAdd1, c4.1]
      rw [hans]
      exact Ok.ret (coOk_go (p5.set (by have := c.2.2.2.2.2.2.2.2.2.2.1.1; omega) hol) (f2.tr (Fr.set (S := fun a => lo ≤ a) c.2.2.2.2.2.2.2.2.2.2.1.1) (fun y _ q => q)) (by omega) cB)
end ops
