/-! asking: hedges and ways -/
set_option maxRecDepth 100000
section qa
variable {Z : aZ} {h h' H : aH} {Rt : Nat → Prop} {q : Nat → Nat} {B B' : Nat} {s s' : tS} {C C' : Nat}
theorem x1_yes {u : Nat} {t : Option (Int32 × tS)} {x : Option ((Int32 ⊕ aXX) × aH)} {cd : String → Int32} {v : Int32} (c : cst Z Rt q B h s) (k : hOk Z h) (k' : hOk Z H) (f : Fr non h H u) (ex : x = some (.inl v, H)) (et : t = some (v, s')) (ve : vEq s s') (h0 : s'.1 12 = 0) : x1Ok Z Rt q B u h x t cd :=
  ⟨_, v, _, ex, et, k', f.nRt, (c.grow k f).cong ve, Or.inl ⟨rfl, h0⟩⟩
theorem x1_no' {u : Nat} {t : Option (Int32 × tS)} {x : Option ((Int32 ⊕ aXX) × aH)} {cd : String → Int32} {v c9 : Int32} {nm : String} {a : Nat} (c : cst Z Rt q B h s) (k : hOk Z h) (k' : hOk Z H) (f : Fr non h H u) (ex : x = some (.inr (nm, a), H)) (et : t = some (v, s')) (ve : vEq s s') (h9 : s'.1 12 = c9) (hc : cd nm = c9) (h0 : c9 ≠ 0) : x1Ok Z Rt q B u h x t cd :=
  ⟨_, v, _, ex, et, k', f.nRt, (c.grow k f).cong ve, Or.inr ⟨nm, a, rfl, by rw [h9, hc], by rw [hc]; exact h0⟩⟩
theorem vEq.tr {s1 s2 : tS} (a : vEq s s1) (b : vEq s1 s2) : vEq s s2 := ⟨fun k hk => (b.1 k hk).trans (a.1 k hk), b.2.1.trans a.2.1, b.2.2.1.trans a.2.2.1, b.2.2.2.1.trans a.2.2.2.1, b.2.2.2.2.1.trans a.2.2.2.2.1, fun i hi => (b.2.2.2.2.2 i hi).trans (a.2.2.2.2.2 i hi)⟩
theorem vEq_W (W : Nat → Int32) : vEq s (sW s W) := by
  unfold sW
  refine ⟨fun _ _ => rfl, ?_, ?_, ?_, ?_, fun i hi => ?_⟩
  · dsimp only; exact vu_ne (by omega)
  · dsimp only; exact vu_ne (by omega)
  · dsimp only; exact vu_ne (by omega)
  · dsimp only; exact vu_ne (by omega)
  · dsimp only; rw [vu_ne (by omega)]
theorem sW_12 (W : Nat → Int32) : (sW s W).1 = s.1 := rfl
theorem sW_0 (W : Nat → Int32) : (sW s W).2 0 = s.2 0 := by unfold sW; dsimp only; exact vu_ne (by omega)
/-- what the twin asks of two cells -/
theorem tw_cells {a b : Int32} : t_X3_areCells s a b = some (b2i (inR a 0 15 && inR b 0 15), sT s (if (inR a 0 15 && inR b 0 15) = true then 0 else 1)) := by
  unfold t_X3_areCells t_X3_areCells_l19 t_X3_areCells_l20 tpf
  rw [tw_isCell, tw_isCell, Option.bind_some, Option.bind_some]
  have e0 : (va_up s.1 12 0) 12 = 0 := vu_eq
  have e1 : (va_up s.1 12 1) 12 = 1 := vu_eq
  cases inR a 0 15 <;> cases inR b 0 15 <;> simp [b2i, sT, e0, e1]
theorem crd_lvs {R : Nat → Prop} {m : Nat → Int32} (c : crd Z h R B C m) : lvs Z h C m := by
  obtain ⟨w, lo, hi, d, hR⟩ := c
  exact d.lvs
theorem crd_leaf {R : Nat → Prop} {m : Nat → Int32} (c : crd Z h R B C m) : ∃ L f, gA 1 0 h C = some L ∧ h.1 L = some (.inl (zI Z, 24, .inl f)) ∧ ∀ k, k < 24 → f k = m (6 + k) := by
  obtain ⟨w, lo, hi, ⟨L, G, V, eG, eV, gs, vs, ng, nv, mG, mV, c⟩, hR⟩ := c
  obtain ⟨f, c2, c3⟩ := c.2.1
  exact ⟨L, f, gA_of (k := 0) c.1 rfl, c2, c3⟩
/-- the component's core, seen in a grown heap -/
theorem cst.core (k : hOk Z h) (c : cst Z Rt q B h s) {u : Nat} (f : Fr non h H u) : ∃ C e, gA 0 0 H (q 0) = some C ∧ crd Z H (av Rt q e) B C (s.2 0) ∧ isC 1 H C = true ∧ isC 0 H (q 0) = true := by
  obtain ⟨C, sv, lt, mB, e, n, ps, c⟩ := c.grow k f
  exact ⟨C, e, gA_of (k := 0) c.1 rfl, c.2.2.2.1, c.2.2.2.1.isC, isC_of c.1⟩
abbrev ioob : String := "java/lang/IndexOutOfBoundsException"
abbrev nsee : String := "java/util/NoSuchElementException"
abbrev iarg : String := "java/lang/IllegalArgumentException"
theorem index_no (k : hOk Z h) (r : Rm Z h 1) : t_X1_requireIndex Z h 0 = some (.inr (ioob, h.2.1), hnew h (.inr (14, [])) 6) := by
  unfold t_X1_requireIndex
  rw [if_pos rfl, nw_of r (by omega), Option.bind_some, if_pos (isC_of hnew_at)]
theorem elem_no (k : hOk Z h) (r : Rm Z h 1) : t_X1_requireElement Z h 0 = some (.inr (nsee, h.2.1), hnew h (.inr (12, [])) 6) := by
  unfold t_X1_requireElement
  rw [if_pos rfl, nw_of r (by omega), Option.bind_some, if_pos (isC_of hnew_at)]
theorem arg_no (k : hOk Z h) (r : Rm Z h 1) : t_X1_requireArgument Z h 0 = some (.inr (iarg, h.2.1), hnew h (.inr (15, [])) 6) := by
  unfold t_X1_requireArgument
  rw [if_pos rfl, nw_of r (by omega), Option.bind_some, if_pos (isC_of hnew_at)]
abbrev hI2 (Z : aZ) (h : aH) (a b : Int32) : aH := hnew h (.inl (zI Z, 2, .inl (c2 a b))) 2
abbrev hI1 (Z : aZ) (h : aH) (a : Int32) : aH := hnew h (.inl (zI Z, 1, .inl (va_up (fun _ => 0) 0 a))) 1
theorem cells2_no {a b : Int32} (k : hOk Z h) (r : Rm Z h 2) (z : (inR a 0 15 && inR b 0 15) = false) : t_X1_requireCells Z (hI2 Z h a b) h.2.1 = some (.inr (ioob, h.2.1 + 1), hnew (hI2 Z h a b) (.inr (14, [])) 6) := by
  unfold t_X1_requireCells
  rw [areC2, Option.bind_some, z]
  dsimp only
  rw [show b2i false = 0 from rfl, index_no k.new (Rm.after (S := non) (u := 1) (v := 1) r (Fr.new (by omega)))]
  rfl
theorem cells2_ok {a b : Int32} (z : (inR a 0 15 && inR b 0 15) = true) : t_X1_requireCells Z (hI2 Z h a b) h.2.1 = some (.inl (), hI2 Z h a b) := by
  unfold t_X1_requireCells
  rw [areC2, Option.bind_some, z]
  rfl
theorem cells1_no {a : Int32} (k : hOk Z h) (r : Rm Z h 2) (z : inR a 0 15 = false) : t_X1_requireCells Z (hI1 Z h a) h.2.1 = some (.inr (ioob, h.2.1 + 1), hnew (hI1 Z h a) (.inr (14, [])) 6) := by
  unfold t_X1_requireCells
  rw [areC1, Option.bind_some, z]
  dsimp only
  rw [show b2i false = 0 from rfl, index_no k.new (Rm.after (S := non) (u := 1) (v := 1) r (Fr.new (by omega)))]
  rfl
theorem cells1_ok {a : Int32} (z : inR a 0 15 = true) : t_X1_requireCells Z (hI1 Z h a) h.2.1 = some (.inl (), hI1 Z h a) := by
  unfold t_X1_requireCells
  rw [areC1, Option.bind_some, z]
  rfl
theorem cell_idx {a : Int32} (z : inR a 0 15 = true) : ∃ i, i < 16 ∧ a = Int32.ofNat i := by
  obtain ⟨i, hi, rfl⟩ := inR_le (n := 15) (by omega) (by rw [show Int32.ofNat 15 = 15 from rfl, z]; decide)
  exact ⟨i, by omega, rfl⟩
theorem and_tt {a b : Bool} (z : (a && b) = true) : a = true ∧ b = true := by revert z; cases a <;> cases b <;> simp
theorem f1n (k : hOk Z h) {e : va_E} {n : Nat} (hn : n ≤ 32) : Fr non h (hnew h e n) 1 := Fr.new hn
theorem f2n {e e' : va_E} {n n' : Nat} (hn : n ≤ 32) (hn' : n' ≤ 32) : Fr non h (hnew (hnew h e n) e' n') 2 := (Fr.new (S := non) hn).tr (Fr.new (S := non) hn') (fun _ _ z => z)
theorem hedge_no1 {a b : Int32} {o : Nat} (k : hOk Z h) (r : Rm Z h 2) (z : (inR a 0 15 && inR b 0 15) = false) : t_X1_getHedge Z h o a b = some (.inr (ioob, h.2.1 + 1), hnew (hI2 Z h a b) (.inr (14, [])) 6) := by
  unfold t_X1_getHedge
  rw [mk2 k (r.less (by omega)), cells2_no k r z, Option.bind_some]
theorem hedge_no2 {i j : Nat} {o : Nat} (k : hOk Z h) (r : Rm Z h 2) (hi : i < 16) (hj : j < 16) (z : (inR (Int32.ofNat i) 0 15 && inR (Int32.ofNat j) 0 15) = true) (z9 : hgN i j = 99) : t_X1_getHedge Z h o (Int32.ofNat i) (Int32.ofNat j) = some (.inr (nsee, h.2.1 + 1), hnew (hI2 Z h (Int32.ofNat i) (Int32.ofNat j)) (.inr (12, [])) 6) := by
  unfold t_X1_getHedge
  rw [mk2 k (r.less (by omega)), cells2_ok z, Option.bind_some]
  dsimp only
  rw [(enc_hg i hi j hj).1, Option.bind_some, z9, enc99, if_pos rfl]
  unfold t_X1_getHedge_l30
  rw [elem_no k.new (Rm.after (S := non) (u := 1) (v := 1) r (Fr.new (by omega)))]
  rfl
theorem hedge_ok {i j : Nat} {o : Nat} (k : hOk Z h) (r : Rm Z h 2) (hi : i < 16) (hj : j < 16) (z : (inR (Int32.ofNat i) 0 15 && inR (Int32.ofNat j) 0 15) = true) (z9 : hgN i j ≠ 99) : t_X1_getHedge Z h o (Int32.ofNat i) (Int32.ofNat j) = some (.inl (Int32.ofNat (hgN i j)), hI2 Z h (Int32.ofNat i) (Int32.ofNat j)) := by
  unfold t_X1_getHedge
  rw [mk2 k (r.less (by omega)), cells2_ok z, Option.bind_some]
  dsimp only
  have hlt : hgN i j < 24 := by rcases hg_lt i hi j hj with y | y; exact absurd y z9; exact y
  rw [(enc_hg i hi j hj).1, Option.bind_some, enc_of z9, if_neg (iNeg (by omega))]
  rfl
/-- the twin's side of it -/
theorem tw_hg {i j : Nat} (hi : i < 16) (hj : j < 16) : t_X3_hedgeAt (Int32.ofNat i) (Int32.ofNat j) = some (if hgN i j = 99 then -1 else Int32.ofNat (6 + hgN i j)) := (enc_hg i hi j hj).2
theorem tld0 {i : Nat} (hi : i < 86) : tld 0 s (Int32.ofNat i) = some (s.2 0 i) := tld_of (n := 86) rfl hi (by omega)
theorem co_leaves {a b : Int32} (k : hOk Z h) (r : Rm Z h 4) (c : cst Z Rt q B h s) : x1Ok Z Rt q B 4 h (t_X1_leaves Z h (q 0) a b) (t_X3_leaves s a b) (cd2 ioob 1 nsee 2) := by
  obtain ⟨C, e, g1, g2, g3, g4⟩ := c.core k (Fr.rf (u := 0))
  obtain ⟨L, f, l1, l2, l3⟩ := crd_leaf g2
  have hx : t_X1_leaves Z h (q 0) a b = (t_X1_getHedge Z h (q 0) a b).bind fun r8 => (match r8 with | (.inl y10, h11) => (ldI Z h11 L y10).bind fun z13 => some (.inl z13, h11) | (.inr y10, h11) => some (.inr y10, h11)) := by
    unfold t_X1_leaves
    rw [g1, Option.bind_some, l1, Option.bind_some, if_pos g4]
    rfl
  unfold t_X3_leaves
  by_cases z : (inR a 0 15 && inR b 0 15) = true
  · obtain ⟨za, zb⟩ := and_tt z
    obtain ⟨i, hi, rfl⟩ := cell_idx za
    obtain ⟨j, hj, rfl⟩ := cell_idx zb
    rw [tw_cells, if_pos z, Option.bind_some, z]
    dsimp only
    rw [if_neg (by decide), tw_hg hi hj, Option.bind_some]
    by_cases z9 : hgN i j = 99
    · rw [if_pos z9, if_pos rfl]
      refine x1_no (H := hnew (hI2 Z h (Int32.ofNat i) (Int32.ofNat j)) (.inr (12, [])) 6) (v := -1) (c9 := 2) c k k.new.new ((f2n (by omega) (by omega)).up (by omega)) (by rw [hx, hedge_no2 k (r.less (by omega)) hi hj z z9]; rfl) ?_ (by decide) (by decide)
      show some (-1, sT (sT s 0) 2) = _
      rw [sT_sT]
    · have hlt : hgN i j < 24 := by rcases hg_lt i hi j hj with y | y; exact absurd y z9; exact y
      rw [if_neg z9, if_neg (iNeg (by omega)), tld0 (by omega), Option.bind_some]
      have hL := k.2.1 _ _ l2
      refine x1_yes (H := hI2 Z h (Int32.ofNat i) (Int32.ofNat j)) (v := s.2 0 (6 + hgN i j)) c k k.new ((Fr.new (by omega)).up (by omega)) ?_ rfl (vEq_T 0) (sT_12 0)
      rw [hx, hedge_ok k (r.less (by omega)) hi hj z z9, Option.bind_some]
      dsimp only
      rw [ldI_of (by rw [hnew_ne (by omega)]; exact l2) hlt (by omega), Option.bind_some, l3 _ hlt]
  · have z' : (inR a 0 15 && inR b 0 15) = false := by simpa using z
    rw [tw_cells, if_neg z, Option.bind_some, z']
    dsimp only
    rw [if_pos (by rfl)]
    exact x1_no (H := hnew (hI2 Z h a b) (.inr (14, [])) 6) (v := -1) (c9 := 1) c k k.new.new ((f2n (by omega) (by omega)).up (by omega)) (by rw [hx, hedge_no1 k (r.less (by omega)) z']; rfl) rfl (by decide) (by decide)
theorem co_closes {a b : Int32} (k : hOk Z h) (r : Rm Z h 4) (c : cst Z Rt q B h s) : x1Ok Z Rt q B 4 h (t_X1_closesIn Z h (q 0) a b) (t_X3_closesIn s a b) (cd2 ioob 1 nsee 2) := by
  obtain ⟨C, e, g1, g2, g3, g4⟩ := c.core k (Fr.rf (u := 0))
  obtain ⟨L, f, l1, l2, l3⟩ := crd_leaf g2
  have hx : t_X1_closesIn Z h (q 0) a b = (t_X1_getHedge Z h (q 0) a b).bind fun r8 => (match r8 with | (.inl y10, h11) => (ldI Z h11 L y10).bind fun z13 => some (.inl (jmax 0 (5 - z13)), h11) | (.inr y10, h11) => some (.inr y10, h11)) := by
    unfold t_X1_closesIn
    rw [g1, Option.bind_some, l1, Option.bind_some, if_pos g4]
    rfl
  unfold t_X3_closesIn
  by_cases z : (inR a 0 15 && inR b 0 15) = true
  · obtain ⟨za, zb⟩ := and_tt z
    obtain ⟨i, hi, rfl⟩ := cell_idx za
    obtain ⟨j, hj, rfl⟩ := cell_idx zb
    rw [tw_cells, if_pos z, Option.bind_some, z]
    dsimp only
    rw [if_neg (by decide), tw_hg hi hj, Option.bind_some]
    by_cases z9 : hgN i j = 99
    · rw [if_pos z9, if_pos rfl]
      refine x1_no (H := hnew (hI2 Z h (Int32.ofNat i) (Int32.ofNat j)) (.inr (12, [])) 6) (v := -1) (c9 := 2) c k k.new.new ((f2n (by omega) (by omega)).up (by omega)) (by rw [hx, hedge_no2 k (r.less (by omega)) hi hj z z9]; rfl) ?_ (by decide) (by decide)
      show some (-1, sT (sT s 0) 2) = _
      rw [sT_sT]
    · have hlt : hgN i j < 24 := by rcases hg_lt i hi j hj with y | y; exact absurd y z9; exact y
      rw [if_neg z9, if_neg (iNeg (by omega)), tld0 (by omega), Option.bind_some]
      have hL := k.2.1 _ _ l2
      refine x1_yes (H := hI2 Z h (Int32.ofNat i) (Int32.ofNat j)) (v := jmax 0 (5 - s.2 0 (6 + hgN i j))) c k k.new ((Fr.new (by omega)).up (by omega)) ?_ rfl (vEq_T 0) (sT_12 0)
      rw [hx, hedge_ok k (r.less (by omega)) hi hj z z9, Option.bind_some]
      dsimp only
      rw [ldI_of (by rw [hnew_ne (by omega)]; exact l2) hlt (by omega), Option.bind_some, l3 _ hlt]
  · have z' : (inR a 0 15 && inR b 0 15) = false := by simpa using z
    rw [tw_cells, if_neg z, Option.bind_some, z']
    dsimp only
    rw [if_pos (by rfl)]
    exact x1_no (H := hnew (hI2 Z h a b) (.inr (14, [])) 6) (v := -1) (c9 := 1) c k k.new.new ((f2n (by omega) (by omega)).up (by omega)) (by rw [hx, hedge_no1 k (r.less (by omega)) z']; rfl) rfl (by decide) (by decide)
/-- the twin's hours, its numbers else as they were -/
theorem tw_hrs {i j : Nat} (hi : i < 16) (hj : j < 16) : ∃ W, t_X3_hoursOf s (Int32.ofNat i) (Int32.ofNat j) = some (enc (dst false (s.2 0) i j), sW s W) := by
  obtain ⟨r, e, W, rfl⟩ := tw_hoursOf (s := s) (m := s.2 0) hi hj
  rw [sM_same] at e
  refine ⟨W, ?_⟩
  rw [e, ← sW_sM, sM_same]
theorem tw_rea {i : Nat} (hi : i < 16) : ∃ W, t_X3_reachedFrom s (Int32.ofNat i) = some (reaI (s.2 0) i, sW s W) := by
  obtain ⟨r, e, W, rfl⟩ := tw_reached (s := s) (m := s.2 0) hi
  rw [sM_same] at e
  refine ⟨W, ?_⟩
  rw [e, ← sW_sM, sM_same]
theorem sT_0 (x : Int32) : (sT s x).2 = s.2 := rfl
theorem tw_thr {x : Int32} : t_X3_throwing s x = some (-1, sT s x) := rfl
theorem sT_W (x : Int32) (W : Nat → Int32) : sT (sW s W) x = sW (sT s x) W := rfl
theorem co_hoursX {a b : Int32} (k : hOk Z h) (r : Rm Z h 4) (c : cst Z Rt q B h s) : x1Ok Z Rt q B 4 h (t_X1_hours Z h (q 0) a b) (t_X3_hours s a b) (cd2 ioob 1 nsee 2) := by
  generalize hx : t_X1_hours Z h (q 0) a b = y
  unfold t_X1_hours at hx
  rw [mk2 k (r.less (by omega))] at hx
  unfold t_X3_hours
  by_cases z : (inR a 0 15 && inR b 0 15) = true
  · obtain ⟨za, zb⟩ := and_tt z
    obtain ⟨i, hi, rfl⟩ := cell_idx za
    obtain ⟨j, hj, rfl⟩ := cell_idx zb
    rw [tw_cells, if_pos z, Option.bind_some, z]
    dsimp only
    obtain ⟨W, eW⟩ := tw_hrs (s := sT s 0) hi hj
    rw [if_neg (by decide), eW, Option.bind_some]
    dsimp only
    rw [cells2_ok z, Option.bind_some] at hx
    dsimp only at hx
    have f1 : Fr non h (hI2 Z h (Int32.ofNat i) (Int32.ofNat j)) 1 := Fr.new (by omega)
    have k1 : hOk Z (hI2 Z h (Int32.ofNat i) (Int32.ofNat j)) := k.new
    obtain ⟨C, e, g1, g2, g3, g4⟩ := c.core k f1
    have r1 : Rm Z (hI2 Z h (Int32.ofNat i) (Int32.ofNat j)) 3 := Rm.after (u := 1) (v := 3) r f1
    rw [g1, Option.bind_some, if_pos g3] at hx
    obtain ⟨r2, e2, f, rfl⟩ := co_hours k1 (r1.less (by omega)) (crd_lvs g2) g3 hi hj
    rw [e2, Option.bind_some] at hx
    dsimp only at hx
    have hd := dst_le (t := false) k1 (r1.less (by omega)) (crd_lvs g2) hi hj
    by_cases z9 : dst false (s.2 0) i j = 99
    · have z9' : dst false ((sT s 0).2 0) i j = 99 := z9
      rw [z9, enc99, if_pos rfl] at hx
      unfold t_X1_hours_l34 at hx
      rw [elem_no k1.new ((Rm.after (S := non) (u := 2) (v := 2) r (f2n (by omega) (by omega))).less (by omega)), Option.bind_some] at hx
      rw [z9', enc99, if_pos rfl, tw_thr, Option.bind_some]
      refine x1_no' (v := -1) (c9 := 2) c k k1.new.new ?_ hx.symm rfl ((vEq_T 0).tr ((vEq_W W).tr (vEq_T 2))) (sT_12 2) (by decide) (by decide)
      exact (f1.tr (f2n (h := hI2 Z h (Int32.ofNat i) (Int32.ofNat j)) (by omega) (by omega)) (fun _ _ z => z)).up (by omega)
    · rw [if_neg (enc_ne (by omega))] at hx
      rw [if_neg (enc_ne (show dst false ((sT s 0).2 0) i j < 99 from by show dst false (s.2 0) i j < 99; omega))]
      refine x1_yes c k k1.new ((f2n (by omega) (by omega)).up (by omega)) hx.symm rfl ((vEq_T 0).tr (vEq_W W)) (sT_12 (s := s) 0)
  · have z' : (inR a 0 15 && inR b 0 15) = false := by simpa using z
    rw [tw_cells, if_neg z, Option.bind_some, z']
    dsimp only
    rw [if_pos (by rfl)]
    rw [cells2_no k (r.less (by omega)) z', Option.bind_some] at hx
    exact x1_no (v := -1) (c9 := 1) c k k.new.new ((f2n (by omega) (by omega)).up (by omega)) hx.symm rfl (by decide) (by decide)
theorem co_reachX {a : Int32} (k : hOk Z h) (r : Rm Z h 4) (c : cst Z Rt q B h s) : x1Ok Z Rt q B 4 h (t_X1_reached Z h (q 0) a) (t_X3_reached s a) (cd1 ioob) := by
  generalize hx : t_X1_reached Z h (q 0) a = y
  unfold t_X1_reached at hx
  rw [mk1 k (r.less (by omega))] at hx
  unfold t_X3_reached
  rw [tw_cells, Bool.and_self]
  by_cases z : inR a 0 15 = true
  · obtain ⟨i, hi, rfl⟩ := cell_idx z
    rw [if_pos z, Option.bind_some, z]
    dsimp only
    obtain ⟨W, eW⟩ := tw_rea (s := sT s 0) hi
    rw [if_neg (by decide), eW, Option.bind_some]
    dsimp only
    rw [cells1_ok z, Option.bind_some] at hx
    dsimp only at hx
    have f1 : Fr non h (hI1 Z h (Int32.ofNat i)) 1 := Fr.new (by omega)
    have k1 : hOk Z (hI1 Z h (Int32.ofNat i)) := k.new
    obtain ⟨C, e, g1, g2, g3, g4⟩ := c.core k f1
    have r1 : Rm Z (hI1 Z h (Int32.ofNat i)) 3 := Rm.after (u := 1) (v := 3) r f1
    rw [g1, Option.bind_some, if_pos g3] at hx
    obtain ⟨r2, e2, f, rfl⟩ := co_reached k1 (r1.less (by omega)) (crd_lvs g2) g3 hi
    rw [e2, Option.bind_some] at hx
    exact x1_yes c k k1.new ((f2n (by omega) (by omega)).up (by omega)) hx.symm rfl ((vEq_T 0).tr (vEq_W W)) (sT_12 (s := s) 0)
  · have z' : inR a 0 15 = false := by simpa using z
    rw [if_neg z, Option.bind_some, z']
    dsimp only
    rw [if_pos (by rfl)]
    rw [cells1_no k (r.less (by omega)) z', Option.bind_some] at hx
    exact x1_no (v := -1) (c9 := 1) c k k.new.new ((f2n (by omega) (by omega)).up (by omega)) hx.symm rfl (by decide) (by decide)
end qa
