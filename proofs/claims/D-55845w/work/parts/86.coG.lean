/-! the core's changes, 7: hours, cells reached, visitor -/
set_option maxRecDepth 100000
abbrev aI16 (Z : aZ) (f : Nat → Int32) : va_E := .inl (zI Z, 16, .inl f)
theorem co_dstT {Z : aZ} {h : aH} {o a : Nat} {t : Bool} {m : Nat → Int32} (k : hOk Z h) (r : Rm Z h 1) (l : lvs Z h o m) (ha : a < 16) :
    Ok (t_X2_distances Z h o (Int32.ofNat a) (b2i t)) (fun r => ∃ f, r = (h.2.1, hnew h (aI16 Z f) 16) ∧ ∀ v, v < 16 → f v = enc (dst t m a v)) := by
  refine (co_dist (t := t) k r l ha).imp ?_
  rintro r ⟨F, f, rfl, hf, hm, hF⟩
  exact ⟨f, rfl, fun v hv => by rw [hf v hv, dst_eq ha hm hF hv]⟩
theorem dst_le {Z : aZ} {h : aH} {o a v : Nat} {t : Bool} {m : Nat → Int32} (k : hOk Z h) (r : Rm Z h 1) (l : lvs Z h o m) (ha : a < 16) (hv : v < 16) : dst t m a v ≤ 99 := by
  obtain ⟨r9, -, F, f, -, hf, hm, hF⟩ := co_dist (t := t) k r l ha
  rw [← dst_eq ha hm hF hv]
  exact hF v hv
theorem co_hours {Z : aZ} {h : aH} {o a b : Nat} {m : Nat → Int32} (k : hOk Z h) (r : Rm Z h 1) (l : lvs Z h o m) (hc : isC 1 h o = true) (ha : a < 16) (hb : b < 16) :
    Ok (t_X2_hours Z h o (Int32.ofNat a) (Int32.ofNat b)) (fun r => ∃ f, r = (enc (dst false m a b), hnew h (aI16 Z f) 16)) := by
  unfold t_X2_hours
  rw [if_pos hc]
  refine Ok.call (co_dstT (t := false) k r l ha) ?_
  rintro r ⟨f, rfl, hf⟩
  rw [ldI_of hnew_at hb (by omega), Option.bind_some, hf b hb]
  exact Ok.ret ⟨f, rfl⟩
theorem co_reached {Z : aZ} {h : aH} {o a : Nat} {m : Nat → Int32} (k : hOk Z h) (r : Rm Z h 1) (l : lvs Z h o m) (hc : isC 1 h o = true) (ha : a < 16) :
    Ok (t_X2_reached Z h o (Int32.ofNat a)) (fun r => ∃ f, r = (reaI m a, hnew h (aI16 Z f) 16)) := by
  unfold t_X2_reached
  rw [if_pos hc]
  have hd : ∀ v, v < 16 → dst false m a v ≤ 99 := fun v hv => dst_le k r l ha hv
  refine Ok.call (co_dstT (t := false) k r l ha) ?_
  rintro r ⟨f, rfl, hf⟩
  refine wlo_for 16 (fun i st => st = (foldN (fun c acc => acc ||| (if dst false m a c < 99 then bitI c else 0)) i 0, h.2.1, Int32.ofNat i, hnew h (aI16 Z f) 16)) _ ?_ ?_ (i := 0) rfl (by omega) (by omega)
  · rintro i st hi ⟨⟩
    refine Or.inl ⟨_, ?_, rfl⟩
    unfold t_X2_reached_b12 t_X2_reached_l36
    dsimp only
    rw [if_neg (fun q => by have := (iLe (a := 16) (b := i) (by omega) (by omega)).mp q; omega), ldI_of hnew_at hi (by omega), Option.bind_some, hf i hi, iAdd1]
    by_cases q : dst false m a i < 99
    · rw [if_neg (enc_ne q)]; simp only [foldN, if_pos q, bitI]
    · have e : dst false m a i = 99 := by have := hd i hi; omega
      rw [e, if_pos (by rfl)]; simp only [foldN, e]; rfl
  · rintro st ⟨⟩
    exact ⟨_, rfl, f, rfl⟩
section ops
variable {Z : aZ} {h : aH} {lo o : Nat} {m : Nat → Int32} {L G V eG eV : Nat} {gs vs : Nat → Nat} {ng nv : Nat} {mG mV : Int32}
theorem coreR.ci {hi : Nat} (c : coreR Z h lo hi o m L G V eG eV gs vs ng nv mG mV) : coreIn Z h lo hi o m := ⟨L, G, V, eG, eV, gs, vs, ng, nv, mG, mV, c⟩
theorem hedge_zero {B ng nv : Nat} (w : wfn B ng nv m) {j i : Nat} (h1 : nv ≤ j) (h2 : j < 5) (h3 : i < 8) : m (46 + 8 * j + i) = 0 := w.2.2.2.2.2.2.2.2.2 j i h1 h2 h3
theorem co_visitor {B : Nat} {x : Int32} (k : hOk Z h) (r : Rm Z h 6) (c : coreIn Z h lo h.2.1 o m) (w : wfm B m) : Ok (t_X2_visitor Z h o x) (coOk Z lo o h 6 (sp_visitor m x)) := by
  obtain ⟨L, G, V, eG, eV, gs, vs, ng, nv, mG, mV, c⟩ := c
  obtain ⟨ng', nv', w⟩ := w
  obtain ⟨rfl, rfl⟩ := wf_nums c w
  have f0 : Fr (fun a => lo ≤ a) h h 0 := Fr.rf
  have c1 := c.1
  have c4 := c.num
  unfold t_X2_visitor sp_visitor t_X2_visitor_l26
  rw [co_isIn, Option.bind_some, range_b k (r.less (by omega))]
  by_cases q1 : inR x 0 99 = false
  · rw [if_pos q1, if_pos q1, Option.bind_some]
    exact Ok.ret (coOk_ref k f0 (by omega))
  rw [if_neg q1, if_neg q1, Option.bind_some]
  dsimp only
  rw [gA_of (k := 2) c1 rfl, Option.bind_some, if_pos c.2.2.2.2.1.isC, c.2.2.2.2.1.size, Option.bind_some]
  dsimp only
  rw [← c4.2.1]
  by_cases q2 : m 1 = 5
  · rw [if_pos q2, if_pos q2, refuse_yes k (r.less (by omega)), Option.bind_some]
    exact Ok.ret (coOk_ref k f0 (by omega))
  have hn : nv' < 5 := by
    have : nv' ≠ 5 := fun q => q2 (by rw [c4.2.1, q]; rfl)
    have := c4.2.2.2
    omega
  rw [if_neg q2, if_neg q2, refuse_no, Option.bind_some]
  dsimp only
  rw [if_pos (isC_of c1)]
  unfold t_X2_hasWay
  rw [if_pos (isC_of c1)]
  have hd := dst_le (t := false) (a := 0) (v := 15) k (r.less (by omega)) c.ci.lvs (by omega) (by omega)
  obtain ⟨rA, eA, fA, rfl⟩ := co_hours (a := 0) (b := 15) k (r.less (by omega)) c.ci.lvs (isC_of c1) (by omega) (by omega)
  have eA' : t_X2_hours Z h o 0 15 = some (enc (dst false m 0 15), hnew h (aI16 Z fA) 16) := eA
  rw [eA', Option.bind_some]
  dsimp only
  have kB : hOk Z (hnew h (aI16 Z fA) 16) := k.new
  have fB : Fr (fun a => lo ≤ a) h (hnew h (aI16 Z fA) 16) 1 := Fr.new (by omega)
  have cB : coreH Z (hnew h (aI16 Z fA) 16) lo o m L G V eG eV gs vs ng' nv' mG mV := coreH.new c
  have rB : Rm Z (hnew h (aI16 Z fA) 16) 5 := Rm.after (u := 1) (v := 5) r fB
  generalize hnew h (aI16 Z fA) 16 = hB at kB fB cB rB
  obtain ⟨rC, eC, fC, rfl⟩ := co_reached (a := 0) kB (rB.less (by omega)) cB.ci.lvs (isC_of cB.1) (by omega)
  have eC' : t_X2_reached Z hB o 0 = some (reaI m 0, hnew hB (aI16 Z fC) 16) := eC
  have hbc : t_J18_bitCount (reaI m 0) = some (Int32.ofNat (onN (reaN m 0) 16)) := by
    rw [(reaI_eq m 0).1]
    exact (bits_eq (reaI_eq m 0).2).1
  have kD : hOk Z (hnew hB (aI16 Z fC) 16) := kB.new
  have fD : Fr (fun a => lo ≤ a) h (hnew hB (aI16 Z fC) 16) 2 := fB.lo (Fr.new (by omega))
  have cD : coreH Z (hnew hB (aI16 Z fC) 16) lo o m L G V eG eV gs vs ng' nv' mG mV := coreH.new cB
  have rD : Rm Z (hnew hB (aI16 Z fC) 16) 4 := Rm.after (u := 2) (v := 4) r fD
  generalize hnew hB (aI16 Z fC) 16 = hD at kD fD cD rD eC'
  unfold t_X2_visitor_l44
  by_cases q3 : dst false m 0 15 = 99
  · rw [q3, if_pos rfl, if_pos (by rfl), Option.bind_some]
    dsimp only
    rw [if_pos rfl, if_pos (isC_of cB.1), eC', Option.bind_some]
    dsimp only
    rw [hbc, Option.bind_some, refuse_yes kD (rD.less (by omega)), Option.bind_some]
    exact Ok.ret (coOk_ref kD fD (by omega))
  rw [if_neg q3, if_neg (enc_ne (by omega)), Option.bind_some]
  dsimp only
  rw [if_neg (by decide), if_pos (isC_of cB.1), eC', Option.bind_some]
  dsimp only
  rw [hbc, Option.bind_some, refuse_no, Option.bind_some]
  dsimp only
  rw [gA_of (k := 2) cD.1 rfl, Option.bind_some, nw_of (rD.less (by omega)) (by omega), Option.bind_some]
  generalize hv0 : (.inr (4, [Value.int 0, .int 0, .int 0, .int 0, .int 0, .int 0, .int 0]) : va_E) = v0
  have kE : hOk Z (hnew hD v0 7) := kD.new
  have fE9 : Fr (fun a => lo ≤ a) hD (hnew hD v0 7) 1 := Fr.new (by omega)
  have cE : coreH Z (hnew hD v0 7) lo o m L G V eG eV gs vs ng' nv' mG mV := coreH.new cD
  have rE : Rm Z (hnew hD v0 7) 3 := Rm.after (u := 1) (v := 3) rD fE9
  have aE : (hnew hD v0 7).1 hD.2.1 = some v0 := hnew_at
  have nE : (hnew hD v0 7).2.1 = hD.2.1 + 1 := rfl
  have sE : ∀ y, y < hD.2.1 → (hnew hD v0 7).1 y = hD.1 y := fun y hy => hnew_ne (by omega)
  generalize hnew hD v0 7 = hE at kE fE9 cE rE aE nE sE
  rw [if_pos (isC_of cE.1)]
  obtain ⟨rF, eF, fF, rfl⟩ := co_hours (a := 0) (b := 15) kE (rE.less (by omega)) cE.ci.lvs (isC_of cE.1) (by omega) (by omega)
  have eF' : t_X2_hours Z hE o 0 15 = some (enc (dst false m 0 15), hnew hE (aI16 Z fF) 16) := eF
  rw [eF', Option.bind_some]
  dsimp only
  have kF : hOk Z (hnew hE (aI16 Z fF) 16) := kE.new
  have fF9 : Fr (fun a => lo ≤ a) hD (hnew hE (aI16 Z fF) 16) 2 := fE9.lo (Fr.new (by omega))
  have aF : (hnew hE (aI16 Z fF) 16).1 hD.2.1 = some v0 := by rw [hnew_ne (by omega)]; exact aE
  have nF : (hnew hE (aI16 Z fF) 16).2.1 = hD.2.1 + 2 := by rw [hnew_n, nE]
  have sF : ∀ y, y < hD.2.1 → (hnew hE (aI16 Z fF) 16).1 y = hD.1 y := fun y hy => by rw [hnew_ne (by omega)]; exact sE y hy
  generalize hnew hE (aI16 Z fF) 16 = hF at kF fF9 aF nF sF
  subst hv0
  unfold t_X6_init t_X4_init_4
  have zD : z0 Z ≤ hD.2.1 := kD.1
  rw [pF_of aF (Nat.le_of_ble_eq_true rfl) zD, Option.bind_some, Option.bind_some, pF_of hset_at (Nat.le_of_ble_eq_true rfl) zD, Option.bind_some, hset_hset, pF_of hset_at (Nat.le_of_ble_eq_true rfl) zD, Option.bind_some, hset_hset, pF_of hset_at (Nat.le_of_ble_eq_true rfl) zD, Option.bind_some, hset_hset, Option.bind_some]
  dsimp only
  have e0 : cN (m 1) = nv' := by rw [c4.2.1, cN_of (by omega)]
  rw [e0]
  generalize hm' : va_up (va_up (va_up (va_up (va_up m (46 + 8 * nv') x) (46 + 8 * nv' + 3) (Int32.ofNat (dst false m 0 15))) (46 + 8 * nv' + 4) (-1)) 4 (m 4 + x)) 1 (m 1 + 1) = m'
  have hm4 : m' 4 = m 4 + x := by rw [← hm']; simp (disch := omega) only [vu_ne, vu_eq]
  have hm0 : m' 1 = Int32.ofNat (nv' + 1) := by rw [← hm', vu_eq, c4.2.1, iAdd1]
  have hmo : ∀ i, i ≠ 1 → i ≠ 4 → i ≠ 46 + 8 * nv' → i ≠ 46 + 8 * nv' + 3 → i ≠ 46 + 8 * nv' + 4 → m' i = m i := fun i q1 q2 q3 q4 q5 => by rw [← hm', vu_ne q1, vu_ne q2, vu_ne q5, vu_ne q4, vu_ne q3]
  have hmg : m' (46 + 8 * nv') = x := by rw [← hm']; simp (disch := omega) only [vu_ne, vu_eq]
  have hmg3 : m' (46 + 8 * nv' + 3) = enc (dst false m 0 15) := by rw [← hm', enc_of q3]; simp (disch := omega) only [vu_ne, vu_eq]
  have hmg4 : m' (46 + 8 * nv' + 4) = -1 := by rw [← hm']; simp (disch := omega) only [vu_ne, vu_eq]
  have hz : ∀ i, i < 8 → m (46 + 8 * nv' + i) = 0 := fun i hi => hedge_zero w (Nat.le_refl _) hn hi
  have hobj : (.inr (4, ((([Value.int 0, .int 0, .int 0, .int 0, .int 0, .int 0, .int 0].set 0 (.int x)).set 2 (.int 0)).set 4 (.int (-1))).set 1 (.int (enc (dst false m 0 15)))) : va_E) = .inr (4, pV m' nv') := by
    unfold pV
    rw [hmg, hmg3, hmg4, hmo _ (by omega) (by omega) (by omega) (by omega) (by omega), hmo _ (by omega) (by omega) (by omega) (by omega) (by omega), hmo _ (by omega) (by omega) (by omega) (by omega) (by omega), hmo _ (by omega) (by omega) (by omega) (by omega) (by omega), hz 1 (by omega), hz 2 (by omega), hz 5 (by omega), hz 6 (by omega)]
    rfl
  rw [hobj]
  have kH : hOk Z (hset hF hD.2.1 (.inr (4, pV m' nv'))) := kF.set zD (by omega)
  have loD : lo ≤ hD.2.1 := by have := cD.ci.bd; omega
  have fH : Fr (fun a => lo ≤ a) hD (hset hF hD.2.1 (.inr (4, pV m' nv'))) 2 := fF9.lo (Fr.set (S := fun a => lo ≤ a) loD)
  have aH9 : (hset hF hD.2.1 (.inr (4, pV m' nv'))).1 hD.2.1 = some (.inr (4, pV m' nv')) := hset_at
  have nH : (hset hF hD.2.1 (.inr (4, pV m' nv'))).2.1 = hD.2.1 + 2 := nF
  have sH : ∀ y, y < hD.2.1 → (hset hF hD.2.1 (.inr (4, pV m' nv'))).1 y = hD.1 y := fun y hy => by rw [hset_ne (by omega)]; exact sF y hy
  generalize hset hF hD.2.1 (.inr (4, pV m' nv')) = hH at kH fH aH9 nH sH
  have l0 := cD.2.2.2.2.1
  have lV := kD.2.1 V _ l0.1
  have hei := cD.2.2.2.2.2.2.2.2.2.2.2.2.2.2.2.1
  have l1 : lstAt Z hH V mV eV nv' vs := l0.keep (sH V lV) (fun q => sH eV (hei q).2)
  rw [if_pos l1.isC]
  obtain ⟨r3, e3, e', p1, p2, p3, p4, p5⟩ := lst_add4 kH (Rm.after (u := 2) (v := 1) (rD.less (by omega)) fH) l1 (by omega) aH9
  rw [e3, Option.bind_some]
  have hVi := cD.2.2.2.2.2.2.2.2.2.2.2.2.2.1
  have f2 : Fr (fun a => lo ≤ a) hD r3.2 3 := fH.tr p4 (fun a q1 q2 => by
    rcases q2 with q2 | ⟨q2, q3⟩
    · show lo ≤ a; omega
    · have := (hei q3).1; show lo ≤ a; omega)
  have hle : hD.2.1 + 2 ≤ r3.2.2.1 := by have := p4.2.1; rw [nH] at this; exact this
  have cA := cD.addV (h' := r3.2) (hi' := r3.2.2.1) (a := hD.2.1) (e' := e') (mc' := mV + 1) (m' := va_up m' 4 (m 4)) p2 (by
      rw [p4.1 hD.2.1 (by rw [nH]; omega) (fun q => by
        rcases q with q | ⟨q, q9⟩
        · omega
        · have := (hei q9).2; omega), aH9]
      congr 3
      exact (pV_congr (fun i q1 q2 => vu_ne (by omega))).symm) (Nat.le_refl _) (by omega) (fun y q1 q2 q3 q4 => by
      rw [p4.1 y (by rw [nH]; omega) (fun q => by rcases q with q | q; exact q3 q; exact q4 q)]
      exact sH y q2) (by
      rcases p3 with p3 | p3
      · exact Or.inl p3
      · refine Or.inr ⟨by rw [p3, nH]; omega, ?_⟩
        rcases p2.2.2 with ⟨-, g⟩ | ⟨-, -, f, g, -⟩
        · omega
        · exact p5.2.1 e' _ g) (by omega) (by rw [vu_ne (by omega)]; exact hm0) (fun i q1 q2 => by
      by_cases q : i = 4
      · subst q; exact vu_eq
      · rw [vu_ne q]; exact hmo i q1 q (by omega) (by omega) (by omega)) (by omega) (Nat.le_refl _) kD
  rw [gI_of (k := 5) cA.1 rfl, Option.bind_some]
  refine Ok.call (oput (kf := 5) p5 cA (by omega) (by omega)) fun X ⟨kX, fX, cX⟩ => ?_
  rw [gA_of (k := 2) cX.1 rfl, Option.bind_some, if_pos cX.2.2.2.2.1.isC, cX.2.2.2.2.1.size, Option.bind_some]
  dsimp only
  refine Ok.ret (coOk_goC kX ((fD.lo f2).lo fX) (by omega) cX (fun i _ _ => ?_) ?_)
  · by_cases q : i = 4
    · subst q; rw [vu_eq, vu_eq, hm4]
    · rw [vu_ne (by omega), vu_ne q]
  · rw [← iAdd1, c4.2.1]
end ops
