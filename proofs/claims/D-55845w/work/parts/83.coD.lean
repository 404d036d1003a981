/-! the core's changes, 4: single writes; trim, bond -/
set_option maxRecDepth 100000
theorem Fr.lo {lo : Nat} {h h1 h2 : aH} {u v : Nat} (f : Fr (fun a => lo ≤ a) h h1 u) (g : Fr (fun a => lo ≤ a) h1 h2 v) : Fr (fun a => lo ≤ a) h h2 (u + v) := f.tr g (fun _ _ q => q)
section ops
variable {Z : aZ} {h : aH} {lo o : Nat} {m : Nat → Int32} {L G V eG eV : Nat} {gs vs : Nat → Nat} {ng nv : Nat} {mG mV : Int32}
abbrev coreH (Z : aZ) (h : aH) (lo o : Nat) (m : Nat → Int32) (L G V eG eV : Nat) (gs vs : Nat → Nat) (ng nv : Nat) (mG mV : Int32) : Prop := coreR Z h lo h.2.1 o m L G V eG eV gs vs ng nv mG mV
theorem coreR.z0 {hi : Nat} (c : coreR Z h lo hi o m L G V eG eV gs vs ng nv mG mV) : z0 Z ≤ lo := (c.2.2.2.2.2.2.2.2.2.2.2.2.2.2.2.2).1
theorem coreR.oi {hi : Nat} (c : coreR Z h lo hi o m L G V eG eV gs vs ng nv mG mV) : lo ≤ o := (c.2.2.2.2.2.2.2.2.2.2.1).1
theorem coreR.Li {hi : Nat} (c : coreR Z h lo hi o m L G V eG eV gs vs ng nv mG mV) : lo ≤ L := (c.2.2.2.2.2.2.2.2.2.2.2.1).1
theorem coreR.gO {hi : Nat} (c : coreR Z h lo hi o m L G V eG eV gs vs ng nv mG mV) {j : Nat} (hj : j < ng) : h.1 (gs j) = some (.inr (3, pG m j)) ∧ lo ≤ gs j ∧ gs j < hi := c.2.2.2.2.2.1 j hj
theorem coreR.vO {hi : Nat} (c : coreR Z h lo hi o m L G V eG eV gs vs ng nv mG mV) {j : Nat} (hj : j < nv) : h.1 (vs j) = some (.inr (4, pV m j)) ∧ lo ≤ vs j ∧ vs j < hi := c.2.2.2.2.2.2.1 j hj
theorem coreR.num {hi : Nat} (c : coreR Z h lo hi o m L G V eG eV gs vs ng nv mG mV) : m 0 = Int32.ofNat ng ∧ m 1 = Int32.ofNat nv ∧ ng ≤ 4 ∧ nv ≤ 5 := c.2.2.1
theorem vput {kf off j : Nat} {x : Int32} (k : hOk Z h) (c : coreH Z h lo o m L G V eG eV gs vs ng nv mG mV) (hj : j < nv) (hk : (kf, off) ∈ [(0, 0), (1, 3), (2, 1), (3, 2), (4, 4), (5, 5), (6, 6)]) : Ok (pF 4 kf Z h (vs j) (.int x)) (fun h' => hOk Z h' ∧ Fr (fun a => lo ≤ a) h h' 0 ∧ coreH Z h' lo o (va_up m (46 + 8 * j + off) x) L G V eG eV gs vs ng nv mG mV) := by
  have hv := c.vO hj
  have hl := k.2.1 _ _ hv.1
  have hz := c.z0
  have hn := c.num.2.2.1
  have hlen : kf < (pV m j).length := by
    simp only [List.mem_cons, Prod.mk.injEq, List.not_mem_nil, or_false] at hk
    show kf < 7
    omega
  have hoff : off < 8 := by
    simp only [List.mem_cons, Prod.mk.injEq, List.not_mem_nil, or_false] at hk
    omega
  have hent : (.inr (4, (pV m j).set kf (.int x)) : va_E) = .inr (4, pV (va_up m (46 + 8 * j + off) x) j) := by
    simp only [List.mem_cons, Prod.mk.injEq, List.not_mem_nil, or_false] at hk
    unfold pV
    rcases hk with ⟨rfl, rfl⟩ | ⟨rfl, rfl⟩ | ⟨rfl, rfl⟩ | ⟨rfl, rfl⟩ | ⟨rfl, rfl⟩ | ⟨rfl, rfl⟩ | ⟨rfl, rfl⟩ <;> (simp (disch := omega) only [vu_ne, vu_eq, Nat.add_zero]; try rfl)
  rw [pF_of hv.1 hlen (by omega), hent]
  exact Ok.ret ⟨k.set (by omega) hl, Fr.set hv.2.1, c.vis k hj (fun i hi => vu_ne (by omega))⟩
theorem gput {kf j : Nat} {x : Int32} (k : hOk Z h) (c : coreH Z h lo o m L G V eG eV gs vs ng nv mG mV) (hj : j < ng) (hk : kf < 4) : Ok (pF 3 kf Z h (gs j) (.int x)) (fun h' => hOk Z h' ∧ Fr (fun a => lo ≤ a) h h' 0 ∧ coreH Z h' lo o (va_up m (30 + 4 * j + kf) x) L G V eG eV gs vs ng nv mG mV) := by
  have hv := c.gO hj
  have hl := k.2.1 _ _ hv.1
  have hz := c.z0
  have hent : (.inr (3, (pG m j).set kf (.int x)) : va_E) = .inr (3, pG (va_up m (30 + 4 * j + kf) x) j) := by
    unfold pG
    have : kf = 0 ∨ kf = 1 ∨ kf = 2 ∨ kf = 3 := by omega
    rcases this with rfl | rfl | rfl | rfl <;> (simp (disch := omega) only [vu_ne, vu_eq, Nat.add_zero]; try rfl)
  rw [pF_of hv.1 hk (by omega), hent]
  exact Ok.ret ⟨k.set (by omega) hl, Fr.set hv.2.1, c.gar k hj (fun i hi => vu_ne (by omega))⟩
theorem oput {kf : Nat} {x : Int32} (k : hOk Z h) (c : coreH Z h lo o m L G V eG eV gs vs ng nv mG mV) (h1 : 3 ≤ kf) (h2 : kf < 7) : Ok (pF 1 kf Z h o (.int x)) (fun h' => hOk Z h' ∧ Fr (fun a => lo ≤ a) h h' 0 ∧ coreH Z h' lo o (va_up m (kf - 1) x) L G V eG eV gs vs ng nv mG mV) := by
  have hl := k.2.1 _ _ c.1
  have hz := c.z0
  have hoi := c.oi
  have hent : (.inr (1, [Value.ref L, .ref G, .ref V, .int (m 2), .int (m 3), .int (m 4), .int (m 5)].set kf (.int x)) : va_E) = cO (va_up m (kf - 1) x) L G V := by
    unfold cO
    have : kf = 3 ∨ kf = 4 ∨ kf = 5 ∨ kf = 6 := by omega
    rcases this with rfl | rfl | rfl | rfl <;> (simp (disch := omega) only [vu_ne, vu_eq]; try rfl)
  rw [pF_of c.1 h2 (by omega), hent]
  exact Ok.ret ⟨k.set (by omega) hl, Fr.set hoi, c.fld k (fun i hi => vu_ne (by omega))⟩
theorem lput {kk : Nat} {x : Int32} (k : hOk Z h) (c : coreH Z h lo o m L G V eG eV gs vs ng nv mG mV) (hk : kk < 24) : Ok (stI Z h L (Int32.ofNat kk) x) (fun h' => hOk Z h' ∧ Fr (fun a => lo ≤ a) h h' 0 ∧ coreH Z h' lo o (va_up m (6 + kk) x) L G V eG eV gs vs ng nv mG mV) := by
  obtain ⟨f, c2, c3⟩ := c.2.1
  have hl := k.2.1 _ _ c2
  have hz := c.z0
  have hLi := c.Li
  rw [stI_of c2 hk (by omega) (by omega)]
  exact Ok.ret ⟨k.set (by omega) hl, Fr.set hLi, c.leaf k c2 hk⟩
theorem lget {kk : Nat} {hi : Nat} (c : coreR Z h lo hi o m L G V eG eV gs vs ng nv mG mV) (hk : kk < 24) : ldI Z h L (Int32.ofNat kk) = some (m (6 + kk)) := by
  obtain ⟨f, c2, c3⟩ := c.2.1
  rw [ldI_of c2 hk (by omega), c3 _ hk]
/-- garbage more -/
theorem coreH.new (c : coreH Z h lo o m L G V eG eV gs vs ng nv mG mV) {e : va_E} {n : Nat} : coreH Z (hnew h e n) lo o m L G V eG eV gs vs ng nv mG mV := coreR.keep c (fun a q1 q2 => hnew_ne (by omega)) (by rw [hnew_n]; omega) (Nat.le_refl _)
theorem coOk_goC {h0 : aH} {u u' : Nat} {v v' : Int32} {m' : Nat → Int32} (k : hOk Z h) (f : Fr (fun a => lo ≤ a) h0 h u) (hu : u ≤ u') (c : coreH Z h lo o m L G V eG eV gs vs ng nv mG mV) (hm : ∀ i, (∀ j, i ≠ 53 + 8 * j) → i < 86 → m' i = m i) (hv : v = v') : coOk Z lo o h0 u' (.inl (v', m')) (.inl v, h) := by
  subst hv
  exact coOk_go k f hu (c.cong hm)
theorem co_trim {g a b : Int32} (k : hOk Z h) (r : Rm Z h 4) (c : coreIn Z h lo h.2.1 o m) : Ok (t_X2_trim Z h o g a b) (coOk Z lo o h 4 (sp_trim m g a b)) := by
  obtain ⟨L, G, V, eG, eV, gs, vs, ng, nv, mG, mV, c⟩ := c
  have f0 : Fr (fun a => lo ≤ a) h h 0 := Fr.rf
  have hnn := c.num
  unfold t_X2_trim sp_trim
  rw [if_pos (isC_of c.1), reqG k (r.less (by omega)) c]
  by_cases g0 : inR g 0 (m 0 - 1) = false
  · rw [if_pos g0, if_pos g0, Option.bind_some]
    exact Ok.ret (coOk_ref k f0 (by omega))
  · rw [if_neg g0, if_neg g0, Option.bind_some]
    dsimp only
    rw [mk2 k (r.less (by omega)), areC2, Option.bind_some]
    dsimp only
    have f1 : Fr (fun a => lo ≤ a) h (hnew h (.inl (zI Z, 2, .inl (c2 a b))) 2) 1 := Fr.new (by omega)
    have k1 : hOk Z (hnew h (.inl (zI Z, 2, .inl (c2 a b))) 2) := k.new
    have c1 := coreH.new (e := .inl (zI Z, 2, .inl (c2 a b))) (n := 2) c
    have r1 : Rm Z (hnew h (.inl (zI Z, 2, .inl (c2 a b))) 2) 3 := Rm.after (u := 1) r f1
    generalize hnew h (.inl (zI Z, 2, .inl (c2 a b))) 2 = h1 at *
    rw [range_b k1 (r1.less (by omega))]
    by_cases g1 : (inR a 0 15 && inR b 0 15) = false
    · rw [if_pos g1, if_pos g1, Option.bind_some]
      exact Ok.ret (coOk_ref k1 f1 (by omega))
    · rw [if_neg g1, if_neg g1, Option.bind_some]
      dsimp only
      simp at g1
      obtain ⟨i, hi, rfl⟩ := inR_le (n := 15) (x := a) (by omega) (by rw [show (Int32.ofNat 15) = 15 from rfl]; simp [g1.1])
      obtain ⟨j, hj, rfl⟩ := inR_le (n := 15) (x := b) (by omega) (by rw [show (Int32.ofNat 15) = 15 from rfl]; simp [g1.2])
      rw [cN_of (n := i) (by omega), cN_of (n := j) (by omega), if_pos (isC_of c1.1)]
      by_cases q : hgN i j = 99
      · rw [if_pos q, reqH_no k1 (r1.less (by omega)) (by omega) (by omega) q, Option.bind_some]
        exact Ok.ret (coOk_ref k1 f1 (by omega))
      · have hk := hg_lt i (by omega) j (by omega)
        rw [hnn.1] at g0
        obtain ⟨n, hn, rfl⟩ := inR_idx (by omega) g0
        rw [if_neg q, reqH_ok (by omega) (by omega) q, Option.bind_some, cN_of (by omega)]
        dsimp only
        rw [gA_of (k := 0) c1.1 rfl, Option.bind_some]
        generalize hgN i j = kk at *
        rw [lget c1 (by omega), Option.bind_some]
        unfold t_X2_trim_l47
        by_cases w3 : m (6 + kk) = 0
        · rw [if_pos w3, if_pos w3, refuse_yes k1 (r1.less (by omega)), Option.bind_some]
          exact Ok.ret (coOk_ref k1 f1 (by omega))
        · rw [if_neg w3, if_neg w3, refuse_no, Option.bind_some]
          dsimp only
          have hg := c1.gO hn
          rw [if_pos (isC_of hg.1)]
          unfold t_X4_pay_3 t_X4_pay_3_l13
          rw [gI_of (k := 0) hg.1 rfl, Option.bind_some]
          by_cases w4 : m (30 + 4 * n) < 2
          · rw [if_pos w4, if_neg (Int32.not_le.mpr w4), Option.bind_some, refuse_yes k1 (r1.less (by omega)), Option.bind_some, Option.bind_some]
            exact Ok.ret (coOk_ref k1 f1 (by omega))
          · rw [if_neg w4, if_pos (Int32.not_lt.mp w4), Option.bind_some, refuse_no, Option.bind_some]
            dsimp only
            rw [gI_of (k := 0) hg.1 rfl, Option.bind_some]
            obtain ⟨X1, e1, kX1, fX1, cX1⟩ := gput (kf := 0) (x := m (30 + 4 * n) - 2) k1 c1 hn (by omega)
            rw [e1, Option.bind_some, Option.bind_some]
            dsimp only
            rw [gI_of (k := 3) (cX1.gO hn).1 rfl, Option.bind_some]
            refine Ok.call (gput (kf := 3) kX1 cX1 hn (by omega)) fun X2 ⟨kX2, fX2, cX2⟩ => ?_
            rw [gI_of (k := 6) cX2.1 rfl, Option.bind_some]
            refine Ok.call (oput (kf := 6) kX2 cX2 (by omega) (by omega)) fun X3 ⟨kX3, fX3, cX3⟩ => ?_
            rw [gA_of (k := 0) cX3.1 rfl, Option.bind_some]
            refine Ok.call (lput (x := 0) kX3 cX3 (by omega)) fun X4 ⟨kX4, fX4, cX4⟩ => ?_
            rw [if_pos (isC_of (cX4.gO hn).1)]
            unfold t_X4_coins_3
            rw [gI_of (k := 0) (cX4.gO hn).1 rfl, Option.bind_some, Option.bind_some]
            refine Ok.ret (coOk_goC kX4 ((((f1.lo fX1).lo fX2).lo fX3).lo fX4) (by omega) cX4 (fun x _ _ => ?_) ?_)
            · simp (disch := omega) only [vu_ne, vu_eq, Nat.add_zero, Nat.reduceSub]
              by_cases x5 : x = 5
              · subst x5; simp (disch := omega) only [vu_ne, vu_eq]
              by_cases xk : x = 6 + kk
              · subst xk; simp (disch := omega) only [vu_ne, vu_eq]
              by_cases xa : x = 30 + 4 * n
              · subst xa; simp (disch := omega) only [vu_ne, vu_eq]
              by_cases xb : x = 30 + 4 * n + 3
              · subst xb; simp (disch := omega) only [vu_ne, vu_eq]
              simp (disch := omega) only [vu_ne]
            · simp (disch := omega) only [vu_ne, vu_eq, Nat.add_zero, Nat.reduceSub]
end ops
