/-! asking: account, 2 -/
set_option maxRecDepth 100000
section qa
variable {Z : aZ} {h h' H : aH} {Rt : Nat → Prop} {q : Nat → Nat} {B B' : Nat} {s s' : tS} {C C' : Nat}
theorem crd_c0 {R : Nat → Prop} {m : Nat → Int32} (c : crd Z h R B C m) : gI 1 3 h C = some (m 2) ∧ gI 1 4 h C = some (m 3) ∧ gI 1 5 h C = some (m 4) ∧ gI 1 6 h C = some (m 5) := by
  obtain ⟨w, lo, hi, ⟨L, G, V, eG, eV, gs, vs, ng, nv, mG, mV, c⟩, hR⟩ := c
  exact ⟨gI_of (k := 3) c.1 rfl, gI_of (k := 4) c.1 rfl, gI_of (k := 5) c.1 rfl, gI_of (k := 6) c.1 rfl⟩
theorem co_acc {x : Int32} (k : hOk Z h) (r : Rm Z h 6) (c : cst Z Rt q B h s) : x1Ok Z Rt q B 6 h (t_X1_account Z h (q 0) x) (t_X3_account s x) (cd1 iarg) := by
  obtain ⟨C, e, g1, g2, g3, g4⟩ := c.core k (Fr.rf (u := 0))
  obtain ⟨ng, nv, w⟩ := c.nums
  obtain ⟨V, u1, u2, u3⟩ := crd_vsize g2
  obtain ⟨G, u4, u5, u6⟩ := crd_gsize g2
  obtain ⟨c2, c3, c4, c5⟩ := crd_c0 g2
  generalize hx : t_X1_account Z h (q 0) x = y
  unfold t_X1_account at hx
  rw [co_isIn, Option.bind_some] at hx
  unfold t_X3_account tpf
  rw [Option.bind_some]
  have yes : ∀ (v : Int32) (H : aH), hOk Z H → Fr non h H 6 → some (.inl v, H) = y → ∀ t, t = some (v, sT s 0) → x1Ok Z Rt q B 6 h y t (cd1 iarg) := fun v H k1 f1 h1 t h2 => x1_yes c k k1 f1 h1.symm h2 (vEq_T 0) (sT_12 (s := s) 0)
  by_cases z4 : inR x 0 11 = true
  · rw [z4, arg_ok, Option.bind_some] at hx
    dsimp only at hx
    obtain ⟨i, hi, rfl⟩ := inR_le (n := 11) (by omega) (by rw [show Int32.ofNat 11 = 11 from rfl, z4]; decide)
    show x1Ok Z Rt q B 6 h y (if Int32.ofNat i = 0 then _ else _) _
    rcases (show i = 0 ∨ i = 1 ∨ i = 2 ∨ i = 3 ∨ i = 4 ∨ i = 5 ∨ i = 6 ∨ i = 7 ∨ i = 8 ∨ i = 9 ∨ i = 10 ∨ i = 11 by omega) with rfl | rfl | rfl | rfl | rfl | rfl | rfl | rfl | rfl | rfl | rfl | rfl
    · rw [if_pos (by rfl), g1, Option.bind_some, u4, Option.bind_some, if_pos u5, u6, Option.bind_some] at hx
      refine yes _ _ k Fr.rf hx _ ?_
      rw [if_pos (by rfl), tld_of (n := 86) rfl (by omega) (by omega)]; rfl
    · rw [if_neg (by decide), if_pos (by rfl), g1, Option.bind_some, u1, Option.bind_some, if_pos u2, u3, Option.bind_some] at hx
      refine yes _ _ k Fr.rf hx _ ?_
      rw [if_neg (by decide), if_pos (by rfl), tld_of (n := 86) rfl (by omega) (by omega)]; rfl
    · obtain ⟨H, e3, k3, f3⟩ := co_out k (r.less (by omega)) g2 w.2.1 w.2.2.2.1
      rw [if_neg (by decide), if_neg (by decide), if_pos (by rfl), g1, Option.bind_some, if_pos g3, e3, Option.bind_some] at hx
      refine yes _ _ k3 (f3.up (by omega)) hx _ ?_
      rw [if_neg (by decide), if_neg (by decide), if_pos (by rfl), show t_X3_outs (va_up s.1 12 0, s.2) = _ from tw_outs (s := sT s 0) w]; rfl
    · obtain ⟨H, e3, k3, f3⟩ := co_bonds k (r.less (by omega)) c w
      rw [if_neg (by decide), if_neg (by decide), if_neg (by decide), if_pos (by rfl), if_pos g4, e3, Option.bind_some] at hx
      refine yes _ _ k3 (f3.up (by omega)) hx _ ?_
      rw [if_neg (by decide), if_neg (by decide), if_neg (by decide), if_pos (by rfl), show t_X3_lasting (va_up s.1 12 0, s.2) (-1) = _ from tw_lasting (s := sT s 0) w, Option.bind_some]
      rfl
    · obtain ⟨H, e3, k3, f3⟩ := co_voids k (r.less (by omega)) g2 w.2.1 w.2.2.2.1
      rw [if_neg (by decide), if_neg (by decide), if_neg (by decide), if_neg (by decide), if_pos (by rfl), g1, Option.bind_some, if_pos g3, e3, Option.bind_some] at hx
      refine yes _ _ k3 (f3.up (by omega)) hx _ ?_
      rw [if_neg (by decide), if_neg (by decide), if_neg (by decide), if_neg (by decide), if_pos (by rfl), show t_X3_voids (va_up s.1 12 0, s.2) = _ from tw_voids (s := sT s 0) w]; rfl
    · rw [if_neg (by decide), if_neg (by decide), if_neg (by decide), if_neg (by decide), if_neg (by decide), if_pos (by rfl), g1, Option.bind_some, if_pos g3, crd_gaps g2, Option.bind_some] at hx
      refine yes _ _ k Fr.rf hx _ ?_
      rw [if_neg (by decide), if_neg (by decide), if_neg (by decide), if_neg (by decide), if_neg (by decide), if_pos (by rfl), show t_X3_gaps (va_up s.1 12 0, s.2) = _ from tw_gaps' (s := sT s 0)]; rfl
    · rw [if_neg (by decide), if_neg (by decide), if_neg (by decide), if_neg (by decide), if_neg (by decide), if_neg (by decide), if_pos g4] at hx
      unfold t_X1_otherAccount at hx
      rw [if_pos (by rfl), g1, Option.bind_some, c3, Option.bind_some, Option.bind_some] at hx
      refine yes _ _ k Fr.rf hx _ ?_
      rw [if_neg (by decide), if_neg (by decide), if_neg (by decide), if_neg (by decide), if_neg (by decide), if_neg (by decide), if_pos (by rfl), show (3 : Int32) + Int32.ofNat 6 - 6 = Int32.ofNat 3 from by decide, tld_of (n := 86) rfl (by omega) (by omega)]; rfl
    · rw [if_neg (by decide), if_neg (by decide), if_neg (by decide), if_neg (by decide), if_neg (by decide), if_neg (by decide), if_pos g4] at hx
      unfold t_X1_otherAccount at hx
      rw [if_neg (by decide), if_pos (by rfl), g1, Option.bind_some, c4, Option.bind_some, Option.bind_some] at hx
      refine yes _ _ k Fr.rf hx _ ?_
      rw [if_neg (by decide), if_neg (by decide), if_neg (by decide), if_neg (by decide), if_neg (by decide), if_neg (by decide), if_neg (by decide), if_pos (by rfl), show (3 : Int32) + Int32.ofNat 7 - 6 = Int32.ofNat 4 from by decide, tld_of (n := 86) rfl (by omega) (by omega)]; rfl
    · rw [if_neg (by decide), if_neg (by decide), if_neg (by decide), if_neg (by decide), if_neg (by decide), if_neg (by decide), if_pos g4] at hx
      unfold t_X1_otherAccount at hx
      rw [if_neg (by decide), if_neg (by decide), if_pos (by rfl), g1, Option.bind_some, c5, Option.bind_some, Option.bind_some] at hx
      refine yes _ _ k Fr.rf hx _ ?_
      rw [if_neg (by decide), if_neg (by decide), if_neg (by decide), if_neg (by decide), if_neg (by decide), if_neg (by decide), if_neg (by decide), if_neg (by decide), if_pos (by rfl), show (3 : Int32) + Int32.ofNat 8 - 6 = Int32.ofNat 5 from by decide, tld_of (n := 86) rfl (by omega) (by omega)]; rfl
    · obtain ⟨H, e3, k3, f3⟩ := co_coins k (r.less (by omega)) g2 w.1 w.2.2.1 w.2.1 w.2.2.2.1
      rw [if_neg (by decide), if_neg (by decide), if_neg (by decide), if_neg (by decide), if_neg (by decide), if_neg (by decide), if_pos g4] at hx
      unfold t_X1_otherAccount at hx
      rw [if_neg (by decide), if_neg (by decide), if_neg (by decide), if_pos (by rfl), g1, Option.bind_some, if_pos g3, e3, Option.bind_some, Option.bind_some] at hx
      refine yes _ _ k3 (f3.up (by omega)) hx _ ?_
      rw [if_neg (by decide), if_neg (by decide), if_neg (by decide), if_neg (by decide), if_neg (by decide), if_neg (by decide), if_neg (by decide), if_neg (by decide), if_neg (by decide), if_pos (by rfl), show t_X3_coins (va_up s.1 12 0, s.2) = _ from tw_coins (s := sT s 0) w]; rfl
    · obtain ⟨C9, sv, lt, mB, e9, n, ps, d⟩ := c
      rw [if_neg (by decide), if_neg (by decide), if_neg (by decide), if_neg (by decide), if_neg (by decide), if_neg (by decide), if_pos g4] at hx
      unfold t_X1_otherAccount at hx
      rw [if_neg (by decide), if_neg (by decide), if_neg (by decide), if_neg (by decide), if_pos (by rfl), gA_of (k := 1) d.1 rfl, Option.bind_some, if_pos d.2.1.isC, d.2.1.size, Option.bind_some, Option.bind_some] at hx
      refine yes _ _ k Fr.rf hx _ ?_
      rw [if_neg (by decide), if_neg (by decide), if_neg (by decide), if_neg (by decide), if_neg (by decide), if_neg (by decide), if_neg (by decide), if_neg (by decide), if_neg (by decide), if_neg (by decide), if_pos (by rfl)]
      show some (va_up s.1 12 0 5, _) = _
      rw [vu_ne (by omega), d.2.2.1.2]
      rfl
    · obtain ⟨C9, sv, lt, mB, e9, n, ps, d⟩ := c
      rw [if_neg (by decide), if_neg (by decide), if_neg (by decide), if_neg (by decide), if_neg (by decide), if_neg (by decide), if_pos g4] at hx
      unfold t_X1_otherAccount at hx
      rw [if_neg (by decide), if_neg (by decide), if_neg (by decide), if_neg (by decide), if_neg (by decide), gI_of (k := 5) d.1 rfl, Option.bind_some, Option.bind_some] at hx
      refine yes _ _ k Fr.rf hx _ ?_
      rw [if_neg (by decide), if_neg (by decide), if_neg (by decide), if_neg (by decide), if_neg (by decide), if_neg (by decide), if_neg (by decide), if_neg (by decide), if_neg (by decide), if_neg (by decide), if_neg (by decide), if_pos (by rfl)]
      show some (va_up s.1 12 0 11, _) = _
      rw [vu_ne (by omega)]
      rfl
  · have z4' : inR x 0 11 = false := by simpa using z4
    rw [z4', arg_no' k (r.less (by omega)), Option.bind_some] at hx
    refine x1_no (v := -1) (c9 := 1) c k k.new ((Fr.new (by omega)).up (by omega)) hx.symm ?_ (by decide) (by decide)
    rw [if_neg (inR_ne z4' (by decide)), if_neg (inR_ne z4' (by decide)), if_neg (inR_ne z4' (by decide)), if_neg (inR_ne z4' (by decide)), if_neg (inR_ne z4' (by decide)), if_neg (inR_ne z4' (by decide)), if_neg (inR_ne z4' (by decide)), if_neg (inR_ne z4' (by decide)), if_neg (inR_ne z4' (by decide)), if_neg (inR_ne z4' (by decide)), if_neg (inR_ne z4' (by decide)), if_neg (inR_ne z4' (by decide))]
    show some (-1, sT (sT s 0) 1) = _
    rw [sT_sT]
end qa
