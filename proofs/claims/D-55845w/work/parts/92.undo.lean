/-! summer, undo, save, restore -/
set_option maxRecDepth 100000
section un
variable {Z : aZ} {h h' H : aH} {Rt : Nat → Prop} {q : Nat → Nat} {B B' : Nat} {s s' : tS} {C C' : Nat} {sv sv' lt : Option Nat} {mB mB' : Int32} {e n n' : Nat} {ps ps' : Nat → Nat}
theorem cstR.root (k : hOk Z h) (c : cstR Z Rt q B h s C sv lt mB e n ps) {u : Nat} (f : Fr (fun x => x = q 0 ∨ x = q 1 ∨ x = e) h H u) (a0 : H.1 (q 0) = some (cEnt C' q sv' lt (s'.1 11) (s'.1 9))) (l' : lstAt Z H (q 1) mB' e n' ps') (hn' : n' ≤ 8 ∧ s'.1 5 = Int32.ofNat n') (cC : crd Z h (av Rt q e) B' C' (s'.2 0)) (cP : ∀ j, j < n' → crd Z h (av Rt q e) B' (ps' j) (fun i => s'.2 4 (86 * j + i))) (cS : svOk Z h (av Rt q e) B' s' sv') (v : ∀ k, k ∈ [6, 7, 8, 20] → s'.1 k = s.1 k) (v10 : s'.2 10 = s.2 10) (v19 : s'.2 19 = s.2 19) (hl : ∃ l, l ≤ 60 ∧ s'.1 11 = Int32.ofNat l) : cst Z Rt q B' H s' := by
  obtain ⟨ql1, ql2, ql3⟩ := c.qlt k
  obtain ⟨ap1, ap2⟩ := c.apart k
  obtain ⟨c1, c2, c3, c4, c5, c6, c7, ⟨tf, l, c8, c8'⟩, ⟨mb, N, wf, ⟨c9, c10⟩, c10'⟩, c11, c12⟩ := id c
  have hto : ∀ {B9 C9 : Nat} {m9 : Nat → Int32}, crd Z h (av Rt q e) B9 C9 m9 → crd Z H (av Rt q e) B9 C9 m9 := fun c9 => c9.fr f (fun a _ z => Or.inr (by unfold wr; rcases z with z | z | z <;> simp [z]))
  have hk : ∀ i, i < 5 → i ≠ 0 → i ≠ 1 → H.1 (q i) = h.1 (q i) := fun i hi z0 z1 => f.1 _ (ql1 i hi).1 (by
    rintro (z | z | z)
    · exact ap1 i 0 hi (by omega) z0 z
    · exact ap1 i 1 hi (by omega) z1 z
    · exact ap2 i hi z)
  obtain ⟨l2, hl2, el2⟩ := hl
  refine ⟨C', sv', lt, mB', e, n', ps', a0, l', hn', hto cC, fun j hj => hto (cP j hj), ?_, ?_, ⟨tf, l2, by rw [hk 2 (by omega) (by omega) (by omega)]; exact c8, by rw [v10]; exact c8'.1, hl2, el2⟩, ⟨mb, N, wf, ⟨by rw [hk 3 (by omega) (by omega) (by omega)]; exact c9, by rw [hk 4 (by omega) (by omega) (by omega)]; exact c10⟩, by rw [v19, v 20 (by decide)]; exact c10'⟩, fun a z => ⟨by have := (c11 a z).1; have := f.2.1; omega, (c11 a z).2⟩, c12⟩
  · rcases cS with c6 | ⟨S, d1, d2, d3⟩
    · exact Or.inl c6
    · exact Or.inr ⟨S, d1, d2, hto d3⟩
  · unfold ltOk
    rw [v 6 (by decide), v 7 (by decide), v 8 (by decide)]
    rcases c7 with c7 | ⟨a, d1, d2, d3, d4⟩
    · exact Or.inl c7
    · refine Or.inr ⟨a, d1, d2, d3, ?_⟩
      rw [f.1 a (k.2.1 _ _ d4) ?_]
      · exact d4
      · rintro (z | z | z)
        · exact absurd z (ent_ne d4 c1 (fun z => by cases z))
        · exact absurd z (ent_ne d4 c2.1 (fun z => by cases z))
        · rcases c2.2.2 with ⟨z1, -⟩ | ⟨-, -, f, z1, -⟩
          · have h9 : h.1 e = some (.inl (zO Z, 0, .inr (.inr (.inr (.inr fun _ => none))))) := by rw [z1]; exact k.2.2.2
            exact absurd z (ent_ne d4 h9 (fun z => by cases z))
          · exact absurd z (ent_ne d4 z1 (fun z => by cases z))
theorem Fr.wrN {u : Nat} (k : hOk Z h) (c : cstR Z Rt q B h s C sv lt mB e n ps) (f : Fr (fun x => x = q 0 ∨ x = q 1 ∨ x = e) h H u) : Fr (fun a => ¬ Rt a) h H u := by
  obtain ⟨ql1, ql2, ql3⟩ := c.qlt k
  refine f.mono (fun a _ z z9 => ?_) (Nat.le_refl _)
  rcases z with z | z | z
  · exact (ql1 0 (by omega)).2 (z ▸ z9)
  · exact (ql1 1 (by omega)).2 (z ▸ z9)
  · exact ql3 (z ▸ z9)
theorem crd_vsize {R : Nat → Prop} {m : Nat → Int32} (c : crd Z h R B C m) : ∃ V, gA 1 2 h C = some V ∧ isC 8 h V = true ∧ t_J2_size Z h V = some (m 1, h) := by
  obtain ⟨w, lo, hi, ⟨L, G, V, eG, eV, gs, vs, ng, nv, mG, mV, c⟩, hR⟩ := c
  exact ⟨V, gA_of (k := 2) c.1 rfl, c.2.2.2.2.1.isC, by rw [c.num.2.1]; exact c.2.2.2.2.1.size⟩
theorem crd_gsize {R : Nat → Prop} {m : Nat → Int32} (c : crd Z h R B C m) : ∃ G, gA 1 1 h C = some G ∧ isC 8 h G = true ∧ t_J2_size Z h G = some (m 0, h) := by
  obtain ⟨w, lo, hi, ⟨L, G, V, eG, eV, gs, vs, ng, nv, mG, mV, c⟩, hR⟩ := c
  exact ⟨G, gA_of (k := 1) c.1 rfl, c.2.2.2.1.isC, by rw [c.num.1]; exact c.2.2.2.1.size⟩
theorem summer_w {o : Nat} : w_op Z h o (fun H c => (t_X2_summer Z H c).map fun r => (.inl r.1, r.2)) = (t_X1_summer Z h o).map fun r => (.inl r.1, r.2) := by
  unfold w_op t_X1_summer
  cases gA 0 0 h o with
  | none => rfl
  | some a2 =>
    simp only [Option.bind_some]
    split
    · cases t_X2_copy Z h a2 with
      | none => rfl
      | some r6 =>
        simp only [Option.bind_some]
        split
        · cases t_X2_summer Z r6.2 r6.1 with
          | none => rfl
          | some r11 =>
            simp only [Option.bind_some, Option.map_some]
            split
            · cases t_X1_come Z r11.2 o r6.1 r11.1 <;> rfl
            · rfl
        · rfl
    · rfl
theorem co_sumX (k : hOk Z h) (r : Rm Z h 32) (c : cst Z Rt q B h s) (h1 : 100 ≤ B) (h2 : B < 90000000) : ∃ r s', t_X1_summer Z h (q 0) = some r ∧ t_X3_summer s = some (r.1, s') ∧ hOk Z r.2 ∧ Fr (fun a => ¬ Rt a) h r.2 32 ∧ cst Z Rt q (B + 10) r.2 s' := by
  obtain ⟨r1, v, s', e1, e2, p1, p2, p3, p4⟩ := ch_ok b_summ k r c h1 h2
  rw [summer_w] at e1
  cases hx : t_X1_summer Z h (q 0) with
  | none => rw [hx] at e1; cases e1
  | some r2 =>
    rw [hx] at e1
    cases e1
    refine ⟨r2, s', rfl, ?_, p1, p2, p3⟩
    have : t_X3_summer s = tw_op s (fun s => t_X3_summerIt s) := rfl
    rw [this, e2]
    rcases p4 with ⟨p4, -⟩ | ⟨nm, a, p4, -⟩
    · cases p4; rfl
    · cases p4
/-- a loop that copies 86 numbers within the twin -/
theorem tw_undo {n : Nat} (h5 : s.1 5 = Int32.ofNat (n + 1)) (hn : n < 8) : Ok (t_X3_undo s) (fun r => r.1 = Int32.ofNat n ∧ (∀ k, k ≠ 5 → k ≠ 12 → r.2.1 k = s.1 k) ∧ r.2.1 5 = Int32.ofNat n ∧ r.2.1 12 = 0 ∧ (∀ k, k ≠ 0 → r.2.2 k = s.2 k) ∧ ∀ i, i < 86 → r.2.2 0 i = s.2 4 (86 * n + i)) := by
  unfold t_X3_undo tpf
  rw [Option.bind_some]
  dsimp only
  rw [if_neg (show ¬ va_up s.1 12 0 5 = 0 by rw [vu_ne (by omega), h5]; exact fun z => by have := (iEq (b := 0) (by omega) (by omega)).mp z; omega), Option.bind_some]
  have e1 : va_up s.1 12 0 5 - 1 = Int32.ofNat n := by rw [vu_ne (by omega), h5, show (1 : Int32) = Int32.ofNat 1 from rfl, iSub (by omega), Nat.add_sub_cancel]
  rw [e1]
  refine wlo_for 86 (fun i st => ∃ s', st = (Int32.ofNat i, s') ∧ s'.1 = va_up (va_up s.1 12 0) 5 (Int32.ofNat n) ∧ (∀ k, k ≠ 0 → s'.2 k = s.2 k) ∧ ∀ j, j < i → s'.2 0 j = s.2 4 (86 * n + j)) _ ?_ ?_ (i := 0) ⟨_, rfl, rfl, fun _ _ => rfl, fun j hj => by omega⟩ (by omega) (by omega)
  · rintro i st hi ⟨s', rfl, e1, e2, e3⟩
    refine Or.inl ?_
    have e5 : s'.1 5 = Int32.ofNat n := by rw [e1, vu_eq]
    unfold t_X3_undo_b30
    dsimp only
    rw [if_neg (fun q => by have := (iLe (a := 86) (by omega) (by omega)).mp q; omega), e5, i86, iMul, iAdd, tld_of (n := 688) rfl (by omega) (by omega), Option.bind_some, tst_of (n := 86) rfl hi (by omega), Option.bind_some, iAdd1]
    refine ⟨_, rfl, _, rfl, e1, fun k hk => ?_, fun j hj => ?_⟩
    · dsimp only; rw [vu_ne hk]; exact e2 k hk
    · dsimp only; rw [vu_eq]
      by_cases q : j = i
      · subst q; rw [vu_eq, e2 4 (by omega)]
      · rw [vu_ne q]; exact e3 j (by omega)
  · rintro st ⟨s', rfl, e1, e2, e3⟩
    have e5 : s'.1 5 = Int32.ofNat n := by rw [e1, vu_eq]
    refine ⟨_, rfl, e5, fun k h1 h2 => ?_, e5, ?_, e2, e3⟩
    · show s'.1 k = _
      rw [e1, vu_ne h1, vu_ne h2]
    · show s'.1 12 = _
      rw [e1, vu_ne (by omega), vu_eq]
theorem tw_save : Ok (t_X3_save s) (fun r => r.1 = s.2 0 1 ∧ (∀ k, k ≠ 3 → k ≠ 12 → r.2.1 k = s.1 k) ∧ r.2.1 3 = 1 ∧ r.2.1 12 = 0 ∧ (∀ k, k ≠ 2 → r.2.2 k = s.2 k) ∧ ∀ i, i < 86 → r.2.2 2 i = s.2 0 i) := by
  unfold t_X3_save tpf
  rw [Option.bind_some]
  refine wlo_for 86 (fun i st => ∃ s', st = (Int32.ofNat i, s') ∧ s'.1 = va_up s.1 12 0 ∧ (∀ k, k ≠ 2 → s'.2 k = s.2 k) ∧ ∀ j, j < i → s'.2 2 j = s.2 0 j) _ ?_ ?_ (i := 0) ⟨_, rfl, rfl, fun _ _ => rfl, fun j hj => by omega⟩ (by omega) (by omega)
  · rintro i st hi ⟨s', rfl, e1, e2, e3⟩
    refine Or.inl ?_
    unfold t_X3_save_b7
    dsimp only
    rw [if_neg (fun q => by have := (iLe (a := 86) (by omega) (by omega)).mp q; omega), tld_of (n := 86) rfl (by omega) (by omega), Option.bind_some, tst_of (n := 86) rfl hi (by omega), Option.bind_some, iAdd1]
    refine ⟨_, rfl, _, rfl, e1, fun k hk => ?_, fun j hj => ?_⟩
    · dsimp only; rw [vu_ne hk]; exact e2 k hk
    · dsimp only; rw [vu_eq]
      by_cases q : j = i
      · subst q; rw [vu_eq, e2 0 (by omega)]
      · rw [vu_ne q]; exact e3 j (by omega)
  · rintro st ⟨s', rfl, e1, e2, e3⟩
    unfold t_X3_save_b7
    dsimp only
    rw [if_pos (by decide)]
    unfold t_X3_save_l31 tpf
    rw [Option.bind_some, show tld 0 (va_up s'.1 3 1, s'.2) 1 = some (s'.2 0 1) from tld_of (n := 86) (i := 1) rfl (by omega) (by omega), Option.bind_some]
    refine ⟨_, rfl, by rw [e2 0 (by omega)], fun k h1 h2 => ?_, ?_, ?_, e2, e3⟩
    · show va_up s'.1 3 1 k = _
      rw [vu_ne h1, e1, vu_ne h2]
    · show va_up s'.1 3 1 3 = _
      rw [vu_eq]
    · show va_up s'.1 3 1 12 = _
      rw [vu_ne (by omega), e1, vu_eq]
theorem tw_restore (h3 : s.1 3 ≠ 0) : Ok (t_X3_restore s) (fun r => r.1 = s.2 2 1 ∧ (∀ k, k ≠ 5 → k ≠ 12 → r.2.1 k = s.1 k) ∧ r.2.1 5 = 0 ∧ r.2.1 12 = 0 ∧ (∀ k, k ≠ 0 → r.2.2 k = s.2 k) ∧ ∀ i, i < 86 → r.2.2 0 i = s.2 2 i) := by
  unfold t_X3_restore tpf
  rw [Option.bind_some]
  dsimp only
  rw [if_neg (show ¬ va_up s.1 12 0 3 = 0 by rw [vu_ne (by omega)]; exact h3)]
  refine wlo_for 86 (fun i st => ∃ s', st = (Int32.ofNat i, s') ∧ s'.1 = va_up s.1 12 0 ∧ (∀ k, k ≠ 0 → s'.2 k = s.2 k) ∧ ∀ j, j < i → s'.2 0 j = s.2 2 j) _ ?_ ?_ (i := 0) ⟨_, rfl, rfl, fun _ _ => rfl, fun j hj => by omega⟩ (by omega) (by omega)
  · rintro i st hi ⟨s', rfl, e1, e2, e3⟩
    refine Or.inl ?_
    unfold t_X3_restore_b20
    dsimp only
    rw [if_neg (fun q => by have := (iLe (a := 86) (by omega) (by omega)).mp q; omega), tld_of (n := 86) rfl (by omega) (by omega), Option.bind_some, tst_of (n := 86) rfl hi (by omega), Option.bind_some, iAdd1]
    refine ⟨_, rfl, _, rfl, e1, fun k hk => ?_, fun j hj => ?_⟩
    · dsimp only; rw [vu_ne hk]; exact e2 k hk
    · dsimp only; rw [vu_eq]
      by_cases q : j = i
      · subst q; rw [vu_eq, e2 2 (by omega)]
      · rw [vu_ne q]; exact e3 j (by omega)
  · rintro st ⟨s', rfl, e1, e2, e3⟩
    unfold t_X3_restore_b20
    dsimp only
    rw [if_pos (by decide)]
    unfold t_X3_restore_l44 tpf
    rw [Option.bind_some, show tld 0 (va_up s'.1 5 0, s'.2) 1 = some (s'.2 0 1) from tld_of (n := 86) (i := 1) rfl (by omega) (by omega), Option.bind_some]
    refine ⟨_, rfl, e3 1 (by omega), fun k h1 h2 => ?_, ?_, ?_, e2, e3⟩
    · show va_up s'.1 5 0 k = _
      rw [vu_ne h1, e1, vu_ne h2]
    · show va_up s'.1 5 0 5 = _
      rw [vu_eq]
    · show va_up s'.1 5 0 12 = _
      rw [vu_ne (by omega), e1, vu_eq]
/-- the twin says what is thrown -/
def sT (s : tS) (x : Int32) : tS := (va_up s.1 12 x, s.2)
theorem sT_sT (a b : Int32) : sT (sT s a) b = sT s b := by
  unfold sT
  refine Prod.ext ?_ rfl
  funext k
  by_cases z : k = 12
  · subst z; dsimp only; rw [vu_eq, vu_eq]
  · dsimp only; rw [vu_ne z, vu_ne z, vu_ne z]
theorem vEq_T (x : Int32) : vEq s (sT s x) := by
  refine ⟨fun k hk => ?_, rfl, rfl, rfl, rfl, fun _ _ => rfl⟩
  simp only [List.mem_cons, List.not_mem_nil, or_false] at hk
  exact vu_ne (by omega)
theorem sT_12 (x : Int32) : (sT s x).1 12 = x := by unfold sT; dsimp only; exact vu_eq
theorem state_no (k : hOk Z h) (r : Rm Z h 1) : t_X1_requireState Z h 0 = some (.inr ("java/lang/IllegalStateException", h.2.1), hnew h (.inr (16, [])) 6) := by
  unfold t_X1_requireState
  rw [if_pos rfl, nw_of r (by omega), Option.bind_some, if_pos (isC_of hnew_at)]
theorem x1_no {u : Nat} {t : Option (Int32 × tS)} {x : Option ((Int32 ⊕ aXX) × aH)} {cd : String → Int32} {v c9 : Int32} {nm : String} {a : Nat} (c : cst Z Rt q B h s) (k : hOk Z h) (k' : hOk Z H) (f : Fr non h H u) (ex : x = some (.inr (nm, a), H)) (et : t = some (v, sT s c9)) (hc : cd nm = c9) (h0 : c9 ≠ 0) : x1Ok Z Rt q B u h x t cd :=
  ⟨_, v, _, ex, et, k', f.nRt, (c.grow k f).cong (vEq_T c9), Or.inr ⟨nm, a, rfl, by rw [sT_12, hc], by rw [hc]; exact h0⟩⟩
theorem co_undo (k : hOk Z h) (r : Rm Z h 4) (c : cst Z Rt q B h s) : x1Ok Z Rt q B 4 h (t_X1_undo Z h (q 0)) (t_X3_undo s) (cd1 "java/lang/IllegalStateException") := by
  have c0 := c
  obtain ⟨C, sv, lt, mB, e, n, ps, c⟩ := c
  obtain ⟨ql1, ql2, ql3⟩ := c.qlt k
  obtain ⟨ap1, ap2⟩ := c.apart k
  obtain ⟨c1, c2, c3, c4, c5, c6, c7, c8, c9, c11, c12⟩ := id c
  have hx : t_X1_undo Z h (q 0) = if n = 0 then t_X1_undo_l15 Z h (q 0) 0 else t_X1_undo_l15 Z h (q 0) 1 := by
    unfold t_X1_undo t_J2_isEmpty
    rw [gA_of (k := 1) c1 rfl, Option.bind_some, if_pos c2.isC, gI_of (k := 2) c2.1 rfl, Option.bind_some]
    by_cases z : n = 0
    · subst z; rfl
    · rw [if_neg (show ¬ Int32.ofNat n = 0 from fun y => z ((iEq (b := 0) (by omega) (by omega)).mp y)), if_neg z, Option.bind_some]
      rfl
  by_cases z : n = 0
  · subst z
    refine x1_no (H := hnew h (.inr (16, [])) 6) (v := -1) (c9 := 1) (nm := "java/lang/IllegalStateException") (a := h.2.1) c0 k k.new ((Fr.new (by omega)).up (by omega)) ?_ ?_ (by unfold cd1; rw [if_pos rfl]) (by decide)
    · rw [hx, if_pos rfl]
      unfold t_X1_undo_l15
      rw [state_no k (r.less (by omega)), Option.bind_some]
    · unfold t_X3_undo tpf
      rw [Option.bind_some]
      dsimp only
      rw [if_pos (show va_up s.1 12 0 5 = 0 by rw [vu_ne (by omega)]; exact c3.2)]
      show some (-1, sT (sT s 0) 1) = _
      rw [sT_sT]
  · obtain ⟨n, rfl⟩ : ∃ m, n = m + 1 := ⟨n - 1, by omega⟩
    rw [hx, if_neg z]
    obtain ⟨rt, et, t1, t2, t3, t4, t5, t6⟩ := tw_undo c3.2 (by omega)
    unfold t_X1_undo_l15
    rw [show t_X1_requireState Z h 1 = some (.inl (), h) from rfl, Option.bind_some]
    dsimp only
    have e1 : Int32.ofNat (n + 1) - 1 = Int32.ofNat n := by rw [show (1 : Int32) = Int32.ofNat 1 from rfl, iSub (by omega), Nat.add_sub_cancel]
    rw [gA_of (k := 1) c1 rfl, Option.bind_some, Option.bind_some, if_pos c2.isC, c2.size, Option.bind_some]
    dsimp only
    rw [if_pos c2.isC, e1]
    obtain ⟨r2, e2, p1, p2, p3, p4, p5⟩ := lst_remL k c2
    rw [e2, Option.bind_some, p1]
    have cn := c5 n (by omega)
    have p4' : Fr (fun x => x = q 0 ∨ x = q 1 ∨ x = e) h r2.2 0 := p4.mono (fun a _ z => Or.inr z) (Nat.le_refl _)
    have cn2 : crd Z r2.2 (av Rt q e) B (ps n) (fun i => s.2 4 (86 * n + i)) := cn.fr p4' (fun a _ z => Or.inr (by unfold wr; rcases z with z | z | z <;> simp [z]))
    have h20 : r2.2.1 (q 0) = h.1 (q 0) := p4.1 _ (ql1 0 (by omega)).1 (by rintro (z | z); exact ap1 0 1 (by omega) (by omega) (by omega) z; exact ap2 0 (by omega) z)
    rw [if_pos cn2.isC, pF_of (h20.trans c1) (Nat.le_of_ble_eq_true rfl) (c12 0 (by omega)), Option.bind_some]
    have f3 : Fr (fun x => x = q 0 ∨ x = q 1 ∨ x = e) h (hset r2.2 (q 0) (.inr (0, [Value.ref C, .ref (q 1), va_rf sv, va_rf lt, .ref (q 2), .int (s.1 11), .int (s.1 9), .ref (q 3)].set 0 (.ref (ps n))))) 0 := p4'.tr (Fr.set (S := fun x => x = q 0 ∨ x = q 1 ∨ x = e) (Or.inl rfl)) (fun a _ z => z)
    have k3 := p5.set (e := .inr (0, [Value.ref C, .ref (q 1), va_rf sv, va_rf lt, .ref (q 2), .int (s.1 11), .int (s.1 9), .ref (q 3)].set 0 (.ref (ps n)))) (c12 0 (by omega)) (by have := (ql1 0 (by omega)).1; have := p4.2.1; omega)
    have a3 : (hset r2.2 (q 0) (.inr (0, [Value.ref C, .ref (q 1), va_rf sv, va_rf lt, .ref (q 2), .int (s.1 11), .int (s.1 9), .ref (q 3)].set 0 (.ref (ps n))))).1 (q 0) = some (cEnt (ps n) q sv lt (s.1 11) (s.1 9)) := by rw [hset_at]; rfl
    have l3 := p2.keep (h' := hset r2.2 (q 0) (.inr (0, [Value.ref C, .ref (q 1), va_rf sv, va_rf lt, .ref (q 2), .int (s.1 11), .int (s.1 9), .ref (q 3)].set 0 (.ref (ps n))))) (hset_ne (ap1 1 0 (by omega) (by omega) (by omega))) (fun z => hset_ne (ap2 0 (by omega)).symm)
    generalize hset r2.2 (q 0) (.inr (0, [Value.ref C, .ref (q 1), va_rf sv, va_rf lt, .ref (q 2), .int (s.1 11), .int (s.1 9), .ref (q 3)].set 0 (.ref (ps n)))) = H3 at f3 k3 a3 l3
    rw [gA_of (k := 1) a3 rfl, Option.bind_some, if_pos l3.isC, l3.size, Option.bind_some]
    refine ⟨_, rt.1, rt.2, rfl, et, k3, (f3.wrN k c).up (by omega), ?_, Or.inl ⟨by rw [t1], t4⟩⟩
    refine c.root (H := H3) (C' := ps n) (sv' := sv) k f3 (by rw [t2 11 (by omega) (by omega), t2 9 (by omega) (by omega)]; exact a3) l3 ⟨by omega, t3⟩ (cn.cong t6) (fun j hj => by rw [t5 4 (by omega)]; exact c5 j (by omega)) ?_ (fun k hk => ?_) (t5 10 (by omega)) (t5 19 (by omega)) ?_
    · unfold svOk; rw [t2 3 (by omega) (by omega), t5 2 (by omega)]; exact c6
    · simp only [List.mem_cons, List.not_mem_nil, or_false] at hk
      exact t2 k (by omega) (by omega)
    · obtain ⟨tf, l, -, -, d1, d2⟩ := c8
      exact ⟨l, d1, by rw [t2 11 (by omega) (by omega)]; exact d2⟩
theorem co_save (k : hOk Z h) (r : Rm Z h 24) (c : cst Z Rt q B h s) : ∃ r s', t_X1_save Z h (q 0) = some r ∧ t_X3_save s = some (r.1, s') ∧ hOk Z r.2 ∧ Fr (fun a => ¬ Rt a) h r.2 24 ∧ cst Z Rt q B r.2 s' := by
  obtain ⟨C, sv, lt, mB, e, n, ps, c⟩ := c
  obtain ⟨rt, et, t1, t2, t3, t4, t5, t6⟩ := tw_save (s := s)
  have c4 := c.2.2.2.1
  obtain ⟨⟨C1, h1⟩, ec, e1, k1, f1, d1⟩ := c4.copy k r
  dsimp only at e1 k1 f1 d1
  subst e1
  have cR : cstR Z Rt q B h1 s C sv lt mB e n ps := c.ext k (f1.mono (fun _ _ z => z.elim) (Nat.le_refl _))
  obtain ⟨ql1, ql2, ql3⟩ := cR.qlt k1
  obtain ⟨ap1, ap2⟩ := cR.apart k1
  have hR : ∀ a, av Rt q e a → a < h.2.1 := by
    obtain ⟨ql1, ql2, ql3⟩ := c.qlt k
    intro a z
    rcases z with z | z
    · exact (c.2.2.2.2.2.2.2.2.2.1 a z).1
    · unfold wr at z
      rcases z with z | z | z | z | z | z
      · rw [z]; exact (ql1 0 (by omega)).1
      · rw [z]; exact (ql1 1 (by omega)).1
      · rw [z]; exact (ql1 2 (by omega)).1
      · rw [z]; exact (ql1 3 (by omega)).1
      · rw [z]; exact (ql1 4 (by omega)).1
      · by_cases z9 : z0 Z ≤ e
        · rw [z]; exact ql2 z9
        · have := k.1; omega
  have cn : crd Z h1 (av Rt q e) B h.2.1 (s.2 0) := crd.of c4.1 d1 hR
  obtain ⟨c1, c2, c3, c4, c5, c6, c7, c8, c9, c11, c12⟩ := id cR
  have f3 : Fr (fun x => x = q 0 ∨ x = q 1 ∨ x = e) h1 (hset h1 (q 0) (.inr (0, [Value.ref C, .ref (q 1), va_rf sv, va_rf lt, .ref (q 2), .int (s.1 11), .int (s.1 9), .ref (q 3)].set 2 (.ref h.2.1)))) 0 := Fr.set (S := fun x => x = q 0 ∨ x = q 1 ∨ x = e) (Or.inl rfl)
  have k3 := k1.set (e := .inr (0, [Value.ref C, .ref (q 1), va_rf sv, va_rf lt, .ref (q 2), .int (s.1 11), .int (s.1 9), .ref (q 3)].set 2 (.ref h.2.1))) (c12 0 (by omega)) (ql1 0 (by omega)).1
  have a3 : (hset h1 (q 0) (.inr (0, [Value.ref C, .ref (q 1), va_rf sv, va_rf lt, .ref (q 2), .int (s.1 11), .int (s.1 9), .ref (q 3)].set 2 (.ref h.2.1)))).1 (q 0) = some (cEnt C q (some h.2.1) lt (s.1 11) (s.1 9)) := by rw [hset_at]; rfl
  have l3 := c2.keep (h' := hset h1 (q 0) (.inr (0, [Value.ref C, .ref (q 1), va_rf sv, va_rf lt, .ref (q 2), .int (s.1 11), .int (s.1 9), .ref (q 3)].set 2 (.ref h.2.1)))) (hset_ne (ap1 1 0 (by omega) (by omega) (by omega))) (fun z => hset_ne (ap2 0 (by omega)).symm)
  have cC3 := c4.fr f3 (fun a _ z => Or.inr (by unfold wr; rcases z with z | z | z <;> simp [z]))
  obtain ⟨V, v1, v2, v3⟩ := crd_vsize cC3
  have ex : t_X1_save Z h (q 0) = some (s.2 0 1, hset h1 (q 0) (.inr (0, [Value.ref C, .ref (q 1), va_rf sv, va_rf lt, .ref (q 2), .int (s.1 11), .int (s.1 9), .ref (q 3)].set 2 (.ref h.2.1)))) := by
    unfold t_X1_save
    rw [gA_of (k := 0) c.1 rfl, Option.bind_some, if_pos c.2.2.2.1.isC, ec, Option.bind_some]
    dsimp only
    rw [pF_of c1 (Nat.le_of_ble_eq_true rfl) (c12 0 (by omega)), Option.bind_some, gA_of (k := 0) a3 rfl, Option.bind_some, v1, Option.bind_some, if_pos v2, v3, Option.bind_some]
  generalize hset h1 (q 0) (.inr (0, [Value.ref C, .ref (q 1), va_rf sv, va_rf lt, .ref (q 2), .int (s.1 11), .int (s.1 9), .ref (q 3)].set 2 (.ref h.2.1))) = H3 at f3 k3 a3 l3 ex
  refine ⟨(s.2 0 1, H3), rt.2, ex, by rw [et, ← t1], k3, (f1.nRt.tr' (f3.wrN k1 cR)).up (by omega), ?_⟩
  refine cR.root (H := H3) (C' := C) (sv' := some h.2.1) k1 f3 (by rw [t2 11 (by omega) (by omega), t2 9 (by omega) (by omega)]; exact a3) l3 ⟨c3.1, by rw [t2 5 (by omega) (by omega)]; exact c3.2⟩ (by rw [t5 0 (by omega)]; exact c4) (fun j hj => by rw [t5 4 (by omega)]; exact c5 j (by omega)) ?_ (fun k hk => ?_) (t5 10 (by omega)) (t5 19 (by omega)) ?_
  · exact Or.inr ⟨_, rfl, t3, cn.cong t6⟩
  · simp only [List.mem_cons, List.not_mem_nil, or_false] at hk
    exact t2 k (by omega) (by omega)
  · obtain ⟨tf, l, -, -, d1, d2⟩ := c8
    exact ⟨l, d1, by rw [t2 11 (by omega) (by omega)]; exact d2⟩
end un
