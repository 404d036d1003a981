/-! the component and the twin's numbers -/
set_option maxRecDepth 100000
def wr (q : Nat → Nat) (e a : Nat) : Prop := a = q 0 ∨ a = q 1 ∨ a = q 2 ∨ a = q 3 ∨ a = q 4 ∨ a = e
def av (Rt : Nat → Prop) (q : Nat → Nat) (e a : Nat) : Prop := Rt a ∨ wr q e a
/-- a core that no one writes any more -/
def crd (Z : aZ) (h : aH) (R : Nat → Prop) (B C : Nat) (m : Nat → Int32) : Prop := wfm B m ∧ ∃ lo hi, coreIn Z h lo hi C m ∧ ∀ a, lo ≤ a → a < hi → ¬ R a
section crd
variable {Z : aZ} {h h' : aH} {R R' : Nat → Prop} {B B' C : Nat} {m m' : Nat → Int32}
theorem crd.fr (c : crd Z h R B C m) {S : Nat → Prop} {u : Nat} (f : Fr S h h' u) (hs : ∀ a, a < h.2.1 → S a → R a) : crd Z h' R B C m := by
  obtain ⟨w, lo, hi, c, hR⟩ := c
  exact ⟨w, lo, hi, c.ext f (fun a q1 q2 z => hR a q1 q2 (hs a (by have := c.bd; omega) z)), hR⟩
theorem crd.av (c : crd Z h R B C m) (hs : ∀ a, a < h.2.1 → R' a → R a) : crd Z h R' B C m := by
  obtain ⟨w, lo, hi, c, hR⟩ := c
  exact ⟨w, lo, hi, c, fun a q1 q2 z => hR a q1 q2 (hs a (by have := c.bd; omega) z)⟩
theorem crd.mono (c : crd Z h R B C m) (hB : B ≤ B') : crd Z h R B' C m := ⟨c.1.mono hB, c.2⟩
theorem coreIn.cong {lo hi : Nat} (c : coreIn Z h lo hi C m) (hm : ∀ i, i < 86 → m' i = m i) : coreIn Z h lo hi C m' := by
  obtain ⟨L, G, V, eG, eV, gs, vs, ng, nv, mG, mV, c⟩ := c
  exact ⟨L, G, V, eG, eV, gs, vs, ng, nv, mG, mV, c.cong (fun i _ q => hm i q)⟩
theorem crd.cong (c : crd Z h R B C m) (hm : ∀ i, i < 86 → m' i = m i) : crd Z h R B C m' := by
  obtain ⟨w, lo, hi, c, hR⟩ := c
  exact ⟨w.cong hm, lo, hi, c.cong hm, hR⟩
theorem crd.of {lo : Nat} (w : wfm B m) (c : coreIn Z h lo h.2.1 C m) (hR : ∀ a, R a → a < lo) : crd Z h R B C m := ⟨w, lo, h.2.1, c, fun a q1 _ z => by have := hR a z; omega⟩
theorem crd.isC (c : crd Z h R B C m) : isC 1 h C = true := by
  obtain ⟨w, lo, hi, c, hR⟩ := c
  exact c.isC
theorem crd.ent (c : crd Z h R B C m) : ∃ fs, h.1 C = some (.inr (1, fs)) := by
  obtain ⟨w, lo, hi, ⟨L, G, V, eG, eV, gs, vs, ng, nv, mG, mV, c⟩, hR⟩ := c
  exact ⟨_, c.1⟩
end crd
abbrev cEnt (C : Nat) (q : Nat → Nat) (sv lt : Option Nat) (len flt : Int32) : va_E := .inr (0, [.ref C, .ref (q 1), va_rf sv, va_rf lt, .ref (q 2), .int len, .int flt, .ref (q 3)])
def sbAt (Z : aZ) (h : aH) (W Wv : Nat) (mb : Int32) (N : Nat) (f : Nat → Int32) : Prop := h.1 W = some (.inr (10, [.ref Wv, .int 0, .int mb, .int (Int32.ofNat N)])) ∧ h.1 Wv = some (.inl (zB Z, 16, .inl f))
def svOk (Z : aZ) (h : aH) (R : Nat → Prop) (B : Nat) (s : tS) (sv : Option Nat) : Prop := (sv = none ∧ s.1 3 = 0) ∨ ∃ S, sv = some S ∧ s.1 3 = 1 ∧ crd Z h R B S (s.2 2)
def ltOk (h : aH) (Rt : Nat → Prop) (s : tS) (lt : Option Nat) : Prop := (lt = none ∧ s.1 6 = 0) ∨ ∃ a, lt = some a ∧ ¬ Rt a ∧ s.1 6 ≠ 0 ∧ h.1 a = some (rfs (s.1 6) (s.1 7) (s.1 8))
def txOk (Z : aZ) (h : aH) (q : Nat → Nat) (s : tS) : Prop := ∃ tf l, h.1 (q 2) = some (.inl (zC Z, 60, .inl tf)) ∧ (∀ i, i < 60 → tf i = s.2 10 i) ∧ l ≤ 60 ∧ s.1 11 = Int32.ofNat l
def lnOk (Z : aZ) (h : aH) (q : Nat → Nat) (s : tS) : Prop := ∃ mb N wf, sbAt Z h (q 3) (q 4) mb N wf ∧ N ≤ 16 ∧ s.1 20 = Int32.ofNat N ∧ ∀ i, i < N → wf i = s.2 19 i ∧ 0 ≤ s.2 19 i ∧ s.2 19 i < 128
def cstR (Z : aZ) (Rt : Nat → Prop) (q : Nat → Nat) (B : Nat) (h : aH) (s : tS) (C : Nat) (sv lt : Option Nat) (mB : Int32) (e n : Nat) (ps : Nat → Nat) : Prop :=
  h.1 (q 0) = some (cEnt C q sv lt (s.1 11) (s.1 9)) ∧
  lstAt Z h (q 1) mB e n ps ∧ (n ≤ 8 ∧ s.1 5 = Int32.ofNat n) ∧
  crd Z h (av Rt q e) B C (s.2 0) ∧
  (∀ j, j < n → crd Z h (av Rt q e) B (ps j) (fun i => s.2 4 (86 * j + i))) ∧
  svOk Z h (av Rt q e) B s sv ∧ ltOk h Rt s lt ∧ txOk Z h q s ∧ lnOk Z h q s ∧
  (∀ a, Rt a → a < h.2.1 ∧ ¬ wr q e a) ∧ ∀ i, i < 5 → z0 Z ≤ q i
def cst (Z : aZ) (Rt : Nat → Prop) (q : Nat → Nat) (B : Nat) (h : aH) (s : tS) : Prop := ∃ (C : Nat) (sv lt : Option Nat) (mB : Int32) (e n : Nat) (ps : Nat → Nat), cstR Z Rt q B h s C sv lt mB e n ps
section cst
variable {Z : aZ} {h h' : aH} {Rt : Nat → Prop} {q : Nat → Nat} {B B' : Nat} {s s' : tS} {C : Nat} {sv lt : Option Nat} {mB : Int32} {e n : Nat} {ps : Nat → Nat}
theorem cstR.qlt (k : hOk Z h) (c : cstR Z Rt q B h s C sv lt mB e n ps) : (∀ i, i < 5 → q i < h.2.1 ∧ ¬ Rt (q i)) ∧ (z0 Z ≤ e → e < h.2.1) ∧ ¬ Rt e := by
  obtain ⟨c1, c2, c3, c4, c5, c6, c7, ⟨tf, l, c8, -⟩, ⟨mb, N, wf, ⟨c9, c10⟩, -⟩, c11, c12⟩ := c
  refine ⟨fun i hi => ⟨?_, fun z => (c11 _ z).2 ?_⟩, fun z => ?_, fun z => (c11 _ z).2 (by unfold wr; omega)⟩
  · rcases (show i = 0 ∨ i = 1 ∨ i = 2 ∨ i = 3 ∨ i = 4 by omega) with rfl | rfl | rfl | rfl | rfl
    · exact k.2.1 _ _ c1
    · exact k.2.1 _ _ c2.1
    · exact k.2.1 _ _ c8
    · exact k.2.1 _ _ c9
    · exact k.2.1 _ _ c10
  · unfold wr
    rcases (show i = 0 ∨ i = 1 ∨ i = 2 ∨ i = 3 ∨ i = 4 by omega) with rfl | rfl | rfl | rfl | rfl <;> simp
  · rcases c2.2.2 with ⟨g, -⟩ | ⟨-, -, f, g, -⟩
    · have := k.2.2.1; omega
    · exact k.2.1 _ _ g
/-- the roots are all apart -/
theorem cstR.apart (k : hOk Z h) (c : cstR Z Rt q B h s C sv lt mB e n ps) : (∀ i j, i < 5 → j < 5 → i ≠ j → q i ≠ q j) ∧ ∀ i, i < 5 → q i ≠ e := by
  obtain ⟨c1, c2, c3, c4, c5, c6, c7, ⟨tf, l, c8, -⟩, ⟨mb, N, wf, ⟨c9, c10⟩, -⟩, c11, c12⟩ := c
  have n01 : q 0 ≠ q 1 := ent_ne c1 c2.1 (fun z => by cases z)
  have n02 : q 0 ≠ q 2 := ent_ne c1 c8 (fun z => by cases z)
  have n03 : q 0 ≠ q 3 := ent_ne c1 c9 (fun z => by cases z)
  have n04 : q 0 ≠ q 4 := ent_ne c1 c10 (fun z => by cases z)
  have n12 : q 1 ≠ q 2 := ent_ne c2.1 c8 (fun z => by cases z)
  have n13 : q 1 ≠ q 3 := ent_ne c2.1 c9 (fun z => by cases z)
  have n14 : q 1 ≠ q 4 := ent_ne c2.1 c10 (fun z => by cases z)
  have n23 : q 2 ≠ q 3 := ent_ne c8 c9 (fun z => by cases z)
  have n24 : q 2 ≠ q 4 := ent_ne c8 c10 (fun z => by
    have e1 : (60 : Nat) = 16 := by injection z with z; injection z with z1 z2; injection z2
    exact absurd e1 (by decide))
  have n34 : q 3 ≠ q 4 := ent_ne c9 c10 (fun z => by cases z)
  refine ⟨fun i j hi hj hij => ?_, fun i hi => ?_⟩
  · rcases (show i = 0 ∨ i = 1 ∨ i = 2 ∨ i = 3 ∨ i = 4 by omega) with rfl | rfl | rfl | rfl | rfl <;> rcases (show j = 0 ∨ j = 1 ∨ j = 2 ∨ j = 3 ∨ j = 4 by omega) with rfl | rfl | rfl | rfl | rfl <;> first | exact absurd rfl hij | assumption | (exact Ne.symm ‹_›)
  · rcases c2.2.2 with ⟨g, -⟩ | ⟨-, -, f, g, -⟩
    · have h1 := k.2.2.1
      have h2 := c12 i hi
      omega
    · rcases (show i = 0 ∨ i = 1 ∨ i = 2 ∨ i = 3 ∨ i = 4 by omega) with rfl | rfl | rfl | rfl | rfl
      · exact ent_ne c1 g (fun z => by cases z)
      · exact ent_ne c2.1 g (fun z => by cases z)
      · exact ent_ne c8 g (fun z => ia_ne z)
      · exact ent_ne c9 g (fun z => by cases z)
      · exact ent_ne c10 g (fun z => ia_ne z)
theorem svOk.fr {R : Nat → Prop} (c : svOk Z h R B s sv) {S : Nat → Prop} {u : Nat} (f : Fr S h h' u) (hs : ∀ a, a < h.2.1 → S a → R a) : svOk Z h' R B s sv := by
  rcases c with c | ⟨S9, c1, c2, c3⟩
  · exact Or.inl c
  · exact Or.inr ⟨S9, c1, c2, c3.fr f hs⟩
/-- only what is written elsewhere changes -/
theorem cstR.ext (k : hOk Z h) (c : cstR Z Rt q B h s C sv lt mB e n ps) {u : Nat} (f : Fr Rt h h' u) : cstR Z Rt q B h' s C sv lt mB e n ps := by
  obtain ⟨h1, h2, h3⟩ := c.qlt k
  obtain ⟨c1, c2, c3, c4, c5, c6, c7, ⟨tf, l, c8, c8'⟩, ⟨mb, N, wf, ⟨c9, c10⟩, c10'⟩, c11, c12⟩ := c
  have hq : ∀ i, i < 5 → h'.1 (q i) = h.1 (q i) := fun i hi => f.1 _ (h1 i hi).1 (h1 i hi).2
  refine ⟨by rw [hq 0 (by omega)]; exact c1, c2.keep (hq 1 (by omega)) (fun z => f.1 _ (h2 z) h3), c3, c4.fr f (fun a _ z => Or.inl z), fun j hj => (c5 j hj).fr f (fun a _ z => Or.inl z), c6.fr f (fun a _ z => Or.inl z), ?_, ⟨tf, l, by rw [hq 2 (by omega)]; exact c8, c8'⟩, ⟨mb, N, wf, ⟨by rw [hq 3 (by omega)]; exact c9, by rw [hq 4 (by omega)]; exact c10⟩, c10'⟩, fun a z => ⟨by have := (c11 a z).1; have := f.2.1; omega, (c11 a z).2⟩, c12⟩
  rcases c7 with c7 | ⟨a, d1, d2, d3, d4⟩
  · exact Or.inl c7
  · exact Or.inr ⟨a, d1, d2, d3, by rw [f.1 a (k.2.1 _ _ d4) d2]; exact d4⟩
theorem cst.ext (k : hOk Z h) (c : cst Z Rt q B h s) {u : Nat} (f : Fr Rt h h' u) : cst Z Rt q B h' s := by
  obtain ⟨C, sv, lt, mB, e, n, ps, c⟩ := c
  exact ⟨C, sv, lt, mB, e, n, ps, c.ext k f⟩
theorem cst.grow (k : hOk Z h) (c : cst Z Rt q B h s) {u : Nat} (f : Fr non h h' u) : cst Z Rt q B h' s := c.ext k (f.mono (fun _ _ z => z.elim) (Nat.le_refl _))
theorem cstR.mono (c : cstR Z Rt q B h s C sv lt mB e n ps) (hB : B ≤ B') : cstR Z Rt q B' h s C sv lt mB e n ps := by
  obtain ⟨c1, c2, c3, c4, c5, c6, c7, c8⟩ := c
  refine ⟨c1, c2, c3, c4.mono hB, fun j hj => (c5 j hj).mono hB, ?_, c7, c8⟩
  rcases c6 with c6 | ⟨S, d1, d2, d3⟩
  · exact Or.inl c6
  · exact Or.inr ⟨S, d1, d2, d3.mono hB⟩
theorem cst.mono (c : cst Z Rt q B h s) (hB : B ≤ B') : cst Z Rt q B' h s := by
  obtain ⟨C, sv, lt, mB, e, n, ps, c⟩ := c
  exact ⟨C, sv, lt, mB, e, n, ps, c.mono hB⟩
/-- what the component shows of the twin's numbers is as it was -/
def vEq (s s' : tS) : Prop := (∀ k, k ∈ [3, 5, 6, 7, 8, 9, 11, 20] → s'.1 k = s.1 k) ∧ s'.2 2 = s.2 2 ∧ s'.2 4 = s.2 4 ∧ s'.2 10 = s.2 10 ∧ s'.2 19 = s.2 19 ∧ ∀ i, i < 86 → s'.2 0 i = s.2 0 i
theorem cst.cong (c : cst Z Rt q B h s) (v : vEq s s') : cst Z Rt q B h s' := by
  obtain ⟨C, sv, lt, mB, e, n, ps, c1, c2, c3, c4, c5, c6, c7, c8, c9, c10⟩ := c
  obtain ⟨v1, v2, v3, v4, v5, v6⟩ := v
  refine ⟨C, sv, lt, mB, e, n, ps, by rw [v1 11 (by decide), v1 9 (by decide)]; exact c1, c2, by rw [v1 5 (by decide)]; exact c3, c4.cong v6, fun j hj => by rw [v3]; exact c5 j hj, ?_, ?_, ?_, ?_, c10⟩
  · unfold svOk; rw [v1 3 (by decide), v2]; exact c6
  · unfold ltOk; rw [v1 6 (by decide), v1 7 (by decide), v1 8 (by decide)]; exact c7
  · unfold txOk; rw [v4, v1 11 (by decide)]; exact c8
  · unfold lnOk; rw [v5, v1 20 (by decide)]; exact c9
/-- after a change: the row, and the rows of before -/
def chg (s s' : tS) (m' : Nat → Int32) : Prop := (∀ k, k ∈ [3, 6, 7, 8, 9, 11, 20] → s'.1 k = s.1 k) ∧ s'.2 2 = s.2 2 ∧ s'.2 10 = s.2 10 ∧ s'.2 19 = s.2 19 ∧ (∀ i, i < 86 → s'.2 0 i = m' i) ∧
  ∀ n, s.1 5 = Int32.ofNat n → n ≤ 8 → (n = 8 → s'.1 5 = 8 ∧ (∀ j i, j < 7 → i < 86 → s'.2 4 (86 * j + i) = s.2 4 (86 * (j + 1) + i)) ∧ ∀ i, i < 86 → s'.2 4 (86 * 7 + i) = s.2 0 i) ∧ (n < 8 → s'.1 5 = Int32.ofNat (n + 1) ∧ (∀ j i, j < n → i < 86 → s'.2 4 (86 * j + i) = s.2 4 (86 * j + i)) ∧ ∀ i, i < 86 → s'.2 4 (86 * n + i) = s.2 0 i)
theorem co_come {C' : Nat} {m' : Nat → Int32} {v : Int32} (k : hOk Z h) (r : Rm Z h 1) (c : cstR Z Rt q B h s C sv lt mB e n ps) (hB : B ≤ B') (cn : crd Z h (av Rt q e) B' C' m') : Ok (t_X1_come Z h (q 0) C' v) (fun r => r.1 = v ∧ hOk Z r.2 ∧ Fr (fun a => ¬ Rt a) h r.2 1 ∧ ∀ s', chg s s' m' → cst Z Rt q B' r.2 s') := by
  obtain ⟨ql1, ql2, ql3⟩ := c.qlt k
  obtain ⟨ap1, ap2⟩ := c.apart k
  obtain ⟨c1, c2, c3, c4, c5, c6, c7, ⟨tf, l, c8, c8'⟩, ⟨mb, N, wf, ⟨c9, c10⟩, c10'⟩, c11, c12⟩ := id c
  unfold t_X1_come
  rw [gA_of (k := 1) c1 rfl, Option.bind_some, if_pos c2.isC, c2.size, Option.bind_some]
  dsimp only
  -- the common tail
  have tail : ∀ (H : aH) (n0 : Nat) (qs : Nat → Nat) (mB' : Int32), hOk Z H → Fr (fun x => x = q 1 ∨ x = e) h H 0 → lstAt Z H (q 1) mB' e n0 qs → n0 < 8 → (∀ s', chg s s' m' → s'.1 5 = Int32.ofNat (n0 + 1) ∧ (∀ j, j < n0 → crd Z h (av Rt q e) B (qs j) (fun i => s'.2 4 (86 * j + i))) ∧ ∀ i, i < 86 → s'.2 4 (86 * n0 + i) = s.2 0 i) →
      Ok (t_X1_come_l21 Z H (q 0) C' v) (fun r => r.1 = v ∧ hOk Z r.2 ∧ Fr (fun a => ¬ Rt a) h r.2 1 ∧ ∀ s', chg s s' m' → cst Z Rt q B' r.2 s') := by
    intro H n0 qs mB' kH fH lH hn0 hs
    have hH0 : H.1 (q 0) = h.1 (q 0) := fH.1 _ (ql1 0 (by omega)).1 (by rintro (z | z); exact ap1 0 1 (by omega) (by omega) (by omega) z; exact ap2 0 (by omega) z)
    unfold t_X1_come_l21
    rw [gA_of (k := 1) (hH0.trans c1) rfl, Option.bind_some, gA_of (k := 0) (hH0.trans c1) rfl, Option.bind_some, if_pos lH.isC]
    have cH : crd Z H (av Rt q e) B C (s.2 0) := c4.fr fH (fun a _ z => Or.inr (by unfold wr; rcases z with z | z <;> simp [z]))
    obtain ⟨fs, hfs⟩ := cH.ent
    obtain ⟨r3, e3, e', p1, p2, p3, p4, p5⟩ := lst_add1 kH (Rm.after (u := 0) (v := 1) r fH) lH (by omega) hfs
    rw [e3, Option.bind_some]
    have f2 : Fr (fun x => x = q 1 ∨ x = e) h r3.2 1 := fH.tr p4 (fun a _ z => by rcases z with z | ⟨z, -⟩; exact Or.inl z; exact Or.inr z)
    have h30 : r3.2.1 (q 0) = h.1 (q 0) := f2.1 _ (ql1 0 (by omega)).1 (by rintro (z | z); exact ap1 0 1 (by omega) (by omega) (by omega) z; exact ap2 0 (by omega) z)
    have q0l : q 0 < r3.2.2.1 := by have := (ql1 0 (by omega)).1; have := f2.2.1; omega
    rw [pF_of (h30.trans c1) (Nat.le_of_ble_eq_true rfl) (c12 0 (by omega)), Option.bind_some]
    have hhl : h.2.1 ≤ r3.2.2.1 := f2.2.1
    have f3 : Fr (fun x => x = q 0 ∨ x = q 1 ∨ x = e) h (hset r3.2 (q 0) (.inr (0, [Value.ref C, .ref (q 1), va_rf sv, va_rf lt, .ref (q 2), .int (s.1 11), .int (s.1 9), .ref (q 3)].set 0 (.ref C')))) 1 := (f2.mono (fun a _ z => Or.inr z) (Nat.le_refl _)).tr (Fr.set (S := fun x => x = q 0 ∨ x = q 1 ∨ x = e) (Or.inl rfl)) (fun a _ z => z)
    have k3 := p5.set (e := .inr (0, [Value.ref C, .ref (q 1), va_rf sv, va_rf lt, .ref (q 2), .int (s.1 11), .int (s.1 9), .ref (q 3)].set 0 (.ref C'))) (c12 0 (by omega)) q0l
    have a3 : (hset r3.2 (q 0) (.inr (0, [Value.ref C, .ref (q 1), va_rf sv, va_rf lt, .ref (q 2), .int (s.1 11), .int (s.1 9), .ref (q 3)].set 0 (.ref C')))).1 (q 0) = some (cEnt C' q sv lt (s.1 11) (s.1 9)) := by rw [hset_at]; rfl
    have he'0 : z0 Z ≤ e' → e' ≠ q 0 := by
      intro z
      rcases p3 with ⟨z1, z2⟩ | z1
      · rw [z1]; exact (ap2 0 (by omega)).symm
      · have := (ql1 0 (by omega)).1; have := fH.2.1; omega
    have l3 : lstAt Z (hset r3.2 (q 0) (.inr (0, [Value.ref C, .ref (q 1), va_rf sv, va_rf lt, .ref (q 2), .int (s.1 11), .int (s.1 9), .ref (q 3)].set 0 (.ref C')))) (q 1) (mB' + 1) e' (n0 + 1) (va_up qs n0 C) := p2.keep (hset_ne (ap1 1 0 (by omega) (by omega) (by omega))) (fun z => hset_ne (he'0 z))
    generalize hset r3.2 (q 0) (.inr (0, [Value.ref C, .ref (q 1), va_rf sv, va_rf lt, .ref (q 2), .int (s.1 11), .int (s.1 9), .ref (q 3)].set 0 (.ref C'))) = H3 at f3 k3 a3 l3
    refine Ok.ret ⟨rfl, k3, f3.mono (fun a _ z => ?_) (by omega), fun s' cg => ?_⟩
    · intro z9
      rcases z with z | z | z
      · exact (ql1 0 (by omega)).2 (z ▸ z9)
      · exact (ql1 1 (by omega)).2 (z ▸ z9)
      · exact ql3 (z ▸ z9)
    · obtain ⟨s1, s2, s3⟩ := hs s' cg
      obtain ⟨g1, g2, g3, g4, g5, -⟩ := cg
      -- e' is e or new
      have hav : ∀ a, a < h.2.1 → av Rt q e' a → av Rt q e a := by
        intro a ha z
        rcases z with z | z
        · exact Or.inl z
        · refine Or.inr ?_
          unfold wr at z ⊢
          rcases z with z | z | z | z | z | z
          · simp [z]
          · simp [z]
          · simp [z]
          · simp [z]
          · simp [z]
          · rcases p3 with ⟨z1, -⟩ | z1
            · rw [z, z1]; simp
            · have := fH.2.1; omega
      have hto : ∀ {B9 C9 : Nat} {m9 : Nat → Int32}, crd Z h (av Rt q e) B9 C9 m9 → crd Z H3 (av Rt q e') B9 C9 m9 := by
        intro B9 C9 m9 c9
        obtain ⟨w, lo, hi, d, hR⟩ := c9
        have hd := d.bd
        refine ⟨w, lo, hi, d.ext f3 (fun a z1 z2 z => hR a z1 z2 (Or.inr ?_)), fun a z1 z2 z => hR a z1 z2 (hav a (by omega) z)⟩
        unfold wr
        rcases z with z | z | z <;> simp [z]
      have hk : ∀ i, i < 5 → i ≠ 0 → i ≠ 1 → H3.1 (q i) = h.1 (q i) := fun i hi z0 z1 => f3.1 _ (ql1 i hi).1 (by
        rintro (z | z | z)
        · exact ap1 i 0 hi (by omega) z0 z
        · exact ap1 i 1 hi (by omega) z1 z
        · exact ap2 i hi z)
      refine ⟨C', sv, lt, mB' + 1, e', n0 + 1, va_up qs n0 C, by rw [g1 11 (by decide), g1 9 (by decide)]; exact a3, l3, ⟨by omega, s1⟩, (hto cn).cong g5, fun j hj => ?_, ?_, ?_, ?_, ?_, fun a z => ⟨show a < H3.2.1 by have := (c11 a z).1; have := f3.2.1; omega, fun z9 => ?_⟩, c12⟩
      · by_cases z : j = n0
        · subst z
          rw [vu_eq]
          exact ((hto c4).mono hB).cong (fun i hi => s3 i hi)
        · rw [vu_ne z]
          exact (hto (s2 j (by omega))).mono hB
      · unfold svOk
        rw [g1 3 (by decide), g2]
        rcases c6 with c6 | ⟨S, d1, d2, d3⟩
        · exact Or.inl c6
        · exact Or.inr ⟨S, d1, d2, (hto d3).mono hB⟩
      · unfold ltOk
        rw [g1 6 (by decide), g1 7 (by decide), g1 8 (by decide)]
        rcases c7 with c7 | ⟨a, d1, d2, d3, d4⟩
        · exact Or.inl c7
        · refine Or.inr ⟨a, d1, d2, d3, ?_⟩
          rw [f3.1 a (k.2.1 _ _ d4) ?_]
          · exact d4
          · rintro (z | z | z)
            · exact absurd z (ent_ne d4 c1 (fun z => by cases z))
            · exact absurd z (ent_ne d4 c2.1 (fun z => by cases z))
            · rcases c2.2.2 with ⟨z1, -⟩ | ⟨-, -, f, z1, -⟩
              · have h9 : h.1 e = some (.inl (zO Z, 0, .inr (.inr (.inr (.inr fun _ => none))))) := by rw [z1]; exact k.2.2.2
                exact absurd z (ent_ne d4 h9 (fun z => by cases z))
              · exact absurd z (ent_ne d4 z1 (fun z => by cases z))
      · exact ⟨tf, l, by rw [hk 2 (by omega) (by omega) (by omega)]; exact c8, by rw [g3, g1 11 (by decide)]; exact c8'⟩
      · exact ⟨mb, N, wf, ⟨by rw [hk 3 (by omega) (by omega) (by omega)]; exact c9, by rw [hk 4 (by omega) (by omega) (by omega)]; exact c10⟩, by rw [g4, g1 20 (by decide)]; exact c10'⟩
      · rcases hav a (c11 a z).1 (Or.inr z9) with z8 | z8
        · rcases p3 with ⟨z1, -⟩ | z1
          · rw [z1] at z9; exact (c11 a z).2 z9
          · unfold wr at z9
            rcases z9 with z7 | z7 | z7 | z7 | z7 | z7
            · exact (c11 a z).2 (by unfold wr; simp [z7])
            · exact (c11 a z).2 (by unfold wr; simp [z7])
            · exact (c11 a z).2 (by unfold wr; simp [z7])
            · exact (c11 a z).2 (by unfold wr; simp [z7])
            · exact (c11 a z).2 (by unfold wr; simp [z7])
            · have := (c11 a z).1; have := fH.2.1; omega
        · exact (c11 a z).2 z8
  by_cases h8 : n = 8
  · subst h8
    rw [if_pos (by rfl), gA_of (k := 1) c1 rfl, Option.bind_some, if_pos c2.isC]
    obtain ⟨r2, e2, p1, p2, p3, p4, p5⟩ := lst_rem0 (n := 6) k c2 (fun j hj => (c5 j hj).isC)
    rw [e2, Option.bind_some]
    refine tail r2.2 7 (fun j => ps (j + 1)) (mB + 1) p5 p4 p2 (by omega) (fun s' cg => ?_)
    obtain ⟨-, -, -, -, -, g6⟩ := cg
    obtain ⟨g7, g8, g9⟩ := (g6 8 c3.2 (by omega)).1 rfl
    exact ⟨g7, fun j hj => (c5 (j + 1) (by omega)).cong (fun i hi => g8 j i hj hi), g9⟩
  · rw [if_neg (show ¬ Int32.ofNat n = 8 from fun z => h8 ((iEq (b := 8) (by omega) (by omega)).mp z))]
    refine tail h n ps mB k Fr.rf c2 (by omega) (fun s' cg => ?_)
    obtain ⟨-, -, -, -, -, g6⟩ := cg
    obtain ⟨g7, g8, g9⟩ := (g6 n c3.2 c3.1).2 (by omega)
    exact ⟨g7, fun j hj => (c5 j hj).cong (fun i hi => g8 j i hj hi), g9⟩
end cst
