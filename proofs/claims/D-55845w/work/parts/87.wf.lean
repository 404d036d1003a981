/-! the row's invariant is kept -/
set_option maxRecDepth 100000
def spW (B : Nat) (sp : spR) : Prop := ∀ v m', sp = .inl (v, m') → wfm B m'
section wf
variable {m m' : Nat → Int32} {B B' ng ng' nv nv' : Nat}
theorem spW.inr {x : Int32 × Int32} : spW B (.inr x) := fun _ _ q => by cases q
theorem spW.ite {c : Prop} [Decidable c] {x y : spR} (h1 : c → spW B x) (h2 : ¬ c → spW B y) : spW B (if c then x else y) := by
  by_cases h : c
  · rw [if_pos h]; exact h1 h
  · rw [if_neg h]; exact h2 h
theorem spW.inl {v : Int32} (h : wfm B m) : spW B (.inl (v, m)) := fun _ _ q => by cases q; exact h
theorem wfv.cong {j : Nat} (w : wfv B ng m j) (h : ∀ i, 1 ≤ i → i < 8 → m' (46 + 8 * j + i) = m (46 + 8 * j + i)) (hB : B ≤ B') (hn : ng ≤ ng') : wfv B' ng' m' j := by
  obtain ⟨c, hr, al, h1, h2, h3, h4, h5, h6, h7, h8⟩ := w
  refine ⟨c, hr, al, h1, by omega, h3, by rw [h 1 (by omega) (by omega)]; exact h4, by rw [h 2 (by omega) (by omega)]; exact h5, by rw [h 3 (by omega) (by omega)]; exact h6, by rw [h 7 (by omega) (by omega)]; exact h7, ?_⟩
  rw [h 4 (by omega) (by omega), h 5 (by omega) (by omega), h 6 (by omega) (by omega)]
  rcases h8 with h8 | ⟨g, rt, g1, g2⟩
  · exact Or.inl h8
  · exact Or.inr ⟨g, rt, by omega, g2⟩
theorem wfn.of (w : wfn B ng nv m) (h0 : m' 0 = m 0) (h1 : m' 1 = m 1) (hl : ∀ k, k < 24 → ∃ x, x ≤ 9 ∧ m' (6 + k) = Int32.ofNat x) (h2 : m' 2 = -1 ∨ ∃ c, c < 16 ∧ m' 2 = Int32.ofNat c) (hg : ∀ j, j < ng → ∃ x, x ≤ B' ∧ m' (30 + 4 * j) = Int32.ofNat x) (hv : ∀ j, j < nv → wfv B' ng m' j) (hz1 : ∀ j i, ng ≤ j → j < 4 → i < 4 → m' (30 + 4 * j + i) = m (30 + 4 * j + i)) (hz2 : ∀ j i, nv ≤ j → j < 5 → i < 8 → m' (46 + 8 * j + i) = m (46 + 8 * j + i)) : wfm B' m' := by
  obtain ⟨w1, w2, w3, w4, w5, w6, w7, w8, w9, w10⟩ := w
  exact ⟨ng, nv, h0.trans w1, h1.trans w2, w3, w4, hl, h2, hg, hv, fun j i q1 q2 q3 => (hz1 j i q1 q2 q3).trans (w9 j i q1 q2 q3), fun j i q1 q2 q3 => (hz2 j i q1 q2 q3).trans (w10 j i q1 q2 q3)⟩
theorem wfm.mono (w : wfm B m) (hB : B ≤ B') : wfm B' m := by
  obtain ⟨ng, nv, w⟩ := w
  obtain ⟨w1, w2, w3, w4, w5, w6, w7, w8, w9, w10⟩ := w
  exact ⟨ng, nv, w1, w2, w3, w4, w5, w6, fun j hj => by obtain ⟨x, q1, q2⟩ := w7 j hj; exact ⟨x, by omega, q2⟩, fun j hj => (w8 j hj).cong (fun _ _ _ => rfl) hB (Nat.le_refl _), w9, w10⟩
theorem wfm.cong (w : wfm B m) (h : ∀ i, i < 86 → m' i = m i) : wfm B m' := by
  obtain ⟨ng, nv, w⟩ := w
  have w' := w
  obtain ⟨w1, w2, w3, w4, w5, w6, w7, w8, w9, w10⟩ := w'
  exact w.of (h 0 (by omega)) (h 1 (by omega)) (fun k hk => by rw [h _ (by omega)]; exact w5 k hk) (by rw [h 2 (by omega)]; exact w6) (fun j hj => by rw [h _ (by omega)]; exact w7 j hj) (fun j hj => (w8 j hj).cong (fun i _ _ => h _ (by omega)) (Nat.le_refl _) (Nat.le_refl _)) (fun j i _ _ _ => h _ (by omega)) (fun j i _ _ _ => h _ (by omega))
theorem spW_if {c : Prop} [Decidable c] {m1 m2 : Nat → Int32} (h1 : c → wfm B m1) (h2 : ¬ c → wfm B m2) : wfm B (if c then m1 else m2) := by
  by_cases h : c
  · rw [if_pos h]; exact h1 h
  · rw [if_neg h]; exact h2 h
theorem wf_hedge {a b t : Int32} (w : wfm B m) : spW (B + 10) (sp_hedge m a b t) := by
  unfold sp_hedge
  refine spW.ite (fun _ => spW.inr) fun h1 => spW.ite (fun _ => spW.inr) fun h2 => spW.ite (fun _ => spW.inr) fun h3 => spW.inl ?_
  have hc : inR a 0 15 = true ∧ inR b 0 15 = true ∧ inR t 0 9 = true := by
    revert h1
    cases inR a 0 15 <;> cases inR b 0 15 <;> cases inR t 0 9 <;> simp
  obtain ⟨i, hi, rfl⟩ := inR_le (n := 15) (by omega) (by rw [show Int32.ofNat 15 = 15 from rfl, hc.1]; decide)
  obtain ⟨j, hj, rfl⟩ := inR_le (n := 15) (by omega) (by rw [show Int32.ofNat 15 = 15 from rfl, hc.2.1]; decide)
  obtain ⟨x, hx, rfl⟩ := inR_le (n := 9) (by omega) (by rw [show Int32.ofNat 9 = 9 from rfl, hc.2.2]; decide)
  rw [cN_of (by omega), cN_of (by omega)] at h2 ⊢
  have hlt : hgN i j < 24 := by rcases hg_lt i (by omega) j (by omega) with q | q; exact absurd q h2; exact q
  obtain ⟨ng, nv, w⟩ := w.mono (B' := B + 10) (by omega)
  have w' := w
  obtain ⟨w1, w2, w3, w4, w5, w6, w7, w8, w9, w10⟩ := w'
  refine w.of (vu_ne (by omega)) (vu_ne (by omega)) (fun k hk => ?_) (by rw [vu_ne (by omega)]; exact w6) (fun j hj => by rw [vu_ne (by omega)]; exact w7 j hj) (fun j hj => (w8 j hj).cong (fun i _ _ => vu_ne (by omega)) (by omega) (Nat.le_refl _)) (fun j i _ _ _ => vu_ne (by omega)) (fun j i _ _ _ => vu_ne (by omega))
  by_cases q : k = hgN i j
  · subst q; exact ⟨x, hx, vu_eq⟩
  · rw [vu_ne (by omega)]; exact w5 k hk
theorem wf_summ (w : wfm B m) : wfm (B + 10) (summ m) := by
  obtain ⟨ng, nv, w⟩ := w.mono (B' := B + 10) (by omega)
  have w' := w
  obtain ⟨w1, w2, w3, w4, w5, w6, w7, w8, w9, w10⟩ := w'
  have ne : ∀ i, i ≠ 3 → ¬ (6 ≤ i ∧ i < 30) → summ m i = m i := fun i h1 h2 => by unfold summ; rw [if_neg h1, if_neg h2]
  refine w.of (ne _ (by omega) (by omega)) (ne _ (by omega) (by omega)) (fun k hk => ?_) (by rw [ne _ (by omega) (by omega)]; exact w6) (fun j hj => by rw [ne _ (by omega) (by omega)]; exact w7 j hj) (fun j hj => (w8 j hj).cong (fun i _ _ => ne _ (by omega) (by omega)) (by omega) (Nat.le_refl _)) (fun j i _ _ _ => ne _ (by omega) (by omega)) (fun j i _ _ _ => ne _ (by omega) (by omega))
  obtain ⟨x, hx, ex⟩ := w5 k hk
  refine ⟨min 9 (x + 1), by omega, ?_⟩
  unfold summ
  rw [if_neg (by omega), if_pos (by omega), ex, iAdd1, show (9 : Int32) = Int32.ofNat 9 from rfl, jmin_of (by omega) (by omega)]
theorem wf_trim {g a b : Int32} (w : wfm B m) (hB : B < 100000000) : spW (B + 10) (sp_trim m g a b) := by
  unfold sp_trim
  refine spW.ite (fun _ => spW.inr) fun h0 => spW.ite (fun _ => spW.inr) fun h1 => spW.ite (fun _ => spW.inr) fun h2 => spW.ite (fun _ => spW.inr) fun h3 => spW.ite (fun _ => spW.inr) fun h4 => spW.inl ?_
  have hc : inR a 0 15 = true ∧ inR b 0 15 = true := by
    revert h1
    cases inR a 0 15 <;> cases inR b 0 15 <;> simp
  obtain ⟨i, hi, rfl⟩ := inR_le (n := 15) (by omega) (by rw [show Int32.ofNat 15 = 15 from rfl, hc.1]; decide)
  obtain ⟨j, hj, rfl⟩ := inR_le (n := 15) (by omega) (by rw [show Int32.ofNat 15 = 15 from rfl, hc.2]; decide)
  obtain ⟨ng, nv, w⟩ := w.mono (B' := B + 10) (by omega)
  have w' := w
  obtain ⟨w1, w2, w3, w4, w5, w6, w7, w8, w9, w10⟩ := w'
  rw [w1] at h0
  obtain ⟨n, hn, rfl⟩ := inR_idx (by omega) h0
  rw [cN_of (n := i) (by omega), cN_of (n := j) (by omega)] at h2 h3 ⊢
  rw [cN_of (n := n) (by omega)] at h4 ⊢
  have hlt : hgN i j < 24 := by rcases hg_lt i (by omega) j (by omega) with q | q; exact absurd q h2; exact q
  refine w.of (by simp (disch := omega) only [vu_ne]) (by simp (disch := omega) only [vu_ne]) (fun k hk => ?_) (by simp (disch := omega) only [vu_ne]; exact w6) (fun j' hj' => ?_) (fun j' hj' => (w8 j' hj').cong (fun i _ _ => by simp (disch := omega) only [vu_ne]) (by omega) (Nat.le_refl _)) (fun j' i' _ _ _ => by simp (disch := omega) only [vu_ne]) (fun j' i' _ _ _ => by simp (disch := omega) only [vu_ne])
  · by_cases q : k = hgN i j
    · subst q; exact ⟨0, by omega, by simp (disch := omega) only [vu_ne, vu_eq]; rfl⟩
    · simp (disch := omega) only [vu_ne]; exact w5 k hk
  · by_cases q : j' = n
    · subst q
      obtain ⟨x, hx, ex⟩ := w7 j' hj'
      refine ⟨x - 2, by omega, ?_⟩
      simp (disch := omega) only [vu_ne, vu_eq]
      rw [ex] at h4 ⊢
      have : 2 ≤ x := by
        have := Int32.not_lt.mp h4
        exact (iLe (a := 2) (by omega) (by omega)).mp this
      exact iSub (b := 2) this
    · simp (disch := omega) only [vu_ne]; exact w7 j' hj'
theorem mstep_keep {c : Int32} {j : Nat} {q : Int32 × (Nat → Int32)} {i : Nat} (h : i ≠ 46 + 8 * j + 6) : (mstep c j q).2 i = q.2 i := by
  unfold mstep
  split
  · dsimp only
    split
    · exact vu_ne h
    · rfl
  · rfl
theorem wf_mino {c : Int32} (w : wfm B m) : spW (B + 10) (sp_minotaur m c) := by
  unfold sp_minotaur
  refine spW.ite (fun _ => spW.inr) fun h1 => spW.ite (fun _ => spW.inr) fun h2 => ?_
  refine spW.inl (v := (foldN (mstep c) (cN (m 1)) (0, va_up m 2 c)).1) ?_
  obtain ⟨ng, nv, w⟩ := w.mono (B' := B + 10) (by omega)
  have w' := w
  obtain ⟨w1, w2, w3, w4, w5, w6, w7, w8, w9, w10⟩ := w'
  rw [w2, cN_of (by omega)]
  have hfix : ∀ n i, (∀ j, j < n → i ≠ 46 + 8 * j + 6) → (foldN (mstep c) n (0, va_up m 2 c)).2 i = va_up m 2 c i := by
    intro n
    induction n with
    | zero => intro i _; rfl
    | succ n ih =>
      intro i hi
      show (mstep c n (foldN (mstep c) n (0, va_up m 2 c))).2 i = _
      rw [mstep_keep (hi n (by omega))]
      exact ih i (fun j hj => hi j (by omega))
  have hsix : ∀ n j, j < n → n ≤ nv → (foldN (mstep c) n (0, va_up m 2 c)).2 (46 + 8 * j + 6) = m (46 + 8 * j + 6) ∨ ((foldN (mstep c) n (0, va_up m 2 c)).2 (46 + 8 * j + 6) = 1 ∧ 0 < m (46 + 8 * j + 5)) := by
    intro n
    induction n with
    | zero => intro j hj; omega
    | succ n ih =>
      intro j hj hn
      by_cases q : j = n
      · subst q
        have e : foldN (mstep c) (j + 1) (0, va_up m 2 c) = mstep c j (foldN (mstep c) j (0, va_up m 2 c)) := rfl
        have e6 : (foldN (mstep c) j (0, va_up m 2 c)).2 (46 + 8 * j + 6) = m (46 + 8 * j + 6) := by rw [hfix j _ (fun j' hj' => by omega), vu_ne (by omega)]
        have e5 : (foldN (mstep c) j (0, va_up m 2 c)).2 (46 + 8 * j + 5) = m (46 + 8 * j + 5) := by rw [hfix j _ (fun j' hj' => by omega), vu_ne (by omega)]
        rw [e]
        generalize foldN (mstep c) j (0, va_up m 2 c) = Q at e5 e6
        unfold mstep
        split
        · dsimp only
          split
          · rename_i z; rw [e5] at z; exact Or.inr ⟨vu_eq, z⟩
          · exact Or.inl e6
        · exact Or.inl e6
      · have e : (foldN (mstep c) (n + 1) (0, va_up m 2 c)).2 (46 + 8 * j + 6) = (foldN (mstep c) n (0, va_up m 2 c)).2 (46 + 8 * j + 6) := mstep_keep (by omega)
        rw [e]
        exact ih j (by omega) (by omega)
  refine w.of (by rw [hfix nv 0 (by intros; omega), vu_ne (by omega)]) (by rw [hfix nv 1 (by intros; omega), vu_ne (by omega)]) (fun k hk => by rw [hfix nv _ (by intros; omega), vu_ne (by omega)]; exact w5 k hk) ?_ (fun j hj => by rw [hfix nv _ (by intros; omega), vu_ne (by omega)]; exact w7 j hj) (fun j hj => ?_) (fun j i _ _ _ => by rw [hfix nv _ (by intros; omega), vu_ne (by omega)]) (fun j i q1 _ _ => by rw [hfix nv _ (by intros; omega), vu_ne (by omega)])
  · rw [hfix nv _ (by intros; omega), vu_eq]
    by_cases q : c = -1
    · exact Or.inl q
    · right
      unfold inR at h1
      simp at h1
      have h0 : 0 ≤ c := by
        have hc := h1.1
        rw [Int32.le_iff_toInt_le] at hc ⊢
        have e1 : (-1 : Int32).toInt = -1 := rfl
        have e0 : (0 : Int32).toInt = 0 := rfl
        rw [e1] at hc
        rw [e0]
        have : c.toInt ≠ -1 := fun z => q (by apply Int32.toInt_inj.mp; rw [z]; rfl)
        omega
      obtain ⟨x, q1, q2⟩ := iRange (n := 15) (by omega) h0 h1.2
      exact ⟨x, by omega, q2⟩
  · obtain ⟨cc, hr, al, v1, v2, v3, v4, v5, v6, v7, v8⟩ := w8 j hj
    have ke : ∀ i, i ≠ 6 → i < 8 → (foldN (mstep c) nv (0, va_up m 2 c)).2 (46 + 8 * j + i) = m (46 + 8 * j + i) := fun i q1 q2 => by rw [hfix nv _ (by intros; omega), vu_ne (by omega)]
    refine ⟨cc, hr, al, v1, v2, v3, by rw [ke 1 (by omega) (by omega)]; exact v4, by rw [ke 2 (by omega) (by omega)]; exact v5, by rw [ke 3 (by omega) (by omega)]; exact v6, by rw [ke 7 (by omega) (by omega)]; exact v7, ?_⟩
    rw [ke 4 (by omega) (by omega), ke 5 (by omega) (by omega)]
    rcases v8 with ⟨u1, u2, u3⟩ | ⟨g, rt, u1, u2, u3, u4, u5, u6, u7⟩
    · refine Or.inl ⟨u1, u2, ?_⟩
      rcases hsix nv j hj (Nat.le_refl _) with z | ⟨-, z⟩
      · rw [z]; exact u3
      · rw [u2] at z; exact absurd z (by decide)
    · refine Or.inr ⟨g, rt, u1, u2, u3, u4, u5, ?_, u7⟩
      rcases hsix nv j hj (Nat.le_refl _) with z | ⟨z, -⟩
      · rw [z]; exact u6
      · exact Or.inr z
theorem wf_gard {x : Int32} (w : wfm B m) (hB : 100 ≤ B) : spW (B + 10) (sp_gardener m x) := by
  unfold sp_gardener
  refine spW.ite (fun _ => spW.inr) fun h1 => spW.ite (fun _ => spW.inr) fun h2 => spW.inl ?_
  obtain ⟨y, hy, rfl⟩ := inR_le (n := 99) (by omega) h1
  obtain ⟨ng, nv, w⟩ := w.mono (B' := B + 10) (by omega)
  obtain ⟨w1, w2, w3, w4, w5, w6, w7, w8, w9, w10⟩ := w
  have hn : ng < 4 := by
    have : ng ≠ 4 := fun q => h2 (by rw [w1, q]; rfl)
    omega
  rw [w1, cN_of (by omega)]
  refine ⟨ng + 1, nv, by rw [vu_eq, iAdd1], by simp (disch := omega) only [vu_ne]; exact w2, by omega, w4, fun k hk => by simp (disch := omega) only [vu_ne]; exact w5 k hk, by simp (disch := omega) only [vu_ne]; exact w6, fun j hj => ?_, fun j hj => (w8 j hj).cong (fun i _ _ => by simp (disch := omega) only [vu_ne]) (by omega) (by omega), fun j i q1 q2 q3 => by simp (disch := omega) only [vu_ne]; exact w9 j i (by omega) q2 q3, fun j i q1 q2 q3 => by simp (disch := omega) only [vu_ne]; exact w10 j i (by omega) q2 q3⟩
  by_cases q : j = ng
  · subst q; exact ⟨y, by omega, by simp (disch := omega) only [vu_ne, vu_eq]⟩
  · simp (disch := omega) only [vu_ne]; exact w7 j (by omega)
theorem wf_visitor {x : Int32} (w : wfm B m) (hd : dst false m 0 15 ≠ 99 → dst false m 0 15 ≤ 15) : spW (B + 10) (sp_visitor m x) := by
  unfold sp_visitor
  refine spW.ite (fun _ => spW.inr) fun h1 => spW.ite (fun _ => spW.inr) fun h2 => spW.ite (fun _ => spW.inr) fun h3 => spW.inl ?_
  obtain ⟨ng, nv, w⟩ := w.mono (B' := B + 10) (by omega)
  obtain ⟨w1, w2, w3, w4, w5, w6, w7, w8, w9, w10⟩ := w
  have hn : nv < 5 := by
    have : nv ≠ 5 := fun q => h2 (by rw [w2, q]; rfl)
    omega
  rw [w2, cN_of (by omega)]
  refine ⟨ng, nv + 1, by simp (disch := omega) only [vu_ne]; exact w1, by rw [vu_eq, iAdd1], w3, by omega, fun k hk => by simp (disch := omega) only [vu_ne]; exact w5 k hk, by simp (disch := omega) only [vu_ne]; exact w6, fun j hj => by simp (disch := omega) only [vu_ne]; exact w7 j hj, fun j hj => ?_, fun j i q1 q2 q3 => by simp (disch := omega) only [vu_ne]; exact w9 j i (by omega) q2 q3, fun j i q1 q2 q3 => by simp (disch := omega) only [vu_ne]; exact w10 j i (by omega) q2 q3⟩
  by_cases q : j = nv
  · subst q
    refine ⟨0, 0, dst false m 0 15, by omega, by omega, hd h3, ?_, ?_, by simp (disch := omega) only [vu_ne, vu_eq], ?_, Or.inl ⟨by simp (disch := omega) only [vu_ne, vu_eq], ?_, ?_⟩⟩
    · simp (disch := omega) only [vu_ne]; exact w10 j 1 (by omega) (by omega) (by omega)
    · simp (disch := omega) only [vu_ne]; exact w10 j 2 (by omega) (by omega) (by omega)
    · simp (disch := omega) only [vu_ne]; exact w10 j 7 (by omega) (by omega) (by omega)
    · simp (disch := omega) only [vu_ne]; exact w10 j 5 (by omega) (by omega) (by omega)
    · simp (disch := omega) only [vu_ne]; exact w10 j 6 (by omega) (by omega) (by omega)
  · exact (w8 j (by omega)).cong (fun i _ _ => by simp (disch := omega) only [vu_ne]) (by omega) (by omega)
theorem wf_bond {g v rt : Int32} (w : wfm B m) (hB : B < 100000000) : spW (B + 10) (sp_bond m g v rt) := by
  unfold sp_bond
  refine spW.ite (fun _ => spW.inr) fun h1 => spW.ite (fun _ => spW.inr) fun h2 => spW.ite (fun _ => spW.inr) fun h3 => spW.ite (fun _ => spW.inr) fun h4 => spW.ite (fun h5 => spW.ite (fun _ => spW.inr) fun h6 => spW.ite (fun _ => spW.inr) fun h7 => spW.inl ?_) (fun _ => spW.inr)
  have h3' : 1 ≤ rt ∧ rt ≤ 5 := by unfold inR at h3; simp at h3; exact h3
  obtain ⟨y, hy, rfl⟩ := iRange (n := 5) (by omega) (Int32.le_trans (by decide) h3'.1) h3'.2
  have hy1 : 1 ≤ y := (iLe (a := 1) (by omega) (by omega)).mp h3'.1
  obtain ⟨ng, nv, w0⟩ := w
  have w' := w0
  obtain ⟨w1, w2, w3, w4, w5, w6, w7, w8, w9, w10⟩ := w0
  rw [w1] at h1
  rw [w2] at h2
  obtain ⟨n, hn, rfl⟩ := inR_idx (by omega) h1
  obtain ⟨j, hj, rfl⟩ := inR_idx (by omega) h2
  rw [cN_of (n := j) (by omega)] at h4 h5 ⊢
  rw [cN_of (n := n) (by omega)]
  refine w'.of (by simp (disch := omega) only [vu_ne]) (by simp (disch := omega) only [vu_ne]) (fun k hk => by simp (disch := omega) only [vu_ne]; exact w5 k hk) (by simp (disch := omega) only [vu_ne]; exact w6) (fun i hi => ?_) (fun i hi => ?_) (fun j' i' _ _ _ => by simp (disch := omega) only [vu_ne]) (fun j' i' _ _ _ => by simp (disch := omega) only [vu_ne])
  · obtain ⟨x, hx, ex⟩ := w7 i hi
    by_cases q : i = n
    · subst q
      refine ⟨x + 2 * y, by omega, ?_⟩
      simp (disch := omega) only [vu_ne, vu_eq]
      rw [ex, show (2 : Int32) = Int32.ofNat 2 from rfl, iMul, iAdd]
    · simp (disch := omega) only [vu_ne]; exact ⟨x, by omega, ex⟩
  · by_cases q : i = j
    · subst q
      obtain ⟨c, hr, al, v1, v2, v3, v4, v5, v6, v7, v8⟩ := w8 i hi
      refine ⟨c, hr, al, v1, by omega, v3, by simp (disch := omega) only [vu_ne]; exact v4, by simp (disch := omega) only [vu_ne]; exact v5, by simp (disch := omega) only [vu_ne]; exact v6, by simp (disch := omega) only [vu_ne]; exact v7, Or.inr ⟨n, y, hn, hy1, hy, by simp (disch := omega) only [vu_ne, vu_eq], by simp (disch := omega) only [vu_ne, vu_eq], ?_, ?_⟩⟩
      · simp (disch := omega) only [vu_ne]
        rcases v8 with ⟨-, -, u⟩ | ⟨_, _, _, _, _, _, _, u, -⟩
        · exact Or.inl u
        · exact u
      · rintro rfl; exact h4 (by rw [v7]; rfl)
    · exact (w8 i hi).cong (fun i' _ _ => by simp (disch := omega) only [vu_ne]) (by omega) (Nat.le_refl _)
theorem wf_rest {v hr : Int32} (w : wfm B m) : spW (B + 10) (sp_rest m v hr) := by
  unfold sp_rest
  refine spW.ite (fun _ => spW.inr) fun h1 => spW.ite (fun _ => spW.inr) fun h2 => spW.ite (fun _ => spW.inr) fun h3 => spW.inl ?_
  have h2' : 1 ≤ hr ∧ hr ≤ 9 := by unfold inR at h2; simp at h2; exact h2
  obtain ⟨y, hy, rfl⟩ := iRange (n := 9) (by omega) (Int32.le_trans (by decide) h2'.1) h2'.2
  obtain ⟨ng, nv, w0⟩ := w
  have w' := w0
  obtain ⟨w1, w2, w3, w4, w5, w6, w7, w8, w9, w10⟩ := w0
  rw [w2] at h1
  obtain ⟨j, hj, rfl⟩ := inR_idx (by omega) h1
  rw [cN_of (n := j) (by omega)]
  refine w'.of (vu_ne (by omega)) (vu_ne (by omega)) (fun k hk => by rw [vu_ne (by omega)]; exact w5 k hk) (by rw [vu_ne (by omega)]; exact w6) (fun i hi => ?_) (fun i hi => ?_) (fun j' i' _ _ _ => vu_ne (by omega)) (fun j' i' _ _ _ => vu_ne (by omega))
  · obtain ⟨x, hx, ex⟩ := w7 i hi
    exact ⟨x, by omega, by rw [vu_ne (by omega)]; exact ex⟩
  · by_cases q : i = j
    · subst q
      obtain ⟨c, h0, al, v1, v2, v3, v4, v5, v6, v7, v8⟩ := w8 i hi
      refine ⟨c, h0 + y, al, v1, by omega, v3, by rw [vu_ne (by omega)]; exact v4, by rw [vu_eq, v5, iAdd], by rw [vu_ne (by omega)]; exact v6, by rw [vu_ne (by omega)]; exact v7, ?_⟩
      rw [vu_ne (by omega), vu_ne (by omega), vu_ne (by omega)]
      exact v8
    · exact (w8 i hi).cong (fun i' _ _ => vu_ne (by omega)) (by omega) (Nat.le_refl _)
theorem wf_paid {j hr al g x rt : Nat} (hB : hr < 100000000) (hal : al ≤ 15) (hx : x < 100000000) (hrt : rt ≤ 5) (hg : g < 4) (e2 : m (46 + 8 * j + 2) = Int32.ofNat hr) (e3 : m (46 + 8 * j + 3) = Int32.ofNat al) (e4 : m (46 + 8 * j + 4) = Int32.ofNat g) (e5 : m (46 + 8 * j + 5) = Int32.ofNat rt) (ex : m (30 + 4 * g) = Int32.ofNat x) : ∃ p, p ≤ x ∧ paidI m j = Int32.ofNat p := by
  unfold paidI lostI
  rw [e4, cN_of (by omega), e2, e3, e5, ex]
  split
  · exact ⟨0, by omega, rfl⟩
  · have : ∃ y, y ≤ 100000000 ∧ jmax 0 (Int32.ofNat hr - Int32.ofNat al) = Int32.ofNat y := by
      by_cases q : al ≤ hr
      · exact ⟨max 0 (hr - al), by omega, by rw [iSub q, show (0 : Int32) = Int32.ofNat 0 from rfl, jmax_of (by omega) (by omega)]⟩
      · refine ⟨0, by omega, ?_⟩
        unfold jmax
        have h5 : Int32.ofNat hr - Int32.ofNat al < 0 := by
          have : ∀ a, a ≤ 15 → ∀ b, b < a → Int32.ofNat b - Int32.ofNat a < 0 := by decide
          exact this al hal hr (by omega)
        rw [if_neg (fun z => Int32.lt_irrefl (Int32.lt_trans z h5))]
        rfl
    obtain ⟨y, hy, ey⟩ := this
    have h5 : rt * y ≤ 5 * 100000000 := Nat.mul_le_mul hrt hy
    exact ⟨min (rt * y) x, by omega, by rw [ey, iMul, jmin_of (by omega) (by omega)]⟩
theorem wf_walk {v d : Int32} (w : wfm B m) (hB : B < 90000000) : spW (B + 10) (sp_walk m v d) := by
  unfold sp_walk
  refine spW.ite (fun _ => spW.inr) fun h1 => spW.ite (fun _ => spW.inr) fun h2 => spW.ite (fun _ => spW.inr) fun h3 => spW.ite (fun _ => spW.inr) fun h4 => spW.ite (fun _ => spW.inr) fun h5 => spW.inl ?_
  obtain ⟨ng, nv, w0⟩ := w
  have w' := w0
  obtain ⟨w1, w2, w3, w4, w5, w6, w7, w8, w9, w10⟩ := w0
  rw [w2] at h1
  obtain ⟨j, hj, rfl⟩ := inR_idx (by omega) h1
  obtain ⟨dd, hdd, rfl⟩ := inR_le (n := 3) (by omega) h2
  rw [cN_of (n := j) (by omega)] at h3 h4 h5 ⊢
  obtain ⟨c, hr, al, v1, v2, v3, v4, v5, v6, v7, v8⟩ := w8 j hj
  rw [v4, cN_of (n := c) (by omega), cN_of (n := dd) (by omega)] at h4 ⊢
  obtain ⟨g1, g2, -⟩ : nbN c dd < 16 ∧ hgN c (nbN c dd) < 24 ∧ _ := by rcases nb_lt c v1 dd (by omega) with q | q; exact absurd q h4; exact q
  have hc : c ≠ 15 := by rintro rfl; exact h3 (by rw [v7]; rfl)
  generalize nbN c dd = nx at g1
  have e5 : ∀ i, wk1 m j nx (46 + 8 * j + 5) = m (46 + 8 * j + 5) := fun _ => wk1_at (by omega) (by omega) (by omega)
  have wne : ∀ i, i ≠ 46 + 8 * j + 1 → i ≠ 46 + 8 * j + 2 → i ≠ 46 + 8 * j + 6 → wk1 m j nx i = m i := fun i q1 q2 q3 => wk1_at q1 q2 q3
  have h6 : (m (46 + 8 * j + 4) = -1 ∧ m (46 + 8 * j + 5) = 0 ∧ wk1 m j nx (46 + 8 * j + 6) = 0) ∨ (∃ g rt, g < ng ∧ 1 ≤ rt ∧ rt ≤ 5 ∧ m (46 + 8 * j + 4) = Int32.ofNat g ∧ m (46 + 8 * j + 5) = Int32.ofNat rt ∧ (wk1 m j nx (46 + 8 * j + 6) = 0 ∨ wk1 m j nx (46 + 8 * j + 6) = 1)) := by
    rw [wk1_6]
    rcases v8 with ⟨u1, u2, u3⟩ | ⟨g, rt, u1, u2, u3, u4, u5, u6, u7⟩
    · refine Or.inl ⟨u1, u2, ?_⟩
      rw [if_neg (fun z => by have := z.2; rw [u2] at this; exact absurd this (by decide))]
      exact u3
    · refine Or.inr ⟨g, rt, u1, u2, u3, u4, u5, ?_⟩
      split
      · exact Or.inr rfl
      · exact u6
  refine spW_if ?_ ?_
  · intro e15
    subst e15
    have e2 : wk1 m j 15 (46 + 8 * j + 2) = Int32.ofNat (hr + 1) := by rw [wk1_2, v5, iAdd1]
    have sne : ∀ i, i ≠ 46 + 8 * j → i ≠ 46 + 8 * j + 7 → i ≠ 46 + 8 * j + 4 → i ≠ 46 + 8 * j + 5 → i ≠ 46 + 8 * j + 6 → (∀ g, m (46 + 8 * j + 4) = Int32.ofNat g → g < ng → i ≠ 30 + 4 * g ∧ i ≠ 30 + 4 * g + 2) → settl (wk1 m j 15) j i = wk1 m j 15 i := by
      intro i q0 q7 q4 q5 q6 qg
      unfold settl
      rw [if_neg q0, if_neg q7, if_neg q4, if_neg q5, if_neg q6, wne (46 + 8 * j + 4) (by omega) (by omega) (by omega)]
      rcases h6 with ⟨u1, -⟩ | ⟨g, rt, u1, -, -, u4, -⟩
      · rw [if_pos u1]
      · obtain ⟨z1, z2⟩ := qg g u4 u1
        rw [u4, cN_of (by omega), if_neg (iNeg (by omega)), if_neg z1, if_neg z2]
    refine w'.of ?_ ?_ (fun k hk => ?_) ?_ (fun i hi => ?_) (fun i hi => ?_) (fun j' i' q1 q2 q3 => ?_) (fun j' i' q1 q2 q3 => ?_)
    · rw [sne 0 (by omega) (by omega) (by omega) (by omega) (by omega) (fun g _ _ => by omega), wne _ (by omega) (by omega) (by omega)]
    · rw [sne 1 (by omega) (by omega) (by omega) (by omega) (by omega) (fun g _ _ => by omega), wne _ (by omega) (by omega) (by omega)]
    · rw [sne _ (by omega) (by omega) (by omega) (by omega) (by omega) (fun g _ _ => by omega), wne _ (by omega) (by omega) (by omega)]; exact w5 k hk
    · rw [sne 2 (by omega) (by omega) (by omega) (by omega) (by omega) (fun g _ _ => by omega), wne _ (by omega) (by omega) (by omega)]; exact w6
    · obtain ⟨x, hx, ex⟩ := w7 i hi
      by_cases q : m (46 + 8 * j + 4) = Int32.ofNat i
      · rcases h6 with ⟨u1, -⟩ | ⟨g, rt, u1, u2, u3, u4, u5, u6⟩
        · rw [u1] at q; exact absurd q.symm (iNeg (by omega))
        · have hgi : g = i := (iEq (by omega) (by omega)).mp (u4.symm.trans q)
          subst hgi
          obtain ⟨p, hp, ep⟩ := wf_paid (m := wk1 m j 15) (j := j) (hr := hr + 1) (al := al) (g := g) (x := x) (rt := rt) (by omega) v3 (by omega) u3 (by omega) e2 (by rw [wne _ (by omega) (by omega) (by omega)]; exact v6) (by rw [wne _ (by omega) (by omega) (by omega)]; exact u4) (by rw [wne _ (by omega) (by omega) (by omega)]; exact u5) (by rw [wne _ (by omega) (by omega) (by omega)]; exact ex)
          refine ⟨x - p, by omega, ?_⟩
          unfold settl
          rw [if_neg (by omega), if_neg (by omega), if_neg (by omega), if_neg (by omega), if_neg (by omega), wne (46 + 8 * j + 4) (by omega) (by omega) (by omega), u4, if_neg (iNeg (by omega)), cN_of (by omega), if_pos rfl, ep, wne _ (by omega) (by omega) (by omega), ex, iSub hp]
      · refine ⟨x, by omega, ?_⟩
        rw [sne _ (by omega) (by omega) (by omega) (by omega) (by omega) (fun g hg1 hg2 => by
          have : g ≠ i := fun z => q (by rw [← z]; exact hg1)
          omega), wne _ (by omega) (by omega) (by omega)]
        exact ex
    · by_cases q : i = j
      · subst q
        refine ⟨15, hr + 1, al, by omega, by omega, v3, ?_, ?_, ?_, ?_, Or.inl ⟨?_, ?_, ?_⟩⟩
        · rw [sne _ (by omega) (by omega) (by omega) (by omega) (by omega) (fun g _ _ => by omega), wk1_1]
        · rw [sne _ (by omega) (by omega) (by omega) (by omega) (by omega) (fun g _ _ => by omega), e2]
        · rw [sne _ (by omega) (by omega) (by omega) (by omega) (by omega) (fun g _ _ => by omega), wne _ (by omega) (by omega) (by omega)]; exact v6
        · unfold settl; rw [if_neg (by omega), if_pos rfl]; rfl
        · unfold settl; rw [if_neg (by omega), if_neg (by omega), if_pos rfl]
        · unfold settl; rw [if_neg (by omega), if_neg (by omega), if_neg (by omega), if_pos rfl]
        · unfold settl; rw [if_neg (by omega), if_neg (by omega), if_neg (by omega), if_neg (by omega), if_pos rfl]
      · refine (w8 i hi).cong (fun i' _ _ => ?_) (by omega) (Nat.le_refl _)
        rw [sne _ (by omega) (by omega) (by omega) (by omega) (by omega) (fun g _ _ => by omega), wne _ (by omega) (by omega) (by omega)]
    · rw [sne _ (by omega) (by omega) (by omega) (by omega) (by omega) (fun g _ _ => by omega), wne _ (by omega) (by omega) (by omega)]
    · rw [sne _ (by omega) (by omega) (by omega) (by omega) (by omega) (fun g _ _ => by omega), wne _ (by omega) (by omega) (by omega)]
  · intro n15
    refine w'.of (wne _ (by omega) (by omega) (by omega)) (wne _ (by omega) (by omega) (by omega)) (fun k hk => by rw [wne _ (by omega) (by omega) (by omega)]; exact w5 k hk) (by rw [wne _ (by omega) (by omega) (by omega)]; exact w6) (fun i hi => ?_) (fun i hi => ?_) (fun j' i' _ _ _ => wne _ (by omega) (by omega) (by omega)) (fun j' i' _ _ _ => wne _ (by omega) (by omega) (by omega))
    · obtain ⟨x, hx, ex⟩ := w7 i hi
      exact ⟨x, by omega, by rw [wne _ (by omega) (by omega) (by omega)]; exact ex⟩
    · by_cases q : i = j
      · subst q
        refine ⟨nx, hr + 1, al, g1, by omega, v3, wk1_1, by rw [wk1_2, v5, iAdd1], by rw [wne _ (by omega) (by omega) (by omega)]; exact v6, ?_, ?_⟩
        · rw [wne _ (by omega) (by omega) (by omega), if_neg n15, v7, if_neg hc]
        · rw [wne (46 + 8 * i + 4) (by omega) (by omega) (by omega), wne (46 + 8 * i + 5) (by omega) (by omega) (by omega)]
          rcases h6 with h6 | ⟨g, rt, u1, u2, u3, u4, u5, u6⟩
          · exact Or.inl h6
          · exact Or.inr ⟨g, rt, u1, u2, u3, u4, u5, u6, n15⟩
      · exact (w8 i hi).cong (fun i' _ _ => wne _ (by omega) (by omega) (by omega)) (by omega) (Nat.le_refl _)
end wf
