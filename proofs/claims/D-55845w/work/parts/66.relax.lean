/-! the component's ways: relaxed -/
set_option maxRecDepth 100000
def pcost (t : Bool) (m : Nat → Int32) (a b : Nat) : Nat := if gp m a b then (if t then 0 else 1) else (if t then 1 else 16)
def pgN (t : Bool) : Nat := if t then 0 else 1
def phN (t : Bool) : Nat := if t then 1 else 16
theorem pcost_edge {t : Bool} {m : Nat → Int32} {u v w : Nat} (h : eE t m u v w) : pcost t m v u = w ∧ pcost t m u v = w := by
  obtain ⟨-, -, -, ⟨h1, h2⟩ | ⟨h1, h2, h3⟩⟩ := h
  · unfold pcost; rw [gp_sym m v u, h1, h2]; cases t <;> exact ⟨rfl, rfl⟩
  · unfold pcost; rw [gp_sym m v u, h1, h2, h3]; exact ⟨rfl, rfl⟩
theorem edge_pcost {t : Bool} {m : Nat → Int32} {u d : Nat} (hu : u < 16) (hd : d < 4) (hn : nbN u d ≠ 99) (hc : pcost t m u (nbN u d) < 16) : eE t m u (nbN u d) (pcost t m u (nbN u d)) := by
  obtain ⟨g1, g2, -⟩ : nbN u d < 16 ∧ hgN u (nbN u d) < 24 ∧ _ := by rcases nb_lt u hu d hd with q | q; exact absurd q hn; exact q
  refine ⟨hu, g1, ⟨d, hd, rfl⟩, ?_⟩
  unfold pcost at hc ⊢
  cases hg : gp m u (nbN u d) <;> cases t <;> simp [hg] at hc ⊢
theorem co_by {Z : aZ} {hb : aH} {o A : Nat} {t : Bool} {m : Nat → Int32} {cell : Nat} {f : Nat → Int32} {F : Nat → Nat} (l : lvA Z hb o m A) (hc : cell < 16) (hf : rW f F) (hF16 : ∀ v, v < 16 → F v ≤ 16) :
    Ok (t_X2_byNeighbours Z (hF Z hb A f) o A (Int32.ofNat cell) (Int32.ofNat (pgN t)) (Int32.ofNat (phN t))) (fun r => ∃ L, r = (Int32.ofNat L, hF Z hb A f) ∧ L ≤ 16 ∧ (∀ d, d < 4 → nbN cell d ≠ 99 → L ≤ F (nbN cell d) + pcost t m cell (nbN cell d)) ∧ (L = 16 ∨ ∃ d, d < 4 ∧ nbN cell d ≠ 99 ∧ L = F (nbN cell d) + pcost t m cell (nbN cell d))) := by
  unfold t_X2_byNeighbours
  refine wlo_for 4 (fun i st => ∃ L, st = (o, A, Int32.ofNat cell, Int32.ofNat (pgN t), Int32.ofNat (phN t), Int32.ofNat L, Int32.ofNat i, hF Z hb A f) ∧ L ≤ 16 ∧ (∀ d, d < i → nbN cell d ≠ 99 → L ≤ F (nbN cell d) + pcost t m cell (nbN cell d)) ∧ (L = 16 ∨ ∃ d, d < 4 ∧ nbN cell d ≠ 99 ∧ L = F (nbN cell d) + pcost t m cell (nbN cell d))) _ ?_ ?_ (i := 0) ⟨16, rfl, Nat.le_refl _, fun d hd => by omega, Or.inl rfl⟩ (by omega) (by omega)
  · rintro i st hi ⟨L, rfl, h1, h2, h3⟩
    refine Or.inl ?_
    unfold t_X2_byNeighbours_b7
    dsimp only
    rw [if_neg (fun q => by have := (iLe (a := 4) (b := i) (by omega) (by omega)).mp q; omega), (enc_nb cell hc i hi).1, Option.bind_some]
    by_cases hn : nbN cell i = 99
    · rw [hn, enc99, if_pos rfl]
      refine ⟨_, rfl, L, by rw [iAdd1], h1, fun d hd hne => ?_, h3⟩
      by_cases e : d = i
      · subst e; exact absurd hn hne
      · exact h2 d (by omega) hne
    · obtain ⟨g1, g2, -⟩ : nbN cell i < 16 ∧ hgN cell (nbN cell i) < 24 ∧ _ := by rcases nb_lt cell hc i hi with q | q; exact absurd q hn; exact q
      rw [enc_of hn, if_neg (iNeg (by omega)), hF_ld g1, Option.bind_some, hf _ g1, if_pos l.isC, l.gap hc g1, Option.bind_some]
      dsimp only
      have hle := hF16 _ g1
      have hco : pcost t m cell (nbN cell i) ≤ 16 := by unfold pcost; cases gp m cell (nbN cell i) <;> cases t <;> simp
      refine ⟨_, ?_, min L (F (nbN cell i) + pcost t m cell (nbN cell i)), rfl, by omega, fun d hd hne => ?_, ?_⟩
      · have e1 : ∀ x : Nat, x ≤ 16 → t_X2_byNeighbours_l49 Z (hF Z hb A f) o A (Int32.ofNat cell) (Int32.ofNat (pgN t)) (Int32.ofNat (phN t)) (Int32.ofNat i) (Int32.ofNat x) (Int32.ofNat (F (nbN cell i))) (Int32.ofNat L) = some (.inl (o, A, Int32.ofNat cell, Int32.ofNat (pgN t), Int32.ofNat (phN t), Int32.ofNat (min L (F (nbN cell i) + x)), Int32.ofNat (i + 1), hF Z hb A f)) := by
          intro x hx
          unfold t_X2_byNeighbours_l49 t_X2_byNeighbours_l55
          rw [iAdd, jmin_of (by omega) (by omega), iAdd1]
        cases hg : gp m cell (nbN cell i)
        · rw [if_pos (by decide), e1 (phN t) (by unfold phN; cases t <;> simp)]
          unfold pcost phN; simp [hg]
        · rw [if_neg (by decide), e1 (pgN t) (by unfold pgN; cases t <;> simp)]
          unfold pcost pgN; simp [hg]
      · by_cases e : d = i
        · subst e; exact Nat.min_le_right _ _
        · have := h2 d (by omega) hne
          omega
      · by_cases q : L ≤ F (nbN cell i) + pcost t m cell (nbN cell i)
        · rw [Nat.min_eq_left q]; exact h3
        · exact Or.inr ⟨i, hi, hn, Nat.min_eq_right (by omega)⟩
  · rintro st ⟨L, rfl, h1, h2, h3⟩
    refine ⟨_, ?_, L, rfl, h1, h2, h3⟩
    unfold t_X2_byNeighbours_b7
    dsimp only
    rw [if_pos (show (4 : Int32) ≤ Int32.ofNat 4 by decide)]
def rInv (t : Bool) (m : Nat → Int32) (a : Nat) (F : Nat → Nat) : Prop := (∀ v, v < 16 → F v ≤ 16) ∧ F a = 0 ∧ ∀ v, v < 16 → F v < 16 → wW (eE t m) a v (F v)
def pInv (t : Bool) (m : Nat → Int32) (a N cell : Nat) (F0 F : Nat → Nat) (g : Bool) : Prop := rInv t m a F ∧ S16 F ≤ N ∧ (g = true → S16 F < N) ∧ (g = false → (∀ j, j < 16 → F j = F0 j) ∧ ∀ u v w, u < cell → eE t m v u w → F0 u ≤ F0 v + w)
theorem S16_congr {F G : Nat → Nat} (h : ∀ j, j < 16 → F j = G j) : S16 F = S16 G := by
  unfold S16
  rw [h 0 (by omega), h 1 (by omega), h 2 (by omega), h 3 (by omega), h 4 (by omega), h 5 (by omega), h 6 (by omega), h 7 (by omega), h 8 (by omega), h 9 (by omega), h 10 (by omega), h 11 (by omega), h 12 (by omega), h 13 (by omega), h 14 (by omega), h 15 (by omega)]
theorem co_rpass {Z : aZ} {hb : aH} {o A : Nat} {t : Bool} {m : Nat → Int32} {a : Nat} {f : Nat → Int32} {F : Nat → Nat} (ha : a < 16) (l : lvA Z hb o m A) (hz : z0 Z ≤ A) (hf : rW f F) (h : rInv t m a F) :
    Ok (wlo (t_X2_relaxed_b53 Z) 300 (o, Int32.ofNat (pgN t), Int32.ofNat (phN t), A, 0, 0, hF Z hb A f)) (fun r => ∃ F' f' g, r = .inl (o, Int32.ofNat (pgN t), Int32.ofNat (phN t), A, b2i g, hF Z hb A f') ∧ rW f' F' ∧ pInv t m a (S16 F) 16 F F' g) := by
  refine wlo_for 16 (fun i st => ∃ F' f' g, st = (o, Int32.ofNat (pgN t), Int32.ofNat (phN t), A, b2i g, Int32.ofNat i, hF Z hb A f') ∧ rW f' F' ∧ pInv t m a (S16 F) i F F' g) _ ?_ ?_ (i := 0) ⟨F, f, false, rfl, hf, h, Nat.le_refl _, (fun q => by cases q), fun _ => ⟨fun _ _ => rfl, fun u v w hu => by omega⟩⟩ (by omega) (by omega)
  · rintro i st hi ⟨F', f', g, rfl, hf', ⟨hr1, hr2, hr3⟩, hs1, hs2, hs3⟩
    refine Or.inl ?_
    unfold t_X2_relaxed_b53
    dsimp only
    rw [if_neg (fun q => by have := (iLe (a := 16) (b := i) (by omega) (by omega)).mp q; omega), if_pos l.isC]
    obtain ⟨r, e1, L, rfl, l1, l2, l3⟩ := co_by (t := t) l hi hf' hr1
    rw [e1, Option.bind_some, hF_ld hi, Option.bind_some, hf' i hi]
    dsimp only
    have e2 : ∀ (u0 : Int32), t_X2_relaxed_l89 Z (hF Z hb A f') o (Int32.ofNat (pgN t)) (Int32.ofNat (phN t)) A (Int32.ofNat i) (Int32.ofNat L) u0 (b2i g) = some (.inl (o, Int32.ofNat (pgN t), Int32.ofNat (phN t), A, b2i g ||| u0, Int32.ofNat (i + 1), hF Z hb A (va_up f' i (Int32.ofNat (min (F' i) L))))) := by
      intro u0
      unfold t_X2_relaxed_l89
      rw [hF_ld hi, Option.bind_some, hf' i hi, jmin_of (by have := hr1 i hi; omega) (by omega), hF_st hi hz, Option.bind_some, iAdd1]
    by_cases q : F' i ≤ L
    · rw [if_pos ((iLe (by have := hr1 i hi; omega) (by omega)).mpr q), e2]
      have hmin : min (F' i) L = F' i := Nat.min_eq_left q
      rw [hmin]
      have hsame : ∀ j, va_up F' i (F' i) j = F' j := fun j => by by_cases e : j = i <;> simp [va_up, e]
      have hfun : va_up F' i (F' i) = F' := funext hsame
      refine ⟨_, rfl, va_up F' i (F' i), _, g, by rw [show (0 : Int32) = b2i false from rfl, b2i_or, Bool.or_false], hf'.up i (F' i), ?_⟩
      rw [hfun]
      refine ⟨⟨hr1, hr2, hr3⟩, hs1, hs2, fun hg => ?_⟩
      obtain ⟨g1, g2⟩ := hs3 hg
      refine ⟨g1, fun u v w hu he => ?_⟩
      by_cases e : u = i
      · subst e
        have hv := he.1
        have he' := eE_sym _ _ _ he
        obtain ⟨-, -, ⟨d, hd, hnb⟩, -⟩ := he'
        have := l2 d hd (by rw [hnb]; omega)
        rw [hnb, (pcost_edge he).1, g1 v hv] at this
        rw [← g1 u hi]
        omega
      · exact g2 u v w (by omega) he
    · rw [if_neg (fun q9 => q ((iLe (by have := hr1 i hi; omega) (by omega)).mp q9)), e2]
      have hmin : min (F' i) L = L := Nat.min_eq_right (by omega)
      rw [hmin]
      have hsum := S16_up F' i L hi
      refine ⟨_, rfl, va_up F' i L, _, true, by rw [show (1 : Int32) = b2i true from rfl, b2i_or, Bool.or_true], hf'.up i L, ⟨fun v hv => ?_, ?_, fun v hv hlt => ?_⟩, by omega, fun _ => by omega, (fun hg => by cases hg)⟩
      · by_cases e : v = i
        · simp [va_up, e, l1]
        · simp only [va_up, e, if_false]; exact hr1 v hv
      · by_cases e : a = i
        · subst e; omega
        · simp only [va_up, e, if_false]; exact hr2
      · by_cases e : v = i
        · subst e
          have hv9 : va_up F' v L v = L := by simp [va_up]
          rw [hv9] at hlt ⊢
          rcases l3 with q3 | ⟨d, hd, hnb, hL⟩
          · omega
          · have he := edge_pcost (t := t) (m := m) hi hd hnb (by omega)
            obtain ⟨k, hk⟩ := hr3 (nbN v d) he.2.1 (by omega)
            rw [hL]
            exact ⟨k + 1, nbN v d, _, F' (nbN v d), hk, eE_sym _ _ _ he, rfl⟩
        · have hv9 : va_up F' i L v = F' v := by simp [va_up, e]
          rw [hv9] at hlt ⊢
          exact hr3 v hv hlt
  · rintro st ⟨F', f', g, rfl, hf', hinv⟩
    refine ⟨_, ?_, F', f', g, rfl, hf', hinv⟩
    unfold t_X2_relaxed_b53
    dsimp only
    rw [if_pos (show (16 : Int32) ≤ Int32.ofNat 16 by decide)]
theorem co_relax {Z : aZ} {h : aH} {o a : Nat} {t : Bool} {m : Nat → Int32} (k : hOk Z h) (r : Rm Z h 1) (l : lvs Z h o m) (ha : a < 16) :
    Ok (t_X2_relaxed Z h o (Int32.ofNat a) (Int32.ofNat (pgN t)) (Int32.ofNat (phN t))) (fun r => ∃ F f, r = (h.2.1, hnew h (.inl (zI Z, 16, .inl f)) 16) ∧ rW f F ∧ isMin (eE t m) a 16 F ∧ ∀ v, v < 16 → F v ≤ 16) := by
  unfold t_X2_relaxed
  rw [show (16 : Int32) = Int32.ofNat 16 from rfl, nwA_of r (by omega), Option.bind_some]
  have hz : z0 Z ≤ h.2.1 := k.1
  have hl := l.new k (e := .inl (zI Z, 16, .inl fun _ => 0)) (n := 16)
  generalize hhb : hnew h (.inl (zI Z, 16, .inl fun _ => 0)) 16 = hb at hl
  have hfin : ∀ f, hF Z hb h.2.1 f = hnew h (.inl (zI Z, 16, .inl f)) 16 := fun f => by rw [← hhb]; exact hset_hnew
  have hst : hb = hF Z hb h.2.1 (fun _ => 0) := by rw [hfin, hhb]
  refine Ok.imp (P := fun r => ∃ F f, r = (h.2.1, hF Z hb h.2.1 f) ∧ rW f F ∧ rInv t m a F ∧ ∀ u v w, eE t m v u w → F u ≤ F v + w) ?_ ?_
  · refine wlo_for 16 (fun i st => ∃ f, st = (o, Int32.ofNat a, Int32.ofNat (pgN t), Int32.ofNat (phN t), h.2.1, Int32.ofNat i, hF Z hb h.2.1 f) ∧ ∀ j, j < i → f j = Int32.ofNat (if j = a then 0 else 16)) _ ?_ ?_ (i := 0) ⟨_, by rw [← hst]; rfl, fun j hj => by omega⟩ (by omega) (by omega)
    · rintro i st hi ⟨f, rfl, hf⟩
      refine Or.inl ?_
      unfold t_X2_relaxed_b9 t_X2_relaxed_l32
      dsimp only
      rw [if_neg (fun q => by have := (iLe (a := 16) (b := i) (by omega) (by omega)).mp q; omega)]
      by_cases e : i = a
      · rw [if_pos (by rw [e]), hF_st hi hz, Option.bind_some]
        refine ⟨_, rfl, _, by rw [iAdd1], fun j hj => ?_⟩
        by_cases q : j = i
        · subst q; simp [va_up, e]
        · simp only [va_up, q, if_false]; exact hf j (by omega)
      · rw [if_neg (fun q => e ((iEq (by omega) (by omega)).mp q)), hF_st hi hz, Option.bind_some]
        refine ⟨_, rfl, _, by rw [iAdd1], fun j hj => ?_⟩
        by_cases q : j = i
        · subst q; simp [va_up, e]
        · simp only [va_up, q, if_false]; exact hf j (by omega)
    · rintro st ⟨f, rfl, hf⟩
      unfold t_X2_relaxed_b9 t_X2_relaxed_l39
      dsimp only
      rw [if_pos (show (16 : Int32) ≤ Int32.ofNat 16 by decide)]
      have h0 : rInv t m a (fun j => if j = a then 0 else 16) := by
        refine ⟨fun v _ => by dsimp only; split <;> omega, by simp, fun v _ hlt => ?_⟩
        dsimp only at hlt ⊢
        split at hlt
        · rename_i q; rw [if_pos q, q]; exact ⟨0, rfl, rfl⟩
        · omega
      obtain ⟨r, e1, F', f', rfl, h1, h2⟩ : Ok (wlo (t_X2_relaxed_b42 Z) 300 (o, Int32.ofNat (pgN t), Int32.ofNat (phN t), h.2.1, 1, hF Z hb h.2.1 f)) (fun r => ∃ F f, r = (h.2.1, hF Z hb h.2.1 f) ∧ rW f F ∧ rInv t m a F ∧ ∀ u v w, eE t m v u w → F u ≤ F v + w) := by
        refine wlo_rule (fun j st => ∃ F f g, st = (o, Int32.ofNat (pgN t), Int32.ofNat (phN t), h.2.1, b2i g, hF Z hb h.2.1 f) ∧ rW f F ∧ rInv t m a F ∧ (g = false → ∀ u v w, eE t m v u w → F u ≤ F v + w) ∧ j = if g then S16 F + 1 else 0) _ ?_ 300 (S16 (fun j => if j = a then 0 else 16) + 1) _ ⟨_, f, true, rfl, fun j hj => hf j hj, h0, (fun q => by cases q), rfl⟩ ?_
        · rintro j st ⟨F', f', g, rfl, hf', hb', hc', hj⟩
          unfold t_X2_relaxed_b42
          dsimp only
          cases g
          · right
            exact ⟨_, by rw [if_pos (by decide)], F', f', rfl, hf', hb', hc' rfl⟩
          · left
            rw [if_neg (by decide)]
            obtain ⟨r, e1, F2, f2, g2, rfl, hf2, p1, p2, p3, p4⟩ := co_rpass ha hl hz hf' hb'
            refine ⟨_, _, e1, ?_, F2, f2, g2, rfl, hf2, p1, fun hg u v w he => ?_, rfl⟩
            · cases g2
              · simp at hj ⊢; omega
              · have := p3 rfl
                simp at hj ⊢; omega
            · obtain ⟨q1, q2⟩ := p4 hg
              have := q2 u v w (eE_ok _ _ _ he).2.1 he
              rw [q1 u (eE_ok _ _ _ he).2.1, q1 v (eE_ok _ _ _ he).1]
              exact this
        · have := S16_le (fun j => if j = a then 0 else 16) 16 (fun v _ => by split <;> omega)
          omega
      exact ⟨_, by rw [e1]; rfl, F', f', rfl, h1, h2⟩
  · rintro r ⟨F, f, rfl, hf, ⟨b1, b2, b3⟩, b4⟩
    exact ⟨F, f, by rw [hfin], hf, isMin.of (D := 16) ha eE_ok b2 (by omega) (by omega) b3 (fun u v w he _ => b4 v u w he), b1⟩
