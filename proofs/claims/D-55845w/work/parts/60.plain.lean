/-! plain things: loops, walks, the least cost -/
set_option maxRecDepth 100000
theorem wlo_rule {σ ε : Type} {f : σ → Option (σ ⊕ ε)} (P : Nat → σ → Prop) (Q : ε → Prop) (hs : ∀ j st, P j st → (∃ st' j', f st = some (.inl st') ∧ j' < j ∧ P j' st') ∨ ∃ e, f st = some (.inr e) ∧ Q e) : ∀ n j st, P j st → j < n → ∃ e, wlo f n st = some e ∧ Q e := by
  intro n
  induction n with
  | zero => intro j st _ h; omega
  | succ n ih =>
    intro j st hp hj
    rcases hs j st hp with ⟨st', j', e1, e2, e3⟩ | ⟨e, e1, e2⟩
    · obtain ⟨e, h1, h2⟩ := ih j' st' e3 (by omega)
      exact ⟨e, by unfold wlo; rw [e1]; exact h1, h2⟩
    · exact ⟨e, by unfold wlo; rw [e1], e2⟩
theorem wlo_for {σ ε : Type} {f : σ → Option (σ ⊕ ε)} (N : Nat) (P : Nat → σ → Prop) (Q : ε → Prop) (hs : ∀ i st, i < N → P i st → (∃ st', f st = some (.inl st') ∧ P (i + 1) st') ∨ ∃ e, f st = some (.inr e) ∧ Q e) (he : ∀ st, P N st → ∃ e, f st = some (.inr e) ∧ Q e) {n i : Nat} {st : σ} (hp : P i st) (hi : i ≤ N) (hn : N - i < n) : ∃ e, wlo f n st = some e ∧ Q e := by
  refine wlo_rule (fun j st => j ≤ N ∧ P (N - j) st) Q ?_ n (N - i) st ⟨by omega, by rw [show N - (N - i) = i by omega]; exact hp⟩ hn
  rintro j st ⟨hj, hp⟩
  by_cases h0 : j = 0
  · subst h0
    exact Or.inr (he st hp)
  · rcases hs (N - j) st (by omega) hp with ⟨st', e1, e2⟩ | h
    · exact Or.inl ⟨st', j - 1, e1, by omega, by omega, by rw [show N - (j - 1) = N - j + 1 by omega]; exact e2⟩
    · exact Or.inr h
/-! walks -/
def wk (E : Nat → Nat → Nat → Prop) (a : Nat) : Nat → Nat → Nat → Prop
  | 0, v, c => v = a ∧ c = 0
  | k + 1, v, c => ∃ u w c', wk E a k u c' ∧ E u v w ∧ c = c' + w
def wW (E : Nat → Nat → Nat → Prop) (a v c : Nat) : Prop := ∃ k, wk E a k v c
theorem pig : ∀ (n : Nat) (p : Nat → Nat), (∀ i, i ≤ n → p i < n) → ∃ i j, i < j ∧ j ≤ n ∧ p i = p j := by
  intro n
  induction n with
  | zero => intro p h; exact absurd (h 0 (Nat.le_refl _)) (Nat.not_lt_zero _)
  | succ n ih =>
    intro p h
    by_cases hr : ∃ i, i ≤ n ∧ p i = p (n + 1)
    · obtain ⟨i, h1, h2⟩ := hr
      exact ⟨i, n + 1, by omega, Nat.le_refl _, h2⟩
    · have hr' : ∀ i, i ≤ n → p i ≠ p (n + 1) := fun i hi he => hr ⟨i, hi, he⟩
      obtain ⟨i, j, h1, h2, h3⟩ := ih (fun i => if p i = n then p (n + 1) else p i) (fun i hi => by
        have g1 := h i (by omega)
        have g2 := h (n + 1) (Nat.le_refl _)
        have g3 := hr' i hi
        show (if p i = n then p (n + 1) else p i) < n
        split <;> omega)
      have g1 := hr' i (by omega)
      have g2 := hr' j (by omega)
      refine ⟨i, j, h1, by omega, ?_⟩
      have h3 : (if p i = n then p (n + 1) else p i) = (if p j = n then p (n + 1) else p j) := h3
      split at h3 <;> split at h3 <;> omega
theorem wk_path {E : Nat → Nat → Nat → Prop} {a : Nat} : ∀ (k v c : Nat), wk E a k v c → ∃ p s : Nat → Nat, p 0 = a ∧ p k = v ∧ s 0 = 0 ∧ s k = c ∧ ∀ i, i < k → ∃ w, E (p i) (p (i + 1)) w ∧ s (i + 1) = s i + w := by
  intro k
  induction k with
  | zero => rintro v c ⟨h1, h2⟩; exact ⟨fun _ => a, fun _ => 0, rfl, h1.symm, rfl, h2.symm, fun i hi => absurd hi (Nat.not_lt_zero _)⟩
  | succ k ih =>
    rintro v c ⟨u, w, c', h1, h2, h3⟩
    obtain ⟨p, s, g1, g2, g3, g4, g5⟩ := ih u c' h1
    refine ⟨fun i => if i ≤ k then p i else v, fun i => if i ≤ k then s i else c, by simp [g1], if_neg (by omega), by simp [g3], if_neg (by omega), fun i hi => ?_⟩
    dsimp only
    by_cases e : i = k
    · subst e
      refine ⟨w, ?_, ?_⟩
      · rw [if_pos (Nat.le_refl _), if_neg (by omega), g2]; exact h2
      · rw [if_pos (Nat.le_refl _), if_neg (by omega), g4, h3]
    · obtain ⟨w', q1, q2⟩ := g5 i (by omega)
      refine ⟨w', ?_, ?_⟩
      · simp only [show i ≤ k by omega, show i + 1 ≤ k by omega, if_true]; exact q1
      · simp only [show i ≤ k by omega, show i + 1 ≤ k by omega, if_true]; exact q2
theorem path_wk {E : Nat → Nat → Nat → Prop} {a : Nat} {p s : Nat → Nat} (h0 : p 0 = a) (h1 : s 0 = 0) : ∀ k, (∀ i, i < k → ∃ w, E (p i) (p (i + 1)) w ∧ s (i + 1) = s i + w) → wk E a k (p k) (s k) := by
  intro k
  induction k with
  | zero => intro _; exact ⟨h0, h1⟩
  | succ k ih =>
    intro h
    obtain ⟨w, q1, q2⟩ := h k (by omega)
    exact ⟨p k, w, s k, ih (fun i hi => h i (by omega)), q1, q2⟩
theorem path_mono {s : Nat → Nat} {k : Nat} (h : ∀ i, i < k → s i ≤ s (i + 1)) : ∀ i j, i ≤ j → j ≤ k → s i ≤ s j := by
  intro i j hij
  induction j with
  | zero => intro _; rw [show i = 0 by omega]; exact Nat.le_refl _
  | succ j ih =>
    intro hj
    by_cases e : i = j + 1
    · rw [e]; exact Nat.le_refl _
    · exact Nat.le_trans (ih (by omega) (by omega)) (h j (by omega))
/-- a walk of at most 15 steps, at no more cost -/
theorem wk_short {E : Nat → Nat → Nat → Prop} {a : Nat} (ha : a < 16) (hE : ∀ u v w, E u v w → v < 16) : ∀ (k v c : Nat), wk E a k v c → ∃ k' c', k' ≤ 15 ∧ c' ≤ c ∧ wk E a k' v c' := by
  intro k
  induction k using Nat.strongRecOn with
  | _ k ih =>
    intro v c h
    by_cases hk : k ≤ 15
    · exact ⟨k, c, hk, Nat.le_refl _, h⟩
    · obtain ⟨p, s, g1, g2, g3, g4, g5⟩ := wk_path k v c h
      have hp : ∀ i, i ≤ 16 → p i < 16 := by
        intro i hi
        cases i with
        | zero => rw [g1]; exact ha
        | succ i => obtain ⟨w, q1, -⟩ := g5 i (by omega); exact hE _ _ _ q1
      obtain ⟨i, j, hij, hj, he⟩ := pig 16 p hp
      have hm := path_mono (s := s) (k := k) (fun i hi => by obtain ⟨w, -, q⟩ := g5 i hi; omega)
      have hsij := hm i j (by omega) (by omega)
      have hsjk := hm j k (by omega) (Nat.le_refl _)
      have hw := path_wk (E := E) (a := a) (p := fun x => if x ≤ i then p x else p (x + (j - i))) (s := fun x => if x ≤ i then s x else s (x + (j - i)) - (s j - s i)) (by simp [g1]) (by simp [g3]) (k - (j - i)) (fun x hx => by
        by_cases e1 : x + 1 ≤ i
        · obtain ⟨w, q1, q2⟩ := g5 x (by omega)
          refine ⟨w, ?_, ?_⟩
          · simp only [show x ≤ i by omega, e1, if_true]; exact q1
          · simp only [show x ≤ i by omega, e1, if_true]; exact q2
        · obtain ⟨w, q1, q2⟩ := g5 (x + (j - i)) (by omega)
          have hmx := hm j (x + (j - i)) (by omega) (by omega)
          by_cases e2 : x = i
          · subst e2
            refine ⟨w, ?_, ?_⟩
            · simp only [Nat.le_refl, e1, if_true, if_false]
              rw [show x + 1 + (j - x) = x + (j - x) + 1 by omega, he, show j = x + (j - x) by omega]
              rw [show x + (j - x) - x = j - x by omega] at *
              exact q1
            · simp only [Nat.le_refl, e1, if_true, if_false]
              rw [show x + 1 + (j - x) = x + (j - x) + 1 by omega, q2, show x + (j - x) = j by omega]
              omega
          · refine ⟨w, ?_, ?_⟩
            · simp only [show ¬ x ≤ i by omega, e1, if_false]
              rw [show x + 1 + (j - i) = x + (j - i) + 1 by omega]
              exact q1
            · simp only [show ¬ x ≤ i by omega, e1, if_false]
              rw [show x + 1 + (j - i) = x + (j - i) + 1 by omega, q2]
              omega)
      have hlast : ¬ k - (j - i) ≤ i ∨ k - (j - i) = i := by omega
      have e3 : (if k - (j - i) ≤ i then p (k - (j - i)) else p (k - (j - i) + (j - i))) = v := by
        by_cases e : k - (j - i) ≤ i
        · rw [if_pos e, show k - (j - i) = i by omega, he, show j = k by omega, g2]
        · rw [if_neg e, show k - (j - i) + (j - i) = k by omega, g2]
      have e4 : (if k - (j - i) ≤ i then s (k - (j - i)) else s (k - (j - i) + (j - i)) - (s j - s i)) ≤ c := by
        by_cases e : k - (j - i) ≤ i
        · rw [if_pos e, show k - (j - i) = i by omega]
          omega
        · rw [if_neg e, show k - (j - i) + (j - i) = k by omega, g4]
          omega
      have hw : wk E a (k - (j - i)) (if k - (j - i) ≤ i then p (k - (j - i)) else p (k - (j - i) + (j - i))) (if k - (j - i) ≤ i then s (k - (j - i)) else s (k - (j - i) + (j - i)) - (s j - s i)) := hw
      rw [e3] at hw
      obtain ⟨k', c', r1, r2, r3⟩ := ih (k - (j - i)) (by omega) v _ hw
      exact ⟨k', c', r1, by omega, r3⟩
theorem wk_le {E : Nat → Nat → Nat → Prop} {a : Nat} (hE : ∀ u v w, E u v w → w ≤ 1) : ∀ (k v c : Nat), wk E a k v c → c ≤ k := by
  intro k
  induction k with
  | zero => rintro v c ⟨-, h⟩; omega
  | succ k ih => rintro v c ⟨u, w, c', h1, h2, h3⟩; have := ih u c' h1; have := hE _ _ _ h2; omega
theorem wk_cons {E : Nat → Nat → Nat → Prop} {a u w : Nat} (he : E a u w) : ∀ (k v c : Nat), wk E u k v c → wk E a (k + 1) v (c + w) := by
  intro k
  induction k with
  | zero => rintro v c ⟨rfl, rfl⟩; exact ⟨a, w, 0, ⟨rfl, rfl⟩, he, by omega⟩
  | succ k ih => rintro v c ⟨x, w', c', h1, h2, rfl⟩; exact ⟨x, w', c' + w, ih x c' h1, h2, by omega⟩
theorem wk_rev {E : Nat → Nat → Nat → Prop} {a : Nat} (hs : ∀ u v w, E u v w → E v u w) : ∀ (k v c : Nat), wk E a k v c → wk E v k a c := by
  intro k
  induction k with
  | zero => rintro v c ⟨rfl, rfl⟩; exact ⟨rfl, rfl⟩
  | succ k ih => rintro v c ⟨u, w, c', h1, h2, rfl⟩; exact wk_cons (hs _ _ _ h2) k a c' (ih u c' h1)
/-- d holds, of each cell, the least cost of a walk to it; I where there is none -/
def isMin (E : Nat → Nat → Nat → Prop) (a I : Nat) (d : Nat → Nat) : Prop := (∀ v, v < 16 → d v < I → wW E a v (d v)) ∧ ∀ v, v < 16 → ∀ c, wW E a v c → d v ≤ c
theorem isMin.le {E : Nat → Nat → Nat → Prop} {a I : Nat} {d : Nat → Nat} (ha : a < 16) (hE : ∀ u v w, E u v w → v < 16 ∧ w ≤ 1) (h : isMin E a I d) {v : Nat} (hv : v < 16) (hd : d v < I) : d v ≤ 15 := by
  obtain ⟨k, hk⟩ := h.1 v hv hd
  obtain ⟨k', c', h1, h2, h3⟩ := wk_short ha (fun u v w e => (hE u v w e).1) k v _ hk
  have := h.2 v hv c' ⟨k', h3⟩
  have := wk_le (fun u v w e => (hE u v w e).2) k' v c' h3
  omega
theorem isMin.eq {E : Nat → Nat → Nat → Prop} {a I I' : Nat} {d d' : Nat → Nat} (ha : a < 16) (hE : ∀ u v w, E u v w → v < 16 ∧ w ≤ 1) (hI : 15 < I) (hI' : 15 < I') (h : isMin E a I d) (h' : isMin E a I' d') {v : Nat} (hv : v < 16) : (d v < I ↔ d' v < I') ∧ (d v < I → d v = d' v) := by
  have key : ∀ {I I' : Nat} {d d' : Nat → Nat}, 15 < I' → isMin E a I d → isMin E a I' d' → d v < I → d' v < I' ∧ d' v ≤ d v := by
    intro I I' d d' hI' h h' hd
    have h1 := h.le ha hE hv hd
    have h2 := h'.2 v hv _ (h.1 v hv hd)
    exact ⟨by omega, h2⟩
  refine ⟨⟨fun q => (key hI' h h' q).1, fun q => (key hI h' h q).1⟩, fun q => ?_⟩
  have h1 := key hI' h h' q
  have h2 := key hI h' h h1.1
  omega
theorem isMin.sym {E : Nat → Nat → Nat → Prop} {a b I I' : Nat} {d d' : Nat → Nat} (ha : a < 16) (hb : b < 16) (hE : ∀ u v w, E u v w → v < 16 ∧ w ≤ 1) (hs : ∀ u v w, E u v w → E v u w) (hI : 15 < I) (hI' : 15 < I') (h : isMin E a I d) (h' : isMin E b I' d') : (d b < I ↔ d' a < I') ∧ (d b < I → d b = d' a) := by
  have key : ∀ {a b I I' : Nat} {d d' : Nat → Nat}, a < 16 → b < 16 → 15 < I' → isMin E a I d → isMin E b I' d' → d b < I → d' a < I' ∧ d' a ≤ d b := by
    intro a b I I' d d' ha hb hI' h h' hd
    obtain ⟨k, hk⟩ := h.1 b hb hd
    have h1 := h.le ha hE hb hd
    have h2 := h'.2 a ha _ ⟨k, wk_rev hs k b _ hk⟩
    exact ⟨by omega, h2⟩
  refine ⟨⟨fun q => (key ha hb hI' h h' q).1, fun q => (key hb ha hI h' h q).1⟩, fun q => ?_⟩
  have h1 := key ha hb hI' h h' q
  have h2 := key hb ha hI h' h h1.1
  omega
/-- closed up to level D, and sound: then least -/
theorem isMin.of {E : Nat → Nat → Nat → Prop} {a I D : Nat} {d : Nat → Nat} (ha : a < 16) (hE : ∀ u v w, E u v w → u < 16 ∧ v < 16 ∧ w ≤ 1) (h0 : d a = 0) (hD : 15 < D) (hDI : D ≤ I) (hs : ∀ v, v < 16 → d v < I → wW E a v (d v)) (hc : ∀ u v w, E u v w → d u < D → d v ≤ d u + w) : isMin E a I d := by
  refine ⟨hs, fun v hv c ⟨k, hk⟩ => ?_⟩
  obtain ⟨k', c', h1, h2, h3⟩ := wk_short ha (fun u v w e => (hE u v w e).2.1) k v c hk
  have key : ∀ k v c, k ≤ 15 → wk E a k v c → d v ≤ c := by
    intro k
    induction k with
    | zero => rintro v c - ⟨rfl, rfl⟩; omega
    | succ k ih =>
      rintro v c hk ⟨u, w, c', h1, h2, rfl⟩
      have g1 := ih u c' (by omega) h1
      have g2 := wk_le (fun u v w e => (hE u v w e).2.2) k u c' h1
      have g3 := hc u v w h2 (by omega)
      omega
  have := key k' v c' h1 h3
  omega
