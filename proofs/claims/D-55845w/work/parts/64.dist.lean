/-! the component's ways: distances -/
set_option maxRecDepth 100000
/-- the heap with the row f at A -/
def hF (Z : aZ) (hb : aH) (A : Nat) (f : Nat → Int32) : aH := hset hb A (.inl (zI Z, 16, .inl f))
theorem hF_at {Z : aZ} {hb : aH} {A : Nat} {f : Nat → Int32} : (hF Z hb A f).1 A = some (.inl (zI Z, 16, .inl f)) := hset_at
theorem hF_ld {Z : aZ} {hb : aH} {A : Nat} {f : Nat → Int32} {i : Nat} (hi : i < 16) : ldI Z (hF Z hb A f) A (Int32.ofNat i) = some (f i) := ldI_of hF_at hi (by omega)
theorem hF_st {Z : aZ} {hb : aH} {A : Nat} {f : Nat → Int32} {i : Nat} {x : Int32} (hi : i < 16) (hz : z0 Z ≤ A) : stI Z (hF Z hb A f) A (Int32.ofNat i) x = some (hF Z hb A (va_up f i x)) := by
  rw [stI_of hF_at hi (by omega) hz]
  unfold hF
  rw [hset_hset]
/-- the leaves of the core at o, seen beside the row at A -/
def lvA (Z : aZ) (h : aH) (o : Nat) (m : Nat → Int32) (A : Nat) : Prop := ∃ (L : Nat) (rest : List Value) (f : Nat → Int32), h.1 o = some (.inr (1, .ref L :: rest)) ∧ h.1 L = some (.inl (zI Z, 24, .inl f)) ∧ (∀ k, k < 24 → f k = m (6 + k)) ∧ o ≠ A ∧ L ≠ A
theorem lvA.isC {Z : aZ} {h : aH} {o : Nat} {m : Nat → Int32} {A : Nat} (l : lvA Z h o m A) {f : Nat → Int32} : isC 1 (hF Z h A f) o = true := by
  obtain ⟨L, rest, g, h1, -, -, h4, -⟩ := l
  exact isC_of (fs := .ref L :: rest) (by unfold hF; rw [hset_ne h4]; exact h1)
theorem gap_of {Z : aZ} {h : aH} {o L : Nat} {rest : List Value} {f m : Nat → Int32} {a b : Nat} (h1 : h.1 o = some (.inr (1, .ref L :: rest))) (h2 : h.1 L = some (.inl (zI Z, 24, .inl f))) (h3 : ∀ k, k < 24 → f k = m (6 + k)) (ha : a < 16) (hb : b < 16) : t_X2_isGap Z h o (Int32.ofNat a) (Int32.ofNat b) = some (b2i (gp m a b), h) := by
  unfold t_X2_isGap gp
  rw [(enc_hg a ha b hb).1, Option.bind_some]
  by_cases q : hgN a b = 99
  · rw [q, enc99, if_pos rfl]; rfl
  · have hl : hgN a b < 24 := by rcases hg_lt a ha b hb with h | h <;> omega
    rw [enc_of q, if_neg (iNeg (by omega)), gA_of (k := 0) h1 rfl, Option.bind_some, ldI_of h2 hl (by omega), Option.bind_some, h3 _ hl]
    by_cases g : m (6 + hgN a b) < 5
    · rw [if_neg (Int32.not_le.mpr g)]; simp [g, q, b2i]
    · rw [if_pos (Int32.not_lt.mp g)]; simp [g, q, b2i]
theorem lvA.gap {Z : aZ} {h : aH} {o : Nat} {m : Nat → Int32} {A : Nat} (l : lvA Z h o m A) {f : Nat → Int32} {a b : Nat} (ha : a < 16) (hb : b < 16) : t_X2_isGap Z (hF Z h A f) o (Int32.ofNat a) (Int32.ofNat b) = some (b2i (gp m a b), hF Z h A f) := by
  obtain ⟨L, rest, g, h1, h2, h3, h4, h5⟩ := l
  exact gap_of (by unfold hF; rw [hset_ne h4]; exact h1) (by unfold hF; rw [hset_ne h5]; exact h2) h3 ha hb
theorem nb_ne : ∀ c, c < 16 → ∀ d, d < 4 → nbN c d ≠ c := by decide +kernel
/-- the sum over the cells -/
def S16 (F : Nat → Nat) : Nat := F 0 + F 1 + F 2 + F 3 + F 4 + F 5 + F 6 + F 7 + F 8 + F 9 + F 10 + F 11 + F 12 + F 13 + F 14 + F 15
theorem S16_up (F : Nat → Nat) (v x : Nat) (hv : v < 16) : S16 (va_up F v x) + F v = S16 F + x := by
  have h : v = 0 ∨ v = 1 ∨ v = 2 ∨ v = 3 ∨ v = 4 ∨ v = 5 ∨ v = 6 ∨ v = 7 ∨ v = 8 ∨ v = 9 ∨ v = 10 ∨ v = 11 ∨ v = 12 ∨ v = 13 ∨ v = 14 ∨ v = 15 := by omega
  rcases h with rfl | rfl | rfl | rfl | rfl | rfl | rfl | rfl | rfl | rfl | rfl | rfl | rfl | rfl | rfl | rfl <;> (simp [S16, va_up]; omega)
theorem S16_le (F : Nat → Nat) (c : Nat) (h : ∀ v, v < 16 → F v ≤ c) : S16 F ≤ 16 * c := by
  unfold S16
  have h0 := h 0 (by omega); have h1 := h 1 (by omega); have h2 := h 2 (by omega); have h3 := h 3 (by omega)
  have h4 := h 4 (by omega); have h5 := h 5 (by omega); have h6 := h 6 (by omega); have h7 := h 7 (by omega)
  have h8 := h 8 (by omega); have h9 := h 9 (by omega); have h10 := h 10 (by omega); have h11 := h 11 (by omega)
  have h12 := h 12 (by omega); have h13 := h 13 (by omega); have h14 := h 14 (by omega); have h15 := h 15 (by omega)
  omega
def ind (D : Nat) (F : Nat → Nat) : Nat → Nat := fun v => if D < F v then 1 else 0
theorem ind_up (D : Nat) (F : Nat → Nat) (v x : Nat) : ind D (va_up F v x) = va_up (ind D F) v (if D < x then 1 else 0) := by
  funext j
  by_cases h : j = v <;> simp [ind, va_up, h]
/-- the row f holds the distances F, 99 for none -/
def fE (f : Nat → Int32) (F : Nat → Nat) : Prop := ∀ j, j < 16 → f j = enc (F j)
theorem fE.up {f : Nat → Int32} {F : Nat → Nat} (h : fE f F) (i : Nat) {x : Nat} : fE (va_up f i (enc x)) (va_up F i x) := by
  intro j hj
  by_cases e : j = i
  · simp [va_up, e]
  · simp only [va_up, e, if_false]; exact h j hj
def bInv (t : Bool) (m : Nat → Int32) (a D : Nat) (F : Nat → Nat) : Prop := (∀ v, v < 16 → F v = 99 ∨ F v ≤ D + 1) ∧ F a = 0 ∧ (∀ v, v < 16 → F v < 99 → wW (eE t m) a v (F v)) ∧ ∀ u v w, eE t m u v w → F u < D → F v ≤ F u + w
def sInv (t : Bool) (m : Nat → Int32) (a D N cell dir : Nat) (F : Nat → Nat) (g : Bool) : Prop := bInv t m a D F ∧ (g = false → ∀ u v w, eE t m u v w → F u = D → (u < cell ∨ (u = cell ∧ ∃ d, d < dir ∧ nbN u d = v)) → F v ≤ D + w) ∧ S16 (ind D F) ≤ N ∧ (g = true → S16 (ind D F) < N)
/-- a neighbour's new distance, and whether it is now as far -/
def nwF (t g : Bool) (D x : Nat) : Nat := if t then (if g then (if D < x then D else x) else (if x = 99 then D + 1 else x)) else (if g = true ∧ x = 99 then D + 1 else x)
def nwG (t g : Bool) (D x : Nat) : Bool := t && (g && decide (D < x))
theorem sInv.step {t : Bool} {m : Nat → Int32} {a D N cell dir : Nat} {F : Nat → Nat} {g : Bool} (hD : D < 98) (hc : cell < 16) (hd : dir < 4) (hFc : F cell = D) (h : sInv t m a D N cell dir F g) (hn : nbN cell dir ≠ 99) :
    sInv t m a D N cell (dir + 1) (va_up F (nbN cell dir) (nwF t (gp m cell (nbN cell dir)) D (F (nbN cell dir)))) (g || nwG t (gp m cell (nbN cell dir)) D (F (nbN cell dir))) ∧ va_up F (nbN cell dir) (nwF t (gp m cell (nbN cell dir)) D (F (nbN cell dir))) cell = D := by
  obtain ⟨⟨b1, b2, b3, b4⟩, c1, c2, c3⟩ := h
  obtain ⟨g1, g2, -⟩ : nbN cell dir < 16 ∧ hgN cell (nbN cell dir) < 24 ∧ _ := by rcases nb_lt cell hc dir hd with q | q; exact absurd q hn; exact q
  have hne := nb_ne cell hc dir hd
  generalize hv : nbN cell dir = v at *
  generalize hq : gp m cell v = q at *
  have hedge : ∀ w, ((q = true ∧ w = if t then 0 else 1) ∨ (q = false ∧ t = true ∧ w = 1)) → eE t m cell v w := fun w hw => ⟨hc, g1, ⟨dir, hd, hv⟩, by rw [hq]; exact hw⟩
  have hx := b1 v g1
  -- the new value
  have hle : nwF t q D (F v) ≤ F v := by
    unfold nwF
    rcases hx with e | e
    · cases t <;> cases q <;> simp [e] <;> (try split) <;> omega
    · cases t <;> cases q <;> simp <;> (try split) <;> omega
  have hmono : ∀ x, va_up F v (nwF t q D (F v)) x ≤ F x := by
    intro x
    by_cases e : x = v
    · simp [va_up, e, hle]
    · simp [va_up, e]
  have hcell : va_up F v (nwF t q D (F v)) cell = D := by simp [va_up, Ne.symm hne, hFc]
  have hval : va_up F v (nwF t q D (F v)) v = nwF t q D (F v) := by simp [va_up]
  have hlow : ∀ u, u < 16 → va_up F v (nwF t q D (F v)) u < D → F u < D ∧ va_up F v (nwF t q D (F v)) u = F u := by
    intro u hu hlt
    by_cases e : u = v
    · subst e
      rw [hval] at hlt ⊢
      unfold nwF at hlt ⊢
      cases t <;> cases q <;> simp at hlt ⊢ <;> (repeat' split at hlt) <;> (repeat' split) <;> omega
    · simp only [va_up, e, if_false] at hlt ⊢
      exact ⟨hlt, trivial⟩
  refine ⟨⟨⟨fun x hx9 => ?_, ?_, fun x hx9 hlt => ?_, fun u x w he hlt => ?_⟩, fun hg u x w he hu hor => ?_, ?_, fun hg => ?_⟩, hcell⟩
  · by_cases e : x = v
    · subst e
      rw [hval]
      unfold nwF
      rcases hx with e | e
      · cases t <;> cases q <;> simp [e] <;> (try split) <;> omega
      · cases t <;> cases q <;> simp <;> (repeat' split) <;> omega
    · simp only [va_up, e, if_false]; exact b1 x hx9
  · have := hmono a; omega
  · by_cases e : x = v
    · subst e
      rw [hval] at hlt ⊢
      have hold : F x < 99 → wW (eE t m) a x (F x) := b3 x hx9
      obtain ⟨k, hk⟩ := b3 cell hc (by omega)
      rw [hFc] at hk
      have hstep : ∀ w, eE t m cell x w → wW (eE t m) a x (D + w) := fun w he => ⟨k + 1, cell, w, D, hk, he, rfl⟩
      unfold nwF at hlt ⊢
      cases t <;> cases q <;> simp only [Bool.false_eq_true, if_false, if_true, false_and, true_and] at hlt ⊢
      · exact hold hlt
      · split at hlt
        · rename_i e9; rw [if_pos e9]; exact hstep 1 (hedge 1 (Or.inl ⟨rfl, rfl⟩))
        · rename_i e9; rw [if_neg e9]; exact hold hlt
      · split at hlt
        · rename_i e9; rw [if_pos e9]; exact hstep 1 (hedge 1 (Or.inr ⟨rfl, rfl, rfl⟩))
        · rename_i e9; rw [if_neg e9]; exact hold hlt
      · split at hlt
        · rename_i e9; rw [if_pos e9]; exact hstep 0 (hedge 0 (Or.inl ⟨rfl, rfl⟩))
        · rename_i e9; rw [if_neg e9]; exact hold hlt
    · have h9 : va_up F v (nwF t q D (F v)) x = F x := by simp [va_up, e]
      rw [h9] at hlt ⊢
      exact b3 x hx9 hlt
  · obtain ⟨q1, q2⟩ := hlow u (eE_ok _ _ _ he).1 hlt
    have := b4 u x w he q1
    have := hmono x
    omega
  · have hg1 : g = false := by cases g <;> simp_all
    have hg2 : nwG t q D (F v) = false := by rw [hg1] at hg; simpa using hg
    -- u was D already
    have hu9 : F u = D := by
      by_cases e : u = v
      · subst e
        rw [hval] at hu
        unfold nwF at hu
        unfold nwG at hg2
        cases t <;> cases q <;> simp at hu hg2
        · exact hu
        · split at hu <;> omega
        · split at hu <;> omega
        · exact hu hg2
      · simpa [va_up, e] using hu
    by_cases hold : u < cell ∨ (u = cell ∧ ∃ d, d < dir ∧ nbN u d = x)
    · have := c1 hg1 u x w he hu9 hold
      have := hmono x
      omega
    · rcases hor with q9 | ⟨rfl, d, hd', hnb⟩
      · exact absurd (Or.inl q9) hold
      · have hdd : d = dir := by
          by_cases e : d < dir
          · exact absurd (Or.inr ⟨rfl, d, e, hnb⟩) hold
          · omega
        subst hdd
        rw [hv] at hnb
        subst hnb
        rw [hval]
        obtain ⟨-, -, -, he⟩ := he
        rw [hq] at he
        unfold nwF
        unfold nwG at hg2
        rcases he with ⟨rfl, rfl⟩ | ⟨rfl, rfl, rfl⟩
        · cases t <;> simp at hg2 ⊢
          · split <;> rcases hx with e | e <;> omega
          · split <;> omega
        · simp
          split <;> rcases hx with e | e <;> omega
  · rw [ind_up]
    have := S16_up (ind D F) v (if D < nwF t q D (F v) then 1 else 0) g1
    have h9 : (if D < nwF t q D (F v) then 1 else 0) ≤ ind D F v := by
      unfold ind
      split <;> split <;> omega
    omega
  · rw [ind_up]
    have h8 := S16_up (ind D F) v (if D < nwF t q D (F v) then 1 else 0) g1
    have h9 : (if D < nwF t q D (F v) then 1 else 0) ≤ ind D F v := by
      unfold ind
      split <;> split <;> omega
    cases hgg : g with
    | true => have := c3 hgg; omega
    | false =>
      rw [hgg] at hg
      have hg2 : nwG t q D (F v) = true := by simpa using hg
      unfold nwG at hg2
      simp at hg2
      obtain ⟨rfl, rfl, hlt⟩ := hg2
      have e1 : nwF true true D (F v) = D := by unfold nwF; simp [hlt]
      have e2 : ind D F v = 1 := by unfold ind; simp [hlt]
      rw [e1] at h8 h9 ⊢
      simp at h8 ⊢
      omega
theorem sInv.skip {t : Bool} {m : Nat → Int32} {a D N cell dir : Nat} {F : Nat → Nat} {g : Bool} (h : sInv t m a D N cell dir F g) (hn : nbN cell dir = 99) : sInv t m a D N cell (dir + 1) F g := by
  obtain ⟨h1, h2, h3, h4⟩ := h
  refine ⟨h1, fun hg u x w he hu hor => h2 hg u x w he hu ?_, h3, h4⟩
  rcases hor with q | ⟨rfl, d, hd', hnb⟩
  · exact Or.inl q
  · by_cases e : d = dir
    · subst e
      have := he.2.1
      omega
    · exact Or.inr ⟨rfl, d, by omega, hnb⟩
theorem sInv.cell {t : Bool} {m : Nat → Int32} {a D N cell : Nat} {F : Nat → Nat} {g : Bool} (h : sInv t m a D N cell 4 F g) : sInv t m a D N (cell + 1) 0 F g := by
  obtain ⟨h1, h2, h3, h4⟩ := h
  refine ⟨h1, fun hg u x w he hu hor => h2 hg u x w he hu ?_, h3, h4⟩
  rcases hor with q | ⟨-, d, hd', -⟩
  · by_cases e : u = cell
    · subst e
      obtain ⟨-, -, ⟨d, hd, hnb⟩, -⟩ := he
      exact Or.inr ⟨rfl, d, hd, hnb⟩
    · exact Or.inl (by omega)
  · omega
theorem sInv.pass {t : Bool} {m : Nat → Int32} {a D N cell : Nat} {F : Nat → Nat} {g : Bool} (h : sInv t m a D N cell 0 F g) (hn : F cell ≠ D) : sInv t m a D N (cell + 1) 0 F g := by
  obtain ⟨h1, h2, h3, h4⟩ := h
  refine ⟨h1, fun hg u x w he hu hor => h2 hg u x w he hu ?_, h3, h4⟩
  rcases hor with q | ⟨-, d, hd', -⟩
  · by_cases e : u = cell
    · subst e; exact absurd hu hn
    · exact Or.inl (by omega)
  · omega
