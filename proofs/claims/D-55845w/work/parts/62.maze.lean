/-! the maze: cells, hedges, gaps; the twin lays its ways -/
set_option maxRecDepth 100000
/-- the neighbour in a direction, 99 for none -/
def nbN (c d : Nat) : Nat := if d = 0 then (if c < 4 then 99 else c - 4) else if d = 1 then (if c % 4 = 3 then 99 else c + 1) else if d = 2 then (if 12 ≤ c then 99 else c + 4) else (if c % 4 = 0 then 99 else c - 1)
/-- the hedge between two cells, 99 for none -/
def hgN (a b : Nat) : Nat := if max a b = min a b + 1 ∧ min a b % 4 < 3 then min a b / 4 * 3 + min a b % 4 else if max a b = min a b + 4 then 12 + min a b else 99
def enc (x : Nat) : Int32 := if x = 99 then -1 else Int32.ofNat x
theorem enc_nb : ∀ c, c < 16 → ∀ d, d < 4 → t_X1_neighbour (Int32.ofNat c) (Int32.ofNat d) = some (enc (nbN c d)) ∧ t_X3_nextTo (Int32.ofNat c) (Int32.ofNat d) = some (enc (nbN c d)) := by decide +kernel
theorem enc_hg : ∀ a, a < 16 → ∀ b, b < 16 → t_X1_hedgeOf (Int32.ofNat a) (Int32.ofNat b) = some (enc (hgN a b)) ∧ t_X3_hedgeAt (Int32.ofNat a) (Int32.ofNat b) = some (if hgN a b = 99 then -1 else Int32.ofNat (6 + hgN a b)) := by decide +kernel
theorem nb_lt : ∀ c, c < 16 → ∀ d, d < 4 → nbN c d = 99 ∨ (nbN c d < 16 ∧ hgN c (nbN c d) < 24 ∧ ∃ d', d' < 4 ∧ nbN (nbN c d) d' = c) := by decide +kernel
theorem hg_lt : ∀ a, a < 16 → ∀ b, b < 16 → hgN a b = 99 ∨ hgN a b < 24 := by decide +kernel
theorem hg_sym (a b : Nat) : hgN a b = hgN b a := by unfold hgN; rw [Nat.max_comm, Nat.min_comm]
theorem hg_nb : ∀ a, a < 16 → ∀ b, b < 16 → hgN a b ≠ 99 → ∃ d, d < 4 ∧ nbN a d = b := by decide +kernel
theorem enc99 : enc 99 = -1 := rfl
theorem enc_of {x : Nat} (h : x ≠ 99) : enc x = Int32.ofNat x := if_neg h
theorem enc_ne {x : Nat} (h : x < 99) : ¬ enc x = -1 := by rw [enc_of (by omega)]; exact iNeg (by omega)
/-- a gap between two cells -/
def gp (m : Nat → Int32) (a b : Nat) : Bool := decide (hgN a b ≠ 99) && decide (m (6 + hgN a b) < 5)
theorem gp_sym (m : Nat → Int32) (a b : Nat) : gp m a b = gp m b a := by unfold gp; rw [hg_sym]
/-- the edges: hours (t = false): gaps, 1 each; hedges to be trimmed (t = true): gaps 0, hedges 1 -/
def eE (t : Bool) (m : Nat → Int32) (u v w : Nat) : Prop := u < 16 ∧ v < 16 ∧ (∃ d, d < 4 ∧ nbN u d = v) ∧ ((gp m u v = true ∧ w = if t then 0 else 1) ∨ (gp m u v = false ∧ t = true ∧ w = 1))
theorem eE_ok {t : Bool} {m : Nat → Int32} (u v w : Nat) (h : eE t m u v w) : u < 16 ∧ v < 16 ∧ w ≤ 1 := by
  obtain ⟨h1, h2, -, ⟨-, h⟩ | ⟨-, -, h⟩⟩ := h
  · exact ⟨h1, h2, by cases t <;> simp_all⟩
  · exact ⟨h1, h2, by omega⟩
theorem eE_sym {t : Bool} {m : Nat → Int32} (u v w : Nat) (h : eE t m u v w) : eE t m v u w := by
  obtain ⟨h1, h2, ⟨d, hd, he⟩, h3⟩ := h
  refine ⟨h2, h1, ?_, ?_⟩
  · rcases nb_lt u h1 d hd with h | ⟨-, -, d', h4, h5⟩
    · omega
    · exact ⟨d', h4, by rw [he] at h5; exact h5⟩
  · rw [gp_sym m v u]; exact h3
theorem jmin_of {a b : Nat} (ha : a < 2147483648) (hb : b < 2147483648) : jmin (Int32.ofNat a) (Int32.ofNat b) = Int32.ofNat (min a b) := by
  unfold jmin
  by_cases h : b < a
  · rw [if_pos ((iLt hb ha).mpr h), Nat.min_eq_right (by omega)]
  · rw [if_neg (fun q => h ((iLt hb ha).mp q)), Nat.min_eq_left (by omega)]
theorem jmax_of {a b : Nat} (ha : a < 2147483648) (hb : b < 2147483648) : jmax (Int32.ofNat a) (Int32.ofNat b) = Int32.ofNat (max a b) := by
  unfold jmax
  by_cases h : a < b
  · rw [if_pos ((iLt ha hb).mpr h), Nat.max_eq_right (by omega)]
  · rw [if_neg (fun q => h ((iLt ha hb).mp q)), Nat.max_eq_left (by omega)]
/-! the twin -/
/-- its state with other ways -/
def sW (s : tS) (W : Nat → Int32) : tS := (s.1, va_up s.2 13 W)
theorem sW_same (s : tS) : sW s (s.2 13) = s := by
  unfold sW
  refine Prod.ext rfl ?_
  funext k
  by_cases h : k = 13 <;> simp [va_up, h]
theorem sW_13 (s : tS) (W : Nat → Int32) : (sW s W).2 13 = W := by simp [sW, va_up]
theorem sW_ne (s : tS) (W : Nat → Int32) {k : Nat} (h : k ≠ 13) : (sW s W).2 k = s.2 k := by simp [sW, va_up, h]
theorem sW_sW (s : tS) (W W' : Nat → Int32) : sW (sW s W) W' = sW s W' := by
  unfold sW
  refine Prod.ext rfl ?_
  funext k
  by_cases h : k = 13 <;> simp [va_up, h]
theorem tld_of {k n i : Nat} {s : tS} (hn : tLen k = n) (hi : i < n) (hs : i < 2147483648) : tld k s (Int32.ofNat i) = some (s.2 k i) := by
  unfold tld
  rw [hn, if_pos (inb_of hi hs), iNat hs]
theorem tst_of {k n i : Nat} {s : tS} {x : Int32} (hn : tLen k = n) (hi : i < n) (hs : i < 2147483648) : tst k s (Int32.ofNat i) x = some (s.1, va_up s.2 k (va_up (s.2 k) i x)) := by
  unfold tst
  rw [hn, if_pos (inb_of hi hs), iNat hs]
theorem tld_W {s : tS} {W : Nat → Int32} {i : Nat} (hi : i < 16) : tld 13 (sW s W) (Int32.ofNat i) = some (W i) := by
  rw [tld_of (n := 16) rfl hi (by omega), sW_13]
theorem tst_W {s : tS} {W : Nat → Int32} {i : Nat} {x : Int32} (hi : i < 16) : tst 13 (sW s W) (Int32.ofNat i) x = some (sW s (va_up W i x)) := by
  rw [tst_of (n := 16) rfl hi (by omega), sW_13]
  show some (sW (sW s W) (va_up W i x)) = _
  rw [sW_sW]
theorem tw_isGapAt {s : tS} {a b : Nat} (ha : a < 16) (hb : b < 16) : t_X3_isGapAt s (if hgN a b = 99 then -1 else Int32.ofNat (6 + hgN a b)) = some (if gp (s.2 0) a b then 1 else 0, s) := by
  unfold t_X3_isGapAt gp
  by_cases h : hgN a b = 99
  · simp [h]
  · have hl : hgN a b < 24 := by rcases hg_lt a ha b hb with h1 | h1 <;> omega
    rw [if_neg h, if_neg (iNeg (by omega)), tld_of (n := 86) rfl (by omega) (by omega)]
    simp only [Option.bind_some, h, ne_eq, not_false_eq_true, decide_true, Bool.true_and]
    by_cases g : s.2 0 (6 + hgN a b) < 5
    · rw [if_neg (Int32.not_le.mpr g)]; simp [g]
    · rw [if_pos (Int32.not_lt.mp g)]; simp [g]
/-- what the twin's row holds while it lays ways, seen from the start of a round -/
def lInv (t : Bool) (m : Nat → Int32) (a : Nat) (F0 : Nat → Nat) (cell dir : Nat) (F : Nat → Nat) : Prop :=
  (∀ v, v < 16 → F v ≤ 99) ∧ F a = 0 ∧ (∀ v, v < 16 → F v < 99 → wW (eE t m) a v (F v)) ∧ (∀ v, v < 16 → F v ≤ F0 v) ∧
  ∀ u v w, eE t m u v w → (u < cell ∨ (u = cell ∧ ∃ d, d < dir ∧ nbN u d = v)) → F v ≤ F0 u + w
/-- the row W holds the numbers F -/
def rW (W : Nat → Int32) (F : Nat → Nat) : Prop := ∀ j, j < 16 → W j = Int32.ofNat (F j)
theorem rW.up {W : Nat → Int32} {F : Nat → Nat} (h : rW W F) (i x : Nat) : rW (va_up W i (Int32.ofNat x)) (va_up F i x) := by
  intro j hj
  by_cases e : j = i
  · simp [va_up, e]
  · simp only [va_up, e, if_false]; exact h j hj
def b2i (b : Bool) : Int32 := if b then 1 else 0
def wby (t g : Bool) : Nat := if t then (if g then 0 else 1) else (if g then 1 else 99)
theorem lInv.step {t : Bool} {m : Nat → Int32} {a : Nat} {F0 F : Nat → Nat} {cell dir : Nat} (hc : cell < 16) (hd : dir < 4) (h : lInv t m a F0 cell dir F) (hn : nbN cell dir ≠ 99) : lInv t m a F0 cell (dir + 1) (va_up F (nbN cell dir) (min (F (nbN cell dir)) (F cell + wby t (gp m cell (nbN cell dir))))) := by
  obtain ⟨h1, h2, h3, h4, h5⟩ := h
  obtain ⟨g1, g2, -⟩ : nbN cell dir < 16 ∧ hgN cell (nbN cell dir) < 24 ∧ _ := by rcases nb_lt cell hc dir hd with q | q; exact absurd q hn; exact q
  generalize hv : nbN cell dir = v at *
  have hle : va_up F v (min (F v) (F cell + wby t (gp m cell v))) v ≤ F v := by simp [va_up]; omega
  have hmono : ∀ x, va_up F v (min (F v) (F cell + wby t (gp m cell v))) x ≤ F x := by
    intro x
    by_cases e : x = v
    · rw [e]; exact hle
    · simp [va_up, e]
  refine ⟨fun x hx => Nat.le_trans (hmono x) (h1 x hx), ?_, ?_, fun x hx => Nat.le_trans (hmono x) (h4 x hx), ?_⟩
  · have := hmono a; omega
  · intro x hx hlt
    by_cases e : x = v
    · subst e
      have hval : va_up F x (min (F x) (F cell + wby t (gp m cell x))) x = min (F x) (F cell + wby t (gp m cell x)) := by simp [va_up]
      rw [hval] at hlt ⊢
      by_cases q : F x ≤ F cell + wby t (gp m cell x)
      · rw [Nat.min_eq_left q] at hlt ⊢; exact h3 x hx hlt
      · rw [Nat.min_eq_right (by omega)] at hlt ⊢
        have hby : wby t (gp m cell x) ≤ 1 := by
          revert hlt
          generalize gp m cell x = g9
          cases t <;> cases g9 <;> simp [wby] <;> omega
        obtain ⟨k, hk⟩ := h3 cell hc (by omega)
        refine ⟨k + 1, cell, wby t (gp m cell x), F cell, hk, ⟨hc, hx, ⟨dir, hd, hv⟩, ?_⟩, rfl⟩
        revert hby
        generalize gp m cell x = g9
        cases t <;> cases g9 <;> simp [wby]
    · have hval : va_up F v (min (F v) (F cell + wby t (gp m cell v))) x = F x := by simp [va_up, e]
      rw [hval] at hlt ⊢
      exact h3 x hx hlt
  · intro u x w he hor
    by_cases hold : u < cell ∨ (u = cell ∧ ∃ d, d < dir ∧ nbN u d = x)
    · exact Nat.le_trans (hmono x) (h5 u x w he hold)
    · rcases hor with q | ⟨rfl, d, hd', hnb⟩
      · exact absurd (Or.inl q) hold
      · have hdd : d = dir := by
          by_cases e : d < dir
          · exact absurd (Or.inr ⟨rfl, d, e, hnb⟩) hold
          · omega
        subst hdd
        rw [hv] at hnb
        subst hnb
        have hval : va_up F v (min (F v) (F u + wby t (gp m u v))) v = min (F v) (F u + wby t (gp m u v)) := by simp [va_up]
        have hw : wby t (gp m u v) = w := by
          obtain ⟨-, -, -, ⟨q1, q2⟩ | ⟨q1, q2, q3⟩⟩ := he
          · unfold wby; rw [q1, q2]; cases t <;> rfl
          · unfold wby; rw [q1, q2, q3]; rfl
        have := h4 u hc
        rw [hval, hw]
        omega
theorem lInv.skip {t : Bool} {m : Nat → Int32} {a : Nat} {F0 F : Nat → Nat} {cell dir : Nat} (h : lInv t m a F0 cell dir F) (hn : nbN cell dir = 99) : lInv t m a F0 cell (dir + 1) F := by
  obtain ⟨h1, h2, h3, h4, h5⟩ := h
  refine ⟨h1, h2, h3, h4, fun u x w he hor => h5 u x w he ?_⟩
  rcases hor with q | ⟨rfl, d, hd', hnb⟩
  · exact Or.inl q
  · by_cases e : d = dir
    · subst e
      have := he.2.1
      omega
    · exact Or.inr ⟨rfl, d, by omega, hnb⟩
theorem lInv.cell {t : Bool} {m : Nat → Int32} {a : Nat} {F0 F : Nat → Nat} {cell : Nat} (h : lInv t m a F0 cell 4 F) : lInv t m a F0 (cell + 1) 0 F := by
  obtain ⟨h1, h2, h3, h4, h5⟩ := h
  refine ⟨h1, h2, h3, h4, fun u x w he hor => h5 u x w he ?_⟩
  rcases hor with q | ⟨-, d, hd', -⟩
  · by_cases e : u = cell
    · subst e
      obtain ⟨-, -, ⟨d, hd, hnb⟩, -⟩ := he
      exact Or.inr ⟨rfl, d, hd, hnb⟩
    · exact Or.inl (by omega)
  · omega
