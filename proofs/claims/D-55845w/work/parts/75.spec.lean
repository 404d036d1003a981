/-! what the changes do, on the row of numbers -/
set_option maxRecDepth 100000
def inR (x lo hi : Int32) : Bool := decide (lo ≤ x) && decide (x ≤ hi)
theorem co_isIn (x lo hi : Int32) : t_X1_isIn x lo hi = some (b2i (inR x lo hi)) := by
  unfold t_X1_isIn inR
  by_cases h1 : lo ≤ x
  · rw [if_neg (Int32.not_lt.mpr h1)]
    by_cases h2 : x ≤ hi
    · rw [if_neg (Int32.not_lt.mpr h2)]; simp [h1, h2, b2i]
    · rw [if_pos (Int32.not_le.mp h2)]; simp [h1, h2, b2i]
  · rw [if_pos (Int32.not_le.mp h1)]; simp [h1, b2i]
theorem tw_in {x lo hi : Int32} {lo' hi' : Int64} (h1 : lo.toInt64 = lo') (h2 : hi.toInt64 = hi') : t_X3_in x.toInt64 lo' hi' = some (b2i (inR x lo hi)) := by
  subst h1; subst h2
  unfold t_X3_in inR
  have le : ∀ a b : Int32, a.toInt64 < b.toInt64 ↔ a < b := fun a b => by rw [Int64.lt_iff_toInt_lt, Int32.lt_iff_toInt_lt, Int32.toInt_toInt64, Int32.toInt_toInt64]
  by_cases g1 : lo ≤ x
  · rw [if_neg (fun q => by rw [lg_cmp_lt, le] at q; exact absurd g1 (Int32.not_le.mpr q))]
    by_cases g2 : x ≤ hi
    · rw [if_neg (fun q => by rw [lg_cmp_gt, le] at q; exact absurd g2 (Int32.not_le.mpr q))]; simp [g1, g2, b2i]
    · rw [if_pos (by rw [lg_cmp_gt, le]; exact Int32.not_le.mp g2)]; simp [g1, g2, b2i]
  · rw [if_pos (by rw [lg_cmp_lt, le]; exact Int32.not_le.mp g1)]; simp [g1, b2i]
abbrev spR : Type := (Int32 × (Nat → Int32)) ⊕ (Int32 × Int32)
def cN (x : Int32) : Nat := x.toNatClampNeg
theorem cN_of {n : Nat} (h : n < 2147483648) : cN (Int32.ofNat n) = n := iNat h
def gapsI (m : Nat → Int32) : Int32 := foldN (fun k acc => acc + (if m (6 + k) < 5 then 1 else 0)) 24 0
def sp_hedge (m : Nat → Int32) (a b t : Int32) : spR :=
  if (inR a 0 15 && inR b 0 15 && inR t 0 9) = false then .inr (1, 0)
  else if hgN (cN a) (cN b) = 99 then .inr (2, jmax a b)
  else if m (6 + hgN (cN a) (cN b)) = t then .inr (3, t)
  else .inl (m (6 + hgN (cN a) (cN b)), va_up m (6 + hgN (cN a) (cN b)) t)
def summ (m : Nat → Int32) : Nat → Int32 := fun i => if i = 3 then m 3 + 1 else if 6 ≤ i ∧ i < 30 then jmin 9 (m i + 1) else m i
def sp_trim (m : Nat → Int32) (g a b : Int32) : spR :=
  if inR g 0 (m 0 - 1) = false then .inr (4, m 0)
  else if (inR a 0 15 && inR b 0 15) = false then .inr (1, 0)
  else if hgN (cN a) (cN b) = 99 then .inr (2, jmax a b)
  else if m (6 + hgN (cN a) (cN b)) = 0 then .inr (3, 0)
  else if m (30 + 4 * cN g) < 2 then .inr (5, 2 - m (30 + 4 * cN g))
  else .inl (m (30 + 4 * cN g) - 2, va_up (va_up (va_up (va_up m (6 + hgN (cN a) (cN b)) 0) (30 + 4 * cN g) (m (30 + 4 * cN g) - 2)) (30 + 4 * cN g + 3) (m (30 + 4 * cN g + 3) + 1)) 5 (m 5 + 2))
/-- a visitor met by the minotaur in cell c -/
def mstep (c : Int32) (j : Nat) (q : Int32 × (Nat → Int32)) : Int32 × (Nat → Int32) :=
  if q.2 (46 + 8 * j + 7) = 0 ∧ q.2 (46 + 8 * j + 1) = c then (q.1 + 1, if 0 < q.2 (46 + 8 * j + 5) then va_up q.2 (46 + 8 * j + 6) 1 else q.2) else q
def sp_minotaur (m : Nat → Int32) (c : Int32) : spR :=
  if inR c (-1) 15 = false then .inr (1, 0)
  else if m 2 = c then .inr (3, c)
  else .inl (foldN (mstep c) (cN (m 1)) (0, va_up m 2 c))
def sp_gardener (m : Nat → Int32) (x : Int32) : spR :=
  if inR x 0 99 = false then .inr (1, 0)
  else if m 0 = 4 then .inr (13, 4)
  else .inl (m 0 + 1 - 1, va_up (va_up (va_up m (30 + 4 * cN (m 0)) x) 4 (m 4 + x)) 0 (m 0 + 1))
/-- the least cost of a walk, 99 for none -/
noncomputable def dst (t : Bool) (m : Nat → Int32) (a : Nat) : Nat → Nat := @dite _ (∃ F, isMin (eE t m) a 99 F ∧ ∀ v, v < 16 → F v ≤ 99) (Classical.propDecidable _) (fun h => Classical.choose h) (fun _ => fun _ => 99)
theorem dst_eq {t : Bool} {m : Nat → Int32} {a : Nat} {F : Nat → Nat} (ha : a < 16) (h : isMin (eE t m) a 99 F) (hF : ∀ v, v < 16 → F v ≤ 99) {v : Nat} (hv : v < 16) : F v = dst t m a v := by
  have hex : ∃ F, isMin (eE t m) a 99 F ∧ ∀ v, v < 16 → F v ≤ 99 := ⟨F, h, hF⟩
  have hd : dst t m a = Classical.choose hex := by
    unfold dst
    rw [dif_pos hex]
  obtain ⟨g1, g2⟩ := Classical.choose_spec hex
  rw [← hd] at g1 g2
  have e := isMin.eq ha (fun u v w q => (eE_ok u v w q).2) (by omega) (by omega) h g1 hv
  by_cases q : F v < 99
  · exact e.2 q
  · have h1 := hF v hv
    have h2 := g2 v hv
    have h3 : ¬ dst t m a v < 99 := fun z => q (e.1.mpr z)
    omega
def bitI (k : Nat) : Int32 := 1 <<< (Int32.ofNat k &&& 31)
noncomputable def reaI (m : Nat → Int32) (a : Nat) : Int32 := foldN (fun c acc => acc ||| (if dst false m a c < 99 then bitI c else 0)) 16 0
noncomputable def reaN (m : Nat → Int32) (a : Nat) : Nat := foldN (fun c acc => acc ||| (if dst false m a c < 99 then 2 ^ c else 0)) 16 0
noncomputable def sp_visitor (m : Nat → Int32) (x : Int32) : spR :=
  if inR x 0 99 = false then .inr (1, 0)
  else if m 1 = 5 then .inr (13, 5)
  else if dst false m 0 15 = 99 then .inr (6, Int32.ofNat (onN (reaN m 0) 16))
  else .inl (m 1 + 1 - 1, va_up (va_up (va_up (va_up (va_up m (46 + 8 * cN (m 1)) x) (46 + 8 * cN (m 1) + 3) (Int32.ofNat (dst false m 0 15))) (46 + 8 * cN (m 1) + 4) (-1)) 4 (m 4 + x)) 1 (m 1 + 1))
def sp_bond (m : Nat → Int32) (g v rt : Int32) : spR :=
  if inR g 0 (m 0 - 1) = false then .inr (4, m 0)
  else if inR v 0 (m 1 - 1) = false then .inr (7, m 1)
  else if inR rt 1 5 = false then .inr (1, 0)
  else if m (46 + 8 * cN v + 7) = 1 then .inr (9, m (46 + 8 * cN v + 2))
  else if m (46 + 8 * cN v + 4) = -1 then
    if m (46 + 8 * cN v + 1) = m 2 then .inr (10, m 2)
    else if m (46 + 8 * cN v) < 2 * rt then .inr (5, 2 * rt - m (46 + 8 * cN v))
    else .inl (m (46 + 8 * cN v) - 2 * rt, va_up (va_up (va_up (va_up (va_up m (46 + 8 * cN v) (m (46 + 8 * cN v) - 2 * rt)) (46 + 8 * cN v + 4) g) (46 + 8 * cN v + 5) rt) (30 + 4 * cN g) (m (30 + 4 * cN g) + 2 * rt)) (30 + 4 * cN g + 1) (m (30 + 4 * cN g + 1) + 2 * rt))
  else .inr (8, m (46 + 8 * cN v + 4))
def sp_rest (m : Nat → Int32) (v hr : Int32) : spR :=
  if inR v 0 (m 1 - 1) = false then .inr (7, m 1)
  else if inR hr 1 9 = false then .inr (1, 0)
  else if m (46 + 8 * cN v + 7) = 1 then .inr (9, m (46 + 8 * cN v + 2))
  else .inl (m (46 + 8 * cN v + 2) + hr, va_up m (46 + 8 * cN v + 2) (m (46 + 8 * cN v + 2) + hr))
/-- a visitor's step into cell nx: the cell, the hours, whether the bond is void -/
def wk1 (m : Nat → Int32) (j nx : Nat) : Nat → Int32 := fun i => if i = 46 + 8 * j + 1 then Int32.ofNat nx else if i = 46 + 8 * j + 2 then m i + 1 else if i = 46 + 8 * j + 6 then (if Int32.ofNat nx = m 2 ∧ 0 < m (46 + 8 * j + 5) then 1 else m i) else m i
def lostI (m : Nat → Int32) (j : Nat) : Int32 := jmax 0 (m (46 + 8 * j + 2) - m (46 + 8 * j + 3))
/-- what the bond pays in the exit -/
def paidI (m : Nat → Int32) (j : Nat) : Int32 := if m (46 + 8 * j + 4) = -1 ∨ m (46 + 8 * j + 6) = 1 then 0 else jmin (m (46 + 8 * j + 5) * lostI m j) (m (30 + 4 * cN (m (46 + 8 * j + 4))))
def settl (m : Nat → Int32) (j : Nat) : Nat → Int32 := fun i =>
  if i = 46 + 8 * j then m i + paidI m j else if i = 46 + 8 * j + 7 then 1 else if i = 46 + 8 * j + 4 then -1 else if i = 46 + 8 * j + 5 then 0 else if i = 46 + 8 * j + 6 then 0
  else if m (46 + 8 * j + 4) = -1 then m i else if i = 30 + 4 * cN (m (46 + 8 * j + 4)) then m i - paidI m j else if i = 30 + 4 * cN (m (46 + 8 * j + 4)) + 2 then m i + paidI m j else m i
def sp_walk (m : Nat → Int32) (v d : Int32) : spR :=
  if inR v 0 (m 1 - 1) = false then .inr (7, m 1)
  else if inR d 0 3 = false then .inr (1, 0)
  else if m (46 + 8 * cN v + 7) = 1 then .inr (9, m (46 + 8 * cN v + 2))
  else if nbN (cN (m (46 + 8 * cN v + 1))) (cN d) = 99 then .inr (11, m (46 + 8 * cN v + 1))
  else if gp m (cN (m (46 + 8 * cN v + 1))) (nbN (cN (m (46 + 8 * cN v + 1))) (cN d)) = false then .inr (12, m (6 + hgN (cN (m (46 + 8 * cN v + 1))) (nbN (cN (m (46 + 8 * cN v + 1))) (cN d))))
  else .inl (Int32.ofNat (nbN (cN (m (46 + 8 * cN v + 1))) (cN d)), if nbN (cN (m (46 + 8 * cN v + 1))) (cN d) = 15 then settl (wk1 m (cN v) 15) (cN v) else wk1 m (cN v) (nbN (cN (m (46 + 8 * cN v + 1))) (cN d)))
/-! the invariant of the row -/
def wfv (B ng : Nat) (m : Nat → Int32) (j : Nat) : Prop := ∃ c hr al, c < 16 ∧ hr ≤ B ∧ al ≤ 15 ∧ m (46 + 8 * j + 1) = Int32.ofNat c ∧ m (46 + 8 * j + 2) = Int32.ofNat hr ∧ m (46 + 8 * j + 3) = Int32.ofNat al ∧ m (46 + 8 * j + 7) = (if c = 15 then 1 else 0) ∧
  ((m (46 + 8 * j + 4) = -1 ∧ m (46 + 8 * j + 5) = 0 ∧ m (46 + 8 * j + 6) = 0) ∨ (∃ g rt, g < ng ∧ 1 ≤ rt ∧ rt ≤ 5 ∧ m (46 + 8 * j + 4) = Int32.ofNat g ∧ m (46 + 8 * j + 5) = Int32.ofNat rt ∧ (m (46 + 8 * j + 6) = 0 ∨ m (46 + 8 * j + 6) = 1) ∧ c ≠ 15))
def wfn (B ng nv : Nat) (m : Nat → Int32) : Prop := m 0 = Int32.ofNat ng ∧ m 1 = Int32.ofNat nv ∧ ng ≤ 4 ∧ nv ≤ 5 ∧ (∀ k, k < 24 → ∃ x, x ≤ 9 ∧ m (6 + k) = Int32.ofNat x) ∧ (m 2 = -1 ∨ ∃ c, c < 16 ∧ m 2 = Int32.ofNat c) ∧
  (∀ j, j < ng → ∃ x, x ≤ B ∧ m (30 + 4 * j) = Int32.ofNat x) ∧ (∀ j, j < nv → wfv B ng m j) ∧ (∀ j i, ng ≤ j → j < 4 → i < 4 → m (30 + 4 * j + i) = 0) ∧ ∀ j i, nv ≤ j → j < 5 → i < 8 → m (46 + 8 * j + i) = 0
def wfm (B : Nat) (m : Nat → Int32) : Prop := ∃ ng nv, wfn B ng nv m
