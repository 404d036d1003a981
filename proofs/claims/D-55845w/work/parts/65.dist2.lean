/-! the component's ways: distances, walked -/
set_option maxRecDepth 100000
theorem b2i_or (a b : Bool) : b2i a ||| b2i b = b2i (a || b) := by cases a <;> cases b <;> decide
theorem b2i_0 (a : Bool) : b2i a = 0 ↔ a = false := by cases a <;> simp [b2i]
theorem b2i_01 (a : Bool) : b2i a = 0 ∨ b2i a = 1 := by cases a <;> simp [b2i]
theorem enc_add {D : Nat} (h : D < 98) : enc D + 1 = enc (D + 1) := by rw [enc_of (by omega), enc_of (by omega), iAdd1]
theorem enc_le {x y : Nat} (hx : x < 99) (hy : y < 99) : enc x ≤ enc y ↔ x ≤ y := by rw [enc_of (by omega), enc_of (by omega)]; exact iLe (by omega) (by omega)
theorem enc_eq {x y : Nat} (hx : x ≤ 99) (hy : y ≤ 99) : enc x = enc y ↔ x = y := by
  by_cases a : x = 99 <;> by_cases b : y = 99
  · rw [a, b]; exact ⟨fun _ => rfl, fun _ => rfl⟩
  · rw [a, enc99, enc_of b]; exact ⟨fun h => absurd h.symm (iNeg (by omega)), fun h => absurd h.symm b⟩
  · rw [b, enc99, enc_of a]; exact ⟨fun h => absurd h (iNeg (by omega)), fun h => absurd h a⟩
  · rw [enc_of a, enc_of b]; exact iEq (by omega) (by omega)
theorem fE.same {f : Nat → Int32} {F : Nat → Nat} (h : fE f F) (v : Nat) {x : Nat} (hx : x = F v) : fE f (va_up F v x) := by
  intro j hj
  by_cases e : j = v
  · subst e; simp [va_up, hx]; exact h j hj
  · simp only [va_up, e, if_false]; exact h j hj
theorem co_l41 {Z : aZ} {hb : aH} {o A : Nat} {t q gin : Bool} {D cell v : Nat} {f : Nat → Int32} {F : Nat → Nat} {v5 : Int32} (hz : z0 Z ≤ A) (hD : D < 98) (hc : cell < 16) (hv : v < 16) (hf : fE f F) (hFc : F cell = D) (hFv : F v ≤ 99) :
    Ok (t_X2_spreadFrom_l41 Z (hF Z hb A f) o A (Int32.ofNat cell) (b2i t) (b2i gin) v5 (Int32.ofNat v) (b2i q)) (fun r => ∃ f', r = .inl (o, A, Int32.ofNat cell, b2i t, b2i (gin || nwG t q D (F v)), v5 + 1, hF Z hb A f') ∧ fE f' (va_up F v (nwF t q D (F v)))) := by
  have hld : ldI Z (hF Z hb A f) A (Int32.ofNat v) = some (enc (F v)) := by rw [hF_ld hv, hf v hv]
  have hlc : ldI Z (hF Z hb A f) A (Int32.ofNat cell) = some (enc D) := by rw [hF_ld hc, hf cell hc, hFc]
  have h98 : t = true → F v ≠ 99 → t_X2_spreadFrom_l98 Z (hF Z hb A f) o A (Int32.ofNat cell) (b2i t) (b2i gin) v5 (Int32.ofNat v) = some (.inl (o, A, Int32.ofNat cell, b2i t, b2i gin, v5 + 1, hF Z hb A f)) := by
    intro ht hne
    subst ht
    unfold t_X2_spreadFrom_l98
    rw [if_neg (iNeg (by omega)), if_neg (by decide), hld, Option.bind_some, if_neg (enc_ne (by omega))]
    rfl
  have h98f : t = false → t_X2_spreadFrom_l98 Z (hF Z hb A f) o A (Int32.ofNat cell) (b2i t) (b2i gin) v5 (Int32.ofNat v) = some (.inl (o, A, Int32.ofNat cell, b2i t, b2i gin, v5 + 1, hF Z hb A f)) := by
    intro ht
    subst ht
    unfold t_X2_spreadFrom_l98
    rw [if_neg (iNeg (by omega)), if_pos (by decide)]
    rfl
  have h70 : t_X2_spreadFrom_l70 Z (hF Z hb A f) o A (Int32.ofNat cell) (b2i t) (b2i gin) v5 (Int32.ofNat v) = some (.inl (o, A, Int32.ofNat cell, b2i t, b2i (gin || t), v5 + 1, hF Z hb A (va_up f v (enc (if t then D else D + 1))))) := by
    unfold t_X2_spreadFrom_l70 t_X2_spreadFrom_l88 t_X2_spreadFrom_l125
    cases t
    · rw [if_pos (by decide), hlc, Option.bind_some, hF_st hv hz, Option.bind_some, b2i_or, enc_add hD]
      rfl
    · rw [if_neg (by decide), hlc, Option.bind_some, hF_st hv hz, Option.bind_some, b2i_or]
      rfl
  unfold t_X2_spreadFrom_l41
  cases q
  · refine Ok.pos (by decide) ?_
    cases t
    · rw [h98f rfl]
      exact Ok.ret ⟨f, by simp [nwG], hf.same v (by simp [nwF])⟩
    · by_cases e : F v = 99
      · unfold t_X2_spreadFrom_l98 t_X2_spreadFrom_l125
        rw [if_neg (iNeg (by omega)), if_neg (by decide), hld, Option.bind_some, e, enc99, if_pos rfl, hlc, Option.bind_some, enc_add hD, hF_st hv hz, Option.bind_some]
        exact Ok.ret ⟨va_up f v (enc (D + 1)), by simp [nwG], by have := hf.up v (x := D + 1); simpa [nwF] using this⟩
      · rw [h98 rfl e]
        exact Ok.ret ⟨f, by simp [nwG], hf.same v (by simp [nwF, e])⟩
  · refine Ok.neg (by decide) ?_
    rw [hld, Option.bind_some]
    by_cases e : F v = 99
    · rw [e, enc99, if_pos rfl, h70]
      cases t
      · exact Ok.ret ⟨va_up f v (enc (D + 1)), by simp [nwG], by have := hf.up v (x := D + 1); simpa [nwF] using this⟩
      · have hlt : D < 99 := by omega
        exact Ok.ret ⟨va_up f v (enc D), by simp [nwG, hlt], by have := hf.up v (x := D); simpa [nwF, hlt] using this⟩
    · rw [if_neg (enc_ne (by omega))]
      cases t
      · rw [if_pos (by decide), h98f rfl]
        exact Ok.ret ⟨f, by simp [nwG], hf.same v (by simp [nwF, e])⟩
      · rw [if_neg (by decide), Option.bind_some, hlc, Option.bind_some]
        by_cases l : F v ≤ D
        · rw [if_pos ((enc_le (by omega) (by omega)).mpr l), h98 rfl e]
          have hlt : ¬ D < F v := by omega
          exact Ok.ret ⟨f, by simp [nwG, hlt], hf.same v (by simp [nwF, hlt])⟩
        · rw [if_neg (fun q => l ((enc_le (by omega) (by omega)).mp q)), h70]
          have hlt : D < F v := by omega
          exact Ok.ret ⟨va_up f v (enc D), by simp [nwG, hlt], by have := hf.up v (x := D); simpa [nwF, hlt] using this⟩
theorem bInv.le {t : Bool} {m : Nat → Int32} {a D : Nat} {F : Nat → Nat} (h : bInv t m a D F) (hD : D < 98) {v : Nat} (hv : v < 16) : F v ≤ 99 := by rcases h.1 v hv with e | e <;> omega
theorem co_from {Z : aZ} {hb : aH} {o A : Nat} {t gout : Bool} {m : Nat → Int32} {a D N cell : Nat} {f : Nat → Int32} {F : Nat → Nat} (l : lvA Z hb o m A) (hz : z0 Z ≤ A) (hD : D < 98) (hc : cell < 16) (hf : fE f F) (hFc : F cell = D) (h : sInv t m a D N cell 0 F gout) :
    Ok (t_X2_spreadFrom Z (hF Z hb A f) o A (Int32.ofNat cell) (b2i t)) (fun r => ∃ F' f' gin, r = (b2i gin, hF Z hb A f') ∧ fE f' F' ∧ sInv t m a D N (cell + 1) 0 F' (gout || gin)) := by
  unfold t_X2_spreadFrom
  refine wlo_for 4 (fun i st => ∃ F' f' gin, st = (o, A, Int32.ofNat cell, b2i t, b2i gin, Int32.ofNat i, hF Z hb A f') ∧ fE f' F' ∧ F' cell = D ∧ sInv t m a D N cell i F' (gout || gin)) _ ?_ ?_ (i := 0) ⟨F, f, false, rfl, hf, hFc, by simpa using h⟩ (by omega) (by omega)
  · rintro i st hi ⟨F', f', gin, rfl, hf', hc', hinv⟩
    refine Or.inl ?_
    unfold t_X2_spreadFrom_b6
    dsimp only
    rw [if_neg (fun q => by have := (iLe (a := 4) (b := i) (by omega) (by omega)).mp q; omega), (enc_nb cell hc i hi).1, Option.bind_some]
    by_cases hn : nbN cell i = 99
    · rw [hn, enc99, if_pos rfl]
      refine ⟨_, ?_, F', f', gin, rfl, hf', hc', hinv.skip hn⟩
      unfold t_X2_spreadFrom_l40 t_X2_spreadFrom_l41 t_X2_spreadFrom_l98 t_X2_spreadFrom_l125
      rw [if_pos rfl, if_pos rfl, ← iAdd1]
    · obtain ⟨g1, g2, -⟩ : nbN cell i < 16 ∧ hgN cell (nbN cell i) < 24 ∧ _ := by rcases nb_lt cell hc i hi with q | q; exact absurd q hn; exact q
      have h9 := hinv.step hD hc hi hc' hn
      rw [enc_of hn, if_neg (iNeg (by omega)), if_pos l.isC, l.gap hc g1, Option.bind_some]
      dsimp only
      obtain ⟨r, e1, f2, rfl, hf2⟩ := co_l41 (Z := Z) (hb := hb) (o := o) (A := A) (t := t) (q := gp m cell (nbN cell i)) (gin := gin) (v5 := Int32.ofNat i) hz hD hc g1 hf' hc' (hinv.1.le hD g1)
      refine ⟨_, ?_, _, f2, _, rfl, hf2, h9.2, by rw [← Bool.or_assoc]; exact h9.1⟩
      rw [← iAdd1, ← e1]
      cases gp m cell (nbN cell i)
      · rw [if_pos (by decide)]; rfl
      · rw [if_neg (by decide)]; rfl
  · rintro st ⟨F', f', gin, rfl, hf', hc', hinv⟩
    refine ⟨_, ?_, F', f', gin, rfl, hf', hinv.cell⟩
    unfold t_X2_spreadFrom_b6
    dsimp only
    rw [if_pos (show (4 : Int32) ≤ Int32.ofNat 4 by decide), if_pos (b2i_01 gin)]
theorem co_pass {Z : aZ} {hb : aH} {o A : Nat} {t : Bool} {m : Nat → Int32} {a D N : Nat} {f : Nat → Int32} {F : Nat → Nat} (l : lvA Z hb o m A) (hz : z0 Z ≤ A) (hD : D < 98) (hf : fE f F) (h : sInv t m a D N 0 0 F false) :
    Ok (wlo (t_X2_spread_b14 Z) 300 (o, A, Int32.ofNat D, b2i t, 0, 0, hF Z hb A f)) (fun r => ∃ F' f' g, r = .inl (o, A, Int32.ofNat D, b2i t, b2i g, hF Z hb A f') ∧ fE f' F' ∧ sInv t m a D N 16 0 F' g) := by
  refine wlo_for 16 (fun i st => ∃ F' f' g, st = (o, A, Int32.ofNat D, b2i t, b2i g, Int32.ofNat i, hF Z hb A f') ∧ fE f' F' ∧ sInv t m a D N i 0 F' g) _ ?_ ?_ (i := 0) ⟨F, f, false, rfl, hf, h⟩ (by omega) (by omega)
  · rintro i st hi ⟨F', f', g, rfl, hf', hinv⟩
    refine Or.inl ?_
    unfold t_X2_spread_b14
    dsimp only
    rw [if_neg (fun q => by have := (iLe (a := 16) (b := i) (by omega) (by omega)).mp q; omega), hF_ld hi, Option.bind_some, hf' i hi]
    by_cases e : F' i = D
    · rw [if_pos (by rw [e, enc_of (by omega)]), if_pos l.isC]
      obtain ⟨r, e1, F2, f2, gin, rfl, hf2, h2⟩ := co_from l hz hD hi hf' e hinv
      rw [e1, Option.bind_some]
      refine ⟨_, ?_, F2, f2, g || gin, rfl, hf2, h2⟩
      unfold t_X2_spread_l46 t_X2_spread_l47
      dsimp only
      rw [← b2i_or, ← iAdd1]
      cases gin
      · rw [if_pos (by decide)]; rfl
      · rw [if_neg (by decide)]; rfl
    · rw [if_neg (fun q => e ((enc_eq (hinv.1.le hD hi) (by omega)).mp (by rw [enc_of (x := D) (by omega)]; exact q)))]
      refine ⟨_, ?_, F', f', g, rfl, hf', hinv.pass e⟩
      unfold t_X2_spread_l46 t_X2_spread_l47
      rw [← iAdd1, show (0 : Int32) = b2i false from rfl, b2i_or, Bool.or_false]
  · rintro st ⟨F', f', g, rfl, hf', hinv⟩
    refine ⟨_, ?_, F', f', g, rfl, hf', hinv⟩
    unfold t_X2_spread_b14
    dsimp only
    rw [if_pos (show (16 : Int32) ≤ Int32.ofNat 16 by decide)]
theorem bInv.next {t : Bool} {m : Nat → Int32} {a D N : Nat} {F : Nat → Nat} (h : sInv t m a D N 16 0 F false) : bInv t m a (D + 1) F := by
  obtain ⟨⟨b1, b2, b3, b4⟩, c1, -, -⟩ := h
  refine ⟨fun v hv => by rcases b1 v hv with e | e <;> omega, b2, b3, fun u v w he hlt => ?_⟩
  by_cases e : F u = D
  · rw [e]; exact c1 rfl u v w he e (Or.inl (eE_ok _ _ _ he).1)
  · exact b4 u v w he (by omega)
theorem co_spread {Z : aZ} {hb : aH} {o A : Nat} {t : Bool} {m : Nat → Int32} {a D : Nat} {f : Nat → Int32} {F : Nat → Nat} (l : lvA Z hb o m A) (hz : z0 Z ≤ A) (hD : D < 98) (hf : fE f F) (h : bInv t m a D F) :
    Ok (t_X2_spread Z (hF Z hb A f) o A (Int32.ofNat D) (b2i t)) (fun r => ∃ F' f', r = ((), hF Z hb A f') ∧ fE f' F' ∧ bInv t m a (D + 1) F') := by
  unfold t_X2_spread
  refine wlo_rule (fun j st => ∃ F' f' g, st = (o, A, Int32.ofNat D, b2i t, b2i g, hF Z hb A f') ∧ fE f' F' ∧ bInv t m a D F' ∧ (g = false → bInv t m a (D + 1) F') ∧ j = if g then S16 (ind D F') + 1 else 0) _ ?_ 300 (S16 (ind D F) + 1) _ ⟨F, f, true, rfl, hf, h, (fun q => by cases q), rfl⟩ ?_
  · rintro j st ⟨F', f', g, rfl, hf', hb', hc', hj⟩
    unfold t_X2_spread_b3
    dsimp only
    cases g
    · right
      refine ⟨_, by rw [if_pos (by decide)], F', f', rfl, hf', hc' rfl⟩
    · left
      rw [if_neg (by decide)]
      obtain ⟨r, e1, F2, f2, g2, rfl, hf2, h2⟩ := co_pass (N := S16 (ind D F')) l hz hD hf' ⟨hb', fun _ u v w he hu hor => by rcases hor with q | ⟨-, d, q, -⟩ <;> omega, Nat.le_refl _, (fun q => by cases q)⟩
      refine ⟨_, _, e1, ?_, F2, f2, g2, rfl, hf2, h2.1, fun hg => ?_, rfl⟩
      · cases g2
        · simp at hj ⊢; omega
        · have := h2.2.2.2 rfl
          simp at hj ⊢; omega
      · subst hg; exact bInv.next h2
  · have := S16_le (ind D F) 1 (fun v _ => by unfold ind; split <;> omega)
    omega
theorem hset_hnew {h : aH} {e e' : va_E} {n : Nat} : hset (hnew h e n) h.2.1 e' = hnew h e' n := by
  unfold hset hnew
  refine Prod.ext ?_ rfl
  funext j
  by_cases q : j = h.2.1 <;> simp [q]
/-- the leaves of the core at o -/
def lvs (Z : aZ) (h : aH) (o : Nat) (m : Nat → Int32) : Prop := ∃ (L : Nat) (rest : List Value) (f : Nat → Int32), h.1 o = some (.inr (1, .ref L :: rest)) ∧ h.1 L = some (.inl (zI Z, 24, .inl f)) ∧ ∀ k, k < 24 → f k = m (6 + k)
theorem lvs.new {Z : aZ} {h : aH} {o : Nat} {m : Nat → Int32} (k : hOk Z h) (l : lvs Z h o m) {e : va_E} {n : Nat} : lvA Z (hnew h e n) o m h.2.1 := by
  obtain ⟨L, rest, f, h1, h2, h3⟩ := l
  have g1 := k.2.1 o _ h1
  have g2 := k.2.1 L _ h2
  exact ⟨L, rest, f, by rw [hnew_ne (by omega)]; exact h1, by rw [hnew_ne (by omega)]; exact h2, h3, by omega, by omega⟩
theorem co_dist {Z : aZ} {h : aH} {o a : Nat} {t : Bool} {m : Nat → Int32} (k : hOk Z h) (r : Rm Z h 1) (l : lvs Z h o m) (ha : a < 16) :
    Ok (t_X2_distances Z h o (Int32.ofNat a) (b2i t)) (fun r => ∃ F f, r = (h.2.1, hnew h (.inl (zI Z, 16, .inl f)) 16) ∧ fE f F ∧ isMin (eE t m) a 99 F ∧ ∀ v, v < 16 → F v ≤ 99) := by
  unfold t_X2_distances
  rw [show (16 : Int32) = Int32.ofNat 16 from rfl, nwA_of r (by omega), Option.bind_some]
  have hz : z0 Z ≤ h.2.1 := k.1
  have hl := l.new k (e := .inl (zI Z, 16, .inl fun _ => 0)) (n := 16)
  generalize hhb : hnew h (.inl (zI Z, 16, .inl fun _ => 0)) 16 = hb at hl
  have hfin : ∀ f, hF Z hb h.2.1 f = hnew h (.inl (zI Z, 16, .inl f)) 16 := fun f => by rw [← hhb]; exact hset_hnew
  have hst : hb = hF Z hb h.2.1 (fun _ => 0) := by rw [hfin, hhb]
  refine Ok.imp (P := fun r => ∃ F f, r = (h.2.1, hF Z hb h.2.1 f) ∧ fE f F ∧ bInv t m a 17 F) ?_ ?_
  · refine wlo_for 16 (fun i st => ∃ f, st = (o, Int32.ofNat a, b2i t, h.2.1, Int32.ofNat i, hF Z hb h.2.1 f) ∧ ∀ j, j < i → f j = enc (if j = a then 0 else 99)) _ ?_ ?_ (i := 0) ⟨_, by rw [← hst]; rfl, fun j hj => by omega⟩ (by omega) (by omega)
    · rintro i st hi ⟨f, rfl, hf⟩
      refine Or.inl ?_
      unfold t_X2_distances_b8 t_X2_distances_l29
      dsimp only
      rw [if_neg (fun q => by have := (iLe (a := 16) (b := i) (by omega) (by omega)).mp q; omega)]
      by_cases e : i = a
      · rw [if_pos (by rw [e]), hF_st hi hz, Option.bind_some]
        refine ⟨_, rfl, _, by rw [iAdd1], fun j hj => ?_⟩
        by_cases q : j = i
        · subst q; simp [va_up, e]; rfl
        · simp only [va_up, q, if_false]; exact hf j (by omega)
      · rw [if_neg (fun q => e ((iEq (by omega) (by omega)).mp q)), hF_st hi hz, Option.bind_some]
        refine ⟨_, rfl, _, by rw [iAdd1], fun j hj => ?_⟩
        by_cases q : j = i
        · subst q; simp [va_up, e]; rfl
        · simp only [va_up, q, if_false]; exact hf j (by omega)
    · rintro st ⟨f, rfl, hf⟩
      unfold t_X2_distances_b8 t_X2_distances_l36
      dsimp only
      rw [if_pos (show (16 : Int32) ≤ Int32.ofNat 16 by decide)]
      have h0 : bInv t m a 0 (fun j => if j = a then 0 else 99) := by
        refine ⟨fun v _ => by dsimp only; split <;> omega, by simp, fun v _ hlt => ?_, fun u v w he hlt => by omega⟩
        dsimp only at hlt ⊢
        split at hlt
        · rename_i q; rw [if_pos q, q]; exact ⟨0, rfl, rfl⟩
        · omega
      obtain ⟨r, e1, F', f', rfl, h1, h2⟩ : Ok (wlo (t_X2_distances_b39 Z) 100 (o, b2i t, h.2.1, 0, hF Z hb h.2.1 f)) (fun r => ∃ F f, r = (h.2.1, hF Z hb h.2.1 f) ∧ fE f F ∧ bInv t m a 17 F) := by
        refine wlo_for 17 (fun i st => ∃ F f, st = (o, b2i t, h.2.1, Int32.ofNat i, hF Z hb h.2.1 f) ∧ fE f F ∧ bInv t m a i F) _ ?_ ?_ (i := 0) ⟨_, f, rfl, fun j hj => hf j hj, h0⟩ (by omega) (by omega)
        · rintro i st hi ⟨F', f', rfl, hf', hb'⟩
          refine Or.inl ?_
          unfold t_X2_distances_b39
          dsimp only
          rw [if_neg (fun q => by have := (iLt (a := 16) (b := i) (by omega) (by omega)).mp q; omega), if_pos hl.isC]
          obtain ⟨r, e1, F2, f2, rfl, hf2, h2⟩ := co_spread hl hz (by omega) hf' hb'
          rw [e1, Option.bind_some]
          exact ⟨_, rfl, F2, f2, by rw [iAdd1], hf2, h2⟩
        · rintro st ⟨F', f', rfl, hf', hb'⟩
          refine ⟨_, ?_, F', f', rfl, hf', hb'⟩
          unfold t_X2_distances_b39
          dsimp only
          rw [if_pos (show (16 : Int32) < Int32.ofNat 17 by decide)]
      exact ⟨_, by rw [e1]; rfl, F', f', rfl, h1, h2⟩
  · rintro r ⟨F, f, rfl, hf, b1, b2, b3, b4⟩
    exact ⟨F, f, by rw [hfin], hf, isMin.of ha eE_ok b2 (by omega) (by omega) b3 b4, fun v hv => by rcases b1 v hv with e | e <;> omega⟩
