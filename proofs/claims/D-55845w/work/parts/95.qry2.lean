/-! asking: the ways again -/
set_option maxRecDepth 100000
theorem dst_spec {t : Bool} {m : Nat → Int32} {a : Nat} (ha : a < 16) : isMin (eE t m) a 99 (dst t m a) ∧ ∀ v, v < 16 → dst t m a v ≤ 99 := by
  obtain ⟨r, -, F, W, -, -, h1, h2⟩ := tw_lays (t := t) (s := (fun _ => 0, fun _ => m)) ha
  have hex : ∃ F, isMin (eE t m) a 99 F ∧ ∀ v, v < 16 → F v ≤ 99 := ⟨F, h1, h2⟩
  have hd : dst t m a = Classical.choose hex := by
    unfold dst
    rw [dif_pos hex]
  rw [hd]
  exact Classical.choose_spec hex
theorem dst_lt15 {t : Bool} {m : Nat → Int32} {a v : Nat} (ha : a < 16) (hv : v < 16) (hd : dst t m a v < 99) : dst t m a v ≤ 15 := (dst_spec ha).1.le ha (fun u v w z => (eE_ok u v w z).2) hv hd
theorem dst_sym {t : Bool} {m : Nat → Int32} {a b : Nat} (ha : a < 16) (hb : b < 16) : dst t m a b = dst t m b a := by
  obtain ⟨h1, h2⟩ := isMin.sym ha hb (fun u v w z => (eE_ok u v w z).2) (fun u v w z => eE_sym u v w z) (by omega) (by omega) (dst_spec (t := t) (m := m) ha).1 (dst_spec (t := t) (m := m) hb).1
  have g1 := (dst_spec (t := t) (m := m) ha).2 b hb
  have g2 := (dst_spec (t := t) (m := m) hb).2 a ha
  by_cases z : dst t m a b < 99
  · exact h2 z
  · have : ¬ dst t m b a < 99 := fun y => z (h1.mpr y)
    omega
theorem dst_congr {t : Bool} {m m' : Nat → Int32} (h : ∀ a b, gp m a b = gp m' a b) (a : Nat) : dst t m a = dst t m' a := by
  have : eE t m = eE t m' := by
    funext u v w
    unfold eE
    rw [h]
  unfold dst
  rw [this]
/-- a way that may trim is always there -/
theorem eE_true {m : Nat → Int32} {u v : Nat} (hu : u < 16) (hv : v < 16) (hd : ∃ d, d < 4 ∧ nbN u d = v) : ∃ w, w ≤ 1 ∧ eE true m u v w := by
  cases hg : gp m u v
  · exact ⟨1, by omega, hu, hv, hd, Or.inr ⟨hg, rfl, rfl⟩⟩
  · exact ⟨0, by omega, hu, hv, hd, Or.inl ⟨hg, rfl⟩⟩
theorem nb_go : ∀ v, v < 16 → v ≠ 15 → ∃ d, d < 4 ∧ nbN v d < 16 ∧ (3 - nbN v d % 4) + (3 - nbN v d / 4) + 1 = (3 - v % 4) + (3 - v / 4) := by decide +kernel
theorem dst_true {m : Nat → Int32} {a : Nat} (ha : a < 16) : dst true m a 15 < 99 := by
  have key : ∀ n v k c, v < 16 → (3 - v % 4) + (3 - v / 4) = n → wk (eE true m) a k v c → ∃ k' c', wk (eE true m) a k' 15 c' ∧ c' ≤ c + n := by
    intro n
    induction n with
    | zero =>
      intro v k c hv hn hw
      have : v = 15 := by omega
      subst this
      exact ⟨k, c, hw, by omega⟩
    | succ n ih =>
      intro v k c hv hn hw
      have hv15 : v ≠ 15 := by rintro rfl; omega
      obtain ⟨d, h1, h2, h3⟩ := nb_go v hv hv15
      obtain ⟨w, hw1, hw2⟩ := eE_true (m := m) hv h2 ⟨d, h1, rfl⟩
      obtain ⟨k', c', g1, g2⟩ := ih (nbN v d) (k + 1) (c + w) h2 (by omega) ⟨v, w, c, hw, hw2, rfl⟩
      exact ⟨k', c', g1, by omega⟩
  obtain ⟨k', c', h1, h2⟩ := key ((3 - a % 4) + (3 - a / 4)) a 0 0 ha rfl ⟨rfl, rfl⟩
  have := (dst_spec (t := true) (m := m) ha).1.2 15 (by omega) c' ⟨k', h1⟩
  omega
section qa
variable {Z : aZ} {h h' H : aH} {Rt : Nat → Prop} {q : Nat → Nat} {B B' : Nat} {s s' : tS} {C C' : Nat}
theorem tw_way {t : Bool} {a : Nat} (ha : a < 16) : ∃ W, t_X3_laysWays s (Int32.ofNat a) (b2i t) = some ((), sW s W) ∧ ∀ v, v < 16 → W v = Int32.ofNat (dst t (s.2 0) a v) := by
  obtain ⟨r, e, F, W, rfl, h0, h1, h2⟩ := tw_lays (t := t) (s := s) ha
  exact ⟨W, e, fun v hv => by rw [h0 v hv, dst_eq ha h1 h2 hv]⟩
theorem co_rel {o a : Nat} {t : Bool} {m : Nat → Int32} (k : hOk Z h) (r : Rm Z h 1) (l : lvs Z h o m) (ha : a < 16) :
    Ok (t_X2_relaxed Z h o (Int32.ofNat a) (Int32.ofNat (pgN t)) (Int32.ofNat (phN t))) (fun r => ∃ f, r = (h.2.1, hnew h (aI16 Z f) 16) ∧ ∀ v, v < 16 → f v = Int32.ofNat (if dst t m v a < 99 then dst t m v a else 16)) := by
  refine (co_relax (t := t) k r l ha).imp ?_
  rintro r ⟨F, f, rfl, h0, h1, h2⟩
  refine ⟨f, rfl, fun v hv => ?_⟩
  rw [h0 v hv]
  obtain ⟨g1, g2⟩ := isMin.sym ha hv (fun u v w z => (eE_ok u v w z).2) (fun u v w z => eE_sym u v w z) (by omega) (by omega) h1 (dst_spec (t := t) (m := m) hv).1
  by_cases z : F v < 16
  · rw [if_pos (g1.mp z), g2 z]
  · rw [if_neg (fun y => z (g1.mpr y))]
    have := h2 v hv
    rw [show F v = 16 by omega]
theorem co_trimsX {a : Int32} (k : hOk Z h) (r : Rm Z h 4) (c : cst Z Rt q B h s) : x1Ok Z Rt q B 4 h (t_X1_trims Z h (q 0) a) (t_X3_trims s a) (cd1 ioob) := by
  generalize hx : t_X1_trims Z h (q 0) a = y
  unfold t_X1_trims at hx
  rw [mk1 k (r.less (by omega))] at hx
  unfold t_X3_trims
  rw [tw_cells, Bool.and_self]
  by_cases z : inR a 0 15 = true
  · obtain ⟨i, hi, rfl⟩ := cell_idx z
    rw [if_pos z, Option.bind_some, z]
    dsimp only
    obtain ⟨W, eW, hW⟩ := tw_way (s := sT s 0) (t := true) hi
    rw [if_neg (by decide), show (1 : Int32) = b2i true from rfl, eW, Option.bind_some]
    dsimp only
    rw [show tld 13 (sW (sT s 0) W) 15 = some (W 15) from tld_W (i := 15) (by omega), Option.bind_some, hW 15 (by omega)]
    rw [cells1_ok z, Option.bind_some] at hx
    dsimp only at hx
    have f1 : Fr non h (hI1 Z h (Int32.ofNat i)) 1 := Fr.new (by omega)
    have k1 : hOk Z (hI1 Z h (Int32.ofNat i)) := k.new
    obtain ⟨C, e, g1, g2, g3, g4⟩ := c.core k f1
    have r1 : Rm Z (hI1 Z h (Int32.ofNat i)) 3 := Rm.after (u := 1) (v := 3) r f1
    rw [g1, Option.bind_some, if_pos g3] at hx
    obtain ⟨r2, e2, f, rfl, hf⟩ := co_dstT (t := true) k1 (r1.less (by omega)) (crd_lvs g2) hi
    rw [show (1 : Int32) = b2i true from rfl, e2, Option.bind_some] at hx
    dsimp only at hx
    rw [show ldI Z (hnew (hI1 Z h (Int32.ofNat i)) (aI16 Z f) 16) (hI1 Z h (Int32.ofNat i)).2.1 15 = some (f 15) from ldI_of (i := 15) hnew_at (by omega) (by omega), Option.bind_some, hf 15 (by omega), enc_of (by have := dst_true (m := s.2 0) hi; omega)] at hx
    exact x1_yes c k k1.new ((f2n (by omega) (by omega)).up (by omega)) hx.symm rfl ((vEq_T 0).tr (vEq_W W)) (sT_12 (s := s) 0)
  · have z' : inR a 0 15 = false := by simpa using z
    rw [if_neg z, Option.bind_some, z']
    dsimp only
    rw [if_pos (by rfl)]
    rw [cells1_no k (r.less (by omega)) z', Option.bind_some] at hx
    exact x1_no (v := -1) (c9 := 1) c k k.new.new ((f2n (by omega) (by omega)).up (by omega)) hx.symm rfl (by decide) (by decide)
theorem co_trimsA {a : Int32} (k : hOk Z h) (r : Rm Z h 4) (c : cst Z Rt q B h s) : x1Ok Z Rt q B 4 h (t_X1_trimsAgain Z h (q 0) a) (t_X3_trimsAgain s a) (cd1 ioob) := by
  generalize hx : t_X1_trimsAgain Z h (q 0) a = y
  unfold t_X1_trimsAgain at hx
  rw [mk1 k (r.less (by omega))] at hx
  unfold t_X3_trimsAgain t_X3_trims
  rw [tw_cells, Bool.and_self]
  by_cases z : inR a 0 15 = true
  · obtain ⟨i, hi, rfl⟩ := cell_idx z
    rw [if_pos z, Option.bind_some, z]
    dsimp only
    obtain ⟨W, eW, hW⟩ := tw_way (s := sT s 0) (t := true) hi
    rw [if_neg (by decide), show (1 : Int32) = b2i true from rfl, eW, Option.bind_some]
    dsimp only
    rw [show tld 13 (sW (sT s 0) W) 15 = some (W 15) from tld_W (i := 15) (by omega), Option.bind_some, hW 15 (by omega), Option.bind_some]
    rw [cells1_ok z, Option.bind_some] at hx
    dsimp only at hx
    have f1 : Fr non h (hI1 Z h (Int32.ofNat i)) 1 := Fr.new (by omega)
    have k1 : hOk Z (hI1 Z h (Int32.ofNat i)) := k.new
    obtain ⟨C, e, g1, g2, g3, g4⟩ := c.core k f1
    have r1 : Rm Z (hI1 Z h (Int32.ofNat i)) 3 := Rm.after (u := 1) (v := 3) r f1
    rw [g1, Option.bind_some, if_pos g3] at hx
    obtain ⟨r2, e2, f, rfl, hf⟩ := co_rel (a := 15) (t := true) k1 (r1.less (by omega)) (crd_lvs g2) (by omega)
    rw [show t_X2_relaxed Z (hI1 Z h (Int32.ofNat i)) C 15 0 1 = _ from e2, Option.bind_some] at hx
    dsimp only at hx
    rw [ldI_of (i := i) hnew_at hi (by omega), Option.bind_some, hf i hi, if_pos (dst_true hi)] at hx
    exact x1_yes c k k1.new ((f2n (by omega) (by omega)).up (by omega)) hx.symm rfl ((vEq_T 0).tr (vEq_W W)) (sT_12 (s := s) 0)
  · have z' : inR a 0 15 = false := by simpa using z
    rw [if_neg z, Option.bind_some, z']
    dsimp only
    rw [if_pos (by rfl), Option.bind_some]
    rw [cells1_no k (r.less (by omega)) z', Option.bind_some] at hx
    exact x1_no (v := -1) (c9 := 1) c k k.new.new ((f2n (by omega) (by omega)).up (by omega)) hx.symm rfl (by decide) (by decide)
theorem co_hoursA {a b : Int32} (k : hOk Z h) (r : Rm Z h 4) (c : cst Z Rt q B h s) : x1Ok Z Rt q B 4 h (t_X1_hoursAgain Z h (q 0) a b) (t_X3_hoursAgain s a b) (cd2 ioob 1 nsee 2) := by
  generalize hx : t_X1_hoursAgain Z h (q 0) a b = y
  unfold t_X1_hoursAgain at hx
  rw [mk2 k (r.less (by omega))] at hx
  unfold t_X3_hoursAgain t_X3_hours
  by_cases z : (inR a 0 15 && inR b 0 15) = true
  · obtain ⟨za, zb⟩ := and_tt z
    obtain ⟨i, hi, rfl⟩ := cell_idx za
    obtain ⟨j, hj, rfl⟩ := cell_idx zb
    rw [tw_cells, if_pos z, Option.bind_some, z]
    dsimp only
    obtain ⟨W, eW⟩ := tw_hrs (s := sT s 0) hi hj
    rw [if_neg (by decide), eW, Option.bind_some]
    dsimp only
    rw [cells2_ok z, Option.bind_some] at hx
    dsimp only at hx
    have f1 : Fr non h (hI2 Z h (Int32.ofNat i) (Int32.ofNat j)) 1 := Fr.new (by omega)
    have k1 : hOk Z (hI2 Z h (Int32.ofNat i) (Int32.ofNat j)) := k.new
    obtain ⟨C, e, g1, g2, g3, g4⟩ := c.core k f1
    have r1 : Rm Z (hI2 Z h (Int32.ofNat i) (Int32.ofNat j)) 3 := Rm.after (u := 1) (v := 3) r f1
    rw [g1, Option.bind_some, if_pos g3] at hx
    obtain ⟨r2, e2, f, rfl, hf⟩ := co_rel (a := j) (t := false) k1 (r1.less (by omega)) (crd_lvs g2) hj
    rw [show t_X2_relaxed Z (hI2 Z h (Int32.ofNat i) (Int32.ofNat j)) C (Int32.ofNat j) 1 16 = _ from e2, Option.bind_some] at hx
    dsimp only at hx
    rw [ldI_of (i := i) hnew_at hi (by omega), Option.bind_some, hf i hi] at hx
    have hd := (dst_spec (t := false) (m := s.2 0) hi).2 j hj
    by_cases z9 : dst false (s.2 0) i j < 99
    · have z15 := dst_lt15 hi hj z9
      rw [if_pos z9, if_neg (show ¬ (16 : Int32) ≤ Int32.ofNat (dst false (s.2 0) i j) from fun y => by have := (iLe (a := 16) (by omega) (by omega)).mp y; omega)] at hx
      rw [if_neg (enc_ne (show dst false ((sT s 0).2 0) i j < 99 from z9)), Option.bind_some]
      refine x1_yes c k k1.new ((f2n (by omega) (by omega)).up (by omega)) hx.symm ?_ ((vEq_T 0).tr (vEq_W W)) (sT_12 (s := s) 0)
      rw [enc_of (show dst false ((sT s 0).2 0) i j ≠ 99 from by show dst false (s.2 0) i j ≠ 99; omega)]
      rfl
    · have z9' : dst false ((sT s 0).2 0) i j = 99 := by show dst false (s.2 0) i j = 99; omega
      rw [if_neg z9, if_pos (by decide)] at hx
      unfold t_X1_hoursAgain_l39 at hx
      rw [elem_no k1.new ((Rm.after (S := non) (u := 2) (v := 2) r (f2n (by omega) (by omega))).less (by omega)), Option.bind_some] at hx
      rw [z9', enc99, if_pos rfl, tw_thr, Option.bind_some, Option.bind_some]
      refine x1_no' (v := -1) (c9 := 2) c k k1.new.new ?_ hx.symm rfl ((vEq_T 0).tr ((vEq_W W).tr (vEq_T 2))) (sT_12 2) (by decide) (by decide)
      exact (f1.tr (f2n (h := hI2 Z h (Int32.ofNat i) (Int32.ofNat j)) (by omega) (by omega)) (fun _ _ z => z)).up (by omega)
  · have z' : (inR a 0 15 && inR b 0 15) = false := by simpa using z
    rw [tw_cells, if_neg z, Option.bind_some, z']
    dsimp only
    rw [if_pos (by rfl), Option.bind_some]
    rw [cells2_no k (r.less (by omega)) z', Option.bind_some] at hx
    exact x1_no (v := -1) (c9 := 1) c k k.new.new ((f2n (by omega) (by omega)).up (by omega)) hx.symm rfl (by decide) (by decide)
/-- the next cell on the way to 15 -/
def nxt (m : Nat → Int32) (i u : Nat) : Prop := gp m i u = true ∧ dst false m 15 u + 1 = dst false m 15 i
theorem dst_0 {m : Nat → Int32} {i : Nat} (hi : i < 16) (h0 : dst false m 15 i = 0) : i = 15 := by
  obtain ⟨k, hk⟩ := (dst_spec (t := false) (m := m) (a := 15) (by omega)).1.1 i hi (by omega)
  rw [h0] at hk
  cases k with
  | zero => exact hk.1
  | succ k =>
    obtain ⟨u, w, c', h1, h2, h3⟩ := hk
    obtain ⟨-, -, -, h4⟩ := h2
    rcases h4 with ⟨-, h4⟩ | ⟨-, h4, -⟩
    · simp at h4; omega
    · cases h4
theorem nxt_ex {m : Nat → Int32} {i : Nat} (hi : i < 16) (hn : i ≠ 15) (hd : dst false m 15 i < 99) : ∃ u, u < 16 ∧ nxt m i u := by
  have sp := dst_spec (t := false) (m := m) (a := 15) (by omega)
  obtain ⟨k, hk⟩ := sp.1.1 i hi hd
  cases k with
  | zero => exact absurd hk.1 hn
  | succ k =>
    obtain ⟨u, w, c', h1, h2, h3⟩ := hk
    have hu := (eE_ok u i w h2).1
    have hsym := eE_sym u i w h2
    have hw : w = 1 := by
      obtain ⟨-, -, -, h4⟩ := h2
      rcases h4 with ⟨-, h4⟩ | ⟨-, h4, -⟩
      · simpa using h4
      · cases h4
    have hg : gp m i u = true := by
      obtain ⟨-, -, -, h4⟩ := hsym
      rcases h4 with ⟨h4, -⟩ | ⟨-, h4, -⟩
      · exact h4
      · cases h4
    refine ⟨u, hu, hg, ?_⟩
    have g1 := sp.1.2 u hu c' ⟨k, h1⟩
    -- and not less: else i were nearer
    have g2 : dst false m 15 u < 99 := by omega
    obtain ⟨k', hk'⟩ := sp.1.1 u hu g2
    have g3 := sp.1.2 i hi (dst false m 15 u + w) ⟨k' + 1, u, w, _, hk', h2, rfl⟩
    omega
theorem gp_hg {m : Nat → Int32} {i u : Nat} (h : gp m i u = true) : hgN i u ≠ 99 ∧ m (6 + hgN i u) < 5 := by
  unfold gp at h
  simpa using h
theorem gp_no {m : Nat → Int32} {i u : Nat} (h : gp m i u = false) (hn : hgN i u ≠ 99) : ¬ m (6 + hgN i u) < 5 := by
  unfold gp at h
  simp at h
  exact Int32.not_lt.mpr (h hn)
end qa
