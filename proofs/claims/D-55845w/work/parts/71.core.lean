/-! the core: its cells, and the row m of numbers that they hold -/
set_option maxRecDepth 100000
def pG (m : Nat → Int32) (j : Nat) : List Value := [.int (m (30 + 4 * j)), .int (m (30 + 4 * j + 1)), .int (m (30 + 4 * j + 2)), .int (m (30 + 4 * j + 3))]
def pV (m : Nat → Int32) (j : Nat) : List Value := [.int (m (46 + 8 * j)), .int (m (46 + 8 * j + 3)), .int (m (46 + 8 * j + 1)), .int (m (46 + 8 * j + 2)), .int (m (46 + 8 * j + 4)), .int (m (46 + 8 * j + 5)), .int (m (46 + 8 * j + 6))]
def cO (m : Nat → Int32) (L G V : Nat) : va_E := .inr (1, [.ref L, .ref G, .ref V, .int (m 2), .int (m 3), .int (m 4), .int (m 5)])
theorem pG_congr {m m' : Nat → Int32} {j : Nat} (h : ∀ i, 30 + 4 * j ≤ i → i < 34 + 4 * j → m' i = m i) : pG m' j = pG m j := by
  unfold pG
  rw [h _ (by omega) (by omega), h _ (by omega) (by omega), h _ (by omega) (by omega), h _ (by omega) (by omega)]
theorem pV_congr {m m' : Nat → Int32} {j : Nat} (h : ∀ i, 46 + 8 * j ≤ i → i < 53 + 8 * j → m' i = m i) : pV m' j = pV m j := by
  unfold pV
  rw [h _ (by omega) (by omega), h _ (by omega) (by omega), h _ (by omega) (by omega), h _ (by omega) (by omega), h _ (by omega) (by omega), h _ (by omega) (by omega), h _ (by omega) (by omega)]
def coreR (Z : aZ) (h : aH) (lo hi o : Nat) (m : Nat → Int32) (L G V eG eV : Nat) (gs vs : Nat → Nat) (ng nv : Nat) (mG mV : Int32) : Prop :=
  h.1 o = some (cO m L G V) ∧
  (∃ f, h.1 L = some (.inl (zI Z, 24, .inl f)) ∧ ∀ k, k < 24 → f k = m (6 + k)) ∧
  (m 0 = Int32.ofNat ng ∧ m 1 = Int32.ofNat nv ∧ ng ≤ 4 ∧ nv ≤ 5) ∧
  lstAt Z h G mG eG ng gs ∧ lstAt Z h V mV eV nv vs ∧
  (∀ j, j < ng → h.1 (gs j) = some (.inr (3, pG m j)) ∧ lo ≤ gs j ∧ gs j < hi) ∧
  (∀ j, j < nv → h.1 (vs j) = some (.inr (4, pV m j)) ∧ lo ≤ vs j ∧ vs j < hi) ∧
  (∀ i j, i < ng → j < ng → gs i = gs j → i = j) ∧ (∀ i j, i < nv → j < nv → vs i = vs j → i = j) ∧
  (G ≠ V ∧ (z0 Z ≤ eG → eG ≠ eV)) ∧
  (lo ≤ o ∧ o < hi) ∧ (lo ≤ L ∧ L < hi) ∧ (lo ≤ G ∧ G < hi) ∧ (lo ≤ V ∧ V < hi) ∧ (z0 Z ≤ eG → lo ≤ eG ∧ eG < hi) ∧ (z0 Z ≤ eV → lo ≤ eV ∧ eV < hi) ∧ z0 Z ≤ lo ∧ hi ≤ h.2.1
def coreIn (Z : aZ) (h : aH) (lo hi o : Nat) (m : Nat → Int32) : Prop := ∃ (L G V eG eV : Nat) (gs vs : Nat → Nat) (ng nv : Nat) (mG mV : Int32), coreR Z h lo hi o m L G V eG eV gs vs ng nv mG mV
theorem ia_ne {c c' : ClassId} {n n' : Nat} {f : Nat → Int32} {g : Nat → Option Nat} : (.inl (c, n, .inl f) : va_E) ≠ .inl (c', n', .inr (.inr (.inr (.inr g)))) := by
  intro q
  injection q with q
  injection q with _ q
  injection q with _ q
  cases q
/-- the row of a list is none of the other cells -/
theorem lstAt.row_ne {Z : aZ} {h : aH} {l : Nat} {mc : Int32} {e n : Nat} {as : Nat → Nat} (k : hOk Z h) (l9 : lstAt Z h l mc e n as) (hz : z0 Z ≤ e) {a : Nat} {x : va_E} (hx : h.1 a = some x) (hne : ∀ f, x ≠ rArr 10 Z f) : e ≠ a := by
  obtain ⟨-, -, ⟨g, -⟩ | ⟨-, -, f, g, -⟩⟩ := l9
  · have := k.2.2.1; omega
  · exact ent_ne g hx (Ne.symm (hne f))
section cR
variable {Z : aZ} {h h' : aH} {lo hi hi' o : Nat} {m m' : Nat → Int32} {L G V eG eV : Nat} {gs vs : Nat → Nat} {ng nv : Nat} {mG mV : Int32}
theorem coreR.keep (c : coreR Z h lo hi o m L G V eG eV gs vs ng nv mG mV) (hs : ∀ a, lo ≤ a → a < hi → h'.1 a = h.1 a) (h1 : hi ≤ hi') (h2 : hi' ≤ h'.2.1) : coreR Z h' lo hi' o m L G V eG eV gs vs ng nv mG mV := by
  obtain ⟨c1, ⟨f, c2, c3⟩, c4, c5, c6, c7, c8, c9, c10, c11, i1, i2, i3, i4, i5, i6, i7, i8⟩ := c
  exact ⟨by rw [hs o i1.1 i1.2]; exact c1, ⟨f, by rw [hs L i2.1 i2.2]; exact c2, c3⟩, c4, c5.keep (hs G i3.1 i3.2) (fun q => hs eG (i5 q).1 (i5 q).2), c6.keep (hs V i4.1 i4.2) (fun q => hs eV (i6 q).1 (i6 q).2),
    fun j hj => ⟨by rw [hs (gs j) (c7 j hj).2.1 (c7 j hj).2.2]; exact (c7 j hj).1, (c7 j hj).2.1, by have := (c7 j hj).2.2; omega⟩, fun j hj => ⟨by rw [hs (vs j) (c8 j hj).2.1 (c8 j hj).2.2]; exact (c8 j hj).1, (c8 j hj).2.1, by have := (c8 j hj).2.2; omega⟩,
    c9, c10, c11, ⟨i1.1, by omega⟩, ⟨i2.1, by omega⟩, ⟨i3.1, by omega⟩, ⟨i4.1, by omega⟩, fun q => ⟨(i5 q).1, by have := (i5 q).2; omega⟩, fun q => ⟨(i6 q).1, by have := (i6 q).2; omega⟩, i7, h2⟩
theorem coreIn.keep (c : coreIn Z h lo hi o m) (hs : ∀ a, lo ≤ a → a < hi → h'.1 a = h.1 a) (h1 : hi ≤ hi') (h2 : hi' ≤ h'.2.1) : coreIn Z h' lo hi' o m := by
  obtain ⟨L, G, V, eG, eV, gs, vs, ng, nv, mG, mV, c⟩ := c
  exact ⟨L, G, V, eG, eV, gs, vs, ng, nv, mG, mV, c.keep hs h1 h2⟩
theorem coreIn.bd (c : coreIn Z h lo hi o m) : hi ≤ h.2.1 ∧ z0 Z ≤ lo ∧ lo ≤ o ∧ o < hi := by
  obtain ⟨L, G, V, eG, eV, gs, vs, ng, nv, mG, mV, -, -, -, -, -, -, -, -, -, -, i1, -, -, -, -, -, i7, i8⟩ := c
  exact ⟨i8, i7, i1.1, i1.2⟩
theorem coreIn.ext (c : coreIn Z h lo hi o m) {S : Nat → Prop} {u : Nat} (f : Fr S h h' u) (hs : ∀ a, lo ≤ a → a < hi → ¬ S a) : coreIn Z h' lo hi o m := by
  have h1 := c.bd
  exact c.keep (fun a q1 q2 => f.1 a (by omega) (hs a q1 q2)) (Nat.le_refl _) (by have := f.2.1; omega)
theorem coreIn.isC (c : coreIn Z h lo hi o m) : isC 1 h o = true := by
  obtain ⟨L, G, V, eG, eV, gs, vs, ng, nv, mG, mV, c1, -⟩ := c
  exact isC_of c1
theorem coreIn.lvs (c : coreIn Z h lo hi o m) : lvs Z h o m := by
  obtain ⟨L, G, V, eG, eV, gs, vs, ng, nv, mG, mV, c1, ⟨f, c2, c3⟩, -⟩ := c
  exact ⟨L, _, f, c1, c2, c3⟩
/-- other numbers, where none is stored -/
theorem coreR.cong (c : coreR Z h lo hi o m L G V eG eV gs vs ng nv mG mV) (hm : ∀ i, (∀ j, i ≠ 53 + 8 * j) → i < 86 → m' i = m i) : coreR Z h lo hi o m' L G V eG eV gs vs ng nv mG mV := by
  obtain ⟨c1, ⟨f, c2, c3⟩, c4, c5, c6, c7, c8, c9, c10, c11, i⟩ := c
  refine ⟨?_, ⟨f, c2, fun k hk => by rw [c3 k hk, hm _ (by omega) (by omega)]⟩, by rw [hm 0 (by omega) (by omega), hm 1 (by omega) (by omega)]; exact c4, c5, c6, fun j hj => ?_, fun j hj => ?_, c9, c10, c11, i⟩
  · unfold cO; rw [hm 2 (by omega) (by omega), hm 3 (by omega) (by omega), hm 4 (by omega) (by omega), hm 5 (by omega) (by omega)]; exact c1
  · rw [pG_congr (m := m) (fun i h1 h2 => hm i (by omega) (by omega))]; exact c7 j hj
  · rw [pV_congr (m := m) (fun i h1 h2 => hm i (by omega) (by omega))]; exact c8 j hj
/-- the leaves of a hedge -/
theorem coreR.leaf (k9 : hOk Z h) (c : coreR Z h lo hi o m L G V eG eV gs vs ng nv mG mV) {f : Nat → Int32} (hf : h.1 L = some (.inl (zI Z, 24, .inl f))) {k : Nat} (hk : k < 24) {x : Int32} : coreR Z (hset h L (.inl (zI Z, 24, .inl (va_up f k x)))) lo hi o (va_up m (6 + k) x) L G V eG eV gs vs ng nv mG mV := by
  obtain ⟨c1, ⟨f', c2, c3⟩, c4, c5, c6, c7, c8, c9, c10, c11, i⟩ := c
  have hff : f' = f := by rw [c2] at hf; cases hf; rfl
  subst hff
  have hm : ∀ i, i ≠ 6 + k → va_up m (6 + k) x i = m i := fun i hi => by simp [va_up, hi]
  refine ⟨?_, ⟨_, hset_at, fun j hj => ?_⟩, ?_, c5.keep (hset_ne (ent_ne c5.1 c2 (fun q => by cases q))) (fun q => hset_ne ?_), c6.keep (hset_ne (ent_ne c6.1 c2 (fun q => by cases q))) (fun q => hset_ne ?_), fun j hj => ?_, fun j hj => ?_, c9, c10, c11, i⟩
  · rw [hset_ne (ent_ne c1 c2 (fun q => by cases q))]
    unfold cO; rw [hm 2 (by omega), hm 3 (by omega), hm 4 (by omega), hm 5 (by omega)]; exact c1
  · by_cases q : j = k
    · subst q; simp [va_up]
    · rw [hm _ (by omega)]; simp only [va_up, q, if_false]; exact c3 j hj
  · rw [hm 0 (by omega), hm 1 (by omega)]; exact c4
  · exact c5.row_ne k9 q c2 (fun f9 => ia_ne)
  · exact c6.row_ne k9 q c2 (fun f9 => ia_ne)
  · rw [hset_ne (ent_ne (c7 j hj).1 c2 (fun q => by cases q)), pG_congr (m := m) (fun i h1 h2 => hm i (by omega))]; exact c7 j hj
  · rw [hset_ne (ent_ne (c8 j hj).1 c2 (fun q => by cases q)), pV_congr (m := m) (fun i h1 h2 => hm i (by omega))]; exact c8 j hj
/-- the core's own numbers -/
theorem coreR.fld (k9 : hOk Z h) (c : coreR Z h lo hi o m L G V eG eV gs vs ng nv mG mV) (hm : ∀ i, i < 2 ∨ 6 ≤ i → m' i = m i) : coreR Z (hset h o (cO m' L G V)) lo hi o m' L G V eG eV gs vs ng nv mG mV := by
  obtain ⟨c1, ⟨f', c2, c3⟩, c4, c5, c6, c7, c8, c9, c10, c11, i⟩ := c
  refine ⟨hset_at, ⟨f', by rw [hset_ne (ent_ne c2 c1 (fun q => by cases q))]; exact c2, fun j hj => by rw [c3 j hj, hm _ (by omega)]⟩, ?_, c5.keep (hset_ne (ent_ne c5.1 c1 (fun q => by cases q))) (fun q => hset_ne (c5.row_ne k9 q c1 (fun f9 q9 => by cases q9))), c6.keep (hset_ne (ent_ne c6.1 c1 (fun q => by cases q))) (fun q => hset_ne (c6.row_ne k9 q c1 (fun f9 q9 => by cases q9))), fun j hj => ?_, fun j hj => ?_, c9, c10, c11, i⟩
  · rw [hm 0 (by omega), hm 1 (by omega)]; exact c4
  · rw [hset_ne (ent_ne (c7 j hj).1 c1 (fun q => by cases q)), pG_congr (m := m) (fun i h1 h2 => hm i (by omega))]; exact c7 j hj
  · rw [hset_ne (ent_ne (c8 j hj).1 c1 (fun q => by cases q)), pV_congr (m := m) (fun i h1 h2 => hm i (by omega))]; exact c8 j hj
/-- a gardener's numbers -/
theorem coreR.gar (k9 : hOk Z h) (c : coreR Z h lo hi o m L G V eG eV gs vs ng nv mG mV) {j0 : Nat} (hj0 : j0 < ng) (hm : ∀ i, i < 30 + 4 * j0 ∨ 34 + 4 * j0 ≤ i → m' i = m i) : coreR Z (hset h (gs j0) (.inr (3, pG m' j0))) lo hi o m' L G V eG eV gs vs ng nv mG mV := by
  obtain ⟨c1, ⟨f', c2, c3⟩, c4, c5, c6, c7, c8, c9, c10, c11, i⟩ := c
  have hg := (c7 j0 hj0).1
  refine ⟨?_, ⟨f', by rw [hset_ne (ent_ne c2 hg (fun q => by cases q))]; exact c2, fun j hj => by rw [c3 j hj, hm _ (by omega)]⟩, ?_, c5.keep (hset_ne (ent_ne c5.1 hg (fun q => by cases q))) (fun q => hset_ne (c5.row_ne k9 q hg (fun f9 q9 => by cases q9))), c6.keep (hset_ne (ent_ne c6.1 hg (fun q => by cases q))) (fun q => hset_ne (c6.row_ne k9 q hg (fun f9 q9 => by cases q9))), fun j hj => ?_, fun j hj => ?_, c9, c10, c11, i⟩
  · rw [hset_ne (ent_ne c1 hg (fun q => by cases q))]
    unfold cO; rw [hm 2 (by omega), hm 3 (by omega), hm 4 (by omega), hm 5 (by omega)]; exact c1
  · rw [hm 0 (by omega), hm 1 (by omega)]; exact c4
  · by_cases q : j = j0
    · subst q; exact ⟨hset_at, (c7 j hj).2⟩
    · rw [hset_ne (fun z => q (c9 j j0 hj hj0 z)), pG_congr (m := m) (fun i h1 h2 => hm i (by omega))]; exact c7 j hj
  · rw [hset_ne (ent_ne (c8 j hj).1 hg (fun q => by cases q)), pV_congr (m := m) (fun i h1 h2 => hm i (by omega))]; exact c8 j hj
/-- a visitor's numbers -/
theorem coreR.vis (k9 : hOk Z h) (c : coreR Z h lo hi o m L G V eG eV gs vs ng nv mG mV) {j0 : Nat} (hj0 : j0 < nv) (hm : ∀ i, i < 46 + 8 * j0 ∨ 54 + 8 * j0 ≤ i → m' i = m i) : coreR Z (hset h (vs j0) (.inr (4, pV m' j0))) lo hi o m' L G V eG eV gs vs ng nv mG mV := by
  obtain ⟨c1, ⟨f', c2, c3⟩, c4, c5, c6, c7, c8, c9, c10, c11, i⟩ := c
  have hg := (c8 j0 hj0).1
  have hng := c4.2.2.1
  refine ⟨?_, ⟨f', by rw [hset_ne (ent_ne c2 hg (fun q => by cases q))]; exact c2, fun j hj => by rw [c3 j hj, hm _ (by omega)]⟩, ?_, c5.keep (hset_ne (ent_ne c5.1 hg (fun q => by cases q))) (fun q => hset_ne (c5.row_ne k9 q hg (fun f9 q9 => by cases q9))), c6.keep (hset_ne (ent_ne c6.1 hg (fun q => by cases q))) (fun q => hset_ne (c6.row_ne k9 q hg (fun f9 q9 => by cases q9))), fun j hj => ?_, fun j hj => ?_, c9, c10, c11, i⟩
  · rw [hset_ne (ent_ne c1 hg (fun q => by cases q))]
    unfold cO; rw [hm 2 (by omega), hm 3 (by omega), hm 4 (by omega), hm 5 (by omega)]; exact c1
  · rw [hm 0 (by omega), hm 1 (by omega)]; exact c4
  · rw [hset_ne (ent_ne (c7 j hj).1 hg (fun q => by cases q)), pG_congr (m := m) (fun i h1 h2 => hm i (by omega))]; exact c7 j hj
  · by_cases q : j = j0
    · subst q; exact ⟨hset_at, (c8 j hj).2⟩
    · rw [hset_ne (fun z => q (c10 j j0 hj hj0 z)), pV_congr (m := m) (fun i h1 h2 => hm i (by omega))]; exact c8 j hj
/-- a gardener more -/
theorem coreR.addG (c : coreR Z h lo hi o m L G V eG eV gs vs ng nv mG mV) {a e' : Nat} {mc' : Int32} (hl : lstAt Z h' G mc' e' (ng + 1) (va_up gs ng a)) (ha : h'.1 a = some (.inr (3, pG m' ng))) (hia : hi ≤ a) (ha' : a < hi') (hs : ∀ x, lo ≤ x → x < hi → x ≠ G → ¬ (x = eG ∧ z0 Z ≤ eG) → h'.1 x = h.1 x) (he : (e' = eG ∧ z0 Z ≤ eG) ∨ (hi ≤ e' ∧ e' < hi')) (hn : ng + 1 ≤ 4) (hm0 : m' 0 = Int32.ofNat (ng + 1)) (hm : ∀ i, i ≠ 0 → (i < 30 + 4 * ng ∨ 34 + 4 * ng ≤ i) → m' i = m i) (h1 : hi ≤ hi') (h2 : hi' ≤ h'.2.1) (k9 : hOk Z h) :
    coreR Z h' lo hi' o m' L G V e' eV (va_up gs ng a) vs (ng + 1) nv mc' mV := by
  obtain ⟨c1, ⟨f', c2, c3⟩, c4, c5, c6, c7, c8, c9, c10, c11, i1, i2, i3, i4, i5, i6, i7, i8⟩ := c
  have keep : ∀ x e, lo ≤ x → x < hi → h.1 x = some e → (∀ f, e ≠ rArr 10 Z f) → x ≠ G → h'.1 x = some e := by
    intro x e q1 q2 q3 q4 q5
    rw [hs x q1 q2 q5 (fun ⟨z1, z2⟩ => by subst z1; exact absurd rfl (c5.row_ne k9 z2 q3 q4))]
    exact q3
  refine ⟨?_, ⟨f', keep L _ i2.1 i2.2 c2 (fun f9 => ia_ne) (ent_ne c2 c5.1 (fun q => by cases q)), fun j hj => by rw [c3 j hj, hm _ (by omega) (by omega)]⟩, ⟨hm0, by rw [hm 1 (by omega) (by omega)]; exact c4.2.1, hn, c4.2.2.2⟩, hl, c6.keep (by rw [keep V _ i4.1 i4.2 c6.1 (fun f9 q9 => by cases q9) (Ne.symm c11.1), c6.1]) (fun q => hs eV (i6 q).1 (i6 q).2 (fun z => ?_) (fun ⟨z1, z2⟩ => c11.2 z2 z1.symm)), fun j hj => ?_, fun j hj => ?_, fun i j hi9 hj hij => ?_, c10, ⟨c11.1, fun q => ?_⟩, ⟨i1.1, by omega⟩, ⟨i2.1, by omega⟩, ⟨i3.1, by omega⟩, ⟨i4.1, by omega⟩, fun q => ?_, fun q => ⟨(i6 q).1, by have := (i6 q).2; omega⟩, i7, h2⟩
  · rw [keep o _ i1.1 i1.2 c1 (fun f9 q9 => by cases q9) (ent_ne c1 c5.1 (fun q => by cases q))]
    unfold cO; rw [hm 2 (by omega) (by omega), hm 3 (by omega) (by omega), hm 4 (by omega) (by omega), hm 5 (by omega) (by omega)]
  · exact c6.row_ne k9 q c5.1 (fun f9 q9 => by cases q9) z
  · by_cases q : j = ng
    · subst q; simp only [va_up, if_true]; exact ⟨ha, by omega, ha'⟩
    · have hj' : j < ng := by omega
      simp only [va_up, q, if_false]
      rw [keep (gs j) _ (c7 j hj').2.1 (c7 j hj').2.2 (c7 j hj').1 (fun f9 q9 => by cases q9) (ent_ne (c7 j hj').1 c5.1 (fun q => by cases q)), pG_congr (m := m) (fun i h1 h2 => hm i (by omega) (by omega))]
      exact ⟨rfl, (c7 j hj').2.1, by have := (c7 j hj').2.2; omega⟩
  · rw [keep (vs j) _ (c8 j hj).2.1 (c8 j hj).2.2 (c8 j hj).1 (fun f9 q9 => by cases q9) (ent_ne (c8 j hj).1 c5.1 (fun q => by cases q)), pV_congr (m := m) (fun i h1 h2 => hm i (by omega) (by omega))]
    exact ⟨rfl, (c8 j hj).2.1, by have := (c8 j hj).2.2; omega⟩
  · by_cases q1 : i = ng <;> by_cases q2 : j = ng
    · omega
    · simp only [va_up, q1, q2, if_true, if_false] at hij
      have := (c7 j (by omega)).2.2; omega
    · simp only [va_up, q1, q2, if_true, if_false] at hij
      have := (c7 i (by omega)).2.2; omega
    · simp only [va_up, q1, q2, if_false] at hij
      exact c9 i j (by omega) (by omega) hij
  · rcases he with ⟨rfl, hz⟩ | ⟨he, -⟩
    · exact c11.2 hz
    · intro z
      subst z
      rcases c6.2.2 with ⟨g, -⟩ | ⟨g, -⟩
      · have := k9.2.2.1; omega
      · have := (i6 g).2; omega
  · rcases he with ⟨rfl, hz⟩ | ⟨he, he'⟩
    · exact ⟨(i5 hz).1, by have := (i5 hz).2; omega⟩
    · exact ⟨by omega, he'⟩
/-- a visitor more -/
theorem coreR.addV (c : coreR Z h lo hi o m L G V eG eV gs vs ng nv mG mV) {a e' : Nat} {mc' : Int32} (hl : lstAt Z h' V mc' e' (nv + 1) (va_up vs nv a)) (ha : h'.1 a = some (.inr (4, pV m' nv))) (hia : hi ≤ a) (ha' : a < hi') (hs : ∀ x, lo ≤ x → x < hi → x ≠ V → ¬ (x = eV ∧ z0 Z ≤ eV) → h'.1 x = h.1 x) (he : (e' = eV ∧ z0 Z ≤ eV) ∨ (hi ≤ e' ∧ e' < hi')) (hn : nv + 1 ≤ 5) (hm0 : m' 1 = Int32.ofNat (nv + 1)) (hm : ∀ i, i ≠ 1 → (i < 46 + 8 * nv ∨ 54 + 8 * nv ≤ i) → m' i = m i) (h1 : hi ≤ hi') (h2 : hi' ≤ h'.2.1) (k9 : hOk Z h) :
    coreR Z h' lo hi' o m' L G V eG e' gs (va_up vs nv a) ng (nv + 1) mG mc' := by
  obtain ⟨c1, ⟨f', c2, c3⟩, c4, c5, c6, c7, c8, c9, c10, c11, i1, i2, i3, i4, i5, i6, i7, i8⟩ := c
  have hng := c4.2.2.1
  have keep : ∀ x e, lo ≤ x → x < hi → h.1 x = some e → (∀ f, e ≠ rArr 10 Z f) → x ≠ V → h'.1 x = some e := by
    intro x e q1 q2 q3 q4 q5
    rw [hs x q1 q2 q5 (fun ⟨z1, z2⟩ => by subst z1; exact absurd rfl (c6.row_ne k9 z2 q3 q4))]
    exact q3
  refine ⟨?_, ⟨f', keep L _ i2.1 i2.2 c2 (fun f9 => ia_ne) (ent_ne c2 c6.1 (fun q => by cases q)), fun j hj => by rw [c3 j hj, hm _ (by omega) (by omega)]⟩, ⟨by rw [hm 0 (by omega) (by omega)]; exact c4.1, hm0, hng, hn⟩, c5.keep (by rw [keep G _ i3.1 i3.2 c5.1 (fun f9 q9 => by cases q9) c11.1, c5.1]) (fun q => hs eG (i5 q).1 (i5 q).2 (fun z => ?_) (fun ⟨z1, z2⟩ => c11.2 q z1)), hl, fun j hj => ?_, fun j hj => ?_, c9, fun i j hi9 hj hij => ?_, ⟨c11.1, fun q => ?_⟩, ⟨i1.1, by omega⟩, ⟨i2.1, by omega⟩, ⟨i3.1, by omega⟩, ⟨i4.1, by omega⟩, fun q => ⟨(i5 q).1, by have := (i5 q).2; omega⟩, fun q => ?_, i7, h2⟩
  · rw [keep o _ i1.1 i1.2 c1 (fun f9 q9 => by cases q9) (ent_ne c1 c6.1 (fun q => by cases q))]
    unfold cO; rw [hm 2 (by omega) (by omega), hm 3 (by omega) (by omega), hm 4 (by omega) (by omega), hm 5 (by omega) (by omega)]
  · exact c5.row_ne k9 q c6.1 (fun f9 q9 => by cases q9) z
  · rw [keep (gs j) _ (c7 j hj).2.1 (c7 j hj).2.2 (c7 j hj).1 (fun f9 q9 => by cases q9) (ent_ne (c7 j hj).1 c6.1 (fun q => by cases q)), pG_congr (m := m) (fun i h1 h2 => hm i (by omega) (by omega))]
    exact ⟨rfl, (c7 j hj).2.1, by have := (c7 j hj).2.2; omega⟩
  · by_cases q : j = nv
    · subst q; simp only [va_up, if_true]; exact ⟨ha, by omega, ha'⟩
    · have hj' : j < nv := by omega
      simp only [va_up, q, if_false]
      rw [keep (vs j) _ (c8 j hj').2.1 (c8 j hj').2.2 (c8 j hj').1 (fun f9 q9 => by cases q9) (ent_ne (c8 j hj').1 c6.1 (fun q => by cases q)), pV_congr (m := m) (fun i h1 h2 => hm i (by omega) (by omega))]
      exact ⟨rfl, (c8 j hj').2.1, by have := (c8 j hj').2.2; omega⟩
  · by_cases q1 : i = nv <;> by_cases q2 : j = nv
    · omega
    · simp only [va_up, q1, q2, if_true, if_false] at hij
      have := (c8 j (by omega)).2.2; omega
    · simp only [va_up, q1, q2, if_true, if_false] at hij
      have := (c8 i (by omega)).2.2; omega
    · simp only [va_up, q1, q2, if_false] at hij
      exact c10 i j (by omega) (by omega) hij
  · rcases he with ⟨rfl, hz⟩ | ⟨he, -⟩
    · exact c11.2 q
    · intro z
      subst z
      have := (i5 q).2; omega
  · rcases he with ⟨rfl, hz⟩ | ⟨he, he'⟩
    · exact ⟨(i6 hz).1, by have := (i6 hz).2; omega⟩
    · exact ⟨by omega, he'⟩
end cR
