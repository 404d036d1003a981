/-! plain things, 2: answers, the heap read and written -/
set_option maxRecDepth 100000
/-- x answers, and with Q -/
def Ok {α : Type} (x : Option α) (Q : α → Prop) : Prop := ∃ r, x = some r ∧ Q r
theorem Ok.bnd {α β : Type} {x : Option α} {f : α → Option β} {a : α} {Q : β → Prop} (h : x = some a) (k : Ok (f a) Q) : Ok (x.bind f) Q := by subst h; exact k
theorem Ok.call {α β : Type} {x : Option α} {f : α → Option β} {P : α → Prop} {Q : β → Prop} (h : Ok x P) (k : ∀ a, P a → Ok (f a) Q) : Ok (x.bind f) Q := by obtain ⟨a, rfl, hp⟩ := h; exact k a hp
theorem Ok.pos {c : Prop} [Decidable c] {α : Type} {x y : Option α} {Q : α → Prop} (hc : c) (k : Ok x Q) : Ok (if c then x else y) Q := by rw [if_pos hc]; exact k
theorem Ok.neg {c : Prop} [Decidable c] {α : Type} {x y : Option α} {Q : α → Prop} (hc : ¬ c) (k : Ok y Q) : Ok (if c then x else y) Q := by rw [if_neg hc]; exact k
theorem Ok.ite {c : Prop} [Decidable c] {α : Type} {x y : Option α} {Q : α → Prop} (k1 : c → Ok x Q) (k2 : ¬ c → Ok y Q) : Ok (if c then x else y) Q := by
  by_cases hc : c
  · exact Ok.pos hc (k1 hc)
  · exact Ok.neg hc (k2 hc)
theorem Ok.ret {α : Type} {r : α} {Q : α → Prop} (h : Q r) : Ok (some r) Q := ⟨r, rfl, h⟩
theorem Ok.imp {α : Type} {x : Option α} {P Q : α → Prop} (h : Ok x P) (k : ∀ a, P a → Q a) : Ok x Q := by obtain ⟨a, e, hp⟩ := h; exact ⟨a, e, k a hp⟩
theorem Ok.map {α β : Type} {x : Option α} {f : α → β} {Q : β → Prop} (h : Ok x (fun a => Q (f a))) : Ok (x.map f) Q := by obtain ⟨a, rfl, hp⟩ := h; exact ⟨_, rfl, hp⟩
theorem Ok.of {α : Type} {x : Option α} {r : α} {Q : α → Prop} (h : x = some r) (hq : Q r) : Ok x Q := ⟨r, h, hq⟩
theorem Ok.eq {α : Type} {x : Option α} {r : α} (h : Ok x (fun a => a = r)) : x = some r := by obtain ⟨a, e, rfl⟩ := h; exact e
/-- what is old is known by its place below z0; nothing lies behind the next address -/
def hOk (Z : aZ) (h : aH) : Prop := z0 Z ≤ h.2.1 ∧ (∀ a e, h.1 a = some e → a < h.2.1) ∧ znm Z 0 < z0 Z ∧ h.1 (znm Z 0) = some (.inl (zO Z, 0, .inr (.inr (.inr (.inr fun _ => none)))))
/-- room for u units: u cells, 32 u slots -/
def Rm (Z : aZ) (h : aH) (u : Nat) : Prop := h.2.1 + u ≤ zN Z ∧ h.2.2 + 32 * u ≤ zS Z
/-- from h to h' nothing old has changed but in S; at most u units are new -/
def Fr (S : Nat → Prop) (h h' : aH) (u : Nat) : Prop := (∀ a, a < h.2.1 → ¬ S a → h'.1 a = h.1 a) ∧ h.2.1 ≤ h'.2.1 ∧ h'.2.1 ≤ h.2.1 + u ∧ h'.2.2 ≤ h.2.2 + 32 * u
def non : Nat → Prop := fun _ => False
theorem Fr.rf {S : Nat → Prop} {h : aH} {u : Nat} : Fr S h h u := ⟨fun _ _ _ => rfl, Nat.le_refl _, by omega, by omega⟩
theorem Fr.tr {S S' : Nat → Prop} {h h1 h2 : aH} {u v : Nat} (f : Fr S h h1 u) (g : Fr S' h1 h2 v) (hs : ∀ a, a < h.2.1 → S' a → S a) : Fr S h h2 (u + v) := by
  obtain ⟨f1, f2, f3, f4⟩ := f
  obtain ⟨g1, g2, g3, g4⟩ := g
  exact ⟨fun a ha hn => (g1 a (by omega) (fun q => hn (hs a ha q))).trans (f1 a ha hn), by omega, by omega, by omega⟩
theorem Fr.mono {S S' : Nat → Prop} {h h' : aH} {u u' : Nat} (f : Fr S h h' u) (hs : ∀ a, a < h.2.1 → S a → S' a) (hu : u ≤ u') : Fr S' h h' u' := by
  obtain ⟨f1, f2, f3, f4⟩ := f
  exact ⟨fun a ha hn => f1 a ha (fun q => hn (hs a ha q)), f2, by omega, by omega⟩
theorem Fr.up {S : Nat → Prop} {h h' : aH} {u u' : Nat} (f : Fr S h h' u) (hu : u ≤ u') : Fr S h h' u' := f.mono (fun _ _ q => q) hu
theorem Rm.after {S : Nat → Prop} {Z : aZ} {h h' : aH} {u v : Nat} (r : Rm Z h (u + v)) (f : Fr S h h' u) : Rm Z h' v := by
  obtain ⟨r1, r2⟩ := r
  obtain ⟨-, f2, f3, f4⟩ := f
  exact ⟨by omega, by omega⟩
theorem Rm.less {Z : aZ} {h : aH} {u v : Nat} (r : Rm Z h u) (hu : v ≤ u) : Rm Z h v := ⟨by have := r.1; omega, by have := r.2; omega⟩
theorem hset_at {h : aH} {a : Nat} {e : va_E} : (hset h a e).1 a = some e := by simp [hset]
theorem hset_ne {h : aH} {a b : Nat} {e : va_E} (hb : b ≠ a) : (hset h a e).1 b = h.1 b := by simp [hset, hb]
theorem hset_n {h : aH} {a : Nat} {e : va_E} : (hset h a e).2 = h.2 := rfl
theorem hset_hset {h : aH} {a : Nat} {e e' : va_E} : hset (hset h a e) a e' = hset h a e' := by
  unfold hset
  refine Prod.ext ?_ rfl
  funext j
  by_cases q : j = a <;> simp [q]
theorem hset_same {h : aH} {a : Nat} {e : va_E} (he : h.1 a = some e) : hset h a e = h := by
  unfold hset
  refine Prod.ext ?_ rfl
  funext j
  by_cases q : j = a
  · simp [q, he]
  · simp [q]
theorem hnew_at {h : aH} {e : va_E} {n : Nat} : (hnew h e n).1 h.2.1 = some e := by simp [hnew]
theorem hnew_ne {h : aH} {b : Nat} {e : va_E} {n : Nat} (hb : b ≠ h.2.1) : (hnew h e n).1 b = h.1 b := by simp [hnew, hb]
theorem hnew_n {h : aH} {e : va_E} {n : Nat} : (hnew h e n).2.1 = h.2.1 + 1 := rfl
theorem Fr.set {S : Nat → Prop} {h : aH} {a : Nat} {e : va_E} (hs : S a) : Fr S h (hset h a e) 0 := ⟨fun b _ hn => hset_ne (fun q => hn (by rw [q]; exact hs)), Nat.le_refl _, Nat.le_refl _, Nat.le_refl _⟩
theorem Fr.new {S : Nat → Prop} {h : aH} {e : va_E} {n : Nat} (hn : n ≤ 32) : Fr S h (hnew h e n) 1 := ⟨fun b hb _ => hnew_ne (by omega), by show h.2.1 ≤ h.2.1 + 1; omega, Nat.le_refl _, by show h.2.2 + n ≤ _; omega⟩
theorem hOk.set {Z : aZ} {h : aH} {a : Nat} {e : va_E} (k : hOk Z h) (hz : z0 Z ≤ a) (ha : a < h.2.1) : hOk Z (hset h a e) := by
  obtain ⟨k1, k2, k3, k4⟩ := k
  refine ⟨k1, fun b e' hb => ?_, k3, by rw [hset_ne (by omega)]; exact k4⟩
  by_cases q : b = a
  · rw [q]; exact ha
  · rw [hset_ne q] at hb; exact k2 b e' hb
theorem hOk.new {Z : aZ} {h : aH} {e : va_E} {n : Nat} (k : hOk Z h) : hOk Z (hnew h e n) := by
  obtain ⟨k1, k2, k3, k4⟩ := k
  refine ⟨by show z0 Z ≤ h.2.1 + 1; omega, fun b e' hb => ?_, k3, by rw [hnew_ne (by omega)]; exact k4⟩
  show b < h.2.1 + 1
  by_cases q : b = h.2.1
  · omega
  · rw [hnew_ne q] at hb
    have := k2 b e' hb
    omega
theorem nw_of {Z : aZ} {h : aH} {e : va_E} {n : Nat} (r : Rm Z h 1) (hn : n ≤ 32) : nw Z h e n = some (hnew h e n) := by
  obtain ⟨r1, r2⟩ := r
  unfold nw
  rw [if_pos ⟨by omega, by omega⟩]
theorem nwA_of {Z : aZ} {h : aH} {e : Nat → va_E} {n : Nat} (r : Rm Z h 1) (hn : n ≤ 32) : nwA Z h (Int32.ofNat n) e = some (hnew h (e n) n) := by
  have hz : (Int32.ofNat n).toNatClampNeg = n := Int32.toNatClampNeg_ofNat_of_lt (by omega)
  unfold nwA
  rw [hz, if_pos ⟨Int32.zero_le_ofNat_of_lt (by omega), by omega⟩]
  exact nw_of r hn
theorem gI_of {ci k : Nat} {h : aH} {a : Nat} {fs : List Value} {x : Int32} (e : h.1 a = some (.inr (ci, fs))) (q : fs[k]? = some (.int x)) : gI ci k h a = some x := by simp [gI, fget, e, q]
theorem gA_of {ci k : Nat} {h : aH} {a : Nat} {fs : List Value} {x : Nat} (e : h.1 a = some (.inr (ci, fs))) (q : fs[k]? = some (.ref x)) : gA ci k h a = some x := by simp [gA, fget, e, q]
theorem gO_of {ci k : Nat} {h : aH} {a : Nat} {fs : List Value} {x : Option Nat} (e : h.1 a = some (.inr (ci, fs))) (q : fs[k]? = some (va_rf x)) : gO ci k h a = some x := by cases x <;> simp [gO, fget, e, q, va_rf]
theorem pF_of {ci k : Nat} {Z : aZ} {h : aH} {a : Nat} {fs : List Value} {v : Value} (e : h.1 a = some (.inr (ci, fs))) (hk : k < fs.length) (hz : z0 Z ≤ a) : pF ci k Z h a v = some (hset h a (.inr (ci, fs.set k v))) := by simp [pF, e, hk, hz]
theorem isC_of {ci : Nat} {h : aH} {a : Nat} {fs : List Value} (e : h.1 a = some (.inr (ci, fs))) : isC ci h a = true := by simp [isC, e]
theorem iNat {n : Nat} (h : n < 2147483648) : (Int32.ofNat n).toNatClampNeg = n := Int32.toNatClampNeg_ofNat_of_lt (by omega)
theorem inb_of {i n : Nat} (h : i < n) (hi : i < 2147483648) : inb (Int32.ofNat i) n := ⟨Int32.zero_le_ofNat_of_lt (by omega), by rw [iNat hi]; exact h⟩
theorem ldI_of {Z : aZ} {h : aH} {a n i : Nat} {f : Nat → Int32} (e : h.1 a = some (.inl (zI Z, n, .inl f))) (hi : i < n) (hs : i < 2147483648) : ldI Z h a (Int32.ofNat i) = some (f i) := by
  unfold ldI
  rw [e]
  simp only [true_and]
  rw [if_pos (inb_of hi hs), iNat hs]
theorem stI_of {Z : aZ} {h : aH} {a n i : Nat} {f : Nat → Int32} {x : Int32} (e : h.1 a = some (.inl (zI Z, n, .inl f))) (hi : i < n) (hs : i < 2147483648) (hz : z0 Z ≤ a) : stI Z h a (Int32.ofNat i) x = some (hset h a (.inl (zI Z, n, .inl (va_up f i x)))) := by
  unfold stI
  rw [e]
  simp only [true_and]
  rw [if_pos ⟨inb_of hi hs, hz⟩, iNat hs]
theorem ldX_of {Z : aZ} {h : aH} {a n i x : Nat} {f : Nat → Option Nat} (e : h.1 a = some (.inl (zO Z, n, .inr (.inr (.inr (.inr f)))))) (hi : i < n) (hs : i < 2147483648) (hx : f i = some x) : ldX Z h a (Int32.ofNat i) = some x := by
  unfold ldX ldR
  rw [e]
  simp only [true_and]
  rw [if_pos (inb_of hi hs), iNat hs, hx]
  rfl
theorem stR_of {Z : aZ} {h : aH} {a n i : Nat} {f : Nat → Option Nat} {x : Option Nat} (e : h.1 a = some (.inl (zO Z, n, .inr (.inr (.inr (.inr f)))))) (hi : i < n) (hs : i < 2147483648) (hz : z0 Z ≤ a) : stR Z h a (Int32.ofNat i) x = some (hset h a (.inl (zO Z, n, .inr (.inr (.inr (.inr (va_up f i x))))))) := by
  unfold stR
  rw [e]
  simp only [true_and]
  rw [if_pos ⟨inb_of hi hs, hz⟩, iNat hs]
theorem alen_I {Z : aZ} {h : aH} {a n : Nat} {f : Nat → Int32} (e : h.1 a = some (.inl (zI Z, n, .inl f))) : alen Z h a = some (Int32.ofNat n) := by simp [alen, e]
theorem alen_O {Z : aZ} {h : aH} {a n : Nat} {f : Nat → Option Nat} (e : h.1 a = some (.inl (zO Z, n, .inr (.inr (.inr (.inr f)))))) : alen Z h a = some (Int32.ofNat n) := by simp [alen, e]
theorem clI_of {Z : aZ} {h : aH} {a n : Nat} {f : Nat → Int32} (e : h.1 a = some (.inl (zI Z, n, .inl f))) (r : Rm Z h 1) (hn : n ≤ 32) : clI Z h a = some (hnew h (.inl (zI Z, n, .inl f)) n) := by
  unfold clI
  rw [e]
  simp only [if_true]
  exact nw_of r hn
theorem iLe {a b : Nat} (ha : a < 2147483648) (hb : b < 2147483648) : Int32.ofNat a ≤ Int32.ofNat b ↔ a ≤ b := Int32.ofNat_le_iff_le (by omega) (by omega)
theorem iLt {a b : Nat} (ha : a < 2147483648) (hb : b < 2147483648) : Int32.ofNat a < Int32.ofNat b ↔ a < b := Int32.ofNat_lt_iff_lt (by omega) (by omega)
theorem iEq {a b : Nat} (ha : a < 2147483648) (hb : b < 2147483648) : Int32.ofNat a = Int32.ofNat b ↔ a = b := by
  refine ⟨fun h => ?_, fun h => by rw [h]⟩
  have := congrArg Int32.toNatClampNeg h
  rwa [iNat ha, iNat hb] at this
theorem iAdd (a b : Nat) : Int32.ofNat a + Int32.ofNat b = Int32.ofNat (a + b) := (Int32.ofNat_add a b).symm
theorem iAdd1 (a : Nat) : Int32.ofNat a + 1 = Int32.ofNat (a + 1) := (Int32.ofNat_add a 1).symm
theorem iSub {a b : Nat} (h : b ≤ a) : Int32.ofNat a - Int32.ofNat b = Int32.ofNat (a - b) := (Int32.ofNat_sub a b h).symm
theorem iMul (a b : Nat) : Int32.ofNat a * Int32.ofNat b = Int32.ofNat (a * b) := (Int32.ofNat_mul a b).symm
/-- a number between 0 and n -/
theorem iRange {x : Int32} {n : Nat} (hn : n < 2147483648) (h1 : 0 ≤ x) (h2 : x ≤ Int32.ofNat n) : ∃ j, j ≤ n ∧ x = Int32.ofNat j := by
  refine ⟨x.toNatClampNeg, ?_, (Int32.ofNat_toNatClampNeg x h1).symm⟩
  have := Int32.toNatClampNeg_le h2
  rwa [iNat hn] at this
theorem iNeg {n : Nat} (hn : n < 2147483648) : ¬ Int32.ofNat n = -1 := by
  intro h
  have h1 : (0 : Int32) ≤ Int32.ofNat n := Int32.zero_le_ofNat_of_lt (by omega)
  rw [h] at h1
  exact absurd h1 (by decide)
theorem iNeg0 {n : Nat} (hn : n < 2147483648) : ¬ Int32.ofNat n < 0 := Int32.not_lt.mpr (Int32.zero_le_ofNat_of_lt (by omega))
