/-! what the decompiler's prints stand on -/
set_option maxRecDepth 100000
theorem obnd {α β : Type} {x : Option α} {f : α → Option β} {r : β} (h : x.bind f = some r) : ∃ a, x = some a ∧ f a = some r := Option.bind_eq_some_iff.mp h
theorem oifp {c : Prop} [Decidable c] {α : Sort _} {a b r : α} (hc : c) (h : (if c then a else b) = r) : a = r := by rwa [if_pos hc] at h
theorem oifn {c : Prop} [Decidable c] {α : Sort _} {a b r : α} (hc : ¬ c) (h : (if c then a else b) = r) : b = r := by rwa [if_neg hc] at h
theorem oifg {c : Prop} [Decidable c] {α : Type} {a : Option α} {r : α} (h : (if c then a else none) = some r) : c ∧ a = some r := by
  by_cases hc : c
  · exact ⟨hc, by rwa [if_pos hc] at h⟩
  · rw [if_neg hc] at h; cases h
theorem omap {α β : Type} {f : α → β} {x : Option α} {r : β} (h : x.map f = some r) : ∃ a, x = some a ∧ f a = r := Option.map_eq_some_iff.mp h
/-- a loop: at most n turns -/
def wlo {σ ε : Type} (f : σ → Option (σ ⊕ ε)) : Nat → σ → Option ε
  | 0, _ => none
  | n + 1, s => match f s with
    | none => none
    | some (.inl s') => wlo f n s'
    | some (.inr e) => some e
theorem wlo_W {σ ε : Type} {f : σ → Option (σ ⊕ ε)} {P : σ → Prop} {Q : ε → Prop} (hb : ∀ s e, f s = some e → Sum.elim P Q e → P s) : ∀ (n : Nat) (s : σ) (e' : ε), wlo f n s = some e' → Q e' → P s := by
  intro n
  induction n with
  | zero => intro s e' h _; cases h
  | succ n ih =>
    intro s e' h hq
    unfold wlo at h
    split at h
    · cases h
    · rename_i s' hs; exact hb s _ hs (ih s' e' h hq)
    · rename_i e hs; cases h; exact hb s _ hs hq
abbrev aXX : Type := String × Nat
def aEI (x : Int32) (h1 : aH) : aRes → aH → Prop := fun q h => q = .inl (some (.int x)) ∧ h = h1
def aEV (_ : Unit) (h1 : aH) : aRes → aH → Prop := fun q h => q = .inl none ∧ h = h1
def aEA (x : Nat) (h1 : aH) : aRes → aH → Prop := fun q h => q = .inl (some (.ref x)) ∧ h = h1
def aEF (x : UInt32) (h1 : aH) : aRes → aH → Prop := fun q h => q = .inl (some (.float x)) ∧ h = h1
def aED (x : UInt64) (h1 : aH) : aRes → aH → Prop := fun q h => q = .inl (some (.double x)) ∧ h = h1
def aXI (r : Int32 ⊕ aXX) (h1 : aH) : aRes → aH → Prop := fun q h => q = r.elim (fun x => .inl (some (.int x))) .inr ∧ h = h1
def aXV (r : Unit ⊕ aXX) (h1 : aH) : aRes → aH → Prop := fun q h => q = r.elim (fun _ => .inl none) .inr ∧ h = h1
def aXA (r : Nat ⊕ aXX) (h1 : aH) : aRes → aH → Prop := fun q h => q = r.elim (fun x => .inl (some (.ref x))) .inr ∧ h = h1
def aXD (r : UInt64 ⊕ aXX) (h1 : aH) : aRes → aH → Prop := fun q h => q = r.elim (fun x => .inl (some (.double x))) .inr ∧ h = h1
/-- the end E is an end of K -/
def aTo (E K : aRes → aH → Prop) : Prop := ∀ q h, E q h → K q h
theorem aTo.rf {K : aRes → aH → Prop} : aTo K K := fun _ _ h => h
def maskL : List Bool → List (Option Value) → List (Option Value)
  | true :: bs, x :: xs => x :: maskL bs xs
  | false :: bs, _ :: xs => none :: maskL bs xs
  | _, _ => []
theorem maskL_le (bs : List Bool) : ∀ (lv : List (Option Value)) (i : Nat) (v : Value), (maskL bs lv)[i]? = some (some v) → lv[i]? = some (some v) := by
  induction bs with
  | nil => intro lv i v h; simp [maskL] at h
  | cons b bs ih =>
    intro lv i v h
    cases lv with
    | nil => cases b <;> simp [maskL] at h
    | cons x xs =>
      cases b
      · cases i with
        | zero => simp [maskL] at h
        | succ i => exact ih xs i v h
      · cases i with
        | zero => exact h
        | succ i => exact ih xs i v h
section aBase
variable {G : aG} {M : aM} {fr lo : Nat} {h0 : aH} {K : aRes → aH → Prop} {h : aH} {pc : Nat} {lv : List (Option Value)} {st : List Value}
theorem a_mask (bs : List Bool) (k : aW G M fr lo h0 K h pc (maskL bs lv) st) : aW G M fr lo h0 K h pc lv st :=
  fun p e s m args below meth c H locs cells slots ls C S L => k p e s m args below meth c H locs cells slots ls C S ⟨L.1, L.2.1, fun i v hv => L.2.2 i v (maskL_le bs lv i v hv)⟩
variable {fr' lo' idx n nL : Nat} {y : MethodName} {b : ByteArray} {ret : Option FieldType} {As rest st0 : List Value} {a : Nat}
/-- behind a call that returns -/
theorem kI {x : Int32} {h1 : aH} (k : aW G M fr lo h0 K h1 pc lv (.int x :: rest)) : ∀ v h', aEI x h1 (.inl v) h' → aW G M fr lo h0 K h' pc lv (v.toList ++ rest) := by
  rintro v h' ⟨e, rfl⟩; cases e; exact k
theorem kV {x : Unit} {h1 : aH} (k : aW G M fr lo h0 K h1 pc lv rest) : ∀ v h', aEV x h1 (.inl v) h' → aW G M fr lo h0 K h' pc lv (v.toList ++ rest) := by
  rintro v h' ⟨e, rfl⟩; cases e; exact k
theorem kA {x : Nat} {h1 : aH} (k : aW G M fr lo h0 K h1 pc lv (.ref x :: rest)) : ∀ v h', aEA x h1 (.inl v) h' → aW G M fr lo h0 K h' pc lv (v.toList ++ rest) := by
  rintro v h' ⟨e, rfl⟩; cases e; exact k
theorem kF {x : UInt32} {h1 : aH} (k : aW G M fr lo h0 K h1 pc lv (.float x :: rest)) : ∀ v h', aEF x h1 (.inl v) h' → aW G M fr lo h0 K h' pc lv (v.toList ++ rest) := by
  rintro v h' ⟨e, rfl⟩; cases e; exact k
theorem kD {x : UInt64} {h1 : aH} (k : aW G M fr lo h0 K h1 pc lv (.double x :: rest)) : ∀ v h', aED x h1 (.inl v) h' → aW G M fr lo h0 K h' pc lv (v.toList ++ rest) := by
  rintro v h' ⟨e, rfl⟩; cases e; exact k
theorem xI {x : Int32} {h1 : aH} : ∀ E q h', aEI x h1 (.inr (E, q)) h' → aX G M fr lo h0 K h' pc lv E q := by rintro E q h' ⟨e, -⟩; cases e
theorem xV {x : Unit} {h1 : aH} : ∀ E q h', aEV x h1 (.inr (E, q)) h' → aX G M fr lo h0 K h' pc lv E q := by rintro E q h' ⟨e, -⟩; cases e
theorem xA {x : Nat} {h1 : aH} : ∀ E q h', aEA x h1 (.inr (E, q)) h' → aX G M fr lo h0 K h' pc lv E q := by rintro E q h' ⟨e, -⟩; cases e
theorem xF {x : UInt32} {h1 : aH} : ∀ E q h', aEF x h1 (.inr (E, q)) h' → aX G M fr lo h0 K h' pc lv E q := by rintro E q h' ⟨e, -⟩; cases e
theorem xD {x : UInt64} {h1 : aH} : ∀ E q h', aED x h1 (.inr (E, q)) h' → aX G M fr lo h0 K h' pc lv E q := by rintro E q h' ⟨e, -⟩; cases e
/-- behind a call that returned or threw: the two cases -/
theorem kXI {x : Int32} {h1 : aH} (k : aW G M fr lo h0 K h1 pc lv (.int x :: rest)) : ∀ v h', aXI (.inl x) h1 (.inl v) h' → aW G M fr lo h0 K h' pc lv (v.toList ++ rest) := by
  rintro v h' ⟨e, rfl⟩; cases e; exact k
theorem kXV {x : Unit} {h1 : aH} (k : aW G M fr lo h0 K h1 pc lv rest) : ∀ v h', aXV (.inl x) h1 (.inl v) h' → aW G M fr lo h0 K h' pc lv (v.toList ++ rest) := by
  rintro v h' ⟨e, rfl⟩; cases e; exact k
theorem kXA {x : Nat} {h1 : aH} (k : aW G M fr lo h0 K h1 pc lv (.ref x :: rest)) : ∀ v h', aXA (.inl x) h1 (.inl v) h' → aW G M fr lo h0 K h' pc lv (v.toList ++ rest) := by
  rintro v h' ⟨e, rfl⟩; cases e; exact k
theorem kXD {x : UInt64} {h1 : aH} (k : aW G M fr lo h0 K h1 pc lv (.double x :: rest)) : ∀ v h', aXD (.inl x) h1 (.inl v) h' → aW G M fr lo h0 K h' pc lv (v.toList ++ rest) := by
  rintro v h' ⟨e, rfl⟩; cases e; exact k
theorem yXI {x : Int32} {h1 : aH} : ∀ E q h', aXI (.inl x) h1 (.inr (E, q)) h' → aX G M fr lo h0 K h' pc lv E q := by rintro E q h' ⟨e, -⟩; cases e
theorem yXV {x : Unit} {h1 : aH} : ∀ E q h', aXV (.inl x) h1 (.inr (E, q)) h' → aX G M fr lo h0 K h' pc lv E q := by rintro E q h' ⟨e, -⟩; cases e
theorem yXA {x : Nat} {h1 : aH} : ∀ E q h', aXA (.inl x) h1 (.inr (E, q)) h' → aX G M fr lo h0 K h' pc lv E q := by rintro E q h' ⟨e, -⟩; cases e
theorem yXD {x : UInt64} {h1 : aH} : ∀ E q h', aXD (.inl x) h1 (.inr (E, q)) h' → aX G M fr lo h0 K h' pc lv E q := by rintro E q h' ⟨e, -⟩; cases e
theorem rXI {x : aXX} {h1 : aH} : ∀ v h', aXI (.inr x) h1 (.inl v) h' → aW G M fr lo h0 K h' pc lv (v.toList ++ rest) := by rintro v h' ⟨e, -⟩; cases e
theorem rXV {x : aXX} {h1 : aH} : ∀ v h', aXV (.inr x) h1 (.inl v) h' → aW G M fr lo h0 K h' pc lv (v.toList ++ rest) := by rintro v h' ⟨e, -⟩; cases e
theorem rXA {x : aXX} {h1 : aH} : ∀ v h', aXA (.inr x) h1 (.inl v) h' → aW G M fr lo h0 K h' pc lv (v.toList ++ rest) := by rintro v h' ⟨e, -⟩; cases e
theorem rXD {x : aXX} {h1 : aH} : ∀ v h', aXD (.inr x) h1 (.inl v) h' → aW G M fr lo h0 K h' pc lv (v.toList ++ rest) := by rintro v h' ⟨e, -⟩; cases e
theorem zXI {x : aXX} {h1 : aH} (k : aX G M fr lo h0 K h1 pc lv x.1 x.2) : ∀ E q h', aXI (.inr x) h1 (.inr (E, q)) h' → aX G M fr lo h0 K h' pc lv E q := by rintro E q h' ⟨e, rfl⟩; cases e; exact k
theorem zXV {x : aXX} {h1 : aH} (k : aX G M fr lo h0 K h1 pc lv x.1 x.2) : ∀ E q h', aXV (.inr x) h1 (.inr (E, q)) h' → aX G M fr lo h0 K h' pc lv E q := by rintro E q h' ⟨e, rfl⟩; cases e; exact k
theorem zXA {x : aXX} {h1 : aH} (k : aX G M fr lo h0 K h1 pc lv x.1 x.2) : ∀ E q h', aXA (.inr x) h1 (.inr (E, q)) h' → aX G M fr lo h0 K h' pc lv E q := by rintro E q h' ⟨e, rfl⟩; cases e; exact k
theorem zXD {x : aXX} {h1 : aH} (k : aX G M fr lo h0 K h1 pc lv x.1 x.2) : ∀ E q h', aXD (.inr x) h1 (.inr (E, q)) h' → aX G M fr lo h0 K h' pc lv E q := by rintro E q h' ⟨e, rfl⟩; cases e; exact k
end aBase
theorem nZ {x : Int32} (h : x = 0 ∨ x = 1) : narrow .boolean (.int x) = .int x := by rcases h with rfl | rfl <;> decide
theorem nZf {x : Int32} (h : x = 0 ∨ x = 1) : narrow .boolean (.int x) = .int x ∧ fits .boolean (.int x) = true := by rcases h with rfl | rfl <;> decide
theorem nBf {x : Int32} (h : x = 0 ∨ x = 1) : narrow .byte (.int x) = .int x ∧ fits .byte (.int x) = true := by rcases h with rfl | rfl <;> decide
theorem nC {x : Int32} (h : 0 ≤ x ∧ x ≤ 65535) : narrow .char (.int x) = .int x := by
  obtain ⟨j, hj, rfl⟩ := nI_of2 (x := x) (M := 65535) (n := 65535) (by decide) (fun q => absurd h.1 (Int32.not_le.mpr q)) h.2
  exact (pk_charN (by omega)).1
/-- a switch over a table that goes to its default -/
def tswOk (dflt lo9 hi9 : Int) (offs : Array Int) (cs : List Int32) : Bool := decide (hi9 - lo9 + 1 = offs.size) && decide (-2147483648 ≤ lo9) && decide (hi9 < 2147483648) && (List.range offs.size).all (fun i => decide (offs[i]? = some dflt) || cs.contains (Int32.ofInt (lo9 + i)))
theorem aTsw {G : aG} {M : aM} {fr lo : Nat} {h0 : aH} {K : aRes → aH → Prop} {h : aH} {pc : Nat} {lv : List (Option Value)} {st : List Value} {dflt lo9 hi9 : Int} {offs : Array Int} {len : Nat} {x : Int32} (tgt : Nat) (d : decode M.2.1 pc = .ok (.tableswitch dflt lo9 hi9 offs, len)) (ht : (pc : Int) + dflt = (tgt : Int)) {cs : List Int32} (hcs : tswOk dflt lo9 hi9 offs cs = true) (hne : ∀ z ∈ cs, ¬ x = z) (k : aW G M fr lo h0 K h tgt lv st) : aW G M fr lo h0 K h pc lv (.int x :: st) := by
  by_cases q : x.toInt < lo9 ∨ hi9 < x.toInt
  · exact a_tswOut tgt d q ht k
  · simp only [tswOk, Bool.and_eq_true, decide_eq_true_eq] at hcs
    obtain ⟨⟨⟨c1, c2⟩, c3⟩, c4⟩ := hcs
    have hi : (x.toInt - lo9).toNat < offs.size := by omega
    have h4 := List.all_eq_true.mp c4 _ (List.mem_range.mpr hi)
    simp only [Bool.or_eq_true, decide_eq_true_eq] at h4
    rcases h4 with h4 | h4
    · exact a_tswIn tgt d (by omega) (by omega) h4 ht k
    · rw [show lo9 + ((x.toInt - lo9).toNat : Int) = x.toInt by omega, Int32.ofInt_toInt] at h4
      exact absurd rfl (hne x (by simpa using h4))
theorem aNil {P : Nat × Nat × Nat × Nat → Prop} : ∀ z ∈ ([] : List (Nat × Nat × Nat × Nat)), P z := fun z h => by cases h
theorem aCons {P : Nat × Nat × Nat × Nat → Prop} {a : Nat × Nat × Nat × Nat} {l : List (Nat × Nat × Nat × Nat)} (h : P a) (t : ∀ z ∈ l, P z) : ∀ z ∈ a :: l, P z := fun z hz => (List.mem_cons.mp hz).elim (fun e => by rw [e]; exact h) (t z)
theorem q_oi : Cond.instanceMethod Lib.objectInit ∈ lw_all := q116
theorem q_oc : Cond.code Lib.objectInit ⟨#[0xb1]⟩ 1 none ∈ lw_all := q117
def jmax (x y : Int32) : Int32 := if x < y then y else x
def jmin (x y : Int32) : Int32 := if y < x then y else x
section aMath
variable {G : aG} {M : aM} {fr lo : Nat} {h0 : aH} {K : aRes → aH → Prop} {h : aH} {pc : Nat} {lv : List (Option Value)} {st : List Value}
theorem a_mmax {idx : Nat} {x y : Int32} (q1 : Cond.methodLink M.1 idx Lib.Math.max.name ∈ lw_all) (q2 : Cond.static Lib.Math.max.name ∈ lw_all) (q3 : Cond.initialized "java/lang/Math" ∈ lw_all) (q4 : Cond.code Lib.Math.max.name Lib.Math.max.code 2 (some .int) ∈ lw_all) (hfr : 1 ≤ fr) (hlo : (st.map fun v => v.category).sum + 13 ≤ lo) (d : decode M.2.1 pc = .ok (.invokestatic idx, 3)) (kk : aW G M fr lo h0 K h (pc + 3) lv (.int (jmax x y) :: st)) : aW G M fr lo h0 K h pc lv (.int y :: .int x :: st) := by
  intro p e s m args below meth c H locs cells slots ls C S L
  have hts := C.2.2.2.2.2.2.2.2.1
  exact va_mmax C.1 C.2.1 (C.2.2.1.trans L.1.symm) C.2.2.2.2.2.2.2.1 (hts _ q1) (hts _ q2) (hts _ q3) (hts _ q4) hfr hlo S.2.2.2.2.2.1 S.2.2.2.2.2.2 d (kk p e s m args below meth c H locs cells slots ls C S L)
theorem a_mmin {idx : Nat} {x y : Int32} (q1 : Cond.methodLink M.1 idx Lib.Math.min.name ∈ lw_all) (q2 : Cond.static Lib.Math.min.name ∈ lw_all) (q3 : Cond.initialized "java/lang/Math" ∈ lw_all) (q4 : Cond.code Lib.Math.min.name Lib.Math.min.code 2 (some .int) ∈ lw_all) (hfr : 1 ≤ fr) (hlo : (st.map fun v => v.category).sum + 13 ≤ lo) (d : decode M.2.1 pc = .ok (.invokestatic idx, 3)) (kk : aW G M fr lo h0 K h (pc + 3) lv (.int (jmin x y) :: st)) : aW G M fr lo h0 K h pc lv (.int y :: .int x :: st) := by
  intro p e s m args below meth c H locs cells slots ls C S L
  have hts := C.2.2.2.2.2.2.2.2.1
  exact va_mmin C.1 C.2.1 (C.2.2.1.trans L.1.symm) C.2.2.2.2.2.2.2.1 (hts _ q1) (hts _ q2) (hts _ q3) (hts _ q4) hfr hlo S.2.2.2.2.2.1 S.2.2.2.2.2.2 d (kk p e s m args below meth c H locs cells slots ls C S L)
end aMath
/-! the twin: one object with numbers and rows of numbers -/
abbrev tS : Type := (Nat → Int32) × (Nat → Nat → Int32)
def tKeys : List Nat := [100, 0, 1, 2, 4, 10, 13, 14, 19]
def tLen : Nat → Nat
  | 0 => 86
  | 1 => 86
  | 2 => 86
  | 4 => 688
  | 10 => 60
  | 13 => 16
  | 14 => 244
  | 19 => 30
  | _ => 0
def tfs (T : Nat → Nat) (c : Nat → Int32) : List Value := [.ref (T 0), .ref (T 1), .ref (T 2), .int (c 3), .ref (T 4), .int (c 5), .int (c 6), .int (c 7), .int (c 8), .int (c 9), .ref (T 10), .int (c 11), .int (c 12), .ref (T 13), .ref (T 14), .int (c 15), .int (c 16), .int (c 17), .int (c 18), .ref (T 19), .int (c 20)]
def tEnt (Z : aZ) (T : Nat → Nat) (s : tS) (k : Nat) : va_E := if k = 100 then .inr (2, tfs T s.1) else .inl (zI Z, tLen k, .inl (s.2 k))
def tput (Z : aZ) (B : aH) (T : Nat → Nat) (s : tS) : aH := (fun a => match tKeys.find? (fun k => T k == a) with | some k => some (tEnt Z T s k) | none => B.1 a, B.2.1, B.2.2)
def tOk (Z : aZ) (T : Nat → Nat) : Prop := (∀ i ∈ tKeys, z0 Z ≤ T i) ∧ ∀ i ∈ tKeys, ∀ j ∈ tKeys, T i = T j → i = j
theorem tput_find {Z : aZ} {T : Nat → Nat} (ht : tOk Z T) {k : Nat} (hk : k ∈ tKeys) : tKeys.find? (fun j => T j == T k) = some k := by
  cases hf : tKeys.find? (fun j => T j == T k) with
  | none =>
    have := List.find?_eq_none.mp hf k hk
    simp at this
  | some j =>
    have h1 := List.mem_of_find?_eq_some hf
    have h2 := List.find?_some hf
    simp at h2
    rw [ht.2 j h1 k hk h2]
theorem tput_at {Z : aZ} {B : aH} {T : Nat → Nat} {s : tS} (ht : tOk Z T) {k : Nat} (hk : k ∈ tKeys) : (tput Z B T s).1 (T k) = some (tEnt Z T s k) := by
  show (match tKeys.find? (fun j => T j == T k) with | some k => some (tEnt Z T s k) | none => B.1 (T k)) = _
  rw [tput_find ht hk]
theorem tput_set {Z : aZ} {B : aH} {T : Nat → Nat} {s s' : tS} (ht : tOk Z T) {k : Nat} (hk : k ∈ tKeys) (ho : ∀ j, j ≠ k → tEnt Z T s' j = tEnt Z T s j) : hset (tput Z B T s) (T k) (tEnt Z T s' k) = tput Z B T s' := by
  unfold hset tput
  refine Prod.ext ?_ rfl
  funext a
  show (if a = T k then some (tEnt Z T s' k) else _) = _
  by_cases e : a = T k
  · subst e
    rw [if_pos rfl]
    show _ = (match tKeys.find? (fun j => T j == T k) with | some k => some (tEnt Z T s' k) | none => B.1 (T k))
    rw [tput_find ht hk]
  · rw [if_neg e]
    show (match tKeys.find? (fun j => T j == a) with | some k => some (tEnt Z T s k) | none => B.1 a) = (match tKeys.find? (fun j => T j == a) with | some k => some (tEnt Z T s' k) | none => B.1 a)
    cases hf : tKeys.find? (fun j => T j == a) with
    | none => rfl
    | some j =>
      have h2 := List.find?_some hf
      simp at h2
      simp only
      rw [ho j (fun q => e (by rw [← h2, q]))]
def tScal : List Nat := [3, 5, 6, 7, 8, 9, 11, 12, 15, 16, 17, 18, 20]
def tArrs : List Nat := [0, 1, 2, 4, 10, 13, 14, 19]
theorem tw_is {Z : aZ} {B : aH} {T : Nat → Nat} {s : tS} (ht : tOk Z T) : isC 2 (tput Z B T s) (T 100) = true := by
  unfold isC
  rw [tput_at ht (by decide)]
  rfl
theorem tw_gI {Z : aZ} {B : aH} {T : Nat → Nat} {s : tS} (ht : tOk Z T) (k : Nat) (hk : k ∈ tScal) : gI 2 k (tput Z B T s) (T 100) = some (s.1 k) := by
  unfold gI fget
  rw [tput_at ht (by decide)]
  simp only [tScal, List.mem_cons, List.not_mem_nil, or_false] at hk
  rcases hk with rfl | rfl | rfl | rfl | rfl | rfl | rfl | rfl | rfl | rfl | rfl | rfl | rfl <;> rfl
theorem tw_gA {Z : aZ} {B : aH} {T : Nat → Nat} {s : tS} (ht : tOk Z T) (k : Nat) (hk : k ∈ tArrs) : gA 2 k (tput Z B T s) (T 100) = some (T k) := by
  unfold gA fget
  rw [tput_at ht (by decide)]
  simp only [tArrs, List.mem_cons, List.not_mem_nil, or_false] at hk
  rcases hk with rfl | rfl | rfl | rfl | rfl | rfl | rfl | rfl <;> rfl
def tld (k : Nat) (s : tS) (i : Int32) : Option Int32 := if inb i (tLen k) then some (s.2 k i.toNatClampNeg) else none
def tst (k : Nat) (s : tS) (i v : Int32) : Option tS := if inb i (tLen k) then some (s.1, va_up s.2 k (va_up (s.2 k) i.toNatClampNeg v)) else none
def tpf (k : Nat) (s : tS) (v : Int32) : Option tS := some (va_up s.1 k v, s.2)
theorem tArr_key {k : Nat} (hk : k ∈ tArrs) : k ∈ tKeys ∧ k ≠ 100 := by
  simp only [tArrs, List.mem_cons, List.not_mem_nil, or_false] at hk
  rcases hk with rfl | rfl | rfl | rfl | rfl | rfl | rfl | rfl <;> decide
theorem tw_ld {Z : aZ} {B : aH} {T : Nat → Nat} {s : tS} (ht : tOk Z T) (k : Nat) (hk : k ∈ tArrs) {i x : Int32} (e : tld k s i = some x) : ldI Z (tput Z B T s) (T k) i = some x := by
  obtain ⟨k1, k2⟩ := tArr_key hk
  unfold ldI
  rw [tput_at ht k1, tEnt, if_neg k2]
  unfold tld at e
  obtain ⟨hi, e⟩ := oifg e
  simp only [true_and]
  rw [if_pos hi]
  exact e
theorem tw_st {Z : aZ} {B : aH} {T : Nat → Nat} {s s' : tS} (ht : tOk Z T) (k : Nat) (hk : k ∈ tArrs) {i x : Int32} (e : tst k s i x = some s') : stI Z (tput Z B T s) (T k) i x = some (tput Z B T s') := by
  obtain ⟨k1, k2⟩ := tArr_key hk
  unfold stI
  rw [tput_at ht k1, tEnt, if_neg k2]
  unfold tst at e
  obtain ⟨hi, e⟩ := oifg e
  cases e
  simp only [true_and]
  rw [if_pos ⟨hi, ht.1 k k1⟩]
  have h1 := tput_set (Z := Z) (B := B) (s := s) (s' := (s.1, va_up s.2 k (va_up (s.2 k) i.toNatClampNeg x))) ht k1 (fun j hj => by
    unfold tEnt
    by_cases q : j = 100
    · rw [if_pos q, if_pos q]
    · rw [if_neg q, if_neg q]
      simp [va_up, hj])
  rw [← h1, tEnt, if_neg k2]
  simp [va_up]
theorem tw_pf {Z : aZ} {B : aH} {T : Nat → Nat} {s s' : tS} (ht : tOk Z T) (k : Nat) (hk : k ∈ tScal) {x : Int32} (e : tpf k s x = some s') : pF 2 k Z (tput Z B T s) (T 100) (.int x) = some (tput Z B T s') := by
  unfold pF
  rw [tput_at ht (by decide), tEnt, if_pos rfl]
  cases e
  have h1 := tput_set (Z := Z) (B := B) (s := s) (s' := (va_up s.1 k x, s.2)) ht (k := 100) (by decide) (fun j hj => by
    unfold tEnt
    rw [if_neg hj, if_neg hj])
  rw [← h1, tEnt, if_pos rfl]
  simp only [tScal, List.mem_cons, List.not_mem_nil, or_false] at hk
  have hz : z0 Z ≤ T 100 := ht.1 100 (by decide)
  rcases hk with rfl | rfl | rfl | rfl | rfl | rfl | rfl | rfl | rfl | rfl | rfl | rfl | rfl <;> simp [tfs, va_up, hz]
