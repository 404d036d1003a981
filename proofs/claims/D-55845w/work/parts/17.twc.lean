/-! the twin's methods, called from the heap at large -/
set_option maxRecDepth 100000
/-- the twin's state, as the heap has it -/
def twS (T : Nat → Nat) (h : aH) : tS := (fun k => match h.1 (T 100) with
  | some (.inr (_, fs)) => (match fs[k]? with
    | some (.int x) => x
    | _ => 0)
  | _ => 0, fun k => match h.1 (T k) with
  | some (.inl (_, _, .inl f)) => f
  | _ => fun _ => 0)
def twIs (Z : aZ) (T : Nat → Nat) (h : aH) : Prop := tOk Z T ∧ tput Z h T (twS T h) = h
noncomputable def twc {α : Type} (Z : aZ) (T : Nat → Nat) (h : aH) (a : Nat) (f : tS → Option (α × tS)) : Option (α × aH) :=
  @ite _ (a = T 100 ∧ twIs Z T h) (Classical.propDecidable _) ((f (twS T h)).map fun r => (r.1, tput Z h T r.2)) none
theorem twM {α : Type} {G : aG} {T : Nat → Nat} {h : aH} {a : Nat} {f : tS → Option (α × tS)} {r : α × aH} {y : MethodName} {ws : List Cond} {fr lo : Nat} {As : List Value} {E : α → aH → aRes → aH → Prop}
    (hk : ∀ (s : tS) (B : aH) (r' : α × tS), tOk (gZ G) T → f s = some r' → aMet G y ws fr lo (.ref (T 100) :: As) (tput (gZ G) B T s) (E r'.1 (tput (gZ G) B T r'.2))) (e : twc (gZ G) T h a f = some r) : aMet G y ws fr lo (.ref a :: As) h (E r.1 r.2) := by
  unfold twc at e
  split at e
  case isFalse => cases e
  rename_i hc
  obtain ⟨rfl, ht, hh⟩ := hc
  obtain ⟨r', e1, rfl⟩ := Option.map_eq_some_iff.mp e
  have hm := hk (twS T h) h r' ht e1
  rw [hh] at hm
  exact hm
