/-! THE LAYER, 6: new things, arrays of objects, casts, statics -/
set_option maxRecDepth 100000
def nw (Z : aZ) (h : aH) (e : va_E) (n : Nat) : Option aH := if h.2.1 + 1 ≤ zN Z ∧ h.2.2 + n ≤ zS Z then some (hnew h e n) else none
theorem nw_spec {Z : aZ} {h h1 : aH} {e : va_E} {n : Nat} (q : nw Z h e n = some h1) : h.2.1 + 1 ≤ zN Z ∧ h.2.2 + n ≤ zS Z ∧ h1 = hnew h e n := by
  unfold nw at q
  split at q
  · rename_i hc; cases q; exact ⟨hc.1, hc.2, rfl⟩
  · cases q
/-- a class's link: entry idx of own is the class number ci, whose fields begin as fs -/
def aFN (own : String) (idx ci : Nat) (fs : List Value) (N : Nat) : Prop := ∃ (C : String) (T : u_T) (ty : Nat → FieldType), clA[ci]? = some (C, T, N) ∧ (∀ w ∈ u_ws C T N, w ∈ lw_all) ∧ (∀ k, k < N → parseFieldDescriptor (T k).2.2.1 = some (ty k)) ∧ Cond.classLink own idx C ∈ lw_all ∧ Cond.instantiable C N ∈ lw_all ∧ Cond.initialized C ∈ lw_all ∧ ∀ j, j < N → defaultValue (ty j) = vp_V fs j
section aAlloc
variable {G : aG} {M : aM} {fr lo : Nat} {h0 : aH} {K : aRes → aH → Prop} {h : aH} {pc : Nat} {lv : List (Option Value)} {st : List Value}
theorem a_lcmp {x y : Int64} (d : decode M.2.1 pc = .ok (.lcmp, 1)) (k : aW G M fr lo h0 K h (pc + 1) lv (.int (lg_cmp x y) :: st)) : aW G M fr lo h0 K h pc lv (.long y :: .long x :: st) :=
  fun p e s m args below meth c H locs cells slots ls C S L => W.lcmp C.1 C.2.1 d (k p e s m args below meth c H locs cells slots ls C S L)
theorem a_ldcf {index : Nat} {v : UInt32} (q : Cond.constantFloat M.1 index v ∈ lw_all) (d : decode M.2.1 pc = .ok (.ldc index, 2)) (k : aW G M fr lo h0 K h (pc + 2) lv (.float v :: st)) : aW G M fr lo h0 K h pc lv st :=
  fun p e s m args below meth c H locs cells slots ls C S L => lv_ldcf C.1 C.2.1 C.2.2.2.2.2.2.2.1 (C.2.2.2.2.2.2.2.2.1 _ q) d (k p e s m args below meth c H locs cells slots ls C S L)
theorem a_new {idx ci N : Nat} {fs : List Value} {h1 : aH} (fl : aFN M.1 idx ci fs N) (e : nw (gZ G) h (.inr (ci, fs)) N = some h1) (d : decode M.2.1 pc = .ok (.new idx, 3)) (kk : aW G M fr lo h0 K h1 (pc + 3) lv (.ref h.2.1 :: st)) : aW G M fr lo h0 K h pc lv st := by
  intro p e9 s m args below meth c H locs cells slots ls C S L
  obtain ⟨g1, g2, rfl⟩ := nw_spec e
  obtain ⟨cC, T, ty, hc, hin, hty, q1, q2, q3, hfs⟩ := fl
  have hts := C.2.2.2.2.2.2.2.2.1
  have hK := C.2.2.2.2.2.2.2.2.2
  have hKn := hK.1.1 ci _ hc
  obtain ⟨s1, s2, s3, s4, s5, s6, s7⟩ := id S
  refine W.newcK C.1 C.2.1 C.2.2.2.2.2.2.2.1 (hts _ q1) (hts _ q2) (hts _ q3) rfl d (show cells + 1 ≤ zN (gZ G) - h0.2.1 by omega) (show slots + N ≤ zS (gZ G) - h0.2.2 by omega) hKn.2.1 s2.1 fun H1 kC hkC e1 z1 o1 => ?_
  obtain ⟨c', k', f1, f2, -, -, -, f6⟩ := Cond.instantiable_spec (hts _ q2)
  cases hKn.2.1.symm.trans f1
  cases hkC.symm.trans f2
  have hb : (blank (gD G |>.1 ci) kC).slots.size = N := by rw [← f6]; simp [blank]
  rw [← s2.1] at e1 z1 o1
  have R1 := s2.push (e := .inr (ci, fs)) z1 e1 o1 ⟨_, hc, (u_born ty hts hin hKn hkC (by rw [s2.1] at e1 ⊢; exact e1) hty).to hfs⟩
  rw [hb] at R1
  exact kk p e9 s m args below meth c H1 locs _ _ ls C (S.push R1 rfl rfl g1 g2) L
/-- arrays of numbers, new -/
def nwA (Z : aZ) (h : aH) (n : Int32) (e : Nat → va_E) : Option aH := if 0 ≤ n ∧ n.toNatClampNeg ≤ 1000000 then nw Z h (e n.toNatClampNeg) n.toNatClampNeg else none
theorem a_newarr {atype : ArrayType} {t0 : Nat} {cA : ClassId} {ty : FieldType} {n : Int32} {h1 : aH} {e : Nat → va_E} (q : Cond.arrayClass ty ∈ lw_all) (hty : newarray.typeOf atype = ty) (hc : (tysA (gZ G))[t0]? = some (cA, ty)) (hby : componentBytes ty ≤ 8) (hno : ∀ C, ty ≠ .object C) (he : ∀ N H1, H1[h.2.1]? = some (arrV cA N (fun _ => defaultValue ty)) → va_at (gD G) clA (h.2.1, e N) H1) (e1 : nwA (gZ G) h n e = some h1) (d : decode M.2.1 pc = .ok (.newarray atype, 2)) (kk : aW G M fr lo h0 K h1 (pc + 2) lv (.ref h.2.1 :: st)) : aW G M fr lo h0 K h pc lv (.int n :: st) := by
  intro p e9 s m args below meth c H locs cells slots ls C S L
  unfold nwA at e1
  split at e1
  case isFalse => cases e1
  rename_i hn
  obtain ⟨g1, g2, rfl⟩ := nw_spec e1
  have hts := C.2.2.2.2.2.2.2.2.1
  have hK := C.2.2.2.2.2.2.2.2.2
  obtain ⟨s1, s2, s3, s4, s5, s6, s7⟩ := id S
  subst hty
  refine va_newaK C.1 C.2.1 (hts _ q) rfl d (N := n.toNatClampNeg) rfl (fun z => absurd hn.1 (Int32.not_le.mpr z)) rfl ?_ (show cells + 1 ≤ zN (gZ G) - h0.2.1 by omega) (show slots + n.toNatClampNeg ≤ zS (gZ G) - h0.2.2 by omega) s2.1 fun H1 cB f1 f2 f3 f4 f5 => ?_
  · exact Nat.le_trans (Nat.mul_le_mul hn.2 hby) (Nat.le_of_ble_eq_true rfl)
  · have hA := (hK.1.2 t0 _ hc).2
    have hAB : cB = cA := by
      cases hq : newarray.typeOf atype with
      | object C => exact absurd hq (hno C)
      | _ => rw [hq] at hA f5; exact Option.some.inj (f5.symm.trans hA)
    subst hAB
    have R1 := s2.push (e := e n.toNatClampNeg) (by rw [f2, s2.1]) (by rw [s2.1]; exact f1) (fun q hq => f3 q (by rw [← s2.1]; exact hq)) (by rw [s2.1]; exact he _ _ f1)
    rw [arrV_size] at R1
    exact kk p e9 s m args below meth c H1 locs _ _ ls C (S.push R1 rfl rfl g1 g2) L
theorem a_newI {n : Int32} {h1 : aH} (q : Cond.arrayClass .int ∈ lw_all) (e1 : nwA (gZ G) h n (fun N => .inl (zI (gZ G), N, .inl fun _ => 0)) = some h1) (d : decode M.2.1 pc = .ok (.newarray .int, 2)) (kk : aW G M fr lo h0 K h1 (pc + 2) lv (.ref h.2.1 :: st)) : aW G M fr lo h0 K h pc lv (.int n :: st) := a_newarr (t0 := 0) q rfl rfl (by decide) (fun C h => by cases h) (fun N H1 f => by exact f) e1 d kk
theorem a_newB {n : Int32} {h1 : aH} (q : Cond.arrayClass .byte ∈ lw_all) (e1 : nwA (gZ G) h n (fun N => .inl (zB (gZ G), N, .inl fun _ => 0)) = some h1) (d : decode M.2.1 pc = .ok (.newarray .byte, 2)) (kk : aW G M fr lo h0 K h1 (pc + 2) lv (.ref h.2.1 :: st)) : aW G M fr lo h0 K h pc lv (.int n :: st) := a_newarr (t0 := 1) q rfl rfl (by decide) (fun C h => by cases h) (fun N H1 f => by exact f) e1 d kk
theorem a_newC {n : Int32} {h1 : aH} (q : Cond.arrayClass .char ∈ lw_all) (e1 : nwA (gZ G) h n (fun N => .inl (zC (gZ G), N, .inl fun _ => 0)) = some h1) (d : decode M.2.1 pc = .ok (.newarray .char, 2)) (kk : aW G M fr lo h0 K h1 (pc + 2) lv (.ref h.2.1 :: st)) : aW G M fr lo h0 K h pc lv (.int n :: st) := a_newarr (t0 := 2) q rfl rfl (by decide) (fun C h => by cases h) (fun N H1 f => by exact f) e1 d kk
theorem a_newJ {n : Int32} {h1 : aH} (q : Cond.arrayClass .long ∈ lw_all) (e1 : nwA (gZ G) h n (fun N => .inl (zJ (gZ G), N, .inr (.inl fun _ => 0))) = some h1) (d : decode M.2.1 pc = .ok (.newarray .long, 2)) (kk : aW G M fr lo h0 K h1 (pc + 2) lv (.ref h.2.1 :: st)) : aW G M fr lo h0 K h pc lv (.int n :: st) := a_newarr (t0 := 3) q rfl rfl (by decide) (fun C h => by cases h) (fun N H1 f => by exact f) e1 d kk
theorem a_newD {n : Int32} {h1 : aH} (q : Cond.arrayClass .double ∈ lw_all) (e1 : nwA (gZ G) h n (fun N => .inl (zD (gZ G), N, .inr (.inr (.inr (.inl fun _ => 0))))) = some h1) (d : decode M.2.1 pc = .ok (.newarray .double, 2)) (kk : aW G M fr lo h0 K h1 (pc + 2) lv (.ref h.2.1 :: st)) : aW G M fr lo h0 K h pc lv (.int n :: st) := a_newarr (t0 := 4) q rfl rfl (by decide) (fun C h => by cases h) (fun N H1 f => by exact f) e1 d kk
/-- an array of objects, new -/
theorem a_newR {idx : Nat} {n : Int32} {h1 : aH} (q : Cond.classLink M.1 idx "java/lang/Object" ∈ lw_all) (e1 : nwA (gZ G) h n (fun N => .inl (zO (gZ G), N, .inr (.inr (.inr (.inr fun _ => none))))) = some h1) (d : decode M.2.1 pc = .ok (.anewarray idx, 3)) (kk : aW G M fr lo h0 K h1 (pc + 3) lv (.ref h.2.1 :: st)) : aW G M fr lo h0 K h pc lv (.int n :: st) := by
  intro p e9 s m args below meth c H locs cells slots ls C S L
  unfold nwA at e1
  split at e1
  case isFalse => cases e1
  rename_i hn
  obtain ⟨g1, g2, rfl⟩ := nw_spec e1
  have hts := C.2.2.2.2.2.2.2.2.1
  have hK := C.2.2.2.2.2.2.2.2.2
  obtain ⟨s1, s2, s3, s4, s5, s6, s7⟩ := id S
  refine W.anew C.1 C.2.1 C.2.2.2.2.2.2.2.1 (hts _ q) (va_AO.use hK.2.2.2.2.2.1) rfl d rfl (fun z => absurd hn.1 (Int32.not_le.mpr z)) ?_ (show cells + 1 ≤ zN (gZ G) - h0.2.1 by omega) (show slots + n.toNatClampNeg ≤ zS (gZ G) - h0.2.2 by omega) fun cA kA comp f1 f2 f3 f4 => ?_
  · exact Nat.le_trans (Nat.mul_le_mul_right 4 hn.2) (Nat.le_of_ble_eq_true rfl)
  · generalize hH1 : H.push ({ cls := cA, slots := Array.replicate n.toNatClampNeg .null, vm := .none } : Cell) = H1
    have z1 : H1.size = H.size + 1 := by rw [← hH1, Array.size_push]
    have e1 : H1[H.size]? = some (arrV cA n.toNatClampNeg (fun _ => .null)) := by rw [← hH1, Array.getElem?_push_size, ← arrV_new]
    have o1 : ∀ q : Nat, q < H.size → H1[q]? = H[q]? := fun q hq => by rw [← hH1, Array.getElem?_push, if_neg (Nat.ne_of_lt hq)]
    obtain ⟨kA9, comp9, -, -, -, k4⟩ := (hK.1.2 5 _ rfl).2
    have hAB : cA = zO (gZ G) := Option.some.inj (f1.symm.trans k4)
    subst hAB
    have R1 := s2.push (e := .inl (zO (gZ G), n.toNatClampNeg, .inr (.inr (.inr (.inr fun _ => none))))) z1 e1 o1 e1
    rw [arrV_size] at R1
    rw [s2.1]
    exact kk p e9 s m args below meth c H1 locs _ _ ls C (S.push R1 rfl rfl g1 g2) L
def alen (Z : aZ) (h : aH) (a : Nat) : Option Int32 := match h.1 a with
  | some (.inl (c, n, _)) => if c = zI Z ∨ c = zB Z ∨ c = zC Z ∨ c = zJ Z ∨ c = zD Z ∨ c = zO Z then some (Int32.ofNat n) else none
  | _ => none
theorem a_alen {a : Nat} {x : Int32} (e : alen (gZ G) h a = some x) (d : decode M.2.1 pc = .ok (.arraylength, 1)) (kk : aW G M fr lo h0 K h (pc + 1) lv (.int x :: st)) : aW G M fr lo h0 K h pc lv (.ref a :: st) := by
  intro p e9 s m args below meth c H locs cells slots ls C S L
  unfold alen at e
  split at e
  case h_2 => cases e
  rename_i cA n f hh
  split at e
  case isFalse => cases e
  rename_i hc
  have hK := C.2.2.2.2.2.2.2.2.2
  have hP : va_P (gD G) clA [(a, .inl (cA, n, f))] H := by
    intro k q hq
    have hz : k < 1 := (List.getElem?_eq_some_iff.mp hq).1
    rw [show k = 0 by omega] at hq
    cases hq
    exact S.2.1.at hh
  have hx : Int32.ofNat n = x := Option.some.inj e
  have kk9 := kk p e9 s m args below meth c H locs cells slots ls C S L
  rcases hc with rfl | rfl | rfl | rfl | rfl | rfl
  · exact va_alen C.1 C.2.1 hK.1 hP 0 0 rfl rfl hx d kk9
  · exact va_alen C.1 C.2.1 hK.1 hP 0 1 rfl rfl hx d kk9
  · exact va_alen C.1 C.2.1 hK.1 hP 0 2 rfl rfl hx d kk9
  · exact va_alen C.1 C.2.1 hK.1 hP 0 3 rfl rfl hx d kk9
  · exact va_alen C.1 C.2.1 hK.1 hP 0 4 rfl rfl hx d kk9
  · exact va_alen C.1 C.2.1 hK.1 hP 0 5 rfl rfl hx d kk9
/-- arrays of objects -/
def ldR (Z : aZ) (h : aH) (a : Nat) (i : Int32) : Option (Option Nat) := match h.1 a with
  | some (.inl (c, n, .inr (.inr (.inr (.inr f))))) => if c = zO Z ∧ inb i n then some (f i.toNatClampNeg) else none
  | _ => none
/-- .. what is read is an object -/
def ldX (Z : aZ) (h : aH) (a : Nat) (i : Int32) : Option Nat := (ldR Z h a i).bind fun x => x
def stR (Z : aZ) (h : aH) (a : Nat) (i : Int32) (x : Option Nat) : Option aH := match h.1 a with
  | some (.inl (c, n, .inr (.inr (.inr (.inr f))))) => if c = zO Z ∧ inb i n ∧ z0 Z ≤ a then some (hset h a (.inl (c, n, .inr (.inr (.inr (.inr (va_up f i.toNatClampNeg x))))))) else none
  | _ => none
theorem ldR_spec {Z : aZ} {h : aH} {a : Nat} {i : Int32} {x : Option Nat} (e : ldR Z h a i = some x) : ∃ n f, h.1 a = some (.inl (zO Z, n, .inr (.inr (.inr (.inr f))))) ∧ inb i n ∧ f i.toNatClampNeg = x := by
  unfold ldR at e
  split at e
  · rename_i c n f hh
    split at e
    · rename_i hc; obtain ⟨rfl, h2⟩ := hc; cases e; exact ⟨n, f, hh, h2, rfl⟩
    · cases e
  · cases e
theorem stR_spec {Z : aZ} {h h1 : aH} {a : Nat} {i : Int32} {x : Option Nat} (e : stR Z h a i x = some h1) : ∃ n f, h.1 a = some (.inl (zO Z, n, .inr (.inr (.inr (.inr f))))) ∧ inb i n ∧ z0 Z ≤ a ∧ h1 = hset h a (.inl (zO Z, n, .inr (.inr (.inr (.inr (va_up f i.toNatClampNeg x)))))) := by
  unfold stR at e
  split at e
  · rename_i c n f hh
    split at e
    · rename_i hc; obtain ⟨rfl, h2, h3⟩ := hc; cases e; exact ⟨n, f, hh, h2, h3, rfl⟩
    · cases e
  · cases e
theorem a_ldR {a : Nat} {i : Int32} {x : Option Nat} (e : ldR (gZ G) h a i = some x) (d : decode M.2.1 pc = .ok (.aaload, 1)) (kk : aW G M fr lo h0 K h (pc + 1) lv (va_rf x :: st)) : aW G M fr lo h0 K h pc lv (.int i :: .ref a :: st) := by
  intro p e9 s m args below meth c H locs cells slots ls C S L
  obtain ⟨n, f, e1, e2, rfl⟩ := ldR_spec e
  have hin := inb_in e2
  have hlt := e2.2
  have hK := C.2.2.2.2.2.2.2.2.2
  exact W.aald (v := va_rf (f i.toNatClampNeg)) (ty := .object "java/lang/Object") C.1 C.2.1 (S.2.1.at e1) ((hK.1.2 5 _ rfl).1 n (fun j => va_rf (f j))) rfl (fun q => by cases q) (by show ¬ (i < 0 ∨ (arrV _ _ _).slots.size ≤ _); rw [arrV_size]; exact hin) (by show (arrV _ _ _).slots[_]? = _; rw [arrV_read _ _ hlt]) rfl rfl d (kk p e9 s m args below meth c H locs cells slots ls C S L)
theorem a_ldX {a x : Nat} {i : Int32} (e : ldX (gZ G) h a i = some x) (d : decode M.2.1 pc = .ok (.aaload, 1)) (kk : aW G M fr lo h0 K h (pc + 1) lv (.ref x :: st)) : aW G M fr lo h0 K h pc lv (.int i :: .ref a :: st) := by
  obtain ⟨y, e1, e2⟩ := Option.bind_eq_some_iff.mp e
  subst e2
  exact a_ldR e1 d kk
theorem a_stX {a v ci : Nat} {i : Int32} {h1 : aH} {r : vw_C} (hc : clA[ci]? = some r) (hca : Cond.castable r.1 "java/lang/Object" ∈ lw_tbl) (hv : isC ci h v = true) (e : stR (gZ G) h a i (some v) = some h1) (d : decode M.2.1 pc = .ok (.aastore, 1)) (kk : aW G M fr lo h0 K h1 (pc + 1) lv st) : aW G M fr lo h0 K h pc lv (.ref v :: .int i :: .ref a :: st) := by
  intro p e9 s m args below meth c H locs cells slots ls C S L
  obtain ⟨n, f, e1, e2, hz, rfl⟩ := stR_spec e
  have hK := C.2.2.2.2.2.2.2.2.2
  have hlt := e2.2
  have hi0 : ¬ i < 0 := fun z => absurd e2.1 (Int32.not_le.mpr z)
  obtain ⟨fs, hfs⟩ := isC_spec hv
  obtain ⟨r', hr', cellV, g1, g2, g3, -⟩ := S.2.1.at hfs
  have hcls := (hK.1.1 ci r hc).2
  obtain ⟨kA, comp, k1, k2, k3, -⟩ := (hK.1.2 5 _ rfl).2
  obtain ⟨kE, hkE, -⟩ := Vm.findClass_spec k3
  obtain ⟨c0, t1, f1, f2, f3⟩ := Cond.castable_spec (va_Nw.use (A := args) rfl (hK.2.1 _ hca rfl))
  cases hcls.1.symm.trans f1
  cases k3.symm.trans f2
  obtain ⟨kC, hkC, -⟩ := hcls.2
  have hat : H[a]? = some (arrV (zO (gZ G)) n (fun j => va_rf (f j))) := S.2.1.at e1
  refine W.aast C.1 C.2.1 hat (fun q h => by cases h) (fun h => by cases h) k1 k2 rfl hkE ⟨hi0, by show _ < (arrV _ _ _).slots.size; rw [arrV_size]; exact hlt⟩ g1 (fun q h => by rw [g3] at h; cases h) (by rw [g2]; exact hkC) (by rw [g2]; exact f3) rfl rfl d fun H1 e3 z oq => ?_
  have hat' : va_at (gD G) clA (a, .inl (zO (gZ G), n, .inr (.inr (.inr (.inr (va_up f i.toNatClampNeg (some v))))))) H1 := by
    show H1[a]? = some (arrV (zO (gZ G)) n (fun j => va_rf (va_up f i.toNatClampNeg (some v) j)))
    rw [e3, arrV_store]
    congr 2
    funext q
    by_cases hq : q = i.toNatClampNeg
    · subst hq
      simp [updV, va_up]
      try rfl
    · simp [updV, va_up, hq]
  exact kk p e9 s m args below meth c H1 _ cells slots ls C (S.put (S.2.1.put hz z hat e3 (by simp [Cell.setSlot]) oq hat') rfl hz) L
theorem a_stN {a : Nat} {i : Int32} {h1 : aH} (e : stR (gZ G) h a i none = some h1) (d : decode M.2.1 pc = .ok (.aastore, 1)) (kk : aW G M fr lo h0 K h1 (pc + 1) lv st) : aW G M fr lo h0 K h pc lv (.null :: .int i :: .ref a :: st) := by
  intro p e9 s m args below meth c H locs cells slots ls C S L
  obtain ⟨n, f, e1, e2, hz, rfl⟩ := stR_spec e
  have hK := C.2.2.2.2.2.2.2.2.2
  have hin := inb_in e2
  have hat : H[a]? = some (arrV (zO (gZ G)) n (fun j => va_rf (f j))) := S.2.1.at e1
  refine va_WaastN (C := "java/lang/Object") C.1 C.2.1 hat ((hK.1.2 5 _ rfl).1 n (fun j => va_rf (f j))) (fun h => by cases h) (by show ¬ (i < 0 ∨ (arrV _ _ _).slots.size ≤ _); rw [arrV_size]; exact hin) rfl rfl d fun H1 e3 z oq => ?_
  have hat' : va_at (gD G) clA (a, .inl (zO (gZ G), n, .inr (.inr (.inr (.inr (va_up f i.toNatClampNeg none)))))) H1 := by
    show H1[a]? = some (arrV (zO (gZ G)) n (fun j => va_rf (va_up f i.toNatClampNeg none j)))
    rw [e3, arrV_store]
    congr 2
    funext q
    by_cases hq : q = i.toNatClampNeg
    · subst hq
      simp [updV, va_up]
      try rfl
    · simp [updV, va_up, hq]
  exact kk p e9 s m args below meth c H1 _ cells slots ls C (S.put (S.2.1.put hz z hat e3 (by simp [Cell.setSlot]) oq hat') rfl hz) L
/-- a cast of an object to its own class -/
theorem a_cast {idx ci a : Nat} {C : String} {T : u_T} {N : Nat} (hc : clA[ci]? = some (C, T, N)) (q : Cond.classLink M.1 idx C ∈ lw_all) (hi : isC ci h a = true) (d : decode M.2.1 pc = .ok (.checkcast idx, 3)) (kk : aW G M fr lo h0 K h (pc + 3) lv (.ref a :: st)) : aW G M fr lo h0 K h pc lv (.ref a :: st) := by
  intro p e9 s m args below meth c H locs cells slots ls C S L
  obtain ⟨fs, hfs⟩ := isC_spec hi
  have hts := C.2.2.2.2.2.2.2.2.1
  have hK := C.2.2.2.2.2.2.2.2.2
  exact va_castS C.1 C.2.1 C.2.2.2.2.2.2.2.1 (hts _ q) (hK.1.1 ci _ hc).2 (aRecv hK.1 S.2.1 hfs hc) d (kk p e9 s m args below meth c H locs cells slots ls C S L)
/-- a static of the list -/
theorem a_gets {idx k : Nat} {C n9 d9 : String} {v : Value} (hs : (aStats (gZ G))[k]? = some (C, n9, d9, v)) (q : Cond.fieldLink M.1 idx C n9 d9 ∈ lw_all) (d : decode M.2.1 pc = .ok (.getstatic idx, 3)) (kk : aW G M fr lo h0 K h (pc + 3) lv (v :: st)) : aW G M fr lo h0 K h pc lv st := by
  intro p e9 s m args below meth c H locs cells slots ls C S L
  have hts := C.2.2.2.2.2.2.2.2.1
  have hK := C.2.2.2.2.2.2.2.2.2
  obtain ⟨cf, kf, fi, f, a, cell, h1, h2, h3, h4, h5, h6, h7, h8⟩ := hK.2.2.1.2.2.1 _ (List.mem_of_getElem? hs)
  have ha : a < z0 (gZ G) := Nat.not_le.mp h8
  exact W.gets C.1 C.2.1 C.2.2.2.2.2.2.2.1 (hts _ q) h1 h2 h3 h4 (by rw [S.2.1.2.2.2.2.1 a ha]; exact h5) (fun e => by rw [e] at h6; cases h6) h7 rfl d (kk p e9 s m args below meth c H locs cells slots ls C S L)
end aAlloc
