/-! THE LAYER, 4: heap rows (written by gen/mkheap.py) -/
set_option maxRecDepth 100000
def hset (h : aH) (a : Nat) (e : va_E) : aH := (fun j => if j = a then some e else h.1 j, h.2.1, h.2.2)
/-- a new thing of n slots, at the next address -/
def hnew (h : aH) (e : va_E) (n : Nat) : aH := (fun j => if j = h.2.1 then some e else h.1 j, h.2.1 + 1, h.2.2 + n)
def fget (ci k : Nat) (h : aH) (a : Nat) : Option Value := match h.1 a with
  | some (.inr (c, fs)) => if c = ci then fs[k]? else none
  | _ => none
def gI (ci k : Nat) (h : aH) (a : Nat) : Option Int32 := match fget ci k h a with
  | some (.int x) => some x
  | _ => none
def gA (ci k : Nat) (h : aH) (a : Nat) : Option Nat := match fget ci k h a with
  | some (.ref x) => some x
  | _ => none
def gO (ci k : Nat) (h : aH) (a : Nat) : Option (Option Nat) := match fget ci k h a with
  | some (.ref x) => some (some x)
  | some .null => some none
  | _ => none
def pF (ci k : Nat) (Z : aZ) (h : aH) (a : Nat) (v : Value) : Option aH := match h.1 a with
  | some (.inr (c, fs)) => if c = ci ∧ k < fs.length ∧ z0 Z ≤ a then some (hset h a (.inr (ci, fs.set k v))) else none
  | _ => none
abbrev inb (i : Int32) (n : Nat) : Prop := 0 ≤ i ∧ i.toNatClampNeg < n
theorem inb_dec : True := trivial
theorem inb_in {i : Int32} {n : Nat} (h : inb i n) : vp_in i n := by
  rintro (q | q)
  · exact absurd h.1 (Int32.not_le.mpr q)
  · have := h.2; omega
theorem fget_spec {ci k : Nat} {h : aH} {a : Nat} {v : Value} (e : fget ci k h a = some v) : ∃ fs : List Value, h.1 a = some (.inr (ci, fs)) ∧ fs[k]? = some v := by
  unfold fget at e
  split at e
  · rename_i c fs hh
    split at e
    · rename_i hc; subst hc; exact ⟨fs, hh, e⟩
    · cases e
  · cases e
theorem gI_spec {ci k : Nat} {h : aH} {a : Nat} {x : Int32} (e : gI ci k h a = some x) : fget ci k h a = some (.int x) := by
  unfold gI at e
  split at e
  · rename_i hh; cases e; exact hh
  · cases e
theorem gA_spec {ci k : Nat} {h : aH} {a x : Nat} (e : gA ci k h a = some x) : fget ci k h a = some (.ref x) := by
  unfold gA at e
  split at e
  · rename_i hh; cases e; exact hh
  · cases e
theorem gO_spec {ci k : Nat} {h : aH} {a : Nat} {x : Option Nat} (e : gO ci k h a = some x) : fget ci k h a = some (va_rf x) := by
  unfold gO at e
  split at e
  · rename_i hh; cases e; exact hh
  · rename_i hh; cases e; exact hh
  · cases e
theorem pF_spec {ci k : Nat} {Z : aZ} {h h1 : aH} {a : Nat} {v : Value} (e : pF ci k Z h a v = some h1) : ∃ fs : List Value, h.1 a = some (.inr (ci, fs)) ∧ k < fs.length ∧ z0 Z ≤ a ∧ h1 = hset h a (.inr (ci, fs.set k v)) := by
  unfold pF at e
  split at e
  · rename_i c fs hh
    split at e
    · rename_i hc; obtain ⟨rfl, h2, h3⟩ := hc; cases e; exact ⟨fs, hh, h2, h3, rfl⟩
    · cases e
  · cases e
/-- a field's link: class own, entry index: field k of class number ci -/
def aFL (own : String) (index ci k : Nat) : Prop := ∃ (C : String) (T : u_T) (N : Nat) (ref : String), clA[ci]? = some (C, T, N) ∧ (∀ w ∈ u_ws C T N, w ∈ lw_all) ∧ k < N ∧ (ref = (T k).1 ∨ Cond.sameField ref (T k).1 (T k).2.1 (T k).2.2.1 ∈ lw_all) ∧
  (Cond.fieldLink own index ref (T k).2.1 (T k).2.2.1 ∈ lw_all ∨ ∃ host : String, Cond.fieldLinkNest own index ref (T k).2.1 (T k).2.2.1 host ∈ lw_tbl)
/-- .. of type ty, that may be written here -/
def aFP (own : String) (index ci k : Nat) (ty : FieldType) (nm : String) : Prop := ∃ (C : String) (T : u_T) (N : Nat) (ref : String) (ty0 : Nat → FieldType), clA[ci]? = some (C, T, N) ∧ (∀ w ∈ u_ws C T N, w ∈ lw_all) ∧ k < N ∧ (ref = (T k).1 ∨ Cond.sameField ref (T k).1 (T k).2.1 (T k).2.2.1 ∈ lw_all) ∧
  (Cond.fieldLink own index ref (T k).2.1 (T k).2.2.1 ∈ lw_all ∨ ∃ host : String, Cond.fieldLinkNest own index ref (T k).2.1 (T k).2.2.1 host ∈ lw_tbl) ∧ (∀ j, j < N → parseFieldDescriptor (T j).2.2.1 = some (ty0 j)) ∧ (∀ a, a < N → ∀ b, b < N → a ≠ b → (T a).2.1 ≠ (T b).2.1) ∧ ty0 k = ty ∧
  ((T k).2.2.2 = false ∨ ((T k).2.2.2 = true ∧ (T k).1 = own ∧ nm = "<init>" ∧ Cond.fieldLink own index ref (T k).2.1 (T k).2.2.1 ∈ lw_all))
theorem aRep.at {G : aG} {h : aH} {H : Heap} (R : aRep G h H) {a : Nat} {e : va_E} (he : h.1 a = some e) : va_at (gD G) clA (a, e) H := R.2.2.2.2.2 a e he
theorem aRep.put {G : aG} {h : aH} {H H' : Heap} (R : aRep G h H) {a : Nat} {e : va_E} {c c' : Cell} (hz : z0 (gZ G) ≤ a) (hs : H'.size = H.size) (h1 : H[a]? = some c) (h2 : H'[a]? = some c') (hc : c'.slots.size = c.slots.size) (ho : ∀ q, q ≠ a → H'[q]? = H[q]?) (he : va_at (gD G) clA (a, e) H') : aRep G (hset h a e) H' := by
  obtain ⟨r1, r2, r3, r4, r5, r6⟩ := R
  refine ⟨hs.trans r1, (hsum_set hs h1 h2 hc ho).trans r2, by rw [hs]; exact r3, r4, fun q hq => (ho q (by omega)).trans (r5 q hq), fun b e' hb => ?_⟩
  show va_at _ _ _ _
  have hb : (if b = a then some e else h.1 b) = some e' := hb
  by_cases q : b = a
  · rw [if_pos q] at hb
    cases hb
    rw [q]; exact he
  · rw [if_neg q] at hb
    exact (r6 b e' hb).kept (ho b q)
theorem aRep.push {G : aG} {h : aH} {H H' : Heap} (R : aRep G h H) {e : va_E} {c : Cell} (hs : H'.size = H.size + 1) (h1 : H'[H.size]? = some c) (ho : ∀ q, q < H.size → H'[q]? = H[q]?) (he : va_at (gD G) clA (H.size, e) H') : aRep G (hnew h e c.slots.size) H' := by
  obtain ⟨r1, r2, r3, r4, r5, r6⟩ := R
  refine ⟨by rw [hs, r1]; rfl, by rw [hsum_push hs h1 ho, r2]; rfl, by omega, r4, fun q hq => (ho q (by omega)).trans (r5 q hq), fun b e' hb => ?_⟩
  have hb : (if b = h.2.1 then some e else h.1 b) = some e' := hb
  by_cases q : b = h.2.1
  · rw [if_pos q] at hb
    cases hb
    rw [q, ← r1]; exact he
  · rw [if_neg q] at hb
    have hl := (r6 b e' hb).lt
    exact (r6 b e' hb).kept (ho b hl)
theorem aS.put {G : aG} {h0 h h' : aH} {s : State} {H H' : Heap} {locs : List Loc} {cells slots : Nat} {q : Loc} (S : aS G h0 h s H locs cells slots) (R : aRep G h' H') (hn : h'.2 = h.2) (hq : z0 (gZ G) ≤ q.base) : aS G h0 h' s H' (locs ++ [q]) cells slots := by
  obtain ⟨s1, s2, s3, s4, s5, s6⟩ := S
  refine ⟨s1, R, fun x hx => ?_, by rw [hn]; exact s4, by rw [hn]; exact s5, s6⟩
  rcases List.mem_append.mp hx with hx | hx
  · exact s3 x hx
  · rw [List.mem_singleton.mp hx]; exact hq
theorem aS.push {G : aG} {h0 h h' : aH} {s : State} {H H' : Heap} {locs : List Loc} {cells slots n : Nat} (S : aS G h0 h s H locs cells slots) (R : aRep G h' H') (h1 : h'.2.1 = h.2.1 + 1) (h2 : h'.2.2 = h.2.2 + n) (g1 : h.2.1 + 1 ≤ zN (gZ G)) (g2 : h.2.2 + n ≤ zS (gZ G)) : aS G h0 h' s H' locs (cells + 1) (slots + n) := by
  obtain ⟨s1, s2, s3, s4, s5, s6, s7⟩ := S
  refine ⟨s1, R, s3, by omega, by omega, by omega, by omega⟩
theorem aSame {s : State} {args : Array Value} (hts : ∀ w ∈ lw_all, w.before args s = true) {ref own n d : String} (h : ref = own ∨ Cond.sameField ref own n d ∈ lw_all) (x : ClassId × Class × Nat × Field) (hx : s.fieldFound? own n d = some x) : s.fieldFound? ref n d = some x := by
  rcases h with rfl | h
  · exact hx
  · exact u_same (hts _ h) x hx
section aHeap
variable {G : aG} {M : aM} {fr lo : Nat} {h0 : aH} {K : aRes → aH → Prop} {h : aH} {pc : Nat} {lv : List (Option Value)} {st : List Value}
theorem a_get {ci k index a : Nat} {v : Value} (fl : aFL M.1 index ci k) (e : fget ci k h a = some v) (d : decode M.2.1 pc = .ok (.getfield index, 3)) (kk : aW G M fr lo h0 K h (pc + 3) lv (v :: st)) : aW G M fr lo h0 K h pc lv (.ref a :: st) := by
  intro p e9 s m args below meth c H locs cells slots ls C S L
  obtain ⟨cC, T, N, ref, hc, hin, hk, hsm, hlk⟩ := fl
  obtain ⟨fs, e1, e2⟩ := fget_spec e
  obtain ⟨r, h1, cell, q1, q2, q3, q4⟩ := S.2.1.at e1
  have hr : r = (cC, T, N) := Option.some.inj (h1.symm.trans hc)
  subst hr
  have hts := C.2.2.2.2.2.2.2.2.1
  have hK := C.2.2.2.2.2.2.2.2.2
  obtain ⟨hS, hfc, kC, hkC, hkind⟩ := hK.1.1 ci _ hc
  obtain ⟨cf, kf, fi, f, hi, hsl⟩ := hS k hk
  have hst := (u_facts hfc hkC (u_lays hts hin hk) hi).1
  have hv : cell.slots[f.slot]? = some v := by
    rw [hsl, q4 k hk]
    simp [vp_V, e2]
  rcases hlk with hl | ⟨host, hl⟩
  · exact W.getf C.1 C.2.1 C.2.2.2.2.2.2.2.1 (hts _ hl) (aSame hts hsm _ hi) hst q1 (by rw [q3]; exact fun h => by cases h) hv rfl rfl d (kk p e9 s m args below meth c H locs cells slots ls C S L)
  · exact va_Wgetf C.1 C.2.1 C.2.2.2.2.2.2.2.1 (va_Nw.use rfl (hK.2.1 _ hl rfl)) (aSame hts hsm _ hi) hst q1 (by rw [q3]; exact fun h => by cases h) hv rfl rfl d (kk p e9 s m args below meth c H locs cells slots ls C S L)
theorem a_gI {ci k index a : Nat} {x : Int32} (fl : aFL M.1 index ci k) (e : gI ci k h a = some x) (d : decode M.2.1 pc = .ok (.getfield index, 3)) (kk : aW G M fr lo h0 K h (pc + 3) lv (.int x :: st)) : aW G M fr lo h0 K h pc lv (.ref a :: st) := a_get fl (gI_spec e) d kk
theorem a_gA {ci k index a x : Nat} (fl : aFL M.1 index ci k) (e : gA ci k h a = some x) (d : decode M.2.1 pc = .ok (.getfield index, 3)) (kk : aW G M fr lo h0 K h (pc + 3) lv (.ref x :: st)) : aW G M fr lo h0 K h pc lv (.ref a :: st) := a_get fl (gA_spec e) d kk
theorem a_gO {ci k index a : Nat} {x : Option Nat} (fl : aFL M.1 index ci k) (e : gO ci k h a = some x) (d : decode M.2.1 pc = .ok (.getfield index, 3)) (kk : aW G M fr lo h0 K h (pc + 3) lv (va_rf x :: st)) : aW G M fr lo h0 K h pc lv (.ref a :: st) := a_get fl (gO_spec e) d kk
theorem a_put {ci k index a : Nat} {v : Value} {ty : FieldType} {h1 : aH} (fp : aFP M.1 index ci k ty M.2.2.2.2.2) (hv : narrow ty v = v ∧ fits ty v = true) (e : pF ci k (gZ G) h a v = some h1) (d : decode M.2.1 pc = .ok (.putfield index, 3)) (kk : aW G M fr lo h0 K h1 (pc + 3) lv st) : aW G M fr lo h0 K h pc lv (v :: .ref a :: st) := by
  intro p e9 s m args below meth c H locs cells slots ls C S L
  obtain ⟨cC, T, N, ref, ty0, hc, hin, hk, hsm, hlk, hty, hnm, hty9, hfin⟩ := fp
  obtain ⟨fs, e1, hlen, hz, rfl⟩ := pF_spec e
  have hts := C.2.2.2.2.2.2.2.2.1
  have hK := C.2.2.2.2.2.2.2.2.2
  have hown := C.2.2.2.2.2.2.2.1
  have hap := va_apart (own := M.1) hts hin ty0 hty hnm hK.1 hc
  obtain ⟨r, h1, cell, q1, q2, q3, q4⟩ := S.2.1.at e1
  have hr : r = (cC, T, N) := Option.some.inj (h1.symm.trans hc)
  subst hr
  obtain ⟨hS, hfc, kC, hkC, hkind⟩ := hK.1.1 ci _ hc
  obtain ⟨cf, kf, fi, f, hi, hsl⟩ := hS k hk
  have hst := (u_facts hfc hkC (u_lays hts hin hk) hi).1
  have hd : parseFieldDescriptor (T k).2.2.1 = some ty := by rw [hty k hk, hty9]
  have go : ∀ H' : Heap, H'[a]? = some (cell.setSlot f.slot v) → H'.size = H.size → (∀ q, q ≠ a → H'[q]? = H[q]?) → W p (gl G) e9 (aR G fr lo h0) s m args below meth c H' (locs ++ [⟨a, f.slot⟩]) cells slots (aQ G h0 K below args s) (F0 m (pc + 3) ls st) := by
    intro H' e1' e2 e3
    refine kk p e9 s m args below meth c H' _ cells slots ls C (S.put (S.2.1.put hz e2 q1 e1' (by simp [Cell.setSlot]) e3 ?_) rfl hz) L
    rw [hsl] at e1'
    exact ⟨_, hc, t_OB.to (V := updV (vp_V fs) k v) ⟨_, e1', q2, q3, t_set q4 hap hk v⟩ (fun j _ => vp_updV_set hlen v j)⟩
  have hlay := hts _ (hin _ (u_in_lay hk))
  unfold u_lay at hlay
  rcases hfin with hfin | ⟨hfin, hdecl, hnm9, hl⟩
  · rw [if_neg (by rw [hfin]; decide)] at hlay
    have h6 := u_store hfc hkC hkind hlay hi hd hv.1 hv.2
    rcases hlk with hl | ⟨host, hl⟩
    · exact W.putK C.1 C.2.1 (f := f) ⟨hown, hts _ hl, ⟨_, _, _, aSame hts hsm _ hi⟩, hst⟩ (by rw [q2]; exact h6) q1 q3 (by rw [hsl]; exact k2_hasslot (q4 k hk)) rfl rfl d go
    · exact va_WputK C.1 C.2.1 (f := f) hown (va_Nw.use rfl (hK.2.1 _ hl rfl)) (aSame hts hsm _ hi) hst (by rw [q2]; exact h6) q1 q3 (by rw [hsl]; exact k2_hasslot (q4 k hk)) rfl rfl d go
  · rw [if_pos hfin] at hlay
    have hcf : m.cls = cf := by
      obtain ⟨_, _, c', _, _, _, -, -, hf', -, -, -, hown2, -⟩ := Cond.laysFinal_spec hlay
      have e1 : c' = cf := by have := hi.symm.trans hf'; simp at this; exact this.1.symm
      rw [hdecl] at hown2
      rw [← e1]; exact Option.some.inj (hown.symm.trans hown2)
    have h6 := u_fits hfc hkC hkind (Or.inr hlay) hi hd hv.1 hv.2
    exact W.putFinK C.1 C.2.1 hown (hts _ hl) (aSame hts hsm _ hi) hst hcf (C.2.2.2.2.2.1.trans hnm9) (by rw [q2]; exact h6) q1 q3 (by rw [hsl]; exact k2_hasslot (q4 k hk)) rfl rfl d go

def ldI (Z : aZ) (h : aH) (a : Nat) (i : Int32) : Option Int32 := match h.1 a with
  | some (.inl (c, n, .inl f)) => if c = zI Z ∧ inb i n then some (f i.toNatClampNeg) else none
  | _ => none
def stI (Z : aZ) (h : aH) (a : Nat) (i : Int32) (x : Int32) : Option aH := match h.1 a with
  | some (.inl (c, n, .inl f)) => if c = zI Z ∧ inb i n ∧ z0 Z ≤ a then some (hset h a (.inl (c, n, .inl (va_up f i.toNatClampNeg x)))) else none
  | _ => none
theorem ldI_spec {Z : aZ} {h : aH} {a : Nat} {i : Int32} {x : Int32} (e : ldI Z h a i = some x) : ∃ n f, h.1 a = some (.inl (zI Z, n, .inl f)) ∧ inb i n ∧ f i.toNatClampNeg = x := by
  unfold ldI at e
  split at e
  · rename_i c n f hh
    split at e
    · rename_i hc; obtain ⟨rfl, h2⟩ := hc; cases e; exact ⟨n, f, hh, h2, rfl⟩
    · cases e
  · cases e
theorem stI_spec {Z : aZ} {h h1 : aH} {a : Nat} {i : Int32} {x : Int32} (e : stI Z h a i x = some h1) : ∃ n f, h.1 a = some (.inl (zI Z, n, .inl f)) ∧ inb i n ∧ z0 Z ≤ a ∧ h1 = hset h a (.inl (zI Z, n, .inl (va_up f i.toNatClampNeg x))) := by
  unfold stI at e
  split at e
  · rename_i c n f hh
    split at e
    · rename_i hc; obtain ⟨rfl, h2, h3⟩ := hc; cases e; exact ⟨n, f, hh, h2, h3, rfl⟩
    · cases e
  · cases e
theorem a_ldI {a : Nat} {i : Int32} {x : Int32} (e : ldI (gZ G) h a i = some x) (d : decode M.2.1 pc = .ok (.iaload, 1)) (kk : aW G M fr lo h0 K h (pc + 1) lv (.int x :: st)) : aW G M fr lo h0 K h pc lv (.int i :: .ref a :: st) := by
  intro p e9 s m args below meth c H locs cells slots ls C S L
  obtain ⟨n, f, e1, e2, rfl⟩ := ldI_spec e
  have hin := inb_in e2
  have hlt := e2.2
  have hK := C.2.2.2.2.2.2.2.2.2
  exact W.iald (v := .int (f i.toNatClampNeg)) C.1 C.2.1 (S.2.1.at e1) ((hK.1.2 0 _ rfl).1 n (fun j => .int (f j))) (fun q => by cases q) (by show ¬ (i < 0 ∨ (arrV _ _ _).slots.size ≤ _); rw [arrV_size]; exact hin) (by show (arrV _ _ _).slots[_]? = _; rw [arrV_read _ _ hlt]) rfl rfl d (kk p e9 s m args below meth c H locs cells slots ls C S L)
theorem a_stI {a : Nat} {i : Int32} {x : Int32} {h1 : aH} (e : stI (gZ G) h a i x = some h1) (d : decode M.2.1 pc = .ok (.iastore, 1)) (kk : aW G M fr lo h0 K h1 (pc + 1) lv st) : aW G M fr lo h0 K h pc lv (.int x :: .int i :: .ref a :: st) := by
  intro p e9 s m args below meth c H locs cells slots ls C S L
  obtain ⟨n, f, e1, e2, hz, rfl⟩ := stI_spec e
  have hin := inb_in e2
  have hK := C.2.2.2.2.2.2.2.2.2
  have hat : H[a]? = some (arrV (zI (gZ G)) n (fun j => .int (f j))) := S.2.1.at e1
  refine W.iast C.1 C.2.1 hat ((hK.1.2 0 _ rfl).1 n (fun j => .int (f j))) (fun q => by cases q) (by show ¬ (i < 0 ∨ (arrV _ _ _).slots.size ≤ _); rw [arrV_size]; exact hin) rfl rfl d fun H1 e3 z oq => ?_
  have hat' : va_at (gD G) clA (a, .inl (zI (gZ G), n, .inl (va_up f i.toNatClampNeg x))) H1 := by
    show H1[a]? = some (arrV (zI (gZ G)) n (fun j => .int (va_up f i.toNatClampNeg x j)))
    rw [e3, arrV_store]
    congr 2
    funext q
    by_cases hq : q = i.toNatClampNeg
    · subst hq
      simp [updV, va_up, vp_nar]
      try rfl
    · simp [updV, va_up, hq]
  exact kk p e9 s m args below meth c H1 _ cells slots ls C (S.put (S.2.1.put hz z hat e3 (by simp [Cell.setSlot]) oq hat') rfl hz) L
def ldB (Z : aZ) (h : aH) (a : Nat) (i : Int32) : Option Int32 := match h.1 a with
  | some (.inl (c, n, .inl f)) => if c = zB Z ∧ inb i n then some (f i.toNatClampNeg) else none
  | _ => none
def stB (Z : aZ) (h : aH) (a : Nat) (i : Int32) (x : Int32) : Option aH := match h.1 a with
  | some (.inl (c, n, .inl f)) => if c = zB Z ∧ inb i n ∧ z0 Z ≤ a then some (hset h a (.inl (c, n, .inl (va_up f i.toNatClampNeg (vp_nar .byte x))))) else none
  | _ => none
theorem ldB_spec {Z : aZ} {h : aH} {a : Nat} {i : Int32} {x : Int32} (e : ldB Z h a i = some x) : ∃ n f, h.1 a = some (.inl (zB Z, n, .inl f)) ∧ inb i n ∧ f i.toNatClampNeg = x := by
  unfold ldB at e
  split at e
  · rename_i c n f hh
    split at e
    · rename_i hc; obtain ⟨rfl, h2⟩ := hc; cases e; exact ⟨n, f, hh, h2, rfl⟩
    · cases e
  · cases e
theorem stB_spec {Z : aZ} {h h1 : aH} {a : Nat} {i : Int32} {x : Int32} (e : stB Z h a i x = some h1) : ∃ n f, h.1 a = some (.inl (zB Z, n, .inl f)) ∧ inb i n ∧ z0 Z ≤ a ∧ h1 = hset h a (.inl (zB Z, n, .inl (va_up f i.toNatClampNeg (vp_nar .byte x)))) := by
  unfold stB at e
  split at e
  · rename_i c n f hh
    split at e
    · rename_i hc; obtain ⟨rfl, h2, h3⟩ := hc; cases e; exact ⟨n, f, hh, h2, h3, rfl⟩
    · cases e
  · cases e
theorem a_ldB {a : Nat} {i : Int32} {x : Int32} (e : ldB (gZ G) h a i = some x) (d : decode M.2.1 pc = .ok (.baload, 1)) (kk : aW G M fr lo h0 K h (pc + 1) lv (.int x :: st)) : aW G M fr lo h0 K h pc lv (.int i :: .ref a :: st) := by
  intro p e9 s m args below meth c H locs cells slots ls C S L
  obtain ⟨n, f, e1, e2, rfl⟩ := ldB_spec e
  have hin := inb_in e2
  have hlt := e2.2
  have hK := C.2.2.2.2.2.2.2.2.2
  exact W.bald (v := .int (f i.toNatClampNeg)) C.1 C.2.1 (S.2.1.at e1) ((hK.1.2 1 _ rfl).1 n (fun j => .int (f j))) (fun q => by cases q) (by show ¬ (i < 0 ∨ (arrV _ _ _).slots.size ≤ _); rw [arrV_size]; exact hin) (by show (arrV _ _ _).slots[_]? = _; rw [arrV_read _ _ hlt]) rfl rfl d (kk p e9 s m args below meth c H locs cells slots ls C S L)
theorem a_stB {a : Nat} {i : Int32} {x : Int32} {h1 : aH} (e : stB (gZ G) h a i x = some h1) (d : decode M.2.1 pc = .ok (.bastore, 1)) (kk : aW G M fr lo h0 K h1 (pc + 1) lv st) : aW G M fr lo h0 K h pc lv (.int x :: .int i :: .ref a :: st) := by
  intro p e9 s m args below meth c H locs cells slots ls C S L
  obtain ⟨n, f, e1, e2, hz, rfl⟩ := stB_spec e
  have hin := inb_in e2
  have hK := C.2.2.2.2.2.2.2.2.2
  have hat : H[a]? = some (arrV (zB (gZ G)) n (fun j => .int (f j))) := S.2.1.at e1
  refine W.bast C.1 C.2.1 hat ((hK.1.2 1 _ rfl).1 n (fun j => .int (f j))) (fun q => by cases q) (by show ¬ (i < 0 ∨ (arrV _ _ _).slots.size ≤ _); rw [arrV_size]; exact hin) rfl rfl d fun H1 e3 z oq => ?_
  have hat' : va_at (gD G) clA (a, .inl (zB (gZ G), n, .inl (va_up f i.toNatClampNeg (vp_nar .byte x)))) H1 := by
    show H1[a]? = some (arrV (zB (gZ G)) n (fun j => .int (va_up f i.toNatClampNeg (vp_nar .byte x) j)))
    rw [e3, arrV_store]
    congr 2
    funext q
    by_cases hq : q = i.toNatClampNeg
    · subst hq
      simp [updV, va_up, vp_nar]
      try rfl
    · simp [updV, va_up, hq]
  exact kk p e9 s m args below meth c H1 _ cells slots ls C (S.put (S.2.1.put hz z hat e3 (by simp [Cell.setSlot]) oq hat') rfl hz) L
def ldC (Z : aZ) (h : aH) (a : Nat) (i : Int32) : Option Int32 := match h.1 a with
  | some (.inl (c, n, .inl f)) => if c = zC Z ∧ inb i n then some (f i.toNatClampNeg) else none
  | _ => none
def stC (Z : aZ) (h : aH) (a : Nat) (i : Int32) (x : Int32) : Option aH := match h.1 a with
  | some (.inl (c, n, .inl f)) => if c = zC Z ∧ inb i n ∧ z0 Z ≤ a then some (hset h a (.inl (c, n, .inl (va_up f i.toNatClampNeg (vp_nar .char x))))) else none
  | _ => none
theorem ldC_spec {Z : aZ} {h : aH} {a : Nat} {i : Int32} {x : Int32} (e : ldC Z h a i = some x) : ∃ n f, h.1 a = some (.inl (zC Z, n, .inl f)) ∧ inb i n ∧ f i.toNatClampNeg = x := by
  unfold ldC at e
  split at e
  · rename_i c n f hh
    split at e
    · rename_i hc; obtain ⟨rfl, h2⟩ := hc; cases e; exact ⟨n, f, hh, h2, rfl⟩
    · cases e
  · cases e
theorem stC_spec {Z : aZ} {h h1 : aH} {a : Nat} {i : Int32} {x : Int32} (e : stC Z h a i x = some h1) : ∃ n f, h.1 a = some (.inl (zC Z, n, .inl f)) ∧ inb i n ∧ z0 Z ≤ a ∧ h1 = hset h a (.inl (zC Z, n, .inl (va_up f i.toNatClampNeg (vp_nar .char x)))) := by
  unfold stC at e
  split at e
  · rename_i c n f hh
    split at e
    · rename_i hc; obtain ⟨rfl, h2, h3⟩ := hc; cases e; exact ⟨n, f, hh, h2, h3, rfl⟩
    · cases e
  · cases e
theorem a_ldC {a : Nat} {i : Int32} {x : Int32} (e : ldC (gZ G) h a i = some x) (d : decode M.2.1 pc = .ok (.caload, 1)) (kk : aW G M fr lo h0 K h (pc + 1) lv (.int x :: st)) : aW G M fr lo h0 K h pc lv (.int i :: .ref a :: st) := by
  intro p e9 s m args below meth c H locs cells slots ls C S L
  obtain ⟨n, f, e1, e2, rfl⟩ := ldC_spec e
  have hin := inb_in e2
  have hlt := e2.2
  have hK := C.2.2.2.2.2.2.2.2.2
  exact W.cald (v := .int (f i.toNatClampNeg)) C.1 C.2.1 (S.2.1.at e1) ((hK.1.2 2 _ rfl).1 n (fun j => .int (f j))) (fun q => by cases q) (by show ¬ (i < 0 ∨ (arrV _ _ _).slots.size ≤ _); rw [arrV_size]; exact hin) (by show (arrV _ _ _).slots[_]? = _; rw [arrV_read _ _ hlt]) rfl rfl d (kk p e9 s m args below meth c H locs cells slots ls C S L)
theorem a_stC {a : Nat} {i : Int32} {x : Int32} {h1 : aH} (e : stC (gZ G) h a i x = some h1) (d : decode M.2.1 pc = .ok (.castore, 1)) (kk : aW G M fr lo h0 K h1 (pc + 1) lv st) : aW G M fr lo h0 K h pc lv (.int x :: .int i :: .ref a :: st) := by
  intro p e9 s m args below meth c H locs cells slots ls C S L
  obtain ⟨n, f, e1, e2, hz, rfl⟩ := stC_spec e
  have hin := inb_in e2
  have hK := C.2.2.2.2.2.2.2.2.2
  have hat : H[a]? = some (arrV (zC (gZ G)) n (fun j => .int (f j))) := S.2.1.at e1
  refine W.cast C.1 C.2.1 hat ((hK.1.2 2 _ rfl).1 n (fun j => .int (f j))) (fun q => by cases q) (by show ¬ (i < 0 ∨ (arrV _ _ _).slots.size ≤ _); rw [arrV_size]; exact hin) rfl rfl d fun H1 e3 z oq => ?_
  have hat' : va_at (gD G) clA (a, .inl (zC (gZ G), n, .inl (va_up f i.toNatClampNeg (vp_nar .char x)))) H1 := by
    show H1[a]? = some (arrV (zC (gZ G)) n (fun j => .int (va_up f i.toNatClampNeg (vp_nar .char x) j)))
    rw [e3, arrV_store]
    congr 2
    funext q
    by_cases hq : q = i.toNatClampNeg
    · subst hq
      simp [updV, va_up, vp_nar]
      try rfl
    · simp [updV, va_up, hq]
  exact kk p e9 s m args below meth c H1 _ cells slots ls C (S.put (S.2.1.put hz z hat e3 (by simp [Cell.setSlot]) oq hat') rfl hz) L
def ldJ (Z : aZ) (h : aH) (a : Nat) (i : Int32) : Option Int64 := match h.1 a with
  | some (.inl (c, n, .inr (.inl f))) => if c = zJ Z ∧ inb i n then some (f i.toNatClampNeg) else none
  | _ => none
def stJ (Z : aZ) (h : aH) (a : Nat) (i : Int32) (x : Int64) : Option aH := match h.1 a with
  | some (.inl (c, n, .inr (.inl f))) => if c = zJ Z ∧ inb i n ∧ z0 Z ≤ a then some (hset h a (.inl (c, n, .inr (.inl (va_up f i.toNatClampNeg x))))) else none
  | _ => none
theorem ldJ_spec {Z : aZ} {h : aH} {a : Nat} {i : Int32} {x : Int64} (e : ldJ Z h a i = some x) : ∃ n f, h.1 a = some (.inl (zJ Z, n, .inr (.inl f))) ∧ inb i n ∧ f i.toNatClampNeg = x := by
  unfold ldJ at e
  split at e
  · rename_i c n f hh
    split at e
    · rename_i hc; obtain ⟨rfl, h2⟩ := hc; cases e; exact ⟨n, f, hh, h2, rfl⟩
    · cases e
  · cases e
theorem stJ_spec {Z : aZ} {h h1 : aH} {a : Nat} {i : Int32} {x : Int64} (e : stJ Z h a i x = some h1) : ∃ n f, h.1 a = some (.inl (zJ Z, n, .inr (.inl f))) ∧ inb i n ∧ z0 Z ≤ a ∧ h1 = hset h a (.inl (zJ Z, n, .inr (.inl (va_up f i.toNatClampNeg x)))) := by
  unfold stJ at e
  split at e
  · rename_i c n f hh
    split at e
    · rename_i hc; obtain ⟨rfl, h2, h3⟩ := hc; cases e; exact ⟨n, f, hh, h2, h3, rfl⟩
    · cases e
  · cases e
theorem a_ldJ {a : Nat} {i : Int32} {x : Int64} (e : ldJ (gZ G) h a i = some x) (d : decode M.2.1 pc = .ok (.laload, 1)) (kk : aW G M fr lo h0 K h (pc + 1) lv (.long x :: st)) : aW G M fr lo h0 K h pc lv (.int i :: .ref a :: st) := by
  intro p e9 s m args below meth c H locs cells slots ls C S L
  obtain ⟨n, f, e1, e2, rfl⟩ := ldJ_spec e
  have hin := inb_in e2
  have hlt := e2.2
  have hK := C.2.2.2.2.2.2.2.2.2
  exact W.lald (v := .long (f i.toNatClampNeg)) C.1 C.2.1 (S.2.1.at e1) ((hK.1.2 3 _ rfl).1 n (fun j => .long (f j))) (fun q => by cases q) (by show ¬ (i < 0 ∨ (arrV _ _ _).slots.size ≤ _); rw [arrV_size]; exact hin) (by show (arrV _ _ _).slots[_]? = _; rw [arrV_read _ _ hlt]) rfl rfl d (kk p e9 s m args below meth c H locs cells slots ls C S L)
theorem a_stJ {a : Nat} {i : Int32} {x : Int64} {h1 : aH} (e : stJ (gZ G) h a i x = some h1) (d : decode M.2.1 pc = .ok (.lastore, 1)) (kk : aW G M fr lo h0 K h1 (pc + 1) lv st) : aW G M fr lo h0 K h pc lv (.long x :: .int i :: .ref a :: st) := by
  intro p e9 s m args below meth c H locs cells slots ls C S L
  obtain ⟨n, f, e1, e2, hz, rfl⟩ := stJ_spec e
  have hin := inb_in e2
  have hK := C.2.2.2.2.2.2.2.2.2
  have hat : H[a]? = some (arrV (zJ (gZ G)) n (fun j => .long (f j))) := S.2.1.at e1
  refine W.last C.1 C.2.1 hat ((hK.1.2 3 _ rfl).1 n (fun j => .long (f j))) (fun q => by cases q) (by show ¬ (i < 0 ∨ (arrV _ _ _).slots.size ≤ _); rw [arrV_size]; exact hin) rfl rfl d fun H1 e3 z oq => ?_
  have hat' : va_at (gD G) clA (a, .inl (zJ (gZ G), n, .inr (.inl (va_up f i.toNatClampNeg x)))) H1 := by
    show H1[a]? = some (arrV (zJ (gZ G)) n (fun j => .long (va_up f i.toNatClampNeg x j)))
    rw [e3, arrV_store]
    congr 2
    funext q
    by_cases hq : q = i.toNatClampNeg
    · subst hq
      simp [updV, va_up, vp_nar]
      try rfl
    · simp [updV, va_up, hq]
  exact kk p e9 s m args below meth c H1 _ cells slots ls C (S.put (S.2.1.put hz z hat e3 (by simp [Cell.setSlot]) oq hat') rfl hz) L
def ldD (Z : aZ) (h : aH) (a : Nat) (i : Int32) : Option UInt64 := match h.1 a with
  | some (.inl (c, n, .inr (.inr (.inr (.inl f))))) => if c = zD Z ∧ inb i n then some (f i.toNatClampNeg) else none
  | _ => none
def stD (Z : aZ) (h : aH) (a : Nat) (i : Int32) (x : UInt64) : Option aH := match h.1 a with
  | some (.inl (c, n, .inr (.inr (.inr (.inl f))))) => if c = zD Z ∧ inb i n ∧ z0 Z ≤ a then some (hset h a (.inl (c, n, .inr (.inr (.inr (.inl (va_up f i.toNatClampNeg x))))))) else none
  | _ => none
theorem ldD_spec {Z : aZ} {h : aH} {a : Nat} {i : Int32} {x : UInt64} (e : ldD Z h a i = some x) : ∃ n f, h.1 a = some (.inl (zD Z, n, .inr (.inr (.inr (.inl f))))) ∧ inb i n ∧ f i.toNatClampNeg = x := by
  unfold ldD at e
  split at e
  · rename_i c n f hh
    split at e
    · rename_i hc; obtain ⟨rfl, h2⟩ := hc; cases e; exact ⟨n, f, hh, h2, rfl⟩
    · cases e
  · cases e
theorem stD_spec {Z : aZ} {h h1 : aH} {a : Nat} {i : Int32} {x : UInt64} (e : stD Z h a i x = some h1) : ∃ n f, h.1 a = some (.inl (zD Z, n, .inr (.inr (.inr (.inl f))))) ∧ inb i n ∧ z0 Z ≤ a ∧ h1 = hset h a (.inl (zD Z, n, .inr (.inr (.inr (.inl (va_up f i.toNatClampNeg x)))))) := by
  unfold stD at e
  split at e
  · rename_i c n f hh
    split at e
    · rename_i hc; obtain ⟨rfl, h2, h3⟩ := hc; cases e; exact ⟨n, f, hh, h2, h3, rfl⟩
    · cases e
  · cases e
theorem a_ldD {a : Nat} {i : Int32} {x : UInt64} (e : ldD (gZ G) h a i = some x) (d : decode M.2.1 pc = .ok (.daload, 1)) (kk : aW G M fr lo h0 K h (pc + 1) lv (.double x :: st)) : aW G M fr lo h0 K h pc lv (.int i :: .ref a :: st) := by
  intro p e9 s m args below meth c H locs cells slots ls C S L
  obtain ⟨n, f, e1, e2, rfl⟩ := ldD_spec e
  have hin := inb_in e2
  have hlt := e2.2
  have hK := C.2.2.2.2.2.2.2.2.2
  exact W.dald (v := .double (f i.toNatClampNeg)) C.1 C.2.1 (S.2.1.at e1) ((hK.1.2 4 _ rfl).1 n (fun j => .double (f j))) (fun q => by cases q) (by show ¬ (i < 0 ∨ (arrV _ _ _).slots.size ≤ _); rw [arrV_size]; exact hin) (by show (arrV _ _ _).slots[_]? = _; rw [arrV_read _ _ hlt]) rfl rfl d (kk p e9 s m args below meth c H locs cells slots ls C S L)
theorem a_stD {a : Nat} {i : Int32} {x : UInt64} {h1 : aH} (e : stD (gZ G) h a i x = some h1) (d : decode M.2.1 pc = .ok (.dastore, 1)) (kk : aW G M fr lo h0 K h1 (pc + 1) lv st) : aW G M fr lo h0 K h pc lv (.double x :: .int i :: .ref a :: st) := by
  intro p e9 s m args below meth c H locs cells slots ls C S L
  obtain ⟨n, f, e1, e2, hz, rfl⟩ := stD_spec e
  have hin := inb_in e2
  have hK := C.2.2.2.2.2.2.2.2.2
  have hat : H[a]? = some (arrV (zD (gZ G)) n (fun j => .double (f j))) := S.2.1.at e1
  refine W.dast C.1 C.2.1 hat ((hK.1.2 4 _ rfl).1 n (fun j => .double (f j))) (fun q => by cases q) (by show ¬ (i < 0 ∨ (arrV _ _ _).slots.size ≤ _); rw [arrV_size]; exact hin) rfl rfl d fun H1 e3 z oq => ?_
  have hat' : va_at (gD G) clA (a, .inl (zD (gZ G), n, .inr (.inr (.inr (.inl (va_up f i.toNatClampNeg x)))))) H1 := by
    show H1[a]? = some (arrV (zD (gZ G)) n (fun j => .double (va_up f i.toNatClampNeg x j)))
    rw [e3, arrV_store]
    congr 2
    funext q
    by_cases hq : q = i.toNatClampNeg
    · subst hq
      simp [updV, va_up, vp_nar]
      try rfl
    · simp [updV, va_up, hq]
  exact kk p e9 s m args below meth c H1 _ cells slots ls C (S.put (S.2.1.put hz z hat e3 (by simp [Cell.setSlot]) oq hat') rfl hz) L
end aHeap
