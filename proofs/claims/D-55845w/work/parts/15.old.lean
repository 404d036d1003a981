/-! THE LAYER, 8: old things (the script, statics' arrays, Strings), clones and copies -/
set_option maxRecDepth 100000
def oldLd (ty : FieldType) (Z : aZ) (a : Nat) (i : Int32) : Option Int32 := match zold Z a with
  | some (.inl (t, N, f)) => if t = ty ∧ inb i N then some (f i.toNatClampNeg) else none
  | _ => none
def oldLen (Z : aZ) (a : Nat) : Option Int32 := match zold Z a with
  | some (.inl (_, N, _)) => some (Int32.ofNat N)
  | _ => none
/-- an old String's bytes -/
def oldV (Z : aZ) (a : Nat) : Option Nat := match zold Z a with
  | some (.inr v) => some v
  | _ => none
theorem oldLd_spec {ty : FieldType} {Z : aZ} {a : Nat} {i x : Int32} (e : oldLd ty Z a i = some x) : ∃ N f, zold Z a = some (.inl (ty, N, f)) ∧ inb i N ∧ f i.toNatClampNeg = x := by
  unfold oldLd at e
  split at e
  · rename_i t N f hh
    obtain ⟨⟨rfl, h2⟩, e'⟩ := oifg e
    cases e'
    exact ⟨N, f, hh, h2, rfl⟩
  · cases e
theorem oldLen_spec {Z : aZ} {a : Nat} {x : Int32} (e : oldLen Z a = some x) : ∃ ty N f, zold Z a = some (.inl (ty, N, f)) ∧ Int32.ofNat N = x := by
  unfold oldLen at e
  split at e
  · rename_i t N f hh; cases e; exact ⟨_, _, _, hh, rfl⟩
  · cases e
theorem oldV_spec {Z : aZ} {a v : Nat} (e : oldV Z a = some v) : zold Z a = some (.inr v) := by
  unfold oldV at e
  split at e
  · rename_i hh; cases e; exact hh
  · cases e
theorem aS.va {G : aG} {h0 h : aH} {s : State} {H : Heap} {locs : List Loc} {cells slots : Nat} (S : aS G h0 h s H locs cells slots) : va_S (aA (gZ G)) s.heap H locs := by
  obtain ⟨s1, s2, s3, s4, s5, s6, s7⟩ := S
  exact ⟨by rw [s1.1, s2.1]; omega, fun q hq hn => (s2.2.2.2.2.1 q (Nat.not_le.mp hn)).trans (s1.2.2.2.2.1 q (Nat.not_le.mp hn)).symm, s3⟩
theorem aS.kept {G : aG} {h0 h : aH} {s : State} {H : Heap} {locs : List Loc} {cells slots : Nat} (S : aS G h0 h s H locs cells slots) : ∀ q : Nat, q < (gH G).size → ¬ aA (gZ G) q → s.heap[q]? = (gH G)[q]? := fun q _ hn => S.1.2.2.2.2.1 q (Nat.not_le.mp hn)
section aOldS
variable {G : aG} {M : aM} {fr lo : Nat} {h0 : aH} {K : aRes → aH → Prop} {h : aH} {pc : Nat} {lv : List (Option Value)} {st : List Value}
theorem a_oldI {a : Nat} {i x : Int32} (e : oldLd .int (gZ G) a i = some x) (d : decode M.2.1 pc = .ok (.iaload, 1)) (kk : aW G M fr lo h0 K h (pc + 1) lv (.int x :: st)) : aW G M fr lo h0 K h pc lv (.int i :: .ref a :: st) := by
  intro p e9 s m args below meth c H locs cells slots ls C S L
  obtain ⟨N, f, e1, e2, rfl⟩ := oldLd_spec e
  have hK := C.2.2.2.2.2.2.2.2.2
  exact va_ti C.1 C.2.1 ((hK.2.2.1.2.2.2.1 _ _ _ _ e1).kept S.kept) S.va (inb_in e2) rfl d (kk p e9 s m args below meth c H locs cells slots ls C S L)
theorem a_oldB {a : Nat} {i x : Int32} (e : oldLd .byte (gZ G) a i = some x) (d : decode M.2.1 pc = .ok (.baload, 1)) (kk : aW G M fr lo h0 K h (pc + 1) lv (.int x :: st)) : aW G M fr lo h0 K h pc lv (.int i :: .ref a :: st) := by
  intro p e9 s m args below meth c H locs cells slots ls C S L
  obtain ⟨N, f, e1, e2, rfl⟩ := oldLd_spec e
  have hK := C.2.2.2.2.2.2.2.2.2
  exact va_tb C.1 C.2.1 ((hK.2.2.1.2.2.2.1 _ _ _ _ e1).kept S.kept) S.va (inb_in e2) rfl d (kk p e9 s m args below meth c H locs cells slots ls C S L)
theorem a_oldLen {a : Nat} {x : Int32} (e : oldLen (gZ G) a = some x) (d : decode M.2.1 pc = .ok (.arraylength, 1)) (kk : aW G M fr lo h0 K h (pc + 1) lv (.int x :: st)) : aW G M fr lo h0 K h pc lv (.ref a :: st) := by
  intro p e9 s m args below meth c H locs cells slots ls C S L
  obtain ⟨ty, N, f, e1, e2⟩ := oldLen_spec e
  have hK := C.2.2.2.2.2.2.2.2.2
  exact va_tlen C.1 C.2.1 ((hK.2.2.1.2.2.2.1 _ _ _ _ e1).kept S.kept) S.va e2 d (kk p e9 s m args below meth c H locs cells slots ls C S L)
theorem a_oldV {a v idx : Nat} (e : oldV (gZ G) a = some v) (q : Cond.fieldLink M.1 idx "java/lang/String" "value" "[B" ∈ lw_all) (d : decode M.2.1 pc = .ok (.getfield idx, 3)) (kk : aW G M fr lo h0 K h (pc + 3) lv (.ref v :: st)) : aW G M fr lo h0 K h pc lv (.ref a :: st) := by
  intro p e9 s m args below meth c H locs cells slots ls C S L
  have hts := C.2.2.2.2.2.2.2.2.1
  have hK := C.2.2.2.2.2.2.2.2.2
  exact vk_getf C.1 C.2.1 ((hK.2.2.1.2.2.2.2.1 _ _ (oldV_spec e)).2.2.kept S.kept) S.va C.2.2.2.2.2.2.2.1 (hts _ q) (fun _ h => h) d (kk p e9 s m args below meth c H locs cells slots ls C S L)
theorem a_oldC {a v idx : Nat} (e : oldV (gZ G) a = some v) (q : Cond.fieldLink M.1 idx "java/lang/String" "coder" "B" ∈ lw_all) (d : decode M.2.1 pc = .ok (.getfield idx, 3)) (kk : aW G M fr lo h0 K h (pc + 3) lv (.int 0 :: st)) : aW G M fr lo h0 K h pc lv (.ref a :: st) := by
  intro p e9 s m args below meth c H locs cells slots ls C S L
  have hts := C.2.2.2.2.2.2.2.2.1
  have hK := C.2.2.2.2.2.2.2.2.2
  exact vk_getf C.1 C.2.1 ((hK.2.2.1.2.2.2.2.1 _ _ (oldV_spec e)).2.1.kept S.kept) S.va C.2.2.2.2.2.2.2.1 (hts _ q) (fun _ h => h) d (kk p e9 s m args below meth c H locs cells slots ls C S L)
theorem a_ldcS {k idx q : Nat} {tx : String} (hs : (aStrs (gZ G))[k]? = some (M.1, idx, tx, q)) (d : decode M.2.1 pc = .ok (.ldc idx, 2)) (kk : aW G M fr lo h0 K h (pc + 2) lv (.ref q :: st)) : aW G M fr lo h0 K h pc lv st := by
  intro p e9 s m args below meth c H locs cells slots ls C S L
  have hK := C.2.2.2.2.2.2.2.2.2
  exact va_ldcS C.1 C.2.1 C.2.2.2.2.2.2.2.1 (hK.2.2.1.2.2.2.2.2 _ (List.mem_of_getElem? hs)) d (kk p e9 s m args below meth c H locs cells slots ls C S L)
theorem a_callVO {K' : aRes → aH → Prop} {fr' lo' idx n nL a v : Nat} {y : MethodName} {b : ByteArray} {ret : Option FieldType} {As rest st0 : List Value} (kl : aKV M.1 idx 11 y b nL ret n) (hi : oldV (gZ G) a = some v) (hM : aMet G y (ws_ y b nL ret) fr' lo' (.ref a :: As) h K') (hf : aFit fr lo fr' lo' nL) (hn : As.length = n) (hst : st0 = As.reverse ++ .ref a :: rest) (hW : (rest.map fun v => v.category).sum ≤ 8) (d : decode M.2.1 pc = .ok (.invokevirtual idx, 3))
    (kr : ∀ v h', K' (.inl v) h' → aW G M fr lo h0 K h' (pc + 3) lv (v.toList ++ rest)) (kx : ∀ E q h', K' (.inr (E, q)) h' → aX G M fr lo h0 K h' pc lv E q) : aW G M fr lo h0 K h pc lv st0 := by
  intro p e s m args below meth c H locs cells slots ls C S L
  obtain ⟨⟨T, N, hc⟩, k1, k2, k3, k4, k5, k6⟩ := kl
  have hts := C.2.2.2.2.2.2.2.2.1
  have hK := C.2.2.2.2.2.2.2.2.2
  obtain ⟨cell, r1, r2, r3, r4⟩ := (hK.2.2.1.2.2.2.2.1 _ _ (oldV_spec hi)).1
  have hy : y.cls = "java/lang/String" := by have h9 := congrArg (fun o => o.map (fun q : vw_C => q.1)) hc; simpa [clA, RJ5] using h9.symm
  have hp : PreV s H y.cls a (va_Pc (.ref a :: As) (fun U => aK G U ∧ aRep G h U.heap)) As := ⟨aBlind, ⟨cell, by rw [S.2.1.2.2.2.2.1 a (Nat.not_le.mp r4)]; exact r1, r2, by rw [hy]; exact r3⟩, fun U hU hW9 => ⟨rfl, hK.warm hW9, by rw [hU]; exact S.2.1⟩⟩
  rcases k1 with k1 | ⟨host, k1⟩
  · exact a_runs C S L (vx_runV ⟨C.1, C.2.1, C.2.2.1, C.2.2.2.2.2.2.2.1, hts⟩ hM (cwV n hts (lw_V k1 k2 k3 k4 k5) rfl rfl rfl ⟨rfl, k6⟩ hf) hp rfl hn L.1 hst (lv_room (rest := st0) hW) d (aRoom S)) kr kx
  · exact a_runs C S L (vx_runVN ⟨C.1, C.2.1, C.2.2.1, C.2.2.2.2.2.2.2.1, hts⟩ hM ⟨va_cnB n hts (lw_meth k5) rfl rfl rfl (hK.2.1 _ k1 rfl) (hts _ k4) k6 hf, hts _ k2, hts _ k3⟩ hp rfl hn L.1 hst (lv_room (rest := st0) hW) d (aRoom S)) kr kx
/-- a row of ints: it is one -/
def isI (Z : aZ) (h : aH) (a : Nat) : Bool := match h.1 a with
  | some (.inl (c, _, .inl _)) => decide (c = zI Z)
  | _ => false
theorem isI_spec {Z : aZ} {h : aH} {a : Nat} (e : isI Z h a = true) : ∃ n f, h.1 a = some (.inl (zI Z, n, .inl f)) := by
  unfold isI at e
  split at e
  · rename_i c n f hh
    have e := of_decide_eq_true e
    subst e
    exact ⟨n, f, hh⟩
  · cases e
theorem aOne {G : aG} {h : aH} {H : Heap} {a : Nat} {e : va_E} (R : aRep G h H) (hh : h.1 a = some e) : va_P (gD G) clA [(a, e)] H := by
  intro k q hq
  have hz : k < 1 := (List.getElem?_eq_some_iff.mp hq).1
  rw [show k = 0 by omega] at hq
  cases hq
  exact R.at hh
theorem aOneD {A : Nat → Prop} {a : Nat} {e : va_E} (ha : A a) : va_D A [(a, e)] := by
  refine ⟨fun i j p q hi hj _ => ?_, fun k q hq => ?_⟩
  · have h1 : i < 1 := (List.getElem?_eq_some_iff.mp hi).1
    have h2 : j < 1 := (List.getElem?_eq_some_iff.mp hj).1
    omega
  · have hz : k < 1 := (List.getElem?_eq_some_iff.mp hq).1
    rw [show k = 0 by omega] at hq
    cases hq
    exact ha
theorem a_castI {idx a : Nat} (q : Cond.classLink M.1 idx "[I" ∈ lw_all) (hi : isI (gZ G) h a = true) (d : decode M.2.1 pc = .ok (.checkcast idx, 3)) (kk : aW G M fr lo h0 K h (pc + 3) lv (.ref a :: st)) : aW G M fr lo h0 K h pc lv (.ref a :: st) := by
  intro p e9 s m args below meth c H locs cells slots ls C S L
  obtain ⟨n, f, hh⟩ := isI_spec hi
  have hts := C.2.2.2.2.2.2.2.2.1
  have hK := C.2.2.2.2.2.2.2.2.2
  have hnm : s.vm.findClass "[I" = some (zI (gZ G)) := (hK.1.2 0 _ rfl).2
  exact va_castA C.1 C.2.1 C.2.2.2.2.2.2.2.1 (hts _ q) (aOne S.2.1 hh) 0 rfl hnm d (kk p e9 s m args below meth c H locs cells slots ls C S L)
/-- a row of ints, cloned -/
def clI (Z : aZ) (h : aH) (a : Nat) : Option aH := match h.1 a with
  | some (.inl (c, n, .inl f)) => if c = zI Z then nw Z h (.inl (c, n, .inl f)) n else none
  | _ => none
theorem clI_spec {Z : aZ} {h h1 : aH} {a : Nat} (e : clI Z h a = some h1) : ∃ n f, h.1 a = some (.inl (zI Z, n, .inl f)) ∧ nw Z h (.inl (zI Z, n, .inl f)) n = some h1 := by
  unfold clI at e
  split at e
  · rename_i c n f hh
    obtain ⟨rfl, e⟩ := oifg e
    exact ⟨n, f, hh, e⟩
  · cases e
theorem aK.word {G : aG} {s s' : State} {args : Array Value} (hts : ∀ w ∈ lw_all, w.before args s = true) (hv : s'.vm = s.vm) : ∀ w ∈ lw_all, w.before args s' = true := fun w hw => word_at (U := s') (by rw [hv]; exact State.WarmedH.refl s) (good_of_word (List.mem_filter.mp hw).2) (hts w hw)
theorem a_clone {idx a : Nat} {h1 : aH} (q1 : Cond.methodLink M.1 idx ⟨"[I", "clone", "()Ljava/lang/Object;"⟩ ∈ lw_all) (q2 : Cond.sameMethod "[I" "java/lang/Object" "clone" "()Ljava/lang/Object;" ∈ lw_all) (q3 : Cond.native ⟨"java/lang/Object", "clone", "()Ljava/lang/Object;"⟩ ∈ lw_all) (q4 : Cond.instanceMethod ⟨"java/lang/Object", "clone", "()Ljava/lang/Object;"⟩ ∈ lw_all) (q5 : Cond.selects "[I" ⟨"[I", "clone", "()Ljava/lang/Object;"⟩ ⟨"java/lang/Object", "clone", "()Ljava/lang/Object;"⟩ ∈ lw_all) (q6 : Cond.castable "[I" "java/lang/Cloneable" ∈ lw_tbl)
    (e : clI (gZ G) h a = some h1) (hfr : 1 ≤ fr) (hlo : (st.map fun v => v.category).sum + 14 ≤ lo) (d : decode M.2.1 pc = .ok (.invokevirtual idx, 3)) (kk : aW G M fr lo h0 K h1 (pc + 3) lv (.ref h.2.1 :: st)) : aW G M fr lo h0 K h pc lv (.ref a :: st) := by
  intro p e9 s m args below meth c H locs cells slots ls C S L
  obtain ⟨n, f, hh, e⟩ := clI_spec e
  obtain ⟨g1, g2, rfl⟩ := nw_spec e
  have hts := C.2.2.2.2.2.2.2.2.1
  have hK := C.2.2.2.2.2.2.2.2.2
  obtain ⟨s1, s2, s3, s4, s5, s6, s7⟩ := id S
  refine W.rebase (R' := { frames := fr, cells := 1, slots := n, locals := lo }) (Nat.le_refl _) (Nat.le_refl _) (show cells + 1 ≤ zN (gZ G) - h0.2.1 by omega) (show slots + n ≤ zS (gZ G) - h0.2.2 by omega) fun s' hv hh' conv => ?_
  have hts' := aK.word (G := G) hts hv
  have hK' : aK G s' := hK.warm (by rw [hv]; exact State.WarmedH.refl s)
  have hnm : s'.vm.findClass "[I" = some (zI (gZ G)) := (hK'.1.2 0 _ rfl).2
  refine va_clone (A := fun q => q = a ∨ H.size ≤ q) (H0 := H) (ty := .int) C.1 C.2.1 (C.2.2.1.trans L.1.symm) (own := M.1) (ad := "[I") (by rw [hv]; exact C.2.2.2.2.2.2.2.1) (hts' _ q1) (hts' _ q2) (hts' _ q3) (hts' _ q4) (hts' _ q5) (hK'.2.1 _ q6 rfl) hK'.1 (aOne s2 hh) (aOneD (Or.inl rfl)) va_S.rf (fun q hq => Or.inr hq) 0 0 rfl rfl hnm ?_ hfr hlo (Nat.le_of_eq (Nat.zero_add 1)) (by show 0 + n ≤ n; omega) d fun q9 H1 _ hP1 hD1 hS1 => ?_
  · intro i v hv9
    have hi : i < n := by have := (Array.getElem?_eq_some_iff.mp hv9).1; rw [vp_cell_i, arrV_size] at this; exact this
    rw [vp_cell_i, arrV_read _ _ hi] at hv9
    cases hv9
    rfl
  · refine conv _ _ _ _ _ fun z1 z2 => ?_
    have hat := hP1 1 (q9, .inl (zI (gZ G), n, .inl f)) rfl
    have hq9 : q9 < H1.size := hat.lt
    have hne : q9 ≠ a := fun hq => by
      have := hD1.1 1 0 (q9, .inl (zI (gZ G), n, .inl f)) (a, .inl (zI (gZ G), n, .inl f)) rfl rfl hq
      omega
    have hge : H.size ≤ q9 := by
      rcases hD1.2 1 (q9, .inl (zI (gZ G), n, .inl f)) rfl with h | h
      · exact absurd h hne
      · exact h
    have hz1 : H1.size = H.size + 1 := by omega
    have hq : q9 = H.size := by omega
    subst hq
    have hold : ∀ q : Nat, q < H.size → H1[q]? = H[q]? := by
      intro q hq
      by_cases ha : q = a
      · have h1 := hP1 0 (a, .inl (zI (gZ G), n, .inl f)) rfl
        have h2 := s2.at hh
        rw [ha]
        exact (show H1[a]? = _ from h1).trans (show H[a]? = _ from h2).symm
      · exact hS1.2.1 q hq (by rintro (h | h); exact ha h; omega)
    have hcell : H1[H.size]? = some (vp_cell (zI (gZ G)) (n, .inl f)) := hat
    have R1 := s2.push (e := .inl (zI (gZ G), n, .inl f)) hz1 hcell hold hat
    rw [vp_cell_i, arrV_size] at R1
    have S1 := S.push R1 rfl rfl g1 g2
    rw [s2.1]
    rw [List.append_nil]
    exact kk p e9 s m args below meth c H1 locs _ _ ls C (by simpa only [Nat.zero_add] using S1) L
/-- objects of class ci moved within their row -/
def cpR (ci : Nat) (Z : aZ) (h : aH) (a : Nat) (sp dp n : Int32) : Option aH := match h.1 a with
  | some (.inl (c, N, .inr (.inr (.inr (.inr f))))) => if c = zO Z ∧ 0 ≤ sp ∧ 0 ≤ dp ∧ 0 ≤ n ∧ sp.toNatClampNeg + n.toNatClampNeg ≤ N ∧ dp.toNatClampNeg + n.toNatClampNeg ≤ N ∧ z0 Z ≤ a ∧ (List.range n.toNatClampNeg).all (fun i => match f (sp.toNatClampNeg + i) with | none => true | some y => isC ci h y) = true then some (hset h a (.inl (c, N, .inr (.inr (.inr (.inr (va_cpy f f sp.toNatClampNeg dp.toNatClampNeg n.toNatClampNeg))))))) else none
  | _ => none
theorem cpR_spec {ci : Nat} {Z : aZ} {h h1 : aH} {a : Nat} {sp dp n : Int32} (e : cpR ci Z h a sp dp n = some h1) : ∃ N f, h.1 a = some (.inl (zO Z, N, .inr (.inr (.inr (.inr f))))) ∧ (0 ≤ sp ∧ 0 ≤ dp ∧ 0 ≤ n ∧ sp.toNatClampNeg + n.toNatClampNeg ≤ N ∧ dp.toNatClampNeg + n.toNatClampNeg ≤ N ∧ z0 Z ≤ a) ∧ (∀ i : Nat, i < n.toNatClampNeg → ∀ y : Nat, f (sp.toNatClampNeg + i) = some y → isC ci h y = true) ∧ h1 = hset h a (.inl (zO Z, N, .inr (.inr (.inr (.inr (va_cpy f f sp.toNatClampNeg dp.toNatClampNeg n.toNatClampNeg)))))) := by
  unfold cpR at e
  split at e
  · rename_i c N f hh
    obtain ⟨⟨rfl, b1, b2, b3, b4, b5, b6, b7⟩, e⟩ := oifg e
    cases e
    refine ⟨N, f, hh, ⟨b1, b2, b3, b4, b5, b6⟩, fun i hi y hy => ?_, rfl⟩
    have := List.all_eq_true.mp b7 i (List.mem_range.mpr hi)
    rw [hy] at this
    exact this
  · cases e
theorem hset_hsum {H H' : Heap} {a : Nat} {c c' : Cell} (hs : H'.size = H.size) (h1 : H[a]? = some c) (h2 : H'[a]? = some c') (hz : c'.slots.size = c.slots.size) (ho : ∀ q, q < H.size → q ≠ a → H'[q]? = H[q]?) : ∀ q, q ≠ a → H'[q]? = H[q]? := by
  intro q hq
  by_cases hi : q < H.size
  · exact ho q hi hq
  · rw [Array.getElem?_eq_none (by omega), Array.getElem?_eq_none (by omega)]
theorem a_copyR {idx a ci : Nat} {sp dp n : Int32} {h1 : aH} {r : vw_C} (hc : clA[ci]? = some r) (hca : Cond.castable r.1 "java/lang/Object" ∈ lw_tbl) (q1 : Cond.methodLink M.1 idx arraycopyName ∈ lw_all) (q2 : Cond.native arraycopyName ∈ lw_all) (q3 : Cond.static arraycopyName ∈ lw_all) (q4 : Cond.initialized "java/lang/System" ∈ lw_all)
    (e : cpR ci (gZ G) h a sp dp n = some h1) (hfr : 1 ≤ fr) (hlo : (st.map fun v => v.category).sum + (nativeFrameWords "java/lang/System" "arraycopy" 5 + 11) ≤ lo) (d : decode M.2.1 pc = .ok (.invokestatic idx, 3)) (kk : aW G M fr lo h0 K h1 (pc + 3) lv st) : aW G M fr lo h0 K h pc lv (.int n :: .int dp :: .ref a :: .int sp :: .ref a :: st) := by
  intro p e9 s m args below meth c H locs cells slots ls C S L
  obtain ⟨N, f, hh, ⟨b1, b2, b3, b4, b5, b6⟩, b7, rfl⟩ := cpR_spec e
  have hts := C.2.2.2.2.2.2.2.2.1
  have hK := C.2.2.2.2.2.2.2.2.2
  obtain ⟨s1, s2, s3, s4, s5, s6, s7⟩ := id S
  refine W.rebase (R' := { frames := fr, cells := 0, slots := 0, locals := lo }) (Nat.le_refl _) (Nat.le_refl _) (show cells + 0 ≤ zN (gZ G) - h0.2.1 by omega) (show slots + 0 ≤ zS (gZ G) - h0.2.2 by omega) fun s' hv hh' conv => ?_
  have hts' := aK.word (G := G) hts hv
  have hK' : aK G s' := hK.warm (by rw [hv]; exact State.WarmedH.refl s)
  refine va_copyq (A := fun q => q = a) (H0 := H) (C := r.1) C.1 C.2.1 (C.2.2.1.trans L.1.symm) (own := M.1) (by rw [hv]; exact C.2.2.2.2.2.2.2.1) (hts' _ q1) (hts' _ q2) (hts' _ q3) (hts' _ q4) hK'.1 (aOne s2 hh) (aOneD rfl) va_S.rf 0 0 5 5 rfl rfl rfl rfl (fun z => absurd b1 (Int32.not_le.mpr z)) (fun z => absurd b2 (Int32.not_le.mpr z)) (fun z => absurd b3 (Int32.not_le.mpr z)) b4 b5 ?_ ?_ hfr hlo d fun H1 locs1 hP1 hD1 hS1 => ?_
  · intro i hi y hy
    obtain ⟨fs, hfs⟩ := isC_spec (b7 i hi y hy)
    exact aRecv hK'.1 s2 hfs hc
  · exact vb_asgC (hK'.2.1 _ hca rfl)
  · refine conv _ _ _ _ _ fun z1 z2 => ?_
    have hat : va_at (gD G) clA (a, .inl (zO (gZ G), N, .inr (.inr (.inr (.inr (va_cpy f f sp.toNatClampNeg dp.toNatClampNeg n.toNatClampNeg)))))) H1 := hP1 0 _ rfl
    have hz : H1.size = H.size := by omega
    have h2 : H1[a]? = some (arrV (zO (gZ G)) N (fun j => va_rf (va_cpy f f sp.toNatClampNeg dp.toNatClampNeg n.toNatClampNeg j))) := hat
    have h3 : H[a]? = some (arrV (zO (gZ G)) N (fun j => va_rf (f j))) := s2.at hh
    have ho := hset_hsum hz h3 h2 (by rw [arrV_size, arrV_size]) (fun q hq hn => hS1.2.1 q hq hn)
    refine kk p e9 s m args below meth c H1 _ _ _ ls C ?_ L
    refine ⟨s1, s2.put b6 hz h3 h2 (by rw [arrV_size, arrV_size]) ho hat, fun x hx => ?_, s4, s5, s6, s7⟩
    rcases List.mem_append.mp hx with hx | hx
    · exact s3 x hx
    · have := hS1.2.2 x hx
      have this : x.base = a := this
      rw [this]; exact b6
/-- an old row of bytes, copied into a new one -/
def cpB (Z : aZ) (h : aH) (b : Nat) (sp : Int32) (a : Nat) (dp n : Int32) : Option aH := match zold Z b, h.1 a with
  | some (.inl (t, N0, f)), some (.inl (c, N, .inl g)) => if t = .byte ∧ c = zB Z ∧ 0 ≤ sp ∧ 0 ≤ dp ∧ 0 ≤ n ∧ sp.toNatClampNeg + n.toNatClampNeg ≤ N0 ∧ dp.toNatClampNeg + n.toNatClampNeg ≤ N ∧ z0 Z ≤ a ∧ (List.range n.toNatClampNeg).all (fun i => fits .byte (.int (f (sp.toNatClampNeg + i)))) = true then some (hset h a (.inl (c, N, .inl (va_cpy f g sp.toNatClampNeg dp.toNatClampNeg n.toNatClampNeg)))) else none
  | _, _ => none
theorem cpB_spec {Z : aZ} {h h1 : aH} {a b : Nat} {sp dp n : Int32} (e : cpB Z h b sp a dp n = some h1) : ∃ N0 N f g, zold Z b = some (.inl (.byte, N0, f)) ∧ h.1 a = some (.inl (zB Z, N, .inl g)) ∧ (0 ≤ sp ∧ 0 ≤ dp ∧ 0 ≤ n ∧ sp.toNatClampNeg + n.toNatClampNeg ≤ N0 ∧ dp.toNatClampNeg + n.toNatClampNeg ≤ N ∧ z0 Z ≤ a) ∧ (∀ i : Nat, i < n.toNatClampNeg → fits .byte (.int (f (sp.toNatClampNeg + i))) = true) ∧ h1 = hset h a (.inl (zB Z, N, .inl (va_cpy f g sp.toNatClampNeg dp.toNatClampNeg n.toNatClampNeg))) := by
  unfold cpB at e
  split at e
  · rename_i t N0 f c N g hh1 hh2
    obtain ⟨⟨rfl, rfl, b1, b2, b3, b4, b5, b6, b7⟩, e'⟩ := oifg e
    cases e'
    exact ⟨N0, N, f, g, hh1, hh2, ⟨b1, b2, b3, b4, b5, b6⟩, fun i hi => List.all_eq_true.mp b7 i (List.mem_range.mpr hi), rfl⟩
  · cases e
theorem a_copyB {idx a b : Nat} {sp dp n : Int32} {h1 : aH} (q1 : Cond.methodLink M.1 idx arraycopyName ∈ lw_all) (q2 : Cond.native arraycopyName ∈ lw_all) (q3 : Cond.static arraycopyName ∈ lw_all) (q4 : Cond.initialized "java/lang/System" ∈ lw_all)
    (e : cpB (gZ G) h b sp a dp n = some h1) (hfr : 1 ≤ fr) (hlo : (st.map fun v => v.category).sum + (nativeFrameWords "java/lang/System" "arraycopy" 5 + 11) ≤ lo) (d : decode M.2.1 pc = .ok (.invokestatic idx, 3)) (kk : aW G M fr lo h0 K h1 (pc + 3) lv st) : aW G M fr lo h0 K h pc lv (.int n :: .int dp :: .ref a :: .int sp :: .ref b :: st) := by
  intro p e9 s m args below meth c H locs cells slots ls C S L
  obtain ⟨N0, N, f, g, hb0, hh, ⟨b1, b2, b3, b4, b5, b6⟩, b7, rfl⟩ := cpB_spec e
  have hts := C.2.2.2.2.2.2.2.2.1
  have hK := C.2.2.2.2.2.2.2.2.2
  obtain ⟨s1, s2, s3, s4, s5, s6, s7⟩ := id S
  refine W.rebase (R' := { frames := fr, cells := 0, slots := 0, locals := lo }) (Nat.le_refl _) (Nat.le_refl _) (show cells + 0 ≤ zN (gZ G) - h0.2.1 by omega) (show slots + 0 ≤ zS (gZ G) - h0.2.2 by omega) fun s' hv hh' conv => ?_
  have hts' := aK.word (G := G) hts hv
  have hK' : aK G s' := hK.warm (by rw [hv]; exact State.WarmedH.refl s)
  have hT0 := (hK'.2.2.1.2.2.2.1 _ _ _ _ hb0)
  have hT1 : va_T .byte b N0 (fun j => .int (f j)) (fun q => q = a) s' s'.heap := by
    obtain ⟨cell, r1, r2, r3, r4, r5, r6, r7⟩ := hT0
    have hlt : b < z0 (gZ G) := Nat.not_le.mp r7
    exact ⟨cell, by rw [hh', s2.2.2.2.2.1 b hlt]; exact r1, r2, r3, r4, r5, r6, fun q => by have q : b = a := q; omega⟩
  have hS0 : va_S (fun q => q = a) s'.heap H [] := by rw [hh']; exact va_S.rf
  refine vk_copyt (A := fun q => q = a) C.1 C.2.1 (C.2.2.1.trans L.1.symm) (own := M.1) (by rw [hv]; exact C.2.2.2.2.2.2.2.1) (hts' _ q1) (hts' _ q2) (hts' _ q3) (hts' _ q4) hK'.1 (aOne s2 hh) (aOneD rfl) hS0 hT1 0 1 rfl rfl (fun z => absurd b1 (Int32.not_le.mpr z)) (fun z => absurd b2 (Int32.not_le.mpr z)) (fun z => absurd b3 (Int32.not_le.mpr z)) b4 b5 b7 hfr hlo d fun H1 locs1 hP1 hD1 hS1 => ?_
  refine conv _ _ _ _ _ fun z1 z2 => ?_
  have hat : va_at (gD G) clA (a, .inl (zB (gZ G), N, .inl (va_cpy f g sp.toNatClampNeg dp.toNatClampNeg n.toNatClampNeg))) H1 := hP1 0 _ rfl
  have hz : H1.size = H.size := by omega
  have h2 : H1[a]? = some (arrV (zB (gZ G)) N (fun j => .int (va_cpy f g sp.toNatClampNeg dp.toNatClampNeg n.toNatClampNeg j))) := hat
  have h3 : H[a]? = some (arrV (zB (gZ G)) N (fun j => .int (g j))) := s2.at hh
  have ho := hset_hsum hz h3 h2 (by rw [arrV_size, arrV_size]) (fun q hq hn => hS1.2.1 q (by rw [hh']; exact hq) hn |>.trans (by rw [hh']))
  refine kk p e9 s m args below meth c H1 _ _ _ ls C ?_ L
  refine ⟨s1, s2.put b6 hz h3 h2 (by rw [arrV_size, arrV_size]) ho hat, fun x hx => ?_, s4, s5, s6, s7⟩
  rcases List.mem_append.mp hx with hx | hx
  · exact s3 x hx
  · have := hS1.2.2 x hx
    have this : x.base = a := this
    rw [this]; exact b6
end aOldS
