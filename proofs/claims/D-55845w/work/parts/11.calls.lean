/-! THE LAYER, 5: ends, calls, throws -/
set_option maxRecDepth 100000
def isC (ci : Nat) (h : aH) (a : Nat) : Bool := match h.1 a with
  | some (.inr (c, _)) => c == ci
  | _ => false
theorem isC_spec {ci : Nat} {h : aH} {a : Nat} (e : isC ci h a = true) : ∃ fs : List Value, h.1 a = some (.inr (ci, fs)) := by
  unfold isC at e
  split at e
  · rename_i c fs hh
    simp at e; subst e; exact ⟨fs, hh⟩
  · cases e
theorem aBlind {G : aG} {As : List Value} {h : aH} : FrameBlind (va_Pc As (fun U => aK G U ∧ aRep G h U.heap)) := fun a U g mk q => ⟨q.1, q.2.1.warm (s := U) (U := U.calling g mk a) (State.WarmedH.refl U), q.2.2⟩
section aCalls
variable {G : aG} {M : aM} {fr lo : Nat} {h0 : aH} {K : aRes → aH → Prop} {h : aH} {pc : Nat} {lv : List (Option Value)} {st : List Value}
theorem a_iret {x : Int32} {ty : FieldType} (hr : M.2.2.2.1 = some ty) (hn : narrow ty (.int x) = .int x) (d : decode M.2.1 pc = .ok (.ireturn, 1)) (hk : K (.inl (some (.int x))) h) : aW G M fr lo h0 K h pc lv [.int x] := by
  intro p e s m args below meth c H locs cells slots ls C S L
  refine W.widen (k := zN (gZ G) - h0.2.1) (n := zS (gZ G) - h0.2.2) S.2.2.2.2.2.1 S.2.2.2.2.2.2 ?_
  exact vx_ret (W.zret C.1 C.2.1 (C.2.2.2.1.trans hr) hn (fun t ht _ => ⟨_, h, rfl, hk, by rw [ht]; exact S.2.1⟩) S.2.2.1 d C.2.2.2.2.2.2.1)
theorem a_vret (hr : M.2.2.2.1 = none) (d : decode M.2.1 pc = .ok (.return_, 1)) (hk : K (.inl none) h) : aW G M fr lo h0 K h pc lv [] := by
  intro p e s m args below meth c H locs cells slots ls C S L
  refine W.widen (k := zN (gZ G) - h0.2.1) (n := zS (gZ G) - h0.2.2) S.2.2.2.2.2.1 S.2.2.2.2.2.2 ?_
  exact vx_ret (W.vret C.1 C.2.1 (C.2.2.2.1.trans hr) (fun t ht _ => ⟨_, h, rfl, hk, by rw [ht]; exact S.2.1⟩) S.2.2.1 d C.2.2.2.2.2.2.1)
theorem a_aret {x : Nat} {ty : FieldType} (hr : M.2.2.2.1 = some ty) (hty : (∃ n, ty = .object n) ∨ ∃ t, ty = .array t) (d : decode M.2.1 pc = .ok (.areturn, 1)) (hk : K (.inl (some (.ref x))) h) : aW G M fr lo h0 K h pc lv [.ref x] := by
  intro p e s m args below meth c H locs cells slots ls C S L
  refine W.widen (k := zN (gZ G) - h0.2.1) (n := zS (gZ G) - h0.2.2) S.2.2.2.2.2.1 S.2.2.2.2.2.2 ?_
  exact vx_ret (W.aret C.1 C.2.1 (C.2.2.2.1.trans hr) hty (Or.inr ⟨x, rfl⟩) (fun t ht _ => ⟨_, h, rfl, hk, by rw [ht]; exact S.2.1⟩) S.2.2.1 d C.2.2.2.2.2.2.1)
theorem a_fret {x : UInt32} (hr : M.2.2.2.1 = some .float) (d : decode M.2.1 pc = .ok (.freturn, 1)) (hk : K (.inl (some (.float x))) h) : aW G M fr lo h0 K h pc lv [.float x] := by
  intro p e s m args below meth c H locs cells slots ls C S L
  refine W.widen (k := zN (gZ G) - h0.2.1) (n := zS (gZ G) - h0.2.2) S.2.2.2.2.2.1 S.2.2.2.2.2.2 ?_
  exact vx_ret (W.fret C.1 C.2.1 (C.2.2.2.1.trans hr) (fun t ht _ => ⟨_, h, rfl, hk, by rw [ht]; exact S.2.1⟩) S.2.2.1 d C.2.2.2.2.2.2.1)
theorem a_dret {x : UInt64} (hr : M.2.2.2.1 = some .double) (d : decode M.2.1 pc = .ok (.dreturn, 1)) (hk : K (.inl (some (.double x))) h) : aW G M fr lo h0 K h pc lv [.double x] := by
  intro p e s m args below meth c H locs cells slots ls C S L
  refine W.widen (k := zN (gZ G) - h0.2.1) (n := zS (gZ G) - h0.2.2) S.2.2.2.2.2.1 S.2.2.2.2.2.2 ?_
  exact vx_ret (W.dret C.1 C.2.1 (C.2.2.2.1.trans hr) (fun t ht _ => ⟨_, h, rfl, hk, by rw [ht]; exact S.2.1⟩) S.2.2.1 d C.2.2.2.2.2.2.1)
/-- behind a call -/
theorem a_runs {p : Program} {e : Env} {s : State} {m : MethodId} {args : Array Value} {below : List Frame} {meth : Method} {c : Code} {H : Heap} {locs : List Loc} {cells slots : Nat} {ls : Array Slot} {K' : aRes → aH → Prop} {a : Array Value} {st0 rest : List Value}
    (C : aC G M p s m args meth c) (S : aS G h0 h s H locs cells slots) (L : aL ls M.2.2.1 lv)
    (hr : vx_Run p (gl G) e (aR G fr lo h0) s m args below meth c H locs cells slots (zN (gZ G) - h.2.1) (zS (gZ G) - h.2.2) (F0 m pc ls st0) rest (aQc G K' a) (aXC G K') (aA (gZ G)))
    (kr : ∀ v h', K' (.inl v) h' → aW G M fr lo h0 K h' (pc + 3) lv (v.toList ++ rest)) (kx : ∀ E q h', K' (.inr (E, q)) h' → aX G M fr lo h0 K h' pc lv E q) :
    W p (gl G) e (aR G fr lo h0) s m args below meth c H locs cells slots (aQ G h0 K below args s) (F0 m pc ls st0) := by
  obtain ⟨s1, s2, s3, s4, s5, s6, s7⟩ := id S
  have go : ∀ (h' : aH) (T' : State) (L' : List Loc), (∀ q ∈ L', aA (gZ G) q.base) → aRep G h' T'.heap → Stand p (gl G) e (aR G fr lo h0) s m args below meth c T' (locs ++ L') (cells + (zN (gZ G) - h.2.1)) (slots + (zS (gZ G) - h.2.2)) → ∃ k' n', aS G h0 h' s T'.heap (locs ++ L') k' n' ∧ Stand p (gl G) e (aR G fr lo h0) s m args below meth c T' (locs ++ L') k' n' := by
    intro h' T' L' hL hR X'
    obtain ⟨k', n', t1, t2, t3, t4, X''⟩ := stand_tight X'
    refine ⟨k', n', ⟨s1, hR, fun q hq => ?_, ?_, ?_, ?_, ?_⟩, X''⟩
    · rcases List.mem_append.mp hq with hq | hq
      · exact s3 q hq
      · exact hL q hq
    · rw [← hR.1, ← s1.1]; exact t1
    · rw [← hR.2.1, ← s1.2.1]; exact t2
    · omega
    · omega
  intro T hT X
  rcases hr T hT X with ⟨v, st₀, t, T', L', h0', X', hL, e1, e2, hq, hst⟩ | ⟨q, st₀, t, T', L', E, ce, h0', X', hL, e1, e2, hx, hce, hcv, hcl, hst⟩
  · obtain ⟨v', h', hv, hK', hR⟩ := hq
    cases hv
    obtain ⟨k', n', S', X''⟩ := go h' T' L' hL (by rw [e1]; exact hR) X'
    obtain ⟨t9, a1, b1⟩ := kr v h' hK' p e s m args below meth c T'.heap _ k' n' ls C S' L T' rfl X''
    exact ⟨t9, hst t9 a1, b1⟩
  · obtain ⟨h', hK', hR⟩ := hx
    obtain ⟨k', n', S', X''⟩ := go h' T' L' hL (by rw [e1]; exact hR) X'
    obtain ⟨t9, a1, b1⟩ := kx E q h' hK' p e s m args below meth c T'.heap _ k' n' ls rest ce C S' L (by rw [e1]; exact hce) hcv hcl T' rfl X''
    exact ⟨t9, hst.trans a1, b1⟩
theorem a_runs5 {p : Program} {e : Env} {s : State} {m : MethodId} {args : Array Value} {below : List Frame} {meth : Method} {c : Code} {H : Heap} {locs : List Loc} {cells slots : Nat} {ls : Array Slot} {K' : aRes → aH → Prop} {a : Array Value} {st0 rest : List Value}
    (C : aC G M p s m args meth c) (S : aS G h0 h s H locs cells slots) (L : aL ls M.2.2.1 lv)
    (hr : vx_Run5 p (gl G) e (aR G fr lo h0) s m args below meth c H locs cells slots (zN (gZ G) - h.2.1) (zS (gZ G) - h.2.2) (F0 m pc ls st0) rest (aQc G K' a) (aXC G K') (aA (gZ G)))
    (kr : ∀ v h', K' (.inl v) h' → aW G M fr lo h0 K h' (pc + 5) lv (v.toList ++ rest)) (kx : ∀ E q h', K' (.inr (E, q)) h' → aX G M fr lo h0 K h' pc lv E q) :
    W p (gl G) e (aR G fr lo h0) s m args below meth c H locs cells slots (aQ G h0 K below args s) (F0 m pc ls st0) := by
  obtain ⟨s1, s2, s3, s4, s5, s6, s7⟩ := id S
  have go : ∀ (h' : aH) (T' : State) (L' : List Loc), (∀ q ∈ L', aA (gZ G) q.base) → aRep G h' T'.heap → Stand p (gl G) e (aR G fr lo h0) s m args below meth c T' (locs ++ L') (cells + (zN (gZ G) - h.2.1)) (slots + (zS (gZ G) - h.2.2)) → ∃ k' n', aS G h0 h' s T'.heap (locs ++ L') k' n' ∧ Stand p (gl G) e (aR G fr lo h0) s m args below meth c T' (locs ++ L') k' n' := by
    intro h' T' L' hL hR X'
    obtain ⟨k', n', t1, t2, t3, t4, X''⟩ := stand_tight X'
    refine ⟨k', n', ⟨s1, hR, fun q hq => ?_, ?_, ?_, ?_, ?_⟩, X''⟩
    · rcases List.mem_append.mp hq with hq | hq
      · exact s3 q hq
      · exact hL q hq
    · rw [← hR.1, ← s1.1]; exact t1
    · rw [← hR.2.1, ← s1.2.1]; exact t2
    · omega
    · omega
  intro T hT X
  rcases hr T hT X with ⟨v, st₀, t, T', L', h0', X', hL, e1, e2, hq, hst⟩ | ⟨q, st₀, t, T', L', E, ce, h0', X', hL, e1, e2, hx, hce, hcv, hcl, hst⟩
  · obtain ⟨v', h', hv, hK', hR⟩ := hq
    cases hv
    obtain ⟨k', n', S', X''⟩ := go h' T' L' hL (by rw [e1]; exact hR) X'
    obtain ⟨t9, a1, b1⟩ := kr v h' hK' p e s m args below meth c T'.heap _ k' n' ls C S' L T' rfl X''
    exact ⟨t9, hst t9 a1, b1⟩
  · obtain ⟨h', hK', hR⟩ := hx
    obtain ⟨k', n', S', X''⟩ := go h' T' L' hL (by rw [e1]; exact hR) X'
    obtain ⟨t9, a1, b1⟩ := kx E q h' hK' p e s m args below meth c T'.heap _ k' n' ls rest ce C S' L (by rw [e1]; exact hce) hcv hcl T' rfl X''
    exact ⟨t9, hst.trans a1, b1⟩
/-- the room of a callee -/
def aFit (fr lo fr' lo' nL : Nat) : Prop := fr' + 1 ≤ fr ∧ 8 + (nL + 11) + lo' ≤ lo
theorem aRoom {G : aG} {h0 h : aH} {s : State} {H : Heap} {locs : List Loc} {cells slots fr lo : Nat} (S : aS G h0 h s H locs cells slots) : cells + (zN (gZ G) - h.2.1) ≤ (aR G fr lo h0).cells ∧ slots + (zS (gZ G) - h.2.2) ≤ (aR G fr lo h0).slots := by
  obtain ⟨s1, s2, s3, s4, s5, s6, s7⟩ := S
  show cells + (zN (gZ G) - h.2.1) ≤ zN (gZ G) - h0.2.1 ∧ slots + (zS (gZ G) - h.2.2) ≤ zS (gZ G) - h0.2.2
  omega
def aND (y : MethodName) (n : Nat) : Prop := y.cls ≠ "java/lang/invoke/MethodHandle" ∧ y.cls ≠ "java/lang/invoke/VarHandle" ∧ (parseMethodDescriptor y.desc).map (fun d => d.parameters.length) = some n
/-- links of calls: static, through an object, a constructor; .. of a nest mate; with handlers; inherited -/
def aKS (own : String) (idx : Nat) (y : MethodName) (b : ByteArray) (nL : Nat) (ret : Option FieldType) (n : Nat) : Prop := (Cond.methodLink own idx y ∈ lw_all ∨ ∃ host, Cond.methodLinkNest own idx y host ∈ lw_tbl) ∧ Cond.static y ∈ lw_all ∧ Cond.initialized y.cls ∈ lw_all ∧ Cond.code y b nL ret ∈ lw_all ∧ aND y n
def aKSW (own : String) (idx : Nat) (y : MethodName) (b : ByteArray) (nL : Nat) (ret : Option FieldType) (hh : List (Nat × Nat × Nat × Nat)) (n : Nat) : Prop := Cond.methodLink own idx y ∈ lw_all ∧ Cond.static y ∈ lw_all ∧ Cond.initialized y.cls ∈ lw_all ∧ Cond.codeWith y b nL ret hh ∈ lw_all ∧ aND y n
def aKV (own : String) (idx ci : Nat) (y : MethodName) (b : ByteArray) (nL : Nat) (ret : Option FieldType) (n : Nat) : Prop := (∃ T N, clA[ci]? = some (y.cls, T, N)) ∧ (Cond.methodLink own idx y ∈ lw_all ∨ ∃ host, Cond.methodLinkNest own idx y host ∈ lw_tbl) ∧ Cond.instanceMethod y ∈ lw_all ∧ Cond.selects y.cls y y ∈ lw_all ∧ Cond.initialized y.cls ∈ lw_all ∧ Cond.code y b nL ret ∈ lw_all ∧ aND y n
def aKVW (own : String) (idx ci : Nat) (y : MethodName) (b : ByteArray) (nL : Nat) (ret : Option FieldType) (hh : List (Nat × Nat × Nat × Nat)) (n : Nat) : Prop := (∃ T N, clA[ci]? = some (y.cls, T, N)) ∧ Cond.methodLink own idx y ∈ lw_all ∧ Cond.instanceMethod y ∈ lw_all ∧ Cond.selects y.cls y y ∈ lw_all ∧ Cond.initialized y.cls ∈ lw_all ∧ Cond.codeWith y b nL ret hh ∈ lw_all ∧ aND y n
def aKI (own : String) (idx : Nat) (y : MethodName) (b : ByteArray) (nL : Nat) (n : Nat) : Prop := y.name = "<init>" ∧ (Cond.methodLink own idx y ∈ lw_all ∨ ∃ host, Cond.methodLinkNest own idx y host ∈ lw_tbl) ∧ Cond.instanceMethod y ∈ lw_all ∧ Cond.initialized y.cls ∈ lw_all ∧ Cond.code y b nL none ∈ lw_all ∧ aND y n
/-- inherited: called by the name x, it is y -/
def aKU (own : String) (idx ci : Nat) (x y : MethodName) (b : ByteArray) (nL : Nat) (ret : Option FieldType) (n : Nat) : Prop := ∃ C T N, clA[ci]? = some (C, T, N) ∧ y = ⟨y.cls, x.name, x.desc⟩ ∧ Cond.methodLink own idx x ∈ lw_all ∧ Cond.sameMethod x.cls y.cls x.name x.desc ∈ lw_all ∧ Cond.selects C x y ∈ lw_all ∧ Cond.instanceMethod y ∈ lw_all ∧ Cond.initialized y.cls ∈ lw_all ∧ Cond.code y b nL ret ∈ lw_all ∧ aND y n
theorem aRecv {G : aG} {h : aH} {H : Heap} {s : State} {a ci : Nat} {fs : List Value} {q : vw_C} (hK : va_K (gD G) clA (tysA (gZ G)) s) (R : aRep G h H) (e : h.1 a = some (.inr (ci, fs))) (hc : clA[ci]? = some q) : ∃ cell : Cell, H[a]? = some cell ∧ cell.vm.isStatics = false ∧ s.vm.findClass q.1 = some cell.cls := by
  obtain ⟨r, h1, cell, q1, q2, q3, -⟩ := R.at e
  exact ⟨cell, q1, by rw [q3]; rfl, by rw [q2]; exact (hK.1 ci _ hc).2.1⟩
variable {K' : aRes → aH → Prop} {fr' lo' idx n nL : Nat} {y : MethodName} {b : ByteArray} {ret : Option FieldType} {As rest st0 : List Value} {a : Nat}
theorem a_callS (kl : aKS M.1 idx y b nL ret n) (hM : aMet G y (ws_ y b nL ret) fr' lo' As h K') (hf : aFit fr lo fr' lo' nL) (hn : As.length = n) (hst : st0 = As.reverse ++ rest) (hW : (rest.map fun v => v.category).sum ≤ 8) (d : decode M.2.1 pc = .ok (.invokestatic idx, 3))
    (kr : ∀ v h', K' (.inl v) h' → aW G M fr lo h0 K h' (pc + 3) lv (v.toList ++ rest)) (kx : ∀ E q h', K' (.inr (E, q)) h' → aX G M fr lo h0 K h' pc lv E q) : aW G M fr lo h0 K h pc lv st0 := by
  intro p e s m args below meth c H locs cells slots ls C S L
  obtain ⟨k1, k2, k3, k4, k5⟩ := kl
  have hts := C.2.2.2.2.2.2.2.2.1
  have hK := C.2.2.2.2.2.2.2.2.2
  have hp : PreS s H (va_Pc As (fun U => aK G U ∧ aRep G h U.heap)) As := ⟨aBlind, fun U hU hW9 => ⟨rfl, hK.warm hW9, by rw [hU]; exact S.2.1⟩⟩
  rcases k1 with k1 | ⟨host, k1⟩
  · exact a_runs C S L (vx_runS ⟨C.1, C.2.1, C.2.2.1, C.2.2.2.2.2.2.2.1, hts⟩ hM (va_cwS n hts (lw_S k1 k2 k3 k4) rfl rfl rfl k5 hf) hp rfl hn L.1 hst (lv_room (rest := st0) hW) d (aRoom S)) kr kx
  · exact a_runs C S L (vx_runSN ⟨C.1, C.2.1, C.2.2.1, C.2.2.2.2.2.2.2.1, hts⟩ hM ⟨va_cnB n hts (lw_meth k4) rfl rfl rfl (hK.2.1 _ k1 rfl) (hts _ k3) k5 hf, hts _ k2, trivial⟩ hp rfl hn L.1 hst (lv_room (rest := st0) hW) d (aRoom S)) kr kx
theorem a_callSW {hh : List (Nat × Nat × Nat × Nat)} (kl : aKSW M.1 idx y b nL ret hh n) (hM : aMet G y (wsW_ y b nL ret hh) fr' lo' As h K') (hf : aFit fr lo fr' lo' nL) (hn : As.length = n) (hst : st0 = As.reverse ++ rest) (hW : (rest.map fun v => v.category).sum ≤ 8) (d : decode M.2.1 pc = .ok (.invokestatic idx, 3))
    (kr : ∀ v h', K' (.inl v) h' → aW G M fr lo h0 K h' (pc + 3) lv (v.toList ++ rest)) (kx : ∀ E q h', K' (.inr (E, q)) h' → aX G M fr lo h0 K h' pc lv E q) : aW G M fr lo h0 K h pc lv st0 := by
  intro p e s m args below meth c H locs cells slots ls C S L
  obtain ⟨k1, k2, k3, k4, k5⟩ := kl
  have hts := C.2.2.2.2.2.2.2.2.1
  have hK := C.2.2.2.2.2.2.2.2.2
  have hp : PreS s H (va_Pc As (fun U => aK G U ∧ aRep G h U.heap)) As := ⟨aBlind, fun U hU hW9 => ⟨rfl, hK.warm hW9, by rw [hU]; exact S.2.1⟩⟩
  exact a_runs C S L (vx_runSX ⟨C.1, C.2.1, C.2.2.1, C.2.2.2.2.2.2.2.1, hts⟩ hM (vx_cwSW n hts (lw_SW k1 k2 k3 k4) rfl rfl rfl k5 hf) hp rfl hn L.1 hst (lv_room (rest := st0) hW) d (aRoom S)) kr kx
theorem a_callV {ci : Nat} (kl : aKV M.1 idx ci y b nL ret n) (hi : isC ci h a = true) (hM : aMet G y (ws_ y b nL ret) fr' lo' (.ref a :: As) h K') (hf : aFit fr lo fr' lo' nL) (hn : As.length = n) (hst : st0 = As.reverse ++ .ref a :: rest) (hW : (rest.map fun v => v.category).sum ≤ 8) (d : decode M.2.1 pc = .ok (.invokevirtual idx, 3))
    (kr : ∀ v h', K' (.inl v) h' → aW G M fr lo h0 K h' (pc + 3) lv (v.toList ++ rest)) (kx : ∀ E q h', K' (.inr (E, q)) h' → aX G M fr lo h0 K h' pc lv E q) : aW G M fr lo h0 K h pc lv st0 := by
  intro p e s m args below meth c H locs cells slots ls C S L
  obtain ⟨⟨T, N, hc⟩, k1, k2, k3, k4, k5, k6⟩ := kl
  obtain ⟨fs, hfs⟩ := isC_spec hi
  have hts := C.2.2.2.2.2.2.2.2.1
  have hK := C.2.2.2.2.2.2.2.2.2
  have hp : PreV s H y.cls a (va_Pc (.ref a :: As) (fun U => aK G U ∧ aRep G h U.heap)) As := ⟨aBlind, aRecv hK.1 S.2.1 hfs hc, fun U hU hW9 => ⟨rfl, hK.warm hW9, by rw [hU]; exact S.2.1⟩⟩
  rcases k1 with k1 | ⟨host, k1⟩
  · exact a_runs C S L (vx_runV ⟨C.1, C.2.1, C.2.2.1, C.2.2.2.2.2.2.2.1, hts⟩ hM (cwV n hts (lw_V k1 k2 k3 k4 k5) rfl rfl rfl ⟨rfl, k6⟩ hf) hp rfl hn L.1 hst (lv_room (rest := st0) hW) d (aRoom S)) kr kx
  · exact a_runs C S L (vx_runVN ⟨C.1, C.2.1, C.2.2.1, C.2.2.2.2.2.2.2.1, hts⟩ hM ⟨va_cnB n hts (lw_meth k5) rfl rfl rfl (hK.2.1 _ k1 rfl) (hts _ k4) k6 hf, hts _ k2, hts _ k3⟩ hp rfl hn L.1 hst (lv_room (rest := st0) hW) d (aRoom S)) kr kx
theorem a_callVW {ci : Nat} {hh : List (Nat × Nat × Nat × Nat)} (kl : aKVW M.1 idx ci y b nL ret hh n) (hi : isC ci h a = true) (hM : aMet G y (wsW_ y b nL ret hh) fr' lo' (.ref a :: As) h K') (hf : aFit fr lo fr' lo' nL) (hn : As.length = n) (hst : st0 = As.reverse ++ .ref a :: rest) (hW : (rest.map fun v => v.category).sum ≤ 8) (d : decode M.2.1 pc = .ok (.invokevirtual idx, 3))
    (kr : ∀ v h', K' (.inl v) h' → aW G M fr lo h0 K h' (pc + 3) lv (v.toList ++ rest)) (kx : ∀ E q h', K' (.inr (E, q)) h' → aX G M fr lo h0 K h' pc lv E q) : aW G M fr lo h0 K h pc lv st0 := by
  intro p e s m args below meth c H locs cells slots ls C S L
  obtain ⟨⟨T, N, hc⟩, k1, k2, k3, k4, k5, k6⟩ := kl
  obtain ⟨fs, hfs⟩ := isC_spec hi
  have hts := C.2.2.2.2.2.2.2.2.1
  have hK := C.2.2.2.2.2.2.2.2.2
  have hp : PreV s H y.cls a (va_Pc (.ref a :: As) (fun U => aK G U ∧ aRep G h U.heap)) As := ⟨aBlind, aRecv hK.1 S.2.1 hfs hc, fun U hU hW9 => ⟨rfl, hK.warm hW9, by rw [hU]; exact S.2.1⟩⟩
  exact a_runs C S L (vx_runVX ⟨C.1, C.2.1, C.2.2.1, C.2.2.2.2.2.2.2.1, hts⟩ hM (vx_cwVW n hts (lw_VW k1 k2 k3 k4 k5) rfl rfl rfl ⟨rfl, k6⟩ hf) hp rfl hn L.1 hst (lv_room (rest := st0) hW) d (aRoom S)) kr kx
theorem a_callI (kl : aKI M.1 idx y b nL n) (hM : aMet G y (ws_ y b nL none) fr' lo' (.ref a :: As) h K') (hf : aFit fr lo fr' lo' nL) (hn : As.length = n) (hst : st0 = As.reverse ++ .ref a :: rest) (hW : (rest.map fun v => v.category).sum ≤ 8) (d : decode M.2.1 pc = .ok (.invokespecial idx, 3))
    (kr : ∀ v h', K' (.inl v) h' → aW G M fr lo h0 K h' (pc + 3) lv (v.toList ++ rest)) (kx : ∀ E q h', K' (.inr (E, q)) h' → aX G M fr lo h0 K h' pc lv E q) : aW G M fr lo h0 K h pc lv st0 := by
  intro p e s m args below meth c H locs cells slots ls C S L
  obtain ⟨k0, k1, k2, k3, k4, k5⟩ := kl
  have hts := C.2.2.2.2.2.2.2.2.1
  have hK := C.2.2.2.2.2.2.2.2.2
  have hp : PreS s H (va_Pc (.ref a :: As) (fun U => aK G U ∧ aRep G h U.heap)) (.ref a :: As) := ⟨aBlind, fun U hU hW9 => ⟨rfl, hK.warm hW9, by rw [hU]; exact S.2.1⟩⟩
  rcases k1 with k1 | ⟨host, k1⟩
  · exact a_runs C S L (vx_runI ⟨C.1, C.2.1, C.2.2.1, C.2.2.2.2.2.2.2.1, hts⟩ hM (cwI n hts (lw_meth k4) rfl rfl rfl (hts _ k3) (hts _ k1) (hts _ k2) k0 k5 hf) hp rfl hn L.1 hst (lv_room (rest := st0) hW) d (aRoom S)) kr kx
  · exact a_runs C S L (vx_runIN ⟨C.1, C.2.1, C.2.2.1, C.2.2.2.2.2.2.2.1, hts⟩ hM ⟨va_cnB n hts (lw_meth k4) rfl rfl rfl (hK.2.1 _ k1 rfl) (hts _ k3) k5 hf, k0, hts _ k2⟩ hp rfl hn L.1 hst (lv_room (rest := st0) hW) d (aRoom S)) kr kx
theorem a_callU {ci : Nat} {x : MethodName} (kl : aKU M.1 idx ci x y b nL ret n) (hi : isC ci h a = true) (hM : aMet G y (ws_ y b nL ret) fr' lo' (.ref a :: As) h K') (hf : aFit fr lo fr' lo' nL) (hn : As.length = n) (hst : st0 = As.reverse ++ .ref a :: rest) (hW : (rest.map fun v => v.category).sum ≤ 8) (d : decode M.2.1 pc = .ok (.invokevirtual idx, 3))
    (kr : ∀ v h', K' (.inl v) h' → aW G M fr lo h0 K h' (pc + 3) lv (v.toList ++ rest)) (kx : ∀ E q h', K' (.inr (E, q)) h' → aX G M fr lo h0 K h' pc lv E q) : aW G M fr lo h0 K h pc lv st0 := by
  intro p e s m args below meth c H locs cells slots ls C S L
  obtain ⟨cC, T, N, hc, hyx, k1, k2, k3, k4, k5, k6, k7⟩ := kl
  obtain ⟨fs, hfs⟩ := isC_spec hi
  have hts := C.2.2.2.2.2.2.2.2.1
  have hK := C.2.2.2.2.2.2.2.2.2
  have hp : PreV s H cC a (va_Pc (.ref a :: As) (fun U => aK G U ∧ aRep G h U.heap)) As := ⟨aBlind, aRecv hK.1 S.2.1 hfs hc, fun U hU hW9 => ⟨rfl, hK.warm hW9, by rw [hU]; exact S.2.1⟩⟩
  have hgood : GoodIn lw_all (va_wsU M.1 idx cC y.cls x y (ws_ y b nL ret)) := by
    refine lw_app ?_ (lw_meth k6)
    intro w hw
    simp only [List.mem_cons, List.not_mem_nil, or_false] at hw
    rcases hw with e | e | e | e | e
    · rw [e]; exact k1
    · rw [e]; exact k2
    · rw [e]; exact k3
    · rw [e]; exact k4
    · rw [e]; exact k5
  have k7' : y.cls ≠ "java/lang/invoke/MethodHandle" ∧ y.cls ≠ "java/lang/invoke/VarHandle" ∧ (parseMethodDescriptor x.desc).map (fun d => d.parameters.length) = some n := ⟨k7.1, k7.2.1, by have := k7.2.2; rw [hyx] at this; exact this⟩
  exact a_runs C S L (vx_runU ⟨C.1, C.2.1, C.2.2.1, C.2.2.2.2.2.2.2.1, hts⟩ hM (va_cwU n hts hgood rfl rfl rfl hyx k7' hf) hp rfl hn L.1 hst (lv_room (rest := st0) hW) d (aRoom S)) kr kx
/-- by the interface Iterator -/
def aKF (own : String) (idx ci : Nat) (x y : MethodName) (b : ByteArray) (nL : Nat) (ret : Option FieldType) (n : Nat) : Prop := ∃ T N, clA[ci]? = some (RJ7, T, N) ∧ Cond.methodLink own idx x ∈ lw_all ∧ Cond.selects RJ7 x y ∈ lw_all ∧ Cond.instanceMethod y ∈ lw_all ∧ Cond.initialized y.cls ∈ lw_all ∧ Cond.code y b nL ret ∈ lw_all ∧ (∀ s : State, aFace s → va_Fw RJ7 x y s) ∧ aND x n
theorem a_callF {ci cnt : Nat} {x : MethodName} (kl : aKF M.1 idx ci x y b nL ret n) (hi : isC ci h a = true) (hM : aMet G y (ws_ y b nL ret) fr' lo' (.ref a :: As) h K') (hf : aFit fr lo fr' lo' nL) (hn : As.length = n) (hst : st0 = As.reverse ++ .ref a :: rest) (hW : (rest.map fun v => v.category).sum ≤ 8) (d : decode M.2.1 pc = .ok (.invokeinterface idx cnt, 5))
    (kr : ∀ v h', K' (.inl v) h' → aW G M fr lo h0 K h' (pc + 5) lv (v.toList ++ rest)) (kx : ∀ E q h', K' (.inr (E, q)) h' → aX G M fr lo h0 K h' pc lv E q) : aW G M fr lo h0 K h pc lv st0 := by
  intro p e s m args below meth c H locs cells slots ls C S L
  obtain ⟨T, N, hc, k1, k3, k4, k5, k6, kf, k7⟩ := kl
  obtain ⟨fs, hfs⟩ := isC_spec hi
  have hts := C.2.2.2.2.2.2.2.2.1
  have hK := C.2.2.2.2.2.2.2.2.2
  have hp : PreV s H RJ7 a (va_Pc (.ref a :: As) (fun U => aK G U ∧ aRep G h U.heap)) As := ⟨aBlind, aRecv hK.1 S.2.1 hfs hc, fun U hU hW9 => ⟨rfl, hK.warm hW9, by rw [hU]; exact S.2.1⟩⟩
  have hgood : GoodIn lw_all (va_wsF M.1 idx RJ7 x y (ws_ y b nL ret)) := by
    refine lw_app ?_ (lw_meth k6)
    intro w hw
    simp only [List.mem_cons, List.not_mem_nil, or_false] at hw
    rcases hw with e | e | e | e
    · rw [e]; exact k1
    · rw [e]; exact k3
    · rw [e]; exact k4
    · rw [e]; exact k5
  exact a_runs5 C S L (vx_runF (hK.1.1 ci _ hc).2 ⟨C.1, C.2.1, C.2.2.1, C.2.2.2.2.2.2.2.1, hts⟩ hM (va_cwF n hts hgood rfl rfl rfl (kf s hK.2.2.2.2) k7 hf) hp rfl hn L.1 hst (lv_room (rest := st0) hW) d (aRoom S)) kr kx
/-- thrown, and not caught here -/
theorem a_out {E : String} {q : Nat} (hout : ∀ x ∈ tableOf M.2.2.2.2.1, covers x pc = false) (hk : K (.inr (E, q)) h) : aX G M fr lo h0 K h pc lv E q := by
  intro p e s m args below meth c H locs cells slots ls rest ce C S L h1 h2 h3
  exact vx_out (by rw [C.2.2.2.2.1]; exact hout) C.2.2.2.2.2.2.1 h1 h2 h3 (fun t ht _ => ⟨h, hk, by rw [ht]; exact S.2.1⟩) S.2.2.1 S.2.2.2.2.2.1 S.2.2.2.2.2.2
/-- caught by the row x of the table; the rows ahead do not cover this place -/
theorem a_catch {E nm : String} {q : Nat} (pre : List ExceptionTableEntry) (x : ExceptionTableEntry) (suf : List ExceptionTableEntry) (hsp : tableOf M.2.2.2.2.1 = pre ++ x :: suf) (hpre : ∀ z ∈ pre, covers z pc = false ∨ (z.catchType ≠ 0 ∧ ∃ n9 : String, Cond.classLink M.1 z.catchType n9 ∈ lw_all ∧ ∀ s : State, aK G s → va_Nc E n9 s)) (hx : covers x pc = true) (h0x : x.catchType ≠ 0) (hl : Cond.classLink M.1 x.catchType nm ∈ lw_all) (hc : Cond.castable E nm ∈ lw_tbl)
    (kk : aW G M fr lo h0 K h x.handlerPc lv [.ref q]) : aX G M fr lo h0 K h pc lv E q := by
  intro p e s m args below meth c H locs cells slots ls rest ce C S L h1 h2 h3
  have hts := C.2.2.2.2.2.2.2.2.1
  have hK := C.2.2.2.2.2.2.2.2.2
  refine vx_catch C.2.2.2.2.2.2.2.1 pre x suf (by rw [C.2.2.2.2.1]; exact hsp) (fun z hz => ?_) hx h0x (hts _ hl) (va_Nw.use rfl (hK.2.1 _ hc rfl)) h1 h2 h3 (kk p e s m args below meth c H locs cells slots ls C S L)
  rcases hpre z hz with h | ⟨h, n9, h8, h9⟩
  · exact Or.inl h
  · exact Or.inr ⟨h, n9, hts _ h8, h9 s hK⟩
theorem a_athrow {q ci : Nat} {fs : List Value} {T : u_T} {N : Nat} {E : String} (hc : clA[ci]? = some (E, T, N)) (hq : isC ci h q = true) (d : decode M.2.1 pc = .ok (.athrow, 1)) (kk : aX G M fr lo h0 K h pc lv E q) : aW G M fr lo h0 K h pc lv (.ref q :: st) := by
  intro p e s m args below meth c H locs cells slots ls C S L
  obtain ⟨fs, hfs⟩ := isC_spec hq
  obtain ⟨r, h1, cell, q1, q2, q3, -⟩ := S.2.1.at hfs
  have hcl : s.vm.findClass E = some cell.cls := by rw [q2]; exact (C.2.2.2.2.2.2.2.2.2.1.1 ci _ hc).2.1
  exact vx_athrow C.1 C.2.1 d (kk p e s m args below meth c H locs cells slots ls st cell C S L q1 q3 hcl)
theorem a_objInit (ql : Cond.methodLink M.1 idx Lib.objectInit ∈ lw_all) (qi : Cond.instanceMethod Lib.objectInit ∈ lw_all) (qc : Cond.code Lib.objectInit ⟨#[0xb1]⟩ 1 none ∈ lw_all) (hfr : 1 ≤ fr) (hlo : (st.map fun v => v.category).sum + 12 ≤ lo) (d : decode M.2.1 pc = .ok (.invokespecial idx, 3)) (kk : aW G M fr lo h0 K h (pc + 3) lv st) : aW G M fr lo h0 K h pc lv (.ref a :: st) := by
  intro p e s m args below meth c H locs cells slots ls C S L
  have hts := C.2.2.2.2.2.2.2.2.1
  refine W.objInit C.1 C.2.1 C.2.2.2.2.2.2.2.1 (hts _ ql) (hts _ qi) (hts _ qc) rfl (by rw [C.2.2.1]; exact L.1) rfl d hfr ?_ (kk p e s m args below meth c H locs cells slots ls C S L)
  show 2 * 0 + _ + 12 ≤ lo
  omega
end aCalls
