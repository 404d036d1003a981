/-! THE LAYER, 9: calls up the classes (a superclass's method, a private one of it) -/
set_option maxRecDepth 100000
theorem nO {C : String} (x : Option Nat) : narrow (.object C) (va_rf x) = va_rf x ∧ fits (.object C) (va_rf x) = true := by cases x <;> exact ⟨rfl, rfl⟩
theorem nOA {t : FieldType} (x : Option Nat) : narrow (.array t) (va_rf x) = va_rf x ∧ fits (.array t) (va_rf x) = true := by cases x <;> exact ⟨rfl, rfl⟩
/-- super.y(..) -/
def aKSU (own : String) (idx ci : Nat) (y : MethodName) (b : ByteArray) (nL : Nat) (ret : Option FieldType) (n : Nat) : Prop := (∃ C T N, clA[ci]? = some (C, T, N)) ∧ Cond.methodLink own idx y ∈ lw_all ∧ Cond.sameMethod y.cls y.cls y.name y.desc ∈ lw_all ∧ Cond.superclass own y.cls ∈ lw_all ∧ Cond.instanceMethod y ∈ lw_all ∧ Cond.initialized y.cls ∈ lw_all ∧ Cond.code y b nL ret ∈ lw_all ∧ y.name ≠ "<init>" ∧ aND y n
/-- a private method of a class above -/
def aKP (own : String) (idx ci : Nat) (y : MethodName) (b : ByteArray) (nL : Nat) (ret : Option FieldType) (n : Nat) : Prop := (∃ C T N, clA[ci]? = some (C, T, N) ∧ Cond.selects C y y ∈ aSels) ∧ Cond.methodLink own idx y ∈ lw_all ∧ Cond.instanceMethod y ∈ lw_all ∧ Cond.initialized y.cls ∈ lw_all ∧ Cond.code y b nL ret ∈ lw_all ∧ aND y n
section aUp
variable {G : aG} {M : aM} {fr lo : Nat} {h0 : aH} {K : aRes → aH → Prop} {h : aH} {pc : Nat} {lv : List (Option Value)} {st : List Value}
variable {K' : aRes → aH → Prop} {fr' lo' idx n nL : Nat} {y : MethodName} {b : ByteArray} {ret : Option FieldType} {As rest st0 : List Value} {a : Nat}
theorem a_callSU {ci : Nat} (kl : aKSU M.1 idx ci y b nL ret n) (hi : isC ci h a = true) (hM : aMet G y (ws_ y b nL ret) fr' lo' (.ref a :: As) h K') (hf : aFit fr lo fr' lo' nL) (hn : As.length = n) (hst : st0 = As.reverse ++ .ref a :: rest) (hW : (rest.map fun v => v.category).sum ≤ 8) (d : decode M.2.1 pc = .ok (.invokespecial idx, 3))
    (kr : ∀ v h', K' (.inl v) h' → aW G M fr lo h0 K h' (pc + 3) lv (v.toList ++ rest)) (kx : ∀ E q h', K' (.inr (E, q)) h' → aX G M fr lo h0 K h' pc lv E q) : aW G M fr lo h0 K h pc lv st0 := by
  intro p e s m args below meth c H locs cells slots ls C S L
  obtain ⟨⟨cC, T, N, hc⟩, k1, k2, k3, k4, k5, k6, k7, k8⟩ := kl
  obtain ⟨fs, hfs⟩ := isC_spec hi
  have hts := C.2.2.2.2.2.2.2.2.1
  have hK := C.2.2.2.2.2.2.2.2.2
  have hp : PreV s H cC a (va_Pc (.ref a :: As) (fun U => aK G U ∧ aRep G h U.heap)) As := ⟨aBlind, aRecv hK.1 S.2.1 hfs hc, fun U hU hW9 => ⟨rfl, hK.warm hW9, by rw [hU]; exact S.2.1⟩⟩
  have hgood : GoodIn lw_all (va_wsSU M.1 idx y (ws_ y b nL ret)) := by
    refine lw_app ?_ (lw_meth k6)
    intro w hw
    simp only [List.mem_cons, List.not_mem_nil, or_false] at hw
    rcases hw with e | e | e | e | e
    · rw [e]; exact k1
    · rw [e]; exact k2
    · rw [e]; exact k3
    · rw [e]; exact k4
    · rw [e]; exact k5
  exact a_runs C S L (vx_runSU (hK.1.1 ci _ hc).2 ⟨C.1, C.2.1, C.2.2.1, C.2.2.2.2.2.2.2.1, hts⟩ hM (va_cwSU n hts hgood rfl rfl rfl ⟨k7, k8.2.2⟩ hf) hp rfl hn L.1 hst (lv_room (rest := st0) hW) d (aRoom S)) kr kx
theorem a_callP {ci : Nat} (kl : aKP M.1 idx ci y b nL ret n) (hi : isC ci h a = true) (hM : aMet G y (ws_ y b nL ret) fr' lo' (.ref a :: As) h K') (hf : aFit fr lo fr' lo' nL) (hn : As.length = n) (hst : st0 = As.reverse ++ .ref a :: rest) (hW : (rest.map fun v => v.category).sum ≤ 8) (d : decode M.2.1 pc = .ok (.invokevirtual idx, 3))
    (kr : ∀ v h', K' (.inl v) h' → aW G M fr lo h0 K h' (pc + 3) lv (v.toList ++ rest)) (kx : ∀ E q h', K' (.inr (E, q)) h' → aX G M fr lo h0 K h' pc lv E q) : aW G M fr lo h0 K h pc lv st0 := by
  intro p e s m args below meth c H locs cells slots ls C S L
  obtain ⟨⟨cC, T, N, hc, hsel⟩, k1, k2, k3, k4, k5⟩ := kl
  obtain ⟨fs, hfs⟩ := isC_spec hi
  have hts := C.2.2.2.2.2.2.2.2.1
  have hK := C.2.2.2.2.2.2.2.2.2
  have hp : PreV s H cC a (va_Pc (.ref a :: As) (fun U => aK G U ∧ aRep G h U.heap)) As := ⟨aBlind, aRecv hK.1 S.2.1 hfs hc, fun U hU hW9 => ⟨rfl, hK.warm hW9, by rw [hU]; exact S.2.1⟩⟩
  have hsel9 : (Cond.selects cC y y).before args s = true := word_at (State.WarmedH.refl s) (good_of_word (aSels_good _ hsel)) (hK.2.2.2.2.2.2.2.2 _ hsel)
  exact a_runs C S L (vx_runV ⟨C.1, C.2.1, C.2.2.1, C.2.2.2.2.2.2.2.1, hts⟩ hM ⟨callB_of n hts (lw_meth k4) rfl rfl rfl (hts _ k3) (hts _ k1) k5 hf, hts _ k2, hsel9⟩ hp rfl hn L.1 hst (lv_room (rest := st0) hW) d (aRoom S)) kr kx
end aUp
/-- 'selects' of a private method of a class above, out of that of another method of that class -/
theorem a_selP {C : String} {y y0 : MethodName} {s : State} {args : Array Value} (hy : y.cls ≠ "java/lang/invoke/MethodHandle" ∧ y.cls ≠ "java/lang/invoke/VarHandle") (he : y0.cls = y.cls) (h0 : (Cond.selects C y0 y0).before args s = true) (hpriv : (Cond.privateMethod y).before args s = true) (hinst : (Cond.instanceMethod y).before args s = true) : (Cond.selects C y y).before args s = true := by
  obtain ⟨c, r, m, hc, -, hm, -, k, hk, hni⟩ := Cond.selects_spec h0
  obtain ⟨mk, methM, hnamed, hmethM, -, -⟩ := Cond.instanceMethod_spec hinst
  have hfound : s.methodFound? y.cls y.name y.desc = some mk := State.methodFound?_of_named hnamed hy
  have h1 := findClass_of_methodNamed hm
  have h2 := findClass_of_methodNamed hnamed
  rw [he] at h1
  have hcls : mk.cls = m.cls := Option.some.inj (h2.symm.trans h1)
  have hsel : selectMethod {} s.vm c mk = .method mk := selectMethod_private hmethM (Cond.privateMethod_at hpriv mk methM hnamed hmethM)
  simp only [Cond.before, Cond.holds, Cond.value, hc, hfound, hnamed, hsel, hcls, hk]
  simp; exact hni
