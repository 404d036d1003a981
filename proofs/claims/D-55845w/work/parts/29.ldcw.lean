/-! wide constants -/
set_option maxRecDepth 100000
theorem va_ldcfI {p : Program} {l : Launch} {e : Env} {R : Room} {s : State} {m : MethodId} {args : Array Value} {below : List Frame} {meth : Method} {c : Code} {T : State} {locs : List Loc} {cells slots : Nat} (X : Stand p l e R s m args below meth c T locs cells slots) (hexec : p.tables.exec = Jvm.exec) {own : String} {index : Nat} {v : UInt32} (hown : s.vm.findClass own = some m.cls)
    (hconst : (Cond.constantFloat own index v).before args s = true) {g : JFrame} (hg : g.method = m) (hdg : decode c.code g.pc = .ok (.ldc_w index, 3)) :
    ∀ target, Steps p.tables e below (T.setTop { g with pc := g.pc + 3, stack := .float v :: g.stack }) target → Steps p.tables e below (T.setTop g) target := by
  obtain ⟨k, cf, hk, hcf, hcp⟩ := Cond.constantFloat_spec hown hconst
  obtain ⟨k', hk', he⟩ := X.warmed.alike.2.2 _ _ hk
  intro target hrest
  subst hg
  jvm_step X.here [hexec, hdg, ldc_w.wp_float (s := T) (f := g) X.here.top hk' (by rw [he]; exact hcf) hcp]
  exact hrest
section aWide
variable {G : aG} {M : aM} {fr lo : Nat} {h0 : aH} {K : aRes → aH → Prop} {h : aH} {pc : Nat} {lv : List (Option Value)} {st : List Value}
theorem a_ldcfw {index : Nat} {v : UInt32} (q : Cond.constantFloat M.1 index v ∈ lw_all) (d : decode M.2.1 pc = .ok (.ldc_w index, 3)) (k : aW G M fr lo h0 K h (pc + 3) lv (.float v :: st)) : aW G M fr lo h0 K h pc lv st := by
  intro p e s m args below meth c H locs cells slots ls C S L T hT X
  obtain ⟨t, a, b⟩ := k p e s m args below meth c H locs cells slots ls C S L T hT X
  exact ⟨t, va_ldcfI X C.1 C.2.2.2.2.2.2.2.1 (C.2.2.2.2.2.2.2.2.1 _ q) (g := F0 m pc ls st) rfl (by rw [C.2.1]; exact d) t a, b⟩
theorem a_ldcSw {k idx q : Nat} {tx : String} (hs : (aStrs (gZ G))[k]? = some (M.1, idx, tx, q)) (d : decode M.2.1 pc = .ok (.ldc_w idx, 3)) (kk : aW G M fr lo h0 K h (pc + 3) lv (.ref q :: st)) : aW G M fr lo h0 K h pc lv st := by
  intro p e9 s m args below meth c H locs cells slots ls C S L T hT X
  have hZ := C.2.2.2.2.2.2.2.2.2.2.2.1.2.2.2.2.2 _ (List.mem_of_getElem? hs)
  obtain ⟨t, a1, b1⟩ := kk p e9 s m args below meth c H locs cells slots ls C S L T hT X
  exact ⟨t, X.ldcStringW C.1 C.2.2.2.2.2.2.2.1 (text := tx) (a := q) hZ.1 hZ.2 (g := F0 m pc ls st) rfl (by rw [C.2.1]; exact d) t a1, b1⟩
end aWide
