/-! THE LAYER, 3: pure rows (written by gen/mkrows.py) -/
set_option maxRecDepth 100000
section aRows
variable {G : aG} {M : aM} {fr lo : Nat} {h0 : aH} {K : aRes → aH → Prop} {h : aH} {pc : Nat} {lv : List (Option Value)} {st : List Value}
theorem a_iconst {n : Int} {v : Int32} (d : decode M.2.1 pc = .ok (.iconst n, 1)) (hv : Int32.ofInt n = v) (k : aW G M fr lo h0 K h (pc + 1) lv (.int v :: st)) : aW G M fr lo h0 K h pc lv st :=
  fun p e s m args below meth c H locs cells slots ls C S L => lv_iconst C.1 C.2.1 d hv (k p e s m args below meth c H locs cells slots ls C S L)
theorem a_bipush {n : Int} {v : Int32} (d : decode M.2.1 pc = .ok (.bipush n, 2)) (hv : (Int8.ofInt n).toInt32 = v) (k : aW G M fr lo h0 K h (pc + 2) lv (.int v :: st)) : aW G M fr lo h0 K h pc lv st :=
  fun p e s m args below meth c H locs cells slots ls C S L => lv_bipush C.1 C.2.1 d hv (k p e s m args below meth c H locs cells slots ls C S L)
theorem a_sipush {n : Int} {v : Int32} (d : decode M.2.1 pc = .ok (.sipush n, 3)) (hv : (Int16.ofInt n).toInt32 = v) (k : aW G M fr lo h0 K h (pc + 3) lv (.int v :: st)) : aW G M fr lo h0 K h pc lv st :=
  fun p e s m args below meth c H locs cells slots ls C S L => lv_sipush C.1 C.2.1 d hv (k p e s m args below meth c H locs cells slots ls C S L)
theorem a_lconst {n : Fin 2} {v : Int64} (d : decode M.2.1 pc = .ok (.lconst n, 1)) (hv : Int64.ofNat (n : Nat) = v) (k : aW G M fr lo h0 K h (pc + 1) lv (.long v :: st)) : aW G M fr lo h0 K h pc lv st :=
  fun p e s m args below meth c H locs cells slots ls C S L => lv_lconst C.1 C.2.1 d hv (k p e s m args below meth c H locs cells slots ls C S L)
theorem a_dconst0  (d : decode M.2.1 pc = .ok (.dconst 0, 1)) (k : aW G M fr lo h0 K h (pc + 1) lv (.double FP.dconst0 :: st)) : aW G M fr lo h0 K h pc lv st :=
  fun p e s m args below meth c H locs cells slots ls C S L => lv_dconst0 C.1 C.2.1 d (k p e s m args below meth c H locs cells slots ls C S L)
theorem a_null  (d : decode M.2.1 pc = .ok (.aconst_null, 1)) (k : aW G M fr lo h0 K h (pc + 1) lv (.null :: st)) : aW G M fr lo h0 K h pc lv st :=
  fun p e s m args below meth c H locs cells slots ls C S L => lv_null C.1 C.2.1 d (k p e s m args below meth c H locs cells slots ls C S L)
theorem a_iload_n {j : Fin 4} {x : Int32} (d : decode M.2.1 pc = .ok (.iload_n j, 1)) (hl : lv[(j : Nat)]? = some (some (.int x))) (k : aW G M fr lo h0 K h (pc + 1) lv (.int x :: st)) : aW G M fr lo h0 K h pc lv st :=
  fun p e s m args below meth c H locs cells slots ls C S L => lv_iload_n C.1 C.2.1 d rfl (L.2.2 _ _ hl) (k p e s m args below meth c H locs cells slots ls C S L)
theorem a_iload {j : Nat} {x : Int32} (d : decode M.2.1 pc = .ok (.iload j, 2)) (hl : lv[j]? = some (some (.int x))) (k : aW G M fr lo h0 K h (pc + 2) lv (.int x :: st)) : aW G M fr lo h0 K h pc lv st :=
  fun p e s m args below meth c H locs cells slots ls C S L => lv_iload C.1 C.2.1 d (L.2.2 _ _ hl) (k p e s m args below meth c H locs cells slots ls C S L)
theorem a_lload_n {j : Fin 4} {x : Int64} (d : decode M.2.1 pc = .ok (.lload_n j, 1)) (hl : lv[(j : Nat)]? = some (some (.long x))) (k : aW G M fr lo h0 K h (pc + 1) lv (.long x :: st)) : aW G M fr lo h0 K h pc lv st :=
  fun p e s m args below meth c H locs cells slots ls C S L => lv_lload_n C.1 C.2.1 d rfl (L.2.2 _ _ hl) (k p e s m args below meth c H locs cells slots ls C S L)
theorem a_lload {j : Nat} {x : Int64} (d : decode M.2.1 pc = .ok (.lload j, 2)) (hl : lv[j]? = some (some (.long x))) (k : aW G M fr lo h0 K h (pc + 2) lv (.long x :: st)) : aW G M fr lo h0 K h pc lv st :=
  fun p e s m args below meth c H locs cells slots ls C S L => lv_lload C.1 C.2.1 d (L.2.2 _ _ hl) (k p e s m args below meth c H locs cells slots ls C S L)
theorem a_aload_n {j : Fin 4} {x : Nat} (d : decode M.2.1 pc = .ok (.aload_n j, 1)) (hl : lv[(j : Nat)]? = some (some (.ref x))) (k : aW G M fr lo h0 K h (pc + 1) lv (.ref x :: st)) : aW G M fr lo h0 K h pc lv st :=
  fun p e s m args below meth c H locs cells slots ls C S L => lv_aload_n C.1 C.2.1 d rfl (L.2.2 _ _ hl) (k p e s m args below meth c H locs cells slots ls C S L)
theorem a_aload {j : Nat} {x : Nat} (d : decode M.2.1 pc = .ok (.aload j, 2)) (hl : lv[j]? = some (some (.ref x))) (k : aW G M fr lo h0 K h (pc + 2) lv (.ref x :: st)) : aW G M fr lo h0 K h pc lv st :=
  fun p e s m args below meth c H locs cells slots ls C S L => lv_aload C.1 C.2.1 d (L.2.2 _ _ hl) (k p e s m args below meth c H locs cells slots ls C S L)
theorem a_dload_n {j : Fin 4} {x : UInt64} (d : decode M.2.1 pc = .ok (.dload_n j, 1)) (hl : lv[(j : Nat)]? = some (some (.double x))) (k : aW G M fr lo h0 K h (pc + 1) lv (.double x :: st)) : aW G M fr lo h0 K h pc lv st :=
  fun p e s m args below meth c H locs cells slots ls C S L => lv_dload_n C.1 C.2.1 d rfl (L.2.2 _ _ hl) (k p e s m args below meth c H locs cells slots ls C S L)
theorem a_dload {j : Nat} {x : UInt64} (d : decode M.2.1 pc = .ok (.dload j, 2)) (hl : lv[j]? = some (some (.double x))) (k : aW G M fr lo h0 K h (pc + 2) lv (.double x :: st)) : aW G M fr lo h0 K h pc lv st :=
  fun p e s m args below meth c H locs cells slots ls C S L => lv_dload C.1 C.2.1 d (L.2.2 _ _ hl) (k p e s m args below meth c H locs cells slots ls C S L)
theorem a_aload_nN {j : Fin 4} (d : decode M.2.1 pc = .ok (.aload_n j, 1)) (hl : lv[(j : Nat)]? = some (some .null)) (k : aW G M fr lo h0 K h (pc + 1) lv (.null :: st)) : aW G M fr lo h0 K h pc lv st :=
  fun p e s m args below meth c H locs cells slots ls C S L => lv_aload_nN C.1 C.2.1 d rfl (L.2.2 _ _ hl) (k p e s m args below meth c H locs cells slots ls C S L)
/-- the locals as the kit has them -/
def aPairs (lv : List (Option Value)) : List (Nat × Value) := (List.range lv.length).filterMap (fun i => (lv.getD i none).map (fun v => (i, v)))
theorem aPairs_mem {lv : List (Option Value)} {i : Nat} {v : Value} : (i, v) ∈ aPairs lv ↔ lv[i]? = some (some v) := by
  unfold aPairs
  rw [List.mem_filterMap]
  constructor
  · rintro ⟨j, hj, e⟩
    have hj := List.mem_range.mp hj
    rw [List.getD_eq_getElem?_getD, List.getElem?_eq_getElem hj] at e
    cases hx : lv[j] with
    | none => simp [hx] at e
    | some w =>
      simp [hx] at e
      obtain ⟨rfl, rfl⟩ := e
      rw [List.getElem?_eq_getElem hj, hx]
  · intro e
    have hj := (List.getElem?_eq_some_iff.mp e).1
    refine ⟨i, List.mem_range.mpr hj, ?_⟩
    rw [List.getD_eq_getElem?_getD, e]
    rfl
theorem aL.has {ls : Array Slot} {nL : Nat} {lv : List (Option Value)} (h : aL ls nL lv) : lv_has ls nL (aPairs lv) := ⟨h.1, h.2.1, fun q hq => h.2.2 q.1 q.2 (aPairs_mem.mp hq)⟩
def aOk (lv : List (Option Value)) : Nat → Bool
  | 0 => true
  | i + 1 => match lv[i]? with
    | some (some v) => v.category != 2
    | _ => true
theorem aL.set1 {ls : Array Slot} {nL i : Nat} {v : Value} {lv lv' : List (Option Value)} (hok : aOk lv i = true) (hl : lv.set i (some v) = lv') (h : lv_has ls nL ((i, v) :: (aPairs lv).filter (fun q => !(q.1 == i) && !(q.1 + 1 == i && q.2.category == 2)))) : aL ls nL lv' := by
  subst hl
  refine ⟨h.1, h.2.1, fun j w hw => ?_⟩
  by_cases e : j = i
  · subst e
    rw [List.getElem?_set_self (by have := (List.getElem?_eq_some_iff.mp hw).1; simpa using this)] at hw
    cases hw
    exact h.2.2 (j, v) List.mem_cons_self
  · rw [List.getElem?_set_ne (Ne.symm e)] at hw
    refine h.2.2 (j, w) (List.mem_cons_of_mem _ (List.mem_filter.mpr ⟨aPairs_mem.mpr hw, ?_⟩))
    by_cases e2 : j + 1 = i
    · subst e2
      simp [aOk, hw] at hok
      simp [hok]
    · simp [e, e2]
theorem aL.set2 {ls : Array Slot} {nL i : Nat} {v : Value} {lv lv' : List (Option Value)} (hok : aOk lv i = true) (hl : (lv.set i (some v)).set (i + 1) none = lv') (h : lv_has ls nL ((i, v) :: (aPairs lv).filter (fun q => !(q.1 == i) && (!(q.1 == i + 1) && !(q.1 + 1 == i && q.2.category == 2))))) : aL ls nL lv' := by
  subst hl
  refine ⟨h.1, h.2.1, fun j w hw => ?_⟩
  by_cases e3 : j = i + 1
  · subst e3
    rw [List.getElem?_set_self (by have := (List.getElem?_eq_some_iff.mp hw).1; simpa using this)] at hw
    cases hw
  rw [List.getElem?_set_ne (Ne.symm e3)] at hw
  by_cases e : j = i
  · subst e
    rw [List.getElem?_set_self (by have := (List.getElem?_eq_some_iff.mp hw).1; simpa using this)] at hw
    cases hw
    exact h.2.2 (j, v) List.mem_cons_self
  · rw [List.getElem?_set_ne (Ne.symm e)] at hw
    refine h.2.2 (j, w) (List.mem_cons_of_mem _ (List.mem_filter.mpr ⟨aPairs_mem.mpr hw, ?_⟩))
    by_cases e2 : j + 1 = i
    · subst e2
      simp [aOk, hw] at hok
      simp [hok, e3]
    · simp [e, e2, e3]
theorem a_istore_n {j : Fin 4} {x : Int32} {lv' : List (Option Value)} (d : decode M.2.1 pc = .ok (.istore_n j, 1)) (hl : lv.set (j : Nat) (some (.int x)) = lv') (hn : (j : Nat) < M.2.2.1) (hok : aOk lv (j : Nat) = true) (k : aW G M fr lo h0 K h (pc + 1) lv' st) : aW G M fr lo h0 K h pc lv (.int x :: st) :=
  fun p e s m args below meth c H locs cells slots ls C S L => lv_istore_n C.1 C.2.1 d rfl L.has hn rfl (fun ls' h' => k p e s m args below meth c H locs cells slots ls' C S (aL.set1 hok hl h'))
theorem a_istore {j : Nat} {x : Int32} {lv' : List (Option Value)} (d : decode M.2.1 pc = .ok (.istore j, 2)) (hl : lv.set j (some (.int x)) = lv') (hn : j < M.2.2.1) (hok : aOk lv j = true) (k : aW G M fr lo h0 K h (pc + 2) lv' st) : aW G M fr lo h0 K h pc lv (.int x :: st) :=
  fun p e s m args below meth c H locs cells slots ls C S L => lv_istore C.1 C.2.1 d L.has hn rfl (fun ls' h' => k p e s m args below meth c H locs cells slots ls' C S (aL.set1 hok hl h'))
theorem a_astore_n {j : Fin 4} {x : Nat} {lv' : List (Option Value)} (d : decode M.2.1 pc = .ok (.astore_n j, 1)) (hl : lv.set (j : Nat) (some (.ref x)) = lv') (hn : (j : Nat) < M.2.2.1) (hok : aOk lv (j : Nat) = true) (k : aW G M fr lo h0 K h (pc + 1) lv' st) : aW G M fr lo h0 K h pc lv (.ref x :: st) :=
  fun p e s m args below meth c H locs cells slots ls C S L => lv_astore_n C.1 C.2.1 d rfl L.has hn rfl (fun ls' h' => k p e s m args below meth c H locs cells slots ls' C S (aL.set1 hok hl h'))
theorem a_astore {j : Nat} {x : Nat} {lv' : List (Option Value)} (d : decode M.2.1 pc = .ok (.astore j, 2)) (hl : lv.set j (some (.ref x)) = lv') (hn : j < M.2.2.1) (hok : aOk lv j = true) (k : aW G M fr lo h0 K h (pc + 2) lv' st) : aW G M fr lo h0 K h pc lv (.ref x :: st) :=
  fun p e s m args below meth c H locs cells slots ls C S L => lv_astore C.1 C.2.1 d L.has hn rfl (fun ls' h' => k p e s m args below meth c H locs cells slots ls' C S (aL.set1 hok hl h'))
theorem a_dstore {j : Nat} {x : UInt64} {lv' : List (Option Value)} (d : decode M.2.1 pc = .ok (.dstore j, 2)) (hl : (lv.set j (some (.double x))).set (j + 1) none = lv') (hn : j + 1 < M.2.2.1) (hok : aOk lv j = true) (k : aW G M fr lo h0 K h (pc + 2) lv' st) : aW G M fr lo h0 K h pc lv (.double x :: st) :=
  fun p e s m args below meth c H locs cells slots ls C S L => lv_dstore C.1 C.2.1 d L.has hn rfl (fun ls' h' => k p e s m args below meth c H locs cells slots ls' C S (aL.set2 hok hl h'))
theorem a_iinc {j : Nat} {n : Int} {x v : Int32} {lv' : List (Option Value)} (d : decode M.2.1 pc = .ok (.iinc j n, 3)) (hx : lv[j]? = some (some (.int x))) (hv : x + Int32.ofInt n = v) (hl : lv.set j (some (.int v)) = lv') (hn : j < M.2.2.1) (hok : aOk lv j = true) (k : aW G M fr lo h0 K h (pc + 3) lv' st) : aW G M fr lo h0 K h pc lv st := by
  intro p e s m args below meth c H locs cells slots ls C S L
  obtain ⟨i9, hi9⟩ := List.getElem?_of_mem (aPairs_mem.mpr hx)
  exact lv_iinc C.1 C.2.1 d L.has hi9 hv hn rfl (fun ls' h' => k p e s m args below meth c H locs cells slots ls' C S (aL.set1 hok hl h'))
theorem a_iadd {x y : Int32} (d : decode M.2.1 pc = .ok (.iadd, 1)) (k : aW G M fr lo h0 K h (pc + 1) lv (.int (x + y) :: st)) : aW G M fr lo h0 K h pc lv (.int y :: .int x :: st) :=
  fun p e s m args below meth c H locs cells slots ls C S L => lv_iadd C.1 C.2.1 d (k p e s m args below meth c H locs cells slots ls C S L)
theorem a_isub {x y : Int32} (d : decode M.2.1 pc = .ok (.isub, 1)) (k : aW G M fr lo h0 K h (pc + 1) lv (.int (x - y) :: st)) : aW G M fr lo h0 K h pc lv (.int y :: .int x :: st) :=
  fun p e s m args below meth c H locs cells slots ls C S L => lv_isub C.1 C.2.1 d (k p e s m args below meth c H locs cells slots ls C S L)
theorem a_imul {x y : Int32} (d : decode M.2.1 pc = .ok (.imul, 1)) (k : aW G M fr lo h0 K h (pc + 1) lv (.int (x * y) :: st)) : aW G M fr lo h0 K h pc lv (.int y :: .int x :: st) :=
  fun p e s m args below meth c H locs cells slots ls C S L => lv_imul C.1 C.2.1 d (k p e s m args below meth c H locs cells slots ls C S L)
theorem a_iand {x y : Int32} (d : decode M.2.1 pc = .ok (.iand, 1)) (k : aW G M fr lo h0 K h (pc + 1) lv (.int (x &&& y) :: st)) : aW G M fr lo h0 K h pc lv (.int y :: .int x :: st) :=
  fun p e s m args below meth c H locs cells slots ls C S L => lv_iand C.1 C.2.1 d (k p e s m args below meth c H locs cells slots ls C S L)
theorem a_ior {x y : Int32} (d : decode M.2.1 pc = .ok (.ior, 1)) (k : aW G M fr lo h0 K h (pc + 1) lv (.int (x ||| y) :: st)) : aW G M fr lo h0 K h pc lv (.int y :: .int x :: st) :=
  fun p e s m args below meth c H locs cells slots ls C S L => lv_ior C.1 C.2.1 d (k p e s m args below meth c H locs cells slots ls C S L)
theorem a_ishl {x y : Int32} (d : decode M.2.1 pc = .ok (.ishl, 1)) (k : aW G M fr lo h0 K h (pc + 1) lv (.int (x <<< (y &&& 31)) :: st)) : aW G M fr lo h0 K h pc lv (.int y :: .int x :: st) :=
  fun p e s m args below meth c H locs cells slots ls C S L => lv_ishl C.1 C.2.1 d (k p e s m args below meth c H locs cells slots ls C S L)
theorem a_ishr {x y : Int32} (d : decode M.2.1 pc = .ok (.ishr, 1)) (k : aW G M fr lo h0 K h (pc + 1) lv (.int (x >>> (y &&& 31)) :: st)) : aW G M fr lo h0 K h pc lv (.int y :: .int x :: st) :=
  fun p e s m args below meth c H locs cells slots ls C S L => lv_ishr C.1 C.2.1 d (k p e s m args below meth c H locs cells slots ls C S L)
theorem a_idiv {x y : Int32} (d : decode M.2.1 pc = .ok (.idiv, 1)) (hne : ¬ y = 0) (k : aW G M fr lo h0 K h (pc + 1) lv (.int (x / y) :: st)) : aW G M fr lo h0 K h pc lv (.int y :: .int x :: st) :=
  fun p e s m args below meth c H locs cells slots ls C S L => lv_idiv C.1 C.2.1 d hne (k p e s m args below meth c H locs cells slots ls C S L)
theorem a_irem {x y : Int32} (d : decode M.2.1 pc = .ok (.irem, 1)) (hne : ¬ y = 0) (k : aW G M fr lo h0 K h (pc + 1) lv (.int (x - x / y * y) :: st)) : aW G M fr lo h0 K h pc lv (.int y :: .int x :: st) :=
  fun p e s m args below meth c H locs cells slots ls C S L => lv_irem C.1 C.2.1 d hne (k p e s m args below meth c H locs cells slots ls C S L)
theorem a_ineg {x : Int32} (d : decode M.2.1 pc = .ok (.ineg, 1)) (k : aW G M fr lo h0 K h (pc + 1) lv (.int (-x) :: st)) : aW G M fr lo h0 K h pc lv (.int x :: st) :=
  fun p e s m args below meth c H locs cells slots ls C S L => lv_ineg C.1 C.2.1 d (k p e s m args below meth c H locs cells slots ls C S L)
theorem a_iushr {x y : Int32} (d : decode M.2.1 pc = .ok (.iushr, 1)) (k : aW G M fr lo h0 K h (pc + 1) lv (.int ((x.toUInt32 >>> (y.toUInt32 &&& Int32.toUInt32 31)).toInt32) :: st)) : aW G M fr lo h0 K h pc lv (.int y :: .int x :: st) :=
  fun p e s m args below meth c H locs cells slots ls C S L => lv_iushr C.1 C.2.1 d rfl (k p e s m args below meth c H locs cells slots ls C S L)
theorem a_i2l {x : Int32} (d : decode M.2.1 pc = .ok (.i2l, 1)) (k : aW G M fr lo h0 K h (pc + 1) lv (.long (x.toInt64) :: st)) : aW G M fr lo h0 K h pc lv (.int x :: st) :=
  fun p e s m args below meth c H locs cells slots ls C S L => lv_i2l C.1 C.2.1 d rfl (k p e s m args below meth c H locs cells slots ls C S L)
theorem a_i2b {x : Int32} (d : decode M.2.1 pc = .ok (.i2b, 1)) (k : aW G M fr lo h0 K h (pc + 1) lv (.int (x.toInt8.toInt32) :: st)) : aW G M fr lo h0 K h pc lv (.int x :: st) :=
  fun p e s m args below meth c H locs cells slots ls C S L => lv_i2b C.1 C.2.1 d rfl (k p e s m args below meth c H locs cells slots ls C S L)
theorem a_i2c {x : Int32} (d : decode M.2.1 pc = .ok (.i2c, 1)) (k : aW G M fr lo h0 K h (pc + 1) lv (.int ((x.toUInt32 % 65536).toInt32) :: st)) : aW G M fr lo h0 K h pc lv (.int x :: st) :=
  fun p e s m args below meth c H locs cells slots ls C S L => lv_i2c C.1 C.2.1 d rfl (k p e s m args below meth c H locs cells slots ls C S L)
theorem a_i2f {x : Int32} (d : decode M.2.1 pc = .ok (.i2f, 1)) (k : aW G M fr lo h0 K h (pc + 1) lv (.float (FP.i2f x) :: st)) : aW G M fr lo h0 K h pc lv (.int x :: st) :=
  fun p e s m args below meth c H locs cells slots ls C S L => lv_i2f C.1 C.2.1 d (k p e s m args below meth c H locs cells slots ls C S L)
theorem a_i2d {x : Int32} (d : decode M.2.1 pc = .ok (.i2d, 1)) (k : aW G M fr lo h0 K h (pc + 1) lv (.double (FP.i2d x) :: st)) : aW G M fr lo h0 K h pc lv (.int x :: st) :=
  fun p e s m args below meth c H locs cells slots ls C S L => lv_i2d C.1 C.2.1 d (k p e s m args below meth c H locs cells slots ls C S L)
theorem a_f2d {x : UInt32} (d : decode M.2.1 pc = .ok (.f2d, 1)) (hne : vf_n64 (FP.f2d x)) (k : aW G M fr lo h0 K h (pc + 1) lv (.double (FP.f2d x) :: st)) : aW G M fr lo h0 K h pc lv (.float x :: st) :=
  fun p e s m args below meth c H locs cells slots ls C S L => lv_f2d C.1 C.2.1 d hne (k p e s m args below meth c H locs cells slots ls C S L)
theorem a_fdiv {x y : UInt32} (d : decode M.2.1 pc = .ok (.fdiv, 1)) (hne : vf_n32 (FP.fdiv x y)) (k : aW G M fr lo h0 K h (pc + 1) lv (.float (FP.fdiv x y) :: st)) : aW G M fr lo h0 K h pc lv (.float y :: .float x :: st) :=
  fun p e s m args below meth c H locs cells slots ls C S L => lv_fdiv C.1 C.2.1 d hne (k p e s m args below meth c H locs cells slots ls C S L)
theorem a_ddiv {x y : UInt64} (d : decode M.2.1 pc = .ok (.ddiv, 1)) (hne : vf_n64 (FP.ddiv x y)) (k : aW G M fr lo h0 K h (pc + 1) lv (.double (FP.ddiv x y) :: st)) : aW G M fr lo h0 K h pc lv (.double y :: .double x :: st) :=
  fun p e s m args below meth c H locs cells slots ls C S L => lv_ddiv C.1 C.2.1 d hne (k p e s m args below meth c H locs cells slots ls C S L)
theorem a_dcmp {x y : UInt64} {op : CmpOp} (d : decode M.2.1 pc = .ok (.dcmp op, 1)) (k : aW G M fr lo h0 K h (pc + 1) lv (.int (Op.cmpValue (FP.dcmp x y) op) :: st)) : aW G M fr lo h0 K h pc lv (.double y :: .double x :: st) :=
  fun p e s m args below meth c H locs cells slots ls C S L => lv_dcmp C.1 C.2.1 d (k p e s m args below meth c H locs cells slots ls C S L)
theorem a_dup {v : Value} (d : decode M.2.1 pc = .ok (.dup, 1)) (hv : v.category = 1) (k : aW G M fr lo h0 K h (pc + 1) lv (v :: v :: st)) : aW G M fr lo h0 K h pc lv (v :: st) :=
  fun p e s m args below meth c H locs cells slots ls C S L => lv_dup C.1 C.2.1 d hv (k p e s m args below meth c H locs cells slots ls C S L)
theorem a_pop {v : Value} (d : decode M.2.1 pc = .ok (.pop, 1)) (hv : v.category = 1) (k : aW G M fr lo h0 K h (pc + 1) lv st) : aW G M fr lo h0 K h pc lv (v :: st) :=
  fun p e s m args below meth c H locs cells slots ls C S L => lv_pop C.1 C.2.1 d hv (k p e s m args below meth c H locs cells slots ls C S L)
theorem a_dup_x1 {v u : Value} (d : decode M.2.1 pc = .ok (.dup_x1, 1)) (hv : v.category = 1) (hu : u.category = 1) (k : aW G M fr lo h0 K h (pc + 1) lv (v :: u :: v :: st)) : aW G M fr lo h0 K h pc lv (v :: u :: st) :=
  fun p e s m args below meth c H locs cells slots ls C S L => lv_dup_x1 C.1 C.2.1 d hv hu (k p e s m args below meth c H locs cells slots ls C S L)
theorem a_dup2_11 {v u : Value} (d : decode M.2.1 pc = .ok (.dup2, 1)) (hv : v.category = 1) (hu : u.category = 1) (k : aW G M fr lo h0 K h (pc + 1) lv (v :: u :: v :: u :: st)) : aW G M fr lo h0 K h pc lv (v :: u :: st) :=
  fun p e s m args below meth c H locs cells slots ls C S L => lv_dup2_11 C.1 C.2.1 d hv hu (k p e s m args below meth c H locs cells slots ls C S L)
theorem a_if_eq {x : Int32} {off : Int} (tgt : Nat) (d : decode M.2.1 pc = .ok (.ifCond .eq off, 3)) (ht : (pc : Int) + off = (tgt : Int)) (kt : x = 0 → aW G M fr lo h0 K h tgt lv st) (kf : ¬ x = 0 → aW G M fr lo h0 K h (pc + 3) lv st) : aW G M fr lo h0 K h pc lv (.int x :: st) :=
  fun p e s m args below meth c H locs cells slots ls C S L => lv_if_eq C.1 C.2.1 d ht (fun q => kt q p e s m args below meth c H locs cells slots ls C S L) (fun q => kf q p e s m args below meth c H locs cells slots ls C S L)
theorem a_if_ne {x : Int32} {off : Int} (tgt : Nat) (d : decode M.2.1 pc = .ok (.ifCond .ne off, 3)) (ht : (pc : Int) + off = (tgt : Int)) (kt : ¬ x = 0 → aW G M fr lo h0 K h tgt lv st) (kf : x = 0 → aW G M fr lo h0 K h (pc + 3) lv st) : aW G M fr lo h0 K h pc lv (.int x :: st) :=
  fun p e s m args below meth c H locs cells slots ls C S L => lv_if_ne C.1 C.2.1 d ht (fun q => kt q p e s m args below meth c H locs cells slots ls C S L) (fun q => kf q p e s m args below meth c H locs cells slots ls C S L)
theorem a_if_lt {x : Int32} {off : Int} (tgt : Nat) (d : decode M.2.1 pc = .ok (.ifCond .lt off, 3)) (ht : (pc : Int) + off = (tgt : Int)) (kt : x < 0 → aW G M fr lo h0 K h tgt lv st) (kf : ¬ x < 0 → aW G M fr lo h0 K h (pc + 3) lv st) : aW G M fr lo h0 K h pc lv (.int x :: st) :=
  fun p e s m args below meth c H locs cells slots ls C S L => lv_if_lt C.1 C.2.1 d ht (fun q => kt q p e s m args below meth c H locs cells slots ls C S L) (fun q => kf q p e s m args below meth c H locs cells slots ls C S L)
theorem a_if_ge {x : Int32} {off : Int} (tgt : Nat) (d : decode M.2.1 pc = .ok (.ifCond .ge off, 3)) (ht : (pc : Int) + off = (tgt : Int)) (kt : 0 ≤ x → aW G M fr lo h0 K h tgt lv st) (kf : ¬ 0 ≤ x → aW G M fr lo h0 K h (pc + 3) lv st) : aW G M fr lo h0 K h pc lv (.int x :: st) :=
  fun p e s m args below meth c H locs cells slots ls C S L => lv_if_ge C.1 C.2.1 d ht (fun q => kt q p e s m args below meth c H locs cells slots ls C S L) (fun q => kf q p e s m args below meth c H locs cells slots ls C S L)
theorem a_if_gt {x : Int32} {off : Int} (tgt : Nat) (d : decode M.2.1 pc = .ok (.ifCond .gt off, 3)) (ht : (pc : Int) + off = (tgt : Int)) (kt : 0 < x → aW G M fr lo h0 K h tgt lv st) (kf : ¬ 0 < x → aW G M fr lo h0 K h (pc + 3) lv st) : aW G M fr lo h0 K h pc lv (.int x :: st) :=
  fun p e s m args below meth c H locs cells slots ls C S L => lv_if_gt C.1 C.2.1 d ht (fun q => kt q p e s m args below meth c H locs cells slots ls C S L) (fun q => kf q p e s m args below meth c H locs cells slots ls C S L)
theorem a_if_le {x : Int32} {off : Int} (tgt : Nat) (d : decode M.2.1 pc = .ok (.ifCond .le off, 3)) (ht : (pc : Int) + off = (tgt : Int)) (kt : x ≤ 0 → aW G M fr lo h0 K h tgt lv st) (kf : ¬ x ≤ 0 → aW G M fr lo h0 K h (pc + 3) lv st) : aW G M fr lo h0 K h pc lv (.int x :: st) :=
  fun p e s m args below meth c H locs cells slots ls C S L => lv_if_le C.1 C.2.1 d ht (fun q => kt q p e s m args below meth c H locs cells slots ls C S L) (fun q => kf q p e s m args below meth c H locs cells slots ls C S L)
theorem a_icmp_eq {x y : Int32} {off : Int} (tgt : Nat) (d : decode M.2.1 pc = .ok (.if_icmp .eq off, 3)) (ht : (pc : Int) + off = (tgt : Int)) (kt : x = y → aW G M fr lo h0 K h tgt lv st) (kf : ¬ x = y → aW G M fr lo h0 K h (pc + 3) lv st) : aW G M fr lo h0 K h pc lv (.int y :: .int x :: st) :=
  fun p e s m args below meth c H locs cells slots ls C S L => lv_icmp_eq C.1 C.2.1 d ht (fun q => kt q p e s m args below meth c H locs cells slots ls C S L) (fun q => kf q p e s m args below meth c H locs cells slots ls C S L)
theorem a_icmp_ne {x y : Int32} {off : Int} (tgt : Nat) (d : decode M.2.1 pc = .ok (.if_icmp .ne off, 3)) (ht : (pc : Int) + off = (tgt : Int)) (kt : ¬ x = y → aW G M fr lo h0 K h tgt lv st) (kf : x = y → aW G M fr lo h0 K h (pc + 3) lv st) : aW G M fr lo h0 K h pc lv (.int y :: .int x :: st) :=
  fun p e s m args below meth c H locs cells slots ls C S L => lv_icmp_ne C.1 C.2.1 d ht (fun q => kt q p e s m args below meth c H locs cells slots ls C S L) (fun q => kf q p e s m args below meth c H locs cells slots ls C S L)
theorem a_icmp_lt {x y : Int32} {off : Int} (tgt : Nat) (d : decode M.2.1 pc = .ok (.if_icmp .lt off, 3)) (ht : (pc : Int) + off = (tgt : Int)) (kt : x < y → aW G M fr lo h0 K h tgt lv st) (kf : ¬ x < y → aW G M fr lo h0 K h (pc + 3) lv st) : aW G M fr lo h0 K h pc lv (.int y :: .int x :: st) :=
  fun p e s m args below meth c H locs cells slots ls C S L => lv_icmp_lt C.1 C.2.1 d ht (fun q => kt q p e s m args below meth c H locs cells slots ls C S L) (fun q => kf q p e s m args below meth c H locs cells slots ls C S L)
theorem a_icmp_ge {x y : Int32} {off : Int} (tgt : Nat) (d : decode M.2.1 pc = .ok (.if_icmp .ge off, 3)) (ht : (pc : Int) + off = (tgt : Int)) (kt : y ≤ x → aW G M fr lo h0 K h tgt lv st) (kf : ¬ y ≤ x → aW G M fr lo h0 K h (pc + 3) lv st) : aW G M fr lo h0 K h pc lv (.int y :: .int x :: st) :=
  fun p e s m args below meth c H locs cells slots ls C S L => lv_icmp_ge C.1 C.2.1 d ht (fun q => kt q p e s m args below meth c H locs cells slots ls C S L) (fun q => kf q p e s m args below meth c H locs cells slots ls C S L)
theorem a_icmp_gt {x y : Int32} {off : Int} (tgt : Nat) (d : decode M.2.1 pc = .ok (.if_icmp .gt off, 3)) (ht : (pc : Int) + off = (tgt : Int)) (kt : y < x → aW G M fr lo h0 K h tgt lv st) (kf : ¬ y < x → aW G M fr lo h0 K h (pc + 3) lv st) : aW G M fr lo h0 K h pc lv (.int y :: .int x :: st) :=
  fun p e s m args below meth c H locs cells slots ls C S L => lv_icmp_gt C.1 C.2.1 d ht (fun q => kt q p e s m args below meth c H locs cells slots ls C S L) (fun q => kf q p e s m args below meth c H locs cells slots ls C S L)
theorem a_icmp_le {x y : Int32} {off : Int} (tgt : Nat) (d : decode M.2.1 pc = .ok (.if_icmp .le off, 3)) (ht : (pc : Int) + off = (tgt : Int)) (kt : x ≤ y → aW G M fr lo h0 K h tgt lv st) (kf : ¬ x ≤ y → aW G M fr lo h0 K h (pc + 3) lv st) : aW G M fr lo h0 K h pc lv (.int y :: .int x :: st) :=
  fun p e s m args below meth c H locs cells slots ls C S L => lv_icmp_le C.1 C.2.1 d ht (fun q => kt q p e s m args below meth c H locs cells slots ls C S L) (fun q => kf q p e s m args below meth c H locs cells slots ls C S L)
theorem a_acmp_eq {x y : Nat} {off : Int} (tgt : Nat) (d : decode M.2.1 pc = .ok (.if_acmp .eq off, 3)) (ht : (pc : Int) + off = (tgt : Int)) (kt : x = y → aW G M fr lo h0 K h tgt lv st) (kf : ¬ x = y → aW G M fr lo h0 K h (pc + 3) lv st) : aW G M fr lo h0 K h pc lv (.ref y :: .ref x :: st) :=
  fun p e s m args below meth c H locs cells slots ls C S L => lv_acmp_eq (rx := some x) (ry := some y) C.1 C.2.1 d ht (fun q => kt (by simpa using q) p e s m args below meth c H locs cells slots ls C S L) (fun q => kf (by simpa using q) p e s m args below meth c H locs cells slots ls C S L)
theorem a_acmp_ne {x y : Nat} {off : Int} (tgt : Nat) (d : decode M.2.1 pc = .ok (.if_acmp .ne off, 3)) (ht : (pc : Int) + off = (tgt : Int)) (kt : ¬ x = y → aW G M fr lo h0 K h tgt lv st) (kf : x = y → aW G M fr lo h0 K h (pc + 3) lv st) : aW G M fr lo h0 K h pc lv (.ref y :: .ref x :: st) :=
  fun p e s m args below meth c H locs cells slots ls C S L => lv_acmp_ne (rx := some x) (ry := some y) C.1 C.2.1 d ht (fun q => kt (by simpa using q) p e s m args below meth c H locs cells slots ls C S L) (fun q => kf (by simpa using q) p e s m args below meth c H locs cells slots ls C S L)
theorem a_goto {off : Int} (tgt : Nat) (d : decode M.2.1 pc = .ok (.goto off, 3)) (ht : (pc : Int) + off = (tgt : Int)) (k : aW G M fr lo h0 K h tgt lv st) : aW G M fr lo h0 K h pc lv st :=
  fun p e s m args below meth c H locs cells slots ls C S L => lv_goto C.1 C.2.1 d ht (k p e s m args below meth c H locs cells slots ls C S L)
theorem a_ifnonnull {x : Nat} {off : Int} (tgt : Nat) (d : decode M.2.1 pc = .ok (.ifnonnull off, 3)) (ht : (pc : Int) + off = (tgt : Int)) (k : aW G M fr lo h0 K h tgt lv st) : aW G M fr lo h0 K h pc lv (.ref x :: st) :=
  fun p e s m args below meth c H locs cells slots ls C S L => lv_ifnonnull C.1 C.2.1 d ht (k p e s m args below meth c H locs cells slots ls C S L)
theorem a_ifnull {x : Nat} {off : Int} (d : decode M.2.1 pc = .ok (.ifnull off, 3)) (k : aW G M fr lo h0 K h (pc + 3) lv st) : aW G M fr lo h0 K h pc lv (.ref x :: st) :=
  fun p e s m args below meth c H locs cells slots ls C S L => lv_ifnull C.1 C.2.1 d (k p e s m args below meth c H locs cells slots ls C S L)
theorem a_ifnullN {off : Int} (tgt : Nat) (d : decode M.2.1 pc = .ok (.ifnull off, 3)) (ht : (pc : Int) + off = (tgt : Int)) (k : aW G M fr lo h0 K h tgt lv st) : aW G M fr lo h0 K h pc lv (.null :: st) :=
  fun p e s m args below meth c H locs cells slots ls C S L => lv_ifnullN C.1 C.2.1 d ht (k p e s m args below meth c H locs cells slots ls C S L)
theorem a_ifnonnullN {off : Int} (d : decode M.2.1 pc = .ok (.ifnonnull off, 3)) (k : aW G M fr lo h0 K h (pc + 3) lv st) : aW G M fr lo h0 K h pc lv (.null :: st) :=
  fun p e s m args below meth c H locs cells slots ls C S L => lv_ifnonnullN C.1 C.2.1 d (k p e s m args below meth c H locs cells slots ls C S L)
theorem a_tswIn {dflt lo9 hi9 off : Int} {offs : Array Int} {len : Nat} {x : Int32} (tgt : Nat) (d : decode M.2.1 pc = .ok (.tableswitch dflt lo9 hi9 offs, len)) (h1 : ¬ x.toInt < lo9) (h2 : ¬ hi9 < x.toInt) (ho : offs[(x.toInt - lo9).toNat]? = some off) (ht : (pc : Int) + off = (tgt : Int)) (k : aW G M fr lo h0 K h tgt lv st) : aW G M fr lo h0 K h pc lv (.int x :: st) :=
  fun p e s m args below meth c H locs cells slots ls C S L => lv_tableIn C.1 C.2.1 d h1 h2 ho ht (k p e s m args below meth c H locs cells slots ls C S L)
theorem a_tswOut {dflt lo9 hi9 : Int} {offs : Array Int} {len : Nat} {x : Int32} (tgt : Nat) (d : decode M.2.1 pc = .ok (.tableswitch dflt lo9 hi9 offs, len)) (h1 : x.toInt < lo9 ∨ hi9 < x.toInt) (ht : (pc : Int) + dflt = (tgt : Int)) (k : aW G M fr lo h0 K h tgt lv st) : aW G M fr lo h0 K h pc lv (.int x :: st) :=
  fun p e s m args below meth c H locs cells slots ls C S L => lv_tableOut C.1 C.2.1 d h1 ht (k p e s m args below meth c H locs cells slots ls C S L)
theorem a_lsw {dflt off : Int} {ps : Array (Int × Int)} {len : Nat} {x : Int32} (tgt : Nat) (d : decode M.2.1 pc = .ok (.lookupswitch dflt ps, len)) (hp : (ps.toList.zip (ps.toList.drop 1)).all (fun (a, next) => a.1 < next.1) = true) (ho : Op.lookupswitch.offset ps.toList dflt x.toInt = off) (ht : (pc : Int) + off = (tgt : Int)) (k : aW G M fr lo h0 K h tgt lv st) : aW G M fr lo h0 K h pc lv (.int x :: st) :=
  fun p e s m args below meth c H locs cells slots ls C S L => lv_lookup C.1 C.2.1 d hp ho ht (k p e s m args below meth c H locs cells slots ls C S L)
theorem a_ldc {index : Nat} {v : Int32} (q : Cond.constant M.1 index v ∈ lw_all) (d : decode M.2.1 pc = .ok (.ldc index, 2)) (k : aW G M fr lo h0 K h (pc + 2) lv (.int v :: st)) : aW G M fr lo h0 K h pc lv st :=
  fun p e s m args below meth c H locs cells slots ls C S L => lv_ldc C.1 C.2.1 C.2.2.2.2.2.2.2.1 (C.2.2.2.2.2.2.2.2.1 _ q) d (k p e s m args below meth c H locs cells slots ls C S L)
theorem a_ldcw {index : Nat} {v : Int32} (q : Cond.constant M.1 index v ∈ lw_all) (d : decode M.2.1 pc = .ok (.ldc_w index, 3)) (k : aW G M fr lo h0 K h (pc + 3) lv (.int v :: st)) : aW G M fr lo h0 K h pc lv st :=
  fun p e s m args below meth c H locs cells slots ls C S L => lv_ldcw C.1 C.2.1 C.2.2.2.2.2.2.2.1 (C.2.2.2.2.2.2.2.2.1 _ q) d (k p e s m args below meth c H locs cells slots ls C S L)
theorem a_ldc2 {index : Nat} {v : Int64} (q : Cond.constantLong M.1 index v ∈ lw_all) (d : decode M.2.1 pc = .ok (.ldc2_w index, 3)) (k : aW G M fr lo h0 K h (pc + 3) lv (.long v :: st)) : aW G M fr lo h0 K h pc lv st :=
  fun p e s m args below meth c H locs cells slots ls C S L => lv_ldc2 C.1 C.2.1 C.2.2.2.2.2.2.2.1 (C.2.2.2.2.2.2.2.2.1 _ q) d (k p e s m args below meth c H locs cells slots ls C S L)
end aRows
