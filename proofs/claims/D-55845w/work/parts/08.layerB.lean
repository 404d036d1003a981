/-! THE LAYER, 2: the run's fixed things, the abstract heap, the judgements -/
set_option maxRecDepth 100000
/-- the abstract heap: what lies where, the next address, the slots in use -/
abbrev aH : Type := (Nat → Option va_E) × Nat × Nat
/-- what is old: an array of ints (its kind, length, contents), or a String (its bytes' address) -/
abbrev aOE : Type := (FieldType × Nat × (Nat → Int32)) ⊕ Nat
/-- (first new address, most addresses, most slots), the array classes of int, byte, char, long, double, Object; what is old; named addresses -/
abbrev aZ : Type := (Nat × Nat × Nat) × (ClassId × ClassId × ClassId × ClassId × ClassId × ClassId) × (Nat → Option aOE) × (Nat → Nat) × (Nat → Option Nat)
def z0 (Z : aZ) : Nat := Z.1.1
def zN (Z : aZ) : Nat := Z.1.2.1
def zS (Z : aZ) : Nat := Z.1.2.2
def zI (Z : aZ) : ClassId := Z.2.1.1
def zB (Z : aZ) : ClassId := Z.2.1.2.1
def zC (Z : aZ) : ClassId := Z.2.1.2.2.1
def zJ (Z : aZ) : ClassId := Z.2.1.2.2.2.1
def zD (Z : aZ) : ClassId := Z.2.1.2.2.2.2.1
def zO (Z : aZ) : ClassId := Z.2.1.2.2.2.2.2
def zold (Z : aZ) : Nat → Option aOE := Z.2.2.1
def znm (Z : aZ) : Nat → Nat := Z.2.2.2.1
def znq (Z : aZ) : Nat → Option Nat := Z.2.2.2.2
def tysA (Z : aZ) : List (ClassId × FieldType) := [(zI Z, .int), (zB Z, .byte), (zC Z, .char), (zJ Z, .long), (zD Z, .double), (zO Z, .object "java/lang/Object")]
/-- the classes of objects, by number -/
def clA : List vw_C := [(RX1, TX1, 8), (RX2, TX2, 7), (RX3, TX3, 21), (RX5, TX5, 4), (RX6, TX6, 7), (RX7, TX7, 9), (RX8, TX8, 5), (RX9, TX9, 7), (RJ2, TJ2, 3), (RJ7, TJ7, 4), (RJ4, TJ4, 4), (RJ5, TJ5, 4), (RJ11, TJ11, 0), (RJ17, TJ17, 0), (RJ19, TJ19, 0), (RJ21, TJ21, 0), (RJ22, TJ22, 0), (RJ26, TJ26, 0)]
/-- the statics that are read: class, name, descriptor, value -/
def aStats (Z : aZ) : List (String × String × String × Value) := [("java/util/ArrayList", "DEFAULTCAPACITY_EMPTY_ELEMENTDATA", "[Ljava/lang/Object;", .ref (znm Z 0)), ("java/lang/String", "COMPACT_STRINGS", "Z", .int 1), ("java/lang/Integer", "DigitTens", "[B", .ref (znm Z 1)), ("java/lang/Integer", "DigitOnes", "[B", .ref (znm Z 2)), (Bundle.tN, "UNASSIGNED_STACK", Bundle.steD, va_rf (znq Z 0)), (Bundle.tN, "SUPPRESSED_SENTINEL", Bundle.listD, va_rf (znq Z 1)), ("jdk/internal/util/Preconditions", "SIOOBE_FORMATTER", "Ljava/util/function/BiFunction;", va_rf (znq Z 2))]
/-- the strings that are loaded: class, entry, text, address -/
def aStrs (Z : aZ) : List (String × Nat × String × Nat) := [("MazeBonds", 301, "out", znm Z 3), ("MazeBonds", 313, "!", znm Z 4), ("MazeBonds", 315, "", znm Z 5), ("MazeBonds$Reader", 54, "hstmgvbwr", znm Z 6), ("MazeBonds$Reader", 47, "nesw", znm Z 7)]
abbrev aG : Type := Launch × va_G × Heap × aZ
def gl (G : aG) : Launch := G.1
def gD (G : aG) : va_G := G.2.1
def gH (G : aG) : Heap := G.2.2.1
def gZ (G : aG) : aZ := G.2.2.2
/-- what may be written -/
def aA (Z : aZ) : Nat → Prop := fun q => z0 Z ≤ q
/-- words of the tables that do not ride in the lists, but stay -/
def aKind : Cond → Bool
  | .fieldLinkNest .. => true
  | .methodLinkNest .. => true
  | .declares .. => true
  | .castable .. => true
  | _ => false
def aStat (G : aG) (U : State) : Prop :=
  vx_Zq Bundle.tN "UNASSIGNED_STACK" Bundle.steD (aA (gZ G)) U (gH G) ∧ vx_Zq Bundle.tN "SUPPRESSED_SENTINEL" Bundle.listD (aA (gZ G)) U (gH G) ∧
  (∀ q ∈ aStats (gZ G), va_Z q.1 q.2.1 q.2.2.1 q.2.2.2 (aA (gZ G)) U (gH G)) ∧
  (∀ a ty N f, zold (gZ G) a = some (.inl (ty, N, f)) → va_T ty a N (fun j => .int (f j)) (aA (gZ G)) U (gH G)) ∧
  (∀ a v, zold (gZ G) a = some (.inr v) → va_O "java/lang/String" a (aA (gZ G)) U (gH G) ∧ va_OF "java/lang/String" "coder" "B" (.int 0) a (aA (gZ G)) U (gH G) ∧ va_OF "java/lang/String" "value" "[B" (.ref v) a (aA (gZ G)) U (gH G)) ∧
  (∀ q ∈ aStrs (gZ G), vk_R q.1 q.2.1 q.2.2.1 q.2.2.2 U)
def yItHas : MethodName := ⟨"java/util/Iterator", "hasNext", "()Z"⟩
def yItNext : MethodName := ⟨"java/util/Iterator", "next", "()Ljava/lang/Object;"⟩
/-- what is asked of the interface, and of arrays of objects -/
def aNcs : List (String × String) := [("java/util/NoSuchElementException", "java/lang/IndexOutOfBoundsException"), ("java/lang/IllegalArgumentException", "java/lang/IndexOutOfBoundsException"), ("java/util/NoSuchElementException", "java/lang/IllegalArgumentException"), ("java/lang/UnsupportedOperationException", "java/lang/IllegalArgumentException"), ("MazeBonds$RefusedException", "MazeBonds$FaultException")]
/-- private methods of AbstractStringBuilder, called on a StringBuilder -/
def aSels : List Cond := ([⟨"java/lang/AbstractStringBuilder", "ensureCapacityInternal", "(I)V"⟩, ⟨"java/lang/AbstractStringBuilder", "putStringAt", "(ILjava/lang/String;)V"⟩, ⟨"java/lang/AbstractStringBuilder", "inflateIfNeededFor", "(Ljava/lang/String;)V"⟩] : List MethodName).map (fun y => Cond.selects "java/lang/StringBuilder" y y)
def aFace (U : State) : Prop := (∀ q ∈ aNcs, va_Nc q.1 q.2 U) ∧ va_AO "java/lang/Object" U ∧ va_Fw RJ7 yItHas ⟨RJ7, "hasNext", "()Z"⟩ U ∧ va_Fw RJ7 yItNext ⟨RJ7, "next", "()Ljava/lang/Object;"⟩ U ∧ ∀ w ∈ aSels, va_Nw w U
theorem aSels_good : ∀ w ∈ aSels, goodWord w = true := by
  have h : aSels.all goodWord = true := by rfl
  exact List.all_eq_true.mp h
theorem aFace.warm {s U : State} (hW : s.WarmedH U.vm) (h : aFace s) : aFace U := ⟨fun q hq => (h.1 q hq).moved hW.alike, h.2.1.moved hW.alike, h.2.2.1.moved (by decide +kernel) hW.alike, h.2.2.2.1.moved (by decide +kernel) hW.alike, fun w hw => word_at hW (good_of_word (aSels_good w hw)) (h.2.2.2.2 w hw)⟩
def aK (G : aG) (U : State) : Prop := va_K (gD G) clA (tysA (gZ G)) U ∧ (∀ w ∈ lw_tbl, aKind w = true → va_Nw w U) ∧ aStat G U ∧ (gl G).stackTraces = false ∧ aFace U
theorem aStat.warm {G : aG} {s U : State} (hW : s.WarmedH U.vm) (h : aStat G s) : aStat G U := by
  obtain ⟨h1, h2, h3, h4, h5, h6⟩ := h
  exact ⟨h1.moved hW.alike, h2.moved hW.alike, fun q hq => (h3 q hq).moved hW.alike, fun a ty N f e => (h4 a ty N f e).moved hW.alike,
    fun a v e => ⟨(h5 a v e).1.moved hW.alike, (h5 a v e).2.1.moved hW.alike, (h5 a v e).2.2.moved hW.alike⟩, fun q hq => (h6 q hq).warm hW⟩
theorem aNw.warm {w : Cond} {s U : State} (hW : s.WarmedH U.vm) (hk : aKind w = true) (h : va_Nw w s) : va_Nw w U := by
  cases w <;> first | exact va_Nw.warmF hW h | exact va_Nw.warmM hW h | exact va_Nw.warmD hW h | exact va_Nw.warmC hW h | cases hk
theorem aK.warm {G : aG} {s U : State} (hW : s.WarmedH U.vm) (h : aK G s) : aK G U :=
  ⟨va_K.moved hW.alike h.1, fun w hw hk => aNw.warm hW hk (h.2.1 w hw hk), h.2.2.1.warm hW, h.2.2.2.1, h.2.2.2.2.warm hW⟩
def aRep (G : aG) (h : aH) (H : Heap) : Prop := H.size = h.2.1 ∧ hsum H = h.2.2 ∧ z0 (gZ G) ≤ H.size ∧ (gH G).size = z0 (gZ G) ∧ (∀ q : Nat, q < z0 (gZ G) → H[q]? = (gH G)[q]?) ∧ ∀ (a : Nat) (e : va_E), h.1 a = some e → va_at (gD G) clA (a, e) H
/-- a method: its class, code, locals, answer, handlers, name -/
abbrev aM : Type := String × ByteArray × Nat × Option FieldType × List (Nat × Nat × Nat × Nat) × String
/-- how a method ends: it returns, or throws the object at an address, of a class -/
abbrev aRes : Type := Option Value ⊕ (String × Nat)
def aC (G : aG) (M : aM) (p : Program) (s : State) (m : MethodId) (args : Array Value) (meth : Method) (c : Code) : Prop :=
  p.tables.exec = Jvm.exec ∧ c.code = M.2.1 ∧ c.maxLocals = M.2.2.1 ∧ meth.sig.returnType = M.2.2.2.1 ∧ c.exceptionTable.toList = tableOf M.2.2.2.2.1 ∧ meth.name = M.2.2.2.2.2 ∧ meth.locks = false ∧ s.vm.findClass M.1 = some m.cls ∧ (∀ w ∈ lw_all, w.before args s = true) ∧ aK G s
def aS (G : aG) (h0 h : aH) (s : State) (H : Heap) (locs : List Loc) (cells slots : Nat) : Prop :=
  aRep G h0 s.heap ∧ aRep G h H ∧ (∀ q ∈ locs, z0 (gZ G) ≤ q.base) ∧ h.2.1 = h0.2.1 + cells ∧ h.2.2 = h0.2.2 + slots ∧ cells ≤ zN (gZ G) - h0.2.1 ∧ slots ≤ zS (gZ G) - h0.2.2
/-- the locals: what is known of them, by place -/
def aL (ls : Array Slot) (nL : Nat) (lv : List (Option Value)) : Prop := ls.size = nL ∧ lv_wf ls ∧ ∀ (i : Nat) (v : Value), lv[i]? = some (some v) → ls[i]? = some (.val v)
def aQc (G : aG) (K : aRes → aH → Prop) : Array Value → State → Outcome → State → Prop := fun _ _ o t => ∃ (v : Option Value) (h' : aH), o = .returned v ∧ K (.inl v) h' ∧ aRep G h' t.heap
def aXC (G : aG) (K : aRes → aH → Prop) : String → Addr → State → State → Prop := fun E q _ t => ∃ h' : aH, K (.inr (E, q)) h' ∧ aRep G h' t.heap
def aR (G : aG) (fr lo : Nat) (h0 : aH) : Room := { frames := fr, cells := zN (gZ G) - h0.2.1, slots := zS (gZ G) - h0.2.2, locals := lo }
def aQ (G : aG) (h0 : aH) (K : aRes → aH → Prop) (below : List Frame) (args : Array Value) (s : State) : State → Prop :=
  vx_MQ below (aQc G K) (aXC G K) args s (zN (gZ G) - h0.2.1) (zS (gZ G) - h0.2.2) (aA (gZ G))
/-- from here the body comes to an end with K -/
def aW (G : aG) (M : aM) (fr lo : Nat) (h0 : aH) (K : aRes → aH → Prop) (h : aH) (pc : Nat) (lv : List (Option Value)) (st : List Value) : Prop :=
  ∀ (p : Program) (e : Env) (s : State) (m : MethodId) (args : Array Value) (below : List Frame) (meth : Method) (c : Code) (H : Heap) (locs : List Loc) (cells slots : Nat) (ls : Array Slot),
    aC G M p s m args meth c → aS G h0 h s H locs cells slots → aL ls M.2.2.1 lv →
    W p (gl G) e (aR G fr lo h0) s m args below meth c H locs cells slots (aQ G h0 K below args s) (F0 m pc ls st)
/-- .. with q, of the class E, thrown at pc -/
def aX (G : aG) (M : aM) (fr lo : Nat) (h0 : aH) (K : aRes → aH → Prop) (h : aH) (pc : Nat) (lv : List (Option Value)) (E : String) (q : Nat) : Prop :=
  ∀ (p : Program) (e : Env) (s : State) (m : MethodId) (args : Array Value) (below : List Frame) (meth : Method) (c : Code) (H : Heap) (locs : List Loc) (cells slots : Nat) (ls : Array Slot) (rest : List Value) (ce : Cell),
    aC G M p s m args meth c → aS G h0 h s H locs cells slots → aL ls M.2.2.1 lv → H[q]? = some ce → ce.vm = .none → s.vm.findClass E = some ce.cls →
    vx_W p (gl G) e (aR G fr lo h0) s m args below meth c H locs cells slots (aQ G h0 K below args s) (F0 m pc ls rest) q
/-- the contract: called with As where the heap is h, y ends with K -/
def aMet (G : aG) (y : MethodName) (ws : List Cond) (fr lo : Nat) (As : List Value) (h : aH) (K : aRes → aH → Prop) : Prop :=
  vx_Met (gl G) y ws (aR G fr lo h) (va_Pc As (fun U => aK G U ∧ aRep G h U.heap)) (aQc G K) (aXC G K) (zN (gZ G) - h.2.1) (zS (gZ G) - h.2.2) (aA (gZ G))
def aRet (r : Option Value) (h1 : aH) : aRes → aH → Prop := fun r' h' => r' = .inl r ∧ h' = h1
/-- the locals at a method's entry -/
def aLay : List Value → List (Option Value)
  | [] => []
  | v :: vs => if v.category = 2 then some v :: none :: aLay vs else some v :: aLay vs
theorem aLay_args (vs : List Value) : ∀ (n i : Nat) (v : Value), (aLay vs)[i]? = some (some v) → (n + i, v) ∈ lv_args n vs := by
  induction vs with
  | nil => intro n i v h; simp [aLay] at h
  | cons w vs ih =>
    intro n i v h
    unfold aLay at h
    unfold lv_args
    by_cases hc : w.category = 2
    · rw [if_pos hc] at h ⊢
      match i, h with
      | 0, h => cases h; exact List.mem_cons_self
      | 1, h => cases h
      | i + 2, h => exact List.mem_cons_of_mem _ (by have := ih (n + 2) i v h; rwa [show n + 2 + i = n + (i + 2) by omega] at this)
    · rw [if_neg hc] at h ⊢
      match i, h with
      | 0, h => cases h; exact List.mem_cons_self
      | i + 1, h => exact List.mem_cons_of_mem _ (by have := ih (n + 1) i v h; rwa [show n + 1 + i = n + (i + 1) by omega] at this)
theorem aL_entry {vs : List Value} {n : Nat} (h : (lg_sl vs).length ≤ n) (k : Nat) : aL ((lg_sl vs ++ List.replicate (n - (lg_sl vs).length) Slot.unset).toArray) n (aLay vs ++ List.replicate k none) := by
  obtain ⟨h1, h2, h3⟩ := lv_entry vs h
  refine ⟨h1, h2, fun i v hv => ?_⟩
  by_cases hi : i < (aLay vs).length
  · rw [List.getElem?_append_left hi] at hv
    exact h3 (i, v) (by have := aLay_args vs 0 i v hv; rwa [Nat.zero_add] at this)
  · rw [List.getElem?_append_right (by omega)] at hv
    have := List.eq_of_mem_replicate (List.mem_of_getElem? hv)
    cases this
/-- a contract, out of its body -/
theorem aMet.of {G : aG} {y : MethodName} {cc : ByteArray} {nL : Nat} {ret : Option FieldType} {fr lo : Nat} {As : List Value} {h : aH} {K : aRes → aH → Prop} {lv : List (Option Value)} (hy : plainName y.cls = true) (hn : (lg_sl As).length ≤ nL) (k : Nat) (hl : aLay As ++ List.replicate k none = lv)
    (body : aW G (y.cls, cc, nL, ret, [], y.name) fr lo h K h 0 lv []) : aMet G y (ws_ y cc nL ret) fr lo As h K := by
  refine vx_ofW (cc := cc) (maxL := nL) (ret := ret) hy rfl ?_
  intro p e s m args below meth c s₁ B hml htab hv
  obtain ⟨rfl, hK, hR⟩ := hv
  have hts := atoms_spec (ws := ws_ y cc nL ret) B.pre
  have hts : ∀ w ∈ lw_all, w.before _ s = true := fun w h => hts w (List.mem_cons_of_mem _ h)
  rw [lg_entry_eq]
  subst hl
  have htb : c.exceptionTable.toList = tableOf [] := List.eq_nil_iff_forall_not_mem.mpr htab
  exact body p e s m As.toArray below meth c s.heap [] 0 0 _ ⟨B.exec, B.bytes, hml, B.returns, htb, (name_of_methodNamed B.named B.method).1, B.notSynchronized, findClass_of_methodNamed B.named, hts, hK⟩ ⟨hR, hR, fun q hq => (by cases hq), rfl, rfl, Nat.zero_le _, Nat.zero_le _⟩ (aL_entry hn k)
theorem aMet.ofH {G : aG} {y : MethodName} {cc : ByteArray} {nL : Nat} {ret : Option FieldType} {hh : List (Nat × Nat × Nat × Nat)} {fr lo : Nat} {As : List Value} {h : aH} {K : aRes → aH → Prop} {lv : List (Option Value)} (hy : plainName y.cls = true) (hn : (lg_sl As).length ≤ nL) (k : Nat) (hl : aLay As ++ List.replicate k none = lv)
    (body : aW G (y.cls, cc, nL, ret, hh, y.name) fr lo h K h 0 lv []) : aMet G y (wsW_ y cc nL ret hh) fr lo As h K := by
  refine vx_ofWH (cc := cc) (maxL := nL) (ret := ret) (hh := hh) hy rfl ?_
  intro p e s m args below meth c s₁ B hml hv
  obtain ⟨rfl, hK, hR⟩ := hv
  have hts := atoms_spec (ws := wsW_ y cc nL ret hh) B.pre
  have htb : c.exceptionTable.toList = tableOf hh := vx_table (x := y) B (hts _ List.mem_cons_self)
  have hts : ∀ w ∈ lw_all, w.before _ s = true := fun w h => hts w (List.mem_cons_of_mem _ h)
  rw [lg_entry_eq]
  subst hl
  exact body p e s m As.toArray below meth c s.heap [] 0 0 _ ⟨B.exec, B.bytes, hml, B.returns, htb, (name_of_methodNamed B.named B.method).1, B.notSynchronized, findClass_of_methodNamed B.named, hts, hK⟩ ⟨hR, hR, fun q hq => (by cases hq), rfl, rfl, Nat.zero_le _, Nat.zero_le _⟩ (aL_entry hn k)
