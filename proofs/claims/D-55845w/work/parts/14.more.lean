/-! THE LAYER, 7: exceptions made and caught, old things, copies -/
set_option maxRecDepth 100000
/-- rebased: the walk from here, seen as a walk that begins here -/
theorem W.rebase {p : Program} {l : Launch} {e : Env} {R R' : Room} {s : State} {m : MethodId} {args : Array Value} {below : List Frame} {meth : Method} {c : Code} {H : Heap} {locs : List Loc} {cells slots : Nat} {Q : State → Prop} {g : JFrame} (hf : R'.frames ≤ R.frames) (hl : R'.locals ≤ R.locals) (hc : cells + R'.cells ≤ R.cells) (hs : slots + R'.slots ≤ R.slots)
    (row : ∀ s' : State, s'.vm = s.vm → s'.heap = H → (∀ (H1 : Heap) (locs1 : List Loc) (k n : Nat) (g' : JFrame), (H.size ≤ H1.size → H1.size ≤ H.size + k → W p l e R s m args below meth c H1 (locs ++ locs1) (cells + k) (slots + n) Q g') → W p l e R' s' m args below meth c H1 locs1 k n Q g') → W p l e R' s' m args below meth c H [] 0 0 Q g) : W p l e R s m args below meth c H locs cells slots Q g := by
  intro T hT X
  have Y := vx_rebase X hf hl hc hs
  refine row ((T.setVm s.vm).setFrames (.invoking m args :: below)) rfl hT ?_ T hT Y
  intro H1 locs1 k n g' w S hS Z
  have hW0 : s.WarmedH ((T.setVm s.vm).setFrames (.invoking m args :: below)).vm := State.WarmedH.refl s
  have h1 : H.size ≤ H1.size := by rw [← hT, ← hS]; exact Z.same.2.1
  have h2 : H1.size ≤ H.size + k := by rw [← hT, ← hS]; exact Z.heapSize
  refine w h1 h2 S hS { admits := X.admits, cas := X.cas, clock := X.clock, frames := X.frames, room := X.room, hears := X.hears, method := X.method, code := X.code, here := Z.here, tail := Z.tail, warmed := State.WarmedH.trans hW0 Z.warmed, limits := Z.limits.trans (Y.limits.symm.trans X.limits), bytes := Z.bytes.trans (Y.bytes.symm.trans X.bytes), same := ?_ }
  obtain ⟨e1, e2⟩ := Z.same
  rw [State.setFrames_setFrames] at e1
  have h3 : (T.setVm s.vm).sameButNew (S.setVm s.vm) locs1 k n := ⟨e1, e2⟩
  exact X.same.trans h3
/-- what the making of an exception asks -/
def aMk (own : String) (ik ic : Nat) (cls : String) (ci : Nat) : Prop := Bundle.fit cls = true ∧ Cond.classLink own ik cls ∈ lw_all ∧ Cond.initialized cls ∈ lw_all ∧ (∃ T, clA[ci]? = some (cls, T, 0)) ∧ ∀ w ∈ vx_at0 own ic cls ["java/lang/RuntimeException", "java/lang/Exception"], w ∈ lw_tbl ∧ (goodWord w = true ∨ aKind w = true)
def wIn (ps : List Nat) (ws : List Cond) : Bool := decide (ws = ps.filterMap (fun i => lw_tbl[i]?)) && ws.all (fun w => goodWord w || aKind w)
theorem wIn_spec {ps : List Nat} {ws : List Cond} (h : wIn ps ws = true) : ∀ w ∈ ws, w ∈ lw_tbl ∧ (goodWord w = true ∨ aKind w = true) := by
  simp only [wIn, Bool.and_eq_true, decide_eq_true_eq, List.all_eq_true, Bool.or_eq_true] at h
  intro w hw
  refine ⟨?_, h.2 w hw⟩
  rw [h.1] at hw
  obtain ⟨i, -, hi⟩ := List.mem_filterMap.mp hw
  exact List.mem_of_getElem? hi
theorem wK_ot {w : Cond} (h : aKind w = true) : w.onTables = true := by cases w <;> first | rfl | cases h
section aMore
variable {G : aG} {M : aM} {fr lo : Nat} {h0 : aH} {K : aRes → aH → Prop} {h : aH} {pc : Nat} {lv : List (Option Value)} {st : List Value}
theorem a_make0 {ik ic ci : Nat} {cls : String} {h1 : aH} (mk : aMk M.1 ik ic cls ci) (e : nw (gZ G) h (.inr (ci, [])) 6 = some h1) (d0 : decode M.2.1 pc = .ok (.new ik, 3)) (d3 : decode M.2.1 (pc + 3) = .ok (.dup, 1)) (d4 : decode M.2.1 (pc + 4) = .ok (.invokespecial ic, 3)) (hfr : 6 ≤ fr) (hlo : (st.map fun v => v.category).sum + 81 ≤ lo) (kk : aW G M fr lo h0 K h1 (pc + 7) lv (.ref h.2.1 :: st)) : aW G M fr lo h0 K h pc lv st := by
  intro p e9 s m args below meth c H locs cells slots ls C S L
  obtain ⟨m1, m2, m3, ⟨T, hc⟩, m5⟩ := mk
  obtain ⟨g1, g2, rfl⟩ := nw_spec e
  have hts := C.2.2.2.2.2.2.2.2.1
  have hK := C.2.2.2.2.2.2.2.2.2
  obtain ⟨s1, s2, s3, s4, s5, s6, s7⟩ := id S
  have hS : va_S (aA (gZ G)) s.heap H locs := ⟨by rw [s1.1, s2.1]; omega, fun q hq hn => (s2.2.2.2.2.1 q (Nat.not_le.mp hn)).trans (s1.2.2.2.2.1 q (Nat.not_le.mp hn)).symm, s3⟩
  have kept : ∀ q : Nat, q < (gH G).size → ¬ aA (gZ G) q → s.heap[q]? = (gH G)[q]? := fun q hq hn => s1.2.2.2.2.1 q (Nat.not_le.mp hn)
  have hword : ∀ w, (w ∈ lw_tbl ∧ (goodWord w = true ∨ aKind w = true)) → w.before args s = true := by
    rintro w ⟨hw, hg | hg⟩
    · exact hts w (lw_g hw hg)
    · exact va_Nw.use (wK_ot hg) (hK.2.1 w hw hg)
  refine ax_make0 (names := ["java/lang/RuntimeException", "java/lang/Exception"]) C.1 C.2.1 hK.2.2.2.1 C.2.2.2.2.2.2.2.1 m1 (by decide +kernel) (hts _ m2) (hts _ m3) (fun w hw => hword w (m5 w hw)) ?_ (hK.2.2.1.1.kept kept) (hK.2.2.1.2.1.kept kept) hS (by rw [C.2.2.1]; exact L.1) d0 d3 d4 hK.1 hc (show 5 < fr by omega) (show _ + 81 ≤ lo from hlo) (show cells + 1 ≤ zN (gZ G) - h0.2.1 by omega) (show slots + 6 ≤ zS (gZ G) - h0.2.2 by omega) fun H1 ce z1 o1 e1 hz hat => ?_
  · intro w hw
    rcases List.mem_cons.mp hw with rfl | hw
    · rfl
    · rcases List.mem_cons.mp hw with rfl | hw
      · rfl
      · rcases (m5 w hw).2 with hg | hg
        · simp [vx_ot, hg]
        · simp [vx_ot, wK_ot hg]
  · have R1 := s2.push (e := .inr (ci, [])) z1 e1 o1 hat
    rw [hz] at R1
    rw [s2.1]
    exact kk p e9 s m args below meth c H1 locs _ _ ls C (S.push R1 rfl rfl g1 g2) L
/-- caught by row i of the table -/
theorem a_catchI {E nm : String} {q : Nat} (i : Nat) {x : Nat × Nat × Nat × Nat} (hi : M.2.2.2.2.1[i]? = some x) (hpre : ∀ z ∈ M.2.2.2.2.1.take i, (decide (z.1 ≤ pc) && decide (pc < z.2.1)) = false ∨ (z.2.2.2 ≠ 0 ∧ ∃ n9 : String, Cond.classLink M.1 z.2.2.2 n9 ∈ lw_all ∧ ∀ s : State, aK G s → va_Nc E n9 s)) (hx : x.1 ≤ pc ∧ pc < x.2.1) (h0x : x.2.2.2 ≠ 0) (hl : Cond.classLink M.1 x.2.2.2 nm ∈ lw_all) (hc : Cond.castable E nm ∈ lw_tbl)
    (kk : aW G M fr lo h0 K h x.2.2.1 lv [.ref q]) : aX G M fr lo h0 K h pc lv E q := by
  have hlt := (List.getElem?_eq_some_iff.mp hi).1
  have hsp : tableOf M.2.2.2.2.1 = tableOf (M.2.2.2.2.1.take i) ++ (⟨x.1, x.2.1, x.2.2.1, x.2.2.2⟩ : ExceptionTableEntry) :: tableOf (M.2.2.2.2.1.drop (i + 1)) := by
    have h9 : M.2.2.2.2.1 = M.2.2.2.2.1.take i ++ x :: M.2.2.2.2.1.drop (i + 1) := by
      rw [← (List.getElem?_eq_some_iff.mp hi).2, ← List.drop_eq_getElem_cons hlt, List.take_append_drop]
    have h8 := congrArg tableOf h9
    rw [h8]
    simp [tableOf]
  refine a_catch (nm := nm) _ _ _ hsp (fun z hz => ?_) (by simp [covers]; exact hx) h0x hl hc kk
  obtain ⟨w, hw, rfl⟩ := List.mem_map.mp hz
  rcases hpre w hw with h | h
  · refine Or.inl ?_
    simpa [covers] using h
  · exact Or.inr h
/-- caught by row i, which takes all -/
theorem a_catch0 {E : String} {q : Nat} (i : Nat) {x : Nat × Nat × Nat × Nat} (hi : M.2.2.2.2.1[i]? = some x) (hpre : ∀ z ∈ M.2.2.2.2.1.take i, (decide (z.1 ≤ pc) && decide (pc < z.2.1)) = false ∨ (z.2.2.2 ≠ 0 ∧ ∃ n9 : String, Cond.classLink M.1 z.2.2.2 n9 ∈ lw_all ∧ ∀ s : State, aK G s → va_Nc E n9 s)) (hx : x.1 ≤ pc ∧ pc < x.2.1) (h0x : x.2.2.2 = 0)
    (kk : aW G M fr lo h0 K h x.2.2.1 lv [.ref q]) : aX G M fr lo h0 K h pc lv E q := by
  have hlt := (List.getElem?_eq_some_iff.mp hi).1
  have hsp : tableOf M.2.2.2.2.1 = tableOf (M.2.2.2.2.1.take i) ++ (⟨x.1, x.2.1, x.2.2.1, x.2.2.2⟩ : ExceptionTableEntry) :: tableOf (M.2.2.2.2.1.drop (i + 1)) := by
    have h9 : M.2.2.2.2.1 = M.2.2.2.2.1.take i ++ x :: M.2.2.2.2.1.drop (i + 1) := by
      rw [← (List.getElem?_eq_some_iff.mp hi).2, ← List.drop_eq_getElem_cons hlt, List.take_append_drop]
    have h8 := congrArg tableOf h9
    rw [h8]
    simp [tableOf]
  intro p e s m args below meth c H locs cells slots ls rest ce C S L h1 h2 h3
  have hts := C.2.2.2.2.2.2.2.2.1
  have hK := C.2.2.2.2.2.2.2.2.2
  intro T hT X
  have hpl : e.platform.magicAccessors = ({} : Platform).magicAccessors := by rw [X.admits.platform]
  obtain ⟨vm', X', stp⟩ := X.thenCaughtThrough q (g := F0 m pc ls rest) rfl (Steps.refl _) (by rw [hT]; exact h1) (by rw [h2]; rfl) (by obtain ⟨k9, h9, -⟩ := Vm.findClass_spec h3; exact ⟨k9, h9⟩) _ _ _ (by rw [C.2.2.2.2.1]; exact hsp)
    (fun z hz => by
      obtain ⟨w, hw, rfl⟩ := List.mem_map.mp hz
      rcases hpre w hw with h | ⟨hz0, nm, hl1, hn1⟩
      · exact Or.inl (by simpa [covers] using h)
      · obtain ⟨c6, hc6, hcl6⟩ := Cond.classLink_spec C.2.2.2.2.2.2.2.1 (hts _ hl1) e.platform hpl
        obtain ⟨a8, b8, g1, g2, g3⟩ := hn1 s hK
        cases Option.some.inj (g1.symm.trans h3)
        cases Option.some.inj (g2.symm.trans hc6)
        exact Or.inr ⟨hz0, _, hcl6, g3⟩) (by simp [covers]; exact hx) (Or.inl h0x)
  obtain ⟨t, a1, b1⟩ := kk p e s m args below meth c H locs cells slots ls C S L (T.setVm vm') hT X'
  exact ⟨t, stp.trans a1, b1⟩
end aMore
