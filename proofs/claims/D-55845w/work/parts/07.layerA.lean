/-! THE LAYER: an exact abstract heap, one judgement for a method's body (aW), one for its contract (aMet) -/
set_option maxRecDepth 100000
def hsum (H : Heap) : Nat := (H.toList.map (fun c => c.slots.size)).sum
theorem hsum_ext {H H' : Heap} (hs : H'.size = H.size) (h : ∀ (q : Nat) (c : Cell), H[q]? = some c → ∃ c' : Cell, H'[q]? = some c' ∧ c'.slots.size = c.slots.size) : hsum H' = hsum H := by
  unfold hsum
  congr 1
  apply List.ext_getElem?
  intro i
  rw [List.getElem?_map, List.getElem?_map, Array.getElem?_toList, Array.getElem?_toList]
  by_cases hi : i < H.size
  · obtain ⟨c', h1, h2⟩ := h i H[i] (Array.getElem?_eq_getElem hi)
    rw [h1, Array.getElem?_eq_getElem hi]
    simp [h2]
  · rw [Array.getElem?_eq_none (by omega), Array.getElem?_eq_none (by omega)]
theorem hsum_set {H H' : Heap} {a : Nat} {c c' : Cell} (hs : H'.size = H.size) (h1 : H[a]? = some c) (h2 : H'[a]? = some c') (hz : c'.slots.size = c.slots.size) (ho : ∀ q, q ≠ a → H'[q]? = H[q]?) : hsum H' = hsum H := by
  refine hsum_ext hs fun q d hd => ?_
  by_cases e : q = a
  · subst e
    rw [h1] at hd
    cases hd
    exact ⟨c', h2, hz⟩
  · exact ⟨d, by rw [ho q e]; exact hd, rfl⟩
theorem push_of {H H' : Heap} {c : Cell} (hs : H'.size = H.size + 1) (h1 : H'[H.size]? = some c) (ho : ∀ q, q < H.size → H'[q]? = H[q]?) : H' = H.push c := by
  apply Array.ext_getElem?
  intro i
  rw [Array.getElem?_push]
  by_cases e : i = H.size
  · rw [if_pos e, e]; exact h1
  · rw [if_neg e]
    by_cases hi : i < H.size
    · exact ho i hi
    · rw [Array.getElem?_eq_none (by omega), Array.getElem?_eq_none (by omega)]
theorem hsum_push {H H' : Heap} {c : Cell} (hs : H'.size = H.size + 1) (h1 : H'[H.size]? = some c) (ho : ∀ q, q < H.size → H'[q]? = H[q]?) : hsum H' = hsum H + c.slots.size := by
  rw [push_of hs h1 ho]
  simp [hsum]
theorem hsum_cut (H : Heap) (n : Nat) : hsum H = ((H.toList.take n).map (fun c => c.slots.size)).sum + ((H.toList.drop n).map (fun c => c.slots.size)).sum := by
  unfold hsum
  rw [← List.sum_append, ← List.map_append, List.take_append_drop]
section Tight
variable {p : Program} {l : Launch} {e : Env} {R : Room} {s : State} {m : MethodId} {args : Array Value} {below : List Frame} {meth : Method} {c : Code} {T : State} {locs : List Loc} {k n : Nat}
theorem stand_old (X : Stand p l e R s m args below meth c T locs k n) : ((T.heap.toList.take s.heap.size).map (fun c => c.slots.size)).sum = hsum s.heap := by
  obtain ⟨-, h2, -, -, -, h6⟩ := X.same
  have h2 : s.heap.size ≤ T.heap.size := h2
  unfold hsum
  congr 1
  apply List.ext_getElem?
  intro i
  rw [List.getElem?_map, List.getElem?_map, List.getElem?_take]
  by_cases hi : i < s.heap.size
  · rw [if_pos hi, Array.getElem?_toList, Array.getElem?_toList]
    obtain ⟨c', h1, -, h3, -⟩ := h6 i _ (Array.getElem?_eq_getElem hi)
    have h1 : T.heap[i]? = some c' := h1
    rw [h1, Array.getElem?_eq_getElem hi]
    simp [h3]
  · rw [if_neg hi, Array.getElem?_toList, Array.getElem?_eq_none (by omega)]
theorem stand_tight (X : Stand p l e R s m args below meth c T locs k n) : ∃ k' n' : Nat, T.heap.size = s.heap.size + k' ∧ hsum T.heap = hsum s.heap + n' ∧ k' ≤ k ∧ n' ≤ n ∧ Stand p l e R s m args below meth c T locs k' n' := by
  obtain ⟨h1, h2, h3, h4, h5, h6⟩ := id X.same
  have h3' : T.heap.size ≤ s.heap.size + k := h3
  have h2' : s.heap.size ≤ T.heap.size := h2
  have hc := hsum_cut T.heap s.heap.size
  rw [stand_old X] at hc
  refine ⟨T.heap.size - s.heap.size, _, by omega, hc, by omega, h5, { X with same := ⟨h1, h2, ?_, h4, Nat.le_refl _, h6⟩ }⟩
  show T.heap.size ≤ _
  omega
end Tight
