/-! the core copied -/
set_option maxRecDepth 100000
theorem x5_copy {Z : aZ} {h : aH} {a : Nat} {x0 x1 x2 x3 : Int32} (k : hOk Z h) (r : Rm Z h 1) (ha : h.1 a = some (.inr (3, [.int x0, .int x1, .int x2, .int x3]))) : t_X5_copy Z h a = some (h.2.1, hnew h (.inr (3, [.int x0, .int x1, .int x2, .int x3])) 4) := by
  have hl := k.2.1 a _ ha
  have hr : ∀ e, (hnew h e 4).1 a = some (.inr (3, [.int x0, .int x1, .int x2, .int x3])) := fun e => by rw [hnew_ne (by omega)]; exact ha
  unfold t_X5_copy t_X4_coins_3 t_X5_init t_X4_init_3
  rw [nw_of r (by omega), Option.bind_some, if_pos (isC_of (hr _)), gI_of (k := 0) (hr _) rfl, Option.bind_some, Option.bind_some]
  dsimp only
  rw [pF_new (Nat.le_of_ble_eq_true rfl) k.1, Option.bind_some, Option.bind_some, Option.bind_some]
  dsimp only
  rw [gI_of (k := 1) (hr _) rfl, Option.bind_some, pF_new (Nat.le_of_ble_eq_true rfl) k.1, Option.bind_some, gI_of (k := 2) (hr _) rfl, Option.bind_some, pF_new (Nat.le_of_ble_eq_true rfl) k.1, Option.bind_some, gI_of (k := 3) (hr _) rfl, Option.bind_some, pF_new (Nat.le_of_ble_eq_true rfl) k.1, Option.bind_some]
  rfl
theorem x6_copy {Z : aZ} {h : aH} {a : Nat} {x0 x1 x2 x3 x4 x5 x6 : Int32} (k : hOk Z h) (r : Rm Z h 1) (ha : h.1 a = some (.inr (4, [.int x0, .int x1, .int x2, .int x3, .int x4, .int x5, .int x6]))) (hv : x6 = 0 ∨ x6 = 1) : t_X6_copy Z h a = some (h.2.1, hnew h (.inr (4, [.int x0, .int x1, .int x2, .int x3, .int x4, .int x5, .int x6])) 7) := by
  have hl := k.2.1 a _ ha
  have hr : ∀ e, (hnew h e 7).1 a = some (.inr (4, [.int x0, .int x1, .int x2, .int x3, .int x4, .int x5, .int x6])) := fun e => by rw [hnew_ne (by omega)]; exact ha
  unfold t_X6_copy t_X4_coins_4 t_X6_init t_X4_init_4
  rw [nw_of r (by omega), Option.bind_some, if_pos (isC_of (hr _)), gI_of (k := 0) (hr _) rfl, Option.bind_some, Option.bind_some]
  dsimp only
  rw [gI_of (k := 1) (hr _) rfl, Option.bind_some, pF_new (Nat.le_of_ble_eq_true rfl) k.1, Option.bind_some, Option.bind_some]
  dsimp only
  rw [pF_new (Nat.le_of_ble_eq_true rfl) k.1, Option.bind_some, pF_new (Nat.le_of_ble_eq_true rfl) k.1, Option.bind_some, pF_new (Nat.le_of_ble_eq_true rfl) k.1, Option.bind_some, Option.bind_some]
  dsimp only
  rw [gI_of (k := 2) (hr _) rfl, Option.bind_some, pF_new (Nat.le_of_ble_eq_true rfl) k.1, Option.bind_some, gI_of (k := 3) (hr _) rfl, Option.bind_some, pF_new (Nat.le_of_ble_eq_true rfl) k.1, Option.bind_some, gI_of (k := 4) (hr _) rfl, Option.bind_some, pF_new (Nat.le_of_ble_eq_true rfl) k.1, Option.bind_some, gI_of (k := 5) (hr _) rfl, Option.bind_some, pF_new (Nat.le_of_ble_eq_true rfl) k.1, Option.bind_some, gI_of (k := 6) (hr _) rfl, Option.bind_some, if_pos hv, pF_new (Nat.le_of_ble_eq_true rfl) k.1, Option.bind_some]
  rfl
section cR
variable {Z : aZ} {h h' : aH} {lo hi hi' o : Nat} {m m' : Nat → Int32} {L G V eG eV : Nat} {gs vs : Nat → Nat} {ng nv : Nat} {mG mV : Int32}
/-- a cell that is none of the core's -/
theorem coreR.other (k9 : hOk Z h) (c : coreR Z h lo hi o m L G V eG eV gs vs ng nv mG mV) {x ci : Nat} {fs : List Value} {e' : va_E} (hx : h.1 x = some (.inr (ci, fs))) (hc : ci ≠ 1 ∧ ci ≠ 3 ∧ ci ≠ 4 ∧ ci ≠ 8) : coreR Z (hset h x e') lo hi o m L G V eG eV gs vs ng nv mG mV := by
  obtain ⟨c1, ⟨f', c2, c3⟩, c4, c5, c6, c7, c8, c9, c10, c11, i⟩ := c
  have hne : ∀ {cj : Nat} {gs9 : List Value} {y : Nat}, ci ≠ cj → h.1 y = some (.inr (cj, gs9)) → y ≠ x := fun hq hy => ent_ne hy hx (fun q => by injection q with q; injection q with q _; exact hq q.symm)
  refine ⟨by rw [hset_ne (hne hc.1 c1)]; exact c1, ⟨f', by rw [hset_ne (ent_ne c2 hx (fun q => by cases q))]; exact c2, c3⟩, c4, c5.keep (hset_ne (hne hc.2.2.2 c5.1)) (fun q => hset_ne (c5.row_ne k9 q hx (fun f9 q9 => by cases q9))), c6.keep (hset_ne (hne hc.2.2.2 c6.1)) (fun q => hset_ne (c6.row_ne k9 q hx (fun f9 q9 => by cases q9))), fun j hj => ?_, fun j hj => ?_, c9, c10, c11, i⟩
  · rw [hset_ne (hne hc.2.1 (c7 j hj).1)]; exact c7 j hj
  · rw [hset_ne (hne hc.2.2.1 (c8 j hj).1)]; exact c8 j hj
end cR
/-- the numbers of a core that is being copied: i gardeners, j visitors so far -/
def mAt (m : Nat → Int32) (i j : Nat) : Nat → Int32 := fun x => if x = 0 then Int32.ofNat i else if x = 1 then Int32.ofNat j else if x = 2 then -1 else if x < 6 then 0 else m x
theorem mAt_hi {m : Nat → Int32} {i j x : Nat} (hx : 6 ≤ x) : mAt m i j x = m x := by
  unfold mAt
  rw [if_neg (by omega), if_neg (by omega), if_neg (by omega), if_neg (by omega)]
theorem lst_init {Z : aZ} {h : aH} (k : hOk Z h) : t_J2_init Z (hnew h (.inr (8, [.int 0, .null, .int 0])) 3) h.2.1 = some ((), hnew h (.inr (8, [.int 0, .ref (znm Z 0), .int 0])) 3) := by
  unfold t_J2_init t_J1_init t_J0_init
  rw [Option.bind_some, pF_new (Nat.le_of_ble_eq_true rfl) k.1, Option.bind_some, Option.bind_some, pF_new (Nat.le_of_ble_eq_true rfl) k.1, Option.bind_some]
  rfl
theorem hnew_2 {h : aH} {e : va_E} {n : Nat} : (hnew h e n).2.2 = h.2.2 + n := rfl
/-- a core without anybody, over the leaves at x -/
theorem co_init2 {Z : aZ} {h : aH} {c x : Nat} {m f : Nat → Int32} (k : hOk Z h) (r : Rm Z h 2) (hz : z0 Z ≤ c) (hcx : c < x) (hc : h.1 c = some (.inr (1, [.null, .null, .null, .int 0, .int 0, .int 0, .int 0]))) (hx : h.1 x = some (.inl (zI Z, 24, .inl f))) (hf : ∀ j, j < 24 → f j = m (6 + j)) :
    Ok (t_X2_init_2 Z h c x) (fun r => hOk Z r.2 ∧ Fr (fun a => a = c) h r.2 2 ∧ coreR Z r.2 c r.2.2.1 c (mAt m 0 0) x h.2.1 (h.2.1 + 1) (znm Z 0) (znm Z 0) (fun _ => 0) (fun _ => 0) 0 0 0 0) := by
  have hcl := k.2.1 c _ hc
  have hxl := k.2.1 x _ hx
  have hzn := k.2.2.1
  unfold t_X2_init_2
  rw [nw_of (r.less (by omega)) (by omega), Option.bind_some, lst_init k, Option.bind_some]
  dsimp only
  generalize hh1 : hnew h (.inr (8, [.int 0, .ref (znm Z 0), .int 0])) 3 = h1
  have k1 : hOk Z h1 := by rw [← hh1]; exact k.new
  have n1 : h1.2.1 = h.2.1 + 1 ∧ h1.2.2 = h.2.2 + 3 := by rw [← hh1]; exact ⟨rfl, rfl⟩
  have o1 : ∀ a, a ≠ h.2.1 → h1.1 a = h.1 a := fun a ha => by rw [← hh1]; exact hnew_ne ha
  have a1 : h1.1 h.2.1 = some (.inr (8, [.int 0, .ref (znm Z 0), .int 0])) := by rw [← hh1]; exact hnew_at
  have c1 : h1.1 c = some (.inr (1, [.null, .null, .null, .int 0, .int 0, .int 0, .int 0])) := by rw [o1 c (by omega)]; exact hc
  rw [pF_of c1 (Nat.le_of_ble_eq_true rfl) hz, Option.bind_some]
  generalize hh2 : hset h1 c (.inr (1, [Value.null, .null, .null, .int 0, .int 0, .int 0, .int 0].set 1 (.ref h.2.1))) = h2
  have k2 : hOk Z h2 := by rw [← hh2]; exact k1.set hz (by omega)
  have n2 : h2.2 = h1.2 := by rw [← hh2]; rfl
  have o2 : ∀ a, a ≠ c → h2.1 a = h1.1 a := fun a ha => by rw [← hh2]; exact hset_ne ha
  have c2 : h2.1 c = some (.inr (1, [.null, .ref h.2.1, .null, .int 0, .int 0, .int 0, .int 0])) := by rw [← hh2]; exact hset_at
  have r2 : Rm Z h2 1 := by obtain ⟨r1, r2⟩ := r; exact ⟨by rw [n2, n1.1]; omega, by rw [n2, n1.2]; omega⟩
  rw [nw_of r2 (by omega), Option.bind_some, lst_init k2, Option.bind_some]
  dsimp only
  have e2 : h2.2.1 = h.2.1 + 1 := by rw [n2, n1.1]
  generalize hh3 : hnew h2 (.inr (8, [.int 0, .ref (znm Z 0), .int 0])) 3 = h3
  have k3 : hOk Z h3 := by rw [← hh3]; exact k2.new
  have n3 : h3.2.1 = h.2.1 + 2 ∧ h3.2.2 = h.2.2 + 6 := by rw [← hh3]; exact ⟨by rw [hnew_n, e2], by rw [hnew_2, n2, n1.2]⟩
  have o3 : ∀ a, a ≠ h.2.1 + 1 → h3.1 a = h2.1 a := fun a ha => by rw [← hh3]; exact hnew_ne (by rw [e2]; exact ha)
  have a3 : h3.1 (h.2.1 + 1) = some (.inr (8, [.int 0, .ref (znm Z 0), .int 0])) := by rw [← hh3, ← e2]; exact hnew_at
  have c3 : h3.1 c = some (.inr (1, [.null, .ref h.2.1, .null, .int 0, .int 0, .int 0, .int 0])) := by rw [o3 c (by omega)]; exact c2
  rw [pF_of c3 (Nat.le_of_ble_eq_true rfl) hz, Option.bind_some, pF_of hset_at (Nat.le_of_ble_eq_true rfl) hz, Option.bind_some, hset_hset, pF_of hset_at (Nat.le_of_ble_eq_true rfl) hz, Option.bind_some, hset_hset, e2]
  have hfin : ∀ a, a ≠ c → a ≠ h.2.1 → a ≠ h.2.1 + 1 → h3.1 a = h.1 a := fun a q1 q2 q3 => by rw [o3 a q3, o2 a q1, o1 a q2]
  refine Ok.ret ⟨k3.set hz (by omega), ⟨fun a ha hs => ?_, ?_, ?_, ?_⟩, hset_at, ⟨f, ?_, fun j hj => by rw [hf j hj, mAt_hi (by omega)]⟩, ⟨rfl, rfl, by omega, by omega⟩, ⟨?_, by have := k.1; omega, Or.inl ⟨rfl, rfl⟩⟩, ⟨?_, by have := k.1; omega, Or.inl ⟨rfl, rfl⟩⟩, fun j hj => by omega, fun j hj => by omega, fun i j hi => by omega, fun i j hi => by omega, ⟨by omega, fun q => by omega⟩, ⟨Nat.le_refl _, ?_⟩, ⟨by omega, ?_⟩, ⟨by omega, ?_⟩, ⟨by omega, ?_⟩, fun q => by omega, fun q => by omega, hz, Nat.le_refl _⟩
  · rw [hset_ne hs]; exact hfin a hs (by omega) (by omega)
  · show h.2.1 ≤ h3.2.1; omega
  · show h3.2.1 ≤ _; omega
  · show h3.2.2 ≤ _; omega
  · rw [hset_ne (by omega), hfin x (by omega) (by omega) (by omega)]; exact hx
  · rw [hset_ne (by omega), o3 _ (by omega), o2 _ (by omega)]; exact a1
  · rw [hset_ne (by omega)]; exact a3
  · show c < h3.2.1; omega
  · show x < h3.2.1; omega
  · show h.2.1 < h3.2.1; omega
  · show h.2.1 + 1 < h3.2.1; omega
