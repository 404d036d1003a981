/-! a change on both sides -/
set_option maxRecDepth 100000
section tw
variable {s : tS}
theorem i86 : (86 : Int32) = Int32.ofNat 86 := rfl
theorem tw_starts : Ok (t_X3_starts s) (fun r => (∀ k, k ≠ 12 → r.2.1 k = s.1 k) ∧ r.2.1 12 = 0 ∧ (∀ k, k ≠ 1 → r.2.2 k = s.2 k) ∧ ∀ i, i < 86 → r.2.2 1 i = s.2 0 i) := by
  unfold t_X3_starts tpf
  rw [Option.bind_some]
  refine wlo_for 86 (fun i st => ∃ s', st = (Int32.ofNat i, s') ∧ s'.1 = va_up s.1 12 0 ∧ (∀ k, k ≠ 1 → s'.2 k = s.2 k) ∧ ∀ j, j < i → s'.2 1 j = s.2 0 j) _ ?_ ?_ (i := 0) ⟨_, rfl, rfl, fun _ _ => rfl, fun j hj => by omega⟩ (by omega) (by omega)
  · rintro i st hi ⟨s', rfl, e1, e2, e3⟩
    refine Or.inl ?_
    unfold t_X3_starts_b7
    dsimp only
    rw [if_neg (fun q => by have := (iLe (a := 86) (by omega) (by omega)).mp q; omega), tld_of (n := 86) rfl hi (by omega), Option.bind_some, tst_of (n := 86) rfl hi (by omega), Option.bind_some, iAdd1]
    refine ⟨_, rfl, _, rfl, e1, fun k hk => ?_, fun j hj => ?_⟩
    · dsimp only; rw [vu_ne hk]; exact e2 k hk
    · dsimp only; rw [vu_eq]
      by_cases q : j = i
      · subst q; rw [vu_eq, e2 0 (by omega)]
      · rw [vu_ne q]; exact e3 j (by omega)
  · rintro st ⟨s', rfl, e1, e2, e3⟩
    refine ⟨_, rfl, fun k hk => ?_, ?_, e2, e3⟩
    · rw [e1, vu_ne hk]
    · rw [e1, vu_eq]
theorem tw_chg58 {n : Nat} {v : Int32} (h5 : s.1 5 = Int32.ofNat n) (hn : n < 8) : Ok (t_X3_changed_l58 s v) (fun r => r.1 = v ∧ (∀ k, k ≠ 5 → r.2.1 k = s.1 k) ∧ r.2.1 5 = Int32.ofNat (n + 1) ∧ (∀ k, k ≠ 4 → r.2.2 k = s.2 k) ∧ (∀ x, x < 86 * n → r.2.2 4 x = s.2 4 x) ∧ ∀ i, i < 86 → r.2.2 4 (86 * n + i) = s.2 1 i) := by
  unfold t_X3_changed_l58
  refine wlo_for 86 (fun i st => ∃ s', st = (v, Int32.ofNat i, s') ∧ s'.1 = s.1 ∧ (∀ k, k ≠ 4 → s'.2 k = s.2 k) ∧ (∀ x, x < 86 * n → s'.2 4 x = s.2 4 x) ∧ ∀ j, j < i → s'.2 4 (86 * n + j) = s.2 1 j) _ ?_ ?_ (i := 0) ⟨_, rfl, rfl, fun _ _ => rfl, fun _ _ => rfl, fun j hj => by omega⟩ (by omega) (by omega)
  · rintro i st hi ⟨s', rfl, e1, e2, e3, e4⟩
    refine Or.inl ?_
    unfold t_X3_changed_b60
    dsimp only
    rw [if_neg (fun q => by have := (iLe (a := 86) (by omega) (by omega)).mp q; omega), tld_of (n := 86) rfl hi (by omega), Option.bind_some, e1, h5, i86, iMul, iAdd, tst_of (n := 688) rfl (by omega) (by omega), Option.bind_some, iAdd1]
    refine ⟨_, rfl, _, rfl, e1, fun k hk => ?_, fun x hx => ?_, fun j hj => ?_⟩
    · dsimp only; rw [vu_ne hk]; exact e2 k hk
    · dsimp only; rw [vu_eq, vu_ne (by omega)]; exact e3 x hx
    · dsimp only; rw [vu_eq]
      by_cases q : j = i
      · subst q; rw [vu_eq, e2 1 (by omega)]
      · rw [vu_ne (by omega)]; exact e4 j (by omega)
  · rintro st ⟨s', rfl, e1, e2, e3, e4⟩
    unfold t_X3_changed_b60
    dsimp only
    rw [if_pos (by decide)]
    unfold t_X3_changed_l92 tpf
    refine ⟨_, rfl, rfl, fun k hk => ?_, ?_, e2, e3, e4⟩
    · show va_up s'.1 5 (s'.1 5 + 1) k = s.1 k
      rw [vu_ne hk, e1]
    · show va_up s'.1 5 (s'.1 5 + 1) 5 = _
      rw [vu_eq, e1, h5, iAdd1]
theorem tw_changed {n : Nat} {v : Int32} (h12 : s.1 12 = 0) (h5 : s.1 5 = Int32.ofNat n) (hn : n ≤ 8) : Ok (t_X3_changed s v) (fun r => r.1 = v ∧ (∀ k, k ≠ 5 → r.2.1 k = s.1 k) ∧ (∀ k, k ≠ 4 → r.2.2 k = s.2 k) ∧ (n = 8 → r.2.1 5 = 8 ∧ (∀ j i, j < 7 → i < 86 → r.2.2 4 (86 * j + i) = s.2 4 (86 * (j + 1) + i)) ∧ ∀ i, i < 86 → r.2.2 4 (86 * 7 + i) = s.2 1 i) ∧ (n < 8 → r.2.1 5 = Int32.ofNat (n + 1) ∧ (∀ j i, j < n → i < 86 → r.2.2 4 (86 * j + i) = s.2 4 (86 * j + i)) ∧ ∀ i, i < 86 → r.2.2 4 (86 * n + i) = s.2 1 i)) := by
  unfold t_X3_changed
  rw [if_pos (by rw [h12]; decide)]
  by_cases h8 : n = 8
  · subst h8
    rw [if_pos (by rw [h5]; rfl)]
    refine wlo_for 602 (fun i st => ∃ s', st = (v, Int32.ofNat i, s') ∧ s'.1 = s.1 ∧ (∀ k, k ≠ 4 → s'.2 k = s.2 k) ∧ ∀ x, s'.2 4 x = if x < i then s.2 4 (x + 86) else s.2 4 x) _ ?_ ?_ (i := 0) ⟨_, rfl, rfl, fun _ _ => rfl, fun x => by rw [if_neg (by omega)]⟩ (by omega) (by omega)
    · rintro i st hi ⟨s', rfl, e1, e2, e3⟩
      refine Or.inl ?_
      unfold t_X3_changed_b20
      dsimp only
      rw [if_neg (fun q => by have := (iLe (a := 602) (by omega) (by omega)).mp q; omega), i86, iAdd, tld_of (n := 688) rfl (by omega) (by omega), Option.bind_some, tst_of (n := 688) rfl (by omega) (by omega), Option.bind_some, iAdd1]
      refine ⟨_, rfl, _, rfl, e1, fun k hk => ?_, fun x => ?_⟩
      · dsimp only; rw [vu_ne hk]; exact e2 k hk
      · dsimp only; rw [vu_eq]
        by_cases q : x = i
        · subst q; rw [vu_eq, e3, if_neg (by omega), if_pos (by omega)]
        · rw [vu_ne q, e3]
          by_cases q1 : x < i
          · rw [if_pos q1, if_pos (by omega)]
          · rw [if_neg q1, if_neg (by omega)]
    · rintro st ⟨s', rfl, e1, e2, e3⟩
      unfold t_X3_changed_b20
      dsimp only
      rw [if_pos (by decide)]
      unfold t_X3_changed_l48 tpf
      rw [Option.bind_some]
      have e7 : s'.1 5 - 1 = Int32.ofNat 7 := by rw [e1, h5]; rfl
      obtain ⟨r, er, p1, p2, p3, p4, p5, p6⟩ := tw_chg58 (s := (va_up s'.1 5 (s'.1 5 - 1), s'.2)) (n := 7) (v := v) (by show va_up s'.1 5 (s'.1 5 - 1) 5 = _; rw [vu_eq, e7]) (by omega)
      refine ⟨r, by rw [er]; rfl, p1, fun k hk => ?_, fun k hk => ?_, fun _ => ⟨p3, fun j i hj hi => ?_, fun i hi => ?_⟩, fun z => by omega⟩
      · rw [p2 k hk]
        show va_up s'.1 5 (s'.1 5 - 1) k = _
        rw [vu_ne hk, e1]
      · rw [p4 k hk]; exact e2 k hk
      · rw [p5 _ (by omega)]
        show s'.2 4 _ = _
        rw [e3, if_pos (by omega), show 86 * j + i + 86 = 86 * (j + 1) + i by omega]
      · rw [p6 i hi]
        show s'.2 1 i = _
        rw [e2 1 (by omega)]
  · rw [if_neg (by rw [h5]; exact fun z => h8 ((iEq (b := 8) (by omega) (by omega)).mp z))]
    refine (tw_chg58 (v := v) h5 (by omega)).imp ?_
    rintro r ⟨p1, p2, p3, p4, p5, p6⟩
    exact ⟨p1, p2, p4, fun z => absurd z h8, fun z => ⟨p3, fun j i hj hi => p5 _ (by omega), p6⟩⟩
def tw_op (s : tS) (f : tS → Option (Int32 × tS)) : Option (Int32 × tS) :=
  (t_X3_starts s).bind fun r3 =>
  (f r3.2).bind fun r7 =>
  (t_X3_changed r7.2 r7.1).bind fun r11 =>
  some (r11.1, r11.2)
/-- after a refusal -/
def vRef (s s' : tS) (a b c : Int32) : Prop := (∀ k, k ∈ [3, 5, 9, 11, 20] → s'.1 k = s.1 k) ∧ s'.1 6 = a ∧ s'.1 7 = b ∧ s'.1 8 = c ∧ s'.2 2 = s.2 2 ∧ s'.2 4 = s.2 4 ∧ s'.2 10 = s.2 10 ∧ s'.2 19 = s.2 19 ∧ ∀ i, i < 86 → s'.2 0 i = s.2 0 i
theorem tw_wrap {f : tS → Option (Int32 × tS)} {sp : spR} {n : Nat} (h5 : s.1 5 = Int32.ofNat n) (hn : n ≤ 8) (hf : ∀ s1 : tS, s1.2 0 = s.2 0 → ∃ W, f s1 = some (twR (sW s1 W) (s.2 0) sp)) :
    Ok (tw_op s f) (fun r => match sp with
      | .inl (v, m') => r.1 = v ∧ r.2.1 12 = 0 ∧ chg s r.2 m'
      | .inr (a, b) => r.2.1 12 = 1 ∧ vRef s r.2 a b 0) := by
  unfold tw_op
  refine Ok.call tw_starts ?_
  rintro ⟨u, s1⟩ ⟨p1, p2, p3, p4⟩
  obtain ⟨W, eW⟩ := hf s1 (p3 0 (by omega))
  rw [eW, Option.bind_some]
  match sp with
  | .inl (v, m') =>
    unfold twR
    dsimp only
    have g5 : (sM (sW s1 W) m').1 5 = Int32.ofNat n := (p1 5 (by omega)).trans h5
    refine Ok.call (tw_changed (v := v) (s := sM (sW s1 W) m') p2 g5 hn) ?_
    rintro ⟨v', s2⟩ ⟨q1, q2, q3, q4, q5⟩
    have hs : ∀ k, k ≠ 0 → k ≠ 13 → (sM (sW s1 W) m').2 k = s1.2 k := fun k z1 z2 => by show va_up (va_up s1.2 13 W) 0 m' k = _; rw [vu_ne z1, vu_ne z2]
    have h4 : (sM (sW s1 W) m').2 4 = s.2 4 := by rw [hs 4 (by omega) (by omega)]; exact p3 4 (by omega)
    have hk : ∀ k, k ≠ 5 → k ≠ 12 → s2.1 k = s.1 k := fun k z1 z2 => (q2 k z1).trans (p1 k z2)
    have ha : ∀ k, k ≠ 0 → k ≠ 13 → k ≠ 4 → k ≠ 1 → s2.2 k = s.2 k := fun k z1 z2 z3 z4 => (q3 k z3).trans ((hs k z1 z2).trans (p3 k z4))
    refine Ok.ret ⟨q1, (q2 12 (by omega)).trans p2, fun k hk9 => ?_, ha 2 (by omega) (by omega) (by omega) (by omega), ha 10 (by omega) (by omega) (by omega) (by omega), ha 19 (by omega) (by omega) (by omega) (by omega), fun i hi => ?_, fun n' z1 z2 => ?_⟩
    · simp only [List.mem_cons, List.not_mem_nil, or_false] at hk9
      exact hk k (by omega) (by omega)
    · show s2.2 0 i = _
      rw [q3 0 (by omega)]
      show va_up (va_up s1.2 13 W) 0 m' 0 i = _
      rw [vu_eq]
    · have en : n' = n := (iEq (by omega) (by omega)).mp (z1.symm.trans h5)
      subst en
      refine ⟨fun z => ?_, fun z => ?_⟩
      · obtain ⟨t1, t2, t3⟩ := q4 z
        exact ⟨t1, fun j i hj hi => by show s2.2 4 _ = _; rw [t2 j i hj hi, h4], fun i hi => by show s2.2 4 _ = _; rw [t3 i hi, hs 1 (by omega) (by omega)]; exact p4 i hi⟩
      · obtain ⟨t1, t2, t3⟩ := q5 z
        exact ⟨t1, fun j i hj hi => by show s2.2 4 _ = _; rw [t2 j i hj hi, h4], fun i hi => by show s2.2 4 _ = _; rw [t3 i hi, hs 1 (by omega) (by omega)]; exact p4 i hi⟩
  | .inr (a, b) =>
    unfold twR
    dsimp only
    have h1 : (sRef (sM (sW s1 W) (s.2 0)) a b).1 12 = 1 := by unfold sRef; dsimp only; exact vu_eq
    unfold t_X3_changed
    rw [if_neg (by rw [h1]; decide), Option.bind_some]
    have hs : ∀ k, k ≠ 0 → k ≠ 13 → (sRef (sM (sW s1 W) (s.2 0)) a b).2 k = s1.2 k := fun k z1 z2 => by show va_up (va_up s1.2 13 W) 0 (s.2 0) k = _; rw [vu_ne z1, vu_ne z2]
    refine Ok.ret ⟨h1, fun k hk => ?_, ?_, ?_, ?_, ?_, ?_, ?_, ?_, fun i hi => ?_⟩
    · simp only [List.mem_cons, List.not_mem_nil, or_false] at hk
      show va_up (va_up (va_up (va_up s1.1 6 a) 7 b) 8 0) 12 1 k = _
      rw [vu_ne (by omega), vu_ne (by omega), vu_ne (by omega), vu_ne (by omega)]
      exact p1 k (by omega)
    · show va_up (va_up (va_up (va_up s1.1 6 a) 7 b) 8 0) 12 1 6 = _
      simp (disch := omega) only [vu_ne, vu_eq]
    · show va_up (va_up (va_up (va_up s1.1 6 a) 7 b) 8 0) 12 1 7 = _
      simp (disch := omega) only [vu_ne, vu_eq]
    · show va_up (va_up (va_up (va_up s1.1 6 a) 7 b) 8 0) 12 1 8 = _
      simp (disch := omega) only [vu_ne, vu_eq]
    · exact (hs 2 (by omega) (by omega)).trans (p3 2 (by omega))
    · exact (hs 4 (by omega) (by omega)).trans (p3 4 (by omega))
    · exact (hs 10 (by omega) (by omega)).trans (p3 10 (by omega))
    · exact (hs 19 (by omega) (by omega)).trans (p3 19 (by omega))
    · show va_up (va_up s1.2 13 W) 0 (s.2 0) 0 i = _
      rw [vu_eq]
end tw
def w_op (Z : aZ) (h : aH) (o : Nat) (f : aH → Nat → Option ((Int32 ⊕ aXX) × aH)) : Option ((Int32 ⊕ aXX) × aH) :=
  (gA 0 0 h o).bind fun a2 =>
  if isC 1 h a2 = true then
  (t_X2_copy Z h a2).bind fun r6 =>
  if isC 1 r6.2 r6.1 = true then
  (f r6.2 r6.1).bind fun r11 =>
  (match r11 with
  | (.inl y13, h14) =>
    if isC 0 h14 o = true then
    (t_X1_come Z h14 o r6.1 y13).bind fun r18 =>
    some (.inl r18.1, r18.2)
    else none
  | (.inr y13, h14) =>
    if y13.1 = "MazeBonds$RefusedException" then
      if isC 0 h14 o = true then
      (t_X1_keep Z h14 o y13.2).bind fun r24 =>
      if isC 13 r24.2 r24.1 = true then
      some (.inr ("java/lang/UnsupportedOperationException", r24.1), r24.2)
      else none
      else none
    else
      none
  )
  else none
  else none
section co
variable {Z : aZ} {h h' : aH} {Rt : Nat → Prop} {q : Nat → Nat} {B B' : Nat} {s s' : tS} {C : Nat} {sv lt : Option Nat} {mB : Int32} {e n : Nat} {ps : Nat → Nat}
theorem wfm.six {m : Nat → Int32} (w : wfm B m) {j : Nat} (hj : j < 5) : m (46 + 8 * j + 6) = 0 ∨ m (46 + 8 * j + 6) = 1 := by
  obtain ⟨ng, nv, w1, w2, w3, w4, w5, w6, w7, w8, w9, w10⟩ := w
  by_cases z : j < nv
  · obtain ⟨c, hr, al, v1, v2, v3, v4, v5, v6, v7, v8⟩ := w8 j z
    rcases v8 with ⟨-, -, u⟩ | ⟨_, _, _, _, _, _, _, u, -⟩
    · exact Or.inl u
    · exact u
  · exact Or.inl (w10 j 6 (by omega) hj (by omega))
theorem crd.copy {R : Nat → Prop} {m : Nat → Int32} (k : hOk Z h) (r : Rm Z h 24) (c : crd Z h R B C m) : Ok (t_X2_copy Z h C) (cpPost Z h m 24) := by
  obtain ⟨w, lo, hi, d, hR⟩ := c
  exact co_copy k d (fun j hj => w.six hj) r
theorem coOk.up {lo o u u' : Nat} {sp : spR} {r : (Int32 ⊕ aXX) × aH} (c : coOk Z lo o h u sp r) (hu : u ≤ u') : coOk Z lo o h u' sp r := ⟨c.1, c.2.1.up hu, c.2.2⟩
/-- the exception kept -/
theorem co_keep {y : Nat} {a b c9 : Int32} (k : hOk Z h) (r : Rm Z h 1) (c : cstR Z Rt q B h s C sv lt mB e n ps) (hy : h.1 y = some (rfs a b c9)) (ha : a ≠ 0) (hR : ¬ Rt y) : Ok (t_X1_keep Z h (q 0) y) (fun r => hOk Z r.2 ∧ Fr (fun a => ¬ Rt a) h r.2 1 ∧ isC 13 r.2 r.1 = true ∧ ∀ s', vRef s s' a b c9 → cst Z Rt q B r.2 s') := by
  obtain ⟨ql1, ql2, ql3⟩ := c.qlt k
  obtain ⟨ap1, ap2⟩ := c.apart k
  obtain ⟨c1, c2, c3, c4, c5, c6, c7, ⟨tf, l, c8, c8'⟩, ⟨mb, N, wf, ⟨c9, c10⟩, c10'⟩, c11, c12⟩ := id c
  unfold t_X1_keep
  rw [pF_of c1 (Nat.le_of_ble_eq_true rfl) (c12 0 (by omega)), Option.bind_some]
  have f1 : Fr (fun x => x = q 0) h (hset h (q 0) (.inr (0, [Value.ref C, .ref (q 1), va_rf sv, va_rf lt, .ref (q 2), .int (s.1 11), .int (s.1 9), .ref (q 3)].set 3 (.ref y)))) 0 := Fr.set rfl
  have k1 := k.set (e := .inr (0, [Value.ref C, .ref (q 1), va_rf sv, va_rf lt, .ref (q 2), .int (s.1 11), .int (s.1 9), .ref (q 3)].set 3 (.ref y))) (c12 0 (by omega)) (ql1 0 (by omega)).1
  have a1 : (hset h (q 0) (.inr (0, [Value.ref C, .ref (q 1), va_rf sv, va_rf lt, .ref (q 2), .int (s.1 11), .int (s.1 9), .ref (q 3)].set 3 (.ref y)))).1 (q 0) = some (cEnt C q sv (some y) (s.1 11) (s.1 9)) := by rw [hset_at]; rfl
  generalize hset h (q 0) (.inr (0, [Value.ref C, .ref (q 1), va_rf sv, va_rf lt, .ref (q 2), .int (s.1 11), .int (s.1 9), .ref (q 3)].set 3 (.ref y))) = H at f1 k1 a1
  rw [nw_of (Rm.after (u := 0) (v := 1) r f1) (by omega), Option.bind_some]
  have f2 : Fr (fun x => x = q 0) h (hnew H (.inr (13, [])) 6) 1 := f1.tr (Fr.new (S := fun x => x = q 0) (by omega)) (fun _ _ z => z)
  refine Ok.ret ⟨k1.new, f2.mono (fun a _ z z9 => (ql1 0 (by omega)).2 (z ▸ z9)) (by omega), isC_of hnew_at, fun s' v => ?_⟩
  obtain ⟨v1, v2, v3, v4, v5, v6, v7, v8, v9⟩ := v
  have hlt : q 0 < H.2.1 := k1.2.1 _ _ a1
  have hto : ∀ {B9 C9 : Nat} {m9 : Nat → Int32}, crd Z h (av Rt q e) B9 C9 m9 → crd Z (hnew H (.inr (13, [])) 6) (av Rt q e) B9 C9 m9 := fun c9 => c9.fr f2 (fun a _ z => Or.inr (Or.inl z))
  have hk : ∀ i, i < 5 → i ≠ 0 → (hnew H (.inr (13, [])) 6).1 (q i) = h.1 (q i) := fun i hi z0 => f2.1 _ (ql1 i hi).1 (ap1 i 0 hi (by omega) z0)
  refine ⟨C, sv, some y, mB, e, n, ps, by rw [v1 11 (by decide), v1 9 (by decide), hnew_ne (by omega)]; exact a1, c2.keep (hk 1 (by omega) (by omega)) (fun z => f2.1 _ (ql2 z) (ap2 0 (by omega)).symm), ⟨c3.1, by rw [v1 5 (by decide)]; exact c3.2⟩, (hto c4).cong v9, fun j hj => by rw [v6]; exact hto (c5 j hj), ?_, Or.inr ⟨y, rfl, hR, by rw [v2]; exact ha, ?_⟩, ?_, ?_, fun a z => ⟨by have := (c11 a z).1; have := f2.2.1; show a < (hnew H (.inr (13, [])) 6).2.1; omega, (c11 a z).2⟩, c12⟩
  · unfold svOk
    rw [v1 3 (by decide), v5]
    rcases c6 with c6 | ⟨S, d1, d2, d3⟩
    · exact Or.inl c6
    · exact Or.inr ⟨S, d1, d2, hto d3⟩
  · rw [v2, v3, v4]
    show (hnew H (.inr (13, [])) 6).1 y = _
    rw [f2.1 y (k.2.1 _ _ hy) (ent_ne hy c1 (fun z => by cases z))]
    exact hy
  · exact ⟨tf, l, by rw [hk 2 (by omega) (by omega)]; exact c8, by rw [v7, v1 11 (by decide)]; exact c8'⟩
  · exact ⟨mb, N, wf, ⟨by rw [hk 3 (by omega) (by omega)]; exact c9, by rw [hk 4 (by omega) (by omega)]; exact c10⟩, by rw [v8, v1 20 (by decide)]; exact c10'⟩
theorem Fr.nRt {u : Nat} (f : Fr non h h' u) : Fr (fun a => ¬ Rt a) h h' u := f.mono (fun _ _ z => z.elim) (Nat.le_refl _)
theorem Fr.tr' {S : Nat → Prop} {h2 : aH} {u v : Nat} (f : Fr S h h' u) (g : Fr S h' h2 v) : Fr S h h2 (u + v) := f.tr g (fun _ _ z => z)
theorem co_wrap {f : aH → Nat → Option ((Int32 ⊕ aXX) × aH)} {sp : spR} (k : hOk Z h) (r : Rm Z h 32) (c : cst Z Rt q B h s) (hf : ∀ H c lo, hOk Z H → Rm Z H 6 → coreIn Z H lo H.2.1 c (s.2 0) → wfm B (s.2 0) → Ok (f H c) (coOk Z lo c H 6 sp)) (hw : ∀ H lo c, hOk Z H → Rm Z H 1 → coreIn Z H lo H.2.1 c (s.2 0) → wfm B (s.2 0) → spW (B + 10) sp) (hne : ∀ a b, sp = .inr (a, b) → a ≠ 0) :
    Ok (w_op Z h (q 0) f) (fun r => hOk Z r.2 ∧ Fr (fun a => ¬ Rt a) h r.2 32 ∧ match sp with
      | .inl (v, m') => r.1 = .inl v ∧ ∀ s', chg s s' m' → cst Z Rt q (B + 10) r.2 s'
      | .inr (a, b) => (∃ x, r.1 = .inr ("java/lang/UnsupportedOperationException", x)) ∧ ∀ s', vRef s s' a b 0 → cst Z Rt q (B + 10) r.2 s') := by
  obtain ⟨C, sv, lt, mB, e, n, ps, c⟩ := c
  unfold w_op
  rw [gA_of (k := 0) c.1 rfl, Option.bind_some, if_pos c.2.2.2.1.isC]
  refine Ok.call (c.2.2.2.1.copy k (r.less (by omega))) ?_
  rintro ⟨C1, h1⟩ ⟨e1, k1, f1, d1⟩
  dsimp only at e1 k1 f1 d1
  subst e1
  dsimp only
  have r1 : Rm Z h1 8 := Rm.after (u := 24) (v := 8) r f1
  have w1 := c.2.2.2.1.1
  rw [if_pos d1.isC]
  have hw' := hw h1 _ _ k1 (r1.less (by omega)) d1 w1
  refine Ok.call (hf h1 h.2.1 h.2.1 k1 (r1.less (by omega)) d1 w1) ?_
  rintro ⟨y, h2⟩ ⟨k2, f2, o2⟩
  dsimp only at k2 f2 o2
  have f12 : Fr non h h2 30 := f1.tr f2 (fun a z1 z2 => by have : h.2.1 ≤ a := z2; omega)
  have c2 : cstR Z Rt q B h2 s C sv lt mB e n ps := c.ext k (f12.mono (fun _ _ z => z.elim) (Nat.le_refl _))
  have r2 : Rm Z h2 2 := Rm.after (u := 30) (v := 2) r f12
  have hR : ∀ a, av Rt q e a → a < h.2.1 := by
    obtain ⟨ql1, ql2, ql3⟩ := c.qlt k
    intro a z
    rcases z with z | z
    · exact (c.2.2.2.2.2.2.2.2.2.1 a z).1
    · unfold wr at z
      rcases z with z | z | z | z | z | z
      · rw [z]; exact (ql1 0 (by omega)).1
      · rw [z]; exact (ql1 1 (by omega)).1
      · rw [z]; exact (ql1 2 (by omega)).1
      · rw [z]; exact (ql1 3 (by omega)).1
      · rw [z]; exact (ql1 4 (by omega)).1
      · by_cases z9 : z0 Z ≤ e
        · rw [z]; exact ql2 z9
        · have := k.1; omega
  match sp with
  | .inl (v, m') =>
    obtain ⟨o3, o4⟩ := o2
    subst o3
    dsimp only
    rw [if_pos (isC_of c2.1)]
    have cn : crd Z h2 (av Rt q e) (B + 10) h.2.1 m' := crd.of (hw' v m' rfl) o4 hR
    refine Ok.call (co_come (v := v) k2 (r2.less (by omega)) c2 (by omega) cn) ?_
    rintro ⟨v', h3⟩ ⟨p1, p2, p3, p4⟩
    dsimp only at p1 p2 p3 p4
    subst p1
    exact Ok.ret ⟨p2, (f12.nRt.tr' p3).up (by omega), rfl, p4⟩
  | .inr (a, b) =>
    obtain ⟨y1, o3, o4, o5⟩ := o2
    subst o3
    dsimp only
    rw [if_pos rfl, if_pos (isC_of c2.1)]
    refine Ok.call (co_keep k2 (r2.less (by omega)) c2 o5 (hne a b rfl) (fun z => ?_)) ?_
    · have h3 := hR y1 (Or.inl z)
      have h4 := f1.2.1
      omega
    · rintro ⟨x, h3⟩ ⟨p1, p2, p3, p4⟩
      dsimp only at p1 p2 p3 p4
      dsimp only
      rw [if_pos p3]
      exact Ok.ret ⟨p1, (f12.nRt.tr' p2).up (by omega), ⟨x, rfl⟩, fun s' v => (p4 s' v).mono (by omega)⟩
end co
