/-! append -/
set_option maxRecDepth 100000
theorem nar_c (z : Int32) : vp_nar .char ((z.toUInt32 % 65536).toInt32) = (z.toUInt32 % 65536).toInt32 := by
  show ((z.toUInt32 % 65536).toInt32).toUInt32.toUInt16.toUInt32.toInt32 = _
  have h1 : ((z.toUInt32 % 65536).toInt32).toUInt32 = z.toUInt32 % 65536 := rfl
  rw [h1]
  congr 1
  apply UInt32.toNat_inj.mp
  rw [UInt16.toNat_toUInt32, UInt32.toNat_toUInt16, UInt32.toNat_mod]
  have : (65536 : UInt32).toNat = 65536 := rfl
  rw [this]
  omega
section qa
variable {Z : aZ} {h h' H : aH} {Rt : Nat → Prop} {q : Nat → Nat} {B B' : Nat} {s s' : tS} {C C' : Nat}
theorem stC_of {a n i : Nat} {f : Nat → Int32} {x : Int32} (e : h.1 a = some (.inl (zC Z, n, .inl f))) (hi : i < n) (hs : i < 2147483648) (hz : z0 Z ≤ a) : stC Z h a (Int32.ofNat i) x = some (hset h a (.inl (zC Z, n, .inl (va_up f i (vp_nar .char x))))) := by
  unfold stC
  rw [e]
  dsimp only
  rw [if_pos ⟨rfl, inb_of hi hs, hz⟩, iNat hs]
theorem ldC_of {a n i : Nat} {f : Nat → Int32} (e : h.1 a = some (.inl (zC Z, n, .inl f))) (hi : i < n) (hs : i < 2147483648) : ldC Z h a (Int32.ofNat i) = some (f i) := by
  unfold ldC
  rw [e]
  dsimp only
  rw [if_pos ⟨rfl, inb_of hi hs⟩, iNat hs]
theorem co_append {x : Int32} (k : hOk Z h) (r : Rm Z h 2) (c : cst Z Rt q B h s) (hx9 : vp_nar .char x = x) : x1Ok Z Rt q B 2 h (t_X1_append Z h (q 0) x) (t_X3_append s x) (cd1 "java/lang/IllegalStateException") := by
  have c0 := c
  obtain ⟨C, sv, lt, mB, e, n, ps, c⟩ := c
  obtain ⟨ql1, ql2, ql3⟩ := c.qlt k
  obtain ⟨ap1, ap2⟩ := c.apart k
  obtain ⟨c1, c2, c3, c4, c5, c6, c7, ⟨tf, l, c8, c8', c8l, c8e⟩, ⟨mb, N, wf, ⟨c9, c10⟩, c10'⟩, c11, c12⟩ := id c
  generalize hx : t_X1_append Z h (q 0) x = y
  unfold t_X1_append t_X1_append_l14 at hx
  rw [gI_of (k := 5) c1 rfl, Option.bind_some, c8e] at hx
  unfold t_X3_append tpf
  rw [Option.bind_some]
  by_cases z : l = 60
  · subst z
    rw [if_pos (by decide), state_no k (r.less (by omega)), Option.bind_some] at hx
    refine x1_no (v := -1) (c9 := 1) c0 k k.new ((Fr.new (by omega)).up (by omega)) hx.symm ?_ (by decide) (by decide)
    rw [if_pos (show (va_up s.1 12 0) 11 = 60 by rw [vu_ne (by omega), c8e]; rfl)]
    show some (-1, sT (sT s 0) 1) = _
    rw [sT_sT]
  · rw [if_neg (show ¬ (60 : Int32) ≤ Int32.ofNat l from fun y => by have := (iLe (a := 60) (by omega) (by omega)).mp y; omega), show t_X1_requireState Z h 1 = some (.inl (), h) from rfl, Option.bind_some] at hx
    dsimp only at hx
    have e11 : (va_up s.1 12 0) 11 = Int32.ofNat l := by rw [vu_ne (by omega), c8e]
    rw [if_neg (show ¬ (va_up s.1 12 0) 11 = 60 by rw [e11]; exact fun y => z ((iEq (b := 60) (by omega) (by omega)).mp y))]
    dsimp only
    rw [e11, tst_of (n := 60) rfl (by omega) (by omega), Option.bind_some]
    rw [gA_of (k := 4) c1 rfl, Option.bind_some, gI_of (k := 5) c1 rfl, Option.bind_some, c8e, stC_of c8 (by omega) (by omega) (c12 2 (by omega)), Option.bind_some, hx9] at hx
    have n02 : q 0 ≠ q 2 := ap1 0 2 (by omega) (by omega) (by omega)
    have c1' : (hset h (q 2) (.inl (zC Z, 60, .inl (va_up tf l x)))).1 (q 0) = some (cEnt C q sv lt (s.1 11) (s.1 9)) := by rw [hset_ne n02]; exact c1
    rw [gI_of (k := 5) c1' rfl, Option.bind_some, pF_of c1' (Nat.le_of_ble_eq_true rfl) (c12 0 (by omega)), Option.bind_some, gI_of (k := 5) hset_at rfl, Option.bind_some] at hx
    have f3 : Fr (fun a => a = q 0 ∨ a = q 2) h (hset (hset h (q 2) (.inl (zC Z, 60, .inl (va_up tf l x)))) (q 0) (.inr (0, [Value.ref C, .ref (q 1), va_rf sv, va_rf lt, .ref (q 2), .int (s.1 11), .int (s.1 9), .ref (q 3)].set 5 (.int (s.1 11 + 1))))) 0 := (Fr.set (S := fun a => a = q 0 ∨ a = q 2) (Or.inr rfl)).tr (Fr.set (S := fun a => a = q 0 ∨ a = q 2) (Or.inl rfl)) (fun _ _ z => z)
    have k3 : hOk Z (hset (hset h (q 2) (.inl (zC Z, 60, .inl (va_up tf l x)))) (q 0) (.inr (0, [Value.ref C, .ref (q 1), va_rf sv, va_rf lt, .ref (q 2), .int (s.1 11), .int (s.1 9), .ref (q 3)].set 5 (.int (s.1 11 + 1))))) := (k.set (c12 2 (by omega)) (ql1 2 (by omega)).1).set (c12 0 (by omega)) (ql1 0 (by omega)).1
    have a3 : (hset (hset h (q 2) (.inl (zC Z, 60, .inl (va_up tf l x)))) (q 0) (.inr (0, [Value.ref C, .ref (q 1), va_rf sv, va_rf lt, .ref (q 2), .int (s.1 11), .int (s.1 9), .ref (q 3)].set 5 (.int (s.1 11 + 1))))).1 (q 0) = some (cEnt C q sv lt (s.1 11 + 1) (s.1 9)) := by rw [hset_at]; rfl
    have b3 : (hset (hset h (q 2) (.inl (zC Z, 60, .inl (va_up tf l x)))) (q 0) (.inr (0, [Value.ref C, .ref (q 1), va_rf sv, va_rf lt, .ref (q 2), .int (s.1 11), .int (s.1 9), .ref (q 3)].set 5 (.int (s.1 11 + 1))))).1 (q 2) = some (.inl (zC Z, 60, .inl (va_up tf l x))) := by rw [hset_ne n02.symm]; exact hset_at
    generalize hset (hset h (q 2) (.inl (zC Z, 60, .inl (va_up tf l x)))) (q 0) (.inr (0, [Value.ref C, .ref (q 1), va_rf sv, va_rf lt, .ref (q 2), .int (s.1 11), .int (s.1 9), .ref (q 3)].set 5 (.int (s.1 11 + 1)))) = X at hx f3 k3 a3 b3
    have hk : ∀ i, i < 5 → i ≠ 0 → i ≠ 2 → X.1 (q i) = h.1 (q i) := fun i hi z0 z2 => f3.1 _ (ql1 i hi).1 (by
      rintro (y | y)
      · exact ap1 i 0 hi (by omega) z0 y
      · exact ap1 i 2 hi (by omega) z2 y)
    have hto : ∀ {B9 C9 : Nat} {m9 : Nat → Int32}, crd Z h (av Rt q e) B9 C9 m9 → crd Z X (av Rt q e) B9 C9 m9 := fun c9 => c9.fr f3 (fun a _ z => Or.inr (by unfold wr; rcases z with z | z <;> simp [z]))
    refine ⟨_, _, _, hx.symm, rfl, k3, (f3.mono (fun a _ y y9 => ?_) (by omega)), ?_, Or.inl ⟨?_, ?_⟩⟩
    · rcases y with y | y
      · exact (ql1 0 (by omega)).2 (y ▸ y9)
      · exact (ql1 2 (by omega)).2 (y ▸ y9)
    · have v9 : va_up (va_up s.1 12 0) 11 ((va_up s.1 12 0) 11 + 1) 11 = s.1 11 + 1 := by rw [vu_eq, vu_ne (by omega)]
      refine ⟨C, sv, lt, mB, e, n, ps, ?_, c2.keep (hk 1 (by omega) (by omega) (by omega)) (fun y => f3.1 _ (ql2 y) (by rintro (u | u); exact ap2 0 (by omega) u.symm; exact ap2 2 (by omega) u.symm)), ⟨c3.1, ?_⟩, ?_, fun j hj => ?_, ?_, ?_, ⟨va_up tf l x, l + 1, b3, fun i hi => ?_, by omega, ?_⟩, ⟨mb, N, wf, ⟨by rw [hk 3 (by omega) (by omega) (by omega)]; exact c9, by rw [hk 4 (by omega) (by omega) (by omega)]; exact c10⟩, ?_⟩, fun a y => ⟨show a < X.2.1 by have := (c11 a y).1; have := f3.2.1; omega, (c11 a y).2⟩, c12⟩
      · dsimp only; rw [v9, vu_ne (by omega), vu_ne (by omega)]; exact a3
      · dsimp only; rw [vu_ne (by omega), vu_ne (by omega)]; exact c3.2
      · dsimp only; rw [vu_ne (by omega)]; exact hto c4
      · dsimp only; rw [vu_ne (by omega)]; exact hto (c5 j hj)
      · unfold svOk
        dsimp only
        rw [vu_ne (by omega), vu_ne (by omega), vu_ne (by omega)]
        rcases c6 with c6 | ⟨S, d1, d2, d3⟩
        · exact Or.inl c6
        · exact Or.inr ⟨S, d1, d2, hto d3⟩
      · unfold ltOk
        dsimp only
        simp (disch := omega) only [vu_ne]
        rcases c7 with c7 | ⟨a, d1, d2, d3, d4⟩
        · exact Or.inl c7
        · refine Or.inr ⟨a, d1, d2, d3, ?_⟩
          rw [f3.1 a (k.2.1 _ _ d4) ?_]
          · exact d4
          · rintro (u | u)
            · exact absurd u (ent_ne d4 c1 (fun z => by cases z))
            · exact absurd u (ent_ne d4 c8 (fun z => by cases z))
      · dsimp only
        rw [vu_eq]
        by_cases u : i = l
        · subst u; rw [vu_eq, vu_eq]
        · rw [vu_ne u, vu_ne u]; exact c8' i hi
      · dsimp only; rw [v9, c8e, iAdd1]
      · dsimp only; simp (disch := omega) only [vu_ne]; exact c10'
    · dsimp only; rw [vu_eq, vu_ne (by omega), c8e]
    · dsimp only; rw [vu_ne (by omega), vu_eq]
end qa
