/-! append -/
set_option maxRecDepth 100000
theorem nar_c (z : Int32) : vp_nar .char ((z.toUInt32 % 65536).toInt32) = (z.toUInt32 % 65536).toInt32 := by
  show ((z.toUInt32 % 65536).toInt32).toUInt32.toUInt16.toUInt32.toInt32 = _
  have h1 : ((z.toUInt32 % 65536).toInt32).toUInt32 = z.toUInt32 % 65536 := rfl
  rw [h1]
  congr 1
  apply UInt32.toNat_inj.mp
  rw [UInt16.toNat_toUInt32, UInt32.toNat_toUInt16, UInt32.toNat_mod]
  have : (65536 : UInt32).toNat = 65536 := rfl
  rw [this]
  omega
section qa
variable {Z : aZ} {h h' H : aH} {Rt : Nat → Prop} {q : Nat → Nat} {B B' : Nat} {s s' : tS} {C C' : Nat}
theorem stC_of {a n i : Nat} {f : Nat → Int32} {x : Int32} (e : h.1 a = some (.inl (zC Z, n, .inl f))) (hi : i < n) (hs : i < 2147483648) (hz : z0 Z ≤ a) : stC Z h a (Int32.ofNat i) x = some (hset h a (.inl (zC Z, n, .inl (va_up f i (vp_nar .char x))))) := by
  unfold stC
  rw [e]
  dsimp only
  rw [if_pos ⟨rfl, inb_of hi hs, hz⟩, iNat hs]
theorem ldC_of {a n i : Nat} {f : Nat → Int32} (e : h.1 a = some (.inl (zC Z, n, .inl f))) (hi : i < n) (hs : i < 2147483648) : ldC Z h a (Int32.ofNat i) = some (f i) := by
  unfold ldC
  rw [e]
  dsimp only
  rw [if_pos ⟨rfl, inb_of hi hs⟩, iNat hs]
theorem co_append {x : Int32} (k : hOk Z h) (r : Rm Z h 2) (c : cst Z Rt q B h s) (hx9 : vp_nar .char x = x) : x1Ok Z Rt q B 2 h (t_X1_append Z h (q 0) x) (t_X3_append s x) (cd1 "java/lang/IllegalStateException") := by
  have c0 := c
  obtain ⟨C, sv, lt, mB, e, n, ps, c⟩ := c
  obtain ⟨ql1, ql2, ql3⟩ := c.qlt k
  obtain ⟨ap1, ap2⟩ := c.apart k
  obtain ⟨c1, c2, c3, c4, c5, c6, c7, ⟨tf, l, c8, c8', c8l, c8e⟩, ⟨mb, N, wf, ⟨c9, c10⟩, c10'⟩, c11, c12⟩ := id c
  generalize hx : t_X1_append Z h (q 0) x = y
  unfold t_X1_append t_X1_append_l14 at hx
  rw [gI_of (k := 5) c1 rfl, Option.bind_some, c8e] at hx
  unfold t_X3_append tpf
  rw [Option.bind_some]
  by_cases z : l = 60
  · subst z
    rw [if_pos (by decide), state_no k (r.less (by omega)), Option.bind_some] at hx
    refine x1_no (v := -1) (c9 := 1) c0 k k.new ((Fr.new (by omega)).up (by omega)) hx.symm ?_ (by decide) (by decide)
    rw [if_pos (show (va_up s.1 12 0) 11 = 60 by rw [vu_ne (by omega), c8e]; rfl)]
    show some (-1, sT (sT s 0) 1) = _
    rw [sT_sT]
  · rw [if_neg (show ¬ (60 : Int32) ≤ Int32.ofNat l from fun y => by have := (iLe (a := 60) (by omega) (by omega)).mp y; omega), show t_X1_requireState Z h 1 = some (.inl (), h) from rfl, Option.bind_some] at hx
    dsimp only at hx
    have e11 : (va_up s.1 12 0) 11 = Int32.ofNat l := by rw [vu_ne (by omega), c8e]
    rw [if_neg (show ¬ (va_up s.1 12 0) 11 = 60 by rw [e11]; exact fun y => z ((iEq (b := 60) (by omega) (by omega)).mp y))]
    dsimp only
    rw [e11, tst_of (n := 60) rfl (by omega) (by omega), Option.bind_some]
    rw [gA_of (k := 4) c1 rfl, Option.bind_some, gI_of (k := 5) c1 rfl, Option.bind_some, c8e, stC_of c8 (by omega) (by omega) (c12 2 (by omega)), Option.bind_some, hx9] at hx
    have n02 : q 0 ≠ q 2 := ap1 0 2 (by omega) (by omega) (by omega)
    have c1' : (hset h (q 2) (.inl (zC Z, 60, .inl (va_up tf l x)))).1 (q 0) = some (cEnt C q sv lt (s.1 11) (s.1 9)) := by rw [hset_ne n02]; exact c1
    rw [gI_of (k := 5) c1' rfl, Option.bind_some, pF_of c1' (Nat.le_of_ble_eq_true rfl) (c12 0 (by omega)), Option.bind_some, gI_of (k := 5) hset_at rfl, Option.bind_some] at hx
    sorry
end qa
