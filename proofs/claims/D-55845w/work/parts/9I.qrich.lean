/-! asking: richest -/
set_option maxRecDepth 100000
def fRich (m : Nat → Int32) (nv a j : Nat) : Int32 :=
  if m (30 + 4 * j) - m (30 + 4 * a) = 0 then
    (if sumI (fOwe m (Int32.ofNat a)) nv 0 - sumI (fOwe m (Int32.ofNat j)) nv 0 = 0 then (if a ≤ j then 0 else 1)
    else if sumI (fOwe m (Int32.ofNat a)) nv 0 - sumI (fOwe m (Int32.ofNat j)) nv 0 ≤ 0 then 0 else 1)
  else if m (30 + 4 * j) - m (30 + 4 * a) ≤ 0 then 0 else 1
section qa
variable {Z : aZ} {h h' H : aH} {Rt : Nat → Prop} {q : Nat → Nat} {B B' : Nat} {s s' : tS} {C C' : Nat}
theorem co_isR {ng nv a j u : Nat} (k0 : hOk Z h) (c : cst Z Rt q B h s) (w : wfn B ng nv (s.2 0)) (ha : a < ng) (hj : j < ng) (kX : hOk Z H) (fX : Fr non h H u) (r : Rm Z H 2) : ∃ X, t_X1_isRicher Z H (q 0) (Int32.ofNat j) (Int32.ofNat a) = some (fRich (s.2 0) nv a j, X) ∧ hOk Z X ∧ Fr non H X 2 := by
  have hng := w.2.2.1
  obtain ⟨C1, e1, g11, g21, g31, g41⟩ := c.core k0 fX
  obtain ⟨G, mG, eG, ng', gs, w1, w2, w3, w4, w5⟩ := crd_gs g21
  have hnn : ng' = ng := (iEq (by omega) (by omega)).mp (w4.symm.trans w.1)
  subst hnn
  obtain ⟨H1, o1, k1, f1⟩ := co_owed (g := Int32.ofNat a) kX (r.less (by omega)) g21 w.2.1 w.2.2.2.1
  have f01 : Fr non h H1 (u + 1) := fX.tr f1 (fun _ _ z => z)
  obtain ⟨C2, e2, g12, g22, g32, g42⟩ := c.core k0 f01
  obtain ⟨H2, o2, k2, f2⟩ := co_owed (g := Int32.ofNat j) k1 (Rm.after (u := 1) (v := 1) r f1) g22 w.2.1 w.2.2.2.1
  refine ⟨H2, ?_, k2, f1.tr f2 (fun _ _ z => z)⟩
  unfold t_X1_isRicher t_X4_coins_3
  rw [g11, Option.bind_some, w1, Option.bind_some, if_pos w2.isC, w2.get hj, Option.bind_some]
  dsimp only
  rw [if_pos (isC_of (w5 j hj)), if_pos (isC_of (w5 j hj)), gI_of (k := 0) (w5 j hj) rfl, Option.bind_some, Option.bind_some]
  dsimp only
  rw [g11, Option.bind_some, w1, Option.bind_some, if_pos w2.isC, w2.get ha, Option.bind_some]
  dsimp only
  rw [if_pos (isC_of (w5 a ha)), if_pos (isC_of (w5 a ha)), gI_of (k := 0) (w5 a ha) rfl, Option.bind_some, Option.bind_some]
  dsimp only
  rw [g11, Option.bind_some, if_pos g31, o1, Option.bind_some]
  dsimp only
  rw [g12, Option.bind_some, if_pos g32, o2, Option.bind_some]
  dsimp only
  unfold fRich
  by_cases z1 : s.2 0 (30 + 4 * j) - s.2 0 (30 + 4 * a) = 0
  · rw [if_pos z1, if_pos z1]
    by_cases z2 : sumI (fOwe (s.2 0) (Int32.ofNat a)) nv 0 - sumI (fOwe (s.2 0) (Int32.ofNat j)) nv 0 = 0
    · rw [if_pos z2, if_pos z2]
      by_cases z3 : a ≤ j
      · rw [if_pos ((iLe (by omega) (by omega)).mpr z3), if_pos z3]
      · rw [if_neg (fun y => z3 ((iLe (by omega) (by omega)).mp y)), if_neg z3]
    · rw [if_neg z2, if_neg z2]
      split <;> rfl
  · rw [if_neg z1, if_neg z1]
    split <;> rfl
end qa
