/-! asking: account -/
set_option maxRecDepth 100000
section qa
variable {Z : aZ} {h h' H : aH} {Rt : Nat → Prop} {q : Nat → Nat} {B B' : Nat} {s s' : tS} {C C' : Nat}
theorem co_bonds (k : hOk Z h) (r : Rm Z h 6) (c : cst Z Rt q B h s) {ng nv : Nat} (w : wfn B ng nv (s.2 0)) : ∃ H, t_X1_bonds Z h (q 0) = some (sumI (fun j => if s.2 0 (46 + 8 * j + 4) = -1 then 0 else 1) nv 0, H) ∧ hOk Z H ∧ Fr non h H 6 := by
  have hng := w.2.2.1
  unfold t_X1_bonds
  rw [show (4 : Int32) = Int32.ofNat 4 from rfl, nwA_of (r.less (by omega)) (by omega), Option.bind_some]
  have z0 : ∀ g, ng ≤ g → g < 4 → sumI (fBond (s.2 0) (Int32.ofNat g)) nv 0 = 0 := by
    intro g hg hg4
    have key : ∀ n, n ≤ nv → sumI (fBond (s.2 0) (Int32.ofNat g)) n 0 = 0 := by
      intro n
      induction n with
      | zero => intro _; rfl
      | succ n ih =>
        intro hn
        rw [sumI_s, ih (by omega)]
        obtain ⟨cc, hr, al, v1, v2, v3, v4, v5, v6, v7, v8⟩ := w.2.2.2.2.2.2.2.1 n (by omega)
        unfold fBond
        rcases v8 with ⟨u, -⟩ | ⟨g', _, u1, _, _, u4, -⟩
        · rw [u, if_neg (fun y => iNeg (n := g) (by omega) y.symm)]; rfl
        · rw [u4, if_neg (fun y => by have := (iEq (by omega) (by omega)).mp y; omega)]; rfl
    exact key nv (Nat.le_refl _)
  obtain ⟨r9, e9, q1, q2, q3⟩ : Ok (wlo (t_X1_bonds_b6 Z) 100 (q 0, h.2.1, 0, hnew h (.inl (zI Z, 4, .inl fun _ => 0)) 4)) (fun r => r.1 = sumI (fun j => if s.2 0 (46 + 8 * j + 4) = -1 then 0 else 1) nv 0 ∧ hOk Z r.2 ∧ Fr non h r.2 6) := by
    refine wlo_for ng (fun i st => ∃ X f, st = (q 0, h.2.1, Int32.ofNat i, X) ∧ hOk Z X ∧ Fr non h X (1 + i) ∧ X.1 h.2.1 = some (.inl (zI Z, 4, .inl f)) ∧ ∀ g, g < 4 → f g = if g < i then sumI (fBond (s.2 0) (Int32.ofNat g)) nv 0 else 0) _ ?_ ?_ (i := 0) ⟨_, fun _ => 0, rfl, k.new, Fr.new (by omega), hnew_at, fun g _ => by rw [if_neg (by omega)]⟩ (by omega) (by omega)
    · rintro i st hi ⟨X, f, rfl, kX, fX, aX, hf⟩
      refine Or.inl ?_
      obtain ⟨C1, e1, g11, g21, g31, g41⟩ := c.core k fX
      obtain ⟨G, u1, u2, u3⟩ := crd_gsize g21
      have rX : Rm Z X 1 := (Rm.after (u := 1 + i) (v := 1) (r.less (by omega)) fX)
      obtain ⟨H, e3, k3, f3⟩ := co_bondsOf (g := Int32.ofNat i) kX rX g21 w.2.1 w.2.2.2.1
      unfold t_X1_bonds_b6
      dsimp only
      rw [g11, Option.bind_some, u1, Option.bind_some, if_pos u2, u3, Option.bind_some]
      dsimp only
      rw [w.1, if_neg (fun y => by have := (iLe (by omega) (by omega)).mp y; omega), g11, Option.bind_some, if_pos g31, e3, Option.bind_some]
      dsimp only
      have hA : h.2.1 < X.2.1 := kX.2.1 _ _ aX
      have aH : H.1 h.2.1 = some (.inl (zI Z, 4, .inl f)) := by rw [f3.1 _ hA (fun z => z)]; exact aX
      rw [stI_of aH (by omega) (by omega) k.1, Option.bind_some, iAdd1]
      have f0 : Fr non h H (1 + (i + 1)) := (fX.tr f3 (fun _ _ z => z)).up (by omega)
      refine ⟨_, rfl, _, _, rfl, k3.set k.1 (k3.2.1 _ _ aH), ⟨fun a ha hn => ?_, f0.2.1, f0.2.2.1, f0.2.2.2⟩, hset_at, fun g hg => ?_⟩
      · rw [hset_ne (by omega)]; exact f0.1 a ha hn
      · by_cases y : g = i
        · subst y; rw [vu_eq, if_pos (by omega)]
        · rw [vu_ne y, hf g hg]
          by_cases y1 : g < i
          · rw [if_pos y1, if_pos (by omega)]
          · rw [if_neg y1, if_neg (by omega)]
    · rintro st ⟨X, f, rfl, kX, fX, aX, hf⟩
      obtain ⟨C1, e1, g11, g21, g31, g41⟩ := c.core k fX
      obtain ⟨G, u1, u2, u3⟩ := crd_gsize g21
      unfold t_X1_bonds_b6
      dsimp only
      rw [g11, Option.bind_some, u1, Option.bind_some, if_pos u2, u3, Option.bind_some]
      dsimp only
      rw [w.1, if_pos (Int32.le_refl _)]
      have hs : t_X1_sum Z X h.2.1 = some (f 0 + f 1 + f 2 + f 3, X) := by
        unfold t_X1_sum
        rw [alen_I aX, Option.bind_some]
        have l : ∀ i, i < 4 → ldI Z X h.2.1 (Int32.ofNat i) = some (f i) := fun i hi => ldI_of aX hi (by omega)
        refine Ok.eq ?_
        refine Ok.imp (P := fun r => r = (sumI f 4 0, X)) ?_ (fun r y => by
          rw [y]
          show (0 + f 0 + f 1 + f 2 + f 3, X) = _
          rw [Int32.zero_add])
        refine wlo_for 4 (fun i st => st = (sumI f i 0, h.2.1, Int32.ofNat 4, Int32.ofNat i, X)) _ ?_ ?_ (i := 0) rfl (by omega) (by omega)
        · rintro i st hi rfl
          refine Or.inl ⟨_, ?_, rfl⟩
          unfold t_X1_sum_b10
          dsimp only
          rw [if_neg (fun y => by have := (iLe (by omega) (by omega)).mp y; omega), l i hi, Option.bind_some, iAdd1]
          rfl
        · rintro st rfl
          exact ⟨_, rfl, rfl⟩
      have hf' : ∀ g, g < 4 → f g = sumI (fBond (s.2 0) (Int32.ofNat g)) nv 0 := by
        intro g hg
        rw [hf g hg]
        by_cases y : g < ng
        · rw [if_pos y]
        · rw [if_neg y, z0 g (by omega) hg]
      unfold t_X1_bonds_l37
      rw [hs, Option.bind_some]
      refine ⟨_, rfl, ?_, kX, fX.up (by omega)⟩
      show f 0 + f 1 + f 2 + f 3 = _
      rw [hf' 0 (by omega), hf' 1 (by omega), hf' 2 (by omega), hf' 3 (by omega), bonds_tot w nv (Nat.le_refl _)]
  exact ⟨r9.2, by rw [← q1]; exact e9, q2, q3⟩
theorem tw_outs {ng nv : Nat} (w : wfn B ng nv (s.2 0)) : t_X3_outs s = some (sumI (fun j => s.2 0 (46 + 8 * j + 7)) nv 0, s) := by
  have hnv := w.2.2.2.1
  unfold t_X3_outs
  refine tw_sum (F := t_X3_outs_b4) (n := nv) (fun acc j => (acc, j, s)) (fun acc => (acc, s)) _ (fun acc => ?_) (fun acc j hj => ?_) (by omega)
  · unfold t_X3_outs_b4
    dsimp only
    rw [show tld 0 s 1 = some (s.2 0 1) from tld0m (i := 1) (by omega), Option.bind_some, w.2.1, if_pos (Int32.le_refl _)]
  · unfold t_X3_outs_b4
    dsimp only
    rw [show tld 0 s 1 = some (s.2 0 1) from tld0m (i := 1) (by omega), Option.bind_some, w.2.1, if_neg (fun y => by have := (iLe (by omega) (by omega)).mp y; omega), tw_vAt, Option.bind_some, show Int32.ofNat (46 + 8 * j) + 7 = Int32.ofNat (46 + 8 * j + 7) from v46 j 7, tld0m (by omega), Option.bind_some, iAdd1]
theorem tw_voids {ng nv : Nat} (w : wfn B ng nv (s.2 0)) : t_X3_voids s = some (sumI (fun j => s.2 0 (46 + 8 * j + 6)) nv 0, s) := by
  have hnv := w.2.2.2.1
  unfold t_X3_voids
  refine tw_sum (F := t_X3_voids_b4) (n := nv) (fun acc j => (acc, j, s)) (fun acc => (acc, s)) _ (fun acc => ?_) (fun acc j hj => ?_) (by omega)
  · unfold t_X3_voids_b4
    dsimp only
    rw [show tld 0 s 1 = some (s.2 0 1) from tld0m (i := 1) (by omega), Option.bind_some, w.2.1, if_pos (Int32.le_refl _)]
  · have wj := w.2.2.2.2.2.2.2.1 j hj
    unfold t_X3_voids_b4 t_X3_voids_l39
    dsimp only
    rw [show tld 0 s 1 = some (s.2 0 1) from tld0m (i := 1) (by omega), Option.bind_some, w.2.1, if_neg (fun y => by have := (iLe (by omega) (by omega)).mp y; omega), tw_lasts (by omega), Option.bind_some, lasts_w wj]
    dsimp only
    rw [iAdd1]
    by_cases z : s.2 0 (46 + 8 * j + 4) = -1
    · rw [if_pos z, if_pos rfl]
      obtain ⟨cc, hr, al, v1, v2, v3, v4, v5, v6, v7, v8⟩ := wj
      rcases v8 with ⟨-, -, u⟩ | ⟨g, _, u1, _, _, u4, -⟩
      · rw [u]
      · rw [u4] at z; exact absurd z (iNeg (by have := w.2.2.1; omega))
    · rw [if_neg z, if_neg (by decide), tw_vAt, Option.bind_some, show Int32.ofNat (46 + 8 * j) + 6 = Int32.ofNat (46 + 8 * j + 6) from v46 j 6, tld0m (by omega), Option.bind_some]
theorem tw_coins {ng nv : Nat} (w : wfn B ng nv (s.2 0)) : t_X3_coins s = some (sumI (fun j => s.2 0 (46 + 8 * j)) nv (sumI (fun j => s.2 0 (30 + 4 * j)) ng 0), s) := by
  have hnv := w.2.2.2.1
  have hng := w.2.2.1
  unfold t_X3_coins
  refine tw_sum (F := t_X3_coins_b4) (n := ng) (fun acc j => (acc, j, s)) (fun acc => (sumI (fun j => s.2 0 (46 + 8 * j)) nv acc, s)) _ (fun acc => ?_) (fun acc j hj => ?_) (by omega)
  · unfold t_X3_coins_b4 t_X3_coins_l32
    dsimp only
    rw [show tld 0 s 0 = some (s.2 0 0) from tld0m (i := 0) (by omega), Option.bind_some, w.1, if_pos (Int32.le_refl _)]
    rw [tw_sum (F := t_X3_coins_b34) (n := nv) (fun acc j => (acc, j, s)) (fun acc => (acc, s)) (fun j => s.2 0 (46 + 8 * j)) (fun acc => by
      unfold t_X3_coins_b34
      dsimp only
      rw [show tld 0 s 1 = some (s.2 0 1) from tld0m (i := 1) (by omega), Option.bind_some, w.2.1, if_pos (Int32.le_refl _)]) (fun acc j hj => by
      unfold t_X3_coins_b34
      dsimp only
      rw [show tld 0 s 1 = some (s.2 0 1) from tld0m (i := 1) (by omega), Option.bind_some, w.2.1, if_neg (fun y => by have := (iLe (by omega) (by omega)).mp y; omega), tw_vAt, Option.bind_some, tld0m (by omega), Option.bind_some, iAdd1]) (by omega) (a0 := acc)]
    rfl
  · unfold t_X3_coins_b4
    dsimp only
    rw [show tld 0 s 0 = some (s.2 0 0) from tld0m (i := 0) (by omega), Option.bind_some, w.1, if_neg (fun y => by have := (iLe (by omega) (by omega)).mp y; omega), tw_gAt, Option.bind_some, tld0m (by omega), Option.bind_some, iAdd1]
end qa
