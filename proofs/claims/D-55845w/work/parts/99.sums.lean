/-! sums over the lists -/
set_option maxRecDepth 100000
def sumI (f : Nat → Int32) (n : Nat) (a : Int32) : Int32 := foldN (fun j acc => acc + f j) n a
theorem sumI_congr {f g : Nat → Int32} {n : Nat} {a : Int32} (h : ∀ j, j < n → f j = g j) : sumI f n a = sumI g n a := foldN_congr (fun i hi acc => by rw [h i hi]) a
theorem sumI_s {f : Nat → Int32} {n : Nat} {a : Int32} : sumI f (n + 1) a = sumI f n a + f n := rfl
section sums
variable {Z : aZ} {h h' H : aH} {Rt : Nat → Prop} {q : Nat → Nat} {B B' : Nat} {s s' : tS} {C C' : Nat}
theorem lst_sum {σ ε : Type} {F : σ → Option (σ ⊕ ε)} {l : Nat} {mc : Int32} {e n : Nat} {as : Nat → Nat} {ent : Nat → va_E} (mk : Int32 → aH → σ) (out : Int32 → aH → ε) (k : hOk Z h) (l9 : lstAt Z h l mc e n as) (ha : ∀ i, i < n → h.1 (as i) = some (ent i)) (f : Nat → Int32)
    (hend : ∀ acc H, isC 9 H h.2.1 = true → t_J7_hasNext Z H h.2.1 = some (0, H) → F (mk acc H) = some (.inr (out acc H)))
    (hstep : ∀ acc H H' i, i < n → isC 9 H h.2.1 = true → t_J7_hasNext Z H h.2.1 = some (1, H) → t_J7_next Z H h.2.1 = some (as i, H') → H'.1 (as i) = some (ent i) → F (mk acc H) = some (.inl (mk (acc + f i) H'))) (a0 : Int32) :
    ∃ H, wlo F 100 (mk a0 (hnew h (itE 0 (-1) mc l) 4)) = some (out (sumI f n a0) H) ∧ hOk Z H ∧ Fr non h H 1 := by
  have hn := l9.lt
  obtain ⟨lr, e1⟩ := it_loop k l9 mk out (fun j acc => acc + f j) (fun acc lr => hend acc _ (isC_of hnew_at) (by rw [it_has hnew_at (l9.new k).1 (by omega) (by omega), if_pos rfl])) (fun i acc lr hi => hstep acc _ _ i hi (isC_of hnew_at) (by rw [it_has hnew_at (l9.new k).1 (by omega) (by omega), if_neg (by omega)]) (by rw [it_next (l9.new k) hnew_at hi k.1, hset_hnew]) (by
    have := k.2.1 _ _ (ha i hi)
    rw [hnew_ne (by omega)]; exact ha i hi)) (fuel := 100) (by omega) a0
  exact ⟨hnew h (itE (Int32.ofNat n) lr mc l) 4, e1, k.new, Fr.new (by omega)⟩
/-- the visitors of the core -/
theorem crd_vs {R : Nat → Prop} {m : Nat → Int32} (c : crd Z h R B C m) : ∃ V mV eV nv vs, gA 1 2 h C = some V ∧ lstAt Z h V mV eV nv vs ∧ nv ≤ 5 ∧ m 1 = Int32.ofNat nv ∧ (∀ j, j < nv → h.1 (vs j) = some (.inr (4, pV m j))) ∧ ∃ ng, ng ≤ 4 ∧ m 0 = Int32.ofNat ng ∧ ∀ j, j < nv → wfv B ng m j := by
  obtain ⟨w, lo, hi, ⟨L, G, V, eG, eV, gs, vs, ng, nv, mG, mV, c⟩, hR⟩ := c
  obtain ⟨ng', nv', w⟩ := w
  obtain ⟨rfl, rfl⟩ := wf_nums c w
  exact ⟨V, mV, eV, nv', vs, gA_of (k := 2) c.1 rfl, c.2.2.2.2.1, c.num.2.2.2, c.num.2.1, fun j hj => (c.vO hj).1, ng', c.num.2.2.1, c.num.1, fun j hj => w.2.2.2.2.2.2.2.1 j hj⟩
theorem crd_gs {R : Nat → Prop} {m : Nat → Int32} (c : crd Z h R B C m) : ∃ G mG eG ng gs, gA 1 1 h C = some G ∧ lstAt Z h G mG eG ng gs ∧ ng ≤ 4 ∧ m 0 = Int32.ofNat ng ∧ (∀ j, j < ng → h.1 (gs j) = some (.inr (3, pG m j))) := by
  obtain ⟨w, lo, hi, ⟨L, G, V, eG, eV, gs, vs, ng, nv, mG, mV, c⟩, hR⟩ := c
  exact ⟨G, mG, eG, ng, gs, gA_of (k := 1) c.1 rfl, c.2.2.2.1, c.num.2.2.1, c.num.1, fun j hj => (c.gO hj).1⟩
def fBond (m : Nat → Int32) (g : Int32) (j : Nat) : Int32 := if m (46 + 8 * j + 4) = g then 1 else 0
def fIn (m : Nat → Int32) (c : Int32) (j : Nat) : Int32 := if m (46 + 8 * j + 7) = 0 ∧ m (46 + 8 * j + 1) = c then 1 else 0
def fOwe (m : Nat → Int32) (g : Int32) (j : Nat) : Int32 := if m (46 + 8 * j + 4) = g ∧ m (46 + 8 * j + 6) = 0 then m (46 + 8 * j + 5) * lostI m j else 0
theorem co_bondsOf {R : Nat → Prop} {m : Nat → Int32} {g : Int32} (k : hOk Z h) (r : Rm Z h 1) (c : crd Z h R B C m) {nv : Nat} (hnv : m 1 = Int32.ofNat nv) (hn5 : nv ≤ 5) : ∃ H, t_X2_bondsOf Z h C g = some (sumI (fBond m g) nv 0, H) ∧ hOk Z H ∧ Fr non h H 1 := by
  obtain ⟨V, mV, eV, nv', vs, v1, v2, v3, v4, v5, -⟩ := crd_vs c
  have hnn : nv' = nv := (iEq (by omega) (by omega)).mp (v4.symm.trans hnv)
  subst hnn
  unfold t_X2_bondsOf
  rw [v1, Option.bind_some, if_pos v2.isC, it_new k r v2, Option.bind_some]
  refine lst_sum (F := t_X2_bondsOf_b10 Z) (fun acc H => (g, acc, h.2.1, H)) (fun acc H => (acc, H)) k v2 v5 (fBond m g) (fun acc H i1 i2 => ?_) (fun acc H H' i hi i1 i2 i3 i4 => ?_) 0
  · unfold t_X2_bondsOf_b10
    dsimp only
    rw [if_pos i1, i2, Option.bind_some, if_pos rfl]
  · unfold t_X2_bondsOf_b10 t_X2_bondsOf_l45
    dsimp only
    rw [if_pos i1, i2, Option.bind_some]
    dsimp only
    rw [if_neg (by decide), if_pos i1, i3, Option.bind_some]
    dsimp only
    rw [if_pos (isC_of i4), gI_of (k := 4) i4 rfl, Option.bind_some]
    unfold fBond
    by_cases z : m (46 + 8 * i + 4) = g
    · rw [if_pos z, if_pos z]
    · rw [if_neg z, if_neg z]
theorem co_in {R : Nat → Prop} {m : Nat → Int32} {x : Int32} (k : hOk Z h) (r : Rm Z h 1) (c : crd Z h R B C m) {nv : Nat} (hnv : m 1 = Int32.ofNat nv) (hn5 : nv ≤ 5) : ∃ H, t_X2_in Z h C x = some (sumI (fIn m x) nv 0, H) ∧ hOk Z H ∧ Fr non h H 1 := by
  obtain ⟨V, mV, eV, nv', vs, v1, v2, v3, v4, v5, ng, g1, g2, g3⟩ := crd_vs c
  have hnn : nv' = nv := (iEq (by omega) (by omega)).mp (v4.symm.trans hnv)
  subst hnn
  unfold t_X2_in
  rw [v1, Option.bind_some, if_pos v2.isC, it_new k r v2, Option.bind_some]
  refine lst_sum (F := t_X2_in_b10 Z) (fun acc H => (x, acc, h.2.1, H)) (fun acc H => (acc, H)) k v2 v5 (fIn m x) (fun acc H i1 i2 => ?_) (fun acc H H' i hi i1 i2 i3 i4 => ?_) 0
  · unfold t_X2_in_b10
    dsimp only
    rw [if_pos i1, i2, Option.bind_some, if_pos rfl]
  · unfold t_X2_in_b10 t_X2_in_l52 t_X2_in_l53
    dsimp only
    rw [if_pos i1, i2, Option.bind_some]
    dsimp only
    rw [if_neg (by decide), if_pos i1, i3, Option.bind_some]
    dsimp only
    rw [if_pos (isC_of i4), if_pos (isC_of i4), x6_isOut i4, Option.bind_some]
    dsimp only
    have w := g3 i hi
    have h7 : m (46 + 8 * i + 7) = 0 ↔ ¬ m (46 + 8 * i + 1) = 15 := by
      rw [out_iff w]
      obtain ⟨cc, hr, al, -, -, -, -, -, -, w7, -⟩ := w
      rw [w7]
      split <;> decide
    unfold fIn
    by_cases z : m (46 + 8 * i + 1) = 15
    · rw [if_neg (by simp [z, b2i]), if_neg (fun y => h7.mp y.1 z)]
    · rw [if_pos (by simp [z, b2i]), gI_of (k := 2) i4 rfl, Option.bind_some]
      by_cases y : m (46 + 8 * i + 1) = x
      · rw [if_pos y, if_pos ⟨h7.mpr z, y⟩]
      · rw [if_neg y, if_neg (fun w => y w.2)]
theorem co_out {R : Nat → Prop} {m : Nat → Int32} (k : hOk Z h) (r : Rm Z h 1) (c : crd Z h R B C m) {nv : Nat} (hnv : m 1 = Int32.ofNat nv) (hn5 : nv ≤ 5) : ∃ H, t_X2_out Z h C = some (sumI (fun j => m (46 + 8 * j + 7)) nv 0, H) ∧ hOk Z H ∧ Fr non h H 1 := by
  obtain ⟨V, mV, eV, nv', vs, v1, v2, v3, v4, v5, ng, g1, g2, g3⟩ := crd_vs c
  have hnn : nv' = nv := (iEq (by omega) (by omega)).mp (v4.symm.trans hnv)
  subst hnn
  unfold t_X2_out
  rw [v1, Option.bind_some, if_pos v2.isC, it_new k r v2, Option.bind_some]
  refine lst_sum (F := t_X2_out_b10 Z) (fun acc H => (acc, h.2.1, H)) (fun acc H => (acc, H)) k v2 v5 (fun j => m (46 + 8 * j + 7)) (fun acc H i1 i2 => ?_) (fun acc H H' i hi i1 i2 i3 i4 => ?_) 0
  · unfold t_X2_out_b10
    dsimp only
    rw [if_pos i1, i2, Option.bind_some, if_pos rfl]
  · unfold t_X2_out_b10 t_X2_out_l42
    dsimp only
    rw [if_pos i1, i2, Option.bind_some]
    dsimp only
    rw [if_neg (by decide), if_pos i1, i3, Option.bind_some]
    dsimp only
    rw [if_pos (isC_of i4), if_pos (isC_of i4), x6_isOut i4, Option.bind_some]
    dsimp only
    have w := g3 i hi
    by_cases z : m (46 + 8 * i + 1) = 15
    · rw [if_neg (by simp [z, b2i]), (out_iff w).mp z]
    · rw [if_pos (by simp [z, b2i])]
      have : m (46 + 8 * i + 7) = 0 := by
        rw [out_iff w] at z
        obtain ⟨cc, hr, al, -, -, -, -, -, -, w7, -⟩ := w
        rw [w7] at z ⊢
        split
        · rename_i y; rw [if_pos y] at z; exact absurd rfl z
        · rfl
      rw [this]
theorem co_voids {R : Nat → Prop} {m : Nat → Int32} (k : hOk Z h) (r : Rm Z h 1) (c : crd Z h R B C m) {nv : Nat} (hnv : m 1 = Int32.ofNat nv) (hn5 : nv ≤ 5) : ∃ H, t_X2_voids Z h C = some (sumI (fun j => m (46 + 8 * j + 6)) nv 0, H) ∧ hOk Z H ∧ Fr non h H 1 := by
  obtain ⟨V, mV, eV, nv', vs, v1, v2, v3, v4, v5, ng, g1, g2, g3⟩ := crd_vs c
  have hnn : nv' = nv := (iEq (by omega) (by omega)).mp (v4.symm.trans hnv)
  subst hnn
  unfold t_X2_voids
  rw [v1, Option.bind_some, if_pos v2.isC, it_new k r v2, Option.bind_some]
  refine lst_sum (F := t_X2_voids_b10 Z) (fun acc H => (acc, h.2.1, H)) (fun acc H => (acc, H)) k v2 v5 (fun j => m (46 + 8 * j + 6)) (fun acc H i1 i2 => ?_) (fun acc H H' i hi i1 i2 i3 i4 => ?_) 0
  · unfold t_X2_voids_b10
    dsimp only
    rw [if_pos i1, i2, Option.bind_some, if_pos rfl]
  · unfold t_X2_voids_b10 t_X2_voids_l42
    dsimp only
    rw [if_pos i1, i2, Option.bind_some]
    dsimp only
    rw [if_neg (by decide), if_pos i1, i3, Option.bind_some]
    dsimp only
    rw [if_pos (isC_of i4), gI_of (k := 6) i4 rfl, Option.bind_some]
    have h6 : m (46 + 8 * i + 6) = 0 ∨ m (46 + 8 * i + 6) = 1 := c.1.six (by omega)
    rcases h6 with h6 | h6
    · rw [h6, if_pos rfl]
    · rw [h6, if_neg (by decide)]
theorem co_owed {R : Nat → Prop} {m : Nat → Int32} {g : Int32} (k : hOk Z h) (r : Rm Z h 1) (c : crd Z h R B C m) {nv : Nat} (hnv : m 1 = Int32.ofNat nv) (hn5 : nv ≤ 5) : ∃ H, t_X2_owed Z h C g = some (sumI (fOwe m g) nv 0, H) ∧ hOk Z H ∧ Fr non h H 1 := by
  obtain ⟨V, mV, eV, nv', vs, v1, v2, v3, v4, v5, -⟩ := crd_vs c
  have hnn : nv' = nv := (iEq (by omega) (by omega)).mp (v4.symm.trans hnv)
  subst hnn
  unfold t_X2_owed
  rw [v1, Option.bind_some, if_pos v2.isC, it_new k r v2, Option.bind_some]
  refine lst_sum (F := t_X2_owed_b10 Z) (fun acc H => (g, acc, h.2.1, H)) (fun acc H => (acc, H)) k v2 v5 (fOwe m g) (fun acc H i1 i2 => ?_) (fun acc H H' i hi i1 i2 i3 i4 => ?_) 0
  · unfold t_X2_owed_b10
    dsimp only
    rw [if_pos i1, i2, Option.bind_some, if_pos rfl]
  · unfold t_X2_owed_b10 t_X2_owed_l50
    dsimp only
    rw [if_pos i1, i2, Option.bind_some]
    dsimp only
    rw [if_neg (by decide), if_pos i1, i3, Option.bind_some]
    dsimp only
    rw [if_pos (isC_of i4), gI_of (k := 4) i4 rfl, Option.bind_some]
    unfold fOwe
    by_cases z : m (46 + 8 * i + 4) = g
    · rw [if_pos z, if_pos (isC_of i4), x6_due i4, Option.bind_some]
      dsimp only
      unfold lostI
      rw [iAdd0]
      by_cases y : m (46 + 8 * i + 6) = 0
      · rw [if_pos y, if_pos ⟨z, y⟩]
      · rw [if_neg y, if_neg (fun w => y w.2)]
    · rw [if_neg z, if_neg (fun w => z w.1)]
theorem co_coins {R : Nat → Prop} {m : Nat → Int32} (k : hOk Z h) (r : Rm Z h 2) (c : crd Z h R B C m) {ng nv : Nat} (hng : m 0 = Int32.ofNat ng) (hn4 : ng ≤ 4) (hnv : m 1 = Int32.ofNat nv) (hn5 : nv ≤ 5) : ∃ H, t_X2_coins Z h C = some (sumI (fun j => m (46 + 8 * j)) nv (sumI (fun j => m (30 + 4 * j)) ng 0), H) ∧ hOk Z H ∧ Fr non h H 2 := by
  obtain ⟨G, mG, eG, ng', gs, v1, v2, v3, v4, v5⟩ := crd_gs c
  have hnn : ng' = ng := (iEq (by omega) (by omega)).mp (v4.symm.trans hng)
  subst hnn
  unfold t_X2_coins
  rw [v1, Option.bind_some, if_pos v2.isC, it_new k (r.less (by omega)) v2, Option.bind_some]
  -- the first loop, up to its end
  have hn := v2.lt
  refine Ok.imp (x := wlo (t_X2_coins_b10 Z) 100 (C, 0, h.2.1, hnew h (itE 0 (-1) mG G) 4)) (P := fun r => r.1 = sumI (fun j => m (46 + 8 * j)) nv (sumI (fun j => m (30 + 4 * j)) ng' 0) ∧ hOk Z r.2 ∧ Fr non h r.2 2) ?_ (fun r z => z) |> fun ⟨r9, e9, q1, q2, q3⟩ => ⟨r9.2, by rw [e9, ← q1], q2, q3⟩
  refine wlo_for ng' (fun i st => ∃ lr, st = (C, sumI (fun j => m (30 + 4 * j)) i 0, h.2.1, hnew h (itE (Int32.ofNat i) lr mG G) 4)) _ ?_ ?_ (i := 0) ⟨-1, rfl⟩ (by omega) (by omega)
  · rintro i st hi ⟨lr, rfl⟩
    refine Or.inl ⟨_, ?_, Int32.ofNat i, rfl⟩
    have hgi := v5 i hi
    have hlt := k.2.1 _ _ hgi
    unfold t_X2_coins_b10 t_X4_coins_3
    dsimp only
    rw [if_pos (isC_of hnew_at), it_has hnew_at (v2.new k).1 (by omega) (by omega), if_neg (by omega), Option.bind_some]
    dsimp only
    rw [if_neg (by decide), if_pos (isC_of hnew_at), it_next (v2.new k) hnew_at hi k.1, hset_hnew, Option.bind_some]
    dsimp only
    have hgi' : (hnew h (itE (Int32.ofNat (i + 1)) (Int32.ofNat i) mG G) 4).1 (gs i) = some (.inr (3, pG m i)) := by rw [hnew_ne (by omega)]; exact hgi
    rw [if_pos (isC_of hgi'), if_pos (isC_of hgi'), gI_of (k := 0) hgi' rfl, Option.bind_some, Option.bind_some]
    rfl
  · rintro st ⟨lr, rfl⟩
    unfold t_X2_coins_b10
    dsimp only
    rw [if_pos (isC_of hnew_at), it_has hnew_at (v2.new k).1 (by omega) (by omega), if_pos rfl, Option.bind_some]
    dsimp only
    rw [if_pos rfl]
    have k1 : hOk Z (hnew h (itE (Int32.ofNat ng') lr mG G) 4) := k.new
    have f1 : Fr non h (hnew h (itE (Int32.ofNat ng') lr mG G) 4) 1 := Fr.new (by omega)
    have c1 := c.fr f1 (fun a _ z => z.elim)
    have r1 : Rm Z (hnew h (itE (Int32.ofNat ng') lr mG G) 4) 1 := Rm.after (u := 1) (v := 1) r f1
    generalize hnew h (itE (Int32.ofNat ng') lr mG G) 4 = h1 at k1 f1 c1 r1
    obtain ⟨V, mV, eV, nv', vs, u1, u2, u3, u4, u5, -⟩ := crd_vs c1
    have hnn : nv' = nv := (iEq (by omega) (by omega)).mp (u4.symm.trans hnv)
    subst hnn
    unfold t_X2_coins_l39
    rw [u1, Option.bind_some, if_pos u2.isC, it_new k1 r1 u2, Option.bind_some]
    obtain ⟨H, e1, e2, e3⟩ := lst_sum (F := t_X2_coins_b47 Z) (fun acc H => (acc, h1.2.1, H)) (fun acc H => (acc, H)) k1 u2 u5 (fun j => m (46 + 8 * j)) (fun acc H i1 i2 => by
      unfold t_X2_coins_b47
      dsimp only
      rw [if_pos i1, i2, Option.bind_some, if_pos rfl]) (fun acc H H' i hi i1 i2 i3 i4 => by
      unfold t_X2_coins_b47 t_X4_coins_4
      dsimp only
      rw [if_pos i1, i2, Option.bind_some]
      dsimp only
      rw [if_neg (by decide), if_pos i1, i3, Option.bind_some]
      dsimp only
      rw [if_pos (isC_of i4), if_pos (isC_of i4), gI_of (k := 0) i4 rfl, Option.bind_some, Option.bind_some]) (sumI (fun j => m (30 + 4 * j)) ng' 0)
    refine ⟨_, by dsimp only; rw [e1]; rfl, rfl, e2, f1.tr e3 (fun _ _ z => z)⟩
end sums
