/-! asking: gardeners and visitors -/
set_option maxRecDepth 100000
section qa
variable {Z : aZ} {h h' H : aH} {Rt : Nat → Prop} {q : Nat → Nat} {B B' : Nat} {s s' : tS} {C C' : Nat}
theorem tw_sum {σ ε : Type} {F : σ → Option (σ ⊕ ε)} {n : Nat} (mk : Int32 → Int32 → σ) (out : Int32 → ε) (g : Nat → Int32) (hend : ∀ acc, F (mk acc (Int32.ofNat n)) = some (.inr (out acc))) (hstep : ∀ acc j, j < n → F (mk acc (Int32.ofNat j)) = some (.inl (mk (acc + g j) (Int32.ofNat (j + 1))))) (hn : n ≤ 20) {a0 : Int32} : wlo F 300 (mk a0 0) = some (out (sumI g n a0)) := by
  refine Ok.eq ?_
  refine wlo_for n (fun j st => st = mk (sumI g j a0) (Int32.ofNat j)) _ ?_ ?_ (i := 0) rfl (by omega) (by omega)
  · rintro j st hj rfl
    exact Or.inl ⟨_, hstep _ j hj, rfl⟩
  · rintro st rfl
    exact ⟨_, hend _, rfl⟩
theorem cst.nums (c : cst Z Rt q B h s) : ∃ ng nv, wfn B ng nv (s.2 0) := c.wf
theorem tld0m {i : Nat} (hi : i < 86) : tld 0 s (Int32.ofNat i) = some (s.2 0 i) := tld_of (n := 86) rfl hi (by omega)
theorem tw_isG' {x : Int32} : t_X3_isGardener s x = some (b2i (inR x 0 (s.2 0 0 - 1)), s) := by
  have := tw_isG s (s.2 0) x
  rw [sM_same] at this
  exact this
theorem tw_isV' {x : Int32} : t_X3_isVisitor s x = some (b2i (inR x 0 (s.2 0 1 - 1)), s) := by
  have := tw_isV s (s.2 0) x
  rw [sM_same] at this
  exact this
theorem tw_lost' {j : Nat} (hj : j < 5) : t_X3_lostOf s (Int32.ofNat j) = some (lostI (s.2 0) j, s) := by
  have := tw_lost (s := s) (m := s.2 0) hj
  rw [sM_same] at this
  exact this
theorem v46 (j : Nat) (d : Nat) : Int32.ofNat (46 + 8 * j) + Int32.ofNat d = Int32.ofNat (46 + 8 * j + d) := iAdd _ _
/-- a bond lasts -/
theorem tw_lasts {j : Nat} (hj : j < 5) : t_X3_lasts s (Int32.ofNat j) = some (if s.2 0 (46 + 8 * j + 4) = -1 then 0 else if s.2 0 (46 + 8 * j + 7) = 0 then 1 else 0, s) := by
  unfold t_X3_lasts
  rw [tw_vAt, Option.bind_some, show (4 : Int32) = Int32.ofNat 4 from rfl, v46, tld0m (by omega), Option.bind_some, show (7 : Int32) = Int32.ofNat 7 from rfl, Option.bind_some, v46, tld0m (by omega), Option.bind_some]
  split
  · rfl
  · split <;> rfl
theorem lasts_w {ng j : Nat} {m : Nat → Int32} (w : wfv B ng m j) : (if m (46 + 8 * j + 4) = -1 then (0 : Int32) else if m (46 + 8 * j + 7) = 0 then 1 else 0) = if m (46 + 8 * j + 4) = -1 then 0 else 1 := by
  obtain ⟨c, hr, al, v1, v2, v3, v4, v5, v6, v7, v8⟩ := w
  split
  · rfl
  · rename_i z
    rcases v8 with ⟨u, -⟩ | ⟨_, _, _, _, _, _, _, _, u⟩
    · exact absurd u z
    · rw [v7, if_neg u, if_pos rfl]
theorem tw_lasting {x : Int32} {ng nv : Nat} (w : wfn B ng nv (s.2 0)) : t_X3_lasting s x = some (sumI (fun j => if s.2 0 (46 + 8 * j + 4) = -1 then 0 else if x = -1 then 1 else if s.2 0 (46 + 8 * j + 4) = x then 1 else 0) nv 0, s) := by
  have hnv := w.2.2.2.1
  unfold t_X3_lasting
  refine tw_sum (F := t_X3_lasting_b4) (n := nv) (fun acc j => (x, acc, j, s)) (fun acc => (acc, s)) _ (fun acc => ?_) (fun acc j hj => ?_) (by omega)
  · unfold t_X3_lasting_b4
    dsimp only
    rw [show tld 0 s 1 = some (s.2 0 1) from tld0m (i := 1) (by omega), Option.bind_some, w.2.1, if_pos (Int32.le_refl _)]
  · have wj := w.2.2.2.2.2.2.2.1 j hj
    unfold t_X3_lasting_b4 t_X3_lasting_l43 t_X3_lasting_l47 t_X3_lasting_l48
    dsimp only
    rw [show tld 0 s 1 = some (s.2 0 1) from tld0m (i := 1) (by omega), Option.bind_some, w.2.1, if_neg (fun y => by have := (iLe (by omega) (by omega)).mp y; omega), tw_lasts (by omega), Option.bind_some, lasts_w wj]
    dsimp only
    rw [iAdd1]
    by_cases z : s.2 0 (46 + 8 * j + 4) = -1
    · rw [if_pos z, if_pos z, if_pos rfl]
    · rw [if_neg z, if_neg z, if_neg (by decide)]
      by_cases y : x = -1
      · rw [if_pos y, if_pos y]
      · rw [if_neg y, if_neg y, tw_vAt, Option.bind_some, show (4 : Int32) = Int32.ofNat 4 from rfl, v46, tld0m (by omega), Option.bind_some]
        by_cases u : s.2 0 (46 + 8 * j + 4) = x
        · rw [if_pos u, if_pos u]
        · rw [if_neg u, if_neg u]
theorem tw_owedBy {g ng nv : Nat} (w : wfn B ng nv (s.2 0)) (hg : g < 4) : t_X3_owedBy s (Int32.ofNat g) = some (sumI (fOwe (s.2 0) (Int32.ofNat g)) nv 0, s) := by
  have hnv := w.2.2.2.1
  unfold t_X3_owedBy
  refine tw_sum (F := t_X3_owedBy_b4) (n := nv) (fun acc j => (Int32.ofNat g, acc, j, s)) (fun acc => (acc, s)) _ (fun acc => ?_) (fun acc j hj => ?_) (by omega)
  · unfold t_X3_owedBy_b4
    dsimp only
    rw [show tld 0 s 1 = some (s.2 0 1) from tld0m (i := 1) (by omega), Option.bind_some, w.2.1, if_pos (Int32.le_refl _)]
  · have wj := w.2.2.2.2.2.2.2.1 j hj
    unfold t_X3_owedBy_b4 t_X3_owedBy_l58 t_X3_owedBy_l59 t_X3_owedBy_l86
    dsimp only
    rw [show tld 0 s 1 = some (s.2 0 1) from tld0m (i := 1) (by omega), Option.bind_some, w.2.1, if_neg (fun y => by have := (iLe (by omega) (by omega)).mp y; omega), tw_vAt, Option.bind_some, tw_lasts (by omega), Option.bind_some, lasts_w wj]
    dsimp only
    rw [iAdd1]
    unfold fOwe
    by_cases z : s.2 0 (46 + 8 * j + 4) = -1
    · rw [if_pos z, if_pos rfl, if_pos rfl, if_neg (fun y => iNeg (n := g) (by omega) (y.1.symm.trans z))]
    · rw [if_neg z, if_neg (by decide), show (4 : Int32) = Int32.ofNat 4 from rfl, v46, tld0m (by omega), Option.bind_some]
      by_cases y : s.2 0 (46 + 8 * j + 4) = Int32.ofNat g
      · rw [if_pos y, show (6 : Int32) = Int32.ofNat 6 from rfl, v46, tld0m (by omega), Option.bind_some]
        by_cases u : s.2 0 (46 + 8 * j + 6) = 0
        · rw [if_pos u, if_neg (by decide), show (5 : Int32) = Int32.ofNat 5 from rfl, v46, tld0m (by omega), Option.bind_some, tw_lost' (by omega), Option.bind_some, if_pos ⟨y, u⟩]
        · rw [if_neg u, if_pos rfl, if_neg (fun v => u v.2)]
      · rw [if_neg y, if_pos rfl, if_neg (fun v => y v.1)]
/-- a gardener, a visitor asked for -/
theorem getG_no {x : Int32} (k : hOk Z h) (r : Rm Z h 1) (c : cst Z Rt q B h s) (z : inR x 0 (s.2 0 0 - 1) = false) : t_X1_getGardener Z h (q 0) x = some (.inr (ioob, h.2.1), hnew h (.inr (14, [])) 6) := by
  obtain ⟨C, sv, lt, mB, e, n, ps, c⟩ := c
  obtain ⟨w, lo, hi, ⟨L, G, V, eG, eV, gs, vs, ng, nv, mG, mV, d⟩, hR⟩ := c.2.2.2.1
  unfold t_X1_getGardener
  rw [gA_of (k := 0) c.1 rfl, Option.bind_some, if_pos (isC_of d.1), isG d, Option.bind_some, z]
  dsimp only
  rw [show b2i false = 0 from rfl, index_no k r, Option.bind_some]
theorem getG_ok {x : Int32} (c : cst Z Rt q B h s) (z : inR x 0 (s.2 0 0 - 1) = true) : ∃ n a, n < 4 ∧ x = Int32.ofNat n ∧ t_X1_getGardener Z h (q 0) x = some (.inl a, h) ∧ h.1 a = some (.inr (3, pG (s.2 0) n)) := by
  obtain ⟨C, sv, lt, mB, e, n, ps, c⟩ := c
  obtain ⟨w, lo, hi, ⟨L, G, V, eG, eV, gs, vs, ng, nv, mG, mV, d⟩, hR⟩ := c.2.2.2.1
  have z' := z
  rw [d.num.1] at z'
  have hng := d.num.2.2.1
  obtain ⟨j, hj, rfl⟩ := inR_idx (n := ng) (by omega) (by rw [z']; decide)
  refine ⟨j, gs j, by omega, rfl, ?_, (d.gO hj).1⟩
  unfold t_X1_getGardener
  rw [gA_of (k := 0) c.1 rfl, Option.bind_some, if_pos (isC_of d.1), isG d, Option.bind_some, z]
  dsimp only
  rw [show t_X1_requireIndex Z h (b2i true) = some (.inl (), h) from rfl, Option.bind_some]
  dsimp only
  rw [gA_of (k := 0) c.1 rfl, Option.bind_some, gA_of (k := 1) d.1 rfl, Option.bind_some, if_pos d.2.2.2.1.isC, d.2.2.2.1.get hj, Option.bind_some]
  dsimp only
  rw [if_pos (isC_of (d.gO hj).1)]
theorem getV_no {x : Int32} (k : hOk Z h) (r : Rm Z h 1) (c : cst Z Rt q B h s) (z : inR x 0 (s.2 0 1 - 1) = false) : t_X1_getVisitor Z h (q 0) x = some (.inr (ioob, h.2.1), hnew h (.inr (14, [])) 6) := by
  obtain ⟨C, sv, lt, mB, e, n, ps, c⟩ := c
  obtain ⟨w, lo, hi, ⟨L, G, V, eG, eV, gs, vs, ng, nv, mG, mV, d⟩, hR⟩ := c.2.2.2.1
  unfold t_X1_getVisitor
  rw [gA_of (k := 0) c.1 rfl, Option.bind_some, if_pos (isC_of d.1), isV d, Option.bind_some, z]
  dsimp only
  rw [show b2i false = 0 from rfl, index_no k r, Option.bind_some]
theorem getV_ok {x : Int32} (c : cst Z Rt q B h s) (z : inR x 0 (s.2 0 1 - 1) = true) : ∃ n a ng nv, n < nv ∧ nv ≤ 5 ∧ x = Int32.ofNat n ∧ wfn B ng nv (s.2 0) ∧ t_X1_getVisitor Z h (q 0) x = some (.inl a, h) ∧ h.1 a = some (.inr (4, pV (s.2 0) n)) := by
  obtain ⟨C, sv, lt, mB, e, n, ps, c⟩ := c
  obtain ⟨⟨ng', nv', w⟩, lo, hi, ⟨L, G, V, eG, eV, gs, vs, ng, nv, mG, mV, d⟩, hR⟩ := c.2.2.2.1
  obtain ⟨rfl, rfl⟩ := wf_nums d w
  have z' := z
  rw [d.num.2.1] at z'
  have hng := d.num.2.2.2
  obtain ⟨j, hj, rfl⟩ := inR_idx (n := nv') (by omega) (by rw [z']; decide)
  refine ⟨j, vs j, ng', nv', hj, hng, rfl, w, ?_, (d.vO hj).1⟩
  unfold t_X1_getVisitor
  rw [gA_of (k := 0) c.1 rfl, Option.bind_some, if_pos (isC_of d.1), isV d, Option.bind_some, z]
  dsimp only
  rw [show t_X1_requireIndex Z h (b2i true) = some (.inl (), h) from rfl, Option.bind_some]
  dsimp only
  rw [gA_of (k := 0) c.1 rfl, Option.bind_some, gA_of (k := 2) d.1 rfl, Option.bind_some, if_pos d.2.2.2.2.1.isC, d.2.2.2.2.1.get hj, Option.bind_some]
  dsimp only
  rw [if_pos (isC_of (d.vO hj).1)]
theorem co_owedX {x : Int32} (k : hOk Z h) (r : Rm Z h 4) (c : cst Z Rt q B h s) : x1Ok Z Rt q B 4 h (t_X1_owed Z h (q 0) x) (t_X3_owed s x) (cd1 ioob) := by
  obtain ⟨C, e, g1, g2, g3, g4⟩ := c.core k (Fr.rf (u := 0))
  obtain ⟨ng, nv, w⟩ := c.nums
  generalize hx : t_X1_owed Z h (q 0) x = y
  unfold t_X1_owed at hx
  rw [if_pos g4] at hx
  unfold t_X3_owed tpf
  rw [Option.bind_some]
  show x1Ok Z Rt q B 4 h y ((t_X3_isGardener (sT s 0) x).bind _) _
  rw [tw_isG', Option.bind_some]
  dsimp only
  by_cases z : inR x 0 (s.2 0 0 - 1) = true
  · obtain ⟨n, a, hn, rfl, e1, e2⟩ := getG_ok c z
    rw [e1, Option.bind_some] at hx
    dsimp only at hx
    rw [g1, Option.bind_some, if_pos g3] at hx
    obtain ⟨H, e3, k3, f3⟩ := co_owed (g := Int32.ofNat n) k (r.less (by omega)) g2 w.2.1 w.2.2.2.1
    rw [e3, Option.bind_some] at hx
    rw [show inR (Int32.ofNat n) 0 ((sT s 0).2 0 0 - 1) = true from z, if_neg (by decide), tw_owedBy (s := sT s 0) w hn, Option.bind_some]
    exact x1_yes c k k3 (f3.up (by omega)) hx.symm rfl (vEq_T 0) (sT_12 (s := s) 0)
  · have z' : inR x 0 (s.2 0 0 - 1) = false := by simpa using z
    rw [getG_no k (r.less (by omega)) c z', Option.bind_some] at hx
    rw [show inR x 0 ((sT s 0).2 0 0 - 1) = false from z', if_pos (by rfl), tw_thr, Option.bind_some, sT_sT]
    exact x1_no (v := -1) (c9 := 1) c k k.new ((Fr.new (by omega)).up (by omega)) hx.symm rfl (by decide) (by decide)
end qa
