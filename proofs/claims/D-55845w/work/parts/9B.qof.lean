/-! asking: gardenerOf, visitorOf, wouldPay -/
set_option maxRecDepth 100000
section qa
variable {Z : aZ} {h h' H : aH} {Rt : Nat → Prop} {q : Nat → Nat} {B B' : Nat} {s s' : tS} {C C' : Nat}
theorem arg_ok : t_X1_requireArgument Z h (b2i true) = some (.inl (), h) := rfl
theorem arg_no' (k : hOk Z h) (r : Rm Z h 1) : t_X1_requireArgument Z h (b2i false) = some (.inr (iarg, h.2.1), hnew h (.inr (15, [])) 6) := arg_no k r
theorem g30 (j : Nat) (d : Nat) : Int32.ofNat (30 + 4 * j) + Int32.ofNat d = Int32.ofNat (30 + 4 * j + d) := iAdd _ _
theorem inR_ne {x lo hi c : Int32} (h : inR x lo hi = false) (hc : inR c lo hi = true) : ¬ x = c := by rintro rfl; rw [h] at hc; cases hc
theorem bsum_eq {m : Nat → Int32} {ng nv g : Nat} (hg : g < 4) : sumI (fun j => if m (46 + 8 * j + 4) = -1 then 0 else if Int32.ofNat g = -1 then 1 else if m (46 + 8 * j + 4) = Int32.ofNat g then 1 else 0) nv 0 = sumI (fBond m (Int32.ofNat g)) nv 0 := by
  refine sumI_congr (fun j hj => ?_)
  unfold fBond
  by_cases z : m (46 + 8 * j + 4) = -1
  · rw [if_pos z, if_neg (fun y => iNeg (n := g) (by omega) (y.symm.trans z))]
  · rw [if_neg z, if_neg (iNeg (by omega))]
theorem co_gOf {x y9 : Int32} (k : hOk Z h) (r : Rm Z h 4) (c : cst Z Rt q B h s) : x1Ok Z Rt q B 4 h (t_X1_gardenerOf Z h (q 0) x y9) (t_X3_gardenerOf s x y9) (cd2 iarg 2 ioob 1) := by
  obtain ⟨C, e, g1, g2, g3, g4⟩ := c.core k (Fr.rf (u := 0))
  obtain ⟨ng, nv, w⟩ := c.nums
  generalize hx : t_X1_gardenerOf Z h (q 0) x y9 = y
  unfold t_X1_gardenerOf at hx
  rw [if_pos g4] at hx
  unfold t_X3_gardenerOf tpf
  rw [Option.bind_some]
  show x1Ok Z Rt q B 4 h y ((t_X3_isGardener (sT s 0) x).bind _) _
  rw [tw_isG', Option.bind_some]
  dsimp only
  by_cases z : inR x 0 (s.2 0 0 - 1) = true
  · obtain ⟨n, a, hn, rfl, e1, e2⟩ := getG_ok c z
    rw [e1, Option.bind_some] at hx
    dsimp only at hx
    rw [co_isIn, Option.bind_some] at hx
    rw [show inR (Int32.ofNat n) 0 ((sT s 0).2 0 0 - 1) = true from z, if_neg (by decide)]
    by_cases z4 : inR y9 0 4 = true
    · rw [z4, arg_ok, Option.bind_some] at hx
      dsimp only at hx
      obtain ⟨i, hi, rfl⟩ := inR_le (n := 4) (by omega) (by rw [show Int32.ofNat 4 = 4 from rfl, z4]; decide)
      have yes : ∀ v : Int32, some (.inl v, h) = y → ∀ t, t = some (v, sT s 0) → x1Ok Z Rt q B 4 h y t (cd2 iarg 2 ioob 1) := fun v h1 t h2 => x1_yes c k k Fr.rf h1.symm h2 (vEq_T 0) (sT_12 (s := s) 0)
      rcases (show i = 0 ∨ i = 1 ∨ i = 2 ∨ i = 3 ∨ i = 4 by omega) with rfl | rfl | rfl | rfl | rfl
      · rw [if_pos (by rfl), if_pos (isC_of e2)] at hx
        unfold t_X4_coins_3 at hx
        rw [gI_of (k := 0) e2 rfl, Option.bind_some, Option.bind_some] at hx
        rw [if_pos (by rfl), tw_gAt, Option.bind_some, tld0m (by omega), Option.bind_some]
        exact yes _ hx _ rfl
      · rw [if_neg (by decide), if_pos (by rfl), g1, Option.bind_some, if_pos g3] at hx
        obtain ⟨H, e3, k3, f3⟩ := co_bondsOf (g := Int32.ofNat n) k (r.less (by omega)) g2 w.2.1 w.2.2.2.1
        rw [e3, Option.bind_some] at hx
        rw [if_neg (by decide), if_pos (by rfl), tw_lasting (s := sT s 0) w, Option.bind_some]
        refine x1_yes c k k3 (f3.up (by omega)) hx.symm ?_ (vEq_T 0) (sT_12 (s := s) 0)
        dsimp only
        rw [show (sT s 0).2 0 = s.2 0 from rfl, bsum_eq (ng := ng) hn]
      · rw [if_neg (by decide), if_neg (by decide), if_pos (by rfl), gI_of (k := 1) e2 rfl, Option.bind_some] at hx
        rw [if_neg (by decide), if_neg (by decide), if_pos (by rfl), tw_gAt, Option.bind_some, g30, show (1 : Int32) = Int32.ofNat 1 from rfl, iSub (by omega), show 30 + 4 * n + 2 - 1 = 30 + 4 * n + 1 by omega, tld0m (by omega), Option.bind_some]
        exact yes _ hx _ rfl
      · rw [if_neg (by decide), if_neg (by decide), if_neg (by decide), if_pos (by rfl), gI_of (k := 2) e2 rfl, Option.bind_some] at hx
        rw [if_neg (by decide), if_neg (by decide), if_neg (by decide), if_pos (by rfl), tw_gAt, Option.bind_some, g30, show (1 : Int32) = Int32.ofNat 1 from rfl, iSub (by omega), show 30 + 4 * n + 3 - 1 = 30 + 4 * n + 2 by omega, tld0m (by omega), Option.bind_some]
        exact yes _ hx _ rfl
      · rw [if_neg (by decide), if_neg (by decide), if_neg (by decide), if_neg (by decide), gI_of (k := 3) e2 rfl, Option.bind_some] at hx
        rw [if_neg (by decide), if_neg (by decide), if_neg (by decide), if_neg (by decide), if_pos (by rfl), tw_gAt, Option.bind_some, g30, show (1 : Int32) = Int32.ofNat 1 from rfl, iSub (by omega), show 30 + 4 * n + 4 - 1 = 30 + 4 * n + 3 by omega, tld0m (by omega), Option.bind_some]
        exact yes _ hx _ rfl
    · have z4' : inR y9 0 4 = false := by simpa using z4
      rw [z4', arg_no' k (r.less (by omega)), Option.bind_some] at hx
      rw [if_neg (inR_ne z4' (by decide)), if_neg (inR_ne z4' (by decide)), if_neg (inR_ne z4' (by decide)), if_neg (inR_ne z4' (by decide)), if_neg (inR_ne z4' (by decide)), tw_thr, Option.bind_some, sT_sT]
      exact x1_no (v := -1) (c9 := 2) c k k.new ((Fr.new (by omega)).up (by omega)) hx.symm rfl (by decide) (by decide)
  · have z' : inR x 0 (s.2 0 0 - 1) = false := by simpa using z
    rw [getG_no k (r.less (by omega)) c z', Option.bind_some] at hx
    rw [show inR x 0 ((sT s 0).2 0 0 - 1) = false from z', if_pos (by rfl), tw_thr, Option.bind_some, sT_sT]
    exact x1_no (v := -1) (c9 := 1) c k k.new ((Fr.new (by omega)).up (by omega)) hx.symm rfl (by decide) (by decide)
theorem x6_lost {m : Nat → Int32} {a j : Nat} (ha : h.1 a = some (.inr (4, pV m j))) : t_X6_lost Z h a = some (lostI m j, h) := by
  unfold t_X6_lost t_X6_lostWith
  rw [if_pos (isC_of ha), gI_of (k := 3) ha rfl, Option.bind_some, gI_of (k := 1) ha rfl, Option.bind_some, Option.bind_some]
  unfold lostI
  rw [iAdd0]
theorem wfv.seven {ng j : Nat} {m : Nat → Int32} (w : wfv B ng m j) : m (46 + 8 * j + 7) = if m (46 + 8 * j + 1) = 15 then 1 else 0 := by
  obtain ⟨c, hr, al, v1, v2, v3, v4, v5, v6, v7, v8⟩ := w
  rw [v7, v4]
  by_cases z : c = 15
  · subst z; rfl
  · rw [if_neg z, if_neg (show ¬ Int32.ofNat c = 15 from fun y => z ((iEq (b := 15) (by omega) (by omega)).mp y))]
theorem co_vOf {x y9 : Int32} (k : hOk Z h) (r : Rm Z h 4) (c : cst Z Rt q B h s) : x1Ok Z Rt q B 4 h (t_X1_visitorOf Z h (q 0) x y9) (t_X3_visitorOf s x y9) (cd2 iarg 2 ioob 1) := by
  obtain ⟨C, e, g1, g2, g3, g4⟩ := c.core k (Fr.rf (u := 0))
  generalize hx : t_X1_visitorOf Z h (q 0) x y9 = y
  unfold t_X1_visitorOf at hx
  rw [if_pos g4] at hx
  unfold t_X3_visitorOf tpf
  rw [Option.bind_some]
  show x1Ok Z Rt q B 4 h y ((t_X3_isVisitor (sT s 0) x).bind _) _
  rw [tw_isV', Option.bind_some]
  dsimp only
  by_cases z : inR x 0 (s.2 0 1 - 1) = true
  · obtain ⟨n, a, ng, nv, hn, hn5, rfl, w, e1, e2⟩ := getV_ok c z
    have wj := w.2.2.2.2.2.2.2.1 n hn
    rw [e1, Option.bind_some] at hx
    dsimp only at hx
    rw [co_isIn, Option.bind_some] at hx
    rw [show inR (Int32.ofNat n) 0 ((sT s 0).2 0 1 - 1) = true from z, if_neg (by decide), tw_vAt, Option.bind_some]
    by_cases z4 : inR y9 0 8 = true
    · rw [z4, arg_ok, Option.bind_some] at hx
      dsimp only at hx
      obtain ⟨i, hi, rfl⟩ := inR_le (n := 8) (by omega) (by rw [show Int32.ofNat 8 = 8 from rfl, z4]; decide)
      have yes : ∀ v : Int32, some (.inl v, h) = y → ∀ t, t = some (v, sT s 0) → x1Ok Z Rt q B 4 h y t (cd2 iarg 2 ioob 1) := fun v h1 t h2 => x1_yes c k k Fr.rf h1.symm h2 (vEq_T 0) (sT_12 (s := s) 0)
      have t1 : ∀ d, 1 ≤ d → Int32.ofNat (46 + 8 * n + d) - 1 = Int32.ofNat (46 + 8 * n + (d - 1)) := fun d hd => by rw [show (1 : Int32) = Int32.ofNat 1 from rfl, iSub (by omega), show 46 + 8 * n + d - 1 = 46 + 8 * n + (d - 1) by omega]
      rcases (show i = 0 ∨ i = 1 ∨ i = 2 ∨ i = 3 ∨ i = 4 ∨ i = 5 ∨ i = 6 ∨ i = 7 ∨ i = 8 by omega) with rfl | rfl | rfl | rfl | rfl | rfl | rfl | rfl | rfl
      · rw [if_pos (by rfl), if_pos (isC_of e2)] at hx
        unfold t_X4_coins_4 at hx
        rw [gI_of (k := 0) e2 rfl, Option.bind_some, Option.bind_some] at hx
        rw [if_pos (by rfl), v46, tld0m (by omega), Option.bind_some]
        exact yes _ hx _ rfl
      · rw [if_neg (by decide), if_pos (by rfl), gI_of (k := 2) e2 rfl, Option.bind_some] at hx
        rw [if_neg (by decide), if_pos (by rfl), v46, tld0m (by omega), Option.bind_some]
        exact yes _ hx _ rfl
      · rw [if_neg (by decide), if_neg (by decide), if_pos (by rfl), gI_of (k := 3) e2 rfl, Option.bind_some] at hx
        rw [if_neg (by decide), if_neg (by decide), if_pos (by rfl), v46, tld0m (by omega), Option.bind_some]
        exact yes _ hx _ rfl
      · rw [if_neg (by decide), if_neg (by decide), if_neg (by decide), if_pos (by rfl), gI_of (k := 1) e2 rfl, Option.bind_some] at hx
        rw [if_neg (by decide), if_neg (by decide), if_neg (by decide), if_pos (by rfl), v46, tld0m (by omega), Option.bind_some]
        exact yes _ hx _ rfl
      · rw [if_neg (by decide), if_neg (by decide), if_neg (by decide), if_neg (by decide), if_pos (by rfl), if_pos (isC_of e2), x6_lost e2, Option.bind_some] at hx
        rw [if_neg (by decide), if_neg (by decide), if_neg (by decide), if_neg (by decide), if_pos (by rfl), tw_lost' (by omega), Option.bind_some]
        exact yes _ hx _ rfl
      · rw [if_neg (by decide), if_neg (by decide), if_neg (by decide), if_neg (by decide), if_neg (by decide), if_pos (by rfl), gI_of (k := 4) e2 rfl, Option.bind_some] at hx
        rw [if_neg (by decide), if_neg (by decide), if_neg (by decide), if_neg (by decide), if_neg (by decide), if_pos (by rfl), v46, t1 5 (by omega), tld0m (by omega), Option.bind_some]
        exact yes _ hx _ rfl
      · rw [if_neg (by decide), if_neg (by decide), if_neg (by decide), if_neg (by decide), if_neg (by decide), if_neg (by decide), if_pos (by rfl), gI_of (k := 5) e2 rfl, Option.bind_some] at hx
        rw [if_neg (by decide), if_neg (by decide), if_neg (by decide), if_neg (by decide), if_neg (by decide), if_neg (by decide), if_pos (by rfl), v46, t1 6 (by omega), tld0m (by omega), Option.bind_some]
        exact yes _ hx _ rfl
      · rw [if_neg (by decide), if_neg (by decide), if_neg (by decide), if_neg (by decide), if_neg (by decide), if_neg (by decide), if_neg (by decide), if_pos (by rfl), gI_of (k := 6) e2 rfl, Option.bind_some] at hx
        rw [if_neg (by decide), if_neg (by decide), if_neg (by decide), if_neg (by decide), if_neg (by decide), if_neg (by decide), if_neg (by decide), if_pos (by rfl), v46, t1 7 (by omega), tld0m (by omega), Option.bind_some]
        have h6 := c.wf.six (j := n) (by omega)
        rcases h6 with h6 | h6
        · rw [h6, if_pos rfl] at hx
          exact yes _ hx _ (by show some (s.2 0 (46 + 8 * n + 6), _) = _; rw [h6])
        · rw [h6, if_neg (by decide)] at hx
          exact yes _ hx _ (by show some (s.2 0 (46 + 8 * n + 6), _) = _; rw [h6])
      · rw [if_neg (by decide), if_neg (by decide), if_neg (by decide), if_neg (by decide), if_neg (by decide), if_neg (by decide), if_neg (by decide), if_neg (by decide), if_pos (isC_of e2), x6_isOut e2, Option.bind_some] at hx
        rw [if_neg (by decide), if_neg (by decide), if_neg (by decide), if_neg (by decide), if_neg (by decide), if_neg (by decide), if_neg (by decide), if_neg (by decide), if_pos (by rfl), v46, t1 8 (by omega), tld0m (by omega), Option.bind_some]
        have h7 := wj.seven
        by_cases u : s.2 0 (46 + 8 * n + 1) = 15
        · rw [if_pos u] at h7
          rw [if_neg (by simp [u, b2i])] at hx
          exact yes _ hx _ (by show some (s.2 0 (46 + 8 * n + 7), _) = _; rw [h7])
        · rw [if_neg u] at h7
          rw [if_pos (by simp [u, b2i])] at hx
          exact yes _ hx _ (by show some (s.2 0 (46 + 8 * n + 7), _) = _; rw [h7])
    · have z4' : inR y9 0 8 = false := by simpa using z4
      rw [z4', arg_no' k (r.less (by omega)), Option.bind_some] at hx
      rw [if_neg (inR_ne z4' (by decide)), if_neg (inR_ne z4' (by decide)), if_neg (inR_ne z4' (by decide)), if_neg (inR_ne z4' (by decide)), if_neg (inR_ne z4' (by decide)), if_neg (inR_ne z4' (by decide)), if_neg (inR_ne z4' (by decide)), if_neg (inR_ne z4' (by decide)), if_neg (inR_ne z4' (by decide)), tw_thr, Option.bind_some, sT_sT]
      exact x1_no (v := -1) (c9 := 2) c k k.new ((Fr.new (by omega)).up (by omega)) hx.symm rfl (by decide) (by decide)
  · have z' : inR x 0 (s.2 0 1 - 1) = false := by simpa using z
    rw [getV_no k (r.less (by omega)) c z', Option.bind_some] at hx
    rw [show inR x 0 ((sT s 0).2 0 1 - 1) = false from z', if_pos (by rfl), tw_thr, Option.bind_some, sT_sT]
    exact x1_no (v := -1) (c9 := 1) c k k.new ((Fr.new (by omega)).up (by omega)) hx.symm rfl (by decide) (by decide)
end qa
