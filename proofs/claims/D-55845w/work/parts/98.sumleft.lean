/-! asking: summers left -/
set_option maxRecDepth 100000
/-- k summers more, uncapped -/
def upM (m : Nat → Int32) (k : Nat) : Nat → Int32 := fun i => if 6 ≤ i ∧ i < 30 then m i + Int32.ofNat k else m i
theorem upM_0 (m : Nat → Int32) : upM m 0 = m := by
  funext i
  unfold upM
  split
  · exact Int32.add_zero _
  · rfl
theorem upM_5 {B : Nat} {m : Nat → Int32} (w : wfm B m) : dst false (upM m 5) 0 15 = 99 := by
  obtain ⟨ng, nv, w1, w2, w3, w4, w5, w6, w7, w8, w9, w10⟩ := w
  have hg : ∀ a b, a < 16 → b < 16 → gp (upM m 5) a b = false := by
    intro a b ha hb
    unfold gp
    by_cases z : hgN a b = 99
    · simp [z]
    · have hlt : hgN a b < 24 := by rcases hg_lt a ha b hb with y | y; exact absurd y z; exact y
      obtain ⟨x, hx, ex⟩ := w5 (hgN a b) hlt
      have : ¬ upM m 5 (6 + hgN a b) < 5 := by
        unfold upM
        rw [if_pos (by omega), ex, iAdd]
        exact fun y => by have := (iLt (b := 5) (by omega) (by omega)).mp y; omega
      simp [this]
  have sp := dst_spec (t := false) (m := upM m 5) (a := 0) (by omega)
  have hle := sp.2 15 (by omega)
  by_cases z : dst false (upM m 5) 0 15 < 99
  · obtain ⟨k, hk⟩ := sp.1.1 15 (by omega) z
    cases k with
    | zero => exact absurd hk.1 (by omega)
    | succ k =>
      obtain ⟨u, w, c', h1, h2, h3⟩ := hk
      obtain ⟨h4, h5, -, h6⟩ := h2
      rcases h6 with ⟨h6, -⟩ | ⟨-, h6, -⟩
      · rw [hg u 15 h4 h5] at h6; cases h6
      · cases h6
  · omega
section qa
variable {Z : aZ} {h h' H : aH} {Rt : Nat → Prop} {q : Nat → Nat} {B B' : Nat} {s s' : tS} {C C' : Nat}
theorem tw_sl20 {m : Nat → Int32} {n : Nat} : wlo t_X3_summersLeft_b20 300 (Int32.ofNat n, 0, sM s (upM m n)) = some (.inl (Int32.ofNat (n + 1), sM s (upM m (n + 1)))) := by
  refine Ok.eq ?_
  refine wlo_for 24 (fun i st => ∃ w, st = (Int32.ofNat n, Int32.ofNat i, sM s w) ∧ ∀ x, w x = if 6 ≤ x ∧ x < 6 + i then upM m (n + 1) x else upM m n x) _ ?_ ?_ (i := 0) ⟨_, rfl, fun x => by rw [if_neg (by omega)]⟩ (by omega) (by omega)
  · rintro i st hi ⟨w, rfl, hw⟩
    refine Or.inl ?_
    unfold t_X3_summersLeft_b20
    dsimp only
    rw [if_neg (show ¬ (24 : Int32) ≤ Int32.ofNat i from fun y => by have := (iLe (a := 24) (by omega) (by omega)).mp y; omega), show (6 : Int32) + Int32.ofNat i = Int32.ofNat (6 + i) from iAdd 6 i, tldM (by omega), Option.bind_some, tstM (by omega), Option.bind_some, iAdd1]
    refine ⟨_, rfl, _, rfl, fun x => ?_⟩
    by_cases z : x = 6 + i
    · subst z
      rw [vu_eq, if_pos (by omega), hw, if_neg (by omega)]
      unfold upM
      rw [if_pos (by omega), if_pos (by omega), ← iAdd1, Int32.add_assoc]
    · rw [vu_ne z, hw]
      by_cases z1 : 6 ≤ x ∧ x < 6 + i
      · rw [if_pos z1, if_pos (by omega)]
      · rw [if_neg z1, if_neg (by omega)]
  · rintro st ⟨w, rfl, hw⟩
    refine ⟨_, rfl, ?_⟩
    have : w = upM m (n + 1) := by
      funext x
      rw [hw]
      by_cases z1 : 6 ≤ x ∧ x < 6 + 24
      · rw [if_pos z1]
      · rw [if_neg z1]; unfold upM; rw [if_neg (by omega), if_neg (by omega)]
    rw [this, iAdd1]
theorem tw_sl53 {m : Nat → Int32} {n : Nat} : t_X3_summersLeft_l51 (sM s (upM m n)) (Int32.ofNat n) = some (Int32.ofNat n, sM s m) := by
  unfold t_X3_summersLeft_l51
  refine Ok.eq ?_
  refine wlo_for 24 (fun i st => ∃ w, st = (Int32.ofNat n, Int32.ofNat i, sM s w) ∧ ∀ x, w x = if 6 ≤ x ∧ x < 6 + i then m x else upM m n x) _ ?_ ?_ (i := 0) ⟨_, rfl, fun x => by rw [if_neg (by omega)]⟩ (by omega) (by omega)
  · rintro i st hi ⟨w, rfl, hw⟩
    refine Or.inl ?_
    unfold t_X3_summersLeft_b53
    dsimp only
    rw [if_neg (show ¬ (24 : Int32) ≤ Int32.ofNat i from fun y => by have := (iLe (a := 24) (by omega) (by omega)).mp y; omega), show (6 : Int32) + Int32.ofNat i = Int32.ofNat (6 + i) from iAdd 6 i, tldM (by omega), Option.bind_some, tstM (by omega), Option.bind_some, iAdd1]
    refine ⟨_, rfl, _, rfl, fun x => ?_⟩
    by_cases z : x = 6 + i
    · subst z
      rw [vu_eq, if_pos (by omega), hw, if_neg (by omega)]
      unfold upM
      rw [if_pos (by omega), Int32.add_sub_cancel]
    · rw [vu_ne z, hw]
      by_cases z1 : 6 ≤ x ∧ x < 6 + i
      · rw [if_pos z1, if_pos (by omega)]
      · rw [if_neg z1, if_neg (by omega)]
  · rintro st ⟨w, rfl, hw⟩
    refine ⟨_, rfl, ?_⟩
    have : w = m := by
      funext x
      rw [hw]
      by_cases z1 : 6 ≤ x ∧ x < 6 + 24
      · rw [if_pos z1]
      · rw [if_neg z1]; unfold upM; rw [if_neg (by omega)]
    rw [this]
theorem sumL_gp {m w : Nat → Int32} {n : Nat} {B : Nat} (wf : wfm B m) (hn : n ≤ 9) (hw : ∀ k, k < 24 → ∀ x, m (6 + k) = Int32.ofNat x → x ≤ 9 → w (6 + k) = Int32.ofNat (min 9 (x + n))) (a b : Nat) (ha : a < 16) (hb : b < 16) : gp w a b = gp (upM m n) a b := by
  obtain ⟨ng, nv, w1, w2, w3, w4, w5, w6, w7, w8, w9, w10⟩ := wf
  unfold gp
  by_cases z : hgN a b = 99
  · simp [z]
  · have hlt : hgN a b < 24 := by rcases hg_lt a ha b hb with y | y; exact absurd y z; exact y
    obtain ⟨x, hx, ex⟩ := w5 (hgN a b) hlt
    have e1 : w (6 + hgN a b) < 5 ↔ x + n < 5 := by
      rw [hw _ hlt x ex hx, show (5 : Int32) = Int32.ofNat 5 from rfl, iLt (by omega) (by omega)]
      omega
    have e2 : upM m n (6 + hgN a b) < 5 ↔ x + n < 5 := by
      unfold upM
      rw [if_pos (by omega), ex, iAdd, show (5 : Int32) = Int32.ofNat 5 from rfl, iLt (by omega) (by omega)]
    simp [z, e1, e2]
theorem dst_congr' {t : Bool} {m m' : Nat → Int32} (h : ∀ a b, a < 16 → b < 16 → gp m a b = gp m' a b) (a : Nat) : dst t m a = dst t m' a := by
  have : eE t m = eE t m' := by
    funext u v w
    unfold eE
    by_cases z : u < 16 ∧ v < 16
    · rw [h u v z.1 z.2]
    · refine propext ⟨fun y => absurd ⟨y.1, y.2.1⟩ z, fun y => absurd ⟨y.1, y.2.1⟩ z⟩
  unfold dst
  rw [this]
theorem co_sumL (k : hOk Z h) (r : Rm Z h 40) (c : cst Z Rt q B h s) : ∃ r s', t_X1_summersLeft Z h (q 0) = some r ∧ t_X3_summersLeft s = some (r.1, s') ∧ hOk Z r.2 ∧ Fr non h r.2 40 ∧ cst Z Rt q B r.2 s' := by
  obtain ⟨C, e, g1, g2, g3, g4⟩ := c.core k (Fr.rf (u := 0))
  have wf := g2.1
  have u5 := upM_5 wf
  obtain ⟨⟨C1, h1⟩, ec, e1, k1, f1, d1⟩ := g2.copy k (r.less (by omega))
  dsimp only at e1 k1 f1 d1
  subst e1
  -- the component
  obtain ⟨r5, e5, n, H, hn, p1, p2, p3, p4, p5⟩ : Ok (wlo (t_X1_summersLeft_b10 Z) 100 (h.2.1, 0, h1)) (fun r => ∃ n H, n ≤ 5 ∧ r = (Int32.ofNat n, H) ∧ hOk Z H ∧ Fr non h H 40 ∧ dst false (upM (s.2 0) n) 0 15 = 99 ∧ ∀ n', n' < n → dst false (upM (s.2 0) n') 0 15 ≠ 99) := by
    refine wlo_for 5 (fun j st => ∃ X w, st = (h.2.1, Int32.ofNat j, X) ∧ hOk Z X ∧ Fr non h X (24 + j) ∧ coreIn Z X h.2.1 X.2.1 h.2.1 w ∧ (∀ k, k < 24 → ∀ x, s.2 0 (6 + k) = Int32.ofNat x → x ≤ 9 → w (6 + k) = Int32.ofNat (min 9 (x + j))) ∧ ∀ n', n' < j → dst false (upM (s.2 0) n') 0 15 ≠ 99) _ ?_ ?_ (i := 0) ⟨h1, s.2 0, rfl, k1, f1, d1, fun k hk x ex hx => by rw [ex, show min 9 (x + 0) = x by omega], fun n' y => by omega⟩ (by omega) (by omega)
    · rintro j st hj ⟨X, w, rfl, kX, fX, dX, hw, hno⟩
      have rX : Rm Z X 10 := Rm.after (u := 24 + j) (v := 10) (r.less (by omega)) fX
      obtain ⟨f, ef⟩ := co_way kX (rX.less (by omega)) dX.lvs dX.isC
      have ed : dst false w 0 15 = dst false (upM (s.2 0) j) 0 15 := by rw [dst_congr' (fun a b ha hb => sumL_gp wf (by omega) hw a b ha hb)]
      have kY : hOk Z (hnew X (aI16 Z f) 16) := kX.new
      have fY : Fr non h (hnew X (aI16 Z f) 16) (25 + j) := (fX.tr (Fr.new (S := non) (by omega)) (fun _ _ z => z)).up (by omega)
      have dY : coreIn Z (hnew X (aI16 Z f) 16) h.2.1 (hnew X (aI16 Z f) 16).2.1 h.2.1 w := dX.keep (fun a q1 q2 => hnew_ne (by omega)) (by rw [hnew_n]; omega) (Nat.le_refl _)
      unfold t_X1_summersLeft_b10
      dsimp only
      rw [if_pos dX.isC, ef, Option.bind_some]
      dsimp only
      by_cases z : dst false w 0 15 = 99
      · rw [if_pos (by simp [z, b2i])]
        exact Or.inr ⟨_, rfl, j, _, by omega, rfl, kY, fY.up (by omega), by rw [← ed]; exact z, hno⟩
      · rw [if_neg (by simp [z, b2i]), if_pos dY.isC]
        obtain ⟨r6, e6, q1, q2, q3, q4⟩ := co_summ kY dY
        rw [e6, Option.bind_some, iAdd1]
        refine Or.inl ⟨_, rfl, r6.2, summ w, rfl, q1, (fY.tr q2 (fun a z1 z2 => by have : h.2.1 ≤ a := z2; omega)).up (by omega), q4, fun k hk x ex hx => ?_, fun n' hn' => ?_⟩
        · unfold summ
          rw [if_neg (by omega), if_pos (by omega), hw k hk x ex hx, iAdd1, show (9 : Int32) = Int32.ofNat 9 from rfl, jmin_of (by omega) (by omega), show min 9 (min 9 (x + j) + 1) = min 9 (x + (j + 1)) by omega]
        · by_cases y : n' = j
          · subst y; rw [← ed]; exact z
          · exact hno n' (by omega)
    · rintro st ⟨X, w, rfl, kX, fX, dX, hw, hno⟩
      have rX : Rm Z X 10 := Rm.after (u := 24 + 5) (v := 10) (r.less (by omega)) fX
      obtain ⟨f, ef⟩ := co_way kX (rX.less (by omega)) dX.lvs dX.isC
      have ed : dst false w 0 15 = dst false (upM (s.2 0) 5) 0 15 := by rw [dst_congr' (fun a b ha hb => sumL_gp wf (by omega) hw a b ha hb)]
      unfold t_X1_summersLeft_b10
      dsimp only
      rw [if_pos dX.isC, ef, Option.bind_some]
      dsimp only
      rw [if_pos (by simp [ed, u5, b2i])]
      exact ⟨_, rfl, 5, _, by omega, rfl, kX.new, (fX.tr (Fr.new (S := non) (by omega)) (fun _ _ z => z)).up (by omega), u5, hno⟩
  -- the twin
  obtain ⟨r6, e6, n', W, p1', p4', p5'⟩ : Ok (wlo t_X3_summersLeft_b7 300 (0, sT s 0)) (fun r => ∃ n W, r = (Int32.ofNat n, sM (sW (sT s 0) W) (s.2 0)) ∧ dst false (upM (s.2 0) n) 0 15 = 99 ∧ ∀ n', n' < n → dst false (upM (s.2 0) n') 0 15 ≠ 99) := by
    refine wlo_for 5 (fun j st => ∃ W, st = (Int32.ofNat j, sM (sW (sT s 0) W) (upM (s.2 0) j)) ∧ ∀ n', n' < j → dst false (upM (s.2 0) n') 0 15 ≠ 99) _ ?_ ?_ (i := 0) ⟨s.2 13, ?_, fun n' y => by omega⟩ (by omega) (by omega)
    · rintro j st hj ⟨W, rfl, hno⟩
      unfold t_X3_summersLeft_b7
      dsimp only
      obtain ⟨r9, e9, W', rfl⟩ := tw_hoursOf (s := sW (sT s 0) W) (m := upM (s.2 0) j) (a := 0) (b := 15) (by omega) (by omega)
      rw [show t_X3_hoursOf (sM (sW (sT s 0) W) (upM (s.2 0) j)) 0 15 = _ from e9, Option.bind_some]
      dsimp only
      have eW : sW (sW (sT s 0) W) W' = sW (sT s 0) W' := by
        unfold sW
        refine Prod.ext rfl ?_
        funext x
        by_cases y : x = 13
        · subst y; dsimp only; rw [vu_eq, vu_eq]
        · dsimp only; rw [vu_ne y, vu_ne y, vu_ne y]
      rw [eW]
      by_cases z : dst false (upM (s.2 0) j) 0 15 = 99
      · rw [z, enc99, if_pos rfl, tw_sl53]
        exact Or.inr ⟨_, rfl, j, W', rfl, z, hno⟩
      · have hle := (dst_spec (t := false) (m := upM (s.2 0) j) (a := 0) (by omega)).2 15 (by omega)
        rw [if_neg (enc_ne (by omega)), tw_sl20]
        refine Or.inl ⟨_, rfl, W', rfl, fun n' hn' => ?_⟩
        by_cases y : n' = j
        · subst y; exact z
        · exact hno n' (by omega)
    · rintro st ⟨W, rfl, hno⟩
      unfold t_X3_summersLeft_b7
      dsimp only
      obtain ⟨r9, e9, W', rfl⟩ := tw_hoursOf (s := sW (sT s 0) W) (m := upM (s.2 0) 5) (a := 0) (b := 15) (by omega) (by omega)
      rw [show t_X3_hoursOf (sM (sW (sT s 0) W) (upM (s.2 0) 5)) 0 15 = _ from e9, Option.bind_some]
      dsimp only
      have eW : sW (sW (sT s 0) W) W' = sW (sT s 0) W' := by
        unfold sW
        refine Prod.ext rfl ?_
        funext x
        by_cases y : x = 13
        · subst y; dsimp only; rw [vu_eq, vu_eq]
        · dsimp only; rw [vu_ne y, vu_ne y, vu_ne y]
      rw [eW, u5, enc99, if_pos rfl, tw_sl53]
      exact ⟨_, rfl, 5, W', rfl, u5, hno⟩
    · rw [upM_0]
      show (0, sT s 0) = (Int32.ofNat 0, sM (sW (sT s 0) ((sT s 0).2 13)) ((sT s 0).2 0))
      rw [sW_same, sM_same]
      rfl
  have ev : n = n' := by
    rcases Nat.lt_trichotomy n n' with y | y | y
    · exact absurd p4 (p5' n y)
    · exact y
    · exact absurd p4' (p5 n' y)
  subst ev
  refine ⟨(Int32.ofNat n, H), sM (sW (sT s 0) W) (s.2 0), ?_, ?_, p2, p3, (c.grow k p3).cong ?_⟩
  · unfold t_X1_summersLeft
    rw [g1, Option.bind_some, if_pos g3, ec, Option.bind_some]
    dsimp only
    rw [e5, p1]
  · unfold t_X3_summersLeft tpf
    rw [Option.bind_some]
    show wlo t_X3_summersLeft_b7 300 (0, sT s 0) = _
    rw [e6, p1']
  · have : sM (sW (sT s 0) W) (s.2 0) = sW (sT s 0) W := by
      have := sM_same (sW (sT s 0) W)
      rw [sW_0] at this
      exact this
    rw [this]
    exact (vEq_T 0).tr (vEq_W W)
end qa
