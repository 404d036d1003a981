/-! the core's changes meet what is said of them -/
set_option maxRecDepth 100000
def coOk (Z : aZ) (lo o : Nat) (h : aH) (u : Nat) (sp : spR) (r : (Int32 ⊕ aXX) × aH) : Prop := hOk Z r.2 ∧ Fr (fun a => lo ≤ a) h r.2 u ∧ match sp with
  | .inl (v, m') => r.1 = .inl v ∧ coreIn Z r.2 lo r.2.2.1 o m'
  | .inr (a, b) => ∃ q, r.1 = .inr ("MazeBonds$RefusedException", q) ∧ h.2.1 ≤ q ∧ r.2.1 q = some (rfs a b 0)
theorem coOk_ref {Z : aZ} {lo o : Nat} {h0 h : aH} {u u' : Nat} {a b : Int32} (k : hOk Z h) (f : Fr (fun a => lo ≤ a) h0 h u) (hu : u + 1 ≤ u') : coOk Z lo o h0 u' (.inr (a, b)) (.inr ("MazeBonds$RefusedException", h.2.1), hnew h (rfs a b 0) 9) :=
  ⟨k.new, (f.tr (Fr.new (S := fun a => lo ≤ a) (by omega)) (fun a _ q => q)).up hu, h.2.1, rfl, f.2.1, hnew_at⟩
theorem coOk_go {Z : aZ} {lo o : Nat} {h0 h : aH} {u u' : Nat} {v : Int32} {m' : Nat → Int32} {L G V eG eV : Nat} {gs vs : Nat → Nat} {ng nv : Nat} {mG mV : Int32} (k : hOk Z h) (f : Fr (fun a => lo ≤ a) h0 h u) (hu : u ≤ u') (c : coreR Z h lo h.2.1 o m' L G V eG eV gs vs ng nv mG mV) : coOk Z lo o h0 u' (.inl (v, m')) (.inl v, h) :=
  ⟨k, f.up hu, rfl, L, G, V, eG, eV, gs, vs, ng, nv, mG, mV, c⟩
/-- two cells asked for -/
def c2 (a b : Int32) : Nat → Int32 := va_up (va_up (fun _ => 0) 0 a) 1 b
theorem mk2 {Z : aZ} {h : aH} {a b : Int32} {β : Type} {K : aH → Option β} (k : hOk Z h) (r : Rm Z h 1) : ((nwA Z h 2 (fun N => .inl (zI Z, N, .inl fun _ => 0))).bind fun h1 => (stI Z h1 h.2.1 0 a).bind fun h4 => (stI Z h4 h.2.1 1 b).bind K) = K (hnew h (.inl (zI Z, 2, .inl (c2 a b))) 2) := by
  rw [show (2 : Int32) = Int32.ofNat 2 from rfl, nwA_of r (by omega), Option.bind_some]
  have e1 : stI Z (hnew h (.inl (zI Z, 2, .inl fun _ => 0)) 2) h.2.1 0 a = some (hnew h (.inl (zI Z, 2, .inl (va_up (fun _ => 0) 0 a))) 2) := by
    have := stI_of (i := 0) (x := a) (hnew_at (h := h) (e := .inl (zI Z, 2, .inl fun _ => 0)) (n := 2)) (by omega) (by omega) k.1
    rw [hset_hnew] at this
    exact this
  have e2 : stI Z (hnew h (.inl (zI Z, 2, .inl (va_up (fun _ => 0) 0 a))) 2) h.2.1 1 b = some (hnew h (.inl (zI Z, 2, .inl (c2 a b))) 2) := by
    have := stI_of (i := 1) (x := b) (hnew_at (h := h) (e := .inl (zI Z, 2, .inl (va_up (fun _ => 0) 0 a))) (n := 2)) (by omega) (by omega) k.1
    rw [hset_hnew] at this
    exact this
  rw [e1, Option.bind_some, e2, Option.bind_some]
theorem mk1 {Z : aZ} {h : aH} {a : Int32} {β : Type} {K : aH → Option β} (k : hOk Z h) (r : Rm Z h 1) : ((nwA Z h 1 (fun N => .inl (zI Z, N, .inl fun _ => 0))).bind fun h1 => (stI Z h1 h.2.1 0 a).bind K) = K (hnew h (.inl (zI Z, 1, .inl (va_up (fun _ => 0) 0 a))) 1) := by
  rw [show (1 : Int32) = Int32.ofNat 1 from rfl, nwA_of r (by omega), Option.bind_some]
  have e1 : stI Z (hnew h (.inl (zI Z, 1, .inl fun _ => 0)) 1) h.2.1 0 a = some (hnew h (.inl (zI Z, 1, .inl (va_up (fun _ => 0) 0 a))) 1) := by
    have := stI_of (i := 0) (x := a) (hnew_at (h := h) (e := .inl (zI Z, 1, .inl fun _ => 0)) (n := 1)) (by omega) (by omega) k.1
    rw [hset_hnew] at this
    exact this
  rw [e1, Option.bind_some]
theorem b2i_and (a b : Bool) : b2i a &&& b2i b = b2i (a && b) := by cases a <;> cases b <;> decide
theorem one_and (a : Bool) : (1 : Int32) &&& b2i a = b2i a := by cases a <;> decide
theorem areC2 {Z : aZ} {h : aH} {a b : Int32} : t_X1_areCells Z (hnew h (.inl (zI Z, 2, .inl (c2 a b))) 2) h.2.1 = some (b2i (inR a 0 15 && inR b 0 15), hnew h (.inl (zI Z, 2, .inl (c2 a b))) 2) := by
  unfold t_X1_areCells
  rw [alen_I hnew_at, Option.bind_some]
  have l0 : ldI Z (hnew h (.inl (zI Z, 2, .inl (c2 a b))) 2) h.2.1 0 = some a := ldI_of (i := 0) hnew_at (by omega) (by omega)
  have l1 : ldI Z (hnew h (.inl (zI Z, 2, .inl (c2 a b))) 2) h.2.1 (0 + 1) = some b := ldI_of (i := 1) hnew_at (by omega) (by omega)
  unfold wlo t_X1_areCells_b10
  dsimp only
  rw [if_neg (by decide), l0, Option.bind_some, co_isIn, Option.bind_some]
  dsimp only
  unfold wlo
  dsimp only
  rw [if_neg (by decide), l1, Option.bind_some, co_isIn, Option.bind_some]
  dsimp only
  unfold wlo
  dsimp only
  rw [if_pos (by decide), one_and, b2i_and, if_pos (b2i_01 _)]
theorem areC1 {Z : aZ} {h : aH} {a : Int32} : t_X1_areCells Z (hnew h (.inl (zI Z, 1, .inl (va_up (fun _ => 0) 0 a))) 1) h.2.1 = some (b2i (inR a 0 15), hnew h (.inl (zI Z, 1, .inl (va_up (fun _ => 0) 0 a))) 1) := by
  unfold t_X1_areCells
  rw [alen_I hnew_at, Option.bind_some]
  have l0 : ldI Z (hnew h (.inl (zI Z, 1, .inl (va_up (fun _ => 0) 0 a))) 1) h.2.1 0 = some a := ldI_of (i := 0) hnew_at (by omega) (by omega)
  unfold wlo t_X1_areCells_b10
  dsimp only
  rw [if_neg (by decide), l0, Option.bind_some, co_isIn, Option.bind_some]
  dsimp only
  unfold wlo
  dsimp only
  rw [if_pos (by decide), one_and, if_pos (b2i_01 _)]
theorem range_ok {Z : aZ} {h : aH} : t_X1_requireRange Z h (b2i true) = some (.inl (), h) := rfl
theorem range_no {Z : aZ} {h : aH} (k : hOk Z h) (r : Rm Z h 1) : t_X1_requireRange Z h (b2i false) = some (.inr ("MazeBonds$RefusedException", h.2.1), hnew h (rfs 1 0 0) 9) := by
  unfold t_X1_requireRange t_X1_requireRange_l9
  rw [if_pos (by decide), refuse_yes k r]
  rfl
theorem reqH_no {Z : aZ} {h : aH} {o i j : Nat} (k : hOk Z h) (r : Rm Z h 1) (hi : i < 16) (hj : j < 16) (q : hgN i j = 99) : t_X2_requireHedge Z h o (Int32.ofNat i) (Int32.ofNat j) = some (.inr ("MazeBonds$RefusedException", h.2.1), hnew h (rfs 2 (jmax (Int32.ofNat i) (Int32.ofNat j)) 0) 9) := by
  unfold t_X2_requireHedge t_X2_requireHedge_l14
  rw [(enc_hg i hi j hj).1, Option.bind_some, q, enc99, if_pos rfl, refuse_yes k r]
  rfl
theorem reqH_ok {Z : aZ} {h : aH} {o i j : Nat} (hi : i < 16) (hj : j < 16) (q : hgN i j ≠ 99) : t_X2_requireHedge Z h o (Int32.ofNat i) (Int32.ofNat j) = some (.inl (Int32.ofNat (hgN i j)), h) := by
  have := hg_lt i hi j hj
  unfold t_X2_requireHedge t_X2_requireHedge_l14
  rw [(enc_hg i hi j hj).1, Option.bind_some, enc_of q, if_neg (iNeg (by omega)), refuse_no, Option.bind_some]
  rfl
section ops
variable {Z : aZ} {h : aH} {lo o : Nat} {m : Nat → Int32} {L G V eG eV : Nat} {gs vs : Nat → Nat} {ng nv : Nat} {mG mV : Int32}
theorem isG {g : Int32} {hi : Nat} (c : coreR Z h lo hi o m L G V eG eV gs vs ng nv mG mV) : t_X2_isGardener Z h o g = some (b2i (inR g 0 (m 0 - 1)), h) := by
  obtain ⟨c1, -, c4, c5, c6, -⟩ := id c
  unfold t_X2_isGardener
  rw [gA_of (k := 1) c1 rfl, Option.bind_some, if_pos c5.isC, c5.size, Option.bind_some, co_isIn, Option.bind_some, ← c4.1, if_pos (b2i_01 _)]
theorem reqG {g : Int32} (k : hOk Z h) (r : Rm Z h 1) {hi : Nat} (c : coreR Z h lo hi o m L G V eG eV gs vs ng nv mG mV) : t_X2_requireGardener Z h o g = if inR g 0 (m 0 - 1) = false then some (.inr ("MazeBonds$RefusedException", h.2.1), hnew h (rfs 4 (m 0) 0) 9) else some (.inl (gs (cN g)), h) := by
  obtain ⟨c1, -, c4, c5, c6, c7, c8, -⟩ := id c
  unfold t_X2_requireGardener
  rw [if_pos (isC_of c1), isG c, Option.bind_some]
  dsimp only
  rw [b2i_if]
  unfold t_X2_requireGardener_l13
  by_cases h1 : inR g 0 (m 0 - 1) = false
  · rw [if_pos h1, if_pos h1, gA_of (k := 1) c1 rfl, Option.bind_some, if_pos c5.isC, c5.size, Option.bind_some, ← c4.1, refuse_yes k r]; rfl
  · rw [if_neg h1, if_neg h1, gA_of (k := 1) c1 rfl, Option.bind_some, if_pos c5.isC, c5.size, Option.bind_some, ← c4.1, refuse_no, Option.bind_some]
    rw [c4.1] at h1
    obtain ⟨n, hn, rfl⟩ := inR_idx (by have := c4.2.2; omega) h1
    dsimp only
    rw [gA_of (k := 1) c1 rfl, Option.bind_some, if_pos c5.isC, c5.get hn, Option.bind_some, if_pos (isC_of (c7 n hn).1), cN_of (by have := c4.2.2; omega)]
theorem isV {g : Int32} {hi : Nat} (c : coreR Z h lo hi o m L G V eG eV gs vs ng nv mG mV) : t_X2_isVisitor Z h o g = some (b2i (inR g 0 (m 1 - 1)), h) := by
  obtain ⟨c1, -, c4, c5, c6, -⟩ := id c
  unfold t_X2_isVisitor
  rw [gA_of (k := 2) c1 rfl, Option.bind_some, if_pos c6.isC, c6.size, Option.bind_some, co_isIn, Option.bind_some, ← c4.2.1, if_pos (b2i_01 _)]
theorem reqV {g : Int32} (k : hOk Z h) (r : Rm Z h 1) {hi : Nat} (c : coreR Z h lo hi o m L G V eG eV gs vs ng nv mG mV) : t_X2_requireVisitor Z h o g = if inR g 0 (m 1 - 1) = false then some (.inr ("MazeBonds$RefusedException", h.2.1), hnew h (rfs 7 (m 1) 0) 9) else some (.inl (vs (cN g)), h) := by
  obtain ⟨c1, -, c4, c5, c6, c7, c8, -⟩ := id c
  unfold t_X2_requireVisitor
  rw [if_pos (isC_of c1), isV c, Option.bind_some]
  dsimp only
  rw [b2i_if]
  unfold t_X2_requireVisitor_l13
  by_cases h1 : inR g 0 (m 1 - 1) = false
  · rw [if_pos h1, if_pos h1, gA_of (k := 2) c1 rfl, Option.bind_some, if_pos c6.isC, c6.size, Option.bind_some, ← c4.2.1, refuse_yes k r]; rfl
  · rw [if_neg h1, if_neg h1, gA_of (k := 2) c1 rfl, Option.bind_some, if_pos c6.isC, c6.size, Option.bind_some, ← c4.2.1, refuse_no, Option.bind_some]
    rw [c4.2.1] at h1
    obtain ⟨n, hn, rfl⟩ := inR_idx (by have := c4.2.2; omega) h1
    dsimp only
    rw [gA_of (k := 2) c1 rfl, Option.bind_some, if_pos c6.isC, c6.get hn, Option.bind_some, if_pos (isC_of (c8 n hn).1), cN_of (by have := c4.2.2; omega)]
theorem co_hedge {a b t : Int32} (k : hOk Z h) (r : Rm Z h 4) (c : coreIn Z h lo h.2.1 o m) : Ok (t_X2_hedge Z h o a b t) (coOk Z lo o h 4 (sp_hedge m a b t)) := by
  obtain ⟨L, G, V, eG, eV, gs, vs, ng, nv, mG, mV, c⟩ := c
  unfold t_X2_hedge sp_hedge t_X2_hedge_l31
  rw [mk2 k (r.less (by omega)), areC2, Option.bind_some]
  dsimp only
  rw [b2i_if, co_isIn, Option.bind_some, b2i_if]
  have f1 : Fr (fun a => lo ≤ a) h (hnew h (.inl (zI Z, 2, .inl (c2 a b))) 2) 1 := Fr.new (by omega)
  have k1 : hOk Z (hnew h (.inl (zI Z, 2, .inl (c2 a b))) 2) := k.new
  have c1 := c.keep (h' := hnew h (.inl (zI Z, 2, .inl (c2 a b))) 2) (fun x q1 q2 => hnew_ne (by omega)) (by rw [hnew_n]; omega) (Nat.le_refl _)
  have r1 : Rm Z (hnew h (.inl (zI Z, 2, .inl (c2 a b))) 2) 3 := Rm.after (u := 1) r f1
  generalize hnew h (.inl (zI Z, 2, .inl (c2 a b))) 2 = h1 at *
  have no : Ok (t_X2_hedge_l32 Z h1 o a b t 0) (coOk Z lo o h 4 (.inr (1, 0))) := by
    unfold t_X2_hedge_l32
    rw [show (0 : Int32) = b2i false from rfl, range_no k1 (r1.less (by omega)), Option.bind_some]
    exact Ok.ret (coOk_ref k1 f1 (by omega))
  by_cases g1 : (inR a 0 15 && inR b 0 15) = false
  · rw [if_pos g1, if_pos (by rw [g1]; rfl)]; exact no
  · rw [if_neg g1]
    by_cases g2 : inR t 0 9 = false
    · rw [if_pos g2, if_pos (by rw [g2, Bool.and_false])]; exact no
    · have e2 : inR t 0 9 = true := by simpa using g2
      rw [if_neg g2, if_neg (by rw [e2, Bool.and_true]; exact g1)]
      simp at g1
      obtain ⟨i, hi, rfl⟩ := inR_le (n := 15) (x := a) (by omega) (by rw [show (Int32.ofNat 15) = 15 from rfl]; simp [g1.1])
      obtain ⟨j, hj, rfl⟩ := inR_le (n := 15) (x := b) (by omega) (by rw [show (Int32.ofNat 15) = 15 from rfl]; simp [g1.2])
      rw [cN_of (by omega), cN_of (by omega)]
      obtain ⟨o1, ⟨f, o2, o3⟩, o4, -⟩ := id c1
      unfold t_X2_hedge_l32
      rw [show (1 : Int32) = b2i true from rfl, range_ok, Option.bind_some]
      dsimp only
      rw [if_pos (isC_of o1)]
      by_cases q : hgN i j = 99
      · rw [if_pos q, reqH_no k1 (r1.less (by omega)) (by omega) (by omega) q, Option.bind_some]
        exact Ok.ret (coOk_ref k1 f1 (by omega))
      · have hk := hg_lt i (by omega) j (by omega)
        rw [if_neg q, reqH_ok (by omega) (by omega) q, Option.bind_some]
        dsimp only
        rw [gA_of (k := 0) o1 rfl, Option.bind_some, ldI_of o2 (by omega) (by omega), Option.bind_some, o3 _ (by omega)]
        unfold t_X2_hedge_l63
        by_cases w : m (6 + hgN i j) = t
        · rw [if_pos w, if_pos w, show b2i true = 1 from rfl, refuse_yes k1 (r1.less (by omega)), Option.bind_some]
          exact Ok.ret (coOk_ref k1 f1 (by omega))
        · rw [if_neg w, if_neg w, refuse_no, Option.bind_some]
          dsimp only
          have hzL := (c1.2.2.2.2.2.2.2.2.2.2.2.1).1
          have hz0 := (c1.2.2.2.2.2.2.2.2.2.2.2.2.2.2.2.2).1
          rw [gA_of (k := 0) o1 rfl, Option.bind_some, stI_of o2 (by omega) (by omega) (by omega), Option.bind_some]
          have hLl := k1.2.1 L _ o2
          exact Ok.ret (coOk_go (k1.set (by omega) hLl) (f1.tr (Fr.set (S := fun a => lo ≤ a) hzL) (fun x _ q => q)) (by omega) (c1.leaf k1 o2 (by omega)))
end ops
