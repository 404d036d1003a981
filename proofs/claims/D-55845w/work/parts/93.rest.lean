/-! restore; the outer calls -/
set_option maxRecDepth 100000
section un
variable {Z : aZ} {h h' H : aH} {Rt : Nat → Prop} {q : Nat → Nat} {B B' : Nat} {s s' : tS} {C C' : Nat} {sv sv' lt : Option Nat} {mB mB' : Int32} {e n n' : Nat} {ps ps' : Nat → Nat}
theorem cstR.lt0 (k : hOk Z h) (c : cstR Z Rt q B h s C sv lt mB e n ps) {a : Nat} (z : av Rt q e a) : a < h.2.1 := by
  obtain ⟨ql1, ql2, ql3⟩ := c.qlt k
  rcases z with z | z
  · exact (c.2.2.2.2.2.2.2.2.2.1 a z).1
  · unfold wr at z
    rcases z with z | z | z | z | z | z
    · rw [z]; exact (ql1 0 (by omega)).1
    · rw [z]; exact (ql1 1 (by omega)).1
    · rw [z]; exact (ql1 2 (by omega)).1
    · rw [z]; exact (ql1 3 (by omega)).1
    · rw [z]; exact (ql1 4 (by omega)).1
    · by_cases z9 : z0 Z ≤ e
      · rw [z]; exact ql2 z9
      · have := k.1; omega
theorem co_restore (k : hOk Z h) (r : Rm Z h 24) (c : cst Z Rt q B h s) : x1Ok Z Rt q B 24 h (t_X1_restore Z h (q 0)) (t_X3_restore s) (cd1 "java/lang/IllegalStateException") := by
  have c0 := c
  obtain ⟨C, sv, lt, mB, e, n, ps, c⟩ := c
  rcases c.2.2.2.2.2.1 with ⟨rfl, s3⟩ | ⟨S, rfl, s3, cS⟩
  · refine x1_no (H := hnew h (.inr (16, [])) 6) (v := -1) (c9 := 1) (nm := "java/lang/IllegalStateException") (a := h.2.1) c0 k k.new ((Fr.new (by omega)).up (by omega)) ?_ ?_ (by unfold cd1; rw [if_pos rfl]) (by decide)
    · unfold t_X1_restore t_X1_restore_l12
      rw [gO_of (k := 2) (x := none) c.1 rfl, Option.bind_some]
      dsimp only
      rw [state_no k (r.less (by omega)), Option.bind_some]
    · unfold t_X3_restore tpf
      rw [Option.bind_some]
      dsimp only
      rw [if_pos (show va_up s.1 12 0 3 = 0 by rw [vu_ne (by omega)]; exact s3)]
      show some (-1, sT (sT s 0) 1) = _
      rw [sT_sT]
  · obtain ⟨rt, et, t1, t2, t3, t4, t5, t6⟩ := tw_restore (s := s) (by rw [s3]; decide)
    obtain ⟨⟨C1, h1⟩, ec, e1, k1, f1, d1⟩ := cS.copy k r
    dsimp only at e1 k1 f1 d1
    subst e1
    have cR : cstR Z Rt q B h1 s C (some S) lt mB e n ps := c.ext k (f1.mono (fun _ _ z => z.elim) (Nat.le_refl _))
    obtain ⟨ql1, ql2, ql3⟩ := cR.qlt k1
    obtain ⟨ap1, ap2⟩ := cR.apart k1
    have cn : crd Z h1 (av Rt q e) B h.2.1 (s.2 2) := crd.of cS.1 d1 (fun a z => c.lt0 k z)
    obtain ⟨c1, c2, c3, c4, c5, c6, c7, c8, c9, c11, c12⟩ := id cR
    have f3 : Fr (fun x => x = q 0 ∨ x = q 1 ∨ x = e) h1 (hset h1 (q 0) (.inr (0, [Value.ref C, .ref (q 1), va_rf (some S), va_rf lt, .ref (q 2), .int (s.1 11), .int (s.1 9), .ref (q 3)].set 0 (.ref h.2.1)))) 0 := Fr.set (S := fun x => x = q 0 ∨ x = q 1 ∨ x = e) (Or.inl rfl)
    have k3 := k1.set (e := .inr (0, [Value.ref C, .ref (q 1), va_rf (some S), va_rf lt, .ref (q 2), .int (s.1 11), .int (s.1 9), .ref (q 3)].set 0 (.ref h.2.1))) (c12 0 (by omega)) (ql1 0 (by omega)).1
    have a3 : (hset h1 (q 0) (.inr (0, [Value.ref C, .ref (q 1), va_rf (some S), va_rf lt, .ref (q 2), .int (s.1 11), .int (s.1 9), .ref (q 3)].set 0 (.ref h.2.1)))).1 (q 0) = some (cEnt h.2.1 q (some S) lt (s.1 11) (s.1 9)) := by rw [hset_at]; rfl
    have l3 := c2.keep (h' := hset h1 (q 0) (.inr (0, [Value.ref C, .ref (q 1), va_rf (some S), va_rf lt, .ref (q 2), .int (s.1 11), .int (s.1 9), .ref (q 3)].set 0 (.ref h.2.1)))) (hset_ne (ap1 1 0 (by omega) (by omega) (by omega))) (fun z => hset_ne (ap2 0 (by omega)).symm)
    have ex : t_X1_restore Z h (q 0) = (gA 0 1 (hset h1 (q 0) (.inr (0, [Value.ref C, .ref (q 1), va_rf (some S), va_rf lt, .ref (q 2), .int (s.1 11), .int (s.1 9), .ref (q 3)].set 0 (.ref h.2.1)))) (q 0)).bind fun a20 =>
        if isC 8 (hset h1 (q 0) (.inr (0, [Value.ref C, .ref (q 1), va_rf (some S), va_rf lt, .ref (q 2), .int (s.1 11), .int (s.1 9), .ref (q 3)].set 0 (.ref h.2.1)))) a20 = true then
        (t_J2_clear Z (hset h1 (q 0) (.inr (0, [Value.ref C, .ref (q 1), va_rf (some S), va_rf lt, .ref (q 2), .int (s.1 11), .int (s.1 9), .ref (q 3)].set 0 (.ref h.2.1)))) a20).bind fun r24 =>
        (gA 0 0 r24.2 (q 0)).bind fun a27 =>
        (gA 1 2 r24.2 a27).bind fun a29 =>
        if isC 8 r24.2 a29 = true then
        (t_J2_size Z r24.2 a29).bind fun r33 =>
        some (.inl r33.1, r33.2)
        else none
        else none := by
      unfold t_X1_restore t_X1_restore_l12
      rw [gO_of (k := 2) (x := some S) c.1 rfl, Option.bind_some]
      dsimp only
      rw [show t_X1_requireState Z h 1 = some (.inl (), h) from rfl, Option.bind_some]
      dsimp only
      rw [gA_of (k := 2) (x := S) c.1 rfl, Option.bind_some, if_pos cS.isC, ec, Option.bind_some]
      dsimp only
      rw [pF_of c1 (Nat.le_of_ble_eq_true rfl) (c12 0 (by omega)), Option.bind_some]
    generalize hset h1 (q 0) (.inr (0, [Value.ref C, .ref (q 1), va_rf (some S), va_rf lt, .ref (q 2), .int (s.1 11), .int (s.1 9), .ref (q 3)].set 0 (.ref h.2.1))) = H3 at f3 k3 a3 l3 ex
    rw [gA_of (k := 1) a3 rfl, Option.bind_some, if_pos l3.isC] at ex
    obtain ⟨r4, e4, p1, p2, p3⟩ := lst_clear k3 l3
    have f4 : Fr (fun x => x = q 0 ∨ x = q 1 ∨ x = e) h1 r4.2 0 := f3.tr p2 (fun a _ z => by rcases z with z | ⟨z, -⟩; exact Or.inr (Or.inl z); exact Or.inr (Or.inr z))
    have a4 : r4.2.1 (q 0) = some (cEnt h.2.1 q (some S) lt (s.1 11) (s.1 9)) := by
      rw [p2.1 (q 0) (k3.2.1 _ _ a3) (by rintro (z | ⟨z, -⟩); exact ap1 0 1 (by omega) (by omega) (by omega) z; exact ap2 0 (by omega) z)]
      exact a3
    have cn4 := cn.fr f4 (fun a _ z => Or.inr (by unfold wr; rcases z with z | z | z <;> simp [z]))
    obtain ⟨V, v1, v2, v3⟩ := crd_vsize cn4
    rw [e4, Option.bind_some, gA_of (k := 0) a4 rfl, Option.bind_some, v1, Option.bind_some, if_pos v2, v3, Option.bind_some] at ex
    refine ⟨_, rt.1, rt.2, ex, et, p3, (f1.nRt.tr' (f4.wrN k1 cR)).up (by omega), ?_, Or.inl ⟨by rw [t1], t4⟩⟩
    refine cR.root (H := r4.2) (C' := h.2.1) (sv' := some S) (n' := 0) k1 f4 (by rw [t2 11 (by omega) (by omega), t2 9 (by omega) (by omega)]; exact a4) p1 ⟨by omega, t3⟩ (cn.cong t6) (fun j hj => by omega) ?_ (fun k hk => ?_) (t5 10 (by omega)) (t5 19 (by omega)) ?_
    · unfold svOk; rw [t2 3 (by omega) (by omega), t5 2 (by omega)]; exact c6
    · simp only [List.mem_cons, List.not_mem_nil, or_false] at hk
      exact t2 k (by omega) (by omega)
    · obtain ⟨tf, l, -, -, d1, d2⟩ := c8
      exact ⟨l, d1, by rw [t2 11 (by omega) (by omega)]; exact d2⟩
/-! the law's helpers -/
def w0a (Z : aZ) (h : aH) (o v3 : Nat) (x : Option ((Int32 ⊕ aXX) × aH)) (nm : String) : Option (Int32 × aH) :=
  if isC 0 h o = true then
  x.bind fun r4 =>
  (match r4 with
  | (.inl y6, h7) =>
    (stJ Z h7 v3 0 ((y6 : Int32).toInt64)).bind fun h9 =>
    some (0, h9)
  | (.inr y6, h7) =>
    if y6.1 = nm then
      some (1, h7)
    else
      none
  )
  else none
def w0b (Z : aZ) (h : aH) (o v3 : Nat) (x : Option ((Int32 ⊕ aXX) × aH)) (nm : String) (a : Int32) (nm' : String) (b : Int32) : Option (Int32 × aH) :=
  if isC 0 h o = true then
  x.bind fun r4 =>
  (match r4 with
  | (.inl y6, h7) =>
    (stJ Z h7 v3 0 ((y6 : Int32).toInt64)).bind fun h9 =>
    some (0, h9)
  | (.inr y6, h7) =>
    if y6.1 = nm then
      some (a, h7)
    else
      if y6.1 = nm' then
        some (b, h7)
      else
        none
  )
  else none
def jAt (Z : aZ) (h : aH) (v3 : Nat) : Prop := z0 Z ≤ v3 ∧ ∃ f, h.1 v3 = some (.inl (zJ Z, 1, .inr (.inl f)))
/-- .. and what they give, beside the twin -/
def x0Ok (Z : aZ) (Rt : Nat → Prop) (q : Nat → Nat) (B u : Nat) (h : aH) (v3 : Nat) (x : Option (Int32 × aH)) (t : Option (Int32 × tS)) : Prop :=
  ∃ r v s', x = some r ∧ t = some (v, s') ∧ hOk Z r.2 ∧ Fr (fun a => ¬ Rt a ∨ a = v3) h r.2 u ∧ cst Z Rt q B r.2 s' ∧ s'.1 12 = r.1 ∧ (r.1 = 0 → ldJ Z r.2 v3 0 = some v.toInt64) ∧ jAt Z r.2 v3
theorem stJ_of {v3 : Nat} {x : Int64} (j : jAt Z h v3) : ∃ H, stJ Z h v3 0 x = some H ∧ ldJ Z H v3 0 = some x ∧ jAt Z H v3 ∧ Fr (fun a => a = v3) h H 0 ∧ ∀ (k : hOk Z h), hOk Z H := by
  obtain ⟨hz, f, hf⟩ := j
  have hi : inb 0 1 := by decide
  refine ⟨hset h v3 (.inl (zJ Z, 1, .inr (.inl (va_up f 0 x)))), ?_, ?_, ⟨hz, _, hset_at⟩, Fr.set rfl, fun k => k.set hz (k.2.1 _ _ hf)⟩
  · unfold stJ
    rw [hf]
    dsimp only
    rw [if_pos ⟨rfl, hi, hz⟩]
    rfl
  · unfold ldJ
    rw [hset_at]
    dsimp only
    rw [if_pos ⟨rfl, hi⟩]
    show some (va_up f 0 x 0) = _
    rw [vu_eq]
theorem jAt.keep {v3 : Nat} (j : jAt Z h v3) (e : h'.1 v3 = h.1 v3) : jAt Z h' v3 := ⟨j.1, by rw [e]; exact j.2⟩
theorem x0_of {u v3 : Nat} {x : Option ((Int32 ⊕ aXX) × aH)} {t : Option (Int32 × tS)} {cd : String → Int32} {y : Option (Int32 × aH)} (hx : x1Ok Z Rt q B u h x t cd) (hR : Rt v3) (j : jAt Z h v3) (k : hOk Z h)
    (h1 : ∀ v H, x = some (.inl v, H) → y = (stJ Z H v3 0 v.toInt64).bind fun h9 => some (0, h9)) (h2 : ∀ nm a H, x = some (.inr (nm, a), H) → cd nm ≠ 0 → y = some (cd nm, H)) : x0Ok Z Rt q B u h v3 y t := by
  obtain ⟨⟨r1, H⟩, v, s', e1, e2, p1, p2, p3, p4⟩ := hx
  dsimp only at p1 p2 p3 p4
  have hv3 := k.2.1 _ _ j.2.choose_spec
  have jH : jAt Z H v3 := j.keep (p2.1 v3 hv3 (fun z => z hR))
  rcases p4 with ⟨p4, p5⟩ | ⟨nm, a, p4, p5, p6⟩
  · subst p4
    obtain ⟨H2, g1, g2, g3, g4, g5⟩ := stJ_of (x := v.toInt64) jH
    refine ⟨(0, H2), v, s', by rw [h1 v H e1, g1]; rfl, e2, g5 p1, ?_, p3.ext p1 (g4.mono (fun a _ z => by rw [z]; exact hR) (Nat.le_refl _)), p5, fun _ => g2, g3⟩
    exact (p2.mono (fun a _ z => Or.inl z) (Nat.le_refl _)).tr (g4.mono (S' := fun a => ¬ Rt a ∨ a = v3) (fun a _ z => Or.inr z) (Nat.le_refl _)) (fun a _ z => z)
  · subst p4
    refine ⟨(cd nm, H), v, s', h2 nm a H e1 p6, e2, p1, p2.mono (fun a _ z => Or.inl z) (Nat.le_refl _), p3, p5, fun z => absurd z p6, jH⟩
theorem w0a_ok {u v3 : Nat} {x : Option ((Int32 ⊕ aXX) × aH)} {t : Option (Int32 × tS)} {nm : String} (hx : x1Ok Z Rt q B u h x t (cd1 nm)) (c : cst Z Rt q B' h s) (hR : Rt v3) (j : jAt Z h v3) (k : hOk Z h) : x0Ok Z Rt q B u h v3 (w0a Z h (q 0) v3 x nm) t := by
  obtain ⟨C, sv, lt, mB, e, n, ps, c⟩ := c
  refine x0_of hx hR j k (fun v H e => ?_) (fun nm' a H e h0 => ?_)
  · unfold w0a
    rw [if_pos (isC_of c.1), e]; rfl
  · unfold w0a
    rw [if_pos (isC_of c.1), e]
    unfold cd1 at h0 ⊢
    have : nm' = nm := by
      by_cases z : nm' = nm
      · exact z
      · rw [if_neg z] at h0; exact absurd rfl h0
    rw [if_pos this]
    show (if nm' = nm then _ else _) = _
    rw [if_pos this]
theorem w0b_ok {u v3 : Nat} {x : Option ((Int32 ⊕ aXX) × aH)} {t : Option (Int32 × tS)} {nm nm' : String} {a b : Int32} (hx : x1Ok Z Rt q B u h x t (cd2 nm a nm' b)) (c : cst Z Rt q B' h s) (hR : Rt v3) (j : jAt Z h v3) (k : hOk Z h) : x0Ok Z Rt q B u h v3 (w0b Z h (q 0) v3 x nm a nm' b) t := by
  obtain ⟨C, sv, lt, mB, e, n, ps, c⟩ := c
  refine x0_of hx hR j k (fun v H e => ?_) (fun nm9 a9 H e h0 => ?_)
  · unfold w0b
    rw [if_pos (isC_of c.1), e]; rfl
  · unfold w0b
    rw [if_pos (isC_of c.1), e]
    show (if nm9 = nm then some (a, H) else if nm9 = nm' then some (b, H) else none) = _
    unfold cd2 at h0 ⊢
    by_cases z : nm9 = nm
    · rw [if_pos z, if_pos z]
    · rw [if_neg z] at h0 ⊢
      rw [if_neg z]
      by_cases z1 : nm9 = nm'
      · rw [if_pos z1, if_pos z1]
      · rw [if_neg z1] at h0; exact absurd rfl h0
end un
