/-! the nine changes, both sides -/
set_option maxRecDepth 100000
def spN (sp : spR) : Prop := ∀ a b, sp = .inr (a, b) → a ≠ 0
theorem spN.inl {x : Int32 × (Nat → Int32)} : spN (.inl x) := fun _ _ q => by cases q
theorem spN.inr {a b : Int32} (h : a ≠ 0) : spN (.inr (a, b)) := fun _ _ q => by cases q; exact h
theorem spN.ite {c : Prop} [Decidable c] {x y : spR} (h1 : spN x) (h2 : spN y) : spN (if c then x else y) := by
  split
  · exact h1
  · exact h2
def opB (fc : aZ → aH → Nat → Option ((Int32 ⊕ aXX) × aH)) (ft : tS → Option (Int32 × tS)) (sp : (Nat → Int32) → spR) : Prop :=
  ∀ (B : Nat) (m : Nat → Int32), 100 ≤ B → B < 90000000 → wfm B m →
    (∀ (Z : aZ) (H : aH) (c lo : Nat), hOk Z H → Rm Z H 6 → coreIn Z H lo H.2.1 c m → Ok (fc Z H c) (coOk Z lo c H 6 (sp m))) ∧ (∀ (Z : aZ) (H : aH) (c lo : Nat), hOk Z H → Rm Z H 1 → coreIn Z H lo H.2.1 c m → spW (B + 10) (sp m)) ∧
    (∀ s1 : tS, s1.2 0 = m → ∃ W, ft s1 = some (twR (sW s1 W) m (sp m))) ∧ spN (sp m)
theorem tw_one {m : Nat → Int32} {sp : spR} {f : tS → Option (Int32 × tS)} (h : ∀ s, f (sM s m) = some (twR s m sp)) {s1 : tS} (e : s1.2 0 = m) : ∃ W, f s1 = some (twR (sW s1 W) m sp) := by
  refine ⟨s1.2 13, ?_⟩
  rw [sW_same]
  have := h s1
  rw [← e, sM_same] at this
  rw [this, e]
theorem b_hedge {a b t : Int32} : opB (fun Z H c => t_X2_hedge Z H c a b t) (fun s => t_X3_hedgeIt s a b t) (fun m => sp_hedge m a b t) := by
  intro B m h1 h2 w
  refine ⟨fun Z H c lo k r d => (co_hedge k (r.less (by omega)) d).imp (fun _ q => q.up (by omega)), fun Z H c lo k r d => wf_hedge w, fun s1 e => tw_one (f := fun s => t_X3_hedgeIt s a b t) (sp := sp_hedge m a b t) (fun s => tw_hedge) e, ?_⟩
  unfold sp_hedge
  exact .ite (.inr (by decide)) (.ite (.inr (by decide)) (.ite (.inr (by decide)) .inl))
theorem b_trim {a b t : Int32} : opB (fun Z H c => t_X2_trim Z H c a b t) (fun s => t_X3_trimIt s a b t) (fun m => sp_trim m a b t) := by
  intro B m h1 h2 w
  refine ⟨fun Z H c lo k r d => (co_trim k (r.less (by omega)) d).imp (fun _ q => q.up (by omega)), fun Z H c lo k r d => wf_trim w (by omega), fun s1 e => tw_one (f := fun s => t_X3_trimIt s a b t) (sp := sp_trim m a b t) (fun s => by obtain ⟨ng, nv, w⟩ := w; exact tw_trim w) e, ?_⟩
  unfold sp_trim
  exact .ite (.inr (by decide)) (.ite (.inr (by decide)) (.ite (.inr (by decide)) (.ite (.inr (by decide)) (.ite (.inr (by decide)) .inl))))
theorem b_mino {a : Int32} : opB (fun Z H c => t_X2_minotaur Z H c a) (fun s => t_X3_minotaurIt s a) (fun m => sp_minotaur m a) := by
  intro B m h1 h2 w
  refine ⟨fun Z H c lo k r d => (co_mino k (r.less (by omega)) d w).imp (fun _ q => q.up (by omega)), fun Z H c lo k r d => wf_mino w, fun s1 e => tw_one (f := fun s => t_X3_minotaurIt s a) (sp := sp_minotaur m a) (fun s => by obtain ⟨ng, nv, w⟩ := w; exact tw_mino w) e, ?_⟩
  unfold sp_minotaur
  exact .ite (.inr (by decide)) (.ite (.inr (by decide)) .inl)
theorem b_gard {a : Int32} : opB (fun Z H c => t_X2_gardener Z H c a) (fun s => t_X3_gardenerIt s a) (fun m => sp_gardener m a) := by
  intro B m h1 h2 w
  refine ⟨fun Z H c lo k r d => (co_gard k (r.less (by omega)) d (fun j i hj hi e => ?_)).imp (fun _ q => q.up (by omega)), fun Z H c lo k r d => wf_gard w h1, fun s1 e => tw_one (f := fun s => t_X3_gardenerIt s a) (sp := sp_gardener m a) (fun s => by obtain ⟨ng, nv, w⟩ := w; exact tw_gard w) e, ?_⟩
  · obtain ⟨ng, nv, w1, w2, w3, w4, w5, w6, w7, w8, w9, w10⟩ := w
    have : j = ng := (iEq (by omega) (by omega)).mp (e.trans w1)
    exact w9 j i (by omega) hj hi
  · unfold sp_gardener
    exact .ite (.inr (by decide)) (.ite (.inr (by decide)) .inl)
theorem dst_15 {Z : aZ} {h : aH} {o a v : Nat} {t : Bool} {m : Nat → Int32} (k : hOk Z h) (r : Rm Z h 1) (l : lvs Z h o m) (ha : a < 16) (hv : v < 16) (hn : dst t m a v ≠ 99) : dst t m a v ≤ 15 := by
  obtain ⟨r9, -, F, f, -, hf, hm, hF⟩ := co_dist (t := t) k r l ha
  have e := dst_eq ha hm hF hv
  rw [← e] at hn ⊢
  have := hF v hv
  exact hm.le ha (fun u v w q => (eE_ok u v w q).2) hv (by omega)
theorem b_vis {a : Int32} : opB (fun Z H c => t_X2_visitor Z H c a) (fun s => t_X3_visitorIt s a) (fun m => sp_visitor m a) := by
  intro B m h1 h2 w
  refine ⟨fun Z H c lo k r d => co_visitor k r d w, fun Z H c lo k r d => wf_visitor w (fun z => dst_15 k r d.lvs (by omega) (by omega) z), fun s1 e => ?_, ?_⟩
  · obtain ⟨ng, nv, w⟩ := w
    obtain ⟨r, er, W, rfl⟩ := tw_vis (s := s1) (x := a) w
    refine ⟨W, ?_⟩
    rw [← e, sM_same] at er
    dsimp only
    rw [er, e]
  · unfold sp_visitor
    exact .ite (.inr (by decide)) (.ite (.inr (by decide)) (.ite (.inr (by decide)) .inl))
theorem b_bond {a b t : Int32} : opB (fun Z H c => t_X2_bond Z H c a b t) (fun s => t_X3_bondIt s a b t) (fun m => sp_bond m a b t) := by
  intro B m h1 h2 w
  refine ⟨fun Z H c lo k r d => (co_bond k (r.less (by omega)) d w).imp (fun _ q => q.up (by omega)), fun Z H c lo k r d => wf_bond w (by omega), fun s1 e => tw_one (f := fun s => t_X3_bondIt s a b t) (sp := sp_bond m a b t) (fun s => by obtain ⟨ng, nv, w⟩ := w; exact tw_bond w) e, ?_⟩
  unfold sp_bond
  exact .ite (.inr (by decide)) (.ite (.inr (by decide)) (.ite (.inr (by decide)) (.ite (.inr (by decide)) (.ite (.ite (.inr (by decide)) (.ite (.inr (by decide)) .inl)) (.inr (by decide))))))
theorem b_walk {a b : Int32} : opB (fun Z H c => t_X2_walk Z H c a b) (fun s => t_X3_walkIt s a b) (fun m => sp_walk m a b) := by
  intro B m h1 h2 w
  refine ⟨fun Z H c lo k r d => (co_walk k (r.less (by omega)) d w (by omega)).imp (fun _ q => q.up (by omega)), fun Z H c lo k r d => wf_walk w h2, fun s1 e => tw_one (f := fun s => t_X3_walkIt s a b) (sp := sp_walk m a b) (fun s => by obtain ⟨ng, nv, w⟩ := w; exact tw_walk w) e, ?_⟩
  unfold sp_walk
  exact .ite (.inr (by decide)) (.ite (.inr (by decide)) (.ite (.inr (by decide)) (.ite (.inr (by decide)) (.ite (.inr (by decide)) .inl))))
theorem b_rest {a b : Int32} : opB (fun Z H c => t_X2_rest Z H c a b) (fun s => t_X3_restIt s a b) (fun m => sp_rest m a b) := by
  intro B m h1 h2 w
  refine ⟨fun Z H c lo k r d => (co_rest k (r.less (by omega)) d w).imp (fun _ q => q.up (by omega)), fun Z H c lo k r d => wf_rest w, fun s1 e => tw_one (f := fun s => t_X3_restIt s a b) (sp := sp_rest m a b) (fun s => by obtain ⟨ng, nv, w⟩ := w; exact tw_rest w) e, ?_⟩
  unfold sp_rest
  exact .ite (.inr (by decide)) (.ite (.inr (by decide)) (.ite (.inr (by decide)) .inl))
theorem b_summ : opB (fun Z H c => (t_X2_summer Z H c).map fun r => (.inl r.1, r.2)) (fun s => t_X3_summerIt s) (fun m => .inl (gapsI m - gapsI (summ m), summ m)) := by
  intro B m h1 h2 w
  refine ⟨fun Z H c lo k r d => Ok.map ((co_summ k d).imp ?_), fun Z H c lo k r d => spW.inl (wf_summ w), fun s1 e => tw_one (f := fun s => t_X3_summerIt s) (sp := .inl (gapsI m - gapsI (summ m), summ m)) (fun s => tw_summ) e, .inl⟩
  rintro r ⟨p1, p2, p3, p4⟩
  exact ⟨p1, p2.up (by omega), by rw [p3], p4⟩
/-- what an outer call of the component gives, beside the twin's -/
def x1Ok (Z : aZ) (Rt : Nat → Prop) (q : Nat → Nat) (B u : Nat) (h : aH) (x : Option ((Int32 ⊕ aXX) × aH)) (t : Option (Int32 × tS)) (cd : String → Int32) : Prop :=
  ∃ r v s', x = some r ∧ t = some (v, s') ∧ hOk Z r.2 ∧ Fr (fun a => ¬ Rt a) h r.2 u ∧ cst Z Rt q B r.2 s' ∧ ((r.1 = .inl v ∧ s'.1 12 = 0) ∨ ∃ nm a, r.1 = .inr (nm, a) ∧ s'.1 12 = cd nm ∧ cd nm ≠ 0)
def cd1 (nm : String) (x : String) : Int32 := if x = nm then 1 else 0
def cd2 (nm : String) (a : Int32) (nm' : String) (b : Int32) (x : String) : Int32 := if x = nm then a else if x = nm' then b else 0
section ch
variable {Z : aZ} {h h' : aH} {Rt : Nat → Prop} {q : Nat → Nat} {B B' : Nat} {s s' : tS}
theorem cst.past (c : cst Z Rt q B h s) : ∃ n, n ≤ 8 ∧ s.1 5 = Int32.ofNat n := by
  obtain ⟨C, sv, lt, mB, e, n, ps, c⟩ := c
  exact ⟨n, c.2.2.1⟩
theorem cst.wf (c : cst Z Rt q B h s) : wfm B (s.2 0) := by
  obtain ⟨C, sv, lt, mB, e, n, ps, c⟩ := c
  exact c.2.2.2.1.1
theorem ch_ok {fc : aZ → aH → Nat → Option ((Int32 ⊕ aXX) × aH)} {ft : tS → Option (Int32 × tS)} {sp : (Nat → Int32) → spR} (b : opB fc ft sp) (k : hOk Z h) (r : Rm Z h 32) (c : cst Z Rt q B h s) (h1 : 100 ≤ B) (h2 : B < 90000000) :
    x1Ok Z Rt q (B + 10) 32 h (w_op Z h (q 0) (fc Z)) (tw_op s ft) (cd1 "java/lang/UnsupportedOperationException") := by
  obtain ⟨b1, b0, b2, b3⟩ := b B (s.2 0) h1 h2 c.wf
  obtain ⟨n, hn, h5⟩ := c.past
  generalize sp (s.2 0) = sp9 at b1 b0 b2 b3
  obtain ⟨r1, e1, p1, p2, p3⟩ := co_wrap (f := fc Z) (sp := sp9) k r c (fun H c lo k r d _ => b1 Z H c lo k r d) (fun H lo c k r d w => b0 Z H c lo k r d) b3
  obtain ⟨r2, e2, p4⟩ := tw_wrap (f := ft) (sp := sp9) h5 hn (fun s1 e => b2 s1 e)
  refine ⟨r1, r2.1, r2.2, e1, e2, p1, p2, ?_⟩
  match sp9 with
  | .inl (v, m') =>
    obtain ⟨p3, p5⟩ := p3
    obtain ⟨p6, p7, p8⟩ := p4
    exact ⟨p5 _ p8, Or.inl ⟨by rw [p3, p6], p7⟩⟩
  | .inr (a, b) =>
    obtain ⟨⟨x, p3⟩, p5⟩ := p3
    obtain ⟨p6, p7⟩ := p4
    exact ⟨p5 _ p7, Or.inr ⟨_, x, p3, p6, by unfold cd1; rw [if_pos rfl]; decide⟩⟩
end ch
