/-! asking: faultPosition, reason -/
set_option maxRecDepth 100000
section qa
variable {Z : aZ} {h h' H : aH} {Rt : Nat → Prop} {q : Nat → Nat} {B B' : Nat} {s s' : tS} {C C' : Nat}
theorem co_fault (c : cst Z Rt q B h s) : t_X1_faultPosition Z h (q 0) = some (s.1 9, h) ∧ t_X3_faultPosition s = some (s.1 9, sT s 0) := by
  obtain ⟨C9, sv, lt, mB, e9, n, ps, d⟩ := c
  refine ⟨?_, ?_⟩
  · unfold t_X1_faultPosition
    rw [gI_of (k := 6) d.1 rfl]; rfl
  · unfold t_X3_faultPosition tpf
    rw [Option.bind_some]
    show some (va_up s.1 12 0 9, _) = _
    rw [vu_ne (by omega)]
    rfl
theorem co_reason {x : Int32} (k : hOk Z h) (r : Rm Z h 2) (c : cst Z Rt q B h s) : x1Ok Z Rt q B 2 h (t_X1_reason Z h (q 0) x) (t_X3_reason s x) (cd2 iarg 1 nsee 2) := by
  have c0 := c
  obtain ⟨C9, sv, lt, mB, e9, n, ps, d⟩ := c
  generalize hx : t_X1_reason Z h (q 0) x = y
  unfold t_X1_reason t_X1_reason_l21 at hx
  rw [co_isIn, Option.bind_some] at hx
  unfold t_X3_reason tpf
  rw [Option.bind_some, show t_X3_in x.toInt64 0 2 = some (b2i (inR x 0 2)) from tw_in (lo := 0) (hi := 2) (by decide) (by decide), Option.bind_some]
  by_cases z4 : inR x 0 2 = true
  · rw [z4, arg_ok, Option.bind_some] at hx
    dsimp only at hx
    rw [z4, if_neg (by decide)]
    have e6 : (va_up s.1 12 0) 6 = s.1 6 := vu_ne (by omega)
    have e7 : (va_up s.1 12 0) 7 = s.1 7 := vu_ne (by omega)
    have e8 : (va_up s.1 12 0) 8 = s.1 8 := vu_ne (by omega)
    rcases d.2.2.2.2.2.2.1 with ⟨rfl, s6⟩ | ⟨a, rfl, d2, d3, d4⟩
    · rw [gO_of (k := 3) (x := none) d.1 rfl, Option.bind_some] at hx
      dsimp only at hx
      rw [elem_no k (r.less (by omega)), Option.bind_some] at hx
      refine x1_no (v := -1) (c9 := 2) c0 k k.new ((Fr.new (by omega)).up (by omega)) hx.symm ?_ (by decide) (by decide)
      rw [if_pos (show (va_up s.1 12 0) 6 = 0 by rw [e6]; exact s6)]
      show some (-1, sT (sT s 0) 2) = _
      rw [sT_sT]
    · rw [gO_of (k := 3) (x := some a) d.1 rfl, Option.bind_some] at hx
      dsimp only at hx
      rw [show t_X1_requireElement Z h 1 = some (.inl (), h) from rfl, Option.bind_some] at hx
      dsimp only at hx
      rw [if_neg (show ¬ (va_up s.1 12 0) 6 = 0 by rw [e6]; exact d3)]
      by_cases z0 : x = 0
      · rw [if_pos z0, gA_of (k := 3) (x := a) d.1 rfl, Option.bind_some, gI_of (k := 6) d4 rfl, Option.bind_some] at hx
        rw [if_pos z0]
        refine x1_yes (s' := sT s 0) c0 k k Fr.rf hx.symm ?_ (vEq_T 0) (sT_12 0)
        show some (va_up s.1 12 0 6, _) = _
        rw [e6]; rfl
      · rw [if_neg z0] at hx ⊢
        by_cases z1 : x = 1
        · rw [if_pos z1, gA_of (k := 3) (x := a) d.1 rfl, Option.bind_some, gI_of (k := 7) d4 rfl, Option.bind_some] at hx
          rw [if_pos z1]
          refine x1_yes (s' := sT s 0) c0 k k Fr.rf hx.symm ?_ (vEq_T 0) (sT_12 0)
          show some (va_up s.1 12 0 7, _) = _
          rw [e7]; rfl
        · rw [if_neg z1, gA_of (k := 3) (x := a) d.1 rfl, Option.bind_some, gI_of (k := 8) d4 rfl, Option.bind_some] at hx
          rw [if_neg z1]
          refine x1_yes (s' := sT s 0) c0 k k Fr.rf hx.symm ?_ (vEq_T 0) (sT_12 0)
          show some (va_up s.1 12 0 8, _) = _
          rw [e8]; rfl
  · have z4' : inR x 0 2 = false := by simpa using z4
    rw [z4', arg_no' k (r.less (by omega)), Option.bind_some] at hx
    rw [z4', if_pos (by rfl)]
    refine x1_no (v := -1) (c9 := 1) c0 k k.new ((Fr.new (by omega)).up (by omega)) hx.symm ?_ (by decide) (by decide)
    show some (-1, sT (sT s 0) 1) = _
    rw [sT_sT]
end qa
