/-! ===== office: the reference reads an expression, as the spec does ===== -/
section MEXPR
variable {σ σ' : MS} {T : Nat → Nat} {n lo hi b w c dp o k : Nat}
theorem sg_F (h : ¬ T b = k) : sg T n b k = false := by unfold sg; rw [decide_eq_false h, Bool.and_false]
theorem kw_N (h : tkK T n b = 3) : kw T n b = none := by
  cases e : kw T n b with
  | none => rfl
  | some k => have := kw_word e; omega
theorem sg_N (h : ¬ tkK T n b = 3) : sg T n b k = false := by unfold sg; rw [decide_eq_false h, Bool.false_and]
theorem opM_tk (h : opM T n b = some o) : tkK T n b = 3 ∧ ((T b = 42 ∧ o = 10) ∨ (T b = 47 ∧ o = 11)) := by
  unfold opM at h
  split at h
  · next e => cases h; exact ⟨(sg_eq e).1, .inl ⟨(sg_eq e).2, rfl⟩⟩
  · split at h
    · next e => cases h; exact ⟨(sg_eq e).1, .inr ⟨(sg_eq e).2, rfl⟩⟩
    · cases h
theorem opS_tk (h : opS T n b = some o) : tkK T n b = 3 ∧ ((T b = 43 ∧ o = 8) ∨ (T b = 45 ∧ o = 9)) := by
  unfold opS at h
  split at h
  · next e => cases h; exact ⟨(sg_eq e).1, .inl ⟨(sg_eq e).2, rfl⟩⟩
  · split at h
    · next e => cases h; exact ⟨(sg_eq e).1, .inr ⟨(sg_eq e).2, rfl⟩⟩
    · cases h
theorem opR_tk (h : opR T n b = some o) : tkK T n b = 3 ∧ ((T b = 60 ∧ o = 6) ∨ (T b = 61 ∧ o = 7)) := by
  unfold opR at h
  split at h
  · next e => cases h; exact ⟨(sg_eq e).1, .inl ⟨(sg_eq e).2, rfl⟩⟩
  · split at h
    · next e => cases h; exact ⟨(sg_eq e).1, .inr ⟨(sg_eq e).2, rfl⟩⟩
    · cases h
theorem opA_tk (h : opA T n b = some o) : kw T n b = some 14 ∧ o = 4 := by
  unfold opA at h
  split at h
  · next e => cases h; exact ⟨e, rfl⟩
  · cases h
theorem opO_tk (h : opO T n b = some o) : kw T n b = some 15 ∧ o = 5 := by
  unfold opO at h
  split at h
  · next e => cases h; exact ⟨e, rfl⟩
  · cases h
theorem opR_F (h1 : ¬ T b = 60) (h2 : ¬ T b = 61) : opR T n b = none := by
  unfold opR
  rw [sg_F h1, sg_F h2]
  rfl
theorem opS_F (h1 : ¬ T b = 43) (h2 : ¬ T b = 45) : opS T n b = none := by
  unfold opS
  rw [sg_F h1, sg_F h2]
  rfl
theorem opR_N (h : ¬ tkK T n b = 3) : opR T n b = none := by
  unfold opR
  rw [sg_N h, sg_N h]
  rfl
theorem ne_none {α : Type} {x : Option α} {y : α} (h : x = some y) : ¬ x = none := by rw [h]; intro z; cases z
theorem MP_goes {σ1 : MS} (h : MU T n lo hi σ1 b w c dp) (hb : b < n) (hw : w ≤ b + 1) (hc : c + w + 2 ≤ 2 * b + 2) : ∃ σ2, M_goes σ1 = some σ2 ∧ MP T n lo hi σ2 (nxb T n b) w c dp ∧ Lx σ1 σ2 := by
  obtain ⟨σ2, g1, g2, g3⟩ := MU_goes h
  have := nxt_lt (T := T) hb
  exact ⟨σ2, g1, ⟨g2, by omega, by omega⟩, g3⟩
/-- a sign waits, the next token -/
theorem MP_pg (h : MP T n lo hi σ b w c dp) (hb : b < n) (x : Int32) : ∃ σ1 σ2, M_waitsFor σ x = some σ1 ∧ M_goes σ1 = some σ2 ∧ MP T n lo hi σ2 (nxb T n b) (w + 1) c dp ∧ Ef w c σ σ2 ∧ ma σ2 42 w = x ∧ ma σ2 43 = ma σ 43 := by
  have hb2 := MP_b h
  obtain ⟨σ1, p1, p2, p3, p4, p5, p6⟩ := MU_push h.1 (by have := h.2.1; omega) x
  obtain ⟨σ2, g1, g2, g3⟩ := MP_goes p2 hb (by have := h.2.1; omega) (by have := h.2.2; omega)
  exact ⟨σ1, σ2, p1, g1, g2, Ef_trans (p3 c) (Ef_lx g3), by rw [g3.2]; exact p4, by rw [g3.2]; exact p5⟩
theorem step_M (h : MP T n lo hi σ b w c dp) (ho : opM T n b = some o) (hc : ctxM σ w 6) : ∃ σ2, MP T n lo hi σ2 (nxb T n b) (w + 1) c dp ∧ Ef w c σ σ2 ∧ ma σ2 42 w = i3 o ∧ ma σ2 43 = ma σ 43 ∧ restM σ = (M_operand σ2 0).bind restM := by
  have hb := MP_b h
  obtain ⟨t1, t2⟩ := opM_tk ho
  obtain ⟨σ1, σ2, g1, g2, g3, g4, g5, g6⟩ := MP_pg h (opM_in b o ho) (i3 o)
  refine ⟨σ2, g3, g4, g5, g6, restM_1 h.1.2.1.1 ?_⟩
  have e1 : kw T n b = none := kw_N t1
  rw [inM_eq h.1.1, if_neg (by rw [e1]; intro x; cases x), if_neg (by rw [e1]; intro x; cases x), if_pos (opR_F (by omega) (by omega)), J201_eq h.1.1, if_pos (opS_F (by omega) (by omega)), if_neg (ne_none ho)]
  unfold M_expression_J274
  dsimp only
  rw [drops_no (x := 6) (s := 6) rfl (by decide) h.1.2.1.2.2.1 (by have := h.2.1; omega) hc, Option.bind_some, M_isSign_eq h.1.1 (x := 42) (c := 42) rfl (by decide), Option.bind_some]
  have e : (if bI (sg T n b 42) = 0 then (some 11) else (some 10) : Option Int32) = some (i3 o) := by
    rcases t2 with ⟨t2, rfl⟩ | ⟨t2, rfl⟩
    · rw [if_neg (bI_n0 (by unfold sg; rw [decide_eq_true t1, decide_eq_true t2]; rfl))]; rfl
    · rw [if_pos (bI_y0 (sg_F (by omega)))]; rfl
  rw [e, Option.bind_some, g1, Option.bind_some, g2, Option.bind_some]
theorem step_S (h : MP T n lo hi σ b w c dp) (ho : opS T n b = some o) (hc : ctxM σ w 5) : ∃ σ2, MP T n lo hi σ2 (nxb T n b) (w + 1) c dp ∧ Ef w c σ σ2 ∧ ma σ2 42 w = i3 o ∧ ma σ2 43 = ma σ 43 ∧ restM σ = (M_operand σ2 0).bind restM := by
  have hb := MP_b h
  obtain ⟨t1, t2⟩ := opS_tk ho
  obtain ⟨σ1, σ2, g1, g2, g3, g4, g5, g6⟩ := MP_pg h (opS_in b o ho) (i3 o)
  refine ⟨σ2, g3, g4, g5, g6, restM_1 h.1.2.1.1 ?_⟩
  have e1 : kw T n b = none := kw_N t1
  rw [inM_eq h.1.1, if_neg (by rw [e1]; intro x; cases x), if_neg (by rw [e1]; intro x; cases x), if_pos (opR_F (by omega) (by omega)), J201_eq h.1.1, if_neg (ne_none ho)]
  unfold M_expression_J219
  dsimp only
  rw [drops_no (x := 5) (s := 5) rfl (by decide) h.1.2.1.2.2.1 (by have := h.2.1; omega) hc, Option.bind_some, M_isSign_eq h.1.1 (x := 43) (c := 43) rfl (by decide), Option.bind_some]
  have e : (if bI (sg T n b 43) = 0 then (some 9) else (some 8) : Option Int32) = some (i3 o) := by
    rcases t2 with ⟨t2, rfl⟩ | ⟨t2, rfl⟩
    · rw [if_neg (bI_n0 (by unfold sg; rw [decide_eq_true t1, decide_eq_true t2]; rfl))]; rfl
    · rw [if_pos (bI_y0 (sg_F (by omega)))]; rfl
  rw [e, Option.bind_some, g1, Option.bind_some, g2, Option.bind_some]
theorem step_R (h : MP T n lo hi σ b w c dp) (ho : opR T n b = some o) (ht : ma σ 43 dp = 0) (hc : ctxM σ w 4) : ∃ σ2, MP T n lo hi σ2 (nxb T n b) (w + 1) c dp ∧ Ef w c σ σ2 ∧ ma σ2 42 w = i3 o ∧ ma σ2 43 dp = 1 ∧ (∀ i, i ≠ dp → ma σ2 43 i = ma σ 43 i) ∧ restM σ = (M_operand σ2 0).bind restM := by
  have hb := MP_b h
  have hd := h.1.2.2.1
  obtain ⟨t1, t2⟩ := opR_tk ho
  have hlt := opR_in b o ho
  obtain ⟨σ1, p1, p2, p3, p4, p5, p6⟩ := MU_push h.1 (by have := h.2.1; omega) (i3 o)
  obtain ⟨σ3, q1, q2, q3, q4, q5, q6, q7⟩ := MU_test p2 nar1
  obtain ⟨σ2, g1, g2, g3⟩ := MP_goes q2 hlt (by have := h.2.1; omega) (by have := h.2.2; omega)
  refine ⟨σ2, g2, Ef_trans (p3 c) (Ef_trans (q3 w c) (Ef_lx g3)), by rw [g3.2, q6]; exact p4, by rw [g3.2]; exact q4, fun i hi => by rw [g3.2, q5 i hi, p5], restM_1 h.1.2.1.1 ?_⟩
  have e1 : kw T n b = none := kw_N t1
  rw [inM_eq h.1.1, if_neg (by rw [e1]; intro x; cases x), if_neg (by rw [e1]; intro x; cases x), if_neg (ne_none ho)]
  unfold M_expression_J142
  dsimp only
  rw [ald_at h.1.2.1.2.2.2.1 (show dp < mlen 43 by show dp < 9; omega) ht, Option.bind_some, if_pos rfl, drops_no (x := 4) (s := 4) rfl (by decide) h.1.2.1.2.2.1 (by have := h.2.1; omega) hc, Option.bind_some, M_isSign_eq h.1.1 (x := 60) (c := 60) rfl (by decide), Option.bind_some]
  have e : (if bI (sg T n b 60) = 0 then (some 7) else (some 6) : Option Int32) = some (i3 o) := by
    rcases t2 with ⟨t2, rfl⟩ | ⟨t2, rfl⟩
    · rw [if_neg (bI_n0 (by unfold sg; rw [decide_eq_true t1, decide_eq_true t2]; rfl))]; rfl
    · rw [if_pos (bI_y0 (sg_F (by omega)))]; rfl
  rw [e, Option.bind_some, p1, Option.bind_some, q1, Option.bind_some, g1, Option.bind_some]
theorem step_A {s : Nat} (h : MP T n lo hi σ b w c dp) (hk : kw T n b = some k) (hk2 : (k = 14 ∧ o = 4 ∧ s = 2) ∨ (k = 15 ∧ o = 5 ∧ s = 1)) (hc : ctxM σ w s) : ∃ σ2, MP T n lo hi σ2 (nxb T n b) (w + 1) c dp ∧ Ef w c σ σ2 ∧ ma σ2 42 w = i3 o ∧ ma σ2 43 dp = 0 ∧ (∀ i, i ≠ dp → ma σ2 43 i = ma σ 43 i) ∧ restM σ = (M_operand σ2 1).bind restM := by
  have hb := MP_b h
  have hd := h.1.2.2.1
  have hlt := op_lt_kw hk
  obtain ⟨σ1, p1, p2, p3, p4, p5, p6⟩ := MU_push h.1 (by have := h.2.1; omega) (i3 o)
  obtain ⟨σ3, q1, q2, q3, q4, q5, q6, q7⟩ := MU_test p2 nar0
  obtain ⟨σ2, g1, g2, g3⟩ := MP_goes q2 hlt (by have := h.2.1; omega) (by have := h.2.2; omega)
  refine ⟨σ2, g2, Ef_trans (p3 c) (Ef_trans (q3 w c) (Ef_lx g3)), by rw [g3.2, q6]; exact p4, by rw [g3.2]; exact q4, fun i hi => by rw [g3.2, q5 i hi, p5], restM_1 h.1.2.1.1 ?_⟩
  have f34 := h.1.2.1.2.2.1
  have hw : w ≤ 950 := by have := h.2.1; omega
  rcases hk2 with ⟨rfl, rfl, rfl⟩ | ⟨rfl, rfl, rfl⟩
  · rw [inM_eq h.1.1, if_pos hk]
    unfold M_expression_J70
    dsimp only
    rw [if_pos rfl, Option.bind_some, drops_no (x := 2) (s := 2) rfl (by decide) f34 hw hc, Option.bind_some, if_pos rfl, Option.bind_some, show M_waitsFor σ 4 = some σ1 from p1, Option.bind_some, q1, Option.bind_some, g1, Option.bind_some]
  · rw [inM_eq h.1.1, if_neg (by rw [hk]; intro x; cases x), if_pos hk]
    unfold M_expression_J70
    dsimp only
    rw [if_neg (show ¬ (15 : Int32) = 14 by decide), Option.bind_some, drops_no (x := 1) (s := 1) rfl (by decide) f34 hw hc, Option.bind_some, if_neg (show ¬ (15 : Int32) = 14 by decide), Option.bind_some, show M_waitsFor σ 5 = some σ1 from p1, Option.bind_some, q1, Option.bind_some, g1, Option.bind_some]
/-- no sign comes that an expression goes on with -/
theorem inM_end (h : MU T n lo hi σ b w c dp) (hx : opO T n b = none ∧ opA T n b = none ∧ opS T n b = none ∧ opM T n b = none) (hR : opR T n b = none ∨ ¬ ma σ 43 dp = 0) : inM σ = if sg T n b 41 = true then ((M_isOpened σ).bind fun q60 => if q60 = 0 then (some (0, σ)) else ((M_closes σ).bind fun q62 => some (1, q62))) else some (0, σ) := by
  obtain ⟨x1, x2, x3, x4⟩ := hx
  have e14 : ¬ kw T n b = some 14 := by
    intro e
    unfold opA at x2
    rw [if_pos e] at x2
    cases x2
  have e15 : ¬ kw T n b = some 15 := by
    intro e
    unfold opO at x1
    rw [if_pos e] at x1
    cases x1
  have e201 : M_expression_J201 (1, σ) = if sg T n b 41 = true then ((M_isOpened σ).bind fun q60 => if q60 = 0 then (some (0, σ)) else ((M_closes σ).bind fun q62 => some (1, q62))) else some (0, σ) := by
    rw [J201_eq h.1, if_pos x3, if_pos x4]
  rw [inM_eq h.1, if_neg e14, if_neg e15]
  by_cases eR : opR T n b = none
  · rw [if_pos eR]; exact e201
  · rw [if_neg eR, J142_eq h (hR.resolve_left eR)]; exact e201
/-- a parenthesis is closed -/
theorem rest_close (h : MP T n lo hi σ b (w + 1) c (dp + 1)) (hx : opO T n b = none ∧ opA T n b = none ∧ opS T n b = none ∧ opM T n b = none) (hR : opR T n b = none ∨ ¬ ma σ 43 (dp + 1) = 0) (ht : ma σ 42 w = i3 14) (hs : sg T n b 41 = true) : ∃ σ', MP T n lo hi σ' (nxb T n b) w c dp ∧ Ef w c σ σ' ∧ ma σ' 43 = ma σ 43 ∧ restM σ = restM σ' := by
  have hb := MP_b h
  have hw := h.2.1
  have hlt := op_lt_sg hs
  have f34 := h.1.2.1.2.2.1
  have f35 := h.1.2.1.2.2.2.1
  have hU : MU T n lo hi (sf (sf σ 34 (i3 w)) 35 (i3 dp)) b w c dp := MU_of h.1 (fun k hk => by rw [mf_sfn (by omega), mf_sfn (by omega)]) rfl rfl ((mf_sfn (by decide)).trans ((mf_sfn (by decide)).trans h.1.2.1.2.1)) ((mf_sfn (by decide)).trans mf_sfe) mf_sfe (by have := h.1.2.2.1; omega)
  obtain ⟨σ', g1, g2, g3⟩ := MP_goes hU hlt (by omega) (by have := h.2.2; omega)
  refine ⟨σ', g2, Ef_trans (σ' := sf (sf σ 34 (i3 w)) 35 (i3 dp)) ⟨fun k hk => by rw [mf_sfn (by omega), mf_sfn (by omega)], fun j _ _ _ => rfl, fun i _ => rfl, fun i _ => rfl⟩ (Ef_lx g3), by rw [g3.2]; rfl, ?_⟩
  have hop : M_isOpened σ = some 1 := by
    unfold M_isOpened
    rw [f34, i3_dec1, o_loop_eq]
    have : M_isOpened_L7 σ (i3 w) = some (.inr (i3 w)) := by
      unfold M_isOpened_L7
      rw [if_neg (i3_nn (by omega)), ald_at (n := w) rfl (show w < mlen 42 by show w < 950; omega) ht, Option.bind_some, (stg_all ⟨14, by decide⟩).2, Option.bind_some, if_neg (by decide)]
    rw [this]
    show (if i3 w < 0 then some 0 else some 1 : Option Int32) = some 1
    rw [if_neg (i3_nn (by omega))]
  have hcl : M_closes σ = some σ' := by
    unfold M_closes
    rw [drops_no (x := 0) (s := 0) rfl (by decide) f34 (by omega) (ctxM_top ht (by decide) (.inl (by decide))), Option.bind_some, f34, i3_dec1, pf_e, Option.bind_some, mf_sfn (by decide), f35, i3_dec1, pf_e, Option.bind_some, g1, Option.bind_some]
  have e := restM_1 (x := some σ') h.1.2.1.1 (by rw [inM_end h.1 hx hR, if_pos hs, hop, Option.bind_some, if_neg (by decide), hcl])
  rw [e, Option.bind_some]
/-- a parenthesis that isn't closed -/
theorem rest_open (h : MP T n lo hi σ b (w + 1) c (dp + 1)) (hd : 1 ≤ dp) (hx : opO T n b = none ∧ opA T n b = none ∧ opS T n b = none ∧ opM T n b = none) (hR : opR T n b = none ∨ ¬ ma σ 43 (dp + 1) = 0) (hs : ¬ sg T n b 41 = true) : ∃ σ', Er σ σ' 1 b ∧ restM σ = restM σ' := by
  have hb := MP_b h
  have hw := h.2.1
  have hc := h.2.2
  have hd2 := h.1.2.2.1
  obtain ⟨w1, w2⟩ := MU_wrong h.1 (by omega) (by omega) (x := 1) (k := 1) rfl (by decide) (by decide)
  refine ⟨_, w2, ?_⟩
  rw [restM_0 h.1.2.1.1 (by rw [inM_end h.1 hx hR, if_neg hs]), restM_bad (Er_bad w2)]
  unfold tailM
  rw [isGood_y h.1.2.1.1, isGood_n (Er_bad w2), Option.bind_some, Option.bind_some, if_neg (show ¬ (1 : Int32) = 0 by decide), if_pos (show (0 : Int32) = 0 from rfl), h.1.2.1.2.2.2.1, if_neg (by rw [i3_lel (c := 1) (n := 1) rfl (by omega) (by decide)]; omega), w1, Option.bind_some]
/-! operands -/
theorem op_end {x : Int32} : o_loop M_operand_L4 (x, 0, σ) = some σ := by
  rw [o_loop_eq]
  have : M_operand_L4 (x, 0, σ) = some (.inr σ) := by
    unfold M_operand_L4
    rw [if_pos rfl]
  rw [this]
  rfl
theorem bind_id {x : Option MS} : (x.bind fun q4 => some q4) = x := by cases x <;> rfl
theorem op0_eq (h : mf σ 14 = 0) : M_operand σ 0 = (M_isSign σ 40).bind fun q => if q = 0 then M_part σ else (M_waitsFor σ 14).bind fun q15 => (M_goes q15).bind fun q16 => (M_deeper q16).bind fun q17 => M_operand q17 1 := by
  have e : M_operand_L4 (0, 1, σ) = (M_isSign σ 40).bind fun q19 => if q19 = 0 then some (.inl (0, 0, σ)) else (M_waitsFor σ 14).bind fun q15 => (M_goes q15).bind fun q16 => (M_deeper q16).bind fun q17 => some (.inl (1, 1, q17)) := by
    unfold M_operand_L4
    dsimp only
    have hl : o_loop (M_operand_L18 (0, 1, σ)) (0, σ) = some σ := by
      rw [o_loop_eq]
      have : M_operand_L18 (0, 1, σ) (0, σ) = some (.inr σ) := by
        unfold M_operand_L18
        dsimp only
        rw [isGood_y h, Option.bind_some, if_neg (by decide), if_pos rfl]
      rw [this]
      rfl
    rw [if_neg (by decide), isGood_y h, Option.bind_some, if_neg (by decide), hl, Option.bind_some, isGood_y h, Option.bind_some, if_neg (by decide)]
    cases M_isSign σ 40 with
    | none => rfl
    | some q =>
      rw [Option.bind_some, Option.bind_some]
      by_cases e0 : q = 0
      · rw [if_pos e0, if_pos e0, Option.bind_some, if_pos rfl]
        rfl
      · rw [if_neg e0, if_neg e0, Option.bind_some, if_neg (by decide)]
        cases M_waitsFor σ 14 with
        | none => rfl
        | some q15 =>
          rw [Option.bind_some, Option.bind_some]
          cases M_goes q15 with
          | none => rfl
          | some q16 =>
            rw [Option.bind_some, Option.bind_some]
            cases M_deeper q16 with
            | none => rfl
            | some q17 => rfl
  rw [show M_operand σ 0 = (o_loop M_operand_L4 (0, 1, σ)).bind fun r3 => (M_part r3).bind fun q4 => some q4 from rfl, o_loop_eq, e]
  cases M_isSign σ 40 with
  | none => rfl
  | some q =>
    rw [Option.bind_some, Option.bind_some]
    by_cases e0 : q = 0
    · rw [if_pos e0, if_pos e0, Option.bind_some]
      show ((o_loop M_operand_L4 (0, 0, σ)).bind fun r3 => (M_part r3).bind fun q4 => some q4) = M_part σ
      rw [op_end, Option.bind_some, bind_id]
    · rw [if_neg e0, if_neg e0]
      cases M_waitsFor σ 14 with
      | none => rfl
      | some q15 =>
        rw [Option.bind_some, Option.bind_some]
        cases M_goes q15 with
        | none => rfl
        | some q16 =>
          rw [Option.bind_some, Option.bind_some]
          cases M_deeper q16 with
          | none => rfl
          | some q17 => rfl
theorem op0_bad (h : ¬ mf σ 14 = 0) : M_operand σ 0 = some σ ∧ M_operand σ 1 = some σ ∧ M_part σ = some σ := by
  have hp : M_part σ = some σ := by
    unfold M_part
    rw [isGood_n h, Option.bind_some, if_pos rfl]
  have gen : ∀ x : Int32, M_operand σ x = some σ := by
    intro x
    rw [show M_operand σ x = (o_loop M_operand_L4 (x, 1, σ)).bind fun r3 => (M_part r3).bind fun q4 => some q4 from rfl, o_loop_eq]
    have : M_operand_L4 (x, 1, σ) = some (.inr σ) := by
      unfold M_operand_L4
      dsimp only
      rw [if_neg (by decide), isGood_n h, Option.bind_some, if_pos rfl]
    rw [this]
    show (M_part σ).bind (fun q4 => some q4) = some σ
    rw [hp]
    rfl
  exact ⟨gen 0, gen 1, hp⟩
theorem op1_eq (h : mf σ 14 = 0) : M_operand σ 1 = (o_loop (M_operand_L18 (1, 1, σ)) (0, σ)).bind fun r10 => M_operand r10 0 := by
  rw [show M_operand σ 1 = (o_loop M_operand_L4 (1, 1, σ)).bind fun r3 => (M_part r3).bind fun q4 => some q4 from rfl, o_loop_eq]
  have e : M_operand_L4 (1, 1, σ) = (o_loop (M_operand_L18 (1, 1, σ)) (0, σ)).bind fun r10 => (M_isGood r10).bind fun q11 => ((if q11 = 0 then (some 0) else ((M_isSign r10 40).bind fun q19 => if q19 = 0 then (some 0) else (some 1)) : Option Int32)).bind fun r12 =>
      ((if r12 = 0 then (some (1, r10)) else ((M_waitsFor r10 14).bind fun q15 => (M_goes q15).bind fun q16 => (M_deeper q16).bind fun q17 => some (1, q17)) : Option (Int32 × MS))).bind fun r13 => some (.inl (r13.1, r12, r13.2)) := by
    unfold M_operand_L4
    dsimp only
    rw [if_neg (by decide), isGood_y h, Option.bind_some, if_neg (by decide)]
  rw [e]
  cases o_loop (M_operand_L18 (1, 1, σ)) (0, σ) with
  | none => rfl
  | some r10 =>
    rw [Option.bind_some, Option.bind_some]
    by_cases hg : mf r10 14 = 0
    · rw [isGood_y hg, Option.bind_some, if_neg (by decide), op0_eq hg]
      cases M_isSign r10 40 with
      | none => rfl
      | some q =>
        rw [Option.bind_some, Option.bind_some]
        by_cases e0 : q = 0
        · rw [if_pos e0, if_pos e0, Option.bind_some, if_pos rfl, Option.bind_some, Option.bind_some]
          show ((o_loop M_operand_L4 (1, 0, r10)).bind fun r3 => (M_part r3).bind fun q4 => some q4) = M_part r10
          rw [op_end, Option.bind_some, bind_id]
        · rw [if_neg e0, if_neg e0, Option.bind_some, if_neg (by decide)]
          cases M_waitsFor r10 14 with
          | none => rfl
          | some q15 =>
            rw [Option.bind_some, Option.bind_some]
            cases M_goes q15 with
            | none => rfl
            | some q16 =>
              rw [Option.bind_some, Option.bind_some]
              cases M_deeper q16 with
              | none => rfl
              | some q17 => rfl
    · rw [isGood_n hg, Option.bind_some, if_pos rfl, Option.bind_some, if_pos rfl, Option.bind_some, Option.bind_some, (op0_bad hg).1]
      show ((o_loop M_operand_L4 (1, 0, r10)).bind fun r3 => (M_part r3).bind fun q4 => some q4) = some r10
      rw [op_end, Option.bind_some, bind_id, (op0_bad hg).2.2]
end MEXPR
