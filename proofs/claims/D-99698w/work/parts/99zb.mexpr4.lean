/-! ===== office: the reference reads an expression: all levels ===== -/
section MEXPR4
variable {T : Nat → Nat} {n lo hi dp : Nat}
theorem stM : StT T n lo hi dp 6 0 (opM T n) := by
  intro σ b w c o hP ho hc
  obtain ⟨σ2, a1, a2, a3, a4, a5⟩ := step_M hP ho hc
  exact ⟨σ2, a1, a2, a3, Tk_eq a4, fun x => absurd x (by decide), a5⟩
theorem stS : StT T n lo hi dp 5 0 (opS T n) := by
  intro σ b w c o hP ho hc
  obtain ⟨σ2, a1, a2, a3, a4, a5⟩ := step_S hP ho hc
  exact ⟨σ2, a1, a2, a3, Tk_eq a4, fun x => absurd x (by decide), a5⟩
theorem stA : StT T n lo hi dp 2 1 (opA T n) := by
  intro σ b w c o hP ho hc
  obtain ⟨o1, o2⟩ := opA_tk ho
  obtain ⟨σ2, a1, a2, a3, a4, a5, a6⟩ := step_A (o := o) hP o1 (.inl ⟨rfl, o2, rfl⟩) hc
  exact ⟨σ2, a1, a2, a3, Tk_ne (by decide) a5, fun _ => a4, a6⟩
theorem stO : StT T n lo hi dp 1 1 (opO T n) := by
  intro σ b w c o hP ho hc
  obtain ⟨o1, o2⟩ := opO_tk ho
  obtain ⟨σ2, a1, a2, a3, a4, a5, a6⟩ := step_A (o := o) hP o1 (.inr ⟨rfl, o2, rfl⟩) hc
  exact ⟨σ2, a1, a2, a3, Tk_ne (by decide) a5, fun _ => a4, a6⟩
theorem oM (b o : Nat) (h : opM T n b = some o) : 4 ≤ o ∧ o ≤ 11 ∧ stg o = 6 := by
  rcases (opM_tk h).2 with ⟨_, rfl⟩ | ⟨_, rfl⟩
  · exact ⟨by decide, by decide, rfl⟩
  · exact ⟨by decide, by decide, rfl⟩
theorem oS (b o : Nat) (h : opS T n b = some o) : 4 ≤ o ∧ o ≤ 11 ∧ stg o = 5 := by
  rcases (opS_tk h).2 with ⟨_, rfl⟩ | ⟨_, rfl⟩
  · exact ⟨by decide, by decide, rfl⟩
  · exact ⟨by decide, by decide, rfl⟩
theorem oR (b o : Nat) (h : opR T n b = some o) : 4 ≤ o ∧ o ≤ 11 ∧ stg o = 4 := by
  rcases (opR_tk h).2 with ⟨_, rfl⟩ | ⟨_, rfl⟩
  · exact ⟨by decide, by decide, rfl⟩
  · exact ⟨by decide, by decide, rfl⟩
theorem oA (b o : Nat) (h : opA T n b = some o) : 4 ≤ o ∧ o ≤ 11 ∧ stg o = 2 := by
  rw [(opA_tk h).2]
  exact ⟨by decide, by decide, rfl⟩
theorem oO (b o : Nat) (h : opO T n b = some o) : 4 ≤ o ∧ o ≤ 11 ∧ stg o = 1 := by
  rw [(opO_tk h).2]
  exact ⟨by decide, by decide, rfl⟩
theorem mProd {X : Nat → ER} (hok : SpOk n X) (hX : MXT T n lo hi dp X) (hd : 1 ≤ dp) : MNT T n lo hi dp 6 0 (spProd T n lo hi X) :=
  mch (spPart_ok hok) opM_in oM (by decide) (mpart hX hd) stM (fun _ _ _ _ _ _ => ⟨.inr (by decide), .inr (by decide), .inr (.inr (by decide)), .inr (by decide)⟩)
theorem mSum {X : Nat → ER} (hok : SpOk n X) (hX : MXT T n lo hi dp X) (hd : 1 ≤ dp) : MNT T n lo hi dp 5 0 (spSum T n lo hi X) :=
  mch (spProd_ok hok) opS_in oS (by decide) (mProd hok hX hd) stS (fun _ _ _ _ e _ => ⟨.inl (spProd_exit e), .inr (by decide), .inr (.inr (by decide)), .inr (by decide)⟩)
/-- 'not', as often as it stands -/
theorem mN {t1 : Int32 × Int32 × MS} (ht1 : t1.1 = 1) : ∀ f k (σ : MS) (b w c : Nat), k + f = 8 → k ≤ 6 → MP T n lo hi σ b w c dp → (match spN T n f k b with
    | .inl (b', k') => ∃ σ', o_loop (M_operand_L18 t1) (i3 k, σ) = some σ' ∧ MP T n lo hi σ' b' (w + (k' - k)) c dp ∧ Ef w c σ σ' ∧ ma σ' 43 = ma σ 43 ∧ ∀ j, w ≤ j → j < w + (k' - k) → ma σ' 42 j = i3 3
    | .inr (kk, p) => ∃ σ', o_loop (M_operand_L18 t1) (i3 k, σ) = some σ' ∧ Er σ σ' kk p) := by
  intro f
  induction f with
  | zero => intro k σ b w c h1 h2; omega
  | succ f ih =>
    intro k σ b w c h1 h2 hP
    have hb := MP_b hP
    have f14 := hP.1.2.1.1
    have hstep : M_operand_L18 t1 (i3 k, σ) = if kwI T n b = 16 then (((if i3 k = 6 then ((M_wrong σ 2).bind fun q32 => some q32) else (some σ) : Option MS)).bind fun r26 => (M_isGood r26).bind fun q27 => if q27 = 0 then (some (.inl ((i3 k + 1), r26))) else ((M_waitsFor r26 3).bind fun q29 => (M_goes q29).bind fun q30 => some (.inl ((i3 k + 1), q30)))) else (some (.inr σ)) := by
      unfold M_operand_L18
      dsimp only
      rw [isGood_y f14, Option.bind_some, if_neg (show ¬ (1 : Int32) = 0 by decide), ht1, if_neg (show ¬ (1 : Int32) = 0 by decide), M_knownWord_eq hP.1.1, Option.bind_some]
    rw [o_loop_eq, hstep]
    unfold spN
    by_cases e : kw T n b = some 16
    · have hlt := op_lt_kw e
      have hI : kwI T n b = 16 := (kwI_iff (x := 16) (k := 16) (by decide) rfl).mpr e
      rw [if_pos e, if_pos hI]
      by_cases e6 : k < 6
      · rw [if_pos e6, if_neg (i3_nl (x := 6) (c := 6) rfl (by omega) (by decide) (by omega)), Option.bind_some, isGood_y f14, Option.bind_some, if_neg (show ¬ (1 : Int32) = 0 by decide)]
        obtain ⟨σ1, σ2, g1, g2, g3, g4, g5, g6⟩ := MP_pg hP hlt (i3 3)
        rw [show M_waitsFor σ 3 = some σ1 from g1, Option.bind_some, g2, Option.bind_some, Option.bind_some, i3_succ]
        dsimp only
        have hi := ih (k + 1) σ2 (nxb T n b) (w + 1) c (by omega) (by omega) g3
        have hk := spN_ok (T := T) f (k + 1) (nxb T n b) (nxt_le hb.1) (by omega)
        cases e5 : spN T n f (k + 1) (nxb T n b) with
        | inr z =>
          obtain ⟨kk, p⟩ := z
          rw [e5] at hi
          obtain ⟨σ', x1, x2⟩ := hi
          exact ⟨σ', x1, Er_pre (Ef_e g4) x2⟩
        | inl z =>
          obtain ⟨b', k'⟩ := z
          rw [e5] at hi hk
          obtain ⟨σ', x1, x2, x3, x4, x5⟩ := hi
          obtain ⟨_, _, k1, k2, _, _⟩ := hk
          refine ⟨σ', x1, by rw [show w + (k' - k) = w + 1 + (k' - (k + 1)) by omega]; exact x2, Ef_trans g4 (Ef_mono x3 (Nat.le_succ _) (Nat.le_refl _)), x4.trans g6, fun j j1 j2 => ?_⟩
          by_cases ej : j = w
          · rw [ej, x3.2.2.2 w (Nat.lt_succ_self _)]; exact g5
          · exact x5 j (by omega) (by omega)
      · have ek : k = 6 := by omega
        subst ek
        obtain ⟨w1, w2⟩ := MU_wrong hP.1 (by have := hP.2.2; omega) (by have := hP.2.1; omega) (x := 2) (k := 2) rfl (by decide) (by decide)
        rw [if_neg e6, if_pos (show i3 6 = 6 from rfl), w1, Option.bind_some, Option.bind_some, isGood_n (Er_bad w2), Option.bind_some, if_pos (show (0 : Int32) = 0 from rfl), Option.bind_some]
        refine ⟨_, ?_, w2⟩
        dsimp only
        rw [o_loop_eq]
        have : M_operand_L18 t1 (i3 6 + 1, sf (sf σ 14 2) 15 (i3 b)) = some (.inr (sf (sf σ 14 2) 15 (i3 b))) := by
          unfold M_operand_L18
          dsimp only
          rw [isGood_n (Er_bad w2), Option.bind_some, if_pos (show (0 : Int32) = 0 from rfl)]
        rw [this]
        rfl
    · rw [if_neg e, if_neg (fun x => e ((kwI_iff (x := 16) (k := 16) (by decide) rfl).mp x))]
      refine ⟨σ, rfl, ?_, Ef_refl _ _ _, rfl, fun j j1 j2 => by omega⟩
      rw [Nat.sub_self]
      exact hP
theorem ntE_1 (E : EX) : ∀ j, ntE (fun v => if E v = 0 then 1 else 0) j = ntE E (j + 1) := by
  intro j
  induction j with
  | zero => rfl
  | succ j ih =>
    show (fun v => if ntE (fun v => if E v = 0 then 1 else 0) j v = 0 then 1 else 0) = fun v => if ntE E (j + 1) v = 0 then 1 else 0
    rw [ih]
theorem mPopN : ∀ j (σ : MS) (b w c c1 : Nat) (E : EX), MP T n lo hi σ b (w + j) c1 dp → (∀ i, w ≤ i → i < w + j → ma σ 42 i = i3 3) → Pus (ma σ 41) c c1 E → popOk T n σ b dp 3 → ∃ σ' c', MP T n lo hi σ' b w c' dp ∧ Ef w c σ σ' ∧ ma σ' 43 = ma σ 43 ∧ Pus (ma σ' 41) c c' (ntE E j) ∧ restM σ = restM σ' := by
  intro j
  induction j with
  | zero => intro σ b w c c1 E hP _ hE _; exact ⟨σ, c1, hP, Ef_refl _ _ _, rfl, hE, rfl⟩
  | succ j ih =>
    intro σ b w c c1 E hP hN hE hp
    have hb := MP_b hP
    have hw := hP.2.1
    have hc := hP.2.2
    have hl := hE.1
    have hto : ma σ 42 (w + j) = i3 3 := hN (w + j) (by omega) (by omega)
    have hP1 : MP T n lo hi (popM σ (w + j) c1 3) b (w + j) (c1 + 1) dp := ⟨MU_pop hP.1, by omega, by omega⟩
    obtain ⟨σ', c', x1, x2, x3, x4, x5⟩ := ih (popM σ (w + j) c1 3) b w c (c1 + 1) (fun v => if E v = 0 then 1 else 0) hP1 (fun i i1 i2 => by rw [popM_a (by decide)]; exact hN i i1 (by omega)) (Pus_not (Pus_congr hE (fun q _ q2 => by rw [popM_41, if_neg (by omega)])) (by rw [popM_41, if_pos rfl]; rfl)) (by
      unfold popOk at hp ⊢
      rw [popM_a (by decide)]
      exact hp)
    have he : Ef (w + j) c1 σ (popM σ (w + j) c1 3) := Ef_pop
    refine ⟨σ', c', x1, Ef_trans (Ef_mono he (by omega) (by omega)) x2, x3.trans (popM_a (by decide)), by rw [← ntE_1]; exact x4, (restM_pop (w := w + j) hP.1 (by omega) (by omega) hto (by decide) hp).trans x5⟩
theorem mNot {Y : Nat → ER} (hok : SpOk n Y) (hYe : ∀ b b1 E, Y b = .inl (b1, E) → opS T n b1 = none ∧ opM T n b1 = none) (hY : MNT T n lo hi dp 5 0 Y) : MNT T n lo hi dp 3 1 (spNot T n Y) := by
  intro σ b w c hP hc ht
  have ht0 := ht rfl
  have f14 := hP.1.2.1.1
  have hn := mN (t1 := (1, 1, σ)) rfl 8 0 σ b w c rfl (by decide) hP
  unfold spNot
  rw [op1_eq f14]
  cases e0 : spN T n 8 0 b with
  | inr z =>
    obtain ⟨k, p⟩ := z
    rw [e0] at hn
    obtain ⟨σ', n1, n2⟩ := hn
    refine ⟨σ', n2, ?_⟩
    rw [show o_loop (M_operand_L18 (1, 1, σ)) (0, σ) = some σ' from n1, Option.bind_some, (op0_bad (Er_bad n2)).1, Option.bind_some]
  | inl z =>
    obtain ⟨b1, k⟩ := z
    rw [e0] at hn
    obtain ⟨σ1, n1, n2, n3, n4, n5⟩ := hn
    rw [Nat.sub_zero] at n2 n5
    rw [show o_loop (M_operand_L18 (1, 1, σ)) (0, σ) = some σ1 from n1, Option.bind_some]
    have hctx : ∀ s, 3 < s → ctxM σ1 (w + k) s := by
      intro s hs
      by_cases ek : k = 0
      · subst ek
        exact ctxM_ef (ctxM_mono hc (by omega)) n3
      · exact .inr ⟨3, n5 (w + k - 1) (by omega) (by omega), by decide, .inr (by show 3 < s; exact hs)⟩
    have hy := hY σ1 b1 (w + k) c n2 (hctx 5 (by decide)) (fun x => absurd x (by decide))
    dsimp only
    cases e : Y b1 with
    | inr z =>
      obtain ⟨kk, p⟩ := z
      rw [e] at hy
      obtain ⟨σ', y1, y2⟩ := hy
      exact ⟨σ', Er_pre (Ef_e n3) y1, y2⟩
    | inl z =>
      obtain ⟨b2, E⟩ := z
      rw [e] at hy
      obtain ⟨σ2, c2, y1, y2, y3, y4, -, y6⟩ := hy
      obtain ⟨x1, x2⟩ := hYe _ _ _ e
      have hN2 : ∀ i, w ≤ i → i < w + k → ma σ2 42 i = i3 3 := fun i i1 i2 => by rw [y2.2.2.2 i i2]; exact n5 i i1 i2
      have hl2 := y4.1
      dsimp only
      cases eo : opR T n b2 with
      | none =>
        obtain ⟨σ', c', z1, z2, z3, z4, z5⟩ := mPopN k σ2 b2 w c c2 E y1 hN2 y4 ⟨.inl x2, .inl x1, .inl eo, .inr (by decide)⟩
        refine ⟨σ', c', z1, Ef_trans n3 (Ef_trans (Ef_mono y2 (Nat.le_add_right _ _) (Nat.le_refl _)) z2), fun i hi => ?_, z4, fun _ => .inl eo, y6.trans z5⟩
        rcases hi with hi | hi
        · rw [z3, y3 i (.inl hi), n4]
        · exact absurd hi.1 (by decide)
      | some o =>
        obtain ⟨o1, o2, o3⟩ := oR b2 o eo
        have t0 : ma σ2 43 dp = 0 := by rw [y3 dp (.inr ⟨rfl, rfl⟩), n4]; exact ht0
        obtain ⟨σ3, r1, r2, r3, r4, r5, r6⟩ := step_R y1 eo t0 (ctxM_ef (hctx 4 (by decide)) y2)
        have hy3 := hY σ3 (nxb T n b2) (w + k + 1) c2 r1 (ctxM_top r3 (by omega) (.inr (by rw [o3]; decide))) (fun x => absurd x (by decide))
        dsimp only
        cases e6 : Y (nxb T n b2) with
        | inr z =>
          obtain ⟨kk, p⟩ := z
          rw [e6] at hy3
          obtain ⟨σ', q1, q2⟩ := hy3
          exact ⟨σ', Er_pre (Ef_e n3) (Er_pre (Ef_e y2) (Er_pre (Ef_e r2) q1)), y6.trans (r6.trans q2)⟩
        | inl z =>
          obtain ⟨b3, E2⟩ := z
          rw [e6] at hy3
          obtain ⟨σ4, c4, q1, q2, q3, q4, -, q6⟩ := hy3
          obtain ⟨x3, x4⟩ := hYe _ _ _ e6
          obtain ⟨σ5, v1, v2, v3, v4, v5⟩ := m_join y4 r2 r3 q1 q2 q4 o1 o2 (by rw [o3]; exact ⟨.inl x4, .inl x3, .inr (.inr (Nat.le_refl _)), .inr (by decide)⟩)
          have tt : ¬ ma σ5 43 dp = 0 := by rw [v3, q3 dp (.inr ⟨rfl, rfl⟩), r4]; decide
          obtain ⟨σ', c', z1, z2, z3, z4, z5⟩ := mPopN k σ5 b3 w c (c4 + 1) (fun v => wk o (E v) (E2 v)) v1 (fun i i1 i2 => by rw [v2.2.2.2 i i2]; exact hN2 i i1 i2) v4 ⟨.inl x4, .inl x3, .inr (.inl tt), .inr (by decide)⟩
          refine ⟨σ', c', z1, Ef_trans n3 (Ef_trans (Ef_mono y2 (Nat.le_add_right _ _) (Nat.le_refl _)) (Ef_trans (Ef_mono v2 (Nat.le_add_right _ _) (by omega)) z2)), fun i hi => ?_, z4, fun _ => .inr (by rw [z3]; exact tt), y6.trans (r6.trans (q6.trans (v5.trans z5)))⟩
          rcases hi with hi | hi
          · rw [z3, v3, q3 i (.inl hi), r5 i (by omega), y3 i (.inl hi), n4]
          · exact absurd hi.1 (by decide)
theorem mNt {X : Nat → ER} (hok : SpOk n X) (hX : MXT T n lo hi dp X) (hd : 1 ≤ dp) : MNT T n lo hi dp 3 1 (spNt T n lo hi X) := mNot (spSum_ok hok) (fun _ _ _ e => spSum_exit e) (mSum hok hX hd)
theorem mAnd {X : Nat → ER} (hok : SpOk n X) (hX : MXT T n lo hi dp X) (hd : 1 ≤ dp) : MNT T n lo hi dp 2 1 (spAnd T n lo hi X) :=
  mch (spNt_ok hok) opA_in oA (by decide) (mNt hok hX hd) stA (fun _ _ _ _ e ht => ⟨.inl (spNt_exit e).2, .inl (spNt_exit e).1, (ht rfl).imp id .inl, .inr (by decide)⟩)
theorem mOr {X : Nat → ER} (hok : SpOk n X) (hX : MXT T n lo hi dp X) (hd : 1 ≤ dp) : MNT T n lo hi dp 1 1 (spOr T n lo hi X) :=
  mch (spAnd_ok hok) opO_in oO (by decide) (mAnd hok hX hd) stO (fun _ _ _ _ e ht => ⟨.inl (spAnd_exit e).2.2, .inl (spAnd_exit e).2.1, (ht rfl).imp id .inl, .inl (spAnd_exit e).1⟩)
/-- one deeper, or too deep -/
theorem isB_eq {σ : MS} {b : Nat} (hL : ML σ T n b) : (if (mf σ 19) = 2 then (some 2) else (if (mf σ 19) = 1 then (some 2) else ((M_isSign σ 40).bind fun q6 => if q6 = 0 then (some 1) else (some 2))) : Option Int32) = some (i3 (if isB T n b = true then 2 else 1)) := by
  unfold isB
  by_cases e2 : tkK T n b = 2
  · rw [if_pos ((M_sort hL (x := 2) (k := 2) rfl (by decide)).mpr e2), decide_eq_true e2]
    rfl
  · rw [if_neg (fun x => e2 ((M_sort hL (x := 2) (k := 2) rfl (by decide)).mp x)), decide_eq_false e2]
    by_cases e1 : tkK T n b = 1
    · rw [if_pos ((M_sort hL (x := 1) (k := 1) rfl (by decide)).mpr e1), decide_eq_true e1]
      rfl
    · rw [if_neg (fun x => e1 ((M_sort hL (x := 1) (k := 1) rfl (by decide)).mp x)), decide_eq_false e1, M_isSign_eq hL (x := 40) (c := 40) rfl (by decide), Option.bind_some]
      cases sg T n b 40 <;> rfl
theorem deeper_y {σ : MS} {b w c a : Nat} (hP : MP T n lo hi σ b w c a) (ha : a < 6) : ∃ σ1, M_deeper σ = some σ1 ∧ MP T n lo hi σ1 b w c (a + 1) ∧ Ef w c σ σ1 ∧ ma σ1 43 (a + 1) = 0 ∧ ∀ i, i ≠ a + 1 → ma σ1 43 i = ma σ 43 i := by
  have f35 := hP.1.2.1.2.2.2.1
  have h1 : MU T n lo hi (sf σ 35 (i3 (a + 1))) b w c (a + 1) := MU_of hP.1 (fun k hk => mf_sfn (by omega)) rfl rfl ((mf_sfn (by decide)).trans hP.1.2.1.2.1) ((mf_sfn (by decide)).trans hP.1.2.1.2.2.1) mf_sfe (by omega)
  obtain ⟨σ1, q1, q2, q3, q4, q5, q6, q7⟩ := MU_test h1 nar0
  refine ⟨σ1, ?_, ⟨q2, hP.2⟩, Ef_trans (σ' := sf σ 35 (i3 (a + 1))) ⟨fun k hk => mf_sfn (by omega), fun _ _ _ _ => rfl, fun _ _ => rfl, fun _ _ => rfl⟩ (q3 w c), q4, fun i hi => q5 i hi⟩
  unfold M_deeper
  rw [f35, if_pos ((i3_ltl (c := 6) (n := 6) rfl (by omega) (by decide)).mpr ha), i3_succ, pf_e, Option.bind_some, q1, Option.bind_some]
theorem deeper_n {σ : MS} {b w c : Nat} (hP : MP T n lo hi σ b w c 6) : ∃ σ1, M_deeper σ = some σ1 ∧ Er σ σ1 (if isB T n b = true then 2 else 1) b := by
  have hb := MP_b hP
  obtain ⟨w1, w2⟩ := MU_wrong hP.1 (by have := hP.2.2; omega) (by have := hP.2.1; omega) (x := i3 (if isB T n b = true then 2 else 1)) (k := if isB T n b = true then 2 else 1) rfl (by split <;> decide) (by split <;> decide)
  refine ⟨_, ?_, w2⟩
  unfold M_deeper
  rw [hP.1.2.1.2.2.2.1, if_neg (by decide), isB_eq hP.1.1, Option.bind_some, w1, Option.bind_some]
theorem mX : ∀ d a, 7 ≤ d + a → MXT T n lo hi a (spX T n lo hi d a) := by
  intro d
  induction d with
  | zero =>
    intro a h σ b w c hP
    have := hP.1.2.2.1
    omega
  | succ d ih =>
    intro a h σ b w c hP hc
    have ha := hP.1.2.2.1
    unfold spX
    by_cases e6 : a < 6
    · obtain ⟨σ1, d1, d2, d3, d4, d5⟩ := deeper_y hP e6
      rw [d1, Option.bind_some]
      by_cases eB : isB T n b = true
      · rw [if_pos eB, if_pos e6]
        have hx := mOr (spX_ok d (a + 1)) (ih (a + 1) (by omega)) (by omega) σ1 b w c d2 (ctxM_ef (ctxM_mono hc (by decide)) d3) (fun _ => d4)
        cases e : spOr T n lo hi (spX T n lo hi d (a + 1)) b with
        | inr z =>
          obtain ⟨k, p⟩ := z
          rw [e] at hx
          obtain ⟨σ', x1, x2⟩ := hx
          exact ⟨σ', Er_pre (Ef_e d3) x1, x2⟩
        | inl z =>
          obtain ⟨b1, E⟩ := z
          rw [e] at hx
          obtain ⟨σ', c', x1, x2, x3, x4, x5, x6⟩ := hx
          exact ⟨σ', c', x1, Ef_trans d3 x2, fun i hi => by rw [x3 i (.inl hi), d5 i (by omega)], x4, x5 rfl, spOr_exit e, x6⟩
      · rw [if_neg eB]
        have hb := MP_b d2
        have hB := bF eB
        unfold isB at hB
        rw [Bool.or_eq_false_iff, Bool.or_eq_false_iff] at hB
        have e2 := of_decide_eq_false hB.1
        have e1 := of_decide_eq_false hB.2.1
        have e40 := hB.2.2
        have f14 := d2.1.2.1.1
        obtain ⟨w1, w2⟩ := MU_wrong d2.1 (by have := d2.2.2; omega) (by have := d2.2.1; omega) (x := 1) (k := 1) rfl (by decide) (by decide)
        refine ⟨_, Er_pre (Ef_e d3) w2, ?_⟩
        have hl : o_loop (M_operand_L18 (1, 1, σ1)) (0, σ1) = some σ1 := by
          rw [o_loop_eq]
          have : M_operand_L18 (1, 1, σ1) (0, σ1) = some (.inr σ1) := by
            unfold M_operand_L18
            dsimp only
            rw [isGood_y f14, Option.bind_some, if_neg (show ¬ (1 : Int32) = 0 by decide), if_neg (show ¬ (1 : Int32) = 0 by decide), M_knownWord_eq d2.1.1, Option.bind_some, if_neg (fun x => e1 (kw_word ((kwI_iff (x := 16) (k := 16) (by decide) rfl).mp x)))]
          rw [this]
          rfl
        have hp : M_part σ1 = some (sf (sf σ1 14 1) 15 (i3 b)) := by
          unfold M_part
          rw [isGood_y f14, Option.bind_some, if_neg (show ¬ (1 : Int32) = 0 by decide), if_neg (fun x => e2 ((M_sort d2.1.1 (x := 2) (k := 2) rfl (by decide)).mp x)), if_neg (fun x => e1 ((M_sort d2.1.1 (x := 1) (k := 1) rfl (by decide)).mp x)), w1, Option.bind_some, Option.bind_some, isGood_n (Er_bad w2), Option.bind_some, if_pos (show (0 : Int32) = 0 from rfl)]
        rw [op1_eq f14, hl, Option.bind_some, op0_eq f14, M_isSign_eq d2.1.1 (x := 40) (c := 40) rfl (by decide), Option.bind_some, if_pos (bI_y0 e40), hp, Option.bind_some]
    · have ea : a = 6 := by omega
      subst ea
      obtain ⟨σ1, d1, d2⟩ := deeper_n hP
      rw [d1, Option.bind_some, (op0_bad (Er_bad d2)).2.1, Option.bind_some]
      by_cases eB : isB T n b = true
      · rw [if_pos eB] at d2
        rw [if_pos eB, if_neg e6]
        exact ⟨σ1, d2, rfl⟩
      · rw [if_neg eB] at d2
        rw [if_neg eB]
        exact ⟨σ1, d2, rfl⟩
end MEXPR4
