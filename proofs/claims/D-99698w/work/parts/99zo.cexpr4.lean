/-! ===== office: the component reads an expression: whole ===== -/
section CEXPR4
variable {K q : Nat → Nat} {rd nm n n0 : Nat} {T : Nat → Nat} {d : Int32} {h0 h h' : CH} {r r' : CR} {cv : (Nat → Int32) → (Nat → Int32)} {L : List Nat} {b dd lo hi : Nat} {X : Nat → ER} {S : CH → CR → Nat → Int32 → Option ((Nat × CS) ⊕ XT)} {a0 : Int32}
theorem cN (hH : H0c K q rd nm n T L h0 n0) : ∀ f k (h : CH) (r : CR) (b : Nat), k + f = 8 → k ≤ 6 → CT q rd nm n T d h0 n0 h r b → 1 ≤ r.2.1 → 7 ≤ r.2.2 → (match spN T n f k b with
    | .inl (b', k') => ∃ h', o_loop (C5_notS_L2 K rd) (i3 k, (h, r)) = some (.inl (i3 k', (h', r))) ∧ CT q rd nm n T d h0 n0 h' r b' ∧ ∀ p, p ≠ rd → h' p = h p
    | .inr (kk, p) => ∃ w, o_loop (C5_notS_L2 K rd) (i3 k, (h, r)) = some (.inr w) ∧ CEr K q rd h0 n0 r b 1 7 kk p w) := by
  have hrd := H0_rd hH
  intro f
  induction f with
  | zero => intro k h r b h1 h2; omega
  | succ f ih =>
    intro k h r b h1 h2 hC hr1 hr2
    have his := CT_is hH hC (i := 13) (by decide) (by decide) (k := 16) rfl (by decide)
    unfold spN
    rw [o_loop_eq]
    by_cases e : kw T n b = some 16
    · have hlt := op_lt_kw e
      have hnx := nxt_lt (T := T) hlt
      rw [if_pos e]
      rw [decide_eq_true e] at his
      by_cases e6 : k < 6
      · obtain ⟨k1, g1, g2, g3⟩ := CT_next hH hC
        have hst : C5_notS_L2 K rd (i3 k, (h, r)) = some (.inl (i3 (k + 1), (k1, r))) := by
          unfold C5_notS_L2
          dsimp only
          rw [his, Option.bind_some, bI_t, if_neg (show ¬ (1 : Int32) = 0 by decide), if_pos ((i3_ltl (c := 6) (n := 6) rfl (by omega) (by decide)).mpr e6), xg_l, show (1 : Int32) = bI true from rfl, want_ok hC rfl, xg_l]
          dsimp only
          rw [g1, Option.bind_some]
          show some (Sum.inl (i3 k + 1, k1, r)) = _
          rw [i3_succ]
        rw [if_pos e6, hst, Option.bind_some]
        dsimp only
        have hi := ih (k + 1) k1 r (nxb T n b) (by omega) (by omega) g2 hr1 hr2
        have hk := spN_ok (T := T) f (k + 1) (nxb T n b) (nxt_le hC.2.1.1) (by omega)
        cases e5 : spN T n f (k + 1) (nxb T n b) with
        | inr z =>
          obtain ⟨kk, p⟩ := z
          rw [e5] at hi hk
          obtain ⟨w, x1, x2⟩ := hi
          exact ⟨w, x1, CEr_up x2 (Nat.le_refl _) (Nat.le_refl _) (Nat.le_refl _) (by omega) hk.1 (by omega) (by omega)⟩
        | inl z =>
          obtain ⟨b', k'⟩ := z
          rw [e5] at hi
          obtain ⟨h', x1, x2, x3⟩ := hi
          exact ⟨h', x1, x2, fun p hp => by rw [x3 p hp, g3 p hp]⟩
      · obtain ⟨w, w1, w2⟩ := CEr_no (K := K) (x := 2) (k := 2) (u := 1) (v := 7) (c := false) hC rfl rfl hrd (by decide) (by decide) hr1 hr2
        have hst : C5_notS_L2 K rd (i3 k, (h, r)) = some (.inr (.inr w)) := by
          unfold C5_notS_L2
          dsimp only
          rw [his, Option.bind_some, bI_t, if_neg (show ¬ (1 : Int32) = 0 by decide), if_neg (fun x => e6 ((i3_ltl (c := 6) (n := 6) rfl (by omega) (by decide)).mp x)), xg_l, show (0 : Int32) = bI false from rfl, w1, xg_r]
        rw [if_neg e6, hst, Option.bind_some]
        exact ⟨w, rfl, w2⟩
    · have hst : C5_notS_L2 K rd (i3 k, (h, r)) = some (.inr (.inl (i3 k, (h, r)))) := by
        unfold C5_notS_L2
        dsimp only
        rw [his, Option.bind_some, decide_eq_false e, bI_f, if_pos rfl]
      rw [if_neg e, hst, Option.bind_some]
      exact ⟨h, rfl, hC, fun _ _ => rfl⟩
theorem cNE (hH : H0c K q rd nm n T L h0 n0) {k : Nat} {r3 : Int32 × CS} (h3 : r3.1 = i3 k) (hk : k ≤ 6) : ∀ j i a (h : CH) (r : CR) (dx lo : Nat) (E : EX), i + j = k → CT q rd nm n T d h0 n0 h r b → FoR K dx cv h lo r.1 a E → n0 ≤ lo → j ≤ r.2.1 → j ≤ r.2.2 → ∃ a' h' r', o_loop (C5_notS_L94 r3) (a, i3 i, (h, r)) = some (.inl (a', (h', r'))) ∧ CT q rd nm n T d h0 n0 h' r' b ∧ (∀ p, p < r.1 → h' p = h p) ∧ FoR K (dx + j) cv h' lo r'.1 a' (ntE E j) ∧ r'.2.1 + j = r.2.1 ∧ r'.2.2 + j = r.2.2 ∧ r.1 ≤ r'.1 := by
  intro j
  induction j with
  | zero =>
    intro i a h r dx lo E hi hC hF _ _ _
    refine ⟨a, h, r, ?_, hC, fun _ _ => rfl, hF, rfl, rfl, Nat.le_refl _⟩
    rw [o_loop_eq]
    have : C5_notS_L94 r3 (a, i3 i, (h, r)) = some (.inr (.inl (a, (h, r)))) := by
      unfold C5_notS_L94
      dsimp only
      rw [h3, if_neg (fun x => by have := (i3_lt (by omega) (by omega)).mp x; omega)]
    rw [this]
    rfl
  | succ j ih =>
    intro i a h r dx lo E hi hC hF hn0 h1 h2
    have C1 := CT_al hH hC (.inr (9, [.ref a])) (r.2.1 - 1, r.2.2 - 1)
    have hal := hF.1
    have hF1 : FoR K dx cv (hup h r.1 (.inr (9, [.ref a]))) lo r.1 a E := FoR_eq hF (fun p p1 p2 => hup_n (by omega))
    have hF2 : FoR K (dx + 1) cv (hup h r.1 (.inr (9, [.ref a]))) lo (r.1 + 1) r.1 (fun v => if E v = 0 then 1 else 0) := by
      refine ⟨⟨by omega, Nat.lt_succ_self _⟩, ⟨9, _, hup_s, .inr (.inr (.inr rfl))⟩, fun h2 vs g he hv => ?_⟩
      have ea : h2 r.1 = some (.inr (9, [.ref a])) := he r.1 _ (by omega) (Nat.lt_succ_self _) hup_s
      unfold Fm_n
      rw [if_neg (isC_no ea (by decide)), if_neg (isC_no ea (by decide)), if_pos (isC_of ea)]
      unfold C10_of
      rw [gR_of ea (k := 0) rfl, Option.bind_some, hF1.2.2 h2 vs g (fun p x p1 p2 => he p x p1 (by omega)) hv, Option.bind_some]
      dsimp only
      split <;> rfl
    obtain ⟨a', h', r', x1, x2, x3, x4, x5, x6, x7⟩ := ih (i + 1) r.1 (hup h r.1 (.inr (9, [.ref a]))) (r.1 + 1, r.2.1 - 1, r.2.2 - 1) (dx + 1) lo _ (by omega) C1 hF2 hn0 (by dsimp only; omega) (by dsimp only; omega)
    dsimp only at x3 x5 x6 x7
    refine ⟨a', h', r', ?_, x2, fun p hp => by rw [x3 p (by omega), hup_n (by omega)], ?_, by omega, by omega, by omega⟩
    · rw [o_loop_eq]
      have : C5_notS_L94 r3 (a, i3 i, (h, r)) = some (.inl (r.1, i3 (i + 1), (hup h r.1 (.inr (9, [.ref a])), r.1 + 1, r.2.1 - 1, r.2.2 - 1))) := by
        unfold C5_notS_L94 C10_init
        dsimp only
        rw [h3, if_pos ((i3_lt (by omega) (by omega)).mpr (by omega)), aCell_of (by omega) (by omega), Option.bind_some]
        dsimp only
        rw [pQ_of hup_s (show 0 < 1 by decide), Option.bind_some, Option.bind_some, hup_hup, i3_succ]
        rfl
      rw [this]
      exact x1
    · rw [← ntE_1, show dx + (j + 1) = dx + 1 + j by omega]
      exact x4
theorem cNot (hH : H0c K q rd nm n T L h0 n0) (hok : SpOk n X) (hY : CNT K q rd nm n T d h0 n0 cv 2 (dd + 2) X (fun h r => C5_sumS S K h r rd a0)) : CNT K q rd nm n T d h0 n0 cv 3 (dd + 9) (spNot T n X) (fun h r => C5_notS S K h r rd a0) := by
  have hrd := H0_rd hH
  have h700 := hH.2.2.1
  intro h r b hC h1 h2
  have hbn := hC.2.1.1
  have hn0 := hC.2.2.2
  show CRs K q rd nm n T d h0 n0 cv 3 (dd + 9) h r b (spNot T n X b) (C5_notS S K h r rd a0)
  have hnN := cN (K := K) hH 8 0 h r b rfl (by decide) hC (by omega) (by omega)
  have hsN := spN_ok (T := T) 8 0 b hbn (by decide)
  unfold C5_notS spNot
  cases eN : spN T n 8 0 b with
  | inr z =>
    obtain ⟨kk, p⟩ := z
    rw [eN] at hnN hsN
    obtain ⟨w, w1, w2⟩ := hnN
    rw [show o_loop (C5_notS_L2 K rd) (0, (h, r)) = _ from w1, xg_r]
    exact ⟨w, rfl, CEr_up w2 (Nat.le_refl _) (Nat.le_refl _) (Nat.le_refl _) (Nat.le_refl _) hsN.1 (by omega) (by omega)⟩
  | inl z =>
    obtain ⟨b1, k⟩ := z
    rw [eN] at hnN hsN
    obtain ⟨h1', w1, C1, e1⟩ := hnN
    obtain ⟨s1, s2, -, s4, s5, -⟩ := hsN
    rw [show o_loop (C5_notS_L2 K rd) (0, (h, r)) = _ from w1, xg_l]
    dsimp only
    rw [aCell_of (by omega) (by omega), Option.bind_some]
    dsimp only
    have C2 := CT_al hH C1 (.inr (6, [.null, .null])) (r.2.1 - 1, r.2.2 - 2)
    have hx := hY _ _ b1 C2 (by dsimp only; omega) (by dsimp only; omega)
    have hkx := hok b1 s2
    cases e : X b1 with
    | inr z =>
      obtain ⟨kk, p⟩ := z
      obtain ⟨w, v1, v2⟩ := sub_r C2 hx e
      rw [e] at hkx
      have hkx2 : b1 ≤ p ∧ p ≤ n ∧ 1 ≤ kk ∧ kk ≤ 9 := hkx
      refine ⟨w, ?_, CEr_up v2 (Nat.le_succ _) (Nat.sub_le _ _) (Nat.sub_le _ _) s1 hkx2.1 (by dsimp only; omega) (by dsimp only; omega)⟩
      rw [v1, xg_r]
    | inl z =>
      obtain ⟨b2, E⟩ := z
      obtain ⟨a, k2, r2, v1, C3, e3, hF, y1, y2, y3, y4⟩ := sub_l C2 hx e
      rw [e] at hkx
      have hkx2 : b1 + 1 ≤ b2 ∧ b2 ≤ n := hkx
      have hlu := hF.1
      dsimp only at e3 hF hlu y1 y2 y3 y4
      have hcell : k2 r.1 = some (.inr (6, [.null, .null])) := by rw [e3 r.1 (Nat.lt_succ_self _) (by omega)]; exact hup_s
      obtain ⟨k3, r3, z1, z2, z3, z4, z5, z6, z7, z8, z9, z10⟩ := Ch_init C3.2.2.1 (KN_ag hH C3.1) hH.1.2.1 (fun i hi2 => by have := hH.1.2.2 i hi2; have := C3.2.2.2; omega) hcell hF (Nat.lt_succ_self _) (Nat.le_refl _) (by omega) (by omega)
      have C4 : CT q rd nm n T d h0 n0 k3 r3 b2 := CT_kp C3 (fun p hp => z3 p (by omega) (by omega)) hrd z4 z6
      have g60 := LR_sg (CT_LR hH C4) (x := 60) (c := 60) rfl (by decide)
      have g61 := LR_sg (CT_LR hH C4) (x := 61) (c := 61) rfl (by decide)
      dsimp only
      rw [v1, xg_l]
      dsimp only
      rw [z1, Option.bind_some]
      dsimp only
      rw [g60, Option.bind_some, g61, Option.bind_some]
      have fin : ∀ (k5 : CH) (r5 : CR) (b5 kc hi5 : Nat) (E5 : EX), CT q rd nm n T d h0 n0 k5 r5 b5 → ChS K (dd + 2) cv k5 r.1 hi5 r.1 kc E5 → hi5 ≤ r5.1 → (∀ p, p < r.1 → p ≠ rd → k5 p = h p) → b + k + 1 ≤ b5 → (r5.2.1 ≤ r.2.1 ∧ r5.2.2 ≤ r.2.2 ∧ r.2.1 + 65 ≤ r5.2.1 + 100 * (b5 - b1) ∧ r.2.2 + 2650 ≤ r5.2.2 + 3000 * (b5 - b1)) → b1 + 1 ≤ b5 → k ≤ r5.2.1 → k ≤ r5.2.2 → CRs K q rd nm n T d h0 n0 cv 3 (dd + 9) h r b (.inl (b5, ntE E5 k)) ((vc k5 r.1 6 (C7_plain k5 r.1)).bind fun q9 => o_loop (C5_notS_L94 (i3 k, (h1', r))) (q9, 0, (k5, r5))) := by
        intro k5 r5 b5 kc hi5 E5 C5 S5 hh5 f5 hb5 hc5 hb6 hk1 hk2
        obtain ⟨a', u1, u2⟩ := Ch_plain S5
        obtain ⟨a6, h6, r6, q1, q2, q3, q4, q5, q6, q7⟩ := cNE (K := K) (cv := cv) (r3 := (i3 k, (h1', r))) hH rfl s4 k 0 a' k5 r5 (dd + 3) r.1 E5 (by omega) C5 (FoR_up u2 (Nat.le_refl _) (Nat.le_refl _) hh5) hn0 hk1 hk2
        have hr5 := u2.1
        rw [u1, Option.bind_some]
        refine ⟨a6, h6, r6, q1, q2, fun p p1 p2 => ?_, FoR_up q4 (by omega) (Nat.le_refl _) (Nat.le_refl _), by omega, by omega, by omega, by omega⟩
        rw [q3 p (by omega), f5 p p1 p2]
      have f3 : ∀ p, p < r.1 → p ≠ rd → k3 p = h p := fun p p1 p2 => by rw [z3 p (by omega) (by omega), e3 p (by omega) p2, hup_n (by omega), e1 p p2]
      have hJ : ∀ c o, sg T n b2 c = true → c < 128 → chrN o = c → 4 ≤ o → o ≤ 11 → CRs K q rd nm n T d h0 n0 cv 3 (dd + 9) h r b (match X (nxb T n b2) with
          | .inr e => .inr e
          | .inl (b3, E2) => .inl (b3, ntE (fun v => wk o (E v) (E2 v)) k)) (xg Sum.inr (C5_notS_J68 S K rd a0 (i3 k, (h1', r)) (k3, r3)) fun r8 => (vc r8.1 r.1 6 (C7_plain r8.1 r.1)).bind fun q9 => o_loop (C5_notS_L94 (i3 k, (h1', r))) (q9, 0, r8)) := by
        intro c o hs hc ho o1 o2
        have hlt := op_lt_sg hs
        have hnx := nxt_lt (T := T) hlt
        have hnn := nxt_le (T := T) hkx2.2
        obtain ⟨k4, t1, t2, t3⟩ := CT_sign hH C4 hc hs
        have hx2 := hY k4 r3 (nxb T n b2) t2 (by omega) (by omega)
        have hkx3 := hok (nxb T n b2) hnn
        unfold C5_notS_J68
        dsimp only
        rw [t1, Option.bind_some]
        dsimp only
        cases e6 : X (nxb T n b2) with
        | inr z =>
          obtain ⟨kk, p⟩ := z
          obtain ⟨w, m1, m2⟩ := sub_r t2 hx2 e6
          rw [e6] at hkx3
          have hk3 : nxb T n b2 ≤ p ∧ p ≤ n ∧ 1 ≤ kk ∧ kk ≤ 9 := hkx3
          refine ⟨w, ?_, CEr_up m2 (by omega) (by omega) (by omega) (by omega) hk3.1 (by omega) (by omega)⟩
          rw [m1, xg_r, xg_r]
        | inl z =>
          obtain ⟨b3, E2⟩ := z
          obtain ⟨a2, k5, r5, m1, C5, e5, hF5, n1, n2, n3, n4⟩ := sub_l t2 hx2 e6
          rw [e6] at hkx3
          have hk3 : nxb T n b2 + 1 ≤ b3 ∧ b3 ≤ n := hkx3
          have hlu5 := hF5.1
          have S5 : ChS K (dd + 2) cv k5 r.1 r3.1 r.1 1 E := Ch_eq z2 (fun p p1 p2 => by
            have hp : p ≠ rd := by omega
            rw [e5 p p2 hp, t3 p hp]) (Nat.le_refl _)
          obtain ⟨k6, r6, u1, u2, u3, u4, u5, u6, u7, u8, u9, u10⟩ := Ch_add (o := o) S5 C5.2.2.1 (KN_ag hH C5.1) hH.1.2.1 (fun i hi2 => by have := hH.1.2.2 i hi2; have := C5.2.2.2; omega) (Nat.le_refl _) hF5 (Nat.le_refl _) o1 o2 (by decide) (by omega) (by omega)
          have C6 : CT q rd nm n T d h0 n0 k6 r6 b3 := CT_kp C5 (fun p hp => u3 p (by omega)) hrd u4 u6
          rw [m1, xg_l]
          dsimp only
          rw [← ho, u1, Option.bind_some, xg_l]
          refine fin k6 r6 b3 (1 + 1) r6.1 _ C6 u2 (Nat.le_refl _) (fun p p1 p2 => ?_) (by omega) ⟨by omega, by omega, by omega, by omega⟩ (by omega) (by omega) (by omega)
          rw [u3 p p1, e5 p (by omega) p2, t3 p p2, f3 p p1 p2]
      unfold opR
      by_cases e60 : sg T n b2 60 = true
      · rw [if_neg (bI_n0 e60), if_pos e60]
        exact hJ 60 6 e60 (by decide) rfl (by decide) (by decide)
      · rw [if_pos (bI_y0 (bF e60)), if_neg e60]
        by_cases e61 : sg T n b2 61 = true
        · rw [if_neg (bI_n0 e61), if_pos e61]
          exact hJ 61 7 e61 (by decide) rfl (by decide) (by decide)
        · rw [if_pos (bI_y0 (bF e61)), if_neg e61, xg_l]
          exact fin k3 r3 b2 1 r3.1 E C4 z2 (Nat.le_refl _) f3 (by omega) ⟨by omega, by omega, by omega, by omega⟩ (by omega) (by omega) (by omega)
theorem cNt (hH : H0c K q rd nm n T L h0 n0) (hNM : NmOk T n L lo hi cv) (hd1 : 1 ≤ dd) (hok : SpOk n X) (hX : CNT K q rd nm n T d h0 n0 cv 5 dd X (fun h r => S h r rd (a0 + 1))) : CNT K q rd nm n T d h0 n0 cv 3 (dd + 9) (spNt T n lo hi X) (fun h r => C5_notS S K h r rd a0) :=
  cNot hH (spSum_ok hok) (cSum hH hNM hd1 hok hX)
theorem cAnd (hH : H0c K q rd nm n T L h0 n0) (hNM : NmOk T n L lo hi cv) (hd1 : 1 ≤ dd) (hok : SpOk n X) (hX : CNT K q rd nm n T d h0 n0 cv 5 dd X (fun h r => S h r rd (a0 + 1))) : CNT K q rd nm n T d h0 n0 cv 4 (dd + 10) (spAnd T n lo hi X) (fun h r => C5_andS S K h r rd a0) :=
  cch (step := fun r0 => C5_andS_L13 S K r0 rd a0) hH (by decide) (spNt_ok hok) opA_in oAi (cNt hH hNM hd1 hok hX) (fun r0 _ => ctA hH r0 _ rfl) (fun _ _ => rfl)
noncomputable def exprT (S : CH → CR → Nat → Int32 → Option ((Nat × CS) ⊕ XT)) (K : Nat → Nat) (rd : Nat) (a0 : Int32) (h : CH) (r : CR) : Option ((Nat × CS) ⊕ XT) :=
  (aCell h r 2 (.inr (6, [.null, .null]))).bind fun s6 =>
  xg Sum.inr (vc s6.1 rd 4 (xchk s6.2 (C5_andS S K s6.1 s6.2 rd a0))) fun q7 =>
  (achv q7.2.2 (C7_init K q7.2.1 q7.2.2 r.1 q7.1)).bind fun q8 =>
  xg Sum.inr (o_loop (C5_expressionS_L64 S K rd a0 (h, r)) q8) fun r11 =>
  (vc r11.1 r.1 6 (C7_plain r11.1 r.1)).bind fun q12 =>
  some (.inl (q12, r11))
theorem cOr (hH : H0c K q rd nm n T L h0 n0) (hNM : NmOk T n L lo hi cv) (hd1 : 1 ≤ dd) (hok : SpOk n X) (hX : CNT K q rd nm n T d h0 n0 cv 5 dd X (fun h r => S h r rd (a0 + 1))) : CNT K q rd nm n T d h0 n0 cv 5 (dd + 11) (spOr T n lo hi X) (fun h r => exprT S K rd a0 h r) :=
  cch (step := fun r0 => C5_expressionS_L64 S K rd a0 ((fun _ => none), r0)) hH (by decide) (spAnd_ok hok) opO_in oOi (cAnd hH hNM hd1 hok hX) (fun r0 _ => ctO hH r0 _ rfl _ rfl) (fun _ _ => rfl)
theorem cX (hH : H0c K q rd nm n T L h0 n0) (hNM : NmOk T n L lo hi cv) : ∀ dp a, 7 ≤ dp + a → a ≤ 6 → CNT K q rd nm n T d h0 n0 cv 5 (1 + 11 * dp) (spX T n lo hi dp a) (fun h r => C5_expr_n K dp h r rd (i3 a)) := by
  have hrd := H0_rd hH
  intro dp
  induction dp with
  | zero => intro a h1 h2; omega
  | succ dp ih =>
    intro a ha ha6 h r b hC h1 h2
    show CRs K q rd nm n T d h0 n0 cv 5 (1 + 11 * (dp + 1)) h r b (spX T n lo hi (dp + 1) a b) (C5_expressionS (C5_expr_n K dp) K h r rd (i3 a))
    have e8 := CT_8 hC
    have hB : (if i3 (tkK T n b) = 2 then (some (.inl 1)) else ((gI h rd 4 8).bind fun v19 => if v19 = 1 then (some (.inl 1)) else ((vc h rd 4 (C5_isSign h rd 40)).bind fun q21 => if q21 = 0 then (some (.inl 0)) else (some (.inl 1)))) : Option (Int32 ⊕ XT)) = some (.inl (bI (isB T n b))) := by
      rw [e8, Option.bind_some, LR_sg (CT_LR hH hC) (x := 40) (c := 40) rfl (by decide), Option.bind_some]
      unfold isB
      by_cases e2 : tkK T n b = 2
      · rw [if_pos ((tkK_i (x := 2) (k := 2) rfl (by decide)).mpr e2), decide_eq_true e2]; rfl
      · rw [if_neg (fun z => e2 ((tkK_i (x := 2) (k := 2) rfl (by decide)).mp z)), decide_eq_false e2]
        by_cases e1 : tkK T n b = 1
        · rw [if_pos ((tkK_i (x := 1) (k := 1) rfl (by decide)).mpr e1), decide_eq_true e1]; rfl
        · rw [if_neg (fun z => e1 ((tkK_i (x := 1) (k := 1) rfl (by decide)).mp z)), decide_eq_false e1]
          cases sg T n b 40 <;> rfl
    unfold C5_expressionS spX
    rw [e8, Option.bind_some]
    rw [show (if i3 (tkK T n b) = 2 then (some (.inl 1)) else ((some (i3 (tkK T n b))).bind fun v19 => if v19 = 1 then (some (.inl 1)) else ((vc h rd 4 (C5_isSign h rd 40)).bind fun q21 => if q21 = 0 then (some (.inl 0)) else (some (.inl 1)))) : Option (Int32 ⊕ XT)) = some (.inl (bI (isB T n b))) from by rw [← e8]; exact hB, xg_l]
    by_cases eB : isB T n b = true
    · rw [if_pos eB, want_ok hC eB, xg_l]
      dsimp only
      by_cases e6 : a < 6
      · rw [if_pos e6, if_pos ((i3_ltl (c := 6) (n := 6) rfl (by omega) (by decide)).mpr e6), xg_l, show (1 : Int32) = bI true from rfl, want_ok hC rfl, xg_l]
        have hc := cOr (S := C5_expr_n K dp) (a0 := i3 a) hH hNM (dd := 1 + 11 * dp) (by omega) (spX_ok dp (a + 1)) (by
          have := ih (a + 1) (by omega) (by omega)
          rw [← i3_succ] at this
          exact this)
        have := hc h r b hC h1 h2
        rw [show 1 + 11 * (dp + 1) = 1 + 11 * dp + 11 by omega]
        exact this
      · obtain ⟨w, w1, w2⟩ := CEr_no (K := K) (x := 2) (k := 2) (u := 1) (v := 7) (c := false) hC rfl rfl hrd (by decide) (by decide) (by omega) (by omega)
        rw [if_neg e6, if_neg (fun x => e6 ((i3_ltl (c := 6) (n := 6) rfl (by omega) (by decide)).mp x)), xg_l, show (0 : Int32) = bI false from rfl, w1, xg_r]
        exact ⟨w, rfl, CEr_up w2 (Nat.le_refl _) (Nat.le_refl _) (Nat.le_refl _) (Nat.le_refl _) (Nat.le_refl _) (by omega) (by omega)⟩
    · obtain ⟨w, w1, w2⟩ := CEr_no (K := K) (x := 1) (k := 1) (u := 1) (v := 7) hC (bF eB) rfl hrd (by decide) (by decide) (by omega) (by omega)
      rw [if_neg eB, w1, xg_r]
      exact ⟨w, rfl, CEr_up w2 (Nat.le_refl _) (Nat.le_refl _) (Nat.le_refl _) (Nat.le_refl _) (Nat.le_refl _) (by omega) (by omega)⟩
end CEXPR4
