/-! ===== office: the component reads an expression: all levels ===== -/
section CEXPR3
variable {K q : Nat → Nat} {rd nm n n0 : Nat} {T : Nat → Nat} {d : Int32} {h0 h h' : CH} {r r' : CR} {cv : (Nat → Int32) → (Nat → Int32)} {L : List Nat} {b dd lo hi : Nat} {X : Nat → ER} {S : CH → CR → Nat → Int32 → Option ((Nat × CS) ⊕ XT)} {a0 : Int32}
theorem CT_is (hH : H0c K q rd nm n T L h0 n0) (hC : CT q rd nm n T d h0 n0 h r b) {i k : Nat} (hi : i < 18) (hi2 : i ≠ 12) (hm : mpT i = k) (hk : k < 17) : vc h rd 4 (C5_is K h rd i) = some (bI (decide (kw T n b = some k))) := by
  rw [LR_is hH.1.1 (CT_LR hH hC) hi hi2, hm]
  congr 2
  cases e : isWd T n b (wd k) with
  | true => exact (decide_eq_true (kw_some.mpr ⟨hk, e⟩)).symm
  | false => exact (decide_eq_false (fun x => by rw [(kw_some.mp x).2] at e; cases e)).symm
theorem CT_pass_n (hH : H0c K q rd nm n T L h0 n0) (hC : CT q rd nm n T d h0 n0 h r b) {i k : Nat} (hi : i < 18) (hi2 : i ≠ 12) (hm : mpT i = k) (hk : k < 17) (hn : ¬ kw T n b = some k) : vc h rd 4 (C5_passes K h rd i) = some (0, h) := by
  rw [CT_vc hC]
  unfold C5_passes
  rw [CT_is hH hC hi hi2 hm hk, Option.bind_some, decide_eq_false hn, bI_f, if_pos rfl, nar0]
theorem CT_pass_y (hH : H0c K q rd nm n T L h0 n0) (hC : CT q rd nm n T d h0 n0 h r b) {i k : Nat} (hi : i < 18) (hi2 : i ≠ 12) (hm : mpT i = k) (hk : k < 17) (hn : kw T n b = some k) : ∃ h1, vc h rd 4 (C5_passes K h rd i) = some (1, h1) ∧ CT q rd nm n T d h0 n0 h1 r (nxb T n b) ∧ ∀ p, p ≠ rd → h1 p = h p := by
  obtain ⟨h1, g1, g2, g3⟩ := CT_next hH hC
  refine ⟨h1, ?_, g2, g3⟩
  rw [CT_vc hC]
  unfold C5_passes
  rw [CT_is hH hC hi hi2 hm hk, Option.bind_some, decide_eq_true hn, bI_t, if_neg (by decide), g1, Option.bind_some, nar1]
def NmOk (T : Nat → Nat) (n : Nat) (L : List Nat) (lo hi : Nat) (cv : (Nat → Int32) → (Nat → Int32)) : Prop := (L.length ≤ 6 ∧ ∀ i, i < L.length → L.getD i 0 < 18 ∧ L.getD i 0 ≠ 12) ∧ ∀ b, match whi T n b L with
  | some j => ∃ k, kw T n b = some k ∧ lo ≤ k ∧ k ≤ hi ∧ j < 6 ∧ ∀ g, cv g k = g j
  | none => ∀ k, kw T n b = some k → ¬ (lo ≤ k ∧ k ≤ hi)
theorem CT_8 (hC : CT q rd nm n T d h0 n0 h r b) : gI h rd 4 8 = some (i3 (tkK T n b)) := by
  obtain ⟨v, e, _⟩ := hC.2.1.2
  exact gI_of e (k := 8) rfl
theorem cpart (hH : H0c K q rd nm n T L h0 n0) (hNM : NmOk T n L lo hi cv) (hd1 : 1 ≤ dd) (hok : SpOk n X) (hX : CNT K q rd nm n T d h0 n0 cv 5 dd X (fun h r => S h r rd (a0 + 1))) : CNT K q rd nm n T d h0 n0 cv 0 dd (spPart T n lo hi X) (fun h r => C5_partS S K h r rd a0) := by
  have hrd := H0_rd hH
  have h700 := hH.2.2.1
  intro h r b hC h1 h2
  have hbn := hC.2.1.1
  have hn0 := hC.2.2.2
  have e8 := CT_8 hC
  obtain ⟨d', rfl⟩ : ∃ d', dd = d' + 1 := ⟨dd - 1, by omega⟩
  show CRs K q rd nm n T d h0 n0 cv 0 (d' + 1) h r b (spPart T n lo hi X b) (C5_partS S K h r rd a0)
  unfold C5_partS
  rw [e8, Option.bind_some]
  unfold spPart
  by_cases e2 : tkK T n b = 2
  · have hlt : b < n := tk_lt (by rw [e2]; decide)
    have hnx := nxt_lt (T := T) hlt
    rw [if_pos e2, if_pos ((tkK_i (x := 2) (k := 2) rfl (by decide)).mpr e2), aCell_of (by omega) (by omega), Option.bind_some]
    dsimp only
    have C1 := CT_al hH hC (.inr (7, [.int 0])) (r.2.1 - 1, r.2.2 - 1)
    have hN := C_number (m := 9999) (x := 9999) hH C1 rfl (by decide) (by dsimp only; omega) (by dsimp only; omega)
    have hv := vlu_lt (T := T) (n := n) (b := b)
    by_cases e4 : tkE T n b - b ≤ 4
    · rw [show spNum T n 9999 b = .inl (nxb T n b, vlu T n b) from by unfold spNum; rw [if_pos e2, if_pos ⟨e4, by omega⟩]] at hN
      obtain ⟨k1, x1, x2, x3⟩ := hN
      have hc : k1 r.1 = some (.inr (7, [.int 0])) := by rw [x3 r.1 (by omega)]; exact hup_s
      have f1 := x2.2.2.1
      rw [if_pos e4, x1, xg_l]
      dsimp only
      have e8i : C8_init k1 r.1 (i3 (vlu T n b)) = some (hup k1 r.1 (.inr (7, [.int (i3 (vlu T n b))]))) := by
        unfold C8_init
        rw [pI_of hc (show 0 < 1 by decide), Option.bind_some]
        rfl
      rw [e8i, Option.bind_some]
      refine ⟨r.1, _, _, rfl, CT_kp x2 (fun p hp => hup_n (by omega)) hrd (FR_set f1 (Nat.lt_succ_self _)) (Nat.le_refl _), fun p p1 p2 => by rw [hup_n (by omega), x3 p p2, hup_n (by omega)], ⟨⟨Nat.le_refl _, Nat.lt_succ_self _⟩, ⟨7, _, hup_s, .inr (.inl rfl)⟩, fun h2 vs g he _ => ?_⟩, Nat.sub_le _ _, Nat.sub_le _ _, by dsimp only; omega, by dsimp only; omega⟩
      have ea : h2 r.1 = some (.inr (7, [.int (i3 (vlu T n b))])) := he r.1 _ (Nat.le_refl _) (Nat.lt_succ_self _) hup_s
      unfold Fm_n
      rw [if_pos (isC_of ea)]
      unfold C8_of
      rw [gI_of ea (k := 0) rfl, Option.bind_some]
    · rw [show spNum T n 9999 b = .inr (2, b) from by unfold spNum; rw [if_pos e2, if_neg (fun x => e4 x.1)]] at hN
      obtain ⟨w, w1, w2⟩ := hN
      rw [if_neg e4, w1, xg_r]
      exact ⟨w, rfl, CEr_up w2 (Nat.le_succ _) (Nat.sub_le _ _) (Nat.sub_le _ _) (Nat.le_refl _) (Nat.le_refl _) (by dsimp only; omega) (by dsimp only; omega)⟩
  · rw [if_neg e2, if_neg (fun x => e2 ((tkK_i (x := 2) (k := 2) rfl (by decide)).mp x)), LR_sg (CT_LR hH hC) (x := 40) (c := 40) rfl (by decide), Option.bind_some]
    by_cases e40 : sg T n b 40 = true
    · have hlt : b < n := op_lt_sg e40
      have hnx := nxt_lt (T := T) hlt
      have hnn := nxt_le (T := T) hbn
      obtain ⟨k1, g1, g2, g3⟩ := CT_next hH hC
      have hx := hX k1 r (nxb T n b) g2 (by omega) (by omega)
      have hk := hok (nxb T n b) hnn
      rw [if_pos e40, if_neg (bI_n0 e40), g1, Option.bind_some]
      cases e : X (nxb T n b) with
      | inr z =>
        obtain ⟨kk, p⟩ := z
        obtain ⟨w, w1, w2⟩ := sub_r g2 hx e
        rw [e] at hk
        have hk2 : nxb T n b ≤ p ∧ p ≤ n ∧ 1 ≤ kk ∧ kk ≤ 9 := hk
        refine ⟨w, ?_, CEr_up w2 (Nat.le_refl _) (Nat.le_refl _) (Nat.le_refl _) (by omega) hk2.1 (by omega) (by omega)⟩
        rw [w1, xg_r]
      | inl z =>
        obtain ⟨b1, E⟩ := z
        obtain ⟨a, k2, r2, w1, C2, e3, hF, y1, y2, y3, y4⟩ := sub_l g2 hx e
        rw [e] at hk
        have hk2 : nxb T n b + 1 ≤ b1 ∧ b1 ≤ n := hk
        have hlu := hF.1
        dsimp only
        rw [w1, xg_l]
        dsimp only
        rw [LR_sg (CT_LR hH C2) (x := 41) (c := 41) rfl (by decide), Option.bind_some]
        by_cases e41 : sg T n b1 41 = true
        · have hlt1 := op_lt_sg e41
          have hnx1 := nxt_lt (T := T) hlt1
          obtain ⟨k3, m1, m2, m3⟩ := CT_next hH C2
          rw [if_pos e41, want_ok C2 e41, xg_l]
          dsimp only
          rw [m1, Option.bind_some]
          exact ⟨a, k3, r2, rfl, m2, fun p p1 p2 => by rw [m3 p p2, e3 p p1 p2, g3 p p2], FoR_eq hF (fun p p1 p2 => m3 p (by omega)), y1, y2, by omega, by omega⟩
        · obtain ⟨w, v1, v2⟩ := CEr_no (K := K) (x := 1) (k := 1) (u := 1) (v := 7) C2 (bF e41) rfl hrd (by decide) (by decide) (by omega) (by omega)
          rw [if_neg e41, v1, xg_r]
          exact ⟨w, rfl, CEr_up v2 (by omega) y1 y2 (by omega) (Nat.le_refl _) (by omega) (by omega)⟩
    · rw [if_neg e40, if_pos (bI_y0 (bF e40)), Option.bind_some]
      have hpre : (if i3 (tkK T n b) = 1 then (some (.inl 1)) else (some (.inl 0)) : Option (Int32 ⊕ XT)) = some (.inl (bI (decide (tkK T n b = 1)))) := by
        by_cases e : tkK T n b = 1
        · rw [if_pos ((tkK_i (x := 1) (k := 1) rfl (by decide)).mpr e), decide_eq_true e]; rfl
        · rw [if_neg (fun z => e ((tkK_i (x := 1) (k := 1) rfl (by decide)).mp z)), decide_eq_false e]; rfl
      rw [hpre, xg_l]
      by_cases e1 : tkK T n b = 1
      · have hlt : b < n := tk_lt (by rw [e1]; decide)
        have hnx := nxt_lt (T := T) hlt
        rw [if_pos e1, want_ok hC (decide_eq_true e1), xg_l]
        dsimp only
        have h6 : gR h rd 4 6 = some nm := by
          obtain ⟨v, ev, _⟩ := hC.2.1.2
          exact gR_of ev (k := 6) rfl
        rw [h6, Option.bind_some, LR_which hH.1.1 (CT_LR hH hC) (CT_TX hH hC) hNM.1.1 hNM.1.2, Option.bind_some]
        have hb := hNM.2 b
        cases ew : whi T n b L with
        | none =>
          rw [ew] at hb
          dsimp only
          obtain ⟨w, v1, v2⟩ := CEr_no (K := K) (x := 3) (k := 3) (u := 1) (v := 7) (c := false) hC rfl rfl hrd (by decide) (by decide) (by omega) (by omega)
          rw [if_pos rfl, xg_l, show (0 : Int32) = bI false from rfl, v1, xg_r]
          have v3 : CEr K q rd h0 n0 r b (10 + 10 * 0) (100 + 100 * 0) 3 b w := CEr_up v2 (Nat.le_refl _) (Nat.le_refl _) (Nat.le_refl _) (Nat.le_refl _) (Nat.le_refl _) (by omega) (by omega)
          cases ek : kw T n b with
          | none => exact ⟨w, rfl, v3⟩
          | some k =>
            dsimp only
            rw [if_neg (hb k ek)]
            exact ⟨w, rfl, v3⟩
        | some j =>
          rw [ew] at hb
          obtain ⟨k, k1, k2, k3, k4, k5⟩ := hb
          rw [k1]
          dsimp only
          rw [if_pos ⟨k2, k3⟩, if_neg (i3_m1 (by omega)), xg_l, show (1 : Int32) = bI true from rfl, want_ok hC rfl, xg_l]
          dsimp only
          obtain ⟨s1, g1, g2, g3⟩ := CT_next hH hC
          rw [g1, Option.bind_some, aCell_of (by omega) (by omega), Option.bind_some]
          dsimp only
          have e9i : C9_init (hup s1 r.1 (.inr (8, [.int 0]))) r.1 (i3 j) = some (hup s1 r.1 (.inr (8, [.int (i3 j)]))) := by
            unfold C9_init
            rw [pI_of hup_s (show 0 < 1 by decide), Option.bind_some, hup_hup]
            rfl
          rw [e9i, Option.bind_some]
          refine ⟨r.1, _, _, rfl, CT_al hH g2 _ _, fun p p1 p2 => by rw [hup_n (by omega), g3 p p2], ⟨⟨Nat.le_refl _, Nat.lt_succ_self _⟩, ⟨8, _, hup_s, .inr (.inr (.inl rfl))⟩, fun h2 vs g he hv => ?_⟩, Nat.sub_le _ _, Nat.sub_le _ _, by dsimp only; omega, by dsimp only; omega⟩
          have ea : h2 r.1 = some (.inr (8, [.int (i3 j)])) := he r.1 _ (Nat.le_refl _) (Nat.lt_succ_self _) hup_s
          unfold Fm_n
          rw [if_neg (isC_no ea (by decide)), if_pos (isC_of ea)]
          unfold C9_of
          rw [gI_of ea (k := 0) rfl, Option.bind_some, aI_of hv k4 (by decide), Option.bind_some]
          show some (g j) = some (cv g k)
          rw [k5]
      · rw [if_neg e1]
        obtain ⟨w, v1, v2⟩ := CEr_no (K := K) (x := 1) (k := 1) (u := 1) (v := 7) hC (decide_eq_false e1) rfl hrd (by decide) (by decide) (by omega) (by omega)
        rw [v1, xg_r]
        exact ⟨w, rfl, CEr_up v2 (Nat.le_refl _) (Nat.le_refl _) (Nat.le_refl _) (Nat.le_refl _) (Nat.le_refl _) (by omega) (by omega)⟩
theorem ctM (hH : H0c K q rd nm n T L h0 n0) (r0 : CR) (sub : CH → CR → Option ((Nat × CS) ⊕ XT)) (hs : sub = fun h r => C5_partS S K h r rd a0) : StC K q rd nm n T d h0 n0 r0.1 (opM T n) sub (C5_productS_L13 S K r0 rd a0) := by
  subst hs
  intro h r b hC
  have s42 := LR_sg (CT_LR hH hC) (x := 42) (c := 42) rfl (by decide)
  have s47 := LR_sg (CT_LR hH hC) (x := 47) (c := 47) rfl (by decide)
  have hJ : ∀ c o, sg T n b c = true → c < 128 → chrN o = c → ∃ h1, CT q rd nm n T d h0 n0 h1 r (nxb T n b) ∧ (∀ p, p ≠ rd → h1 p = h p) ∧ C5_productS_J31 S K r0 rd a0 (h, r) = xg (fun e_ => .inr (.inr e_)) (vc h1 rd 4 (xchk r (C5_partS S K h1 r rd a0))) fun q10 => (vc q10.2.1 r0.1 6 (achv q10.2.2 (C7_add K q10.2.1 q10.2.2 r0.1 (i3 (chrN o)) q10.1))).bind fun q11 => some (.inl q11) := by
    intro c o h1 h2 h3
    obtain ⟨k1, g1, g2, g3⟩ := CT_sign hH hC h2 h1
    refine ⟨k1, g2, g3, ?_⟩
    unfold C5_productS_J31
    dsimp only
    rw [g1, Option.bind_some, h3]
  unfold C5_productS_L13 opM
  dsimp only
  rw [s42, Option.bind_some, s47, Option.bind_some]
  by_cases e1 : sg T n b 42 = true
  · rw [if_neg (bI_n0 e1), if_pos e1]
    exact ⟨fun x => (by cases x), fun o x => by cases x; exact hJ 42 10 e1 (by decide) rfl⟩
  · rw [if_pos (bI_y0 (bF e1)), if_neg e1]
    by_cases e2 : sg T n b 47 = true
    · rw [if_neg (bI_n0 e2), if_pos e2]
      exact ⟨fun x => (by cases x), fun o x => by cases x; exact hJ 47 11 e2 (by decide) rfl⟩
    · rw [if_pos (bI_y0 (bF e2)), if_neg e2]
      exact ⟨fun _ => rfl, fun o x => by cases x⟩
theorem ctS (hH : H0c K q rd nm n T L h0 n0) (r0 : CR) (sub : CH → CR → Option ((Nat × CS) ⊕ XT)) (hs : sub = fun h r => C5_productS S K h r rd a0) : StC K q rd nm n T d h0 n0 r0.1 (opS T n) sub (C5_sumS_L13 S K r0 rd a0) := by
  subst hs
  intro h r b hC
  have s42 := LR_sg (CT_LR hH hC) (x := 43) (c := 43) rfl (by decide)
  have s47 := LR_sg (CT_LR hH hC) (x := 45) (c := 45) rfl (by decide)
  have hJ : ∀ c o, sg T n b c = true → c < 128 → chrN o = c → ∃ h1, CT q rd nm n T d h0 n0 h1 r (nxb T n b) ∧ (∀ p, p ≠ rd → h1 p = h p) ∧ C5_sumS_J31 S K r0 rd a0 (h, r) = xg (fun e_ => .inr (.inr e_)) (vc h1 rd 4 (xchk r (C5_productS S K h1 r rd a0))) fun q10 => (vc q10.2.1 r0.1 6 (achv q10.2.2 (C7_add K q10.2.1 q10.2.2 r0.1 (i3 (chrN o)) q10.1))).bind fun q11 => some (.inl q11) := by
    intro c o h1 h2 h3
    obtain ⟨k1, g1, g2, g3⟩ := CT_sign hH hC h2 h1
    refine ⟨k1, g2, g3, ?_⟩
    unfold C5_sumS_J31
    dsimp only
    rw [g1, Option.bind_some, h3]
  unfold C5_sumS_L13 opS
  dsimp only
  rw [s42, Option.bind_some, s47, Option.bind_some]
  by_cases e1 : sg T n b 43 = true
  · rw [if_neg (bI_n0 e1), if_pos e1]
    exact ⟨fun x => (by cases x), fun o x => by cases x; exact hJ 43 8 e1 (by decide) rfl⟩
  · rw [if_pos (bI_y0 (bF e1)), if_neg e1]
    by_cases e2 : sg T n b 45 = true
    · rw [if_neg (bI_n0 e2), if_pos e2]
      exact ⟨fun x => (by cases x), fun o x => by cases x; exact hJ 45 9 e2 (by decide) rfl⟩
    · rw [if_pos (bI_y0 (bF e2)), if_neg e2]
      exact ⟨fun _ => rfl, fun o x => by cases x⟩
theorem ctA (hH : H0c K q rd nm n T L h0 n0) (r0 : CR) (sub : CH → CR → Option ((Nat × CS) ⊕ XT)) (hs : sub = fun h r => C5_notS S K h r rd a0) : StC K q rd nm n T d h0 n0 r0.1 (opA T n) sub (C5_andS_L13 S K r0 rd a0) := by
  subst hs
  intro h r b hC
  unfold C5_andS_L13 opA
  dsimp only
  by_cases e1 : kw T n b = some 14
  · rw [if_pos e1]
    obtain ⟨k1, g1, g2, g3⟩ := CT_pass_y hH hC (i := 14) (by decide) (by decide) (k := 14) rfl (by decide) e1
    refine ⟨fun x => (by cases x), fun o x => ?_⟩
    cases x
    refine ⟨k1, g2, g3, ?_⟩
    rw [g1, Option.bind_some, if_neg (show ¬ (1 : Int32) = 0 by decide)]
    rfl
  · rw [if_neg e1, CT_pass_n hH hC (i := 14) (by decide) (by decide) (k := 14) rfl (by decide) e1, Option.bind_some, if_pos rfl]
    exact ⟨fun _ => rfl, fun o x => by cases x⟩
theorem ctO (hH : H0c K q rd nm n T L h0 n0) (r0 : CR) (q5 : CS) (hq : q5.2 = r0) (sub : CH → CR → Option ((Nat × CS) ⊕ XT)) (hs : sub = fun h r => C5_andS S K h r rd a0) : StC K q rd nm n T d h0 n0 r0.1 (opO T n) sub (C5_expressionS_L64 S K rd a0 q5) := by
  subst hs
  subst hq
  intro h r b hC
  unfold C5_expressionS_L64 opO
  dsimp only
  by_cases e1 : kw T n b = some 15
  · rw [if_pos e1]
    obtain ⟨k1, g1, g2, g3⟩ := CT_pass_y hH hC (i := 15) (by decide) (by decide) (k := 15) rfl (by decide) e1
    refine ⟨fun x => (by cases x), fun o x => ?_⟩
    cases x
    refine ⟨k1, g2, g3, ?_⟩
    rw [g1, Option.bind_some, if_neg (show ¬ (1 : Int32) = 0 by decide)]
    rfl
  · rw [if_neg e1, CT_pass_n hH hC (i := 15) (by decide) (by decide) (k := 15) rfl (by decide) e1, Option.bind_some, if_pos rfl]
    exact ⟨fun _ => rfl, fun o x => by cases x⟩
theorem oMi (b o : Nat) (h : opM T n b = some o) : 4 ≤ o ∧ o ≤ 11 := ⟨(oM b o h).1, (oM b o h).2.1⟩
theorem oSi (b o : Nat) (h : opS T n b = some o) : 4 ≤ o ∧ o ≤ 11 := ⟨(oS b o h).1, (oS b o h).2.1⟩
theorem oAi (b o : Nat) (h : opA T n b = some o) : 4 ≤ o ∧ o ≤ 11 := ⟨(oA b o h).1, (oA b o h).2.1⟩
theorem oOi (b o : Nat) (h : opO T n b = some o) : 4 ≤ o ∧ o ≤ 11 := ⟨(oO b o h).1, (oO b o h).2.1⟩
theorem cProd (hH : H0c K q rd nm n T L h0 n0) (hNM : NmOk T n L lo hi cv) (hd1 : 1 ≤ dd) (hok : SpOk n X) (hX : CNT K q rd nm n T d h0 n0 cv 5 dd X (fun h r => S h r rd (a0 + 1))) : CNT K q rd nm n T d h0 n0 cv 1 (dd + 1) (spProd T n lo hi X) (fun h r => C5_productS S K h r rd a0) :=
  cch (step := fun r0 => C5_productS_L13 S K r0 rd a0) hH (by decide) (spPart_ok hok) opM_in oMi (cpart hH hNM hd1 hok hX) (fun r0 _ => ctM hH r0 _ rfl) (fun _ _ => rfl)
theorem cSum (hH : H0c K q rd nm n T L h0 n0) (hNM : NmOk T n L lo hi cv) (hd1 : 1 ≤ dd) (hok : SpOk n X) (hX : CNT K q rd nm n T d h0 n0 cv 5 dd X (fun h r => S h r rd (a0 + 1))) : CNT K q rd nm n T d h0 n0 cv 2 (dd + 2) (spSum T n lo hi X) (fun h r => C5_sumS S K h r rd a0) :=
  cch (step := fun r0 => C5_sumS_L13 S K r0 rd a0) hH (by decide) (spProd_ok hok) opS_in oSi (cProd hH hNM hd1 hok hX) (fun r0 _ => ctS hH r0 _ rfl) (fun _ _ => rfl)
end CEXPR3
