/-! ===== operations that read: toSave, heir, company, fires, game, toRead, fault ===== -/
section OPS4
variable {K : Nat → Nat} {h : CH} {r : CR} {o N : Nat} {σ : MS}

theorem op_toSave (hS : RS K o (h, r) σ (N + 1)) (a0 : Int32) : ∃ z v σ', C1_toSave h r o a0 = some z ∧ M_toSave σ a0 = some (v, σ') ∧ JN K o r N true 0 z v σ' := by
  obtain ⟨S, ⟨f, B, sT, aT, hT, seed, ea, eh, hp⟩, hM, hr1, hr2⟩ := hS
  dsimp only at hp hr1 hr2
  have hZ := RCp_Z hp
  obtain ⟨hv, hs, ht, hF, hacts, hheard, hrf⟩ := RD_of hp
  have hM1 : RM (sf σ 0 0) S := RM_gx hZ (Gx_sf (.inl rfl)) hM
  have h0 : mf (sf σ 0 0) 0 = 0 := mf_sf0
  unfold C1_toSave M_toSave
  rw [show pf σ 0 0 = some (sf σ 0 0) from rfl, Option.bind_some]
  generalize sf σ 0 0 = s1 at hM1 h0
  have mv := RM_MV hZ hM1
  have hN := hZ.1.1
  have hMM := hZ.1.2.1
  have hQ := hZ.1.2.2.1
  cases e0 : inR a0 4
  · rw [aT_no e0 (by omega) (by omega), xg_r, mT_no h0 e0, Option.bind_some, if_pos (show ((0 : Int32), sf s1 0 1).1 = 0 from rfl)]
    exact ⟨_, _, _, rfl, rfl, JN_thr hp hM1 hr1 hr2 (.inl ⟨rfl, rfl, rfl⟩)⟩
  rw [aT_ok e0, xg_l, mT_ok h0 e0, Option.bind_some, if_neg (show ¬ ((1 : Int32), s1).1 = 0 from i_ne10)]
  try dsimp only
  obtain ⟨k0, hk0, rfl⟩ := inR_is e0
  have har : arc (zP S) (zw S) k0 < 2 ^ 9 := p2 (bst_lt _ _) hN
  have hls : ∀ u, lst (zP S) (zw S) u < 2 ^ 12 := fun u => p2 (bst_lt _ _) hQ
  rw [hs, M_archive_eq mv hk0]
  simp only [ob_s, sv_vc hv, C3_archive_eq hv (show k0 < 99 by omega), cx_vc hv.1, C1_lost_eq hv hs har, M_lostBy_eq mv (p2 (b := 31) har (by decide)), bitCount_eq (hls _), M_bits_eq (p2 (b := 31) (hls _) (by decide))]
  obtain ⟨q1, q2, m1, m2, b, m3, m4⟩ : ∃ (q1 : (Int32 × CS) ⊕ XT) (q2 : Int32 × MS), o_loop (C1_toSave_L28 o (h, r) (i3 (arc (zP S) (zw S) k0))) (-1, i3 (pc (lst (zP S) (zw S) (arc (zP S) (zw S) k0))), 0) = some q1 ∧ o_loop (M_toSave_L36 (1, s1) (i3 (arc (zP S) (zw S) k0))) (-1, i3 (pc (lst (zP S) (zw S) (arc (zP S) (zw S) k0))), 0) = some q2 ∧ ∃ b, q1 = .inl (b, (h, r)) ∧ q2 = (b, s1) := by
    refine o_two (fun k (x1 : Int32 × Int32 × Int32) (x2 : Int32 × Int32 × Int32) => ∃ b m, x1 = (b, m, i3 k) ∧ x2 = (b, m, i3 k)) (fun (q1 : (Int32 × CS) ⊕ XT) (q2 : Int32 × MS) => ∃ b, q1 = .inl (b, (h, r)) ∧ q2 = (b, s1)) (pN (zP S)) (fun k x1 x2 hk hI => ?_) (fun x1 x2 hI => ?_) 0 _ _ (Nat.zero_le _) ⟨_, _, rfl, rfl⟩
    · obtain ⟨b, m, rfl, rfl⟩ := hI
      have hu : arc (zP S) (zw S) k0 &&& (2 ^ k ^^^ (2 ^ 32 - 1)) < 2 ^ 9 := Nat.lt_of_le_of_lt (clr_le _ _) har
      unfold C1_toSave_L28 M_toSave_L36
      dsimp only
      rw [cx_1 hv.1, mv.2.1.1.1, i3_bitB (p2 (b := 31) har (by decide)) (show k < 32 by omega), clr_eq (p2 (b := 31) har (by decide)) (show k < 31 by omega)]
      simp only [ob_s, cx_n hv.1]
      rw [if_pos ((i3_lt (by omega) (by omega)).mpr hk), if_pos ((i3_lt (by omega) (by omega)).mpr hk), C1_isOf_eq (p2 (b := 31) har (by decide)) (show k < 32 by omega)]
      simp only [ob_s]
      left
      cases e : (arc (zP S) (zw S) k0).testBit k
      · rw [if_pos bI_f, if_pos bI_f]
        simp only [xg_s, ob_s, i3_succ]
        exact ⟨_, _, rfl, rfl, _, _, rfl, rfl⟩
      · rw [if_neg bI_t0, if_neg bI_t0, cx_vc hv.1, C1_lost_eq hv hs hu, M_lostBy_eq mv (p2 (b := 31) hu (by decide))]
        simp only [ob_s, bitCount_eq (hls _), M_bits_eq (p2 (b := 31) (hls _) (by decide)), i3_succ]
        by_cases e2 : i3 (pc (lst (zP S) (zw S) (arc (zP S) (zw S) k0 &&& (2 ^ k ^^^ (2 ^ 32 - 1))))) < m
        · rw [if_pos e2, if_pos e2]
          simp only [xg_s, ob_s]
          exact ⟨_, _, rfl, rfl, _, _, rfl, rfl⟩
        · rw [if_neg e2, if_neg e2]
          simp only [xg_s, ob_s]
          exact ⟨_, _, rfl, rfl, _, _, rfl, rfl⟩
    · obtain ⟨b, m, rfl, rfl⟩ := hI
      unfold C1_toSave_L28 M_toSave_L36
      dsimp only
      rw [cx_1 hv.1, mv.2.1.1.1]
      simp only [ob_s, cx_n hv.1]
      rw [if_neg (fun x => absurd ((i3_lt (by omega) (by omega)).mp x) (by omega)), if_neg (fun x => absurd ((i3_lt (by omega) (by omega)).mp x) (by omega))]
      exact ⟨_, _, rfl, rfl, _, rfl, rfl⟩
  rw [m1, m2]
  subst m3 m4
  exact ⟨_, _, _, rfl, rfl, JN_same hp hM1 h0 hr1 hr2⟩
theorem op_heir (hS : RS K o (h, r) σ (N + 1)) (a0 : Int32) : ∃ z v σ', C1_heir h r o a0 = some z ∧ M_heir σ a0 = some (v, σ') ∧ JN K o r N true 0 z v σ' := by
  obtain ⟨S, ⟨f, B, sT, aT, hT, seed, ea, eh, hp⟩, hM, hr1, hr2⟩ := hS
  dsimp only at hp hr1 hr2
  have hZ := RCp_Z hp
  obtain ⟨hv, hs, ht, hF, hacts, hheard, hrf⟩ := RD_of hp
  have hM1 : RM (sf σ 0 0) S := RM_gx hZ (Gx_sf (.inl rfl)) hM
  have h0 : mf (sf σ 0 0) 0 = 0 := mf_sf0
  unfold C1_heir M_heir
  rw [show pf σ 0 0 = some (sf σ 0 0) from rfl, Option.bind_some]
  generalize sf σ 0 0 = s1 at hM1 h0
  have mv := RM_MV hZ hM1
  have hN := hZ.1.1
  have hMM := hZ.1.2.1
  have hQ := hZ.1.2.2.1
  cases e0 : inR a0 (pM (zP S))
  · rw [aC_no hv.1 e0 (by omega) (by omega), xg_r, mC_no mv.2.1 mv.1 h0 e0, Option.bind_some, if_pos (show ((0 : Int32), sf s1 0 1).1 = 0 from rfl)]
    exact ⟨_, _, _, rfl, rfl, JN_thr hp hM1 hr1 hr2 (.inl ⟨rfl, rfl, rfl⟩)⟩
  rw [aC_ok hv.1 e0, xg_l, mC_ok mv.2.1 mv.1 h0 e0, Option.bind_some, if_neg (show ¬ ((1 : Int32), s1).1 = 0 from i_ne10)]
  try dsimp only
  obtain ⟨k0, hk0, rfl⟩ := inR_is e0
  have hwk : ∀ c, c < pM (zP S) → zw S (28 + c) < 2 ^ 12 := mv.2.2.2.1.2.2.2.1
  have hand : ∀ c, c < pM (zP S) → zw S (28 + c) &&& zw S (28 + k0) < 2 ^ 12 := fun c hc => Nat.lt_of_le_of_lt Nat.and_le_left (hwk c hc)
  obtain ⟨q1, q2, m1, m2, b, m3, m4⟩ : ∃ (q1 : (Int32 × CS) ⊕ XT) (q2 : Int32 × MS), o_loop (C1_heir_L12 o (i3 k0) (h, r)) (-1, -1, 0) = some q1 ∧ o_loop (M_heir_L22 (i3 k0) (1, s1)) (-1, -1, 0) = some q2 ∧ ∃ b, q1 = .inl (b, (h, r)) ∧ q2 = (b, s1) := by
    refine o_two (fun k (x1 : Int32 × Int32 × Int32) (x2 : Int32 × Int32 × Int32) => ∃ b m, x1 = (b, m, i3 k) ∧ x2 = (b, m, i3 k)) (fun (q1 : (Int32 × CS) ⊕ XT) (q2 : Int32 × MS) => ∃ b, q1 = .inl (b, (h, r)) ∧ q2 = (b, s1)) (pM (zP S)) (fun k x1 x2 hk hI => ?_) (fun x1 x2 hI => ?_) 0 _ _ (Nat.zero_le _) ⟨_, _, rfl, rfl⟩
    · obtain ⟨b, m, rfl, rfl⟩ := hI
      unfold C1_heir_L12 M_heir_L22
      dsimp only
      rw [cx_1 hv.1, mv.2.1.1.2.1, hs, m0_28 mv hk0, m0_28 mv hk]
      simp only [ob_s, cx_vo hv.1, cx_m hv.1]
      rw [if_pos ((i3_lt (by omega) (by omega)).mpr hk), if_pos ((i3_lt (by omega) (by omega)).mpr hk)]
      simp only [ob_s, sv_3 hv, sv_K hv hk, sv_K hv hk0, i3_and]
      rw [Nat.and_comm (zw S (28 + k0)) (zw S (28 + k))]
      simp only [ob_s, bitCount_eq (hand k hk), M_bits_eq (p2 (b := 31) (hand k hk) (by decide)), i3_succ]
      left
      by_cases e : i3 k = i3 k0
      · rw [if_pos e, if_pos e]
        simp only [xg_s, ob_s]
        exact ⟨_, _, rfl, rfl, _, _, rfl, rfl⟩
      · rw [if_neg e, if_neg e]
        by_cases e2 : i3 (pc (zw S (28 + k) &&& zw S (28 + k0))) ≤ m
        · rw [if_pos e2, if_pos e2]
          simp only [xg_s, ob_s]
          exact ⟨_, _, rfl, rfl, _, _, rfl, rfl⟩
        · rw [if_neg e2, if_neg e2]
          simp only [xg_s, ob_s]
          exact ⟨_, _, rfl, rfl, _, _, rfl, rfl⟩
    · obtain ⟨b, m, rfl, rfl⟩ := hI
      unfold C1_heir_L12 M_heir_L22
      dsimp only
      rw [cx_1 hv.1, mv.2.1.1.2.1]
      simp only [ob_s, cx_vo hv.1, cx_m hv.1]
      rw [if_neg (fun x => absurd ((i3_lt (by omega) (by omega)).mp x) (by omega)), if_neg (fun x => absurd ((i3_lt (by omega) (by omega)).mp x) (by omega))]
      exact ⟨_, _, rfl, rfl, _, rfl, rfl⟩
  rw [m1, m2]
  subst m3 m4
  exact ⟨_, _, _, rfl, rfl, JN_same hp hM1 h0 hr1 hr2⟩
theorem op_company (hS : RS K o (h, r) σ (N + 1)) (a0 a1 a2 : Int32) : ∃ z v σ', C1_company h r o a0 a1 a2 = some z ∧ M_company σ a0 a1 a2 = some (v, σ') ∧ JN K o r N true 2 z v σ' := by
  obtain ⟨S, ⟨f, B, sT, aT, hT, seed, ea, eh, hp⟩, hM, hr1, hr2⟩ := hS
  dsimp only at hp hr1 hr2
  have hZ := RCp_Z hp
  obtain ⟨hv, hs, ht, hF, hacts, hheard, hrf⟩ := RD_of hp
  have hM1 : RM (sf σ 0 0) S := RM_gx hZ (Gx_sf (.inl rfl)) hM
  have h0 : mf (sf σ 0 0) 0 = 0 := mf_sf0
  unfold C1_company M_company
  rw [show pf σ 0 0 = some (sf σ 0 0) from rfl, Option.bind_some]
  generalize sf σ 0 0 = s1 at hM1 h0
  have mv := RM_MV hZ hM1
  have hN := hZ.1.1
  have hMM := hZ.1.2.1
  have hQ := hZ.1.2.2.1
  cases e0 : inR a0 (pM (zP S))
  · rw [aC_no hv.1 e0 (by omega) (by omega), xg_r, mC_no mv.2.1 mv.1 h0 e0, Option.bind_some, if_pos (show ((0 : Int32), sf s1 0 1).1 = 0 from rfl)]
    exact ⟨_, _, _, rfl, rfl, JN_thr hp hM1 hr1 hr2 (.inl ⟨rfl, rfl, rfl⟩)⟩
  rw [aC_ok hv.1 e0, xg_l, mC_ok mv.2.1 mv.1 h0 e0, Option.bind_some, if_neg (show ¬ ((1 : Int32), s1).1 = 0 from i_ne10)]
  try dsimp only
  obtain ⟨k0, hk0, rfl⟩ := inR_is e0
  cases e1 : inR a1 (pM (zP S))
  · rw [aC_no hv.1 e1 (by omega) (by omega), xg_r, mC_no mv.2.1 mv.1 h0 e1, Option.bind_some, if_pos (show ((0 : Int32), sf s1 0 1).1 = 0 from rfl)]
    exact ⟨_, _, _, rfl, rfl, JN_thr hp hM1 hr1 hr2 (.inl ⟨rfl, rfl, rfl⟩)⟩
  rw [aC_ok hv.1 e1, xg_l, mC_ok mv.2.1 mv.1 h0 e1, Option.bind_some, if_neg (show ¬ ((1 : Int32), s1).1 = 0 from i_ne10)]
  try dsimp only
  obtain ⟨k1, hk1, rfl⟩ := inR_is e1
  have hd := hZ.2.1.2
  rw [show C1_in a2 1 60 = some (bI (inB a2 1 60)) from C1_in_eq (a := 1) (b := 60) a2 (by decide) (by decide), show M_within a2 1 60 = some (bI (inB a2 1 60)) from M_within_eq (a := 1) (b := 60) a2 (by decide) (by decide)]
  simp only [ob_s]
  cases e2 : inB a2 1 60
  · rw [rg_no (by omega) (by omega), xg_r, M_right_no h0 (by decide), Option.bind_some, if_pos (show ((0 : Int32), sf s1 0 2).1 = 0 from rfl)]
    exact ⟨_, _, _, rfl, rfl, JN_thr hp hM1 hr1 hr2 (.inr ⟨rfl, by decide, rfl⟩)⟩
  rw [rg_ok, xg_l, M_right_ok h0, Option.bind_some, if_neg (show ¬ ((1 : Int32), s1).1 = 0 from i_ne10)]
  obtain ⟨k2, hk2l, hk2, rfl⟩ := inB_is e2
  obtain ⟨q1, q2, m1, m2, b, m3, m4⟩ : ∃ (q1 : (Int32 × CS) ⊕ XT) (q2 : Int32 × MS), o_loop (C1_company_L26 o (i3 k0) (i3 k1) (i3 k2) (h, r)) (0, 0) = some q1 ∧ o_loop (M_company_L44 (i3 k0) (i3 k1) (i3 k2) (1, s1)) (0, 0) = some q2 ∧ ∃ b, q1 = .inl (b, (h, r)) ∧ q2 = (b, s1) := by
    refine o_two (fun k (x1 : Int32 × Int32) (x2 : Int32 × Int32) => ∃ b, x1 = (b, i3 k) ∧ x2 = (b, i3 k)) (fun (q1 : (Int32 × CS) ⊕ XT) (q2 : Int32 × MS) => ∃ b, q1 = .inl (b, (h, r)) ∧ q2 = (b, s1)) k2 (fun k x1 x2 hk hI => ?_) (fun x1 x2 hI => ?_) 0 _ _ (Nat.zero_le _) ⟨_, rfl, rfl⟩
    · obtain ⟨b, rfl, rfl⟩ := hI
      unfold C1_company_L26 M_company_L44
      dsimp only
      rw [if_pos ((i3_lt (by omega) (by omega)).mpr hk), if_pos ((i3_lt (by omega) (by omega)).mpr hk), cx_1 hv.1, hs, m0_d mv]
      simp only [ob_s, sv_d hv, i3_add, cx_vo hv.1, C2_town_eq hv.1 hk0 (show zw S 0 + k < 2 ^ 31 by omega), C2_town_eq hv.1 hk1 (show zw S 0 + k < 2 ^ 31 by omega), M_townOn_eq hZ.1 mv.2.1 hk0 (show zw S 0 + k < 2 ^ 31 by omega), M_townOn_eq hZ.1 mv.2.1 hk1 (show zw S 0 + k < 2 ^ 31 by omega), i3_succ]
      left
      by_cases e : i3 (towD (zP S) k0 (zw S 0 + k)) = i3 (towD (zP S) k1 (zw S 0 + k))
      · rw [if_pos e, if_pos e]
        simp only [xg_s, ob_s]
        exact ⟨_, _, rfl, rfl, _, rfl, rfl⟩
      · rw [if_neg e, if_neg e]
        simp only [xg_s, ob_s, Int32.add_zero]
        exact ⟨_, _, rfl, rfl, _, rfl, rfl⟩
    · obtain ⟨b, rfl, rfl⟩ := hI
      unfold C1_company_L26 M_company_L44
      dsimp only
      rw [if_neg (fun x => absurd ((i3_lt (by omega) (by omega)).mp x) (by omega)), if_neg (fun x => absurd ((i3_lt (by omega) (by omega)).mp x) (by omega))]
      exact ⟨_, _, rfl, rfl, _, rfl, rfl⟩
  rw [m1, m2]
  subst m3 m4
  exact ⟨_, _, _, rfl, rfl, JN_same hp hM1 h0 hr1 hr2⟩
theorem op_fires (hS : RS K o (h, r) σ (N + 1)) (a0 a1 : Int32) : ∃ z v σ', C1_fires h r o a0 a1 = some z ∧ M_fires σ a0 a1 = some (v, σ') ∧ JN K o r N true 2 z v σ' := by
  obtain ⟨S, ⟨f, B, sT, aT, hT, seed, ea, eh, hp⟩, hM, hr1, hr2⟩ := hS
  dsimp only at hp hr1 hr2
  have hZ := RCp_Z hp
  obtain ⟨hv, hs, ht, hF, hacts, hheard, hrf⟩ := RD_of hp
  have hM1 : RM (sf σ 0 0) S := RM_gx hZ (Gx_sf (.inl rfl)) hM
  have h0 : mf (sf σ 0 0) 0 = 0 := mf_sf0
  unfold C1_fires M_fires
  rw [show pf σ 0 0 = some (sf σ 0 0) from rfl, Option.bind_some]
  generalize sf σ 0 0 = s1 at hM1 h0
  have mv := RM_MV hZ hM1
  have hN := hZ.1.1
  have hMM := hZ.1.2.1
  have hQ := hZ.1.2.2.1
  cases e0 : inR a0 (pQ' (zP S))
  · rw [aW_no hv.1 e0 (by omega) (by omega), xg_r, mW_no mv.2.1 mv.1 h0 e0, Option.bind_some, if_pos (show ((0 : Int32), sf s1 0 1).1 = 0 from rfl)]
    exact ⟨_, _, _, rfl, rfl, JN_thr hp hM1 hr1 hr2 (.inl ⟨rfl, rfl, rfl⟩)⟩
  rw [aW_ok hv.1 e0, xg_l, mW_ok mv.2.1 mv.1 h0 e0, Option.bind_some, if_neg (show ¬ ((1 : Int32), s1).1 = 0 from i_ne10)]
  try dsimp only
  obtain ⟨k0, hk0, rfl⟩ := inR_is e0
  obtain ⟨hA, hB, hAB⟩ := hZ.1.2.2.2.2.2.2 k0 hk0
  have hb9 : bns (zP S) (zw S) < 2 ^ 9 := p2 (bst_lt _ _) hN
  rw [show C1_in a1 0 10 = some (bI (inB a1 0 10)) from C1_in_eq (a := 0) (b := 10) a1 (by decide) (by decide), show M_within a1 0 10 = some (bI (inB a1 0 10)) from M_within_eq (a := 0) (b := 10) a1 (by decide) (by decide)]
  simp only [ob_s]
  cases e2 : inB a1 0 10
  · rw [rg_no (by omega) (by omega), xg_r, M_right_no h0 (by decide), Option.bind_some, if_pos (show ((0 : Int32), sf s1 0 2).1 = 0 from rfl)]
    exact ⟨_, _, _, rfl, rfl, JN_thr hp hM1 hr1 hr2 (.inr ⟨rfl, by decide, rfl⟩)⟩
  rw [rg_ok, xg_l, M_right_ok h0, Option.bind_some, if_neg (show ¬ ((1 : Int32), s1).1 = 0 from i_ne10), hs, M_isWhole_eq mv hk0]
  simp only [ob_s, sv_vc hv, C3_burnt_eq hv, cx_vc hv.1, C1_isDead_eq hv.1 hk0 (p2 (b := 31) hb9 (by decide)), bns_bit (zP S) (zw S) hA, bns_bit (zP S) (zw S) hB]
  have ew : whl (zP S) (zw S) k0 = !(bnt (zw S) (pA (zP S) k0) || bnt (zw S) (pB (zP S) k0)) := by
    unfold whl
    cases bnt (zw S) (pA (zP S) k0) <;> cases bnt (zw S) (pB (zP S) k0) <;> rfl
  rw [ew]
  cases e3 : (bnt (zw S) (pA (zP S) k0) || bnt (zw S) (pB (zP S) k0))
  · rw [if_pos bI_f, if_neg (show ¬ bI (!false) = 0 by decide)]
    have ewt : whl (zP S) (zw S) k0 = true := by rw [ew, e3]; rfl
    obtain ⟨q1, q2, m1, m2, b, m3, m4⟩ : ∃ (q1 : (Int32 × CS) ⊕ XT) (q2 : Int32 × MS), o_loop (C1_fires_L37 o (i3 k0) a1 (h, r)) (0, 0) = some q1 ∧ o_loop (M_fires_L45 (i3 k0) a1 (1, s1)) (0, 0) = some q2 ∧ ∃ b, q1 = .inl (b, (h, r)) ∧ q2 = (b, s1) := by
      refine o_two (fun k (x1 : Int32 × Int32) (x2 : Int32 × Int32) => ∃ b, x1 = (b, i3 k) ∧ x2 = (b, i3 k)) (fun (q1 : (Int32 × CS) ⊕ XT) (q2 : Int32 × MS) => ∃ b, q1 = .inl (b, (h, r)) ∧ q2 = (b, s1)) 16 (fun k x1 x2 hk hI => ?_) (fun x1 x2 hI => ?_) 0 _ _ (Nat.zero_le _) ⟨_, rfl, rfl⟩
      · obtain ⟨b, rfl, rfl⟩ := hI
        obtain ⟨y1, y2, n1, n2, v, u, hu, n3, n4⟩ : ∃ (y1 : (Int32 × Int32) ⊕ XT) (y2 : Int32 × Int32), o_loop (C1_fires_L53 o a1 (h, r) (b, i3 k)) (1, 0, 0) = some y1 ∧ o_loop (M_fires_L61 a1 (1, s1) (b, i3 k)) (1, 0, 0) = some y2 ∧ ∃ v u, u < 2 ^ 9 ∧ y1 = .inl (v, i3 u) ∧ y2 = (v, i3 u) := by
          refine o_two (fun t (x1 : Int32 × Int32 × Int32) (x2 : Int32 × Int32 × Int32) => ∃ v u, u < 2 ^ 9 ∧ x1 = (v, i3 u, i3 t) ∧ x2 = (v, i3 u, i3 t)) (fun (y1 : (Int32 × Int32) ⊕ XT) (y2 : Int32 × Int32) => ∃ v u, u < 2 ^ 9 ∧ y1 = .inl (v, i3 u) ∧ y2 = (v, i3 u)) 4 (fun t x1 x2 ht hI => ?_) (fun x1 x2 hI => ?_) 0 _ _ (Nat.zero_le _) ⟨1, 0, by decide, rfl, rfl⟩
          · obtain ⟨v, u, hu, rfl, rfl⟩ := hI
            have har : arc (zP S) (zw S) t < 2 ^ 9 := p2 (bst_lt _ _) hN
            unfold C1_fires_L53 M_fires_L61
            dsimp only
            rw [if_pos ((i3_ltl (c := 4) (n := 4) rfl (by omega) (by decide)).mpr ht), if_pos ((i3_ltl (c := 4) (n := 4) rfl (by omega) (by decide)).mpr ht), C1_isOf_eq (show k < 2 ^ 31 by omega) (show t < 32 by omega), i3_bitB (show k < 2 ^ 31 by omega) (show t < 32 by omega)]
            simp only [ob_s]
            left
            cases e : k.testBit t
            · rw [if_pos bI_f, if_pos bI_f, if_neg bI_f1]
              simp only [xg_s, ob_s, i3_succ]
              rw [if_pos trivial, if_pos trivial]
              simp only [ob_s, Int32.or_zero]
              exact ⟨_, _, rfl, rfl, _, u, hu, rfl, rfl⟩
            · rw [if_neg bI_t0, if_neg bI_t0, if_pos bI_t, hs, M_archive_eq mv ht]
              simp only [xg_s, ob_s, i3_succ, sv_vc hv, C3_archive_eq hv (show t < 99 by omega), i3_or]
              rw [if_neg (show ¬ (1 : Int32) = 0 by decide), if_neg (show ¬ (1 : Int32) = 0 by decide)]
              simp only [ob_s, i3_or]
              exact ⟨_, _, rfl, rfl, _, _, Nat.or_lt_two_pow hu har, rfl, rfl⟩
          · obtain ⟨v, u, hu, rfl, rfl⟩ := hI
            unfold C1_fires_L53 M_fires_L61
            dsimp only
            rw [if_neg (by decide), if_neg (by decide)]
            exact ⟨_, _, rfl, rfl, v, u, hu, rfl, rfl⟩
        subst n3 n4
        have hls : lst (zP S) (zw S) u < 2 ^ 12 := p2 (bst_lt _ _) hQ
        have ebit : (lst (zP S) (zw S) u).testBit k0 = (u.testBit (pA (zP S) k0) || u.testBit (pB (zP S) k0)) := by
          unfold lst
          rw [bst_bit, decide_eq_true hk0, ewt, Bool.true_and, Bool.true_and]
        unfold C1_fires_L37 M_fires_L45
        dsimp only
        rw [if_pos ((i3_ltl (c := 16) (n := 16) rfl (by omega) (by decide)).mpr hk), if_pos ((i3_ltl (c := 16) (n := 16) rfl (by omega) (by decide)).mpr hk), n1, n2]
        simp only [xg_s, ob_s, cx_vc hv.1, C1_isDead_eq hv.1 hk0 (p2 (b := 31) hu (by decide)), M_lostBy_eq mv (p2 (b := 31) hu (by decide)), i3_bitB (p2 (b := 31) hls (by decide)) (show k0 < 32 by omega), ebit, i3_succ]
        left
        cases e : (u.testBit (pA (zP S) k0) || u.testBit (pB (zP S) k0))
        · rw [if_pos bI_f, if_neg bI_f1]
          simp only [xg_s, ob_s, Int32.add_zero]
          exact ⟨_, _, rfl, rfl, _, rfl, rfl⟩
        · rw [if_neg bI_t0, if_pos bI_t]
          simp only [xg_s, ob_s]
          exact ⟨_, _, rfl, rfl, _, rfl, rfl⟩
      · obtain ⟨b, rfl, rfl⟩ := hI
        unfold C1_fires_L37 M_fires_L45
        dsimp only
        rw [if_neg (by decide), if_neg (by decide)]
        exact ⟨_, _, rfl, rfl, _, rfl, rfl⟩
    rw [m1, m2]
    subst m3 m4
    exact ⟨_, _, _, rfl, rfl, JN_same hp hM1 h0 hr1 hr2⟩
  · rw [if_neg bI_t0, if_pos (show bI (!true) = 0 by decide)]
    exact ⟨_, _, _, rfl, rfl, JN_same hp hM1 h0 hr1 hr2⟩
end OPS4
