/-! ===== operations that only read ===== -/
section JNS
variable {K : Nat → Nat} {h h' : CH} {r r' : CR} {o n N : Nat} {S : ST} {f : CH} {B : Nat → Nat} {sT aT hT : Option Nat} {seed : Int32} {ea eh : Nat → Nat} {σ s1 : MS} {a : Bool} {c : Int32}
theorem i_ne10 {s : MS} : ¬ ((1 : Int32), s).1 = 0 := by
  show ¬ (1 : Int32) = 0
  decide
theorem RCp_Z (hp : RCp K h n o S f B sT aT hT seed ea eh) : WFZ S := by
  obtain ⟨_, _, _, _, _, _, _, _, hZ⟩ := hp
  exact hZ
theorem RCp_FR (hp : RCp K h n o S f B sT aT hT seed ea eh) : FR h n := by
  obtain ⟨_, _, _, _, _, _, _, ⟨hfr, _⟩, hZ⟩ := hp
  exact hfr
theorem JN_thr {t : Nat} {v code : Int32} (hp : RCp K h r.1 o S f B sT aT hT seed ea eh) (hM : RM s1 S) (hr1 : 2300 * (N + 1) + 100 * zt S ≤ r.2.1) (hr2 : 90000 * (N + 1) + 3000 * zt S ≤ r.2.2) (hc : (t = 0 ∧ a = true ∧ code = 1) ∨ (t = 1 ∧ ¬ c = 0 ∧ code = c)) : JN K o r N a c (.inr (tE t h r)) v (sf s1 0 code) := by
  refine ⟨?_, ⟨S, ⟨f, B, sT, aT, hT, seed, ea, eh, ?_⟩, RM_gx (RCp_Z hp) (Gx_sf (.inl rfl)) hM, ?_, ?_⟩, ?_⟩
  · rcases hc with ⟨h1, h2, h3⟩ | ⟨h1, h2, h3⟩
    · exact .inl ⟨h1, h2, by rw [mf_sf0, h3]⟩
    · exact .inr ⟨h1, h2, by rw [mf_sf0, h3]⟩
  · exact RC_grow hp (hB_refl _ h) (fun q hq => RCp_FR hp q (Nat.le_of_succ_le hq)) (Nat.le_succ _)
  · show 2300 * N + 100 * zt S ≤ r.2.1 - 1
    omega
  · show 90000 * N + 3000 * zt S ≤ r.2.2 - 6
    omega
  · exact ⟨Nat.sub_le _ _, Nat.sub_le _ _⟩
theorem JN_in {x : Int32} {S' : ST} (hp : RC K h' r'.1 o S') (hM : RM s1 S') (h0 : mf s1 0 = 0) (h1 : 2300 * N + 100 * zt S' ≤ r'.2.1) (h2 : 90000 * N + 3000 * zt S' ≤ r'.2.2) (h3 : r'.2.1 ≤ r.2.1) (h4 : r'.2.2 ≤ r.2.2) : JN K o r N a c (.inl (x, (h', r'))) x s1 :=
  ⟨h0, rfl, ⟨S', hp, hM, h1, h2⟩, h3, h4⟩
theorem JN_same {x : Int32} (hp : RCp K h r.1 o S f B sT aT hT seed ea eh) (hM : RM s1 S) (h0 : mf s1 0 = 0) (hr1 : 2300 * (N + 1) + 100 * zt S ≤ r.2.1) (hr2 : 90000 * (N + 1) + 3000 * zt S ≤ r.2.2) : JN K o r N a c (.inl (x, (h, r))) x s1 :=
  JN_in ⟨f, B, sT, aT, hT, seed, ea, eh, hp⟩ hM h0 (by omega) (by omega) (Nat.le_refl _) (Nat.le_refl _)
end JNS
section OPS1
theorem bI_t0 : ¬ bI true = 0 := by decide
variable {K : Nat → Nat} {h : CH} {r : CR} {o N : Nat} {σ : MS}
theorem M_brr {s1 : MS} {P : PO} {w : SV} (mv : MV s1 0 P w) {k : Nat} (hk : k < pN P) : ((ald s1 44 (19 + i3 k)).bind fun v13 => if v13 < 10 then some ((-1 : Int32), s1) else (ald s1 44 (19 + i3 k)).bind fun v15 => some (v15 - 10, s1)) = some (wI (brr w k), s1) := by
  have h9 := wfs_19 mv.2.2.2.1 mv.1 hk
  rw [m0_19 mv hk, Option.bind_some, Option.bind_some]
  by_cases e1 : w (19 + k) = 99
  · rw [atM_z e1, if_pos (by decide), brr_no (.inr e1), wI_z rfl]
  · by_cases e2 : w (19 + k) < 4
    · rw [atM_x e2, if_pos ((i3_ltl (c := 10) (n := 10) rfl (by omega) (by decide)).mpr (by omega)), brr_no (.inl e2), wI_z rfl]
    · rw [atM_y e2 e1, if_neg (fun x => absurd ((i3_ltl (c := 10) (n := 10) rfl (by omega) (by decide)).mp x) (by omega)), brr_is (by omega) e1, wI_x (by omega), show (i3 (w (19 + k) + 6) - 10 : Int32) = i3 (w (19 + k) + 6 - 10) from i3_sub (b := 10) (by omega), show w (19 + k) + 6 - 10 = w (19 + k) - 4 by omega]

theorem op_sheet (hS : RS K o (h, r) σ (N + 1)) (a0 a1 : Int32) : ∃ z v σ', C1_sheet h r o a0 a1 = some z ∧ M_sheet σ a0 a1 = some (v, σ') ∧ JN K o r N true 0 z v σ' := by
  obtain ⟨S, ⟨f, B, sT, aT, hT, seed, ea, eh, hp⟩, hM, hr1, hr2⟩ := hS
  dsimp only at hp hr1 hr2
  have hZ := RCp_Z hp
  obtain ⟨hv, hs, ht, hF, hacts, hheard, hrf⟩ := RD_of hp
  have hM1 : RM (sf σ 0 0) S := RM_gx hZ (Gx_sf (.inl rfl)) hM
  have h0 : mf (sf σ 0 0) 0 = 0 := mf_sf0
  unfold C1_sheet M_sheet
  rw [show pf σ 0 0 = some (sf σ 0 0) from rfl, Option.bind_some]
  generalize sf σ 0 0 = s1 at hM1 h0
  have mv := RM_MV hZ hM1
  have hN := hZ.1.1
  have hMM := hZ.1.2.1
  have hQ := hZ.1.2.2.1
  cases e0 : inR a0 (pN (zP S))
  · rw [aS_no hv.1 e0 (by omega) (by omega), xg_r, mS_no mv.2.1 mv.1 h0 e0, Option.bind_some, if_pos (show ((0 : Int32), sf s1 0 1).1 = 0 from rfl)]
    exact ⟨_, _, _, rfl, rfl, JN_thr hp hM1 hr1 hr2 (.inl ⟨rfl, rfl, rfl⟩)⟩
  rw [aS_ok hv.1 e0, xg_l, mS_ok mv.2.1 mv.1 h0 e0, Option.bind_some, if_neg (show ¬ ((1 : Int32), s1).1 = 0 from i_ne10)]
  dsimp only
  obtain ⟨k0, hk0, rfl⟩ := inR_is e0
  cases e1 : inR a1 (4 + 1)
  · rw [aO_no (y := 4) (m := 4) rfl (by decide) e1 (by omega) (by omega), xg_r, mO_no (y := 4) (m := 4) rfl (by decide) h0 e1, Option.bind_some, if_pos (show ((0 : Int32), sf s1 0 1).1 = 0 from rfl)]
    exact ⟨_, _, _, rfl, rfl, JN_thr hp hM1 hr1 hr2 (.inl ⟨rfl, rfl, rfl⟩)⟩
  rw [aO_ok (y := 4) (m := 4) rfl (by decide) e1, xg_l, mO_ok (y := 4) (m := 4) rfl (by decide) h0 e1, Option.bind_some, if_neg (show ¬ ((1 : Int32), s1).1 = 0 from i_ne10)]
  dsimp only
  obtain ⟨k1, hk1, rfl⟩ := inR_is e1
  have hcs : k1 = 0 ∨ k1 = 1 ∨ k1 = 2 ∨ k1 = 3 ∨ k1 = 4 := by omega
  rcases hcs with rfl | rfl | rfl | rfl | rfl
  · rw [if_pos (show i3 0 = 0 from rfl), if_pos (show i3 0 = 0 from rfl), hs, Option.bind_some, sv_0 hv, Option.bind_some, sv_L hv hk0, Option.bind_some, m0_1 mv hk0, Option.bind_some]
    exact ⟨_, _, _, rfl, rfl, JN_same hp hM1 h0 hr1 hr2⟩
  · rw [if_neg (show ¬ i3 1 = 0 by decide), if_pos (show i3 1 = 1 from rfl), if_neg (show ¬ i3 1 = 0 by decide), if_pos (show i3 1 = 1 from rfl), hs, Option.bind_some, sv_1 hv, Option.bind_some, sv_E hv hk0, Option.bind_some, m0_10 mv hk0, Option.bind_some]
    exact ⟨_, _, _, rfl, rfl, JN_same hp hM1 h0 hr1 hr2⟩
  · rw [if_neg (show ¬ i3 2 = 0 by decide), if_neg (show ¬ i3 2 = 1 by decide), if_pos (show i3 2 = 2 from rfl), if_neg (show ¬ i3 2 = 0 by decide), if_neg (show ¬ i3 2 = 1 by decide), if_pos (show i3 2 = 2 from rfl), hs, Option.bind_some, sv_vc hv, C3_where_eq hv hk0, Option.bind_some, m0_in mv hk0, Option.bind_some]
    exact ⟨_, _, _, rfl, rfl, JN_same hp hM1 h0 hr1 hr2⟩
  · rw [if_neg (show ¬ i3 3 = 0 by decide), if_neg (show ¬ i3 3 = 1 by decide), if_neg (show ¬ i3 3 = 2 by decide), if_pos (show i3 3 = 3 from rfl), if_neg (show ¬ i3 3 = 0 by decide), if_neg (show ¬ i3 3 = 1 by decide), if_neg (show ¬ i3 3 = 2 by decide), if_pos (show i3 3 = 3 from rfl), hs, Option.bind_some, sv_vc hv, C3_bearer_eq hv hk0, Option.bind_some, M_brr mv hk0]
    exact ⟨_, _, _, rfl, rfl, JN_same hp hM1 h0 hr1 hr2⟩
  · rw [if_neg (show ¬ i3 4 = 0 by decide), if_neg (show ¬ i3 4 = 1 by decide), if_neg (show ¬ i3 4 = 2 by decide), if_neg (show ¬ i3 4 = 3 by decide), if_neg (show ¬ i3 4 = 0 by decide), if_neg (show ¬ i3 4 = 1 by decide), if_neg (show ¬ i3 4 = 2 by decide), if_neg (show ¬ i3 4 = 3 by decide), hs, Option.bind_some, sv_vc hv, C3_fitting_eq hv hk0, Option.bind_some, M_fitting_eq mv hk0, Option.bind_some]
    exact ⟨_, _, _, rfl, rfl, JN_same hp hM1 h0 hr1 hr2⟩
theorem cx_r {K : Nat → Nat} {h : CH} {o off vs : Nat} {f : CH} {P : PO} (hX : CX K h o off vs f P) {c : Nat} (hc : c < pM P) : ∃ rl a, gR h off 2 1 = some rl ∧ vc h rl 10 (CJ2_get h rl (i3 c)) = some a ∧ ckC h a 10 = some () ∧ vc h a 10 (CJ2_size h a) = some (i3 (pL P c)) := by
  obtain ⟨hP, _, hl, ⟨wl, rl, ly, mo, fw, fr, h1, h2, h3, _⟩, _⟩ := hX
  obtain ⟨fi, i1, i2⟩ := h3.2 c hc
  have ir := LRd_mono hl i1
  obtain ⟨mc, arr, c1, _⟩ := id ir
  exact ⟨rl, fr c, gR_of (hl _ _ h1) rfl, LRd_get (LRd_mono hl h3.1) hc, ckC_of c1, LRd_size ir⟩
theorem op_clerk (hS : RS K o (h, r) σ (N + 1)) (a0 a1 : Int32) : ∃ z v σ', C1_clerk h r o a0 a1 = some z ∧ M_clerk σ a0 a1 = some (v, σ') ∧ JN K o r N true 0 z v σ' := by
  obtain ⟨S, ⟨f, B, sT, aT, hT, seed, ea, eh, hp⟩, hM, hr1, hr2⟩ := hS
  dsimp only at hp hr1 hr2
  have hZ := RCp_Z hp
  obtain ⟨hv, hs, ht, hF, hacts, hheard, hrf⟩ := RD_of hp
  have hM1 : RM (sf σ 0 0) S := RM_gx hZ (Gx_sf (.inl rfl)) hM
  have h0 : mf (sf σ 0 0) 0 = 0 := mf_sf0
  unfold C1_clerk M_clerk
  rw [show pf σ 0 0 = some (sf σ 0 0) from rfl, Option.bind_some]
  generalize sf σ 0 0 = s1 at hM1 h0
  have mv := RM_MV hZ hM1
  have hN := hZ.1.1
  have hMM := hZ.1.2.1
  have hQ := hZ.1.2.2.1
  cases e0 : inR a0 (pM (zP S))
  · rw [aC_no hv.1 e0 (by omega) (by omega), xg_r, mC_no mv.2.1 mv.1 h0 e0, Option.bind_some, if_pos (show ((0 : Int32), sf s1 0 1).1 = 0 from rfl)]
    exact ⟨_, _, _, rfl, rfl, JN_thr hp hM1 hr1 hr2 (.inl ⟨rfl, rfl, rfl⟩)⟩
  rw [aC_ok hv.1 e0, xg_l, mC_ok mv.2.1 mv.1 h0 e0, Option.bind_some, if_neg (show ¬ ((1 : Int32), s1).1 = 0 from i_ne10)]
  dsimp only
  obtain ⟨k0, hk0, rfl⟩ := inR_is e0
  cases e1 : inR a1 (3 + 1)
  · rw [aO_no (y := 3) (m := 3) rfl (by decide) e1 (by omega) (by omega), xg_r, mO_no (y := 3) (m := 3) rfl (by decide) h0 e1, Option.bind_some, if_pos (show ((0 : Int32), sf s1 0 1).1 = 0 from rfl)]
    exact ⟨_, _, _, rfl, rfl, JN_thr hp hM1 hr1 hr2 (.inl ⟨rfl, rfl, rfl⟩)⟩
  rw [aO_ok (y := 3) (m := 3) rfl (by decide) e1, xg_l, mO_ok (y := 3) (m := 3) rfl (by decide) h0 e1, Option.bind_some, if_neg (show ¬ ((1 : Int32), s1).1 = 0 from i_ne10)]
  dsimp only
  obtain ⟨k1, hk1, rfl⟩ := inR_is e1
  rw [M_clerk_set mv (by omega), Option.bind_some]
  have hcs : k1 = 0 ∨ k1 = 1 ∨ k1 = 2 ∨ k1 = 3 := by omega
  rcases hcs with rfl | rfl | rfl | rfl
  · rw [if_pos (show i3 0 = 0 from rfl), if_pos (show i3 0 = 0 from rfl), hs, Option.bind_some, sv_vc hv, C3_town_eq hv hk0, Option.bind_some, m0_clk mv hk0, Option.bind_some]
    exact ⟨_, _, _, rfl, rfl, JN_same hp hM1 h0 hr1 hr2⟩
  · rw [if_neg (show ¬ i3 1 = 0 by decide), if_pos (show i3 1 = 1 from rfl), if_neg (show ¬ i3 1 = 0 by decide), if_pos (show i3 1 = 1 from rfl), hs, Option.bind_some, sv_3 hv, Option.bind_some, sv_K hv hk0, Option.bind_some, m0_28 mv hk0, Option.bind_some]
    exact ⟨_, _, _, rfl, rfl, JN_same hp hM1 h0 hr1 hr2⟩
  · rw [if_neg (show ¬ i3 2 = 0 by decide), if_neg (show ¬ i3 2 = 1 by decide), if_pos (show i3 2 = 2 from rfl), if_neg (show ¬ i3 2 = 0 by decide), if_neg (show ¬ i3 2 = 1 by decide), if_pos (show i3 2 = 2 from rfl), hs, Option.bind_some, sv_vc hv, C3_bornBy_eq hv (by omega), Option.bind_some]
    exact ⟨_, _, _, rfl, rfl, JN_same hp hM1 h0 hr1 hr2⟩
  · obtain ⟨rl, a, y1, y2, y3, y4⟩ := cx_r hv.1 hk0
    rw [if_neg (show ¬ i3 3 = 0 by decide), if_neg (show ¬ i3 3 = 1 by decide), if_neg (show ¬ i3 3 = 2 by decide), if_neg (show ¬ i3 3 = 0 by decide), if_neg (show ¬ i3 3 = 1 by decide), if_neg (show ¬ i3 3 = 2 by decide), cx_1 hv.1, Option.bind_some, y1, Option.bind_some, y2, Option.bind_some, y3, Option.bind_some, y4, Option.bind_some, ald_at (j := 8) (n := k0) rfl (show k0 < 6 by omega) (mv.2.1.2.1.1 k0 hk0), Option.bind_some]
    exact ⟨_, _, _, rfl, rfl, JN_same hp hM1 h0 hr1 hr2⟩
theorem op_word (hS : RS K o (h, r) σ (N + 1)) (a0 a1 : Int32) : ∃ z v σ', C1_word h r o a0 a1 = some z ∧ M_word σ a0 a1 = some (v, σ') ∧ JN K o r N true 0 z v σ' := by
  obtain ⟨S, ⟨f, B, sT, aT, hT, seed, ea, eh, hp⟩, hM, hr1, hr2⟩ := hS
  dsimp only at hp hr1 hr2
  have hZ := RCp_Z hp
  obtain ⟨hv, hs, ht, hF, hacts, hheard, hrf⟩ := RD_of hp
  have hM1 : RM (sf σ 0 0) S := RM_gx hZ (Gx_sf (.inl rfl)) hM
  have h0 : mf (sf σ 0 0) 0 = 0 := mf_sf0
  unfold C1_word M_word
  rw [show pf σ 0 0 = some (sf σ 0 0) from rfl, Option.bind_some]
  generalize sf σ 0 0 = s1 at hM1 h0
  have mv := RM_MV hZ hM1
  have hN := hZ.1.1
  have hMM := hZ.1.2.1
  have hQ := hZ.1.2.2.1
  cases e0 : inR a0 (pQ' (zP S))
  · rw [aW_no hv.1 e0 (by omega) (by omega), xg_r, mW_no mv.2.1 mv.1 h0 e0, Option.bind_some, if_pos (show ((0 : Int32), sf s1 0 1).1 = 0 from rfl)]
    exact ⟨_, _, _, rfl, rfl, JN_thr hp hM1 hr1 hr2 (.inl ⟨rfl, rfl, rfl⟩)⟩
  rw [aW_ok hv.1 e0, xg_l, mW_ok mv.2.1 mv.1 h0 e0, Option.bind_some, if_neg (show ¬ ((1 : Int32), s1).1 = 0 from i_ne10)]
  dsimp only
  obtain ⟨k0, hk0, rfl⟩ := inR_is e0
  cases e1 : inR a1 (3 + 1)
  · rw [aO_no (y := 3) (m := 3) rfl (by decide) e1 (by omega) (by omega), xg_r, mO_no (y := 3) (m := 3) rfl (by decide) h0 e1, Option.bind_some, if_pos (show ((0 : Int32), sf s1 0 1).1 = 0 from rfl)]
    exact ⟨_, _, _, rfl, rfl, JN_thr hp hM1 hr1 hr2 (.inl ⟨rfl, rfl, rfl⟩)⟩
  rw [aO_ok (y := 3) (m := 3) rfl (by decide) e1, xg_l, mO_ok (y := 3) (m := 3) rfl (by decide) h0 e1, Option.bind_some, if_neg (show ¬ ((1 : Int32), s1).1 = 0 from i_ne10)]
  dsimp only
  obtain ⟨k1, hk1, rfl⟩ := inR_is e1
  obtain ⟨wl, fw, w1, w2, w3⟩ := cx_w hv.1
  obtain ⟨x1, x2, x3, x4⟩ := w3 k0 hk0
  have hcs : k1 = 0 ∨ k1 = 1 ∨ k1 = 2 ∨ k1 = 3 := by omega
  rcases hcs with rfl | rfl | rfl | rfl
  · rw [if_pos (show i3 0 < 2 by decide), if_pos (show i3 0 = 0 from rfl), cx_1 hv.1, Option.bind_some, w1, Option.bind_some, x1, Option.bind_some, x2, Option.bind_some, show aI h (fw k0) 0 (i3 0) = _ from x3, Option.bind_some, mv_A mv hk0, Option.bind_some]
    exact ⟨_, _, _, rfl, rfl, JN_same hp hM1 h0 hr1 hr2⟩
  · rw [if_pos (show i3 1 < 2 by decide), if_neg (show ¬ i3 1 = 0 by decide), if_pos (show i3 1 = 1 from rfl), cx_1 hv.1, Option.bind_some, w1, Option.bind_some, x1, Option.bind_some, x2, Option.bind_some, show aI h (fw k0) 0 (i3 1) = _ from x4, Option.bind_some, mv_B mv hk0, Option.bind_some]
    exact ⟨_, _, _, rfl, rfl, JN_same hp hM1 h0 hr1 hr2⟩
  · rw [if_neg (show ¬ i3 2 < 2 by decide), if_pos (show i3 2 = 2 from rfl), if_neg (show ¬ i3 2 = 0 by decide), if_neg (show ¬ i3 2 = 1 by decide), if_pos (show i3 2 = 2 from rfl), cx_vc hv.1, C1_showsAt_eq hv hs hk0, Option.bind_some, M_showsWhere_eq mv hk0, Option.bind_some]
    exact ⟨_, _, _, rfl, rfl, JN_same hp hM1 h0 hr1 hr2⟩
  · rw [if_neg (show ¬ i3 3 < 2 by decide), if_neg (show ¬ i3 3 = 2 by decide), if_neg (show ¬ i3 3 = 0 by decide), if_neg (show ¬ i3 3 = 1 by decide), if_neg (show ¬ i3 3 = 2 by decide), cx_vc hv.1, C1_knowers_eq hv hs (by omega), Option.bind_some, show M_knowers s1 0 (i3 k0) = _ from M_knowers_eq (b := 0) mv (by omega), Option.bind_some]
    exact ⟨_, _, _, rfl, rfl, JN_same hp hM1 h0 hr1 hr2⟩
theorem op_town (hS : RS K o (h, r) σ (N + 1)) (a0 a1 : Int32) : ∃ z v σ', C1_town h r o a0 a1 = some z ∧ M_town σ a0 a1 = some (v, σ') ∧ JN K o r N true 0 z v σ' := by
  obtain ⟨S, ⟨f, B, sT, aT, hT, seed, ea, eh, hp⟩, hM, hr1, hr2⟩ := hS
  dsimp only at hp hr1 hr2
  have hZ := RCp_Z hp
  obtain ⟨hv, hs, ht, hF, hacts, hheard, hrf⟩ := RD_of hp
  have hM1 : RM (sf σ 0 0) S := RM_gx hZ (Gx_sf (.inl rfl)) hM
  have h0 : mf (sf σ 0 0) 0 = 0 := mf_sf0
  unfold C1_town M_town
  rw [show pf σ 0 0 = some (sf σ 0 0) from rfl, Option.bind_some]
  generalize sf σ 0 0 = s1 at hM1 h0
  have mv := RM_MV hZ hM1
  have hN := hZ.1.1
  have hMM := hZ.1.2.1
  have hQ := hZ.1.2.2.1
  cases e0 : inR a0 4
  · rw [aT_no e0 (by omega) (by omega), xg_r, mT_no h0 e0, Option.bind_some, if_pos (show ((0 : Int32), sf s1 0 1).1 = 0 from rfl)]
    exact ⟨_, _, _, rfl, rfl, JN_thr hp hM1 hr1 hr2 (.inl ⟨rfl, rfl, rfl⟩)⟩
  rw [aT_ok e0, xg_l, mT_ok h0 e0, Option.bind_some, if_neg (show ¬ ((1 : Int32), s1).1 = 0 from i_ne10)]
  dsimp only
  obtain ⟨k0, hk0, rfl⟩ := inR_is e0
  cases e1 : inR a1 (4 + 1)
  · rw [aO_no (y := 4) (m := 4) rfl (by decide) e1 (by omega) (by omega), xg_r, mO_no (y := 4) (m := 4) rfl (by decide) h0 e1, Option.bind_some, if_pos (show ((0 : Int32), sf s1 0 1).1 = 0 from rfl)]
    exact ⟨_, _, _, rfl, rfl, JN_thr hp hM1 hr1 hr2 (.inl ⟨rfl, rfl, rfl⟩)⟩
  rw [aO_ok (y := 4) (m := 4) rfl (by decide) e1, xg_l, mO_ok (y := 4) (m := 4) rfl (by decide) h0 e1, Option.bind_some, if_neg (show ¬ ((1 : Int32), s1).1 = 0 from i_ne10)]
  dsimp only
  obtain ⟨k1, hk1, rfl⟩ := inR_is e1
  have har : arc (zP S) (zw S) k0 < 2 ^ 9 := p2 (bst_lt _ _) hN
  have hcs : k1 = 0 ∨ k1 = 1 ∨ k1 = 2 ∨ k1 = 3 ∨ k1 = 4 := by omega
  rcases hcs with rfl | rfl | rfl | rfl | rfl
  · rw [if_pos (show i3 0 = 0 from rfl), if_pos (show i3 0 = 0 from rfl), hs, Option.bind_some, sv_vc hv, C3_archive_eq hv (by omega), Option.bind_some, M_archive_eq mv hk0, Option.bind_some]
    exact ⟨_, _, _, rfl, rfl, JN_same hp hM1 h0 hr1 hr2⟩
  · rw [if_neg (show ¬ i3 1 = 0 by decide), if_pos (show i3 1 = 1 from rfl), if_neg (show ¬ i3 1 = 0 by decide), if_pos (show i3 1 = 1 from rfl), hs, Option.bind_some, sv_vc hv, C3_sheetsIn_eq hv (by omega), Option.bind_some, m0_shts mv hk0, Option.bind_some]
    exact ⟨_, _, _, rfl, rfl, JN_same hp hM1 h0 hr1 hr2⟩
  · rw [if_neg (show ¬ i3 2 = 0 by decide), if_neg (show ¬ i3 2 = 1 by decide), if_pos (show i3 2 = 2 from rfl), if_neg (show ¬ i3 2 = 0 by decide), if_neg (show ¬ i3 2 = 1 by decide), if_pos (show i3 2 = 2 from rfl), hs, Option.bind_some, sv_vc hv, C3_clerksIn_eq hv (by omega), Option.bind_some, m0_clks mv (by omega), Option.bind_some]
    exact ⟨_, _, _, rfl, rfl, JN_same hp hM1 h0 hr1 hr2⟩
  · rw [if_neg (show ¬ i3 3 = 0 by decide), if_neg (show ¬ i3 3 = 1 by decide), if_neg (show ¬ i3 3 = 2 by decide), if_pos (show i3 3 = 3 from rfl), if_neg (show ¬ i3 3 = 0 by decide), if_neg (show ¬ i3 3 = 1 by decide), if_neg (show ¬ i3 3 = 2 by decide), if_pos (show i3 3 = 3 from rfl), hs, Option.bind_some, sv_vc hv, C3_shows_eq hv (by omega), Option.bind_some, m0_shows mv hk0, Option.bind_some]
    exact ⟨_, _, _, rfl, rfl, JN_same hp hM1 h0 hr1 hr2⟩
  · rw [if_neg (show ¬ i3 4 = 0 by decide), if_neg (show ¬ i3 4 = 1 by decide), if_neg (show ¬ i3 4 = 2 by decide), if_neg (show ¬ i3 4 = 3 by decide), if_neg (show ¬ i3 4 = 0 by decide), if_neg (show ¬ i3 4 = 1 by decide), if_neg (show ¬ i3 4 = 2 by decide), if_neg (show ¬ i3 4 = 3 by decide), hs, Option.bind_some, sv_vc hv, C3_archive_eq hv (by omega), Option.bind_some, cx_vc hv.1, C1_lost_eq hv hs har, Option.bind_some, M_archive_eq mv hk0, Option.bind_some, M_lostBy_eq mv (p2 (b := 31) har (by decide)), Option.bind_some]
    exact ⟨_, _, _, rfl, rfl, JN_same hp hM1 h0 hr1 hr2⟩
theorem op_far (hS : RS K o (h, r) σ (N + 1)) (a0 a1 : Int32) : ∃ z v σ', C1_far h r o a0 a1 = some z ∧ M_far σ a0 a1 = some (v, σ') ∧ JN K o r N true 0 z v σ' := by
  obtain ⟨S, ⟨f, B, sT, aT, hT, seed, ea, eh, hp⟩, hM, hr1, hr2⟩ := hS
  dsimp only at hp hr1 hr2
  have hZ := RCp_Z hp
  obtain ⟨hv, hs, ht, hF, hacts, hheard, hrf⟩ := RD_of hp
  have hM1 : RM (sf σ 0 0) S := RM_gx hZ (Gx_sf (.inl rfl)) hM
  have h0 : mf (sf σ 0 0) 0 = 0 := mf_sf0
  unfold C1_far M_far
  rw [show pf σ 0 0 = some (sf σ 0 0) from rfl, Option.bind_some]
  generalize sf σ 0 0 = s1 at hM1 h0
  have mv := RM_MV hZ hM1
  have hN := hZ.1.1
  have hMM := hZ.1.2.1
  have hQ := hZ.1.2.2.1
  cases e0 : inR a0 (pN (zP S))
  · rw [aS_no hv.1 e0 (by omega) (by omega), xg_r, mS_no mv.2.1 mv.1 h0 e0, Option.bind_some, if_pos (show ((0 : Int32), sf s1 0 1).1 = 0 from rfl)]
    exact ⟨_, _, _, rfl, rfl, JN_thr hp hM1 hr1 hr2 (.inl ⟨rfl, rfl, rfl⟩)⟩
  rw [aS_ok hv.1 e0, xg_l, mS_ok mv.2.1 mv.1 h0 e0, Option.bind_some, if_neg (show ¬ ((1 : Int32), s1).1 = 0 from i_ne10)]
  dsimp only
  obtain ⟨k0, hk0, rfl⟩ := inR_is e0
  cases e1 : inR a1 (pN (zP S))
  · rw [aS_no hv.1 e1 (by omega) (by omega), xg_r, mS_no mv.2.1 mv.1 h0 e1, Option.bind_some, if_pos (show ((0 : Int32), sf s1 0 1).1 = 0 from rfl)]
    exact ⟨_, _, _, rfl, rfl, JN_thr hp hM1 hr1 hr2 (.inl ⟨rfl, rfl, rfl⟩)⟩
  rw [aS_ok hv.1 e1, xg_l, mS_ok mv.2.1 mv.1 h0 e1, Option.bind_some, if_neg (show ¬ ((1 : Int32), s1).1 = 0 from i_ne10)]
  dsimp only
  obtain ⟨k1, hk1, rfl⟩ := inR_is e1
  rw [hs, Option.bind_some, sv_vc hv, C3_far_eq hv hk0 hk1, Option.bind_some, m0_off mv hk0 hk1, Option.bind_some]
  exact ⟨_, _, _, rfl, rfl, JN_same hp hM1 h0 hr1 hr2⟩
theorem op_toForge (hS : RS K o (h, r) σ (N + 1)) (a0 a1 : Int32) : ∃ z v σ', C1_toForge h r o a0 a1 = some z ∧ M_toForge σ a0 a1 = some (v, σ') ∧ JN K o r N true 0 z v σ' := by
  obtain ⟨S, ⟨f, B, sT, aT, hT, seed, ea, eh, hp⟩, hM, hr1, hr2⟩ := hS
  dsimp only at hp hr1 hr2
  have hZ := RCp_Z hp
  obtain ⟨hv, hs, ht, hF, hacts, hheard, hrf⟩ := RD_of hp
  have hM1 : RM (sf σ 0 0) S := RM_gx hZ (Gx_sf (.inl rfl)) hM
  have h0 : mf (sf σ 0 0) 0 = 0 := mf_sf0
  unfold C1_toForge M_toForge
  rw [show pf σ 0 0 = some (sf σ 0 0) from rfl, Option.bind_some]
  generalize sf σ 0 0 = s1 at hM1 h0
  have mv := RM_MV hZ hM1
  have hN := hZ.1.1
  have hMM := hZ.1.2.1
  have hQ := hZ.1.2.2.1
  cases e0 : inR a0 (pN (zP S))
  · rw [aS_no hv.1 e0 (by omega) (by omega), xg_r, mS_no mv.2.1 mv.1 h0 e0, Option.bind_some, if_pos (show ((0 : Int32), sf s1 0 1).1 = 0 from rfl)]
    exact ⟨_, _, _, rfl, rfl, JN_thr hp hM1 hr1 hr2 (.inl ⟨rfl, rfl, rfl⟩)⟩
  rw [aS_ok hv.1 e0, xg_l, mS_ok mv.2.1 mv.1 h0 e0, Option.bind_some, if_neg (show ¬ ((1 : Int32), s1).1 = 0 from i_ne10)]
  dsimp only
  obtain ⟨k0, hk0, rfl⟩ := inR_is e0
  cases e1 : inR a1 (pN (zP S))
  · rw [aS_no hv.1 e1 (by omega) (by omega), xg_r, mS_no mv.2.1 mv.1 h0 e1, Option.bind_some, if_pos (show ((0 : Int32), sf s1 0 1).1 = 0 from rfl)]
    exact ⟨_, _, _, rfl, rfl, JN_thr hp hM1 hr1 hr2 (.inl ⟨rfl, rfl, rfl⟩)⟩
  rw [aS_ok hv.1 e1, xg_l, mS_ok mv.2.1 mv.1 h0 e1, Option.bind_some, if_neg (show ¬ ((1 : Int32), s1).1 = 0 from i_ne10)]
  dsimp only
  obtain ⟨k1, hk1, rfl⟩ := inR_is e1
  have hS8 := hZ.1.2.2.2.1
  have hpc := pc_le (zw S (10 + k0) ^^^ zw S (1 + k1))
  by_cases e : k0 = k1
  · subst e
    rw [if_pos rfl, if_pos rfl]
    exact ⟨_, _, _, rfl, rfl, JN_same hp hM1 h0 hr1 hr2⟩
  · rw [if_neg (fun x => e ((i3_inj (by omega) (by omega)).mp x)), if_neg (fun x => e ((i3_inj (by omega) (by omega)).mp x)), hs, Option.bind_some, sv_vc hv, C3_isBurnt_eq hv hk0, m0_burnt mv hk0]
    simp only [Option.bind_some]
    cases e2 : bnt (zw S) k0
    · rw [if_pos bI_f, if_pos bI_f, sv_vc hv, C3_isBurnt_eq hv hk1, m0_burnt mv hk1]
      simp only [Option.bind_some]
      cases e3 : bnt (zw S) k1
      · rw [if_pos bI_f, if_pos bI_f, sv_vc hv, C3_far_eq hv hk0 hk1, m0_off mv hk0 hk1, cx_1 hv.1, mv.2.1.1.2.2.2]
        simp only [Option.bind_some, cx_s hv.1]
        have key : ∀ a : Fin 13, ∀ b : Fin 9, M_greater 0 (i3 a.val - i3 b.val) = some (imax 0 (i3 a.val - i3 b.val)) := by decide +kernel
        have q2 := key ⟨_, Nat.lt_succ_of_le hpc⟩ ⟨_, Nat.lt_succ_of_le hS8⟩
        dsimp only at q2
        unfold far
        rw [q2]
        simp only [Option.bind_some]
        exact ⟨_, _, _, rfl, rfl, JN_same hp hM1 h0 hr1 hr2⟩
      · rw [if_neg bI_t0, if_neg bI_t0]
        exact ⟨_, _, _, rfl, rfl, JN_same hp hM1 h0 hr1 hr2⟩
    · rw [if_neg bI_t0, if_neg bI_t0]
      exact ⟨_, _, _, rfl, rfl, JN_same hp hM1 h0 hr1 hr2⟩
end OPS1
