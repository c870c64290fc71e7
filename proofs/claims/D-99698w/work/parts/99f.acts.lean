/-! ===== operations that change the service ===== -/
section OPSF
variable {K : Nat → Nat} {h h' h2 : CH} {r r' : CR} {o N : Nat} {S S1 : ST} {f : CH} {B : Nat → Nat} {sT aT hT : Option Nat} {seed : Int32} {ea eh : Nat → Nat} {σ s1 s2 : MS} {a : Bool} {c : Int32} {P : PO} {w v : SV}
def rfu (S : ST) (i : Nat) : Nat → Int32 := fun q => if q = i then zR S i + 1 else zR S q
theorem C1_refuse_eq {n : Nat} (hp : RCp K h n o S f B sT aT hT seed ea eh) {i : Nat} (hi : i < 3) : ∃ h', C1_refuse h o (i3 i) = some (-1, h') ∧ RCp K h' n o (wRF S (rfu S i)) f B sT aT hT seed ea eh := by
  obtain ⟨⟨b0, ho⟩, _, ⟨_, ⟨g, g1, g2⟩⟩, _⟩ := id hp
  unfold C1_refuse
  rw [gR_of ho rfl, Option.bind_some, aI_of g1 hi (by decide), Option.bind_some, sI_of g1 hi (by decide), Option.bind_some]
  refine ⟨_, rfl, RC_rf hp (fun q hq => ?_)⟩
  unfold upd rfu
  by_cases e : q = i
  · rw [if_pos e, if_pos e, g2 i hi]
  · rw [if_neg e, if_neg e, g2 q hq]
theorem C1_refuse_g {α : Type} {i : Int32} (g : CH → Option α) : ((gR h o 1 7).bind fun v1 => (aI h v1 0 i).bind fun v2 => (sI h v1 0 i (v2 + 1)).bind fun s3 => g s3) = (C1_refuse h o i).bind fun q => g q.2 := by
  unfold C1_refuse
  cases gR h o 1 7 with
  | none => rfl
  | some a =>
    rw [Option.bind_some, Option.bind_some]
    cases aI h a 0 i with
    | none => rfl
    | some b =>
      rw [Option.bind_some, Option.bind_some]
      cases sI h a 0 i (b + 1) with
      | none => rfl
      | some s => rfl
theorem M_refuses_eq (hM : RM σ S) {i : Nat} (hi : i < 3) : ∃ σ', M_refuses σ (i3 i) = some (-1, σ') ∧ RM σ' (wRF S (rfu S i)) ∧ mf σ' 0 = mf σ 0 := by
  obtain ⟨q1, q2, q3, q4, q5, q6, q7, q8⟩ := hM
  unfold M_refuses
  rw [ald_i3 (j := 16) (show i < 3 from hi), Option.bind_some, ast_i3 (j := 16) (show i < 3 from hi), Option.bind_some]
  refine ⟨_, rfl, ⟨ME_of q1 (fun k _ _ => rfl) (fun j _ _ => ma_sb (by omega)) (by rw [ma_sb (by decide)]), ?_, ?_, ?_, ?_, ?_, q7, fun q hq => ?_⟩, rfl⟩
  · rw [ma_sb (by decide)]; exact q2
  · unfold AM at q3 ⊢; rw [ma_sb (by decide)]; exact q3
  · unfold HM at q4 ⊢; rw [ma_sb (by decide)]; exact q4
  · unfold IM AM HM at q5 ⊢; rw [ma_sb (by decide), ma_sb (by decide), ma_sb (by decide)]; exact q5
  · rw [ma_sb (by decide)]; exact q6
  · rw [ma_saq]
    show _ = rfu S i q
    unfold rfu
    by_cases e : q = i
    · rw [if_pos e, if_pos e, q8 i hi]
    · rw [if_neg e, if_neg e, q8 q hq]
theorem RM_sv (hM : RM σ S) (hx : Fx 0 σ s1) (hv : MR s1 0 (zP S) v) : RM s1 (wSV S v) := by
  obtain ⟨q1, q2, q3, q4, q5, q6, q7, q8⟩ := hM
  have e1 := mf_fx hx
  have e2 := hx.2.1
  refine ⟨ME_fx hx q1, hv, ?_, ?_, ?_, ?_, ?_, ?_⟩
  · unfold AM at q3 ⊢; rw [e1, e2 45 (by decide) (by decide) (by decide)]; exact q3
  · unfold HM at q4 ⊢; rw [e1, e2 52 (by decide) (by decide) (by decide)]; exact q4
  · unfold IM AM HM at q5 ⊢; rw [e1, e1, e1, e2 59 (by decide) (by decide) (by decide), e2 60 (by decide) (by decide) (by decide), e2 61 (by decide) (by decide) (by decide)]; exact q5
  · rw [e1, e2 12 (by decide) (by decide) (by decide)]; exact q6
  · rw [e1]; exact q7
  · rw [e2 16 (by decide) (by decide) (by decide)]; exact q8
theorem mv_put (hm : MV σ 0 P w) {j v : Nat} {x : Int32} (hj : j < 34) (hx : x = if 19 ≤ j ∧ j < 28 then atM v else i3 v) (hw : WFS P (upn w j v)) : MV (sa σ 44 j x) 0 P (upn w j v) ∧ Fx 0 σ (sa σ 44 j x) := by
  have hF : Fx 0 σ (sa σ 44 j x) := Fx_s44 (fun e => by omega)
  have hr := MR_set (b := 0) (j := j) hm.2.2.1 hm.1.1 hm.1.2.1 hx
  rw [Nat.zero_add] at hr
  exact ⟨⟨hm.1, ME_fx hF hm.2.1, hr, hw, by decide⟩, hF⟩
theorem KQ_up (hk : KQ P w) {j v : Nat} (hj : j < 28) : KQ P (upn w j v) := by
  intro c hc
  rw [upn_ne (by omega)]
  exact hk c hc
theorem KQ_brk (hk : KQ P w) {t k : Nat} (hj : k ≤ 9) : KQ P (brk w t k) := by
  intro c hc
  unfold brk
  rw [if_neg (by omega)]
  exact hk c hc
/-- kept, on both sides -/
theorem keep_both (hp : RCp K h r.1 o S f B sT aT hT seed ea eh) (hM : RM σ S) (hr1 : 2300 * (N + 1) + 100 * zt S ≤ r.2.1) (hr2 : 90000 * (N + 1) + 3000 * zt S ≤ r.2.2) : ∃ h' r' f' B' ea' σ', vc h o 1 (achv r (C1_keep K h r o)) = some (h', r') ∧ M_keeps σ = some σ' ∧ RCp K h' r'.1 o (wAC S (kpA (zA S) (zw S))) f' B' sT aT hT seed ea' eh ∧ RM σ' (wAC S (kpA (zA S) (zw S))) ∧ mf σ' 0 = mf σ 0 ∧ 2300 * N + 100 * zt S ≤ r'.2.1 ∧ 90000 * N + 3000 * zt S ≤ r'.2.2 ∧ r'.2.1 ≤ r.2.1 ∧ r'.2.2 ≤ r.2.2 := by
  obtain ⟨h', r', f', B', ea', e1, e2, _, e3, e4, e5, e6⟩ := C1_keep_eq hp (by omega) (by omega)
  obtain ⟨σ', d1, d2, d3, _⟩ := M_keeps_eq (RCp_Z hp) hM
  exact ⟨h', r', f', B', ea', σ', e1, d1, e2, d2, d3, by omega, by omega, e3, e4⟩
/-- after keeping, the service now is changed -/
theorem JN_ch {x : Int32} (hp : RCp K h' r'.1 o S1 f B sT aT hT seed ea eh) (hc : CSV K h2 o (B 18) (B 1) f (zP S1) (B 2) (fun i => B (3 + i)) v) (hx : hX (sX6 (B 1) (B 2) (fun i => B (3 + i))) h' h2) (hM : RM s1 S1) (hF : Fx 0 s1 s2) (hm : MV s2 0 (zP S1) v) (hk : KQ (zP S1) v) (hd : v 0 ≤ 999) (h0 : mf s1 0 = 0) (hr1 : 2300 * N + 100 * zt S1 ≤ r'.2.1) (hr2 : 90000 * N + 3000 * zt S1 ≤ r'.2.2) (hr3 : r'.2.1 ≤ r.2.1) (hr4 : r'.2.2 ≤ r.2.2) : JN K o r N a c (.inl (x, (h2, r'))) x s2 := by
  have hZ' : WFZ (wSV S1 v) := WFZ_sv (RCp_Z hp) ⟨⟨hm.2.2.2.1, hk⟩, hd⟩
  exact JN_in ⟨f, B, sT, aT, hT, seed, ea, eh, RC_sv hp hc hx hZ'⟩ (RM_sv hM hF hm.2.2.1) ((mf_fx hF 0).trans h0) hr1 hr2 hr3 hr4
/-- refused, on both sides -/
theorem ref_both {i : Nat} (hi : i < 3) (hp : RCp K h r.1 o S f B sT aT hT seed ea eh) (hM : RM s1 S) (h0 : mf s1 0 = 0) (hr1 : 2300 * (N + 1) + 100 * zt S ≤ r.2.1) (hr2 : 90000 * (N + 1) + 3000 * zt S ≤ r.2.2) : ∃ h' s2, C1_refuse h o (i3 i) = some (-1, h') ∧ M_refuses s1 (i3 i) = some (-1, s2) ∧ ∀ x, JN K o r N a c (.inl (x, (h', r))) x s2 := by
  obtain ⟨h', e1, e2⟩ := C1_refuse_eq hp hi
  obtain ⟨s2, d1, d2, d3⟩ := M_refuses_eq hM hi
  exact ⟨h', s2, e1, d1, fun x => JN_in ⟨f, B, sT, aT, hT, seed, ea, eh, e2⟩ d2 (d3.trans h0) (show 2300 * N + 100 * zt S ≤ _ by omega) (show 90000 * N + 3000 * zt S ≤ _ by omega) (Nat.le_refl _) (Nat.le_refl _)⟩
theorem M_right_n0 (h0 : mf σ 0 = 0) {c : Int32} (hc : ¬ c = 0) : M_right σ 0 c = some (0, sf σ 0 c) := M_right_no h0 hc
theorem M_right_o1 (h0 : mf σ 0 = 0) (c : Int32) : M_right σ 1 c = some (1, σ) := M_right_ok h0 c
theorem M_in0 (x : Int32) {y : Int32} {b : Nat} (hy : y = i3 b) (hb : b < 2 ^ 31) : M_within x 0 y = some (bI (inR x (b + 1))) := by
  rw [hy, show M_within x 0 (i3 b) = some (bI (inB x 0 b)) from M_within_eq (a := 0) x (by decide) hb, inB0]
theorem M_burns_eq (h : MV σ 0 P w) {t : Nat} (ht : t < 4) : ∃ σ', M_burns σ 0 (i3 t) = some σ' ∧ Fx 0 σ σ' ∧ MR σ' 0 P (brk w t (pN P)) := by
  have hN := h.1.1
  unfold M_burns
  refine o_inv0 (fun k (q : Int32 × MS) => q.1 = i3 k ∧ Fx 0 σ q.2 ∧ MR q.2 0 P (brk w t k)) (fun r => Fx 0 σ r ∧ MR r 0 P (brk w t (pN P))) (pN P) (fun k q hk hI => ?_) (fun q hI => ?_) (0, σ) ⟨rfl, Fx_refl 0 σ, by rw [brk_0]; exact h.2.2.1⟩
  · obtain ⟨q1, q2⟩ := q
    obtain ⟨rfl, hF, hV⟩ := hI
    dsimp only at hF hV
    unfold M_burns_L2
    dsimp only
    have h19 := hV.2.2.2.1 k hk
    rw [Nat.zero_add] at h19
    have hw : brk w t k (19 + k) = w (19 + k) := by unfold brk; rw [if_neg (by omega)]
    rw [hw] at h19
    have hwl := wfs_19 h.2.2.2.1 h.1 hk
    rw [(mf_fx hF 1).trans h.2.1.1.1, if_pos ((i3_lt (by omega) (by omega)).mpr hk), show (0 : Int32) + 19 + i3 k = i3 (19 + k) from i3_add 19 k, ald_i3 (j := 44) (show 19 + k < 68 by omega), Option.bind_some, h19, i3_succ]
    by_cases e : w (19 + k) = t
    · rw [if_pos ((atM_t (by omega) ht).mpr e), ast_i3 (j := 44) (show 19 + k < 68 by omega), Option.bind_some, Option.bind_some]
      have hr := MR_set (b := 0) (j := 19 + k) (v := 99) (x := -1) hV h.1.1 h.1.2.1 (by rw [if_pos (by omega)]; rfl)
      rw [Nat.zero_add, brk_t e] at hr
      exact ⟨_, rfl, rfl, Fx_trans hF (Fx_s44 (fun e => by omega)), hr⟩
    · rw [if_neg (fun x => e ((atM_t (by omega) ht).mp x)), Option.bind_some]
      exact ⟨_, rfl, rfl, hF, by rw [brk_f e]; exact hV⟩
  · obtain ⟨q1, q2⟩ := q
    obtain ⟨rfl, hF, hV⟩ := hI
    unfold M_burns_L2
    dsimp only
    rw [(mf_fx hF 1).trans h.2.1.1.1, if_neg (fun x => absurd ((i3_lt (by omega) (by omega)).mp x) (by omega))]
    exact ⟨_, rfl, hF, hV⟩
theorem M_daysL_eq (h : MV σ 0 P w) {n : Nat} (hn : n < 2 ^ 31) (hd : w 0 + n < 2 ^ 20) : ∃ σ', o_loop (M_days_L41 (i3 n)) (0, σ) = some σ' ∧ Fx 0 σ σ' ∧ MV σ' 0 P (aft P n w) := by
  refine o_inv0 (fun k (t : Int32 × MS) => t.1 = i3 k ∧ Fx 0 σ t.2 ∧ MV t.2 0 P (aft P k w)) (fun r => Fx 0 σ r ∧ MV r 0 P (aft P n w)) n (fun k t hk hI => ?_) (fun t hI => ?_) (0, σ) ⟨rfl, Fx_refl 0 σ, h⟩
  · obtain ⟨t1, t2⟩ := t
    obtain ⟨rfl, hF, hV⟩ := hI
    dsimp only at hF hV
    unfold M_days_L41
    dsimp only
    rw [if_pos ((i3_lt (by omega) (by omega)).mpr hk), i3_succ]
    obtain ⟨s1, e1, f1, v1⟩ := m0_day hV (by rw [aft_0]; omega)
    rw [e1, Option.bind_some]
    exact ⟨_, rfl, rfl, Fx_trans hF f1, v1⟩
  · obtain ⟨t1, t2⟩ := t
    obtain ⟨rfl, hF, hV⟩ := hI
    unfold M_days_L41
    dsimp only
    rw [if_neg (fun x => absurd ((i3_lt (by omega) (by omega)).mp x) (by omega))]
    exact ⟨_, rfl, hF, hV⟩

theorem op_days (hS : RS K o (h, r) σ (N + 1)) (a0 : Int32) : ∃ z v σ', C1_days K h r o a0 = some z ∧ M_days σ a0 = some (v, σ') ∧ JN K o r N false 0 (.inl z) v σ' := by
  obtain ⟨S, ⟨f, B, sT, aT, hT, seed, ea, eh, hp⟩, hM, hr1, hr2⟩ := hS
  dsimp only at hp hr1 hr2
  have hZ := RCp_Z hp
  obtain ⟨hv, hs, ht, hF, hacts, hheard, hrf⟩ := RD_of hp
  have hM1 : RM (sf σ 0 0) S := RM_gx hZ (Gx_sf (.inl rfl)) hM
  have h0 : mf (sf σ 0 0) 0 = 0 := mf_sf0
  unfold C1_days M_days
  rw [show pf σ 0 0 = some (sf σ 0 0) from rfl, Option.bind_some]
  generalize sf σ 0 0 = s1 at hM1 h0
  have mv := RM_MV hZ hM1
  have hN := hZ.1.1
  have hMM := hZ.1.2.1
  have hQ := hZ.1.2.2.1
  rw [show C1_in a0 1 20 = some (bI (inB a0 1 20)) from C1_in_eq (a := 1) (b := 20) a0 (by decide) (by decide), show M_within a0 1 20 = some (bI (inB a0 1 20)) from M_within_eq (a := 1) (b := 20) a0 (by decide) (by decide), Option.bind_some, Option.bind_some]
  obtain ⟨hR, sR, z1, z2, z3⟩ := ref_both (N := N) (a := false) (c := 0) (i := 1) (by decide) hp hM1 h0 hr1 hr2
  have j1 : C1_days_J25 h r o = some (-1, (hR, r)) := by
    unfold C1_days_J25
    rw [cx_vc hv.1, show C1_refuse h o 1 = _ from z1, Option.bind_some]
  have j2 : M_days_J29 s1 = some (-1, sR) := by
    unfold M_days_J29
    rw [show M_refuses s1 1 = _ from z2, Option.bind_some]
  cases e0 : inB a0 1 20
  · rw [if_pos bI_f, if_pos bI_f, j1, j2]
    exact ⟨_, _, _, rfl, rfl, z3 _⟩
  rw [if_neg bI_t0, if_neg bI_t0]
  obtain ⟨n, n1, n2, rfl⟩ := inB_is e0
  have hdd : zw S 0 ≤ 999 := hZ.2.1.2
  rw [hs, Option.bind_some, sv_d hv, Option.bind_some, m0_d mv, Option.bind_some, i3_add]
  by_cases e1 : zw S 0 + n ≤ 999
  · rw [if_pos ((i3_lel (c := 999) (n := 999) rfl (by omega) (by decide)).mpr e1), if_pos ((i3_lel (c := 999) (n := 999) rfl (by omega) (by decide)).mpr e1)]
    clear z1 z2 z3 j1 j2
    obtain ⟨h3, r3, f3, B3, ea3, s3, z1, z2, hp3, hM3, z5, z6, z7, z8, z9⟩ := keep_both (N := N) hp hM1 hr1 hr2
    obtain ⟨hv3, hs3, ht3, hF3, hacts3, hheard3, hrf3⟩ := RD_of hp3
    have mv3 := RM_MV (RCp_Z hp3) hM3
    have hZ3 := RCp_Z hp3
    have h03 := z5.trans h0
    have hkq : KQ (zP S) (zw S) := hZ.2.1.1.2

    obtain ⟨h4, y1, y2, y3⟩ := C3_after_eq hv3 (n := n) (by omega) (show zw S 0 + n < 2 ^ 20 by omega)
    obtain ⟨s4, x1, x2, x3⟩ := M_daysL_eq mv3 (n := n) (by omega) (show zw S 0 + n < 2 ^ 20 by omega)
    rw [z1, Option.bind_some, z2, Option.bind_some]
    dsimp only
    rw [hs3, Option.bind_some, sv_vc hv3, y1, Option.bind_some]
    dsimp only
    rw [sv_d y2, Option.bind_some, x1, Option.bind_some, m0_d x3, Option.bind_some]
    exact ⟨_, _, _, rfl, rfl, JN_ch hp3 y2 y3 hM3 x2 x3 (KQ_aft hZ.1 hkq n) (by rw [aft_0]; exact e1) h03 z6 z7 z8 z9⟩
  · rw [if_neg (fun x => e1 ((i3_lel (c := 999) (n := 999) rfl (by omega) (by decide)).mp x)), if_neg (fun x => e1 ((i3_lel (c := 999) (n := 999) rfl (by omega) (by decide)).mp x)), j1, j2]
    exact ⟨_, _, _, rfl, rfl, z3 _⟩
theorem op_take (hS : RS K o (h, r) σ (N + 1)) (a0 a1 : Int32) : ∃ z v σ', C1_take K h r o a0 a1 = some z ∧ M_take σ a0 a1 = some (v, σ') ∧ JN K o r N true 0 z v σ' := by
  obtain ⟨S, ⟨f, B, sT, aT, hT, seed, ea, eh, hp⟩, hM, hr1, hr2⟩ := hS
  dsimp only at hp hr1 hr2
  have hZ := RCp_Z hp
  obtain ⟨hv, hs, ht, hF, hacts, hheard, hrf⟩ := RD_of hp
  have hM1 : RM (sf σ 0 0) S := RM_gx hZ (Gx_sf (.inl rfl)) hM
  have h0 : mf (sf σ 0 0) 0 = 0 := mf_sf0
  unfold C1_take M_take
  rw [show pf σ 0 0 = some (sf σ 0 0) from rfl, Option.bind_some]
  generalize sf σ 0 0 = s1 at hM1 h0
  have mv := RM_MV hZ hM1
  have hN := hZ.1.1
  have hMM := hZ.1.2.1
  have hQ := hZ.1.2.2.1
  cases e0 : inR a0 (pM (zP S))
  · rw [aC_no hv.1 e0 (by omega) (by omega), xg_r, mC_no mv.2.1 mv.1 h0 e0, Option.bind_some, if_pos (show ((0 : Int32), sf s1 0 1).1 = 0 from rfl)]
    exact ⟨_, _, _, rfl, rfl, JN_thr hp hM1 hr1 hr2 (.inl ⟨rfl, rfl, rfl⟩)⟩
  rw [aC_ok hv.1 e0, xg_l, mC_ok mv.2.1 mv.1 h0 e0, Option.bind_some, if_neg (show ¬ ((1 : Int32), s1).1 = 0 from i_ne10)]
  try dsimp only
  obtain ⟨k0, hk0, rfl⟩ := inR_is e0
  cases e1 : inR a1 (pN (zP S))
  · rw [aS_no hv.1 e1 (by omega) (by omega), xg_r, mS_no mv.2.1 mv.1 h0 e1, Option.bind_some, if_pos (show ((0 : Int32), sf s1 0 1).1 = 0 from rfl)]
    exact ⟨_, _, _, rfl, rfl, JN_thr hp hM1 hr1 hr2 (.inl ⟨rfl, rfl, rfl⟩)⟩
  rw [aS_ok hv.1 e1, xg_l, mS_ok mv.2.1 mv.1 h0 e1, Option.bind_some, if_neg (show ¬ ((1 : Int32), s1).1 = 0 from i_ne10)]
  try dsimp only
  obtain ⟨k1, hk1, rfl⟩ := inR_is e1
  have h19 := wfs_19 mv.2.2.2.1 mv.1 hk1
  have htl : tow (zP S) (zw S) k0 < 4 := wfp_tow hZ.1 hk0
  rw [hs, Option.bind_some, sv_2 hv, Option.bind_some, sv_A hv hk1, Option.bind_some, Option.bind_some, sv_vc hv, C3_town_eq hv hk0, Option.bind_some, m0_19 mv hk1, Option.bind_some, m0_clk mv hk0, Option.bind_some]
  by_cases e : zw S (19 + k1) = tow (zP S) (zw S) k0
  · rw [if_pos ((atC_t (by omega) (by omega)).mpr e), if_pos ((atM_t (by omega) htl).mpr e)]
    obtain ⟨h3, r3, f3, B3, ea3, s3, z1, z2, hp3, hM3, z5, z6, z7, z8, z9⟩ := keep_both (N := N) hp hM1 hr1 hr2
    obtain ⟨hv3, hs3, ht3, hF3, hacts3, hheard3, hrf3⟩ := RD_of hp3
    have mv3 := RM_MV (RCp_Z hp3) hM3
    have hZ3 := RCp_Z hp3
    have h03 := z5.trans h0
    have hkq : KQ (zP S) (zw S) := hZ.2.1.1.2
    have hdd : zw S 0 ≤ 999 := hZ.2.1.2
    obtain ⟨h4, y1, y2, y3⟩ := C3_take_eq hv3 (c := k0) (k := k1) hk0 hk1
    obtain ⟨x3, x2⟩ := mv_put mv3 (j := 19 + k1) (v := 4 + k0) (x := 10 + i3 k0) (by omega) (by rw [if_pos (by omega), atM_y (by omega) (by omega), show (10 : Int32) + i3 k0 = i3 (10 + k0) from i3_add 10 k0]; congr 1; omega) (sv_w y2)
    rw [z1, Option.bind_some, z2, Option.bind_some]
    dsimp only
    rw [hs3, Option.bind_some, sv_vc hv3, y1, Option.bind_some, show (19 : Int32) + i3 k1 = i3 (19 + k1) from i3_add 19 k1, ast_i3 (j := 44) (show 19 + k1 < 68 by omega), Option.bind_some]
    exact ⟨_, _, _, rfl, rfl, JN_ch hp3 y2 y3 hM3 x2 x3 (KQ_up hkq (by omega)) (by rw [upn_ne (by omega)]; exact hdd) h03 z6 z7 z8 z9⟩
  · rw [if_neg (fun x => e ((atC_t (by omega) (by omega)).mp x)), if_neg (fun x => e ((atM_t (by omega) htl).mp x))]
    obtain ⟨hR, sR, z1, z2, z3⟩ := ref_both (N := N) (a := true) (c := 0) (i := 1) (by decide) hp hM1 h0 hr1 hr2
    rw [C1_refuse_g (i := 1) (fun s14 => some (Sum.inl ((0 : Int32), ((s14, r) : CS)))), show C1_refuse h o 1 = _ from z1, show M_refuses s1 1 = _ from z2, Option.bind_some, Option.bind_some, if_pos (show ((-1 : Int32), sR).1 ≤ 0 by show (-1 : Int32) ≤ 0; decide)]
    exact ⟨_, _, _, rfl, rfl, z3 _⟩
theorem op_leave (hS : RS K o (h, r) σ (N + 1)) (a0 a1 : Int32) : ∃ z v σ', C1_leave K h r o a0 a1 = some z ∧ M_leave σ a0 a1 = some (v, σ') ∧ JN K o r N true 0 z v σ' := by
  obtain ⟨S, ⟨f, B, sT, aT, hT, seed, ea, eh, hp⟩, hM, hr1, hr2⟩ := hS
  dsimp only at hp hr1 hr2
  have hZ := RCp_Z hp
  obtain ⟨hv, hs, ht, hF, hacts, hheard, hrf⟩ := RD_of hp
  have hM1 : RM (sf σ 0 0) S := RM_gx hZ (Gx_sf (.inl rfl)) hM
  have h0 : mf (sf σ 0 0) 0 = 0 := mf_sf0
  unfold C1_leave M_leave
  rw [show pf σ 0 0 = some (sf σ 0 0) from rfl, Option.bind_some]
  generalize sf σ 0 0 = s1 at hM1 h0
  have mv := RM_MV hZ hM1
  have hN := hZ.1.1
  have hMM := hZ.1.2.1
  have hQ := hZ.1.2.2.1
  cases e0 : inR a0 (pM (zP S))
  · rw [aC_no hv.1 e0 (by omega) (by omega), xg_r, mC_no mv.2.1 mv.1 h0 e0, Option.bind_some, if_pos (show ((0 : Int32), sf s1 0 1).1 = 0 from rfl)]
    exact ⟨_, _, _, rfl, rfl, JN_thr hp hM1 hr1 hr2 (.inl ⟨rfl, rfl, rfl⟩)⟩
  rw [aC_ok hv.1 e0, xg_l, mC_ok mv.2.1 mv.1 h0 e0, Option.bind_some, if_neg (show ¬ ((1 : Int32), s1).1 = 0 from i_ne10)]
  try dsimp only
  obtain ⟨k0, hk0, rfl⟩ := inR_is e0
  cases e1 : inR a1 (pN (zP S))
  · rw [aS_no hv.1 e1 (by omega) (by omega), xg_r, mS_no mv.2.1 mv.1 h0 e1, Option.bind_some, if_pos (show ((0 : Int32), sf s1 0 1).1 = 0 from rfl)]
    exact ⟨_, _, _, rfl, rfl, JN_thr hp hM1 hr1 hr2 (.inl ⟨rfl, rfl, rfl⟩)⟩
  rw [aS_ok hv.1 e1, xg_l, mS_ok mv.2.1 mv.1 h0 e1, Option.bind_some, if_neg (show ¬ ((1 : Int32), s1).1 = 0 from i_ne10)]
  try dsimp only
  obtain ⟨k1, hk1, rfl⟩ := inR_is e1
  have h19 := wfs_19 mv.2.2.2.1 mv.1 hk1
  have hbl := brr_lt mv.2.2.2.1 mv.1 hk1
  have htl : tow (zP S) (zw S) k0 < 4 := wfp_tow hZ.1 hk0
  rw [hs, Option.bind_some, sv_vc hv, C3_bearer_eq hv hk1, Option.bind_some, m0_19 mv hk1, Option.bind_some]
  by_cases e : brr (zw S) k1 = k0
  · rw [if_pos ((wI_u (by omega) (by omega)).mpr e), if_pos ((atM_c h19 (by omega)).mpr ((brr_c (by omega)).mp e))]
    obtain ⟨h3, r3, f3, B3, ea3, s3, z1, z2, hp3, hM3, z5, z6, z7, z8, z9⟩ := keep_both (N := N) hp hM1 hr1 hr2
    obtain ⟨hv3, hs3, ht3, hF3, hacts3, hheard3, hrf3⟩ := RD_of hp3
    have mv3 := RM_MV (RCp_Z hp3) hM3
    have hZ3 := RCp_Z hp3
    have h03 := z5.trans h0
    have hkq : KQ (zP S) (zw S) := hZ.2.1.1.2
    have hdd : zw S 0 ≤ 999 := hZ.2.1.2
    obtain ⟨h4, y1, y2, y3⟩ := sx_A hv3 (k := k1) (v := tow (zP S) (zw S) k0) hk1 (.inl htl)
    obtain ⟨x3, x2⟩ := mv_put mv3 (j := 19 + k1) (v := tow (zP S) (zw S) k0) (x := i3 (tow (zP S) (zw S) k0)) (by omega) (by rw [if_pos (by omega), atM_x htl]) (sv_w y2)
    rw [z1, Option.bind_some, z2, Option.bind_some]
    dsimp only
    rw [hs3, Option.bind_some, sv_2 hv3, Option.bind_some, Option.bind_some, sv_vc hv3, C3_town_eq hv3 hk0, Option.bind_some, show i3 (tow (zP (wAC S (kpA (zA S) (zw S)))) (zw (wAC S (kpA (zA S) (zw S)))) k0) = atC (tow (zP S) (zw S) k0) from (atC_x (show ¬ tow (zP S) (zw S) k0 = 99 by omega)).symm, y1, Option.bind_some]
    have hs4 : gR h4 o 1 2 = some (B3 2) := by
      obtain ⟨_, b2, _⟩ := RD_of (RC_sv hp3 y2 y3 (WFZ_sv hZ3 ⟨⟨sv_w y2, KQ_up hkq (by omega)⟩, by rw [upn_ne (by omega)]; exact hdd⟩))
      exact b2
    have x4 := m0_19 x3 hk1
    rw [show (19 : Int32) + i3 k1 = i3 (19 + k1) from i3_add 19 k1] at x4 ⊢
    rw [hs4, Option.bind_some, sv_2 y2, Option.bind_some, sv_A y2 hk1, Option.bind_some, m0_clk mv3 hk0, Option.bind_some, ast_i3 (j := 44) (show 19 + k1 < 68 by omega), Option.bind_some]
    rw [show tow (zP (wAC S (kpA (zA S) (zw S)))) (zw (wAC S (kpA (zA S) (zw S)))) k0 = tow (zP S) (zw S) k0 from rfl, x4, Option.bind_some, upn_eq, atM_x htl, atC_x (show ¬ tow (zP S) (zw S) k0 = 99 by omega)]
    exact ⟨_, _, _, rfl, rfl, JN_ch hp3 y2 y3 hM3 x2 x3 (KQ_up hkq (by omega)) (by rw [upn_ne (by omega)]; exact hdd) h03 z6 z7 z8 z9⟩
  · rw [if_neg (fun x => e ((wI_u (by omega) (by omega)).mp x)), if_neg (fun x => e ((brr_c (by omega)).mpr ((atM_c h19 (by omega)).mp x)))]
    obtain ⟨hR, sR, z1, z2, z3⟩ := ref_both (N := N) (a := true) (c := 0) (i := 1) (by decide) hp hM1 h0 hr1 hr2
    rw [cx_vc hv.1, show C1_refuse h o 1 = _ from z1, show M_refuses s1 1 = _ from z2, Option.bind_some, Option.bind_some]
    exact ⟨_, _, _, rfl, rfl, z3 _⟩
theorem op_fire (hS : RS K o (h, r) σ (N + 1)) (a0 : Int32) : ∃ z v σ', C1_fire K h r o a0 = some z ∧ M_fire σ a0 = some (v, σ') ∧ JN K o r N true 0 z v σ' := by
  obtain ⟨S, ⟨f, B, sT, aT, hT, seed, ea, eh, hp⟩, hM, hr1, hr2⟩ := hS
  dsimp only at hp hr1 hr2
  have hZ := RCp_Z hp
  obtain ⟨hv, hs, ht, hF, hacts, hheard, hrf⟩ := RD_of hp
  have hM1 : RM (sf σ 0 0) S := RM_gx hZ (Gx_sf (.inl rfl)) hM
  have h0 : mf (sf σ 0 0) 0 = 0 := mf_sf0
  unfold C1_fire M_fire
  rw [show pf σ 0 0 = some (sf σ 0 0) from rfl, Option.bind_some]
  generalize sf σ 0 0 = s1 at hM1 h0
  have mv := RM_MV hZ hM1
  have hN := hZ.1.1
  have hMM := hZ.1.2.1
  have hQ := hZ.1.2.2.1
  cases e0 : inR a0 4
  · rw [aT_no e0 (by omega) (by omega), xg_r, mT_no h0 e0, Option.bind_some, if_pos (show ((0 : Int32), sf s1 0 1).1 = 0 from rfl)]
    exact ⟨_, _, _, rfl, rfl, JN_thr hp hM1 hr1 hr2 (.inl ⟨rfl, rfl, rfl⟩)⟩
  rw [aT_ok e0, xg_l, mT_ok h0 e0, Option.bind_some, if_neg (show ¬ ((1 : Int32), s1).1 = 0 from i_ne10)]
  try dsimp only
  obtain ⟨k0, hk0, rfl⟩ := inR_is e0
  rw [hs, Option.bind_some, sv_vc hv, C3_archive_eq hv (by omega), Option.bind_some, M_archive_eq mv hk0, Option.bind_some]
  by_cases e : i3 (arc (zP S) (zw S) k0) = 0
  · rw [if_pos e, if_pos e]
    obtain ⟨hR, sR, z1, z2, z3⟩ := ref_both (N := N) (a := true) (c := 0) (i := 1) (by decide) hp hM1 h0 hr1 hr2
    rw [cx_vc hv.1, show C1_refuse h o 1 = _ from z1, show M_refuses s1 1 = _ from z2, Option.bind_some, Option.bind_some]
    exact ⟨_, _, _, rfl, rfl, z3 _⟩
  · rw [if_neg e, if_neg e]
    obtain ⟨h3, r3, f3, B3, ea3, s3, z1, z2, hp3, hM3, z5, z6, z7, z8, z9⟩ := keep_both (N := N) hp hM1 hr1 hr2
    obtain ⟨hv3, hs3, ht3, hF3, hacts3, hheard3, hrf3⟩ := RD_of hp3
    have mv3 := RM_MV (RCp_Z hp3) hM3
    have hZ3 := RCp_Z hp3
    have h03 := z5.trans h0
    have hkq : KQ (zP S) (zw S) := hZ.2.1.1.2
    have hdd : zw S 0 ≤ 999 := hZ.2.1.2
    obtain ⟨h4, y1, y2, y3⟩ := C3_burn_eq hv3 (t := k0) (by omega)
    obtain ⟨s4, x1, x2, x3⟩ := M_burns_eq mv3 (t := k0) hk0
    rw [z1, Option.bind_some, z2, Option.bind_some]
    dsimp only
    rw [hs3, Option.bind_some, sv_vc hv3, y1, Option.bind_some, x1, Option.bind_some]
    exact ⟨_, _, _, rfl, rfl, JN_ch hp3 y2 y3 hM3 x2 ⟨hZ.1, ME_fx x2 mv3.2.1, x3, sv_w y2, by decide⟩ (KQ_brk hkq hN) (by unfold brk; rw [if_neg (by omega)]; exact hdd) h03 z6 z7 z8 z9⟩
theorem op_forge (hS : RS K o (h, r) σ (N + 1)) (a0 a1 a2 : Int32) : ∃ z v σ', C1_forge K h r o a0 a1 a2 = some z ∧ M_forge σ a0 a1 a2 = some (v, σ') ∧ JN K o r N true 0 z v σ' := by
  obtain ⟨S, ⟨f, B, sT, aT, hT, seed, ea, eh, hp⟩, hM, hr1, hr2⟩ := hS
  dsimp only at hp hr1 hr2
  have hZ := RCp_Z hp
  obtain ⟨hv, hs, ht, hF, hacts, hheard, hrf⟩ := RD_of hp
  have hM1 : RM (sf σ 0 0) S := RM_gx hZ (Gx_sf (.inl rfl)) hM
  have h0 : mf (sf σ 0 0) 0 = 0 := mf_sf0
  unfold C1_forge M_forge
  rw [show pf σ 0 0 = some (sf σ 0 0) from rfl, Option.bind_some]
  generalize sf σ 0 0 = s1 at hM1 h0
  have mv := RM_MV hZ hM1
  have hN := hZ.1.1
  have hMM := hZ.1.2.1
  have hQ := hZ.1.2.2.1
  cases e0 : inR a0 (pN (zP S))
  · rw [aS_no hv.1 e0 (by omega) (by omega), xg_r, mS_no mv.2.1 mv.1 h0 e0, Option.bind_some, if_pos (show ((0 : Int32), sf s1 0 1).1 = 0 from rfl)]
    exact ⟨_, _, _, rfl, rfl, JN_thr hp hM1 hr1 hr2 (.inl ⟨rfl, rfl, rfl⟩)⟩
  rw [aS_ok hv.1 e0, xg_l, mS_ok mv.2.1 mv.1 h0 e0, Option.bind_some, if_neg (show ¬ ((1 : Int32), s1).1 = 0 from i_ne10)]
  try dsimp only
  obtain ⟨k0, hk0, rfl⟩ := inR_is e0
  rw [M_in0 a1 (y := 1) (b := 1) rfl (by decide), Option.bind_some]
  cases e1 : inR a1 (1 + 1)
  · rw [aO_no (y := 1) (m := 1) rfl (by decide) e1 (by omega) (by omega), xg_r, if_pos bI_f, Option.bind_some, M_right_n0 h0 (by decide), Option.bind_some, if_pos (show ((0 : Int32), sf s1 0 1).1 = 0 from rfl)]
    exact ⟨_, _, _, rfl, rfl, JN_thr hp hM1 hr1 hr2 (.inl ⟨rfl, rfl, rfl⟩)⟩
  rw [aO_ok (y := 1) (m := 1) rfl (by decide) e1, xg_l, if_neg bI_t0]
  try dsimp only
  rw [M_in0 a2 (y := 7) (b := 7) rfl (by decide), Option.bind_some]
  cases e2 : inR a2 (7 + 1)
  · rw [aO_no (y := 7) (m := 7) rfl (by decide) e2 (by omega) (by omega), xg_r, if_pos bI_f, Option.bind_some, M_right_n0 h0 (by decide), Option.bind_some, if_pos (show ((0 : Int32), sf s1 0 1).1 = 0 from rfl)]
    exact ⟨_, _, _, rfl, rfl, JN_thr hp hM1 hr1 hr2 (.inl ⟨rfl, rfl, rfl⟩)⟩
  rw [aO_ok (y := 7) (m := 7) rfl (by decide) e2, xg_l, if_neg bI_t0, Option.bind_some, M_right_o1 h0, Option.bind_some, if_neg (show ¬ ((1 : Int32), s1).1 = 0 from i_ne10)]
  try dsimp only
  obtain ⟨k1, hk1, rfl⟩ := inR_is e1
  obtain ⟨k2, hk2, rfl⟩ := inR_is e2
  rw [hs, Option.bind_some, sv_vc hv, C3_isBurnt_eq hv hk0, Option.bind_some, m0_burnt mv hk0, Option.bind_some]
  cases e3 : bnt (zw S) k0
  · rw [if_pos bI_f, if_pos bI_f]
    obtain ⟨h3, r3, f3, B3, ea3, s3, z1, z2, hp3, hM3, z5, z6, z7, z8, z9⟩ := keep_both (N := N) hp hM1 hr1 hr2
    obtain ⟨hv3, hs3, ht3, hF3, hacts3, hheard3, hrf3⟩ := RD_of hp3
    have mv3 := RM_MV (RCp_Z hp3) hM3
    have hZ3 := RCp_Z hp3
    have h03 := z5.trans h0
    have hkq : KQ (zP S) (zw S) := hZ.2.1.1.2
    have hdd : zw S 0 ≤ 999 := hZ.2.1.2
    have hcs : k1 = 0 ∨ k1 = 1 := by omega
    rcases hcs with rfl | rfl
    · have hb : zw S (1 + k0) ^^^ 2 ^ k2 < 256 := xor_lt (mv.2.2.2.1.1 k0 hk0) (by have : 2 ^ k2 < 2 ^ 8 := Nat.pow_lt_pow_right (by decide) hk2; exact this)
      obtain ⟨h4, y1, y2, y3⟩ := sx_L hv3 (k := k0) (v := zw S (1 + k0) ^^^ 2 ^ k2) hk0 hb
      obtain ⟨x3, x2⟩ := mv_put mv3 (j := 1 + k0) (v := zw S (1 + k0) ^^^ 2 ^ k2) (x := i3 (zw S (1 + k0) ^^^ 2 ^ k2)) (by omega) (by rw [if_neg (by omega)]) (sv_w y2)
      have x4 := m0_1 x3 hk0
      have x5 := m0_1 mv3 hk0
      rw [upn_eq] at x4
      rw [if_pos (show i3 0 = 0 from rfl), z1, Option.bind_some, z2, Option.bind_some]
      dsimp only
      rw [if_pos (show i3 0 = 0 from rfl), Option.bind_some, hs3, Option.bind_some, sv_0 hv3, Option.bind_some, xg_l, sv_L hv3 hk0, Option.bind_some, x5, Option.bind_some, i3_shl (by omega), i3_xor]
      rw [show zw (wAC S (kpA (zA S) (zw S))) (1 + k0) = zw S (1 + k0) from rfl, y1, Option.bind_some, sv_L y2 hk0, Option.bind_some, upn_eq]
      rw [show (1 : Int32) + i3 k0 = i3 (1 + k0) from i3_add 1 k0] at x4 ⊢
      rw [ast_i3 (j := 44) (show 1 + k0 < 68 by omega), Option.bind_some, x4, Option.bind_some]
      exact ⟨_, _, _, rfl, rfl, JN_ch hp3 y2 y3 hM3 x2 x3 (KQ_up hkq (by omega)) (by rw [upn_ne (by omega)]; exact hdd) h03 z6 z7 z8 z9⟩
    · have hb : zw S (10 + k0) ^^^ 2 ^ k2 < 256 := xor_lt (mv.2.2.2.1.2.1 k0 hk0) (by have : 2 ^ k2 < 2 ^ 8 := Nat.pow_lt_pow_right (by decide) hk2; exact this)
      obtain ⟨h4, y1, y2, y3⟩ := sx_E hv3 (k := k0) (v := zw S (10 + k0) ^^^ 2 ^ k2) hk0 hb
      obtain ⟨x3, x2⟩ := mv_put mv3 (j := 10 + k0) (v := zw S (10 + k0) ^^^ 2 ^ k2) (x := i3 (zw S (10 + k0) ^^^ 2 ^ k2)) (by omega) (by rw [if_neg (by omega)]) (sv_w y2)
      have x4 := m0_10 x3 hk0
      have x5 := m0_10 mv3 hk0
      rw [upn_eq] at x4
      rw [if_neg (show ¬ i3 1 = 0 by decide), z1, Option.bind_some, z2, Option.bind_some]
      dsimp only
      rw [if_neg (show ¬ i3 1 = 0 by decide), Option.bind_some, hs3, Option.bind_some, sv_1 hv3, Option.bind_some, xg_l, sv_E hv3 hk0, Option.bind_some, x5, Option.bind_some, i3_shl (by omega), i3_xor]
      rw [show zw (wAC S (kpA (zA S) (zw S))) (10 + k0) = zw S (10 + k0) from rfl, y1, Option.bind_some, sv_E y2 hk0, Option.bind_some, upn_eq]
      rw [show (10 : Int32) + i3 k0 = i3 (10 + k0) from i3_add 10 k0] at x4 ⊢
      rw [ast_i3 (j := 44) (show 10 + k0 < 68 by omega), Option.bind_some, x4, Option.bind_some]
      exact ⟨_, _, _, rfl, rfl, JN_ch hp3 y2 y3 hM3 x2 x3 (KQ_up hkq (by omega)) (by rw [upn_ne (by omega)]; exact hdd) h03 z6 z7 z8 z9⟩
  · rw [if_neg bI_t0, if_neg bI_t0]
    obtain ⟨hR, sR, z1, z2, z3⟩ := ref_both (N := N) (a := true) (c := 0) (i := 1) (by decide) hp hM1 h0 hr1 hr2
    rw [cx_vc hv.1, show C1_refuse h o 1 = _ from z1, show M_refuses s1 1 = _ from z2, Option.bind_some, Option.bind_some]
    exact ⟨_, _, _, rfl, rfl, z3 _⟩
end OPSF
