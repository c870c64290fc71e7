/-! ===== forget, hear ===== -/
section FORGET
variable {K : Nat → Nat} {h : CH} {r : CR} {o N : Nat} {σ : MS} {S : ST}
def kpH (x : HD) (v : Nat → Nat) : HD := (x.1 + 1, fun i => if i = x.1 then v else x.2 i)
theorem RM_heard {σ' : MS} {x : HD} (h : RM σ S) (e1 : ∀ k, k ≠ 0 → k ≠ 51 → mf σ' k = mf σ k) (e2 : ∀ j, j ≠ 52 → ma σ' j = ma σ j) (ha : HM σ' 51 52 x) : RM σ' (wHD S x) := by
  obtain ⟨h1, h2, h3, h4, h5, h6, h7, h8⟩ := h
  refine ⟨ME_of h1 (fun k _ _ => e1 k (by omega) (by omega)) (fun j _ _ => e2 j (by omega)) (by rw [e2 49 (by decide)]), ?_, ?_, ha, ?_, ?_, ?_, ?_⟩
  · rw [e2 44 (by decide)]; exact h2
  · unfold AM at h3 ⊢
    rw [e1 46 (by decide) (by decide), e2 45 (by decide)]
    exact h3
  · unfold IM AM HM at h5 ⊢
    rw [e1 56 (by decide) (by decide), e1 57 (by decide) (by decide), e1 58 (by decide) (by decide), e2 59 (by decide), e2 60 (by decide), e2 61 (by decide)]
    exact h5
  · rw [e1 13 (by decide) (by decide), e2 12 (by decide)]
    exact h6
  · rw [e1 15 (by decide) (by decide)]
    exact h7
  · rw [e2 16 (by decide)]
    exact h8
theorem WFZ_hd {x : HD} (h : WFZ S) (hx : WFH (zP S) x) : WFZ (wHD S x) := ⟨h.1, h.2.1, h.2.2.1, hx, h.2.2.2.2⟩
theorem op_forget (hS : RS K o (h, r) σ (N + 1)) : ∃ z σ', C1_forget K h r o = some z ∧ M_forget σ = some σ' ∧ JN K o r N false 0 (.inl (0, z)) 0 σ' := by
  obtain ⟨S, ⟨f, B, sT, aT, hT, seed, ea, eh, hp⟩, hM, hr1, hr2⟩ := hS
  dsimp only at hp hr1 hr2
  have hZ := RCp_Z hp
  have hM1 : RM (sf σ 0 0) S := RM_gx hZ (Gx_sf (.inl rfl)) hM
  have h0 : mf (sf σ 0 0) 0 = 0 := mf_sf0
  unfold C1_forget M_forget
  rw [show pf σ 0 0 = some (sf σ 0 0) from rfl, Option.bind_some]
  generalize sf σ 0 0 = s1 at hM1 h0
  obtain ⟨h1, _, y2, y3, y4, y5⟩ := C_new (K := K) (h := h) (r := r) (e := eh) (RCp_FR hp) (by omega) (by omega)
  obtain ⟨hkn, hk01, hkb, _⟩ := RCp_K hp
  have ho := (RC_o hp).2.1
  have holt : o < r.1 := RCp_lt hp ho
  have ho1 : h1 o = some (oCell B S (B 2) (B 14) (B 15) sT aT hT seed) := (y3 o (by omega)).trans ho
  have hl := (RC_o hp).2.2.1
  have hpos := RCp_pos hp
  have hfn : ∀ q, r.1 ≤ q → f q = none := by
    intro q hq
    cases e : f q with
    | none => rfl
    | some c => have := RCp_lt hp (hl _ _ e); omega
  have hB5 : ∀ i, i ≠ 15 → i ≠ 17 → Bu (Bu B 15 r.1) 17 (K 0) i = B i := fun i a b => by rw [Bu_ne b, Bu_ne a]
  have hB15 : Bu (Bu B 15 r.1) 17 (K 0) 15 = r.1 := by rw [Bu_ne (by decide), Bu_eq]
  have hB17 : Bu (Bu B 15 r.1) 17 (K 0) 17 = K 0 := Bu_eq
  have hp3 : RCp K (hup h1 o (oCell B S (B 2) (B 14) r.1 sT aT hT seed)) (r.1 + 1) o (wHD S (0, (zH S).2)) f (Bu (Bu B 15 r.1) 17 (K 0)) sT aT hT seed ea eh := by
    refine RC_fin (nw := fun i => decide (i = 15)) hp (fun q q1 q2 => ?_) ?_ (Nat.le_succ _) (fun _ _ x => x) (fun a c x => ?_) (fun _ _ => rfl) (fun i i1 i2 => decide_eq_false (by omega)) (fun i hi => ?_) (fun i j hi hj u1 u2 e => ?_) (fun i i1 i2 => ?_) (fun e => ?_) (hB5 18 (by decide) (by decide)) ?_ ⟨rfl, rfl, rfl, rfl, rfl⟩ ?_ ?_ hp.2.2.2.1.2 ?_ (fun i hi => absurd hi (Nat.not_lt_zero _)) hp.2.2.2.2.2.1 (WFZ_hd hZ ⟨Nat.zero_le _, fun i hi => absurd hi (Nat.not_lt_zero _)⟩)
    · rw [hup_n q2]; exact y3 q (by omega)
    · refine FR_set (fun q hq => ?_) (by omega)
      rw [y3 q (by omega)]
      exact RCp_FR hp q (by omega)
    · rw [hup_n (fun y => by rw [y, (RC_o hp).2.2.2.1] at x; cases x)]
      have q := hl _ _ x
      exact (y3 a (by have := RCp_lt hp q; omega)).trans q
    · by_cases q : i = 15
      · right
        subst q
        exact ⟨rfl, by rw [hB15]; exact Nat.le_refl _, by rw [hB15]; exact hfn _ (Nat.le_refl _)⟩
      · left
        exact ⟨decide_eq_false q, hB5 i q (by omega)⟩
    · have q1 := of_decide_eq_true u1
      have q2 := of_decide_eq_true u2
      omega
    · have : i = 16 ∨ i = 17 := by omega
      rcases this with rfl | rfl
      · exact .inl (hB5 16 (by decide) (by decide))
      · exact .inr (.inl (.inl hB17))
    · rw [hB17] at e
      exact .inl e
    · rw [hup_s]; rfl
    · rw [hB5 2 (by decide) (by decide)]
      refine SX_eq (h := h) (A := fun i => Bu (Bu B 15 r.1) 17 (K 0) (3 + i)) ?_ (fun q hq => ?_)
      · obtain ⟨⟨gL, gE, gA, gK, ⟨a1, a2, a3, a4, a5⟩, b⟩, hw⟩ := hp.2.1.2.2.2.1
        exact ⟨⟨gL, gE, gA, gK, ⟨a1, a2, a3, a4, a5⟩, b⟩, hw⟩
      · unfold s5 at hq
        simp only [List.mem_cons, List.not_mem_nil, or_false] at hq
        have hh : ∀ i, i < 18 → 1 ≤ i → hup h1 o (oCell B S (B 2) (B 14) r.1 sT aT hT seed) (B i) = h (B i) := by
          intro i a b
          rw [hup_n ((RC_o hp).2.2.2.2 i b a)]
          exact y3 _ (by have := hpos i a; omega)
        rcases hq with rfl | rfl | rfl | rfl | rfl
        · exact hh 2 (by decide) (by decide)
        · exact hh 3 (by decide) (by decide)
        · exact hh 4 (by decide) (by decide)
        · exact hh 5 (by decide) (by decide)
        · exact hh 6 (by decide) (by decide)
    · rw [hB5 14 (by decide) (by decide), hB5 16 (by decide) (by decide)]
      refine LMu_eq hp.2.2.2.1.1 ?_ (fun _ => ?_)
      · rw [hup_n ((RC_o hp).2.2.2.2 14 (by decide) (by decide))]; exact y3 _ (by have := hpos 14 (by decide); omega)
      · rw [hup_n ((RC_o hp).2.2.2.2 16 (by decide) (by decide))]; exact y3 _ (by have := hpos 16 (by decide); omega)
    · rw [hB15, hB17]
      obtain ⟨mc, l1, l2⟩ := y2
      exact ⟨mc, by rw [hup_n (by omega)]; exact l1, .inl ⟨rfl, .inl rfl⟩⟩
  rw [y4, Option.bind_some]
  dsimp only
  rw [y5, Option.bind_some, pQ_of ho1 (show 9 < 14 by decide), Option.bind_some, show hup h1 o (Sum.inr (1, List.set _ 9 (va_rf (some r.1)))) = hup h1 o (oCell B S (B 2) (B 14) r.1 sT aT hT seed) from rfl]
  rw [show pf s1 51 0 = some (sf s1 51 0) from rfl, Option.bind_some]
  have hRM : RM (sf s1 51 0) (wHD S (0, (zH S).2)) := RM_heard hM1 (fun k k0 k46 => by unfold mf sf; dsimp only; rw [if_neg k46]) (fun j _ => rfl) ⟨by unfold mf sf; dsimp only; rw [if_pos rfl]; rfl, fun i j hi _ => absurd hi (Nat.not_lt_zero _)⟩
  refine ⟨_, _, rfl, rfl, JN_in ⟨f, _, sT, aT, hT, seed, ea, eh, hp3⟩ hRM ?_ (show 2300 * N + 100 * zt S ≤ r.2.1 - 1 by omega) (show 90000 * N + 3000 * zt S ≤ r.2.2 - 3 by omega) (Nat.sub_le _ _) (Nat.sub_le _ _)⟩
  unfold mf sf
  dsimp only
  rw [if_neg (by decide)]
  exact h0
theorem sI_new {a : Nat} {g : Nat → Int32} (e : h a = some (.inl (0, 4, .inl g))) {i : Nat} (hi : i < 4) (v : Int32) : ∃ h', sI h a 0 (i3 i) v = some h' ∧ h' a = some (.inl (0, 4, .inl (upd g i v))) ∧ ∀ q, q ≠ a → h' q = h q :=
  ⟨_, sI_of e hi (by decide), hup_s, fun q hq => hup_n hq⟩
theorem kpH_v {k0 k1 k2 k3 : Nat} {g : Nat → Int32} (j : Nat) (hj : j < 4) : upd (upd (upd (upd g 0 (i3 k0)) 1 (i3 k1)) 2 (i3 k2)) 3 (i3 k3) j = i3 ((fun j => if j = 0 then k0 else if j = 1 then k1 else if j = 2 then k2 else k3) j) := by
  have : j = 0 ∨ j = 1 ∨ j = 2 ∨ j = 3 := by omega
  rcases this with rfl | rfl | rfl | rfl <;> simp [upd]
theorem op_hear (hS : RS K o (h, r) σ (N + 1)) (a0 a1 a2 a3 : Int32) : ∃ z v σ', C1_hear K h r o a0 a1 a2 a3 = some z ∧ M_hear σ a0 a1 a2 a3 = some (v, σ') ∧ JN K o r N true 0 z v σ' := by
  obtain ⟨S, ⟨f, B, sT, aT, hT, seed, ea, eh, hp⟩, hM, hr1, hr2⟩ := hS
  dsimp only at hp hr1 hr2
  have hZ := RCp_Z hp
  obtain ⟨hv, hs, ht, hF, hacts, hheard, hrf⟩ := RD_of hp
  have hM1 : RM (sf σ 0 0) S := RM_gx hZ (Gx_sf (.inl rfl)) hM
  have h0 : mf (sf σ 0 0) 0 = 0 := mf_sf0
  unfold C1_hear M_hear
  rw [show pf σ 0 0 = some (sf σ 0 0) from rfl, Option.bind_some]
  generalize sf σ 0 0 = s1 at hM1 h0
  have mv := RM_MV hZ hM1
  have hN := hZ.1.1
  have hMM := hZ.1.2.1
  have hQ := hZ.1.2.2.1
  cases e0 : inR a0 (pM (zP S))
  · rw [aC_no hv.1 e0 (by omega) (by omega), xg_r, mC_no mv.2.1 mv.1 h0 e0, Option.bind_some, if_pos (show ((0 : Int32), sf s1 0 1).1 = 0 from rfl)]
    exact ⟨_, _, _, rfl, rfl, JN_thr hp hM1 hr1 hr2 (.inl ⟨rfl, rfl, rfl⟩)⟩
  rw [aC_ok hv.1 e0, xg_l, mC_ok mv.2.1 mv.1 h0 e0, Option.bind_some, if_neg (show ¬ ((1 : Int32), s1).1 = 0 from i_ne10)]
  try dsimp only
  obtain ⟨k0, hk0, rfl⟩ := inR_is e0
  cases e1 : inR a1 (pQ' (zP S))
  · rw [aW_no hv.1 e1 (by omega) (by omega), xg_r, mW_no mv.2.1 mv.1 h0 e1, Option.bind_some, if_pos (show ((0 : Int32), sf s1 0 1).1 = 0 from rfl)]
    exact ⟨_, _, _, rfl, rfl, JN_thr hp hM1 hr1 hr2 (.inl ⟨rfl, rfl, rfl⟩)⟩
  rw [aW_ok hv.1 e1, xg_l, mW_ok mv.2.1 mv.1 h0 e1, Option.bind_some, if_neg (show ¬ ((1 : Int32), s1).1 = 0 from i_ne10)]
  try dsimp only
  obtain ⟨k1, hk1, rfl⟩ := inR_is e1
  have hg9 : gR h o 1 9 = some (B 15) := gR_of (RC_o hp).2.1 rfl
  have hhd := hp.2.2.2.2.1
  obtain ⟨hh1, hh2⟩ := hZ.2.2.2.1
  obtain ⟨m51, m52⟩ := hM1.2.2.2.1
  obtain ⟨hR, sR, z1, z2, z3⟩ := ref_both (N := N) (a := true) (c := 0) (i := 2) (by decide) hp hM1 h0 hr1 hr2
  have j1 : C1_hear_J34 o (h, r) = some (.inl (-1, (hR, r))) := by
    unfold C1_hear_J34
    rw [cx_vc hv.1, show C1_refuse h o 2 = _ from z1, Option.bind_some]
  have j2 : M_hear_J42 (1, s1) = some (-1, sR) := by
    unfold M_hear_J42
    rw [show M_refuses s1 2 = _ from z2, Option.bind_some]
  rw [hg9, Option.bind_some, C_siz hhd.1, Option.bind_some, m51]
  by_cases e8 : (zH S).1 = 8
  · rw [if_pos (show i3 (zH S).1 = 8 by rw [e8]; rfl), if_pos (show i3 (zH S).1 = 8 by rw [e8]; rfl), j1, j2]
    exact ⟨_, _, _, rfl, rfl, z3 _⟩
  have e8n : ¬ i3 (zH S).1 = 8 := fun x => e8 ((i3_inj (b := 8) (by omega) (by decide)).mp x)
  rw [if_neg e8n, if_neg e8n, show C1_in a2 0 12 = some (bI (inB a2 0 12)) from C1_in_eq (a := 0) (b := 12) a2 (by decide) (by decide), M_in0 a2 (y := 12) (b := 12) rfl (by decide), inB0, Option.bind_some, Option.bind_some, Option.bind_some]
  cases e2 : inR a2 (12 + 1)
  · rw [if_pos bI_f, if_pos bI_f, j1, j2]
    exact ⟨_, _, _, rfl, rfl, z3 _⟩
  obtain ⟨k2, hk2, rfl⟩ := inR_is e2
  clear z1 z2 z3 j1 j2
  rw [if_neg bI_t0, if_neg bI_t0]
  obtain ⟨k3, hk3, e3⟩ : ∃ k3, k3 ≤ 1 ∧ (if a3 = 0 then (0 : Int32) else 1) = i3 k3 := by
    by_cases q : a3 = 0
    · exact ⟨0, by decide, by rw [if_pos q]; rfl⟩
    · exact ⟨1, by decide, by rw [if_neg q]; rfl⟩
  have c3 : (if a3 = 0 then some (.inl 0) else some (.inl 1) : Option (Int32 ⊕ XT)) = some (.inl (i3 k3)) := by
    rw [← e3]
    split <;> rfl
  have d3 : (if a3 = 0 then some 0 else some 1 : Option Int32) = some (i3 k3) := by
    rw [← e3]
    split <;> rfl
  rw [c3, d3]
  have hl := (RC_o hp).2.2.1
  have hFR := RCp_FR hp
  obtain ⟨p1, u1, u2, u3⟩ := sI_new (h := hup h r.1 (.inl (0, 4, .inl (fun _ => 0)))) (a := r.1) hup_s (i := 0) (by decide) (i3 k0)
  obtain ⟨p2, u4, u5, u6⟩ := sI_new u2 (i := 1) (by decide) (i3 k1)
  obtain ⟨p3, u7, u8, u9⟩ := sI_new u5 (i := 2) (by decide) (i3 k2)
  obtain ⟨p4, v1, v2, v3⟩ := sI_new u8 (i := 3) (by decide) (i3 k3)
  have hb4 : ∀ q, q ≠ r.1 → p4 q = h q := fun q hq => by rw [v3 q hq, u9 q hq, u6 q hq, u3 q hq, hup_n hq]
  obtain ⟨f5, hp5, hl5, hr5⟩ := RC_rest (h1 := p4) (n1 := r.1 + 1) hp (fun q hq => hb4 q (by omega)) (fun q hq => by rw [hb4 q (by omega)]; exact hFR q (by omega)) (Nat.le_succ _)
  have hkK := RCp_K hp5
  have hel : ∀ i, i < (zH S).1 → okO p4 (eh i) = true := by
    intro i hi
    obtain ⟨g, q1, _⟩ := hp5.2.2.2.2.1.2 i hi
    rw [okO_of (hp5.2.1.1 _ _ q1)]
    exact okC_0
  obtain ⟨arr', p6, r6, w1, w2, w3, w4, w5, w6, w7, w8, w9, w10⟩ := C_add (r := (r.1 + 1, r.2.1 - 1, r.2.2 - 4)) (x := r.1) hp5.2.2.2.2.1.1 (by omega) (RCp_FR hp5) hkK.1 hkK.2.1 hkK.2.2.1 hel (by rw [okO_of v2]; exact okC_0) (hp5.2.2.2.2.2.2.1.2.2.1 17 15 (by decide) (by decide) (by decide)) (by dsimp only; omega) (by dsimp only; omega)
  dsimp only at w3 w7 w8 w9 w10
  have hrn : r.1 + 1 ≤ r6.1 := by rcases w3 with ⟨_, q, _⟩ | ⟨_, q⟩ <;> omega
  have hvv : WFH (zP S) (kpH (zH S) (fun j => if j = 0 then k0 else if j = 1 then k1 else if j = 2 then k2 else k3)) := by
    refine ⟨show (zH S).1 + 1 ≤ 8 by omega, fun i hi => ?_⟩
    have hi2 : i < (zH S).1 + 1 := hi
    unfold kpH
    dsimp only
    by_cases q : i = (zH S).1
    · rw [if_pos q]
      exact ⟨hk0, hk1, show k2 ≤ 12 by omega, hk3⟩
    · rw [if_neg q]
      exact hh2 i (by omega)
  have hp6 := RC_heard (x := kpH (zH S) (fun j => if j = 0 then k0 else if j = 1 then k1 else if j = 2 then k2 else k3)) (arr := arr') hp5 w2 (fun i hi => by
    have hi2 : i < (zH S).1 + 1 := hi
    unfold kpH
    dsimp only
    by_cases q : i = (zH S).1
    · rw [if_pos q, if_pos q]
      exact ⟨_, (hr5 _ (Nat.le_refl _)).trans v2, fun j hj => kpH_v j hj⟩
    · rw [if_neg q, if_neg q]
      exact hp5.2.2.2.2.1.2 i (by omega)) (by
    rcases w3 with ⟨q1, q2, q3⟩ | ⟨q1, q2⟩
    · exact .inl ⟨q1, q1 ▸ q3⟩
    · exact .inr ⟨by omega, by omega⟩) w5 hrn w6 (WFZ_hd hZ hvv)
  have hg6 : gR p6 o 1 9 = some (B 15) := gR_of (RC_o hp6).2.1 rfl
  have hz6 := C_siz w2
  rw [show aArr h r 0 4 = _ from aArr_of (n := 4) (by omega) (by omega) (by decide), Option.bind_some]
  dsimp only
  rw [show sI _ r.1 0 0 (i3 k0) = _ from u1, Option.bind_some, show sI p1 r.1 0 1 (i3 k1) = _ from u4, Option.bind_some, show sI p2 r.1 0 2 (i3 k2) = _ from u7, Option.bind_some, xg_l, show sI p3 r.1 0 3 (i3 k3) = _ from v1, Option.bind_some, w1, Option.bind_some]
  dsimp only
  rw [hg6, Option.bind_some, hz6, Option.bind_some]
  -- the reference
  have hast : ∀ (τ : MS) (j : Nat) (v : Int32), j < 4 → ast τ 52 (i3 (4 * (zH S).1 + j)) v = some (sa τ 52 (4 * (zH S).1 + j) v) := fun τ j v hj => ast_i3 (j := 52) (show 4 * (zH S).1 + j < 32 by omega)
  have hmf : ∀ (τ : MS) (q : Nat) (v : Int32), mf (sa τ 52 q v) 51 = mf τ 51 := fun _ _ _ => rfl
  rw [show (4 : Int32) * i3 (zH S).1 = i3 (4 * (zH S).1 + 0) from i3_mul 4 _, hast _ 0 _ (by decide), Option.bind_some, hmf, m51, show (4 : Int32) * i3 (zH S).1 + 1 = i3 (4 * (zH S).1 + 1) by rw [show (4 : Int32) = i3 4 from rfl, i3_mul]; exact i3_add _ 1, hast _ 1 _ (by decide), Option.bind_some, hmf, hmf, m51, show (4 : Int32) * i3 (zH S).1 + 2 = i3 (4 * (zH S).1 + 2) by rw [show (4 : Int32) = i3 4 from rfl, i3_mul]; exact i3_add _ 2, hast _ 2 _ (by decide), Option.bind_some, Option.bind_some, hmf, hmf, hmf, m51, show (4 : Int32) * i3 (zH S).1 + 3 = i3 (4 * (zH S).1 + 3) by rw [show (4 : Int32) = i3 4 from rfl, i3_mul]; exact i3_add _ 3, hast _ 3 _ (by decide), Option.bind_some, hmf, hmf, hmf, hmf, m51, i3_succ]
  generalize hτ : sa (sa (sa (sa s1 52 (4 * (zH S).1 + 0) (i3 k0)) 52 (4 * (zH S).1 + 1) (i3 k1)) 52 (4 * (zH S).1 + 2) (i3 k2)) 52 (4 * (zH S).1 + 3) (i3 k3) = τ
  have hτf : ∀ k, mf τ k = mf s1 k := by intro k; rw [← hτ]; rfl
  have hτa : ∀ j, j ≠ 52 → ma τ j = ma s1 j := by intro j hj; rw [← hτ, ma_sb hj, ma_sb hj, ma_sb hj, ma_sb hj]
  have hτ5 : ∀ i, ma τ 52 i = if i = 4 * (zH S).1 + 3 then i3 k3 else if i = 4 * (zH S).1 + 2 then i3 k2 else if i = 4 * (zH S).1 + 1 then i3 k1 else if i = 4 * (zH S).1 + 0 then i3 k0 else ma s1 52 i := by intro i; rw [← hτ, ma_saq, ma_saq, ma_saq, ma_saq]
  rw [show pf τ 51 (i3 ((zH S).1 + 1)) = some (sf τ 51 (i3 ((zH S).1 + 1))) from rfl, Option.bind_some]
  have e51 : mf (sf τ 51 (i3 ((zH S).1 + 1))) 51 = i3 ((zH S).1 + 1) := by unfold mf sf; dsimp only; rw [if_pos rfl]
  have hRM : RM (sf τ 51 (i3 ((zH S).1 + 1))) (wHD S (kpH (zH S) (fun j => if j = 0 then k0 else if j = 1 then k1 else if j = 2 then k2 else k3))) := by
    refine RM_heard hM1 (fun k q1 q2 => ?_) (fun j hj => hτa j hj) ⟨e51, fun i j hi hj => ?_⟩
    · unfold mf sf
      dsimp only
      rw [if_neg q2]
      exact hτf k
    · have hi2 : i < (zH S).1 + 1 := hi
      show ma τ 52 (4 * i + j) = _
      rw [hτ5]
      unfold kpH
      dsimp only
      by_cases q : i = (zH S).1
      · rw [if_pos q]
        have : j = 0 ∨ j = 1 ∨ j = 2 ∨ j = 3 := by omega
        rcases this with rfl | rfl | rfl | rfl
        · rw [if_neg (by omega), if_neg (by omega), if_neg (by omega), if_pos (by omega), if_pos rfl]
        · rw [if_neg (by omega), if_neg (by omega), if_pos (by omega), if_neg (by decide), if_pos rfl]
        · rw [if_neg (by omega), if_pos (by omega), if_neg (by decide), if_neg (by decide), if_pos rfl]
        · rw [if_pos (by omega), if_neg (by decide), if_neg (by decide), if_neg (by decide)]
      · rw [if_neg q, if_neg (by omega), if_neg (by omega), if_neg (by omega), if_neg (by omega)]
        exact m52 i j (by omega) hj
  rw [e51]
  refine ⟨_, _, _, rfl, rfl, JN_in ⟨f5, _, sT, aT, hT, seed, ea, _, hp6⟩ hRM ?_ (show 2300 * N + 100 * zt S ≤ r6.2.1 by omega) (show 90000 * N + 3000 * zt S ≤ r6.2.2 by omega) (by omega) (by omega)⟩
  unfold mf sf
  dsimp only
  rw [if_neg (by decide)]
  exact (hτf 0).trans h0
end FORGET
