/-! ===== operations that try days on the other service ===== -/
/-- two loops in step -/
theorem o_two {τ1 ρ1 τ2 ρ2 : Type} {step1 : τ1 → Option (τ1 ⊕ ρ1)} {step2 : τ2 → Option (τ2 ⊕ ρ2)} (P : Nat → τ1 → τ2 → Prop) (Q : ρ1 → ρ2 → Prop) (n : Nat)
    (hs : ∀ k t1 t2, k < n → P k t1 t2 → (∃ t1' t2', step1 t1 = some (.inl t1') ∧ step2 t2 = some (.inl t2') ∧ P (k + 1) t1' t2') ∨ ∃ r1 r2, step1 t1 = some (.inr r1) ∧ step2 t2 = some (.inr r2) ∧ Q r1 r2)
    (he : ∀ t1 t2, P n t1 t2 → ∃ r1 r2, step1 t1 = some (.inr r1) ∧ step2 t2 = some (.inr r2) ∧ Q r1 r2) : ∀ a t1 t2, a ≤ n → P a t1 t2 → ∃ r1 r2, o_loop step1 t1 = some r1 ∧ o_loop step2 t2 = some r2 ∧ Q r1 r2 := by
  intro a t1 t2 ha hP
  obtain ⟨d, hd⟩ : ∃ d, d = n - a := ⟨_, rfl⟩
  induction d generalizing a t1 t2 with
  | zero =>
    have : a = n := by omega
    subst this
    obtain ⟨r1, r2, h1, h2, h3⟩ := he t1 t2 hP
    exact ⟨r1, r2, by rw [o_loop_eq, h1]; rfl, by rw [o_loop_eq, h2]; rfl, h3⟩
  | succ d ih =>
    rcases hs a t1 t2 (by omega) hP with ⟨t1', t2', h1, h2, h3⟩ | ⟨r1, r2, h1, h2, h3⟩
    · obtain ⟨r1, r2, h4, h5, h6⟩ := ih (a + 1) t1' t2' (by omega) h3 (by omega)
      exact ⟨r1, r2, by rw [o_loop_eq, h1]; exact h4, by rw [o_loop_eq, h2]; exact h5, h6⟩
    · exact ⟨r1, r2, by rw [o_loop_eq, h1]; rfl, by rw [o_loop_eq, h2]; rfl, h3⟩
def TP (K : Nat → Nat) (h : CH) (o : Nat) (f : CH) (P : PO) (B : Nat → Nat) (s1 : MS) (w : SV) (k : Nat) (h' : CH) (σ' : MS) : Prop :=
  CSV K h' o (B 18) (B 1) f P (B 7) (fun i => B (8 + i)) w ∧ hX (sX6 (B 1) (B 7) (fun i => B (8 + i))) h h' ∧ MV σ' 34 P w ∧ Fx 34 s1 σ' ∧ w 0 ≤ 999 + k
section TRY
variable {K : Nat → Nat} {h h' : CH} {r : CR} {o n N k : Nat} {S : ST} {f : CH} {B : Nat → Nat} {sT aT hT : Option Nat} {seed : Int32} {ea eh : Nat → Nat} {s1 σ' : MS} {a : Bool} {c : Int32} {w : SV}
theorem TP_be (hp : RCp K h n o S f B sT aT hT seed ea eh) (mv : MV s1 0 (zP S) (zw S)) : ∃ h1 σ1, gR h o 1 3 = some (B 7) ∧ (∀ {α : Type} (x : Option α), vc h (B 7) 3 x = x) ∧ C3_be h (B 7) (B 2) = some (B 7, h1) ∧ M_tries s1 = some σ1 ∧ TP K h o f (zP S) B s1 (zw S) 0 h1 σ1 := by
  obtain ⟨h1, e1, e2, e3, e4, e5⟩ := RC_be hp
  obtain ⟨σ1, g1, g2, g3⟩ := M_tries_eq mv
  exact ⟨h1, σ1, e1, fun x => by unfold vc; rw [if_pos e2], e3, g1, e4, e5, g3, g2, (RCp_Z hp).2.1.2⟩
theorem TP_pass (ht : TP K h o f (zP S) B s1 w k h' σ') (hk : k ≤ 200) : ∃ h2 σ2, (vc h' (B 7) 3 (C3_pass K h' (B 7))) = some (B 7, h2) ∧ M_dayGoes σ' 34 = some σ2 ∧ TP K h o f (zP S) B s1 (pas (zP S) w) (k + 1) h2 σ2 := by
  obtain ⟨t1, t2, t3, t4, t5⟩ := ht
  obtain ⟨h2, e1, e2, e3⟩ := C3_pass_eq t1 (by omega)
  obtain ⟨σ2, g1, g2, g3⟩ := m3_day t3 (by omega)
  exact ⟨h2, σ2, by rw [sv_vc t1, e1], g1, e2, hX_trans t2 e3, g3, Fx_trans t4 g2, by rw [pas_0]; omega⟩
theorem TP_aft (ht : TP K h o f (zP S) B s1 w k h' σ') {m : Nat} (hk : k ≤ 200) (hm : m ≤ 100) : ∃ h2 σ2, (vc h' (B 7) 3 (C3_after K h' (B 7) (i3 m))) = some (B 7, h2) ∧ M_daysGo σ' (i3 m) = some σ2 ∧ TP K h o f (zP S) B s1 (aft (zP S) m w) (k + m) h2 σ2 := by
  obtain ⟨t1, t2, t3, t4, t5⟩ := ht
  obtain ⟨h2, e1, e2, e3⟩ := C3_after_eq t1 (n := m) (by omega) (by omega)
  obtain ⟨σ2, g1, g2, g3⟩ := M_daysGo_eq t3 (n := m) (by omega) (by omega)
  exact ⟨h2, σ2, by rw [sv_vc t1, e1], g1, e2, hX_trans t2 e3, g3, Fx_trans t4 g2, by rw [aft_0]; omega⟩
theorem TP_later (hp : RCp K h n o S f B sT aT hT seed ea eh) (mv : MV s1 0 (zP S) (zw S)) {m : Nat} (hm : m ≤ 100) : ∃ h2 σ2, C1_later K h o (i3 m) = some (B 7, h2) ∧ M_goesTo s1 (i3 m) = some σ2 ∧ TP K h o f (zP S) B s1 (aft (zP S) m (zw S)) m h2 σ2 := by
  have hd := (RCp_Z hp).2.1.2
  obtain ⟨h2, e1, e2, e3⟩ := C1_later_eq hp hm
  obtain ⟨σ2, g1, g2, g3⟩ := M_goesTo_eq mv (n := m) (by omega) (by omega)
  exact ⟨h2, σ2, e1, g1, e2, e3, g3, g2, by rw [aft_0]; omega⟩
theorem TP_R (hp : RCp K h n o S f B sT aT hT seed ea eh) (ht : TP K h o f (zP S) B s1 w k h' σ') : RCp K h' n o S f B sT aT hT seed ea eh := RC_tx hp ht.1 ht.2.1
theorem TP_3 (hp : RCp K h n o S f B sT aT hT seed ea eh) (ht : TP K h o f (zP S) B s1 w k h' σ') : gR h' o 1 3 = some (B 7) := tr_3 hp ht.1 ht.2.1
theorem TP_2 (hp : RCp K h n o S f B sT aT hT seed ea eh) (ht : TP K h o f (zP S) B s1 w k h' σ') : gR h' o 1 2 = some (B 2) := (RD_of (TP_R hp ht)).2.1
theorem JN_try {x : Int32} (hp : RCp K h r.1 o S f B sT aT hT seed ea eh) (hM : RM s1 S) (h0 : mf s1 0 = 0) (hr1 : 2300 * (N + 1) + 100 * zt S ≤ r.2.1) (hr2 : 90000 * (N + 1) + 3000 * zt S ≤ r.2.2) (hc : ∃ w, CSV K h' o (B 18) (B 1) f (zP S) (B 7) (fun i => B (8 + i)) w) (hx : hX (sX6 (B 1) (B 7) (fun i => B (8 + i))) h h') (hF : Fx 34 s1 σ') : JN K o r N a c (.inl (x, (h', r))) x σ' := by
  obtain ⟨w, hc⟩ := hc
  exact JN_in ⟨f, B, sT, aT, hT, seed, ea, eh, RC_tx hp hc hx⟩ (RM_gx (RCp_Z hp) (Gx_fx hF) hM) ((mf_fx hF 0).trans h0) (by omega) (by omega) (Nat.le_refl _) (Nat.le_refl _)
end TRY
section OPS2
theorem bI_f1 : ¬ bI false = 1 := by decide
variable {K : Nat → Nat} {h : CH} {r : CR} {o N : Nat} {σ : MS}

theorem op_then (hS : RS K o (h, r) σ (N + 1)) (a0 a1 a2 : Int32) : ∃ z v σ', C1_then K h r o a0 a1 a2 = some z ∧ M_then σ a0 a1 a2 = some (v, σ') ∧ JN K o r N true 2 z v σ' := by
  obtain ⟨S, ⟨f, B, sT, aT, hT, seed, ea, eh, hp⟩, hM, hr1, hr2⟩ := hS
  dsimp only at hp hr1 hr2
  have hZ := RCp_Z hp
  obtain ⟨hv, hs, ht, hF, hacts, hheard, hrf⟩ := RD_of hp
  have hM1 : RM (sf σ 0 0) S := RM_gx hZ (Gx_sf (.inl rfl)) hM
  have h0 : mf (sf σ 0 0) 0 = 0 := mf_sf0
  unfold C1_then M_then
  rw [show pf σ 0 0 = some (sf σ 0 0) from rfl, Option.bind_some]
  generalize sf σ 0 0 = s1 at hM1 h0
  have mv := RM_MV hZ hM1
  have hN := hZ.1.1
  have hMM := hZ.1.2.1
  have hQ := hZ.1.2.2.1
  cases e0 : inR a0 (pM (zP S))
  · rw [aC_no hv.1 e0 (by omega) (by omega), xg_r, mC_no mv.2.1 mv.1 h0 e0, Option.bind_some, if_pos (show ((0 : Int32), sf s1 0 1).1 = 0 from rfl)]
    exact ⟨_, _, _, rfl, rfl, JN_thr hp hM1 hr1 hr2 (.inl ⟨rfl, rfl, rfl⟩)⟩
  rw [aC_ok hv.1 e0, xg_l, mC_ok mv.2.1 mv.1 h0 e0, Option.bind_some, if_neg (show ¬ ((1 : Int32), s1).1 = 0 from i_ne10)]
  dsimp only
  obtain ⟨k0, hk0, rfl⟩ := inR_is e0
  cases e1 : inR a2 (1 + 1)
  · rw [aO_no (y := 1) (m := 1) rfl (by decide) e1 (by omega) (by omega), xg_r, mO_no (y := 1) (m := 1) rfl (by decide) h0 e1, Option.bind_some, if_pos (show ((0 : Int32), sf s1 0 1).1 = 0 from rfl)]
    exact ⟨_, _, _, rfl, rfl, JN_thr hp hM1 hr1 hr2 (.inl ⟨rfl, rfl, rfl⟩)⟩
  rw [aO_ok (y := 1) (m := 1) rfl (by decide) e1, xg_l, mO_ok (y := 1) (m := 1) rfl (by decide) h0 e1, Option.bind_some, if_neg (show ¬ ((1 : Int32), s1).1 = 0 from i_ne10)]
  dsimp only
  obtain ⟨k2, hk2, rfl⟩ := inR_is e1
  rw [show C1_in a1 0 40 = some (bI (inB a1 0 40)) from C1_in_eq (a := 0) (b := 40) a1 (by decide) (by decide), Option.bind_some]
  cases e2 : inB a1 0 40
  · rw [rg_no (by omega) (by omega), xg_r, mD_no (y := 0) (m := 0) (c := 2) rfl (by decide) h0 (by decide) e2, Option.bind_some, if_pos (show ((0 : Int32), sf s1 0 2).1 = 0 from rfl)]
    exact ⟨_, _, _, rfl, rfl, JN_thr hp hM1 hr1 hr2 (.inr ⟨rfl, by decide, rfl⟩)⟩
  rw [rg_ok, xg_l, mD_ok (y := 0) (m := 0) (c := 2) rfl (by decide) h0 e2, Option.bind_some, if_neg (show ¬ ((1 : Int32), s1).1 = 0 from i_ne10)]
  dsimp only
  obtain ⟨k1, hk1l, hk1, rfl⟩ := inB_is e2
  obtain ⟨h2, s2, l1, l2, ht⟩ := TP_later hp mv (m := k1) (by omega)
  obtain ⟨t1, t2, t3, t4, t5⟩ := ht
  rw [cx_vc hv.1, l1, l2]
  simp only [Option.bind_some]
  have hcs : k2 = 0 ∨ k2 = 1 := by omega
  rcases hcs with rfl | rfl
  · rw [if_pos (show i3 0 = 0 from rfl), if_pos (show i3 0 = 0 from rfl), sv_vc t1, C3_town_eq t1 hk0, m3_clk t3 hk0]
    simp only [Option.bind_some]
    exact ⟨_, _, _, rfl, rfl, JN_try hp hM1 h0 hr1 hr2 ⟨_, t1⟩ t2 t4⟩
  · rw [if_neg (show ¬ i3 1 = 0 by decide), if_neg (show ¬ i3 1 = 0 by decide), sv_3 t1, m3_28 t3 hk0]
    simp only [Option.bind_some, sv_K t1 hk0]
    exact ⟨_, _, _, rfl, rfl, JN_try hp hM1 h0 hr1 hr2 ⟨_, t1⟩ t2 t4⟩
theorem op_where (hS : RS K o (h, r) σ (N + 1)) (a0 a1 : Int32) : ∃ z v σ', C1_where K h r o a0 a1 = some z ∧ M_where σ a0 a1 = some (v, σ') ∧ JN K o r N true 2 z v σ' := by
  obtain ⟨S, ⟨f, B, sT, aT, hT, seed, ea, eh, hp⟩, hM, hr1, hr2⟩ := hS
  dsimp only at hp hr1 hr2
  have hZ := RCp_Z hp
  obtain ⟨hv, hs, ht, hF, hacts, hheard, hrf⟩ := RD_of hp
  have hM1 : RM (sf σ 0 0) S := RM_gx hZ (Gx_sf (.inl rfl)) hM
  have h0 : mf (sf σ 0 0) 0 = 0 := mf_sf0
  unfold C1_where M_where
  rw [show pf σ 0 0 = some (sf σ 0 0) from rfl, Option.bind_some]
  generalize sf σ 0 0 = s1 at hM1 h0
  have mv := RM_MV hZ hM1
  have hN := hZ.1.1
  have hMM := hZ.1.2.1
  have hQ := hZ.1.2.2.1
  cases e0 : inR a0 (pN (zP S))
  · rw [aS_no hv.1 e0 (by omega) (by omega), xg_r, mS_no mv.2.1 mv.1 h0 e0, Option.bind_some, if_pos (show ((0 : Int32), sf s1 0 1).1 = 0 from rfl)]
    exact ⟨_, _, _, rfl, rfl, JN_thr hp hM1 hr1 hr2 (.inl ⟨rfl, rfl, rfl⟩)⟩
  rw [aS_ok hv.1 e0, xg_l, mS_ok mv.2.1 mv.1 h0 e0, Option.bind_some, if_neg (show ¬ ((1 : Int32), s1).1 = 0 from i_ne10)]
  dsimp only
  obtain ⟨k0, hk0, rfl⟩ := inR_is e0
  rw [show C1_in a1 0 40 = some (bI (inB a1 0 40)) from C1_in_eq (a := 0) (b := 40) a1 (by decide) (by decide), Option.bind_some]
  cases e1 : inB a1 0 40
  · rw [rg_no (by omega) (by omega), xg_r, mD_no (y := 0) (m := 0) (c := 2) rfl (by decide) h0 (by decide) e1, Option.bind_some, if_pos (show ((0 : Int32), sf s1 0 2).1 = 0 from rfl)]
    exact ⟨_, _, _, rfl, rfl, JN_thr hp hM1 hr1 hr2 (.inr ⟨rfl, by decide, rfl⟩)⟩
  rw [rg_ok, xg_l, mD_ok (y := 0) (m := 0) (c := 2) rfl (by decide) h0 e1, Option.bind_some, if_neg (show ¬ ((1 : Int32), s1).1 = 0 from i_ne10)]
  dsimp only
  obtain ⟨k1, hk1l, hk1, rfl⟩ := inB_is e1
  obtain ⟨h2, s2, l1, l2, ht⟩ := TP_later hp mv (m := k1) (by omega)
  have hg3 := TP_3 hp ht
  obtain ⟨t1, t2, t3, t4, t5⟩ := ht
  rw [cx_vc hv.1, l1, l2]
  simp only [Option.bind_some]
  rw [sv_vc t1, C3_where_eq t1 hk0, m3_in t3 hk0]
  simp only [Option.bind_some]
  exact ⟨_, _, _, rfl, rfl, JN_try hp hM1 h0 hr1 hr2 ⟨_, t1⟩ t2 t4⟩
/-- when one knows a word first -/
theorem KN_loop {S : ST} {f : CH} {B : Nat → Nat} {sT aT hT : Option Nat} {seed : Int32} {ea eh : Nat → Nat} {s1 σ1 : MS} {h1 : CH} (hp : RCp K h r.1 o S f B sT aT hT seed ea eh) {k0 k1 : Nat} (hk0 : k0 < pM (zP S)) (hk1 : k1 < pQ' (zP S)) (ht : TP K h o f (zP S) B s1 (zw S) 0 h1 σ1) : ∃ (r1 : Int32 × CH) (r2 : Int32 × MS), o_loop (C1_knows_L15 K o (i3 k0) (i3 k1) 0) (0, h1) = some r1 ∧ o_loop (M_first_L29 (i3 k0) (i3 k1)) (0, σ1) = some r2 ∧ r1.1 = r2.1 ∧ ∃ w k, TP K h o f (zP S) B s1 w k r1.2 r2.2 := by
  have hZ := RCp_Z hp
  have hN := hZ.1.1
  have hM := hZ.1.2.1
  have hQ := hZ.1.2.2.1
  refine o_two (fun k (t1 : Int32 × CH) (t2 : Int32 × MS) => t1.1 = i3 k ∧ t2.1 = i3 k ∧ ∃ w, TP K h o f (zP S) B s1 w k t1.2 t2.2) (fun (r1 : Int32 × CH) (r2 : Int32 × MS) => r1.1 = r2.1 ∧ ∃ w k, TP K h o f (zP S) B s1 w k r1.2 r2.2) 41 (fun k t1 t2 hk hI => ?_) (fun t1 t2 hI => ?_) 0 _ _ (Nat.zero_le _) ⟨rfl, rfl, _, ht⟩
  · obtain ⟨x1, y1⟩ := t1
    obtain ⟨x2, y2⟩ := t2
    obtain ⟨rfl, rfl, w, hT⟩ := hI
    dsimp only at hT
    have hw := hT.2.2.1.2.2.2.1.2.2.2.1 k0 hk0
    have g3 := TP_3 hp hT
    unfold C1_knows_L15 M_first_L29
    dsimp only
    rw [if_pos ((i3_lel (c := 40) (n := 40) rfl (by omega) (by decide)).mpr (by omega)), if_pos ((i3_lel (c := 40) (n := 40) rfl (by omega) (by decide)).mpr (by omega)), g3, m3_28 hT.2.2.1 hk0]
    simp only [Option.bind_some, sv_3 hT.1, sv_K hT.1 hk0, C1_isOf_eq (p2 (b := 31) hw (by decide)) (show k1 < 32 by omega), i3_bitB (p2 (b := 31) hw (by decide)) (show k1 < 32 by omega), i3_succ]
    cases e : (w (28 + k0)).testBit k1
    · rw [if_pos bI_f, if_neg bI_f1, if_pos trivial]
      simp only [Option.bind_some, g3]
      obtain ⟨h2, σ2, e1, e2, e3⟩ := TP_pass hT (by omega)
      rw [e1, e2]
      simp only [Option.bind_some]
      exact .inl ⟨_, _, rfl, rfl, rfl, rfl, _, e3⟩
    · rw [if_neg bI_t0, if_pos bI_t]
      exact .inr ⟨_, _, rfl, rfl, rfl, w, k, hT⟩
  · obtain ⟨x1, y1⟩ := t1
    obtain ⟨x2, y2⟩ := t2
    obtain ⟨rfl, rfl, w, hT⟩ := hI
    unfold C1_knows_L15 M_first_L29
    dsimp only
    rw [if_neg (by decide), if_neg (by decide)]
    exact ⟨_, _, rfl, rfl, rfl, w, 41, hT⟩
theorem TP_talk {S : ST} {f : CH} {B : Nat → Nat} {s1 σ' : MS} {h' : CH} {w : SV} {k : Nat} (ht : TP K h o f (zP S) B s1 w k h' σ') : ∃ h2 σ2, vc h' (B 7) 3 (C3_talk h' (B 7)) = some (B 7, h2) ∧ o_loop M_chain_L57 (0, σ') = some σ2 ∧ TP K h o f (zP S) B s1 (tlk (zP S) w) k h2 σ2 := by
  obtain ⟨t1, t2, t3, t4, t5⟩ := ht
  have hM := t3.1.2.1
  obtain ⟨h2, e1, e2, e3⟩ := C3_talk_eq t1
  obtain ⟨σ2, g1, g2, g3⟩ : ∃ r, o_loop M_chain_L57 (0, σ') = some r ∧ Fx 34 σ' r ∧ MV r 34 (zP S) (tlk (zP S) w) := by
    refine o_inv0 (fun j (t : Int32 × MS) => t.1 = i3 j ∧ Fx 34 σ' t.2 ∧ MV t.2 34 (zP S) (itf (fun t u => lrn (zP S) u (clI (zP S) u t) (knw (zP S) u (clI (zP S) u t))) j w)) (fun r => Fx 34 σ' r ∧ MV r 34 (zP S) (tlk (zP S) w)) 4 (fun j t hj hI => ?_) (fun t hI => ?_) _ ⟨rfl, Fx_refl 34 σ', t3⟩
    · obtain ⟨x1, y1⟩ := t
      obtain ⟨rfl, hF, hV⟩ := hI
      dsimp only at hF hV
      unfold M_chain_L57
      dsimp only
      show ∃ t' : Int32 × MS, _ ∧ t'.1 = _ ∧ Fx 34 σ' t'.2 ∧ MV t'.2 34 (zP S) (lrn (zP S) (itf (fun t u => lrn (zP S) u (clI (zP S) u t) (knw (zP S) u (clI (zP S) u t))) j w) (clI (zP S) (itf (fun t u => lrn (zP S) u (clI (zP S) u t) (knw (zP S) u (clI (zP S) u t))) j w) j) (knw (zP S) (itf (fun t u => lrn (zP S) u (clI (zP S) u t) (knw (zP S) u (clI (zP S) u t))) j w) (clI (zP S) (itf (fun t u => lrn (zP S) u (clI (zP S) u t) (knw (zP S) u (clI (zP S) u t))) j w) j)))
      generalize itf (fun t u => lrn (zP S) u (clI (zP S) u t) (knw (zP S) u (clI (zP S) u t))) j w = u at hV
      have hc := p2 (b := 31) (clI_lt (zP S) u j) (by omega)
      have hkn := knw_lt hV.2.2.2.1 (clI (zP S) u j)
      rw [if_pos ((i3_ltl (c := 4) (n := 4) rfl (by omega) (by decide)).mpr hj), m3_clks hV (by omega)]
      simp only [Option.bind_some, m3_known hV hc, i3_succ]
      obtain ⟨q1, q2, q3, q4⟩ := m3_learns hV hc hkn
      rw [q2]
      simp only [Option.bind_some]
      exact ⟨_, rfl, rfl, Fx_trans hF q3, q4⟩
    · obtain ⟨x1, y1⟩ := t
      obtain ⟨rfl, hF, hV⟩ := hI
      unfold M_chain_L57
      dsimp only
      rw [if_neg (by decide)]
      exact ⟨_, rfl, hF, hV⟩
  have t50 : tlk (zP S) w 0 = w 0 := by
    unfold tlk
    refine itf_inv (fun a => a 0 = w 0) 4 (fun k a _ ha => ?_) 4 (Nat.le_refl _) w rfl
    show lrn _ _ _ _ 0 = _
    unfold lrn
    rw [if_neg (by omega)]
    exact ha
  exact ⟨h2, σ2, by rw [sv_vc t1, e1], g1, e2, hX_trans t2 e3, g3, Fx_trans t4 g2, by rw [t50]; exact t5⟩
theorem KC_loop {S : ST} {f : CH} {B : Nat → Nat} {sT aT hT : Option Nat} {seed : Int32} {ea eh : Nat → Nat} {s1 σ1 : MS} {h1 : CH} (hp : RCp K h r.1 o S f B sT aT hT seed ea eh) {k0 k1 : Nat} (hk0 : k0 < pM (zP S)) (hk1 : k1 < pQ' (zP S)) (ht : TP K h o f (zP S) B s1 (zw S) 0 h1 σ1) : ∃ (r1 : Int32 × CH) (r2 : Int32 × MS), o_loop (C1_knows_L15 K o (i3 k0) (i3 k1) 1) (0, h1) = some r1 ∧ o_loop (M_chain_L29 (i3 k0) (i3 k1)) (0, σ1) = some r2 ∧ r1.1 = r2.1 ∧ ∃ w k, TP K h o f (zP S) B s1 w k r1.2 r2.2 := by
  have hZ := RCp_Z hp
  have hN := hZ.1.1
  have hM := hZ.1.2.1
  have hQ := hZ.1.2.2.1
  refine o_two (fun k (t1 : Int32 × CH) (t2 : Int32 × MS) => t1.1 = i3 k ∧ t2.1 = i3 k ∧ ∃ w, TP K h o f (zP S) B s1 w k t1.2 t2.2) (fun (r1 : Int32 × CH) (r2 : Int32 × MS) => r1.1 = r2.1 ∧ ∃ w k, TP K h o f (zP S) B s1 w k r1.2 r2.2) 41 (fun k t1 t2 hk hI => ?_) (fun t1 t2 hI => ?_) 0 _ _ (Nat.zero_le _) ⟨rfl, rfl, _, ht⟩
  · obtain ⟨x1, y1⟩ := t1
    obtain ⟨x2, y2⟩ := t2
    obtain ⟨rfl, rfl, w, hT⟩ := hI
    dsimp only at hT
    have hw := hT.2.2.1.2.2.2.1.2.2.2.1 k0 hk0
    have g3 := TP_3 hp hT
    unfold C1_knows_L15 M_chain_L29
    dsimp only
    rw [if_pos ((i3_lel (c := 40) (n := 40) rfl (by omega) (by decide)).mpr (by omega)), if_pos ((i3_lel (c := 40) (n := 40) rfl (by omega) (by decide)).mpr (by omega)), g3, m3_28 hT.2.2.1 hk0]
    simp only [Option.bind_some, sv_3 hT.1, sv_K hT.1 hk0, C1_isOf_eq (p2 (b := 31) hw (by decide)) (show k1 < 32 by omega), i3_bitB (p2 (b := 31) hw (by decide)) (show k1 < 32 by omega), i3_succ]
    cases e : (w (28 + k0)).testBit k1
    · rw [if_pos bI_f, if_neg bI_f1, if_neg (show ¬ (1 : Int32) = 0 by decide)]
      obtain ⟨h5, σ5, e5, e6, e7⟩ := TP_talk hT
      have g5 := TP_3 hp e7
      rw [e5, e6]
      simp only [Option.bind_some, g5]
      obtain ⟨h2, σ2, e1, e2, e3⟩ := TP_pass e7 (by omega)
      rw [e1, e2]
      simp only [Option.bind_some]
      exact .inl ⟨_, _, rfl, rfl, rfl, rfl, _, e3⟩
    · rw [if_neg bI_t0, if_pos bI_t]
      exact .inr ⟨_, _, rfl, rfl, rfl, w, k, hT⟩
  · obtain ⟨x1, y1⟩ := t1
    obtain ⟨x2, y2⟩ := t2
    obtain ⟨rfl, rfl, w, hT⟩ := hI
    unfold C1_knows_L15 M_chain_L29
    dsimp only
    rw [if_neg (by decide), if_neg (by decide)]
    exact ⟨_, _, rfl, rfl, rfl, w, 41, hT⟩
theorem op_first (hS : RS K o (h, r) σ (N + 1)) (a0 a1 : Int32) : ∃ z v σ', C1_first K h r o a0 a1 = some z ∧ M_first σ a0 a1 = some (v, σ') ∧ JN K o r N true 0 z v σ' := by
  obtain ⟨S, ⟨f, B, sT, aT, hT, seed, ea, eh, hp⟩, hM, hr1, hr2⟩ := hS
  dsimp only at hp hr1 hr2
  have hZ := RCp_Z hp
  obtain ⟨hv, hs, ht, hF, hacts, hheard, hrf⟩ := RD_of hp
  have hM1 : RM (sf σ 0 0) S := RM_gx hZ (Gx_sf (.inl rfl)) hM
  have h0 : mf (sf σ 0 0) 0 = 0 := mf_sf0
  unfold C1_first M_first
  rw [show pf σ 0 0 = some (sf σ 0 0) from rfl, Option.bind_some]
  generalize sf σ 0 0 = s1 at hM1 h0
  have mv := RM_MV hZ hM1
  have hN := hZ.1.1
  have hMM := hZ.1.2.1
  have hQ := hZ.1.2.2.1
  cases e0 : inR a0 (pM (zP S))
  · rw [aC_no hv.1 e0 (by omega) (by omega), xg_r, mC_no mv.2.1 mv.1 h0 e0, Option.bind_some, if_pos (show ((0 : Int32), sf s1 0 1).1 = 0 from rfl)]
    exact ⟨_, _, _, rfl, rfl, JN_thr hp hM1 hr1 hr2 (.inl ⟨rfl, rfl, rfl⟩)⟩
  rw [aC_ok hv.1 e0, xg_l, mC_ok mv.2.1 mv.1 h0 e0, Option.bind_some, if_neg (show ¬ ((1 : Int32), s1).1 = 0 from i_ne10)]
  dsimp only
  obtain ⟨k0, hk0, rfl⟩ := inR_is e0
  cases e1 : inR a1 (pQ' (zP S))
  · rw [aW_no hv.1 e1 (by omega) (by omega), xg_r, mW_no mv.2.1 mv.1 h0 e1, Option.bind_some, if_pos (show ((0 : Int32), sf s1 0 1).1 = 0 from rfl)]
    exact ⟨_, _, _, rfl, rfl, JN_thr hp hM1 hr1 hr2 (.inl ⟨rfl, rfl, rfl⟩)⟩
  rw [aW_ok hv.1 e1, xg_l, mW_ok mv.2.1 mv.1 h0 e1, Option.bind_some, if_neg (show ¬ ((1 : Int32), s1).1 = 0 from i_ne10)]
  dsimp only
  obtain ⟨k1, hk1, rfl⟩ := inR_is e1
  obtain ⟨h1, σ1, b1, b2, b3, b4, ht⟩ := TP_be hp mv
  obtain ⟨q1, q2, l1, l2, l3, w, k, hT⟩ := KN_loop (r := r) hp hk0 hk1 ht
  unfold C1_knows
  rw [cx_vc hv.1, b1, hs, b4]
  simp only [Option.bind_some, b2, b3, l1, l2]
  obtain ⟨x1, y1⟩ := q1
  obtain ⟨x2, y2⟩ := q2
  dsimp only at l3 hT
  subst l3
  obtain ⟨t1, t2, t3, t4, t5⟩ := hT
  exact ⟨_, _, _, rfl, rfl, JN_try hp hM1 h0 hr1 hr2 ⟨_, t1⟩ t2 t4⟩
theorem op_chain (hS : RS K o (h, r) σ (N + 1)) (a0 a1 : Int32) : ∃ z v σ', C1_chain K h r o a0 a1 = some z ∧ M_chain σ a0 a1 = some (v, σ') ∧ JN K o r N true 0 z v σ' := by
  obtain ⟨S, ⟨f, B, sT, aT, hT, seed, ea, eh, hp⟩, hM, hr1, hr2⟩ := hS
  dsimp only at hp hr1 hr2
  have hZ := RCp_Z hp
  obtain ⟨hv, hs, ht, hF, hacts, hheard, hrf⟩ := RD_of hp
  have hM1 : RM (sf σ 0 0) S := RM_gx hZ (Gx_sf (.inl rfl)) hM
  have h0 : mf (sf σ 0 0) 0 = 0 := mf_sf0
  unfold C1_chain M_chain
  rw [show pf σ 0 0 = some (sf σ 0 0) from rfl, Option.bind_some]
  generalize sf σ 0 0 = s1 at hM1 h0
  have mv := RM_MV hZ hM1
  have hN := hZ.1.1
  have hMM := hZ.1.2.1
  have hQ := hZ.1.2.2.1
  cases e0 : inR a0 (pM (zP S))
  · rw [aC_no hv.1 e0 (by omega) (by omega), xg_r, mC_no mv.2.1 mv.1 h0 e0, Option.bind_some, if_pos (show ((0 : Int32), sf s1 0 1).1 = 0 from rfl)]
    exact ⟨_, _, _, rfl, rfl, JN_thr hp hM1 hr1 hr2 (.inl ⟨rfl, rfl, rfl⟩)⟩
  rw [aC_ok hv.1 e0, xg_l, mC_ok mv.2.1 mv.1 h0 e0, Option.bind_some, if_neg (show ¬ ((1 : Int32), s1).1 = 0 from i_ne10)]
  dsimp only
  obtain ⟨k0, hk0, rfl⟩ := inR_is e0
  cases e1 : inR a1 (pQ' (zP S))
  · rw [aW_no hv.1 e1 (by omega) (by omega), xg_r, mW_no mv.2.1 mv.1 h0 e1, Option.bind_some, if_pos (show ((0 : Int32), sf s1 0 1).1 = 0 from rfl)]
    exact ⟨_, _, _, rfl, rfl, JN_thr hp hM1 hr1 hr2 (.inl ⟨rfl, rfl, rfl⟩)⟩
  rw [aW_ok hv.1 e1, xg_l, mW_ok mv.2.1 mv.1 h0 e1, Option.bind_some, if_neg (show ¬ ((1 : Int32), s1).1 = 0 from i_ne10)]
  dsimp only
  obtain ⟨k1, hk1, rfl⟩ := inR_is e1
  obtain ⟨h1, σ1, b1, b2, b3, b4, ht⟩ := TP_be hp mv
  obtain ⟨q1, q2, l1, l2, l3, w, k, hT⟩ := KC_loop (r := r) hp hk0 hk1 ht
  unfold C1_knows
  rw [cx_vc hv.1, b1, hs, b4]
  simp only [Option.bind_some, b2, b3, l1, l2]
  obtain ⟨x1, y1⟩ := q1
  obtain ⟨x2, y2⟩ := q2
  dsimp only at l3 hT
  subst l3
  obtain ⟨t1, t2, t3, t4, t5⟩ := hT
  exact ⟨_, _, _, rfl, rfl, JN_try hp hM1 h0 hr1 hr2 ⟨_, t1⟩ t2 t4⟩
end OPS2
