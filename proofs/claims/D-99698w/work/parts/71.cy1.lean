noncomputable def C1_mould_L19 (K : Nat → Nat) (o : Nat) (a0 : Int32) (t5 : Int32 × CS) : Option ((Int32 × CS) ⊕ ((Int32 × CS) ⊕ XT)) :=
  if t5.1 ≤ 40 then
    ((gR t5.2.1 o 1 3).bind fun v8 =>
    (vc t5.2.1 v8 3 (C3_pass K t5.2.1 v8)).bind fun q9 =>
    (gR q9.2 q9.1 3 1).bind fun v10 =>
    (aI q9.2 v10 0 a0).bind fun v11 =>
    (gR q9.2 o 1 2).bind fun v12 =>
    (gR q9.2 v12 3 1).bind fun v13 =>
    (aI q9.2 v13 0 a0).bind fun v14 =>
    if v11 = v14 then
      (some (.inl ((t5.1 + 1), (q9.2, t5.2.2))))
    else
      (some (.inr (.inl (t5.1, (q9.2, t5.2.2))))))
  else
    (some (.inr (.inl ((-1), t5.2))))
noncomputable def C1_mould (K : Nat → Nat) (h : CH) (r : CR) (o : Nat) (a0 : Int32) : Option ((Int32 × CS) ⊕ XT) :=
  xg Sum.inr (vc h o 1 (xchv r (C1_aSheet h r o a0))) fun q1 =>
  (gR q1.1 o 1 3).bind fun v2 =>
  (gR q1.1 o 1 2).bind fun v3 =>
  (vc q1.1 v2 3 (C3_be q1.1 v2 v3)).bind fun q4 =>
  o_loop (C1_mould_L19 K o a0) (1, (q4.2, q1.2))
theorem nm_X1_mould : kNm yX1_mould RX1 1 := by unfold kNm; decide +kernel
set_option maxHeartbeats 4000000 in
set_option maxRecDepth 100000 in
theorem wC1_mould (l : Launch) (hT : l.stackTraces = false) (γ : KG) (hO : kOK γ) (h : CH) (r : CR) (o : Nat) (a0 : Int32) (z : (Int32 × CS) ⊕ XT) (hz : C1_mould γ.2.2.2.2.2 h r o a0 = some z) : xMet l yX1_mould (ws_ yX1_mould cX1_mould 3 (some .int)) 813 20368 γ (h, r) [.ref o, .int a0] (xI z) := by
  refine x_start (cc := cX1_mould) (own := RX1) hO rfl rfl rfl (fun p e R s m args below meth c Q ls X hR hnm h0H hA hl hend hthr hdir => ?_)
  have hx := X.1.1
  have hb := X.1.2.1
  have hit := hz
  clear hz
  unfold C1_mould at hit
  have hl : lv_has ls 3 [(0, .ref o), (1, .int a0)] := hl
  refine lv_aload_n hx hb dX1_mould_0 rfl (lv_at hl 0 rfl) ?_
  refine lv_iload_n hx hb dX1_mould_1 rfl (lv_at hl 1 rfl) ?_
  rcases xg_inv hit with ⟨q1, eq1, hit⟩ | ⟨x_q1, eq1, he⟩
  rotate_left
  · obtain ⟨iq1, eq1⟩ := vc_inv eq1
    obtain ⟨eq1, lq1⟩ := xchv_r eq1
    refine t_cV X h0H hA kc_TwinInk (xMet.tv (wC1_aSheet l hT γ X.2.1 _ _ _ _ _ eq1)) lq1 iq1 nm_X1_aSheet q1279 q1281 q135 q1282 qs36 ⟨Nat.le_trans (Nat.le_of_ble_eq_true rfl) hR.1, Nat.le_trans (Nat.le_of_ble_eq_true rfl) hR.2⟩ rfl rfl hl.1 (lv_room (Nat.le_of_ble_eq_true rfl)) dX1_mould_2 (fun H locs cells slots q_ hA hq => ?_)
    exact hthr _ _ _ _ _ _ _ _ _ (by subst he; rfl) hA hq
  obtain ⟨iq1, eq1⟩ := vc_inv eq1
  obtain ⟨eq1, lq1⟩ := xchv_l eq1
  refine a_cV X h0H hA kc_TwinInk (xMet.v (wC1_aSheet l hT γ X.2.1 _ _ _ _ _ eq1)) lq1 iq1 nm_X1_aSheet q1279 q1281 q135 q1282 qs36 ⟨Nat.le_trans (Nat.le_of_ble_eq_true rfl) hR.1, Nat.le_trans (Nat.le_of_ble_eq_true rfl) hR.2⟩ rfl rfl hl.1 (lv_room (Nat.le_of_ble_eq_true rfl)) dX1_mould_2 (fun H locs cells slots hA => ?_)
  refine lv_aload_n hx hb dX1_mould_5 rfl (lv_at hl 0 rfl) ?_
  obtain ⟨v2, ev2, hit⟩ := o_bind hit
  refine c_getR X hA.1.1 kc_TwinInk 3 q279 (Or.inl rfl) rfl rfl ev2 dX1_mould_6 ?_
  refine lv_aload_n hx hb dX1_mould_9 rfl (lv_at hl 0 rfl) ?_
  obtain ⟨v3, ev3, hit⟩ := o_bind hit
  refine c_getR X hA.1.1 kc_TwinInk 2 q278 (Or.inl rfl) rfl rfl ev3 dX1_mould_10 ?_
  obtain ⟨q4, eq4, hit⟩ := o_bind hit
  obtain ⟨iq4, eq4⟩ := vc_inv eq4
  refine c_cN X (kA_F X.2.1 X.2.2 h0H) hA.1 kc_Service (wC3_be l γ X.2.1 _ _ _ _ eq4) iq4 nm_X3_be q1406 q351 q140 q353 q352 ⟨Nat.le_trans (Nat.le_of_ble_eq_true rfl) hR.1, Nat.le_trans (Nat.le_of_ble_eq_true rfl) hR.2⟩ hA.RR rfl rfl hl.1 (lv_room (Nat.le_of_ble_eq_true rfl)) dX1_mould_13 (fun H locs hI => ?_)
  replace hA := hA.up hI
  clear hI
  refine lv_pop hx hb dX1_mould_16 rfl ?_
  refine lv_iconst (v := 1) hx hb dX1_mould_17 (by decide) ?_
  refine lv_istore_n (lv' := [(2, .int 1), (0, .ref o), (1, .int a0)]) hx hb dX1_mould_18 rfl hl (by decide) rfl (fun ls hl => ?_)
  refine o_rec (P := fun t5 => ∀ (H : Heap) (locs : List Loc) (cells slots : Nat) (ls : Array Slot), AI γ (h, r) s R t5.2.1 t5.2.2 H locs cells slots → lv_has ls 3 [(0, .ref o), (1, .int a0), (2, .int t5.1)] → W p l e R s m args below meth c H locs cells slots Q (F0 m 19 ls [])) (fun t5 x6 hit hC5 hE5 H locs cells slots ls hA hl => ?_) _ hit _ _ _ _ _ hA (lv_sub hl [1, 2, 0] rfl)
  unfold C1_mould_L19 at hit
  refine lv_iload_n hx hb dX1_mould_19 rfl (lv_at hl 2 rfl) ?_
  refine lv_bipush (v := 40) hx hb dX1_mould_20 (by decide) ?_
  refine b_icmp_gt (tgt := 57) hx hb dX1_mould_22 (by decide) hit (fun c7 hit => ?_) (fun c7 hit => ?_)
  · refine lv_iconst (v := (-1)) hx hb dX1_mould_57 (by decide) ?_
    have he := o_in hit
    have he := hE5 _ he
    exact hend (some (.int (-1))) t5.2 _ _ _ _ _ _ _ _ (kOut_i rfl) (by subst he; rfl) hA dX1_mould_58
  · refine lv_aload_n hx hb dX1_mould_25 rfl (lv_at hl 0 rfl) ?_
    obtain ⟨v8, ev8, hit⟩ := o_bind hit
    refine c_getR X hA.1.1 kc_TwinInk 3 q279 (Or.inl rfl) rfl rfl ev8 dX1_mould_26 ?_
    obtain ⟨q9, eq9, hit⟩ := o_bind hit
    obtain ⟨iq9, eq9⟩ := vc_inv eq9
    refine c_cN X (kA_F X.2.1 X.2.2 h0H) hA.1 kc_Service (wC3_pass l γ X.2.1 _ _  _ eq9) iq9 nm_X3_pass q1429 q456 q140 q458 q457 ⟨Nat.le_trans (Nat.le_of_ble_eq_true rfl) hR.1, Nat.le_trans (Nat.le_of_ble_eq_true rfl) hR.2⟩ hA.RR rfl rfl hl.1 (lv_room (Nat.le_of_ble_eq_true rfl)) dX1_mould_29 (fun H locs hI => ?_)
    replace hA := hA.up hI
    clear hI
    obtain ⟨v10, ev10, hit⟩ := o_bind hit
    refine c_getNR X hA.1.1 kc_Service 1 q249 (Or.inl rfl) rfl rfl ev10 dX1_mould_32 ?_
    refine lv_iload_n hx hb dX1_mould_35 rfl (lv_at hl 1 rfl) ?_
    obtain ⟨v11, ev11, hit⟩ := o_bind hit
    refine c_iald X hA.1.1 ev11 dX1_mould_36 ?_
    refine lv_aload_n hx hb dX1_mould_37 rfl (lv_at hl 0 rfl) ?_
    obtain ⟨v12, ev12, hit⟩ := o_bind hit
    refine c_getR X hA.1.1 kc_TwinInk 2 q278 (Or.inl rfl) rfl rfl ev12 dX1_mould_38 ?_
    obtain ⟨v13, ev13, hit⟩ := o_bind hit
    refine c_getNR X hA.1.1 kc_Service 1 q249 (Or.inl rfl) rfl rfl ev13 dX1_mould_41 ?_
    refine lv_iload_n hx hb dX1_mould_44 rfl (lv_at hl 1 rfl) ?_
    obtain ⟨v14, ev14, hit⟩ := o_bind hit
    refine c_iald X hA.1.1 ev14 dX1_mould_45 ?_
    refine b_icmp_eq (tgt := 51) hx hb dX1_mould_46 (by decide) hit (fun c15 hit => ?_) (fun c15 hit => ?_)
    · refine lv_iinc (k := 2) (v := (t5.1 + 1)) (lv' := [(2, .int (t5.1 + 1)), (0, .ref o), (1, .int a0)]) hx hb dX1_mould_51 hl rfl rfl (by decide) rfl (fun ls hl => ?_)
      refine lv_goto (tgt := 19) hx hb dX1_mould_54 (by decide) ?_
      have he := o_in hit
      exact hC5 _ he _ _ _ _ _ hA (lv_sub hl [1, 2, 0] rfl)
    · refine lv_iload_n hx hb dX1_mould_49 rfl (lv_at hl 2 rfl) ?_
      have he := o_in hit
      have he := hE5 _ he
      exact hend (some (.int t5.1)) (q9.2, t5.2.2) _ _ _ _ _ _ _ _ (kOut_i rfl) (by subst he; rfl) hA dX1_mould_50
noncomputable def C1_meet_J68 (K : Nat → Nat) (o : Nat) (t6 : Int32 × CS) : Option ((Int32 × CS) ⊕ ((Int32 × CS) ⊕ XT)) :=
  (gR t6.2.1 o 1 3).bind fun v12 =>
  (vc t6.2.1 v12 3 (C3_pass K t6.2.1 v12)).bind fun q13 =>
  some (.inl ((t6.1 + 1), (q13.2, t6.2.2)))
noncomputable def C1_meet_L24 (K : Nat → Nat) (o : Nat) (a0 : Int32) (a1 : Int32) (t6 : Int32 × CS) : Option ((Int32 × CS) ⊕ ((Int32 × CS) ⊕ XT)) :=
  if t6.1 ≤ 40 then
    (if a0 = a1 then
      (some (.inr (.inl ((-1), t6.2))))
    else
      ((gR t6.2.1 o 1 3).bind fun v10 =>
      (vc t6.2.1 v10 3 (C3_where t6.2.1 v10 a0)).bind fun q11 =>
      if q11 = (-1) then
        (C1_meet_J68 K o t6)
      else
        ((gR t6.2.1 o 1 3).bind fun v15 =>
        (vc t6.2.1 v15 3 (C3_where t6.2.1 v15 a0)).bind fun q16 =>
        (gR t6.2.1 o 1 3).bind fun v17 =>
        (vc t6.2.1 v17 3 (C3_where t6.2.1 v17 a1)).bind fun q18 =>
        if q16 = q18 then
          (some (.inr (.inl (t6.1, t6.2))))
        else
          (C1_meet_J68 K o t6))))
  else
    (some (.inr (.inl ((-1), t6.2))))
noncomputable def C1_meet (K : Nat → Nat) (h : CH) (r : CR) (o : Nat) (a0 : Int32) (a1 : Int32) : Option ((Int32 × CS) ⊕ XT) :=
  xg Sum.inr (vc h o 1 (xchv r (C1_aSheet h r o a0))) fun q1 =>
  xg Sum.inr (vc q1.1 o 1 (xchv q1.2 (C1_aSheet q1.1 q1.2 o a1))) fun q2 =>
  (gR q2.1 o 1 3).bind fun v3 =>
  (gR q2.1 o 1 2).bind fun v4 =>
  (vc q2.1 v3 3 (C3_be q2.1 v3 v4)).bind fun q5 =>
  o_loop (C1_meet_L24 K o a0 a1) (0, (q5.2, q2.2))
theorem nm_X1_meet : kNm yX1_meet RX1 2 := by unfold kNm; decide +kernel
set_option maxHeartbeats 4000000 in
set_option maxRecDepth 100000 in
theorem wC1_meet (l : Launch) (hT : l.stackTraces = false) (γ : KG) (hO : kOK γ) (h : CH) (r : CR) (o : Nat) (a0 : Int32) (a1 : Int32) (z : (Int32 × CS) ⊕ XT) (hz : C1_meet γ.2.2.2.2.2 h r o a0 a1 = some z) : xMet l yX1_meet (ws_ yX1_meet cX1_meet 4 (some .int)) 813 20368 γ (h, r) [.ref o, .int a0, .int a1] (xI z) := by
  refine x_start (cc := cX1_meet) (own := RX1) hO rfl rfl rfl (fun p e R s m args below meth c Q ls X hR hnm h0H hA hl hend hthr hdir => ?_)
  have hx := X.1.1
  have hb := X.1.2.1
  have hit := hz
  clear hz
  unfold C1_meet at hit
  have hl : lv_has ls 4 [(0, .ref o), (1, .int a0), (2, .int a1)] := hl
  refine lv_aload_n hx hb dX1_meet_0 rfl (lv_at hl 0 rfl) ?_
  refine lv_iload_n hx hb dX1_meet_1 rfl (lv_at hl 1 rfl) ?_
  rcases xg_inv hit with ⟨q1, eq1, hit⟩ | ⟨x_q1, eq1, he⟩
  rotate_left
  · obtain ⟨iq1, eq1⟩ := vc_inv eq1
    obtain ⟨eq1, lq1⟩ := xchv_r eq1
    refine t_cV X h0H hA kc_TwinInk (xMet.tv (wC1_aSheet l hT γ X.2.1 _ _ _ _ _ eq1)) lq1 iq1 nm_X1_aSheet q1279 q1281 q135 q1282 qs36 ⟨Nat.le_trans (Nat.le_of_ble_eq_true rfl) hR.1, Nat.le_trans (Nat.le_of_ble_eq_true rfl) hR.2⟩ rfl rfl hl.1 (lv_room (Nat.le_of_ble_eq_true rfl)) dX1_meet_2 (fun H locs cells slots q_ hA hq => ?_)
    exact hthr _ _ _ _ _ _ _ _ _ (by subst he; rfl) hA hq
  obtain ⟨iq1, eq1⟩ := vc_inv eq1
  obtain ⟨eq1, lq1⟩ := xchv_l eq1
  refine a_cV X h0H hA kc_TwinInk (xMet.v (wC1_aSheet l hT γ X.2.1 _ _ _ _ _ eq1)) lq1 iq1 nm_X1_aSheet q1279 q1281 q135 q1282 qs36 ⟨Nat.le_trans (Nat.le_of_ble_eq_true rfl) hR.1, Nat.le_trans (Nat.le_of_ble_eq_true rfl) hR.2⟩ rfl rfl hl.1 (lv_room (Nat.le_of_ble_eq_true rfl)) dX1_meet_2 (fun H locs cells slots hA => ?_)
  refine lv_aload_n hx hb dX1_meet_5 rfl (lv_at hl 0 rfl) ?_
  refine lv_iload_n hx hb dX1_meet_6 rfl (lv_at hl 2 rfl) ?_
  rcases xg_inv hit with ⟨q2, eq2, hit⟩ | ⟨x_q2, eq2, he⟩
  rotate_left
  · obtain ⟨iq2, eq2⟩ := vc_inv eq2
    obtain ⟨eq2, lq2⟩ := xchv_r eq2
    refine t_cV X h0H hA kc_TwinInk (xMet.tv (wC1_aSheet l hT γ X.2.1 _ _ _ _ _ eq2)) lq2 iq2 nm_X1_aSheet q1279 q1281 q135 q1282 qs36 ⟨Nat.le_trans (Nat.le_of_ble_eq_true rfl) hR.1, Nat.le_trans (Nat.le_of_ble_eq_true rfl) hR.2⟩ rfl rfl hl.1 (lv_room (Nat.le_of_ble_eq_true rfl)) dX1_meet_7 (fun H locs cells slots q_ hA hq => ?_)
    exact hthr _ _ _ _ _ _ _ _ _ (by subst he; rfl) hA hq
  obtain ⟨iq2, eq2⟩ := vc_inv eq2
  obtain ⟨eq2, lq2⟩ := xchv_l eq2
  refine a_cV X h0H hA kc_TwinInk (xMet.v (wC1_aSheet l hT γ X.2.1 _ _ _ _ _ eq2)) lq2 iq2 nm_X1_aSheet q1279 q1281 q135 q1282 qs36 ⟨Nat.le_trans (Nat.le_of_ble_eq_true rfl) hR.1, Nat.le_trans (Nat.le_of_ble_eq_true rfl) hR.2⟩ rfl rfl hl.1 (lv_room (Nat.le_of_ble_eq_true rfl)) dX1_meet_7 (fun H locs cells slots hA => ?_)
  refine lv_aload_n hx hb dX1_meet_10 rfl (lv_at hl 0 rfl) ?_
  obtain ⟨v3, ev3, hit⟩ := o_bind hit
  refine c_getR X hA.1.1 kc_TwinInk 3 q279 (Or.inl rfl) rfl rfl ev3 dX1_meet_11 ?_
  refine lv_aload_n hx hb dX1_meet_14 rfl (lv_at hl 0 rfl) ?_
  obtain ⟨v4, ev4, hit⟩ := o_bind hit
  refine c_getR X hA.1.1 kc_TwinInk 2 q278 (Or.inl rfl) rfl rfl ev4 dX1_meet_15 ?_
  obtain ⟨q5, eq5, hit⟩ := o_bind hit
  obtain ⟨iq5, eq5⟩ := vc_inv eq5
  refine c_cN X (kA_F X.2.1 X.2.2 h0H) hA.1 kc_Service (wC3_be l γ X.2.1 _ _ _ _ eq5) iq5 nm_X3_be q1406 q351 q140 q353 q352 ⟨Nat.le_trans (Nat.le_of_ble_eq_true rfl) hR.1, Nat.le_trans (Nat.le_of_ble_eq_true rfl) hR.2⟩ hA.RR rfl rfl hl.1 (lv_room (Nat.le_of_ble_eq_true rfl)) dX1_meet_18 (fun H locs hI => ?_)
  replace hA := hA.up hI
  clear hI
  refine lv_pop hx hb dX1_meet_21 rfl ?_
  refine lv_iconst (v := 0) hx hb dX1_meet_22 (by decide) ?_
  refine lv_istore_n (lv' := [(3, .int 0), (0, .ref o), (1, .int a0), (2, .int a1)]) hx hb dX1_meet_23 rfl hl (by decide) rfl (fun ls hl => ?_)
  refine o_rec (P := fun t6 => ∀ (H : Heap) (locs : List Loc) (cells slots : Nat) (ls : Array Slot), AI γ (h, r) s R t6.2.1 t6.2.2 H locs cells slots → lv_has ls 4 [(0, .ref o), (1, .int a0), (2, .int a1), (3, .int t6.1)] → W p l e R s m args below meth c H locs cells slots Q (F0 m 24 ls [])) (fun t6 x7 hit hC6 hE6 H locs cells slots ls hA hl => ?_) _ hit _ _ _ _ _ hA (lv_sub hl [1, 2, 3, 0] rfl)
  unfold C1_meet_L24 at hit
  refine lv_iload_n hx hb dX1_meet_24 rfl (lv_at hl 3 rfl) ?_
  refine lv_bipush (v := 40) hx hb dX1_meet_25 (by decide) ?_
  refine b_icmp_gt (tgt := 82) hx hb dX1_meet_27 (by decide) hit (fun c8 hit => ?_) (fun c8 hit => ?_)
  · refine lv_iconst (v := (-1)) hx hb dX1_meet_82 (by decide) ?_
    have he := o_in hit
    have he := hE6 _ he
    exact hend (some (.int (-1))) t6.2 _ _ _ _ _ _ _ _ (kOut_i rfl) (by subst he; rfl) hA dX1_meet_83
  · refine lv_iload_n hx hb dX1_meet_30 rfl (lv_at hl 1 rfl) ?_
    refine lv_iload_n hx hb dX1_meet_31 rfl (lv_at hl 2 rfl) ?_
    refine b_icmp_eq (tgt := 82) hx hb dX1_meet_32 (by decide) hit (fun c9 hit => ?_) (fun c9 hit => ?_)
    · refine lv_iconst (v := (-1)) hx hb dX1_meet_82 (by decide) ?_
      have he := o_in hit
      have he := hE6 _ he
      exact hend (some (.int (-1))) t6.2 _ _ _ _ _ _ _ _ (kOut_i rfl) (by subst he; rfl) hA dX1_meet_83
    · refine lv_aload_n hx hb dX1_meet_35 rfl (lv_at hl 0 rfl) ?_
      obtain ⟨v10, ev10, hit⟩ := o_bind hit
      refine c_getR X hA.1.1 kc_TwinInk 3 q279 (Or.inl rfl) rfl rfl ev10 dX1_meet_36 ?_
      refine lv_iload_n hx hb dX1_meet_39 rfl (lv_at hl 1 rfl) ?_
      obtain ⟨q11, eq11, hit⟩ := o_bind hit
      obtain ⟨iq11, eq11⟩ := vc_inv eq11
      refine c_cR X hA.1.1 (fun U hU hW => hA.D X.2.1 X.2.2 h0H hU hW) kc_Service (wC3_where l γ X.2.1 _ _ _ _ eq11) iq11 nm_X3_where q1286 q505 q140 q507 q506 ⟨Nat.le_trans (Nat.le_of_ble_eq_true rfl) hR.1, Nat.le_trans (Nat.le_of_ble_eq_true rfl) hR.2⟩ hA.RR rfl rfl hl.1 (lv_room (Nat.le_of_ble_eq_true rfl)) dX1_meet_40 ?_
      refine lv_iconst (v := (-1)) hx hb dX1_meet_43 (by decide) ?_
      have hK68 : C1_meet_J68 γ.2.2.2.2.2 o t6 = some x7 → ∀ (H : Heap) (locs : List Loc) (cells slots : Nat) (ls : Array Slot), AI γ (h, r) s R t6.2.1 t6.2.2 H locs cells slots → lv_has ls 4 [(0, .ref o), (1, .int a0), (2, .int a1), (3, .int t6.1)] → W p l e R s m args below meth c H locs cells slots Q (F0 m 68 ls []) := by
        intro  hit H locs cells slots ls hA hl
        unfold C1_meet_J68 at hit
        refine lv_aload_n hx hb dX1_meet_68 rfl (lv_at hl 0 rfl) ?_
        obtain ⟨v12, ev12, hit⟩ := o_bind hit
        refine c_getR X hA.1.1 kc_TwinInk 3 q279 (Or.inl rfl) rfl rfl ev12 dX1_meet_69 ?_
        obtain ⟨q13, eq13, hit⟩ := o_bind hit
        obtain ⟨iq13, eq13⟩ := vc_inv eq13
        refine c_cN X (kA_F X.2.1 X.2.2 h0H) hA.1 kc_Service (wC3_pass l γ X.2.1 _ _  _ eq13) iq13 nm_X3_pass q1429 q456 q140 q458 q457 ⟨Nat.le_trans (Nat.le_of_ble_eq_true rfl) hR.1, Nat.le_trans (Nat.le_of_ble_eq_true rfl) hR.2⟩ hA.RR rfl rfl hl.1 (lv_room (Nat.le_of_ble_eq_true rfl)) dX1_meet_72 (fun H locs hI => ?_)
        replace hA := hA.up hI
        clear hI
        refine lv_pop hx hb dX1_meet_75 rfl ?_
        refine lv_iinc (k := 3) (v := (t6.1 + 1)) (lv' := [(3, .int (t6.1 + 1)), (0, .ref o), (1, .int a0), (2, .int a1)]) hx hb dX1_meet_76 hl rfl rfl (by decide) rfl (fun ls hl => ?_)
        refine lv_goto (tgt := 24) hx hb dX1_meet_79 (by decide) ?_
        have he := o_in hit
        exact hC6 _ he _ _ _ _ _ hA (lv_sub hl [1, 2, 3, 0] rfl)
      refine b_icmp_eq (tgt := 68) hx hb dX1_meet_44 (by decide) hit (fun c14 hit => ?_) (fun c14 hit => ?_)
      · exact hK68  hit _ _ _ _ _ hA hl
      · refine lv_aload_n hx hb dX1_meet_47 rfl (lv_at hl 0 rfl) ?_
        obtain ⟨v15, ev15, hit⟩ := o_bind hit
        refine c_getR X hA.1.1 kc_TwinInk 3 q279 (Or.inl rfl) rfl rfl ev15 dX1_meet_48 ?_
        refine lv_iload_n hx hb dX1_meet_51 rfl (lv_at hl 1 rfl) ?_
        obtain ⟨q16, eq16, hit⟩ := o_bind hit
        obtain ⟨iq16, eq16⟩ := vc_inv eq16
        refine c_cR X hA.1.1 (fun U hU hW => hA.D X.2.1 X.2.2 h0H hU hW) kc_Service (wC3_where l γ X.2.1 _ _ _ _ eq16) iq16 nm_X3_where q1286 q505 q140 q507 q506 ⟨Nat.le_trans (Nat.le_of_ble_eq_true rfl) hR.1, Nat.le_trans (Nat.le_of_ble_eq_true rfl) hR.2⟩ hA.RR rfl rfl hl.1 (lv_room (Nat.le_of_ble_eq_true rfl)) dX1_meet_52 ?_
        refine lv_aload_n hx hb dX1_meet_55 rfl (lv_at hl 0 rfl) ?_
        obtain ⟨v17, ev17, hit⟩ := o_bind hit
        refine c_getR X hA.1.1 kc_TwinInk 3 q279 (Or.inl rfl) rfl rfl ev17 dX1_meet_56 ?_
        refine lv_iload_n hx hb dX1_meet_59 rfl (lv_at hl 2 rfl) ?_
        obtain ⟨q18, eq18, hit⟩ := o_bind hit
        obtain ⟨iq18, eq18⟩ := vc_inv eq18
        refine c_cR X hA.1.1 (fun U hU hW => hA.D X.2.1 X.2.2 h0H hU hW) kc_Service (wC3_where l γ X.2.1 _ _ _ _ eq18) iq18 nm_X3_where q1286 q505 q140 q507 q506 ⟨Nat.le_trans (Nat.le_of_ble_eq_true rfl) hR.1, Nat.le_trans (Nat.le_of_ble_eq_true rfl) hR.2⟩ hA.RR rfl rfl hl.1 (lv_room (Nat.le_of_ble_eq_true rfl)) dX1_meet_60 ?_
        refine b_icmp_ne (tgt := 68) hx hb dX1_meet_63 (by decide) hit (fun c19 hit => ?_) (fun c19 hit => ?_)
        · exact hK68  hit _ _ _ _ _ hA hl
        · refine lv_iload_n hx hb dX1_meet_66 rfl (lv_at hl 3 rfl) ?_
          have he := o_in hit
          have he := hE6 _ he
          exact hend (some (.int t6.1)) t6.2 _ _ _ _ _ _ _ _ (kOut_i rfl) (by subst he; rfl) hA dX1_meet_67
noncomputable def C1_gathering_L20 (o : Nat) (q2 : CS) (q3 : Nat × CH) (t4 : Int32 × Int32) : Option ((Int32 × Int32) ⊕ ((Int32 × CS) ⊕ XT)) :=
  if t4.2 < 4 then
    ((gR q3.2 o 1 3).bind fun v7 =>
    (vc q3.2 v7 3 (C3_sheetsIn q3.2 v7 t4.2)).bind fun q8 =>
    (CJ19_bitCount q8).bind fun q9 =>
    (gR q3.2 o 1 3).bind fun v10 =>
    (vc q3.2 v10 3 (C3_sheetsIn q3.2 v10 t4.1)).bind fun q11 =>
    (CJ19_bitCount q11).bind fun q12 =>
    xg (fun e_ => .inr (.inr e_)) ((if q9 ≤ q12 then
        (some (.inl t4.1))
      else
        (some (.inl t4.2)) : Option (Int32 ⊕ XT))) fun r13 =>
    some (.inl (r13, (t4.2 + 1))))
  else
    (some (.inr (.inl (t4.1, (q3.2, q2.2)))))
noncomputable def C1_gathering (K : Nat → Nat) (h : CH) (r : CR) (o : Nat) (a0 : Int32) : Option ((Int32 × CS) ⊕ XT) :=
  (C1_in a0 0 40).bind fun q1 =>
  xg Sum.inr (xchv r (C1_right h r q1)) fun q2 =>
  (vc q2.1 o 1 (C1_later K q2.1 o a0)).bind fun q3 =>
  o_loop (C1_gathering_L20 o q2 q3) (0, 1)
theorem nm_X1_gathering : kNm yX1_gathering RX1 1 := by unfold kNm; decide +kernel
set_option maxHeartbeats 4000000 in
set_option maxRecDepth 100000 in
theorem wC1_gathering (l : Launch) (hT : l.stackTraces = false) (γ : KG) (hO : kOK γ) (h : CH) (r : CR) (o : Nat) (a0 : Int32) (z : (Int32 × CS) ⊕ XT) (hz : C1_gathering γ.2.2.2.2.2 h r o a0 = some z) : xMet l yX1_gathering (ws_ yX1_gathering cX1_gathering 4 (some .int)) 815 20411 γ (h, r) [.ref o, .int a0] (xI z) := by
  refine x_start (cc := cX1_gathering) (own := RX1) hO rfl rfl rfl (fun p e R s m args below meth c Q ls X hR hnm h0H hA hl hend hthr hdir => ?_)
  have hx := X.1.1
  have hb := X.1.2.1
  have hit := hz
  clear hz
  unfold C1_gathering at hit
  have hl : lv_has ls 4 [(0, .ref o), (1, .int a0)] := hl
  refine lv_iload_n hx hb dX1_gathering_0 rfl (lv_at hl 1 rfl) ?_
  refine lv_iconst (v := 0) hx hb dX1_gathering_1 (by decide) ?_
  refine lv_bipush (v := 40) hx hb dX1_gathering_2 (by decide) ?_
  obtain ⟨q1, eq1, hit⟩ := o_bind hit
  refine c_cP X.1 (wC1_in l _ _ _ _ eq1) nm_X1_in q333 q334 q135 q335 ⟨Nat.le_trans (Nat.le_of_ble_eq_true rfl) hR.1, Nat.le_trans (Nat.le_of_ble_eq_true rfl) hR.2⟩ hA.RR rfl rfl hl.1 (lv_room (Nat.le_of_ble_eq_true rfl)) dX1_gathering_4 ?_
  rcases xg_inv hit with ⟨q2, eq2, hit⟩ | ⟨x_q2, eq2, he⟩
  rotate_left
  · obtain ⟨eq2, lq2⟩ := xchv_r eq2
    refine t_cS X h0H hA nm_X1_right q691 q692 q135 q693 (xMet.tv (wC1_right l hT γ X.2.1 _ _ _ _ eq2)) lq2 ⟨Nat.le_trans (Nat.le_of_ble_eq_true rfl) hR.1, Nat.le_trans (Nat.le_of_ble_eq_true rfl) hR.2⟩ rfl rfl hl.1 (lv_room (Nat.le_of_ble_eq_true rfl)) dX1_gathering_7 (fun H locs cells slots q_ hA hq => ?_)
    exact hthr _ _ _ _ _ _ _ _ _ (by subst he; rfl) hA hq
  obtain ⟨eq2, lq2⟩ := xchv_l eq2
  refine a_cS X h0H hA nm_X1_right q691 q692 q135 q693 (xMet.v (wC1_right l hT γ X.2.1 _ _ _ _ eq2)) lq2 ⟨Nat.le_trans (Nat.le_of_ble_eq_true rfl) hR.1, Nat.le_trans (Nat.le_of_ble_eq_true rfl) hR.2⟩ rfl rfl hl.1 (lv_room (Nat.le_of_ble_eq_true rfl)) dX1_gathering_7 (fun H locs cells slots hA => ?_)
  refine lv_aload_n hx hb dX1_gathering_10 rfl (lv_at hl 0 rfl) ?_
  refine lv_iload_n hx hb dX1_gathering_11 rfl (lv_at hl 1 rfl) ?_
  obtain ⟨q3, eq3, hit⟩ := o_bind hit
  obtain ⟨iq3, eq3⟩ := vc_inv eq3
  refine c_cN X (kA_F X.2.1 X.2.2 h0H) hA.1 kc_TwinInk (wC1_later l γ X.2.1 _ _ _ _ eq3) iq3 nm_X1_later q1402 q1404 q135 q1405 qs44 ⟨Nat.le_trans (Nat.le_of_ble_eq_true rfl) hR.1, Nat.le_trans (Nat.le_of_ble_eq_true rfl) hR.2⟩ hA.RR rfl rfl hl.1 (lv_room (Nat.le_of_ble_eq_true rfl)) dX1_gathering_12 (fun H locs hI => ?_)
  replace hA := hA.up hI
  clear hI
  refine lv_pop hx hb dX1_gathering_15 rfl ?_
  refine lv_iconst (v := 0) hx hb dX1_gathering_16 (by decide) ?_
  refine lv_istore_n (lv' := [(2, .int 0), (0, .ref o), (1, .int a0)]) hx hb dX1_gathering_17 rfl hl (by decide) rfl (fun ls hl => ?_)
  refine lv_iconst (v := 1) hx hb dX1_gathering_18 (by decide) ?_
  refine lv_istore_n (lv' := [(3, .int 1), (2, .int 0), (0, .ref o), (1, .int a0)]) hx hb dX1_gathering_19 rfl hl (by decide) rfl (fun ls hl => ?_)
  refine o_rec (P := fun t4 => ∀ (H : Heap) (locs : List Loc) (cells slots : Nat) (ls : Array Slot), AI γ (h, r) s R q3.2 q2.2 H locs cells slots → lv_has ls 4 [(0, .ref o), (2, .int t4.1), (3, .int t4.2)] → W p l e R s m args below meth c H locs cells slots Q (F0 m 20 ls [])) (fun t4 x5 hit hC4 hE4 H locs cells slots ls hA hl => ?_) _ hit _ _ _ _ _ hA (lv_sub hl [2, 1, 0] rfl)
  unfold C1_gathering_L20 at hit
  refine lv_iload_n hx hb dX1_gathering_20 rfl (lv_at hl 2 rfl) ?_
  refine lv_iconst (v := 4) hx hb dX1_gathering_21 (by decide) ?_
  refine b_icmp_ge (tgt := 58) hx hb dX1_gathering_22 (by decide) hit (fun c6 hit => ?_) (fun c6 hit => ?_)
  · refine lv_iload_n hx hb dX1_gathering_58 rfl (lv_at hl 1 rfl) ?_
    have he := o_in hit
    have he := hE4 _ he
    exact hend (some (.int t4.1)) (q3.2, q2.2) _ _ _ _ _ _ _ _ (kOut_i rfl) (by subst he; rfl) hA dX1_gathering_59
  · refine lv_aload_n hx hb dX1_gathering_25 rfl (lv_at hl 0 rfl) ?_
    obtain ⟨v7, ev7, hit⟩ := o_bind hit
    refine c_getR X hA.1.1 kc_TwinInk 3 q279 (Or.inl rfl) rfl rfl ev7 dX1_gathering_26 ?_
    refine lv_iload_n hx hb dX1_gathering_29 rfl (lv_at hl 2 rfl) ?_
    obtain ⟨q8, eq8, hit⟩ := o_bind hit
    obtain ⟨iq8, eq8⟩ := vc_inv eq8
    refine c_cR X hA.1.1 (fun U hU hW => hA.D X.2.1 X.2.2 h0H hU hW) kc_Service (wC3_sheetsIn l γ X.2.1 _ _ _ _ eq8) iq8 nm_X3_sheetsIn q1343 q501 q140 q503 q502 ⟨Nat.le_trans (Nat.le_of_ble_eq_true rfl) hR.1, Nat.le_trans (Nat.le_of_ble_eq_true rfl) hR.2⟩ hA.RR rfl rfl hl.1 (lv_room (Nat.le_of_ble_eq_true rfl)) dX1_gathering_30 ?_
    obtain ⟨q9, eq9, hit⟩ := o_bind hit
    refine c_cP X.1 (wCJ19_bitCount l _ _ eq9) nm_J19_bitCount q1458 q509 q165 q510 ⟨Nat.le_trans (Nat.le_of_ble_eq_true rfl) hR.1, Nat.le_trans (Nat.le_of_ble_eq_true rfl) hR.2⟩ hA.RR rfl rfl hl.1 (lv_room (Nat.le_of_ble_eq_true rfl)) dX1_gathering_33 ?_
    refine lv_aload_n hx hb dX1_gathering_36 rfl (lv_at hl 0 rfl) ?_
    obtain ⟨v10, ev10, hit⟩ := o_bind hit
    refine c_getR X hA.1.1 kc_TwinInk 3 q279 (Or.inl rfl) rfl rfl ev10 dX1_gathering_37 ?_
    refine lv_iload_n hx hb dX1_gathering_40 rfl (lv_at hl 1 rfl) ?_
    obtain ⟨q11, eq11, hit⟩ := o_bind hit
    obtain ⟨iq11, eq11⟩ := vc_inv eq11
    refine c_cR X hA.1.1 (fun U hU hW => hA.D X.2.1 X.2.2 h0H hU hW) kc_Service (wC3_sheetsIn l γ X.2.1 _ _ _ _ eq11) iq11 nm_X3_sheetsIn q1343 q501 q140 q503 q502 ⟨Nat.le_trans (Nat.le_of_ble_eq_true rfl) hR.1, Nat.le_trans (Nat.le_of_ble_eq_true rfl) hR.2⟩ hA.RR rfl rfl hl.1 (lv_room (Nat.le_of_ble_eq_true rfl)) dX1_gathering_41 ?_
    obtain ⟨q12, eq12, hit⟩ := o_bind hit
    refine c_cP X.1 (wCJ19_bitCount l _ _ eq12) nm_J19_bitCount q1458 q509 q165 q510 ⟨Nat.le_trans (Nat.le_of_ble_eq_true rfl) hR.1, Nat.le_trans (Nat.le_of_ble_eq_true rfl) hR.2⟩ hA.RR rfl rfl hl.1 (lv_room (Nat.le_of_ble_eq_true rfl)) dX1_gathering_44 ?_
    obtain ⟨wr13, er13, hxr13⟩ := xg_bind hit
    have hr13 : ∀ (r13 : Int32), wr13 = .inl r13 → ∀ (H : Heap) (locs : List Loc) (cells slots : Nat) (ls : Array Slot), AI γ (h, r) s R q3.2 q2.2 H locs cells slots → lv_has ls 4 [(0, .ref o), (3, .int t4.2), (2, .int r13)] → W p l e R s m args below meth c H locs cells slots Q (F0 m 52 ls []) := by
      intro r13 hw_ H locs cells slots ls hA hl
      have hit := xk_l hxr13 hw_
      refine lv_iinc (k := 1) (v := (t4.2 + 1)) (lv' := [(3, .int (t4.2 + 1)), (0, .ref o), (2, .int r13)]) hx hb dX1_gathering_52 hl rfl rfl (by decide) rfl (fun ls hl => ?_)
      refine lv_goto (tgt := 20) hx hb dX1_gathering_55 (by decide) ?_
      have he := o_in hit
      exact hC4 _ he _ _ _ _ _ hA (lv_sub hl [1, 2, 0] rfl)
    have hit := er13
    refine b_icmp_le (tgt := 52) hx hb dX1_gathering_47 (by decide) hit (fun c14 hit => ?_) (fun c14 hit => ?_)
    · have he := o_in hit
      exact hr13 _ he.symm _ _ _ _ _ hA (lv_sub hl [0, 2, 1] rfl)
    · refine lv_iload_n hx hb dX1_gathering_50 rfl (lv_at hl 2 rfl) ?_
      refine lv_istore_n (lv' := [(2, .int t4.2), (0, .ref o), (3, .int t4.2)]) hx hb dX1_gathering_51 rfl hl (by decide) rfl (fun ls hl => ?_)
      have he := o_in hit
      exact hr13 _ he.symm _ _ _ _ _ hA (lv_sub hl [1, 2, 0] rfl)
noncomputable def C1_row_L126 (o : Nat) (q5 : Nat × CS) (q11 : CS) (t12 : Int32 × Int32 × Int32 × Int32) (t17 : Int32 × Int32) : Option ((Int32 × Int32) ⊕ (Int32 ⊕ XT)) :=
  if t17.2 < 0 then
    (some (.inr (.inl t17.1)))
  else
    ((gR q11.1 o 1 2).bind fun v21 =>
    (vc q11.1 v21 3 (C3_isBurnt q11.1 v21 t17.2)).bind fun q22 =>
    xg (fun e_ => .inr (.inr e_)) ((if q22 = 0 then
        ((C1_isOf t12.1 t17.2).bind fun q31 =>
        if q31 = 0 then
          (if t12.2.1 = (-1) then
            (some (.inl 1))
          else
            ((gR q11.1 o 1 2).bind fun v34 =>
            (vc q11.1 v34 3 (C3_fits q11.1 v34 t12.2.1 t17.2)).bind fun q35 =>
            if q35 = 0 then
              (some (.inl 0))
            else
              (some (.inl 1))))
        else
          (some (.inl 0)))
      else
        (some (.inl 0)) : Option (Int32 ⊕ XT))) fun r23 =>
    xg (fun e_ => .inr (.inr e_)) ((if r23 = 0 then
        (some (.inl t17.1))
      else
        ((aQ q11.1 q5.1 4 t17.2).bind fun v26 =>
        (v26).bind fun v27 =>
        (aI q11.1 v27 0 (t12.1 ||| ((1 : Int32) <<< (t17.2 &&& 31)))).bind fun v28 =>
        if (1 + v28) = t12.2.2.1 then
          (some (.inl t17.2))
        else
          (some (.inl t17.1))) : Option (Int32 ⊕ XT))) fun r24 =>
    some (.inl (r24, (t17.2 + (-1)))))
noncomputable def C1_row_L106 (o : Nat) (a0 : Int32) (q5 : Nat × CS) (q11 : CS) (t12 : Int32 × Int32 × Int32 × Int32) : Option ((Int32 × Int32 × Int32 × Int32) ⊕ ((Int32 × CS) ⊕ XT)) :=
  if t12.2.2.2 ≤ a0 then
    ((gR q11.1 o 1 1).bind fun v15 =>
    (gI q11.1 v15 2 2).bind fun v16 =>
    xg (fun e_ => .inr (.inr e_)) (o_loop (C1_row_L126 o q5 q11 t12) ((-1), (v16 - 1))) fun r19 =>
    some (.inl ((t12.1 ||| ((1 : Int32) <<< (r19 &&& 31))), r19, (t12.2.2.1 + (-1)), (t12.2.2.2 + 1))))
  else
    (some (.inr (.inl (t12.2.1, q11))))
noncomputable def C1_row_L33 (o : Nat) (q5 : Nat × CS) (t6 : Int32 × Int32) : Option ((Int32 × Int32) ⊕ (Int32 ⊕ XT)) :=
  (gR q5.2.1 o 1 1).bind fun v38 =>
  (gI q5.2.1 v38 2 2).bind fun v39 =>
  if t6.2 < v39 then
    ((gR q5.2.1 o 1 2).bind fun v41 =>
    (vc q5.2.1 v41 3 (C3_isBurnt q5.2.1 v41 t6.2)).bind fun q42 =>
    xg (fun e_ => .inr (.inr e_)) ((if q42 = 0 then
        ((aQ q5.2.1 q5.1 4 t6.2).bind fun v45 =>
        (v45).bind fun v46 =>
        (aI q5.2.1 v46 0 ((1 : Int32) <<< (t6.2 &&& 31))).bind fun v47 =>
        some (.inl (imax t6.1 (1 + v47))))
      else
        (some (.inl t6.1)) : Option (Int32 ⊕ XT))) fun r43 =>
    some (.inl (r43, (t6.2 + 1))))
  else
    (some (.inr (.inl t6.1)))
noncomputable def C1_row (h : CH) (r : CR) (o : Nat) (a0 : Int32) : Option ((Int32 × CS) ⊕ XT) :=
  (gR h o 1 1).bind fun v1 =>
  (gI h v1 2 2).bind fun v2 =>
  (C1_in a0 (-1) (v2 - 1)).bind fun q3 =>
  xg Sum.inr (xchv r (C1_found h r q3)) fun q4 =>
  (vc q4.1 o 1 (achk q4.2 (C1_rows q4.1 q4.2 o))).bind fun q5 =>
  xg Sum.inr (o_loop (C1_row_L33 o q5) (0, 0)) fun r8 =>
  if a0 = (-1) then
    (some (.inl (r8, q5.2)))
  else
    (xg Sum.inr ((if a0 < r8 then
        (some (.inl 1))
      else
        (some (.inl 0)) : Option (Int32 ⊕ XT))) fun r10 =>
    xg Sum.inr (xchv q5.2.2 (C1_found q5.2.1 q5.2.2 r10)) fun q11 =>
    o_loop (C1_row_L106 o a0 q5 q11) (0, (-1), r8, 0))
theorem nm_X1_row : kNm yX1_row RX1 1 := by unfold kNm; decide +kernel
set_option maxHeartbeats 4000000 in
set_option maxRecDepth 100000 in
theorem wC1_row (l : Launch) (hT : l.stackTraces = false) (γ : KG) (hO : kOK γ) (h : CH) (r : CR) (o : Nat) (a0 : Int32) (z : (Int32 × CS) ⊕ XT) (hz : C1_row h r o a0 = some z) : xMet l yX1_row (ws_ yX1_row cX1_row 10 (some .int)) 7 120 γ (h, r) [.ref o, .int a0] (xI z) := by
  refine x_start (cc := cX1_row) (own := RX1) hO rfl rfl rfl (fun p e R s m args below meth c Q ls X hR hnm h0H hA hl hend hthr hdir => ?_)
  have hx := X.1.1
  have hb := X.1.2.1
  have hit := hz
  clear hz
  unfold C1_row at hit
  have hl : lv_has ls 10 [(0, .ref o), (1, .int a0)] := hl
  refine lv_iload_n hx hb dX1_row_0 rfl (lv_at hl 1 rfl) ?_
  refine lv_iconst (v := (-1)) hx hb dX1_row_1 (by decide) ?_
  refine lv_aload_n hx hb dX1_row_2 rfl (lv_at hl 0 rfl) ?_
  obtain ⟨v1, ev1, hit⟩ := o_bind hit
  refine c_getR X hA.1.1 kc_TwinInk 1 q277 (Or.inl rfl) rfl rfl ev1 dX1_row_3 ?_
  obtain ⟨v2, ev2, hit⟩ := o_bind hit
  refine c_getNI X hA.1.1 kc_Office 2 q216 (Or.inl rfl) rfl rfl ev2 dX1_row_6 ?_
  refine lv_iconst (v := 1) hx hb dX1_row_9 (by decide) ?_
  refine lv_isub hx hb dX1_row_10 ?_
  obtain ⟨q3, eq3, hit⟩ := o_bind hit
  refine c_cP X.1 (wC1_in l _ _ _ _ eq3) nm_X1_in q333 q334 q135 q335 ⟨Nat.le_trans (Nat.le_of_ble_eq_true rfl) hR.1, Nat.le_trans (Nat.le_of_ble_eq_true rfl) hR.2⟩ hA.RR rfl rfl hl.1 (lv_room (Nat.le_of_ble_eq_true rfl)) dX1_row_11 ?_
  rcases xg_inv hit with ⟨q4, eq4, hit⟩ | ⟨x_q4, eq4, he⟩
  rotate_left
  · obtain ⟨eq4, lq4⟩ := xchv_r eq4
    refine t_cS X h0H hA nm_X1_found q1254 q1255 q135 q1256 (xMet.tv (wC1_found l hT γ X.2.1 _ _ _ _ eq4)) lq4 ⟨Nat.le_trans (Nat.le_of_ble_eq_true rfl) hR.1, Nat.le_trans (Nat.le_of_ble_eq_true rfl) hR.2⟩ rfl rfl hl.1 (lv_room (Nat.le_of_ble_eq_true rfl)) dX1_row_14 (fun H locs cells slots q_ hA hq => ?_)
    exact hthr _ _ _ _ _ _ _ _ _ (by subst he; rfl) hA hq
  obtain ⟨eq4, lq4⟩ := xchv_l eq4
  refine a_cS X h0H hA nm_X1_found q1254 q1255 q135 q1256 (xMet.v (wC1_found l hT γ X.2.1 _ _ _ _ eq4)) lq4 ⟨Nat.le_trans (Nat.le_of_ble_eq_true rfl) hR.1, Nat.le_trans (Nat.le_of_ble_eq_true rfl) hR.2⟩ rfl rfl hl.1 (lv_room (Nat.le_of_ble_eq_true rfl)) dX1_row_14 (fun H locs cells slots hA => ?_)
  refine lv_aload_n hx hb dX1_row_17 rfl (lv_at hl 0 rfl) ?_
  obtain ⟨q5, eq5, hit⟩ := o_bind hit
  obtain ⟨iq5, eq5⟩ := vc_inv eq5
  obtain ⟨eq5, lq5⟩ := achk_inv eq5
  refine a_cV X h0H hA kc_TwinInk (wC1_rows l γ X.2.1 _ _ _  _ eq5) lq5 iq5 nm_X1_rows q1466 q1468 q135 q1469 qs46 ⟨Nat.le_trans (Nat.le_of_ble_eq_true rfl) hR.1, Nat.le_trans (Nat.le_of_ble_eq_true rfl) hR.2⟩ rfl rfl hl.1 (lv_room (Nat.le_of_ble_eq_true rfl)) dX1_row_18 (fun H locs cells slots hA => ?_)
  refine lv_astore_n (lv' := [(2, .ref q5.1), (0, .ref o), (1, .int a0)]) hx hb dX1_row_21 rfl hl (by decide) rfl (fun ls hl => ?_)
  refine lv_iconst (v := 0) hx hb dX1_row_22 (by decide) ?_
  refine lv_istore_n (lv' := [(3, .int 0), (2, .ref q5.1), (0, .ref o), (1, .int a0)]) hx hb dX1_row_23 rfl hl (by decide) rfl (fun ls hl => ?_)
  refine lv_iconst (v := (-1)) hx hb dX1_row_24 (by decide) ?_
  refine lv_istore (lv' := [(4, .int (-1)), (3, .int 0), (2, .ref q5.1), (0, .ref o), (1, .int a0)]) hx hb dX1_row_25 hl (by decide) rfl (fun ls hl => ?_)
  refine lv_iconst (v := 0) hx hb dX1_row_27 (by decide) ?_
  refine lv_istore (lv' := [(5, .int 0), (4, .int (-1)), (3, .int 0), (2, .ref q5.1), (0, .ref o), (1, .int a0)]) hx hb dX1_row_28 hl (by decide) rfl (fun ls hl => ?_)
  refine lv_iconst (v := 0) hx hb dX1_row_30 (by decide) ?_
  refine lv_istore (lv' := [(6, .int 0), (5, .int 0), (4, .int (-1)), (3, .int 0), (2, .ref q5.1), (0, .ref o), (1, .int a0)]) hx hb dX1_row_31 hl (by decide) rfl (fun ls hl => ?_)
  obtain ⟨wr8, er8, hxr8⟩ := xg_bind hit
  have hr8 : ∀ (r8 : Int32), wr8 = .inl r8 → ∀ (H : Heap) (locs : List Loc) (cells slots : Nat) (ls : Array Slot), AI γ (h, r) s R q5.2.1 q5.2.2 H locs cells slots → lv_has ls 10 [(4, .int (-1)), (3, .int 0), (2, .ref q5.1), (0, .ref o), (1, .int a0), (5, .int r8)] → W p l e R s m args below meth c H locs cells slots Q (F0 m 81 ls []) := by
    intro r8 hw_ H locs cells slots ls hA hl
    have hit := xk_l hxr8 hw_
    refine lv_iload_n hx hb dX1_row_81 rfl (lv_at hl 4 rfl) ?_
    refine lv_iconst (v := (-1)) hx hb dX1_row_82 (by decide) ?_
    refine b_icmp_ne (tgt := 89) hx hb dX1_row_83 (by decide) hit (fun c9 hit => ?_) (fun c9 hit => ?_)
    · refine lv_iload_n hx hb dX1_row_89 rfl (lv_at hl 4 rfl) ?_
      refine lv_iload hx hb dX1_row_90 (lv_at hl 5 rfl) ?_
      obtain ⟨wr10, er10, hxr10⟩ := xg_bind hit
      have hr10 : ∀ (r10 : Int32), wr10 = .inl r10 → ∀ (H : Heap) (locs : List Loc) (cells slots : Nat) (ls : Array Slot), AI γ (h, r) s R q5.2.1 q5.2.2 H locs cells slots → lv_has ls 10 [(4, .int (-1)), (3, .int 0), (2, .ref q5.1), (0, .ref o), (1, .int a0), (5, .int r8)] → W p l e R s m args below meth c H locs cells slots Q (F0 m 100 ls [.int r10]) := by
        intro r10 hw_ H locs cells slots ls hA hl
        have hit := xk_l hxr10 hw_
        rcases xg_inv hit with ⟨q11, eq11, hit⟩ | ⟨x_q11, eq11, he⟩
        rotate_left
        · obtain ⟨eq11, lq11⟩ := xchv_r eq11
          refine t_cS X h0H hA nm_X1_found q1254 q1255 q135 q1256 (xMet.tv (wC1_found l hT γ X.2.1 _ _ _ _ eq11)) lq11 ⟨Nat.le_trans (Nat.le_of_ble_eq_true rfl) hR.1, Nat.le_trans (Nat.le_of_ble_eq_true rfl) hR.2⟩ rfl rfl hl.1 (lv_room (Nat.le_of_ble_eq_true rfl)) dX1_row_100 (fun H locs cells slots q_ hA hq => ?_)
          exact hthr _ _ _ _ _ _ _ _ _ (by subst he; rfl) hA hq
        obtain ⟨eq11, lq11⟩ := xchv_l eq11
        refine a_cS X h0H hA nm_X1_found q1254 q1255 q135 q1256 (xMet.v (wC1_found l hT γ X.2.1 _ _ _ _ eq11)) lq11 ⟨Nat.le_trans (Nat.le_of_ble_eq_true rfl) hR.1, Nat.le_trans (Nat.le_of_ble_eq_true rfl) hR.2⟩ rfl rfl hl.1 (lv_room (Nat.le_of_ble_eq_true rfl)) dX1_row_100 (fun H locs cells slots hA => ?_)
        refine lv_iconst (v := 0) hx hb dX1_row_103 (by decide) ?_
        refine lv_istore (lv' := [(6, .int 0), (4, .int (-1)), (3, .int 0), (2, .ref q5.1), (0, .ref o), (1, .int a0), (5, .int r8)]) hx hb dX1_row_104 hl (by decide) rfl (fun ls hl => ?_)
        refine o_rec (P := fun t12 => ∀ (H : Heap) (locs : List Loc) (cells slots : Nat) (ls : Array Slot), AI γ (h, r) s R q11.1 q11.2 H locs cells slots → lv_has ls 10 [(2, .ref q5.1), (0, .ref o), (1, .int a0), (3, .int t12.1), (4, .int t12.2.1), (5, .int t12.2.2.1), (6, .int t12.2.2.2)] → W p l e R s m args below meth c H locs cells slots Q (F0 m 106 ls [])) (fun t12 x13 hit hC12 hE12 H locs cells slots ls hA hl => ?_) _ hit _ _ _ _ _ hA (lv_sub hl [3, 4, 5, 2, 1, 6, 0] rfl)
        unfold C1_row_L106 at hit
        refine lv_iload hx hb dX1_row_106 (lv_at hl 6 rfl) ?_
        refine lv_iload_n hx hb dX1_row_108 rfl (lv_at hl 2 rfl) ?_
        refine b_icmp_gt (tgt := 232) hx hb dX1_row_109 (by decide) hit (fun c14 hit => ?_) (fun c14 hit => ?_)
        · refine lv_iload hx hb dX1_row_232 (lv_at hl 4 rfl) ?_
          have he := o_in hit
          have he := hE12 _ he
          exact hend (some (.int t12.2.1)) q11 _ _ _ _ _ _ _ _ (kOut_i rfl) (by subst he; rfl) hA dX1_row_234
        · refine lv_iconst (v := (-1)) hx hb dX1_row_112 (by decide) ?_
          refine lv_istore (lv' := [(7, .int (-1)), (2, .ref q5.1), (0, .ref o), (1, .int a0), (3, .int t12.1), (4, .int t12.2.1), (5, .int t12.2.2.1), (6, .int t12.2.2.2)]) hx hb dX1_row_113 hl (by decide) rfl (fun ls hl => ?_)
          refine lv_aload_n hx hb dX1_row_115 rfl (lv_at hl 2 rfl) ?_
          obtain ⟨v15, ev15, hit⟩ := o_bind hit
          refine c_getR X hA.1.1 kc_TwinInk 1 q277 (Or.inl rfl) rfl rfl ev15 dX1_row_116 ?_
          obtain ⟨v16, ev16, hit⟩ := o_bind hit
          refine c_getNI X hA.1.1 kc_Office 2 q216 (Or.inl rfl) rfl rfl ev16 dX1_row_119 ?_
          refine lv_iconst (v := 1) hx hb dX1_row_122 (by decide) ?_
          refine lv_isub hx hb dX1_row_123 ?_
          refine lv_istore (lv' := [(8, .int (v16 - 1)), (7, .int (-1)), (2, .ref q5.1), (0, .ref o), (1, .int a0), (3, .int t12.1), (4, .int t12.2.1), (5, .int t12.2.2.1), (6, .int t12.2.2.2)]) hx hb dX1_row_124 hl (by decide) rfl (fun ls hl => ?_)
          obtain ⟨wr19, er19, hxr19⟩ := xg_bind hit
          have hr19 : ∀ (r19 : Int32), wr19 = .inl r19 → ∀ (H : Heap) (locs : List Loc) (cells slots : Nat) (ls : Array Slot), AI γ (h, r) s R q11.1 q11.2 H locs cells slots → lv_has ls 10 [(2, .ref q5.1), (0, .ref o), (1, .int a0), (3, .int t12.1), (5, .int t12.2.2.1), (6, .int t12.2.2.2), (7, .int r19)] → W p l e R s m args below meth c H locs cells slots Q (F0 m 212 ls []) := by
            intro r19 hw_ H locs cells slots ls hA hl
            have hit := xk_l hxr19 hw_
            refine lv_iload_n hx hb dX1_row_212 rfl (lv_at hl 3 rfl) ?_
            refine lv_iconst (v := 1) hx hb dX1_row_213 (by decide) ?_
            refine lv_iload hx hb dX1_row_214 (lv_at hl 6 rfl) ?_
            refine lv_ishl hx hb dX1_row_216 ?_
            refine lv_ior hx hb dX1_row_217 ?_
            refine lv_istore_n (lv' := [(3, .int (t12.1 ||| ((1 : Int32) <<< (r19 &&& 31)))), (2, .ref q5.1), (0, .ref o), (1, .int a0), (5, .int t12.2.2.1), (6, .int t12.2.2.2), (7, .int r19)]) hx hb dX1_row_218 rfl hl (by decide) rfl (fun ls hl => ?_)
            refine lv_iload hx hb dX1_row_219 (lv_at hl 6 rfl) ?_
            refine lv_istore (lv' := [(4, .int r19), (3, .int (t12.1 ||| ((1 : Int32) <<< (r19 &&& 31)))), (2, .ref q5.1), (0, .ref o), (1, .int a0), (5, .int t12.2.2.1), (6, .int t12.2.2.2), (7, .int r19)]) hx hb dX1_row_221 hl (by decide) rfl (fun ls hl => ?_)
            refine lv_iinc (k := 5) (v := (t12.2.2.1 + (-1))) (lv' := [(5, .int (t12.2.2.1 + (-1))), (4, .int r19), (3, .int (t12.1 ||| ((1 : Int32) <<< (r19 &&& 31)))), (2, .ref q5.1), (0, .ref o), (1, .int a0), (6, .int t12.2.2.2), (7, .int r19)]) hx hb dX1_row_223 hl rfl rfl (by decide) rfl (fun ls hl => ?_)
            refine lv_iinc (k := 6) (v := (t12.2.2.2 + 1)) (lv' := [(6, .int (t12.2.2.2 + 1)), (5, .int (t12.2.2.1 + (-1))), (4, .int r19), (3, .int (t12.1 ||| ((1 : Int32) <<< (r19 &&& 31)))), (2, .ref q5.1), (0, .ref o), (1, .int a0), (7, .int r19)]) hx hb dX1_row_226 hl rfl rfl (by decide) rfl (fun ls hl => ?_)
            refine lv_goto (tgt := 106) hx hb dX1_row_229 (by decide) ?_
            have he := o_in hit
            exact hC12 _ he _ _ _ _ _ hA (lv_sub hl [4, 5, 6, 3, 2, 1, 0] rfl)
          refine o_rec (P := fun t17 => ∀ (H : Heap) (locs : List Loc) (cells slots : Nat) (ls : Array Slot), AI γ (h, r) s R q11.1 q11.2 H locs cells slots → lv_has ls 10 [(2, .ref q5.1), (0, .ref o), (1, .int a0), (3, .int t12.1), (4, .int t12.2.1), (5, .int t12.2.2.1), (6, .int t12.2.2.2), (7, .int t17.1), (8, .int t17.2)] → W p l e R s m args below meth c H locs cells slots Q (F0 m 126 ls [])) (fun t17 x18 hit hC17 hE17 H locs cells slots ls hA hl => ?_) _ er19 _ _ _ _ _ hA (lv_sub hl [2, 3, 4, 5, 6, 7, 8, 1, 0] rfl)
          unfold C1_row_L126 at hit
          refine lv_iload hx hb dX1_row_126 (lv_at hl 8 rfl) ?_
          refine b_if_lt (tgt := 212) hx hb dX1_row_128 (by decide) hit (fun c20 hit => ?_) (fun c20 hit => ?_)
          · have he := o_in hit
            have he := hE17 _ he
            exact hr19 _ he.symm _ _ _ _ _ hA (lv_sub hl [0, 1, 2, 3, 5, 6, 7] rfl)
          · refine lv_aload_n hx hb dX1_row_131 rfl (lv_at hl 1 rfl) ?_
            obtain ⟨v21, ev21, hit⟩ := o_bind hit
            refine c_getR X hA.1.1 kc_TwinInk 2 q278 (Or.inl rfl) rfl rfl ev21 dX1_row_132 ?_
            refine lv_iload hx hb dX1_row_135 (lv_at hl 8 rfl) ?_
            obtain ⟨q22, eq22, hit⟩ := o_bind hit
            obtain ⟨iq22, eq22⟩ := vc_inv eq22
            refine c_cR X hA.1.1 (fun U hU hW => hA.D X.2.1 X.2.2 h0H hU hW) kc_Service (wC3_isBurnt l γ X.2.1 _ _ _ _ eq22) iq22 nm_X3_isBurnt q1382 q606 q140 q608 q607 ⟨Nat.le_trans (Nat.le_of_ble_eq_true rfl) hR.1, Nat.le_trans (Nat.le_of_ble_eq_true rfl) hR.2⟩ hA.RR rfl rfl hl.1 (lv_room (Nat.le_of_ble_eq_true rfl)) dX1_row_137 ?_
            obtain ⟨wr23, er23, hxr23⟩ := xg_bind hit
            have hr23 : ∀ (r23 : Int32), wr23 = .inl r23 → ∀ (H : Heap) (locs : List Loc) (cells slots : Nat) (ls : Array Slot), AI γ (h, r) s R q11.1 q11.2 H locs cells slots → lv_has ls 10 [(2, .ref q5.1), (0, .ref o), (1, .int a0), (3, .int t12.1), (4, .int t12.2.1), (5, .int t12.2.2.1), (6, .int t12.2.2.2), (7, .int t17.1), (8, .int t17.2)] → W p l e R s m args below meth c H locs cells slots Q (F0 m 177 ls [.int r23]) := by
              intro r23 hw_ H locs cells slots ls hA hl
              have hit := xk_l hxr23 hw_
              refine lv_istore (lv' := [(9, .int r23), (2, .ref q5.1), (0, .ref o), (1, .int a0), (3, .int t12.1), (4, .int t12.2.1), (5, .int t12.2.2.1), (6, .int t12.2.2.2), (7, .int t17.1), (8, .int t17.2)]) hx hb dX1_row_177 hl (by decide) rfl (fun ls hl => ?_)
              refine lv_iload hx hb dX1_row_179 (lv_at hl 0 rfl) ?_
              obtain ⟨wr24, er24, hxr24⟩ := xg_bind hit
              have hr24 : ∀ (r24 : Int32), wr24 = .inl r24 → ∀ (H : Heap) (locs : List Loc) (cells slots : Nat) (ls : Array Slot), AI γ (h, r) s R q11.1 q11.2 H locs cells slots → lv_has ls 10 [(2, .ref q5.1), (0, .ref o), (1, .int a0), (3, .int t12.1), (4, .int t12.2.1), (5, .int t12.2.2.1), (6, .int t12.2.2.2), (8, .int t17.2), (7, .int r24)] → W p l e R s m args below meth c H locs cells slots Q (F0 m 206 ls []) := by
                intro r24 hw_ H locs cells slots ls hA hl
                have hit := xk_l hxr24 hw_
                refine lv_iinc (k := 7) (v := (t17.2 + (-1))) (lv' := [(8, .int (t17.2 + (-1))), (2, .ref q5.1), (0, .ref o), (1, .int a0), (3, .int t12.1), (4, .int t12.2.1), (5, .int t12.2.2.1), (6, .int t12.2.2.2), (7, .int r24)]) hx hb dX1_row_206 hl rfl rfl (by decide) rfl (fun ls hl => ?_)
                refine lv_goto (tgt := 126) hx hb dX1_row_209 (by decide) ?_
                have he := o_in hit
                exact hC17 _ he _ _ _ _ _ hA (lv_sub hl [1, 2, 3, 4, 5, 6, 7, 8, 0] rfl)
              have hit := er24
              refine b_if_eq (tgt := 206) hx hb dX1_row_181 (by decide) hit (fun c25 hit => ?_) (fun c25 hit => ?_)
              · have he := o_in hit
                exact hr24 _ he.symm _ _ _ _ _ hA (lv_sub hl [1, 2, 3, 4, 5, 6, 7, 9, 8] rfl)
              · refine lv_iconst (v := 1) hx hb dX1_row_184 (by decide) ?_
                refine lv_aload_n hx hb dX1_row_185 rfl (lv_at hl 1 rfl) ?_
                refine lv_iload hx hb dX1_row_186 (lv_at hl 9 rfl) ?_
                obtain ⟨v26, ev26, hit⟩ := o_bind hit
                refine c_aald X hA.1.1 4 (fun _ => rfl) rfl ev26 dX1_row_188 ?_
                obtain ⟨v27, ev27, hit⟩ := o_bind hit
                refine c_deref ev27 ?_
                refine lv_iload_n hx hb dX1_row_189 rfl (lv_at hl 4 rfl) ?_
                refine lv_iconst (v := 1) hx hb dX1_row_190 (by decide) ?_
                refine lv_iload hx hb dX1_row_191 (lv_at hl 9 rfl) ?_
                refine lv_ishl hx hb dX1_row_193 ?_
                refine lv_ior hx hb dX1_row_194 ?_
                obtain ⟨v28, ev28, hit⟩ := o_bind hit
                refine c_iald X hA.1.1 ev28 dX1_row_195 ?_
                refine lv_iadd hx hb dX1_row_196 ?_
                refine lv_iload hx hb dX1_row_197 (lv_at hl 6 rfl) ?_
                refine b_icmp_ne (tgt := 206) hx hb dX1_row_199 (by decide) hit (fun c29 hit => ?_) (fun c29 hit => ?_)
                · have he := o_in hit
                  exact hr24 _ he.symm _ _ _ _ _ hA (lv_sub hl [1, 2, 3, 4, 5, 6, 7, 9, 8] rfl)
                · refine lv_iload hx hb dX1_row_202 (lv_at hl 9 rfl) ?_
                  refine lv_istore (lv' := [(7, .int t17.2), (9, .int r23), (2, .ref q5.1), (0, .ref o), (1, .int a0), (3, .int t12.1), (4, .int t12.2.1), (5, .int t12.2.2.1), (6, .int t12.2.2.2), (8, .int t17.2)]) hx hb dX1_row_204 hl (by decide) rfl (fun ls hl => ?_)
                  have he := o_in hit
                  exact hr24 _ he.symm _ _ _ _ _ hA (lv_sub hl [2, 3, 4, 5, 6, 7, 8, 9, 0] rfl)
            have hit := er23
            refine b_if_ne (tgt := 176) hx hb dX1_row_140 (by decide) hit (fun c30 hit => ?_) (fun c30 hit => ?_)
            · refine lv_iconst (v := 0) hx hb dX1_row_176 (by decide) ?_
              have he := o_in hit
              exact hr23 _ he.symm _ _ _ _ _ hA hl
            · refine lv_iload_n hx hb dX1_row_143 rfl (lv_at hl 3 rfl) ?_
              refine lv_iload hx hb dX1_row_144 (lv_at hl 8 rfl) ?_
              obtain ⟨q31, eq31, hit⟩ := o_bind hit
              refine c_cP X.1 (wC1_isOf l _ _ _ eq31) nm_X1_isOf q1252 q519 q135 q520 ⟨Nat.le_trans (Nat.le_of_ble_eq_true rfl) hR.1, Nat.le_trans (Nat.le_of_ble_eq_true rfl) hR.2⟩ hA.RR rfl rfl hl.1 (lv_room (Nat.le_of_ble_eq_true rfl)) dX1_row_146 ?_
              refine b_if_ne (tgt := 176) hx hb dX1_row_149 (by decide) hit (fun c32 hit => ?_) (fun c32 hit => ?_)
              · refine lv_iconst (v := 0) hx hb dX1_row_176 (by decide) ?_
                have he := o_in hit
                exact hr23 _ he.symm _ _ _ _ _ hA hl
              · refine lv_iload hx hb dX1_row_152 (lv_at hl 4 rfl) ?_
                refine lv_iconst (v := (-1)) hx hb dX1_row_154 (by decide) ?_
                refine b_icmp_eq (tgt := 172) hx hb dX1_row_155 (by decide) hit (fun c33 hit => ?_) (fun c33 hit => ?_)
                · refine lv_iconst (v := 1) hx hb dX1_row_172 (by decide) ?_
                  refine lv_goto (tgt := 177) hx hb dX1_row_173 (by decide) ?_
                  have he := o_in hit
                  exact hr23 _ he.symm _ _ _ _ _ hA hl
                · refine lv_aload_n hx hb dX1_row_158 rfl (lv_at hl 1 rfl) ?_
                  obtain ⟨v34, ev34, hit⟩ := o_bind hit
                  refine c_getR X hA.1.1 kc_TwinInk 2 q278 (Or.inl rfl) rfl rfl ev34 dX1_row_159 ?_
                  refine lv_iload hx hb dX1_row_162 (lv_at hl 4 rfl) ?_
                  refine lv_iload hx hb dX1_row_164 (lv_at hl 8 rfl) ?_
                  obtain ⟨q35, eq35, hit⟩ := o_bind hit
                  obtain ⟨iq35, eq35⟩ := vc_inv eq35
                  refine c_cR X hA.1.1 (fun U hU hW => hA.D X.2.1 X.2.2 h0H hU hW) kc_Service (wC3_fits l γ X.2.1 _ _ _ _ _ eq35) iq35 nm_X3_fits q645 q602 q140 q604 q603 ⟨Nat.le_trans (Nat.le_of_ble_eq_true rfl) hR.1, Nat.le_trans (Nat.le_of_ble_eq_true rfl) hR.2⟩ hA.RR rfl rfl hl.1 (lv_room (Nat.le_of_ble_eq_true rfl)) dX1_row_166 ?_
                  refine b_if_eq (tgt := 176) hx hb dX1_row_169 (by decide) hit (fun c36 hit => ?_) (fun c36 hit => ?_)
                  · refine lv_iconst (v := 0) hx hb dX1_row_176 (by decide) ?_
                    have he := o_in hit
                    exact hr23 _ he.symm _ _ _ _ _ hA hl
                  · refine lv_iconst (v := 1) hx hb dX1_row_172 (by decide) ?_
                    refine lv_goto (tgt := 177) hx hb dX1_row_173 (by decide) ?_
                    have he := o_in hit
                    exact hr23 _ he.symm _ _ _ _ _ hA hl
      have hit := er10
      refine b_icmp_ge (tgt := 99) hx hb dX1_row_92 (by decide) hit (fun c37 hit => ?_) (fun c37 hit => ?_)
      · refine lv_iconst (v := 0) hx hb dX1_row_99 (by decide) ?_
        have he := o_in hit
        exact hr10 _ he.symm _ _ _ _ _ hA hl
      · refine lv_iconst (v := 1) hx hb dX1_row_95 (by decide) ?_
        refine lv_goto (tgt := 100) hx hb dX1_row_96 (by decide) ?_
        have he := o_in hit
        exact hr10 _ he.symm _ _ _ _ _ hA hl
    · refine lv_iload hx hb dX1_row_86 (lv_at hl 5 rfl) ?_
      have he := o_in hit
      exact hend (some (.int r8)) q5.2 _ _ _ _ _ _ _ _ (kOut_i rfl) (by subst he; rfl) hA dX1_row_88
  refine o_rec (P := fun t6 => ∀ (H : Heap) (locs : List Loc) (cells slots : Nat) (ls : Array Slot), AI γ (h, r) s R q5.2.1 q5.2.2 H locs cells slots → lv_has ls 10 [(4, .int (-1)), (3, .int 0), (2, .ref q5.1), (0, .ref o), (1, .int a0), (5, .int t6.1), (6, .int t6.2)] → W p l e R s m args below meth c H locs cells slots Q (F0 m 33 ls [])) (fun t6 x7 hit hC6 hE6 H locs cells slots ls hA hl => ?_) _ er8 _ _ _ _ _ hA (lv_sub hl [2, 3, 4, 5, 6, 1, 0] rfl)
  unfold C1_row_L33 at hit
  refine lv_iload hx hb dX1_row_33 (lv_at hl 6 rfl) ?_
  refine lv_aload_n hx hb dX1_row_35 rfl (lv_at hl 3 rfl) ?_
  obtain ⟨v38, ev38, hit⟩ := o_bind hit
  refine c_getR X hA.1.1 kc_TwinInk 1 q277 (Or.inl rfl) rfl rfl ev38 dX1_row_36 ?_
  obtain ⟨v39, ev39, hit⟩ := o_bind hit
  refine c_getNI X hA.1.1 kc_Office 2 q216 (Or.inl rfl) rfl rfl ev39 dX1_row_39 ?_
  refine b_icmp_ge (tgt := 81) hx hb dX1_row_42 (by decide) hit (fun c40 hit => ?_) (fun c40 hit => ?_)
  · have he := o_in hit
    have he := hE6 _ he
    exact hr8 _ he.symm _ _ _ _ _ hA (lv_sub hl [0, 1, 2, 3, 4, 5] rfl)
  · refine lv_aload_n hx hb dX1_row_45 rfl (lv_at hl 3 rfl) ?_
    obtain ⟨v41, ev41, hit⟩ := o_bind hit
    refine c_getR X hA.1.1 kc_TwinInk 2 q278 (Or.inl rfl) rfl rfl ev41 dX1_row_46 ?_
    refine lv_iload hx hb dX1_row_49 (lv_at hl 6 rfl) ?_
    obtain ⟨q42, eq42, hit⟩ := o_bind hit
    obtain ⟨iq42, eq42⟩ := vc_inv eq42
    refine c_cR X hA.1.1 (fun U hU hW => hA.D X.2.1 X.2.2 h0H hU hW) kc_Service (wC3_isBurnt l γ X.2.1 _ _ _ _ eq42) iq42 nm_X3_isBurnt q1382 q606 q140 q608 q607 ⟨Nat.le_trans (Nat.le_of_ble_eq_true rfl) hR.1, Nat.le_trans (Nat.le_of_ble_eq_true rfl) hR.2⟩ hA.RR rfl rfl hl.1 (lv_room (Nat.le_of_ble_eq_true rfl)) dX1_row_51 ?_
    obtain ⟨wr43, er43, hxr43⟩ := xg_bind hit
    have hr43 : ∀ (r43 : Int32), wr43 = .inl r43 → ∀ (H : Heap) (locs : List Loc) (cells slots : Nat) (ls : Array Slot), AI γ (h, r) s R q5.2.1 q5.2.2 H locs cells slots → lv_has ls 10 [(4, .int (-1)), (3, .int 0), (2, .ref q5.1), (0, .ref o), (1, .int a0), (6, .int t6.2), (5, .int r43)] → W p l e R s m args below meth c H locs cells slots Q (F0 m 75 ls []) := by
      intro r43 hw_ H locs cells slots ls hA hl
      have hit := xk_l hxr43 hw_
      refine lv_iinc (k := 5) (v := (t6.2 + 1)) (lv' := [(6, .int (t6.2 + 1)), (4, .int (-1)), (3, .int 0), (2, .ref q5.1), (0, .ref o), (1, .int a0), (5, .int r43)]) hx hb dX1_row_75 hl rfl rfl (by decide) rfl (fun ls hl => ?_)
      refine lv_goto (tgt := 33) hx hb dX1_row_78 (by decide) ?_
      have he := o_in hit
      exact hC6 _ he _ _ _ _ _ hA (lv_sub hl [1, 2, 3, 4, 5, 6, 0] rfl)
    have hit := er43
    refine b_if_ne (tgt := 75) hx hb dX1_row_54 (by decide) hit (fun c44 hit => ?_) (fun c44 hit => ?_)
    · have he := o_in hit
      exact hr43 _ he.symm _ _ _ _ _ hA (lv_sub hl [0, 1, 2, 3, 4, 6, 5] rfl)
    · refine lv_iload hx hb dX1_row_57 (lv_at hl 5 rfl) ?_
      refine lv_iconst (v := 1) hx hb dX1_row_59 (by decide) ?_
      refine lv_aload_n hx hb dX1_row_60 rfl (lv_at hl 2 rfl) ?_
      refine lv_iload hx hb dX1_row_61 (lv_at hl 6 rfl) ?_
      obtain ⟨v45, ev45, hit⟩ := o_bind hit
      refine c_aald X hA.1.1 4 (fun _ => rfl) rfl ev45 dX1_row_63 ?_
      obtain ⟨v46, ev46, hit⟩ := o_bind hit
      refine c_deref ev46 ?_
      refine lv_iconst (v := 1) hx hb dX1_row_64 (by decide) ?_
      refine lv_iload hx hb dX1_row_65 (lv_at hl 6 rfl) ?_
      refine lv_ishl hx hb dX1_row_67 ?_
      obtain ⟨v47, ev47, hit⟩ := o_bind hit
      refine c_iald X hA.1.1 ev47 dX1_row_68 ?_
      refine lv_iadd hx hb dX1_row_69 ?_
      refine b_max X.1 hl.1 q1253 (Nat.le_trans (Nat.le_of_ble_eq_true rfl) hR.1) (Nat.le_trans (Nat.le_of_ble_eq_true rfl) hR.2) hA.RR dX1_row_70 ?_
      refine lv_istore (lv' := [(5, .int (imax t6.1 (1 + v47))), (4, .int (-1)), (3, .int 0), (2, .ref q5.1), (0, .ref o), (1, .int a0), (6, .int t6.2)]) hx hb dX1_row_73 hl (by decide) rfl (fun ls hl => ?_)
      have he := o_in hit
      exact hr43 _ he.symm _ _ _ _ _ hA (lv_sub hl [1, 2, 3, 4, 5, 6, 0] rfl)
noncomputable def C1_far (h : CH) (r : CR) (o : Nat) (a0 : Int32) (a1 : Int32) : Option ((Int32 × CS) ⊕ XT) :=
  xg Sum.inr (vc h o 1 (xchv r (C1_aSheet h r o a0))) fun q1 =>
  xg Sum.inr (vc q1.1 o 1 (xchv q1.2 (C1_aSheet q1.1 q1.2 o a1))) fun q2 =>
  (gR q2.1 o 1 2).bind fun v3 =>
  (vc q2.1 v3 3 (C3_far q2.1 v3 a0 a1)).bind fun q4 =>
  some (.inl (q4, q2))
theorem nm_X1_far : kNm yX1_far RX1 2 := by unfold kNm; decide +kernel
set_option maxHeartbeats 4000000 in
set_option maxRecDepth 100000 in
theorem wC1_far (l : Launch) (hT : l.stackTraces = false) (γ : KG) (hO : kOK γ) (h : CH) (r : CR) (o : Nat) (a0 : Int32) (a1 : Int32) (z : (Int32 × CS) ⊕ XT) (hz : C1_far h r o a0 a1 = some z) : xMet l yX1_far (ws_ yX1_far cX1_far 3 (some .int)) 8 141 γ (h, r) [.ref o, .int a0, .int a1] (xI z) := by
  refine x_start (cc := cX1_far) (own := RX1) hO rfl rfl rfl (fun p e R s m args below meth c Q ls X hR hnm h0H hA hl hend hthr hdir => ?_)
  have hx := X.1.1
  have hb := X.1.2.1
  have hit := hz
  clear hz
  unfold C1_far at hit
  have hl : lv_has ls 3 [(0, .ref o), (1, .int a0), (2, .int a1)] := hl
  refine lv_aload_n hx hb dX1_far_0 rfl (lv_at hl 0 rfl) ?_
  refine lv_iload_n hx hb dX1_far_1 rfl (lv_at hl 1 rfl) ?_
  rcases xg_inv hit with ⟨q1, eq1, hit⟩ | ⟨x_q1, eq1, he⟩
  rotate_left
  · obtain ⟨iq1, eq1⟩ := vc_inv eq1
    obtain ⟨eq1, lq1⟩ := xchv_r eq1
    refine t_cV X h0H hA kc_TwinInk (xMet.tv (wC1_aSheet l hT γ X.2.1 _ _ _ _ _ eq1)) lq1 iq1 nm_X1_aSheet q1279 q1281 q135 q1282 qs36 ⟨Nat.le_trans (Nat.le_of_ble_eq_true rfl) hR.1, Nat.le_trans (Nat.le_of_ble_eq_true rfl) hR.2⟩ rfl rfl hl.1 (lv_room (Nat.le_of_ble_eq_true rfl)) dX1_far_2 (fun H locs cells slots q_ hA hq => ?_)
    exact hthr _ _ _ _ _ _ _ _ _ (by subst he; rfl) hA hq
  obtain ⟨iq1, eq1⟩ := vc_inv eq1
  obtain ⟨eq1, lq1⟩ := xchv_l eq1
  refine a_cV X h0H hA kc_TwinInk (xMet.v (wC1_aSheet l hT γ X.2.1 _ _ _ _ _ eq1)) lq1 iq1 nm_X1_aSheet q1279 q1281 q135 q1282 qs36 ⟨Nat.le_trans (Nat.le_of_ble_eq_true rfl) hR.1, Nat.le_trans (Nat.le_of_ble_eq_true rfl) hR.2⟩ rfl rfl hl.1 (lv_room (Nat.le_of_ble_eq_true rfl)) dX1_far_2 (fun H locs cells slots hA => ?_)
  refine lv_aload_n hx hb dX1_far_5 rfl (lv_at hl 0 rfl) ?_
  refine lv_iload_n hx hb dX1_far_6 rfl (lv_at hl 2 rfl) ?_
  rcases xg_inv hit with ⟨q2, eq2, hit⟩ | ⟨x_q2, eq2, he⟩
  rotate_left
  · obtain ⟨iq2, eq2⟩ := vc_inv eq2
    obtain ⟨eq2, lq2⟩ := xchv_r eq2
    refine t_cV X h0H hA kc_TwinInk (xMet.tv (wC1_aSheet l hT γ X.2.1 _ _ _ _ _ eq2)) lq2 iq2 nm_X1_aSheet q1279 q1281 q135 q1282 qs36 ⟨Nat.le_trans (Nat.le_of_ble_eq_true rfl) hR.1, Nat.le_trans (Nat.le_of_ble_eq_true rfl) hR.2⟩ rfl rfl hl.1 (lv_room (Nat.le_of_ble_eq_true rfl)) dX1_far_7 (fun H locs cells slots q_ hA hq => ?_)
    exact hthr _ _ _ _ _ _ _ _ _ (by subst he; rfl) hA hq
  obtain ⟨iq2, eq2⟩ := vc_inv eq2
  obtain ⟨eq2, lq2⟩ := xchv_l eq2
  refine a_cV X h0H hA kc_TwinInk (xMet.v (wC1_aSheet l hT γ X.2.1 _ _ _ _ _ eq2)) lq2 iq2 nm_X1_aSheet q1279 q1281 q135 q1282 qs36 ⟨Nat.le_trans (Nat.le_of_ble_eq_true rfl) hR.1, Nat.le_trans (Nat.le_of_ble_eq_true rfl) hR.2⟩ rfl rfl hl.1 (lv_room (Nat.le_of_ble_eq_true rfl)) dX1_far_7 (fun H locs cells slots hA => ?_)
  refine lv_aload_n hx hb dX1_far_10 rfl (lv_at hl 0 rfl) ?_
  obtain ⟨v3, ev3, hit⟩ := o_bind hit
  refine c_getR X hA.1.1 kc_TwinInk 2 q278 (Or.inl rfl) rfl rfl ev3 dX1_far_11 ?_
  refine lv_iload_n hx hb dX1_far_14 rfl (lv_at hl 1 rfl) ?_
  refine lv_iload_n hx hb dX1_far_15 rfl (lv_at hl 2 rfl) ?_
  obtain ⟨q4, eq4, hit⟩ := o_bind hit
  obtain ⟨iq4, eq4⟩ := vc_inv eq4
  refine c_cR X hA.1.1 (fun U hU hW => hA.D X.2.1 X.2.2 h0H hU hW) kc_Service (wC3_far l γ X.2.1 _ _ _ _ _ eq4) iq4 nm_X3_far q1479 q610 q140 q612 q611 ⟨Nat.le_trans (Nat.le_of_ble_eq_true rfl) hR.1, Nat.le_trans (Nat.le_of_ble_eq_true rfl) hR.2⟩ hA.RR rfl rfl hl.1 (lv_room (Nat.le_of_ble_eq_true rfl)) dX1_far_16 ?_
  have he := o_in hit
  exact hend (some (.int q4)) q2 _ _ _ _ _ _ _ _ (kOut_i rfl) (by subst he; rfl) hA dX1_far_19
noncomputable def C1_toForge (h : CH) (r : CR) (o : Nat) (a0 : Int32) (a1 : Int32) : Option ((Int32 × CS) ⊕ XT) :=
  xg Sum.inr (vc h o 1 (xchv r (C1_aSheet h r o a0))) fun q1 =>
  xg Sum.inr (vc q1.1 o 1 (xchv q1.2 (C1_aSheet q1.1 q1.2 o a1))) fun q2 =>
  if a0 = a1 then
    (some (.inl ((-1), q2)))
  else
    ((gR q2.1 o 1 2).bind fun v4 =>
    (vc q2.1 v4 3 (C3_isBurnt q2.1 v4 a0)).bind fun q5 =>
    if q5 = 0 then
      ((gR q2.1 o 1 2).bind fun v7 =>
      (vc q2.1 v7 3 (C3_isBurnt q2.1 v7 a1)).bind fun q8 =>
      if q8 = 0 then
        ((gR q2.1 o 1 2).bind fun v10 =>
        (vc q2.1 v10 3 (C3_far q2.1 v10 a0 a1)).bind fun q11 =>
        (gR q2.1 o 1 1).bind fun v12 =>
        (gI q2.1 v12 2 3).bind fun v13 =>
        some (.inl ((imax 0 (q11 - v13)), q2)))
      else
        (some (.inl ((-1), q2))))
    else
      (some (.inl ((-1), q2))))
theorem nm_X1_toForge : kNm yX1_toForge RX1 2 := by unfold kNm; decide +kernel
set_option maxHeartbeats 4000000 in
set_option maxRecDepth 100000 in
theorem wC1_toForge (l : Launch) (hT : l.stackTraces = false) (γ : KG) (hO : kOK γ) (h : CH) (r : CR) (o : Nat) (a0 : Int32) (a1 : Int32) (z : (Int32 × CS) ⊕ XT) (hz : C1_toForge h r o a0 a1 = some z) : xMet l yX1_toForge (ws_ yX1_toForge cX1_toForge 3 (some .int)) 8 141 γ (h, r) [.ref o, .int a0, .int a1] (xI z) := by
  refine x_start (cc := cX1_toForge) (own := RX1) hO rfl rfl rfl (fun p e R s m args below meth c Q ls X hR hnm h0H hA hl hend hthr hdir => ?_)
  have hx := X.1.1
  have hb := X.1.2.1
  have hit := hz
  clear hz
  unfold C1_toForge at hit
  have hl : lv_has ls 3 [(0, .ref o), (1, .int a0), (2, .int a1)] := hl
  refine lv_aload_n hx hb dX1_toForge_0 rfl (lv_at hl 0 rfl) ?_
  refine lv_iload_n hx hb dX1_toForge_1 rfl (lv_at hl 1 rfl) ?_
  rcases xg_inv hit with ⟨q1, eq1, hit⟩ | ⟨x_q1, eq1, he⟩
  rotate_left
  · obtain ⟨iq1, eq1⟩ := vc_inv eq1
    obtain ⟨eq1, lq1⟩ := xchv_r eq1
    refine t_cV X h0H hA kc_TwinInk (xMet.tv (wC1_aSheet l hT γ X.2.1 _ _ _ _ _ eq1)) lq1 iq1 nm_X1_aSheet q1279 q1281 q135 q1282 qs36 ⟨Nat.le_trans (Nat.le_of_ble_eq_true rfl) hR.1, Nat.le_trans (Nat.le_of_ble_eq_true rfl) hR.2⟩ rfl rfl hl.1 (lv_room (Nat.le_of_ble_eq_true rfl)) dX1_toForge_2 (fun H locs cells slots q_ hA hq => ?_)
    exact hthr _ _ _ _ _ _ _ _ _ (by subst he; rfl) hA hq
  obtain ⟨iq1, eq1⟩ := vc_inv eq1
  obtain ⟨eq1, lq1⟩ := xchv_l eq1
  refine a_cV X h0H hA kc_TwinInk (xMet.v (wC1_aSheet l hT γ X.2.1 _ _ _ _ _ eq1)) lq1 iq1 nm_X1_aSheet q1279 q1281 q135 q1282 qs36 ⟨Nat.le_trans (Nat.le_of_ble_eq_true rfl) hR.1, Nat.le_trans (Nat.le_of_ble_eq_true rfl) hR.2⟩ rfl rfl hl.1 (lv_room (Nat.le_of_ble_eq_true rfl)) dX1_toForge_2 (fun H locs cells slots hA => ?_)
  refine lv_aload_n hx hb dX1_toForge_5 rfl (lv_at hl 0 rfl) ?_
  refine lv_iload_n hx hb dX1_toForge_6 rfl (lv_at hl 2 rfl) ?_
  rcases xg_inv hit with ⟨q2, eq2, hit⟩ | ⟨x_q2, eq2, he⟩
  rotate_left
  · obtain ⟨iq2, eq2⟩ := vc_inv eq2
    obtain ⟨eq2, lq2⟩ := xchv_r eq2
    refine t_cV X h0H hA kc_TwinInk (xMet.tv (wC1_aSheet l hT γ X.2.1 _ _ _ _ _ eq2)) lq2 iq2 nm_X1_aSheet q1279 q1281 q135 q1282 qs36 ⟨Nat.le_trans (Nat.le_of_ble_eq_true rfl) hR.1, Nat.le_trans (Nat.le_of_ble_eq_true rfl) hR.2⟩ rfl rfl hl.1 (lv_room (Nat.le_of_ble_eq_true rfl)) dX1_toForge_7 (fun H locs cells slots q_ hA hq => ?_)
    exact hthr _ _ _ _ _ _ _ _ _ (by subst he; rfl) hA hq
  obtain ⟨iq2, eq2⟩ := vc_inv eq2
  obtain ⟨eq2, lq2⟩ := xchv_l eq2
  refine a_cV X h0H hA kc_TwinInk (xMet.v (wC1_aSheet l hT γ X.2.1 _ _ _ _ _ eq2)) lq2 iq2 nm_X1_aSheet q1279 q1281 q135 q1282 qs36 ⟨Nat.le_trans (Nat.le_of_ble_eq_true rfl) hR.1, Nat.le_trans (Nat.le_of_ble_eq_true rfl) hR.2⟩ rfl rfl hl.1 (lv_room (Nat.le_of_ble_eq_true rfl)) dX1_toForge_7 (fun H locs cells slots hA => ?_)
  refine lv_iload_n hx hb dX1_toForge_10 rfl (lv_at hl 1 rfl) ?_
  refine lv_iload_n hx hb dX1_toForge_11 rfl (lv_at hl 2 rfl) ?_
  refine b_icmp_eq (tgt := 37) hx hb dX1_toForge_12 (by decide) hit (fun c3 hit => ?_) (fun c3 hit => ?_)
  · refine lv_iconst (v := (-1)) hx hb dX1_toForge_37 (by decide) ?_
    have he := o_in hit
    exact hend (some (.int (-1))) q2 _ _ _ _ _ _ _ _ (kOut_i rfl) (by subst he; rfl) hA dX1_toForge_38
  · refine lv_aload_n hx hb dX1_toForge_15 rfl (lv_at hl 0 rfl) ?_
    obtain ⟨v4, ev4, hit⟩ := o_bind hit
    refine c_getR X hA.1.1 kc_TwinInk 2 q278 (Or.inl rfl) rfl rfl ev4 dX1_toForge_16 ?_
    refine lv_iload_n hx hb dX1_toForge_19 rfl (lv_at hl 1 rfl) ?_
    obtain ⟨q5, eq5, hit⟩ := o_bind hit
    obtain ⟨iq5, eq5⟩ := vc_inv eq5
    refine c_cR X hA.1.1 (fun U hU hW => hA.D X.2.1 X.2.2 h0H hU hW) kc_Service (wC3_isBurnt l γ X.2.1 _ _ _ _ eq5) iq5 nm_X3_isBurnt q1382 q606 q140 q608 q607 ⟨Nat.le_trans (Nat.le_of_ble_eq_true rfl) hR.1, Nat.le_trans (Nat.le_of_ble_eq_true rfl) hR.2⟩ hA.RR rfl rfl hl.1 (lv_room (Nat.le_of_ble_eq_true rfl)) dX1_toForge_20 ?_
    refine b_if_ne (tgt := 37) hx hb dX1_toForge_23 (by decide) hit (fun c6 hit => ?_) (fun c6 hit => ?_)
    · refine lv_iconst (v := (-1)) hx hb dX1_toForge_37 (by decide) ?_
      have he := o_in hit
      exact hend (some (.int (-1))) q2 _ _ _ _ _ _ _ _ (kOut_i rfl) (by subst he; rfl) hA dX1_toForge_38
    · refine lv_aload_n hx hb dX1_toForge_26 rfl (lv_at hl 0 rfl) ?_
      obtain ⟨v7, ev7, hit⟩ := o_bind hit
      refine c_getR X hA.1.1 kc_TwinInk 2 q278 (Or.inl rfl) rfl rfl ev7 dX1_toForge_27 ?_
      refine lv_iload_n hx hb dX1_toForge_30 rfl (lv_at hl 2 rfl) ?_
      obtain ⟨q8, eq8, hit⟩ := o_bind hit
      obtain ⟨iq8, eq8⟩ := vc_inv eq8
      refine c_cR X hA.1.1 (fun U hU hW => hA.D X.2.1 X.2.2 h0H hU hW) kc_Service (wC3_isBurnt l γ X.2.1 _ _ _ _ eq8) iq8 nm_X3_isBurnt q1382 q606 q140 q608 q607 ⟨Nat.le_trans (Nat.le_of_ble_eq_true rfl) hR.1, Nat.le_trans (Nat.le_of_ble_eq_true rfl) hR.2⟩ hA.RR rfl rfl hl.1 (lv_room (Nat.le_of_ble_eq_true rfl)) dX1_toForge_31 ?_
      refine b_if_eq (tgt := 39) hx hb dX1_toForge_34 (by decide) hit (fun c9 hit => ?_) (fun c9 hit => ?_)
      · refine lv_iconst (v := 0) hx hb dX1_toForge_39 (by decide) ?_
        refine lv_aload_n hx hb dX1_toForge_40 rfl (lv_at hl 0 rfl) ?_
        obtain ⟨v10, ev10, hit⟩ := o_bind hit
        refine c_getR X hA.1.1 kc_TwinInk 2 q278 (Or.inl rfl) rfl rfl ev10 dX1_toForge_41 ?_
        refine lv_iload_n hx hb dX1_toForge_44 rfl (lv_at hl 1 rfl) ?_
        refine lv_iload_n hx hb dX1_toForge_45 rfl (lv_at hl 2 rfl) ?_
        obtain ⟨q11, eq11, hit⟩ := o_bind hit
        obtain ⟨iq11, eq11⟩ := vc_inv eq11
        refine c_cR X hA.1.1 (fun U hU hW => hA.D X.2.1 X.2.2 h0H hU hW) kc_Service (wC3_far l γ X.2.1 _ _ _ _ _ eq11) iq11 nm_X3_far q1479 q610 q140 q612 q611 ⟨Nat.le_trans (Nat.le_of_ble_eq_true rfl) hR.1, Nat.le_trans (Nat.le_of_ble_eq_true rfl) hR.2⟩ hA.RR rfl rfl hl.1 (lv_room (Nat.le_of_ble_eq_true rfl)) dX1_toForge_46 ?_
        refine lv_aload_n hx hb dX1_toForge_49 rfl (lv_at hl 0 rfl) ?_
        obtain ⟨v12, ev12, hit⟩ := o_bind hit
        refine c_getR X hA.1.1 kc_TwinInk 1 q277 (Or.inl rfl) rfl rfl ev12 dX1_toForge_50 ?_
        obtain ⟨v13, ev13, hit⟩ := o_bind hit
        refine c_getNI X hA.1.1 kc_Office 3 q220 (Or.inl rfl) rfl rfl ev13 dX1_toForge_53 ?_
        refine lv_isub hx hb dX1_toForge_56 ?_
        refine b_max X.1 hl.1 q1253 (Nat.le_trans (Nat.le_of_ble_eq_true rfl) hR.1) (Nat.le_trans (Nat.le_of_ble_eq_true rfl) hR.2) hA.RR dX1_toForge_57 ?_
        have he := o_in hit
        exact hend (some (.int (imax 0 (q11 - v13)))) q2 _ _ _ _ _ _ _ _ (kOut_i rfl) (by subst he; rfl) hA dX1_toForge_60
      · refine lv_iconst (v := (-1)) hx hb dX1_toForge_37 (by decide) ?_
        have he := o_in hit
        exact hend (some (.int (-1))) q2 _ _ _ _ _ _ _ _ (kOut_i rfl) (by subst he; rfl) hA dX1_toForge_38
noncomputable def C1_toSave_L28 (o : Nat) (q1 : CS) (q3 : Int32) (t6 : Int32 × Int32 × Int32) : Option ((Int32 × Int32 × Int32) ⊕ ((Int32 × CS) ⊕ XT)) :=
  (gR q1.1 o 1 1).bind fun v8 =>
  (gI q1.1 v8 2 2).bind fun v9 =>
  if t6.2.2 < v9 then
    ((C1_isOf q3 t6.2.2).bind fun q11 =>
    xg (fun e_ => .inr (.inr e_)) ((if q11 = 0 then
        (some (.inl (t6.1, t6.2.1)))
      else
        ((vc q1.1 o 1 (C1_lost q1.1 o (q3 &&& (((1 : Int32) <<< (t6.2.2 &&& 31)) ^^^ (-1))))).bind fun q14 =>
        (CJ19_bitCount q14).bind fun q15 =>
        if q15 < t6.2.1 then
          (some (.inl (t6.2.2, q15)))
        else
          (some (.inl (t6.1, t6.2.1)))) : Option ((Int32 × Int32) ⊕ XT))) fun r12 =>
    some (.inl (r12.1, r12.2, (t6.2.2 + 1))))
  else
    (some (.inr (.inl (t6.1, q1))))
noncomputable def C1_toSave (h : CH) (r : CR) (o : Nat) (a0 : Int32) : Option ((Int32 × CS) ⊕ XT) :=
  xg Sum.inr (xchv r (C1_aTown h r a0)) fun q1 =>
  (gR q1.1 o 1 2).bind fun v2 =>
  (vc q1.1 v2 3 (C3_archive q1.1 v2 a0)).bind fun q3 =>
  (vc q1.1 o 1 (C1_lost q1.1 o q3)).bind fun q4 =>
  (CJ19_bitCount q4).bind fun q5 =>
  o_loop (C1_toSave_L28 o q1 q3) ((-1), q5, 0)
theorem nm_X1_toSave : kNm yX1_toSave RX1 1 := by unfold kNm; decide +kernel
set_option maxHeartbeats 4000000 in
set_option maxRecDepth 100000 in
theorem wC1_toSave (l : Launch) (hT : l.stackTraces = false) (γ : KG) (hO : kOK γ) (h : CH) (r : CR) (o : Nat) (a0 : Int32) (z : (Int32 × CS) ⊕ XT) (hz : C1_toSave h r o a0 = some z) : xMet l yX1_toSave (ws_ yX1_toSave cX1_toSave 7 (some .int)) 8 140 γ (h, r) [.ref o, .int a0] (xI z) := by
  refine x_start (cc := cX1_toSave) (own := RX1) hO rfl rfl rfl (fun p e R s m args below meth c Q ls X hR hnm h0H hA hl hend hthr hdir => ?_)
  have hx := X.1.1
  have hb := X.1.2.1
  have hit := hz
  clear hz
  unfold C1_toSave at hit
  have hl : lv_has ls 7 [(0, .ref o), (1, .int a0)] := hl
  refine lv_iload_n hx hb dX1_toSave_0 rfl (lv_at hl 1 rfl) ?_
  rcases xg_inv hit with ⟨q1, eq1, hit⟩ | ⟨x_q1, eq1, he⟩
  rotate_left
  · obtain ⟨eq1, lq1⟩ := xchv_r eq1
    refine t_cS X h0H hA nm_X1_aTown q1336 q1337 q135 q1338 (xMet.tv (wC1_aTown l hT γ X.2.1 _ _ _ _ eq1)) lq1 ⟨Nat.le_trans (Nat.le_of_ble_eq_true rfl) hR.1, Nat.le_trans (Nat.le_of_ble_eq_true rfl) hR.2⟩ rfl rfl hl.1 (lv_room (Nat.le_of_ble_eq_true rfl)) dX1_toSave_1 (fun H locs cells slots q_ hA hq => ?_)
    exact hthr _ _ _ _ _ _ _ _ _ (by subst he; rfl) hA hq
  obtain ⟨eq1, lq1⟩ := xchv_l eq1
  refine a_cS X h0H hA nm_X1_aTown q1336 q1337 q135 q1338 (xMet.v (wC1_aTown l hT γ X.2.1 _ _ _ _ eq1)) lq1 ⟨Nat.le_trans (Nat.le_of_ble_eq_true rfl) hR.1, Nat.le_trans (Nat.le_of_ble_eq_true rfl) hR.2⟩ rfl rfl hl.1 (lv_room (Nat.le_of_ble_eq_true rfl)) dX1_toSave_1 (fun H locs cells slots hA => ?_)
  refine lv_aload_n hx hb dX1_toSave_4 rfl (lv_at hl 0 rfl) ?_
  obtain ⟨v2, ev2, hit⟩ := o_bind hit
  refine c_getR X hA.1.1 kc_TwinInk 2 q278 (Or.inl rfl) rfl rfl ev2 dX1_toSave_5 ?_
  refine lv_iload_n hx hb dX1_toSave_8 rfl (lv_at hl 1 rfl) ?_
  obtain ⟨q3, eq3, hit⟩ := o_bind hit
  obtain ⟨iq3, eq3⟩ := vc_inv eq3
  refine c_cR X hA.1.1 (fun U hU hW => hA.D X.2.1 X.2.2 h0H hU hW) kc_Service (wC3_archive l γ X.2.1 _ _ _ _ eq3) iq3 nm_X3_archive q1339 q1340 q140 q1342 q1341 ⟨Nat.le_trans (Nat.le_of_ble_eq_true rfl) hR.1, Nat.le_trans (Nat.le_of_ble_eq_true rfl) hR.2⟩ hA.RR rfl rfl hl.1 (lv_room (Nat.le_of_ble_eq_true rfl)) dX1_toSave_9 ?_
  refine lv_istore_n (lv' := [(2, .int q3), (0, .ref o), (1, .int a0)]) hx hb dX1_toSave_12 rfl hl (by decide) rfl (fun ls hl => ?_)
  refine lv_iconst (v := (-1)) hx hb dX1_toSave_13 (by decide) ?_
  refine lv_istore_n (lv' := [(3, .int (-1)), (2, .int q3), (0, .ref o), (1, .int a0)]) hx hb dX1_toSave_14 rfl hl (by decide) rfl (fun ls hl => ?_)
  refine lv_aload_n hx hb dX1_toSave_15 rfl (lv_at hl 2 rfl) ?_
  refine lv_iload_n hx hb dX1_toSave_16 rfl (lv_at hl 1 rfl) ?_
  obtain ⟨q4, eq4, hit⟩ := o_bind hit
  obtain ⟨iq4, eq4⟩ := vc_inv eq4
  refine c_cR X hA.1.1 (fun U hU hW => hA.D X.2.1 X.2.2 h0H hU hW) kc_TwinInk (wC1_lost l γ X.2.1 _ _ _ _ eq4) iq4 nm_X1_lost q1345 q1347 q135 q1348 qs41 ⟨Nat.le_trans (Nat.le_of_ble_eq_true rfl) hR.1, Nat.le_trans (Nat.le_of_ble_eq_true rfl) hR.2⟩ hA.RR rfl rfl hl.1 (lv_room (Nat.le_of_ble_eq_true rfl)) dX1_toSave_17 ?_
  obtain ⟨q5, eq5, hit⟩ := o_bind hit
  refine c_cP X.1 (wCJ19_bitCount l _ _ eq5) nm_J19_bitCount q1458 q509 q165 q510 ⟨Nat.le_trans (Nat.le_of_ble_eq_true rfl) hR.1, Nat.le_trans (Nat.le_of_ble_eq_true rfl) hR.2⟩ hA.RR rfl rfl hl.1 (lv_room (Nat.le_of_ble_eq_true rfl)) dX1_toSave_20 ?_
  refine lv_istore (lv' := [(4, .int q5), (3, .int (-1)), (2, .int q3), (0, .ref o), (1, .int a0)]) hx hb dX1_toSave_23 hl (by decide) rfl (fun ls hl => ?_)
  refine lv_iconst (v := 0) hx hb dX1_toSave_25 (by decide) ?_
  refine lv_istore (lv' := [(5, .int 0), (4, .int q5), (3, .int (-1)), (2, .int q3), (0, .ref o), (1, .int a0)]) hx hb dX1_toSave_26 hl (by decide) rfl (fun ls hl => ?_)
  refine o_rec (P := fun t6 => ∀ (H : Heap) (locs : List Loc) (cells slots : Nat) (ls : Array Slot), AI γ (h, r) s R q1.1 q1.2 H locs cells slots → lv_has ls 7 [(2, .int q3), (0, .ref o), (3, .int t6.1), (4, .int t6.2.1), (5, .int t6.2.2)] → W p l e R s m args below meth c H locs cells slots Q (F0 m 28 ls [])) (fun t6 x7 hit hC6 hE6 H locs cells slots ls hA hl => ?_) _ hit _ _ _ _ _ hA (lv_sub hl [3, 4, 2, 1, 0] rfl)
  unfold C1_toSave_L28 at hit
  refine lv_iload hx hb dX1_toSave_28 (lv_at hl 4 rfl) ?_
  refine lv_aload_n hx hb dX1_toSave_30 rfl (lv_at hl 1 rfl) ?_
  obtain ⟨v8, ev8, hit⟩ := o_bind hit
  refine c_getR X hA.1.1 kc_TwinInk 1 q277 (Or.inl rfl) rfl rfl ev8 dX1_toSave_31 ?_
  obtain ⟨v9, ev9, hit⟩ := o_bind hit
  refine c_getNI X hA.1.1 kc_Office 2 q216 (Or.inl rfl) rfl rfl ev9 dX1_toSave_34 ?_
  refine b_icmp_ge (tgt := 92) hx hb dX1_toSave_37 (by decide) hit (fun c10 hit => ?_) (fun c10 hit => ?_)
  · refine lv_iload_n hx hb dX1_toSave_92 rfl (lv_at hl 2 rfl) ?_
    have he := o_in hit
    have he := hE6 _ he
    exact hend (some (.int t6.1)) q1 _ _ _ _ _ _ _ _ (kOut_i rfl) (by subst he; rfl) hA dX1_toSave_93
  · refine lv_iload_n hx hb dX1_toSave_40 rfl (lv_at hl 0 rfl) ?_
    refine lv_iload hx hb dX1_toSave_41 (lv_at hl 4 rfl) ?_
    obtain ⟨q11, eq11, hit⟩ := o_bind hit
    refine c_cP X.1 (wC1_isOf l _ _ _ eq11) nm_X1_isOf q1252 q519 q135 q520 ⟨Nat.le_trans (Nat.le_of_ble_eq_true rfl) hR.1, Nat.le_trans (Nat.le_of_ble_eq_true rfl) hR.2⟩ hA.RR rfl rfl hl.1 (lv_room (Nat.le_of_ble_eq_true rfl)) dX1_toSave_43 ?_
    obtain ⟨wr12, er12, hxr12⟩ := xg_bind hit
    have hr12 : ∀ (r12 : Int32 × Int32), wr12 = .inl r12 → ∀ (H : Heap) (locs : List Loc) (cells slots : Nat) (ls : Array Slot), AI γ (h, r) s R q1.1 q1.2 H locs cells slots → lv_has ls 7 [(2, .int q3), (0, .ref o), (5, .int t6.2.2), (3, .int r12.1), (4, .int r12.2)] → W p l e R s m args below meth c H locs cells slots Q (F0 m 86 ls []) := by
      intro r12 hw_ H locs cells slots ls hA hl
      have hit := xk_l hxr12 hw_
      refine lv_iinc (k := 2) (v := (t6.2.2 + 1)) (lv' := [(5, .int (t6.2.2 + 1)), (2, .int q3), (0, .ref o), (3, .int r12.1), (4, .int r12.2)]) hx hb dX1_toSave_86 hl rfl rfl (by decide) rfl (fun ls hl => ?_)
      refine lv_goto (tgt := 28) hx hb dX1_toSave_89 (by decide) ?_
      have he := o_in hit
      exact hC6 _ he _ _ _ _ _ hA (lv_sub hl [1, 2, 3, 4, 0] rfl)
    have hit := er12
    refine b_if_ne (tgt := 52) hx hb dX1_toSave_46 (by decide) hit (fun c13 hit => ?_) (fun c13 hit => ?_)
    · refine lv_aload_n hx hb dX1_toSave_52 rfl (lv_at hl 1 rfl) ?_
      refine lv_iload_n hx hb dX1_toSave_53 rfl (lv_at hl 0 rfl) ?_
      refine lv_iconst (v := 1) hx hb dX1_toSave_54 (by decide) ?_
      refine lv_iload hx hb dX1_toSave_55 (lv_at hl 4 rfl) ?_
      refine lv_ishl hx hb dX1_toSave_57 ?_
      refine lv_iconst (v := (-1)) hx hb dX1_toSave_58 (by decide) ?_
      refine lv_ixor hx hb dX1_toSave_59 ?_
      refine lv_iand hx hb dX1_toSave_60 ?_
      obtain ⟨q14, eq14, hit⟩ := o_bind hit
      obtain ⟨iq14, eq14⟩ := vc_inv eq14
      refine c_cR X hA.1.1 (fun U hU hW => hA.D X.2.1 X.2.2 h0H hU hW) kc_TwinInk (wC1_lost l γ X.2.1 _ _ _ _ eq14) iq14 nm_X1_lost q1345 q1347 q135 q1348 qs41 ⟨Nat.le_trans (Nat.le_of_ble_eq_true rfl) hR.1, Nat.le_trans (Nat.le_of_ble_eq_true rfl) hR.2⟩ hA.RR rfl rfl hl.1 (lv_room (Nat.le_of_ble_eq_true rfl)) dX1_toSave_61 ?_
      obtain ⟨q15, eq15, hit⟩ := o_bind hit
      refine c_cP X.1 (wCJ19_bitCount l _ _ eq15) nm_J19_bitCount q1458 q509 q165 q510 ⟨Nat.le_trans (Nat.le_of_ble_eq_true rfl) hR.1, Nat.le_trans (Nat.le_of_ble_eq_true rfl) hR.2⟩ hA.RR rfl rfl hl.1 (lv_room (Nat.le_of_ble_eq_true rfl)) dX1_toSave_64 ?_
      refine lv_istore (lv' := [(6, .int q15), (2, .int q3), (0, .ref o), (3, .int t6.1), (4, .int t6.2.1), (5, .int t6.2.2)]) hx hb dX1_toSave_67 hl (by decide) rfl (fun ls hl => ?_)
      refine lv_iload hx hb dX1_toSave_69 (lv_at hl 0 rfl) ?_
      refine lv_iload hx hb dX1_toSave_71 (lv_at hl 4 rfl) ?_
      refine b_icmp_lt (tgt := 79) hx hb dX1_toSave_73 (by decide) hit (fun c16 hit => ?_) (fun c16 hit => ?_)
      · refine lv_iload hx hb dX1_toSave_79 (lv_at hl 5 rfl) ?_
        refine lv_istore_n (lv' := [(3, .int t6.2.2), (6, .int q15), (2, .int q3), (0, .ref o), (4, .int t6.2.1), (5, .int t6.2.2)]) hx hb dX1_toSave_81 rfl hl (by decide) rfl (fun ls hl => ?_)
        refine lv_iload hx hb dX1_toSave_82 (lv_at hl 1 rfl) ?_
        refine lv_istore (lv' := [(4, .int q15), (3, .int t6.2.2), (6, .int q15), (2, .int q3), (0, .ref o), (5, .int t6.2.2)]) hx hb dX1_toSave_84 hl (by decide) rfl (fun ls hl => ?_)
        have he := o_in hit
        exact hr12 _ he.symm _ _ _ _ _ hA (lv_sub hl [3, 4, 5, 1, 0] rfl)
      · refine lv_goto (tgt := 86) hx hb dX1_toSave_76 (by decide) ?_
        have he := o_in hit
        exact hr12 _ he.symm _ _ _ _ _ hA (lv_sub hl [1, 2, 5, 3, 4] rfl)
    · refine lv_goto (tgt := 86) hx hb dX1_toSave_49 (by decide) ?_
      have he := o_in hit
      exact hr12 _ he.symm _ _ _ _ _ hA (lv_sub hl [0, 1, 4, 2, 3] rfl)
noncomputable def C1_fires_L53 (o : Nat) (a1 : Int32) (q3 : CS) (t8 : Int32 × Int32) (t11 : Int32 × Int32 × Int32) : Option ((Int32 × Int32 × Int32) ⊕ ((Int32 × Int32) ⊕ XT)) :=
  if t11.2.2 < 4 then
    ((C1_isOf t8.2 t11.2.2).bind fun q18 =>
    xg (fun e_ => .inr (.inr e_)) ((if q18 = 0 then
        (some (.inl (10 - a1)))
      else
        (some (.inl a1)) : Option (Int32 ⊕ XT))) fun r19 =>
    (C1_isOf t8.2 t11.2.2).bind fun q20 =>
    xg (fun e_ => .inr (.inr e_)) ((if q20 = 0 then
        (some (.inl t11.2.1))
      else
        ((gR q3.1 o 1 2).bind fun v23 =>
        (vc q3.1 v23 3 (C3_archive q3.1 v23 t11.2.2)).bind fun q24 =>
        some (.inl (t11.2.1 ||| q24))) : Option (Int32 ⊕ XT))) fun r21 =>
    some (.inl ((t11.1 * r19), r21, (t11.2.2 + 1))))
  else
    (some (.inr (.inl (t11.1, t11.2.1))))
noncomputable def C1_fires_L37 (o : Nat) (a0 : Int32) (a1 : Int32) (q3 : CS) (t8 : Int32 × Int32) : Option ((Int32 × Int32) ⊕ ((Int32 × CS) ⊕ XT)) :=
  if t8.2 < 16 then
    (xg (fun e_ => .inr (.inr e_)) (o_loop (C1_fires_L53 o a1 q3 t8) (1, 0, 0)) fun r13 =>
    (vc q3.1 o 1 (C1_isDead q3.1 o a0 r13.2)).bind fun q14 =>
    xg (fun e_ => .inr (.inr e_)) ((if q14 = 0 then
        (some (.inl t8.1))
      else
        (some (.inl (t8.1 + r13.1))) : Option (Int32 ⊕ XT))) fun r15 =>
    some (.inl (r15, (t8.2 + 1))))
  else
    (some (.inr (.inl (t8.1, q3))))
noncomputable def C1_fires (h : CH) (r : CR) (o : Nat) (a0 : Int32) (a1 : Int32) : Option ((Int32 × CS) ⊕ XT) :=
  xg Sum.inr (vc h o 1 (xchv r (C1_aWord h r o a0))) fun q1 =>
  (C1_in a1 0 10).bind fun q2 =>
  xg Sum.inr (xchv q1.2 (C1_right q1.1 q1.2 q2)) fun q3 =>
  (gR q3.1 o 1 2).bind fun v4 =>
  (vc q3.1 v4 3 (C3_burnt q3.1 v4)).bind fun q5 =>
  (vc q3.1 o 1 (C1_isDead q3.1 o a0 q5)).bind fun q6 =>
  if q6 = 0 then
    (o_loop (C1_fires_L37 o a0 a1 q3) (0, 0))
  else
    (some (.inl ((-1), q3)))
theorem nm_X1_fires : kNm yX1_fires RX1 2 := by unfold kNm; decide +kernel
set_option maxHeartbeats 4000000 in
set_option maxRecDepth 100000 in
theorem wC1_fires (l : Launch) (hT : l.stackTraces = false) (γ : KG) (hO : kOK γ) (h : CH) (r : CR) (o : Nat) (a0 : Int32) (a1 : Int32) (z : (Int32 × CS) ⊕ XT) (hz : C1_fires h r o a0 a1 = some z) : xMet l yX1_fires (ws_ yX1_fires cX1_fires 8 (some .int)) 8 141 γ (h, r) [.ref o, .int a0, .int a1] (xI z) := by
  refine x_start (cc := cX1_fires) (own := RX1) hO rfl rfl rfl (fun p e R s m args below meth c Q ls X hR hnm h0H hA hl hend hthr hdir => ?_)
  have hx := X.1.1
  have hb := X.1.2.1
  have hit := hz
  clear hz
  unfold C1_fires at hit
  have hl : lv_has ls 8 [(0, .ref o), (1, .int a0), (2, .int a1)] := hl
  refine lv_aload_n hx hb dX1_fires_0 rfl (lv_at hl 0 rfl) ?_
  refine lv_iload_n hx hb dX1_fires_1 rfl (lv_at hl 1 rfl) ?_
  rcases xg_inv hit with ⟨q1, eq1, hit⟩ | ⟨x_q1, eq1, he⟩
  rotate_left
  · obtain ⟨iq1, eq1⟩ := vc_inv eq1
    obtain ⟨eq1, lq1⟩ := xchv_r eq1
    refine t_cV X h0H hA kc_TwinInk (xMet.tv (wC1_aWord l hT γ X.2.1 _ _ _ _ _ eq1)) lq1 iq1 nm_X1_aWord q1316 q1318 q135 q1319 qs38 ⟨Nat.le_trans (Nat.le_of_ble_eq_true rfl) hR.1, Nat.le_trans (Nat.le_of_ble_eq_true rfl) hR.2⟩ rfl rfl hl.1 (lv_room (Nat.le_of_ble_eq_true rfl)) dX1_fires_2 (fun H locs cells slots q_ hA hq => ?_)
    exact hthr _ _ _ _ _ _ _ _ _ (by subst he; rfl) hA hq
  obtain ⟨iq1, eq1⟩ := vc_inv eq1
  obtain ⟨eq1, lq1⟩ := xchv_l eq1
  refine a_cV X h0H hA kc_TwinInk (xMet.v (wC1_aWord l hT γ X.2.1 _ _ _ _ _ eq1)) lq1 iq1 nm_X1_aWord q1316 q1318 q135 q1319 qs38 ⟨Nat.le_trans (Nat.le_of_ble_eq_true rfl) hR.1, Nat.le_trans (Nat.le_of_ble_eq_true rfl) hR.2⟩ rfl rfl hl.1 (lv_room (Nat.le_of_ble_eq_true rfl)) dX1_fires_2 (fun H locs cells slots hA => ?_)
  refine lv_iload_n hx hb dX1_fires_5 rfl (lv_at hl 2 rfl) ?_
  refine lv_iconst (v := 0) hx hb dX1_fires_6 (by decide) ?_
  refine lv_bipush (v := 10) hx hb dX1_fires_7 (by decide) ?_
  obtain ⟨q2, eq2, hit⟩ := o_bind hit
  refine c_cP X.1 (wC1_in l _ _ _ _ eq2) nm_X1_in q333 q334 q135 q335 ⟨Nat.le_trans (Nat.le_of_ble_eq_true rfl) hR.1, Nat.le_trans (Nat.le_of_ble_eq_true rfl) hR.2⟩ hA.RR rfl rfl hl.1 (lv_room (Nat.le_of_ble_eq_true rfl)) dX1_fires_9 ?_
  rcases xg_inv hit with ⟨q3, eq3, hit⟩ | ⟨x_q3, eq3, he⟩
  rotate_left
  · obtain ⟨eq3, lq3⟩ := xchv_r eq3
    refine t_cS X h0H hA nm_X1_right q691 q692 q135 q693 (xMet.tv (wC1_right l hT γ X.2.1 _ _ _ _ eq3)) lq3 ⟨Nat.le_trans (Nat.le_of_ble_eq_true rfl) hR.1, Nat.le_trans (Nat.le_of_ble_eq_true rfl) hR.2⟩ rfl rfl hl.1 (lv_room (Nat.le_of_ble_eq_true rfl)) dX1_fires_12 (fun H locs cells slots q_ hA hq => ?_)
    exact hthr _ _ _ _ _ _ _ _ _ (by subst he; rfl) hA hq
  obtain ⟨eq3, lq3⟩ := xchv_l eq3
  refine a_cS X h0H hA nm_X1_right q691 q692 q135 q693 (xMet.v (wC1_right l hT γ X.2.1 _ _ _ _ eq3)) lq3 ⟨Nat.le_trans (Nat.le_of_ble_eq_true rfl) hR.1, Nat.le_trans (Nat.le_of_ble_eq_true rfl) hR.2⟩ rfl rfl hl.1 (lv_room (Nat.le_of_ble_eq_true rfl)) dX1_fires_12 (fun H locs cells slots hA => ?_)
  refine lv_aload_n hx hb dX1_fires_15 rfl (lv_at hl 0 rfl) ?_
  refine lv_iload_n hx hb dX1_fires_16 rfl (lv_at hl 1 rfl) ?_
  refine lv_aload_n hx hb dX1_fires_17 rfl (lv_at hl 0 rfl) ?_
  obtain ⟨v4, ev4, hit⟩ := o_bind hit
  refine c_getR X hA.1.1 kc_TwinInk 2 q278 (Or.inl rfl) rfl rfl ev4 dX1_fires_18 ?_
  obtain ⟨q5, eq5, hit⟩ := o_bind hit
  obtain ⟨iq5, eq5⟩ := vc_inv eq5
  refine c_cR X hA.1.1 (fun U hU hW => hA.D X.2.1 X.2.2 h0H hU hW) kc_Service (wC3_burnt l γ X.2.1 _ _  _ eq5) iq5 nm_X3_burnt q1232 q1233 q140 q1235 q1234 ⟨Nat.le_trans (Nat.le_of_ble_eq_true rfl) hR.1, Nat.le_trans (Nat.le_of_ble_eq_true rfl) hR.2⟩ hA.RR rfl rfl hl.1 (lv_room (Nat.le_of_ble_eq_true rfl)) dX1_fires_21 ?_
  obtain ⟨q6, eq6, hit⟩ := o_bind hit
  obtain ⟨iq6, eq6⟩ := vc_inv eq6
  refine c_cR X hA.1.1 (fun U hU hW => hA.D X.2.1 X.2.2 h0H hU hW) kc_TwinInk (wC1_isDead l γ X.2.1 _ _ _ _ _ eq6) iq6 nm_X1_isDead q1353 q1355 q135 q1356 qs43 ⟨Nat.le_trans (Nat.le_of_ble_eq_true rfl) hR.1, Nat.le_trans (Nat.le_of_ble_eq_true rfl) hR.2⟩ hA.RR rfl rfl hl.1 (lv_room (Nat.le_of_ble_eq_true rfl)) dX1_fires_24 ?_
  refine b_if_eq (tgt := 32) hx hb dX1_fires_27 (by decide) hit (fun c7 hit => ?_) (fun c7 hit => ?_)
  · refine lv_iconst (v := 0) hx hb dX1_fires_32 (by decide) ?_
    refine lv_istore_n (lv' := [(3, .int 0), (0, .ref o), (1, .int a0), (2, .int a1)]) hx hb dX1_fires_33 rfl hl (by decide) rfl (fun ls hl => ?_)
    refine lv_iconst (v := 0) hx hb dX1_fires_34 (by decide) ?_
    refine lv_istore (lv' := [(4, .int 0), (3, .int 0), (0, .ref o), (1, .int a0), (2, .int a1)]) hx hb dX1_fires_35 hl (by decide) rfl (fun ls hl => ?_)
    refine o_rec (P := fun t8 => ∀ (H : Heap) (locs : List Loc) (cells slots : Nat) (ls : Array Slot), AI γ (h, r) s R q3.1 q3.2 H locs cells slots → lv_has ls 8 [(0, .ref o), (1, .int a0), (2, .int a1), (3, .int t8.1), (4, .int t8.2)] → W p l e R s m args below meth c H locs cells slots Q (F0 m 37 ls [])) (fun t8 x9 hit hC8 hE8 H locs cells slots ls hA hl => ?_) _ hit _ _ _ _ _ hA (lv_sub hl [2, 3, 4, 1, 0] rfl)
    unfold C1_fires_L37 at hit
    refine lv_iload hx hb dX1_fires_37 (lv_at hl 4 rfl) ?_
    refine lv_bipush (v := 16) hx hb dX1_fires_39 (by decide) ?_
    refine b_icmp_ge (tgt := 133) hx hb dX1_fires_41 (by decide) hit (fun c10 hit => ?_) (fun c10 hit => ?_)
    · refine lv_iload_n hx hb dX1_fires_133 rfl (lv_at hl 3 rfl) ?_
      have he := o_in hit
      have he := hE8 _ he
      exact hend (some (.int t8.1)) q3 _ _ _ _ _ _ _ _ (kOut_i rfl) (by subst he; rfl) hA dX1_fires_134
    · refine lv_iconst (v := 1) hx hb dX1_fires_44 (by decide) ?_
      refine lv_istore (lv' := [(5, .int 1), (0, .ref o), (1, .int a0), (2, .int a1), (3, .int t8.1), (4, .int t8.2)]) hx hb dX1_fires_45 hl (by decide) rfl (fun ls hl => ?_)
      refine lv_iconst (v := 0) hx hb dX1_fires_47 (by decide) ?_
      refine lv_istore (lv' := [(6, .int 0), (5, .int 1), (0, .ref o), (1, .int a0), (2, .int a1), (3, .int t8.1), (4, .int t8.2)]) hx hb dX1_fires_48 hl (by decide) rfl (fun ls hl => ?_)
      refine lv_iconst (v := 0) hx hb dX1_fires_50 (by decide) ?_
      refine lv_istore (lv' := [(7, .int 0), (6, .int 0), (5, .int 1), (0, .ref o), (1, .int a0), (2, .int a1), (3, .int t8.1), (4, .int t8.2)]) hx hb dX1_fires_51 hl (by decide) rfl (fun ls hl => ?_)
      obtain ⟨wr13, er13, hxr13⟩ := xg_bind hit
      have hr13 : ∀ (r13 : Int32 × Int32), wr13 = .inl r13 → ∀ (H : Heap) (locs : List Loc) (cells slots : Nat) (ls : Array Slot), AI γ (h, r) s R q3.1 q3.2 H locs cells slots → lv_has ls 8 [(0, .ref o), (1, .int a0), (2, .int a1), (3, .int t8.1), (4, .int t8.2), (5, .int r13.1), (6, .int r13.2)] → W p l e R s m args below meth c H locs cells slots Q (F0 m 112 ls []) := by
        intro r13 hw_ H locs cells slots ls hA hl
        have hit := xk_l hxr13 hw_
        refine lv_aload_n hx hb dX1_fires_112 rfl (lv_at hl 0 rfl) ?_
        refine lv_iload_n hx hb dX1_fires_113 rfl (lv_at hl 1 rfl) ?_
        refine lv_iload hx hb dX1_fires_114 (lv_at hl 6 rfl) ?_
        obtain ⟨q14, eq14, hit⟩ := o_bind hit
        obtain ⟨iq14, eq14⟩ := vc_inv eq14
        refine c_cR X hA.1.1 (fun U hU hW => hA.D X.2.1 X.2.2 h0H hU hW) kc_TwinInk (wC1_isDead l γ X.2.1 _ _ _ _ _ eq14) iq14 nm_X1_isDead q1353 q1355 q135 q1356 qs43 ⟨Nat.le_trans (Nat.le_of_ble_eq_true rfl) hR.1, Nat.le_trans (Nat.le_of_ble_eq_true rfl) hR.2⟩ hA.RR rfl rfl hl.1 (lv_room (Nat.le_of_ble_eq_true rfl)) dX1_fires_116 ?_
        obtain ⟨wr15, er15, hxr15⟩ := xg_bind hit
        have hr15 : ∀ (r15 : Int32), wr15 = .inl r15 → ∀ (H : Heap) (locs : List Loc) (cells slots : Nat) (ls : Array Slot), AI γ (h, r) s R q3.1 q3.2 H locs cells slots → lv_has ls 8 [(0, .ref o), (1, .int a0), (2, .int a1), (4, .int t8.2), (3, .int r15)] → W p l e R s m args below meth c H locs cells slots Q (F0 m 127 ls []) := by
          intro r15 hw_ H locs cells slots ls hA hl
          have hit := xk_l hxr15 hw_
          refine lv_iinc (k := 3) (v := (t8.2 + 1)) (lv' := [(4, .int (t8.2 + 1)), (0, .ref o), (1, .int a0), (2, .int a1), (3, .int r15)]) hx hb dX1_fires_127 hl rfl rfl (by decide) rfl (fun ls hl => ?_)
          refine lv_goto (tgt := 37) hx hb dX1_fires_130 (by decide) ?_
          have he := o_in hit
          exact hC8 _ he _ _ _ _ _ hA (lv_sub hl [1, 2, 3, 4, 0] rfl)
        have hit := er15
        refine b_if_eq (tgt := 127) hx hb dX1_fires_119 (by decide) hit (fun c16 hit => ?_) (fun c16 hit => ?_)
        · have he := o_in hit
          exact hr15 _ he.symm _ _ _ _ _ hA (lv_sub hl [0, 1, 2, 4, 3] rfl)
        · refine lv_iload_n hx hb dX1_fires_122 rfl (lv_at hl 3 rfl) ?_
          refine lv_iload hx hb dX1_fires_123 (lv_at hl 5 rfl) ?_
          refine lv_iadd hx hb dX1_fires_125 ?_
          refine lv_istore_n (lv' := [(3, .int (t8.1 + r13.1)), (0, .ref o), (1, .int a0), (2, .int a1), (4, .int t8.2), (5, .int r13.1), (6, .int r13.2)]) hx hb dX1_fires_126 rfl hl (by decide) rfl (fun ls hl => ?_)
          have he := o_in hit
          exact hr15 _ he.symm _ _ _ _ _ hA (lv_sub hl [1, 2, 3, 4, 0] rfl)
      refine o_rec (P := fun t11 => ∀ (H : Heap) (locs : List Loc) (cells slots : Nat) (ls : Array Slot), AI γ (h, r) s R q3.1 q3.2 H locs cells slots → lv_has ls 8 [(0, .ref o), (1, .int a0), (2, .int a1), (3, .int t8.1), (4, .int t8.2), (5, .int t11.1), (6, .int t11.2.1), (7, .int t11.2.2)] → W p l e R s m args below meth c H locs cells slots Q (F0 m 53 ls [])) (fun t11 x12 hit hC11 hE11 H locs cells slots ls hA hl => ?_) _ er13 _ _ _ _ _ hA (lv_sub hl [3, 4, 5, 6, 7, 2, 1, 0] rfl)
      unfold C1_fires_L53 at hit
      refine lv_iload hx hb dX1_fires_53 (lv_at hl 7 rfl) ?_
      refine lv_iconst (v := 4) hx hb dX1_fires_55 (by decide) ?_
      refine b_icmp_ge (tgt := 112) hx hb dX1_fires_56 (by decide) hit (fun c17 hit => ?_) (fun c17 hit => ?_)
      · have he := o_in hit
        have he := hE11 _ he
        exact hr13 _ he.symm _ _ _ _ _ hA (lv_sub hl [0, 1, 2, 3, 4, 5, 6] rfl)
      · refine lv_iload hx hb dX1_fires_59 (lv_at hl 5 rfl) ?_
        refine lv_iload hx hb dX1_fires_61 (lv_at hl 4 rfl) ?_
        refine lv_iload hx hb dX1_fires_63 (lv_at hl 7 rfl) ?_
        obtain ⟨q18, eq18, hit⟩ := o_bind hit
        refine c_cP X.1 (wC1_isOf l _ _ _ eq18) nm_X1_isOf q1252 q519 q135 q520 ⟨Nat.le_trans (Nat.le_of_ble_eq_true rfl) hR.1, Nat.le_trans (Nat.le_of_ble_eq_true rfl) hR.2⟩ hA.RR rfl rfl hl.1 (lv_room (Nat.le_of_ble_eq_true rfl)) dX1_fires_65 ?_
        obtain ⟨wr19, er19, hxr19⟩ := xg_bind hit
        have hr19 : ∀ (r19 : Int32), wr19 = .inl r19 → ∀ (H : Heap) (locs : List Loc) (cells slots : Nat) (ls : Array Slot), AI γ (h, r) s R q3.1 q3.2 H locs cells slots → lv_has ls 8 [(0, .ref o), (1, .int a0), (2, .int a1), (3, .int t8.1), (4, .int t8.2), (6, .int t11.2.1), (7, .int t11.2.2)] → W p l e R s m args below meth c H locs cells slots Q (F0 m 79 ls [.int r19, .int t11.1]) := by
          intro r19 hw_ H locs cells slots ls hA hl
          have hit := xk_l hxr19 hw_
          refine lv_imul hx hb dX1_fires_79 ?_
          refine lv_istore (lv' := [(5, .int (t11.1 * r19)), (0, .ref o), (1, .int a0), (2, .int a1), (3, .int t8.1), (4, .int t8.2), (6, .int t11.2.1), (7, .int t11.2.2)]) hx hb dX1_fires_80 hl (by decide) rfl (fun ls hl => ?_)
          refine lv_iload hx hb dX1_fires_82 (lv_at hl 5 rfl) ?_
          refine lv_iload hx hb dX1_fires_84 (lv_at hl 7 rfl) ?_
          obtain ⟨q20, eq20, hit⟩ := o_bind hit
          refine c_cP X.1 (wC1_isOf l _ _ _ eq20) nm_X1_isOf q1252 q519 q135 q520 ⟨Nat.le_trans (Nat.le_of_ble_eq_true rfl) hR.1, Nat.le_trans (Nat.le_of_ble_eq_true rfl) hR.2⟩ hA.RR rfl rfl hl.1 (lv_room (Nat.le_of_ble_eq_true rfl)) dX1_fires_86 ?_
          obtain ⟨wr21, er21, hxr21⟩ := xg_bind hit
          have hr21 : ∀ (r21 : Int32), wr21 = .inl r21 → ∀ (H : Heap) (locs : List Loc) (cells slots : Nat) (ls : Array Slot), AI γ (h, r) s R q3.1 q3.2 H locs cells slots → lv_has ls 8 [(5, .int (t11.1 * r19)), (0, .ref o), (1, .int a0), (2, .int a1), (3, .int t8.1), (4, .int t8.2), (7, .int t11.2.2), (6, .int r21)] → W p l e R s m args below meth c H locs cells slots Q (F0 m 106 ls []) := by
            intro r21 hw_ H locs cells slots ls hA hl
            have hit := xk_l hxr21 hw_
            refine lv_iinc (k := 6) (v := (t11.2.2 + 1)) (lv' := [(7, .int (t11.2.2 + 1)), (5, .int (t11.1 * r19)), (0, .ref o), (1, .int a0), (2, .int a1), (3, .int t8.1), (4, .int t8.2), (6, .int r21)]) hx hb dX1_fires_106 hl rfl rfl (by decide) rfl (fun ls hl => ?_)
            refine lv_goto (tgt := 53) hx hb dX1_fires_109 (by decide) ?_
            have he := o_in hit
            exact hC11 _ he _ _ _ _ _ hA (lv_sub hl [2, 3, 4, 5, 6, 1, 7, 0] rfl)
          have hit := er21
          refine b_if_eq (tgt := 106) hx hb dX1_fires_89 (by decide) hit (fun c22 hit => ?_) (fun c22 hit => ?_)
          · have he := o_in hit
            exact hr21 _ he.symm _ _ _ _ _ hA (lv_sub hl [0, 1, 2, 3, 4, 5, 7, 6] rfl)
          · refine lv_iload hx hb dX1_fires_92 (lv_at hl 6 rfl) ?_
            refine lv_aload_n hx hb dX1_fires_94 rfl (lv_at hl 1 rfl) ?_
            obtain ⟨v23, ev23, hit⟩ := o_bind hit
            refine c_getR X hA.1.1 kc_TwinInk 2 q278 (Or.inl rfl) rfl rfl ev23 dX1_fires_95 ?_
            refine lv_iload hx hb dX1_fires_98 (lv_at hl 7 rfl) ?_
            obtain ⟨q24, eq24, hit⟩ := o_bind hit
            obtain ⟨iq24, eq24⟩ := vc_inv eq24
            refine c_cR X hA.1.1 (fun U hU hW => hA.D X.2.1 X.2.2 h0H hU hW) kc_Service (wC3_archive l γ X.2.1 _ _ _ _ eq24) iq24 nm_X3_archive q1339 q1340 q140 q1342 q1341 ⟨Nat.le_trans (Nat.le_of_ble_eq_true rfl) hR.1, Nat.le_trans (Nat.le_of_ble_eq_true rfl) hR.2⟩ hA.RR rfl rfl hl.1 (lv_room (Nat.le_of_ble_eq_true rfl)) dX1_fires_100 ?_
            refine lv_ior hx hb dX1_fires_103 ?_
            refine lv_istore (lv' := [(6, .int (t11.2.1 ||| q24)), (5, .int (t11.1 * r19)), (0, .ref o), (1, .int a0), (2, .int a1), (3, .int t8.1), (4, .int t8.2), (7, .int t11.2.2)]) hx hb dX1_fires_104 hl (by decide) rfl (fun ls hl => ?_)
            have he := o_in hit
            exact hr21 _ he.symm _ _ _ _ _ hA (lv_sub hl [1, 2, 3, 4, 5, 6, 7, 0] rfl)
        have hit := er19
        refine b_if_eq (tgt := 75) hx hb dX1_fires_68 (by decide) hit (fun c25 hit => ?_) (fun c25 hit => ?_)
        · refine lv_bipush (v := 10) hx hb dX1_fires_75 (by decide) ?_
          refine lv_iload_n hx hb dX1_fires_77 rfl (lv_at hl 2 rfl) ?_
          refine lv_isub hx hb dX1_fires_78 ?_
          have he := o_in hit
          exact hr19 _ he.symm _ _ _ _ _ hA (lv_sub hl [0, 1, 2, 3, 4, 6, 7] rfl)
        · refine lv_iload_n hx hb dX1_fires_71 rfl (lv_at hl 2 rfl) ?_
          refine lv_goto (tgt := 79) hx hb dX1_fires_72 (by decide) ?_
          have he := o_in hit
          exact hr19 _ he.symm _ _ _ _ _ hA (lv_sub hl [0, 1, 2, 3, 4, 6, 7] rfl)
  · refine lv_iconst (v := (-1)) hx hb dX1_fires_30 (by decide) ?_
    have he := o_in hit
    exact hend (some (.int (-1))) q3 _ _ _ _ _ _ _ _ (kOut_i rfl) (by subst he; rfl) hA dX1_fires_31
noncomputable def C1_hear_J34 (o : Nat) (q2 : CS) : Option ((Int32 × CS) ⊕ XT) :=
  (vc q2.1 o 1 (C1_refuse q2.1 o 2)).bind fun q5 =>
  some (.inl (q5.1, (q5.2, q2.2)))
noncomputable def C1_hear (K : Nat → Nat) (h : CH) (r : CR) (o : Nat) (a0 : Int32) (a1 : Int32) (a2 : Int32) (a3 : Int32) : Option ((Int32 × CS) ⊕ XT) :=
  xg Sum.inr (vc h o 1 (xchv r (C1_aClerk h r o a0))) fun q1 =>
  xg Sum.inr (vc q1.1 o 1 (xchv q1.2 (C1_aWord q1.1 q1.2 o a1))) fun q2 =>
  (gR q2.1 o 1 9).bind fun v3 =>
  (vc q2.1 v3 10 (CJ2_size q2.1 v3)).bind fun q4 =>
  if q4 = 8 then
    (C1_hear_J34 o q2)
  else
    ((C1_in a2 0 12).bind fun q7 =>
    if q7 = 0 then
      (C1_hear_J34 o q2)
    else
      ((gR q2.1 o 1 9).bind fun v9 =>
      (aArr q2.1 q2.2 0 4).bind fun s10 =>
      (sI s10.1 q2.2.1 0 0 a0).bind fun s11 =>
      (sI s11 q2.2.1 0 1 a1).bind fun s12 =>
      (sI s12 q2.2.1 0 2 a2).bind fun s13 =>
      xg Sum.inr ((if a3 = 0 then
          (some (.inl 0))
        else
          (some (.inl 1)) : Option (Int32 ⊕ XT))) fun r14 =>
      (sI s13 q2.2.1 0 3 r14).bind fun s15 =>
      (vc s15 v9 10 (achk s10.2 (CJ2_add K s15 s10.2 v9 q2.2.1))).bind fun q16 =>
      (gR q16.2.1 o 1 9).bind fun v17 =>
      (vc q16.2.1 v17 10 (CJ2_size q16.2.1 v17)).bind fun q18 =>
      some (.inl (q18, q16.2))))
theorem nm_X1_hear : kNm yX1_hear RX1 4 := by unfold kNm; decide +kernel
set_option maxHeartbeats 4000000 in
set_option maxRecDepth 100000 in
theorem wC1_hear (l : Launch) (hT : l.stackTraces = false) (γ : KG) (hO : kOK γ) (h : CH) (r : CR) (o : Nat) (a0 : Int32) (a1 : Int32) (a2 : Int32) (a3 : Int32) (z : (Int32 × CS) ⊕ XT) (hz : C1_hear γ.2.2.2.2.2 h r o a0 a1 a2 a3 = some z) : xMet l yX1_hear (ws_ yX1_hear cX1_hear 5 (some .int)) 8 171 γ (h, r) [.ref o, .int a0, .int a1, .int a2, .int a3] (xI z) := by
  refine x_start (cc := cX1_hear) (own := RX1) hO rfl rfl rfl (fun p e R s m args below meth c Q ls X hR hnm h0H hA hl hend hthr hdir => ?_)
  have hx := X.1.1
  have hb := X.1.2.1
  have hit := hz
  clear hz
  unfold C1_hear at hit
  have hl : lv_has ls 5 [(0, .ref o), (1, .int a0), (2, .int a1), (3, .int a2), (4, .int a3)] := hl
  refine lv_aload_n hx hb dX1_hear_0 rfl (lv_at hl 0 rfl) ?_
  refine lv_iload_n hx hb dX1_hear_1 rfl (lv_at hl 1 rfl) ?_
  rcases xg_inv hit with ⟨q1, eq1, hit⟩ | ⟨x_q1, eq1, he⟩
  rotate_left
  · obtain ⟨iq1, eq1⟩ := vc_inv eq1
    obtain ⟨eq1, lq1⟩ := xchv_r eq1
    refine t_cV X h0H hA kc_TwinInk (xMet.tv (wC1_aClerk l hT γ X.2.1 _ _ _ _ _ eq1)) lq1 iq1 nm_X1_aClerk q1299 q1301 q135 q1302 qs37 ⟨Nat.le_trans (Nat.le_of_ble_eq_true rfl) hR.1, Nat.le_trans (Nat.le_of_ble_eq_true rfl) hR.2⟩ rfl rfl hl.1 (lv_room (Nat.le_of_ble_eq_true rfl)) dX1_hear_2 (fun H locs cells slots q_ hA hq => ?_)
    exact hthr _ _ _ _ _ _ _ _ _ (by subst he; rfl) hA hq
  obtain ⟨iq1, eq1⟩ := vc_inv eq1
  obtain ⟨eq1, lq1⟩ := xchv_l eq1
  refine a_cV X h0H hA kc_TwinInk (xMet.v (wC1_aClerk l hT γ X.2.1 _ _ _ _ _ eq1)) lq1 iq1 nm_X1_aClerk q1299 q1301 q135 q1302 qs37 ⟨Nat.le_trans (Nat.le_of_ble_eq_true rfl) hR.1, Nat.le_trans (Nat.le_of_ble_eq_true rfl) hR.2⟩ rfl rfl hl.1 (lv_room (Nat.le_of_ble_eq_true rfl)) dX1_hear_2 (fun H locs cells slots hA => ?_)
  refine lv_aload_n hx hb dX1_hear_5 rfl (lv_at hl 0 rfl) ?_
  refine lv_iload_n hx hb dX1_hear_6 rfl (lv_at hl 2 rfl) ?_
  rcases xg_inv hit with ⟨q2, eq2, hit⟩ | ⟨x_q2, eq2, he⟩
  rotate_left
  · obtain ⟨iq2, eq2⟩ := vc_inv eq2
    obtain ⟨eq2, lq2⟩ := xchv_r eq2
    refine t_cV X h0H hA kc_TwinInk (xMet.tv (wC1_aWord l hT γ X.2.1 _ _ _ _ _ eq2)) lq2 iq2 nm_X1_aWord q1316 q1318 q135 q1319 qs38 ⟨Nat.le_trans (Nat.le_of_ble_eq_true rfl) hR.1, Nat.le_trans (Nat.le_of_ble_eq_true rfl) hR.2⟩ rfl rfl hl.1 (lv_room (Nat.le_of_ble_eq_true rfl)) dX1_hear_7 (fun H locs cells slots q_ hA hq => ?_)
    exact hthr _ _ _ _ _ _ _ _ _ (by subst he; rfl) hA hq
  obtain ⟨iq2, eq2⟩ := vc_inv eq2
  obtain ⟨eq2, lq2⟩ := xchv_l eq2
  refine a_cV X h0H hA kc_TwinInk (xMet.v (wC1_aWord l hT γ X.2.1 _ _ _ _ _ eq2)) lq2 iq2 nm_X1_aWord q1316 q1318 q135 q1319 qs38 ⟨Nat.le_trans (Nat.le_of_ble_eq_true rfl) hR.1, Nat.le_trans (Nat.le_of_ble_eq_true rfl) hR.2⟩ rfl rfl hl.1 (lv_room (Nat.le_of_ble_eq_true rfl)) dX1_hear_7 (fun H locs cells slots hA => ?_)
  refine lv_aload_n hx hb dX1_hear_10 rfl (lv_at hl 0 rfl) ?_
  obtain ⟨v3, ev3, hit⟩ := o_bind hit
  refine c_getR X hA.1.1 kc_TwinInk 9 q286 (Or.inl rfl) rfl rfl ev3 dX1_hear_11 ?_
  obtain ⟨q4, eq4, hit⟩ := o_bind hit
  obtain ⟨iq4, eq4⟩ := vc_inv eq4
  refine c_cRF X hA.1.1 (fun U hU hW => hA.D X.2.1 X.2.2 h0H hU hW) kc_ArrayList (wCJ2_size l γ X.2.1 _ _  _ eq4) iq4 nmi_List_size q423 q428 q139 q430 q426 q425 q424 q429 q427 q358 ⟨Nat.le_trans (Nat.le_of_ble_eq_true rfl) hR.1, Nat.le_trans (Nat.le_of_ble_eq_true rfl) hR.2⟩ hA.RR rfl rfl hl.1 (lv_room (Nat.le_of_ble_eq_true rfl)) dX1_hear_14 ?_
  refine lv_bipush (v := 8) hx hb dX1_hear_19 (by decide) ?_
  have hK34 : C1_hear_J34 o q2 = some z → ∀ (H : Heap) (locs : List Loc) (cells slots : Nat) (ls : Array Slot), AI γ (h, r) s R q2.1 q2.2 H locs cells slots → lv_has ls 5 [(0, .ref o)] → W p l e R s m args below meth c H locs cells slots Q (F0 m 34 ls []) := by
    intro  hit H locs cells slots ls hA hl
    unfold C1_hear_J34 at hit
    refine lv_aload_n hx hb dX1_hear_34 rfl (lv_at hl 0 rfl) ?_
    refine lv_iconst (v := 2) hx hb dX1_hear_35 (by decide) ?_
    obtain ⟨q5, eq5, hit⟩ := o_bind hit
    obtain ⟨iq5, eq5⟩ := vc_inv eq5
    refine c_cN X (kA_F X.2.1 X.2.2 h0H) hA.1 kc_TwinInk (wC1_refuse l γ X.2.1 _ _ _ _ eq5) iq5 nm_X1_refuse q336 q338 q135 q339 qs0 ⟨Nat.le_trans (Nat.le_of_ble_eq_true rfl) hR.1, Nat.le_trans (Nat.le_of_ble_eq_true rfl) hR.2⟩ hA.RR rfl rfl hl.1 (lv_room (Nat.le_of_ble_eq_true rfl)) dX1_hear_36 (fun H locs hI => ?_)
    replace hA := hA.up hI
    clear hI
    have he := o_in hit
    exact hend (some (.int q5.1)) (q5.2, q2.2) _ _ _ _ _ _ _ _ (kOut_i rfl) (by subst he; rfl) hA dX1_hear_39
  refine b_icmp_eq (tgt := 34) hx hb dX1_hear_21 (by decide) hit (fun c6 hit => ?_) (fun c6 hit => ?_)
  · exact hK34  hit _ _ _ _ _ hA (lv_sub hl [0] rfl)
  · refine lv_iload_n hx hb dX1_hear_24 rfl (lv_at hl 3 rfl) ?_
    refine lv_iconst (v := 0) hx hb dX1_hear_25 (by decide) ?_
    refine lv_bipush (v := 12) hx hb dX1_hear_26 (by decide) ?_
    obtain ⟨q7, eq7, hit⟩ := o_bind hit
    refine c_cP X.1 (wC1_in l _ _ _ _ eq7) nm_X1_in q333 q334 q135 q335 ⟨Nat.le_trans (Nat.le_of_ble_eq_true rfl) hR.1, Nat.le_trans (Nat.le_of_ble_eq_true rfl) hR.2⟩ hA.RR rfl rfl hl.1 (lv_room (Nat.le_of_ble_eq_true rfl)) dX1_hear_28 ?_
    refine b_if_ne (tgt := 40) hx hb dX1_hear_31 (by decide) hit (fun c8 hit => ?_) (fun c8 hit => ?_)
    · refine lv_aload_n hx hb dX1_hear_40 rfl (lv_at hl 0 rfl) ?_
      obtain ⟨v9, ev9, hit⟩ := o_bind hit
      refine c_getR X hA.1.1 kc_TwinInk 9 q286 (Or.inl rfl) rfl rfl ev9 dX1_hear_41 ?_
      refine lv_iconst (v := 4) hx hb dX1_hear_44 (by decide) ?_
      obtain ⟨s10, es10, hit⟩ := o_bind hit
      refine a_newI X hA es10 dX1_hear_45 (fun H cells slots hA => ?_)
      refine lv_dup hx hb dX1_hear_47 rfl ?_
      refine lv_iconst (v := 0) hx hb dX1_hear_48 (by decide) ?_
      refine lv_iload_n hx hb dX1_hear_49 rfl (lv_at hl 1 rfl) ?_
      obtain ⟨s11, es11, hit⟩ := o_bind hit
      refine c_iast X hA.1 es11 dX1_hear_50 (fun H locs hI => ?_)
      replace hA := hA.up hI
      clear hI
      refine lv_dup hx hb dX1_hear_51 rfl ?_
      refine lv_iconst (v := 1) hx hb dX1_hear_52 (by decide) ?_
      refine lv_iload_n hx hb dX1_hear_53 rfl (lv_at hl 2 rfl) ?_
      obtain ⟨s12, es12, hit⟩ := o_bind hit
      refine c_iast X hA.1 es12 dX1_hear_54 (fun H locs hI => ?_)
      replace hA := hA.up hI
      clear hI
      refine lv_dup hx hb dX1_hear_55 rfl ?_
      refine lv_iconst (v := 2) hx hb dX1_hear_56 (by decide) ?_
      refine lv_iload_n hx hb dX1_hear_57 rfl (lv_at hl 3 rfl) ?_
      obtain ⟨s13, es13, hit⟩ := o_bind hit
      refine c_iast X hA.1 es13 dX1_hear_58 (fun H locs hI => ?_)
      replace hA := hA.up hI
      clear hI
      refine lv_dup hx hb dX1_hear_59 rfl ?_
      refine lv_iconst (v := 3) hx hb dX1_hear_60 (by decide) ?_
      refine lv_iload hx hb dX1_hear_61 (lv_at hl 4 rfl) ?_
      obtain ⟨wr14, er14, hxr14⟩ := xg_bind hit
      have hr14 : ∀ (r14 : Int32), wr14 = .inl r14 → ∀ (H : Heap) (locs : List Loc) (cells slots : Nat) (ls : Array Slot), AI γ (h, r) s R s13 s10.2 H locs cells slots → lv_has ls 5 [(0, .ref o)] → W p l e R s m args below meth c H locs cells slots Q (F0 m 71 ls [.int r14, .int 3, .ref q2.2.1, .ref q2.2.1, .ref v9]) := by
        intro r14 hw_ H locs cells slots ls hA hl
        have hit := xk_l hxr14 hw_
        obtain ⟨s15, es15, hit⟩ := o_bind hit
        refine c_iast X hA.1 es15 dX1_hear_71 (fun H locs hI => ?_)
        replace hA := hA.up hI
        clear hI
        obtain ⟨q16, eq16, hit⟩ := o_bind hit
        obtain ⟨iq16, eq16⟩ := vc_inv eq16
        obtain ⟨eq16, lq16⟩ := achk_inv eq16
        refine a_cF X h0H hA kc_ArrayList iq16 nmi_List_add q355 q361 q139 q363 q359 q357 q356 q362 q360 q358 (wCJ2_add l γ X.2.1 _ _ _ _ _ eq16) lq16 ⟨Nat.le_trans (Nat.le_of_ble_eq_true rfl) hR.1, Nat.le_trans (Nat.le_of_ble_eq_true rfl) hR.2⟩ rfl rfl hl.1 (lv_room (Nat.le_of_ble_eq_true rfl)) dX1_hear_72 (fun H locs cells slots hA => ?_)
        refine lv_pop hx hb dX1_hear_77 rfl ?_
        refine lv_aload_n hx hb dX1_hear_78 rfl (lv_at hl 0 rfl) ?_
        obtain ⟨v17, ev17, hit⟩ := o_bind hit
        refine c_getR X hA.1.1 kc_TwinInk 9 q286 (Or.inl rfl) rfl rfl ev17 dX1_hear_79 ?_
        obtain ⟨q18, eq18, hit⟩ := o_bind hit
        obtain ⟨iq18, eq18⟩ := vc_inv eq18
        refine c_cRF X hA.1.1 (fun U hU hW => hA.D X.2.1 X.2.2 h0H hU hW) kc_ArrayList (wCJ2_size l γ X.2.1 _ _  _ eq18) iq18 nmi_List_size q423 q428 q139 q430 q426 q425 q424 q429 q427 q358 ⟨Nat.le_trans (Nat.le_of_ble_eq_true rfl) hR.1, Nat.le_trans (Nat.le_of_ble_eq_true rfl) hR.2⟩ hA.RR rfl rfl hl.1 (lv_room (Nat.le_of_ble_eq_true rfl)) dX1_hear_82 ?_
        have he := o_in hit
        exact hend (some (.int q18)) q16.2 _ _ _ _ _ _ _ _ (kOut_i rfl) (by subst he; rfl) hA dX1_hear_87
      have hit := er14
      refine b_if_eq (tgt := 70) hx hb dX1_hear_63 (by decide) hit (fun c19 hit => ?_) (fun c19 hit => ?_)
      · refine lv_iconst (v := 0) hx hb dX1_hear_70 (by decide) ?_
        have he := o_in hit
        exact hr14 _ he.symm _ _ _ _ _ hA (lv_sub hl [0] rfl)
      · refine lv_iconst (v := 1) hx hb dX1_hear_66 (by decide) ?_
        refine lv_goto (tgt := 71) hx hb dX1_hear_67 (by decide) ?_
        have he := o_in hit
        exact hr14 _ he.symm _ _ _ _ _ hA (lv_sub hl [0] rfl)
    · exact hK34  hit _ _ _ _ _ hA (lv_sub hl [0] rfl)
noncomputable def C1_borne (K : Nat → Nat) (h : CH) (r : CR) (o : Nat) (a0 : Int32) : Option ((Int32 × CS) ⊕ XT) :=
  xg Sum.inr (xchv r (C1_oneOf h r a0 2)) fun q1 =>
  if a0 = 2 then
    ((gR q1.1 o 1 3).bind fun v12 =>
    (gR q1.1 o 1 2).bind fun v13 =>
    (vc q1.1 v12 3 (C3_be q1.1 v12 v13)).bind fun q14 =>
    (vc q14.2 o 1 (C1_isSo K q14.2 o)).bind fun q15 =>
    if q15.1 = 0 then
      (some (.inl (0, (q15.2, q1.2))))
    else
      (some (.inl (1, (q15.2, q1.2)))))
  else
    ((vc q1.1 o 1 (achk q1.2 (C1_others K q1.1 q1.2 o))).bind fun q3 =>
    if a0 = 0 then
      ((vc q3.2.1 q3.1 10 (CJ2_size q3.2.1 q3.1)).bind fun q11 =>
      some (.inl (q11, q3.2)))
    else
      ((vc q3.2.1 q3.1 10 (CJ2_isEmpty q3.2.1 q3.1)).bind fun q5 =>
      if q5 = 0 then
        ((vc q3.2.1 q3.1 10 (CJ2_get q3.2.1 q3.1 0)).bind fun q7 =>
        (ckC q3.2.1 q7 12).bind fun u9 =>
        (vc q3.2.1 q7 12 (CJ19_intValue q3.2.1 q7)).bind fun q10 =>
        some (.inl (q10, q3.2)))
      else
        (some (.inl ((-1), q3.2)))))
theorem nm_X1_borne : kNm yX1_borne RX1 1 := by unfold kNm; decide +kernel
set_option maxHeartbeats 4000000 in
set_option maxRecDepth 100000 in
theorem wC1_borne (l : Launch) (hT : l.stackTraces = false) (γ : KG) (hO : kOK γ) (h : CH) (r : CR) (o : Nat) (a0 : Int32) (z : (Int32 × CS) ⊕ XT) (hz : C1_borne γ.2.2.2.2.2 h r o a0 = some z) : xMet l yX1_borne (ws_ yX1_borne cX1_borne 3 (some .int)) 815 20415 γ (h, r) [.ref o, .int a0] (xI z) := by
  refine x_start (cc := cX1_borne) (own := RX1) hO rfl rfl rfl (fun p e R s m args below meth c Q ls X hR hnm h0H hA hl hend hthr hdir => ?_)
  have hx := X.1.1
  have hb := X.1.2.1
  have hit := hz
  clear hz
  unfold C1_borne at hit
  have hl : lv_has ls 3 [(0, .ref o), (1, .int a0)] := hl
  refine lv_iload_n hx hb dX1_borne_0 rfl (lv_at hl 1 rfl) ?_
  refine lv_iconst (v := 2) hx hb dX1_borne_1 (by decide) ?_
  rcases xg_inv hit with ⟨q1, eq1, hit⟩ | ⟨x_q1, eq1, he⟩
  rotate_left
  · obtain ⟨eq1, lq1⟩ := xchv_r eq1
    refine t_cS X h0H hA nm_X1_oneOf q1283 q1284 q135 q1285 (xMet.tv (wC1_oneOf l hT γ X.2.1 _ _ _ _ _ eq1)) lq1 ⟨Nat.le_trans (Nat.le_of_ble_eq_true rfl) hR.1, Nat.le_trans (Nat.le_of_ble_eq_true rfl) hR.2⟩ rfl rfl hl.1 (lv_room (Nat.le_of_ble_eq_true rfl)) dX1_borne_2 (fun H locs cells slots q_ hA hq => ?_)
    exact hthr _ _ _ _ _ _ _ _ _ (by subst he; rfl) hA hq
  obtain ⟨eq1, lq1⟩ := xchv_l eq1
  refine a_cS X h0H hA nm_X1_oneOf q1283 q1284 q135 q1285 (xMet.v (wC1_oneOf l hT γ X.2.1 _ _ _ _ _ eq1)) lq1 ⟨Nat.le_trans (Nat.le_of_ble_eq_true rfl) hR.1, Nat.le_trans (Nat.le_of_ble_eq_true rfl) hR.2⟩ rfl rfl hl.1 (lv_room (Nat.le_of_ble_eq_true rfl)) dX1_borne_2 (fun H locs cells slots hA => ?_)
  refine lv_iload_n hx hb dX1_borne_5 rfl (lv_at hl 1 rfl) ?_
  refine lv_iconst (v := 2) hx hb dX1_borne_6 (by decide) ?_
  refine b_icmp_ne (tgt := 35) hx hb dX1_borne_7 (by decide) hit (fun c2 hit => ?_) (fun c2 hit => ?_)
  · refine lv_aload_n hx hb dX1_borne_35 rfl (lv_at hl 0 rfl) ?_
    obtain ⟨q3, eq3, hit⟩ := o_bind hit
    obtain ⟨iq3, eq3⟩ := vc_inv eq3
    obtain ⟨eq3, lq3⟩ := achk_inv eq3
    refine a_cV X h0H hA kc_TwinInk (wC1_others l γ X.2.1 _ _ _  _ eq3) lq3 iq3 nm_X1_others q1512 q1514 q135 q1515 qs48 ⟨Nat.le_trans (Nat.le_of_ble_eq_true rfl) hR.1, Nat.le_trans (Nat.le_of_ble_eq_true rfl) hR.2⟩ rfl rfl hl.1 (lv_room (Nat.le_of_ble_eq_true rfl)) dX1_borne_36 (fun H locs cells slots hA => ?_)
    refine lv_astore_n (lv' := [(2, .ref q3.1), (0, .ref o), (1, .int a0)]) hx hb dX1_borne_39 rfl hl (by decide) rfl (fun ls hl => ?_)
    refine lv_iload_n hx hb dX1_borne_40 rfl (lv_at hl 2 rfl) ?_
    refine b_if_ne (tgt := 53) hx hb dX1_borne_41 (by decide) hit (fun c4 hit => ?_) (fun c4 hit => ?_)
    · refine lv_aload_n hx hb dX1_borne_53 rfl (lv_at hl 0 rfl) ?_
      obtain ⟨q5, eq5, hit⟩ := o_bind hit
      obtain ⟨iq5, eq5⟩ := vc_inv eq5
      refine c_cRF X hA.1.1 (fun U hU hW => hA.D X.2.1 X.2.2 h0H hU hW) kc_ArrayList (wCJ2_isEmpty l γ X.2.1 _ _  _ eq5) iq5 nmi_List_isEmpty q630 q635 q139 q637 q633 q632 q631 q636 q634 q358 ⟨Nat.le_trans (Nat.le_of_ble_eq_true rfl) hR.1, Nat.le_trans (Nat.le_of_ble_eq_true rfl) hR.2⟩ hA.RR rfl rfl hl.1 (lv_room (Nat.le_of_ble_eq_true rfl)) dX1_borne_54 ?_
      refine b_if_eq (tgt := 66) hx hb dX1_borne_59 (by decide) hit (fun c6 hit => ?_) (fun c6 hit => ?_)
      · refine lv_aload_n hx hb dX1_borne_66 rfl (lv_at hl 0 rfl) ?_
        refine lv_iconst (v := 0) hx hb dX1_borne_67 (by decide) ?_
        obtain ⟨q7, eq7, hit⟩ := o_bind hit
        obtain ⟨iq7, eq7⟩ := vc_inv eq7
        refine c_cRF X hA.1.1 (fun U hU hW => hA.D X.2.1 X.2.2 h0H hU hW) kc_ArrayList (wCJ2_get l γ X.2.1 _ _ _ _ eq7) iq7 nmi_List_get q643 q483 q139 q485 q481 q480 q479 q484 q482 q358 ⟨Nat.le_trans (Nat.le_of_ble_eq_true rfl) hR.1, Nat.le_trans (Nat.le_of_ble_eq_true rfl) hR.2⟩ hA.RR rfl rfl hl.1 (lv_room (Nat.le_of_ble_eq_true rfl)) dX1_borne_68 ?_
        obtain ⟨u9, eu9, hit⟩ := o_bind hit
        refine c_castS X hA.1.1 kc_Integer q1517 eu9 dX1_borne_73 ?_
        obtain ⟨q10, eq10, hit⟩ := o_bind hit
        obtain ⟨iq10, eq10⟩ := vc_inv eq10
        refine c_cR X hA.1.1 (fun U hU hW => hA.D X.2.1 X.2.2 h0H hU hW) kc_Integer (wCJ19_intValue l γ X.2.1 _ _  _ eq10) iq10 nm_J19_intValue q1518 q493 q165 q495 q494 ⟨Nat.le_trans (Nat.le_of_ble_eq_true rfl) hR.1, Nat.le_trans (Nat.le_of_ble_eq_true rfl) hR.2⟩ hA.RR rfl rfl hl.1 (lv_room (Nat.le_of_ble_eq_true rfl)) dX1_borne_76 ?_
        have he := o_in hit
        exact hend (some (.int q10)) q3.2 _ _ _ _ _ _ _ _ (kOut_i rfl) (by subst he; rfl) hA dX1_borne_79
      · refine lv_iconst (v := (-1)) hx hb dX1_borne_62 (by decide) ?_
        refine lv_goto (tgt := 79) hx hb dX1_borne_63 (by decide) ?_
        have he := o_in hit
        exact hend (some (.int (-1))) q3.2 _ _ _ _ _ _ _ _ (kOut_i rfl) (by subst he; rfl) hA dX1_borne_79
    · refine lv_aload_n hx hb dX1_borne_44 rfl (lv_at hl 0 rfl) ?_
      obtain ⟨q11, eq11, hit⟩ := o_bind hit
      obtain ⟨iq11, eq11⟩ := vc_inv eq11
      refine c_cRF X hA.1.1 (fun U hU hW => hA.D X.2.1 X.2.2 h0H hU hW) kc_ArrayList (wCJ2_size l γ X.2.1 _ _  _ eq11) iq11 nmi_List_size q423 q428 q139 q430 q426 q425 q424 q429 q427 q358 ⟨Nat.le_trans (Nat.le_of_ble_eq_true rfl) hR.1, Nat.le_trans (Nat.le_of_ble_eq_true rfl) hR.2⟩ hA.RR rfl rfl hl.1 (lv_room (Nat.le_of_ble_eq_true rfl)) dX1_borne_45 ?_
      refine lv_goto (tgt := 79) hx hb dX1_borne_50 (by decide) ?_
      have he := o_in hit
      exact hend (some (.int q11)) q3.2 _ _ _ _ _ _ _ _ (kOut_i rfl) (by subst he; rfl) hA dX1_borne_79
  · refine lv_aload_n hx hb dX1_borne_10 rfl (lv_at hl 0 rfl) ?_
    obtain ⟨v12, ev12, hit⟩ := o_bind hit
    refine c_getR X hA.1.1 kc_TwinInk 3 q279 (Or.inl rfl) rfl rfl ev12 dX1_borne_11 ?_
    refine lv_aload_n hx hb dX1_borne_14 rfl (lv_at hl 0 rfl) ?_
    obtain ⟨v13, ev13, hit⟩ := o_bind hit
    refine c_getR X hA.1.1 kc_TwinInk 2 q278 (Or.inl rfl) rfl rfl ev13 dX1_borne_15 ?_
    obtain ⟨q14, eq14, hit⟩ := o_bind hit
    obtain ⟨iq14, eq14⟩ := vc_inv eq14
    refine c_cN X (kA_F X.2.1 X.2.2 h0H) hA.1 kc_Service (wC3_be l γ X.2.1 _ _ _ _ eq14) iq14 nm_X3_be q1406 q351 q140 q353 q352 ⟨Nat.le_trans (Nat.le_of_ble_eq_true rfl) hR.1, Nat.le_trans (Nat.le_of_ble_eq_true rfl) hR.2⟩ hA.RR rfl rfl hl.1 (lv_room (Nat.le_of_ble_eq_true rfl)) dX1_borne_18 (fun H locs hI => ?_)
    replace hA := hA.up hI
    clear hI
    refine lv_pop hx hb dX1_borne_21 rfl ?_
    refine lv_aload_n hx hb dX1_borne_22 rfl (lv_at hl 0 rfl) ?_
    obtain ⟨q15, eq15, hit⟩ := o_bind hit
    obtain ⟨iq15, eq15⟩ := vc_inv eq15
    refine c_cN X (kA_F X.2.1 X.2.2 h0H) hA.1 kc_TwinInk (wC1_isSo l γ X.2.1 _ _  _ eq15) iq15 nm_X1_isSo q1508 q1510 q135 q1511 qs47 ⟨Nat.le_trans (Nat.le_of_ble_eq_true rfl) hR.1, Nat.le_trans (Nat.le_of_ble_eq_true rfl) hR.2⟩ hA.RR rfl rfl hl.1 (lv_room (Nat.le_of_ble_eq_true rfl)) dX1_borne_23 (fun H locs hI => ?_)
    replace hA := hA.up hI
    clear hI
    refine b_if_eq (tgt := 33) hx hb dX1_borne_26 (by decide) hit (fun c16 hit => ?_) (fun c16 hit => ?_)
    · refine lv_iconst (v := 0) hx hb dX1_borne_33 (by decide) ?_
      have he := o_in hit
      exact hend (some (.int 0)) (q15.2, q1.2) _ _ _ _ _ _ _ _ (kOut_i rfl) (by subst he; rfl) hA dX1_borne_34
    · refine lv_iconst (v := 1) hx hb dX1_borne_29 (by decide) ?_
      refine lv_goto (tgt := 34) hx hb dX1_borne_30 (by decide) ?_
      have he := o_in hit
      exact hend (some (.int 1)) (q15.2, q1.2) _ _ _ _ _ _ _ _ (kOut_i rfl) (by subst he; rfl) hA dX1_borne_34
noncomputable def C1_ask_L170 (q2 : Nat × CS) (r7 : CS) (t8 : Int32 × Int32 × Int32) (t15 : Int32 × Int32) (t22 : Int32 × Int32) : Option ((Int32 × Int32) ⊕ (Int32 ⊕ XT)) :=
  if t22.2 < t15.2 then
    (if t22.1 = 0 then
      (some (.inr (.inl t22.1)))
    else
      ((aQ r7.1 q2.2.2.1 4 t22.2).bind fun v29 =>
      (v29).bind fun v30 =>
      (aI r7.1 v30 0 t8.2.2).bind fun v31 =>
      (aQ r7.1 q2.2.2.1 4 t15.2).bind fun v32 =>
      (v32).bind fun v33 =>
      (aI r7.1 v33 0 t8.2.2).bind fun v34 =>
      xg (fun e_ => .inr (.inr e_)) ((if v31 = v34 then
          (some (.inl 0))
        else
          (some (.inl 1)) : Option (Int32 ⊕ XT))) fun r35 =>
      some (.inl (r35, (t22.2 + 1)))))
  else
    (some (.inr (.inl t22.1)))
noncomputable def C1_ask_L157 (q2 : Nat × CS) (r7 : CS) (t8 : Int32 × Int32 × Int32) (t15 : Int32 × Int32) : Option ((Int32 × Int32) ⊕ (Int32 ⊕ XT)) :=
  (aN r7.1 q2.2.2.1 4).bind fun v20 =>
  if t15.2 < v20 then
    (xg (fun e_ => .inr (.inr e_)) (o_loop (C1_ask_L170 q2 r7 t8 t15) (1, 0)) fun r24 =>
    xg (fun e_ => .inr (.inr e_)) ((if r24 = 0 then
        (some (.inl t15.1))
      else
        (some (.inl (t15.1 + 1))) : Option (Int32 ⊕ XT))) fun r25 =>
    some (.inl (r25, (t15.2 + 1))))
  else
    (some (.inr (.inl t15.1)))
noncomputable def C1_ask_L139 (o : Nat) (q2 : Nat × CS) (r7 : CS) (t8 : Int32 × Int32 × Int32) : Option ((Int32 × Int32 × Int32) ⊕ ((Int32 × Int32) ⊕ XT)) :=
  (gR r7.1 o 1 1).bind fun v12 =>
  (vc r7.1 v12 2 (C2_clerks r7.1 v12)).bind fun q13 =>
  if t8.2.2 < q13 then
    (xg (fun e_ => .inr (.inr e_)) (o_loop (C1_ask_L157 q2 r7 t8) (0, 0)) fun r17 =>
    xg (fun e_ => .inr (.inr e_)) ((if r17 ≤ t8.2.1 then
        (some (.inl (t8.1, t8.2.1)))
      else
        (some (.inl (t8.2.2, r17))) : Option ((Int32 × Int32) ⊕ XT))) fun r18 =>
    some (.inl (r18.1, r18.2, (t8.2.2 + 1))))
  else
    (some (.inr (.inl (t8.1, t8.2.1))))
noncomputable def C1_ask_L94 (o : Nat) (q2 : Nat × CS) (t5 : Int32 × CS) (t53 : Int32 × CS) : Option ((Int32 × CS) ⊕ (CS ⊕ XT)) :=
  if t53.1 < 6 then
    ((aQ t53.2.1 q2.2.2.1 4 t5.1).bind fun v57 =>
    (v57).bind fun v58 =>
    (gR t53.2.1 o 1 3).bind fun v59 =>
    (gR t53.2.1 v59 3 3).bind fun v60 =>
    (aI t53.2.1 v60 0 t53.1).bind fun v61 =>
    (sI t53.2.1 v58 0 t53.1 v61).bind fun s62 =>
    some (.inl ((t53.1 + 1), (s62, t53.2.2))))
  else
    (some (.inr (.inl t53.2)))
noncomputable def C1_ask_L26 (K : Nat → Nat) (o : Nat) (q2 : Nat × CS) (t5 : Int32 × CS) : Option ((Int32 × CS) ⊕ (CS ⊕ XT)) :=
  (aN t5.2.1 q2.2.2.1 4).bind fun v37 =>
  if t5.1 < v37 then
    ((gR t5.2.1 o 1 3).bind fun v39 =>
    (gR t5.2.1 o 1 2).bind fun v40 =>
    (vc t5.2.1 v39 3 (C3_be t5.2.1 v39 v40)).bind fun q41 =>
    (vc q41.2 q2.1 10 (CJ2_get q41.2 q2.1 t5.1)).bind fun q42 =>
    (ckC q41.2 q42 12).bind fun u44 =>
    (vc q41.2 q42 12 (CJ19_intValue q41.2 q42)).bind fun q45 =>
    (vc q41.2 q2.1 10 (CJ2_get q41.2 q2.1 t5.1)).bind fun q46 =>
    (ckC q41.2 q46 12).bind fun u48 =>
    (vc q41.2 q46 12 (CJ19_intValue q41.2 q46)).bind fun q49 =>
    (vc q41.2 q41.1 3 (C3_take q41.2 q41.1 (q45 / 10) (imod q49 10))).bind fun q50 =>
    (gR q50 o 1 3).bind fun v51 =>
    (vc q50 v51 3 (C3_after K q50 v51 6)).bind fun q52 =>
    xg (fun e_ => .inr (.inr e_)) (o_loop (C1_ask_L94 o q2 t5) (0, (q52.2, t5.2.2))) fun r55 =>
    some (.inl ((t5.1 + 1), r55)))
  else
    (some (.inr (.inl t5.2)))
noncomputable def C1_ask (K : Nat → Nat) (h : CH) (r : CR) (o : Nat) (a0 : Int32) : Option ((Int32 × CS) ⊕ XT) :=
  xg Sum.inr (xchv r (C1_oneOf h r a0 1)) fun q1 =>
  (vc q1.1 o 1 (achk q1.2 (C1_others K q1.1 q1.2 o))).bind fun q2 =>
  (vc q2.2.1 q2.1 10 (CJ2_size q2.2.1 q2.1)).bind fun q3 =>
  (aGrid q2.2.1 q2.2.2 q3 6).bind fun s4 =>
  xg Sum.inr (o_loop (C1_ask_L26 K o q2) (0, s4)) fun r7 =>
  xg Sum.inr (o_loop (C1_ask_L139 o q2 r7) ((-1), 0, 0)) fun r10 =>
  if a0 = 0 then
    (some (.inl (r10.1, r7)))
  else
    (some (.inl (r10.2, r7)))
theorem nm_X1_ask : kNm yX1_ask RX1 1 := by unfold kNm; decide +kernel
set_option maxHeartbeats 4000000 in
set_option maxRecDepth 100000 in
theorem wC1_ask (l : Launch) (hT : l.stackTraces = false) (γ : KG) (hO : kOK γ) (h : CH) (r : CR) (o : Nat) (a0 : Int32) (z : (Int32 × CS) ⊕ XT) (hz : C1_ask γ.2.2.2.2.2 h r o a0 = some z) : xMet l yX1_ask (ws_ yX1_ask cX1_ask 11 (some .int)) 815 20415 γ (h, r) [.ref o, .int a0] (xI z) := by
  refine x_start (cc := cX1_ask) (own := RX1) hO rfl rfl rfl (fun p e R s m args below meth c Q ls X hR hnm h0H hA hl hend hthr hdir => ?_)
  have hx := X.1.1
  have hb := X.1.2.1
  have hit := hz
  clear hz
  unfold C1_ask at hit
  have hl : lv_has ls 11 [(0, .ref o), (1, .int a0)] := hl
  refine lv_iload_n hx hb dX1_ask_0 rfl (lv_at hl 1 rfl) ?_
  refine lv_iconst (v := 1) hx hb dX1_ask_1 (by decide) ?_
  rcases xg_inv hit with ⟨q1, eq1, hit⟩ | ⟨x_q1, eq1, he⟩
  rotate_left
  · obtain ⟨eq1, lq1⟩ := xchv_r eq1
    refine t_cS X h0H hA nm_X1_oneOf q1283 q1284 q135 q1285 (xMet.tv (wC1_oneOf l hT γ X.2.1 _ _ _ _ _ eq1)) lq1 ⟨Nat.le_trans (Nat.le_of_ble_eq_true rfl) hR.1, Nat.le_trans (Nat.le_of_ble_eq_true rfl) hR.2⟩ rfl rfl hl.1 (lv_room (Nat.le_of_ble_eq_true rfl)) dX1_ask_2 (fun H locs cells slots q_ hA hq => ?_)
    exact hthr _ _ _ _ _ _ _ _ _ (by subst he; rfl) hA hq
  obtain ⟨eq1, lq1⟩ := xchv_l eq1
  refine a_cS X h0H hA nm_X1_oneOf q1283 q1284 q135 q1285 (xMet.v (wC1_oneOf l hT γ X.2.1 _ _ _ _ _ eq1)) lq1 ⟨Nat.le_trans (Nat.le_of_ble_eq_true rfl) hR.1, Nat.le_trans (Nat.le_of_ble_eq_true rfl) hR.2⟩ rfl rfl hl.1 (lv_room (Nat.le_of_ble_eq_true rfl)) dX1_ask_2 (fun H locs cells slots hA => ?_)
  refine lv_aload_n hx hb dX1_ask_5 rfl (lv_at hl 0 rfl) ?_
  obtain ⟨q2, eq2, hit⟩ := o_bind hit
  obtain ⟨iq2, eq2⟩ := vc_inv eq2
  obtain ⟨eq2, lq2⟩ := achk_inv eq2
  refine a_cV X h0H hA kc_TwinInk (wC1_others l γ X.2.1 _ _ _  _ eq2) lq2 iq2 nm_X1_others q1512 q1514 q135 q1515 qs48 ⟨Nat.le_trans (Nat.le_of_ble_eq_true rfl) hR.1, Nat.le_trans (Nat.le_of_ble_eq_true rfl) hR.2⟩ rfl rfl hl.1 (lv_room (Nat.le_of_ble_eq_true rfl)) dX1_ask_6 (fun H locs cells slots hA => ?_)
  refine lv_astore_n (lv' := [(2, .ref q2.1), (0, .ref o), (1, .int a0)]) hx hb dX1_ask_9 rfl hl (by decide) rfl (fun ls hl => ?_)
  refine lv_aload_n hx hb dX1_ask_10 rfl (lv_at hl 0 rfl) ?_
  obtain ⟨q3, eq3, hit⟩ := o_bind hit
  obtain ⟨iq3, eq3⟩ := vc_inv eq3
  refine c_cRF X hA.1.1 (fun U hU hW => hA.D X.2.1 X.2.2 h0H hU hW) kc_ArrayList (wCJ2_size l γ X.2.1 _ _  _ eq3) iq3 nmi_List_size q423 q428 q139 q430 q426 q425 q424 q429 q427 q358 ⟨Nat.le_trans (Nat.le_of_ble_eq_true rfl) hR.1, Nat.le_trans (Nat.le_of_ble_eq_true rfl) hR.2⟩ hA.RR rfl rfl hl.1 (lv_room (Nat.le_of_ble_eq_true rfl)) dX1_ask_11 ?_
  refine lv_bipush (v := 6) hx hb dX1_ask_16 (by decide) ?_
  obtain ⟨s4, es4, hit⟩ := o_bind hit
  refine a_grid X hA es4 q1470 dX1_ask_18 (fun H cells slots hA => ?_)
  refine lv_astore_n (lv' := [(3, .ref q2.2.2.1), (2, .ref q2.1), (0, .ref o), (1, .int a0)]) hx hb dX1_ask_22 rfl hl (by decide) rfl (fun ls hl => ?_)
  refine lv_iconst (v := 0) hx hb dX1_ask_23 (by decide) ?_
  refine lv_istore (lv' := [(4, .int 0), (3, .ref q2.2.2.1), (2, .ref q2.1), (0, .ref o), (1, .int a0)]) hx hb dX1_ask_24 hl (by decide) rfl (fun ls hl => ?_)
  obtain ⟨wr7, er7, hxr7⟩ := xg_bind hit
  have hr7 : ∀ (r7 : CS), wr7 = .inl r7 → ∀ (H : Heap) (locs : List Loc) (cells slots : Nat) (ls : Array Slot), AI γ (h, r) s R r7.1 r7.2 H locs cells slots → lv_has ls 11 [(3, .ref q2.2.2.1), (0, .ref o), (1, .int a0)] → W p l e R s m args below meth c H locs cells slots Q (F0 m 130 ls []) := by
    intro r7 hw_ H locs cells slots ls hA hl
    have hit := xk_l hxr7 hw_
    refine lv_iconst (v := (-1)) hx hb dX1_ask_130 (by decide) ?_
    refine lv_istore (lv' := [(4, .int (-1)), (3, .ref q2.2.2.1), (0, .ref o), (1, .int a0)]) hx hb dX1_ask_131 hl (by decide) rfl (fun ls hl => ?_)
    refine lv_iconst (v := 0) hx hb dX1_ask_133 (by decide) ?_
    refine lv_istore (lv' := [(5, .int 0), (4, .int (-1)), (3, .ref q2.2.2.1), (0, .ref o), (1, .int a0)]) hx hb dX1_ask_134 hl (by decide) rfl (fun ls hl => ?_)
    refine lv_iconst (v := 0) hx hb dX1_ask_136 (by decide) ?_
    refine lv_istore (lv' := [(6, .int 0), (5, .int 0), (4, .int (-1)), (3, .ref q2.2.2.1), (0, .ref o), (1, .int a0)]) hx hb dX1_ask_137 hl (by decide) rfl (fun ls hl => ?_)
    obtain ⟨wr10, er10, hxr10⟩ := xg_bind hit
    have hr10 : ∀ (r10 : Int32 × Int32), wr10 = .inl r10 → ∀ (H : Heap) (locs : List Loc) (cells slots : Nat) (ls : Array Slot), AI γ (h, r) s R r7.1 r7.2 H locs cells slots → lv_has ls 11 [(1, .int a0), (4, .int r10.1), (5, .int r10.2)] → W p l e R s m args below meth c H locs cells slots Q (F0 m 250 ls []) := by
      intro r10 hw_ H locs cells slots ls hA hl
      have hit := xk_l hxr10 hw_
      refine lv_iload_n hx hb dX1_ask_250 rfl (lv_at hl 0 rfl) ?_
      refine b_if_ne (tgt := 259) hx hb dX1_ask_251 (by decide) hit (fun c11 hit => ?_) (fun c11 hit => ?_)
      · refine lv_iload hx hb dX1_ask_259 (lv_at hl 2 rfl) ?_
        have he := o_in hit
        exact hend (some (.int r10.2)) r7 _ _ _ _ _ _ _ _ (kOut_i rfl) (by subst he; rfl) hA dX1_ask_261
      · refine lv_iload hx hb dX1_ask_254 (lv_at hl 1 rfl) ?_
        refine lv_goto (tgt := 261) hx hb dX1_ask_256 (by decide) ?_
        have he := o_in hit
        exact hend (some (.int r10.1)) r7 _ _ _ _ _ _ _ _ (kOut_i rfl) (by subst he; rfl) hA dX1_ask_261
    refine o_rec (P := fun t8 => ∀ (H : Heap) (locs : List Loc) (cells slots : Nat) (ls : Array Slot), AI γ (h, r) s R r7.1 r7.2 H locs cells slots → lv_has ls 11 [(3, .ref q2.2.2.1), (0, .ref o), (1, .int a0), (4, .int t8.1), (5, .int t8.2.1), (6, .int t8.2.2)] → W p l e R s m args below meth c H locs cells slots Q (F0 m 139 ls [])) (fun t8 x9 hit hC8 hE8 H locs cells slots ls hA hl => ?_) _ er10 _ _ _ _ _ hA (lv_sub hl [3, 4, 5, 2, 1, 0] rfl)
    unfold C1_ask_L139 at hit
    refine lv_iload hx hb dX1_ask_139 (lv_at hl 5 rfl) ?_
    refine lv_aload_n hx hb dX1_ask_141 rfl (lv_at hl 1 rfl) ?_
    obtain ⟨v12, ev12, hit⟩ := o_bind hit
    refine c_getR X hA.1.1 kc_TwinInk 1 q277 (Or.inl rfl) rfl rfl ev12 dX1_ask_142 ?_
    obtain ⟨q13, eq13, hit⟩ := o_bind hit
    obtain ⟨iq13, eq13⟩ := vc_inv eq13
    refine c_cR X hA.1.1 (fun U hU hW => hA.D X.2.1 X.2.2 h0H hU hW) kc_Office (wC2_clerks l γ X.2.1 _ _  _ eq13) iq13 nm_X2_clerks q1231 q464 q136 q466 q465 ⟨Nat.le_trans (Nat.le_of_ble_eq_true rfl) hR.1, Nat.le_trans (Nat.le_of_ble_eq_true rfl) hR.2⟩ hA.RR rfl rfl hl.1 (lv_room (Nat.le_of_ble_eq_true rfl)) dX1_ask_145 ?_
    refine b_icmp_ge (tgt := 250) hx hb dX1_ask_148 (by decide) hit (fun c14 hit => ?_) (fun c14 hit => ?_)
    · have he := o_in hit
      have he := hE8 _ he
      exact hr10 _ he.symm _ _ _ _ _ hA (lv_sub hl [2, 3, 4] rfl)
    · refine lv_iconst (v := 0) hx hb dX1_ask_151 (by decide) ?_
      refine lv_istore (lv' := [(7, .int 0), (3, .ref q2.2.2.1), (0, .ref o), (1, .int a0), (4, .int t8.1), (5, .int t8.2.1), (6, .int t8.2.2)]) hx hb dX1_ask_152 hl (by decide) rfl (fun ls hl => ?_)
      refine lv_iconst (v := 0) hx hb dX1_ask_154 (by decide) ?_
      refine lv_istore (lv' := [(8, .int 0), (7, .int 0), (3, .ref q2.2.2.1), (0, .ref o), (1, .int a0), (4, .int t8.1), (5, .int t8.2.1), (6, .int t8.2.2)]) hx hb dX1_ask_155 hl (by decide) rfl (fun ls hl => ?_)
      obtain ⟨wr17, er17, hxr17⟩ := xg_bind hit
      have hr17 : ∀ (r17 : Int32), wr17 = .inl r17 → ∀ (H : Heap) (locs : List Loc) (cells slots : Nat) (ls : Array Slot), AI γ (h, r) s R r7.1 r7.2 H locs cells slots → lv_has ls 11 [(3, .ref q2.2.2.1), (0, .ref o), (1, .int a0), (4, .int t8.1), (5, .int t8.2.1), (6, .int t8.2.2), (7, .int r17)] → W p l e R s m args below meth c H locs cells slots Q (F0 m 226 ls []) := by
        intro r17 hw_ H locs cells slots ls hA hl
        have hit := xk_l hxr17 hw_
        refine lv_iload hx hb dX1_ask_226 (lv_at hl 6 rfl) ?_
        refine lv_iload hx hb dX1_ask_228 (lv_at hl 4 rfl) ?_
        obtain ⟨wr18, er18, hxr18⟩ := xg_bind hit
        have hr18 : ∀ (r18 : Int32 × Int32), wr18 = .inl r18 → ∀ (H : Heap) (locs : List Loc) (cells slots : Nat) (ls : Array Slot), AI γ (h, r) s R r7.1 r7.2 H locs cells slots → lv_has ls 11 [(3, .ref q2.2.2.1), (0, .ref o), (1, .int a0), (6, .int t8.2.2), (4, .int r18.1), (5, .int r18.2)] → W p l e R s m args below meth c H locs cells slots Q (F0 m 244 ls []) := by
          intro r18 hw_ H locs cells slots ls hA hl
          have hit := xk_l hxr18 hw_
          refine lv_iinc (k := 3) (v := (t8.2.2 + 1)) (lv' := [(6, .int (t8.2.2 + 1)), (3, .ref q2.2.2.1), (0, .ref o), (1, .int a0), (4, .int r18.1), (5, .int r18.2)]) hx hb dX1_ask_244 hl rfl rfl (by decide) rfl (fun ls hl => ?_)
          refine lv_goto (tgt := 139) hx hb dX1_ask_247 (by decide) ?_
          have he := o_in hit
          exact hC8 _ he _ _ _ _ _ hA (lv_sub hl [1, 2, 3, 4, 5, 0] rfl)
        have hit := er18
        refine b_icmp_gt (tgt := 236) hx hb dX1_ask_230 (by decide) hit (fun c19 hit => ?_) (fun c19 hit => ?_)
        · refine lv_iload hx hb dX1_ask_236 (lv_at hl 5 rfl) ?_
          refine lv_istore (lv' := [(4, .int t8.2.2), (3, .ref q2.2.2.1), (0, .ref o), (1, .int a0), (5, .int t8.2.1), (6, .int t8.2.2), (7, .int r17)]) hx hb dX1_ask_238 hl (by decide) rfl (fun ls hl => ?_)
          refine lv_iload hx hb dX1_ask_240 (lv_at hl 6 rfl) ?_
          refine lv_istore (lv' := [(5, .int r17), (4, .int t8.2.2), (3, .ref q2.2.2.1), (0, .ref o), (1, .int a0), (6, .int t8.2.2), (7, .int r17)]) hx hb dX1_ask_242 hl (by decide) rfl (fun ls hl => ?_)
          have he := o_in hit
          exact hr18 _ he.symm _ _ _ _ _ hA (lv_sub hl [2, 3, 4, 5, 1, 0] rfl)
        · refine lv_goto (tgt := 244) hx hb dX1_ask_233 (by decide) ?_
          have he := o_in hit
          exact hr18 _ he.symm _ _ _ _ _ hA (lv_sub hl [0, 1, 2, 5, 3, 4] rfl)
      refine o_rec (P := fun t15 => ∀ (H : Heap) (locs : List Loc) (cells slots : Nat) (ls : Array Slot), AI γ (h, r) s R r7.1 r7.2 H locs cells slots → lv_has ls 11 [(3, .ref q2.2.2.1), (0, .ref o), (1, .int a0), (4, .int t8.1), (5, .int t8.2.1), (6, .int t8.2.2), (7, .int t15.1), (8, .int t15.2)] → W p l e R s m args below meth c H locs cells slots Q (F0 m 157 ls [])) (fun t15 x16 hit hC15 hE15 H locs cells slots ls hA hl => ?_) _ er17 _ _ _ _ _ hA (lv_sub hl [2, 3, 4, 5, 6, 7, 1, 0] rfl)
      unfold C1_ask_L157 at hit
      refine lv_iload hx hb dX1_ask_157 (lv_at hl 7 rfl) ?_
      refine lv_aload_n hx hb dX1_ask_159 rfl (lv_at hl 0 rfl) ?_
      obtain ⟨v20, ev20, hit⟩ := o_bind hit
      refine c_alen X hA.1.1 4 (fun _ => rfl) ev20 dX1_ask_160 ?_
      refine b_icmp_ge (tgt := 226) hx hb dX1_ask_161 (by decide) hit (fun c21 hit => ?_) (fun c21 hit => ?_)
      · have he := o_in hit
        have he := hE15 _ he
        exact hr17 _ he.symm _ _ _ _ _ hA (lv_sub hl [0, 1, 2, 3, 4, 5, 6] rfl)
      · refine lv_iconst (v := 1) hx hb dX1_ask_164 (by decide) ?_
        refine lv_istore (lv' := [(9, .int 1), (3, .ref q2.2.2.1), (0, .ref o), (1, .int a0), (4, .int t8.1), (5, .int t8.2.1), (6, .int t8.2.2), (7, .int t15.1), (8, .int t15.2)]) hx hb dX1_ask_165 hl (by decide) rfl (fun ls hl => ?_)
        refine lv_iconst (v := 0) hx hb dX1_ask_167 (by decide) ?_
        refine lv_istore (lv' := [(10, .int 0), (9, .int 1), (3, .ref q2.2.2.1), (0, .ref o), (1, .int a0), (4, .int t8.1), (5, .int t8.2.1), (6, .int t8.2.2), (7, .int t15.1), (8, .int t15.2)]) hx hb dX1_ask_168 hl (by decide) rfl (fun ls hl => ?_)
        obtain ⟨wr24, er24, hxr24⟩ := xg_bind hit
        have hr24 : ∀ (r24 : Int32), wr24 = .inl r24 → ∀ (H : Heap) (locs : List Loc) (cells slots : Nat) (ls : Array Slot), AI γ (h, r) s R r7.1 r7.2 H locs cells slots → lv_has ls 11 [(3, .ref q2.2.2.1), (0, .ref o), (1, .int a0), (4, .int t8.1), (5, .int t8.2.1), (6, .int t8.2.2), (7, .int t15.1), (8, .int t15.2), (9, .int r24)] → W p l e R s m args below meth c H locs cells slots Q (F0 m 212 ls []) := by
          intro r24 hw_ H locs cells slots ls hA hl
          have hit := xk_l hxr24 hw_
          refine lv_iload hx hb dX1_ask_212 (lv_at hl 8 rfl) ?_
          obtain ⟨wr25, er25, hxr25⟩ := xg_bind hit
          have hr25 : ∀ (r25 : Int32), wr25 = .inl r25 → ∀ (H : Heap) (locs : List Loc) (cells slots : Nat) (ls : Array Slot), AI γ (h, r) s R r7.1 r7.2 H locs cells slots → lv_has ls 11 [(3, .ref q2.2.2.1), (0, .ref o), (1, .int a0), (4, .int t8.1), (5, .int t8.2.1), (6, .int t8.2.2), (8, .int t15.2), (7, .int r25)] → W p l e R s m args below meth c H locs cells slots Q (F0 m 220 ls []) := by
            intro r25 hw_ H locs cells slots ls hA hl
            have hit := xk_l hxr25 hw_
            refine lv_iinc (k := 6) (v := (t15.2 + 1)) (lv' := [(8, .int (t15.2 + 1)), (3, .ref q2.2.2.1), (0, .ref o), (1, .int a0), (4, .int t8.1), (5, .int t8.2.1), (6, .int t8.2.2), (7, .int r25)]) hx hb dX1_ask_220 hl rfl rfl (by decide) rfl (fun ls hl => ?_)
            refine lv_goto (tgt := 157) hx hb dX1_ask_223 (by decide) ?_
            have he := o_in hit
            exact hC15 _ he _ _ _ _ _ hA (lv_sub hl [1, 2, 3, 4, 5, 6, 7, 0] rfl)
          have hit := er25
          refine b_if_eq (tgt := 220) hx hb dX1_ask_214 (by decide) hit (fun c26 hit => ?_) (fun c26 hit => ?_)
          · have he := o_in hit
            exact hr25 _ he.symm _ _ _ _ _ hA (lv_sub hl [0, 1, 2, 3, 4, 5, 7, 6] rfl)
          · refine lv_iinc (k := 6) (v := (t15.1 + 1)) (lv' := [(7, .int (t15.1 + 1)), (3, .ref q2.2.2.1), (0, .ref o), (1, .int a0), (4, .int t8.1), (5, .int t8.2.1), (6, .int t8.2.2), (8, .int t15.2), (9, .int r24)]) hx hb dX1_ask_217 hl rfl rfl (by decide) rfl (fun ls hl => ?_)
            have he := o_in hit
            exact hr25 _ he.symm _ _ _ _ _ hA (lv_sub hl [1, 2, 3, 4, 5, 6, 7, 0] rfl)
        refine o_rec (P := fun t22 => ∀ (H : Heap) (locs : List Loc) (cells slots : Nat) (ls : Array Slot), AI γ (h, r) s R r7.1 r7.2 H locs cells slots → lv_has ls 11 [(3, .ref q2.2.2.1), (0, .ref o), (1, .int a0), (4, .int t8.1), (5, .int t8.2.1), (6, .int t8.2.2), (7, .int t15.1), (8, .int t15.2), (9, .int t22.1), (10, .int t22.2)] → W p l e R s m args below meth c H locs cells slots Q (F0 m 170 ls [])) (fun t22 x23 hit hC22 hE22 H locs cells slots ls hA hl => ?_) _ er24 _ _ _ _ _ hA (lv_sub hl [2, 3, 4, 5, 6, 7, 8, 9, 1, 0] rfl)
        unfold C1_ask_L170 at hit
        refine lv_iload hx hb dX1_ask_170 (lv_at hl 9 rfl) ?_
        refine lv_iload hx hb dX1_ask_172 (lv_at hl 7 rfl) ?_
        refine b_icmp_ge (tgt := 212) hx hb dX1_ask_174 (by decide) hit (fun c27 hit => ?_) (fun c27 hit => ?_)
        · have he := o_in hit
          have he := hE22 _ he
          exact hr24 _ he.symm _ _ _ _ _ hA (lv_sub hl [0, 1, 2, 3, 4, 5, 6, 7, 8] rfl)
        · refine lv_iload hx hb dX1_ask_177 (lv_at hl 8 rfl) ?_
          refine b_if_eq (tgt := 212) hx hb dX1_ask_179 (by decide) hit (fun c28 hit => ?_) (fun c28 hit => ?_)
          · have he := o_in hit
            have he := hE22 _ he
            exact hr24 _ he.symm _ _ _ _ _ hA (lv_sub hl [0, 1, 2, 3, 4, 5, 6, 7, 8] rfl)
          · refine lv_aload_n hx hb dX1_ask_182 rfl (lv_at hl 0 rfl) ?_
            refine lv_iload hx hb dX1_ask_183 (lv_at hl 9 rfl) ?_
            obtain ⟨v29, ev29, hit⟩ := o_bind hit
            refine c_aald X hA.1.1 4 (fun _ => rfl) rfl ev29 dX1_ask_185 ?_
            obtain ⟨v30, ev30, hit⟩ := o_bind hit
            refine c_deref ev30 ?_
            refine lv_iload hx hb dX1_ask_186 (lv_at hl 5 rfl) ?_
            obtain ⟨v31, ev31, hit⟩ := o_bind hit
            refine c_iald X hA.1.1 ev31 dX1_ask_188 ?_
            refine lv_aload_n hx hb dX1_ask_189 rfl (lv_at hl 0 rfl) ?_
            refine lv_iload hx hb dX1_ask_190 (lv_at hl 7 rfl) ?_
            obtain ⟨v32, ev32, hit⟩ := o_bind hit
            refine c_aald X hA.1.1 4 (fun _ => rfl) rfl ev32 dX1_ask_192 ?_
            obtain ⟨v33, ev33, hit⟩ := o_bind hit
            refine c_deref ev33 ?_
            refine lv_iload hx hb dX1_ask_193 (lv_at hl 5 rfl) ?_
            obtain ⟨v34, ev34, hit⟩ := o_bind hit
            refine c_iald X hA.1.1 ev34 dX1_ask_195 ?_
            obtain ⟨wr35, er35, hxr35⟩ := xg_bind hit
            have hr35 : ∀ (r35 : Int32), wr35 = .inl r35 → ∀ (H : Heap) (locs : List Loc) (cells slots : Nat) (ls : Array Slot), AI γ (h, r) s R r7.1 r7.2 H locs cells slots → lv_has ls 11 [(3, .ref q2.2.2.1), (0, .ref o), (1, .int a0), (4, .int t8.1), (5, .int t8.2.1), (6, .int t8.2.2), (7, .int t15.1), (8, .int t15.2), (10, .int t22.2)] → W p l e R s m args below meth c H locs cells slots Q (F0 m 204 ls [.int r35]) := by
              intro r35 hw_ H locs cells slots ls hA hl
              have hit := xk_l hxr35 hw_
              refine lv_istore (lv' := [(9, .int r35), (3, .ref q2.2.2.1), (0, .ref o), (1, .int a0), (4, .int t8.1), (5, .int t8.2.1), (6, .int t8.2.2), (7, .int t15.1), (8, .int t15.2), (10, .int t22.2)]) hx hb dX1_ask_204 hl (by decide) rfl (fun ls hl => ?_)
              refine lv_iinc (k := 9) (v := (t22.2 + 1)) (lv' := [(10, .int (t22.2 + 1)), (9, .int r35), (3, .ref q2.2.2.1), (0, .ref o), (1, .int a0), (4, .int t8.1), (5, .int t8.2.1), (6, .int t8.2.2), (7, .int t15.1), (8, .int t15.2)]) hx hb dX1_ask_206 hl rfl rfl (by decide) rfl (fun ls hl => ?_)
              refine lv_goto (tgt := 170) hx hb dX1_ask_209 (by decide) ?_
              have he := o_in hit
              exact hC22 _ he _ _ _ _ _ hA (lv_sub hl [2, 3, 4, 5, 6, 7, 8, 9, 1, 0] rfl)
            have hit := er35
            refine b_icmp_eq (tgt := 203) hx hb dX1_ask_196 (by decide) hit (fun c36 hit => ?_) (fun c36 hit => ?_)
            · refine lv_iconst (v := 0) hx hb dX1_ask_203 (by decide) ?_
              have he := o_in hit
              exact hr35 _ he.symm _ _ _ _ _ hA (lv_sub hl [0, 1, 2, 3, 4, 5, 6, 7, 9] rfl)
            · refine lv_iconst (v := 1) hx hb dX1_ask_199 (by decide) ?_
              refine lv_goto (tgt := 204) hx hb dX1_ask_200 (by decide) ?_
              have he := o_in hit
              exact hr35 _ he.symm _ _ _ _ _ hA (lv_sub hl [0, 1, 2, 3, 4, 5, 6, 7, 9] rfl)
  refine o_rec (P := fun t5 => ∀ (H : Heap) (locs : List Loc) (cells slots : Nat) (ls : Array Slot), AI γ (h, r) s R t5.2.1 t5.2.2 H locs cells slots → lv_has ls 11 [(3, .ref q2.2.2.1), (2, .ref q2.1), (0, .ref o), (1, .int a0), (4, .int t5.1)] → W p l e R s m args below meth c H locs cells slots Q (F0 m 26 ls [])) (fun t5 x6 hit hC5 hE5 H locs cells slots ls hA hl => ?_) _ er7 _ _ _ _ _ hA (lv_sub hl [1, 2, 3, 4, 0] rfl)
  unfold C1_ask_L26 at hit
  refine lv_iload hx hb dX1_ask_26 (lv_at hl 4 rfl) ?_
  refine lv_aload_n hx hb dX1_ask_28 rfl (lv_at hl 0 rfl) ?_
  obtain ⟨v37, ev37, hit⟩ := o_bind hit
  refine c_alen X hA.1.1 4 (fun _ => rfl) ev37 dX1_ask_29 ?_
  refine b_icmp_ge (tgt := 130) hx hb dX1_ask_30 (by decide) hit (fun c38 hit => ?_) (fun c38 hit => ?_)
  · have he := o_in hit
    have he := hE5 _ he
    exact hr7 _ he.symm _ _ _ _ _ hA (lv_sub hl [0, 2, 3] rfl)
  · refine lv_aload_n hx hb dX1_ask_33 rfl (lv_at hl 2 rfl) ?_
    obtain ⟨v39, ev39, hit⟩ := o_bind hit
    refine c_getR X hA.1.1 kc_TwinInk 3 q279 (Or.inl rfl) rfl rfl ev39 dX1_ask_34 ?_
    refine lv_aload_n hx hb dX1_ask_37 rfl (lv_at hl 2 rfl) ?_
    obtain ⟨v40, ev40, hit⟩ := o_bind hit
    refine c_getR X hA.1.1 kc_TwinInk 2 q278 (Or.inl rfl) rfl rfl ev40 dX1_ask_38 ?_
    obtain ⟨q41, eq41, hit⟩ := o_bind hit
    obtain ⟨iq41, eq41⟩ := vc_inv eq41
    refine c_cN X (kA_F X.2.1 X.2.2 h0H) hA.1 kc_Service (wC3_be l γ X.2.1 _ _ _ _ eq41) iq41 nm_X3_be q1406 q351 q140 q353 q352 ⟨Nat.le_trans (Nat.le_of_ble_eq_true rfl) hR.1, Nat.le_trans (Nat.le_of_ble_eq_true rfl) hR.2⟩ hA.RR rfl rfl hl.1 (lv_room (Nat.le_of_ble_eq_true rfl)) dX1_ask_41 (fun H locs hI => ?_)
    replace hA := hA.up hI
    clear hI
    refine lv_aload_n hx hb dX1_ask_44 rfl (lv_at hl 1 rfl) ?_
    refine lv_iload hx hb dX1_ask_45 (lv_at hl 4 rfl) ?_
    obtain ⟨q42, eq42, hit⟩ := o_bind hit
    obtain ⟨iq42, eq42⟩ := vc_inv eq42
    refine c_cRF X hA.1.1 (fun U hU hW => hA.D X.2.1 X.2.2 h0H hU hW) kc_ArrayList (wCJ2_get l γ X.2.1 _ _ _ _ eq42) iq42 nmi_List_get q643 q483 q139 q485 q481 q480 q479 q484 q482 q358 ⟨Nat.le_trans (Nat.le_of_ble_eq_true rfl) hR.1, Nat.le_trans (Nat.le_of_ble_eq_true rfl) hR.2⟩ hA.RR rfl rfl hl.1 (lv_room (Nat.le_of_ble_eq_true rfl)) dX1_ask_47 ?_
    obtain ⟨u44, eu44, hit⟩ := o_bind hit
    refine c_castS X hA.1.1 kc_Integer q1517 eu44 dX1_ask_52 ?_
    obtain ⟨q45, eq45, hit⟩ := o_bind hit
    obtain ⟨iq45, eq45⟩ := vc_inv eq45
    refine c_cR X hA.1.1 (fun U hU hW => hA.D X.2.1 X.2.2 h0H hU hW) kc_Integer (wCJ19_intValue l γ X.2.1 _ _  _ eq45) iq45 nm_J19_intValue q1518 q493 q165 q495 q494 ⟨Nat.le_trans (Nat.le_of_ble_eq_true rfl) hR.1, Nat.le_trans (Nat.le_of_ble_eq_true rfl) hR.2⟩ hA.RR rfl rfl hl.1 (lv_room (Nat.le_of_ble_eq_true rfl)) dX1_ask_55 ?_
    refine lv_bipush (v := 10) hx hb dX1_ask_58 (by decide) ?_
    refine lv_idiv hx hb dX1_ask_60 (by decide) ?_
    refine lv_aload_n hx hb dX1_ask_61 rfl (lv_at hl 1 rfl) ?_
    refine lv_iload hx hb dX1_ask_62 (lv_at hl 4 rfl) ?_
    obtain ⟨q46, eq46, hit⟩ := o_bind hit
    obtain ⟨iq46, eq46⟩ := vc_inv eq46
    refine c_cRF X hA.1.1 (fun U hU hW => hA.D X.2.1 X.2.2 h0H hU hW) kc_ArrayList (wCJ2_get l γ X.2.1 _ _ _ _ eq46) iq46 nmi_List_get q643 q483 q139 q485 q481 q480 q479 q484 q482 q358 ⟨Nat.le_trans (Nat.le_of_ble_eq_true rfl) hR.1, Nat.le_trans (Nat.le_of_ble_eq_true rfl) hR.2⟩ hA.RR rfl rfl hl.1 (lv_room (Nat.le_of_ble_eq_true rfl)) dX1_ask_64 ?_
    obtain ⟨u48, eu48, hit⟩ := o_bind hit
    refine c_castS X hA.1.1 kc_Integer q1517 eu48 dX1_ask_69 ?_
    obtain ⟨q49, eq49, hit⟩ := o_bind hit
    obtain ⟨iq49, eq49⟩ := vc_inv eq49
    refine c_cR X hA.1.1 (fun U hU hW => hA.D X.2.1 X.2.2 h0H hU hW) kc_Integer (wCJ19_intValue l γ X.2.1 _ _  _ eq49) iq49 nm_J19_intValue q1518 q493 q165 q495 q494 ⟨Nat.le_trans (Nat.le_of_ble_eq_true rfl) hR.1, Nat.le_trans (Nat.le_of_ble_eq_true rfl) hR.2⟩ hA.RR rfl rfl hl.1 (lv_room (Nat.le_of_ble_eq_true rfl)) dX1_ask_72 ?_
    refine lv_bipush (v := 10) hx hb dX1_ask_75 (by decide) ?_
    refine b_iremc hx hb dX1_ask_77 (by decide) ?_
    obtain ⟨q50, eq50, hit⟩ := o_bind hit
    obtain ⟨iq50, eq50⟩ := vc_inv eq50
    refine c_cN X (kA_F X.2.1 X.2.2 h0H) hA.1 kc_Service (wC3_take l γ X.2.1 _ _ _ _ _ eq50) iq50 nm_X3_take q1364 q1365 q140 q1367 q1366 ⟨Nat.le_trans (Nat.le_of_ble_eq_true rfl) hR.1, Nat.le_trans (Nat.le_of_ble_eq_true rfl) hR.2⟩ hA.RR rfl rfl hl.1 (lv_room (Nat.le_of_ble_eq_true rfl)) dX1_ask_78 (fun H locs hI => ?_)
    replace hA := hA.up hI
    clear hI
    refine lv_aload_n hx hb dX1_ask_81 rfl (lv_at hl 2 rfl) ?_
    obtain ⟨v51, ev51, hit⟩ := o_bind hit
    refine c_getR X hA.1.1 kc_TwinInk 3 q279 (Or.inl rfl) rfl rfl ev51 dX1_ask_82 ?_
    refine lv_bipush (v := 6) hx hb dX1_ask_85 (by decide) ?_
    obtain ⟨q52, eq52, hit⟩ := o_bind hit
    obtain ⟨iq52, eq52⟩ := vc_inv eq52
    refine c_cN X (kA_F X.2.1 X.2.2 h0H) hA.1 kc_Service (wC3_after l γ X.2.1 _ _ _ _ eq52) iq52 nm_X3_after q451 q452 q140 q454 q453 ⟨Nat.le_trans (Nat.le_of_ble_eq_true rfl) hR.1, Nat.le_trans (Nat.le_of_ble_eq_true rfl) hR.2⟩ hA.RR rfl rfl hl.1 (lv_room (Nat.le_of_ble_eq_true rfl)) dX1_ask_87 (fun H locs hI => ?_)
    replace hA := hA.up hI
    clear hI
    refine lv_pop hx hb dX1_ask_90 rfl ?_
    refine lv_iconst (v := 0) hx hb dX1_ask_91 (by decide) ?_
    refine lv_istore (lv' := [(5, .int 0), (3, .ref q2.2.2.1), (2, .ref q2.1), (0, .ref o), (1, .int a0), (4, .int t5.1)]) hx hb dX1_ask_92 hl (by decide) rfl (fun ls hl => ?_)
    obtain ⟨wr55, er55, hxr55⟩ := xg_bind hit
    have hr55 : ∀ (r55 : CS), wr55 = .inl r55 → ∀ (H : Heap) (locs : List Loc) (cells slots : Nat) (ls : Array Slot), AI γ (h, r) s R r55.1 r55.2 H locs cells slots → lv_has ls 11 [(3, .ref q2.2.2.1), (2, .ref q2.1), (0, .ref o), (1, .int a0), (4, .int t5.1)] → W p l e R s m args below meth c H locs cells slots Q (F0 m 124 ls []) := by
      intro r55 hw_ H locs cells slots ls hA hl
      have hit := xk_l hxr55 hw_
      refine lv_iinc (k := 4) (v := (t5.1 + 1)) (lv' := [(4, .int (t5.1 + 1)), (3, .ref q2.2.2.1), (2, .ref q2.1), (0, .ref o), (1, .int a0)]) hx hb dX1_ask_124 hl rfl rfl (by decide) rfl (fun ls hl => ?_)
      refine lv_goto (tgt := 26) hx hb dX1_ask_127 (by decide) ?_
      have he := o_in hit
      exact hC5 _ he _ _ _ _ _ hA (lv_sub hl [1, 2, 3, 4, 0] rfl)
    refine o_rec (P := fun t53 => ∀ (H : Heap) (locs : List Loc) (cells slots : Nat) (ls : Array Slot), AI γ (h, r) s R t53.2.1 t53.2.2 H locs cells slots → lv_has ls 11 [(3, .ref q2.2.2.1), (2, .ref q2.1), (0, .ref o), (1, .int a0), (4, .int t5.1), (5, .int t53.1)] → W p l e R s m args below meth c H locs cells slots Q (F0 m 94 ls [])) (fun t53 x54 hit hC53 hE53 H locs cells slots ls hA hl => ?_) _ er55 _ _ _ _ _ hA (lv_sub hl [1, 2, 3, 4, 5, 0] rfl)
    unfold C1_ask_L94 at hit
    refine lv_iload hx hb dX1_ask_94 (lv_at hl 5 rfl) ?_
    refine lv_bipush (v := 6) hx hb dX1_ask_96 (by decide) ?_
    refine b_icmp_ge (tgt := 124) hx hb dX1_ask_98 (by decide) hit (fun c56 hit => ?_) (fun c56 hit => ?_)
    · have he := o_in hit
      have he := hE53 _ he
      exact hr55 _ he.symm _ _ _ _ _ hA (lv_sub hl [0, 1, 2, 3, 4] rfl)
    · refine lv_aload_n hx hb dX1_ask_101 rfl (lv_at hl 0 rfl) ?_
      refine lv_iload hx hb dX1_ask_102 (lv_at hl 4 rfl) ?_
      obtain ⟨v57, ev57, hit⟩ := o_bind hit
      refine c_aald X hA.1.1 4 (fun _ => rfl) rfl ev57 dX1_ask_104 ?_
      obtain ⟨v58, ev58, hit⟩ := o_bind hit
      refine c_deref ev58 ?_
      refine lv_iload hx hb dX1_ask_105 (lv_at hl 5 rfl) ?_
      refine lv_aload_n hx hb dX1_ask_107 rfl (lv_at hl 2 rfl) ?_
      obtain ⟨v59, ev59, hit⟩ := o_bind hit
      refine c_getR X hA.1.1 kc_TwinInk 3 q279 (Or.inl rfl) rfl rfl ev59 dX1_ask_108 ?_
      obtain ⟨v60, ev60, hit⟩ := o_bind hit
      refine c_getNR X hA.1.1 kc_Service 3 q255 (Or.inl rfl) rfl rfl ev60 dX1_ask_111 ?_
      refine lv_iload hx hb dX1_ask_114 (lv_at hl 5 rfl) ?_
      obtain ⟨v61, ev61, hit⟩ := o_bind hit
      refine c_iald X hA.1.1 ev61 dX1_ask_116 ?_
      obtain ⟨s62, es62, hit⟩ := o_bind hit
      refine c_iast X hA.1 es62 dX1_ask_117 (fun H locs hI => ?_)
      replace hA := hA.up hI
      clear hI
      refine lv_iinc (k := 5) (v := (t53.1 + 1)) (lv' := [(5, .int (t53.1 + 1)), (3, .ref q2.2.2.1), (2, .ref q2.1), (0, .ref o), (1, .int a0), (4, .int t5.1)]) hx hb dX1_ask_118 hl rfl rfl (by decide) rfl (fun ls hl => ?_)
      refine lv_goto (tgt := 94) hx hb dX1_ask_121 (by decide) ?_
      have he := o_in hit
      exact hC53 _ he _ _ _ _ _ hA (lv_sub hl [1, 2, 3, 4, 5, 0] rfl)
