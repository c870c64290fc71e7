noncomputable def C3_lays (K : Nat → Nat) (h : CH) (o : Nat) (a0 : Int32) (a1 : Int32) : Option (Int32 × CH) :=
  (gR h o 3 5).bind fun v1 =>
  (gR h v1 1 1).bind fun v2 =>
  (gQ h v2 2 4).bind fun v3 =>
  Option.elim v3
    (some (1, h))
    (fun a5 =>
      (gR h o 3 5).bind fun v6 =>
      (gR h v6 1 0).bind fun v7 =>
      (sI h v7 0 0 a0).bind fun s8 =>
      (gR s8 o 3 5).bind fun v9 =>
      (gR s8 v9 1 0).bind fun v10 =>
      (vc s8 o 3 (C3_sheetsIn s8 o a0)).bind fun q11 =>
      (CJ19_bitCount q11).bind fun q12 =>
      (sI s8 v10 0 1 q12).bind fun s13 =>
      (gR s13 o 3 5).bind fun v14 =>
      (gR s13 v14 1 0).bind fun v15 =>
      (CJ19_bitCount a1).bind fun q16 =>
      (sI s13 v15 0 2 q16).bind fun s17 =>
      (gR s17 o 3 5).bind fun v18 =>
      (gR s17 v18 1 0).bind fun v19 =>
      (vc s17 o 3 (C3_known s17 o a1)).bind fun q20 =>
      (CJ19_bitCount q20).bind fun q21 =>
      (sI s17 v19 0 3 q21).bind fun s22 =>
      (gR s22 o 3 5).bind fun v23 =>
      (gR s22 v23 1 0).bind fun v24 =>
      (gI s22 o 3 4).bind fun v25 =>
      (sI s22 v24 0 4 v25).bind fun s26 =>
      (gR s26 o 3 5).bind fun v27 =>
      (gR s26 v27 1 1).bind fun v28 =>
      (gQ s26 v28 2 4).bind fun v29 =>
      (gR s26 o 3 5).bind fun v30 =>
      (gR s26 v30 1 0).bind fun v31 =>
      v29.bind fun v32 =>
      ((Fm_of K) s26 v32 v31).bind fun q33 =>
      if q33 ≤ 0 then
        (some (0, s26))
      else
        (some (1, s26)))
theorem nm_X3_lays : kNm yX3_lays RX3 2 := by unfold kNm; decide +kernel
set_option maxHeartbeats 4000000 in
set_option maxRecDepth 100000 in
theorem wC3_lays (l : Launch) (γ : KG) (hO : kOK γ) (h : CH) (o : Nat) (a0 : Int32) (a1 : Int32) (z : Int32 × CH) (hz : C3_lays γ.2.2.2.2.2 h o a0 a1 = some z) : Met l yX3_lays (ws_ yX3_lays cX3_lays 3 (some .boolean)) (kRm 811 20324) (cPc γ h [.ref o, .int a0, .int a1]) (cNq γ h (some (.int z.1)) z.2) 0 0 (kdm h) := by
  refine c_startN (cc := cX3_lays) (own := RX3) hO rfl rfl rfl (fun p e R s m args below meth c Q ls X hR h0H hI hl hend => ?_)
  have hx := X.1.1
  have hb := X.1.2.1
  have hit := hz
  clear hz
  unfold C3_lays at hit
  have hl : lv_has ls 3 [(0, .ref o), (1, .int a0), (2, .int a1)] := hl
  refine lv_aload_n hx hb dX3_lays_0 rfl (lv_at hl 0 rfl) ?_
  obtain ⟨v1, ev1, hit⟩ := o_bind hit
  refine c_getR X hI.1 kc_Service 5 q258 (Or.inl rfl) rfl rfl ev1 dX3_lays_1 ?_
  obtain ⟨v2, ev2, hit⟩ := o_bind hit
  refine c_getNR X hI.1 kc_TwinInk 1 q276 (Or.inl rfl) rfl rfl ev2 dX3_lays_4 ?_
  obtain ⟨v3, ev3, hit⟩ := o_bind hit
  refine c_getNQ X hI.1 kc_Office 4 q222 (Or.inl rfl) rfl rfl ev3 dX3_lays_7 ?_
  refine b_ifnonnull (tgt := 15) hx hb dX3_lays_10 (by decide) hit (fun hit => ?_) (fun a5 ea5 hit => ?_)
  · refine lv_iconst (v := 1) hx hb dX3_lays_13 (by decide) ?_
    have he := o_in hit
    exact hend (some (.int 1)) _ _ _ _ _ _ _ (kOut_i rfl) (by subst he; rfl) hI dX3_lays_14
  · subst ea5
    refine lv_aload_n hx hb dX3_lays_15 rfl (lv_at hl 0 rfl) ?_
    obtain ⟨v6, ev6, hit⟩ := o_bind hit
    refine c_getR X hI.1 kc_Service 5 q258 (Or.inl rfl) rfl rfl ev6 dX3_lays_16 ?_
    obtain ⟨v7, ev7, hit⟩ := o_bind hit
    refine c_getNR X hI.1 kc_TwinInk 0 q275 (Or.inl rfl) rfl rfl ev7 dX3_lays_19 ?_
    refine lv_iconst (v := 0) hx hb dX3_lays_22 (by decide) ?_
    refine lv_iload_n hx hb dX3_lays_23 rfl (lv_at hl 1 rfl) ?_
    obtain ⟨s8, es8, hit⟩ := o_bind hit
    refine c_iast X hI es8 dX3_lays_24 (fun H locs hI => ?_)
    refine lv_aload_n hx hb dX3_lays_25 rfl (lv_at hl 0 rfl) ?_
    obtain ⟨v9, ev9, hit⟩ := o_bind hit
    refine c_getR X hI.1 kc_Service 5 q258 (Or.inl rfl) rfl rfl ev9 dX3_lays_26 ?_
    obtain ⟨v10, ev10, hit⟩ := o_bind hit
    refine c_getNR X hI.1 kc_TwinInk 0 q275 (Or.inl rfl) rfl rfl ev10 dX3_lays_29 ?_
    refine lv_iconst (v := 1) hx hb dX3_lays_32 (by decide) ?_
    refine lv_aload_n hx hb dX3_lays_33 rfl (lv_at hl 0 rfl) ?_
    refine lv_iload_n hx hb dX3_lays_34 rfl (lv_at hl 1 rfl) ?_
    obtain ⟨q11, eq11, hit⟩ := o_bind hit
    obtain ⟨iq11, eq11⟩ := vc_inv eq11
    refine c_cR X hI.1 (fun U hU hW => hI.D X.2.2 (c_AF h0H) hU hW) kc_Service (wC3_sheetsIn l γ X.2.1 _ _ _ _ eq11) iq11 nm_X3_sheetsIn q500 q501 q140 q503 q502 ⟨Nat.le_trans (Nat.le_of_ble_eq_true rfl) hR.1, Nat.le_trans (Nat.le_of_ble_eq_true rfl) hR.2⟩ ⟨Nat.zero_le _, Nat.zero_le _⟩ rfl rfl hl.1 (lv_room (Nat.le_of_ble_eq_true rfl)) dX3_lays_35 ?_
    obtain ⟨q12, eq12, hit⟩ := o_bind hit
    refine c_cP X.1 (wCJ19_bitCount l _ _ eq12) nm_J19_bitCount q508 q509 q165 q510 ⟨Nat.le_trans (Nat.le_of_ble_eq_true rfl) hR.1, Nat.le_trans (Nat.le_of_ble_eq_true rfl) hR.2⟩ ⟨Nat.zero_le _, Nat.zero_le _⟩ rfl rfl hl.1 (lv_room (Nat.le_of_ble_eq_true rfl)) dX3_lays_38 ?_
    obtain ⟨s13, es13, hit⟩ := o_bind hit
    refine c_iast X hI es13 dX3_lays_41 (fun H locs hI => ?_)
    refine lv_aload_n hx hb dX3_lays_42 rfl (lv_at hl 0 rfl) ?_
    obtain ⟨v14, ev14, hit⟩ := o_bind hit
    refine c_getR X hI.1 kc_Service 5 q258 (Or.inl rfl) rfl rfl ev14 dX3_lays_43 ?_
    obtain ⟨v15, ev15, hit⟩ := o_bind hit
    refine c_getNR X hI.1 kc_TwinInk 0 q275 (Or.inl rfl) rfl rfl ev15 dX3_lays_46 ?_
    refine lv_iconst (v := 2) hx hb dX3_lays_49 (by decide) ?_
    refine lv_iload_n hx hb dX3_lays_50 rfl (lv_at hl 2 rfl) ?_
    obtain ⟨q16, eq16, hit⟩ := o_bind hit
    refine c_cP X.1 (wCJ19_bitCount l _ _ eq16) nm_J19_bitCount q508 q509 q165 q510 ⟨Nat.le_trans (Nat.le_of_ble_eq_true rfl) hR.1, Nat.le_trans (Nat.le_of_ble_eq_true rfl) hR.2⟩ ⟨Nat.zero_le _, Nat.zero_le _⟩ rfl rfl hl.1 (lv_room (Nat.le_of_ble_eq_true rfl)) dX3_lays_51 ?_
    obtain ⟨s17, es17, hit⟩ := o_bind hit
    refine c_iast X hI es17 dX3_lays_54 (fun H locs hI => ?_)
    refine lv_aload_n hx hb dX3_lays_55 rfl (lv_at hl 0 rfl) ?_
    obtain ⟨v18, ev18, hit⟩ := o_bind hit
    refine c_getR X hI.1 kc_Service 5 q258 (Or.inl rfl) rfl rfl ev18 dX3_lays_56 ?_
    obtain ⟨v19, ev19, hit⟩ := o_bind hit
    refine c_getNR X hI.1 kc_TwinInk 0 q275 (Or.inl rfl) rfl rfl ev19 dX3_lays_59 ?_
    refine lv_iconst (v := 3) hx hb dX3_lays_62 (by decide) ?_
    refine lv_aload_n hx hb dX3_lays_63 rfl (lv_at hl 0 rfl) ?_
    refine lv_iload_n hx hb dX3_lays_64 rfl (lv_at hl 2 rfl) ?_
    obtain ⟨q20, eq20, hit⟩ := o_bind hit
    obtain ⟨iq20, eq20⟩ := vc_inv eq20
    refine c_cR X hI.1 (fun U hU hW => hI.D X.2.2 (c_AF h0H) hU hW) kc_Service (wC3_known l γ X.2.1 _ _ _ _ eq20) iq20 nm_X3_known q514 q515 q140 q517 q516 ⟨Nat.le_trans (Nat.le_of_ble_eq_true rfl) hR.1, Nat.le_trans (Nat.le_of_ble_eq_true rfl) hR.2⟩ ⟨Nat.zero_le _, Nat.zero_le _⟩ rfl rfl hl.1 (lv_room (Nat.le_of_ble_eq_true rfl)) dX3_lays_65 ?_
    obtain ⟨q21, eq21, hit⟩ := o_bind hit
    refine c_cP X.1 (wCJ19_bitCount l _ _ eq21) nm_J19_bitCount q508 q509 q165 q510 ⟨Nat.le_trans (Nat.le_of_ble_eq_true rfl) hR.1, Nat.le_trans (Nat.le_of_ble_eq_true rfl) hR.2⟩ ⟨Nat.zero_le _, Nat.zero_le _⟩ rfl rfl hl.1 (lv_room (Nat.le_of_ble_eq_true rfl)) dX3_lays_68 ?_
    obtain ⟨s22, es22, hit⟩ := o_bind hit
    refine c_iast X hI es22 dX3_lays_71 (fun H locs hI => ?_)
    refine lv_aload_n hx hb dX3_lays_72 rfl (lv_at hl 0 rfl) ?_
    obtain ⟨v23, ev23, hit⟩ := o_bind hit
    refine c_getR X hI.1 kc_Service 5 q258 (Or.inl rfl) rfl rfl ev23 dX3_lays_73 ?_
    obtain ⟨v24, ev24, hit⟩ := o_bind hit
    refine c_getNR X hI.1 kc_TwinInk 0 q275 (Or.inl rfl) rfl rfl ev24 dX3_lays_76 ?_
    refine lv_iconst (v := 4) hx hb dX3_lays_79 (by decide) ?_
    refine lv_aload_n hx hb dX3_lays_80 rfl (lv_at hl 0 rfl) ?_
    obtain ⟨v25, ev25, hit⟩ := o_bind hit
    refine c_getI X hI.1 kc_Service 4 q256 (Or.inl rfl) rfl rfl ev25 dX3_lays_81 ?_
    obtain ⟨s26, es26, hit⟩ := o_bind hit
    refine c_iast X hI es26 dX3_lays_84 (fun H locs hI => ?_)
    refine lv_aload_n hx hb dX3_lays_85 rfl (lv_at hl 0 rfl) ?_
    obtain ⟨v27, ev27, hit⟩ := o_bind hit
    refine c_getR X hI.1 kc_Service 5 q258 (Or.inl rfl) rfl rfl ev27 dX3_lays_86 ?_
    obtain ⟨v28, ev28, hit⟩ := o_bind hit
    refine c_getNR X hI.1 kc_TwinInk 1 q276 (Or.inl rfl) rfl rfl ev28 dX3_lays_89 ?_
    obtain ⟨v29, ev29, hit⟩ := o_bind hit
    refine c_getNQ X hI.1 kc_Office 4 q222 (Or.inl rfl) rfl rfl ev29 dX3_lays_92 ?_
    refine lv_aload_n hx hb dX3_lays_95 rfl (lv_at hl 0 rfl) ?_
    obtain ⟨v30, ev30, hit⟩ := o_bind hit
    refine c_getR X hI.1 kc_Service 5 q258 (Or.inl rfl) rfl rfl ev30 dX3_lays_96 ?_
    obtain ⟨v31, ev31, hit⟩ := o_bind hit
    refine c_getNR X hI.1 kc_TwinInk 0 q275 (Or.inl rfl) rfl rfl ev31 dX3_lays_99 ?_
    obtain ⟨v32, ev32, hit⟩ := o_bind hit
    rw [ev32, va_rf_some]
    obtain ⟨q33, eq33, hit⟩ := o_bind hit
    refine c_cForm X hI.1 (fun U hU hW => hI.D X.2.2 (c_AF h0H) hU hW) (Fm_met l γ X.2.1) eq33 q522 ⟨Nat.le_trans (Nat.le_of_ble_eq_true rfl) hR.1, Nat.le_trans (Nat.le_of_ble_eq_true rfl) hR.2⟩ ⟨Nat.zero_le _, Nat.zero_le _⟩ hl.1 (lv_room (Nat.le_of_ble_eq_true rfl)) dX3_lays_102 ?_
    refine b_if_le (tgt := 114) hx hb dX3_lays_107 (by decide) hit (fun c34 hit => ?_) (fun c34 hit => ?_)
    · refine lv_iconst (v := 0) hx hb dX3_lays_114 (by decide) ?_
      have he := o_in hit
      exact hend (some (.int 0)) _ _ _ _ _ _ _ (kOut_i rfl) (by subst he; rfl) hI dX3_lays_115
    · refine lv_iconst (v := 1) hx hb dX3_lays_110 (by decide) ?_
      refine lv_goto (tgt := 115) hx hb dX3_lays_111 (by decide) ?_
      have he := o_in hit
      exact hend (some (.int 1)) _ _ _ _ _ _ _ (kOut_i rfl) (by subst he; rfl) hI dX3_lays_115
noncomputable def C3_grow (K : Nat → Nat) (h : CH) (o : Nat) (a0 : Int32) : Option (CH) :=
  (vc h o 3 (C3_isBurnt h o a0)).bind fun q1 =>
  if q1 = 0 then
    ((gR h o 3 5).bind fun v3 =>
    (gR h v3 1 1).bind fun v4 =>
    (gQ h v4 2 5).bind fun v5 =>
    Option.elim v5
      (some h)
      (fun a7 =>
        (gR h o 3 5).bind fun v8 =>
        (gR h v8 1 0).bind fun v9 =>
        (gR h o 3 0).bind fun v10 =>
        (aI h v10 0 a0).bind fun v11 =>
        (sI h v9 0 0 v11).bind fun s12 =>
        (gR s12 o 3 5).bind fun v13 =>
        (gR s12 v13 1 0).bind fun v14 =>
        (gR s12 o 3 1).bind fun v15 =>
        (aI s12 v15 0 a0).bind fun v16 =>
        (sI s12 v14 0 1 v16).bind fun s17 =>
        (gR s17 o 3 5).bind fun v18 =>
        (gR s17 v18 1 0).bind fun v19 =>
        (sI s17 v19 0 2 a0).bind fun s20 =>
        (gR s20 o 3 5).bind fun v21 =>
        (gR s20 v21 1 0).bind fun v22 =>
        (vc s20 o 3 (C3_where s20 o a0)).bind fun q23 =>
        (sI s20 v22 0 3 q23).bind fun s24 =>
        (gR s24 o 3 5).bind fun v25 =>
        (gR s24 v25 1 0).bind fun v26 =>
        (vc s24 o 3 (C3_bearer s24 o a0)).bind fun q27 =>
        ((if q27 = (-1) then
            (some 0)
          else
            (some 1) : Option Int32)).bind fun r28 =>
        (sI s24 v26 0 4 r28).bind fun s29 =>
        (gR s29 o 3 5).bind fun v30 =>
        (gR s29 v30 1 0).bind fun v31 =>
        (gI s29 o 3 4).bind fun v32 =>
        (sI s29 v31 0 5 v32).bind fun s33 =>
        (gR s33 o 3 5).bind fun v34 =>
        (gR s33 v34 1 1).bind fun v35 =>
        (gQ s33 v35 2 5).bind fun v36 =>
        (gR s33 o 3 5).bind fun v37 =>
        (gR s33 v37 1 0).bind fun v38 =>
        v36.bind fun v39 =>
        ((Fm_of K) s33 v39 v38).bind fun q40 =>
        if q40 ≤ 0 then
          (some s33)
        else
          ((gR s33 o 3 1).bind fun v42 =>
          (aI s33 v42 0 a0).bind fun v43 =>
          (sI s33 v42 0 a0 (v43 ^^^ ((1 : Int32) <<< ((imod (q40 - 1) 8) &&& 31)))).bind fun s44 =>
          some s44)))
  else
    (some h)
theorem nm_X3_grow : kNm yX3_grow RX3 1 := by unfold kNm; decide +kernel
set_option maxHeartbeats 4000000 in
set_option maxRecDepth 100000 in
theorem wC3_grow (l : Launch) (γ : KG) (hO : kOK γ) (h : CH) (o : Nat) (a0 : Int32) (z : CH) (hz : C3_grow γ.2.2.2.2.2 h o a0 = some z) : Met l yX3_grow (ws_ yX3_grow cX3_grow 3 none) (kRm 811 20324) (cPc γ h [.ref o, .int a0]) (cNq γ h none z) 0 0 (kdm h) := by
  refine c_startN (cc := cX3_grow) (own := RX3) hO rfl rfl rfl (fun p e R s m args below meth c Q ls X hR h0H hI hl hend => ?_)
  have hx := X.1.1
  have hb := X.1.2.1
  have hit := hz
  clear hz
  unfold C3_grow at hit
  have hl : lv_has ls 3 [(0, .ref o), (1, .int a0)] := hl
  refine lv_aload_n hx hb dX3_grow_0 rfl (lv_at hl 0 rfl) ?_
  refine lv_iload_n hx hb dX3_grow_1 rfl (lv_at hl 1 rfl) ?_
  obtain ⟨q1, eq1, hit⟩ := o_bind hit
  obtain ⟨iq1, eq1⟩ := vc_inv eq1
  refine c_cR X hI.1 (fun U hU hW => hI.D X.2.2 (c_AF h0H) hU hW) kc_Service (wC3_isBurnt l γ X.2.1 _ _ _ _ eq1) iq1 nm_X3_isBurnt q605 q606 q140 q608 q607 ⟨Nat.le_trans (Nat.le_of_ble_eq_true rfl) hR.1, Nat.le_trans (Nat.le_of_ble_eq_true rfl) hR.2⟩ ⟨Nat.zero_le _, Nat.zero_le _⟩ rfl rfl hl.1 (lv_room (Nat.le_of_ble_eq_true rfl)) dX3_grow_2 ?_
  refine b_if_ne (tgt := 21) hx hb dX3_grow_5 (by decide) hit (fun c2 hit => ?_) (fun c2 hit => ?_)
  · have he := o_in hit
    exact hend none _ _ _ _ _ _ _ kOut_v (by subst he; rfl) hI dX3_grow_21
  · refine lv_aload_n hx hb dX3_grow_8 rfl (lv_at hl 0 rfl) ?_
    obtain ⟨v3, ev3, hit⟩ := o_bind hit
    refine c_getR X hI.1 kc_Service 5 q258 (Or.inl rfl) rfl rfl ev3 dX3_grow_9 ?_
    obtain ⟨v4, ev4, hit⟩ := o_bind hit
    refine c_getNR X hI.1 kc_TwinInk 1 q276 (Or.inl rfl) rfl rfl ev4 dX3_grow_12 ?_
    obtain ⟨v5, ev5, hit⟩ := o_bind hit
    refine c_getNQ X hI.1 kc_Office 5 q224 (Or.inl rfl) rfl rfl ev5 dX3_grow_15 ?_
    refine b_ifnonnull (tgt := 22) hx hb dX3_grow_18 (by decide) hit (fun hit => ?_) (fun a7 ea7 hit => ?_)
    · have he := o_in hit
      exact hend none _ _ _ _ _ _ _ kOut_v (by subst he; rfl) hI dX3_grow_21
    · subst ea7
      refine lv_aload_n hx hb dX3_grow_22 rfl (lv_at hl 0 rfl) ?_
      obtain ⟨v8, ev8, hit⟩ := o_bind hit
      refine c_getR X hI.1 kc_Service 5 q258 (Or.inl rfl) rfl rfl ev8 dX3_grow_23 ?_
      obtain ⟨v9, ev9, hit⟩ := o_bind hit
      refine c_getNR X hI.1 kc_TwinInk 0 q275 (Or.inl rfl) rfl rfl ev9 dX3_grow_26 ?_
      refine lv_iconst (v := 0) hx hb dX3_grow_29 (by decide) ?_
      refine lv_aload_n hx hb dX3_grow_30 rfl (lv_at hl 0 rfl) ?_
      obtain ⟨v10, ev10, hit⟩ := o_bind hit
      refine c_getR X hI.1 kc_Service 0 q245 (Or.inl rfl) rfl rfl ev10 dX3_grow_31 ?_
      refine lv_iload_n hx hb dX3_grow_34 rfl (lv_at hl 1 rfl) ?_
      obtain ⟨v11, ev11, hit⟩ := o_bind hit
      refine c_iald X hI.1 ev11 dX3_grow_35 ?_
      obtain ⟨s12, es12, hit⟩ := o_bind hit
      refine c_iast X hI es12 dX3_grow_36 (fun H locs hI => ?_)
      refine lv_aload_n hx hb dX3_grow_37 rfl (lv_at hl 0 rfl) ?_
      obtain ⟨v13, ev13, hit⟩ := o_bind hit
      refine c_getR X hI.1 kc_Service 5 q258 (Or.inl rfl) rfl rfl ev13 dX3_grow_38 ?_
      obtain ⟨v14, ev14, hit⟩ := o_bind hit
      refine c_getNR X hI.1 kc_TwinInk 0 q275 (Or.inl rfl) rfl rfl ev14 dX3_grow_41 ?_
      refine lv_iconst (v := 1) hx hb dX3_grow_44 (by decide) ?_
      refine lv_aload_n hx hb dX3_grow_45 rfl (lv_at hl 0 rfl) ?_
      obtain ⟨v15, ev15, hit⟩ := o_bind hit
      refine c_getR X hI.1 kc_Service 1 q248 (Or.inl rfl) rfl rfl ev15 dX3_grow_46 ?_
      refine lv_iload_n hx hb dX3_grow_49 rfl (lv_at hl 1 rfl) ?_
      obtain ⟨v16, ev16, hit⟩ := o_bind hit
      refine c_iald X hI.1 ev16 dX3_grow_50 ?_
      obtain ⟨s17, es17, hit⟩ := o_bind hit
      refine c_iast X hI es17 dX3_grow_51 (fun H locs hI => ?_)
      refine lv_aload_n hx hb dX3_grow_52 rfl (lv_at hl 0 rfl) ?_
      obtain ⟨v18, ev18, hit⟩ := o_bind hit
      refine c_getR X hI.1 kc_Service 5 q258 (Or.inl rfl) rfl rfl ev18 dX3_grow_53 ?_
      obtain ⟨v19, ev19, hit⟩ := o_bind hit
      refine c_getNR X hI.1 kc_TwinInk 0 q275 (Or.inl rfl) rfl rfl ev19 dX3_grow_56 ?_
      refine lv_iconst (v := 2) hx hb dX3_grow_59 (by decide) ?_
      refine lv_iload_n hx hb dX3_grow_60 rfl (lv_at hl 1 rfl) ?_
      obtain ⟨s20, es20, hit⟩ := o_bind hit
      refine c_iast X hI es20 dX3_grow_61 (fun H locs hI => ?_)
      refine lv_aload_n hx hb dX3_grow_62 rfl (lv_at hl 0 rfl) ?_
      obtain ⟨v21, ev21, hit⟩ := o_bind hit
      refine c_getR X hI.1 kc_Service 5 q258 (Or.inl rfl) rfl rfl ev21 dX3_grow_63 ?_
      obtain ⟨v22, ev22, hit⟩ := o_bind hit
      refine c_getNR X hI.1 kc_TwinInk 0 q275 (Or.inl rfl) rfl rfl ev22 dX3_grow_66 ?_
      refine lv_iconst (v := 3) hx hb dX3_grow_69 (by decide) ?_
      refine lv_aload_n hx hb dX3_grow_70 rfl (lv_at hl 0 rfl) ?_
      refine lv_iload_n hx hb dX3_grow_71 rfl (lv_at hl 1 rfl) ?_
      obtain ⟨q23, eq23, hit⟩ := o_bind hit
      obtain ⟨iq23, eq23⟩ := vc_inv eq23
      refine c_cR X hI.1 (fun U hU hW => hI.D X.2.2 (c_AF h0H) hU hW) kc_Service (wC3_where l γ X.2.1 _ _ _ _ eq23) iq23 nm_X3_where q504 q505 q140 q507 q506 ⟨Nat.le_trans (Nat.le_of_ble_eq_true rfl) hR.1, Nat.le_trans (Nat.le_of_ble_eq_true rfl) hR.2⟩ ⟨Nat.zero_le _, Nat.zero_le _⟩ rfl rfl hl.1 (lv_room (Nat.le_of_ble_eq_true rfl)) dX3_grow_72 ?_
      obtain ⟨s24, es24, hit⟩ := o_bind hit
      refine c_iast X hI es24 dX3_grow_75 (fun H locs hI => ?_)
      refine lv_aload_n hx hb dX3_grow_76 rfl (lv_at hl 0 rfl) ?_
      obtain ⟨v25, ev25, hit⟩ := o_bind hit
      refine c_getR X hI.1 kc_Service 5 q258 (Or.inl rfl) rfl rfl ev25 dX3_grow_77 ?_
      obtain ⟨v26, ev26, hit⟩ := o_bind hit
      refine c_getNR X hI.1 kc_TwinInk 0 q275 (Or.inl rfl) rfl rfl ev26 dX3_grow_80 ?_
      refine lv_iconst (v := 4) hx hb dX3_grow_83 (by decide) ?_
      refine lv_aload_n hx hb dX3_grow_84 rfl (lv_at hl 0 rfl) ?_
      refine lv_iload_n hx hb dX3_grow_85 rfl (lv_at hl 1 rfl) ?_
      obtain ⟨q27, eq27, hit⟩ := o_bind hit
      obtain ⟨iq27, eq27⟩ := vc_inv eq27
      refine c_cR X hI.1 (fun U hU hW => hI.D X.2.2 (c_AF h0H) hU hW) kc_Service (wC3_bearer l γ X.2.1 _ _ _ _ eq27) iq27 nm_X3_bearer q621 q622 q140 q624 q623 ⟨Nat.le_trans (Nat.le_of_ble_eq_true rfl) hR.1, Nat.le_trans (Nat.le_of_ble_eq_true rfl) hR.2⟩ ⟨Nat.zero_le _, Nat.zero_le _⟩ rfl rfl hl.1 (lv_room (Nat.le_of_ble_eq_true rfl)) dX3_grow_86 ?_
      refine lv_iconst (v := (-1)) hx hb dX3_grow_89 (by decide) ?_
      obtain ⟨r28, er28, hit⟩ := o_bind hit
      have hr28 : ∀ (H : Heap) (locs : List Loc) (ls : Array Slot), NI γ (kdm h) s.heap.size s s24 H locs → lv_has ls 3 [(0, .ref o), (1, .int a0)] → W p l e R s m args below meth c H locs 0 0 Q (F0 m 98 ls [.int r28, .int 4, .ref v26]) := by
        intro H locs ls hI hl
        obtain ⟨s29, es29, hit⟩ := o_bind hit
        refine c_iast X hI es29 dX3_grow_98 (fun H locs hI => ?_)
        refine lv_aload_n hx hb dX3_grow_99 rfl (lv_at hl 0 rfl) ?_
        obtain ⟨v30, ev30, hit⟩ := o_bind hit
        refine c_getR X hI.1 kc_Service 5 q258 (Or.inl rfl) rfl rfl ev30 dX3_grow_100 ?_
        obtain ⟨v31, ev31, hit⟩ := o_bind hit
        refine c_getNR X hI.1 kc_TwinInk 0 q275 (Or.inl rfl) rfl rfl ev31 dX3_grow_103 ?_
        refine lv_iconst (v := 5) hx hb dX3_grow_106 (by decide) ?_
        refine lv_aload_n hx hb dX3_grow_107 rfl (lv_at hl 0 rfl) ?_
        obtain ⟨v32, ev32, hit⟩ := o_bind hit
        refine c_getI X hI.1 kc_Service 4 q256 (Or.inl rfl) rfl rfl ev32 dX3_grow_108 ?_
        obtain ⟨s33, es33, hit⟩ := o_bind hit
        refine c_iast X hI es33 dX3_grow_111 (fun H locs hI => ?_)
        refine lv_aload_n hx hb dX3_grow_112 rfl (lv_at hl 0 rfl) ?_
        obtain ⟨v34, ev34, hit⟩ := o_bind hit
        refine c_getR X hI.1 kc_Service 5 q258 (Or.inl rfl) rfl rfl ev34 dX3_grow_113 ?_
        obtain ⟨v35, ev35, hit⟩ := o_bind hit
        refine c_getNR X hI.1 kc_TwinInk 1 q276 (Or.inl rfl) rfl rfl ev35 dX3_grow_116 ?_
        obtain ⟨v36, ev36, hit⟩ := o_bind hit
        refine c_getNQ X hI.1 kc_Office 5 q224 (Or.inl rfl) rfl rfl ev36 dX3_grow_119 ?_
        refine lv_aload_n hx hb dX3_grow_122 rfl (lv_at hl 0 rfl) ?_
        obtain ⟨v37, ev37, hit⟩ := o_bind hit
        refine c_getR X hI.1 kc_Service 5 q258 (Or.inl rfl) rfl rfl ev37 dX3_grow_123 ?_
        obtain ⟨v38, ev38, hit⟩ := o_bind hit
        refine c_getNR X hI.1 kc_TwinInk 0 q275 (Or.inl rfl) rfl rfl ev38 dX3_grow_126 ?_
        obtain ⟨v39, ev39, hit⟩ := o_bind hit
        rw [ev39, va_rf_some]
        obtain ⟨q40, eq40, hit⟩ := o_bind hit
        refine c_cForm X hI.1 (fun U hU hW => hI.D X.2.2 (c_AF h0H) hU hW) (Fm_met l γ X.2.1) eq40 q522 ⟨Nat.le_trans (Nat.le_of_ble_eq_true rfl) hR.1, Nat.le_trans (Nat.le_of_ble_eq_true rfl) hR.2⟩ ⟨Nat.zero_le _, Nat.zero_le _⟩ hl.1 (lv_room (Nat.le_of_ble_eq_true rfl)) dX3_grow_129 ?_
        refine lv_istore_n (lv' := [(2, .int q40), (0, .ref o), (1, .int a0)]) hx hb dX3_grow_134 rfl hl (by decide) rfl (fun ls hl => ?_)
        refine lv_iload_n hx hb dX3_grow_135 rfl (lv_at hl 0 rfl) ?_
        refine b_if_le (tgt := 156) hx hb dX3_grow_136 (by decide) hit (fun c41 hit => ?_) (fun c41 hit => ?_)
        · have he := o_in hit
          exact hend none _ _ _ _ _ _ _ kOut_v (by subst he; rfl) hI dX3_grow_156
        · refine lv_aload_n hx hb dX3_grow_139 rfl (lv_at hl 1 rfl) ?_
          obtain ⟨v42, ev42, hit⟩ := o_bind hit
          refine c_getR X hI.1 kc_Service 1 q248 (Or.inl rfl) rfl rfl ev42 dX3_grow_140 ?_
          refine lv_iload_n hx hb dX3_grow_143 rfl (lv_at hl 2 rfl) ?_
          refine lv_dup2_11 hx hb dX3_grow_144 rfl rfl ?_
          obtain ⟨v43, ev43, hit⟩ := o_bind hit
          refine c_iald X hI.1 ev43 dX3_grow_145 ?_
          refine lv_iconst (v := 1) hx hb dX3_grow_146 (by decide) ?_
          refine lv_iload_n hx hb dX3_grow_147 rfl (lv_at hl 0 rfl) ?_
          refine lv_iconst (v := 1) hx hb dX3_grow_148 (by decide) ?_
          refine lv_isub hx hb dX3_grow_149 ?_
          refine lv_bipush (v := 8) hx hb dX3_grow_150 (by decide) ?_
          refine b_iremc hx hb dX3_grow_152 (by decide) ?_
          refine lv_ishl hx hb dX3_grow_153 ?_
          refine lv_ixor hx hb dX3_grow_154 ?_
          obtain ⟨s44, es44, hit⟩ := o_bind hit
          refine c_iast X hI es44 dX3_grow_155 (fun H locs hI => ?_)
          have he := o_in hit
          exact hend none _ _ _ _ _ _ _ kOut_v (by subst he; rfl) hI dX3_grow_156
      have hit := er28
      refine b_icmp_ne (tgt := 97) hx hb dX3_grow_90 (by decide) hit (fun c45 hit => ?_) (fun c45 hit => ?_)
      · refine lv_iconst (v := 1) hx hb dX3_grow_97 (by decide) ?_
        have he := o_in hit
        subst he
        exact hr28 _ _ _ hI hl
      · refine lv_iconst (v := 0) hx hb dX3_grow_93 (by decide) ?_
        refine lv_goto (tgt := 98) hx hb dX3_grow_94 (by decide) ?_
        have he := o_in hit
        subst he
        exact hr28 _ _ _ hI hl
noncomputable def C3_pass_L44 (K : Nat → Nat) (o : Nat) (t4 : Int32 × CH) : Option ((Int32 × CH) ⊕ CH) :=
  (gR t4.2 o 3 5).bind fun v9 =>
  (gR t4.2 v9 1 1).bind fun v10 =>
  (gI t4.2 v10 2 2).bind fun v11 =>
  if t4.1 < v11 then
    ((vc t4.2 o 3 (C3_grow K t4.2 o t4.1)).bind fun q13 =>
    some (.inl ((t4.1 + 1), q13)))
  else
    (some (.inr t4.2))
noncomputable def C3_pass_L2 (K : Nat → Nat) (o : Nat) (t1 : Int32 × CH) : Option ((Int32 × CH) ⊕ CH) :=
  if t1.1 < 4 then
    ((vc t1.2 o 3 (C3_clerksIn t1.2 o t1.1)).bind fun q15 =>
    ((if q15 = 0 then
        (some t1.2)
      else
        ((vc t1.2 o 3 (C3_lays K t1.2 o t1.1 q15)).bind fun q18 =>
        if q18.1 = 0 then
          (some q18.2)
        else
          ((vc q18.2 o 3 (C3_shows q18.2 o t1.1)).bind fun q20 =>
          (vc q18.2 o 3 (C3_learn q18.2 o q15 q20)).bind fun q21 =>
          some q21)) : Option CH)).bind fun r16 =>
    some (.inl ((t1.1 + 1), r16)))
  else
    (some (.inr t1.2))
noncomputable def C3_pass (K : Nat → Nat) (h : CH) (o : Nat) : Option (Nat × CH) :=
  (o_loop (C3_pass_L2 K o) (0, h)).bind fun r3 =>
  (o_loop (C3_pass_L44 K o) (0, r3)).bind fun r6 =>
  (gI r6 o 3 4).bind fun v7 =>
  (pI r6 o 3 4 (v7 + 1)).bind fun s8 =>
  some (o, s8)
theorem nm_X3_pass : kNm yX3_pass RX3 0 := by unfold kNm; decide +kernel
set_option maxHeartbeats 4000000 in
set_option maxRecDepth 100000 in
theorem wC3_pass (l : Launch) (γ : KG) (hO : kOK γ) (h : CH) (o : Nat) (z : Nat × CH) (hz : C3_pass γ.2.2.2.2.2 h o = some z) : Met l yX3_pass (ws_ yX3_pass cX3_pass 3 (some (.object "TwinInk$Service"))) (kRm 812 20346) (cPc γ h [.ref o]) (cNq γ h (some (.ref z.1)) z.2) 0 0 (kdm h) := by
  refine c_startN (cc := cX3_pass) (own := RX3) hO rfl rfl rfl (fun p e R s m args below meth c Q ls X hR h0H hI hl hend => ?_)
  have hx := X.1.1
  have hb := X.1.2.1
  have hit := hz
  clear hz
  unfold C3_pass at hit
  have hl : lv_has ls 3 [(0, .ref o)] := hl
  refine lv_iconst (v := 0) hx hb dX3_pass_0 (by decide) ?_
  refine lv_istore_n (lv' := [(1, .int 0), (0, .ref o)]) hx hb dX3_pass_1 rfl hl (by decide) rfl (fun ls hl => ?_)
  obtain ⟨r3, er3, hit⟩ := o_bind hit
  have hr3 : ∀ (H : Heap) (locs : List Loc) (ls : Array Slot), NI γ (kdm h) s.heap.size s r3 H locs → lv_has ls 3 [(0, .ref o)] → W p l e R s m args below meth c H locs 0 0 Q (F0 m 42 ls []) := by
    intro H locs ls hI hl
    refine lv_iconst (v := 0) hx hb dX3_pass_42 (by decide) ?_
    refine lv_istore_n (lv' := [(1, .int 0), (0, .ref o)]) hx hb dX3_pass_43 rfl hl (by decide) rfl (fun ls hl => ?_)
    obtain ⟨r6, er6, hit⟩ := o_bind hit
    have hr6 : ∀ (H : Heap) (locs : List Loc) (ls : Array Slot), NI γ (kdm h) s.heap.size s r6 H locs → lv_has ls 3 [(0, .ref o)] → W p l e R s m args below meth c H locs 0 0 Q (F0 m 69 ls []) := by
      intro H locs ls hI hl
      refine lv_aload_n hx hb dX3_pass_69 rfl (lv_at hl 0 rfl) ?_
      refine lv_dup hx hb dX3_pass_70 rfl ?_
      obtain ⟨v7, ev7, hit⟩ := o_bind hit
      refine c_getI X hI.1 kc_Service 4 q256 (Or.inl rfl) rfl rfl ev7 dX3_pass_71 ?_
      refine lv_iconst (v := 1) hx hb dX3_pass_74 (by decide) ?_
      refine lv_iadd hx hb dX3_pass_75 ?_
      obtain ⟨s8, es8, hit⟩ := o_bind hit
      refine c_putI X hI kc_Service 4 q256 (Or.inl rfl) rfl rfl (tyv := .int) rfl rfl rfl es8 dX3_pass_76 (fun H locs hI => ?_)
      refine lv_aload_n hx hb dX3_pass_79 rfl (lv_at hl 0 rfl) ?_
      have he := o_in hit
      exact hend (some (.ref o)) _ _ _ _ _ _ _ (kOut_o) (by subst he; rfl) hI dX3_pass_80
    refine o_rec (P := fun t4 => ∀ (H : Heap) (locs : List Loc) (ls : Array Slot), NI γ (kdm h) s.heap.size s t4.2 H locs → lv_has ls 3 [(0, .ref o), (1, .int t4.1)] → W p l e R s m args below meth c H locs 0 0 Q (F0 m 44 ls [])) (fun t4 x5 hit hC4 hE4 H locs ls hI hl => ?_) _ er6 _ _ _ hI (lv_sub hl [1, 0] rfl)
    unfold C3_pass_L44 at hit
    refine lv_iload_n hx hb dX3_pass_44 rfl (lv_at hl 1 rfl) ?_
    refine lv_aload_n hx hb dX3_pass_45 rfl (lv_at hl 0 rfl) ?_
    obtain ⟨v9, ev9, hit⟩ := o_bind hit
    refine c_getR X hI.1 kc_Service 5 q258 (Or.inl rfl) rfl rfl ev9 dX3_pass_46 ?_
    obtain ⟨v10, ev10, hit⟩ := o_bind hit
    refine c_getNR X hI.1 kc_TwinInk 1 q276 (Or.inl rfl) rfl rfl ev10 dX3_pass_49 ?_
    obtain ⟨v11, ev11, hit⟩ := o_bind hit
    refine c_getNI X hI.1 kc_Office 2 q217 (Or.inl rfl) rfl rfl ev11 dX3_pass_52 ?_
    refine b_icmp_ge (tgt := 69) hx hb dX3_pass_55 (by decide) hit (fun c12 hit => ?_) (fun c12 hit => ?_)
    · have he := o_in hit
      have he := hE4 _ he
      subst he
      exact hr6 _ _ _ hI (lv_sub hl [0] rfl)
    · refine lv_aload_n hx hb dX3_pass_58 rfl (lv_at hl 0 rfl) ?_
      refine lv_iload_n hx hb dX3_pass_59 rfl (lv_at hl 1 rfl) ?_
      obtain ⟨q13, eq13, hit⟩ := o_bind hit
      obtain ⟨iq13, eq13⟩ := vc_inv eq13
      refine c_cN X (c_AF h0H) hI kc_Service (wC3_grow l γ X.2.1 _ _ _ _ eq13) iq13 nm_X3_grow q617 q619 q140 q620 qs8 ⟨Nat.le_trans (Nat.le_of_ble_eq_true rfl) hR.1, Nat.le_trans (Nat.le_of_ble_eq_true rfl) hR.2⟩ ⟨Nat.zero_le _, Nat.zero_le _⟩ rfl rfl hl.1 (lv_room (Nat.le_of_ble_eq_true rfl)) dX3_pass_60 (fun H locs hI => ?_)
      refine lv_iinc (k := 1) (v := (t4.1 + 1)) (lv' := [(1, .int (t4.1 + 1)), (0, .ref o)]) hx hb dX3_pass_63 hl rfl rfl (by decide) rfl (fun ls hl => ?_)
      refine lv_goto (tgt := 44) hx hb dX3_pass_66 (by decide) ?_
      have he := o_in hit
      exact hC4 _ he _ _ _ hI (lv_sub hl [1, 0] rfl)
  refine o_rec (P := fun t1 => ∀ (H : Heap) (locs : List Loc) (ls : Array Slot), NI γ (kdm h) s.heap.size s t1.2 H locs → lv_has ls 3 [(0, .ref o), (1, .int t1.1)] → W p l e R s m args below meth c H locs 0 0 Q (F0 m 2 ls [])) (fun t1 x2 hit hC1 hE1 H locs ls hI hl => ?_) _ er3 _ _ _ hI (lv_sub hl [1, 0] rfl)
  unfold C3_pass_L2 at hit
  refine lv_iload_n hx hb dX3_pass_2 rfl (lv_at hl 1 rfl) ?_
  refine lv_iconst (v := 4) hx hb dX3_pass_3 (by decide) ?_
  refine b_icmp_ge (tgt := 42) hx hb dX3_pass_4 (by decide) hit (fun c14 hit => ?_) (fun c14 hit => ?_)
  · have he := o_in hit
    have he := hE1 _ he
    subst he
    exact hr3 _ _ _ hI (lv_sub hl [0] rfl)
  · refine lv_aload_n hx hb dX3_pass_7 rfl (lv_at hl 0 rfl) ?_
    refine lv_iload_n hx hb dX3_pass_8 rfl (lv_at hl 1 rfl) ?_
    obtain ⟨q15, eq15, hit⟩ := o_bind hit
    obtain ⟨iq15, eq15⟩ := vc_inv eq15
    refine c_cR X hI.1 (fun U hU hW => hI.D X.2.2 (c_AF h0H) hU hW) kc_Service (wC3_clerksIn l γ X.2.1 _ _ _ _ eq15) iq15 nm_X3_clerksIn q459 q460 q140 q462 q461 ⟨Nat.le_trans (Nat.le_of_ble_eq_true rfl) hR.1, Nat.le_trans (Nat.le_of_ble_eq_true rfl) hR.2⟩ ⟨Nat.zero_le _, Nat.zero_le _⟩ rfl rfl hl.1 (lv_room (Nat.le_of_ble_eq_true rfl)) dX3_pass_9 ?_
    refine lv_istore_n (lv' := [(2, .int q15), (0, .ref o), (1, .int t1.1)]) hx hb dX3_pass_12 rfl hl (by decide) rfl (fun ls hl => ?_)
    refine lv_iload_n hx hb dX3_pass_13 rfl (lv_at hl 0 rfl) ?_
    obtain ⟨r16, er16, hit⟩ := o_bind hit
    have hr16 : ∀ (H : Heap) (locs : List Loc) (ls : Array Slot), NI γ (kdm h) s.heap.size s r16 H locs → lv_has ls 3 [(0, .ref o), (1, .int t1.1)] → W p l e R s m args below meth c H locs 0 0 Q (F0 m 36 ls []) := by
      intro H locs ls hI hl
      refine lv_iinc (k := 1) (v := (t1.1 + 1)) (lv' := [(1, .int (t1.1 + 1)), (0, .ref o)]) hx hb dX3_pass_36 hl rfl rfl (by decide) rfl (fun ls hl => ?_)
      refine lv_goto (tgt := 2) hx hb dX3_pass_39 (by decide) ?_
      have he := o_in hit
      exact hC1 _ he _ _ _ hI (lv_sub hl [1, 0] rfl)
    have hit := er16
    refine b_if_eq (tgt := 36) hx hb dX3_pass_14 (by decide) hit (fun c17 hit => ?_) (fun c17 hit => ?_)
    · have he := o_in hit
      subst he
      exact hr16 _ _ _ hI (lv_sub hl [1, 2] rfl)
    · refine lv_aload_n hx hb dX3_pass_17 rfl (lv_at hl 1 rfl) ?_
      refine lv_iload_n hx hb dX3_pass_18 rfl (lv_at hl 2 rfl) ?_
      refine lv_iload_n hx hb dX3_pass_19 rfl (lv_at hl 0 rfl) ?_
      obtain ⟨q18, eq18, hit⟩ := o_bind hit
      obtain ⟨iq18, eq18⟩ := vc_inv eq18
      refine c_cN X (c_AF h0H) hI kc_Service (wC3_lays l γ X.2.1 _ _ _ _ _ eq18) iq18 nm_X3_lays q496 q498 q140 q499 qs6 ⟨Nat.le_trans (Nat.le_of_ble_eq_true rfl) hR.1, Nat.le_trans (Nat.le_of_ble_eq_true rfl) hR.2⟩ ⟨Nat.zero_le _, Nat.zero_le _⟩ rfl rfl hl.1 (lv_room (Nat.le_of_ble_eq_true rfl)) dX3_pass_20 (fun H locs hI => ?_)
      refine b_if_eq (tgt := 36) hx hb dX3_pass_23 (by decide) hit (fun c19 hit => ?_) (fun c19 hit => ?_)
      · have he := o_in hit
        subst he
        exact hr16 _ _ _ hI (lv_sub hl [1, 2] rfl)
      · refine lv_aload_n hx hb dX3_pass_26 rfl (lv_at hl 1 rfl) ?_
        refine lv_iload_n hx hb dX3_pass_27 rfl (lv_at hl 0 rfl) ?_
        refine lv_aload_n hx hb dX3_pass_28 rfl (lv_at hl 1 rfl) ?_
        refine lv_iload_n hx hb dX3_pass_29 rfl (lv_at hl 2 rfl) ?_
        obtain ⟨q20, eq20, hit⟩ := o_bind hit
        obtain ⟨iq20, eq20⟩ := vc_inv eq20
        refine c_cR X hI.1 (fun U hU hW => hI.D X.2.2 (c_AF h0H) hU hW) kc_Service (wC3_shows l γ X.2.1 _ _ _ _ eq20) iq20 nm_X3_shows q588 q589 q140 q591 q590 ⟨Nat.le_trans (Nat.le_of_ble_eq_true rfl) hR.1, Nat.le_trans (Nat.le_of_ble_eq_true rfl) hR.2⟩ ⟨Nat.zero_le _, Nat.zero_le _⟩ rfl rfl hl.1 (lv_room (Nat.le_of_ble_eq_true rfl)) dX3_pass_30 ?_
        obtain ⟨q21, eq21, hit⟩ := o_bind hit
        obtain ⟨iq21, eq21⟩ := vc_inv eq21
        refine c_cN X (c_AF h0H) hI kc_Service (wC3_learn l γ X.2.1 _ _ _ _ _ eq21) iq21 nm_X3_learn q613 q615 q140 q616 qs7 ⟨Nat.le_trans (Nat.le_of_ble_eq_true rfl) hR.1, Nat.le_trans (Nat.le_of_ble_eq_true rfl) hR.2⟩ ⟨Nat.zero_le _, Nat.zero_le _⟩ rfl rfl hl.1 (lv_room (Nat.le_of_ble_eq_true rfl)) dX3_pass_33 (fun H locs hI => ?_)
        have he := o_in hit
        subst he
        exact hr16 _ _ _ hI (lv_sub hl [1, 2] rfl)
noncomputable def C3_after_L2 (K : Nat → Nat) (o : Nat) (a0 : Int32) (t1 : Int32 × CH) : Option ((Int32 × CH) ⊕ (Nat × CH)) :=
  if t1.1 < a0 then
    ((vc t1.2 o 3 (C3_pass K t1.2 o)).bind fun q4 =>
    some (.inl ((t1.1 + 1), q4.2)))
  else
    (some (.inr (o, t1.2)))
noncomputable def C3_after (K : Nat → Nat) (h : CH) (o : Nat) (a0 : Int32) : Option (Nat × CH) :=
  o_loop (C3_after_L2 K o a0) (0, h)
theorem nm_X3_after : kNm yX3_after RX3 1 := by unfold kNm; decide +kernel
set_option maxHeartbeats 4000000 in
set_option maxRecDepth 100000 in
theorem wC3_after (l : Launch) (γ : KG) (hO : kOK γ) (h : CH) (o : Nat) (a0 : Int32) (z : Nat × CH) (hz : C3_after γ.2.2.2.2.2 h o a0 = some z) : Met l yX3_after (ws_ yX3_after cX3_after 3 (some (.object "TwinInk$Service"))) (kRm 813 20368) (cPc γ h [.ref o, .int a0]) (cNq γ h (some (.ref z.1)) z.2) 0 0 (kdm h) := by
  refine c_startN (cc := cX3_after) (own := RX3) hO rfl rfl rfl (fun p e R s m args below meth c Q ls X hR h0H hI hl hend => ?_)
  have hx := X.1.1
  have hb := X.1.2.1
  have hit := hz
  clear hz
  unfold C3_after at hit
  have hl : lv_has ls 3 [(0, .ref o), (1, .int a0)] := hl
  refine lv_iconst (v := 0) hx hb dX3_after_0 (by decide) ?_
  refine lv_istore_n (lv' := [(2, .int 0), (0, .ref o), (1, .int a0)]) hx hb dX3_after_1 rfl hl (by decide) rfl (fun ls hl => ?_)
  refine o_rec (P := fun t1 => ∀ (H : Heap) (locs : List Loc) (ls : Array Slot), NI γ (kdm h) s.heap.size s t1.2 H locs → lv_has ls 3 [(0, .ref o), (1, .int a0), (2, .int t1.1)] → W p l e R s m args below meth c H locs 0 0 Q (F0 m 2 ls [])) (fun t1 x2 hit hC1 hE1 H locs ls hI hl => ?_) _ hit _ _ _ hI (lv_sub hl [1, 2, 0] rfl)
  unfold C3_after_L2 at hit
  refine lv_iload_n hx hb dX3_after_2 rfl (lv_at hl 2 rfl) ?_
  refine lv_iload_n hx hb dX3_after_3 rfl (lv_at hl 1 rfl) ?_
  refine b_icmp_ge (tgt := 18) hx hb dX3_after_4 (by decide) hit (fun c3 hit => ?_) (fun c3 hit => ?_)
  · refine lv_aload_n hx hb dX3_after_18 rfl (lv_at hl 0 rfl) ?_
    have he := o_in hit
    have he := hE1 _ he
    exact hend (some (.ref o)) _ _ _ _ _ _ _ (kOut_o) (by subst he; rfl) hI dX3_after_19
  · refine lv_aload_n hx hb dX3_after_7 rfl (lv_at hl 0 rfl) ?_
    obtain ⟨q4, eq4, hit⟩ := o_bind hit
    obtain ⟨iq4, eq4⟩ := vc_inv eq4
    refine c_cN X (c_AF h0H) hI kc_Service (wC3_pass l γ X.2.1 _ _  _ eq4) iq4 nm_X3_pass q455 q456 q140 q458 q457 ⟨Nat.le_trans (Nat.le_of_ble_eq_true rfl) hR.1, Nat.le_trans (Nat.le_of_ble_eq_true rfl) hR.2⟩ ⟨Nat.zero_le _, Nat.zero_le _⟩ rfl rfl hl.1 (lv_room (Nat.le_of_ble_eq_true rfl)) dX3_after_8 (fun H locs hI => ?_)
    refine lv_pop hx hb dX3_after_11 rfl ?_
    refine lv_iinc (k := 2) (v := (t1.1 + 1)) (lv' := [(2, .int (t1.1 + 1)), (0, .ref o), (1, .int a0)]) hx hb dX3_after_12 hl rfl rfl (by decide) rfl (fun ls hl => ?_)
    refine lv_goto (tgt := 2) hx hb dX3_after_15 (by decide) ?_
    have he := o_in hit
    exact hC1 _ he _ _ _ hI (lv_sub hl [1, 2, 0] rfl)
noncomputable def C1_days_J25 (h : CH) (r : CR) (o : Nat) : Option (Int32 × CS) :=
  (vc h o 1 (C1_refuse h o 1)).bind fun q2 =>
  some (q2.1, (q2.2, r))
noncomputable def C1_days (K : Nat → Nat) (h : CH) (r : CR) (o : Nat) (a0 : Int32) : Option (Int32 × CS) :=
  (C1_in a0 1 20).bind fun q1 =>
  if q1 = 0 then
    (C1_days_J25 h r o)
  else
    ((gR h o 1 2).bind fun v4 =>
    (gI h v4 3 4).bind fun v5 =>
    if (v5 + a0) ≤ 999 then
      ((vc h o 1 (achv r (C1_keep K h r o))).bind fun q7 =>
      (gR q7.1 o 1 2).bind fun v8 =>
      (vc q7.1 v8 3 (C3_after K q7.1 v8 a0)).bind fun q9 =>
      (gI q9.2 q9.1 3 4).bind fun v10 =>
      some (v10, (q9.2, q7.2)))
    else
      (C1_days_J25 h r o))
theorem nm_X1_days : kNm yX1_days RX1 1 := by unfold kNm; decide +kernel
set_option maxHeartbeats 4000000 in
set_option maxRecDepth 100000 in
theorem wC1_days (l : Launch) (γ : KG) (hO : kOK γ) (h : CH) (r : CR) (o : Nat) (a0 : Int32) (z : Int32 × CS) (hz : C1_days γ.2.2.2.2.2 h r o a0 = some z) : aMet l yX1_days (ws_ yX1_days cX1_days 2 (some .int)) 814 20390 γ (h, r) [.ref o, .int a0] (some (.int z.1)) z.2 := by
  refine a_start (cc := cX1_days) (own := RX1) hO rfl rfl rfl (fun p e R s m args below meth c Q ls X hR hnm h0H hA hl hend => ?_)
  have hx := X.1.1
  have hb := X.1.2.1
  have hit := hz
  clear hz
  unfold C1_days at hit
  have hl : lv_has ls 2 [(0, .ref o), (1, .int a0)] := hl
  refine lv_iload_n hx hb dX1_days_0 rfl (lv_at hl 1 rfl) ?_
  refine lv_iconst (v := 1) hx hb dX1_days_1 (by decide) ?_
  refine lv_bipush (v := 20) hx hb dX1_days_2 (by decide) ?_
  obtain ⟨q1, eq1, hit⟩ := o_bind hit
  refine c_cP X.1 (wC1_in l _ _ _ _ eq1) nm_X1_in q333 q334 q135 q335 ⟨Nat.le_trans (Nat.le_of_ble_eq_true rfl) hR.1, Nat.le_trans (Nat.le_of_ble_eq_true rfl) hR.2⟩ hA.RR rfl rfl hl.1 (lv_room (Nat.le_of_ble_eq_true rfl)) dX1_days_4 ?_
  have hK25 : C1_days_J25 h r o = some z → ∀ (H : Heap) (locs : List Loc) (cells slots : Nat) (ls : Array Slot), AI γ (h, r) s R h r H locs cells slots → lv_has ls 2 [(0, .ref o)] → W p l e R s m args below meth c H locs cells slots Q (F0 m 25 ls []) := by
    intro  hit H locs cells slots ls hA hl
    unfold C1_days_J25 at hit
    refine lv_aload_n hx hb dX1_days_25 rfl (lv_at hl 0 rfl) ?_
    refine lv_iconst (v := 1) hx hb dX1_days_26 (by decide) ?_
    obtain ⟨q2, eq2, hit⟩ := o_bind hit
    obtain ⟨iq2, eq2⟩ := vc_inv eq2
    refine c_cN X (kA_F X.2.1 X.2.2 h0H) hA.1 kc_TwinInk (wC1_refuse l γ X.2.1 _ _ _ _ eq2) iq2 nm_X1_refuse q336 q338 q135 q339 qs0 ⟨Nat.le_trans (Nat.le_of_ble_eq_true rfl) hR.1, Nat.le_trans (Nat.le_of_ble_eq_true rfl) hR.2⟩ hA.RR rfl rfl hl.1 (lv_room (Nat.le_of_ble_eq_true rfl)) dX1_days_27 (fun H locs hI => ?_)
    replace hA := hA.up hI
    clear hI
    have he := o_in hit
    exact hend (some (.int q2.1)) (q2.2, r) _ _ _ _ _ _ _ _ (kOut_i rfl) (by subst he; rfl) hA dX1_days_30
  refine b_if_eq (tgt := 25) hx hb dX1_days_7 (by decide) hit (fun c3 hit => ?_) (fun c3 hit => ?_)
  · exact hK25  hit _ _ _ _ _ hA (lv_sub hl [0] rfl)
  · refine lv_aload_n hx hb dX1_days_10 rfl (lv_at hl 0 rfl) ?_
    obtain ⟨v4, ev4, hit⟩ := o_bind hit
    refine c_getR X hA.1.1 kc_TwinInk 2 q278 (Or.inl rfl) rfl rfl ev4 dX1_days_11 ?_
    obtain ⟨v5, ev5, hit⟩ := o_bind hit
    refine c_getNI X hA.1.1 kc_Service 4 q257 (Or.inl rfl) rfl rfl ev5 dX1_days_14 ?_
    refine lv_iload_n hx hb dX1_days_17 rfl (lv_at hl 1 rfl) ?_
    refine lv_iadd hx hb dX1_days_18 ?_
    refine lv_sipush (v := 999) hx hb dX1_days_19 (by decide) ?_
    refine b_icmp_le (tgt := 31) hx hb dX1_days_22 (by decide) hit (fun c6 hit => ?_) (fun c6 hit => ?_)
    · refine lv_aload_n hx hb dX1_days_31 rfl (lv_at hl 0 rfl) ?_
      obtain ⟨q7, eq7, hit⟩ := o_bind hit
      obtain ⟨iq7, eq7⟩ := vc_inv eq7
      obtain ⟨eq7, lq7⟩ := achv_inv eq7
      refine a_cV X h0H hA kc_TwinInk (wC1_keep l γ X.2.1 _ _ _  _ eq7) lq7 iq7 nm_X1_keep q340 q342 q135 q343 qs1 ⟨Nat.le_trans (Nat.le_of_ble_eq_true rfl) hR.1, Nat.le_trans (Nat.le_of_ble_eq_true rfl) hR.2⟩ rfl rfl hl.1 (lv_room (Nat.le_of_ble_eq_true rfl)) dX1_days_32 (fun H locs cells slots hA => ?_)
      refine lv_aload_n hx hb dX1_days_35 rfl (lv_at hl 0 rfl) ?_
      obtain ⟨v8, ev8, hit⟩ := o_bind hit
      refine c_getR X hA.1.1 kc_TwinInk 2 q278 (Or.inl rfl) rfl rfl ev8 dX1_days_36 ?_
      refine lv_iload_n hx hb dX1_days_39 rfl (lv_at hl 1 rfl) ?_
      obtain ⟨q9, eq9, hit⟩ := o_bind hit
      obtain ⟨iq9, eq9⟩ := vc_inv eq9
      refine c_cN X (kA_F X.2.1 X.2.2 h0H) hA.1 kc_Service (wC3_after l γ X.2.1 _ _ _ _ eq9) iq9 nm_X3_after q451 q452 q140 q454 q453 ⟨Nat.le_trans (Nat.le_of_ble_eq_true rfl) hR.1, Nat.le_trans (Nat.le_of_ble_eq_true rfl) hR.2⟩ hA.RR rfl rfl hl.1 (lv_room (Nat.le_of_ble_eq_true rfl)) dX1_days_40 (fun H locs hI => ?_)
      replace hA := hA.up hI
      clear hI
      obtain ⟨v10, ev10, hit⟩ := o_bind hit
      refine c_getNI X hA.1.1 kc_Service 4 q257 (Or.inl rfl) rfl rfl ev10 dX1_days_43 ?_
      have he := o_in hit
      exact hend (some (.int v10)) (q9.2, q7.2) _ _ _ _ _ _ _ _ (kOut_i rfl) (by subst he; rfl) hA dX1_days_46
    · exact hK25  hit _ _ _ _ _ hA (lv_sub hl [0] rfl)
noncomputable def C1_later (K : Nat → Nat) (h : CH) (o : Nat) (a0 : Int32) : Option (Nat × CH) :=
  (gR h o 1 3).bind fun v1 =>
  (gR h o 1 2).bind fun v2 =>
  (vc h v1 3 (C3_be h v1 v2)).bind fun q3 =>
  (vc q3.2 q3.1 3 (C3_after K q3.2 q3.1 a0)).bind fun q4 =>
  some (q4.1, q4.2)
theorem nm_X1_later : kNm yX1_later RX1 1 := by unfold kNm; decide +kernel
set_option maxHeartbeats 4000000 in
set_option maxRecDepth 100000 in
theorem wC1_later (l : Launch) (γ : KG) (hO : kOK γ) (h : CH) (o : Nat) (a0 : Int32) (z : Nat × CH) (hz : C1_later γ.2.2.2.2.2 h o a0 = some z) : Met l yX1_later (ws_ yX1_later cX1_later 2 (some (.object "TwinInk$Service"))) (kRm 814 20390) (cPc γ h [.ref o, .int a0]) (cNq γ h (some (.ref z.1)) z.2) 0 0 (kdm h) := by
  refine c_startN (cc := cX1_later) (own := RX1) hO rfl rfl rfl (fun p e R s m args below meth c Q ls X hR h0H hI hl hend => ?_)
  have hx := X.1.1
  have hb := X.1.2.1
  have hit := hz
  clear hz
  unfold C1_later at hit
  have hl : lv_has ls 2 [(0, .ref o), (1, .int a0)] := hl
  refine lv_aload_n hx hb dX1_later_0 rfl (lv_at hl 0 rfl) ?_
  obtain ⟨v1, ev1, hit⟩ := o_bind hit
  refine c_getR X hI.1 kc_TwinInk 3 q279 (Or.inl rfl) rfl rfl ev1 dX1_later_1 ?_
  refine lv_aload_n hx hb dX1_later_4 rfl (lv_at hl 0 rfl) ?_
  obtain ⟨v2, ev2, hit⟩ := o_bind hit
  refine c_getR X hI.1 kc_TwinInk 2 q278 (Or.inl rfl) rfl rfl ev2 dX1_later_5 ?_
  obtain ⟨q3, eq3, hit⟩ := o_bind hit
  obtain ⟨iq3, eq3⟩ := vc_inv eq3
  refine c_cN X (c_AF h0H) hI kc_Service (wC3_be l γ X.2.1 _ _ _ _ eq3) iq3 nm_X3_be q1406 q351 q140 q353 q352 ⟨Nat.le_trans (Nat.le_of_ble_eq_true rfl) hR.1, Nat.le_trans (Nat.le_of_ble_eq_true rfl) hR.2⟩ ⟨Nat.zero_le _, Nat.zero_le _⟩ rfl rfl hl.1 (lv_room (Nat.le_of_ble_eq_true rfl)) dX1_later_8 (fun H locs hI => ?_)
  refine lv_iload_n hx hb dX1_later_11 rfl (lv_at hl 1 rfl) ?_
  obtain ⟨q4, eq4, hit⟩ := o_bind hit
  obtain ⟨iq4, eq4⟩ := vc_inv eq4
  refine c_cN X (c_AF h0H) hI kc_Service (wC3_after l γ X.2.1 _ _ _ _ eq4) iq4 nm_X3_after q451 q452 q140 q454 q453 ⟨Nat.le_trans (Nat.le_of_ble_eq_true rfl) hR.1, Nat.le_trans (Nat.le_of_ble_eq_true rfl) hR.2⟩ ⟨Nat.zero_le _, Nat.zero_le _⟩ rfl rfl hl.1 (lv_room (Nat.le_of_ble_eq_true rfl)) dX1_later_12 (fun H locs hI => ?_)
  have he := o_in hit
  exact hend (some (.ref q4.1)) _ _ _ _ _ _ _ (kOut_o) (by subst he; rfl) hI dX1_later_15
noncomputable def C1_knows_L15 (K : Nat → Nat) (o : Nat) (a0 : Int32) (a1 : Int32) (a2 : Int32) (t4 : Int32 × CH) : Option ((Int32 × CH) ⊕ (Int32 × CH)) :=
  if t4.1 ≤ 40 then
    ((gR t4.2 o 1 3).bind fun v7 =>
    (gR t4.2 v7 3 3).bind fun v8 =>
    (aI t4.2 v8 0 a0).bind fun v9 =>
    (C1_isOf v9 a1).bind fun q10 =>
    if q10 = 0 then
      (((if a2 = 0 then
          (some t4.2)
        else
          ((gR t4.2 o 1 3).bind fun v16 =>
          (vc t4.2 v16 3 (C3_talk t4.2 v16)).bind fun q17 =>
          some q17.2) : Option CH)).bind fun r12 =>
      (gR r12 o 1 3).bind fun v13 =>
      (vc r12 v13 3 (C3_pass K r12 v13)).bind fun q14 =>
      some (.inl ((t4.1 + 1), q14.2)))
    else
      (some (.inr (t4.1, t4.2))))
  else
    (some (.inr ((-1), t4.2)))
noncomputable def C1_knows (K : Nat → Nat) (h : CH) (o : Nat) (a0 : Int32) (a1 : Int32) (a2 : Int32) : Option (Int32 × CH) :=
  (gR h o 1 3).bind fun v1 =>
  (gR h o 1 2).bind fun v2 =>
  (vc h v1 3 (C3_be h v1 v2)).bind fun q3 =>
  o_loop (C1_knows_L15 K o a0 a1 a2) (0, q3.2)
theorem nm_X1_knows : kNm yX1_knows RX1 3 := by unfold kNm; decide +kernel
set_option maxHeartbeats 4000000 in
set_option maxRecDepth 100000 in
theorem wC1_knows (l : Launch) (γ : KG) (hO : kOK γ) (h : CH) (o : Nat) (a0 : Int32) (a1 : Int32) (a2 : Int32) (z : Int32 × CH) (hz : C1_knows γ.2.2.2.2.2 h o a0 a1 a2 = some z) : Met l yX1_knows (ws_ yX1_knows cX1_knows 5 (some .int)) (kRm 813 20368) (cPc γ h [.ref o, .int a0, .int a1, .int a2]) (cNq γ h (some (.int z.1)) z.2) 0 0 (kdm h) := by
  refine c_startN (cc := cX1_knows) (own := RX1) hO rfl rfl rfl (fun p e R s m args below meth c Q ls X hR h0H hI hl hend => ?_)
  have hx := X.1.1
  have hb := X.1.2.1
  have hit := hz
  clear hz
  unfold C1_knows at hit
  have hl : lv_has ls 5 [(0, .ref o), (1, .int a0), (2, .int a1), (3, .int a2)] := hl
  refine lv_aload_n hx hb dX1_knows_0 rfl (lv_at hl 0 rfl) ?_
  obtain ⟨v1, ev1, hit⟩ := o_bind hit
  refine c_getR X hI.1 kc_TwinInk 3 q279 (Or.inl rfl) rfl rfl ev1 dX1_knows_1 ?_
  refine lv_aload_n hx hb dX1_knows_4 rfl (lv_at hl 0 rfl) ?_
  obtain ⟨v2, ev2, hit⟩ := o_bind hit
  refine c_getR X hI.1 kc_TwinInk 2 q278 (Or.inl rfl) rfl rfl ev2 dX1_knows_5 ?_
  obtain ⟨q3, eq3, hit⟩ := o_bind hit
  obtain ⟨iq3, eq3⟩ := vc_inv eq3
  refine c_cN X (c_AF h0H) hI kc_Service (wC3_be l γ X.2.1 _ _ _ _ eq3) iq3 nm_X3_be q1406 q351 q140 q353 q352 ⟨Nat.le_trans (Nat.le_of_ble_eq_true rfl) hR.1, Nat.le_trans (Nat.le_of_ble_eq_true rfl) hR.2⟩ ⟨Nat.zero_le _, Nat.zero_le _⟩ rfl rfl hl.1 (lv_room (Nat.le_of_ble_eq_true rfl)) dX1_knows_8 (fun H locs hI => ?_)
  refine lv_pop hx hb dX1_knows_11 rfl ?_
  refine lv_iconst (v := 0) hx hb dX1_knows_12 (by decide) ?_
  refine lv_istore (lv' := [(4, .int 0), (0, .ref o), (1, .int a0), (2, .int a1), (3, .int a2)]) hx hb dX1_knows_13 hl (by decide) rfl (fun ls hl => ?_)
  refine o_rec (P := fun t4 => ∀ (H : Heap) (locs : List Loc) (ls : Array Slot), NI γ (kdm h) s.heap.size s t4.2 H locs → lv_has ls 5 [(0, .ref o), (1, .int a0), (2, .int a1), (3, .int a2), (4, .int t4.1)] → W p l e R s m args below meth c H locs 0 0 Q (F0 m 15 ls [])) (fun t4 x5 hit hC4 hE4 H locs ls hI hl => ?_) _ hit _ _ _ hI (lv_sub hl [1, 2, 3, 4, 0] rfl)
  unfold C1_knows_L15 at hit
  refine lv_iload hx hb dX1_knows_15 (lv_at hl 4 rfl) ?_
  refine lv_bipush (v := 40) hx hb dX1_knows_17 (by decide) ?_
  refine b_icmp_gt (tgt := 67) hx hb dX1_knows_19 (by decide) hit (fun c6 hit => ?_) (fun c6 hit => ?_)
  · refine lv_iconst (v := (-1)) hx hb dX1_knows_67 (by decide) ?_
    have he := o_in hit
    have he := hE4 _ he
    exact hend (some (.int (-1))) _ _ _ _ _ _ _ (kOut_i rfl) (by subst he; rfl) hI dX1_knows_68
  · refine lv_aload_n hx hb dX1_knows_22 rfl (lv_at hl 0 rfl) ?_
    obtain ⟨v7, ev7, hit⟩ := o_bind hit
    refine c_getR X hI.1 kc_TwinInk 3 q279 (Or.inl rfl) rfl rfl ev7 dX1_knows_23 ?_
    obtain ⟨v8, ev8, hit⟩ := o_bind hit
    refine c_getNR X hI.1 kc_Service 3 q255 (Or.inl rfl) rfl rfl ev8 dX1_knows_26 ?_
    refine lv_iload_n hx hb dX1_knows_29 rfl (lv_at hl 1 rfl) ?_
    obtain ⟨v9, ev9, hit⟩ := o_bind hit
    refine c_iald X hI.1 ev9 dX1_knows_30 ?_
    refine lv_iload_n hx hb dX1_knows_31 rfl (lv_at hl 2 rfl) ?_
    obtain ⟨q10, eq10, hit⟩ := o_bind hit
    refine c_cP X.1 (wC1_isOf l _ _ _ eq10) nm_X1_isOf q1252 q519 q135 q520 ⟨Nat.le_trans (Nat.le_of_ble_eq_true rfl) hR.1, Nat.le_trans (Nat.le_of_ble_eq_true rfl) hR.2⟩ ⟨Nat.zero_le _, Nat.zero_le _⟩ rfl rfl hl.1 (lv_room (Nat.le_of_ble_eq_true rfl)) dX1_knows_32 ?_
    refine b_if_eq (tgt := 41) hx hb dX1_knows_35 (by decide) hit (fun c11 hit => ?_) (fun c11 hit => ?_)
    · refine lv_iload_n hx hb dX1_knows_41 rfl (lv_at hl 3 rfl) ?_
      obtain ⟨r12, er12, hit⟩ := o_bind hit
      have hr12 : ∀ (H : Heap) (locs : List Loc) (ls : Array Slot), NI γ (kdm h) s.heap.size s r12 H locs → lv_has ls 5 [(0, .ref o), (1, .int a0), (2, .int a1), (3, .int a2), (4, .int t4.1)] → W p l e R s m args below meth c H locs 0 0 Q (F0 m 53 ls []) := by
        intro H locs ls hI hl
        refine lv_aload_n hx hb dX1_knows_53 rfl (lv_at hl 0 rfl) ?_
        obtain ⟨v13, ev13, hit⟩ := o_bind hit
        refine c_getR X hI.1 kc_TwinInk 3 q279 (Or.inl rfl) rfl rfl ev13 dX1_knows_54 ?_
        obtain ⟨q14, eq14, hit⟩ := o_bind hit
        obtain ⟨iq14, eq14⟩ := vc_inv eq14
        refine c_cN X (c_AF h0H) hI kc_Service (wC3_pass l γ X.2.1 _ _  _ eq14) iq14 nm_X3_pass q1429 q456 q140 q458 q457 ⟨Nat.le_trans (Nat.le_of_ble_eq_true rfl) hR.1, Nat.le_trans (Nat.le_of_ble_eq_true rfl) hR.2⟩ ⟨Nat.zero_le _, Nat.zero_le _⟩ rfl rfl hl.1 (lv_room (Nat.le_of_ble_eq_true rfl)) dX1_knows_57 (fun H locs hI => ?_)
        refine lv_pop hx hb dX1_knows_60 rfl ?_
        refine lv_iinc (k := 4) (v := (t4.1 + 1)) (lv' := [(4, .int (t4.1 + 1)), (0, .ref o), (1, .int a0), (2, .int a1), (3, .int a2)]) hx hb dX1_knows_61 hl rfl rfl (by decide) rfl (fun ls hl => ?_)
        refine lv_goto (tgt := 15) hx hb dX1_knows_64 (by decide) ?_
        have he := o_in hit
        exact hC4 _ he _ _ _ hI (lv_sub hl [1, 2, 3, 4, 0] rfl)
      have hit := er12
      refine b_if_eq (tgt := 53) hx hb dX1_knows_42 (by decide) hit (fun c15 hit => ?_) (fun c15 hit => ?_)
      · have he := o_in hit
        subst he
        exact hr12 _ _ _ hI hl
      · refine lv_aload_n hx hb dX1_knows_45 rfl (lv_at hl 0 rfl) ?_
        obtain ⟨v16, ev16, hit⟩ := o_bind hit
        refine c_getR X hI.1 kc_TwinInk 3 q279 (Or.inl rfl) rfl rfl ev16 dX1_knows_46 ?_
        obtain ⟨q17, eq17, hit⟩ := o_bind hit
        obtain ⟨iq17, eq17⟩ := vc_inv eq17
        refine c_cN X (c_AF h0H) hI kc_Service (wC3_talk l γ X.2.1 _ _  _ eq17) iq17 nm_X3_talk q1425 q1426 q140 q1428 q1427 ⟨Nat.le_trans (Nat.le_of_ble_eq_true rfl) hR.1, Nat.le_trans (Nat.le_of_ble_eq_true rfl) hR.2⟩ ⟨Nat.zero_le _, Nat.zero_le _⟩ rfl rfl hl.1 (lv_room (Nat.le_of_ble_eq_true rfl)) dX1_knows_49 (fun H locs hI => ?_)
        refine lv_pop hx hb dX1_knows_52 rfl ?_
        have he := o_in hit
        subst he
        exact hr12 _ _ _ hI hl
    · refine lv_iload hx hb dX1_knows_38 (lv_at hl 4 rfl) ?_
      have he := o_in hit
      have he := hE4 _ he
      exact hend (some (.int t4.1)) _ _ _ _ _ _ _ (kOut_i rfl) (by subst he; rfl) hI dX1_knows_40
noncomputable def C1_isSo_L52 (K : Nat → Nat) (o : Nat) (t4 : Int32 × CH) (t7 : Int32) : Option (Int32 ⊕ ((Int32 × CH) ⊕ (Int32 × CH))) :=
  (gR t4.2 o 1 9).bind fun v9 =>
  (vc t4.2 v9 10 (CJ2_size t4.2 v9)).bind fun q10 =>
  if t7 < q10 then
    ((gR t4.2 o 1 9).bind fun v14 =>
    (vc t4.2 v14 10 (CJ2_get t4.2 v14 t7)).bind fun q15 =>
    (ckA t4.2 q15 0).bind fun u17 =>
    (aI t4.2 q15 0 2).bind fun v18 =>
    if v18 = t4.1 then
      ((gR t4.2 o 1 3).bind fun v20 =>
      (gR t4.2 v20 3 3).bind fun v21 =>
      (aI t4.2 q15 0 0).bind fun v22 =>
      (aI t4.2 v21 0 v22).bind fun v23 =>
      (aI t4.2 q15 0 1).bind fun v24 =>
      (aI t4.2 q15 0 3).bind fun v25 =>
      if ((v23 >>> (v24 &&& 31)) &&& 1) = v25 then
        (some (.inl (t7 + 1)))
      else
        (some (.inr (.inr (0, t4.2)))))
    else
      (some (.inl (t7 + 1))))
  else
    ((gR t4.2 o 1 3).bind fun v12 =>
    (vc t4.2 v12 3 (C3_pass K t4.2 v12)).bind fun q13 =>
    some (.inr (.inl ((t4.1 + 1), q13.2))))
noncomputable def C1_isSo_L45 (K : Nat → Nat) (o : Nat) (r3 : Int32) (t4 : Int32 × CH) : Option ((Int32 × CH) ⊕ (Int32 × CH)) :=
  if t4.1 ≤ r3 then
    (o_loop (C1_isSo_L52 K o t4) 0)
  else
    (some (.inr (1, t4.2)))
noncomputable def C1_isSo_L4 (h : CH) (o : Nat) (t1 : Int32 × Int32) : Option ((Int32 × Int32) ⊕ Int32) :=
  (gR h o 1 9).bind fun v27 =>
  (vc h v27 10 (CJ2_size h v27)).bind fun q28 =>
  if t1.2 < q28 then
    ((gR h o 1 9).bind fun v30 =>
    (vc h v30 10 (CJ2_get h v30 t1.2)).bind fun q31 =>
    (ckA h q31 0).bind fun u33 =>
    (aI h q31 0 2).bind fun v34 =>
    some (.inl ((imax t1.1 v34), (t1.2 + 1))))
  else
    (some (.inr t1.1))
noncomputable def C1_isSo (K : Nat → Nat) (h : CH) (o : Nat) : Option (Int32 × CH) :=
  (o_loop (C1_isSo_L4 h o) (0, 0)).bind fun r3 =>
  o_loop (C1_isSo_L45 K o r3) (0, h)
theorem nm_X1_isSo : kNm yX1_isSo RX1 0 := by unfold kNm; decide +kernel
set_option maxHeartbeats 4000000 in
set_option maxRecDepth 100000 in
theorem wC1_isSo (l : Launch) (γ : KG) (hO : kOK γ) (h : CH) (o : Nat) (z : Int32 × CH) (hz : C1_isSo γ.2.2.2.2.2 h o = some z) : Met l yX1_isSo (ws_ yX1_isSo cX1_isSo 5 (some .boolean)) (kRm 813 20368) (cPc γ h [.ref o]) (cNq γ h (some (.int z.1)) z.2) 0 0 (kdm h) := by
  refine c_startN (cc := cX1_isSo) (own := RX1) hO rfl rfl rfl (fun p e R s m args below meth c Q ls X hR h0H hI hl hend => ?_)
  have hx := X.1.1
  have hb := X.1.2.1
  have hit := hz
  clear hz
  unfold C1_isSo at hit
  have hl : lv_has ls 5 [(0, .ref o)] := hl
  refine lv_iconst (v := 0) hx hb dX1_isSo_0 (by decide) ?_
  refine lv_istore_n (lv' := [(1, .int 0), (0, .ref o)]) hx hb dX1_isSo_1 rfl hl (by decide) rfl (fun ls hl => ?_)
  refine lv_iconst (v := 0) hx hb dX1_isSo_2 (by decide) ?_
  refine lv_istore_n (lv' := [(2, .int 0), (1, .int 0), (0, .ref o)]) hx hb dX1_isSo_3 rfl hl (by decide) rfl (fun ls hl => ?_)
  obtain ⟨r3, er3, hit⟩ := o_bind hit
  have hr3 : ∀ (H : Heap) (locs : List Loc) (ls : Array Slot), NI γ (kdm h) s.heap.size s h H locs → lv_has ls 5 [(0, .ref o), (1, .int r3)] → W p l e R s m args below meth c H locs 0 0 Q (F0 m 43 ls []) := by
    intro H locs ls hI hl
    refine lv_iconst (v := 0) hx hb dX1_isSo_43 (by decide) ?_
    refine lv_istore_n (lv' := [(2, .int 0), (0, .ref o), (1, .int r3)]) hx hb dX1_isSo_44 rfl hl (by decide) rfl (fun ls hl => ?_)
    refine o_rec (P := fun t4 => ∀ (H : Heap) (locs : List Loc) (ls : Array Slot), NI γ (kdm h) s.heap.size s t4.2 H locs → lv_has ls 5 [(0, .ref o), (1, .int r3), (2, .int t4.1)] → W p l e R s m args below meth c H locs 0 0 Q (F0 m 45 ls [])) (fun t4 x5 hit hC4 hE4 H locs ls hI hl => ?_) _ hit _ _ _ hI (lv_sub hl [1, 2, 0] rfl)
    unfold C1_isSo_L45 at hit
    refine lv_iload_n hx hb dX1_isSo_45 rfl (lv_at hl 2 rfl) ?_
    refine lv_iload_n hx hb dX1_isSo_46 rfl (lv_at hl 1 rfl) ?_
    refine b_icmp_gt (tgt := 136) hx hb dX1_isSo_47 (by decide) hit (fun c6 hit => ?_) (fun c6 hit => ?_)
    · refine lv_iconst (v := 1) hx hb dX1_isSo_136 (by decide) ?_
      have he := o_in hit
      have he := hE4 _ he
      exact hend (some (.int 1)) _ _ _ _ _ _ _ (kOut_i rfl) (by subst he; rfl) hI dX1_isSo_137
    · refine lv_iconst (v := 0) hx hb dX1_isSo_50 (by decide) ?_
      refine lv_istore_n (lv' := [(3, .int 0), (0, .ref o), (1, .int r3), (2, .int t4.1)]) hx hb dX1_isSo_51 rfl hl (by decide) rfl (fun ls hl => ?_)
      refine o_rec (P := fun t7 => ∀ (H : Heap) (locs : List Loc) (ls : Array Slot), NI γ (kdm h) s.heap.size s t4.2 H locs → lv_has ls 5 [(0, .ref o), (1, .int r3), (2, .int t4.1), (3, .int t7)] → W p l e R s m args below meth c H locs 0 0 Q (F0 m 52 ls [])) (fun t7 x8 hit hC7 hE7 H locs ls hI hl => ?_) _ hit _ _ _ hI (lv_sub hl [1, 2, 3, 0] rfl)
      unfold C1_isSo_L52 at hit
      refine lv_iload_n hx hb dX1_isSo_52 rfl (lv_at hl 3 rfl) ?_
      refine lv_aload_n hx hb dX1_isSo_53 rfl (lv_at hl 0 rfl) ?_
      obtain ⟨v9, ev9, hit⟩ := o_bind hit
      refine c_getR X hI.1 kc_TwinInk 9 q286 (Or.inl rfl) rfl rfl ev9 dX1_isSo_54 ?_
      obtain ⟨q10, eq10, hit⟩ := o_bind hit
      obtain ⟨iq10, eq10⟩ := vc_inv eq10
      refine c_cRF X hI.1 (fun U hU hW => hI.D X.2.2 (c_AF h0H) hU hW) kc_ArrayList (wCJ2_size l γ X.2.1 _ _  _ eq10) iq10 nmi_List_size q423 q428 q139 q430 q426 q425 q424 q429 q427 q358 ⟨Nat.le_trans (Nat.le_of_ble_eq_true rfl) hR.1, Nat.le_trans (Nat.le_of_ble_eq_true rfl) hR.2⟩ ⟨Nat.zero_le _, Nat.zero_le _⟩ rfl rfl hl.1 (lv_room (Nat.le_of_ble_eq_true rfl)) dX1_isSo_57 ?_
      refine b_icmp_ge (tgt := 122) hx hb dX1_isSo_62 (by decide) hit (fun c11 hit => ?_) (fun c11 hit => ?_)
      · refine lv_aload_n hx hb dX1_isSo_122 rfl (lv_at hl 0 rfl) ?_
        obtain ⟨v12, ev12, hit⟩ := o_bind hit
        refine c_getR X hI.1 kc_TwinInk 3 q279 (Or.inl rfl) rfl rfl ev12 dX1_isSo_123 ?_
        obtain ⟨q13, eq13, hit⟩ := o_bind hit
        obtain ⟨iq13, eq13⟩ := vc_inv eq13
        refine c_cN X (c_AF h0H) hI kc_Service (wC3_pass l γ X.2.1 _ _  _ eq13) iq13 nm_X3_pass q1429 q456 q140 q458 q457 ⟨Nat.le_trans (Nat.le_of_ble_eq_true rfl) hR.1, Nat.le_trans (Nat.le_of_ble_eq_true rfl) hR.2⟩ ⟨Nat.zero_le _, Nat.zero_le _⟩ rfl rfl hl.1 (lv_room (Nat.le_of_ble_eq_true rfl)) dX1_isSo_126 (fun H locs hI => ?_)
        refine lv_pop hx hb dX1_isSo_129 rfl ?_
        refine lv_iinc (k := 2) (v := (t4.1 + 1)) (lv' := [(2, .int (t4.1 + 1)), (0, .ref o), (1, .int r3), (3, .int t7)]) hx hb dX1_isSo_130 hl rfl rfl (by decide) rfl (fun ls hl => ?_)
        refine lv_goto (tgt := 45) hx hb dX1_isSo_133 (by decide) ?_
        have he := o_in hit
        have he := hE7 _ he
        exact hC4 _ he _ _ _ hI (lv_sub hl [1, 2, 0] rfl)
      · refine lv_aload_n hx hb dX1_isSo_65 rfl (lv_at hl 0 rfl) ?_
        obtain ⟨v14, ev14, hit⟩ := o_bind hit
        refine c_getR X hI.1 kc_TwinInk 9 q286 (Or.inl rfl) rfl rfl ev14 dX1_isSo_66 ?_
        refine lv_iload_n hx hb dX1_isSo_69 rfl (lv_at hl 3 rfl) ?_
        obtain ⟨q15, eq15, hit⟩ := o_bind hit
        obtain ⟨iq15, eq15⟩ := vc_inv eq15
        refine c_cRF X hI.1 (fun U hU hW => hI.D X.2.2 (c_AF h0H) hU hW) kc_ArrayList (wCJ2_get l γ X.2.1 _ _ _ _ eq15) iq15 nmi_List_get q643 q483 q139 q485 q481 q480 q479 q484 q482 q358 ⟨Nat.le_trans (Nat.le_of_ble_eq_true rfl) hR.1, Nat.le_trans (Nat.le_of_ble_eq_true rfl) hR.2⟩ ⟨Nat.zero_le _, Nat.zero_le _⟩ rfl rfl hl.1 (lv_room (Nat.le_of_ble_eq_true rfl)) dX1_isSo_70 ?_
        obtain ⟨u17, eu17, hit⟩ := o_bind hit
        refine c_castA X hI.1 0 (fun _ => rfl) q644 (fun h => h) eu17 dX1_isSo_75 ?_
        refine lv_astore (lv' := [(4, .ref q15), (0, .ref o), (1, .int r3), (2, .int t4.1), (3, .int t7)]) hx hb dX1_isSo_78 hl (by decide) rfl (fun ls hl => ?_)
        refine lv_aload hx hb dX1_isSo_80 (lv_at hl 0 rfl) ?_
        refine lv_iconst (v := 2) hx hb dX1_isSo_82 (by decide) ?_
        obtain ⟨v18, ev18, hit⟩ := o_bind hit
        refine c_iald X hI.1 ev18 dX1_isSo_83 ?_
        refine lv_iload_n hx hb dX1_isSo_84 rfl (lv_at hl 3 rfl) ?_
        refine b_icmp_ne (tgt := 116) hx hb dX1_isSo_85 (by decide) hit (fun c19 hit => ?_) (fun c19 hit => ?_)
        · refine lv_iinc (k := 4) (v := (t7 + 1)) (lv' := [(3, .int (t7 + 1)), (4, .ref q15), (0, .ref o), (1, .int r3), (2, .int t4.1)]) hx hb dX1_isSo_116 hl rfl rfl (by decide) rfl (fun ls hl => ?_)
          refine lv_goto (tgt := 52) hx hb dX1_isSo_119 (by decide) ?_
          have he := o_in hit
          exact hC7 _ he _ _ _ hI (lv_sub hl [2, 3, 4, 0] rfl)
        · refine lv_aload_n hx hb dX1_isSo_88 rfl (lv_at hl 1 rfl) ?_
          obtain ⟨v20, ev20, hit⟩ := o_bind hit
          refine c_getR X hI.1 kc_TwinInk 3 q279 (Or.inl rfl) rfl rfl ev20 dX1_isSo_89 ?_
          obtain ⟨v21, ev21, hit⟩ := o_bind hit
          refine c_getNR X hI.1 kc_Service 3 q255 (Or.inl rfl) rfl rfl ev21 dX1_isSo_92 ?_
          refine lv_aload hx hb dX1_isSo_95 (lv_at hl 0 rfl) ?_
          refine lv_iconst (v := 0) hx hb dX1_isSo_97 (by decide) ?_
          obtain ⟨v22, ev22, hit⟩ := o_bind hit
          refine c_iald X hI.1 ev22 dX1_isSo_98 ?_
          obtain ⟨v23, ev23, hit⟩ := o_bind hit
          refine c_iald X hI.1 ev23 dX1_isSo_99 ?_
          refine lv_aload hx hb dX1_isSo_100 (lv_at hl 0 rfl) ?_
          refine lv_iconst (v := 1) hx hb dX1_isSo_102 (by decide) ?_
          obtain ⟨v24, ev24, hit⟩ := o_bind hit
          refine c_iald X hI.1 ev24 dX1_isSo_103 ?_
          refine lv_ishr hx hb dX1_isSo_104 ?_
          refine lv_iconst (v := 1) hx hb dX1_isSo_105 (by decide) ?_
          refine lv_iand hx hb dX1_isSo_106 ?_
          refine lv_aload hx hb dX1_isSo_107 (lv_at hl 0 rfl) ?_
          refine lv_iconst (v := 3) hx hb dX1_isSo_109 (by decide) ?_
          obtain ⟨v25, ev25, hit⟩ := o_bind hit
          refine c_iald X hI.1 ev25 dX1_isSo_110 ?_
          refine b_icmp_eq (tgt := 116) hx hb dX1_isSo_111 (by decide) hit (fun c26 hit => ?_) (fun c26 hit => ?_)
          · refine lv_iinc (k := 4) (v := (t7 + 1)) (lv' := [(3, .int (t7 + 1)), (4, .ref q15), (0, .ref o), (1, .int r3), (2, .int t4.1)]) hx hb dX1_isSo_116 hl rfl rfl (by decide) rfl (fun ls hl => ?_)
            refine lv_goto (tgt := 52) hx hb dX1_isSo_119 (by decide) ?_
            have he := o_in hit
            exact hC7 _ he _ _ _ hI (lv_sub hl [2, 3, 4, 0] rfl)
          · refine lv_iconst (v := 0) hx hb dX1_isSo_114 (by decide) ?_
            have he := o_in hit
            have he := hE7 _ he
            have he := hE4 _ he
            exact hend (some (.int 0)) _ _ _ _ _ _ _ (kOut_i rfl) (by subst he; rfl) hI dX1_isSo_115
  refine o_rec (P := fun t1 => ∀ (H : Heap) (locs : List Loc) (ls : Array Slot), NI γ (kdm h) s.heap.size s h H locs → lv_has ls 5 [(0, .ref o), (1, .int t1.1), (2, .int t1.2)] → W p l e R s m args below meth c H locs 0 0 Q (F0 m 4 ls [])) (fun t1 x2 hit hC1 hE1 H locs ls hI hl => ?_) _ er3 _ _ _ hI (lv_sub hl [2, 1, 0] rfl)
  unfold C1_isSo_L4 at hit
  refine lv_iload_n hx hb dX1_isSo_4 rfl (lv_at hl 2 rfl) ?_
  refine lv_aload_n hx hb dX1_isSo_5 rfl (lv_at hl 0 rfl) ?_
  obtain ⟨v27, ev27, hit⟩ := o_bind hit
  refine c_getR X hI.1 kc_TwinInk 9 q286 (Or.inl rfl) rfl rfl ev27 dX1_isSo_6 ?_
  obtain ⟨q28, eq28, hit⟩ := o_bind hit
  obtain ⟨iq28, eq28⟩ := vc_inv eq28
  refine c_cRF X hI.1 (fun U hU hW => hI.D X.2.2 (c_AF h0H) hU hW) kc_ArrayList (wCJ2_size l γ X.2.1 _ _  _ eq28) iq28 nmi_List_size q423 q428 q139 q430 q426 q425 q424 q429 q427 q358 ⟨Nat.le_trans (Nat.le_of_ble_eq_true rfl) hR.1, Nat.le_trans (Nat.le_of_ble_eq_true rfl) hR.2⟩ ⟨Nat.zero_le _, Nat.zero_le _⟩ rfl rfl hl.1 (lv_room (Nat.le_of_ble_eq_true rfl)) dX1_isSo_9 ?_
  refine b_icmp_ge (tgt := 43) hx hb dX1_isSo_14 (by decide) hit (fun c29 hit => ?_) (fun c29 hit => ?_)
  · have he := o_in hit
    have he := hE1 _ he
    subst he
    exact hr3 _ _ _ hI (lv_sub hl [0, 1] rfl)
  · refine lv_iload_n hx hb dX1_isSo_17 rfl (lv_at hl 1 rfl) ?_
    refine lv_aload_n hx hb dX1_isSo_18 rfl (lv_at hl 0 rfl) ?_
    obtain ⟨v30, ev30, hit⟩ := o_bind hit
    refine c_getR X hI.1 kc_TwinInk 9 q286 (Or.inl rfl) rfl rfl ev30 dX1_isSo_19 ?_
    refine lv_iload_n hx hb dX1_isSo_22 rfl (lv_at hl 2 rfl) ?_
    obtain ⟨q31, eq31, hit⟩ := o_bind hit
    obtain ⟨iq31, eq31⟩ := vc_inv eq31
    refine c_cRF X hI.1 (fun U hU hW => hI.D X.2.2 (c_AF h0H) hU hW) kc_ArrayList (wCJ2_get l γ X.2.1 _ _ _ _ eq31) iq31 nmi_List_get q643 q483 q139 q485 q481 q480 q479 q484 q482 q358 ⟨Nat.le_trans (Nat.le_of_ble_eq_true rfl) hR.1, Nat.le_trans (Nat.le_of_ble_eq_true rfl) hR.2⟩ ⟨Nat.zero_le _, Nat.zero_le _⟩ rfl rfl hl.1 (lv_room (Nat.le_of_ble_eq_true rfl)) dX1_isSo_23 ?_
    obtain ⟨u33, eu33, hit⟩ := o_bind hit
    refine c_castA X hI.1 0 (fun _ => rfl) q644 (fun h => h) eu33 dX1_isSo_28 ?_
    refine lv_iconst (v := 2) hx hb dX1_isSo_31 (by decide) ?_
    obtain ⟨v34, ev34, hit⟩ := o_bind hit
    refine c_iald X hI.1 ev34 dX1_isSo_32 ?_
    refine b_max X.1 hl.1 q1253 (Nat.le_trans (Nat.le_of_ble_eq_true rfl) hR.1) (Nat.le_trans (Nat.le_of_ble_eq_true rfl) hR.2) ⟨Nat.zero_le _, Nat.zero_le _⟩ dX1_isSo_33 ?_
    refine lv_istore_n (lv' := [(1, .int (imax t1.1 v34)), (0, .ref o), (2, .int t1.2)]) hx hb dX1_isSo_36 rfl hl (by decide) rfl (fun ls hl => ?_)
    refine lv_iinc (k := 2) (v := (t1.2 + 1)) (lv' := [(2, .int (t1.2 + 1)), (1, .int (imax t1.1 v34)), (0, .ref o)]) hx hb dX1_isSo_37 hl rfl rfl (by decide) rfl (fun ls hl => ?_)
    refine lv_goto (tgt := 4) hx hb dX1_isSo_40 (by decide) ?_
    have he := o_in hit
    exact hC1 _ he _ _ _ hI (lv_sub hl [2, 1, 0] rfl)
noncomputable def C1_others_L23 (K : Nat → Nat) (r : CR) (o : Nat) (t3 : Int32 × CS) (t8 : Int32 × CS) : Option ((Int32 × CS) ⊕ CS) :=
  (gR t8.2.1 o 1 1).bind fun v11 =>
  (gI t8.2.1 v11 2 2).bind fun v12 =>
  if t8.1 < v12 then
    ((gR t8.2.1 o 1 2).bind fun v14 =>
    (vc t8.2.1 v14 3 (C3_isBurnt t8.2.1 v14 t8.1)).bind fun q15 =>
    ((if q15 = 0 then
        ((gR t8.2.1 o 1 2).bind fun v18 =>
        (vc t8.2.1 v18 3 (C3_bearer t8.2.1 v18 t8.1)).bind fun q19 =>
        if q19 = t3.1 then
          (some t8.2)
        else
          ((gR t8.2.1 o 1 3).bind fun v21 =>
          (gR t8.2.1 o 1 2).bind fun v22 =>
          (vc t8.2.1 v21 3 (C3_be t8.2.1 v21 v22)).bind fun q23 =>
          (vc q23.2 q23.1 3 (C3_take q23.2 q23.1 t3.1 t8.1)).bind fun q24 =>
          (vc q24 o 1 (C1_isSo K q24 o)).bind fun q25 =>
          if q25.1 = 0 then
            (some (q25.2, t8.2.2))
          else
            ((achk t8.2.2 (CJ19_valueOf K q25.2 t8.2.2 ((10 * t3.1) + t8.1))).bind fun q27 =>
            (vc q27.2.1 r.1 10 (achk q27.2.2 (CJ2_add K q27.2.1 q27.2.2 r.1 q27.1))).bind fun q28 =>
            some q28.2)))
      else
        (some t8.2) : Option CS)).bind fun r16 =>
    some (.inl ((t8.1 + 1), r16)))
  else
    (some (.inr t8.2))
noncomputable def C1_others_L10 (K : Nat → Nat) (r : CR) (o : Nat) (t3 : Int32 × CS) : Option ((Int32 × CS) ⊕ (Nat × CS)) :=
  (gR t3.2.1 o 1 1).bind fun v5 =>
  (vc t3.2.1 v5 2 (C2_clerks t3.2.1 v5)).bind fun q6 =>
  if t3.1 < q6 then
    ((o_loop (C1_others_L23 K r o t3) (0, t3.2)).bind fun r10 =>
    some (.inl ((t3.1 + 1), r10)))
  else
    (some (.inr (r.1, t3.2)))
noncomputable def C1_others (K : Nat → Nat) (h : CH) (r : CR) (o : Nat) : Option (Nat × CS) :=
  (aCell h r 3 (.inr (10, [.int 0, .null, .int 0]))).bind fun s1 =>
  (CJ2_init K s1.1 r.1).bind fun q2 =>
  o_loop (C1_others_L10 K r o) (0, (q2, s1.2))
theorem nm_X1_others : kNm yX1_others RX1 0 := by unfold kNm; decide +kernel
set_option maxHeartbeats 4000000 in
set_option maxRecDepth 100000 in
theorem wC1_others (l : Launch) (γ : KG) (hO : kOK γ) (h : CH) (r : CR) (o : Nat) (z : Nat × CS) (hz : C1_others γ.2.2.2.2.2 h r o = some z) : aMet l yX1_others (ws_ yX1_others cX1_others 4 (some (.object "java/util/List"))) 814 20392 γ (h, r) [.ref o] (some (.ref z.1)) z.2 := by
  refine a_start (cc := cX1_others) (own := RX1) hO rfl rfl rfl (fun p e R s m args below meth c Q ls X hR hnm h0H hA hl hend => ?_)
  have hx := X.1.1
  have hb := X.1.2.1
  have hit := hz
  clear hz
  unfold C1_others at hit
  have hl : lv_has ls 4 [(0, .ref o)] := hl
  obtain ⟨s1, es1, hit⟩ := o_bind hit
  refine a_new X hA kc_ArrayList q272 q183 q139 (fs := [.int 0, .null, .int 0]) (by decide +kernel) es1 dX1_others_0 (fun H cells slots hA => ?_)
  refine lv_dup hx hb dX1_others_3 rfl ?_
  obtain ⟨q2, eq2, hit⟩ := o_bind hit
  refine c_cNI X (kA_F X.2.1 X.2.2 h0H) hA.1 nm_J2_init q273 q185 q139 q186 rfl (wCJ2_init l γ X.2.1 _ _  _ eq2) hA.RR ⟨Nat.le_trans (Nat.le_of_ble_eq_true rfl) hR.1, Nat.le_trans (Nat.le_of_ble_eq_true rfl) hR.2⟩ rfl rfl hl.1 (lv_room (Nat.le_of_ble_eq_true rfl)) dX1_others_4 (fun H locs hI => ?_)
  replace hA := hA.up hI
  clear hI
  refine lv_astore_n (lv' := [(1, .ref r.1), (0, .ref o)]) hx hb dX1_others_7 rfl hl (by decide) rfl (fun ls hl => ?_)
  refine lv_iconst (v := 0) hx hb dX1_others_8 (by decide) ?_
  refine lv_istore_n (lv' := [(2, .int 0), (1, .ref r.1), (0, .ref o)]) hx hb dX1_others_9 rfl hl (by decide) rfl (fun ls hl => ?_)
  refine o_rec (P := fun t3 => ∀ (H : Heap) (locs : List Loc) (cells slots : Nat) (ls : Array Slot), AI γ (h, r) s R t3.2.1 t3.2.2 H locs cells slots → lv_has ls 4 [(1, .ref r.1), (0, .ref o), (2, .int t3.1)] → W p l e R s m args below meth c H locs cells slots Q (F0 m 10 ls [])) (fun t3 x4 hit hC3 hE3 H locs cells slots ls hA hl => ?_) _ hit _ _ _ _ _ hA (lv_sub hl [1, 2, 0] rfl)
  unfold C1_others_L10 at hit
  refine lv_iload_n hx hb dX1_others_10 rfl (lv_at hl 2 rfl) ?_
  refine lv_aload_n hx hb dX1_others_11 rfl (lv_at hl 1 rfl) ?_
  obtain ⟨v5, ev5, hit⟩ := o_bind hit
  refine c_getR X hA.1.1 kc_TwinInk 1 q277 (Or.inl rfl) rfl rfl ev5 dX1_others_12 ?_
  obtain ⟨q6, eq6, hit⟩ := o_bind hit
  obtain ⟨iq6, eq6⟩ := vc_inv eq6
  refine c_cR X hA.1.1 (fun U hU hW => hA.D X.2.1 X.2.2 h0H hU hW) kc_Office (wC2_clerks l γ X.2.1 _ _  _ eq6) iq6 nm_X2_clerks q1231 q464 q136 q466 q465 ⟨Nat.le_trans (Nat.le_of_ble_eq_true rfl) hR.1, Nat.le_trans (Nat.le_of_ble_eq_true rfl) hR.2⟩ hA.RR rfl rfl hl.1 (lv_room (Nat.le_of_ble_eq_true rfl)) dX1_others_15 ?_
  refine b_icmp_ge (tgt := 111) hx hb dX1_others_18 (by decide) hit (fun c7 hit => ?_) (fun c7 hit => ?_)
  · refine lv_aload_n hx hb dX1_others_111 rfl (lv_at hl 0 rfl) ?_
    have he := o_in hit
    have he := hE3 _ he
    exact hend (some (.ref r.1)) t3.2 _ _ _ _ _ _ _ _ (kOut_o) (by subst he; rfl) hA dX1_others_112
  · refine lv_iconst (v := 0) hx hb dX1_others_21 (by decide) ?_
    refine lv_istore_n (lv' := [(3, .int 0), (1, .ref r.1), (0, .ref o), (2, .int t3.1)]) hx hb dX1_others_22 rfl hl (by decide) rfl (fun ls hl => ?_)
    obtain ⟨r10, er10, hit⟩ := o_bind hit
    have hr10 : ∀ (H : Heap) (locs : List Loc) (cells slots : Nat) (ls : Array Slot), AI γ (h, r) s R r10.1 r10.2 H locs cells slots → lv_has ls 4 [(1, .ref r.1), (0, .ref o), (2, .int t3.1)] → W p l e R s m args below meth c H locs cells slots Q (F0 m 105 ls []) := by
      intro H locs cells slots ls hA hl
      refine lv_iinc (k := 2) (v := (t3.1 + 1)) (lv' := [(2, .int (t3.1 + 1)), (1, .ref r.1), (0, .ref o)]) hx hb dX1_others_105 hl rfl rfl (by decide) rfl (fun ls hl => ?_)
      refine lv_goto (tgt := 10) hx hb dX1_others_108 (by decide) ?_
      have he := o_in hit
      exact hC3 _ he _ _ _ _ _ hA (lv_sub hl [1, 2, 0] rfl)
    refine o_rec (P := fun t8 => ∀ (H : Heap) (locs : List Loc) (cells slots : Nat) (ls : Array Slot), AI γ (h, r) s R t8.2.1 t8.2.2 H locs cells slots → lv_has ls 4 [(1, .ref r.1), (0, .ref o), (2, .int t3.1), (3, .int t8.1)] → W p l e R s m args below meth c H locs cells slots Q (F0 m 23 ls [])) (fun t8 x9 hit hC8 hE8 H locs cells slots ls hA hl => ?_) _ er10 _ _ _ _ _ hA (lv_sub hl [1, 2, 3, 0] rfl)
    unfold C1_others_L23 at hit
    refine lv_iload_n hx hb dX1_others_23 rfl (lv_at hl 3 rfl) ?_
    refine lv_aload_n hx hb dX1_others_24 rfl (lv_at hl 1 rfl) ?_
    obtain ⟨v11, ev11, hit⟩ := o_bind hit
    refine c_getR X hA.1.1 kc_TwinInk 1 q277 (Or.inl rfl) rfl rfl ev11 dX1_others_25 ?_
    obtain ⟨v12, ev12, hit⟩ := o_bind hit
    refine c_getNI X hA.1.1 kc_Office 2 q216 (Or.inl rfl) rfl rfl ev12 dX1_others_28 ?_
    refine b_icmp_ge (tgt := 105) hx hb dX1_others_31 (by decide) hit (fun c13 hit => ?_) (fun c13 hit => ?_)
    · have he := o_in hit
      have he := hE8 _ he
      subst he
      exact hr10 _ _ _ _ _ hA (lv_sub hl [0, 1, 2] rfl)
    · refine lv_aload_n hx hb dX1_others_34 rfl (lv_at hl 1 rfl) ?_
      obtain ⟨v14, ev14, hit⟩ := o_bind hit
      refine c_getR X hA.1.1 kc_TwinInk 2 q278 (Or.inl rfl) rfl rfl ev14 dX1_others_35 ?_
      refine lv_iload_n hx hb dX1_others_38 rfl (lv_at hl 3 rfl) ?_
      obtain ⟨q15, eq15, hit⟩ := o_bind hit
      obtain ⟨iq15, eq15⟩ := vc_inv eq15
      refine c_cR X hA.1.1 (fun U hU hW => hA.D X.2.1 X.2.2 h0H hU hW) kc_Service (wC3_isBurnt l γ X.2.1 _ _ _ _ eq15) iq15 nm_X3_isBurnt q1382 q606 q140 q608 q607 ⟨Nat.le_trans (Nat.le_of_ble_eq_true rfl) hR.1, Nat.le_trans (Nat.le_of_ble_eq_true rfl) hR.2⟩ hA.RR rfl rfl hl.1 (lv_room (Nat.le_of_ble_eq_true rfl)) dX1_others_39 ?_
      obtain ⟨r16, er16, hit⟩ := o_bind hit
      have hr16 : ∀ (H : Heap) (locs : List Loc) (cells slots : Nat) (ls : Array Slot), AI γ (h, r) s R r16.1 r16.2 H locs cells slots → lv_has ls 4 [(1, .ref r.1), (0, .ref o), (2, .int t3.1), (3, .int t8.1)] → W p l e R s m args below meth c H locs cells slots Q (F0 m 99 ls []) := by
        intro H locs cells slots ls hA hl
        refine lv_iinc (k := 3) (v := (t8.1 + 1)) (lv' := [(3, .int (t8.1 + 1)), (1, .ref r.1), (0, .ref o), (2, .int t3.1)]) hx hb dX1_others_99 hl rfl rfl (by decide) rfl (fun ls hl => ?_)
        refine lv_goto (tgt := 23) hx hb dX1_others_102 (by decide) ?_
        have he := o_in hit
        exact hC8 _ he _ _ _ _ _ hA (lv_sub hl [1, 2, 3, 0] rfl)
      have hit := er16
      refine b_if_ne (tgt := 99) hx hb dX1_others_42 (by decide) hit (fun c17 hit => ?_) (fun c17 hit => ?_)
      · have he := o_in hit
        subst he
        exact hr16 _ _ _ _ _ hA hl
      · refine lv_aload_n hx hb dX1_others_45 rfl (lv_at hl 1 rfl) ?_
        obtain ⟨v18, ev18, hit⟩ := o_bind hit
        refine c_getR X hA.1.1 kc_TwinInk 2 q278 (Or.inl rfl) rfl rfl ev18 dX1_others_46 ?_
        refine lv_iload_n hx hb dX1_others_49 rfl (lv_at hl 3 rfl) ?_
        obtain ⟨q19, eq19, hit⟩ := o_bind hit
        obtain ⟨iq19, eq19⟩ := vc_inv eq19
        refine c_cR X hA.1.1 (fun U hU hW => hA.D X.2.1 X.2.2 h0H hU hW) kc_Service (wC3_bearer l γ X.2.1 _ _ _ _ eq19) iq19 nm_X3_bearer q1287 q622 q140 q624 q623 ⟨Nat.le_trans (Nat.le_of_ble_eq_true rfl) hR.1, Nat.le_trans (Nat.le_of_ble_eq_true rfl) hR.2⟩ hA.RR rfl rfl hl.1 (lv_room (Nat.le_of_ble_eq_true rfl)) dX1_others_50 ?_
        refine lv_iload_n hx hb dX1_others_53 rfl (lv_at hl 2 rfl) ?_
        refine b_icmp_ne (tgt := 60) hx hb dX1_others_54 (by decide) hit (fun c20 hit => ?_) (fun c20 hit => ?_)
        · refine lv_aload_n hx hb dX1_others_60 rfl (lv_at hl 1 rfl) ?_
          obtain ⟨v21, ev21, hit⟩ := o_bind hit
          refine c_getR X hA.1.1 kc_TwinInk 3 q279 (Or.inl rfl) rfl rfl ev21 dX1_others_61 ?_
          refine lv_aload_n hx hb dX1_others_64 rfl (lv_at hl 1 rfl) ?_
          obtain ⟨v22, ev22, hit⟩ := o_bind hit
          refine c_getR X hA.1.1 kc_TwinInk 2 q278 (Or.inl rfl) rfl rfl ev22 dX1_others_65 ?_
          obtain ⟨q23, eq23, hit⟩ := o_bind hit
          obtain ⟨iq23, eq23⟩ := vc_inv eq23
          refine c_cN X (kA_F X.2.1 X.2.2 h0H) hA.1 kc_Service (wC3_be l γ X.2.1 _ _ _ _ eq23) iq23 nm_X3_be q1406 q351 q140 q353 q352 ⟨Nat.le_trans (Nat.le_of_ble_eq_true rfl) hR.1, Nat.le_trans (Nat.le_of_ble_eq_true rfl) hR.2⟩ hA.RR rfl rfl hl.1 (lv_room (Nat.le_of_ble_eq_true rfl)) dX1_others_68 (fun H locs hI => ?_)
          replace hA := hA.up hI
          clear hI
          refine lv_iload_n hx hb dX1_others_71 rfl (lv_at hl 2 rfl) ?_
          refine lv_iload_n hx hb dX1_others_72 rfl (lv_at hl 3 rfl) ?_
          obtain ⟨q24, eq24, hit⟩ := o_bind hit
          obtain ⟨iq24, eq24⟩ := vc_inv eq24
          refine c_cN X (kA_F X.2.1 X.2.2 h0H) hA.1 kc_Service (wC3_take l γ X.2.1 _ _ _ _ _ eq24) iq24 nm_X3_take q1364 q1365 q140 q1367 q1366 ⟨Nat.le_trans (Nat.le_of_ble_eq_true rfl) hR.1, Nat.le_trans (Nat.le_of_ble_eq_true rfl) hR.2⟩ hA.RR rfl rfl hl.1 (lv_room (Nat.le_of_ble_eq_true rfl)) dX1_others_73 (fun H locs hI => ?_)
          replace hA := hA.up hI
          clear hI
          refine lv_aload_n hx hb dX1_others_76 rfl (lv_at hl 1 rfl) ?_
          obtain ⟨q25, eq25, hit⟩ := o_bind hit
          obtain ⟨iq25, eq25⟩ := vc_inv eq25
          refine c_cN X (kA_F X.2.1 X.2.2 h0H) hA.1 kc_TwinInk (wC1_isSo l γ X.2.1 _ _  _ eq25) iq25 nm_X1_isSo q1508 q1510 q135 q1511 qs47 ⟨Nat.le_trans (Nat.le_of_ble_eq_true rfl) hR.1, Nat.le_trans (Nat.le_of_ble_eq_true rfl) hR.2⟩ hA.RR rfl rfl hl.1 (lv_room (Nat.le_of_ble_eq_true rfl)) dX1_others_77 (fun H locs hI => ?_)
          replace hA := hA.up hI
          clear hI
          refine b_if_eq (tgt := 99) hx hb dX1_others_80 (by decide) hit (fun c26 hit => ?_) (fun c26 hit => ?_)
          · have he := o_in hit
            subst he
            exact hr16 _ _ _ _ _ hA hl
          · refine lv_aload_n hx hb dX1_others_83 rfl (lv_at hl 0 rfl) ?_
            refine lv_bipush (v := 10) hx hb dX1_others_84 (by decide) ?_
            refine lv_iload_n hx hb dX1_others_86 rfl (lv_at hl 2 rfl) ?_
            refine lv_imul hx hb dX1_others_87 ?_
            refine lv_iload_n hx hb dX1_others_88 rfl (lv_at hl 3 rfl) ?_
            refine lv_iadd hx hb dX1_others_89 ?_
            obtain ⟨q27, eq27, hit⟩ := o_bind hit
            obtain ⟨eq27, lq27⟩ := achk_inv eq27
            refine a_cS X h0H hA nm_J19_valueOf q1516 q1186 q165 q1187 (wCJ19_valueOf l γ X.2.1 _ _ _ _ eq27) lq27 ⟨Nat.le_trans (Nat.le_of_ble_eq_true rfl) hR.1, Nat.le_trans (Nat.le_of_ble_eq_true rfl) hR.2⟩ rfl rfl hl.1 (lv_room (Nat.le_of_ble_eq_true rfl)) dX1_others_90 (fun H locs cells slots hA => ?_)
            obtain ⟨q28, eq28, hit⟩ := o_bind hit
            obtain ⟨iq28, eq28⟩ := vc_inv eq28
            obtain ⟨eq28, lq28⟩ := achk_inv eq28
            refine a_cF X h0H hA kc_ArrayList iq28 nmi_List_add q355 q361 q139 q363 q359 q357 q356 q362 q360 q358 (wCJ2_add l γ X.2.1 _ _ _ _ _ eq28) lq28 ⟨Nat.le_trans (Nat.le_of_ble_eq_true rfl) hR.1, Nat.le_trans (Nat.le_of_ble_eq_true rfl) hR.2⟩ rfl rfl hl.1 (lv_room (Nat.le_of_ble_eq_true rfl)) dX1_others_93 (fun H locs cells slots hA => ?_)
            refine lv_pop hx hb dX1_others_98 rfl ?_
            have he := o_in hit
            subst he
            exact hr16 _ _ _ _ _ hA hl
        · refine lv_goto (tgt := 99) hx hb dX1_others_57 (by decide) ?_
          have he := o_in hit
          subst he
          exact hr16 _ _ _ _ _ hA hl
