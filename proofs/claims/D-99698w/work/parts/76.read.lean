noncomputable def C5_only (K : Nat → Nat) (h : CH) (r : CR) (o : Nat) (a0 : Int32) : Option (CS ⊕ XT) :=
  (gI h o 4 12).bind fun v1 =>
  (C1_isOf v1 a0).bind fun q2 =>
  xg Sum.inr ((if q2 = 0 then
      (some (.inl 1))
    else
      (some (.inl 0)) : Option (Int32 ⊕ XT))) fun r3 =>
  xg Sum.inr (vc h o 4 (xchv r (C5_want K h r o r3 5))) fun q4 =>
  (gI q4.1 o 4 12).bind fun v5 =>
  (pI q4.1 o 4 12 (v5 ||| ((1 : Int32) <<< (a0 &&& 31)))).bind fun s6 =>
  (vc s6 o 4 (C5_next K s6 o)).bind fun q7 =>
  if a0 = 0 then
    ((gR q7 o 4 1).bind fun v20 =>
    xg Sum.inr (vc q7 o 4 (xchk q4.2 (C5_number K q7 q4.2 o 0 8))) fun q21 =>
    (pI q21.2.1 v20 2 3 q21.1).bind fun s22 =>
    some (.inl (s22, q21.2.2)))
  else
    (xg Sum.inr ((if a0 = 1 then
        ((gR q7 o 4 4).bind fun v19 =>
        some (.inl v19))
      else
        ((gR q7 o 4 5).bind fun v18 =>
        some (.inl v18)) : Option (Nat ⊕ XT))) fun r9 =>
    (pQ q7 o 4 6 (some r9)).bind fun s10 =>
    xg Sum.inr (vc s10 o 4 (xchk q4.2 (C5_expression K s10 q4.2 o 0))) fun q11 =>
    if a0 = 1 then
      ((gR q11.2.1 o 4 1).bind fun v15 =>
      (pQ q11.2.1 v15 2 4 (some q11.1)).bind fun s16 =>
      some (.inl (s16, q11.2.2)))
    else
      ((gR q11.2.1 o 4 1).bind fun v13 =>
      (pQ q11.2.1 v13 2 5 (some q11.1)).bind fun s14 =>
      some (.inl (s14, q11.2.2))))
theorem nm_X5_only : kNm yX5_only RX5 1 := by unfold kNm; decide +kernel
set_option maxHeartbeats 4000000 in
set_option maxRecDepth 100000 in
theorem wC5_only (l : Launch) (hT : l.stackTraces = false) (γ : KG) (hO : kOK γ) (h : CH) (r : CR) (o : Nat) (a0 : Int32) (z : CS ⊕ XT) (hz : C5_only γ.2.2.2.2.2 h r o a0 = some z) : xMet l yX5_only (ws_ yX5_only cX5_only 3 none) 154 4972 γ (h, r) [.ref o, .int a0] (xV z) := by
  refine x_start (cc := cX5_only) (own := RX5) hO rfl rfl rfl (fun p e R s m args below meth c Q ls X hR hnm h0H hA hl hend hthr hdir => ?_)
  have hx := X.1.1
  have hb := X.1.2.1
  have hit := hz
  clear hz
  unfold C5_only at hit
  have hl : lv_has ls 3 [(0, .ref o), (1, .int a0)] := hl
  refine lv_aload_n hx hb dX5_only_0 rfl (lv_at hl 0 rfl) ?_
  refine lv_aload_n hx hb dX5_only_1 rfl (lv_at hl 0 rfl) ?_
  obtain ⟨v1, ev1, hit⟩ := o_bind hit
  refine c_getI X hA.1.1 kc_Reader 12 q796 (Or.inl rfl) rfl rfl ev1 dX5_only_2 ?_
  refine lv_iload_n hx hb dX5_only_5 rfl (lv_at hl 1 rfl) ?_
  obtain ⟨q2, eq2, hit⟩ := o_bind hit
  refine c_cPN X (wC1_isOf l _ _ _ eq2) nm_X1_isOf q952 q519 q135 q520 ⟨Nat.le_trans (Nat.le_of_ble_eq_true rfl) hR.1, Nat.le_trans (Nat.le_of_ble_eq_true rfl) hR.2⟩ hA.RR rfl rfl hl.1 (lv_room (Nat.le_of_ble_eq_true rfl)) dX5_only_6 ?_
  obtain ⟨wr3, er3, hxr3⟩ := xg_bind hit
  have hr3 : ∀ (r3 : Int32), wr3 = .inl r3 → ∀ (H : Heap) (locs : List Loc) (cells slots : Nat) (ls : Array Slot), AI γ (h, r) s R h r H locs cells slots → lv_has ls 3 [(0, .ref o), (1, .int a0)] → W p l e R s m args below meth c H locs cells slots Q (F0 m 17 ls [.int r3, .ref o]) := by
    intro r3 hw_ H locs cells slots ls hA hl
    have hit := xk_l hxr3 hw_
    refine lv_iconst (v := 5) hx hb dX5_only_17 (by decide) ?_
    rcases xg_inv hit with ⟨q4, eq4, hit⟩ | ⟨x_q4, eq4, he⟩
    rotate_left
    · obtain ⟨iq4, eq4⟩ := vc_inv eq4
      obtain ⟨eq4, lq4⟩ := xchv_r eq4
      refine t_cV X h0H hA kc_Reader (xMet.tv (wC5_want l hT γ X.2.1 _ _ _ _ _ _ eq4)) lq4 iq4 nm_X5_want q953 q955 q146 q956 qs18 ⟨Nat.le_trans (Nat.le_of_ble_eq_true rfl) hR.1, Nat.le_trans (Nat.le_of_ble_eq_true rfl) hR.2⟩ rfl rfl hl.1 (lv_room (Nat.le_of_ble_eq_true rfl)) dX5_only_18 (fun H locs cells slots q_ hA hq => ?_)
      exact hthr _ _ _ _ _ _ _ _ _ (by subst he; rfl) hA hq
    obtain ⟨iq4, eq4⟩ := vc_inv eq4
    obtain ⟨eq4, lq4⟩ := xchv_l eq4
    refine a_cV X h0H hA kc_Reader (xMet.v (wC5_want l hT γ X.2.1 _ _ _ _ _ _ eq4)) lq4 iq4 nm_X5_want q953 q955 q146 q956 qs18 ⟨Nat.le_trans (Nat.le_of_ble_eq_true rfl) hR.1, Nat.le_trans (Nat.le_of_ble_eq_true rfl) hR.2⟩ rfl rfl hl.1 (lv_room (Nat.le_of_ble_eq_true rfl)) dX5_only_18 (fun H locs cells slots hA => ?_)
    refine lv_aload_n hx hb dX5_only_21 rfl (lv_at hl 0 rfl) ?_
    refine lv_dup hx hb dX5_only_22 rfl ?_
    obtain ⟨v5, ev5, hit⟩ := o_bind hit
    refine c_getI X hA.1.1 kc_Reader 12 q796 (Or.inl rfl) rfl rfl ev5 dX5_only_23 ?_
    refine lv_iconst (v := 1) hx hb dX5_only_26 (by decide) ?_
    refine lv_iload_n hx hb dX5_only_27 rfl (lv_at hl 1 rfl) ?_
    refine lv_ishl hx hb dX5_only_28 ?_
    refine lv_ior hx hb dX5_only_29 ?_
    obtain ⟨s6, es6, hit⟩ := o_bind hit
    refine c_putI X hA.1 kc_Reader 12 q796 (Or.inl rfl) rfl rfl (tyv := .int) rfl rfl rfl es6 dX5_only_30 (fun H locs hI => ?_)
    replace hA := hA.up hI
    clear hI
    refine lv_aload_n hx hb dX5_only_33 rfl (lv_at hl 0 rfl) ?_
    obtain ⟨q7, eq7, hit⟩ := o_bind hit
    obtain ⟨iq7, eq7⟩ := vc_inv eq7
    refine c_cN X (kA_F X.2.1 X.2.2 h0H) hA.1 kc_Reader (wC5_next l γ X.2.1 _ _  _ eq7) iq7 nm_X5_next q831 q833 q146 q834 qs10 ⟨Nat.le_trans (Nat.le_of_ble_eq_true rfl) hR.1, Nat.le_trans (Nat.le_of_ble_eq_true rfl) hR.2⟩ hA.RR rfl rfl hl.1 (lv_room (Nat.le_of_ble_eq_true rfl)) dX5_only_34 (fun H locs hI => ?_)
    replace hA := hA.up hI
    clear hI
    refine lv_iload_n hx hb dX5_only_37 rfl (lv_at hl 1 rfl) ?_
    refine b_if_ne (tgt := 56) hx hb dX5_only_38 (by decide) hit (fun c8 hit => ?_) (fun c8 hit => ?_)
    · refine lv_aload_n hx hb dX5_only_56 rfl (lv_at hl 0 rfl) ?_
      refine lv_iload_n hx hb dX5_only_57 rfl (lv_at hl 1 rfl) ?_
      refine lv_iconst (v := 1) hx hb dX5_only_58 (by decide) ?_
      obtain ⟨wr9, er9, hxr9⟩ := xg_bind hit
      have hr9 : ∀ (r9 : Nat), wr9 = .inl r9 → ∀ (H : Heap) (locs : List Loc) (cells slots : Nat) (ls : Array Slot), AI γ (h, r) s R q7 q4.2 H locs cells slots → lv_has ls 3 [(0, .ref o), (1, .int a0)] → W p l e R s m args below meth c H locs cells slots Q (F0 m 73 ls [.ref r9, .ref o]) := by
        intro r9 hw_ H locs cells slots ls hA hl
        have hit := xk_l hxr9 hw_
        obtain ⟨s10, es10, hit⟩ := o_bind hit
        refine c_putQ X hA.1 kc_Reader 6 q789 (Or.inl rfl) rfl rfl (v := (some r9)) (tyv := (.array (.object "java/lang/String"))) rfl (Or.inr ⟨_, rfl⟩) es10 dX5_only_73 (fun H locs hI => ?_)
        replace hA := hA.up hI
        clear hI
        refine lv_aload_n hx hb dX5_only_76 rfl (lv_at hl 0 rfl) ?_
        refine lv_iconst (v := 0) hx hb dX5_only_77 (by decide) ?_
        rcases xg_inv hit with ⟨q11, eq11, hit⟩ | ⟨x_q11, eq11, he⟩
        rotate_left
        · obtain ⟨iq11, eq11⟩ := vc_inv eq11
          obtain ⟨eq11, lq11⟩ := xchk_r eq11
          refine t_cV X h0H hA kc_Reader (xMet.tr (wC5_expression l hT γ X.2.1 _ _ _ _ _ eq11)) lq11 iq11 nm_X5_expression q989 q991 q146 q992 qs21 ⟨Nat.le_trans (Nat.le_of_ble_eq_true rfl) hR.1, Nat.le_trans (Nat.le_of_ble_eq_true rfl) hR.2⟩ rfl rfl hl.1 (lv_room (Nat.le_of_ble_eq_true rfl)) dX5_only_78 (fun H locs cells slots q_ hA hq => ?_)
          exact hthr _ _ _ _ _ _ _ _ _ (by subst he; rfl) hA hq
        obtain ⟨iq11, eq11⟩ := vc_inv eq11
        obtain ⟨eq11, lq11⟩ := xchk_l eq11
        refine a_cV X h0H hA kc_Reader (xMet.r (wC5_expression l hT γ X.2.1 _ _ _ _ _ eq11)) lq11 iq11 nm_X5_expression q989 q991 q146 q992 qs21 ⟨Nat.le_trans (Nat.le_of_ble_eq_true rfl) hR.1, Nat.le_trans (Nat.le_of_ble_eq_true rfl) hR.2⟩ rfl rfl hl.1 (lv_room (Nat.le_of_ble_eq_true rfl)) dX5_only_78 (fun H locs cells slots hA => ?_)
        refine lv_astore_n (lv' := [(2, .ref q11.1), (0, .ref o), (1, .int a0)]) hx hb dX5_only_81 rfl hl (by decide) rfl (fun ls hl => ?_)
        refine lv_iload_n hx hb dX5_only_82 rfl (lv_at hl 2 rfl) ?_
        refine lv_iconst (v := 1) hx hb dX5_only_83 (by decide) ?_
        refine b_icmp_ne (tgt := 98) hx hb dX5_only_84 (by decide) hit (fun c12 hit => ?_) (fun c12 hit => ?_)
        · refine lv_aload_n hx hb dX5_only_98 rfl (lv_at hl 1 rfl) ?_
          obtain ⟨v13, ev13, hit⟩ := o_bind hit
          refine c_getR X hA.1.1 kc_Reader 1 q783 (Or.inl rfl) rfl rfl ev13 dX5_only_99 ?_
          refine lv_aload_n hx hb dX5_only_102 rfl (lv_at hl 0 rfl) ?_
          obtain ⟨s14, es14, hit⟩ := o_bind hit
          refine c_putNQ X hA.1 kc_Office 5 q225 (Or.inl rfl) rfl rfl (v := (some q11.1)) (tyv := (.object "TwinInk$Form")) rfl (Or.inl ⟨_, rfl⟩) es14 dX5_only_103 (fun H locs hI => ?_)
          replace hA := hA.up hI
          clear hI
          have he := o_in hit
          exact hend none (s14, q11.2.2) _ _ _ _ _ _ _ _ kOut_v (by subst he; rfl) hA dX5_only_106
        · refine lv_aload_n hx hb dX5_only_87 rfl (lv_at hl 1 rfl) ?_
          obtain ⟨v15, ev15, hit⟩ := o_bind hit
          refine c_getR X hA.1.1 kc_Reader 1 q783 (Or.inl rfl) rfl rfl ev15 dX5_only_88 ?_
          refine lv_aload_n hx hb dX5_only_91 rfl (lv_at hl 0 rfl) ?_
          obtain ⟨s16, es16, hit⟩ := o_bind hit
          refine c_putNQ X hA.1 kc_Office 4 q223 (Or.inl rfl) rfl rfl (v := (some q11.1)) (tyv := (.object "TwinInk$Form")) rfl (Or.inl ⟨_, rfl⟩) es16 dX5_only_92 (fun H locs hI => ?_)
          replace hA := hA.up hI
          clear hI
          refine lv_goto (tgt := 106) hx hb dX5_only_95 (by decide) ?_
          have he := o_in hit
          exact hend none (s16, q11.2.2) _ _ _ _ _ _ _ _ kOut_v (by subst he; rfl) hA dX5_only_106
      have hit := er9
      refine b_icmp_ne (tgt := 69) hx hb dX5_only_59 (by decide) hit (fun c17 hit => ?_) (fun c17 hit => ?_)
      · refine lv_aload_n hx hb dX5_only_69 rfl (lv_at hl 0 rfl) ?_
        obtain ⟨v18, ev18, hit⟩ := o_bind hit
        refine c_getR X hA.1.1 kc_Reader 5 q788 (Or.inl rfl) rfl rfl ev18 dX5_only_70 ?_
        have he := o_in hit
        exact hr9 _ he.symm _ _ _ _ _ hA hl
      · refine lv_aload_n hx hb dX5_only_62 rfl (lv_at hl 0 rfl) ?_
        obtain ⟨v19, ev19, hit⟩ := o_bind hit
        refine c_getR X hA.1.1 kc_Reader 4 q787 (Or.inl rfl) rfl rfl ev19 dX5_only_63 ?_
        refine lv_goto (tgt := 73) hx hb dX5_only_66 (by decide) ?_
        have he := o_in hit
        exact hr9 _ he.symm _ _ _ _ _ hA hl
    · refine lv_aload_n hx hb dX5_only_41 rfl (lv_at hl 0 rfl) ?_
      obtain ⟨v20, ev20, hit⟩ := o_bind hit
      refine c_getR X hA.1.1 kc_Reader 1 q783 (Or.inl rfl) rfl rfl ev20 dX5_only_42 ?_
      refine lv_aload_n hx hb dX5_only_45 rfl (lv_at hl 0 rfl) ?_
      refine lv_iconst (v := 0) hx hb dX5_only_46 (by decide) ?_
      refine lv_bipush (v := 8) hx hb dX5_only_47 (by decide) ?_
      rcases xg_inv hit with ⟨q21, eq21, hit⟩ | ⟨x_q21, eq21, he⟩
      rotate_left
      · obtain ⟨iq21, eq21⟩ := vc_inv eq21
        obtain ⟨eq21, lq21⟩ := xchk_r eq21
        refine t_cV X h0H hA kc_Reader (xMet.ti (wC5_number l hT γ X.2.1 _ _ _ _ _ _ eq21)) lq21 iq21 nm_X5_number q981 q983 q146 q984 qs19 ⟨Nat.le_trans (Nat.le_of_ble_eq_true rfl) hR.1, Nat.le_trans (Nat.le_of_ble_eq_true rfl) hR.2⟩ rfl rfl hl.1 (lv_room (Nat.le_of_ble_eq_true rfl)) dX5_only_49 (fun H locs cells slots q_ hA hq => ?_)
        exact hthr _ _ _ _ _ _ _ _ _ (by subst he; rfl) hA hq
      obtain ⟨iq21, eq21⟩ := vc_inv eq21
      obtain ⟨eq21, lq21⟩ := xchk_l eq21
      refine a_cV X h0H hA kc_Reader (xMet.i (wC5_number l hT γ X.2.1 _ _ _ _ _ _ eq21)) lq21 iq21 nm_X5_number q981 q983 q146 q984 qs19 ⟨Nat.le_trans (Nat.le_of_ble_eq_true rfl) hR.1, Nat.le_trans (Nat.le_of_ble_eq_true rfl) hR.2⟩ rfl rfl hl.1 (lv_room (Nat.le_of_ble_eq_true rfl)) dX5_only_49 (fun H locs cells slots hA => ?_)
      obtain ⟨s22, es22, hit⟩ := o_bind hit
      refine c_putNI X hA.1 kc_Office 3 q221 (Or.inl rfl) rfl rfl (tyv := .int) rfl rfl rfl es22 dX5_only_52 (fun H locs hI => ?_)
      replace hA := hA.up hI
      clear hI
      have he := o_in hit
      exact hend none (s22, q21.2.2) _ _ _ _ _ _ _ _ kOut_v (by subst he; rfl) hA dX5_only_55
  have hit := er3
  refine b_if_ne (tgt := 16) hx hb dX5_only_9 (by decide) hit (fun c23 hit => ?_) (fun c23 hit => ?_)
  · refine lv_iconst (v := 0) hx hb dX5_only_16 (by decide) ?_
    have he := o_in hit
    exact hr3 _ he.symm _ _ _ _ _ hA hl
  · refine lv_iconst (v := 1) hx hb dX5_only_12 (by decide) ?_
    refine lv_goto (tgt := 17) hx hb dX5_only_13 (by decide) ?_
    have he := o_in hit
    exact hr3 _ he.symm _ _ _ _ _ hA hl
noncomputable def C5_line (K : Nat → Nat) (h : CH) (r : CR) (o : Nat) : Option (CS ⊕ XT) :=
  (gR h o 4 3).bind fun v1 =>
  (vc h o 4 (C5_which K h o v1)).bind fun q2 =>
  xg Sum.inr ((if q2 = (-1) then
      ((vc h o 4 (C5_is K h o 10)).bind fun q8 =>
      if q8 = 0 then
        ((vc h o 4 (C5_is K h o 16)).bind fun q10 =>
        if q10 = 0 then
          ((vc h o 4 (C5_is K h o 17)).bind fun q12 =>
          xg Sum.inr (vc h o 4 (xchv r (C5_want K h r o q12 1))) fun q13 =>
          xg Sum.inr (vc q13.1 o 4 (xchv q13.2 (C5_word K q13.1 q13.2 o))) fun q14 =>
          some (.inl q14))
        else
          (xg Sum.inr (vc h o 4 (xchv r (C5_clerk K h r o))) fun q15 =>
          some (.inl q15)))
      else
        (xg Sum.inr (vc h o 4 (xchv r (C5_sheet K h r o))) fun q16 =>
        some (.inl q16)))
    else
      (xg Sum.inr (vc h o 4 (xchv r (C5_only K h r o q2))) fun q17 =>
      some (.inl q17)) : Option (CS ⊕ XT))) fun r3 =>
  (vc r3.1 o 4 (C5_isSign r3.1 o 59)).bind fun q4 =>
  xg Sum.inr (vc r3.1 o 4 (xchv r3.2 (C5_want K r3.1 r3.2 o q4 1))) fun q5 =>
  (vc q5.1 o 4 (C5_next K q5.1 o)).bind fun q6 =>
  some (.inl (q6, q5.2))
theorem nm_X5_line : kNm yX5_line RX5 0 := by unfold kNm; decide +kernel
set_option maxHeartbeats 4000000 in
set_option maxRecDepth 100000 in
theorem wC5_line (l : Launch) (hT : l.stackTraces = false) (γ : KG) (hO : kOK γ) (h : CH) (r : CR) (o : Nat) (z : CS ⊕ XT) (hz : C5_line γ.2.2.2.2.2 h r o = some z) : xMet l yX5_line (ws_ yX5_line cX5_line 2 none) 155 4994 γ (h, r) [.ref o] (xV z) := by
  refine x_start (cc := cX5_line) (own := RX5) hO rfl rfl rfl (fun p e R s m args below meth c Q ls X hR hnm h0H hA hl hend hthr hdir => ?_)
  have hx := X.1.1
  have hb := X.1.2.1
  have hit := hz
  clear hz
  unfold C5_line at hit
  have hl : lv_has ls 2 [(0, .ref o)] := hl
  refine lv_aload_n hx hb dX5_line_0 rfl (lv_at hl 0 rfl) ?_
  refine lv_aload_n hx hb dX5_line_1 rfl (lv_at hl 0 rfl) ?_
  obtain ⟨v1, ev1, hit⟩ := o_bind hit
  refine c_getR X hA.1.1 kc_Reader 3 q786 (Or.inl rfl) rfl rfl ev1 dX5_line_2 ?_
  obtain ⟨q2, eq2, hit⟩ := o_bind hit
  obtain ⟨iq2, eq2⟩ := vc_inv eq2
  refine c_cR X hA.1.1 (fun U hU hW => hA.D X.2.1 X.2.2 h0H hU hW) kc_Reader (wC5_which l γ X.2.1 _ _ _ _ eq2) iq2 nm_X5_which q924 q926 q146 q927 qs15 ⟨Nat.le_trans (Nat.le_of_ble_eq_true rfl) hR.1, Nat.le_trans (Nat.le_of_ble_eq_true rfl) hR.2⟩ hA.RR rfl rfl hl.1 (lv_room (Nat.le_of_ble_eq_true rfl)) dX5_line_5 ?_
  refine lv_istore_n (lv' := [(1, .int q2), (0, .ref o)]) hx hb dX5_line_8 rfl hl (by decide) rfl (fun ls hl => ?_)
  refine lv_iload_n hx hb dX5_line_9 rfl (lv_at hl 0 rfl) ?_
  refine lv_iconst (v := (-1)) hx hb dX5_line_10 (by decide) ?_
  obtain ⟨wr3, er3, hxr3⟩ := xg_bind hit
  have hr3 : ∀ (r3 : CS), wr3 = .inl r3 → ∀ (H : Heap) (locs : List Loc) (cells slots : Nat) (ls : Array Slot), AI γ (h, r) s R r3.1 r3.2 H locs cells slots → lv_has ls 2 [(0, .ref o)] → W p l e R s m args below meth c H locs cells slots Q (F0 m 71 ls []) := by
    intro r3 hw_ H locs cells slots ls hA hl
    have hit := xk_l hxr3 hw_
    refine lv_aload_n hx hb dX5_line_71 rfl (lv_at hl 0 rfl) ?_
    refine lv_aload_n hx hb dX5_line_72 rfl (lv_at hl 0 rfl) ?_
    refine lv_bipush (v := 59) hx hb dX5_line_73 (by decide) ?_
    obtain ⟨q4, eq4, hit⟩ := o_bind hit
    obtain ⟨iq4, eq4⟩ := vc_inv eq4
    refine c_cR X hA.1.1 (fun U hU hW => hA.D X.2.1 X.2.2 h0H hU hW) kc_Reader (wC5_isSign l γ X.2.1 _ _ _ _ eq4) iq4 nm_X5_isSign q993 q995 q146 q996 qs22 ⟨Nat.le_trans (Nat.le_of_ble_eq_true rfl) hR.1, Nat.le_trans (Nat.le_of_ble_eq_true rfl) hR.2⟩ hA.RR rfl rfl hl.1 (lv_room (Nat.le_of_ble_eq_true rfl)) dX5_line_75 ?_
    refine lv_iconst (v := 1) hx hb dX5_line_78 (by decide) ?_
    rcases xg_inv hit with ⟨q5, eq5, hit⟩ | ⟨x_q5, eq5, he⟩
    rotate_left
    · obtain ⟨iq5, eq5⟩ := vc_inv eq5
      obtain ⟨eq5, lq5⟩ := xchv_r eq5
      refine t_cV X h0H hA kc_Reader (xMet.tv (wC5_want l hT γ X.2.1 _ _ _ _ _ _ eq5)) lq5 iq5 nm_X5_want q953 q955 q146 q956 qs18 ⟨Nat.le_trans (Nat.le_of_ble_eq_true rfl) hR.1, Nat.le_trans (Nat.le_of_ble_eq_true rfl) hR.2⟩ rfl rfl hl.1 (lv_room (Nat.le_of_ble_eq_true rfl)) dX5_line_79 (fun H locs cells slots q_ hA hq => ?_)
      exact hthr _ _ _ _ _ _ _ _ _ (by subst he; rfl) hA hq
    obtain ⟨iq5, eq5⟩ := vc_inv eq5
    obtain ⟨eq5, lq5⟩ := xchv_l eq5
    refine a_cV X h0H hA kc_Reader (xMet.v (wC5_want l hT γ X.2.1 _ _ _ _ _ _ eq5)) lq5 iq5 nm_X5_want q953 q955 q146 q956 qs18 ⟨Nat.le_trans (Nat.le_of_ble_eq_true rfl) hR.1, Nat.le_trans (Nat.le_of_ble_eq_true rfl) hR.2⟩ rfl rfl hl.1 (lv_room (Nat.le_of_ble_eq_true rfl)) dX5_line_79 (fun H locs cells slots hA => ?_)
    refine lv_aload_n hx hb dX5_line_82 rfl (lv_at hl 0 rfl) ?_
    obtain ⟨q6, eq6, hit⟩ := o_bind hit
    obtain ⟨iq6, eq6⟩ := vc_inv eq6
    refine c_cN X (kA_F X.2.1 X.2.2 h0H) hA.1 kc_Reader (wC5_next l γ X.2.1 _ _  _ eq6) iq6 nm_X5_next q831 q833 q146 q834 qs10 ⟨Nat.le_trans (Nat.le_of_ble_eq_true rfl) hR.1, Nat.le_trans (Nat.le_of_ble_eq_true rfl) hR.2⟩ hA.RR rfl rfl hl.1 (lv_room (Nat.le_of_ble_eq_true rfl)) dX5_line_83 (fun H locs hI => ?_)
    replace hA := hA.up hI
    clear hI
    have he := o_in hit
    exact hend none (q6, q5.2) _ _ _ _ _ _ _ _ kOut_v (by subst he; rfl) hA dX5_line_86
  have hit := er3
  refine b_icmp_eq (tgt := 22) hx hb dX5_line_11 (by decide) hit (fun c7 hit => ?_) (fun c7 hit => ?_)
  · refine lv_aload_n hx hb dX5_line_22 rfl (lv_at hl 1 rfl) ?_
    refine c_ldcS X 10 (by decide) rfl dX5_line_23 ?_
    obtain ⟨q8, eq8, hit⟩ := o_bind hit
    obtain ⟨iq8, eq8⟩ := vc_inv eq8
    refine c_cR X hA.1.1 (fun U hU hW => hA.D X.2.1 X.2.2 h0H hU hW) kc_Reader (wC5_is l γ X.2.1 _ _ _ _ eq8) iq8 nm_X5_is q928 q930 q146 q931 qs16 ⟨Nat.le_trans (Nat.le_of_ble_eq_true rfl) hR.1, Nat.le_trans (Nat.le_of_ble_eq_true rfl) hR.2⟩ hA.RR rfl rfl hl.1 (lv_room (Nat.le_of_ble_eq_true rfl)) dX5_line_25 ?_
    refine b_if_eq (tgt := 38) hx hb dX5_line_28 (by decide) hit (fun c9 hit => ?_) (fun c9 hit => ?_)
    · refine lv_aload_n hx hb dX5_line_38 rfl (lv_at hl 1 rfl) ?_
      refine c_ldcSw X 16 (by decide) rfl dX5_line_39 ?_
      obtain ⟨q10, eq10, hit⟩ := o_bind hit
      obtain ⟨iq10, eq10⟩ := vc_inv eq10
      refine c_cR X hA.1.1 (fun U hU hW => hA.D X.2.1 X.2.2 h0H hU hW) kc_Reader (wC5_is l γ X.2.1 _ _ _ _ eq10) iq10 nm_X5_is q928 q930 q146 q931 qs16 ⟨Nat.le_trans (Nat.le_of_ble_eq_true rfl) hR.1, Nat.le_trans (Nat.le_of_ble_eq_true rfl) hR.2⟩ hA.RR rfl rfl hl.1 (lv_room (Nat.le_of_ble_eq_true rfl)) dX5_line_42 ?_
      refine b_if_eq (tgt := 55) hx hb dX5_line_45 (by decide) hit (fun c11 hit => ?_) (fun c11 hit => ?_)
      · refine lv_aload_n hx hb dX5_line_55 rfl (lv_at hl 1 rfl) ?_
        refine lv_aload_n hx hb dX5_line_56 rfl (lv_at hl 1 rfl) ?_
        refine c_ldcSw X 17 (by decide) rfl dX5_line_57 ?_
        obtain ⟨q12, eq12, hit⟩ := o_bind hit
        obtain ⟨iq12, eq12⟩ := vc_inv eq12
        refine c_cR X hA.1.1 (fun U hU hW => hA.D X.2.1 X.2.2 h0H hU hW) kc_Reader (wC5_is l γ X.2.1 _ _ _ _ eq12) iq12 nm_X5_is q928 q930 q146 q931 qs16 ⟨Nat.le_trans (Nat.le_of_ble_eq_true rfl) hR.1, Nat.le_trans (Nat.le_of_ble_eq_true rfl) hR.2⟩ hA.RR rfl rfl hl.1 (lv_room (Nat.le_of_ble_eq_true rfl)) dX5_line_60 ?_
        refine lv_iconst (v := 1) hx hb dX5_line_63 (by decide) ?_
        rcases xg_inv hit with ⟨q13, eq13, hit⟩ | ⟨x_q13, eq13, he⟩
        rotate_left
        · obtain ⟨iq13, eq13⟩ := vc_inv eq13
          obtain ⟨eq13, lq13⟩ := xchv_r eq13
          refine t_cV X h0H hA kc_Reader (xMet.tv (wC5_want l hT γ X.2.1 _ _ _ _ _ _ eq13)) lq13 iq13 nm_X5_want q953 q955 q146 q956 qs18 ⟨Nat.le_trans (Nat.le_of_ble_eq_true rfl) hR.1, Nat.le_trans (Nat.le_of_ble_eq_true rfl) hR.2⟩ rfl rfl hl.1 (lv_room (Nat.le_of_ble_eq_true rfl)) dX5_line_64 (fun H locs cells slots q_ hA hq => ?_)
          have he := xk_r hxr3 he
          exact hthr _ _ _ _ _ _ _ _ _ (by subst he; rfl) hA hq
        obtain ⟨iq13, eq13⟩ := vc_inv eq13
        obtain ⟨eq13, lq13⟩ := xchv_l eq13
        refine a_cV X h0H hA kc_Reader (xMet.v (wC5_want l hT γ X.2.1 _ _ _ _ _ _ eq13)) lq13 iq13 nm_X5_want q953 q955 q146 q956 qs18 ⟨Nat.le_trans (Nat.le_of_ble_eq_true rfl) hR.1, Nat.le_trans (Nat.le_of_ble_eq_true rfl) hR.2⟩ rfl rfl hl.1 (lv_room (Nat.le_of_ble_eq_true rfl)) dX5_line_64 (fun H locs cells slots hA => ?_)
        refine lv_aload_n hx hb dX5_line_67 rfl (lv_at hl 1 rfl) ?_
        rcases xg_inv hit with ⟨q14, eq14, hit⟩ | ⟨x_q14, eq14, he⟩
        rotate_left
        · obtain ⟨iq14, eq14⟩ := vc_inv eq14
          obtain ⟨eq14, lq14⟩ := xchv_r eq14
          refine t_cV X h0H hA kc_Reader (xMet.tv (wC5_word l hT γ X.2.1 _ _ _  _ eq14)) lq14 iq14 nm_X5_word q1208 q1210 q146 q1211 qs32 ⟨Nat.le_trans (Nat.le_of_ble_eq_true rfl) hR.1, Nat.le_trans (Nat.le_of_ble_eq_true rfl) hR.2⟩ rfl rfl hl.1 (lv_room (Nat.le_of_ble_eq_true rfl)) dX5_line_68 (fun H locs cells slots q_ hA hq => ?_)
          have he := xk_r hxr3 he
          exact hthr _ _ _ _ _ _ _ _ _ (by subst he; rfl) hA hq
        obtain ⟨iq14, eq14⟩ := vc_inv eq14
        obtain ⟨eq14, lq14⟩ := xchv_l eq14
        refine a_cV X h0H hA kc_Reader (xMet.v (wC5_word l hT γ X.2.1 _ _ _  _ eq14)) lq14 iq14 nm_X5_word q1208 q1210 q146 q1211 qs32 ⟨Nat.le_trans (Nat.le_of_ble_eq_true rfl) hR.1, Nat.le_trans (Nat.le_of_ble_eq_true rfl) hR.2⟩ rfl rfl hl.1 (lv_room (Nat.le_of_ble_eq_true rfl)) dX5_line_68 (fun H locs cells slots hA => ?_)
        have he := o_in hit
        exact hr3 _ he.symm _ _ _ _ _ hA (lv_sub hl [1] rfl)
      · refine lv_aload_n hx hb dX5_line_48 rfl (lv_at hl 1 rfl) ?_
        rcases xg_inv hit with ⟨q15, eq15, hit⟩ | ⟨x_q15, eq15, he⟩
        rotate_left
        · obtain ⟨iq15, eq15⟩ := vc_inv eq15
          obtain ⟨eq15, lq15⟩ := xchv_r eq15
          refine t_cV X h0H hA kc_Reader (xMet.tv (wC5_clerk l hT γ X.2.1 _ _ _  _ eq15)) lq15 iq15 nm_X5_clerk q1176 q1178 q146 q1179 qs31 ⟨Nat.le_trans (Nat.le_of_ble_eq_true rfl) hR.1, Nat.le_trans (Nat.le_of_ble_eq_true rfl) hR.2⟩ rfl rfl hl.1 (lv_room (Nat.le_of_ble_eq_true rfl)) dX5_line_49 (fun H locs cells slots q_ hA hq => ?_)
          have he := xk_r hxr3 he
          exact hthr _ _ _ _ _ _ _ _ _ (by subst he; rfl) hA hq
        obtain ⟨iq15, eq15⟩ := vc_inv eq15
        obtain ⟨eq15, lq15⟩ := xchv_l eq15
        refine a_cV X h0H hA kc_Reader (xMet.v (wC5_clerk l hT γ X.2.1 _ _ _  _ eq15)) lq15 iq15 nm_X5_clerk q1176 q1178 q146 q1179 qs31 ⟨Nat.le_trans (Nat.le_of_ble_eq_true rfl) hR.1, Nat.le_trans (Nat.le_of_ble_eq_true rfl) hR.2⟩ rfl rfl hl.1 (lv_room (Nat.le_of_ble_eq_true rfl)) dX5_line_49 (fun H locs cells slots hA => ?_)
        refine lv_goto (tgt := 71) hx hb dX5_line_52 (by decide) ?_
        have he := o_in hit
        exact hr3 _ he.symm _ _ _ _ _ hA (lv_sub hl [1] rfl)
    · refine lv_aload_n hx hb dX5_line_31 rfl (lv_at hl 1 rfl) ?_
      rcases xg_inv hit with ⟨q16, eq16, hit⟩ | ⟨x_q16, eq16, he⟩
      rotate_left
      · obtain ⟨iq16, eq16⟩ := vc_inv eq16
        obtain ⟨eq16, lq16⟩ := xchv_r eq16
        refine t_cV X h0H hA kc_Reader (xMet.tv (wC5_sheet l hT γ X.2.1 _ _ _  _ eq16)) lq16 iq16 nm_X5_sheet q1171 q1173 q146 q1174 qs30 ⟨Nat.le_trans (Nat.le_of_ble_eq_true rfl) hR.1, Nat.le_trans (Nat.le_of_ble_eq_true rfl) hR.2⟩ rfl rfl hl.1 (lv_room (Nat.le_of_ble_eq_true rfl)) dX5_line_32 (fun H locs cells slots q_ hA hq => ?_)
        have he := xk_r hxr3 he
        exact hthr _ _ _ _ _ _ _ _ _ (by subst he; rfl) hA hq
      obtain ⟨iq16, eq16⟩ := vc_inv eq16
      obtain ⟨eq16, lq16⟩ := xchv_l eq16
      refine a_cV X h0H hA kc_Reader (xMet.v (wC5_sheet l hT γ X.2.1 _ _ _  _ eq16)) lq16 iq16 nm_X5_sheet q1171 q1173 q146 q1174 qs30 ⟨Nat.le_trans (Nat.le_of_ble_eq_true rfl) hR.1, Nat.le_trans (Nat.le_of_ble_eq_true rfl) hR.2⟩ rfl rfl hl.1 (lv_room (Nat.le_of_ble_eq_true rfl)) dX5_line_32 (fun H locs cells slots hA => ?_)
      refine lv_goto (tgt := 71) hx hb dX5_line_35 (by decide) ?_
      have he := o_in hit
      exact hr3 _ he.symm _ _ _ _ _ hA (lv_sub hl [1] rfl)
  · refine lv_aload_n hx hb dX5_line_14 rfl (lv_at hl 1 rfl) ?_
    refine lv_iload_n hx hb dX5_line_15 rfl (lv_at hl 0 rfl) ?_
    rcases xg_inv hit with ⟨q17, eq17, hit⟩ | ⟨x_q17, eq17, he⟩
    rotate_left
    · obtain ⟨iq17, eq17⟩ := vc_inv eq17
      obtain ⟨eq17, lq17⟩ := xchv_r eq17
      refine t_cV X h0H hA kc_Reader (xMet.tv (wC5_only l hT γ X.2.1 _ _ _ _ _ eq17)) lq17 iq17 nm_X5_only q948 q950 q146 q951 qs17 ⟨Nat.le_trans (Nat.le_of_ble_eq_true rfl) hR.1, Nat.le_trans (Nat.le_of_ble_eq_true rfl) hR.2⟩ rfl rfl hl.1 (lv_room (Nat.le_of_ble_eq_true rfl)) dX5_line_16 (fun H locs cells slots q_ hA hq => ?_)
      have he := xk_r hxr3 he
      exact hthr _ _ _ _ _ _ _ _ _ (by subst he; rfl) hA hq
    obtain ⟨iq17, eq17⟩ := vc_inv eq17
    obtain ⟨eq17, lq17⟩ := xchv_l eq17
    refine a_cV X h0H hA kc_Reader (xMet.v (wC5_only l hT γ X.2.1 _ _ _ _ _ eq17)) lq17 iq17 nm_X5_only q948 q950 q146 q951 qs17 ⟨Nat.le_trans (Nat.le_of_ble_eq_true rfl) hR.1, Nat.le_trans (Nat.le_of_ble_eq_true rfl) hR.2⟩ rfl rfl hl.1 (lv_room (Nat.le_of_ble_eq_true rfl)) dX5_line_16 (fun H locs cells slots hA => ?_)
    refine lv_goto (tgt := 71) hx hb dX5_line_19 (by decide) ?_
    have he := o_in hit
    exact hr3 _ he.symm _ _ _ _ _ hA (lv_sub hl [1] rfl)
noncomputable def C5_read_L4 (K : Nat → Nat) (o : Nat) (t2 : CS) : Option (CS ⊕ (CS ⊕ XT)) :=
  (gI t2.1 o 4 8).bind fun v6 =>
  if v6 = 0 then
    (some (.inr (.inl t2)))
  else
    (xg (fun e_ => .inr (.inr e_)) (vc t2.1 o 4 (xchv t2.2 (C5_line K t2.1 t2.2 o))) fun q8 =>
    some (.inl q8))
noncomputable def C5_read (K : Nat → Nat) (h : CH) (r : CR) (o : Nat) : Option ((Nat × CS) ⊕ XT) :=
  (vc h o 4 (C5_next K h o)).bind fun q1 =>
  xg Sum.inr (o_loop (C5_read_L4 K o) (q1, r)) fun r4 =>
  (gR r4.1 o 4 1).bind fun v5 =>
  some (.inl (v5, r4))
theorem nm_X5_read : kNm yX5_read RX5 0 := by unfold kNm; decide +kernel
set_option maxHeartbeats 4000000 in
set_option maxRecDepth 100000 in
theorem wC5_read (l : Launch) (hT : l.stackTraces = false) (γ : KG) (hO : kOK γ) (h : CH) (r : CR) (o : Nat) (z : (Nat × CS) ⊕ XT) (hz : C5_read γ.2.2.2.2.2 h r o = some z) : xMet l yX5_read (ws_ yX5_read cX5_read 1 (some (.object "TwinInk$Office"))) 156 5015 γ (h, r) [.ref o] (xR z) := by
  refine x_start (cc := cX5_read) (own := RX5) hO rfl rfl rfl (fun p e R s m args below meth c Q ls X hR hnm h0H hA hl hend hthr hdir => ?_)
  have hx := X.1.1
  have hb := X.1.2.1
  have hit := hz
  clear hz
  unfold C5_read at hit
  have hl : lv_has ls 1 [(0, .ref o)] := hl
  refine lv_aload_n hx hb dX5_read_0 rfl (lv_at hl 0 rfl) ?_
  obtain ⟨q1, eq1, hit⟩ := o_bind hit
  obtain ⟨iq1, eq1⟩ := vc_inv eq1
  refine c_cN X (kA_F X.2.1 X.2.2 h0H) hA.1 kc_Reader (wC5_next l γ X.2.1 _ _  _ eq1) iq1 nm_X5_next q831 q833 q146 q834 qs10 ⟨Nat.le_trans (Nat.le_of_ble_eq_true rfl) hR.1, Nat.le_trans (Nat.le_of_ble_eq_true rfl) hR.2⟩ hA.RR rfl rfl hl.1 (lv_room (Nat.le_of_ble_eq_true rfl)) dX5_read_1 (fun H locs hI => ?_)
  replace hA := hA.up hI
  clear hI
  obtain ⟨wr4, er4, hxr4⟩ := xg_bind hit
  have hr4 : ∀ (r4 : CS), wr4 = .inl r4 → ∀ (H : Heap) (locs : List Loc) (cells slots : Nat) (ls : Array Slot), AI γ (h, r) s R r4.1 r4.2 H locs cells slots → lv_has ls 1 [(0, .ref o)] → W p l e R s m args below meth c H locs cells slots Q (F0 m 18 ls []) := by
    intro r4 hw_ H locs cells slots ls hA hl
    have hit := xk_l hxr4 hw_
    refine lv_aload_n hx hb dX5_read_18 rfl (lv_at hl 0 rfl) ?_
    obtain ⟨v5, ev5, hit⟩ := o_bind hit
    refine c_getR X hA.1.1 kc_Reader 1 q783 (Or.inl rfl) rfl rfl ev5 dX5_read_19 ?_
    have he := o_in hit
    exact hend (some (.ref v5)) r4 _ _ _ _ _ _ _ _ (kOut_o) (by subst he; rfl) hA dX5_read_22
  refine o_rec (P := fun t2 => ∀ (H : Heap) (locs : List Loc) (cells slots : Nat) (ls : Array Slot), AI γ (h, r) s R t2.1 t2.2 H locs cells slots → lv_has ls 1 [(0, .ref o)] → W p l e R s m args below meth c H locs cells slots Q (F0 m 4 ls [])) (fun t2 x3 hit hC2 hE2 H locs cells slots ls hA hl => ?_) _ er4 _ _ _ _ _ hA hl
  unfold C5_read_L4 at hit
  refine lv_aload_n hx hb dX5_read_4 rfl (lv_at hl 0 rfl) ?_
  obtain ⟨v6, ev6, hit⟩ := o_bind hit
  refine c_getI X hA.1.1 kc_Reader 8 q791 (Or.inl rfl) rfl rfl ev6 dX5_read_5 ?_
  refine b_if_eq (tgt := 18) hx hb dX5_read_8 (by decide) hit (fun c7 hit => ?_) (fun c7 hit => ?_)
  · have he := o_in hit
    have he := hE2 _ he
    exact hr4 _ he.symm _ _ _ _ _ hA hl
  · refine lv_aload_n hx hb dX5_read_11 rfl (lv_at hl 0 rfl) ?_
    rcases xg_inv hit with ⟨q8, eq8, hit⟩ | ⟨x_q8, eq8, he⟩
    rotate_left
    · obtain ⟨iq8, eq8⟩ := vc_inv eq8
      obtain ⟨eq8, lq8⟩ := xchv_r eq8
      refine t_cV X h0H hA kc_Reader (xMet.tv (wC5_line l hT γ X.2.1 _ _ _  _ eq8)) lq8 iq8 nm_X5_line q920 q922 q146 q923 qs14 ⟨Nat.le_trans (Nat.le_of_ble_eq_true rfl) hR.1, Nat.le_trans (Nat.le_of_ble_eq_true rfl) hR.2⟩ rfl rfl hl.1 (lv_room (Nat.le_of_ble_eq_true rfl)) dX5_read_12 (fun H locs cells slots q_ hA hq => ?_)
      have he := hE2 _ he
      have he := xk_r hxr4 he
      exact hthr _ _ _ _ _ _ _ _ _ (by subst he; rfl) hA hq
    obtain ⟨iq8, eq8⟩ := vc_inv eq8
    obtain ⟨eq8, lq8⟩ := xchv_l eq8
    refine a_cV X h0H hA kc_Reader (xMet.v (wC5_line l hT γ X.2.1 _ _ _  _ eq8)) lq8 iq8 nm_X5_line q920 q922 q146 q923 qs14 ⟨Nat.le_trans (Nat.le_of_ble_eq_true rfl) hR.1, Nat.le_trans (Nat.le_of_ble_eq_true rfl) hR.2⟩ rfl rfl hl.1 (lv_room (Nat.le_of_ble_eq_true rfl)) dX5_read_12 (fun H locs cells slots hA => ?_)
    refine lv_goto (tgt := 4) hx hb dX5_read_15 (by decide) ?_
    have he := o_in hit
    exact hC2 _ he _ _ _ _ _ hA hl
noncomputable def C1_office (K : Nat → Nat) (h : CH) (r : CR) (o : Nat) (a0 : Int32) : Option ((Int32 × CS) ⊕ XT) :=
  xg Sum.inr ((if a0 < 0 then
      (some (.inl 0))
    else
      ((gI h o 1 5).bind fun v26 =>
      if a0 ≤ v26 then
        (some (.inl 1))
      else
        (some (.inl 0))) : Option (Int32 ⊕ XT))) fun r1 =>
  xg Sum.inr (xchv r (C1_right h r r1)) fun q2 =>
  (pI q2.1 o 1 5 0).bind fun s3 =>
  (pI s3 o 1 6 (-1)).bind fun s4 =>
  (aCell s4 q2.2 14 (.inr (4, [.int 0, .null, .null, .null, .null, .null, .null, .int 0, .int 0, .int 0, .int 0, .int 0, .int 0, .null]))).bind fun s5 =>
  (achv s5.2 (C5_init K s5.1 s5.2 q2.2.1 o a0)).bind fun q6 =>
  xh (vc q6.1 q2.2.1 4 (xchk q6.2 (C5_read K q6.1 q6.2 q2.2.1))) (fun x8 => if x8.1 = 2 then
      (gI x8.2.2.1 q2.2.1 4 9).bind fun v9 =>
      (pI x8.2.2.1 o 1 6 v9).bind fun s10 =>
      (gR s10 o 1 7).bind fun v11 =>
      (aI s10 v11 0 0).bind fun v12 =>
      (sI s10 v11 0 0 (v12 + 1)).bind fun s13 =>
      (gI s13 x8.2.1 5 6).bind fun v14 =>
      some (.inl (v14, (s13, x8.2.2.2))) else none) fun q7 =>
  (pQ q7.2.1 o 1 1 (some q7.1)).bind fun s15 =>
  (gR s15 q2.2.1 4 2).bind fun v16 =>
  (pQ s15 o 1 2 (some v16)).bind fun s17 =>
  (aCell s17 q7.2.2 3 (.inr (10, [.int 0, .null, .int 0]))).bind fun s18 =>
  (CJ2_init K s18.1 q7.2.2.1).bind fun q19 =>
  (pQ q19 o 1 8 (some q7.2.2.1)).bind fun s20 =>
  (aCell s20 s18.2 3 (.inr (10, [.int 0, .null, .int 0]))).bind fun s21 =>
  (CJ2_init K s21.1 s18.2.1).bind fun q22 =>
  (pQ q22 o 1 9 (some s18.2.1)).bind fun s23 =>
  (pQ s23 o 1 10 none).bind fun s24 =>
  some (.inl (0, (s24, s21.2)))
theorem nm_X1_office : kNm yX1_office RX1 1 := by unfold kNm; decide +kernel
set_option maxHeartbeats 4000000 in
set_option maxRecDepth 100000 in
theorem wC1_office (l : Launch) (hT : l.stackTraces = false) (γ : KG) (hO : kOK γ) (h : CH) (r : CR) (o : Nat) (a0 : Int32) (z : (Int32 × CS) ⊕ XT) (hz : C1_office γ.2.2.2.2.2 h r o a0 = some z) : xMet l yX1_office (wsW_ yX1_office cX1_office 4 (some .int) [(40, 48, 51, 75)]) 157 5035 γ (h, r) [.ref o, .int a0] (xI z) := by
  refine x_startH (cc := cX1_office) (own := RX1) hO rfl rfl rfl (fun p e R s m args below meth c Q ls X hR htab h0H hA hl hend hthr => ?_)
  have hx := X.1.1
  have hb := X.1.2.1
  have hit := hz
  clear hz
  unfold C1_office at hit
  have hl : lv_has ls 4 [(0, .ref o), (1, .int a0)] := hl
  refine lv_iload_n hx hb dX1_office_0 rfl (lv_at hl 1 rfl) ?_
  obtain ⟨wr1, er1, hxr1⟩ := xg_bind hit
  have hr1 : ∀ (r1 : Int32), wr1 = .inl r1 → ∀ (H : Heap) (locs : List Loc) (cells slots : Nat) (ls : Array Slot), AI γ (h, r) s R h r H locs cells slots → lv_has ls 4 [(0, .ref o), (1, .int a0)] → W p l e R s m args below meth c H locs cells slots Q (F0 m 17 ls [.int r1]) := by
    intro r1 hw_ H locs cells slots ls hA hl
    have hit := xk_l hxr1 hw_
    rcases xg_inv hit with ⟨q2, eq2, hit⟩ | ⟨x_q2, eq2, he⟩
    rotate_left
    · obtain ⟨eq2, lq2⟩ := xchv_r eq2
      refine t_cS X h0H hA nm_X1_right q691 q692 q135 q693 (xMet.tv (wC1_right l hT γ X.2.1 _ _ _ _ eq2)) lq2 ⟨Nat.le_trans (Nat.le_of_ble_eq_true rfl) hR.1, Nat.le_trans (Nat.le_of_ble_eq_true rfl) hR.2⟩ rfl rfl hl.1 (lv_room (Nat.le_of_ble_eq_true rfl)) dX1_office_17 (fun H locs cells slots q_ hA hq => ?_)
      exact hthr _ _ _ _ _ _ _ _ _ (by subst he; rfl) (by decide) hA hq
    obtain ⟨eq2, lq2⟩ := xchv_l eq2
    refine a_cS X h0H hA nm_X1_right q691 q692 q135 q693 (xMet.v (wC1_right l hT γ X.2.1 _ _ _ _ eq2)) lq2 ⟨Nat.le_trans (Nat.le_of_ble_eq_true rfl) hR.1, Nat.le_trans (Nat.le_of_ble_eq_true rfl) hR.2⟩ rfl rfl hl.1 (lv_room (Nat.le_of_ble_eq_true rfl)) dX1_office_17 (fun H locs cells slots hA => ?_)
    refine lv_aload_n hx hb dX1_office_20 rfl (lv_at hl 0 rfl) ?_
    refine lv_iconst (v := 0) hx hb dX1_office_21 (by decide) ?_
    obtain ⟨s3, es3, hit⟩ := o_bind hit
    refine c_putI X hA.1 kc_TwinInk 5 q282 (Or.inl rfl) rfl rfl (tyv := .int) rfl rfl rfl es3 dX1_office_22 (fun H locs hI => ?_)
    replace hA := hA.up hI
    clear hI
    refine lv_aload_n hx hb dX1_office_25 rfl (lv_at hl 0 rfl) ?_
    refine lv_iconst (v := (-1)) hx hb dX1_office_26 (by decide) ?_
    obtain ⟨s4, es4, hit⟩ := o_bind hit
    refine c_putI X hA.1 kc_TwinInk 6 q283 (Or.inl rfl) rfl rfl (tyv := .int) rfl rfl rfl es4 dX1_office_27 (fun H locs hI => ?_)
    replace hA := hA.up hI
    clear hI
    obtain ⟨s5, es5, hit⟩ := o_bind hit
    refine a_new X hA kc_Reader q758 q759 q146 (fs := [.int 0, .null, .null, .null, .null, .null, .null, .int 0, .int 0, .int 0, .int 0, .int 0, .int 0, .null]) (by decide +kernel) es5 dX1_office_30 (fun H cells slots hA => ?_)
    refine lv_dup hx hb dX1_office_33 rfl ?_
    refine lv_aload_n hx hb dX1_office_34 rfl (lv_at hl 0 rfl) ?_
    refine lv_iload_n hx hb dX1_office_35 rfl (lv_at hl 1 rfl) ?_
    obtain ⟨q6, eq6, hit⟩ := o_bind hit
    obtain ⟨eq6, lq6⟩ := achv_inv eq6
    refine a_cI X h0H hA nm_X5_init q760 q761 q146 q762 rfl (wC5_init l γ X.2.1 _ _ _ _ _ _ eq6) lq6 ⟨Nat.le_trans (Nat.le_of_ble_eq_true rfl) hR.1, Nat.le_trans (Nat.le_of_ble_eq_true rfl) hR.2⟩ rfl rfl hl.1 (lv_room (Nat.le_of_ble_eq_true rfl)) dX1_office_36 (fun H locs cells slots hA => ?_)
    refine lv_astore_n (lv' := [(2, .ref q2.2.1), (0, .ref o), (1, .int a0)]) hx hb dX1_office_39 rfl hl (by decide) rfl (fun ls hl => ?_)
    refine lv_aload_n hx hb dX1_office_40 rfl (lv_at hl 1 rfl) ?_
    refine lv_aload_n hx hb dX1_office_41 rfl (lv_at hl 0 rfl) ?_
    rcases xh_inv hit with ⟨q7, eq7, hit⟩ | ⟨x8, eq7, hit⟩
    rotate_left
    · obtain ⟨iq7, eq7⟩ := vc_inv eq7
      obtain ⟨eq7, lq7⟩ := xchk_r eq7
      obtain ⟨h2_, hit⟩ := o_guard hit
      refine t_cV X h0H hA kc_Reader (xMet.tr (wC5_read l hT γ X.2.1 _ _ _  _ eq7)) lq7 iq7 nm_X5_read q827 q828 q146 q830 q829 ⟨Nat.le_trans (Nat.le_of_ble_eq_true rfl) hR.1, Nat.le_trans (Nat.le_of_ble_eq_true rfl) hR.2⟩ rfl rfl hl.1 (lv_room (Nat.le_of_ble_eq_true rfl)) dX1_office_42 (fun H locs cells slots q_ hA hq => ?_)
      refine t_catchW X htab (by decide) (by decide) q690 hq h2_ ?_
      refine lv_astore_n (lv' := [(3, .ref x8.2.1), (2, .ref q2.2.1), (0, .ref o), (1, .int a0)]) hx hb dX1_office_51 rfl hl (by decide) rfl (fun ls hl => ?_)
      refine lv_aload_n hx hb dX1_office_52 rfl (lv_at hl 2 rfl) ?_
      refine lv_aload_n hx hb dX1_office_53 rfl (lv_at hl 1 rfl) ?_
      obtain ⟨v9, ev9, hit⟩ := o_bind hit
      refine c_getNI X hA.1.1 kc_Reader 9 q793 (Or.inl rfl) rfl rfl ev9 dX1_office_54 ?_
      obtain ⟨s10, es10, hit⟩ := o_bind hit
      refine c_putI X hA.1 kc_TwinInk 6 q283 (Or.inl rfl) rfl rfl (tyv := .int) rfl rfl rfl es10 dX1_office_57 (fun H locs hI => ?_)
      replace hA := hA.up hI
      clear hI
      refine lv_aload_n hx hb dX1_office_60 rfl (lv_at hl 2 rfl) ?_
      obtain ⟨v11, ev11, hit⟩ := o_bind hit
      refine c_getR X hA.1.1 kc_TwinInk 7 q284 (Or.inl rfl) rfl rfl ev11 dX1_office_61 ?_
      refine lv_iconst (v := 0) hx hb dX1_office_64 (by decide) ?_
      refine lv_dup2_11 hx hb dX1_office_65 rfl rfl ?_
      obtain ⟨v12, ev12, hit⟩ := o_bind hit
      refine c_iald X hA.1.1 ev12 dX1_office_66 ?_
      refine lv_iconst (v := 1) hx hb dX1_office_67 (by decide) ?_
      refine lv_iadd hx hb dX1_office_68 ?_
      obtain ⟨s13, es13, hit⟩ := o_bind hit
      refine c_iast X hA.1 es13 dX1_office_69 (fun H locs hI => ?_)
      replace hA := hA.up hI
      clear hI
      refine lv_aload_n hx hb dX1_office_70 rfl (lv_at hl 0 rfl) ?_
      obtain ⟨v14, ev14, hit⟩ := o_bind hit
      refine c_getNI X hA.1.1 kc_Wrong 6 q976 (Or.inl rfl) rfl rfl ev14 dX1_office_71 ?_
      have he := o_in hit
      exact hend (some (.int v14)) (s13, x8.2.2.2) _ _ _ _ _ _ _ _ (kOut_i rfl) (by subst he; rfl) hA dX1_office_74
    obtain ⟨iq7, eq7⟩ := vc_inv eq7
    obtain ⟨eq7, lq7⟩ := xchk_l eq7
    refine a_cV X h0H hA kc_Reader (xMet.r (wC5_read l hT γ X.2.1 _ _ _  _ eq7)) lq7 iq7 nm_X5_read q827 q828 q146 q830 q829 ⟨Nat.le_trans (Nat.le_of_ble_eq_true rfl) hR.1, Nat.le_trans (Nat.le_of_ble_eq_true rfl) hR.2⟩ rfl rfl hl.1 (lv_room (Nat.le_of_ble_eq_true rfl)) dX1_office_42 (fun H locs cells slots hA => ?_)
    obtain ⟨s15, es15, hit⟩ := o_bind hit
    refine c_putQ X hA.1 kc_TwinInk 1 q277 (Or.inl rfl) rfl rfl (v := (some q7.1)) (tyv := (.object "TwinInk$Office")) rfl (Or.inl ⟨_, rfl⟩) es15 dX1_office_45 (fun H locs hI => ?_)
    replace hA := hA.up hI
    clear hI
    refine lv_goto (tgt := 75) hx hb dX1_office_48 (by decide) ?_
    refine lv_aload_n hx hb dX1_office_75 rfl (lv_at hl 1 rfl) ?_
    refine lv_aload_n hx hb dX1_office_76 rfl (lv_at hl 0 rfl) ?_
    obtain ⟨v16, ev16, hit⟩ := o_bind hit
    refine c_getNR X hA.1.1 kc_Reader 2 q785 (Or.inl rfl) rfl rfl ev16 dX1_office_77 ?_
    obtain ⟨s17, es17, hit⟩ := o_bind hit
    refine c_putQ X hA.1 kc_TwinInk 2 q278 (Or.inl rfl) rfl rfl (v := (some v16)) (tyv := (.object "TwinInk$Service")) rfl (Or.inl ⟨_, rfl⟩) es17 dX1_office_80 (fun H locs hI => ?_)
    replace hA := hA.up hI
    clear hI
    refine lv_aload_n hx hb dX1_office_83 rfl (lv_at hl 1 rfl) ?_
    obtain ⟨s18, es18, hit⟩ := o_bind hit
    refine a_new X hA kc_ArrayList q272 q183 q139 (fs := [.int 0, .null, .int 0]) (by decide +kernel) es18 dX1_office_84 (fun H cells slots hA => ?_)
    refine lv_dup hx hb dX1_office_87 rfl ?_
    obtain ⟨q19, eq19, hit⟩ := o_bind hit
    refine c_cNI X (kA_F X.2.1 X.2.2 h0H) hA.1 nm_J2_init q273 q185 q139 q186 rfl (wCJ2_init l γ X.2.1 _ _  _ eq19) hA.RR ⟨Nat.le_trans (Nat.le_of_ble_eq_true rfl) hR.1, Nat.le_trans (Nat.le_of_ble_eq_true rfl) hR.2⟩ rfl rfl hl.1 (lv_room (Nat.le_of_ble_eq_true rfl)) dX1_office_88 (fun H locs hI => ?_)
    replace hA := hA.up hI
    clear hI
    obtain ⟨s20, es20, hit⟩ := o_bind hit
    refine c_putQ X hA.1 kc_TwinInk 8 q285 (Or.inl rfl) rfl rfl (v := (some q7.2.2.1)) (tyv := (.object "java/util/List")) rfl (Or.inl ⟨_, rfl⟩) es20 dX1_office_91 (fun H locs hI => ?_)
    replace hA := hA.up hI
    clear hI
    refine lv_aload_n hx hb dX1_office_94 rfl (lv_at hl 1 rfl) ?_
    obtain ⟨s21, es21, hit⟩ := o_bind hit
    refine a_new X hA kc_ArrayList q272 q183 q139 (fs := [.int 0, .null, .int 0]) (by decide +kernel) es21 dX1_office_95 (fun H cells slots hA => ?_)
    refine lv_dup hx hb dX1_office_98 rfl ?_
    obtain ⟨q22, eq22, hit⟩ := o_bind hit
    refine c_cNI X (kA_F X.2.1 X.2.2 h0H) hA.1 nm_J2_init q273 q185 q139 q186 rfl (wCJ2_init l γ X.2.1 _ _  _ eq22) hA.RR ⟨Nat.le_trans (Nat.le_of_ble_eq_true rfl) hR.1, Nat.le_trans (Nat.le_of_ble_eq_true rfl) hR.2⟩ rfl rfl hl.1 (lv_room (Nat.le_of_ble_eq_true rfl)) dX1_office_99 (fun H locs hI => ?_)
    replace hA := hA.up hI
    clear hI
    obtain ⟨s23, es23, hit⟩ := o_bind hit
    refine c_putQ X hA.1 kc_TwinInk 9 q286 (Or.inl rfl) rfl rfl (v := (some s18.2.1)) (tyv := (.object "java/util/List")) rfl (Or.inl ⟨_, rfl⟩) es23 dX1_office_102 (fun H locs hI => ?_)
    replace hA := hA.up hI
    clear hI
    refine lv_aload_n hx hb dX1_office_105 rfl (lv_at hl 1 rfl) ?_
    refine b_null hx hb dX1_office_106 ?_
    obtain ⟨s24, es24, hit⟩ := o_bind hit
    refine c_putQ X hA.1 kc_TwinInk 10 q287 (Or.inl rfl) rfl rfl (v := none) (tyv := (.object "TwinInk$Service")) rfl (Or.inl ⟨_, rfl⟩) es24 dX1_office_107 (fun H locs hI => ?_)
    replace hA := hA.up hI
    clear hI
    refine lv_iconst (v := 0) hx hb dX1_office_110 (by decide) ?_
    have he := o_in hit
    exact hend (some (.int 0)) (s24, s21.2) _ _ _ _ _ _ _ _ (kOut_i rfl) (by subst he; rfl) hA dX1_office_111
  have hit := er1
  refine b_if_lt (tgt := 16) hx hb dX1_office_1 (by decide) hit (fun c25 hit => ?_) (fun c25 hit => ?_)
  · refine lv_iconst (v := 0) hx hb dX1_office_16 (by decide) ?_
    have he := o_in hit
    exact hr1 _ he.symm _ _ _ _ _ hA hl
  · refine lv_iload_n hx hb dX1_office_4 rfl (lv_at hl 1 rfl) ?_
    refine lv_aload_n hx hb dX1_office_5 rfl (lv_at hl 0 rfl) ?_
    obtain ⟨v26, ev26, hit⟩ := o_bind hit
    refine c_getI X hA.1.1 kc_TwinInk 5 q282 (Or.inl rfl) rfl rfl ev26 dX1_office_6 ?_
    refine b_icmp_gt (tgt := 16) hx hb dX1_office_9 (by decide) hit (fun c27 hit => ?_) (fun c27 hit => ?_)
    · refine lv_iconst (v := 0) hx hb dX1_office_16 (by decide) ?_
      have he := o_in hit
      exact hr1 _ he.symm _ _ _ _ _ hA hl
    · refine lv_iconst (v := 1) hx hb dX1_office_12 (by decide) ?_
      refine lv_goto (tgt := 17) hx hb dX1_office_13 (by decide) ?_
      have he := o_in hit
      exact hr1 _ he.symm _ _ _ _ _ hA hl
