noncomputable def C5_word (K : Nat → Nat) (h : CH) (r : CR) (o : Nat) : Option (CS ⊕ XT) :=
  (gR h o 4 1).bind fun v1 =>
  (gR h v1 2 0).bind fun v2 =>
  (vc h v2 10 (CJ2_size h v2)).bind fun q3 =>
  xg Sum.inr ((if q3 < 12 then
      (some (.inl 1))
    else
      (some (.inl 0)) : Option (Int32 ⊕ XT))) fun r4 =>
  xg Sum.inr (vc h o 4 (xchv r (C5_want K h r o r4 2))) fun q5 =>
  (vc q5.1 o 4 (C5_next K q5.1 o)).bind fun q6 =>
  xg Sum.inr (vc q6 o 4 (xchk q5.2 (C5_sheetNow K q6 q5.2 o))) fun q7 =>
  (vc q7.2.1 o 4 (C5_next K q7.2.1 o)).bind fun q8 =>
  xg Sum.inr (vc q8 o 4 (xchk q7.2.2 (C5_sheetNow K q8 q7.2.2 o))) fun q9 =>
  xg Sum.inr ((if q7.1 = q9.1 then
      (some (.inl 0))
    else
      ((vc q9.2.1 o 4 (C5_hasWord q9.2.1 o q7.1 q9.1)).bind fun q20 =>
      if q20 = 0 then
        (some (.inl 1))
      else
        (some (.inl 0))) : Option (Int32 ⊕ XT))) fun r10 =>
  xg Sum.inr (vc q9.2.1 o 4 (xchv q9.2.2 (C5_want K q9.2.1 q9.2.2 o r10 4))) fun q11 =>
  (vc q11.1 o 4 (C5_next K q11.1 o)).bind fun q12 =>
  (gR q12 o 4 1).bind fun v13 =>
  (gR q12 v13 2 0).bind fun v14 =>
  (aArr q12 q11.2 0 2).bind fun s15 =>
  (sI s15.1 q11.2.1 0 0 q7.1).bind fun s16 =>
  (sI s16 q11.2.1 0 1 q9.1).bind fun s17 =>
  (vc s17 v14 10 (achk s15.2 (CJ2_add K s17 s15.2 v14 q11.2.1))).bind fun q18 =>
  some (.inl q18.2)
theorem nm_X5_word : kNm yX5_word RX5 0 := by unfold kNm; decide +kernel
set_option maxHeartbeats 4000000 in
set_option maxRecDepth 100000 in
theorem wC5_word (l : Launch) (hT : l.stackTraces = false) (γ : KG) (hO : kOK γ) (h : CH) (r : CR) (o : Nat) (z : CS ⊕ XT) (hz : C5_word γ.2.2.2.2.2 h r o = some z) : xMet l yX5_word (ws_ yX5_word cX5_word 3 none) 8 179 γ (h, r) [.ref o] (xV z) := by
  refine x_start (cc := cX5_word) (own := RX5) hO rfl rfl rfl (fun p e R s m args below meth c Q ls X hR hnm h0H hA hl hend hthr hdir => ?_)
  have hx := X.1.1
  have hb := X.1.2.1
  have hit := hz
  clear hz
  unfold C5_word at hit
  have hl : lv_has ls 3 [(0, .ref o)] := hl
  refine lv_aload_n hx hb dX5_word_0 rfl (lv_at hl 0 rfl) ?_
  refine lv_aload_n hx hb dX5_word_1 rfl (lv_at hl 0 rfl) ?_
  obtain ⟨v1, ev1, hit⟩ := o_bind hit
  refine c_getR X hA.1.1 kc_Reader 1 q783 (Or.inl rfl) rfl rfl ev1 dX5_word_2 ?_
  obtain ⟨v2, ev2, hit⟩ := o_bind hit
  refine c_getNR X hA.1.1 kc_Office 0 q212 (Or.inl rfl) rfl rfl ev2 dX5_word_5 ?_
  obtain ⟨q3, eq3, hit⟩ := o_bind hit
  obtain ⟨iq3, eq3⟩ := vc_inv eq3
  refine c_cRF X hA.1.1 (fun U hU hW => hA.D X.2.1 X.2.2 h0H hU hW) kc_ArrayList (wCJ2_size l γ X.2.1 _ _  _ eq3) iq3 nmi_List_size q1184 q428 q139 q430 q426 q425 q424 q429 q427 q358 ⟨Nat.le_trans (Nat.le_of_ble_eq_true rfl) hR.1, Nat.le_trans (Nat.le_of_ble_eq_true rfl) hR.2⟩ hA.RR rfl rfl hl.1 (lv_room (Nat.le_of_ble_eq_true rfl)) dX5_word_8 ?_
  refine lv_bipush (v := 12) hx hb dX5_word_13 (by decide) ?_
  obtain ⟨wr4, er4, hxr4⟩ := xg_bind hit
  have hr4 : ∀ (r4 : Int32), wr4 = .inl r4 → ∀ (H : Heap) (locs : List Loc) (cells slots : Nat) (ls : Array Slot), AI γ (h, r) s R h r H locs cells slots → lv_has ls 3 [(0, .ref o)] → W p l e R s m args below meth c H locs cells slots Q (F0 m 23 ls [.int r4, .ref o]) := by
    intro r4 hw_ H locs cells slots ls hA hl
    have hit := xk_l hxr4 hw_
    refine lv_iconst (v := 2) hx hb dX5_word_23 (by decide) ?_
    rcases xg_inv hit with ⟨q5, eq5, hit⟩ | ⟨x_q5, eq5, he⟩
    rotate_left
    · obtain ⟨iq5, eq5⟩ := vc_inv eq5
      obtain ⟨eq5, lq5⟩ := xchv_r eq5
      refine t_cV X h0H hA kc_Reader (xMet.tv (wC5_want l hT γ X.2.1 _ _ _ _ _ _ eq5)) lq5 iq5 nm_X5_want q953 q955 q146 q956 qs18 ⟨Nat.le_trans (Nat.le_of_ble_eq_true rfl) hR.1, Nat.le_trans (Nat.le_of_ble_eq_true rfl) hR.2⟩ rfl rfl hl.1 (lv_room (Nat.le_of_ble_eq_true rfl)) dX5_word_24 (fun H locs cells slots q_ hA hq => ?_)
      exact hthr _ _ _ _ _ _ _ _ _ (by subst he; rfl) hA hq
    obtain ⟨iq5, eq5⟩ := vc_inv eq5
    obtain ⟨eq5, lq5⟩ := xchv_l eq5
    refine a_cV X h0H hA kc_Reader (xMet.v (wC5_want l hT γ X.2.1 _ _ _ _ _ _ eq5)) lq5 iq5 nm_X5_want q953 q955 q146 q956 qs18 ⟨Nat.le_trans (Nat.le_of_ble_eq_true rfl) hR.1, Nat.le_trans (Nat.le_of_ble_eq_true rfl) hR.2⟩ rfl rfl hl.1 (lv_room (Nat.le_of_ble_eq_true rfl)) dX5_word_24 (fun H locs cells slots hA => ?_)
    refine lv_aload_n hx hb dX5_word_27 rfl (lv_at hl 0 rfl) ?_
    obtain ⟨q6, eq6, hit⟩ := o_bind hit
    obtain ⟨iq6, eq6⟩ := vc_inv eq6
    refine c_cN X (kA_F X.2.1 X.2.2 h0H) hA.1 kc_Reader (wC5_next l γ X.2.1 _ _  _ eq6) iq6 nm_X5_next q831 q833 q146 q834 qs10 ⟨Nat.le_trans (Nat.le_of_ble_eq_true rfl) hR.1, Nat.le_trans (Nat.le_of_ble_eq_true rfl) hR.2⟩ hA.RR rfl rfl hl.1 (lv_room (Nat.le_of_ble_eq_true rfl)) dX5_word_28 (fun H locs hI => ?_)
    replace hA := hA.up hI
    clear hI
    refine lv_aload_n hx hb dX5_word_31 rfl (lv_at hl 0 rfl) ?_
    rcases xg_inv hit with ⟨q7, eq7, hit⟩ | ⟨x_q7, eq7, he⟩
    rotate_left
    · obtain ⟨iq7, eq7⟩ := vc_inv eq7
      obtain ⟨eq7, lq7⟩ := xchk_r eq7
      refine t_cV X h0H hA kc_Reader (xMet.ti (wC5_sheetNow l hT γ X.2.1 _ _ _  _ eq7)) lq7 iq7 nm_X5_sheetNow q1212 q1214 q146 q1215 qs33 ⟨Nat.le_trans (Nat.le_of_ble_eq_true rfl) hR.1, Nat.le_trans (Nat.le_of_ble_eq_true rfl) hR.2⟩ rfl rfl hl.1 (lv_room (Nat.le_of_ble_eq_true rfl)) dX5_word_32 (fun H locs cells slots q_ hA hq => ?_)
      exact hthr _ _ _ _ _ _ _ _ _ (by subst he; rfl) hA hq
    obtain ⟨iq7, eq7⟩ := vc_inv eq7
    obtain ⟨eq7, lq7⟩ := xchk_l eq7
    refine a_cV X h0H hA kc_Reader (xMet.i (wC5_sheetNow l hT γ X.2.1 _ _ _  _ eq7)) lq7 iq7 nm_X5_sheetNow q1212 q1214 q146 q1215 qs33 ⟨Nat.le_trans (Nat.le_of_ble_eq_true rfl) hR.1, Nat.le_trans (Nat.le_of_ble_eq_true rfl) hR.2⟩ rfl rfl hl.1 (lv_room (Nat.le_of_ble_eq_true rfl)) dX5_word_32 (fun H locs cells slots hA => ?_)
    refine lv_istore_n (lv' := [(1, .int q7.1), (0, .ref o)]) hx hb dX5_word_35 rfl hl (by decide) rfl (fun ls hl => ?_)
    refine lv_aload_n hx hb dX5_word_36 rfl (lv_at hl 1 rfl) ?_
    obtain ⟨q8, eq8, hit⟩ := o_bind hit
    obtain ⟨iq8, eq8⟩ := vc_inv eq8
    refine c_cN X (kA_F X.2.1 X.2.2 h0H) hA.1 kc_Reader (wC5_next l γ X.2.1 _ _  _ eq8) iq8 nm_X5_next q831 q833 q146 q834 qs10 ⟨Nat.le_trans (Nat.le_of_ble_eq_true rfl) hR.1, Nat.le_trans (Nat.le_of_ble_eq_true rfl) hR.2⟩ hA.RR rfl rfl hl.1 (lv_room (Nat.le_of_ble_eq_true rfl)) dX5_word_37 (fun H locs hI => ?_)
    replace hA := hA.up hI
    clear hI
    refine lv_aload_n hx hb dX5_word_40 rfl (lv_at hl 1 rfl) ?_
    rcases xg_inv hit with ⟨q9, eq9, hit⟩ | ⟨x_q9, eq9, he⟩
    rotate_left
    · obtain ⟨iq9, eq9⟩ := vc_inv eq9
      obtain ⟨eq9, lq9⟩ := xchk_r eq9
      refine t_cV X h0H hA kc_Reader (xMet.ti (wC5_sheetNow l hT γ X.2.1 _ _ _  _ eq9)) lq9 iq9 nm_X5_sheetNow q1212 q1214 q146 q1215 qs33 ⟨Nat.le_trans (Nat.le_of_ble_eq_true rfl) hR.1, Nat.le_trans (Nat.le_of_ble_eq_true rfl) hR.2⟩ rfl rfl hl.1 (lv_room (Nat.le_of_ble_eq_true rfl)) dX5_word_41 (fun H locs cells slots q_ hA hq => ?_)
      exact hthr _ _ _ _ _ _ _ _ _ (by subst he; rfl) hA hq
    obtain ⟨iq9, eq9⟩ := vc_inv eq9
    obtain ⟨eq9, lq9⟩ := xchk_l eq9
    refine a_cV X h0H hA kc_Reader (xMet.i (wC5_sheetNow l hT γ X.2.1 _ _ _  _ eq9)) lq9 iq9 nm_X5_sheetNow q1212 q1214 q146 q1215 qs33 ⟨Nat.le_trans (Nat.le_of_ble_eq_true rfl) hR.1, Nat.le_trans (Nat.le_of_ble_eq_true rfl) hR.2⟩ rfl rfl hl.1 (lv_room (Nat.le_of_ble_eq_true rfl)) dX5_word_41 (fun H locs cells slots hA => ?_)
    refine lv_istore_n (lv' := [(2, .int q9.1), (1, .int q7.1), (0, .ref o)]) hx hb dX5_word_44 rfl hl (by decide) rfl (fun ls hl => ?_)
    refine lv_aload_n hx hb dX5_word_45 rfl (lv_at hl 2 rfl) ?_
    refine lv_iload_n hx hb dX5_word_46 rfl (lv_at hl 1 rfl) ?_
    refine lv_iload_n hx hb dX5_word_47 rfl (lv_at hl 0 rfl) ?_
    obtain ⟨wr10, er10, hxr10⟩ := xg_bind hit
    have hr10 : ∀ (r10 : Int32), wr10 = .inl r10 → ∀ (H : Heap) (locs : List Loc) (cells slots : Nat) (ls : Array Slot), AI γ (h, r) s R q9.2.1 q9.2.2 H locs cells slots → lv_has ls 3 [(2, .int q9.1), (1, .int q7.1), (0, .ref o)] → W p l e R s m args below meth c H locs cells slots Q (F0 m 65 ls [.int r10, .ref o]) := by
      intro r10 hw_ H locs cells slots ls hA hl
      have hit := xk_l hxr10 hw_
      refine lv_iconst (v := 4) hx hb dX5_word_65 (by decide) ?_
      rcases xg_inv hit with ⟨q11, eq11, hit⟩ | ⟨x_q11, eq11, he⟩
      rotate_left
      · obtain ⟨iq11, eq11⟩ := vc_inv eq11
        obtain ⟨eq11, lq11⟩ := xchv_r eq11
        refine t_cV X h0H hA kc_Reader (xMet.tv (wC5_want l hT γ X.2.1 _ _ _ _ _ _ eq11)) lq11 iq11 nm_X5_want q953 q955 q146 q956 qs18 ⟨Nat.le_trans (Nat.le_of_ble_eq_true rfl) hR.1, Nat.le_trans (Nat.le_of_ble_eq_true rfl) hR.2⟩ rfl rfl hl.1 (lv_room (Nat.le_of_ble_eq_true rfl)) dX5_word_66 (fun H locs cells slots q_ hA hq => ?_)
        exact hthr _ _ _ _ _ _ _ _ _ (by subst he; rfl) hA hq
      obtain ⟨iq11, eq11⟩ := vc_inv eq11
      obtain ⟨eq11, lq11⟩ := xchv_l eq11
      refine a_cV X h0H hA kc_Reader (xMet.v (wC5_want l hT γ X.2.1 _ _ _ _ _ _ eq11)) lq11 iq11 nm_X5_want q953 q955 q146 q956 qs18 ⟨Nat.le_trans (Nat.le_of_ble_eq_true rfl) hR.1, Nat.le_trans (Nat.le_of_ble_eq_true rfl) hR.2⟩ rfl rfl hl.1 (lv_room (Nat.le_of_ble_eq_true rfl)) dX5_word_66 (fun H locs cells slots hA => ?_)
      refine lv_aload_n hx hb dX5_word_69 rfl (lv_at hl 2 rfl) ?_
      obtain ⟨q12, eq12, hit⟩ := o_bind hit
      obtain ⟨iq12, eq12⟩ := vc_inv eq12
      refine c_cN X (kA_F X.2.1 X.2.2 h0H) hA.1 kc_Reader (wC5_next l γ X.2.1 _ _  _ eq12) iq12 nm_X5_next q831 q833 q146 q834 qs10 ⟨Nat.le_trans (Nat.le_of_ble_eq_true rfl) hR.1, Nat.le_trans (Nat.le_of_ble_eq_true rfl) hR.2⟩ hA.RR rfl rfl hl.1 (lv_room (Nat.le_of_ble_eq_true rfl)) dX5_word_70 (fun H locs hI => ?_)
      replace hA := hA.up hI
      clear hI
      refine lv_aload_n hx hb dX5_word_73 rfl (lv_at hl 2 rfl) ?_
      obtain ⟨v13, ev13, hit⟩ := o_bind hit
      refine c_getR X hA.1.1 kc_Reader 1 q783 (Or.inl rfl) rfl rfl ev13 dX5_word_74 ?_
      obtain ⟨v14, ev14, hit⟩ := o_bind hit
      refine c_getNR X hA.1.1 kc_Office 0 q212 (Or.inl rfl) rfl rfl ev14 dX5_word_77 ?_
      refine lv_iconst (v := 2) hx hb dX5_word_80 (by decide) ?_
      obtain ⟨s15, es15, hit⟩ := o_bind hit
      refine a_newI X hA es15 dX5_word_81 (fun H cells slots hA => ?_)
      refine lv_dup hx hb dX5_word_83 rfl ?_
      refine lv_iconst (v := 0) hx hb dX5_word_84 (by decide) ?_
      refine lv_iload_n hx hb dX5_word_85 rfl (lv_at hl 1 rfl) ?_
      obtain ⟨s16, es16, hit⟩ := o_bind hit
      refine c_iast X hA.1 es16 dX5_word_86 (fun H locs hI => ?_)
      replace hA := hA.up hI
      clear hI
      refine lv_dup hx hb dX5_word_87 rfl ?_
      refine lv_iconst (v := 1) hx hb dX5_word_88 (by decide) ?_
      refine lv_iload_n hx hb dX5_word_89 rfl (lv_at hl 0 rfl) ?_
      obtain ⟨s17, es17, hit⟩ := o_bind hit
      refine c_iast X hA.1 es17 dX5_word_90 (fun H locs hI => ?_)
      replace hA := hA.up hI
      clear hI
      obtain ⟨q18, eq18, hit⟩ := o_bind hit
      obtain ⟨iq18, eq18⟩ := vc_inv eq18
      obtain ⟨eq18, lq18⟩ := achk_inv eq18
      refine a_cF X h0H hA kc_ArrayList iq18 nmi_List_add q1206 q361 q139 q363 q359 q357 q356 q362 q360 q358 (wCJ2_add l γ X.2.1 _ _ _ _ _ eq18) lq18 ⟨Nat.le_trans (Nat.le_of_ble_eq_true rfl) hR.1, Nat.le_trans (Nat.le_of_ble_eq_true rfl) hR.2⟩ rfl rfl hl.1 (lv_room (Nat.le_of_ble_eq_true rfl)) dX5_word_91 (fun H locs cells slots hA => ?_)
      refine lv_pop hx hb dX5_word_96 rfl ?_
      have he := o_in hit
      exact hend none q18.2 _ _ _ _ _ _ _ _ kOut_v (by subst he; rfl) hA dX5_word_97
    have hit := er10
    refine b_icmp_eq (tgt := 64) hx hb dX5_word_48 (by decide) hit (fun c19 hit => ?_) (fun c19 hit => ?_)
    · refine lv_iconst (v := 0) hx hb dX5_word_64 (by decide) ?_
      have he := o_in hit
      exact hr10 _ he.symm _ _ _ _ _ hA hl
    · refine lv_aload_n hx hb dX5_word_51 rfl (lv_at hl 2 rfl) ?_
      refine lv_iload_n hx hb dX5_word_52 rfl (lv_at hl 1 rfl) ?_
      refine lv_iload_n hx hb dX5_word_53 rfl (lv_at hl 0 rfl) ?_
      obtain ⟨q20, eq20, hit⟩ := o_bind hit
      obtain ⟨iq20, eq20⟩ := vc_inv eq20
      refine c_cR X hA.1.1 (fun U hU hW => hA.D X.2.1 X.2.2 h0H hU hW) kc_Reader (wC5_hasWord l γ X.2.1 _ _ _ _ _ eq20) iq20 nm_X5_hasWord q1216 q1218 q146 q1219 qs34 ⟨Nat.le_trans (Nat.le_of_ble_eq_true rfl) hR.1, Nat.le_trans (Nat.le_of_ble_eq_true rfl) hR.2⟩ hA.RR rfl rfl hl.1 (lv_room (Nat.le_of_ble_eq_true rfl)) dX5_word_54 ?_
      refine b_if_ne (tgt := 64) hx hb dX5_word_57 (by decide) hit (fun c21 hit => ?_) (fun c21 hit => ?_)
      · refine lv_iconst (v := 0) hx hb dX5_word_64 (by decide) ?_
        have he := o_in hit
        exact hr10 _ he.symm _ _ _ _ _ hA hl
      · refine lv_iconst (v := 1) hx hb dX5_word_60 (by decide) ?_
        refine lv_goto (tgt := 65) hx hb dX5_word_61 (by decide) ?_
        have he := o_in hit
        exact hr10 _ he.symm _ _ _ _ _ hA hl
  have hit := er4
  refine b_icmp_ge (tgt := 22) hx hb dX5_word_15 (by decide) hit (fun c22 hit => ?_) (fun c22 hit => ?_)
  · refine lv_iconst (v := 0) hx hb dX5_word_22 (by decide) ?_
    have he := o_in hit
    exact hr4 _ he.symm _ _ _ _ _ hA hl
  · refine lv_iconst (v := 1) hx hb dX5_word_18 (by decide) ?_
    refine lv_goto (tgt := 23) hx hb dX5_word_19 (by decide) ?_
    have he := o_in hit
    exact hr4 _ he.symm _ _ _ _ _ hA hl
