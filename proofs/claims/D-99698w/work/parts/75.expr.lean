theorem nm_X5_part : kNm yX5_part RX5 1 := by unfold kNm; decide +kernel
theorem nm_X5_product : kNm yX5_product RX5 1 := by unfold kNm; decide +kernel
theorem nm_X5_sum : kNm yX5_sum RX5 1 := by unfold kNm; decide +kernel
theorem nm_X5_not : kNm yX5_not RX5 1 := by unfold kNm; decide +kernel
theorem nm_X5_and : kNm yX5_and RX5 1 := by unfold kNm; decide +kernel
theorem nm_X5_expression : kNm yX5_expression RX5 1 := by unfold kNm; decide +kernel
noncomputable def C5_partS (S : CH → CR → Nat → Int32 → Option ((Nat × CS) ⊕ XT)) (K : Nat → Nat) (h : CH) (r : CR) (o : Nat) (a0 : Int32) : Option ((Nat × CS) ⊕ XT) :=
  (gI h o 4 8).bind fun v1 =>
  if v1 = 2 then
    ((aCell h r 1 (.inr (7, [.int 0]))).bind fun s22 =>
    xg Sum.inr (vc s22.1 o 4 (xchk s22.2 (C5_number K s22.1 s22.2 o 0 9999))) fun q23 =>
    (C8_init q23.2.1 r.1 q23.1).bind fun q24 =>
    some (.inl (r.1, (q24, q23.2.2))))
  else
    ((vc h o 4 (C5_isSign h o 40)).bind fun q3 =>
    if q3 = 0 then
      ((gI h o 4 8).bind fun v5 =>
      xg Sum.inr ((if v5 = 1 then
          (some (.inl 1))
        else
          (some (.inl 0)) : Option (Int32 ⊕ XT))) fun r6 =>
      xg Sum.inr (vc h o 4 (xchv r (C5_want K h r o r6 1))) fun q7 =>
      (gR q7.1 o 4 6).bind fun v8 =>
      (vc q7.1 o 4 (C5_which K q7.1 o v8)).bind fun q9 =>
      xg Sum.inr ((if q9 = (-1) then
          (some (.inl 0))
        else
          (some (.inl 1)) : Option (Int32 ⊕ XT))) fun r10 =>
      xg Sum.inr (vc q7.1 o 4 (xchv q7.2 (C5_want K q7.1 q7.2 o r10 3))) fun q11 =>
      (vc q11.1 o 4 (C5_next K q11.1 o)).bind fun q12 =>
      (aCell q12 q11.2 1 (.inr (8, [.int 0]))).bind fun s13 =>
      (C9_init s13.1 q11.2.1 q9).bind fun q14 =>
      some (.inl (q11.2.1, (q14, s13.2))))
    else
      ((vc h o 4 (C5_next K h o)).bind fun q17 =>
      xg Sum.inr (vc q17 o 4 (xchk r (S q17 r o (a0 + 1)))) fun q18 =>
      (vc q18.2.1 o 4 (C5_isSign q18.2.1 o 41)).bind fun q19 =>
      xg Sum.inr (vc q18.2.1 o 4 (xchv q18.2.2 (C5_want K q18.2.1 q18.2.2 o q19 1))) fun q20 =>
      (vc q20.1 o 4 (C5_next K q20.1 o)).bind fun q21 =>
      some (.inl (q18.1, (q21, q20.2)))))
set_option maxHeartbeats 4000000 in
set_option maxRecDepth 100000 in
theorem wC5_partS (l : Launch) (hT : l.stackTraces = false) (γ : KG) (hO : kOK γ) (S : CH → CR → Nat → Int32 → Option ((Nat × CS) ⊕ XT)) (f lo : Nat) (hS : ∀ (h : CH) (r : CR) (o : Nat) (a : Int32) (z : (Nat × CS) ⊕ XT), S h r o a = some z → xMet l yX5_expression (ws_ yX5_expression cX5_expression 3 (some (.object "TwinInk$Form"))) f lo γ (h, r) [.ref o, .int a] (xR z)) (h : CH) (r : CR) (o : Nat) (a0 : Int32) (z : (Nat × CS) ⊕ XT) (hz : C5_partS S γ.2.2.2.2.2 h r o a0 = some z) : xMet l yX5_part (ws_ yX5_part cX5_part 3 (some (.object "TwinInk$Form"))) (f + 12) (lo + 300) γ (h, r) [.ref o, .int a0] (xR z) := by
  refine x_start (cc := cX5_part) (own := RX5) hO rfl rfl rfl (fun p e R s m args below meth c Q ls X hR hnm h0H hA hl hend hthr hdir => ?_)
  have hx := X.1.1
  have hb := X.1.2.1
  have hit := hz
  clear hz
  unfold C5_partS at hit
  have hl : lv_has ls 3 [(0, .ref o), (1, .int a0)] := hl
  refine lv_aload_n hx hb dX5_part_0 rfl (lv_at hl 0 rfl) ?_
  obtain ⟨v1, ev1, hit⟩ := o_bind hit
  refine c_getI X hA.1.1 kc_Reader 8 q791 (Or.inl rfl) rfl rfl ev1 dX5_part_1 ?_
  refine lv_iconst (v := 2) hx hb dX5_part_4 (by decide) ?_
  refine b_icmp_ne (tgt := 24) hx hb dX5_part_5 (by decide) hit (fun c2 hit => ?_) (fun c2 hit => ?_)
  · refine lv_aload_n hx hb dX5_part_24 rfl (lv_at hl 0 rfl) ?_
    refine lv_bipush (v := 40) hx hb dX5_part_25 (by decide) ?_
    obtain ⟨q3, eq3, hit⟩ := o_bind hit
    obtain ⟨iq3, eq3⟩ := vc_inv eq3
    refine c_cR X hA.1.1 (fun U hU hW => hA.D X.2.1 X.2.2 h0H hU hW) kc_Reader (wC5_isSign l γ X.2.1 _ _ _ _ eq3) iq3 nm_X5_isSign q993 q995 q146 q996 qs22 ⟨Nat.le_trans (by omega) hR.1, Nat.le_trans (by omega) hR.2⟩ hA.RR rfl rfl hl.1 (lv_room (Nat.le_of_ble_eq_true rfl)) dX5_part_27 ?_
    refine b_if_eq (tgt := 62) hx hb dX5_part_30 (by decide) hit (fun c4 hit => ?_) (fun c4 hit => ?_)
    · refine lv_aload_n hx hb dX5_part_62 rfl (lv_at hl 0 rfl) ?_
      refine lv_aload_n hx hb dX5_part_63 rfl (lv_at hl 0 rfl) ?_
      obtain ⟨v5, ev5, hit⟩ := o_bind hit
      refine c_getI X hA.1.1 kc_Reader 8 q791 (Or.inl rfl) rfl rfl ev5 dX5_part_64 ?_
      refine lv_iconst (v := 1) hx hb dX5_part_67 (by decide) ?_
      obtain ⟨wr6, er6, hxr6⟩ := xg_bind hit
      have hr6 : ∀ (r6 : Int32), wr6 = .inl r6 → ∀ (H : Heap) (locs : List Loc) (cells slots : Nat) (ls : Array Slot), AI γ (h, r) s R h r H locs cells slots → lv_has ls 3 [(0, .ref o)] → W p l e R s m args below meth c H locs cells slots Q (F0 m 76 ls [.int r6, .ref o]) := by
        intro r6 hw_ H locs cells slots ls hA hl
        have hit := xk_l hxr6 hw_
        refine lv_iconst (v := 1) hx hb dX5_part_76 (by decide) ?_
        rcases xg_inv hit with ⟨q7, eq7, hit⟩ | ⟨x_q7, eq7, he⟩
        rotate_left
        · obtain ⟨iq7, eq7⟩ := vc_inv eq7
          obtain ⟨eq7, lq7⟩ := xchv_r eq7
          refine t_cV X h0H hA kc_Reader (xMet.tv (wC5_want l hT γ X.2.1 _ _ _ _ _ _ eq7)) lq7 iq7 nm_X5_want q953 q955 q146 q956 qs18 ⟨Nat.le_trans (by omega) hR.1, Nat.le_trans (by omega) hR.2⟩ rfl rfl hl.1 (lv_room (Nat.le_of_ble_eq_true rfl)) dX5_part_77 (fun H locs cells slots q_ hA hq => ?_)
          exact hthr _ _ _ _ _ _ _ _ _ (by subst he; rfl) hA hq
        obtain ⟨iq7, eq7⟩ := vc_inv eq7
        obtain ⟨eq7, lq7⟩ := xchv_l eq7
        refine a_cV X h0H hA kc_Reader (xMet.v (wC5_want l hT γ X.2.1 _ _ _ _ _ _ eq7)) lq7 iq7 nm_X5_want q953 q955 q146 q956 qs18 ⟨Nat.le_trans (by omega) hR.1, Nat.le_trans (by omega) hR.2⟩ rfl rfl hl.1 (lv_room (Nat.le_of_ble_eq_true rfl)) dX5_part_77 (fun H locs cells slots hA => ?_)
        refine lv_aload_n hx hb dX5_part_80 rfl (lv_at hl 0 rfl) ?_
        refine lv_aload_n hx hb dX5_part_81 rfl (lv_at hl 0 rfl) ?_
        obtain ⟨v8, ev8, hit⟩ := o_bind hit
        refine c_getR X hA.1.1 kc_Reader 6 q789 (Or.inl rfl) rfl rfl ev8 dX5_part_82 ?_
        obtain ⟨q9, eq9, hit⟩ := o_bind hit
        obtain ⟨iq9, eq9⟩ := vc_inv eq9
        refine c_cR X hA.1.1 (fun U hU hW => hA.D X.2.1 X.2.2 h0H hU hW) kc_Reader (wC5_which l γ X.2.1 _ _ _ _ eq9) iq9 nm_X5_which q924 q926 q146 q927 qs15 ⟨Nat.le_trans (by omega) hR.1, Nat.le_trans (by omega) hR.2⟩ hA.RR rfl rfl hl.1 (lv_room (Nat.le_of_ble_eq_true rfl)) dX5_part_85 ?_
        refine lv_istore_n (lv' := [(2, .int q9), (0, .ref o)]) hx hb dX5_part_88 rfl hl (by decide) rfl (fun ls hl => ?_)
        refine lv_aload_n hx hb dX5_part_89 rfl (lv_at hl 1 rfl) ?_
        refine lv_iload_n hx hb dX5_part_90 rfl (lv_at hl 0 rfl) ?_
        refine lv_iconst (v := (-1)) hx hb dX5_part_91 (by decide) ?_
        obtain ⟨wr10, er10, hxr10⟩ := xg_bind hit
        have hr10 : ∀ (r10 : Int32), wr10 = .inl r10 → ∀ (H : Heap) (locs : List Loc) (cells slots : Nat) (ls : Array Slot), AI γ (h, r) s R q7.1 q7.2 H locs cells slots → lv_has ls 3 [(2, .int q9), (0, .ref o)] → W p l e R s m args below meth c H locs cells slots Q (F0 m 100 ls [.int r10, .ref o]) := by
          intro r10 hw_ H locs cells slots ls hA hl
          have hit := xk_l hxr10 hw_
          refine lv_iconst (v := 3) hx hb dX5_part_100 (by decide) ?_
          rcases xg_inv hit with ⟨q11, eq11, hit⟩ | ⟨x_q11, eq11, he⟩
          rotate_left
          · obtain ⟨iq11, eq11⟩ := vc_inv eq11
            obtain ⟨eq11, lq11⟩ := xchv_r eq11
            refine t_cV X h0H hA kc_Reader (xMet.tv (wC5_want l hT γ X.2.1 _ _ _ _ _ _ eq11)) lq11 iq11 nm_X5_want q953 q955 q146 q956 qs18 ⟨Nat.le_trans (by omega) hR.1, Nat.le_trans (by omega) hR.2⟩ rfl rfl hl.1 (lv_room (Nat.le_of_ble_eq_true rfl)) dX5_part_101 (fun H locs cells slots q_ hA hq => ?_)
            exact hthr _ _ _ _ _ _ _ _ _ (by subst he; rfl) hA hq
          obtain ⟨iq11, eq11⟩ := vc_inv eq11
          obtain ⟨eq11, lq11⟩ := xchv_l eq11
          refine a_cV X h0H hA kc_Reader (xMet.v (wC5_want l hT γ X.2.1 _ _ _ _ _ _ eq11)) lq11 iq11 nm_X5_want q953 q955 q146 q956 qs18 ⟨Nat.le_trans (by omega) hR.1, Nat.le_trans (by omega) hR.2⟩ rfl rfl hl.1 (lv_room (Nat.le_of_ble_eq_true rfl)) dX5_part_101 (fun H locs cells slots hA => ?_)
          refine lv_aload_n hx hb dX5_part_104 rfl (lv_at hl 1 rfl) ?_
          obtain ⟨q12, eq12, hit⟩ := o_bind hit
          obtain ⟨iq12, eq12⟩ := vc_inv eq12
          refine c_cN X (kA_F X.2.1 X.2.2 h0H) hA.1 kc_Reader (wC5_next l γ X.2.1 _ _  _ eq12) iq12 nm_X5_next q831 q833 q146 q834 qs10 ⟨Nat.le_trans (by omega) hR.1, Nat.le_trans (by omega) hR.2⟩ hA.RR rfl rfl hl.1 (lv_room (Nat.le_of_ble_eq_true rfl)) dX5_part_105 (fun H locs hI => ?_)
          replace hA := hA.up hI
          clear hI
          obtain ⟨s13, es13, hit⟩ := o_bind hit
          refine a_new X hA kc_Value q1030 q1031 q156 (fs := [.int 0]) (by decide +kernel) es13 dX5_part_108 (fun H cells slots hA => ?_)
          refine lv_dup hx hb dX5_part_111 rfl ?_
          refine lv_iload_n hx hb dX5_part_112 rfl (lv_at hl 0 rfl) ?_
          obtain ⟨q14, eq14, hit⟩ := o_bind hit
          refine c_cNI X (kA_F X.2.1 X.2.2 h0H) hA.1 nm_X9_init q1032 q1033 q156 q1034 rfl (wC9_init l γ X.2.1 _ _ _ _ eq14) hA.RR ⟨Nat.le_trans (by omega) hR.1, Nat.le_trans (by omega) hR.2⟩ rfl rfl hl.1 (lv_room (Nat.le_of_ble_eq_true rfl)) dX5_part_113 (fun H locs hI => ?_)
          replace hA := hA.up hI
          clear hI
          have he := o_in hit
          exact hend (some (.ref q11.2.1)) (q14, s13.2) _ _ _ _ _ _ _ _ (kOut_o) (by subst he; rfl) hA dX5_part_116
        have hit := er10
        refine b_icmp_eq (tgt := 99) hx hb dX5_part_92 (by decide) hit (fun c15 hit => ?_) (fun c15 hit => ?_)
        · refine lv_iconst (v := 0) hx hb dX5_part_99 (by decide) ?_
          have he := o_in hit
          exact hr10 _ he.symm _ _ _ _ _ hA hl
        · refine lv_iconst (v := 1) hx hb dX5_part_95 (by decide) ?_
          refine lv_goto (tgt := 100) hx hb dX5_part_96 (by decide) ?_
          have he := o_in hit
          exact hr10 _ he.symm _ _ _ _ _ hA hl
      have hit := er6
      refine b_icmp_ne (tgt := 75) hx hb dX5_part_68 (by decide) hit (fun c16 hit => ?_) (fun c16 hit => ?_)
      · refine lv_iconst (v := 0) hx hb dX5_part_75 (by decide) ?_
        have he := o_in hit
        exact hr6 _ he.symm _ _ _ _ _ hA (lv_sub hl [0] rfl)
      · refine lv_iconst (v := 1) hx hb dX5_part_71 (by decide) ?_
        refine lv_goto (tgt := 76) hx hb dX5_part_72 (by decide) ?_
        have he := o_in hit
        exact hr6 _ he.symm _ _ _ _ _ hA (lv_sub hl [0] rfl)
    · refine lv_aload_n hx hb dX5_part_33 rfl (lv_at hl 0 rfl) ?_
      obtain ⟨q17, eq17, hit⟩ := o_bind hit
      obtain ⟨iq17, eq17⟩ := vc_inv eq17
      refine c_cN X (kA_F X.2.1 X.2.2 h0H) hA.1 kc_Reader (wC5_next l γ X.2.1 _ _  _ eq17) iq17 nm_X5_next q831 q833 q146 q834 qs10 ⟨Nat.le_trans (by omega) hR.1, Nat.le_trans (by omega) hR.2⟩ hA.RR rfl rfl hl.1 (lv_room (Nat.le_of_ble_eq_true rfl)) dX5_part_34 (fun H locs hI => ?_)
      replace hA := hA.up hI
      clear hI
      refine lv_aload_n hx hb dX5_part_37 rfl (lv_at hl 0 rfl) ?_
      refine lv_iload_n hx hb dX5_part_38 rfl (lv_at hl 1 rfl) ?_
      refine lv_iconst (v := 1) hx hb dX5_part_39 (by decide) ?_
      refine lv_iadd hx hb dX5_part_40 ?_
      rcases xg_inv hit with ⟨q18, eq18, hit⟩ | ⟨x_q18, eq18, he⟩
      rotate_left
      · obtain ⟨iq18, eq18⟩ := vc_inv eq18
        obtain ⟨eq18, lq18⟩ := xchk_r eq18
        refine t_cV X h0H hA kc_Reader (xMet.tr (hS _ _ _ _ _ eq18)) lq18 iq18 nm_X5_expression q989 q991 q146 q992 qs21 ⟨Nat.le_trans (by omega) hR.1, Nat.le_trans (by omega) hR.2⟩ rfl rfl hl.1 (lv_room (Nat.le_of_ble_eq_true rfl)) dX5_part_41 (fun H locs cells slots q_ hA hq => ?_)
        exact hthr _ _ _ _ _ _ _ _ _ (by subst he; rfl) hA hq
      obtain ⟨iq18, eq18⟩ := vc_inv eq18
      obtain ⟨eq18, lq18⟩ := xchk_l eq18
      refine a_cV X h0H hA kc_Reader (xMet.r (hS _ _ _ _ _ eq18)) lq18 iq18 nm_X5_expression q989 q991 q146 q992 qs21 ⟨Nat.le_trans (by omega) hR.1, Nat.le_trans (by omega) hR.2⟩ rfl rfl hl.1 (lv_room (Nat.le_of_ble_eq_true rfl)) dX5_part_41 (fun H locs cells slots hA => ?_)
      refine lv_astore_n (lv' := [(2, .ref q18.1), (0, .ref o), (1, .int a0)]) hx hb dX5_part_44 rfl hl (by decide) rfl (fun ls hl => ?_)
      refine lv_aload_n hx hb dX5_part_45 rfl (lv_at hl 1 rfl) ?_
      refine lv_aload_n hx hb dX5_part_46 rfl (lv_at hl 1 rfl) ?_
      refine lv_bipush (v := 41) hx hb dX5_part_47 (by decide) ?_
      obtain ⟨q19, eq19, hit⟩ := o_bind hit
      obtain ⟨iq19, eq19⟩ := vc_inv eq19
      refine c_cR X hA.1.1 (fun U hU hW => hA.D X.2.1 X.2.2 h0H hU hW) kc_Reader (wC5_isSign l γ X.2.1 _ _ _ _ eq19) iq19 nm_X5_isSign q993 q995 q146 q996 qs22 ⟨Nat.le_trans (by omega) hR.1, Nat.le_trans (by omega) hR.2⟩ hA.RR rfl rfl hl.1 (lv_room (Nat.le_of_ble_eq_true rfl)) dX5_part_49 ?_
      refine lv_iconst (v := 1) hx hb dX5_part_52 (by decide) ?_
      rcases xg_inv hit with ⟨q20, eq20, hit⟩ | ⟨x_q20, eq20, he⟩
      rotate_left
      · obtain ⟨iq20, eq20⟩ := vc_inv eq20
        obtain ⟨eq20, lq20⟩ := xchv_r eq20
        refine t_cV X h0H hA kc_Reader (xMet.tv (wC5_want l hT γ X.2.1 _ _ _ _ _ _ eq20)) lq20 iq20 nm_X5_want q953 q955 q146 q956 qs18 ⟨Nat.le_trans (by omega) hR.1, Nat.le_trans (by omega) hR.2⟩ rfl rfl hl.1 (lv_room (Nat.le_of_ble_eq_true rfl)) dX5_part_53 (fun H locs cells slots q_ hA hq => ?_)
        exact hthr _ _ _ _ _ _ _ _ _ (by subst he; rfl) hA hq
      obtain ⟨iq20, eq20⟩ := vc_inv eq20
      obtain ⟨eq20, lq20⟩ := xchv_l eq20
      refine a_cV X h0H hA kc_Reader (xMet.v (wC5_want l hT γ X.2.1 _ _ _ _ _ _ eq20)) lq20 iq20 nm_X5_want q953 q955 q146 q956 qs18 ⟨Nat.le_trans (by omega) hR.1, Nat.le_trans (by omega) hR.2⟩ rfl rfl hl.1 (lv_room (Nat.le_of_ble_eq_true rfl)) dX5_part_53 (fun H locs cells slots hA => ?_)
      refine lv_aload_n hx hb dX5_part_56 rfl (lv_at hl 1 rfl) ?_
      obtain ⟨q21, eq21, hit⟩ := o_bind hit
      obtain ⟨iq21, eq21⟩ := vc_inv eq21
      refine c_cN X (kA_F X.2.1 X.2.2 h0H) hA.1 kc_Reader (wC5_next l γ X.2.1 _ _  _ eq21) iq21 nm_X5_next q831 q833 q146 q834 qs10 ⟨Nat.le_trans (by omega) hR.1, Nat.le_trans (by omega) hR.2⟩ hA.RR rfl rfl hl.1 (lv_room (Nat.le_of_ble_eq_true rfl)) dX5_part_57 (fun H locs hI => ?_)
      replace hA := hA.up hI
      clear hI
      refine lv_aload_n hx hb dX5_part_60 rfl (lv_at hl 0 rfl) ?_
      have he := o_in hit
      exact hend (some (.ref q18.1)) (q21, q20.2) _ _ _ _ _ _ _ _ (kOut_o) (by subst he; rfl) hA dX5_part_61
  · obtain ⟨s22, es22, hit⟩ := o_bind hit
    refine a_new X hA kc_Number q1020 q1021 q155 (fs := [.int 0]) (by decide +kernel) es22 dX5_part_8 (fun H cells slots hA => ?_)
    refine lv_dup hx hb dX5_part_11 rfl ?_
    refine lv_aload_n hx hb dX5_part_12 rfl (lv_at hl 0 rfl) ?_
    refine lv_iconst (v := 0) hx hb dX5_part_13 (by decide) ?_
    refine lv_sipush (v := 9999) hx hb dX5_part_14 (by decide) ?_
    rcases xg_inv hit with ⟨q23, eq23, hit⟩ | ⟨x_q23, eq23, he⟩
    rotate_left
    · obtain ⟨iq23, eq23⟩ := vc_inv eq23
      obtain ⟨eq23, lq23⟩ := xchk_r eq23
      refine t_cV X h0H hA kc_Reader (xMet.ti (wC5_number l hT γ X.2.1 _ _ _ _ _ _ eq23)) lq23 iq23 nm_X5_number q981 q983 q146 q984 qs19 ⟨Nat.le_trans (by omega) hR.1, Nat.le_trans (by omega) hR.2⟩ rfl rfl hl.1 (lv_room (Nat.le_of_ble_eq_true rfl)) dX5_part_17 (fun H locs cells slots q_ hA hq => ?_)
      exact hthr _ _ _ _ _ _ _ _ _ (by subst he; rfl) hA hq
    obtain ⟨iq23, eq23⟩ := vc_inv eq23
    obtain ⟨eq23, lq23⟩ := xchk_l eq23
    refine a_cV X h0H hA kc_Reader (xMet.i (wC5_number l hT γ X.2.1 _ _ _ _ _ _ eq23)) lq23 iq23 nm_X5_number q981 q983 q146 q984 qs19 ⟨Nat.le_trans (by omega) hR.1, Nat.le_trans (by omega) hR.2⟩ rfl rfl hl.1 (lv_room (Nat.le_of_ble_eq_true rfl)) dX5_part_17 (fun H locs cells slots hA => ?_)
    obtain ⟨q24, eq24, hit⟩ := o_bind hit
    refine c_cNI X (kA_F X.2.1 X.2.2 h0H) hA.1 nm_X8_init q1022 q1023 q155 q1024 rfl (wC8_init l γ X.2.1 _ _ _ _ eq24) hA.RR ⟨Nat.le_trans (by omega) hR.1, Nat.le_trans (by omega) hR.2⟩ rfl rfl hl.1 (lv_room (Nat.le_of_ble_eq_true rfl)) dX5_part_20 (fun H locs hI => ?_)
    replace hA := hA.up hI
    clear hI
    have he := o_in hit
    exact hend (some (.ref r.1)) (q24, q23.2.2) _ _ _ _ _ _ _ _ (kOut_o) (by subst he; rfl) hA dX5_part_23
noncomputable def C5_productS_J31 (S : CH → CR → Nat → Int32 → Option ((Nat × CS) ⊕ XT)) (K : Nat → Nat) (r : CR) (o : Nat) (a0 : Int32) (t4 : CS) : Option (CS ⊕ (CS ⊕ XT)) :=
  (vc t4.1 o 4 (C5_sign K t4.1 o)).bind fun q9 =>
  xg (fun e_ => .inr (.inr e_)) (vc q9.2 o 4 (xchk t4.2 (C5_partS S K q9.2 t4.2 o a0))) fun q10 =>
  (vc q10.2.1 r.1 6 (achv q10.2.2 (C7_add K q10.2.1 q10.2.2 r.1 q9.1 q10.1))).bind fun q11 =>
  some (.inl q11)
noncomputable def C5_productS_L13 (S : CH → CR → Nat → Int32 → Option ((Nat × CS) ⊕ XT)) (K : Nat → Nat) (r : CR) (o : Nat) (a0 : Int32) (t4 : CS) : Option (CS ⊕ (CS ⊕ XT)) :=
  (vc t4.1 o 4 (C5_isSign t4.1 o 42)).bind fun q8 =>
  if q8 = 0 then
    ((vc t4.1 o 4 (C5_isSign t4.1 o 47)).bind fun q13 =>
    if q13 = 0 then
      (some (.inr (.inl t4)))
    else
      (C5_productS_J31 S K r o a0 t4))
  else
    (C5_productS_J31 S K r o a0 t4)
noncomputable def C5_productS (S : CH → CR → Nat → Int32 → Option ((Nat × CS) ⊕ XT)) (K : Nat → Nat) (h : CH) (r : CR) (o : Nat) (a0 : Int32) : Option ((Nat × CS) ⊕ XT) :=
  (aCell h r 2 (.inr (6, [.null, .null]))).bind fun s1 =>
  xg Sum.inr (vc s1.1 o 4 (xchk s1.2 (C5_partS S K s1.1 s1.2 o a0))) fun q2 =>
  (achv q2.2.2 (C7_init K q2.2.1 q2.2.2 r.1 q2.1)).bind fun q3 =>
  xg Sum.inr (o_loop (C5_productS_L13 S K r o a0) q3) fun r6 =>
  (vc r6.1 r.1 6 (C7_plain r6.1 r.1)).bind fun q7 =>
  some (.inl (q7, r6))
set_option maxHeartbeats 4000000 in
set_option maxRecDepth 100000 in
theorem wC5_productS (l : Launch) (hT : l.stackTraces = false) (γ : KG) (hO : kOK γ) (S : CH → CR → Nat → Int32 → Option ((Nat × CS) ⊕ XT)) (f lo : Nat) (hS : ∀ (h : CH) (r : CR) (o : Nat) (a : Int32) (z : (Nat × CS) ⊕ XT), S h r o a = some z → xMet l yX5_expression (ws_ yX5_expression cX5_expression 3 (some (.object "TwinInk$Form"))) f lo γ (h, r) [.ref o, .int a] (xR z)) (h : CH) (r : CR) (o : Nat) (a0 : Int32) (z : (Nat × CS) ⊕ XT) (hz : C5_productS S γ.2.2.2.2.2 h r o a0 = some z) : xMet l yX5_product (ws_ yX5_product cX5_product 4 (some (.object "TwinInk$Form"))) (f + 13) (lo + 350) γ (h, r) [.ref o, .int a0] (xR z) := by
  refine x_start (cc := cX5_product) (own := RX5) hO rfl rfl rfl (fun p e R s m args below meth c Q ls X hR hnm h0H hA hl hend hthr hdir => ?_)
  have hx := X.1.1
  have hb := X.1.2.1
  have hit := hz
  clear hz
  unfold C5_productS at hit
  have hl : lv_has ls 4 [(0, .ref o), (1, .int a0)] := hl
  obtain ⟨s1, es1, hit⟩ := o_bind hit
  refine a_new X hA kc_Chain q997 q998 q154 (fs := [.null, .null]) (by decide +kernel) es1 dX5_product_0 (fun H cells slots hA => ?_)
  refine lv_dup hx hb dX5_product_3 rfl ?_
  refine lv_aload_n hx hb dX5_product_4 rfl (lv_at hl 0 rfl) ?_
  refine lv_iload_n hx hb dX5_product_5 rfl (lv_at hl 1 rfl) ?_
  rcases xg_inv hit with ⟨q2, eq2, hit⟩ | ⟨x_q2, eq2, he⟩
  rotate_left
  · obtain ⟨iq2, eq2⟩ := vc_inv eq2
    obtain ⟨eq2, lq2⟩ := xchk_r eq2
    refine t_cV X h0H hA kc_Reader (xMet.tr (wC5_partS l hT γ X.2.1 S f lo hS _ _ _ _ _ eq2)) lq2 iq2 nm_X5_part q1016 q1018 q146 q1019 qs27 ⟨Nat.le_trans (by omega) hR.1, Nat.le_trans (by omega) hR.2⟩ rfl rfl hl.1 (lv_room (Nat.le_of_ble_eq_true rfl)) dX5_product_6 (fun H locs cells slots q_ hA hq => ?_)
    exact hthr _ _ _ _ _ _ _ _ _ (by subst he; rfl) hA hq
  obtain ⟨iq2, eq2⟩ := vc_inv eq2
  obtain ⟨eq2, lq2⟩ := xchk_l eq2
  refine a_cV X h0H hA kc_Reader (xMet.r (wC5_partS l hT γ X.2.1 S f lo hS _ _ _ _ _ eq2)) lq2 iq2 nm_X5_part q1016 q1018 q146 q1019 qs27 ⟨Nat.le_trans (by omega) hR.1, Nat.le_trans (by omega) hR.2⟩ rfl rfl hl.1 (lv_room (Nat.le_of_ble_eq_true rfl)) dX5_product_6 (fun H locs cells slots hA => ?_)
  obtain ⟨q3, eq3, hit⟩ := o_bind hit
  obtain ⟨eq3, lq3⟩ := achv_inv eq3
  refine a_cI X h0H hA nm_X7_init q1040 q1041 q154 q1042 rfl (wC7_init l γ X.2.1 _ _ _ _ _ eq3) lq3 ⟨Nat.le_trans (by omega) hR.1, Nat.le_trans (by omega) hR.2⟩ rfl rfl hl.1 (lv_room (Nat.le_of_ble_eq_true rfl)) dX5_product_9 (fun H locs cells slots hA => ?_)
  refine lv_astore_n (lv' := [(2, .ref r.1), (0, .ref o), (1, .int a0)]) hx hb dX5_product_12 rfl hl (by decide) rfl (fun ls hl => ?_)
  obtain ⟨wr6, er6, hxr6⟩ := xg_bind hit
  have hr6 : ∀ (r6 : CS), wr6 = .inl r6 → ∀ (H : Heap) (locs : List Loc) (cells slots : Nat) (ls : Array Slot), AI γ (h, r) s R r6.1 r6.2 H locs cells slots → lv_has ls 4 [(2, .ref r.1)] → W p l e R s m args below meth c H locs cells slots Q (F0 m 49 ls []) := by
    intro r6 hw_ H locs cells slots ls hA hl
    have hit := xk_l hxr6 hw_
    refine lv_aload_n hx hb dX5_product_49 rfl (lv_at hl 0 rfl) ?_
    obtain ⟨q7, eq7, hit⟩ := o_bind hit
    obtain ⟨iq7, eq7⟩ := vc_inv eq7
    refine c_cR X hA.1.1 (fun U hU hW => hA.D X.2.1 X.2.2 h0H hU hW) kc_Chain (wC7_plain l γ X.2.1 _ _  _ eq7) iq7 nm_X7_plain q1151 q1152 q154 q1154 q1153 ⟨Nat.le_trans (by omega) hR.1, Nat.le_trans (by omega) hR.2⟩ hA.RR rfl rfl hl.1 (lv_room (Nat.le_of_ble_eq_true rfl)) dX5_product_50 ?_
    have he := o_in hit
    exact hend (some (.ref q7)) r6 _ _ _ _ _ _ _ _ (kOut_o) (by subst he; rfl) hA dX5_product_53
  refine o_rec (P := fun t4 => ∀ (H : Heap) (locs : List Loc) (cells slots : Nat) (ls : Array Slot), AI γ (h, r) s R t4.1 t4.2 H locs cells slots → lv_has ls 4 [(2, .ref r.1), (0, .ref o), (1, .int a0)] → W p l e R s m args below meth c H locs cells slots Q (F0 m 13 ls [])) (fun t4 x5 hit hC4 hE4 H locs cells slots ls hA hl => ?_) _ er6 _ _ _ _ _ hA hl
  unfold C5_productS_L13 at hit
  refine lv_aload_n hx hb dX5_product_13 rfl (lv_at hl 1 rfl) ?_
  refine lv_bipush (v := 42) hx hb dX5_product_14 (by decide) ?_
  obtain ⟨q8, eq8, hit⟩ := o_bind hit
  obtain ⟨iq8, eq8⟩ := vc_inv eq8
  refine c_cR X hA.1.1 (fun U hU hW => hA.D X.2.1 X.2.2 h0H hU hW) kc_Reader (wC5_isSign l γ X.2.1 _ _ _ _ eq8) iq8 nm_X5_isSign q993 q995 q146 q996 qs22 ⟨Nat.le_trans (by omega) hR.1, Nat.le_trans (by omega) hR.2⟩ hA.RR rfl rfl hl.1 (lv_room (Nat.le_of_ble_eq_true rfl)) dX5_product_16 ?_
  have hK31 : C5_productS_J31 S γ.2.2.2.2.2 r o a0 t4 = some x5 → ∀ (H : Heap) (locs : List Loc) (cells slots : Nat) (ls : Array Slot), AI γ (h, r) s R t4.1 t4.2 H locs cells slots → lv_has ls 4 [(2, .ref r.1), (0, .ref o), (1, .int a0)] → W p l e R s m args below meth c H locs cells slots Q (F0 m 31 ls []) := by
    intro  hit H locs cells slots ls hA hl
    unfold C5_productS_J31 at hit
    refine lv_aload_n hx hb dX5_product_31 rfl (lv_at hl 1 rfl) ?_
    obtain ⟨q9, eq9, hit⟩ := o_bind hit
    obtain ⟨iq9, eq9⟩ := vc_inv eq9
    refine c_cN X (kA_F X.2.1 X.2.2 h0H) hA.1 kc_Reader (wC5_sign l γ X.2.1 _ _  _ eq9) iq9 nm_X5_sign q1083 q1085 q146 q1086 qs28 ⟨Nat.le_trans (by omega) hR.1, Nat.le_trans (by omega) hR.2⟩ hA.RR rfl rfl hl.1 (lv_room (Nat.le_of_ble_eq_true rfl)) dX5_product_32 (fun H locs hI => ?_)
    replace hA := hA.up hI
    clear hI
    refine lv_istore_n (lv' := [(3, .int q9.1), (2, .ref r.1), (0, .ref o), (1, .int a0)]) hx hb dX5_product_35 rfl hl (by decide) rfl (fun ls hl => ?_)
    refine lv_aload_n hx hb dX5_product_36 rfl (lv_at hl 1 rfl) ?_
    refine lv_iload_n hx hb dX5_product_37 rfl (lv_at hl 0 rfl) ?_
    refine lv_aload_n hx hb dX5_product_38 rfl (lv_at hl 2 rfl) ?_
    refine lv_iload_n hx hb dX5_product_39 rfl (lv_at hl 3 rfl) ?_
    rcases xg_inv hit with ⟨q10, eq10, hit⟩ | ⟨x_q10, eq10, he⟩
    rotate_left
    · obtain ⟨iq10, eq10⟩ := vc_inv eq10
      obtain ⟨eq10, lq10⟩ := xchk_r eq10
      refine t_cV X h0H hA kc_Reader (xMet.tr (wC5_partS l hT γ X.2.1 S f lo hS _ _ _ _ _ eq10)) lq10 iq10 nm_X5_part q1016 q1018 q146 q1019 qs27 ⟨Nat.le_trans (by omega) hR.1, Nat.le_trans (by omega) hR.2⟩ rfl rfl hl.1 (lv_room (Nat.le_of_ble_eq_true rfl)) dX5_product_40 (fun H locs cells slots q_ hA hq => ?_)
      have he := hE4 _ he
      have he := xk_r hxr6 he
      exact hthr _ _ _ _ _ _ _ _ _ (by subst he; rfl) hA hq
    obtain ⟨iq10, eq10⟩ := vc_inv eq10
    obtain ⟨eq10, lq10⟩ := xchk_l eq10
    refine a_cV X h0H hA kc_Reader (xMet.r (wC5_partS l hT γ X.2.1 S f lo hS _ _ _ _ _ eq10)) lq10 iq10 nm_X5_part q1016 q1018 q146 q1019 qs27 ⟨Nat.le_trans (by omega) hR.1, Nat.le_trans (by omega) hR.2⟩ rfl rfl hl.1 (lv_room (Nat.le_of_ble_eq_true rfl)) dX5_product_40 (fun H locs cells slots hA => ?_)
    obtain ⟨q11, eq11, hit⟩ := o_bind hit
    obtain ⟨iq11, eq11⟩ := vc_inv eq11
    obtain ⟨eq11, lq11⟩ := achv_inv eq11
    refine a_cV X h0H hA kc_Chain (wC7_add l γ X.2.1 _ _ _ _ _ _ eq11) lq11 iq11 nm_X7_add q1087 q1088 q154 q1090 q1089 ⟨Nat.le_trans (by omega) hR.1, Nat.le_trans (by omega) hR.2⟩ rfl rfl hl.1 (lv_room (Nat.le_of_ble_eq_true rfl)) dX5_product_43 (fun H locs cells slots hA => ?_)
    refine lv_goto (tgt := 13) hx hb dX5_product_46 (by decide) ?_
    have he := o_in hit
    exact hC4 _ he _ _ _ _ _ hA (lv_sub hl [1, 2, 3] rfl)
  refine b_if_ne (tgt := 31) hx hb dX5_product_19 (by decide) hit (fun c12 hit => ?_) (fun c12 hit => ?_)
  · exact hK31  hit _ _ _ _ _ hA hl
  · refine lv_aload_n hx hb dX5_product_22 rfl (lv_at hl 1 rfl) ?_
    refine lv_bipush (v := 47) hx hb dX5_product_23 (by decide) ?_
    obtain ⟨q13, eq13, hit⟩ := o_bind hit
    obtain ⟨iq13, eq13⟩ := vc_inv eq13
    refine c_cR X hA.1.1 (fun U hU hW => hA.D X.2.1 X.2.2 h0H hU hW) kc_Reader (wC5_isSign l γ X.2.1 _ _ _ _ eq13) iq13 nm_X5_isSign q993 q995 q146 q996 qs22 ⟨Nat.le_trans (by omega) hR.1, Nat.le_trans (by omega) hR.2⟩ hA.RR rfl rfl hl.1 (lv_room (Nat.le_of_ble_eq_true rfl)) dX5_product_25 ?_
    refine b_if_eq (tgt := 49) hx hb dX5_product_28 (by decide) hit (fun c14 hit => ?_) (fun c14 hit => ?_)
    · have he := o_in hit
      have he := hE4 _ he
      exact hr6 _ he.symm _ _ _ _ _ hA (lv_sub hl [0] rfl)
    · exact hK31  hit _ _ _ _ _ hA hl
noncomputable def C5_sumS_J31 (S : CH → CR → Nat → Int32 → Option ((Nat × CS) ⊕ XT)) (K : Nat → Nat) (r : CR) (o : Nat) (a0 : Int32) (t4 : CS) : Option (CS ⊕ (CS ⊕ XT)) :=
  (vc t4.1 o 4 (C5_sign K t4.1 o)).bind fun q9 =>
  xg (fun e_ => .inr (.inr e_)) (vc q9.2 o 4 (xchk t4.2 (C5_productS S K q9.2 t4.2 o a0))) fun q10 =>
  (vc q10.2.1 r.1 6 (achv q10.2.2 (C7_add K q10.2.1 q10.2.2 r.1 q9.1 q10.1))).bind fun q11 =>
  some (.inl q11)
noncomputable def C5_sumS_L13 (S : CH → CR → Nat → Int32 → Option ((Nat × CS) ⊕ XT)) (K : Nat → Nat) (r : CR) (o : Nat) (a0 : Int32) (t4 : CS) : Option (CS ⊕ (CS ⊕ XT)) :=
  (vc t4.1 o 4 (C5_isSign t4.1 o 43)).bind fun q8 =>
  if q8 = 0 then
    ((vc t4.1 o 4 (C5_isSign t4.1 o 45)).bind fun q13 =>
    if q13 = 0 then
      (some (.inr (.inl t4)))
    else
      (C5_sumS_J31 S K r o a0 t4))
  else
    (C5_sumS_J31 S K r o a0 t4)
noncomputable def C5_sumS (S : CH → CR → Nat → Int32 → Option ((Nat × CS) ⊕ XT)) (K : Nat → Nat) (h : CH) (r : CR) (o : Nat) (a0 : Int32) : Option ((Nat × CS) ⊕ XT) :=
  (aCell h r 2 (.inr (6, [.null, .null]))).bind fun s1 =>
  xg Sum.inr (vc s1.1 o 4 (xchk s1.2 (C5_productS S K s1.1 s1.2 o a0))) fun q2 =>
  (achv q2.2.2 (C7_init K q2.2.1 q2.2.2 r.1 q2.1)).bind fun q3 =>
  xg Sum.inr (o_loop (C5_sumS_L13 S K r o a0) q3) fun r6 =>
  (vc r6.1 r.1 6 (C7_plain r6.1 r.1)).bind fun q7 =>
  some (.inl (q7, r6))
set_option maxHeartbeats 4000000 in
set_option maxRecDepth 100000 in
theorem wC5_sumS (l : Launch) (hT : l.stackTraces = false) (γ : KG) (hO : kOK γ) (S : CH → CR → Nat → Int32 → Option ((Nat × CS) ⊕ XT)) (f lo : Nat) (hS : ∀ (h : CH) (r : CR) (o : Nat) (a : Int32) (z : (Nat × CS) ⊕ XT), S h r o a = some z → xMet l yX5_expression (ws_ yX5_expression cX5_expression 3 (some (.object "TwinInk$Form"))) f lo γ (h, r) [.ref o, .int a] (xR z)) (h : CH) (r : CR) (o : Nat) (a0 : Int32) (z : (Nat × CS) ⊕ XT) (hz : C5_sumS S γ.2.2.2.2.2 h r o a0 = some z) : xMet l yX5_sum (ws_ yX5_sum cX5_sum 4 (some (.object "TwinInk$Form"))) (f + 14) (lo + 400) γ (h, r) [.ref o, .int a0] (xR z) := by
  refine x_start (cc := cX5_sum) (own := RX5) hO rfl rfl rfl (fun p e R s m args below meth c Q ls X hR hnm h0H hA hl hend hthr hdir => ?_)
  have hx := X.1.1
  have hb := X.1.2.1
  have hit := hz
  clear hz
  unfold C5_sumS at hit
  have hl : lv_has ls 4 [(0, .ref o), (1, .int a0)] := hl
  obtain ⟨s1, es1, hit⟩ := o_bind hit
  refine a_new X hA kc_Chain q997 q998 q154 (fs := [.null, .null]) (by decide +kernel) es1 dX5_sum_0 (fun H cells slots hA => ?_)
  refine lv_dup hx hb dX5_sum_3 rfl ?_
  refine lv_aload_n hx hb dX5_sum_4 rfl (lv_at hl 0 rfl) ?_
  refine lv_iload_n hx hb dX5_sum_5 rfl (lv_at hl 1 rfl) ?_
  rcases xg_inv hit with ⟨q2, eq2, hit⟩ | ⟨x_q2, eq2, he⟩
  rotate_left
  · obtain ⟨iq2, eq2⟩ := vc_inv eq2
    obtain ⟨eq2, lq2⟩ := xchk_r eq2
    refine t_cV X h0H hA kc_Reader (xMet.tr (wC5_productS l hT γ X.2.1 S f lo hS _ _ _ _ _ eq2)) lq2 iq2 nm_X5_product q1012 q1014 q146 q1015 qs26 ⟨Nat.le_trans (by omega) hR.1, Nat.le_trans (by omega) hR.2⟩ rfl rfl hl.1 (lv_room (Nat.le_of_ble_eq_true rfl)) dX5_sum_6 (fun H locs cells slots q_ hA hq => ?_)
    exact hthr _ _ _ _ _ _ _ _ _ (by subst he; rfl) hA hq
  obtain ⟨iq2, eq2⟩ := vc_inv eq2
  obtain ⟨eq2, lq2⟩ := xchk_l eq2
  refine a_cV X h0H hA kc_Reader (xMet.r (wC5_productS l hT γ X.2.1 S f lo hS _ _ _ _ _ eq2)) lq2 iq2 nm_X5_product q1012 q1014 q146 q1015 qs26 ⟨Nat.le_trans (by omega) hR.1, Nat.le_trans (by omega) hR.2⟩ rfl rfl hl.1 (lv_room (Nat.le_of_ble_eq_true rfl)) dX5_sum_6 (fun H locs cells slots hA => ?_)
  obtain ⟨q3, eq3, hit⟩ := o_bind hit
  obtain ⟨eq3, lq3⟩ := achv_inv eq3
  refine a_cI X h0H hA nm_X7_init q1040 q1041 q154 q1042 rfl (wC7_init l γ X.2.1 _ _ _ _ _ eq3) lq3 ⟨Nat.le_trans (by omega) hR.1, Nat.le_trans (by omega) hR.2⟩ rfl rfl hl.1 (lv_room (Nat.le_of_ble_eq_true rfl)) dX5_sum_9 (fun H locs cells slots hA => ?_)
  refine lv_astore_n (lv' := [(2, .ref r.1), (0, .ref o), (1, .int a0)]) hx hb dX5_sum_12 rfl hl (by decide) rfl (fun ls hl => ?_)
  obtain ⟨wr6, er6, hxr6⟩ := xg_bind hit
  have hr6 : ∀ (r6 : CS), wr6 = .inl r6 → ∀ (H : Heap) (locs : List Loc) (cells slots : Nat) (ls : Array Slot), AI γ (h, r) s R r6.1 r6.2 H locs cells slots → lv_has ls 4 [(2, .ref r.1)] → W p l e R s m args below meth c H locs cells slots Q (F0 m 49 ls []) := by
    intro r6 hw_ H locs cells slots ls hA hl
    have hit := xk_l hxr6 hw_
    refine lv_aload_n hx hb dX5_sum_49 rfl (lv_at hl 0 rfl) ?_
    obtain ⟨q7, eq7, hit⟩ := o_bind hit
    obtain ⟨iq7, eq7⟩ := vc_inv eq7
    refine c_cR X hA.1.1 (fun U hU hW => hA.D X.2.1 X.2.2 h0H hU hW) kc_Chain (wC7_plain l γ X.2.1 _ _  _ eq7) iq7 nm_X7_plain q1151 q1152 q154 q1154 q1153 ⟨Nat.le_trans (by omega) hR.1, Nat.le_trans (by omega) hR.2⟩ hA.RR rfl rfl hl.1 (lv_room (Nat.le_of_ble_eq_true rfl)) dX5_sum_50 ?_
    have he := o_in hit
    exact hend (some (.ref q7)) r6 _ _ _ _ _ _ _ _ (kOut_o) (by subst he; rfl) hA dX5_sum_53
  refine o_rec (P := fun t4 => ∀ (H : Heap) (locs : List Loc) (cells slots : Nat) (ls : Array Slot), AI γ (h, r) s R t4.1 t4.2 H locs cells slots → lv_has ls 4 [(2, .ref r.1), (0, .ref o), (1, .int a0)] → W p l e R s m args below meth c H locs cells slots Q (F0 m 13 ls [])) (fun t4 x5 hit hC4 hE4 H locs cells slots ls hA hl => ?_) _ er6 _ _ _ _ _ hA hl
  unfold C5_sumS_L13 at hit
  refine lv_aload_n hx hb dX5_sum_13 rfl (lv_at hl 1 rfl) ?_
  refine lv_bipush (v := 43) hx hb dX5_sum_14 (by decide) ?_
  obtain ⟨q8, eq8, hit⟩ := o_bind hit
  obtain ⟨iq8, eq8⟩ := vc_inv eq8
  refine c_cR X hA.1.1 (fun U hU hW => hA.D X.2.1 X.2.2 h0H hU hW) kc_Reader (wC5_isSign l γ X.2.1 _ _ _ _ eq8) iq8 nm_X5_isSign q993 q995 q146 q996 qs22 ⟨Nat.le_trans (by omega) hR.1, Nat.le_trans (by omega) hR.2⟩ hA.RR rfl rfl hl.1 (lv_room (Nat.le_of_ble_eq_true rfl)) dX5_sum_16 ?_
  have hK31 : C5_sumS_J31 S γ.2.2.2.2.2 r o a0 t4 = some x5 → ∀ (H : Heap) (locs : List Loc) (cells slots : Nat) (ls : Array Slot), AI γ (h, r) s R t4.1 t4.2 H locs cells slots → lv_has ls 4 [(2, .ref r.1), (0, .ref o), (1, .int a0)] → W p l e R s m args below meth c H locs cells slots Q (F0 m 31 ls []) := by
    intro  hit H locs cells slots ls hA hl
    unfold C5_sumS_J31 at hit
    refine lv_aload_n hx hb dX5_sum_31 rfl (lv_at hl 1 rfl) ?_
    obtain ⟨q9, eq9, hit⟩ := o_bind hit
    obtain ⟨iq9, eq9⟩ := vc_inv eq9
    refine c_cN X (kA_F X.2.1 X.2.2 h0H) hA.1 kc_Reader (wC5_sign l γ X.2.1 _ _  _ eq9) iq9 nm_X5_sign q1083 q1085 q146 q1086 qs28 ⟨Nat.le_trans (by omega) hR.1, Nat.le_trans (by omega) hR.2⟩ hA.RR rfl rfl hl.1 (lv_room (Nat.le_of_ble_eq_true rfl)) dX5_sum_32 (fun H locs hI => ?_)
    replace hA := hA.up hI
    clear hI
    refine lv_istore_n (lv' := [(3, .int q9.1), (2, .ref r.1), (0, .ref o), (1, .int a0)]) hx hb dX5_sum_35 rfl hl (by decide) rfl (fun ls hl => ?_)
    refine lv_aload_n hx hb dX5_sum_36 rfl (lv_at hl 1 rfl) ?_
    refine lv_iload_n hx hb dX5_sum_37 rfl (lv_at hl 0 rfl) ?_
    refine lv_aload_n hx hb dX5_sum_38 rfl (lv_at hl 2 rfl) ?_
    refine lv_iload_n hx hb dX5_sum_39 rfl (lv_at hl 3 rfl) ?_
    rcases xg_inv hit with ⟨q10, eq10, hit⟩ | ⟨x_q10, eq10, he⟩
    rotate_left
    · obtain ⟨iq10, eq10⟩ := vc_inv eq10
      obtain ⟨eq10, lq10⟩ := xchk_r eq10
      refine t_cV X h0H hA kc_Reader (xMet.tr (wC5_productS l hT γ X.2.1 S f lo hS _ _ _ _ _ eq10)) lq10 iq10 nm_X5_product q1012 q1014 q146 q1015 qs26 ⟨Nat.le_trans (by omega) hR.1, Nat.le_trans (by omega) hR.2⟩ rfl rfl hl.1 (lv_room (Nat.le_of_ble_eq_true rfl)) dX5_sum_40 (fun H locs cells slots q_ hA hq => ?_)
      have he := hE4 _ he
      have he := xk_r hxr6 he
      exact hthr _ _ _ _ _ _ _ _ _ (by subst he; rfl) hA hq
    obtain ⟨iq10, eq10⟩ := vc_inv eq10
    obtain ⟨eq10, lq10⟩ := xchk_l eq10
    refine a_cV X h0H hA kc_Reader (xMet.r (wC5_productS l hT γ X.2.1 S f lo hS _ _ _ _ _ eq10)) lq10 iq10 nm_X5_product q1012 q1014 q146 q1015 qs26 ⟨Nat.le_trans (by omega) hR.1, Nat.le_trans (by omega) hR.2⟩ rfl rfl hl.1 (lv_room (Nat.le_of_ble_eq_true rfl)) dX5_sum_40 (fun H locs cells slots hA => ?_)
    obtain ⟨q11, eq11, hit⟩ := o_bind hit
    obtain ⟨iq11, eq11⟩ := vc_inv eq11
    obtain ⟨eq11, lq11⟩ := achv_inv eq11
    refine a_cV X h0H hA kc_Chain (wC7_add l γ X.2.1 _ _ _ _ _ _ eq11) lq11 iq11 nm_X7_add q1087 q1088 q154 q1090 q1089 ⟨Nat.le_trans (by omega) hR.1, Nat.le_trans (by omega) hR.2⟩ rfl rfl hl.1 (lv_room (Nat.le_of_ble_eq_true rfl)) dX5_sum_43 (fun H locs cells slots hA => ?_)
    refine lv_goto (tgt := 13) hx hb dX5_sum_46 (by decide) ?_
    have he := o_in hit
    exact hC4 _ he _ _ _ _ _ hA (lv_sub hl [1, 2, 3] rfl)
  refine b_if_ne (tgt := 31) hx hb dX5_sum_19 (by decide) hit (fun c12 hit => ?_) (fun c12 hit => ?_)
  · exact hK31  hit _ _ _ _ _ hA hl
  · refine lv_aload_n hx hb dX5_sum_22 rfl (lv_at hl 1 rfl) ?_
    refine lv_bipush (v := 45) hx hb dX5_sum_23 (by decide) ?_
    obtain ⟨q13, eq13, hit⟩ := o_bind hit
    obtain ⟨iq13, eq13⟩ := vc_inv eq13
    refine c_cR X hA.1.1 (fun U hU hW => hA.D X.2.1 X.2.2 h0H hU hW) kc_Reader (wC5_isSign l γ X.2.1 _ _ _ _ eq13) iq13 nm_X5_isSign q993 q995 q146 q996 qs22 ⟨Nat.le_trans (by omega) hR.1, Nat.le_trans (by omega) hR.2⟩ hA.RR rfl rfl hl.1 (lv_room (Nat.le_of_ble_eq_true rfl)) dX5_sum_25 ?_
    refine b_if_eq (tgt := 49) hx hb dX5_sum_28 (by decide) hit (fun c14 hit => ?_) (fun c14 hit => ?_)
    · have he := o_in hit
      have he := hE4 _ he
      exact hr6 _ he.symm _ _ _ _ _ hA (lv_sub hl [0] rfl)
    · exact hK31  hit _ _ _ _ _ hA hl
noncomputable def C5_notS_L94 (r3 : Int32 × CS) (t10 : Nat × Int32 × CS) : Option ((Nat × Int32 × CS) ⊕ ((Nat × CS) ⊕ XT)) :=
  if t10.2.1 < r3.1 then
    ((aCell t10.2.2.1 t10.2.2.2 1 (.inr (9, [.null]))).bind fun s13 =>
    (C10_init s13.1 t10.2.2.2.1 t10.1).bind fun q14 =>
    some (.inl (t10.2.2.2.1, (t10.2.1 + 1), (q14, s13.2))))
  else
    (some (.inr (.inl (t10.1, t10.2.2))))
noncomputable def C5_notS_J68 (S : CH → CR → Nat → Int32 → Option ((Nat × CS) ⊕ XT)) (K : Nat → Nat) (o : Nat) (a0 : Int32) (r3 : Int32 × CS) (q6 : CS) : Option (CS ⊕ XT) :=
  (vc q6.1 o 4 (C5_sign K q6.1 o)).bind fun q15 =>
  xg Sum.inr (vc q15.2 o 4 (xchk q6.2 (C5_sumS S K q15.2 q6.2 o a0))) fun q16 =>
  (vc q16.2.1 r3.2.2.1 6 (achv q16.2.2 (C7_add K q16.2.1 q16.2.2 r3.2.2.1 q15.1 q16.1))).bind fun q17 =>
  some (.inl q17)
noncomputable def C5_notS_L2 (K : Nat → Nat) (o : Nat) (t1 : Int32 × CS) : Option ((Int32 × CS) ⊕ ((Int32 × CS) ⊕ XT)) :=
  (vc t1.2.1 o 4 (C5_is K t1.2.1 o 13)).bind fun q21 =>
  if q21 = 0 then
    (some (.inr (.inl (t1.1, t1.2))))
  else
    (xg (fun e_ => .inr (.inr e_)) ((if t1.1 < 6 then
        (some (.inl 1))
      else
        (some (.inl 0)) : Option (Int32 ⊕ XT))) fun r23 =>
    xg (fun e_ => .inr (.inr e_)) (vc t1.2.1 o 4 (xchv t1.2.2 (C5_want K t1.2.1 t1.2.2 o r23 2))) fun q24 =>
    (vc q24.1 o 4 (C5_next K q24.1 o)).bind fun q25 =>
    some (.inl ((t1.1 + 1), (q25, q24.2))))
noncomputable def C5_notS (S : CH → CR → Nat → Int32 → Option ((Nat × CS) ⊕ XT)) (K : Nat → Nat) (h : CH) (r : CR) (o : Nat) (a0 : Int32) : Option ((Nat × CS) ⊕ XT) :=
  xg Sum.inr (o_loop (C5_notS_L2 K o) (0, (h, r))) fun r3 =>
  (aCell r3.2.1 r3.2.2 2 (.inr (6, [.null, .null]))).bind fun s4 =>
  xg Sum.inr (vc s4.1 o 4 (xchk s4.2 (C5_sumS S K s4.1 s4.2 o a0))) fun q5 =>
  (achv q5.2.2 (C7_init K q5.2.1 q5.2.2 r3.2.2.1 q5.1)).bind fun q6 =>
  (vc q6.1 o 4 (C5_isSign q6.1 o 60)).bind fun q7 =>
  xg Sum.inr ((if q7 = 0 then
      ((vc q6.1 o 4 (C5_isSign q6.1 o 61)).bind fun q19 =>
      if q19 = 0 then
        (some (.inl q6))
      else
        (C5_notS_J68 S K o a0 r3 q6))
    else
      (C5_notS_J68 S K o a0 r3 q6) : Option (CS ⊕ XT))) fun r8 =>
  (vc r8.1 r3.2.2.1 6 (C7_plain r8.1 r3.2.2.1)).bind fun q9 =>
  o_loop (C5_notS_L94 r3) (q9, 0, r8)
set_option maxHeartbeats 4000000 in
set_option maxRecDepth 100000 in
theorem wC5_notS (l : Launch) (hT : l.stackTraces = false) (γ : KG) (hO : kOK γ) (S : CH → CR → Nat → Int32 → Option ((Nat × CS) ⊕ XT)) (f lo : Nat) (hS : ∀ (h : CH) (r : CR) (o : Nat) (a : Int32) (z : (Nat × CS) ⊕ XT), S h r o a = some z → xMet l yX5_expression (ws_ yX5_expression cX5_expression 3 (some (.object "TwinInk$Form"))) f lo γ (h, r) [.ref o, .int a] (xR z)) (h : CH) (r : CR) (o : Nat) (a0 : Int32) (z : (Nat × CS) ⊕ XT) (hz : C5_notS S γ.2.2.2.2.2 h r o a0 = some z) : xMet l yX5_not (ws_ yX5_not cX5_not 6 (some (.object "TwinInk$Form"))) (f + 15) (lo + 450) γ (h, r) [.ref o, .int a0] (xR z) := by
  refine x_start (cc := cX5_not) (own := RX5) hO rfl rfl rfl (fun p e R s m args below meth c Q ls X hR hnm h0H hA hl hend hthr hdir => ?_)
  have hx := X.1.1
  have hb := X.1.2.1
  have hit := hz
  clear hz
  unfold C5_notS at hit
  have hl : lv_has ls 6 [(0, .ref o), (1, .int a0)] := hl
  refine lv_iconst (v := 0) hx hb dX5_not_0 (by decide) ?_
  refine lv_istore_n (lv' := [(2, .int 0), (0, .ref o), (1, .int a0)]) hx hb dX5_not_1 rfl hl (by decide) rfl (fun ls hl => ?_)
  obtain ⟨wr3, er3, hxr3⟩ := xg_bind hit
  have hr3 : ∀ (r3 : Int32 × CS), wr3 = .inl r3 → ∀ (H : Heap) (locs : List Loc) (cells slots : Nat) (ls : Array Slot), AI γ (h, r) s R r3.2.1 r3.2.2 H locs cells slots → lv_has ls 6 [(0, .ref o), (1, .int a0), (2, .int r3.1)] → W p l e R s m args below meth c H locs cells slots Q (F0 m 37 ls []) := by
    intro r3 hw_ H locs cells slots ls hA hl
    have hit := xk_l hxr3 hw_
    obtain ⟨s4, es4, hit⟩ := o_bind hit
    refine a_new X hA kc_Chain q997 q998 q154 (fs := [.null, .null]) (by decide +kernel) es4 dX5_not_37 (fun H cells slots hA => ?_)
    refine lv_dup hx hb dX5_not_40 rfl ?_
    refine lv_aload_n hx hb dX5_not_41 rfl (lv_at hl 0 rfl) ?_
    refine lv_iload_n hx hb dX5_not_42 rfl (lv_at hl 1 rfl) ?_
    rcases xg_inv hit with ⟨q5, eq5, hit⟩ | ⟨x_q5, eq5, he⟩
    rotate_left
    · obtain ⟨iq5, eq5⟩ := vc_inv eq5
      obtain ⟨eq5, lq5⟩ := xchk_r eq5
      refine t_cV X h0H hA kc_Reader (xMet.tr (wC5_sumS l hT γ X.2.1 S f lo hS _ _ _ _ _ eq5)) lq5 iq5 nm_X5_sum q1008 q1010 q146 q1011 qs25 ⟨Nat.le_trans (by omega) hR.1, Nat.le_trans (by omega) hR.2⟩ rfl rfl hl.1 (lv_room (Nat.le_of_ble_eq_true rfl)) dX5_not_43 (fun H locs cells slots q_ hA hq => ?_)
      exact hthr _ _ _ _ _ _ _ _ _ (by subst he; rfl) hA hq
    obtain ⟨iq5, eq5⟩ := vc_inv eq5
    obtain ⟨eq5, lq5⟩ := xchk_l eq5
    refine a_cV X h0H hA kc_Reader (xMet.r (wC5_sumS l hT γ X.2.1 S f lo hS _ _ _ _ _ eq5)) lq5 iq5 nm_X5_sum q1008 q1010 q146 q1011 qs25 ⟨Nat.le_trans (by omega) hR.1, Nat.le_trans (by omega) hR.2⟩ rfl rfl hl.1 (lv_room (Nat.le_of_ble_eq_true rfl)) dX5_not_43 (fun H locs cells slots hA => ?_)
    obtain ⟨q6, eq6, hit⟩ := o_bind hit
    obtain ⟨eq6, lq6⟩ := achv_inv eq6
    refine a_cI X h0H hA nm_X7_init q1040 q1041 q154 q1042 rfl (wC7_init l γ X.2.1 _ _ _ _ _ eq6) lq6 ⟨Nat.le_trans (by omega) hR.1, Nat.le_trans (by omega) hR.2⟩ rfl rfl hl.1 (lv_room (Nat.le_of_ble_eq_true rfl)) dX5_not_46 (fun H locs cells slots hA => ?_)
    refine lv_astore_n (lv' := [(3, .ref r3.2.2.1), (0, .ref o), (1, .int a0), (2, .int r3.1)]) hx hb dX5_not_49 rfl hl (by decide) rfl (fun ls hl => ?_)
    refine lv_aload_n hx hb dX5_not_50 rfl (lv_at hl 1 rfl) ?_
    refine lv_bipush (v := 60) hx hb dX5_not_51 (by decide) ?_
    obtain ⟨q7, eq7, hit⟩ := o_bind hit
    obtain ⟨iq7, eq7⟩ := vc_inv eq7
    refine c_cR X hA.1.1 (fun U hU hW => hA.D X.2.1 X.2.2 h0H hU hW) kc_Reader (wC5_isSign l γ X.2.1 _ _ _ _ eq7) iq7 nm_X5_isSign q993 q995 q146 q996 qs22 ⟨Nat.le_trans (by omega) hR.1, Nat.le_trans (by omega) hR.2⟩ hA.RR rfl rfl hl.1 (lv_room (Nat.le_of_ble_eq_true rfl)) dX5_not_53 ?_
    obtain ⟨wr8, er8, hxr8⟩ := xg_bind hit
    have hr8 : ∀ (r8 : CS), wr8 = .inl r8 → ∀ (H : Heap) (locs : List Loc) (cells slots : Nat) (ls : Array Slot), AI γ (h, r) s R r8.1 r8.2 H locs cells slots → lv_has ls 6 [(3, .ref r3.2.2.1), (2, .int r3.1)] → W p l e R s m args below meth c H locs cells slots Q (F0 m 85 ls []) := by
      intro r8 hw_ H locs cells slots ls hA hl
      have hit := xk_l hxr8 hw_
      refine lv_aload_n hx hb dX5_not_85 rfl (lv_at hl 0 rfl) ?_
      obtain ⟨q9, eq9, hit⟩ := o_bind hit
      obtain ⟨iq9, eq9⟩ := vc_inv eq9
      refine c_cR X hA.1.1 (fun U hU hW => hA.D X.2.1 X.2.2 h0H hU hW) kc_Chain (wC7_plain l γ X.2.1 _ _  _ eq9) iq9 nm_X7_plain q1151 q1152 q154 q1154 q1153 ⟨Nat.le_trans (by omega) hR.1, Nat.le_trans (by omega) hR.2⟩ hA.RR rfl rfl hl.1 (lv_room (Nat.le_of_ble_eq_true rfl)) dX5_not_86 ?_
      refine lv_astore (lv' := [(4, .ref q9), (3, .ref r3.2.2.1), (2, .int r3.1)]) hx hb dX5_not_89 hl (by decide) rfl (fun ls hl => ?_)
      refine lv_iconst (v := 0) hx hb dX5_not_91 (by decide) ?_
      refine lv_istore (lv' := [(5, .int 0), (4, .ref q9), (3, .ref r3.2.2.1), (2, .int r3.1)]) hx hb dX5_not_92 hl (by decide) rfl (fun ls hl => ?_)
      refine o_rec (P := fun t10 => ∀ (H : Heap) (locs : List Loc) (cells slots : Nat) (ls : Array Slot), AI γ (h, r) s R t10.2.2.1 t10.2.2.2 H locs cells slots → lv_has ls 6 [(2, .int r3.1), (4, .ref t10.1), (5, .int t10.2.1)] → W p l e R s m args below meth c H locs cells slots Q (F0 m 94 ls [])) (fun t10 x11 hit hC10 hE10 H locs cells slots ls hA hl => ?_) _ hit _ _ _ _ _ hA (lv_sub hl [3, 1, 0] rfl)
      unfold C5_notS_L94 at hit
      refine lv_iload hx hb dX5_not_94 (lv_at hl 2 rfl) ?_
      refine lv_iload_n hx hb dX5_not_96 rfl (lv_at hl 0 rfl) ?_
      refine b_icmp_ge (tgt := 117) hx hb dX5_not_97 (by decide) hit (fun c12 hit => ?_) (fun c12 hit => ?_)
      · refine lv_aload hx hb dX5_not_117 (lv_at hl 1 rfl) ?_
        have he := o_in hit
        have he := hE10 _ he
        exact hend (some (.ref t10.1)) t10.2.2 _ _ _ _ _ _ _ _ (kOut_o) (by subst he; rfl) hA dX5_not_119
      · obtain ⟨s13, es13, hit⟩ := o_bind hit
        refine a_new X hA kc_Not q1155 q1156 q163 (fs := [.null]) (by decide +kernel) es13 dX5_not_100 (fun H cells slots hA => ?_)
        refine lv_dup hx hb dX5_not_103 rfl ?_
        refine lv_aload hx hb dX5_not_104 (lv_at hl 1 rfl) ?_
        obtain ⟨q14, eq14, hit⟩ := o_bind hit
        refine c_cNI X (kA_F X.2.1 X.2.2 h0H) hA.1 nm_X10_init q1157 q1158 q163 q1159 rfl (wC10_init l γ X.2.1 _ _ _ _ eq14) hA.RR ⟨Nat.le_trans (by omega) hR.1, Nat.le_trans (by omega) hR.2⟩ rfl rfl hl.1 (lv_room (Nat.le_of_ble_eq_true rfl)) dX5_not_106 (fun H locs hI => ?_)
        replace hA := hA.up hI
        clear hI
        refine lv_astore (lv' := [(4, .ref t10.2.2.2.1), (2, .int r3.1), (5, .int t10.2.1)]) hx hb dX5_not_109 hl (by decide) rfl (fun ls hl => ?_)
        refine lv_iinc (k := 2) (v := (t10.2.1 + 1)) (lv' := [(5, .int (t10.2.1 + 1)), (4, .ref t10.2.2.2.1), (2, .int r3.1)]) hx hb dX5_not_111 hl rfl rfl (by decide) rfl (fun ls hl => ?_)
        refine lv_goto (tgt := 94) hx hb dX5_not_114 (by decide) ?_
        have he := o_in hit
        exact hC10 _ he _ _ _ _ _ hA (lv_sub hl [2, 1, 0] rfl)
    have hit := er8
    have hK68 : C5_notS_J68 S γ.2.2.2.2.2 o a0 r3 q6 = some wr8 → ∀ (H : Heap) (locs : List Loc) (cells slots : Nat) (ls : Array Slot), AI γ (h, r) s R q6.1 q6.2 H locs cells slots → lv_has ls 6 [(3, .ref r3.2.2.1), (0, .ref o), (1, .int a0), (2, .int r3.1)] → W p l e R s m args below meth c H locs cells slots Q (F0 m 68 ls []) := by
      intro  hit H locs cells slots ls hA hl
      unfold C5_notS_J68 at hit
      refine lv_aload_n hx hb dX5_not_68 rfl (lv_at hl 1 rfl) ?_
      obtain ⟨q15, eq15, hit⟩ := o_bind hit
      obtain ⟨iq15, eq15⟩ := vc_inv eq15
      refine c_cN X (kA_F X.2.1 X.2.2 h0H) hA.1 kc_Reader (wC5_sign l γ X.2.1 _ _  _ eq15) iq15 nm_X5_sign q1083 q1085 q146 q1086 qs28 ⟨Nat.le_trans (by omega) hR.1, Nat.le_trans (by omega) hR.2⟩ hA.RR rfl rfl hl.1 (lv_room (Nat.le_of_ble_eq_true rfl)) dX5_not_69 (fun H locs hI => ?_)
      replace hA := hA.up hI
      clear hI
      refine lv_istore (lv' := [(4, .int q15.1), (3, .ref r3.2.2.1), (0, .ref o), (1, .int a0), (2, .int r3.1)]) hx hb dX5_not_72 hl (by decide) rfl (fun ls hl => ?_)
      refine lv_aload_n hx hb dX5_not_74 rfl (lv_at hl 1 rfl) ?_
      refine lv_iload hx hb dX5_not_75 (lv_at hl 0 rfl) ?_
      refine lv_aload_n hx hb dX5_not_77 rfl (lv_at hl 2 rfl) ?_
      refine lv_iload_n hx hb dX5_not_78 rfl (lv_at hl 3 rfl) ?_
      rcases xg_inv hit with ⟨q16, eq16, hit⟩ | ⟨x_q16, eq16, he⟩
      rotate_left
      · obtain ⟨iq16, eq16⟩ := vc_inv eq16
        obtain ⟨eq16, lq16⟩ := xchk_r eq16
        refine t_cV X h0H hA kc_Reader (xMet.tr (wC5_sumS l hT γ X.2.1 S f lo hS _ _ _ _ _ eq16)) lq16 iq16 nm_X5_sum q1008 q1010 q146 q1011 qs25 ⟨Nat.le_trans (by omega) hR.1, Nat.le_trans (by omega) hR.2⟩ rfl rfl hl.1 (lv_room (Nat.le_of_ble_eq_true rfl)) dX5_not_79 (fun H locs cells slots q_ hA hq => ?_)
        have he := xk_r hxr8 he
        exact hthr _ _ _ _ _ _ _ _ _ (by subst he; rfl) hA hq
      obtain ⟨iq16, eq16⟩ := vc_inv eq16
      obtain ⟨eq16, lq16⟩ := xchk_l eq16
      refine a_cV X h0H hA kc_Reader (xMet.r (wC5_sumS l hT γ X.2.1 S f lo hS _ _ _ _ _ eq16)) lq16 iq16 nm_X5_sum q1008 q1010 q146 q1011 qs25 ⟨Nat.le_trans (by omega) hR.1, Nat.le_trans (by omega) hR.2⟩ rfl rfl hl.1 (lv_room (Nat.le_of_ble_eq_true rfl)) dX5_not_79 (fun H locs cells slots hA => ?_)
      obtain ⟨q17, eq17, hit⟩ := o_bind hit
      obtain ⟨iq17, eq17⟩ := vc_inv eq17
      obtain ⟨eq17, lq17⟩ := achv_inv eq17
      refine a_cV X h0H hA kc_Chain (wC7_add l γ X.2.1 _ _ _ _ _ _ eq17) lq17 iq17 nm_X7_add q1087 q1088 q154 q1090 q1089 ⟨Nat.le_trans (by omega) hR.1, Nat.le_trans (by omega) hR.2⟩ rfl rfl hl.1 (lv_room (Nat.le_of_ble_eq_true rfl)) dX5_not_82 (fun H locs cells slots hA => ?_)
      have he := o_in hit
      exact hr8 _ he.symm _ _ _ _ _ hA (lv_sub hl [1, 4] rfl)
    refine b_if_ne (tgt := 68) hx hb dX5_not_56 (by decide) hit (fun c18 hit => ?_) (fun c18 hit => ?_)
    · exact hK68  hit _ _ _ _ _ hA hl
    · refine lv_aload_n hx hb dX5_not_59 rfl (lv_at hl 1 rfl) ?_
      refine lv_bipush (v := 61) hx hb dX5_not_60 (by decide) ?_
      obtain ⟨q19, eq19, hit⟩ := o_bind hit
      obtain ⟨iq19, eq19⟩ := vc_inv eq19
      refine c_cR X hA.1.1 (fun U hU hW => hA.D X.2.1 X.2.2 h0H hU hW) kc_Reader (wC5_isSign l γ X.2.1 _ _ _ _ eq19) iq19 nm_X5_isSign q993 q995 q146 q996 qs22 ⟨Nat.le_trans (by omega) hR.1, Nat.le_trans (by omega) hR.2⟩ hA.RR rfl rfl hl.1 (lv_room (Nat.le_of_ble_eq_true rfl)) dX5_not_62 ?_
      refine b_if_eq (tgt := 85) hx hb dX5_not_65 (by decide) hit (fun c20 hit => ?_) (fun c20 hit => ?_)
      · have he := o_in hit
        exact hr8 _ he.symm _ _ _ _ _ hA (lv_sub hl [0, 3] rfl)
      · exact hK68  hit _ _ _ _ _ hA hl
  refine o_rec (P := fun t1 => ∀ (H : Heap) (locs : List Loc) (cells slots : Nat) (ls : Array Slot), AI γ (h, r) s R t1.2.1 t1.2.2 H locs cells slots → lv_has ls 6 [(0, .ref o), (1, .int a0), (2, .int t1.1)] → W p l e R s m args below meth c H locs cells slots Q (F0 m 2 ls [])) (fun t1 x2 hit hC1 hE1 H locs cells slots ls hA hl => ?_) _ er3 _ _ _ _ _ hA (lv_sub hl [1, 2, 0] rfl)
  unfold C5_notS_L2 at hit
  refine lv_aload_n hx hb dX5_not_2 rfl (lv_at hl 0 rfl) ?_
  refine c_ldcS X 13 (by decide) rfl dX5_not_3 ?_
  obtain ⟨q21, eq21, hit⟩ := o_bind hit
  obtain ⟨iq21, eq21⟩ := vc_inv eq21
  refine c_cR X hA.1.1 (fun U hU hW => hA.D X.2.1 X.2.2 h0H hU hW) kc_Reader (wC5_is l γ X.2.1 _ _ _ _ eq21) iq21 nm_X5_is q928 q930 q146 q931 qs16 ⟨Nat.le_trans (by omega) hR.1, Nat.le_trans (by omega) hR.2⟩ hA.RR rfl rfl hl.1 (lv_room (Nat.le_of_ble_eq_true rfl)) dX5_not_5 ?_
  refine b_if_eq (tgt := 37) hx hb dX5_not_8 (by decide) hit (fun c22 hit => ?_) (fun c22 hit => ?_)
  · have he := o_in hit
    have he := hE1 _ he
    exact hr3 _ he.symm _ _ _ _ _ hA hl
  · refine lv_aload_n hx hb dX5_not_11 rfl (lv_at hl 0 rfl) ?_
    refine lv_iload_n hx hb dX5_not_12 rfl (lv_at hl 2 rfl) ?_
    refine lv_bipush (v := 6) hx hb dX5_not_13 (by decide) ?_
    obtain ⟨wr23, er23, hxr23⟩ := xg_bind hit
    have hr23 : ∀ (r23 : Int32), wr23 = .inl r23 → ∀ (H : Heap) (locs : List Loc) (cells slots : Nat) (ls : Array Slot), AI γ (h, r) s R t1.2.1 t1.2.2 H locs cells slots → lv_has ls 6 [(0, .ref o), (1, .int a0), (2, .int t1.1)] → W p l e R s m args below meth c H locs cells slots Q (F0 m 23 ls [.int r23, .ref o]) := by
      intro r23 hw_ H locs cells slots ls hA hl
      have hit := xk_l hxr23 hw_
      refine lv_iconst (v := 2) hx hb dX5_not_23 (by decide) ?_
      rcases xg_inv hit with ⟨q24, eq24, hit⟩ | ⟨x_q24, eq24, he⟩
      rotate_left
      · obtain ⟨iq24, eq24⟩ := vc_inv eq24
        obtain ⟨eq24, lq24⟩ := xchv_r eq24
        refine t_cV X h0H hA kc_Reader (xMet.tv (wC5_want l hT γ X.2.1 _ _ _ _ _ _ eq24)) lq24 iq24 nm_X5_want q953 q955 q146 q956 qs18 ⟨Nat.le_trans (by omega) hR.1, Nat.le_trans (by omega) hR.2⟩ rfl rfl hl.1 (lv_room (Nat.le_of_ble_eq_true rfl)) dX5_not_24 (fun H locs cells slots q_ hA hq => ?_)
        have he := hE1 _ he
        have he := xk_r hxr3 he
        exact hthr _ _ _ _ _ _ _ _ _ (by subst he; rfl) hA hq
      obtain ⟨iq24, eq24⟩ := vc_inv eq24
      obtain ⟨eq24, lq24⟩ := xchv_l eq24
      refine a_cV X h0H hA kc_Reader (xMet.v (wC5_want l hT γ X.2.1 _ _ _ _ _ _ eq24)) lq24 iq24 nm_X5_want q953 q955 q146 q956 qs18 ⟨Nat.le_trans (by omega) hR.1, Nat.le_trans (by omega) hR.2⟩ rfl rfl hl.1 (lv_room (Nat.le_of_ble_eq_true rfl)) dX5_not_24 (fun H locs cells slots hA => ?_)
      refine lv_iinc (k := 2) (v := (t1.1 + 1)) (lv' := [(2, .int (t1.1 + 1)), (0, .ref o), (1, .int a0)]) hx hb dX5_not_27 hl rfl rfl (by decide) rfl (fun ls hl => ?_)
      refine lv_aload_n hx hb dX5_not_30 rfl (lv_at hl 1 rfl) ?_
      obtain ⟨q25, eq25, hit⟩ := o_bind hit
      obtain ⟨iq25, eq25⟩ := vc_inv eq25
      refine c_cN X (kA_F X.2.1 X.2.2 h0H) hA.1 kc_Reader (wC5_next l γ X.2.1 _ _  _ eq25) iq25 nm_X5_next q831 q833 q146 q834 qs10 ⟨Nat.le_trans (by omega) hR.1, Nat.le_trans (by omega) hR.2⟩ hA.RR rfl rfl hl.1 (lv_room (Nat.le_of_ble_eq_true rfl)) dX5_not_31 (fun H locs hI => ?_)
      replace hA := hA.up hI
      clear hI
      refine lv_goto (tgt := 2) hx hb dX5_not_34 (by decide) ?_
      have he := o_in hit
      exact hC1 _ he _ _ _ _ _ hA (lv_sub hl [1, 2, 0] rfl)
    have hit := er23
    refine b_icmp_ge (tgt := 22) hx hb dX5_not_15 (by decide) hit (fun c26 hit => ?_) (fun c26 hit => ?_)
    · refine lv_iconst (v := 0) hx hb dX5_not_22 (by decide) ?_
      have he := o_in hit
      exact hr23 _ he.symm _ _ _ _ _ hA hl
    · refine lv_iconst (v := 1) hx hb dX5_not_18 (by decide) ?_
      refine lv_goto (tgt := 23) hx hb dX5_not_19 (by decide) ?_
      have he := o_in hit
      exact hr23 _ he.symm _ _ _ _ _ hA hl
noncomputable def C5_andS_L13 (S : CH → CR → Nat → Int32 → Option ((Nat × CS) ⊕ XT)) (K : Nat → Nat) (r : CR) (o : Nat) (a0 : Int32) (t4 : CS) : Option (CS ⊕ (CS ⊕ XT)) :=
  (vc t4.1 o 4 (C5_passes K t4.1 o 14)).bind fun q8 =>
  if q8.1 = 0 then
    (some (.inr (.inl (q8.2, t4.2))))
  else
    (xg (fun e_ => .inr (.inr e_)) (vc q8.2 o 4 (xchk t4.2 (C5_notS S K q8.2 t4.2 o a0))) fun q10 =>
    (vc q10.2.1 r.1 6 (achv q10.2.2 (C7_add K q10.2.1 q10.2.2 r.1 38 q10.1))).bind fun q11 =>
    some (.inl q11))
noncomputable def C5_andS (S : CH → CR → Nat → Int32 → Option ((Nat × CS) ⊕ XT)) (K : Nat → Nat) (h : CH) (r : CR) (o : Nat) (a0 : Int32) : Option ((Nat × CS) ⊕ XT) :=
  (aCell h r 2 (.inr (6, [.null, .null]))).bind fun s1 =>
  xg Sum.inr (vc s1.1 o 4 (xchk s1.2 (C5_notS S K s1.1 s1.2 o a0))) fun q2 =>
  (achv q2.2.2 (C7_init K q2.2.1 q2.2.2 r.1 q2.1)).bind fun q3 =>
  xg Sum.inr (o_loop (C5_andS_L13 S K r o a0) q3) fun r6 =>
  (vc r6.1 r.1 6 (C7_plain r6.1 r.1)).bind fun q7 =>
  some (.inl (q7, r6))
set_option maxHeartbeats 4000000 in
set_option maxRecDepth 100000 in
theorem wC5_andS (l : Launch) (hT : l.stackTraces = false) (γ : KG) (hO : kOK γ) (S : CH → CR → Nat → Int32 → Option ((Nat × CS) ⊕ XT)) (f lo : Nat) (hS : ∀ (h : CH) (r : CR) (o : Nat) (a : Int32) (z : (Nat × CS) ⊕ XT), S h r o a = some z → xMet l yX5_expression (ws_ yX5_expression cX5_expression 3 (some (.object "TwinInk$Form"))) f lo γ (h, r) [.ref o, .int a] (xR z)) (h : CH) (r : CR) (o : Nat) (a0 : Int32) (z : (Nat × CS) ⊕ XT) (hz : C5_andS S γ.2.2.2.2.2 h r o a0 = some z) : xMet l yX5_and (ws_ yX5_and cX5_and 3 (some (.object "TwinInk$Form"))) (f + 16) (lo + 500) γ (h, r) [.ref o, .int a0] (xR z) := by
  refine x_start (cc := cX5_and) (own := RX5) hO rfl rfl rfl (fun p e R s m args below meth c Q ls X hR hnm h0H hA hl hend hthr hdir => ?_)
  have hx := X.1.1
  have hb := X.1.2.1
  have hit := hz
  clear hz
  unfold C5_andS at hit
  have hl : lv_has ls 3 [(0, .ref o), (1, .int a0)] := hl
  obtain ⟨s1, es1, hit⟩ := o_bind hit
  refine a_new X hA kc_Chain q997 q998 q154 (fs := [.null, .null]) (by decide +kernel) es1 dX5_and_0 (fun H cells slots hA => ?_)
  refine lv_dup hx hb dX5_and_3 rfl ?_
  refine lv_aload_n hx hb dX5_and_4 rfl (lv_at hl 0 rfl) ?_
  refine lv_iload_n hx hb dX5_and_5 rfl (lv_at hl 1 rfl) ?_
  rcases xg_inv hit with ⟨q2, eq2, hit⟩ | ⟨x_q2, eq2, he⟩
  rotate_left
  · obtain ⟨iq2, eq2⟩ := vc_inv eq2
    obtain ⟨eq2, lq2⟩ := xchk_r eq2
    refine t_cV X h0H hA kc_Reader (xMet.tr (wC5_notS l hT γ X.2.1 S f lo hS _ _ _ _ _ eq2)) lq2 iq2 nm_X5_not q1003 q1005 q146 q1006 qs24 ⟨Nat.le_trans (by omega) hR.1, Nat.le_trans (by omega) hR.2⟩ rfl rfl hl.1 (lv_room (Nat.le_of_ble_eq_true rfl)) dX5_and_6 (fun H locs cells slots q_ hA hq => ?_)
    exact hthr _ _ _ _ _ _ _ _ _ (by subst he; rfl) hA hq
  obtain ⟨iq2, eq2⟩ := vc_inv eq2
  obtain ⟨eq2, lq2⟩ := xchk_l eq2
  refine a_cV X h0H hA kc_Reader (xMet.r (wC5_notS l hT γ X.2.1 S f lo hS _ _ _ _ _ eq2)) lq2 iq2 nm_X5_not q1003 q1005 q146 q1006 qs24 ⟨Nat.le_trans (by omega) hR.1, Nat.le_trans (by omega) hR.2⟩ rfl rfl hl.1 (lv_room (Nat.le_of_ble_eq_true rfl)) dX5_and_6 (fun H locs cells slots hA => ?_)
  obtain ⟨q3, eq3, hit⟩ := o_bind hit
  obtain ⟨eq3, lq3⟩ := achv_inv eq3
  refine a_cI X h0H hA nm_X7_init q1040 q1041 q154 q1042 rfl (wC7_init l γ X.2.1 _ _ _ _ _ eq3) lq3 ⟨Nat.le_trans (by omega) hR.1, Nat.le_trans (by omega) hR.2⟩ rfl rfl hl.1 (lv_room (Nat.le_of_ble_eq_true rfl)) dX5_and_9 (fun H locs cells slots hA => ?_)
  refine lv_astore_n (lv' := [(2, .ref r.1), (0, .ref o), (1, .int a0)]) hx hb dX5_and_12 rfl hl (by decide) rfl (fun ls hl => ?_)
  obtain ⟨wr6, er6, hxr6⟩ := xg_bind hit
  have hr6 : ∀ (r6 : CS), wr6 = .inl r6 → ∀ (H : Heap) (locs : List Loc) (cells slots : Nat) (ls : Array Slot), AI γ (h, r) s R r6.1 r6.2 H locs cells slots → lv_has ls 3 [(2, .ref r.1)] → W p l e R s m args below meth c H locs cells slots Q (F0 m 36 ls []) := by
    intro r6 hw_ H locs cells slots ls hA hl
    have hit := xk_l hxr6 hw_
    refine lv_aload_n hx hb dX5_and_36 rfl (lv_at hl 0 rfl) ?_
    obtain ⟨q7, eq7, hit⟩ := o_bind hit
    obtain ⟨iq7, eq7⟩ := vc_inv eq7
    refine c_cR X hA.1.1 (fun U hU hW => hA.D X.2.1 X.2.2 h0H hU hW) kc_Chain (wC7_plain l γ X.2.1 _ _  _ eq7) iq7 nm_X7_plain q1151 q1152 q154 q1154 q1153 ⟨Nat.le_trans (by omega) hR.1, Nat.le_trans (by omega) hR.2⟩ hA.RR rfl rfl hl.1 (lv_room (Nat.le_of_ble_eq_true rfl)) dX5_and_37 ?_
    have he := o_in hit
    exact hend (some (.ref q7)) r6 _ _ _ _ _ _ _ _ (kOut_o) (by subst he; rfl) hA dX5_and_40
  refine o_rec (P := fun t4 => ∀ (H : Heap) (locs : List Loc) (cells slots : Nat) (ls : Array Slot), AI γ (h, r) s R t4.1 t4.2 H locs cells slots → lv_has ls 3 [(2, .ref r.1), (0, .ref o), (1, .int a0)] → W p l e R s m args below meth c H locs cells slots Q (F0 m 13 ls [])) (fun t4 x5 hit hC4 hE4 H locs cells slots ls hA hl => ?_) _ er6 _ _ _ _ _ hA hl
  unfold C5_andS_L13 at hit
  refine lv_aload_n hx hb dX5_and_13 rfl (lv_at hl 1 rfl) ?_
  refine c_ldcS X 14 (by decide) rfl dX5_and_14 ?_
  obtain ⟨q8, eq8, hit⟩ := o_bind hit
  obtain ⟨iq8, eq8⟩ := vc_inv eq8
  refine c_cN X (kA_F X.2.1 X.2.2 h0H) hA.1 kc_Reader (wC5_passes l γ X.2.1 _ _ _ _ eq8) iq8 nm_X5_passes q1166 q1168 q146 q1169 qs29 ⟨Nat.le_trans (by omega) hR.1, Nat.le_trans (by omega) hR.2⟩ hA.RR rfl rfl hl.1 (lv_room (Nat.le_of_ble_eq_true rfl)) dX5_and_16 (fun H locs hI => ?_)
  replace hA := hA.up hI
  clear hI
  refine b_if_eq (tgt := 36) hx hb dX5_and_19 (by decide) hit (fun c9 hit => ?_) (fun c9 hit => ?_)
  · have he := o_in hit
    have he := hE4 _ he
    exact hr6 _ he.symm _ _ _ _ _ hA (lv_sub hl [0] rfl)
  · refine lv_aload_n hx hb dX5_and_22 rfl (lv_at hl 0 rfl) ?_
    refine lv_bipush (v := 38) hx hb dX5_and_23 (by decide) ?_
    refine lv_aload_n hx hb dX5_and_25 rfl (lv_at hl 1 rfl) ?_
    refine lv_iload_n hx hb dX5_and_26 rfl (lv_at hl 2 rfl) ?_
    rcases xg_inv hit with ⟨q10, eq10, hit⟩ | ⟨x_q10, eq10, he⟩
    rotate_left
    · obtain ⟨iq10, eq10⟩ := vc_inv eq10
      obtain ⟨eq10, lq10⟩ := xchk_r eq10
      refine t_cV X h0H hA kc_Reader (xMet.tr (wC5_notS l hT γ X.2.1 S f lo hS _ _ _ _ _ eq10)) lq10 iq10 nm_X5_not q1003 q1005 q146 q1006 qs24 ⟨Nat.le_trans (by omega) hR.1, Nat.le_trans (by omega) hR.2⟩ rfl rfl hl.1 (lv_room (Nat.le_of_ble_eq_true rfl)) dX5_and_27 (fun H locs cells slots q_ hA hq => ?_)
      have he := hE4 _ he
      have he := xk_r hxr6 he
      exact hthr _ _ _ _ _ _ _ _ _ (by subst he; rfl) hA hq
    obtain ⟨iq10, eq10⟩ := vc_inv eq10
    obtain ⟨eq10, lq10⟩ := xchk_l eq10
    refine a_cV X h0H hA kc_Reader (xMet.r (wC5_notS l hT γ X.2.1 S f lo hS _ _ _ _ _ eq10)) lq10 iq10 nm_X5_not q1003 q1005 q146 q1006 qs24 ⟨Nat.le_trans (by omega) hR.1, Nat.le_trans (by omega) hR.2⟩ rfl rfl hl.1 (lv_room (Nat.le_of_ble_eq_true rfl)) dX5_and_27 (fun H locs cells slots hA => ?_)
    obtain ⟨q11, eq11, hit⟩ := o_bind hit
    obtain ⟨iq11, eq11⟩ := vc_inv eq11
    obtain ⟨eq11, lq11⟩ := achv_inv eq11
    refine a_cV X h0H hA kc_Chain (wC7_add l γ X.2.1 _ _ _ _ _ _ eq11) lq11 iq11 nm_X7_add q1087 q1088 q154 q1090 q1089 ⟨Nat.le_trans (by omega) hR.1, Nat.le_trans (by omega) hR.2⟩ rfl rfl hl.1 (lv_room (Nat.le_of_ble_eq_true rfl)) dX5_and_30 (fun H locs cells slots hA => ?_)
    refine lv_goto (tgt := 13) hx hb dX5_and_33 (by decide) ?_
    have he := o_in hit
    exact hC4 _ he _ _ _ _ _ hA hl
noncomputable def C5_expressionS_L64 (S : CH → CR → Nat → Int32 → Option ((Nat × CS) ⊕ XT)) (K : Nat → Nat) (o : Nat) (a0 : Int32) (q5 : CS) (t9 : CS) : Option (CS ⊕ (CS ⊕ XT)) :=
  (vc t9.1 o 4 (C5_passes K t9.1 o 15)).bind fun q13 =>
  if q13.1 = 0 then
    (some (.inr (.inl (q13.2, t9.2))))
  else
    (xg (fun e_ => .inr (.inr e_)) (vc q13.2 o 4 (xchk t9.2 (C5_andS S K q13.2 t9.2 o a0))) fun q15 =>
    (vc q15.2.1 q5.2.1 6 (achv q15.2.2 (C7_add K q15.2.1 q15.2.2 q5.2.1 124 q15.1))).bind fun q16 =>
    some (.inl q16))
noncomputable def C5_expressionS (S : CH → CR → Nat → Int32 → Option ((Nat × CS) ⊕ XT)) (K : Nat → Nat) (h : CH) (r : CR) (o : Nat) (a0 : Int32) : Option ((Nat × CS) ⊕ XT) :=
  (gI h o 4 8).bind fun v1 =>
  xg Sum.inr ((if v1 = 2 then
      (some (.inl 1))
    else
      ((gI h o 4 8).bind fun v19 =>
      if v19 = 1 then
        (some (.inl 1))
      else
        ((vc h o 4 (C5_isSign h o 40)).bind fun q21 =>
        if q21 = 0 then
          (some (.inl 0))
        else
          (some (.inl 1)))) : Option (Int32 ⊕ XT))) fun r2 =>
  xg Sum.inr (vc h o 4 (xchv r (C5_want K h r o r2 1))) fun q3 =>
  xg Sum.inr ((if a0 < 6 then
      (some (.inl 1))
    else
      (some (.inl 0)) : Option (Int32 ⊕ XT))) fun r4 =>
  xg Sum.inr (vc q3.1 o 4 (xchv q3.2 (C5_want K q3.1 q3.2 o r4 2))) fun q5 =>
  (aCell q5.1 q5.2 2 (.inr (6, [.null, .null]))).bind fun s6 =>
  xg Sum.inr (vc s6.1 o 4 (xchk s6.2 (C5_andS S K s6.1 s6.2 o a0))) fun q7 =>
  (achv q7.2.2 (C7_init K q7.2.1 q7.2.2 q5.2.1 q7.1)).bind fun q8 =>
  xg Sum.inr (o_loop (C5_expressionS_L64 S K o a0 q5) q8) fun r11 =>
  (vc r11.1 q5.2.1 6 (C7_plain r11.1 q5.2.1)).bind fun q12 =>
  some (.inl (q12, r11))
set_option maxHeartbeats 4000000 in
set_option maxRecDepth 100000 in
theorem wC5_expressionS (l : Launch) (hT : l.stackTraces = false) (γ : KG) (hO : kOK γ) (S : CH → CR → Nat → Int32 → Option ((Nat × CS) ⊕ XT)) (f lo : Nat) (hS : ∀ (h : CH) (r : CR) (o : Nat) (a : Int32) (z : (Nat × CS) ⊕ XT), S h r o a = some z → xMet l yX5_expression (ws_ yX5_expression cX5_expression 3 (some (.object "TwinInk$Form"))) f lo γ (h, r) [.ref o, .int a] (xR z)) (h : CH) (r : CR) (o : Nat) (a0 : Int32) (z : (Nat × CS) ⊕ XT) (hz : C5_expressionS S γ.2.2.2.2.2 h r o a0 = some z) : xMet l yX5_expression (ws_ yX5_expression cX5_expression 3 (some (.object "TwinInk$Form"))) (f + 17) (lo + 550) γ (h, r) [.ref o, .int a0] (xR z) := by
  refine x_start (cc := cX5_expression) (own := RX5) hO rfl rfl rfl (fun p e R s m args below meth c Q ls X hR hnm h0H hA hl hend hthr hdir => ?_)
  have hx := X.1.1
  have hb := X.1.2.1
  have hit := hz
  clear hz
  unfold C5_expressionS at hit
  have hl : lv_has ls 3 [(0, .ref o), (1, .int a0)] := hl
  refine lv_aload_n hx hb dX5_expression_0 rfl (lv_at hl 0 rfl) ?_
  refine lv_aload_n hx hb dX5_expression_1 rfl (lv_at hl 0 rfl) ?_
  obtain ⟨v1, ev1, hit⟩ := o_bind hit
  refine c_getI X hA.1.1 kc_Reader 8 q791 (Or.inl rfl) rfl rfl ev1 dX5_expression_2 ?_
  refine lv_iconst (v := 2) hx hb dX5_expression_5 (by decide) ?_
  obtain ⟨wr2, er2, hxr2⟩ := xg_bind hit
  have hr2 : ∀ (r2 : Int32), wr2 = .inl r2 → ∀ (H : Heap) (locs : List Loc) (cells slots : Nat) (ls : Array Slot), AI γ (h, r) s R h r H locs cells slots → lv_has ls 3 [(0, .ref o), (1, .int a0)] → W p l e R s m args below meth c H locs cells slots Q (F0 m 31 ls [.int r2, .ref o]) := by
    intro r2 hw_ H locs cells slots ls hA hl
    have hit := xk_l hxr2 hw_
    refine lv_iconst (v := 1) hx hb dX5_expression_31 (by decide) ?_
    rcases xg_inv hit with ⟨q3, eq3, hit⟩ | ⟨x_q3, eq3, he⟩
    rotate_left
    · obtain ⟨iq3, eq3⟩ := vc_inv eq3
      obtain ⟨eq3, lq3⟩ := xchv_r eq3
      refine t_cV X h0H hA kc_Reader (xMet.tv (wC5_want l hT γ X.2.1 _ _ _ _ _ _ eq3)) lq3 iq3 nm_X5_want q953 q955 q146 q956 qs18 ⟨Nat.le_trans (by omega) hR.1, Nat.le_trans (by omega) hR.2⟩ rfl rfl hl.1 (lv_room (Nat.le_of_ble_eq_true rfl)) dX5_expression_32 (fun H locs cells slots q_ hA hq => ?_)
      exact hthr _ _ _ _ _ _ _ _ _ (by subst he; rfl) hA hq
    obtain ⟨iq3, eq3⟩ := vc_inv eq3
    obtain ⟨eq3, lq3⟩ := xchv_l eq3
    refine a_cV X h0H hA kc_Reader (xMet.v (wC5_want l hT γ X.2.1 _ _ _ _ _ _ eq3)) lq3 iq3 nm_X5_want q953 q955 q146 q956 qs18 ⟨Nat.le_trans (by omega) hR.1, Nat.le_trans (by omega) hR.2⟩ rfl rfl hl.1 (lv_room (Nat.le_of_ble_eq_true rfl)) dX5_expression_32 (fun H locs cells slots hA => ?_)
    refine lv_aload_n hx hb dX5_expression_35 rfl (lv_at hl 0 rfl) ?_
    refine lv_iload_n hx hb dX5_expression_36 rfl (lv_at hl 1 rfl) ?_
    refine lv_bipush (v := 6) hx hb dX5_expression_37 (by decide) ?_
    obtain ⟨wr4, er4, hxr4⟩ := xg_bind hit
    have hr4 : ∀ (r4 : Int32), wr4 = .inl r4 → ∀ (H : Heap) (locs : List Loc) (cells slots : Nat) (ls : Array Slot), AI γ (h, r) s R q3.1 q3.2 H locs cells slots → lv_has ls 3 [(0, .ref o), (1, .int a0)] → W p l e R s m args below meth c H locs cells slots Q (F0 m 47 ls [.int r4, .ref o]) := by
      intro r4 hw_ H locs cells slots ls hA hl
      have hit := xk_l hxr4 hw_
      refine lv_iconst (v := 2) hx hb dX5_expression_47 (by decide) ?_
      rcases xg_inv hit with ⟨q5, eq5, hit⟩ | ⟨x_q5, eq5, he⟩
      rotate_left
      · obtain ⟨iq5, eq5⟩ := vc_inv eq5
        obtain ⟨eq5, lq5⟩ := xchv_r eq5
        refine t_cV X h0H hA kc_Reader (xMet.tv (wC5_want l hT γ X.2.1 _ _ _ _ _ _ eq5)) lq5 iq5 nm_X5_want q953 q955 q146 q956 qs18 ⟨Nat.le_trans (by omega) hR.1, Nat.le_trans (by omega) hR.2⟩ rfl rfl hl.1 (lv_room (Nat.le_of_ble_eq_true rfl)) dX5_expression_48 (fun H locs cells slots q_ hA hq => ?_)
        exact hthr _ _ _ _ _ _ _ _ _ (by subst he; rfl) hA hq
      obtain ⟨iq5, eq5⟩ := vc_inv eq5
      obtain ⟨eq5, lq5⟩ := xchv_l eq5
      refine a_cV X h0H hA kc_Reader (xMet.v (wC5_want l hT γ X.2.1 _ _ _ _ _ _ eq5)) lq5 iq5 nm_X5_want q953 q955 q146 q956 qs18 ⟨Nat.le_trans (by omega) hR.1, Nat.le_trans (by omega) hR.2⟩ rfl rfl hl.1 (lv_room (Nat.le_of_ble_eq_true rfl)) dX5_expression_48 (fun H locs cells slots hA => ?_)
      obtain ⟨s6, es6, hit⟩ := o_bind hit
      refine a_new X hA kc_Chain q997 q998 q154 (fs := [.null, .null]) (by decide +kernel) es6 dX5_expression_51 (fun H cells slots hA => ?_)
      refine lv_dup hx hb dX5_expression_54 rfl ?_
      refine lv_aload_n hx hb dX5_expression_55 rfl (lv_at hl 0 rfl) ?_
      refine lv_iload_n hx hb dX5_expression_56 rfl (lv_at hl 1 rfl) ?_
      rcases xg_inv hit with ⟨q7, eq7, hit⟩ | ⟨x_q7, eq7, he⟩
      rotate_left
      · obtain ⟨iq7, eq7⟩ := vc_inv eq7
        obtain ⟨eq7, lq7⟩ := xchk_r eq7
        refine t_cV X h0H hA kc_Reader (xMet.tr (wC5_andS l hT γ X.2.1 S f lo hS _ _ _ _ _ eq7)) lq7 iq7 nm_X5_and q999 q1001 q146 q1002 qs23 ⟨Nat.le_trans (by omega) hR.1, Nat.le_trans (by omega) hR.2⟩ rfl rfl hl.1 (lv_room (Nat.le_of_ble_eq_true rfl)) dX5_expression_57 (fun H locs cells slots q_ hA hq => ?_)
        exact hthr _ _ _ _ _ _ _ _ _ (by subst he; rfl) hA hq
      obtain ⟨iq7, eq7⟩ := vc_inv eq7
      obtain ⟨eq7, lq7⟩ := xchk_l eq7
      refine a_cV X h0H hA kc_Reader (xMet.r (wC5_andS l hT γ X.2.1 S f lo hS _ _ _ _ _ eq7)) lq7 iq7 nm_X5_and q999 q1001 q146 q1002 qs23 ⟨Nat.le_trans (by omega) hR.1, Nat.le_trans (by omega) hR.2⟩ rfl rfl hl.1 (lv_room (Nat.le_of_ble_eq_true rfl)) dX5_expression_57 (fun H locs cells slots hA => ?_)
      obtain ⟨q8, eq8, hit⟩ := o_bind hit
      obtain ⟨eq8, lq8⟩ := achv_inv eq8
      refine a_cI X h0H hA nm_X7_init q1040 q1041 q154 q1042 rfl (wC7_init l γ X.2.1 _ _ _ _ _ eq8) lq8 ⟨Nat.le_trans (by omega) hR.1, Nat.le_trans (by omega) hR.2⟩ rfl rfl hl.1 (lv_room (Nat.le_of_ble_eq_true rfl)) dX5_expression_60 (fun H locs cells slots hA => ?_)
      refine lv_astore_n (lv' := [(2, .ref q5.2.1), (0, .ref o), (1, .int a0)]) hx hb dX5_expression_63 rfl hl (by decide) rfl (fun ls hl => ?_)
      obtain ⟨wr11, er11, hxr11⟩ := xg_bind hit
      have hr11 : ∀ (r11 : CS), wr11 = .inl r11 → ∀ (H : Heap) (locs : List Loc) (cells slots : Nat) (ls : Array Slot), AI γ (h, r) s R r11.1 r11.2 H locs cells slots → lv_has ls 3 [(2, .ref q5.2.1)] → W p l e R s m args below meth c H locs cells slots Q (F0 m 87 ls []) := by
        intro r11 hw_ H locs cells slots ls hA hl
        have hit := xk_l hxr11 hw_
        refine lv_aload_n hx hb dX5_expression_87 rfl (lv_at hl 0 rfl) ?_
        obtain ⟨q12, eq12, hit⟩ := o_bind hit
        obtain ⟨iq12, eq12⟩ := vc_inv eq12
        refine c_cR X hA.1.1 (fun U hU hW => hA.D X.2.1 X.2.2 h0H hU hW) kc_Chain (wC7_plain l γ X.2.1 _ _  _ eq12) iq12 nm_X7_plain q1151 q1152 q154 q1154 q1153 ⟨Nat.le_trans (by omega) hR.1, Nat.le_trans (by omega) hR.2⟩ hA.RR rfl rfl hl.1 (lv_room (Nat.le_of_ble_eq_true rfl)) dX5_expression_88 ?_
        have he := o_in hit
        exact hend (some (.ref q12)) r11 _ _ _ _ _ _ _ _ (kOut_o) (by subst he; rfl) hA dX5_expression_91
      refine o_rec (P := fun t9 => ∀ (H : Heap) (locs : List Loc) (cells slots : Nat) (ls : Array Slot), AI γ (h, r) s R t9.1 t9.2 H locs cells slots → lv_has ls 3 [(2, .ref q5.2.1), (0, .ref o), (1, .int a0)] → W p l e R s m args below meth c H locs cells slots Q (F0 m 64 ls [])) (fun t9 x10 hit hC9 hE9 H locs cells slots ls hA hl => ?_) _ er11 _ _ _ _ _ hA hl
      unfold C5_expressionS_L64 at hit
      refine lv_aload_n hx hb dX5_expression_64 rfl (lv_at hl 1 rfl) ?_
      refine c_ldcS X 15 (by decide) rfl dX5_expression_65 ?_
      obtain ⟨q13, eq13, hit⟩ := o_bind hit
      obtain ⟨iq13, eq13⟩ := vc_inv eq13
      refine c_cN X (kA_F X.2.1 X.2.2 h0H) hA.1 kc_Reader (wC5_passes l γ X.2.1 _ _ _ _ eq13) iq13 nm_X5_passes q1166 q1168 q146 q1169 qs29 ⟨Nat.le_trans (by omega) hR.1, Nat.le_trans (by omega) hR.2⟩ hA.RR rfl rfl hl.1 (lv_room (Nat.le_of_ble_eq_true rfl)) dX5_expression_67 (fun H locs hI => ?_)
      replace hA := hA.up hI
      clear hI
      refine b_if_eq (tgt := 87) hx hb dX5_expression_70 (by decide) hit (fun c14 hit => ?_) (fun c14 hit => ?_)
      · have he := o_in hit
        have he := hE9 _ he
        exact hr11 _ he.symm _ _ _ _ _ hA (lv_sub hl [0] rfl)
      · refine lv_aload_n hx hb dX5_expression_73 rfl (lv_at hl 0 rfl) ?_
        refine lv_bipush (v := 124) hx hb dX5_expression_74 (by decide) ?_
        refine lv_aload_n hx hb dX5_expression_76 rfl (lv_at hl 1 rfl) ?_
        refine lv_iload_n hx hb dX5_expression_77 rfl (lv_at hl 2 rfl) ?_
        rcases xg_inv hit with ⟨q15, eq15, hit⟩ | ⟨x_q15, eq15, he⟩
        rotate_left
        · obtain ⟨iq15, eq15⟩ := vc_inv eq15
          obtain ⟨eq15, lq15⟩ := xchk_r eq15
          refine t_cV X h0H hA kc_Reader (xMet.tr (wC5_andS l hT γ X.2.1 S f lo hS _ _ _ _ _ eq15)) lq15 iq15 nm_X5_and q999 q1001 q146 q1002 qs23 ⟨Nat.le_trans (by omega) hR.1, Nat.le_trans (by omega) hR.2⟩ rfl rfl hl.1 (lv_room (Nat.le_of_ble_eq_true rfl)) dX5_expression_78 (fun H locs cells slots q_ hA hq => ?_)
          have he := hE9 _ he
          have he := xk_r hxr11 he
          exact hthr _ _ _ _ _ _ _ _ _ (by subst he; rfl) hA hq
        obtain ⟨iq15, eq15⟩ := vc_inv eq15
        obtain ⟨eq15, lq15⟩ := xchk_l eq15
        refine a_cV X h0H hA kc_Reader (xMet.r (wC5_andS l hT γ X.2.1 S f lo hS _ _ _ _ _ eq15)) lq15 iq15 nm_X5_and q999 q1001 q146 q1002 qs23 ⟨Nat.le_trans (by omega) hR.1, Nat.le_trans (by omega) hR.2⟩ rfl rfl hl.1 (lv_room (Nat.le_of_ble_eq_true rfl)) dX5_expression_78 (fun H locs cells slots hA => ?_)
        obtain ⟨q16, eq16, hit⟩ := o_bind hit
        obtain ⟨iq16, eq16⟩ := vc_inv eq16
        obtain ⟨eq16, lq16⟩ := achv_inv eq16
        refine a_cV X h0H hA kc_Chain (wC7_add l γ X.2.1 _ _ _ _ _ _ eq16) lq16 iq16 nm_X7_add q1087 q1088 q154 q1090 q1089 ⟨Nat.le_trans (by omega) hR.1, Nat.le_trans (by omega) hR.2⟩ rfl rfl hl.1 (lv_room (Nat.le_of_ble_eq_true rfl)) dX5_expression_81 (fun H locs cells slots hA => ?_)
        refine lv_goto (tgt := 64) hx hb dX5_expression_84 (by decide) ?_
        have he := o_in hit
        exact hC9 _ he _ _ _ _ _ hA hl
    have hit := er4
    refine b_icmp_ge (tgt := 46) hx hb dX5_expression_39 (by decide) hit (fun c17 hit => ?_) (fun c17 hit => ?_)
    · refine lv_iconst (v := 0) hx hb dX5_expression_46 (by decide) ?_
      have he := o_in hit
      exact hr4 _ he.symm _ _ _ _ _ hA hl
    · refine lv_iconst (v := 1) hx hb dX5_expression_42 (by decide) ?_
      refine lv_goto (tgt := 47) hx hb dX5_expression_43 (by decide) ?_
      have he := o_in hit
      exact hr4 _ he.symm _ _ _ _ _ hA hl
  have hit := er2
  refine b_icmp_eq (tgt := 26) hx hb dX5_expression_6 (by decide) hit (fun c18 hit => ?_) (fun c18 hit => ?_)
  · refine lv_iconst (v := 1) hx hb dX5_expression_26 (by decide) ?_
    refine lv_goto (tgt := 31) hx hb dX5_expression_27 (by decide) ?_
    have he := o_in hit
    exact hr2 _ he.symm _ _ _ _ _ hA hl
  · refine lv_aload_n hx hb dX5_expression_9 rfl (lv_at hl 0 rfl) ?_
    obtain ⟨v19, ev19, hit⟩ := o_bind hit
    refine c_getI X hA.1.1 kc_Reader 8 q791 (Or.inl rfl) rfl rfl ev19 dX5_expression_10 ?_
    refine lv_iconst (v := 1) hx hb dX5_expression_13 (by decide) ?_
    refine b_icmp_eq (tgt := 26) hx hb dX5_expression_14 (by decide) hit (fun c20 hit => ?_) (fun c20 hit => ?_)
    · refine lv_iconst (v := 1) hx hb dX5_expression_26 (by decide) ?_
      refine lv_goto (tgt := 31) hx hb dX5_expression_27 (by decide) ?_
      have he := o_in hit
      exact hr2 _ he.symm _ _ _ _ _ hA hl
    · refine lv_aload_n hx hb dX5_expression_17 rfl (lv_at hl 0 rfl) ?_
      refine lv_bipush (v := 40) hx hb dX5_expression_18 (by decide) ?_
      obtain ⟨q21, eq21, hit⟩ := o_bind hit
      obtain ⟨iq21, eq21⟩ := vc_inv eq21
      refine c_cR X hA.1.1 (fun U hU hW => hA.D X.2.1 X.2.2 h0H hU hW) kc_Reader (wC5_isSign l γ X.2.1 _ _ _ _ eq21) iq21 nm_X5_isSign q993 q995 q146 q996 qs22 ⟨Nat.le_trans (by omega) hR.1, Nat.le_trans (by omega) hR.2⟩ hA.RR rfl rfl hl.1 (lv_room (Nat.le_of_ble_eq_true rfl)) dX5_expression_20 ?_
      refine b_if_eq (tgt := 30) hx hb dX5_expression_23 (by decide) hit (fun c22 hit => ?_) (fun c22 hit => ?_)
      · refine lv_iconst (v := 0) hx hb dX5_expression_30 (by decide) ?_
        have he := o_in hit
        exact hr2 _ he.symm _ _ _ _ _ hA hl
      · refine lv_iconst (v := 1) hx hb dX5_expression_26 (by decide) ?_
        refine lv_goto (tgt := 31) hx hb dX5_expression_27 (by decide) ?_
        have he := o_in hit
        exact hr2 _ he.symm _ _ _ _ _ hA hl
noncomputable def C5_expr_n (K : Nat → Nat) : Nat → CH → CR → Nat → Int32 → Option ((Nat × CS) ⊕ XT)
  | 0, _, _, _, _ => none
  | n + 1, h, r, o, a => C5_expressionS (C5_expr_n K n) K h r o a
noncomputable def C5_expression (K : Nat → Nat) : CH → CR → Nat → Int32 → Option ((Nat × CS) ⊕ XT) := C5_expr_n K 9
theorem wC5_expr_n (l : Launch) (hT : l.stackTraces = false) (γ : KG) (hO : kOK γ) : ∀ (n : Nat) (h : CH) (r : CR) (o : Nat) (a : Int32) (z : (Nat × CS) ⊕ XT), C5_expr_n γ.2.2.2.2.2 n h r o a = some z → xMet l yX5_expression (ws_ yX5_expression cX5_expression 3 (some (.object "TwinInk$Form"))) (17 * n) (550 * n) γ (h, r) [.ref o, .int a] (xR z)
  | 0, h, r, o, a, z, hz => by cases hz
  | n + 1, h, r, o, a, z, hz => wC5_expressionS l hT γ hO (C5_expr_n γ.2.2.2.2.2 n) (17 * n) (550 * n) (wC5_expr_n l hT γ hO n) h r o a z hz
theorem wC5_expression (l : Launch) (hT : l.stackTraces = false) (γ : KG) (hO : kOK γ) (h : CH) (r : CR) (o : Nat) (a0 : Int32) (z : (Nat × CS) ⊕ XT) (hz : C5_expression γ.2.2.2.2.2 h r o a0 = some z) : xMet l yX5_expression (ws_ yX5_expression cX5_expression 3 (some (.object "TwinInk$Form"))) 153 4950 γ (h, r) [.ref o, .int a0] (xR z) := wC5_expr_n l hT γ hO 9 h r o a0 z hz

