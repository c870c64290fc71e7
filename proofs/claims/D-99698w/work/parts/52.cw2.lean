noncomputable def C5_here (h : CH) (o : Nat) : Option (Int32) :=
  (gI h o 4 7).bind fun v1 =>
  (gI h o 4 0).bind fun v2 =>
  if v1 < v2 then
    ((gR h o 4 13).bind fun v4 =>
    (gR h v4 1 4).bind fun v5 =>
    (gI h o 4 7).bind fun v6 =>
    (aI h v5 2 v6).bind fun v7 =>
    some (v7 &&& 255))
  else
    (some (-1))
theorem nm_X5_here : kNm yX5_here RX5 0 := by unfold kNm; decide +kernel
set_option maxHeartbeats 4000000 in
set_option maxRecDepth 100000 in
theorem wC5_here (l : Launch) (γ : KG) (hO : kOK γ) (h : CH) (o : Nat) (z : Int32) (hz : C5_here h o = some z) : Met l yX5_here (ws_ yX5_here cX5_here 1 (some .int)) (kRm 0 0) (cPc γ h [.ref o]) (cRq (.int z)) 0 0 vp_nf := by
  refine c_startR (cc := cX5_here) (own := RX5) hO rfl rfl rfl (fun p e R s m args below meth c Q ls X hR hH hDU hl hend => ?_)
  have hx := X.1.1
  have hb := X.1.2.1
  have hit := hz
  clear hz
  unfold C5_here at hit
  have hl : lv_has ls 1 [(0, .ref o)] := hl
  refine lv_aload_n hx hb dX5_here_0 rfl (lv_at hl 0 rfl) ?_
  obtain ⟨v1, ev1, hit⟩ := o_bind hit
  refine c_getI X hH kc_Reader 7 q790 (Or.inl rfl) rfl rfl ev1 dX5_here_1 ?_
  refine lv_aload_n hx hb dX5_here_4 rfl (lv_at hl 0 rfl) ?_
  obtain ⟨v2, ev2, hit⟩ := o_bind hit
  refine c_getI X hH kc_Reader 0 q782 (Or.inl rfl) rfl rfl ev2 dX5_here_5 ?_
  refine b_icmp_ge (tgt := 30) hx hb dX5_here_8 (by decide) hit (fun c3 hit => ?_) (fun c3 hit => ?_)
  · refine lv_iconst (v := (-1)) hx hb dX5_here_30 (by decide) ?_
    have he := o_in hit
    exact hend (.int (-1)) _ _ _ _ (kOut_i rfl) (congrArg Value.int he) dX5_here_31
  · refine lv_aload_n hx hb dX5_here_11 rfl (lv_at hl 0 rfl) ?_
    obtain ⟨v4, ev4, hit⟩ := o_bind hit
    refine c_getR X hH kc_Reader 13 q797 (Or.inl rfl) rfl rfl ev4 dX5_here_12 ?_
    obtain ⟨v5, ev5, hit⟩ := o_bind hit
    refine c_getNR X hH kc_TwinInk 4 q280 (Or.inl rfl) rfl rfl ev5 dX5_here_15 ?_
    refine lv_aload_n hx hb dX5_here_18 rfl (lv_at hl 0 rfl) ?_
    obtain ⟨v6, ev6, hit⟩ := o_bind hit
    refine c_getI X hH kc_Reader 7 q790 (Or.inl rfl) rfl rfl ev6 dX5_here_19 ?_
    obtain ⟨v7, ev7, hit⟩ := o_bind hit
    refine c_bald X hH ev7 dX5_here_22 ?_
    refine lv_sipush (v := 255) hx hb dX5_here_23 (by decide) ?_
    refine lv_iand hx hb dX5_here_26 ?_
    refine lv_goto (tgt := 31) hx hb dX5_here_27 (by decide) ?_
    have he := o_in hit
    exact hend (.int (v7 &&& 255)) _ _ _ _ (kOut_i rfl) (congrArg Value.int he) dX5_here_31
noncomputable def C5_isLetter (h : CH) (o : Nat) : Option (Int32) :=
  (vc h o 4 (C5_here h o)).bind fun q1 =>
  (C1_in q1 97 122).bind fun q2 =>
  some (vp_nar .boolean q2)
theorem nm_X5_isLetter : kNm yX5_isLetter RX5 0 := by unfold kNm; decide +kernel
set_option maxHeartbeats 4000000 in
set_option maxRecDepth 100000 in
theorem wC5_isLetter (l : Launch) (γ : KG) (hO : kOK γ) (h : CH) (o : Nat) (z : Int32) (hz : C5_isLetter h o = some z) : Met l yX5_isLetter (ws_ yX5_isLetter cX5_isLetter 1 (some .boolean)) (kRm 1 22) (cPc γ h [.ref o]) (cRq (.int z)) 0 0 vp_nf := by
  refine c_startR (cc := cX5_isLetter) (own := RX5) hO rfl rfl rfl (fun p e R s m args below meth c Q ls X hR hH hDU hl hend => ?_)
  have hx := X.1.1
  have hb := X.1.2.1
  have hit := hz
  clear hz
  unfold C5_isLetter at hit
  have hl : lv_has ls 1 [(0, .ref o)] := hl
  refine lv_aload_n hx hb dX5_isLetter_0 rfl (lv_at hl 0 rfl) ?_
  obtain ⟨q1, eq1, hit⟩ := o_bind hit
  obtain ⟨iq1, eq1⟩ := vc_inv eq1
  refine c_cR X hH hDU kc_Reader (wC5_here l γ X.2.1 _ _  _ eq1) iq1 nm_X5_here q835 q837 q146 q838 qs11 ⟨Nat.le_trans (Nat.le_of_ble_eq_true rfl) hR.1, Nat.le_trans (Nat.le_of_ble_eq_true rfl) hR.2⟩ ⟨Nat.zero_le _, Nat.zero_le _⟩ rfl rfl hl.1 (lv_room (Nat.le_of_ble_eq_true rfl)) dX5_isLetter_1 ?_
  refine lv_bipush (v := 97) hx hb dX5_isLetter_4 (by decide) ?_
  refine lv_bipush (v := 122) hx hb dX5_isLetter_6 (by decide) ?_
  obtain ⟨q2, eq2, hit⟩ := o_bind hit
  refine c_cPN X (wC1_in l _ _ _ _ eq2) nm_X1_in q843 q334 q135 q335 ⟨Nat.le_trans (Nat.le_of_ble_eq_true rfl) hR.1, Nat.le_trans (Nat.le_of_ble_eq_true rfl) hR.2⟩ ⟨Nat.zero_le _, Nat.zero_le _⟩ rfl rfl hl.1 (lv_room (Nat.le_of_ble_eq_true rfl)) dX5_isLetter_8 ?_
  have he := o_in hit
  exact hend (.int (vp_nar .boolean q2)) _ _ _ _ (kOut_i rfl) (congrArg Value.int he) dX5_isLetter_11
noncomputable def C5_isDigit (h : CH) (o : Nat) : Option (Int32) :=
  (vc h o 4 (C5_here h o)).bind fun q1 =>
  (C1_in q1 48 57).bind fun q2 =>
  some (vp_nar .boolean q2)
theorem nm_X5_isDigit : kNm yX5_isDigit RX5 0 := by unfold kNm; decide +kernel
set_option maxHeartbeats 4000000 in
set_option maxRecDepth 100000 in
theorem wC5_isDigit (l : Launch) (γ : KG) (hO : kOK γ) (h : CH) (o : Nat) (z : Int32) (hz : C5_isDigit h o = some z) : Met l yX5_isDigit (ws_ yX5_isDigit cX5_isDigit 1 (some .boolean)) (kRm 1 22) (cPc γ h [.ref o]) (cRq (.int z)) 0 0 vp_nf := by
  refine c_startR (cc := cX5_isDigit) (own := RX5) hO rfl rfl rfl (fun p e R s m args below meth c Q ls X hR hH hDU hl hend => ?_)
  have hx := X.1.1
  have hb := X.1.2.1
  have hit := hz
  clear hz
  unfold C5_isDigit at hit
  have hl : lv_has ls 1 [(0, .ref o)] := hl
  refine lv_aload_n hx hb dX5_isDigit_0 rfl (lv_at hl 0 rfl) ?_
  obtain ⟨q1, eq1, hit⟩ := o_bind hit
  obtain ⟨iq1, eq1⟩ := vc_inv eq1
  refine c_cR X hH hDU kc_Reader (wC5_here l γ X.2.1 _ _  _ eq1) iq1 nm_X5_here q835 q837 q146 q838 qs11 ⟨Nat.le_trans (Nat.le_of_ble_eq_true rfl) hR.1, Nat.le_trans (Nat.le_of_ble_eq_true rfl) hR.2⟩ ⟨Nat.zero_le _, Nat.zero_le _⟩ rfl rfl hl.1 (lv_room (Nat.le_of_ble_eq_true rfl)) dX5_isDigit_1 ?_
  refine lv_bipush (v := 48) hx hb dX5_isDigit_4 (by decide) ?_
  refine lv_bipush (v := 57) hx hb dX5_isDigit_6 (by decide) ?_
  obtain ⟨q2, eq2, hit⟩ := o_bind hit
  refine c_cPN X (wC1_in l _ _ _ _ eq2) nm_X1_in q843 q334 q135 q335 ⟨Nat.le_trans (Nat.le_of_ble_eq_true rfl) hR.1, Nat.le_trans (Nat.le_of_ble_eq_true rfl) hR.2⟩ ⟨Nat.zero_le _, Nat.zero_le _⟩ rfl rfl hl.1 (lv_room (Nat.le_of_ble_eq_true rfl)) dX5_isDigit_8 ?_
  have he := o_in hit
  exact hend (.int (vp_nar .boolean q2)) _ _ _ _ (kOut_i rfl) (congrArg Value.int he) dX5_isDigit_11
noncomputable def CJ8_isLatin1 (h : CH) (o : Nat) : Option (Int32) :=
  if (1 : Int32) = 0 then
    (some 0)
  else
    ((sOk o).bind fun u2 =>
    if (0 : Int32) = 0 then
      (some 1)
    else
      (some 0))
theorem nm_J8_isLatin1 : kNm yJ8_isLatin1 RJ8 0 := by unfold kNm; decide +kernel
set_option maxHeartbeats 4000000 in
set_option maxRecDepth 100000 in
theorem wCJ8_isLatin1 (l : Launch) (γ : KG) (hO : kOK γ) (h : CH) (o : Nat) (z : Int32) (hz : CJ8_isLatin1 h o = some z) : Met l yJ8_isLatin1 (ws_ yJ8_isLatin1 cJ8_isLatin1 1 (some .boolean)) (kRm 0 0) (cPc γ h [.ref (γ.2.2.2.2.2 (10 + o))]) (cRq (.int z)) 0 0 vp_nf := by
  refine c_startR (cc := cJ8_isLatin1) (own := RJ8) hO rfl rfl rfl (fun p e R s m args below meth c Q ls X hR hH hDU hl hend => ?_)
  have hx := X.1.1
  have hb := X.1.2.1
  have hit := hz
  clear hz
  unfold CJ8_isLatin1 at hit
  have hl : lv_has ls 1 [(0, .ref (γ.2.2.2.2.2 (10 + o)))] := hl
  refine c_gets X (fun _ h => h) (va_S.rf (A := γ.2.2.2.2.1)) X.2.1.1.1 q863 dJ8_isLatin1_0 ?_
  refine b_if_eq (tgt := 17) hx hb dJ8_isLatin1_3 (by decide) hit (fun c1 hit => ?_) (fun c1 hit => ?_)
  · refine lv_iconst (v := 0) hx hb dJ8_isLatin1_17 (by decide) ?_
    have he := o_in hit
    exact hend (.int 0) _ _ _ _ (kOut_i rfl) (congrArg Value.int he) dJ8_isLatin1_18
  · refine lv_aload_n hx hb dJ8_isLatin1_6 rfl (lv_at hl 0 rfl) ?_
    obtain ⟨u2, eu2, hit⟩ := o_bind hit
    refine c_strC X (fun _ h => h) (va_S.rf (A := γ.2.2.2.2.1)) eu2 q2382 dJ8_isLatin1_7 ?_
    refine b_if_ne (tgt := 17) hx hb dJ8_isLatin1_10 (by decide) hit (fun c3 hit => ?_) (fun c3 hit => ?_)
    · refine lv_iconst (v := 0) hx hb dJ8_isLatin1_17 (by decide) ?_
      have he := o_in hit
      exact hend (.int 0) _ _ _ _ (kOut_i rfl) (congrArg Value.int he) dJ8_isLatin1_18
    · refine lv_iconst (v := 1) hx hb dJ8_isLatin1_13 (by decide) ?_
      refine lv_goto (tgt := 18) hx hb dJ8_isLatin1_14 (by decide) ?_
      have he := o_in hit
      exact hend (.int 1) _ _ _ _ (kOut_i rfl) (congrArg Value.int he) dJ8_isLatin1_18
noncomputable def CJ8_coder (h : CH) (o : Nat) : Option (Int32) :=
  if (1 : Int32) = 0 then
    (some 1)
  else
    ((sOk o).bind fun u2 =>
    some 0)
theorem nm_J8_coder : kNm yJ8_coder RJ8 0 := by unfold kNm; decide +kernel
set_option maxHeartbeats 4000000 in
set_option maxRecDepth 100000 in
theorem wCJ8_coder (l : Launch) (γ : KG) (hO : kOK γ) (h : CH) (o : Nat) (z : Int32) (hz : CJ8_coder h o = some z) : Met l yJ8_coder (ws_ yJ8_coder cJ8_coder 1 (some .byte)) (kRm 0 0) (cPc γ h [.ref (γ.2.2.2.2.2 (10 + o))]) (cRq (.int z)) 0 0 vp_nf := by
  refine c_startR (cc := cJ8_coder) (own := RJ8) hO rfl rfl rfl (fun p e R s m args below meth c Q ls X hR hH hDU hl hend => ?_)
  have hx := X.1.1
  have hb := X.1.2.1
  have hit := hz
  clear hz
  unfold CJ8_coder at hit
  have hl : lv_has ls 1 [(0, .ref (γ.2.2.2.2.2 (10 + o)))] := hl
  refine c_gets X (fun _ h => h) (va_S.rf (A := γ.2.2.2.2.1)) X.2.1.1.1 q863 dJ8_coder_0 ?_
  refine b_if_eq (tgt := 13) hx hb dJ8_coder_3 (by decide) hit (fun c1 hit => ?_) (fun c1 hit => ?_)
  · refine lv_iconst (v := 1) hx hb dJ8_coder_13 (by decide) ?_
    have he := o_in hit
    exact hend (.int 1) _ _ _ _ (kOut_i rfl) (congrArg Value.int he) dJ8_coder_14
  · refine lv_aload_n hx hb dJ8_coder_6 rfl (lv_at hl 0 rfl) ?_
    obtain ⟨u2, eu2, hit⟩ := o_bind hit
    refine c_strC X (fun _ h => h) (va_S.rf (A := γ.2.2.2.2.1)) eu2 q2382 dJ8_coder_7 ?_
    refine lv_goto (tgt := 14) hx hb dJ8_coder_10 (by decide) ?_
    have he := o_in hit
    exact hend (.int 0) _ _ _ _ (kOut_i rfl) (congrArg Value.int he) dJ8_coder_14
noncomputable def CJ8_length (K : Nat → Nat) (h : CH) (o : Nat) : Option (Int32) :=
  (sOk o).bind fun u1 =>
  (aNb K h (K (30 + o))).bind fun v2 =>
  (sOk o).bind fun u3 =>
  (CJ8_coder h o).bind fun q4 =>
  some (v2 >>> (q4 &&& 31))
theorem nm_J8_length : kNm yJ8_length RJ8 0 := by unfold kNm; decide +kernel
set_option maxHeartbeats 4000000 in
set_option maxRecDepth 100000 in
theorem wCJ8_length (l : Launch) (γ : KG) (hO : kOK γ) (h : CH) (o : Nat) (z : Int32) (hz : CJ8_length γ.2.2.2.2.2 h o = some z) : Met l yJ8_length (ws_ yJ8_length cJ8_length 1 (some .int)) (kRm 1 20) (cPc γ h [.ref (γ.2.2.2.2.2 (10 + o))]) (cRq (.int z)) 0 0 vp_nf := by
  refine c_startR (cc := cJ8_length) (own := RJ8) hO rfl rfl rfl (fun p e R s m args below meth c Q ls X hR hH hDU hl hend => ?_)
  have hx := X.1.1
  have hb := X.1.2.1
  have hit := hz
  clear hz
  unfold CJ8_length at hit
  have hl : lv_has ls 1 [(0, .ref (γ.2.2.2.2.2 (10 + o)))] := hl
  refine lv_aload_n hx hb dJ8_length_0 rfl (lv_at hl 0 rfl) ?_
  obtain ⟨u1, eu1, hit⟩ := o_bind hit
  refine c_strV X (fun _ h => h) (va_S.rf (A := γ.2.2.2.2.1)) eu1 q2383 dJ8_length_1 ?_
  obtain ⟨v2, ev2, hit⟩ := o_bind hit
  refine c_alenB X (fun _ h => h) (va_S.rf (A := γ.2.2.2.2.1)) hH ev2 dJ8_length_4 ?_
  refine lv_aload_n hx hb dJ8_length_5 rfl (lv_at hl 0 rfl) ?_
  obtain ⟨u3, eu3, hit⟩ := o_bind hit
  obtain ⟨q4, eq4, hit⟩ := o_bind hit
  refine c_cRk X (fun _ h => h) (va_S.rf (A := γ.2.2.2.2.1)) hH hDU eu3 (wCJ8_coder l γ X.2.1 _ _  _ eq4) nm_J8_coder q869 q870 q148 q872 q871 ⟨Nat.le_trans (Nat.le_of_ble_eq_true rfl) hR.1, Nat.le_trans (Nat.le_of_ble_eq_true rfl) hR.2⟩ ⟨Nat.zero_le _, Nat.zero_le _⟩ rfl rfl hl.1 (lv_room (Nat.le_of_ble_eq_true rfl)) dJ8_length_6 ?_
  refine lv_ishr hx hb dJ8_length_9 ?_
  have he := o_in hit
  exact hend (.int (v2 >>> (q4 &&& 31))) _ _ _ _ (kOut_i rfl) (congrArg Value.int he) dJ8_length_10
noncomputable def CJ9_canEncode (a0 : Int32) : Option (Int32) :=
  if a0 < 0 then
    (some 0)
  else
    (if a0 ≤ 255 then
      (some 1)
    else
      (some 0))
theorem nm_J9_canEncode : kNm yJ9_canEncode RJ9 1 := by unfold kNm; decide +kernel
set_option maxHeartbeats 4000000 in
set_option maxRecDepth 100000 in
theorem wCJ9_canEncode (l : Launch) (a0 : Int32) (z : Int32) (hz : CJ9_canEncode a0 = some z) : Met l yJ9_canEncode (ws_ yJ9_canEncode cJ9_canEncode 1 (some .boolean)) (kRm 0 0) (bPc [.int a0]) (vp_Si (fun r => r = z)) 0 0 vp_nf := by
  refine c_startP (cc := cJ9_canEncode) (own := RJ9) (ty := .boolean) rfl rfl rfl (fun p e R s m args below meth c Q ls X hR hl hend => ?_)
  have hx := X.1
  have hb := X.2.1
  have hit := hz
  clear hz
  unfold CJ9_canEncode at hit
  have hl : lv_has ls 1 [(0, .int a0)] := hl
  refine lv_iload_n hx hb dJ9_canEncode_0 rfl (lv_at hl 0 rfl) ?_
  refine b_if_lt (tgt := 15) hx hb dJ9_canEncode_1 (by decide) hit (fun c1 hit => ?_) (fun c1 hit => ?_)
  · refine lv_iconst (v := 0) hx hb dJ9_canEncode_15 (by decide) ?_
    have he := o_in hit
    exact hend _ 0 _ _ rfl he dJ9_canEncode_16
  · refine lv_iload_n hx hb dJ9_canEncode_4 rfl (lv_at hl 0 rfl) ?_
    refine lv_sipush (v := 255) hx hb dJ9_canEncode_5 (by decide) ?_
    refine b_icmp_gt (tgt := 15) hx hb dJ9_canEncode_8 (by decide) hit (fun c2 hit => ?_) (fun c2 hit => ?_)
    · refine lv_iconst (v := 0) hx hb dJ9_canEncode_15 (by decide) ?_
      have he := o_in hit
      exact hend _ 0 _ _ rfl he dJ9_canEncode_16
    · refine lv_iconst (v := 1) hx hb dJ9_canEncode_11 (by decide) ?_
      refine lv_goto (tgt := 16) hx hb dJ9_canEncode_12 (by decide) ?_
      have he := o_in hit
      exact hend _ 1 _ _ rfl he dJ9_canEncode_16
noncomputable def CJ9_indexOfChar_L7 (K : Nat → Nat) (h : CH) (a0 : Nat) (a1 : Int32) (a3 : Int32) (t1 : Int32) : Option (Int32 ⊕ Int32) :=
  if t1 < a3 then
    ((aIb K h a0 t1).bind fun v4 =>
    if v4 = (i2b_ a1) then
      (some (.inr t1))
    else
      (some (.inl (t1 + 1))))
  else
    (some (.inr (-1)))
noncomputable def CJ9_indexOfChar (K : Nat → Nat) (h : CH) (a0 : Nat) (a1 : Int32) (a2 : Int32) (a3 : Int32) : Option (Int32) :=
  o_loop (CJ9_indexOfChar_L7 K h a0 a1 a3) a2
theorem nm_J9_indexOfChar : kNm yJ9_indexOfChar RJ9 4 := by unfold kNm; decide +kernel
set_option maxHeartbeats 4000000 in
set_option maxRecDepth 100000 in
theorem wCJ9_indexOfChar (l : Launch) (γ : KG) (hO : kOK γ) (h : CH) (a0 : Nat) (a1 : Int32) (a2 : Int32) (a3 : Int32) (z : Int32) (hz : CJ9_indexOfChar γ.2.2.2.2.2 h a0 a1 a2 a3 = some z) : Met l yJ9_indexOfChar (ws_ yJ9_indexOfChar cJ9_indexOfChar 6 (some .int)) (kRm 0 0) (cPc γ h [.ref a0, .int a1, .int a2, .int a3]) (cRq (.int z)) 0 0 vp_nf := by
  refine c_startR (cc := cJ9_indexOfChar) (own := RJ9) hO rfl rfl rfl (fun p e R s m args below meth c Q ls X hR hH hDU hl hend => ?_)
  have hx := X.1.1
  have hb := X.1.2.1
  have hit := hz
  clear hz
  unfold CJ9_indexOfChar at hit
  have hl : lv_has ls 6 [(0, .ref a0), (1, .int a1), (2, .int a2), (3, .int a3)] := hl
  refine lv_iload_n hx hb dJ9_indexOfChar_0 rfl (lv_at hl 1 rfl) ?_
  refine lv_i2b hx hb dJ9_indexOfChar_1 (v := i2b_ a1) rfl ?_
  refine lv_istore (lv' := [(4, .int (i2b_ a1)), (0, .ref a0), (1, .int a1), (2, .int a2), (3, .int a3)]) hx hb dJ9_indexOfChar_2 hl (by decide) rfl (fun ls hl => ?_)
  refine lv_iload_n hx hb dJ9_indexOfChar_4 rfl (lv_at hl 3 rfl) ?_
  refine lv_istore (lv' := [(5, .int a2), (4, .int (i2b_ a1)), (0, .ref a0), (1, .int a1), (2, .int a2), (3, .int a3)]) hx hb dJ9_indexOfChar_5 hl (by decide) rfl (fun ls hl => ?_)
  refine o_rec (P := fun t1 => ∀ (ls : Array Slot), lv_has ls 6 [(4, .int (i2b_ a1)), (0, .ref a0), (3, .int a3), (5, .int t1)] → W p l e R s m args below meth c s.heap [] 0 0 Q (F0 m 7 ls [])) (fun t1 x2 hit hC1 hE1 ls hl => ?_) _ hit _ (lv_sub hl [1, 2, 5, 0] rfl)
  unfold CJ9_indexOfChar_L7 at hit
  refine lv_iload hx hb dJ9_indexOfChar_7 (lv_at hl 3 rfl) ?_
  refine lv_iload_n hx hb dJ9_indexOfChar_9 rfl (lv_at hl 2 rfl) ?_
  refine b_icmp_ge (tgt := 31) hx hb dJ9_indexOfChar_10 (by decide) hit (fun c3 hit => ?_) (fun c3 hit => ?_)
  · refine lv_iconst (v := (-1)) hx hb dJ9_indexOfChar_31 (by decide) ?_
    have he := o_in hit
    have he := hE1 _ he
    exact hend (.int (-1)) _ _ _ _ (kOut_i rfl) (congrArg Value.int he) dJ9_indexOfChar_32
  · refine lv_aload_n hx hb dJ9_indexOfChar_13 rfl (lv_at hl 1 rfl) ?_
    refine lv_iload hx hb dJ9_indexOfChar_14 (lv_at hl 3 rfl) ?_
    obtain ⟨v4, ev4, hit⟩ := o_bind hit
    refine c_baldB X (fun _ h => h) (va_S.rf (A := γ.2.2.2.2.1)) hH ev4 dJ9_indexOfChar_16 ?_
    refine lv_iload hx hb dJ9_indexOfChar_17 (lv_at hl 0 rfl) ?_
    refine b_icmp_ne (tgt := 25) hx hb dJ9_indexOfChar_19 (by decide) hit (fun c5 hit => ?_) (fun c5 hit => ?_)
    · refine lv_iinc (k := 3) (v := (t1 + 1)) (lv' := [(5, .int (t1 + 1)), (4, .int (i2b_ a1)), (0, .ref a0), (3, .int a3)]) hx hb dJ9_indexOfChar_25 hl rfl rfl (by decide) rfl (fun ls hl => ?_)
      refine lv_goto (tgt := 7) hx hb dJ9_indexOfChar_28 (by decide) ?_
      have he := o_in hit
      exact hC1 _ he _ (lv_sub hl [1, 2, 3, 0] rfl)
    · refine lv_iload hx hb dJ9_indexOfChar_22 (lv_at hl 3 rfl) ?_
      have he := o_in hit
      have he := hE1 _ he
      exact hend (.int t1) _ _ _ _ (kOut_i rfl) (congrArg Value.int he) dJ9_indexOfChar_24
noncomputable def CJ9_indexOf (K : Nat → Nat) (h : CH) (a0 : Nat) (a1 : Int32) (a2 : Int32) (a3 : Int32) : Option (Int32) :=
  (CJ9_canEncode a1).bind fun q1 =>
  if q1 = 0 then
    (some (-1))
  else
    ((aNb K h a0).bind fun v3 =>
    if (imax a2 0) < (imin a3 v3) then
      ((CJ9_indexOfChar K h a0 a1 (imax a2 0) (imin a3 v3)).bind fun q5 =>
      some q5)
    else
      (some (-1)))
theorem nm_J9_indexOf : kNm yJ9_indexOf RJ9 4 := by unfold kNm; decide +kernel
set_option maxHeartbeats 4000000 in
set_option maxRecDepth 100000 in
theorem wCJ9_indexOf (l : Launch) (γ : KG) (hO : kOK γ) (h : CH) (a0 : Nat) (a1 : Int32) (a2 : Int32) (a3 : Int32) (z : Int32) (hz : CJ9_indexOf γ.2.2.2.2.2 h a0 a1 a2 a3 = some z) : Met l yJ9_indexOf (ws_ yJ9_indexOf cJ9_indexOf 4 (some .int)) (kRm 1 30) (cPc γ h [.ref a0, .int a1, .int a2, .int a3]) (cRq (.int z)) 0 0 vp_nf := by
  refine c_startR (cc := cJ9_indexOf) (own := RJ9) hO rfl rfl rfl (fun p e R s m args below meth c Q ls X hR hH hDU hl hend => ?_)
  have hx := X.1.1
  have hb := X.1.2.1
  have hit := hz
  clear hz
  unfold CJ9_indexOf at hit
  have hl : lv_has ls 4 [(0, .ref a0), (1, .int a1), (2, .int a2), (3, .int a3)] := hl
  refine lv_iload_n hx hb dJ9_indexOf_0 rfl (lv_at hl 1 rfl) ?_
  obtain ⟨q1, eq1, hit⟩ := o_bind hit
  refine c_cP X.1 (wCJ9_canEncode l _ _ eq1) nm_J9_canEncode q876 q877 q149 q878 ⟨Nat.le_trans (Nat.le_of_ble_eq_true rfl) hR.1, Nat.le_trans (Nat.le_of_ble_eq_true rfl) hR.2⟩ ⟨Nat.zero_le _, Nat.zero_le _⟩ rfl rfl hl.1 (lv_room (Nat.le_of_ble_eq_true rfl)) dJ9_indexOf_1 ?_
  refine b_if_ne (tgt := 9) hx hb dJ9_indexOf_4 (by decide) hit (fun c2 hit => ?_) (fun c2 hit => ?_)
  · refine lv_iload_n hx hb dJ9_indexOf_9 rfl (lv_at hl 2 rfl) ?_
    refine lv_iconst (v := 0) hx hb dJ9_indexOf_10 (by decide) ?_
    refine b_max X.1 hl.1 q879 (Nat.le_trans (Nat.le_of_ble_eq_true rfl) hR.1) (Nat.le_trans (Nat.le_of_ble_eq_true rfl) hR.2) ⟨Nat.zero_le _, Nat.zero_le _⟩ dJ9_indexOf_11 ?_
    refine lv_istore_n (lv' := [(2, .int (imax a2 0)), (0, .ref a0), (1, .int a1), (3, .int a3)]) hx hb dJ9_indexOf_14 rfl hl (by decide) rfl (fun ls hl => ?_)
    refine lv_iload_n hx hb dJ9_indexOf_15 rfl (lv_at hl 3 rfl) ?_
    refine lv_aload_n hx hb dJ9_indexOf_16 rfl (lv_at hl 1 rfl) ?_
    obtain ⟨v3, ev3, hit⟩ := o_bind hit
    refine c_alenB X (fun _ h => h) (va_S.rf (A := γ.2.2.2.2.1)) hH ev3 dJ9_indexOf_17 ?_
    refine b_min X.1 hl.1 q880 (Nat.le_trans (Nat.le_of_ble_eq_true rfl) hR.1) (Nat.le_trans (Nat.le_of_ble_eq_true rfl) hR.2) ⟨Nat.zero_le _, Nat.zero_le _⟩ dJ9_indexOf_18 ?_
    refine lv_istore_n (lv' := [(3, .int (imin a3 v3)), (2, .int (imax a2 0)), (0, .ref a0), (1, .int a1)]) hx hb dJ9_indexOf_21 rfl hl (by decide) rfl (fun ls hl => ?_)
    refine lv_iload_n hx hb dJ9_indexOf_22 rfl (lv_at hl 1 rfl) ?_
    refine lv_iload_n hx hb dJ9_indexOf_23 rfl (lv_at hl 0 rfl) ?_
    refine b_icmp_lt (tgt := 29) hx hb dJ9_indexOf_24 (by decide) hit (fun c4 hit => ?_) (fun c4 hit => ?_)
    · refine lv_aload_n hx hb dJ9_indexOf_29 rfl (lv_at hl 2 rfl) ?_
      refine lv_iload_n hx hb dJ9_indexOf_30 rfl (lv_at hl 3 rfl) ?_
      refine lv_iload_n hx hb dJ9_indexOf_31 rfl (lv_at hl 1 rfl) ?_
      refine lv_iload_n hx hb dJ9_indexOf_32 rfl (lv_at hl 0 rfl) ?_
      obtain ⟨q5, eq5, hit⟩ := o_bind hit
      refine c_cRS X hH hDU (wCJ9_indexOfChar l γ X.2.1 _ _ _ _ _ _ eq5) nm_J9_indexOfChar q881 q882 q149 q883 ⟨Nat.le_trans (Nat.le_of_ble_eq_true rfl) hR.1, Nat.le_trans (Nat.le_of_ble_eq_true rfl) hR.2⟩ ⟨Nat.zero_le _, Nat.zero_le _⟩ rfl rfl hl.1 (lv_room (Nat.le_of_ble_eq_true rfl)) dJ9_indexOf_33 ?_
      have he := o_in hit
      exact hend (.int q5) _ _ _ _ (kOut_i rfl) (congrArg Value.int he) dJ9_indexOf_36
    · refine lv_iconst (v := (-1)) hx hb dJ9_indexOf_27 (by decide) ?_
      have he := o_in hit
      exact hend (.int (-1)) _ _ _ _ (kOut_i rfl) (congrArg Value.int he) dJ9_indexOf_28
  · refine lv_iconst (v := (-1)) hx hb dJ9_indexOf_7 (by decide) ?_
    have he := o_in hit
    exact hend (.int (-1)) _ _ _ _ (kOut_i rfl) (congrArg Value.int he) dJ9_indexOf_8
noncomputable def CJ11_checkFromToIndex (a0 : Int32) (a1 : Int32) (a2 : Int32) : Option (Int32) :=
  if a0 < 0 then
    (none)
  else
    (if a0 ≤ a1 then
      (if a1 ≤ a2 then
        (some a0)
      else
        (none))
    else
      (none))
theorem nm_J11_checkFromToIndex : kNm yJ11_checkFromToIndex RJ11 4 := by unfold kNm; decide +kernel
set_option maxHeartbeats 4000000 in
set_option maxRecDepth 100000 in
theorem wCJ11_checkFromToIndex (l : Launch) (a0 : Int32) (a1 : Int32) (a2 : Int32) (a3 : Option Nat) (z : Int32) (hz : CJ11_checkFromToIndex a0 a1 a2 = some z) : Met l yJ11_checkFromToIndex (ws_ yJ11_checkFromToIndex cJ11_checkFromToIndex 4 (some .int)) (kRm 0 0) (bPc [.int a0, .int a1, .int a2, va_rf a3]) (vp_Si (fun r => r = z)) 0 0 vp_nf := by
  cases a3 with
  | none =>
    refine c_startP (cc := cJ11_checkFromToIndex) (own := RJ11) (ty := .int) rfl rfl rfl (fun p e R s m args below meth c Q ls X hR hl hend => ?_)
    have hx := X.1
    have hb := X.2.1
    have hit := hz
    clear hz
    unfold CJ11_checkFromToIndex at hit
    have hl : lv_has ls 4 [(0, .int a0), (1, .int a1), (2, .int a2), (3, va_rf none)] := hl
    refine lv_iload_n hx hb dJ11_checkFromToIndex_0 rfl (lv_at hl 0 rfl) ?_
    refine b_if_lt (tgt := 14) hx hb dJ11_checkFromToIndex_1 (by decide) hit (fun c1 hit => ?_) (fun c1 hit => ?_)
    · cases hit
    · refine lv_iload_n hx hb dJ11_checkFromToIndex_4 rfl (lv_at hl 0 rfl) ?_
      refine lv_iload_n hx hb dJ11_checkFromToIndex_5 rfl (lv_at hl 1 rfl) ?_
      refine b_icmp_gt (tgt := 14) hx hb dJ11_checkFromToIndex_6 (by decide) hit (fun c2 hit => ?_) (fun c2 hit => ?_)
      · cases hit
      · refine lv_iload_n hx hb dJ11_checkFromToIndex_9 rfl (lv_at hl 1 rfl) ?_
        refine lv_iload_n hx hb dJ11_checkFromToIndex_10 rfl (lv_at hl 2 rfl) ?_
        refine b_icmp_le (tgt := 22) hx hb dJ11_checkFromToIndex_11 (by decide) hit (fun c3 hit => ?_) (fun c3 hit => ?_)
        · refine lv_iload_n hx hb dJ11_checkFromToIndex_22 rfl (lv_at hl 0 rfl) ?_
          have he := o_in hit
          exact hend _ a0 _ _ rfl he dJ11_checkFromToIndex_23
        · cases hit
  | some b_ =>
    refine c_startP (cc := cJ11_checkFromToIndex) (own := RJ11) (ty := .int) rfl rfl rfl (fun p e R s m args below meth c Q ls X hR hl hend => ?_)
    have hx := X.1
    have hb := X.2.1
    have hit := hz
    clear hz
    unfold CJ11_checkFromToIndex at hit
    have hl : lv_has ls 4 [(0, .int a0), (1, .int a1), (2, .int a2), (3, va_rf (some b_))] := hl
    refine lv_iload_n hx hb dJ11_checkFromToIndex_0 rfl (lv_at hl 0 rfl) ?_
    refine b_if_lt (tgt := 14) hx hb dJ11_checkFromToIndex_1 (by decide) hit (fun c1 hit => ?_) (fun c1 hit => ?_)
    · cases hit
    · refine lv_iload_n hx hb dJ11_checkFromToIndex_4 rfl (lv_at hl 0 rfl) ?_
      refine lv_iload_n hx hb dJ11_checkFromToIndex_5 rfl (lv_at hl 1 rfl) ?_
      refine b_icmp_gt (tgt := 14) hx hb dJ11_checkFromToIndex_6 (by decide) hit (fun c2 hit => ?_) (fun c2 hit => ?_)
      · cases hit
      · refine lv_iload_n hx hb dJ11_checkFromToIndex_9 rfl (lv_at hl 1 rfl) ?_
        refine lv_iload_n hx hb dJ11_checkFromToIndex_10 rfl (lv_at hl 2 rfl) ?_
        refine b_icmp_le (tgt := 22) hx hb dJ11_checkFromToIndex_11 (by decide) hit (fun c3 hit => ?_) (fun c3 hit => ?_)
        · refine lv_iload_n hx hb dJ11_checkFromToIndex_22 rfl (lv_at hl 0 rfl) ?_
          have he := o_in hit
          exact hend _ a0 _ _ rfl he dJ11_checkFromToIndex_23
        · cases hit
noncomputable def CJ8_checkBoundsBeginEnd (h : CH) (a0 : Int32) (a1 : Int32) (a2 : Int32) : Option (Unit) :=
  (CJ11_checkFromToIndex a0 a1 a2).bind fun q2 =>
  some ()
theorem nm_J8_checkBoundsBeginEnd : kNm yJ8_checkBoundsBeginEnd RJ8 3 := by unfold kNm; decide +kernel
set_option maxHeartbeats 4000000 in
set_option maxRecDepth 100000 in
theorem wCJ8_checkBoundsBeginEnd (l : Launch) (γ : KG) (hO : kOK γ) (h : CH) (a0 : Int32) (a1 : Int32) (a2 : Int32) (z : Unit) (hz : CJ8_checkBoundsBeginEnd h a0 a1 a2 = some z) : Met l yJ8_checkBoundsBeginEnd (ws_ yJ8_checkBoundsBeginEnd cJ8_checkBoundsBeginEnd 3 none) (kRm 1 23) (cPc γ h [.int a0, .int a1, .int a2]) cRv 0 0 vp_nf := by
  refine c_startRv (cc := cJ8_checkBoundsBeginEnd) (own := RJ8) hO rfl rfl rfl (fun p e R s m args below meth c Q ls X hR hH hDU hl hend => ?_)
  have hx := X.1.1
  have hb := X.1.2.1
  have hit := hz
  clear hz
  unfold CJ8_checkBoundsBeginEnd at hit
  have hl : lv_has ls 3 [(0, .int a0), (1, .int a1), (2, .int a2)] := hl
  refine lv_iload_n hx hb dJ8_checkBoundsBeginEnd_0 rfl (lv_at hl 0 rfl) ?_
  refine lv_iload_n hx hb dJ8_checkBoundsBeginEnd_1 rfl (lv_at hl 1 rfl) ?_
  refine lv_iload_n hx hb dJ8_checkBoundsBeginEnd_2 rfl (lv_at hl 2 rfl) ?_
  refine c_getsq X (fun _ h => h) (va_S.rf (A := γ.2.2.2.2.1)) X.2.1.1.2.1 q570 dJ8_checkBoundsBeginEnd_3 (fun n1 => ?_)
  obtain ⟨q2, eq2, hit⟩ := o_bind hit
  refine c_cP X.1 (wCJ11_checkFromToIndex l _ _ _ _ _ eq2) nm_J11_checkFromToIndex q899 q900 q151 q901 ⟨Nat.le_trans (Nat.le_of_ble_eq_true rfl) hR.1, Nat.le_trans (Nat.le_of_ble_eq_true rfl) hR.2⟩ ⟨Nat.zero_le _, Nat.zero_le _⟩ rfl rfl hl.1 (lv_room (Nat.le_of_ble_eq_true rfl)) dJ8_checkBoundsBeginEnd_6 ?_
  refine lv_pop hx hb dJ8_checkBoundsBeginEnd_9 rfl ?_
  have he := o_in hit
  exact hend _ _ dJ8_checkBoundsBeginEnd_10
noncomputable def CJ10_checkBoundsBeginEnd (K : Nat → Nat) (h : CH) (a0 : Int32) (a1 : Int32) (a2 : Nat) : Option (Unit) :=
  (CJ10_length K h a2).bind fun q1 =>
  (CJ8_checkBoundsBeginEnd h a0 a1 q1).bind fun q2 =>
  some ()
theorem nm_J10_checkBoundsBeginEnd : kNm yJ10_checkBoundsBeginEnd RJ10 3 := by unfold kNm; decide +kernel
set_option maxHeartbeats 4000000 in
set_option maxRecDepth 100000 in
theorem wCJ10_checkBoundsBeginEnd (l : Launch) (γ : KG) (hO : kOK γ) (h : CH) (a0 : Int32) (a1 : Int32) (a2 : Nat) (z : Unit) (hz : CJ10_checkBoundsBeginEnd γ.2.2.2.2.2 h a0 a1 a2 = some z) : Met l yJ10_checkBoundsBeginEnd (ws_ yJ10_checkBoundsBeginEnd cJ10_checkBoundsBeginEnd 3 none) (kRm 2 45) (cPc γ h [.int a0, .int a1, .ref a2]) cRv 0 0 vp_nf := by
  refine c_startRv (cc := cJ10_checkBoundsBeginEnd) (own := RJ10) hO rfl rfl rfl (fun p e R s m args below meth c Q ls X hR hH hDU hl hend => ?_)
  have hx := X.1.1
  have hb := X.1.2.1
  have hit := hz
  clear hz
  unfold CJ10_checkBoundsBeginEnd at hit
  have hl : lv_has ls 3 [(0, .int a0), (1, .int a1), (2, .ref a2)] := hl
  refine lv_iload_n hx hb dJ10_checkBoundsBeginEnd_0 rfl (lv_at hl 0 rfl) ?_
  refine lv_iload_n hx hb dJ10_checkBoundsBeginEnd_1 rfl (lv_at hl 1 rfl) ?_
  refine lv_aload_n hx hb dJ10_checkBoundsBeginEnd_2 rfl (lv_at hl 2 rfl) ?_
  obtain ⟨q1, eq1, hit⟩ := o_bind hit
  refine c_cRS X hH hDU (wCJ10_length l γ X.2.1 _ _ _ eq1) nm_J10_length q578 q579 q150 q580 ⟨Nat.le_trans (Nat.le_of_ble_eq_true rfl) hR.1, Nat.le_trans (Nat.le_of_ble_eq_true rfl) hR.2⟩ ⟨Nat.zero_le _, Nat.zero_le _⟩ rfl rfl hl.1 (lv_room (Nat.le_of_ble_eq_true rfl)) dJ10_checkBoundsBeginEnd_3 ?_
  obtain ⟨q2, eq2, hit⟩ := o_bind hit
  refine c_cRSv X hH hDU (wCJ8_checkBoundsBeginEnd l γ X.2.1 _ _ _ _ _ eq2) nm_J8_checkBoundsBeginEnd q896 q897 q148 q898 ⟨Nat.le_trans (Nat.le_of_ble_eq_true rfl) hR.1, Nat.le_trans (Nat.le_of_ble_eq_true rfl) hR.2⟩ ⟨Nat.zero_le _, Nat.zero_le _⟩ rfl rfl hl.1 (lv_room (Nat.le_of_ble_eq_true rfl)) dJ10_checkBoundsBeginEnd_6 ?_
  have he := o_in hit
  exact hend _ _ dJ10_checkBoundsBeginEnd_9
noncomputable def CJ10_indexOfCharUnsafe_L3 (h : CH) (a0 : Nat) (a1 : Int32) (a3 : Int32) (t1 : Int32) : Option (Int32 ⊕ Int32) :=
  if t1 < a3 then
    ((CJ10_getChar h a0 t1).bind fun q4 =>
    if q4 = a1 then
      (some (.inr t1))
    else
      (some (.inl (t1 + 1))))
  else
    (some (.inr (-1)))
noncomputable def CJ10_indexOfCharUnsafe (h : CH) (a0 : Nat) (a1 : Int32) (a2 : Int32) (a3 : Int32) : Option (Int32) :=
  o_loop (CJ10_indexOfCharUnsafe_L3 h a0 a1 a3) a2
theorem nm_J10_indexOfCharUnsafe : kNm yJ10_indexOfCharUnsafe RJ10 4 := by unfold kNm; decide +kernel
set_option maxHeartbeats 4000000 in
set_option maxRecDepth 100000 in
theorem wCJ10_indexOfCharUnsafe (l : Launch) (γ : KG) (hO : kOK γ) (h : CH) (a0 : Nat) (a1 : Int32) (a2 : Int32) (a3 : Int32) (z : Int32) (hz : CJ10_indexOfCharUnsafe h a0 a1 a2 a3 = some z) : Met l yJ10_indexOfCharUnsafe (ws_ yJ10_indexOfCharUnsafe cJ10_indexOfCharUnsafe 5 (some .int)) (kRm 2 41) (cPc γ h [.ref a0, .int a1, .int a2, .int a3]) (cRq (.int z)) 0 0 vp_nf := by
  refine c_startR (cc := cJ10_indexOfCharUnsafe) (own := RJ10) hO rfl rfl rfl (fun p e R s m args below meth c Q ls X hR hH hDU hl hend => ?_)
  have hx := X.1.1
  have hb := X.1.2.1
  have hit := hz
  clear hz
  unfold CJ10_indexOfCharUnsafe at hit
  have hl : lv_has ls 5 [(0, .ref a0), (1, .int a1), (2, .int a2), (3, .int a3)] := hl
  refine lv_iload_n hx hb dJ10_indexOfCharUnsafe_0 rfl (lv_at hl 2 rfl) ?_
  refine lv_istore (lv' := [(4, .int a2), (0, .ref a0), (1, .int a1), (2, .int a2), (3, .int a3)]) hx hb dJ10_indexOfCharUnsafe_1 hl (by decide) rfl (fun ls hl => ?_)
  refine o_rec (P := fun t1 => ∀ (ls : Array Slot), lv_has ls 5 [(0, .ref a0), (1, .int a1), (3, .int a3), (4, .int t1)] → W p l e R s m args below meth c s.heap [] 0 0 Q (F0 m 3 ls [])) (fun t1 x2 hit hC1 hE1 ls hl => ?_) _ hit _ (lv_sub hl [1, 2, 4, 0] rfl)
  unfold CJ10_indexOfCharUnsafe_L3 at hit
  refine lv_iload hx hb dJ10_indexOfCharUnsafe_3 (lv_at hl 3 rfl) ?_
  refine lv_iload_n hx hb dJ10_indexOfCharUnsafe_5 rfl (lv_at hl 2 rfl) ?_
  refine b_icmp_ge (tgt := 28) hx hb dJ10_indexOfCharUnsafe_6 (by decide) hit (fun c3 hit => ?_) (fun c3 hit => ?_)
  · refine lv_iconst (v := (-1)) hx hb dJ10_indexOfCharUnsafe_28 (by decide) ?_
    have he := o_in hit
    have he := hE1 _ he
    exact hend (.int (-1)) _ _ _ _ (kOut_i rfl) (congrArg Value.int he) dJ10_indexOfCharUnsafe_29
  · refine lv_aload_n hx hb dJ10_indexOfCharUnsafe_9 rfl (lv_at hl 0 rfl) ?_
    refine lv_iload hx hb dJ10_indexOfCharUnsafe_10 (lv_at hl 3 rfl) ?_
    obtain ⟨q4, eq4, hit⟩ := o_bind hit
    refine c_cRS X hH hDU (wCJ10_getChar l γ X.2.1 _ _ _ _ eq4) nm_J10_getChar q905 q574 q150 q575 ⟨Nat.le_trans (Nat.le_of_ble_eq_true rfl) hR.1, Nat.le_trans (Nat.le_of_ble_eq_true rfl) hR.2⟩ ⟨Nat.zero_le _, Nat.zero_le _⟩ rfl rfl hl.1 (lv_room (Nat.le_of_ble_eq_true rfl)) dJ10_indexOfCharUnsafe_12 ?_
    refine lv_iload_n hx hb dJ10_indexOfCharUnsafe_15 rfl (lv_at hl 1 rfl) ?_
    refine b_icmp_ne (tgt := 22) hx hb dJ10_indexOfCharUnsafe_16 (by decide) hit (fun c5 hit => ?_) (fun c5 hit => ?_)
    · refine lv_iinc (k := 3) (v := (t1 + 1)) (lv' := [(4, .int (t1 + 1)), (0, .ref a0), (1, .int a1), (3, .int a3)]) hx hb dJ10_indexOfCharUnsafe_22 hl rfl rfl (by decide) rfl (fun ls hl => ?_)
      refine lv_goto (tgt := 3) hx hb dJ10_indexOfCharUnsafe_25 (by decide) ?_
      have he := o_in hit
      exact hC1 _ he _ (lv_sub hl [1, 2, 3, 0] rfl)
    · refine lv_iload hx hb dJ10_indexOfCharUnsafe_19 (lv_at hl 3 rfl) ?_
      have he := o_in hit
      have he := hE1 _ he
      exact hend (.int t1) _ _ _ _ (kOut_i rfl) (congrArg Value.int he) dJ10_indexOfCharUnsafe_21
noncomputable def CJ10_indexOfChar (K : Nat → Nat) (h : CH) (a0 : Nat) (a1 : Int32) (a2 : Int32) (a3 : Int32) : Option (Int32) :=
  (CJ10_checkBoundsBeginEnd K h a2 a3 a0).bind fun q1 =>
  (CJ10_indexOfCharUnsafe h a0 a1 a2 a3).bind fun q2 =>
  some q2
theorem nm_J10_indexOfChar : kNm yJ10_indexOfChar RJ10 4 := by unfold kNm; decide +kernel
set_option maxHeartbeats 4000000 in
set_option maxRecDepth 100000 in
theorem wCJ10_indexOfChar (l : Launch) (γ : KG) (hO : kOK γ) (h : CH) (a0 : Nat) (a1 : Int32) (a2 : Int32) (a3 : Int32) (z : Int32) (hz : CJ10_indexOfChar γ.2.2.2.2.2 h a0 a1 a2 a3 = some z) : Met l yJ10_indexOfChar (ws_ yJ10_indexOfChar cJ10_indexOfChar 4 (some .int)) (kRm 3 67) (cPc γ h [.ref a0, .int a1, .int a2, .int a3]) (cRq (.int z)) 0 0 vp_nf := by
  refine c_startR (cc := cJ10_indexOfChar) (own := RJ10) hO rfl rfl rfl (fun p e R s m args below meth c Q ls X hR hH hDU hl hend => ?_)
  have hx := X.1.1
  have hb := X.1.2.1
  have hit := hz
  clear hz
  unfold CJ10_indexOfChar at hit
  have hl : lv_has ls 4 [(0, .ref a0), (1, .int a1), (2, .int a2), (3, .int a3)] := hl
  refine lv_iload_n hx hb dJ10_indexOfChar_0 rfl (lv_at hl 2 rfl) ?_
  refine lv_iload_n hx hb dJ10_indexOfChar_1 rfl (lv_at hl 3 rfl) ?_
  refine lv_aload_n hx hb dJ10_indexOfChar_2 rfl (lv_at hl 0 rfl) ?_
  obtain ⟨q1, eq1, hit⟩ := o_bind hit
  refine c_cRSv X hH hDU (wCJ10_checkBoundsBeginEnd l γ X.2.1 _ _ _ _ _ eq1) nm_J10_checkBoundsBeginEnd q893 q894 q150 q895 ⟨Nat.le_trans (Nat.le_of_ble_eq_true rfl) hR.1, Nat.le_trans (Nat.le_of_ble_eq_true rfl) hR.2⟩ ⟨Nat.zero_le _, Nat.zero_le _⟩ rfl rfl hl.1 (lv_room (Nat.le_of_ble_eq_true rfl)) dJ10_indexOfChar_3 ?_
  refine lv_aload_n hx hb dJ10_indexOfChar_6 rfl (lv_at hl 0 rfl) ?_
  refine lv_iload_n hx hb dJ10_indexOfChar_7 rfl (lv_at hl 1 rfl) ?_
  refine lv_iload_n hx hb dJ10_indexOfChar_8 rfl (lv_at hl 2 rfl) ?_
  refine lv_iload_n hx hb dJ10_indexOfChar_9 rfl (lv_at hl 3 rfl) ?_
  obtain ⟨q2, eq2, hit⟩ := o_bind hit
  refine c_cRS X hH hDU (wCJ10_indexOfCharUnsafe l γ X.2.1 _ _ _ _ _ _ eq2) nm_J10_indexOfCharUnsafe q902 q903 q150 q904 ⟨Nat.le_trans (Nat.le_of_ble_eq_true rfl) hR.1, Nat.le_trans (Nat.le_of_ble_eq_true rfl) hR.2⟩ ⟨Nat.zero_le _, Nat.zero_le _⟩ rfl rfl hl.1 (lv_room (Nat.le_of_ble_eq_true rfl)) dJ10_indexOfChar_10 ?_
  have he := o_in hit
  exact hend (.int q2) _ _ _ _ (kOut_i rfl) (congrArg Value.int he) dJ10_indexOfChar_13
noncomputable def CJ12_isValidCodePoint (a0 : Int32) : Option (Int32) :=
  if (iush a0 16) < 17 then
    (some 1)
  else
    (some 0)
theorem nm_J12_isValidCodePoint : kNm yJ12_isValidCodePoint RJ12 1 := by unfold kNm; decide +kernel
set_option maxHeartbeats 4000000 in
set_option maxRecDepth 100000 in
theorem wCJ12_isValidCodePoint (l : Launch) (a0 : Int32) (z : Int32) (hz : CJ12_isValidCodePoint a0 = some z) : Met l yJ12_isValidCodePoint (ws_ yJ12_isValidCodePoint cJ12_isValidCodePoint 2 (some .boolean)) (kRm 0 0) (bPc [.int a0]) (vp_Si (fun r => r = z)) 0 0 vp_nf := by
  refine c_startP (cc := cJ12_isValidCodePoint) (own := RJ12) (ty := .boolean) rfl rfl rfl (fun p e R s m args below meth c Q ls X hR hl hend => ?_)
  have hx := X.1
  have hb := X.2.1
  have hit := hz
  clear hz
  unfold CJ12_isValidCodePoint at hit
  have hl : lv_has ls 2 [(0, .int a0)] := hl
  refine lv_iload_n hx hb dJ12_isValidCodePoint_0 rfl (lv_at hl 0 rfl) ?_
  refine lv_bipush (v := 16) hx hb dJ12_isValidCodePoint_1 (by decide) ?_
  refine lv_iushr hx hb dJ12_isValidCodePoint_3 rfl ?_
  refine lv_istore_n (lv' := [(1, .int (iush a0 16)), (0, .int a0)]) hx hb dJ12_isValidCodePoint_4 rfl hl (by decide) rfl (fun ls hl => ?_)
  refine lv_iload_n hx hb dJ12_isValidCodePoint_5 rfl (lv_at hl 0 rfl) ?_
  refine lv_bipush (v := 17) hx hb dJ12_isValidCodePoint_6 (by decide) ?_
  refine b_icmp_ge (tgt := 15) hx hb dJ12_isValidCodePoint_8 (by decide) hit (fun c1 hit => ?_) (fun c1 hit => ?_)
  · refine lv_iconst (v := 0) hx hb dJ12_isValidCodePoint_15 (by decide) ?_
    have he := o_in hit
    exact hend _ 0 _ _ rfl he dJ12_isValidCodePoint_16
  · refine lv_iconst (v := 1) hx hb dJ12_isValidCodePoint_11 (by decide) ?_
    refine lv_goto (tgt := 16) hx hb dJ12_isValidCodePoint_12 (by decide) ?_
    have he := o_in hit
    exact hend _ 1 _ _ rfl he dJ12_isValidCodePoint_16
noncomputable def CJ12_highSurrogate (a0 : Int32) : Option (Int32) :=
  some (vp_nar .char (i2c_ ((iush a0 10) + 55232)))
theorem nm_J12_highSurrogate : kNm yJ12_highSurrogate RJ12 1 := by unfold kNm; decide +kernel
set_option maxHeartbeats 4000000 in
set_option maxRecDepth 100000 in
theorem wCJ12_highSurrogate (l : Launch) (a0 : Int32) (z : Int32) (hz : CJ12_highSurrogate a0 = some z) : Met l yJ12_highSurrogate (ws_ yJ12_highSurrogate cJ12_highSurrogate 1 (some .char)) (kRm 0 0) (bPc [.int a0]) (vp_Si (fun r => r = z)) 0 0 vp_nf := by
  refine c_startP (cc := cJ12_highSurrogate) (own := RJ12) (ty := .char) rfl rfl rfl (fun p e R s m args below meth c Q ls X hR hl hend => ?_)
  have hx := X.1
  have hb := X.2.1
  have hit := hz
  clear hz
  unfold CJ12_highSurrogate at hit
  have hl : lv_has ls 1 [(0, .int a0)] := hl
  refine lv_iload_n hx hb dJ12_highSurrogate_0 rfl (lv_at hl 0 rfl) ?_
  refine lv_bipush (v := 10) hx hb dJ12_highSurrogate_1 (by decide) ?_
  refine lv_iushr hx hb dJ12_highSurrogate_3 rfl ?_
  refine lv_ldc (v := 55232) hx hb X.2.2.2.1 (X.2.2.2.2 _ q915) dJ12_highSurrogate_4 ?_
  refine lv_iadd hx hb dJ12_highSurrogate_6 ?_
  refine lv_i2c hx hb dJ12_highSurrogate_7 (v := i2c_ ((iush a0 10) + 55232)) rfl ?_
  have he := o_in hit
  exact hend _ (vp_nar .char (i2c_ ((iush a0 10) + 55232))) _ _ rfl he dJ12_highSurrogate_8
noncomputable def CJ12_lowSurrogate (a0 : Int32) : Option (Int32) :=
  some (vp_nar .char (i2c_ ((a0 &&& 1023) + 56320)))
theorem nm_J12_lowSurrogate : kNm yJ12_lowSurrogate RJ12 1 := by unfold kNm; decide +kernel
set_option maxHeartbeats 4000000 in
set_option maxRecDepth 100000 in
theorem wCJ12_lowSurrogate (l : Launch) (a0 : Int32) (z : Int32) (hz : CJ12_lowSurrogate a0 = some z) : Met l yJ12_lowSurrogate (ws_ yJ12_lowSurrogate cJ12_lowSurrogate 1 (some .char)) (kRm 0 0) (bPc [.int a0]) (vp_Si (fun r => r = z)) 0 0 vp_nf := by
  refine c_startP (cc := cJ12_lowSurrogate) (own := RJ12) (ty := .char) rfl rfl rfl (fun p e R s m args below meth c Q ls X hR hl hend => ?_)
  have hx := X.1
  have hb := X.2.1
  have hit := hz
  clear hz
  unfold CJ12_lowSurrogate at hit
  have hl : lv_has ls 1 [(0, .int a0)] := hl
  refine lv_iload_n hx hb dJ12_lowSurrogate_0 rfl (lv_at hl 0 rfl) ?_
  refine lv_sipush (v := 1023) hx hb dJ12_lowSurrogate_1 (by decide) ?_
  refine lv_iand hx hb dJ12_lowSurrogate_4 ?_
  refine lv_ldc (v := 56320) hx hb X.2.2.2.1 (X.2.2.2.2 _ q919) dJ12_lowSurrogate_5 ?_
  refine lv_iadd hx hb dJ12_lowSurrogate_7 ?_
  refine lv_i2c hx hb dJ12_lowSurrogate_8 (v := i2c_ ((a0 &&& 1023) + 56320)) rfl ?_
  have he := o_in hit
  exact hend _ (vp_nar .char (i2c_ ((a0 &&& 1023) + 56320))) _ _ rfl he dJ12_lowSurrogate_9
noncomputable def CJ10_indexOfSupplementary_L28 (h : CH) (a0 : Nat) (a3 : Int32) (q3 : Int32) (q4 : Int32) (t6 : Int32) : Option (Int32 ⊕ Int32) :=
  if t6 < (a3 - 1) then
    ((CJ10_getChar h a0 t6).bind fun q9 =>
    if q9 = q3 then
      ((CJ10_getChar h a0 (t6 + 1)).bind fun q11 =>
      if q11 = q4 then
        (some (.inr t6))
      else
        (some (.inl (t6 + 1))))
    else
      (some (.inl (t6 + 1))))
  else
    (some (.inr (-1)))
noncomputable def CJ10_indexOfSupplementary (K : Nat → Nat) (h : CH) (a0 : Nat) (a1 : Int32) (a2 : Int32) (a3 : Int32) : Option (Int32) :=
  (CJ12_isValidCodePoint a1).bind fun q1 =>
  if q1 = 0 then
    (some (-1))
  else
    ((CJ12_highSurrogate a1).bind fun q3 =>
    (CJ12_lowSurrogate a1).bind fun q4 =>
    (CJ10_checkBoundsBeginEnd K h a2 a3 a0).bind fun q5 =>
    o_loop (CJ10_indexOfSupplementary_L28 h a0 a3 q3 q4) a2)
theorem nm_J10_indexOfSupplementary : kNm yJ10_indexOfSupplementary RJ10 4 := by unfold kNm; decide +kernel
set_option maxHeartbeats 4000000 in
set_option maxRecDepth 100000 in
theorem wCJ10_indexOfSupplementary (l : Launch) (γ : KG) (hO : kOK γ) (h : CH) (a0 : Nat) (a1 : Int32) (a2 : Int32) (a3 : Int32) (z : Int32) (hz : CJ10_indexOfSupplementary γ.2.2.2.2.2 h a0 a1 a2 a3 = some z) : Met l yJ10_indexOfSupplementary (ws_ yJ10_indexOfSupplementary cJ10_indexOfSupplementary 7 (some .int)) (kRm 3 67) (cPc γ h [.ref a0, .int a1, .int a2, .int a3]) (cRq (.int z)) 0 0 vp_nf := by
  refine c_startR (cc := cJ10_indexOfSupplementary) (own := RJ10) hO rfl rfl rfl (fun p e R s m args below meth c Q ls X hR hH hDU hl hend => ?_)
  have hx := X.1.1
  have hb := X.1.2.1
  have hit := hz
  clear hz
  unfold CJ10_indexOfSupplementary at hit
  have hl : lv_has ls 7 [(0, .ref a0), (1, .int a1), (2, .int a2), (3, .int a3)] := hl
  refine lv_iload_n hx hb dJ10_indexOfSupplementary_0 rfl (lv_at hl 1 rfl) ?_
  obtain ⟨q1, eq1, hit⟩ := o_bind hit
  refine c_cP X.1 (wCJ12_isValidCodePoint l _ _ eq1) nm_J12_isValidCodePoint q909 q910 q152 q911 ⟨Nat.le_trans (Nat.le_of_ble_eq_true rfl) hR.1, Nat.le_trans (Nat.le_of_ble_eq_true rfl) hR.2⟩ ⟨Nat.zero_le _, Nat.zero_le _⟩ rfl rfl hl.1 (lv_room (Nat.le_of_ble_eq_true rfl)) dJ10_indexOfSupplementary_1 ?_
  refine b_if_eq (tgt := 69) hx hb dJ10_indexOfSupplementary_4 (by decide) hit (fun c2 hit => ?_) (fun c2 hit => ?_)
  · refine lv_iconst (v := (-1)) hx hb dJ10_indexOfSupplementary_69 (by decide) ?_
    have he := o_in hit
    exact hend (.int (-1)) _ _ _ _ (kOut_i rfl) (congrArg Value.int he) dJ10_indexOfSupplementary_70
  · refine lv_iload_n hx hb dJ10_indexOfSupplementary_7 rfl (lv_at hl 1 rfl) ?_
    obtain ⟨q3, eq3, hit⟩ := o_bind hit
    refine c_cP X.1 (wCJ12_highSurrogate l _ _ eq3) nm_J12_highSurrogate q912 q913 q152 q914 ⟨Nat.le_trans (Nat.le_of_ble_eq_true rfl) hR.1, Nat.le_trans (Nat.le_of_ble_eq_true rfl) hR.2⟩ ⟨Nat.zero_le _, Nat.zero_le _⟩ rfl rfl hl.1 (lv_room (Nat.le_of_ble_eq_true rfl)) dJ10_indexOfSupplementary_8 ?_
    refine lv_istore (lv' := [(4, .int q3), (0, .ref a0), (1, .int a1), (2, .int a2), (3, .int a3)]) hx hb dJ10_indexOfSupplementary_11 hl (by decide) rfl (fun ls hl => ?_)
    refine lv_iload_n hx hb dJ10_indexOfSupplementary_13 rfl (lv_at hl 2 rfl) ?_
    obtain ⟨q4, eq4, hit⟩ := o_bind hit
    refine c_cP X.1 (wCJ12_lowSurrogate l _ _ eq4) nm_J12_lowSurrogate q916 q917 q152 q918 ⟨Nat.le_trans (Nat.le_of_ble_eq_true rfl) hR.1, Nat.le_trans (Nat.le_of_ble_eq_true rfl) hR.2⟩ ⟨Nat.zero_le _, Nat.zero_le _⟩ rfl rfl hl.1 (lv_room (Nat.le_of_ble_eq_true rfl)) dJ10_indexOfSupplementary_14 ?_
    refine lv_istore (lv' := [(5, .int q4), (4, .int q3), (0, .ref a0), (1, .int a1), (2, .int a2), (3, .int a3)]) hx hb dJ10_indexOfSupplementary_17 hl (by decide) rfl (fun ls hl => ?_)
    refine lv_iload_n hx hb dJ10_indexOfSupplementary_19 rfl (lv_at hl 4 rfl) ?_
    refine lv_iload_n hx hb dJ10_indexOfSupplementary_20 rfl (lv_at hl 5 rfl) ?_
    refine lv_aload_n hx hb dJ10_indexOfSupplementary_21 rfl (lv_at hl 2 rfl) ?_
    obtain ⟨q5, eq5, hit⟩ := o_bind hit
    refine c_cRSv X hH hDU (wCJ10_checkBoundsBeginEnd l γ X.2.1 _ _ _ _ _ eq5) nm_J10_checkBoundsBeginEnd q893 q894 q150 q895 ⟨Nat.le_trans (Nat.le_of_ble_eq_true rfl) hR.1, Nat.le_trans (Nat.le_of_ble_eq_true rfl) hR.2⟩ ⟨Nat.zero_le _, Nat.zero_le _⟩ rfl rfl hl.1 (lv_room (Nat.le_of_ble_eq_true rfl)) dJ10_indexOfSupplementary_22 ?_
    refine lv_iload_n hx hb dJ10_indexOfSupplementary_25 rfl (lv_at hl 4 rfl) ?_
    refine lv_istore (lv' := [(6, .int a2), (5, .int q4), (4, .int q3), (0, .ref a0), (1, .int a1), (2, .int a2), (3, .int a3)]) hx hb dJ10_indexOfSupplementary_26 hl (by decide) rfl (fun ls hl => ?_)
    refine o_rec (P := fun t6 => ∀ (ls : Array Slot), lv_has ls 7 [(5, .int q4), (4, .int q3), (0, .ref a0), (3, .int a3), (6, .int t6)] → W p l e R s m args below meth c s.heap [] 0 0 Q (F0 m 28 ls [])) (fun t6 x7 hit hC6 hE6 ls hl => ?_) _ hit _ (lv_sub hl [1, 2, 3, 6, 0] rfl)
    unfold CJ10_indexOfSupplementary_L28 at hit
    refine lv_iload hx hb dJ10_indexOfSupplementary_28 (lv_at hl 4 rfl) ?_
    refine lv_iload_n hx hb dJ10_indexOfSupplementary_30 rfl (lv_at hl 3 rfl) ?_
    refine lv_iconst (v := 1) hx hb dJ10_indexOfSupplementary_31 (by decide) ?_
    refine lv_isub hx hb dJ10_indexOfSupplementary_32 ?_
    refine b_icmp_ge (tgt := 69) hx hb dJ10_indexOfSupplementary_33 (by decide) hit (fun c8 hit => ?_) (fun c8 hit => ?_)
    · refine lv_iconst (v := (-1)) hx hb dJ10_indexOfSupplementary_69 (by decide) ?_
      have he := o_in hit
      have he := hE6 _ he
      exact hend (.int (-1)) _ _ _ _ (kOut_i rfl) (congrArg Value.int he) dJ10_indexOfSupplementary_70
    · refine lv_aload_n hx hb dJ10_indexOfSupplementary_36 rfl (lv_at hl 2 rfl) ?_
      refine lv_iload hx hb dJ10_indexOfSupplementary_37 (lv_at hl 4 rfl) ?_
      obtain ⟨q9, eq9, hit⟩ := o_bind hit
      refine c_cRS X hH hDU (wCJ10_getChar l γ X.2.1 _ _ _ _ eq9) nm_J10_getChar q905 q574 q150 q575 ⟨Nat.le_trans (Nat.le_of_ble_eq_true rfl) hR.1, Nat.le_trans (Nat.le_of_ble_eq_true rfl) hR.2⟩ ⟨Nat.zero_le _, Nat.zero_le _⟩ rfl rfl hl.1 (lv_room (Nat.le_of_ble_eq_true rfl)) dJ10_indexOfSupplementary_39 ?_
      refine lv_iload hx hb dJ10_indexOfSupplementary_42 (lv_at hl 1 rfl) ?_
      refine b_icmp_ne (tgt := 63) hx hb dJ10_indexOfSupplementary_44 (by decide) hit (fun c10 hit => ?_) (fun c10 hit => ?_)
      · refine lv_iinc (k := 4) (v := (t6 + 1)) (lv' := [(6, .int (t6 + 1)), (5, .int q4), (4, .int q3), (0, .ref a0), (3, .int a3)]) hx hb dJ10_indexOfSupplementary_63 hl rfl rfl (by decide) rfl (fun ls hl => ?_)
        refine lv_goto (tgt := 28) hx hb dJ10_indexOfSupplementary_66 (by decide) ?_
        have he := o_in hit
        exact hC6 _ he _ (lv_sub hl [1, 2, 3, 4, 0] rfl)
      · refine lv_aload_n hx hb dJ10_indexOfSupplementary_47 rfl (lv_at hl 2 rfl) ?_
        refine lv_iload hx hb dJ10_indexOfSupplementary_48 (lv_at hl 4 rfl) ?_
        refine lv_iconst (v := 1) hx hb dJ10_indexOfSupplementary_50 (by decide) ?_
        refine lv_iadd hx hb dJ10_indexOfSupplementary_51 ?_
        obtain ⟨q11, eq11, hit⟩ := o_bind hit
        refine c_cRS X hH hDU (wCJ10_getChar l γ X.2.1 _ _ _ _ eq11) nm_J10_getChar q905 q574 q150 q575 ⟨Nat.le_trans (Nat.le_of_ble_eq_true rfl) hR.1, Nat.le_trans (Nat.le_of_ble_eq_true rfl) hR.2⟩ ⟨Nat.zero_le _, Nat.zero_le _⟩ rfl rfl hl.1 (lv_room (Nat.le_of_ble_eq_true rfl)) dJ10_indexOfSupplementary_52 ?_
        refine lv_iload hx hb dJ10_indexOfSupplementary_55 (lv_at hl 0 rfl) ?_
        refine b_icmp_ne (tgt := 63) hx hb dJ10_indexOfSupplementary_57 (by decide) hit (fun c12 hit => ?_) (fun c12 hit => ?_)
        · refine lv_iinc (k := 4) (v := (t6 + 1)) (lv' := [(6, .int (t6 + 1)), (5, .int q4), (4, .int q3), (0, .ref a0), (3, .int a3)]) hx hb dJ10_indexOfSupplementary_63 hl rfl rfl (by decide) rfl (fun ls hl => ?_)
          refine lv_goto (tgt := 28) hx hb dJ10_indexOfSupplementary_66 (by decide) ?_
          have he := o_in hit
          exact hC6 _ he _ (lv_sub hl [1, 2, 3, 4, 0] rfl)
        · refine lv_iload hx hb dJ10_indexOfSupplementary_60 (lv_at hl 4 rfl) ?_
          have he := o_in hit
          have he := hE6 _ he
          exact hend (.int t6) _ _ _ _ (kOut_i rfl) (congrArg Value.int he) dJ10_indexOfSupplementary_62
noncomputable def CJ10_indexOf (K : Nat → Nat) (h : CH) (a0 : Nat) (a1 : Int32) (a2 : Int32) (a3 : Int32) : Option (Int32) :=
  (aNb K h a0).bind fun v1 =>
  if (imax a2 0) < (imin a3 (v1 >>> (1 &&& 31))) then
    (if a1 < 65536 then
      ((CJ10_indexOfChar K h a0 a1 (imax a2 0) (imin a3 (v1 >>> (1 &&& 31)))).bind fun q5 =>
      some q5)
    else
      ((CJ10_indexOfSupplementary K h a0 a1 (imax a2 0) (imin a3 (v1 >>> (1 &&& 31)))).bind fun q4 =>
      some q4))
  else
    (some (-1))
theorem nm_J10_indexOf : kNm yJ10_indexOf RJ10 4 := by unfold kNm; decide +kernel
set_option maxHeartbeats 4000000 in
set_option maxRecDepth 100000 in
theorem wCJ10_indexOf (l : Launch) (γ : KG) (hO : kOK γ) (h : CH) (a0 : Nat) (a1 : Int32) (a2 : Int32) (a3 : Int32) (z : Int32) (hz : CJ10_indexOf γ.2.2.2.2.2 h a0 a1 a2 a3 = some z) : Met l yJ10_indexOf (ws_ yJ10_indexOf cJ10_indexOf 4 (some .int)) (kRm 4 93) (cPc γ h [.ref a0, .int a1, .int a2, .int a3]) (cRq (.int z)) 0 0 vp_nf := by
  refine c_startR (cc := cJ10_indexOf) (own := RJ10) hO rfl rfl rfl (fun p e R s m args below meth c Q ls X hR hH hDU hl hend => ?_)
  have hx := X.1.1
  have hb := X.1.2.1
  have hit := hz
  clear hz
  unfold CJ10_indexOf at hit
  have hl : lv_has ls 4 [(0, .ref a0), (1, .int a1), (2, .int a2), (3, .int a3)] := hl
  refine lv_iload_n hx hb dJ10_indexOf_0 rfl (lv_at hl 2 rfl) ?_
  refine lv_iconst (v := 0) hx hb dJ10_indexOf_1 (by decide) ?_
  refine b_max X.1 hl.1 q887 (Nat.le_trans (Nat.le_of_ble_eq_true rfl) hR.1) (Nat.le_trans (Nat.le_of_ble_eq_true rfl) hR.2) ⟨Nat.zero_le _, Nat.zero_le _⟩ dJ10_indexOf_2 ?_
  refine lv_istore_n (lv' := [(2, .int (imax a2 0)), (0, .ref a0), (1, .int a1), (3, .int a3)]) hx hb dJ10_indexOf_5 rfl hl (by decide) rfl (fun ls hl => ?_)
  refine lv_iload_n hx hb dJ10_indexOf_6 rfl (lv_at hl 3 rfl) ?_
  refine lv_aload_n hx hb dJ10_indexOf_7 rfl (lv_at hl 1 rfl) ?_
  obtain ⟨v1, ev1, hit⟩ := o_bind hit
  refine c_alenB X (fun _ h => h) (va_S.rf (A := γ.2.2.2.2.1)) hH ev1 dJ10_indexOf_8 ?_
  refine lv_iconst (v := 1) hx hb dJ10_indexOf_9 (by decide) ?_
  refine lv_ishr hx hb dJ10_indexOf_10 ?_
  refine b_min X.1 hl.1 q888 (Nat.le_trans (Nat.le_of_ble_eq_true rfl) hR.1) (Nat.le_trans (Nat.le_of_ble_eq_true rfl) hR.2) ⟨Nat.zero_le _, Nat.zero_le _⟩ dJ10_indexOf_11 ?_
  refine lv_istore_n (lv' := [(3, .int (imin a3 (v1 >>> (1 &&& 31)))), (2, .int (imax a2 0)), (0, .ref a0), (1, .int a1)]) hx hb dJ10_indexOf_14 rfl hl (by decide) rfl (fun ls hl => ?_)
  refine lv_iload_n hx hb dJ10_indexOf_15 rfl (lv_at hl 1 rfl) ?_
  refine lv_iload_n hx hb dJ10_indexOf_16 rfl (lv_at hl 0 rfl) ?_
  refine b_icmp_lt (tgt := 22) hx hb dJ10_indexOf_17 (by decide) hit (fun c2 hit => ?_) (fun c2 hit => ?_)
  · refine lv_iload_n hx hb dJ10_indexOf_22 rfl (lv_at hl 3 rfl) ?_
    refine lv_ldc (v := 65536) hx hb X.1.2.2.2.1 (X.1.2.2.2.2 _ q889) dJ10_indexOf_23 ?_
    refine b_icmp_ge (tgt := 36) hx hb dJ10_indexOf_25 (by decide) hit (fun c3 hit => ?_) (fun c3 hit => ?_)
    · refine lv_aload_n hx hb dJ10_indexOf_36 rfl (lv_at hl 2 rfl) ?_
      refine lv_iload_n hx hb dJ10_indexOf_37 rfl (lv_at hl 3 rfl) ?_
      refine lv_iload_n hx hb dJ10_indexOf_38 rfl (lv_at hl 1 rfl) ?_
      refine lv_iload_n hx hb dJ10_indexOf_39 rfl (lv_at hl 0 rfl) ?_
      obtain ⟨q4, eq4, hit⟩ := o_bind hit
      refine c_cRS X hH hDU (wCJ10_indexOfSupplementary l γ X.2.1 _ _ _ _ _ _ eq4) nm_J10_indexOfSupplementary q906 q907 q150 q908 ⟨Nat.le_trans (Nat.le_of_ble_eq_true rfl) hR.1, Nat.le_trans (Nat.le_of_ble_eq_true rfl) hR.2⟩ ⟨Nat.zero_le _, Nat.zero_le _⟩ rfl rfl hl.1 (lv_room (Nat.le_of_ble_eq_true rfl)) dJ10_indexOf_40 ?_
      have he := o_in hit
      exact hend (.int q4) _ _ _ _ (kOut_i rfl) (congrArg Value.int he) dJ10_indexOf_43
    · refine lv_aload_n hx hb dJ10_indexOf_28 rfl (lv_at hl 2 rfl) ?_
      refine lv_iload_n hx hb dJ10_indexOf_29 rfl (lv_at hl 3 rfl) ?_
      refine lv_iload_n hx hb dJ10_indexOf_30 rfl (lv_at hl 1 rfl) ?_
      refine lv_iload_n hx hb dJ10_indexOf_31 rfl (lv_at hl 0 rfl) ?_
      obtain ⟨q5, eq5, hit⟩ := o_bind hit
      refine c_cRS X hH hDU (wCJ10_indexOfChar l γ X.2.1 _ _ _ _ _ _ eq5) nm_J10_indexOfChar q890 q891 q150 q892 ⟨Nat.le_trans (Nat.le_of_ble_eq_true rfl) hR.1, Nat.le_trans (Nat.le_of_ble_eq_true rfl) hR.2⟩ ⟨Nat.zero_le _, Nat.zero_le _⟩ rfl rfl hl.1 (lv_room (Nat.le_of_ble_eq_true rfl)) dJ10_indexOf_32 ?_
      have he := o_in hit
      exact hend (.int q5) _ _ _ _ (kOut_i rfl) (congrArg Value.int he) dJ10_indexOf_35
  · refine lv_iconst (v := (-1)) hx hb dJ10_indexOf_20 (by decide) ?_
    have he := o_in hit
    exact hend (.int (-1)) _ _ _ _ (kOut_i rfl) (congrArg Value.int he) dJ10_indexOf_21
noncomputable def CJ8_indexOf_2 (K : Nat → Nat) (h : CH) (o : Nat) (a0 : Int32) (a1 : Int32) : Option (Int32) :=
  (sOk o).bind fun u1 =>
  (CJ8_isLatin1 h o).bind fun q2 =>
  if q2 = 0 then
    ((sOk o).bind fun u4 =>
    (sOk o).bind fun u5 =>
    (CJ8_length K h o).bind fun q6 =>
    (CJ10_indexOf K h (K (30 + o)) a0 a1 q6).bind fun q7 =>
    some q7)
  else
    ((sOk o).bind fun u8 =>
    (sOk o).bind fun u9 =>
    (CJ8_length K h o).bind fun q10 =>
    (CJ9_indexOf K h (K (30 + o)) a0 a1 q10).bind fun q11 =>
    some q11)
theorem nm_J8_indexOf_2 : kNm yJ8_indexOf_2 RJ8 2 := by unfold kNm; decide +kernel
set_option maxHeartbeats 4000000 in
set_option maxRecDepth 100000 in
theorem wCJ8_indexOf_2 (l : Launch) (γ : KG) (hO : kOK γ) (h : CH) (o : Nat) (a0 : Int32) (a1 : Int32) (z : Int32) (hz : CJ8_indexOf_2 γ.2.2.2.2.2 h o a0 a1 = some z) : Met l yJ8_indexOf_2 (ws_ yJ8_indexOf_2 cJ8_indexOf_2 3 (some .int)) (kRm 5 116) (cPc γ h [.ref (γ.2.2.2.2.2 (10 + o)), .int a0, .int a1]) (cRq (.int z)) 0 0 vp_nf := by
  refine c_startR (cc := cJ8_indexOf_2) (own := RJ8) hO rfl rfl rfl (fun p e R s m args below meth c Q ls X hR hH hDU hl hend => ?_)
  have hx := X.1.1
  have hb := X.1.2.1
  have hit := hz
  clear hz
  unfold CJ8_indexOf_2 at hit
  have hl : lv_has ls 3 [(0, .ref (γ.2.2.2.2.2 (10 + o))), (1, .int a0), (2, .int a1)] := hl
  refine lv_aload_n hx hb dJ8_indexOf_2_0 rfl (lv_at hl 0 rfl) ?_
  obtain ⟨u1, eu1, hit⟩ := o_bind hit
  obtain ⟨q2, eq2, hit⟩ := o_bind hit
  refine c_cRk X (fun _ h => h) (va_S.rf (A := γ.2.2.2.2.1)) hH hDU eu1 (wCJ8_isLatin1 l γ X.2.1 _ _  _ eq2) nm_J8_isLatin1 q859 q860 q148 q862 q861 ⟨Nat.le_trans (Nat.le_of_ble_eq_true rfl) hR.1, Nat.le_trans (Nat.le_of_ble_eq_true rfl) hR.2⟩ ⟨Nat.zero_le _, Nat.zero_le _⟩ rfl rfl hl.1 (lv_room (Nat.le_of_ble_eq_true rfl)) dJ8_indexOf_2_1 ?_
  refine b_if_eq (tgt := 23) hx hb dJ8_indexOf_2_4 (by decide) hit (fun c3 hit => ?_) (fun c3 hit => ?_)
  · refine lv_aload_n hx hb dJ8_indexOf_2_23 rfl (lv_at hl 0 rfl) ?_
    obtain ⟨u4, eu4, hit⟩ := o_bind hit
    refine c_strV X (fun _ h => h) (va_S.rf (A := γ.2.2.2.2.1)) eu4 q2383 dJ8_indexOf_2_24 ?_
    refine lv_iload_n hx hb dJ8_indexOf_2_27 rfl (lv_at hl 1 rfl) ?_
    refine lv_iload_n hx hb dJ8_indexOf_2_28 rfl (lv_at hl 2 rfl) ?_
    refine lv_aload_n hx hb dJ8_indexOf_2_29 rfl (lv_at hl 0 rfl) ?_
    obtain ⟨u5, eu5, hit⟩ := o_bind hit
    obtain ⟨q6, eq6, hit⟩ := o_bind hit
    refine c_cRk X (fun _ h => h) (va_S.rf (A := γ.2.2.2.2.1)) hH hDU eu5 (wCJ8_length l γ X.2.1 _ _  _ eq6) nm_J8_length q865 q866 q148 q868 q867 ⟨Nat.le_trans (Nat.le_of_ble_eq_true rfl) hR.1, Nat.le_trans (Nat.le_of_ble_eq_true rfl) hR.2⟩ ⟨Nat.zero_le _, Nat.zero_le _⟩ rfl rfl hl.1 (lv_room (Nat.le_of_ble_eq_true rfl)) dJ8_indexOf_2_30 ?_
    obtain ⟨q7, eq7, hit⟩ := o_bind hit
    refine c_cRS X hH hDU (wCJ10_indexOf l γ X.2.1 _ _ _ _ _ _ eq7) nm_J10_indexOf q884 q885 q150 q886 ⟨Nat.le_trans (Nat.le_of_ble_eq_true rfl) hR.1, Nat.le_trans (Nat.le_of_ble_eq_true rfl) hR.2⟩ ⟨Nat.zero_le _, Nat.zero_le _⟩ rfl rfl hl.1 (lv_room (Nat.le_of_ble_eq_true rfl)) dJ8_indexOf_2_33 ?_
    have he := o_in hit
    exact hend (.int q7) _ _ _ _ (kOut_i rfl) (congrArg Value.int he) dJ8_indexOf_2_36
  · refine lv_aload_n hx hb dJ8_indexOf_2_7 rfl (lv_at hl 0 rfl) ?_
    obtain ⟨u8, eu8, hit⟩ := o_bind hit
    refine c_strV X (fun _ h => h) (va_S.rf (A := γ.2.2.2.2.1)) eu8 q2383 dJ8_indexOf_2_8 ?_
    refine lv_iload_n hx hb dJ8_indexOf_2_11 rfl (lv_at hl 1 rfl) ?_
    refine lv_iload_n hx hb dJ8_indexOf_2_12 rfl (lv_at hl 2 rfl) ?_
    refine lv_aload_n hx hb dJ8_indexOf_2_13 rfl (lv_at hl 0 rfl) ?_
    obtain ⟨u9, eu9, hit⟩ := o_bind hit
    obtain ⟨q10, eq10, hit⟩ := o_bind hit
    refine c_cRk X (fun _ h => h) (va_S.rf (A := γ.2.2.2.2.1)) hH hDU eu9 (wCJ8_length l γ X.2.1 _ _  _ eq10) nm_J8_length q865 q866 q148 q868 q867 ⟨Nat.le_trans (Nat.le_of_ble_eq_true rfl) hR.1, Nat.le_trans (Nat.le_of_ble_eq_true rfl) hR.2⟩ ⟨Nat.zero_le _, Nat.zero_le _⟩ rfl rfl hl.1 (lv_room (Nat.le_of_ble_eq_true rfl)) dJ8_indexOf_2_14 ?_
    obtain ⟨q11, eq11, hit⟩ := o_bind hit
    refine c_cRS X hH hDU (wCJ9_indexOf l γ X.2.1 _ _ _ _ _ _ eq11) nm_J9_indexOf q873 q874 q149 q875 ⟨Nat.le_trans (Nat.le_of_ble_eq_true rfl) hR.1, Nat.le_trans (Nat.le_of_ble_eq_true rfl) hR.2⟩ ⟨Nat.zero_le _, Nat.zero_le _⟩ rfl rfl hl.1 (lv_room (Nat.le_of_ble_eq_true rfl)) dJ8_indexOf_2_17 ?_
    refine lv_goto (tgt := 36) hx hb dJ8_indexOf_2_20 (by decide) ?_
    have he := o_in hit
    exact hend (.int q11) _ _ _ _ (kOut_i rfl) (congrArg Value.int he) dJ8_indexOf_2_36
noncomputable def CJ8_indexOf (K : Nat → Nat) (h : CH) (o : Nat) (a0 : Int32) : Option (Int32) :=
  (sOk o).bind fun u1 =>
  (CJ8_indexOf_2 K h o a0 0).bind fun q2 =>
  some q2
theorem nm_J8_indexOf : kNm yJ8_indexOf RJ8 1 := by unfold kNm; decide +kernel
set_option maxHeartbeats 4000000 in
set_option maxRecDepth 100000 in
theorem wCJ8_indexOf (l : Launch) (γ : KG) (hO : kOK γ) (h : CH) (o : Nat) (a0 : Int32) (z : Int32) (hz : CJ8_indexOf γ.2.2.2.2.2 h o a0 = some z) : Met l yJ8_indexOf (ws_ yJ8_indexOf cJ8_indexOf 2 (some .int)) (kRm 6 138) (cPc γ h [.ref (γ.2.2.2.2.2 (10 + o)), .int a0]) (cRq (.int z)) 0 0 vp_nf := by
  refine c_startR (cc := cJ8_indexOf) (own := RJ8) hO rfl rfl rfl (fun p e R s m args below meth c Q ls X hR hH hDU hl hend => ?_)
  have hx := X.1.1
  have hb := X.1.2.1
  have hit := hz
  clear hz
  unfold CJ8_indexOf at hit
  have hl : lv_has ls 2 [(0, .ref (γ.2.2.2.2.2 (10 + o))), (1, .int a0)] := hl
  refine lv_aload_n hx hb dJ8_indexOf_0 rfl (lv_at hl 0 rfl) ?_
  refine lv_iload_n hx hb dJ8_indexOf_1 rfl (lv_at hl 1 rfl) ?_
  refine lv_iconst (v := 0) hx hb dJ8_indexOf_2 (by decide) ?_
  obtain ⟨u1, eu1, hit⟩ := o_bind hit
  obtain ⟨q2, eq2, hit⟩ := o_bind hit
  refine c_cRk X (fun _ h => h) (va_S.rf (A := γ.2.2.2.2.1)) hH hDU eu1 (wCJ8_indexOf_2 l γ X.2.1 _ _ _ _ _ eq2) nm_J8_indexOf_2 q855 q856 q148 q858 q857 ⟨Nat.le_trans (Nat.le_of_ble_eq_true rfl) hR.1, Nat.le_trans (Nat.le_of_ble_eq_true rfl) hR.2⟩ ⟨Nat.zero_le _, Nat.zero_le _⟩ rfl rfl hl.1 (lv_room (Nat.le_of_ble_eq_true rfl)) dJ8_indexOf_3 ?_
  have he := o_in hit
  exact hend (.int q2) _ _ _ _ (kOut_i rfl) (congrArg Value.int he) dJ8_indexOf_6
noncomputable def C5_next_L102 (o : Nat) (t24 : CH) : Option (CH ⊕ CH) :=
  (vc t24 o 4 (C5_isDigit t24 o)).bind fun q28 =>
  if q28 = 0 then
    (some (.inr t24))
  else
    ((gI t24 o 4 11).bind fun v30 =>
    (vc t24 o 4 (C5_here t24 o)).bind fun q31 =>
    (pI t24 o 4 11 (imin 100000 (((10 * v30) + q31) - 48))).bind fun s32 =>
    (gI s32 o 4 7).bind fun v33 =>
    (pI s32 o 4 7 (v33 + 1)).bind fun s34 =>
    some (.inl s34))
noncomputable def C5_next_L62 (o : Nat) (t35 : CH) : Option (CH ⊕ CH) :=
  (vc t35 o 4 (C5_isLetter t35 o)).bind fun q39 =>
  if q39 = 0 then
    (some (.inr t35))
  else
    ((gI t35 o 4 7).bind fun v41 =>
    (pI t35 o 4 7 (v41 + 1)).bind fun s42 =>
    some (.inl s42))
noncomputable def C5_next_L0 (o : Nat) (t1 : CH) : Option (CH ⊕ CH) :=
  (vc t1 o 4 (C5_here t1 o)).bind fun q44 =>
  if q44 = 32 then
    ((gI t1 o 4 7).bind fun v46 =>
    (pI t1 o 4 7 (v46 + 1)).bind fun s47 =>
    some (.inl s47))
  else
    ((vc t1 o 4 (C5_here t1 o)).bind fun q48 =>
    if q48 = 10 then
      ((gI t1 o 4 7).bind fun v50 =>
      (pI t1 o 4 7 (v50 + 1)).bind fun s51 =>
      some (.inl s51))
    else
      (some (.inr t1)))
noncomputable def C5_next (K : Nat → Nat) (h : CH) (o : Nat) : Option (CH) :=
  (o_loop (C5_next_L0 o) h).bind fun r3 =>
  (gI r3 o 4 7).bind fun v4 =>
  (pI r3 o 4 9 v4).bind fun s5 =>
  (vc s5 o 4 (C5_here s5 o)).bind fun q6 =>
  ((if q6 = (-1) then
      ((pI s5 o 4 8 0).bind fun s43 =>
      some s43)
    else
      ((vc s5 o 4 (C5_isLetter s5 o)).bind fun q11 =>
      if q11 = 0 then
        ((vc s5 o 4 (C5_isDigit s5 o)).bind fun q13 =>
        if q13 = 0 then
          ((vc s5 o 4 (C5_here s5 o)).bind fun q15 =>
          (sOk 12).bind fun u16 =>
          (CJ8_indexOf K s5 12 q15).bind fun q17 =>
          ((if q17 < 0 then
              (some 4)
            else
              (some 3) : Option Int32)).bind fun r18 =>
          (pI s5 o 4 8 r18).bind fun s19 =>
          (gI s19 o 4 7).bind fun v20 =>
          (pI s19 o 4 7 (v20 + 1)).bind fun s21 =>
          some s21)
        else
          ((pI s5 o 4 11 0).bind fun s23 =>
          (o_loop (C5_next_L102 o) s23).bind fun r26 =>
          (pI r26 o 4 8 2).bind fun s27 =>
          some s27))
      else
        ((o_loop (C5_next_L62 o) s5).bind fun r37 =>
        (pI r37 o 4 8 1).bind fun s38 =>
        some s38)) : Option CH)).bind fun r7 =>
  (gI r7 o 4 7).bind fun v8 =>
  (pI r7 o 4 10 v8).bind fun s9 =>
  some s9
theorem nm_X5_next : kNm yX5_next RX5 0 := by unfold kNm; decide +kernel
set_option maxHeartbeats 4000000 in
set_option maxRecDepth 100000 in
theorem wC5_next (l : Launch) (γ : KG) (hO : kOK γ) (h : CH) (o : Nat) (z : CH) (hz : C5_next γ.2.2.2.2.2 h o = some z) : Met l yX5_next (ws_ yX5_next cX5_next 1 none) (kRm 7 159) (cPc γ h [.ref o]) (cNq γ h none z) 0 0 (kdm h) := by
  refine c_startN (cc := cX5_next) (own := RX5) hO rfl rfl rfl (fun p e R s m args below meth c Q ls X hR h0H hI hl hend => ?_)
  have hx := X.1.1
  have hb := X.1.2.1
  have hit := hz
  clear hz
  unfold C5_next at hit
  have hl : lv_has ls 1 [(0, .ref o)] := hl
  obtain ⟨r3, er3, hit⟩ := o_bind hit
  have hr3 : ∀ (H : Heap) (locs : List Loc) (ls : Array Slot), NI γ (kdm h) s.heap.size s r3 H locs → lv_has ls 1 [(0, .ref o)] → W p l e R s m args below meth c H locs 0 0 Q (F0 m 31 ls []) := by
    intro H locs ls hI hl
    refine lv_aload_n hx hb dX5_next_31 rfl (lv_at hl 0 rfl) ?_
    refine lv_aload_n hx hb dX5_next_32 rfl (lv_at hl 0 rfl) ?_
    obtain ⟨v4, ev4, hit⟩ := o_bind hit
    refine c_getI X hI.1 kc_Reader 7 q790 (Or.inl rfl) rfl rfl ev4 dX5_next_33 ?_
    obtain ⟨s5, es5, hit⟩ := o_bind hit
    refine c_putI X hI kc_Reader 9 q792 (Or.inl rfl) rfl rfl (tyv := .int) rfl rfl rfl es5 dX5_next_36 (fun H locs hI => ?_)
    refine lv_aload_n hx hb dX5_next_39 rfl (lv_at hl 0 rfl) ?_
    obtain ⟨q6, eq6, hit⟩ := o_bind hit
    obtain ⟨iq6, eq6⟩ := vc_inv eq6
    refine c_cR X hI.1 (fun U hU hW => hI.D X.2.2 (c_AF h0H) hU hW) kc_Reader (wC5_here l γ X.2.1 _ _  _ eq6) iq6 nm_X5_here q835 q837 q146 q838 qs11 ⟨Nat.le_trans (Nat.le_of_ble_eq_true rfl) hR.1, Nat.le_trans (Nat.le_of_ble_eq_true rfl) hR.2⟩ ⟨Nat.zero_le _, Nat.zero_le _⟩ rfl rfl hl.1 (lv_room (Nat.le_of_ble_eq_true rfl)) dX5_next_40 ?_
    refine lv_iconst (v := (-1)) hx hb dX5_next_43 (by decide) ?_
    obtain ⟨r7, er7, hit⟩ := o_bind hit
    have hr7 : ∀ (H : Heap) (locs : List Loc) (ls : Array Slot), NI γ (kdm h) s.heap.size s r7 H locs → lv_has ls 1 [(0, .ref o)] → W p l e R s m args below meth c H locs 0 0 Q (F0 m 185 ls []) := by
      intro H locs ls hI hl
      refine lv_aload_n hx hb dX5_next_185 rfl (lv_at hl 0 rfl) ?_
      refine lv_aload_n hx hb dX5_next_186 rfl (lv_at hl 0 rfl) ?_
      obtain ⟨v8, ev8, hit⟩ := o_bind hit
      refine c_getI X hI.1 kc_Reader 7 q790 (Or.inl rfl) rfl rfl ev8 dX5_next_187 ?_
      obtain ⟨s9, es9, hit⟩ := o_bind hit
      refine c_putI X hI kc_Reader 10 q794 (Or.inl rfl) rfl rfl (tyv := .int) rfl rfl rfl es9 dX5_next_190 (fun H locs hI => ?_)
      have he := o_in hit
      exact hend none _ _ _ _ _ _ _ kOut_v (by subst he; rfl) hI dX5_next_193
    have hit := er7
    refine b_icmp_ne (tgt := 55) hx hb dX5_next_44 (by decide) hit (fun c10 hit => ?_) (fun c10 hit => ?_)
    · refine lv_aload_n hx hb dX5_next_55 rfl (lv_at hl 0 rfl) ?_
      obtain ⟨q11, eq11, hit⟩ := o_bind hit
      obtain ⟨iq11, eq11⟩ := vc_inv eq11
      refine c_cR X hI.1 (fun U hU hW => hI.D X.2.2 (c_AF h0H) hU hW) kc_Reader (wC5_isLetter l γ X.2.1 _ _  _ eq11) iq11 nm_X5_isLetter q839 q841 q146 q842 qs12 ⟨Nat.le_trans (Nat.le_of_ble_eq_true rfl) hR.1, Nat.le_trans (Nat.le_of_ble_eq_true rfl) hR.2⟩ ⟨Nat.zero_le _, Nat.zero_le _⟩ rfl rfl hl.1 (lv_room (Nat.le_of_ble_eq_true rfl)) dX5_next_56 ?_
      refine b_if_eq (tgt := 90) hx hb dX5_next_59 (by decide) hit (fun c12 hit => ?_) (fun c12 hit => ?_)
      · refine lv_aload_n hx hb dX5_next_90 rfl (lv_at hl 0 rfl) ?_
        obtain ⟨q13, eq13, hit⟩ := o_bind hit
        obtain ⟨iq13, eq13⟩ := vc_inv eq13
        refine c_cR X hI.1 (fun U hU hW => hI.D X.2.2 (c_AF h0H) hU hW) kc_Reader (wC5_isDigit l γ X.2.1 _ _  _ eq13) iq13 nm_X5_isDigit q844 q846 q146 q847 qs13 ⟨Nat.le_trans (Nat.le_of_ble_eq_true rfl) hR.1, Nat.le_trans (Nat.le_of_ble_eq_true rfl) hR.2⟩ ⟨Nat.zero_le _, Nat.zero_le _⟩ rfl rfl hl.1 (lv_room (Nat.le_of_ble_eq_true rfl)) dX5_next_91 ?_
        refine b_if_eq (tgt := 154) hx hb dX5_next_94 (by decide) hit (fun c14 hit => ?_) (fun c14 hit => ?_)
        · refine lv_aload_n hx hb dX5_next_154 rfl (lv_at hl 0 rfl) ?_
          refine c_ldcS X 12 (by decide) rfl dX5_next_155 ?_
          refine lv_aload_n hx hb dX5_next_157 rfl (lv_at hl 0 rfl) ?_
          obtain ⟨q15, eq15, hit⟩ := o_bind hit
          obtain ⟨iq15, eq15⟩ := vc_inv eq15
          refine c_cR X hI.1 (fun U hU hW => hI.D X.2.2 (c_AF h0H) hU hW) kc_Reader (wC5_here l γ X.2.1 _ _  _ eq15) iq15 nm_X5_here q835 q837 q146 q838 qs11 ⟨Nat.le_trans (Nat.le_of_ble_eq_true rfl) hR.1, Nat.le_trans (Nat.le_of_ble_eq_true rfl) hR.2⟩ ⟨Nat.zero_le _, Nat.zero_le _⟩ rfl rfl hl.1 (lv_room (Nat.le_of_ble_eq_true rfl)) dX5_next_158 ?_
          obtain ⟨u16, eu16, hit⟩ := o_bind hit
          obtain ⟨q17, eq17, hit⟩ := o_bind hit
          refine c_cRk X (c_AF h0H) hI.2.1 hI.1 (fun U hU hW => hI.D X.2.2 (c_AF h0H) hU hW) eu16 (wCJ8_indexOf l γ X.2.1 _ _ _ _ eq17) nm_J8_indexOf q851 q852 q148 q854 q853 ⟨Nat.le_trans (Nat.le_of_ble_eq_true rfl) hR.1, Nat.le_trans (Nat.le_of_ble_eq_true rfl) hR.2⟩ ⟨Nat.zero_le _, Nat.zero_le _⟩ rfl rfl hl.1 (lv_room (Nat.le_of_ble_eq_true rfl)) dX5_next_161 ?_
          obtain ⟨r18, er18, hit⟩ := o_bind hit
          have hr18 : ∀ (H : Heap) (locs : List Loc) (ls : Array Slot), NI γ (kdm h) s.heap.size s s5 H locs → lv_has ls 1 [(0, .ref o)] → W p l e R s m args below meth c H locs 0 0 Q (F0 m 172 ls [.int r18, .ref o]) := by
            intro H locs ls hI hl
            obtain ⟨s19, es19, hit⟩ := o_bind hit
            refine c_putI X hI kc_Reader 8 q791 (Or.inl rfl) rfl rfl (tyv := .int) rfl rfl rfl es19 dX5_next_172 (fun H locs hI => ?_)
            refine lv_aload_n hx hb dX5_next_175 rfl (lv_at hl 0 rfl) ?_
            refine lv_dup hx hb dX5_next_176 rfl ?_
            obtain ⟨v20, ev20, hit⟩ := o_bind hit
            refine c_getI X hI.1 kc_Reader 7 q790 (Or.inl rfl) rfl rfl ev20 dX5_next_177 ?_
            refine lv_iconst (v := 1) hx hb dX5_next_180 (by decide) ?_
            refine lv_iadd hx hb dX5_next_181 ?_
            obtain ⟨s21, es21, hit⟩ := o_bind hit
            refine c_putI X hI kc_Reader 7 q790 (Or.inl rfl) rfl rfl (tyv := .int) rfl rfl rfl es21 dX5_next_182 (fun H locs hI => ?_)
            have he := o_in hit
            subst he
            exact hr7 _ _ _ hI hl
          have hit := er18
          refine b_if_lt (tgt := 171) hx hb dX5_next_164 (by decide) hit (fun c22 hit => ?_) (fun c22 hit => ?_)
          · refine lv_iconst (v := 4) hx hb dX5_next_171 (by decide) ?_
            have he := o_in hit
            subst he
            exact hr18 _ _ _ hI hl
          · refine lv_iconst (v := 3) hx hb dX5_next_167 (by decide) ?_
            refine lv_goto (tgt := 172) hx hb dX5_next_168 (by decide) ?_
            have he := o_in hit
            subst he
            exact hr18 _ _ _ hI hl
        · refine lv_aload_n hx hb dX5_next_97 rfl (lv_at hl 0 rfl) ?_
          refine lv_iconst (v := 0) hx hb dX5_next_98 (by decide) ?_
          obtain ⟨s23, es23, hit⟩ := o_bind hit
          refine c_putI X hI kc_Reader 11 q795 (Or.inl rfl) rfl rfl (tyv := .int) rfl rfl rfl es23 dX5_next_99 (fun H locs hI => ?_)
          obtain ⟨r26, er26, hit⟩ := o_bind hit
          have hr26 : ∀ (H : Heap) (locs : List Loc) (ls : Array Slot), NI γ (kdm h) s.heap.size s r26 H locs → lv_has ls 1 [(0, .ref o)] → W p l e R s m args below meth c H locs 0 0 Q (F0 m 146 ls []) := by
            intro H locs ls hI hl
            refine lv_aload_n hx hb dX5_next_146 rfl (lv_at hl 0 rfl) ?_
            refine lv_iconst (v := 2) hx hb dX5_next_147 (by decide) ?_
            obtain ⟨s27, es27, hit⟩ := o_bind hit
            refine c_putI X hI kc_Reader 8 q791 (Or.inl rfl) rfl rfl (tyv := .int) rfl rfl rfl es27 dX5_next_148 (fun H locs hI => ?_)
            refine lv_goto (tgt := 185) hx hb dX5_next_151 (by decide) ?_
            have he := o_in hit
            subst he
            exact hr7 _ _ _ hI hl
          refine o_rec (P := fun t24 => ∀ (H : Heap) (locs : List Loc) (ls : Array Slot), NI γ (kdm h) s.heap.size s t24 H locs → lv_has ls 1 [(0, .ref o)] → W p l e R s m args below meth c H locs 0 0 Q (F0 m 102 ls [])) (fun t24 x25 hit hC24 hE24 H locs ls hI hl => ?_) _ er26 _ _ _ hI hl
          unfold C5_next_L102 at hit
          refine lv_aload_n hx hb dX5_next_102 rfl (lv_at hl 0 rfl) ?_
          obtain ⟨q28, eq28, hit⟩ := o_bind hit
          obtain ⟨iq28, eq28⟩ := vc_inv eq28
          refine c_cR X hI.1 (fun U hU hW => hI.D X.2.2 (c_AF h0H) hU hW) kc_Reader (wC5_isDigit l γ X.2.1 _ _  _ eq28) iq28 nm_X5_isDigit q844 q846 q146 q847 qs13 ⟨Nat.le_trans (Nat.le_of_ble_eq_true rfl) hR.1, Nat.le_trans (Nat.le_of_ble_eq_true rfl) hR.2⟩ ⟨Nat.zero_le _, Nat.zero_le _⟩ rfl rfl hl.1 (lv_room (Nat.le_of_ble_eq_true rfl)) dX5_next_103 ?_
          refine b_if_eq (tgt := 146) hx hb dX5_next_106 (by decide) hit (fun c29 hit => ?_) (fun c29 hit => ?_)
          · have he := o_in hit
            have he := hE24 _ he
            subst he
            exact hr26 _ _ _ hI hl
          · refine lv_aload_n hx hb dX5_next_109 rfl (lv_at hl 0 rfl) ?_
            refine lv_ldc (v := 100000) hx hb X.1.2.2.2.1 (X.1.2.2.2.2 _ q848) dX5_next_110 ?_
            refine lv_bipush (v := 10) hx hb dX5_next_112 (by decide) ?_
            refine lv_aload_n hx hb dX5_next_114 rfl (lv_at hl 0 rfl) ?_
            obtain ⟨v30, ev30, hit⟩ := o_bind hit
            refine c_getI X hI.1 kc_Reader 11 q795 (Or.inl rfl) rfl rfl ev30 dX5_next_115 ?_
            refine lv_imul hx hb dX5_next_118 ?_
            refine lv_aload_n hx hb dX5_next_119 rfl (lv_at hl 0 rfl) ?_
            obtain ⟨q31, eq31, hit⟩ := o_bind hit
            obtain ⟨iq31, eq31⟩ := vc_inv eq31
            refine c_cR X hI.1 (fun U hU hW => hI.D X.2.2 (c_AF h0H) hU hW) kc_Reader (wC5_here l γ X.2.1 _ _  _ eq31) iq31 nm_X5_here q835 q837 q146 q838 qs11 ⟨Nat.le_trans (Nat.le_of_ble_eq_true rfl) hR.1, Nat.le_trans (Nat.le_of_ble_eq_true rfl) hR.2⟩ ⟨Nat.zero_le _, Nat.zero_le _⟩ rfl rfl hl.1 (lv_room (Nat.le_of_ble_eq_true rfl)) dX5_next_120 ?_
            refine lv_iadd hx hb dX5_next_123 ?_
            refine lv_bipush (v := 48) hx hb dX5_next_124 (by decide) ?_
            refine lv_isub hx hb dX5_next_126 ?_
            refine b_min X.1 hl.1 q849 (Nat.le_trans (Nat.le_of_ble_eq_true rfl) hR.1) (Nat.le_trans (Nat.le_of_ble_eq_true rfl) hR.2) ⟨Nat.zero_le _, Nat.zero_le _⟩ dX5_next_127 ?_
            obtain ⟨s32, es32, hit⟩ := o_bind hit
            refine c_putI X hI kc_Reader 11 q795 (Or.inl rfl) rfl rfl (tyv := .int) rfl rfl rfl es32 dX5_next_130 (fun H locs hI => ?_)
            refine lv_aload_n hx hb dX5_next_133 rfl (lv_at hl 0 rfl) ?_
            refine lv_dup hx hb dX5_next_134 rfl ?_
            obtain ⟨v33, ev33, hit⟩ := o_bind hit
            refine c_getI X hI.1 kc_Reader 7 q790 (Or.inl rfl) rfl rfl ev33 dX5_next_135 ?_
            refine lv_iconst (v := 1) hx hb dX5_next_138 (by decide) ?_
            refine lv_iadd hx hb dX5_next_139 ?_
            obtain ⟨s34, es34, hit⟩ := o_bind hit
            refine c_putI X hI kc_Reader 7 q790 (Or.inl rfl) rfl rfl (tyv := .int) rfl rfl rfl es34 dX5_next_140 (fun H locs hI => ?_)
            refine lv_goto (tgt := 102) hx hb dX5_next_143 (by decide) ?_
            have he := o_in hit
            exact hC24 _ he _ _ _ hI hl
      · obtain ⟨r37, er37, hit⟩ := o_bind hit
        have hr37 : ∀ (H : Heap) (locs : List Loc) (ls : Array Slot), NI γ (kdm h) s.heap.size s r37 H locs → lv_has ls 1 [(0, .ref o)] → W p l e R s m args below meth c H locs 0 0 Q (F0 m 82 ls []) := by
          intro H locs ls hI hl
          refine lv_aload_n hx hb dX5_next_82 rfl (lv_at hl 0 rfl) ?_
          refine lv_iconst (v := 1) hx hb dX5_next_83 (by decide) ?_
          obtain ⟨s38, es38, hit⟩ := o_bind hit
          refine c_putI X hI kc_Reader 8 q791 (Or.inl rfl) rfl rfl (tyv := .int) rfl rfl rfl es38 dX5_next_84 (fun H locs hI => ?_)
          refine lv_goto (tgt := 185) hx hb dX5_next_87 (by decide) ?_
          have he := o_in hit
          subst he
          exact hr7 _ _ _ hI hl
        refine o_rec (P := fun t35 => ∀ (H : Heap) (locs : List Loc) (ls : Array Slot), NI γ (kdm h) s.heap.size s t35 H locs → lv_has ls 1 [(0, .ref o)] → W p l e R s m args below meth c H locs 0 0 Q (F0 m 62 ls [])) (fun t35 x36 hit hC35 hE35 H locs ls hI hl => ?_) _ er37 _ _ _ hI hl
        unfold C5_next_L62 at hit
        refine lv_aload_n hx hb dX5_next_62 rfl (lv_at hl 0 rfl) ?_
        obtain ⟨q39, eq39, hit⟩ := o_bind hit
        obtain ⟨iq39, eq39⟩ := vc_inv eq39
        refine c_cR X hI.1 (fun U hU hW => hI.D X.2.2 (c_AF h0H) hU hW) kc_Reader (wC5_isLetter l γ X.2.1 _ _  _ eq39) iq39 nm_X5_isLetter q839 q841 q146 q842 qs12 ⟨Nat.le_trans (Nat.le_of_ble_eq_true rfl) hR.1, Nat.le_trans (Nat.le_of_ble_eq_true rfl) hR.2⟩ ⟨Nat.zero_le _, Nat.zero_le _⟩ rfl rfl hl.1 (lv_room (Nat.le_of_ble_eq_true rfl)) dX5_next_63 ?_
        refine b_if_eq (tgt := 82) hx hb dX5_next_66 (by decide) hit (fun c40 hit => ?_) (fun c40 hit => ?_)
        · have he := o_in hit
          have he := hE35 _ he
          subst he
          exact hr37 _ _ _ hI hl
        · refine lv_aload_n hx hb dX5_next_69 rfl (lv_at hl 0 rfl) ?_
          refine lv_dup hx hb dX5_next_70 rfl ?_
          obtain ⟨v41, ev41, hit⟩ := o_bind hit
          refine c_getI X hI.1 kc_Reader 7 q790 (Or.inl rfl) rfl rfl ev41 dX5_next_71 ?_
          refine lv_iconst (v := 1) hx hb dX5_next_74 (by decide) ?_
          refine lv_iadd hx hb dX5_next_75 ?_
          obtain ⟨s42, es42, hit⟩ := o_bind hit
          refine c_putI X hI kc_Reader 7 q790 (Or.inl rfl) rfl rfl (tyv := .int) rfl rfl rfl es42 dX5_next_76 (fun H locs hI => ?_)
          refine lv_goto (tgt := 62) hx hb dX5_next_79 (by decide) ?_
          have he := o_in hit
          exact hC35 _ he _ _ _ hI hl
    · refine lv_aload_n hx hb dX5_next_47 rfl (lv_at hl 0 rfl) ?_
      refine lv_iconst (v := 0) hx hb dX5_next_48 (by decide) ?_
      obtain ⟨s43, es43, hit⟩ := o_bind hit
      refine c_putI X hI kc_Reader 8 q791 (Or.inl rfl) rfl rfl (tyv := .int) rfl rfl rfl es43 dX5_next_49 (fun H locs hI => ?_)
      refine lv_goto (tgt := 185) hx hb dX5_next_52 (by decide) ?_
      have he := o_in hit
      subst he
      exact hr7 _ _ _ hI hl
  refine o_rec (P := fun t1 => ∀ (H : Heap) (locs : List Loc) (ls : Array Slot), NI γ (kdm h) s.heap.size s t1 H locs → lv_has ls 1 [(0, .ref o)] → W p l e R s m args below meth c H locs 0 0 Q (F0 m 0 ls [])) (fun t1 x2 hit hC1 hE1 H locs ls hI hl => ?_) _ er3 _ _ _ hI hl
  unfold C5_next_L0 at hit
  refine lv_aload_n hx hb dX5_next_0 rfl (lv_at hl 0 rfl) ?_
  obtain ⟨q44, eq44, hit⟩ := o_bind hit
  obtain ⟨iq44, eq44⟩ := vc_inv eq44
  refine c_cR X hI.1 (fun U hU hW => hI.D X.2.2 (c_AF h0H) hU hW) kc_Reader (wC5_here l γ X.2.1 _ _  _ eq44) iq44 nm_X5_here q835 q837 q146 q838 qs11 ⟨Nat.le_trans (Nat.le_of_ble_eq_true rfl) hR.1, Nat.le_trans (Nat.le_of_ble_eq_true rfl) hR.2⟩ ⟨Nat.zero_le _, Nat.zero_le _⟩ rfl rfl hl.1 (lv_room (Nat.le_of_ble_eq_true rfl)) dX5_next_1 ?_
  refine lv_bipush (v := 32) hx hb dX5_next_4 (by decide) ?_
  refine b_icmp_eq (tgt := 18) hx hb dX5_next_6 (by decide) hit (fun c45 hit => ?_) (fun c45 hit => ?_)
  · refine lv_aload_n hx hb dX5_next_18 rfl (lv_at hl 0 rfl) ?_
    refine lv_dup hx hb dX5_next_19 rfl ?_
    obtain ⟨v46, ev46, hit⟩ := o_bind hit
    refine c_getI X hI.1 kc_Reader 7 q790 (Or.inl rfl) rfl rfl ev46 dX5_next_20 ?_
    refine lv_iconst (v := 1) hx hb dX5_next_23 (by decide) ?_
    refine lv_iadd hx hb dX5_next_24 ?_
    obtain ⟨s47, es47, hit⟩ := o_bind hit
    refine c_putI X hI kc_Reader 7 q790 (Or.inl rfl) rfl rfl (tyv := .int) rfl rfl rfl es47 dX5_next_25 (fun H locs hI => ?_)
    refine lv_goto (tgt := 0) hx hb dX5_next_28 (by decide) ?_
    have he := o_in hit
    exact hC1 _ he _ _ _ hI hl
  · refine lv_aload_n hx hb dX5_next_9 rfl (lv_at hl 0 rfl) ?_
    obtain ⟨q48, eq48, hit⟩ := o_bind hit
    obtain ⟨iq48, eq48⟩ := vc_inv eq48
    refine c_cR X hI.1 (fun U hU hW => hI.D X.2.2 (c_AF h0H) hU hW) kc_Reader (wC5_here l γ X.2.1 _ _  _ eq48) iq48 nm_X5_here q835 q837 q146 q838 qs11 ⟨Nat.le_trans (Nat.le_of_ble_eq_true rfl) hR.1, Nat.le_trans (Nat.le_of_ble_eq_true rfl) hR.2⟩ ⟨Nat.zero_le _, Nat.zero_le _⟩ rfl rfl hl.1 (lv_room (Nat.le_of_ble_eq_true rfl)) dX5_next_10 ?_
    refine lv_bipush (v := 10) hx hb dX5_next_13 (by decide) ?_
    refine b_icmp_ne (tgt := 31) hx hb dX5_next_15 (by decide) hit (fun c49 hit => ?_) (fun c49 hit => ?_)
    · have he := o_in hit
      have he := hE1 _ he
      subst he
      exact hr3 _ _ _ hI hl
    · refine lv_aload_n hx hb dX5_next_18 rfl (lv_at hl 0 rfl) ?_
      refine lv_dup hx hb dX5_next_19 rfl ?_
      obtain ⟨v50, ev50, hit⟩ := o_bind hit
      refine c_getI X hI.1 kc_Reader 7 q790 (Or.inl rfl) rfl rfl ev50 dX5_next_20 ?_
      refine lv_iconst (v := 1) hx hb dX5_next_23 (by decide) ?_
      refine lv_iadd hx hb dX5_next_24 ?_
      obtain ⟨s51, es51, hit⟩ := o_bind hit
      refine c_putI X hI kc_Reader 7 q790 (Or.inl rfl) rfl rfl (tyv := .int) rfl rfl rfl es51 dX5_next_25 (fun H locs hI => ?_)
      refine lv_goto (tgt := 0) hx hb dX5_next_28 (by decide) ?_
      have he := o_in hit
      exact hC1 _ he _ _ _ hI hl
noncomputable def CJ9_charAt (K : Nat → Nat) (h : CH) (a0 : Nat) (a1 : Int32) : Option (Int32) :=
  (aNb K h a0).bind fun v1 =>
  (CJ8_checkIndex h a1 v1).bind fun q2 =>
  (aIb K h a0 a1).bind fun v3 =>
  some (vp_nar .char (i2c_ (v3 &&& 255)))
theorem nm_J9_charAt : kNm yJ9_charAt RJ9 2 := by unfold kNm; decide +kernel
set_option maxHeartbeats 4000000 in
set_option maxRecDepth 100000 in
theorem wCJ9_charAt (l : Launch) (γ : KG) (hO : kOK γ) (h : CH) (a0 : Nat) (a1 : Int32) (z : Int32) (hz : CJ9_charAt γ.2.2.2.2.2 h a0 a1 = some z) : Met l yJ9_charAt (ws_ yJ9_charAt cJ9_charAt 2 (some .char)) (kRm 2 43) (cPc γ h [.ref a0, .int a1]) (cRq (.int z)) 0 0 vp_nf := by
  refine c_startR (cc := cJ9_charAt) (own := RJ9) hO rfl rfl rfl (fun p e R s m args below meth c Q ls X hR hH hDU hl hend => ?_)
  have hx := X.1.1
  have hb := X.1.2.1
  have hit := hz
  clear hz
  unfold CJ9_charAt at hit
  have hl : lv_has ls 2 [(0, .ref a0), (1, .int a1)] := hl
  refine lv_iload_n hx hb dJ9_charAt_0 rfl (lv_at hl 1 rfl) ?_
  refine lv_aload_n hx hb dJ9_charAt_1 rfl (lv_at hl 0 rfl) ?_
  obtain ⟨v1, ev1, hit⟩ := o_bind hit
  refine c_alenB X (fun _ h => h) (va_S.rf (A := γ.2.2.2.2.1)) hH ev1 dJ9_charAt_2 ?_
  obtain ⟨q2, eq2, hit⟩ := o_bind hit
  refine c_cRSv X hH hDU (wCJ8_checkIndex l γ X.2.1 _ _ _ _ eq2) nm_J8_checkIndex q940 q568 q148 q569 ⟨Nat.le_trans (Nat.le_of_ble_eq_true rfl) hR.1, Nat.le_trans (Nat.le_of_ble_eq_true rfl) hR.2⟩ ⟨Nat.zero_le _, Nat.zero_le _⟩ rfl rfl hl.1 (lv_room (Nat.le_of_ble_eq_true rfl)) dJ9_charAt_3 ?_
  refine lv_aload_n hx hb dJ9_charAt_6 rfl (lv_at hl 0 rfl) ?_
  refine lv_iload_n hx hb dJ9_charAt_7 rfl (lv_at hl 1 rfl) ?_
  obtain ⟨v3, ev3, hit⟩ := o_bind hit
  refine c_baldB X (fun _ h => h) (va_S.rf (A := γ.2.2.2.2.1)) hH ev3 dJ9_charAt_8 ?_
  refine lv_sipush (v := 255) hx hb dJ9_charAt_9 (by decide) ?_
  refine lv_iand hx hb dJ9_charAt_12 ?_
  refine lv_i2c hx hb dJ9_charAt_13 (v := i2c_ (v3 &&& 255)) rfl ?_
  have he := o_in hit
  exact hend (.int (vp_nar .char (i2c_ (v3 &&& 255)))) _ _ _ _ (kOut_i rfl) (congrArg Value.int he) dJ9_charAt_14
noncomputable def CJ10_charAt (K : Nat → Nat) (h : CH) (a0 : Nat) (a1 : Int32) : Option (Int32) :=
  (CJ10_checkIndex K h a1 a0).bind fun q1 =>
  (CJ10_getChar h a0 a1).bind fun q2 =>
  some (vp_nar .char q2)
theorem nm_J10_charAt : kNm yJ10_charAt RJ10 2 := by unfold kNm; decide +kernel
set_option maxHeartbeats 4000000 in
set_option maxRecDepth 100000 in
theorem wCJ10_charAt (l : Launch) (γ : KG) (hO : kOK γ) (h : CH) (a0 : Nat) (a1 : Int32) (z : Int32) (hz : CJ10_charAt γ.2.2.2.2.2 h a0 a1 = some z) : Met l yJ10_charAt (ws_ yJ10_charAt cJ10_charAt 2 (some .char)) (kRm 3 64) (cPc γ h [.ref a0, .int a1]) (cRq (.int z)) 0 0 vp_nf := by
  refine c_startR (cc := cJ10_charAt) (own := RJ10) hO rfl rfl rfl (fun p e R s m args below meth c Q ls X hR hH hDU hl hend => ?_)
  have hx := X.1.1
  have hb := X.1.2.1
  have hit := hz
  clear hz
  unfold CJ10_charAt at hit
  have hl : lv_has ls 2 [(0, .ref a0), (1, .int a1)] := hl
  refine lv_iload_n hx hb dJ10_charAt_0 rfl (lv_at hl 1 rfl) ?_
  refine lv_aload_n hx hb dJ10_charAt_1 rfl (lv_at hl 0 rfl) ?_
  obtain ⟨q1, eq1, hit⟩ := o_bind hit
  refine c_cRSv X hH hDU (wCJ10_checkIndex l γ X.2.1 _ _ _ _ eq1) nm_J10_checkIndex q944 q945 q150 q946 ⟨Nat.le_trans (Nat.le_of_ble_eq_true rfl) hR.1, Nat.le_trans (Nat.le_of_ble_eq_true rfl) hR.2⟩ ⟨Nat.zero_le _, Nat.zero_le _⟩ rfl rfl hl.1 (lv_room (Nat.le_of_ble_eq_true rfl)) dJ10_charAt_2 ?_
  refine lv_aload_n hx hb dJ10_charAt_5 rfl (lv_at hl 0 rfl) ?_
  refine lv_iload_n hx hb dJ10_charAt_6 rfl (lv_at hl 1 rfl) ?_
  obtain ⟨q2, eq2, hit⟩ := o_bind hit
  refine c_cRS X hH hDU (wCJ10_getChar l γ X.2.1 _ _ _ _ eq2) nm_J10_getChar q905 q574 q150 q575 ⟨Nat.le_trans (Nat.le_of_ble_eq_true rfl) hR.1, Nat.le_trans (Nat.le_of_ble_eq_true rfl) hR.2⟩ ⟨Nat.zero_le _, Nat.zero_le _⟩ rfl rfl hl.1 (lv_room (Nat.le_of_ble_eq_true rfl)) dJ10_charAt_7 ?_
  have he := o_in hit
  exact hend (.int (vp_nar .char q2)) _ _ _ _ (kOut_i rfl) (congrArg Value.int he) dJ10_charAt_10
noncomputable def CJ8_charAt (K : Nat → Nat) (h : CH) (o : Nat) (a0 : Int32) : Option (Int32) :=
  (sOk o).bind fun u1 =>
  (CJ8_isLatin1 h o).bind fun q2 =>
  if q2 = 0 then
    ((sOk o).bind fun u4 =>
    (CJ10_charAt K h (K (30 + o)) a0).bind fun q5 =>
    some (vp_nar .char q5))
  else
    ((sOk o).bind fun u6 =>
    (CJ9_charAt K h (K (30 + o)) a0).bind fun q7 =>
    some (vp_nar .char q7))
theorem nm_J8_charAt : kNm yJ8_charAt RJ8 1 := by unfold kNm; decide +kernel
set_option maxHeartbeats 4000000 in
set_option maxRecDepth 100000 in
theorem wCJ8_charAt (l : Launch) (γ : KG) (hO : kOK γ) (h : CH) (o : Nat) (a0 : Int32) (z : Int32) (hz : CJ8_charAt γ.2.2.2.2.2 h o a0 = some z) : Met l yJ8_charAt (ws_ yJ8_charAt cJ8_charAt 2 (some .char)) (kRm 4 85) (cPc γ h [.ref (γ.2.2.2.2.2 (10 + o)), .int a0]) (cRq (.int z)) 0 0 vp_nf := by
  refine c_startR (cc := cJ8_charAt) (own := RJ8) hO rfl rfl rfl (fun p e R s m args below meth c Q ls X hR hH hDU hl hend => ?_)
  have hx := X.1.1
  have hb := X.1.2.1
  have hit := hz
  clear hz
  unfold CJ8_charAt at hit
  have hl : lv_has ls 2 [(0, .ref (γ.2.2.2.2.2 (10 + o))), (1, .int a0)] := hl
  refine lv_aload_n hx hb dJ8_charAt_0 rfl (lv_at hl 0 rfl) ?_
  obtain ⟨u1, eu1, hit⟩ := o_bind hit
  obtain ⟨q2, eq2, hit⟩ := o_bind hit
  refine c_cRk X (fun _ h => h) (va_S.rf (A := γ.2.2.2.2.1)) hH hDU eu1 (wCJ8_isLatin1 l γ X.2.1 _ _  _ eq2) nm_J8_isLatin1 q859 q860 q148 q862 q861 ⟨Nat.le_trans (Nat.le_of_ble_eq_true rfl) hR.1, Nat.le_trans (Nat.le_of_ble_eq_true rfl) hR.2⟩ ⟨Nat.zero_le _, Nat.zero_le _⟩ rfl rfl hl.1 (lv_room (Nat.le_of_ble_eq_true rfl)) dJ8_charAt_1 ?_
  refine b_if_eq (tgt := 16) hx hb dJ8_charAt_4 (by decide) hit (fun c3 hit => ?_) (fun c3 hit => ?_)
  · refine lv_aload_n hx hb dJ8_charAt_16 rfl (lv_at hl 0 rfl) ?_
    obtain ⟨u4, eu4, hit⟩ := o_bind hit
    refine c_strV X (fun _ h => h) (va_S.rf (A := γ.2.2.2.2.1)) eu4 q2383 dJ8_charAt_17 ?_
    refine lv_iload_n hx hb dJ8_charAt_20 rfl (lv_at hl 1 rfl) ?_
    obtain ⟨q5, eq5, hit⟩ := o_bind hit
    refine c_cRS X hH hDU (wCJ10_charAt l γ X.2.1 _ _ _ _ eq5) nm_J10_charAt q941 q942 q150 q943 ⟨Nat.le_trans (Nat.le_of_ble_eq_true rfl) hR.1, Nat.le_trans (Nat.le_of_ble_eq_true rfl) hR.2⟩ ⟨Nat.zero_le _, Nat.zero_le _⟩ rfl rfl hl.1 (lv_room (Nat.le_of_ble_eq_true rfl)) dJ8_charAt_21 ?_
    have he := o_in hit
    exact hend (.int (vp_nar .char q5)) _ _ _ _ (kOut_i rfl) (congrArg Value.int he) dJ8_charAt_24
  · refine lv_aload_n hx hb dJ8_charAt_7 rfl (lv_at hl 0 rfl) ?_
    obtain ⟨u6, eu6, hit⟩ := o_bind hit
    refine c_strV X (fun _ h => h) (va_S.rf (A := γ.2.2.2.2.1)) eu6 q2383 dJ8_charAt_8 ?_
    refine lv_iload_n hx hb dJ8_charAt_11 rfl (lv_at hl 1 rfl) ?_
    obtain ⟨q7, eq7, hit⟩ := o_bind hit
    refine c_cRS X hH hDU (wCJ9_charAt l γ X.2.1 _ _ _ _ eq7) nm_J9_charAt q937 q938 q149 q939 ⟨Nat.le_trans (Nat.le_of_ble_eq_true rfl) hR.1, Nat.le_trans (Nat.le_of_ble_eq_true rfl) hR.2⟩ ⟨Nat.zero_le _, Nat.zero_le _⟩ rfl rfl hl.1 (lv_room (Nat.le_of_ble_eq_true rfl)) dJ8_charAt_12 ?_
    have he := o_in hit
    exact hend (.int (vp_nar .char q7)) _ _ _ _ (kOut_i rfl) (congrArg Value.int he) dJ8_charAt_15
noncomputable def C5_is_L28 (K : Nat → Nat) (h : CH) (o : Nat) (a0 : Nat) (t8 : Int32) : Option (Int32 ⊕ Int32) :=
  (sOk a0).bind fun u10 =>
  (CJ8_length K h a0).bind fun q11 =>
  if t8 < q11 then
    ((sOk a0).bind fun u13 =>
    (CJ8_charAt K h a0 t8).bind fun q14 =>
    (gR h o 4 13).bind fun v15 =>
    (gR h v15 1 4).bind fun v16 =>
    (gI h o 4 9).bind fun v17 =>
    (aI h v16 2 (v17 + t8)).bind fun v18 =>
    if q14 = (v18 &&& 255) then
      (some (.inl (t8 + 1)))
    else
      (some (.inr 0)))
  else
    (some (.inr 1))
noncomputable def C5_is (K : Nat → Nat) (h : CH) (o : Nat) (a0 : Nat) : Option (Int32) :=
  (gI h o 4 8).bind fun v1 =>
  if v1 = 1 then
    ((sOk a0).bind fun u3 =>
    (CJ8_length K h a0).bind fun q4 =>
    (gI h o 4 10).bind fun v5 =>
    (gI h o 4 9).bind fun v6 =>
    if q4 = (v5 - v6) then
      (o_loop (C5_is_L28 K h o a0) 0)
    else
      (some 0))
  else
    (some 0)
theorem nm_X5_is : kNm yX5_is RX5 1 := by unfold kNm; decide +kernel
set_option maxHeartbeats 4000000 in
set_option maxRecDepth 100000 in
theorem wC5_is (l : Launch) (γ : KG) (hO : kOK γ) (h : CH) (o : Nat) (a0 : Nat) (z : Int32) (hz : C5_is γ.2.2.2.2.2 h o a0 = some z) : Met l yX5_is (ws_ yX5_is cX5_is 3 (some .boolean)) (kRm 5 106) (cPc γ h [.ref o, .ref (γ.2.2.2.2.2 (10 + a0))]) (cRq (.int z)) 0 0 vp_nf := by
  refine c_startR (cc := cX5_is) (own := RX5) hO rfl rfl rfl (fun p e R s m args below meth c Q ls X hR hH hDU hl hend => ?_)
  have hx := X.1.1
  have hb := X.1.2.1
  have hit := hz
  clear hz
  unfold C5_is at hit
  have hl : lv_has ls 3 [(0, .ref o), (1, .ref (γ.2.2.2.2.2 (10 + a0)))] := hl
  refine lv_aload_n hx hb dX5_is_0 rfl (lv_at hl 0 rfl) ?_
  obtain ⟨v1, ev1, hit⟩ := o_bind hit
  refine c_getI X hH kc_Reader 8 q791 (Or.inl rfl) rfl rfl ev1 dX5_is_1 ?_
  refine lv_iconst (v := 1) hx hb dX5_is_4 (by decide) ?_
  refine b_icmp_ne (tgt := 24) hx hb dX5_is_5 (by decide) hit (fun c2 hit => ?_) (fun c2 hit => ?_)
  · refine lv_iconst (v := 0) hx hb dX5_is_24 (by decide) ?_
    have he := o_in hit
    exact hend (.int 0) _ _ _ _ (kOut_i rfl) (congrArg Value.int he) dX5_is_25
  · refine lv_aload_n hx hb dX5_is_8 rfl (lv_at hl 1 rfl) ?_
    obtain ⟨u3, eu3, hit⟩ := o_bind hit
    obtain ⟨q4, eq4, hit⟩ := o_bind hit
    refine c_cRk X (fun _ h => h) (va_S.rf (A := γ.2.2.2.2.1)) hH hDU eu3 (wCJ8_length l γ X.2.1 _ _  _ eq4) nm_J8_length q932 q866 q148 q868 q867 ⟨Nat.le_trans (Nat.le_of_ble_eq_true rfl) hR.1, Nat.le_trans (Nat.le_of_ble_eq_true rfl) hR.2⟩ ⟨Nat.zero_le _, Nat.zero_le _⟩ rfl rfl hl.1 (lv_room (Nat.le_of_ble_eq_true rfl)) dX5_is_9 ?_
    refine lv_aload_n hx hb dX5_is_12 rfl (lv_at hl 0 rfl) ?_
    obtain ⟨v5, ev5, hit⟩ := o_bind hit
    refine c_getI X hH kc_Reader 10 q794 (Or.inl rfl) rfl rfl ev5 dX5_is_13 ?_
    refine lv_aload_n hx hb dX5_is_16 rfl (lv_at hl 0 rfl) ?_
    obtain ⟨v6, ev6, hit⟩ := o_bind hit
    refine c_getI X hH kc_Reader 9 q792 (Or.inl rfl) rfl rfl ev6 dX5_is_17 ?_
    refine lv_isub hx hb dX5_is_20 ?_
    refine b_icmp_eq (tgt := 26) hx hb dX5_is_21 (by decide) hit (fun c7 hit => ?_) (fun c7 hit => ?_)
    · refine lv_iconst (v := 0) hx hb dX5_is_26 (by decide) ?_
      refine lv_istore_n (lv' := [(2, .int 0), (0, .ref o), (1, .ref (γ.2.2.2.2.2 (10 + a0)))]) hx hb dX5_is_27 rfl hl (by decide) rfl (fun ls hl => ?_)
      refine o_rec (P := fun t8 => ∀ (ls : Array Slot), lv_has ls 3 [(0, .ref o), (1, .ref (γ.2.2.2.2.2 (10 + a0))), (2, .int t8)] → W p l e R s m args below meth c s.heap [] 0 0 Q (F0 m 28 ls [])) (fun t8 x9 hit hC8 hE8 ls hl => ?_) _ hit _ (lv_sub hl [1, 2, 0] rfl)
      unfold C5_is_L28 at hit
      refine lv_iload_n hx hb dX5_is_28 rfl (lv_at hl 2 rfl) ?_
      refine lv_aload_n hx hb dX5_is_29 rfl (lv_at hl 1 rfl) ?_
      obtain ⟨u10, eu10, hit⟩ := o_bind hit
      obtain ⟨q11, eq11, hit⟩ := o_bind hit
      refine c_cRk X (fun _ h => h) (va_S.rf (A := γ.2.2.2.2.1)) hH hDU eu10 (wCJ8_length l γ X.2.1 _ _  _ eq11) nm_J8_length q932 q866 q148 q868 q867 ⟨Nat.le_trans (Nat.le_of_ble_eq_true rfl) hR.1, Nat.le_trans (Nat.le_of_ble_eq_true rfl) hR.2⟩ ⟨Nat.zero_le _, Nat.zero_le _⟩ rfl rfl hl.1 (lv_room (Nat.le_of_ble_eq_true rfl)) dX5_is_30 ?_
      refine b_icmp_ge (tgt := 70) hx hb dX5_is_33 (by decide) hit (fun c12 hit => ?_) (fun c12 hit => ?_)
      · refine lv_iconst (v := 1) hx hb dX5_is_70 (by decide) ?_
        have he := o_in hit
        have he := hE8 _ he
        exact hend (.int 1) _ _ _ _ (kOut_i rfl) (congrArg Value.int he) dX5_is_71
      · refine lv_aload_n hx hb dX5_is_36 rfl (lv_at hl 1 rfl) ?_
        refine lv_iload_n hx hb dX5_is_37 rfl (lv_at hl 2 rfl) ?_
        obtain ⟨u13, eu13, hit⟩ := o_bind hit
        obtain ⟨q14, eq14, hit⟩ := o_bind hit
        refine c_cRk X (fun _ h => h) (va_S.rf (A := γ.2.2.2.2.1)) hH hDU eu13 (wCJ8_charAt l γ X.2.1 _ _ _ _ eq14) nm_J8_charAt q933 q934 q148 q936 q935 ⟨Nat.le_trans (Nat.le_of_ble_eq_true rfl) hR.1, Nat.le_trans (Nat.le_of_ble_eq_true rfl) hR.2⟩ ⟨Nat.zero_le _, Nat.zero_le _⟩ rfl rfl hl.1 (lv_room (Nat.le_of_ble_eq_true rfl)) dX5_is_38 ?_
        refine lv_aload_n hx hb dX5_is_41 rfl (lv_at hl 0 rfl) ?_
        obtain ⟨v15, ev15, hit⟩ := o_bind hit
        refine c_getR X hH kc_Reader 13 q797 (Or.inl rfl) rfl rfl ev15 dX5_is_42 ?_
        obtain ⟨v16, ev16, hit⟩ := o_bind hit
        refine c_getNR X hH kc_TwinInk 4 q280 (Or.inl rfl) rfl rfl ev16 dX5_is_45 ?_
        refine lv_aload_n hx hb dX5_is_48 rfl (lv_at hl 0 rfl) ?_
        obtain ⟨v17, ev17, hit⟩ := o_bind hit
        refine c_getI X hH kc_Reader 9 q792 (Or.inl rfl) rfl rfl ev17 dX5_is_49 ?_
        refine lv_iload_n hx hb dX5_is_52 rfl (lv_at hl 2 rfl) ?_
        refine lv_iadd hx hb dX5_is_53 ?_
        obtain ⟨v18, ev18, hit⟩ := o_bind hit
        refine c_bald X hH ev18 dX5_is_54 ?_
        refine lv_sipush (v := 255) hx hb dX5_is_55 (by decide) ?_
        refine lv_iand hx hb dX5_is_58 ?_
        refine b_icmp_eq (tgt := 64) hx hb dX5_is_59 (by decide) hit (fun c19 hit => ?_) (fun c19 hit => ?_)
        · refine lv_iinc (k := 2) (v := (t8 + 1)) (lv' := [(2, .int (t8 + 1)), (0, .ref o), (1, .ref (γ.2.2.2.2.2 (10 + a0)))]) hx hb dX5_is_64 hl rfl rfl (by decide) rfl (fun ls hl => ?_)
          refine lv_goto (tgt := 28) hx hb dX5_is_67 (by decide) ?_
          have he := o_in hit
          exact hC8 _ he _ (lv_sub hl [1, 2, 0] rfl)
        · refine lv_iconst (v := 0) hx hb dX5_is_62 (by decide) ?_
          have he := o_in hit
          have he := hE8 _ he
          exact hend (.int 0) _ _ _ _ (kOut_i rfl) (congrArg Value.int he) dX5_is_63
    · refine lv_iconst (v := 0) hx hb dX5_is_24 (by decide) ?_
      have he := o_in hit
      exact hend (.int 0) _ _ _ _ (kOut_i rfl) (congrArg Value.int he) dX5_is_25
noncomputable def C5_which_L2 (K : Nat → Nat) (h : CH) (o : Nat) (a0 : Nat) (t1 : Int32) : Option (Int32 ⊕ Int32) :=
  (aN h a0 5).bind fun v3 =>
  if t1 < v3 then
    ((aQ h a0 5 t1).bind fun v5 =>
    (v5).bind fun v6 =>
    (sIx K v6).bind fun v7 =>
    (vc h o 4 (C5_is K h o v7)).bind fun q8 =>
    if q8 = 0 then
      (some (.inl (t1 + 1)))
    else
      (some (.inr t1)))
  else
    (some (.inr (-1)))
noncomputable def C5_which (K : Nat → Nat) (h : CH) (o : Nat) (a0 : Nat) : Option (Int32) :=
  o_loop (C5_which_L2 K h o a0) 0
theorem nm_X5_which : kNm yX5_which RX5 1 := by unfold kNm; decide +kernel
set_option maxHeartbeats 4000000 in
set_option maxRecDepth 100000 in
theorem wC5_which (l : Launch) (γ : KG) (hO : kOK γ) (h : CH) (o : Nat) (a0 : Nat) (z : Int32) (hz : C5_which γ.2.2.2.2.2 h o a0 = some z) : Met l yX5_which (ws_ yX5_which cX5_which 3 (some .int)) (kRm 6 128) (cPc γ h [.ref o, .ref a0]) (cRq (.int z)) 0 0 vp_nf := by
  refine c_startR (cc := cX5_which) (own := RX5) hO rfl rfl rfl (fun p e R s m args below meth c Q ls X hR hH hDU hl hend => ?_)
  have hx := X.1.1
  have hb := X.1.2.1
  have hit := hz
  clear hz
  unfold C5_which at hit
  have hl : lv_has ls 3 [(0, .ref o), (1, .ref a0)] := hl
  refine lv_iconst (v := 0) hx hb dX5_which_0 (by decide) ?_
  refine lv_istore_n (lv' := [(2, .int 0), (0, .ref o), (1, .ref a0)]) hx hb dX5_which_1 rfl hl (by decide) rfl (fun ls hl => ?_)
  refine o_rec (P := fun t1 => ∀ (ls : Array Slot), lv_has ls 3 [(0, .ref o), (1, .ref a0), (2, .int t1)] → W p l e R s m args below meth c s.heap [] 0 0 Q (F0 m 2 ls [])) (fun t1 x2 hit hC1 hE1 ls hl => ?_) _ hit _ (lv_sub hl [1, 2, 0] rfl)
  unfold C5_which_L2 at hit
  refine lv_iload_n hx hb dX5_which_2 rfl (lv_at hl 2 rfl) ?_
  refine lv_aload_n hx hb dX5_which_3 rfl (lv_at hl 1 rfl) ?_
  obtain ⟨v3, ev3, hit⟩ := o_bind hit
  refine c_alen X hH 5 (fun _ => rfl) ev3 dX5_which_4 ?_
  refine b_icmp_ge (tgt := 26) hx hb dX5_which_5 (by decide) hit (fun c4 hit => ?_) (fun c4 hit => ?_)
  · refine lv_iconst (v := (-1)) hx hb dX5_which_26 (by decide) ?_
    have he := o_in hit
    have he := hE1 _ he
    exact hend (.int (-1)) _ _ _ _ (kOut_i rfl) (congrArg Value.int he) dX5_which_27
  · refine lv_aload_n hx hb dX5_which_8 rfl (lv_at hl 0 rfl) ?_
    refine lv_aload_n hx hb dX5_which_9 rfl (lv_at hl 1 rfl) ?_
    refine lv_iload_n hx hb dX5_which_10 rfl (lv_at hl 2 rfl) ?_
    obtain ⟨v5, ev5, hit⟩ := o_bind hit
    refine c_aald X hH 5 (fun _ => rfl) rfl ev5 dX5_which_11 ?_
    obtain ⟨v6, ev6, hit⟩ := o_bind hit
    refine c_deref ev6 ?_
    obtain ⟨v7, ev7, hit⟩ := o_bind hit
    refine c_str ev7 ?_
    obtain ⟨q8, eq8, hit⟩ := o_bind hit
    obtain ⟨iq8, eq8⟩ := vc_inv eq8
    refine c_cR X hH hDU kc_Reader (wC5_is l γ X.2.1 _ _ _ _ eq8) iq8 nm_X5_is q928 q930 q146 q931 qs16 ⟨Nat.le_trans (Nat.le_of_ble_eq_true rfl) hR.1, Nat.le_trans (Nat.le_of_ble_eq_true rfl) hR.2⟩ ⟨Nat.zero_le _, Nat.zero_le _⟩ rfl rfl hl.1 (lv_room (Nat.le_of_ble_eq_true rfl)) dX5_which_12 ?_
    refine b_if_eq (tgt := 20) hx hb dX5_which_15 (by decide) hit (fun c9 hit => ?_) (fun c9 hit => ?_)
    · refine lv_iinc (k := 2) (v := (t1 + 1)) (lv' := [(2, .int (t1 + 1)), (0, .ref o), (1, .ref a0)]) hx hb dX5_which_20 hl rfl rfl (by decide) rfl (fun ls hl => ?_)
      refine lv_goto (tgt := 2) hx hb dX5_which_23 (by decide) ?_
      have he := o_in hit
      exact hC1 _ he _ (lv_sub hl [1, 2, 0] rfl)
    · refine lv_iload_n hx hb dX5_which_18 rfl (lv_at hl 2 rfl) ?_
      have he := o_in hit
      have he := hE1 _ he
      exact hend (.int t1) _ _ _ _ (kOut_i rfl) (congrArg Value.int he) dX5_which_19
noncomputable def C5_isSign (h : CH) (o : Nat) (a0 : Int32) : Option (Int32) :=
  (gI h o 4 8).bind fun v1 =>
  if v1 = 3 then
    ((gR h o 4 13).bind fun v3 =>
    (gR h v3 1 4).bind fun v4 =>
    (gI h o 4 9).bind fun v5 =>
    (aI h v4 2 v5).bind fun v6 =>
    if v6 = a0 then
      (some 1)
    else
      (some 0))
  else
    (some 0)
theorem nm_X5_isSign : kNm yX5_isSign RX5 1 := by unfold kNm; decide +kernel
set_option maxHeartbeats 4000000 in
set_option maxRecDepth 100000 in
theorem wC5_isSign (l : Launch) (γ : KG) (hO : kOK γ) (h : CH) (o : Nat) (a0 : Int32) (z : Int32) (hz : C5_isSign h o a0 = some z) : Met l yX5_isSign (ws_ yX5_isSign cX5_isSign 2 (some .boolean)) (kRm 0 0) (cPc γ h [.ref o, .int a0]) (cRq (.int z)) 0 0 vp_nf := by
  refine c_startR (cc := cX5_isSign) (own := RX5) hO rfl rfl rfl (fun p e R s m args below meth c Q ls X hR hH hDU hl hend => ?_)
  have hx := X.1.1
  have hb := X.1.2.1
  have hit := hz
  clear hz
  unfold C5_isSign at hit
  have hl : lv_has ls 2 [(0, .ref o), (1, .int a0)] := hl
  refine lv_aload_n hx hb dX5_isSign_0 rfl (lv_at hl 0 rfl) ?_
  obtain ⟨v1, ev1, hit⟩ := o_bind hit
  refine c_getI X hH kc_Reader 8 q791 (Or.inl rfl) rfl rfl ev1 dX5_isSign_1 ?_
  refine lv_iconst (v := 3) hx hb dX5_isSign_4 (by decide) ?_
  refine b_icmp_ne (tgt := 28) hx hb dX5_isSign_5 (by decide) hit (fun c2 hit => ?_) (fun c2 hit => ?_)
  · refine lv_iconst (v := 0) hx hb dX5_isSign_28 (by decide) ?_
    have he := o_in hit
    exact hend (.int 0) _ _ _ _ (kOut_i rfl) (congrArg Value.int he) dX5_isSign_29
  · refine lv_aload_n hx hb dX5_isSign_8 rfl (lv_at hl 0 rfl) ?_
    obtain ⟨v3, ev3, hit⟩ := o_bind hit
    refine c_getR X hH kc_Reader 13 q797 (Or.inl rfl) rfl rfl ev3 dX5_isSign_9 ?_
    obtain ⟨v4, ev4, hit⟩ := o_bind hit
    refine c_getNR X hH kc_TwinInk 4 q280 (Or.inl rfl) rfl rfl ev4 dX5_isSign_12 ?_
    refine lv_aload_n hx hb dX5_isSign_15 rfl (lv_at hl 0 rfl) ?_
    obtain ⟨v5, ev5, hit⟩ := o_bind hit
    refine c_getI X hH kc_Reader 9 q792 (Or.inl rfl) rfl rfl ev5 dX5_isSign_16 ?_
    obtain ⟨v6, ev6, hit⟩ := o_bind hit
    refine c_bald X hH ev6 dX5_isSign_19 ?_
    refine lv_iload_n hx hb dX5_isSign_20 rfl (lv_at hl 1 rfl) ?_
    refine b_icmp_ne (tgt := 28) hx hb dX5_isSign_21 (by decide) hit (fun c7 hit => ?_) (fun c7 hit => ?_)
    · refine lv_iconst (v := 0) hx hb dX5_isSign_28 (by decide) ?_
      have he := o_in hit
      exact hend (.int 0) _ _ _ _ (kOut_i rfl) (congrArg Value.int he) dX5_isSign_29
    · refine lv_iconst (v := 1) hx hb dX5_isSign_24 (by decide) ?_
      refine lv_goto (tgt := 29) hx hb dX5_isSign_25 (by decide) ?_
      have he := o_in hit
      exact hend (.int 1) _ _ _ _ (kOut_i rfl) (congrArg Value.int he) dX5_isSign_29
noncomputable def C5_passes (K : Nat → Nat) (h : CH) (o : Nat) (a0 : Nat) : Option (Int32 × CH) :=
  (vc h o 4 (C5_is K h o a0)).bind fun q1 =>
  if q1 = 0 then
    (some ((vp_nar .boolean q1), h))
  else
    ((vc h o 4 (C5_next K h o)).bind fun q3 =>
    some ((vp_nar .boolean q1), q3))
theorem nm_X5_passes : kNm yX5_passes RX5 1 := by unfold kNm; decide +kernel
set_option maxHeartbeats 4000000 in
set_option maxRecDepth 100000 in
theorem wC5_passes (l : Launch) (γ : KG) (hO : kOK γ) (h : CH) (o : Nat) (a0 : Nat) (z : Int32 × CH) (hz : C5_passes γ.2.2.2.2.2 h o a0 = some z) : Met l yX5_passes (ws_ yX5_passes cX5_passes 3 (some .boolean)) (kRm 8 179) (cPc γ h [.ref o, .ref (γ.2.2.2.2.2 (10 + a0))]) (cNq γ h (some (.int z.1)) z.2) 0 0 (kdm h) := by
  refine c_startN (cc := cX5_passes) (own := RX5) hO rfl rfl rfl (fun p e R s m args below meth c Q ls X hR h0H hI hl hend => ?_)
  have hx := X.1.1
  have hb := X.1.2.1
  have hit := hz
  clear hz
  unfold C5_passes at hit
  have hl : lv_has ls 3 [(0, .ref o), (1, .ref (γ.2.2.2.2.2 (10 + a0)))] := hl
  refine lv_aload_n hx hb dX5_passes_0 rfl (lv_at hl 0 rfl) ?_
  refine lv_aload_n hx hb dX5_passes_1 rfl (lv_at hl 1 rfl) ?_
  obtain ⟨q1, eq1, hit⟩ := o_bind hit
  obtain ⟨iq1, eq1⟩ := vc_inv eq1
  refine c_cR X hI.1 (fun U hU hW => hI.D X.2.2 (c_AF h0H) hU hW) kc_Reader (wC5_is l γ X.2.1 _ _ _ _ eq1) iq1 nm_X5_is q928 q930 q146 q931 qs16 ⟨Nat.le_trans (Nat.le_of_ble_eq_true rfl) hR.1, Nat.le_trans (Nat.le_of_ble_eq_true rfl) hR.2⟩ ⟨Nat.zero_le _, Nat.zero_le _⟩ rfl rfl hl.1 (lv_room (Nat.le_of_ble_eq_true rfl)) dX5_passes_2 ?_
  refine lv_istore_n (lv' := [(2, .int q1), (0, .ref o), (1, .ref (γ.2.2.2.2.2 (10 + a0)))]) hx hb dX5_passes_5 rfl hl (by decide) rfl (fun ls hl => ?_)
  refine lv_iload_n hx hb dX5_passes_6 rfl (lv_at hl 0 rfl) ?_
  refine b_if_eq (tgt := 14) hx hb dX5_passes_7 (by decide) hit (fun c2 hit => ?_) (fun c2 hit => ?_)
  · refine lv_iload_n hx hb dX5_passes_14 rfl (lv_at hl 0 rfl) ?_
    have he := o_in hit
    exact hend (some (.int (vp_nar .boolean q1))) _ _ _ _ _ _ _ (kOut_i rfl) (by subst he; rfl) hI dX5_passes_15
  · refine lv_aload_n hx hb dX5_passes_10 rfl (lv_at hl 1 rfl) ?_
    obtain ⟨q3, eq3, hit⟩ := o_bind hit
    obtain ⟨iq3, eq3⟩ := vc_inv eq3
    refine c_cN X (c_AF h0H) hI kc_Reader (wC5_next l γ X.2.1 _ _  _ eq3) iq3 nm_X5_next q831 q833 q146 q834 qs10 ⟨Nat.le_trans (Nat.le_of_ble_eq_true rfl) hR.1, Nat.le_trans (Nat.le_of_ble_eq_true rfl) hR.2⟩ ⟨Nat.zero_le _, Nat.zero_le _⟩ rfl rfl hl.1 (lv_room (Nat.le_of_ble_eq_true rfl)) dX5_passes_11 (fun H locs hI => ?_)
    refine lv_iload_n hx hb dX5_passes_14 rfl (lv_at hl 0 rfl) ?_
    have he := o_in hit
    exact hend (some (.int (vp_nar .boolean q1))) _ _ _ _ _ _ _ (kOut_i rfl) (by subst he; rfl) hI dX5_passes_15
noncomputable def CJ3_init_2 (K : Nat → Nat) (h : CH) (r : CR) (o : Nat) (a2 : Int32) (a3 : Int32) : Option (CS) :=
  (pQ h o 5 0 (some o)).bind fun s1 =>
  (pQ s1 o 5 1 (kopt (K 5))).bind fun s2 =>
  (pQ s2 o 5 2 (kopt (K 6))).bind fun s3 =>
  ((if a3 = 0 then
      ((pQ s3 o 5 1 none).bind fun s10 =>
      some (s10, r))
    else
      (none) : Option CS)).bind fun r4 =>
  (pQ r4.1 o 5 3 none).bind fun s5 =>
  (pQ s5 o 5 0 none).bind fun s6 =>
  if a2 = 0 then
    ((pQ s6 o 5 2 none).bind fun s8 =>
    some (s8, r4.2))
  else
    (some (s6, r4.2))
theorem nm_J3_init_2 : kNm yJ3_init_2 RJ3 4 := by unfold kNm; decide +kernel
set_option maxHeartbeats 4000000 in
set_option maxRecDepth 100000 in
theorem wCJ3_init_2 (l : Launch) (γ : KG) (hO : kOK γ) (h : CH) (r : CR) (o : Nat) (a2 : Int32) (a3 : Int32) (z : CS) (hz : CJ3_init_2 γ.2.2.2.2.2 h r o a2 a3 = some z) : aMet l yJ3_init_2 (ws_ yJ3_init_2 cJ3_init_2 5 none) 1 30 γ (h, r) [.ref o, va_rf none, va_rf none, .int a2, .int a3] none z := by
  refine a_start (cc := cJ3_init_2) (own := RJ3) hO rfl rfl rfl (fun p e R s m args below meth c Q ls X hR hnm h0H hA hl hend => ?_)
  have hin2 : meth.name = "<init>" := hnm
  have hx := X.1.1
  have hb := X.1.2.1
  have hit := hz
  clear hz
  unfold CJ3_init_2 at hit
  have hl : lv_has ls 5 [(0, .ref o), (1, va_rf none), (2, va_rf none), (3, .int a2), (4, .int a3)] := hl
  refine lv_aload_n hx hb dJ3_init_2_0 rfl (lv_at hl 0 rfl) ?_
  refine b_objInit X.1 hl.1 q719 ⟨Nat.le_trans (Nat.le_of_ble_eq_true rfl) hR.1, Nat.le_trans (Nat.le_of_ble_eq_true rfl) hR.2⟩ (Nat.le_of_ble_eq_true rfl) dJ3_init_2_1 ?_
  refine lv_aload_n hx hb dJ3_init_2_4 rfl (lv_at hl 0 rfl) ?_
  refine lv_aload_n hx hb dJ3_init_2_5 rfl (lv_at hl 0 rfl) ?_
  obtain ⟨s1, es1, hit⟩ := o_bind hit
  refine c_putQ X hA.1 kc_Wrong 0 q747 (Or.inl rfl) rfl rfl (v := (some o)) (tyv := (.object "java/lang/Throwable")) rfl (Or.inl ⟨_, rfl⟩) es1 dJ3_init_2_6 (fun H locs hI => ?_)
  replace hA := hA.up hI
  clear hI
  refine lv_aload_n hx hb dJ3_init_2_9 rfl (lv_at hl 0 rfl) ?_
  refine c_gets X (kA_F X.2.1 X.2.2 h0H) hA.1.2.1 X.2.1.1.2.2.2.2.1 q720 dJ3_init_2_10 ?_
  obtain ⟨s2, es2, hit⟩ := o_bind hit
  refine c_putQ X hA.1 kc_Wrong 1 q748 (Or.inl rfl) rfl rfl (v := (kopt (γ.2.2.2.2.2 5))) (tyv := (.array (.object "java/lang/StackTraceElement"))) rfl (Or.inr ⟨_, rfl⟩) es2 dJ3_init_2_13 (fun H locs hI => ?_)
  replace hA := hA.up hI
  clear hI
  refine lv_aload_n hx hb dJ3_init_2_16 rfl (lv_at hl 0 rfl) ?_
  refine c_gets X (kA_F X.2.1 X.2.2 h0H) hA.1.2.1 X.2.1.1.2.2.2.2.2.1 q722 dJ3_init_2_17 ?_
  obtain ⟨s3, es3, hit⟩ := o_bind hit
  refine c_putQ X hA.1 kc_Wrong 2 q749 (Or.inl rfl) rfl rfl (v := (kopt (γ.2.2.2.2.2 6))) (tyv := (.object "java/util/List")) rfl (Or.inl ⟨_, rfl⟩) es3 dJ3_init_2_20 (fun H locs hI => ?_)
  replace hA := hA.up hI
  clear hI
  refine lv_iload hx hb dJ3_init_2_23 (lv_at hl 4 rfl) ?_
  obtain ⟨r4, er4, hit⟩ := o_bind hit
  have hr4 : ∀ (H : Heap) (locs : List Loc) (cells slots : Nat) (ls : Array Slot), AI γ (h, r) s R r4.1 r4.2 H locs cells slots → lv_has ls 5 [(0, .ref o), (1, va_rf none), (2, va_rf none), (3, .int a2)] → W p l e R s m args below meth c H locs cells slots Q (F0 m 41 ls []) := by
    intro H locs cells slots ls hA hl
    refine lv_aload_n hx hb dJ3_init_2_41 rfl (lv_at hl 0 rfl) ?_
    refine b_aloadq_n hx hb dJ3_init_2_42 rfl (lv_at hl 1 rfl) ?_
    obtain ⟨s5, es5, hit⟩ := o_bind hit
    refine c_putQ X hA.1 kc_Wrong 3 q746 (Or.inl rfl) rfl rfl (v := none) (tyv := (.object "java/lang/String")) rfl (Or.inl ⟨_, rfl⟩) es5 dJ3_init_2_43 (fun H locs hI => ?_)
    replace hA := hA.up hI
    clear hI
    refine lv_aload_n hx hb dJ3_init_2_46 rfl (lv_at hl 0 rfl) ?_
    refine b_aloadq_n hx hb dJ3_init_2_47 rfl (lv_at hl 2 rfl) ?_
    obtain ⟨s6, es6, hit⟩ := o_bind hit
    refine c_putQ X hA.1 kc_Wrong 0 q747 (Or.inl rfl) rfl rfl (v := none) (tyv := (.object "java/lang/Throwable")) rfl (Or.inl ⟨_, rfl⟩) es6 dJ3_init_2_48 (fun H locs hI => ?_)
    replace hA := hA.up hI
    clear hI
    refine lv_iload_n hx hb dJ3_init_2_51 rfl (lv_at hl 3 rfl) ?_
    refine b_if_ne (tgt := 60) hx hb dJ3_init_2_52 (by decide) hit (fun c7 hit => ?_) (fun c7 hit => ?_)
    · have he := o_in hit
      exact hend none (s6, r4.2) _ _ _ _ _ _ _ _ kOut_v (by subst he; rfl) hA dJ3_init_2_60
    · refine lv_aload_n hx hb dJ3_init_2_55 rfl (lv_at hl 0 rfl) ?_
      refine b_null hx hb dJ3_init_2_56 ?_
      obtain ⟨s8, es8, hit⟩ := o_bind hit
      refine c_putQ X hA.1 kc_Wrong 2 q749 (Or.inl rfl) rfl rfl (v := none) (tyv := (.object "java/util/List")) rfl (Or.inl ⟨_, rfl⟩) es8 dJ3_init_2_57 (fun H locs hI => ?_)
      replace hA := hA.up hI
      clear hI
      have he := o_in hit
      exact hend none (s8, r4.2) _ _ _ _ _ _ _ _ kOut_v (by subst he; rfl) hA dJ3_init_2_60
  have hit := er4
  refine b_if_eq (tgt := 36) hx hb dJ3_init_2_25 (by decide) hit (fun c9 hit => ?_) (fun c9 hit => ?_)
  · refine lv_aload_n hx hb dJ3_init_2_36 rfl (lv_at hl 0 rfl) ?_
    refine b_null hx hb dJ3_init_2_37 ?_
    obtain ⟨s10, es10, hit⟩ := o_bind hit
    refine c_putQ X hA.1 kc_Wrong 1 q748 (Or.inl rfl) rfl rfl (v := none) (tyv := (.array (.object "java/lang/StackTraceElement"))) rfl (Or.inr ⟨_, rfl⟩) es10 dJ3_init_2_38 (fun H locs hI => ?_)
    replace hA := hA.up hI
    clear hI
    have he := o_in hit
    subst he
    exact hr4 _ _ _ _ _ hA (lv_sub hl [0, 1, 2, 3] rfl)
  · refine lv_aload_n hx hb dJ3_init_2_28 rfl (lv_at hl 0 rfl) ?_
    cases hit
noncomputable def CJ4_init_2 (K : Nat → Nat) (h : CH) (r : CR) (o : Nat) (a2 : Int32) (a3 : Int32) : Option (CS) :=
  (achv r (CJ3_init_2 K h r o a2 a3)).bind fun q1 =>
  some q1
theorem nm_J4_init_2 : kNm yJ4_init_2 RJ4 4 := by unfold kNm; decide +kernel
set_option maxHeartbeats 4000000 in
set_option maxRecDepth 100000 in
theorem wCJ4_init_2 (l : Launch) (γ : KG) (hO : kOK γ) (h : CH) (r : CR) (o : Nat) (a2 : Int32) (a3 : Int32) (z : CS) (hz : CJ4_init_2 γ.2.2.2.2.2 h r o a2 a3 = some z) : aMet l yJ4_init_2 (ws_ yJ4_init_2 cJ4_init_2 5 none) 2 54 γ (h, r) [.ref o, va_rf none, va_rf none, .int a2, .int a3] none z := by
  refine a_start (cc := cJ4_init_2) (own := RJ4) hO rfl rfl rfl (fun p e R s m args below meth c Q ls X hR hnm h0H hA hl hend => ?_)
  have hin2 : meth.name = "<init>" := hnm
  have hx := X.1.1
  have hb := X.1.2.1
  have hit := hz
  clear hz
  unfold CJ4_init_2 at hit
  have hl : lv_has ls 5 [(0, .ref o), (1, va_rf none), (2, va_rf none), (3, .int a2), (4, .int a3)] := hl
  refine lv_aload_n hx hb dJ4_init_2_0 rfl (lv_at hl 0 rfl) ?_
  refine b_aloadq_n hx hb dJ4_init_2_1 rfl (lv_at hl 1 rfl) ?_
  refine b_aloadq_n hx hb dJ4_init_2_2 rfl (lv_at hl 2 rfl) ?_
  refine lv_iload_n hx hb dJ4_init_2_3 rfl (lv_at hl 3 rfl) ?_
  refine lv_iload hx hb dJ4_init_2_4 (lv_at hl 4 rfl) ?_
  obtain ⟨q1, eq1, hit⟩ := o_bind hit
  obtain ⟨eq1, lq1⟩ := achv_inv eq1
  refine a_cI X h0H hA nm_J3_init_2 q972 q973 q142 q974 rfl (wCJ3_init_2 l γ X.2.1 _ _ _ _ _ _ eq1) lq1 ⟨Nat.le_trans (Nat.le_of_ble_eq_true rfl) hR.1, Nat.le_trans (Nat.le_of_ble_eq_true rfl) hR.2⟩ rfl rfl hl.1 (lv_room (Nat.le_of_ble_eq_true rfl)) dJ4_init_2_6 (fun H locs cells slots hA => ?_)
  have he := o_in hit
  exact hend none q1 _ _ _ _ _ _ _ _ kOut_v (by subst he; rfl) hA dJ4_init_2_9
noncomputable def C6_init (K : Nat → Nat) (h : CH) (r : CR) (o : Nat) (a0 : Int32) : Option (CS) :=
  (achv r (CJ4_init_2 K h r o 0 0)).bind fun q1 =>
  (pI q1.1 o 5 6 a0).bind fun s2 =>
  some (s2, q1.2)
theorem nm_X6_init : kNm yX6_init RX6 1 := by unfold kNm; decide +kernel
set_option maxHeartbeats 4000000 in
set_option maxRecDepth 100000 in
theorem wC6_init (l : Launch) (γ : KG) (hO : kOK γ) (h : CH) (r : CR) (o : Nat) (a0 : Int32) (z : CS) (hz : C6_init γ.2.2.2.2.2 h r o a0 = some z) : aMet l yX6_init (ws_ yX6_init cX6_init 2 none) 3 78 γ (h, r) [.ref o, .int a0] none z := by
  refine a_start (cc := cX6_init) (own := RX6) hO rfl rfl rfl (fun p e R s m args below meth c Q ls X hR hnm h0H hA hl hend => ?_)
  have hin2 : meth.name = "<init>" := hnm
  have hx := X.1.1
  have hb := X.1.2.1
  have hit := hz
  clear hz
  unfold C6_init at hit
  have hl : lv_has ls 2 [(0, .ref o), (1, .int a0)] := hl
  refine lv_aload_n hx hb dX6_init_0 rfl (lv_at hl 0 rfl) ?_
  refine b_null hx hb dX6_init_1 ?_
  refine b_null hx hb dX6_init_2 ?_
  refine lv_iconst (v := 0) hx hb dX6_init_3 (by decide) ?_
  refine lv_iconst (v := 0) hx hb dX6_init_4 (by decide) ?_
  obtain ⟨q1, eq1, hit⟩ := o_bind hit
  obtain ⟨eq1, lq1⟩ := achv_inv eq1
  refine a_cI X h0H hA nm_J4_init_2 q969 q970 q143 q971 rfl (wCJ4_init_2 l γ X.2.1 _ _ _ _ _ _ eq1) lq1 ⟨Nat.le_trans (Nat.le_of_ble_eq_true rfl) hR.1, Nat.le_trans (Nat.le_of_ble_eq_true rfl) hR.2⟩ rfl rfl hl.1 (lv_room (Nat.le_of_ble_eq_true rfl)) dX6_init_5 (fun H locs cells slots hA => ?_)
  refine lv_aload_n hx hb dX6_init_8 rfl (lv_at hl 0 rfl) ?_
  refine lv_iload_n hx hb dX6_init_9 rfl (lv_at hl 1 rfl) ?_
  obtain ⟨s2, es2, hit⟩ := o_bind hit
  refine c_putFI X hin2 hA.1 kc_Wrong 6 q975 rfl rfl (tyv := .int) rfl rfl rfl es2 dX6_init_10 (fun H locs hI => ?_)
  replace hA := hA.up hI
  clear hI
  have he := o_in hit
  exact hend none (s2, q1.2) _ _ _ _ _ _ _ _ kOut_v (by subst he; rfl) hA dX6_init_13
noncomputable def C5_sign (K : Nat → Nat) (h : CH) (o : Nat) : Option (Int32 × CH) :=
  (gR h o 4 13).bind fun v1 =>
  (gR h v1 1 4).bind fun v2 =>
  (gI h o 4 9).bind fun v3 =>
  (aI h v2 2 v3).bind fun v4 =>
  (vc h o 4 (C5_next K h o)).bind fun q5 =>
  some ((vp_nar .char (i2c_ v4)), q5)
theorem nm_X5_sign : kNm yX5_sign RX5 0 := by unfold kNm; decide +kernel
set_option maxHeartbeats 4000000 in
set_option maxRecDepth 100000 in
theorem wC5_sign (l : Launch) (γ : KG) (hO : kOK γ) (h : CH) (o : Nat) (z : Int32 × CH) (hz : C5_sign γ.2.2.2.2.2 h o = some z) : Met l yX5_sign (ws_ yX5_sign cX5_sign 2 (some .char)) (kRm 8 179) (cPc γ h [.ref o]) (cNq γ h (some (.int z.1)) z.2) 0 0 (kdm h) := by
  refine c_startN (cc := cX5_sign) (own := RX5) hO rfl rfl rfl (fun p e R s m args below meth c Q ls X hR h0H hI hl hend => ?_)
  have hx := X.1.1
  have hb := X.1.2.1
  have hit := hz
  clear hz
  unfold C5_sign at hit
  have hl : lv_has ls 2 [(0, .ref o)] := hl
  refine lv_aload_n hx hb dX5_sign_0 rfl (lv_at hl 0 rfl) ?_
  obtain ⟨v1, ev1, hit⟩ := o_bind hit
  refine c_getR X hI.1 kc_Reader 13 q797 (Or.inl rfl) rfl rfl ev1 dX5_sign_1 ?_
  obtain ⟨v2, ev2, hit⟩ := o_bind hit
  refine c_getNR X hI.1 kc_TwinInk 4 q280 (Or.inl rfl) rfl rfl ev2 dX5_sign_4 ?_
  refine lv_aload_n hx hb dX5_sign_7 rfl (lv_at hl 0 rfl) ?_
  obtain ⟨v3, ev3, hit⟩ := o_bind hit
  refine c_getI X hI.1 kc_Reader 9 q792 (Or.inl rfl) rfl rfl ev3 dX5_sign_8 ?_
  obtain ⟨v4, ev4, hit⟩ := o_bind hit
  refine c_bald X hI.1 ev4 dX5_sign_11 ?_
  refine lv_i2c hx hb dX5_sign_12 (v := i2c_ v4) rfl ?_
  refine lv_istore_n (lv' := [(1, .int (i2c_ v4)), (0, .ref o)]) hx hb dX5_sign_13 rfl hl (by decide) rfl (fun ls hl => ?_)
  refine lv_aload_n hx hb dX5_sign_14 rfl (lv_at hl 1 rfl) ?_
  obtain ⟨q5, eq5, hit⟩ := o_bind hit
  obtain ⟨iq5, eq5⟩ := vc_inv eq5
  refine c_cN X (c_AF h0H) hI kc_Reader (wC5_next l γ X.2.1 _ _  _ eq5) iq5 nm_X5_next q831 q833 q146 q834 qs10 ⟨Nat.le_trans (Nat.le_of_ble_eq_true rfl) hR.1, Nat.le_trans (Nat.le_of_ble_eq_true rfl) hR.2⟩ ⟨Nat.zero_le _, Nat.zero_le _⟩ rfl rfl hl.1 (lv_room (Nat.le_of_ble_eq_true rfl)) dX5_sign_15 (fun H locs hI => ?_)
  refine lv_iload_n hx hb dX5_sign_18 rfl (lv_at hl 0 rfl) ?_
  have he := o_in hit
  exact hend (some (.int (vp_nar .char (i2c_ v4)))) _ _ _ _ _ _ _ (kOut_i rfl) (by subst he; rfl) hI dX5_sign_19
noncomputable def C5_hasWord_L2 (h : CH) (o : Nat) (a0 : Int32) (a1 : Int32) (t1 : Int32) : Option (Int32 ⊕ Int32) :=
  (gR h o 4 1).bind fun v3 =>
  (gR h v3 2 0).bind fun v4 =>
  (vc h v4 10 (CJ2_size h v4)).bind fun q5 =>
  if t1 < q5 then
    ((gR h o 4 1).bind fun v7 =>
    (gR h v7 2 0).bind fun v8 =>
    (vc h v8 10 (CJ2_get h v8 t1)).bind fun q9 =>
    (ckA h q9 0).bind fun u11 =>
    (aI h q9 0 0).bind fun v12 =>
    if v12 = a0 then
      ((gR h o 4 1).bind fun v14 =>
      (gR h v14 2 0).bind fun v15 =>
      (vc h v15 10 (CJ2_get h v15 t1)).bind fun q16 =>
      (ckA h q16 0).bind fun u18 =>
      (aI h q16 0 1).bind fun v19 =>
      if v19 = a1 then
        (some (.inr 1))
      else
        (some (.inl (t1 + 1))))
    else
      (some (.inl (t1 + 1))))
  else
    (some (.inr 0))
noncomputable def C5_hasWord (h : CH) (o : Nat) (a0 : Int32) (a1 : Int32) : Option (Int32) :=
  o_loop (C5_hasWord_L2 h o a0 a1) 0
theorem nm_X5_hasWord : kNm yX5_hasWord RX5 2 := by unfold kNm; decide +kernel
set_option maxHeartbeats 4000000 in
set_option maxRecDepth 100000 in
theorem wC5_hasWord (l : Launch) (γ : KG) (hO : kOK γ) (h : CH) (o : Nat) (a0 : Int32) (a1 : Int32) (z : Int32) (hz : C5_hasWord h o a0 a1 = some z) : Met l yX5_hasWord (ws_ yX5_hasWord cX5_hasWord 4 (some .boolean)) (kRm 3 64) (cPc γ h [.ref o, .int a0, .int a1]) (cRq (.int z)) 0 0 vp_nf := by
  refine c_startR (cc := cX5_hasWord) (own := RX5) hO rfl rfl rfl (fun p e R s m args below meth c Q ls X hR hH hDU hl hend => ?_)
  have hx := X.1.1
  have hb := X.1.2.1
  have hit := hz
  clear hz
  unfold C5_hasWord at hit
  have hl : lv_has ls 4 [(0, .ref o), (1, .int a0), (2, .int a1)] := hl
  refine lv_iconst (v := 0) hx hb dX5_hasWord_0 (by decide) ?_
  refine lv_istore_n (lv' := [(3, .int 0), (0, .ref o), (1, .int a0), (2, .int a1)]) hx hb dX5_hasWord_1 rfl hl (by decide) rfl (fun ls hl => ?_)
  refine o_rec (P := fun t1 => ∀ (ls : Array Slot), lv_has ls 4 [(0, .ref o), (1, .int a0), (2, .int a1), (3, .int t1)] → W p l e R s m args below meth c s.heap [] 0 0 Q (F0 m 2 ls [])) (fun t1 x2 hit hC1 hE1 ls hl => ?_) _ hit _ (lv_sub hl [1, 2, 3, 0] rfl)
  unfold C5_hasWord_L2 at hit
  refine lv_iload_n hx hb dX5_hasWord_2 rfl (lv_at hl 3 rfl) ?_
  refine lv_aload_n hx hb dX5_hasWord_3 rfl (lv_at hl 0 rfl) ?_
  obtain ⟨v3, ev3, hit⟩ := o_bind hit
  refine c_getR X hH kc_Reader 1 q783 (Or.inl rfl) rfl rfl ev3 dX5_hasWord_4 ?_
  obtain ⟨v4, ev4, hit⟩ := o_bind hit
  refine c_getNR X hH kc_Office 0 q212 (Or.inl rfl) rfl rfl ev4 dX5_hasWord_7 ?_
  obtain ⟨q5, eq5, hit⟩ := o_bind hit
  obtain ⟨iq5, eq5⟩ := vc_inv eq5
  refine c_cRF X hH hDU kc_ArrayList (wCJ2_size l γ X.2.1 _ _  _ eq5) iq5 nmi_List_size q1184 q428 q139 q430 q426 q425 q424 q429 q427 q358 ⟨Nat.le_trans (Nat.le_of_ble_eq_true rfl) hR.1, Nat.le_trans (Nat.le_of_ble_eq_true rfl) hR.2⟩ ⟨Nat.zero_le _, Nat.zero_le _⟩ rfl rfl hl.1 (lv_room (Nat.le_of_ble_eq_true rfl)) dX5_hasWord_10 ?_
  refine b_icmp_ge (tgt := 70) hx hb dX5_hasWord_15 (by decide) hit (fun c6 hit => ?_) (fun c6 hit => ?_)
  · refine lv_iconst (v := 0) hx hb dX5_hasWord_70 (by decide) ?_
    have he := o_in hit
    have he := hE1 _ he
    exact hend (.int 0) _ _ _ _ (kOut_i rfl) (congrArg Value.int he) dX5_hasWord_71
  · refine lv_aload_n hx hb dX5_hasWord_18 rfl (lv_at hl 0 rfl) ?_
    obtain ⟨v7, ev7, hit⟩ := o_bind hit
    refine c_getR X hH kc_Reader 1 q783 (Or.inl rfl) rfl rfl ev7 dX5_hasWord_19 ?_
    obtain ⟨v8, ev8, hit⟩ := o_bind hit
    refine c_getNR X hH kc_Office 0 q212 (Or.inl rfl) rfl rfl ev8 dX5_hasWord_22 ?_
    refine lv_iload_n hx hb dX5_hasWord_25 rfl (lv_at hl 3 rfl) ?_
    obtain ⟨q9, eq9, hit⟩ := o_bind hit
    obtain ⟨iq9, eq9⟩ := vc_inv eq9
    refine c_cRF X hH hDU kc_ArrayList (wCJ2_get l γ X.2.1 _ _ _ _ eq9) iq9 nmi_List_get q1221 q483 q139 q485 q481 q480 q479 q484 q482 q358 ⟨Nat.le_trans (Nat.le_of_ble_eq_true rfl) hR.1, Nat.le_trans (Nat.le_of_ble_eq_true rfl) hR.2⟩ ⟨Nat.zero_le _, Nat.zero_le _⟩ rfl rfl hl.1 (lv_room (Nat.le_of_ble_eq_true rfl)) dX5_hasWord_26 ?_
    obtain ⟨u11, eu11, hit⟩ := o_bind hit
    refine c_castA X hH 0 (fun _ => rfl) q1222 (fun h => h) eu11 dX5_hasWord_31 ?_
    refine lv_iconst (v := 0) hx hb dX5_hasWord_34 (by decide) ?_
    obtain ⟨v12, ev12, hit⟩ := o_bind hit
    refine c_iald X hH ev12 dX5_hasWord_35 ?_
    refine lv_iload_n hx hb dX5_hasWord_36 rfl (lv_at hl 1 rfl) ?_
    refine b_icmp_ne (tgt := 64) hx hb dX5_hasWord_37 (by decide) hit (fun c13 hit => ?_) (fun c13 hit => ?_)
    · refine lv_iinc (k := 3) (v := (t1 + 1)) (lv' := [(3, .int (t1 + 1)), (0, .ref o), (1, .int a0), (2, .int a1)]) hx hb dX5_hasWord_64 hl rfl rfl (by decide) rfl (fun ls hl => ?_)
      refine lv_goto (tgt := 2) hx hb dX5_hasWord_67 (by decide) ?_
      have he := o_in hit
      exact hC1 _ he _ (lv_sub hl [1, 2, 3, 0] rfl)
    · refine lv_aload_n hx hb dX5_hasWord_40 rfl (lv_at hl 0 rfl) ?_
      obtain ⟨v14, ev14, hit⟩ := o_bind hit
      refine c_getR X hH kc_Reader 1 q783 (Or.inl rfl) rfl rfl ev14 dX5_hasWord_41 ?_
      obtain ⟨v15, ev15, hit⟩ := o_bind hit
      refine c_getNR X hH kc_Office 0 q212 (Or.inl rfl) rfl rfl ev15 dX5_hasWord_44 ?_
      refine lv_iload_n hx hb dX5_hasWord_47 rfl (lv_at hl 3 rfl) ?_
      obtain ⟨q16, eq16, hit⟩ := o_bind hit
      obtain ⟨iq16, eq16⟩ := vc_inv eq16
      refine c_cRF X hH hDU kc_ArrayList (wCJ2_get l γ X.2.1 _ _ _ _ eq16) iq16 nmi_List_get q1221 q483 q139 q485 q481 q480 q479 q484 q482 q358 ⟨Nat.le_trans (Nat.le_of_ble_eq_true rfl) hR.1, Nat.le_trans (Nat.le_of_ble_eq_true rfl) hR.2⟩ ⟨Nat.zero_le _, Nat.zero_le _⟩ rfl rfl hl.1 (lv_room (Nat.le_of_ble_eq_true rfl)) dX5_hasWord_48 ?_
      obtain ⟨u18, eu18, hit⟩ := o_bind hit
      refine c_castA X hH 0 (fun _ => rfl) q1222 (fun h => h) eu18 dX5_hasWord_53 ?_
      refine lv_iconst (v := 1) hx hb dX5_hasWord_56 (by decide) ?_
      obtain ⟨v19, ev19, hit⟩ := o_bind hit
      refine c_iald X hH ev19 dX5_hasWord_57 ?_
      refine lv_iload_n hx hb dX5_hasWord_58 rfl (lv_at hl 2 rfl) ?_
      refine b_icmp_ne (tgt := 64) hx hb dX5_hasWord_59 (by decide) hit (fun c20 hit => ?_) (fun c20 hit => ?_)
      · refine lv_iinc (k := 3) (v := (t1 + 1)) (lv' := [(3, .int (t1 + 1)), (0, .ref o), (1, .int a0), (2, .int a1)]) hx hb dX5_hasWord_64 hl rfl rfl (by decide) rfl (fun ls hl => ?_)
        refine lv_goto (tgt := 2) hx hb dX5_hasWord_67 (by decide) ?_
        have he := o_in hit
        exact hC1 _ he _ (lv_sub hl [1, 2, 3, 0] rfl)
      · refine lv_iconst (v := 1) hx hb dX5_hasWord_62 (by decide) ?_
        have he := o_in hit
        have he := hE1 _ he
        exact hend (.int 1) _ _ _ _ (kOut_i rfl) (congrArg Value.int he) dX5_hasWord_63
noncomputable def C9_init (h : CH) (o : Nat) (a0 : Int32) : Option (CH) :=
  (pI h o 8 0 a0).bind fun s1 =>
  some s1
theorem nm_X9_init : kNm yX9_init RX9 1 := by unfold kNm; decide +kernel
set_option maxHeartbeats 4000000 in
set_option maxRecDepth 100000 in
theorem wC9_init (l : Launch) (γ : KG) (hO : kOK γ) (h : CH) (o : Nat) (a0 : Int32) (z : CH) (hz : C9_init h o a0 = some z) : Met l yX9_init (ws_ yX9_init cX9_init 2 none) (kRm 1 30) (cPc γ h [.ref o, .int a0]) (cNq γ h none z) 0 0 (kdm h) := by
  refine c_startNI (cc := cX9_init) (own := RX9) hO rfl rfl rfl rfl (fun p e R s m args below meth c Q ls X hR hin2 h0H hI hl hend => ?_)
  have hx := X.1.1
  have hb := X.1.2.1
  have hit := hz
  clear hz
  unfold C9_init at hit
  have hl : lv_has ls 2 [(0, .ref o), (1, .int a0)] := hl
  refine lv_aload_n hx hb dX9_init_0 rfl (lv_at hl 0 rfl) ?_
  refine b_objInit X.1 hl.1 q1035 ⟨Nat.le_trans (Nat.le_of_ble_eq_true rfl) hR.1, Nat.le_trans (Nat.le_of_ble_eq_true rfl) hR.2⟩ (Nat.le_of_ble_eq_true rfl) dX9_init_1 ?_
  refine lv_aload_n hx hb dX9_init_4 rfl (lv_at hl 0 rfl) ?_
  refine lv_iload_n hx hb dX9_init_5 rfl (lv_at hl 1 rfl) ?_
  obtain ⟨s1, es1, hit⟩ := o_bind hit
  refine c_putFI X hin2 hI kc_Value 0 q1036 rfl rfl (tyv := .int) rfl rfl rfl es1 dX9_init_6 (fun H locs hI => ?_)
  have he := o_in hit
  exact hend _ _ _ _ _ he hI dX9_init_9
noncomputable def C9_of (h : CH) (o : Nat) (a0 : Nat) : Option (Int32) :=
  (gI h o 8 0).bind fun v1 =>
  (aI h a0 0 v1).bind fun v2 =>
  some v2
theorem nm_X9_of : kNm yX9_of RX9 1 := by unfold kNm; decide +kernel
set_option maxHeartbeats 4000000 in
set_option maxRecDepth 100000 in
theorem wC9_of (l : Launch) (γ : KG) (hO : kOK γ) (h : CH) (o : Nat) (a0 : Nat) (z : Int32) (hz : C9_of h o a0 = some z) : Met l yX9_of (ws_ yX9_of cX9_of 2 (some .int)) (kRm 0 0) (cPc γ h [.ref o, .ref a0]) (cRq (.int z)) 0 0 vp_nf := by
  refine c_startR (cc := cX9_of) (own := RX9) hO rfl rfl rfl (fun p e R s m args below meth c Q ls X hR hH hDU hl hend => ?_)
  have hx := X.1.1
  have hb := X.1.2.1
  have hit := hz
  clear hz
  unfold C9_of at hit
  have hl : lv_has ls 2 [(0, .ref o), (1, .ref a0)] := hl
  refine lv_aload_n hx hb dX9_of_0 rfl (lv_at hl 1 rfl) ?_
  refine lv_aload_n hx hb dX9_of_1 rfl (lv_at hl 0 rfl) ?_
  obtain ⟨v1, ev1, hit⟩ := o_bind hit
  refine c_getI X hH kc_Value 0 q1036 (Or.inl rfl) rfl rfl ev1 dX9_of_2 ?_
  obtain ⟨v2, ev2, hit⟩ := o_bind hit
  refine c_iald X hH ev2 dX9_of_5 ?_
  have he := o_in hit
  exact hend (.int v2) _ _ _ _ (kOut_i rfl) (congrArg Value.int he) dX9_of_6
