noncomputable def C1_in (a0 : Int32) (a1 : Int32) (a2 : Int32) : Option (Int32) :=
  if a0 < a1 then
    (some 0)
  else
    (if a0 ≤ a2 then
      (some 1)
    else
      (some 0))
theorem nm_X1_in : kNm yX1_in RX1 3 := by unfold kNm; decide +kernel
set_option maxHeartbeats 4000000 in
set_option maxRecDepth 100000 in
theorem wC1_in (l : Launch) (a0 : Int32) (a1 : Int32) (a2 : Int32) (z : Int32) (hz : C1_in a0 a1 a2 = some z) : Met l yX1_in (ws_ yX1_in cX1_in 3 (some .boolean)) (kRm 0 0) (bPc [.int a0, .int a1, .int a2]) (vp_Si (fun r => r = z)) 0 0 vp_nf := by
  refine c_startP (cc := cX1_in) (own := RX1) (ty := .boolean) rfl rfl rfl (fun p e R s m args below meth c Q ls X hR hl hend => ?_)
  have hx := X.1
  have hb := X.2.1
  have hit := hz
  clear hz
  unfold C1_in at hit
  have hl : lv_has ls 3 [(0, .int a0), (1, .int a1), (2, .int a2)] := hl
  refine lv_iload_n hx hb dX1_in_0 rfl (lv_at hl 0 rfl) ?_
  refine lv_iload_n hx hb dX1_in_1 rfl (lv_at hl 1 rfl) ?_
  refine b_icmp_lt (tgt := 14) hx hb dX1_in_2 (by decide) hit (fun c1 hit => ?_) (fun c1 hit => ?_)
  · refine lv_iconst (v := 0) hx hb dX1_in_14 (by decide) ?_
    have he := o_in hit
    exact hend _ 0 _ _ rfl he dX1_in_15
  · refine lv_iload_n hx hb dX1_in_5 rfl (lv_at hl 0 rfl) ?_
    refine lv_iload_n hx hb dX1_in_6 rfl (lv_at hl 2 rfl) ?_
    refine b_icmp_gt (tgt := 14) hx hb dX1_in_7 (by decide) hit (fun c2 hit => ?_) (fun c2 hit => ?_)
    · refine lv_iconst (v := 0) hx hb dX1_in_14 (by decide) ?_
      have he := o_in hit
      exact hend _ 0 _ _ rfl he dX1_in_15
    · refine lv_iconst (v := 1) hx hb dX1_in_10 (by decide) ?_
      refine lv_goto (tgt := 15) hx hb dX1_in_11 (by decide) ?_
      have he := o_in hit
      exact hend _ 1 _ _ rfl he dX1_in_15
noncomputable def C1_isOf (a0 : Int32) (a1 : Int32) : Option (Int32) :=
  if ((a0 >>> (a1 &&& 31)) &&& 1) = 1 then
    (some 1)
  else
    (some 0)
theorem nm_X1_isOf : kNm yX1_isOf RX1 2 := by unfold kNm; decide +kernel
set_option maxHeartbeats 4000000 in
set_option maxRecDepth 100000 in
theorem wC1_isOf (l : Launch) (a0 : Int32) (a1 : Int32) (z : Int32) (hz : C1_isOf a0 a1 = some z) : Met l yX1_isOf (ws_ yX1_isOf cX1_isOf 2 (some .boolean)) (kRm 0 0) (bPc [.int a0, .int a1]) (vp_Si (fun r => r = z)) 0 0 vp_nf := by
  refine c_startP (cc := cX1_isOf) (own := RX1) (ty := .boolean) rfl rfl rfl (fun p e R s m args below meth c Q ls X hR hl hend => ?_)
  have hx := X.1
  have hb := X.2.1
  have hit := hz
  clear hz
  unfold C1_isOf at hit
  have hl : lv_has ls 2 [(0, .int a0), (1, .int a1)] := hl
  refine lv_iload_n hx hb dX1_isOf_0 rfl (lv_at hl 0 rfl) ?_
  refine lv_iload_n hx hb dX1_isOf_1 rfl (lv_at hl 1 rfl) ?_
  refine lv_ishr hx hb dX1_isOf_2 ?_
  refine lv_iconst (v := 1) hx hb dX1_isOf_3 (by decide) ?_
  refine lv_iand hx hb dX1_isOf_4 ?_
  refine lv_iconst (v := 1) hx hb dX1_isOf_5 (by decide) ?_
  refine b_icmp_ne (tgt := 13) hx hb dX1_isOf_6 (by decide) hit (fun c1 hit => ?_) (fun c1 hit => ?_)
  · refine lv_iconst (v := 0) hx hb dX1_isOf_13 (by decide) ?_
    have he := o_in hit
    exact hend _ 0 _ _ rfl he dX1_isOf_14
  · refine lv_iconst (v := 1) hx hb dX1_isOf_9 (by decide) ?_
    refine lv_goto (tgt := 14) hx hb dX1_isOf_10 (by decide) ?_
    have he := o_in hit
    exact hend _ 1 _ _ rfl he dX1_isOf_14
noncomputable def CJ0_init (h : CH) (o : Nat) : Option (CH) :=
  some h
theorem nm_J0_init : kNm yJ0_init RJ0 0 := by unfold kNm; decide +kernel
set_option maxHeartbeats 4000000 in
set_option maxRecDepth 100000 in
theorem wCJ0_init (l : Launch) (γ : KG) (hO : kOK γ) (h : CH) (o : Nat) (z : CH) (hz : CJ0_init h o = some z) : Met l yJ0_init (ws_ yJ0_init cJ0_init 1 none) (kRm 1 30) (cPc γ h [.ref o]) (cNq γ h none z) 0 0 (kdm h) := by
  refine c_startNI (cc := cJ0_init) (own := RJ0) hO rfl rfl rfl rfl (fun p e R s m args below meth c Q ls X hR hin2 h0H hI hl hend => ?_)
  have hx := X.1.1
  have hb := X.1.2.1
  have hit := hz
  clear hz
  unfold CJ0_init at hit
  have hl : lv_has ls 1 [(0, .ref o)] := hl
  refine lv_aload_n hx hb dJ0_init_0 rfl (lv_at hl 0 rfl) ?_
  refine b_objInit X.1 hl.1 q193 ⟨Nat.le_trans (Nat.le_of_ble_eq_true rfl) hR.1, Nat.le_trans (Nat.le_of_ble_eq_true rfl) hR.2⟩ (Nat.le_of_ble_eq_true rfl) dJ0_init_1 ?_
  have he := o_in hit
  exact hend _ _ _ _ _ he hI dJ0_init_4
noncomputable def CJ1_init (h : CH) (o : Nat) : Option (CH) :=
  (CJ0_init h o).bind fun q1 =>
  (pI q1 o 10 0 0).bind fun s2 =>
  some s2
theorem nm_J1_init : kNm yJ1_init RJ1 0 := by unfold kNm; decide +kernel
set_option maxHeartbeats 4000000 in
set_option maxRecDepth 100000 in
theorem wCJ1_init (l : Launch) (γ : KG) (hO : kOK γ) (h : CH) (o : Nat) (z : CH) (hz : CJ1_init h o = some z) : Met l yJ1_init (ws_ yJ1_init cJ1_init 1 none) (kRm 2 50) (cPc γ h [.ref o]) (cNq γ h none z) 0 0 (kdm h) := by
  refine c_startNI (cc := cJ1_init) (own := RJ1) hO rfl rfl rfl rfl (fun p e R s m args below meth c Q ls X hR hin2 h0H hI hl hend => ?_)
  have hx := X.1.1
  have hb := X.1.2.1
  have hit := hz
  clear hz
  unfold CJ1_init at hit
  have hl : lv_has ls 1 [(0, .ref o)] := hl
  refine lv_aload_n hx hb dJ1_init_0 rfl (lv_at hl 0 rfl) ?_
  obtain ⟨q1, eq1, hit⟩ := o_bind hit
  refine c_cNI X (c_AF h0H) hI nm_J0_init q190 q191 q137 q192 rfl (wCJ0_init l γ X.2.1 _ _  _ eq1) ⟨Nat.zero_le _, Nat.zero_le _⟩ ⟨Nat.le_trans (Nat.le_of_ble_eq_true rfl) hR.1, Nat.le_trans (Nat.le_of_ble_eq_true rfl) hR.2⟩ rfl rfl hl.1 (lv_room (Nat.le_of_ble_eq_true rfl)) dJ1_init_1 (fun H locs hI => ?_)
  refine lv_aload_n hx hb dJ1_init_4 rfl (lv_at hl 0 rfl) ?_
  refine lv_iconst (v := 0) hx hb dJ1_init_5 (by decide) ?_
  obtain ⟨s2, es2, hit⟩ := o_bind hit
  refine c_putI X hI kc_ArrayList 0 q198 (Or.inl rfl) rfl rfl (tyv := .int) rfl rfl rfl es2 dJ1_init_6 (fun H locs hI => ?_)
  have he := o_in hit
  exact hend _ _ _ _ _ he hI dJ1_init_9
noncomputable def CJ2_init (K : Nat → Nat) (h : CH) (o : Nat) : Option (CH) :=
  (CJ1_init h o).bind fun q1 =>
  (pQ q1 o 10 1 (some (K 0))).bind fun s2 =>
  some s2
theorem nm_J2_init : kNm yJ2_init RJ2 0 := by unfold kNm; decide +kernel
set_option maxHeartbeats 4000000 in
set_option maxRecDepth 100000 in
theorem wCJ2_init (l : Launch) (γ : KG) (hO : kOK γ) (h : CH) (o : Nat) (z : CH) (hz : CJ2_init γ.2.2.2.2.2 h o = some z) : Met l yJ2_init (ws_ yJ2_init cJ2_init 1 none) (kRm 3 70) (cPc γ h [.ref o]) (cNq γ h none z) 0 0 (kdm h) := by
  refine c_startNI (cc := cJ2_init) (own := RJ2) hO rfl rfl rfl rfl (fun p e R s m args below meth c Q ls X hR hin2 h0H hI hl hend => ?_)
  have hx := X.1.1
  have hb := X.1.2.1
  have hit := hz
  clear hz
  unfold CJ2_init at hit
  have hl : lv_has ls 1 [(0, .ref o)] := hl
  refine lv_aload_n hx hb dJ2_init_0 rfl (lv_at hl 0 rfl) ?_
  obtain ⟨q1, eq1, hit⟩ := o_bind hit
  refine c_cNI X (c_AF h0H) hI nm_J1_init q187 q188 q138 q189 rfl (wCJ1_init l γ X.2.1 _ _  _ eq1) ⟨Nat.zero_le _, Nat.zero_le _⟩ ⟨Nat.le_trans (Nat.le_of_ble_eq_true rfl) hR.1, Nat.le_trans (Nat.le_of_ble_eq_true rfl) hR.2⟩ rfl rfl hl.1 (lv_room (Nat.le_of_ble_eq_true rfl)) dJ2_init_1 (fun H locs hI => ?_)
  refine lv_aload_n hx hb dJ2_init_4 rfl (lv_at hl 0 rfl) ?_
  refine c_gets X (c_AF h0H) hI.2.1 X.2.1.1.2.2.1 q194 dJ2_init_5 ?_
  obtain ⟨s2, es2, hit⟩ := o_bind hit
  refine c_putQ X hI kc_ArrayList 1 q196 (Or.inl rfl) rfl rfl (v := (some (γ.2.2.2.2.2 0))) (tyv := (.array (.object "java/lang/Object"))) rfl (Or.inr ⟨_, rfl⟩) es2 dJ2_init_8 (fun H locs hI => ?_)
  have he := o_in hit
  exact hend _ _ _ _ _ he hI dJ2_init_11
noncomputable def C2_init (K : Nat → Nat) (h : CH) (r : CR) (o : Nat) : Option (CS) :=
  (aCell h r 3 (.inr (10, [.int 0, .null, .int 0]))).bind fun s1 =>
  (CJ2_init K s1.1 r.1).bind fun q2 =>
  (pQ q2 o 2 0 (some r.1)).bind fun s3 =>
  (aCell s3 s1.2 3 (.inr (10, [.int 0, .null, .int 0]))).bind fun s4 =>
  (CJ2_init K s4.1 s1.2.1).bind fun q5 =>
  (pQ q5 o 2 1 (some s1.2.1)).bind fun s6 =>
  some (s6, s4.2)
theorem nm_X2_init : kNm yX2_init RX2 0 := by unfold kNm; decide +kernel
set_option maxHeartbeats 4000000 in
set_option maxRecDepth 100000 in
theorem wC2_init (l : Launch) (γ : KG) (hO : kOK γ) (h : CH) (r : CR) (o : Nat) (z : CS) (hz : C2_init γ.2.2.2.2.2 h r o = some z) : aMet l yX2_init (ws_ yX2_init cX2_init 1 none) 4 90 γ (h, r) [.ref o] none z := by
  refine a_start (cc := cX2_init) (own := RX2) hO rfl rfl rfl (fun p e R s m args below meth c Q ls X hR hnm h0H hA hl hend => ?_)
  have hin2 : meth.name = "<init>" := hnm
  have hx := X.1.1
  have hb := X.1.2.1
  have hit := hz
  clear hz
  unfold C2_init at hit
  have hl : lv_has ls 1 [(0, .ref o)] := hl
  refine lv_aload_n hx hb dX2_init_0 rfl (lv_at hl 0 rfl) ?_
  refine b_objInit X.1 hl.1 q181 ⟨Nat.le_trans (Nat.le_of_ble_eq_true rfl) hR.1, Nat.le_trans (Nat.le_of_ble_eq_true rfl) hR.2⟩ (Nat.le_of_ble_eq_true rfl) dX2_init_1 ?_
  refine lv_aload_n hx hb dX2_init_4 rfl (lv_at hl 0 rfl) ?_
  obtain ⟨s1, es1, hit⟩ := o_bind hit
  refine a_new X hA kc_ArrayList q182 q183 q139 (fs := [.int 0, .null, .int 0]) (by decide +kernel) es1 dX2_init_5 (fun H cells slots hA => ?_)
  refine lv_dup hx hb dX2_init_8 rfl ?_
  obtain ⟨q2, eq2, hit⟩ := o_bind hit
  refine c_cNI X (kA_F X.2.1 X.2.2 h0H) hA.1 nm_J2_init q184 q185 q139 q186 rfl (wCJ2_init l γ X.2.1 _ _  _ eq2) hA.RR ⟨Nat.le_trans (Nat.le_of_ble_eq_true rfl) hR.1, Nat.le_trans (Nat.le_of_ble_eq_true rfl) hR.2⟩ rfl rfl hl.1 (lv_room (Nat.le_of_ble_eq_true rfl)) dX2_init_9 (fun H locs hI => ?_)
  replace hA := hA.up hI
  clear hI
  obtain ⟨s3, es3, hit⟩ := o_bind hit
  refine c_putFQ X hin2 hA.1 kc_Office 0 q209 rfl rfl (v := (some r.1)) (tyv := (.object "java/util/List")) rfl (Or.inl ⟨_, rfl⟩) es3 dX2_init_12 (fun H locs hI => ?_)
  replace hA := hA.up hI
  clear hI
  refine lv_aload_n hx hb dX2_init_15 rfl (lv_at hl 0 rfl) ?_
  obtain ⟨s4, es4, hit⟩ := o_bind hit
  refine a_new X hA kc_ArrayList q182 q183 q139 (fs := [.int 0, .null, .int 0]) (by decide +kernel) es4 dX2_init_16 (fun H cells slots hA => ?_)
  refine lv_dup hx hb dX2_init_19 rfl ?_
  obtain ⟨q5, eq5, hit⟩ := o_bind hit
  refine c_cNI X (kA_F X.2.1 X.2.2 h0H) hA.1 nm_J2_init q184 q185 q139 q186 rfl (wCJ2_init l γ X.2.1 _ _  _ eq5) hA.RR ⟨Nat.le_trans (Nat.le_of_ble_eq_true rfl) hR.1, Nat.le_trans (Nat.le_of_ble_eq_true rfl) hR.2⟩ rfl rfl hl.1 (lv_room (Nat.le_of_ble_eq_true rfl)) dX2_init_20 (fun H locs hI => ?_)
  replace hA := hA.up hI
  clear hI
  obtain ⟨s6, es6, hit⟩ := o_bind hit
  refine c_putFQ X hin2 hA.1 kc_Office 1 q213 rfl rfl (v := (some s1.2.1)) (tyv := (.object "java/util/List")) rfl (Or.inl ⟨_, rfl⟩) es6 dX2_init_23 (fun H locs hI => ?_)
  replace hA := hA.up hI
  clear hI
  have he := o_in hit
  exact hend none (s6, s4.2) _ _ _ _ _ _ _ _ kOut_v (by subst he; rfl) hA dX2_init_26
noncomputable def C3_init (h : CH) (r : CR) (o : Nat) (a0 : Nat) : Option (CS) :=
  (pQ h o 3 5 (some a0)).bind fun s1 =>
  (aArr s1 r 0 9).bind fun s2 =>
  (pQ s2.1 o 3 0 (some r.1)).bind fun s3 =>
  (aArr s3 s2.2 0 9).bind fun s4 =>
  (pQ s4.1 o 3 1 (some s2.2.1)).bind fun s5 =>
  (aArr s5 s4.2 0 9).bind fun s6 =>
  (pQ s6.1 o 3 2 (some s4.2.1)).bind fun s7 =>
  (aArr s7 s6.2 0 6).bind fun s8 =>
  (pQ s8.1 o 3 3 (some s6.2.1)).bind fun s9 =>
  some (s9, s8.2)
theorem nm_X3_init : kNm yX3_init RX3 1 := by unfold kNm; decide +kernel
set_option maxHeartbeats 4000000 in
set_option maxRecDepth 100000 in
theorem wC3_init (l : Launch) (γ : KG) (hO : kOK γ) (h : CH) (r : CR) (o : Nat) (a0 : Nat) (z : CS) (hz : C3_init h r o a0 = some z) : aMet l yX3_init (ws_ yX3_init cX3_init 2 none) 1 30 γ (h, r) [.ref o, .ref a0] none z := by
  refine a_start (cc := cX3_init) (own := RX3) hO rfl rfl rfl (fun p e R s m args below meth c Q ls X hR hnm h0H hA hl hend => ?_)
  have hin2 : meth.name = "<init>" := hnm
  have hx := X.1.1
  have hb := X.1.2.1
  have hit := hz
  clear hz
  unfold C3_init at hit
  have hl : lv_has ls 2 [(0, .ref o), (1, .ref a0)] := hl
  refine lv_aload_n hx hb dX3_init_0 rfl (lv_at hl 0 rfl) ?_
  refine lv_aload_n hx hb dX3_init_1 rfl (lv_at hl 1 rfl) ?_
  obtain ⟨s1, es1, hit⟩ := o_bind hit
  refine c_putFQ X hin2 hA.1 kc_Service 5 q258 rfl rfl (v := (some a0)) (tyv := (.object "TwinInk")) rfl (Or.inl ⟨_, rfl⟩) es1 dX3_init_2 (fun H locs hI => ?_)
  replace hA := hA.up hI
  clear hI
  refine lv_aload_n hx hb dX3_init_5 rfl (lv_at hl 0 rfl) ?_
  refine b_objInit X.1 hl.1 q244 ⟨Nat.le_trans (Nat.le_of_ble_eq_true rfl) hR.1, Nat.le_trans (Nat.le_of_ble_eq_true rfl) hR.2⟩ (Nat.le_of_ble_eq_true rfl) dX3_init_6 ?_
  refine lv_aload_n hx hb dX3_init_9 rfl (lv_at hl 0 rfl) ?_
  refine lv_bipush (v := 9) hx hb dX3_init_10 (by decide) ?_
  obtain ⟨s2, es2, hit⟩ := o_bind hit
  refine a_newI X hA es2 dX3_init_12 (fun H cells slots hA => ?_)
  obtain ⟨s3, es3, hit⟩ := o_bind hit
  refine c_putFQ X hin2 hA.1 kc_Service 0 q245 rfl rfl (v := (some r.1)) (tyv := (.array .int)) rfl (Or.inr ⟨_, rfl⟩) es3 dX3_init_14 (fun H locs hI => ?_)
  replace hA := hA.up hI
  clear hI
  refine lv_aload_n hx hb dX3_init_17 rfl (lv_at hl 0 rfl) ?_
  refine lv_bipush (v := 9) hx hb dX3_init_18 (by decide) ?_
  obtain ⟨s4, es4, hit⟩ := o_bind hit
  refine a_newI X hA es4 dX3_init_20 (fun H cells slots hA => ?_)
  obtain ⟨s5, es5, hit⟩ := o_bind hit
  refine c_putFQ X hin2 hA.1 kc_Service 1 q248 rfl rfl (v := (some s2.2.1)) (tyv := (.array .int)) rfl (Or.inr ⟨_, rfl⟩) es5 dX3_init_22 (fun H locs hI => ?_)
  replace hA := hA.up hI
  clear hI
  refine lv_aload_n hx hb dX3_init_25 rfl (lv_at hl 0 rfl) ?_
  refine lv_bipush (v := 9) hx hb dX3_init_26 (by decide) ?_
  obtain ⟨s6, es6, hit⟩ := o_bind hit
  refine a_newI X hA es6 dX3_init_28 (fun H cells slots hA => ?_)
  obtain ⟨s7, es7, hit⟩ := o_bind hit
  refine c_putFQ X hin2 hA.1 kc_Service 2 q251 rfl rfl (v := (some s4.2.1)) (tyv := (.array .int)) rfl (Or.inr ⟨_, rfl⟩) es7 dX3_init_30 (fun H locs hI => ?_)
  replace hA := hA.up hI
  clear hI
  refine lv_aload_n hx hb dX3_init_33 rfl (lv_at hl 0 rfl) ?_
  refine lv_bipush (v := 6) hx hb dX3_init_34 (by decide) ?_
  obtain ⟨s8, es8, hit⟩ := o_bind hit
  refine a_newI X hA es8 dX3_init_36 (fun H cells slots hA => ?_)
  obtain ⟨s9, es9, hit⟩ := o_bind hit
  refine c_putFQ X hin2 hA.1 kc_Service 3 q254 rfl rfl (v := (some s6.2.1)) (tyv := (.array .int)) rfl (Or.inr ⟨_, rfl⟩) es9 dX3_init_38 (fun H locs hI => ?_)
  replace hA := hA.up hI
  clear hI
  have he := o_in hit
  exact hend none (s9, s8.2) _ _ _ _ _ _ _ _ kOut_v (by subst he; rfl) hA dX3_init_41
noncomputable def C1_init (K : Nat → Nat) (h : CH) (r : CR) (o : Nat) : Option (CS) :=
  (aArr h r 0 6).bind fun s1 =>
  (pQ s1.1 o 1 0 (some r.1)).bind fun s2 =>
  (aCell s2 s1.2 6 (.inr (2, [.null, .null, .int 0, .int 0, .null, .null]))).bind fun s3 =>
  (achv s3.2 (C2_init K s3.1 s3.2 s1.2.1)).bind fun q4 =>
  (pQ q4.1 o 1 1 (some s1.2.1)).bind fun s5 =>
  (aCell s5 q4.2 6 (.inr (3, [.null, .null, .null, .null, .int 0, .null]))).bind fun s6 =>
  (achv s6.2 (C3_init s6.1 s6.2 q4.2.1 o)).bind fun q7 =>
  (pQ q7.1 o 1 2 (some q4.2.1)).bind fun s8 =>
  (aCell s8 q7.2 6 (.inr (3, [.null, .null, .null, .null, .int 0, .null]))).bind fun s9 =>
  (achv s9.2 (C3_init s9.1 s9.2 q7.2.1 o)).bind fun q10 =>
  (pQ q10.1 o 1 3 (some q7.2.1)).bind fun s11 =>
  (aArr s11 q10.2 2 700).bind fun s12 =>
  (pQ s12.1 o 1 4 (some q10.2.1)).bind fun s13 =>
  (pI s13 o 1 6 (-1)).bind fun s14 =>
  (aArr s14 s12.2 0 3).bind fun s15 =>
  (pQ s15.1 o 1 7 (some s12.2.1)).bind fun s16 =>
  (aCell s16 s15.2 3 (.inr (10, [.int 0, .null, .int 0]))).bind fun s17 =>
  (CJ2_init K s17.1 s15.2.1).bind fun q18 =>
  (pQ q18 o 1 8 (some s15.2.1)).bind fun s19 =>
  (aCell s19 s17.2 3 (.inr (10, [.int 0, .null, .int 0]))).bind fun s20 =>
  (CJ2_init K s20.1 s17.2.1).bind fun q21 =>
  (pQ q21 o 1 9 (some s17.2.1)).bind fun s22 =>
  some (s22, s20.2)
theorem nm_X1_init : kNm yX1_init RX1 0 := by unfold kNm; decide +kernel
set_option maxHeartbeats 4000000 in
set_option maxRecDepth 100000 in
theorem wC1_init (l : Launch) (γ : KG) (hO : kOK γ) (h : CH) (r : CR) (o : Nat) (z : CS) (hz : C1_init γ.2.2.2.2.2 h r o = some z) : aMet l yX1_init (ws_ yX1_init cX1_init 1 none) 5 110 γ (h, r) [.ref o] none z := by
  refine a_start (cc := cX1_init) (own := RX1) hO rfl rfl rfl (fun p e R s m args below meth c Q ls X hR hnm h0H hA hl hend => ?_)
  have hin2 : meth.name = "<init>" := hnm
  have hx := X.1.1
  have hb := X.1.2.1
  have hit := hz
  clear hz
  unfold C1_init at hit
  have hl : lv_has ls 1 [(0, .ref o)] := hl
  refine lv_aload_n hx hb dX1_init_0 rfl (lv_at hl 0 rfl) ?_
  refine b_objInit X.1 hl.1 q173 ⟨Nat.le_trans (Nat.le_of_ble_eq_true rfl) hR.1, Nat.le_trans (Nat.le_of_ble_eq_true rfl) hR.2⟩ (Nat.le_of_ble_eq_true rfl) dX1_init_1 ?_
  refine lv_aload_n hx hb dX1_init_4 rfl (lv_at hl 0 rfl) ?_
  refine lv_bipush (v := 6) hx hb dX1_init_5 (by decide) ?_
  obtain ⟨s1, es1, hit⟩ := o_bind hit
  refine a_newI X hA es1 dX1_init_7 (fun H cells slots hA => ?_)
  obtain ⟨s2, es2, hit⟩ := o_bind hit
  refine c_putFQ X hin2 hA.1 kc_TwinInk 0 q274 rfl rfl (v := (some r.1)) (tyv := (.array .int)) rfl (Or.inr ⟨_, rfl⟩) es2 dX1_init_9 (fun H locs hI => ?_)
  replace hA := hA.up hI
  clear hI
  refine lv_aload_n hx hb dX1_init_12 rfl (lv_at hl 0 rfl) ?_
  obtain ⟨s3, es3, hit⟩ := o_bind hit
  refine a_new X hA kc_Office q176 q177 q136 (fs := [.null, .null, .int 0, .int 0, .null, .null]) (by decide +kernel) es3 dX1_init_13 (fun H cells slots hA => ?_)
  refine lv_dup hx hb dX1_init_16 rfl ?_
  obtain ⟨q4, eq4, hit⟩ := o_bind hit
  obtain ⟨eq4, lq4⟩ := achv_inv eq4
  refine a_cIN X h0H hA nm_X2_init q178 q179 q136 q180 rfl (wC2_init l γ X.2.1 _ _ _  _ eq4) lq4 ⟨Nat.le_trans (Nat.le_of_ble_eq_true rfl) hR.1, Nat.le_trans (Nat.le_of_ble_eq_true rfl) hR.2⟩ rfl rfl hl.1 (lv_room (Nat.le_of_ble_eq_true rfl)) dX1_init_17 (fun H locs cells slots hA => ?_)
  obtain ⟨s5, es5, hit⟩ := o_bind hit
  refine c_putQ X hA.1 kc_TwinInk 1 q277 (Or.inl rfl) rfl rfl (v := (some s1.2.1)) (tyv := (.object "TwinInk$Office")) rfl (Or.inl ⟨_, rfl⟩) es5 dX1_init_20 (fun H locs hI => ?_)
  replace hA := hA.up hI
  clear hI
  refine lv_aload_n hx hb dX1_init_23 rfl (lv_at hl 0 rfl) ?_
  obtain ⟨s6, es6, hit⟩ := o_bind hit
  refine a_new X hA kc_Service q239 q240 q140 (fs := [.null, .null, .null, .null, .int 0, .null]) (by decide +kernel) es6 dX1_init_24 (fun H cells slots hA => ?_)
  refine lv_dup hx hb dX1_init_27 rfl ?_
  refine lv_aload_n hx hb dX1_init_28 rfl (lv_at hl 0 rfl) ?_
  obtain ⟨q7, eq7, hit⟩ := o_bind hit
  obtain ⟨eq7, lq7⟩ := achv_inv eq7
  refine a_cIN X h0H hA nm_X3_init q241 q242 q140 q243 rfl (wC3_init l γ X.2.1 _ _ _ _ _ eq7) lq7 ⟨Nat.le_trans (Nat.le_of_ble_eq_true rfl) hR.1, Nat.le_trans (Nat.le_of_ble_eq_true rfl) hR.2⟩ rfl rfl hl.1 (lv_room (Nat.le_of_ble_eq_true rfl)) dX1_init_29 (fun H locs cells slots hA => ?_)
  obtain ⟨s8, es8, hit⟩ := o_bind hit
  refine c_putQ X hA.1 kc_TwinInk 2 q278 (Or.inl rfl) rfl rfl (v := (some q4.2.1)) (tyv := (.object "TwinInk$Service")) rfl (Or.inl ⟨_, rfl⟩) es8 dX1_init_32 (fun H locs hI => ?_)
  replace hA := hA.up hI
  clear hI
  refine lv_aload_n hx hb dX1_init_35 rfl (lv_at hl 0 rfl) ?_
  obtain ⟨s9, es9, hit⟩ := o_bind hit
  refine a_new X hA kc_Service q239 q240 q140 (fs := [.null, .null, .null, .null, .int 0, .null]) (by decide +kernel) es9 dX1_init_36 (fun H cells slots hA => ?_)
  refine lv_dup hx hb dX1_init_39 rfl ?_
  refine lv_aload_n hx hb dX1_init_40 rfl (lv_at hl 0 rfl) ?_
  obtain ⟨q10, eq10, hit⟩ := o_bind hit
  obtain ⟨eq10, lq10⟩ := achv_inv eq10
  refine a_cIN X h0H hA nm_X3_init q241 q242 q140 q243 rfl (wC3_init l γ X.2.1 _ _ _ _ _ eq10) lq10 ⟨Nat.le_trans (Nat.le_of_ble_eq_true rfl) hR.1, Nat.le_trans (Nat.le_of_ble_eq_true rfl) hR.2⟩ rfl rfl hl.1 (lv_room (Nat.le_of_ble_eq_true rfl)) dX1_init_41 (fun H locs cells slots hA => ?_)
  obtain ⟨s11, es11, hit⟩ := o_bind hit
  refine c_putFQ X hin2 hA.1 kc_TwinInk 3 q279 rfl rfl (v := (some q7.2.1)) (tyv := (.object "TwinInk$Service")) rfl (Or.inl ⟨_, rfl⟩) es11 dX1_init_44 (fun H locs hI => ?_)
  replace hA := hA.up hI
  clear hI
  refine lv_aload_n hx hb dX1_init_47 rfl (lv_at hl 0 rfl) ?_
  refine lv_sipush (v := 700) hx hb dX1_init_48 (by decide) ?_
  obtain ⟨s12, es12, hit⟩ := o_bind hit
  refine a_newB X hA es12 dX1_init_51 (fun H cells slots hA => ?_)
  obtain ⟨s13, es13, hit⟩ := o_bind hit
  refine c_putFQ X hin2 hA.1 kc_TwinInk 4 q281 rfl rfl (v := (some q10.2.1)) (tyv := (.array .byte)) rfl (Or.inr ⟨_, rfl⟩) es13 dX1_init_53 (fun H locs hI => ?_)
  replace hA := hA.up hI
  clear hI
  refine lv_aload_n hx hb dX1_init_56 rfl (lv_at hl 0 rfl) ?_
  refine lv_iconst (v := (-1)) hx hb dX1_init_57 (by decide) ?_
  obtain ⟨s14, es14, hit⟩ := o_bind hit
  refine c_putI X hA.1 kc_TwinInk 6 q283 (Or.inl rfl) rfl rfl (tyv := .int) rfl rfl rfl es14 dX1_init_58 (fun H locs hI => ?_)
  replace hA := hA.up hI
  clear hI
  refine lv_aload_n hx hb dX1_init_61 rfl (lv_at hl 0 rfl) ?_
  refine lv_iconst (v := 3) hx hb dX1_init_62 (by decide) ?_
  obtain ⟨s15, es15, hit⟩ := o_bind hit
  refine a_newI X hA es15 dX1_init_63 (fun H cells slots hA => ?_)
  obtain ⟨s16, es16, hit⟩ := o_bind hit
  refine c_putFQ X hin2 hA.1 kc_TwinInk 7 q284 rfl rfl (v := (some s12.2.1)) (tyv := (.array .int)) rfl (Or.inr ⟨_, rfl⟩) es16 dX1_init_65 (fun H locs hI => ?_)
  replace hA := hA.up hI
  clear hI
  refine lv_aload_n hx hb dX1_init_68 rfl (lv_at hl 0 rfl) ?_
  obtain ⟨s17, es17, hit⟩ := o_bind hit
  refine a_new X hA kc_ArrayList q272 q183 q139 (fs := [.int 0, .null, .int 0]) (by decide +kernel) es17 dX1_init_69 (fun H cells slots hA => ?_)
  refine lv_dup hx hb dX1_init_72 rfl ?_
  obtain ⟨q18, eq18, hit⟩ := o_bind hit
  refine c_cNI X (kA_F X.2.1 X.2.2 h0H) hA.1 nm_J2_init q273 q185 q139 q186 rfl (wCJ2_init l γ X.2.1 _ _  _ eq18) hA.RR ⟨Nat.le_trans (Nat.le_of_ble_eq_true rfl) hR.1, Nat.le_trans (Nat.le_of_ble_eq_true rfl) hR.2⟩ rfl rfl hl.1 (lv_room (Nat.le_of_ble_eq_true rfl)) dX1_init_73 (fun H locs hI => ?_)
  replace hA := hA.up hI
  clear hI
  obtain ⟨s19, es19, hit⟩ := o_bind hit
  refine c_putQ X hA.1 kc_TwinInk 8 q285 (Or.inl rfl) rfl rfl (v := (some s15.2.1)) (tyv := (.object "java/util/List")) rfl (Or.inl ⟨_, rfl⟩) es19 dX1_init_76 (fun H locs hI => ?_)
  replace hA := hA.up hI
  clear hI
  refine lv_aload_n hx hb dX1_init_79 rfl (lv_at hl 0 rfl) ?_
  obtain ⟨s20, es20, hit⟩ := o_bind hit
  refine a_new X hA kc_ArrayList q272 q183 q139 (fs := [.int 0, .null, .int 0]) (by decide +kernel) es20 dX1_init_80 (fun H cells slots hA => ?_)
  refine lv_dup hx hb dX1_init_83 rfl ?_
  obtain ⟨q21, eq21, hit⟩ := o_bind hit
  refine c_cNI X (kA_F X.2.1 X.2.2 h0H) hA.1 nm_J2_init q273 q185 q139 q186 rfl (wCJ2_init l γ X.2.1 _ _  _ eq21) hA.RR ⟨Nat.le_trans (Nat.le_of_ble_eq_true rfl) hR.1, Nat.le_trans (Nat.le_of_ble_eq_true rfl) hR.2⟩ rfl rfl hl.1 (lv_room (Nat.le_of_ble_eq_true rfl)) dX1_init_84 (fun H locs hI => ?_)
  replace hA := hA.up hI
  clear hI
  obtain ⟨s22, es22, hit⟩ := o_bind hit
  refine c_putQ X hA.1 kc_TwinInk 9 q286 (Or.inl rfl) rfl rfl (v := (some s17.2.1)) (tyv := (.object "java/util/List")) rfl (Or.inl ⟨_, rfl⟩) es22 dX1_init_87 (fun H locs hI => ?_)
  replace hA := hA.up hI
  clear hI
  have he := o_in hit
  exact hend none (s22, s20.2) _ _ _ _ _ _ _ _ kOut_v (by subst he; rfl) hA dX1_init_90
noncomputable def C1_feed_L18 (o : Nat) (a0 : Int32) (a1 : Int32) (a2 : Int32) (a3 : Int32) (a4 : Int32) (t3 : Int32 × CH) : Option ((Int32 × CH) ⊕ CH) :=
  if t3.1 < 20 then
    (((if t3.1 < 4 then
        (some a0)
      else
        (if t3.1 < 8 then
          (some a1)
        else
          (if t3.1 < 12 then
            (some a2)
          else
            (if t3.1 < 16 then
              (some a3)
            else
              (some a4)))) : Option Int32)).bind fun r10 =>
    (gR t3.2 o 1 4).bind fun v11 =>
    (gI t3.2 o 1 5).bind fun v12 =>
    (sI t3.2 v11 2 (v12 + t3.1) (vp_nar .byte (i2b_ (r10 >>> ((24 - (8 * (imod t3.1 4))) &&& 31))))).bind fun s13 =>
    some (.inl ((t3.1 + 1), s13)))
  else
    (some (.inr t3.2))
noncomputable def C1_feed (h : CH) (o : Nat) (a0 : Int32) (a1 : Int32) (a2 : Int32) (a3 : Int32) (a4 : Int32) : Option (Int32 × CH) :=
  (gI h o 1 5).bind fun v1 =>
  if (v1 + 20) ≤ 700 then
    ((o_loop (C1_feed_L18 o a0 a1 a2 a3 a4) (0, h)).bind fun r5 =>
    (gI r5 o 1 5).bind fun v6 =>
    (pI r5 o 1 5 (v6 + 20)).bind fun s7 =>
    (gI s7 o 1 5).bind fun v8 =>
    some (v8, s7))
  else
    (some ((-1), h))
theorem nm_X1_feed : kNm yX1_feed RX1 5 := by unfold kNm; decide +kernel
set_option maxHeartbeats 4000000 in
set_option maxRecDepth 100000 in
theorem wC1_feed (l : Launch) (γ : KG) (hO : kOK γ) (h : CH) (o : Nat) (a0 : Int32) (a1 : Int32) (a2 : Int32) (a3 : Int32) (a4 : Int32) (z : Int32 × CH) (hz : C1_feed h o a0 a1 a2 a3 a4 = some z) : Met l yX1_feed (ws_ yX1_feed cX1_feed 8 (some .int)) (kRm 0 0) (cPc γ h [.ref o, .int a0, .int a1, .int a2, .int a3, .int a4]) (cNq γ h (some (.int z.1)) z.2) 0 0 (kdm h) := by
  refine c_startN (cc := cX1_feed) (own := RX1) hO rfl rfl rfl (fun p e R s m args below meth c Q ls X hR h0H hI hl hend => ?_)
  have hx := X.1.1
  have hb := X.1.2.1
  have hit := hz
  clear hz
  unfold C1_feed at hit
  have hl : lv_has ls 8 [(0, .ref o), (1, .int a0), (2, .int a1), (3, .int a2), (4, .int a3), (5, .int a4)] := hl
  refine lv_aload_n hx hb dX1_feed_0 rfl (lv_at hl 0 rfl) ?_
  obtain ⟨v1, ev1, hit⟩ := o_bind hit
  refine c_getI X hI.1 kc_TwinInk 5 q282 (Or.inl rfl) rfl rfl ev1 dX1_feed_1 ?_
  refine lv_bipush (v := 20) hx hb dX1_feed_4 (by decide) ?_
  refine lv_iadd hx hb dX1_feed_6 ?_
  refine lv_sipush (v := 700) hx hb dX1_feed_7 (by decide) ?_
  refine b_icmp_le (tgt := 15) hx hb dX1_feed_10 (by decide) hit (fun c2 hit => ?_) (fun c2 hit => ?_)
  · refine lv_iconst (v := 0) hx hb dX1_feed_15 (by decide) ?_
    refine lv_istore (lv' := [(6, .int 0), (0, .ref o), (1, .int a0), (2, .int a1), (3, .int a2), (4, .int a3), (5, .int a4)]) hx hb dX1_feed_16 hl (by decide) rfl (fun ls hl => ?_)
    obtain ⟨r5, er5, hit⟩ := o_bind hit
    have hr5 : ∀ (H : Heap) (locs : List Loc) (ls : Array Slot), NI γ (kdm h) s.heap.size s r5 H locs → lv_has ls 8 [(0, .ref o)] → W p l e R s m args below meth c H locs 0 0 Q (F0 m 105 ls []) := by
      intro H locs ls hI hl
      refine lv_aload_n hx hb dX1_feed_105 rfl (lv_at hl 0 rfl) ?_
      refine lv_dup hx hb dX1_feed_106 rfl ?_
      obtain ⟨v6, ev6, hit⟩ := o_bind hit
      refine c_getI X hI.1 kc_TwinInk 5 q282 (Or.inl rfl) rfl rfl ev6 dX1_feed_107 ?_
      refine lv_bipush (v := 20) hx hb dX1_feed_110 (by decide) ?_
      refine lv_iadd hx hb dX1_feed_112 ?_
      obtain ⟨s7, es7, hit⟩ := o_bind hit
      refine c_putI X hI kc_TwinInk 5 q282 (Or.inl rfl) rfl rfl (tyv := .int) rfl rfl rfl es7 dX1_feed_113 (fun H locs hI => ?_)
      refine lv_aload_n hx hb dX1_feed_116 rfl (lv_at hl 0 rfl) ?_
      obtain ⟨v8, ev8, hit⟩ := o_bind hit
      refine c_getI X hI.1 kc_TwinInk 5 q282 (Or.inl rfl) rfl rfl ev8 dX1_feed_117 ?_
      have he := o_in hit
      exact hend (some (.int v8)) _ _ _ _ _ _ _ (kOut_i rfl) (by subst he; rfl) hI dX1_feed_120
    refine o_rec (P := fun t3 => ∀ (H : Heap) (locs : List Loc) (ls : Array Slot), NI γ (kdm h) s.heap.size s t3.2 H locs → lv_has ls 8 [(0, .ref o), (1, .int a0), (2, .int a1), (3, .int a2), (4, .int a3), (5, .int a4), (6, .int t3.1)] → W p l e R s m args below meth c H locs 0 0 Q (F0 m 18 ls [])) (fun t3 x4 hit hC3 hE3 H locs ls hI hl => ?_) _ er5 _ _ _ hI (lv_sub hl [1, 2, 3, 4, 5, 6, 0] rfl)
    unfold C1_feed_L18 at hit
    refine lv_iload hx hb dX1_feed_18 (lv_at hl 6 rfl) ?_
    refine lv_bipush (v := 20) hx hb dX1_feed_20 (by decide) ?_
    refine b_icmp_ge (tgt := 105) hx hb dX1_feed_22 (by decide) hit (fun c9 hit => ?_) (fun c9 hit => ?_)
    · have he := o_in hit
      have he := hE3 _ he
      subst he
      exact hr5 _ _ _ hI (lv_sub hl [0] rfl)
    · refine lv_iload hx hb dX1_feed_25 (lv_at hl 6 rfl) ?_
      refine lv_iconst (v := 4) hx hb dX1_feed_27 (by decide) ?_
      obtain ⟨r10, er10, hit⟩ := o_bind hit
      have hr10 : ∀ (H : Heap) (locs : List Loc) (ls : Array Slot), NI γ (kdm h) s.heap.size s t3.2 H locs → lv_has ls 8 [(0, .ref o), (1, .int a0), (2, .int a1), (3, .int a2), (4, .int a3), (5, .int a4), (6, .int t3.1)] → W p l e R s m args below meth c H locs 0 0 Q (F0 m 71 ls [.int r10]) := by
        intro H locs ls hI hl
        refine lv_istore (lv' := [(7, .int r10), (0, .ref o), (1, .int a0), (2, .int a1), (3, .int a2), (4, .int a3), (5, .int a4), (6, .int t3.1)]) hx hb dX1_feed_71 hl (by decide) rfl (fun ls hl => ?_)
        refine lv_aload_n hx hb dX1_feed_73 rfl (lv_at hl 1 rfl) ?_
        obtain ⟨v11, ev11, hit⟩ := o_bind hit
        refine c_getR X hI.1 kc_TwinInk 4 q281 (Or.inl rfl) rfl rfl ev11 dX1_feed_74 ?_
        refine lv_aload_n hx hb dX1_feed_77 rfl (lv_at hl 1 rfl) ?_
        obtain ⟨v12, ev12, hit⟩ := o_bind hit
        refine c_getI X hI.1 kc_TwinInk 5 q282 (Or.inl rfl) rfl rfl ev12 dX1_feed_78 ?_
        refine lv_iload hx hb dX1_feed_81 (lv_at hl 7 rfl) ?_
        refine lv_iadd hx hb dX1_feed_83 ?_
        refine lv_iload hx hb dX1_feed_84 (lv_at hl 0 rfl) ?_
        refine lv_bipush (v := 24) hx hb dX1_feed_86 (by decide) ?_
        refine lv_bipush (v := 8) hx hb dX1_feed_88 (by decide) ?_
        refine lv_iload hx hb dX1_feed_90 (lv_at hl 7 rfl) ?_
        refine lv_iconst (v := 4) hx hb dX1_feed_92 (by decide) ?_
        refine b_iremc hx hb dX1_feed_93 (by decide) ?_
        refine lv_imul hx hb dX1_feed_94 ?_
        refine lv_isub hx hb dX1_feed_95 ?_
        refine lv_ishr hx hb dX1_feed_96 ?_
        refine lv_i2b hx hb dX1_feed_97 (v := i2b_ (r10 >>> ((24 - (8 * (imod t3.1 4))) &&& 31))) rfl ?_
        obtain ⟨s13, es13, hit⟩ := o_bind hit
        refine c_bast X hI es13 dX1_feed_98 (fun H locs hI => ?_)
        refine lv_iinc (k := 7) (v := (t3.1 + 1)) (lv' := [(6, .int (t3.1 + 1)), (7, .int r10), (0, .ref o), (1, .int a0), (2, .int a1), (3, .int a2), (4, .int a3), (5, .int a4)]) hx hb dX1_feed_99 hl rfl rfl (by decide) rfl (fun ls hl => ?_)
        refine lv_goto (tgt := 18) hx hb dX1_feed_102 (by decide) ?_
        have he := o_in hit
        exact hC3 _ he _ _ _ hI (lv_sub hl [2, 3, 4, 5, 6, 7, 0] rfl)
      have hit := er10
      refine b_icmp_ge (tgt := 35) hx hb dX1_feed_28 (by decide) hit (fun c14 hit => ?_) (fun c14 hit => ?_)
      · refine lv_iload hx hb dX1_feed_35 (lv_at hl 6 rfl) ?_
        refine lv_bipush (v := 8) hx hb dX1_feed_37 (by decide) ?_
        refine b_icmp_ge (tgt := 46) hx hb dX1_feed_39 (by decide) hit (fun c15 hit => ?_) (fun c15 hit => ?_)
        · refine lv_iload hx hb dX1_feed_46 (lv_at hl 6 rfl) ?_
          refine lv_bipush (v := 12) hx hb dX1_feed_48 (by decide) ?_
          refine b_icmp_ge (tgt := 57) hx hb dX1_feed_50 (by decide) hit (fun c16 hit => ?_) (fun c16 hit => ?_)
          · refine lv_iload hx hb dX1_feed_57 (lv_at hl 6 rfl) ?_
            refine lv_bipush (v := 16) hx hb dX1_feed_59 (by decide) ?_
            refine b_icmp_ge (tgt := 69) hx hb dX1_feed_61 (by decide) hit (fun c17 hit => ?_) (fun c17 hit => ?_)
            · refine lv_iload hx hb dX1_feed_69 (lv_at hl 5 rfl) ?_
              have he := o_in hit
              subst he
              exact hr10 _ _ _ hI hl
            · refine lv_iload hx hb dX1_feed_64 (lv_at hl 4 rfl) ?_
              refine lv_goto (tgt := 71) hx hb dX1_feed_66 (by decide) ?_
              have he := o_in hit
              subst he
              exact hr10 _ _ _ hI hl
          · refine lv_iload_n hx hb dX1_feed_53 rfl (lv_at hl 3 rfl) ?_
            refine lv_goto (tgt := 71) hx hb dX1_feed_54 (by decide) ?_
            have he := o_in hit
            subst he
            exact hr10 _ _ _ hI hl
        · refine lv_iload_n hx hb dX1_feed_42 rfl (lv_at hl 2 rfl) ?_
          refine lv_goto (tgt := 71) hx hb dX1_feed_43 (by decide) ?_
          have he := o_in hit
          subst he
          exact hr10 _ _ _ hI hl
      · refine lv_iload_n hx hb dX1_feed_31 rfl (lv_at hl 1 rfl) ?_
        refine lv_goto (tgt := 71) hx hb dX1_feed_32 (by decide) ?_
        have he := o_in hit
        subst he
        exact hr10 _ _ _ hI hl
  · refine lv_iconst (v := (-1)) hx hb dX1_feed_13 (by decide) ?_
    have he := o_in hit
    exact hend (some (.int (-1))) _ _ _ _ _ _ _ (kOut_i rfl) (by subst he; rfl) hI dX1_feed_14
noncomputable def C1_fault (h : CH) (o : Nat) : Option (Int32) :=
  (gI h o 1 6).bind fun v1 =>
  some v1
theorem nm_X1_fault : kNm yX1_fault RX1 0 := by unfold kNm; decide +kernel
set_option maxHeartbeats 4000000 in
set_option maxRecDepth 100000 in
theorem wC1_fault (l : Launch) (γ : KG) (hO : kOK γ) (h : CH) (o : Nat) (z : Int32) (hz : C1_fault h o = some z) : Met l yX1_fault (ws_ yX1_fault cX1_fault 1 (some .int)) (kRm 0 0) (cPc γ h [.ref o]) (cRq (.int z)) 0 0 vp_nf := by
  refine c_startR (cc := cX1_fault) (own := RX1) hO rfl rfl rfl (fun p e R s m args below meth c Q ls X hR hH hDU hl hend => ?_)
  have hx := X.1.1
  have hb := X.1.2.1
  have hit := hz
  clear hz
  unfold C1_fault at hit
  have hl : lv_has ls 1 [(0, .ref o)] := hl
  refine lv_aload_n hx hb dX1_fault_0 rfl (lv_at hl 0 rfl) ?_
  obtain ⟨v1, ev1, hit⟩ := o_bind hit
  refine c_getI X hH kc_TwinInk 6 q283 (Or.inl rfl) rfl rfl ev1 dX1_fault_1 ?_
  have he := o_in hit
  exact hend (.int v1) _ _ _ _ (kOut_i rfl) (congrArg Value.int he) dX1_fault_4
noncomputable def CJ2_size (h : CH) (o : Nat) : Option (Int32) :=
  (gI h o 10 2).bind fun v1 =>
  some v1
theorem nm_J2_size : kNm yJ2_size RJ2 0 := by unfold kNm; decide +kernel
set_option maxHeartbeats 4000000 in
set_option maxRecDepth 100000 in
theorem wCJ2_size (l : Launch) (γ : KG) (hO : kOK γ) (h : CH) (o : Nat) (z : Int32) (hz : CJ2_size h o = some z) : Met l yJ2_size (ws_ yJ2_size cJ2_size 1 (some .int)) (kRm 0 0) (cPc γ h [.ref o]) (cRq (.int z)) 0 0 vp_nf := by
  refine c_startR (cc := cJ2_size) (own := RJ2) hO rfl rfl rfl (fun p e R s m args below meth c Q ls X hR hH hDU hl hend => ?_)
  have hx := X.1.1
  have hb := X.1.2.1
  have hit := hz
  clear hz
  unfold CJ2_size at hit
  have hl : lv_has ls 1 [(0, .ref o)] := hl
  refine lv_aload_n hx hb dJ2_size_0 rfl (lv_at hl 0 rfl) ?_
  obtain ⟨v1, ev1, hit⟩ := o_bind hit
  refine c_getI X hH kc_ArrayList 2 q197 (Or.inl rfl) rfl rfl ev1 dJ2_size_1 ?_
  have he := o_in hit
  exact hend (.int v1) _ _ _ _ (kOut_i rfl) (congrArg Value.int he) dJ2_size_4
noncomputable def C2_clerks (h : CH) (o : Nat) : Option (Int32) :=
  (gR h o 2 1).bind fun v1 =>
  (vc h v1 10 (CJ2_size h v1)).bind fun q2 =>
  some q2
theorem nm_X2_clerks : kNm yX2_clerks RX2 0 := by unfold kNm; decide +kernel
set_option maxHeartbeats 4000000 in
set_option maxRecDepth 100000 in
theorem wC2_clerks (l : Launch) (γ : KG) (hO : kOK γ) (h : CH) (o : Nat) (z : Int32) (hz : C2_clerks h o = some z) : Met l yX2_clerks (ws_ yX2_clerks cX2_clerks 1 (some .int)) (kRm 1 20) (cPc γ h [.ref o]) (cRq (.int z)) 0 0 vp_nf := by
  refine c_startR (cc := cX2_clerks) (own := RX2) hO rfl rfl rfl (fun p e R s m args below meth c Q ls X hR hH hDU hl hend => ?_)
  have hx := X.1.1
  have hb := X.1.2.1
  have hit := hz
  clear hz
  unfold C2_clerks at hit
  have hl : lv_has ls 1 [(0, .ref o)] := hl
  refine lv_aload_n hx hb dX2_clerks_0 rfl (lv_at hl 0 rfl) ?_
  obtain ⟨v1, ev1, hit⟩ := o_bind hit
  refine c_getR X hH kc_Office 1 q213 (Or.inl rfl) rfl rfl ev1 dX2_clerks_1 ?_
  obtain ⟨q2, eq2, hit⟩ := o_bind hit
  obtain ⟨iq2, eq2⟩ := vc_inv eq2
  refine c_cRF X hH hDU kc_ArrayList (wCJ2_size l γ X.2.1 _ _  _ eq2) iq2 nmi_List_size q468 q428 q139 q430 q426 q425 q424 q429 q427 q358 ⟨Nat.le_trans (Nat.le_of_ble_eq_true rfl) hR.1, Nat.le_trans (Nat.le_of_ble_eq_true rfl) hR.2⟩ ⟨Nat.zero_le _, Nat.zero_le _⟩ rfl rfl hl.1 (lv_room (Nat.le_of_ble_eq_true rfl)) dX2_clerks_4 ?_
  have he := o_in hit
  exact hend (.int q2) _ _ _ _ (kOut_i rfl) (congrArg Value.int he) dX2_clerks_9
noncomputable def C3_isBurnt (h : CH) (o : Nat) (a0 : Int32) : Option (Int32) :=
  (gR h o 3 2).bind fun v1 =>
  (aI h v1 0 a0).bind fun v2 =>
  if v2 = (-1) then
    (some 1)
  else
    (some 0)
theorem nm_X3_isBurnt : kNm yX3_isBurnt RX3 1 := by unfold kNm; decide +kernel
set_option maxHeartbeats 4000000 in
set_option maxRecDepth 100000 in
theorem wC3_isBurnt (l : Launch) (γ : KG) (hO : kOK γ) (h : CH) (o : Nat) (a0 : Int32) (z : Int32) (hz : C3_isBurnt h o a0 = some z) : Met l yX3_isBurnt (ws_ yX3_isBurnt cX3_isBurnt 2 (some .boolean)) (kRm 0 0) (cPc γ h [.ref o, .int a0]) (cRq (.int z)) 0 0 vp_nf := by
  refine c_startR (cc := cX3_isBurnt) (own := RX3) hO rfl rfl rfl (fun p e R s m args below meth c Q ls X hR hH hDU hl hend => ?_)
  have hx := X.1.1
  have hb := X.1.2.1
  have hit := hz
  clear hz
  unfold C3_isBurnt at hit
  have hl : lv_has ls 2 [(0, .ref o), (1, .int a0)] := hl
  refine lv_aload_n hx hb dX3_isBurnt_0 rfl (lv_at hl 0 rfl) ?_
  obtain ⟨v1, ev1, hit⟩ := o_bind hit
  refine c_getR X hH kc_Service 2 q251 (Or.inl rfl) rfl rfl ev1 dX3_isBurnt_1 ?_
  refine lv_iload_n hx hb dX3_isBurnt_4 rfl (lv_at hl 1 rfl) ?_
  obtain ⟨v2, ev2, hit⟩ := o_bind hit
  refine c_iald X hH ev2 dX3_isBurnt_5 ?_
  refine lv_iconst (v := (-1)) hx hb dX3_isBurnt_6 (by decide) ?_
  refine b_icmp_ne (tgt := 14) hx hb dX3_isBurnt_7 (by decide) hit (fun c3 hit => ?_) (fun c3 hit => ?_)
  · refine lv_iconst (v := 0) hx hb dX3_isBurnt_14 (by decide) ?_
    have he := o_in hit
    exact hend (.int 0) _ _ _ _ (kOut_i rfl) (congrArg Value.int he) dX3_isBurnt_15
  · refine lv_iconst (v := 1) hx hb dX3_isBurnt_10 (by decide) ?_
    refine lv_goto (tgt := 15) hx hb dX3_isBurnt_11 (by decide) ?_
    have he := o_in hit
    exact hend (.int 1) _ _ _ _ (kOut_i rfl) (congrArg Value.int he) dX3_isBurnt_15
noncomputable def C3_burnt_L4 (h : CH) (o : Nat) (t1 : Int32 × Int32) : Option ((Int32 × Int32) ⊕ Int32) :=
  (gR h o 3 5).bind fun v3 =>
  (gR h v3 1 1).bind fun v4 =>
  (gI h v4 2 2).bind fun v5 =>
  if t1.2 < v5 then
    ((vc h o 3 (C3_isBurnt h o t1.2)).bind fun q7 =>
    ((if q7 = 0 then
        (some t1.1)
      else
        (some (t1.1 ||| ((1 : Int32) <<< (t1.2 &&& 31)))) : Option Int32)).bind fun r8 =>
    some (.inl (r8, (t1.2 + 1))))
  else
    (some (.inr t1.1))
noncomputable def C3_burnt (h : CH) (o : Nat) : Option (Int32) :=
  o_loop (C3_burnt_L4 h o) (0, 0)
theorem nm_X3_burnt : kNm yX3_burnt RX3 0 := by unfold kNm; decide +kernel
set_option maxHeartbeats 4000000 in
set_option maxRecDepth 100000 in
theorem wC3_burnt (l : Launch) (γ : KG) (hO : kOK γ) (h : CH) (o : Nat) (z : Int32) (hz : C3_burnt h o = some z) : Met l yX3_burnt (ws_ yX3_burnt cX3_burnt 3 (some .int)) (kRm 1 21) (cPc γ h [.ref o]) (cRq (.int z)) 0 0 vp_nf := by
  refine c_startR (cc := cX3_burnt) (own := RX3) hO rfl rfl rfl (fun p e R s m args below meth c Q ls X hR hH hDU hl hend => ?_)
  have hx := X.1.1
  have hb := X.1.2.1
  have hit := hz
  clear hz
  unfold C3_burnt at hit
  have hl : lv_has ls 3 [(0, .ref o)] := hl
  refine lv_iconst (v := 0) hx hb dX3_burnt_0 (by decide) ?_
  refine lv_istore_n (lv' := [(1, .int 0), (0, .ref o)]) hx hb dX3_burnt_1 rfl hl (by decide) rfl (fun ls hl => ?_)
  refine lv_iconst (v := 0) hx hb dX3_burnt_2 (by decide) ?_
  refine lv_istore_n (lv' := [(2, .int 0), (1, .int 0), (0, .ref o)]) hx hb dX3_burnt_3 rfl hl (by decide) rfl (fun ls hl => ?_)
  refine o_rec (P := fun t1 => ∀ (ls : Array Slot), lv_has ls 3 [(0, .ref o), (1, .int t1.1), (2, .int t1.2)] → W p l e R s m args below meth c s.heap [] 0 0 Q (F0 m 4 ls [])) (fun t1 x2 hit hC1 hE1 ls hl => ?_) _ hit _ (lv_sub hl [2, 1, 0] rfl)
  unfold C3_burnt_L4 at hit
  refine lv_iload_n hx hb dX3_burnt_4 rfl (lv_at hl 2 rfl) ?_
  refine lv_aload_n hx hb dX3_burnt_5 rfl (lv_at hl 0 rfl) ?_
  obtain ⟨v3, ev3, hit⟩ := o_bind hit
  refine c_getR X hH kc_Service 5 q258 (Or.inl rfl) rfl rfl ev3 dX3_burnt_6 ?_
  obtain ⟨v4, ev4, hit⟩ := o_bind hit
  refine c_getNR X hH kc_TwinInk 1 q276 (Or.inl rfl) rfl rfl ev4 dX3_burnt_9 ?_
  obtain ⟨v5, ev5, hit⟩ := o_bind hit
  refine c_getNI X hH kc_Office 2 q217 (Or.inl rfl) rfl rfl ev5 dX3_burnt_12 ?_
  refine b_icmp_ge (tgt := 38) hx hb dX3_burnt_15 (by decide) hit (fun c6 hit => ?_) (fun c6 hit => ?_)
  · refine lv_iload_n hx hb dX3_burnt_38 rfl (lv_at hl 1 rfl) ?_
    have he := o_in hit
    have he := hE1 _ he
    exact hend (.int t1.1) _ _ _ _ (kOut_i rfl) (congrArg Value.int he) dX3_burnt_39
  · refine lv_aload_n hx hb dX3_burnt_18 rfl (lv_at hl 0 rfl) ?_
    refine lv_iload_n hx hb dX3_burnt_19 rfl (lv_at hl 2 rfl) ?_
    obtain ⟨q7, eq7, hit⟩ := o_bind hit
    obtain ⟨iq7, eq7⟩ := vc_inv eq7
    refine c_cR X hH hDU kc_Service (wC3_isBurnt l γ X.2.1 _ _ _ _ eq7) iq7 nm_X3_isBurnt q605 q606 q140 q608 q607 ⟨Nat.le_trans (Nat.le_of_ble_eq_true rfl) hR.1, Nat.le_trans (Nat.le_of_ble_eq_true rfl) hR.2⟩ ⟨Nat.zero_le _, Nat.zero_le _⟩ rfl rfl hl.1 (lv_room (Nat.le_of_ble_eq_true rfl)) dX3_burnt_20 ?_
    obtain ⟨r8, er8, hit⟩ := o_bind hit
    have hr8 : ∀ (ls : Array Slot), lv_has ls 3 [(0, .ref o), (2, .int t1.2), (1, .int r8)] → W p l e R s m args below meth c s.heap [] 0 0 Q (F0 m 32 ls []) := by
      intro ls hl
      refine lv_iinc (k := 1) (v := (t1.2 + 1)) (lv' := [(2, .int (t1.2 + 1)), (0, .ref o), (1, .int r8)]) hx hb dX3_burnt_32 hl rfl rfl (by decide) rfl (fun ls hl => ?_)
      refine lv_goto (tgt := 4) hx hb dX3_burnt_35 (by decide) ?_
      have he := o_in hit
      exact hC1 _ he _ (lv_sub hl [1, 2, 0] rfl)
    have hit := er8
    refine b_if_eq (tgt := 32) hx hb dX3_burnt_23 (by decide) hit (fun c9 hit => ?_) (fun c9 hit => ?_)
    · have he := o_in hit
      subst he
      exact hr8 _ (lv_sub hl [0, 2, 1] rfl)
    · refine lv_iload_n hx hb dX3_burnt_26 rfl (lv_at hl 1 rfl) ?_
      refine lv_iconst (v := 1) hx hb dX3_burnt_27 (by decide) ?_
      refine lv_iload_n hx hb dX3_burnt_28 rfl (lv_at hl 2 rfl) ?_
      refine lv_ishl hx hb dX3_burnt_29 ?_
      refine lv_ior hx hb dX3_burnt_30 ?_
      refine lv_istore_n (lv' := [(1, .int (t1.1 ||| ((1 : Int32) <<< (t1.2 &&& 31)))), (0, .ref o), (2, .int t1.2)]) hx hb dX3_burnt_31 rfl hl (by decide) rfl (fun ls hl => ?_)
      have he := o_in hit
      subst he
      exact hr8 _ (lv_sub hl [1, 2, 0] rfl)
noncomputable def C3_bearer (h : CH) (o : Nat) (a0 : Int32) : Option (Int32) :=
  (gR h o 3 2).bind fun v1 =>
  (aI h v1 0 a0).bind fun v2 =>
  if v2 < 4 then
    (some (-1))
  else
    ((gR h o 3 2).bind fun v4 =>
    (aI h v4 0 a0).bind fun v5 =>
    some (v5 - 4))
theorem nm_X3_bearer : kNm yX3_bearer RX3 1 := by unfold kNm; decide +kernel
set_option maxHeartbeats 4000000 in
set_option maxRecDepth 100000 in
theorem wC3_bearer (l : Launch) (γ : KG) (hO : kOK γ) (h : CH) (o : Nat) (a0 : Int32) (z : Int32) (hz : C3_bearer h o a0 = some z) : Met l yX3_bearer (ws_ yX3_bearer cX3_bearer 2 (some .int)) (kRm 0 0) (cPc γ h [.ref o, .int a0]) (cRq (.int z)) 0 0 vp_nf := by
  refine c_startR (cc := cX3_bearer) (own := RX3) hO rfl rfl rfl (fun p e R s m args below meth c Q ls X hR hH hDU hl hend => ?_)
  have hx := X.1.1
  have hb := X.1.2.1
  have hit := hz
  clear hz
  unfold C3_bearer at hit
  have hl : lv_has ls 2 [(0, .ref o), (1, .int a0)] := hl
  refine lv_aload_n hx hb dX3_bearer_0 rfl (lv_at hl 0 rfl) ?_
  obtain ⟨v1, ev1, hit⟩ := o_bind hit
  refine c_getR X hH kc_Service 2 q251 (Or.inl rfl) rfl rfl ev1 dX3_bearer_1 ?_
  refine lv_iload_n hx hb dX3_bearer_4 rfl (lv_at hl 1 rfl) ?_
  obtain ⟨v2, ev2, hit⟩ := o_bind hit
  refine c_iald X hH ev2 dX3_bearer_5 ?_
  refine lv_iconst (v := 4) hx hb dX3_bearer_6 (by decide) ?_
  refine b_icmp_lt (tgt := 21) hx hb dX3_bearer_7 (by decide) hit (fun c3 hit => ?_) (fun c3 hit => ?_)
  · refine lv_iconst (v := (-1)) hx hb dX3_bearer_21 (by decide) ?_
    have he := o_in hit
    exact hend (.int (-1)) _ _ _ _ (kOut_i rfl) (congrArg Value.int he) dX3_bearer_22
  · refine lv_aload_n hx hb dX3_bearer_10 rfl (lv_at hl 0 rfl) ?_
    obtain ⟨v4, ev4, hit⟩ := o_bind hit
    refine c_getR X hH kc_Service 2 q251 (Or.inl rfl) rfl rfl ev4 dX3_bearer_11 ?_
    refine lv_iload_n hx hb dX3_bearer_14 rfl (lv_at hl 1 rfl) ?_
    obtain ⟨v5, ev5, hit⟩ := o_bind hit
    refine c_iald X hH ev5 dX3_bearer_15 ?_
    refine lv_iconst (v := 4) hx hb dX3_bearer_16 (by decide) ?_
    refine lv_isub hx hb dX3_bearer_17 ?_
    refine lv_goto (tgt := 22) hx hb dX3_bearer_18 (by decide) ?_
    have he := o_in hit
    exact hend (.int (v5 - 4)) _ _ _ _ (kOut_i rfl) (congrArg Value.int he) dX3_bearer_22
noncomputable def C3_borne_L4 (h : CH) (o : Nat) (t1 : Int32 × Int32) : Option ((Int32 × Int32) ⊕ Int32) :=
  (gR h o 3 5).bind fun v3 =>
  (gR h v3 1 1).bind fun v4 =>
  (gI h v4 2 2).bind fun v5 =>
  if t1.2 < v5 then
    ((vc h o 3 (C3_bearer h o t1.2)).bind fun q7 =>
    ((if q7 = (-1) then
        (some t1.1)
      else
        (some (t1.1 ||| ((1 : Int32) <<< (t1.2 &&& 31)))) : Option Int32)).bind fun r8 =>
    some (.inl (r8, (t1.2 + 1))))
  else
    (some (.inr t1.1))
noncomputable def C3_borne (h : CH) (o : Nat) : Option (Int32) :=
  o_loop (C3_borne_L4 h o) (0, 0)
theorem nm_X3_borne : kNm yX3_borne RX3 0 := by unfold kNm; decide +kernel
set_option maxHeartbeats 4000000 in
set_option maxRecDepth 100000 in
theorem wC3_borne (l : Launch) (γ : KG) (hO : kOK γ) (h : CH) (o : Nat) (z : Int32) (hz : C3_borne h o = some z) : Met l yX3_borne (ws_ yX3_borne cX3_borne 3 (some .int)) (kRm 1 21) (cPc γ h [.ref o]) (cRq (.int z)) 0 0 vp_nf := by
  refine c_startR (cc := cX3_borne) (own := RX3) hO rfl rfl rfl (fun p e R s m args below meth c Q ls X hR hH hDU hl hend => ?_)
  have hx := X.1.1
  have hb := X.1.2.1
  have hit := hz
  clear hz
  unfold C3_borne at hit
  have hl : lv_has ls 3 [(0, .ref o)] := hl
  refine lv_iconst (v := 0) hx hb dX3_borne_0 (by decide) ?_
  refine lv_istore_n (lv' := [(1, .int 0), (0, .ref o)]) hx hb dX3_borne_1 rfl hl (by decide) rfl (fun ls hl => ?_)
  refine lv_iconst (v := 0) hx hb dX3_borne_2 (by decide) ?_
  refine lv_istore_n (lv' := [(2, .int 0), (1, .int 0), (0, .ref o)]) hx hb dX3_borne_3 rfl hl (by decide) rfl (fun ls hl => ?_)
  refine o_rec (P := fun t1 => ∀ (ls : Array Slot), lv_has ls 3 [(0, .ref o), (1, .int t1.1), (2, .int t1.2)] → W p l e R s m args below meth c s.heap [] 0 0 Q (F0 m 4 ls [])) (fun t1 x2 hit hC1 hE1 ls hl => ?_) _ hit _ (lv_sub hl [2, 1, 0] rfl)
  unfold C3_borne_L4 at hit
  refine lv_iload_n hx hb dX3_borne_4 rfl (lv_at hl 2 rfl) ?_
  refine lv_aload_n hx hb dX3_borne_5 rfl (lv_at hl 0 rfl) ?_
  obtain ⟨v3, ev3, hit⟩ := o_bind hit
  refine c_getR X hH kc_Service 5 q258 (Or.inl rfl) rfl rfl ev3 dX3_borne_6 ?_
  obtain ⟨v4, ev4, hit⟩ := o_bind hit
  refine c_getNR X hH kc_TwinInk 1 q276 (Or.inl rfl) rfl rfl ev4 dX3_borne_9 ?_
  obtain ⟨v5, ev5, hit⟩ := o_bind hit
  refine c_getNI X hH kc_Office 2 q217 (Or.inl rfl) rfl rfl ev5 dX3_borne_12 ?_
  refine b_icmp_ge (tgt := 39) hx hb dX3_borne_15 (by decide) hit (fun c6 hit => ?_) (fun c6 hit => ?_)
  · refine lv_iload_n hx hb dX3_borne_39 rfl (lv_at hl 1 rfl) ?_
    have he := o_in hit
    have he := hE1 _ he
    exact hend (.int t1.1) _ _ _ _ (kOut_i rfl) (congrArg Value.int he) dX3_borne_40
  · refine lv_aload_n hx hb dX3_borne_18 rfl (lv_at hl 0 rfl) ?_
    refine lv_iload_n hx hb dX3_borne_19 rfl (lv_at hl 2 rfl) ?_
    obtain ⟨q7, eq7, hit⟩ := o_bind hit
    obtain ⟨iq7, eq7⟩ := vc_inv eq7
    refine c_cR X hH hDU kc_Service (wC3_bearer l γ X.2.1 _ _ _ _ eq7) iq7 nm_X3_bearer q621 q622 q140 q624 q623 ⟨Nat.le_trans (Nat.le_of_ble_eq_true rfl) hR.1, Nat.le_trans (Nat.le_of_ble_eq_true rfl) hR.2⟩ ⟨Nat.zero_le _, Nat.zero_le _⟩ rfl rfl hl.1 (lv_room (Nat.le_of_ble_eq_true rfl)) dX3_borne_20 ?_
    refine lv_iconst (v := (-1)) hx hb dX3_borne_23 (by decide) ?_
    obtain ⟨r8, er8, hit⟩ := o_bind hit
    have hr8 : ∀ (ls : Array Slot), lv_has ls 3 [(0, .ref o), (2, .int t1.2), (1, .int r8)] → W p l e R s m args below meth c s.heap [] 0 0 Q (F0 m 33 ls []) := by
      intro ls hl
      refine lv_iinc (k := 1) (v := (t1.2 + 1)) (lv' := [(2, .int (t1.2 + 1)), (0, .ref o), (1, .int r8)]) hx hb dX3_borne_33 hl rfl rfl (by decide) rfl (fun ls hl => ?_)
      refine lv_goto (tgt := 4) hx hb dX3_borne_36 (by decide) ?_
      have he := o_in hit
      exact hC1 _ he _ (lv_sub hl [1, 2, 0] rfl)
    have hit := er8
    refine b_icmp_eq (tgt := 33) hx hb dX3_borne_24 (by decide) hit (fun c9 hit => ?_) (fun c9 hit => ?_)
    · have he := o_in hit
      subst he
      exact hr8 _ (lv_sub hl [0, 2, 1] rfl)
    · refine lv_iload_n hx hb dX3_borne_27 rfl (lv_at hl 1 rfl) ?_
      refine lv_iconst (v := 1) hx hb dX3_borne_28 (by decide) ?_
      refine lv_iload_n hx hb dX3_borne_29 rfl (lv_at hl 2 rfl) ?_
      refine lv_ishl hx hb dX3_borne_30 ?_
      refine lv_ior hx hb dX3_borne_31 ?_
      refine lv_istore_n (lv' := [(1, .int (t1.1 ||| ((1 : Int32) <<< (t1.2 &&& 31)))), (0, .ref o), (2, .int t1.2)]) hx hb dX3_borne_32 rfl hl (by decide) rfl (fun ls hl => ?_)
      have he := o_in hit
      subst he
      exact hr8 _ (lv_sub hl [1, 2, 0] rfl)
noncomputable def C3_known_L4 (h : CH) (o : Nat) (a0 : Int32) (t1 : Int32 × Int32) : Option ((Int32 × Int32) ⊕ Int32) :=
  (gR h o 3 5).bind fun v3 =>
  (gR h v3 1 1).bind fun v4 =>
  (vc h v4 2 (C2_clerks h v4)).bind fun q5 =>
  if t1.2 < q5 then
    ((C1_isOf a0 t1.2).bind fun q7 =>
    ((if q7 = 0 then
        (some t1.1)
      else
        ((gR h o 3 3).bind fun v10 =>
        (aI h v10 0 t1.2).bind fun v11 =>
        some (t1.1 ||| v11)) : Option Int32)).bind fun r8 =>
    some (.inl (r8, (t1.2 + 1))))
  else
    (some (.inr t1.1))
noncomputable def C3_known (h : CH) (o : Nat) (a0 : Int32) : Option (Int32) :=
  o_loop (C3_known_L4 h o a0) (0, 0)
theorem nm_X3_known : kNm yX3_known RX3 1 := by unfold kNm; decide +kernel
set_option maxHeartbeats 4000000 in
set_option maxRecDepth 100000 in
theorem wC3_known (l : Launch) (γ : KG) (hO : kOK γ) (h : CH) (o : Nat) (a0 : Int32) (z : Int32) (hz : C3_known h o a0 = some z) : Met l yX3_known (ws_ yX3_known cX3_known 4 (some .int)) (kRm 2 40) (cPc γ h [.ref o, .int a0]) (cRq (.int z)) 0 0 vp_nf := by
  refine c_startR (cc := cX3_known) (own := RX3) hO rfl rfl rfl (fun p e R s m args below meth c Q ls X hR hH hDU hl hend => ?_)
  have hx := X.1.1
  have hb := X.1.2.1
  have hit := hz
  clear hz
  unfold C3_known at hit
  have hl : lv_has ls 4 [(0, .ref o), (1, .int a0)] := hl
  refine lv_iconst (v := 0) hx hb dX3_known_0 (by decide) ?_
  refine lv_istore_n (lv' := [(2, .int 0), (0, .ref o), (1, .int a0)]) hx hb dX3_known_1 rfl hl (by decide) rfl (fun ls hl => ?_)
  refine lv_iconst (v := 0) hx hb dX3_known_2 (by decide) ?_
  refine lv_istore_n (lv' := [(3, .int 0), (2, .int 0), (0, .ref o), (1, .int a0)]) hx hb dX3_known_3 rfl hl (by decide) rfl (fun ls hl => ?_)
  refine o_rec (P := fun t1 => ∀ (ls : Array Slot), lv_has ls 4 [(0, .ref o), (1, .int a0), (2, .int t1.1), (3, .int t1.2)] → W p l e R s m args below meth c s.heap [] 0 0 Q (F0 m 4 ls [])) (fun t1 x2 hit hC1 hE1 ls hl => ?_) _ hit _ (lv_sub hl [2, 3, 1, 0] rfl)
  unfold C3_known_L4 at hit
  refine lv_iload_n hx hb dX3_known_4 rfl (lv_at hl 3 rfl) ?_
  refine lv_aload_n hx hb dX3_known_5 rfl (lv_at hl 0 rfl) ?_
  obtain ⟨v3, ev3, hit⟩ := o_bind hit
  refine c_getR X hH kc_Service 5 q258 (Or.inl rfl) rfl rfl ev3 dX3_known_6 ?_
  obtain ⟨v4, ev4, hit⟩ := o_bind hit
  refine c_getNR X hH kc_TwinInk 1 q276 (Or.inl rfl) rfl rfl ev4 dX3_known_9 ?_
  obtain ⟨q5, eq5, hit⟩ := o_bind hit
  obtain ⟨iq5, eq5⟩ := vc_inv eq5
  refine c_cR X hH hDU kc_Office (wC2_clerks l γ X.2.1 _ _  _ eq5) iq5 nm_X2_clerks q463 q464 q136 q466 q465 ⟨Nat.le_trans (Nat.le_of_ble_eq_true rfl) hR.1, Nat.le_trans (Nat.le_of_ble_eq_true rfl) hR.2⟩ ⟨Nat.zero_le _, Nat.zero_le _⟩ rfl rfl hl.1 (lv_room (Nat.le_of_ble_eq_true rfl)) dX3_known_12 ?_
  refine b_icmp_ge (tgt := 41) hx hb dX3_known_15 (by decide) hit (fun c6 hit => ?_) (fun c6 hit => ?_)
  · refine lv_iload_n hx hb dX3_known_41 rfl (lv_at hl 2 rfl) ?_
    have he := o_in hit
    have he := hE1 _ he
    exact hend (.int t1.1) _ _ _ _ (kOut_i rfl) (congrArg Value.int he) dX3_known_42
  · refine lv_iload_n hx hb dX3_known_18 rfl (lv_at hl 1 rfl) ?_
    refine lv_iload_n hx hb dX3_known_19 rfl (lv_at hl 3 rfl) ?_
    obtain ⟨q7, eq7, hit⟩ := o_bind hit
    refine c_cPN X (wC1_isOf l _ _ _ eq7) nm_X1_isOf q518 q519 q135 q520 ⟨Nat.le_trans (Nat.le_of_ble_eq_true rfl) hR.1, Nat.le_trans (Nat.le_of_ble_eq_true rfl) hR.2⟩ ⟨Nat.zero_le _, Nat.zero_le _⟩ rfl rfl hl.1 (lv_room (Nat.le_of_ble_eq_true rfl)) dX3_known_20 ?_
    obtain ⟨r8, er8, hit⟩ := o_bind hit
    have hr8 : ∀ (ls : Array Slot), lv_has ls 4 [(0, .ref o), (1, .int a0), (3, .int t1.2), (2, .int r8)] → W p l e R s m args below meth c s.heap [] 0 0 Q (F0 m 35 ls []) := by
      intro ls hl
      refine lv_iinc (k := 2) (v := (t1.2 + 1)) (lv' := [(3, .int (t1.2 + 1)), (0, .ref o), (1, .int a0), (2, .int r8)]) hx hb dX3_known_35 hl rfl rfl (by decide) rfl (fun ls hl => ?_)
      refine lv_goto (tgt := 4) hx hb dX3_known_38 (by decide) ?_
      have he := o_in hit
      exact hC1 _ he _ (lv_sub hl [1, 2, 3, 0] rfl)
    have hit := er8
    refine b_if_eq (tgt := 35) hx hb dX3_known_23 (by decide) hit (fun c9 hit => ?_) (fun c9 hit => ?_)
    · have he := o_in hit
      subst he
      exact hr8 _ (lv_sub hl [0, 1, 3, 2] rfl)
    · refine lv_iload_n hx hb dX3_known_26 rfl (lv_at hl 2 rfl) ?_
      refine lv_aload_n hx hb dX3_known_27 rfl (lv_at hl 0 rfl) ?_
      obtain ⟨v10, ev10, hit⟩ := o_bind hit
      refine c_getR X hH kc_Service 3 q254 (Or.inl rfl) rfl rfl ev10 dX3_known_28 ?_
      refine lv_iload_n hx hb dX3_known_31 rfl (lv_at hl 3 rfl) ?_
      obtain ⟨v11, ev11, hit⟩ := o_bind hit
      refine c_iald X hH ev11 dX3_known_32 ?_
      refine lv_ior hx hb dX3_known_33 ?_
      refine lv_istore_n (lv' := [(2, .int (t1.1 ||| v11)), (0, .ref o), (1, .int a0), (3, .int t1.2)]) hx hb dX3_known_34 rfl hl (by decide) rfl (fun ls hl => ?_)
      have he := o_in hit
      subst he
      exact hr8 _ (lv_sub hl [1, 2, 3, 0] rfl)
noncomputable def C3_read (h : CH) (o : Nat) : Option (Int32) :=
  (vc h o 3 (C3_known h o 63)).bind fun q1 =>
  some q1
theorem nm_X3_read : kNm yX3_read RX3 0 := by unfold kNm; decide +kernel
set_option maxHeartbeats 4000000 in
set_option maxRecDepth 100000 in
theorem wC3_read (l : Launch) (γ : KG) (hO : kOK γ) (h : CH) (o : Nat) (z : Int32) (hz : C3_read h o = some z) : Met l yX3_read (ws_ yX3_read cX3_read 1 (some .int)) (kRm 3 63) (cPc γ h [.ref o]) (cRq (.int z)) 0 0 vp_nf := by
  refine c_startR (cc := cX3_read) (own := RX3) hO rfl rfl rfl (fun p e R s m args below meth c Q ls X hR hH hDU hl hend => ?_)
  have hx := X.1.1
  have hb := X.1.2.1
  have hit := hz
  clear hz
  unfold C3_read at hit
  have hl : lv_has ls 1 [(0, .ref o)] := hl
  refine lv_aload_n hx hb dX3_read_0 rfl (lv_at hl 0 rfl) ?_
  refine lv_bipush (v := 63) hx hb dX3_read_1 (by decide) ?_
  obtain ⟨q1, eq1, hit⟩ := o_bind hit
  obtain ⟨iq1, eq1⟩ := vc_inv eq1
  refine c_cR X hH hDU kc_Service (wC3_known l γ X.2.1 _ _ _ _ eq1) iq1 nm_X3_known q514 q515 q140 q517 q516 ⟨Nat.le_trans (Nat.le_of_ble_eq_true rfl) hR.1, Nat.le_trans (Nat.le_of_ble_eq_true rfl) hR.2⟩ ⟨Nat.zero_le _, Nat.zero_le _⟩ rfl rfl hl.1 (lv_room (Nat.le_of_ble_eq_true rfl)) dX3_read_3 ?_
  have he := o_in hit
  exact hend (.int q1) _ _ _ _ (kOut_i rfl) (congrArg Value.int he) dX3_read_6
noncomputable def CJ19_numberOfTrailingZeros (a0 : Int32) : Option (Int32) :=
  if ((a0 ^^^ (-1)) &&& (a0 - 1)) ≤ 0 then
    (some (((a0 ^^^ (-1)) &&& (a0 - 1)) &&& 32))
  else
    (((if ((a0 ^^^ (-1)) &&& (a0 - 1)) ≤ 65536 then
        (some (((a0 ^^^ (-1)) &&& (a0 - 1)), 1))
      else
        (some ((iush ((a0 ^^^ (-1)) &&& (a0 - 1)) 16), (1 + 16))) : Option (Int32 × Int32))).bind fun r2 =>
    ((if r2.1 ≤ 256 then
        (some (r2.1, r2.2))
      else
        (some ((iush r2.1 8), (r2.2 + 8))) : Option (Int32 × Int32))).bind fun r3 =>
    ((if r3.1 ≤ 16 then
        (some (r3.1, r3.2))
      else
        (some ((iush r3.1 4), (r3.2 + 4))) : Option (Int32 × Int32))).bind fun r4 =>
    ((if r4.1 ≤ 4 then
        (some (r4.1, r4.2))
      else
        (some ((iush r4.1 2), (r4.2 + 2))) : Option (Int32 × Int32))).bind fun r5 =>
    some (r5.2 + (iush r5.1 1)))
theorem nm_J19_numberOfTrailingZeros : kNm yJ19_numberOfTrailingZeros RJ19 1 := by unfold kNm; decide +kernel
set_option maxHeartbeats 4000000 in
set_option maxRecDepth 100000 in
theorem wCJ19_numberOfTrailingZeros (l : Launch) (a0 : Int32) (z : Int32) (hz : CJ19_numberOfTrailingZeros a0 = some z) : Met l yJ19_numberOfTrailingZeros (ws_ yJ19_numberOfTrailingZeros cJ19_numberOfTrailingZeros 2 (some .int)) (kRm 0 0) (bPc [.int a0]) (vp_Si (fun r => r = z)) 0 0 vp_nf := by
  refine c_startP (cc := cJ19_numberOfTrailingZeros) (own := RJ19) (ty := .int) rfl rfl rfl (fun p e R s m args below meth c Q ls X hR hl hend => ?_)
  have hx := X.1
  have hb := X.2.1
  have hit := hz
  clear hz
  unfold CJ19_numberOfTrailingZeros at hit
  have hl : lv_has ls 2 [(0, .int a0)] := hl
  refine lv_iload_n hx hb dJ19_numberOfTrailingZeros_0 rfl (lv_at hl 0 rfl) ?_
  refine lv_iconst (v := (-1)) hx hb dJ19_numberOfTrailingZeros_1 (by decide) ?_
  refine lv_ixor hx hb dJ19_numberOfTrailingZeros_2 ?_
  refine lv_iload_n hx hb dJ19_numberOfTrailingZeros_3 rfl (lv_at hl 0 rfl) ?_
  refine lv_iconst (v := 1) hx hb dJ19_numberOfTrailingZeros_4 (by decide) ?_
  refine lv_isub hx hb dJ19_numberOfTrailingZeros_5 ?_
  refine lv_iand hx hb dJ19_numberOfTrailingZeros_6 ?_
  refine lv_istore_n (lv' := [(0, .int ((a0 ^^^ (-1)) &&& (a0 - 1)))]) hx hb dJ19_numberOfTrailingZeros_7 rfl hl (by decide) rfl (fun ls hl => ?_)
  refine lv_iload_n hx hb dJ19_numberOfTrailingZeros_8 rfl (lv_at hl 0 rfl) ?_
  refine b_if_gt (tgt := 17) hx hb dJ19_numberOfTrailingZeros_9 (by decide) hit (fun c1 hit => ?_) (fun c1 hit => ?_)
  · refine lv_iconst (v := 1) hx hb dJ19_numberOfTrailingZeros_17 (by decide) ?_
    refine lv_istore_n (lv' := [(1, .int 1), (0, .int ((a0 ^^^ (-1)) &&& (a0 - 1)))]) hx hb dJ19_numberOfTrailingZeros_18 rfl hl (by decide) rfl (fun ls hl => ?_)
    refine lv_iload_n hx hb dJ19_numberOfTrailingZeros_19 rfl (lv_at hl 1 rfl) ?_
    refine lv_ldcw (v := 65536) hx hb X.2.2.2.1 (X.2.2.2.2 _ q1251) dJ19_numberOfTrailingZeros_20 ?_
    obtain ⟨r2, er2, hit⟩ := o_bind hit
    have hr2 : ∀ (ls : Array Slot), lv_has ls 2 [(0, .int r2.1), (1, .int r2.2)] → W p l e R s m args below meth c s.heap [] 0 0 Q (F0 m 34 ls []) := by
      intro ls hl
      refine lv_iload_n hx hb dJ19_numberOfTrailingZeros_34 rfl (lv_at hl 0 rfl) ?_
      refine lv_sipush (v := 256) hx hb dJ19_numberOfTrailingZeros_35 (by decide) ?_
      obtain ⟨r3, er3, hit⟩ := o_bind hit
      have hr3 : ∀ (ls : Array Slot), lv_has ls 2 [(0, .int r3.1), (1, .int r3.2)] → W p l e R s m args below meth c s.heap [] 0 0 Q (F0 m 49 ls []) := by
        intro ls hl
        refine lv_iload_n hx hb dJ19_numberOfTrailingZeros_49 rfl (lv_at hl 0 rfl) ?_
        refine lv_bipush (v := 16) hx hb dJ19_numberOfTrailingZeros_50 (by decide) ?_
        obtain ⟨r4, er4, hit⟩ := o_bind hit
        have hr4 : ∀ (ls : Array Slot), lv_has ls 2 [(0, .int r4.1), (1, .int r4.2)] → W p l e R s m args below meth c s.heap [] 0 0 Q (F0 m 62 ls []) := by
          intro ls hl
          refine lv_iload_n hx hb dJ19_numberOfTrailingZeros_62 rfl (lv_at hl 0 rfl) ?_
          refine lv_iconst (v := 4) hx hb dJ19_numberOfTrailingZeros_63 (by decide) ?_
          obtain ⟨r5, er5, hit⟩ := o_bind hit
          have hr5 : ∀ (ls : Array Slot), lv_has ls 2 [(0, .int r5.1), (1, .int r5.2)] → W p l e R s m args below meth c s.heap [] 0 0 Q (F0 m 74 ls []) := by
            intro ls hl
            refine lv_iload_n hx hb dJ19_numberOfTrailingZeros_74 rfl (lv_at hl 1 rfl) ?_
            refine lv_iload_n hx hb dJ19_numberOfTrailingZeros_75 rfl (lv_at hl 0 rfl) ?_
            refine lv_iconst (v := 1) hx hb dJ19_numberOfTrailingZeros_76 (by decide) ?_
            refine lv_iushr hx hb dJ19_numberOfTrailingZeros_77 rfl ?_
            refine lv_iadd hx hb dJ19_numberOfTrailingZeros_78 ?_
            have he := o_in hit
            exact hend _ (r5.2 + (iush r5.1 1)) _ _ rfl he dJ19_numberOfTrailingZeros_79
          have hit := er5
          refine b_icmp_le (tgt := 74) hx hb dJ19_numberOfTrailingZeros_64 (by decide) hit (fun c6 hit => ?_) (fun c6 hit => ?_)
          · have he := o_in hit
            subst he
            exact hr5 _ hl
          · refine lv_iinc (k := 1) (v := (r4.2 + 2)) (lv' := [(1, .int (r4.2 + 2)), (0, .int r4.1)]) hx hb dJ19_numberOfTrailingZeros_67 hl rfl rfl (by decide) rfl (fun ls hl => ?_)
            refine lv_iload_n hx hb dJ19_numberOfTrailingZeros_70 rfl (lv_at hl 1 rfl) ?_
            refine lv_iconst (v := 2) hx hb dJ19_numberOfTrailingZeros_71 (by decide) ?_
            refine lv_iushr hx hb dJ19_numberOfTrailingZeros_72 rfl ?_
            refine lv_istore_n (lv' := [(0, .int (iush r4.1 2)), (1, .int (r4.2 + 2))]) hx hb dJ19_numberOfTrailingZeros_73 rfl hl (by decide) rfl (fun ls hl => ?_)
            have he := o_in hit
            subst he
            exact hr5 _ hl
        have hit := er4
        refine b_icmp_le (tgt := 62) hx hb dJ19_numberOfTrailingZeros_52 (by decide) hit (fun c7 hit => ?_) (fun c7 hit => ?_)
        · have he := o_in hit
          subst he
          exact hr4 _ hl
        · refine lv_iinc (k := 1) (v := (r3.2 + 4)) (lv' := [(1, .int (r3.2 + 4)), (0, .int r3.1)]) hx hb dJ19_numberOfTrailingZeros_55 hl rfl rfl (by decide) rfl (fun ls hl => ?_)
          refine lv_iload_n hx hb dJ19_numberOfTrailingZeros_58 rfl (lv_at hl 1 rfl) ?_
          refine lv_iconst (v := 4) hx hb dJ19_numberOfTrailingZeros_59 (by decide) ?_
          refine lv_iushr hx hb dJ19_numberOfTrailingZeros_60 rfl ?_
          refine lv_istore_n (lv' := [(0, .int (iush r3.1 4)), (1, .int (r3.2 + 4))]) hx hb dJ19_numberOfTrailingZeros_61 rfl hl (by decide) rfl (fun ls hl => ?_)
          have he := o_in hit
          subst he
          exact hr4 _ hl
      have hit := er3
      refine b_icmp_le (tgt := 49) hx hb dJ19_numberOfTrailingZeros_38 (by decide) hit (fun c8 hit => ?_) (fun c8 hit => ?_)
      · have he := o_in hit
        subst he
        exact hr3 _ hl
      · refine lv_iinc (k := 1) (v := (r2.2 + 8)) (lv' := [(1, .int (r2.2 + 8)), (0, .int r2.1)]) hx hb dJ19_numberOfTrailingZeros_41 hl rfl rfl (by decide) rfl (fun ls hl => ?_)
        refine lv_iload_n hx hb dJ19_numberOfTrailingZeros_44 rfl (lv_at hl 1 rfl) ?_
        refine lv_bipush (v := 8) hx hb dJ19_numberOfTrailingZeros_45 (by decide) ?_
        refine lv_iushr hx hb dJ19_numberOfTrailingZeros_47 rfl ?_
        refine lv_istore_n (lv' := [(0, .int (iush r2.1 8)), (1, .int (r2.2 + 8))]) hx hb dJ19_numberOfTrailingZeros_48 rfl hl (by decide) rfl (fun ls hl => ?_)
        have he := o_in hit
        subst he
        exact hr3 _ hl
    have hit := er2
    refine b_icmp_le (tgt := 34) hx hb dJ19_numberOfTrailingZeros_23 (by decide) hit (fun c9 hit => ?_) (fun c9 hit => ?_)
    · have he := o_in hit
      subst he
      exact hr2 _ (lv_sub hl [1, 0] rfl)
    · refine lv_iinc (k := 0) (v := (1 + 16)) (lv' := [(1, .int (1 + 16)), (0, .int ((a0 ^^^ (-1)) &&& (a0 - 1)))]) hx hb dJ19_numberOfTrailingZeros_26 hl rfl rfl (by decide) rfl (fun ls hl => ?_)
      refine lv_iload_n hx hb dJ19_numberOfTrailingZeros_29 rfl (lv_at hl 1 rfl) ?_
      refine lv_bipush (v := 16) hx hb dJ19_numberOfTrailingZeros_30 (by decide) ?_
      refine lv_iushr hx hb dJ19_numberOfTrailingZeros_32 rfl ?_
      refine lv_istore_n (lv' := [(0, .int (iush ((a0 ^^^ (-1)) &&& (a0 - 1)) 16)), (1, .int (1 + 16))]) hx hb dJ19_numberOfTrailingZeros_33 rfl hl (by decide) rfl (fun ls hl => ?_)
      have he := o_in hit
      subst he
      exact hr2 _ hl
  · refine lv_iload_n hx hb dJ19_numberOfTrailingZeros_12 rfl (lv_at hl 0 rfl) ?_
    refine lv_bipush (v := 32) hx hb dJ19_numberOfTrailingZeros_13 (by decide) ?_
    refine lv_iand hx hb dJ19_numberOfTrailingZeros_15 ?_
    have he := o_in hit
    exact hend _ (((a0 ^^^ (-1)) &&& (a0 - 1)) &&& 32) _ _ rfl he dJ19_numberOfTrailingZeros_16
noncomputable def CJ19_bitCount (a0 : Int32) : Option (Int32) :=
  some ((((((((a0 - ((iush a0 1) &&& 1431655765)) &&& 858993459) + ((iush (a0 - ((iush a0 1) &&& 1431655765)) 2) &&& 858993459)) + (iush (((a0 - ((iush a0 1) &&& 1431655765)) &&& 858993459) + ((iush (a0 - ((iush a0 1) &&& 1431655765)) 2) &&& 858993459)) 4)) &&& 252645135) + (iush (((((a0 - ((iush a0 1) &&& 1431655765)) &&& 858993459) + ((iush (a0 - ((iush a0 1) &&& 1431655765)) 2) &&& 858993459)) + (iush (((a0 - ((iush a0 1) &&& 1431655765)) &&& 858993459) + ((iush (a0 - ((iush a0 1) &&& 1431655765)) 2) &&& 858993459)) 4)) &&& 252645135) 8)) + (iush ((((((a0 - ((iush a0 1) &&& 1431655765)) &&& 858993459) + ((iush (a0 - ((iush a0 1) &&& 1431655765)) 2) &&& 858993459)) + (iush (((a0 - ((iush a0 1) &&& 1431655765)) &&& 858993459) + ((iush (a0 - ((iush a0 1) &&& 1431655765)) 2) &&& 858993459)) 4)) &&& 252645135) + (iush (((((a0 - ((iush a0 1) &&& 1431655765)) &&& 858993459) + ((iush (a0 - ((iush a0 1) &&& 1431655765)) 2) &&& 858993459)) + (iush (((a0 - ((iush a0 1) &&& 1431655765)) &&& 858993459) + ((iush (a0 - ((iush a0 1) &&& 1431655765)) 2) &&& 858993459)) 4)) &&& 252645135) 8)) 16)) &&& 63)
theorem nm_J19_bitCount : kNm yJ19_bitCount RJ19 1 := by unfold kNm; decide +kernel
set_option maxHeartbeats 4000000 in
set_option maxRecDepth 100000 in
theorem wCJ19_bitCount (l : Launch) (a0 : Int32) (z : Int32) (hz : CJ19_bitCount a0 = some z) : Met l yJ19_bitCount (ws_ yJ19_bitCount cJ19_bitCount 1 (some .int)) (kRm 0 0) (bPc [.int a0]) (vp_Si (fun r => r = z)) 0 0 vp_nf := by
  refine c_startP (cc := cJ19_bitCount) (own := RJ19) (ty := .int) rfl rfl rfl (fun p e R s m args below meth c Q ls X hR hl hend => ?_)
  have hx := X.1
  have hb := X.2.1
  have hit := hz
  clear hz
  unfold CJ19_bitCount at hit
  have hl : lv_has ls 1 [(0, .int a0)] := hl
  refine lv_iload_n hx hb dJ19_bitCount_0 rfl (lv_at hl 0 rfl) ?_
  refine lv_iload_n hx hb dJ19_bitCount_1 rfl (lv_at hl 0 rfl) ?_
  refine lv_iconst (v := 1) hx hb dJ19_bitCount_2 (by decide) ?_
  refine lv_iushr hx hb dJ19_bitCount_3 rfl ?_
  refine lv_ldcw (v := 1431655765) hx hb X.2.2.2.1 (X.2.2.2.2 _ q511) dJ19_bitCount_4 ?_
  refine lv_iand hx hb dJ19_bitCount_7 ?_
  refine lv_isub hx hb dJ19_bitCount_8 ?_
  refine lv_istore_n (lv' := [(0, .int (a0 - ((iush a0 1) &&& 1431655765)))]) hx hb dJ19_bitCount_9 rfl hl (by decide) rfl (fun ls hl => ?_)
  refine lv_iload_n hx hb dJ19_bitCount_10 rfl (lv_at hl 0 rfl) ?_
  refine lv_ldcw (v := 858993459) hx hb X.2.2.2.1 (X.2.2.2.2 _ q512) dJ19_bitCount_11 ?_
  refine lv_iand hx hb dJ19_bitCount_14 ?_
  refine lv_iload_n hx hb dJ19_bitCount_15 rfl (lv_at hl 0 rfl) ?_
  refine lv_iconst (v := 2) hx hb dJ19_bitCount_16 (by decide) ?_
  refine lv_iushr hx hb dJ19_bitCount_17 rfl ?_
  refine lv_ldcw (v := 858993459) hx hb X.2.2.2.1 (X.2.2.2.2 _ q512) dJ19_bitCount_18 ?_
  refine lv_iand hx hb dJ19_bitCount_21 ?_
  refine lv_iadd hx hb dJ19_bitCount_22 ?_
  refine lv_istore_n (lv' := [(0, .int (((a0 - ((iush a0 1) &&& 1431655765)) &&& 858993459) + ((iush (a0 - ((iush a0 1) &&& 1431655765)) 2) &&& 858993459)))]) hx hb dJ19_bitCount_23 rfl hl (by decide) rfl (fun ls hl => ?_)
  refine lv_iload_n hx hb dJ19_bitCount_24 rfl (lv_at hl 0 rfl) ?_
  refine lv_iload_n hx hb dJ19_bitCount_25 rfl (lv_at hl 0 rfl) ?_
  refine lv_iconst (v := 4) hx hb dJ19_bitCount_26 (by decide) ?_
  refine lv_iushr hx hb dJ19_bitCount_27 rfl ?_
  refine lv_iadd hx hb dJ19_bitCount_28 ?_
  refine lv_ldcw (v := 252645135) hx hb X.2.2.2.1 (X.2.2.2.2 _ q513) dJ19_bitCount_29 ?_
  refine lv_iand hx hb dJ19_bitCount_32 ?_
  refine lv_istore_n (lv' := [(0, .int (((((a0 - ((iush a0 1) &&& 1431655765)) &&& 858993459) + ((iush (a0 - ((iush a0 1) &&& 1431655765)) 2) &&& 858993459)) + (iush (((a0 - ((iush a0 1) &&& 1431655765)) &&& 858993459) + ((iush (a0 - ((iush a0 1) &&& 1431655765)) 2) &&& 858993459)) 4)) &&& 252645135))]) hx hb dJ19_bitCount_33 rfl hl (by decide) rfl (fun ls hl => ?_)
  refine lv_iload_n hx hb dJ19_bitCount_34 rfl (lv_at hl 0 rfl) ?_
  refine lv_iload_n hx hb dJ19_bitCount_35 rfl (lv_at hl 0 rfl) ?_
  refine lv_bipush (v := 8) hx hb dJ19_bitCount_36 (by decide) ?_
  refine lv_iushr hx hb dJ19_bitCount_38 rfl ?_
  refine lv_iadd hx hb dJ19_bitCount_39 ?_
  refine lv_istore_n (lv' := [(0, .int ((((((a0 - ((iush a0 1) &&& 1431655765)) &&& 858993459) + ((iush (a0 - ((iush a0 1) &&& 1431655765)) 2) &&& 858993459)) + (iush (((a0 - ((iush a0 1) &&& 1431655765)) &&& 858993459) + ((iush (a0 - ((iush a0 1) &&& 1431655765)) 2) &&& 858993459)) 4)) &&& 252645135) + (iush (((((a0 - ((iush a0 1) &&& 1431655765)) &&& 858993459) + ((iush (a0 - ((iush a0 1) &&& 1431655765)) 2) &&& 858993459)) + (iush (((a0 - ((iush a0 1) &&& 1431655765)) &&& 858993459) + ((iush (a0 - ((iush a0 1) &&& 1431655765)) 2) &&& 858993459)) 4)) &&& 252645135) 8)))]) hx hb dJ19_bitCount_40 rfl hl (by decide) rfl (fun ls hl => ?_)
  refine lv_iload_n hx hb dJ19_bitCount_41 rfl (lv_at hl 0 rfl) ?_
  refine lv_iload_n hx hb dJ19_bitCount_42 rfl (lv_at hl 0 rfl) ?_
  refine lv_bipush (v := 16) hx hb dJ19_bitCount_43 (by decide) ?_
  refine lv_iushr hx hb dJ19_bitCount_45 rfl ?_
  refine lv_iadd hx hb dJ19_bitCount_46 ?_
  refine lv_istore_n (lv' := [(0, .int (((((((a0 - ((iush a0 1) &&& 1431655765)) &&& 858993459) + ((iush (a0 - ((iush a0 1) &&& 1431655765)) 2) &&& 858993459)) + (iush (((a0 - ((iush a0 1) &&& 1431655765)) &&& 858993459) + ((iush (a0 - ((iush a0 1) &&& 1431655765)) 2) &&& 858993459)) 4)) &&& 252645135) + (iush (((((a0 - ((iush a0 1) &&& 1431655765)) &&& 858993459) + ((iush (a0 - ((iush a0 1) &&& 1431655765)) 2) &&& 858993459)) + (iush (((a0 - ((iush a0 1) &&& 1431655765)) &&& 858993459) + ((iush (a0 - ((iush a0 1) &&& 1431655765)) 2) &&& 858993459)) 4)) &&& 252645135) 8)) + (iush ((((((a0 - ((iush a0 1) &&& 1431655765)) &&& 858993459) + ((iush (a0 - ((iush a0 1) &&& 1431655765)) 2) &&& 858993459)) + (iush (((a0 - ((iush a0 1) &&& 1431655765)) &&& 858993459) + ((iush (a0 - ((iush a0 1) &&& 1431655765)) 2) &&& 858993459)) 4)) &&& 252645135) + (iush (((((a0 - ((iush a0 1) &&& 1431655765)) &&& 858993459) + ((iush (a0 - ((iush a0 1) &&& 1431655765)) 2) &&& 858993459)) + (iush (((a0 - ((iush a0 1) &&& 1431655765)) &&& 858993459) + ((iush (a0 - ((iush a0 1) &&& 1431655765)) 2) &&& 858993459)) 4)) &&& 252645135) 8)) 16)))]) hx hb dJ19_bitCount_47 rfl hl (by decide) rfl (fun ls hl => ?_)
  refine lv_iload_n hx hb dJ19_bitCount_48 rfl (lv_at hl 0 rfl) ?_
  refine lv_bipush (v := 63) hx hb dJ19_bitCount_49 (by decide) ?_
  refine lv_iand hx hb dJ19_bitCount_51 ?_
  have he := o_in hit
  exact hend _ ((((((((a0 - ((iush a0 1) &&& 1431655765)) &&& 858993459) + ((iush (a0 - ((iush a0 1) &&& 1431655765)) 2) &&& 858993459)) + (iush (((a0 - ((iush a0 1) &&& 1431655765)) &&& 858993459) + ((iush (a0 - ((iush a0 1) &&& 1431655765)) 2) &&& 858993459)) 4)) &&& 252645135) + (iush (((((a0 - ((iush a0 1) &&& 1431655765)) &&& 858993459) + ((iush (a0 - ((iush a0 1) &&& 1431655765)) 2) &&& 858993459)) + (iush (((a0 - ((iush a0 1) &&& 1431655765)) &&& 858993459) + ((iush (a0 - ((iush a0 1) &&& 1431655765)) 2) &&& 858993459)) 4)) &&& 252645135) 8)) + (iush ((((((a0 - ((iush a0 1) &&& 1431655765)) &&& 858993459) + ((iush (a0 - ((iush a0 1) &&& 1431655765)) 2) &&& 858993459)) + (iush (((a0 - ((iush a0 1) &&& 1431655765)) &&& 858993459) + ((iush (a0 - ((iush a0 1) &&& 1431655765)) 2) &&& 858993459)) 4)) &&& 252645135) + (iush (((((a0 - ((iush a0 1) &&& 1431655765)) &&& 858993459) + ((iush (a0 - ((iush a0 1) &&& 1431655765)) 2) &&& 858993459)) + (iush (((a0 - ((iush a0 1) &&& 1431655765)) &&& 858993459) + ((iush (a0 - ((iush a0 1) &&& 1431655765)) 2) &&& 858993459)) 4)) &&& 252645135) 8)) 16)) &&& 63) _ _ rfl he dJ19_bitCount_52
noncomputable def C3_far (h : CH) (o : Nat) (a0 : Int32) (a1 : Int32) : Option (Int32) :=
  (gR h o 3 1).bind fun v1 =>
  (aI h v1 0 a0).bind fun v2 =>
  (gR h o 3 0).bind fun v3 =>
  (aI h v3 0 a1).bind fun v4 =>
  (CJ19_bitCount (v2 ^^^ v4)).bind fun q5 =>
  some q5
theorem nm_X3_far : kNm yX3_far RX3 2 := by unfold kNm; decide +kernel
set_option maxHeartbeats 4000000 in
set_option maxRecDepth 100000 in
theorem wC3_far (l : Launch) (γ : KG) (hO : kOK γ) (h : CH) (o : Nat) (a0 : Int32) (a1 : Int32) (z : Int32) (hz : C3_far h o a0 a1 = some z) : Met l yX3_far (ws_ yX3_far cX3_far 3 (some .int)) (kRm 1 20) (cPc γ h [.ref o, .int a0, .int a1]) (cRq (.int z)) 0 0 vp_nf := by
  refine c_startR (cc := cX3_far) (own := RX3) hO rfl rfl rfl (fun p e R s m args below meth c Q ls X hR hH hDU hl hend => ?_)
  have hx := X.1.1
  have hb := X.1.2.1
  have hit := hz
  clear hz
  unfold C3_far at hit
  have hl : lv_has ls 3 [(0, .ref o), (1, .int a0), (2, .int a1)] := hl
  refine lv_aload_n hx hb dX3_far_0 rfl (lv_at hl 0 rfl) ?_
  obtain ⟨v1, ev1, hit⟩ := o_bind hit
  refine c_getR X hH kc_Service 1 q248 (Or.inl rfl) rfl rfl ev1 dX3_far_1 ?_
  refine lv_iload_n hx hb dX3_far_4 rfl (lv_at hl 1 rfl) ?_
  obtain ⟨v2, ev2, hit⟩ := o_bind hit
  refine c_iald X hH ev2 dX3_far_5 ?_
  refine lv_aload_n hx hb dX3_far_6 rfl (lv_at hl 0 rfl) ?_
  obtain ⟨v3, ev3, hit⟩ := o_bind hit
  refine c_getR X hH kc_Service 0 q245 (Or.inl rfl) rfl rfl ev3 dX3_far_7 ?_
  refine lv_iload_n hx hb dX3_far_10 rfl (lv_at hl 2 rfl) ?_
  obtain ⟨v4, ev4, hit⟩ := o_bind hit
  refine c_iald X hH ev4 dX3_far_11 ?_
  refine lv_ixor hx hb dX3_far_12 ?_
  obtain ⟨q5, eq5, hit⟩ := o_bind hit
  refine c_cP X.1 (wCJ19_bitCount l _ _ eq5) nm_J19_bitCount q508 q509 q165 q510 ⟨Nat.le_trans (Nat.le_of_ble_eq_true rfl) hR.1, Nat.le_trans (Nat.le_of_ble_eq_true rfl) hR.2⟩ ⟨Nat.zero_le _, Nat.zero_le _⟩ rfl rfl hl.1 (lv_room (Nat.le_of_ble_eq_true rfl)) dX3_far_13 ?_
  have he := o_in hit
  exact hend (.int q5) _ _ _ _ (kOut_i rfl) (congrArg Value.int he) dX3_far_16
noncomputable def C3_fits (h : CH) (o : Nat) (a0 : Int32) (a1 : Int32) : Option (Int32) :=
  if a0 = a1 then
    (some 0)
  else
    ((vc h o 3 (C3_isBurnt h o a0)).bind fun q2 =>
    if q2 = 0 then
      ((vc h o 3 (C3_isBurnt h o a1)).bind fun q4 =>
      if q4 = 0 then
        ((vc h o 3 (C3_far h o a0 a1)).bind fun q6 =>
        (gR h o 3 5).bind fun v7 =>
        (gR h v7 1 1).bind fun v8 =>
        (gI h v8 2 3).bind fun v9 =>
        if q6 ≤ v9 then
          (some 1)
        else
          (some 0))
      else
        (some 0))
    else
      (some 0))
theorem nm_X3_fits : kNm yX3_fits RX3 2 := by unfold kNm; decide +kernel
set_option maxHeartbeats 4000000 in
set_option maxRecDepth 100000 in
theorem wC3_fits (l : Launch) (γ : KG) (hO : kOK γ) (h : CH) (o : Nat) (a0 : Int32) (a1 : Int32) (z : Int32) (hz : C3_fits h o a0 a1 = some z) : Met l yX3_fits (ws_ yX3_fits cX3_fits 3 (some .boolean)) (kRm 2 42) (cPc γ h [.ref o, .int a0, .int a1]) (cRq (.int z)) 0 0 vp_nf := by
  refine c_startR (cc := cX3_fits) (own := RX3) hO rfl rfl rfl (fun p e R s m args below meth c Q ls X hR hH hDU hl hend => ?_)
  have hx := X.1.1
  have hb := X.1.2.1
  have hit := hz
  clear hz
  unfold C3_fits at hit
  have hl : lv_has ls 3 [(0, .ref o), (1, .int a0), (2, .int a1)] := hl
  refine lv_iload_n hx hb dX3_fits_0 rfl (lv_at hl 1 rfl) ?_
  refine lv_iload_n hx hb dX3_fits_1 rfl (lv_at hl 2 rfl) ?_
  refine b_icmp_eq (tgt := 44) hx hb dX3_fits_2 (by decide) hit (fun c1 hit => ?_) (fun c1 hit => ?_)
  · refine lv_iconst (v := 0) hx hb dX3_fits_44 (by decide) ?_
    have he := o_in hit
    exact hend (.int 0) _ _ _ _ (kOut_i rfl) (congrArg Value.int he) dX3_fits_45
  · refine lv_aload_n hx hb dX3_fits_5 rfl (lv_at hl 0 rfl) ?_
    refine lv_iload_n hx hb dX3_fits_6 rfl (lv_at hl 1 rfl) ?_
    obtain ⟨q2, eq2, hit⟩ := o_bind hit
    obtain ⟨iq2, eq2⟩ := vc_inv eq2
    refine c_cR X hH hDU kc_Service (wC3_isBurnt l γ X.2.1 _ _ _ _ eq2) iq2 nm_X3_isBurnt q605 q606 q140 q608 q607 ⟨Nat.le_trans (Nat.le_of_ble_eq_true rfl) hR.1, Nat.le_trans (Nat.le_of_ble_eq_true rfl) hR.2⟩ ⟨Nat.zero_le _, Nat.zero_le _⟩ rfl rfl hl.1 (lv_room (Nat.le_of_ble_eq_true rfl)) dX3_fits_7 ?_
    refine b_if_ne (tgt := 44) hx hb dX3_fits_10 (by decide) hit (fun c3 hit => ?_) (fun c3 hit => ?_)
    · refine lv_iconst (v := 0) hx hb dX3_fits_44 (by decide) ?_
      have he := o_in hit
      exact hend (.int 0) _ _ _ _ (kOut_i rfl) (congrArg Value.int he) dX3_fits_45
    · refine lv_aload_n hx hb dX3_fits_13 rfl (lv_at hl 0 rfl) ?_
      refine lv_iload_n hx hb dX3_fits_14 rfl (lv_at hl 2 rfl) ?_
      obtain ⟨q4, eq4, hit⟩ := o_bind hit
      obtain ⟨iq4, eq4⟩ := vc_inv eq4
      refine c_cR X hH hDU kc_Service (wC3_isBurnt l γ X.2.1 _ _ _ _ eq4) iq4 nm_X3_isBurnt q605 q606 q140 q608 q607 ⟨Nat.le_trans (Nat.le_of_ble_eq_true rfl) hR.1, Nat.le_trans (Nat.le_of_ble_eq_true rfl) hR.2⟩ ⟨Nat.zero_le _, Nat.zero_le _⟩ rfl rfl hl.1 (lv_room (Nat.le_of_ble_eq_true rfl)) dX3_fits_15 ?_
      refine b_if_ne (tgt := 44) hx hb dX3_fits_18 (by decide) hit (fun c5 hit => ?_) (fun c5 hit => ?_)
      · refine lv_iconst (v := 0) hx hb dX3_fits_44 (by decide) ?_
        have he := o_in hit
        exact hend (.int 0) _ _ _ _ (kOut_i rfl) (congrArg Value.int he) dX3_fits_45
      · refine lv_aload_n hx hb dX3_fits_21 rfl (lv_at hl 0 rfl) ?_
        refine lv_iload_n hx hb dX3_fits_22 rfl (lv_at hl 1 rfl) ?_
        refine lv_iload_n hx hb dX3_fits_23 rfl (lv_at hl 2 rfl) ?_
        obtain ⟨q6, eq6, hit⟩ := o_bind hit
        obtain ⟨iq6, eq6⟩ := vc_inv eq6
        refine c_cR X hH hDU kc_Service (wC3_far l γ X.2.1 _ _ _ _ _ eq6) iq6 nm_X3_far q609 q610 q140 q612 q611 ⟨Nat.le_trans (Nat.le_of_ble_eq_true rfl) hR.1, Nat.le_trans (Nat.le_of_ble_eq_true rfl) hR.2⟩ ⟨Nat.zero_le _, Nat.zero_le _⟩ rfl rfl hl.1 (lv_room (Nat.le_of_ble_eq_true rfl)) dX3_fits_24 ?_
        refine lv_aload_n hx hb dX3_fits_27 rfl (lv_at hl 0 rfl) ?_
        obtain ⟨v7, ev7, hit⟩ := o_bind hit
        refine c_getR X hH kc_Service 5 q258 (Or.inl rfl) rfl rfl ev7 dX3_fits_28 ?_
        obtain ⟨v8, ev8, hit⟩ := o_bind hit
        refine c_getNR X hH kc_TwinInk 1 q276 (Or.inl rfl) rfl rfl ev8 dX3_fits_31 ?_
        obtain ⟨v9, ev9, hit⟩ := o_bind hit
        refine c_getNI X hH kc_Office 3 q219 (Or.inl rfl) rfl rfl ev9 dX3_fits_34 ?_
        refine b_icmp_gt (tgt := 44) hx hb dX3_fits_37 (by decide) hit (fun c10 hit => ?_) (fun c10 hit => ?_)
        · refine lv_iconst (v := 0) hx hb dX3_fits_44 (by decide) ?_
          have he := o_in hit
          exact hend (.int 0) _ _ _ _ (kOut_i rfl) (congrArg Value.int he) dX3_fits_45
        · refine lv_iconst (v := 1) hx hb dX3_fits_40 (by decide) ?_
          refine lv_goto (tgt := 45) hx hb dX3_fits_41 (by decide) ?_
          have he := o_in hit
          exact hend (.int 1) _ _ _ _ (kOut_i rfl) (congrArg Value.int he) dX3_fits_45
noncomputable def CJ3_init (K : Nat → Nat) (h : CH) (r : CR) (o : Nat) : Option (CS) :=
  (pQ h o 5 0 (some o)).bind fun s1 =>
  (pQ s1 o 5 1 (kopt (K 5))).bind fun s2 =>
  (pQ s2 o 5 2 (kopt (K 6))).bind fun s3 =>
  none
theorem nm_J3_init : kNm yJ3_init RJ3 0 := by unfold kNm; decide +kernel
set_option maxHeartbeats 4000000 in
set_option maxRecDepth 100000 in
theorem wCJ3_init (l : Launch) (γ : KG) (hO : kOK γ) (h : CH) (r : CR) (o : Nat) (z : CS) (hz : CJ3_init γ.2.2.2.2.2 h r o = some z) : aMet l yJ3_init (ws_ yJ3_init cJ3_init 1 none) 1 30 γ (h, r) [.ref o] none z := by
  refine a_start (cc := cJ3_init) (own := RJ3) hO rfl rfl rfl (fun p e R s m args below meth c Q ls X hR hnm h0H hA hl hend => ?_)
  have hin2 : meth.name = "<init>" := hnm
  have hx := X.1.1
  have hb := X.1.2.1
  have hit := hz
  clear hz
  unfold CJ3_init at hit
  have hl : lv_has ls 1 [(0, .ref o)] := hl
  refine lv_aload_n hx hb dJ3_init_0 rfl (lv_at hl 0 rfl) ?_
  refine b_objInit X.1 hl.1 q719 ⟨Nat.le_trans (Nat.le_of_ble_eq_true rfl) hR.1, Nat.le_trans (Nat.le_of_ble_eq_true rfl) hR.2⟩ (Nat.le_of_ble_eq_true rfl) dJ3_init_1 ?_
  refine lv_aload_n hx hb dJ3_init_4 rfl (lv_at hl 0 rfl) ?_
  refine lv_aload_n hx hb dJ3_init_5 rfl (lv_at hl 0 rfl) ?_
  obtain ⟨s1, es1, hit⟩ := o_bind hit
  refine c_putQ X hA.1 kc_Wrong 0 q747 (Or.inl rfl) rfl rfl (v := (some o)) (tyv := (.object "java/lang/Throwable")) rfl (Or.inl ⟨_, rfl⟩) es1 dJ3_init_6 (fun H locs hI => ?_)
  replace hA := hA.up hI
  clear hI
  refine lv_aload_n hx hb dJ3_init_9 rfl (lv_at hl 0 rfl) ?_
  refine c_gets X (kA_F X.2.1 X.2.2 h0H) hA.1.2.1 X.2.1.1.2.2.2.2.1 q720 dJ3_init_10 ?_
  obtain ⟨s2, es2, hit⟩ := o_bind hit
  refine c_putQ X hA.1 kc_Wrong 1 q748 (Or.inl rfl) rfl rfl (v := (kopt (γ.2.2.2.2.2 5))) (tyv := (.array (.object "java/lang/StackTraceElement"))) rfl (Or.inr ⟨_, rfl⟩) es2 dJ3_init_13 (fun H locs hI => ?_)
  replace hA := hA.up hI
  clear hI
  refine lv_aload_n hx hb dJ3_init_16 rfl (lv_at hl 0 rfl) ?_
  refine c_gets X (kA_F X.2.1 X.2.2 h0H) hA.1.2.1 X.2.1.1.2.2.2.2.2.1 q722 dJ3_init_17 ?_
  obtain ⟨s3, es3, hit⟩ := o_bind hit
  refine c_putQ X hA.1 kc_Wrong 2 q749 (Or.inl rfl) rfl rfl (v := (kopt (γ.2.2.2.2.2 6))) (tyv := (.object "java/util/List")) rfl (Or.inl ⟨_, rfl⟩) es3 dJ3_init_20 (fun H locs hI => ?_)
  replace hA := hA.up hI
  clear hI
  refine lv_aload_n hx hb dJ3_init_23 rfl (lv_at hl 0 rfl) ?_
  cases hit
noncomputable def CJ4_init (K : Nat → Nat) (h : CH) (r : CR) (o : Nat) : Option (CS) :=
  (achv r (CJ3_init K h r o)).bind fun q1 =>
  some q1
theorem nm_J4_init : kNm yJ4_init RJ4 0 := by unfold kNm; decide +kernel
set_option maxHeartbeats 4000000 in
set_option maxRecDepth 100000 in
theorem wCJ4_init (l : Launch) (γ : KG) (hO : kOK γ) (h : CH) (r : CR) (o : Nat) (z : CS) (hz : CJ4_init γ.2.2.2.2.2 h r o = some z) : aMet l yJ4_init (ws_ yJ4_init cJ4_init 1 none) 2 50 γ (h, r) [.ref o] none z := by
  refine a_start (cc := cJ4_init) (own := RJ4) hO rfl rfl rfl (fun p e R s m args below meth c Q ls X hR hnm h0H hA hl hend => ?_)
  have hin2 : meth.name = "<init>" := hnm
  have hx := X.1.1
  have hb := X.1.2.1
  have hit := hz
  clear hz
  unfold CJ4_init at hit
  have hl : lv_has ls 1 [(0, .ref o)] := hl
  refine lv_aload_n hx hb dJ4_init_0 rfl (lv_at hl 0 rfl) ?_
  obtain ⟨q1, eq1, hit⟩ := o_bind hit
  obtain ⟨eq1, lq1⟩ := achv_inv eq1
  refine a_cI X h0H hA nm_J3_init q744 q717 q142 q718 rfl (wCJ3_init l γ X.2.1 _ _ _  _ eq1) lq1 ⟨Nat.le_trans (Nat.le_of_ble_eq_true rfl) hR.1, Nat.le_trans (Nat.le_of_ble_eq_true rfl) hR.2⟩ rfl rfl hl.1 (lv_room (Nat.le_of_ble_eq_true rfl)) dJ4_init_1 (fun H locs cells slots hA => ?_)
  have he := o_in hit
  exact hend none q1 _ _ _ _ _ _ _ _ kOut_v (by subst he; rfl) hA dJ4_init_4
noncomputable def CJ5_init (K : Nat → Nat) (h : CH) (r : CR) (o : Nat) : Option (CS) :=
  (achv r (CJ4_init K h r o)).bind fun q1 =>
  some q1
theorem nm_J5_init : kNm yJ5_init RJ5 0 := by unfold kNm; decide +kernel
set_option maxHeartbeats 4000000 in
set_option maxRecDepth 100000 in
theorem wCJ5_init (l : Launch) (γ : KG) (hO : kOK γ) (h : CH) (r : CR) (o : Nat) (z : CS) (hz : CJ5_init γ.2.2.2.2.2 h r o = some z) : aMet l yJ5_init (ws_ yJ5_init cJ5_init 1 none) 3 70 γ (h, r) [.ref o] none z := by
  refine a_start (cc := cJ5_init) (own := RJ5) hO rfl rfl rfl (fun p e R s m args below meth c Q ls X hR hnm h0H hA hl hend => ?_)
  have hin2 : meth.name = "<init>" := hnm
  have hx := X.1.1
  have hb := X.1.2.1
  have hit := hz
  clear hz
  unfold CJ5_init at hit
  have hl : lv_has ls 1 [(0, .ref o)] := hl
  refine lv_aload_n hx hb dJ5_init_0 rfl (lv_at hl 0 rfl) ?_
  obtain ⟨q1, eq1, hit⟩ := o_bind hit
  obtain ⟨eq1, lq1⟩ := achv_inv eq1
  refine a_cI X h0H hA nm_J4_init q741 q742 q143 q743 rfl (wCJ4_init l γ X.2.1 _ _ _  _ eq1) lq1 ⟨Nat.le_trans (Nat.le_of_ble_eq_true rfl) hR.1, Nat.le_trans (Nat.le_of_ble_eq_true rfl) hR.2⟩ rfl rfl hl.1 (lv_room (Nat.le_of_ble_eq_true rfl)) dJ5_init_1 (fun H locs cells slots hA => ?_)
  have he := o_in hit
  exact hend none q1 _ _ _ _ _ _ _ _ kOut_v (by subst he; rfl) hA dJ5_init_4
noncomputable def CJ20_init (K : Nat → Nat) (h : CH) (r : CR) (o : Nat) : Option (CS) :=
  (achv r (CJ5_init K h r o)).bind fun q1 =>
  some q1
theorem nm_J20_init : kNm yJ20_init RJ20 0 := by unfold kNm; decide +kernel
set_option maxHeartbeats 4000000 in
set_option maxRecDepth 100000 in
theorem wCJ20_init (l : Launch) (γ : KG) (hO : kOK γ) (h : CH) (r : CR) (o : Nat) (z : CS) (hz : CJ20_init γ.2.2.2.2.2 h r o = some z) : aMet l yJ20_init (ws_ yJ20_init cJ20_init 1 none) 4 90 γ (h, r) [.ref o] none z := by
  refine a_start (cc := cJ20_init) (own := RJ20) hO rfl rfl rfl (fun p e R s m args below meth c Q ls X hR hnm h0H hA hl hend => ?_)
  have hin2 : meth.name = "<init>" := hnm
  have hx := X.1.1
  have hb := X.1.2.1
  have hit := hz
  clear hz
  unfold CJ20_init at hit
  have hl : lv_has ls 1 [(0, .ref o)] := hl
  refine lv_aload_n hx hb dJ20_init_0 rfl (lv_at hl 0 rfl) ?_
  obtain ⟨q1, eq1, hit⟩ := o_bind hit
  obtain ⟨eq1, lq1⟩ := achv_inv eq1
  refine a_cI X h0H hA nm_J5_init q1269 q739 q144 q740 rfl (wCJ5_init l γ X.2.1 _ _ _  _ eq1) lq1 ⟨Nat.le_trans (Nat.le_of_ble_eq_true rfl) hR.1, Nat.le_trans (Nat.le_of_ble_eq_true rfl) hR.2⟩ rfl rfl hl.1 (lv_room (Nat.le_of_ble_eq_true rfl)) dJ20_init_1 (fun H locs cells slots hA => ?_)
  have he := o_in hit
  exact hend none q1 _ _ _ _ _ _ _ _ kOut_v (by subst he; rfl) hA dJ20_init_4
noncomputable def CJ11_checkIndex (a0 : Int32) (a1 : Int32) : Option (Int32) :=
  if a0 < 0 then
    (none)
  else
    (if a0 < a1 then
      (some a0)
    else
      (none))
theorem nm_J11_checkIndex : kNm yJ11_checkIndex RJ11 3 := by unfold kNm; decide +kernel
set_option maxHeartbeats 4000000 in
set_option maxRecDepth 100000 in
theorem wCJ11_checkIndex (l : Launch) (a0 : Int32) (a1 : Int32) (a2 : Option Nat) (z : Int32) (hz : CJ11_checkIndex a0 a1 = some z) : Met l yJ11_checkIndex (ws_ yJ11_checkIndex cJ11_checkIndex 3 (some .int)) (kRm 0 0) (bPc [.int a0, .int a1, va_rf a2]) (vp_Si (fun r => r = z)) 0 0 vp_nf := by
  cases a2 with
  | none =>
    refine c_startP (cc := cJ11_checkIndex) (own := RJ11) (ty := .int) rfl rfl rfl (fun p e R s m args below meth c Q ls X hR hl hend => ?_)
    have hx := X.1
    have hb := X.2.1
    have hit := hz
    clear hz
    unfold CJ11_checkIndex at hit
    have hl : lv_has ls 3 [(0, .int a0), (1, .int a1), (2, va_rf none)] := hl
    refine lv_iload_n hx hb dJ11_checkIndex_0 rfl (lv_at hl 0 rfl) ?_
    refine b_if_lt (tgt := 9) hx hb dJ11_checkIndex_1 (by decide) hit (fun c1 hit => ?_) (fun c1 hit => ?_)
    · cases hit
    · refine lv_iload_n hx hb dJ11_checkIndex_4 rfl (lv_at hl 0 rfl) ?_
      refine lv_iload_n hx hb dJ11_checkIndex_5 rfl (lv_at hl 1 rfl) ?_
      refine b_icmp_lt (tgt := 16) hx hb dJ11_checkIndex_6 (by decide) hit (fun c2 hit => ?_) (fun c2 hit => ?_)
      · refine lv_iload_n hx hb dJ11_checkIndex_16 rfl (lv_at hl 0 rfl) ?_
        have he := o_in hit
        exact hend _ a0 _ _ rfl he dJ11_checkIndex_17
      · cases hit
  | some b_ =>
    refine c_startP (cc := cJ11_checkIndex) (own := RJ11) (ty := .int) rfl rfl rfl (fun p e R s m args below meth c Q ls X hR hl hend => ?_)
    have hx := X.1
    have hb := X.2.1
    have hit := hz
    clear hz
    unfold CJ11_checkIndex at hit
    have hl : lv_has ls 3 [(0, .int a0), (1, .int a1), (2, va_rf (some b_))] := hl
    refine lv_iload_n hx hb dJ11_checkIndex_0 rfl (lv_at hl 0 rfl) ?_
    refine b_if_lt (tgt := 9) hx hb dJ11_checkIndex_1 (by decide) hit (fun c1 hit => ?_) (fun c1 hit => ?_)
    · cases hit
    · refine lv_iload_n hx hb dJ11_checkIndex_4 rfl (lv_at hl 0 rfl) ?_
      refine lv_iload_n hx hb dJ11_checkIndex_5 rfl (lv_at hl 1 rfl) ?_
      refine b_icmp_lt (tgt := 16) hx hb dJ11_checkIndex_6 (by decide) hit (fun c2 hit => ?_) (fun c2 hit => ?_)
      · refine lv_iload_n hx hb dJ11_checkIndex_16 rfl (lv_at hl 0 rfl) ?_
        have he := o_in hit
        exact hend _ a0 _ _ rfl he dJ11_checkIndex_17
      · cases hit
noncomputable def CJ17_checkIndex (a0 : Int32) (a1 : Int32) : Option (Int32) :=
  (CJ11_checkIndex a0 a1).bind fun q1 =>
  some q1
theorem nm_J17_checkIndex : kNm yJ17_checkIndex RJ17 2 := by unfold kNm; decide +kernel
set_option maxHeartbeats 4000000 in
set_option maxRecDepth 100000 in
theorem wCJ17_checkIndex (l : Launch) (a0 : Int32) (a1 : Int32) (z : Int32) (hz : CJ17_checkIndex a0 a1 = some z) : Met l yJ17_checkIndex (ws_ yJ17_checkIndex cJ17_checkIndex 2 (some .int)) (kRm 1 22) (bPc [.int a0, .int a1]) (vp_Si (fun r => r = z)) 0 0 vp_nf := by
  refine c_startP (cc := cJ17_checkIndex) (own := RJ17) (ty := .int) rfl rfl rfl (fun p e R s m args below meth c Q ls X hR hl hend => ?_)
  have hx := X.1
  have hb := X.2.1
  have hit := hz
  clear hz
  unfold CJ17_checkIndex at hit
  have hl : lv_has ls 2 [(0, .int a0), (1, .int a1)] := hl
  refine lv_iload_n hx hb dJ17_checkIndex_0 rfl (lv_at hl 0 rfl) ?_
  refine lv_iload_n hx hb dJ17_checkIndex_1 rfl (lv_at hl 1 rfl) ?_
  refine b_null hx hb dJ17_checkIndex_2 ?_
  obtain ⟨q1, eq1, hit⟩ := o_bind hit
  refine c_cP X (wCJ11_checkIndex l _ _ _ _ eq1) nm_J11_checkIndex q443 q444 q151 q445 ⟨Nat.le_trans (Nat.le_of_ble_eq_true rfl) hR.1, Nat.le_trans (Nat.le_of_ble_eq_true rfl) hR.2⟩ ⟨Nat.zero_le _, Nat.zero_le _⟩ rfl rfl hl.1 (lv_room (Nat.le_of_ble_eq_true rfl)) dJ17_checkIndex_3 ?_
  have he := o_in hit
  exact hend _ q1 _ _ rfl he dJ17_checkIndex_6
noncomputable def CJ2_elementData (h : CH) (o : Nat) (a0 : Int32) : Option (Nat) :=
  (gR h o 10 1).bind fun v1 =>
  (aQ h v1 3 a0).bind fun v2 =>
  (v2).bind fun v3 =>
  some v3
theorem nm_J2_elementData : kNm yJ2_elementData RJ2 1 := by unfold kNm; decide +kernel
set_option maxHeartbeats 4000000 in
set_option maxRecDepth 100000 in
theorem wCJ2_elementData (l : Launch) (γ : KG) (hO : kOK γ) (h : CH) (o : Nat) (a0 : Int32) (z : Nat) (hz : CJ2_elementData h o a0 = some z) : Met l yJ2_elementData (ws_ yJ2_elementData cJ2_elementData 2 (some (.object "java/lang/Object"))) (kRm 0 0) (cPc γ h [.ref o, .int a0]) (cRq (.ref z)) 0 0 vp_nf := by
  refine c_startR (cc := cJ2_elementData) (own := RJ2) hO rfl rfl rfl (fun p e R s m args below meth c Q ls X hR hH hDU hl hend => ?_)
  have hx := X.1.1
  have hb := X.1.2.1
  have hit := hz
  clear hz
  unfold CJ2_elementData at hit
  have hl : lv_has ls 2 [(0, .ref o), (1, .int a0)] := hl
  refine lv_aload_n hx hb dJ2_elementData_0 rfl (lv_at hl 0 rfl) ?_
  obtain ⟨v1, ev1, hit⟩ := o_bind hit
  refine c_getR X hH kc_ArrayList 1 q196 (Or.inl rfl) rfl rfl ev1 dJ2_elementData_1 ?_
  refine lv_iload_n hx hb dJ2_elementData_4 rfl (lv_at hl 1 rfl) ?_
  obtain ⟨v2, ev2, hit⟩ := o_bind hit
  refine c_aald X hH 3 (fun _ => rfl) rfl ev2 dJ2_elementData_5 ?_
  obtain ⟨v3, ev3, hit⟩ := o_bind hit
  refine c_deref ev3 ?_
  have he := o_in hit
  exact hend (.ref v3) _ _ _ _ (kOut_o) (congrArg Value.ref he) dJ2_elementData_6
noncomputable def CJ2_get (h : CH) (o : Nat) (a0 : Int32) : Option (Nat) :=
  (gI h o 10 2).bind fun v1 =>
  (CJ17_checkIndex a0 v1).bind fun q2 =>
  (vc h o 10 (CJ2_elementData h o a0)).bind fun q3 =>
  some q3
theorem nm_J2_get : kNm yJ2_get RJ2 1 := by unfold kNm; decide +kernel
set_option maxHeartbeats 4000000 in
set_option maxRecDepth 100000 in
theorem wCJ2_get (l : Launch) (γ : KG) (hO : kOK γ) (h : CH) (o : Nat) (a0 : Int32) (z : Nat) (hz : CJ2_get h o a0 = some z) : Met l yJ2_get (ws_ yJ2_get cJ2_get 2 (some (.object "java/lang/Object"))) (kRm 2 43) (cPc γ h [.ref o, .int a0]) (cRq (.ref z)) 0 0 vp_nf := by
  refine c_startR (cc := cJ2_get) (own := RJ2) hO rfl rfl rfl (fun p e R s m args below meth c Q ls X hR hH hDU hl hend => ?_)
  have hx := X.1.1
  have hb := X.1.2.1
  have hit := hz
  clear hz
  unfold CJ2_get at hit
  have hl : lv_has ls 2 [(0, .ref o), (1, .int a0)] := hl
  refine lv_iload_n hx hb dJ2_get_0 rfl (lv_at hl 1 rfl) ?_
  refine lv_aload_n hx hb dJ2_get_1 rfl (lv_at hl 0 rfl) ?_
  obtain ⟨v1, ev1, hit⟩ := o_bind hit
  refine c_getI X hH kc_ArrayList 2 q197 (Or.inl rfl) rfl rfl ev1 dJ2_get_2 ?_
  obtain ⟨q2, eq2, hit⟩ := o_bind hit
  refine c_cP X.1 (wCJ17_checkIndex l _ _ _ eq2) nm_J17_checkIndex q440 q441 q162 q442 ⟨Nat.le_trans (Nat.le_of_ble_eq_true rfl) hR.1, Nat.le_trans (Nat.le_of_ble_eq_true rfl) hR.2⟩ ⟨Nat.zero_le _, Nat.zero_le _⟩ rfl rfl hl.1 (lv_room (Nat.le_of_ble_eq_true rfl)) dJ2_get_5 ?_
  refine lv_pop hx hb dJ2_get_8 rfl ?_
  refine lv_aload_n hx hb dJ2_get_9 rfl (lv_at hl 0 rfl) ?_
  refine lv_iload_n hx hb dJ2_get_10 rfl (lv_at hl 1 rfl) ?_
  obtain ⟨q3, eq3, hit⟩ := o_bind hit
  obtain ⟨iq3, eq3⟩ := vc_inv eq3
  refine c_cR X hH hDU kc_ArrayList (wCJ2_elementData l γ X.2.1 _ _ _ _ eq3) iq3 nm_J2_elementData q486 q487 q139 q489 q488 ⟨Nat.le_trans (Nat.le_of_ble_eq_true rfl) hR.1, Nat.le_trans (Nat.le_of_ble_eq_true rfl) hR.2⟩ ⟨Nat.zero_le _, Nat.zero_le _⟩ rfl rfl hl.1 (lv_room (Nat.le_of_ble_eq_true rfl)) dJ2_get_11 ?_
  have he := o_in hit
  exact hend (.ref q3) _ _ _ _ (kOut_o) (congrArg Value.ref he) dJ2_get_14
noncomputable def CJ19_intValue (h : CH) (o : Nat) : Option (Int32) :=
  (gI h o 12 0).bind fun v1 =>
  some v1
theorem nm_J19_intValue : kNm yJ19_intValue RJ19 0 := by unfold kNm; decide +kernel
set_option maxHeartbeats 4000000 in
set_option maxRecDepth 100000 in
theorem wCJ19_intValue (l : Launch) (γ : KG) (hO : kOK γ) (h : CH) (o : Nat) (z : Int32) (hz : CJ19_intValue h o = some z) : Met l yJ19_intValue (ws_ yJ19_intValue cJ19_intValue 1 (some .int)) (kRm 0 0) (cPc γ h [.ref o]) (cRq (.int z)) 0 0 vp_nf := by
  refine c_startR (cc := cJ19_intValue) (own := RJ19) hO rfl rfl rfl (fun p e R s m args below meth c Q ls X hR hH hDU hl hend => ?_)
  have hx := X.1.1
  have hb := X.1.2.1
  have hit := hz
  clear hz
  unfold CJ19_intValue at hit
  have hl : lv_has ls 1 [(0, .ref o)] := hl
  refine lv_aload_n hx hb dJ19_intValue_0 rfl (lv_at hl 0 rfl) ?_
  obtain ⟨v1, ev1, hit⟩ := o_bind hit
  refine c_getI X hH kc_Integer 0 q1201 (Or.inl rfl) rfl rfl ev1 dJ19_intValue_1 ?_
  have he := o_in hit
  exact hend (.int v1) _ _ _ _ (kOut_i rfl) (congrArg Value.int he) dJ19_intValue_4
noncomputable def C2_town (h : CH) (o : Nat) (a0 : Int32) (a1 : Int32) : Option (Int32) :=
  (gR h o 2 1).bind fun v1 =>
  (vc h v1 10 (CJ2_get h v1 a0)).bind fun q2 =>
  (ckC h q2 10).bind fun u4 =>
  (gR h o 2 1).bind fun v5 =>
  (vc h v5 10 (CJ2_get h v5 a0)).bind fun q6 =>
  (ckC h q6 10).bind fun u8 =>
  (vc h q6 10 (CJ2_size h q6)).bind fun q9 =>
  (irm a1 q9).bind fun v10 =>
  (vc h q2 10 (CJ2_get h q2 v10)).bind fun q11 =>
  (ckC h q11 12).bind fun u13 =>
  (vc h q11 12 (CJ19_intValue h q11)).bind fun q14 =>
  some q14
theorem nm_X2_town : kNm yX2_town RX2 2 := by unfold kNm; decide +kernel
set_option maxHeartbeats 4000000 in
set_option maxRecDepth 100000 in
theorem wC2_town (l : Launch) (γ : KG) (hO : kOK γ) (h : CH) (o : Nat) (a0 : Int32) (a1 : Int32) (z : Int32) (hz : C2_town h o a0 a1 = some z) : Met l yX2_town (ws_ yX2_town cX2_town 3 (some .int)) (kRm 3 64) (cPc γ h [.ref o, .int a0, .int a1]) (cRq (.int z)) 0 0 vp_nf := by
  refine c_startR (cc := cX2_town) (own := RX2) hO rfl rfl rfl (fun p e R s m args below meth c Q ls X hR hH hDU hl hend => ?_)
  have hx := X.1.1
  have hb := X.1.2.1
  have hit := hz
  clear hz
  unfold C2_town at hit
  have hl : lv_has ls 3 [(0, .ref o), (1, .int a0), (2, .int a1)] := hl
  refine lv_aload_n hx hb dX2_town_0 rfl (lv_at hl 0 rfl) ?_
  obtain ⟨v1, ev1, hit⟩ := o_bind hit
  refine c_getR X hH kc_Office 1 q213 (Or.inl rfl) rfl rfl ev1 dX2_town_1 ?_
  refine lv_iload_n hx hb dX2_town_4 rfl (lv_at hl 1 rfl) ?_
  obtain ⟨q2, eq2, hit⟩ := o_bind hit
  obtain ⟨iq2, eq2⟩ := vc_inv eq2
  refine c_cRF X hH hDU kc_ArrayList (wCJ2_get l γ X.2.1 _ _ _ _ eq2) iq2 nmi_List_get q478 q483 q139 q485 q481 q480 q479 q484 q482 q358 ⟨Nat.le_trans (Nat.le_of_ble_eq_true rfl) hR.1, Nat.le_trans (Nat.le_of_ble_eq_true rfl) hR.2⟩ ⟨Nat.zero_le _, Nat.zero_le _⟩ rfl rfl hl.1 (lv_room (Nat.le_of_ble_eq_true rfl)) dX2_town_5 ?_
  obtain ⟨u4, eu4, hit⟩ := o_bind hit
  refine c_castY X hH kc_ArrayList q490 q358 eu4 dX2_town_10 ?_
  refine lv_iload_n hx hb dX2_town_13 rfl (lv_at hl 2 rfl) ?_
  refine lv_aload_n hx hb dX2_town_14 rfl (lv_at hl 0 rfl) ?_
  obtain ⟨v5, ev5, hit⟩ := o_bind hit
  refine c_getR X hH kc_Office 1 q213 (Or.inl rfl) rfl rfl ev5 dX2_town_15 ?_
  refine lv_iload_n hx hb dX2_town_18 rfl (lv_at hl 1 rfl) ?_
  obtain ⟨q6, eq6, hit⟩ := o_bind hit
  obtain ⟨iq6, eq6⟩ := vc_inv eq6
  refine c_cRF X hH hDU kc_ArrayList (wCJ2_get l γ X.2.1 _ _ _ _ eq6) iq6 nmi_List_get q478 q483 q139 q485 q481 q480 q479 q484 q482 q358 ⟨Nat.le_trans (Nat.le_of_ble_eq_true rfl) hR.1, Nat.le_trans (Nat.le_of_ble_eq_true rfl) hR.2⟩ ⟨Nat.zero_le _, Nat.zero_le _⟩ rfl rfl hl.1 (lv_room (Nat.le_of_ble_eq_true rfl)) dX2_town_19 ?_
  obtain ⟨u8, eu8, hit⟩ := o_bind hit
  refine c_castY X hH kc_ArrayList q490 q358 eu8 dX2_town_24 ?_
  obtain ⟨q9, eq9, hit⟩ := o_bind hit
  obtain ⟨iq9, eq9⟩ := vc_inv eq9
  refine c_cRF X hH hDU kc_ArrayList (wCJ2_size l γ X.2.1 _ _  _ eq9) iq9 nmi_List_size q468 q428 q139 q430 q426 q425 q424 q429 q427 q358 ⟨Nat.le_trans (Nat.le_of_ble_eq_true rfl) hR.1, Nat.le_trans (Nat.le_of_ble_eq_true rfl) hR.2⟩ ⟨Nat.zero_le _, Nat.zero_le _⟩ rfl rfl hl.1 (lv_room (Nat.le_of_ble_eq_true rfl)) dX2_town_27 ?_
  obtain ⟨v10, ev10, hit⟩ := o_bind hit
  refine b_irem hx hb ev10 dX2_town_32 ?_
  obtain ⟨q11, eq11, hit⟩ := o_bind hit
  obtain ⟨iq11, eq11⟩ := vc_inv eq11
  refine c_cRF X hH hDU kc_ArrayList (wCJ2_get l γ X.2.1 _ _ _ _ eq11) iq11 nmi_List_get q478 q483 q139 q485 q481 q480 q479 q484 q482 q358 ⟨Nat.le_trans (Nat.le_of_ble_eq_true rfl) hR.1, Nat.le_trans (Nat.le_of_ble_eq_true rfl) hR.2⟩ ⟨Nat.zero_le _, Nat.zero_le _⟩ rfl rfl hl.1 (lv_room (Nat.le_of_ble_eq_true rfl)) dX2_town_33 ?_
  obtain ⟨u13, eu13, hit⟩ := o_bind hit
  refine c_castS X hH kc_Integer q491 eu13 dX2_town_38 ?_
  obtain ⟨q14, eq14, hit⟩ := o_bind hit
  obtain ⟨iq14, eq14⟩ := vc_inv eq14
  refine c_cR X hH hDU kc_Integer (wCJ19_intValue l γ X.2.1 _ _  _ eq14) iq14 nm_J19_intValue q492 q493 q165 q495 q494 ⟨Nat.le_trans (Nat.le_of_ble_eq_true rfl) hR.1, Nat.le_trans (Nat.le_of_ble_eq_true rfl) hR.2⟩ ⟨Nat.zero_le _, Nat.zero_le _⟩ rfl rfl hl.1 (lv_room (Nat.le_of_ble_eq_true rfl)) dX2_town_41 ?_
  have he := o_in hit
  exact hend (.int q14) _ _ _ _ (kOut_i rfl) (congrArg Value.int he) dX2_town_44
noncomputable def C3_town (h : CH) (o : Nat) (a0 : Int32) : Option (Int32) :=
  (gR h o 3 5).bind fun v1 =>
  (gR h v1 1 1).bind fun v2 =>
  (gI h o 3 4).bind fun v3 =>
  (vc h v2 2 (C2_town h v2 a0 v3)).bind fun q4 =>
  some q4
theorem nm_X3_town : kNm yX3_town RX3 1 := by unfold kNm; decide +kernel
set_option maxHeartbeats 4000000 in
set_option maxRecDepth 100000 in
theorem wC3_town (l : Launch) (γ : KG) (hO : kOK γ) (h : CH) (o : Nat) (a0 : Int32) (z : Int32) (hz : C3_town h o a0 = some z) : Met l yX3_town (ws_ yX3_town cX3_town 2 (some .int)) (kRm 4 86) (cPc γ h [.ref o, .int a0]) (cRq (.int z)) 0 0 vp_nf := by
  refine c_startR (cc := cX3_town) (own := RX3) hO rfl rfl rfl (fun p e R s m args below meth c Q ls X hR hH hDU hl hend => ?_)
  have hx := X.1.1
  have hb := X.1.2.1
  have hit := hz
  clear hz
  unfold C3_town at hit
  have hl : lv_has ls 2 [(0, .ref o), (1, .int a0)] := hl
  refine lv_aload_n hx hb dX3_town_0 rfl (lv_at hl 0 rfl) ?_
  obtain ⟨v1, ev1, hit⟩ := o_bind hit
  refine c_getR X hH kc_Service 5 q258 (Or.inl rfl) rfl rfl ev1 dX3_town_1 ?_
  obtain ⟨v2, ev2, hit⟩ := o_bind hit
  refine c_getNR X hH kc_TwinInk 1 q276 (Or.inl rfl) rfl rfl ev2 dX3_town_4 ?_
  refine lv_iload_n hx hb dX3_town_7 rfl (lv_at hl 1 rfl) ?_
  refine lv_aload_n hx hb dX3_town_8 rfl (lv_at hl 0 rfl) ?_
  obtain ⟨v3, ev3, hit⟩ := o_bind hit
  refine c_getI X hH kc_Service 4 q256 (Or.inl rfl) rfl rfl ev3 dX3_town_9 ?_
  obtain ⟨q4, eq4, hit⟩ := o_bind hit
  obtain ⟨iq4, eq4⟩ := vc_inv eq4
  refine c_cR X hH hDU kc_Office (wC2_town l γ X.2.1 _ _ _ _ _ eq4) iq4 nm_X2_town q473 q474 q136 q476 q475 ⟨Nat.le_trans (Nat.le_of_ble_eq_true rfl) hR.1, Nat.le_trans (Nat.le_of_ble_eq_true rfl) hR.2⟩ ⟨Nat.zero_le _, Nat.zero_le _⟩ rfl rfl hl.1 (lv_room (Nat.le_of_ble_eq_true rfl)) dX3_town_12 ?_
  have he := o_in hit
  exact hend (.int q4) _ _ _ _ (kOut_i rfl) (congrArg Value.int he) dX3_town_15
noncomputable def C3_where (h : CH) (o : Nat) (a0 : Int32) : Option (Int32) :=
  (gR h o 3 2).bind fun v1 =>
  (aI h v1 0 a0).bind fun v2 =>
  if v2 < 4 then
    ((gR h o 3 2).bind fun v4 =>
    (aI h v4 0 a0).bind fun v5 =>
    some v5)
  else
    ((gR h o 3 2).bind fun v6 =>
    (aI h v6 0 a0).bind fun v7 =>
    (vc h o 3 (C3_town h o (v7 - 4))).bind fun q8 =>
    some q8)
theorem nm_X3_where : kNm yX3_where RX3 1 := by unfold kNm; decide +kernel
set_option maxHeartbeats 4000000 in
set_option maxRecDepth 100000 in
theorem wC3_where (l : Launch) (γ : KG) (hO : kOK γ) (h : CH) (o : Nat) (a0 : Int32) (z : Int32) (hz : C3_where h o a0 = some z) : Met l yX3_where (ws_ yX3_where cX3_where 2 (some .int)) (kRm 5 107) (cPc γ h [.ref o, .int a0]) (cRq (.int z)) 0 0 vp_nf := by
  refine c_startR (cc := cX3_where) (own := RX3) hO rfl rfl rfl (fun p e R s m args below meth c Q ls X hR hH hDU hl hend => ?_)
  have hx := X.1.1
  have hb := X.1.2.1
  have hit := hz
  clear hz
  unfold C3_where at hit
  have hl : lv_has ls 2 [(0, .ref o), (1, .int a0)] := hl
  refine lv_aload_n hx hb dX3_where_0 rfl (lv_at hl 0 rfl) ?_
  obtain ⟨v1, ev1, hit⟩ := o_bind hit
  refine c_getR X hH kc_Service 2 q251 (Or.inl rfl) rfl rfl ev1 dX3_where_1 ?_
  refine lv_iload_n hx hb dX3_where_4 rfl (lv_at hl 1 rfl) ?_
  obtain ⟨v2, ev2, hit⟩ := o_bind hit
  refine c_iald X hH ev2 dX3_where_5 ?_
  refine lv_iconst (v := 4) hx hb dX3_where_6 (by decide) ?_
  refine b_icmp_lt (tgt := 25) hx hb dX3_where_7 (by decide) hit (fun c3 hit => ?_) (fun c3 hit => ?_)
  · refine lv_aload_n hx hb dX3_where_25 rfl (lv_at hl 0 rfl) ?_
    obtain ⟨v4, ev4, hit⟩ := o_bind hit
    refine c_getR X hH kc_Service 2 q251 (Or.inl rfl) rfl rfl ev4 dX3_where_26 ?_
    refine lv_iload_n hx hb dX3_where_29 rfl (lv_at hl 1 rfl) ?_
    obtain ⟨v5, ev5, hit⟩ := o_bind hit
    refine c_iald X hH ev5 dX3_where_30 ?_
    have he := o_in hit
    exact hend (.int v5) _ _ _ _ (kOut_i rfl) (congrArg Value.int he) dX3_where_31
  · refine lv_aload_n hx hb dX3_where_10 rfl (lv_at hl 0 rfl) ?_
    refine lv_aload_n hx hb dX3_where_11 rfl (lv_at hl 0 rfl) ?_
    obtain ⟨v6, ev6, hit⟩ := o_bind hit
    refine c_getR X hH kc_Service 2 q251 (Or.inl rfl) rfl rfl ev6 dX3_where_12 ?_
    refine lv_iload_n hx hb dX3_where_15 rfl (lv_at hl 1 rfl) ?_
    obtain ⟨v7, ev7, hit⟩ := o_bind hit
    refine c_iald X hH ev7 dX3_where_16 ?_
    refine lv_iconst (v := 4) hx hb dX3_where_17 (by decide) ?_
    refine lv_isub hx hb dX3_where_18 ?_
    obtain ⟨q8, eq8, hit⟩ := o_bind hit
    obtain ⟨iq8, eq8⟩ := vc_inv eq8
    refine c_cR X hH hDU kc_Service (wC3_town l γ X.2.1 _ _ _ _ eq8) iq8 nm_X3_town q469 q470 q140 q472 q471 ⟨Nat.le_trans (Nat.le_of_ble_eq_true rfl) hR.1, Nat.le_trans (Nat.le_of_ble_eq_true rfl) hR.2⟩ ⟨Nat.zero_le _, Nat.zero_le _⟩ rfl rfl hl.1 (lv_room (Nat.le_of_ble_eq_true rfl)) dX3_where_19 ?_
    refine lv_goto (tgt := 31) hx hb dX3_where_22 (by decide) ?_
    have he := o_in hit
    exact hend (.int q8) _ _ _ _ (kOut_i rfl) (congrArg Value.int he) dX3_where_31
noncomputable def C3_fitting_L4 (h : CH) (o : Nat) (a0 : Int32) (t1 : Int32 × Int32) : Option ((Int32 × Int32) ⊕ Int32) :=
  (gR h o 3 5).bind fun v3 =>
  (gR h v3 1 1).bind fun v4 =>
  (gI h v4 2 2).bind fun v5 =>
  if t1.2 < v5 then
    ((vc h o 3 (C3_fits h o a0 t1.2)).bind fun q7 =>
    ((if q7 = 0 then
        (some t1.1)
      else
        (some (t1.1 ||| ((1 : Int32) <<< (t1.2 &&& 31)))) : Option Int32)).bind fun r8 =>
    some (.inl (r8, (t1.2 + 1))))
  else
    (some (.inr t1.1))
noncomputable def C3_fitting (h : CH) (o : Nat) (a0 : Int32) : Option (Int32) :=
  o_loop (C3_fitting_L4 h o a0) (0, 0)
theorem nm_X3_fitting : kNm yX3_fitting RX3 1 := by unfold kNm; decide +kernel
set_option maxHeartbeats 4000000 in
set_option maxRecDepth 100000 in
theorem wC3_fitting (l : Launch) (γ : KG) (hO : kOK γ) (h : CH) (o : Nat) (a0 : Int32) (z : Int32) (hz : C3_fitting h o a0 = some z) : Met l yX3_fitting (ws_ yX3_fitting cX3_fitting 4 (some .int)) (kRm 3 64) (cPc γ h [.ref o, .int a0]) (cRq (.int z)) 0 0 vp_nf := by
  refine c_startR (cc := cX3_fitting) (own := RX3) hO rfl rfl rfl (fun p e R s m args below meth c Q ls X hR hH hDU hl hend => ?_)
  have hx := X.1.1
  have hb := X.1.2.1
  have hit := hz
  clear hz
  unfold C3_fitting at hit
  have hl : lv_has ls 4 [(0, .ref o), (1, .int a0)] := hl
  refine lv_iconst (v := 0) hx hb dX3_fitting_0 (by decide) ?_
  refine lv_istore_n (lv' := [(2, .int 0), (0, .ref o), (1, .int a0)]) hx hb dX3_fitting_1 rfl hl (by decide) rfl (fun ls hl => ?_)
  refine lv_iconst (v := 0) hx hb dX3_fitting_2 (by decide) ?_
  refine lv_istore_n (lv' := [(3, .int 0), (2, .int 0), (0, .ref o), (1, .int a0)]) hx hb dX3_fitting_3 rfl hl (by decide) rfl (fun ls hl => ?_)
  refine o_rec (P := fun t1 => ∀ (ls : Array Slot), lv_has ls 4 [(0, .ref o), (1, .int a0), (2, .int t1.1), (3, .int t1.2)] → W p l e R s m args below meth c s.heap [] 0 0 Q (F0 m 4 ls [])) (fun t1 x2 hit hC1 hE1 ls hl => ?_) _ hit _ (lv_sub hl [2, 3, 1, 0] rfl)
  unfold C3_fitting_L4 at hit
  refine lv_iload_n hx hb dX3_fitting_4 rfl (lv_at hl 3 rfl) ?_
  refine lv_aload_n hx hb dX3_fitting_5 rfl (lv_at hl 0 rfl) ?_
  obtain ⟨v3, ev3, hit⟩ := o_bind hit
  refine c_getR X hH kc_Service 5 q258 (Or.inl rfl) rfl rfl ev3 dX3_fitting_6 ?_
  obtain ⟨v4, ev4, hit⟩ := o_bind hit
  refine c_getNR X hH kc_TwinInk 1 q276 (Or.inl rfl) rfl rfl ev4 dX3_fitting_9 ?_
  obtain ⟨v5, ev5, hit⟩ := o_bind hit
  refine c_getNI X hH kc_Office 2 q217 (Or.inl rfl) rfl rfl ev5 dX3_fitting_12 ?_
  refine b_icmp_ge (tgt := 39) hx hb dX3_fitting_15 (by decide) hit (fun c6 hit => ?_) (fun c6 hit => ?_)
  · refine lv_iload_n hx hb dX3_fitting_39 rfl (lv_at hl 2 rfl) ?_
    have he := o_in hit
    have he := hE1 _ he
    exact hend (.int t1.1) _ _ _ _ (kOut_i rfl) (congrArg Value.int he) dX3_fitting_40
  · refine lv_aload_n hx hb dX3_fitting_18 rfl (lv_at hl 0 rfl) ?_
    refine lv_iload_n hx hb dX3_fitting_19 rfl (lv_at hl 1 rfl) ?_
    refine lv_iload_n hx hb dX3_fitting_20 rfl (lv_at hl 3 rfl) ?_
    obtain ⟨q7, eq7, hit⟩ := o_bind hit
    obtain ⟨iq7, eq7⟩ := vc_inv eq7
    refine c_cR X hH hDU kc_Service (wC3_fits l γ X.2.1 _ _ _ _ _ eq7) iq7 nm_X3_fits q601 q602 q140 q604 q603 ⟨Nat.le_trans (Nat.le_of_ble_eq_true rfl) hR.1, Nat.le_trans (Nat.le_of_ble_eq_true rfl) hR.2⟩ ⟨Nat.zero_le _, Nat.zero_le _⟩ rfl rfl hl.1 (lv_room (Nat.le_of_ble_eq_true rfl)) dX3_fitting_21 ?_
    obtain ⟨r8, er8, hit⟩ := o_bind hit
    have hr8 : ∀ (ls : Array Slot), lv_has ls 4 [(0, .ref o), (1, .int a0), (3, .int t1.2), (2, .int r8)] → W p l e R s m args below meth c s.heap [] 0 0 Q (F0 m 33 ls []) := by
      intro ls hl
      refine lv_iinc (k := 2) (v := (t1.2 + 1)) (lv' := [(3, .int (t1.2 + 1)), (0, .ref o), (1, .int a0), (2, .int r8)]) hx hb dX3_fitting_33 hl rfl rfl (by decide) rfl (fun ls hl => ?_)
      refine lv_goto (tgt := 4) hx hb dX3_fitting_36 (by decide) ?_
      have he := o_in hit
      exact hC1 _ he _ (lv_sub hl [1, 2, 3, 0] rfl)
    have hit := er8
    refine b_if_eq (tgt := 33) hx hb dX3_fitting_24 (by decide) hit (fun c9 hit => ?_) (fun c9 hit => ?_)
    · have he := o_in hit
      subst he
      exact hr8 _ (lv_sub hl [0, 1, 3, 2] rfl)
    · refine lv_iload_n hx hb dX3_fitting_27 rfl (lv_at hl 2 rfl) ?_
      refine lv_iconst (v := 1) hx hb dX3_fitting_28 (by decide) ?_
      refine lv_iload_n hx hb dX3_fitting_29 rfl (lv_at hl 3 rfl) ?_
      refine lv_ishl hx hb dX3_fitting_30 ?_
      refine lv_ior hx hb dX3_fitting_31 ?_
      refine lv_istore_n (lv' := [(2, .int (t1.1 ||| ((1 : Int32) <<< (t1.2 &&& 31)))), (0, .ref o), (1, .int a0), (3, .int t1.2)]) hx hb dX3_fitting_32 rfl hl (by decide) rfl (fun ls hl => ?_)
      have he := o_in hit
      subst he
      exact hr8 _ (lv_sub hl [1, 2, 3, 0] rfl)
noncomputable def C3_bornBy_L4 (h : CH) (o : Nat) (a0 : Int32) (t1 : Int32 × Int32) : Option ((Int32 × Int32) ⊕ Int32) :=
  (gR h o 3 5).bind fun v3 =>
  (gR h v3 1 1).bind fun v4 =>
  (gI h v4 2 2).bind fun v5 =>
  if t1.2 < v5 then
    ((vc h o 3 (C3_bearer h o t1.2)).bind fun q7 =>
    ((if q7 = a0 then
        (some (t1.1 ||| ((1 : Int32) <<< (t1.2 &&& 31))))
      else
        (some t1.1) : Option Int32)).bind fun r8 =>
    some (.inl (r8, (t1.2 + 1))))
  else
    (some (.inr t1.1))
noncomputable def C3_bornBy (h : CH) (o : Nat) (a0 : Int32) : Option (Int32) :=
  o_loop (C3_bornBy_L4 h o a0) (0, 0)
theorem nm_X3_bornBy : kNm yX3_bornBy RX3 1 := by unfold kNm; decide +kernel
set_option maxHeartbeats 4000000 in
set_option maxRecDepth 100000 in
theorem wC3_bornBy (l : Launch) (γ : KG) (hO : kOK γ) (h : CH) (o : Nat) (a0 : Int32) (z : Int32) (hz : C3_bornBy h o a0 = some z) : Met l yX3_bornBy (ws_ yX3_bornBy cX3_bornBy 4 (some .int)) (kRm 1 21) (cPc γ h [.ref o, .int a0]) (cRq (.int z)) 0 0 vp_nf := by
  refine c_startR (cc := cX3_bornBy) (own := RX3) hO rfl rfl rfl (fun p e R s m args below meth c Q ls X hR hH hDU hl hend => ?_)
  have hx := X.1.1
  have hb := X.1.2.1
  have hit := hz
  clear hz
  unfold C3_bornBy at hit
  have hl : lv_has ls 4 [(0, .ref o), (1, .int a0)] := hl
  refine lv_iconst (v := 0) hx hb dX3_bornBy_0 (by decide) ?_
  refine lv_istore_n (lv' := [(2, .int 0), (0, .ref o), (1, .int a0)]) hx hb dX3_bornBy_1 rfl hl (by decide) rfl (fun ls hl => ?_)
  refine lv_iconst (v := 0) hx hb dX3_bornBy_2 (by decide) ?_
  refine lv_istore_n (lv' := [(3, .int 0), (2, .int 0), (0, .ref o), (1, .int a0)]) hx hb dX3_bornBy_3 rfl hl (by decide) rfl (fun ls hl => ?_)
  refine o_rec (P := fun t1 => ∀ (ls : Array Slot), lv_has ls 4 [(0, .ref o), (1, .int a0), (2, .int t1.1), (3, .int t1.2)] → W p l e R s m args below meth c s.heap [] 0 0 Q (F0 m 4 ls [])) (fun t1 x2 hit hC1 hE1 ls hl => ?_) _ hit _ (lv_sub hl [2, 3, 1, 0] rfl)
  unfold C3_bornBy_L4 at hit
  refine lv_iload_n hx hb dX3_bornBy_4 rfl (lv_at hl 3 rfl) ?_
  refine lv_aload_n hx hb dX3_bornBy_5 rfl (lv_at hl 0 rfl) ?_
  obtain ⟨v3, ev3, hit⟩ := o_bind hit
  refine c_getR X hH kc_Service 5 q258 (Or.inl rfl) rfl rfl ev3 dX3_bornBy_6 ?_
  obtain ⟨v4, ev4, hit⟩ := o_bind hit
  refine c_getNR X hH kc_TwinInk 1 q276 (Or.inl rfl) rfl rfl ev4 dX3_bornBy_9 ?_
  obtain ⟨v5, ev5, hit⟩ := o_bind hit
  refine c_getNI X hH kc_Office 2 q217 (Or.inl rfl) rfl rfl ev5 dX3_bornBy_12 ?_
  refine b_icmp_ge (tgt := 39) hx hb dX3_bornBy_15 (by decide) hit (fun c6 hit => ?_) (fun c6 hit => ?_)
  · refine lv_iload_n hx hb dX3_bornBy_39 rfl (lv_at hl 2 rfl) ?_
    have he := o_in hit
    have he := hE1 _ he
    exact hend (.int t1.1) _ _ _ _ (kOut_i rfl) (congrArg Value.int he) dX3_bornBy_40
  · refine lv_aload_n hx hb dX3_bornBy_18 rfl (lv_at hl 0 rfl) ?_
    refine lv_iload_n hx hb dX3_bornBy_19 rfl (lv_at hl 3 rfl) ?_
    obtain ⟨q7, eq7, hit⟩ := o_bind hit
    obtain ⟨iq7, eq7⟩ := vc_inv eq7
    refine c_cR X hH hDU kc_Service (wC3_bearer l γ X.2.1 _ _ _ _ eq7) iq7 nm_X3_bearer q621 q622 q140 q624 q623 ⟨Nat.le_trans (Nat.le_of_ble_eq_true rfl) hR.1, Nat.le_trans (Nat.le_of_ble_eq_true rfl) hR.2⟩ ⟨Nat.zero_le _, Nat.zero_le _⟩ rfl rfl hl.1 (lv_room (Nat.le_of_ble_eq_true rfl)) dX3_bornBy_20 ?_
    refine lv_iload_n hx hb dX3_bornBy_23 rfl (lv_at hl 1 rfl) ?_
    obtain ⟨r8, er8, hit⟩ := o_bind hit
    have hr8 : ∀ (ls : Array Slot), lv_has ls 4 [(0, .ref o), (1, .int a0), (3, .int t1.2), (2, .int r8)] → W p l e R s m args below meth c s.heap [] 0 0 Q (F0 m 33 ls []) := by
      intro ls hl
      refine lv_iinc (k := 2) (v := (t1.2 + 1)) (lv' := [(3, .int (t1.2 + 1)), (0, .ref o), (1, .int a0), (2, .int r8)]) hx hb dX3_bornBy_33 hl rfl rfl (by decide) rfl (fun ls hl => ?_)
      refine lv_goto (tgt := 4) hx hb dX3_bornBy_36 (by decide) ?_
      have he := o_in hit
      exact hC1 _ he _ (lv_sub hl [1, 2, 3, 0] rfl)
    have hit := er8
    refine b_icmp_ne (tgt := 33) hx hb dX3_bornBy_24 (by decide) hit (fun c9 hit => ?_) (fun c9 hit => ?_)
    · have he := o_in hit
      subst he
      exact hr8 _ (lv_sub hl [0, 1, 3, 2] rfl)
    · refine lv_iload_n hx hb dX3_bornBy_27 rfl (lv_at hl 2 rfl) ?_
      refine lv_iconst (v := 1) hx hb dX3_bornBy_28 (by decide) ?_
      refine lv_iload_n hx hb dX3_bornBy_29 rfl (lv_at hl 3 rfl) ?_
      refine lv_ishl hx hb dX3_bornBy_30 ?_
      refine lv_ior hx hb dX3_bornBy_31 ?_
      refine lv_istore_n (lv' := [(2, .int (t1.1 ||| ((1 : Int32) <<< (t1.2 &&& 31)))), (0, .ref o), (1, .int a0), (3, .int t1.2)]) hx hb dX3_bornBy_32 rfl hl (by decide) rfl (fun ls hl => ?_)
      have he := o_in hit
      subst he
      exact hr8 _ (lv_sub hl [1, 2, 3, 0] rfl)
noncomputable def C1_knowers_L4 (h : CH) (o : Nat) (a0 : Int32) (t1 : Int32 × Int32) : Option ((Int32 × Int32) ⊕ Int32) :=
  (gR h o 1 1).bind fun v3 =>
  (vc h v3 2 (C2_clerks h v3)).bind fun q4 =>
  if t1.2 < q4 then
    ((gR h o 1 2).bind fun v6 =>
    (gR h v6 3 3).bind fun v7 =>
    (aI h v7 0 t1.2).bind fun v8 =>
    (C1_isOf v8 a0).bind fun q9 =>
    ((if q9 = 0 then
        (some t1.1)
      else
        (some (t1.1 ||| ((1 : Int32) <<< (t1.2 &&& 31)))) : Option Int32)).bind fun r10 =>
    some (.inl (r10, (t1.2 + 1))))
  else
    (some (.inr t1.1))
noncomputable def C1_knowers (h : CH) (o : Nat) (a0 : Int32) : Option (Int32) :=
  o_loop (C1_knowers_L4 h o a0) (0, 0)
theorem nm_X1_knowers : kNm yX1_knowers RX1 1 := by unfold kNm; decide +kernel
set_option maxHeartbeats 4000000 in
set_option maxRecDepth 100000 in
theorem wC1_knowers (l : Launch) (γ : KG) (hO : kOK γ) (h : CH) (o : Nat) (a0 : Int32) (z : Int32) (hz : C1_knowers h o a0 = some z) : Met l yX1_knowers (ws_ yX1_knowers cX1_knowers 4 (some .int)) (kRm 2 40) (cPc γ h [.ref o, .int a0]) (cRq (.int z)) 0 0 vp_nf := by
  refine c_startR (cc := cX1_knowers) (own := RX1) hO rfl rfl rfl (fun p e R s m args below meth c Q ls X hR hH hDU hl hend => ?_)
  have hx := X.1.1
  have hb := X.1.2.1
  have hit := hz
  clear hz
  unfold C1_knowers at hit
  have hl : lv_has ls 4 [(0, .ref o), (1, .int a0)] := hl
  refine lv_iconst (v := 0) hx hb dX1_knowers_0 (by decide) ?_
  refine lv_istore_n (lv' := [(2, .int 0), (0, .ref o), (1, .int a0)]) hx hb dX1_knowers_1 rfl hl (by decide) rfl (fun ls hl => ?_)
  refine lv_iconst (v := 0) hx hb dX1_knowers_2 (by decide) ?_
  refine lv_istore_n (lv' := [(3, .int 0), (2, .int 0), (0, .ref o), (1, .int a0)]) hx hb dX1_knowers_3 rfl hl (by decide) rfl (fun ls hl => ?_)
  refine o_rec (P := fun t1 => ∀ (ls : Array Slot), lv_has ls 4 [(0, .ref o), (1, .int a0), (2, .int t1.1), (3, .int t1.2)] → W p l e R s m args below meth c s.heap [] 0 0 Q (F0 m 4 ls [])) (fun t1 x2 hit hC1 hE1 ls hl => ?_) _ hit _ (lv_sub hl [2, 3, 1, 0] rfl)
  unfold C1_knowers_L4 at hit
  refine lv_iload_n hx hb dX1_knowers_4 rfl (lv_at hl 3 rfl) ?_
  refine lv_aload_n hx hb dX1_knowers_5 rfl (lv_at hl 0 rfl) ?_
  obtain ⟨v3, ev3, hit⟩ := o_bind hit
  refine c_getR X hH kc_TwinInk 1 q277 (Or.inl rfl) rfl rfl ev3 dX1_knowers_6 ?_
  obtain ⟨q4, eq4, hit⟩ := o_bind hit
  obtain ⟨iq4, eq4⟩ := vc_inv eq4
  refine c_cR X hH hDU kc_Office (wC2_clerks l γ X.2.1 _ _  _ eq4) iq4 nm_X2_clerks q1231 q464 q136 q466 q465 ⟨Nat.le_trans (Nat.le_of_ble_eq_true rfl) hR.1, Nat.le_trans (Nat.le_of_ble_eq_true rfl) hR.2⟩ ⟨Nat.zero_le _, Nat.zero_le _⟩ rfl rfl hl.1 (lv_room (Nat.le_of_ble_eq_true rfl)) dX1_knowers_9 ?_
  refine b_icmp_ge (tgt := 43) hx hb dX1_knowers_12 (by decide) hit (fun c5 hit => ?_) (fun c5 hit => ?_)
  · refine lv_iload_n hx hb dX1_knowers_43 rfl (lv_at hl 2 rfl) ?_
    have he := o_in hit
    have he := hE1 _ he
    exact hend (.int t1.1) _ _ _ _ (kOut_i rfl) (congrArg Value.int he) dX1_knowers_44
  · refine lv_aload_n hx hb dX1_knowers_15 rfl (lv_at hl 0 rfl) ?_
    obtain ⟨v6, ev6, hit⟩ := o_bind hit
    refine c_getR X hH kc_TwinInk 2 q278 (Or.inl rfl) rfl rfl ev6 dX1_knowers_16 ?_
    obtain ⟨v7, ev7, hit⟩ := o_bind hit
    refine c_getNR X hH kc_Service 3 q255 (Or.inl rfl) rfl rfl ev7 dX1_knowers_19 ?_
    refine lv_iload_n hx hb dX1_knowers_22 rfl (lv_at hl 3 rfl) ?_
    obtain ⟨v8, ev8, hit⟩ := o_bind hit
    refine c_iald X hH ev8 dX1_knowers_23 ?_
    refine lv_iload_n hx hb dX1_knowers_24 rfl (lv_at hl 1 rfl) ?_
    obtain ⟨q9, eq9, hit⟩ := o_bind hit
    refine c_cP X.1 (wC1_isOf l _ _ _ eq9) nm_X1_isOf q1252 q519 q135 q520 ⟨Nat.le_trans (Nat.le_of_ble_eq_true rfl) hR.1, Nat.le_trans (Nat.le_of_ble_eq_true rfl) hR.2⟩ ⟨Nat.zero_le _, Nat.zero_le _⟩ rfl rfl hl.1 (lv_room (Nat.le_of_ble_eq_true rfl)) dX1_knowers_25 ?_
    obtain ⟨r10, er10, hit⟩ := o_bind hit
    have hr10 : ∀ (ls : Array Slot), lv_has ls 4 [(0, .ref o), (1, .int a0), (3, .int t1.2), (2, .int r10)] → W p l e R s m args below meth c s.heap [] 0 0 Q (F0 m 37 ls []) := by
      intro ls hl
      refine lv_iinc (k := 2) (v := (t1.2 + 1)) (lv' := [(3, .int (t1.2 + 1)), (0, .ref o), (1, .int a0), (2, .int r10)]) hx hb dX1_knowers_37 hl rfl rfl (by decide) rfl (fun ls hl => ?_)
      refine lv_goto (tgt := 4) hx hb dX1_knowers_40 (by decide) ?_
      have he := o_in hit
      exact hC1 _ he _ (lv_sub hl [1, 2, 3, 0] rfl)
    have hit := er10
    refine b_if_eq (tgt := 37) hx hb dX1_knowers_28 (by decide) hit (fun c11 hit => ?_) (fun c11 hit => ?_)
    · have he := o_in hit
      subst he
      exact hr10 _ (lv_sub hl [0, 1, 3, 2] rfl)
    · refine lv_iload_n hx hb dX1_knowers_31 rfl (lv_at hl 2 rfl) ?_
      refine lv_iconst (v := 1) hx hb dX1_knowers_32 (by decide) ?_
      refine lv_iload_n hx hb dX1_knowers_33 rfl (lv_at hl 3 rfl) ?_
      refine lv_ishl hx hb dX1_knowers_34 ?_
      refine lv_ior hx hb dX1_knowers_35 ?_
      refine lv_istore_n (lv' := [(2, .int (t1.1 ||| ((1 : Int32) <<< (t1.2 &&& 31)))), (0, .ref o), (1, .int a0), (3, .int t1.2)]) hx hb dX1_knowers_36 rfl hl (by decide) rfl (fun ls hl => ?_)
      have he := o_in hit
      subst he
      exact hr10 _ (lv_sub hl [1, 2, 3, 0] rfl)
noncomputable def C3_sheetsIn_L4 (h : CH) (o : Nat) (a0 : Int32) (t1 : Int32 × Int32) : Option ((Int32 × Int32) ⊕ Int32) :=
  (gR h o 3 5).bind fun v3 =>
  (gR h v3 1 1).bind fun v4 =>
  (gI h v4 2 2).bind fun v5 =>
  if t1.2 < v5 then
    ((vc h o 3 (C3_where h o t1.2)).bind fun q7 =>
    ((if q7 = a0 then
        (some (t1.1 ||| ((1 : Int32) <<< (t1.2 &&& 31))))
      else
        (some t1.1) : Option Int32)).bind fun r8 =>
    some (.inl (r8, (t1.2 + 1))))
  else
    (some (.inr t1.1))
noncomputable def C3_sheetsIn (h : CH) (o : Nat) (a0 : Int32) : Option (Int32) :=
  o_loop (C3_sheetsIn_L4 h o a0) (0, 0)
theorem nm_X3_sheetsIn : kNm yX3_sheetsIn RX3 1 := by unfold kNm; decide +kernel
set_option maxHeartbeats 4000000 in
set_option maxRecDepth 100000 in
theorem wC3_sheetsIn (l : Launch) (γ : KG) (hO : kOK γ) (h : CH) (o : Nat) (a0 : Int32) (z : Int32) (hz : C3_sheetsIn h o a0 = some z) : Met l yX3_sheetsIn (ws_ yX3_sheetsIn cX3_sheetsIn 4 (some .int)) (kRm 6 128) (cPc γ h [.ref o, .int a0]) (cRq (.int z)) 0 0 vp_nf := by
  refine c_startR (cc := cX3_sheetsIn) (own := RX3) hO rfl rfl rfl (fun p e R s m args below meth c Q ls X hR hH hDU hl hend => ?_)
  have hx := X.1.1
  have hb := X.1.2.1
  have hit := hz
  clear hz
  unfold C3_sheetsIn at hit
  have hl : lv_has ls 4 [(0, .ref o), (1, .int a0)] := hl
  refine lv_iconst (v := 0) hx hb dX3_sheetsIn_0 (by decide) ?_
  refine lv_istore_n (lv' := [(2, .int 0), (0, .ref o), (1, .int a0)]) hx hb dX3_sheetsIn_1 rfl hl (by decide) rfl (fun ls hl => ?_)
  refine lv_iconst (v := 0) hx hb dX3_sheetsIn_2 (by decide) ?_
  refine lv_istore_n (lv' := [(3, .int 0), (2, .int 0), (0, .ref o), (1, .int a0)]) hx hb dX3_sheetsIn_3 rfl hl (by decide) rfl (fun ls hl => ?_)
  refine o_rec (P := fun t1 => ∀ (ls : Array Slot), lv_has ls 4 [(0, .ref o), (1, .int a0), (2, .int t1.1), (3, .int t1.2)] → W p l e R s m args below meth c s.heap [] 0 0 Q (F0 m 4 ls [])) (fun t1 x2 hit hC1 hE1 ls hl => ?_) _ hit _ (lv_sub hl [2, 3, 1, 0] rfl)
  unfold C3_sheetsIn_L4 at hit
  refine lv_iload_n hx hb dX3_sheetsIn_4 rfl (lv_at hl 3 rfl) ?_
  refine lv_aload_n hx hb dX3_sheetsIn_5 rfl (lv_at hl 0 rfl) ?_
  obtain ⟨v3, ev3, hit⟩ := o_bind hit
  refine c_getR X hH kc_Service 5 q258 (Or.inl rfl) rfl rfl ev3 dX3_sheetsIn_6 ?_
  obtain ⟨v4, ev4, hit⟩ := o_bind hit
  refine c_getNR X hH kc_TwinInk 1 q276 (Or.inl rfl) rfl rfl ev4 dX3_sheetsIn_9 ?_
  obtain ⟨v5, ev5, hit⟩ := o_bind hit
  refine c_getNI X hH kc_Office 2 q217 (Or.inl rfl) rfl rfl ev5 dX3_sheetsIn_12 ?_
  refine b_icmp_ge (tgt := 39) hx hb dX3_sheetsIn_15 (by decide) hit (fun c6 hit => ?_) (fun c6 hit => ?_)
  · refine lv_iload_n hx hb dX3_sheetsIn_39 rfl (lv_at hl 2 rfl) ?_
    have he := o_in hit
    have he := hE1 _ he
    exact hend (.int t1.1) _ _ _ _ (kOut_i rfl) (congrArg Value.int he) dX3_sheetsIn_40
  · refine lv_aload_n hx hb dX3_sheetsIn_18 rfl (lv_at hl 0 rfl) ?_
    refine lv_iload_n hx hb dX3_sheetsIn_19 rfl (lv_at hl 3 rfl) ?_
    obtain ⟨q7, eq7, hit⟩ := o_bind hit
    obtain ⟨iq7, eq7⟩ := vc_inv eq7
    refine c_cR X hH hDU kc_Service (wC3_where l γ X.2.1 _ _ _ _ eq7) iq7 nm_X3_where q504 q505 q140 q507 q506 ⟨Nat.le_trans (Nat.le_of_ble_eq_true rfl) hR.1, Nat.le_trans (Nat.le_of_ble_eq_true rfl) hR.2⟩ ⟨Nat.zero_le _, Nat.zero_le _⟩ rfl rfl hl.1 (lv_room (Nat.le_of_ble_eq_true rfl)) dX3_sheetsIn_20 ?_
    refine lv_iload_n hx hb dX3_sheetsIn_23 rfl (lv_at hl 1 rfl) ?_
    obtain ⟨r8, er8, hit⟩ := o_bind hit
    have hr8 : ∀ (ls : Array Slot), lv_has ls 4 [(0, .ref o), (1, .int a0), (3, .int t1.2), (2, .int r8)] → W p l e R s m args below meth c s.heap [] 0 0 Q (F0 m 33 ls []) := by
      intro ls hl
      refine lv_iinc (k := 2) (v := (t1.2 + 1)) (lv' := [(3, .int (t1.2 + 1)), (0, .ref o), (1, .int a0), (2, .int r8)]) hx hb dX3_sheetsIn_33 hl rfl rfl (by decide) rfl (fun ls hl => ?_)
      refine lv_goto (tgt := 4) hx hb dX3_sheetsIn_36 (by decide) ?_
      have he := o_in hit
      exact hC1 _ he _ (lv_sub hl [1, 2, 3, 0] rfl)
    have hit := er8
    refine b_icmp_ne (tgt := 33) hx hb dX3_sheetsIn_24 (by decide) hit (fun c9 hit => ?_) (fun c9 hit => ?_)
    · have he := o_in hit
      subst he
      exact hr8 _ (lv_sub hl [0, 1, 3, 2] rfl)
    · refine lv_iload_n hx hb dX3_sheetsIn_27 rfl (lv_at hl 2 rfl) ?_
      refine lv_iconst (v := 1) hx hb dX3_sheetsIn_28 (by decide) ?_
      refine lv_iload_n hx hb dX3_sheetsIn_29 rfl (lv_at hl 3 rfl) ?_
      refine lv_ishl hx hb dX3_sheetsIn_30 ?_
      refine lv_ior hx hb dX3_sheetsIn_31 ?_
      refine lv_istore_n (lv' := [(2, .int (t1.1 ||| ((1 : Int32) <<< (t1.2 &&& 31)))), (0, .ref o), (1, .int a0), (3, .int t1.2)]) hx hb dX3_sheetsIn_32 rfl hl (by decide) rfl (fun ls hl => ?_)
      have he := o_in hit
      subst he
      exact hr8 _ (lv_sub hl [1, 2, 3, 0] rfl)
noncomputable def C3_readOf_L4 (h : CH) (o : Nat) (a0 : Int32) (t1 : Int32 × Int32) : Option ((Int32 × Int32) ⊕ Int32) :=
  (gR h o 3 5).bind fun v3 =>
  (gR h v3 1 1).bind fun v4 =>
  (gR h v4 2 0).bind fun v5 =>
  (vc h v5 10 (CJ2_size h v5)).bind fun q6 =>
  if t1.2 < q6 then
    ((gR h o 3 5).bind fun v8 =>
    (gR h v8 1 1).bind fun v9 =>
    (gR h v9 2 0).bind fun v10 =>
    (vc h v10 10 (CJ2_get h v10 t1.2)).bind fun q11 =>
    (ckA h q11 0).bind fun u13 =>
    (aI h q11 0 0).bind fun v14 =>
    (gR h o 3 5).bind fun v15 =>
    (gR h v15 1 1).bind fun v16 =>
    (gR h v16 2 0).bind fun v17 =>
    (vc h v17 10 (CJ2_get h v17 t1.2)).bind fun q18 =>
    (ckA h q18 0).bind fun u20 =>
    (aI h q18 0 1).bind fun v21 =>
    (C1_isOf a0 v14).bind fun q22 =>
    ((if q22 = 0 then
        (some t1.1)
      else
        ((C1_isOf a0 v21).bind fun q25 =>
        if q25 = 0 then
          (some t1.1)
        else
          ((vc h o 3 (C3_fits h o v14 v21)).bind fun q27 =>
          if q27 = 0 then
            (some t1.1)
          else
            (some (t1.1 ||| ((1 : Int32) <<< (t1.2 &&& 31)))))) : Option Int32)).bind fun r23 =>
    some (.inl (r23, (t1.2 + 1))))
  else
    (some (.inr t1.1))
noncomputable def C3_readOf (h : CH) (o : Nat) (a0 : Int32) : Option (Int32) :=
  o_loop (C3_readOf_L4 h o a0) (0, 0)
theorem nm_X3_readOf : kNm yX3_readOf RX3 1 := by unfold kNm; decide +kernel
set_option maxHeartbeats 4000000 in
set_option maxRecDepth 100000 in
theorem wC3_readOf (l : Launch) (γ : KG) (hO : kOK γ) (h : CH) (o : Nat) (a0 : Int32) (z : Int32) (hz : C3_readOf h o a0 = some z) : Met l yX3_readOf (ws_ yX3_readOf cX3_readOf 6 (some .int)) (kRm 3 64) (cPc γ h [.ref o, .int a0]) (cRq (.int z)) 0 0 vp_nf := by
  refine c_startR (cc := cX3_readOf) (own := RX3) hO rfl rfl rfl (fun p e R s m args below meth c Q ls X hR hH hDU hl hend => ?_)
  have hx := X.1.1
  have hb := X.1.2.1
  have hit := hz
  clear hz
  unfold C3_readOf at hit
  have hl : lv_has ls 6 [(0, .ref o), (1, .int a0)] := hl
  refine lv_iconst (v := 0) hx hb dX3_readOf_0 (by decide) ?_
  refine lv_istore_n (lv' := [(2, .int 0), (0, .ref o), (1, .int a0)]) hx hb dX3_readOf_1 rfl hl (by decide) rfl (fun ls hl => ?_)
  refine lv_iconst (v := 0) hx hb dX3_readOf_2 (by decide) ?_
  refine lv_istore_n (lv' := [(3, .int 0), (2, .int 0), (0, .ref o), (1, .int a0)]) hx hb dX3_readOf_3 rfl hl (by decide) rfl (fun ls hl => ?_)
  refine o_rec (P := fun t1 => ∀ (ls : Array Slot), lv_has ls 6 [(0, .ref o), (1, .int a0), (2, .int t1.1), (3, .int t1.2)] → W p l e R s m args below meth c s.heap [] 0 0 Q (F0 m 4 ls [])) (fun t1 x2 hit hC1 hE1 ls hl => ?_) _ hit _ (lv_sub hl [2, 3, 1, 0] rfl)
  unfold C3_readOf_L4 at hit
  refine lv_iload_n hx hb dX3_readOf_4 rfl (lv_at hl 3 rfl) ?_
  refine lv_aload_n hx hb dX3_readOf_5 rfl (lv_at hl 0 rfl) ?_
  obtain ⟨v3, ev3, hit⟩ := o_bind hit
  refine c_getR X hH kc_Service 5 q258 (Or.inl rfl) rfl rfl ev3 dX3_readOf_6 ?_
  obtain ⟨v4, ev4, hit⟩ := o_bind hit
  refine c_getNR X hH kc_TwinInk 1 q276 (Or.inl rfl) rfl rfl ev4 dX3_readOf_9 ?_
  obtain ⟨v5, ev5, hit⟩ := o_bind hit
  refine c_getNR X hH kc_Office 0 q211 (Or.inl rfl) rfl rfl ev5 dX3_readOf_12 ?_
  obtain ⟨q6, eq6, hit⟩ := o_bind hit
  obtain ⟨iq6, eq6⟩ := vc_inv eq6
  refine c_cRF X hH hDU kc_ArrayList (wCJ2_size l γ X.2.1 _ _  _ eq6) iq6 nmi_List_size q597 q428 q139 q430 q426 q425 q424 q429 q427 q358 ⟨Nat.le_trans (Nat.le_of_ble_eq_true rfl) hR.1, Nat.le_trans (Nat.le_of_ble_eq_true rfl) hR.2⟩ ⟨Nat.zero_le _, Nat.zero_le _⟩ rfl rfl hl.1 (lv_room (Nat.le_of_ble_eq_true rfl)) dX3_readOf_15 ?_
  refine b_icmp_ge (tgt := 110) hx hb dX3_readOf_20 (by decide) hit (fun c7 hit => ?_) (fun c7 hit => ?_)
  · refine lv_iload_n hx hb dX3_readOf_110 rfl (lv_at hl 2 rfl) ?_
    have he := o_in hit
    have he := hE1 _ he
    exact hend (.int t1.1) _ _ _ _ (kOut_i rfl) (congrArg Value.int he) dX3_readOf_111
  · refine lv_aload_n hx hb dX3_readOf_23 rfl (lv_at hl 0 rfl) ?_
    obtain ⟨v8, ev8, hit⟩ := o_bind hit
    refine c_getR X hH kc_Service 5 q258 (Or.inl rfl) rfl rfl ev8 dX3_readOf_24 ?_
    obtain ⟨v9, ev9, hit⟩ := o_bind hit
    refine c_getNR X hH kc_TwinInk 1 q276 (Or.inl rfl) rfl rfl ev9 dX3_readOf_27 ?_
    obtain ⟨v10, ev10, hit⟩ := o_bind hit
    refine c_getNR X hH kc_Office 0 q211 (Or.inl rfl) rfl rfl ev10 dX3_readOf_30 ?_
    refine lv_iload_n hx hb dX3_readOf_33 rfl (lv_at hl 3 rfl) ?_
    obtain ⟨q11, eq11, hit⟩ := o_bind hit
    obtain ⟨iq11, eq11⟩ := vc_inv eq11
    refine c_cRF X hH hDU kc_ArrayList (wCJ2_get l γ X.2.1 _ _ _ _ eq11) iq11 nmi_List_get q599 q483 q139 q485 q481 q480 q479 q484 q482 q358 ⟨Nat.le_trans (Nat.le_of_ble_eq_true rfl) hR.1, Nat.le_trans (Nat.le_of_ble_eq_true rfl) hR.2⟩ ⟨Nat.zero_le _, Nat.zero_le _⟩ rfl rfl hl.1 (lv_room (Nat.le_of_ble_eq_true rfl)) dX3_readOf_34 ?_
    obtain ⟨u13, eu13, hit⟩ := o_bind hit
    refine c_castA X hH 0 (fun _ => rfl) q600 (fun h => h) eu13 dX3_readOf_39 ?_
    refine lv_iconst (v := 0) hx hb dX3_readOf_42 (by decide) ?_
    obtain ⟨v14, ev14, hit⟩ := o_bind hit
    refine c_iald X hH ev14 dX3_readOf_43 ?_
    refine lv_istore (lv' := [(4, .int v14), (0, .ref o), (1, .int a0), (2, .int t1.1), (3, .int t1.2)]) hx hb dX3_readOf_44 hl (by decide) rfl (fun ls hl => ?_)
    refine lv_aload_n hx hb dX3_readOf_46 rfl (lv_at hl 1 rfl) ?_
    obtain ⟨v15, ev15, hit⟩ := o_bind hit
    refine c_getR X hH kc_Service 5 q258 (Or.inl rfl) rfl rfl ev15 dX3_readOf_47 ?_
    obtain ⟨v16, ev16, hit⟩ := o_bind hit
    refine c_getNR X hH kc_TwinInk 1 q276 (Or.inl rfl) rfl rfl ev16 dX3_readOf_50 ?_
    obtain ⟨v17, ev17, hit⟩ := o_bind hit
    refine c_getNR X hH kc_Office 0 q211 (Or.inl rfl) rfl rfl ev17 dX3_readOf_53 ?_
    refine lv_iload_n hx hb dX3_readOf_56 rfl (lv_at hl 4 rfl) ?_
    obtain ⟨q18, eq18, hit⟩ := o_bind hit
    obtain ⟨iq18, eq18⟩ := vc_inv eq18
    refine c_cRF X hH hDU kc_ArrayList (wCJ2_get l γ X.2.1 _ _ _ _ eq18) iq18 nmi_List_get q599 q483 q139 q485 q481 q480 q479 q484 q482 q358 ⟨Nat.le_trans (Nat.le_of_ble_eq_true rfl) hR.1, Nat.le_trans (Nat.le_of_ble_eq_true rfl) hR.2⟩ ⟨Nat.zero_le _, Nat.zero_le _⟩ rfl rfl hl.1 (lv_room (Nat.le_of_ble_eq_true rfl)) dX3_readOf_57 ?_
    obtain ⟨u20, eu20, hit⟩ := o_bind hit
    refine c_castA X hH 0 (fun _ => rfl) q600 (fun h => h) eu20 dX3_readOf_62 ?_
    refine lv_iconst (v := 1) hx hb dX3_readOf_65 (by decide) ?_
    obtain ⟨v21, ev21, hit⟩ := o_bind hit
    refine c_iald X hH ev21 dX3_readOf_66 ?_
    refine lv_istore (lv' := [(5, .int v21), (4, .int v14), (0, .ref o), (1, .int a0), (2, .int t1.1), (3, .int t1.2)]) hx hb dX3_readOf_67 hl (by decide) rfl (fun ls hl => ?_)
    refine lv_iload_n hx hb dX3_readOf_69 rfl (lv_at hl 3 rfl) ?_
    refine lv_iload hx hb dX3_readOf_70 (lv_at hl 1 rfl) ?_
    obtain ⟨q22, eq22, hit⟩ := o_bind hit
    refine c_cPN X (wC1_isOf l _ _ _ eq22) nm_X1_isOf q518 q519 q135 q520 ⟨Nat.le_trans (Nat.le_of_ble_eq_true rfl) hR.1, Nat.le_trans (Nat.le_of_ble_eq_true rfl) hR.2⟩ ⟨Nat.zero_le _, Nat.zero_le _⟩ rfl rfl hl.1 (lv_room (Nat.le_of_ble_eq_true rfl)) dX3_readOf_72 ?_
    obtain ⟨r23, er23, hit⟩ := o_bind hit
    have hr23 : ∀ (ls : Array Slot), lv_has ls 6 [(0, .ref o), (1, .int a0), (3, .int t1.2), (2, .int r23)] → W p l e R s m args below meth c s.heap [] 0 0 Q (F0 m 104 ls []) := by
      intro ls hl
      refine lv_iinc (k := 2) (v := (t1.2 + 1)) (lv' := [(3, .int (t1.2 + 1)), (0, .ref o), (1, .int a0), (2, .int r23)]) hx hb dX3_readOf_104 hl rfl rfl (by decide) rfl (fun ls hl => ?_)
      refine lv_goto (tgt := 4) hx hb dX3_readOf_107 (by decide) ?_
      have he := o_in hit
      exact hC1 _ he _ (lv_sub hl [1, 2, 3, 0] rfl)
    have hit := er23
    refine b_if_eq (tgt := 104) hx hb dX3_readOf_75 (by decide) hit (fun c24 hit => ?_) (fun c24 hit => ?_)
    · have he := o_in hit
      subst he
      exact hr23 _ (lv_sub hl [2, 3, 5, 4] rfl)
    · refine lv_iload_n hx hb dX3_readOf_78 rfl (lv_at hl 3 rfl) ?_
      refine lv_iload hx hb dX3_readOf_79 (lv_at hl 0 rfl) ?_
      obtain ⟨q25, eq25, hit⟩ := o_bind hit
      refine c_cPN X (wC1_isOf l _ _ _ eq25) nm_X1_isOf q518 q519 q135 q520 ⟨Nat.le_trans (Nat.le_of_ble_eq_true rfl) hR.1, Nat.le_trans (Nat.le_of_ble_eq_true rfl) hR.2⟩ ⟨Nat.zero_le _, Nat.zero_le _⟩ rfl rfl hl.1 (lv_room (Nat.le_of_ble_eq_true rfl)) dX3_readOf_81 ?_
      refine b_if_eq (tgt := 104) hx hb dX3_readOf_84 (by decide) hit (fun c26 hit => ?_) (fun c26 hit => ?_)
      · have he := o_in hit
        subst he
        exact hr23 _ (lv_sub hl [2, 3, 5, 4] rfl)
      · refine lv_aload_n hx hb dX3_readOf_87 rfl (lv_at hl 2 rfl) ?_
        refine lv_iload hx hb dX3_readOf_88 (lv_at hl 1 rfl) ?_
        refine lv_iload hx hb dX3_readOf_90 (lv_at hl 0 rfl) ?_
        obtain ⟨q27, eq27, hit⟩ := o_bind hit
        obtain ⟨iq27, eq27⟩ := vc_inv eq27
        refine c_cR X hH hDU kc_Service (wC3_fits l γ X.2.1 _ _ _ _ _ eq27) iq27 nm_X3_fits q601 q602 q140 q604 q603 ⟨Nat.le_trans (Nat.le_of_ble_eq_true rfl) hR.1, Nat.le_trans (Nat.le_of_ble_eq_true rfl) hR.2⟩ ⟨Nat.zero_le _, Nat.zero_le _⟩ rfl rfl hl.1 (lv_room (Nat.le_of_ble_eq_true rfl)) dX3_readOf_92 ?_
        refine b_if_eq (tgt := 104) hx hb dX3_readOf_95 (by decide) hit (fun c28 hit => ?_) (fun c28 hit => ?_)
        · have he := o_in hit
          subst he
          exact hr23 _ (lv_sub hl [2, 3, 5, 4] rfl)
        · refine lv_iload_n hx hb dX3_readOf_98 rfl (lv_at hl 4 rfl) ?_
          refine lv_iconst (v := 1) hx hb dX3_readOf_99 (by decide) ?_
          refine lv_iload_n hx hb dX3_readOf_100 rfl (lv_at hl 5 rfl) ?_
          refine lv_ishl hx hb dX3_readOf_101 ?_
          refine lv_ior hx hb dX3_readOf_102 ?_
          refine lv_istore_n (lv' := [(2, .int (t1.1 ||| ((1 : Int32) <<< (t1.2 &&& 31)))), (5, .int v21), (4, .int v14), (0, .ref o), (1, .int a0), (3, .int t1.2)]) hx hb dX3_readOf_103 rfl hl (by decide) rfl (fun ls hl => ?_)
          have he := o_in hit
          subst he
          exact hr23 _ (lv_sub hl [3, 4, 5, 0] rfl)
noncomputable def C3_shows (h : CH) (o : Nat) (a0 : Int32) : Option (Int32) :=
  (vc h o 3 (C3_sheetsIn h o a0)).bind fun q1 =>
  (vc h o 3 (C3_readOf h o q1)).bind fun q2 =>
  some q2
theorem nm_X3_shows : kNm yX3_shows RX3 1 := by unfold kNm; decide +kernel
set_option maxHeartbeats 4000000 in
set_option maxRecDepth 100000 in
theorem wC3_shows (l : Launch) (γ : KG) (hO : kOK γ) (h : CH) (o : Nat) (a0 : Int32) (z : Int32) (hz : C3_shows h o a0 = some z) : Met l yX3_shows (ws_ yX3_shows cX3_shows 2 (some .int)) (kRm 7 151) (cPc γ h [.ref o, .int a0]) (cRq (.int z)) 0 0 vp_nf := by
  refine c_startR (cc := cX3_shows) (own := RX3) hO rfl rfl rfl (fun p e R s m args below meth c Q ls X hR hH hDU hl hend => ?_)
  have hx := X.1.1
  have hb := X.1.2.1
  have hit := hz
  clear hz
  unfold C3_shows at hit
  have hl : lv_has ls 2 [(0, .ref o), (1, .int a0)] := hl
  refine lv_aload_n hx hb dX3_shows_0 rfl (lv_at hl 0 rfl) ?_
  refine lv_aload_n hx hb dX3_shows_1 rfl (lv_at hl 0 rfl) ?_
  refine lv_iload_n hx hb dX3_shows_2 rfl (lv_at hl 1 rfl) ?_
  obtain ⟨q1, eq1, hit⟩ := o_bind hit
  obtain ⟨iq1, eq1⟩ := vc_inv eq1
  refine c_cR X hH hDU kc_Service (wC3_sheetsIn l γ X.2.1 _ _ _ _ eq1) iq1 nm_X3_sheetsIn q500 q501 q140 q503 q502 ⟨Nat.le_trans (Nat.le_of_ble_eq_true rfl) hR.1, Nat.le_trans (Nat.le_of_ble_eq_true rfl) hR.2⟩ ⟨Nat.zero_le _, Nat.zero_le _⟩ rfl rfl hl.1 (lv_room (Nat.le_of_ble_eq_true rfl)) dX3_shows_3 ?_
  obtain ⟨q2, eq2, hit⟩ := o_bind hit
  obtain ⟨iq2, eq2⟩ := vc_inv eq2
  refine c_cR X hH hDU kc_Service (wC3_readOf l γ X.2.1 _ _ _ _ eq2) iq2 nm_X3_readOf q592 q593 q140 q595 q594 ⟨Nat.le_trans (Nat.le_of_ble_eq_true rfl) hR.1, Nat.le_trans (Nat.le_of_ble_eq_true rfl) hR.2⟩ ⟨Nat.zero_le _, Nat.zero_le _⟩ rfl rfl hl.1 (lv_room (Nat.le_of_ble_eq_true rfl)) dX3_shows_6 ?_
  have he := o_in hit
  exact hend (.int q2) _ _ _ _ (kOut_i rfl) (congrArg Value.int he) dX3_shows_9
noncomputable def C1_showsAt (h : CH) (o : Nat) (a0 : Int32) : Option (Int32) :=
  (gR h o 1 2).bind fun v1 =>
  (gR h o 1 1).bind fun v2 =>
  (gR h v2 2 0).bind fun v3 =>
  (vc h v3 10 (CJ2_get h v3 a0)).bind fun q4 =>
  (ckA h q4 0).bind fun u6 =>
  (aI h q4 0 0).bind fun v7 =>
  (vc h v1 3 (C3_where h v1 v7)).bind fun q8 =>
  if q8 = (-1) then
    (some (-1))
  else
    ((gR h o 1 2).bind fun v10 =>
    (vc h v10 3 (C3_shows h v10 q8)).bind fun q11 =>
    (C1_isOf q11 a0).bind fun q12 =>
    if q12 = 0 then
      (some (-1))
    else
      (some q8))
theorem nm_X1_showsAt : kNm yX1_showsAt RX1 1 := by unfold kNm; decide +kernel
set_option maxHeartbeats 4000000 in
set_option maxRecDepth 100000 in
theorem wC1_showsAt (l : Launch) (γ : KG) (hO : kOK γ) (h : CH) (o : Nat) (a0 : Int32) (z : Int32) (hz : C1_showsAt h o a0 = some z) : Met l yX1_showsAt (ws_ yX1_showsAt cX1_showsAt 3 (some .int)) (kRm 8 172) (cPc γ h [.ref o, .int a0]) (cRq (.int z)) 0 0 vp_nf := by
  refine c_startR (cc := cX1_showsAt) (own := RX1) hO rfl rfl rfl (fun p e R s m args below meth c Q ls X hR hH hDU hl hend => ?_)
  have hx := X.1.1
  have hb := X.1.2.1
  have hit := hz
  clear hz
  unfold C1_showsAt at hit
  have hl : lv_has ls 3 [(0, .ref o), (1, .int a0)] := hl
  refine lv_aload_n hx hb dX1_showsAt_0 rfl (lv_at hl 0 rfl) ?_
  obtain ⟨v1, ev1, hit⟩ := o_bind hit
  refine c_getR X hH kc_TwinInk 2 q278 (Or.inl rfl) rfl rfl ev1 dX1_showsAt_1 ?_
  refine lv_aload_n hx hb dX1_showsAt_4 rfl (lv_at hl 0 rfl) ?_
  obtain ⟨v2, ev2, hit⟩ := o_bind hit
  refine c_getR X hH kc_TwinInk 1 q277 (Or.inl rfl) rfl rfl ev2 dX1_showsAt_5 ?_
  obtain ⟨v3, ev3, hit⟩ := o_bind hit
  refine c_getNR X hH kc_Office 0 q210 (Or.inl rfl) rfl rfl ev3 dX1_showsAt_8 ?_
  refine lv_iload_n hx hb dX1_showsAt_11 rfl (lv_at hl 1 rfl) ?_
  obtain ⟨q4, eq4, hit⟩ := o_bind hit
  obtain ⟨iq4, eq4⟩ := vc_inv eq4
  refine c_cRF X hH hDU kc_ArrayList (wCJ2_get l γ X.2.1 _ _ _ _ eq4) iq4 nmi_List_get q643 q483 q139 q485 q481 q480 q479 q484 q482 q358 ⟨Nat.le_trans (Nat.le_of_ble_eq_true rfl) hR.1, Nat.le_trans (Nat.le_of_ble_eq_true rfl) hR.2⟩ ⟨Nat.zero_le _, Nat.zero_le _⟩ rfl rfl hl.1 (lv_room (Nat.le_of_ble_eq_true rfl)) dX1_showsAt_12 ?_
  obtain ⟨u6, eu6, hit⟩ := o_bind hit
  refine c_castA X hH 0 (fun _ => rfl) q644 (fun h => h) eu6 dX1_showsAt_17 ?_
  refine lv_iconst (v := 0) hx hb dX1_showsAt_20 (by decide) ?_
  obtain ⟨v7, ev7, hit⟩ := o_bind hit
  refine c_iald X hH ev7 dX1_showsAt_21 ?_
  obtain ⟨q8, eq8, hit⟩ := o_bind hit
  obtain ⟨iq8, eq8⟩ := vc_inv eq8
  refine c_cR X hH hDU kc_Service (wC3_where l γ X.2.1 _ _ _ _ eq8) iq8 nm_X3_where q1286 q505 q140 q507 q506 ⟨Nat.le_trans (Nat.le_of_ble_eq_true rfl) hR.1, Nat.le_trans (Nat.le_of_ble_eq_true rfl) hR.2⟩ ⟨Nat.zero_le _, Nat.zero_le _⟩ rfl rfl hl.1 (lv_room (Nat.le_of_ble_eq_true rfl)) dX1_showsAt_22 ?_
  refine lv_istore_n (lv' := [(2, .int q8), (0, .ref o), (1, .int a0)]) hx hb dX1_showsAt_25 rfl hl (by decide) rfl (fun ls hl => ?_)
  refine lv_iload_n hx hb dX1_showsAt_26 rfl (lv_at hl 0 rfl) ?_
  refine lv_iconst (v := (-1)) hx hb dX1_showsAt_27 (by decide) ?_
  refine b_icmp_eq (tgt := 50) hx hb dX1_showsAt_28 (by decide) hit (fun c9 hit => ?_) (fun c9 hit => ?_)
  · refine lv_iconst (v := (-1)) hx hb dX1_showsAt_50 (by decide) ?_
    have he := o_in hit
    exact hend (.int (-1)) _ _ _ _ (kOut_i rfl) (congrArg Value.int he) dX1_showsAt_51
  · refine lv_aload_n hx hb dX1_showsAt_31 rfl (lv_at hl 1 rfl) ?_
    obtain ⟨v10, ev10, hit⟩ := o_bind hit
    refine c_getR X hH kc_TwinInk 2 q278 (Or.inl rfl) rfl rfl ev10 dX1_showsAt_32 ?_
    refine lv_iload_n hx hb dX1_showsAt_35 rfl (lv_at hl 0 rfl) ?_
    obtain ⟨q11, eq11, hit⟩ := o_bind hit
    obtain ⟨iq11, eq11⟩ := vc_inv eq11
    refine c_cR X hH hDU kc_Service (wC3_shows l γ X.2.1 _ _ _ _ eq11) iq11 nm_X3_shows q1324 q589 q140 q591 q590 ⟨Nat.le_trans (Nat.le_of_ble_eq_true rfl) hR.1, Nat.le_trans (Nat.le_of_ble_eq_true rfl) hR.2⟩ ⟨Nat.zero_le _, Nat.zero_le _⟩ rfl rfl hl.1 (lv_room (Nat.le_of_ble_eq_true rfl)) dX1_showsAt_36 ?_
    refine lv_iload_n hx hb dX1_showsAt_39 rfl (lv_at hl 2 rfl) ?_
    obtain ⟨q12, eq12, hit⟩ := o_bind hit
    refine c_cP X.1 (wC1_isOf l _ _ _ eq12) nm_X1_isOf q1252 q519 q135 q520 ⟨Nat.le_trans (Nat.le_of_ble_eq_true rfl) hR.1, Nat.le_trans (Nat.le_of_ble_eq_true rfl) hR.2⟩ ⟨Nat.zero_le _, Nat.zero_le _⟩ rfl rfl hl.1 (lv_room (Nat.le_of_ble_eq_true rfl)) dX1_showsAt_40 ?_
    refine b_if_eq (tgt := 50) hx hb dX1_showsAt_43 (by decide) hit (fun c13 hit => ?_) (fun c13 hit => ?_)
    · refine lv_iconst (v := (-1)) hx hb dX1_showsAt_50 (by decide) ?_
      have he := o_in hit
      exact hend (.int (-1)) _ _ _ _ (kOut_i rfl) (congrArg Value.int he) dX1_showsAt_51
    · refine lv_iload_n hx hb dX1_showsAt_46 rfl (lv_at hl 0 rfl) ?_
      refine lv_goto (tgt := 51) hx hb dX1_showsAt_47 (by decide) ?_
      have he := o_in hit
      exact hend (.int q8) _ _ _ _ (kOut_i rfl) (congrArg Value.int he) dX1_showsAt_51
noncomputable def C1_isDead (h : CH) (o : Nat) (a0 : Int32) (a1 : Int32) : Option (Int32) :=
  (gR h o 1 1).bind fun v1 =>
  (gR h v1 2 0).bind fun v2 =>
  (vc h v2 10 (CJ2_get h v2 a0)).bind fun q3 =>
  (ckA h q3 0).bind fun u5 =>
  (aI h q3 0 0).bind fun v6 =>
  (C1_isOf a1 v6).bind fun q7 =>
  if q7 = 0 then
    ((gR h o 1 1).bind fun v9 =>
    (gR h v9 2 0).bind fun v10 =>
    (vc h v10 10 (CJ2_get h v10 a0)).bind fun q11 =>
    (ckA h q11 0).bind fun u13 =>
    (aI h q11 0 1).bind fun v14 =>
    (C1_isOf a1 v14).bind fun q15 =>
    if q15 = 0 then
      (some 0)
    else
      (some 1))
  else
    (some 1)
theorem nm_X1_isDead : kNm yX1_isDead RX1 2 := by unfold kNm; decide +kernel
set_option maxHeartbeats 4000000 in
set_option maxRecDepth 100000 in
theorem wC1_isDead (l : Launch) (γ : KG) (hO : kOK γ) (h : CH) (o : Nat) (a0 : Int32) (a1 : Int32) (z : Int32) (hz : C1_isDead h o a0 a1 = some z) : Met l yX1_isDead (ws_ yX1_isDead cX1_isDead 3 (some .boolean)) (kRm 3 64) (cPc γ h [.ref o, .int a0, .int a1]) (cRq (.int z)) 0 0 vp_nf := by
  refine c_startR (cc := cX1_isDead) (own := RX1) hO rfl rfl rfl (fun p e R s m args below meth c Q ls X hR hH hDU hl hend => ?_)
  have hx := X.1.1
  have hb := X.1.2.1
  have hit := hz
  clear hz
  unfold C1_isDead at hit
  have hl : lv_has ls 3 [(0, .ref o), (1, .int a0), (2, .int a1)] := hl
  refine lv_iload_n hx hb dX1_isDead_0 rfl (lv_at hl 2 rfl) ?_
  refine lv_aload_n hx hb dX1_isDead_1 rfl (lv_at hl 0 rfl) ?_
  obtain ⟨v1, ev1, hit⟩ := o_bind hit
  refine c_getR X hH kc_TwinInk 1 q277 (Or.inl rfl) rfl rfl ev1 dX1_isDead_2 ?_
  obtain ⟨v2, ev2, hit⟩ := o_bind hit
  refine c_getNR X hH kc_Office 0 q210 (Or.inl rfl) rfl rfl ev2 dX1_isDead_5 ?_
  refine lv_iload_n hx hb dX1_isDead_8 rfl (lv_at hl 1 rfl) ?_
  obtain ⟨q3, eq3, hit⟩ := o_bind hit
  obtain ⟨iq3, eq3⟩ := vc_inv eq3
  refine c_cRF X hH hDU kc_ArrayList (wCJ2_get l γ X.2.1 _ _ _ _ eq3) iq3 nmi_List_get q643 q483 q139 q485 q481 q480 q479 q484 q482 q358 ⟨Nat.le_trans (Nat.le_of_ble_eq_true rfl) hR.1, Nat.le_trans (Nat.le_of_ble_eq_true rfl) hR.2⟩ ⟨Nat.zero_le _, Nat.zero_le _⟩ rfl rfl hl.1 (lv_room (Nat.le_of_ble_eq_true rfl)) dX1_isDead_9 ?_
  obtain ⟨u5, eu5, hit⟩ := o_bind hit
  refine c_castA X hH 0 (fun _ => rfl) q644 (fun h => h) eu5 dX1_isDead_14 ?_
  refine lv_iconst (v := 0) hx hb dX1_isDead_17 (by decide) ?_
  obtain ⟨v6, ev6, hit⟩ := o_bind hit
  refine c_iald X hH ev6 dX1_isDead_18 ?_
  obtain ⟨q7, eq7, hit⟩ := o_bind hit
  refine c_cP X.1 (wC1_isOf l _ _ _ eq7) nm_X1_isOf q1252 q519 q135 q520 ⟨Nat.le_trans (Nat.le_of_ble_eq_true rfl) hR.1, Nat.le_trans (Nat.le_of_ble_eq_true rfl) hR.2⟩ ⟨Nat.zero_le _, Nat.zero_le _⟩ rfl rfl hl.1 (lv_room (Nat.le_of_ble_eq_true rfl)) dX1_isDead_19 ?_
  refine b_if_ne (tgt := 50) hx hb dX1_isDead_22 (by decide) hit (fun c8 hit => ?_) (fun c8 hit => ?_)
  · refine lv_iconst (v := 1) hx hb dX1_isDead_50 (by decide) ?_
    refine lv_goto (tgt := 55) hx hb dX1_isDead_51 (by decide) ?_
    have he := o_in hit
    exact hend (.int 1) _ _ _ _ (kOut_i rfl) (congrArg Value.int he) dX1_isDead_55
  · refine lv_iload_n hx hb dX1_isDead_25 rfl (lv_at hl 2 rfl) ?_
    refine lv_aload_n hx hb dX1_isDead_26 rfl (lv_at hl 0 rfl) ?_
    obtain ⟨v9, ev9, hit⟩ := o_bind hit
    refine c_getR X hH kc_TwinInk 1 q277 (Or.inl rfl) rfl rfl ev9 dX1_isDead_27 ?_
    obtain ⟨v10, ev10, hit⟩ := o_bind hit
    refine c_getNR X hH kc_Office 0 q210 (Or.inl rfl) rfl rfl ev10 dX1_isDead_30 ?_
    refine lv_iload_n hx hb dX1_isDead_33 rfl (lv_at hl 1 rfl) ?_
    obtain ⟨q11, eq11, hit⟩ := o_bind hit
    obtain ⟨iq11, eq11⟩ := vc_inv eq11
    refine c_cRF X hH hDU kc_ArrayList (wCJ2_get l γ X.2.1 _ _ _ _ eq11) iq11 nmi_List_get q643 q483 q139 q485 q481 q480 q479 q484 q482 q358 ⟨Nat.le_trans (Nat.le_of_ble_eq_true rfl) hR.1, Nat.le_trans (Nat.le_of_ble_eq_true rfl) hR.2⟩ ⟨Nat.zero_le _, Nat.zero_le _⟩ rfl rfl hl.1 (lv_room (Nat.le_of_ble_eq_true rfl)) dX1_isDead_34 ?_
    obtain ⟨u13, eu13, hit⟩ := o_bind hit
    refine c_castA X hH 0 (fun _ => rfl) q644 (fun h => h) eu13 dX1_isDead_39 ?_
    refine lv_iconst (v := 1) hx hb dX1_isDead_42 (by decide) ?_
    obtain ⟨v14, ev14, hit⟩ := o_bind hit
    refine c_iald X hH ev14 dX1_isDead_43 ?_
    obtain ⟨q15, eq15, hit⟩ := o_bind hit
    refine c_cP X.1 (wC1_isOf l _ _ _ eq15) nm_X1_isOf q1252 q519 q135 q520 ⟨Nat.le_trans (Nat.le_of_ble_eq_true rfl) hR.1, Nat.le_trans (Nat.le_of_ble_eq_true rfl) hR.2⟩ ⟨Nat.zero_le _, Nat.zero_le _⟩ rfl rfl hl.1 (lv_room (Nat.le_of_ble_eq_true rfl)) dX1_isDead_44 ?_
    refine b_if_eq (tgt := 54) hx hb dX1_isDead_47 (by decide) hit (fun c16 hit => ?_) (fun c16 hit => ?_)
    · refine lv_iconst (v := 0) hx hb dX1_isDead_54 (by decide) ?_
      have he := o_in hit
      exact hend (.int 0) _ _ _ _ (kOut_i rfl) (congrArg Value.int he) dX1_isDead_55
    · refine lv_iconst (v := 1) hx hb dX1_isDead_50 (by decide) ?_
      refine lv_goto (tgt := 55) hx hb dX1_isDead_51 (by decide) ?_
      have he := o_in hit
      exact hend (.int 1) _ _ _ _ (kOut_i rfl) (congrArg Value.int he) dX1_isDead_55
noncomputable def C1_dead_L4 (h : CH) (o : Nat) (a0 : Int32) (t1 : Int32 × Int32) : Option ((Int32 × Int32) ⊕ Int32) :=
  (gR h o 1 1).bind fun v3 =>
  (gR h v3 2 0).bind fun v4 =>
  (vc h v4 10 (CJ2_size h v4)).bind fun q5 =>
  if t1.2 < q5 then
    ((vc h o 1 (C1_isDead h o t1.2 a0)).bind fun q7 =>
    ((if q7 = 0 then
        (some t1.1)
      else
        (some (t1.1 ||| ((1 : Int32) <<< (t1.2 &&& 31)))) : Option Int32)).bind fun r8 =>
    some (.inl (r8, (t1.2 + 1))))
  else
    (some (.inr t1.1))
noncomputable def C1_dead (h : CH) (o : Nat) (a0 : Int32) : Option (Int32) :=
  o_loop (C1_dead_L4 h o a0) (0, 0)
theorem nm_X1_dead : kNm yX1_dead RX1 1 := by unfold kNm; decide +kernel
set_option maxHeartbeats 4000000 in
set_option maxRecDepth 100000 in
theorem wC1_dead (l : Launch) (γ : KG) (hO : kOK γ) (h : CH) (o : Nat) (a0 : Int32) (z : Int32) (hz : C1_dead h o a0 = some z) : Met l yX1_dead (ws_ yX1_dead cX1_dead 4 (some .int)) (kRm 4 86) (cPc γ h [.ref o, .int a0]) (cRq (.int z)) 0 0 vp_nf := by
  refine c_startR (cc := cX1_dead) (own := RX1) hO rfl rfl rfl (fun p e R s m args below meth c Q ls X hR hH hDU hl hend => ?_)
  have hx := X.1.1
  have hb := X.1.2.1
  have hit := hz
  clear hz
  unfold C1_dead at hit
  have hl : lv_has ls 4 [(0, .ref o), (1, .int a0)] := hl
  refine lv_iconst (v := 0) hx hb dX1_dead_0 (by decide) ?_
  refine lv_istore_n (lv' := [(2, .int 0), (0, .ref o), (1, .int a0)]) hx hb dX1_dead_1 rfl hl (by decide) rfl (fun ls hl => ?_)
  refine lv_iconst (v := 0) hx hb dX1_dead_2 (by decide) ?_
  refine lv_istore_n (lv' := [(3, .int 0), (2, .int 0), (0, .ref o), (1, .int a0)]) hx hb dX1_dead_3 rfl hl (by decide) rfl (fun ls hl => ?_)
  refine o_rec (P := fun t1 => ∀ (ls : Array Slot), lv_has ls 4 [(0, .ref o), (1, .int a0), (2, .int t1.1), (3, .int t1.2)] → W p l e R s m args below meth c s.heap [] 0 0 Q (F0 m 4 ls [])) (fun t1 x2 hit hC1 hE1 ls hl => ?_) _ hit _ (lv_sub hl [2, 3, 1, 0] rfl)
  unfold C1_dead_L4 at hit
  refine lv_iload_n hx hb dX1_dead_4 rfl (lv_at hl 3 rfl) ?_
  refine lv_aload_n hx hb dX1_dead_5 rfl (lv_at hl 0 rfl) ?_
  obtain ⟨v3, ev3, hit⟩ := o_bind hit
  refine c_getR X hH kc_TwinInk 1 q277 (Or.inl rfl) rfl rfl ev3 dX1_dead_6 ?_
  obtain ⟨v4, ev4, hit⟩ := o_bind hit
  refine c_getNR X hH kc_Office 0 q210 (Or.inl rfl) rfl rfl ev4 dX1_dead_9 ?_
  obtain ⟨q5, eq5, hit⟩ := o_bind hit
  obtain ⟨iq5, eq5⟩ := vc_inv eq5
  refine c_cRF X hH hDU kc_ArrayList (wCJ2_size l γ X.2.1 _ _  _ eq5) iq5 nmi_List_size q423 q428 q139 q430 q426 q425 q424 q429 q427 q358 ⟨Nat.le_trans (Nat.le_of_ble_eq_true rfl) hR.1, Nat.le_trans (Nat.le_of_ble_eq_true rfl) hR.2⟩ ⟨Nat.zero_le _, Nat.zero_le _⟩ rfl rfl hl.1 (lv_room (Nat.le_of_ble_eq_true rfl)) dX1_dead_12 ?_
  refine b_icmp_ge (tgt := 41) hx hb dX1_dead_17 (by decide) hit (fun c6 hit => ?_) (fun c6 hit => ?_)
  · refine lv_iload_n hx hb dX1_dead_41 rfl (lv_at hl 2 rfl) ?_
    have he := o_in hit
    have he := hE1 _ he
    exact hend (.int t1.1) _ _ _ _ (kOut_i rfl) (congrArg Value.int he) dX1_dead_42
  · refine lv_aload_n hx hb dX1_dead_20 rfl (lv_at hl 0 rfl) ?_
    refine lv_iload_n hx hb dX1_dead_21 rfl (lv_at hl 3 rfl) ?_
    refine lv_iload_n hx hb dX1_dead_22 rfl (lv_at hl 1 rfl) ?_
    obtain ⟨q7, eq7, hit⟩ := o_bind hit
    obtain ⟨iq7, eq7⟩ := vc_inv eq7
    refine c_cR X hH hDU kc_TwinInk (wC1_isDead l γ X.2.1 _ _ _ _ _ eq7) iq7 nm_X1_isDead q1353 q1355 q135 q1356 qs43 ⟨Nat.le_trans (Nat.le_of_ble_eq_true rfl) hR.1, Nat.le_trans (Nat.le_of_ble_eq_true rfl) hR.2⟩ ⟨Nat.zero_le _, Nat.zero_le _⟩ rfl rfl hl.1 (lv_room (Nat.le_of_ble_eq_true rfl)) dX1_dead_23 ?_
    obtain ⟨r8, er8, hit⟩ := o_bind hit
    have hr8 : ∀ (ls : Array Slot), lv_has ls 4 [(0, .ref o), (1, .int a0), (3, .int t1.2), (2, .int r8)] → W p l e R s m args below meth c s.heap [] 0 0 Q (F0 m 35 ls []) := by
      intro ls hl
      refine lv_iinc (k := 2) (v := (t1.2 + 1)) (lv' := [(3, .int (t1.2 + 1)), (0, .ref o), (1, .int a0), (2, .int r8)]) hx hb dX1_dead_35 hl rfl rfl (by decide) rfl (fun ls hl => ?_)
      refine lv_goto (tgt := 4) hx hb dX1_dead_38 (by decide) ?_
      have he := o_in hit
      exact hC1 _ he _ (lv_sub hl [1, 2, 3, 0] rfl)
    have hit := er8
    refine b_if_eq (tgt := 35) hx hb dX1_dead_26 (by decide) hit (fun c9 hit => ?_) (fun c9 hit => ?_)
    · have he := o_in hit
      subst he
      exact hr8 _ (lv_sub hl [0, 1, 3, 2] rfl)
    · refine lv_iload_n hx hb dX1_dead_29 rfl (lv_at hl 2 rfl) ?_
      refine lv_iconst (v := 1) hx hb dX1_dead_30 (by decide) ?_
      refine lv_iload_n hx hb dX1_dead_31 rfl (lv_at hl 3 rfl) ?_
      refine lv_ishl hx hb dX1_dead_32 ?_
      refine lv_ior hx hb dX1_dead_33 ?_
      refine lv_istore_n (lv' := [(2, .int (t1.1 ||| ((1 : Int32) <<< (t1.2 &&& 31)))), (0, .ref o), (1, .int a0), (3, .int t1.2)]) hx hb dX1_dead_34 rfl hl (by decide) rfl (fun ls hl => ?_)
      have he := o_in hit
      subst he
      exact hr8 _ (lv_sub hl [1, 2, 3, 0] rfl)
noncomputable def C1_lost (h : CH) (o : Nat) (a0 : Int32) : Option (Int32) :=
  (gR h o 1 2).bind fun v1 =>
  (vc h v1 3 (C3_burnt h v1)).bind fun q2 =>
  (vc h o 1 (C1_dead h o (q2 ||| a0))).bind fun q3 =>
  (gR h o 1 2).bind fun v4 =>
  (vc h v4 3 (C3_burnt h v4)).bind fun q5 =>
  (vc h o 1 (C1_dead h o q5)).bind fun q6 =>
  some (q3 &&& (q6 ^^^ (-1)))
theorem nm_X1_lost : kNm yX1_lost RX1 1 := by unfold kNm; decide +kernel
set_option maxHeartbeats 4000000 in
set_option maxRecDepth 100000 in
theorem wC1_lost (l : Launch) (γ : KG) (hO : kOK γ) (h : CH) (o : Nat) (a0 : Int32) (z : Int32) (hz : C1_lost h o a0 = some z) : Met l yX1_lost (ws_ yX1_lost cX1_lost 2 (some .int)) (kRm 5 109) (cPc γ h [.ref o, .int a0]) (cRq (.int z)) 0 0 vp_nf := by
  refine c_startR (cc := cX1_lost) (own := RX1) hO rfl rfl rfl (fun p e R s m args below meth c Q ls X hR hH hDU hl hend => ?_)
  have hx := X.1.1
  have hb := X.1.2.1
  have hit := hz
  clear hz
  unfold C1_lost at hit
  have hl : lv_has ls 2 [(0, .ref o), (1, .int a0)] := hl
  refine lv_aload_n hx hb dX1_lost_0 rfl (lv_at hl 0 rfl) ?_
  refine lv_aload_n hx hb dX1_lost_1 rfl (lv_at hl 0 rfl) ?_
  obtain ⟨v1, ev1, hit⟩ := o_bind hit
  refine c_getR X hH kc_TwinInk 2 q278 (Or.inl rfl) rfl rfl ev1 dX1_lost_2 ?_
  obtain ⟨q2, eq2, hit⟩ := o_bind hit
  obtain ⟨iq2, eq2⟩ := vc_inv eq2
  refine c_cR X hH hDU kc_Service (wC3_burnt l γ X.2.1 _ _  _ eq2) iq2 nm_X3_burnt q1232 q1233 q140 q1235 q1234 ⟨Nat.le_trans (Nat.le_of_ble_eq_true rfl) hR.1, Nat.le_trans (Nat.le_of_ble_eq_true rfl) hR.2⟩ ⟨Nat.zero_le _, Nat.zero_le _⟩ rfl rfl hl.1 (lv_room (Nat.le_of_ble_eq_true rfl)) dX1_lost_5 ?_
  refine lv_iload_n hx hb dX1_lost_8 rfl (lv_at hl 1 rfl) ?_
  refine lv_ior hx hb dX1_lost_9 ?_
  obtain ⟨q3, eq3, hit⟩ := o_bind hit
  obtain ⟨iq3, eq3⟩ := vc_inv eq3
  refine c_cR X hH hDU kc_TwinInk (wC1_dead l γ X.2.1 _ _ _ _ eq3) iq3 nm_X1_dead q1349 q1351 q135 q1352 qs42 ⟨Nat.le_trans (Nat.le_of_ble_eq_true rfl) hR.1, Nat.le_trans (Nat.le_of_ble_eq_true rfl) hR.2⟩ ⟨Nat.zero_le _, Nat.zero_le _⟩ rfl rfl hl.1 (lv_room (Nat.le_of_ble_eq_true rfl)) dX1_lost_10 ?_
  refine lv_aload_n hx hb dX1_lost_13 rfl (lv_at hl 0 rfl) ?_
  refine lv_aload_n hx hb dX1_lost_14 rfl (lv_at hl 0 rfl) ?_
  obtain ⟨v4, ev4, hit⟩ := o_bind hit
  refine c_getR X hH kc_TwinInk 2 q278 (Or.inl rfl) rfl rfl ev4 dX1_lost_15 ?_
  obtain ⟨q5, eq5, hit⟩ := o_bind hit
  obtain ⟨iq5, eq5⟩ := vc_inv eq5
  refine c_cR X hH hDU kc_Service (wC3_burnt l γ X.2.1 _ _  _ eq5) iq5 nm_X3_burnt q1232 q1233 q140 q1235 q1234 ⟨Nat.le_trans (Nat.le_of_ble_eq_true rfl) hR.1, Nat.le_trans (Nat.le_of_ble_eq_true rfl) hR.2⟩ ⟨Nat.zero_le _, Nat.zero_le _⟩ rfl rfl hl.1 (lv_room (Nat.le_of_ble_eq_true rfl)) dX1_lost_18 ?_
  obtain ⟨q6, eq6, hit⟩ := o_bind hit
  obtain ⟨iq6, eq6⟩ := vc_inv eq6
  refine c_cR X hH hDU kc_TwinInk (wC1_dead l γ X.2.1 _ _ _ _ eq6) iq6 nm_X1_dead q1349 q1351 q135 q1352 qs42 ⟨Nat.le_trans (Nat.le_of_ble_eq_true rfl) hR.1, Nat.le_trans (Nat.le_of_ble_eq_true rfl) hR.2⟩ ⟨Nat.zero_le _, Nat.zero_le _⟩ rfl rfl hl.1 (lv_room (Nat.le_of_ble_eq_true rfl)) dX1_lost_21 ?_
  refine lv_iconst (v := (-1)) hx hb dX1_lost_24 (by decide) ?_
  refine lv_ixor hx hb dX1_lost_25 ?_
  refine lv_iand hx hb dX1_lost_26 ?_
  have he := o_in hit
  exact hend (.int (q3 &&& (q6 ^^^ (-1)))) _ _ _ _ (kOut_i rfl) (congrArg Value.int he) dX1_lost_27
noncomputable def C3_archive_L4 (h : CH) (o : Nat) (a0 : Int32) (t1 : Int32 × Int32) : Option ((Int32 × Int32) ⊕ Int32) :=
  (gR h o 3 5).bind fun v3 =>
  (gR h v3 1 1).bind fun v4 =>
  (gI h v4 2 2).bind fun v5 =>
  if t1.2 < v5 then
    ((gR h o 3 2).bind fun v7 =>
    (aI h v7 0 t1.2).bind fun v8 =>
    ((if v8 = a0 then
        (some (t1.1 ||| ((1 : Int32) <<< (t1.2 &&& 31))))
      else
        (some t1.1) : Option Int32)).bind fun r9 =>
    some (.inl (r9, (t1.2 + 1))))
  else
    (some (.inr t1.1))
noncomputable def C3_archive (h : CH) (o : Nat) (a0 : Int32) : Option (Int32) :=
  o_loop (C3_archive_L4 h o a0) (0, 0)
theorem nm_X3_archive : kNm yX3_archive RX3 1 := by unfold kNm; decide +kernel
set_option maxHeartbeats 4000000 in
set_option maxRecDepth 100000 in
theorem wC3_archive (l : Launch) (γ : KG) (hO : kOK γ) (h : CH) (o : Nat) (a0 : Int32) (z : Int32) (hz : C3_archive h o a0 = some z) : Met l yX3_archive (ws_ yX3_archive cX3_archive 4 (some .int)) (kRm 0 0) (cPc γ h [.ref o, .int a0]) (cRq (.int z)) 0 0 vp_nf := by
  refine c_startR (cc := cX3_archive) (own := RX3) hO rfl rfl rfl (fun p e R s m args below meth c Q ls X hR hH hDU hl hend => ?_)
  have hx := X.1.1
  have hb := X.1.2.1
  have hit := hz
  clear hz
  unfold C3_archive at hit
  have hl : lv_has ls 4 [(0, .ref o), (1, .int a0)] := hl
  refine lv_iconst (v := 0) hx hb dX3_archive_0 (by decide) ?_
  refine lv_istore_n (lv' := [(2, .int 0), (0, .ref o), (1, .int a0)]) hx hb dX3_archive_1 rfl hl (by decide) rfl (fun ls hl => ?_)
  refine lv_iconst (v := 0) hx hb dX3_archive_2 (by decide) ?_
  refine lv_istore_n (lv' := [(3, .int 0), (2, .int 0), (0, .ref o), (1, .int a0)]) hx hb dX3_archive_3 rfl hl (by decide) rfl (fun ls hl => ?_)
  refine o_rec (P := fun t1 => ∀ (ls : Array Slot), lv_has ls 4 [(0, .ref o), (1, .int a0), (2, .int t1.1), (3, .int t1.2)] → W p l e R s m args below meth c s.heap [] 0 0 Q (F0 m 4 ls [])) (fun t1 x2 hit hC1 hE1 ls hl => ?_) _ hit _ (lv_sub hl [2, 3, 1, 0] rfl)
  unfold C3_archive_L4 at hit
  refine lv_iload_n hx hb dX3_archive_4 rfl (lv_at hl 3 rfl) ?_
  refine lv_aload_n hx hb dX3_archive_5 rfl (lv_at hl 0 rfl) ?_
  obtain ⟨v3, ev3, hit⟩ := o_bind hit
  refine c_getR X hH kc_Service 5 q258 (Or.inl rfl) rfl rfl ev3 dX3_archive_6 ?_
  obtain ⟨v4, ev4, hit⟩ := o_bind hit
  refine c_getNR X hH kc_TwinInk 1 q276 (Or.inl rfl) rfl rfl ev4 dX3_archive_9 ?_
  obtain ⟨v5, ev5, hit⟩ := o_bind hit
  refine c_getNI X hH kc_Office 2 q217 (Or.inl rfl) rfl rfl ev5 dX3_archive_12 ?_
  refine b_icmp_ge (tgt := 40) hx hb dX3_archive_15 (by decide) hit (fun c6 hit => ?_) (fun c6 hit => ?_)
  · refine lv_iload_n hx hb dX3_archive_40 rfl (lv_at hl 2 rfl) ?_
    have he := o_in hit
    have he := hE1 _ he
    exact hend (.int t1.1) _ _ _ _ (kOut_i rfl) (congrArg Value.int he) dX3_archive_41
  · refine lv_aload_n hx hb dX3_archive_18 rfl (lv_at hl 0 rfl) ?_
    obtain ⟨v7, ev7, hit⟩ := o_bind hit
    refine c_getR X hH kc_Service 2 q251 (Or.inl rfl) rfl rfl ev7 dX3_archive_19 ?_
    refine lv_iload_n hx hb dX3_archive_22 rfl (lv_at hl 3 rfl) ?_
    obtain ⟨v8, ev8, hit⟩ := o_bind hit
    refine c_iald X hH ev8 dX3_archive_23 ?_
    refine lv_iload_n hx hb dX3_archive_24 rfl (lv_at hl 1 rfl) ?_
    obtain ⟨r9, er9, hit⟩ := o_bind hit
    have hr9 : ∀ (ls : Array Slot), lv_has ls 4 [(0, .ref o), (1, .int a0), (3, .int t1.2), (2, .int r9)] → W p l e R s m args below meth c s.heap [] 0 0 Q (F0 m 34 ls []) := by
      intro ls hl
      refine lv_iinc (k := 2) (v := (t1.2 + 1)) (lv' := [(3, .int (t1.2 + 1)), (0, .ref o), (1, .int a0), (2, .int r9)]) hx hb dX3_archive_34 hl rfl rfl (by decide) rfl (fun ls hl => ?_)
      refine lv_goto (tgt := 4) hx hb dX3_archive_37 (by decide) ?_
      have he := o_in hit
      exact hC1 _ he _ (lv_sub hl [1, 2, 3, 0] rfl)
    have hit := er9
    refine b_icmp_ne (tgt := 34) hx hb dX3_archive_25 (by decide) hit (fun c10 hit => ?_) (fun c10 hit => ?_)
    · have he := o_in hit
      subst he
      exact hr9 _ (lv_sub hl [0, 1, 3, 2] rfl)
    · refine lv_iload_n hx hb dX3_archive_28 rfl (lv_at hl 2 rfl) ?_
      refine lv_iconst (v := 1) hx hb dX3_archive_29 (by decide) ?_
      refine lv_iload_n hx hb dX3_archive_30 rfl (lv_at hl 3 rfl) ?_
      refine lv_ishl hx hb dX3_archive_31 ?_
      refine lv_ior hx hb dX3_archive_32 ?_
      refine lv_istore_n (lv' := [(2, .int (t1.1 ||| ((1 : Int32) <<< (t1.2 &&& 31)))), (0, .ref o), (1, .int a0), (3, .int t1.2)]) hx hb dX3_archive_33 rfl hl (by decide) rfl (fun ls hl => ?_)
      have he := o_in hit
      subst he
      exact hr9 _ (lv_sub hl [1, 2, 3, 0] rfl)
noncomputable def C3_clerksIn_L4 (h : CH) (o : Nat) (a0 : Int32) (t1 : Int32 × Int32) : Option ((Int32 × Int32) ⊕ Int32) :=
  (gR h o 3 5).bind fun v3 =>
  (gR h v3 1 1).bind fun v4 =>
  (vc h v4 2 (C2_clerks h v4)).bind fun q5 =>
  if t1.2 < q5 then
    ((vc h o 3 (C3_town h o t1.2)).bind fun q7 =>
    ((if q7 = a0 then
        (some (t1.1 ||| ((1 : Int32) <<< (t1.2 &&& 31))))
      else
        (some t1.1) : Option Int32)).bind fun r8 =>
    some (.inl (r8, (t1.2 + 1))))
  else
    (some (.inr t1.1))
noncomputable def C3_clerksIn (h : CH) (o : Nat) (a0 : Int32) : Option (Int32) :=
  o_loop (C3_clerksIn_L4 h o a0) (0, 0)
theorem nm_X3_clerksIn : kNm yX3_clerksIn RX3 1 := by unfold kNm; decide +kernel
set_option maxHeartbeats 4000000 in
set_option maxRecDepth 100000 in
theorem wC3_clerksIn (l : Launch) (γ : KG) (hO : kOK γ) (h : CH) (o : Nat) (a0 : Int32) (z : Int32) (hz : C3_clerksIn h o a0 = some z) : Met l yX3_clerksIn (ws_ yX3_clerksIn cX3_clerksIn 4 (some .int)) (kRm 5 107) (cPc γ h [.ref o, .int a0]) (cRq (.int z)) 0 0 vp_nf := by
  refine c_startR (cc := cX3_clerksIn) (own := RX3) hO rfl rfl rfl (fun p e R s m args below meth c Q ls X hR hH hDU hl hend => ?_)
  have hx := X.1.1
  have hb := X.1.2.1
  have hit := hz
  clear hz
  unfold C3_clerksIn at hit
  have hl : lv_has ls 4 [(0, .ref o), (1, .int a0)] := hl
  refine lv_iconst (v := 0) hx hb dX3_clerksIn_0 (by decide) ?_
  refine lv_istore_n (lv' := [(2, .int 0), (0, .ref o), (1, .int a0)]) hx hb dX3_clerksIn_1 rfl hl (by decide) rfl (fun ls hl => ?_)
  refine lv_iconst (v := 0) hx hb dX3_clerksIn_2 (by decide) ?_
  refine lv_istore_n (lv' := [(3, .int 0), (2, .int 0), (0, .ref o), (1, .int a0)]) hx hb dX3_clerksIn_3 rfl hl (by decide) rfl (fun ls hl => ?_)
  refine o_rec (P := fun t1 => ∀ (ls : Array Slot), lv_has ls 4 [(0, .ref o), (1, .int a0), (2, .int t1.1), (3, .int t1.2)] → W p l e R s m args below meth c s.heap [] 0 0 Q (F0 m 4 ls [])) (fun t1 x2 hit hC1 hE1 ls hl => ?_) _ hit _ (lv_sub hl [2, 3, 1, 0] rfl)
  unfold C3_clerksIn_L4 at hit
  refine lv_iload_n hx hb dX3_clerksIn_4 rfl (lv_at hl 3 rfl) ?_
  refine lv_aload_n hx hb dX3_clerksIn_5 rfl (lv_at hl 0 rfl) ?_
  obtain ⟨v3, ev3, hit⟩ := o_bind hit
  refine c_getR X hH kc_Service 5 q258 (Or.inl rfl) rfl rfl ev3 dX3_clerksIn_6 ?_
  obtain ⟨v4, ev4, hit⟩ := o_bind hit
  refine c_getNR X hH kc_TwinInk 1 q276 (Or.inl rfl) rfl rfl ev4 dX3_clerksIn_9 ?_
  obtain ⟨q5, eq5, hit⟩ := o_bind hit
  obtain ⟨iq5, eq5⟩ := vc_inv eq5
  refine c_cR X hH hDU kc_Office (wC2_clerks l γ X.2.1 _ _  _ eq5) iq5 nm_X2_clerks q463 q464 q136 q466 q465 ⟨Nat.le_trans (Nat.le_of_ble_eq_true rfl) hR.1, Nat.le_trans (Nat.le_of_ble_eq_true rfl) hR.2⟩ ⟨Nat.zero_le _, Nat.zero_le _⟩ rfl rfl hl.1 (lv_room (Nat.le_of_ble_eq_true rfl)) dX3_clerksIn_12 ?_
  refine b_icmp_ge (tgt := 39) hx hb dX3_clerksIn_15 (by decide) hit (fun c6 hit => ?_) (fun c6 hit => ?_)
  · refine lv_iload_n hx hb dX3_clerksIn_39 rfl (lv_at hl 2 rfl) ?_
    have he := o_in hit
    have he := hE1 _ he
    exact hend (.int t1.1) _ _ _ _ (kOut_i rfl) (congrArg Value.int he) dX3_clerksIn_40
  · refine lv_aload_n hx hb dX3_clerksIn_18 rfl (lv_at hl 0 rfl) ?_
    refine lv_iload_n hx hb dX3_clerksIn_19 rfl (lv_at hl 3 rfl) ?_
    obtain ⟨q7, eq7, hit⟩ := o_bind hit
    obtain ⟨iq7, eq7⟩ := vc_inv eq7
    refine c_cR X hH hDU kc_Service (wC3_town l γ X.2.1 _ _ _ _ eq7) iq7 nm_X3_town q469 q470 q140 q472 q471 ⟨Nat.le_trans (Nat.le_of_ble_eq_true rfl) hR.1, Nat.le_trans (Nat.le_of_ble_eq_true rfl) hR.2⟩ ⟨Nat.zero_le _, Nat.zero_le _⟩ rfl rfl hl.1 (lv_room (Nat.le_of_ble_eq_true rfl)) dX3_clerksIn_20 ?_
    refine lv_iload_n hx hb dX3_clerksIn_23 rfl (lv_at hl 1 rfl) ?_
    obtain ⟨r8, er8, hit⟩ := o_bind hit
    have hr8 : ∀ (ls : Array Slot), lv_has ls 4 [(0, .ref o), (1, .int a0), (3, .int t1.2), (2, .int r8)] → W p l e R s m args below meth c s.heap [] 0 0 Q (F0 m 33 ls []) := by
      intro ls hl
      refine lv_iinc (k := 2) (v := (t1.2 + 1)) (lv' := [(3, .int (t1.2 + 1)), (0, .ref o), (1, .int a0), (2, .int r8)]) hx hb dX3_clerksIn_33 hl rfl rfl (by decide) rfl (fun ls hl => ?_)
      refine lv_goto (tgt := 4) hx hb dX3_clerksIn_36 (by decide) ?_
      have he := o_in hit
      exact hC1 _ he _ (lv_sub hl [1, 2, 3, 0] rfl)
    have hit := er8
    refine b_icmp_ne (tgt := 33) hx hb dX3_clerksIn_24 (by decide) hit (fun c9 hit => ?_) (fun c9 hit => ?_)
    · have he := o_in hit
      subst he
      exact hr8 _ (lv_sub hl [0, 1, 3, 2] rfl)
    · refine lv_iload_n hx hb dX3_clerksIn_27 rfl (lv_at hl 2 rfl) ?_
      refine lv_iconst (v := 1) hx hb dX3_clerksIn_28 (by decide) ?_
      refine lv_iload_n hx hb dX3_clerksIn_29 rfl (lv_at hl 3 rfl) ?_
      refine lv_ishl hx hb dX3_clerksIn_30 ?_
      refine lv_ior hx hb dX3_clerksIn_31 ?_
      refine lv_istore_n (lv' := [(2, .int (t1.1 ||| ((1 : Int32) <<< (t1.2 &&& 31)))), (0, .ref o), (1, .int a0), (3, .int t1.2)]) hx hb dX3_clerksIn_32 rfl hl (by decide) rfl (fun ls hl => ?_)
      have he := o_in hit
      subst he
      exact hr8 _ (lv_sub hl [1, 2, 3, 0] rfl)
noncomputable def C3_be_L52 (o : Nat) (a0 : Nat) (t4 : Int32 × CH) : Option ((Int32 × CH) ⊕ CH) :=
  if t4.1 < 6 then
    ((gR t4.2 o 3 3).bind fun v10 =>
    (gR t4.2 a0 3 3).bind fun v11 =>
    (aI t4.2 v11 0 t4.1).bind fun v12 =>
    (sI t4.2 v10 0 t4.1 v12).bind fun s13 =>
    some (.inl ((t4.1 + 1), s13)))
  else
    (some (.inr t4.2))
noncomputable def C3_be_L2 (o : Nat) (a0 : Nat) (t1 : Int32 × CH) : Option ((Int32 × CH) ⊕ CH) :=
  if t1.1 < 9 then
    ((gR t1.2 o 3 0).bind fun v15 =>
    (gR t1.2 a0 3 0).bind fun v16 =>
    (aI t1.2 v16 0 t1.1).bind fun v17 =>
    (sI t1.2 v15 0 t1.1 v17).bind fun s18 =>
    (gR s18 o 3 1).bind fun v19 =>
    (gR s18 a0 3 1).bind fun v20 =>
    (aI s18 v20 0 t1.1).bind fun v21 =>
    (sI s18 v19 0 t1.1 v21).bind fun s22 =>
    (gR s22 o 3 2).bind fun v23 =>
    (gR s22 a0 3 2).bind fun v24 =>
    (aI s22 v24 0 t1.1).bind fun v25 =>
    (sI s22 v23 0 t1.1 v25).bind fun s26 =>
    some (.inl ((t1.1 + 1), s26)))
  else
    (some (.inr t1.2))
noncomputable def C3_be (h : CH) (o : Nat) (a0 : Nat) : Option (Nat × CH) :=
  (o_loop (C3_be_L2 o a0) (0, h)).bind fun r3 =>
  (o_loop (C3_be_L52 o a0) (0, r3)).bind fun r6 =>
  (gI r6 a0 3 4).bind fun v7 =>
  (pI r6 o 3 4 v7).bind fun s8 =>
  some (o, s8)
theorem nm_X3_be : kNm yX3_be RX3 1 := by unfold kNm; decide +kernel
set_option maxHeartbeats 4000000 in
set_option maxRecDepth 100000 in
theorem wC3_be (l : Launch) (γ : KG) (hO : kOK γ) (h : CH) (o : Nat) (a0 : Nat) (z : Nat × CH) (hz : C3_be h o a0 = some z) : Met l yX3_be (ws_ yX3_be cX3_be 3 (some (.object "TwinInk$Service"))) (kRm 0 0) (cPc γ h [.ref o, .ref a0]) (cNq γ h (some (.ref z.1)) z.2) 0 0 (kdm h) := by
  refine c_startN (cc := cX3_be) (own := RX3) hO rfl rfl rfl (fun p e R s m args below meth c Q ls X hR h0H hI hl hend => ?_)
  have hx := X.1.1
  have hb := X.1.2.1
  have hit := hz
  clear hz
  unfold C3_be at hit
  have hl : lv_has ls 3 [(0, .ref o), (1, .ref a0)] := hl
  refine lv_iconst (v := 0) hx hb dX3_be_0 (by decide) ?_
  refine lv_istore_n (lv' := [(2, .int 0), (0, .ref o), (1, .ref a0)]) hx hb dX3_be_1 rfl hl (by decide) rfl (fun ls hl => ?_)
  obtain ⟨r3, er3, hit⟩ := o_bind hit
  have hr3 : ∀ (H : Heap) (locs : List Loc) (ls : Array Slot), NI γ (kdm h) s.heap.size s r3 H locs → lv_has ls 3 [(0, .ref o), (1, .ref a0)] → W p l e R s m args below meth c H locs 0 0 Q (F0 m 50 ls []) := by
    intro H locs ls hI hl
    refine lv_iconst (v := 0) hx hb dX3_be_50 (by decide) ?_
    refine lv_istore_n (lv' := [(2, .int 0), (0, .ref o), (1, .ref a0)]) hx hb dX3_be_51 rfl hl (by decide) rfl (fun ls hl => ?_)
    obtain ⟨r6, er6, hit⟩ := o_bind hit
    have hr6 : ∀ (H : Heap) (locs : List Loc) (ls : Array Slot), NI γ (kdm h) s.heap.size s r6 H locs → lv_has ls 3 [(0, .ref o), (1, .ref a0)] → W p l e R s m args below meth c H locs 0 0 Q (F0 m 76 ls []) := by
      intro H locs ls hI hl
      refine lv_aload_n hx hb dX3_be_76 rfl (lv_at hl 0 rfl) ?_
      refine lv_aload_n hx hb dX3_be_77 rfl (lv_at hl 1 rfl) ?_
      obtain ⟨v7, ev7, hit⟩ := o_bind hit
      refine c_getI X hI.1 kc_Service 4 q256 (Or.inl rfl) rfl rfl ev7 dX3_be_78 ?_
      obtain ⟨s8, es8, hit⟩ := o_bind hit
      refine c_putI X hI kc_Service 4 q256 (Or.inl rfl) rfl rfl (tyv := .int) rfl rfl rfl es8 dX3_be_81 (fun H locs hI => ?_)
      refine lv_aload_n hx hb dX3_be_84 rfl (lv_at hl 0 rfl) ?_
      have he := o_in hit
      exact hend (some (.ref o)) _ _ _ _ _ _ _ (kOut_o) (by subst he; rfl) hI dX3_be_85
    refine o_rec (P := fun t4 => ∀ (H : Heap) (locs : List Loc) (ls : Array Slot), NI γ (kdm h) s.heap.size s t4.2 H locs → lv_has ls 3 [(0, .ref o), (1, .ref a0), (2, .int t4.1)] → W p l e R s m args below meth c H locs 0 0 Q (F0 m 52 ls [])) (fun t4 x5 hit hC4 hE4 H locs ls hI hl => ?_) _ er6 _ _ _ hI (lv_sub hl [1, 2, 0] rfl)
    unfold C3_be_L52 at hit
    refine lv_iload_n hx hb dX3_be_52 rfl (lv_at hl 2 rfl) ?_
    refine lv_bipush (v := 6) hx hb dX3_be_53 (by decide) ?_
    refine b_icmp_ge (tgt := 76) hx hb dX3_be_55 (by decide) hit (fun c9 hit => ?_) (fun c9 hit => ?_)
    · have he := o_in hit
      have he := hE4 _ he
      subst he
      exact hr6 _ _ _ hI (lv_sub hl [0, 1] rfl)
    · refine lv_aload_n hx hb dX3_be_58 rfl (lv_at hl 0 rfl) ?_
      obtain ⟨v10, ev10, hit⟩ := o_bind hit
      refine c_getR X hI.1 kc_Service 3 q254 (Or.inl rfl) rfl rfl ev10 dX3_be_59 ?_
      refine lv_iload_n hx hb dX3_be_62 rfl (lv_at hl 2 rfl) ?_
      refine lv_aload_n hx hb dX3_be_63 rfl (lv_at hl 1 rfl) ?_
      obtain ⟨v11, ev11, hit⟩ := o_bind hit
      refine c_getR X hI.1 kc_Service 3 q254 (Or.inl rfl) rfl rfl ev11 dX3_be_64 ?_
      refine lv_iload_n hx hb dX3_be_67 rfl (lv_at hl 2 rfl) ?_
      obtain ⟨v12, ev12, hit⟩ := o_bind hit
      refine c_iald X hI.1 ev12 dX3_be_68 ?_
      obtain ⟨s13, es13, hit⟩ := o_bind hit
      refine c_iast X hI es13 dX3_be_69 (fun H locs hI => ?_)
      refine lv_iinc (k := 2) (v := (t4.1 + 1)) (lv' := [(2, .int (t4.1 + 1)), (0, .ref o), (1, .ref a0)]) hx hb dX3_be_70 hl rfl rfl (by decide) rfl (fun ls hl => ?_)
      refine lv_goto (tgt := 52) hx hb dX3_be_73 (by decide) ?_
      have he := o_in hit
      exact hC4 _ he _ _ _ hI (lv_sub hl [1, 2, 0] rfl)
  refine o_rec (P := fun t1 => ∀ (H : Heap) (locs : List Loc) (ls : Array Slot), NI γ (kdm h) s.heap.size s t1.2 H locs → lv_has ls 3 [(0, .ref o), (1, .ref a0), (2, .int t1.1)] → W p l e R s m args below meth c H locs 0 0 Q (F0 m 2 ls [])) (fun t1 x2 hit hC1 hE1 H locs ls hI hl => ?_) _ er3 _ _ _ hI (lv_sub hl [1, 2, 0] rfl)
  unfold C3_be_L2 at hit
  refine lv_iload_n hx hb dX3_be_2 rfl (lv_at hl 2 rfl) ?_
  refine lv_bipush (v := 9) hx hb dX3_be_3 (by decide) ?_
  refine b_icmp_ge (tgt := 50) hx hb dX3_be_5 (by decide) hit (fun c14 hit => ?_) (fun c14 hit => ?_)
  · have he := o_in hit
    have he := hE1 _ he
    subst he
    exact hr3 _ _ _ hI (lv_sub hl [0, 1] rfl)
  · refine lv_aload_n hx hb dX3_be_8 rfl (lv_at hl 0 rfl) ?_
    obtain ⟨v15, ev15, hit⟩ := o_bind hit
    refine c_getR X hI.1 kc_Service 0 q245 (Or.inl rfl) rfl rfl ev15 dX3_be_9 ?_
    refine lv_iload_n hx hb dX3_be_12 rfl (lv_at hl 2 rfl) ?_
    refine lv_aload_n hx hb dX3_be_13 rfl (lv_at hl 1 rfl) ?_
    obtain ⟨v16, ev16, hit⟩ := o_bind hit
    refine c_getR X hI.1 kc_Service 0 q245 (Or.inl rfl) rfl rfl ev16 dX3_be_14 ?_
    refine lv_iload_n hx hb dX3_be_17 rfl (lv_at hl 2 rfl) ?_
    obtain ⟨v17, ev17, hit⟩ := o_bind hit
    refine c_iald X hI.1 ev17 dX3_be_18 ?_
    obtain ⟨s18, es18, hit⟩ := o_bind hit
    refine c_iast X hI es18 dX3_be_19 (fun H locs hI => ?_)
    refine lv_aload_n hx hb dX3_be_20 rfl (lv_at hl 0 rfl) ?_
    obtain ⟨v19, ev19, hit⟩ := o_bind hit
    refine c_getR X hI.1 kc_Service 1 q248 (Or.inl rfl) rfl rfl ev19 dX3_be_21 ?_
    refine lv_iload_n hx hb dX3_be_24 rfl (lv_at hl 2 rfl) ?_
    refine lv_aload_n hx hb dX3_be_25 rfl (lv_at hl 1 rfl) ?_
    obtain ⟨v20, ev20, hit⟩ := o_bind hit
    refine c_getR X hI.1 kc_Service 1 q248 (Or.inl rfl) rfl rfl ev20 dX3_be_26 ?_
    refine lv_iload_n hx hb dX3_be_29 rfl (lv_at hl 2 rfl) ?_
    obtain ⟨v21, ev21, hit⟩ := o_bind hit
    refine c_iald X hI.1 ev21 dX3_be_30 ?_
    obtain ⟨s22, es22, hit⟩ := o_bind hit
    refine c_iast X hI es22 dX3_be_31 (fun H locs hI => ?_)
    refine lv_aload_n hx hb dX3_be_32 rfl (lv_at hl 0 rfl) ?_
    obtain ⟨v23, ev23, hit⟩ := o_bind hit
    refine c_getR X hI.1 kc_Service 2 q251 (Or.inl rfl) rfl rfl ev23 dX3_be_33 ?_
    refine lv_iload_n hx hb dX3_be_36 rfl (lv_at hl 2 rfl) ?_
    refine lv_aload_n hx hb dX3_be_37 rfl (lv_at hl 1 rfl) ?_
    obtain ⟨v24, ev24, hit⟩ := o_bind hit
    refine c_getR X hI.1 kc_Service 2 q251 (Or.inl rfl) rfl rfl ev24 dX3_be_38 ?_
    refine lv_iload_n hx hb dX3_be_41 rfl (lv_at hl 2 rfl) ?_
    obtain ⟨v25, ev25, hit⟩ := o_bind hit
    refine c_iald X hI.1 ev25 dX3_be_42 ?_
    obtain ⟨s26, es26, hit⟩ := o_bind hit
    refine c_iast X hI es26 dX3_be_43 (fun H locs hI => ?_)
    refine lv_iinc (k := 2) (v := (t1.1 + 1)) (lv' := [(2, .int (t1.1 + 1)), (0, .ref o), (1, .ref a0)]) hx hb dX3_be_44 hl rfl rfl (by decide) rfl (fun ls hl => ?_)
    refine lv_goto (tgt := 2) hx hb dX3_be_47 (by decide) ?_
    have he := o_in hit
    exact hC1 _ he _ _ _ hI (lv_sub hl [1, 2, 0] rfl)
noncomputable def C3_copy (h : CH) (r : CR) (o : Nat) : Option (Nat × CS) :=
  (aCell h r 6 (.inr (3, [.null, .null, .null, .null, .int 0, .null]))).bind fun s1 =>
  (gR s1.1 o 3 5).bind fun v2 =>
  (achv s1.2 (C3_init s1.1 s1.2 r.1 v2)).bind fun q3 =>
  (vc q3.1 r.1 3 (C3_be q3.1 r.1 o)).bind fun q4 =>
  some (q4.1, (q4.2, q3.2))
theorem nm_X3_copy : kNm yX3_copy RX3 0 := by unfold kNm; decide +kernel
set_option maxHeartbeats 4000000 in
set_option maxRecDepth 100000 in
theorem wC3_copy (l : Launch) (γ : KG) (hO : kOK γ) (h : CH) (r : CR) (o : Nat) (z : Nat × CS) (hz : C3_copy h r o = some z) : aMet l yX3_copy (ws_ yX3_copy cX3_copy 1 (some (.object "TwinInk$Service"))) 2 51 γ (h, r) [.ref o] (some (.ref z.1)) z.2 := by
  refine a_start (cc := cX3_copy) (own := RX3) hO rfl rfl rfl (fun p e R s m args below meth c Q ls X hR hnm h0H hA hl hend => ?_)
  have hx := X.1.1
  have hb := X.1.2.1
  have hit := hz
  clear hz
  unfold C3_copy at hit
  have hl : lv_has ls 1 [(0, .ref o)] := hl
  obtain ⟨s1, es1, hit⟩ := o_bind hit
  refine a_new X hA kc_Service q348 q240 q140 (fs := [.null, .null, .null, .null, .int 0, .null]) (by decide +kernel) es1 dX3_copy_0 (fun H cells slots hA => ?_)
  refine lv_dup hx hb dX3_copy_3 rfl ?_
  refine lv_aload_n hx hb dX3_copy_4 rfl (lv_at hl 0 rfl) ?_
  obtain ⟨v2, ev2, hit⟩ := o_bind hit
  refine c_getR X hA.1.1 kc_Service 5 q258 (Or.inl rfl) rfl rfl ev2 dX3_copy_5 ?_
  obtain ⟨q3, eq3, hit⟩ := o_bind hit
  obtain ⟨eq3, lq3⟩ := achv_inv eq3
  refine a_cI X h0H hA nm_X3_init q349 q242 q140 q243 rfl (wC3_init l γ X.2.1 _ _ _ _ _ eq3) lq3 ⟨Nat.le_trans (Nat.le_of_ble_eq_true rfl) hR.1, Nat.le_trans (Nat.le_of_ble_eq_true rfl) hR.2⟩ rfl rfl hl.1 (lv_room (Nat.le_of_ble_eq_true rfl)) dX3_copy_8 (fun H locs cells slots hA => ?_)
  refine lv_aload_n hx hb dX3_copy_11 rfl (lv_at hl 0 rfl) ?_
  obtain ⟨q4, eq4, hit⟩ := o_bind hit
  obtain ⟨iq4, eq4⟩ := vc_inv eq4
  refine c_cN X (kA_F X.2.1 X.2.2 h0H) hA.1 kc_Service (wC3_be l γ X.2.1 _ _ _ _ eq4) iq4 nm_X3_be q350 q351 q140 q353 q352 ⟨Nat.le_trans (Nat.le_of_ble_eq_true rfl) hR.1, Nat.le_trans (Nat.le_of_ble_eq_true rfl) hR.2⟩ hA.RR rfl rfl hl.1 (lv_room (Nat.le_of_ble_eq_true rfl)) dX3_copy_12 (fun H locs hI => ?_)
  replace hA := hA.up hI
  clear hI
  have he := o_in hit
  exact hend (some (.ref q4.1)) (q4.2, q3.2) _ _ _ _ _ _ _ _ (kOut_o) (by subst he; rfl) hA dX3_copy_15
noncomputable def CJ15_hugeLength (a0 : Int32) (a1 : Int32) : Option (Int32) :=
  if (a0 + a1) < 0 then
    (none)
  else
    (if (a0 + a1) ≤ 2147483639 then
      (some 2147483639)
    else
      (some (a0 + a1)))
theorem nm_J15_hugeLength : kNm yJ15_hugeLength RJ15 2 := by unfold kNm; decide +kernel
set_option maxHeartbeats 4000000 in
set_option maxRecDepth 100000 in
theorem wCJ15_hugeLength (l : Launch) (a0 : Int32) (a1 : Int32) (z : Int32) (hz : CJ15_hugeLength a0 a1 = some z) : Met l yJ15_hugeLength (ws_ yJ15_hugeLength cJ15_hugeLength 3 (some .int)) (kRm 0 0) (bPc [.int a0, .int a1]) (vp_Si (fun r => r = z)) 0 0 vp_nf := by
  refine c_startP (cc := cJ15_hugeLength) (own := RJ15) (ty := .int) rfl rfl rfl (fun p e R s m args below meth c Q ls X hR hl hend => ?_)
  have hx := X.1
  have hb := X.2.1
  have hit := hz
  clear hz
  unfold CJ15_hugeLength at hit
  have hl : lv_has ls 3 [(0, .int a0), (1, .int a1)] := hl
  refine lv_iload_n hx hb dJ15_hugeLength_0 rfl (lv_at hl 0 rfl) ?_
  refine lv_iload_n hx hb dJ15_hugeLength_1 rfl (lv_at hl 1 rfl) ?_
  refine lv_iadd hx hb dJ15_hugeLength_2 ?_
  refine lv_istore_n (lv' := [(2, .int (a0 + a1)), (0, .int a0), (1, .int a1)]) hx hb dJ15_hugeLength_3 rfl hl (by decide) rfl (fun ls hl => ?_)
  refine lv_iload_n hx hb dJ15_hugeLength_4 rfl (lv_at hl 0 rfl) ?_
  refine b_if_ge (tgt := 49) hx hb dJ15_hugeLength_5 (by decide) hit (fun c1 hit => ?_) (fun c1 hit => ?_)
  · refine lv_iload_n hx hb dJ15_hugeLength_49 rfl (lv_at hl 0 rfl) ?_
    refine lv_ldc (v := 2147483639) hx hb X.2.2.2.1 (X.2.2.2.2 _ q382) dJ15_hugeLength_50 ?_
    refine b_icmp_gt (tgt := 58) hx hb dJ15_hugeLength_52 (by decide) hit (fun c2 hit => ?_) (fun c2 hit => ?_)
    · refine lv_iload_n hx hb dJ15_hugeLength_58 rfl (lv_at hl 0 rfl) ?_
      have he := o_in hit
      exact hend _ (a0 + a1) _ _ rfl he dJ15_hugeLength_59
    · refine lv_ldc (v := 2147483639) hx hb X.2.2.2.1 (X.2.2.2.2 _ q382) dJ15_hugeLength_55 ?_
      have he := o_in hit
      exact hend _ 2147483639 _ _ rfl he dJ15_hugeLength_57
  · cases hit
noncomputable def CJ15_newLength_J21 (a0 : Int32) (a1 : Int32) : Option (Int32) :=
  (CJ15_hugeLength a0 a1).bind fun q1 =>
  some q1
noncomputable def CJ15_newLength (a0 : Int32) (a1 : Int32) (a2 : Int32) : Option (Int32) :=
  if (0 : Int32) < (a0 + (imax a1 a2)) then
    (if (a0 + (imax a1 a2)) ≤ 2147483639 then
      (some (a0 + (imax a1 a2)))
    else
      (CJ15_newLength_J21 a0 a1))
  else
    (CJ15_newLength_J21 a0 a1)
theorem nm_J15_newLength : kNm yJ15_newLength RJ15 3 := by unfold kNm; decide +kernel
set_option maxHeartbeats 4000000 in
set_option maxRecDepth 100000 in
theorem wCJ15_newLength (l : Launch) (a0 : Int32) (a1 : Int32) (a2 : Int32) (z : Int32) (hz : CJ15_newLength a0 a1 a2 = some z) : Met l yJ15_newLength (ws_ yJ15_newLength cJ15_newLength 4 (some .int)) (kRm 1 30) (bPc [.int a0, .int a1, .int a2]) (vp_Si (fun r => r = z)) 0 0 vp_nf := by
  refine c_startP (cc := cJ15_newLength) (own := RJ15) (ty := .int) rfl rfl rfl (fun p e R s m args below meth c Q ls X hR hl hend => ?_)
  have hx := X.1
  have hb := X.2.1
  have hit := hz
  clear hz
  unfold CJ15_newLength at hit
  have hl : lv_has ls 4 [(0, .int a0), (1, .int a1), (2, .int a2)] := hl
  refine lv_iload_n hx hb dJ15_newLength_0 rfl (lv_at hl 0 rfl) ?_
  refine lv_iload_n hx hb dJ15_newLength_1 rfl (lv_at hl 1 rfl) ?_
  refine lv_iload_n hx hb dJ15_newLength_2 rfl (lv_at hl 2 rfl) ?_
  refine b_max X hl.1 q379 (Nat.le_trans (Nat.le_of_ble_eq_true rfl) hR.1) (Nat.le_trans (Nat.le_of_ble_eq_true rfl) hR.2) ⟨Nat.zero_le _, Nat.zero_le _⟩ dJ15_newLength_3 ?_
  refine lv_iadd hx hb dJ15_newLength_6 ?_
  refine lv_istore_n (lv' := [(3, .int (a0 + (imax a1 a2))), (0, .int a0), (1, .int a1), (2, .int a2)]) hx hb dJ15_newLength_7 rfl hl (by decide) rfl (fun ls hl => ?_)
  refine lv_iconst (v := 0) hx hb dJ15_newLength_8 (by decide) ?_
  refine lv_iload_n hx hb dJ15_newLength_9 rfl (lv_at hl 0 rfl) ?_
  have hK21 : CJ15_newLength_J21 a0 a1 = some z → ∀ (ls : Array Slot), lv_has ls 4 [(0, .int a0), (1, .int a1)] → W p l e R s m args below meth c s.heap [] 0 0 Q (F0 m 21 ls []) := by
    intro  hit ls hl
    unfold CJ15_newLength_J21 at hit
    refine lv_iload_n hx hb dJ15_newLength_21 rfl (lv_at hl 0 rfl) ?_
    refine lv_iload_n hx hb dJ15_newLength_22 rfl (lv_at hl 1 rfl) ?_
    obtain ⟨q1, eq1, hit⟩ := o_bind hit
    refine c_cP X (wCJ15_hugeLength l _ _ _ eq1) nm_J15_hugeLength q383 q384 q159 q385 ⟨Nat.le_trans (Nat.le_of_ble_eq_true rfl) hR.1, Nat.le_trans (Nat.le_of_ble_eq_true rfl) hR.2⟩ ⟨Nat.zero_le _, Nat.zero_le _⟩ rfl rfl hl.1 (lv_room (Nat.le_of_ble_eq_true rfl)) dJ15_newLength_23 ?_
    have he := o_in hit
    exact hend _ q1 _ _ rfl he dJ15_newLength_26
  refine b_icmp_ge (tgt := 21) hx hb dJ15_newLength_10 (by decide) hit (fun c2 hit => ?_) (fun c2 hit => ?_)
  · exact hK21  hit _ (lv_sub hl [1, 2] rfl)
  · refine lv_iload_n hx hb dJ15_newLength_13 rfl (lv_at hl 0 rfl) ?_
    refine lv_ldc (v := 2147483639) hx hb X.2.2.2.1 (X.2.2.2.2 _ q382) dJ15_newLength_14 ?_
    refine b_icmp_gt (tgt := 21) hx hb dJ15_newLength_16 (by decide) hit (fun c3 hit => ?_) (fun c3 hit => ?_)
    · exact hK21  hit _ (lv_sub hl [1, 2] rfl)
    · refine lv_iload_n hx hb dJ15_newLength_19 rfl (lv_at hl 0 rfl) ?_
      have he := o_in hit
      exact hend _ (a0 + (imax a1 a2)) _ _ rfl he dJ15_newLength_20
noncomputable def CJ16_copyOf_2 (K : Nat → Nat) (h : CH) (r : CR) (a0 : Nat) (a1 : Int32) (a2 : Nat) : Option (Nat × CS) :=
  ((if (some a2) = (some (K 2)) then
      ((aArrQ h r 3 a1).bind fun s5 =>
      some (r.1, s5))
    else
      (none) : Option (Nat × CS))).bind fun r1 =>
  (aNk K r1.2.1 a0).bind fun v2 =>
  (cpK K r1.2.1 a0 0 r1.1 0 (imin v2 a1)).bind fun s3 =>
  some (r1.1, (s3, r1.2.2))
theorem nm_J16_copyOf_2 : kNm yJ16_copyOf_2 RJ16 3 := by unfold kNm; decide +kernel
set_option maxHeartbeats 4000000 in
set_option maxRecDepth 100000 in
theorem wCJ16_copyOf_2 (l : Launch) (γ : KG) (hO : kOK γ) (h : CH) (r : CR) (a0 : Nat) (a1 : Int32) (a2 : Nat) (z : Nat × CS) (hz : CJ16_copyOf_2 γ.2.2.2.2.2 h r a0 a1 a2 = some z) : aMet l yJ16_copyOf_2 (ws_ yJ16_copyOf_2 cJ16_copyOf_2 4 (some (.array (.object "java/lang/Object")))) 1 40 γ (h, r) [.ref a0, .int a1, .ref a2] (some (.ref z.1)) z.2 := by
  refine a_start (cc := cJ16_copyOf_2) (own := RJ16) hO rfl rfl rfl (fun p e R s m args below meth c Q ls X hR hnm h0H hA hl hend => ?_)
  have hx := X.1.1
  have hb := X.1.2.1
  have hit := hz
  clear hz
  unfold CJ16_copyOf_2 at hit
  have hl : lv_has ls 4 [(0, .ref a0), (1, .int a1), (2, .ref a2)] := hl
  refine lv_aload_n hx hb dJ16_copyOf_2_0 rfl (lv_at hl 2 rfl) ?_
  refine c_ldcM X X.2.1.1.2.2.2.2.2.2.1 q411 dJ16_copyOf_2_1 ?_
  obtain ⟨r1, er1, hit⟩ := o_bind hit
  have hr1 : ∀ (H : Heap) (locs : List Loc) (cells slots : Nat) (ls : Array Slot), AI γ (h, r) s R r1.2.1 r1.2.2 H locs cells slots → lv_has ls 4 [(0, .ref a0), (1, .int a1)] → W p l e R s m args below meth c H locs cells slots Q (F0 m 24 ls [.ref r1.1]) := by
    intro H locs cells slots ls hA hl
    refine lv_astore_n (lv' := [(3, .ref r1.1), (0, .ref a0), (1, .int a1)]) hx hb dJ16_copyOf_2_24 rfl hl (by decide) rfl (fun ls hl => ?_)
    refine lv_aload_n hx hb dJ16_copyOf_2_25 rfl (lv_at hl 1 rfl) ?_
    refine lv_iconst (v := 0) hx hb dJ16_copyOf_2_26 (by decide) ?_
    refine lv_aload_n hx hb dJ16_copyOf_2_27 rfl (lv_at hl 0 rfl) ?_
    refine lv_iconst (v := 0) hx hb dJ16_copyOf_2_28 (by decide) ?_
    refine lv_aload_n hx hb dJ16_copyOf_2_29 rfl (lv_at hl 1 rfl) ?_
    obtain ⟨v2, ev2, hit⟩ := o_bind hit
    refine c_alenK X (kA_F X.2.1 X.2.2 h0H) hA.1.2.1 hA.1.1 ev2 dJ16_copyOf_2_30 ?_
    refine lv_iload_n hx hb dJ16_copyOf_2_31 rfl (lv_at hl 2 rfl) ?_
    refine b_min X.1 hl.1 q414 (Nat.le_trans (Nat.le_of_ble_eq_true rfl) hR.1) (Nat.le_trans (Nat.le_of_ble_eq_true rfl) hR.2) hA.RR dJ16_copyOf_2_32 ?_
    obtain ⟨s3, es3, hit⟩ := o_bind hit
    refine c_copyK X (kA_F X.2.1 X.2.2 h0H) hA.1 hl.1 es3 q417 ⟨Nat.le_trans (Nat.le_of_ble_eq_true rfl) hR.1, Nat.le_trans (Nat.le_of_ble_eq_true rfl) hR.2⟩ (Nat.le_of_ble_eq_true rfl) dJ16_copyOf_2_35 (fun H locs hI => ?_)
    replace hA := hA.up hI
    clear hI
    refine lv_aload_n hx hb dJ16_copyOf_2_38 rfl (lv_at hl 0 rfl) ?_
    have he := o_in hit
    exact hend (some (.ref r1.1)) (s3, r1.2.2) _ _ _ _ _ _ _ _ (kOut_a) (by subst he; rfl) hA dJ16_copyOf_2_39
  have hit := er1
  refine b_acmp_ne (rx := (some a2)) (ry := (some (γ.2.2.2.2.2 2))) (tgt := 13) hx hb dJ16_copyOf_2_3 (by decide) hit (fun c4 hit => ?_) (fun c4 hit => ?_)
  · refine lv_aload_n hx hb dJ16_copyOf_2_13 rfl (lv_at hl 2 rfl) ?_
    cases hit
  · refine lv_iload_n hx hb dJ16_copyOf_2_6 rfl (lv_at hl 1 rfl) ?_
    obtain ⟨s5, es5, hit⟩ := o_bind hit
    refine a_anew X hA 3 (fun _ => rfl) q413 q412 es5 dJ16_copyOf_2_7 (fun H cells slots hA => ?_)
    refine lv_goto (tgt := 24) hx hb dJ16_copyOf_2_10 (by decide) ?_
    have he := o_in hit
    subst he
    exact hr1 _ _ _ _ _ hA (lv_sub hl [0, 1] rfl)
noncomputable def CJ16_copyOf (K : Nat → Nat) (h : CH) (r : CR) (a0 : Nat) (a1 : Int32) : Option (Nat × CS) :=
  (ckAk K h a0).bind fun u1 =>
  (achk r (CJ16_copyOf_2 K h r a0 a1 (K 2))).bind fun q2 =>
  some (q2.1, q2.2)
theorem nm_J16_copyOf : kNm yJ16_copyOf RJ16 2 := by unfold kNm; decide +kernel
set_option maxHeartbeats 4000000 in
set_option maxRecDepth 100000 in
theorem wCJ16_copyOf (l : Launch) (γ : KG) (hO : kOK γ) (h : CH) (r : CR) (a0 : Nat) (a1 : Int32) (z : Nat × CS) (hz : CJ16_copyOf γ.2.2.2.2.2 h r a0 a1 = some z) : aMet l yJ16_copyOf (ws_ yJ16_copyOf cJ16_copyOf 2 (some (.array (.object "java/lang/Object")))) 2 63 γ (h, r) [.ref a0, .int a1] (some (.ref z.1)) z.2 := by
  refine a_start (cc := cJ16_copyOf) (own := RJ16) hO rfl rfl rfl (fun p e R s m args below meth c Q ls X hR hnm h0H hA hl hend => ?_)
  have hx := X.1.1
  have hb := X.1.2.1
  have hit := hz
  clear hz
  unfold CJ16_copyOf at hit
  have hl : lv_has ls 2 [(0, .ref a0), (1, .int a1)] := hl
  refine lv_aload_n hx hb dJ16_copyOf_0 rfl (lv_at hl 0 rfl) ?_
  refine lv_iload_n hx hb dJ16_copyOf_1 rfl (lv_at hl 1 rfl) ?_
  refine lv_aload_n hx hb dJ16_copyOf_2 rfl (lv_at hl 0 rfl) ?_
  obtain ⟨u1, eu1, hit⟩ := o_bind hit
  refine c_getCA X (kA_F X.2.1 X.2.2 h0H) hA.1.2.1 hA.1.1 hl.1 eu1 q389 ⟨Nat.le_trans (Nat.le_of_ble_eq_true rfl) hR.1, Nat.le_trans (Nat.le_of_ble_eq_true rfl) hR.2⟩ (Nat.le_of_ble_eq_true rfl) dJ16_copyOf_3 ?_
  obtain ⟨q2, eq2, hit⟩ := o_bind hit
  obtain ⟨eq2, lq2⟩ := achk_inv eq2
  refine a_cS X h0H hA nm_J16_copyOf_2 q408 q409 q160 q410 (wCJ16_copyOf_2 l γ X.2.1 _ _ _ _ _ _ eq2) lq2 ⟨Nat.le_trans (Nat.le_of_ble_eq_true rfl) hR.1, Nat.le_trans (Nat.le_of_ble_eq_true rfl) hR.2⟩ rfl rfl hl.1 (lv_room (Nat.le_of_ble_eq_true rfl)) dJ16_copyOf_6 (fun H locs cells slots hA => ?_)
  have he := o_in hit
  exact hend (some (.ref q2.1)) q2.2 _ _ _ _ _ _ _ _ (kOut_a) (by subst he; rfl) hA dJ16_copyOf_9
noncomputable def CJ2_grow_2_J20 (K : Nat → Nat) (h : CH) (r : CR) (o : Nat) (a0 : Int32) (v2 : Int32) : Option (Nat × CS) :=
  (CJ15_newLength v2 (a0 - v2) (v2 >>> (1 &&& 31))).bind fun q3 =>
  (gR h o 10 1).bind fun v4 =>
  (achk r (CJ16_copyOf K h r v4 q3)).bind fun q5 =>
  (pQ q5.2.1 o 10 1 (some q5.1)).bind fun s6 =>
  some (q5.1, (s6, q5.2.2))
noncomputable def CJ2_grow_2 (K : Nat → Nat) (h : CH) (r : CR) (o : Nat) (a0 : Int32) : Option (Nat × CS) :=
  (gR h o 10 1).bind fun v1 =>
  (aNk K h v1).bind fun v2 =>
  if v2 ≤ 0 then
    ((gR h o 10 1).bind fun v8 =>
    if (some v8) = (some (K 0)) then
      ((aArrQ h r 3 (imax 10 a0)).bind fun s10 =>
      (pQ s10.1 o 10 1 (some r.1)).bind fun s11 =>
      some (r.1, (s11, s10.2)))
    else
      (CJ2_grow_2_J20 K h r o a0 v2))
  else
    (CJ2_grow_2_J20 K h r o a0 v2)
theorem nm_J2_grow_2 : kNm yJ2_grow_2 RJ2 1 := by unfold kNm; decide +kernel
set_option maxHeartbeats 4000000 in
set_option maxRecDepth 100000 in
theorem wCJ2_grow_2 (l : Launch) (γ : KG) (hO : kOK γ) (h : CH) (r : CR) (o : Nat) (a0 : Int32) (z : Nat × CS) (hz : CJ2_grow_2 γ.2.2.2.2.2 h r o a0 = some z) : aMet l yJ2_grow_2 (ws_ yJ2_grow_2 cJ2_grow_2 4 (some (.array (.object "java/lang/Object")))) 3 84 γ (h, r) [.ref o, .int a0] (some (.ref z.1)) z.2 := by
  refine a_start (cc := cJ2_grow_2) (own := RJ2) hO rfl rfl rfl (fun p e R s m args below meth c Q ls X hR hnm h0H hA hl hend => ?_)
  have hx := X.1.1
  have hb := X.1.2.1
  have hit := hz
  clear hz
  unfold CJ2_grow_2 at hit
  have hl : lv_has ls 4 [(0, .ref o), (1, .int a0)] := hl
  refine lv_aload_n hx hb dJ2_grow_2_0 rfl (lv_at hl 0 rfl) ?_
  obtain ⟨v1, ev1, hit⟩ := o_bind hit
  refine c_getR X hA.1.1 kc_ArrayList 1 q196 (Or.inl rfl) rfl rfl ev1 dJ2_grow_2_1 ?_
  obtain ⟨v2, ev2, hit⟩ := o_bind hit
  refine c_alenK X (kA_F X.2.1 X.2.2 h0H) hA.1.2.1 hA.1.1 ev2 dJ2_grow_2_4 ?_
  refine lv_istore_n (lv' := [(2, .int v2), (0, .ref o), (1, .int a0)]) hx hb dJ2_grow_2_5 rfl hl (by decide) rfl (fun ls hl => ?_)
  refine lv_iload_n hx hb dJ2_grow_2_6 rfl (lv_at hl 0 rfl) ?_
  have hK20 : CJ2_grow_2_J20 γ.2.2.2.2.2 h r o a0 v2 = some z → ∀ (H : Heap) (locs : List Loc) (cells slots : Nat) (ls : Array Slot), AI γ (h, r) s R h r H locs cells slots → lv_has ls 4 [(2, .int v2), (0, .ref o), (1, .int a0)] → W p l e R s m args below meth c H locs cells slots Q (F0 m 20 ls []) := by
    intro  hit H locs cells slots ls hA hl
    unfold CJ2_grow_2_J20 at hit
    refine lv_iload_n hx hb dJ2_grow_2_20 rfl (lv_at hl 0 rfl) ?_
    refine lv_iload_n hx hb dJ2_grow_2_21 rfl (lv_at hl 2 rfl) ?_
    refine lv_iload_n hx hb dJ2_grow_2_22 rfl (lv_at hl 0 rfl) ?_
    refine lv_isub hx hb dJ2_grow_2_23 ?_
    refine lv_iload_n hx hb dJ2_grow_2_24 rfl (lv_at hl 0 rfl) ?_
    refine lv_iconst (v := 1) hx hb dJ2_grow_2_25 (by decide) ?_
    refine lv_ishr hx hb dJ2_grow_2_26 ?_
    obtain ⟨q3, eq3, hit⟩ := o_bind hit
    refine c_cP X.1 (wCJ15_newLength l _ _ _ _ eq3) nm_J15_newLength q376 q377 q159 q378 ⟨Nat.le_trans (Nat.le_of_ble_eq_true rfl) hR.1, Nat.le_trans (Nat.le_of_ble_eq_true rfl) hR.2⟩ hA.RR rfl rfl hl.1 (lv_room (Nat.le_of_ble_eq_true rfl)) dJ2_grow_2_27 ?_
    refine lv_istore_n (lv' := [(3, .int q3), (2, .int v2), (0, .ref o), (1, .int a0)]) hx hb dJ2_grow_2_30 rfl hl (by decide) rfl (fun ls hl => ?_)
    refine lv_aload_n hx hb dJ2_grow_2_31 rfl (lv_at hl 2 rfl) ?_
    refine lv_aload_n hx hb dJ2_grow_2_32 rfl (lv_at hl 2 rfl) ?_
    obtain ⟨v4, ev4, hit⟩ := o_bind hit
    refine c_getR X hA.1.1 kc_ArrayList 1 q196 (Or.inl rfl) rfl rfl ev4 dJ2_grow_2_33 ?_
    refine lv_iload_n hx hb dJ2_grow_2_36 rfl (lv_at hl 0 rfl) ?_
    obtain ⟨q5, eq5, hit⟩ := o_bind hit
    obtain ⟨eq5, lq5⟩ := achk_inv eq5
    refine a_cS X h0H hA nm_J16_copyOf q386 q387 q160 q388 (wCJ16_copyOf l γ X.2.1 _ _ _ _ _ eq5) lq5 ⟨Nat.le_trans (Nat.le_of_ble_eq_true rfl) hR.1, Nat.le_trans (Nat.le_of_ble_eq_true rfl) hR.2⟩ rfl rfl hl.1 (lv_room (Nat.le_of_ble_eq_true rfl)) dJ2_grow_2_37 (fun H locs cells slots hA => ?_)
    refine lv_dup_x1 hx hb dJ2_grow_2_40 rfl rfl ?_
    obtain ⟨s6, es6, hit⟩ := o_bind hit
    refine c_putQ X hA.1 kc_ArrayList 1 q196 (Or.inl rfl) rfl rfl (v := (some q5.1)) (tyv := (.array (.object "java/lang/Object"))) rfl (Or.inr ⟨_, rfl⟩) es6 dJ2_grow_2_41 (fun H locs hI => ?_)
    replace hA := hA.up hI
    clear hI
    have he := o_in hit
    exact hend (some (.ref q5.1)) (s6, q5.2.2) _ _ _ _ _ _ _ _ (kOut_a) (by subst he; rfl) hA dJ2_grow_2_44
  refine b_if_gt (tgt := 20) hx hb dJ2_grow_2_7 (by decide) hit (fun c7 hit => ?_) (fun c7 hit => ?_)
  · exact hK20  hit _ _ _ _ _ hA hl
  · refine lv_aload_n hx hb dJ2_grow_2_10 rfl (lv_at hl 1 rfl) ?_
    obtain ⟨v8, ev8, hit⟩ := o_bind hit
    refine c_getR X hA.1.1 kc_ArrayList 1 q196 (Or.inl rfl) rfl rfl ev8 dJ2_grow_2_11 ?_
    refine c_gets X (kA_F X.2.1 X.2.2 h0H) hA.1.2.1 X.2.1.1.2.2.1 q194 dJ2_grow_2_14 ?_
    refine b_acmp_eq (rx := (some v8)) (ry := (some (γ.2.2.2.2.2 0))) (tgt := 45) hx hb dJ2_grow_2_17 (by decide) hit (fun c9 hit => ?_) (fun c9 hit => ?_)
    · refine lv_aload_n hx hb dJ2_grow_2_45 rfl (lv_at hl 1 rfl) ?_
      refine lv_bipush (v := 10) hx hb dJ2_grow_2_46 (by decide) ?_
      refine lv_iload_n hx hb dJ2_grow_2_48 rfl (lv_at hl 2 rfl) ?_
      refine b_max X.1 hl.1 q420 (Nat.le_trans (Nat.le_of_ble_eq_true rfl) hR.1) (Nat.le_trans (Nat.le_of_ble_eq_true rfl) hR.2) hA.RR dJ2_grow_2_49 ?_
      obtain ⟨s10, es10, hit⟩ := o_bind hit
      refine a_anew X hA 3 (fun _ => rfl) q421 q412 es10 dJ2_grow_2_52 (fun H cells slots hA => ?_)
      refine lv_dup_x1 hx hb dJ2_grow_2_55 rfl rfl ?_
      obtain ⟨s11, es11, hit⟩ := o_bind hit
      refine c_putQ X hA.1 kc_ArrayList 1 q196 (Or.inl rfl) rfl rfl (v := (some r.1)) (tyv := (.array (.object "java/lang/Object"))) rfl (Or.inr ⟨_, rfl⟩) es11 dJ2_grow_2_56 (fun H locs hI => ?_)
      replace hA := hA.up hI
      clear hI
      have he := o_in hit
      exact hend (some (.ref r.1)) (s11, s10.2) _ _ _ _ _ _ _ _ (kOut_a) (by subst he; rfl) hA dJ2_grow_2_59
    · exact hK20  hit _ _ _ _ _ hA hl
noncomputable def CJ2_grow (K : Nat → Nat) (h : CH) (r : CR) (o : Nat) : Option (Nat × CS) :=
  (gI h o 10 2).bind fun v1 =>
  (vc h o 10 (achk r (CJ2_grow_2 K h r o (v1 + 1)))).bind fun q2 =>
  some (q2.1, q2.2)
theorem nm_J2_grow : kNm yJ2_grow RJ2 0 := by unfold kNm; decide +kernel
set_option maxHeartbeats 4000000 in
set_option maxRecDepth 100000 in
theorem wCJ2_grow (l : Launch) (γ : KG) (hO : kOK γ) (h : CH) (r : CR) (o : Nat) (z : Nat × CS) (hz : CJ2_grow γ.2.2.2.2.2 h r o = some z) : aMet l yJ2_grow (ws_ yJ2_grow cJ2_grow 1 (some (.array (.object "java/lang/Object")))) 4 107 γ (h, r) [.ref o] (some (.ref z.1)) z.2 := by
  refine a_start (cc := cJ2_grow) (own := RJ2) hO rfl rfl rfl (fun p e R s m args below meth c Q ls X hR hnm h0H hA hl hend => ?_)
  have hx := X.1.1
  have hb := X.1.2.1
  have hit := hz
  clear hz
  unfold CJ2_grow at hit
  have hl : lv_has ls 1 [(0, .ref o)] := hl
  refine lv_aload_n hx hb dJ2_grow_0 rfl (lv_at hl 0 rfl) ?_
  refine lv_aload_n hx hb dJ2_grow_1 rfl (lv_at hl 0 rfl) ?_
  obtain ⟨v1, ev1, hit⟩ := o_bind hit
  refine c_getI X hA.1.1 kc_ArrayList 2 q197 (Or.inl rfl) rfl rfl ev1 dJ2_grow_2 ?_
  refine lv_iconst (v := 1) hx hb dJ2_grow_5 (by decide) ?_
  refine lv_iadd hx hb dJ2_grow_6 ?_
  obtain ⟨q2, eq2, hit⟩ := o_bind hit
  obtain ⟨iq2, eq2⟩ := vc_inv eq2
  obtain ⟨eq2, lq2⟩ := achk_inv eq2
  refine a_cV X h0H hA kc_ArrayList (wCJ2_grow_2 l γ X.2.1 _ _ _ _ _ eq2) lq2 iq2 nm_J2_grow_2 q372 q374 q139 q375 qs4 ⟨Nat.le_trans (Nat.le_of_ble_eq_true rfl) hR.1, Nat.le_trans (Nat.le_of_ble_eq_true rfl) hR.2⟩ rfl rfl hl.1 (lv_room (Nat.le_of_ble_eq_true rfl)) dJ2_grow_7 (fun H locs cells slots hA => ?_)
  have he := o_in hit
  exact hend (some (.ref q2.1)) q2.2 _ _ _ _ _ _ _ _ (kOut_a) (by subst he; rfl) hA dJ2_grow_10
noncomputable def CJ2_add_2 (K : Nat → Nat) (h : CH) (r : CR) (o : Nat) (a0 : Nat) (a1 : Nat) (a2 : Int32) : Option (CS) :=
  (aNk K h a1).bind fun v1 =>
  ((if a2 = v1 then
      ((vc h o 10 (achk r (CJ2_grow K h r o))).bind fun q7 =>
      some (q7.1, q7.2))
    else
      (some (a1, (h, r))) : Option (Nat × CS))).bind fun r2 =>
  (oko r2.2.1 a0).bind fun u3 =>
  (sQ r2.2.1 r2.1 3 a2 (some a0)).bind fun s4 =>
  (pI s4 o 10 2 (a2 + 1)).bind fun s5 =>
  some (s5, r2.2.2)
theorem nm_J2_add_2 : kNm yJ2_add_2 RJ2 3 := by unfold kNm; decide +kernel
set_option maxHeartbeats 4000000 in
set_option maxRecDepth 100000 in
theorem wCJ2_add_2 (l : Launch) (γ : KG) (hO : kOK γ) (h : CH) (r : CR) (o : Nat) (a0 : Nat) (a1 : Nat) (a2 : Int32) (z : CS) (hz : CJ2_add_2 γ.2.2.2.2.2 h r o a0 a1 a2 = some z) : aMet l yJ2_add_2 (ws_ yJ2_add_2 cJ2_add_2 4 none) 5 127 γ (h, r) [.ref o, .ref a0, .ref a1, .int a2] none z := by
  refine a_start (cc := cJ2_add_2) (own := RJ2) hO rfl rfl rfl (fun p e R s m args below meth c Q ls X hR hnm h0H hA hl hend => ?_)
  have hx := X.1.1
  have hb := X.1.2.1
  have hit := hz
  clear hz
  unfold CJ2_add_2 at hit
  have hl : lv_has ls 4 [(0, .ref o), (1, .ref a0), (2, .ref a1), (3, .int a2)] := hl
  refine lv_iload_n hx hb dJ2_add_2_0 rfl (lv_at hl 3 rfl) ?_
  refine lv_aload_n hx hb dJ2_add_2_1 rfl (lv_at hl 2 rfl) ?_
  obtain ⟨v1, ev1, hit⟩ := o_bind hit
  refine c_alenK X (kA_F X.2.1 X.2.2 h0H) hA.1.2.1 hA.1.1 ev1 dJ2_add_2_2 ?_
  obtain ⟨r2, er2, hit⟩ := o_bind hit
  have hr2 : ∀ (H : Heap) (locs : List Loc) (cells slots : Nat) (ls : Array Slot), AI γ (h, r) s R r2.2.1 r2.2.2 H locs cells slots → lv_has ls 4 [(0, .ref o), (1, .ref a0), (3, .int a2), (2, .ref r2.1)] → W p l e R s m args below meth c H locs cells slots Q (F0 m 11 ls []) := by
    intro H locs cells slots ls hA hl
    refine lv_aload_n hx hb dJ2_add_2_11 rfl (lv_at hl 3 rfl) ?_
    refine lv_iload_n hx hb dJ2_add_2_12 rfl (lv_at hl 2 rfl) ?_
    refine lv_aload_n hx hb dJ2_add_2_13 rfl (lv_at hl 1 rfl) ?_
    obtain ⟨u3, eu3, hit⟩ := o_bind hit
    obtain ⟨s4, es4, hit⟩ := o_bind hit
    refine c_aastO X hA.1 (oko_inv eu3) es4 dJ2_add_2_14 (fun H locs hI => ?_)
    replace hA := hA.up hI
    clear hI
    refine lv_aload_n hx hb dJ2_add_2_15 rfl (lv_at hl 0 rfl) ?_
    refine lv_iload_n hx hb dJ2_add_2_16 rfl (lv_at hl 2 rfl) ?_
    refine lv_iconst (v := 1) hx hb dJ2_add_2_17 (by decide) ?_
    refine lv_iadd hx hb dJ2_add_2_18 ?_
    obtain ⟨s5, es5, hit⟩ := o_bind hit
    refine c_putI X hA.1 kc_ArrayList 2 q197 (Or.inl rfl) rfl rfl (tyv := .int) rfl rfl rfl es5 dJ2_add_2_19 (fun H locs hI => ?_)
    replace hA := hA.up hI
    clear hI
    have he := o_in hit
    exact hend none (s5, r2.2.2) _ _ _ _ _ _ _ _ kOut_v (by subst he; rfl) hA dJ2_add_2_22
  have hit := er2
  refine b_icmp_ne (tgt := 11) hx hb dJ2_add_2_3 (by decide) hit (fun c6 hit => ?_) (fun c6 hit => ?_)
  · have he := o_in hit
    subst he
    exact hr2 _ _ _ _ _ hA (lv_sub hl [0, 1, 3, 2] rfl)
  · refine lv_aload_n hx hb dJ2_add_2_6 rfl (lv_at hl 0 rfl) ?_
    obtain ⟨q7, eq7, hit⟩ := o_bind hit
    obtain ⟨iq7, eq7⟩ := vc_inv eq7
    obtain ⟨eq7, lq7⟩ := achk_inv eq7
    refine a_cV X h0H hA kc_ArrayList (wCJ2_grow l γ X.2.1 _ _ _  _ eq7) lq7 iq7 nm_J2_grow q368 q370 q139 q371 qs3 ⟨Nat.le_trans (Nat.le_of_ble_eq_true rfl) hR.1, Nat.le_trans (Nat.le_of_ble_eq_true rfl) hR.2⟩ rfl rfl hl.1 (lv_room (Nat.le_of_ble_eq_true rfl)) dJ2_add_2_7 (fun H locs cells slots hA => ?_)
    refine lv_astore_n (lv' := [(2, .ref q7.1), (0, .ref o), (1, .ref a0), (3, .int a2)]) hx hb dJ2_add_2_10 rfl hl (by decide) rfl (fun ls hl => ?_)
    have he := o_in hit
    subst he
    exact hr2 _ _ _ _ _ hA (lv_sub hl [1, 2, 3, 0] rfl)
noncomputable def CJ2_add (K : Nat → Nat) (h : CH) (r : CR) (o : Nat) (a0 : Nat) : Option (Int32 × CS) :=
  (gI h o 10 0).bind fun v1 =>
  (pI h o 10 0 (v1 + 1)).bind fun s2 =>
  (gR s2 o 10 1).bind fun v3 =>
  (gI s2 o 10 2).bind fun v4 =>
  (vc s2 o 10 (achv r (CJ2_add_2 K s2 r o a0 v3 v4))).bind fun q5 =>
  some (1, q5)
theorem nm_J2_add : kNm yJ2_add RJ2 1 := by unfold kNm; decide +kernel
set_option maxHeartbeats 4000000 in
set_option maxRecDepth 100000 in
theorem wCJ2_add (l : Launch) (γ : KG) (hO : kOK γ) (h : CH) (r : CR) (o : Nat) (a0 : Nat) (z : Int32 × CS) (hz : CJ2_add γ.2.2.2.2.2 h r o a0 = some z) : aMet l yJ2_add (ws_ yJ2_add cJ2_add 2 (some .boolean)) 6 150 γ (h, r) [.ref o, .ref a0] (some (.int z.1)) z.2 := by
  refine a_start (cc := cJ2_add) (own := RJ2) hO rfl rfl rfl (fun p e R s m args below meth c Q ls X hR hnm h0H hA hl hend => ?_)
  have hx := X.1.1
  have hb := X.1.2.1
  have hit := hz
  clear hz
  unfold CJ2_add at hit
  have hl : lv_has ls 2 [(0, .ref o), (1, .ref a0)] := hl
  refine lv_aload_n hx hb dJ2_add_0 rfl (lv_at hl 0 rfl) ?_
  refine lv_dup hx hb dJ2_add_1 rfl ?_
  obtain ⟨v1, ev1, hit⟩ := o_bind hit
  refine c_getI X hA.1.1 kc_ArrayList 0 q199 (Or.inr q200) rfl rfl ev1 dJ2_add_2 ?_
  refine lv_iconst (v := 1) hx hb dJ2_add_5 (by decide) ?_
  refine lv_iadd hx hb dJ2_add_6 ?_
  obtain ⟨s2, es2, hit⟩ := o_bind hit
  refine c_putI X hA.1 kc_ArrayList 0 q199 (Or.inr q200) rfl rfl (tyv := .int) rfl rfl rfl es2 dJ2_add_7 (fun H locs hI => ?_)
  replace hA := hA.up hI
  clear hI
  refine lv_aload_n hx hb dJ2_add_10 rfl (lv_at hl 0 rfl) ?_
  refine lv_aload_n hx hb dJ2_add_11 rfl (lv_at hl 1 rfl) ?_
  refine lv_aload_n hx hb dJ2_add_12 rfl (lv_at hl 0 rfl) ?_
  obtain ⟨v3, ev3, hit⟩ := o_bind hit
  refine c_getR X hA.1.1 kc_ArrayList 1 q196 (Or.inl rfl) rfl rfl ev3 dJ2_add_13 ?_
  refine lv_aload_n hx hb dJ2_add_16 rfl (lv_at hl 0 rfl) ?_
  obtain ⟨v4, ev4, hit⟩ := o_bind hit
  refine c_getI X hA.1.1 kc_ArrayList 2 q197 (Or.inl rfl) rfl rfl ev4 dJ2_add_17 ?_
  obtain ⟨q5, eq5, hit⟩ := o_bind hit
  obtain ⟨iq5, eq5⟩ := vc_inv eq5
  obtain ⟨eq5, lq5⟩ := achv_inv eq5
  refine a_cV X h0H hA kc_ArrayList (wCJ2_add_2 l γ X.2.1 _ _ _ _ _ _ _ eq5) lq5 iq5 nm_J2_add_2 q364 q366 q139 q367 qs2 ⟨Nat.le_trans (Nat.le_of_ble_eq_true rfl) hR.1, Nat.le_trans (Nat.le_of_ble_eq_true rfl) hR.2⟩ rfl rfl hl.1 (lv_room (Nat.le_of_ble_eq_true rfl)) dJ2_add_20 (fun H locs cells slots hA => ?_)
  refine lv_iconst (v := 1) hx hb dJ2_add_23 (by decide) ?_
  have he := o_in hit
  exact hend (some (.int 1)) q5 _ _ _ _ _ _ _ _ (kOut_i rfl) (by subst he; rfl) hA dJ2_add_24
noncomputable def CJ2_fastRemove (K : Nat → Nat) (h : CH) (o : Nat) (a0 : Nat) (a1 : Int32) : Option (CH) :=
  (gI h o 10 0).bind fun v1 =>
  (pI h o 10 0 (v1 + 1)).bind fun s2 =>
  (gI s2 o 10 2).bind fun v3 =>
  ((if (v3 - 1) ≤ a1 then
      (some s2)
    else
      ((cpK K s2 a0 (a1 + 1) a0 a1 ((v3 - 1) - a1)).bind fun s8 =>
      some s8) : Option CH)).bind fun r4 =>
  (pI r4 o 10 2 (v3 - 1)).bind fun s5 =>
  (sQ s5 a0 3 (v3 - 1) none).bind fun s6 =>
  some s6
theorem nm_J2_fastRemove : kNm yJ2_fastRemove RJ2 2 := by unfold kNm; decide +kernel
set_option maxHeartbeats 4000000 in
set_option maxRecDepth 100000 in
theorem wCJ2_fastRemove (l : Launch) (γ : KG) (hO : kOK γ) (h : CH) (o : Nat) (a0 : Nat) (a1 : Int32) (z : CH) (hz : CJ2_fastRemove γ.2.2.2.2.2 h o a0 a1 = some z) : Met l yJ2_fastRemove (ws_ yJ2_fastRemove cJ2_fastRemove 4 none) (kRm 1 40) (cPc γ h [.ref o, .ref a0, .int a1]) (cNq γ h none z) 0 0 (kdm h) := by
  refine c_startN (cc := cJ2_fastRemove) (own := RJ2) hO rfl rfl rfl (fun p e R s m args below meth c Q ls X hR h0H hI hl hend => ?_)
  have hx := X.1.1
  have hb := X.1.2.1
  have hit := hz
  clear hz
  unfold CJ2_fastRemove at hit
  have hl : lv_has ls 4 [(0, .ref o), (1, .ref a0), (2, .int a1)] := hl
  refine lv_aload_n hx hb dJ2_fastRemove_0 rfl (lv_at hl 0 rfl) ?_
  refine lv_dup hx hb dJ2_fastRemove_1 rfl ?_
  obtain ⟨v1, ev1, hit⟩ := o_bind hit
  refine c_getI X hI.1 kc_ArrayList 0 q199 (Or.inr q200) rfl rfl ev1 dJ2_fastRemove_2 ?_
  refine lv_iconst (v := 1) hx hb dJ2_fastRemove_5 (by decide) ?_
  refine lv_iadd hx hb dJ2_fastRemove_6 ?_
  obtain ⟨s2, es2, hit⟩ := o_bind hit
  refine c_putI X hI kc_ArrayList 0 q199 (Or.inr q200) rfl rfl (tyv := .int) rfl rfl rfl es2 dJ2_fastRemove_7 (fun H locs hI => ?_)
  refine lv_aload_n hx hb dJ2_fastRemove_10 rfl (lv_at hl 0 rfl) ?_
  obtain ⟨v3, ev3, hit⟩ := o_bind hit
  refine c_getI X hI.1 kc_ArrayList 2 q197 (Or.inl rfl) rfl rfl ev3 dJ2_fastRemove_11 ?_
  refine lv_iconst (v := 1) hx hb dJ2_fastRemove_14 (by decide) ?_
  refine lv_isub hx hb dJ2_fastRemove_15 ?_
  refine lv_dup hx hb dJ2_fastRemove_16 rfl ?_
  refine lv_istore_n (lv' := [(3, .int (v3 - 1)), (0, .ref o), (1, .ref a0), (2, .int a1)]) hx hb dJ2_fastRemove_17 rfl hl (by decide) rfl (fun ls hl => ?_)
  refine lv_iload_n hx hb dJ2_fastRemove_18 rfl (lv_at hl 3 rfl) ?_
  obtain ⟨r4, er4, hit⟩ := o_bind hit
  have hr4 : ∀ (H : Heap) (locs : List Loc) (ls : Array Slot), NI γ (kdm h) s.heap.size s r4 H locs → lv_has ls 4 [(3, .int (v3 - 1)), (0, .ref o), (1, .ref a0)] → W p l e R s m args below meth c H locs 0 0 Q (F0 m 34 ls []) := by
    intro H locs ls hI hl
    refine lv_aload_n hx hb dJ2_fastRemove_34 rfl (lv_at hl 2 rfl) ?_
    refine lv_aload_n hx hb dJ2_fastRemove_35 rfl (lv_at hl 1 rfl) ?_
    refine lv_iload_n hx hb dJ2_fastRemove_36 rfl (lv_at hl 0 rfl) ?_
    refine lv_dup_x1 hx hb dJ2_fastRemove_37 rfl rfl ?_
    obtain ⟨s5, es5, hit⟩ := o_bind hit
    refine c_putI X hI kc_ArrayList 2 q197 (Or.inl rfl) rfl rfl (tyv := .int) rfl rfl rfl es5 dJ2_fastRemove_38 (fun H locs hI => ?_)
    refine b_null hx hb dJ2_fastRemove_41 ?_
    obtain ⟨s6, es6, hit⟩ := o_bind hit
    refine c_aastN X hI 3 (fun _ => rfl) es6 dJ2_fastRemove_42 (fun H locs hI => ?_)
    have he := o_in hit
    exact hend none _ _ _ _ _ _ _ kOut_v (by subst he; rfl) hI dJ2_fastRemove_43
  have hit := er4
  refine b_icmp_le (tgt := 34) hx hb dJ2_fastRemove_19 (by decide) hit (fun c7 hit => ?_) (fun c7 hit => ?_)
  · have he := o_in hit
    subst he
    exact hr4 _ _ _ hI (lv_sub hl [0, 1, 2] rfl)
  · refine lv_aload_n hx hb dJ2_fastRemove_22 rfl (lv_at hl 2 rfl) ?_
    refine lv_iload_n hx hb dJ2_fastRemove_23 rfl (lv_at hl 3 rfl) ?_
    refine lv_iconst (v := 1) hx hb dJ2_fastRemove_24 (by decide) ?_
    refine lv_iadd hx hb dJ2_fastRemove_25 ?_
    refine lv_aload_n hx hb dJ2_fastRemove_26 rfl (lv_at hl 2 rfl) ?_
    refine lv_iload_n hx hb dJ2_fastRemove_27 rfl (lv_at hl 3 rfl) ?_
    refine lv_iload_n hx hb dJ2_fastRemove_28 rfl (lv_at hl 0 rfl) ?_
    refine lv_iload_n hx hb dJ2_fastRemove_29 rfl (lv_at hl 3 rfl) ?_
    refine lv_isub hx hb dJ2_fastRemove_30 ?_
    obtain ⟨s8, es8, hit⟩ := o_bind hit
    refine c_copyK X (c_AF h0H) hI hl.1 es8 q450 ⟨Nat.le_trans (Nat.le_of_ble_eq_true rfl) hR.1, Nat.le_trans (Nat.le_of_ble_eq_true rfl) hR.2⟩ (Nat.le_of_ble_eq_true rfl) dJ2_fastRemove_31 (fun H locs hI => ?_)
    have he := o_in hit
    subst he
    exact hr4 _ _ _ hI (lv_sub hl [0, 1, 2] rfl)
noncomputable def CJ2_remove (K : Nat → Nat) (h : CH) (o : Nat) (a0 : Int32) : Option (Nat × CH) :=
  (gI h o 10 2).bind fun v1 =>
  (CJ17_checkIndex a0 v1).bind fun q2 =>
  (gR h o 10 1).bind fun v3 =>
  (aQ h v3 3 a0).bind fun v4 =>
  (v4).bind fun v5 =>
  (vc h o 10 (CJ2_fastRemove K h o v3 a0)).bind fun q6 =>
  some (v5, q6)
theorem nm_J2_remove : kNm yJ2_remove RJ2 1 := by unfold kNm; decide +kernel
set_option maxHeartbeats 4000000 in
set_option maxRecDepth 100000 in
theorem wCJ2_remove (l : Launch) (γ : KG) (hO : kOK γ) (h : CH) (o : Nat) (a0 : Int32) (z : Nat × CH) (hz : CJ2_remove γ.2.2.2.2.2 h o a0 = some z) : Met l yJ2_remove (ws_ yJ2_remove cJ2_remove 4 (some (.object "java/lang/Object"))) (kRm 2 63) (cPc γ h [.ref o, .int a0]) (cNq γ h (some (.ref z.1)) z.2) 0 0 (kdm h) := by
  refine c_startN (cc := cJ2_remove) (own := RJ2) hO rfl rfl rfl (fun p e R s m args below meth c Q ls X hR h0H hI hl hend => ?_)
  have hx := X.1.1
  have hb := X.1.2.1
  have hit := hz
  clear hz
  unfold CJ2_remove at hit
  have hl : lv_has ls 4 [(0, .ref o), (1, .int a0)] := hl
  refine lv_iload_n hx hb dJ2_remove_0 rfl (lv_at hl 1 rfl) ?_
  refine lv_aload_n hx hb dJ2_remove_1 rfl (lv_at hl 0 rfl) ?_
  obtain ⟨v1, ev1, hit⟩ := o_bind hit
  refine c_getI X hI.1 kc_ArrayList 2 q197 (Or.inl rfl) rfl rfl ev1 dJ2_remove_2 ?_
  obtain ⟨q2, eq2, hit⟩ := o_bind hit
  refine c_cP X.1 (wCJ17_checkIndex l _ _ _ eq2) nm_J17_checkIndex q440 q441 q162 q442 ⟨Nat.le_trans (Nat.le_of_ble_eq_true rfl) hR.1, Nat.le_trans (Nat.le_of_ble_eq_true rfl) hR.2⟩ ⟨Nat.zero_le _, Nat.zero_le _⟩ rfl rfl hl.1 (lv_room (Nat.le_of_ble_eq_true rfl)) dJ2_remove_5 ?_
  refine lv_pop hx hb dJ2_remove_8 rfl ?_
  refine lv_aload_n hx hb dJ2_remove_9 rfl (lv_at hl 0 rfl) ?_
  obtain ⟨v3, ev3, hit⟩ := o_bind hit
  refine c_getR X hI.1 kc_ArrayList 1 q196 (Or.inl rfl) rfl rfl ev3 dJ2_remove_10 ?_
  refine lv_astore_n (lv' := [(2, .ref v3), (0, .ref o), (1, .int a0)]) hx hb dJ2_remove_13 rfl hl (by decide) rfl (fun ls hl => ?_)
  refine lv_aload_n hx hb dJ2_remove_14 rfl (lv_at hl 0 rfl) ?_
  refine lv_iload_n hx hb dJ2_remove_15 rfl (lv_at hl 2 rfl) ?_
  obtain ⟨v4, ev4, hit⟩ := o_bind hit
  refine c_aald X hI.1 3 (fun _ => rfl) rfl ev4 dJ2_remove_16 ?_
  obtain ⟨v5, ev5, hit⟩ := o_bind hit
  refine c_deref ev5 ?_
  refine lv_astore_n (lv' := [(3, .ref v5), (2, .ref v3), (0, .ref o), (1, .int a0)]) hx hb dJ2_remove_17 rfl hl (by decide) rfl (fun ls hl => ?_)
  refine lv_aload_n hx hb dJ2_remove_18 rfl (lv_at hl 2 rfl) ?_
  refine lv_aload_n hx hb dJ2_remove_19 rfl (lv_at hl 1 rfl) ?_
  refine lv_iload_n hx hb dJ2_remove_20 rfl (lv_at hl 3 rfl) ?_
  obtain ⟨q6, eq6, hit⟩ := o_bind hit
  obtain ⟨iq6, eq6⟩ := vc_inv eq6
  refine c_cN X (c_AF h0H) hI kc_ArrayList (wCJ2_fastRemove l γ X.2.1 _ _ _ _ _ eq6) iq6 nm_J2_fastRemove q446 q448 q139 q449 qs5 ⟨Nat.le_trans (Nat.le_of_ble_eq_true rfl) hR.1, Nat.le_trans (Nat.le_of_ble_eq_true rfl) hR.2⟩ ⟨Nat.zero_le _, Nat.zero_le _⟩ rfl rfl hl.1 (lv_room (Nat.le_of_ble_eq_true rfl)) dJ2_remove_21 (fun H locs hI => ?_)
  refine lv_aload_n hx hb dJ2_remove_24 rfl (lv_at hl 0 rfl) ?_
  have he := o_in hit
  exact hend (some (.ref v5)) _ _ _ _ _ _ _ (kOut_o) (by subst he; rfl) hI dJ2_remove_25
noncomputable def C1_keep (K : Nat → Nat) (h : CH) (r : CR) (o : Nat) : Option (CS) :=
  (gR h o 1 8).bind fun v1 =>
  (gR h o 1 2).bind fun v2 =>
  (vc h v2 3 (achk r (C3_copy h r v2))).bind fun q3 =>
  (vc q3.2.1 v1 10 (achk q3.2.2 (CJ2_add K q3.2.1 q3.2.2 v1 q3.1))).bind fun q4 =>
  (gR q4.2.1 o 1 8).bind fun v5 =>
  (vc q4.2.1 v5 10 (CJ2_size q4.2.1 v5)).bind fun q6 =>
  if q6 ≤ 40 then
    (some q4.2)
  else
    ((gR q4.2.1 o 1 8).bind fun v8 =>
    (vc q4.2.1 v8 10 (CJ2_remove K q4.2.1 v8 0)).bind fun q9 =>
    some (q9.2, q4.2.2))
theorem nm_X1_keep : kNm yX1_keep RX1 0 := by unfold kNm; decide +kernel
set_option maxHeartbeats 4000000 in
set_option maxRecDepth 100000 in
theorem wC1_keep (l : Launch) (γ : KG) (hO : kOK γ) (h : CH) (r : CR) (o : Nat) (z : CS) (hz : C1_keep γ.2.2.2.2.2 h r o = some z) : aMet l yX1_keep (ws_ yX1_keep cX1_keep 1 none) 7 171 γ (h, r) [.ref o] none z := by
  refine a_start (cc := cX1_keep) (own := RX1) hO rfl rfl rfl (fun p e R s m args below meth c Q ls X hR hnm h0H hA hl hend => ?_)
  have hx := X.1.1
  have hb := X.1.2.1
  have hit := hz
  clear hz
  unfold C1_keep at hit
  have hl : lv_has ls 1 [(0, .ref o)] := hl
  refine lv_aload_n hx hb dX1_keep_0 rfl (lv_at hl 0 rfl) ?_
  obtain ⟨v1, ev1, hit⟩ := o_bind hit
  refine c_getR X hA.1.1 kc_TwinInk 8 q285 (Or.inl rfl) rfl rfl ev1 dX1_keep_1 ?_
  refine lv_aload_n hx hb dX1_keep_4 rfl (lv_at hl 0 rfl) ?_
  obtain ⟨v2, ev2, hit⟩ := o_bind hit
  refine c_getR X hA.1.1 kc_TwinInk 2 q278 (Or.inl rfl) rfl rfl ev2 dX1_keep_5 ?_
  obtain ⟨q3, eq3, hit⟩ := o_bind hit
  obtain ⟨iq3, eq3⟩ := vc_inv eq3
  obtain ⟨eq3, lq3⟩ := achk_inv eq3
  refine a_cV X h0H hA kc_Service (wC3_copy l γ X.2.1 _ _ _  _ eq3) lq3 iq3 nm_X3_copy q344 q345 q140 q347 q346 ⟨Nat.le_trans (Nat.le_of_ble_eq_true rfl) hR.1, Nat.le_trans (Nat.le_of_ble_eq_true rfl) hR.2⟩ rfl rfl hl.1 (lv_room (Nat.le_of_ble_eq_true rfl)) dX1_keep_8 (fun H locs cells slots hA => ?_)
  obtain ⟨q4, eq4, hit⟩ := o_bind hit
  obtain ⟨iq4, eq4⟩ := vc_inv eq4
  obtain ⟨eq4, lq4⟩ := achk_inv eq4
  refine a_cF X h0H hA kc_ArrayList iq4 nmi_List_add q355 q361 q139 q363 q359 q357 q356 q362 q360 q358 (wCJ2_add l γ X.2.1 _ _ _ _ _ eq4) lq4 ⟨Nat.le_trans (Nat.le_of_ble_eq_true rfl) hR.1, Nat.le_trans (Nat.le_of_ble_eq_true rfl) hR.2⟩ rfl rfl hl.1 (lv_room (Nat.le_of_ble_eq_true rfl)) dX1_keep_11 (fun H locs cells slots hA => ?_)
  refine lv_pop hx hb dX1_keep_16 rfl ?_
  refine lv_aload_n hx hb dX1_keep_17 rfl (lv_at hl 0 rfl) ?_
  obtain ⟨v5, ev5, hit⟩ := o_bind hit
  refine c_getR X hA.1.1 kc_TwinInk 8 q285 (Or.inl rfl) rfl rfl ev5 dX1_keep_18 ?_
  obtain ⟨q6, eq6, hit⟩ := o_bind hit
  obtain ⟨iq6, eq6⟩ := vc_inv eq6
  refine c_cRF X hA.1.1 (fun U hU hW => hA.D X.2.1 X.2.2 h0H hU hW) kc_ArrayList (wCJ2_size l γ X.2.1 _ _  _ eq6) iq6 nmi_List_size q423 q428 q139 q430 q426 q425 q424 q429 q427 q358 ⟨Nat.le_trans (Nat.le_of_ble_eq_true rfl) hR.1, Nat.le_trans (Nat.le_of_ble_eq_true rfl) hR.2⟩ hA.RR rfl rfl hl.1 (lv_room (Nat.le_of_ble_eq_true rfl)) dX1_keep_21 ?_
  refine lv_bipush (v := 40) hx hb dX1_keep_26 (by decide) ?_
  refine b_icmp_le (tgt := 42) hx hb dX1_keep_28 (by decide) hit (fun c7 hit => ?_) (fun c7 hit => ?_)
  · have he := o_in hit
    exact hend none q4.2 _ _ _ _ _ _ _ _ kOut_v (by subst he; rfl) hA dX1_keep_42
  · refine lv_aload_n hx hb dX1_keep_31 rfl (lv_at hl 0 rfl) ?_
    obtain ⟨v8, ev8, hit⟩ := o_bind hit
    refine c_getR X hA.1.1 kc_TwinInk 8 q285 (Or.inl rfl) rfl rfl ev8 dX1_keep_32 ?_
    refine lv_iconst (v := 0) hx hb dX1_keep_35 (by decide) ?_
    obtain ⟨q9, eq9, hit⟩ := o_bind hit
    obtain ⟨iq9, eq9⟩ := vc_inv eq9
    refine c_cNF X (kA_F X.2.1 X.2.2 h0H) hA.1 kc_ArrayList iq9 nmi_List_remove q432 q437 q139 q439 q435 q434 q433 q438 q436 q358 (wCJ2_remove l γ X.2.1 _ _ _ _ eq9) hA.RR ⟨Nat.le_trans (Nat.le_of_ble_eq_true rfl) hR.1, Nat.le_trans (Nat.le_of_ble_eq_true rfl) hR.2⟩ rfl rfl hl.1 (lv_room (Nat.le_of_ble_eq_true rfl)) dX1_keep_36 (fun H locs hI => ?_)
    replace hA := hA.up hI
    clear hI
    refine lv_pop hx hb dX1_keep_41 rfl ?_
    have he := o_in hit
    exact hend none (q9.2, q4.2.2) _ _ _ _ _ _ _ _ kOut_v (by subst he; rfl) hA dX1_keep_42
noncomputable def C1_refuse (h : CH) (o : Nat) (a0 : Int32) : Option (Int32 × CH) :=
  (gR h o 1 7).bind fun v1 =>
  (aI h v1 0 a0).bind fun v2 =>
  (sI h v1 0 a0 (v2 + 1)).bind fun s3 =>
  some ((-1), s3)
theorem nm_X1_refuse : kNm yX1_refuse RX1 1 := by unfold kNm; decide +kernel
set_option maxHeartbeats 4000000 in
set_option maxRecDepth 100000 in
theorem wC1_refuse (l : Launch) (γ : KG) (hO : kOK γ) (h : CH) (o : Nat) (a0 : Int32) (z : Int32 × CH) (hz : C1_refuse h o a0 = some z) : Met l yX1_refuse (ws_ yX1_refuse cX1_refuse 2 (some .int)) (kRm 0 0) (cPc γ h [.ref o, .int a0]) (cNq γ h (some (.int z.1)) z.2) 0 0 (kdm h) := by
  refine c_startN (cc := cX1_refuse) (own := RX1) hO rfl rfl rfl (fun p e R s m args below meth c Q ls X hR h0H hI hl hend => ?_)
  have hx := X.1.1
  have hb := X.1.2.1
  have hit := hz
  clear hz
  unfold C1_refuse at hit
  have hl : lv_has ls 2 [(0, .ref o), (1, .int a0)] := hl
  refine lv_aload_n hx hb dX1_refuse_0 rfl (lv_at hl 0 rfl) ?_
  obtain ⟨v1, ev1, hit⟩ := o_bind hit
  refine c_getR X hI.1 kc_TwinInk 7 q284 (Or.inl rfl) rfl rfl ev1 dX1_refuse_1 ?_
  refine lv_iload_n hx hb dX1_refuse_4 rfl (lv_at hl 1 rfl) ?_
  refine lv_dup2_11 hx hb dX1_refuse_5 rfl rfl ?_
  obtain ⟨v2, ev2, hit⟩ := o_bind hit
  refine c_iald X hI.1 ev2 dX1_refuse_6 ?_
  refine lv_iconst (v := 1) hx hb dX1_refuse_7 (by decide) ?_
  refine lv_iadd hx hb dX1_refuse_8 ?_
  obtain ⟨s3, es3, hit⟩ := o_bind hit
  refine c_iast X hI es3 dX1_refuse_9 (fun H locs hI => ?_)
  refine lv_iconst (v := (-1)) hx hb dX1_refuse_10 (by decide) ?_
  have he := o_in hit
  exact hend (some (.int (-1))) _ _ _ _ _ _ _ (kOut_i rfl) (by subst he; rfl) hI dX1_refuse_11
noncomputable def C3_learn_L2 (o : Nat) (a0 : Int32) (a1 : Int32) (t1 : Int32 × CH) : Option ((Int32 × CH) ⊕ CH) :=
  (gR t1.2 o 3 5).bind fun v3 =>
  (gR t1.2 v3 1 1).bind fun v4 =>
  (vc t1.2 v4 2 (C2_clerks t1.2 v4)).bind fun q5 =>
  if t1.1 < q5 then
    ((C1_isOf a0 t1.1).bind fun q7 =>
    ((if q7 = 0 then
        (some t1.2)
      else
        ((gR t1.2 o 3 3).bind fun v10 =>
        (aI t1.2 v10 0 t1.1).bind fun v11 =>
        (sI t1.2 v10 0 t1.1 (v11 ||| a1)).bind fun s12 =>
        some s12) : Option CH)).bind fun r8 =>
    some (.inl ((t1.1 + 1), r8)))
  else
    (some (.inr t1.2))
noncomputable def C3_learn (h : CH) (o : Nat) (a0 : Int32) (a1 : Int32) : Option (CH) :=
  o_loop (C3_learn_L2 o a0 a1) (0, h)
theorem nm_X3_learn : kNm yX3_learn RX3 2 := by unfold kNm; decide +kernel
set_option maxHeartbeats 4000000 in
set_option maxRecDepth 100000 in
theorem wC3_learn (l : Launch) (γ : KG) (hO : kOK γ) (h : CH) (o : Nat) (a0 : Int32) (a1 : Int32) (z : CH) (hz : C3_learn h o a0 a1 = some z) : Met l yX3_learn (ws_ yX3_learn cX3_learn 4 none) (kRm 2 40) (cPc γ h [.ref o, .int a0, .int a1]) (cNq γ h none z) 0 0 (kdm h) := by
  refine c_startN (cc := cX3_learn) (own := RX3) hO rfl rfl rfl (fun p e R s m args below meth c Q ls X hR h0H hI hl hend => ?_)
  have hx := X.1.1
  have hb := X.1.2.1
  have hit := hz
  clear hz
  unfold C3_learn at hit
  have hl : lv_has ls 4 [(0, .ref o), (1, .int a0), (2, .int a1)] := hl
  refine lv_iconst (v := 0) hx hb dX3_learn_0 (by decide) ?_
  refine lv_istore_n (lv' := [(3, .int 0), (0, .ref o), (1, .int a0), (2, .int a1)]) hx hb dX3_learn_1 rfl hl (by decide) rfl (fun ls hl => ?_)
  refine o_rec (P := fun t1 => ∀ (H : Heap) (locs : List Loc) (ls : Array Slot), NI γ (kdm h) s.heap.size s t1.2 H locs → lv_has ls 4 [(0, .ref o), (1, .int a0), (2, .int a1), (3, .int t1.1)] → W p l e R s m args below meth c H locs 0 0 Q (F0 m 2 ls [])) (fun t1 x2 hit hC1 hE1 H locs ls hI hl => ?_) _ hit _ _ _ hI (lv_sub hl [1, 2, 3, 0] rfl)
  unfold C3_learn_L2 at hit
  refine lv_iload_n hx hb dX3_learn_2 rfl (lv_at hl 3 rfl) ?_
  refine lv_aload_n hx hb dX3_learn_3 rfl (lv_at hl 0 rfl) ?_
  obtain ⟨v3, ev3, hit⟩ := o_bind hit
  refine c_getR X hI.1 kc_Service 5 q258 (Or.inl rfl) rfl rfl ev3 dX3_learn_4 ?_
  obtain ⟨v4, ev4, hit⟩ := o_bind hit
  refine c_getNR X hI.1 kc_TwinInk 1 q276 (Or.inl rfl) rfl rfl ev4 dX3_learn_7 ?_
  obtain ⟨q5, eq5, hit⟩ := o_bind hit
  obtain ⟨iq5, eq5⟩ := vc_inv eq5
  refine c_cR X hI.1 (fun U hU hW => hI.D X.2.2 (c_AF h0H) hU hW) kc_Office (wC2_clerks l γ X.2.1 _ _  _ eq5) iq5 nm_X2_clerks q463 q464 q136 q466 q465 ⟨Nat.le_trans (Nat.le_of_ble_eq_true rfl) hR.1, Nat.le_trans (Nat.le_of_ble_eq_true rfl) hR.2⟩ ⟨Nat.zero_le _, Nat.zero_le _⟩ rfl rfl hl.1 (lv_room (Nat.le_of_ble_eq_true rfl)) dX3_learn_10 ?_
  refine b_icmp_ge (tgt := 40) hx hb dX3_learn_13 (by decide) hit (fun c6 hit => ?_) (fun c6 hit => ?_)
  · have he := o_in hit
    have he := hE1 _ he
    exact hend none _ _ _ _ _ _ _ kOut_v (by subst he; rfl) hI dX3_learn_40
  · refine lv_iload_n hx hb dX3_learn_16 rfl (lv_at hl 1 rfl) ?_
    refine lv_iload_n hx hb dX3_learn_17 rfl (lv_at hl 3 rfl) ?_
    obtain ⟨q7, eq7, hit⟩ := o_bind hit
    refine c_cPN X (wC1_isOf l _ _ _ eq7) nm_X1_isOf q518 q519 q135 q520 ⟨Nat.le_trans (Nat.le_of_ble_eq_true rfl) hR.1, Nat.le_trans (Nat.le_of_ble_eq_true rfl) hR.2⟩ ⟨Nat.zero_le _, Nat.zero_le _⟩ rfl rfl hl.1 (lv_room (Nat.le_of_ble_eq_true rfl)) dX3_learn_18 ?_
    obtain ⟨r8, er8, hit⟩ := o_bind hit
    have hr8 : ∀ (H : Heap) (locs : List Loc) (ls : Array Slot), NI γ (kdm h) s.heap.size s r8 H locs → lv_has ls 4 [(0, .ref o), (1, .int a0), (2, .int a1), (3, .int t1.1)] → W p l e R s m args below meth c H locs 0 0 Q (F0 m 34 ls []) := by
      intro H locs ls hI hl
      refine lv_iinc (k := 3) (v := (t1.1 + 1)) (lv' := [(3, .int (t1.1 + 1)), (0, .ref o), (1, .int a0), (2, .int a1)]) hx hb dX3_learn_34 hl rfl rfl (by decide) rfl (fun ls hl => ?_)
      refine lv_goto (tgt := 2) hx hb dX3_learn_37 (by decide) ?_
      have he := o_in hit
      exact hC1 _ he _ _ _ hI (lv_sub hl [1, 2, 3, 0] rfl)
    have hit := er8
    refine b_if_eq (tgt := 34) hx hb dX3_learn_21 (by decide) hit (fun c9 hit => ?_) (fun c9 hit => ?_)
    · have he := o_in hit
      subst he
      exact hr8 _ _ _ hI hl
    · refine lv_aload_n hx hb dX3_learn_24 rfl (lv_at hl 0 rfl) ?_
      obtain ⟨v10, ev10, hit⟩ := o_bind hit
      refine c_getR X hI.1 kc_Service 3 q254 (Or.inl rfl) rfl rfl ev10 dX3_learn_25 ?_
      refine lv_iload_n hx hb dX3_learn_28 rfl (lv_at hl 3 rfl) ?_
      refine lv_dup2_11 hx hb dX3_learn_29 rfl rfl ?_
      obtain ⟨v11, ev11, hit⟩ := o_bind hit
      refine c_iald X hI.1 ev11 dX3_learn_30 ?_
      refine lv_iload_n hx hb dX3_learn_31 rfl (lv_at hl 2 rfl) ?_
      refine lv_ior hx hb dX3_learn_32 ?_
      obtain ⟨s12, es12, hit⟩ := o_bind hit
      refine c_iast X hI es12 dX3_learn_33 (fun H locs hI => ?_)
      have he := o_in hit
      subst he
      exact hr8 _ _ _ hI hl
noncomputable def C3_take (h : CH) (o : Nat) (a0 : Int32) (a1 : Int32) : Option (CH) :=
  (gR h o 3 2).bind fun v1 =>
  (sI h v1 0 a1 (4 + a0)).bind fun s2 =>
  some s2
theorem nm_X3_take : kNm yX3_take RX3 2 := by unfold kNm; decide +kernel
set_option maxHeartbeats 4000000 in
set_option maxRecDepth 100000 in
theorem wC3_take (l : Launch) (γ : KG) (hO : kOK γ) (h : CH) (o : Nat) (a0 : Int32) (a1 : Int32) (z : CH) (hz : C3_take h o a0 a1 = some z) : Met l yX3_take (ws_ yX3_take cX3_take 3 none) (kRm 0 0) (cPc γ h [.ref o, .int a0, .int a1]) (cNq γ h none z) 0 0 (kdm h) := by
  refine c_startN (cc := cX3_take) (own := RX3) hO rfl rfl rfl (fun p e R s m args below meth c Q ls X hR h0H hI hl hend => ?_)
  have hx := X.1.1
  have hb := X.1.2.1
  have hit := hz
  clear hz
  unfold C3_take at hit
  have hl : lv_has ls 3 [(0, .ref o), (1, .int a0), (2, .int a1)] := hl
  refine lv_aload_n hx hb dX3_take_0 rfl (lv_at hl 0 rfl) ?_
  obtain ⟨v1, ev1, hit⟩ := o_bind hit
  refine c_getR X hI.1 kc_Service 2 q251 (Or.inl rfl) rfl rfl ev1 dX3_take_1 ?_
  refine lv_iload_n hx hb dX3_take_4 rfl (lv_at hl 2 rfl) ?_
  refine lv_iconst (v := 4) hx hb dX3_take_5 (by decide) ?_
  refine lv_iload_n hx hb dX3_take_6 rfl (lv_at hl 1 rfl) ?_
  refine lv_iadd hx hb dX3_take_7 ?_
  obtain ⟨s2, es2, hit⟩ := o_bind hit
  refine c_iast X hI es2 dX3_take_8 (fun H locs hI => ?_)
  have he := o_in hit
  exact hend none _ _ _ _ _ _ _ kOut_v (by subst he; rfl) hI dX3_take_9
noncomputable def C3_burn_L8 (o : Nat) (q1 : Int32) (t2 : Int32 × CH) : Option ((Int32 × CH) ⊕ (Int32 × CH)) :=
  (gR t2.2 o 3 5).bind fun v4 =>
  (gR t2.2 v4 1 1).bind fun v5 =>
  (gI t2.2 v5 2 2).bind fun v6 =>
  if t2.1 < v6 then
    ((C1_isOf q1 t2.1).bind fun q8 =>
    ((if q8 = 0 then
        (some t2.2)
      else
        ((gR t2.2 o 3 2).bind fun v11 =>
        (sI t2.2 v11 0 t2.1 (-1)).bind fun s12 =>
        some s12) : Option CH)).bind fun r9 =>
    some (.inl ((t2.1 + 1), r9)))
  else
    (some (.inr (q1, t2.2)))
noncomputable def C3_burn (h : CH) (o : Nat) (a0 : Int32) : Option (Int32 × CH) :=
  (vc h o 3 (C3_archive h o a0)).bind fun q1 =>
  o_loop (C3_burn_L8 o q1) (0, h)
theorem nm_X3_burn : kNm yX3_burn RX3 1 := by unfold kNm; decide +kernel
set_option maxHeartbeats 4000000 in
set_option maxRecDepth 100000 in
theorem wC3_burn (l : Launch) (γ : KG) (hO : kOK γ) (h : CH) (o : Nat) (a0 : Int32) (z : Int32 × CH) (hz : C3_burn h o a0 = some z) : Met l yX3_burn (ws_ yX3_burn cX3_burn 4 (some .int)) (kRm 1 23) (cPc γ h [.ref o, .int a0]) (cNq γ h (some (.int z.1)) z.2) 0 0 (kdm h) := by
  refine c_startN (cc := cX3_burn) (own := RX3) hO rfl rfl rfl (fun p e R s m args below meth c Q ls X hR h0H hI hl hend => ?_)
  have hx := X.1.1
  have hb := X.1.2.1
  have hit := hz
  clear hz
  unfold C3_burn at hit
  have hl : lv_has ls 4 [(0, .ref o), (1, .int a0)] := hl
  refine lv_aload_n hx hb dX3_burn_0 rfl (lv_at hl 0 rfl) ?_
  refine lv_iload_n hx hb dX3_burn_1 rfl (lv_at hl 1 rfl) ?_
  obtain ⟨q1, eq1, hit⟩ := o_bind hit
  obtain ⟨iq1, eq1⟩ := vc_inv eq1
  refine c_cR X hI.1 (fun U hU hW => hI.D X.2.2 (c_AF h0H) hU hW) kc_Service (wC3_archive l γ X.2.1 _ _ _ _ eq1) iq1 nm_X3_archive q1394 q1340 q140 q1342 q1341 ⟨Nat.le_trans (Nat.le_of_ble_eq_true rfl) hR.1, Nat.le_trans (Nat.le_of_ble_eq_true rfl) hR.2⟩ ⟨Nat.zero_le _, Nat.zero_le _⟩ rfl rfl hl.1 (lv_room (Nat.le_of_ble_eq_true rfl)) dX3_burn_2 ?_
  refine lv_istore_n (lv' := [(2, .int q1), (0, .ref o), (1, .int a0)]) hx hb dX3_burn_5 rfl hl (by decide) rfl (fun ls hl => ?_)
  refine lv_iconst (v := 0) hx hb dX3_burn_6 (by decide) ?_
  refine lv_istore_n (lv' := [(3, .int 0), (2, .int q1), (0, .ref o), (1, .int a0)]) hx hb dX3_burn_7 rfl hl (by decide) rfl (fun ls hl => ?_)
  refine o_rec (P := fun t2 => ∀ (H : Heap) (locs : List Loc) (ls : Array Slot), NI γ (kdm h) s.heap.size s t2.2 H locs → lv_has ls 4 [(2, .int q1), (0, .ref o), (3, .int t2.1)] → W p l e R s m args below meth c H locs 0 0 Q (F0 m 8 ls [])) (fun t2 x3 hit hC2 hE2 H locs ls hI hl => ?_) _ hit _ _ _ hI (lv_sub hl [1, 2, 0] rfl)
  unfold C3_burn_L8 at hit
  refine lv_iload_n hx hb dX3_burn_8 rfl (lv_at hl 2 rfl) ?_
  refine lv_aload_n hx hb dX3_burn_9 rfl (lv_at hl 1 rfl) ?_
  obtain ⟨v4, ev4, hit⟩ := o_bind hit
  refine c_getR X hI.1 kc_Service 5 q258 (Or.inl rfl) rfl rfl ev4 dX3_burn_10 ?_
  obtain ⟨v5, ev5, hit⟩ := o_bind hit
  refine c_getNR X hI.1 kc_TwinInk 1 q276 (Or.inl rfl) rfl rfl ev5 dX3_burn_13 ?_
  obtain ⟨v6, ev6, hit⟩ := o_bind hit
  refine c_getNI X hI.1 kc_Office 2 q217 (Or.inl rfl) rfl rfl ev6 dX3_burn_16 ?_
  refine b_icmp_ge (tgt := 43) hx hb dX3_burn_19 (by decide) hit (fun c7 hit => ?_) (fun c7 hit => ?_)
  · refine lv_iload_n hx hb dX3_burn_43 rfl (lv_at hl 0 rfl) ?_
    have he := o_in hit
    have he := hE2 _ he
    exact hend (some (.int q1)) _ _ _ _ _ _ _ (kOut_i rfl) (by subst he; rfl) hI dX3_burn_44
  · refine lv_iload_n hx hb dX3_burn_22 rfl (lv_at hl 0 rfl) ?_
    refine lv_iload_n hx hb dX3_burn_23 rfl (lv_at hl 2 rfl) ?_
    obtain ⟨q8, eq8, hit⟩ := o_bind hit
    refine c_cPN X (wC1_isOf l _ _ _ eq8) nm_X1_isOf q518 q519 q135 q520 ⟨Nat.le_trans (Nat.le_of_ble_eq_true rfl) hR.1, Nat.le_trans (Nat.le_of_ble_eq_true rfl) hR.2⟩ ⟨Nat.zero_le _, Nat.zero_le _⟩ rfl rfl hl.1 (lv_room (Nat.le_of_ble_eq_true rfl)) dX3_burn_24 ?_
    obtain ⟨r9, er9, hit⟩ := o_bind hit
    have hr9 : ∀ (H : Heap) (locs : List Loc) (ls : Array Slot), NI γ (kdm h) s.heap.size s r9 H locs → lv_has ls 4 [(2, .int q1), (0, .ref o), (3, .int t2.1)] → W p l e R s m args below meth c H locs 0 0 Q (F0 m 37 ls []) := by
      intro H locs ls hI hl
      refine lv_iinc (k := 2) (v := (t2.1 + 1)) (lv' := [(3, .int (t2.1 + 1)), (2, .int q1), (0, .ref o)]) hx hb dX3_burn_37 hl rfl rfl (by decide) rfl (fun ls hl => ?_)
      refine lv_goto (tgt := 8) hx hb dX3_burn_40 (by decide) ?_
      have he := o_in hit
      exact hC2 _ he _ _ _ hI (lv_sub hl [1, 2, 0] rfl)
    have hit := er9
    refine b_if_eq (tgt := 37) hx hb dX3_burn_27 (by decide) hit (fun c10 hit => ?_) (fun c10 hit => ?_)
    · have he := o_in hit
      subst he
      exact hr9 _ _ _ hI hl
    · refine lv_aload_n hx hb dX3_burn_30 rfl (lv_at hl 1 rfl) ?_
      obtain ⟨v11, ev11, hit⟩ := o_bind hit
      refine c_getR X hI.1 kc_Service 2 q251 (Or.inl rfl) rfl rfl ev11 dX3_burn_31 ?_
      refine lv_iload_n hx hb dX3_burn_34 rfl (lv_at hl 2 rfl) ?_
      refine lv_iconst (v := (-1)) hx hb dX3_burn_35 (by decide) ?_
      obtain ⟨s12, es12, hit⟩ := o_bind hit
      refine c_iast X hI es12 dX3_burn_36 (fun H locs hI => ?_)
      have he := o_in hit
      subst he
      exact hr9 _ _ _ hI hl
noncomputable def CJ2_isEmpty (h : CH) (o : Nat) : Option (Int32) :=
  (gI h o 10 2).bind fun v1 =>
  if v1 = 0 then
    (some 1)
  else
    (some 0)
theorem nm_J2_isEmpty : kNm yJ2_isEmpty RJ2 0 := by unfold kNm; decide +kernel
set_option maxHeartbeats 4000000 in
set_option maxRecDepth 100000 in
theorem wCJ2_isEmpty (l : Launch) (γ : KG) (hO : kOK γ) (h : CH) (o : Nat) (z : Int32) (hz : CJ2_isEmpty h o = some z) : Met l yJ2_isEmpty (ws_ yJ2_isEmpty cJ2_isEmpty 1 (some .boolean)) (kRm 0 0) (cPc γ h [.ref o]) (cRq (.int z)) 0 0 vp_nf := by
  refine c_startR (cc := cJ2_isEmpty) (own := RJ2) hO rfl rfl rfl (fun p e R s m args below meth c Q ls X hR hH hDU hl hend => ?_)
  have hx := X.1.1
  have hb := X.1.2.1
  have hit := hz
  clear hz
  unfold CJ2_isEmpty at hit
  have hl : lv_has ls 1 [(0, .ref o)] := hl
  refine lv_aload_n hx hb dJ2_isEmpty_0 rfl (lv_at hl 0 rfl) ?_
  obtain ⟨v1, ev1, hit⟩ := o_bind hit
  refine c_getI X hH kc_ArrayList 2 q197 (Or.inl rfl) rfl rfl ev1 dJ2_isEmpty_1 ?_
  refine b_if_ne (tgt := 11) hx hb dJ2_isEmpty_4 (by decide) hit (fun c2 hit => ?_) (fun c2 hit => ?_)
  · refine lv_iconst (v := 0) hx hb dJ2_isEmpty_11 (by decide) ?_
    have he := o_in hit
    exact hend (.int 0) _ _ _ _ (kOut_i rfl) (congrArg Value.int he) dJ2_isEmpty_12
  · refine lv_iconst (v := 1) hx hb dJ2_isEmpty_7 (by decide) ?_
    refine lv_goto (tgt := 12) hx hb dJ2_isEmpty_8 (by decide) ?_
    have he := o_in hit
    exact hend (.int 1) _ _ _ _ (kOut_i rfl) (congrArg Value.int he) dJ2_isEmpty_12
noncomputable def C1_undo (K : Nat → Nat) (h : CH) (r : CR) (o : Nat) : Option (Int32 × CS) :=
  (gR h o 1 8).bind fun v1 =>
  (vc h v1 10 (CJ2_isEmpty h v1)).bind fun q2 =>
  if q2 = 0 then
    ((gR h o 1 8).bind fun v4 =>
    (gR h o 1 8).bind fun v5 =>
    (vc h v5 10 (CJ2_size h v5)).bind fun q6 =>
    (vc h v4 10 (CJ2_remove K h v4 (q6 - 1))).bind fun q7 =>
    (ckC q7.2 q7.1 3).bind fun u9 =>
    (vc q7.2 q7.1 3 (achk r (C3_copy q7.2 r q7.1))).bind fun q10 =>
    (pQ q10.2.1 o 1 2 (some q10.1)).bind fun s11 =>
    (gR s11 o 1 8).bind fun v12 =>
    (vc s11 v12 10 (CJ2_size s11 v12)).bind fun q13 =>
    some (q13, (s11, q10.2.2)))
  else
    (some ((-1), (h, r)))
theorem nm_X1_undo : kNm yX1_undo RX1 0 := by unfold kNm; decide +kernel
set_option maxHeartbeats 4000000 in
set_option maxRecDepth 100000 in
theorem wC1_undo (l : Launch) (γ : KG) (hO : kOK γ) (h : CH) (r : CR) (o : Nat) (z : Int32 × CS) (hz : C1_undo γ.2.2.2.2.2 h r o = some z) : aMet l yX1_undo (ws_ yX1_undo cX1_undo 1 (some .int)) 3 86 γ (h, r) [.ref o] (some (.int z.1)) z.2 := by
  refine a_start (cc := cX1_undo) (own := RX1) hO rfl rfl rfl (fun p e R s m args below meth c Q ls X hR hnm h0H hA hl hend => ?_)
  have hx := X.1.1
  have hb := X.1.2.1
  have hit := hz
  clear hz
  unfold C1_undo at hit
  have hl : lv_has ls 1 [(0, .ref o)] := hl
  refine lv_aload_n hx hb dX1_undo_0 rfl (lv_at hl 0 rfl) ?_
  obtain ⟨v1, ev1, hit⟩ := o_bind hit
  refine c_getR X hA.1.1 kc_TwinInk 8 q285 (Or.inl rfl) rfl rfl ev1 dX1_undo_1 ?_
  obtain ⟨q2, eq2, hit⟩ := o_bind hit
  obtain ⟨iq2, eq2⟩ := vc_inv eq2
  refine c_cRF X hA.1.1 (fun U hU hW => hA.D X.2.1 X.2.2 h0H hU hW) kc_ArrayList (wCJ2_isEmpty l γ X.2.1 _ _  _ eq2) iq2 nmi_List_isEmpty q630 q635 q139 q637 q633 q632 q631 q636 q634 q358 ⟨Nat.le_trans (Nat.le_of_ble_eq_true rfl) hR.1, Nat.le_trans (Nat.le_of_ble_eq_true rfl) hR.2⟩ hA.RR rfl rfl hl.1 (lv_room (Nat.le_of_ble_eq_true rfl)) dX1_undo_4 ?_
  refine b_if_eq (tgt := 14) hx hb dX1_undo_9 (by decide) hit (fun c3 hit => ?_) (fun c3 hit => ?_)
  · refine lv_aload_n hx hb dX1_undo_14 rfl (lv_at hl 0 rfl) ?_
    refine lv_aload_n hx hb dX1_undo_15 rfl (lv_at hl 0 rfl) ?_
    obtain ⟨v4, ev4, hit⟩ := o_bind hit
    refine c_getR X hA.1.1 kc_TwinInk 8 q285 (Or.inl rfl) rfl rfl ev4 dX1_undo_16 ?_
    refine lv_aload_n hx hb dX1_undo_19 rfl (lv_at hl 0 rfl) ?_
    obtain ⟨v5, ev5, hit⟩ := o_bind hit
    refine c_getR X hA.1.1 kc_TwinInk 8 q285 (Or.inl rfl) rfl rfl ev5 dX1_undo_20 ?_
    obtain ⟨q6, eq6, hit⟩ := o_bind hit
    obtain ⟨iq6, eq6⟩ := vc_inv eq6
    refine c_cRF X hA.1.1 (fun U hU hW => hA.D X.2.1 X.2.2 h0H hU hW) kc_ArrayList (wCJ2_size l γ X.2.1 _ _  _ eq6) iq6 nmi_List_size q423 q428 q139 q430 q426 q425 q424 q429 q427 q358 ⟨Nat.le_trans (Nat.le_of_ble_eq_true rfl) hR.1, Nat.le_trans (Nat.le_of_ble_eq_true rfl) hR.2⟩ hA.RR rfl rfl hl.1 (lv_room (Nat.le_of_ble_eq_true rfl)) dX1_undo_23 ?_
    refine lv_iconst (v := 1) hx hb dX1_undo_28 (by decide) ?_
    refine lv_isub hx hb dX1_undo_29 ?_
    obtain ⟨q7, eq7, hit⟩ := o_bind hit
    obtain ⟨iq7, eq7⟩ := vc_inv eq7
    refine c_cNF X (kA_F X.2.1 X.2.2 h0H) hA.1 kc_ArrayList iq7 nmi_List_remove q432 q437 q139 q439 q435 q434 q433 q438 q436 q358 (wCJ2_remove l γ X.2.1 _ _ _ _ eq7) hA.RR ⟨Nat.le_trans (Nat.le_of_ble_eq_true rfl) hR.1, Nat.le_trans (Nat.le_of_ble_eq_true rfl) hR.2⟩ rfl rfl hl.1 (lv_room (Nat.le_of_ble_eq_true rfl)) dX1_undo_30 (fun H locs hI => ?_)
    replace hA := hA.up hI
    clear hI
    obtain ⟨u9, eu9, hit⟩ := o_bind hit
    refine c_castS X hA.1.1 kc_Service q239 eu9 dX1_undo_35 ?_
    obtain ⟨q10, eq10, hit⟩ := o_bind hit
    obtain ⟨iq10, eq10⟩ := vc_inv eq10
    obtain ⟨eq10, lq10⟩ := achk_inv eq10
    refine a_cV X h0H hA kc_Service (wC3_copy l γ X.2.1 _ _ _  _ eq10) lq10 iq10 nm_X3_copy q344 q345 q140 q347 q346 ⟨Nat.le_trans (Nat.le_of_ble_eq_true rfl) hR.1, Nat.le_trans (Nat.le_of_ble_eq_true rfl) hR.2⟩ rfl rfl hl.1 (lv_room (Nat.le_of_ble_eq_true rfl)) dX1_undo_38 (fun H locs cells slots hA => ?_)
    obtain ⟨s11, es11, hit⟩ := o_bind hit
    refine c_putQ X hA.1 kc_TwinInk 2 q278 (Or.inl rfl) rfl rfl (v := (some q10.1)) (tyv := (.object "TwinInk$Service")) rfl (Or.inl ⟨_, rfl⟩) es11 dX1_undo_41 (fun H locs hI => ?_)
    replace hA := hA.up hI
    clear hI
    refine lv_aload_n hx hb dX1_undo_44 rfl (lv_at hl 0 rfl) ?_
    obtain ⟨v12, ev12, hit⟩ := o_bind hit
    refine c_getR X hA.1.1 kc_TwinInk 8 q285 (Or.inl rfl) rfl rfl ev12 dX1_undo_45 ?_
    obtain ⟨q13, eq13, hit⟩ := o_bind hit
    obtain ⟨iq13, eq13⟩ := vc_inv eq13
    refine c_cRF X hA.1.1 (fun U hU hW => hA.D X.2.1 X.2.2 h0H hU hW) kc_ArrayList (wCJ2_size l γ X.2.1 _ _  _ eq13) iq13 nmi_List_size q423 q428 q139 q430 q426 q425 q424 q429 q427 q358 ⟨Nat.le_trans (Nat.le_of_ble_eq_true rfl) hR.1, Nat.le_trans (Nat.le_of_ble_eq_true rfl) hR.2⟩ hA.RR rfl rfl hl.1 (lv_room (Nat.le_of_ble_eq_true rfl)) dX1_undo_48 ?_
    have he := o_in hit
    exact hend (some (.int q13)) (s11, q10.2.2) _ _ _ _ _ _ _ _ (kOut_i rfl) (by subst he; rfl) hA dX1_undo_53
  · refine lv_iconst (v := (-1)) hx hb dX1_undo_12 (by decide) ?_
    have he := o_in hit
    exact hend (some (.int (-1))) (h, r) _ _ _ _ _ _ _ _ (kOut_i rfl) (by subst he; rfl) hA dX1_undo_13
noncomputable def CJ6_init (K : Nat → Nat) (h : CH) (r : CR) (o : Nat) : Option (CS) :=
  (achv r (CJ5_init K h r o)).bind fun q1 =>
  some q1
theorem nm_J6_init : kNm yJ6_init RJ6 0 := by unfold kNm; decide +kernel
set_option maxHeartbeats 4000000 in
set_option maxRecDepth 100000 in
theorem wCJ6_init (l : Launch) (γ : KG) (hO : kOK γ) (h : CH) (r : CR) (o : Nat) (z : CS) (hz : CJ6_init γ.2.2.2.2.2 h r o = some z) : aMet l yJ6_init (ws_ yJ6_init cJ6_init 1 none) 4 90 γ (h, r) [.ref o] none z := by
  refine a_start (cc := cJ6_init) (own := RJ6) hO rfl rfl rfl (fun p e R s m args below meth c Q ls X hR hnm h0H hA hl hend => ?_)
  have hin2 : meth.name = "<init>" := hnm
  have hx := X.1.1
  have hb := X.1.2.1
  have hit := hz
  clear hz
  unfold CJ6_init at hit
  have hl : lv_has ls 1 [(0, .ref o)] := hl
  refine lv_aload_n hx hb dJ6_init_0 rfl (lv_at hl 0 rfl) ?_
  obtain ⟨q1, eq1, hit⟩ := o_bind hit
  obtain ⟨eq1, lq1⟩ := achv_inv eq1
  refine a_cI X h0H hA nm_J5_init q738 q739 q144 q740 rfl (wCJ5_init l γ X.2.1 _ _ _  _ eq1) lq1 ⟨Nat.le_trans (Nat.le_of_ble_eq_true rfl) hR.1, Nat.le_trans (Nat.le_of_ble_eq_true rfl) hR.2⟩ rfl rfl hl.1 (lv_room (Nat.le_of_ble_eq_true rfl)) dJ6_init_1 (fun H locs cells slots hA => ?_)
  have he := o_in hit
  exact hend none q1 _ _ _ _ _ _ _ _ kOut_v (by subst he; rfl) hA dJ6_init_4
