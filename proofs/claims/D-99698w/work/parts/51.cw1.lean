noncomputable def C3_talk_L2 (o : Nat) (t1 : Int32 × CH) : Option ((Int32 × CH) ⊕ (Nat × CH)) :=
  if t1.1 < 4 then
    ((vc t1.2 o 3 (C3_clerksIn t1.2 o t1.1)).bind fun q4 =>
    (vc t1.2 o 3 (C3_clerksIn t1.2 o t1.1)).bind fun q5 =>
    (vc t1.2 o 3 (C3_known t1.2 o q5)).bind fun q6 =>
    (vc t1.2 o 3 (C3_learn t1.2 o q4 q6)).bind fun q7 =>
    some (.inl ((t1.1 + 1), q7)))
  else
    (some (.inr (o, t1.2)))
noncomputable def C3_talk (h : CH) (o : Nat) : Option (Nat × CH) :=
  o_loop (C3_talk_L2 o) (0, h)
theorem nm_X3_talk : kNm yX3_talk RX3 0 := by unfold kNm; decide +kernel
set_option maxHeartbeats 4000000 in
set_option maxRecDepth 100000 in
theorem wC3_talk (l : Launch) (γ : KG) (hO : kOK γ) (h : CH) (o : Nat) (z : Nat × CH) (hz : C3_talk h o = some z) : Met l yX3_talk (ws_ yX3_talk cX3_talk 2 (some (.object "TwinInk$Service"))) (kRm 6 130) (cPc γ h [.ref o]) (cNq γ h (some (.ref z.1)) z.2) 0 0 (kdm h) := by
  refine c_startN (cc := cX3_talk) (own := RX3) hO rfl rfl rfl (fun p e R s m args below meth c Q ls X hR h0H hI hl hend => ?_)
  have hx := X.1.1
  have hb := X.1.2.1
  have hit := hz
  clear hz
  unfold C3_talk at hit
  have hl : lv_has ls 2 [(0, .ref o)] := hl
  refine lv_iconst (v := 0) hx hb dX3_talk_0 (by decide) ?_
  refine lv_istore_n (lv' := [(1, .int 0), (0, .ref o)]) hx hb dX3_talk_1 rfl hl (by decide) rfl (fun ls hl => ?_)
  refine o_rec (P := fun t1 => ∀ (H : Heap) (locs : List Loc) (ls : Array Slot), NI γ (kdm h) s.heap.size s t1.2 H locs → lv_has ls 2 [(0, .ref o), (1, .int t1.1)] → W p l e R s m args below meth c H locs 0 0 Q (F0 m 2 ls [])) (fun t1 x2 hit hC1 hE1 H locs ls hI hl => ?_) _ hit _ _ _ hI (lv_sub hl [1, 0] rfl)
  unfold C3_talk_L2 at hit
  refine lv_iload_n hx hb dX3_talk_2 rfl (lv_at hl 1 rfl) ?_
  refine lv_iconst (v := 4) hx hb dX3_talk_3 (by decide) ?_
  refine b_icmp_ge (tgt := 31) hx hb dX3_talk_4 (by decide) hit (fun c3 hit => ?_) (fun c3 hit => ?_)
  · refine lv_aload_n hx hb dX3_talk_31 rfl (lv_at hl 0 rfl) ?_
    have he := o_in hit
    have he := hE1 _ he
    exact hend (some (.ref o)) _ _ _ _ _ _ _ (kOut_o) (by subst he; rfl) hI dX3_talk_32
  · refine lv_aload_n hx hb dX3_talk_7 rfl (lv_at hl 0 rfl) ?_
    refine lv_aload_n hx hb dX3_talk_8 rfl (lv_at hl 0 rfl) ?_
    refine lv_iload_n hx hb dX3_talk_9 rfl (lv_at hl 1 rfl) ?_
    obtain ⟨q4, eq4, hit⟩ := o_bind hit
    obtain ⟨iq4, eq4⟩ := vc_inv eq4
    refine c_cR X hI.1 (fun U hU hW => hI.D X.2.2 (c_AF h0H) hU hW) kc_Service (wC3_clerksIn l γ X.2.1 _ _ _ _ eq4) iq4 nm_X3_clerksIn q459 q460 q140 q462 q461 ⟨Nat.le_trans (Nat.le_of_ble_eq_true rfl) hR.1, Nat.le_trans (Nat.le_of_ble_eq_true rfl) hR.2⟩ ⟨Nat.zero_le _, Nat.zero_le _⟩ rfl rfl hl.1 (lv_room (Nat.le_of_ble_eq_true rfl)) dX3_talk_10 ?_
    refine lv_aload_n hx hb dX3_talk_13 rfl (lv_at hl 0 rfl) ?_
    refine lv_aload_n hx hb dX3_talk_14 rfl (lv_at hl 0 rfl) ?_
    refine lv_iload_n hx hb dX3_talk_15 rfl (lv_at hl 1 rfl) ?_
    obtain ⟨q5, eq5, hit⟩ := o_bind hit
    obtain ⟨iq5, eq5⟩ := vc_inv eq5
    refine c_cR X hI.1 (fun U hU hW => hI.D X.2.2 (c_AF h0H) hU hW) kc_Service (wC3_clerksIn l γ X.2.1 _ _ _ _ eq5) iq5 nm_X3_clerksIn q459 q460 q140 q462 q461 ⟨Nat.le_trans (Nat.le_of_ble_eq_true rfl) hR.1, Nat.le_trans (Nat.le_of_ble_eq_true rfl) hR.2⟩ ⟨Nat.zero_le _, Nat.zero_le _⟩ rfl rfl hl.1 (lv_room (Nat.le_of_ble_eq_true rfl)) dX3_talk_16 ?_
    obtain ⟨q6, eq6, hit⟩ := o_bind hit
    obtain ⟨iq6, eq6⟩ := vc_inv eq6
    refine c_cR X hI.1 (fun U hU hW => hI.D X.2.2 (c_AF h0H) hU hW) kc_Service (wC3_known l γ X.2.1 _ _ _ _ eq6) iq6 nm_X3_known q514 q515 q140 q517 q516 ⟨Nat.le_trans (Nat.le_of_ble_eq_true rfl) hR.1, Nat.le_trans (Nat.le_of_ble_eq_true rfl) hR.2⟩ ⟨Nat.zero_le _, Nat.zero_le _⟩ rfl rfl hl.1 (lv_room (Nat.le_of_ble_eq_true rfl)) dX3_talk_19 ?_
    obtain ⟨q7, eq7, hit⟩ := o_bind hit
    obtain ⟨iq7, eq7⟩ := vc_inv eq7
    refine c_cN X (c_AF h0H) hI kc_Service (wC3_learn l γ X.2.1 _ _ _ _ _ eq7) iq7 nm_X3_learn q613 q615 q140 q616 qs7 ⟨Nat.le_trans (Nat.le_of_ble_eq_true rfl) hR.1, Nat.le_trans (Nat.le_of_ble_eq_true rfl) hR.2⟩ ⟨Nat.zero_le _, Nat.zero_le _⟩ rfl rfl hl.1 (lv_room (Nat.le_of_ble_eq_true rfl)) dX3_talk_22 (fun H locs hI => ?_)
    refine lv_iinc (k := 1) (v := (t1.1 + 1)) (lv' := [(1, .int (t1.1 + 1)), (0, .ref o)]) hx hb dX3_talk_25 hl rfl rfl (by decide) rfl (fun ls hl => ?_)
    refine lv_goto (tgt := 2) hx hb dX3_talk_28 (by decide) ?_
    have he := o_in hit
    exact hC1 _ he _ _ _ hI (lv_sub hl [1, 0] rfl)
noncomputable def C1_rows_L54 (r : CR) (v2 : Int32) (t4 : Int32 × CS) (t7 : Int32 × CS) (q12 : Int32) (t13 : Int32 × CS) : Option ((Int32 × CS) ⊕ CS) :=
  if t13.1 < v2 then
    ((C1_isOf t4.1 t7.1).bind fun q17 =>
    if q17 = 0 then
      (some (.inr t13.2))
    else
      ((C1_isOf (q12 &&& (t4.1 ^^^ (-1))) t13.1).bind fun q19 =>
      ((if q19 = 0 then
          (some t13.2)
        else
          ((aQ t13.2.1 r.1 4 t7.1).bind fun v22 =>
          (v22).bind fun v23 =>
          (aQ t13.2.1 r.1 4 t7.1).bind fun v24 =>
          (v24).bind fun v25 =>
          (aI t13.2.1 v25 0 t4.1).bind fun v26 =>
          (aQ t13.2.1 r.1 4 t13.1).bind fun v27 =>
          (v27).bind fun v28 =>
          (aI t13.2.1 v28 0 (t4.1 ||| ((1 : Int32) <<< (t13.1 &&& 31)))).bind fun v29 =>
          (sI t13.2.1 v23 0 t4.1 (imax v26 (1 + v29))).bind fun s30 =>
          some (s30, t13.2.2)) : Option CS)).bind fun r20 =>
      some (.inl ((t13.1 + 1), r20))))
  else
    (some (.inr t13.2))
noncomputable def C1_rows_L30 (r : CR) (o : Nat) (v2 : Int32) (t4 : Int32 × CS) (t7 : Int32 × CS) : Option ((Int32 × CS) ⊕ CS) :=
  if t7.1 < v2 then
    ((gR t7.2.1 o 1 2).bind fun v11 =>
    (vc t7.2.1 v11 3 (C3_fitting t7.2.1 v11 t7.1)).bind fun q12 =>
    (o_loop (C1_rows_L54 r v2 t4 t7 q12) (0, t7.2)).bind fun r15 =>
    some (.inl ((t7.1 + 1), r15)))
  else
    (some (.inr t7.2))
noncomputable def C1_rows_L23 (r : CR) (o : Nat) (v2 : Int32) (t4 : Int32 × CS) : Option ((Int32 × CS) ⊕ (Nat × CS)) :=
  if t4.1 ≤ 0 then
    (some (.inr (r.1, t4.2)))
  else
    ((o_loop (C1_rows_L30 r o v2 t4) (0, t4.2)).bind fun r9 =>
    some (.inl ((t4.1 + (-1)), r9)))
noncomputable def C1_rows (h : CH) (r : CR) (o : Nat) : Option (Nat × CS) :=
  (gR h o 1 1).bind fun v1 =>
  (gI h v1 2 2).bind fun v2 =>
  (aGrid h r v2 ((1 : Int32) <<< (v2 &&& 31))).bind fun s3 =>
  o_loop (C1_rows_L23 r o v2) ((((1 : Int32) <<< (v2 &&& 31)) - 1), s3)
theorem nm_X1_rows : kNm yX1_rows RX1 0 := by unfold kNm; decide +kernel
set_option maxHeartbeats 4000000 in
set_option maxRecDepth 100000 in
theorem wC1_rows (l : Launch) (γ : KG) (hO : kOK γ) (h : CH) (r : CR) (o : Nat) (z : Nat × CS) (hz : C1_rows h r o = some z) : aMet l yX1_rows (ws_ yX1_rows cX1_rows 7 (some (.array (.array .int)))) 4 87 γ (h, r) [.ref o] (some (.ref z.1)) z.2 := by
  refine a_start (cc := cX1_rows) (own := RX1) hO rfl rfl rfl (fun p e R s m args below meth c Q ls X hR hnm h0H hA hl hend => ?_)
  have hx := X.1.1
  have hb := X.1.2.1
  have hit := hz
  clear hz
  unfold C1_rows at hit
  have hl : lv_has ls 7 [(0, .ref o)] := hl
  refine lv_aload_n hx hb dX1_rows_0 rfl (lv_at hl 0 rfl) ?_
  obtain ⟨v1, ev1, hit⟩ := o_bind hit
  refine c_getR X hA.1.1 kc_TwinInk 1 q277 (Or.inl rfl) rfl rfl ev1 dX1_rows_1 ?_
  obtain ⟨v2, ev2, hit⟩ := o_bind hit
  refine c_getNI X hA.1.1 kc_Office 2 q216 (Or.inl rfl) rfl rfl ev2 dX1_rows_4 ?_
  refine lv_istore_n (lv' := [(1, .int v2), (0, .ref o)]) hx hb dX1_rows_7 rfl hl (by decide) rfl (fun ls hl => ?_)
  refine lv_iload_n hx hb dX1_rows_8 rfl (lv_at hl 0 rfl) ?_
  refine lv_iconst (v := 1) hx hb dX1_rows_9 (by decide) ?_
  refine lv_iload_n hx hb dX1_rows_10 rfl (lv_at hl 0 rfl) ?_
  refine lv_ishl hx hb dX1_rows_11 ?_
  obtain ⟨s3, es3, hit⟩ := o_bind hit
  refine a_grid X hA es3 q1470 dX1_rows_12 (fun H cells slots hA => ?_)
  refine lv_astore_n (lv' := [(2, .ref r.1), (1, .int v2), (0, .ref o)]) hx hb dX1_rows_16 rfl hl (by decide) rfl (fun ls hl => ?_)
  refine lv_iconst (v := 1) hx hb dX1_rows_17 (by decide) ?_
  refine lv_iload_n hx hb dX1_rows_18 rfl (lv_at hl 1 rfl) ?_
  refine lv_ishl hx hb dX1_rows_19 ?_
  refine lv_iconst (v := 1) hx hb dX1_rows_20 (by decide) ?_
  refine lv_isub hx hb dX1_rows_21 ?_
  refine lv_istore_n (lv' := [(3, .int (((1 : Int32) <<< (v2 &&& 31)) - 1)), (2, .ref r.1), (1, .int v2), (0, .ref o)]) hx hb dX1_rows_22 rfl hl (by decide) rfl (fun ls hl => ?_)
  refine o_rec (P := fun t4 => ∀ (H : Heap) (locs : List Loc) (cells slots : Nat) (ls : Array Slot), AI γ (h, r) s R t4.2.1 t4.2.2 H locs cells slots → lv_has ls 7 [(2, .ref r.1), (1, .int v2), (0, .ref o), (3, .int t4.1)] → W p l e R s m args below meth c H locs cells slots Q (F0 m 23 ls [])) (fun t4 x5 hit hC4 hE4 H locs cells slots ls hA hl => ?_) _ hit _ _ _ _ _ hA (lv_sub hl [1, 2, 3, 0] rfl)
  unfold C1_rows_L23 at hit
  refine lv_iload_n hx hb dX1_rows_23 rfl (lv_at hl 3 rfl) ?_
  refine b_if_le (tgt := 125) hx hb dX1_rows_24 (by decide) hit (fun c6 hit => ?_) (fun c6 hit => ?_)
  · refine lv_aload_n hx hb dX1_rows_125 rfl (lv_at hl 0 rfl) ?_
    have he := o_in hit
    have he := hE4 _ he
    exact hend (some (.ref r.1)) t4.2 _ _ _ _ _ _ _ _ (kOut_a) (by subst he; rfl) hA dX1_rows_126
  · refine lv_iconst (v := 0) hx hb dX1_rows_27 (by decide) ?_
    refine lv_istore (lv' := [(4, .int 0), (2, .ref r.1), (1, .int v2), (0, .ref o), (3, .int t4.1)]) hx hb dX1_rows_28 hl (by decide) rfl (fun ls hl => ?_)
    obtain ⟨r9, er9, hit⟩ := o_bind hit
    have hr9 : ∀ (H : Heap) (locs : List Loc) (cells slots : Nat) (ls : Array Slot), AI γ (h, r) s R r9.1 r9.2 H locs cells slots → lv_has ls 7 [(2, .ref r.1), (1, .int v2), (0, .ref o), (3, .int t4.1)] → W p l e R s m args below meth c H locs cells slots Q (F0 m 119 ls []) := by
      intro H locs cells slots ls hA hl
      refine lv_iinc (k := 3) (v := (t4.1 + (-1))) (lv' := [(3, .int (t4.1 + (-1))), (2, .ref r.1), (1, .int v2), (0, .ref o)]) hx hb dX1_rows_119 hl rfl rfl (by decide) rfl (fun ls hl => ?_)
      refine lv_goto (tgt := 23) hx hb dX1_rows_122 (by decide) ?_
      have he := o_in hit
      exact hC4 _ he _ _ _ _ _ hA (lv_sub hl [1, 2, 3, 0] rfl)
    refine o_rec (P := fun t7 => ∀ (H : Heap) (locs : List Loc) (cells slots : Nat) (ls : Array Slot), AI γ (h, r) s R t7.2.1 t7.2.2 H locs cells slots → lv_has ls 7 [(2, .ref r.1), (1, .int v2), (0, .ref o), (3, .int t4.1), (4, .int t7.1)] → W p l e R s m args below meth c H locs cells slots Q (F0 m 30 ls [])) (fun t7 x8 hit hC7 hE7 H locs cells slots ls hA hl => ?_) _ er9 _ _ _ _ _ hA (lv_sub hl [1, 2, 3, 4, 0] rfl)
    unfold C1_rows_L30 at hit
    refine lv_iload hx hb dX1_rows_30 (lv_at hl 4 rfl) ?_
    refine lv_iload_n hx hb dX1_rows_32 rfl (lv_at hl 1 rfl) ?_
    refine b_icmp_ge (tgt := 119) hx hb dX1_rows_33 (by decide) hit (fun c10 hit => ?_) (fun c10 hit => ?_)
    · have he := o_in hit
      have he := hE7 _ he
      subst he
      exact hr9 _ _ _ _ _ hA (lv_sub hl [0, 1, 2, 3] rfl)
    · refine lv_aload_n hx hb dX1_rows_36 rfl (lv_at hl 2 rfl) ?_
      obtain ⟨v11, ev11, hit⟩ := o_bind hit
      refine c_getR X hA.1.1 kc_TwinInk 2 q278 (Or.inl rfl) rfl rfl ev11 dX1_rows_37 ?_
      refine lv_iload hx hb dX1_rows_40 (lv_at hl 4 rfl) ?_
      obtain ⟨q12, eq12, hit⟩ := o_bind hit
      obtain ⟨iq12, eq12⟩ := vc_inv eq12
      refine c_cR X hA.1.1 (fun U hU hW => hA.D X.2.1 X.2.2 h0H hU hW) kc_Service (wC3_fitting l γ X.2.1 _ _ _ _ eq12) iq12 nm_X3_fitting q1288 q1289 q140 q1291 q1290 ⟨Nat.le_trans (Nat.le_of_ble_eq_true rfl) hR.1, Nat.le_trans (Nat.le_of_ble_eq_true rfl) hR.2⟩ hA.RR rfl rfl hl.1 (lv_room (Nat.le_of_ble_eq_true rfl)) dX1_rows_42 ?_
      refine lv_iload_n hx hb dX1_rows_45 rfl (lv_at hl 3 rfl) ?_
      refine lv_iconst (v := (-1)) hx hb dX1_rows_46 (by decide) ?_
      refine lv_ixor hx hb dX1_rows_47 ?_
      refine lv_iand hx hb dX1_rows_48 ?_
      refine lv_istore (lv' := [(5, .int (q12 &&& (t4.1 ^^^ (-1)))), (2, .ref r.1), (1, .int v2), (0, .ref o), (3, .int t4.1), (4, .int t7.1)]) hx hb dX1_rows_49 hl (by decide) rfl (fun ls hl => ?_)
      refine lv_iconst (v := 0) hx hb dX1_rows_51 (by decide) ?_
      refine lv_istore (lv' := [(6, .int 0), (5, .int (q12 &&& (t4.1 ^^^ (-1)))), (2, .ref r.1), (1, .int v2), (0, .ref o), (3, .int t4.1), (4, .int t7.1)]) hx hb dX1_rows_52 hl (by decide) rfl (fun ls hl => ?_)
      obtain ⟨r15, er15, hit⟩ := o_bind hit
      have hr15 : ∀ (H : Heap) (locs : List Loc) (cells slots : Nat) (ls : Array Slot), AI γ (h, r) s R r15.1 r15.2 H locs cells slots → lv_has ls 7 [(2, .ref r.1), (1, .int v2), (0, .ref o), (3, .int t4.1), (4, .int t7.1)] → W p l e R s m args below meth c H locs cells slots Q (F0 m 113 ls []) := by
        intro H locs cells slots ls hA hl
        refine lv_iinc (k := 4) (v := (t7.1 + 1)) (lv' := [(4, .int (t7.1 + 1)), (2, .ref r.1), (1, .int v2), (0, .ref o), (3, .int t4.1)]) hx hb dX1_rows_113 hl rfl rfl (by decide) rfl (fun ls hl => ?_)
        refine lv_goto (tgt := 30) hx hb dX1_rows_116 (by decide) ?_
        have he := o_in hit
        exact hC7 _ he _ _ _ _ _ hA (lv_sub hl [1, 2, 3, 4, 0] rfl)
      refine o_rec (P := fun t13 => ∀ (H : Heap) (locs : List Loc) (cells slots : Nat) (ls : Array Slot), AI γ (h, r) s R t13.2.1 t13.2.2 H locs cells slots → lv_has ls 7 [(5, .int (q12 &&& (t4.1 ^^^ (-1)))), (2, .ref r.1), (1, .int v2), (0, .ref o), (3, .int t4.1), (4, .int t7.1), (6, .int t13.1)] → W p l e R s m args below meth c H locs cells slots Q (F0 m 54 ls [])) (fun t13 x14 hit hC13 hE13 H locs cells slots ls hA hl => ?_) _ er15 _ _ _ _ _ hA (lv_sub hl [1, 2, 3, 4, 5, 6, 0] rfl)
      unfold C1_rows_L54 at hit
      refine lv_iload hx hb dX1_rows_54 (lv_at hl 6 rfl) ?_
      refine lv_iload_n hx hb dX1_rows_56 rfl (lv_at hl 2 rfl) ?_
      refine b_icmp_ge (tgt := 113) hx hb dX1_rows_57 (by decide) hit (fun c16 hit => ?_) (fun c16 hit => ?_)
      · have he := o_in hit
        have he := hE13 _ he
        subst he
        exact hr15 _ _ _ _ _ hA (lv_sub hl [1, 2, 3, 4, 5] rfl)
      · refine lv_iload_n hx hb dX1_rows_60 rfl (lv_at hl 4 rfl) ?_
        refine lv_iload hx hb dX1_rows_61 (lv_at hl 5 rfl) ?_
        obtain ⟨q17, eq17, hit⟩ := o_bind hit
        refine c_cP X.1 (wC1_isOf l _ _ _ eq17) nm_X1_isOf q1252 q519 q135 q520 ⟨Nat.le_trans (Nat.le_of_ble_eq_true rfl) hR.1, Nat.le_trans (Nat.le_of_ble_eq_true rfl) hR.2⟩ hA.RR rfl rfl hl.1 (lv_room (Nat.le_of_ble_eq_true rfl)) dX1_rows_63 ?_
        refine b_if_eq (tgt := 113) hx hb dX1_rows_66 (by decide) hit (fun c18 hit => ?_) (fun c18 hit => ?_)
        · have he := o_in hit
          have he := hE13 _ he
          subst he
          exact hr15 _ _ _ _ _ hA (lv_sub hl [1, 2, 3, 4, 5] rfl)
        · refine lv_iload hx hb dX1_rows_69 (lv_at hl 0 rfl) ?_
          refine lv_iload hx hb dX1_rows_71 (lv_at hl 6 rfl) ?_
          obtain ⟨q19, eq19, hit⟩ := o_bind hit
          refine c_cP X.1 (wC1_isOf l _ _ _ eq19) nm_X1_isOf q1252 q519 q135 q520 ⟨Nat.le_trans (Nat.le_of_ble_eq_true rfl) hR.1, Nat.le_trans (Nat.le_of_ble_eq_true rfl) hR.2⟩ hA.RR rfl rfl hl.1 (lv_room (Nat.le_of_ble_eq_true rfl)) dX1_rows_73 ?_
          obtain ⟨r20, er20, hit⟩ := o_bind hit
          have hr20 : ∀ (H : Heap) (locs : List Loc) (cells slots : Nat) (ls : Array Slot), AI γ (h, r) s R r20.1 r20.2 H locs cells slots → lv_has ls 7 [(5, .int (q12 &&& (t4.1 ^^^ (-1)))), (2, .ref r.1), (1, .int v2), (0, .ref o), (3, .int t4.1), (4, .int t7.1), (6, .int t13.1)] → W p l e R s m args below meth c H locs cells slots Q (F0 m 107 ls []) := by
            intro H locs cells slots ls hA hl
            refine lv_iinc (k := 6) (v := (t13.1 + 1)) (lv' := [(6, .int (t13.1 + 1)), (5, .int (q12 &&& (t4.1 ^^^ (-1)))), (2, .ref r.1), (1, .int v2), (0, .ref o), (3, .int t4.1), (4, .int t7.1)]) hx hb dX1_rows_107 hl rfl rfl (by decide) rfl (fun ls hl => ?_)
            refine lv_goto (tgt := 54) hx hb dX1_rows_110 (by decide) ?_
            have he := o_in hit
            exact hC13 _ he _ _ _ _ _ hA (lv_sub hl [1, 2, 3, 4, 5, 6, 0] rfl)
          have hit := er20
          refine b_if_eq (tgt := 107) hx hb dX1_rows_76 (by decide) hit (fun c21 hit => ?_) (fun c21 hit => ?_)
          · have he := o_in hit
            subst he
            exact hr20 _ _ _ _ _ hA hl
          · refine lv_aload_n hx hb dX1_rows_79 rfl (lv_at hl 1 rfl) ?_
            refine lv_iload hx hb dX1_rows_80 (lv_at hl 5 rfl) ?_
            obtain ⟨v22, ev22, hit⟩ := o_bind hit
            refine c_aald X hA.1.1 4 (fun _ => rfl) rfl ev22 dX1_rows_82 ?_
            obtain ⟨v23, ev23, hit⟩ := o_bind hit
            refine c_deref ev23 ?_
            refine lv_iload_n hx hb dX1_rows_83 rfl (lv_at hl 4 rfl) ?_
            refine lv_aload_n hx hb dX1_rows_84 rfl (lv_at hl 1 rfl) ?_
            refine lv_iload hx hb dX1_rows_85 (lv_at hl 5 rfl) ?_
            obtain ⟨v24, ev24, hit⟩ := o_bind hit
            refine c_aald X hA.1.1 4 (fun _ => rfl) rfl ev24 dX1_rows_87 ?_
            obtain ⟨v25, ev25, hit⟩ := o_bind hit
            refine c_deref ev25 ?_
            refine lv_iload_n hx hb dX1_rows_88 rfl (lv_at hl 4 rfl) ?_
            obtain ⟨v26, ev26, hit⟩ := o_bind hit
            refine c_iald X hA.1.1 ev26 dX1_rows_89 ?_
            refine lv_iconst (v := 1) hx hb dX1_rows_90 (by decide) ?_
            refine lv_aload_n hx hb dX1_rows_91 rfl (lv_at hl 1 rfl) ?_
            refine lv_iload hx hb dX1_rows_92 (lv_at hl 6 rfl) ?_
            obtain ⟨v27, ev27, hit⟩ := o_bind hit
            refine c_aald X hA.1.1 4 (fun _ => rfl) rfl ev27 dX1_rows_94 ?_
            obtain ⟨v28, ev28, hit⟩ := o_bind hit
            refine c_deref ev28 ?_
            refine lv_iload_n hx hb dX1_rows_95 rfl (lv_at hl 4 rfl) ?_
            refine lv_iconst (v := 1) hx hb dX1_rows_96 (by decide) ?_
            refine lv_iload hx hb dX1_rows_97 (lv_at hl 6 rfl) ?_
            refine lv_ishl hx hb dX1_rows_99 ?_
            refine lv_ior hx hb dX1_rows_100 ?_
            obtain ⟨v29, ev29, hit⟩ := o_bind hit
            refine c_iald X hA.1.1 ev29 dX1_rows_101 ?_
            refine lv_iadd hx hb dX1_rows_102 ?_
            refine b_max X.1 hl.1 q1253 (Nat.le_trans (Nat.le_of_ble_eq_true rfl) hR.1) (Nat.le_trans (Nat.le_of_ble_eq_true rfl) hR.2) hA.RR dX1_rows_103 ?_
            obtain ⟨s30, es30, hit⟩ := o_bind hit
            refine c_iast X hA.1 es30 dX1_rows_106 (fun H locs hI => ?_)
            replace hA := hA.up hI
            clear hI
            have he := o_in hit
            subst he
            exact hr20 _ _ _ _ _ hA hl
noncomputable def C1_toRead_L4 (h : CH) (o : Nat) (t1 : Int32 × Int32) : Option ((Int32 × Int32) ⊕ Int32) :=
  (gR h o 1 1).bind fun v3 =>
  (gR h v3 2 0).bind fun v4 =>
  (vc h v4 10 (CJ2_size h v4)).bind fun q5 =>
  if t1.2 < q5 then
    ((gR h o 1 1).bind fun v7 =>
    (gR h v7 2 0).bind fun v8 =>
    (vc h v8 10 (CJ2_get h v8 t1.2)).bind fun q9 =>
    (ckA h q9 0).bind fun u11 =>
    (aI h q9 0 0).bind fun v12 =>
    (gR h o 1 1).bind fun v13 =>
    (gR h v13 2 0).bind fun v14 =>
    (vc h v14 10 (CJ2_get h v14 t1.2)).bind fun q15 =>
    (ckA h q15 0).bind fun u17 =>
    (aI h q15 0 1).bind fun v18 =>
    (gR h o 1 2).bind fun v19 =>
    (vc h v19 3 (C3_fits h v19 v12 v18)).bind fun q20 =>
    ((if q20 = 0 then
        (some t1.1)
      else
        (some (t1.1 ||| (((1 : Int32) <<< (v12 &&& 31)) ||| ((1 : Int32) <<< (v18 &&& 31))))) : Option Int32)).bind fun r21 =>
    some (.inl (r21, (t1.2 + 1))))
  else
    (some (.inr t1.1))
noncomputable def C1_toRead (h : CH) (o : Nat) : Option (Int32) :=
  o_loop (C1_toRead_L4 h o) (0, 0)
theorem nm_X1_toRead : kNm yX1_toRead RX1 0 := by unfold kNm; decide +kernel
set_option maxHeartbeats 4000000 in
set_option maxRecDepth 100000 in
theorem wC1_toRead (l : Launch) (γ : KG) (hO : kOK γ) (h : CH) (o : Nat) (z : Int32) (hz : C1_toRead h o = some z) : Met l yX1_toRead (ws_ yX1_toRead cX1_toRead 5 (some .int)) (kRm 3 64) (cPc γ h [.ref o]) (cRq (.int z)) 0 0 vp_nf := by
  refine c_startR (cc := cX1_toRead) (own := RX1) hO rfl rfl rfl (fun p e R s m args below meth c Q ls X hR hH hDU hl hend => ?_)
  have hx := X.1.1
  have hb := X.1.2.1
  have hit := hz
  clear hz
  unfold C1_toRead at hit
  have hl : lv_has ls 5 [(0, .ref o)] := hl
  refine lv_iconst (v := 0) hx hb dX1_toRead_0 (by decide) ?_
  refine lv_istore_n (lv' := [(1, .int 0), (0, .ref o)]) hx hb dX1_toRead_1 rfl hl (by decide) rfl (fun ls hl => ?_)
  refine lv_iconst (v := 0) hx hb dX1_toRead_2 (by decide) ?_
  refine lv_istore_n (lv' := [(2, .int 0), (1, .int 0), (0, .ref o)]) hx hb dX1_toRead_3 rfl hl (by decide) rfl (fun ls hl => ?_)
  refine o_rec (P := fun t1 => ∀ (ls : Array Slot), lv_has ls 5 [(0, .ref o), (1, .int t1.1), (2, .int t1.2)] → W p l e R s m args below meth c s.heap [] 0 0 Q (F0 m 4 ls [])) (fun t1 x2 hit hC1 hE1 ls hl => ?_) _ hit _ (lv_sub hl [2, 1, 0] rfl)
  unfold C1_toRead_L4 at hit
  refine lv_iload_n hx hb dX1_toRead_4 rfl (lv_at hl 2 rfl) ?_
  refine lv_aload_n hx hb dX1_toRead_5 rfl (lv_at hl 0 rfl) ?_
  obtain ⟨v3, ev3, hit⟩ := o_bind hit
  refine c_getR X hH kc_TwinInk 1 q277 (Or.inl rfl) rfl rfl ev3 dX1_toRead_6 ?_
  obtain ⟨v4, ev4, hit⟩ := o_bind hit
  refine c_getNR X hH kc_Office 0 q210 (Or.inl rfl) rfl rfl ev4 dX1_toRead_9 ?_
  obtain ⟨q5, eq5, hit⟩ := o_bind hit
  obtain ⟨iq5, eq5⟩ := vc_inv eq5
  refine c_cRF X hH hDU kc_ArrayList (wCJ2_size l γ X.2.1 _ _  _ eq5) iq5 nmi_List_size q423 q428 q139 q430 q426 q425 q424 q429 q427 q358 ⟨Nat.le_trans (Nat.le_of_ble_eq_true rfl) hR.1, Nat.le_trans (Nat.le_of_ble_eq_true rfl) hR.2⟩ ⟨Nat.zero_le _, Nat.zero_le _⟩ rfl rfl hl.1 (lv_room (Nat.le_of_ble_eq_true rfl)) dX1_toRead_12 ?_
  refine b_icmp_ge (tgt := 89) hx hb dX1_toRead_17 (by decide) hit (fun c6 hit => ?_) (fun c6 hit => ?_)
  · refine lv_iload_n hx hb dX1_toRead_89 rfl (lv_at hl 1 rfl) ?_
    have he := o_in hit
    have he := hE1 _ he
    exact hend (.int t1.1) _ _ _ _ (kOut_i rfl) (congrArg Value.int he) dX1_toRead_90
  · refine lv_aload_n hx hb dX1_toRead_20 rfl (lv_at hl 0 rfl) ?_
    obtain ⟨v7, ev7, hit⟩ := o_bind hit
    refine c_getR X hH kc_TwinInk 1 q277 (Or.inl rfl) rfl rfl ev7 dX1_toRead_21 ?_
    obtain ⟨v8, ev8, hit⟩ := o_bind hit
    refine c_getNR X hH kc_Office 0 q210 (Or.inl rfl) rfl rfl ev8 dX1_toRead_24 ?_
    refine lv_iload_n hx hb dX1_toRead_27 rfl (lv_at hl 2 rfl) ?_
    obtain ⟨q9, eq9, hit⟩ := o_bind hit
    obtain ⟨iq9, eq9⟩ := vc_inv eq9
    refine c_cRF X hH hDU kc_ArrayList (wCJ2_get l γ X.2.1 _ _ _ _ eq9) iq9 nmi_List_get q643 q483 q139 q485 q481 q480 q479 q484 q482 q358 ⟨Nat.le_trans (Nat.le_of_ble_eq_true rfl) hR.1, Nat.le_trans (Nat.le_of_ble_eq_true rfl) hR.2⟩ ⟨Nat.zero_le _, Nat.zero_le _⟩ rfl rfl hl.1 (lv_room (Nat.le_of_ble_eq_true rfl)) dX1_toRead_28 ?_
    obtain ⟨u11, eu11, hit⟩ := o_bind hit
    refine c_castA X hH 0 (fun _ => rfl) q644 (fun h => h) eu11 dX1_toRead_33 ?_
    refine lv_iconst (v := 0) hx hb dX1_toRead_36 (by decide) ?_
    obtain ⟨v12, ev12, hit⟩ := o_bind hit
    refine c_iald X hH ev12 dX1_toRead_37 ?_
    refine lv_istore_n (lv' := [(3, .int v12), (0, .ref o), (1, .int t1.1), (2, .int t1.2)]) hx hb dX1_toRead_38 rfl hl (by decide) rfl (fun ls hl => ?_)
    refine lv_aload_n hx hb dX1_toRead_39 rfl (lv_at hl 1 rfl) ?_
    obtain ⟨v13, ev13, hit⟩ := o_bind hit
    refine c_getR X hH kc_TwinInk 1 q277 (Or.inl rfl) rfl rfl ev13 dX1_toRead_40 ?_
    obtain ⟨v14, ev14, hit⟩ := o_bind hit
    refine c_getNR X hH kc_Office 0 q210 (Or.inl rfl) rfl rfl ev14 dX1_toRead_43 ?_
    refine lv_iload_n hx hb dX1_toRead_46 rfl (lv_at hl 3 rfl) ?_
    obtain ⟨q15, eq15, hit⟩ := o_bind hit
    obtain ⟨iq15, eq15⟩ := vc_inv eq15
    refine c_cRF X hH hDU kc_ArrayList (wCJ2_get l γ X.2.1 _ _ _ _ eq15) iq15 nmi_List_get q643 q483 q139 q485 q481 q480 q479 q484 q482 q358 ⟨Nat.le_trans (Nat.le_of_ble_eq_true rfl) hR.1, Nat.le_trans (Nat.le_of_ble_eq_true rfl) hR.2⟩ ⟨Nat.zero_le _, Nat.zero_le _⟩ rfl rfl hl.1 (lv_room (Nat.le_of_ble_eq_true rfl)) dX1_toRead_47 ?_
    obtain ⟨u17, eu17, hit⟩ := o_bind hit
    refine c_castA X hH 0 (fun _ => rfl) q644 (fun h => h) eu17 dX1_toRead_52 ?_
    refine lv_iconst (v := 1) hx hb dX1_toRead_55 (by decide) ?_
    obtain ⟨v18, ev18, hit⟩ := o_bind hit
    refine c_iald X hH ev18 dX1_toRead_56 ?_
    refine lv_istore (lv' := [(4, .int v18), (3, .int v12), (0, .ref o), (1, .int t1.1), (2, .int t1.2)]) hx hb dX1_toRead_57 hl (by decide) rfl (fun ls hl => ?_)
    refine lv_aload_n hx hb dX1_toRead_59 rfl (lv_at hl 2 rfl) ?_
    obtain ⟨v19, ev19, hit⟩ := o_bind hit
    refine c_getR X hH kc_TwinInk 2 q278 (Or.inl rfl) rfl rfl ev19 dX1_toRead_60 ?_
    refine lv_iload_n hx hb dX1_toRead_63 rfl (lv_at hl 1 rfl) ?_
    refine lv_iload hx hb dX1_toRead_64 (lv_at hl 0 rfl) ?_
    obtain ⟨q20, eq20, hit⟩ := o_bind hit
    obtain ⟨iq20, eq20⟩ := vc_inv eq20
    refine c_cR X hH hDU kc_Service (wC3_fits l γ X.2.1 _ _ _ _ _ eq20) iq20 nm_X3_fits q645 q602 q140 q604 q603 ⟨Nat.le_trans (Nat.le_of_ble_eq_true rfl) hR.1, Nat.le_trans (Nat.le_of_ble_eq_true rfl) hR.2⟩ ⟨Nat.zero_le _, Nat.zero_le _⟩ rfl rfl hl.1 (lv_room (Nat.le_of_ble_eq_true rfl)) dX1_toRead_66 ?_
    obtain ⟨r21, er21, hit⟩ := o_bind hit
    have hr21 : ∀ (ls : Array Slot), lv_has ls 5 [(0, .ref o), (2, .int t1.2), (1, .int r21)] → W p l e R s m args below meth c s.heap [] 0 0 Q (F0 m 83 ls []) := by
      intro ls hl
      refine lv_iinc (k := 1) (v := (t1.2 + 1)) (lv' := [(2, .int (t1.2 + 1)), (0, .ref o), (1, .int r21)]) hx hb dX1_toRead_83 hl rfl rfl (by decide) rfl (fun ls hl => ?_)
      refine lv_goto (tgt := 4) hx hb dX1_toRead_86 (by decide) ?_
      have he := o_in hit
      exact hC1 _ he _ (lv_sub hl [1, 2, 0] rfl)
    have hit := er21
    refine b_if_eq (tgt := 83) hx hb dX1_toRead_69 (by decide) hit (fun c22 hit => ?_) (fun c22 hit => ?_)
    · have he := o_in hit
      subst he
      exact hr21 _ (lv_sub hl [2, 4, 3] rfl)
    · refine lv_iload_n hx hb dX1_toRead_72 rfl (lv_at hl 3 rfl) ?_
      refine lv_iconst (v := 1) hx hb dX1_toRead_73 (by decide) ?_
      refine lv_iload_n hx hb dX1_toRead_74 rfl (lv_at hl 1 rfl) ?_
      refine lv_ishl hx hb dX1_toRead_75 ?_
      refine lv_iconst (v := 1) hx hb dX1_toRead_76 (by decide) ?_
      refine lv_iload hx hb dX1_toRead_77 (lv_at hl 0 rfl) ?_
      refine lv_ishl hx hb dX1_toRead_79 ?_
      refine lv_ior hx hb dX1_toRead_80 ?_
      refine lv_ior hx hb dX1_toRead_81 ?_
      refine lv_istore_n (lv' := [(1, .int (t1.1 ||| (((1 : Int32) <<< (v12 &&& 31)) ||| ((1 : Int32) <<< (v18 &&& 31))))), (4, .int v18), (3, .int v12), (0, .ref o), (2, .int t1.2)]) hx hb dX1_toRead_82 rfl hl (by decide) rfl (fun ls hl => ?_)
      have he := o_in hit
      subst he
      exact hr21 _ (lv_sub hl [3, 4, 0] rfl)
noncomputable def C1_forget (K : Nat → Nat) (h : CH) (r : CR) (o : Nat) : Option (CS) :=
  (aCell h r 3 (.inr (10, [.int 0, .null, .int 0]))).bind fun s1 =>
  (CJ2_init K s1.1 r.1).bind fun q2 =>
  (pQ q2 o 1 9 (some r.1)).bind fun s3 =>
  some (s3, s1.2)
theorem nm_X1_forget : kNm yX1_forget RX1 0 := by unfold kNm; decide +kernel
set_option maxHeartbeats 4000000 in
set_option maxRecDepth 100000 in
theorem wC1_forget (l : Launch) (γ : KG) (hO : kOK γ) (h : CH) (r : CR) (o : Nat) (z : CS) (hz : C1_forget γ.2.2.2.2.2 h r o = some z) : aMet l yX1_forget (ws_ yX1_forget cX1_forget 1 none) 4 90 γ (h, r) [.ref o] none z := by
  refine a_start (cc := cX1_forget) (own := RX1) hO rfl rfl rfl (fun p e R s m args below meth c Q ls X hR hnm h0H hA hl hend => ?_)
  have hx := X.1.1
  have hb := X.1.2.1
  have hit := hz
  clear hz
  unfold C1_forget at hit
  have hl : lv_has ls 1 [(0, .ref o)] := hl
  refine lv_aload_n hx hb dX1_forget_0 rfl (lv_at hl 0 rfl) ?_
  obtain ⟨s1, es1, hit⟩ := o_bind hit
  refine a_new X hA kc_ArrayList q272 q183 q139 (fs := [.int 0, .null, .int 0]) (by decide +kernel) es1 dX1_forget_1 (fun H cells slots hA => ?_)
  refine lv_dup hx hb dX1_forget_4 rfl ?_
  obtain ⟨q2, eq2, hit⟩ := o_bind hit
  refine c_cNI X (kA_F X.2.1 X.2.2 h0H) hA.1 nm_J2_init q273 q185 q139 q186 rfl (wCJ2_init l γ X.2.1 _ _  _ eq2) hA.RR ⟨Nat.le_trans (Nat.le_of_ble_eq_true rfl) hR.1, Nat.le_trans (Nat.le_of_ble_eq_true rfl) hR.2⟩ rfl rfl hl.1 (lv_room (Nat.le_of_ble_eq_true rfl)) dX1_forget_5 (fun H locs hI => ?_)
  replace hA := hA.up hI
  clear hI
  obtain ⟨s3, es3, hit⟩ := o_bind hit
  refine c_putQ X hA.1 kc_TwinInk 9 q286 (Or.inl rfl) rfl rfl (v := (some r.1)) (tyv := (.object "java/util/List")) rfl (Or.inl ⟨_, rfl⟩) es3 dX1_forget_8 (fun H locs hI => ?_)
  replace hA := hA.up hI
  clear hI
  have he := o_in hit
  exact hend none (s3, s1.2) _ _ _ _ _ _ _ _ kOut_v (by subst he; rfl) hA dX1_forget_11
noncomputable def CJ18_init (h : CH) (o : Nat) : Option (CH) :=
  some h
theorem nm_J18_init : kNm yJ18_init RJ18 0 := by unfold kNm; decide +kernel
set_option maxHeartbeats 4000000 in
set_option maxRecDepth 100000 in
theorem wCJ18_init (l : Launch) (γ : KG) (hO : kOK γ) (h : CH) (o : Nat) (z : CH) (hz : CJ18_init h o = some z) : Met l yJ18_init (ws_ yJ18_init cJ18_init 1 none) (kRm 1 30) (cPc γ h [.ref o]) (cNq γ h none z) 0 0 (kdm h) := by
  refine c_startNI (cc := cJ18_init) (own := RJ18) hO rfl rfl rfl rfl (fun p e R s m args below meth c Q ls X hR hin2 h0H hI hl hend => ?_)
  have hx := X.1.1
  have hb := X.1.2.1
  have hit := hz
  clear hz
  unfold CJ18_init at hit
  have hl : lv_has ls 1 [(0, .ref o)] := hl
  refine lv_aload_n hx hb dJ18_init_0 rfl (lv_at hl 0 rfl) ?_
  refine b_objInit X.1 hl.1 q1200 ⟨Nat.le_trans (Nat.le_of_ble_eq_true rfl) hR.1, Nat.le_trans (Nat.le_of_ble_eq_true rfl) hR.2⟩ (Nat.le_of_ble_eq_true rfl) dJ18_init_1 ?_
  have he := o_in hit
  exact hend _ _ _ _ _ he hI dJ18_init_4
noncomputable def CJ19_init (h : CH) (o : Nat) (a0 : Int32) : Option (CH) :=
  (CJ18_init h o).bind fun q1 =>
  (pI q1 o 12 0 a0).bind fun s2 =>
  some s2
theorem nm_J19_init : kNm yJ19_init RJ19 1 := by unfold kNm; decide +kernel
set_option maxHeartbeats 4000000 in
set_option maxRecDepth 100000 in
theorem wCJ19_init (l : Launch) (γ : KG) (hO : kOK γ) (h : CH) (o : Nat) (a0 : Int32) (z : CH) (hz : CJ19_init h o a0 = some z) : Met l yJ19_init (ws_ yJ19_init cJ19_init 2 none) (kRm 2 50) (cPc γ h [.ref o, .int a0]) (cNq γ h none z) 0 0 (kdm h) := by
  refine c_startNI (cc := cJ19_init) (own := RJ19) hO rfl rfl rfl rfl (fun p e R s m args below meth c Q ls X hR hin2 h0H hI hl hend => ?_)
  have hx := X.1.1
  have hb := X.1.2.1
  have hit := hz
  clear hz
  unfold CJ19_init at hit
  have hl : lv_has ls 2 [(0, .ref o), (1, .int a0)] := hl
  refine lv_aload_n hx hb dJ19_init_0 rfl (lv_at hl 0 rfl) ?_
  obtain ⟨q1, eq1, hit⟩ := o_bind hit
  refine c_cNI X (c_AF h0H) hI nm_J18_init q1197 q1198 q164 q1199 rfl (wCJ18_init l γ X.2.1 _ _  _ eq1) ⟨Nat.zero_le _, Nat.zero_le _⟩ ⟨Nat.le_trans (Nat.le_of_ble_eq_true rfl) hR.1, Nat.le_trans (Nat.le_of_ble_eq_true rfl) hR.2⟩ rfl rfl hl.1 (lv_room (Nat.le_of_ble_eq_true rfl)) dJ19_init_1 (fun H locs hI => ?_)
  refine lv_aload_n hx hb dJ19_init_4 rfl (lv_at hl 0 rfl) ?_
  refine lv_iload_n hx hb dJ19_init_5 rfl (lv_at hl 1 rfl) ?_
  obtain ⟨s2, es2, hit⟩ := o_bind hit
  refine c_putFI X hin2 hI kc_Integer 0 q1201 rfl rfl (tyv := .int) rfl rfl rfl es2 dJ19_init_6 (fun H locs hI => ?_)
  have he := o_in hit
  exact hend _ _ _ _ _ he hI dJ19_init_9
noncomputable def CJ19_valueOf_J23 (h : CH) (r : CR) (a0 : Int32) : Option (Nat × CS) :=
  (aCell h r 1 (.inr (12, [.int 0]))).bind fun s1 =>
  (CJ19_init s1.1 r.1 a0).bind fun q2 =>
  some (r.1, (q2, s1.2))
noncomputable def CJ19_valueOf (K : Nat → Nat) (h : CH) (r : CR) (a0 : Int32) : Option (Nat × CS) :=
  if a0 < (-128) then
    (CJ19_valueOf_J23 h r a0)
  else
    (if a0 ≤ 127 then
      ((icq K (a0 + 128)).bind fun v5 =>
      some (v5, (h, r)))
    else
      (CJ19_valueOf_J23 h r a0))
theorem nm_J19_valueOf : kNm yJ19_valueOf RJ19 1 := by unfold kNm; decide +kernel
set_option maxHeartbeats 4000000 in
set_option maxRecDepth 100000 in
theorem wCJ19_valueOf (l : Launch) (γ : KG) (hO : kOK γ) (h : CH) (r : CR) (a0 : Int32) (z : Nat × CS) (hz : CJ19_valueOf γ.2.2.2.2.2 h r a0 = some z) : aMet l yJ19_valueOf (ws_ yJ19_valueOf cJ19_valueOf 1 (some (.object "java/lang/Integer"))) 3 71 γ (h, r) [.int a0] (some (.ref z.1)) z.2 := by
  refine a_start (cc := cJ19_valueOf) (own := RJ19) hO rfl rfl rfl (fun p e R s m args below meth c Q ls X hR hnm h0H hA hl hend => ?_)
  have hx := X.1.1
  have hb := X.1.2.1
  have hit := hz
  clear hz
  unfold CJ19_valueOf at hit
  have hl : lv_has ls 1 [(0, .int a0)] := hl
  refine lv_iload_n hx hb dJ19_valueOf_0 rfl (lv_at hl 0 rfl) ?_
  refine lv_bipush (v := (-128)) hx hb dJ19_valueOf_1 (by decide) ?_
  have hK23 : CJ19_valueOf_J23 h r a0 = some z → ∀ (H : Heap) (locs : List Loc) (cells slots : Nat) (ls : Array Slot), AI γ (h, r) s R h r H locs cells slots → lv_has ls 1 [(0, .int a0)] → W p l e R s m args below meth c H locs cells slots Q (F0 m 23 ls []) := by
    intro  hit H locs cells slots ls hA hl
    unfold CJ19_valueOf_J23 at hit
    obtain ⟨s1, es1, hit⟩ := o_bind hit
    refine a_new X hA kc_Integer q1192 q1193 q165 (fs := [.int 0]) (by decide +kernel) es1 dJ19_valueOf_23 (fun H cells slots hA => ?_)
    refine lv_dup hx hb dJ19_valueOf_26 rfl ?_
    refine lv_iload_n hx hb dJ19_valueOf_27 rfl (lv_at hl 0 rfl) ?_
    obtain ⟨q2, eq2, hit⟩ := o_bind hit
    refine c_cNI X (kA_F X.2.1 X.2.2 h0H) hA.1 nm_J19_init q1194 q1195 q165 q1196 rfl (wCJ19_init l γ X.2.1 _ _ _ _ eq2) hA.RR ⟨Nat.le_trans (Nat.le_of_ble_eq_true rfl) hR.1, Nat.le_trans (Nat.le_of_ble_eq_true rfl) hR.2⟩ rfl rfl hl.1 (lv_room (Nat.le_of_ble_eq_true rfl)) dJ19_valueOf_28 (fun H locs hI => ?_)
    replace hA := hA.up hI
    clear hI
    have he := o_in hit
    exact hend (some (.ref r.1)) (q2, s1.2) _ _ _ _ _ _ _ _ (kOut_o) (by subst he; rfl) hA dJ19_valueOf_31
  refine b_icmp_lt (tgt := 23) hx hb dJ19_valueOf_3 (by decide) hit (fun c3 hit => ?_) (fun c3 hit => ?_)
  · exact hK23  hit _ _ _ _ _ hA hl
  · refine lv_iload_n hx hb dJ19_valueOf_6 rfl (lv_at hl 0 rfl) ?_
    refine c_gets X (kA_F X.2.1 X.2.2 h0H) hA.1.2.1 X.2.1.1.2.2.2.2.2.2.2.2.1 q1188 dJ19_valueOf_7 ?_
    refine b_icmp_gt (tgt := 23) hx hb dJ19_valueOf_10 (by decide) hit (fun c4 hit => ?_) (fun c4 hit => ?_)
    · exact hK23  hit _ _ _ _ _ hA hl
    · refine c_gets X (kA_F X.2.1 X.2.2 h0H) hA.1.2.1 X.2.1.1.2.2.2.2.2.2.2.2.2.1 q1190 dJ19_valueOf_13 ?_
      refine lv_iload_n hx hb dJ19_valueOf_16 rfl (lv_at hl 0 rfl) ?_
      refine lv_sipush (v := 128) hx hb dJ19_valueOf_17 (by decide) ?_
      refine lv_iadd hx hb dJ19_valueOf_20 ?_
      obtain ⟨v5, ev5, hit⟩ := o_bind hit
      refine c_icq X (kA_F X.2.1 X.2.2 h0H) hA.1.2.1 ev5 dJ19_valueOf_21 ?_
      have he := o_in hit
      exact hend (some (.ref v5)) (h, r) _ _ _ _ _ _ _ _ (kOut_o) (by subst he; rfl) hA dJ19_valueOf_22
noncomputable def C1_news (h : CH) (o : Nat) (a0 : Int32) (a1 : Int32) (a2 : Int32) : Option (Int32) :=
  (gR h o 1 2).bind fun v1 =>
  (vc h v1 3 (C3_bornBy h v1 a0)).bind fun q2 =>
  ((if a2 = 1 then
      ((gR h o 1 2).bind fun v11 =>
      (vc h v11 3 (C3_bornBy h v11 a1)).bind fun q12 =>
      some q12)
    else
      (some 0) : Option Int32)).bind fun r3 =>
  (gR h o 1 2).bind fun v4 =>
  (vc h v4 3 (C3_readOf h v4 (q2 ||| r3))).bind fun q5 =>
  (gR h o 1 2).bind fun v6 =>
  (gR h v6 3 3).bind fun v7 =>
  (aI h v7 0 a0).bind fun v8 =>
  (CJ19_bitCount (q5 &&& (v8 ^^^ (-1)))).bind fun q9 =>
  some q9
theorem nm_X1_news : kNm yX1_news RX1 3 := by unfold kNm; decide +kernel
set_option maxHeartbeats 4000000 in
set_option maxRecDepth 100000 in
theorem wC1_news (l : Launch) (γ : KG) (hO : kOK γ) (h : CH) (o : Nat) (a0 : Int32) (a1 : Int32) (a2 : Int32) (z : Int32) (hz : C1_news h o a0 a1 a2 = some z) : Met l yX1_news (ws_ yX1_news cX1_news 5 (some .int)) (kRm 4 89) (cPc γ h [.ref o, .int a0, .int a1, .int a2]) (cRq (.int z)) 0 0 vp_nf := by
  refine c_startR (cc := cX1_news) (own := RX1) hO rfl rfl rfl (fun p e R s m args below meth c Q ls X hR hH hDU hl hend => ?_)
  have hx := X.1.1
  have hb := X.1.2.1
  have hit := hz
  clear hz
  unfold C1_news at hit
  have hl : lv_has ls 5 [(0, .ref o), (1, .int a0), (2, .int a1), (3, .int a2)] := hl
  refine lv_aload_n hx hb dX1_news_0 rfl (lv_at hl 0 rfl) ?_
  obtain ⟨v1, ev1, hit⟩ := o_bind hit
  refine c_getR X hH kc_TwinInk 2 q278 (Or.inl rfl) rfl rfl ev1 dX1_news_1 ?_
  refine lv_iload_n hx hb dX1_news_4 rfl (lv_at hl 1 rfl) ?_
  obtain ⟨q2, eq2, hit⟩ := o_bind hit
  obtain ⟨iq2, eq2⟩ := vc_inv eq2
  refine c_cR X hH hDU kc_Service (wC3_bornBy l γ X.2.1 _ _ _ _ eq2) iq2 nm_X3_bornBy q1304 q1305 q140 q1307 q1306 ⟨Nat.le_trans (Nat.le_of_ble_eq_true rfl) hR.1, Nat.le_trans (Nat.le_of_ble_eq_true rfl) hR.2⟩ ⟨Nat.zero_le _, Nat.zero_le _⟩ rfl rfl hl.1 (lv_room (Nat.le_of_ble_eq_true rfl)) dX1_news_5 ?_
  refine lv_iload_n hx hb dX1_news_8 rfl (lv_at hl 3 rfl) ?_
  refine lv_iconst (v := 1) hx hb dX1_news_9 (by decide) ?_
  obtain ⟨r3, er3, hit⟩ := o_bind hit
  have hr3 : ∀ (ls : Array Slot), lv_has ls 5 [(0, .ref o), (1, .int a0)] → W p l e R s m args below meth c s.heap [] 0 0 Q (F0 m 25 ls [.int r3, .int q2]) := by
    intro ls hl
    refine lv_ior hx hb dX1_news_25 ?_
    refine lv_istore (lv' := [(4, .int (q2 ||| r3)), (0, .ref o), (1, .int a0)]) hx hb dX1_news_26 hl (by decide) rfl (fun ls hl => ?_)
    refine lv_aload_n hx hb dX1_news_28 rfl (lv_at hl 1 rfl) ?_
    obtain ⟨v4, ev4, hit⟩ := o_bind hit
    refine c_getR X hH kc_TwinInk 2 q278 (Or.inl rfl) rfl rfl ev4 dX1_news_29 ?_
    refine lv_iload hx hb dX1_news_32 (lv_at hl 0 rfl) ?_
    obtain ⟨q5, eq5, hit⟩ := o_bind hit
    obtain ⟨iq5, eq5⟩ := vc_inv eq5
    refine c_cR X hH hDU kc_Service (wC3_readOf l γ X.2.1 _ _ _ _ eq5) iq5 nm_X3_readOf q1548 q593 q140 q595 q594 ⟨Nat.le_trans (Nat.le_of_ble_eq_true rfl) hR.1, Nat.le_trans (Nat.le_of_ble_eq_true rfl) hR.2⟩ ⟨Nat.zero_le _, Nat.zero_le _⟩ rfl rfl hl.1 (lv_room (Nat.le_of_ble_eq_true rfl)) dX1_news_34 ?_
    refine lv_aload_n hx hb dX1_news_37 rfl (lv_at hl 1 rfl) ?_
    obtain ⟨v6, ev6, hit⟩ := o_bind hit
    refine c_getR X hH kc_TwinInk 2 q278 (Or.inl rfl) rfl rfl ev6 dX1_news_38 ?_
    obtain ⟨v7, ev7, hit⟩ := o_bind hit
    refine c_getNR X hH kc_Service 3 q255 (Or.inl rfl) rfl rfl ev7 dX1_news_41 ?_
    refine lv_iload_n hx hb dX1_news_44 rfl (lv_at hl 2 rfl) ?_
    obtain ⟨v8, ev8, hit⟩ := o_bind hit
    refine c_iald X hH ev8 dX1_news_45 ?_
    refine lv_iconst (v := (-1)) hx hb dX1_news_46 (by decide) ?_
    refine lv_ixor hx hb dX1_news_47 ?_
    refine lv_iand hx hb dX1_news_48 ?_
    obtain ⟨q9, eq9, hit⟩ := o_bind hit
    refine c_cP X.1 (wCJ19_bitCount l _ _ eq9) nm_J19_bitCount q1458 q509 q165 q510 ⟨Nat.le_trans (Nat.le_of_ble_eq_true rfl) hR.1, Nat.le_trans (Nat.le_of_ble_eq_true rfl) hR.2⟩ ⟨Nat.zero_le _, Nat.zero_le _⟩ rfl rfl hl.1 (lv_room (Nat.le_of_ble_eq_true rfl)) dX1_news_49 ?_
    have he := o_in hit
    exact hend (.int q9) _ _ _ _ (kOut_i rfl) (congrArg Value.int he) dX1_news_52
  have hit := er3
  refine b_icmp_ne (tgt := 24) hx hb dX1_news_10 (by decide) hit (fun c10 hit => ?_) (fun c10 hit => ?_)
  · refine lv_iconst (v := 0) hx hb dX1_news_24 (by decide) ?_
    have he := o_in hit
    subst he
    exact hr3 _ (lv_sub hl [0, 1] rfl)
  · refine lv_aload_n hx hb dX1_news_13 rfl (lv_at hl 0 rfl) ?_
    obtain ⟨v11, ev11, hit⟩ := o_bind hit
    refine c_getR X hH kc_TwinInk 2 q278 (Or.inl rfl) rfl rfl ev11 dX1_news_14 ?_
    refine lv_iload_n hx hb dX1_news_17 rfl (lv_at hl 2 rfl) ?_
    obtain ⟨q12, eq12, hit⟩ := o_bind hit
    obtain ⟨iq12, eq12⟩ := vc_inv eq12
    refine c_cR X hH hDU kc_Service (wC3_bornBy l γ X.2.1 _ _ _ _ eq12) iq12 nm_X3_bornBy q1304 q1305 q140 q1307 q1306 ⟨Nat.le_trans (Nat.le_of_ble_eq_true rfl) hR.1, Nat.le_trans (Nat.le_of_ble_eq_true rfl) hR.2⟩ ⟨Nat.zero_le _, Nat.zero_le _⟩ rfl rfl hl.1 (lv_room (Nat.le_of_ble_eq_true rfl)) dX1_news_18 ?_
    refine lv_goto (tgt := 25) hx hb dX1_news_21 (by decide) ?_
    have he := o_in hit
    subst he
    exact hr3 _ (lv_sub hl [0, 1] rfl)
noncomputable def C1_gain (h : CH) (o : Nat) (a0 : Int32) (a1 : Int32) (a2 : Int32) (a3 : Int32) : Option (Int32) :=
  (vc h o 1 (C1_news h o a0 a1 a3)).bind fun q1 =>
  (vc h o 1 (C1_news h o a1 a0 a2)).bind fun q2 =>
  some ((3 * q1) - (2 * q2))
theorem nm_X1_gain : kNm yX1_gain RX1 4 := by unfold kNm; decide +kernel
set_option maxHeartbeats 4000000 in
set_option maxRecDepth 100000 in
theorem wC1_gain (l : Launch) (γ : KG) (hO : kOK γ) (h : CH) (o : Nat) (a0 : Int32) (a1 : Int32) (a2 : Int32) (a3 : Int32) (z : Int32) (hz : C1_gain h o a0 a1 a2 a3 = some z) : Met l yX1_gain (ws_ yX1_gain cX1_gain 5 (some .int)) (kRm 5 113) (cPc γ h [.ref o, .int a0, .int a1, .int a2, .int a3]) (cRq (.int z)) 0 0 vp_nf := by
  refine c_startR (cc := cX1_gain) (own := RX1) hO rfl rfl rfl (fun p e R s m args below meth c Q ls X hR hH hDU hl hend => ?_)
  have hx := X.1.1
  have hb := X.1.2.1
  have hit := hz
  clear hz
  unfold C1_gain at hit
  have hl : lv_has ls 5 [(0, .ref o), (1, .int a0), (2, .int a1), (3, .int a2), (4, .int a3)] := hl
  refine lv_iconst (v := 3) hx hb dX1_gain_0 (by decide) ?_
  refine lv_aload_n hx hb dX1_gain_1 rfl (lv_at hl 0 rfl) ?_
  refine lv_iload_n hx hb dX1_gain_2 rfl (lv_at hl 1 rfl) ?_
  refine lv_iload_n hx hb dX1_gain_3 rfl (lv_at hl 2 rfl) ?_
  refine lv_iload hx hb dX1_gain_4 (lv_at hl 4 rfl) ?_
  obtain ⟨q1, eq1, hit⟩ := o_bind hit
  obtain ⟨iq1, eq1⟩ := vc_inv eq1
  refine c_cR X hH hDU kc_TwinInk (wC1_news l γ X.2.1 _ _ _ _ _ _ eq1) iq1 nm_X1_news q1544 q1546 q135 q1547 qs50 ⟨Nat.le_trans (Nat.le_of_ble_eq_true rfl) hR.1, Nat.le_trans (Nat.le_of_ble_eq_true rfl) hR.2⟩ ⟨Nat.zero_le _, Nat.zero_le _⟩ rfl rfl hl.1 (lv_room (Nat.le_of_ble_eq_true rfl)) dX1_gain_6 ?_
  refine lv_imul hx hb dX1_gain_9 ?_
  refine lv_iconst (v := 2) hx hb dX1_gain_10 (by decide) ?_
  refine lv_aload_n hx hb dX1_gain_11 rfl (lv_at hl 0 rfl) ?_
  refine lv_iload_n hx hb dX1_gain_12 rfl (lv_at hl 2 rfl) ?_
  refine lv_iload_n hx hb dX1_gain_13 rfl (lv_at hl 1 rfl) ?_
  refine lv_iload_n hx hb dX1_gain_14 rfl (lv_at hl 3 rfl) ?_
  obtain ⟨q2, eq2, hit⟩ := o_bind hit
  obtain ⟨iq2, eq2⟩ := vc_inv eq2
  refine c_cR X hH hDU kc_TwinInk (wC1_news l γ X.2.1 _ _ _ _ _ _ eq2) iq2 nm_X1_news q1544 q1546 q135 q1547 qs50 ⟨Nat.le_trans (Nat.le_of_ble_eq_true rfl) hR.1, Nat.le_trans (Nat.le_of_ble_eq_true rfl) hR.2⟩ ⟨Nat.zero_le _, Nat.zero_le _⟩ rfl rfl hl.1 (lv_room (Nat.le_of_ble_eq_true rfl)) dX1_gain_15 ?_
  refine lv_imul hx hb dX1_gain_18 ?_
  refine lv_isub hx hb dX1_gain_19 ?_
  have he := o_in hit
  exact hend (.int ((3 * q1) - (2 * q2))) _ _ _ _ (kOut_i rfl) (congrArg Value.int he) dX1_gain_20
noncomputable def C1_draw (h : CH) (o : Nat) (a0 : Int32) : Option (Int32 × CH) :=
  (gI h o 1 13).bind fun v1 =>
  (pI h o 1 13 ((v1 * 1103515245) + 12345)).bind fun s2 =>
  (gI s2 o 1 13).bind fun v3 =>
  (irm ((v3 >>> (16 &&& 31)) &&& 32767) a0).bind fun v4 =>
  some (v4, s2)
theorem nm_X1_draw : kNm yX1_draw RX1 1 := by unfold kNm; decide +kernel
set_option maxHeartbeats 4000000 in
set_option maxRecDepth 100000 in
theorem wC1_draw (l : Launch) (γ : KG) (hO : kOK γ) (h : CH) (o : Nat) (a0 : Int32) (z : Int32 × CH) (hz : C1_draw h o a0 = some z) : Met l yX1_draw (ws_ yX1_draw cX1_draw 2 (some .int)) (kRm 0 0) (cPc γ h [.ref o, .int a0]) (cNq γ h (some (.int z.1)) z.2) 0 0 (kdm h) := by
  refine c_startN (cc := cX1_draw) (own := RX1) hO rfl rfl rfl (fun p e R s m args below meth c Q ls X hR h0H hI hl hend => ?_)
  have hx := X.1.1
  have hb := X.1.2.1
  have hit := hz
  clear hz
  unfold C1_draw at hit
  have hl : lv_has ls 2 [(0, .ref o), (1, .int a0)] := hl
  refine lv_aload_n hx hb dX1_draw_0 rfl (lv_at hl 0 rfl) ?_
  refine lv_aload_n hx hb dX1_draw_1 rfl (lv_at hl 0 rfl) ?_
  obtain ⟨v1, ev1, hit⟩ := o_bind hit
  refine c_getI X hI.1 kc_TwinInk 13 q290 (Or.inl rfl) rfl rfl ev1 dX1_draw_2 ?_
  refine lv_ldcw (v := 1103515245) hx hb X.1.2.2.2.1 (X.1.2.2.2.2 _ q1564) dX1_draw_5 ?_
  refine lv_imul hx hb dX1_draw_8 ?_
  refine lv_sipush (v := 12345) hx hb dX1_draw_9 (by decide) ?_
  refine lv_iadd hx hb dX1_draw_12 ?_
  obtain ⟨s2, es2, hit⟩ := o_bind hit
  refine c_putI X hI kc_TwinInk 13 q290 (Or.inl rfl) rfl rfl (tyv := .int) rfl rfl rfl es2 dX1_draw_13 (fun H locs hI => ?_)
  refine lv_aload_n hx hb dX1_draw_16 rfl (lv_at hl 0 rfl) ?_
  obtain ⟨v3, ev3, hit⟩ := o_bind hit
  refine c_getI X hI.1 kc_TwinInk 13 q290 (Or.inl rfl) rfl rfl ev3 dX1_draw_17 ?_
  refine lv_bipush (v := 16) hx hb dX1_draw_20 (by decide) ?_
  refine lv_ishr hx hb dX1_draw_22 ?_
  refine lv_sipush (v := 32767) hx hb dX1_draw_23 (by decide) ?_
  refine lv_iand hx hb dX1_draw_26 ?_
  refine lv_iload_n hx hb dX1_draw_27 rfl (lv_at hl 1 rfl) ?_
  obtain ⟨v4, ev4, hit⟩ := o_bind hit
  refine b_irem hx hb ev4 dX1_draw_28 ?_
  have he := o_in hit
  exact hend (some (.int v4)) _ _ _ _ _ _ _ (kOut_i rfl) (by subst he; rfl) hI dX1_draw_29
noncomputable def C1_befalls (h : CH) (o : Nat) : Option (CH) :=
  (vc h o 1 (C1_draw h o 6)).bind fun q1 =>
  ((if q1.1 = 0 then
      ((gR q1.2 o 1 3).bind fun v35 =>
      (vc q1.2 o 1 (C1_draw q1.2 o 4)).bind fun q36 =>
      (vc q36.2 v35 3 (C3_burn q36.2 v35 q36.1)).bind fun q37 =>
      some q37.2)
    else
      (some q1.2) : Option CH)).bind fun r2 =>
  ((if q1.1 = 1 then
      ((gR r2 o 1 1).bind fun v20 =>
      (vc r2 v20 2 (C2_clerks r2 v20)).bind fun q21 =>
      if q21 ≤ 0 then
        (some r2)
      else
        ((gR r2 o 1 1).bind fun v23 =>
        (vc r2 v23 2 (C2_clerks r2 v23)).bind fun q24 =>
        (vc r2 o 1 (C1_draw r2 o q24)).bind fun q25 =>
        (gR q25.2 o 1 3).bind fun v26 =>
        (gR q25.2 o 1 3).bind fun v27 =>
        (vc q25.2 v27 3 (C3_town q25.2 v27 q25.1)).bind fun q28 =>
        (vc q25.2 v26 3 (C3_archive q25.2 v26 q28)).bind fun q29 =>
        if q29 = 0 then
          (some q25.2)
        else
          ((gR q25.2 o 1 3).bind fun v31 =>
          (CJ19_numberOfTrailingZeros q29).bind fun q32 =>
          (vc q25.2 v31 3 (C3_take q25.2 v31 q25.1 q32)).bind fun q33 =>
          some q33)))
    else
      (some r2) : Option CH)).bind fun r3 =>
  if q1.1 = 2 then
    ((gR r3 o 1 1).bind fun v5 =>
    (gI r3 v5 2 2).bind fun v6 =>
    if v6 ≤ 0 then
      (some r3)
    else
      ((gR r3 o 1 1).bind fun v8 =>
      (gI r3 v8 2 2).bind fun v9 =>
      (vc r3 o 1 (C1_draw r3 o v9)).bind fun q10 =>
      (vc q10.2 o 1 (C1_draw q10.2 o 8)).bind fun q11 =>
      (gR q11.2 o 1 3).bind fun v12 =>
      (vc q11.2 v12 3 (C3_isBurnt q11.2 v12 q10.1)).bind fun q13 =>
      if q13 = 0 then
        ((gR q11.2 o 1 3).bind fun v15 =>
        (gR q11.2 v15 3 0).bind fun v16 =>
        (aI q11.2 v16 0 q10.1).bind fun v17 =>
        (sI q11.2 v16 0 q10.1 (v17 ^^^ ((1 : Int32) <<< (q11.1 &&& 31)))).bind fun s18 =>
        some s18)
      else
        (some q11.2)))
  else
    (some r3)
theorem nm_X1_befalls : kNm yX1_befalls RX1 0 := by unfold kNm; decide +kernel
set_option maxHeartbeats 4000000 in
set_option maxRecDepth 100000 in
theorem wC1_befalls (l : Launch) (γ : KG) (hO : kOK γ) (h : CH) (o : Nat) (z : CH) (hz : C1_befalls h o = some z) : Met l yX1_befalls (ws_ yX1_befalls cX1_befalls 4 none) (kRm 5 107) (cPc γ h [.ref o]) (cNq γ h none z) 0 0 (kdm h) := by
  refine c_startN (cc := cX1_befalls) (own := RX1) hO rfl rfl rfl (fun p e R s m args below meth c Q ls X hR h0H hI hl hend => ?_)
  have hx := X.1.1
  have hb := X.1.2.1
  have hit := hz
  clear hz
  unfold C1_befalls at hit
  have hl : lv_has ls 4 [(0, .ref o)] := hl
  refine lv_aload_n hx hb dX1_befalls_0 rfl (lv_at hl 0 rfl) ?_
  refine lv_bipush (v := 6) hx hb dX1_befalls_1 (by decide) ?_
  obtain ⟨q1, eq1, hit⟩ := o_bind hit
  obtain ⟨iq1, eq1⟩ := vc_inv eq1
  refine c_cN X (c_AF h0H) hI kc_TwinInk (wC1_draw l γ X.2.1 _ _ _ _ eq1) iq1 nm_X1_draw q1560 q1562 q135 q1563 qs52 ⟨Nat.le_trans (Nat.le_of_ble_eq_true rfl) hR.1, Nat.le_trans (Nat.le_of_ble_eq_true rfl) hR.2⟩ ⟨Nat.zero_le _, Nat.zero_le _⟩ rfl rfl hl.1 (lv_room (Nat.le_of_ble_eq_true rfl)) dX1_befalls_3 (fun H locs hI => ?_)
  refine lv_istore_n (lv' := [(1, .int q1.1), (0, .ref o)]) hx hb dX1_befalls_6 rfl hl (by decide) rfl (fun ls hl => ?_)
  refine lv_iload_n hx hb dX1_befalls_7 rfl (lv_at hl 0 rfl) ?_
  obtain ⟨r2, er2, hit⟩ := o_bind hit
  have hr2 : ∀ (H : Heap) (locs : List Loc) (ls : Array Slot), NI γ (kdm h) s.heap.size s r2 H locs → lv_has ls 4 [(1, .int q1.1), (0, .ref o)] → W p l e R s m args below meth c H locs 0 0 Q (F0 m 24 ls []) := by
    intro H locs ls hI hl
    refine lv_iload_n hx hb dX1_befalls_24 rfl (lv_at hl 0 rfl) ?_
    refine lv_iconst (v := 1) hx hb dX1_befalls_25 (by decide) ?_
    obtain ⟨r3, er3, hit⟩ := o_bind hit
    have hr3 : ∀ (H : Heap) (locs : List Loc) (ls : Array Slot), NI γ (kdm h) s.heap.size s r3 H locs → lv_has ls 4 [(1, .int q1.1), (0, .ref o)] → W p l e R s m args below meth c H locs 0 0 Q (F0 m 83 ls []) := by
      intro H locs ls hI hl
      refine lv_iload_n hx hb dX1_befalls_83 rfl (lv_at hl 0 rfl) ?_
      refine lv_iconst (v := 2) hx hb dX1_befalls_84 (by decide) ?_
      refine b_icmp_ne (tgt := 143) hx hb dX1_befalls_85 (by decide) hit (fun c4 hit => ?_) (fun c4 hit => ?_)
      · have he := o_in hit
        exact hend none _ _ _ _ _ _ _ kOut_v (by subst he; rfl) hI dX1_befalls_143
      · refine lv_aload_n hx hb dX1_befalls_88 rfl (lv_at hl 1 rfl) ?_
        obtain ⟨v5, ev5, hit⟩ := o_bind hit
        refine c_getR X hI.1 kc_TwinInk 1 q277 (Or.inl rfl) rfl rfl ev5 dX1_befalls_89 ?_
        obtain ⟨v6, ev6, hit⟩ := o_bind hit
        refine c_getNI X hI.1 kc_Office 2 q216 (Or.inl rfl) rfl rfl ev6 dX1_befalls_92 ?_
        refine b_if_le (tgt := 143) hx hb dX1_befalls_95 (by decide) hit (fun c7 hit => ?_) (fun c7 hit => ?_)
        · have he := o_in hit
          exact hend none _ _ _ _ _ _ _ kOut_v (by subst he; rfl) hI dX1_befalls_143
        · refine lv_aload_n hx hb dX1_befalls_98 rfl (lv_at hl 1 rfl) ?_
          refine lv_aload_n hx hb dX1_befalls_99 rfl (lv_at hl 1 rfl) ?_
          obtain ⟨v8, ev8, hit⟩ := o_bind hit
          refine c_getR X hI.1 kc_TwinInk 1 q277 (Or.inl rfl) rfl rfl ev8 dX1_befalls_100 ?_
          obtain ⟨v9, ev9, hit⟩ := o_bind hit
          refine c_getNI X hI.1 kc_Office 2 q216 (Or.inl rfl) rfl rfl ev9 dX1_befalls_103 ?_
          obtain ⟨q10, eq10, hit⟩ := o_bind hit
          obtain ⟨iq10, eq10⟩ := vc_inv eq10
          refine c_cN X (c_AF h0H) hI kc_TwinInk (wC1_draw l γ X.2.1 _ _ _ _ eq10) iq10 nm_X1_draw q1560 q1562 q135 q1563 qs52 ⟨Nat.le_trans (Nat.le_of_ble_eq_true rfl) hR.1, Nat.le_trans (Nat.le_of_ble_eq_true rfl) hR.2⟩ ⟨Nat.zero_le _, Nat.zero_le _⟩ rfl rfl hl.1 (lv_room (Nat.le_of_ble_eq_true rfl)) dX1_befalls_106 (fun H locs hI => ?_)
          refine lv_istore_n (lv' := [(2, .int q10.1), (1, .int q1.1), (0, .ref o)]) hx hb dX1_befalls_109 rfl hl (by decide) rfl (fun ls hl => ?_)
          refine lv_aload_n hx hb dX1_befalls_110 rfl (lv_at hl 2 rfl) ?_
          refine lv_bipush (v := 8) hx hb dX1_befalls_111 (by decide) ?_
          obtain ⟨q11, eq11, hit⟩ := o_bind hit
          obtain ⟨iq11, eq11⟩ := vc_inv eq11
          refine c_cN X (c_AF h0H) hI kc_TwinInk (wC1_draw l γ X.2.1 _ _ _ _ eq11) iq11 nm_X1_draw q1560 q1562 q135 q1563 qs52 ⟨Nat.le_trans (Nat.le_of_ble_eq_true rfl) hR.1, Nat.le_trans (Nat.le_of_ble_eq_true rfl) hR.2⟩ ⟨Nat.zero_le _, Nat.zero_le _⟩ rfl rfl hl.1 (lv_room (Nat.le_of_ble_eq_true rfl)) dX1_befalls_113 (fun H locs hI => ?_)
          refine lv_istore_n (lv' := [(3, .int q11.1), (2, .int q10.1), (1, .int q1.1), (0, .ref o)]) hx hb dX1_befalls_116 rfl hl (by decide) rfl (fun ls hl => ?_)
          refine lv_aload_n hx hb dX1_befalls_117 rfl (lv_at hl 3 rfl) ?_
          obtain ⟨v12, ev12, hit⟩ := o_bind hit
          refine c_getR X hI.1 kc_TwinInk 3 q279 (Or.inl rfl) rfl rfl ev12 dX1_befalls_118 ?_
          refine lv_iload_n hx hb dX1_befalls_121 rfl (lv_at hl 1 rfl) ?_
          obtain ⟨q13, eq13, hit⟩ := o_bind hit
          obtain ⟨iq13, eq13⟩ := vc_inv eq13
          refine c_cR X hI.1 (fun U hU hW => hI.D X.2.2 (c_AF h0H) hU hW) kc_Service (wC3_isBurnt l γ X.2.1 _ _ _ _ eq13) iq13 nm_X3_isBurnt q1382 q606 q140 q608 q607 ⟨Nat.le_trans (Nat.le_of_ble_eq_true rfl) hR.1, Nat.le_trans (Nat.le_of_ble_eq_true rfl) hR.2⟩ ⟨Nat.zero_le _, Nat.zero_le _⟩ rfl rfl hl.1 (lv_room (Nat.le_of_ble_eq_true rfl)) dX1_befalls_122 ?_
          refine b_if_ne (tgt := 143) hx hb dX1_befalls_125 (by decide) hit (fun c14 hit => ?_) (fun c14 hit => ?_)
          · have he := o_in hit
            exact hend none _ _ _ _ _ _ _ kOut_v (by subst he; rfl) hI dX1_befalls_143
          · refine lv_aload_n hx hb dX1_befalls_128 rfl (lv_at hl 3 rfl) ?_
            obtain ⟨v15, ev15, hit⟩ := o_bind hit
            refine c_getR X hI.1 kc_TwinInk 3 q279 (Or.inl rfl) rfl rfl ev15 dX1_befalls_129 ?_
            obtain ⟨v16, ev16, hit⟩ := o_bind hit
            refine c_getNR X hI.1 kc_Service 0 q246 (Or.inl rfl) rfl rfl ev16 dX1_befalls_132 ?_
            refine lv_iload_n hx hb dX1_befalls_135 rfl (lv_at hl 1 rfl) ?_
            refine lv_dup2_11 hx hb dX1_befalls_136 rfl rfl ?_
            obtain ⟨v17, ev17, hit⟩ := o_bind hit
            refine c_iald X hI.1 ev17 dX1_befalls_137 ?_
            refine lv_iconst (v := 1) hx hb dX1_befalls_138 (by decide) ?_
            refine lv_iload_n hx hb dX1_befalls_139 rfl (lv_at hl 0 rfl) ?_
            refine lv_ishl hx hb dX1_befalls_140 ?_
            refine lv_ixor hx hb dX1_befalls_141 ?_
            obtain ⟨s18, es18, hit⟩ := o_bind hit
            refine c_iast X hI es18 dX1_befalls_142 (fun H locs hI => ?_)
            have he := o_in hit
            exact hend none _ _ _ _ _ _ _ kOut_v (by subst he; rfl) hI dX1_befalls_143
    have hit := er3
    refine b_icmp_ne (tgt := 83) hx hb dX1_befalls_26 (by decide) hit (fun c19 hit => ?_) (fun c19 hit => ?_)
    · have he := o_in hit
      subst he
      exact hr3 _ _ _ hI hl
    · refine lv_aload_n hx hb dX1_befalls_29 rfl (lv_at hl 1 rfl) ?_
      obtain ⟨v20, ev20, hit⟩ := o_bind hit
      refine c_getR X hI.1 kc_TwinInk 1 q277 (Or.inl rfl) rfl rfl ev20 dX1_befalls_30 ?_
      obtain ⟨q21, eq21, hit⟩ := o_bind hit
      obtain ⟨iq21, eq21⟩ := vc_inv eq21
      refine c_cR X hI.1 (fun U hU hW => hI.D X.2.2 (c_AF h0H) hU hW) kc_Office (wC2_clerks l γ X.2.1 _ _  _ eq21) iq21 nm_X2_clerks q1231 q464 q136 q466 q465 ⟨Nat.le_trans (Nat.le_of_ble_eq_true rfl) hR.1, Nat.le_trans (Nat.le_of_ble_eq_true rfl) hR.2⟩ ⟨Nat.zero_le _, Nat.zero_le _⟩ rfl rfl hl.1 (lv_room (Nat.le_of_ble_eq_true rfl)) dX1_befalls_33 ?_
      refine b_if_le (tgt := 83) hx hb dX1_befalls_36 (by decide) hit (fun c22 hit => ?_) (fun c22 hit => ?_)
      · have he := o_in hit
        subst he
        exact hr3 _ _ _ hI hl
      · refine lv_aload_n hx hb dX1_befalls_39 rfl (lv_at hl 1 rfl) ?_
        refine lv_aload_n hx hb dX1_befalls_40 rfl (lv_at hl 1 rfl) ?_
        obtain ⟨v23, ev23, hit⟩ := o_bind hit
        refine c_getR X hI.1 kc_TwinInk 1 q277 (Or.inl rfl) rfl rfl ev23 dX1_befalls_41 ?_
        obtain ⟨q24, eq24, hit⟩ := o_bind hit
        obtain ⟨iq24, eq24⟩ := vc_inv eq24
        refine c_cR X hI.1 (fun U hU hW => hI.D X.2.2 (c_AF h0H) hU hW) kc_Office (wC2_clerks l γ X.2.1 _ _  _ eq24) iq24 nm_X2_clerks q1231 q464 q136 q466 q465 ⟨Nat.le_trans (Nat.le_of_ble_eq_true rfl) hR.1, Nat.le_trans (Nat.le_of_ble_eq_true rfl) hR.2⟩ ⟨Nat.zero_le _, Nat.zero_le _⟩ rfl rfl hl.1 (lv_room (Nat.le_of_ble_eq_true rfl)) dX1_befalls_44 ?_
        obtain ⟨q25, eq25, hit⟩ := o_bind hit
        obtain ⟨iq25, eq25⟩ := vc_inv eq25
        refine c_cN X (c_AF h0H) hI kc_TwinInk (wC1_draw l γ X.2.1 _ _ _ _ eq25) iq25 nm_X1_draw q1560 q1562 q135 q1563 qs52 ⟨Nat.le_trans (Nat.le_of_ble_eq_true rfl) hR.1, Nat.le_trans (Nat.le_of_ble_eq_true rfl) hR.2⟩ ⟨Nat.zero_le _, Nat.zero_le _⟩ rfl rfl hl.1 (lv_room (Nat.le_of_ble_eq_true rfl)) dX1_befalls_47 (fun H locs hI => ?_)
        refine lv_istore_n (lv' := [(2, .int q25.1), (1, .int q1.1), (0, .ref o)]) hx hb dX1_befalls_50 rfl hl (by decide) rfl (fun ls hl => ?_)
        refine lv_aload_n hx hb dX1_befalls_51 rfl (lv_at hl 2 rfl) ?_
        obtain ⟨v26, ev26, hit⟩ := o_bind hit
        refine c_getR X hI.1 kc_TwinInk 3 q279 (Or.inl rfl) rfl rfl ev26 dX1_befalls_52 ?_
        refine lv_aload_n hx hb dX1_befalls_55 rfl (lv_at hl 2 rfl) ?_
        obtain ⟨v27, ev27, hit⟩ := o_bind hit
        refine c_getR X hI.1 kc_TwinInk 3 q279 (Or.inl rfl) rfl rfl ev27 dX1_befalls_56 ?_
        refine lv_iload_n hx hb dX1_befalls_59 rfl (lv_at hl 0 rfl) ?_
        obtain ⟨q28, eq28, hit⟩ := o_bind hit
        obtain ⟨iq28, eq28⟩ := vc_inv eq28
        refine c_cR X hI.1 (fun U hU hW => hI.D X.2.2 (c_AF h0H) hU hW) kc_Service (wC3_town l γ X.2.1 _ _ _ _ eq28) iq28 nm_X3_town q1303 q470 q140 q472 q471 ⟨Nat.le_trans (Nat.le_of_ble_eq_true rfl) hR.1, Nat.le_trans (Nat.le_of_ble_eq_true rfl) hR.2⟩ ⟨Nat.zero_le _, Nat.zero_le _⟩ rfl rfl hl.1 (lv_room (Nat.le_of_ble_eq_true rfl)) dX1_befalls_60 ?_
        obtain ⟨q29, eq29, hit⟩ := o_bind hit
        obtain ⟨iq29, eq29⟩ := vc_inv eq29
        refine c_cR X hI.1 (fun U hU hW => hI.D X.2.2 (c_AF h0H) hU hW) kc_Service (wC3_archive l γ X.2.1 _ _ _ _ eq29) iq29 nm_X3_archive q1339 q1340 q140 q1342 q1341 ⟨Nat.le_trans (Nat.le_of_ble_eq_true rfl) hR.1, Nat.le_trans (Nat.le_of_ble_eq_true rfl) hR.2⟩ ⟨Nat.zero_le _, Nat.zero_le _⟩ rfl rfl hl.1 (lv_room (Nat.le_of_ble_eq_true rfl)) dX1_befalls_63 ?_
        refine lv_istore_n (lv' := [(3, .int q29), (2, .int q25.1), (1, .int q1.1), (0, .ref o)]) hx hb dX1_befalls_66 rfl hl (by decide) rfl (fun ls hl => ?_)
        refine lv_iload_n hx hb dX1_befalls_67 rfl (lv_at hl 0 rfl) ?_
        refine b_if_eq (tgt := 83) hx hb dX1_befalls_68 (by decide) hit (fun c30 hit => ?_) (fun c30 hit => ?_)
        · have he := o_in hit
          subst he
          exact hr3 _ _ _ hI (lv_sub hl [2, 3] rfl)
        · refine lv_aload_n hx hb dX1_befalls_71 rfl (lv_at hl 3 rfl) ?_
          obtain ⟨v31, ev31, hit⟩ := o_bind hit
          refine c_getR X hI.1 kc_TwinInk 3 q279 (Or.inl rfl) rfl rfl ev31 dX1_befalls_72 ?_
          refine lv_iload_n hx hb dX1_befalls_75 rfl (lv_at hl 1 rfl) ?_
          refine lv_iload_n hx hb dX1_befalls_76 rfl (lv_at hl 0 rfl) ?_
          obtain ⟨q32, eq32, hit⟩ := o_bind hit
          refine c_cP X.1 (wCJ19_numberOfTrailingZeros l _ _ eq32) nm_J19_numberOfTrailingZeros q1248 q1249 q165 q1250 ⟨Nat.le_trans (Nat.le_of_ble_eq_true rfl) hR.1, Nat.le_trans (Nat.le_of_ble_eq_true rfl) hR.2⟩ ⟨Nat.zero_le _, Nat.zero_le _⟩ rfl rfl hl.1 (lv_room (Nat.le_of_ble_eq_true rfl)) dX1_befalls_77 ?_
          obtain ⟨q33, eq33, hit⟩ := o_bind hit
          obtain ⟨iq33, eq33⟩ := vc_inv eq33
          refine c_cN X (c_AF h0H) hI kc_Service (wC3_take l γ X.2.1 _ _ _ _ _ eq33) iq33 nm_X3_take q1364 q1365 q140 q1367 q1366 ⟨Nat.le_trans (Nat.le_of_ble_eq_true rfl) hR.1, Nat.le_trans (Nat.le_of_ble_eq_true rfl) hR.2⟩ ⟨Nat.zero_le _, Nat.zero_le _⟩ rfl rfl hl.1 (lv_room (Nat.le_of_ble_eq_true rfl)) dX1_befalls_80 (fun H locs hI => ?_)
          have he := o_in hit
          subst he
          exact hr3 _ _ _ hI (lv_sub hl [2, 3] rfl)
  have hit := er2
  refine b_if_ne (tgt := 24) hx hb dX1_befalls_8 (by decide) hit (fun c34 hit => ?_) (fun c34 hit => ?_)
  · have he := o_in hit
    subst he
    exact hr2 _ _ _ hI hl
  · refine lv_aload_n hx hb dX1_befalls_11 rfl (lv_at hl 1 rfl) ?_
    obtain ⟨v35, ev35, hit⟩ := o_bind hit
    refine c_getR X hI.1 kc_TwinInk 3 q279 (Or.inl rfl) rfl rfl ev35 dX1_befalls_12 ?_
    refine lv_aload_n hx hb dX1_befalls_15 rfl (lv_at hl 1 rfl) ?_
    refine lv_iconst (v := 4) hx hb dX1_befalls_16 (by decide) ?_
    obtain ⟨q36, eq36, hit⟩ := o_bind hit
    obtain ⟨iq36, eq36⟩ := vc_inv eq36
    refine c_cN X (c_AF h0H) hI kc_TwinInk (wC1_draw l γ X.2.1 _ _ _ _ eq36) iq36 nm_X1_draw q1560 q1562 q135 q1563 qs52 ⟨Nat.le_trans (Nat.le_of_ble_eq_true rfl) hR.1, Nat.le_trans (Nat.le_of_ble_eq_true rfl) hR.2⟩ ⟨Nat.zero_le _, Nat.zero_le _⟩ rfl rfl hl.1 (lv_room (Nat.le_of_ble_eq_true rfl)) dX1_befalls_17 (fun H locs hI => ?_)
    obtain ⟨q37, eq37, hit⟩ := o_bind hit
    obtain ⟨iq37, eq37⟩ := vc_inv eq37
    refine c_cN X (c_AF h0H) hI kc_Service (wC3_burn l γ X.2.1 _ _ _ _ eq37) iq37 nm_X3_burn q1390 q1391 q140 q1393 q1392 ⟨Nat.le_trans (Nat.le_of_ble_eq_true rfl) hR.1, Nat.le_trans (Nat.le_of_ble_eq_true rfl) hR.2⟩ ⟨Nat.zero_le _, Nat.zero_le _⟩ rfl rfl hl.1 (lv_room (Nat.le_of_ble_eq_true rfl)) dX1_befalls_20 (fun H locs hI => ?_)
    refine lv_pop hx hb dX1_befalls_23 rfl ?_
    have he := o_in hit
    subst he
    exact hr2 _ _ _ hI hl
noncomputable def C1_orphans_L36 (h : CH) (o : Nat) (r3 : Int32) (t4 : Int32 × Int32) : Option ((Int32 × Int32) ⊕ Int32) :=
  (gR h o 1 1).bind fun v6 =>
  (gI h v6 2 2).bind fun v7 =>
  if t4.2 < v7 then
    ((gR h o 1 2).bind fun v9 =>
    (vc h v9 3 (C3_isBurnt h v9 t4.2)).bind fun q10 =>
    ((if q10 = 0 then
        ((gR h o 1 2).bind fun v13 =>
        (vc h v13 3 (C3_fitting h v13 t4.2)).bind fun q14 =>
        if q14 = 0 then
          ((C1_isOf r3 t4.2).bind fun q16 =>
          if q16 = 0 then
            (some (t4.1 ||| ((1 : Int32) <<< (t4.2 &&& 31))))
          else
            (some t4.1))
        else
          (some t4.1))
      else
        (some t4.1) : Option Int32)).bind fun r11 =>
    some (.inl (r11, (t4.2 + 1))))
  else
    (some (.inr t4.1))
noncomputable def C1_orphans_L6 (h : CH) (o : Nat) (t1 : Int32 × Int32) : Option ((Int32 × Int32) ⊕ Int32) :=
  (gR h o 1 1).bind fun v18 =>
  (gI h v18 2 2).bind fun v19 =>
  if t1.2 < v19 then
    ((gR h o 1 2).bind fun v21 =>
    (vc h v21 3 (C3_fitting h v21 t1.2)).bind fun q22 =>
    some (.inl ((t1.1 ||| q22), (t1.2 + 1))))
  else
    (some (.inr t1.1))
noncomputable def C1_orphans (h : CH) (o : Nat) : Option (Int32) :=
  (o_loop (C1_orphans_L6 h o) (0, 0)).bind fun r3 =>
  o_loop (C1_orphans_L36 h o r3) (0, 0)
theorem nm_X1_orphans : kNm yX1_orphans RX1 0 := by unfold kNm; decide +kernel
set_option maxHeartbeats 4000000 in
set_option maxRecDepth 100000 in
theorem wC1_orphans (l : Launch) (γ : KG) (hO : kOK γ) (h : CH) (o : Nat) (z : Int32) (hz : C1_orphans h o = some z) : Met l yX1_orphans (ws_ yX1_orphans cX1_orphans 4 (some .int)) (kRm 4 87) (cPc γ h [.ref o]) (cRq (.int z)) 0 0 vp_nf := by
  refine c_startR (cc := cX1_orphans) (own := RX1) hO rfl rfl rfl (fun p e R s m args below meth c Q ls X hR hH hDU hl hend => ?_)
  have hx := X.1.1
  have hb := X.1.2.1
  have hit := hz
  clear hz
  unfold C1_orphans at hit
  have hl : lv_has ls 4 [(0, .ref o)] := hl
  refine lv_iconst (v := 0) hx hb dX1_orphans_0 (by decide) ?_
  refine lv_istore_n (lv' := [(1, .int 0), (0, .ref o)]) hx hb dX1_orphans_1 rfl hl (by decide) rfl (fun ls hl => ?_)
  refine lv_iconst (v := 0) hx hb dX1_orphans_2 (by decide) ?_
  refine lv_istore_n (lv' := [(2, .int 0), (1, .int 0), (0, .ref o)]) hx hb dX1_orphans_3 rfl hl (by decide) rfl (fun ls hl => ?_)
  refine lv_iconst (v := 0) hx hb dX1_orphans_4 (by decide) ?_
  refine lv_istore_n (lv' := [(3, .int 0), (2, .int 0), (1, .int 0), (0, .ref o)]) hx hb dX1_orphans_5 rfl hl (by decide) rfl (fun ls hl => ?_)
  obtain ⟨r3, er3, hit⟩ := o_bind hit
  have hr3 : ∀ (ls : Array Slot), lv_has ls 4 [(1, .int 0), (0, .ref o), (2, .int r3)] → W p l e R s m args below meth c s.heap [] 0 0 Q (F0 m 34 ls []) := by
    intro ls hl
    refine lv_iconst (v := 0) hx hb dX1_orphans_34 (by decide) ?_
    refine lv_istore_n (lv' := [(3, .int 0), (1, .int 0), (0, .ref o), (2, .int r3)]) hx hb dX1_orphans_35 rfl hl (by decide) rfl (fun ls hl => ?_)
    refine o_rec (P := fun t4 => ∀ (ls : Array Slot), lv_has ls 4 [(0, .ref o), (2, .int r3), (1, .int t4.1), (3, .int t4.2)] → W p l e R s m args below meth c s.heap [] 0 0 Q (F0 m 36 ls [])) (fun t4 x5 hit hC4 hE4 ls hl => ?_) _ hit _ (lv_sub hl [2, 3, 1, 0] rfl)
    unfold C1_orphans_L36 at hit
    refine lv_iload_n hx hb dX1_orphans_36 rfl (lv_at hl 3 rfl) ?_
    refine lv_aload_n hx hb dX1_orphans_37 rfl (lv_at hl 0 rfl) ?_
    obtain ⟨v6, ev6, hit⟩ := o_bind hit
    refine c_getR X hH kc_TwinInk 1 q277 (Or.inl rfl) rfl rfl ev6 dX1_orphans_38 ?_
    obtain ⟨v7, ev7, hit⟩ := o_bind hit
    refine c_getNI X hH kc_Office 2 q216 (Or.inl rfl) rfl rfl ev7 dX1_orphans_41 ?_
    refine b_icmp_ge (tgt := 89) hx hb dX1_orphans_44 (by decide) hit (fun c8 hit => ?_) (fun c8 hit => ?_)
    · refine lv_iload_n hx hb dX1_orphans_89 rfl (lv_at hl 2 rfl) ?_
      have he := o_in hit
      have he := hE4 _ he
      exact hend (.int t4.1) _ _ _ _ (kOut_i rfl) (congrArg Value.int he) dX1_orphans_90
    · refine lv_aload_n hx hb dX1_orphans_47 rfl (lv_at hl 0 rfl) ?_
      obtain ⟨v9, ev9, hit⟩ := o_bind hit
      refine c_getR X hH kc_TwinInk 2 q278 (Or.inl rfl) rfl rfl ev9 dX1_orphans_48 ?_
      refine lv_iload_n hx hb dX1_orphans_51 rfl (lv_at hl 3 rfl) ?_
      obtain ⟨q10, eq10, hit⟩ := o_bind hit
      obtain ⟨iq10, eq10⟩ := vc_inv eq10
      refine c_cR X hH hDU kc_Service (wC3_isBurnt l γ X.2.1 _ _ _ _ eq10) iq10 nm_X3_isBurnt q1382 q606 q140 q608 q607 ⟨Nat.le_trans (Nat.le_of_ble_eq_true rfl) hR.1, Nat.le_trans (Nat.le_of_ble_eq_true rfl) hR.2⟩ ⟨Nat.zero_le _, Nat.zero_le _⟩ rfl rfl hl.1 (lv_room (Nat.le_of_ble_eq_true rfl)) dX1_orphans_52 ?_
      obtain ⟨r11, er11, hit⟩ := o_bind hit
      have hr11 : ∀ (ls : Array Slot), lv_has ls 4 [(0, .ref o), (2, .int r3), (3, .int t4.2), (1, .int r11)] → W p l e R s m args below meth c s.heap [] 0 0 Q (F0 m 83 ls []) := by
        intro ls hl
        refine lv_iinc (k := 2) (v := (t4.2 + 1)) (lv' := [(3, .int (t4.2 + 1)), (0, .ref o), (2, .int r3), (1, .int r11)]) hx hb dX1_orphans_83 hl rfl rfl (by decide) rfl (fun ls hl => ?_)
        refine lv_goto (tgt := 36) hx hb dX1_orphans_86 (by decide) ?_
        have he := o_in hit
        exact hC4 _ he _ (lv_sub hl [1, 2, 3, 0] rfl)
      have hit := er11
      refine b_if_ne (tgt := 83) hx hb dX1_orphans_55 (by decide) hit (fun c12 hit => ?_) (fun c12 hit => ?_)
      · have he := o_in hit
        subst he
        exact hr11 _ (lv_sub hl [0, 1, 3, 2] rfl)
      · refine lv_aload_n hx hb dX1_orphans_58 rfl (lv_at hl 0 rfl) ?_
        obtain ⟨v13, ev13, hit⟩ := o_bind hit
        refine c_getR X hH kc_TwinInk 2 q278 (Or.inl rfl) rfl rfl ev13 dX1_orphans_59 ?_
        refine lv_iload_n hx hb dX1_orphans_62 rfl (lv_at hl 3 rfl) ?_
        obtain ⟨q14, eq14, hit⟩ := o_bind hit
        obtain ⟨iq14, eq14⟩ := vc_inv eq14
        refine c_cR X hH hDU kc_Service (wC3_fitting l γ X.2.1 _ _ _ _ eq14) iq14 nm_X3_fitting q1288 q1289 q140 q1291 q1290 ⟨Nat.le_trans (Nat.le_of_ble_eq_true rfl) hR.1, Nat.le_trans (Nat.le_of_ble_eq_true rfl) hR.2⟩ ⟨Nat.zero_le _, Nat.zero_le _⟩ rfl rfl hl.1 (lv_room (Nat.le_of_ble_eq_true rfl)) dX1_orphans_63 ?_
        refine b_if_ne (tgt := 83) hx hb dX1_orphans_66 (by decide) hit (fun c15 hit => ?_) (fun c15 hit => ?_)
        · have he := o_in hit
          subst he
          exact hr11 _ (lv_sub hl [0, 1, 3, 2] rfl)
        · refine lv_iload_n hx hb dX1_orphans_69 rfl (lv_at hl 1 rfl) ?_
          refine lv_iload_n hx hb dX1_orphans_70 rfl (lv_at hl 3 rfl) ?_
          obtain ⟨q16, eq16, hit⟩ := o_bind hit
          refine c_cP X.1 (wC1_isOf l _ _ _ eq16) nm_X1_isOf q1252 q519 q135 q520 ⟨Nat.le_trans (Nat.le_of_ble_eq_true rfl) hR.1, Nat.le_trans (Nat.le_of_ble_eq_true rfl) hR.2⟩ ⟨Nat.zero_le _, Nat.zero_le _⟩ rfl rfl hl.1 (lv_room (Nat.le_of_ble_eq_true rfl)) dX1_orphans_71 ?_
          refine b_if_ne (tgt := 83) hx hb dX1_orphans_74 (by decide) hit (fun c17 hit => ?_) (fun c17 hit => ?_)
          · have he := o_in hit
            subst he
            exact hr11 _ (lv_sub hl [0, 1, 3, 2] rfl)
          · refine lv_iload_n hx hb dX1_orphans_77 rfl (lv_at hl 2 rfl) ?_
            refine lv_iconst (v := 1) hx hb dX1_orphans_78 (by decide) ?_
            refine lv_iload_n hx hb dX1_orphans_79 rfl (lv_at hl 3 rfl) ?_
            refine lv_ishl hx hb dX1_orphans_80 ?_
            refine lv_ior hx hb dX1_orphans_81 ?_
            refine lv_istore_n (lv' := [(1, .int (t4.1 ||| ((1 : Int32) <<< (t4.2 &&& 31)))), (0, .ref o), (2, .int r3), (3, .int t4.2)]) hx hb dX1_orphans_82 rfl hl (by decide) rfl (fun ls hl => ?_)
            have he := o_in hit
            subst he
            exact hr11 _ (lv_sub hl [1, 2, 3, 0] rfl)
  refine o_rec (P := fun t1 => ∀ (ls : Array Slot), lv_has ls 4 [(1, .int 0), (0, .ref o), (2, .int t1.1), (3, .int t1.2)] → W p l e R s m args below meth c s.heap [] 0 0 Q (F0 m 6 ls [])) (fun t1 x2 hit hC1 hE1 ls hl => ?_) _ er3 _ (lv_sub hl [2, 3, 1, 0] rfl)
  unfold C1_orphans_L6 at hit
  refine lv_iload_n hx hb dX1_orphans_6 rfl (lv_at hl 3 rfl) ?_
  refine lv_aload_n hx hb dX1_orphans_7 rfl (lv_at hl 1 rfl) ?_
  obtain ⟨v18, ev18, hit⟩ := o_bind hit
  refine c_getR X hH kc_TwinInk 1 q277 (Or.inl rfl) rfl rfl ev18 dX1_orphans_8 ?_
  obtain ⟨v19, ev19, hit⟩ := o_bind hit
  refine c_getNI X hH kc_Office 2 q216 (Or.inl rfl) rfl rfl ev19 dX1_orphans_11 ?_
  refine b_icmp_ge (tgt := 34) hx hb dX1_orphans_14 (by decide) hit (fun c20 hit => ?_) (fun c20 hit => ?_)
  · have he := o_in hit
    have he := hE1 _ he
    subst he
    exact hr3 _ (lv_sub hl [0, 1, 2] rfl)
  · refine lv_iload_n hx hb dX1_orphans_17 rfl (lv_at hl 2 rfl) ?_
    refine lv_aload_n hx hb dX1_orphans_18 rfl (lv_at hl 1 rfl) ?_
    obtain ⟨v21, ev21, hit⟩ := o_bind hit
    refine c_getR X hH kc_TwinInk 2 q278 (Or.inl rfl) rfl rfl ev21 dX1_orphans_19 ?_
    refine lv_iload_n hx hb dX1_orphans_22 rfl (lv_at hl 3 rfl) ?_
    obtain ⟨q22, eq22, hit⟩ := o_bind hit
    obtain ⟨iq22, eq22⟩ := vc_inv eq22
    refine c_cR X hH hDU kc_Service (wC3_fitting l γ X.2.1 _ _ _ _ eq22) iq22 nm_X3_fitting q1288 q1289 q140 q1291 q1290 ⟨Nat.le_trans (Nat.le_of_ble_eq_true rfl) hR.1, Nat.le_trans (Nat.le_of_ble_eq_true rfl) hR.2⟩ ⟨Nat.zero_le _, Nat.zero_le _⟩ rfl rfl hl.1 (lv_room (Nat.le_of_ble_eq_true rfl)) dX1_orphans_23 ?_
    refine lv_ior hx hb dX1_orphans_26 ?_
    refine lv_istore_n (lv' := [(2, .int (t1.1 ||| q22)), (1, .int 0), (0, .ref o), (3, .int t1.2)]) hx hb dX1_orphans_27 rfl hl (by decide) rfl (fun ls hl => ?_)
    refine lv_iinc (k := 3) (v := (t1.2 + 1)) (lv' := [(3, .int (t1.2 + 1)), (2, .int (t1.1 ||| q22)), (1, .int 0), (0, .ref o)]) hx hb dX1_orphans_28 hl rfl rfl (by decide) rfl (fun ls hl => ?_)
    refine lv_goto (tgt := 6) hx hb dX1_orphans_31 (by decide) ?_
    have he := o_in hit
    exact hC1 _ he _ (lv_sub hl [2, 3, 1, 0] rfl)
noncomputable def C1_isTold_L2 (h : CH) (o : Nat) (a0 : Int32) (a1 : Int32) (t1 : Int32) : Option (Int32 ⊕ Int32) :=
  (gR h o 1 1).bind fun v3 =>
  (gR h v3 2 0).bind fun v4 =>
  (vc h v4 10 (CJ2_size h v4)).bind fun q5 =>
  if t1 < q5 then
    ((gR h o 1 1).bind fun v7 =>
    (gR h v7 2 0).bind fun v8 =>
    (vc h v8 10 (CJ2_get h v8 t1)).bind fun q9 =>
    (ckA h q9 0).bind fun u11 =>
    (aI h q9 0 0).bind fun v12 =>
    if v12 = a0 then
      ((gR h o 1 1).bind fun v14 =>
      (gR h v14 2 0).bind fun v15 =>
      (vc h v15 10 (CJ2_get h v15 t1)).bind fun q16 =>
      (ckA h q16 0).bind fun u18 =>
      (aI h q16 0 1).bind fun v19 =>
      if v19 = a1 then
        (some (.inr 1))
      else
        (some (.inl (t1 + 1))))
    else
      (some (.inl (t1 + 1))))
  else
    (some (.inr 0))
noncomputable def C1_isTold (h : CH) (o : Nat) (a0 : Int32) (a1 : Int32) : Option (Int32) :=
  o_loop (C1_isTold_L2 h o a0 a1) 0
theorem nm_X1_isTold : kNm yX1_isTold RX1 2 := by unfold kNm; decide +kernel
set_option maxHeartbeats 4000000 in
set_option maxRecDepth 100000 in
theorem wC1_isTold (l : Launch) (γ : KG) (hO : kOK γ) (h : CH) (o : Nat) (a0 : Int32) (a1 : Int32) (z : Int32) (hz : C1_isTold h o a0 a1 = some z) : Met l yX1_isTold (ws_ yX1_isTold cX1_isTold 4 (some .boolean)) (kRm 3 64) (cPc γ h [.ref o, .int a0, .int a1]) (cRq (.int z)) 0 0 vp_nf := by
  refine c_startR (cc := cX1_isTold) (own := RX1) hO rfl rfl rfl (fun p e R s m args below meth c Q ls X hR hH hDU hl hend => ?_)
  have hx := X.1.1
  have hb := X.1.2.1
  have hit := hz
  clear hz
  unfold C1_isTold at hit
  have hl : lv_has ls 4 [(0, .ref o), (1, .int a0), (2, .int a1)] := hl
  refine lv_iconst (v := 0) hx hb dX1_isTold_0 (by decide) ?_
  refine lv_istore_n (lv' := [(3, .int 0), (0, .ref o), (1, .int a0), (2, .int a1)]) hx hb dX1_isTold_1 rfl hl (by decide) rfl (fun ls hl => ?_)
  refine o_rec (P := fun t1 => ∀ (ls : Array Slot), lv_has ls 4 [(0, .ref o), (1, .int a0), (2, .int a1), (3, .int t1)] → W p l e R s m args below meth c s.heap [] 0 0 Q (F0 m 2 ls [])) (fun t1 x2 hit hC1 hE1 ls hl => ?_) _ hit _ (lv_sub hl [1, 2, 3, 0] rfl)
  unfold C1_isTold_L2 at hit
  refine lv_iload_n hx hb dX1_isTold_2 rfl (lv_at hl 3 rfl) ?_
  refine lv_aload_n hx hb dX1_isTold_3 rfl (lv_at hl 0 rfl) ?_
  obtain ⟨v3, ev3, hit⟩ := o_bind hit
  refine c_getR X hH kc_TwinInk 1 q277 (Or.inl rfl) rfl rfl ev3 dX1_isTold_4 ?_
  obtain ⟨v4, ev4, hit⟩ := o_bind hit
  refine c_getNR X hH kc_Office 0 q210 (Or.inl rfl) rfl rfl ev4 dX1_isTold_7 ?_
  obtain ⟨q5, eq5, hit⟩ := o_bind hit
  obtain ⟨iq5, eq5⟩ := vc_inv eq5
  refine c_cRF X hH hDU kc_ArrayList (wCJ2_size l γ X.2.1 _ _  _ eq5) iq5 nmi_List_size q423 q428 q139 q430 q426 q425 q424 q429 q427 q358 ⟨Nat.le_trans (Nat.le_of_ble_eq_true rfl) hR.1, Nat.le_trans (Nat.le_of_ble_eq_true rfl) hR.2⟩ ⟨Nat.zero_le _, Nat.zero_le _⟩ rfl rfl hl.1 (lv_room (Nat.le_of_ble_eq_true rfl)) dX1_isTold_10 ?_
  refine b_icmp_ge (tgt := 70) hx hb dX1_isTold_15 (by decide) hit (fun c6 hit => ?_) (fun c6 hit => ?_)
  · refine lv_iconst (v := 0) hx hb dX1_isTold_70 (by decide) ?_
    have he := o_in hit
    have he := hE1 _ he
    exact hend (.int 0) _ _ _ _ (kOut_i rfl) (congrArg Value.int he) dX1_isTold_71
  · refine lv_aload_n hx hb dX1_isTold_18 rfl (lv_at hl 0 rfl) ?_
    obtain ⟨v7, ev7, hit⟩ := o_bind hit
    refine c_getR X hH kc_TwinInk 1 q277 (Or.inl rfl) rfl rfl ev7 dX1_isTold_19 ?_
    obtain ⟨v8, ev8, hit⟩ := o_bind hit
    refine c_getNR X hH kc_Office 0 q210 (Or.inl rfl) rfl rfl ev8 dX1_isTold_22 ?_
    refine lv_iload_n hx hb dX1_isTold_25 rfl (lv_at hl 3 rfl) ?_
    obtain ⟨q9, eq9, hit⟩ := o_bind hit
    obtain ⟨iq9, eq9⟩ := vc_inv eq9
    refine c_cRF X hH hDU kc_ArrayList (wCJ2_get l γ X.2.1 _ _ _ _ eq9) iq9 nmi_List_get q643 q483 q139 q485 q481 q480 q479 q484 q482 q358 ⟨Nat.le_trans (Nat.le_of_ble_eq_true rfl) hR.1, Nat.le_trans (Nat.le_of_ble_eq_true rfl) hR.2⟩ ⟨Nat.zero_le _, Nat.zero_le _⟩ rfl rfl hl.1 (lv_room (Nat.le_of_ble_eq_true rfl)) dX1_isTold_26 ?_
    obtain ⟨u11, eu11, hit⟩ := o_bind hit
    refine c_castA X hH 0 (fun _ => rfl) q644 (fun h => h) eu11 dX1_isTold_31 ?_
    refine lv_iconst (v := 0) hx hb dX1_isTold_34 (by decide) ?_
    obtain ⟨v12, ev12, hit⟩ := o_bind hit
    refine c_iald X hH ev12 dX1_isTold_35 ?_
    refine lv_iload_n hx hb dX1_isTold_36 rfl (lv_at hl 1 rfl) ?_
    refine b_icmp_ne (tgt := 64) hx hb dX1_isTold_37 (by decide) hit (fun c13 hit => ?_) (fun c13 hit => ?_)
    · refine lv_iinc (k := 3) (v := (t1 + 1)) (lv' := [(3, .int (t1 + 1)), (0, .ref o), (1, .int a0), (2, .int a1)]) hx hb dX1_isTold_64 hl rfl rfl (by decide) rfl (fun ls hl => ?_)
      refine lv_goto (tgt := 2) hx hb dX1_isTold_67 (by decide) ?_
      have he := o_in hit
      exact hC1 _ he _ (lv_sub hl [1, 2, 3, 0] rfl)
    · refine lv_aload_n hx hb dX1_isTold_40 rfl (lv_at hl 0 rfl) ?_
      obtain ⟨v14, ev14, hit⟩ := o_bind hit
      refine c_getR X hH kc_TwinInk 1 q277 (Or.inl rfl) rfl rfl ev14 dX1_isTold_41 ?_
      obtain ⟨v15, ev15, hit⟩ := o_bind hit
      refine c_getNR X hH kc_Office 0 q210 (Or.inl rfl) rfl rfl ev15 dX1_isTold_44 ?_
      refine lv_iload_n hx hb dX1_isTold_47 rfl (lv_at hl 3 rfl) ?_
      obtain ⟨q16, eq16, hit⟩ := o_bind hit
      obtain ⟨iq16, eq16⟩ := vc_inv eq16
      refine c_cRF X hH hDU kc_ArrayList (wCJ2_get l γ X.2.1 _ _ _ _ eq16) iq16 nmi_List_get q643 q483 q139 q485 q481 q480 q479 q484 q482 q358 ⟨Nat.le_trans (Nat.le_of_ble_eq_true rfl) hR.1, Nat.le_trans (Nat.le_of_ble_eq_true rfl) hR.2⟩ ⟨Nat.zero_le _, Nat.zero_le _⟩ rfl rfl hl.1 (lv_room (Nat.le_of_ble_eq_true rfl)) dX1_isTold_48 ?_
      obtain ⟨u18, eu18, hit⟩ := o_bind hit
      refine c_castA X hH 0 (fun _ => rfl) q644 (fun h => h) eu18 dX1_isTold_53 ?_
      refine lv_iconst (v := 1) hx hb dX1_isTold_56 (by decide) ?_
      obtain ⟨v19, ev19, hit⟩ := o_bind hit
      refine c_iald X hH ev19 dX1_isTold_57 ?_
      refine lv_iload_n hx hb dX1_isTold_58 rfl (lv_at hl 2 rfl) ?_
      refine b_icmp_ne (tgt := 64) hx hb dX1_isTold_59 (by decide) hit (fun c20 hit => ?_) (fun c20 hit => ?_)
      · refine lv_iinc (k := 3) (v := (t1 + 1)) (lv' := [(3, .int (t1 + 1)), (0, .ref o), (1, .int a0), (2, .int a1)]) hx hb dX1_isTold_64 hl rfl rfl (by decide) rfl (fun ls hl => ?_)
        refine lv_goto (tgt := 2) hx hb dX1_isTold_67 (by decide) ?_
        have he := o_in hit
        exact hC1 _ he _ (lv_sub hl [1, 2, 3, 0] rfl)
      · refine lv_iconst (v := 1) hx hb dX1_isTold_62 (by decide) ?_
        have he := o_in hit
        have he := hE1 _ he
        exact hend (.int 1) _ _ _ _ (kOut_i rfl) (congrArg Value.int he) dX1_isTold_63
noncomputable def C1_strangers_L17 (h : CH) (o : Nat) (t1 : Int32 × Int32) (t6 : Int32 × Int32) : Option ((Int32 × Int32) ⊕ Int32) :=
  if t6.2 < t1.2 then
    ((gR h o 1 2).bind fun v10 =>
    (vc h v10 3 (C3_fits h v10 t1.2 t6.2)).bind fun q11 =>
    ((if q11 = 0 then
        ((gR h o 1 2).bind fun v20 =>
        (vc h v20 3 (C3_fits h v20 t6.2 t1.2)).bind fun q21 =>
        if q21 = 0 then
          (some 0)
        else
          (some 1))
      else
        (some 1) : Option Int32)).bind fun r12 =>
    ((if r12 = 0 then
        (some t6.1)
      else
        ((vc h o 1 (C1_isTold h o t1.2 t6.2)).bind fun q15 =>
        if q15 = 0 then
          ((vc h o 1 (C1_isTold h o t6.2 t1.2)).bind fun q17 =>
          if q17 = 0 then
            (some (t6.1 + 1))
          else
            (some t6.1))
        else
          (some t6.1)) : Option Int32)).bind fun r13 =>
    some (.inl (r13, (t6.2 + 1))))
  else
    (some (.inr t6.1))
noncomputable def C1_strangers_L4 (h : CH) (o : Nat) (t1 : Int32 × Int32) : Option ((Int32 × Int32) ⊕ Int32) :=
  (gR h o 1 1).bind fun v3 =>
  (gI h v3 2 2).bind fun v4 =>
  if t1.2 < v4 then
    ((o_loop (C1_strangers_L17 h o t1) (t1.1, 0)).bind fun r8 =>
    some (.inl (r8, (t1.2 + 1))))
  else
    (some (.inr t1.1))
noncomputable def C1_strangers (h : CH) (o : Nat) : Option (Int32) :=
  o_loop (C1_strangers_L4 h o) (0, 0)
theorem nm_X1_strangers : kNm yX1_strangers RX1 0 := by unfold kNm; decide +kernel
set_option maxHeartbeats 4000000 in
set_option maxRecDepth 100000 in
theorem wC1_strangers (l : Launch) (γ : KG) (hO : kOK γ) (h : CH) (o : Nat) (z : Int32) (hz : C1_strangers h o = some z) : Met l yX1_strangers (ws_ yX1_strangers cX1_strangers 5 (some .int)) (kRm 4 87) (cPc γ h [.ref o]) (cRq (.int z)) 0 0 vp_nf := by
  refine c_startR (cc := cX1_strangers) (own := RX1) hO rfl rfl rfl (fun p e R s m args below meth c Q ls X hR hH hDU hl hend => ?_)
  have hx := X.1.1
  have hb := X.1.2.1
  have hit := hz
  clear hz
  unfold C1_strangers at hit
  have hl : lv_has ls 5 [(0, .ref o)] := hl
  refine lv_iconst (v := 0) hx hb dX1_strangers_0 (by decide) ?_
  refine lv_istore_n (lv' := [(1, .int 0), (0, .ref o)]) hx hb dX1_strangers_1 rfl hl (by decide) rfl (fun ls hl => ?_)
  refine lv_iconst (v := 0) hx hb dX1_strangers_2 (by decide) ?_
  refine lv_istore_n (lv' := [(2, .int 0), (1, .int 0), (0, .ref o)]) hx hb dX1_strangers_3 rfl hl (by decide) rfl (fun ls hl => ?_)
  refine o_rec (P := fun t1 => ∀ (ls : Array Slot), lv_has ls 5 [(0, .ref o), (1, .int t1.1), (2, .int t1.2)] → W p l e R s m args below meth c s.heap [] 0 0 Q (F0 m 4 ls [])) (fun t1 x2 hit hC1 hE1 ls hl => ?_) _ hit _ (lv_sub hl [2, 1, 0] rfl)
  unfold C1_strangers_L4 at hit
  refine lv_iload_n hx hb dX1_strangers_4 rfl (lv_at hl 2 rfl) ?_
  refine lv_aload_n hx hb dX1_strangers_5 rfl (lv_at hl 0 rfl) ?_
  obtain ⟨v3, ev3, hit⟩ := o_bind hit
  refine c_getR X hH kc_TwinInk 1 q277 (Or.inl rfl) rfl rfl ev3 dX1_strangers_6 ?_
  obtain ⟨v4, ev4, hit⟩ := o_bind hit
  refine c_getNI X hH kc_Office 2 q216 (Or.inl rfl) rfl rfl ev4 dX1_strangers_9 ?_
  refine b_icmp_ge (tgt := 91) hx hb dX1_strangers_12 (by decide) hit (fun c5 hit => ?_) (fun c5 hit => ?_)
  · refine lv_iload_n hx hb dX1_strangers_91 rfl (lv_at hl 1 rfl) ?_
    have he := o_in hit
    have he := hE1 _ he
    exact hend (.int t1.1) _ _ _ _ (kOut_i rfl) (congrArg Value.int he) dX1_strangers_92
  · refine lv_iconst (v := 0) hx hb dX1_strangers_15 (by decide) ?_
    refine lv_istore_n (lv' := [(3, .int 0), (0, .ref o), (1, .int t1.1), (2, .int t1.2)]) hx hb dX1_strangers_16 rfl hl (by decide) rfl (fun ls hl => ?_)
    obtain ⟨r8, er8, hit⟩ := o_bind hit
    have hr8 : ∀ (ls : Array Slot), lv_has ls 5 [(0, .ref o), (2, .int t1.2), (1, .int r8)] → W p l e R s m args below meth c s.heap [] 0 0 Q (F0 m 85 ls []) := by
      intro ls hl
      refine lv_iinc (k := 1) (v := (t1.2 + 1)) (lv' := [(2, .int (t1.2 + 1)), (0, .ref o), (1, .int r8)]) hx hb dX1_strangers_85 hl rfl rfl (by decide) rfl (fun ls hl => ?_)
      refine lv_goto (tgt := 4) hx hb dX1_strangers_88 (by decide) ?_
      have he := o_in hit
      exact hC1 _ he _ (lv_sub hl [1, 2, 0] rfl)
    refine o_rec (P := fun t6 => ∀ (ls : Array Slot), lv_has ls 5 [(0, .ref o), (2, .int t1.2), (1, .int t6.1), (3, .int t6.2)] → W p l e R s m args below meth c s.heap [] 0 0 Q (F0 m 17 ls [])) (fun t6 x7 hit hC6 hE6 ls hl => ?_) _ er8 _ (lv_sub hl [1, 3, 2, 0] rfl)
    unfold C1_strangers_L17 at hit
    refine lv_iload_n hx hb dX1_strangers_17 rfl (lv_at hl 3 rfl) ?_
    refine lv_iload_n hx hb dX1_strangers_18 rfl (lv_at hl 1 rfl) ?_
    refine b_icmp_ge (tgt := 85) hx hb dX1_strangers_19 (by decide) hit (fun c9 hit => ?_) (fun c9 hit => ?_)
    · have he := o_in hit
      have he := hE6 _ he
      subst he
      exact hr8 _ (lv_sub hl [0, 1, 2] rfl)
    · refine lv_aload_n hx hb dX1_strangers_22 rfl (lv_at hl 0 rfl) ?_
      obtain ⟨v10, ev10, hit⟩ := o_bind hit
      refine c_getR X hH kc_TwinInk 2 q278 (Or.inl rfl) rfl rfl ev10 dX1_strangers_23 ?_
      refine lv_iload_n hx hb dX1_strangers_26 rfl (lv_at hl 1 rfl) ?_
      refine lv_iload_n hx hb dX1_strangers_27 rfl (lv_at hl 3 rfl) ?_
      obtain ⟨q11, eq11, hit⟩ := o_bind hit
      obtain ⟨iq11, eq11⟩ := vc_inv eq11
      refine c_cR X hH hDU kc_Service (wC3_fits l γ X.2.1 _ _ _ _ _ eq11) iq11 nm_X3_fits q645 q602 q140 q604 q603 ⟨Nat.le_trans (Nat.le_of_ble_eq_true rfl) hR.1, Nat.le_trans (Nat.le_of_ble_eq_true rfl) hR.2⟩ ⟨Nat.zero_le _, Nat.zero_le _⟩ rfl rfl hl.1 (lv_room (Nat.le_of_ble_eq_true rfl)) dX1_strangers_28 ?_
      obtain ⟨r12, er12, hit⟩ := o_bind hit
      have hr12 : ∀ (ls : Array Slot), lv_has ls 5 [(0, .ref o), (2, .int t1.2), (1, .int t6.1), (3, .int t6.2)] → W p l e R s m args below meth c s.heap [] 0 0 Q (F0 m 51 ls [.int r12]) := by
        intro ls hl
        refine lv_istore (lv' := [(4, .int r12), (0, .ref o), (2, .int t1.2), (1, .int t6.1), (3, .int t6.2)]) hx hb dX1_strangers_51 hl (by decide) rfl (fun ls hl => ?_)
        refine lv_iload hx hb dX1_strangers_53 (lv_at hl 0 rfl) ?_
        obtain ⟨r13, er13, hit⟩ := o_bind hit
        have hr13 : ∀ (ls : Array Slot), lv_has ls 5 [(0, .ref o), (2, .int t1.2), (3, .int t6.2), (1, .int r13)] → W p l e R s m args below meth c s.heap [] 0 0 Q (F0 m 79 ls []) := by
          intro ls hl
          refine lv_iinc (k := 2) (v := (t6.2 + 1)) (lv' := [(3, .int (t6.2 + 1)), (0, .ref o), (2, .int t1.2), (1, .int r13)]) hx hb dX1_strangers_79 hl rfl rfl (by decide) rfl (fun ls hl => ?_)
          refine lv_goto (tgt := 17) hx hb dX1_strangers_82 (by decide) ?_
          have he := o_in hit
          exact hC6 _ he _ (lv_sub hl [1, 2, 3, 0] rfl)
        have hit := er13
        refine b_if_eq (tgt := 79) hx hb dX1_strangers_55 (by decide) hit (fun c14 hit => ?_) (fun c14 hit => ?_)
        · have he := o_in hit
          subst he
          exact hr13 _ (lv_sub hl [1, 2, 4, 3] rfl)
        · refine lv_aload_n hx hb dX1_strangers_58 rfl (lv_at hl 1 rfl) ?_
          refine lv_iload_n hx hb dX1_strangers_59 rfl (lv_at hl 2 rfl) ?_
          refine lv_iload_n hx hb dX1_strangers_60 rfl (lv_at hl 4 rfl) ?_
          obtain ⟨q15, eq15, hit⟩ := o_bind hit
          obtain ⟨iq15, eq15⟩ := vc_inv eq15
          refine c_cR X hH hDU kc_TwinInk (wC1_isTold l γ X.2.1 _ _ _ _ _ eq15) iq15 nm_X1_isTold q1602 q1604 q135 q1605 qs55 ⟨Nat.le_trans (Nat.le_of_ble_eq_true rfl) hR.1, Nat.le_trans (Nat.le_of_ble_eq_true rfl) hR.2⟩ ⟨Nat.zero_le _, Nat.zero_le _⟩ rfl rfl hl.1 (lv_room (Nat.le_of_ble_eq_true rfl)) dX1_strangers_61 ?_
          refine b_if_ne (tgt := 79) hx hb dX1_strangers_64 (by decide) hit (fun c16 hit => ?_) (fun c16 hit => ?_)
          · have he := o_in hit
            subst he
            exact hr13 _ (lv_sub hl [1, 2, 4, 3] rfl)
          · refine lv_aload_n hx hb dX1_strangers_67 rfl (lv_at hl 1 rfl) ?_
            refine lv_iload_n hx hb dX1_strangers_68 rfl (lv_at hl 4 rfl) ?_
            refine lv_iload_n hx hb dX1_strangers_69 rfl (lv_at hl 2 rfl) ?_
            obtain ⟨q17, eq17, hit⟩ := o_bind hit
            obtain ⟨iq17, eq17⟩ := vc_inv eq17
            refine c_cR X hH hDU kc_TwinInk (wC1_isTold l γ X.2.1 _ _ _ _ _ eq17) iq17 nm_X1_isTold q1602 q1604 q135 q1605 qs55 ⟨Nat.le_trans (Nat.le_of_ble_eq_true rfl) hR.1, Nat.le_trans (Nat.le_of_ble_eq_true rfl) hR.2⟩ ⟨Nat.zero_le _, Nat.zero_le _⟩ rfl rfl hl.1 (lv_room (Nat.le_of_ble_eq_true rfl)) dX1_strangers_70 ?_
            refine b_if_ne (tgt := 79) hx hb dX1_strangers_73 (by decide) hit (fun c18 hit => ?_) (fun c18 hit => ?_)
            · have he := o_in hit
              subst he
              exact hr13 _ (lv_sub hl [1, 2, 4, 3] rfl)
            · refine lv_iinc (k := 3) (v := (t6.1 + 1)) (lv' := [(1, .int (t6.1 + 1)), (4, .int r12), (0, .ref o), (2, .int t1.2), (3, .int t6.2)]) hx hb dX1_strangers_76 hl rfl rfl (by decide) rfl (fun ls hl => ?_)
              have he := o_in hit
              subst he
              exact hr13 _ (lv_sub hl [2, 3, 4, 0] rfl)
      have hit := er12
      refine b_if_ne (tgt := 46) hx hb dX1_strangers_31 (by decide) hit (fun c19 hit => ?_) (fun c19 hit => ?_)
      · refine lv_iconst (v := 1) hx hb dX1_strangers_46 (by decide) ?_
        refine lv_goto (tgt := 51) hx hb dX1_strangers_47 (by decide) ?_
        have he := o_in hit
        subst he
        exact hr12 _ hl
      · refine lv_aload_n hx hb dX1_strangers_34 rfl (lv_at hl 0 rfl) ?_
        obtain ⟨v20, ev20, hit⟩ := o_bind hit
        refine c_getR X hH kc_TwinInk 2 q278 (Or.inl rfl) rfl rfl ev20 dX1_strangers_35 ?_
        refine lv_iload_n hx hb dX1_strangers_38 rfl (lv_at hl 3 rfl) ?_
        refine lv_iload_n hx hb dX1_strangers_39 rfl (lv_at hl 1 rfl) ?_
        obtain ⟨q21, eq21, hit⟩ := o_bind hit
        obtain ⟨iq21, eq21⟩ := vc_inv eq21
        refine c_cR X hH hDU kc_Service (wC3_fits l γ X.2.1 _ _ _ _ _ eq21) iq21 nm_X3_fits q645 q602 q140 q604 q603 ⟨Nat.le_trans (Nat.le_of_ble_eq_true rfl) hR.1, Nat.le_trans (Nat.le_of_ble_eq_true rfl) hR.2⟩ ⟨Nat.zero_le _, Nat.zero_le _⟩ rfl rfl hl.1 (lv_room (Nat.le_of_ble_eq_true rfl)) dX1_strangers_40 ?_
        refine b_if_eq (tgt := 50) hx hb dX1_strangers_43 (by decide) hit (fun c22 hit => ?_) (fun c22 hit => ?_)
        · refine lv_iconst (v := 0) hx hb dX1_strangers_50 (by decide) ?_
          have he := o_in hit
          subst he
          exact hr12 _ hl
        · refine lv_iconst (v := 1) hx hb dX1_strangers_46 (by decide) ?_
          refine lv_goto (tgt := 51) hx hb dX1_strangers_47 (by decide) ?_
          have he := o_in hit
          subst he
          exact hr12 _ hl
noncomputable def C1_allKnown_L4 (h : CH) (o : Nat) (t1 : Int32 × Int32) : Option ((Int32 × Int32) ⊕ Int32) :=
  (gR h o 1 1).bind fun v3 =>
  (vc h v3 2 (C2_clerks h v3)).bind fun q4 =>
  if t1.2 < q4 then
    ((gR h o 1 3).bind fun v6 =>
    (gR h v6 3 3).bind fun v7 =>
    (aI h v7 0 t1.2).bind fun v8 =>
    (CJ19_bitCount v8).bind fun q9 =>
    some (.inl ((t1.1 + q9), (t1.2 + 1))))
  else
    (some (.inr t1.1))
noncomputable def C1_allKnown (h : CH) (o : Nat) : Option (Int32) :=
  o_loop (C1_allKnown_L4 h o) (0, 0)
theorem nm_X1_allKnown : kNm yX1_allKnown RX1 0 := by unfold kNm; decide +kernel
set_option maxHeartbeats 4000000 in
set_option maxRecDepth 100000 in
theorem wC1_allKnown (l : Launch) (γ : KG) (hO : kOK γ) (h : CH) (o : Nat) (z : Int32) (hz : C1_allKnown h o = some z) : Met l yX1_allKnown (ws_ yX1_allKnown cX1_allKnown 3 (some .int)) (kRm 2 40) (cPc γ h [.ref o]) (cRq (.int z)) 0 0 vp_nf := by
  refine c_startR (cc := cX1_allKnown) (own := RX1) hO rfl rfl rfl (fun p e R s m args below meth c Q ls X hR hH hDU hl hend => ?_)
  have hx := X.1.1
  have hb := X.1.2.1
  have hit := hz
  clear hz
  unfold C1_allKnown at hit
  have hl : lv_has ls 3 [(0, .ref o)] := hl
  refine lv_iconst (v := 0) hx hb dX1_allKnown_0 (by decide) ?_
  refine lv_istore_n (lv' := [(1, .int 0), (0, .ref o)]) hx hb dX1_allKnown_1 rfl hl (by decide) rfl (fun ls hl => ?_)
  refine lv_iconst (v := 0) hx hb dX1_allKnown_2 (by decide) ?_
  refine lv_istore_n (lv' := [(2, .int 0), (1, .int 0), (0, .ref o)]) hx hb dX1_allKnown_3 rfl hl (by decide) rfl (fun ls hl => ?_)
  refine o_rec (P := fun t1 => ∀ (ls : Array Slot), lv_has ls 3 [(0, .ref o), (1, .int t1.1), (2, .int t1.2)] → W p l e R s m args below meth c s.heap [] 0 0 Q (F0 m 4 ls [])) (fun t1 x2 hit hC1 hE1 ls hl => ?_) _ hit _ (lv_sub hl [2, 1, 0] rfl)
  unfold C1_allKnown_L4 at hit
  refine lv_iload_n hx hb dX1_allKnown_4 rfl (lv_at hl 2 rfl) ?_
  refine lv_aload_n hx hb dX1_allKnown_5 rfl (lv_at hl 0 rfl) ?_
  obtain ⟨v3, ev3, hit⟩ := o_bind hit
  refine c_getR X hH kc_TwinInk 1 q277 (Or.inl rfl) rfl rfl ev3 dX1_allKnown_6 ?_
  obtain ⟨q4, eq4, hit⟩ := o_bind hit
  obtain ⟨iq4, eq4⟩ := vc_inv eq4
  refine c_cR X hH hDU kc_Office (wC2_clerks l γ X.2.1 _ _  _ eq4) iq4 nm_X2_clerks q1231 q464 q136 q466 q465 ⟨Nat.le_trans (Nat.le_of_ble_eq_true rfl) hR.1, Nat.le_trans (Nat.le_of_ble_eq_true rfl) hR.2⟩ ⟨Nat.zero_le _, Nat.zero_le _⟩ rfl rfl hl.1 (lv_room (Nat.le_of_ble_eq_true rfl)) dX1_allKnown_9 ?_
  refine b_icmp_ge (tgt := 36) hx hb dX1_allKnown_12 (by decide) hit (fun c5 hit => ?_) (fun c5 hit => ?_)
  · refine lv_iload_n hx hb dX1_allKnown_36 rfl (lv_at hl 1 rfl) ?_
    have he := o_in hit
    have he := hE1 _ he
    exact hend (.int t1.1) _ _ _ _ (kOut_i rfl) (congrArg Value.int he) dX1_allKnown_37
  · refine lv_iload_n hx hb dX1_allKnown_15 rfl (lv_at hl 1 rfl) ?_
    refine lv_aload_n hx hb dX1_allKnown_16 rfl (lv_at hl 0 rfl) ?_
    obtain ⟨v6, ev6, hit⟩ := o_bind hit
    refine c_getR X hH kc_TwinInk 3 q279 (Or.inl rfl) rfl rfl ev6 dX1_allKnown_17 ?_
    obtain ⟨v7, ev7, hit⟩ := o_bind hit
    refine c_getNR X hH kc_Service 3 q255 (Or.inl rfl) rfl rfl ev7 dX1_allKnown_20 ?_
    refine lv_iload_n hx hb dX1_allKnown_23 rfl (lv_at hl 2 rfl) ?_
    obtain ⟨v8, ev8, hit⟩ := o_bind hit
    refine c_iald X hH ev8 dX1_allKnown_24 ?_
    obtain ⟨q9, eq9, hit⟩ := o_bind hit
    refine c_cP X.1 (wCJ19_bitCount l _ _ eq9) nm_J19_bitCount q1458 q509 q165 q510 ⟨Nat.le_trans (Nat.le_of_ble_eq_true rfl) hR.1, Nat.le_trans (Nat.le_of_ble_eq_true rfl) hR.2⟩ ⟨Nat.zero_le _, Nat.zero_le _⟩ rfl rfl hl.1 (lv_room (Nat.le_of_ble_eq_true rfl)) dX1_allKnown_25 ?_
    refine lv_iadd hx hb dX1_allKnown_28 ?_
    refine lv_istore_n (lv' := [(1, .int (t1.1 + q9)), (0, .ref o), (2, .int t1.2)]) hx hb dX1_allKnown_29 rfl hl (by decide) rfl (fun ls hl => ?_)
    refine lv_iinc (k := 2) (v := (t1.2 + 1)) (lv' := [(2, .int (t1.2 + 1)), (1, .int (t1.1 + q9)), (0, .ref o)]) hx hb dX1_allKnown_30 hl rfl rfl (by decide) rfl (fun ls hl => ?_)
    refine lv_goto (tgt := 4) hx hb dX1_allKnown_33 (by decide) ?_
    have he := o_in hit
    exact hC1 _ he _ (lv_sub hl [2, 1, 0] rfl)
noncomputable def CJ2_toArray (K : Nat → Nat) (h : CH) (r : CR) (o : Nat) : Option (Nat × CS) :=
  (gR h o 10 1).bind fun v1 =>
  (gI h o 10 2).bind fun v2 =>
  (achk r (CJ16_copyOf K h r v1 v2)).bind fun q3 =>
  some (q3.1, q3.2)
theorem nm_J2_toArray : kNm yJ2_toArray RJ2 0 := by unfold kNm; decide +kernel
set_option maxHeartbeats 4000000 in
set_option maxRecDepth 100000 in
theorem wCJ2_toArray (l : Launch) (γ : KG) (hO : kOK γ) (h : CH) (r : CR) (o : Nat) (z : Nat × CS) (hz : CJ2_toArray γ.2.2.2.2.2 h r o = some z) : aMet l yJ2_toArray (ws_ yJ2_toArray cJ2_toArray 1 (some (.array (.object "java/lang/Object")))) 3 84 γ (h, r) [.ref o] (some (.ref z.1)) z.2 := by
  refine a_start (cc := cJ2_toArray) (own := RJ2) hO rfl rfl rfl (fun p e R s m args below meth c Q ls X hR hnm h0H hA hl hend => ?_)
  have hx := X.1.1
  have hb := X.1.2.1
  have hit := hz
  clear hz
  unfold CJ2_toArray at hit
  have hl : lv_has ls 1 [(0, .ref o)] := hl
  refine lv_aload_n hx hb dJ2_toArray_0 rfl (lv_at hl 0 rfl) ?_
  obtain ⟨v1, ev1, hit⟩ := o_bind hit
  refine c_getR X hA.1.1 kc_ArrayList 1 q196 (Or.inl rfl) rfl rfl ev1 dJ2_toArray_1 ?_
  refine lv_aload_n hx hb dJ2_toArray_4 rfl (lv_at hl 0 rfl) ?_
  obtain ⟨v2, ev2, hit⟩ := o_bind hit
  refine c_getI X hA.1.1 kc_ArrayList 2 q197 (Or.inl rfl) rfl rfl ev2 dJ2_toArray_5 ?_
  obtain ⟨q3, eq3, hit⟩ := o_bind hit
  obtain ⟨eq3, lq3⟩ := achk_inv eq3
  refine a_cS X h0H hA nm_J16_copyOf q386 q387 q160 q388 (wCJ16_copyOf l γ X.2.1 _ _ _ _ _ eq3) lq3 ⟨Nat.le_trans (Nat.le_of_ble_eq_true rfl) hR.1, Nat.le_trans (Nat.le_of_ble_eq_true rfl) hR.2⟩ rfl rfl hl.1 (lv_room (Nat.le_of_ble_eq_true rfl)) dJ2_toArray_8 (fun H locs cells slots hA => ?_)
  have he := o_in hit
  exact hend (some (.ref q3.1)) q3.2 _ _ _ _ _ _ _ _ (kOut_a) (by subst he; rfl) hA dJ2_toArray_11
noncomputable def CJ2_init_2 (K : Nat → Nat) (h : CH) (r : CR) (o : Nat) (a0 : Nat) : Option (CS) :=
  (CJ1_init h o).bind fun q1 =>
  (vc q1 a0 10 (achk r (CJ2_toArray K q1 r a0))).bind fun q2 =>
  (aNk K q2.2.1 q2.1).bind fun v3 =>
  (pI q2.2.1 o 10 2 v3).bind fun s4 =>
  if v3 = 0 then
    ((pQ s4 o 10 1 (some (K 1))).bind fun s6 =>
    some (s6, q2.2.2))
  else
    ((vc s4 a0 10 (some ())).bind fun u7 =>
    if (some (K 3)) = (some (K 3)) then
      ((pQ s4 o 10 1 (some q2.1)).bind fun s12 =>
      some (s12, q2.2.2))
    else
      ((gI s4 o 10 2).bind fun v9 =>
      (achk q2.2.2 (CJ16_copyOf_2 K s4 q2.2.2 q2.1 v9 (K 2))).bind fun q10 =>
      (pQ q10.2.1 o 10 1 (some q10.1)).bind fun s11 =>
      some (s11, q10.2.2)))
theorem nm_J2_init_2 : kNm yJ2_init_2 RJ2 1 := by unfold kNm; decide +kernel
set_option maxHeartbeats 4000000 in
set_option maxRecDepth 100000 in
theorem wCJ2_init_2 (l : Launch) (γ : KG) (hO : kOK γ) (h : CH) (r : CR) (o : Nat) (a0 : Nat) (z : CS) (hz : CJ2_init_2 γ.2.2.2.2.2 h r o a0 = some z) : aMet l yJ2_init_2 (ws_ yJ2_init_2 cJ2_init_2 3 none) 4 104 γ (h, r) [.ref o, .ref a0] none z := by
  refine a_start (cc := cJ2_init_2) (own := RJ2) hO rfl rfl rfl (fun p e R s m args below meth c Q ls X hR hnm h0H hA hl hend => ?_)
  have hin2 : meth.name = "<init>" := hnm
  have hx := X.1.1
  have hb := X.1.2.1
  have hit := hz
  clear hz
  unfold CJ2_init_2 at hit
  have hl : lv_has ls 3 [(0, .ref o), (1, .ref a0)] := hl
  refine lv_aload_n hx hb dJ2_init_2_0 rfl (lv_at hl 0 rfl) ?_
  obtain ⟨q1, eq1, hit⟩ := o_bind hit
  refine c_cNI X (kA_F X.2.1 X.2.2 h0H) hA.1 nm_J1_init q187 q188 q138 q189 rfl (wCJ1_init l γ X.2.1 _ _  _ eq1) hA.RR ⟨Nat.le_trans (Nat.le_of_ble_eq_true rfl) hR.1, Nat.le_trans (Nat.le_of_ble_eq_true rfl) hR.2⟩ rfl rfl hl.1 (lv_room (Nat.le_of_ble_eq_true rfl)) dJ2_init_2_1 (fun H locs hI => ?_)
  replace hA := hA.up hI
  clear hI
  refine lv_aload_n hx hb dJ2_init_2_4 rfl (lv_at hl 1 rfl) ?_
  obtain ⟨q2, eq2, hit⟩ := o_bind hit
  obtain ⟨iq2, eq2⟩ := vc_inv eq2
  obtain ⟨eq2, lq2⟩ := achk_inv eq2
  refine a_cF X h0H hA kc_ArrayList iq2 nmi_Collection_toArray q658 q664 q139 q666 q662 q660 q659 q665 q663 q661 (wCJ2_toArray l γ X.2.1 _ _ _  _ eq2) lq2 ⟨Nat.le_trans (Nat.le_of_ble_eq_true rfl) hR.1, Nat.le_trans (Nat.le_of_ble_eq_true rfl) hR.2⟩ rfl rfl hl.1 (lv_room (Nat.le_of_ble_eq_true rfl)) dJ2_init_2_5 (fun H locs cells slots hA => ?_)
  refine lv_astore_n (lv' := [(2, .ref q2.1), (0, .ref o), (1, .ref a0)]) hx hb dJ2_init_2_10 rfl hl (by decide) rfl (fun ls hl => ?_)
  refine lv_aload_n hx hb dJ2_init_2_11 rfl (lv_at hl 1 rfl) ?_
  refine lv_aload_n hx hb dJ2_init_2_12 rfl (lv_at hl 0 rfl) ?_
  obtain ⟨v3, ev3, hit⟩ := o_bind hit
  refine c_alenK X (kA_F X.2.1 X.2.2 h0H) hA.1.2.1 hA.1.1 ev3 dJ2_init_2_13 ?_
  refine lv_dup_x1 hx hb dJ2_init_2_14 rfl rfl ?_
  obtain ⟨s4, es4, hit⟩ := o_bind hit
  refine c_putI X hA.1 kc_ArrayList 2 q197 (Or.inl rfl) rfl rfl (tyv := .int) rfl rfl rfl es4 dJ2_init_2_15 (fun H locs hI => ?_)
  replace hA := hA.up hI
  clear hI
  refine b_if_eq (tgt := 57) hx hb dJ2_init_2_18 (by decide) hit (fun c5 hit => ?_) (fun c5 hit => ?_)
  · refine lv_aload_n hx hb dJ2_init_2_57 rfl (lv_at hl 1 rfl) ?_
    refine c_gets X (kA_F X.2.1 X.2.2 h0H) hA.1.2.1 X.2.1.1.2.2.2.1 q676 dJ2_init_2_58 ?_
    obtain ⟨s6, es6, hit⟩ := o_bind hit
    refine c_putQ X hA.1 kc_ArrayList 1 q196 (Or.inl rfl) rfl rfl (v := (some (γ.2.2.2.2.2 1))) (tyv := (.array (.object "java/lang/Object"))) rfl (Or.inr ⟨_, rfl⟩) es6 dJ2_init_2_61 (fun H locs hI => ?_)
    replace hA := hA.up hI
    clear hI
    have he := o_in hit
    exact hend none (s6, q2.2.2) _ _ _ _ _ _ _ _ kOut_v (by subst he; rfl) hA dJ2_init_2_64
  · refine lv_aload_n hx hb dJ2_init_2_21 rfl (lv_at hl 2 rfl) ?_
    obtain ⟨u7, eu7, hit⟩ := o_bind hit
    obtain ⟨iu7, -⟩ := vc_inv eu7
    refine c_getCL X hA.1.1 hl.1 iu7 q668 ⟨Nat.le_trans (Nat.le_of_ble_eq_true rfl) hR.1, Nat.le_trans (Nat.le_of_ble_eq_true rfl) hR.2⟩ (Nat.le_of_ble_eq_true rfl) dJ2_init_2_22 ?_
    refine c_ldcM X X.2.1.1.2.2.2.2.2.2.2.1 q673 dJ2_init_2_27 ?_
    refine b_acmp_ne (rx := (some (γ.2.2.2.2.2 3))) (ry := (some (γ.2.2.2.2.2 3))) (tgt := 40) hx hb dJ2_init_2_29 (by decide) hit (fun c8 hit => ?_) (fun c8 hit => ?_)
    · refine lv_aload_n hx hb dJ2_init_2_40 rfl (lv_at hl 1 rfl) ?_
      refine lv_aload_n hx hb dJ2_init_2_41 rfl (lv_at hl 0 rfl) ?_
      refine lv_aload_n hx hb dJ2_init_2_42 rfl (lv_at hl 1 rfl) ?_
      obtain ⟨v9, ev9, hit⟩ := o_bind hit
      refine c_getI X hA.1.1 kc_ArrayList 2 q197 (Or.inl rfl) rfl rfl ev9 dJ2_init_2_43 ?_
      refine c_ldcM X X.2.1.1.2.2.2.2.2.2.1 q674 dJ2_init_2_46 ?_
      obtain ⟨q10, eq10, hit⟩ := o_bind hit
      obtain ⟨eq10, lq10⟩ := achk_inv eq10
      refine a_cS X h0H hA nm_J16_copyOf_2 q675 q409 q160 q410 (wCJ16_copyOf_2 l γ X.2.1 _ _ _ _ _ _ eq10) lq10 ⟨Nat.le_trans (Nat.le_of_ble_eq_true rfl) hR.1, Nat.le_trans (Nat.le_of_ble_eq_true rfl) hR.2⟩ rfl rfl hl.1 (lv_room (Nat.le_of_ble_eq_true rfl)) dJ2_init_2_48 (fun H locs cells slots hA => ?_)
      obtain ⟨s11, es11, hit⟩ := o_bind hit
      refine c_putQ X hA.1 kc_ArrayList 1 q196 (Or.inl rfl) rfl rfl (v := (some q10.1)) (tyv := (.array (.object "java/lang/Object"))) rfl (Or.inr ⟨_, rfl⟩) es11 dJ2_init_2_51 (fun H locs hI => ?_)
      replace hA := hA.up hI
      clear hI
      refine lv_goto (tgt := 64) hx hb dJ2_init_2_54 (by decide) ?_
      have he := o_in hit
      exact hend none (s11, q10.2.2) _ _ _ _ _ _ _ _ kOut_v (by subst he; rfl) hA dJ2_init_2_64
    · refine lv_aload_n hx hb dJ2_init_2_32 rfl (lv_at hl 1 rfl) ?_
      refine lv_aload_n hx hb dJ2_init_2_33 rfl (lv_at hl 0 rfl) ?_
      obtain ⟨s12, es12, hit⟩ := o_bind hit
      refine c_putQ X hA.1 kc_ArrayList 1 q196 (Or.inl rfl) rfl rfl (v := (some q2.1)) (tyv := (.array (.object "java/lang/Object"))) rfl (Or.inr ⟨_, rfl⟩) es12 dJ2_init_2_34 (fun H locs hI => ?_)
      replace hA := hA.up hI
      clear hI
      refine lv_goto (tgt := 64) hx hb dJ2_init_2_37 (by decide) ?_
      have he := o_in hit
      exact hend none (s12, q2.2.2) _ _ _ _ _ _ _ _ kOut_v (by subst he; rfl) hA dJ2_init_2_64
noncomputable def C1_image (K : Nat → Nat) (h : CH) (r : CR) (o : Nat) : Option (CS) :=
  (gR h o 1 2).bind fun v1 =>
  (vc h v1 3 (achk r (C3_copy h r v1))).bind fun q2 =>
  (pQ q2.2.1 o 1 10 (some q2.1)).bind fun s3 =>
  (aCell s3 q2.2.2 3 (.inr (10, [.int 0, .null, .int 0]))).bind fun s4 =>
  (gR s4.1 o 1 8).bind fun v5 =>
  (achv s4.2 (CJ2_init_2 K s4.1 s4.2 q2.2.2.1 v5)).bind fun q6 =>
  (pQ q6.1 o 1 11 (some q2.2.2.1)).bind fun s7 =>
  (aCell s7 q6.2 3 (.inr (10, [.int 0, .null, .int 0]))).bind fun s8 =>
  (gR s8.1 o 1 9).bind fun v9 =>
  (achv s8.2 (CJ2_init_2 K s8.1 s8.2 q6.2.1 v9)).bind fun q10 =>
  (pQ q10.1 o 1 12 (some q6.2.1)).bind fun s11 =>
  some (s11, q10.2)
theorem nm_X1_image : kNm yX1_image RX1 0 := by unfold kNm; decide +kernel
set_option maxHeartbeats 4000000 in
set_option maxRecDepth 100000 in
theorem wC1_image (l : Launch) (γ : KG) (hO : kOK γ) (h : CH) (r : CR) (o : Nat) (z : CS) (hz : C1_image γ.2.2.2.2.2 h r o = some z) : aMet l yX1_image (ws_ yX1_image cX1_image 1 none) 5 126 γ (h, r) [.ref o] none z := by
  refine a_start (cc := cX1_image) (own := RX1) hO rfl rfl rfl (fun p e R s m args below meth c Q ls X hR hnm h0H hA hl hend => ?_)
  have hx := X.1.1
  have hb := X.1.2.1
  have hit := hz
  clear hz
  unfold C1_image at hit
  have hl : lv_has ls 1 [(0, .ref o)] := hl
  refine lv_aload_n hx hb dX1_image_0 rfl (lv_at hl 0 rfl) ?_
  refine lv_aload_n hx hb dX1_image_1 rfl (lv_at hl 0 rfl) ?_
  obtain ⟨v1, ev1, hit⟩ := o_bind hit
  refine c_getR X hA.1.1 kc_TwinInk 2 q278 (Or.inl rfl) rfl rfl ev1 dX1_image_2 ?_
  obtain ⟨q2, eq2, hit⟩ := o_bind hit
  obtain ⟨iq2, eq2⟩ := vc_inv eq2
  obtain ⟨eq2, lq2⟩ := achk_inv eq2
  refine a_cV X h0H hA kc_Service (wC3_copy l γ X.2.1 _ _ _  _ eq2) lq2 iq2 nm_X3_copy q344 q345 q140 q347 q346 ⟨Nat.le_trans (Nat.le_of_ble_eq_true rfl) hR.1, Nat.le_trans (Nat.le_of_ble_eq_true rfl) hR.2⟩ rfl rfl hl.1 (lv_room (Nat.le_of_ble_eq_true rfl)) dX1_image_5 (fun H locs cells slots hA => ?_)
  obtain ⟨s3, es3, hit⟩ := o_bind hit
  refine c_putQ X hA.1 kc_TwinInk 10 q287 (Or.inl rfl) rfl rfl (v := (some q2.1)) (tyv := (.object "TwinInk$Service")) rfl (Or.inl ⟨_, rfl⟩) es3 dX1_image_8 (fun H locs hI => ?_)
  replace hA := hA.up hI
  clear hI
  refine lv_aload_n hx hb dX1_image_11 rfl (lv_at hl 0 rfl) ?_
  obtain ⟨s4, es4, hit⟩ := o_bind hit
  refine a_new X hA kc_ArrayList q272 q183 q139 (fs := [.int 0, .null, .int 0]) (by decide +kernel) es4 dX1_image_12 (fun H cells slots hA => ?_)
  refine lv_dup hx hb dX1_image_15 rfl ?_
  refine lv_aload_n hx hb dX1_image_16 rfl (lv_at hl 0 rfl) ?_
  obtain ⟨v5, ev5, hit⟩ := o_bind hit
  refine c_getR X hA.1.1 kc_TwinInk 8 q285 (Or.inl rfl) rfl rfl ev5 dX1_image_17 ?_
  obtain ⟨q6, eq6, hit⟩ := o_bind hit
  obtain ⟨eq6, lq6⟩ := achv_inv eq6
  refine a_cI X h0H hA nm_J2_init_2 q654 q655 q139 q656 rfl (wCJ2_init_2 l γ X.2.1 _ _ _ _ _ eq6) lq6 ⟨Nat.le_trans (Nat.le_of_ble_eq_true rfl) hR.1, Nat.le_trans (Nat.le_of_ble_eq_true rfl) hR.2⟩ rfl rfl hl.1 (lv_room (Nat.le_of_ble_eq_true rfl)) dX1_image_20 (fun H locs cells slots hA => ?_)
  obtain ⟨s7, es7, hit⟩ := o_bind hit
  refine c_putQ X hA.1 kc_TwinInk 11 q288 (Or.inl rfl) rfl rfl (v := (some q2.2.2.1)) (tyv := (.object "java/util/List")) rfl (Or.inl ⟨_, rfl⟩) es7 dX1_image_23 (fun H locs hI => ?_)
  replace hA := hA.up hI
  clear hI
  refine lv_aload_n hx hb dX1_image_26 rfl (lv_at hl 0 rfl) ?_
  obtain ⟨s8, es8, hit⟩ := o_bind hit
  refine a_new X hA kc_ArrayList q272 q183 q139 (fs := [.int 0, .null, .int 0]) (by decide +kernel) es8 dX1_image_27 (fun H cells slots hA => ?_)
  refine lv_dup hx hb dX1_image_30 rfl ?_
  refine lv_aload_n hx hb dX1_image_31 rfl (lv_at hl 0 rfl) ?_
  obtain ⟨v9, ev9, hit⟩ := o_bind hit
  refine c_getR X hA.1.1 kc_TwinInk 9 q286 (Or.inl rfl) rfl rfl ev9 dX1_image_32 ?_
  obtain ⟨q10, eq10, hit⟩ := o_bind hit
  obtain ⟨eq10, lq10⟩ := achv_inv eq10
  refine a_cI X h0H hA nm_J2_init_2 q654 q655 q139 q656 rfl (wCJ2_init_2 l γ X.2.1 _ _ _ _ _ eq10) lq10 ⟨Nat.le_trans (Nat.le_of_ble_eq_true rfl) hR.1, Nat.le_trans (Nat.le_of_ble_eq_true rfl) hR.2⟩ rfl rfl hl.1 (lv_room (Nat.le_of_ble_eq_true rfl)) dX1_image_35 (fun H locs cells slots hA => ?_)
  obtain ⟨s11, es11, hit⟩ := o_bind hit
  refine c_putQ X hA.1 kc_TwinInk 12 q289 (Or.inl rfl) rfl rfl (v := (some q6.2.1)) (tyv := (.object "java/util/List")) rfl (Or.inl ⟨_, rfl⟩) es11 dX1_image_38 (fun H locs hI => ?_)
  replace hA := hA.up hI
  clear hI
  have he := o_in hit
  exact hend none (s11, q10.2) _ _ _ _ _ _ _ _ kOut_v (by subst he; rfl) hA dX1_image_41
noncomputable def C1_restore (K : Nat → Nat) (h : CH) (r : CR) (o : Nat) : Option (Int32 × CS) :=
  (gQ h o 1 10).bind fun v1 =>
  Option.elim v1
    (some (0, (h, r)))
    (fun a3 =>
      (gQ h o 1 10).bind fun v4 =>
      v4.bind fun v5 =>
      (vc h v5 3 (achk r (C3_copy h r v5))).bind fun q6 =>
      (pQ q6.2.1 o 1 2 (some q6.1)).bind fun s7 =>
      (aCell s7 q6.2.2 3 (.inr (10, [.int 0, .null, .int 0]))).bind fun s8 =>
      (gQ s8.1 o 1 11).bind fun v9 =>
      v9.bind fun v10 =>
      (achv s8.2 (CJ2_init_2 K s8.1 s8.2 q6.2.2.1 v10)).bind fun q11 =>
      (pQ q11.1 o 1 8 (some q6.2.2.1)).bind fun s12 =>
      (aCell s12 q11.2 3 (.inr (10, [.int 0, .null, .int 0]))).bind fun s13 =>
      (gQ s13.1 o 1 12).bind fun v14 =>
      v14.bind fun v15 =>
      (achv s13.2 (CJ2_init_2 K s13.1 s13.2 q11.2.1 v15)).bind fun q16 =>
      (pQ q16.1 o 1 9 (some q11.2.1)).bind fun s17 =>
      some (1, (s17, q16.2)))
theorem nm_X1_restore : kNm yX1_restore RX1 0 := by unfold kNm; decide +kernel
set_option maxHeartbeats 4000000 in
set_option maxRecDepth 100000 in
theorem wC1_restore (l : Launch) (γ : KG) (hO : kOK γ) (h : CH) (r : CR) (o : Nat) (z : Int32 × CS) (hz : C1_restore γ.2.2.2.2.2 h r o = some z) : aMet l yX1_restore (ws_ yX1_restore cX1_restore 1 (some .boolean)) 5 126 γ (h, r) [.ref o] (some (.int z.1)) z.2 := by
  refine a_start (cc := cX1_restore) (own := RX1) hO rfl rfl rfl (fun p e R s m args below meth c Q ls X hR hnm h0H hA hl hend => ?_)
  have hx := X.1.1
  have hb := X.1.2.1
  have hit := hz
  clear hz
  unfold C1_restore at hit
  have hl : lv_has ls 1 [(0, .ref o)] := hl
  refine lv_aload_n hx hb dX1_restore_0 rfl (lv_at hl 0 rfl) ?_
  obtain ⟨v1, ev1, hit⟩ := o_bind hit
  refine c_getQ X hA.1.1 kc_TwinInk 10 q287 (Or.inl rfl) rfl rfl ev1 dX1_restore_1 ?_
  refine b_ifnonnull (tgt := 9) hx hb dX1_restore_4 (by decide) hit (fun hit => ?_) (fun a3 ea3 hit => ?_)
  · refine lv_iconst (v := 0) hx hb dX1_restore_7 (by decide) ?_
    have he := o_in hit
    exact hend (some (.int 0)) (h, r) _ _ _ _ _ _ _ _ (kOut_i rfl) (by subst he; rfl) hA dX1_restore_8
  · subst ea3
    refine lv_aload_n hx hb dX1_restore_9 rfl (lv_at hl 0 rfl) ?_
    refine lv_aload_n hx hb dX1_restore_10 rfl (lv_at hl 0 rfl) ?_
    obtain ⟨v4, ev4, hit⟩ := o_bind hit
    refine c_getQ X hA.1.1 kc_TwinInk 10 q287 (Or.inl rfl) rfl rfl ev4 dX1_restore_11 ?_
    obtain ⟨v5, ev5, hit⟩ := o_bind hit
    rw [ev5, va_rf_some]
    obtain ⟨q6, eq6, hit⟩ := o_bind hit
    obtain ⟨iq6, eq6⟩ := vc_inv eq6
    obtain ⟨eq6, lq6⟩ := achk_inv eq6
    refine a_cV X h0H hA kc_Service (wC3_copy l γ X.2.1 _ _ _  _ eq6) lq6 iq6 nm_X3_copy q344 q345 q140 q347 q346 ⟨Nat.le_trans (Nat.le_of_ble_eq_true rfl) hR.1, Nat.le_trans (Nat.le_of_ble_eq_true rfl) hR.2⟩ rfl rfl hl.1 (lv_room (Nat.le_of_ble_eq_true rfl)) dX1_restore_14 (fun H locs cells slots hA => ?_)
    obtain ⟨s7, es7, hit⟩ := o_bind hit
    refine c_putQ X hA.1 kc_TwinInk 2 q278 (Or.inl rfl) rfl rfl (v := (some q6.1)) (tyv := (.object "TwinInk$Service")) rfl (Or.inl ⟨_, rfl⟩) es7 dX1_restore_17 (fun H locs hI => ?_)
    replace hA := hA.up hI
    clear hI
    refine lv_aload_n hx hb dX1_restore_20 rfl (lv_at hl 0 rfl) ?_
    obtain ⟨s8, es8, hit⟩ := o_bind hit
    refine a_new X hA kc_ArrayList q272 q183 q139 (fs := [.int 0, .null, .int 0]) (by decide +kernel) es8 dX1_restore_21 (fun H cells slots hA => ?_)
    refine lv_dup hx hb dX1_restore_24 rfl ?_
    refine lv_aload_n hx hb dX1_restore_25 rfl (lv_at hl 0 rfl) ?_
    obtain ⟨v9, ev9, hit⟩ := o_bind hit
    refine c_getQ X hA.1.1 kc_TwinInk 11 q288 (Or.inl rfl) rfl rfl ev9 dX1_restore_26 ?_
    obtain ⟨v10, ev10, hit⟩ := o_bind hit
    rw [ev10, va_rf_some]
    obtain ⟨q11, eq11, hit⟩ := o_bind hit
    obtain ⟨eq11, lq11⟩ := achv_inv eq11
    refine a_cI X h0H hA nm_J2_init_2 q654 q655 q139 q656 rfl (wCJ2_init_2 l γ X.2.1 _ _ _ _ _ eq11) lq11 ⟨Nat.le_trans (Nat.le_of_ble_eq_true rfl) hR.1, Nat.le_trans (Nat.le_of_ble_eq_true rfl) hR.2⟩ rfl rfl hl.1 (lv_room (Nat.le_of_ble_eq_true rfl)) dX1_restore_29 (fun H locs cells slots hA => ?_)
    obtain ⟨s12, es12, hit⟩ := o_bind hit
    refine c_putQ X hA.1 kc_TwinInk 8 q285 (Or.inl rfl) rfl rfl (v := (some q6.2.2.1)) (tyv := (.object "java/util/List")) rfl (Or.inl ⟨_, rfl⟩) es12 dX1_restore_32 (fun H locs hI => ?_)
    replace hA := hA.up hI
    clear hI
    refine lv_aload_n hx hb dX1_restore_35 rfl (lv_at hl 0 rfl) ?_
    obtain ⟨s13, es13, hit⟩ := o_bind hit
    refine a_new X hA kc_ArrayList q272 q183 q139 (fs := [.int 0, .null, .int 0]) (by decide +kernel) es13 dX1_restore_36 (fun H cells slots hA => ?_)
    refine lv_dup hx hb dX1_restore_39 rfl ?_
    refine lv_aload_n hx hb dX1_restore_40 rfl (lv_at hl 0 rfl) ?_
    obtain ⟨v14, ev14, hit⟩ := o_bind hit
    refine c_getQ X hA.1.1 kc_TwinInk 12 q289 (Or.inl rfl) rfl rfl ev14 dX1_restore_41 ?_
    obtain ⟨v15, ev15, hit⟩ := o_bind hit
    rw [ev15, va_rf_some]
    obtain ⟨q16, eq16, hit⟩ := o_bind hit
    obtain ⟨eq16, lq16⟩ := achv_inv eq16
    refine a_cI X h0H hA nm_J2_init_2 q654 q655 q139 q656 rfl (wCJ2_init_2 l γ X.2.1 _ _ _ _ _ eq16) lq16 ⟨Nat.le_trans (Nat.le_of_ble_eq_true rfl) hR.1, Nat.le_trans (Nat.le_of_ble_eq_true rfl) hR.2⟩ rfl rfl hl.1 (lv_room (Nat.le_of_ble_eq_true rfl)) dX1_restore_44 (fun H locs cells slots hA => ?_)
    obtain ⟨s17, es17, hit⟩ := o_bind hit
    refine c_putQ X hA.1 kc_TwinInk 9 q286 (Or.inl rfl) rfl rfl (v := (some q11.2.1)) (tyv := (.object "java/util/List")) rfl (Or.inl ⟨_, rfl⟩) es17 dX1_restore_47 (fun H locs hI => ?_)
    replace hA := hA.up hI
    clear hI
    refine lv_iconst (v := 1) hx hb dX1_restore_50 (by decide) ?_
    have he := o_in hit
    exact hend (some (.int 1)) (s17, q16.2) _ _ _ _ _ _ _ _ (kOut_i rfl) (by subst he; rfl) hA dX1_restore_51
noncomputable def CJ10_newBytesLength (a0 : Int32) : Option (Int32) :=
  if a0 < 0 then
    (none)
  else
    (if a0 < 1073741823 then
      (some (a0 <<< (1 &&& 31)))
    else
      (none))
theorem nm_J10_newBytesLength : kNm yJ10_newBytesLength RJ10 1 := by unfold kNm; decide +kernel
set_option maxHeartbeats 4000000 in
set_option maxRecDepth 100000 in
theorem wCJ10_newBytesLength (l : Launch) (a0 : Int32) (z : Int32) (hz : CJ10_newBytesLength a0 = some z) : Met l yJ10_newBytesLength (ws_ yJ10_newBytesLength cJ10_newBytesLength 1 (some .int)) (kRm 0 0) (bPc [.int a0]) (vp_Si (fun r => r = z)) 0 0 vp_nf := by
  refine c_startP (cc := cJ10_newBytesLength) (own := RJ10) (ty := .int) rfl rfl rfl (fun p e R s m args below meth c Q ls X hR hl hend => ?_)
  have hx := X.1
  have hb := X.2.1
  have hit := hz
  clear hz
  unfold CJ10_newBytesLength at hit
  have hl : lv_has ls 1 [(0, .int a0)] := hl
  refine lv_iload_n hx hb dJ10_newBytesLength_0 rfl (lv_at hl 0 rfl) ?_
  refine b_if_ge (tgt := 12) hx hb dJ10_newBytesLength_1 (by decide) hit (fun c1 hit => ?_) (fun c1 hit => ?_)
  · refine lv_iload_n hx hb dJ10_newBytesLength_12 rfl (lv_at hl 0 rfl) ?_
    refine lv_ldc (v := 1073741823) hx hb X.2.2.2.1 (X.2.2.2.2 _ q1062) dJ10_newBytesLength_13 ?_
    refine b_icmp_lt (tgt := 55) hx hb dJ10_newBytesLength_15 (by decide) hit (fun c2 hit => ?_) (fun c2 hit => ?_)
    · refine lv_iload_n hx hb dJ10_newBytesLength_55 rfl (lv_at hl 0 rfl) ?_
      refine lv_iconst (v := 1) hx hb dJ10_newBytesLength_56 (by decide) ?_
      refine lv_ishl hx hb dJ10_newBytesLength_57 ?_
      have he := o_in hit
      exact hend _ (a0 <<< (1 &&& 31)) _ _ rfl he dJ10_newBytesLength_58
    · cases hit
  · cases hit
noncomputable def CJ10_newBytesFor (h : CH) (r : CR) (a0 : Int32) : Option (Nat × CS) :=
  (CJ10_newBytesLength a0).bind fun q1 =>
  (aArr h r 2 q1).bind fun s2 =>
  some (r.1, s2)
theorem nm_J10_newBytesFor : kNm yJ10_newBytesFor RJ10 1 := by unfold kNm; decide +kernel
set_option maxHeartbeats 4000000 in
set_option maxRecDepth 100000 in
theorem wCJ10_newBytesFor (l : Launch) (γ : KG) (hO : kOK γ) (h : CH) (r : CR) (a0 : Int32) (z : Nat × CS) (hz : CJ10_newBytesFor h r a0 = some z) : aMet l yJ10_newBytesFor (ws_ yJ10_newBytesFor cJ10_newBytesFor 1 (some (.array .byte))) 1 20 γ (h, r) [.int a0] (some (.ref z.1)) z.2 := by
  refine a_start (cc := cJ10_newBytesFor) (own := RJ10) hO rfl rfl rfl (fun p e R s m args below meth c Q ls X hR hnm h0H hA hl hend => ?_)
  have hx := X.1.1
  have hb := X.1.2.1
  have hit := hz
  clear hz
  unfold CJ10_newBytesFor at hit
  have hl : lv_has ls 1 [(0, .int a0)] := hl
  refine lv_iload_n hx hb dJ10_newBytesFor_0 rfl (lv_at hl 0 rfl) ?_
  obtain ⟨q1, eq1, hit⟩ := o_bind hit
  refine c_cP X.1 (wCJ10_newBytesLength l _ _ eq1) nm_J10_newBytesLength q1059 q1060 q150 q1061 ⟨Nat.le_trans (Nat.le_of_ble_eq_true rfl) hR.1, Nat.le_trans (Nat.le_of_ble_eq_true rfl) hR.2⟩ hA.RR rfl rfl hl.1 (lv_room (Nat.le_of_ble_eq_true rfl)) dJ10_newBytesFor_1 ?_
  obtain ⟨s2, es2, hit⟩ := o_bind hit
  refine a_newB X hA es2 dJ10_newBytesFor_4 (fun H cells slots hA => ?_)
  have he := o_in hit
  exact hend (some (.ref r.1)) s2 _ _ _ _ _ _ _ _ (kOut_a) (by subst he; rfl) hA dJ10_newBytesFor_6
noncomputable def CJ13_init (h : CH) (r : CR) (o : Nat) (a0 : Int32) : Option (CS) :=
  if (1 : Int32) = 0 then
    ((achk r (CJ10_newBytesFor h r a0)).bind fun q2 =>
    (pQ q2.2.1 o 11 0 (some q2.1)).bind fun s3 =>
    (pI s3 o 11 1 1).bind fun s4 =>
    some (s4, q2.2.2))
  else
    ((aArr h r 2 a0).bind fun s5 =>
    (pQ s5.1 o 11 0 (some r.1)).bind fun s6 =>
    (pI s6 o 11 1 0).bind fun s7 =>
    some (s7, s5.2))
theorem nm_J13_init : kNm yJ13_init RJ13 1 := by unfold kNm; decide +kernel
set_option maxHeartbeats 4000000 in
set_option maxRecDepth 100000 in
theorem wCJ13_init (l : Launch) (γ : KG) (hO : kOK γ) (h : CH) (r : CR) (o : Nat) (a0 : Int32) (z : CS) (hz : CJ13_init h r o a0 = some z) : aMet l yJ13_init (ws_ yJ13_init cJ13_init 2 none) 2 40 γ (h, r) [.ref o, .int a0] none z := by
  refine a_start (cc := cJ13_init) (own := RJ13) hO rfl rfl rfl (fun p e R s m args below meth c Q ls X hR hnm h0H hA hl hend => ?_)
  have hin2 : meth.name = "<init>" := hnm
  have hx := X.1.1
  have hb := X.1.2.1
  have hit := hz
  clear hz
  unfold CJ13_init at hit
  have hl : lv_has ls 2 [(0, .ref o), (1, .int a0)] := hl
  refine lv_aload_n hx hb dJ13_init_0 rfl (lv_at hl 0 rfl) ?_
  refine b_objInit X.1 hl.1 q1054 ⟨Nat.le_trans (Nat.le_of_ble_eq_true rfl) hR.1, Nat.le_trans (Nat.le_of_ble_eq_true rfl) hR.2⟩ (Nat.le_of_ble_eq_true rfl) dJ13_init_1 ?_
  refine c_gets X (kA_F X.2.1 X.2.2 h0H) hA.1.2.1 X.2.1.1.1 q1055 dJ13_init_4 ?_
  refine b_if_eq (tgt := 25) hx hb dJ13_init_7 (by decide) hit (fun c1 hit => ?_) (fun c1 hit => ?_)
  · refine lv_aload_n hx hb dJ13_init_25 rfl (lv_at hl 0 rfl) ?_
    refine lv_iload_n hx hb dJ13_init_26 rfl (lv_at hl 1 rfl) ?_
    obtain ⟨q2, eq2, hit⟩ := o_bind hit
    obtain ⟨eq2, lq2⟩ := achk_inv eq2
    refine a_cS X h0H hA nm_J10_newBytesFor q1056 q1057 q150 q1058 (wCJ10_newBytesFor l γ X.2.1 _ _ _ _ eq2) lq2 ⟨Nat.le_trans (Nat.le_of_ble_eq_true rfl) hR.1, Nat.le_trans (Nat.le_of_ble_eq_true rfl) hR.2⟩ rfl rfl hl.1 (lv_room (Nat.le_of_ble_eq_true rfl)) dJ13_init_27 (fun H locs cells slots hA => ?_)
    obtain ⟨s3, es3, hit⟩ := o_bind hit
    refine c_putQ X hA.1 kc_StringBuilder 0 q1063 (Or.inl rfl) rfl rfl (v := (some q2.1)) (tyv := (.array .byte)) rfl (Or.inr ⟨_, rfl⟩) es3 dJ13_init_30 (fun H locs hI => ?_)
    replace hA := hA.up hI
    clear hI
    refine lv_aload_n hx hb dJ13_init_33 rfl (lv_at hl 0 rfl) ?_
    refine lv_iconst (v := 1) hx hb dJ13_init_34 (by decide) ?_
    obtain ⟨s4, es4, hit⟩ := o_bind hit
    refine c_putI X hA.1 kc_StringBuilder 1 q1064 (Or.inl rfl) rfl rfl (tyv := .byte) rfl rfl rfl es4 dJ13_init_35 (fun H locs hI => ?_)
    replace hA := hA.up hI
    clear hI
    have he := o_in hit
    exact hend none (s4, q2.2.2) _ _ _ _ _ _ _ _ kOut_v (by subst he; rfl) hA dJ13_init_38
  · refine lv_aload_n hx hb dJ13_init_10 rfl (lv_at hl 0 rfl) ?_
    refine lv_iload_n hx hb dJ13_init_11 rfl (lv_at hl 1 rfl) ?_
    obtain ⟨s5, es5, hit⟩ := o_bind hit
    refine a_newB X hA es5 dJ13_init_12 (fun H cells slots hA => ?_)
    obtain ⟨s6, es6, hit⟩ := o_bind hit
    refine c_putQ X hA.1 kc_StringBuilder 0 q1063 (Or.inl rfl) rfl rfl (v := (some r.1)) (tyv := (.array .byte)) rfl (Or.inr ⟨_, rfl⟩) es6 dJ13_init_14 (fun H locs hI => ?_)
    replace hA := hA.up hI
    clear hI
    refine lv_aload_n hx hb dJ13_init_17 rfl (lv_at hl 0 rfl) ?_
    refine lv_iconst (v := 0) hx hb dJ13_init_18 (by decide) ?_
    obtain ⟨s7, es7, hit⟩ := o_bind hit
    refine c_putI X hA.1 kc_StringBuilder 1 q1064 (Or.inl rfl) rfl rfl (tyv := .byte) rfl rfl rfl es7 dJ13_init_19 (fun H locs hI => ?_)
    replace hA := hA.up hI
    clear hI
    refine lv_goto (tgt := 38) hx hb dJ13_init_22 (by decide) ?_
    have he := o_in hit
    exact hend none (s7, s5.2) _ _ _ _ _ _ _ _ kOut_v (by subst he; rfl) hA dJ13_init_38
noncomputable def CJ14_init (h : CH) (r : CR) (o : Nat) : Option (CS) :=
  (achv r (CJ13_init h r o 16)).bind fun q1 =>
  some q1
theorem nm_J14_init : kNm yJ14_init RJ14 0 := by unfold kNm; decide +kernel
set_option maxHeartbeats 4000000 in
set_option maxRecDepth 100000 in
theorem wCJ14_init (l : Launch) (γ : KG) (hO : kOK γ) (h : CH) (r : CR) (o : Nat) (z : CS) (hz : CJ14_init h r o = some z) : aMet l yJ14_init (ws_ yJ14_init cJ14_init 1 none) 3 61 γ (h, r) [.ref o] none z := by
  refine a_start (cc := cJ14_init) (own := RJ14) hO rfl rfl rfl (fun p e R s m args below meth c Q ls X hR hnm h0H hA hl hend => ?_)
  have hin2 : meth.name = "<init>" := hnm
  have hx := X.1.1
  have hb := X.1.2.1
  have hit := hz
  clear hz
  unfold CJ14_init at hit
  have hl : lv_has ls 1 [(0, .ref o)] := hl
  refine lv_aload_n hx hb dJ14_init_0 rfl (lv_at hl 0 rfl) ?_
  refine lv_bipush (v := 16) hx hb dJ14_init_1 (by decide) ?_
  obtain ⟨q1, eq1, hit⟩ := o_bind hit
  obtain ⟨eq1, lq1⟩ := achv_inv eq1
  refine a_cI X h0H hA nm_J13_init q1051 q1052 q157 q1053 rfl (wCJ13_init l γ X.2.1 _ _ _ _ _ eq1) lq1 ⟨Nat.le_trans (Nat.le_of_ble_eq_true rfl) hR.1, Nat.le_trans (Nat.le_of_ble_eq_true rfl) hR.2⟩ rfl rfl hl.1 (lv_room (Nat.le_of_ble_eq_true rfl)) dJ14_init_3 (fun H locs cells slots hA => ?_)
  have he := o_in hit
  exact hend none q1 _ _ _ _ _ _ _ _ kOut_v (by subst he; rfl) hA dJ14_init_6
noncomputable def C7_init (K : Nat → Nat) (h : CH) (r : CR) (o : Nat) (a0 : Nat) : Option (CS) :=
  (aCell h r 3 (.inr (10, [.int 0, .null, .int 0]))).bind fun s1 =>
  (CJ2_init K s1.1 r.1).bind fun q2 =>
  (pQ q2 o 6 0 (some r.1)).bind fun s3 =>
  (aCell s3 s1.2 4 (.inr (11, [.null, .int 0, .int 0, .int 0]))).bind fun s4 =>
  (achv s4.2 (CJ14_init s4.1 s4.2 s1.2.1)).bind fun q5 =>
  (pQ q5.1 o 6 1 (some s1.2.1)).bind fun s6 =>
  (gR s6 o 6 0).bind fun v7 =>
  (vc s6 v7 10 (achk q5.2 (CJ2_add K s6 q5.2 v7 a0))).bind fun q8 =>
  some q8.2
theorem nm_X7_init : kNm yX7_init RX7 1 := by unfold kNm; decide +kernel
set_option maxHeartbeats 4000000 in
set_option maxRecDepth 100000 in
theorem wC7_init (l : Launch) (γ : KG) (hO : kOK γ) (h : CH) (r : CR) (o : Nat) (a0 : Nat) (z : CS) (hz : C7_init γ.2.2.2.2.2 h r o a0 = some z) : aMet l yX7_init (ws_ yX7_init cX7_init 2 none) 7 171 γ (h, r) [.ref o, .ref a0] none z := by
  refine a_start (cc := cX7_init) (own := RX7) hO rfl rfl rfl (fun p e R s m args below meth c Q ls X hR hnm h0H hA hl hend => ?_)
  have hin2 : meth.name = "<init>" := hnm
  have hx := X.1.1
  have hb := X.1.2.1
  have hit := hz
  clear hz
  unfold C7_init at hit
  have hl : lv_has ls 2 [(0, .ref o), (1, .ref a0)] := hl
  refine lv_aload_n hx hb dX7_init_0 rfl (lv_at hl 0 rfl) ?_
  refine b_objInit X.1 hl.1 q1043 ⟨Nat.le_trans (Nat.le_of_ble_eq_true rfl) hR.1, Nat.le_trans (Nat.le_of_ble_eq_true rfl) hR.2⟩ (Nat.le_of_ble_eq_true rfl) dX7_init_1 ?_
  refine lv_aload_n hx hb dX7_init_4 rfl (lv_at hl 0 rfl) ?_
  obtain ⟨s1, es1, hit⟩ := o_bind hit
  refine a_new X hA kc_ArrayList q1044 q183 q139 (fs := [.int 0, .null, .int 0]) (by decide +kernel) es1 dX7_init_5 (fun H cells slots hA => ?_)
  refine lv_dup hx hb dX7_init_8 rfl ?_
  obtain ⟨q2, eq2, hit⟩ := o_bind hit
  refine c_cNI X (kA_F X.2.1 X.2.2 h0H) hA.1 nm_J2_init q1045 q185 q139 q186 rfl (wCJ2_init l γ X.2.1 _ _  _ eq2) hA.RR ⟨Nat.le_trans (Nat.le_of_ble_eq_true rfl) hR.1, Nat.le_trans (Nat.le_of_ble_eq_true rfl) hR.2⟩ rfl rfl hl.1 (lv_room (Nat.le_of_ble_eq_true rfl)) dX7_init_9 (fun H locs hI => ?_)
  replace hA := hA.up hI
  clear hI
  obtain ⟨s3, es3, hit⟩ := o_bind hit
  refine c_putFQ X hin2 hA.1 kc_Chain 0 q1076 rfl rfl (v := (some r.1)) (tyv := (.object "java/util/List")) rfl (Or.inl ⟨_, rfl⟩) es3 dX7_init_12 (fun H locs hI => ?_)
  replace hA := hA.up hI
  clear hI
  refine lv_aload_n hx hb dX7_init_15 rfl (lv_at hl 0 rfl) ?_
  obtain ⟨s4, es4, hit⟩ := o_bind hit
  refine a_new X hA kc_StringBuilder q1046 q1047 q158 (fs := [.null, .int 0, .int 0, .int 0]) (by decide +kernel) es4 dX7_init_16 (fun H cells slots hA => ?_)
  refine lv_dup hx hb dX7_init_19 rfl ?_
  obtain ⟨q5, eq5, hit⟩ := o_bind hit
  obtain ⟨eq5, lq5⟩ := achv_inv eq5
  refine a_cI X h0H hA nm_J14_init q1048 q1049 q158 q1050 rfl (wCJ14_init l γ X.2.1 _ _ _  _ eq5) lq5 ⟨Nat.le_trans (Nat.le_of_ble_eq_true rfl) hR.1, Nat.le_trans (Nat.le_of_ble_eq_true rfl) hR.2⟩ rfl rfl hl.1 (lv_room (Nat.le_of_ble_eq_true rfl)) dX7_init_20 (fun H locs cells slots hA => ?_)
  obtain ⟨s6, es6, hit⟩ := o_bind hit
  refine c_putFQ X hin2 hA.1 kc_Chain 1 q1077 rfl rfl (v := (some s1.2.1)) (tyv := (.object "java/lang/StringBuilder")) rfl (Or.inl ⟨_, rfl⟩) es6 dX7_init_23 (fun H locs hI => ?_)
  replace hA := hA.up hI
  clear hI
  refine lv_aload_n hx hb dX7_init_26 rfl (lv_at hl 0 rfl) ?_
  obtain ⟨v7, ev7, hit⟩ := o_bind hit
  refine c_getR X hA.1.1 kc_Chain 0 q1076 (Or.inl rfl) rfl rfl ev7 dX7_init_27 ?_
  refine lv_aload_n hx hb dX7_init_30 rfl (lv_at hl 1 rfl) ?_
  obtain ⟨q8, eq8, hit⟩ := o_bind hit
  obtain ⟨iq8, eq8⟩ := vc_inv eq8
  obtain ⟨eq8, lq8⟩ := achk_inv eq8
  refine a_cF X h0H hA kc_ArrayList iq8 nmi_List_add q1075 q361 q139 q363 q359 q357 q356 q362 q360 q358 (wCJ2_add l γ X.2.1 _ _ _ _ _ eq8) lq8 ⟨Nat.le_trans (Nat.le_of_ble_eq_true rfl) hR.1, Nat.le_trans (Nat.le_of_ble_eq_true rfl) hR.2⟩ rfl rfl hl.1 (lv_room (Nat.le_of_ble_eq_true rfl)) dX7_init_31 (fun H locs cells slots hA => ?_)
  refine lv_pop hx hb dX7_init_36 rfl ?_
  have he := o_in hit
  exact hend none q8.2 _ _ _ _ _ _ _ _ kOut_v (by subst he; rfl) hA dX7_init_37
noncomputable def CJ13_newCapacity (K : Nat → Nat) (h : CH) (o : Nat) (a0 : Int32) : Option (Int32) :=
  (gR h o 11 0).bind fun v1 =>
  (aNb K h v1).bind fun v2 =>
  (gI h o 11 1).bind fun v3 =>
  (gI h o 11 1).bind fun v4 =>
  (CJ15_newLength v2 ((a0 <<< (v3 &&& 31)) - v2) (v2 + ((2 : Int32) <<< (v4 &&& 31)))).bind fun q5 =>
  if q5 = 2147483647 then
    (none)
  else
    ((gI h o 11 1).bind fun v7 =>
    some (q5 >>> (v7 &&& 31)))
theorem nm_J13_newCapacity : kNm yJ13_newCapacity RJ13 1 := by unfold kNm; decide +kernel
set_option maxHeartbeats 4000000 in
set_option maxRecDepth 100000 in
theorem wCJ13_newCapacity (l : Launch) (γ : KG) (hO : kOK γ) (h : CH) (o : Nat) (a0 : Int32) (z : Int32) (hz : CJ13_newCapacity γ.2.2.2.2.2 h o a0 = some z) : Met l yJ13_newCapacity (ws_ yJ13_newCapacity cJ13_newCapacity 6 (some .int)) (kRm 2 53) (cPc γ h [.ref o, .int a0]) (cRq (.int z)) 0 0 vp_nf := by
  refine c_startR (cc := cJ13_newCapacity) (own := RJ13) hO rfl rfl rfl (fun p e R s m args below meth c Q ls X hR hH hDU hl hend => ?_)
  have hx := X.1.1
  have hb := X.1.2.1
  have hit := hz
  clear hz
  unfold CJ13_newCapacity at hit
  have hl : lv_has ls 6 [(0, .ref o), (1, .int a0)] := hl
  refine lv_aload_n hx hb dJ13_newCapacity_0 rfl (lv_at hl 0 rfl) ?_
  obtain ⟨v1, ev1, hit⟩ := o_bind hit
  refine c_getR X hH kc_StringBuilder 0 q1063 (Or.inl rfl) rfl rfl ev1 dJ13_newCapacity_1 ?_
  obtain ⟨v2, ev2, hit⟩ := o_bind hit
  refine c_alenB X (fun _ h => h) (va_S.rf (A := γ.2.2.2.2.1)) hH ev2 dJ13_newCapacity_4 ?_
  refine lv_istore_n (lv' := [(2, .int v2), (0, .ref o), (1, .int a0)]) hx hb dJ13_newCapacity_5 rfl hl (by decide) rfl (fun ls hl => ?_)
  refine lv_iload_n hx hb dJ13_newCapacity_6 rfl (lv_at hl 2 rfl) ?_
  refine lv_aload_n hx hb dJ13_newCapacity_7 rfl (lv_at hl 1 rfl) ?_
  obtain ⟨v3, ev3, hit⟩ := o_bind hit
  refine c_getI X hH kc_StringBuilder 1 q1064 (Or.inl rfl) rfl rfl ev3 dJ13_newCapacity_8 ?_
  refine lv_ishl hx hb dJ13_newCapacity_11 ?_
  refine lv_istore_n (lv' := [(3, .int (a0 <<< (v3 &&& 31))), (2, .int v2), (0, .ref o), (1, .int a0)]) hx hb dJ13_newCapacity_12 rfl hl (by decide) rfl (fun ls hl => ?_)
  refine lv_iload_n hx hb dJ13_newCapacity_13 rfl (lv_at hl 0 rfl) ?_
  refine lv_iload_n hx hb dJ13_newCapacity_14 rfl (lv_at hl 1 rfl) ?_
  refine lv_isub hx hb dJ13_newCapacity_15 ?_
  refine lv_istore (lv' := [(4, .int ((a0 <<< (v3 &&& 31)) - v2)), (3, .int (a0 <<< (v3 &&& 31))), (2, .int v2), (0, .ref o), (1, .int a0)]) hx hb dJ13_newCapacity_16 hl (by decide) rfl (fun ls hl => ?_)
  refine lv_iload_n hx hb dJ13_newCapacity_18 rfl (lv_at hl 2 rfl) ?_
  refine lv_iload hx hb dJ13_newCapacity_19 (lv_at hl 0 rfl) ?_
  refine lv_iload_n hx hb dJ13_newCapacity_21 rfl (lv_at hl 2 rfl) ?_
  refine lv_iconst (v := 2) hx hb dJ13_newCapacity_22 (by decide) ?_
  refine lv_aload_n hx hb dJ13_newCapacity_23 rfl (lv_at hl 3 rfl) ?_
  obtain ⟨v4, ev4, hit⟩ := o_bind hit
  refine c_getI X hH kc_StringBuilder 1 q1064 (Or.inl rfl) rfl rfl ev4 dJ13_newCapacity_24 ?_
  refine lv_ishl hx hb dJ13_newCapacity_27 ?_
  refine lv_iadd hx hb dJ13_newCapacity_28 ?_
  obtain ⟨q5, eq5, hit⟩ := o_bind hit
  refine c_cP X.1 (wCJ15_newLength l _ _ _ _ eq5) nm_J15_newLength q1106 q377 q159 q378 ⟨Nat.le_trans (Nat.le_of_ble_eq_true rfl) hR.1, Nat.le_trans (Nat.le_of_ble_eq_true rfl) hR.2⟩ ⟨Nat.zero_le _, Nat.zero_le _⟩ rfl rfl hl.1 (lv_room (Nat.le_of_ble_eq_true rfl)) dJ13_newCapacity_29 ?_
  refine lv_istore (lv' := [(5, .int q5), (4, .int ((a0 <<< (v3 &&& 31)) - v2)), (3, .int (a0 <<< (v3 &&& 31))), (2, .int v2), (0, .ref o), (1, .int a0)]) hx hb dJ13_newCapacity_32 hl (by decide) rfl (fun ls hl => ?_)
  refine lv_iload hx hb dJ13_newCapacity_34 (lv_at hl 0 rfl) ?_
  refine lv_ldc (v := 2147483647) hx hb X.1.2.2.2.1 (X.1.2.2.2.2 _ q1107) dJ13_newCapacity_36 ?_
  refine b_icmp_ne (tgt := 51) hx hb dJ13_newCapacity_38 (by decide) hit (fun c6 hit => ?_) (fun c6 hit => ?_)
  · refine lv_iload hx hb dJ13_newCapacity_51 (lv_at hl 0 rfl) ?_
    refine lv_aload_n hx hb dJ13_newCapacity_53 rfl (lv_at hl 4 rfl) ?_
    obtain ⟨v7, ev7, hit⟩ := o_bind hit
    refine c_getI X hH kc_StringBuilder 1 q1064 (Or.inl rfl) rfl rfl ev7 dJ13_newCapacity_54 ?_
    refine lv_ishr hx hb dJ13_newCapacity_57 ?_
    have he := o_in hit
    exact hend (.int (q5 >>> (v7 &&& 31))) _ _ _ _ (kOut_i rfl) (congrArg Value.int he) dJ13_newCapacity_58
  · cases hit
noncomputable def CJ16_copyOf_3 (K : Nat → Nat) (h : CH) (r : CR) (a0 : Nat) (a1 : Int32) : Option (Nat × CS) :=
  (aNb K h a0).bind fun v1 =>
  if a1 = v1 then
    (none)
  else
    ((aArr h r 2 a1).bind fun s3 =>
    (aNb K s3.1 a0).bind fun v4 =>
    (cpB s3.1 a0 0 r.1 0 (imin v4 a1)).bind fun s5 =>
    some (r.1, (s5, s3.2)))
theorem nm_J16_copyOf_3 : kNm yJ16_copyOf_3 RJ16 2 := by unfold kNm; decide +kernel
set_option maxHeartbeats 4000000 in
set_option maxRecDepth 100000 in
theorem wCJ16_copyOf_3 (l : Launch) (γ : KG) (hO : kOK γ) (h : CH) (r : CR) (a0 : Nat) (a1 : Int32) (z : Nat × CS) (hz : CJ16_copyOf_3 γ.2.2.2.2.2 h r a0 a1 = some z) : aMet l yJ16_copyOf_3 (ws_ yJ16_copyOf_3 cJ16_copyOf_3 3 (some (.array .byte))) 1 40 γ (h, r) [.ref a0, .int a1] (some (.ref z.1)) z.2 := by
  refine a_start (cc := cJ16_copyOf_3) (own := RJ16) hO rfl rfl rfl (fun p e R s m args below meth c Q ls X hR hnm h0H hA hl hend => ?_)
  have hx := X.1.1
  have hb := X.1.2.1
  have hit := hz
  clear hz
  unfold CJ16_copyOf_3 at hit
  have hl : lv_has ls 3 [(0, .ref a0), (1, .int a1)] := hl
  refine lv_iload_n hx hb dJ16_copyOf_3_0 rfl (lv_at hl 1 rfl) ?_
  refine lv_aload_n hx hb dJ16_copyOf_3_1 rfl (lv_at hl 0 rfl) ?_
  obtain ⟨v1, ev1, hit⟩ := o_bind hit
  refine c_alenB X (kA_F X.2.1 X.2.2 h0H) hA.1.2.1 hA.1.1 ev1 dJ16_copyOf_3_2 ?_
  refine b_icmp_ne (tgt := 14) hx hb dJ16_copyOf_3_3 (by decide) hit (fun c2 hit => ?_) (fun c2 hit => ?_)
  · refine lv_iload_n hx hb dJ16_copyOf_3_14 rfl (lv_at hl 1 rfl) ?_
    obtain ⟨s3, es3, hit⟩ := o_bind hit
    refine a_newB X hA es3 dJ16_copyOf_3_15 (fun H cells slots hA => ?_)
    refine lv_astore_n (lv' := [(2, .ref r.1), (0, .ref a0), (1, .int a1)]) hx hb dJ16_copyOf_3_17 rfl hl (by decide) rfl (fun ls hl => ?_)
    refine lv_aload_n hx hb dJ16_copyOf_3_18 rfl (lv_at hl 1 rfl) ?_
    refine lv_iconst (v := 0) hx hb dJ16_copyOf_3_19 (by decide) ?_
    refine lv_aload_n hx hb dJ16_copyOf_3_20 rfl (lv_at hl 0 rfl) ?_
    refine lv_iconst (v := 0) hx hb dJ16_copyOf_3_21 (by decide) ?_
    refine lv_aload_n hx hb dJ16_copyOf_3_22 rfl (lv_at hl 1 rfl) ?_
    obtain ⟨v4, ev4, hit⟩ := o_bind hit
    refine c_alenB X (kA_F X.2.1 X.2.2 h0H) hA.1.2.1 hA.1.1 ev4 dJ16_copyOf_3_23 ?_
    refine lv_iload_n hx hb dJ16_copyOf_3_24 rfl (lv_at hl 2 rfl) ?_
    refine b_min X.1 hl.1 q414 (Nat.le_trans (Nat.le_of_ble_eq_true rfl) hR.1) (Nat.le_trans (Nat.le_of_ble_eq_true rfl) hR.2) hA.RR dJ16_copyOf_3_25 ?_
    obtain ⟨s5, es5, hit⟩ := o_bind hit
    refine c_copyB X hA.1 hl.1 es5 q417 ⟨Nat.le_trans (Nat.le_of_ble_eq_true rfl) hR.1, Nat.le_trans (Nat.le_of_ble_eq_true rfl) hR.2⟩ (Nat.le_of_ble_eq_true rfl) dJ16_copyOf_3_28 (fun H locs hI => ?_)
    replace hA := hA.up hI
    clear hI
    refine lv_aload_n hx hb dJ16_copyOf_3_31 rfl (lv_at hl 0 rfl) ?_
    have he := o_in hit
    exact hend (some (.ref r.1)) (s5, s3.2) _ _ _ _ _ _ _ _ (kOut_a) (by subst he; rfl) hA dJ16_copyOf_3_32
  · refine lv_aload_n hx hb dJ16_copyOf_3_6 rfl (lv_at hl 0 rfl) ?_
    cases hit
noncomputable def CJ13_ensureCapacityInternal (K : Nat → Nat) (h : CH) (r : CR) (o : Nat) (a0 : Int32) : Option (CS) :=
  (gR h o 11 0).bind fun v1 =>
  (aNb K h v1).bind fun v2 =>
  (gI h o 11 1).bind fun v3 =>
  if (a0 - (v2 >>> (v3 &&& 31))) ≤ 0 then
    (some (h, r))
  else
    ((gR h o 11 0).bind fun v5 =>
    (vc h o 11 (CJ13_newCapacity K h o a0)).bind fun q6 =>
    (gI h o 11 1).bind fun v7 =>
    (achk r (CJ16_copyOf_3 K h r v5 (q6 <<< (v7 &&& 31)))).bind fun q8 =>
    (pQ q8.2.1 o 11 0 (some q8.1)).bind fun s9 =>
    some (s9, q8.2.2))
theorem nm_J13_ensureCapacityInternal : kNm yJ13_ensureCapacityInternal RJ13 1 := by unfold kNm; decide +kernel
set_option maxHeartbeats 4000000 in
set_option maxRecDepth 100000 in
theorem wCJ13_ensureCapacityInternal (l : Launch) (γ : KG) (hO : kOK γ) (h : CH) (r : CR) (o : Nat) (a0 : Int32) (z : CS) (hz : CJ13_ensureCapacityInternal γ.2.2.2.2.2 h r o a0 = some z) : aMet l yJ13_ensureCapacityInternal (ws_ yJ13_ensureCapacityInternal cJ13_ensureCapacityInternal 3 none) 3 78 γ (h, r) [.ref o, .int a0] none z := by
  refine a_start (cc := cJ13_ensureCapacityInternal) (own := RJ13) hO rfl rfl rfl (fun p e R s m args below meth c Q ls X hR hnm h0H hA hl hend => ?_)
  have hx := X.1.1
  have hb := X.1.2.1
  have hit := hz
  clear hz
  unfold CJ13_ensureCapacityInternal at hit
  have hl : lv_has ls 3 [(0, .ref o), (1, .int a0)] := hl
  refine lv_aload_n hx hb dJ13_ensureCapacityInternal_0 rfl (lv_at hl 0 rfl) ?_
  obtain ⟨v1, ev1, hit⟩ := o_bind hit
  refine c_getR X hA.1.1 kc_StringBuilder 0 q1063 (Or.inl rfl) rfl rfl ev1 dJ13_ensureCapacityInternal_1 ?_
  obtain ⟨v2, ev2, hit⟩ := o_bind hit
  refine c_alenB X (kA_F X.2.1 X.2.2 h0H) hA.1.2.1 hA.1.1 ev2 dJ13_ensureCapacityInternal_4 ?_
  refine lv_aload_n hx hb dJ13_ensureCapacityInternal_5 rfl (lv_at hl 0 rfl) ?_
  obtain ⟨v3, ev3, hit⟩ := o_bind hit
  refine c_getI X hA.1.1 kc_StringBuilder 1 q1064 (Or.inl rfl) rfl rfl ev3 dJ13_ensureCapacityInternal_6 ?_
  refine lv_ishr hx hb dJ13_ensureCapacityInternal_9 ?_
  refine lv_istore_n (lv' := [(2, .int (v2 >>> (v3 &&& 31))), (0, .ref o), (1, .int a0)]) hx hb dJ13_ensureCapacityInternal_10 rfl hl (by decide) rfl (fun ls hl => ?_)
  refine lv_iload_n hx hb dJ13_ensureCapacityInternal_11 rfl (lv_at hl 2 rfl) ?_
  refine lv_iload_n hx hb dJ13_ensureCapacityInternal_12 rfl (lv_at hl 0 rfl) ?_
  refine lv_isub hx hb dJ13_ensureCapacityInternal_13 ?_
  refine b_if_le (tgt := 38) hx hb dJ13_ensureCapacityInternal_14 (by decide) hit (fun c4 hit => ?_) (fun c4 hit => ?_)
  · have he := o_in hit
    exact hend none (h, r) _ _ _ _ _ _ _ _ kOut_v (by subst he; rfl) hA dJ13_ensureCapacityInternal_38
  · refine lv_aload_n hx hb dJ13_ensureCapacityInternal_17 rfl (lv_at hl 1 rfl) ?_
    refine lv_aload_n hx hb dJ13_ensureCapacityInternal_18 rfl (lv_at hl 1 rfl) ?_
    obtain ⟨v5, ev5, hit⟩ := o_bind hit
    refine c_getR X hA.1.1 kc_StringBuilder 0 q1063 (Or.inl rfl) rfl rfl ev5 dJ13_ensureCapacityInternal_19 ?_
    refine lv_aload_n hx hb dJ13_ensureCapacityInternal_22 rfl (lv_at hl 1 rfl) ?_
    refine lv_iload_n hx hb dJ13_ensureCapacityInternal_23 rfl (lv_at hl 2 rfl) ?_
    obtain ⟨q6, eq6, hit⟩ := o_bind hit
    obtain ⟨iq6, eq6⟩ := vc_inv eq6
    refine c_cRx X hA.1.1 (fun U hU hW => hA.D X.2.1 X.2.2 h0H hU hW) kc_StringBuilder iq6 nm_J13_newCapacity q1102 q1104 q157 q1105 (c_selPriv (y2 := ⟨"java/lang/AbstractStringBuilder", "isLatin1", "()Z"⟩) X.2.1 X.2.2 X.1.2.2.2.2 (by decide) q1121 rfl q1103 q1104) (wCJ13_newCapacity l γ X.2.1 _ _ _ _ eq6) hA.RR ⟨Nat.le_trans (Nat.le_of_ble_eq_true rfl) hR.1, Nat.le_trans (Nat.le_of_ble_eq_true rfl) hR.2⟩ rfl rfl hl.1 (lv_room (Nat.le_of_ble_eq_true rfl)) dJ13_ensureCapacityInternal_24 ?_
    refine lv_aload_n hx hb dJ13_ensureCapacityInternal_27 rfl (lv_at hl 1 rfl) ?_
    obtain ⟨v7, ev7, hit⟩ := o_bind hit
    refine c_getI X hA.1.1 kc_StringBuilder 1 q1064 (Or.inl rfl) rfl rfl ev7 dJ13_ensureCapacityInternal_28 ?_
    refine lv_ishl hx hb dJ13_ensureCapacityInternal_31 ?_
    obtain ⟨q8, eq8, hit⟩ := o_bind hit
    obtain ⟨eq8, lq8⟩ := achk_inv eq8
    refine a_cS X h0H hA nm_J16_copyOf_3 q1108 q1109 q160 q1110 (wCJ16_copyOf_3 l γ X.2.1 _ _ _ _ _ eq8) lq8 ⟨Nat.le_trans (Nat.le_of_ble_eq_true rfl) hR.1, Nat.le_trans (Nat.le_of_ble_eq_true rfl) hR.2⟩ rfl rfl hl.1 (lv_room (Nat.le_of_ble_eq_true rfl)) dJ13_ensureCapacityInternal_32 (fun H locs cells slots hA => ?_)
    obtain ⟨s9, es9, hit⟩ := o_bind hit
    refine c_putQ X hA.1 kc_StringBuilder 0 q1063 (Or.inl rfl) rfl rfl (v := (some q8.1)) (tyv := (.array .byte)) rfl (Or.inr ⟨_, rfl⟩) es9 dJ13_ensureCapacityInternal_35 (fun H locs hI => ?_)
    replace hA := hA.up hI
    clear hI
    have he := o_in hit
    exact hend none (s9, q8.2.2) _ _ _ _ _ _ _ _ kOut_v (by subst he; rfl) hA dJ13_ensureCapacityInternal_38
noncomputable def CJ13_isLatin1 (h : CH) (o : Nat) : Option (Int32) :=
  if (1 : Int32) = 0 then
    (some 0)
  else
    ((gI h o 11 1).bind fun v2 =>
    if v2 = 0 then
      (some 1)
    else
      (some 0))
theorem nm_J13_isLatin1 : kNm yJ13_isLatin1 RJ13 0 := by unfold kNm; decide +kernel
set_option maxHeartbeats 4000000 in
set_option maxRecDepth 100000 in
theorem wCJ13_isLatin1 (l : Launch) (γ : KG) (hO : kOK γ) (h : CH) (o : Nat) (z : Int32) (hz : CJ13_isLatin1 h o = some z) : Met l yJ13_isLatin1 (ws_ yJ13_isLatin1 cJ13_isLatin1 1 (some .boolean)) (kRm 0 0) (cPc γ h [.ref o]) (cRq (.int z)) 0 0 vp_nf := by
  refine c_startR (cc := cJ13_isLatin1) (own := RJ13) hO rfl rfl rfl (fun p e R s m args below meth c Q ls X hR hH hDU hl hend => ?_)
  have hx := X.1.1
  have hb := X.1.2.1
  have hit := hz
  clear hz
  unfold CJ13_isLatin1 at hit
  have hl : lv_has ls 1 [(0, .ref o)] := hl
  refine c_gets X (fun _ h => h) (va_S.rf (A := γ.2.2.2.2.1)) X.2.1.1.1 q1055 dJ13_isLatin1_0 ?_
  refine b_if_eq (tgt := 17) hx hb dJ13_isLatin1_3 (by decide) hit (fun c1 hit => ?_) (fun c1 hit => ?_)
  · refine lv_iconst (v := 0) hx hb dJ13_isLatin1_17 (by decide) ?_
    have he := o_in hit
    exact hend (.int 0) _ _ _ _ (kOut_i rfl) (congrArg Value.int he) dJ13_isLatin1_18
  · refine lv_aload_n hx hb dJ13_isLatin1_6 rfl (lv_at hl 0 rfl) ?_
    obtain ⟨v2, ev2, hit⟩ := o_bind hit
    refine c_getI X hH kc_StringBuilder 1 q1064 (Or.inl rfl) rfl rfl ev2 dJ13_isLatin1_7 ?_
    refine b_if_ne (tgt := 17) hx hb dJ13_isLatin1_10 (by decide) hit (fun c3 hit => ?_) (fun c3 hit => ?_)
    · refine lv_iconst (v := 0) hx hb dJ13_isLatin1_17 (by decide) ?_
      have he := o_in hit
      exact hend (.int 0) _ _ _ _ (kOut_i rfl) (congrArg Value.int he) dJ13_isLatin1_18
    · refine lv_iconst (v := 1) hx hb dJ13_isLatin1_13 (by decide) ?_
      refine lv_goto (tgt := 18) hx hb dJ13_isLatin1_14 (by decide) ?_
      have he := o_in hit
      exact hend (.int 1) _ _ _ _ (kOut_i rfl) (congrArg Value.int he) dJ13_isLatin1_18
noncomputable def CJ9_canEncode_2 (a0 : Int32) : Option (Int32) :=
  if a0 ≤ 255 then
    (some 1)
  else
    (some 0)
theorem nm_J9_canEncode_2 : kNm yJ9_canEncode_2 RJ9 1 := by unfold kNm; decide +kernel
set_option maxHeartbeats 4000000 in
set_option maxRecDepth 100000 in
theorem wCJ9_canEncode_2 (l : Launch) (a0 : Int32) (z : Int32) (hz : CJ9_canEncode_2 a0 = some z) : Met l yJ9_canEncode_2 (ws_ yJ9_canEncode_2 cJ9_canEncode_2 1 (some .boolean)) (kRm 0 0) (bPc [.int a0]) (vp_Si (fun r => r = z)) 0 0 vp_nf := by
  refine c_startP (cc := cJ9_canEncode_2) (own := RJ9) (ty := .boolean) rfl rfl rfl (fun p e R s m args below meth c Q ls X hR hl hend => ?_)
  have hx := X.1
  have hb := X.2.1
  have hit := hz
  clear hz
  unfold CJ9_canEncode_2 at hit
  have hl : lv_has ls 1 [(0, .int a0)] := hl
  refine lv_iload_n hx hb dJ9_canEncode_2_0 rfl (lv_at hl 0 rfl) ?_
  refine lv_sipush (v := 255) hx hb dJ9_canEncode_2_1 (by decide) ?_
  refine b_icmp_gt (tgt := 11) hx hb dJ9_canEncode_2_4 (by decide) hit (fun c1 hit => ?_) (fun c1 hit => ?_)
  · refine lv_iconst (v := 0) hx hb dJ9_canEncode_2_11 (by decide) ?_
    have he := o_in hit
    exact hend _ 0 _ _ rfl he dJ9_canEncode_2_12
  · refine lv_iconst (v := 1) hx hb dJ9_canEncode_2_7 (by decide) ?_
    refine lv_goto (tgt := 12) hx hb dJ9_canEncode_2_8 (by decide) ?_
    have he := o_in hit
    exact hend _ 1 _ _ rfl he dJ9_canEncode_2_12
noncomputable def CJ10_length (K : Nat → Nat) (h : CH) (a0 : Nat) : Option (Int32) :=
  (aNb K h a0).bind fun v1 =>
  some (v1 >>> (1 &&& 31))
theorem nm_J10_length : kNm yJ10_length RJ10 1 := by unfold kNm; decide +kernel
set_option maxHeartbeats 4000000 in
set_option maxRecDepth 100000 in
theorem wCJ10_length (l : Launch) (γ : KG) (hO : kOK γ) (h : CH) (a0 : Nat) (z : Int32) (hz : CJ10_length γ.2.2.2.2.2 h a0 = some z) : Met l yJ10_length (ws_ yJ10_length cJ10_length 1 (some .int)) (kRm 0 0) (cPc γ h [.ref a0]) (cRq (.int z)) 0 0 vp_nf := by
  refine c_startR (cc := cJ10_length) (own := RJ10) hO rfl rfl rfl (fun p e R s m args below meth c Q ls X hR hH hDU hl hend => ?_)
  have hx := X.1.1
  have hb := X.1.2.1
  have hit := hz
  clear hz
  unfold CJ10_length at hit
  have hl : lv_has ls 1 [(0, .ref a0)] := hl
  refine lv_aload_n hx hb dJ10_length_0 rfl (lv_at hl 0 rfl) ?_
  obtain ⟨v1, ev1, hit⟩ := o_bind hit
  refine c_alenB X (fun _ h => h) (va_S.rf (A := γ.2.2.2.2.1)) hH ev1 dJ10_length_1 ?_
  refine lv_iconst (v := 1) hx hb dJ10_length_2 (by decide) ?_
  refine lv_ishr hx hb dJ10_length_3 ?_
  have he := o_in hit
  exact hend (.int (v1 >>> (1 &&& 31))) _ _ _ _ (kOut_i rfl) (congrArg Value.int he) dJ10_length_4
noncomputable def CJ11_checkFromIndexSize (a0 : Int32) (a1 : Int32) (a2 : Int32) : Option (Int32) :=
  if ((a2 ||| a0) ||| a1) < 0 then
    (none)
  else
    (if a1 ≤ (a2 - a0) then
      (some a0)
    else
      (none))
theorem nm_J11_checkFromIndexSize : kNm yJ11_checkFromIndexSize RJ11 4 := by unfold kNm; decide +kernel
set_option maxHeartbeats 4000000 in
set_option maxRecDepth 100000 in
theorem wCJ11_checkFromIndexSize (l : Launch) (a0 : Int32) (a1 : Int32) (a2 : Int32) (a3 : Option Nat) (z : Int32) (hz : CJ11_checkFromIndexSize a0 a1 a2 = some z) : Met l yJ11_checkFromIndexSize (ws_ yJ11_checkFromIndexSize cJ11_checkFromIndexSize 4 (some .int)) (kRm 0 0) (bPc [.int a0, .int a1, .int a2, va_rf a3]) (vp_Si (fun r => r = z)) 0 0 vp_nf := by
  cases a3 with
  | none =>
    refine c_startP (cc := cJ11_checkFromIndexSize) (own := RJ11) (ty := .int) rfl rfl rfl (fun p e R s m args below meth c Q ls X hR hl hend => ?_)
    have hx := X.1
    have hb := X.2.1
    have hit := hz
    clear hz
    unfold CJ11_checkFromIndexSize at hit
    have hl : lv_has ls 4 [(0, .int a0), (1, .int a1), (2, .int a2), (3, va_rf none)] := hl
    refine lv_iload_n hx hb dJ11_checkFromIndexSize_0 rfl (lv_at hl 2 rfl) ?_
    refine lv_iload_n hx hb dJ11_checkFromIndexSize_1 rfl (lv_at hl 0 rfl) ?_
    refine lv_ior hx hb dJ11_checkFromIndexSize_2 ?_
    refine lv_iload_n hx hb dJ11_checkFromIndexSize_3 rfl (lv_at hl 1 rfl) ?_
    refine lv_ior hx hb dJ11_checkFromIndexSize_4 ?_
    refine b_if_lt (tgt := 15) hx hb dJ11_checkFromIndexSize_5 (by decide) hit (fun c1 hit => ?_) (fun c1 hit => ?_)
    · cases hit
    · refine lv_iload_n hx hb dJ11_checkFromIndexSize_8 rfl (lv_at hl 1 rfl) ?_
      refine lv_iload_n hx hb dJ11_checkFromIndexSize_9 rfl (lv_at hl 2 rfl) ?_
      refine lv_iload_n hx hb dJ11_checkFromIndexSize_10 rfl (lv_at hl 0 rfl) ?_
      refine lv_isub hx hb dJ11_checkFromIndexSize_11 ?_
      refine b_icmp_le (tgt := 23) hx hb dJ11_checkFromIndexSize_12 (by decide) hit (fun c2 hit => ?_) (fun c2 hit => ?_)
      · refine lv_iload_n hx hb dJ11_checkFromIndexSize_23 rfl (lv_at hl 0 rfl) ?_
        have he := o_in hit
        exact hend _ a0 _ _ rfl he dJ11_checkFromIndexSize_24
      · cases hit
  | some b_ =>
    refine c_startP (cc := cJ11_checkFromIndexSize) (own := RJ11) (ty := .int) rfl rfl rfl (fun p e R s m args below meth c Q ls X hR hl hend => ?_)
    have hx := X.1
    have hb := X.2.1
    have hit := hz
    clear hz
    unfold CJ11_checkFromIndexSize at hit
    have hl : lv_has ls 4 [(0, .int a0), (1, .int a1), (2, .int a2), (3, va_rf (some b_))] := hl
    refine lv_iload_n hx hb dJ11_checkFromIndexSize_0 rfl (lv_at hl 2 rfl) ?_
    refine lv_iload_n hx hb dJ11_checkFromIndexSize_1 rfl (lv_at hl 0 rfl) ?_
    refine lv_ior hx hb dJ11_checkFromIndexSize_2 ?_
    refine lv_iload_n hx hb dJ11_checkFromIndexSize_3 rfl (lv_at hl 1 rfl) ?_
    refine lv_ior hx hb dJ11_checkFromIndexSize_4 ?_
    refine b_if_lt (tgt := 15) hx hb dJ11_checkFromIndexSize_5 (by decide) hit (fun c1 hit => ?_) (fun c1 hit => ?_)
    · cases hit
    · refine lv_iload_n hx hb dJ11_checkFromIndexSize_8 rfl (lv_at hl 1 rfl) ?_
      refine lv_iload_n hx hb dJ11_checkFromIndexSize_9 rfl (lv_at hl 2 rfl) ?_
      refine lv_iload_n hx hb dJ11_checkFromIndexSize_10 rfl (lv_at hl 0 rfl) ?_
      refine lv_isub hx hb dJ11_checkFromIndexSize_11 ?_
      refine b_icmp_le (tgt := 23) hx hb dJ11_checkFromIndexSize_12 (by decide) hit (fun c2 hit => ?_) (fun c2 hit => ?_)
      · refine lv_iload_n hx hb dJ11_checkFromIndexSize_23 rfl (lv_at hl 0 rfl) ?_
        have he := o_in hit
        exact hend _ a0 _ _ rfl he dJ11_checkFromIndexSize_24
      · cases hit
noncomputable def CJ8_checkBoundsOffCount (h : CH) (a0 : Int32) (a1 : Int32) (a2 : Int32) : Option (Int32) :=
  (CJ11_checkFromIndexSize a0 a1 a2).bind fun q2 =>
  some q2
theorem nm_J8_checkBoundsOffCount : kNm yJ8_checkBoundsOffCount RJ8 3 := by unfold kNm; decide +kernel
set_option maxHeartbeats 4000000 in
set_option maxRecDepth 100000 in
theorem wCJ8_checkBoundsOffCount (l : Launch) (γ : KG) (hO : kOK γ) (h : CH) (a0 : Int32) (a1 : Int32) (a2 : Int32) (z : Int32) (hz : CJ8_checkBoundsOffCount h a0 a1 a2 = some z) : Met l yJ8_checkBoundsOffCount (ws_ yJ8_checkBoundsOffCount cJ8_checkBoundsOffCount 3 (some .int)) (kRm 1 23) (cPc γ h [.int a0, .int a1, .int a2]) (cRq (.int z)) 0 0 vp_nf := by
  refine c_startR (cc := cJ8_checkBoundsOffCount) (own := RJ8) hO rfl rfl rfl (fun p e R s m args below meth c Q ls X hR hH hDU hl hend => ?_)
  have hx := X.1.1
  have hb := X.1.2.1
  have hit := hz
  clear hz
  unfold CJ8_checkBoundsOffCount at hit
  have hl : lv_has ls 3 [(0, .int a0), (1, .int a1), (2, .int a2)] := hl
  refine lv_iload_n hx hb dJ8_checkBoundsOffCount_0 rfl (lv_at hl 0 rfl) ?_
  refine lv_iload_n hx hb dJ8_checkBoundsOffCount_1 rfl (lv_at hl 1 rfl) ?_
  refine lv_iload_n hx hb dJ8_checkBoundsOffCount_2 rfl (lv_at hl 2 rfl) ?_
  refine c_getsq X (fun _ h => h) (va_S.rf (A := γ.2.2.2.2.1)) X.2.1.1.2.1 q570 dJ8_checkBoundsOffCount_3 (fun n1 => ?_)
  obtain ⟨q2, eq2, hit⟩ := o_bind hit
  refine c_cP X.1 (wCJ11_checkFromIndexSize l _ _ _ _ _ eq2) nm_J11_checkFromIndexSize q1142 q1143 q151 q1144 ⟨Nat.le_trans (Nat.le_of_ble_eq_true rfl) hR.1, Nat.le_trans (Nat.le_of_ble_eq_true rfl) hR.2⟩ ⟨Nat.zero_le _, Nat.zero_le _⟩ rfl rfl hl.1 (lv_room (Nat.le_of_ble_eq_true rfl)) dJ8_checkBoundsOffCount_6 ?_
  have he := o_in hit
  exact hend (.int q2) _ _ _ _ (kOut_i rfl) (congrArg Value.int he) dJ8_checkBoundsOffCount_9
noncomputable def CJ10_checkBoundsOffCount (K : Nat → Nat) (h : CH) (a0 : Int32) (a1 : Int32) (a2 : Nat) : Option (Unit) :=
  (CJ10_length K h a2).bind fun q1 =>
  (CJ8_checkBoundsOffCount h a0 a1 q1).bind fun q2 =>
  some ()
theorem nm_J10_checkBoundsOffCount : kNm yJ10_checkBoundsOffCount RJ10 3 := by unfold kNm; decide +kernel
set_option maxHeartbeats 4000000 in
set_option maxRecDepth 100000 in
theorem wCJ10_checkBoundsOffCount (l : Launch) (γ : KG) (hO : kOK γ) (h : CH) (a0 : Int32) (a1 : Int32) (a2 : Nat) (z : Unit) (hz : CJ10_checkBoundsOffCount γ.2.2.2.2.2 h a0 a1 a2 = some z) : Met l yJ10_checkBoundsOffCount (ws_ yJ10_checkBoundsOffCount cJ10_checkBoundsOffCount 3 none) (kRm 2 45) (cPc γ h [.int a0, .int a1, .ref a2]) cRv 0 0 vp_nf := by
  refine c_startRv (cc := cJ10_checkBoundsOffCount) (own := RJ10) hO rfl rfl rfl (fun p e R s m args below meth c Q ls X hR hH hDU hl hend => ?_)
  have hx := X.1.1
  have hb := X.1.2.1
  have hit := hz
  clear hz
  unfold CJ10_checkBoundsOffCount at hit
  have hl : lv_has ls 3 [(0, .int a0), (1, .int a1), (2, .ref a2)] := hl
  refine lv_iload_n hx hb dJ10_checkBoundsOffCount_0 rfl (lv_at hl 0 rfl) ?_
  refine lv_iload_n hx hb dJ10_checkBoundsOffCount_1 rfl (lv_at hl 1 rfl) ?_
  refine lv_aload_n hx hb dJ10_checkBoundsOffCount_2 rfl (lv_at hl 2 rfl) ?_
  obtain ⟨q1, eq1, hit⟩ := o_bind hit
  refine c_cRS X hH hDU (wCJ10_length l γ X.2.1 _ _ _ eq1) nm_J10_length q578 q579 q150 q580 ⟨Nat.le_trans (Nat.le_of_ble_eq_true rfl) hR.1, Nat.le_trans (Nat.le_of_ble_eq_true rfl) hR.2⟩ ⟨Nat.zero_le _, Nat.zero_le _⟩ rfl rfl hl.1 (lv_room (Nat.le_of_ble_eq_true rfl)) dJ10_checkBoundsOffCount_3 ?_
  obtain ⟨q2, eq2, hit⟩ := o_bind hit
  refine c_cRS X hH hDU (wCJ8_checkBoundsOffCount l γ X.2.1 _ _ _ _ _ eq2) nm_J8_checkBoundsOffCount q1139 q1140 q148 q1141 ⟨Nat.le_trans (Nat.le_of_ble_eq_true rfl) hR.1, Nat.le_trans (Nat.le_of_ble_eq_true rfl) hR.2⟩ ⟨Nat.zero_le _, Nat.zero_le _⟩ rfl rfl hl.1 (lv_room (Nat.le_of_ble_eq_true rfl)) dJ10_checkBoundsOffCount_6 ?_
  refine lv_pop hx hb dJ10_checkBoundsOffCount_9 rfl ?_
  have he := o_in hit
  exact hend _ _ dJ10_checkBoundsOffCount_10
noncomputable def CJ10_putChar (h : CH) (a0 : Nat) (a1 : Int32) (a2 : Int32) : Option (CH) :=
  none
theorem nm_J10_putChar : kNm yJ10_putChar RJ10 3 := by unfold kNm; decide +kernel
set_option maxHeartbeats 4000000 in
set_option maxRecDepth 100000 in
theorem wCJ10_putChar (l : Launch) (γ : KG) (hO : kOK γ) (h : CH) (a0 : Nat) (a1 : Int32) (a2 : Int32) (z : CH) (hz : CJ10_putChar h a0 a1 a2 = some z) : Met l yJ10_putChar (ws_ yJ10_putChar cJ10_putChar 3 none) (kRm 1 20) (cPc γ h [.ref a0, .int a1, .int a2]) (cNq γ h none z) 0 0 (kdm h) := by
  refine c_startN (cc := cJ10_putChar) (own := RJ10) hO rfl rfl rfl (fun p e R s m args below meth c Q ls X hR h0H hI hl hend => ?_)
  have hx := X.1.1
  have hb := X.1.2.1
  have hit := hz
  clear hz
  unfold CJ10_putChar at hit
  have hl : lv_has ls 3 [(0, .ref a0), (1, .int a1), (2, .int a2)] := hl
  cases hit
noncomputable def CJ10_inflate_L10 (K : Nat → Nat) (a0 : Nat) (a2 : Nat) (a4 : Int32) (t2 : Int32 × Int32 × Int32 × CH) : Option ((Int32 × Int32 × Int32 × CH) ⊕ CH) :=
  if t2.2.2.1 < a4 then
    ((aIb K t2.2.2.2 a0 t2.1).bind fun v5 =>
    (CJ10_putChar t2.2.2.2 a2 t2.2.1 (v5 &&& 255)).bind fun q6 =>
    some (.inl ((t2.1 + 1), (t2.2.1 + 1), (t2.2.2.1 + 1), q6)))
  else
    (some (.inr t2.2.2.2))
noncomputable def CJ10_inflate (K : Nat → Nat) (h : CH) (a0 : Nat) (a1 : Int32) (a2 : Nat) (a3 : Int32) (a4 : Int32) : Option (CH) :=
  (CJ10_checkBoundsOffCount K h a3 a4 a2).bind fun q1 =>
  o_loop (CJ10_inflate_L10 K a0 a2 a4) (a1, a3, 0, h)
theorem nm_J10_inflate : kNm yJ10_inflate RJ10 5 := by unfold kNm; decide +kernel
set_option maxHeartbeats 4000000 in
set_option maxRecDepth 100000 in
theorem wCJ10_inflate (l : Launch) (γ : KG) (hO : kOK γ) (h : CH) (a0 : Nat) (a1 : Int32) (a2 : Nat) (a3 : Int32) (a4 : Int32) (z : CH) (hz : CJ10_inflate γ.2.2.2.2.2 h a0 a1 a2 a3 a4 = some z) : Met l yJ10_inflate (ws_ yJ10_inflate cJ10_inflate 6 none) (kRm 3 67) (cPc γ h [.ref a0, .int a1, .ref a2, .int a3, .int a4]) (cNq γ h none z) 0 0 (kdm h) := by
  refine c_startN (cc := cJ10_inflate) (own := RJ10) hO rfl rfl rfl (fun p e R s m args below meth c Q ls X hR h0H hI hl hend => ?_)
  have hx := X.1.1
  have hb := X.1.2.1
  have hit := hz
  clear hz
  unfold CJ10_inflate at hit
  have hl : lv_has ls 6 [(0, .ref a0), (1, .int a1), (2, .ref a2), (3, .int a3), (4, .int a4)] := hl
  refine lv_iload_n hx hb dJ10_inflate_0 rfl (lv_at hl 3 rfl) ?_
  refine lv_iload hx hb dJ10_inflate_1 (lv_at hl 4 rfl) ?_
  refine lv_aload_n hx hb dJ10_inflate_3 rfl (lv_at hl 2 rfl) ?_
  obtain ⟨q1, eq1, hit⟩ := o_bind hit
  refine c_cRSv X hI.1 (fun U hU hW => hI.D X.2.2 (c_AF h0H) hU hW) (wCJ10_checkBoundsOffCount l γ X.2.1 _ _ _ _ _ eq1) nm_J10_checkBoundsOffCount q1136 q1137 q150 q1138 ⟨Nat.le_trans (Nat.le_of_ble_eq_true rfl) hR.1, Nat.le_trans (Nat.le_of_ble_eq_true rfl) hR.2⟩ ⟨Nat.zero_le _, Nat.zero_le _⟩ rfl rfl hl.1 (lv_room (Nat.le_of_ble_eq_true rfl)) dJ10_inflate_4 ?_
  refine lv_iconst (v := 0) hx hb dJ10_inflate_7 (by decide) ?_
  refine lv_istore (lv' := [(5, .int 0), (0, .ref a0), (1, .int a1), (2, .ref a2), (3, .int a3), (4, .int a4)]) hx hb dJ10_inflate_8 hl (by decide) rfl (fun ls hl => ?_)
  refine o_rec (P := fun t2 => ∀ (H : Heap) (locs : List Loc) (ls : Array Slot), NI γ (kdm h) s.heap.size s t2.2.2.2 H locs → lv_has ls 6 [(0, .ref a0), (2, .ref a2), (4, .int a4), (1, .int t2.1), (3, .int t2.2.1), (5, .int t2.2.2.1)] → W p l e R s m args below meth c H locs 0 0 Q (F0 m 10 ls [])) (fun t2 x3 hit hC2 hE2 H locs ls hI hl => ?_) _ hit _ _ _ hI (lv_sub hl [1, 3, 5, 2, 4, 0] rfl)
  unfold CJ10_inflate_L10 at hit
  refine lv_iload hx hb dJ10_inflate_10 (lv_at hl 5 rfl) ?_
  refine lv_iload hx hb dJ10_inflate_12 (lv_at hl 2 rfl) ?_
  refine b_icmp_ge (tgt := 41) hx hb dJ10_inflate_14 (by decide) hit (fun c4 hit => ?_) (fun c4 hit => ?_)
  · have he := o_in hit
    have he := hE2 _ he
    exact hend none _ _ _ _ _ _ _ kOut_v (by subst he; rfl) hI dJ10_inflate_41
  · refine lv_aload_n hx hb dJ10_inflate_17 rfl (lv_at hl 1 rfl) ?_
    refine lv_iload_n hx hb dJ10_inflate_18 rfl (lv_at hl 4 rfl) ?_
    refine lv_iinc (k := 4) (v := (t2.2.1 + 1)) (lv' := [(3, .int (t2.2.1 + 1)), (0, .ref a0), (2, .ref a2), (4, .int a4), (1, .int t2.1), (5, .int t2.2.2.1)]) hx hb dJ10_inflate_19 hl rfl rfl (by decide) rfl (fun ls hl => ?_)
    refine lv_aload_n hx hb dJ10_inflate_22 rfl (lv_at hl 1 rfl) ?_
    refine lv_iload_n hx hb dJ10_inflate_23 rfl (lv_at hl 4 rfl) ?_
    refine lv_iinc (k := 4) (v := (t2.1 + 1)) (lv' := [(1, .int (t2.1 + 1)), (3, .int (t2.2.1 + 1)), (0, .ref a0), (2, .ref a2), (4, .int a4), (5, .int t2.2.2.1)]) hx hb dJ10_inflate_24 hl rfl rfl (by decide) rfl (fun ls hl => ?_)
    obtain ⟨v5, ev5, hit⟩ := o_bind hit
    refine c_baldB X (c_AF h0H) hI.2.1 hI.1 ev5 dJ10_inflate_27 ?_
    refine lv_sipush (v := 255) hx hb dJ10_inflate_28 (by decide) ?_
    refine lv_iand hx hb dJ10_inflate_31 ?_
    obtain ⟨q6, eq6, hit⟩ := o_bind hit
    refine c_cNS X (c_AF h0H) hI nm_J10_putChar q1145 q1146 q150 q1147 (wCJ10_putChar l γ X.2.1 _ _ _ _ _ eq6) ⟨Nat.zero_le _, Nat.zero_le _⟩ ⟨Nat.le_trans (Nat.le_of_ble_eq_true rfl) hR.1, Nat.le_trans (Nat.le_of_ble_eq_true rfl) hR.2⟩ rfl rfl hl.1 (lv_room (Nat.le_of_ble_eq_true rfl)) dJ10_inflate_32 (fun H locs hI => ?_)
    refine lv_iinc (k := 5) (v := (t2.2.2.1 + 1)) (lv' := [(5, .int (t2.2.2.1 + 1)), (1, .int (t2.1 + 1)), (3, .int (t2.2.1 + 1)), (0, .ref a0), (2, .ref a2), (4, .int a4)]) hx hb dJ10_inflate_35 hl rfl rfl (by decide) rfl (fun ls hl => ?_)
    refine lv_goto (tgt := 10) hx hb dJ10_inflate_38 (by decide) ?_
    have he := o_in hit
    exact hC2 _ he _ _ _ hI (lv_sub hl [3, 4, 5, 1, 2, 0] rfl)
noncomputable def CJ9_inflate (K : Nat → Nat) (h : CH) (a0 : Nat) (a1 : Int32) (a2 : Nat) (a3 : Int32) (a4 : Int32) : Option (CH) :=
  (CJ10_inflate K h a0 a1 a2 a3 a4).bind fun q1 =>
  some q1
theorem nm_J9_inflate : kNm yJ9_inflate RJ9 5 := by unfold kNm; decide +kernel
set_option maxHeartbeats 4000000 in
set_option maxRecDepth 100000 in
theorem wCJ9_inflate (l : Launch) (γ : KG) (hO : kOK γ) (h : CH) (a0 : Nat) (a1 : Int32) (a2 : Nat) (a3 : Int32) (a4 : Int32) (z : CH) (hz : CJ9_inflate γ.2.2.2.2.2 h a0 a1 a2 a3 a4 = some z) : Met l yJ9_inflate (ws_ yJ9_inflate cJ9_inflate 5 none) (kRm 4 92) (cPc γ h [.ref a0, .int a1, .ref a2, .int a3, .int a4]) (cNq γ h none z) 0 0 (kdm h) := by
  refine c_startN (cc := cJ9_inflate) (own := RJ9) hO rfl rfl rfl (fun p e R s m args below meth c Q ls X hR h0H hI hl hend => ?_)
  have hx := X.1.1
  have hb := X.1.2.1
  have hit := hz
  clear hz
  unfold CJ9_inflate at hit
  have hl : lv_has ls 5 [(0, .ref a0), (1, .int a1), (2, .ref a2), (3, .int a3), (4, .int a4)] := hl
  refine lv_aload_n hx hb dJ9_inflate_0 rfl (lv_at hl 0 rfl) ?_
  refine lv_iload_n hx hb dJ9_inflate_1 rfl (lv_at hl 1 rfl) ?_
  refine lv_aload_n hx hb dJ9_inflate_2 rfl (lv_at hl 2 rfl) ?_
  refine lv_iload_n hx hb dJ9_inflate_3 rfl (lv_at hl 3 rfl) ?_
  refine lv_iload hx hb dJ9_inflate_4 (lv_at hl 4 rfl) ?_
  obtain ⟨q1, eq1, hit⟩ := o_bind hit
  refine c_cNS X (c_AF h0H) hI nm_J10_inflate q1133 q1134 q150 q1135 (wCJ10_inflate l γ X.2.1 _ _ _ _ _ _ _ eq1) ⟨Nat.zero_le _, Nat.zero_le _⟩ ⟨Nat.le_trans (Nat.le_of_ble_eq_true rfl) hR.1, Nat.le_trans (Nat.le_of_ble_eq_true rfl) hR.2⟩ rfl rfl hl.1 (lv_room (Nat.le_of_ble_eq_true rfl)) dJ9_inflate_6 (fun H locs hI => ?_)
  have he := o_in hit
  exact hend none _ _ _ _ _ _ _ kOut_v (by subst he; rfl) hI dJ9_inflate_9
noncomputable def CJ13_inflate (K : Nat → Nat) (h : CH) (r : CR) (o : Nat) : Option (CS) :=
  (vc h o 11 (CJ13_isLatin1 h o)).bind fun q1 =>
  if q1 = 0 then
    (some (h, r))
  else
    ((gR h o 11 0).bind fun v3 =>
    (aNb K h v3).bind fun v4 =>
    (achk r (CJ10_newBytesFor h r v4)).bind fun q5 =>
    (gR q5.2.1 o 11 0).bind fun v6 =>
    (gI q5.2.1 o 11 3).bind fun v7 =>
    (CJ9_inflate K q5.2.1 v6 0 q5.1 0 v7).bind fun q8 =>
    (pQ q8 o 11 0 (some q5.1)).bind fun s9 =>
    (pI s9 o 11 1 1).bind fun s10 =>
    some (s10, q5.2.2))
theorem nm_J13_inflate : kNm yJ13_inflate RJ13 0 := by unfold kNm; decide +kernel
set_option maxHeartbeats 4000000 in
set_option maxRecDepth 100000 in
theorem wCJ13_inflate (l : Launch) (γ : KG) (hO : kOK γ) (h : CH) (r : CR) (o : Nat) (z : CS) (hz : CJ13_inflate γ.2.2.2.2.2 h r o = some z) : aMet l yJ13_inflate (ws_ yJ13_inflate cJ13_inflate 2 none) 5 116 γ (h, r) [.ref o] none z := by
  refine a_start (cc := cJ13_inflate) (own := RJ13) hO rfl rfl rfl (fun p e R s m args below meth c Q ls X hR hnm h0H hA hl hend => ?_)
  have hx := X.1.1
  have hb := X.1.2.1
  have hit := hz
  clear hz
  unfold CJ13_inflate at hit
  have hl : lv_has ls 2 [(0, .ref o)] := hl
  refine lv_aload_n hx hb dJ13_inflate_0 rfl (lv_at hl 0 rfl) ?_
  obtain ⟨q1, eq1, hit⟩ := o_bind hit
  obtain ⟨iq1, eq1⟩ := vc_inv eq1
  refine c_cRx X hA.1.1 (fun U hU hW => hA.D X.2.1 X.2.2 h0H hU hW) kc_StringBuilder iq1 nm_J13_isLatin1 q1118 q1119 q157 q1122 (X.1.2.2.2.2 _ q1121) (wCJ13_isLatin1 l γ X.2.1 _ _  _ eq1) hA.RR ⟨Nat.le_trans (Nat.le_of_ble_eq_true rfl) hR.1, Nat.le_trans (Nat.le_of_ble_eq_true rfl) hR.2⟩ rfl rfl hl.1 (lv_room (Nat.le_of_ble_eq_true rfl)) dJ13_inflate_1 ?_
  refine b_if_ne (tgt := 8) hx hb dJ13_inflate_4 (by decide) hit (fun c2 hit => ?_) (fun c2 hit => ?_)
  · refine lv_aload_n hx hb dJ13_inflate_8 rfl (lv_at hl 0 rfl) ?_
    obtain ⟨v3, ev3, hit⟩ := o_bind hit
    refine c_getR X hA.1.1 kc_StringBuilder 0 q1063 (Or.inl rfl) rfl rfl ev3 dJ13_inflate_9 ?_
    obtain ⟨v4, ev4, hit⟩ := o_bind hit
    refine c_alenB X (kA_F X.2.1 X.2.2 h0H) hA.1.2.1 hA.1.1 ev4 dJ13_inflate_12 ?_
    obtain ⟨q5, eq5, hit⟩ := o_bind hit
    obtain ⟨eq5, lq5⟩ := achk_inv eq5
    refine a_cS X h0H hA nm_J10_newBytesFor q1056 q1057 q150 q1058 (wCJ10_newBytesFor l γ X.2.1 _ _ _ _ eq5) lq5 ⟨Nat.le_trans (Nat.le_of_ble_eq_true rfl) hR.1, Nat.le_trans (Nat.le_of_ble_eq_true rfl) hR.2⟩ rfl rfl hl.1 (lv_room (Nat.le_of_ble_eq_true rfl)) dJ13_inflate_13 (fun H locs cells slots hA => ?_)
    refine lv_astore_n (lv' := [(1, .ref q5.1), (0, .ref o)]) hx hb dJ13_inflate_16 rfl hl (by decide) rfl (fun ls hl => ?_)
    refine lv_aload_n hx hb dJ13_inflate_17 rfl (lv_at hl 1 rfl) ?_
    obtain ⟨v6, ev6, hit⟩ := o_bind hit
    refine c_getR X hA.1.1 kc_StringBuilder 0 q1063 (Or.inl rfl) rfl rfl ev6 dJ13_inflate_18 ?_
    refine lv_iconst (v := 0) hx hb dJ13_inflate_21 (by decide) ?_
    refine lv_aload_n hx hb dJ13_inflate_22 rfl (lv_at hl 0 rfl) ?_
    refine lv_iconst (v := 0) hx hb dJ13_inflate_23 (by decide) ?_
    refine lv_aload_n hx hb dJ13_inflate_24 rfl (lv_at hl 1 rfl) ?_
    obtain ⟨v7, ev7, hit⟩ := o_bind hit
    refine c_getI X hA.1.1 kc_StringBuilder 3 q1065 (Or.inl rfl) rfl rfl ev7 dJ13_inflate_25 ?_
    obtain ⟨q8, eq8, hit⟩ := o_bind hit
    refine c_cNS X (kA_F X.2.1 X.2.2 h0H) hA.1 nm_J9_inflate q1130 q1131 q149 q1132 (wCJ9_inflate l γ X.2.1 _ _ _ _ _ _ _ eq8) hA.RR ⟨Nat.le_trans (Nat.le_of_ble_eq_true rfl) hR.1, Nat.le_trans (Nat.le_of_ble_eq_true rfl) hR.2⟩ rfl rfl hl.1 (lv_room (Nat.le_of_ble_eq_true rfl)) dJ13_inflate_28 (fun H locs hI => ?_)
    replace hA := hA.up hI
    clear hI
    refine lv_aload_n hx hb dJ13_inflate_31 rfl (lv_at hl 1 rfl) ?_
    refine lv_aload_n hx hb dJ13_inflate_32 rfl (lv_at hl 0 rfl) ?_
    obtain ⟨s9, es9, hit⟩ := o_bind hit
    refine c_putQ X hA.1 kc_StringBuilder 0 q1063 (Or.inl rfl) rfl rfl (v := (some q5.1)) (tyv := (.array .byte)) rfl (Or.inr ⟨_, rfl⟩) es9 dJ13_inflate_33 (fun H locs hI => ?_)
    replace hA := hA.up hI
    clear hI
    refine lv_aload_n hx hb dJ13_inflate_36 rfl (lv_at hl 1 rfl) ?_
    refine lv_iconst (v := 1) hx hb dJ13_inflate_37 (by decide) ?_
    obtain ⟨s10, es10, hit⟩ := o_bind hit
    refine c_putI X hA.1 kc_StringBuilder 1 q1064 (Or.inl rfl) rfl rfl (tyv := .byte) rfl rfl rfl es10 dJ13_inflate_38 (fun H locs hI => ?_)
    replace hA := hA.up hI
    clear hI
    have he := o_in hit
    exact hend none (s10, q5.2.2) _ _ _ _ _ _ _ _ kOut_v (by subst he; rfl) hA dJ13_inflate_41
  · have he := o_in hit
    exact hend none (h, r) _ _ _ _ _ _ _ _ kOut_v (by subst he; rfl) hA dJ13_inflate_7
noncomputable def CJ8_checkIndex (h : CH) (a0 : Int32) (a1 : Int32) : Option (Unit) :=
  (CJ11_checkIndex a0 a1).bind fun q2 =>
  some ()
theorem nm_J8_checkIndex : kNm yJ8_checkIndex RJ8 2 := by unfold kNm; decide +kernel
set_option maxHeartbeats 4000000 in
set_option maxRecDepth 100000 in
theorem wCJ8_checkIndex (l : Launch) (γ : KG) (hO : kOK γ) (h : CH) (a0 : Int32) (a1 : Int32) (z : Unit) (hz : CJ8_checkIndex h a0 a1 = some z) : Met l yJ8_checkIndex (ws_ yJ8_checkIndex cJ8_checkIndex 2 none) (kRm 1 22) (cPc γ h [.int a0, .int a1]) cRv 0 0 vp_nf := by
  refine c_startRv (cc := cJ8_checkIndex) (own := RJ8) hO rfl rfl rfl (fun p e R s m args below meth c Q ls X hR hH hDU hl hend => ?_)
  have hx := X.1.1
  have hb := X.1.2.1
  have hit := hz
  clear hz
  unfold CJ8_checkIndex at hit
  have hl : lv_has ls 2 [(0, .int a0), (1, .int a1)] := hl
  refine lv_iload_n hx hb dJ8_checkIndex_0 rfl (lv_at hl 0 rfl) ?_
  refine lv_iload_n hx hb dJ8_checkIndex_1 rfl (lv_at hl 1 rfl) ?_
  refine c_getsq X (fun _ h => h) (va_S.rf (A := γ.2.2.2.2.1)) X.2.1.1.2.1 q570 dJ8_checkIndex_2 (fun n1 => ?_)
  obtain ⟨q2, eq2, hit⟩ := o_bind hit
  refine c_cP X.1 (wCJ11_checkIndex l _ _ _ _ eq2) nm_J11_checkIndex q572 q444 q151 q445 ⟨Nat.le_trans (Nat.le_of_ble_eq_true rfl) hR.1, Nat.le_trans (Nat.le_of_ble_eq_true rfl) hR.2⟩ ⟨Nat.zero_le _, Nat.zero_le _⟩ rfl rfl hl.1 (lv_room (Nat.le_of_ble_eq_true rfl)) dJ8_checkIndex_5 ?_
  refine lv_pop hx hb dJ8_checkIndex_8 rfl ?_
  have he := o_in hit
  exact hend _ _ dJ8_checkIndex_9
noncomputable def CJ10_checkIndex (K : Nat → Nat) (h : CH) (a0 : Int32) (a1 : Nat) : Option (Unit) :=
  (CJ10_length K h a1).bind fun q1 =>
  (CJ8_checkIndex h a0 q1).bind fun q2 =>
  some ()
theorem nm_J10_checkIndex : kNm yJ10_checkIndex RJ10 2 := by unfold kNm; decide +kernel
set_option maxHeartbeats 4000000 in
set_option maxRecDepth 100000 in
theorem wCJ10_checkIndex (l : Launch) (γ : KG) (hO : kOK γ) (h : CH) (a0 : Int32) (a1 : Nat) (z : Unit) (hz : CJ10_checkIndex γ.2.2.2.2.2 h a0 a1 = some z) : Met l yJ10_checkIndex (ws_ yJ10_checkIndex cJ10_checkIndex 2 none) (kRm 2 43) (cPc γ h [.int a0, .ref a1]) cRv 0 0 vp_nf := by
  refine c_startRv (cc := cJ10_checkIndex) (own := RJ10) hO rfl rfl rfl (fun p e R s m args below meth c Q ls X hR hH hDU hl hend => ?_)
  have hx := X.1.1
  have hb := X.1.2.1
  have hit := hz
  clear hz
  unfold CJ10_checkIndex at hit
  have hl : lv_has ls 2 [(0, .int a0), (1, .ref a1)] := hl
  refine lv_iload_n hx hb dJ10_checkIndex_0 rfl (lv_at hl 0 rfl) ?_
  refine lv_aload_n hx hb dJ10_checkIndex_1 rfl (lv_at hl 1 rfl) ?_
  obtain ⟨q1, eq1, hit⟩ := o_bind hit
  refine c_cRS X hH hDU (wCJ10_length l γ X.2.1 _ _ _ eq1) nm_J10_length q578 q579 q150 q580 ⟨Nat.le_trans (Nat.le_of_ble_eq_true rfl) hR.1, Nat.le_trans (Nat.le_of_ble_eq_true rfl) hR.2⟩ ⟨Nat.zero_le _, Nat.zero_le _⟩ rfl rfl hl.1 (lv_room (Nat.le_of_ble_eq_true rfl)) dJ10_checkIndex_2 ?_
  obtain ⟨q2, eq2, hit⟩ := o_bind hit
  refine c_cRSv X hH hDU (wCJ8_checkIndex l γ X.2.1 _ _ _ _ eq2) nm_J8_checkIndex q947 q568 q148 q569 ⟨Nat.le_trans (Nat.le_of_ble_eq_true rfl) hR.1, Nat.le_trans (Nat.le_of_ble_eq_true rfl) hR.2⟩ ⟨Nat.zero_le _, Nat.zero_le _⟩ rfl rfl hl.1 (lv_room (Nat.le_of_ble_eq_true rfl)) dJ10_checkIndex_5 ?_
  have he := o_in hit
  exact hend _ _ dJ10_checkIndex_8
noncomputable def CJ10_putCharSB (K : Nat → Nat) (h : CH) (a0 : Nat) (a1 : Int32) (a2 : Int32) : Option (CH) :=
  (CJ10_checkIndex K h a1 a0).bind fun q1 =>
  (CJ10_putChar h a0 a1 a2).bind fun q2 =>
  some q2
theorem nm_J10_putCharSB : kNm yJ10_putCharSB RJ10 3 := by unfold kNm; decide +kernel
set_option maxHeartbeats 4000000 in
set_option maxRecDepth 100000 in
theorem wCJ10_putCharSB (l : Launch) (γ : KG) (hO : kOK γ) (h : CH) (a0 : Nat) (a1 : Int32) (a2 : Int32) (z : CH) (hz : CJ10_putCharSB γ.2.2.2.2.2 h a0 a1 a2 = some z) : Met l yJ10_putCharSB (ws_ yJ10_putCharSB cJ10_putCharSB 3 none) (kRm 3 64) (cPc γ h [.ref a0, .int a1, .int a2]) (cNq γ h none z) 0 0 (kdm h) := by
  refine c_startN (cc := cJ10_putCharSB) (own := RJ10) hO rfl rfl rfl (fun p e R s m args below meth c Q ls X hR h0H hI hl hend => ?_)
  have hx := X.1.1
  have hb := X.1.2.1
  have hit := hz
  clear hz
  unfold CJ10_putCharSB at hit
  have hl : lv_has ls 3 [(0, .ref a0), (1, .int a1), (2, .int a2)] := hl
  refine lv_iload_n hx hb dJ10_putCharSB_0 rfl (lv_at hl 1 rfl) ?_
  refine lv_aload_n hx hb dJ10_putCharSB_1 rfl (lv_at hl 0 rfl) ?_
  obtain ⟨q1, eq1, hit⟩ := o_bind hit
  refine c_cRSv X hI.1 (fun U hU hW => hI.D X.2.2 (c_AF h0H) hU hW) (wCJ10_checkIndex l γ X.2.1 _ _ _ _ eq1) nm_J10_checkIndex q944 q945 q150 q946 ⟨Nat.le_trans (Nat.le_of_ble_eq_true rfl) hR.1, Nat.le_trans (Nat.le_of_ble_eq_true rfl) hR.2⟩ ⟨Nat.zero_le _, Nat.zero_le _⟩ rfl rfl hl.1 (lv_room (Nat.le_of_ble_eq_true rfl)) dJ10_putCharSB_2 ?_
  refine lv_aload_n hx hb dJ10_putCharSB_5 rfl (lv_at hl 0 rfl) ?_
  refine lv_iload_n hx hb dJ10_putCharSB_6 rfl (lv_at hl 1 rfl) ?_
  refine lv_iload_n hx hb dJ10_putCharSB_7 rfl (lv_at hl 2 rfl) ?_
  obtain ⟨q2, eq2, hit⟩ := o_bind hit
  refine c_cNS X (c_AF h0H) hI nm_J10_putChar q1145 q1146 q150 q1147 (wCJ10_putChar l γ X.2.1 _ _ _ _ _ eq2) ⟨Nat.zero_le _, Nat.zero_le _⟩ ⟨Nat.le_trans (Nat.le_of_ble_eq_true rfl) hR.1, Nat.le_trans (Nat.le_of_ble_eq_true rfl) hR.2⟩ rfl rfl hl.1 (lv_room (Nat.le_of_ble_eq_true rfl)) dJ10_putCharSB_8 (fun H locs hI => ?_)
  have he := o_in hit
  exact hend none _ _ _ _ _ _ _ kOut_v (by subst he; rfl) hI dJ10_putCharSB_11
noncomputable def CJ13_append_J45 (K : Nat → Nat) (o : Nat) (a0 : Int32) (q2 : CS) : Option (Nat × CS) :=
  (vc q2.1 o 11 (CJ13_isLatin1 q2.1 o)).bind fun q4 =>
  ((if q4 = 0 then
      (some q2)
    else
      ((vc q2.1 o 11 (achv q2.2 (CJ13_inflate K q2.1 q2.2 o))).bind fun q11 =>
      some q11) : Option CS)).bind fun r5 =>
  (gR r5.1 o 11 0).bind fun v6 =>
  (gI r5.1 o 11 3).bind fun v7 =>
  (pI r5.1 o 11 3 (v7 + 1)).bind fun s8 =>
  (CJ10_putCharSB K s8 v6 v7 a0).bind fun q9 =>
  some (o, (q9, r5.2))
noncomputable def CJ13_append (K : Nat → Nat) (h : CH) (r : CR) (o : Nat) (a0 : Int32) : Option (Nat × CS) :=
  (gI h o 11 3).bind fun v1 =>
  (vc h o 11 (achv r (CJ13_ensureCapacityInternal K h r o (v1 + 1)))).bind fun q2 =>
  (vc q2.1 o 11 (CJ13_isLatin1 q2.1 o)).bind fun q3 =>
  if q3 = 0 then
    (CJ13_append_J45 K o a0 q2)
  else
    ((CJ9_canEncode_2 a0).bind fun q13 =>
    if q13 = 0 then
      (CJ13_append_J45 K o a0 q2)
    else
      ((gR q2.1 o 11 0).bind fun v15 =>
      (gI q2.1 o 11 3).bind fun v16 =>
      (pI q2.1 o 11 3 (v16 + 1)).bind fun s17 =>
      (sI s17 v15 2 v16 (vp_nar .byte (i2b_ a0))).bind fun s18 =>
      some (o, (s18, q2.2))))
theorem nm_J13_append : kNm yJ13_append RJ13 1 := by unfold kNm; decide +kernel
set_option maxHeartbeats 4000000 in
set_option maxRecDepth 100000 in
theorem wCJ13_append (l : Launch) (γ : KG) (hO : kOK γ) (h : CH) (r : CR) (o : Nat) (a0 : Int32) (z : Nat × CS) (hz : CJ13_append γ.2.2.2.2.2 h r o a0 = some z) : aMet l yJ13_append (ws_ yJ13_append cJ13_append 2 (some (.object "java/lang/AbstractStringBuilder"))) 6 137 γ (h, r) [.ref o, .int a0] (some (.ref z.1)) z.2 := by
  refine a_start (cc := cJ13_append) (own := RJ13) hO rfl rfl rfl (fun p e R s m args below meth c Q ls X hR hnm h0H hA hl hend => ?_)
  have hx := X.1.1
  have hb := X.1.2.1
  have hit := hz
  clear hz
  unfold CJ13_append at hit
  have hl : lv_has ls 2 [(0, .ref o), (1, .int a0)] := hl
  refine lv_aload_n hx hb dJ13_append_0 rfl (lv_at hl 0 rfl) ?_
  refine lv_aload_n hx hb dJ13_append_1 rfl (lv_at hl 0 rfl) ?_
  obtain ⟨v1, ev1, hit⟩ := o_bind hit
  refine c_getI X hA.1.1 kc_StringBuilder 3 q1065 (Or.inl rfl) rfl rfl ev1 dJ13_append_2 ?_
  refine lv_iconst (v := 1) hx hb dJ13_append_5 (by decide) ?_
  refine lv_iadd hx hb dJ13_append_6 ?_
  obtain ⟨q2, eq2, hit⟩ := o_bind hit
  obtain ⟨iq2, eq2⟩ := vc_inv eq2
  obtain ⟨eq2, lq2⟩ := achv_inv eq2
  refine a_cVx X h0H hA kc_StringBuilder iq2 nm_J13_ensureCapacityInternal q1098 q1100 q157 q1101 (c_selPriv (y2 := ⟨"java/lang/AbstractStringBuilder", "isLatin1", "()Z"⟩) X.2.1 X.2.2 X.1.2.2.2.2 (by decide) q1121 rfl q1099 q1100) (wCJ13_ensureCapacityInternal l γ X.2.1 _ _ _ _ _ eq2) lq2 ⟨Nat.le_trans (Nat.le_of_ble_eq_true rfl) hR.1, Nat.le_trans (Nat.le_of_ble_eq_true rfl) hR.2⟩ rfl rfl hl.1 (lv_room (Nat.le_of_ble_eq_true rfl)) dJ13_append_7 (fun H locs cells slots hA => ?_)
  refine lv_aload_n hx hb dJ13_append_10 rfl (lv_at hl 0 rfl) ?_
  obtain ⟨q3, eq3, hit⟩ := o_bind hit
  obtain ⟨iq3, eq3⟩ := vc_inv eq3
  refine c_cRx X hA.1.1 (fun U hU hW => hA.D X.2.1 X.2.2 h0H hU hW) kc_StringBuilder iq3 nm_J13_isLatin1 q1118 q1119 q157 q1122 (X.1.2.2.2.2 _ q1121) (wCJ13_isLatin1 l γ X.2.1 _ _  _ eq3) hA.RR ⟨Nat.le_trans (Nat.le_of_ble_eq_true rfl) hR.1, Nat.le_trans (Nat.le_of_ble_eq_true rfl) hR.2⟩ rfl rfl hl.1 (lv_room (Nat.le_of_ble_eq_true rfl)) dJ13_append_11 ?_
  have hK45 : CJ13_append_J45 γ.2.2.2.2.2 o a0 q2 = some z → ∀ (H : Heap) (locs : List Loc) (cells slots : Nat) (ls : Array Slot), AI γ (h, r) s R q2.1 q2.2 H locs cells slots → lv_has ls 2 [(0, .ref o), (1, .int a0)] → W p l e R s m args below meth c H locs cells slots Q (F0 m 45 ls []) := by
    intro  hit H locs cells slots ls hA hl
    unfold CJ13_append_J45 at hit
    refine lv_aload_n hx hb dJ13_append_45 rfl (lv_at hl 0 rfl) ?_
    obtain ⟨q4, eq4, hit⟩ := o_bind hit
    obtain ⟨iq4, eq4⟩ := vc_inv eq4
    refine c_cRx X hA.1.1 (fun U hU hW => hA.D X.2.1 X.2.2 h0H hU hW) kc_StringBuilder iq4 nm_J13_isLatin1 q1118 q1119 q157 q1122 (X.1.2.2.2.2 _ q1121) (wCJ13_isLatin1 l γ X.2.1 _ _  _ eq4) hA.RR ⟨Nat.le_trans (Nat.le_of_ble_eq_true rfl) hR.1, Nat.le_trans (Nat.le_of_ble_eq_true rfl) hR.2⟩ rfl rfl hl.1 (lv_room (Nat.le_of_ble_eq_true rfl)) dJ13_append_46 ?_
    obtain ⟨r5, er5, hit⟩ := o_bind hit
    have hr5 : ∀ (H : Heap) (locs : List Loc) (cells slots : Nat) (ls : Array Slot), AI γ (h, r) s R r5.1 r5.2 H locs cells slots → lv_has ls 2 [(0, .ref o), (1, .int a0)] → W p l e R s m args below meth c H locs cells slots Q (F0 m 56 ls []) := by
      intro H locs cells slots ls hA hl
      refine lv_aload_n hx hb dJ13_append_56 rfl (lv_at hl 0 rfl) ?_
      obtain ⟨v6, ev6, hit⟩ := o_bind hit
      refine c_getR X hA.1.1 kc_StringBuilder 0 q1063 (Or.inl rfl) rfl rfl ev6 dJ13_append_57 ?_
      refine lv_aload_n hx hb dJ13_append_60 rfl (lv_at hl 0 rfl) ?_
      refine lv_dup hx hb dJ13_append_61 rfl ?_
      obtain ⟨v7, ev7, hit⟩ := o_bind hit
      refine c_getI X hA.1.1 kc_StringBuilder 3 q1065 (Or.inl rfl) rfl rfl ev7 dJ13_append_62 ?_
      refine lv_dup_x1 hx hb dJ13_append_65 rfl rfl ?_
      refine lv_iconst (v := 1) hx hb dJ13_append_66 (by decide) ?_
      refine lv_iadd hx hb dJ13_append_67 ?_
      obtain ⟨s8, es8, hit⟩ := o_bind hit
      refine c_putI X hA.1 kc_StringBuilder 3 q1065 (Or.inl rfl) rfl rfl (tyv := .int) rfl rfl rfl es8 dJ13_append_68 (fun H locs hI => ?_)
      replace hA := hA.up hI
      clear hI
      refine lv_iload_n hx hb dJ13_append_71 rfl (lv_at hl 1 rfl) ?_
      obtain ⟨q9, eq9, hit⟩ := o_bind hit
      refine c_cNS X (kA_F X.2.1 X.2.2 h0H) hA.1 nm_J10_putCharSB q1148 q1149 q150 q1150 (wCJ10_putCharSB l γ X.2.1 _ _ _ _ _ eq9) hA.RR ⟨Nat.le_trans (Nat.le_of_ble_eq_true rfl) hR.1, Nat.le_trans (Nat.le_of_ble_eq_true rfl) hR.2⟩ rfl rfl hl.1 (lv_room (Nat.le_of_ble_eq_true rfl)) dJ13_append_72 (fun H locs hI => ?_)
      replace hA := hA.up hI
      clear hI
      refine lv_aload_n hx hb dJ13_append_75 rfl (lv_at hl 0 rfl) ?_
      have he := o_in hit
      exact hend (some (.ref o)) (q9, r5.2) _ _ _ _ _ _ _ _ (kOut_o) (by subst he; rfl) hA dJ13_append_76
    have hit := er5
    refine b_if_eq (tgt := 56) hx hb dJ13_append_49 (by decide) hit (fun c10 hit => ?_) (fun c10 hit => ?_)
    · have he := o_in hit
      subst he
      exact hr5 _ _ _ _ _ hA hl
    · refine lv_aload_n hx hb dJ13_append_52 rfl (lv_at hl 0 rfl) ?_
      obtain ⟨q11, eq11, hit⟩ := o_bind hit
      obtain ⟨iq11, eq11⟩ := vc_inv eq11
      obtain ⟨eq11, lq11⟩ := achv_inv eq11
      refine a_cVx X h0H hA kc_StringBuilder iq11 nm_J13_inflate q1126 q1128 q157 q1129 (c_selPriv (y2 := ⟨"java/lang/AbstractStringBuilder", "isLatin1", "()Z"⟩) X.2.1 X.2.2 X.1.2.2.2.2 (by decide) q1121 rfl q1127 q1128) (wCJ13_inflate l γ X.2.1 _ _ _  _ eq11) lq11 ⟨Nat.le_trans (Nat.le_of_ble_eq_true rfl) hR.1, Nat.le_trans (Nat.le_of_ble_eq_true rfl) hR.2⟩ rfl rfl hl.1 (lv_room (Nat.le_of_ble_eq_true rfl)) dJ13_append_53 (fun H locs cells slots hA => ?_)
      have he := o_in hit
      subst he
      exact hr5 _ _ _ _ _ hA hl
  refine b_if_eq (tgt := 45) hx hb dJ13_append_14 (by decide) hit (fun c12 hit => ?_) (fun c12 hit => ?_)
  · exact hK45  hit _ _ _ _ _ hA hl
  · refine lv_iload_n hx hb dJ13_append_17 rfl (lv_at hl 1 rfl) ?_
    obtain ⟨q13, eq13, hit⟩ := o_bind hit
    refine c_cP X.1 (wCJ9_canEncode_2 l _ _ eq13) nm_J9_canEncode_2 q1123 q1124 q149 q1125 ⟨Nat.le_trans (Nat.le_of_ble_eq_true rfl) hR.1, Nat.le_trans (Nat.le_of_ble_eq_true rfl) hR.2⟩ hA.RR rfl rfl hl.1 (lv_room (Nat.le_of_ble_eq_true rfl)) dJ13_append_18 ?_
    refine b_if_eq (tgt := 45) hx hb dJ13_append_21 (by decide) hit (fun c14 hit => ?_) (fun c14 hit => ?_)
    · exact hK45  hit _ _ _ _ _ hA hl
    · refine lv_aload_n hx hb dJ13_append_24 rfl (lv_at hl 0 rfl) ?_
      obtain ⟨v15, ev15, hit⟩ := o_bind hit
      refine c_getR X hA.1.1 kc_StringBuilder 0 q1063 (Or.inl rfl) rfl rfl ev15 dJ13_append_25 ?_
      refine lv_aload_n hx hb dJ13_append_28 rfl (lv_at hl 0 rfl) ?_
      refine lv_dup hx hb dJ13_append_29 rfl ?_
      obtain ⟨v16, ev16, hit⟩ := o_bind hit
      refine c_getI X hA.1.1 kc_StringBuilder 3 q1065 (Or.inl rfl) rfl rfl ev16 dJ13_append_30 ?_
      refine lv_dup_x1 hx hb dJ13_append_33 rfl rfl ?_
      refine lv_iconst (v := 1) hx hb dJ13_append_34 (by decide) ?_
      refine lv_iadd hx hb dJ13_append_35 ?_
      obtain ⟨s17, es17, hit⟩ := o_bind hit
      refine c_putI X hA.1 kc_StringBuilder 3 q1065 (Or.inl rfl) rfl rfl (tyv := .int) rfl rfl rfl es17 dJ13_append_36 (fun H locs hI => ?_)
      replace hA := hA.up hI
      clear hI
      refine lv_iload_n hx hb dJ13_append_39 rfl (lv_at hl 1 rfl) ?_
      refine lv_i2b hx hb dJ13_append_40 (v := i2b_ a0) rfl ?_
      obtain ⟨s18, es18, hit⟩ := o_bind hit
      refine c_bast X hA.1 es18 dJ13_append_41 (fun H locs hI => ?_)
      replace hA := hA.up hI
      clear hI
      refine lv_goto (tgt := 75) hx hb dJ13_append_42 (by decide) ?_
      refine lv_aload_n hx hb dJ13_append_75 rfl (lv_at hl 0 rfl) ?_
      have he := o_in hit
      exact hend (some (.ref o)) (s18, q2.2) _ _ _ _ _ _ _ _ (kOut_o) (by subst he; rfl) hA dJ13_append_76
noncomputable def CJ14_append (K : Nat → Nat) (h : CH) (r : CR) (o : Nat) (a0 : Int32) : Option (Nat × CS) :=
  (vc h o 11 (achk r (CJ13_append K h r o a0))).bind fun q1 =>
  some (o, q1.2)
theorem nm_J14_append : kNm yJ14_append RJ14 1 := by unfold kNm; decide +kernel
set_option maxHeartbeats 4000000 in
set_option maxRecDepth 100000 in
theorem wCJ14_append (l : Launch) (γ : KG) (hO : kOK γ) (h : CH) (r : CR) (o : Nat) (a0 : Int32) (z : Nat × CS) (hz : CJ14_append γ.2.2.2.2.2 h r o a0 = some z) : aMet l yJ14_append (ws_ yJ14_append cJ14_append 2 (some (.object "java/lang/StringBuilder"))) 7 158 γ (h, r) [.ref o, .int a0] (some (.ref z.1)) z.2 := by
  refine a_start (cc := cJ14_append) (own := RJ14) hO rfl rfl rfl (fun p e R s m args below meth c Q ls X hR hnm h0H hA hl hend => ?_)
  have hx := X.1.1
  have hb := X.1.2.1
  have hit := hz
  clear hz
  unfold CJ14_append at hit
  have hl : lv_has ls 2 [(0, .ref o), (1, .int a0)] := hl
  refine lv_aload_n hx hb dJ14_append_0 rfl (lv_at hl 0 rfl) ?_
  refine lv_iload_n hx hb dJ14_append_1 rfl (lv_at hl 1 rfl) ?_
  obtain ⟨q1, eq1, hit⟩ := o_bind hit
  obtain ⟨iq1, eq1⟩ := vc_inv eq1
  obtain ⟨eq1, lq1⟩ := achk_inv eq1
  refine a_cSU X h0H hA kc_StringBuilder iq1 nm_J13_append q1095 q1096 q157 q1097 q2351 q563 (by decide) (wCJ13_append l γ X.2.1 _ _ _ _ _ eq1) lq1 ⟨Nat.le_trans (Nat.le_of_ble_eq_true rfl) hR.1, Nat.le_trans (Nat.le_of_ble_eq_true rfl) hR.2⟩ rfl rfl hl.1 (lv_room (Nat.le_of_ble_eq_true rfl)) dJ14_append_2 (fun H locs cells slots hA => ?_)
  refine lv_pop hx hb dJ14_append_5 rfl ?_
  refine lv_aload_n hx hb dJ14_append_6 rfl (lv_at hl 0 rfl) ?_
  have he := o_in hit
  exact hend (some (.ref o)) q1.2 _ _ _ _ _ _ _ _ (kOut_o) (by subst he; rfl) hA dJ14_append_7
noncomputable def C7_add (K : Nat → Nat) (h : CH) (r : CR) (o : Nat) (a0 : Int32) (a1 : Nat) : Option (CS) :=
  (gR h o 6 1).bind fun v1 =>
  (vc h v1 11 (achk r (CJ14_append K h r v1 a0))).bind fun q2 =>
  (gR q2.2.1 o 6 0).bind fun v3 =>
  (vc q2.2.1 v3 10 (achk q2.2.2 (CJ2_add K q2.2.1 q2.2.2 v3 a1))).bind fun q4 =>
  some q4.2
theorem nm_X7_add : kNm yX7_add RX7 2 := by unfold kNm; decide +kernel
set_option maxHeartbeats 4000000 in
set_option maxRecDepth 100000 in
theorem wC7_add (l : Launch) (γ : KG) (hO : kOK γ) (h : CH) (r : CR) (o : Nat) (a0 : Int32) (a1 : Nat) (z : CS) (hz : C7_add γ.2.2.2.2.2 h r o a0 a1 = some z) : aMet l yX7_add (ws_ yX7_add cX7_add 3 none) 8 179 γ (h, r) [.ref o, .int a0, .ref a1] none z := by
  refine a_start (cc := cX7_add) (own := RX7) hO rfl rfl rfl (fun p e R s m args below meth c Q ls X hR hnm h0H hA hl hend => ?_)
  have hx := X.1.1
  have hb := X.1.2.1
  have hit := hz
  clear hz
  unfold C7_add at hit
  have hl : lv_has ls 3 [(0, .ref o), (1, .int a0), (2, .ref a1)] := hl
  refine lv_aload_n hx hb dX7_add_0 rfl (lv_at hl 0 rfl) ?_
  obtain ⟨v1, ev1, hit⟩ := o_bind hit
  refine c_getR X hA.1.1 kc_Chain 1 q1077 (Or.inl rfl) rfl rfl ev1 dX7_add_1 ?_
  refine lv_iload_n hx hb dX7_add_4 rfl (lv_at hl 1 rfl) ?_
  obtain ⟨q2, eq2, hit⟩ := o_bind hit
  obtain ⟨iq2, eq2⟩ := vc_inv eq2
  obtain ⟨eq2, lq2⟩ := achk_inv eq2
  refine a_cV X h0H hA kc_StringBuilder (wCJ14_append l γ X.2.1 _ _ _ _ _ eq2) lq2 iq2 nm_J14_append q1091 q1092 q158 q1094 q1093 ⟨Nat.le_trans (Nat.le_of_ble_eq_true rfl) hR.1, Nat.le_trans (Nat.le_of_ble_eq_true rfl) hR.2⟩ rfl rfl hl.1 (lv_room (Nat.le_of_ble_eq_true rfl)) dX7_add_5 (fun H locs cells slots hA => ?_)
  refine lv_pop hx hb dX7_add_8 rfl ?_
  refine lv_aload_n hx hb dX7_add_9 rfl (lv_at hl 0 rfl) ?_
  obtain ⟨v3, ev3, hit⟩ := o_bind hit
  refine c_getR X hA.1.1 kc_Chain 0 q1076 (Or.inl rfl) rfl rfl ev3 dX7_add_10 ?_
  refine lv_aload_n hx hb dX7_add_13 rfl (lv_at hl 2 rfl) ?_
  obtain ⟨q4, eq4, hit⟩ := o_bind hit
  obtain ⟨iq4, eq4⟩ := vc_inv eq4
  obtain ⟨eq4, lq4⟩ := achk_inv eq4
  refine a_cF X h0H hA kc_ArrayList iq4 nmi_List_add q1075 q361 q139 q363 q359 q357 q356 q362 q360 q358 (wCJ2_add l γ X.2.1 _ _ _ _ _ eq4) lq4 ⟨Nat.le_trans (Nat.le_of_ble_eq_true rfl) hR.1, Nat.le_trans (Nat.le_of_ble_eq_true rfl) hR.2⟩ rfl rfl hl.1 (lv_room (Nat.le_of_ble_eq_true rfl)) dX7_add_14 (fun H locs cells slots hA => ?_)
  refine lv_pop hx hb dX7_add_19 rfl ?_
  have he := o_in hit
  exact hend none q4.2 _ _ _ _ _ _ _ _ kOut_v (by subst he; rfl) hA dX7_add_20
noncomputable def C7_plain (h : CH) (o : Nat) : Option (Nat) :=
  (gR h o 6 0).bind fun v1 =>
  (vc h v1 10 (CJ2_size h v1)).bind fun q2 =>
  if q2 = 1 then
    ((gR h o 6 0).bind fun v4 =>
    (vc h v4 10 (CJ2_get h v4 0)).bind fun q5 =>
    (ckF h q5).bind fun u7 =>
    some q5)
  else
    (some o)
theorem nm_X7_plain : kNm yX7_plain RX7 0 := by unfold kNm; decide +kernel
set_option maxHeartbeats 4000000 in
set_option maxRecDepth 100000 in
theorem wC7_plain (l : Launch) (γ : KG) (hO : kOK γ) (h : CH) (o : Nat) (z : Nat) (hz : C7_plain h o = some z) : Met l yX7_plain (ws_ yX7_plain cX7_plain 1 (some (.object "TwinInk$Form"))) (kRm 3 64) (cPc γ h [.ref o]) (cRq (.ref z)) 0 0 vp_nf := by
  refine c_startR (cc := cX7_plain) (own := RX7) hO rfl rfl rfl (fun p e R s m args below meth c Q ls X hR hH hDU hl hend => ?_)
  have hx := X.1.1
  have hb := X.1.2.1
  have hit := hz
  clear hz
  unfold C7_plain at hit
  have hl : lv_has ls 1 [(0, .ref o)] := hl
  refine lv_aload_n hx hb dX7_plain_0 rfl (lv_at hl 0 rfl) ?_
  obtain ⟨v1, ev1, hit⟩ := o_bind hit
  refine c_getR X hH kc_Chain 0 q1076 (Or.inl rfl) rfl rfl ev1 dX7_plain_1 ?_
  obtain ⟨q2, eq2, hit⟩ := o_bind hit
  obtain ⟨iq2, eq2⟩ := vc_inv eq2
  refine c_cRF X hH hDU kc_ArrayList (wCJ2_size l γ X.2.1 _ _  _ eq2) iq2 nmi_List_size q557 q428 q139 q430 q426 q425 q424 q429 q427 q358 ⟨Nat.le_trans (Nat.le_of_ble_eq_true rfl) hR.1, Nat.le_trans (Nat.le_of_ble_eq_true rfl) hR.2⟩ ⟨Nat.zero_le _, Nat.zero_le _⟩ rfl rfl hl.1 (lv_room (Nat.le_of_ble_eq_true rfl)) dX7_plain_4 ?_
  refine lv_iconst (v := 1) hx hb dX7_plain_9 (by decide) ?_
  refine b_icmp_ne (tgt := 29) hx hb dX7_plain_10 (by decide) hit (fun c3 hit => ?_) (fun c3 hit => ?_)
  · refine lv_aload_n hx hb dX7_plain_29 rfl (lv_at hl 0 rfl) ?_
    have he := o_in hit
    exact hend (.ref o) _ _ _ _ (kOut_o) (congrArg Value.ref he) dX7_plain_30
  · refine lv_aload_n hx hb dX7_plain_13 rfl (lv_at hl 0 rfl) ?_
    obtain ⟨v4, ev4, hit⟩ := o_bind hit
    refine c_getR X hH kc_Chain 0 q1076 (Or.inl rfl) rfl rfl ev4 dX7_plain_14 ?_
    refine lv_iconst (v := 0) hx hb dX7_plain_17 (by decide) ?_
    obtain ⟨q5, eq5, hit⟩ := o_bind hit
    obtain ⟨iq5, eq5⟩ := vc_inv eq5
    refine c_cRF X hH hDU kc_ArrayList (wCJ2_get l γ X.2.1 _ _ _ _ eq5) iq5 nmi_List_get q532 q483 q139 q485 q481 q480 q479 q484 q482 q358 ⟨Nat.le_trans (Nat.le_of_ble_eq_true rfl) hR.1, Nat.le_trans (Nat.le_of_ble_eq_true rfl) hR.2⟩ ⟨Nat.zero_le _, Nat.zero_le _⟩ rfl rfl hl.1 (lv_room (Nat.le_of_ble_eq_true rfl)) dX7_plain_18 ?_
    obtain ⟨u7, eu7, hit⟩ := o_bind hit
    refine c_castF X hH q533 eu7 dX7_plain_23 ?_
    refine lv_goto (tgt := 30) hx hb dX7_plain_26 (by decide) ?_
    have he := o_in hit
    exact hend (.ref q5) _ _ _ _ (kOut_o) (congrArg Value.ref he) dX7_plain_30
noncomputable def CJ10_getChar (h : CH) (a0 : Nat) (a1 : Int32) : Option (Int32) :=
  none
theorem nm_J10_getChar : kNm yJ10_getChar RJ10 2 := by unfold kNm; decide +kernel
set_option maxHeartbeats 4000000 in
set_option maxRecDepth 100000 in
theorem wCJ10_getChar (l : Launch) (γ : KG) (hO : kOK γ) (h : CH) (a0 : Nat) (a1 : Int32) (z : Int32) (hz : CJ10_getChar h a0 a1 = some z) : Met l yJ10_getChar (ws_ yJ10_getChar cJ10_getChar 2 (some .char)) (kRm 1 20) (cPc γ h [.ref a0, .int a1]) (cRq (.int z)) 0 0 vp_nf := by
  refine c_startR (cc := cJ10_getChar) (own := RJ10) hO rfl rfl rfl (fun p e R s m args below meth c Q ls X hR hH hDU hl hend => ?_)
  have hx := X.1.1
  have hb := X.1.2.1
  have hit := hz
  clear hz
  unfold CJ10_getChar at hit
  have hl : lv_has ls 2 [(0, .ref a0), (1, .int a1)] := hl
  cases hit
noncomputable def CJ13_charAt (K : Nat → Nat) (h : CH) (o : Nat) (a0 : Int32) : Option (Int32) :=
  (gI h o 11 1).bind fun v1 =>
  (gR h o 11 0).bind fun v2 =>
  (gI h o 11 3).bind fun v3 =>
  (aNb K h v2).bind fun v4 =>
  (CJ8_checkIndex h a0 (imin v3 (v4 >>> (v1 &&& 31)))).bind fun q5 =>
  if v1 = 0 then
    ((aIb K h v2 a0).bind fun v8 =>
    some (vp_nar .char (i2c_ (v8 &&& 255))))
  else
    ((CJ10_getChar h v2 a0).bind fun q7 =>
    some (vp_nar .char q7))
theorem nm_J13_charAt : kNm yJ13_charAt RJ13 1 := by unfold kNm; decide +kernel
set_option maxHeartbeats 4000000 in
set_option maxRecDepth 100000 in
theorem wCJ13_charAt (l : Launch) (γ : KG) (hO : kOK γ) (h : CH) (o : Nat) (a0 : Int32) (z : Int32) (hz : CJ13_charAt γ.2.2.2.2.2 h o a0 = some z) : Met l yJ13_charAt (ws_ yJ13_charAt cJ13_charAt 5 (some .char)) (kRm 2 43) (cPc γ h [.ref o, .int a0]) (cRq (.int z)) 0 0 vp_nf := by
  refine c_startR (cc := cJ13_charAt) (own := RJ13) hO rfl rfl rfl (fun p e R s m args below meth c Q ls X hR hH hDU hl hend => ?_)
  have hx := X.1.1
  have hb := X.1.2.1
  have hit := hz
  clear hz
  unfold CJ13_charAt at hit
  have hl : lv_has ls 5 [(0, .ref o), (1, .int a0)] := hl
  refine lv_aload_n hx hb dJ13_charAt_0 rfl (lv_at hl 0 rfl) ?_
  obtain ⟨v1, ev1, hit⟩ := o_bind hit
  refine c_getI X hH kc_StringBuilder 1 q1064 (Or.inl rfl) rfl rfl ev1 dJ13_charAt_1 ?_
  refine lv_istore_n (lv' := [(2, .int v1), (0, .ref o), (1, .int a0)]) hx hb dJ13_charAt_4 rfl hl (by decide) rfl (fun ls hl => ?_)
  refine lv_aload_n hx hb dJ13_charAt_5 rfl (lv_at hl 1 rfl) ?_
  obtain ⟨v2, ev2, hit⟩ := o_bind hit
  refine c_getR X hH kc_StringBuilder 0 q1063 (Or.inl rfl) rfl rfl ev2 dJ13_charAt_6 ?_
  refine lv_astore_n (lv' := [(3, .ref v2), (2, .int v1), (0, .ref o), (1, .int a0)]) hx hb dJ13_charAt_9 rfl hl (by decide) rfl (fun ls hl => ?_)
  refine lv_aload_n hx hb dJ13_charAt_10 rfl (lv_at hl 2 rfl) ?_
  obtain ⟨v3, ev3, hit⟩ := o_bind hit
  refine c_getI X hH kc_StringBuilder 3 q1065 (Or.inl rfl) rfl rfl ev3 dJ13_charAt_11 ?_
  refine lv_aload_n hx hb dJ13_charAt_14 rfl (lv_at hl 0 rfl) ?_
  obtain ⟨v4, ev4, hit⟩ := o_bind hit
  refine c_alenB X (fun _ h => h) (va_S.rf (A := γ.2.2.2.2.1)) hH ev4 dJ13_charAt_15 ?_
  refine lv_iload_n hx hb dJ13_charAt_16 rfl (lv_at hl 1 rfl) ?_
  refine lv_ishr hx hb dJ13_charAt_17 ?_
  refine b_min X.1 hl.1 q566 (Nat.le_trans (Nat.le_of_ble_eq_true rfl) hR.1) (Nat.le_trans (Nat.le_of_ble_eq_true rfl) hR.2) ⟨Nat.zero_le _, Nat.zero_le _⟩ dJ13_charAt_18 ?_
  refine lv_istore (lv' := [(4, .int (imin v3 (v4 >>> (v1 &&& 31)))), (3, .ref v2), (2, .int v1), (0, .ref o), (1, .int a0)]) hx hb dJ13_charAt_21 hl (by decide) rfl (fun ls hl => ?_)
  refine lv_iload_n hx hb dJ13_charAt_23 rfl (lv_at hl 4 rfl) ?_
  refine lv_iload hx hb dJ13_charAt_24 (lv_at hl 0 rfl) ?_
  obtain ⟨q5, eq5, hit⟩ := o_bind hit
  refine c_cRSv X hH hDU (wCJ8_checkIndex l γ X.2.1 _ _ _ _ eq5) nm_J8_checkIndex q567 q568 q148 q569 ⟨Nat.le_trans (Nat.le_of_ble_eq_true rfl) hR.1, Nat.le_trans (Nat.le_of_ble_eq_true rfl) hR.2⟩ ⟨Nat.zero_le _, Nat.zero_le _⟩ rfl rfl hl.1 (lv_room (Nat.le_of_ble_eq_true rfl)) dJ13_charAt_26 ?_
  refine lv_iload_n hx hb dJ13_charAt_29 rfl (lv_at hl 2 rfl) ?_
  refine b_if_ne (tgt := 42) hx hb dJ13_charAt_30 (by decide) hit (fun c6 hit => ?_) (fun c6 hit => ?_)
  · refine lv_aload_n hx hb dJ13_charAt_42 rfl (lv_at hl 1 rfl) ?_
    refine lv_iload_n hx hb dJ13_charAt_43 rfl (lv_at hl 4 rfl) ?_
    obtain ⟨q7, eq7, hit⟩ := o_bind hit
    refine c_cRS X hH hDU (wCJ10_getChar l γ X.2.1 _ _ _ _ eq7) nm_J10_getChar q573 q574 q150 q575 ⟨Nat.le_trans (Nat.le_of_ble_eq_true rfl) hR.1, Nat.le_trans (Nat.le_of_ble_eq_true rfl) hR.2⟩ ⟨Nat.zero_le _, Nat.zero_le _⟩ rfl rfl hl.1 (lv_room (Nat.le_of_ble_eq_true rfl)) dJ13_charAt_44 ?_
    have he := o_in hit
    exact hend (.int (vp_nar .char q7)) _ _ _ _ (kOut_i rfl) (congrArg Value.int he) dJ13_charAt_47
  · refine lv_aload_n hx hb dJ13_charAt_33 rfl (lv_at hl 1 rfl) ?_
    refine lv_iload_n hx hb dJ13_charAt_34 rfl (lv_at hl 4 rfl) ?_
    obtain ⟨v8, ev8, hit⟩ := o_bind hit
    refine c_baldB X (fun _ h => h) (va_S.rf (A := γ.2.2.2.2.1)) hH ev8 dJ13_charAt_35 ?_
    refine lv_sipush (v := 255) hx hb dJ13_charAt_36 (by decide) ?_
    refine lv_iand hx hb dJ13_charAt_39 ?_
    refine lv_i2c hx hb dJ13_charAt_40 (v := i2c_ (v8 &&& 255)) rfl ?_
    have he := o_in hit
    exact hend (.int (vp_nar .char (i2c_ (v8 &&& 255)))) _ _ _ _ (kOut_i rfl) (congrArg Value.int he) dJ13_charAt_41
noncomputable def CJ14_charAt (K : Nat → Nat) (h : CH) (o : Nat) (a0 : Int32) : Option (Int32) :=
  (vc h o 11 (CJ13_charAt K h o a0)).bind fun q1 =>
  some (vp_nar .char q1)
theorem nm_J14_charAt : kNm yJ14_charAt RJ14 1 := by unfold kNm; decide +kernel
set_option maxHeartbeats 4000000 in
set_option maxRecDepth 100000 in
theorem wCJ14_charAt (l : Launch) (γ : KG) (hO : kOK γ) (h : CH) (o : Nat) (a0 : Int32) (z : Int32) (hz : CJ14_charAt γ.2.2.2.2.2 h o a0 = some z) : Met l yJ14_charAt (ws_ yJ14_charAt cJ14_charAt 2 (some .char)) (kRm 3 67) (cPc γ h [.ref o, .int a0]) (cRq (.int z)) 0 0 vp_nf := by
  refine c_startR (cc := cJ14_charAt) (own := RJ14) hO rfl rfl rfl (fun p e R s m args below meth c Q ls X hR hH hDU hl hend => ?_)
  have hx := X.1.1
  have hb := X.1.2.1
  have hit := hz
  clear hz
  unfold CJ14_charAt at hit
  have hl : lv_has ls 2 [(0, .ref o), (1, .int a0)] := hl
  refine lv_aload_n hx hb dJ14_charAt_0 rfl (lv_at hl 0 rfl) ?_
  refine lv_iload_n hx hb dJ14_charAt_1 rfl (lv_at hl 1 rfl) ?_
  obtain ⟨q1, eq1, hit⟩ := o_bind hit
  obtain ⟨iq1, eq1⟩ := vc_inv eq1
  refine c_cRSU X hH hDU kc_StringBuilder iq1 nm_J13_charAt q562 q564 q157 q565 q2349 q563 (by decide) (wCJ13_charAt l γ X.2.1 _ _ _ _ eq1) ⟨Nat.zero_le _, Nat.zero_le _⟩ ⟨Nat.le_trans (Nat.le_of_ble_eq_true rfl) hR.1, Nat.le_trans (Nat.le_of_ble_eq_true rfl) hR.2⟩ rfl rfl hl.1 (lv_room (Nat.le_of_ble_eq_true rfl)) dJ14_charAt_2 ?_
  have he := o_in hit
  exact hend (.int (vp_nar .char q1)) _ _ _ _ (kOut_i rfl) (congrArg Value.int he) dJ14_charAt_5
noncomputable def C7_by_J172 (a1 : Int32) (a2 : Int32) : Option (Int32) :=
  if a1 = 0 then
    (if a2 = 0 then
      (some 0)
    else
      (some 1))
  else
    (some 1)
noncomputable def C7_by (a0 : Int32) (a1 : Int32) (a2 : Int32) : Option (Int32) :=
  if a0 = 38 then
    (if a1 = 0 then
      (some 0)
    else
      (if a2 = 0 then
        (some 0)
      else
        (some 1)))
  else
    (if a0 = 39 then
      (C7_by_J172 a1 a2)
    else
      (if a0 = 40 then
        (C7_by_J172 a1 a2)
      else
        (if a0 = 41 then
          (C7_by_J172 a1 a2)
        else
          (if a0 = 42 then
            (some (a1 * a2))
          else
            (if a0 = 43 then
              (some (a1 + a2))
            else
              (if a0 = 44 then
                (C7_by_J172 a1 a2)
              else
                (if a0 = 45 then
                  (some (a1 - a2))
                else
                  (if a0 = 46 then
                    (C7_by_J172 a1 a2)
                  else
                    (if a0 = 47 then
                      (if a2 = 0 then
                        (some 0)
                      else
                        ((idv a1 a2).bind fun v16 =>
                        some v16))
                    else
                      (if a0 = 48 then
                        (C7_by_J172 a1 a2)
                      else
                        (if a0 = 49 then
                          (C7_by_J172 a1 a2)
                        else
                          (if a0 = 50 then
                            (C7_by_J172 a1 a2)
                          else
                            (if a0 = 51 then
                              (C7_by_J172 a1 a2)
                            else
                              (if a0 = 52 then
                                (C7_by_J172 a1 a2)
                              else
                                (if a0 = 53 then
                                  (C7_by_J172 a1 a2)
                                else
                                  (if a0 = 54 then
                                    (C7_by_J172 a1 a2)
                                  else
                                    (if a0 = 55 then
                                      (C7_by_J172 a1 a2)
                                    else
                                      (if a0 = 56 then
                                        (C7_by_J172 a1 a2)
                                      else
                                        (if a0 = 57 then
                                          (C7_by_J172 a1 a2)
                                        else
                                          (if a0 = 58 then
                                            (C7_by_J172 a1 a2)
                                          else
                                            (if a0 = 59 then
                                              (C7_by_J172 a1 a2)
                                            else
                                              (if a0 = 60 then
                                                (if a1 < a2 then
                                                  (some 1)
                                                else
                                                  (some 0))
                                              else
                                                (if a0 = 61 then
                                                  (if a1 = a2 then
                                                    (some 1)
                                                  else
                                                    (some 0))
                                                else
                                                  (C7_by_J172 a1 a2))))))))))))))))))))))))
theorem nm_X7_by : kNm yX7_by RX7 3 := by unfold kNm; decide +kernel
set_option maxHeartbeats 4000000 in
set_option maxRecDepth 100000 in
theorem wC7_by (l : Launch) (a0 : Int32) (a1 : Int32) (a2 : Int32) (z : Int32) (hz : C7_by a0 a1 a2 = some z) : Met l yX7_by (ws_ yX7_by cX7_by 3 (some .int)) (kRm 0 0) (bPc [.int a0, .int a1, .int a2]) (vp_Si (fun r => r = z)) 0 0 vp_nf := by
  refine c_startP (cc := cX7_by) (own := RX7) (ty := .int) rfl rfl rfl (fun p e R s m args below meth c Q ls X hR hl hend => ?_)
  have hx := X.1
  have hb := X.2.1
  have hit := hz
  clear hz
  unfold C7_by at hit
  have hl : lv_has ls 3 [(0, .int a0), (1, .int a1), (2, .int a2)] := hl
  refine lv_iload_n hx hb dX7_by_0 rfl (lv_at hl 0 rfl) ?_
  have hK172 : C7_by_J172 a1 a2 = some z → ∀ (ls : Array Slot), lv_has ls 3 [(1, .int a1), (2, .int a2)] → W p l e R s m args below meth c s.heap [] 0 0 Q (F0 m 172 ls []) := by
    intro  hit ls hl
    unfold C7_by_J172 at hit
    refine lv_iload_n hx hb dX7_by_172 rfl (lv_at hl 0 rfl) ?_
    refine b_if_ne (tgt := 180) hx hb dX7_by_173 (by decide) hit (fun c1 hit => ?_) (fun c1 hit => ?_)
    · refine lv_iconst (v := 1) hx hb dX7_by_180 (by decide) ?_
      refine lv_goto (tgt := 185) hx hb dX7_by_181 (by decide) ?_
      have he := o_in hit
      exact hend _ 1 _ _ rfl he dX7_by_185
    · refine lv_iload_n hx hb dX7_by_176 rfl (lv_at hl 1 rfl) ?_
      refine b_if_eq (tgt := 184) hx hb dX7_by_177 (by decide) hit (fun c2 hit => ?_) (fun c2 hit => ?_)
      · refine lv_iconst (v := 0) hx hb dX7_by_184 (by decide) ?_
        have he := o_in hit
        exact hend _ 0 _ _ rfl he dX7_by_185
      · refine lv_iconst (v := 1) hx hb dX7_by_180 (by decide) ?_
        refine lv_goto (tgt := 185) hx hb dX7_by_181 (by decide) ?_
        have he := o_in hit
        exact hend _ 1 _ _ rfl he dX7_by_185
  refine Decidable.byCases (p := a0 = 38) (fun c3 => ?_) (fun c3 => ?_)
  · replace hit := o_t hit c3
    refine b_tab (tgt := 158) hx hb dX7_by_1 c3 (z := 38) (by decide) (by decide) (by decide) rfl (by decide) ?_
    refine lv_iload_n hx hb dX7_by_158 rfl (lv_at hl 1 rfl) ?_
    refine b_if_eq (tgt := 170) hx hb dX7_by_159 (by decide) hit (fun c4 hit => ?_) (fun c4 hit => ?_)
    · refine lv_iconst (v := 0) hx hb dX7_by_170 (by decide) ?_
      have he := o_in hit
      exact hend _ 0 _ _ rfl he dX7_by_171
    · refine lv_iload_n hx hb dX7_by_162 rfl (lv_at hl 2 rfl) ?_
      refine b_if_eq (tgt := 170) hx hb dX7_by_163 (by decide) hit (fun c5 hit => ?_) (fun c5 hit => ?_)
      · refine lv_iconst (v := 0) hx hb dX7_by_170 (by decide) ?_
        have he := o_in hit
        exact hend _ 0 _ _ rfl he dX7_by_171
      · refine lv_iconst (v := 1) hx hb dX7_by_166 (by decide) ?_
        refine lv_goto (tgt := 171) hx hb dX7_by_167 (by decide) ?_
        have he := o_in hit
        exact hend _ 1 _ _ rfl he dX7_by_171
  · replace hit := o_f hit c3
    refine Decidable.byCases (p := a0 = 39) (fun c6 => ?_) (fun c6 => ?_)
    · replace hit := o_t hit c6
      refine b_tab (tgt := 172) hx hb dX7_by_1 c6 (z := 39) (by decide) (by decide) (by decide) rfl (by decide) ?_
      exact hK172  hit _ (lv_sub hl [1, 2] rfl)
    · replace hit := o_f hit c6
      refine Decidable.byCases (p := a0 = 40) (fun c7 => ?_) (fun c7 => ?_)
      · replace hit := o_t hit c7
        refine b_tab (tgt := 172) hx hb dX7_by_1 c7 (z := 40) (by decide) (by decide) (by decide) rfl (by decide) ?_
        exact hK172  hit _ (lv_sub hl [1, 2] rfl)
      · replace hit := o_f hit c7
        refine Decidable.byCases (p := a0 = 41) (fun c8 => ?_) (fun c8 => ?_)
        · replace hit := o_t hit c8
          refine b_tab (tgt := 172) hx hb dX7_by_1 c8 (z := 41) (by decide) (by decide) (by decide) rfl (by decide) ?_
          exact hK172  hit _ (lv_sub hl [1, 2] rfl)
        · replace hit := o_f hit c8
          refine Decidable.byCases (p := a0 = 42) (fun c9 => ?_) (fun c9 => ?_)
          · replace hit := o_t hit c9
            refine b_tab (tgt := 120) hx hb dX7_by_1 c9 (z := 42) (by decide) (by decide) (by decide) rfl (by decide) ?_
            refine lv_iload_n hx hb dX7_by_120 rfl (lv_at hl 1 rfl) ?_
            refine lv_iload_n hx hb dX7_by_121 rfl (lv_at hl 2 rfl) ?_
            refine lv_imul hx hb dX7_by_122 ?_
            have he := o_in hit
            exact hend _ (a1 * a2) _ _ rfl he dX7_by_123
          · replace hit := o_f hit c9
            refine Decidable.byCases (p := a0 = 43) (fun c10 => ?_) (fun c10 => ?_)
            · replace hit := o_t hit c10
              refine b_tab (tgt := 112) hx hb dX7_by_1 c10 (z := 43) (by decide) (by decide) (by decide) rfl (by decide) ?_
              refine lv_iload_n hx hb dX7_by_112 rfl (lv_at hl 1 rfl) ?_
              refine lv_iload_n hx hb dX7_by_113 rfl (lv_at hl 2 rfl) ?_
              refine lv_iadd hx hb dX7_by_114 ?_
              have he := o_in hit
              exact hend _ (a1 + a2) _ _ rfl he dX7_by_115
            · replace hit := o_f hit c10
              refine Decidable.byCases (p := a0 = 44) (fun c11 => ?_) (fun c11 => ?_)
              · replace hit := o_t hit c11
                refine b_tab (tgt := 172) hx hb dX7_by_1 c11 (z := 44) (by decide) (by decide) (by decide) rfl (by decide) ?_
                exact hK172  hit _ (lv_sub hl [1, 2] rfl)
              · replace hit := o_f hit c11
                refine Decidable.byCases (p := a0 = 45) (fun c12 => ?_) (fun c12 => ?_)
                · replace hit := o_t hit c12
                  refine b_tab (tgt := 116) hx hb dX7_by_1 c12 (z := 45) (by decide) (by decide) (by decide) rfl (by decide) ?_
                  refine lv_iload_n hx hb dX7_by_116 rfl (lv_at hl 1 rfl) ?_
                  refine lv_iload_n hx hb dX7_by_117 rfl (lv_at hl 2 rfl) ?_
                  refine lv_isub hx hb dX7_by_118 ?_
                  have he := o_in hit
                  exact hend _ (a1 - a2) _ _ rfl he dX7_by_119
                · replace hit := o_f hit c12
                  refine Decidable.byCases (p := a0 = 46) (fun c13 => ?_) (fun c13 => ?_)
                  · replace hit := o_t hit c13
                    refine b_tab (tgt := 172) hx hb dX7_by_1 c13 (z := 46) (by decide) (by decide) (by decide) rfl (by decide) ?_
                    exact hK172  hit _ (lv_sub hl [1, 2] rfl)
                  · replace hit := o_f hit c13
                    refine Decidable.byCases (p := a0 = 47) (fun c14 => ?_) (fun c14 => ?_)
                    · replace hit := o_t hit c14
                      refine b_tab (tgt := 124) hx hb dX7_by_1 c14 (z := 47) (by decide) (by decide) (by decide) rfl (by decide) ?_
                      refine lv_iload_n hx hb dX7_by_124 rfl (lv_at hl 2 rfl) ?_
                      refine b_if_ne (tgt := 132) hx hb dX7_by_125 (by decide) hit (fun c15 hit => ?_) (fun c15 hit => ?_)
                      · refine lv_iload_n hx hb dX7_by_132 rfl (lv_at hl 1 rfl) ?_
                        refine lv_iload_n hx hb dX7_by_133 rfl (lv_at hl 2 rfl) ?_
                        obtain ⟨v16, ev16, hit⟩ := o_bind hit
                        refine b_idiv hx hb ev16 dX7_by_134 ?_
                        have he := o_in hit
                        exact hend _ v16 _ _ rfl he dX7_by_135
                      · refine lv_iconst (v := 0) hx hb dX7_by_128 (by decide) ?_
                        refine lv_goto (tgt := 135) hx hb dX7_by_129 (by decide) ?_
                        have he := o_in hit
                        exact hend _ 0 _ _ rfl he dX7_by_135
                    · replace hit := o_f hit c14
                      refine Decidable.byCases (p := a0 = 48) (fun c17 => ?_) (fun c17 => ?_)
                      · replace hit := o_t hit c17
                        refine b_tab (tgt := 172) hx hb dX7_by_1 c17 (z := 48) (by decide) (by decide) (by decide) rfl (by decide) ?_
                        exact hK172  hit _ (lv_sub hl [1, 2] rfl)
                      · replace hit := o_f hit c17
                        refine Decidable.byCases (p := a0 = 49) (fun c18 => ?_) (fun c18 => ?_)
                        · replace hit := o_t hit c18
                          refine b_tab (tgt := 172) hx hb dX7_by_1 c18 (z := 49) (by decide) (by decide) (by decide) rfl (by decide) ?_
                          exact hK172  hit _ (lv_sub hl [1, 2] rfl)
                        · replace hit := o_f hit c18
                          refine Decidable.byCases (p := a0 = 50) (fun c19 => ?_) (fun c19 => ?_)
                          · replace hit := o_t hit c19
                            refine b_tab (tgt := 172) hx hb dX7_by_1 c19 (z := 50) (by decide) (by decide) (by decide) rfl (by decide) ?_
                            exact hK172  hit _ (lv_sub hl [1, 2] rfl)
                          · replace hit := o_f hit c19
                            refine Decidable.byCases (p := a0 = 51) (fun c20 => ?_) (fun c20 => ?_)
                            · replace hit := o_t hit c20
                              refine b_tab (tgt := 172) hx hb dX7_by_1 c20 (z := 51) (by decide) (by decide) (by decide) rfl (by decide) ?_
                              exact hK172  hit _ (lv_sub hl [1, 2] rfl)
                            · replace hit := o_f hit c20
                              refine Decidable.byCases (p := a0 = 52) (fun c21 => ?_) (fun c21 => ?_)
                              · replace hit := o_t hit c21
                                refine b_tab (tgt := 172) hx hb dX7_by_1 c21 (z := 52) (by decide) (by decide) (by decide) rfl (by decide) ?_
                                exact hK172  hit _ (lv_sub hl [1, 2] rfl)
                              · replace hit := o_f hit c21
                                refine Decidable.byCases (p := a0 = 53) (fun c22 => ?_) (fun c22 => ?_)
                                · replace hit := o_t hit c22
                                  refine b_tab (tgt := 172) hx hb dX7_by_1 c22 (z := 53) (by decide) (by decide) (by decide) rfl (by decide) ?_
                                  exact hK172  hit _ (lv_sub hl [1, 2] rfl)
                                · replace hit := o_f hit c22
                                  refine Decidable.byCases (p := a0 = 54) (fun c23 => ?_) (fun c23 => ?_)
                                  · replace hit := o_t hit c23
                                    refine b_tab (tgt := 172) hx hb dX7_by_1 c23 (z := 54) (by decide) (by decide) (by decide) rfl (by decide) ?_
                                    exact hK172  hit _ (lv_sub hl [1, 2] rfl)
                                  · replace hit := o_f hit c23
                                    refine Decidable.byCases (p := a0 = 55) (fun c24 => ?_) (fun c24 => ?_)
                                    · replace hit := o_t hit c24
                                      refine b_tab (tgt := 172) hx hb dX7_by_1 c24 (z := 55) (by decide) (by decide) (by decide) rfl (by decide) ?_
                                      exact hK172  hit _ (lv_sub hl [1, 2] rfl)
                                    · replace hit := o_f hit c24
                                      refine Decidable.byCases (p := a0 = 56) (fun c25 => ?_) (fun c25 => ?_)
                                      · replace hit := o_t hit c25
                                        refine b_tab (tgt := 172) hx hb dX7_by_1 c25 (z := 56) (by decide) (by decide) (by decide) rfl (by decide) ?_
                                        exact hK172  hit _ (lv_sub hl [1, 2] rfl)
                                      · replace hit := o_f hit c25
                                        refine Decidable.byCases (p := a0 = 57) (fun c26 => ?_) (fun c26 => ?_)
                                        · replace hit := o_t hit c26
                                          refine b_tab (tgt := 172) hx hb dX7_by_1 c26 (z := 57) (by decide) (by decide) (by decide) rfl (by decide) ?_
                                          exact hK172  hit _ (lv_sub hl [1, 2] rfl)
                                        · replace hit := o_f hit c26
                                          refine Decidable.byCases (p := a0 = 58) (fun c27 => ?_) (fun c27 => ?_)
                                          · replace hit := o_t hit c27
                                            refine b_tab (tgt := 172) hx hb dX7_by_1 c27 (z := 58) (by decide) (by decide) (by decide) rfl (by decide) ?_
                                            exact hK172  hit _ (lv_sub hl [1, 2] rfl)
                                          · replace hit := o_f hit c27
                                            refine Decidable.byCases (p := a0 = 59) (fun c28 => ?_) (fun c28 => ?_)
                                            · replace hit := o_t hit c28
                                              refine b_tab (tgt := 172) hx hb dX7_by_1 c28 (z := 59) (by decide) (by decide) (by decide) rfl (by decide) ?_
                                              exact hK172  hit _ (lv_sub hl [1, 2] rfl)
                                            · replace hit := o_f hit c28
                                              refine Decidable.byCases (p := a0 = 60) (fun c29 => ?_) (fun c29 => ?_)
                                              · replace hit := o_t hit c29
                                                refine b_tab (tgt := 136) hx hb dX7_by_1 c29 (z := 60) (by decide) (by decide) (by decide) rfl (by decide) ?_
                                                refine lv_iload_n hx hb dX7_by_136 rfl (lv_at hl 1 rfl) ?_
                                                refine lv_iload_n hx hb dX7_by_137 rfl (lv_at hl 2 rfl) ?_
                                                refine b_icmp_ge (tgt := 145) hx hb dX7_by_138 (by decide) hit (fun c30 hit => ?_) (fun c30 hit => ?_)
                                                · refine lv_iconst (v := 0) hx hb dX7_by_145 (by decide) ?_
                                                  have he := o_in hit
                                                  exact hend _ 0 _ _ rfl he dX7_by_146
                                                · refine lv_iconst (v := 1) hx hb dX7_by_141 (by decide) ?_
                                                  refine lv_goto (tgt := 146) hx hb dX7_by_142 (by decide) ?_
                                                  have he := o_in hit
                                                  exact hend _ 1 _ _ rfl he dX7_by_146
                                              · replace hit := o_f hit c29
                                                refine Decidable.byCases (p := a0 = 61) (fun c31 => ?_) (fun c31 => ?_)
                                                · replace hit := o_t hit c31
                                                  refine b_tab (tgt := 147) hx hb dX7_by_1 c31 (z := 61) (by decide) (by decide) (by decide) rfl (by decide) ?_
                                                  refine lv_iload_n hx hb dX7_by_147 rfl (lv_at hl 1 rfl) ?_
                                                  refine lv_iload_n hx hb dX7_by_148 rfl (lv_at hl 2 rfl) ?_
                                                  refine b_icmp_ne (tgt := 156) hx hb dX7_by_149 (by decide) hit (fun c32 hit => ?_) (fun c32 hit => ?_)
                                                  · refine lv_iconst (v := 0) hx hb dX7_by_156 (by decide) ?_
                                                    have he := o_in hit
                                                    exact hend _ 0 _ _ rfl he dX7_by_157
                                                  · refine lv_iconst (v := 1) hx hb dX7_by_152 (by decide) ?_
                                                    refine lv_goto (tgt := 157) hx hb dX7_by_153 (by decide) ?_
                                                    have he := o_in hit
                                                    exact hend _ 1 _ _ rfl he dX7_by_157
                                                · replace hit := o_f hit c31
                                                  have nc3 := lv_neT (a := 38) c3 (by decide)
                                                  have nc6 := lv_neT (a := 39) c6 (by decide)
                                                  have nc7 := lv_neT (a := 40) c7 (by decide)
                                                  have nc8 := lv_neT (a := 41) c8 (by decide)
                                                  have nc9 := lv_neT (a := 42) c9 (by decide)
                                                  have nc10 := lv_neT (a := 43) c10 (by decide)
                                                  have nc11 := lv_neT (a := 44) c11 (by decide)
                                                  have nc12 := lv_neT (a := 45) c12 (by decide)
                                                  have nc13 := lv_neT (a := 46) c13 (by decide)
                                                  have nc14 := lv_neT (a := 47) c14 (by decide)
                                                  have nc17 := lv_neT (a := 48) c17 (by decide)
                                                  have nc18 := lv_neT (a := 49) c18 (by decide)
                                                  have nc19 := lv_neT (a := 50) c19 (by decide)
                                                  have nc20 := lv_neT (a := 51) c20 (by decide)
                                                  have nc21 := lv_neT (a := 52) c21 (by decide)
                                                  have nc22 := lv_neT (a := 53) c22 (by decide)
                                                  have nc23 := lv_neT (a := 54) c23 (by decide)
                                                  have nc24 := lv_neT (a := 55) c24 (by decide)
                                                  have nc25 := lv_neT (a := 56) c25 (by decide)
                                                  have nc26 := lv_neT (a := 57) c26 (by decide)
                                                  have nc27 := lv_neT (a := 58) c27 (by decide)
                                                  have nc28 := lv_neT (a := 59) c28 (by decide)
                                                  have nc29 := lv_neT (a := 60) c29 (by decide)
                                                  have nc31 := lv_neT (a := 61) c31 (by decide)
                                                  refine lv_tableOut (tgt := 172) hx hb dX7_by_1 (by omega) (by decide) ?_
                                                  exact hK172  hit _ (lv_sub hl [1, 2] rfl)
noncomputable def C7_of_L22 (F : CH → Nat → Nat → Option Int32) (K : Nat → Nat) (h : CH) (o : Nat) (a0 : Nat) (t6 : Int32 × Int32) : Option ((Int32 × Int32) ⊕ Int32) :=
  (gR h o 6 0).bind fun v8 =>
  (vc h v8 10 (CJ2_size h v8)).bind fun q9 =>
  if t6.2 < q9 then
    ((gR h o 6 1).bind fun v11 =>
    (vc h v11 11 (CJ14_charAt K h v11 (t6.2 - 1))).bind fun q12 =>
    (gR h o 6 0).bind fun v13 =>
    (vc h v13 10 (CJ2_get h v13 t6.2)).bind fun q14 =>
    (ckF h q14).bind fun u16 =>
    (F h q14 a0).bind fun q17 =>
    (C7_by q12 t6.1 q17).bind fun q18 =>
    some (.inl (q18, (t6.2 + 1))))
  else
    (some (.inr t6.1))
noncomputable def C7_of (F : CH → Nat → Nat → Option Int32) (K : Nat → Nat) (h : CH) (o : Nat) (a0 : Nat) : Option (Int32) :=
  (gR h o 6 0).bind fun v1 =>
  (vc h v1 10 (CJ2_get h v1 0)).bind fun q2 =>
  (ckF h q2).bind fun u4 =>
  (F h q2 a0).bind fun q5 =>
  o_loop (C7_of_L22 F K h o a0) (q5, 1)
theorem nm_X7_of : kNm yX7_of RX7 1 := by unfold kNm; decide +kernel
set_option maxHeartbeats 4000000 in
set_option maxRecDepth 100000 in
theorem wC7_of (l : Launch) (γ : KG) (hO : kOK γ) (F : CH → Nat → Nat → Option Int32) (f lo : Nat) (hF : FmMet l γ F f lo) (h : CH) (o : Nat) (a0 : Nat) (z : Int32) (hz : C7_of F γ.2.2.2.2.2 h o a0 = some z) : Met l yX7_of (ws_ yX7_of cX7_of 4 (some .int)) (kRm (f + 8) (lo + 200)) (cPc γ h [.ref o, .ref a0]) (cRq (.int z)) 0 0 vp_nf := by
  refine c_startR (cc := cX7_of) (own := RX7) hO rfl rfl rfl (fun p e R s m args below meth c Q ls X hR hH hDU hl hend => ?_)
  have hx := X.1.1
  have hb := X.1.2.1
  have hit := hz
  clear hz
  unfold C7_of at hit
  have hl : lv_has ls 4 [(0, .ref o), (1, .ref a0)] := hl
  refine lv_aload_n hx hb dX7_of_0 rfl (lv_at hl 0 rfl) ?_
  obtain ⟨v1, ev1, hit⟩ := o_bind hit
  refine c_getR X hH kc_Chain 0 q1076 (Or.inl rfl) rfl rfl ev1 dX7_of_1 ?_
  refine lv_iconst (v := 0) hx hb dX7_of_4 (by decide) ?_
  obtain ⟨q2, eq2, hit⟩ := o_bind hit
  obtain ⟨iq2, eq2⟩ := vc_inv eq2
  refine c_cRF X hH hDU kc_ArrayList (wCJ2_get l γ X.2.1 _ _ _ _ eq2) iq2 nmi_List_get q532 q483 q139 q485 q481 q480 q479 q484 q482 q358 ⟨Nat.le_trans (by omega) hR.1, Nat.le_trans (by omega) hR.2⟩ ⟨Nat.zero_le _, Nat.zero_le _⟩ rfl rfl hl.1 (lv_room (Nat.le_of_ble_eq_true rfl)) dX7_of_5 ?_
  obtain ⟨u4, eu4, hit⟩ := o_bind hit
  refine c_castF X hH q533 eu4 dX7_of_10 ?_
  refine lv_aload_n hx hb dX7_of_13 rfl (lv_at hl 1 rfl) ?_
  obtain ⟨q5, eq5, hit⟩ := o_bind hit
  refine c_cForm X hH hDU hF eq5 q535 ⟨Nat.le_trans (by omega) hR.1, Nat.le_trans (by omega) hR.2⟩ ⟨Nat.zero_le _, Nat.zero_le _⟩ hl.1 (lv_room (Nat.le_of_ble_eq_true rfl)) dX7_of_14 ?_
  refine lv_istore_n (lv' := [(2, .int q5), (0, .ref o), (1, .ref a0)]) hx hb dX7_of_19 rfl hl (by decide) rfl (fun ls hl => ?_)
  refine lv_iconst (v := 1) hx hb dX7_of_20 (by decide) ?_
  refine lv_istore_n (lv' := [(3, .int 1), (2, .int q5), (0, .ref o), (1, .ref a0)]) hx hb dX7_of_21 rfl hl (by decide) rfl (fun ls hl => ?_)
  refine o_rec (P := fun t6 => ∀ (ls : Array Slot), lv_has ls 4 [(0, .ref o), (1, .ref a0), (2, .int t6.1), (3, .int t6.2)] → W p l e R s m args below meth c s.heap [] 0 0 Q (F0 m 22 ls [])) (fun t6 x7 hit hC6 hE6 ls hl => ?_) _ hit _ (lv_sub hl [2, 3, 1, 0] rfl)
  unfold C7_of_L22 at hit
  refine lv_iload_n hx hb dX7_of_22 rfl (lv_at hl 3 rfl) ?_
  refine lv_aload_n hx hb dX7_of_23 rfl (lv_at hl 0 rfl) ?_
  obtain ⟨v8, ev8, hit⟩ := o_bind hit
  refine c_getR X hH kc_Chain 0 q1076 (Or.inl rfl) rfl rfl ev8 dX7_of_24 ?_
  obtain ⟨q9, eq9, hit⟩ := o_bind hit
  obtain ⟨iq9, eq9⟩ := vc_inv eq9
  refine c_cRF X hH hDU kc_ArrayList (wCJ2_size l γ X.2.1 _ _  _ eq9) iq9 nmi_List_size q557 q428 q139 q430 q426 q425 q424 q429 q427 q358 ⟨Nat.le_trans (by omega) hR.1, Nat.le_trans (by omega) hR.2⟩ ⟨Nat.zero_le _, Nat.zero_le _⟩ rfl rfl hl.1 (lv_room (Nat.le_of_ble_eq_true rfl)) dX7_of_27 ?_
  refine b_icmp_ge (tgt := 75) hx hb dX7_of_32 (by decide) hit (fun c10 hit => ?_) (fun c10 hit => ?_)
  · refine lv_iload_n hx hb dX7_of_75 rfl (lv_at hl 2 rfl) ?_
    have he := o_in hit
    have he := hE6 _ he
    exact hend (.int t6.1) _ _ _ _ (kOut_i rfl) (congrArg Value.int he) dX7_of_76
  · refine lv_aload_n hx hb dX7_of_35 rfl (lv_at hl 0 rfl) ?_
    obtain ⟨v11, ev11, hit⟩ := o_bind hit
    refine c_getR X hH kc_Chain 1 q1077 (Or.inl rfl) rfl rfl ev11 dX7_of_36 ?_
    refine lv_iload_n hx hb dX7_of_39 rfl (lv_at hl 3 rfl) ?_
    refine lv_iconst (v := 1) hx hb dX7_of_40 (by decide) ?_
    refine lv_isub hx hb dX7_of_41 ?_
    obtain ⟨q12, eq12, hit⟩ := o_bind hit
    obtain ⟨iq12, eq12⟩ := vc_inv eq12
    refine c_cR X hH hDU kc_StringBuilder (wCJ14_charAt l γ X.2.1 _ _ _ _ eq12) iq12 nm_J14_charAt q558 q559 q158 q561 q560 ⟨Nat.le_trans (by omega) hR.1, Nat.le_trans (by omega) hR.2⟩ ⟨Nat.zero_le _, Nat.zero_le _⟩ rfl rfl hl.1 (lv_room (Nat.le_of_ble_eq_true rfl)) dX7_of_42 ?_
    refine lv_iload_n hx hb dX7_of_45 rfl (lv_at hl 2 rfl) ?_
    refine lv_aload_n hx hb dX7_of_46 rfl (lv_at hl 0 rfl) ?_
    obtain ⟨v13, ev13, hit⟩ := o_bind hit
    refine c_getR X hH kc_Chain 0 q1076 (Or.inl rfl) rfl rfl ev13 dX7_of_47 ?_
    refine lv_iload_n hx hb dX7_of_50 rfl (lv_at hl 3 rfl) ?_
    obtain ⟨q14, eq14, hit⟩ := o_bind hit
    obtain ⟨iq14, eq14⟩ := vc_inv eq14
    refine c_cRF X hH hDU kc_ArrayList (wCJ2_get l γ X.2.1 _ _ _ _ eq14) iq14 nmi_List_get q532 q483 q139 q485 q481 q480 q479 q484 q482 q358 ⟨Nat.le_trans (by omega) hR.1, Nat.le_trans (by omega) hR.2⟩ ⟨Nat.zero_le _, Nat.zero_le _⟩ rfl rfl hl.1 (lv_room (Nat.le_of_ble_eq_true rfl)) dX7_of_51 ?_
    obtain ⟨u16, eu16, hit⟩ := o_bind hit
    refine c_castF X hH q533 eu16 dX7_of_56 ?_
    refine lv_aload_n hx hb dX7_of_59 rfl (lv_at hl 1 rfl) ?_
    obtain ⟨q17, eq17, hit⟩ := o_bind hit
    refine c_cForm X hH hDU hF eq17 q535 ⟨Nat.le_trans (by omega) hR.1, Nat.le_trans (by omega) hR.2⟩ ⟨Nat.zero_le _, Nat.zero_le _⟩ hl.1 (lv_room (Nat.le_of_ble_eq_true rfl)) dX7_of_60 ?_
    obtain ⟨q18, eq18, hit⟩ := o_bind hit
    refine c_cP X.1 (wC7_by l _ _ _ _ eq18) nm_X7_by q585 q586 q154 q587 ⟨Nat.le_trans (by omega) hR.1, Nat.le_trans (by omega) hR.2⟩ ⟨Nat.zero_le _, Nat.zero_le _⟩ rfl rfl hl.1 (lv_room (Nat.le_of_ble_eq_true rfl)) dX7_of_65 ?_
    refine lv_istore_n (lv' := [(2, .int q18), (0, .ref o), (1, .ref a0), (3, .int t6.2)]) hx hb dX7_of_68 rfl hl (by decide) rfl (fun ls hl => ?_)
    refine lv_iinc (k := 3) (v := (t6.2 + 1)) (lv' := [(3, .int (t6.2 + 1)), (2, .int q18), (0, .ref o), (1, .ref a0)]) hx hb dX7_of_69 hl rfl rfl (by decide) rfl (fun ls hl => ?_)
    refine lv_goto (tgt := 22) hx hb dX7_of_72 (by decide) ?_
    have he := o_in hit
    exact hC6 _ he _ (lv_sub hl [2, 3, 1, 0] rfl)
noncomputable def C10_init (h : CH) (o : Nat) (a0 : Nat) : Option (CH) :=
  (pQ h o 9 0 (some a0)).bind fun s1 =>
  some s1
theorem nm_X10_init : kNm yX10_init RX10 1 := by unfold kNm; decide +kernel
set_option maxHeartbeats 4000000 in
set_option maxRecDepth 100000 in
theorem wC10_init (l : Launch) (γ : KG) (hO : kOK γ) (h : CH) (o : Nat) (a0 : Nat) (z : CH) (hz : C10_init h o a0 = some z) : Met l yX10_init (ws_ yX10_init cX10_init 2 none) (kRm 1 30) (cPc γ h [.ref o, .ref a0]) (cNq γ h none z) 0 0 (kdm h) := by
  refine c_startNI (cc := cX10_init) (own := RX10) hO rfl rfl rfl rfl (fun p e R s m args below meth c Q ls X hR hin2 h0H hI hl hend => ?_)
  have hx := X.1.1
  have hb := X.1.2.1
  have hit := hz
  clear hz
  unfold C10_init at hit
  have hl : lv_has ls 2 [(0, .ref o), (1, .ref a0)] := hl
  refine lv_aload_n hx hb dX10_init_0 rfl (lv_at hl 0 rfl) ?_
  refine b_objInit X.1 hl.1 q1160 ⟨Nat.le_trans (Nat.le_of_ble_eq_true rfl) hR.1, Nat.le_trans (Nat.le_of_ble_eq_true rfl) hR.2⟩ (Nat.le_of_ble_eq_true rfl) dX10_init_1 ?_
  refine lv_aload_n hx hb dX10_init_4 rfl (lv_at hl 0 rfl) ?_
  refine lv_aload_n hx hb dX10_init_5 rfl (lv_at hl 1 rfl) ?_
  obtain ⟨s1, es1, hit⟩ := o_bind hit
  refine c_putFQ X hin2 hI kc_Not 0 q1161 rfl rfl (v := (some a0)) (tyv := (.object "TwinInk$Form")) rfl (Or.inl ⟨_, rfl⟩) es1 dX10_init_6 (fun H locs hI => ?_)
  have he := o_in hit
  exact hend _ _ _ _ _ he hI dX10_init_9
noncomputable def C10_of (F : CH → Nat → Nat → Option Int32) (h : CH) (o : Nat) (a0 : Nat) : Option (Int32) :=
  (gR h o 9 0).bind fun v1 =>
  (F h v1 a0).bind fun q2 =>
  if q2 = 0 then
    (some 1)
  else
    (some 0)
theorem nm_X10_of : kNm yX10_of RX10 1 := by unfold kNm; decide +kernel
set_option maxHeartbeats 4000000 in
set_option maxRecDepth 100000 in
theorem wC10_of (l : Launch) (γ : KG) (hO : kOK γ) (F : CH → Nat → Nat → Option Int32) (f lo : Nat) (hF : FmMet l γ F f lo) (h : CH) (o : Nat) (a0 : Nat) (z : Int32) (hz : C10_of F h o a0 = some z) : Met l yX10_of (ws_ yX10_of cX10_of 2 (some .int)) (kRm (f + 8) (lo + 200)) (cPc γ h [.ref o, .ref a0]) (cRq (.int z)) 0 0 vp_nf := by
  refine c_startR (cc := cX10_of) (own := RX10) hO rfl rfl rfl (fun p e R s m args below meth c Q ls X hR hH hDU hl hend => ?_)
  have hx := X.1.1
  have hb := X.1.2.1
  have hit := hz
  clear hz
  unfold C10_of at hit
  have hl : lv_has ls 2 [(0, .ref o), (1, .ref a0)] := hl
  refine lv_aload_n hx hb dX10_of_0 rfl (lv_at hl 0 rfl) ?_
  obtain ⟨v1, ev1, hit⟩ := o_bind hit
  refine c_getR X hH kc_Not 0 q1161 (Or.inl rfl) rfl rfl ev1 dX10_of_1 ?_
  refine lv_aload_n hx hb dX10_of_4 rfl (lv_at hl 1 rfl) ?_
  obtain ⟨q2, eq2, hit⟩ := o_bind hit
  refine c_cForm X hH hDU hF eq2 q543 ⟨Nat.le_trans (by omega) hR.1, Nat.le_trans (by omega) hR.2⟩ ⟨Nat.zero_le _, Nat.zero_le _⟩ hl.1 (lv_room (Nat.le_of_ble_eq_true rfl)) dX10_of_5 ?_
  refine b_if_ne (tgt := 17) hx hb dX10_of_10 (by decide) hit (fun c3 hit => ?_) (fun c3 hit => ?_)
  · refine lv_iconst (v := 0) hx hb dX10_of_17 (by decide) ?_
    have he := o_in hit
    exact hend (.int 0) _ _ _ _ (kOut_i rfl) (congrArg Value.int he) dX10_of_18
  · refine lv_iconst (v := 1) hx hb dX10_of_13 (by decide) ?_
    refine lv_goto (tgt := 18) hx hb dX10_of_14 (by decide) ?_
    have he := o_in hit
    exact hend (.int 1) _ _ _ _ (kOut_i rfl) (congrArg Value.int he) dX10_of_18
noncomputable def C8_init (h : CH) (o : Nat) (a0 : Int32) : Option (CH) :=
  (pI h o 7 0 a0).bind fun s1 =>
  some s1
theorem nm_X8_init : kNm yX8_init RX8 1 := by unfold kNm; decide +kernel
set_option maxHeartbeats 4000000 in
set_option maxRecDepth 100000 in
theorem wC8_init (l : Launch) (γ : KG) (hO : kOK γ) (h : CH) (o : Nat) (a0 : Int32) (z : CH) (hz : C8_init h o a0 = some z) : Met l yX8_init (ws_ yX8_init cX8_init 2 none) (kRm 1 30) (cPc γ h [.ref o, .int a0]) (cNq γ h none z) 0 0 (kdm h) := by
  refine c_startNI (cc := cX8_init) (own := RX8) hO rfl rfl rfl rfl (fun p e R s m args below meth c Q ls X hR hin2 h0H hI hl hend => ?_)
  have hx := X.1.1
  have hb := X.1.2.1
  have hit := hz
  clear hz
  unfold C8_init at hit
  have hl : lv_has ls 2 [(0, .ref o), (1, .int a0)] := hl
  refine lv_aload_n hx hb dX8_init_0 rfl (lv_at hl 0 rfl) ?_
  refine b_objInit X.1 hl.1 q1025 ⟨Nat.le_trans (Nat.le_of_ble_eq_true rfl) hR.1, Nat.le_trans (Nat.le_of_ble_eq_true rfl) hR.2⟩ (Nat.le_of_ble_eq_true rfl) dX8_init_1 ?_
  refine lv_aload_n hx hb dX8_init_4 rfl (lv_at hl 0 rfl) ?_
  refine lv_iload_n hx hb dX8_init_5 rfl (lv_at hl 1 rfl) ?_
  obtain ⟨s1, es1, hit⟩ := o_bind hit
  refine c_putFI X hin2 hI kc_Number 0 q1026 rfl rfl (tyv := .int) rfl rfl rfl es1 dX8_init_6 (fun H locs hI => ?_)
  have he := o_in hit
  exact hend _ _ _ _ _ he hI dX8_init_9
noncomputable def C8_of (h : CH) (o : Nat) (a0 : Nat) : Option (Int32) :=
  (gI h o 7 0).bind fun v1 =>
  some v1
theorem nm_X8_of : kNm yX8_of RX8 1 := by unfold kNm; decide +kernel
set_option maxHeartbeats 4000000 in
set_option maxRecDepth 100000 in
theorem wC8_of (l : Launch) (γ : KG) (hO : kOK γ) (h : CH) (o : Nat) (a0 : Nat) (z : Int32) (hz : C8_of h o a0 = some z) : Met l yX8_of (ws_ yX8_of cX8_of 2 (some .int)) (kRm 0 0) (cPc γ h [.ref o, .ref a0]) (cRq (.int z)) 0 0 vp_nf := by
  refine c_startR (cc := cX8_of) (own := RX8) hO rfl rfl rfl (fun p e R s m args below meth c Q ls X hR hH hDU hl hend => ?_)
  have hx := X.1.1
  have hb := X.1.2.1
  have hit := hz
  clear hz
  unfold C8_of at hit
  have hl : lv_has ls 2 [(0, .ref o), (1, .ref a0)] := hl
  refine lv_aload_n hx hb dX8_of_0 rfl (lv_at hl 0 rfl) ?_
  obtain ⟨v1, ev1, hit⟩ := o_bind hit
  refine c_getI X hH kc_Number 0 q1026 (Or.inl rfl) rfl rfl ev1 dX8_of_1 ?_
  have he := o_in hit
  exact hend (.int v1) _ _ _ _ (kOut_i rfl) (congrArg Value.int he) dX8_of_4
noncomputable def C5_init (K : Nat → Nat) (h : CH) (r : CR) (o : Nat) (a0 : Nat) (a1 : Int32) : Option (CS) :=
  (pQ h o 4 13 (some a0)).bind fun s1 =>
  (aCell s1 r 6 (.inr (2, [.null, .null, .int 0, .int 0, .null, .null]))).bind fun s2 =>
  (achv s2.2 (C2_init K s2.1 s2.2 r.1)).bind fun q3 =>
  (pQ q3.1 o 4 1 (some r.1)).bind fun s4 =>
  (aCell s4 q3.2 6 (.inr (3, [.null, .null, .null, .null, .int 0, .null]))).bind fun s5 =>
  (gR s5.1 o 4 13).bind fun v6 =>
  (achv s5.2 (C3_init s5.1 s5.2 q3.2.1 v6)).bind fun q7 =>
  (pQ q7.1 o 4 2 (some q3.2.1)).bind fun s8 =>
  (aArrQ s8 q7.2 5 3).bind fun s9 =>
  (sQ s9.1 q7.2.1 5 0 (some (K (10 + 0)))).bind fun s10 =>
  (sQ s10 q7.2.1 5 1 (some (K (10 + 1)))).bind fun s11 =>
  (sQ s11 q7.2.1 5 2 (some (K (10 + 2)))).bind fun s12 =>
  (pQ s12 o 4 3 (some q7.2.1)).bind fun s13 =>
  (aArrQ s13 s9.2 5 5).bind fun s14 =>
  (sQ s14.1 s9.2.1 5 0 (some (K (10 + 3)))).bind fun s15 =>
  (sQ s15 s9.2.1 5 1 (some (K (10 + 4)))).bind fun s16 =>
  (sQ s16 s9.2.1 5 2 (some (K (10 + 5)))).bind fun s17 =>
  (sQ s17 s9.2.1 5 3 (some (K (10 + 6)))).bind fun s18 =>
  (sQ s18 s9.2.1 5 4 (some (K (10 + 7)))).bind fun s19 =>
  (pQ s19 o 4 4 (some s9.2.1)).bind fun s20 =>
  (aArrQ s20 s14.2 5 6).bind fun s21 =>
  (sQ s21.1 s14.2.1 5 0 (some (K (10 + 8)))).bind fun s22 =>
  (sQ s22 s14.2.1 5 1 (some (K (10 + 9)))).bind fun s23 =>
  (sQ s23 s14.2.1 5 2 (some (K (10 + 10)))).bind fun s24 =>
  (sQ s24 s14.2.1 5 3 (some (K (10 + 3)))).bind fun s25 =>
  (sQ s25 s14.2.1 5 4 (some (K (10 + 11)))).bind fun s26 =>
  (sQ s26 s14.2.1 5 5 (some (K (10 + 7)))).bind fun s27 =>
  (pQ s27 o 4 5 (some s14.2.1)).bind fun s28 =>
  (gR s28 o 4 4).bind fun v29 =>
  (pQ s28 o 4 6 (some v29)).bind fun s30 =>
  (pI s30 o 4 0 a1).bind fun s31 =>
  some (s31, s21.2)
theorem nm_X5_init : kNm yX5_init RX5 2 := by unfold kNm; decide +kernel
set_option maxHeartbeats 4000000 in
set_option maxRecDepth 100000 in
theorem wC5_init (l : Launch) (γ : KG) (hO : kOK γ) (h : CH) (r : CR) (o : Nat) (a0 : Nat) (a1 : Int32) (z : CS) (hz : C5_init γ.2.2.2.2.2 h r o a0 a1 = some z) : aMet l yX5_init (ws_ yX5_init cX5_init 3 none) 5 110 γ (h, r) [.ref o, .ref a0, .int a1] none z := by
  refine a_start (cc := cX5_init) (own := RX5) hO rfl rfl rfl (fun p e R s m args below meth c Q ls X hR hnm h0H hA hl hend => ?_)
  have hin2 : meth.name = "<init>" := hnm
  have hx := X.1.1
  have hb := X.1.2.1
  have hit := hz
  clear hz
  unfold C5_init at hit
  have hl : lv_has ls 3 [(0, .ref o), (1, .ref a0), (2, .int a1)] := hl
  refine lv_aload_n hx hb dX5_init_0 rfl (lv_at hl 0 rfl) ?_
  refine lv_aload_n hx hb dX5_init_1 rfl (lv_at hl 1 rfl) ?_
  obtain ⟨s1, es1, hit⟩ := o_bind hit
  refine c_putFQ X hin2 hA.1 kc_Reader 13 q797 rfl rfl (v := (some a0)) (tyv := (.object "TwinInk")) rfl (Or.inl ⟨_, rfl⟩) es1 dX5_init_2 (fun H locs hI => ?_)
  replace hA := hA.up hI
  clear hI
  refine lv_aload_n hx hb dX5_init_5 rfl (lv_at hl 0 rfl) ?_
  refine b_objInit X.1 hl.1 q763 ⟨Nat.le_trans (Nat.le_of_ble_eq_true rfl) hR.1, Nat.le_trans (Nat.le_of_ble_eq_true rfl) hR.2⟩ (Nat.le_of_ble_eq_true rfl) dX5_init_6 ?_
  refine lv_aload_n hx hb dX5_init_9 rfl (lv_at hl 0 rfl) ?_
  obtain ⟨s2, es2, hit⟩ := o_bind hit
  refine a_new X hA kc_Office q764 q177 q136 (fs := [.null, .null, .int 0, .int 0, .null, .null]) (by decide +kernel) es2 dX5_init_10 (fun H cells slots hA => ?_)
  refine lv_dup hx hb dX5_init_13 rfl ?_
  obtain ⟨q3, eq3, hit⟩ := o_bind hit
  obtain ⟨eq3, lq3⟩ := achv_inv eq3
  refine a_cIN X h0H hA nm_X2_init q765 q179 q136 q180 rfl (wC2_init l γ X.2.1 _ _ _  _ eq3) lq3 ⟨Nat.le_trans (Nat.le_of_ble_eq_true rfl) hR.1, Nat.le_trans (Nat.le_of_ble_eq_true rfl) hR.2⟩ rfl rfl hl.1 (lv_room (Nat.le_of_ble_eq_true rfl)) dX5_init_14 (fun H locs cells slots hA => ?_)
  obtain ⟨s4, es4, hit⟩ := o_bind hit
  refine c_putFQ X hin2 hA.1 kc_Reader 1 q783 rfl rfl (v := (some r.1)) (tyv := (.object "TwinInk$Office")) rfl (Or.inl ⟨_, rfl⟩) es4 dX5_init_17 (fun H locs hI => ?_)
  replace hA := hA.up hI
  clear hI
  refine lv_aload_n hx hb dX5_init_20 rfl (lv_at hl 0 rfl) ?_
  obtain ⟨s5, es5, hit⟩ := o_bind hit
  refine a_new X hA kc_Service q766 q240 q140 (fs := [.null, .null, .null, .null, .int 0, .null]) (by decide +kernel) es5 dX5_init_21 (fun H cells slots hA => ?_)
  refine lv_dup hx hb dX5_init_24 rfl ?_
  refine lv_aload_n hx hb dX5_init_25 rfl (lv_at hl 0 rfl) ?_
  obtain ⟨v6, ev6, hit⟩ := o_bind hit
  refine c_getR X hA.1.1 kc_Reader 13 q797 (Or.inl rfl) rfl rfl ev6 dX5_init_26 ?_
  obtain ⟨q7, eq7, hit⟩ := o_bind hit
  obtain ⟨eq7, lq7⟩ := achv_inv eq7
  refine a_cIN X h0H hA nm_X3_init q767 q242 q140 q243 rfl (wC3_init l γ X.2.1 _ _ _ _ _ eq7) lq7 ⟨Nat.le_trans (Nat.le_of_ble_eq_true rfl) hR.1, Nat.le_trans (Nat.le_of_ble_eq_true rfl) hR.2⟩ rfl rfl hl.1 (lv_room (Nat.le_of_ble_eq_true rfl)) dX5_init_29 (fun H locs cells slots hA => ?_)
  obtain ⟨s8, es8, hit⟩ := o_bind hit
  refine c_putFQ X hin2 hA.1 kc_Reader 2 q784 rfl rfl (v := (some q3.2.1)) (tyv := (.object "TwinInk$Service")) rfl (Or.inl ⟨_, rfl⟩) es8 dX5_init_32 (fun H locs hI => ?_)
  replace hA := hA.up hI
  clear hI
  refine lv_aload_n hx hb dX5_init_35 rfl (lv_at hl 0 rfl) ?_
  refine lv_iconst (v := 3) hx hb dX5_init_36 (by decide) ?_
  obtain ⟨s9, es9, hit⟩ := o_bind hit
  refine a_anew X hA 5 (fun _ => rfl) q768 q769 es9 dX5_init_37 (fun H cells slots hA => ?_)
  refine lv_dup hx hb dX5_init_40 rfl ?_
  refine lv_iconst (v := 0) hx hb dX5_init_41 (by decide) ?_
  refine c_ldcS X 0 (by decide) rfl dX5_init_42 ?_
  obtain ⟨s10, es10, hit⟩ := o_bind hit
  refine c_aastS X (kA_F X.2.1 X.2.2 h0H) hA.1 hA.1.2.1 (i := 0) (by decide) es10 dX5_init_44 (fun H locs hI => ?_)
  replace hA := hA.up hI
  clear hI
  refine lv_dup hx hb dX5_init_45 rfl ?_
  refine lv_iconst (v := 1) hx hb dX5_init_46 (by decide) ?_
  refine c_ldcS X 1 (by decide) rfl dX5_init_47 ?_
  obtain ⟨s11, es11, hit⟩ := o_bind hit
  refine c_aastS X (kA_F X.2.1 X.2.2 h0H) hA.1 hA.1.2.1 (i := 1) (by decide) es11 dX5_init_49 (fun H locs hI => ?_)
  replace hA := hA.up hI
  clear hI
  refine lv_dup hx hb dX5_init_50 rfl ?_
  refine lv_iconst (v := 2) hx hb dX5_init_51 (by decide) ?_
  refine c_ldcS X 2 (by decide) rfl dX5_init_52 ?_
  obtain ⟨s12, es12, hit⟩ := o_bind hit
  refine c_aastS X (kA_F X.2.1 X.2.2 h0H) hA.1 hA.1.2.1 (i := 2) (by decide) es12 dX5_init_54 (fun H locs hI => ?_)
  replace hA := hA.up hI
  clear hI
  obtain ⟨s13, es13, hit⟩ := o_bind hit
  refine c_putFQ X hin2 hA.1 kc_Reader 3 q786 rfl rfl (v := (some q7.2.1)) (tyv := (.array (.object "java/lang/String"))) rfl (Or.inr ⟨_, rfl⟩) es13 dX5_init_55 (fun H locs hI => ?_)
  replace hA := hA.up hI
  clear hI
  refine lv_aload_n hx hb dX5_init_58 rfl (lv_at hl 0 rfl) ?_
  refine lv_iconst (v := 5) hx hb dX5_init_59 (by decide) ?_
  obtain ⟨s14, es14, hit⟩ := o_bind hit
  refine a_anew X hA 5 (fun _ => rfl) q768 q769 es14 dX5_init_60 (fun H cells slots hA => ?_)
  refine lv_dup hx hb dX5_init_63 rfl ?_
  refine lv_iconst (v := 0) hx hb dX5_init_64 (by decide) ?_
  refine c_ldcS X 3 (by decide) rfl dX5_init_65 ?_
  obtain ⟨s15, es15, hit⟩ := o_bind hit
  refine c_aastS X (kA_F X.2.1 X.2.2 h0H) hA.1 hA.1.2.1 (i := 3) (by decide) es15 dX5_init_67 (fun H locs hI => ?_)
  replace hA := hA.up hI
  clear hI
  refine lv_dup hx hb dX5_init_68 rfl ?_
  refine lv_iconst (v := 1) hx hb dX5_init_69 (by decide) ?_
  refine c_ldcS X 4 (by decide) rfl dX5_init_70 ?_
  obtain ⟨s16, es16, hit⟩ := o_bind hit
  refine c_aastS X (kA_F X.2.1 X.2.2 h0H) hA.1 hA.1.2.1 (i := 4) (by decide) es16 dX5_init_72 (fun H locs hI => ?_)
  replace hA := hA.up hI
  clear hI
  refine lv_dup hx hb dX5_init_73 rfl ?_
  refine lv_iconst (v := 2) hx hb dX5_init_74 (by decide) ?_
  refine c_ldcS X 5 (by decide) rfl dX5_init_75 ?_
  obtain ⟨s17, es17, hit⟩ := o_bind hit
  refine c_aastS X (kA_F X.2.1 X.2.2 h0H) hA.1 hA.1.2.1 (i := 5) (by decide) es17 dX5_init_77 (fun H locs hI => ?_)
  replace hA := hA.up hI
  clear hI
  refine lv_dup hx hb dX5_init_78 rfl ?_
  refine lv_iconst (v := 3) hx hb dX5_init_79 (by decide) ?_
  refine c_ldcS X 6 (by decide) rfl dX5_init_80 ?_
  obtain ⟨s18, es18, hit⟩ := o_bind hit
  refine c_aastS X (kA_F X.2.1 X.2.2 h0H) hA.1 hA.1.2.1 (i := 6) (by decide) es18 dX5_init_82 (fun H locs hI => ?_)
  replace hA := hA.up hI
  clear hI
  refine lv_dup hx hb dX5_init_83 rfl ?_
  refine lv_iconst (v := 4) hx hb dX5_init_84 (by decide) ?_
  refine c_ldcS X 7 (by decide) rfl dX5_init_85 ?_
  obtain ⟨s19, es19, hit⟩ := o_bind hit
  refine c_aastS X (kA_F X.2.1 X.2.2 h0H) hA.1 hA.1.2.1 (i := 7) (by decide) es19 dX5_init_87 (fun H locs hI => ?_)
  replace hA := hA.up hI
  clear hI
  obtain ⟨s20, es20, hit⟩ := o_bind hit
  refine c_putFQ X hin2 hA.1 kc_Reader 4 q787 rfl rfl (v := (some s9.2.1)) (tyv := (.array (.object "java/lang/String"))) rfl (Or.inr ⟨_, rfl⟩) es20 dX5_init_88 (fun H locs hI => ?_)
  replace hA := hA.up hI
  clear hI
  refine lv_aload_n hx hb dX5_init_91 rfl (lv_at hl 0 rfl) ?_
  refine lv_bipush (v := 6) hx hb dX5_init_92 (by decide) ?_
  obtain ⟨s21, es21, hit⟩ := o_bind hit
  refine a_anew X hA 5 (fun _ => rfl) q768 q769 es21 dX5_init_94 (fun H cells slots hA => ?_)
  refine lv_dup hx hb dX5_init_97 rfl ?_
  refine lv_iconst (v := 0) hx hb dX5_init_98 (by decide) ?_
  refine c_ldcS X 8 (by decide) rfl dX5_init_99 ?_
  obtain ⟨s22, es22, hit⟩ := o_bind hit
  refine c_aastS X (kA_F X.2.1 X.2.2 h0H) hA.1 hA.1.2.1 (i := 8) (by decide) es22 dX5_init_101 (fun H locs hI => ?_)
  replace hA := hA.up hI
  clear hI
  refine lv_dup hx hb dX5_init_102 rfl ?_
  refine lv_iconst (v := 1) hx hb dX5_init_103 (by decide) ?_
  refine c_ldcS X 9 (by decide) rfl dX5_init_104 ?_
  obtain ⟨s23, es23, hit⟩ := o_bind hit
  refine c_aastS X (kA_F X.2.1 X.2.2 h0H) hA.1 hA.1.2.1 (i := 9) (by decide) es23 dX5_init_106 (fun H locs hI => ?_)
  replace hA := hA.up hI
  clear hI
  refine lv_dup hx hb dX5_init_107 rfl ?_
  refine lv_iconst (v := 2) hx hb dX5_init_108 (by decide) ?_
  refine c_ldcS X 10 (by decide) rfl dX5_init_109 ?_
  obtain ⟨s24, es24, hit⟩ := o_bind hit
  refine c_aastS X (kA_F X.2.1 X.2.2 h0H) hA.1 hA.1.2.1 (i := 10) (by decide) es24 dX5_init_111 (fun H locs hI => ?_)
  replace hA := hA.up hI
  clear hI
  refine lv_dup hx hb dX5_init_112 rfl ?_
  refine lv_iconst (v := 3) hx hb dX5_init_113 (by decide) ?_
  refine c_ldcS X 3 (by decide) rfl dX5_init_114 ?_
  obtain ⟨s25, es25, hit⟩ := o_bind hit
  refine c_aastS X (kA_F X.2.1 X.2.2 h0H) hA.1 hA.1.2.1 (i := 3) (by decide) es25 dX5_init_116 (fun H locs hI => ?_)
  replace hA := hA.up hI
  clear hI
  refine lv_dup hx hb dX5_init_117 rfl ?_
  refine lv_iconst (v := 4) hx hb dX5_init_118 (by decide) ?_
  refine c_ldcS X 11 (by decide) rfl dX5_init_119 ?_
  obtain ⟨s26, es26, hit⟩ := o_bind hit
  refine c_aastS X (kA_F X.2.1 X.2.2 h0H) hA.1 hA.1.2.1 (i := 11) (by decide) es26 dX5_init_121 (fun H locs hI => ?_)
  replace hA := hA.up hI
  clear hI
  refine lv_dup hx hb dX5_init_122 rfl ?_
  refine lv_iconst (v := 5) hx hb dX5_init_123 (by decide) ?_
  refine c_ldcS X 7 (by decide) rfl dX5_init_124 ?_
  obtain ⟨s27, es27, hit⟩ := o_bind hit
  refine c_aastS X (kA_F X.2.1 X.2.2 h0H) hA.1 hA.1.2.1 (i := 7) (by decide) es27 dX5_init_126 (fun H locs hI => ?_)
  replace hA := hA.up hI
  clear hI
  obtain ⟨s28, es28, hit⟩ := o_bind hit
  refine c_putFQ X hin2 hA.1 kc_Reader 5 q788 rfl rfl (v := (some s14.2.1)) (tyv := (.array (.object "java/lang/String"))) rfl (Or.inr ⟨_, rfl⟩) es28 dX5_init_127 (fun H locs hI => ?_)
  replace hA := hA.up hI
  clear hI
  refine lv_aload_n hx hb dX5_init_130 rfl (lv_at hl 0 rfl) ?_
  refine lv_aload_n hx hb dX5_init_131 rfl (lv_at hl 0 rfl) ?_
  obtain ⟨v29, ev29, hit⟩ := o_bind hit
  refine c_getR X hA.1.1 kc_Reader 4 q787 (Or.inl rfl) rfl rfl ev29 dX5_init_132 ?_
  obtain ⟨s30, es30, hit⟩ := o_bind hit
  refine c_putQ X hA.1 kc_Reader 6 q789 (Or.inl rfl) rfl rfl (v := (some v29)) (tyv := (.array (.object "java/lang/String"))) rfl (Or.inr ⟨_, rfl⟩) es30 dX5_init_135 (fun H locs hI => ?_)
  replace hA := hA.up hI
  clear hI
  refine lv_aload_n hx hb dX5_init_138 rfl (lv_at hl 0 rfl) ?_
  refine lv_iload_n hx hb dX5_init_139 rfl (lv_at hl 2 rfl) ?_
  obtain ⟨s31, es31, hit⟩ := o_bind hit
  refine c_putFI X hin2 hA.1 kc_Reader 0 q782 rfl rfl (tyv := .int) rfl rfl rfl es31 dX5_init_140 (fun H locs hI => ?_)
  replace hA := hA.up hI
  clear hI
  have he := o_in hit
  exact hend none (s31, s21.2) _ _ _ _ _ _ _ _ kOut_v (by subst he; rfl) hA dX5_init_143
