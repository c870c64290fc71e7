noncomputable def C1_couplesS_J78 (S : CH → Nat → Int32 → Option Int32) (h : CH) (o : Nat) (a0 : Int32) (q2 : Int32) (t4 : Int32 × Int32) : Option (Int32) :=
  (vc h o 1 (S h o ((a0 &&& (((1 : Int32) <<< (q2 &&& 31)) ^^^ (-1))) &&& (((1 : Int32) <<< (t4.2 &&& 31)) ^^^ (-1))))).bind fun q14 =>
  some (imax t4.1 (1 + q14))
noncomputable def C1_couplesS_L31 (S : CH → Nat → Int32 → Option Int32) (h : CH) (o : Nat) (a0 : Int32) (q2 : Int32) (t4 : Int32 × Int32) : Option ((Int32 × Int32) ⊕ Int32) :=
  (gR h o 1 1).bind fun v6 =>
  (gI h v6 2 2).bind fun v7 =>
  if t4.2 < v7 then
    ((C1_isOf (a0 &&& (((1 : Int32) <<< (q2 &&& 31)) ^^^ (-1))) t4.2).bind fun q9 =>
    ((if q9 = 0 then
        (some t4.1)
      else
        ((gR h o 1 2).bind fun v12 =>
        (vc h v12 3 (C3_fits h v12 q2 t4.2)).bind fun q13 =>
        if q13 = 0 then
          ((gR h o 1 2).bind fun v16 =>
          (vc h v16 3 (C3_fits h v16 t4.2 q2)).bind fun q17 =>
          if q17 = 0 then
            (some t4.1)
          else
            (C1_couplesS_J78 S h o a0 q2 t4))
        else
          (C1_couplesS_J78 S h o a0 q2 t4)) : Option Int32)).bind fun r10 =>
    some (.inl (r10, (t4.2 + 1))))
  else
    (some (.inr t4.1))
noncomputable def C1_couplesS (S : CH → Nat → Int32 → Option Int32) (h : CH) (o : Nat) (a0 : Int32) : Option (Int32) :=
  if a0 = 0 then
    (some 0)
  else
    ((CJ19_numberOfTrailingZeros a0).bind fun q2 =>
    (vc h o 1 (S h o (a0 &&& (((1 : Int32) <<< (q2 &&& 31)) ^^^ (-1))))).bind fun q3 =>
    o_loop (C1_couplesS_L31 S h o a0 q2) (q3, (q2 + 1)))
theorem nm_X1_couples : kNm yX1_couples RX1 1 := by unfold kNm; decide +kernel
set_option maxHeartbeats 4000000 in
set_option maxRecDepth 100000 in
theorem wC1_couplesS (l : Launch) (γ : KG) (hO : kOK γ) (S : CH → Nat → Int32 → Option Int32) (f lo : Nat) (hS : ∀ (h : CH) (o : Nat) (a : Int32) (z : Int32), S h o a = some z → Met l yX1_couples (ws_ yX1_couples cX1_couples 6 (some .int)) (kRm f lo) (cPc γ h [.ref o, .int a]) (cRq (.int z)) 0 0 vp_nf) (h : CH) (o : Nat) (a0 : Int32) (z : Int32) (hz : C1_couplesS S h o a0 = some z) : Met l yX1_couples (ws_ yX1_couples cX1_couples 6 (some .int)) (kRm (f + 8) (lo + 200)) (cPc γ h [.ref o, .int a0]) (cRq (.int z)) 0 0 vp_nf := by
  refine c_startR (cc := cX1_couples) (own := RX1) hO rfl rfl rfl (fun p e R s m args below meth c Q ls X hR hH hDU hl hend => ?_)
  have hx := X.1.1
  have hb := X.1.2.1
  have hit := hz
  clear hz
  unfold C1_couplesS at hit
  have hl : lv_has ls 6 [(0, .ref o), (1, .int a0)] := hl
  refine lv_iload_n hx hb dX1_couples_0 rfl (lv_at hl 1 rfl) ?_
  refine b_if_ne (tgt := 6) hx hb dX1_couples_1 (by decide) hit (fun c1 hit => ?_) (fun c1 hit => ?_)
  · refine lv_iload_n hx hb dX1_couples_6 rfl (lv_at hl 1 rfl) ?_
    obtain ⟨q2, eq2, hit⟩ := o_bind hit
    refine c_cP X.1 (wCJ19_numberOfTrailingZeros l _ _ eq2) nm_J19_numberOfTrailingZeros q1248 q1249 q165 q1250 ⟨Nat.le_trans (by omega) hR.1, Nat.le_trans (by omega) hR.2⟩ ⟨Nat.zero_le _, Nat.zero_le _⟩ rfl rfl hl.1 (lv_room (Nat.le_of_ble_eq_true rfl)) dX1_couples_7 ?_
    refine lv_istore_n (lv' := [(2, .int q2), (0, .ref o), (1, .int a0)]) hx hb dX1_couples_10 rfl hl (by decide) rfl (fun ls hl => ?_)
    refine lv_iload_n hx hb dX1_couples_11 rfl (lv_at hl 2 rfl) ?_
    refine lv_iconst (v := 1) hx hb dX1_couples_12 (by decide) ?_
    refine lv_iload_n hx hb dX1_couples_13 rfl (lv_at hl 0 rfl) ?_
    refine lv_ishl hx hb dX1_couples_14 ?_
    refine lv_iconst (v := (-1)) hx hb dX1_couples_15 (by decide) ?_
    refine lv_ixor hx hb dX1_couples_16 ?_
    refine lv_iand hx hb dX1_couples_17 ?_
    refine lv_istore_n (lv' := [(3, .int (a0 &&& (((1 : Int32) <<< (q2 &&& 31)) ^^^ (-1)))), (2, .int q2), (0, .ref o), (1, .int a0)]) hx hb dX1_couples_18 rfl hl (by decide) rfl (fun ls hl => ?_)
    refine lv_aload_n hx hb dX1_couples_19 rfl (lv_at hl 2 rfl) ?_
    refine lv_iload_n hx hb dX1_couples_20 rfl (lv_at hl 0 rfl) ?_
    obtain ⟨q3, eq3, hit⟩ := o_bind hit
    obtain ⟨iq3, eq3⟩ := vc_inv eq3
    refine c_cR X hH hDU kc_TwinInk (hS _ _ _ _ eq3) iq3 nm_X1_couples q1244 q1246 q135 q1247 qs35 ⟨Nat.le_trans (by omega) hR.1, Nat.le_trans (by omega) hR.2⟩ ⟨Nat.zero_le _, Nat.zero_le _⟩ rfl rfl hl.1 (lv_room (Nat.le_of_ble_eq_true rfl)) dX1_couples_21 ?_
    refine lv_istore (lv' := [(4, .int q3), (3, .int (a0 &&& (((1 : Int32) <<< (q2 &&& 31)) ^^^ (-1)))), (2, .int q2), (0, .ref o), (1, .int a0)]) hx hb dX1_couples_24 hl (by decide) rfl (fun ls hl => ?_)
    refine lv_iload_n hx hb dX1_couples_26 rfl (lv_at hl 2 rfl) ?_
    refine lv_iconst (v := 1) hx hb dX1_couples_27 (by decide) ?_
    refine lv_iadd hx hb dX1_couples_28 ?_
    refine lv_istore (lv' := [(5, .int (q2 + 1)), (4, .int q3), (3, .int (a0 &&& (((1 : Int32) <<< (q2 &&& 31)) ^^^ (-1)))), (2, .int q2), (0, .ref o), (1, .int a0)]) hx hb dX1_couples_29 hl (by decide) rfl (fun ls hl => ?_)
    refine o_rec (P := fun t4 => ∀ (ls : Array Slot), lv_has ls 6 [(3, .int (a0 &&& (((1 : Int32) <<< (q2 &&& 31)) ^^^ (-1)))), (2, .int q2), (0, .ref o), (4, .int t4.1), (5, .int t4.2)] → W p l e R s m args below meth c s.heap [] 0 0 Q (F0 m 31 ls [])) (fun t4 x5 hit hC4 hE4 ls hl => ?_) _ hit _ (lv_sub hl [2, 3, 4, 1, 0] rfl)
    unfold C1_couplesS_L31 at hit
    refine lv_iload hx hb dX1_couples_31 (lv_at hl 4 rfl) ?_
    refine lv_aload_n hx hb dX1_couples_33 rfl (lv_at hl 2 rfl) ?_
    obtain ⟨v6, ev6, hit⟩ := o_bind hit
    refine c_getR X hH kc_TwinInk 1 q277 (Or.inl rfl) rfl rfl ev6 dX1_couples_34 ?_
    obtain ⟨v7, ev7, hit⟩ := o_bind hit
    refine c_getNI X hH kc_Office 2 q216 (Or.inl rfl) rfl rfl ev7 dX1_couples_37 ?_
    refine b_icmp_ge (tgt := 105) hx hb dX1_couples_40 (by decide) hit (fun c8 hit => ?_) (fun c8 hit => ?_)
    · refine lv_iload hx hb dX1_couples_105 (lv_at hl 3 rfl) ?_
      have he := o_in hit
      have he := hE4 _ he
      exact hend (.int t4.1) _ _ _ _ (kOut_i rfl) (congrArg Value.int he) dX1_couples_107
    · refine lv_iload_n hx hb dX1_couples_43 rfl (lv_at hl 0 rfl) ?_
      refine lv_iload hx hb dX1_couples_44 (lv_at hl 4 rfl) ?_
      obtain ⟨q9, eq9, hit⟩ := o_bind hit
      refine c_cP X.1 (wC1_isOf l _ _ _ eq9) nm_X1_isOf q1252 q519 q135 q520 ⟨Nat.le_trans (by omega) hR.1, Nat.le_trans (by omega) hR.2⟩ ⟨Nat.zero_le _, Nat.zero_le _⟩ rfl rfl hl.1 (lv_room (Nat.le_of_ble_eq_true rfl)) dX1_couples_46 ?_
      obtain ⟨r10, er10, hit⟩ := o_bind hit
      have hr10 : ∀ (ls : Array Slot), lv_has ls 6 [(3, .int (a0 &&& (((1 : Int32) <<< (q2 &&& 31)) ^^^ (-1)))), (2, .int q2), (0, .ref o), (5, .int t4.2), (4, .int r10)] → W p l e R s m args below meth c s.heap [] 0 0 Q (F0 m 99 ls []) := by
        intro ls hl
        refine lv_iinc (k := 3) (v := (t4.2 + 1)) (lv' := [(5, .int (t4.2 + 1)), (3, .int (a0 &&& (((1 : Int32) <<< (q2 &&& 31)) ^^^ (-1)))), (2, .int q2), (0, .ref o), (4, .int r10)]) hx hb dX1_couples_99 hl rfl rfl (by decide) rfl (fun ls hl => ?_)
        refine lv_goto (tgt := 31) hx hb dX1_couples_102 (by decide) ?_
        have he := o_in hit
        exact hC4 _ he _ (lv_sub hl [1, 2, 3, 4, 0] rfl)
      have hit := er10
      refine b_if_eq (tgt := 99) hx hb dX1_couples_49 (by decide) hit (fun c11 hit => ?_) (fun c11 hit => ?_)
      · have he := o_in hit
        subst he
        exact hr10 _ (lv_sub hl [0, 1, 2, 4, 3] rfl)
      · refine lv_aload_n hx hb dX1_couples_52 rfl (lv_at hl 2 rfl) ?_
        obtain ⟨v12, ev12, hit⟩ := o_bind hit
        refine c_getR X hH kc_TwinInk 2 q278 (Or.inl rfl) rfl rfl ev12 dX1_couples_53 ?_
        refine lv_iload_n hx hb dX1_couples_56 rfl (lv_at hl 1 rfl) ?_
        refine lv_iload hx hb dX1_couples_57 (lv_at hl 4 rfl) ?_
        obtain ⟨q13, eq13, hit⟩ := o_bind hit
        obtain ⟨iq13, eq13⟩ := vc_inv eq13
        refine c_cR X hH hDU kc_Service (wC3_fits l γ X.2.1 _ _ _ _ _ eq13) iq13 nm_X3_fits q645 q602 q140 q604 q603 ⟨Nat.le_trans (by omega) hR.1, Nat.le_trans (by omega) hR.2⟩ ⟨Nat.zero_le _, Nat.zero_le _⟩ rfl rfl hl.1 (lv_room (Nat.le_of_ble_eq_true rfl)) dX1_couples_59 ?_
        have hK78 : C1_couplesS_J78 S h o a0 q2 t4 = some r10 → ∀ (ls : Array Slot), lv_has ls 6 [(3, .int (a0 &&& (((1 : Int32) <<< (q2 &&& 31)) ^^^ (-1)))), (2, .int q2), (0, .ref o), (4, .int t4.1), (5, .int t4.2)] → W p l e R s m args below meth c s.heap [] 0 0 Q (F0 m 78 ls []) := by
          intro  hit ls hl
          unfold C1_couplesS_J78 at hit
          refine lv_iload hx hb dX1_couples_78 (lv_at hl 3 rfl) ?_
          refine lv_iconst (v := 1) hx hb dX1_couples_80 (by decide) ?_
          refine lv_aload_n hx hb dX1_couples_81 rfl (lv_at hl 2 rfl) ?_
          refine lv_iload_n hx hb dX1_couples_82 rfl (lv_at hl 0 rfl) ?_
          refine lv_iconst (v := 1) hx hb dX1_couples_83 (by decide) ?_
          refine lv_iload hx hb dX1_couples_84 (lv_at hl 4 rfl) ?_
          refine lv_ishl hx hb dX1_couples_86 ?_
          refine lv_iconst (v := (-1)) hx hb dX1_couples_87 (by decide) ?_
          refine lv_ixor hx hb dX1_couples_88 ?_
          refine lv_iand hx hb dX1_couples_89 ?_
          obtain ⟨q14, eq14, hit⟩ := o_bind hit
          obtain ⟨iq14, eq14⟩ := vc_inv eq14
          refine c_cR X hH hDU kc_TwinInk (hS _ _ _ _ eq14) iq14 nm_X1_couples q1244 q1246 q135 q1247 qs35 ⟨Nat.le_trans (by omega) hR.1, Nat.le_trans (by omega) hR.2⟩ ⟨Nat.zero_le _, Nat.zero_le _⟩ rfl rfl hl.1 (lv_room (Nat.le_of_ble_eq_true rfl)) dX1_couples_90 ?_
          refine lv_iadd hx hb dX1_couples_93 ?_
          refine b_max X.1 hl.1 q1253 (Nat.le_trans (Nat.le_of_ble_eq_true rfl) hR.1) (Nat.le_trans (Nat.le_of_ble_eq_true rfl) hR.2) ⟨Nat.zero_le _, Nat.zero_le _⟩ dX1_couples_94 ?_
          refine lv_istore (lv' := [(4, .int (imax t4.1 (1 + q14))), (3, .int (a0 &&& (((1 : Int32) <<< (q2 &&& 31)) ^^^ (-1)))), (2, .int q2), (0, .ref o), (5, .int t4.2)]) hx hb dX1_couples_97 hl (by decide) rfl (fun ls hl => ?_)
          have he := o_in hit
          subst he
          exact hr10 _ (lv_sub hl [1, 2, 3, 4, 0] rfl)
        refine b_if_ne (tgt := 78) hx hb dX1_couples_62 (by decide) hit (fun c15 hit => ?_) (fun c15 hit => ?_)
        · exact hK78  hit _ hl
        · refine lv_aload_n hx hb dX1_couples_65 rfl (lv_at hl 2 rfl) ?_
          obtain ⟨v16, ev16, hit⟩ := o_bind hit
          refine c_getR X hH kc_TwinInk 2 q278 (Or.inl rfl) rfl rfl ev16 dX1_couples_66 ?_
          refine lv_iload hx hb dX1_couples_69 (lv_at hl 4 rfl) ?_
          refine lv_iload_n hx hb dX1_couples_71 rfl (lv_at hl 1 rfl) ?_
          obtain ⟨q17, eq17, hit⟩ := o_bind hit
          obtain ⟨iq17, eq17⟩ := vc_inv eq17
          refine c_cR X hH hDU kc_Service (wC3_fits l γ X.2.1 _ _ _ _ _ eq17) iq17 nm_X3_fits q645 q602 q140 q604 q603 ⟨Nat.le_trans (by omega) hR.1, Nat.le_trans (by omega) hR.2⟩ ⟨Nat.zero_le _, Nat.zero_le _⟩ rfl rfl hl.1 (lv_room (Nat.le_of_ble_eq_true rfl)) dX1_couples_72 ?_
          refine b_if_eq (tgt := 99) hx hb dX1_couples_75 (by decide) hit (fun c18 hit => ?_) (fun c18 hit => ?_)
          · have he := o_in hit
            subst he
            exact hr10 _ (lv_sub hl [0, 1, 2, 4, 3] rfl)
          · exact hK78  hit _ hl
  · refine lv_iconst (v := 0) hx hb dX1_couples_4 (by decide) ?_
    have he := o_in hit
    exact hend (.int 0) _ _ _ _ (kOut_i rfl) (congrArg Value.int he) dX1_couples_5
noncomputable def C1_couples_n : Nat → CH → Nat → Int32 → Option Int32
  | 0, _, _, _ => none
  | n + 1, h, o, a => C1_couplesS (C1_couples_n n) h o a
noncomputable def C1_couples : CH → Nat → Int32 → Option Int32 := C1_couples_n 12
theorem wC1_couples_n (l : Launch) (γ : KG) (hO : kOK γ) : ∀ (n : Nat) (h : CH) (o : Nat) (a z : Int32), C1_couples_n n h o a = some z → Met l yX1_couples (ws_ yX1_couples cX1_couples 6 (some .int)) (kRm (8 * n) (200 * n)) (cPc γ h [.ref o, .int a]) (cRq (.int z)) 0 0 vp_nf
  | 0, h, o, a, z, hz => by cases hz
  | n + 1, h, o, a, z, hz => wC1_couplesS l γ hO (C1_couples_n n) (8 * n) (200 * n) (wC1_couples_n l γ hO n) h o a z hz
theorem wC1_couples (l : Launch) (γ : KG) (hO : kOK γ) (h : CH) (o : Nat) (a0 z : Int32) (hz : C1_couples h o a0 = some z) : Met l yX1_couples (ws_ yX1_couples cX1_couples 6 (some .int)) (kRm 96 2400) (cPc γ h [.ref o, .int a0]) (cRq (.int z)) 0 0 vp_nf := wC1_couples_n l γ hO 12 h o a0 z hz
