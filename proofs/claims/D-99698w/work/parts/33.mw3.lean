noncomputable def M_isGuess (σ : MS) (a0 : Int32) : Option (Int32 × MS) :=
  if (imod a0 9) < (mf σ 1) then
    ((M_isBurnt σ 0 (imod a0 9)).bind fun q2 =>
    if q2 = 0 then
      ((ald σ 44 (19 + (imod a0 9))).bind fun v4 =>
      if v4 = (10 + (a0 / 9)) then
        (some (0, σ))
      else
        ((M_tries σ).bind fun q6 =>
        (ast q6 44 (53 + (imod a0 9)) (10 + (a0 / 9))).bind fun s7 =>
        (M_isHeard s7).bind fun q8 =>
        some ((vp_nar .boolean q8.1), q8.2)))
    else
      (some (0, σ)))
  else
    (some (0, σ))
theorem nm_X4_isGuess : kNm yX4_isGuess RX4 1 := by unfold kNm; decide +kernel
set_option maxHeartbeats 4000000 in
set_option maxRecDepth 100000 in
theorem wM_isGuess (l : Launch) (G : va_G) (dT : Nat → ClassId) (o : Nat) (ad : Nat → Nat) (σ : MS) (a0 : Int32) (z : Int32 × MS) (h : M_isGuess σ a0 = some z) : Met l yX4_isGuess (ws_ yX4_isGuess cX4_isGuess 4 (some .boolean)) (kRm 7 160) (mPc G dT o ad σ [.int a0]) (va_Qi (fun r (_ : Unit) => r = z.1) (fun _ t => MH G dT o ad z.2 t.heap) (mAd o ad)) 0 0 (mAd o ad) := by
  refine m_startNi (cc := cX4_isGuess) (ty := .boolean) rfl rfl rfl (fun p e R s m args below meth c Q ls X hR hM hS hl hend => ?_)
  have hx := X.1.1
  have hb := X.1.2.1
  have hit := h
  clear h
  unfold M_isGuess at hit
  have hl : lv_has ls 4 [(0, .ref o), (1, .int a0)] := hl
  refine lv_iload_n hx hb dX4_isGuess_0 rfl (lv_at hl 1 rfl) ?_
  refine lv_bipush (v := 9) hx hb dX4_isGuess_1 (by decide) ?_
  refine lv_idiv hx hb dX4_isGuess_3 (by decide) ?_
  refine lv_istore_n (lv' := [(2, .int (a0 / 9)), (0, .ref o), (1, .int a0)]) hx hb dX4_isGuess_4 rfl hl (by decide) rfl (fun ls hl => ?_)
  refine lv_iload_n hx hb dX4_isGuess_5 rfl (lv_at hl 2 rfl) ?_
  refine lv_bipush (v := 9) hx hb dX4_isGuess_6 (by decide) ?_
  refine b_iremc hx hb dX4_isGuess_8 (by decide) ?_
  refine lv_istore_n (lv' := [(3, .int (imod a0 9)), (2, .int (a0 / 9)), (0, .ref o), (1, .int a0)]) hx hb dX4_isGuess_9 rfl hl (by decide) rfl (fun ls hl => ?_)
  refine lv_iload_n hx hb dX4_isGuess_10 rfl (lv_at hl 0 rfl) ?_
  refine lv_aload_n hx hb dX4_isGuess_11 rfl (lv_at hl 2 rfl) ?_
  refine m_get X hM 1 q1645 rfl rfl (v := .int (mf σ 1)) rfl dX4_isGuess_12 ?_
  refine b_icmp_ge (tgt := 43) hx hb dX4_isGuess_15 (by decide) hit (fun c1 hit => ?_) (fun c1 hit => ?_)
  · refine lv_iconst (v := 0) hx hb dX4_isGuess_43 (by decide) ?_
    have he := o_in hit
    exact hend _ 0 _ _ _ _ _ rfl he hM hS dX4_isGuess_44
  · refine lv_aload_n hx hb dX4_isGuess_18 rfl (lv_at hl 2 rfl) ?_
    refine lv_iconst (v := 0) hx hb dX4_isGuess_19 (by decide) ?_
    refine lv_iload_n hx hb dX4_isGuess_20 rfl (lv_at hl 0 rfl) ?_
    obtain ⟨q2, eq2, hit⟩ := o_bind hit
    refine m_cR X hM (wM_isBurnt l G dT o ad _ _ _ _ eq2) nm_X4_isBurnt q1990 q1992 q141 q1993 qs85 ⟨Nat.le_trans (Nat.le_of_ble_eq_true rfl) hR.1, Nat.le_trans (Nat.le_of_ble_eq_true rfl) hR.2⟩ rfl rfl hl.1 (lv_room (Nat.le_of_ble_eq_true rfl)) dX4_isGuess_21 ?_
    refine b_if_ne (tgt := 43) hx hb dX4_isGuess_24 (by decide) hit (fun c3 hit => ?_) (fun c3 hit => ?_)
    · refine lv_iconst (v := 0) hx hb dX4_isGuess_43 (by decide) ?_
      have he := o_in hit
      exact hend _ 0 _ _ _ _ _ rfl he hM hS dX4_isGuess_44
    · refine lv_aload_n hx hb dX4_isGuess_27 rfl (lv_at hl 2 rfl) ?_
      refine m_get X hM 44 q1688 rfl rfl (v := .ref (ad 44)) rfl dX4_isGuess_28 ?_
      refine lv_bipush (v := 19) hx hb dX4_isGuess_31 (by decide) ?_
      refine lv_iload_n hx hb dX4_isGuess_33 rfl (lv_at hl 0 rfl) ?_
      refine lv_iadd hx hb dX4_isGuess_34 ?_
      obtain ⟨v4, ev4, hit⟩ := o_bind hit
      refine m_iald X hM 15 44 rfl rfl ev4 dX4_isGuess_35 ?_
      refine lv_bipush (v := 10) hx hb dX4_isGuess_36 (by decide) ?_
      refine lv_iload_n hx hb dX4_isGuess_38 rfl (lv_at hl 1 rfl) ?_
      refine lv_iadd hx hb dX4_isGuess_39 ?_
      refine b_icmp_ne (tgt := 45) hx hb dX4_isGuess_40 (by decide) hit (fun c5 hit => ?_) (fun c5 hit => ?_)
      · refine lv_aload_n hx hb dX4_isGuess_45 rfl (lv_at hl 2 rfl) ?_
        obtain ⟨q6, eq6, hit⟩ := o_bind hit
        refine m_cNv X hM hS (wM_tries l G dT o ad _  _ eq6) nm_X4_tries q2175 q2177 q141 q2178 qs119 ⟨Nat.le_trans (Nat.le_of_ble_eq_true rfl) hR.1, Nat.le_trans (Nat.le_of_ble_eq_true rfl) hR.2⟩ rfl rfl hl.1 (lv_room (Nat.le_of_ble_eq_true rfl)) dX4_isGuess_46 (fun H locs hM hS => ?_)
        refine lv_aload_n hx hb dX4_isGuess_49 rfl (lv_at hl 2 rfl) ?_
        refine m_get X hM 44 q1688 rfl rfl (v := .ref (ad 44)) rfl dX4_isGuess_50 ?_
        refine lv_bipush (v := 53) hx hb dX4_isGuess_53 (by decide) ?_
        refine lv_iload_n hx hb dX4_isGuess_55 rfl (lv_at hl 0 rfl) ?_
        refine lv_iadd hx hb dX4_isGuess_56 ?_
        refine lv_bipush (v := 10) hx hb dX4_isGuess_57 (by decide) ?_
        refine lv_iload_n hx hb dX4_isGuess_59 rfl (lv_at hl 1 rfl) ?_
        refine lv_iadd hx hb dX4_isGuess_60 ?_
        obtain ⟨s7, es7, hit⟩ := o_bind hit
        refine m_iast X hM hS 15 44 rfl rfl es7 dX4_isGuess_61 (fun H locs hM hS => ?_)
        refine lv_aload_n hx hb dX4_isGuess_62 rfl (lv_at hl 2 rfl) ?_
        obtain ⟨q8, eq8, hit⟩ := o_bind hit
        refine m_cNi X hM hS (wM_isHeard l G dT o ad _  _ eq8) nm_X4_isHeard q2247 q2249 q141 q2250 qs123 ⟨Nat.le_trans (Nat.le_of_ble_eq_true rfl) hR.1, Nat.le_trans (Nat.le_of_ble_eq_true rfl) hR.2⟩ rfl rfl hl.1 (lv_room (Nat.le_of_ble_eq_true rfl)) dX4_isGuess_63 (fun H locs hM hS => ?_)
        have he := o_in hit
        exact hend _ (vp_nar .boolean q8.1) _ _ _ _ _ rfl he hM hS dX4_isGuess_66
      · refine lv_iconst (v := 0) hx hb dX4_isGuess_43 (by decide) ?_
        have he := o_in hit
        exact hend _ 0 _ _ _ _ _ rfl he hM hS dX4_isGuess_44
noncomputable def M_borne_L45 (t5 : Int32 × Int32 × Int32 × MS) : Option ((Int32 × Int32 × Int32 × MS) ⊕ (Int32 × Int32 × MS)) :=
  if t5.2.2.1 < (9 * (mf t5.2.2.2 2)) then
    ((M_isGuess t5.2.2.2 t5.2.2.1).bind fun q10 =>
    ((if q10.1 = 0 then
        (some (t5.1, t5.2.1))
      else
        (if t5.2.1 = (-1) then
          (some ((t5.1 + 1), (((t5.2.2.1 / 9) * 10) + (imod t5.2.2.1 9))))
        else
          (some ((t5.1 + 1), t5.2.1))) : Option (Int32 × Int32))).bind fun r11 =>
    some (.inl (r11.1, r11.2, (t5.2.2.1 + 1), q10.2)))
  else
    (some (.inr (t5.1, t5.2.1, t5.2.2.2)))
noncomputable def M_borne (σ : MS) (a0 : Int32) : Option (Int32 × MS) :=
  (pf σ 0 0).bind fun s1 =>
  (M_isWhat s1 a0 2).bind fun q2 =>
  if q2.1 = 0 then
    (some (0, q2.2))
  else
    (if a0 = 2 then
      ((M_tries q2.2).bind fun q14 =>
      (M_isHeard q14).bind fun q15 =>
      if q15.1 = 0 then
        (some (0, q15.2))
      else
        (some (1, q15.2)))
    else
      ((o_loop M_borne_L45 (0, (-1), 0, q2.2)).bind fun r7 =>
      if a0 = 0 then
        (some (r7.1, r7.2.2))
      else
        (some (r7.2.1, r7.2.2))))
theorem nm_X4_borne : kNm yX4_borne RX4 1 := by unfold kNm; decide +kernel
set_option maxHeartbeats 4000000 in
set_option maxRecDepth 100000 in
theorem wM_borne (l : Launch) (G : va_G) (dT : Nat → ClassId) (o : Nat) (ad : Nat → Nat) (σ : MS) (a0 : Int32) (z : Int32 × MS) (h : M_borne σ a0 = some z) : Met l yX4_borne (ws_ yX4_borne cX4_borne 5 (some .int)) (kRm 8 183) (mPc G dT o ad σ [.int a0]) (va_Qi (fun r (_ : Unit) => r = z.1) (fun _ t => MH G dT o ad z.2 t.heap) (mAd o ad)) 0 0 (mAd o ad) := by
  refine m_startNi (cc := cX4_borne) (ty := .int) rfl rfl rfl (fun p e R s m args below meth c Q ls X hR hM hS hl hend => ?_)
  have hx := X.1.1
  have hb := X.1.2.1
  have hit := h
  clear h
  unfold M_borne at hit
  have hl : lv_has ls 5 [(0, .ref o), (1, .int a0)] := hl
  refine lv_aload_n hx hb dX4_borne_0 rfl (lv_at hl 0 rfl) ?_
  refine lv_iconst (v := 0) hx hb dX4_borne_1 (by decide) ?_
  obtain ⟨s1, es1, hit⟩ := o_bind hit
  refine m_put X hM hS 0 q1644 rfl rfl (ty := .int) rfl rfl rfl es1 dX4_borne_2 (fun H locs hM hS => ?_)
  refine lv_aload_n hx hb dX4_borne_5 rfl (lv_at hl 0 rfl) ?_
  refine lv_iload_n hx hb dX4_borne_6 rfl (lv_at hl 1 rfl) ?_
  refine lv_iconst (v := 2) hx hb dX4_borne_7 (by decide) ?_
  obtain ⟨q2, eq2, hit⟩ := o_bind hit
  refine m_cNi X hM hS (wM_isWhat l G dT o ad _ _ _ _ eq2) nm_X4_isWhat q2032 q2034 q141 q2035 qs93 ⟨Nat.le_trans (Nat.le_of_ble_eq_true rfl) hR.1, Nat.le_trans (Nat.le_of_ble_eq_true rfl) hR.2⟩ rfl rfl hl.1 (lv_room (Nat.le_of_ble_eq_true rfl)) dX4_borne_8 (fun H locs hM hS => ?_)
  refine b_if_ne (tgt := 16) hx hb dX4_borne_11 (by decide) hit (fun c3 hit => ?_) (fun c3 hit => ?_)
  · refine lv_iload_n hx hb dX4_borne_16 rfl (lv_at hl 1 rfl) ?_
    refine lv_iconst (v := 2) hx hb dX4_borne_17 (by decide) ?_
    refine b_icmp_ne (tgt := 38) hx hb dX4_borne_18 (by decide) hit (fun c4 hit => ?_) (fun c4 hit => ?_)
    · refine lv_iconst (v := 0) hx hb dX4_borne_38 (by decide) ?_
      refine lv_istore_n (lv' := [(2, .int 0), (0, .ref o), (1, .int a0)]) hx hb dX4_borne_39 rfl hl (by decide) rfl (fun ls hl => ?_)
      refine lv_iconst (v := (-1)) hx hb dX4_borne_40 (by decide) ?_
      refine lv_istore_n (lv' := [(3, .int (-1)), (2, .int 0), (0, .ref o), (1, .int a0)]) hx hb dX4_borne_41 rfl hl (by decide) rfl (fun ls hl => ?_)
      refine lv_iconst (v := 0) hx hb dX4_borne_42 (by decide) ?_
      refine lv_istore (lv' := [(4, .int 0), (3, .int (-1)), (2, .int 0), (0, .ref o), (1, .int a0)]) hx hb dX4_borne_43 hl (by decide) rfl (fun ls hl => ?_)
      obtain ⟨r7, er7, hit⟩ := o_bind hit
      have hr7 : ∀ (H : Heap) (locs : List Loc) (ls : Array Slot), MH G dT o ad r7.2.2 H → va_S (mAd o ad) s.heap H locs → lv_has ls 5 [(1, .int a0), (2, .int r7.1), (3, .int r7.2.1)] → W p l e R s m args below meth c H locs 0 0 Q (F0 m 98 ls []) := by
        intro H locs ls hM hS hl
        refine lv_iload_n hx hb dX4_borne_98 rfl (lv_at hl 0 rfl) ?_
        refine b_if_ne (tgt := 106) hx hb dX4_borne_99 (by decide) hit (fun c8 hit => ?_) (fun c8 hit => ?_)
        · refine lv_iload_n hx hb dX4_borne_106 rfl (lv_at hl 2 rfl) ?_
          have he := o_in hit
          exact hend _ r7.2.1 _ _ _ _ _ rfl he hM hS dX4_borne_107
        · refine lv_iload_n hx hb dX4_borne_102 rfl (lv_at hl 1 rfl) ?_
          refine lv_goto (tgt := 107) hx hb dX4_borne_103 (by decide) ?_
          have he := o_in hit
          exact hend _ r7.1 _ _ _ _ _ rfl he hM hS dX4_borne_107
      refine o_rec (P := fun t5 => ∀ (H : Heap) (locs : List Loc) (ls : Array Slot), MH G dT o ad t5.2.2.2 H → va_S (mAd o ad) s.heap H locs → lv_has ls 5 [(0, .ref o), (1, .int a0), (2, .int t5.1), (3, .int t5.2.1), (4, .int t5.2.2.1)] → W p l e R s m args below meth c H locs 0 0 Q (F0 m 45 ls [])) (fun t5 x6 hit hC5 hE5 H locs ls hM hS hl => ?_) _ er7 _ _ _ hM hS (lv_sub hl [3, 4, 2, 1, 0] rfl)
      unfold M_borne_L45 at hit
      refine lv_iload hx hb dX4_borne_45 (lv_at hl 4 rfl) ?_
      refine lv_bipush (v := 9) hx hb dX4_borne_47 (by decide) ?_
      refine lv_aload_n hx hb dX4_borne_49 rfl (lv_at hl 0 rfl) ?_
      refine m_get X hM 2 q1646 rfl rfl (v := .int (mf t5.2.2.2 2)) rfl dX4_borne_50 ?_
      refine lv_imul hx hb dX4_borne_53 ?_
      refine b_icmp_ge (tgt := 98) hx hb dX4_borne_54 (by decide) hit (fun c9 hit => ?_) (fun c9 hit => ?_)
      · have he := o_in hit
        have he := hE5 _ he
        subst he
        exact hr7 _ _ _ hM hS (lv_sub hl [1, 2, 3] rfl)
      · refine lv_aload_n hx hb dX4_borne_57 rfl (lv_at hl 0 rfl) ?_
        refine lv_iload hx hb dX4_borne_58 (lv_at hl 4 rfl) ?_
        obtain ⟨q10, eq10, hit⟩ := o_bind hit
        refine m_cNi X hM hS (wM_isGuess l G dT o ad _ _ _ eq10) nm_X4_isGuess q2251 q2253 q141 q2254 qs124 ⟨Nat.le_trans (Nat.le_of_ble_eq_true rfl) hR.1, Nat.le_trans (Nat.le_of_ble_eq_true rfl) hR.2⟩ rfl rfl hl.1 (lv_room (Nat.le_of_ble_eq_true rfl)) dX4_borne_60 (fun H locs hM hS => ?_)
        obtain ⟨r11, er11, hit⟩ := o_bind hit
        have hr11 : ∀ (H : Heap) (locs : List Loc) (ls : Array Slot), MH G dT o ad q10.2 H → va_S (mAd o ad) s.heap H locs → lv_has ls 5 [(0, .ref o), (1, .int a0), (4, .int t5.2.2.1), (2, .int r11.1), (3, .int r11.2)] → W p l e R s m args below meth c H locs 0 0 Q (F0 m 92 ls []) := by
          intro H locs ls hM hS hl
          refine lv_iinc (k := 2) (v := (t5.2.2.1 + 1)) (lv' := [(4, .int (t5.2.2.1 + 1)), (0, .ref o), (1, .int a0), (2, .int r11.1), (3, .int r11.2)]) hx hb dX4_borne_92 hl rfl rfl (by decide) rfl (fun ls hl => ?_)
          refine lv_goto (tgt := 45) hx hb dX4_borne_95 (by decide) ?_
          have he := o_in hit
          exact hC5 _ he _ _ _ hM hS (lv_sub hl [1, 2, 3, 4, 0] rfl)
        have hit := er11
        refine b_if_ne (tgt := 69) hx hb dX4_borne_63 (by decide) hit (fun c12 hit => ?_) (fun c12 hit => ?_)
        · refine lv_iinc (k := 2) (v := (t5.1 + 1)) (lv' := [(2, .int (t5.1 + 1)), (0, .ref o), (1, .int a0), (3, .int t5.2.1), (4, .int t5.2.2.1)]) hx hb dX4_borne_69 hl rfl rfl (by decide) rfl (fun ls hl => ?_)
          refine lv_iload_n hx hb dX4_borne_72 rfl (lv_at hl 3 rfl) ?_
          refine lv_iconst (v := (-1)) hx hb dX4_borne_73 (by decide) ?_
          refine b_icmp_ne (tgt := 92) hx hb dX4_borne_74 (by decide) hit (fun c13 hit => ?_) (fun c13 hit => ?_)
          · have he := o_in hit
            subst he
            exact hr11 _ _ _ hM hS (lv_sub hl [1, 2, 4, 0, 3] rfl)
          · refine lv_iload hx hb dX4_borne_77 (lv_at hl 4 rfl) ?_
            refine lv_bipush (v := 9) hx hb dX4_borne_79 (by decide) ?_
            refine lv_idiv hx hb dX4_borne_81 (by decide) ?_
            refine lv_bipush (v := 10) hx hb dX4_borne_82 (by decide) ?_
            refine lv_imul hx hb dX4_borne_84 ?_
            refine lv_iload hx hb dX4_borne_85 (lv_at hl 4 rfl) ?_
            refine lv_bipush (v := 9) hx hb dX4_borne_87 (by decide) ?_
            refine b_iremc hx hb dX4_borne_89 (by decide) ?_
            refine lv_iadd hx hb dX4_borne_90 ?_
            refine lv_istore_n (lv' := [(3, .int (((t5.2.2.1 / 9) * 10) + (imod t5.2.2.1 9))), (2, .int (t5.1 + 1)), (0, .ref o), (1, .int a0), (4, .int t5.2.2.1)]) hx hb dX4_borne_91 rfl hl (by decide) rfl (fun ls hl => ?_)
            have he := o_in hit
            subst he
            exact hr11 _ _ _ hM hS (lv_sub hl [2, 3, 4, 1, 0] rfl)
        · refine lv_goto (tgt := 92) hx hb dX4_borne_66 (by decide) ?_
          have he := o_in hit
          subst he
          exact hr11 _ _ _ hM hS (lv_sub hl [0, 1, 4, 2, 3] rfl)
    · refine lv_aload_n hx hb dX4_borne_21 rfl (lv_at hl 0 rfl) ?_
      obtain ⟨q14, eq14, hit⟩ := o_bind hit
      refine m_cNv X hM hS (wM_tries l G dT o ad _  _ eq14) nm_X4_tries q2175 q2177 q141 q2178 qs119 ⟨Nat.le_trans (Nat.le_of_ble_eq_true rfl) hR.1, Nat.le_trans (Nat.le_of_ble_eq_true rfl) hR.2⟩ rfl rfl hl.1 (lv_room (Nat.le_of_ble_eq_true rfl)) dX4_borne_22 (fun H locs hM hS => ?_)
      refine lv_aload_n hx hb dX4_borne_25 rfl (lv_at hl 0 rfl) ?_
      obtain ⟨q15, eq15, hit⟩ := o_bind hit
      refine m_cNi X hM hS (wM_isHeard l G dT o ad _  _ eq15) nm_X4_isHeard q2247 q2249 q141 q2250 qs123 ⟨Nat.le_trans (Nat.le_of_ble_eq_true rfl) hR.1, Nat.le_trans (Nat.le_of_ble_eq_true rfl) hR.2⟩ rfl rfl hl.1 (lv_room (Nat.le_of_ble_eq_true rfl)) dX4_borne_26 (fun H locs hM hS => ?_)
      refine b_if_eq (tgt := 36) hx hb dX4_borne_29 (by decide) hit (fun c16 hit => ?_) (fun c16 hit => ?_)
      · refine lv_iconst (v := 0) hx hb dX4_borne_36 (by decide) ?_
        have he := o_in hit
        exact hend _ 0 _ _ _ _ _ rfl he hM hS dX4_borne_37
      · refine lv_iconst (v := 1) hx hb dX4_borne_32 (by decide) ?_
        refine lv_goto (tgt := 37) hx hb dX4_borne_33 (by decide) ?_
        have he := o_in hit
        exact hend _ 1 _ _ _ _ _ rfl he hM hS dX4_borne_37
  · refine lv_iconst (v := 0) hx hb dX4_borne_14 (by decide) ?_
    have he := o_in hit
    exact hend _ 0 _ _ _ _ _ rfl he hM hS dX4_borne_15
noncomputable def M_ask_L123 (r6 : Int32 × MS) (t7 : Int32 × Int32 × Int32) (t12 : Int32 × Int32) (t18 : Int32 × Int32) : Option ((Int32 × Int32) ⊕ Int32) :=
  if t18.2 < t12.2 then
    (if t18.1 = 0 then
      (some (.inr t18.1))
    else
      ((ald r6.2 54 ((6 * t12.2) + t7.2.2)).bind fun v25 =>
      (ald r6.2 54 ((6 * t18.2) + t7.2.2)).bind fun v26 =>
      ((if v25 = v26 then
          (some 0)
        else
          (some 1) : Option Int32)).bind fun r27 =>
      some (.inl (r27, (t18.2 + 1)))))
  else
    (some (.inr t18.1))
noncomputable def M_ask_L111 (r6 : Int32 × MS) (t7 : Int32 × Int32 × Int32) (t12 : Int32 × Int32) : Option ((Int32 × Int32) ⊕ Int32) :=
  if t12.2 < r6.1 then
    ((o_loop (M_ask_L123 r6 t7 t12) (1, 0)).bind fun r20 =>
    ((if r20 = 0 then
        (some 0)
      else
        (some 1) : Option Int32)).bind fun r21 =>
    some (.inl ((t12.1 + r21), (t12.2 + 1))))
  else
    (some (.inr t12.1))
noncomputable def M_ask_L96 (r6 : Int32 × MS) (t7 : Int32 × Int32 × Int32) : Option ((Int32 × Int32 × Int32) ⊕ (Int32 × Int32)) :=
  if t7.2.2 < (mf r6.2 2) then
    ((o_loop (M_ask_L111 r6 t7) (0, 0)).bind fun r14 =>
    ((if r14 ≤ t7.2.1 then
        (some (t7.1, t7.2.1))
      else
        (some (t7.2.2, r14)) : Option (Int32 × Int32))).bind fun r15 =>
    some (.inl (r15.1, r15.2, (t7.2.2 + 1))))
  else
    (some (.inr (t7.1, t7.2.1)))
noncomputable def M_ask_L45 (t4 : Int32 × Int32 × MS) (t33 : Int32 × MS) : Option ((Int32 × MS) ⊕ MS) :=
  if t33.1 < (mf t33.2 2) then
    ((ald t33.2 53 t33.1).bind fun v37 =>
    (ast t33.2 54 ((6 * t4.1) + t33.1) v37).bind fun s38 =>
    some (.inl ((t33.1 + 1), s38)))
  else
    (some (.inr t33.2))
noncomputable def M_ask_L20 (t4 : Int32 × Int32 × MS) : Option ((Int32 × Int32 × MS) ⊕ (Int32 × MS)) :=
  if t4.2.1 < (9 * (mf t4.2.2 2)) then
    ((M_isGuess t4.2.2 t4.2.1).bind fun q30 =>
    ((if q30.1 = 0 then
        (some (t4.1, q30.2))
      else
        ((o_loop (M_ask_L45 t4) (0, q30.2)).bind fun r35 =>
        some ((t4.1 + 1), r35)) : Option (Int32 × MS))).bind fun r31 =>
    some (.inl (r31.1, (t4.2.1 + 1), r31.2)))
  else
    (some (.inr (t4.1, t4.2.2)))
noncomputable def M_ask (σ : MS) (a0 : Int32) : Option (Int32 × MS) :=
  (pf σ 0 0).bind fun s1 =>
  (M_isWhat s1 a0 1).bind fun q2 =>
  if q2.1 = 0 then
    (some (0, q2.2))
  else
    ((o_loop M_ask_L20 (0, 0, q2.2)).bind fun r6 =>
    (o_loop (M_ask_L96 r6) ((-1), 0, 0)).bind fun r9 =>
    if a0 = 0 then
      (some (r9.1, r6.2))
    else
      (some (r9.2, r6.2)))
theorem nm_X4_ask : kNm yX4_ask RX4 1 := by unfold kNm; decide +kernel
set_option maxHeartbeats 4000000 in
set_option maxRecDepth 100000 in
theorem wM_ask (l : Launch) (G : va_G) (dT : Nat → ClassId) (o : Nat) (ad : Nat → Nat) (σ : MS) (a0 : Int32) (z : Int32 × MS) (h : M_ask σ a0 = some z) : Met l yX4_ask (ws_ yX4_ask cX4_ask 10 (some .int)) (kRm 8 183) (mPc G dT o ad σ [.int a0]) (va_Qi (fun r (_ : Unit) => r = z.1) (fun _ t => MH G dT o ad z.2 t.heap) (mAd o ad)) 0 0 (mAd o ad) := by
  refine m_startNi (cc := cX4_ask) (ty := .int) rfl rfl rfl (fun p e R s m args below meth c Q ls X hR hM hS hl hend => ?_)
  have hx := X.1.1
  have hb := X.1.2.1
  have hit := h
  clear h
  unfold M_ask at hit
  have hl : lv_has ls 10 [(0, .ref o), (1, .int a0)] := hl
  refine lv_aload_n hx hb dX4_ask_0 rfl (lv_at hl 0 rfl) ?_
  refine lv_iconst (v := 0) hx hb dX4_ask_1 (by decide) ?_
  obtain ⟨s1, es1, hit⟩ := o_bind hit
  refine m_put X hM hS 0 q1644 rfl rfl (ty := .int) rfl rfl rfl es1 dX4_ask_2 (fun H locs hM hS => ?_)
  refine lv_aload_n hx hb dX4_ask_5 rfl (lv_at hl 0 rfl) ?_
  refine lv_iload_n hx hb dX4_ask_6 rfl (lv_at hl 1 rfl) ?_
  refine lv_iconst (v := 1) hx hb dX4_ask_7 (by decide) ?_
  obtain ⟨q2, eq2, hit⟩ := o_bind hit
  refine m_cNi X hM hS (wM_isWhat l G dT o ad _ _ _ _ eq2) nm_X4_isWhat q2032 q2034 q141 q2035 qs93 ⟨Nat.le_trans (Nat.le_of_ble_eq_true rfl) hR.1, Nat.le_trans (Nat.le_of_ble_eq_true rfl) hR.2⟩ rfl rfl hl.1 (lv_room (Nat.le_of_ble_eq_true rfl)) dX4_ask_8 (fun H locs hM hS => ?_)
  refine b_if_ne (tgt := 16) hx hb dX4_ask_11 (by decide) hit (fun c3 hit => ?_) (fun c3 hit => ?_)
  · refine lv_iconst (v := 0) hx hb dX4_ask_16 (by decide) ?_
    refine lv_istore_n (lv' := [(2, .int 0), (0, .ref o), (1, .int a0)]) hx hb dX4_ask_17 rfl hl (by decide) rfl (fun ls hl => ?_)
    refine lv_iconst (v := 0) hx hb dX4_ask_18 (by decide) ?_
    refine lv_istore_n (lv' := [(3, .int 0), (2, .int 0), (0, .ref o), (1, .int a0)]) hx hb dX4_ask_19 rfl hl (by decide) rfl (fun ls hl => ?_)
    obtain ⟨r6, er6, hit⟩ := o_bind hit
    have hr6 : ∀ (H : Heap) (locs : List Loc) (ls : Array Slot), MH G dT o ad r6.2 H → va_S (mAd o ad) s.heap H locs → lv_has ls 10 [(0, .ref o), (1, .int a0), (2, .int r6.1)] → W p l e R s m args below meth c H locs 0 0 Q (F0 m 88 ls []) := by
      intro H locs ls hM hS hl
      refine lv_iconst (v := (-1)) hx hb dX4_ask_88 (by decide) ?_
      refine lv_istore_n (lv' := [(3, .int (-1)), (0, .ref o), (1, .int a0), (2, .int r6.1)]) hx hb dX4_ask_89 rfl hl (by decide) rfl (fun ls hl => ?_)
      refine lv_iconst (v := 0) hx hb dX4_ask_90 (by decide) ?_
      refine lv_istore (lv' := [(4, .int 0), (3, .int (-1)), (0, .ref o), (1, .int a0), (2, .int r6.1)]) hx hb dX4_ask_91 hl (by decide) rfl (fun ls hl => ?_)
      refine lv_iconst (v := 0) hx hb dX4_ask_93 (by decide) ?_
      refine lv_istore (lv' := [(5, .int 0), (4, .int 0), (3, .int (-1)), (0, .ref o), (1, .int a0), (2, .int r6.1)]) hx hb dX4_ask_94 hl (by decide) rfl (fun ls hl => ?_)
      obtain ⟨r9, er9, hit⟩ := o_bind hit
      have hr9 : ∀ (H : Heap) (locs : List Loc) (ls : Array Slot), MH G dT o ad r6.2 H → va_S (mAd o ad) s.heap H locs → lv_has ls 10 [(1, .int a0), (3, .int r9.1), (4, .int r9.2)] → W p l e R s m args below meth c H locs 0 0 Q (F0 m 221 ls []) := by
        intro H locs ls hM hS hl
        refine lv_iload_n hx hb dX4_ask_221 rfl (lv_at hl 0 rfl) ?_
        refine b_if_ne (tgt := 229) hx hb dX4_ask_222 (by decide) hit (fun c10 hit => ?_) (fun c10 hit => ?_)
        · refine lv_iload hx hb dX4_ask_229 (lv_at hl 2 rfl) ?_
          have he := o_in hit
          exact hend _ r9.2 _ _ _ _ _ rfl he hM hS dX4_ask_231
        · refine lv_iload_n hx hb dX4_ask_225 rfl (lv_at hl 1 rfl) ?_
          refine lv_goto (tgt := 231) hx hb dX4_ask_226 (by decide) ?_
          have he := o_in hit
          exact hend _ r9.1 _ _ _ _ _ rfl he hM hS dX4_ask_231
      refine o_rec (P := fun t7 => ∀ (H : Heap) (locs : List Loc) (ls : Array Slot), MH G dT o ad r6.2 H → va_S (mAd o ad) s.heap H locs → lv_has ls 10 [(0, .ref o), (1, .int a0), (2, .int r6.1), (3, .int t7.1), (4, .int t7.2.1), (5, .int t7.2.2)] → W p l e R s m args below meth c H locs 0 0 Q (F0 m 96 ls [])) (fun t7 x8 hit hC7 hE7 H locs ls hM hS hl => ?_) _ er9 _ _ _ hM hS (lv_sub hl [3, 4, 5, 2, 1, 0] rfl)
      unfold M_ask_L96 at hit
      refine lv_iload hx hb dX4_ask_96 (lv_at hl 5 rfl) ?_
      refine lv_aload_n hx hb dX4_ask_98 rfl (lv_at hl 0 rfl) ?_
      refine m_get X hM 2 q1646 rfl rfl (v := .int (mf r6.2 2)) rfl dX4_ask_99 ?_
      refine b_icmp_ge (tgt := 221) hx hb dX4_ask_102 (by decide) hit (fun c11 hit => ?_) (fun c11 hit => ?_)
      · have he := o_in hit
        have he := hE7 _ he
        subst he
        exact hr9 _ _ _ hM hS (lv_sub hl [1, 3, 4] rfl)
      · refine lv_iconst (v := 0) hx hb dX4_ask_105 (by decide) ?_
        refine lv_istore (lv' := [(6, .int 0), (0, .ref o), (1, .int a0), (2, .int r6.1), (3, .int t7.1), (4, .int t7.2.1), (5, .int t7.2.2)]) hx hb dX4_ask_106 hl (by decide) rfl (fun ls hl => ?_)
        refine lv_iconst (v := 0) hx hb dX4_ask_108 (by decide) ?_
        refine lv_istore (lv' := [(7, .int 0), (6, .int 0), (0, .ref o), (1, .int a0), (2, .int r6.1), (3, .int t7.1), (4, .int t7.2.1), (5, .int t7.2.2)]) hx hb dX4_ask_109 hl (by decide) rfl (fun ls hl => ?_)
        obtain ⟨r14, er14, hit⟩ := o_bind hit
        have hr14 : ∀ (H : Heap) (locs : List Loc) (ls : Array Slot), MH G dT o ad r6.2 H → va_S (mAd o ad) s.heap H locs → lv_has ls 10 [(0, .ref o), (1, .int a0), (2, .int r6.1), (3, .int t7.1), (4, .int t7.2.1), (5, .int t7.2.2), (6, .int r14)] → W p l e R s m args below meth c H locs 0 0 Q (F0 m 198 ls []) := by
          intro H locs ls hM hS hl
          refine lv_iload hx hb dX4_ask_198 (lv_at hl 6 rfl) ?_
          refine lv_iload hx hb dX4_ask_200 (lv_at hl 4 rfl) ?_
          obtain ⟨r15, er15, hit⟩ := o_bind hit
          have hr15 : ∀ (H : Heap) (locs : List Loc) (ls : Array Slot), MH G dT o ad r6.2 H → va_S (mAd o ad) s.heap H locs → lv_has ls 10 [(0, .ref o), (1, .int a0), (2, .int r6.1), (5, .int t7.2.2), (3, .int r15.1), (4, .int r15.2)] → W p l e R s m args below meth c H locs 0 0 Q (F0 m 215 ls []) := by
            intro H locs ls hM hS hl
            refine lv_iinc (k := 3) (v := (t7.2.2 + 1)) (lv' := [(5, .int (t7.2.2 + 1)), (0, .ref o), (1, .int a0), (2, .int r6.1), (3, .int r15.1), (4, .int r15.2)]) hx hb dX4_ask_215 hl rfl rfl (by decide) rfl (fun ls hl => ?_)
            refine lv_goto (tgt := 96) hx hb dX4_ask_218 (by decide) ?_
            have he := o_in hit
            exact hC7 _ he _ _ _ hM hS (lv_sub hl [1, 2, 3, 4, 5, 0] rfl)
          have hit := er15
          refine b_icmp_gt (tgt := 208) hx hb dX4_ask_202 (by decide) hit (fun c16 hit => ?_) (fun c16 hit => ?_)
          · refine lv_iload hx hb dX4_ask_208 (lv_at hl 5 rfl) ?_
            refine lv_istore_n (lv' := [(3, .int t7.2.2), (0, .ref o), (1, .int a0), (2, .int r6.1), (4, .int t7.2.1), (5, .int t7.2.2), (6, .int r14)]) hx hb dX4_ask_210 rfl hl (by decide) rfl (fun ls hl => ?_)
            refine lv_iload hx hb dX4_ask_211 (lv_at hl 6 rfl) ?_
            refine lv_istore (lv' := [(4, .int r14), (3, .int t7.2.2), (0, .ref o), (1, .int a0), (2, .int r6.1), (5, .int t7.2.2), (6, .int r14)]) hx hb dX4_ask_213 hl (by decide) rfl (fun ls hl => ?_)
            have he := o_in hit
            subst he
            exact hr15 _ _ _ hM hS (lv_sub hl [2, 3, 4, 5, 1, 0] rfl)
          · refine lv_goto (tgt := 215) hx hb dX4_ask_205 (by decide) ?_
            have he := o_in hit
            subst he
            exact hr15 _ _ _ hM hS (lv_sub hl [0, 1, 2, 5, 3, 4] rfl)
        refine o_rec (P := fun t12 => ∀ (H : Heap) (locs : List Loc) (ls : Array Slot), MH G dT o ad r6.2 H → va_S (mAd o ad) s.heap H locs → lv_has ls 10 [(0, .ref o), (1, .int a0), (2, .int r6.1), (3, .int t7.1), (4, .int t7.2.1), (5, .int t7.2.2), (6, .int t12.1), (7, .int t12.2)] → W p l e R s m args below meth c H locs 0 0 Q (F0 m 111 ls [])) (fun t12 x13 hit hC12 hE12 H locs ls hM hS hl => ?_) _ er14 _ _ _ hM hS (lv_sub hl [2, 3, 4, 5, 6, 7, 1, 0] rfl)
        unfold M_ask_L111 at hit
        refine lv_iload hx hb dX4_ask_111 (lv_at hl 7 rfl) ?_
        refine lv_iload_n hx hb dX4_ask_113 rfl (lv_at hl 2 rfl) ?_
        refine b_icmp_ge (tgt := 198) hx hb dX4_ask_114 (by decide) hit (fun c17 hit => ?_) (fun c17 hit => ?_)
        · have he := o_in hit
          have he := hE12 _ he
          subst he
          exact hr14 _ _ _ hM hS (lv_sub hl [0, 1, 2, 3, 4, 5, 6] rfl)
        · refine lv_iconst (v := 1) hx hb dX4_ask_117 (by decide) ?_
          refine lv_istore (lv' := [(8, .int 1), (0, .ref o), (1, .int a0), (2, .int r6.1), (3, .int t7.1), (4, .int t7.2.1), (5, .int t7.2.2), (6, .int t12.1), (7, .int t12.2)]) hx hb dX4_ask_118 hl (by decide) rfl (fun ls hl => ?_)
          refine lv_iconst (v := 0) hx hb dX4_ask_120 (by decide) ?_
          refine lv_istore (lv' := [(9, .int 0), (8, .int 1), (0, .ref o), (1, .int a0), (2, .int r6.1), (3, .int t7.1), (4, .int t7.2.1), (5, .int t7.2.2), (6, .int t12.1), (7, .int t12.2)]) hx hb dX4_ask_121 hl (by decide) rfl (fun ls hl => ?_)
          obtain ⟨r20, er20, hit⟩ := o_bind hit
          have hr20 : ∀ (H : Heap) (locs : List Loc) (ls : Array Slot), MH G dT o ad r6.2 H → va_S (mAd o ad) s.heap H locs → lv_has ls 10 [(0, .ref o), (1, .int a0), (2, .int r6.1), (3, .int t7.1), (4, .int t7.2.1), (5, .int t7.2.2), (6, .int t12.1), (7, .int t12.2), (8, .int r20)] → W p l e R s m args below meth c H locs 0 0 Q (F0 m 177 ls []) := by
            intro H locs ls hM hS hl
            refine lv_iload hx hb dX4_ask_177 (lv_at hl 6 rfl) ?_
            refine lv_iload hx hb dX4_ask_179 (lv_at hl 8 rfl) ?_
            obtain ⟨r21, er21, hit⟩ := o_bind hit
            have hr21 : ∀ (H : Heap) (locs : List Loc) (ls : Array Slot), MH G dT o ad r6.2 H → va_S (mAd o ad) s.heap H locs → lv_has ls 10 [(0, .ref o), (1, .int a0), (2, .int r6.1), (3, .int t7.1), (4, .int t7.2.1), (5, .int t7.2.2), (7, .int t12.2)] → W p l e R s m args below meth c H locs 0 0 Q (F0 m 189 ls [.int r21, .int t12.1]) := by
              intro H locs ls hM hS hl
              refine lv_iadd hx hb dX4_ask_189 ?_
              refine lv_istore (lv' := [(6, .int (t12.1 + r21)), (0, .ref o), (1, .int a0), (2, .int r6.1), (3, .int t7.1), (4, .int t7.2.1), (5, .int t7.2.2), (7, .int t12.2)]) hx hb dX4_ask_190 hl (by decide) rfl (fun ls hl => ?_)
              refine lv_iinc (k := 7) (v := (t12.2 + 1)) (lv' := [(7, .int (t12.2 + 1)), (6, .int (t12.1 + r21)), (0, .ref o), (1, .int a0), (2, .int r6.1), (3, .int t7.1), (4, .int t7.2.1), (5, .int t7.2.2)]) hx hb dX4_ask_192 hl rfl rfl (by decide) rfl (fun ls hl => ?_)
              refine lv_goto (tgt := 111) hx hb dX4_ask_195 (by decide) ?_
              have he := o_in hit
              exact hC12 _ he _ _ _ hM hS (lv_sub hl [2, 3, 4, 5, 6, 7, 1, 0] rfl)
            have hit := er21
            refine b_if_eq (tgt := 188) hx hb dX4_ask_181 (by decide) hit (fun c22 hit => ?_) (fun c22 hit => ?_)
            · refine lv_iconst (v := 0) hx hb dX4_ask_188 (by decide) ?_
              have he := o_in hit
              subst he
              exact hr21 _ _ _ hM hS (lv_sub hl [0, 1, 2, 3, 4, 5, 7] rfl)
            · refine lv_iconst (v := 1) hx hb dX4_ask_184 (by decide) ?_
              refine lv_goto (tgt := 189) hx hb dX4_ask_185 (by decide) ?_
              have he := o_in hit
              subst he
              exact hr21 _ _ _ hM hS (lv_sub hl [0, 1, 2, 3, 4, 5, 7] rfl)
          refine o_rec (P := fun t18 => ∀ (H : Heap) (locs : List Loc) (ls : Array Slot), MH G dT o ad r6.2 H → va_S (mAd o ad) s.heap H locs → lv_has ls 10 [(0, .ref o), (1, .int a0), (2, .int r6.1), (3, .int t7.1), (4, .int t7.2.1), (5, .int t7.2.2), (6, .int t12.1), (7, .int t12.2), (8, .int t18.1), (9, .int t18.2)] → W p l e R s m args below meth c H locs 0 0 Q (F0 m 123 ls [])) (fun t18 x19 hit hC18 hE18 H locs ls hM hS hl => ?_) _ er20 _ _ _ hM hS (lv_sub hl [2, 3, 4, 5, 6, 7, 8, 9, 1, 0] rfl)
          unfold M_ask_L123 at hit
          refine lv_iload hx hb dX4_ask_123 (lv_at hl 9 rfl) ?_
          refine lv_iload hx hb dX4_ask_125 (lv_at hl 7 rfl) ?_
          refine b_icmp_ge (tgt := 177) hx hb dX4_ask_127 (by decide) hit (fun c23 hit => ?_) (fun c23 hit => ?_)
          · have he := o_in hit
            have he := hE18 _ he
            subst he
            exact hr20 _ _ _ hM hS (lv_sub hl [0, 1, 2, 3, 4, 5, 6, 7, 8] rfl)
          · refine lv_iload hx hb dX4_ask_130 (lv_at hl 8 rfl) ?_
            refine b_if_eq (tgt := 177) hx hb dX4_ask_132 (by decide) hit (fun c24 hit => ?_) (fun c24 hit => ?_)
            · have he := o_in hit
              have he := hE18 _ he
              subst he
              exact hr20 _ _ _ hM hS (lv_sub hl [0, 1, 2, 3, 4, 5, 6, 7, 8] rfl)
            · refine lv_aload_n hx hb dX4_ask_135 rfl (lv_at hl 0 rfl) ?_
              refine m_get X hM 54 q1698 rfl rfl (v := .ref (ad 54)) rfl dX4_ask_136 ?_
              refine lv_bipush (v := 6) hx hb dX4_ask_139 (by decide) ?_
              refine lv_iload hx hb dX4_ask_141 (lv_at hl 7 rfl) ?_
              refine lv_imul hx hb dX4_ask_143 ?_
              refine lv_iload hx hb dX4_ask_144 (lv_at hl 5 rfl) ?_
              refine lv_iadd hx hb dX4_ask_146 ?_
              obtain ⟨v25, ev25, hit⟩ := o_bind hit
              refine m_iald X hM 23 54 rfl rfl ev25 dX4_ask_147 ?_
              refine lv_aload_n hx hb dX4_ask_148 rfl (lv_at hl 0 rfl) ?_
              refine m_get X hM 54 q1698 rfl rfl (v := .ref (ad 54)) rfl dX4_ask_149 ?_
              refine lv_bipush (v := 6) hx hb dX4_ask_152 (by decide) ?_
              refine lv_iload hx hb dX4_ask_154 (lv_at hl 9 rfl) ?_
              refine lv_imul hx hb dX4_ask_156 ?_
              refine lv_iload hx hb dX4_ask_157 (lv_at hl 5 rfl) ?_
              refine lv_iadd hx hb dX4_ask_159 ?_
              obtain ⟨v26, ev26, hit⟩ := o_bind hit
              refine m_iald X hM 23 54 rfl rfl ev26 dX4_ask_160 ?_
              obtain ⟨r27, er27, hit⟩ := o_bind hit
              have hr27 : ∀ (H : Heap) (locs : List Loc) (ls : Array Slot), MH G dT o ad r6.2 H → va_S (mAd o ad) s.heap H locs → lv_has ls 10 [(0, .ref o), (1, .int a0), (2, .int r6.1), (3, .int t7.1), (4, .int t7.2.1), (5, .int t7.2.2), (6, .int t12.1), (7, .int t12.2), (9, .int t18.2)] → W p l e R s m args below meth c H locs 0 0 Q (F0 m 169 ls [.int r27]) := by
                intro H locs ls hM hS hl
                refine lv_istore (lv' := [(8, .int r27), (0, .ref o), (1, .int a0), (2, .int r6.1), (3, .int t7.1), (4, .int t7.2.1), (5, .int t7.2.2), (6, .int t12.1), (7, .int t12.2), (9, .int t18.2)]) hx hb dX4_ask_169 hl (by decide) rfl (fun ls hl => ?_)
                refine lv_iinc (k := 9) (v := (t18.2 + 1)) (lv' := [(9, .int (t18.2 + 1)), (8, .int r27), (0, .ref o), (1, .int a0), (2, .int r6.1), (3, .int t7.1), (4, .int t7.2.1), (5, .int t7.2.2), (6, .int t12.1), (7, .int t12.2)]) hx hb dX4_ask_171 hl rfl rfl (by decide) rfl (fun ls hl => ?_)
                refine lv_goto (tgt := 123) hx hb dX4_ask_174 (by decide) ?_
                have he := o_in hit
                exact hC18 _ he _ _ _ hM hS (lv_sub hl [2, 3, 4, 5, 6, 7, 8, 9, 1, 0] rfl)
              have hit := er27
              refine b_icmp_eq (tgt := 168) hx hb dX4_ask_161 (by decide) hit (fun c28 hit => ?_) (fun c28 hit => ?_)
              · refine lv_iconst (v := 0) hx hb dX4_ask_168 (by decide) ?_
                have he := o_in hit
                subst he
                exact hr27 _ _ _ hM hS (lv_sub hl [0, 1, 2, 3, 4, 5, 6, 7, 9] rfl)
              · refine lv_iconst (v := 1) hx hb dX4_ask_164 (by decide) ?_
                refine lv_goto (tgt := 169) hx hb dX4_ask_165 (by decide) ?_
                have he := o_in hit
                subst he
                exact hr27 _ _ _ hM hS (lv_sub hl [0, 1, 2, 3, 4, 5, 6, 7, 9] rfl)
    refine o_rec (P := fun t4 => ∀ (H : Heap) (locs : List Loc) (ls : Array Slot), MH G dT o ad t4.2.2 H → va_S (mAd o ad) s.heap H locs → lv_has ls 10 [(0, .ref o), (1, .int a0), (2, .int t4.1), (3, .int t4.2.1)] → W p l e R s m args below meth c H locs 0 0 Q (F0 m 20 ls [])) (fun t4 x5 hit hC4 hE4 H locs ls hM hS hl => ?_) _ er6 _ _ _ hM hS (lv_sub hl [2, 3, 1, 0] rfl)
    unfold M_ask_L20 at hit
    refine lv_iload_n hx hb dX4_ask_20 rfl (lv_at hl 3 rfl) ?_
    refine lv_bipush (v := 9) hx hb dX4_ask_21 (by decide) ?_
    refine lv_aload_n hx hb dX4_ask_23 rfl (lv_at hl 0 rfl) ?_
    refine m_get X hM 2 q1646 rfl rfl (v := .int (mf t4.2.2 2)) rfl dX4_ask_24 ?_
    refine lv_imul hx hb dX4_ask_27 ?_
    refine b_icmp_ge (tgt := 88) hx hb dX4_ask_28 (by decide) hit (fun c29 hit => ?_) (fun c29 hit => ?_)
    · have he := o_in hit
      have he := hE4 _ he
      subst he
      exact hr6 _ _ _ hM hS (lv_sub hl [0, 1, 2] rfl)
    · refine lv_aload_n hx hb dX4_ask_31 rfl (lv_at hl 0 rfl) ?_
      refine lv_iload_n hx hb dX4_ask_32 rfl (lv_at hl 3 rfl) ?_
      obtain ⟨q30, eq30, hit⟩ := o_bind hit
      refine m_cNi X hM hS (wM_isGuess l G dT o ad _ _ _ eq30) nm_X4_isGuess q2251 q2253 q141 q2254 qs124 ⟨Nat.le_trans (Nat.le_of_ble_eq_true rfl) hR.1, Nat.le_trans (Nat.le_of_ble_eq_true rfl) hR.2⟩ rfl rfl hl.1 (lv_room (Nat.le_of_ble_eq_true rfl)) dX4_ask_33 (fun H locs hM hS => ?_)
      obtain ⟨r31, er31, hit⟩ := o_bind hit
      have hr31 : ∀ (H : Heap) (locs : List Loc) (ls : Array Slot), MH G dT o ad r31.2 H → va_S (mAd o ad) s.heap H locs → lv_has ls 10 [(0, .ref o), (1, .int a0), (3, .int t4.2.1), (2, .int r31.1)] → W p l e R s m args below meth c H locs 0 0 Q (F0 m 82 ls []) := by
        intro H locs ls hM hS hl
        refine lv_iinc (k := 2) (v := (t4.2.1 + 1)) (lv' := [(3, .int (t4.2.1 + 1)), (0, .ref o), (1, .int a0), (2, .int r31.1)]) hx hb dX4_ask_82 hl rfl rfl (by decide) rfl (fun ls hl => ?_)
        refine lv_goto (tgt := 20) hx hb dX4_ask_85 (by decide) ?_
        have he := o_in hit
        exact hC4 _ he _ _ _ hM hS (lv_sub hl [1, 2, 3, 0] rfl)
      have hit := er31
      refine b_if_ne (tgt := 42) hx hb dX4_ask_36 (by decide) hit (fun c32 hit => ?_) (fun c32 hit => ?_)
      · refine lv_iconst (v := 0) hx hb dX4_ask_42 (by decide) ?_
        refine lv_istore (lv' := [(4, .int 0), (0, .ref o), (1, .int a0), (2, .int t4.1), (3, .int t4.2.1)]) hx hb dX4_ask_43 hl (by decide) rfl (fun ls hl => ?_)
        obtain ⟨r35, er35, hit⟩ := o_bind hit
        have hr35 : ∀ (H : Heap) (locs : List Loc) (ls : Array Slot), MH G dT o ad r35 H → va_S (mAd o ad) s.heap H locs → lv_has ls 10 [(0, .ref o), (1, .int a0), (2, .int t4.1), (3, .int t4.2.1)] → W p l e R s m args below meth c H locs 0 0 Q (F0 m 79 ls []) := by
          intro H locs ls hM hS hl
          refine lv_iinc (k := 2) (v := (t4.1 + 1)) (lv' := [(2, .int (t4.1 + 1)), (0, .ref o), (1, .int a0), (3, .int t4.2.1)]) hx hb dX4_ask_79 hl rfl rfl (by decide) rfl (fun ls hl => ?_)
          have he := o_in hit
          subst he
          exact hr31 _ _ _ hM hS (lv_sub hl [1, 2, 3, 0] rfl)
        refine o_rec (P := fun t33 => ∀ (H : Heap) (locs : List Loc) (ls : Array Slot), MH G dT o ad t33.2 H → va_S (mAd o ad) s.heap H locs → lv_has ls 10 [(0, .ref o), (1, .int a0), (2, .int t4.1), (3, .int t4.2.1), (4, .int t33.1)] → W p l e R s m args below meth c H locs 0 0 Q (F0 m 45 ls [])) (fun t33 x34 hit hC33 hE33 H locs ls hM hS hl => ?_) _ er35 _ _ _ hM hS (lv_sub hl [1, 2, 3, 4, 0] rfl)
        unfold M_ask_L45 at hit
        refine lv_iload hx hb dX4_ask_45 (lv_at hl 4 rfl) ?_
        refine lv_aload_n hx hb dX4_ask_47 rfl (lv_at hl 0 rfl) ?_
        refine m_get X hM 2 q1646 rfl rfl (v := .int (mf t33.2 2)) rfl dX4_ask_48 ?_
        refine b_icmp_ge (tgt := 79) hx hb dX4_ask_51 (by decide) hit (fun c36 hit => ?_) (fun c36 hit => ?_)
        · have he := o_in hit
          have he := hE33 _ he
          subst he
          exact hr35 _ _ _ hM hS (lv_sub hl [0, 1, 2, 3] rfl)
        · refine lv_aload_n hx hb dX4_ask_54 rfl (lv_at hl 0 rfl) ?_
          refine m_get X hM 54 q1698 rfl rfl (v := .ref (ad 54)) rfl dX4_ask_55 ?_
          refine lv_bipush (v := 6) hx hb dX4_ask_58 (by decide) ?_
          refine lv_iload_n hx hb dX4_ask_60 rfl (lv_at hl 2 rfl) ?_
          refine lv_imul hx hb dX4_ask_61 ?_
          refine lv_iload hx hb dX4_ask_62 (lv_at hl 4 rfl) ?_
          refine lv_iadd hx hb dX4_ask_64 ?_
          refine lv_aload_n hx hb dX4_ask_65 rfl (lv_at hl 0 rfl) ?_
          refine m_get X hM 53 q1697 rfl rfl (v := .ref (ad 53)) rfl dX4_ask_66 ?_
          refine lv_iload hx hb dX4_ask_69 (lv_at hl 4 rfl) ?_
          obtain ⟨v37, ev37, hit⟩ := o_bind hit
          refine m_iald X hM 22 53 rfl rfl ev37 dX4_ask_71 ?_
          obtain ⟨s38, es38, hit⟩ := o_bind hit
          refine m_iast X hM hS 23 54 rfl rfl es38 dX4_ask_72 (fun H locs hM hS => ?_)
          refine lv_iinc (k := 4) (v := (t33.1 + 1)) (lv' := [(4, .int (t33.1 + 1)), (0, .ref o), (1, .int a0), (2, .int t4.1), (3, .int t4.2.1)]) hx hb dX4_ask_73 hl rfl rfl (by decide) rfl (fun ls hl => ?_)
          refine lv_goto (tgt := 45) hx hb dX4_ask_76 (by decide) ?_
          have he := o_in hit
          exact hC33 _ he _ _ _ hM hS (lv_sub hl [1, 2, 3, 4, 0] rfl)
      · refine lv_goto (tgt := 82) hx hb dX4_ask_39 (by decide) ?_
        have he := o_in hit
        subst he
        exact hr31 _ _ _ hM hS (lv_sub hl [0, 1, 3, 2] rfl)
  · refine lv_iconst (v := 0) hx hb dX4_ask_14 (by decide) ?_
    have he := o_in hit
    exact hend _ 0 _ _ _ _ _ rfl he hM hS dX4_ask_15
noncomputable def M_fires_L61 (a1 : Int32) (q5 : Int32 × MS) (t9 : Int32 × Int32) (t12 : Int32 × Int32 × Int32) : Option ((Int32 × Int32 × Int32) ⊕ (Int32 × Int32)) :=
  if t12.2.2 < 4 then
    (((if ((t9.2 >>> (t12.2.2 &&& 31)) &&& 1) = 1 then
        (some 1)
      else
        (some 0) : Option Int32)).bind fun r19 =>
    ((if r19 = 0 then
        (some (10 - a1))
      else
        (some a1) : Option Int32)).bind fun r20 =>
    ((if r19 = 0 then
        (some 0)
      else
        ((M_archive q5.2 t12.2.2).bind fun q23 =>
        some q23) : Option Int32)).bind fun r21 =>
    some (.inl ((t12.1 * r20), (t12.2.1 ||| r21), (t12.2.2 + 1))))
  else
    (some (.inr (t12.1, t12.2.1)))
noncomputable def M_fires_L45 (a0 : Int32) (a1 : Int32) (q5 : Int32 × MS) (t9 : Int32 × Int32) : Option ((Int32 × Int32) ⊕ (Int32 × MS)) :=
  if t9.2 < 16 then
    ((o_loop (M_fires_L61 a1 q5 t9) (1, 0, 0)).bind fun r14 =>
    (M_lostBy q5.2 r14.2).bind fun q15 =>
    ((if ((q15 >>> (a0 &&& 31)) &&& 1) = 1 then
        (some r14.1)
      else
        (some 0) : Option Int32)).bind fun r16 =>
    some (.inl ((t9.1 + r16), (t9.2 + 1))))
  else
    (some (.inr (t9.1, q5.2)))
noncomputable def M_fires (σ : MS) (a0 : Int32) (a1 : Int32) : Option (Int32 × MS) :=
  (pf σ 0 0).bind fun s1 =>
  (M_isWord s1 a0).bind fun q2 =>
  if q2.1 = 0 then
    (some (0, q2.2))
  else
    ((M_within a1 0 10).bind fun q4 =>
    (M_right q2.2 q4 2).bind fun q5 =>
    if q5.1 = 0 then
      (some (0, q5.2))
    else
      ((M_isWhole q5.2 a0).bind fun q7 =>
      if q7 = 0 then
        (some ((-1), q5.2))
      else
        (o_loop (M_fires_L45 a0 a1 q5) (0, 0))))
theorem nm_X4_fires : kNm yX4_fires RX4 2 := by unfold kNm; decide +kernel
set_option maxHeartbeats 4000000 in
set_option maxRecDepth 100000 in
theorem wM_fires (l : Launch) (G : va_G) (dT : Nat → ClassId) (o : Nat) (ad : Nat → Nat) (σ : MS) (a0 : Int32) (a1 : Int32) (z : Int32 × MS) (h : M_fires σ a0 a1 = some z) : Met l yX4_fires (ws_ yX4_fires cX4_fires 9 (some .int)) (kRm 3 66) (mPc G dT o ad σ [.int a0, .int a1]) (va_Qi (fun r (_ : Unit) => r = z.1) (fun _ t => MH G dT o ad z.2 t.heap) (mAd o ad)) 0 0 (mAd o ad) := by
  refine m_startNi (cc := cX4_fires) (ty := .int) rfl rfl rfl (fun p e R s m args below meth c Q ls X hR hM hS hl hend => ?_)
  have hx := X.1.1
  have hb := X.1.2.1
  have hit := h
  clear h
  unfold M_fires at hit
  have hl : lv_has ls 9 [(0, .ref o), (1, .int a0), (2, .int a1)] := hl
  refine lv_aload_n hx hb dX4_fires_0 rfl (lv_at hl 0 rfl) ?_
  refine lv_iconst (v := 0) hx hb dX4_fires_1 (by decide) ?_
  obtain ⟨s1, es1, hit⟩ := o_bind hit
  refine m_put X hM hS 0 q1644 rfl rfl (ty := .int) rfl rfl rfl es1 dX4_fires_2 (fun H locs hM hS => ?_)
  refine lv_aload_n hx hb dX4_fires_5 rfl (lv_at hl 0 rfl) ?_
  refine lv_iload_n hx hb dX4_fires_6 rfl (lv_at hl 1 rfl) ?_
  obtain ⟨q2, eq2, hit⟩ := o_bind hit
  refine m_cNi X hM hS (wM_isWord l G dT o ad _ _ _ eq2) nm_X4_isWord q2064 q2066 q141 q2067 qs99 ⟨Nat.le_trans (Nat.le_of_ble_eq_true rfl) hR.1, Nat.le_trans (Nat.le_of_ble_eq_true rfl) hR.2⟩ rfl rfl hl.1 (lv_room (Nat.le_of_ble_eq_true rfl)) dX4_fires_7 (fun H locs hM hS => ?_)
  refine b_if_eq (tgt := 28) hx hb dX4_fires_10 (by decide) hit (fun c3 hit => ?_) (fun c3 hit => ?_)
  · refine lv_iconst (v := 0) hx hb dX4_fires_28 (by decide) ?_
    have he := o_in hit
    exact hend _ 0 _ _ _ _ _ rfl he hM hS dX4_fires_29
  · refine lv_aload_n hx hb dX4_fires_13 rfl (lv_at hl 0 rfl) ?_
    refine lv_iload_n hx hb dX4_fires_14 rfl (lv_at hl 2 rfl) ?_
    refine lv_iconst (v := 0) hx hb dX4_fires_15 (by decide) ?_
    refine lv_bipush (v := 10) hx hb dX4_fires_16 (by decide) ?_
    obtain ⟨q4, eq4, hit⟩ := o_bind hit
    refine m_cP X.1 (wM_within l _ _ _ _ eq4) nm_X4_within q1983 q1984 q141 q1985 ⟨Nat.le_trans (Nat.le_of_ble_eq_true rfl) hR.1, Nat.le_trans (Nat.le_of_ble_eq_true rfl) hR.2⟩ rfl rfl hl.1 (lv_room (Nat.le_of_ble_eq_true rfl)) dX4_fires_18 ?_
    refine lv_iconst (v := 2) hx hb dX4_fires_21 (by decide) ?_
    obtain ⟨q5, eq5, hit⟩ := o_bind hit
    refine m_cNi X hM hS (wM_right l G dT o ad _ _ _ _ eq5) nm_X4_right q1848 q1850 q141 q1851 qs58 ⟨Nat.le_trans (Nat.le_of_ble_eq_true rfl) hR.1, Nat.le_trans (Nat.le_of_ble_eq_true rfl) hR.2⟩ rfl rfl hl.1 (lv_room (Nat.le_of_ble_eq_true rfl)) dX4_fires_22 (fun H locs hM hS => ?_)
    refine b_if_ne (tgt := 30) hx hb dX4_fires_25 (by decide) hit (fun c6 hit => ?_) (fun c6 hit => ?_)
    · refine lv_aload_n hx hb dX4_fires_30 rfl (lv_at hl 0 rfl) ?_
      refine lv_iload_n hx hb dX4_fires_31 rfl (lv_at hl 1 rfl) ?_
      obtain ⟨q7, eq7, hit⟩ := o_bind hit
      refine m_cR X hM (wM_isWhole l G dT o ad _ _ _ eq7) nm_X4_isWhole q2104 q2106 q141 q2107 qs108 ⟨Nat.le_trans (Nat.le_of_ble_eq_true rfl) hR.1, Nat.le_trans (Nat.le_of_ble_eq_true rfl) hR.2⟩ rfl rfl hl.1 (lv_room (Nat.le_of_ble_eq_true rfl)) dX4_fires_32 ?_
      refine b_if_ne (tgt := 40) hx hb dX4_fires_35 (by decide) hit (fun c8 hit => ?_) (fun c8 hit => ?_)
      · refine lv_iconst (v := 0) hx hb dX4_fires_40 (by decide) ?_
        refine lv_istore_n (lv' := [(3, .int 0), (0, .ref o), (1, .int a0), (2, .int a1)]) hx hb dX4_fires_41 rfl hl (by decide) rfl (fun ls hl => ?_)
        refine lv_iconst (v := 0) hx hb dX4_fires_42 (by decide) ?_
        refine lv_istore (lv' := [(4, .int 0), (3, .int 0), (0, .ref o), (1, .int a0), (2, .int a1)]) hx hb dX4_fires_43 hl (by decide) rfl (fun ls hl => ?_)
        refine o_rec (P := fun t9 => ∀ (H : Heap) (locs : List Loc) (ls : Array Slot), MH G dT o ad q5.2 H → va_S (mAd o ad) s.heap H locs → lv_has ls 9 [(0, .ref o), (1, .int a0), (2, .int a1), (3, .int t9.1), (4, .int t9.2)] → W p l e R s m args below meth c H locs 0 0 Q (F0 m 45 ls [])) (fun t9 x10 hit hC9 hE9 H locs ls hM hS hl => ?_) _ hit _ _ _ hM hS (lv_sub hl [2, 3, 4, 1, 0] rfl)
        unfold M_fires_L45 at hit
        refine lv_iload hx hb dX4_fires_45 (lv_at hl 4 rfl) ?_
        refine lv_bipush (v := 16) hx hb dX4_fires_47 (by decide) ?_
        refine b_icmp_ge (tgt := 158) hx hb dX4_fires_49 (by decide) hit (fun c11 hit => ?_) (fun c11 hit => ?_)
        · refine lv_iload_n hx hb dX4_fires_158 rfl (lv_at hl 3 rfl) ?_
          have he := o_in hit
          have he := hE9 _ he
          exact hend _ t9.1 _ _ _ _ _ rfl he hM hS dX4_fires_159
        · refine lv_iconst (v := 1) hx hb dX4_fires_52 (by decide) ?_
          refine lv_istore (lv' := [(5, .int 1), (0, .ref o), (1, .int a0), (2, .int a1), (3, .int t9.1), (4, .int t9.2)]) hx hb dX4_fires_53 hl (by decide) rfl (fun ls hl => ?_)
          refine lv_iconst (v := 0) hx hb dX4_fires_55 (by decide) ?_
          refine lv_istore (lv' := [(6, .int 0), (5, .int 1), (0, .ref o), (1, .int a0), (2, .int a1), (3, .int t9.1), (4, .int t9.2)]) hx hb dX4_fires_56 hl (by decide) rfl (fun ls hl => ?_)
          refine lv_iconst (v := 0) hx hb dX4_fires_58 (by decide) ?_
          refine lv_istore (lv' := [(7, .int 0), (6, .int 0), (5, .int 1), (0, .ref o), (1, .int a0), (2, .int a1), (3, .int t9.1), (4, .int t9.2)]) hx hb dX4_fires_59 hl (by decide) rfl (fun ls hl => ?_)
          obtain ⟨r14, er14, hit⟩ := o_bind hit
          have hr14 : ∀ (H : Heap) (locs : List Loc) (ls : Array Slot), MH G dT o ad q5.2 H → va_S (mAd o ad) s.heap H locs → lv_has ls 9 [(0, .ref o), (1, .int a0), (2, .int a1), (3, .int t9.1), (4, .int t9.2), (5, .int r14.1), (6, .int r14.2)] → W p l e R s m args below meth c H locs 0 0 Q (F0 m 129 ls []) := by
            intro H locs ls hM hS hl
            refine lv_iload_n hx hb dX4_fires_129 rfl (lv_at hl 3 rfl) ?_
            refine lv_aload_n hx hb dX4_fires_130 rfl (lv_at hl 0 rfl) ?_
            refine lv_iload hx hb dX4_fires_131 (lv_at hl 6 rfl) ?_
            obtain ⟨q15, eq15, hit⟩ := o_bind hit
            refine m_cR X hM (wM_lostBy l G dT o ad _ _ _ eq15) nm_X4_lostBy q2100 q2102 q141 q2103 qs107 ⟨Nat.le_trans (Nat.le_of_ble_eq_true rfl) hR.1, Nat.le_trans (Nat.le_of_ble_eq_true rfl) hR.2⟩ rfl rfl hl.1 (lv_room (Nat.le_of_ble_eq_true rfl)) dX4_fires_133 ?_
            refine lv_iload_n hx hb dX4_fires_136 rfl (lv_at hl 1 rfl) ?_
            refine lv_ishr hx hb dX4_fires_137 ?_
            refine lv_iconst (v := 1) hx hb dX4_fires_138 (by decide) ?_
            refine lv_iand hx hb dX4_fires_139 ?_
            refine lv_iconst (v := 1) hx hb dX4_fires_140 (by decide) ?_
            obtain ⟨r16, er16, hit⟩ := o_bind hit
            have hr16 : ∀ (H : Heap) (locs : List Loc) (ls : Array Slot), MH G dT o ad q5.2 H → va_S (mAd o ad) s.heap H locs → lv_has ls 9 [(0, .ref o), (1, .int a0), (2, .int a1), (4, .int t9.2)] → W p l e R s m args below meth c H locs 0 0 Q (F0 m 150 ls [.int r16, .int t9.1]) := by
              intro H locs ls hM hS hl
              refine lv_iadd hx hb dX4_fires_150 ?_
              refine lv_istore_n (lv' := [(3, .int (t9.1 + r16)), (0, .ref o), (1, .int a0), (2, .int a1), (4, .int t9.2)]) hx hb dX4_fires_151 rfl hl (by decide) rfl (fun ls hl => ?_)
              refine lv_iinc (k := 4) (v := (t9.2 + 1)) (lv' := [(4, .int (t9.2 + 1)), (3, .int (t9.1 + r16)), (0, .ref o), (1, .int a0), (2, .int a1)]) hx hb dX4_fires_152 hl rfl rfl (by decide) rfl (fun ls hl => ?_)
              refine lv_goto (tgt := 45) hx hb dX4_fires_155 (by decide) ?_
              have he := o_in hit
              exact hC9 _ he _ _ _ hM hS (lv_sub hl [2, 3, 4, 1, 0] rfl)
            have hit := er16
            refine b_icmp_ne (tgt := 149) hx hb dX4_fires_141 (by decide) hit (fun c17 hit => ?_) (fun c17 hit => ?_)
            · refine lv_iconst (v := 0) hx hb dX4_fires_149 (by decide) ?_
              have he := o_in hit
              subst he
              exact hr16 _ _ _ hM hS (lv_sub hl [0, 1, 2, 4] rfl)
            · refine lv_iload hx hb dX4_fires_144 (lv_at hl 5 rfl) ?_
              refine lv_goto (tgt := 150) hx hb dX4_fires_146 (by decide) ?_
              have he := o_in hit
              subst he
              exact hr16 _ _ _ hM hS (lv_sub hl [0, 1, 2, 4] rfl)
          refine o_rec (P := fun t12 => ∀ (H : Heap) (locs : List Loc) (ls : Array Slot), MH G dT o ad q5.2 H → va_S (mAd o ad) s.heap H locs → lv_has ls 9 [(0, .ref o), (1, .int a0), (2, .int a1), (3, .int t9.1), (4, .int t9.2), (5, .int t12.1), (6, .int t12.2.1), (7, .int t12.2.2)] → W p l e R s m args below meth c H locs 0 0 Q (F0 m 61 ls [])) (fun t12 x13 hit hC12 hE12 H locs ls hM hS hl => ?_) _ er14 _ _ _ hM hS (lv_sub hl [3, 4, 5, 6, 7, 2, 1, 0] rfl)
          unfold M_fires_L61 at hit
          refine lv_iload hx hb dX4_fires_61 (lv_at hl 7 rfl) ?_
          refine lv_iconst (v := 4) hx hb dX4_fires_63 (by decide) ?_
          refine b_icmp_ge (tgt := 129) hx hb dX4_fires_64 (by decide) hit (fun c18 hit => ?_) (fun c18 hit => ?_)
          · have he := o_in hit
            have he := hE12 _ he
            subst he
            exact hr14 _ _ _ hM hS (lv_sub hl [0, 1, 2, 3, 4, 5, 6] rfl)
          · refine lv_iload hx hb dX4_fires_67 (lv_at hl 4 rfl) ?_
            refine lv_iload hx hb dX4_fires_69 (lv_at hl 7 rfl) ?_
            refine lv_ishr hx hb dX4_fires_71 ?_
            refine lv_iconst (v := 1) hx hb dX4_fires_72 (by decide) ?_
            refine lv_iand hx hb dX4_fires_73 ?_
            refine lv_iconst (v := 1) hx hb dX4_fires_74 (by decide) ?_
            obtain ⟨r19, er19, hit⟩ := o_bind hit
            have hr19 : ∀ (H : Heap) (locs : List Loc) (ls : Array Slot), MH G dT o ad q5.2 H → va_S (mAd o ad) s.heap H locs → lv_has ls 9 [(0, .ref o), (1, .int a0), (2, .int a1), (3, .int t9.1), (4, .int t9.2), (5, .int t12.1), (6, .int t12.2.1), (7, .int t12.2.2)] → W p l e R s m args below meth c H locs 0 0 Q (F0 m 83 ls [.int r19]) := by
              intro H locs ls hM hS hl
              refine lv_istore (lv' := [(8, .int r19), (0, .ref o), (1, .int a0), (2, .int a1), (3, .int t9.1), (4, .int t9.2), (5, .int t12.1), (6, .int t12.2.1), (7, .int t12.2.2)]) hx hb dX4_fires_83 hl (by decide) rfl (fun ls hl => ?_)
              refine lv_iload hx hb dX4_fires_85 (lv_at hl 6 rfl) ?_
              refine lv_iload hx hb dX4_fires_87 (lv_at hl 0 rfl) ?_
              obtain ⟨r20, er20, hit⟩ := o_bind hit
              have hr20 : ∀ (H : Heap) (locs : List Loc) (ls : Array Slot), MH G dT o ad q5.2 H → va_S (mAd o ad) s.heap H locs → lv_has ls 9 [(8, .int r19), (0, .ref o), (1, .int a0), (2, .int a1), (3, .int t9.1), (4, .int t9.2), (6, .int t12.2.1), (7, .int t12.2.2)] → W p l e R s m args below meth c H locs 0 0 Q (F0 m 100 ls [.int r20, .int t12.1]) := by
                intro H locs ls hM hS hl
                refine lv_imul hx hb dX4_fires_100 ?_
                refine lv_istore (lv' := [(5, .int (t12.1 * r20)), (8, .int r19), (0, .ref o), (1, .int a0), (2, .int a1), (3, .int t9.1), (4, .int t9.2), (6, .int t12.2.1), (7, .int t12.2.2)]) hx hb dX4_fires_101 hl (by decide) rfl (fun ls hl => ?_)
                refine lv_iload hx hb dX4_fires_103 (lv_at hl 7 rfl) ?_
                refine lv_iload hx hb dX4_fires_105 (lv_at hl 1 rfl) ?_
                obtain ⟨r21, er21, hit⟩ := o_bind hit
                have hr21 : ∀ (H : Heap) (locs : List Loc) (ls : Array Slot), MH G dT o ad q5.2 H → va_S (mAd o ad) s.heap H locs → lv_has ls 9 [(5, .int (t12.1 * r20)), (0, .ref o), (1, .int a0), (2, .int a1), (3, .int t9.1), (4, .int t9.2), (7, .int t12.2.2)] → W p l e R s m args below meth c H locs 0 0 Q (F0 m 120 ls [.int r21, .int t12.2.1]) := by
                  intro H locs ls hM hS hl
                  refine lv_ior hx hb dX4_fires_120 ?_
                  refine lv_istore (lv' := [(6, .int (t12.2.1 ||| r21)), (5, .int (t12.1 * r20)), (0, .ref o), (1, .int a0), (2, .int a1), (3, .int t9.1), (4, .int t9.2), (7, .int t12.2.2)]) hx hb dX4_fires_121 hl (by decide) rfl (fun ls hl => ?_)
                  refine lv_iinc (k := 7) (v := (t12.2.2 + 1)) (lv' := [(7, .int (t12.2.2 + 1)), (6, .int (t12.2.1 ||| r21)), (5, .int (t12.1 * r20)), (0, .ref o), (1, .int a0), (2, .int a1), (3, .int t9.1), (4, .int t9.2)]) hx hb dX4_fires_123 hl rfl rfl (by decide) rfl (fun ls hl => ?_)
                  refine lv_goto (tgt := 61) hx hb dX4_fires_126 (by decide) ?_
                  have he := o_in hit
                  exact hC12 _ he _ _ _ hM hS (lv_sub hl [3, 4, 5, 6, 7, 2, 1, 0] rfl)
                have hit := er21
                refine b_if_eq (tgt := 119) hx hb dX4_fires_107 (by decide) hit (fun c22 hit => ?_) (fun c22 hit => ?_)
                · refine lv_iconst (v := 0) hx hb dX4_fires_119 (by decide) ?_
                  have he := o_in hit
                  subst he
                  exact hr21 _ _ _ hM hS (lv_sub hl [0, 2, 3, 4, 5, 6, 8] rfl)
                · refine lv_aload_n hx hb dX4_fires_110 rfl (lv_at hl 2 rfl) ?_
                  refine lv_iload hx hb dX4_fires_111 (lv_at hl 8 rfl) ?_
                  obtain ⟨q23, eq23, hit⟩ := o_bind hit
                  refine m_cR X hM (wM_archive l G dT o ad _ _ _ eq23) nm_X4_archive q2092 q2094 q141 q2095 qs105 ⟨Nat.le_trans (Nat.le_of_ble_eq_true rfl) hR.1, Nat.le_trans (Nat.le_of_ble_eq_true rfl) hR.2⟩ rfl rfl hl.1 (lv_room (Nat.le_of_ble_eq_true rfl)) dX4_fires_113 ?_
                  refine lv_goto (tgt := 120) hx hb dX4_fires_116 (by decide) ?_
                  have he := o_in hit
                  subst he
                  exact hr21 _ _ _ hM hS (lv_sub hl [0, 2, 3, 4, 5, 6, 8] rfl)
              have hit := er20
              refine b_if_eq (tgt := 96) hx hb dX4_fires_89 (by decide) hit (fun c24 hit => ?_) (fun c24 hit => ?_)
              · refine lv_bipush (v := 10) hx hb dX4_fires_96 (by decide) ?_
                refine lv_iload_n hx hb dX4_fires_98 rfl (lv_at hl 3 rfl) ?_
                refine lv_isub hx hb dX4_fires_99 ?_
                have he := o_in hit
                subst he
                exact hr20 _ _ _ hM hS (lv_sub hl [0, 1, 2, 3, 4, 5, 7, 8] rfl)
              · refine lv_iload_n hx hb dX4_fires_92 rfl (lv_at hl 3 rfl) ?_
                refine lv_goto (tgt := 100) hx hb dX4_fires_93 (by decide) ?_
                have he := o_in hit
                subst he
                exact hr20 _ _ _ hM hS (lv_sub hl [0, 1, 2, 3, 4, 5, 7, 8] rfl)
            have hit := er19
            refine b_icmp_ne (tgt := 82) hx hb dX4_fires_75 (by decide) hit (fun c25 hit => ?_) (fun c25 hit => ?_)
            · refine lv_iconst (v := 0) hx hb dX4_fires_82 (by decide) ?_
              have he := o_in hit
              subst he
              exact hr19 _ _ _ hM hS hl
            · refine lv_iconst (v := 1) hx hb dX4_fires_78 (by decide) ?_
              refine lv_goto (tgt := 83) hx hb dX4_fires_79 (by decide) ?_
              have he := o_in hit
              subst he
              exact hr19 _ _ _ hM hS hl
      · refine lv_iconst (v := (-1)) hx hb dX4_fires_38 (by decide) ?_
        have he := o_in hit
        exact hend _ (-1) _ _ _ _ _ rfl he hM hS dX4_fires_39
    · refine lv_iconst (v := 0) hx hb dX4_fires_28 (by decide) ?_
      have he := o_in hit
      exact hend _ 0 _ _ _ _ _ rfl he hM hS dX4_fires_29
noncomputable def M_newTo_L5 (σ : MS) (a0 : Int32) (a1 : Int32) (t1 : Int32 × Int32) : Option ((Int32 × Int32) ⊕ Int32) :=
  if t1.2 < (mf σ 3) then
    ((ald σ 9 t1.2).bind fun v4 =>
    (ald σ 10 t1.2).bind fun v5 =>
    ((if (((a1 >>> (v4 &&& 31)) &&& (a1 >>> (v5 &&& 31))) &&& 1) = 1 then
        ((ald σ 9 t1.2).bind fun v8 =>
        (ald σ 10 t1.2).bind fun v9 =>
        (M_doesFit σ 0 v8 v9).bind fun q10 =>
        if q10 = 0 then
          (some 0)
        else
          ((ald σ 44 (28 + a0)).bind fun v12 =>
          if ((v12 >>> (t1.2 &&& 31)) &&& 1) = 0 then
            (some 1)
          else
            (some 0)))
      else
        (some 0) : Option Int32)).bind fun r6 =>
    some (.inl ((t1.1 + r6), (t1.2 + 1))))
  else
    (some (.inr t1.1))
noncomputable def M_newTo (σ : MS) (a0 : Int32) (a1 : Int32) : Option (Int32) :=
  o_loop (M_newTo_L5 σ a0 a1) (0, 0)
theorem nm_X4_newTo : kNm yX4_newTo RX4 2 := by unfold kNm; decide +kernel
set_option maxHeartbeats 4000000 in
set_option maxRecDepth 100000 in
theorem wM_newTo (l : Launch) (G : va_G) (dT : Nat → ClassId) (o : Nat) (ad : Nat → Nat) (σ : MS) (a0 : Int32) (a1 : Int32) (z : Int32) (h : M_newTo σ a0 a1 = some z) : Met l yX4_newTo (ws_ yX4_newTo cX4_newTo 5 (some .int)) (kRm 3 68) (mPc G dT o ad σ [.int a0, .int a1]) (vp_Si (fun r => r = z)) 0 0 vp_nf := by
  refine m_startR (cc := cX4_newTo) (ty := .int) rfl rfl rfl (fun p e R s m args below meth c Q ls X hR hM hl hend => ?_)
  have hx := X.1.1
  have hb := X.1.2.1
  have hit := h
  clear h
  unfold M_newTo at hit
  have hl : lv_has ls 5 [(0, .ref o), (1, .int a0), (2, .int a1)] := hl
  refine lv_iconst (v := 0) hx hb dX4_newTo_0 (by decide) ?_
  refine lv_istore_n (lv' := [(3, .int 0), (0, .ref o), (1, .int a0), (2, .int a1)]) hx hb dX4_newTo_1 rfl hl (by decide) rfl (fun ls hl => ?_)
  refine lv_iconst (v := 0) hx hb dX4_newTo_2 (by decide) ?_
  refine lv_istore (lv' := [(4, .int 0), (3, .int 0), (0, .ref o), (1, .int a0), (2, .int a1)]) hx hb dX4_newTo_3 hl (by decide) rfl (fun ls hl => ?_)
  refine o_rec (P := fun t1 => ∀ (ls : Array Slot), lv_has ls 5 [(0, .ref o), (1, .int a0), (2, .int a1), (3, .int t1.1), (4, .int t1.2)] → W p l e R s m args below meth c s.heap [] 0 0 Q (F0 m 5 ls [])) (fun t1 x2 hit hC1 hE1 ls hl => ?_) _ hit _ (lv_sub hl [2, 3, 4, 1, 0] rfl)
  unfold M_newTo_L5 at hit
  refine lv_iload hx hb dX4_newTo_5 (lv_at hl 4 rfl) ?_
  refine lv_aload_n hx hb dX4_newTo_7 rfl (lv_at hl 0 rfl) ?_
  refine m_get X hM 3 q1647 rfl rfl (v := .int (mf σ 3)) rfl dX4_newTo_8 ?_
  refine b_icmp_ge (tgt := 92) hx hb dX4_newTo_11 (by decide) hit (fun c3 hit => ?_) (fun c3 hit => ?_)
  · refine lv_iload_n hx hb dX4_newTo_92 rfl (lv_at hl 3 rfl) ?_
    have he := o_in hit
    have he := hE1 _ he
    exact hend _ t1.1 _ _ rfl he dX4_newTo_93
  · refine lv_iload_n hx hb dX4_newTo_14 rfl (lv_at hl 3 rfl) ?_
    refine lv_iload_n hx hb dX4_newTo_15 rfl (lv_at hl 2 rfl) ?_
    refine lv_aload_n hx hb dX4_newTo_16 rfl (lv_at hl 0 rfl) ?_
    refine m_get X hM 9 q1653 rfl rfl (v := .ref (ad 9)) rfl dX4_newTo_17 ?_
    refine lv_iload hx hb dX4_newTo_20 (lv_at hl 4 rfl) ?_
    obtain ⟨v4, ev4, hit⟩ := o_bind hit
    refine m_iald X hM 2 9 rfl rfl ev4 dX4_newTo_22 ?_
    refine lv_ishr hx hb dX4_newTo_23 ?_
    refine lv_iload_n hx hb dX4_newTo_24 rfl (lv_at hl 2 rfl) ?_
    refine lv_aload_n hx hb dX4_newTo_25 rfl (lv_at hl 0 rfl) ?_
    refine m_get X hM 10 q1654 rfl rfl (v := .ref (ad 10)) rfl dX4_newTo_26 ?_
    refine lv_iload hx hb dX4_newTo_29 (lv_at hl 4 rfl) ?_
    obtain ⟨v5, ev5, hit⟩ := o_bind hit
    refine m_iald X hM 3 10 rfl rfl ev5 dX4_newTo_31 ?_
    refine lv_ishr hx hb dX4_newTo_32 ?_
    refine lv_iand hx hb dX4_newTo_33 ?_
    refine lv_iconst (v := 1) hx hb dX4_newTo_34 (by decide) ?_
    refine lv_iand hx hb dX4_newTo_35 ?_
    refine lv_iconst (v := 1) hx hb dX4_newTo_36 (by decide) ?_
    obtain ⟨r6, er6, hit⟩ := o_bind hit
    have hr6 : ∀ (ls : Array Slot), lv_has ls 5 [(0, .ref o), (1, .int a0), (2, .int a1), (4, .int t1.2)] → W p l e R s m args below meth c s.heap [] 0 0 Q (F0 m 84 ls [.int r6, .int t1.1]) := by
      intro ls hl
      refine lv_iadd hx hb dX4_newTo_84 ?_
      refine lv_istore_n (lv' := [(3, .int (t1.1 + r6)), (0, .ref o), (1, .int a0), (2, .int a1), (4, .int t1.2)]) hx hb dX4_newTo_85 rfl hl (by decide) rfl (fun ls hl => ?_)
      refine lv_iinc (k := 4) (v := (t1.2 + 1)) (lv' := [(4, .int (t1.2 + 1)), (3, .int (t1.1 + r6)), (0, .ref o), (1, .int a0), (2, .int a1)]) hx hb dX4_newTo_86 hl rfl rfl (by decide) rfl (fun ls hl => ?_)
      refine lv_goto (tgt := 5) hx hb dX4_newTo_89 (by decide) ?_
      have he := o_in hit
      exact hC1 _ he _ (lv_sub hl [2, 3, 4, 1, 0] rfl)
    have hit := er6
    refine b_icmp_ne (tgt := 83) hx hb dX4_newTo_37 (by decide) hit (fun c7 hit => ?_) (fun c7 hit => ?_)
    · refine lv_iconst (v := 0) hx hb dX4_newTo_83 (by decide) ?_
      have he := o_in hit
      subst he
      exact hr6 _ (lv_sub hl [0, 1, 2, 4] rfl)
    · refine lv_aload_n hx hb dX4_newTo_40 rfl (lv_at hl 0 rfl) ?_
      refine lv_iconst (v := 0) hx hb dX4_newTo_41 (by decide) ?_
      refine lv_aload_n hx hb dX4_newTo_42 rfl (lv_at hl 0 rfl) ?_
      refine m_get X hM 9 q1653 rfl rfl (v := .ref (ad 9)) rfl dX4_newTo_43 ?_
      refine lv_iload hx hb dX4_newTo_46 (lv_at hl 4 rfl) ?_
      obtain ⟨v8, ev8, hit⟩ := o_bind hit
      refine m_iald X hM 2 9 rfl rfl ev8 dX4_newTo_48 ?_
      refine lv_aload_n hx hb dX4_newTo_49 rfl (lv_at hl 0 rfl) ?_
      refine m_get X hM 10 q1654 rfl rfl (v := .ref (ad 10)) rfl dX4_newTo_50 ?_
      refine lv_iload hx hb dX4_newTo_53 (lv_at hl 4 rfl) ?_
      obtain ⟨v9, ev9, hit⟩ := o_bind hit
      refine m_iald X hM 3 10 rfl rfl ev9 dX4_newTo_55 ?_
      obtain ⟨q10, eq10, hit⟩ := o_bind hit
      refine m_cR X hM (wM_doesFit l G dT o ad _ _ _ _ _ eq10) nm_X4_doesFit q2010 q2012 q141 q2013 qs90 ⟨Nat.le_trans (Nat.le_of_ble_eq_true rfl) hR.1, Nat.le_trans (Nat.le_of_ble_eq_true rfl) hR.2⟩ rfl rfl hl.1 (lv_room (Nat.le_of_ble_eq_true rfl)) dX4_newTo_56 ?_
      refine b_if_eq (tgt := 83) hx hb dX4_newTo_59 (by decide) hit (fun c11 hit => ?_) (fun c11 hit => ?_)
      · refine lv_iconst (v := 0) hx hb dX4_newTo_83 (by decide) ?_
        have he := o_in hit
        subst he
        exact hr6 _ (lv_sub hl [0, 1, 2, 4] rfl)
      · refine lv_aload_n hx hb dX4_newTo_62 rfl (lv_at hl 0 rfl) ?_
        refine m_get X hM 44 q1688 rfl rfl (v := .ref (ad 44)) rfl dX4_newTo_63 ?_
        refine lv_bipush (v := 28) hx hb dX4_newTo_66 (by decide) ?_
        refine lv_iload_n hx hb dX4_newTo_68 rfl (lv_at hl 1 rfl) ?_
        refine lv_iadd hx hb dX4_newTo_69 ?_
        obtain ⟨v12, ev12, hit⟩ := o_bind hit
        refine m_iald X hM 15 44 rfl rfl ev12 dX4_newTo_70 ?_
        refine lv_iload hx hb dX4_newTo_71 (lv_at hl 4 rfl) ?_
        refine lv_ishr hx hb dX4_newTo_73 ?_
        refine lv_iconst (v := 1) hx hb dX4_newTo_74 (by decide) ?_
        refine lv_iand hx hb dX4_newTo_75 ?_
        refine b_if_ne (tgt := 83) hx hb dX4_newTo_76 (by decide) hit (fun c13 hit => ?_) (fun c13 hit => ?_)
        · refine lv_iconst (v := 0) hx hb dX4_newTo_83 (by decide) ?_
          have he := o_in hit
          subst he
          exact hr6 _ (lv_sub hl [0, 1, 2, 4] rfl)
        · refine lv_iconst (v := 1) hx hb dX4_newTo_79 (by decide) ?_
          refine lv_goto (tgt := 84) hx hb dX4_newTo_80 (by decide) ?_
          have he := o_in hit
          subst he
          exact hr6 _ (lv_sub hl [0, 1, 2, 4] rfl)
noncomputable def M_bears_L4 (σ : MS) (a0 : Int32) (t1 : Int32 × Int32) : Option ((Int32 × Int32) ⊕ Int32) :=
  if t1.2 < (mf σ 1) then
    ((ald σ 44 (19 + t1.2)).bind fun v4 =>
    ((if v4 = (10 + a0) then
        (some ((1 : Int32) <<< (t1.2 &&& 31)))
      else
        (some 0) : Option Int32)).bind fun r5 =>
    some (.inl ((t1.1 ||| r5), (t1.2 + 1))))
  else
    (some (.inr t1.1))
noncomputable def M_bears (σ : MS) (a0 : Int32) : Option (Int32) :=
  o_loop (M_bears_L4 σ a0) (0, 0)
theorem nm_X4_bears : kNm yX4_bears RX4 1 := by unfold kNm; decide +kernel
set_option maxHeartbeats 4000000 in
set_option maxRecDepth 100000 in
theorem wM_bears (l : Launch) (G : va_G) (dT : Nat → ClassId) (o : Nat) (ad : Nat → Nat) (σ : MS) (a0 : Int32) (z : Int32) (h : M_bears σ a0 = some z) : Met l yX4_bears (ws_ yX4_bears cX4_bears 4 (some .int)) (kRm 0 0) (mPc G dT o ad σ [.int a0]) (vp_Si (fun r => r = z)) 0 0 vp_nf := by
  refine m_startR (cc := cX4_bears) (ty := .int) rfl rfl rfl (fun p e R s m args below meth c Q ls X hR hM hl hend => ?_)
  have hx := X.1.1
  have hb := X.1.2.1
  have hit := h
  clear h
  unfold M_bears at hit
  have hl : lv_has ls 4 [(0, .ref o), (1, .int a0)] := hl
  refine lv_iconst (v := 0) hx hb dX4_bears_0 (by decide) ?_
  refine lv_istore_n (lv' := [(2, .int 0), (0, .ref o), (1, .int a0)]) hx hb dX4_bears_1 rfl hl (by decide) rfl (fun ls hl => ?_)
  refine lv_iconst (v := 0) hx hb dX4_bears_2 (by decide) ?_
  refine lv_istore_n (lv' := [(3, .int 0), (2, .int 0), (0, .ref o), (1, .int a0)]) hx hb dX4_bears_3 rfl hl (by decide) rfl (fun ls hl => ?_)
  refine o_rec (P := fun t1 => ∀ (ls : Array Slot), lv_has ls 4 [(0, .ref o), (1, .int a0), (2, .int t1.1), (3, .int t1.2)] → W p l e R s m args below meth c s.heap [] 0 0 Q (F0 m 4 ls [])) (fun t1 x2 hit hC1 hE1 ls hl => ?_) _ hit _ (lv_sub hl [2, 3, 1, 0] rfl)
  unfold M_bears_L4 at hit
  refine lv_iload_n hx hb dX4_bears_4 rfl (lv_at hl 3 rfl) ?_
  refine lv_aload_n hx hb dX4_bears_5 rfl (lv_at hl 0 rfl) ?_
  refine m_get X hM 1 q1645 rfl rfl (v := .int (mf σ 1)) rfl dX4_bears_6 ?_
  refine b_icmp_ge (tgt := 44) hx hb dX4_bears_9 (by decide) hit (fun c3 hit => ?_) (fun c3 hit => ?_)
  · refine lv_iload_n hx hb dX4_bears_44 rfl (lv_at hl 2 rfl) ?_
    have he := o_in hit
    have he := hE1 _ he
    exact hend _ t1.1 _ _ rfl he dX4_bears_45
  · refine lv_iload_n hx hb dX4_bears_12 rfl (lv_at hl 2 rfl) ?_
    refine lv_aload_n hx hb dX4_bears_13 rfl (lv_at hl 0 rfl) ?_
    refine m_get X hM 44 q1688 rfl rfl (v := .ref (ad 44)) rfl dX4_bears_14 ?_
    refine lv_bipush (v := 19) hx hb dX4_bears_17 (by decide) ?_
    refine lv_iload_n hx hb dX4_bears_19 rfl (lv_at hl 3 rfl) ?_
    refine lv_iadd hx hb dX4_bears_20 ?_
    obtain ⟨v4, ev4, hit⟩ := o_bind hit
    refine m_iald X hM 15 44 rfl rfl ev4 dX4_bears_21 ?_
    refine lv_bipush (v := 10) hx hb dX4_bears_22 (by decide) ?_
    refine lv_iload_n hx hb dX4_bears_24 rfl (lv_at hl 1 rfl) ?_
    refine lv_iadd hx hb dX4_bears_25 ?_
    obtain ⟨r5, er5, hit⟩ := o_bind hit
    have hr5 : ∀ (ls : Array Slot), lv_has ls 4 [(0, .ref o), (1, .int a0), (3, .int t1.2)] → W p l e R s m args below meth c s.heap [] 0 0 Q (F0 m 36 ls [.int r5, .int t1.1]) := by
      intro ls hl
      refine lv_ior hx hb dX4_bears_36 ?_
      refine lv_istore_n (lv' := [(2, .int (t1.1 ||| r5)), (0, .ref o), (1, .int a0), (3, .int t1.2)]) hx hb dX4_bears_37 rfl hl (by decide) rfl (fun ls hl => ?_)
      refine lv_iinc (k := 3) (v := (t1.2 + 1)) (lv' := [(3, .int (t1.2 + 1)), (2, .int (t1.1 ||| r5)), (0, .ref o), (1, .int a0)]) hx hb dX4_bears_38 hl rfl rfl (by decide) rfl (fun ls hl => ?_)
      refine lv_goto (tgt := 4) hx hb dX4_bears_41 (by decide) ?_
      have he := o_in hit
      exact hC1 _ he _ (lv_sub hl [2, 3, 1, 0] rfl)
    have hit := er5
    refine b_icmp_ne (tgt := 35) hx hb dX4_bears_26 (by decide) hit (fun c6 hit => ?_) (fun c6 hit => ?_)
    · refine lv_iconst (v := 0) hx hb dX4_bears_35 (by decide) ?_
      have he := o_in hit
      subst he
      exact hr5 _ (lv_sub hl [0, 1, 3] rfl)
    · refine lv_iconst (v := 1) hx hb dX4_bears_29 (by decide) ?_
      refine lv_iload_n hx hb dX4_bears_30 rfl (lv_at hl 3 rfl) ?_
      refine lv_ishl hx hb dX4_bears_31 ?_
      refine lv_goto (tgt := 36) hx hb dX4_bears_32 (by decide) ?_
      have he := o_in hit
      subst he
      exact hr5 _ (lv_sub hl [0, 1, 3] rfl)
noncomputable def M_gains (σ : MS) (a0 : Int32) (a1 : Int32) (a2 : Int32) (a3 : Int32) : Option (Int32) :=
  (M_bears σ a0).bind fun q1 =>
  ((if a3 = 1 then
      ((M_bears σ a1).bind fun q10 =>
      some q10)
    else
      (some 0) : Option Int32)).bind fun r2 =>
  (M_bears σ a1).bind fun q3 =>
  ((if a2 = 1 then
      ((M_bears σ a0).bind fun q8 =>
      some q8)
    else
      (some 0) : Option Int32)).bind fun r4 =>
  (M_newTo σ a0 (q1 ||| r2)).bind fun q5 =>
  (M_newTo σ a1 (q3 ||| r4)).bind fun q6 =>
  some ((3 * q5) - (2 * q6))
theorem nm_X4_gains : kNm yX4_gains RX4 4 := by unfold kNm; decide +kernel
set_option maxHeartbeats 4000000 in
set_option maxRecDepth 100000 in
theorem wM_gains (l : Launch) (G : va_G) (dT : Nat → ClassId) (o : Nat) (ad : Nat → Nat) (σ : MS) (a0 : Int32) (a1 : Int32) (a2 : Int32) (a3 : Int32) (z : Int32) (h : M_gains σ a0 a1 a2 a3 = some z) : Met l yX4_gains (ws_ yX4_gains cX4_gains 7 (some .int)) (kRm 4 92) (mPc G dT o ad σ [.int a0, .int a1, .int a2, .int a3]) (vp_Si (fun r => r = z)) 0 0 vp_nf := by
  refine m_startR (cc := cX4_gains) (ty := .int) rfl rfl rfl (fun p e R s m args below meth c Q ls X hR hM hl hend => ?_)
  have hx := X.1.1
  have hb := X.1.2.1
  have hit := h
  clear h
  unfold M_gains at hit
  have hl : lv_has ls 7 [(0, .ref o), (1, .int a0), (2, .int a1), (3, .int a2), (4, .int a3)] := hl
  refine lv_aload_n hx hb dX4_gains_0 rfl (lv_at hl 0 rfl) ?_
  refine lv_iload_n hx hb dX4_gains_1 rfl (lv_at hl 1 rfl) ?_
  obtain ⟨q1, eq1, hit⟩ := o_bind hit
  refine m_cR X hM (wM_bears l G dT o ad _ _ _ eq1) nm_X4_bears q2271 q2273 q141 q2274 qs126 ⟨Nat.le_trans (Nat.le_of_ble_eq_true rfl) hR.1, Nat.le_trans (Nat.le_of_ble_eq_true rfl) hR.2⟩ rfl rfl hl.1 (lv_room (Nat.le_of_ble_eq_true rfl)) dX4_gains_2 ?_
  refine lv_iload hx hb dX4_gains_5 (lv_at hl 4 rfl) ?_
  refine lv_iconst (v := 1) hx hb dX4_gains_7 (by decide) ?_
  obtain ⟨r2, er2, hit⟩ := o_bind hit
  have hr2 : ∀ (ls : Array Slot), lv_has ls 7 [(0, .ref o), (1, .int a0), (2, .int a1), (3, .int a2)] → W p l e R s m args below meth c s.heap [] 0 0 Q (F0 m 20 ls [.int r2, .int q1]) := by
    intro ls hl
    refine lv_ior hx hb dX4_gains_20 ?_
    refine lv_istore (lv' := [(5, .int (q1 ||| r2)), (0, .ref o), (1, .int a0), (2, .int a1), (3, .int a2)]) hx hb dX4_gains_21 hl (by decide) rfl (fun ls hl => ?_)
    refine lv_aload_n hx hb dX4_gains_23 rfl (lv_at hl 1 rfl) ?_
    refine lv_iload_n hx hb dX4_gains_24 rfl (lv_at hl 3 rfl) ?_
    obtain ⟨q3, eq3, hit⟩ := o_bind hit
    refine m_cR X hM (wM_bears l G dT o ad _ _ _ eq3) nm_X4_bears q2271 q2273 q141 q2274 qs126 ⟨Nat.le_trans (Nat.le_of_ble_eq_true rfl) hR.1, Nat.le_trans (Nat.le_of_ble_eq_true rfl) hR.2⟩ rfl rfl hl.1 (lv_room (Nat.le_of_ble_eq_true rfl)) dX4_gains_25 ?_
    refine lv_iload_n hx hb dX4_gains_28 rfl (lv_at hl 4 rfl) ?_
    refine lv_iconst (v := 1) hx hb dX4_gains_29 (by decide) ?_
    obtain ⟨r4, er4, hit⟩ := o_bind hit
    have hr4 : ∀ (ls : Array Slot), lv_has ls 7 [(5, .int (q1 ||| r2)), (0, .ref o), (1, .int a0), (2, .int a1)] → W p l e R s m args below meth c s.heap [] 0 0 Q (F0 m 42 ls [.int r4, .int q3]) := by
      intro ls hl
      refine lv_ior hx hb dX4_gains_42 ?_
      refine lv_istore (lv' := [(6, .int (q3 ||| r4)), (5, .int (q1 ||| r2)), (0, .ref o), (1, .int a0), (2, .int a1)]) hx hb dX4_gains_43 hl (by decide) rfl (fun ls hl => ?_)
      refine lv_iconst (v := 3) hx hb dX4_gains_45 (by decide) ?_
      refine lv_aload_n hx hb dX4_gains_46 rfl (lv_at hl 2 rfl) ?_
      refine lv_iload_n hx hb dX4_gains_47 rfl (lv_at hl 3 rfl) ?_
      refine lv_iload hx hb dX4_gains_48 (lv_at hl 1 rfl) ?_
      obtain ⟨q5, eq5, hit⟩ := o_bind hit
      refine m_cR X hM (wM_newTo l G dT o ad _ _ _ _ eq5) nm_X4_newTo q2275 q2277 q141 q2278 qs127 ⟨Nat.le_trans (Nat.le_of_ble_eq_true rfl) hR.1, Nat.le_trans (Nat.le_of_ble_eq_true rfl) hR.2⟩ rfl rfl hl.1 (lv_room (Nat.le_of_ble_eq_true rfl)) dX4_gains_50 ?_
      refine lv_imul hx hb dX4_gains_53 ?_
      refine lv_iconst (v := 2) hx hb dX4_gains_54 (by decide) ?_
      refine lv_aload_n hx hb dX4_gains_55 rfl (lv_at hl 2 rfl) ?_
      refine lv_iload_n hx hb dX4_gains_56 rfl (lv_at hl 4 rfl) ?_
      refine lv_iload hx hb dX4_gains_57 (lv_at hl 0 rfl) ?_
      obtain ⟨q6, eq6, hit⟩ := o_bind hit
      refine m_cR X hM (wM_newTo l G dT o ad _ _ _ _ eq6) nm_X4_newTo q2275 q2277 q141 q2278 qs127 ⟨Nat.le_trans (Nat.le_of_ble_eq_true rfl) hR.1, Nat.le_trans (Nat.le_of_ble_eq_true rfl) hR.2⟩ rfl rfl hl.1 (lv_room (Nat.le_of_ble_eq_true rfl)) dX4_gains_59 ?_
      refine lv_imul hx hb dX4_gains_62 ?_
      refine lv_isub hx hb dX4_gains_63 ?_
      have he := o_in hit
      exact hend _ ((3 * q5) - (2 * q6)) _ _ rfl he dX4_gains_64
    have hit := er4
    refine b_icmp_ne (tgt := 41) hx hb dX4_gains_30 (by decide) hit (fun c7 hit => ?_) (fun c7 hit => ?_)
    · refine lv_iconst (v := 0) hx hb dX4_gains_41 (by decide) ?_
      have he := o_in hit
      subst he
      exact hr4 _ (lv_sub hl [0, 1, 2, 3] rfl)
    · refine lv_aload_n hx hb dX4_gains_33 rfl (lv_at hl 1 rfl) ?_
      refine lv_iload_n hx hb dX4_gains_34 rfl (lv_at hl 2 rfl) ?_
      obtain ⟨q8, eq8, hit⟩ := o_bind hit
      refine m_cR X hM (wM_bears l G dT o ad _ _ _ eq8) nm_X4_bears q2271 q2273 q141 q2274 qs126 ⟨Nat.le_trans (Nat.le_of_ble_eq_true rfl) hR.1, Nat.le_trans (Nat.le_of_ble_eq_true rfl) hR.2⟩ rfl rfl hl.1 (lv_room (Nat.le_of_ble_eq_true rfl)) dX4_gains_35 ?_
      refine lv_goto (tgt := 42) hx hb dX4_gains_38 (by decide) ?_
      have he := o_in hit
      subst he
      exact hr4 _ (lv_sub hl [0, 1, 2, 3] rfl)
  have hit := er2
  refine b_icmp_ne (tgt := 19) hx hb dX4_gains_8 (by decide) hit (fun c9 hit => ?_) (fun c9 hit => ?_)
  · refine lv_iconst (v := 0) hx hb dX4_gains_19 (by decide) ?_
    have he := o_in hit
    subst he
    exact hr2 _ (lv_sub hl [0, 1, 2, 3] rfl)
  · refine lv_aload_n hx hb dX4_gains_11 rfl (lv_at hl 0 rfl) ?_
    refine lv_iload_n hx hb dX4_gains_12 rfl (lv_at hl 2 rfl) ?_
    obtain ⟨q10, eq10, hit⟩ := o_bind hit
    refine m_cR X hM (wM_bears l G dT o ad _ _ _ eq10) nm_X4_bears q2271 q2273 q141 q2274 qs126 ⟨Nat.le_trans (Nat.le_of_ble_eq_true rfl) hR.1, Nat.le_trans (Nat.le_of_ble_eq_true rfl) hR.2⟩ rfl rfl hl.1 (lv_room (Nat.le_of_ble_eq_true rfl)) dX4_gains_13 ?_
    refine lv_goto (tgt := 20) hx hb dX4_gains_16 (by decide) ?_
    have he := o_in hit
    subst he
    exact hr2 _ (lv_sub hl [0, 1, 2, 3] rfl)
noncomputable def M_game_L59 (a0 : Int32) (a1 : Int32) (q9 : Int32 × MS) (t11 : Int32 × Int32 × Int32) : Option ((Int32 × Int32 × Int32) ⊕ (Int32 × Int32)) :=
  if t11.2.2 < 4 then
    ((M_gains q9.2 a0 a1 (1 - (t11.2.2 / 2)) (imod t11.2.2 2)).bind fun q16 =>
    (M_gains q9.2 a0 a1 (t11.2.2 / 2) (imod t11.2.2 2)).bind fun q17 =>
    ((if q16 ≤ q17 then
        ((M_gains q9.2 a1 a0 (1 - (imod t11.2.2 2)) (t11.2.2 / 2)).bind fun q20 =>
        (M_gains q9.2 a1 a0 (imod t11.2.2 2) (t11.2.2 / 2)).bind fun q21 =>
        if q20 ≤ q21 then
          (if t11.2.1 = (-1) then
            (some ((t11.1 + 1), ((10 * (t11.2.2 / 2)) + (imod t11.2.2 2))))
          else
            (some ((t11.1 + 1), t11.2.1)))
        else
          (some (t11.1, t11.2.1)))
      else
        (some (t11.1, t11.2.1)) : Option (Int32 × Int32))).bind fun r18 =>
    some (.inl (r18.1, r18.2, (t11.2.2 + 1))))
  else
    (some (.inr (t11.1, t11.2.1)))
noncomputable def M_game (σ : MS) (a0 : Int32) (a1 : Int32) (a2 : Int32) : Option (Int32 × MS) :=
  (pf σ 0 0).bind fun s1 =>
  (M_isClerk s1 a0).bind fun q2 =>
  if q2.1 = 0 then
    (some (0, q2.2))
  else
    ((M_isClerk q2.2 a1).bind fun q4 =>
    if q4.1 = 0 then
      (some (0, q4.2))
    else
      ((M_isWhat q4.2 a2 1).bind fun q6 =>
      if q6.1 = 0 then
        (some (0, q6.2))
      else
        (((if a0 = a1 then
            (some 0)
          else
            (some 1) : Option Int32)).bind fun r8 =>
        (M_right q6.2 r8 2).bind fun q9 =>
        if q9.1 = 0 then
          (some (0, q9.2))
        else
          ((o_loop (M_game_L59 a0 a1 q9) (0, (-1), 0)).bind fun r13 =>
          if a2 = 0 then
            (some (r13.1, q9.2))
          else
            (some (r13.2, q9.2))))))
theorem nm_X4_game : kNm yX4_game RX4 3 := by unfold kNm; decide +kernel
set_option maxHeartbeats 4000000 in
set_option maxRecDepth 100000 in
theorem wM_game (l : Launch) (G : va_G) (dT : Nat → ClassId) (o : Nat) (ad : Nat → Nat) (σ : MS) (a0 : Int32) (a1 : Int32) (a2 : Int32) (z : Int32 × MS) (h : M_game σ a0 a1 a2 = some z) : Met l yX4_game (ws_ yX4_game cX4_game 9 (some .int)) (kRm 5 118) (mPc G dT o ad σ [.int a0, .int a1, .int a2]) (va_Qi (fun r (_ : Unit) => r = z.1) (fun _ t => MH G dT o ad z.2 t.heap) (mAd o ad)) 0 0 (mAd o ad) := by
  refine m_startNi (cc := cX4_game) (ty := .int) rfl rfl rfl (fun p e R s m args below meth c Q ls X hR hM hS hl hend => ?_)
  have hx := X.1.1
  have hb := X.1.2.1
  have hit := h
  clear h
  unfold M_game at hit
  have hl : lv_has ls 9 [(0, .ref o), (1, .int a0), (2, .int a1), (3, .int a2)] := hl
  refine lv_aload_n hx hb dX4_game_0 rfl (lv_at hl 0 rfl) ?_
  refine lv_iconst (v := 0) hx hb dX4_game_1 (by decide) ?_
  obtain ⟨s1, es1, hit⟩ := o_bind hit
  refine m_put X hM hS 0 q1644 rfl rfl (ty := .int) rfl rfl rfl es1 dX4_game_2 (fun H locs hM hS => ?_)
  refine lv_aload_n hx hb dX4_game_5 rfl (lv_at hl 0 rfl) ?_
  refine lv_iload_n hx hb dX4_game_6 rfl (lv_at hl 1 rfl) ?_
  obtain ⟨q2, eq2, hit⟩ := o_bind hit
  refine m_cNi X hM hS (wM_isClerk l G dT o ad _ _ _ eq2) nm_X4_isClerk q2056 q2058 q141 q2059 qs98 ⟨Nat.le_trans (Nat.le_of_ble_eq_true rfl) hR.1, Nat.le_trans (Nat.le_of_ble_eq_true rfl) hR.2⟩ rfl rfl hl.1 (lv_room (Nat.le_of_ble_eq_true rfl)) dX4_game_7 (fun H locs hM hS => ?_)
  refine b_if_eq (tgt := 48) hx hb dX4_game_10 (by decide) hit (fun c3 hit => ?_) (fun c3 hit => ?_)
  · refine lv_iconst (v := 0) hx hb dX4_game_48 (by decide) ?_
    have he := o_in hit
    exact hend _ 0 _ _ _ _ _ rfl he hM hS dX4_game_49
  · refine lv_aload_n hx hb dX4_game_13 rfl (lv_at hl 0 rfl) ?_
    refine lv_iload_n hx hb dX4_game_14 rfl (lv_at hl 2 rfl) ?_
    obtain ⟨q4, eq4, hit⟩ := o_bind hit
    refine m_cNi X hM hS (wM_isClerk l G dT o ad _ _ _ eq4) nm_X4_isClerk q2056 q2058 q141 q2059 qs98 ⟨Nat.le_trans (Nat.le_of_ble_eq_true rfl) hR.1, Nat.le_trans (Nat.le_of_ble_eq_true rfl) hR.2⟩ rfl rfl hl.1 (lv_room (Nat.le_of_ble_eq_true rfl)) dX4_game_15 (fun H locs hM hS => ?_)
    refine b_if_eq (tgt := 48) hx hb dX4_game_18 (by decide) hit (fun c5 hit => ?_) (fun c5 hit => ?_)
    · refine lv_iconst (v := 0) hx hb dX4_game_48 (by decide) ?_
      have he := o_in hit
      exact hend _ 0 _ _ _ _ _ rfl he hM hS dX4_game_49
    · refine lv_aload_n hx hb dX4_game_21 rfl (lv_at hl 0 rfl) ?_
      refine lv_iload_n hx hb dX4_game_22 rfl (lv_at hl 3 rfl) ?_
      refine lv_iconst (v := 1) hx hb dX4_game_23 (by decide) ?_
      obtain ⟨q6, eq6, hit⟩ := o_bind hit
      refine m_cNi X hM hS (wM_isWhat l G dT o ad _ _ _ _ eq6) nm_X4_isWhat q2032 q2034 q141 q2035 qs93 ⟨Nat.le_trans (Nat.le_of_ble_eq_true rfl) hR.1, Nat.le_trans (Nat.le_of_ble_eq_true rfl) hR.2⟩ rfl rfl hl.1 (lv_room (Nat.le_of_ble_eq_true rfl)) dX4_game_24 (fun H locs hM hS => ?_)
      refine b_if_eq (tgt := 48) hx hb dX4_game_27 (by decide) hit (fun c7 hit => ?_) (fun c7 hit => ?_)
      · refine lv_iconst (v := 0) hx hb dX4_game_48 (by decide) ?_
        have he := o_in hit
        exact hend _ 0 _ _ _ _ _ rfl he hM hS dX4_game_49
      · refine lv_aload_n hx hb dX4_game_30 rfl (lv_at hl 0 rfl) ?_
        refine lv_iload_n hx hb dX4_game_31 rfl (lv_at hl 1 rfl) ?_
        refine lv_iload_n hx hb dX4_game_32 rfl (lv_at hl 2 rfl) ?_
        obtain ⟨r8, er8, hit⟩ := o_bind hit
        have hr8 : ∀ (H : Heap) (locs : List Loc) (ls : Array Slot), MH G dT o ad q6.2 H → va_S (mAd o ad) s.heap H locs → lv_has ls 9 [(0, .ref o), (1, .int a0), (2, .int a1), (3, .int a2)] → W p l e R s m args below meth c H locs 0 0 Q (F0 m 41 ls [.int r8, .ref o]) := by
          intro H locs ls hM hS hl
          refine lv_iconst (v := 2) hx hb dX4_game_41 (by decide) ?_
          obtain ⟨q9, eq9, hit⟩ := o_bind hit
          refine m_cNi X hM hS (wM_right l G dT o ad _ _ _ _ eq9) nm_X4_right q1848 q1850 q141 q1851 qs58 ⟨Nat.le_trans (Nat.le_of_ble_eq_true rfl) hR.1, Nat.le_trans (Nat.le_of_ble_eq_true rfl) hR.2⟩ rfl rfl hl.1 (lv_room (Nat.le_of_ble_eq_true rfl)) dX4_game_42 (fun H locs hM hS => ?_)
          refine b_if_ne (tgt := 50) hx hb dX4_game_45 (by decide) hit (fun c10 hit => ?_) (fun c10 hit => ?_)
          · refine lv_iconst (v := 0) hx hb dX4_game_50 (by decide) ?_
            refine lv_istore (lv' := [(4, .int 0), (0, .ref o), (1, .int a0), (2, .int a1), (3, .int a2)]) hx hb dX4_game_51 hl (by decide) rfl (fun ls hl => ?_)
            refine lv_iconst (v := (-1)) hx hb dX4_game_53 (by decide) ?_
            refine lv_istore (lv' := [(5, .int (-1)), (4, .int 0), (0, .ref o), (1, .int a0), (2, .int a1), (3, .int a2)]) hx hb dX4_game_54 hl (by decide) rfl (fun ls hl => ?_)
            refine lv_iconst (v := 0) hx hb dX4_game_56 (by decide) ?_
            refine lv_istore (lv' := [(6, .int 0), (5, .int (-1)), (4, .int 0), (0, .ref o), (1, .int a0), (2, .int a1), (3, .int a2)]) hx hb dX4_game_57 hl (by decide) rfl (fun ls hl => ?_)
            obtain ⟨r13, er13, hit⟩ := o_bind hit
            have hr13 : ∀ (H : Heap) (locs : List Loc) (ls : Array Slot), MH G dT o ad q9.2 H → va_S (mAd o ad) s.heap H locs → lv_has ls 9 [(3, .int a2), (4, .int r13.1), (5, .int r13.2)] → W p l e R s m args below meth c H locs 0 0 Q (F0 m 155 ls []) := by
              intro H locs ls hM hS hl
              refine lv_iload_n hx hb dX4_game_155 rfl (lv_at hl 0 rfl) ?_
              refine b_if_ne (tgt := 164) hx hb dX4_game_156 (by decide) hit (fun c14 hit => ?_) (fun c14 hit => ?_)
              · refine lv_iload hx hb dX4_game_164 (lv_at hl 2 rfl) ?_
                have he := o_in hit
                exact hend _ r13.2 _ _ _ _ _ rfl he hM hS dX4_game_166
              · refine lv_iload hx hb dX4_game_159 (lv_at hl 1 rfl) ?_
                refine lv_goto (tgt := 166) hx hb dX4_game_161 (by decide) ?_
                have he := o_in hit
                exact hend _ r13.1 _ _ _ _ _ rfl he hM hS dX4_game_166
            refine o_rec (P := fun t11 => ∀ (H : Heap) (locs : List Loc) (ls : Array Slot), MH G dT o ad q9.2 H → va_S (mAd o ad) s.heap H locs → lv_has ls 9 [(0, .ref o), (1, .int a0), (2, .int a1), (3, .int a2), (4, .int t11.1), (5, .int t11.2.1), (6, .int t11.2.2)] → W p l e R s m args below meth c H locs 0 0 Q (F0 m 59 ls [])) (fun t11 x12 hit hC11 hE11 H locs ls hM hS hl => ?_) _ er13 _ _ _ hM hS (lv_sub hl [3, 4, 5, 6, 2, 1, 0] rfl)
            unfold M_game_L59 at hit
            refine lv_iload hx hb dX4_game_59 (lv_at hl 6 rfl) ?_
            refine lv_iconst (v := 4) hx hb dX4_game_61 (by decide) ?_
            refine b_icmp_ge (tgt := 155) hx hb dX4_game_62 (by decide) hit (fun c15 hit => ?_) (fun c15 hit => ?_)
            · have he := o_in hit
              have he := hE11 _ he
              subst he
              exact hr13 _ _ _ hM hS (lv_sub hl [3, 4, 5] rfl)
            · refine lv_iload hx hb dX4_game_65 (lv_at hl 6 rfl) ?_
              refine lv_iconst (v := 2) hx hb dX4_game_67 (by decide) ?_
              refine lv_idiv hx hb dX4_game_68 (by decide) ?_
              refine lv_istore (lv' := [(7, .int (t11.2.2 / 2)), (0, .ref o), (1, .int a0), (2, .int a1), (3, .int a2), (4, .int t11.1), (5, .int t11.2.1), (6, .int t11.2.2)]) hx hb dX4_game_69 hl (by decide) rfl (fun ls hl => ?_)
              refine lv_iload hx hb dX4_game_71 (lv_at hl 7 rfl) ?_
              refine lv_iconst (v := 2) hx hb dX4_game_73 (by decide) ?_
              refine b_iremc hx hb dX4_game_74 (by decide) ?_
              refine lv_istore (lv' := [(8, .int (imod t11.2.2 2)), (7, .int (t11.2.2 / 2)), (0, .ref o), (1, .int a0), (2, .int a1), (3, .int a2), (4, .int t11.1), (5, .int t11.2.1), (6, .int t11.2.2)]) hx hb dX4_game_75 hl (by decide) rfl (fun ls hl => ?_)
              refine lv_aload_n hx hb dX4_game_77 rfl (lv_at hl 2 rfl) ?_
              refine lv_iload_n hx hb dX4_game_78 rfl (lv_at hl 3 rfl) ?_
              refine lv_iload_n hx hb dX4_game_79 rfl (lv_at hl 4 rfl) ?_
              refine lv_iconst (v := 1) hx hb dX4_game_80 (by decide) ?_
              refine lv_iload hx hb dX4_game_81 (lv_at hl 1 rfl) ?_
              refine lv_isub hx hb dX4_game_83 ?_
              refine lv_iload hx hb dX4_game_84 (lv_at hl 0 rfl) ?_
              obtain ⟨q16, eq16, hit⟩ := o_bind hit
              refine m_cR X hM (wM_gains l G dT o ad _ _ _ _ _ _ eq16) nm_X4_gains q2267 q2269 q141 q2270 qs125 ⟨Nat.le_trans (Nat.le_of_ble_eq_true rfl) hR.1, Nat.le_trans (Nat.le_of_ble_eq_true rfl) hR.2⟩ rfl rfl hl.1 (lv_room (Nat.le_of_ble_eq_true rfl)) dX4_game_86 ?_
              refine lv_aload_n hx hb dX4_game_89 rfl (lv_at hl 2 rfl) ?_
              refine lv_iload_n hx hb dX4_game_90 rfl (lv_at hl 3 rfl) ?_
              refine lv_iload_n hx hb dX4_game_91 rfl (lv_at hl 4 rfl) ?_
              refine lv_iload hx hb dX4_game_92 (lv_at hl 1 rfl) ?_
              refine lv_iload hx hb dX4_game_94 (lv_at hl 0 rfl) ?_
              obtain ⟨q17, eq17, hit⟩ := o_bind hit
              refine m_cR X hM (wM_gains l G dT o ad _ _ _ _ _ _ eq17) nm_X4_gains q2267 q2269 q141 q2270 qs125 ⟨Nat.le_trans (Nat.le_of_ble_eq_true rfl) hR.1, Nat.le_trans (Nat.le_of_ble_eq_true rfl) hR.2⟩ rfl rfl hl.1 (lv_room (Nat.le_of_ble_eq_true rfl)) dX4_game_96 ?_
              obtain ⟨r18, er18, hit⟩ := o_bind hit
              have hr18 : ∀ (H : Heap) (locs : List Loc) (ls : Array Slot), MH G dT o ad q9.2 H → va_S (mAd o ad) s.heap H locs → lv_has ls 9 [(0, .ref o), (1, .int a0), (2, .int a1), (3, .int a2), (6, .int t11.2.2), (4, .int r18.1), (5, .int r18.2)] → W p l e R s m args below meth c H locs 0 0 Q (F0 m 149 ls []) := by
                intro H locs ls hM hS hl
                refine lv_iinc (k := 4) (v := (t11.2.2 + 1)) (lv' := [(6, .int (t11.2.2 + 1)), (0, .ref o), (1, .int a0), (2, .int a1), (3, .int a2), (4, .int r18.1), (5, .int r18.2)]) hx hb dX4_game_149 hl rfl rfl (by decide) rfl (fun ls hl => ?_)
                refine lv_goto (tgt := 59) hx hb dX4_game_152 (by decide) ?_
                have he := o_in hit
                exact hC11 _ he _ _ _ hM hS (lv_sub hl [1, 2, 3, 4, 5, 6, 0] rfl)
              have hit := er18
              refine b_icmp_gt (tgt := 149) hx hb dX4_game_99 (by decide) hit (fun c19 hit => ?_) (fun c19 hit => ?_)
              · have he := o_in hit
                subst he
                exact hr18 _ _ _ hM hS (lv_sub hl [2, 3, 4, 5, 8, 6, 7] rfl)
              · refine lv_aload_n hx hb dX4_game_102 rfl (lv_at hl 2 rfl) ?_
                refine lv_iload_n hx hb dX4_game_103 rfl (lv_at hl 4 rfl) ?_
                refine lv_iload_n hx hb dX4_game_104 rfl (lv_at hl 3 rfl) ?_
                refine lv_iconst (v := 1) hx hb dX4_game_105 (by decide) ?_
                refine lv_iload hx hb dX4_game_106 (lv_at hl 0 rfl) ?_
                refine lv_isub hx hb dX4_game_108 ?_
                refine lv_iload hx hb dX4_game_109 (lv_at hl 1 rfl) ?_
                obtain ⟨q20, eq20, hit⟩ := o_bind hit
                refine m_cR X hM (wM_gains l G dT o ad _ _ _ _ _ _ eq20) nm_X4_gains q2267 q2269 q141 q2270 qs125 ⟨Nat.le_trans (Nat.le_of_ble_eq_true rfl) hR.1, Nat.le_trans (Nat.le_of_ble_eq_true rfl) hR.2⟩ rfl rfl hl.1 (lv_room (Nat.le_of_ble_eq_true rfl)) dX4_game_111 ?_
                refine lv_aload_n hx hb dX4_game_114 rfl (lv_at hl 2 rfl) ?_
                refine lv_iload_n hx hb dX4_game_115 rfl (lv_at hl 4 rfl) ?_
                refine lv_iload_n hx hb dX4_game_116 rfl (lv_at hl 3 rfl) ?_
                refine lv_iload hx hb dX4_game_117 (lv_at hl 0 rfl) ?_
                refine lv_iload hx hb dX4_game_119 (lv_at hl 1 rfl) ?_
                obtain ⟨q21, eq21, hit⟩ := o_bind hit
                refine m_cR X hM (wM_gains l G dT o ad _ _ _ _ _ _ eq21) nm_X4_gains q2267 q2269 q141 q2270 qs125 ⟨Nat.le_trans (Nat.le_of_ble_eq_true rfl) hR.1, Nat.le_trans (Nat.le_of_ble_eq_true rfl) hR.2⟩ rfl rfl hl.1 (lv_room (Nat.le_of_ble_eq_true rfl)) dX4_game_121 ?_
                refine b_icmp_le (tgt := 130) hx hb dX4_game_124 (by decide) hit (fun c22 hit => ?_) (fun c22 hit => ?_)
                · refine lv_iinc (k := 6) (v := (t11.1 + 1)) (lv' := [(4, .int (t11.1 + 1)), (8, .int (imod t11.2.2 2)), (7, .int (t11.2.2 / 2)), (0, .ref o), (1, .int a0), (2, .int a1), (3, .int a2), (5, .int t11.2.1), (6, .int t11.2.2)]) hx hb dX4_game_130 hl rfl rfl (by decide) rfl (fun ls hl => ?_)
                  refine lv_iload hx hb dX4_game_133 (lv_at hl 7 rfl) ?_
                  refine lv_iconst (v := (-1)) hx hb dX4_game_135 (by decide) ?_
                  refine b_icmp_ne (tgt := 149) hx hb dX4_game_136 (by decide) hit (fun c23 hit => ?_) (fun c23 hit => ?_)
                  · have he := o_in hit
                    subst he
                    exact hr18 _ _ _ hM hS (lv_sub hl [3, 4, 5, 6, 8, 0, 7] rfl)
                  · refine lv_bipush (v := 10) hx hb dX4_game_139 (by decide) ?_
                    refine lv_iload hx hb dX4_game_141 (lv_at hl 2 rfl) ?_
                    refine lv_imul hx hb dX4_game_143 ?_
                    refine lv_iload hx hb dX4_game_144 (lv_at hl 1 rfl) ?_
                    refine lv_iadd hx hb dX4_game_146 ?_
                    refine lv_istore (lv' := [(5, .int ((10 * (t11.2.2 / 2)) + (imod t11.2.2 2))), (4, .int (t11.1 + 1)), (8, .int (imod t11.2.2 2)), (7, .int (t11.2.2 / 2)), (0, .ref o), (1, .int a0), (2, .int a1), (3, .int a2), (6, .int t11.2.2)]) hx hb dX4_game_147 hl (by decide) rfl (fun ls hl => ?_)
                    have he := o_in hit
                    subst he
                    exact hr18 _ _ _ hM hS (lv_sub hl [4, 5, 6, 7, 8, 1, 0] rfl)
                · refine lv_goto (tgt := 149) hx hb dX4_game_127 (by decide) ?_
                  have he := o_in hit
                  subst he
                  exact hr18 _ _ _ hM hS (lv_sub hl [2, 3, 4, 5, 8, 6, 7] rfl)
          · refine lv_iconst (v := 0) hx hb dX4_game_48 (by decide) ?_
            have he := o_in hit
            exact hend _ 0 _ _ _ _ _ rfl he hM hS dX4_game_49
        have hit := er8
        refine b_icmp_eq (tgt := 40) hx hb dX4_game_33 (by decide) hit (fun c24 hit => ?_) (fun c24 hit => ?_)
        · refine lv_iconst (v := 0) hx hb dX4_game_40 (by decide) ?_
          have he := o_in hit
          subst he
          exact hr8 _ _ _ hM hS hl
        · refine lv_iconst (v := 1) hx hb dX4_game_36 (by decide) ?_
          refine lv_goto (tgt := 41) hx hb dX4_game_37 (by decide) ?_
          have he := o_in hit
          subst he
          exact hr8 _ _ _ hM hS hl
noncomputable def M_draw (σ : MS) (a0 : Int32) : Option (Int32 × MS) :=
  (pf σ 55 (((mf σ 55) * 1103515245) + 12345)).bind fun s1 =>
  (irm (((mf s1 55) >>> (16 &&& 31)) &&& 32767) a0).bind fun v2 =>
  some (v2, s1)
theorem nm_X4_draw : kNm yX4_draw RX4 1 := by unfold kNm; decide +kernel
set_option maxHeartbeats 4000000 in
set_option maxRecDepth 100000 in
theorem wM_draw (l : Launch) (G : va_G) (dT : Nat → ClassId) (o : Nat) (ad : Nat → Nat) (σ : MS) (a0 : Int32) (z : Int32 × MS) (h : M_draw σ a0 = some z) : Met l yX4_draw (ws_ yX4_draw cX4_draw 2 (some .int)) (kRm 0 0) (mPc G dT o ad σ [.int a0]) (va_Qi (fun r (_ : Unit) => r = z.1) (fun _ t => MH G dT o ad z.2 t.heap) (mAd o ad)) 0 0 (mAd o ad) := by
  refine m_startNi (cc := cX4_draw) (ty := .int) rfl rfl rfl (fun p e R s m args below meth c Q ls X hR hM hS hl hend => ?_)
  have hx := X.1.1
  have hb := X.1.2.1
  have hit := h
  clear h
  unfold M_draw at hit
  have hl : lv_has ls 2 [(0, .ref o), (1, .int a0)] := hl
  refine lv_aload_n hx hb dX4_draw_0 rfl (lv_at hl 0 rfl) ?_
  refine lv_aload_n hx hb dX4_draw_1 rfl (lv_at hl 0 rfl) ?_
  refine m_get X hM 55 q1699 rfl rfl (v := .int (mf σ 55)) rfl dX4_draw_2 ?_
  refine lv_ldcw (v := 1103515245) hx hb X.1.2.2.2.1 (X.1.2.2.2.2 _ q2291) dX4_draw_5 ?_
  refine lv_imul hx hb dX4_draw_8 ?_
  refine lv_sipush (v := 12345) hx hb dX4_draw_9 (by decide) ?_
  refine lv_iadd hx hb dX4_draw_12 ?_
  obtain ⟨s1, es1, hit⟩ := o_bind hit
  refine m_put X hM hS 55 q1699 rfl rfl (ty := .int) rfl rfl rfl es1 dX4_draw_13 (fun H locs hM hS => ?_)
  refine lv_aload_n hx hb dX4_draw_16 rfl (lv_at hl 0 rfl) ?_
  refine m_get X hM 55 q1699 rfl rfl (v := .int (mf s1 55)) rfl dX4_draw_17 ?_
  refine lv_bipush (v := 16) hx hb dX4_draw_20 (by decide) ?_
  refine lv_ishr hx hb dX4_draw_22 ?_
  refine lv_sipush (v := 32767) hx hb dX4_draw_23 (by decide) ?_
  refine lv_iand hx hb dX4_draw_26 ?_
  refine lv_iload_n hx hb dX4_draw_27 rfl (lv_at hl 1 rfl) ?_
  obtain ⟨v2, ev2, hit⟩ := o_bind hit
  refine b_irem hx hb ev2 dX4_draw_28 ?_
  have he := o_in hit
  exact hend _ v2 _ _ _ _ _ rfl he hM hS dX4_draw_29
noncomputable def M_takesLeast_L2 (σ : MS) (a0 : Int32) (t1 : Int32) : Option (Int32 ⊕ MS) :=
  if t1 < (mf σ 1) then
    ((ald σ 44 (53 + t1)).bind fun v4 =>
    (M_clerkIn σ 34 a0).bind fun q5 =>
    if v4 = q5 then
      ((ast σ 44 (53 + t1) (10 + a0)).bind fun s7 =>
      some (.inr s7))
    else
      (some (.inl (t1 + 1))))
  else
    (some (.inr σ))
noncomputable def M_takesLeast (σ : MS) (a0 : Int32) : Option (MS) :=
  o_loop (M_takesLeast_L2 σ a0) 0
theorem nm_X4_takesLeast : kNm yX4_takesLeast RX4 1 := by unfold kNm; decide +kernel
set_option maxHeartbeats 4000000 in
set_option maxRecDepth 100000 in
theorem wM_takesLeast (l : Launch) (G : va_G) (dT : Nat → ClassId) (o : Nat) (ad : Nat → Nat) (σ : MS) (a0 : Int32) (z : MS) (h : M_takesLeast σ a0 = some z) : Met l yX4_takesLeast (ws_ yX4_takesLeast cX4_takesLeast 3 none) (kRm 2 44) (mPc G dT o ad σ [.int a0]) (va_Qv (fun (_ : Unit) => True) (fun _ t => MH G dT o ad z t.heap) (mAd o ad)) 0 0 (mAd o ad) := by
  refine m_startNv (cc := cX4_takesLeast) rfl rfl rfl (fun p e R s m args below meth c Q ls X hR hM hS hl hend => ?_)
  have hx := X.1.1
  have hb := X.1.2.1
  have hit := h
  clear h
  unfold M_takesLeast at hit
  have hl : lv_has ls 3 [(0, .ref o), (1, .int a0)] := hl
  refine lv_iconst (v := 0) hx hb dX4_takesLeast_0 (by decide) ?_
  refine lv_istore_n (lv' := [(2, .int 0), (0, .ref o), (1, .int a0)]) hx hb dX4_takesLeast_1 rfl hl (by decide) rfl (fun ls hl => ?_)
  refine o_rec (P := fun t1 => ∀ (H : Heap) (locs : List Loc) (ls : Array Slot), MH G dT o ad σ H → va_S (mAd o ad) s.heap H locs → lv_has ls 3 [(0, .ref o), (1, .int a0), (2, .int t1)] → W p l e R s m args below meth c H locs 0 0 Q (F0 m 2 ls [])) (fun t1 x2 hit hC1 hE1 H locs ls hM hS hl => ?_) _ hit _ _ _ hM hS (lv_sub hl [1, 2, 0] rfl)
  unfold M_takesLeast_L2 at hit
  refine lv_iload_n hx hb dX4_takesLeast_2 rfl (lv_at hl 2 rfl) ?_
  refine lv_aload_n hx hb dX4_takesLeast_3 rfl (lv_at hl 0 rfl) ?_
  refine m_get X hM 1 q1645 rfl rfl (v := .int (mf σ 1)) rfl dX4_takesLeast_4 ?_
  refine b_icmp_ge (tgt := 52) hx hb dX4_takesLeast_7 (by decide) hit (fun c3 hit => ?_) (fun c3 hit => ?_)
  · have he := o_in hit
    have he := hE1 _ he
    exact hend _ _ _ _ _ he hM hS dX4_takesLeast_52
  · refine lv_aload_n hx hb dX4_takesLeast_10 rfl (lv_at hl 0 rfl) ?_
    refine m_get X hM 44 q1688 rfl rfl (v := .ref (ad 44)) rfl dX4_takesLeast_11 ?_
    refine lv_bipush (v := 53) hx hb dX4_takesLeast_14 (by decide) ?_
    refine lv_iload_n hx hb dX4_takesLeast_16 rfl (lv_at hl 2 rfl) ?_
    refine lv_iadd hx hb dX4_takesLeast_17 ?_
    obtain ⟨v4, ev4, hit⟩ := o_bind hit
    refine m_iald X hM 15 44 rfl rfl ev4 dX4_takesLeast_18 ?_
    refine lv_aload_n hx hb dX4_takesLeast_19 rfl (lv_at hl 0 rfl) ?_
    refine lv_bipush (v := 34) hx hb dX4_takesLeast_20 (by decide) ?_
    refine lv_iload_n hx hb dX4_takesLeast_22 rfl (lv_at hl 1 rfl) ?_
    obtain ⟨q5, eq5, hit⟩ := o_bind hit
    refine m_cR X hM (wM_clerkIn l G dT o ad _ _ _ _ eq5) nm_X4_clerkIn q2040 q2042 q141 q2043 qs95 ⟨Nat.le_trans (Nat.le_of_ble_eq_true rfl) hR.1, Nat.le_trans (Nat.le_of_ble_eq_true rfl) hR.2⟩ rfl rfl hl.1 (lv_room (Nat.le_of_ble_eq_true rfl)) dX4_takesLeast_23 ?_
    refine b_icmp_eq (tgt := 32) hx hb dX4_takesLeast_26 (by decide) hit (fun c6 hit => ?_) (fun c6 hit => ?_)
    · refine lv_aload_n hx hb dX4_takesLeast_32 rfl (lv_at hl 0 rfl) ?_
      refine m_get X hM 44 q1688 rfl rfl (v := .ref (ad 44)) rfl dX4_takesLeast_33 ?_
      refine lv_bipush (v := 53) hx hb dX4_takesLeast_36 (by decide) ?_
      refine lv_iload_n hx hb dX4_takesLeast_38 rfl (lv_at hl 2 rfl) ?_
      refine lv_iadd hx hb dX4_takesLeast_39 ?_
      refine lv_bipush (v := 10) hx hb dX4_takesLeast_40 (by decide) ?_
      refine lv_iload_n hx hb dX4_takesLeast_42 rfl (lv_at hl 1 rfl) ?_
      refine lv_iadd hx hb dX4_takesLeast_43 ?_
      obtain ⟨s7, es7, hit⟩ := o_bind hit
      refine m_iast X hM hS 15 44 rfl rfl es7 dX4_takesLeast_44 (fun H locs hM hS => ?_)
      have he := o_in hit
      have he := hE1 _ he
      exact hend _ _ _ _ _ he hM hS dX4_takesLeast_45
    · refine lv_goto (tgt := 46) hx hb dX4_takesLeast_29 (by decide) ?_
      refine lv_iinc (k := 2) (v := (t1 + 1)) (lv' := [(2, .int (t1 + 1)), (0, .ref o), (1, .int a0)]) hx hb dX4_takesLeast_46 hl rfl rfl (by decide) rfl (fun ls hl => ?_)
      refine lv_goto (tgt := 2) hx hb dX4_takesLeast_49 (by decide) ?_
      have he := o_in hit
      exact hC1 _ he _ _ _ hM hS (lv_sub hl [1, 2, 0] rfl)
noncomputable def M_happens (σ : MS) : Option (MS) :=
  (M_draw σ 6).bind fun q1 =>
  ((if q1.1 = 0 then
      ((M_draw q1.2 4).bind fun q17 =>
      (M_burns q17.2 34 q17.1).bind fun q18 =>
      some q18)
    else
      (some q1.2) : Option MS)).bind fun r2 =>
  ((if q1.1 = 1 then
      (if (mf r2 2) ≤ 0 then
        (some r2)
      else
        ((M_draw r2 (mf r2 2)).bind fun q14 =>
        (M_takesLeast q14.2 q14.1).bind fun q15 =>
        some q15))
    else
      (some r2) : Option MS)).bind fun r3 =>
  if q1.1 = 2 then
    (if (mf r3 1) = 0 then
      (some r3)
    else
      ((M_draw r3 (mf r3 1)).bind fun q6 =>
      (M_draw q6.2 8).bind fun q7 =>
      (M_isBurnt q7.2 34 q6.1).bind fun q8 =>
      if q8 = 0 then
        ((ald q7.2 44 (35 + q6.1)).bind fun v10 =>
        (ast q7.2 44 (35 + q6.1) (v10 ^^^ ((1 : Int32) <<< (q7.1 &&& 31)))).bind fun s11 =>
        some s11)
      else
        (some q7.2)))
  else
    (some r3)
theorem nm_X4_happens : kNm yX4_happens RX4 0 := by unfold kNm; decide +kernel
set_option maxHeartbeats 4000000 in
set_option maxRecDepth 100000 in
theorem wM_happens (l : Launch) (G : va_G) (dT : Nat → ClassId) (o : Nat) (ad : Nat → Nat) (σ : MS) (z : MS) (h : M_happens σ = some z) : Met l yX4_happens (ws_ yX4_happens cX4_happens 4 none) (kRm 3 66) (mPc G dT o ad σ []) (va_Qv (fun (_ : Unit) => True) (fun _ t => MH G dT o ad z t.heap) (mAd o ad)) 0 0 (mAd o ad) := by
  refine m_startNv (cc := cX4_happens) rfl rfl rfl (fun p e R s m args below meth c Q ls X hR hM hS hl hend => ?_)
  have hx := X.1.1
  have hb := X.1.2.1
  have hit := h
  clear h
  unfold M_happens at hit
  have hl : lv_has ls 4 [(0, .ref o)] := hl
  refine lv_aload_n hx hb dX4_happens_0 rfl (lv_at hl 0 rfl) ?_
  refine lv_bipush (v := 6) hx hb dX4_happens_1 (by decide) ?_
  obtain ⟨q1, eq1, hit⟩ := o_bind hit
  refine m_cNi X hM hS (wM_draw l G dT o ad _ _ _ eq1) nm_X4_draw q2287 q2289 q141 q2290 qs129 ⟨Nat.le_trans (Nat.le_of_ble_eq_true rfl) hR.1, Nat.le_trans (Nat.le_of_ble_eq_true rfl) hR.2⟩ rfl rfl hl.1 (lv_room (Nat.le_of_ble_eq_true rfl)) dX4_happens_3 (fun H locs hM hS => ?_)
  refine lv_istore_n (lv' := [(1, .int q1.1), (0, .ref o)]) hx hb dX4_happens_6 rfl hl (by decide) rfl (fun ls hl => ?_)
  refine lv_iload_n hx hb dX4_happens_7 rfl (lv_at hl 0 rfl) ?_
  obtain ⟨r2, er2, hit⟩ := o_bind hit
  have hr2 : ∀ (H : Heap) (locs : List Loc) (ls : Array Slot), MH G dT o ad r2 H → va_S (mAd o ad) s.heap H locs → lv_has ls 4 [(1, .int q1.1), (0, .ref o)] → W p l e R s m args below meth c H locs 0 0 Q (F0 m 22 ls []) := by
    intro H locs ls hM hS hl
    refine lv_iload_n hx hb dX4_happens_22 rfl (lv_at hl 0 rfl) ?_
    refine lv_iconst (v := 1) hx hb dX4_happens_23 (by decide) ?_
    obtain ⟨r3, er3, hit⟩ := o_bind hit
    have hr3 : ∀ (H : Heap) (locs : List Loc) (ls : Array Slot), MH G dT o ad r3 H → va_S (mAd o ad) s.heap H locs → lv_has ls 4 [(1, .int q1.1), (0, .ref o)] → W p l e R s m args below meth c H locs 0 0 Q (F0 m 46 ls []) := by
      intro H locs ls hM hS hl
      refine lv_iload_n hx hb dX4_happens_46 rfl (lv_at hl 0 rfl) ?_
      refine lv_iconst (v := 2) hx hb dX4_happens_47 (by decide) ?_
      refine b_icmp_ne (tgt := 58) hx hb dX4_happens_48 (by decide) hit (fun c4 hit => ?_) (fun c4 hit => ?_)
      · have he := o_in hit
        exact hend _ _ _ _ _ he hM hS dX4_happens_58
      · refine lv_aload_n hx hb dX4_happens_51 rfl (lv_at hl 1 rfl) ?_
        refine m_get X hM 1 q1645 rfl rfl (v := .int (mf r3 1)) rfl dX4_happens_52 ?_
        refine b_if_ne (tgt := 59) hx hb dX4_happens_55 (by decide) hit (fun c5 hit => ?_) (fun c5 hit => ?_)
        · refine lv_aload_n hx hb dX4_happens_59 rfl (lv_at hl 1 rfl) ?_
          refine lv_aload_n hx hb dX4_happens_60 rfl (lv_at hl 1 rfl) ?_
          refine m_get X hM 1 q1645 rfl rfl (v := .int (mf r3 1)) rfl dX4_happens_61 ?_
          obtain ⟨q6, eq6, hit⟩ := o_bind hit
          refine m_cNi X hM hS (wM_draw l G dT o ad _ _ _ eq6) nm_X4_draw q2287 q2289 q141 q2290 qs129 ⟨Nat.le_trans (Nat.le_of_ble_eq_true rfl) hR.1, Nat.le_trans (Nat.le_of_ble_eq_true rfl) hR.2⟩ rfl rfl hl.1 (lv_room (Nat.le_of_ble_eq_true rfl)) dX4_happens_64 (fun H locs hM hS => ?_)
          refine lv_istore_n (lv' := [(2, .int q6.1), (1, .int q1.1), (0, .ref o)]) hx hb dX4_happens_67 rfl hl (by decide) rfl (fun ls hl => ?_)
          refine lv_aload_n hx hb dX4_happens_68 rfl (lv_at hl 2 rfl) ?_
          refine lv_bipush (v := 8) hx hb dX4_happens_69 (by decide) ?_
          obtain ⟨q7, eq7, hit⟩ := o_bind hit
          refine m_cNi X hM hS (wM_draw l G dT o ad _ _ _ eq7) nm_X4_draw q2287 q2289 q141 q2290 qs129 ⟨Nat.le_trans (Nat.le_of_ble_eq_true rfl) hR.1, Nat.le_trans (Nat.le_of_ble_eq_true rfl) hR.2⟩ rfl rfl hl.1 (lv_room (Nat.le_of_ble_eq_true rfl)) dX4_happens_71 (fun H locs hM hS => ?_)
          refine lv_istore_n (lv' := [(3, .int q7.1), (2, .int q6.1), (1, .int q1.1), (0, .ref o)]) hx hb dX4_happens_74 rfl hl (by decide) rfl (fun ls hl => ?_)
          refine lv_aload_n hx hb dX4_happens_75 rfl (lv_at hl 3 rfl) ?_
          refine lv_bipush (v := 34) hx hb dX4_happens_76 (by decide) ?_
          refine lv_iload_n hx hb dX4_happens_78 rfl (lv_at hl 1 rfl) ?_
          obtain ⟨q8, eq8, hit⟩ := o_bind hit
          refine m_cR X hM (wM_isBurnt l G dT o ad _ _ _ _ eq8) nm_X4_isBurnt q1990 q1992 q141 q1993 qs85 ⟨Nat.le_trans (Nat.le_of_ble_eq_true rfl) hR.1, Nat.le_trans (Nat.le_of_ble_eq_true rfl) hR.2⟩ rfl rfl hl.1 (lv_room (Nat.le_of_ble_eq_true rfl)) dX4_happens_79 ?_
          refine b_if_ne (tgt := 100) hx hb dX4_happens_82 (by decide) hit (fun c9 hit => ?_) (fun c9 hit => ?_)
          · have he := o_in hit
            exact hend _ _ _ _ _ he hM hS dX4_happens_100
          · refine lv_aload_n hx hb dX4_happens_85 rfl (lv_at hl 3 rfl) ?_
            refine m_get X hM 44 q1688 rfl rfl (v := .ref (ad 44)) rfl dX4_happens_86 ?_
            refine lv_bipush (v := 35) hx hb dX4_happens_89 (by decide) ?_
            refine lv_iload_n hx hb dX4_happens_91 rfl (lv_at hl 1 rfl) ?_
            refine lv_iadd hx hb dX4_happens_92 ?_
            refine lv_dup2_11 hx hb dX4_happens_93 rfl rfl ?_
            obtain ⟨v10, ev10, hit⟩ := o_bind hit
            refine m_iald X hM 15 44 rfl rfl ev10 dX4_happens_94 ?_
            refine lv_iconst (v := 1) hx hb dX4_happens_95 (by decide) ?_
            refine lv_iload_n hx hb dX4_happens_96 rfl (lv_at hl 0 rfl) ?_
            refine lv_ishl hx hb dX4_happens_97 ?_
            refine lv_ixor hx hb dX4_happens_98 ?_
            obtain ⟨s11, es11, hit⟩ := o_bind hit
            refine m_iast X hM hS 15 44 rfl rfl es11 dX4_happens_99 (fun H locs hM hS => ?_)
            have he := o_in hit
            exact hend _ _ _ _ _ he hM hS dX4_happens_100
        · have he := o_in hit
          exact hend _ _ _ _ _ he hM hS dX4_happens_58
    have hit := er3
    refine b_icmp_ne (tgt := 46) hx hb dX4_happens_24 (by decide) hit (fun c12 hit => ?_) (fun c12 hit => ?_)
    · have he := o_in hit
      subst he
      exact hr3 _ _ _ hM hS hl
    · refine lv_aload_n hx hb dX4_happens_27 rfl (lv_at hl 1 rfl) ?_
      refine m_get X hM 2 q1646 rfl rfl (v := .int (mf r2 2)) rfl dX4_happens_28 ?_
      refine b_if_le (tgt := 46) hx hb dX4_happens_31 (by decide) hit (fun c13 hit => ?_) (fun c13 hit => ?_)
      · have he := o_in hit
        subst he
        exact hr3 _ _ _ hM hS hl
      · refine lv_aload_n hx hb dX4_happens_34 rfl (lv_at hl 1 rfl) ?_
        refine lv_aload_n hx hb dX4_happens_35 rfl (lv_at hl 1 rfl) ?_
        refine lv_aload_n hx hb dX4_happens_36 rfl (lv_at hl 1 rfl) ?_
        refine m_get X hM 2 q1646 rfl rfl (v := .int (mf r2 2)) rfl dX4_happens_37 ?_
        obtain ⟨q14, eq14, hit⟩ := o_bind hit
        refine m_cNi X hM hS (wM_draw l G dT o ad _ _ _ eq14) nm_X4_draw q2287 q2289 q141 q2290 qs129 ⟨Nat.le_trans (Nat.le_of_ble_eq_true rfl) hR.1, Nat.le_trans (Nat.le_of_ble_eq_true rfl) hR.2⟩ rfl rfl hl.1 (lv_room (Nat.le_of_ble_eq_true rfl)) dX4_happens_40 (fun H locs hM hS => ?_)
        obtain ⟨q15, eq15, hit⟩ := o_bind hit
        refine m_cNv X hM hS (wM_takesLeast l G dT o ad _ _ _ eq15) nm_X4_takesLeast q2292 q2294 q141 q2295 qs130 ⟨Nat.le_trans (Nat.le_of_ble_eq_true rfl) hR.1, Nat.le_trans (Nat.le_of_ble_eq_true rfl) hR.2⟩ rfl rfl hl.1 (lv_room (Nat.le_of_ble_eq_true rfl)) dX4_happens_43 (fun H locs hM hS => ?_)
        have he := o_in hit
        subst he
        exact hr3 _ _ _ hM hS hl
  have hit := er2
  refine b_if_ne (tgt := 22) hx hb dX4_happens_8 (by decide) hit (fun c16 hit => ?_) (fun c16 hit => ?_)
  · have he := o_in hit
    subst he
    exact hr2 _ _ _ hM hS hl
  · refine lv_aload_n hx hb dX4_happens_11 rfl (lv_at hl 1 rfl) ?_
    refine lv_bipush (v := 34) hx hb dX4_happens_12 (by decide) ?_
    refine lv_aload_n hx hb dX4_happens_14 rfl (lv_at hl 1 rfl) ?_
    refine lv_iconst (v := 4) hx hb dX4_happens_15 (by decide) ?_
    obtain ⟨q17, eq17, hit⟩ := o_bind hit
    refine m_cNi X hM hS (wM_draw l G dT o ad _ _ _ eq17) nm_X4_draw q2287 q2289 q141 q2290 qs129 ⟨Nat.le_trans (Nat.le_of_ble_eq_true rfl) hR.1, Nat.le_trans (Nat.le_of_ble_eq_true rfl) hR.2⟩ rfl rfl hl.1 (lv_room (Nat.le_of_ble_eq_true rfl)) dX4_happens_16 (fun H locs hM hS => ?_)
    obtain ⟨q18, eq18, hit⟩ := o_bind hit
    refine m_cNv X hM hS (wM_burns l G dT o ad _ _ _ _ eq18) nm_X4_burns q2159 q2161 q141 q2162 qs116 ⟨Nat.le_trans (Nat.le_of_ble_eq_true rfl) hR.1, Nat.le_trans (Nat.le_of_ble_eq_true rfl) hR.2⟩ rfl rfl hl.1 (lv_room (Nat.le_of_ble_eq_true rfl)) dX4_happens_19 (fun H locs hM hS => ?_)
    have he := o_in hit
    subst he
    exact hr2 _ _ _ hM hS hl
noncomputable def M_years_L66 (r10 : MS) (t11 : Int32 × Int32) : Option ((Int32 × Int32) ⊕ Int32) :=
  if t11.2 < (mf r10 1) then
    ((M_isBurnt r10 34 t11.2).bind fun q22 =>
    ((if q22 = 0 then
        (some 1)
      else
        (some 0) : Option Int32)).bind fun r23 =>
    some (.inl ((t11.1 + r23), (t11.2 + 1))))
  else
    (some (.inr t11.1))
noncomputable def M_years_L38 (a1 : Int32) (t8 : Int32 × MS) : Option ((Int32 × MS) ⊕ MS) :=
  if t8.1 < a1 then
    ((M_happens t8.2).bind fun q26 =>
    (M_dayGoes q26 34).bind fun q27 =>
    some (.inl ((t8.1 + 1), q27)))
  else
    (some (.inr t8.2))
noncomputable def M_years (σ : MS) (a0 : Int32) (a1 : Int32) (a2 : Int32) : Option (Int32 × MS) :=
  (pf σ 0 0).bind fun s1 =>
  (M_isWhat s1 a2 2).bind fun q2 =>
  if q2.1 = 0 then
    (some (0, q2.2))
  else
    ((M_isDays q2.2 a1 0 2).bind fun q4 =>
    if q4.1 = 0 then
      (some (0, q4.2))
    else
      ((M_tries q4.2).bind fun q6 =>
      (pf q6 55 a0).bind fun s7 =>
      (o_loop (M_years_L38 a1) (0, s7)).bind fun r10 =>
      (o_loop (M_years_L66 r10) (0, 0)).bind fun r13 =>
      if a2 = 0 then
        ((M_everybody r10).bind fun q18 =>
        (M_knownBy r10 34 q18).bind fun q19 =>
        (M_bits q19).bind fun q20 =>
        some (q20, r10))
      else
        (if a2 = 1 then
          (some (r13, r10))
        else
          ((M_borneOnes r10 34).bind fun q16 =>
          (M_bits q16).bind fun q17 =>
          some (q17, r10)))))
theorem nm_X4_years : kNm yX4_years RX4 3 := by unfold kNm; decide +kernel
set_option maxHeartbeats 4000000 in
set_option maxRecDepth 100000 in
theorem wM_years (l : Launch) (G : va_G) (dT : Nat → ClassId) (o : Nat) (ad : Nat → Nat) (σ : MS) (a0 : Int32) (a1 : Int32) (a2 : Int32) (z : Int32 × MS) (h : M_years σ a0 a1 a2 = some z) : Met l yX4_years (ws_ yX4_years cX4_years 6 (some .int)) (kRm 6 138) (mPc G dT o ad σ [.int a0, .int a1, .int a2]) (va_Qi (fun r (_ : Unit) => r = z.1) (fun _ t => MH G dT o ad z.2 t.heap) (mAd o ad)) 0 0 (mAd o ad) := by
  refine m_startNi (cc := cX4_years) (ty := .int) rfl rfl rfl (fun p e R s m args below meth c Q ls X hR hM hS hl hend => ?_)
  have hx := X.1.1
  have hb := X.1.2.1
  have hit := h
  clear h
  unfold M_years at hit
  have hl : lv_has ls 6 [(0, .ref o), (1, .int a0), (2, .int a1), (3, .int a2)] := hl
  refine lv_aload_n hx hb dX4_years_0 rfl (lv_at hl 0 rfl) ?_
  refine lv_iconst (v := 0) hx hb dX4_years_1 (by decide) ?_
  obtain ⟨s1, es1, hit⟩ := o_bind hit
  refine m_put X hM hS 0 q1644 rfl rfl (ty := .int) rfl rfl rfl es1 dX4_years_2 (fun H locs hM hS => ?_)
  refine lv_aload_n hx hb dX4_years_5 rfl (lv_at hl 0 rfl) ?_
  refine lv_iload_n hx hb dX4_years_6 rfl (lv_at hl 3 rfl) ?_
  refine lv_iconst (v := 2) hx hb dX4_years_7 (by decide) ?_
  obtain ⟨q2, eq2, hit⟩ := o_bind hit
  refine m_cNi X hM hS (wM_isWhat l G dT o ad _ _ _ _ eq2) nm_X4_isWhat q2032 q2034 q141 q2035 qs93 ⟨Nat.le_trans (Nat.le_of_ble_eq_true rfl) hR.1, Nat.le_trans (Nat.le_of_ble_eq_true rfl) hR.2⟩ rfl rfl hl.1 (lv_room (Nat.le_of_ble_eq_true rfl)) dX4_years_8 (fun H locs hM hS => ?_)
  refine b_if_eq (tgt := 24) hx hb dX4_years_11 (by decide) hit (fun c3 hit => ?_) (fun c3 hit => ?_)
  · refine lv_iconst (v := 0) hx hb dX4_years_24 (by decide) ?_
    have he := o_in hit
    exact hend _ 0 _ _ _ _ _ rfl he hM hS dX4_years_25
  · refine lv_aload_n hx hb dX4_years_14 rfl (lv_at hl 0 rfl) ?_
    refine lv_iload_n hx hb dX4_years_15 rfl (lv_at hl 2 rfl) ?_
    refine lv_iconst (v := 0) hx hb dX4_years_16 (by decide) ?_
    refine lv_iconst (v := 2) hx hb dX4_years_17 (by decide) ?_
    obtain ⟨q4, eq4, hit⟩ := o_bind hit
    refine m_cNi X hM hS (wM_isDays l G dT o ad _ _ _ _ _ eq4) nm_X4_isDays q2167 q2169 q141 q2170 qs117 ⟨Nat.le_trans (Nat.le_of_ble_eq_true rfl) hR.1, Nat.le_trans (Nat.le_of_ble_eq_true rfl) hR.2⟩ rfl rfl hl.1 (lv_room (Nat.le_of_ble_eq_true rfl)) dX4_years_18 (fun H locs hM hS => ?_)
    refine b_if_ne (tgt := 26) hx hb dX4_years_21 (by decide) hit (fun c5 hit => ?_) (fun c5 hit => ?_)
    · refine lv_aload_n hx hb dX4_years_26 rfl (lv_at hl 0 rfl) ?_
      obtain ⟨q6, eq6, hit⟩ := o_bind hit
      refine m_cNv X hM hS (wM_tries l G dT o ad _  _ eq6) nm_X4_tries q2175 q2177 q141 q2178 qs119 ⟨Nat.le_trans (Nat.le_of_ble_eq_true rfl) hR.1, Nat.le_trans (Nat.le_of_ble_eq_true rfl) hR.2⟩ rfl rfl hl.1 (lv_room (Nat.le_of_ble_eq_true rfl)) dX4_years_27 (fun H locs hM hS => ?_)
      refine lv_aload_n hx hb dX4_years_30 rfl (lv_at hl 0 rfl) ?_
      refine lv_iload_n hx hb dX4_years_31 rfl (lv_at hl 1 rfl) ?_
      obtain ⟨s7, es7, hit⟩ := o_bind hit
      refine m_put X hM hS 55 q1699 rfl rfl (ty := .int) rfl rfl rfl es7 dX4_years_32 (fun H locs hM hS => ?_)
      refine lv_iconst (v := 0) hx hb dX4_years_35 (by decide) ?_
      refine lv_istore (lv' := [(4, .int 0), (0, .ref o), (1, .int a0), (2, .int a1), (3, .int a2)]) hx hb dX4_years_36 hl (by decide) rfl (fun ls hl => ?_)
      obtain ⟨r10, er10, hit⟩ := o_bind hit
      have hr10 : ∀ (H : Heap) (locs : List Loc) (ls : Array Slot), MH G dT o ad r10 H → va_S (mAd o ad) s.heap H locs → lv_has ls 6 [(0, .ref o), (3, .int a2)] → W p l e R s m args below meth c H locs 0 0 Q (F0 m 60 ls []) := by
        intro H locs ls hM hS hl
        refine lv_iconst (v := 0) hx hb dX4_years_60 (by decide) ?_
        refine lv_istore (lv' := [(4, .int 0), (0, .ref o), (3, .int a2)]) hx hb dX4_years_61 hl (by decide) rfl (fun ls hl => ?_)
        refine lv_iconst (v := 0) hx hb dX4_years_63 (by decide) ?_
        refine lv_istore (lv' := [(5, .int 0), (4, .int 0), (0, .ref o), (3, .int a2)]) hx hb dX4_years_64 hl (by decide) rfl (fun ls hl => ?_)
        obtain ⟨r13, er13, hit⟩ := o_bind hit
        have hr13 : ∀ (H : Heap) (locs : List Loc) (ls : Array Slot), MH G dT o ad r10 H → va_S (mAd o ad) s.heap H locs → lv_has ls 6 [(0, .ref o), (3, .int a2), (4, .int r13)] → W p l e R s m args below meth c H locs 0 0 Q (F0 m 102 ls []) := by
          intro H locs ls hM hS hl
          refine lv_iload_n hx hb dX4_years_102 rfl (lv_at hl 1 rfl) ?_
          refine b_if_ne (tgt := 122) hx hb dX4_years_103 (by decide) hit (fun c14 hit => ?_) (fun c14 hit => ?_)
          · refine lv_iload_n hx hb dX4_years_122 rfl (lv_at hl 1 rfl) ?_
            refine lv_iconst (v := 1) hx hb dX4_years_123 (by decide) ?_
            refine b_icmp_ne (tgt := 132) hx hb dX4_years_124 (by decide) hit (fun c15 hit => ?_) (fun c15 hit => ?_)
            · refine lv_aload_n hx hb dX4_years_132 rfl (lv_at hl 0 rfl) ?_
              refine lv_bipush (v := 34) hx hb dX4_years_133 (by decide) ?_
              obtain ⟨q16, eq16, hit⟩ := o_bind hit
              refine m_cR X hM (wM_borneOnes l G dT o ad _ _ _ eq16) nm_X4_borneOnes q1994 q1996 q141 q1997 qs86 ⟨Nat.le_trans (Nat.le_of_ble_eq_true rfl) hR.1, Nat.le_trans (Nat.le_of_ble_eq_true rfl) hR.2⟩ rfl rfl hl.1 (lv_room (Nat.le_of_ble_eq_true rfl)) dX4_years_135 ?_
              obtain ⟨q17, eq17, hit⟩ := o_bind hit
              refine m_cP X.1 (wM_bits l _ _ eq17) nm_X4_bits q2018 q2019 q141 q2020 ⟨Nat.le_trans (Nat.le_of_ble_eq_true rfl) hR.1, Nat.le_trans (Nat.le_of_ble_eq_true rfl) hR.2⟩ rfl rfl hl.1 (lv_room (Nat.le_of_ble_eq_true rfl)) dX4_years_138 ?_
              have he := o_in hit
              exact hend _ q17 _ _ _ _ _ rfl he hM hS dX4_years_141
            · refine lv_iload hx hb dX4_years_127 (lv_at hl 2 rfl) ?_
              refine lv_goto (tgt := 141) hx hb dX4_years_129 (by decide) ?_
              have he := o_in hit
              exact hend _ r13 _ _ _ _ _ rfl he hM hS dX4_years_141
          · refine lv_aload_n hx hb dX4_years_106 rfl (lv_at hl 0 rfl) ?_
            refine lv_bipush (v := 34) hx hb dX4_years_107 (by decide) ?_
            refine lv_aload_n hx hb dX4_years_109 rfl (lv_at hl 0 rfl) ?_
            obtain ⟨q18, eq18, hit⟩ := o_bind hit
            refine m_cR X hM (wM_everybody l G dT o ad _  _ eq18) nm_X4_everybody q1998 q2000 q141 q2001 qs87 ⟨Nat.le_trans (Nat.le_of_ble_eq_true rfl) hR.1, Nat.le_trans (Nat.le_of_ble_eq_true rfl) hR.2⟩ rfl rfl hl.1 (lv_room (Nat.le_of_ble_eq_true rfl)) dX4_years_110 ?_
            obtain ⟨q19, eq19, hit⟩ := o_bind hit
            refine m_cR X hM (wM_knownBy l G dT o ad _ _ _ _ eq19) nm_X4_knownBy q2002 q2004 q141 q2005 qs88 ⟨Nat.le_trans (Nat.le_of_ble_eq_true rfl) hR.1, Nat.le_trans (Nat.le_of_ble_eq_true rfl) hR.2⟩ rfl rfl hl.1 (lv_room (Nat.le_of_ble_eq_true rfl)) dX4_years_113 ?_
            obtain ⟨q20, eq20, hit⟩ := o_bind hit
            refine m_cP X.1 (wM_bits l _ _ eq20) nm_X4_bits q2018 q2019 q141 q2020 ⟨Nat.le_trans (Nat.le_of_ble_eq_true rfl) hR.1, Nat.le_trans (Nat.le_of_ble_eq_true rfl) hR.2⟩ rfl rfl hl.1 (lv_room (Nat.le_of_ble_eq_true rfl)) dX4_years_116 ?_
            refine lv_goto (tgt := 141) hx hb dX4_years_119 (by decide) ?_
            have he := o_in hit
            exact hend _ q20 _ _ _ _ _ rfl he hM hS dX4_years_141
        refine o_rec (P := fun t11 => ∀ (H : Heap) (locs : List Loc) (ls : Array Slot), MH G dT o ad r10 H → va_S (mAd o ad) s.heap H locs → lv_has ls 6 [(0, .ref o), (3, .int a2), (4, .int t11.1), (5, .int t11.2)] → W p l e R s m args below meth c H locs 0 0 Q (F0 m 66 ls [])) (fun t11 x12 hit hC11 hE11 H locs ls hM hS hl => ?_) _ er13 _ _ _ hM hS (lv_sub hl [2, 3, 1, 0] rfl)
        unfold M_years_L66 at hit
        refine lv_iload hx hb dX4_years_66 (lv_at hl 3 rfl) ?_
        refine lv_aload_n hx hb dX4_years_68 rfl (lv_at hl 0 rfl) ?_
        refine m_get X hM 1 q1645 rfl rfl (v := .int (mf r10 1)) rfl dX4_years_69 ?_
        refine b_icmp_ge (tgt := 102) hx hb dX4_years_72 (by decide) hit (fun c21 hit => ?_) (fun c21 hit => ?_)
        · have he := o_in hit
          have he := hE11 _ he
          subst he
          exact hr13 _ _ _ hM hS (lv_sub hl [0, 1, 2] rfl)
        · refine lv_iload hx hb dX4_years_75 (lv_at hl 2 rfl) ?_
          refine lv_aload_n hx hb dX4_years_77 rfl (lv_at hl 0 rfl) ?_
          refine lv_bipush (v := 34) hx hb dX4_years_78 (by decide) ?_
          refine lv_iload hx hb dX4_years_80 (lv_at hl 3 rfl) ?_
          obtain ⟨q22, eq22, hit⟩ := o_bind hit
          refine m_cR X hM (wM_isBurnt l G dT o ad _ _ _ _ eq22) nm_X4_isBurnt q1990 q1992 q141 q1993 qs85 ⟨Nat.le_trans (Nat.le_of_ble_eq_true rfl) hR.1, Nat.le_trans (Nat.le_of_ble_eq_true rfl) hR.2⟩ rfl rfl hl.1 (lv_room (Nat.le_of_ble_eq_true rfl)) dX4_years_82 ?_
          obtain ⟨r23, er23, hit⟩ := o_bind hit
          have hr23 : ∀ (H : Heap) (locs : List Loc) (ls : Array Slot), MH G dT o ad r10 H → va_S (mAd o ad) s.heap H locs → lv_has ls 6 [(0, .ref o), (3, .int a2), (5, .int t11.2)] → W p l e R s m args below meth c H locs 0 0 Q (F0 m 93 ls [.int r23, .int t11.1]) := by
            intro H locs ls hM hS hl
            refine lv_iadd hx hb dX4_years_93 ?_
            refine lv_istore (lv' := [(4, .int (t11.1 + r23)), (0, .ref o), (3, .int a2), (5, .int t11.2)]) hx hb dX4_years_94 hl (by decide) rfl (fun ls hl => ?_)
            refine lv_iinc (k := 3) (v := (t11.2 + 1)) (lv' := [(5, .int (t11.2 + 1)), (4, .int (t11.1 + r23)), (0, .ref o), (3, .int a2)]) hx hb dX4_years_96 hl rfl rfl (by decide) rfl (fun ls hl => ?_)
            refine lv_goto (tgt := 66) hx hb dX4_years_99 (by decide) ?_
            have he := o_in hit
            exact hC11 _ he _ _ _ hM hS (lv_sub hl [2, 3, 1, 0] rfl)
          have hit := er23
          refine b_if_eq (tgt := 92) hx hb dX4_years_85 (by decide) hit (fun c24 hit => ?_) (fun c24 hit => ?_)
          · refine lv_iconst (v := 1) hx hb dX4_years_92 (by decide) ?_
            have he := o_in hit
            subst he
            exact hr23 _ _ _ hM hS (lv_sub hl [0, 1, 3] rfl)
          · refine lv_iconst (v := 0) hx hb dX4_years_88 (by decide) ?_
            refine lv_goto (tgt := 93) hx hb dX4_years_89 (by decide) ?_
            have he := o_in hit
            subst he
            exact hr23 _ _ _ hM hS (lv_sub hl [0, 1, 3] rfl)
      refine o_rec (P := fun t8 => ∀ (H : Heap) (locs : List Loc) (ls : Array Slot), MH G dT o ad t8.2 H → va_S (mAd o ad) s.heap H locs → lv_has ls 6 [(0, .ref o), (2, .int a1), (3, .int a2), (4, .int t8.1)] → W p l e R s m args below meth c H locs 0 0 Q (F0 m 38 ls [])) (fun t8 x9 hit hC8 hE8 H locs ls hM hS hl => ?_) _ er10 _ _ _ hM hS (lv_sub hl [1, 3, 4, 0] rfl)
      unfold M_years_L38 at hit
      refine lv_iload hx hb dX4_years_38 (lv_at hl 3 rfl) ?_
      refine lv_iload_n hx hb dX4_years_40 rfl (lv_at hl 1 rfl) ?_
      refine b_icmp_ge (tgt := 60) hx hb dX4_years_41 (by decide) hit (fun c25 hit => ?_) (fun c25 hit => ?_)
      · have he := o_in hit
        have he := hE8 _ he
        subst he
        exact hr10 _ _ _ hM hS (lv_sub hl [0, 2] rfl)
      · refine lv_aload_n hx hb dX4_years_44 rfl (lv_at hl 0 rfl) ?_
        obtain ⟨q26, eq26, hit⟩ := o_bind hit
        refine m_cNv X hM hS (wM_happens l G dT o ad _  _ eq26) nm_X4_happens q2283 q2285 q141 q2286 qs128 ⟨Nat.le_trans (Nat.le_of_ble_eq_true rfl) hR.1, Nat.le_trans (Nat.le_of_ble_eq_true rfl) hR.2⟩ rfl rfl hl.1 (lv_room (Nat.le_of_ble_eq_true rfl)) dX4_years_45 (fun H locs hM hS => ?_)
        refine lv_aload_n hx hb dX4_years_48 rfl (lv_at hl 0 rfl) ?_
        refine lv_bipush (v := 34) hx hb dX4_years_49 (by decide) ?_
        obtain ⟨q27, eq27, hit⟩ := o_bind hit
        refine m_cNv X hM hS (wM_dayGoes l G dT o ad _ _ _ eq27) nm_X4_dayGoes q2120 q2122 q141 q2123 qs111 ⟨Nat.le_trans (Nat.le_of_ble_eq_true rfl) hR.1, Nat.le_trans (Nat.le_of_ble_eq_true rfl) hR.2⟩ rfl rfl hl.1 (lv_room (Nat.le_of_ble_eq_true rfl)) dX4_years_51 (fun H locs hM hS => ?_)
        refine lv_iinc (k := 3) (v := (t8.1 + 1)) (lv' := [(4, .int (t8.1 + 1)), (0, .ref o), (2, .int a1), (3, .int a2)]) hx hb dX4_years_54 hl rfl rfl (by decide) rfl (fun ls hl => ?_)
        refine lv_goto (tgt := 38) hx hb dX4_years_57 (by decide) ?_
        have he := o_in hit
        exact hC8 _ he _ _ _ hM hS (lv_sub hl [1, 2, 3, 0] rfl)
    · refine lv_iconst (v := 0) hx hb dX4_years_24 (by decide) ?_
      have he := o_in hit
      exact hend _ 0 _ _ _ _ _ rfl he hM hS dX4_years_25
noncomputable def M_wisest_L26 (q4 : MS) (t5 : Int32 × Int32) : Option ((Int32 × Int32) ⊕ (Int32 × MS)) :=
  if t5.2 < (mf q4 2) then
    (((if t5.1 = (-1) then
        (some t5.2)
      else
        ((ald q4 44 (62 + t5.2)).bind fun v10 =>
        (M_bits v10).bind fun q11 =>
        (ald q4 44 (62 + t5.1)).bind fun v12 =>
        (M_bits v12).bind fun q13 =>
        if q11 ≤ q13 then
          (some t5.1)
        else
          (some t5.2)) : Option Int32)).bind fun r8 =>
    some (.inl (r8, (t5.2 + 1))))
  else
    (some (.inr (t5.1, q4)))
noncomputable def M_wisest (σ : MS) (a0 : Int32) : Option (Int32 × MS) :=
  (pf σ 0 0).bind fun s1 =>
  (M_isDays s1 a0 0 1).bind fun q2 =>
  if q2.1 = 0 then
    (some (0, q2.2))
  else
    ((M_goesTo q2.2 a0).bind fun q4 =>
    o_loop (M_wisest_L26 q4) ((-1), 0))
theorem nm_X4_wisest : kNm yX4_wisest RX4 1 := by unfold kNm; decide +kernel
set_option maxHeartbeats 4000000 in
set_option maxRecDepth 100000 in
theorem wM_wisest (l : Launch) (G : va_G) (dT : Nat → ClassId) (o : Nat) (ad : Nat → Nat) (σ : MS) (a0 : Int32) (z : Int32 × MS) (h : M_wisest σ a0 = some z) : Met l yX4_wisest (ws_ yX4_wisest cX4_wisest 4 (some .int)) (kRm 8 181) (mPc G dT o ad σ [.int a0]) (va_Qi (fun r (_ : Unit) => r = z.1) (fun _ t => MH G dT o ad z.2 t.heap) (mAd o ad)) 0 0 (mAd o ad) := by
  refine m_startNi (cc := cX4_wisest) (ty := .int) rfl rfl rfl (fun p e R s m args below meth c Q ls X hR hM hS hl hend => ?_)
  have hx := X.1.1
  have hb := X.1.2.1
  have hit := h
  clear h
  unfold M_wisest at hit
  have hl : lv_has ls 4 [(0, .ref o), (1, .int a0)] := hl
  refine lv_aload_n hx hb dX4_wisest_0 rfl (lv_at hl 0 rfl) ?_
  refine lv_iconst (v := 0) hx hb dX4_wisest_1 (by decide) ?_
  obtain ⟨s1, es1, hit⟩ := o_bind hit
  refine m_put X hM hS 0 q1644 rfl rfl (ty := .int) rfl rfl rfl es1 dX4_wisest_2 (fun H locs hM hS => ?_)
  refine lv_aload_n hx hb dX4_wisest_5 rfl (lv_at hl 0 rfl) ?_
  refine lv_iload_n hx hb dX4_wisest_6 rfl (lv_at hl 1 rfl) ?_
  refine lv_iconst (v := 0) hx hb dX4_wisest_7 (by decide) ?_
  refine lv_iconst (v := 1) hx hb dX4_wisest_8 (by decide) ?_
  obtain ⟨q2, eq2, hit⟩ := o_bind hit
  refine m_cNi X hM hS (wM_isDays l G dT o ad _ _ _ _ _ eq2) nm_X4_isDays q2167 q2169 q141 q2170 qs117 ⟨Nat.le_trans (Nat.le_of_ble_eq_true rfl) hR.1, Nat.le_trans (Nat.le_of_ble_eq_true rfl) hR.2⟩ rfl rfl hl.1 (lv_room (Nat.le_of_ble_eq_true rfl)) dX4_wisest_9 (fun H locs hM hS => ?_)
  refine b_if_ne (tgt := 17) hx hb dX4_wisest_12 (by decide) hit (fun c3 hit => ?_) (fun c3 hit => ?_)
  · refine lv_aload_n hx hb dX4_wisest_17 rfl (lv_at hl 0 rfl) ?_
    refine lv_iload_n hx hb dX4_wisest_18 rfl (lv_at hl 1 rfl) ?_
    obtain ⟨q4, eq4, hit⟩ := o_bind hit
    refine m_cNv X hM hS (wM_goesTo l G dT o ad _ _ _ eq4) nm_X4_goesTo q2171 q2173 q141 q2174 qs118 ⟨Nat.le_trans (Nat.le_of_ble_eq_true rfl) hR.1, Nat.le_trans (Nat.le_of_ble_eq_true rfl) hR.2⟩ rfl rfl hl.1 (lv_room (Nat.le_of_ble_eq_true rfl)) dX4_wisest_19 (fun H locs hM hS => ?_)
    refine lv_iconst (v := (-1)) hx hb dX4_wisest_22 (by decide) ?_
    refine lv_istore_n (lv' := [(2, .int (-1)), (0, .ref o), (1, .int a0)]) hx hb dX4_wisest_23 rfl hl (by decide) rfl (fun ls hl => ?_)
    refine lv_iconst (v := 0) hx hb dX4_wisest_24 (by decide) ?_
    refine lv_istore_n (lv' := [(3, .int 0), (2, .int (-1)), (0, .ref o), (1, .int a0)]) hx hb dX4_wisest_25 rfl hl (by decide) rfl (fun ls hl => ?_)
    refine o_rec (P := fun t5 => ∀ (H : Heap) (locs : List Loc) (ls : Array Slot), MH G dT o ad q4 H → va_S (mAd o ad) s.heap H locs → lv_has ls 4 [(0, .ref o), (2, .int t5.1), (3, .int t5.2)] → W p l e R s m args below meth c H locs 0 0 Q (F0 m 26 ls [])) (fun t5 x6 hit hC5 hE5 H locs ls hM hS hl => ?_) _ hit _ _ _ hM hS (lv_sub hl [2, 1, 0] rfl)
    unfold M_wisest_L26 at hit
    refine lv_iload_n hx hb dX4_wisest_26 rfl (lv_at hl 2 rfl) ?_
    refine lv_aload_n hx hb dX4_wisest_27 rfl (lv_at hl 0 rfl) ?_
    refine m_get X hM 2 q1646 rfl rfl (v := .int (mf q4 2)) rfl dX4_wisest_28 ?_
    refine b_icmp_ge (tgt := 74) hx hb dX4_wisest_31 (by decide) hit (fun c7 hit => ?_) (fun c7 hit => ?_)
    · refine lv_iload_n hx hb dX4_wisest_74 rfl (lv_at hl 1 rfl) ?_
      have he := o_in hit
      have he := hE5 _ he
      exact hend _ t5.1 _ _ _ _ _ rfl he hM hS dX4_wisest_75
    · refine lv_iload_n hx hb dX4_wisest_34 rfl (lv_at hl 1 rfl) ?_
      refine lv_iconst (v := (-1)) hx hb dX4_wisest_35 (by decide) ?_
      obtain ⟨r8, er8, hit⟩ := o_bind hit
      have hr8 : ∀ (H : Heap) (locs : List Loc) (ls : Array Slot), MH G dT o ad q4 H → va_S (mAd o ad) s.heap H locs → lv_has ls 4 [(0, .ref o), (3, .int t5.2), (2, .int r8)] → W p l e R s m args below meth c H locs 0 0 Q (F0 m 68 ls []) := by
        intro H locs ls hM hS hl
        refine lv_iinc (k := 1) (v := (t5.2 + 1)) (lv' := [(3, .int (t5.2 + 1)), (0, .ref o), (2, .int r8)]) hx hb dX4_wisest_68 hl rfl rfl (by decide) rfl (fun ls hl => ?_)
        refine lv_goto (tgt := 26) hx hb dX4_wisest_71 (by decide) ?_
        have he := o_in hit
        exact hC5 _ he _ _ _ hM hS (lv_sub hl [1, 2, 0] rfl)
      have hit := er8
      refine b_icmp_eq (tgt := 66) hx hb dX4_wisest_36 (by decide) hit (fun c9 hit => ?_) (fun c9 hit => ?_)
      · refine lv_iload_n hx hb dX4_wisest_66 rfl (lv_at hl 2 rfl) ?_
        refine lv_istore_n (lv' := [(2, .int t5.2), (0, .ref o), (3, .int t5.2)]) hx hb dX4_wisest_67 rfl hl (by decide) rfl (fun ls hl => ?_)
        have he := o_in hit
        subst he
        exact hr8 _ _ _ hM hS (lv_sub hl [1, 2, 0] rfl)
      · refine lv_aload_n hx hb dX4_wisest_39 rfl (lv_at hl 0 rfl) ?_
        refine m_get X hM 44 q1688 rfl rfl (v := .ref (ad 44)) rfl dX4_wisest_40 ?_
        refine lv_bipush (v := 62) hx hb dX4_wisest_43 (by decide) ?_
        refine lv_iload_n hx hb dX4_wisest_45 rfl (lv_at hl 2 rfl) ?_
        refine lv_iadd hx hb dX4_wisest_46 ?_
        obtain ⟨v10, ev10, hit⟩ := o_bind hit
        refine m_iald X hM 15 44 rfl rfl ev10 dX4_wisest_47 ?_
        obtain ⟨q11, eq11, hit⟩ := o_bind hit
        refine m_cP X.1 (wM_bits l _ _ eq11) nm_X4_bits q2018 q2019 q141 q2020 ⟨Nat.le_trans (Nat.le_of_ble_eq_true rfl) hR.1, Nat.le_trans (Nat.le_of_ble_eq_true rfl) hR.2⟩ rfl rfl hl.1 (lv_room (Nat.le_of_ble_eq_true rfl)) dX4_wisest_48 ?_
        refine lv_aload_n hx hb dX4_wisest_51 rfl (lv_at hl 0 rfl) ?_
        refine m_get X hM 44 q1688 rfl rfl (v := .ref (ad 44)) rfl dX4_wisest_52 ?_
        refine lv_bipush (v := 62) hx hb dX4_wisest_55 (by decide) ?_
        refine lv_iload_n hx hb dX4_wisest_57 rfl (lv_at hl 1 rfl) ?_
        refine lv_iadd hx hb dX4_wisest_58 ?_
        obtain ⟨v12, ev12, hit⟩ := o_bind hit
        refine m_iald X hM 15 44 rfl rfl ev12 dX4_wisest_59 ?_
        obtain ⟨q13, eq13, hit⟩ := o_bind hit
        refine m_cP X.1 (wM_bits l _ _ eq13) nm_X4_bits q2018 q2019 q141 q2020 ⟨Nat.le_trans (Nat.le_of_ble_eq_true rfl) hR.1, Nat.le_trans (Nat.le_of_ble_eq_true rfl) hR.2⟩ rfl rfl hl.1 (lv_room (Nat.le_of_ble_eq_true rfl)) dX4_wisest_60 ?_
        refine b_icmp_le (tgt := 68) hx hb dX4_wisest_63 (by decide) hit (fun c14 hit => ?_) (fun c14 hit => ?_)
        · have he := o_in hit
          subst he
          exact hr8 _ _ _ hM hS (lv_sub hl [0, 2, 1] rfl)
        · refine lv_iload_n hx hb dX4_wisest_66 rfl (lv_at hl 2 rfl) ?_
          refine lv_istore_n (lv' := [(2, .int t5.2), (0, .ref o), (3, .int t5.2)]) hx hb dX4_wisest_67 rfl hl (by decide) rfl (fun ls hl => ?_)
          have he := o_in hit
          subst he
          exact hr8 _ _ _ hM hS (lv_sub hl [1, 2, 0] rfl)
  · refine lv_iconst (v := 0) hx hb dX4_wisest_15 (by decide) ?_
    have he := o_in hit
    exact hend _ 0 _ _ _ _ _ rfl he hM hS dX4_wisest_16
noncomputable def M_company_L44 (a0 : Int32) (a1 : Int32) (a2 : Int32) (q7 : Int32 × MS) (t9 : Int32 × Int32) : Option ((Int32 × Int32) ⊕ (Int32 × MS)) :=
  if t9.2 < a2 then
    ((ald q7.2 44 0).bind fun v12 =>
    (M_townOn q7.2 a0 (v12 + t9.2)).bind fun q13 =>
    (ald q7.2 44 0).bind fun v14 =>
    (M_townOn q7.2 a1 (v14 + t9.2)).bind fun q15 =>
    ((if q13 = q15 then
        (some 1)
      else
        (some 0) : Option Int32)).bind fun r16 =>
    some (.inl ((t9.1 + r16), (t9.2 + 1))))
  else
    (some (.inr (t9.1, q7.2)))
noncomputable def M_company (σ : MS) (a0 : Int32) (a1 : Int32) (a2 : Int32) : Option (Int32 × MS) :=
  (pf σ 0 0).bind fun s1 =>
  (M_isClerk s1 a0).bind fun q2 =>
  if q2.1 = 0 then
    (some (0, q2.2))
  else
    ((M_isClerk q2.2 a1).bind fun q4 =>
    if q4.1 = 0 then
      (some (0, q4.2))
    else
      ((M_within a2 1 60).bind fun q6 =>
      (M_right q4.2 q6 2).bind fun q7 =>
      if q7.1 = 0 then
        (some (0, q7.2))
      else
        (o_loop (M_company_L44 a0 a1 a2 q7) (0, 0))))
theorem nm_X4_company : kNm yX4_company RX4 3 := by unfold kNm; decide +kernel
set_option maxHeartbeats 4000000 in
set_option maxRecDepth 100000 in
theorem wM_company (l : Launch) (G : va_G) (dT : Nat → ClassId) (o : Nat) (ad : Nat → Nat) (σ : MS) (a0 : Int32) (a1 : Int32) (a2 : Int32) (z : Int32 × MS) (h : M_company σ a0 a1 a2 = some z) : Met l yX4_company (ws_ yX4_company cX4_company 6 (some .int)) (kRm 2 43) (mPc G dT o ad σ [.int a0, .int a1, .int a2]) (va_Qi (fun r (_ : Unit) => r = z.1) (fun _ t => MH G dT o ad z.2 t.heap) (mAd o ad)) 0 0 (mAd o ad) := by
  refine m_startNi (cc := cX4_company) (ty := .int) rfl rfl rfl (fun p e R s m args below meth c Q ls X hR hM hS hl hend => ?_)
  have hx := X.1.1
  have hb := X.1.2.1
  have hit := h
  clear h
  unfold M_company at hit
  have hl : lv_has ls 6 [(0, .ref o), (1, .int a0), (2, .int a1), (3, .int a2)] := hl
  refine lv_aload_n hx hb dX4_company_0 rfl (lv_at hl 0 rfl) ?_
  refine lv_iconst (v := 0) hx hb dX4_company_1 (by decide) ?_
  obtain ⟨s1, es1, hit⟩ := o_bind hit
  refine m_put X hM hS 0 q1644 rfl rfl (ty := .int) rfl rfl rfl es1 dX4_company_2 (fun H locs hM hS => ?_)
  refine lv_aload_n hx hb dX4_company_5 rfl (lv_at hl 0 rfl) ?_
  refine lv_iload_n hx hb dX4_company_6 rfl (lv_at hl 1 rfl) ?_
  obtain ⟨q2, eq2, hit⟩ := o_bind hit
  refine m_cNi X hM hS (wM_isClerk l G dT o ad _ _ _ eq2) nm_X4_isClerk q2056 q2058 q141 q2059 qs98 ⟨Nat.le_trans (Nat.le_of_ble_eq_true rfl) hR.1, Nat.le_trans (Nat.le_of_ble_eq_true rfl) hR.2⟩ rfl rfl hl.1 (lv_room (Nat.le_of_ble_eq_true rfl)) dX4_company_7 (fun H locs hM hS => ?_)
  refine b_if_eq (tgt := 36) hx hb dX4_company_10 (by decide) hit (fun c3 hit => ?_) (fun c3 hit => ?_)
  · refine lv_iconst (v := 0) hx hb dX4_company_36 (by decide) ?_
    have he := o_in hit
    exact hend _ 0 _ _ _ _ _ rfl he hM hS dX4_company_37
  · refine lv_aload_n hx hb dX4_company_13 rfl (lv_at hl 0 rfl) ?_
    refine lv_iload_n hx hb dX4_company_14 rfl (lv_at hl 2 rfl) ?_
    obtain ⟨q4, eq4, hit⟩ := o_bind hit
    refine m_cNi X hM hS (wM_isClerk l G dT o ad _ _ _ eq4) nm_X4_isClerk q2056 q2058 q141 q2059 qs98 ⟨Nat.le_trans (Nat.le_of_ble_eq_true rfl) hR.1, Nat.le_trans (Nat.le_of_ble_eq_true rfl) hR.2⟩ rfl rfl hl.1 (lv_room (Nat.le_of_ble_eq_true rfl)) dX4_company_15 (fun H locs hM hS => ?_)
    refine b_if_eq (tgt := 36) hx hb dX4_company_18 (by decide) hit (fun c5 hit => ?_) (fun c5 hit => ?_)
    · refine lv_iconst (v := 0) hx hb dX4_company_36 (by decide) ?_
      have he := o_in hit
      exact hend _ 0 _ _ _ _ _ rfl he hM hS dX4_company_37
    · refine lv_aload_n hx hb dX4_company_21 rfl (lv_at hl 0 rfl) ?_
      refine lv_iload_n hx hb dX4_company_22 rfl (lv_at hl 3 rfl) ?_
      refine lv_iconst (v := 1) hx hb dX4_company_23 (by decide) ?_
      refine lv_bipush (v := 60) hx hb dX4_company_24 (by decide) ?_
      obtain ⟨q6, eq6, hit⟩ := o_bind hit
      refine m_cP X.1 (wM_within l _ _ _ _ eq6) nm_X4_within q1983 q1984 q141 q1985 ⟨Nat.le_trans (Nat.le_of_ble_eq_true rfl) hR.1, Nat.le_trans (Nat.le_of_ble_eq_true rfl) hR.2⟩ rfl rfl hl.1 (lv_room (Nat.le_of_ble_eq_true rfl)) dX4_company_26 ?_
      refine lv_iconst (v := 2) hx hb dX4_company_29 (by decide) ?_
      obtain ⟨q7, eq7, hit⟩ := o_bind hit
      refine m_cNi X hM hS (wM_right l G dT o ad _ _ _ _ eq7) nm_X4_right q1848 q1850 q141 q1851 qs58 ⟨Nat.le_trans (Nat.le_of_ble_eq_true rfl) hR.1, Nat.le_trans (Nat.le_of_ble_eq_true rfl) hR.2⟩ rfl rfl hl.1 (lv_room (Nat.le_of_ble_eq_true rfl)) dX4_company_30 (fun H locs hM hS => ?_)
      refine b_if_ne (tgt := 38) hx hb dX4_company_33 (by decide) hit (fun c8 hit => ?_) (fun c8 hit => ?_)
      · refine lv_iconst (v := 0) hx hb dX4_company_38 (by decide) ?_
        refine lv_istore (lv' := [(4, .int 0), (0, .ref o), (1, .int a0), (2, .int a1), (3, .int a2)]) hx hb dX4_company_39 hl (by decide) rfl (fun ls hl => ?_)
        refine lv_iconst (v := 0) hx hb dX4_company_41 (by decide) ?_
        refine lv_istore (lv' := [(5, .int 0), (4, .int 0), (0, .ref o), (1, .int a0), (2, .int a1), (3, .int a2)]) hx hb dX4_company_42 hl (by decide) rfl (fun ls hl => ?_)
        refine o_rec (P := fun t9 => ∀ (H : Heap) (locs : List Loc) (ls : Array Slot), MH G dT o ad q7.2 H → va_S (mAd o ad) s.heap H locs → lv_has ls 6 [(0, .ref o), (1, .int a0), (2, .int a1), (3, .int a2), (4, .int t9.1), (5, .int t9.2)] → W p l e R s m args below meth c H locs 0 0 Q (F0 m 44 ls [])) (fun t9 x10 hit hC9 hE9 H locs ls hM hS hl => ?_) _ hit _ _ _ hM hS (lv_sub hl [2, 3, 4, 5, 1, 0] rfl)
        unfold M_company_L44 at hit
        refine lv_iload hx hb dX4_company_44 (lv_at hl 5 rfl) ?_
        refine lv_iload_n hx hb dX4_company_46 rfl (lv_at hl 3 rfl) ?_
        refine b_icmp_ge (tgt := 97) hx hb dX4_company_47 (by decide) hit (fun c11 hit => ?_) (fun c11 hit => ?_)
        · refine lv_iload hx hb dX4_company_97 (lv_at hl 4 rfl) ?_
          have he := o_in hit
          have he := hE9 _ he
          exact hend _ t9.1 _ _ _ _ _ rfl he hM hS dX4_company_99
        · refine lv_iload hx hb dX4_company_50 (lv_at hl 4 rfl) ?_
          refine lv_aload_n hx hb dX4_company_52 rfl (lv_at hl 0 rfl) ?_
          refine lv_iload_n hx hb dX4_company_53 rfl (lv_at hl 1 rfl) ?_
          refine lv_aload_n hx hb dX4_company_54 rfl (lv_at hl 0 rfl) ?_
          refine m_get X hM 44 q1688 rfl rfl (v := .ref (ad 44)) rfl dX4_company_55 ?_
          refine lv_iconst (v := 0) hx hb dX4_company_58 (by decide) ?_
          obtain ⟨v12, ev12, hit⟩ := o_bind hit
          refine m_iald X hM 15 44 rfl rfl ev12 dX4_company_59 ?_
          refine lv_iload hx hb dX4_company_60 (lv_at hl 5 rfl) ?_
          refine lv_iadd hx hb dX4_company_62 ?_
          obtain ⟨q13, eq13, hit⟩ := o_bind hit
          refine m_cR X hM (wM_townOn l G dT o ad _ _ _ _ eq13) nm_X4_townOn q2044 q2046 q141 q2047 qs96 ⟨Nat.le_trans (Nat.le_of_ble_eq_true rfl) hR.1, Nat.le_trans (Nat.le_of_ble_eq_true rfl) hR.2⟩ rfl rfl hl.1 (lv_room (Nat.le_of_ble_eq_true rfl)) dX4_company_63 ?_
          refine lv_aload_n hx hb dX4_company_66 rfl (lv_at hl 0 rfl) ?_
          refine lv_iload_n hx hb dX4_company_67 rfl (lv_at hl 2 rfl) ?_
          refine lv_aload_n hx hb dX4_company_68 rfl (lv_at hl 0 rfl) ?_
          refine m_get X hM 44 q1688 rfl rfl (v := .ref (ad 44)) rfl dX4_company_69 ?_
          refine lv_iconst (v := 0) hx hb dX4_company_72 (by decide) ?_
          obtain ⟨v14, ev14, hit⟩ := o_bind hit
          refine m_iald X hM 15 44 rfl rfl ev14 dX4_company_73 ?_
          refine lv_iload hx hb dX4_company_74 (lv_at hl 5 rfl) ?_
          refine lv_iadd hx hb dX4_company_76 ?_
          obtain ⟨q15, eq15, hit⟩ := o_bind hit
          refine m_cR X hM (wM_townOn l G dT o ad _ _ _ _ eq15) nm_X4_townOn q2044 q2046 q141 q2047 qs96 ⟨Nat.le_trans (Nat.le_of_ble_eq_true rfl) hR.1, Nat.le_trans (Nat.le_of_ble_eq_true rfl) hR.2⟩ rfl rfl hl.1 (lv_room (Nat.le_of_ble_eq_true rfl)) dX4_company_77 ?_
          obtain ⟨r16, er16, hit⟩ := o_bind hit
          have hr16 : ∀ (H : Heap) (locs : List Loc) (ls : Array Slot), MH G dT o ad q7.2 H → va_S (mAd o ad) s.heap H locs → lv_has ls 6 [(0, .ref o), (1, .int a0), (2, .int a1), (3, .int a2), (5, .int t9.2)] → W p l e R s m args below meth c H locs 0 0 Q (F0 m 88 ls [.int r16, .int t9.1]) := by
            intro H locs ls hM hS hl
            refine lv_iadd hx hb dX4_company_88 ?_
            refine lv_istore (lv' := [(4, .int (t9.1 + r16)), (0, .ref o), (1, .int a0), (2, .int a1), (3, .int a2), (5, .int t9.2)]) hx hb dX4_company_89 hl (by decide) rfl (fun ls hl => ?_)
            refine lv_iinc (k := 5) (v := (t9.2 + 1)) (lv' := [(5, .int (t9.2 + 1)), (4, .int (t9.1 + r16)), (0, .ref o), (1, .int a0), (2, .int a1), (3, .int a2)]) hx hb dX4_company_91 hl rfl rfl (by decide) rfl (fun ls hl => ?_)
            refine lv_goto (tgt := 44) hx hb dX4_company_94 (by decide) ?_
            have he := o_in hit
            exact hC9 _ he _ _ _ hM hS (lv_sub hl [2, 3, 4, 5, 1, 0] rfl)
          have hit := er16
          refine b_icmp_ne (tgt := 87) hx hb dX4_company_80 (by decide) hit (fun c17 hit => ?_) (fun c17 hit => ?_)
          · refine lv_iconst (v := 0) hx hb dX4_company_87 (by decide) ?_
            have he := o_in hit
            subst he
            exact hr16 _ _ _ hM hS (lv_sub hl [0, 1, 2, 3, 5] rfl)
          · refine lv_iconst (v := 1) hx hb dX4_company_83 (by decide) ?_
            refine lv_goto (tgt := 88) hx hb dX4_company_84 (by decide) ?_
            have he := o_in hit
            subst he
            exact hr16 _ _ _ hM hS (lv_sub hl [0, 1, 2, 3, 5] rfl)
      · refine lv_iconst (v := 0) hx hb dX4_company_36 (by decide) ?_
        have he := o_in hit
        exact hend _ 0 _ _ _ _ _ rfl he hM hS dX4_company_37
noncomputable def M_together_L43 (q3 : Int32 × MS) (t5 : Int32) (t8 : Int32) (t11 : Int32 × Int32) : Option ((Int32 × Int32) ⊕ Int32) :=
  if t11.2 < (mf q3.2 2) then
    ((ald q3.2 44 0).bind fun v16 =>
    (M_townOn q3.2 t11.2 (v16 + t5)).bind fun q17 =>
    ((if q17 = t8 then
        (some 1)
      else
        (some 0) : Option Int32)).bind fun r18 =>
    some (.inl ((t11.1 + r18), (t11.2 + 1))))
  else
    (some (.inr t11.1))
noncomputable def M_together_L32 (a0 : Int32) (q3 : Int32 × MS) (t5 : Int32) (t8 : Int32) : Option (Int32 ⊕ (Int32 ⊕ (Int32 × MS))) :=
  if t8 < 4 then
    ((o_loop (M_together_L43 q3 t5 t8) (0, 0)).bind fun r13 =>
    if r13 < a0 then
      (some (.inl (t8 + 1)))
    else
      (some (.inr (.inr (t5, q3.2)))))
  else
    (some (.inr (.inl (t5 + 1))))
noncomputable def M_together_L24 (a0 : Int32) (q3 : Int32 × MS) (t5 : Int32) : Option (Int32 ⊕ (Int32 × MS)) :=
  if t5 ≤ 60 then
    (o_loop (M_together_L32 a0 q3 t5) 0)
  else
    (some (.inr ((-1), q3.2)))
noncomputable def M_together (σ : MS) (a0 : Int32) : Option (Int32 × MS) :=
  (pf σ 0 0).bind fun s1 =>
  (M_within a0 1 6).bind fun q2 =>
  (M_right s1 q2 1).bind fun q3 =>
  if q3.1 = 0 then
    (some (0, q3.2))
  else
    (o_loop (M_together_L24 a0 q3) 0)
theorem nm_X4_together : kNm yX4_together RX4 1 := by unfold kNm; decide +kernel
set_option maxHeartbeats 4000000 in
set_option maxRecDepth 100000 in
theorem wM_together (l : Launch) (G : va_G) (dT : Nat → ClassId) (o : Nat) (ad : Nat → Nat) (σ : MS) (a0 : Int32) (z : Int32 × MS) (h : M_together σ a0 = some z) : Met l yX4_together (ws_ yX4_together cX4_together 6 (some .int)) (kRm 1 22) (mPc G dT o ad σ [.int a0]) (va_Qi (fun r (_ : Unit) => r = z.1) (fun _ t => MH G dT o ad z.2 t.heap) (mAd o ad)) 0 0 (mAd o ad) := by
  refine m_startNi (cc := cX4_together) (ty := .int) rfl rfl rfl (fun p e R s m args below meth c Q ls X hR hM hS hl hend => ?_)
  have hx := X.1.1
  have hb := X.1.2.1
  have hit := h
  clear h
  unfold M_together at hit
  have hl : lv_has ls 6 [(0, .ref o), (1, .int a0)] := hl
  refine lv_aload_n hx hb dX4_together_0 rfl (lv_at hl 0 rfl) ?_
  refine lv_iconst (v := 0) hx hb dX4_together_1 (by decide) ?_
  obtain ⟨s1, es1, hit⟩ := o_bind hit
  refine m_put X hM hS 0 q1644 rfl rfl (ty := .int) rfl rfl rfl es1 dX4_together_2 (fun H locs hM hS => ?_)
  refine lv_aload_n hx hb dX4_together_5 rfl (lv_at hl 0 rfl) ?_
  refine lv_iload_n hx hb dX4_together_6 rfl (lv_at hl 1 rfl) ?_
  refine lv_iconst (v := 1) hx hb dX4_together_7 (by decide) ?_
  refine lv_bipush (v := 6) hx hb dX4_together_8 (by decide) ?_
  obtain ⟨q2, eq2, hit⟩ := o_bind hit
  refine m_cP X.1 (wM_within l _ _ _ _ eq2) nm_X4_within q1983 q1984 q141 q1985 ⟨Nat.le_trans (Nat.le_of_ble_eq_true rfl) hR.1, Nat.le_trans (Nat.le_of_ble_eq_true rfl) hR.2⟩ rfl rfl hl.1 (lv_room (Nat.le_of_ble_eq_true rfl)) dX4_together_10 ?_
  refine lv_iconst (v := 1) hx hb dX4_together_13 (by decide) ?_
  obtain ⟨q3, eq3, hit⟩ := o_bind hit
  refine m_cNi X hM hS (wM_right l G dT o ad _ _ _ _ eq3) nm_X4_right q1848 q1850 q141 q1851 qs58 ⟨Nat.le_trans (Nat.le_of_ble_eq_true rfl) hR.1, Nat.le_trans (Nat.le_of_ble_eq_true rfl) hR.2⟩ rfl rfl hl.1 (lv_room (Nat.le_of_ble_eq_true rfl)) dX4_together_14 (fun H locs hM hS => ?_)
  refine b_if_ne (tgt := 22) hx hb dX4_together_17 (by decide) hit (fun c4 hit => ?_) (fun c4 hit => ?_)
  · refine lv_iconst (v := 0) hx hb dX4_together_22 (by decide) ?_
    refine lv_istore_n (lv' := [(2, .int 0), (0, .ref o), (1, .int a0)]) hx hb dX4_together_23 rfl hl (by decide) rfl (fun ls hl => ?_)
    refine o_rec (P := fun t5 => ∀ (H : Heap) (locs : List Loc) (ls : Array Slot), MH G dT o ad q3.2 H → va_S (mAd o ad) s.heap H locs → lv_has ls 6 [(0, .ref o), (1, .int a0), (2, .int t5)] → W p l e R s m args below meth c H locs 0 0 Q (F0 m 24 ls [])) (fun t5 x6 hit hC5 hE5 H locs ls hM hS hl => ?_) _ hit _ _ _ hM hS (lv_sub hl [1, 2, 0] rfl)
    unfold M_together_L24 at hit
    refine lv_iload_n hx hb dX4_together_24 rfl (lv_at hl 2 rfl) ?_
    refine lv_bipush (v := 60) hx hb dX4_together_25 (by decide) ?_
    refine b_icmp_gt (tgt := 106) hx hb dX4_together_27 (by decide) hit (fun c7 hit => ?_) (fun c7 hit => ?_)
    · refine lv_iconst (v := (-1)) hx hb dX4_together_106 (by decide) ?_
      have he := o_in hit
      have he := hE5 _ he
      exact hend _ (-1) _ _ _ _ _ rfl he hM hS dX4_together_107
    · refine lv_iconst (v := 0) hx hb dX4_together_30 (by decide) ?_
      refine lv_istore_n (lv' := [(3, .int 0), (0, .ref o), (1, .int a0), (2, .int t5)]) hx hb dX4_together_31 rfl hl (by decide) rfl (fun ls hl => ?_)
      refine o_rec (P := fun t8 => ∀ (H : Heap) (locs : List Loc) (ls : Array Slot), MH G dT o ad q3.2 H → va_S (mAd o ad) s.heap H locs → lv_has ls 6 [(0, .ref o), (1, .int a0), (2, .int t5), (3, .int t8)] → W p l e R s m args below meth c H locs 0 0 Q (F0 m 32 ls [])) (fun t8 x9 hit hC8 hE8 H locs ls hM hS hl => ?_) _ hit _ _ _ hM hS (lv_sub hl [1, 2, 3, 0] rfl)
      unfold M_together_L32 at hit
      refine lv_iload_n hx hb dX4_together_32 rfl (lv_at hl 3 rfl) ?_
      refine lv_iconst (v := 4) hx hb dX4_together_33 (by decide) ?_
      refine b_icmp_ge (tgt := 100) hx hb dX4_together_34 (by decide) hit (fun c10 hit => ?_) (fun c10 hit => ?_)
      · refine lv_iinc (k := 2) (v := (t5 + 1)) (lv' := [(2, .int (t5 + 1)), (0, .ref o), (1, .int a0), (3, .int t8)]) hx hb dX4_together_100 hl rfl rfl (by decide) rfl (fun ls hl => ?_)
        refine lv_goto (tgt := 24) hx hb dX4_together_103 (by decide) ?_
        have he := o_in hit
        have he := hE8 _ he
        exact hC5 _ he _ _ _ hM hS (lv_sub hl [1, 2, 0] rfl)
      · refine lv_iconst (v := 0) hx hb dX4_together_37 (by decide) ?_
        refine lv_istore (lv' := [(4, .int 0), (0, .ref o), (1, .int a0), (2, .int t5), (3, .int t8)]) hx hb dX4_together_38 hl (by decide) rfl (fun ls hl => ?_)
        refine lv_iconst (v := 0) hx hb dX4_together_40 (by decide) ?_
        refine lv_istore (lv' := [(5, .int 0), (4, .int 0), (0, .ref o), (1, .int a0), (2, .int t5), (3, .int t8)]) hx hb dX4_together_41 hl (by decide) rfl (fun ls hl => ?_)
        obtain ⟨r13, er13, hit⟩ := o_bind hit
        have hr13 : ∀ (H : Heap) (locs : List Loc) (ls : Array Slot), MH G dT o ad q3.2 H → va_S (mAd o ad) s.heap H locs → lv_has ls 6 [(0, .ref o), (1, .int a0), (2, .int t5), (3, .int t8), (4, .int r13)] → W p l e R s m args below meth c H locs 0 0 Q (F0 m 86 ls []) := by
          intro H locs ls hM hS hl
          refine lv_iload hx hb dX4_together_86 (lv_at hl 4 rfl) ?_
          refine lv_iload_n hx hb dX4_together_88 rfl (lv_at hl 1 rfl) ?_
          refine b_icmp_lt (tgt := 94) hx hb dX4_together_89 (by decide) hit (fun c14 hit => ?_) (fun c14 hit => ?_)
          · refine lv_iinc (k := 3) (v := (t8 + 1)) (lv' := [(3, .int (t8 + 1)), (0, .ref o), (1, .int a0), (2, .int t5), (4, .int r13)]) hx hb dX4_together_94 hl rfl rfl (by decide) rfl (fun ls hl => ?_)
            refine lv_goto (tgt := 32) hx hb dX4_together_97 (by decide) ?_
            have he := o_in hit
            exact hC8 _ he _ _ _ hM hS (lv_sub hl [1, 2, 3, 0] rfl)
          · refine lv_iload_n hx hb dX4_together_92 rfl (lv_at hl 2 rfl) ?_
            have he := o_in hit
            have he := hE8 _ he
            have he := hE5 _ he
            exact hend _ t5 _ _ _ _ _ rfl he hM hS dX4_together_93
        refine o_rec (P := fun t11 => ∀ (H : Heap) (locs : List Loc) (ls : Array Slot), MH G dT o ad q3.2 H → va_S (mAd o ad) s.heap H locs → lv_has ls 6 [(0, .ref o), (1, .int a0), (2, .int t5), (3, .int t8), (4, .int t11.1), (5, .int t11.2)] → W p l e R s m args below meth c H locs 0 0 Q (F0 m 43 ls [])) (fun t11 x12 hit hC11 hE11 H locs ls hM hS hl => ?_) _ er13 _ _ _ hM hS (lv_sub hl [2, 3, 4, 5, 1, 0] rfl)
        unfold M_together_L43 at hit
        refine lv_iload hx hb dX4_together_43 (lv_at hl 5 rfl) ?_
        refine lv_aload_n hx hb dX4_together_45 rfl (lv_at hl 0 rfl) ?_
        refine m_get X hM 2 q1646 rfl rfl (v := .int (mf q3.2 2)) rfl dX4_together_46 ?_
        refine b_icmp_ge (tgt := 86) hx hb dX4_together_49 (by decide) hit (fun c15 hit => ?_) (fun c15 hit => ?_)
        · have he := o_in hit
          have he := hE11 _ he
          subst he
          exact hr13 _ _ _ hM hS (lv_sub hl [0, 1, 2, 3, 4] rfl)
        · refine lv_iload hx hb dX4_together_52 (lv_at hl 4 rfl) ?_
          refine lv_aload_n hx hb dX4_together_54 rfl (lv_at hl 0 rfl) ?_
          refine lv_iload hx hb dX4_together_55 (lv_at hl 5 rfl) ?_
          refine lv_aload_n hx hb dX4_together_57 rfl (lv_at hl 0 rfl) ?_
          refine m_get X hM 44 q1688 rfl rfl (v := .ref (ad 44)) rfl dX4_together_58 ?_
          refine lv_iconst (v := 0) hx hb dX4_together_61 (by decide) ?_
          obtain ⟨v16, ev16, hit⟩ := o_bind hit
          refine m_iald X hM 15 44 rfl rfl ev16 dX4_together_62 ?_
          refine lv_iload_n hx hb dX4_together_63 rfl (lv_at hl 2 rfl) ?_
          refine lv_iadd hx hb dX4_together_64 ?_
          obtain ⟨q17, eq17, hit⟩ := o_bind hit
          refine m_cR X hM (wM_townOn l G dT o ad _ _ _ _ eq17) nm_X4_townOn q2044 q2046 q141 q2047 qs96 ⟨Nat.le_trans (Nat.le_of_ble_eq_true rfl) hR.1, Nat.le_trans (Nat.le_of_ble_eq_true rfl) hR.2⟩ rfl rfl hl.1 (lv_room (Nat.le_of_ble_eq_true rfl)) dX4_together_65 ?_
          refine lv_iload_n hx hb dX4_together_68 rfl (lv_at hl 3 rfl) ?_
          obtain ⟨r18, er18, hit⟩ := o_bind hit
          have hr18 : ∀ (H : Heap) (locs : List Loc) (ls : Array Slot), MH G dT o ad q3.2 H → va_S (mAd o ad) s.heap H locs → lv_has ls 6 [(0, .ref o), (1, .int a0), (2, .int t5), (3, .int t8), (5, .int t11.2)] → W p l e R s m args below meth c H locs 0 0 Q (F0 m 77 ls [.int r18, .int t11.1]) := by
            intro H locs ls hM hS hl
            refine lv_iadd hx hb dX4_together_77 ?_
            refine lv_istore (lv' := [(4, .int (t11.1 + r18)), (0, .ref o), (1, .int a0), (2, .int t5), (3, .int t8), (5, .int t11.2)]) hx hb dX4_together_78 hl (by decide) rfl (fun ls hl => ?_)
            refine lv_iinc (k := 5) (v := (t11.2 + 1)) (lv' := [(5, .int (t11.2 + 1)), (4, .int (t11.1 + r18)), (0, .ref o), (1, .int a0), (2, .int t5), (3, .int t8)]) hx hb dX4_together_80 hl rfl rfl (by decide) rfl (fun ls hl => ?_)
            refine lv_goto (tgt := 43) hx hb dX4_together_83 (by decide) ?_
            have he := o_in hit
            exact hC11 _ he _ _ _ hM hS (lv_sub hl [2, 3, 4, 5, 1, 0] rfl)
          have hit := er18
          refine b_icmp_ne (tgt := 76) hx hb dX4_together_69 (by decide) hit (fun c19 hit => ?_) (fun c19 hit => ?_)
          · refine lv_iconst (v := 0) hx hb dX4_together_76 (by decide) ?_
            have he := o_in hit
            subst he
            exact hr18 _ _ _ hM hS (lv_sub hl [0, 1, 2, 3, 5] rfl)
          · refine lv_iconst (v := 1) hx hb dX4_together_72 (by decide) ?_
            refine lv_goto (tgt := 77) hx hb dX4_together_73 (by decide) ?_
            have he := o_in hit
            subst he
            exact hr18 _ _ _ hM hS (lv_sub hl [0, 1, 2, 3, 5] rfl)
  · refine lv_iconst (v := 0) hx hb dX4_together_20 (by decide) ?_
    have he := o_in hit
    exact hend _ 0 _ _ _ _ _ rfl he hM hS dX4_together_21
noncomputable def M_isOrphan_L25 (σ : MS) (a0 : Int32) (t3 : Int32 × Int32) : Option ((Int32 × Int32) ⊕ Int32) :=
  if t3.2 < (mf σ 1) then
    (((if t3.1 = 0 then
        (some 0)
      else
        ((M_doesFit σ 0 t3.2 a0).bind fun q8 =>
        if q8 = 0 then
          (some 1)
        else
          (some 0)) : Option Int32)).bind fun r6 =>
    some (.inl (r6, (t3.2 + 1))))
  else
    (some (.inr (vp_nar .boolean t3.1)))
noncomputable def M_isOrphan (σ : MS) (a0 : Int32) : Option (Int32) :=
  (M_isBurnt σ 0 a0).bind fun q1 =>
  ((if q1 = 0 then
      ((M_fitting σ a0).bind fun q11 =>
      if q11 = 0 then
        (some 1)
      else
        (some 0))
    else
      (some 0) : Option Int32)).bind fun r2 =>
  o_loop (M_isOrphan_L25 σ a0) (r2, 0)
theorem nm_X4_isOrphan : kNm yX4_isOrphan RX4 1 := by unfold kNm; decide +kernel
set_option maxHeartbeats 4000000 in
set_option maxRecDepth 100000 in
theorem wM_isOrphan (l : Launch) (G : va_G) (dT : Nat → ClassId) (o : Nat) (ad : Nat → Nat) (σ : MS) (a0 : Int32) (z : Int32) (h : M_isOrphan σ a0 = some z) : Met l yX4_isOrphan (ws_ yX4_isOrphan cX4_isOrphan 4 (some .boolean)) (kRm 4 91) (mPc G dT o ad σ [.int a0]) (vp_Si (fun r => r = z)) 0 0 vp_nf := by
  refine m_startR (cc := cX4_isOrphan) (ty := .boolean) rfl rfl rfl (fun p e R s m args below meth c Q ls X hR hM hl hend => ?_)
  have hx := X.1.1
  have hb := X.1.2.1
  have hit := h
  clear h
  unfold M_isOrphan at hit
  have hl : lv_has ls 4 [(0, .ref o), (1, .int a0)] := hl
  refine lv_aload_n hx hb dX4_isOrphan_0 rfl (lv_at hl 0 rfl) ?_
  refine lv_iconst (v := 0) hx hb dX4_isOrphan_1 (by decide) ?_
  refine lv_iload_n hx hb dX4_isOrphan_2 rfl (lv_at hl 1 rfl) ?_
  obtain ⟨q1, eq1, hit⟩ := o_bind hit
  refine m_cR X hM (wM_isBurnt l G dT o ad _ _ _ _ eq1) nm_X4_isBurnt q1990 q1992 q141 q1993 qs85 ⟨Nat.le_trans (Nat.le_of_ble_eq_true rfl) hR.1, Nat.le_trans (Nat.le_of_ble_eq_true rfl) hR.2⟩ rfl rfl hl.1 (lv_room (Nat.le_of_ble_eq_true rfl)) dX4_isOrphan_3 ?_
  obtain ⟨r2, er2, hit⟩ := o_bind hit
  have hr2 : ∀ (ls : Array Slot), lv_has ls 4 [(0, .ref o), (1, .int a0)] → W p l e R s m args below meth c s.heap [] 0 0 Q (F0 m 22 ls [.int r2]) := by
    intro ls hl
    refine lv_istore_n (lv' := [(2, .int r2), (0, .ref o), (1, .int a0)]) hx hb dX4_isOrphan_22 rfl hl (by decide) rfl (fun ls hl => ?_)
    refine lv_iconst (v := 0) hx hb dX4_isOrphan_23 (by decide) ?_
    refine lv_istore_n (lv' := [(3, .int 0), (2, .int r2), (0, .ref o), (1, .int a0)]) hx hb dX4_isOrphan_24 rfl hl (by decide) rfl (fun ls hl => ?_)
    refine o_rec (P := fun t3 => ∀ (ls : Array Slot), lv_has ls 4 [(0, .ref o), (1, .int a0), (2, .int t3.1), (3, .int t3.2)] → W p l e R s m args below meth c s.heap [] 0 0 Q (F0 m 25 ls [])) (fun t3 x4 hit hC3 hE3 ls hl => ?_) _ hit _ (lv_sub hl [2, 3, 1, 0] rfl)
    unfold M_isOrphan_L25 at hit
    refine lv_iload_n hx hb dX4_isOrphan_25 rfl (lv_at hl 3 rfl) ?_
    refine lv_aload_n hx hb dX4_isOrphan_26 rfl (lv_at hl 0 rfl) ?_
    refine m_get X hM 1 q1645 rfl rfl (v := .int (mf σ 1)) rfl dX4_isOrphan_27 ?_
    refine b_icmp_ge (tgt := 59) hx hb dX4_isOrphan_30 (by decide) hit (fun c5 hit => ?_) (fun c5 hit => ?_)
    · refine lv_iload_n hx hb dX4_isOrphan_59 rfl (lv_at hl 2 rfl) ?_
      have he := o_in hit
      have he := hE3 _ he
      exact hend _ (vp_nar .boolean t3.1) _ _ rfl he dX4_isOrphan_60
    · refine lv_iload_n hx hb dX4_isOrphan_33 rfl (lv_at hl 2 rfl) ?_
      obtain ⟨r6, er6, hit⟩ := o_bind hit
      have hr6 : ∀ (ls : Array Slot), lv_has ls 4 [(0, .ref o), (1, .int a0), (3, .int t3.2)] → W p l e R s m args below meth c s.heap [] 0 0 Q (F0 m 52 ls [.int r6]) := by
        intro ls hl
        refine lv_istore_n (lv' := [(2, .int r6), (0, .ref o), (1, .int a0), (3, .int t3.2)]) hx hb dX4_isOrphan_52 rfl hl (by decide) rfl (fun ls hl => ?_)
        refine lv_iinc (k := 3) (v := (t3.2 + 1)) (lv' := [(3, .int (t3.2 + 1)), (2, .int r6), (0, .ref o), (1, .int a0)]) hx hb dX4_isOrphan_53 hl rfl rfl (by decide) rfl (fun ls hl => ?_)
        refine lv_goto (tgt := 25) hx hb dX4_isOrphan_56 (by decide) ?_
        have he := o_in hit
        exact hC3 _ he _ (lv_sub hl [2, 3, 1, 0] rfl)
      have hit := er6
      refine b_if_eq (tgt := 51) hx hb dX4_isOrphan_34 (by decide) hit (fun c7 hit => ?_) (fun c7 hit => ?_)
      · refine lv_iconst (v := 0) hx hb dX4_isOrphan_51 (by decide) ?_
        have he := o_in hit
        subst he
        exact hr6 _ (lv_sub hl [0, 1, 3] rfl)
      · refine lv_aload_n hx hb dX4_isOrphan_37 rfl (lv_at hl 0 rfl) ?_
        refine lv_iconst (v := 0) hx hb dX4_isOrphan_38 (by decide) ?_
        refine lv_iload_n hx hb dX4_isOrphan_39 rfl (lv_at hl 3 rfl) ?_
        refine lv_iload_n hx hb dX4_isOrphan_40 rfl (lv_at hl 1 rfl) ?_
        obtain ⟨q8, eq8, hit⟩ := o_bind hit
        refine m_cR X hM (wM_doesFit l G dT o ad _ _ _ _ _ eq8) nm_X4_doesFit q2010 q2012 q141 q2013 qs90 ⟨Nat.le_trans (Nat.le_of_ble_eq_true rfl) hR.1, Nat.le_trans (Nat.le_of_ble_eq_true rfl) hR.2⟩ rfl rfl hl.1 (lv_room (Nat.le_of_ble_eq_true rfl)) dX4_isOrphan_41 ?_
        refine b_if_ne (tgt := 51) hx hb dX4_isOrphan_44 (by decide) hit (fun c9 hit => ?_) (fun c9 hit => ?_)
        · refine lv_iconst (v := 0) hx hb dX4_isOrphan_51 (by decide) ?_
          have he := o_in hit
          subst he
          exact hr6 _ (lv_sub hl [0, 1, 3] rfl)
        · refine lv_iconst (v := 1) hx hb dX4_isOrphan_47 (by decide) ?_
          refine lv_goto (tgt := 52) hx hb dX4_isOrphan_48 (by decide) ?_
          have he := o_in hit
          subst he
          exact hr6 _ (lv_sub hl [0, 1, 3] rfl)
  have hit := er2
  refine b_if_ne (tgt := 21) hx hb dX4_isOrphan_6 (by decide) hit (fun c10 hit => ?_) (fun c10 hit => ?_)
  · refine lv_iconst (v := 0) hx hb dX4_isOrphan_21 (by decide) ?_
    have he := o_in hit
    subst he
    exact hr2 _ hl
  · refine lv_aload_n hx hb dX4_isOrphan_9 rfl (lv_at hl 0 rfl) ?_
    refine lv_iload_n hx hb dX4_isOrphan_10 rfl (lv_at hl 1 rfl) ?_
    obtain ⟨q11, eq11, hit⟩ := o_bind hit
    refine m_cR X hM (wM_fitting l G dT o ad _ _ _ eq11) nm_X4_fitting q2048 q2050 q141 q2051 qs97 ⟨Nat.le_trans (Nat.le_of_ble_eq_true rfl) hR.1, Nat.le_trans (Nat.le_of_ble_eq_true rfl) hR.2⟩ rfl rfl hl.1 (lv_room (Nat.le_of_ble_eq_true rfl)) dX4_isOrphan_11 ?_
    refine b_if_ne (tgt := 21) hx hb dX4_isOrphan_14 (by decide) hit (fun c12 hit => ?_) (fun c12 hit => ?_)
    · refine lv_iconst (v := 0) hx hb dX4_isOrphan_21 (by decide) ?_
      have he := o_in hit
      subst he
      exact hr2 _ hl
    · refine lv_iconst (v := 1) hx hb dX4_isOrphan_17 (by decide) ?_
      refine lv_goto (tgt := 22) hx hb dX4_isOrphan_18 (by decide) ?_
      have he := o_in hit
      subst he
      exact hr2 _ hl
noncomputable def M_hasWord_J30 (σ : MS) (a0 : Int32) (a1 : Int32) (t1 : Int32) : Option (Int32 ⊕ Int32) :=
  (ald σ 9 t1).bind fun v5 =>
  if v5 = a1 then
    ((ald σ 10 t1).bind fun v7 =>
    if v7 = a0 then
      (some (.inr 1))
    else
      (some (.inl (t1 + 1))))
  else
    (some (.inl (t1 + 1)))
noncomputable def M_hasWord_L2 (σ : MS) (a0 : Int32) (a1 : Int32) (t1 : Int32) : Option (Int32 ⊕ Int32) :=
  if t1 < (mf σ 3) then
    ((ald σ 9 t1).bind fun v4 =>
    if v4 = a0 then
      ((ald σ 10 t1).bind fun v10 =>
      if v10 = a1 then
        (some (.inr 1))
      else
        (M_hasWord_J30 σ a0 a1 t1))
    else
      (M_hasWord_J30 σ a0 a1 t1))
  else
    (some (.inr 0))
noncomputable def M_hasWord (σ : MS) (a0 : Int32) (a1 : Int32) : Option (Int32) :=
  o_loop (M_hasWord_L2 σ a0 a1) 0
theorem nm_X4_hasWord : kNm yX4_hasWord RX4 2 := by unfold kNm; decide +kernel
set_option maxHeartbeats 4000000 in
set_option maxRecDepth 100000 in
theorem wM_hasWord (l : Launch) (G : va_G) (dT : Nat → ClassId) (o : Nat) (ad : Nat → Nat) (σ : MS) (a0 : Int32) (a1 : Int32) (z : Int32) (h : M_hasWord σ a0 a1 = some z) : Met l yX4_hasWord (ws_ yX4_hasWord cX4_hasWord 4 (some .boolean)) (kRm 0 0) (mPc G dT o ad σ [.int a0, .int a1]) (vp_Si (fun r => r = z)) 0 0 vp_nf := by
  refine m_startR (cc := cX4_hasWord) (ty := .boolean) rfl rfl rfl (fun p e R s m args below meth c Q ls X hR hM hl hend => ?_)
  have hx := X.1.1
  have hb := X.1.2.1
  have hit := h
  clear h
  unfold M_hasWord at hit
  have hl : lv_has ls 4 [(0, .ref o), (1, .int a0), (2, .int a1)] := hl
  refine lv_iconst (v := 0) hx hb dX4_hasWord_0 (by decide) ?_
  refine lv_istore_n (lv' := [(3, .int 0), (0, .ref o), (1, .int a0), (2, .int a1)]) hx hb dX4_hasWord_1 rfl hl (by decide) rfl (fun ls hl => ?_)
  refine o_rec (P := fun t1 => ∀ (ls : Array Slot), lv_has ls 4 [(0, .ref o), (1, .int a0), (2, .int a1), (3, .int t1)] → W p l e R s m args below meth c s.heap [] 0 0 Q (F0 m 2 ls [])) (fun t1 x2 hit hC1 hE1 ls hl => ?_) _ hit _ (lv_sub hl [1, 2, 3, 0] rfl)
  unfold M_hasWord_L2 at hit
  refine lv_iload_n hx hb dX4_hasWord_2 rfl (lv_at hl 3 rfl) ?_
  refine lv_aload_n hx hb dX4_hasWord_3 rfl (lv_at hl 0 rfl) ?_
  refine m_get X hM 3 q1647 rfl rfl (v := .int (mf σ 3)) rfl dX4_hasWord_4 ?_
  refine b_icmp_ge (tgt := 58) hx hb dX4_hasWord_7 (by decide) hit (fun c3 hit => ?_) (fun c3 hit => ?_)
  · refine lv_iconst (v := 0) hx hb dX4_hasWord_58 (by decide) ?_
    have he := o_in hit
    have he := hE1 _ he
    exact hend _ 0 _ _ rfl he dX4_hasWord_59
  · refine lv_aload_n hx hb dX4_hasWord_10 rfl (lv_at hl 0 rfl) ?_
    refine m_get X hM 9 q1653 rfl rfl (v := .ref (ad 9)) rfl dX4_hasWord_11 ?_
    refine lv_iload_n hx hb dX4_hasWord_14 rfl (lv_at hl 3 rfl) ?_
    obtain ⟨v4, ev4, hit⟩ := o_bind hit
    refine m_iald X hM 2 9 rfl rfl ev4 dX4_hasWord_15 ?_
    refine lv_iload_n hx hb dX4_hasWord_16 rfl (lv_at hl 1 rfl) ?_
    have hK30 : M_hasWord_J30 σ a0 a1 t1 = some x2 → ∀ (ls : Array Slot), lv_has ls 4 [(0, .ref o), (1, .int a0), (2, .int a1), (3, .int t1)] → W p l e R s m args below meth c s.heap [] 0 0 Q (F0 m 30 ls []) := by
      intro  hit ls hl
      unfold M_hasWord_J30 at hit
      refine lv_aload_n hx hb dX4_hasWord_30 rfl (lv_at hl 0 rfl) ?_
      refine m_get X hM 9 q1653 rfl rfl (v := .ref (ad 9)) rfl dX4_hasWord_31 ?_
      refine lv_iload_n hx hb dX4_hasWord_34 rfl (lv_at hl 3 rfl) ?_
      obtain ⟨v5, ev5, hit⟩ := o_bind hit
      refine m_iald X hM 2 9 rfl rfl ev5 dX4_hasWord_35 ?_
      refine lv_iload_n hx hb dX4_hasWord_36 rfl (lv_at hl 2 rfl) ?_
      refine b_icmp_ne (tgt := 52) hx hb dX4_hasWord_37 (by decide) hit (fun c6 hit => ?_) (fun c6 hit => ?_)
      · refine lv_iinc (k := 3) (v := (t1 + 1)) (lv' := [(3, .int (t1 + 1)), (0, .ref o), (1, .int a0), (2, .int a1)]) hx hb dX4_hasWord_52 hl rfl rfl (by decide) rfl (fun ls hl => ?_)
        refine lv_goto (tgt := 2) hx hb dX4_hasWord_55 (by decide) ?_
        have he := o_in hit
        exact hC1 _ he _ (lv_sub hl [1, 2, 3, 0] rfl)
      · refine lv_aload_n hx hb dX4_hasWord_40 rfl (lv_at hl 0 rfl) ?_
        refine m_get X hM 10 q1654 rfl rfl (v := .ref (ad 10)) rfl dX4_hasWord_41 ?_
        refine lv_iload_n hx hb dX4_hasWord_44 rfl (lv_at hl 3 rfl) ?_
        obtain ⟨v7, ev7, hit⟩ := o_bind hit
        refine m_iald X hM 3 10 rfl rfl ev7 dX4_hasWord_45 ?_
        refine lv_iload_n hx hb dX4_hasWord_46 rfl (lv_at hl 1 rfl) ?_
        refine b_icmp_ne (tgt := 52) hx hb dX4_hasWord_47 (by decide) hit (fun c8 hit => ?_) (fun c8 hit => ?_)
        · refine lv_iinc (k := 3) (v := (t1 + 1)) (lv' := [(3, .int (t1 + 1)), (0, .ref o), (1, .int a0), (2, .int a1)]) hx hb dX4_hasWord_52 hl rfl rfl (by decide) rfl (fun ls hl => ?_)
          refine lv_goto (tgt := 2) hx hb dX4_hasWord_55 (by decide) ?_
          have he := o_in hit
          exact hC1 _ he _ (lv_sub hl [1, 2, 3, 0] rfl)
        · refine lv_iconst (v := 1) hx hb dX4_hasWord_50 (by decide) ?_
          have he := o_in hit
          have he := hE1 _ he
          exact hend _ 1 _ _ rfl he dX4_hasWord_51
    refine b_icmp_ne (tgt := 30) hx hb dX4_hasWord_17 (by decide) hit (fun c9 hit => ?_) (fun c9 hit => ?_)
    · exact hK30  hit _ hl
    · refine lv_aload_n hx hb dX4_hasWord_20 rfl (lv_at hl 0 rfl) ?_
      refine m_get X hM 10 q1654 rfl rfl (v := .ref (ad 10)) rfl dX4_hasWord_21 ?_
      refine lv_iload_n hx hb dX4_hasWord_24 rfl (lv_at hl 3 rfl) ?_
      obtain ⟨v10, ev10, hit⟩ := o_bind hit
      refine m_iald X hM 3 10 rfl rfl ev10 dX4_hasWord_25 ?_
      refine lv_iload_n hx hb dX4_hasWord_26 rfl (lv_at hl 2 rfl) ?_
      refine b_icmp_eq (tgt := 50) hx hb dX4_hasWord_27 (by decide) hit (fun c11 hit => ?_) (fun c11 hit => ?_)
      · refine lv_iconst (v := 1) hx hb dX4_hasWord_50 (by decide) ?_
        have he := o_in hit
        have he := hE1 _ he
        exact hend _ 1 _ _ rfl he dX4_hasWord_51
      · exact hK30  hit _ hl
noncomputable def M_odd_L140 (a0 : Int32) (q2 : Int32 × MS) (t6 : Int32 × Int32) : Option ((Int32 × Int32) ⊕ (Int32 × MS)) :=
  if t6.2 < (mf q2.2 3) then
    (((if a0 = 1 then
        ((M_isWhole q2.2 t6.2).bind fun q17 =>
        if q17 = 0 then
          (some ((1 : Int32) <<< (t6.2 &&& 31)))
        else
          (some 0))
      else
        ((M_isWhole q2.2 t6.2).bind fun q11 =>
        if q11 = 0 then
          (some 0)
        else
          ((ald q2.2 9 t6.2).bind fun v13 =>
          (ald q2.2 10 t6.2).bind fun v14 =>
          (M_doesFit q2.2 0 v13 v14).bind fun q15 =>
          if q15 = 0 then
            (some ((1 : Int32) <<< (t6.2 &&& 31)))
          else
            (some 0))) : Option Int32)).bind fun r9 =>
    some (.inl ((t6.1 ||| r9), (t6.2 + 1))))
  else
    (some (.inr (t6.1, q2.2)))
noncomputable def M_odd_J106 (q2 : Int32 × MS) (t19 : Int32 × Int32) (t23 : Int32 × Int32) : Option (Int32) :=
  (M_hasWord q2.2 t19.2 t23.2).bind fun q29 =>
  if q29 = 0 then
    (some 1)
  else
    (some 0)
noncomputable def M_odd_L77 (q2 : Int32 × MS) (t19 : Int32 × Int32) (t23 : Int32 × Int32) : Option ((Int32 × Int32) ⊕ Int32) :=
  if t23.2 < t19.2 then
    ((M_doesFit q2.2 0 t19.2 t23.2).bind fun q27 =>
    ((if q27 = 0 then
        ((M_doesFit q2.2 0 t23.2 t19.2).bind fun q32 =>
        if q32 = 0 then
          (some 0)
        else
          (M_odd_J106 q2 t19 t23))
      else
        (M_odd_J106 q2 t19 t23) : Option Int32)).bind fun r28 =>
    some (.inl ((t23.1 + r28), (t23.2 + 1))))
  else
    (some (.inr t23.1))
noncomputable def M_odd_L66 (q2 : Int32 × MS) (t19 : Int32 × Int32) : Option ((Int32 × Int32) ⊕ Int32) :=
  if t19.2 < (mf q2.2 1) then
    ((o_loop (M_odd_L77 q2 t19) (t19.1, 0)).bind fun r25 =>
    some (.inl (r25, (t19.2 + 1))))
  else
    (some (.inr t19.1))
noncomputable def M_odd_L24 (q2 : Int32 × MS) (t34 : Int32 × Int32) : Option ((Int32 × Int32) ⊕ Int32) :=
  if t34.2 < (mf q2.2 1) then
    ((M_isOrphan q2.2 t34.2).bind fun q38 =>
    ((if q38 = 0 then
        (some 0)
      else
        (some ((1 : Int32) <<< (t34.2 &&& 31))) : Option Int32)).bind fun r39 =>
    some (.inl ((t34.1 ||| r39), (t34.2 + 1))))
  else
    (some (.inr t34.1))
noncomputable def M_odd (σ : MS) (a0 : Int32) : Option (Int32 × MS) :=
  (pf σ 0 0).bind fun s1 =>
  (M_isWhat s1 a0 3).bind fun q2 =>
  if q2.1 = 0 then
    (some (0, q2.2))
  else
    (if a0 = 0 then
      ((o_loop (M_odd_L24 q2) (0, 0)).bind fun r36 =>
      some (r36, q2.2))
    else
      (if a0 = 3 then
        ((o_loop (M_odd_L66 q2) (0, 0)).bind fun r21 =>
        some (r21, q2.2))
      else
        (o_loop (M_odd_L140 a0 q2) (0, 0))))
theorem nm_X4_odd : kNm yX4_odd RX4 1 := by unfold kNm; decide +kernel
set_option maxHeartbeats 4000000 in
set_option maxRecDepth 100000 in
theorem wM_odd (l : Launch) (G : va_G) (dT : Nat → ClassId) (o : Nat) (ad : Nat → Nat) (σ : MS) (a0 : Int32) (z : Int32 × MS) (h : M_odd σ a0 = some z) : Met l yX4_odd (ws_ yX4_odd cX4_odd 5 (some .int)) (kRm 5 114) (mPc G dT o ad σ [.int a0]) (va_Qi (fun r (_ : Unit) => r = z.1) (fun _ t => MH G dT o ad z.2 t.heap) (mAd o ad)) 0 0 (mAd o ad) := by
  refine m_startNi (cc := cX4_odd) (ty := .int) rfl rfl rfl (fun p e R s m args below meth c Q ls X hR hM hS hl hend => ?_)
  have hx := X.1.1
  have hb := X.1.2.1
  have hit := h
  clear h
  unfold M_odd at hit
  have hl : lv_has ls 5 [(0, .ref o), (1, .int a0)] := hl
  refine lv_aload_n hx hb dX4_odd_0 rfl (lv_at hl 0 rfl) ?_
  refine lv_iconst (v := 0) hx hb dX4_odd_1 (by decide) ?_
  obtain ⟨s1, es1, hit⟩ := o_bind hit
  refine m_put X hM hS 0 q1644 rfl rfl (ty := .int) rfl rfl rfl es1 dX4_odd_2 (fun H locs hM hS => ?_)
  refine lv_aload_n hx hb dX4_odd_5 rfl (lv_at hl 0 rfl) ?_
  refine lv_iload_n hx hb dX4_odd_6 rfl (lv_at hl 1 rfl) ?_
  refine lv_iconst (v := 3) hx hb dX4_odd_7 (by decide) ?_
  obtain ⟨q2, eq2, hit⟩ := o_bind hit
  refine m_cNi X hM hS (wM_isWhat l G dT o ad _ _ _ _ eq2) nm_X4_isWhat q2032 q2034 q141 q2035 qs93 ⟨Nat.le_trans (Nat.le_of_ble_eq_true rfl) hR.1, Nat.le_trans (Nat.le_of_ble_eq_true rfl) hR.2⟩ rfl rfl hl.1 (lv_room (Nat.le_of_ble_eq_true rfl)) dX4_odd_8 (fun H locs hM hS => ?_)
  refine b_if_ne (tgt := 16) hx hb dX4_odd_11 (by decide) hit (fun c3 hit => ?_) (fun c3 hit => ?_)
  · refine lv_iconst (v := 0) hx hb dX4_odd_16 (by decide) ?_
    refine lv_istore_n (lv' := [(2, .int 0), (0, .ref o), (1, .int a0)]) hx hb dX4_odd_17 rfl hl (by decide) rfl (fun ls hl => ?_)
    refine lv_iload_n hx hb dX4_odd_18 rfl (lv_at hl 2 rfl) ?_
    refine b_if_ne (tgt := 59) hx hb dX4_odd_19 (by decide) hit (fun c4 hit => ?_) (fun c4 hit => ?_)
    · refine lv_iload_n hx hb dX4_odd_59 rfl (lv_at hl 2 rfl) ?_
      refine lv_iconst (v := 3) hx hb dX4_odd_60 (by decide) ?_
      refine b_icmp_ne (tgt := 138) hx hb dX4_odd_61 (by decide) hit (fun c5 hit => ?_) (fun c5 hit => ?_)
      · refine lv_iconst (v := 0) hx hb dX4_odd_138 (by decide) ?_
        refine lv_istore_n (lv' := [(3, .int 0), (2, .int 0), (0, .ref o), (1, .int a0)]) hx hb dX4_odd_139 rfl hl (by decide) rfl (fun ls hl => ?_)
        refine o_rec (P := fun t6 => ∀ (H : Heap) (locs : List Loc) (ls : Array Slot), MH G dT o ad q2.2 H → va_S (mAd o ad) s.heap H locs → lv_has ls 5 [(0, .ref o), (1, .int a0), (2, .int t6.1), (3, .int t6.2)] → W p l e R s m args below meth c H locs 0 0 Q (F0 m 140 ls [])) (fun t6 x7 hit hC6 hE6 H locs ls hM hS hl => ?_) _ hit _ _ _ hM hS (lv_sub hl [2, 3, 1, 0] rfl)
        unfold M_odd_L140 at hit
        refine lv_iload_n hx hb dX4_odd_140 rfl (lv_at hl 3 rfl) ?_
        refine lv_aload_n hx hb dX4_odd_141 rfl (lv_at hl 0 rfl) ?_
        refine m_get X hM 3 q1647 rfl rfl (v := .int (mf q2.2 3)) rfl dX4_odd_142 ?_
        refine b_icmp_ge (tgt := 208) hx hb dX4_odd_145 (by decide) hit (fun c8 hit => ?_) (fun c8 hit => ?_)
        · refine lv_iload_n hx hb dX4_odd_208 rfl (lv_at hl 2 rfl) ?_
          have he := o_in hit
          have he := hE6 _ he
          exact hend _ t6.1 _ _ _ _ _ rfl he hM hS dX4_odd_209
        · refine lv_iload_n hx hb dX4_odd_148 rfl (lv_at hl 2 rfl) ?_
          refine lv_iload_n hx hb dX4_odd_149 rfl (lv_at hl 1 rfl) ?_
          refine lv_iconst (v := 1) hx hb dX4_odd_150 (by decide) ?_
          obtain ⟨r9, er9, hit⟩ := o_bind hit
          have hr9 : ∀ (H : Heap) (locs : List Loc) (ls : Array Slot), MH G dT o ad q2.2 H → va_S (mAd o ad) s.heap H locs → lv_has ls 5 [(0, .ref o), (1, .int a0), (3, .int t6.2)] → W p l e R s m args below meth c H locs 0 0 Q (F0 m 200 ls [.int r9, .int t6.1]) := by
            intro H locs ls hM hS hl
            refine lv_ior hx hb dX4_odd_200 ?_
            refine lv_istore_n (lv' := [(2, .int (t6.1 ||| r9)), (0, .ref o), (1, .int a0), (3, .int t6.2)]) hx hb dX4_odd_201 rfl hl (by decide) rfl (fun ls hl => ?_)
            refine lv_iinc (k := 3) (v := (t6.2 + 1)) (lv' := [(3, .int (t6.2 + 1)), (2, .int (t6.1 ||| r9)), (0, .ref o), (1, .int a0)]) hx hb dX4_odd_202 hl rfl rfl (by decide) rfl (fun ls hl => ?_)
            refine lv_goto (tgt := 140) hx hb dX4_odd_205 (by decide) ?_
            have he := o_in hit
            exact hC6 _ he _ _ _ hM hS (lv_sub hl [2, 3, 1, 0] rfl)
          have hit := er9
          refine b_icmp_ne (tgt := 165) hx hb dX4_odd_151 (by decide) hit (fun c10 hit => ?_) (fun c10 hit => ?_)
          · refine lv_aload_n hx hb dX4_odd_165 rfl (lv_at hl 0 rfl) ?_
            refine lv_iload_n hx hb dX4_odd_166 rfl (lv_at hl 3 rfl) ?_
            obtain ⟨q11, eq11, hit⟩ := o_bind hit
            refine m_cR X hM (wM_isWhole l G dT o ad _ _ _ eq11) nm_X4_isWhole q2104 q2106 q141 q2107 qs108 ⟨Nat.le_trans (Nat.le_of_ble_eq_true rfl) hR.1, Nat.le_trans (Nat.le_of_ble_eq_true rfl) hR.2⟩ rfl rfl hl.1 (lv_room (Nat.le_of_ble_eq_true rfl)) dX4_odd_167 ?_
            refine b_if_eq (tgt := 199) hx hb dX4_odd_170 (by decide) hit (fun c12 hit => ?_) (fun c12 hit => ?_)
            · refine lv_iconst (v := 0) hx hb dX4_odd_199 (by decide) ?_
              have he := o_in hit
              subst he
              exact hr9 _ _ _ hM hS (lv_sub hl [0, 1, 3] rfl)
            · refine lv_aload_n hx hb dX4_odd_173 rfl (lv_at hl 0 rfl) ?_
              refine lv_iconst (v := 0) hx hb dX4_odd_174 (by decide) ?_
              refine lv_aload_n hx hb dX4_odd_175 rfl (lv_at hl 0 rfl) ?_
              refine m_get X hM 9 q1653 rfl rfl (v := .ref (ad 9)) rfl dX4_odd_176 ?_
              refine lv_iload_n hx hb dX4_odd_179 rfl (lv_at hl 3 rfl) ?_
              obtain ⟨v13, ev13, hit⟩ := o_bind hit
              refine m_iald X hM 2 9 rfl rfl ev13 dX4_odd_180 ?_
              refine lv_aload_n hx hb dX4_odd_181 rfl (lv_at hl 0 rfl) ?_
              refine m_get X hM 10 q1654 rfl rfl (v := .ref (ad 10)) rfl dX4_odd_182 ?_
              refine lv_iload_n hx hb dX4_odd_185 rfl (lv_at hl 3 rfl) ?_
              obtain ⟨v14, ev14, hit⟩ := o_bind hit
              refine m_iald X hM 3 10 rfl rfl ev14 dX4_odd_186 ?_
              obtain ⟨q15, eq15, hit⟩ := o_bind hit
              refine m_cR X hM (wM_doesFit l G dT o ad _ _ _ _ _ eq15) nm_X4_doesFit q2010 q2012 q141 q2013 qs90 ⟨Nat.le_trans (Nat.le_of_ble_eq_true rfl) hR.1, Nat.le_trans (Nat.le_of_ble_eq_true rfl) hR.2⟩ rfl rfl hl.1 (lv_room (Nat.le_of_ble_eq_true rfl)) dX4_odd_187 ?_
              refine b_if_ne (tgt := 199) hx hb dX4_odd_190 (by decide) hit (fun c16 hit => ?_) (fun c16 hit => ?_)
              · refine lv_iconst (v := 0) hx hb dX4_odd_199 (by decide) ?_
                have he := o_in hit
                subst he
                exact hr9 _ _ _ hM hS (lv_sub hl [0, 1, 3] rfl)
              · refine lv_iconst (v := 1) hx hb dX4_odd_193 (by decide) ?_
                refine lv_iload_n hx hb dX4_odd_194 rfl (lv_at hl 3 rfl) ?_
                refine lv_ishl hx hb dX4_odd_195 ?_
                refine lv_goto (tgt := 200) hx hb dX4_odd_196 (by decide) ?_
                have he := o_in hit
                subst he
                exact hr9 _ _ _ hM hS (lv_sub hl [0, 1, 3] rfl)
          · refine lv_aload_n hx hb dX4_odd_154 rfl (lv_at hl 0 rfl) ?_
            refine lv_iload_n hx hb dX4_odd_155 rfl (lv_at hl 3 rfl) ?_
            obtain ⟨q17, eq17, hit⟩ := o_bind hit
            refine m_cR X hM (wM_isWhole l G dT o ad _ _ _ eq17) nm_X4_isWhole q2104 q2106 q141 q2107 qs108 ⟨Nat.le_trans (Nat.le_of_ble_eq_true rfl) hR.1, Nat.le_trans (Nat.le_of_ble_eq_true rfl) hR.2⟩ rfl rfl hl.1 (lv_room (Nat.le_of_ble_eq_true rfl)) dX4_odd_156 ?_
            refine b_if_ne (tgt := 199) hx hb dX4_odd_159 (by decide) hit (fun c18 hit => ?_) (fun c18 hit => ?_)
            · refine lv_iconst (v := 0) hx hb dX4_odd_199 (by decide) ?_
              have he := o_in hit
              subst he
              exact hr9 _ _ _ hM hS (lv_sub hl [0, 1, 3] rfl)
            · refine lv_goto (tgt := 193) hx hb dX4_odd_162 (by decide) ?_
              refine lv_iconst (v := 1) hx hb dX4_odd_193 (by decide) ?_
              refine lv_iload_n hx hb dX4_odd_194 rfl (lv_at hl 3 rfl) ?_
              refine lv_ishl hx hb dX4_odd_195 ?_
              refine lv_goto (tgt := 200) hx hb dX4_odd_196 (by decide) ?_
              have he := o_in hit
              subst he
              exact hr9 _ _ _ hM hS (lv_sub hl [0, 1, 3] rfl)
      · refine lv_iconst (v := 0) hx hb dX4_odd_64 (by decide) ?_
        refine lv_istore_n (lv' := [(3, .int 0), (2, .int 0), (0, .ref o), (1, .int a0)]) hx hb dX4_odd_65 rfl hl (by decide) rfl (fun ls hl => ?_)
        obtain ⟨r21, er21, hit⟩ := o_bind hit
        have hr21 : ∀ (H : Heap) (locs : List Loc) (ls : Array Slot), MH G dT o ad q2.2 H → va_S (mAd o ad) s.heap H locs → lv_has ls 5 [(2, .int r21)] → W p l e R s m args below meth c H locs 0 0 Q (F0 m 135 ls []) := by
          intro H locs ls hM hS hl
          refine lv_goto (tgt := 208) hx hb dX4_odd_135 (by decide) ?_
          refine lv_iload_n hx hb dX4_odd_208 rfl (lv_at hl 0 rfl) ?_
          have he := o_in hit
          exact hend _ r21 _ _ _ _ _ rfl he hM hS dX4_odd_209
        refine o_rec (P := fun t19 => ∀ (H : Heap) (locs : List Loc) (ls : Array Slot), MH G dT o ad q2.2 H → va_S (mAd o ad) s.heap H locs → lv_has ls 5 [(0, .ref o), (2, .int t19.1), (3, .int t19.2)] → W p l e R s m args below meth c H locs 0 0 Q (F0 m 66 ls [])) (fun t19 x20 hit hC19 hE19 H locs ls hM hS hl => ?_) _ er21 _ _ _ hM hS (lv_sub hl [2, 1, 0] rfl)
        unfold M_odd_L66 at hit
        refine lv_iload_n hx hb dX4_odd_66 rfl (lv_at hl 2 rfl) ?_
        refine lv_aload_n hx hb dX4_odd_67 rfl (lv_at hl 0 rfl) ?_
        refine m_get X hM 1 q1645 rfl rfl (v := .int (mf q2.2 1)) rfl dX4_odd_68 ?_
        refine b_icmp_ge (tgt := 135) hx hb dX4_odd_71 (by decide) hit (fun c22 hit => ?_) (fun c22 hit => ?_)
        · have he := o_in hit
          have he := hE19 _ he
          subst he
          exact hr21 _ _ _ hM hS (lv_sub hl [1] rfl)
        · refine lv_iconst (v := 0) hx hb dX4_odd_74 (by decide) ?_
          refine lv_istore (lv' := [(4, .int 0), (0, .ref o), (2, .int t19.1), (3, .int t19.2)]) hx hb dX4_odd_75 hl (by decide) rfl (fun ls hl => ?_)
          obtain ⟨r25, er25, hit⟩ := o_bind hit
          have hr25 : ∀ (H : Heap) (locs : List Loc) (ls : Array Slot), MH G dT o ad q2.2 H → va_S (mAd o ad) s.heap H locs → lv_has ls 5 [(0, .ref o), (3, .int t19.2), (2, .int r25)] → W p l e R s m args below meth c H locs 0 0 Q (F0 m 129 ls []) := by
            intro H locs ls hM hS hl
            refine lv_iinc (k := 1) (v := (t19.2 + 1)) (lv' := [(3, .int (t19.2 + 1)), (0, .ref o), (2, .int r25)]) hx hb dX4_odd_129 hl rfl rfl (by decide) rfl (fun ls hl => ?_)
            refine lv_goto (tgt := 66) hx hb dX4_odd_132 (by decide) ?_
            have he := o_in hit
            exact hC19 _ he _ _ _ hM hS (lv_sub hl [1, 2, 0] rfl)
          refine o_rec (P := fun t23 => ∀ (H : Heap) (locs : List Loc) (ls : Array Slot), MH G dT o ad q2.2 H → va_S (mAd o ad) s.heap H locs → lv_has ls 5 [(0, .ref o), (3, .int t19.2), (2, .int t23.1), (4, .int t23.2)] → W p l e R s m args below meth c H locs 0 0 Q (F0 m 77 ls [])) (fun t23 x24 hit hC23 hE23 H locs ls hM hS hl => ?_) _ er25 _ _ _ hM hS (lv_sub hl [1, 3, 2, 0] rfl)
          unfold M_odd_L77 at hit
          refine lv_iload hx hb dX4_odd_77 (lv_at hl 3 rfl) ?_
          refine lv_iload_n hx hb dX4_odd_79 rfl (lv_at hl 1 rfl) ?_
          refine b_icmp_ge (tgt := 129) hx hb dX4_odd_80 (by decide) hit (fun c26 hit => ?_) (fun c26 hit => ?_)
          · have he := o_in hit
            have he := hE23 _ he
            subst he
            exact hr25 _ _ _ hM hS (lv_sub hl [0, 1, 2] rfl)
          · refine lv_iload_n hx hb dX4_odd_83 rfl (lv_at hl 2 rfl) ?_
            refine lv_aload_n hx hb dX4_odd_84 rfl (lv_at hl 0 rfl) ?_
            refine lv_iconst (v := 0) hx hb dX4_odd_85 (by decide) ?_
            refine lv_iload_n hx hb dX4_odd_86 rfl (lv_at hl 1 rfl) ?_
            refine lv_iload hx hb dX4_odd_87 (lv_at hl 3 rfl) ?_
            obtain ⟨q27, eq27, hit⟩ := o_bind hit
            refine m_cR X hM (wM_doesFit l G dT o ad _ _ _ _ _ eq27) nm_X4_doesFit q2010 q2012 q141 q2013 qs90 ⟨Nat.le_trans (Nat.le_of_ble_eq_true rfl) hR.1, Nat.le_trans (Nat.le_of_ble_eq_true rfl) hR.2⟩ rfl rfl hl.1 (lv_room (Nat.le_of_ble_eq_true rfl)) dX4_odd_89 ?_
            obtain ⟨r28, er28, hit⟩ := o_bind hit
            have hr28 : ∀ (H : Heap) (locs : List Loc) (ls : Array Slot), MH G dT o ad q2.2 H → va_S (mAd o ad) s.heap H locs → lv_has ls 5 [(0, .ref o), (3, .int t19.2), (4, .int t23.2)] → W p l e R s m args below meth c H locs 0 0 Q (F0 m 121 ls [.int r28, .int t23.1]) := by
              intro H locs ls hM hS hl
              refine lv_iadd hx hb dX4_odd_121 ?_
              refine lv_istore_n (lv' := [(2, .int (t23.1 + r28)), (0, .ref o), (3, .int t19.2), (4, .int t23.2)]) hx hb dX4_odd_122 rfl hl (by decide) rfl (fun ls hl => ?_)
              refine lv_iinc (k := 3) (v := (t23.2 + 1)) (lv' := [(4, .int (t23.2 + 1)), (2, .int (t23.1 + r28)), (0, .ref o), (3, .int t19.2)]) hx hb dX4_odd_123 hl rfl rfl (by decide) rfl (fun ls hl => ?_)
              refine lv_goto (tgt := 77) hx hb dX4_odd_126 (by decide) ?_
              have he := o_in hit
              exact hC23 _ he _ _ _ hM hS (lv_sub hl [2, 3, 1, 0] rfl)
            have hit := er28
            have hK106 : M_odd_J106 q2 t19 t23 = some r28 → ∀ (H : Heap) (locs : List Loc) (ls : Array Slot), MH G dT o ad q2.2 H → va_S (mAd o ad) s.heap H locs → lv_has ls 5 [(0, .ref o), (3, .int t19.2), (4, .int t23.2)] → W p l e R s m args below meth c H locs 0 0 Q (F0 m 106 ls [.int t23.1]) := by
              intro  hit H locs ls hM hS hl
              unfold M_odd_J106 at hit
              refine lv_aload_n hx hb dX4_odd_106 rfl (lv_at hl 0 rfl) ?_
              refine lv_iload_n hx hb dX4_odd_107 rfl (lv_at hl 1 rfl) ?_
              refine lv_iload hx hb dX4_odd_108 (lv_at hl 2 rfl) ?_
              obtain ⟨q29, eq29, hit⟩ := o_bind hit
              refine m_cR X hM (wM_hasWord l G dT o ad _ _ _ _ eq29) nm_X4_hasWord q2316 q2318 q141 q2319 qs132 ⟨Nat.le_trans (Nat.le_of_ble_eq_true rfl) hR.1, Nat.le_trans (Nat.le_of_ble_eq_true rfl) hR.2⟩ rfl rfl hl.1 (lv_room (Nat.le_of_ble_eq_true rfl)) dX4_odd_110 ?_
              refine b_if_ne (tgt := 120) hx hb dX4_odd_113 (by decide) hit (fun c30 hit => ?_) (fun c30 hit => ?_)
              · refine lv_iconst (v := 0) hx hb dX4_odd_120 (by decide) ?_
                have he := o_in hit
                subst he
                exact hr28 _ _ _ hM hS hl
              · refine lv_iconst (v := 1) hx hb dX4_odd_116 (by decide) ?_
                refine lv_goto (tgt := 121) hx hb dX4_odd_117 (by decide) ?_
                have he := o_in hit
                subst he
                exact hr28 _ _ _ hM hS hl
            refine b_if_ne (tgt := 106) hx hb dX4_odd_92 (by decide) hit (fun c31 hit => ?_) (fun c31 hit => ?_)
            · exact hK106  hit _ _ _ hM hS (lv_sub hl [0, 1, 3] rfl)
            · refine lv_aload_n hx hb dX4_odd_95 rfl (lv_at hl 0 rfl) ?_
              refine lv_iconst (v := 0) hx hb dX4_odd_96 (by decide) ?_
              refine lv_iload hx hb dX4_odd_97 (lv_at hl 3 rfl) ?_
              refine lv_iload_n hx hb dX4_odd_99 rfl (lv_at hl 1 rfl) ?_
              obtain ⟨q32, eq32, hit⟩ := o_bind hit
              refine m_cR X hM (wM_doesFit l G dT o ad _ _ _ _ _ eq32) nm_X4_doesFit q2010 q2012 q141 q2013 qs90 ⟨Nat.le_trans (Nat.le_of_ble_eq_true rfl) hR.1, Nat.le_trans (Nat.le_of_ble_eq_true rfl) hR.2⟩ rfl rfl hl.1 (lv_room (Nat.le_of_ble_eq_true rfl)) dX4_odd_100 ?_
              refine b_if_eq (tgt := 120) hx hb dX4_odd_103 (by decide) hit (fun c33 hit => ?_) (fun c33 hit => ?_)
              · refine lv_iconst (v := 0) hx hb dX4_odd_120 (by decide) ?_
                have he := o_in hit
                subst he
                exact hr28 _ _ _ hM hS (lv_sub hl [0, 1, 3] rfl)
              · exact hK106  hit _ _ _ hM hS (lv_sub hl [0, 1, 3] rfl)
    · refine lv_iconst (v := 0) hx hb dX4_odd_22 (by decide) ?_
      refine lv_istore_n (lv' := [(3, .int 0), (2, .int 0), (0, .ref o), (1, .int a0)]) hx hb dX4_odd_23 rfl hl (by decide) rfl (fun ls hl => ?_)
      obtain ⟨r36, er36, hit⟩ := o_bind hit
      have hr36 : ∀ (H : Heap) (locs : List Loc) (ls : Array Slot), MH G dT o ad q2.2 H → va_S (mAd o ad) s.heap H locs → lv_has ls 5 [(2, .int r36)] → W p l e R s m args below meth c H locs 0 0 Q (F0 m 56 ls []) := by
        intro H locs ls hM hS hl
        refine lv_goto (tgt := 208) hx hb dX4_odd_56 (by decide) ?_
        refine lv_iload_n hx hb dX4_odd_208 rfl (lv_at hl 0 rfl) ?_
        have he := o_in hit
        exact hend _ r36 _ _ _ _ _ rfl he hM hS dX4_odd_209
      refine o_rec (P := fun t34 => ∀ (H : Heap) (locs : List Loc) (ls : Array Slot), MH G dT o ad q2.2 H → va_S (mAd o ad) s.heap H locs → lv_has ls 5 [(0, .ref o), (2, .int t34.1), (3, .int t34.2)] → W p l e R s m args below meth c H locs 0 0 Q (F0 m 24 ls [])) (fun t34 x35 hit hC34 hE34 H locs ls hM hS hl => ?_) _ er36 _ _ _ hM hS (lv_sub hl [2, 1, 0] rfl)
      unfold M_odd_L24 at hit
      refine lv_iload_n hx hb dX4_odd_24 rfl (lv_at hl 2 rfl) ?_
      refine lv_aload_n hx hb dX4_odd_25 rfl (lv_at hl 0 rfl) ?_
      refine m_get X hM 1 q1645 rfl rfl (v := .int (mf q2.2 1)) rfl dX4_odd_26 ?_
      refine b_icmp_ge (tgt := 56) hx hb dX4_odd_29 (by decide) hit (fun c37 hit => ?_) (fun c37 hit => ?_)
      · have he := o_in hit
        have he := hE34 _ he
        subst he
        exact hr36 _ _ _ hM hS (lv_sub hl [1] rfl)
      · refine lv_iload_n hx hb dX4_odd_32 rfl (lv_at hl 1 rfl) ?_
        refine lv_aload_n hx hb dX4_odd_33 rfl (lv_at hl 0 rfl) ?_
        refine lv_iload_n hx hb dX4_odd_34 rfl (lv_at hl 2 rfl) ?_
        obtain ⟨q38, eq38, hit⟩ := o_bind hit
        refine m_cR X hM (wM_isOrphan l G dT o ad _ _ _ eq38) nm_X4_isOrphan q2312 q2314 q141 q2315 qs131 ⟨Nat.le_trans (Nat.le_of_ble_eq_true rfl) hR.1, Nat.le_trans (Nat.le_of_ble_eq_true rfl) hR.2⟩ rfl rfl hl.1 (lv_room (Nat.le_of_ble_eq_true rfl)) dX4_odd_35 ?_
        obtain ⟨r39, er39, hit⟩ := o_bind hit
        have hr39 : ∀ (H : Heap) (locs : List Loc) (ls : Array Slot), MH G dT o ad q2.2 H → va_S (mAd o ad) s.heap H locs → lv_has ls 5 [(0, .ref o), (3, .int t34.2)] → W p l e R s m args below meth c H locs 0 0 Q (F0 m 48 ls [.int r39, .int t34.1]) := by
          intro H locs ls hM hS hl
          refine lv_ior hx hb dX4_odd_48 ?_
          refine lv_istore_n (lv' := [(2, .int (t34.1 ||| r39)), (0, .ref o), (3, .int t34.2)]) hx hb dX4_odd_49 rfl hl (by decide) rfl (fun ls hl => ?_)
          refine lv_iinc (k := 2) (v := (t34.2 + 1)) (lv' := [(3, .int (t34.2 + 1)), (2, .int (t34.1 ||| r39)), (0, .ref o)]) hx hb dX4_odd_50 hl rfl rfl (by decide) rfl (fun ls hl => ?_)
          refine lv_goto (tgt := 24) hx hb dX4_odd_53 (by decide) ?_
          have he := o_in hit
          exact hC34 _ he _ _ _ hM hS (lv_sub hl [2, 1, 0] rfl)
        have hit := er39
        refine b_if_eq (tgt := 47) hx hb dX4_odd_38 (by decide) hit (fun c40 hit => ?_) (fun c40 hit => ?_)
        · refine lv_iconst (v := 0) hx hb dX4_odd_47 (by decide) ?_
          have he := o_in hit
          subst he
          exact hr39 _ _ _ hM hS (lv_sub hl [0, 2] rfl)
        · refine lv_iconst (v := 1) hx hb dX4_odd_41 (by decide) ?_
          refine lv_iload_n hx hb dX4_odd_42 rfl (lv_at hl 2 rfl) ?_
          refine lv_ishl hx hb dX4_odd_43 ?_
          refine lv_goto (tgt := 48) hx hb dX4_odd_44 (by decide) ?_
          have he := o_in hit
          subst he
          exact hr39 _ _ _ hM hS (lv_sub hl [0, 2] rfl)
  · refine lv_iconst (v := 0) hx hb dX4_odd_14 (by decide) ?_
    have he := o_in hit
    exact hend _ 0 _ _ _ _ _ rfl he hM hS dX4_odd_15
noncomputable def M_far (σ : MS) (a0 : Int32) (a1 : Int32) : Option (Int32 × MS) :=
  (pf σ 0 0).bind fun s1 =>
  (M_isSheet s1 a0).bind fun q2 =>
  if q2.1 = 0 then
    (some (0, q2.2))
  else
    ((M_isSheet q2.2 a1).bind fun q4 =>
    if q4.1 = 0 then
      (some (0, q4.2))
    else
      ((M_offBy q4.2 0 a0 a1).bind fun q6 =>
      some (q6, q4.2)))
theorem nm_X4_far : kNm yX4_far RX4 2 := by unfold kNm; decide +kernel
set_option maxHeartbeats 4000000 in
set_option maxRecDepth 100000 in
theorem wM_far (l : Launch) (G : va_G) (dT : Nat → ClassId) (o : Nat) (ad : Nat → Nat) (σ : MS) (a0 : Int32) (a1 : Int32) (z : Int32 × MS) (h : M_far σ a0 a1 = some z) : Met l yX4_far (ws_ yX4_far cX4_far 3 (some .int)) (kRm 2 45) (mPc G dT o ad σ [.int a0, .int a1]) (va_Qi (fun r (_ : Unit) => r = z.1) (fun _ t => MH G dT o ad z.2 t.heap) (mAd o ad)) 0 0 (mAd o ad) := by
  refine m_startNi (cc := cX4_far) (ty := .int) rfl rfl rfl (fun p e R s m args below meth c Q ls X hR hM hS hl hend => ?_)
  have hx := X.1.1
  have hb := X.1.2.1
  have hit := h
  clear h
  unfold M_far at hit
  have hl : lv_has ls 3 [(0, .ref o), (1, .int a0), (2, .int a1)] := hl
  refine lv_aload_n hx hb dX4_far_0 rfl (lv_at hl 0 rfl) ?_
  refine lv_iconst (v := 0) hx hb dX4_far_1 (by decide) ?_
  obtain ⟨s1, es1, hit⟩ := o_bind hit
  refine m_put X hM hS 0 q1644 rfl rfl (ty := .int) rfl rfl rfl es1 dX4_far_2 (fun H locs hM hS => ?_)
  refine lv_aload_n hx hb dX4_far_5 rfl (lv_at hl 0 rfl) ?_
  refine lv_iload_n hx hb dX4_far_6 rfl (lv_at hl 1 rfl) ?_
  obtain ⟨q2, eq2, hit⟩ := o_bind hit
  refine m_cNi X hM hS (wM_isSheet l G dT o ad _ _ _ eq2) nm_X4_isSheet q2028 q2030 q141 q2031 qs92 ⟨Nat.le_trans (Nat.le_of_ble_eq_true rfl) hR.1, Nat.le_trans (Nat.le_of_ble_eq_true rfl) hR.2⟩ rfl rfl hl.1 (lv_room (Nat.le_of_ble_eq_true rfl)) dX4_far_7 (fun H locs hM hS => ?_)
  refine b_if_eq (tgt := 31) hx hb dX4_far_10 (by decide) hit (fun c3 hit => ?_) (fun c3 hit => ?_)
  · refine lv_iconst (v := 0) hx hb dX4_far_31 (by decide) ?_
    have he := o_in hit
    exact hend _ 0 _ _ _ _ _ rfl he hM hS dX4_far_32
  · refine lv_aload_n hx hb dX4_far_13 rfl (lv_at hl 0 rfl) ?_
    refine lv_iload_n hx hb dX4_far_14 rfl (lv_at hl 2 rfl) ?_
    obtain ⟨q4, eq4, hit⟩ := o_bind hit
    refine m_cNi X hM hS (wM_isSheet l G dT o ad _ _ _ eq4) nm_X4_isSheet q2028 q2030 q141 q2031 qs92 ⟨Nat.le_trans (Nat.le_of_ble_eq_true rfl) hR.1, Nat.le_trans (Nat.le_of_ble_eq_true rfl) hR.2⟩ rfl rfl hl.1 (lv_room (Nat.le_of_ble_eq_true rfl)) dX4_far_15 (fun H locs hM hS => ?_)
    refine b_if_eq (tgt := 31) hx hb dX4_far_18 (by decide) hit (fun c5 hit => ?_) (fun c5 hit => ?_)
    · refine lv_iconst (v := 0) hx hb dX4_far_31 (by decide) ?_
      have he := o_in hit
      exact hend _ 0 _ _ _ _ _ rfl he hM hS dX4_far_32
    · refine lv_aload_n hx hb dX4_far_21 rfl (lv_at hl 0 rfl) ?_
      refine lv_iconst (v := 0) hx hb dX4_far_22 (by decide) ?_
      refine lv_iload_n hx hb dX4_far_23 rfl (lv_at hl 1 rfl) ?_
      refine lv_iload_n hx hb dX4_far_24 rfl (lv_at hl 2 rfl) ?_
      obtain ⟨q6, eq6, hit⟩ := o_bind hit
      refine m_cR X hM (wM_offBy l G dT o ad _ _ _ _ _ eq6) nm_X4_offBy q2014 q2016 q141 q2017 qs91 ⟨Nat.le_trans (Nat.le_of_ble_eq_true rfl) hR.1, Nat.le_trans (Nat.le_of_ble_eq_true rfl) hR.2⟩ rfl rfl hl.1 (lv_room (Nat.le_of_ble_eq_true rfl)) dX4_far_25 ?_
      refine lv_goto (tgt := 32) hx hb dX4_far_28 (by decide) ?_
      have he := o_in hit
      exact hend _ q6 _ _ _ _ _ rfl he hM hS dX4_far_32
noncomputable def M_unread (σ : MS) (a0 : Int32) : Option (Int32 × MS) :=
  (pf σ 0 0).bind fun s1 =>
  (M_isDays s1 a0 0 1).bind fun q2 =>
  if q2.1 = 0 then
    (some (0, q2.2))
  else
    ((M_goesTo q2.2 a0).bind fun q4 =>
    (M_everybody q4).bind fun q5 =>
    (M_knownBy q4 34 q5).bind fun q6 =>
    (M_bits q6).bind fun q7 =>
    some (((mf q4 3) - q7), q4))
theorem nm_X4_unread : kNm yX4_unread RX4 1 := by unfold kNm; decide +kernel
set_option maxHeartbeats 4000000 in
set_option maxRecDepth 100000 in
theorem wM_unread (l : Launch) (G : va_G) (dT : Nat → ClassId) (o : Nat) (ad : Nat → Nat) (σ : MS) (a0 : Int32) (z : Int32 × MS) (h : M_unread σ a0 = some z) : Met l yX4_unread (ws_ yX4_unread cX4_unread 2 (some .int)) (kRm 8 181) (mPc G dT o ad σ [.int a0]) (va_Qi (fun r (_ : Unit) => r = z.1) (fun _ t => MH G dT o ad z.2 t.heap) (mAd o ad)) 0 0 (mAd o ad) := by
  refine m_startNi (cc := cX4_unread) (ty := .int) rfl rfl rfl (fun p e R s m args below meth c Q ls X hR hM hS hl hend => ?_)
  have hx := X.1.1
  have hb := X.1.2.1
  have hit := h
  clear h
  unfold M_unread at hit
  have hl : lv_has ls 2 [(0, .ref o), (1, .int a0)] := hl
  refine lv_aload_n hx hb dX4_unread_0 rfl (lv_at hl 0 rfl) ?_
  refine lv_iconst (v := 0) hx hb dX4_unread_1 (by decide) ?_
  obtain ⟨s1, es1, hit⟩ := o_bind hit
  refine m_put X hM hS 0 q1644 rfl rfl (ty := .int) rfl rfl rfl es1 dX4_unread_2 (fun H locs hM hS => ?_)
  refine lv_aload_n hx hb dX4_unread_5 rfl (lv_at hl 0 rfl) ?_
  refine lv_iload_n hx hb dX4_unread_6 rfl (lv_at hl 1 rfl) ?_
  refine lv_iconst (v := 0) hx hb dX4_unread_7 (by decide) ?_
  refine lv_iconst (v := 1) hx hb dX4_unread_8 (by decide) ?_
  obtain ⟨q2, eq2, hit⟩ := o_bind hit
  refine m_cNi X hM hS (wM_isDays l G dT o ad _ _ _ _ _ eq2) nm_X4_isDays q2167 q2169 q141 q2170 qs117 ⟨Nat.le_trans (Nat.le_of_ble_eq_true rfl) hR.1, Nat.le_trans (Nat.le_of_ble_eq_true rfl) hR.2⟩ rfl rfl hl.1 (lv_room (Nat.le_of_ble_eq_true rfl)) dX4_unread_9 (fun H locs hM hS => ?_)
  refine b_if_ne (tgt := 17) hx hb dX4_unread_12 (by decide) hit (fun c3 hit => ?_) (fun c3 hit => ?_)
  · refine lv_aload_n hx hb dX4_unread_17 rfl (lv_at hl 0 rfl) ?_
    refine lv_iload_n hx hb dX4_unread_18 rfl (lv_at hl 1 rfl) ?_
    obtain ⟨q4, eq4, hit⟩ := o_bind hit
    refine m_cNv X hM hS (wM_goesTo l G dT o ad _ _ _ eq4) nm_X4_goesTo q2171 q2173 q141 q2174 qs118 ⟨Nat.le_trans (Nat.le_of_ble_eq_true rfl) hR.1, Nat.le_trans (Nat.le_of_ble_eq_true rfl) hR.2⟩ rfl rfl hl.1 (lv_room (Nat.le_of_ble_eq_true rfl)) dX4_unread_19 (fun H locs hM hS => ?_)
    refine lv_aload_n hx hb dX4_unread_22 rfl (lv_at hl 0 rfl) ?_
    refine m_get X hM 3 q1647 rfl rfl (v := .int (mf q4 3)) rfl dX4_unread_23 ?_
    refine lv_aload_n hx hb dX4_unread_26 rfl (lv_at hl 0 rfl) ?_
    refine lv_bipush (v := 34) hx hb dX4_unread_27 (by decide) ?_
    refine lv_aload_n hx hb dX4_unread_29 rfl (lv_at hl 0 rfl) ?_
    obtain ⟨q5, eq5, hit⟩ := o_bind hit
    refine m_cR X hM (wM_everybody l G dT o ad _  _ eq5) nm_X4_everybody q1998 q2000 q141 q2001 qs87 ⟨Nat.le_trans (Nat.le_of_ble_eq_true rfl) hR.1, Nat.le_trans (Nat.le_of_ble_eq_true rfl) hR.2⟩ rfl rfl hl.1 (lv_room (Nat.le_of_ble_eq_true rfl)) dX4_unread_30 ?_
    obtain ⟨q6, eq6, hit⟩ := o_bind hit
    refine m_cR X hM (wM_knownBy l G dT o ad _ _ _ _ eq6) nm_X4_knownBy q2002 q2004 q141 q2005 qs88 ⟨Nat.le_trans (Nat.le_of_ble_eq_true rfl) hR.1, Nat.le_trans (Nat.le_of_ble_eq_true rfl) hR.2⟩ rfl rfl hl.1 (lv_room (Nat.le_of_ble_eq_true rfl)) dX4_unread_33 ?_
    obtain ⟨q7, eq7, hit⟩ := o_bind hit
    refine m_cP X.1 (wM_bits l _ _ eq7) nm_X4_bits q2018 q2019 q141 q2020 ⟨Nat.le_trans (Nat.le_of_ble_eq_true rfl) hR.1, Nat.le_trans (Nat.le_of_ble_eq_true rfl) hR.2⟩ rfl rfl hl.1 (lv_room (Nat.le_of_ble_eq_true rfl)) dX4_unread_36 ?_
    refine lv_isub hx hb dX4_unread_39 ?_
    have he := o_in hit
    exact hend _ ((mf q4 3) - q7) _ _ _ _ _ rfl he hM hS dX4_unread_40
  · refine lv_iconst (v := 0) hx hb dX4_unread_15 (by decide) ?_
    have he := o_in hit
    exact hend _ 0 _ _ _ _ _ rfl he hM hS dX4_unread_16
noncomputable def M_heir_L22 (a0 : Int32) (q2 : Int32 × MS) (t4 : Int32 × Int32 × Int32) : Option ((Int32 × Int32 × Int32) ⊕ (Int32 × MS)) :=
  if t4.2.2 < (mf q2.2 2) then
    ((ald q2.2 44 (28 + a0)).bind fun v7 =>
    (ald q2.2 44 (28 + t4.2.2)).bind fun v8 =>
    (M_bits (v7 &&& v8)).bind fun q9 =>
    ((if t4.2.2 = a0 then
        (some (t4.1, t4.2.1))
      else
        (if q9 ≤ t4.2.1 then
          (some (t4.1, t4.2.1))
        else
          (some (t4.2.2, q9))) : Option (Int32 × Int32))).bind fun r10 =>
    some (.inl (r10.1, r10.2, (t4.2.2 + 1))))
  else
    (some (.inr (t4.1, q2.2)))
noncomputable def M_heir (σ : MS) (a0 : Int32) : Option (Int32 × MS) :=
  (pf σ 0 0).bind fun s1 =>
  (M_isClerk s1 a0).bind fun q2 =>
  if q2.1 = 0 then
    (some (0, q2.2))
  else
    (o_loop (M_heir_L22 a0 q2) ((-1), (-1), 0))
theorem nm_X4_heir : kNm yX4_heir RX4 1 := by unfold kNm; decide +kernel
set_option maxHeartbeats 4000000 in
set_option maxRecDepth 100000 in
theorem wM_heir (l : Launch) (G : va_G) (dT : Nat → ClassId) (o : Nat) (ad : Nat → Nat) (σ : MS) (a0 : Int32) (z : Int32 × MS) (h : M_heir σ a0 = some z) : Met l yX4_heir (ws_ yX4_heir cX4_heir 6 (some .int)) (kRm 2 43) (mPc G dT o ad σ [.int a0]) (va_Qi (fun r (_ : Unit) => r = z.1) (fun _ t => MH G dT o ad z.2 t.heap) (mAd o ad)) 0 0 (mAd o ad) := by
  refine m_startNi (cc := cX4_heir) (ty := .int) rfl rfl rfl (fun p e R s m args below meth c Q ls X hR hM hS hl hend => ?_)
  have hx := X.1.1
  have hb := X.1.2.1
  have hit := h
  clear h
  unfold M_heir at hit
  have hl : lv_has ls 6 [(0, .ref o), (1, .int a0)] := hl
  refine lv_aload_n hx hb dX4_heir_0 rfl (lv_at hl 0 rfl) ?_
  refine lv_iconst (v := 0) hx hb dX4_heir_1 (by decide) ?_
  obtain ⟨s1, es1, hit⟩ := o_bind hit
  refine m_put X hM hS 0 q1644 rfl rfl (ty := .int) rfl rfl rfl es1 dX4_heir_2 (fun H locs hM hS => ?_)
  refine lv_aload_n hx hb dX4_heir_5 rfl (lv_at hl 0 rfl) ?_
  refine lv_iload_n hx hb dX4_heir_6 rfl (lv_at hl 1 rfl) ?_
  obtain ⟨q2, eq2, hit⟩ := o_bind hit
  refine m_cNi X hM hS (wM_isClerk l G dT o ad _ _ _ eq2) nm_X4_isClerk q2056 q2058 q141 q2059 qs98 ⟨Nat.le_trans (Nat.le_of_ble_eq_true rfl) hR.1, Nat.le_trans (Nat.le_of_ble_eq_true rfl) hR.2⟩ rfl rfl hl.1 (lv_room (Nat.le_of_ble_eq_true rfl)) dX4_heir_7 (fun H locs hM hS => ?_)
  refine b_if_ne (tgt := 15) hx hb dX4_heir_10 (by decide) hit (fun c3 hit => ?_) (fun c3 hit => ?_)
  · refine lv_iconst (v := (-1)) hx hb dX4_heir_15 (by decide) ?_
    refine lv_istore_n (lv' := [(2, .int (-1)), (0, .ref o), (1, .int a0)]) hx hb dX4_heir_16 rfl hl (by decide) rfl (fun ls hl => ?_)
    refine lv_iconst (v := (-1)) hx hb dX4_heir_17 (by decide) ?_
    refine lv_istore_n (lv' := [(3, .int (-1)), (2, .int (-1)), (0, .ref o), (1, .int a0)]) hx hb dX4_heir_18 rfl hl (by decide) rfl (fun ls hl => ?_)
    refine lv_iconst (v := 0) hx hb dX4_heir_19 (by decide) ?_
    refine lv_istore (lv' := [(4, .int 0), (3, .int (-1)), (2, .int (-1)), (0, .ref o), (1, .int a0)]) hx hb dX4_heir_20 hl (by decide) rfl (fun ls hl => ?_)
    refine o_rec (P := fun t4 => ∀ (H : Heap) (locs : List Loc) (ls : Array Slot), MH G dT o ad q2.2 H → va_S (mAd o ad) s.heap H locs → lv_has ls 6 [(0, .ref o), (1, .int a0), (2, .int t4.1), (3, .int t4.2.1), (4, .int t4.2.2)] → W p l e R s m args below meth c H locs 0 0 Q (F0 m 22 ls [])) (fun t4 x5 hit hC4 hE4 H locs ls hM hS hl => ?_) _ hit _ _ _ hM hS (lv_sub hl [3, 4, 2, 1, 0] rfl)
    unfold M_heir_L22 at hit
    refine lv_iload hx hb dX4_heir_22 (lv_at hl 4 rfl) ?_
    refine lv_aload_n hx hb dX4_heir_24 rfl (lv_at hl 0 rfl) ?_
    refine m_get X hM 2 q1646 rfl rfl (v := .int (mf q2.2 2)) rfl dX4_heir_25 ?_
    refine b_icmp_ge (tgt := 83) hx hb dX4_heir_28 (by decide) hit (fun c6 hit => ?_) (fun c6 hit => ?_)
    · refine lv_iload_n hx hb dX4_heir_83 rfl (lv_at hl 2 rfl) ?_
      have he := o_in hit
      have he := hE4 _ he
      exact hend _ t4.1 _ _ _ _ _ rfl he hM hS dX4_heir_84
    · refine lv_aload_n hx hb dX4_heir_31 rfl (lv_at hl 0 rfl) ?_
      refine m_get X hM 44 q1688 rfl rfl (v := .ref (ad 44)) rfl dX4_heir_32 ?_
      refine lv_bipush (v := 28) hx hb dX4_heir_35 (by decide) ?_
      refine lv_iload_n hx hb dX4_heir_37 rfl (lv_at hl 1 rfl) ?_
      refine lv_iadd hx hb dX4_heir_38 ?_
      obtain ⟨v7, ev7, hit⟩ := o_bind hit
      refine m_iald X hM 15 44 rfl rfl ev7 dX4_heir_39 ?_
      refine lv_aload_n hx hb dX4_heir_40 rfl (lv_at hl 0 rfl) ?_
      refine m_get X hM 44 q1688 rfl rfl (v := .ref (ad 44)) rfl dX4_heir_41 ?_
      refine lv_bipush (v := 28) hx hb dX4_heir_44 (by decide) ?_
      refine lv_iload hx hb dX4_heir_46 (lv_at hl 4 rfl) ?_
      refine lv_iadd hx hb dX4_heir_48 ?_
      obtain ⟨v8, ev8, hit⟩ := o_bind hit
      refine m_iald X hM 15 44 rfl rfl ev8 dX4_heir_49 ?_
      refine lv_iand hx hb dX4_heir_50 ?_
      obtain ⟨q9, eq9, hit⟩ := o_bind hit
      refine m_cP X.1 (wM_bits l _ _ eq9) nm_X4_bits q2018 q2019 q141 q2020 ⟨Nat.le_trans (Nat.le_of_ble_eq_true rfl) hR.1, Nat.le_trans (Nat.le_of_ble_eq_true rfl) hR.2⟩ rfl rfl hl.1 (lv_room (Nat.le_of_ble_eq_true rfl)) dX4_heir_51 ?_
      refine lv_istore (lv' := [(5, .int q9), (0, .ref o), (1, .int a0), (2, .int t4.1), (3, .int t4.2.1), (4, .int t4.2.2)]) hx hb dX4_heir_54 hl (by decide) rfl (fun ls hl => ?_)
      refine lv_iload hx hb dX4_heir_56 (lv_at hl 5 rfl) ?_
      refine lv_iload_n hx hb dX4_heir_58 rfl (lv_at hl 2 rfl) ?_
      obtain ⟨r10, er10, hit⟩ := o_bind hit
      have hr10 : ∀ (H : Heap) (locs : List Loc) (ls : Array Slot), MH G dT o ad q2.2 H → va_S (mAd o ad) s.heap H locs → lv_has ls 6 [(0, .ref o), (1, .int a0), (4, .int t4.2.2), (2, .int r10.1), (3, .int r10.2)] → W p l e R s m args below meth c H locs 0 0 Q (F0 m 77 ls []) := by
        intro H locs ls hM hS hl
        refine lv_iinc (k := 2) (v := (t4.2.2 + 1)) (lv' := [(4, .int (t4.2.2 + 1)), (0, .ref o), (1, .int a0), (2, .int r10.1), (3, .int r10.2)]) hx hb dX4_heir_77 hl rfl rfl (by decide) rfl (fun ls hl => ?_)
        refine lv_goto (tgt := 22) hx hb dX4_heir_80 (by decide) ?_
        have he := o_in hit
        exact hC4 _ he _ _ _ hM hS (lv_sub hl [1, 2, 3, 4, 0] rfl)
      have hit := er10
      refine b_icmp_eq (tgt := 77) hx hb dX4_heir_59 (by decide) hit (fun c11 hit => ?_) (fun c11 hit => ?_)
      · have he := o_in hit
        subst he
        exact hr10 _ _ _ hM hS (lv_sub hl [1, 2, 5, 3, 4] rfl)
      · refine lv_iload hx hb dX4_heir_62 (lv_at hl 0 rfl) ?_
        refine lv_iload_n hx hb dX4_heir_64 rfl (lv_at hl 4 rfl) ?_
        refine b_icmp_gt (tgt := 71) hx hb dX4_heir_65 (by decide) hit (fun c12 hit => ?_) (fun c12 hit => ?_)
        · refine lv_iload hx hb dX4_heir_71 (lv_at hl 5 rfl) ?_
          refine lv_istore_n (lv' := [(2, .int t4.2.2), (5, .int q9), (0, .ref o), (1, .int a0), (3, .int t4.2.1), (4, .int t4.2.2)]) hx hb dX4_heir_73 rfl hl (by decide) rfl (fun ls hl => ?_)
          refine lv_iload hx hb dX4_heir_74 (lv_at hl 1 rfl) ?_
          refine lv_istore_n (lv' := [(3, .int q9), (2, .int t4.2.2), (5, .int q9), (0, .ref o), (1, .int a0), (4, .int t4.2.2)]) hx hb dX4_heir_76 rfl hl (by decide) rfl (fun ls hl => ?_)
          have he := o_in hit
          subst he
          exact hr10 _ _ _ hM hS (lv_sub hl [3, 4, 5, 1, 0] rfl)
        · refine lv_goto (tgt := 77) hx hb dX4_heir_68 (by decide) ?_
          have he := o_in hit
          subst he
          exact hr10 _ _ _ hM hS (lv_sub hl [1, 2, 5, 3, 4] rfl)
  · refine lv_iconst (v := 0) hx hb dX4_heir_13 (by decide) ?_
    have he := o_in hit
    exact hend _ 0 _ _ _ _ _ rfl he hM hS dX4_heir_14
noncomputable def M_knowledge_L4 (σ : MS) (t1 : Int32 × Int32) : Option ((Int32 × Int32) ⊕ Int32) :=
  if t1.2 < (mf σ 2) then
    ((ald σ 44 (62 + t1.2)).bind fun v4 =>
    (M_bits v4).bind fun q5 =>
    some (.inl ((t1.1 + q5), (t1.2 + 1))))
  else
    (some (.inr t1.1))
noncomputable def M_knowledge (σ : MS) : Option (Int32) :=
  o_loop (M_knowledge_L4 σ) (0, 0)
theorem nm_X4_knowledge : kNm yX4_knowledge RX4 0 := by unfold kNm; decide +kernel
set_option maxHeartbeats 4000000 in
set_option maxRecDepth 100000 in
theorem wM_knowledge (l : Launch) (G : va_G) (dT : Nat → ClassId) (o : Nat) (ad : Nat → Nat) (σ : MS) (z : Int32) (h : M_knowledge σ = some z) : Met l yX4_knowledge (ws_ yX4_knowledge cX4_knowledge 3 (some .int)) (kRm 1 22) (mPc G dT o ad σ []) (vp_Si (fun r => r = z)) 0 0 vp_nf := by
  refine m_startR (cc := cX4_knowledge) (ty := .int) rfl rfl rfl (fun p e R s m args below meth c Q ls X hR hM hl hend => ?_)
  have hx := X.1.1
  have hb := X.1.2.1
  have hit := h
  clear h
  unfold M_knowledge at hit
  have hl : lv_has ls 3 [(0, .ref o)] := hl
  refine lv_iconst (v := 0) hx hb dX4_knowledge_0 (by decide) ?_
  refine lv_istore_n (lv' := [(1, .int 0), (0, .ref o)]) hx hb dX4_knowledge_1 rfl hl (by decide) rfl (fun ls hl => ?_)
  refine lv_iconst (v := 0) hx hb dX4_knowledge_2 (by decide) ?_
  refine lv_istore_n (lv' := [(2, .int 0), (1, .int 0), (0, .ref o)]) hx hb dX4_knowledge_3 rfl hl (by decide) rfl (fun ls hl => ?_)
  refine o_rec (P := fun t1 => ∀ (ls : Array Slot), lv_has ls 3 [(0, .ref o), (1, .int t1.1), (2, .int t1.2)] → W p l e R s m args below meth c s.heap [] 0 0 Q (F0 m 4 ls [])) (fun t1 x2 hit hC1 hE1 ls hl => ?_) _ hit _ (lv_sub hl [2, 1, 0] rfl)
  unfold M_knowledge_L4 at hit
  refine lv_iload_n hx hb dX4_knowledge_4 rfl (lv_at hl 2 rfl) ?_
  refine lv_aload_n hx hb dX4_knowledge_5 rfl (lv_at hl 0 rfl) ?_
  refine m_get X hM 2 q1646 rfl rfl (v := .int (mf σ 2)) rfl dX4_knowledge_6 ?_
  refine b_icmp_ge (tgt := 33) hx hb dX4_knowledge_9 (by decide) hit (fun c3 hit => ?_) (fun c3 hit => ?_)
  · refine lv_iload_n hx hb dX4_knowledge_33 rfl (lv_at hl 1 rfl) ?_
    have he := o_in hit
    have he := hE1 _ he
    exact hend _ t1.1 _ _ rfl he dX4_knowledge_34
  · refine lv_iload_n hx hb dX4_knowledge_12 rfl (lv_at hl 1 rfl) ?_
    refine lv_aload_n hx hb dX4_knowledge_13 rfl (lv_at hl 0 rfl) ?_
    refine m_get X hM 44 q1688 rfl rfl (v := .ref (ad 44)) rfl dX4_knowledge_14 ?_
    refine lv_bipush (v := 62) hx hb dX4_knowledge_17 (by decide) ?_
    refine lv_iload_n hx hb dX4_knowledge_19 rfl (lv_at hl 2 rfl) ?_
    refine lv_iadd hx hb dX4_knowledge_20 ?_
    obtain ⟨v4, ev4, hit⟩ := o_bind hit
    refine m_iald X hM 15 44 rfl rfl ev4 dX4_knowledge_21 ?_
    obtain ⟨q5, eq5, hit⟩ := o_bind hit
    refine m_cP X.1 (wM_bits l _ _ eq5) nm_X4_bits q2018 q2019 q141 q2020 ⟨Nat.le_trans (Nat.le_of_ble_eq_true rfl) hR.1, Nat.le_trans (Nat.le_of_ble_eq_true rfl) hR.2⟩ rfl rfl hl.1 (lv_room (Nat.le_of_ble_eq_true rfl)) dX4_knowledge_22 ?_
    refine lv_iadd hx hb dX4_knowledge_25 ?_
    refine lv_istore_n (lv' := [(1, .int (t1.1 + q5)), (0, .ref o), (2, .int t1.2)]) hx hb dX4_knowledge_26 rfl hl (by decide) rfl (fun ls hl => ?_)
    refine lv_iinc (k := 2) (v := (t1.2 + 1)) (lv' := [(2, .int (t1.2 + 1)), (1, .int (t1.1 + q5)), (0, .ref o)]) hx hb dX4_knowledge_27 hl rfl rfl (by decide) rfl (fun ls hl => ?_)
    refine lv_goto (tgt := 4) hx hb dX4_knowledge_30 (by decide) ?_
    have he := o_in hit
    exact hC1 _ he _ (lv_sub hl [2, 1, 0] rfl)
noncomputable def M_laid_L25 (a0 : Int32) (t5 : Int32 × Int32 × MS) : Option ((Int32 × Int32 × MS) ⊕ (Int32 × MS)) :=
  if t5.2.1 < a0 then
    ((M_knowledge t5.2.2).bind fun q8 =>
    (M_dayGoes t5.2.2 34).bind fun q9 =>
    (M_knowledge q9).bind fun q10 =>
    ((if q10 ≤ q8 then
        (some 0)
      else
        (some 1) : Option Int32)).bind fun r11 =>
    some (.inl ((t5.1 + r11), (t5.2.1 + 1), q9)))
  else
    (some (.inr (t5.1, t5.2.2)))
noncomputable def M_laid (σ : MS) (a0 : Int32) : Option (Int32 × MS) :=
  (pf σ 0 0).bind fun s1 =>
  (M_isDays s1 a0 1 1).bind fun q2 =>
  if q2.1 = 0 then
    (some (0, q2.2))
  else
    ((M_tries q2.2).bind fun q4 =>
    o_loop (M_laid_L25 a0) (0, 0, q4))
theorem nm_X4_laid : kNm yX4_laid RX4 1 := by unfold kNm; decide +kernel
set_option maxHeartbeats 4000000 in
set_option maxRecDepth 100000 in
theorem wM_laid (l : Launch) (G : va_G) (dT : Nat → ClassId) (o : Nat) (ad : Nat → Nat) (σ : MS) (a0 : Int32) (z : Int32 × MS) (h : M_laid σ a0 = some z) : Met l yX4_laid (ws_ yX4_laid cX4_laid 5 (some .int)) (kRm 6 138) (mPc G dT o ad σ [.int a0]) (va_Qi (fun r (_ : Unit) => r = z.1) (fun _ t => MH G dT o ad z.2 t.heap) (mAd o ad)) 0 0 (mAd o ad) := by
  refine m_startNi (cc := cX4_laid) (ty := .int) rfl rfl rfl (fun p e R s m args below meth c Q ls X hR hM hS hl hend => ?_)
  have hx := X.1.1
  have hb := X.1.2.1
  have hit := h
  clear h
  unfold M_laid at hit
  have hl : lv_has ls 5 [(0, .ref o), (1, .int a0)] := hl
  refine lv_aload_n hx hb dX4_laid_0 rfl (lv_at hl 0 rfl) ?_
  refine lv_iconst (v := 0) hx hb dX4_laid_1 (by decide) ?_
  obtain ⟨s1, es1, hit⟩ := o_bind hit
  refine m_put X hM hS 0 q1644 rfl rfl (ty := .int) rfl rfl rfl es1 dX4_laid_2 (fun H locs hM hS => ?_)
  refine lv_aload_n hx hb dX4_laid_5 rfl (lv_at hl 0 rfl) ?_
  refine lv_iload_n hx hb dX4_laid_6 rfl (lv_at hl 1 rfl) ?_
  refine lv_iconst (v := 1) hx hb dX4_laid_7 (by decide) ?_
  refine lv_iconst (v := 1) hx hb dX4_laid_8 (by decide) ?_
  obtain ⟨q2, eq2, hit⟩ := o_bind hit
  refine m_cNi X hM hS (wM_isDays l G dT o ad _ _ _ _ _ eq2) nm_X4_isDays q2167 q2169 q141 q2170 qs117 ⟨Nat.le_trans (Nat.le_of_ble_eq_true rfl) hR.1, Nat.le_trans (Nat.le_of_ble_eq_true rfl) hR.2⟩ rfl rfl hl.1 (lv_room (Nat.le_of_ble_eq_true rfl)) dX4_laid_9 (fun H locs hM hS => ?_)
  refine b_if_ne (tgt := 17) hx hb dX4_laid_12 (by decide) hit (fun c3 hit => ?_) (fun c3 hit => ?_)
  · refine lv_iconst (v := 0) hx hb dX4_laid_17 (by decide) ?_
    refine lv_istore_n (lv' := [(2, .int 0), (0, .ref o), (1, .int a0)]) hx hb dX4_laid_18 rfl hl (by decide) rfl (fun ls hl => ?_)
    refine lv_aload_n hx hb dX4_laid_19 rfl (lv_at hl 1 rfl) ?_
    obtain ⟨q4, eq4, hit⟩ := o_bind hit
    refine m_cNv X hM hS (wM_tries l G dT o ad _  _ eq4) nm_X4_tries q2175 q2177 q141 q2178 qs119 ⟨Nat.le_trans (Nat.le_of_ble_eq_true rfl) hR.1, Nat.le_trans (Nat.le_of_ble_eq_true rfl) hR.2⟩ rfl rfl hl.1 (lv_room (Nat.le_of_ble_eq_true rfl)) dX4_laid_20 (fun H locs hM hS => ?_)
    refine lv_iconst (v := 0) hx hb dX4_laid_23 (by decide) ?_
    refine lv_istore_n (lv' := [(3, .int 0), (2, .int 0), (0, .ref o), (1, .int a0)]) hx hb dX4_laid_24 rfl hl (by decide) rfl (fun ls hl => ?_)
    refine o_rec (P := fun t5 => ∀ (H : Heap) (locs : List Loc) (ls : Array Slot), MH G dT o ad t5.2.2 H → va_S (mAd o ad) s.heap H locs → lv_has ls 5 [(0, .ref o), (1, .int a0), (2, .int t5.1), (3, .int t5.2.1)] → W p l e R s m args below meth c H locs 0 0 Q (F0 m 25 ls [])) (fun t5 x6 hit hC5 hE5 H locs ls hM hS hl => ?_) _ hit _ _ _ hM hS (lv_sub hl [2, 3, 1, 0] rfl)
    unfold M_laid_L25 at hit
    refine lv_iload_n hx hb dX4_laid_25 rfl (lv_at hl 3 rfl) ?_
    refine lv_iload_n hx hb dX4_laid_26 rfl (lv_at hl 1 rfl) ?_
    refine b_icmp_ge (tgt := 65) hx hb dX4_laid_27 (by decide) hit (fun c7 hit => ?_) (fun c7 hit => ?_)
    · refine lv_iload_n hx hb dX4_laid_65 rfl (lv_at hl 2 rfl) ?_
      have he := o_in hit
      have he := hE5 _ he
      exact hend _ t5.1 _ _ _ _ _ rfl he hM hS dX4_laid_66
    · refine lv_aload_n hx hb dX4_laid_30 rfl (lv_at hl 0 rfl) ?_
      obtain ⟨q8, eq8, hit⟩ := o_bind hit
      refine m_cR X hM (wM_knowledge l G dT o ad _  _ eq8) nm_X4_knowledge q2336 q2338 q141 q2339 qs133 ⟨Nat.le_trans (Nat.le_of_ble_eq_true rfl) hR.1, Nat.le_trans (Nat.le_of_ble_eq_true rfl) hR.2⟩ rfl rfl hl.1 (lv_room (Nat.le_of_ble_eq_true rfl)) dX4_laid_31 ?_
      refine lv_istore (lv' := [(4, .int q8), (0, .ref o), (1, .int a0), (2, .int t5.1), (3, .int t5.2.1)]) hx hb dX4_laid_34 hl (by decide) rfl (fun ls hl => ?_)
      refine lv_aload_n hx hb dX4_laid_36 rfl (lv_at hl 1 rfl) ?_
      refine lv_bipush (v := 34) hx hb dX4_laid_37 (by decide) ?_
      obtain ⟨q9, eq9, hit⟩ := o_bind hit
      refine m_cNv X hM hS (wM_dayGoes l G dT o ad _ _ _ eq9) nm_X4_dayGoes q2120 q2122 q141 q2123 qs111 ⟨Nat.le_trans (Nat.le_of_ble_eq_true rfl) hR.1, Nat.le_trans (Nat.le_of_ble_eq_true rfl) hR.2⟩ rfl rfl hl.1 (lv_room (Nat.le_of_ble_eq_true rfl)) dX4_laid_39 (fun H locs hM hS => ?_)
      refine lv_iload_n hx hb dX4_laid_42 rfl (lv_at hl 3 rfl) ?_
      refine lv_aload_n hx hb dX4_laid_43 rfl (lv_at hl 1 rfl) ?_
      obtain ⟨q10, eq10, hit⟩ := o_bind hit
      refine m_cR X hM (wM_knowledge l G dT o ad _  _ eq10) nm_X4_knowledge q2336 q2338 q141 q2339 qs133 ⟨Nat.le_trans (Nat.le_of_ble_eq_true rfl) hR.1, Nat.le_trans (Nat.le_of_ble_eq_true rfl) hR.2⟩ rfl rfl hl.1 (lv_room (Nat.le_of_ble_eq_true rfl)) dX4_laid_44 ?_
      refine lv_iload hx hb dX4_laid_47 (lv_at hl 0 rfl) ?_
      obtain ⟨r11, er11, hit⟩ := o_bind hit
      have hr11 : ∀ (H : Heap) (locs : List Loc) (ls : Array Slot), MH G dT o ad q9 H → va_S (mAd o ad) s.heap H locs → lv_has ls 5 [(0, .ref o), (1, .int a0), (3, .int t5.2.1)] → W p l e R s m args below meth c H locs 0 0 Q (F0 m 57 ls [.int r11, .int t5.1]) := by
        intro H locs ls hM hS hl
        refine lv_iadd hx hb dX4_laid_57 ?_
        refine lv_istore_n (lv' := [(2, .int (t5.1 + r11)), (0, .ref o), (1, .int a0), (3, .int t5.2.1)]) hx hb dX4_laid_58 rfl hl (by decide) rfl (fun ls hl => ?_)
        refine lv_iinc (k := 3) (v := (t5.2.1 + 1)) (lv' := [(3, .int (t5.2.1 + 1)), (2, .int (t5.1 + r11)), (0, .ref o), (1, .int a0)]) hx hb dX4_laid_59 hl rfl rfl (by decide) rfl (fun ls hl => ?_)
        refine lv_goto (tgt := 25) hx hb dX4_laid_62 (by decide) ?_
        have he := o_in hit
        exact hC5 _ he _ _ _ hM hS (lv_sub hl [2, 3, 1, 0] rfl)
      have hit := er11
      refine b_icmp_le (tgt := 56) hx hb dX4_laid_49 (by decide) hit (fun c12 hit => ?_) (fun c12 hit => ?_)
      · refine lv_iconst (v := 0) hx hb dX4_laid_56 (by decide) ?_
        have he := o_in hit
        subst he
        exact hr11 _ _ _ hM hS (lv_sub hl [1, 2, 4] rfl)
      · refine lv_iconst (v := 1) hx hb dX4_laid_52 (by decide) ?_
        refine lv_goto (tgt := 57) hx hb dX4_laid_53 (by decide) ?_
        have he := o_in hit
        subst he
        exact hr11 _ _ _ hM hS (lv_sub hl [1, 2, 4] rfl)
  · refine lv_iconst (v := 0) hx hb dX4_laid_15 (by decide) ?_
    have he := o_in hit
    exact hend _ 0 _ _ _ _ _ rfl he hM hS dX4_laid_16
noncomputable def M_image_L28 (t5 : Int32 × MS) : Option ((Int32 × MS) ⊕ MS) :=
  if t5.1 < 34 then
    ((ald t5.2 44 t5.1).bind fun v11 =>
    (ast t5.2 59 t5.1 v11).bind fun s12 =>
    some (.inl ((t5.1 + 1), s12)))
  else
    (some (.inr t5.2))
noncomputable def M_image (σ : MS) : Option (MS) :=
  (pf σ 0 0).bind fun s1 =>
  (pf s1 56 1).bind fun s2 =>
  (pf s2 57 (mf s2 46)).bind fun s3 =>
  (pf s3 58 (mf s3 51)).bind fun s4 =>
  (o_loop M_image_L28 (0, s4)).bind fun r7 =>
  (M_copies r7 45 60).bind fun q8 =>
  (M_copies q8 52 61).bind fun q9 =>
  some q9
theorem nm_X4_image : kNm yX4_image RX4 0 := by unfold kNm; decide +kernel
set_option maxHeartbeats 4000000 in
set_option maxRecDepth 100000 in
theorem wM_image (l : Launch) (G : va_G) (dT : Nat → ClassId) (o : Nat) (ad : Nat → Nat) (σ : MS) (z : MS) (h : M_image σ = some z) : Met l yX4_image (ws_ yX4_image cX4_image 2 none) (kRm 1 23) (mPc G dT o ad σ []) (va_Qv (fun (_ : Unit) => True) (fun _ t => MH G dT o ad z t.heap) (mAd o ad)) 0 0 (mAd o ad) := by
  refine m_startNv (cc := cX4_image) rfl rfl rfl (fun p e R s m args below meth c Q ls X hR hM hS hl hend => ?_)
  have hx := X.1.1
  have hb := X.1.2.1
  have hit := h
  clear h
  unfold M_image at hit
  have hl : lv_has ls 2 [(0, .ref o)] := hl
  refine lv_aload_n hx hb dX4_image_0 rfl (lv_at hl 0 rfl) ?_
  refine lv_iconst (v := 0) hx hb dX4_image_1 (by decide) ?_
  obtain ⟨s1, es1, hit⟩ := o_bind hit
  refine m_put X hM hS 0 q1644 rfl rfl (ty := .int) rfl rfl rfl es1 dX4_image_2 (fun H locs hM hS => ?_)
  refine lv_aload_n hx hb dX4_image_5 rfl (lv_at hl 0 rfl) ?_
  refine lv_iconst (v := 1) hx hb dX4_image_6 (by decide) ?_
  obtain ⟨s2, es2, hit⟩ := o_bind hit
  refine m_put X hM hS 56 q1700 rfl rfl (ty := .boolean) rfl rfl rfl es2 dX4_image_7 (fun H locs hM hS => ?_)
  refine lv_aload_n hx hb dX4_image_10 rfl (lv_at hl 0 rfl) ?_
  refine lv_aload_n hx hb dX4_image_11 rfl (lv_at hl 0 rfl) ?_
  refine m_get X hM 46 q1690 rfl rfl (v := .int (mf s2 46)) rfl dX4_image_12 ?_
  obtain ⟨s3, es3, hit⟩ := o_bind hit
  refine m_put X hM hS 57 q1701 rfl rfl (ty := .int) rfl rfl rfl es3 dX4_image_15 (fun H locs hM hS => ?_)
  refine lv_aload_n hx hb dX4_image_18 rfl (lv_at hl 0 rfl) ?_
  refine lv_aload_n hx hb dX4_image_19 rfl (lv_at hl 0 rfl) ?_
  refine m_get X hM 51 q1695 rfl rfl (v := .int (mf s3 51)) rfl dX4_image_20 ?_
  obtain ⟨s4, es4, hit⟩ := o_bind hit
  refine m_put X hM hS 58 q1702 rfl rfl (ty := .int) rfl rfl rfl es4 dX4_image_23 (fun H locs hM hS => ?_)
  refine lv_iconst (v := 0) hx hb dX4_image_26 (by decide) ?_
  refine lv_istore_n (lv' := [(1, .int 0), (0, .ref o)]) hx hb dX4_image_27 rfl hl (by decide) rfl (fun ls hl => ?_)
  obtain ⟨r7, er7, hit⟩ := o_bind hit
  have hr7 : ∀ (H : Heap) (locs : List Loc) (ls : Array Slot), MH G dT o ad r7 H → va_S (mAd o ad) s.heap H locs → lv_has ls 2 [(0, .ref o)] → W p l e R s m args below meth c H locs 0 0 Q (F0 m 52 ls []) := by
    intro H locs ls hM hS hl
    refine lv_aload_n hx hb dX4_image_52 rfl (lv_at hl 0 rfl) ?_
    refine lv_aload_n hx hb dX4_image_53 rfl (lv_at hl 0 rfl) ?_
    refine m_get X hM 45 q1689 rfl rfl (v := .ref (ad 45)) rfl dX4_image_54 ?_
    refine lv_aload_n hx hb dX4_image_57 rfl (lv_at hl 0 rfl) ?_
    refine m_get X hM 60 q1704 rfl rfl (v := .ref (ad 60)) rfl dX4_image_58 ?_
    obtain ⟨q8, eq8, hit⟩ := o_bind hit
    refine m_cNv X hM hS (wM_copies l G dT o ad _ _ _ _ 16 rfl rfl 25 rfl rfl eq8) nm_X4_copies q1967 q1969 q141 q1970 qs83 ⟨Nat.le_trans (Nat.le_of_ble_eq_true rfl) hR.1, Nat.le_trans (Nat.le_of_ble_eq_true rfl) hR.2⟩ rfl rfl hl.1 (lv_room (Nat.le_of_ble_eq_true rfl)) dX4_image_61 (fun H locs hM hS => ?_)
    refine lv_aload_n hx hb dX4_image_64 rfl (lv_at hl 0 rfl) ?_
    refine lv_aload_n hx hb dX4_image_65 rfl (lv_at hl 0 rfl) ?_
    refine m_get X hM 52 q1696 rfl rfl (v := .ref (ad 52)) rfl dX4_image_66 ?_
    refine lv_aload_n hx hb dX4_image_69 rfl (lv_at hl 0 rfl) ?_
    refine m_get X hM 61 q1705 rfl rfl (v := .ref (ad 61)) rfl dX4_image_70 ?_
    obtain ⟨q9, eq9, hit⟩ := o_bind hit
    refine m_cNv X hM hS (wM_copies l G dT o ad _ _ _ _ 21 rfl rfl 26 rfl rfl eq9) nm_X4_copies q1967 q1969 q141 q1970 qs83 ⟨Nat.le_trans (Nat.le_of_ble_eq_true rfl) hR.1, Nat.le_trans (Nat.le_of_ble_eq_true rfl) hR.2⟩ rfl rfl hl.1 (lv_room (Nat.le_of_ble_eq_true rfl)) dX4_image_73 (fun H locs hM hS => ?_)
    have he := o_in hit
    exact hend _ _ _ _ _ he hM hS dX4_image_76
  refine o_rec (P := fun t5 => ∀ (H : Heap) (locs : List Loc) (ls : Array Slot), MH G dT o ad t5.2 H → va_S (mAd o ad) s.heap H locs → lv_has ls 2 [(0, .ref o), (1, .int t5.1)] → W p l e R s m args below meth c H locs 0 0 Q (F0 m 28 ls [])) (fun t5 x6 hit hC5 hE5 H locs ls hM hS hl => ?_) _ er7 _ _ _ hM hS (lv_sub hl [1, 0] rfl)
  unfold M_image_L28 at hit
  refine lv_iload_n hx hb dX4_image_28 rfl (lv_at hl 1 rfl) ?_
  refine lv_bipush (v := 34) hx hb dX4_image_29 (by decide) ?_
  refine b_icmp_ge (tgt := 52) hx hb dX4_image_31 (by decide) hit (fun c10 hit => ?_) (fun c10 hit => ?_)
  · have he := o_in hit
    have he := hE5 _ he
    subst he
    exact hr7 _ _ _ hM hS (lv_sub hl [0] rfl)
  · refine lv_aload_n hx hb dX4_image_34 rfl (lv_at hl 0 rfl) ?_
    refine m_get X hM 59 q1703 rfl rfl (v := .ref (ad 59)) rfl dX4_image_35 ?_
    refine lv_iload_n hx hb dX4_image_38 rfl (lv_at hl 1 rfl) ?_
    refine lv_aload_n hx hb dX4_image_39 rfl (lv_at hl 0 rfl) ?_
    refine m_get X hM 44 q1688 rfl rfl (v := .ref (ad 44)) rfl dX4_image_40 ?_
    refine lv_iload_n hx hb dX4_image_43 rfl (lv_at hl 1 rfl) ?_
    obtain ⟨v11, ev11, hit⟩ := o_bind hit
    refine m_iald X hM 15 44 rfl rfl ev11 dX4_image_44 ?_
    obtain ⟨s12, es12, hit⟩ := o_bind hit
    refine m_iast X hM hS 24 59 rfl rfl es12 dX4_image_45 (fun H locs hM hS => ?_)
    refine lv_iinc (k := 1) (v := (t5.1 + 1)) (lv' := [(1, .int (t5.1 + 1)), (0, .ref o)]) hx hb dX4_image_46 hl rfl rfl (by decide) rfl (fun ls hl => ?_)
    refine lv_goto (tgt := 28) hx hb dX4_image_49 (by decide) ?_
    have he := o_in hit
    exact hC5 _ he _ _ _ hM hS (lv_sub hl [1, 0] rfl)
noncomputable def M_restore_L32 (t5 : Int32 × MS) : Option ((Int32 × MS) ⊕ MS) :=
  if t5.1 < 34 then
    ((ald t5.2 59 t5.1).bind fun v11 =>
    (ast t5.2 44 t5.1 v11).bind fun s12 =>
    some (.inl ((t5.1 + 1), s12)))
  else
    (some (.inr t5.2))
noncomputable def M_restore (σ : MS) : Option (Int32 × MS) :=
  (pf σ 0 0).bind fun s1 =>
  if (mf s1 56) = 0 then
    (some (0, s1))
  else
    ((pf s1 46 (mf s1 57)).bind fun s3 =>
    (pf s3 51 (mf s3 58)).bind fun s4 =>
    (o_loop M_restore_L32 (0, s4)).bind fun r7 =>
    (M_copies r7 60 45).bind fun q8 =>
    (M_copies q8 61 52).bind fun q9 =>
    some (1, q9))
theorem nm_X4_restore : kNm yX4_restore RX4 0 := by unfold kNm; decide +kernel
set_option maxHeartbeats 4000000 in
set_option maxRecDepth 100000 in
theorem wM_restore (l : Launch) (G : va_G) (dT : Nat → ClassId) (o : Nat) (ad : Nat → Nat) (σ : MS) (z : Int32 × MS) (h : M_restore σ = some z) : Met l yX4_restore (ws_ yX4_restore cX4_restore 2 (some .boolean)) (kRm 1 23) (mPc G dT o ad σ []) (va_Qi (fun r (_ : Unit) => r = z.1) (fun _ t => MH G dT o ad z.2 t.heap) (mAd o ad)) 0 0 (mAd o ad) := by
  refine m_startNi (cc := cX4_restore) (ty := .boolean) rfl rfl rfl (fun p e R s m args below meth c Q ls X hR hM hS hl hend => ?_)
  have hx := X.1.1
  have hb := X.1.2.1
  have hit := h
  clear h
  unfold M_restore at hit
  have hl : lv_has ls 2 [(0, .ref o)] := hl
  refine lv_aload_n hx hb dX4_restore_0 rfl (lv_at hl 0 rfl) ?_
  refine lv_iconst (v := 0) hx hb dX4_restore_1 (by decide) ?_
  obtain ⟨s1, es1, hit⟩ := o_bind hit
  refine m_put X hM hS 0 q1644 rfl rfl (ty := .int) rfl rfl rfl es1 dX4_restore_2 (fun H locs hM hS => ?_)
  refine lv_aload_n hx hb dX4_restore_5 rfl (lv_at hl 0 rfl) ?_
  refine m_get X hM 56 q1700 rfl rfl (v := .int (mf s1 56)) rfl dX4_restore_6 ?_
  refine b_if_ne (tgt := 14) hx hb dX4_restore_9 (by decide) hit (fun c2 hit => ?_) (fun c2 hit => ?_)
  · refine lv_aload_n hx hb dX4_restore_14 rfl (lv_at hl 0 rfl) ?_
    refine lv_aload_n hx hb dX4_restore_15 rfl (lv_at hl 0 rfl) ?_
    refine m_get X hM 57 q1701 rfl rfl (v := .int (mf s1 57)) rfl dX4_restore_16 ?_
    obtain ⟨s3, es3, hit⟩ := o_bind hit
    refine m_put X hM hS 46 q1690 rfl rfl (ty := .int) rfl rfl rfl es3 dX4_restore_19 (fun H locs hM hS => ?_)
    refine lv_aload_n hx hb dX4_restore_22 rfl (lv_at hl 0 rfl) ?_
    refine lv_aload_n hx hb dX4_restore_23 rfl (lv_at hl 0 rfl) ?_
    refine m_get X hM 58 q1702 rfl rfl (v := .int (mf s3 58)) rfl dX4_restore_24 ?_
    obtain ⟨s4, es4, hit⟩ := o_bind hit
    refine m_put X hM hS 51 q1695 rfl rfl (ty := .int) rfl rfl rfl es4 dX4_restore_27 (fun H locs hM hS => ?_)
    refine lv_iconst (v := 0) hx hb dX4_restore_30 (by decide) ?_
    refine lv_istore_n (lv' := [(1, .int 0), (0, .ref o)]) hx hb dX4_restore_31 rfl hl (by decide) rfl (fun ls hl => ?_)
    obtain ⟨r7, er7, hit⟩ := o_bind hit
    have hr7 : ∀ (H : Heap) (locs : List Loc) (ls : Array Slot), MH G dT o ad r7 H → va_S (mAd o ad) s.heap H locs → lv_has ls 2 [(0, .ref o)] → W p l e R s m args below meth c H locs 0 0 Q (F0 m 56 ls []) := by
      intro H locs ls hM hS hl
      refine lv_aload_n hx hb dX4_restore_56 rfl (lv_at hl 0 rfl) ?_
      refine lv_aload_n hx hb dX4_restore_57 rfl (lv_at hl 0 rfl) ?_
      refine m_get X hM 60 q1704 rfl rfl (v := .ref (ad 60)) rfl dX4_restore_58 ?_
      refine lv_aload_n hx hb dX4_restore_61 rfl (lv_at hl 0 rfl) ?_
      refine m_get X hM 45 q1689 rfl rfl (v := .ref (ad 45)) rfl dX4_restore_62 ?_
      obtain ⟨q8, eq8, hit⟩ := o_bind hit
      refine m_cNv X hM hS (wM_copies l G dT o ad _ _ _ _ 25 rfl rfl 16 rfl rfl eq8) nm_X4_copies q1967 q1969 q141 q1970 qs83 ⟨Nat.le_trans (Nat.le_of_ble_eq_true rfl) hR.1, Nat.le_trans (Nat.le_of_ble_eq_true rfl) hR.2⟩ rfl rfl hl.1 (lv_room (Nat.le_of_ble_eq_true rfl)) dX4_restore_65 (fun H locs hM hS => ?_)
      refine lv_aload_n hx hb dX4_restore_68 rfl (lv_at hl 0 rfl) ?_
      refine lv_aload_n hx hb dX4_restore_69 rfl (lv_at hl 0 rfl) ?_
      refine m_get X hM 61 q1705 rfl rfl (v := .ref (ad 61)) rfl dX4_restore_70 ?_
      refine lv_aload_n hx hb dX4_restore_73 rfl (lv_at hl 0 rfl) ?_
      refine m_get X hM 52 q1696 rfl rfl (v := .ref (ad 52)) rfl dX4_restore_74 ?_
      obtain ⟨q9, eq9, hit⟩ := o_bind hit
      refine m_cNv X hM hS (wM_copies l G dT o ad _ _ _ _ 26 rfl rfl 21 rfl rfl eq9) nm_X4_copies q1967 q1969 q141 q1970 qs83 ⟨Nat.le_trans (Nat.le_of_ble_eq_true rfl) hR.1, Nat.le_trans (Nat.le_of_ble_eq_true rfl) hR.2⟩ rfl rfl hl.1 (lv_room (Nat.le_of_ble_eq_true rfl)) dX4_restore_77 (fun H locs hM hS => ?_)
      refine lv_iconst (v := 1) hx hb dX4_restore_80 (by decide) ?_
      have he := o_in hit
      exact hend _ 1 _ _ _ _ _ rfl he hM hS dX4_restore_81
    refine o_rec (P := fun t5 => ∀ (H : Heap) (locs : List Loc) (ls : Array Slot), MH G dT o ad t5.2 H → va_S (mAd o ad) s.heap H locs → lv_has ls 2 [(0, .ref o), (1, .int t5.1)] → W p l e R s m args below meth c H locs 0 0 Q (F0 m 32 ls [])) (fun t5 x6 hit hC5 hE5 H locs ls hM hS hl => ?_) _ er7 _ _ _ hM hS (lv_sub hl [1, 0] rfl)
    unfold M_restore_L32 at hit
    refine lv_iload_n hx hb dX4_restore_32 rfl (lv_at hl 1 rfl) ?_
    refine lv_bipush (v := 34) hx hb dX4_restore_33 (by decide) ?_
    refine b_icmp_ge (tgt := 56) hx hb dX4_restore_35 (by decide) hit (fun c10 hit => ?_) (fun c10 hit => ?_)
    · have he := o_in hit
      have he := hE5 _ he
      subst he
      exact hr7 _ _ _ hM hS (lv_sub hl [0] rfl)
    · refine lv_aload_n hx hb dX4_restore_38 rfl (lv_at hl 0 rfl) ?_
      refine m_get X hM 44 q1688 rfl rfl (v := .ref (ad 44)) rfl dX4_restore_39 ?_
      refine lv_iload_n hx hb dX4_restore_42 rfl (lv_at hl 1 rfl) ?_
      refine lv_aload_n hx hb dX4_restore_43 rfl (lv_at hl 0 rfl) ?_
      refine m_get X hM 59 q1703 rfl rfl (v := .ref (ad 59)) rfl dX4_restore_44 ?_
      refine lv_iload_n hx hb dX4_restore_47 rfl (lv_at hl 1 rfl) ?_
      obtain ⟨v11, ev11, hit⟩ := o_bind hit
      refine m_iald X hM 24 59 rfl rfl ev11 dX4_restore_48 ?_
      obtain ⟨s12, es12, hit⟩ := o_bind hit
      refine m_iast X hM hS 15 44 rfl rfl es12 dX4_restore_49 (fun H locs hM hS => ?_)
      refine lv_iinc (k := 1) (v := (t5.1 + 1)) (lv' := [(1, .int (t5.1 + 1)), (0, .ref o)]) hx hb dX4_restore_50 hl rfl rfl (by decide) rfl (fun ls hl => ?_)
      refine lv_goto (tgt := 32) hx hb dX4_restore_53 (by decide) ?_
      have he := o_in hit
      exact hC5 _ he _ _ _ hM hS (lv_sub hl [1, 0] rfl)
  · refine lv_iconst (v := 0) hx hb dX4_restore_12 (by decide) ?_
    have he := o_in hit
    exact hend _ 0 _ _ _ _ _ rfl he hM hS dX4_restore_13
