noncomputable def M_readsWord_J53 (q4 : Int32 × MS) : Option (MS) :=
  (M_wrong q4.2 4).bind fun q13 =>
  some q13
noncomputable def M_readsWord (σ : MS) : Option (MS) :=
  (M_amongHere σ (mf σ 25)).bind fun q1 =>
  if q1.1 = 0 then
    (some q1.2)
  else
    ((M_goes q1.2).bind fun q3 =>
    (M_amongHere q3 (mf q3 25)).bind fun q4 =>
    if q4.1 = 0 then
      (some q4.2)
    else
      (((if (mf q4.2 22) = (mf q1.2 22) then
          (M_readsWord_J53 q4)
        else
          ((M_isWordOf q4.2 (mf q1.2 22) (mf q4.2 22)).bind fun q15 =>
          if q15 = 0 then
            (some q4.2)
          else
            (M_readsWord_J53 q4)) : Option MS)).bind fun r6 =>
      (M_isGood r6).bind fun q7 =>
      if q7 = 0 then
        (some r6)
      else
        ((ast r6 38 (mf r6 27) (mf q1.2 22)).bind fun s9 =>
        (ast s9 39 (mf s9 27) (mf s9 22)).bind fun s10 =>
        (pf s10 27 ((mf s10 27) + 1)).bind fun s11 =>
        (M_goes s11).bind fun q12 =>
        some q12)))
theorem nm_X4_readsWord : kNm yX4_readsWord RX4 0 := by unfold kNm; decide +kernel
set_option maxHeartbeats 4000000 in
set_option maxRecDepth 100000 in
theorem wM_readsWord (l : Launch) (G : va_G) (dT : Nat → ClassId) (o : Nat) (ad : Nat → Nat) (σ : MS) (z : MS) (h : M_readsWord σ = some z) : Met l yX4_readsWord (ws_ yX4_readsWord cX4_readsWord 2 none) (kRm 2 42) (mPc G dT o ad σ []) (va_Qv (fun (_ : Unit) => True) (fun _ t => MH G dT o ad z t.heap) (mAd o ad)) 0 0 (mAd o ad) := by
  refine m_startNv (cc := cX4_readsWord) rfl rfl rfl (fun p e R s m args below meth c Q ls X hR hM hS hl hend => ?_)
  have hx := X.1.1
  have hb := X.1.2.1
  have hit := h
  clear h
  unfold M_readsWord at hit
  have hl : lv_has ls 2 [(0, .ref o)] := hl
  refine lv_aload_n hx hb dX4_readsWord_0 rfl (lv_at hl 0 rfl) ?_
  refine lv_aload_n hx hb dX4_readsWord_1 rfl (lv_at hl 0 rfl) ?_
  refine m_get X hM 25 q1669 rfl rfl (v := .int (mf σ 25)) rfl dX4_readsWord_2 ?_
  obtain ⟨q1, eq1, hit⟩ := o_bind hit
  refine m_cNi X hM hS (wM_amongHere l G dT o ad _ _ _ eq1) nm_X4_amongHere q1909 q1911 q141 q1912 qs70 ⟨Nat.le_trans (Nat.le_of_ble_eq_true rfl) hR.1, Nat.le_trans (Nat.le_of_ble_eq_true rfl) hR.2⟩ rfl rfl hl.1 (lv_room (Nat.le_of_ble_eq_true rfl)) dX4_readsWord_5 (fun H locs hM hS => ?_)
  refine b_if_ne (tgt := 12) hx hb dX4_readsWord_8 (by decide) hit (fun c2 hit => ?_) (fun c2 hit => ?_)
  · refine lv_aload_n hx hb dX4_readsWord_12 rfl (lv_at hl 0 rfl) ?_
    refine m_get X hM 22 q1666 rfl rfl (v := .int (mf q1.2 22)) rfl dX4_readsWord_13 ?_
    refine lv_istore_n (lv' := [(1, .int (mf q1.2 22)), (0, .ref o)]) hx hb dX4_readsWord_16 rfl hl (by decide) rfl (fun ls hl => ?_)
    refine lv_aload_n hx hb dX4_readsWord_17 rfl (lv_at hl 1 rfl) ?_
    obtain ⟨q3, eq3, hit⟩ := o_bind hit
    refine m_cNv X hM hS (wM_goes l G dT o ad _  _ eq3) nm_X4_goes q1852 q1854 q141 q1855 qs59 ⟨Nat.le_trans (Nat.le_of_ble_eq_true rfl) hR.1, Nat.le_trans (Nat.le_of_ble_eq_true rfl) hR.2⟩ rfl rfl hl.1 (lv_room (Nat.le_of_ble_eq_true rfl)) dX4_readsWord_18 (fun H locs hM hS => ?_)
    refine lv_aload_n hx hb dX4_readsWord_21 rfl (lv_at hl 1 rfl) ?_
    refine lv_aload_n hx hb dX4_readsWord_22 rfl (lv_at hl 1 rfl) ?_
    refine m_get X hM 25 q1669 rfl rfl (v := .int (mf q3 25)) rfl dX4_readsWord_23 ?_
    obtain ⟨q4, eq4, hit⟩ := o_bind hit
    refine m_cNi X hM hS (wM_amongHere l G dT o ad _ _ _ eq4) nm_X4_amongHere q1909 q1911 q141 q1912 qs70 ⟨Nat.le_trans (Nat.le_of_ble_eq_true rfl) hR.1, Nat.le_trans (Nat.le_of_ble_eq_true rfl) hR.2⟩ rfl rfl hl.1 (lv_room (Nat.le_of_ble_eq_true rfl)) dX4_readsWord_26 (fun H locs hM hS => ?_)
    refine b_if_ne (tgt := 33) hx hb dX4_readsWord_29 (by decide) hit (fun c5 hit => ?_) (fun c5 hit => ?_)
    · refine lv_aload_n hx hb dX4_readsWord_33 rfl (lv_at hl 1 rfl) ?_
      refine m_get X hM 22 q1666 rfl rfl (v := .int (mf q4.2 22)) rfl dX4_readsWord_34 ?_
      refine lv_iload_n hx hb dX4_readsWord_37 rfl (lv_at hl 0 rfl) ?_
      obtain ⟨r6, er6, hit⟩ := o_bind hit
      have hr6 : ∀ (H : Heap) (locs : List Loc) (ls : Array Slot), MH G dT o ad r6 H → va_S (mAd o ad) s.heap H locs → lv_has ls 2 [(1, .int (mf q1.2 22)), (0, .ref o)] → W p l e R s m args below meth c H locs 0 0 Q (F0 m 58 ls []) := by
        intro H locs ls hM hS hl
        refine lv_aload_n hx hb dX4_readsWord_58 rfl (lv_at hl 1 rfl) ?_
        obtain ⟨q7, eq7, hit⟩ := o_bind hit
        refine m_cR X hM (wM_isGood l G dT o ad _  _ eq7) nm_X4_isGood q1866 q1868 q141 q1869 qs61 ⟨Nat.le_trans (Nat.le_of_ble_eq_true rfl) hR.1, Nat.le_trans (Nat.le_of_ble_eq_true rfl) hR.2⟩ rfl rfl hl.1 (lv_room (Nat.le_of_ble_eq_true rfl)) dX4_readsWord_59 ?_
        refine b_if_ne (tgt := 66) hx hb dX4_readsWord_62 (by decide) hit (fun c8 hit => ?_) (fun c8 hit => ?_)
        · refine lv_aload_n hx hb dX4_readsWord_66 rfl (lv_at hl 1 rfl) ?_
          refine m_get X hM 38 q1682 rfl rfl (v := .ref (ad 38)) rfl dX4_readsWord_67 ?_
          refine lv_aload_n hx hb dX4_readsWord_70 rfl (lv_at hl 1 rfl) ?_
          refine m_get X hM 27 q1671 rfl rfl (v := .int (mf r6 27)) rfl dX4_readsWord_71 ?_
          refine lv_iload_n hx hb dX4_readsWord_74 rfl (lv_at hl 0 rfl) ?_
          obtain ⟨s9, es9, hit⟩ := o_bind hit
          refine m_iast X hM hS 9 38 rfl rfl es9 dX4_readsWord_75 (fun H locs hM hS => ?_)
          refine lv_aload_n hx hb dX4_readsWord_76 rfl (lv_at hl 1 rfl) ?_
          refine m_get X hM 39 q1683 rfl rfl (v := .ref (ad 39)) rfl dX4_readsWord_77 ?_
          refine lv_aload_n hx hb dX4_readsWord_80 rfl (lv_at hl 1 rfl) ?_
          refine m_get X hM 27 q1671 rfl rfl (v := .int (mf s9 27)) rfl dX4_readsWord_81 ?_
          refine lv_aload_n hx hb dX4_readsWord_84 rfl (lv_at hl 1 rfl) ?_
          refine m_get X hM 22 q1666 rfl rfl (v := .int (mf s9 22)) rfl dX4_readsWord_85 ?_
          obtain ⟨s10, es10, hit⟩ := o_bind hit
          refine m_iast X hM hS 10 39 rfl rfl es10 dX4_readsWord_88 (fun H locs hM hS => ?_)
          refine lv_aload_n hx hb dX4_readsWord_89 rfl (lv_at hl 1 rfl) ?_
          refine lv_dup hx hb dX4_readsWord_90 rfl ?_
          refine m_get X hM 27 q1671 rfl rfl (v := .int (mf s10 27)) rfl dX4_readsWord_91 ?_
          refine lv_iconst (v := 1) hx hb dX4_readsWord_94 (by decide) ?_
          refine lv_iadd hx hb dX4_readsWord_95 ?_
          obtain ⟨s11, es11, hit⟩ := o_bind hit
          refine m_put X hM hS 27 q1671 rfl rfl (ty := .int) rfl rfl rfl es11 dX4_readsWord_96 (fun H locs hM hS => ?_)
          refine lv_aload_n hx hb dX4_readsWord_99 rfl (lv_at hl 1 rfl) ?_
          obtain ⟨q12, eq12, hit⟩ := o_bind hit
          refine m_cNv X hM hS (wM_goes l G dT o ad _  _ eq12) nm_X4_goes q1852 q1854 q141 q1855 qs59 ⟨Nat.le_trans (Nat.le_of_ble_eq_true rfl) hR.1, Nat.le_trans (Nat.le_of_ble_eq_true rfl) hR.2⟩ rfl rfl hl.1 (lv_room (Nat.le_of_ble_eq_true rfl)) dX4_readsWord_100 (fun H locs hM hS => ?_)
          have he := o_in hit
          exact hend _ _ _ _ _ he hM hS dX4_readsWord_103
        · have he := o_in hit
          exact hend _ _ _ _ _ he hM hS dX4_readsWord_65
      have hit := er6
      have hK53 : M_readsWord_J53 q4 = some r6 → ∀ (H : Heap) (locs : List Loc) (ls : Array Slot), MH G dT o ad q4.2 H → va_S (mAd o ad) s.heap H locs → lv_has ls 2 [(1, .int (mf q1.2 22)), (0, .ref o)] → W p l e R s m args below meth c H locs 0 0 Q (F0 m 53 ls []) := by
        intro  hit H locs ls hM hS hl
        unfold M_readsWord_J53 at hit
        refine lv_aload_n hx hb dX4_readsWord_53 rfl (lv_at hl 1 rfl) ?_
        refine lv_iconst (v := 4) hx hb dX4_readsWord_54 (by decide) ?_
        obtain ⟨q13, eq13, hit⟩ := o_bind hit
        refine m_cNv X hM hS (wM_wrong l G dT o ad _ _ _ eq13) nm_X4_wrong q1889 q1891 q141 q1892 qs65 ⟨Nat.le_trans (Nat.le_of_ble_eq_true rfl) hR.1, Nat.le_trans (Nat.le_of_ble_eq_true rfl) hR.2⟩ rfl rfl hl.1 (lv_room (Nat.le_of_ble_eq_true rfl)) dX4_readsWord_55 (fun H locs hM hS => ?_)
        have he := o_in hit
        subst he
        exact hr6 _ _ _ hM hS hl
      refine b_icmp_eq (tgt := 53) hx hb dX4_readsWord_38 (by decide) hit (fun c14 hit => ?_) (fun c14 hit => ?_)
      · exact hK53  hit _ _ _ hM hS hl
      · refine lv_aload_n hx hb dX4_readsWord_41 rfl (lv_at hl 1 rfl) ?_
        refine lv_iload_n hx hb dX4_readsWord_42 rfl (lv_at hl 0 rfl) ?_
        refine lv_aload_n hx hb dX4_readsWord_43 rfl (lv_at hl 1 rfl) ?_
        refine m_get X hM 22 q1666 rfl rfl (v := .int (mf q4.2 22)) rfl dX4_readsWord_44 ?_
        obtain ⟨q15, eq15, hit⟩ := o_bind hit
        refine m_cR X hM (wM_isWordOf l G dT o ad _ _ _ _ eq15) nm_X4_isWordOf q1913 q1915 q141 q1916 qs71 ⟨Nat.le_trans (Nat.le_of_ble_eq_true rfl) hR.1, Nat.le_trans (Nat.le_of_ble_eq_true rfl) hR.2⟩ rfl rfl hl.1 (lv_room (Nat.le_of_ble_eq_true rfl)) dX4_readsWord_47 ?_
        refine b_if_eq (tgt := 58) hx hb dX4_readsWord_50 (by decide) hit (fun c16 hit => ?_) (fun c16 hit => ?_)
        · have he := o_in hit
          subst he
          exact hr6 _ _ _ hM hS hl
        · exact hK53  hit _ _ _ hM hS hl
    · have he := o_in hit
      exact hend _ _ _ _ _ he hM hS dX4_readsWord_32
  · have he := o_in hit
    exact hend _ _ _ _ _ he hM hS dX4_readsWord_11
noncomputable def M_line (σ : MS) : Option (MS) :=
  (M_knownWord σ).bind fun q1 =>
  ((if q1 = 2 then
      (((if (mf σ 25) = 9 then
          (some 1)
        else
          (some 0) : Option Int32)).bind fun r40 =>
      (M_begins σ r40 0).bind fun q41 =>
      if q41.1 = 0 then
        (some q41.2)
      else
        ((M_readsSheet q41.2).bind fun q43 =>
        some q43))
    else
      (if q1 = 9 then
        (((if (mf σ 26) = 6 then
            (some 1)
          else
            (some 0) : Option Int32)).bind fun r35 =>
        (M_begins σ r35 0).bind fun q36 =>
        if q36.1 = 0 then
          (some q36.2)
        else
          ((M_readsClerk q36.2).bind fun q38 =>
          some q38))
      else
        (if q1 = 10 then
          (((if (mf σ 27) = 12 then
              (some 1)
            else
              (some 0) : Option Int32)).bind fun r30 =>
          (M_begins σ r30 0).bind fun q31 =>
          if q31.1 = 0 then
            (some q31.2)
          else
            ((M_readsWord q31.2).bind fun q33 =>
            some q33))
        else
          (if q1 = 11 then
            (((if (mf σ 28) = (-1) then
                (some 0)
              else
                (some 1) : Option Int32)).bind fun r24 =>
            (M_begins σ 0 r24).bind fun q25 =>
            if q25.1 = 0 then
              (some q25.2)
            else
              ((M_number q25.2 0 8).bind fun q27 =>
              (pf q27.2 28 q27.1).bind fun s28 =>
              some s28))
          else
            (if q1 = 12 then
              (((if (mf σ 29) = (-1) then
                  (some 0)
                else
                  (some 1) : Option Int32)).bind fun r18 =>
              (M_begins σ 0 r18).bind fun q19 =>
              if q19.1 = 0 then
                (some q19.2)
              else
                ((pf q19.2 29 (mf q19.2 31)).bind fun s21 =>
                (M_expression s21 4 8).bind fun q22 =>
                some q22))
            else
              (if q1 = 13 then
                (((if (mf σ 30) = (-1) then
                    (some 0)
                  else
                    (some 1) : Option Int32)).bind fun r12 =>
                (M_begins σ 0 r12).bind fun q13 =>
                if q13.1 = 0 then
                  (some q13.2)
                else
                  ((pf q13.2 30 (mf q13.2 31)).bind fun s15 =>
                  (M_expression s15 0 5).bind fun q16 =>
                  some q16))
              else
                ((M_wrong σ 1).bind fun q11 =>
                some q11)))))) : Option MS)).bind fun r2 =>
  (M_isSign r2 59).bind fun q3 =>
  (M_need r2 q3).bind fun q4 =>
  some q4
theorem nm_X4_line : kNm yX4_line RX4 0 := by unfold kNm; decide +kernel
set_option maxHeartbeats 4000000 in
set_option maxRecDepth 100000 in
theorem wM_line (l : Launch) (G : va_G) (dT : Nat → ClassId) (o : Nat) (ad : Nat → Nat) (σ : MS) (z : MS) (h : M_line σ = some z) : Met l yX4_line (ws_ yX4_line cX4_line 2 none) (kRm 6 137) (mPc G dT o ad σ []) (va_Qv (fun (_ : Unit) => True) (fun _ t => MH G dT o ad z t.heap) (mAd o ad)) 0 0 (mAd o ad) := by
  refine m_startNv (cc := cX4_line) rfl rfl rfl (fun p e R s m args below meth c Q ls X hR hM hS hl hend => ?_)
  have hx := X.1.1
  have hb := X.1.2.1
  have hit := h
  clear h
  unfold M_line at hit
  have hl : lv_has ls 2 [(0, .ref o)] := hl
  refine lv_aload_n hx hb dX4_line_0 rfl (lv_at hl 0 rfl) ?_
  obtain ⟨q1, eq1, hit⟩ := o_bind hit
  refine m_cR X hM (wM_knownWord l G dT o ad _  _ eq1) nm_X4_knownWord q1874 q1876 q141 q1877 qs63 ⟨Nat.le_trans (Nat.le_of_ble_eq_true rfl) hR.1, Nat.le_trans (Nat.le_of_ble_eq_true rfl) hR.2⟩ rfl rfl hl.1 (lv_room (Nat.le_of_ble_eq_true rfl)) dX4_line_1 ?_
  refine lv_istore_n (lv' := [(1, .int q1), (0, .ref o)]) hx hb dX4_line_4 rfl hl (by decide) rfl (fun ls hl => ?_)
  refine lv_iload_n hx hb dX4_line_5 rfl (lv_at hl 0 rfl) ?_
  refine lv_iconst (v := 2) hx hb dX4_line_6 (by decide) ?_
  obtain ⟨r2, er2, hit⟩ := o_bind hit
  have hr2 : ∀ (H : Heap) (locs : List Loc) (ls : Array Slot), MH G dT o ad r2 H → va_S (mAd o ad) s.heap H locs → lv_has ls 2 [(0, .ref o)] → W p l e R s m args below meth c H locs 0 0 Q (F0 m 244 ls []) := by
    intro H locs ls hM hS hl
    refine lv_aload_n hx hb dX4_line_244 rfl (lv_at hl 0 rfl) ?_
    refine lv_aload_n hx hb dX4_line_245 rfl (lv_at hl 0 rfl) ?_
    refine lv_bipush (v := 59) hx hb dX4_line_246 (by decide) ?_
    obtain ⟨q3, eq3, hit⟩ := o_bind hit
    refine m_cR X hM (wM_isSign l G dT o ad _ _ _ eq3) nm_X4_isSign q1925 q1927 q141 q1928 qs74 ⟨Nat.le_trans (Nat.le_of_ble_eq_true rfl) hR.1, Nat.le_trans (Nat.le_of_ble_eq_true rfl) hR.2⟩ rfl rfl hl.1 (lv_room (Nat.le_of_ble_eq_true rfl)) dX4_line_248 ?_
    obtain ⟨q4, eq4, hit⟩ := o_bind hit
    refine m_cNv X hM hS (wM_need l G dT o ad _ _ _ eq4) nm_X4_need q1963 q1965 q141 q1966 qs82 ⟨Nat.le_trans (Nat.le_of_ble_eq_true rfl) hR.1, Nat.le_trans (Nat.le_of_ble_eq_true rfl) hR.2⟩ rfl rfl hl.1 (lv_room (Nat.le_of_ble_eq_true rfl)) dX4_line_251 (fun H locs hM hS => ?_)
    have he := o_in hit
    exact hend _ _ _ _ _ he hM hS dX4_line_254
  have hit := er2
  refine b_icmp_ne (tgt := 39) hx hb dX4_line_7 (by decide) hit (fun c5 hit => ?_) (fun c5 hit => ?_)
  · refine lv_iload_n hx hb dX4_line_39 rfl (lv_at hl 0 rfl) ?_
    refine lv_bipush (v := 9) hx hb dX4_line_40 (by decide) ?_
    refine b_icmp_ne (tgt := 74) hx hb dX4_line_42 (by decide) hit (fun c6 hit => ?_) (fun c6 hit => ?_)
    · refine lv_iload_n hx hb dX4_line_74 rfl (lv_at hl 0 rfl) ?_
      refine lv_bipush (v := 10) hx hb dX4_line_75 (by decide) ?_
      refine b_icmp_ne (tgt := 109) hx hb dX4_line_77 (by decide) hit (fun c7 hit => ?_) (fun c7 hit => ?_)
      · refine lv_iload_n hx hb dX4_line_109 rfl (lv_at hl 0 rfl) ?_
        refine lv_bipush (v := 11) hx hb dX4_line_110 (by decide) ?_
        refine b_icmp_ne (tgt := 150) hx hb dX4_line_112 (by decide) hit (fun c8 hit => ?_) (fun c8 hit => ?_)
        · refine lv_iload_n hx hb dX4_line_150 rfl (lv_at hl 0 rfl) ?_
          refine lv_bipush (v := 12) hx hb dX4_line_151 (by decide) ?_
          refine b_icmp_ne (tgt := 195) hx hb dX4_line_153 (by decide) hit (fun c9 hit => ?_) (fun c9 hit => ?_)
          · refine lv_iload_n hx hb dX4_line_195 rfl (lv_at hl 0 rfl) ?_
            refine lv_bipush (v := 13) hx hb dX4_line_196 (by decide) ?_
            refine b_icmp_ne (tgt := 239) hx hb dX4_line_198 (by decide) hit (fun c10 hit => ?_) (fun c10 hit => ?_)
            · refine lv_aload_n hx hb dX4_line_239 rfl (lv_at hl 1 rfl) ?_
              refine lv_iconst (v := 1) hx hb dX4_line_240 (by decide) ?_
              obtain ⟨q11, eq11, hit⟩ := o_bind hit
              refine m_cNv X hM hS (wM_wrong l G dT o ad _ _ _ eq11) nm_X4_wrong q1889 q1891 q141 q1892 qs65 ⟨Nat.le_trans (Nat.le_of_ble_eq_true rfl) hR.1, Nat.le_trans (Nat.le_of_ble_eq_true rfl) hR.2⟩ rfl rfl hl.1 (lv_room (Nat.le_of_ble_eq_true rfl)) dX4_line_241 (fun H locs hM hS => ?_)
              have he := o_in hit
              subst he
              exact hr2 _ _ _ hM hS (lv_sub hl [1] rfl)
            · refine lv_aload_n hx hb dX4_line_201 rfl (lv_at hl 1 rfl) ?_
              refine lv_iconst (v := 0) hx hb dX4_line_202 (by decide) ?_
              refine lv_aload_n hx hb dX4_line_203 rfl (lv_at hl 1 rfl) ?_
              refine m_get X hM 30 q1674 rfl rfl (v := .int (mf σ 30)) rfl dX4_line_204 ?_
              refine lv_iconst (v := (-1)) hx hb dX4_line_207 (by decide) ?_
              obtain ⟨r12, er12, hit⟩ := o_bind hit
              have hr12 : ∀ (H : Heap) (locs : List Loc) (ls : Array Slot), MH G dT o ad σ H → va_S (mAd o ad) s.heap H locs → lv_has ls 2 [(0, .ref o)] → W p l e R s m args below meth c H locs 0 0 Q (F0 m 216 ls [.int r12, .int 0, .ref o]) := by
                intro H locs ls hM hS hl
                obtain ⟨q13, eq13, hit⟩ := o_bind hit
                refine m_cNi X hM hS (wM_begins l G dT o ad _ _ _ _ eq13) nm_X4_begins q1885 q1887 q141 q1888 qs64 ⟨Nat.le_trans (Nat.le_of_ble_eq_true rfl) hR.1, Nat.le_trans (Nat.le_of_ble_eq_true rfl) hR.2⟩ rfl rfl hl.1 (lv_room (Nat.le_of_ble_eq_true rfl)) dX4_line_216 (fun H locs hM hS => ?_)
                refine b_if_eq (tgt := 244) hx hb dX4_line_219 (by decide) hit (fun c14 hit => ?_) (fun c14 hit => ?_)
                · have he := o_in hit
                  subst he
                  exact hr2 _ _ _ hM hS hl
                · refine lv_aload_n hx hb dX4_line_222 rfl (lv_at hl 0 rfl) ?_
                  refine lv_aload_n hx hb dX4_line_223 rfl (lv_at hl 0 rfl) ?_
                  refine m_get X hM 31 q1675 rfl rfl (v := .int (mf q13.2 31)) rfl dX4_line_224 ?_
                  obtain ⟨s15, es15, hit⟩ := o_bind hit
                  refine m_put X hM hS 30 q1674 rfl rfl (ty := .int) rfl rfl rfl es15 dX4_line_227 (fun H locs hM hS => ?_)
                  refine lv_aload_n hx hb dX4_line_230 rfl (lv_at hl 0 rfl) ?_
                  refine lv_iconst (v := 0) hx hb dX4_line_231 (by decide) ?_
                  refine lv_iconst (v := 5) hx hb dX4_line_232 (by decide) ?_
                  obtain ⟨q16, eq16, hit⟩ := o_bind hit
                  refine m_cNv X hM hS (wM_expression l G dT o ad _ _ _ _ eq16) nm_X4_expression q1917 q1919 q141 q1920 qs72 ⟨Nat.le_trans (Nat.le_of_ble_eq_true rfl) hR.1, Nat.le_trans (Nat.le_of_ble_eq_true rfl) hR.2⟩ rfl rfl hl.1 (lv_room (Nat.le_of_ble_eq_true rfl)) dX4_line_233 (fun H locs hM hS => ?_)
                  refine lv_goto (tgt := 244) hx hb dX4_line_236 (by decide) ?_
                  have he := o_in hit
                  subst he
                  exact hr2 _ _ _ hM hS hl
              have hit := er12
              refine b_icmp_eq (tgt := 215) hx hb dX4_line_208 (by decide) hit (fun c17 hit => ?_) (fun c17 hit => ?_)
              · refine lv_iconst (v := 0) hx hb dX4_line_215 (by decide) ?_
                have he := o_in hit
                subst he
                exact hr12 _ _ _ hM hS (lv_sub hl [1] rfl)
              · refine lv_iconst (v := 1) hx hb dX4_line_211 (by decide) ?_
                refine lv_goto (tgt := 216) hx hb dX4_line_212 (by decide) ?_
                have he := o_in hit
                subst he
                exact hr12 _ _ _ hM hS (lv_sub hl [1] rfl)
          · refine lv_aload_n hx hb dX4_line_156 rfl (lv_at hl 1 rfl) ?_
            refine lv_iconst (v := 0) hx hb dX4_line_157 (by decide) ?_
            refine lv_aload_n hx hb dX4_line_158 rfl (lv_at hl 1 rfl) ?_
            refine m_get X hM 29 q1673 rfl rfl (v := .int (mf σ 29)) rfl dX4_line_159 ?_
            refine lv_iconst (v := (-1)) hx hb dX4_line_162 (by decide) ?_
            obtain ⟨r18, er18, hit⟩ := o_bind hit
            have hr18 : ∀ (H : Heap) (locs : List Loc) (ls : Array Slot), MH G dT o ad σ H → va_S (mAd o ad) s.heap H locs → lv_has ls 2 [(0, .ref o)] → W p l e R s m args below meth c H locs 0 0 Q (F0 m 171 ls [.int r18, .int 0, .ref o]) := by
              intro H locs ls hM hS hl
              obtain ⟨q19, eq19, hit⟩ := o_bind hit
              refine m_cNi X hM hS (wM_begins l G dT o ad _ _ _ _ eq19) nm_X4_begins q1885 q1887 q141 q1888 qs64 ⟨Nat.le_trans (Nat.le_of_ble_eq_true rfl) hR.1, Nat.le_trans (Nat.le_of_ble_eq_true rfl) hR.2⟩ rfl rfl hl.1 (lv_room (Nat.le_of_ble_eq_true rfl)) dX4_line_171 (fun H locs hM hS => ?_)
              refine b_if_eq (tgt := 244) hx hb dX4_line_174 (by decide) hit (fun c20 hit => ?_) (fun c20 hit => ?_)
              · have he := o_in hit
                subst he
                exact hr2 _ _ _ hM hS hl
              · refine lv_aload_n hx hb dX4_line_177 rfl (lv_at hl 0 rfl) ?_
                refine lv_aload_n hx hb dX4_line_178 rfl (lv_at hl 0 rfl) ?_
                refine m_get X hM 31 q1675 rfl rfl (v := .int (mf q19.2 31)) rfl dX4_line_179 ?_
                obtain ⟨s21, es21, hit⟩ := o_bind hit
                refine m_put X hM hS 29 q1673 rfl rfl (ty := .int) rfl rfl rfl es21 dX4_line_182 (fun H locs hM hS => ?_)
                refine lv_aload_n hx hb dX4_line_185 rfl (lv_at hl 0 rfl) ?_
                refine lv_iconst (v := 4) hx hb dX4_line_186 (by decide) ?_
                refine lv_bipush (v := 8) hx hb dX4_line_187 (by decide) ?_
                obtain ⟨q22, eq22, hit⟩ := o_bind hit
                refine m_cNv X hM hS (wM_expression l G dT o ad _ _ _ _ eq22) nm_X4_expression q1917 q1919 q141 q1920 qs72 ⟨Nat.le_trans (Nat.le_of_ble_eq_true rfl) hR.1, Nat.le_trans (Nat.le_of_ble_eq_true rfl) hR.2⟩ rfl rfl hl.1 (lv_room (Nat.le_of_ble_eq_true rfl)) dX4_line_189 (fun H locs hM hS => ?_)
                refine lv_goto (tgt := 244) hx hb dX4_line_192 (by decide) ?_
                have he := o_in hit
                subst he
                exact hr2 _ _ _ hM hS hl
            have hit := er18
            refine b_icmp_eq (tgt := 170) hx hb dX4_line_163 (by decide) hit (fun c23 hit => ?_) (fun c23 hit => ?_)
            · refine lv_iconst (v := 0) hx hb dX4_line_170 (by decide) ?_
              have he := o_in hit
              subst he
              exact hr18 _ _ _ hM hS (lv_sub hl [1] rfl)
            · refine lv_iconst (v := 1) hx hb dX4_line_166 (by decide) ?_
              refine lv_goto (tgt := 171) hx hb dX4_line_167 (by decide) ?_
              have he := o_in hit
              subst he
              exact hr18 _ _ _ hM hS (lv_sub hl [1] rfl)
        · refine lv_aload_n hx hb dX4_line_115 rfl (lv_at hl 1 rfl) ?_
          refine lv_iconst (v := 0) hx hb dX4_line_116 (by decide) ?_
          refine lv_aload_n hx hb dX4_line_117 rfl (lv_at hl 1 rfl) ?_
          refine m_get X hM 28 q1672 rfl rfl (v := .int (mf σ 28)) rfl dX4_line_118 ?_
          refine lv_iconst (v := (-1)) hx hb dX4_line_121 (by decide) ?_
          obtain ⟨r24, er24, hit⟩ := o_bind hit
          have hr24 : ∀ (H : Heap) (locs : List Loc) (ls : Array Slot), MH G dT o ad σ H → va_S (mAd o ad) s.heap H locs → lv_has ls 2 [(0, .ref o)] → W p l e R s m args below meth c H locs 0 0 Q (F0 m 130 ls [.int r24, .int 0, .ref o]) := by
            intro H locs ls hM hS hl
            obtain ⟨q25, eq25, hit⟩ := o_bind hit
            refine m_cNi X hM hS (wM_begins l G dT o ad _ _ _ _ eq25) nm_X4_begins q1885 q1887 q141 q1888 qs64 ⟨Nat.le_trans (Nat.le_of_ble_eq_true rfl) hR.1, Nat.le_trans (Nat.le_of_ble_eq_true rfl) hR.2⟩ rfl rfl hl.1 (lv_room (Nat.le_of_ble_eq_true rfl)) dX4_line_130 (fun H locs hM hS => ?_)
            refine b_if_eq (tgt := 244) hx hb dX4_line_133 (by decide) hit (fun c26 hit => ?_) (fun c26 hit => ?_)
            · have he := o_in hit
              subst he
              exact hr2 _ _ _ hM hS hl
            · refine lv_aload_n hx hb dX4_line_136 rfl (lv_at hl 0 rfl) ?_
              refine lv_aload_n hx hb dX4_line_137 rfl (lv_at hl 0 rfl) ?_
              refine lv_iconst (v := 0) hx hb dX4_line_138 (by decide) ?_
              refine lv_bipush (v := 8) hx hb dX4_line_139 (by decide) ?_
              obtain ⟨q27, eq27, hit⟩ := o_bind hit
              refine m_cNi X hM hS (wM_number l G dT o ad _ _ _ _ eq27) nm_X4_number q1897 q1899 q141 q1900 qs67 ⟨Nat.le_trans (Nat.le_of_ble_eq_true rfl) hR.1, Nat.le_trans (Nat.le_of_ble_eq_true rfl) hR.2⟩ rfl rfl hl.1 (lv_room (Nat.le_of_ble_eq_true rfl)) dX4_line_141 (fun H locs hM hS => ?_)
              obtain ⟨s28, es28, hit⟩ := o_bind hit
              refine m_put X hM hS 28 q1672 rfl rfl (ty := .int) rfl rfl rfl es28 dX4_line_144 (fun H locs hM hS => ?_)
              refine lv_goto (tgt := 244) hx hb dX4_line_147 (by decide) ?_
              have he := o_in hit
              subst he
              exact hr2 _ _ _ hM hS hl
          have hit := er24
          refine b_icmp_eq (tgt := 129) hx hb dX4_line_122 (by decide) hit (fun c29 hit => ?_) (fun c29 hit => ?_)
          · refine lv_iconst (v := 0) hx hb dX4_line_129 (by decide) ?_
            have he := o_in hit
            subst he
            exact hr24 _ _ _ hM hS (lv_sub hl [1] rfl)
          · refine lv_iconst (v := 1) hx hb dX4_line_125 (by decide) ?_
            refine lv_goto (tgt := 130) hx hb dX4_line_126 (by decide) ?_
            have he := o_in hit
            subst he
            exact hr24 _ _ _ hM hS (lv_sub hl [1] rfl)
      · refine lv_aload_n hx hb dX4_line_80 rfl (lv_at hl 1 rfl) ?_
        refine lv_aload_n hx hb dX4_line_81 rfl (lv_at hl 1 rfl) ?_
        refine m_get X hM 27 q1671 rfl rfl (v := .int (mf σ 27)) rfl dX4_line_82 ?_
        refine lv_bipush (v := 12) hx hb dX4_line_85 (by decide) ?_
        obtain ⟨r30, er30, hit⟩ := o_bind hit
        have hr30 : ∀ (H : Heap) (locs : List Loc) (ls : Array Slot), MH G dT o ad σ H → va_S (mAd o ad) s.heap H locs → lv_has ls 2 [(0, .ref o)] → W p l e R s m args below meth c H locs 0 0 Q (F0 m 95 ls [.int r30, .ref o]) := by
          intro H locs ls hM hS hl
          refine lv_iconst (v := 0) hx hb dX4_line_95 (by decide) ?_
          obtain ⟨q31, eq31, hit⟩ := o_bind hit
          refine m_cNi X hM hS (wM_begins l G dT o ad _ _ _ _ eq31) nm_X4_begins q1885 q1887 q141 q1888 qs64 ⟨Nat.le_trans (Nat.le_of_ble_eq_true rfl) hR.1, Nat.le_trans (Nat.le_of_ble_eq_true rfl) hR.2⟩ rfl rfl hl.1 (lv_room (Nat.le_of_ble_eq_true rfl)) dX4_line_96 (fun H locs hM hS => ?_)
          refine b_if_eq (tgt := 244) hx hb dX4_line_99 (by decide) hit (fun c32 hit => ?_) (fun c32 hit => ?_)
          · have he := o_in hit
            subst he
            exact hr2 _ _ _ hM hS hl
          · refine lv_aload_n hx hb dX4_line_102 rfl (lv_at hl 0 rfl) ?_
            obtain ⟨q33, eq33, hit⟩ := o_bind hit
            refine m_cNv X hM hS (wM_readsWord l G dT o ad _  _ eq33) nm_X4_readsWord q1905 q1907 q141 q1908 qs69 ⟨Nat.le_trans (Nat.le_of_ble_eq_true rfl) hR.1, Nat.le_trans (Nat.le_of_ble_eq_true rfl) hR.2⟩ rfl rfl hl.1 (lv_room (Nat.le_of_ble_eq_true rfl)) dX4_line_103 (fun H locs hM hS => ?_)
            refine lv_goto (tgt := 244) hx hb dX4_line_106 (by decide) ?_
            have he := o_in hit
            subst he
            exact hr2 _ _ _ hM hS hl
        have hit := er30
        refine b_icmp_ne (tgt := 94) hx hb dX4_line_87 (by decide) hit (fun c34 hit => ?_) (fun c34 hit => ?_)
        · refine lv_iconst (v := 0) hx hb dX4_line_94 (by decide) ?_
          have he := o_in hit
          subst he
          exact hr30 _ _ _ hM hS (lv_sub hl [1] rfl)
        · refine lv_iconst (v := 1) hx hb dX4_line_90 (by decide) ?_
          refine lv_goto (tgt := 95) hx hb dX4_line_91 (by decide) ?_
          have he := o_in hit
          subst he
          exact hr30 _ _ _ hM hS (lv_sub hl [1] rfl)
    · refine lv_aload_n hx hb dX4_line_45 rfl (lv_at hl 1 rfl) ?_
      refine lv_aload_n hx hb dX4_line_46 rfl (lv_at hl 1 rfl) ?_
      refine m_get X hM 26 q1670 rfl rfl (v := .int (mf σ 26)) rfl dX4_line_47 ?_
      refine lv_bipush (v := 6) hx hb dX4_line_50 (by decide) ?_
      obtain ⟨r35, er35, hit⟩ := o_bind hit
      have hr35 : ∀ (H : Heap) (locs : List Loc) (ls : Array Slot), MH G dT o ad σ H → va_S (mAd o ad) s.heap H locs → lv_has ls 2 [(0, .ref o)] → W p l e R s m args below meth c H locs 0 0 Q (F0 m 60 ls [.int r35, .ref o]) := by
        intro H locs ls hM hS hl
        refine lv_iconst (v := 0) hx hb dX4_line_60 (by decide) ?_
        obtain ⟨q36, eq36, hit⟩ := o_bind hit
        refine m_cNi X hM hS (wM_begins l G dT o ad _ _ _ _ eq36) nm_X4_begins q1885 q1887 q141 q1888 qs64 ⟨Nat.le_trans (Nat.le_of_ble_eq_true rfl) hR.1, Nat.le_trans (Nat.le_of_ble_eq_true rfl) hR.2⟩ rfl rfl hl.1 (lv_room (Nat.le_of_ble_eq_true rfl)) dX4_line_61 (fun H locs hM hS => ?_)
        refine b_if_eq (tgt := 244) hx hb dX4_line_64 (by decide) hit (fun c37 hit => ?_) (fun c37 hit => ?_)
        · have he := o_in hit
          subst he
          exact hr2 _ _ _ hM hS hl
        · refine lv_aload_n hx hb dX4_line_67 rfl (lv_at hl 0 rfl) ?_
          obtain ⟨q38, eq38, hit⟩ := o_bind hit
          refine m_cNv X hM hS (wM_readsClerk l G dT o ad _  _ eq38) nm_X4_readsClerk q1901 q1903 q141 q1904 qs68 ⟨Nat.le_trans (Nat.le_of_ble_eq_true rfl) hR.1, Nat.le_trans (Nat.le_of_ble_eq_true rfl) hR.2⟩ rfl rfl hl.1 (lv_room (Nat.le_of_ble_eq_true rfl)) dX4_line_68 (fun H locs hM hS => ?_)
          refine lv_goto (tgt := 244) hx hb dX4_line_71 (by decide) ?_
          have he := o_in hit
          subst he
          exact hr2 _ _ _ hM hS hl
      have hit := er35
      refine b_icmp_ne (tgt := 59) hx hb dX4_line_52 (by decide) hit (fun c39 hit => ?_) (fun c39 hit => ?_)
      · refine lv_iconst (v := 0) hx hb dX4_line_59 (by decide) ?_
        have he := o_in hit
        subst he
        exact hr35 _ _ _ hM hS (lv_sub hl [1] rfl)
      · refine lv_iconst (v := 1) hx hb dX4_line_55 (by decide) ?_
        refine lv_goto (tgt := 60) hx hb dX4_line_56 (by decide) ?_
        have he := o_in hit
        subst he
        exact hr35 _ _ _ hM hS (lv_sub hl [1] rfl)
  · refine lv_aload_n hx hb dX4_line_10 rfl (lv_at hl 1 rfl) ?_
    refine lv_aload_n hx hb dX4_line_11 rfl (lv_at hl 1 rfl) ?_
    refine m_get X hM 25 q1669 rfl rfl (v := .int (mf σ 25)) rfl dX4_line_12 ?_
    refine lv_bipush (v := 9) hx hb dX4_line_15 (by decide) ?_
    obtain ⟨r40, er40, hit⟩ := o_bind hit
    have hr40 : ∀ (H : Heap) (locs : List Loc) (ls : Array Slot), MH G dT o ad σ H → va_S (mAd o ad) s.heap H locs → lv_has ls 2 [(0, .ref o)] → W p l e R s m args below meth c H locs 0 0 Q (F0 m 25 ls [.int r40, .ref o]) := by
      intro H locs ls hM hS hl
      refine lv_iconst (v := 0) hx hb dX4_line_25 (by decide) ?_
      obtain ⟨q41, eq41, hit⟩ := o_bind hit
      refine m_cNi X hM hS (wM_begins l G dT o ad _ _ _ _ eq41) nm_X4_begins q1885 q1887 q141 q1888 qs64 ⟨Nat.le_trans (Nat.le_of_ble_eq_true rfl) hR.1, Nat.le_trans (Nat.le_of_ble_eq_true rfl) hR.2⟩ rfl rfl hl.1 (lv_room (Nat.le_of_ble_eq_true rfl)) dX4_line_26 (fun H locs hM hS => ?_)
      refine b_if_eq (tgt := 244) hx hb dX4_line_29 (by decide) hit (fun c42 hit => ?_) (fun c42 hit => ?_)
      · have he := o_in hit
        subst he
        exact hr2 _ _ _ hM hS hl
      · refine lv_aload_n hx hb dX4_line_32 rfl (lv_at hl 0 rfl) ?_
        obtain ⟨q43, eq43, hit⟩ := o_bind hit
        refine m_cNv X hM hS (wM_readsSheet l G dT o ad _  _ eq43) nm_X4_readsSheet q1893 q1895 q141 q1896 qs66 ⟨Nat.le_trans (Nat.le_of_ble_eq_true rfl) hR.1, Nat.le_trans (Nat.le_of_ble_eq_true rfl) hR.2⟩ rfl rfl hl.1 (lv_room (Nat.le_of_ble_eq_true rfl)) dX4_line_33 (fun H locs hM hS => ?_)
        refine lv_goto (tgt := 244) hx hb dX4_line_36 (by decide) ?_
        have he := o_in hit
        subst he
        exact hr2 _ _ _ hM hS hl
    have hit := er40
    refine b_icmp_ne (tgt := 24) hx hb dX4_line_17 (by decide) hit (fun c44 hit => ?_) (fun c44 hit => ?_)
    · refine lv_iconst (v := 0) hx hb dX4_line_24 (by decide) ?_
      have he := o_in hit
      subst he
      exact hr40 _ _ _ hM hS (lv_sub hl [1] rfl)
    · refine lv_iconst (v := 1) hx hb dX4_line_20 (by decide) ?_
      refine lv_goto (tgt := 25) hx hb dX4_line_21 (by decide) ?_
      have he := o_in hit
      subst he
      exact hr40 _ _ _ hM hS (lv_sub hl [1] rfl)
noncomputable def M_office_L268 (t36 : Int32 × MS) : Option ((Int32 × MS) ⊕ MS) :=
  if t36.1 < 34 then
    ((ald t36.2 40 t36.1).bind fun v43 =>
    (ast t36.2 44 t36.1 v43).bind fun s44 =>
    some (.inl ((t36.1 + 1), s44)))
  else
    (some (.inr t36.2))
noncomputable def M_office_L103 (t19 : MS) : Option (MS ⊕ MS) :=
  (M_isGood t19).bind fun q48 =>
  if q48 = 0 then
    (some (.inr t19))
  else
    (if (mf t19 19) = 0 then
      (some (.inr t19))
    else
      ((M_line t19).bind fun q51 =>
      some (.inl q51)))
noncomputable def M_office (σ : MS) (a0 : Int32) : Option (Int32 × MS) :=
  (pf σ 0 0).bind fun s1 =>
  ((if a0 < 0 then
      (some 0)
    else
      (if a0 ≤ (mf s1 13) then
        (some 1)
      else
        (some 0)) : Option Int32)).bind fun r2 =>
  (M_right s1 r2 1).bind fun q3 =>
  if q3.1 = 0 then
    (some (0, q3.2))
  else
    ((pf q3.2 13 0).bind fun s5 =>
    (pf s5 15 (-1)).bind fun s6 =>
    (pf s6 14 0).bind fun s7 =>
    (pf s7 17 a0).bind fun s8 =>
    (pf s8 18 0).bind fun s9 =>
    (pf s9 25 0).bind fun s10 =>
    (pf s10 26 0).bind fun s11 =>
    (pf s11 27 0).bind fun s12 =>
    (pf s12 28 (-1)).bind fun s13 =>
    (pf s13 29 (-1)).bind fun s14 =>
    (pf s14 30 (-1)).bind fun s15 =>
    (ast s15 40 0 0).bind fun s16 =>
    (pf s16 31 0).bind fun s17 =>
    (M_goes s17).bind fun q18 =>
    (o_loop M_office_L103 q18).bind fun r21 =>
    (M_isGood r21).bind fun q22 =>
    if q22 = 0 then
      ((ald r21 16 0).bind fun v46 =>
      (ast r21 16 0 (v46 + 1)).bind fun s47 =>
      some ((mf s47 14), s47))
    else
      ((pf r21 1 (mf r21 25)).bind fun s24 =>
      (pf s24 2 (mf s24 26)).bind fun s25 =>
      (pf s25 3 (mf s25 27)).bind fun s26 =>
      ((if (mf s26 28) = (-1) then
          (some 0)
        else
          (some (mf s26 28)) : Option Int32)).bind fun r27 =>
      (pf s26 4 r27).bind fun s28 =>
      (pf s28 5 (mf s28 29)).bind fun s29 =>
      (pf s29 6 (mf s29 30)).bind fun s30 =>
      (M_copies s30 36 7).bind fun q31 =>
      (M_copies q31 37 8).bind fun q32 =>
      (M_copies q32 38 9).bind fun q33 =>
      (M_copies q33 39 10).bind fun q34 =>
      (M_copies q34 41 11).bind fun q35 =>
      (o_loop M_office_L268 (0, q35)).bind fun r38 =>
      (pf r38 46 0).bind fun s39 =>
      (pf s39 51 0).bind fun s40 =>
      (pf s40 56 0).bind fun s41 =>
      some (0, s41)))
theorem nm_X4_office : kNm yX4_office RX4 1 := by unfold kNm; decide +kernel
set_option maxHeartbeats 4000000 in
set_option maxRecDepth 100000 in
theorem wM_office (l : Launch) (G : va_G) (dT : Nat → ClassId) (o : Nat) (ad : Nat → Nat) (σ : MS) (a0 : Int32) (z : Int32 × MS) (h : M_office σ a0 = some z) : Met l yX4_office (ws_ yX4_office cX4_office 3 (some .int)) (kRm 7 158) (mPc G dT o ad σ [.int a0]) (va_Qi (fun r (_ : Unit) => r = z.1) (fun _ t => MH G dT o ad z.2 t.heap) (mAd o ad)) 0 0 (mAd o ad) := by
  refine m_startNi (cc := cX4_office) (ty := .int) rfl rfl rfl (fun p e R s m args below meth c Q ls X hR hM hS hl hend => ?_)
  have hx := X.1.1
  have hb := X.1.2.1
  have hit := h
  clear h
  unfold M_office at hit
  have hl : lv_has ls 3 [(0, .ref o), (1, .int a0)] := hl
  refine lv_aload_n hx hb dX4_office_0 rfl (lv_at hl 0 rfl) ?_
  refine lv_iconst (v := 0) hx hb dX4_office_1 (by decide) ?_
  obtain ⟨s1, es1, hit⟩ := o_bind hit
  refine m_put X hM hS 0 q1644 rfl rfl (ty := .int) rfl rfl rfl es1 dX4_office_2 (fun H locs hM hS => ?_)
  refine lv_aload_n hx hb dX4_office_5 rfl (lv_at hl 0 rfl) ?_
  refine lv_iload_n hx hb dX4_office_6 rfl (lv_at hl 1 rfl) ?_
  obtain ⟨r2, er2, hit⟩ := o_bind hit
  have hr2 : ∀ (H : Heap) (locs : List Loc) (ls : Array Slot), MH G dT o ad s1 H → va_S (mAd o ad) s.heap H locs → lv_has ls 3 [(0, .ref o), (1, .int a0)] → W p l e R s m args below meth c H locs 0 0 Q (F0 m 23 ls [.int r2, .ref o]) := by
    intro H locs ls hM hS hl
    refine lv_iconst (v := 1) hx hb dX4_office_23 (by decide) ?_
    obtain ⟨q3, eq3, hit⟩ := o_bind hit
    refine m_cNi X hM hS (wM_right l G dT o ad _ _ _ _ eq3) nm_X4_right q1848 q1850 q141 q1851 qs58 ⟨Nat.le_trans (Nat.le_of_ble_eq_true rfl) hR.1, Nat.le_trans (Nat.le_of_ble_eq_true rfl) hR.2⟩ rfl rfl hl.1 (lv_room (Nat.le_of_ble_eq_true rfl)) dX4_office_24 (fun H locs hM hS => ?_)
    refine b_if_ne (tgt := 32) hx hb dX4_office_27 (by decide) hit (fun c4 hit => ?_) (fun c4 hit => ?_)
    · refine lv_aload_n hx hb dX4_office_32 rfl (lv_at hl 0 rfl) ?_
      refine lv_iconst (v := 0) hx hb dX4_office_33 (by decide) ?_
      obtain ⟨s5, es5, hit⟩ := o_bind hit
      refine m_put X hM hS 13 q1657 rfl rfl (ty := .int) rfl rfl rfl es5 dX4_office_34 (fun H locs hM hS => ?_)
      refine lv_aload_n hx hb dX4_office_37 rfl (lv_at hl 0 rfl) ?_
      refine lv_iconst (v := (-1)) hx hb dX4_office_38 (by decide) ?_
      obtain ⟨s6, es6, hit⟩ := o_bind hit
      refine m_put X hM hS 15 q1659 rfl rfl (ty := .int) rfl rfl rfl es6 dX4_office_39 (fun H locs hM hS => ?_)
      refine lv_aload_n hx hb dX4_office_42 rfl (lv_at hl 0 rfl) ?_
      refine lv_iconst (v := 0) hx hb dX4_office_43 (by decide) ?_
      obtain ⟨s7, es7, hit⟩ := o_bind hit
      refine m_put X hM hS 14 q1658 rfl rfl (ty := .int) rfl rfl rfl es7 dX4_office_44 (fun H locs hM hS => ?_)
      refine lv_aload_n hx hb dX4_office_47 rfl (lv_at hl 0 rfl) ?_
      refine lv_iload_n hx hb dX4_office_48 rfl (lv_at hl 1 rfl) ?_
      obtain ⟨s8, es8, hit⟩ := o_bind hit
      refine m_put X hM hS 17 q1661 rfl rfl (ty := .int) rfl rfl rfl es8 dX4_office_49 (fun H locs hM hS => ?_)
      refine lv_aload_n hx hb dX4_office_52 rfl (lv_at hl 0 rfl) ?_
      refine lv_iconst (v := 0) hx hb dX4_office_53 (by decide) ?_
      obtain ⟨s9, es9, hit⟩ := o_bind hit
      refine m_put X hM hS 18 q1662 rfl rfl (ty := .int) rfl rfl rfl es9 dX4_office_54 (fun H locs hM hS => ?_)
      refine lv_aload_n hx hb dX4_office_57 rfl (lv_at hl 0 rfl) ?_
      refine lv_iconst (v := 0) hx hb dX4_office_58 (by decide) ?_
      obtain ⟨s10, es10, hit⟩ := o_bind hit
      refine m_put X hM hS 25 q1669 rfl rfl (ty := .int) rfl rfl rfl es10 dX4_office_59 (fun H locs hM hS => ?_)
      refine lv_aload_n hx hb dX4_office_62 rfl (lv_at hl 0 rfl) ?_
      refine lv_iconst (v := 0) hx hb dX4_office_63 (by decide) ?_
      obtain ⟨s11, es11, hit⟩ := o_bind hit
      refine m_put X hM hS 26 q1670 rfl rfl (ty := .int) rfl rfl rfl es11 dX4_office_64 (fun H locs hM hS => ?_)
      refine lv_aload_n hx hb dX4_office_67 rfl (lv_at hl 0 rfl) ?_
      refine lv_iconst (v := 0) hx hb dX4_office_68 (by decide) ?_
      obtain ⟨s12, es12, hit⟩ := o_bind hit
      refine m_put X hM hS 27 q1671 rfl rfl (ty := .int) rfl rfl rfl es12 dX4_office_69 (fun H locs hM hS => ?_)
      refine lv_aload_n hx hb dX4_office_72 rfl (lv_at hl 0 rfl) ?_
      refine lv_iconst (v := (-1)) hx hb dX4_office_73 (by decide) ?_
      obtain ⟨s13, es13, hit⟩ := o_bind hit
      refine m_put X hM hS 28 q1672 rfl rfl (ty := .int) rfl rfl rfl es13 dX4_office_74 (fun H locs hM hS => ?_)
      refine lv_aload_n hx hb dX4_office_77 rfl (lv_at hl 0 rfl) ?_
      refine lv_iconst (v := (-1)) hx hb dX4_office_78 (by decide) ?_
      obtain ⟨s14, es14, hit⟩ := o_bind hit
      refine m_put X hM hS 29 q1673 rfl rfl (ty := .int) rfl rfl rfl es14 dX4_office_79 (fun H locs hM hS => ?_)
      refine lv_aload_n hx hb dX4_office_82 rfl (lv_at hl 0 rfl) ?_
      refine lv_iconst (v := (-1)) hx hb dX4_office_83 (by decide) ?_
      obtain ⟨s15, es15, hit⟩ := o_bind hit
      refine m_put X hM hS 30 q1674 rfl rfl (ty := .int) rfl rfl rfl es15 dX4_office_84 (fun H locs hM hS => ?_)
      refine lv_aload_n hx hb dX4_office_87 rfl (lv_at hl 0 rfl) ?_
      refine m_get X hM 40 q1684 rfl rfl (v := .ref (ad 40)) rfl dX4_office_88 ?_
      refine lv_iconst (v := 0) hx hb dX4_office_91 (by decide) ?_
      refine lv_iconst (v := 0) hx hb dX4_office_92 (by decide) ?_
      obtain ⟨s16, es16, hit⟩ := o_bind hit
      refine m_iast X hM hS 11 40 rfl rfl es16 dX4_office_93 (fun H locs hM hS => ?_)
      refine lv_aload_n hx hb dX4_office_94 rfl (lv_at hl 0 rfl) ?_
      refine lv_iconst (v := 0) hx hb dX4_office_95 (by decide) ?_
      obtain ⟨s17, es17, hit⟩ := o_bind hit
      refine m_put X hM hS 31 q1675 rfl rfl (ty := .int) rfl rfl rfl es17 dX4_office_96 (fun H locs hM hS => ?_)
      refine lv_aload_n hx hb dX4_office_99 rfl (lv_at hl 0 rfl) ?_
      obtain ⟨q18, eq18, hit⟩ := o_bind hit
      refine m_cNv X hM hS (wM_goes l G dT o ad _  _ eq18) nm_X4_goes q1852 q1854 q141 q1855 qs59 ⟨Nat.le_trans (Nat.le_of_ble_eq_true rfl) hR.1, Nat.le_trans (Nat.le_of_ble_eq_true rfl) hR.2⟩ rfl rfl hl.1 (lv_room (Nat.le_of_ble_eq_true rfl)) dX4_office_100 (fun H locs hM hS => ?_)
      obtain ⟨r21, er21, hit⟩ := o_bind hit
      have hr21 : ∀ (H : Heap) (locs : List Loc) (ls : Array Slot), MH G dT o ad r21 H → va_S (mAd o ad) s.heap H locs → lv_has ls 3 [(0, .ref o)] → W p l e R s m args below meth c H locs 0 0 Q (F0 m 124 ls []) := by
        intro H locs ls hM hS hl
        refine lv_aload_n hx hb dX4_office_124 rfl (lv_at hl 0 rfl) ?_
        obtain ⟨q22, eq22, hit⟩ := o_bind hit
        refine m_cR X hM (wM_isGood l G dT o ad _  _ eq22) nm_X4_isGood q1866 q1868 q141 q1869 qs61 ⟨Nat.le_trans (Nat.le_of_ble_eq_true rfl) hR.1, Nat.le_trans (Nat.le_of_ble_eq_true rfl) hR.2⟩ rfl rfl hl.1 (lv_room (Nat.le_of_ble_eq_true rfl)) dX4_office_125 ?_
        refine b_if_ne (tgt := 146) hx hb dX4_office_128 (by decide) hit (fun c23 hit => ?_) (fun c23 hit => ?_)
        · refine lv_aload_n hx hb dX4_office_146 rfl (lv_at hl 0 rfl) ?_
          refine lv_aload_n hx hb dX4_office_147 rfl (lv_at hl 0 rfl) ?_
          refine m_get X hM 25 q1669 rfl rfl (v := .int (mf r21 25)) rfl dX4_office_148 ?_
          obtain ⟨s24, es24, hit⟩ := o_bind hit
          refine m_put X hM hS 1 q1645 rfl rfl (ty := .int) rfl rfl rfl es24 dX4_office_151 (fun H locs hM hS => ?_)
          refine lv_aload_n hx hb dX4_office_154 rfl (lv_at hl 0 rfl) ?_
          refine lv_aload_n hx hb dX4_office_155 rfl (lv_at hl 0 rfl) ?_
          refine m_get X hM 26 q1670 rfl rfl (v := .int (mf s24 26)) rfl dX4_office_156 ?_
          obtain ⟨s25, es25, hit⟩ := o_bind hit
          refine m_put X hM hS 2 q1646 rfl rfl (ty := .int) rfl rfl rfl es25 dX4_office_159 (fun H locs hM hS => ?_)
          refine lv_aload_n hx hb dX4_office_162 rfl (lv_at hl 0 rfl) ?_
          refine lv_aload_n hx hb dX4_office_163 rfl (lv_at hl 0 rfl) ?_
          refine m_get X hM 27 q1671 rfl rfl (v := .int (mf s25 27)) rfl dX4_office_164 ?_
          obtain ⟨s26, es26, hit⟩ := o_bind hit
          refine m_put X hM hS 3 q1647 rfl rfl (ty := .int) rfl rfl rfl es26 dX4_office_167 (fun H locs hM hS => ?_)
          refine lv_aload_n hx hb dX4_office_170 rfl (lv_at hl 0 rfl) ?_
          refine lv_aload_n hx hb dX4_office_171 rfl (lv_at hl 0 rfl) ?_
          refine m_get X hM 28 q1672 rfl rfl (v := .int (mf s26 28)) rfl dX4_office_172 ?_
          refine lv_iconst (v := (-1)) hx hb dX4_office_175 (by decide) ?_
          obtain ⟨r27, er27, hit⟩ := o_bind hit
          have hr27 : ∀ (H : Heap) (locs : List Loc) (ls : Array Slot), MH G dT o ad s26 H → va_S (mAd o ad) s.heap H locs → lv_has ls 3 [(0, .ref o)] → W p l e R s m args below meth c H locs 0 0 Q (F0 m 187 ls [.int r27, .ref o]) := by
            intro H locs ls hM hS hl
            obtain ⟨s28, es28, hit⟩ := o_bind hit
            refine m_put X hM hS 4 q1648 rfl rfl (ty := .int) rfl rfl rfl es28 dX4_office_187 (fun H locs hM hS => ?_)
            refine lv_aload_n hx hb dX4_office_190 rfl (lv_at hl 0 rfl) ?_
            refine lv_aload_n hx hb dX4_office_191 rfl (lv_at hl 0 rfl) ?_
            refine m_get X hM 29 q1673 rfl rfl (v := .int (mf s28 29)) rfl dX4_office_192 ?_
            obtain ⟨s29, es29, hit⟩ := o_bind hit
            refine m_put X hM hS 5 q1649 rfl rfl (ty := .int) rfl rfl rfl es29 dX4_office_195 (fun H locs hM hS => ?_)
            refine lv_aload_n hx hb dX4_office_198 rfl (lv_at hl 0 rfl) ?_
            refine lv_aload_n hx hb dX4_office_199 rfl (lv_at hl 0 rfl) ?_
            refine m_get X hM 30 q1674 rfl rfl (v := .int (mf s29 30)) rfl dX4_office_200 ?_
            obtain ⟨s30, es30, hit⟩ := o_bind hit
            refine m_put X hM hS 6 q1650 rfl rfl (ty := .int) rfl rfl rfl es30 dX4_office_203 (fun H locs hM hS => ?_)
            refine lv_aload_n hx hb dX4_office_206 rfl (lv_at hl 0 rfl) ?_
            refine lv_aload_n hx hb dX4_office_207 rfl (lv_at hl 0 rfl) ?_
            refine m_get X hM 36 q1680 rfl rfl (v := .ref (ad 36)) rfl dX4_office_208 ?_
            refine lv_aload_n hx hb dX4_office_211 rfl (lv_at hl 0 rfl) ?_
            refine m_get X hM 7 q1651 rfl rfl (v := .ref (ad 7)) rfl dX4_office_212 ?_
            obtain ⟨q31, eq31, hit⟩ := o_bind hit
            refine m_cNv X hM hS (wM_copies l G dT o ad _ _ _ _ 7 rfl rfl 0 rfl rfl eq31) nm_X4_copies q1967 q1969 q141 q1970 qs83 ⟨Nat.le_trans (Nat.le_of_ble_eq_true rfl) hR.1, Nat.le_trans (Nat.le_of_ble_eq_true rfl) hR.2⟩ rfl rfl hl.1 (lv_room (Nat.le_of_ble_eq_true rfl)) dX4_office_215 (fun H locs hM hS => ?_)
            refine lv_aload_n hx hb dX4_office_218 rfl (lv_at hl 0 rfl) ?_
            refine lv_aload_n hx hb dX4_office_219 rfl (lv_at hl 0 rfl) ?_
            refine m_get X hM 37 q1681 rfl rfl (v := .ref (ad 37)) rfl dX4_office_220 ?_
            refine lv_aload_n hx hb dX4_office_223 rfl (lv_at hl 0 rfl) ?_
            refine m_get X hM 8 q1652 rfl rfl (v := .ref (ad 8)) rfl dX4_office_224 ?_
            obtain ⟨q32, eq32, hit⟩ := o_bind hit
            refine m_cNv X hM hS (wM_copies l G dT o ad _ _ _ _ 8 rfl rfl 1 rfl rfl eq32) nm_X4_copies q1967 q1969 q141 q1970 qs83 ⟨Nat.le_trans (Nat.le_of_ble_eq_true rfl) hR.1, Nat.le_trans (Nat.le_of_ble_eq_true rfl) hR.2⟩ rfl rfl hl.1 (lv_room (Nat.le_of_ble_eq_true rfl)) dX4_office_227 (fun H locs hM hS => ?_)
            refine lv_aload_n hx hb dX4_office_230 rfl (lv_at hl 0 rfl) ?_
            refine lv_aload_n hx hb dX4_office_231 rfl (lv_at hl 0 rfl) ?_
            refine m_get X hM 38 q1682 rfl rfl (v := .ref (ad 38)) rfl dX4_office_232 ?_
            refine lv_aload_n hx hb dX4_office_235 rfl (lv_at hl 0 rfl) ?_
            refine m_get X hM 9 q1653 rfl rfl (v := .ref (ad 9)) rfl dX4_office_236 ?_
            obtain ⟨q33, eq33, hit⟩ := o_bind hit
            refine m_cNv X hM hS (wM_copies l G dT o ad _ _ _ _ 9 rfl rfl 2 rfl rfl eq33) nm_X4_copies q1967 q1969 q141 q1970 qs83 ⟨Nat.le_trans (Nat.le_of_ble_eq_true rfl) hR.1, Nat.le_trans (Nat.le_of_ble_eq_true rfl) hR.2⟩ rfl rfl hl.1 (lv_room (Nat.le_of_ble_eq_true rfl)) dX4_office_239 (fun H locs hM hS => ?_)
            refine lv_aload_n hx hb dX4_office_242 rfl (lv_at hl 0 rfl) ?_
            refine lv_aload_n hx hb dX4_office_243 rfl (lv_at hl 0 rfl) ?_
            refine m_get X hM 39 q1683 rfl rfl (v := .ref (ad 39)) rfl dX4_office_244 ?_
            refine lv_aload_n hx hb dX4_office_247 rfl (lv_at hl 0 rfl) ?_
            refine m_get X hM 10 q1654 rfl rfl (v := .ref (ad 10)) rfl dX4_office_248 ?_
            obtain ⟨q34, eq34, hit⟩ := o_bind hit
            refine m_cNv X hM hS (wM_copies l G dT o ad _ _ _ _ 10 rfl rfl 3 rfl rfl eq34) nm_X4_copies q1967 q1969 q141 q1970 qs83 ⟨Nat.le_trans (Nat.le_of_ble_eq_true rfl) hR.1, Nat.le_trans (Nat.le_of_ble_eq_true rfl) hR.2⟩ rfl rfl hl.1 (lv_room (Nat.le_of_ble_eq_true rfl)) dX4_office_251 (fun H locs hM hS => ?_)
            refine lv_aload_n hx hb dX4_office_254 rfl (lv_at hl 0 rfl) ?_
            refine lv_aload_n hx hb dX4_office_255 rfl (lv_at hl 0 rfl) ?_
            refine m_get X hM 41 q1685 rfl rfl (v := .ref (ad 41)) rfl dX4_office_256 ?_
            refine lv_aload_n hx hb dX4_office_259 rfl (lv_at hl 0 rfl) ?_
            refine m_get X hM 11 q1655 rfl rfl (v := .ref (ad 11)) rfl dX4_office_260 ?_
            obtain ⟨q35, eq35, hit⟩ := o_bind hit
            refine m_cNv X hM hS (wM_copies l G dT o ad _ _ _ _ 12 rfl rfl 4 rfl rfl eq35) nm_X4_copies q1967 q1969 q141 q1970 qs83 ⟨Nat.le_trans (Nat.le_of_ble_eq_true rfl) hR.1, Nat.le_trans (Nat.le_of_ble_eq_true rfl) hR.2⟩ rfl rfl hl.1 (lv_room (Nat.le_of_ble_eq_true rfl)) dX4_office_263 (fun H locs hM hS => ?_)
            refine lv_iconst (v := 0) hx hb dX4_office_266 (by decide) ?_
            refine lv_istore_n (lv' := [(2, .int 0), (0, .ref o)]) hx hb dX4_office_267 rfl hl (by decide) rfl (fun ls hl => ?_)
            obtain ⟨r38, er38, hit⟩ := o_bind hit
            have hr38 : ∀ (H : Heap) (locs : List Loc) (ls : Array Slot), MH G dT o ad r38 H → va_S (mAd o ad) s.heap H locs → lv_has ls 3 [(0, .ref o)] → W p l e R s m args below meth c H locs 0 0 Q (F0 m 292 ls []) := by
              intro H locs ls hM hS hl
              refine lv_aload_n hx hb dX4_office_292 rfl (lv_at hl 0 rfl) ?_
              refine lv_iconst (v := 0) hx hb dX4_office_293 (by decide) ?_
              obtain ⟨s39, es39, hit⟩ := o_bind hit
              refine m_put X hM hS 46 q1690 rfl rfl (ty := .int) rfl rfl rfl es39 dX4_office_294 (fun H locs hM hS => ?_)
              refine lv_aload_n hx hb dX4_office_297 rfl (lv_at hl 0 rfl) ?_
              refine lv_iconst (v := 0) hx hb dX4_office_298 (by decide) ?_
              obtain ⟨s40, es40, hit⟩ := o_bind hit
              refine m_put X hM hS 51 q1695 rfl rfl (ty := .int) rfl rfl rfl es40 dX4_office_299 (fun H locs hM hS => ?_)
              refine lv_aload_n hx hb dX4_office_302 rfl (lv_at hl 0 rfl) ?_
              refine lv_iconst (v := 0) hx hb dX4_office_303 (by decide) ?_
              obtain ⟨s41, es41, hit⟩ := o_bind hit
              refine m_put X hM hS 56 q1700 rfl rfl (ty := .boolean) rfl rfl rfl es41 dX4_office_304 (fun H locs hM hS => ?_)
              refine lv_iconst (v := 0) hx hb dX4_office_307 (by decide) ?_
              have he := o_in hit
              exact hend _ 0 _ _ _ _ _ rfl he hM hS dX4_office_308
            refine o_rec (P := fun t36 => ∀ (H : Heap) (locs : List Loc) (ls : Array Slot), MH G dT o ad t36.2 H → va_S (mAd o ad) s.heap H locs → lv_has ls 3 [(0, .ref o), (2, .int t36.1)] → W p l e R s m args below meth c H locs 0 0 Q (F0 m 268 ls [])) (fun t36 x37 hit hC36 hE36 H locs ls hM hS hl => ?_) _ er38 _ _ _ hM hS (lv_sub hl [1, 0] rfl)
            unfold M_office_L268 at hit
            refine lv_iload_n hx hb dX4_office_268 rfl (lv_at hl 1 rfl) ?_
            refine lv_bipush (v := 34) hx hb dX4_office_269 (by decide) ?_
            refine b_icmp_ge (tgt := 292) hx hb dX4_office_271 (by decide) hit (fun c42 hit => ?_) (fun c42 hit => ?_)
            · have he := o_in hit
              have he := hE36 _ he
              subst he
              exact hr38 _ _ _ hM hS (lv_sub hl [0] rfl)
            · refine lv_aload_n hx hb dX4_office_274 rfl (lv_at hl 0 rfl) ?_
              refine m_get X hM 44 q1688 rfl rfl (v := .ref (ad 44)) rfl dX4_office_275 ?_
              refine lv_iload_n hx hb dX4_office_278 rfl (lv_at hl 1 rfl) ?_
              refine lv_aload_n hx hb dX4_office_279 rfl (lv_at hl 0 rfl) ?_
              refine m_get X hM 40 q1684 rfl rfl (v := .ref (ad 40)) rfl dX4_office_280 ?_
              refine lv_iload_n hx hb dX4_office_283 rfl (lv_at hl 1 rfl) ?_
              obtain ⟨v43, ev43, hit⟩ := o_bind hit
              refine m_iald X hM 11 40 rfl rfl ev43 dX4_office_284 ?_
              obtain ⟨s44, es44, hit⟩ := o_bind hit
              refine m_iast X hM hS 15 44 rfl rfl es44 dX4_office_285 (fun H locs hM hS => ?_)
              refine lv_iinc (k := 1) (v := (t36.1 + 1)) (lv' := [(2, .int (t36.1 + 1)), (0, .ref o)]) hx hb dX4_office_286 hl rfl rfl (by decide) rfl (fun ls hl => ?_)
              refine lv_goto (tgt := 268) hx hb dX4_office_289 (by decide) ?_
              have he := o_in hit
              exact hC36 _ he _ _ _ hM hS (lv_sub hl [1, 0] rfl)
          have hit := er27
          refine b_icmp_ne (tgt := 183) hx hb dX4_office_176 (by decide) hit (fun c45 hit => ?_) (fun c45 hit => ?_)
          · refine lv_aload_n hx hb dX4_office_183 rfl (lv_at hl 0 rfl) ?_
            refine m_get X hM 28 q1672 rfl rfl (v := .int (mf s26 28)) rfl dX4_office_184 ?_
            have he := o_in hit
            subst he
            exact hr27 _ _ _ hM hS hl
          · refine lv_iconst (v := 0) hx hb dX4_office_179 (by decide) ?_
            refine lv_goto (tgt := 187) hx hb dX4_office_180 (by decide) ?_
            have he := o_in hit
            subst he
            exact hr27 _ _ _ hM hS hl
        · refine lv_aload_n hx hb dX4_office_131 rfl (lv_at hl 0 rfl) ?_
          refine m_get X hM 16 q1660 rfl rfl (v := .ref (ad 16)) rfl dX4_office_132 ?_
          refine lv_iconst (v := 0) hx hb dX4_office_135 (by decide) ?_
          refine lv_dup2_11 hx hb dX4_office_136 rfl rfl ?_
          obtain ⟨v46, ev46, hit⟩ := o_bind hit
          refine m_iald X hM 6 16 rfl rfl ev46 dX4_office_137 ?_
          refine lv_iconst (v := 1) hx hb dX4_office_138 (by decide) ?_
          refine lv_iadd hx hb dX4_office_139 ?_
          obtain ⟨s47, es47, hit⟩ := o_bind hit
          refine m_iast X hM hS 6 16 rfl rfl es47 dX4_office_140 (fun H locs hM hS => ?_)
          refine lv_aload_n hx hb dX4_office_141 rfl (lv_at hl 0 rfl) ?_
          refine m_get X hM 14 q1658 rfl rfl (v := .int (mf s47 14)) rfl dX4_office_142 ?_
          have he := o_in hit
          exact hend _ (mf s47 14) _ _ _ _ _ rfl he hM hS dX4_office_145
      refine o_rec (P := fun t19 => ∀ (H : Heap) (locs : List Loc) (ls : Array Slot), MH G dT o ad t19 H → va_S (mAd o ad) s.heap H locs → lv_has ls 3 [(0, .ref o)] → W p l e R s m args below meth c H locs 0 0 Q (F0 m 103 ls [])) (fun t19 x20 hit hC19 hE19 H locs ls hM hS hl => ?_) _ er21 _ _ _ hM hS (lv_sub hl [0] rfl)
      unfold M_office_L103 at hit
      refine lv_aload_n hx hb dX4_office_103 rfl (lv_at hl 0 rfl) ?_
      obtain ⟨q48, eq48, hit⟩ := o_bind hit
      refine m_cR X hM (wM_isGood l G dT o ad _  _ eq48) nm_X4_isGood q1866 q1868 q141 q1869 qs61 ⟨Nat.le_trans (Nat.le_of_ble_eq_true rfl) hR.1, Nat.le_trans (Nat.le_of_ble_eq_true rfl) hR.2⟩ rfl rfl hl.1 (lv_room (Nat.le_of_ble_eq_true rfl)) dX4_office_104 ?_
      refine b_if_eq (tgt := 124) hx hb dX4_office_107 (by decide) hit (fun c49 hit => ?_) (fun c49 hit => ?_)
      · have he := o_in hit
        have he := hE19 _ he
        subst he
        exact hr21 _ _ _ hM hS hl
      · refine lv_aload_n hx hb dX4_office_110 rfl (lv_at hl 0 rfl) ?_
        refine m_get X hM 19 q1663 rfl rfl (v := .int (mf t19 19)) rfl dX4_office_111 ?_
        refine b_if_eq (tgt := 124) hx hb dX4_office_114 (by decide) hit (fun c50 hit => ?_) (fun c50 hit => ?_)
        · have he := o_in hit
          have he := hE19 _ he
          subst he
          exact hr21 _ _ _ hM hS hl
        · refine lv_aload_n hx hb dX4_office_117 rfl (lv_at hl 0 rfl) ?_
          obtain ⟨q51, eq51, hit⟩ := o_bind hit
          refine m_cNv X hM hS (wM_line l G dT o ad _  _ eq51) nm_X4_line q1870 q1872 q141 q1873 qs62 ⟨Nat.le_trans (Nat.le_of_ble_eq_true rfl) hR.1, Nat.le_trans (Nat.le_of_ble_eq_true rfl) hR.2⟩ rfl rfl hl.1 (lv_room (Nat.le_of_ble_eq_true rfl)) dX4_office_118 (fun H locs hM hS => ?_)
          refine lv_goto (tgt := 103) hx hb dX4_office_121 (by decide) ?_
          have he := o_in hit
          exact hC19 _ he _ _ _ hM hS hl
    · refine lv_iconst (v := 0) hx hb dX4_office_30 (by decide) ?_
      have he := o_in hit
      exact hend _ 0 _ _ _ _ _ rfl he hM hS dX4_office_31
  have hit := er2
  refine b_if_lt (tgt := 22) hx hb dX4_office_7 (by decide) hit (fun c52 hit => ?_) (fun c52 hit => ?_)
  · refine lv_iconst (v := 0) hx hb dX4_office_22 (by decide) ?_
    have he := o_in hit
    subst he
    exact hr2 _ _ _ hM hS hl
  · refine lv_iload_n hx hb dX4_office_10 rfl (lv_at hl 1 rfl) ?_
    refine lv_aload_n hx hb dX4_office_11 rfl (lv_at hl 0 rfl) ?_
    refine m_get X hM 13 q1657 rfl rfl (v := .int (mf s1 13)) rfl dX4_office_12 ?_
    refine b_icmp_gt (tgt := 22) hx hb dX4_office_15 (by decide) hit (fun c53 hit => ?_) (fun c53 hit => ?_)
    · refine lv_iconst (v := 0) hx hb dX4_office_22 (by decide) ?_
      have he := o_in hit
      subst he
      exact hr2 _ _ _ hM hS hl
    · refine lv_iconst (v := 1) hx hb dX4_office_18 (by decide) ?_
      refine lv_goto (tgt := 23) hx hb dX4_office_19 (by decide) ?_
      have he := o_in hit
      subst he
      exact hr2 _ _ _ hM hS hl
noncomputable def M_fault (σ : MS) : Option (Int32 × MS) :=
  (pf σ 0 0).bind fun s1 =>
  some ((mf s1 15), s1)
theorem nm_X4_fault : kNm yX4_fault RX4 0 := by unfold kNm; decide +kernel
set_option maxHeartbeats 4000000 in
set_option maxRecDepth 100000 in
theorem wM_fault (l : Launch) (G : va_G) (dT : Nat → ClassId) (o : Nat) (ad : Nat → Nat) (σ : MS) (z : Int32 × MS) (h : M_fault σ = some z) : Met l yX4_fault (ws_ yX4_fault cX4_fault 1 (some .int)) (kRm 0 0) (mPc G dT o ad σ []) (va_Qi (fun r (_ : Unit) => r = z.1) (fun _ t => MH G dT o ad z.2 t.heap) (mAd o ad)) 0 0 (mAd o ad) := by
  refine m_startNi (cc := cX4_fault) (ty := .int) rfl rfl rfl (fun p e R s m args below meth c Q ls X hR hM hS hl hend => ?_)
  have hx := X.1.1
  have hb := X.1.2.1
  have hit := h
  clear h
  unfold M_fault at hit
  have hl : lv_has ls 1 [(0, .ref o)] := hl
  refine lv_aload_n hx hb dX4_fault_0 rfl (lv_at hl 0 rfl) ?_
  refine lv_iconst (v := 0) hx hb dX4_fault_1 (by decide) ?_
  obtain ⟨s1, es1, hit⟩ := o_bind hit
  refine m_put X hM hS 0 q1644 rfl rfl (ty := .int) rfl rfl rfl es1 dX4_fault_2 (fun H locs hM hS => ?_)
  refine lv_aload_n hx hb dX4_fault_5 rfl (lv_at hl 0 rfl) ?_
  refine m_get X hM 15 q1659 rfl rfl (v := .int (mf s1 15)) rfl dX4_fault_6 ?_
  have he := o_in hit
  exact hend _ (mf s1 15) _ _ _ _ _ rfl he hM hS dX4_fault_9
noncomputable def M_keeps_L52 (t2 : Int32 × MS) : Option ((Int32 × MS) ⊕ MS) :=
  if t2.1 < 34 then
    ((ald t2.2 44 t2.1).bind fun v7 =>
    (ast t2.2 45 ((34 * (mf t2.2 46)) + t2.1) v7).bind fun s8 =>
    some (.inl ((t2.1 + 1), s8)))
  else
    (some (.inr t2.2))
noncomputable def M_keeps_L12 (t10 : Int32 × MS) : Option ((Int32 × MS) ⊕ MS) :=
  if t10.1 < 1360 then
    ((ald t10.2 45 t10.1).bind fun v15 =>
    (ast t10.2 45 (t10.1 - 34) v15).bind fun s16 =>
    some (.inl ((t10.1 + 1), s16)))
  else
    (some (.inr t10.2))
noncomputable def M_keeps (σ : MS) : Option (MS) :=
  ((if (mf σ 46) = 40 then
      ((o_loop M_keeps_L12 (34, σ)).bind fun r12 =>
      (pf r12 46 ((mf r12 46) - 1)).bind fun s13 =>
      some s13)
    else
      (some σ) : Option MS)).bind fun r1 =>
  (o_loop M_keeps_L52 (0, r1)).bind fun r4 =>
  (pf r4 46 ((mf r4 46) + 1)).bind fun s5 =>
  some s5
theorem nm_X4_keeps : kNm yX4_keeps RX4 0 := by unfold kNm; decide +kernel
set_option maxHeartbeats 4000000 in
set_option maxRecDepth 100000 in
theorem wM_keeps (l : Launch) (G : va_G) (dT : Nat → ClassId) (o : Nat) (ad : Nat → Nat) (σ : MS) (z : MS) (h : M_keeps σ = some z) : Met l yX4_keeps (ws_ yX4_keeps cX4_keeps 2 none) (kRm 0 0) (mPc G dT o ad σ []) (va_Qv (fun (_ : Unit) => True) (fun _ t => MH G dT o ad z t.heap) (mAd o ad)) 0 0 (mAd o ad) := by
  refine m_startNv (cc := cX4_keeps) rfl rfl rfl (fun p e R s m args below meth c Q ls X hR hM hS hl hend => ?_)
  have hx := X.1.1
  have hb := X.1.2.1
  have hit := h
  clear h
  unfold M_keeps at hit
  have hl : lv_has ls 2 [(0, .ref o)] := hl
  refine lv_aload_n hx hb dX4_keeps_0 rfl (lv_at hl 0 rfl) ?_
  refine m_get X hM 46 q1690 rfl rfl (v := .int (mf σ 46)) rfl dX4_keeps_1 ?_
  refine lv_bipush (v := 40) hx hb dX4_keeps_4 (by decide) ?_
  obtain ⟨r1, er1, hit⟩ := o_bind hit
  have hr1 : ∀ (H : Heap) (locs : List Loc) (ls : Array Slot), MH G dT o ad r1 H → va_S (mAd o ad) s.heap H locs → lv_has ls 2 [(0, .ref o)] → W p l e R s m args below meth c H locs 0 0 Q (F0 m 50 ls []) := by
    intro H locs ls hM hS hl
    refine lv_iconst (v := 0) hx hb dX4_keeps_50 (by decide) ?_
    refine lv_istore_n (lv' := [(1, .int 0), (0, .ref o)]) hx hb dX4_keeps_51 rfl hl (by decide) rfl (fun ls hl => ?_)
    obtain ⟨r4, er4, hit⟩ := o_bind hit
    have hr4 : ∀ (H : Heap) (locs : List Loc) (ls : Array Slot), MH G dT o ad r4 H → va_S (mAd o ad) s.heap H locs → lv_has ls 2 [(0, .ref o)] → W p l e R s m args below meth c H locs 0 0 Q (F0 m 84 ls []) := by
      intro H locs ls hM hS hl
      refine lv_aload_n hx hb dX4_keeps_84 rfl (lv_at hl 0 rfl) ?_
      refine lv_dup hx hb dX4_keeps_85 rfl ?_
      refine m_get X hM 46 q1690 rfl rfl (v := .int (mf r4 46)) rfl dX4_keeps_86 ?_
      refine lv_iconst (v := 1) hx hb dX4_keeps_89 (by decide) ?_
      refine lv_iadd hx hb dX4_keeps_90 ?_
      obtain ⟨s5, es5, hit⟩ := o_bind hit
      refine m_put X hM hS 46 q1690 rfl rfl (ty := .int) rfl rfl rfl es5 dX4_keeps_91 (fun H locs hM hS => ?_)
      have he := o_in hit
      exact hend _ _ _ _ _ he hM hS dX4_keeps_94
    refine o_rec (P := fun t2 => ∀ (H : Heap) (locs : List Loc) (ls : Array Slot), MH G dT o ad t2.2 H → va_S (mAd o ad) s.heap H locs → lv_has ls 2 [(0, .ref o), (1, .int t2.1)] → W p l e R s m args below meth c H locs 0 0 Q (F0 m 52 ls [])) (fun t2 x3 hit hC2 hE2 H locs ls hM hS hl => ?_) _ er4 _ _ _ hM hS (lv_sub hl [1, 0] rfl)
    unfold M_keeps_L52 at hit
    refine lv_iload_n hx hb dX4_keeps_52 rfl (lv_at hl 1 rfl) ?_
    refine lv_bipush (v := 34) hx hb dX4_keeps_53 (by decide) ?_
    refine b_icmp_ge (tgt := 84) hx hb dX4_keeps_55 (by decide) hit (fun c6 hit => ?_) (fun c6 hit => ?_)
    · have he := o_in hit
      have he := hE2 _ he
      subst he
      exact hr4 _ _ _ hM hS (lv_sub hl [0] rfl)
    · refine lv_aload_n hx hb dX4_keeps_58 rfl (lv_at hl 0 rfl) ?_
      refine m_get X hM 45 q1689 rfl rfl (v := .ref (ad 45)) rfl dX4_keeps_59 ?_
      refine lv_bipush (v := 34) hx hb dX4_keeps_62 (by decide) ?_
      refine lv_aload_n hx hb dX4_keeps_64 rfl (lv_at hl 0 rfl) ?_
      refine m_get X hM 46 q1690 rfl rfl (v := .int (mf t2.2 46)) rfl dX4_keeps_65 ?_
      refine lv_imul hx hb dX4_keeps_68 ?_
      refine lv_iload_n hx hb dX4_keeps_69 rfl (lv_at hl 1 rfl) ?_
      refine lv_iadd hx hb dX4_keeps_70 ?_
      refine lv_aload_n hx hb dX4_keeps_71 rfl (lv_at hl 0 rfl) ?_
      refine m_get X hM 44 q1688 rfl rfl (v := .ref (ad 44)) rfl dX4_keeps_72 ?_
      refine lv_iload_n hx hb dX4_keeps_75 rfl (lv_at hl 1 rfl) ?_
      obtain ⟨v7, ev7, hit⟩ := o_bind hit
      refine m_iald X hM 15 44 rfl rfl ev7 dX4_keeps_76 ?_
      obtain ⟨s8, es8, hit⟩ := o_bind hit
      refine m_iast X hM hS 16 45 rfl rfl es8 dX4_keeps_77 (fun H locs hM hS => ?_)
      refine lv_iinc (k := 1) (v := (t2.1 + 1)) (lv' := [(1, .int (t2.1 + 1)), (0, .ref o)]) hx hb dX4_keeps_78 hl rfl rfl (by decide) rfl (fun ls hl => ?_)
      refine lv_goto (tgt := 52) hx hb dX4_keeps_81 (by decide) ?_
      have he := o_in hit
      exact hC2 _ he _ _ _ hM hS (lv_sub hl [1, 0] rfl)
  have hit := er1
  refine b_icmp_ne (tgt := 50) hx hb dX4_keeps_6 (by decide) hit (fun c9 hit => ?_) (fun c9 hit => ?_)
  · have he := o_in hit
    subst he
    exact hr1 _ _ _ hM hS hl
  · refine lv_bipush (v := 34) hx hb dX4_keeps_9 (by decide) ?_
    refine lv_istore_n (lv' := [(1, .int 34), (0, .ref o)]) hx hb dX4_keeps_11 rfl hl (by decide) rfl (fun ls hl => ?_)
    obtain ⟨r12, er12, hit⟩ := o_bind hit
    have hr12 : ∀ (H : Heap) (locs : List Loc) (ls : Array Slot), MH G dT o ad r12 H → va_S (mAd o ad) s.heap H locs → lv_has ls 2 [(0, .ref o)] → W p l e R s m args below meth c H locs 0 0 Q (F0 m 40 ls []) := by
      intro H locs ls hM hS hl
      refine lv_aload_n hx hb dX4_keeps_40 rfl (lv_at hl 0 rfl) ?_
      refine lv_dup hx hb dX4_keeps_41 rfl ?_
      refine m_get X hM 46 q1690 rfl rfl (v := .int (mf r12 46)) rfl dX4_keeps_42 ?_
      refine lv_iconst (v := 1) hx hb dX4_keeps_45 (by decide) ?_
      refine lv_isub hx hb dX4_keeps_46 ?_
      obtain ⟨s13, es13, hit⟩ := o_bind hit
      refine m_put X hM hS 46 q1690 rfl rfl (ty := .int) rfl rfl rfl es13 dX4_keeps_47 (fun H locs hM hS => ?_)
      have he := o_in hit
      subst he
      exact hr1 _ _ _ hM hS hl
    refine o_rec (P := fun t10 => ∀ (H : Heap) (locs : List Loc) (ls : Array Slot), MH G dT o ad t10.2 H → va_S (mAd o ad) s.heap H locs → lv_has ls 2 [(0, .ref o), (1, .int t10.1)] → W p l e R s m args below meth c H locs 0 0 Q (F0 m 12 ls [])) (fun t10 x11 hit hC10 hE10 H locs ls hM hS hl => ?_) _ er12 _ _ _ hM hS (lv_sub hl [1, 0] rfl)
    unfold M_keeps_L12 at hit
    refine lv_iload_n hx hb dX4_keeps_12 rfl (lv_at hl 1 rfl) ?_
    refine lv_sipush (v := 1360) hx hb dX4_keeps_13 (by decide) ?_
    refine b_icmp_ge (tgt := 40) hx hb dX4_keeps_16 (by decide) hit (fun c14 hit => ?_) (fun c14 hit => ?_)
    · have he := o_in hit
      have he := hE10 _ he
      subst he
      exact hr12 _ _ _ hM hS (lv_sub hl [0] rfl)
    · refine lv_aload_n hx hb dX4_keeps_19 rfl (lv_at hl 0 rfl) ?_
      refine m_get X hM 45 q1689 rfl rfl (v := .ref (ad 45)) rfl dX4_keeps_20 ?_
      refine lv_iload_n hx hb dX4_keeps_23 rfl (lv_at hl 1 rfl) ?_
      refine lv_bipush (v := 34) hx hb dX4_keeps_24 (by decide) ?_
      refine lv_isub hx hb dX4_keeps_26 ?_
      refine lv_aload_n hx hb dX4_keeps_27 rfl (lv_at hl 0 rfl) ?_
      refine m_get X hM 45 q1689 rfl rfl (v := .ref (ad 45)) rfl dX4_keeps_28 ?_
      refine lv_iload_n hx hb dX4_keeps_31 rfl (lv_at hl 1 rfl) ?_
      obtain ⟨v15, ev15, hit⟩ := o_bind hit
      refine m_iald X hM 16 45 rfl rfl ev15 dX4_keeps_32 ?_
      obtain ⟨s16, es16, hit⟩ := o_bind hit
      refine m_iast X hM hS 16 45 rfl rfl es16 dX4_keeps_33 (fun H locs hM hS => ?_)
      refine lv_iinc (k := 1) (v := (t10.1 + 1)) (lv' := [(1, .int (t10.1 + 1)), (0, .ref o)]) hx hb dX4_keeps_34 hl rfl rfl (by decide) rfl (fun ls hl => ?_)
      refine lv_goto (tgt := 12) hx hb dX4_keeps_37 (by decide) ?_
      have he := o_in hit
      exact hC10 _ he _ _ _ hM hS (lv_sub hl [1, 0] rfl)
noncomputable def M_refuses (σ : MS) (a0 : Int32) : Option (Int32 × MS) :=
  (ald σ 16 a0).bind fun v1 =>
  (ast σ 16 a0 (v1 + 1)).bind fun s2 =>
  some ((-1), s2)
theorem nm_X4_refuses : kNm yX4_refuses RX4 1 := by unfold kNm; decide +kernel
set_option maxHeartbeats 4000000 in
set_option maxRecDepth 100000 in
theorem wM_refuses (l : Launch) (G : va_G) (dT : Nat → ClassId) (o : Nat) (ad : Nat → Nat) (σ : MS) (a0 : Int32) (z : Int32 × MS) (h : M_refuses σ a0 = some z) : Met l yX4_refuses (ws_ yX4_refuses cX4_refuses 2 (some .int)) (kRm 0 0) (mPc G dT o ad σ [.int a0]) (va_Qi (fun r (_ : Unit) => r = z.1) (fun _ t => MH G dT o ad z.2 t.heap) (mAd o ad)) 0 0 (mAd o ad) := by
  refine m_startNi (cc := cX4_refuses) (ty := .int) rfl rfl rfl (fun p e R s m args below meth c Q ls X hR hM hS hl hend => ?_)
  have hx := X.1.1
  have hb := X.1.2.1
  have hit := h
  clear h
  unfold M_refuses at hit
  have hl : lv_has ls 2 [(0, .ref o), (1, .int a0)] := hl
  refine lv_aload_n hx hb dX4_refuses_0 rfl (lv_at hl 0 rfl) ?_
  refine m_get X hM 16 q1660 rfl rfl (v := .ref (ad 16)) rfl dX4_refuses_1 ?_
  refine lv_iload_n hx hb dX4_refuses_4 rfl (lv_at hl 1 rfl) ?_
  refine lv_dup2_11 hx hb dX4_refuses_5 rfl rfl ?_
  obtain ⟨v1, ev1, hit⟩ := o_bind hit
  refine m_iald X hM 6 16 rfl rfl ev1 dX4_refuses_6 ?_
  refine lv_iconst (v := 1) hx hb dX4_refuses_7 (by decide) ?_
  refine lv_iadd hx hb dX4_refuses_8 ?_
  obtain ⟨s2, es2, hit⟩ := o_bind hit
  refine m_iast X hM hS 6 16 rfl rfl es2 dX4_refuses_9 (fun H locs hM hS => ?_)
  refine lv_iconst (v := (-1)) hx hb dX4_refuses_10 (by decide) ?_
  have he := o_in hit
  exact hend _ (-1) _ _ _ _ _ rfl he hM hS dX4_refuses_11
noncomputable def M_undo_L26 (t4 : Int32 × MS) : Option ((Int32 × MS) ⊕ MS) :=
  if t4.1 < 34 then
    ((ald t4.2 45 ((34 * (mf t4.2 46)) + t4.1)).bind fun v8 =>
    (ast t4.2 44 t4.1 v8).bind fun s9 =>
    some (.inl ((t4.1 + 1), s9)))
  else
    (some (.inr t4.2))
noncomputable def M_undo (σ : MS) : Option (Int32 × MS) :=
  (pf σ 0 0).bind fun s1 =>
  if (mf s1 46) = 0 then
    (some ((-1), s1))
  else
    ((pf s1 46 ((mf s1 46) - 1)).bind fun s3 =>
    (o_loop M_undo_L26 (0, s3)).bind fun r6 =>
    some ((mf r6 46), r6))
theorem nm_X4_undo : kNm yX4_undo RX4 0 := by unfold kNm; decide +kernel
set_option maxHeartbeats 4000000 in
set_option maxRecDepth 100000 in
theorem wM_undo (l : Launch) (G : va_G) (dT : Nat → ClassId) (o : Nat) (ad : Nat → Nat) (σ : MS) (z : Int32 × MS) (h : M_undo σ = some z) : Met l yX4_undo (ws_ yX4_undo cX4_undo 2 (some .int)) (kRm 0 0) (mPc G dT o ad σ []) (va_Qi (fun r (_ : Unit) => r = z.1) (fun _ t => MH G dT o ad z.2 t.heap) (mAd o ad)) 0 0 (mAd o ad) := by
  refine m_startNi (cc := cX4_undo) (ty := .int) rfl rfl rfl (fun p e R s m args below meth c Q ls X hR hM hS hl hend => ?_)
  have hx := X.1.1
  have hb := X.1.2.1
  have hit := h
  clear h
  unfold M_undo at hit
  have hl : lv_has ls 2 [(0, .ref o)] := hl
  refine lv_aload_n hx hb dX4_undo_0 rfl (lv_at hl 0 rfl) ?_
  refine lv_iconst (v := 0) hx hb dX4_undo_1 (by decide) ?_
  obtain ⟨s1, es1, hit⟩ := o_bind hit
  refine m_put X hM hS 0 q1644 rfl rfl (ty := .int) rfl rfl rfl es1 dX4_undo_2 (fun H locs hM hS => ?_)
  refine lv_aload_n hx hb dX4_undo_5 rfl (lv_at hl 0 rfl) ?_
  refine m_get X hM 46 q1690 rfl rfl (v := .int (mf s1 46)) rfl dX4_undo_6 ?_
  refine b_if_ne (tgt := 14) hx hb dX4_undo_9 (by decide) hit (fun c2 hit => ?_) (fun c2 hit => ?_)
  · refine lv_aload_n hx hb dX4_undo_14 rfl (lv_at hl 0 rfl) ?_
    refine lv_dup hx hb dX4_undo_15 rfl ?_
    refine m_get X hM 46 q1690 rfl rfl (v := .int (mf s1 46)) rfl dX4_undo_16 ?_
    refine lv_iconst (v := 1) hx hb dX4_undo_19 (by decide) ?_
    refine lv_isub hx hb dX4_undo_20 ?_
    obtain ⟨s3, es3, hit⟩ := o_bind hit
    refine m_put X hM hS 46 q1690 rfl rfl (ty := .int) rfl rfl rfl es3 dX4_undo_21 (fun H locs hM hS => ?_)
    refine lv_iconst (v := 0) hx hb dX4_undo_24 (by decide) ?_
    refine lv_istore_n (lv' := [(1, .int 0), (0, .ref o)]) hx hb dX4_undo_25 rfl hl (by decide) rfl (fun ls hl => ?_)
    obtain ⟨r6, er6, hit⟩ := o_bind hit
    have hr6 : ∀ (H : Heap) (locs : List Loc) (ls : Array Slot), MH G dT o ad r6 H → va_S (mAd o ad) s.heap H locs → lv_has ls 2 [(0, .ref o)] → W p l e R s m args below meth c H locs 0 0 Q (F0 m 58 ls []) := by
      intro H locs ls hM hS hl
      refine lv_aload_n hx hb dX4_undo_58 rfl (lv_at hl 0 rfl) ?_
      refine m_get X hM 46 q1690 rfl rfl (v := .int (mf r6 46)) rfl dX4_undo_59 ?_
      have he := o_in hit
      exact hend _ (mf r6 46) _ _ _ _ _ rfl he hM hS dX4_undo_62
    refine o_rec (P := fun t4 => ∀ (H : Heap) (locs : List Loc) (ls : Array Slot), MH G dT o ad t4.2 H → va_S (mAd o ad) s.heap H locs → lv_has ls 2 [(0, .ref o), (1, .int t4.1)] → W p l e R s m args below meth c H locs 0 0 Q (F0 m 26 ls [])) (fun t4 x5 hit hC4 hE4 H locs ls hM hS hl => ?_) _ er6 _ _ _ hM hS (lv_sub hl [1, 0] rfl)
    unfold M_undo_L26 at hit
    refine lv_iload_n hx hb dX4_undo_26 rfl (lv_at hl 1 rfl) ?_
    refine lv_bipush (v := 34) hx hb dX4_undo_27 (by decide) ?_
    refine b_icmp_ge (tgt := 58) hx hb dX4_undo_29 (by decide) hit (fun c7 hit => ?_) (fun c7 hit => ?_)
    · have he := o_in hit
      have he := hE4 _ he
      subst he
      exact hr6 _ _ _ hM hS (lv_sub hl [0] rfl)
    · refine lv_aload_n hx hb dX4_undo_32 rfl (lv_at hl 0 rfl) ?_
      refine m_get X hM 44 q1688 rfl rfl (v := .ref (ad 44)) rfl dX4_undo_33 ?_
      refine lv_iload_n hx hb dX4_undo_36 rfl (lv_at hl 1 rfl) ?_
      refine lv_aload_n hx hb dX4_undo_37 rfl (lv_at hl 0 rfl) ?_
      refine m_get X hM 45 q1689 rfl rfl (v := .ref (ad 45)) rfl dX4_undo_38 ?_
      refine lv_bipush (v := 34) hx hb dX4_undo_41 (by decide) ?_
      refine lv_aload_n hx hb dX4_undo_43 rfl (lv_at hl 0 rfl) ?_
      refine m_get X hM 46 q1690 rfl rfl (v := .int (mf t4.2 46)) rfl dX4_undo_44 ?_
      refine lv_imul hx hb dX4_undo_47 ?_
      refine lv_iload_n hx hb dX4_undo_48 rfl (lv_at hl 1 rfl) ?_
      refine lv_iadd hx hb dX4_undo_49 ?_
      obtain ⟨v8, ev8, hit⟩ := o_bind hit
      refine m_iald X hM 16 45 rfl rfl ev8 dX4_undo_50 ?_
      obtain ⟨s9, es9, hit⟩ := o_bind hit
      refine m_iast X hM hS 15 44 rfl rfl es9 dX4_undo_51 (fun H locs hM hS => ?_)
      refine lv_iinc (k := 1) (v := (t4.1 + 1)) (lv' := [(1, .int (t4.1 + 1)), (0, .ref o)]) hx hb dX4_undo_52 hl rfl rfl (by decide) rfl (fun ls hl => ?_)
      refine lv_goto (tgt := 26) hx hb dX4_undo_55 (by decide) ?_
      have he := o_in hit
      exact hC4 _ he _ _ _ hM hS (lv_sub hl [1, 0] rfl)
  · refine lv_iconst (v := (-1)) hx hb dX4_undo_12 (by decide) ?_
    have he := o_in hit
    exact hend _ (-1) _ _ _ _ _ rfl he hM hS dX4_undo_13
noncomputable def M_tries_L2 (t1 : Int32 × MS) : Option ((Int32 × MS) ⊕ MS) :=
  if t1.1 < 34 then
    ((ald t1.2 44 t1.1).bind fun v4 =>
    (ast t1.2 44 (34 + t1.1) v4).bind fun s5 =>
    some (.inl ((t1.1 + 1), s5)))
  else
    (some (.inr t1.2))
noncomputable def M_tries (σ : MS) : Option (MS) :=
  o_loop M_tries_L2 (0, σ)
theorem nm_X4_tries : kNm yX4_tries RX4 0 := by unfold kNm; decide +kernel
set_option maxHeartbeats 4000000 in
set_option maxRecDepth 100000 in
theorem wM_tries (l : Launch) (G : va_G) (dT : Nat → ClassId) (o : Nat) (ad : Nat → Nat) (σ : MS) (z : MS) (h : M_tries σ = some z) : Met l yX4_tries (ws_ yX4_tries cX4_tries 2 none) (kRm 0 0) (mPc G dT o ad σ []) (va_Qv (fun (_ : Unit) => True) (fun _ t => MH G dT o ad z t.heap) (mAd o ad)) 0 0 (mAd o ad) := by
  refine m_startNv (cc := cX4_tries) rfl rfl rfl (fun p e R s m args below meth c Q ls X hR hM hS hl hend => ?_)
  have hx := X.1.1
  have hb := X.1.2.1
  have hit := h
  clear h
  unfold M_tries at hit
  have hl : lv_has ls 2 [(0, .ref o)] := hl
  refine lv_iconst (v := 0) hx hb dX4_tries_0 (by decide) ?_
  refine lv_istore_n (lv' := [(1, .int 0), (0, .ref o)]) hx hb dX4_tries_1 rfl hl (by decide) rfl (fun ls hl => ?_)
  refine o_rec (P := fun t1 => ∀ (H : Heap) (locs : List Loc) (ls : Array Slot), MH G dT o ad t1.2 H → va_S (mAd o ad) s.heap H locs → lv_has ls 2 [(0, .ref o), (1, .int t1.1)] → W p l e R s m args below meth c H locs 0 0 Q (F0 m 2 ls [])) (fun t1 x2 hit hC1 hE1 H locs ls hM hS hl => ?_) _ hit _ _ _ hM hS (lv_sub hl [1, 0] rfl)
  unfold M_tries_L2 at hit
  refine lv_iload_n hx hb dX4_tries_2 rfl (lv_at hl 1 rfl) ?_
  refine lv_bipush (v := 34) hx hb dX4_tries_3 (by decide) ?_
  refine b_icmp_ge (tgt := 29) hx hb dX4_tries_5 (by decide) hit (fun c3 hit => ?_) (fun c3 hit => ?_)
  · have he := o_in hit
    have he := hE1 _ he
    exact hend _ _ _ _ _ he hM hS dX4_tries_29
  · refine lv_aload_n hx hb dX4_tries_8 rfl (lv_at hl 0 rfl) ?_
    refine m_get X hM 44 q1688 rfl rfl (v := .ref (ad 44)) rfl dX4_tries_9 ?_
    refine lv_bipush (v := 34) hx hb dX4_tries_12 (by decide) ?_
    refine lv_iload_n hx hb dX4_tries_14 rfl (lv_at hl 1 rfl) ?_
    refine lv_iadd hx hb dX4_tries_15 ?_
    refine lv_aload_n hx hb dX4_tries_16 rfl (lv_at hl 0 rfl) ?_
    refine m_get X hM 44 q1688 rfl rfl (v := .ref (ad 44)) rfl dX4_tries_17 ?_
    refine lv_iload_n hx hb dX4_tries_20 rfl (lv_at hl 1 rfl) ?_
    obtain ⟨v4, ev4, hit⟩ := o_bind hit
    refine m_iald X hM 15 44 rfl rfl ev4 dX4_tries_21 ?_
    obtain ⟨s5, es5, hit⟩ := o_bind hit
    refine m_iast X hM hS 15 44 rfl rfl es5 dX4_tries_22 (fun H locs hM hS => ?_)
    refine lv_iinc (k := 1) (v := (t1.1 + 1)) (lv' := [(1, .int (t1.1 + 1)), (0, .ref o)]) hx hb dX4_tries_23 hl rfl rfl (by decide) rfl (fun ls hl => ?_)
    refine lv_goto (tgt := 2) hx hb dX4_tries_26 (by decide) ?_
    have he := o_in hit
    exact hC1 _ he _ _ _ hM hS (lv_sub hl [1, 0] rfl)
noncomputable def M_works (a0 : Int32) (a1 : Int32) (a2 : Int32) : Option (Int32) :=
  if a0 = 4 then
    (if a1 = 0 then
      (some 0)
    else
      (if a2 = 0 then
        (some 0)
      else
        (some 1)))
  else
    (if a0 = 5 then
      (if a1 = 0 then
        (if a2 = 0 then
          (some 0)
        else
          (some 1))
      else
        (some 1))
    else
      (if a0 = 6 then
        (if a1 < a2 then
          (some 1)
        else
          (some 0))
      else
        (if a0 = 7 then
          (if a1 = a2 then
            (some 1)
          else
            (some 0))
        else
          (if a0 = 8 then
            (some (a1 + a2))
          else
            (if a0 = 9 then
              (some (a1 - a2))
            else
              (if a0 = 10 then
                (some (a1 * a2))
              else
                (if a2 = 0 then
                  (some 0)
                else
                  ((idv a1 a2).bind fun v15 =>
                  some v15))))))))
theorem nm_X4_works : kNm yX4_works RX4 3 := by unfold kNm; decide +kernel
set_option maxHeartbeats 4000000 in
set_option maxRecDepth 100000 in
theorem wM_works (l : Launch) (a0 : Int32) (a1 : Int32) (a2 : Int32) (z : Int32) (h : M_works a0 a1 a2 = some z) : Met l yX4_works (ws_ yX4_works cX4_works 3 (some .int)) (kRm 0 0) (bPc [.int a0, .int a1, .int a2]) (vp_Si (fun r => r = z)) 0 0 vp_nf := by
  refine m_startP (cc := cX4_works) (ty := .int) rfl rfl rfl (fun p e R s m args below meth c Q ls X hR hl hend => ?_)
  have hx := X.1
  have hb := X.2.1
  have hit := h
  clear h
  unfold M_works at hit
  have hl : lv_has ls 3 [(0, .int a0), (1, .int a1), (2, .int a2)] := hl
  refine lv_iload_n hx hb dX4_works_0 rfl (lv_at hl 0 rfl) ?_
  refine Decidable.byCases (p := a0 = 4) (fun c1 => ?_) (fun c1 => ?_)
  · replace hit := o_t hit c1
    refine b_tab (tgt := 44) hx hb dX4_works_1 c1 (z := 4) (by decide) (by decide) (by decide) rfl (by decide) ?_
    refine lv_iload_n hx hb dX4_works_44 rfl (lv_at hl 1 rfl) ?_
    refine b_if_eq (tgt := 56) hx hb dX4_works_45 (by decide) hit (fun c2 hit => ?_) (fun c2 hit => ?_)
    · refine lv_iconst (v := 0) hx hb dX4_works_56 (by decide) ?_
      have he := o_in hit
      exact hend _ 0 _ _ rfl he dX4_works_57
    · refine lv_iload_n hx hb dX4_works_48 rfl (lv_at hl 2 rfl) ?_
      refine b_if_eq (tgt := 56) hx hb dX4_works_49 (by decide) hit (fun c3 hit => ?_) (fun c3 hit => ?_)
      · refine lv_iconst (v := 0) hx hb dX4_works_56 (by decide) ?_
        have he := o_in hit
        exact hend _ 0 _ _ rfl he dX4_works_57
      · refine lv_iconst (v := 1) hx hb dX4_works_52 (by decide) ?_
        refine lv_goto (tgt := 57) hx hb dX4_works_53 (by decide) ?_
        have he := o_in hit
        exact hend _ 1 _ _ rfl he dX4_works_57
  · replace hit := o_f hit c1
    refine Decidable.byCases (p := a0 = 5) (fun c4 => ?_) (fun c4 => ?_)
    · replace hit := o_t hit c4
      refine b_tab (tgt := 58) hx hb dX4_works_1 c4 (z := 5) (by decide) (by decide) (by decide) rfl (by decide) ?_
      refine lv_iload_n hx hb dX4_works_58 rfl (lv_at hl 1 rfl) ?_
      refine b_if_ne (tgt := 66) hx hb dX4_works_59 (by decide) hit (fun c5 hit => ?_) (fun c5 hit => ?_)
      · refine lv_iconst (v := 1) hx hb dX4_works_66 (by decide) ?_
        refine lv_goto (tgt := 71) hx hb dX4_works_67 (by decide) ?_
        have he := o_in hit
        exact hend _ 1 _ _ rfl he dX4_works_71
      · refine lv_iload_n hx hb dX4_works_62 rfl (lv_at hl 2 rfl) ?_
        refine b_if_eq (tgt := 70) hx hb dX4_works_63 (by decide) hit (fun c6 hit => ?_) (fun c6 hit => ?_)
        · refine lv_iconst (v := 0) hx hb dX4_works_70 (by decide) ?_
          have he := o_in hit
          exact hend _ 0 _ _ rfl he dX4_works_71
        · refine lv_iconst (v := 1) hx hb dX4_works_66 (by decide) ?_
          refine lv_goto (tgt := 71) hx hb dX4_works_67 (by decide) ?_
          have he := o_in hit
          exact hend _ 1 _ _ rfl he dX4_works_71
    · replace hit := o_f hit c4
      refine Decidable.byCases (p := a0 = 6) (fun c7 => ?_) (fun c7 => ?_)
      · replace hit := o_t hit c7
        refine b_tab (tgt := 72) hx hb dX4_works_1 c7 (z := 6) (by decide) (by decide) (by decide) rfl (by decide) ?_
        refine lv_iload_n hx hb dX4_works_72 rfl (lv_at hl 1 rfl) ?_
        refine lv_iload_n hx hb dX4_works_73 rfl (lv_at hl 2 rfl) ?_
        refine b_icmp_ge (tgt := 81) hx hb dX4_works_74 (by decide) hit (fun c8 hit => ?_) (fun c8 hit => ?_)
        · refine lv_iconst (v := 0) hx hb dX4_works_81 (by decide) ?_
          have he := o_in hit
          exact hend _ 0 _ _ rfl he dX4_works_82
        · refine lv_iconst (v := 1) hx hb dX4_works_77 (by decide) ?_
          refine lv_goto (tgt := 82) hx hb dX4_works_78 (by decide) ?_
          have he := o_in hit
          exact hend _ 1 _ _ rfl he dX4_works_82
      · replace hit := o_f hit c7
        refine Decidable.byCases (p := a0 = 7) (fun c9 => ?_) (fun c9 => ?_)
        · replace hit := o_t hit c9
          refine b_tab (tgt := 83) hx hb dX4_works_1 c9 (z := 7) (by decide) (by decide) (by decide) rfl (by decide) ?_
          refine lv_iload_n hx hb dX4_works_83 rfl (lv_at hl 1 rfl) ?_
          refine lv_iload_n hx hb dX4_works_84 rfl (lv_at hl 2 rfl) ?_
          refine b_icmp_ne (tgt := 92) hx hb dX4_works_85 (by decide) hit (fun c10 hit => ?_) (fun c10 hit => ?_)
          · refine lv_iconst (v := 0) hx hb dX4_works_92 (by decide) ?_
            have he := o_in hit
            exact hend _ 0 _ _ rfl he dX4_works_93
          · refine lv_iconst (v := 1) hx hb dX4_works_88 (by decide) ?_
            refine lv_goto (tgt := 93) hx hb dX4_works_89 (by decide) ?_
            have he := o_in hit
            exact hend _ 1 _ _ rfl he dX4_works_93
        · replace hit := o_f hit c9
          refine Decidable.byCases (p := a0 = 8) (fun c11 => ?_) (fun c11 => ?_)
          · replace hit := o_t hit c11
            refine b_tab (tgt := 94) hx hb dX4_works_1 c11 (z := 8) (by decide) (by decide) (by decide) rfl (by decide) ?_
            refine lv_iload_n hx hb dX4_works_94 rfl (lv_at hl 1 rfl) ?_
            refine lv_iload_n hx hb dX4_works_95 rfl (lv_at hl 2 rfl) ?_
            refine lv_iadd hx hb dX4_works_96 ?_
            have he := o_in hit
            exact hend _ (a1 + a2) _ _ rfl he dX4_works_97
          · replace hit := o_f hit c11
            refine Decidable.byCases (p := a0 = 9) (fun c12 => ?_) (fun c12 => ?_)
            · replace hit := o_t hit c12
              refine b_tab (tgt := 98) hx hb dX4_works_1 c12 (z := 9) (by decide) (by decide) (by decide) rfl (by decide) ?_
              refine lv_iload_n hx hb dX4_works_98 rfl (lv_at hl 1 rfl) ?_
              refine lv_iload_n hx hb dX4_works_99 rfl (lv_at hl 2 rfl) ?_
              refine lv_isub hx hb dX4_works_100 ?_
              have he := o_in hit
              exact hend _ (a1 - a2) _ _ rfl he dX4_works_101
            · replace hit := o_f hit c12
              refine Decidable.byCases (p := a0 = 10) (fun c13 => ?_) (fun c13 => ?_)
              · replace hit := o_t hit c13
                refine b_tab (tgt := 102) hx hb dX4_works_1 c13 (z := 10) (by decide) (by decide) (by decide) rfl (by decide) ?_
                refine lv_iload_n hx hb dX4_works_102 rfl (lv_at hl 1 rfl) ?_
                refine lv_iload_n hx hb dX4_works_103 rfl (lv_at hl 2 rfl) ?_
                refine lv_imul hx hb dX4_works_104 ?_
                have he := o_in hit
                exact hend _ (a1 * a2) _ _ rfl he dX4_works_105
              · replace hit := o_f hit c13
                have nc1 := lv_neT (a := 4) c1 (by decide)
                have nc4 := lv_neT (a := 5) c4 (by decide)
                have nc7 := lv_neT (a := 6) c7 (by decide)
                have nc9 := lv_neT (a := 7) c9 (by decide)
                have nc11 := lv_neT (a := 8) c11 (by decide)
                have nc12 := lv_neT (a := 9) c12 (by decide)
                have nc13 := lv_neT (a := 10) c13 (by decide)
                refine lv_tableOut (tgt := 106) hx hb dX4_works_1 (by omega) (by decide) ?_
                refine lv_iload_n hx hb dX4_works_106 rfl (lv_at hl 2 rfl) ?_
                refine b_if_ne (tgt := 114) hx hb dX4_works_107 (by decide) hit (fun c14 hit => ?_) (fun c14 hit => ?_)
                · refine lv_iload_n hx hb dX4_works_114 rfl (lv_at hl 1 rfl) ?_
                  refine lv_iload_n hx hb dX4_works_115 rfl (lv_at hl 2 rfl) ?_
                  obtain ⟨v15, ev15, hit⟩ := o_bind hit
                  refine b_idiv hx hb ev15 dX4_works_116 ?_
                  have he := o_in hit
                  exact hend _ v15 _ _ rfl he dX4_works_117
                · refine lv_iconst (v := 0) hx hb dX4_works_110 (by decide) ?_
                  refine lv_goto (tgt := 117) hx hb dX4_works_111 (by decide) ?_
                  have he := o_in hit
                  exact hend _ 0 _ _ rfl he dX4_works_117
noncomputable def M_reckons_J36 (t1 : Int32 × Int32 × MS) (v7 : Int32) : Option (Int32 × Int32 × MS) :=
  ((if v7 = 1 then
      ((ald t1.2.2 11 (t1.2.1 + 1)).bind fun v14 =>
      some v14)
    else
      ((ald t1.2.2 11 (t1.2.1 + 1)).bind fun v12 =>
      (ald t1.2.2 47 v12).bind fun v13 =>
      some v13) : Option Int32)).bind fun r9 =>
  (ast t1.2.2 48 t1.1 r9).bind fun s10 =>
  some ((t1.1 + 1), ((t1.2.1 + 1) + 1), s10)
noncomputable def M_reckons_L4 (t1 : Int32 × Int32 × MS) : Option ((Int32 × Int32 × MS) ⊕ MS) :=
  (ald t1.2.2 11 t1.2.1).bind fun v5 =>
  if v5 = 0 then
    (some (.inr t1.2.2))
  else
    ((ald t1.2.2 11 t1.2.1).bind fun v7 =>
    ((if v7 = 1 then
        (M_reckons_J36 t1 v7)
      else
        (if v7 = 2 then
          (M_reckons_J36 t1 v7)
        else
          (if v7 = 3 then
            ((ald t1.2.2 48 (t1.1 - 1)).bind fun v22 =>
            ((if v22 = 0 then
                (some 1)
              else
                (some 0) : Option Int32)).bind fun r23 =>
            (ast t1.2.2 48 (t1.1 - 1) r23).bind fun s24 =>
            some (t1.1, (t1.2.1 + 1), s24))
          else
            ((ald t1.2.2 48 ((t1.1 + (-1)) - 1)).bind fun v18 =>
            (ald t1.2.2 48 (t1.1 + (-1))).bind fun v19 =>
            (M_works v7 v18 v19).bind fun q20 =>
            (ast t1.2.2 48 ((t1.1 + (-1)) - 1) q20).bind fun s21 =>
            some ((t1.1 + (-1)), (t1.2.1 + 1), s21)))) : Option (Int32 × Int32 × MS))).bind fun r8 =>
    some (.inl (r8.1, r8.2.1, r8.2.2)))
noncomputable def M_reckons (σ : MS) (a0 : Int32) : Option (Int32 × MS) :=
  (o_loop M_reckons_L4 (0, a0, σ)).bind fun r3 =>
  (ald r3 48 0).bind fun v4 =>
  some (v4, r3)
theorem nm_X4_reckons : kNm yX4_reckons RX4 1 := by unfold kNm; decide +kernel
set_option maxHeartbeats 4000000 in
set_option maxRecDepth 100000 in
theorem wM_reckons (l : Launch) (G : va_G) (dT : Nat → ClassId) (o : Nat) (ad : Nat → Nat) (σ : MS) (a0 : Int32) (z : Int32 × MS) (h : M_reckons σ a0 = some z) : Met l yX4_reckons (ws_ yX4_reckons cX4_reckons 5 (some .int)) (kRm 1 22) (mPc G dT o ad σ [.int a0]) (va_Qi (fun r (_ : Unit) => r = z.1) (fun _ t => MH G dT o ad z.2 t.heap) (mAd o ad)) 0 0 (mAd o ad) := by
  refine m_startNi (cc := cX4_reckons) (ty := .int) rfl rfl rfl (fun p e R s m args below meth c Q ls X hR hM hS hl hend => ?_)
  have hx := X.1.1
  have hb := X.1.2.1
  have hit := h
  clear h
  unfold M_reckons at hit
  have hl : lv_has ls 5 [(0, .ref o), (1, .int a0)] := hl
  refine lv_iconst (v := 0) hx hb dX4_reckons_0 (by decide) ?_
  refine lv_istore_n (lv' := [(2, .int 0), (0, .ref o), (1, .int a0)]) hx hb dX4_reckons_1 rfl hl (by decide) rfl (fun ls hl => ?_)
  refine lv_iload_n hx hb dX4_reckons_2 rfl (lv_at hl 2 rfl) ?_
  refine lv_istore_n (lv' := [(3, .int a0), (2, .int 0), (0, .ref o), (1, .int a0)]) hx hb dX4_reckons_3 rfl hl (by decide) rfl (fun ls hl => ?_)
  obtain ⟨r3, er3, hit⟩ := o_bind hit
  have hr3 : ∀ (H : Heap) (locs : List Loc) (ls : Array Slot), MH G dT o ad r3 H → va_S (mAd o ad) s.heap H locs → lv_has ls 5 [(0, .ref o)] → W p l e R s m args below meth c H locs 0 0 Q (F0 m 143 ls []) := by
    intro H locs ls hM hS hl
    refine lv_aload_n hx hb dX4_reckons_143 rfl (lv_at hl 0 rfl) ?_
    refine m_get X hM 48 q1692 rfl rfl (v := .ref (ad 48)) rfl dX4_reckons_144 ?_
    refine lv_iconst (v := 0) hx hb dX4_reckons_147 (by decide) ?_
    obtain ⟨v4, ev4, hit⟩ := o_bind hit
    refine m_iald X hM 18 48 rfl rfl ev4 dX4_reckons_148 ?_
    have he := o_in hit
    exact hend _ v4 _ _ _ _ _ rfl he hM hS dX4_reckons_149
  refine o_rec (P := fun t1 => ∀ (H : Heap) (locs : List Loc) (ls : Array Slot), MH G dT o ad t1.2.2 H → va_S (mAd o ad) s.heap H locs → lv_has ls 5 [(0, .ref o), (2, .int t1.1), (3, .int t1.2.1)] → W p l e R s m args below meth c H locs 0 0 Q (F0 m 4 ls [])) (fun t1 x2 hit hC1 hE1 H locs ls hM hS hl => ?_) _ er3 _ _ _ hM hS (lv_sub hl [2, 1, 0] rfl)
  unfold M_reckons_L4 at hit
  refine lv_aload_n hx hb dX4_reckons_4 rfl (lv_at hl 0 rfl) ?_
  refine m_get X hM 11 q1655 rfl rfl (v := .ref (ad 11)) rfl dX4_reckons_5 ?_
  refine lv_iload_n hx hb dX4_reckons_8 rfl (lv_at hl 2 rfl) ?_
  obtain ⟨v5, ev5, hit⟩ := o_bind hit
  refine m_iald X hM 4 11 rfl rfl ev5 dX4_reckons_9 ?_
  refine b_if_eq (tgt := 143) hx hb dX4_reckons_10 (by decide) hit (fun c6 hit => ?_) (fun c6 hit => ?_)
  · have he := o_in hit
    have he := hE1 _ he
    subst he
    exact hr3 _ _ _ hM hS (lv_sub hl [0] rfl)
  · refine lv_aload_n hx hb dX4_reckons_13 rfl (lv_at hl 0 rfl) ?_
    refine m_get X hM 11 q1655 rfl rfl (v := .ref (ad 11)) rfl dX4_reckons_14 ?_
    refine lv_iload_n hx hb dX4_reckons_17 rfl (lv_at hl 2 rfl) ?_
    obtain ⟨v7, ev7, hit⟩ := o_bind hit
    refine m_iald X hM 4 11 rfl rfl ev7 dX4_reckons_18 ?_
    refine lv_istore (lv' := [(4, .int v7), (0, .ref o), (2, .int t1.1), (3, .int t1.2.1)]) hx hb dX4_reckons_19 hl (by decide) rfl (fun ls hl => ?_)
    refine lv_iinc (k := 3) (v := (t1.2.1 + 1)) (lv' := [(3, .int (t1.2.1 + 1)), (4, .int v7), (0, .ref o), (2, .int t1.1)]) hx hb dX4_reckons_21 hl rfl rfl (by decide) rfl (fun ls hl => ?_)
    refine lv_iload hx hb dX4_reckons_24 (lv_at hl 1 rfl) ?_
    refine lv_iconst (v := 1) hx hb dX4_reckons_26 (by decide) ?_
    obtain ⟨r8, er8, hit⟩ := o_bind hit
    have hr8 : ∀ (H : Heap) (locs : List Loc) (ls : Array Slot), MH G dT o ad r8.2.2 H → va_S (mAd o ad) s.heap H locs → lv_has ls 5 [(0, .ref o), (2, .int r8.1), (3, .int r8.2.1)] → W p l e R s m args below meth c H locs 0 0 Q (F0 m 140 ls []) := by
      intro H locs ls hM hS hl
      refine lv_goto (tgt := 4) hx hb dX4_reckons_140 (by decide) ?_
      have he := o_in hit
      exact hC1 _ he _ _ _ hM hS hl
    have hit := er8
    have hK36 : M_reckons_J36 t1 v7 = some r8 → ∀ (H : Heap) (locs : List Loc) (ls : Array Slot), MH G dT o ad t1.2.2 H → va_S (mAd o ad) s.heap H locs → lv_has ls 5 [(3, .int (t1.2.1 + 1)), (4, .int v7), (0, .ref o), (2, .int t1.1)] → W p l e R s m args below meth c H locs 0 0 Q (F0 m 36 ls []) := by
      intro  hit H locs ls hM hS hl
      unfold M_reckons_J36 at hit
      refine lv_aload_n hx hb dX4_reckons_36 rfl (lv_at hl 2 rfl) ?_
      refine m_get X hM 48 q1692 rfl rfl (v := .ref (ad 48)) rfl dX4_reckons_37 ?_
      refine lv_iload_n hx hb dX4_reckons_40 rfl (lv_at hl 3 rfl) ?_
      refine lv_iload hx hb dX4_reckons_41 (lv_at hl 1 rfl) ?_
      refine lv_iconst (v := 1) hx hb dX4_reckons_43 (by decide) ?_
      obtain ⟨r9, er9, hit⟩ := o_bind hit
      have hr9 : ∀ (H : Heap) (locs : List Loc) (ls : Array Slot), MH G dT o ad t1.2.2 H → va_S (mAd o ad) s.heap H locs → lv_has ls 5 [(3, .int (t1.2.1 + 1)), (0, .ref o), (2, .int t1.1)] → W p l e R s m args below meth c H locs 0 0 Q (F0 m 67 ls [.int r9, .int t1.1, .ref (ad 48)]) := by
        intro H locs ls hM hS hl
        obtain ⟨s10, es10, hit⟩ := o_bind hit
        refine m_iast X hM hS 18 48 rfl rfl es10 dX4_reckons_67 (fun H locs hM hS => ?_)
        refine lv_iinc (k := 0) (v := ((t1.2.1 + 1) + 1)) (lv' := [(3, .int ((t1.2.1 + 1) + 1)), (0, .ref o), (2, .int t1.1)]) hx hb dX4_reckons_68 hl rfl rfl (by decide) rfl (fun ls hl => ?_)
        refine lv_iinc (k := 2) (v := (t1.1 + 1)) (lv' := [(2, .int (t1.1 + 1)), (3, .int ((t1.2.1 + 1) + 1)), (0, .ref o)]) hx hb dX4_reckons_71 hl rfl rfl (by decide) rfl (fun ls hl => ?_)
        refine lv_goto (tgt := 140) hx hb dX4_reckons_74 (by decide) ?_
        have he := o_in hit
        subst he
        exact hr8 _ _ _ hM hS (lv_sub hl [2, 0, 1] rfl)
      have hit := er9
      refine b_icmp_ne (tgt := 56) hx hb dX4_reckons_44 (by decide) hit (fun c11 hit => ?_) (fun c11 hit => ?_)
      · refine lv_aload_n hx hb dX4_reckons_56 rfl (lv_at hl 2 rfl) ?_
        refine m_get X hM 47 q1691 rfl rfl (v := .ref (ad 47)) rfl dX4_reckons_57 ?_
        refine lv_aload_n hx hb dX4_reckons_60 rfl (lv_at hl 2 rfl) ?_
        refine m_get X hM 11 q1655 rfl rfl (v := .ref (ad 11)) rfl dX4_reckons_61 ?_
        refine lv_iload_n hx hb dX4_reckons_64 rfl (lv_at hl 0 rfl) ?_
        obtain ⟨v12, ev12, hit⟩ := o_bind hit
        refine m_iald X hM 4 11 rfl rfl ev12 dX4_reckons_65 ?_
        obtain ⟨v13, ev13, hit⟩ := o_bind hit
        refine m_iald X hM 17 47 rfl rfl ev13 dX4_reckons_66 ?_
        have he := o_in hit
        subst he
        exact hr9 _ _ _ hM hS (lv_sub hl [0, 2, 3] rfl)
      · refine lv_aload_n hx hb dX4_reckons_47 rfl (lv_at hl 2 rfl) ?_
        refine m_get X hM 11 q1655 rfl rfl (v := .ref (ad 11)) rfl dX4_reckons_48 ?_
        refine lv_iload_n hx hb dX4_reckons_51 rfl (lv_at hl 0 rfl) ?_
        obtain ⟨v14, ev14, hit⟩ := o_bind hit
        refine m_iald X hM 4 11 rfl rfl ev14 dX4_reckons_52 ?_
        refine lv_goto (tgt := 67) hx hb dX4_reckons_53 (by decide) ?_
        have he := o_in hit
        subst he
        exact hr9 _ _ _ hM hS (lv_sub hl [0, 2, 3] rfl)
    refine b_icmp_eq (tgt := 36) hx hb dX4_reckons_27 (by decide) hit (fun c15 hit => ?_) (fun c15 hit => ?_)
    · exact hK36  hit _ _ _ hM hS hl
    · refine lv_iload hx hb dX4_reckons_30 (lv_at hl 1 rfl) ?_
      refine lv_iconst (v := 2) hx hb dX4_reckons_32 (by decide) ?_
      refine b_icmp_ne (tgt := 77) hx hb dX4_reckons_33 (by decide) hit (fun c16 hit => ?_) (fun c16 hit => ?_)
      · refine lv_iload hx hb dX4_reckons_77 (lv_at hl 1 rfl) ?_
        refine lv_iconst (v := 3) hx hb dX4_reckons_79 (by decide) ?_
        refine b_icmp_ne (tgt := 110) hx hb dX4_reckons_80 (by decide) hit (fun c17 hit => ?_) (fun c17 hit => ?_)
        · refine lv_iinc (k := 3) (v := (t1.1 + (-1))) (lv' := [(2, .int (t1.1 + (-1))), (3, .int (t1.2.1 + 1)), (4, .int v7), (0, .ref o)]) hx hb dX4_reckons_110 hl rfl rfl (by decide) rfl (fun ls hl => ?_)
          refine lv_aload_n hx hb dX4_reckons_113 rfl (lv_at hl 3 rfl) ?_
          refine m_get X hM 48 q1692 rfl rfl (v := .ref (ad 48)) rfl dX4_reckons_114 ?_
          refine lv_iload_n hx hb dX4_reckons_117 rfl (lv_at hl 0 rfl) ?_
          refine lv_iconst (v := 1) hx hb dX4_reckons_118 (by decide) ?_
          refine lv_isub hx hb dX4_reckons_119 ?_
          refine lv_iload hx hb dX4_reckons_120 (lv_at hl 2 rfl) ?_
          refine lv_aload_n hx hb dX4_reckons_122 rfl (lv_at hl 3 rfl) ?_
          refine m_get X hM 48 q1692 rfl rfl (v := .ref (ad 48)) rfl dX4_reckons_123 ?_
          refine lv_iload_n hx hb dX4_reckons_126 rfl (lv_at hl 0 rfl) ?_
          refine lv_iconst (v := 1) hx hb dX4_reckons_127 (by decide) ?_
          refine lv_isub hx hb dX4_reckons_128 ?_
          obtain ⟨v18, ev18, hit⟩ := o_bind hit
          refine m_iald X hM 18 48 rfl rfl ev18 dX4_reckons_129 ?_
          refine lv_aload_n hx hb dX4_reckons_130 rfl (lv_at hl 3 rfl) ?_
          refine m_get X hM 48 q1692 rfl rfl (v := .ref (ad 48)) rfl dX4_reckons_131 ?_
          refine lv_iload_n hx hb dX4_reckons_134 rfl (lv_at hl 0 rfl) ?_
          obtain ⟨v19, ev19, hit⟩ := o_bind hit
          refine m_iald X hM 18 48 rfl rfl ev19 dX4_reckons_135 ?_
          obtain ⟨q20, eq20, hit⟩ := o_bind hit
          refine m_cP X.1 (wM_works l _ _ _ _ eq20) nm_X4_works q2132 q2133 q141 q2134 ⟨Nat.le_trans (Nat.le_of_ble_eq_true rfl) hR.1, Nat.le_trans (Nat.le_of_ble_eq_true rfl) hR.2⟩ rfl rfl hl.1 (lv_room (Nat.le_of_ble_eq_true rfl)) dX4_reckons_136 ?_
          obtain ⟨s21, es21, hit⟩ := o_bind hit
          refine m_iast X hM hS 18 48 rfl rfl es21 dX4_reckons_139 (fun H locs hM hS => ?_)
          have he := o_in hit
          subst he
          exact hr8 _ _ _ hM hS (lv_sub hl [3, 0, 1] rfl)
        · refine lv_aload_n hx hb dX4_reckons_83 rfl (lv_at hl 2 rfl) ?_
          refine m_get X hM 48 q1692 rfl rfl (v := .ref (ad 48)) rfl dX4_reckons_84 ?_
          refine lv_iload_n hx hb dX4_reckons_87 rfl (lv_at hl 3 rfl) ?_
          refine lv_iconst (v := 1) hx hb dX4_reckons_88 (by decide) ?_
          refine lv_isub hx hb dX4_reckons_89 ?_
          refine lv_aload_n hx hb dX4_reckons_90 rfl (lv_at hl 2 rfl) ?_
          refine m_get X hM 48 q1692 rfl rfl (v := .ref (ad 48)) rfl dX4_reckons_91 ?_
          refine lv_iload_n hx hb dX4_reckons_94 rfl (lv_at hl 3 rfl) ?_
          refine lv_iconst (v := 1) hx hb dX4_reckons_95 (by decide) ?_
          refine lv_isub hx hb dX4_reckons_96 ?_
          obtain ⟨v22, ev22, hit⟩ := o_bind hit
          refine m_iald X hM 18 48 rfl rfl ev22 dX4_reckons_97 ?_
          obtain ⟨r23, er23, hit⟩ := o_bind hit
          have hr23 : ∀ (H : Heap) (locs : List Loc) (ls : Array Slot), MH G dT o ad t1.2.2 H → va_S (mAd o ad) s.heap H locs → lv_has ls 5 [(3, .int (t1.2.1 + 1)), (0, .ref o), (2, .int t1.1)] → W p l e R s m args below meth c H locs 0 0 Q (F0 m 106 ls [.int r23, .int (t1.1 - 1), .ref (ad 48)]) := by
            intro H locs ls hM hS hl
            obtain ⟨s24, es24, hit⟩ := o_bind hit
            refine m_iast X hM hS 18 48 rfl rfl es24 dX4_reckons_106 (fun H locs hM hS => ?_)
            refine lv_goto (tgt := 140) hx hb dX4_reckons_107 (by decide) ?_
            have he := o_in hit
            subst he
            exact hr8 _ _ _ hM hS (lv_sub hl [1, 2, 0] rfl)
          have hit := er23
          refine b_if_ne (tgt := 105) hx hb dX4_reckons_98 (by decide) hit (fun c25 hit => ?_) (fun c25 hit => ?_)
          · refine lv_iconst (v := 0) hx hb dX4_reckons_105 (by decide) ?_
            have he := o_in hit
            subst he
            exact hr23 _ _ _ hM hS (lv_sub hl [0, 2, 3] rfl)
          · refine lv_iconst (v := 1) hx hb dX4_reckons_101 (by decide) ?_
            refine lv_goto (tgt := 106) hx hb dX4_reckons_102 (by decide) ?_
            have he := o_in hit
            subst he
            exact hr23 _ _ _ hM hS (lv_sub hl [0, 2, 3] rfl)
      · exact hK36  hit _ _ _ hM hS hl
noncomputable def M_townOn (σ : MS) (a0 : Int32) (a1 : Int32) : Option (Int32) :=
  (ald σ 8 a0).bind fun v1 =>
  (irm a1 v1).bind fun v2 =>
  (ald σ 7 ((6 * a0) + v2)).bind fun v3 =>
  some v3
theorem nm_X4_townOn : kNm yX4_townOn RX4 2 := by unfold kNm; decide +kernel
set_option maxHeartbeats 4000000 in
set_option maxRecDepth 100000 in
theorem wM_townOn (l : Launch) (G : va_G) (dT : Nat → ClassId) (o : Nat) (ad : Nat → Nat) (σ : MS) (a0 : Int32) (a1 : Int32) (z : Int32) (h : M_townOn σ a0 a1 = some z) : Met l yX4_townOn (ws_ yX4_townOn cX4_townOn 3 (some .int)) (kRm 0 0) (mPc G dT o ad σ [.int a0, .int a1]) (vp_Si (fun r => r = z)) 0 0 vp_nf := by
  refine m_startR (cc := cX4_townOn) (ty := .int) rfl rfl rfl (fun p e R s m args below meth c Q ls X hR hM hl hend => ?_)
  have hx := X.1.1
  have hb := X.1.2.1
  have hit := h
  clear h
  unfold M_townOn at hit
  have hl : lv_has ls 3 [(0, .ref o), (1, .int a0), (2, .int a1)] := hl
  refine lv_aload_n hx hb dX4_townOn_0 rfl (lv_at hl 0 rfl) ?_
  refine m_get X hM 7 q1651 rfl rfl (v := .ref (ad 7)) rfl dX4_townOn_1 ?_
  refine lv_bipush (v := 6) hx hb dX4_townOn_4 (by decide) ?_
  refine lv_iload_n hx hb dX4_townOn_6 rfl (lv_at hl 1 rfl) ?_
  refine lv_imul hx hb dX4_townOn_7 ?_
  refine lv_iload_n hx hb dX4_townOn_8 rfl (lv_at hl 2 rfl) ?_
  refine lv_aload_n hx hb dX4_townOn_9 rfl (lv_at hl 0 rfl) ?_
  refine m_get X hM 8 q1652 rfl rfl (v := .ref (ad 8)) rfl dX4_townOn_10 ?_
  refine lv_iload_n hx hb dX4_townOn_13 rfl (lv_at hl 1 rfl) ?_
  obtain ⟨v1, ev1, hit⟩ := o_bind hit
  refine m_iald X hM 1 8 rfl rfl ev1 dX4_townOn_14 ?_
  obtain ⟨v2, ev2, hit⟩ := o_bind hit
  refine b_irem hx hb ev2 dX4_townOn_15 ?_
  refine lv_iadd hx hb dX4_townOn_16 ?_
  obtain ⟨v3, ev3, hit⟩ := o_bind hit
  refine m_iald X hM 0 7 rfl rfl ev3 dX4_townOn_17 ?_
  have he := o_in hit
  exact hend _ v3 _ _ rfl he dX4_townOn_18
noncomputable def M_clerkIn (σ : MS) (a0 : Int32) (a1 : Int32) : Option (Int32) :=
  (ald σ 44 (a0 + 0)).bind fun v1 =>
  (M_townOn σ a1 v1).bind fun q2 =>
  some q2
theorem nm_X4_clerkIn : kNm yX4_clerkIn RX4 2 := by unfold kNm; decide +kernel
set_option maxHeartbeats 4000000 in
set_option maxRecDepth 100000 in
theorem wM_clerkIn (l : Launch) (G : va_G) (dT : Nat → ClassId) (o : Nat) (ad : Nat → Nat) (σ : MS) (a0 : Int32) (a1 : Int32) (z : Int32) (h : M_clerkIn σ a0 a1 = some z) : Met l yX4_clerkIn (ws_ yX4_clerkIn cX4_clerkIn 3 (some .int)) (kRm 1 22) (mPc G dT o ad σ [.int a0, .int a1]) (vp_Si (fun r => r = z)) 0 0 vp_nf := by
  refine m_startR (cc := cX4_clerkIn) (ty := .int) rfl rfl rfl (fun p e R s m args below meth c Q ls X hR hM hl hend => ?_)
  have hx := X.1.1
  have hb := X.1.2.1
  have hit := h
  clear h
  unfold M_clerkIn at hit
  have hl : lv_has ls 3 [(0, .ref o), (1, .int a0), (2, .int a1)] := hl
  refine lv_aload_n hx hb dX4_clerkIn_0 rfl (lv_at hl 0 rfl) ?_
  refine lv_iload_n hx hb dX4_clerkIn_1 rfl (lv_at hl 2 rfl) ?_
  refine lv_aload_n hx hb dX4_clerkIn_2 rfl (lv_at hl 0 rfl) ?_
  refine m_get X hM 44 q1688 rfl rfl (v := .ref (ad 44)) rfl dX4_clerkIn_3 ?_
  refine lv_iload_n hx hb dX4_clerkIn_6 rfl (lv_at hl 1 rfl) ?_
  refine lv_iconst (v := 0) hx hb dX4_clerkIn_7 (by decide) ?_
  refine lv_iadd hx hb dX4_clerkIn_8 ?_
  obtain ⟨v1, ev1, hit⟩ := o_bind hit
  refine m_iald X hM 15 44 rfl rfl ev1 dX4_clerkIn_9 ?_
  obtain ⟨q2, eq2, hit⟩ := o_bind hit
  refine m_cR X hM (wM_townOn l G dT o ad _ _ _ _ eq2) nm_X4_townOn q2044 q2046 q141 q2047 qs96 ⟨Nat.le_trans (Nat.le_of_ble_eq_true rfl) hR.1, Nat.le_trans (Nat.le_of_ble_eq_true rfl) hR.2⟩ rfl rfl hl.1 (lv_room (Nat.le_of_ble_eq_true rfl)) dX4_clerkIn_10 ?_
  have he := o_in hit
  exact hend _ q2 _ _ rfl he dX4_clerkIn_13
noncomputable def M_isBurnt (σ : MS) (a0 : Int32) (a1 : Int32) : Option (Int32) :=
  (ald σ 44 ((a0 + 19) + a1)).bind fun v1 =>
  if v1 = (-1) then
    (some 1)
  else
    (some 0)
theorem nm_X4_isBurnt : kNm yX4_isBurnt RX4 2 := by unfold kNm; decide +kernel
set_option maxHeartbeats 4000000 in
set_option maxRecDepth 100000 in
theorem wM_isBurnt (l : Launch) (G : va_G) (dT : Nat → ClassId) (o : Nat) (ad : Nat → Nat) (σ : MS) (a0 : Int32) (a1 : Int32) (z : Int32) (h : M_isBurnt σ a0 a1 = some z) : Met l yX4_isBurnt (ws_ yX4_isBurnt cX4_isBurnt 3 (some .boolean)) (kRm 0 0) (mPc G dT o ad σ [.int a0, .int a1]) (vp_Si (fun r => r = z)) 0 0 vp_nf := by
  refine m_startR (cc := cX4_isBurnt) (ty := .boolean) rfl rfl rfl (fun p e R s m args below meth c Q ls X hR hM hl hend => ?_)
  have hx := X.1.1
  have hb := X.1.2.1
  have hit := h
  clear h
  unfold M_isBurnt at hit
  have hl : lv_has ls 3 [(0, .ref o), (1, .int a0), (2, .int a1)] := hl
  refine lv_aload_n hx hb dX4_isBurnt_0 rfl (lv_at hl 0 rfl) ?_
  refine m_get X hM 44 q1688 rfl rfl (v := .ref (ad 44)) rfl dX4_isBurnt_1 ?_
  refine lv_iload_n hx hb dX4_isBurnt_4 rfl (lv_at hl 1 rfl) ?_
  refine lv_bipush (v := 19) hx hb dX4_isBurnt_5 (by decide) ?_
  refine lv_iadd hx hb dX4_isBurnt_7 ?_
  refine lv_iload_n hx hb dX4_isBurnt_8 rfl (lv_at hl 2 rfl) ?_
  refine lv_iadd hx hb dX4_isBurnt_9 ?_
  obtain ⟨v1, ev1, hit⟩ := o_bind hit
  refine m_iald X hM 15 44 rfl rfl ev1 dX4_isBurnt_10 ?_
  refine lv_iconst (v := (-1)) hx hb dX4_isBurnt_11 (by decide) ?_
  refine b_icmp_ne (tgt := 19) hx hb dX4_isBurnt_12 (by decide) hit (fun c2 hit => ?_) (fun c2 hit => ?_)
  · refine lv_iconst (v := 0) hx hb dX4_isBurnt_19 (by decide) ?_
    have he := o_in hit
    exact hend _ 0 _ _ rfl he dX4_isBurnt_20
  · refine lv_iconst (v := 1) hx hb dX4_isBurnt_15 (by decide) ?_
    refine lv_goto (tgt := 20) hx hb dX4_isBurnt_16 (by decide) ?_
    have he := o_in hit
    exact hend _ 1 _ _ rfl he dX4_isBurnt_20
noncomputable def M_sheetIn (σ : MS) (a0 : Int32) (a1 : Int32) : Option (Int32) :=
  (ald σ 44 ((a0 + 19) + a1)).bind fun v1 =>
  if v1 < 10 then
    (some v1)
  else
    ((M_clerkIn σ a0 (v1 - 10)).bind fun q3 =>
    some q3)
theorem nm_X4_sheetIn : kNm yX4_sheetIn RX4 2 := by unfold kNm; decide +kernel
set_option maxHeartbeats 4000000 in
set_option maxRecDepth 100000 in
theorem wM_sheetIn (l : Launch) (G : va_G) (dT : Nat → ClassId) (o : Nat) (ad : Nat → Nat) (σ : MS) (a0 : Int32) (a1 : Int32) (z : Int32) (h : M_sheetIn σ a0 a1 = some z) : Met l yX4_sheetIn (ws_ yX4_sheetIn cX4_sheetIn 4 (some .int)) (kRm 2 44) (mPc G dT o ad σ [.int a0, .int a1]) (vp_Si (fun r => r = z)) 0 0 vp_nf := by
  refine m_startR (cc := cX4_sheetIn) (ty := .int) rfl rfl rfl (fun p e R s m args below meth c Q ls X hR hM hl hend => ?_)
  have hx := X.1.1
  have hb := X.1.2.1
  have hit := h
  clear h
  unfold M_sheetIn at hit
  have hl : lv_has ls 4 [(0, .ref o), (1, .int a0), (2, .int a1)] := hl
  refine lv_aload_n hx hb dX4_sheetIn_0 rfl (lv_at hl 0 rfl) ?_
  refine m_get X hM 44 q1688 rfl rfl (v := .ref (ad 44)) rfl dX4_sheetIn_1 ?_
  refine lv_iload_n hx hb dX4_sheetIn_4 rfl (lv_at hl 1 rfl) ?_
  refine lv_bipush (v := 19) hx hb dX4_sheetIn_5 (by decide) ?_
  refine lv_iadd hx hb dX4_sheetIn_7 ?_
  refine lv_iload_n hx hb dX4_sheetIn_8 rfl (lv_at hl 2 rfl) ?_
  refine lv_iadd hx hb dX4_sheetIn_9 ?_
  obtain ⟨v1, ev1, hit⟩ := o_bind hit
  refine m_iald X hM 15 44 rfl rfl ev1 dX4_sheetIn_10 ?_
  refine lv_istore_n (lv' := [(3, .int v1), (0, .ref o), (1, .int a0), (2, .int a1)]) hx hb dX4_sheetIn_11 rfl hl (by decide) rfl (fun ls hl => ?_)
  refine lv_iload_n hx hb dX4_sheetIn_12 rfl (lv_at hl 0 rfl) ?_
  refine lv_bipush (v := 10) hx hb dX4_sheetIn_13 (by decide) ?_
  refine b_icmp_ge (tgt := 22) hx hb dX4_sheetIn_15 (by decide) hit (fun c2 hit => ?_) (fun c2 hit => ?_)
  · refine lv_aload_n hx hb dX4_sheetIn_22 rfl (lv_at hl 1 rfl) ?_
    refine lv_iload_n hx hb dX4_sheetIn_23 rfl (lv_at hl 2 rfl) ?_
    refine lv_iload_n hx hb dX4_sheetIn_24 rfl (lv_at hl 0 rfl) ?_
    refine lv_bipush (v := 10) hx hb dX4_sheetIn_25 (by decide) ?_
    refine lv_isub hx hb dX4_sheetIn_27 ?_
    obtain ⟨q3, eq3, hit⟩ := o_bind hit
    refine m_cR X hM (wM_clerkIn l G dT o ad _ _ _ _ eq3) nm_X4_clerkIn q2040 q2042 q141 q2043 qs95 ⟨Nat.le_trans (Nat.le_of_ble_eq_true rfl) hR.1, Nat.le_trans (Nat.le_of_ble_eq_true rfl) hR.2⟩ rfl rfl hl.1 (lv_room (Nat.le_of_ble_eq_true rfl)) dX4_sheetIn_28 ?_
    have he := o_in hit
    exact hend _ q3 _ _ rfl he dX4_sheetIn_31
  · refine lv_iload_n hx hb dX4_sheetIn_18 rfl (lv_at hl 0 rfl) ?_
    refine lv_goto (tgt := 31) hx hb dX4_sheetIn_19 (by decide) ?_
    have he := o_in hit
    exact hend _ v1 _ _ rfl he dX4_sheetIn_31
noncomputable def M_offBy (σ : MS) (a0 : Int32) (a1 : Int32) (a2 : Int32) : Option (Int32) :=
  (ald σ 44 ((a0 + 10) + a1)).bind fun v1 =>
  (ald σ 44 ((a0 + 1) + a2)).bind fun v2 =>
  (M_bits (v1 ^^^ v2)).bind fun q3 =>
  some q3
theorem nm_X4_offBy : kNm yX4_offBy RX4 3 := by unfold kNm; decide +kernel
set_option maxHeartbeats 4000000 in
set_option maxRecDepth 100000 in
theorem wM_offBy (l : Launch) (G : va_G) (dT : Nat → ClassId) (o : Nat) (ad : Nat → Nat) (σ : MS) (a0 : Int32) (a1 : Int32) (a2 : Int32) (z : Int32) (h : M_offBy σ a0 a1 a2 = some z) : Met l yX4_offBy (ws_ yX4_offBy cX4_offBy 4 (some .int)) (kRm 1 22) (mPc G dT o ad σ [.int a0, .int a1, .int a2]) (vp_Si (fun r => r = z)) 0 0 vp_nf := by
  refine m_startR (cc := cX4_offBy) (ty := .int) rfl rfl rfl (fun p e R s m args below meth c Q ls X hR hM hl hend => ?_)
  have hx := X.1.1
  have hb := X.1.2.1
  have hit := h
  clear h
  unfold M_offBy at hit
  have hl : lv_has ls 4 [(0, .ref o), (1, .int a0), (2, .int a1), (3, .int a2)] := hl
  refine lv_aload_n hx hb dX4_offBy_0 rfl (lv_at hl 0 rfl) ?_
  refine m_get X hM 44 q1688 rfl rfl (v := .ref (ad 44)) rfl dX4_offBy_1 ?_
  refine lv_iload_n hx hb dX4_offBy_4 rfl (lv_at hl 1 rfl) ?_
  refine lv_bipush (v := 10) hx hb dX4_offBy_5 (by decide) ?_
  refine lv_iadd hx hb dX4_offBy_7 ?_
  refine lv_iload_n hx hb dX4_offBy_8 rfl (lv_at hl 2 rfl) ?_
  refine lv_iadd hx hb dX4_offBy_9 ?_
  obtain ⟨v1, ev1, hit⟩ := o_bind hit
  refine m_iald X hM 15 44 rfl rfl ev1 dX4_offBy_10 ?_
  refine lv_aload_n hx hb dX4_offBy_11 rfl (lv_at hl 0 rfl) ?_
  refine m_get X hM 44 q1688 rfl rfl (v := .ref (ad 44)) rfl dX4_offBy_12 ?_
  refine lv_iload_n hx hb dX4_offBy_15 rfl (lv_at hl 1 rfl) ?_
  refine lv_iconst (v := 1) hx hb dX4_offBy_16 (by decide) ?_
  refine lv_iadd hx hb dX4_offBy_17 ?_
  refine lv_iload_n hx hb dX4_offBy_18 rfl (lv_at hl 3 rfl) ?_
  refine lv_iadd hx hb dX4_offBy_19 ?_
  obtain ⟨v2, ev2, hit⟩ := o_bind hit
  refine m_iald X hM 15 44 rfl rfl ev2 dX4_offBy_20 ?_
  refine lv_ixor hx hb dX4_offBy_21 ?_
  obtain ⟨q3, eq3, hit⟩ := o_bind hit
  refine m_cP X.1 (wM_bits l _ _ eq3) nm_X4_bits q2018 q2019 q141 q2020 ⟨Nat.le_trans (Nat.le_of_ble_eq_true rfl) hR.1, Nat.le_trans (Nat.le_of_ble_eq_true rfl) hR.2⟩ rfl rfl hl.1 (lv_room (Nat.le_of_ble_eq_true rfl)) dX4_offBy_22 ?_
  have he := o_in hit
  exact hend _ q3 _ _ rfl he dX4_offBy_25
noncomputable def M_doesFit (σ : MS) (a0 : Int32) (a1 : Int32) (a2 : Int32) : Option (Int32) :=
  if a1 = a2 then
    (some 0)
  else
    ((M_isBurnt σ a0 a1).bind fun q2 =>
    if q2 = 0 then
      ((M_isBurnt σ a0 a2).bind fun q4 =>
      if q4 = 0 then
        ((M_offBy σ a0 a1 a2).bind fun q6 =>
        if q6 ≤ (mf σ 4) then
          (some 1)
        else
          (some 0))
      else
        (some 0))
    else
      (some 0))
theorem nm_X4_doesFit : kNm yX4_doesFit RX4 3 := by unfold kNm; decide +kernel
set_option maxHeartbeats 4000000 in
set_option maxRecDepth 100000 in
theorem wM_doesFit (l : Launch) (G : va_G) (dT : Nat → ClassId) (o : Nat) (ad : Nat → Nat) (σ : MS) (a0 : Int32) (a1 : Int32) (a2 : Int32) (z : Int32) (h : M_doesFit σ a0 a1 a2 = some z) : Met l yX4_doesFit (ws_ yX4_doesFit cX4_doesFit 4 (some .boolean)) (kRm 2 45) (mPc G dT o ad σ [.int a0, .int a1, .int a2]) (vp_Si (fun r => r = z)) 0 0 vp_nf := by
  refine m_startR (cc := cX4_doesFit) (ty := .boolean) rfl rfl rfl (fun p e R s m args below meth c Q ls X hR hM hl hend => ?_)
  have hx := X.1.1
  have hb := X.1.2.1
  have hit := h
  clear h
  unfold M_doesFit at hit
  have hl : lv_has ls 4 [(0, .ref o), (1, .int a0), (2, .int a1), (3, .int a2)] := hl
  refine lv_iload_n hx hb dX4_doesFit_0 rfl (lv_at hl 2 rfl) ?_
  refine lv_iload_n hx hb dX4_doesFit_1 rfl (lv_at hl 3 rfl) ?_
  refine b_icmp_eq (tgt := 41) hx hb dX4_doesFit_2 (by decide) hit (fun c1 hit => ?_) (fun c1 hit => ?_)
  · refine lv_iconst (v := 0) hx hb dX4_doesFit_41 (by decide) ?_
    have he := o_in hit
    exact hend _ 0 _ _ rfl he dX4_doesFit_42
  · refine lv_aload_n hx hb dX4_doesFit_5 rfl (lv_at hl 0 rfl) ?_
    refine lv_iload_n hx hb dX4_doesFit_6 rfl (lv_at hl 1 rfl) ?_
    refine lv_iload_n hx hb dX4_doesFit_7 rfl (lv_at hl 2 rfl) ?_
    obtain ⟨q2, eq2, hit⟩ := o_bind hit
    refine m_cR X hM (wM_isBurnt l G dT o ad _ _ _ _ eq2) nm_X4_isBurnt q1990 q1992 q141 q1993 qs85 ⟨Nat.le_trans (Nat.le_of_ble_eq_true rfl) hR.1, Nat.le_trans (Nat.le_of_ble_eq_true rfl) hR.2⟩ rfl rfl hl.1 (lv_room (Nat.le_of_ble_eq_true rfl)) dX4_doesFit_8 ?_
    refine b_if_ne (tgt := 41) hx hb dX4_doesFit_11 (by decide) hit (fun c3 hit => ?_) (fun c3 hit => ?_)
    · refine lv_iconst (v := 0) hx hb dX4_doesFit_41 (by decide) ?_
      have he := o_in hit
      exact hend _ 0 _ _ rfl he dX4_doesFit_42
    · refine lv_aload_n hx hb dX4_doesFit_14 rfl (lv_at hl 0 rfl) ?_
      refine lv_iload_n hx hb dX4_doesFit_15 rfl (lv_at hl 1 rfl) ?_
      refine lv_iload_n hx hb dX4_doesFit_16 rfl (lv_at hl 3 rfl) ?_
      obtain ⟨q4, eq4, hit⟩ := o_bind hit
      refine m_cR X hM (wM_isBurnt l G dT o ad _ _ _ _ eq4) nm_X4_isBurnt q1990 q1992 q141 q1993 qs85 ⟨Nat.le_trans (Nat.le_of_ble_eq_true rfl) hR.1, Nat.le_trans (Nat.le_of_ble_eq_true rfl) hR.2⟩ rfl rfl hl.1 (lv_room (Nat.le_of_ble_eq_true rfl)) dX4_doesFit_17 ?_
      refine b_if_ne (tgt := 41) hx hb dX4_doesFit_20 (by decide) hit (fun c5 hit => ?_) (fun c5 hit => ?_)
      · refine lv_iconst (v := 0) hx hb dX4_doesFit_41 (by decide) ?_
        have he := o_in hit
        exact hend _ 0 _ _ rfl he dX4_doesFit_42
      · refine lv_aload_n hx hb dX4_doesFit_23 rfl (lv_at hl 0 rfl) ?_
        refine lv_iload_n hx hb dX4_doesFit_24 rfl (lv_at hl 1 rfl) ?_
        refine lv_iload_n hx hb dX4_doesFit_25 rfl (lv_at hl 2 rfl) ?_
        refine lv_iload_n hx hb dX4_doesFit_26 rfl (lv_at hl 3 rfl) ?_
        obtain ⟨q6, eq6, hit⟩ := o_bind hit
        refine m_cR X hM (wM_offBy l G dT o ad _ _ _ _ _ eq6) nm_X4_offBy q2014 q2016 q141 q2017 qs91 ⟨Nat.le_trans (Nat.le_of_ble_eq_true rfl) hR.1, Nat.le_trans (Nat.le_of_ble_eq_true rfl) hR.2⟩ rfl rfl hl.1 (lv_room (Nat.le_of_ble_eq_true rfl)) dX4_doesFit_27 ?_
        refine lv_aload_n hx hb dX4_doesFit_30 rfl (lv_at hl 0 rfl) ?_
        refine m_get X hM 4 q1648 rfl rfl (v := .int (mf σ 4)) rfl dX4_doesFit_31 ?_
        refine b_icmp_gt (tgt := 41) hx hb dX4_doesFit_34 (by decide) hit (fun c7 hit => ?_) (fun c7 hit => ?_)
        · refine lv_iconst (v := 0) hx hb dX4_doesFit_41 (by decide) ?_
          have he := o_in hit
          exact hend _ 0 _ _ rfl he dX4_doesFit_42
        · refine lv_iconst (v := 1) hx hb dX4_doesFit_37 (by decide) ?_
          refine lv_goto (tgt := 42) hx hb dX4_doesFit_38 (by decide) ?_
          have he := o_in hit
          exact hend _ 1 _ _ rfl he dX4_doesFit_42
noncomputable def M_clerksAt_L5 (σ : MS) (a0 : Int32) (a1 : Int32) (t1 : Int32 × Int32) : Option ((Int32 × Int32) ⊕ Int32) :=
  if t1.2 < (mf σ 2) then
    ((M_clerkIn σ a0 t1.2).bind fun q4 =>
    ((if q4 = a1 then
        (some ((1 : Int32) <<< (t1.2 &&& 31)))
      else
        (some 0) : Option Int32)).bind fun r5 =>
    some (.inl ((t1.1 ||| r5), (t1.2 + 1))))
  else
    (some (.inr t1.1))
noncomputable def M_clerksAt (σ : MS) (a0 : Int32) (a1 : Int32) : Option (Int32) :=
  o_loop (M_clerksAt_L5 σ a0 a1) (0, 0)
theorem nm_X4_clerksAt : kNm yX4_clerksAt RX4 2 := by unfold kNm; decide +kernel
set_option maxHeartbeats 4000000 in
set_option maxRecDepth 100000 in
theorem wM_clerksAt (l : Launch) (G : va_G) (dT : Nat → ClassId) (o : Nat) (ad : Nat → Nat) (σ : MS) (a0 : Int32) (a1 : Int32) (z : Int32) (h : M_clerksAt σ a0 a1 = some z) : Met l yX4_clerksAt (ws_ yX4_clerksAt cX4_clerksAt 5 (some .int)) (kRm 2 44) (mPc G dT o ad σ [.int a0, .int a1]) (vp_Si (fun r => r = z)) 0 0 vp_nf := by
  refine m_startR (cc := cX4_clerksAt) (ty := .int) rfl rfl rfl (fun p e R s m args below meth c Q ls X hR hM hl hend => ?_)
  have hx := X.1.1
  have hb := X.1.2.1
  have hit := h
  clear h
  unfold M_clerksAt at hit
  have hl : lv_has ls 5 [(0, .ref o), (1, .int a0), (2, .int a1)] := hl
  refine lv_iconst (v := 0) hx hb dX4_clerksAt_0 (by decide) ?_
  refine lv_istore_n (lv' := [(3, .int 0), (0, .ref o), (1, .int a0), (2, .int a1)]) hx hb dX4_clerksAt_1 rfl hl (by decide) rfl (fun ls hl => ?_)
  refine lv_iconst (v := 0) hx hb dX4_clerksAt_2 (by decide) ?_
  refine lv_istore (lv' := [(4, .int 0), (3, .int 0), (0, .ref o), (1, .int a0), (2, .int a1)]) hx hb dX4_clerksAt_3 hl (by decide) rfl (fun ls hl => ?_)
  refine o_rec (P := fun t1 => ∀ (ls : Array Slot), lv_has ls 5 [(0, .ref o), (1, .int a0), (2, .int a1), (3, .int t1.1), (4, .int t1.2)] → W p l e R s m args below meth c s.heap [] 0 0 Q (F0 m 5 ls [])) (fun t1 x2 hit hC1 hE1 ls hl => ?_) _ hit _ (lv_sub hl [2, 3, 4, 1, 0] rfl)
  unfold M_clerksAt_L5 at hit
  refine lv_iload hx hb dX4_clerksAt_5 (lv_at hl 4 rfl) ?_
  refine lv_aload_n hx hb dX4_clerksAt_7 rfl (lv_at hl 0 rfl) ?_
  refine m_get X hM 2 q1646 rfl rfl (v := .int (mf σ 2)) rfl dX4_clerksAt_8 ?_
  refine b_icmp_ge (tgt := 42) hx hb dX4_clerksAt_11 (by decide) hit (fun c3 hit => ?_) (fun c3 hit => ?_)
  · refine lv_iload_n hx hb dX4_clerksAt_42 rfl (lv_at hl 3 rfl) ?_
    have he := o_in hit
    have he := hE1 _ he
    exact hend _ t1.1 _ _ rfl he dX4_clerksAt_43
  · refine lv_iload_n hx hb dX4_clerksAt_14 rfl (lv_at hl 3 rfl) ?_
    refine lv_aload_n hx hb dX4_clerksAt_15 rfl (lv_at hl 0 rfl) ?_
    refine lv_iload_n hx hb dX4_clerksAt_16 rfl (lv_at hl 1 rfl) ?_
    refine lv_iload hx hb dX4_clerksAt_17 (lv_at hl 4 rfl) ?_
    obtain ⟨q4, eq4, hit⟩ := o_bind hit
    refine m_cR X hM (wM_clerkIn l G dT o ad _ _ _ _ eq4) nm_X4_clerkIn q2040 q2042 q141 q2043 qs95 ⟨Nat.le_trans (Nat.le_of_ble_eq_true rfl) hR.1, Nat.le_trans (Nat.le_of_ble_eq_true rfl) hR.2⟩ rfl rfl hl.1 (lv_room (Nat.le_of_ble_eq_true rfl)) dX4_clerksAt_19 ?_
    refine lv_iload_n hx hb dX4_clerksAt_22 rfl (lv_at hl 2 rfl) ?_
    obtain ⟨r5, er5, hit⟩ := o_bind hit
    have hr5 : ∀ (ls : Array Slot), lv_has ls 5 [(0, .ref o), (1, .int a0), (2, .int a1), (4, .int t1.2)] → W p l e R s m args below meth c s.heap [] 0 0 Q (F0 m 34 ls [.int r5, .int t1.1]) := by
      intro ls hl
      refine lv_ior hx hb dX4_clerksAt_34 ?_
      refine lv_istore_n (lv' := [(3, .int (t1.1 ||| r5)), (0, .ref o), (1, .int a0), (2, .int a1), (4, .int t1.2)]) hx hb dX4_clerksAt_35 rfl hl (by decide) rfl (fun ls hl => ?_)
      refine lv_iinc (k := 4) (v := (t1.2 + 1)) (lv' := [(4, .int (t1.2 + 1)), (3, .int (t1.1 ||| r5)), (0, .ref o), (1, .int a0), (2, .int a1)]) hx hb dX4_clerksAt_36 hl rfl rfl (by decide) rfl (fun ls hl => ?_)
      refine lv_goto (tgt := 5) hx hb dX4_clerksAt_39 (by decide) ?_
      have he := o_in hit
      exact hC1 _ he _ (lv_sub hl [2, 3, 4, 1, 0] rfl)
    have hit := er5
    refine b_icmp_ne (tgt := 33) hx hb dX4_clerksAt_23 (by decide) hit (fun c6 hit => ?_) (fun c6 hit => ?_)
    · refine lv_iconst (v := 0) hx hb dX4_clerksAt_33 (by decide) ?_
      have he := o_in hit
      subst he
      exact hr5 _ (lv_sub hl [0, 1, 2, 4] rfl)
    · refine lv_iconst (v := 1) hx hb dX4_clerksAt_26 (by decide) ?_
      refine lv_iload hx hb dX4_clerksAt_27 (lv_at hl 4 rfl) ?_
      refine lv_ishl hx hb dX4_clerksAt_29 ?_
      refine lv_goto (tgt := 34) hx hb dX4_clerksAt_30 (by decide) ?_
      have he := o_in hit
      subst he
      exact hr5 _ (lv_sub hl [0, 1, 2, 4] rfl)
noncomputable def M_sheetsAt_L5 (σ : MS) (a0 : Int32) (a1 : Int32) (t1 : Int32 × Int32) : Option ((Int32 × Int32) ⊕ Int32) :=
  if t1.2 < (mf σ 1) then
    ((M_sheetIn σ a0 t1.2).bind fun q4 =>
    ((if q4 = a1 then
        (some ((1 : Int32) <<< (t1.2 &&& 31)))
      else
        (some 0) : Option Int32)).bind fun r5 =>
    some (.inl ((t1.1 ||| r5), (t1.2 + 1))))
  else
    (some (.inr t1.1))
noncomputable def M_sheetsAt (σ : MS) (a0 : Int32) (a1 : Int32) : Option (Int32) :=
  o_loop (M_sheetsAt_L5 σ a0 a1) (0, 0)
theorem nm_X4_sheetsAt : kNm yX4_sheetsAt RX4 2 := by unfold kNm; decide +kernel
set_option maxHeartbeats 4000000 in
set_option maxRecDepth 100000 in
theorem wM_sheetsAt (l : Launch) (G : va_G) (dT : Nat → ClassId) (o : Nat) (ad : Nat → Nat) (σ : MS) (a0 : Int32) (a1 : Int32) (z : Int32) (h : M_sheetsAt σ a0 a1 = some z) : Met l yX4_sheetsAt (ws_ yX4_sheetsAt cX4_sheetsAt 5 (some .int)) (kRm 3 67) (mPc G dT o ad σ [.int a0, .int a1]) (vp_Si (fun r => r = z)) 0 0 vp_nf := by
  refine m_startR (cc := cX4_sheetsAt) (ty := .int) rfl rfl rfl (fun p e R s m args below meth c Q ls X hR hM hl hend => ?_)
  have hx := X.1.1
  have hb := X.1.2.1
  have hit := h
  clear h
  unfold M_sheetsAt at hit
  have hl : lv_has ls 5 [(0, .ref o), (1, .int a0), (2, .int a1)] := hl
  refine lv_iconst (v := 0) hx hb dX4_sheetsAt_0 (by decide) ?_
  refine lv_istore_n (lv' := [(3, .int 0), (0, .ref o), (1, .int a0), (2, .int a1)]) hx hb dX4_sheetsAt_1 rfl hl (by decide) rfl (fun ls hl => ?_)
  refine lv_iconst (v := 0) hx hb dX4_sheetsAt_2 (by decide) ?_
  refine lv_istore (lv' := [(4, .int 0), (3, .int 0), (0, .ref o), (1, .int a0), (2, .int a1)]) hx hb dX4_sheetsAt_3 hl (by decide) rfl (fun ls hl => ?_)
  refine o_rec (P := fun t1 => ∀ (ls : Array Slot), lv_has ls 5 [(0, .ref o), (1, .int a0), (2, .int a1), (3, .int t1.1), (4, .int t1.2)] → W p l e R s m args below meth c s.heap [] 0 0 Q (F0 m 5 ls [])) (fun t1 x2 hit hC1 hE1 ls hl => ?_) _ hit _ (lv_sub hl [2, 3, 4, 1, 0] rfl)
  unfold M_sheetsAt_L5 at hit
  refine lv_iload hx hb dX4_sheetsAt_5 (lv_at hl 4 rfl) ?_
  refine lv_aload_n hx hb dX4_sheetsAt_7 rfl (lv_at hl 0 rfl) ?_
  refine m_get X hM 1 q1645 rfl rfl (v := .int (mf σ 1)) rfl dX4_sheetsAt_8 ?_
  refine b_icmp_ge (tgt := 42) hx hb dX4_sheetsAt_11 (by decide) hit (fun c3 hit => ?_) (fun c3 hit => ?_)
  · refine lv_iload_n hx hb dX4_sheetsAt_42 rfl (lv_at hl 3 rfl) ?_
    have he := o_in hit
    have he := hE1 _ he
    exact hend _ t1.1 _ _ rfl he dX4_sheetsAt_43
  · refine lv_iload_n hx hb dX4_sheetsAt_14 rfl (lv_at hl 3 rfl) ?_
    refine lv_aload_n hx hb dX4_sheetsAt_15 rfl (lv_at hl 0 rfl) ?_
    refine lv_iload_n hx hb dX4_sheetsAt_16 rfl (lv_at hl 1 rfl) ?_
    refine lv_iload hx hb dX4_sheetsAt_17 (lv_at hl 4 rfl) ?_
    obtain ⟨q4, eq4, hit⟩ := o_bind hit
    refine m_cR X hM (wM_sheetIn l G dT o ad _ _ _ _ eq4) nm_X4_sheetIn q2036 q2038 q141 q2039 qs94 ⟨Nat.le_trans (Nat.le_of_ble_eq_true rfl) hR.1, Nat.le_trans (Nat.le_of_ble_eq_true rfl) hR.2⟩ rfl rfl hl.1 (lv_room (Nat.le_of_ble_eq_true rfl)) dX4_sheetsAt_19 ?_
    refine lv_iload_n hx hb dX4_sheetsAt_22 rfl (lv_at hl 2 rfl) ?_
    obtain ⟨r5, er5, hit⟩ := o_bind hit
    have hr5 : ∀ (ls : Array Slot), lv_has ls 5 [(0, .ref o), (1, .int a0), (2, .int a1), (4, .int t1.2)] → W p l e R s m args below meth c s.heap [] 0 0 Q (F0 m 34 ls [.int r5, .int t1.1]) := by
      intro ls hl
      refine lv_ior hx hb dX4_sheetsAt_34 ?_
      refine lv_istore_n (lv' := [(3, .int (t1.1 ||| r5)), (0, .ref o), (1, .int a0), (2, .int a1), (4, .int t1.2)]) hx hb dX4_sheetsAt_35 rfl hl (by decide) rfl (fun ls hl => ?_)
      refine lv_iinc (k := 4) (v := (t1.2 + 1)) (lv' := [(4, .int (t1.2 + 1)), (3, .int (t1.1 ||| r5)), (0, .ref o), (1, .int a0), (2, .int a1)]) hx hb dX4_sheetsAt_36 hl rfl rfl (by decide) rfl (fun ls hl => ?_)
      refine lv_goto (tgt := 5) hx hb dX4_sheetsAt_39 (by decide) ?_
      have he := o_in hit
      exact hC1 _ he _ (lv_sub hl [2, 3, 4, 1, 0] rfl)
    have hit := er5
    refine b_icmp_ne (tgt := 33) hx hb dX4_sheetsAt_23 (by decide) hit (fun c6 hit => ?_) (fun c6 hit => ?_)
    · refine lv_iconst (v := 0) hx hb dX4_sheetsAt_33 (by decide) ?_
      have he := o_in hit
      subst he
      exact hr5 _ (lv_sub hl [0, 1, 2, 4] rfl)
    · refine lv_iconst (v := 1) hx hb dX4_sheetsAt_26 (by decide) ?_
      refine lv_iload hx hb dX4_sheetsAt_27 (lv_at hl 4 rfl) ?_
      refine lv_ishl hx hb dX4_sheetsAt_29 ?_
      refine lv_goto (tgt := 34) hx hb dX4_sheetsAt_30 (by decide) ?_
      have he := o_in hit
      subst he
      exact hr5 _ (lv_sub hl [0, 1, 2, 4] rfl)
noncomputable def M_showsIn_L13 (σ : MS) (a0 : Int32) (q1 : Int32) (t2 : Int32 × Int32) : Option ((Int32 × Int32) ⊕ Int32) :=
  if t2.2 < (mf σ 3) then
    ((ald σ 9 t2.2).bind fun v5 =>
    (ald σ 10 t2.2).bind fun v6 =>
    ((if (((q1 >>> (v5 &&& 31)) &&& (q1 >>> (v6 &&& 31))) &&& 1) = 1 then
        ((ald σ 9 t2.2).bind fun v9 =>
        (ald σ 10 t2.2).bind fun v10 =>
        (M_doesFit σ a0 v9 v10).bind fun q11 =>
        if q11 = 0 then
          (some 0)
        else
          (some ((1 : Int32) <<< (t2.2 &&& 31))))
      else
        (some 0) : Option Int32)).bind fun r7 =>
    some (.inl ((t2.1 ||| r7), (t2.2 + 1))))
  else
    (some (.inr t2.1))
noncomputable def M_showsIn (σ : MS) (a0 : Int32) (a1 : Int32) : Option (Int32) :=
  (M_sheetsAt σ a0 a1).bind fun q1 =>
  o_loop (M_showsIn_L13 σ a0 q1) (0, 0)
theorem nm_X4_showsIn : kNm yX4_showsIn RX4 2 := by unfold kNm; decide +kernel
set_option maxHeartbeats 4000000 in
set_option maxRecDepth 100000 in
theorem wM_showsIn (l : Launch) (G : va_G) (dT : Nat → ClassId) (o : Nat) (ad : Nat → Nat) (σ : MS) (a0 : Int32) (a1 : Int32) (z : Int32) (h : M_showsIn σ a0 a1 = some z) : Met l yX4_showsIn (ws_ yX4_showsIn cX4_showsIn 6 (some .int)) (kRm 4 91) (mPc G dT o ad σ [.int a0, .int a1]) (vp_Si (fun r => r = z)) 0 0 vp_nf := by
  refine m_startR (cc := cX4_showsIn) (ty := .int) rfl rfl rfl (fun p e R s m args below meth c Q ls X hR hM hl hend => ?_)
  have hx := X.1.1
  have hb := X.1.2.1
  have hit := h
  clear h
  unfold M_showsIn at hit
  have hl : lv_has ls 6 [(0, .ref o), (1, .int a0), (2, .int a1)] := hl
  refine lv_aload_n hx hb dX4_showsIn_0 rfl (lv_at hl 0 rfl) ?_
  refine lv_iload_n hx hb dX4_showsIn_1 rfl (lv_at hl 1 rfl) ?_
  refine lv_iload_n hx hb dX4_showsIn_2 rfl (lv_at hl 2 rfl) ?_
  obtain ⟨q1, eq1, hit⟩ := o_bind hit
  refine m_cR X hM (wM_sheetsAt l G dT o ad _ _ _ _ eq1) nm_X4_sheetsAt q2076 q2078 q141 q2079 qs102 ⟨Nat.le_trans (Nat.le_of_ble_eq_true rfl) hR.1, Nat.le_trans (Nat.le_of_ble_eq_true rfl) hR.2⟩ rfl rfl hl.1 (lv_room (Nat.le_of_ble_eq_true rfl)) dX4_showsIn_3 ?_
  refine lv_istore_n (lv' := [(3, .int q1), (0, .ref o), (1, .int a0), (2, .int a1)]) hx hb dX4_showsIn_6 rfl hl (by decide) rfl (fun ls hl => ?_)
  refine lv_iconst (v := 0) hx hb dX4_showsIn_7 (by decide) ?_
  refine lv_istore (lv' := [(4, .int 0), (3, .int q1), (0, .ref o), (1, .int a0), (2, .int a1)]) hx hb dX4_showsIn_8 hl (by decide) rfl (fun ls hl => ?_)
  refine lv_iconst (v := 0) hx hb dX4_showsIn_10 (by decide) ?_
  refine lv_istore (lv' := [(5, .int 0), (4, .int 0), (3, .int q1), (0, .ref o), (1, .int a0), (2, .int a1)]) hx hb dX4_showsIn_11 hl (by decide) rfl (fun ls hl => ?_)
  refine o_rec (P := fun t2 => ∀ (ls : Array Slot), lv_has ls 6 [(3, .int q1), (0, .ref o), (1, .int a0), (4, .int t2.1), (5, .int t2.2)] → W p l e R s m args below meth c s.heap [] 0 0 Q (F0 m 13 ls [])) (fun t2 x3 hit hC2 hE2 ls hl => ?_) _ hit _ (lv_sub hl [2, 3, 4, 1, 0] rfl)
  unfold M_showsIn_L13 at hit
  refine lv_iload hx hb dX4_showsIn_13 (lv_at hl 4 rfl) ?_
  refine lv_aload_n hx hb dX4_showsIn_15 rfl (lv_at hl 1 rfl) ?_
  refine m_get X hM 3 q1647 rfl rfl (v := .int (mf σ 3)) rfl dX4_showsIn_16 ?_
  refine b_icmp_ge (tgt := 88) hx hb dX4_showsIn_19 (by decide) hit (fun c4 hit => ?_) (fun c4 hit => ?_)
  · refine lv_iload hx hb dX4_showsIn_88 (lv_at hl 3 rfl) ?_
    have he := o_in hit
    have he := hE2 _ he
    exact hend _ t2.1 _ _ rfl he dX4_showsIn_90
  · refine lv_iload hx hb dX4_showsIn_22 (lv_at hl 3 rfl) ?_
    refine lv_iload_n hx hb dX4_showsIn_24 rfl (lv_at hl 0 rfl) ?_
    refine lv_aload_n hx hb dX4_showsIn_25 rfl (lv_at hl 1 rfl) ?_
    refine m_get X hM 9 q1653 rfl rfl (v := .ref (ad 9)) rfl dX4_showsIn_26 ?_
    refine lv_iload hx hb dX4_showsIn_29 (lv_at hl 4 rfl) ?_
    obtain ⟨v5, ev5, hit⟩ := o_bind hit
    refine m_iald X hM 2 9 rfl rfl ev5 dX4_showsIn_31 ?_
    refine lv_ishr hx hb dX4_showsIn_32 ?_
    refine lv_iload_n hx hb dX4_showsIn_33 rfl (lv_at hl 0 rfl) ?_
    refine lv_aload_n hx hb dX4_showsIn_34 rfl (lv_at hl 1 rfl) ?_
    refine m_get X hM 10 q1654 rfl rfl (v := .ref (ad 10)) rfl dX4_showsIn_35 ?_
    refine lv_iload hx hb dX4_showsIn_38 (lv_at hl 4 rfl) ?_
    obtain ⟨v6, ev6, hit⟩ := o_bind hit
    refine m_iald X hM 3 10 rfl rfl ev6 dX4_showsIn_40 ?_
    refine lv_ishr hx hb dX4_showsIn_41 ?_
    refine lv_iand hx hb dX4_showsIn_42 ?_
    refine lv_iconst (v := 1) hx hb dX4_showsIn_43 (by decide) ?_
    refine lv_iand hx hb dX4_showsIn_44 ?_
    refine lv_iconst (v := 1) hx hb dX4_showsIn_45 (by decide) ?_
    obtain ⟨r7, er7, hit⟩ := o_bind hit
    have hr7 : ∀ (ls : Array Slot), lv_has ls 6 [(3, .int q1), (0, .ref o), (1, .int a0), (5, .int t2.2)] → W p l e R s m args below meth c s.heap [] 0 0 Q (F0 m 79 ls [.int r7, .int t2.1]) := by
      intro ls hl
      refine lv_ior hx hb dX4_showsIn_79 ?_
      refine lv_istore (lv' := [(4, .int (t2.1 ||| r7)), (3, .int q1), (0, .ref o), (1, .int a0), (5, .int t2.2)]) hx hb dX4_showsIn_80 hl (by decide) rfl (fun ls hl => ?_)
      refine lv_iinc (k := 4) (v := (t2.2 + 1)) (lv' := [(5, .int (t2.2 + 1)), (4, .int (t2.1 ||| r7)), (3, .int q1), (0, .ref o), (1, .int a0)]) hx hb dX4_showsIn_82 hl rfl rfl (by decide) rfl (fun ls hl => ?_)
      refine lv_goto (tgt := 13) hx hb dX4_showsIn_85 (by decide) ?_
      have he := o_in hit
      exact hC2 _ he _ (lv_sub hl [2, 3, 4, 1, 0] rfl)
    have hit := er7
    refine b_icmp_ne (tgt := 78) hx hb dX4_showsIn_46 (by decide) hit (fun c8 hit => ?_) (fun c8 hit => ?_)
    · refine lv_iconst (v := 0) hx hb dX4_showsIn_78 (by decide) ?_
      have he := o_in hit
      subst he
      exact hr7 _ (lv_sub hl [0, 1, 2, 4] rfl)
    · refine lv_aload_n hx hb dX4_showsIn_49 rfl (lv_at hl 1 rfl) ?_
      refine lv_iload_n hx hb dX4_showsIn_50 rfl (lv_at hl 2 rfl) ?_
      refine lv_aload_n hx hb dX4_showsIn_51 rfl (lv_at hl 1 rfl) ?_
      refine m_get X hM 9 q1653 rfl rfl (v := .ref (ad 9)) rfl dX4_showsIn_52 ?_
      refine lv_iload hx hb dX4_showsIn_55 (lv_at hl 4 rfl) ?_
      obtain ⟨v9, ev9, hit⟩ := o_bind hit
      refine m_iald X hM 2 9 rfl rfl ev9 dX4_showsIn_57 ?_
      refine lv_aload_n hx hb dX4_showsIn_58 rfl (lv_at hl 1 rfl) ?_
      refine m_get X hM 10 q1654 rfl rfl (v := .ref (ad 10)) rfl dX4_showsIn_59 ?_
      refine lv_iload hx hb dX4_showsIn_62 (lv_at hl 4 rfl) ?_
      obtain ⟨v10, ev10, hit⟩ := o_bind hit
      refine m_iald X hM 3 10 rfl rfl ev10 dX4_showsIn_64 ?_
      obtain ⟨q11, eq11, hit⟩ := o_bind hit
      refine m_cR X hM (wM_doesFit l G dT o ad _ _ _ _ _ eq11) nm_X4_doesFit q2010 q2012 q141 q2013 qs90 ⟨Nat.le_trans (Nat.le_of_ble_eq_true rfl) hR.1, Nat.le_trans (Nat.le_of_ble_eq_true rfl) hR.2⟩ rfl rfl hl.1 (lv_room (Nat.le_of_ble_eq_true rfl)) dX4_showsIn_65 ?_
      refine b_if_eq (tgt := 78) hx hb dX4_showsIn_68 (by decide) hit (fun c12 hit => ?_) (fun c12 hit => ?_)
      · refine lv_iconst (v := 0) hx hb dX4_showsIn_78 (by decide) ?_
        have he := o_in hit
        subst he
        exact hr7 _ (lv_sub hl [0, 1, 2, 4] rfl)
      · refine lv_iconst (v := 1) hx hb dX4_showsIn_71 (by decide) ?_
        refine lv_iload hx hb dX4_showsIn_72 (lv_at hl 4 rfl) ?_
        refine lv_ishl hx hb dX4_showsIn_74 ?_
        refine lv_goto (tgt := 79) hx hb dX4_showsIn_75 (by decide) ?_
        have he := o_in hit
        subst he
        exact hr7 _ (lv_sub hl [0, 1, 2, 4] rfl)
noncomputable def M_knownBy_L5 (σ : MS) (a0 : Int32) (a1 : Int32) (t1 : Int32 × Int32) : Option ((Int32 × Int32) ⊕ Int32) :=
  if t1.2 < (mf σ 2) then
    (((if ((a1 >>> (t1.2 &&& 31)) &&& 1) = 1 then
        ((ald σ 44 ((a0 + 28) + t1.2)).bind fun v6 =>
        some v6)
      else
        (some 0) : Option Int32)).bind fun r4 =>
    some (.inl ((t1.1 ||| r4), (t1.2 + 1))))
  else
    (some (.inr t1.1))
noncomputable def M_knownBy (σ : MS) (a0 : Int32) (a1 : Int32) : Option (Int32) :=
  o_loop (M_knownBy_L5 σ a0 a1) (0, 0)
theorem nm_X4_knownBy : kNm yX4_knownBy RX4 2 := by unfold kNm; decide +kernel
set_option maxHeartbeats 4000000 in
set_option maxRecDepth 100000 in
theorem wM_knownBy (l : Launch) (G : va_G) (dT : Nat → ClassId) (o : Nat) (ad : Nat → Nat) (σ : MS) (a0 : Int32) (a1 : Int32) (z : Int32) (h : M_knownBy σ a0 a1 = some z) : Met l yX4_knownBy (ws_ yX4_knownBy cX4_knownBy 5 (some .int)) (kRm 0 0) (mPc G dT o ad σ [.int a0, .int a1]) (vp_Si (fun r => r = z)) 0 0 vp_nf := by
  refine m_startR (cc := cX4_knownBy) (ty := .int) rfl rfl rfl (fun p e R s m args below meth c Q ls X hR hM hl hend => ?_)
  have hx := X.1.1
  have hb := X.1.2.1
  have hit := h
  clear h
  unfold M_knownBy at hit
  have hl : lv_has ls 5 [(0, .ref o), (1, .int a0), (2, .int a1)] := hl
  refine lv_iconst (v := 0) hx hb dX4_knownBy_0 (by decide) ?_
  refine lv_istore_n (lv' := [(3, .int 0), (0, .ref o), (1, .int a0), (2, .int a1)]) hx hb dX4_knownBy_1 rfl hl (by decide) rfl (fun ls hl => ?_)
  refine lv_iconst (v := 0) hx hb dX4_knownBy_2 (by decide) ?_
  refine lv_istore (lv' := [(4, .int 0), (3, .int 0), (0, .ref o), (1, .int a0), (2, .int a1)]) hx hb dX4_knownBy_3 hl (by decide) rfl (fun ls hl => ?_)
  refine o_rec (P := fun t1 => ∀ (ls : Array Slot), lv_has ls 5 [(0, .ref o), (1, .int a0), (2, .int a1), (3, .int t1.1), (4, .int t1.2)] → W p l e R s m args below meth c s.heap [] 0 0 Q (F0 m 5 ls [])) (fun t1 x2 hit hC1 hE1 ls hl => ?_) _ hit _ (lv_sub hl [2, 3, 4, 1, 0] rfl)
  unfold M_knownBy_L5 at hit
  refine lv_iload hx hb dX4_knownBy_5 (lv_at hl 4 rfl) ?_
  refine lv_aload_n hx hb dX4_knownBy_7 rfl (lv_at hl 0 rfl) ?_
  refine m_get X hM 2 q1646 rfl rfl (v := .int (mf σ 2)) rfl dX4_knownBy_8 ?_
  refine b_icmp_ge (tgt := 49) hx hb dX4_knownBy_11 (by decide) hit (fun c3 hit => ?_) (fun c3 hit => ?_)
  · refine lv_iload_n hx hb dX4_knownBy_49 rfl (lv_at hl 3 rfl) ?_
    have he := o_in hit
    have he := hE1 _ he
    exact hend _ t1.1 _ _ rfl he dX4_knownBy_50
  · refine lv_iload_n hx hb dX4_knownBy_14 rfl (lv_at hl 3 rfl) ?_
    refine lv_iload_n hx hb dX4_knownBy_15 rfl (lv_at hl 2 rfl) ?_
    refine lv_iload hx hb dX4_knownBy_16 (lv_at hl 4 rfl) ?_
    refine lv_ishr hx hb dX4_knownBy_18 ?_
    refine lv_iconst (v := 1) hx hb dX4_knownBy_19 (by decide) ?_
    refine lv_iand hx hb dX4_knownBy_20 ?_
    refine lv_iconst (v := 1) hx hb dX4_knownBy_21 (by decide) ?_
    obtain ⟨r4, er4, hit⟩ := o_bind hit
    have hr4 : ∀ (ls : Array Slot), lv_has ls 5 [(0, .ref o), (1, .int a0), (2, .int a1), (4, .int t1.2)] → W p l e R s m args below meth c s.heap [] 0 0 Q (F0 m 41 ls [.int r4, .int t1.1]) := by
      intro ls hl
      refine lv_ior hx hb dX4_knownBy_41 ?_
      refine lv_istore_n (lv' := [(3, .int (t1.1 ||| r4)), (0, .ref o), (1, .int a0), (2, .int a1), (4, .int t1.2)]) hx hb dX4_knownBy_42 rfl hl (by decide) rfl (fun ls hl => ?_)
      refine lv_iinc (k := 4) (v := (t1.2 + 1)) (lv' := [(4, .int (t1.2 + 1)), (3, .int (t1.1 ||| r4)), (0, .ref o), (1, .int a0), (2, .int a1)]) hx hb dX4_knownBy_43 hl rfl rfl (by decide) rfl (fun ls hl => ?_)
      refine lv_goto (tgt := 5) hx hb dX4_knownBy_46 (by decide) ?_
      have he := o_in hit
      exact hC1 _ he _ (lv_sub hl [2, 3, 4, 1, 0] rfl)
    have hit := er4
    refine b_icmp_ne (tgt := 40) hx hb dX4_knownBy_22 (by decide) hit (fun c5 hit => ?_) (fun c5 hit => ?_)
    · refine lv_iconst (v := 0) hx hb dX4_knownBy_40 (by decide) ?_
      have he := o_in hit
      subst he
      exact hr4 _ (lv_sub hl [0, 1, 2, 4] rfl)
    · refine lv_aload_n hx hb dX4_knownBy_25 rfl (lv_at hl 0 rfl) ?_
      refine m_get X hM 44 q1688 rfl rfl (v := .ref (ad 44)) rfl dX4_knownBy_26 ?_
      refine lv_iload_n hx hb dX4_knownBy_29 rfl (lv_at hl 1 rfl) ?_
      refine lv_bipush (v := 28) hx hb dX4_knownBy_30 (by decide) ?_
      refine lv_iadd hx hb dX4_knownBy_32 ?_
      refine lv_iload hx hb dX4_knownBy_33 (lv_at hl 4 rfl) ?_
      refine lv_iadd hx hb dX4_knownBy_35 ?_
      obtain ⟨v6, ev6, hit⟩ := o_bind hit
      refine m_iald X hM 15 44 rfl rfl ev6 dX4_knownBy_36 ?_
      refine lv_goto (tgt := 41) hx hb dX4_knownBy_37 (by decide) ?_
      have he := o_in hit
      subst he
      exact hr4 _ (lv_sub hl [0, 1, 2, 4] rfl)
noncomputable def M_learns_L3 (a0 : Int32) (a1 : Int32) (a2 : Int32) (t1 : Int32 × MS) : Option ((Int32 × MS) ⊕ MS) :=
  if t1.1 < (mf t1.2 2) then
    ((ald t1.2 44 ((a0 + 28) + t1.1)).bind fun v4 =>
    ((if ((a1 >>> (t1.1 &&& 31)) &&& 1) = 1 then
        (some a2)
      else
        (some 0) : Option Int32)).bind fun r5 =>
    (ast t1.2 44 ((a0 + 28) + t1.1) (v4 ||| r5)).bind fun s6 =>
    some (.inl ((t1.1 + 1), s6)))
  else
    (some (.inr t1.2))
noncomputable def M_learns (σ : MS) (a0 : Int32) (a1 : Int32) (a2 : Int32) : Option (MS) :=
  o_loop (M_learns_L3 a0 a1 a2) (0, σ)
theorem nm_X4_learns : kNm yX4_learns RX4 3 := by unfold kNm; decide +kernel
set_option maxHeartbeats 4000000 in
set_option maxRecDepth 100000 in
theorem wM_learns (l : Launch) (G : va_G) (dT : Nat → ClassId) (o : Nat) (ad : Nat → Nat) (σ : MS) (a0 : Int32) (a1 : Int32) (a2 : Int32) (z : MS) (h : M_learns σ a0 a1 a2 = some z) : Met l yX4_learns (ws_ yX4_learns cX4_learns 5 none) (kRm 0 0) (mPc G dT o ad σ [.int a0, .int a1, .int a2]) (va_Qv (fun (_ : Unit) => True) (fun _ t => MH G dT o ad z t.heap) (mAd o ad)) 0 0 (mAd o ad) := by
  refine m_startNv (cc := cX4_learns) rfl rfl rfl (fun p e R s m args below meth c Q ls X hR hM hS hl hend => ?_)
  have hx := X.1.1
  have hb := X.1.2.1
  have hit := h
  clear h
  unfold M_learns at hit
  have hl : lv_has ls 5 [(0, .ref o), (1, .int a0), (2, .int a1), (3, .int a2)] := hl
  refine lv_iconst (v := 0) hx hb dX4_learns_0 (by decide) ?_
  refine lv_istore (lv' := [(4, .int 0), (0, .ref o), (1, .int a0), (2, .int a1), (3, .int a2)]) hx hb dX4_learns_1 hl (by decide) rfl (fun ls hl => ?_)
  refine o_rec (P := fun t1 => ∀ (H : Heap) (locs : List Loc) (ls : Array Slot), MH G dT o ad t1.2 H → va_S (mAd o ad) s.heap H locs → lv_has ls 5 [(0, .ref o), (1, .int a0), (2, .int a1), (3, .int a2), (4, .int t1.1)] → W p l e R s m args below meth c H locs 0 0 Q (F0 m 3 ls [])) (fun t1 x2 hit hC1 hE1 H locs ls hM hS hl => ?_) _ hit _ _ _ hM hS (lv_sub hl [1, 2, 3, 4, 0] rfl)
  unfold M_learns_L3 at hit
  refine lv_iload hx hb dX4_learns_3 (lv_at hl 4 rfl) ?_
  refine lv_aload_n hx hb dX4_learns_5 rfl (lv_at hl 0 rfl) ?_
  refine m_get X hM 2 q1646 rfl rfl (v := .int (mf t1.2 2)) rfl dX4_learns_6 ?_
  refine b_icmp_ge (tgt := 48) hx hb dX4_learns_9 (by decide) hit (fun c3 hit => ?_) (fun c3 hit => ?_)
  · have he := o_in hit
    have he := hE1 _ he
    exact hend _ _ _ _ _ he hM hS dX4_learns_48
  · refine lv_aload_n hx hb dX4_learns_12 rfl (lv_at hl 0 rfl) ?_
    refine m_get X hM 44 q1688 rfl rfl (v := .ref (ad 44)) rfl dX4_learns_13 ?_
    refine lv_iload_n hx hb dX4_learns_16 rfl (lv_at hl 1 rfl) ?_
    refine lv_bipush (v := 28) hx hb dX4_learns_17 (by decide) ?_
    refine lv_iadd hx hb dX4_learns_19 ?_
    refine lv_iload hx hb dX4_learns_20 (lv_at hl 4 rfl) ?_
    refine lv_iadd hx hb dX4_learns_22 ?_
    refine lv_dup2_11 hx hb dX4_learns_23 rfl rfl ?_
    obtain ⟨v4, ev4, hit⟩ := o_bind hit
    refine m_iald X hM 15 44 rfl rfl ev4 dX4_learns_24 ?_
    refine lv_iload_n hx hb dX4_learns_25 rfl (lv_at hl 2 rfl) ?_
    refine lv_iload hx hb dX4_learns_26 (lv_at hl 4 rfl) ?_
    refine lv_ishr hx hb dX4_learns_28 ?_
    refine lv_iconst (v := 1) hx hb dX4_learns_29 (by decide) ?_
    refine lv_iand hx hb dX4_learns_30 ?_
    refine lv_iconst (v := 1) hx hb dX4_learns_31 (by decide) ?_
    obtain ⟨r5, er5, hit⟩ := o_bind hit
    have hr5 : ∀ (H : Heap) (locs : List Loc) (ls : Array Slot), MH G dT o ad t1.2 H → va_S (mAd o ad) s.heap H locs → lv_has ls 5 [(0, .ref o), (1, .int a0), (2, .int a1), (3, .int a2), (4, .int t1.1)] → W p l e R s m args below meth c H locs 0 0 Q (F0 m 40 ls [.int r5, .int v4, .int ((a0 + 28) + t1.1), .ref (ad 44)]) := by
      intro H locs ls hM hS hl
      refine lv_ior hx hb dX4_learns_40 ?_
      obtain ⟨s6, es6, hit⟩ := o_bind hit
      refine m_iast X hM hS 15 44 rfl rfl es6 dX4_learns_41 (fun H locs hM hS => ?_)
      refine lv_iinc (k := 4) (v := (t1.1 + 1)) (lv' := [(4, .int (t1.1 + 1)), (0, .ref o), (1, .int a0), (2, .int a1), (3, .int a2)]) hx hb dX4_learns_42 hl rfl rfl (by decide) rfl (fun ls hl => ?_)
      refine lv_goto (tgt := 3) hx hb dX4_learns_45 (by decide) ?_
      have he := o_in hit
      exact hC1 _ he _ _ _ hM hS (lv_sub hl [1, 2, 3, 4, 0] rfl)
    have hit := er5
    refine b_icmp_ne (tgt := 39) hx hb dX4_learns_32 (by decide) hit (fun c7 hit => ?_) (fun c7 hit => ?_)
    · refine lv_iconst (v := 0) hx hb dX4_learns_39 (by decide) ?_
      have he := o_in hit
      subst he
      exact hr5 _ _ _ hM hS hl
    · refine lv_iload_n hx hb dX4_learns_35 rfl (lv_at hl 3 rfl) ?_
      refine lv_goto (tgt := 40) hx hb dX4_learns_36 (by decide) ?_
      have he := o_in hit
      subst he
      exact hr5 _ _ _ hM hS hl
noncomputable def M_doesLay (σ : MS) (a0 : Int32) (a1 : Int32) : Option (Int32 × MS) :=
  if (mf σ 5) = (-1) then
    (some (1, σ))
  else
    ((ast σ 47 4 a1).bind fun s2 =>
    (M_sheetsAt s2 a0 a1).bind fun q3 =>
    (M_bits q3).bind fun q4 =>
    (ast s2 47 6 q4).bind fun s5 =>
    (M_clerksAt s5 a0 a1).bind fun q6 =>
    (M_bits q6).bind fun q7 =>
    (ast s5 47 7 q7).bind fun s8 =>
    (M_clerksAt s8 a0 a1).bind fun q9 =>
    (M_knownBy s8 a0 q9).bind fun q10 =>
    (M_bits q10).bind fun q11 =>
    (ast s8 47 8 q11).bind fun s12 =>
    (ald s12 44 (a0 + 0)).bind fun v13 =>
    (ast s12 47 5 v13).bind fun s14 =>
    (M_reckons s14 (mf s14 5)).bind fun q15 =>
    if q15.1 ≤ 0 then
      (some (0, q15.2))
    else
      (some (1, q15.2)))
theorem nm_X4_doesLay : kNm yX4_doesLay RX4 2 := by unfold kNm; decide +kernel
set_option maxHeartbeats 4000000 in
set_option maxRecDepth 100000 in
theorem wM_doesLay (l : Launch) (G : va_G) (dT : Nat → ClassId) (o : Nat) (ad : Nat → Nat) (σ : MS) (a0 : Int32) (a1 : Int32) (z : Int32 × MS) (h : M_doesLay σ a0 a1 = some z) : Met l yX4_doesLay (ws_ yX4_doesLay cX4_doesLay 3 (some .boolean)) (kRm 4 91) (mPc G dT o ad σ [.int a0, .int a1]) (va_Qi (fun r (_ : Unit) => r = z.1) (fun _ t => MH G dT o ad z.2 t.heap) (mAd o ad)) 0 0 (mAd o ad) := by
  refine m_startNi (cc := cX4_doesLay) (ty := .boolean) rfl rfl rfl (fun p e R s m args below meth c Q ls X hR hM hS hl hend => ?_)
  have hx := X.1.1
  have hb := X.1.2.1
  have hit := h
  clear h
  unfold M_doesLay at hit
  have hl : lv_has ls 3 [(0, .ref o), (1, .int a0), (2, .int a1)] := hl
  refine lv_aload_n hx hb dX4_doesLay_0 rfl (lv_at hl 0 rfl) ?_
  refine m_get X hM 5 q1649 rfl rfl (v := .int (mf σ 5)) rfl dX4_doesLay_1 ?_
  refine lv_iconst (v := (-1)) hx hb dX4_doesLay_4 (by decide) ?_
  refine b_icmp_ne (tgt := 10) hx hb dX4_doesLay_5 (by decide) hit (fun c1 hit => ?_) (fun c1 hit => ?_)
  · refine lv_aload_n hx hb dX4_doesLay_10 rfl (lv_at hl 0 rfl) ?_
    refine m_get X hM 47 q1691 rfl rfl (v := .ref (ad 47)) rfl dX4_doesLay_11 ?_
    refine lv_iconst (v := 4) hx hb dX4_doesLay_14 (by decide) ?_
    refine lv_iload_n hx hb dX4_doesLay_15 rfl (lv_at hl 2 rfl) ?_
    obtain ⟨s2, es2, hit⟩ := o_bind hit
    refine m_iast X hM hS 17 47 rfl rfl es2 dX4_doesLay_16 (fun H locs hM hS => ?_)
    refine lv_aload_n hx hb dX4_doesLay_17 rfl (lv_at hl 0 rfl) ?_
    refine m_get X hM 47 q1691 rfl rfl (v := .ref (ad 47)) rfl dX4_doesLay_18 ?_
    refine lv_bipush (v := 6) hx hb dX4_doesLay_21 (by decide) ?_
    refine lv_aload_n hx hb dX4_doesLay_23 rfl (lv_at hl 0 rfl) ?_
    refine lv_iload_n hx hb dX4_doesLay_24 rfl (lv_at hl 1 rfl) ?_
    refine lv_iload_n hx hb dX4_doesLay_25 rfl (lv_at hl 2 rfl) ?_
    obtain ⟨q3, eq3, hit⟩ := o_bind hit
    refine m_cR X hM (wM_sheetsAt l G dT o ad _ _ _ _ eq3) nm_X4_sheetsAt q2076 q2078 q141 q2079 qs102 ⟨Nat.le_trans (Nat.le_of_ble_eq_true rfl) hR.1, Nat.le_trans (Nat.le_of_ble_eq_true rfl) hR.2⟩ rfl rfl hl.1 (lv_room (Nat.le_of_ble_eq_true rfl)) dX4_doesLay_26 ?_
    obtain ⟨q4, eq4, hit⟩ := o_bind hit
    refine m_cP X.1 (wM_bits l _ _ eq4) nm_X4_bits q2018 q2019 q141 q2020 ⟨Nat.le_trans (Nat.le_of_ble_eq_true rfl) hR.1, Nat.le_trans (Nat.le_of_ble_eq_true rfl) hR.2⟩ rfl rfl hl.1 (lv_room (Nat.le_of_ble_eq_true rfl)) dX4_doesLay_29 ?_
    obtain ⟨s5, es5, hit⟩ := o_bind hit
    refine m_iast X hM hS 17 47 rfl rfl es5 dX4_doesLay_32 (fun H locs hM hS => ?_)
    refine lv_aload_n hx hb dX4_doesLay_33 rfl (lv_at hl 0 rfl) ?_
    refine m_get X hM 47 q1691 rfl rfl (v := .ref (ad 47)) rfl dX4_doesLay_34 ?_
    refine lv_bipush (v := 7) hx hb dX4_doesLay_37 (by decide) ?_
    refine lv_aload_n hx hb dX4_doesLay_39 rfl (lv_at hl 0 rfl) ?_
    refine lv_iload_n hx hb dX4_doesLay_40 rfl (lv_at hl 1 rfl) ?_
    refine lv_iload_n hx hb dX4_doesLay_41 rfl (lv_at hl 2 rfl) ?_
    obtain ⟨q6, eq6, hit⟩ := o_bind hit
    refine m_cR X hM (wM_clerksAt l G dT o ad _ _ _ _ eq6) nm_X4_clerksAt q2096 q2098 q141 q2099 qs106 ⟨Nat.le_trans (Nat.le_of_ble_eq_true rfl) hR.1, Nat.le_trans (Nat.le_of_ble_eq_true rfl) hR.2⟩ rfl rfl hl.1 (lv_room (Nat.le_of_ble_eq_true rfl)) dX4_doesLay_42 ?_
    obtain ⟨q7, eq7, hit⟩ := o_bind hit
    refine m_cP X.1 (wM_bits l _ _ eq7) nm_X4_bits q2018 q2019 q141 q2020 ⟨Nat.le_trans (Nat.le_of_ble_eq_true rfl) hR.1, Nat.le_trans (Nat.le_of_ble_eq_true rfl) hR.2⟩ rfl rfl hl.1 (lv_room (Nat.le_of_ble_eq_true rfl)) dX4_doesLay_45 ?_
    obtain ⟨s8, es8, hit⟩ := o_bind hit
    refine m_iast X hM hS 17 47 rfl rfl es8 dX4_doesLay_48 (fun H locs hM hS => ?_)
    refine lv_aload_n hx hb dX4_doesLay_49 rfl (lv_at hl 0 rfl) ?_
    refine m_get X hM 47 q1691 rfl rfl (v := .ref (ad 47)) rfl dX4_doesLay_50 ?_
    refine lv_bipush (v := 8) hx hb dX4_doesLay_53 (by decide) ?_
    refine lv_aload_n hx hb dX4_doesLay_55 rfl (lv_at hl 0 rfl) ?_
    refine lv_iload_n hx hb dX4_doesLay_56 rfl (lv_at hl 1 rfl) ?_
    refine lv_aload_n hx hb dX4_doesLay_57 rfl (lv_at hl 0 rfl) ?_
    refine lv_iload_n hx hb dX4_doesLay_58 rfl (lv_at hl 1 rfl) ?_
    refine lv_iload_n hx hb dX4_doesLay_59 rfl (lv_at hl 2 rfl) ?_
    obtain ⟨q9, eq9, hit⟩ := o_bind hit
    refine m_cR X hM (wM_clerksAt l G dT o ad _ _ _ _ eq9) nm_X4_clerksAt q2096 q2098 q141 q2099 qs106 ⟨Nat.le_trans (Nat.le_of_ble_eq_true rfl) hR.1, Nat.le_trans (Nat.le_of_ble_eq_true rfl) hR.2⟩ rfl rfl hl.1 (lv_room (Nat.le_of_ble_eq_true rfl)) dX4_doesLay_60 ?_
    obtain ⟨q10, eq10, hit⟩ := o_bind hit
    refine m_cR X hM (wM_knownBy l G dT o ad _ _ _ _ eq10) nm_X4_knownBy q2002 q2004 q141 q2005 qs88 ⟨Nat.le_trans (Nat.le_of_ble_eq_true rfl) hR.1, Nat.le_trans (Nat.le_of_ble_eq_true rfl) hR.2⟩ rfl rfl hl.1 (lv_room (Nat.le_of_ble_eq_true rfl)) dX4_doesLay_63 ?_
    obtain ⟨q11, eq11, hit⟩ := o_bind hit
    refine m_cP X.1 (wM_bits l _ _ eq11) nm_X4_bits q2018 q2019 q141 q2020 ⟨Nat.le_trans (Nat.le_of_ble_eq_true rfl) hR.1, Nat.le_trans (Nat.le_of_ble_eq_true rfl) hR.2⟩ rfl rfl hl.1 (lv_room (Nat.le_of_ble_eq_true rfl)) dX4_doesLay_66 ?_
    obtain ⟨s12, es12, hit⟩ := o_bind hit
    refine m_iast X hM hS 17 47 rfl rfl es12 dX4_doesLay_69 (fun H locs hM hS => ?_)
    refine lv_aload_n hx hb dX4_doesLay_70 rfl (lv_at hl 0 rfl) ?_
    refine m_get X hM 47 q1691 rfl rfl (v := .ref (ad 47)) rfl dX4_doesLay_71 ?_
    refine lv_iconst (v := 5) hx hb dX4_doesLay_74 (by decide) ?_
    refine lv_aload_n hx hb dX4_doesLay_75 rfl (lv_at hl 0 rfl) ?_
    refine m_get X hM 44 q1688 rfl rfl (v := .ref (ad 44)) rfl dX4_doesLay_76 ?_
    refine lv_iload_n hx hb dX4_doesLay_79 rfl (lv_at hl 1 rfl) ?_
    refine lv_iconst (v := 0) hx hb dX4_doesLay_80 (by decide) ?_
    refine lv_iadd hx hb dX4_doesLay_81 ?_
    obtain ⟨v13, ev13, hit⟩ := o_bind hit
    refine m_iald X hM 15 44 rfl rfl ev13 dX4_doesLay_82 ?_
    obtain ⟨s14, es14, hit⟩ := o_bind hit
    refine m_iast X hM hS 17 47 rfl rfl es14 dX4_doesLay_83 (fun H locs hM hS => ?_)
    refine lv_aload_n hx hb dX4_doesLay_84 rfl (lv_at hl 0 rfl) ?_
    refine lv_aload_n hx hb dX4_doesLay_85 rfl (lv_at hl 0 rfl) ?_
    refine m_get X hM 5 q1649 rfl rfl (v := .int (mf s14 5)) rfl dX4_doesLay_86 ?_
    obtain ⟨q15, eq15, hit⟩ := o_bind hit
    refine m_cNi X hM hS (wM_reckons l G dT o ad _ _ _ eq15) nm_X4_reckons q2128 q2130 q141 q2131 qs113 ⟨Nat.le_trans (Nat.le_of_ble_eq_true rfl) hR.1, Nat.le_trans (Nat.le_of_ble_eq_true rfl) hR.2⟩ rfl rfl hl.1 (lv_room (Nat.le_of_ble_eq_true rfl)) dX4_doesLay_89 (fun H locs hM hS => ?_)
    refine b_if_le (tgt := 99) hx hb dX4_doesLay_92 (by decide) hit (fun c16 hit => ?_) (fun c16 hit => ?_)
    · refine lv_iconst (v := 0) hx hb dX4_doesLay_99 (by decide) ?_
      have he := o_in hit
      exact hend _ 0 _ _ _ _ _ rfl he hM hS dX4_doesLay_100
    · refine lv_iconst (v := 1) hx hb dX4_doesLay_95 (by decide) ?_
      refine lv_goto (tgt := 100) hx hb dX4_doesLay_96 (by decide) ?_
      have he := o_in hit
      exact hend _ 1 _ _ _ _ _ rfl he hM hS dX4_doesLay_100
  · refine lv_iconst (v := 1) hx hb dX4_doesLay_8 (by decide) ?_
    have he := o_in hit
    exact hend _ 1 _ _ _ _ _ rfl he hM hS dX4_doesLay_9
noncomputable def M_mouldsOn (σ : MS) (a0 : Int32) (a1 : Int32) : Option (MS) :=
  (ald σ 44 ((a0 + 1) + a1)).bind fun v1 =>
  (ast σ 47 0 v1).bind fun s2 =>
  (ald s2 44 ((a0 + 10) + a1)).bind fun v3 =>
  (ast s2 47 1 v3).bind fun s4 =>
  (ast s4 47 2 a1).bind fun s5 =>
  (M_sheetIn s5 a0 a1).bind fun q6 =>
  (ast s5 47 4 q6).bind fun s7 =>
  (ald s7 44 ((a0 + 19) + a1)).bind fun v8 =>
  ((if v8 < 10 then
      (some 0)
    else
      (some 1) : Option Int32)).bind fun r9 =>
  (ast s7 47 3 r9).bind fun s10 =>
  (ald s10 44 (a0 + 0)).bind fun v11 =>
  (ast s10 47 5 v11).bind fun s12 =>
  (M_reckons s12 (mf s12 6)).bind fun q13 =>
  if q13.1 ≤ 0 then
    (some q13.2)
  else
    ((ald q13.2 44 ((a0 + 10) + a1)).bind fun v15 =>
    (ast q13.2 44 ((a0 + 10) + a1) (v15 ^^^ ((1 : Int32) <<< ((imod (q13.1 - 1) 8) &&& 31)))).bind fun s16 =>
    some s16)
theorem nm_X4_mouldsOn : kNm yX4_mouldsOn RX4 2 := by unfold kNm; decide +kernel
set_option maxHeartbeats 4000000 in
set_option maxRecDepth 100000 in
theorem wM_mouldsOn (l : Launch) (G : va_G) (dT : Nat → ClassId) (o : Nat) (ad : Nat → Nat) (σ : MS) (a0 : Int32) (a1 : Int32) (z : MS) (h : M_mouldsOn σ a0 a1 = some z) : Met l yX4_mouldsOn (ws_ yX4_mouldsOn cX4_mouldsOn 4 none) (kRm 3 67) (mPc G dT o ad σ [.int a0, .int a1]) (va_Qv (fun (_ : Unit) => True) (fun _ t => MH G dT o ad z t.heap) (mAd o ad)) 0 0 (mAd o ad) := by
  refine m_startNv (cc := cX4_mouldsOn) rfl rfl rfl (fun p e R s m args below meth c Q ls X hR hM hS hl hend => ?_)
  have hx := X.1.1
  have hb := X.1.2.1
  have hit := h
  clear h
  unfold M_mouldsOn at hit
  have hl : lv_has ls 4 [(0, .ref o), (1, .int a0), (2, .int a1)] := hl
  refine lv_aload_n hx hb dX4_mouldsOn_0 rfl (lv_at hl 0 rfl) ?_
  refine m_get X hM 47 q1691 rfl rfl (v := .ref (ad 47)) rfl dX4_mouldsOn_1 ?_
  refine lv_iconst (v := 0) hx hb dX4_mouldsOn_4 (by decide) ?_
  refine lv_aload_n hx hb dX4_mouldsOn_5 rfl (lv_at hl 0 rfl) ?_
  refine m_get X hM 44 q1688 rfl rfl (v := .ref (ad 44)) rfl dX4_mouldsOn_6 ?_
  refine lv_iload_n hx hb dX4_mouldsOn_9 rfl (lv_at hl 1 rfl) ?_
  refine lv_iconst (v := 1) hx hb dX4_mouldsOn_10 (by decide) ?_
  refine lv_iadd hx hb dX4_mouldsOn_11 ?_
  refine lv_iload_n hx hb dX4_mouldsOn_12 rfl (lv_at hl 2 rfl) ?_
  refine lv_iadd hx hb dX4_mouldsOn_13 ?_
  obtain ⟨v1, ev1, hit⟩ := o_bind hit
  refine m_iald X hM 15 44 rfl rfl ev1 dX4_mouldsOn_14 ?_
  obtain ⟨s2, es2, hit⟩ := o_bind hit
  refine m_iast X hM hS 17 47 rfl rfl es2 dX4_mouldsOn_15 (fun H locs hM hS => ?_)
  refine lv_aload_n hx hb dX4_mouldsOn_16 rfl (lv_at hl 0 rfl) ?_
  refine m_get X hM 47 q1691 rfl rfl (v := .ref (ad 47)) rfl dX4_mouldsOn_17 ?_
  refine lv_iconst (v := 1) hx hb dX4_mouldsOn_20 (by decide) ?_
  refine lv_aload_n hx hb dX4_mouldsOn_21 rfl (lv_at hl 0 rfl) ?_
  refine m_get X hM 44 q1688 rfl rfl (v := .ref (ad 44)) rfl dX4_mouldsOn_22 ?_
  refine lv_iload_n hx hb dX4_mouldsOn_25 rfl (lv_at hl 1 rfl) ?_
  refine lv_bipush (v := 10) hx hb dX4_mouldsOn_26 (by decide) ?_
  refine lv_iadd hx hb dX4_mouldsOn_28 ?_
  refine lv_iload_n hx hb dX4_mouldsOn_29 rfl (lv_at hl 2 rfl) ?_
  refine lv_iadd hx hb dX4_mouldsOn_30 ?_
  obtain ⟨v3, ev3, hit⟩ := o_bind hit
  refine m_iald X hM 15 44 rfl rfl ev3 dX4_mouldsOn_31 ?_
  obtain ⟨s4, es4, hit⟩ := o_bind hit
  refine m_iast X hM hS 17 47 rfl rfl es4 dX4_mouldsOn_32 (fun H locs hM hS => ?_)
  refine lv_aload_n hx hb dX4_mouldsOn_33 rfl (lv_at hl 0 rfl) ?_
  refine m_get X hM 47 q1691 rfl rfl (v := .ref (ad 47)) rfl dX4_mouldsOn_34 ?_
  refine lv_iconst (v := 2) hx hb dX4_mouldsOn_37 (by decide) ?_
  refine lv_iload_n hx hb dX4_mouldsOn_38 rfl (lv_at hl 2 rfl) ?_
  obtain ⟨s5, es5, hit⟩ := o_bind hit
  refine m_iast X hM hS 17 47 rfl rfl es5 dX4_mouldsOn_39 (fun H locs hM hS => ?_)
  refine lv_aload_n hx hb dX4_mouldsOn_40 rfl (lv_at hl 0 rfl) ?_
  refine m_get X hM 47 q1691 rfl rfl (v := .ref (ad 47)) rfl dX4_mouldsOn_41 ?_
  refine lv_iconst (v := 4) hx hb dX4_mouldsOn_44 (by decide) ?_
  refine lv_aload_n hx hb dX4_mouldsOn_45 rfl (lv_at hl 0 rfl) ?_
  refine lv_iload_n hx hb dX4_mouldsOn_46 rfl (lv_at hl 1 rfl) ?_
  refine lv_iload_n hx hb dX4_mouldsOn_47 rfl (lv_at hl 2 rfl) ?_
  obtain ⟨q6, eq6, hit⟩ := o_bind hit
  refine m_cR X hM (wM_sheetIn l G dT o ad _ _ _ _ eq6) nm_X4_sheetIn q2036 q2038 q141 q2039 qs94 ⟨Nat.le_trans (Nat.le_of_ble_eq_true rfl) hR.1, Nat.le_trans (Nat.le_of_ble_eq_true rfl) hR.2⟩ rfl rfl hl.1 (lv_room (Nat.le_of_ble_eq_true rfl)) dX4_mouldsOn_48 ?_
  obtain ⟨s7, es7, hit⟩ := o_bind hit
  refine m_iast X hM hS 17 47 rfl rfl es7 dX4_mouldsOn_51 (fun H locs hM hS => ?_)
  refine lv_aload_n hx hb dX4_mouldsOn_52 rfl (lv_at hl 0 rfl) ?_
  refine m_get X hM 47 q1691 rfl rfl (v := .ref (ad 47)) rfl dX4_mouldsOn_53 ?_
  refine lv_iconst (v := 3) hx hb dX4_mouldsOn_56 (by decide) ?_
  refine lv_aload_n hx hb dX4_mouldsOn_57 rfl (lv_at hl 0 rfl) ?_
  refine m_get X hM 44 q1688 rfl rfl (v := .ref (ad 44)) rfl dX4_mouldsOn_58 ?_
  refine lv_iload_n hx hb dX4_mouldsOn_61 rfl (lv_at hl 1 rfl) ?_
  refine lv_bipush (v := 19) hx hb dX4_mouldsOn_62 (by decide) ?_
  refine lv_iadd hx hb dX4_mouldsOn_64 ?_
  refine lv_iload_n hx hb dX4_mouldsOn_65 rfl (lv_at hl 2 rfl) ?_
  refine lv_iadd hx hb dX4_mouldsOn_66 ?_
  obtain ⟨v8, ev8, hit⟩ := o_bind hit
  refine m_iald X hM 15 44 rfl rfl ev8 dX4_mouldsOn_67 ?_
  refine lv_bipush (v := 10) hx hb dX4_mouldsOn_68 (by decide) ?_
  obtain ⟨r9, er9, hit⟩ := o_bind hit
  have hr9 : ∀ (H : Heap) (locs : List Loc) (ls : Array Slot), MH G dT o ad s7 H → va_S (mAd o ad) s.heap H locs → lv_has ls 4 [(0, .ref o), (1, .int a0), (2, .int a1)] → W p l e R s m args below meth c H locs 0 0 Q (F0 m 78 ls [.int r9, .int 3, .ref (ad 47)]) := by
    intro H locs ls hM hS hl
    obtain ⟨s10, es10, hit⟩ := o_bind hit
    refine m_iast X hM hS 17 47 rfl rfl es10 dX4_mouldsOn_78 (fun H locs hM hS => ?_)
    refine lv_aload_n hx hb dX4_mouldsOn_79 rfl (lv_at hl 0 rfl) ?_
    refine m_get X hM 47 q1691 rfl rfl (v := .ref (ad 47)) rfl dX4_mouldsOn_80 ?_
    refine lv_iconst (v := 5) hx hb dX4_mouldsOn_83 (by decide) ?_
    refine lv_aload_n hx hb dX4_mouldsOn_84 rfl (lv_at hl 0 rfl) ?_
    refine m_get X hM 44 q1688 rfl rfl (v := .ref (ad 44)) rfl dX4_mouldsOn_85 ?_
    refine lv_iload_n hx hb dX4_mouldsOn_88 rfl (lv_at hl 1 rfl) ?_
    refine lv_iconst (v := 0) hx hb dX4_mouldsOn_89 (by decide) ?_
    refine lv_iadd hx hb dX4_mouldsOn_90 ?_
    obtain ⟨v11, ev11, hit⟩ := o_bind hit
    refine m_iald X hM 15 44 rfl rfl ev11 dX4_mouldsOn_91 ?_
    obtain ⟨s12, es12, hit⟩ := o_bind hit
    refine m_iast X hM hS 17 47 rfl rfl es12 dX4_mouldsOn_92 (fun H locs hM hS => ?_)
    refine lv_aload_n hx hb dX4_mouldsOn_93 rfl (lv_at hl 0 rfl) ?_
    refine lv_aload_n hx hb dX4_mouldsOn_94 rfl (lv_at hl 0 rfl) ?_
    refine m_get X hM 6 q1650 rfl rfl (v := .int (mf s12 6)) rfl dX4_mouldsOn_95 ?_
    obtain ⟨q13, eq13, hit⟩ := o_bind hit
    refine m_cNi X hM hS (wM_reckons l G dT o ad _ _ _ eq13) nm_X4_reckons q2128 q2130 q141 q2131 qs113 ⟨Nat.le_trans (Nat.le_of_ble_eq_true rfl) hR.1, Nat.le_trans (Nat.le_of_ble_eq_true rfl) hR.2⟩ rfl rfl hl.1 (lv_room (Nat.le_of_ble_eq_true rfl)) dX4_mouldsOn_98 (fun H locs hM hS => ?_)
    refine lv_istore_n (lv' := [(3, .int q13.1), (0, .ref o), (1, .int a0), (2, .int a1)]) hx hb dX4_mouldsOn_101 rfl hl (by decide) rfl (fun ls hl => ?_)
    refine lv_iload_n hx hb dX4_mouldsOn_102 rfl (lv_at hl 0 rfl) ?_
    refine b_if_le (tgt := 128) hx hb dX4_mouldsOn_103 (by decide) hit (fun c14 hit => ?_) (fun c14 hit => ?_)
    · have he := o_in hit
      exact hend _ _ _ _ _ he hM hS dX4_mouldsOn_128
    · refine lv_aload_n hx hb dX4_mouldsOn_106 rfl (lv_at hl 1 rfl) ?_
      refine m_get X hM 44 q1688 rfl rfl (v := .ref (ad 44)) rfl dX4_mouldsOn_107 ?_
      refine lv_iload_n hx hb dX4_mouldsOn_110 rfl (lv_at hl 2 rfl) ?_
      refine lv_bipush (v := 10) hx hb dX4_mouldsOn_111 (by decide) ?_
      refine lv_iadd hx hb dX4_mouldsOn_113 ?_
      refine lv_iload_n hx hb dX4_mouldsOn_114 rfl (lv_at hl 3 rfl) ?_
      refine lv_iadd hx hb dX4_mouldsOn_115 ?_
      refine lv_dup2_11 hx hb dX4_mouldsOn_116 rfl rfl ?_
      obtain ⟨v15, ev15, hit⟩ := o_bind hit
      refine m_iald X hM 15 44 rfl rfl ev15 dX4_mouldsOn_117 ?_
      refine lv_iconst (v := 1) hx hb dX4_mouldsOn_118 (by decide) ?_
      refine lv_iload_n hx hb dX4_mouldsOn_119 rfl (lv_at hl 0 rfl) ?_
      refine lv_iconst (v := 1) hx hb dX4_mouldsOn_120 (by decide) ?_
      refine lv_isub hx hb dX4_mouldsOn_121 ?_
      refine lv_bipush (v := 8) hx hb dX4_mouldsOn_122 (by decide) ?_
      refine b_iremc hx hb dX4_mouldsOn_124 (by decide) ?_
      refine lv_ishl hx hb dX4_mouldsOn_125 ?_
      refine lv_ixor hx hb dX4_mouldsOn_126 ?_
      obtain ⟨s16, es16, hit⟩ := o_bind hit
      refine m_iast X hM hS 15 44 rfl rfl es16 dX4_mouldsOn_127 (fun H locs hM hS => ?_)
      have he := o_in hit
      exact hend _ _ _ _ _ he hM hS dX4_mouldsOn_128
  have hit := er9
  refine b_icmp_lt (tgt := 77) hx hb dX4_mouldsOn_70 (by decide) hit (fun c17 hit => ?_) (fun c17 hit => ?_)
  · refine lv_iconst (v := 0) hx hb dX4_mouldsOn_77 (by decide) ?_
    have he := o_in hit
    subst he
    exact hr9 _ _ _ hM hS hl
  · refine lv_iconst (v := 1) hx hb dX4_mouldsOn_73 (by decide) ?_
    refine lv_goto (tgt := 78) hx hb dX4_mouldsOn_74 (by decide) ?_
    have he := o_in hit
    subst he
    exact hr9 _ _ _ hM hS hl
noncomputable def M_dayGoes_L50 (a0 : Int32) (t4 : Int32 × MS) : Option ((Int32 × MS) ⊕ MS) :=
  if t4.1 < (mf t4.2 1) then
    (if (mf t4.2 6) = (-1) then
      (some (.inr t4.2))
    else
      ((M_isBurnt t4.2 a0 t4.1).bind fun q11 =>
      ((if q11 = 0 then
          ((M_mouldsOn t4.2 a0 t4.1).bind fun q14 =>
          some q14)
        else
          (some t4.2) : Option MS)).bind fun r12 =>
      some (.inl ((t4.1 + 1), r12))))
  else
    (some (.inr t4.2))
noncomputable def M_dayGoes_L2 (a0 : Int32) (t1 : Int32 × MS) : Option ((Int32 × MS) ⊕ MS) :=
  if t1.1 < 4 then
    ((M_clerksAt t1.2 a0 t1.1).bind fun q16 =>
    ((if q16 = 0 then
        (some t1.2)
      else
        ((M_doesLay t1.2 a0 t1.1).bind fun q19 =>
        if q19.1 = 0 then
          (some q19.2)
        else
          ((M_clerksAt q19.2 a0 t1.1).bind fun q21 =>
          (M_showsIn q19.2 a0 t1.1).bind fun q22 =>
          (M_learns q19.2 a0 q21 q22).bind fun q23 =>
          some q23)) : Option MS)).bind fun r17 =>
    some (.inl ((t1.1 + 1), r17)))
  else
    (some (.inr t1.2))
noncomputable def M_dayGoes (σ : MS) (a0 : Int32) : Option (MS) :=
  (o_loop (M_dayGoes_L2 a0) (0, σ)).bind fun r3 =>
  (o_loop (M_dayGoes_L50 a0) (0, r3)).bind fun r6 =>
  (ald r6 44 (a0 + 0)).bind fun v7 =>
  (ast r6 44 (a0 + 0) (v7 + 1)).bind fun s8 =>
  some s8
theorem nm_X4_dayGoes : kNm yX4_dayGoes RX4 1 := by unfold kNm; decide +kernel
set_option maxHeartbeats 4000000 in
set_option maxRecDepth 100000 in
theorem wM_dayGoes (l : Launch) (G : va_G) (dT : Nat → ClassId) (o : Nat) (ad : Nat → Nat) (σ : MS) (a0 : Int32) (z : MS) (h : M_dayGoes σ a0 = some z) : Met l yX4_dayGoes (ws_ yX4_dayGoes cX4_dayGoes 3 none) (kRm 5 116) (mPc G dT o ad σ [.int a0]) (va_Qv (fun (_ : Unit) => True) (fun _ t => MH G dT o ad z t.heap) (mAd o ad)) 0 0 (mAd o ad) := by
  refine m_startNv (cc := cX4_dayGoes) rfl rfl rfl (fun p e R s m args below meth c Q ls X hR hM hS hl hend => ?_)
  have hx := X.1.1
  have hb := X.1.2.1
  have hit := h
  clear h
  unfold M_dayGoes at hit
  have hl : lv_has ls 3 [(0, .ref o), (1, .int a0)] := hl
  refine lv_iconst (v := 0) hx hb dX4_dayGoes_0 (by decide) ?_
  refine lv_istore_n (lv' := [(2, .int 0), (0, .ref o), (1, .int a0)]) hx hb dX4_dayGoes_1 rfl hl (by decide) rfl (fun ls hl => ?_)
  obtain ⟨r3, er3, hit⟩ := o_bind hit
  have hr3 : ∀ (H : Heap) (locs : List Loc) (ls : Array Slot), MH G dT o ad r3 H → va_S (mAd o ad) s.heap H locs → lv_has ls 3 [(0, .ref o), (1, .int a0)] → W p l e R s m args below meth c H locs 0 0 Q (F0 m 48 ls []) := by
    intro H locs ls hM hS hl
    refine lv_iconst (v := 0) hx hb dX4_dayGoes_48 (by decide) ?_
    refine lv_istore_n (lv' := [(2, .int 0), (0, .ref o), (1, .int a0)]) hx hb dX4_dayGoes_49 rfl hl (by decide) rfl (fun ls hl => ?_)
    obtain ⟨r6, er6, hit⟩ := o_bind hit
    have hr6 : ∀ (H : Heap) (locs : List Loc) (ls : Array Slot), MH G dT o ad r6 H → va_S (mAd o ad) s.heap H locs → lv_has ls 3 [(0, .ref o), (1, .int a0)] → W p l e R s m args below meth c H locs 0 0 Q (F0 m 87 ls []) := by
      intro H locs ls hM hS hl
      refine lv_aload_n hx hb dX4_dayGoes_87 rfl (lv_at hl 0 rfl) ?_
      refine m_get X hM 44 q1688 rfl rfl (v := .ref (ad 44)) rfl dX4_dayGoes_88 ?_
      refine lv_iload_n hx hb dX4_dayGoes_91 rfl (lv_at hl 1 rfl) ?_
      refine lv_iconst (v := 0) hx hb dX4_dayGoes_92 (by decide) ?_
      refine lv_iadd hx hb dX4_dayGoes_93 ?_
      refine lv_dup2_11 hx hb dX4_dayGoes_94 rfl rfl ?_
      obtain ⟨v7, ev7, hit⟩ := o_bind hit
      refine m_iald X hM 15 44 rfl rfl ev7 dX4_dayGoes_95 ?_
      refine lv_iconst (v := 1) hx hb dX4_dayGoes_96 (by decide) ?_
      refine lv_iadd hx hb dX4_dayGoes_97 ?_
      obtain ⟨s8, es8, hit⟩ := o_bind hit
      refine m_iast X hM hS 15 44 rfl rfl es8 dX4_dayGoes_98 (fun H locs hM hS => ?_)
      have he := o_in hit
      exact hend _ _ _ _ _ he hM hS dX4_dayGoes_99
    refine o_rec (P := fun t4 => ∀ (H : Heap) (locs : List Loc) (ls : Array Slot), MH G dT o ad t4.2 H → va_S (mAd o ad) s.heap H locs → lv_has ls 3 [(0, .ref o), (1, .int a0), (2, .int t4.1)] → W p l e R s m args below meth c H locs 0 0 Q (F0 m 50 ls [])) (fun t4 x5 hit hC4 hE4 H locs ls hM hS hl => ?_) _ er6 _ _ _ hM hS (lv_sub hl [1, 2, 0] rfl)
    unfold M_dayGoes_L50 at hit
    refine lv_iload_n hx hb dX4_dayGoes_50 rfl (lv_at hl 2 rfl) ?_
    refine lv_aload_n hx hb dX4_dayGoes_51 rfl (lv_at hl 0 rfl) ?_
    refine m_get X hM 1 q1645 rfl rfl (v := .int (mf t4.2 1)) rfl dX4_dayGoes_52 ?_
    refine b_icmp_ge (tgt := 87) hx hb dX4_dayGoes_55 (by decide) hit (fun c9 hit => ?_) (fun c9 hit => ?_)
    · have he := o_in hit
      have he := hE4 _ he
      subst he
      exact hr6 _ _ _ hM hS (lv_sub hl [0, 1] rfl)
    · refine lv_aload_n hx hb dX4_dayGoes_58 rfl (lv_at hl 0 rfl) ?_
      refine m_get X hM 6 q1650 rfl rfl (v := .int (mf t4.2 6)) rfl dX4_dayGoes_59 ?_
      refine lv_iconst (v := (-1)) hx hb dX4_dayGoes_62 (by decide) ?_
      refine b_icmp_eq (tgt := 87) hx hb dX4_dayGoes_63 (by decide) hit (fun c10 hit => ?_) (fun c10 hit => ?_)
      · have he := o_in hit
        have he := hE4 _ he
        subst he
        exact hr6 _ _ _ hM hS (lv_sub hl [0, 1] rfl)
      · refine lv_aload_n hx hb dX4_dayGoes_66 rfl (lv_at hl 0 rfl) ?_
        refine lv_iload_n hx hb dX4_dayGoes_67 rfl (lv_at hl 1 rfl) ?_
        refine lv_iload_n hx hb dX4_dayGoes_68 rfl (lv_at hl 2 rfl) ?_
        obtain ⟨q11, eq11, hit⟩ := o_bind hit
        refine m_cR X hM (wM_isBurnt l G dT o ad _ _ _ _ eq11) nm_X4_isBurnt q1990 q1992 q141 q1993 qs85 ⟨Nat.le_trans (Nat.le_of_ble_eq_true rfl) hR.1, Nat.le_trans (Nat.le_of_ble_eq_true rfl) hR.2⟩ rfl rfl hl.1 (lv_room (Nat.le_of_ble_eq_true rfl)) dX4_dayGoes_69 ?_
        obtain ⟨r12, er12, hit⟩ := o_bind hit
        have hr12 : ∀ (H : Heap) (locs : List Loc) (ls : Array Slot), MH G dT o ad r12 H → va_S (mAd o ad) s.heap H locs → lv_has ls 3 [(0, .ref o), (1, .int a0), (2, .int t4.1)] → W p l e R s m args below meth c H locs 0 0 Q (F0 m 81 ls []) := by
          intro H locs ls hM hS hl
          refine lv_iinc (k := 2) (v := (t4.1 + 1)) (lv' := [(2, .int (t4.1 + 1)), (0, .ref o), (1, .int a0)]) hx hb dX4_dayGoes_81 hl rfl rfl (by decide) rfl (fun ls hl => ?_)
          refine lv_goto (tgt := 50) hx hb dX4_dayGoes_84 (by decide) ?_
          have he := o_in hit
          exact hC4 _ he _ _ _ hM hS (lv_sub hl [1, 2, 0] rfl)
        have hit := er12
        refine b_if_ne (tgt := 81) hx hb dX4_dayGoes_72 (by decide) hit (fun c13 hit => ?_) (fun c13 hit => ?_)
        · have he := o_in hit
          subst he
          exact hr12 _ _ _ hM hS hl
        · refine lv_aload_n hx hb dX4_dayGoes_75 rfl (lv_at hl 0 rfl) ?_
          refine lv_iload_n hx hb dX4_dayGoes_76 rfl (lv_at hl 1 rfl) ?_
          refine lv_iload_n hx hb dX4_dayGoes_77 rfl (lv_at hl 2 rfl) ?_
          obtain ⟨q14, eq14, hit⟩ := o_bind hit
          refine m_cNv X hM hS (wM_mouldsOn l G dT o ad _ _ _ _ eq14) nm_X4_mouldsOn q2139 q2141 q141 q2142 qs115 ⟨Nat.le_trans (Nat.le_of_ble_eq_true rfl) hR.1, Nat.le_trans (Nat.le_of_ble_eq_true rfl) hR.2⟩ rfl rfl hl.1 (lv_room (Nat.le_of_ble_eq_true rfl)) dX4_dayGoes_78 (fun H locs hM hS => ?_)
          have he := o_in hit
          subst he
          exact hr12 _ _ _ hM hS hl
  refine o_rec (P := fun t1 => ∀ (H : Heap) (locs : List Loc) (ls : Array Slot), MH G dT o ad t1.2 H → va_S (mAd o ad) s.heap H locs → lv_has ls 3 [(0, .ref o), (1, .int a0), (2, .int t1.1)] → W p l e R s m args below meth c H locs 0 0 Q (F0 m 2 ls [])) (fun t1 x2 hit hC1 hE1 H locs ls hM hS hl => ?_) _ er3 _ _ _ hM hS (lv_sub hl [1, 2, 0] rfl)
  unfold M_dayGoes_L2 at hit
  refine lv_iload_n hx hb dX4_dayGoes_2 rfl (lv_at hl 2 rfl) ?_
  refine lv_iconst (v := 4) hx hb dX4_dayGoes_3 (by decide) ?_
  refine b_icmp_ge (tgt := 48) hx hb dX4_dayGoes_4 (by decide) hit (fun c15 hit => ?_) (fun c15 hit => ?_)
  · have he := o_in hit
    have he := hE1 _ he
    subst he
    exact hr3 _ _ _ hM hS (lv_sub hl [0, 1] rfl)
  · refine lv_aload_n hx hb dX4_dayGoes_7 rfl (lv_at hl 0 rfl) ?_
    refine lv_iload_n hx hb dX4_dayGoes_8 rfl (lv_at hl 1 rfl) ?_
    refine lv_iload_n hx hb dX4_dayGoes_9 rfl (lv_at hl 2 rfl) ?_
    obtain ⟨q16, eq16, hit⟩ := o_bind hit
    refine m_cR X hM (wM_clerksAt l G dT o ad _ _ _ _ eq16) nm_X4_clerksAt q2096 q2098 q141 q2099 qs106 ⟨Nat.le_trans (Nat.le_of_ble_eq_true rfl) hR.1, Nat.le_trans (Nat.le_of_ble_eq_true rfl) hR.2⟩ rfl rfl hl.1 (lv_room (Nat.le_of_ble_eq_true rfl)) dX4_dayGoes_10 ?_
    obtain ⟨r17, er17, hit⟩ := o_bind hit
    have hr17 : ∀ (H : Heap) (locs : List Loc) (ls : Array Slot), MH G dT o ad r17 H → va_S (mAd o ad) s.heap H locs → lv_has ls 3 [(0, .ref o), (1, .int a0), (2, .int t1.1)] → W p l e R s m args below meth c H locs 0 0 Q (F0 m 42 ls []) := by
      intro H locs ls hM hS hl
      refine lv_iinc (k := 2) (v := (t1.1 + 1)) (lv' := [(2, .int (t1.1 + 1)), (0, .ref o), (1, .int a0)]) hx hb dX4_dayGoes_42 hl rfl rfl (by decide) rfl (fun ls hl => ?_)
      refine lv_goto (tgt := 2) hx hb dX4_dayGoes_45 (by decide) ?_
      have he := o_in hit
      exact hC1 _ he _ _ _ hM hS (lv_sub hl [1, 2, 0] rfl)
    have hit := er17
    refine b_if_eq (tgt := 42) hx hb dX4_dayGoes_13 (by decide) hit (fun c18 hit => ?_) (fun c18 hit => ?_)
    · have he := o_in hit
      subst he
      exact hr17 _ _ _ hM hS hl
    · refine lv_aload_n hx hb dX4_dayGoes_16 rfl (lv_at hl 0 rfl) ?_
      refine lv_iload_n hx hb dX4_dayGoes_17 rfl (lv_at hl 1 rfl) ?_
      refine lv_iload_n hx hb dX4_dayGoes_18 rfl (lv_at hl 2 rfl) ?_
      obtain ⟨q19, eq19, hit⟩ := o_bind hit
      refine m_cNi X hM hS (wM_doesLay l G dT o ad _ _ _ _ eq19) nm_X4_doesLay q2124 q2126 q141 q2127 qs112 ⟨Nat.le_trans (Nat.le_of_ble_eq_true rfl) hR.1, Nat.le_trans (Nat.le_of_ble_eq_true rfl) hR.2⟩ rfl rfl hl.1 (lv_room (Nat.le_of_ble_eq_true rfl)) dX4_dayGoes_19 (fun H locs hM hS => ?_)
      refine b_if_eq (tgt := 42) hx hb dX4_dayGoes_22 (by decide) hit (fun c20 hit => ?_) (fun c20 hit => ?_)
      · have he := o_in hit
        subst he
        exact hr17 _ _ _ hM hS hl
      · refine lv_aload_n hx hb dX4_dayGoes_25 rfl (lv_at hl 0 rfl) ?_
        refine lv_iload_n hx hb dX4_dayGoes_26 rfl (lv_at hl 1 rfl) ?_
        refine lv_aload_n hx hb dX4_dayGoes_27 rfl (lv_at hl 0 rfl) ?_
        refine lv_iload_n hx hb dX4_dayGoes_28 rfl (lv_at hl 1 rfl) ?_
        refine lv_iload_n hx hb dX4_dayGoes_29 rfl (lv_at hl 2 rfl) ?_
        obtain ⟨q21, eq21, hit⟩ := o_bind hit
        refine m_cR X hM (wM_clerksAt l G dT o ad _ _ _ _ eq21) nm_X4_clerksAt q2096 q2098 q141 q2099 qs106 ⟨Nat.le_trans (Nat.le_of_ble_eq_true rfl) hR.1, Nat.le_trans (Nat.le_of_ble_eq_true rfl) hR.2⟩ rfl rfl hl.1 (lv_room (Nat.le_of_ble_eq_true rfl)) dX4_dayGoes_30 ?_
        refine lv_aload_n hx hb dX4_dayGoes_33 rfl (lv_at hl 0 rfl) ?_
        refine lv_iload_n hx hb dX4_dayGoes_34 rfl (lv_at hl 1 rfl) ?_
        refine lv_iload_n hx hb dX4_dayGoes_35 rfl (lv_at hl 2 rfl) ?_
        obtain ⟨q22, eq22, hit⟩ := o_bind hit
        refine m_cR X hM (wM_showsIn l G dT o ad _ _ _ _ eq22) nm_X4_showsIn q2072 q2074 q141 q2075 qs101 ⟨Nat.le_trans (Nat.le_of_ble_eq_true rfl) hR.1, Nat.le_trans (Nat.le_of_ble_eq_true rfl) hR.2⟩ rfl rfl hl.1 (lv_room (Nat.le_of_ble_eq_true rfl)) dX4_dayGoes_36 ?_
        obtain ⟨q23, eq23, hit⟩ := o_bind hit
        refine m_cNv X hM hS (wM_learns l G dT o ad _ _ _ _ _ eq23) nm_X4_learns q2135 q2137 q141 q2138 qs114 ⟨Nat.le_trans (Nat.le_of_ble_eq_true rfl) hR.1, Nat.le_trans (Nat.le_of_ble_eq_true rfl) hR.2⟩ rfl rfl hl.1 (lv_room (Nat.le_of_ble_eq_true rfl)) dX4_dayGoes_39 (fun H locs hM hS => ?_)
        have he := o_in hit
        subst he
        exact hr17 _ _ _ hM hS hl
noncomputable def M_daysGo_L2 (a0 : Int32) (t1 : Int32 × MS) : Option ((Int32 × MS) ⊕ MS) :=
  if t1.1 < a0 then
    ((M_dayGoes t1.2 34).bind fun q4 =>
    some (.inl ((t1.1 + 1), q4)))
  else
    (some (.inr t1.2))
noncomputable def M_daysGo (σ : MS) (a0 : Int32) : Option (MS) :=
  o_loop (M_daysGo_L2 a0) (0, σ)
theorem nm_X4_daysGo : kNm yX4_daysGo RX4 1 := by unfold kNm; decide +kernel
set_option maxHeartbeats 4000000 in
set_option maxRecDepth 100000 in
theorem wM_daysGo (l : Launch) (G : va_G) (dT : Nat → ClassId) (o : Nat) (ad : Nat → Nat) (σ : MS) (a0 : Int32) (z : MS) (h : M_daysGo σ a0 = some z) : Met l yX4_daysGo (ws_ yX4_daysGo cX4_daysGo 3 none) (kRm 6 138) (mPc G dT o ad σ [.int a0]) (va_Qv (fun (_ : Unit) => True) (fun _ t => MH G dT o ad z t.heap) (mAd o ad)) 0 0 (mAd o ad) := by
  refine m_startNv (cc := cX4_daysGo) rfl rfl rfl (fun p e R s m args below meth c Q ls X hR hM hS hl hend => ?_)
  have hx := X.1.1
  have hb := X.1.2.1
  have hit := h
  clear h
  unfold M_daysGo at hit
  have hl : lv_has ls 3 [(0, .ref o), (1, .int a0)] := hl
  refine lv_iconst (v := 0) hx hb dX4_daysGo_0 (by decide) ?_
  refine lv_istore_n (lv' := [(2, .int 0), (0, .ref o), (1, .int a0)]) hx hb dX4_daysGo_1 rfl hl (by decide) rfl (fun ls hl => ?_)
  refine o_rec (P := fun t1 => ∀ (H : Heap) (locs : List Loc) (ls : Array Slot), MH G dT o ad t1.2 H → va_S (mAd o ad) s.heap H locs → lv_has ls 3 [(0, .ref o), (1, .int a0), (2, .int t1.1)] → W p l e R s m args below meth c H locs 0 0 Q (F0 m 2 ls [])) (fun t1 x2 hit hC1 hE1 H locs ls hM hS hl => ?_) _ hit _ _ _ hM hS (lv_sub hl [1, 2, 0] rfl)
  unfold M_daysGo_L2 at hit
  refine lv_iload_n hx hb dX4_daysGo_2 rfl (lv_at hl 2 rfl) ?_
  refine lv_iload_n hx hb dX4_daysGo_3 rfl (lv_at hl 1 rfl) ?_
  refine b_icmp_ge (tgt := 19) hx hb dX4_daysGo_4 (by decide) hit (fun c3 hit => ?_) (fun c3 hit => ?_)
  · have he := o_in hit
    have he := hE1 _ he
    exact hend _ _ _ _ _ he hM hS dX4_daysGo_19
  · refine lv_aload_n hx hb dX4_daysGo_7 rfl (lv_at hl 0 rfl) ?_
    refine lv_bipush (v := 34) hx hb dX4_daysGo_8 (by decide) ?_
    obtain ⟨q4, eq4, hit⟩ := o_bind hit
    refine m_cNv X hM hS (wM_dayGoes l G dT o ad _ _ _ eq4) nm_X4_dayGoes q2120 q2122 q141 q2123 qs111 ⟨Nat.le_trans (Nat.le_of_ble_eq_true rfl) hR.1, Nat.le_trans (Nat.le_of_ble_eq_true rfl) hR.2⟩ rfl rfl hl.1 (lv_room (Nat.le_of_ble_eq_true rfl)) dX4_daysGo_10 (fun H locs hM hS => ?_)
    refine lv_iinc (k := 2) (v := (t1.1 + 1)) (lv' := [(2, .int (t1.1 + 1)), (0, .ref o), (1, .int a0)]) hx hb dX4_daysGo_13 hl rfl rfl (by decide) rfl (fun ls hl => ?_)
    refine lv_goto (tgt := 2) hx hb dX4_daysGo_16 (by decide) ?_
    have he := o_in hit
    exact hC1 _ he _ _ _ hM hS (lv_sub hl [1, 2, 0] rfl)
noncomputable def M_everybody (σ : MS) : Option (Int32) :=
  some (((1 : Int32) <<< ((mf σ 2) &&& 31)) - 1)
theorem nm_X4_everybody : kNm yX4_everybody RX4 0 := by unfold kNm; decide +kernel
set_option maxHeartbeats 4000000 in
set_option maxRecDepth 100000 in
theorem wM_everybody (l : Launch) (G : va_G) (dT : Nat → ClassId) (o : Nat) (ad : Nat → Nat) (σ : MS) (z : Int32) (h : M_everybody σ = some z) : Met l yX4_everybody (ws_ yX4_everybody cX4_everybody 1 (some .int)) (kRm 0 0) (mPc G dT o ad σ []) (vp_Si (fun r => r = z)) 0 0 vp_nf := by
  refine m_startR (cc := cX4_everybody) (ty := .int) rfl rfl rfl (fun p e R s m args below meth c Q ls X hR hM hl hend => ?_)
  have hx := X.1.1
  have hb := X.1.2.1
  have hit := h
  clear h
  unfold M_everybody at hit
  have hl : lv_has ls 1 [(0, .ref o)] := hl
  refine lv_iconst (v := 1) hx hb dX4_everybody_0 (by decide) ?_
  refine lv_aload_n hx hb dX4_everybody_1 rfl (lv_at hl 0 rfl) ?_
  refine m_get X hM 2 q1646 rfl rfl (v := .int (mf σ 2)) rfl dX4_everybody_2 ?_
  refine lv_ishl hx hb dX4_everybody_5 ?_
  refine lv_iconst (v := 1) hx hb dX4_everybody_6 (by decide) ?_
  refine lv_isub hx hb dX4_everybody_7 ?_
  have he := o_in hit
  exact hend _ (((1 : Int32) <<< ((mf σ 2) &&& 31)) - 1) _ _ rfl he dX4_everybody_8
noncomputable def M_burntOnes_L4 (σ : MS) (t1 : Int32 × Int32) : Option ((Int32 × Int32) ⊕ Int32) :=
  if t1.2 < (mf σ 1) then
    ((M_isBurnt σ 0 t1.2).bind fun q4 =>
    ((if q4 = 0 then
        (some 0)
      else
        (some ((1 : Int32) <<< (t1.2 &&& 31))) : Option Int32)).bind fun r5 =>
    some (.inl ((t1.1 ||| r5), (t1.2 + 1))))
  else
    (some (.inr t1.1))
noncomputable def M_burntOnes (σ : MS) : Option (Int32) :=
  o_loop (M_burntOnes_L4 σ) (0, 0)
theorem nm_X4_burntOnes : kNm yX4_burntOnes RX4 0 := by unfold kNm; decide +kernel
set_option maxHeartbeats 4000000 in
set_option maxRecDepth 100000 in
theorem wM_burntOnes (l : Launch) (G : va_G) (dT : Nat → ClassId) (o : Nat) (ad : Nat → Nat) (σ : MS) (z : Int32) (h : M_burntOnes σ = some z) : Met l yX4_burntOnes (ws_ yX4_burntOnes cX4_burntOnes 3 (some .int)) (kRm 1 22) (mPc G dT o ad σ []) (vp_Si (fun r => r = z)) 0 0 vp_nf := by
  refine m_startR (cc := cX4_burntOnes) (ty := .int) rfl rfl rfl (fun p e R s m args below meth c Q ls X hR hM hl hend => ?_)
  have hx := X.1.1
  have hb := X.1.2.1
  have hit := h
  clear h
  unfold M_burntOnes at hit
  have hl : lv_has ls 3 [(0, .ref o)] := hl
  refine lv_iconst (v := 0) hx hb dX4_burntOnes_0 (by decide) ?_
  refine lv_istore_n (lv' := [(1, .int 0), (0, .ref o)]) hx hb dX4_burntOnes_1 rfl hl (by decide) rfl (fun ls hl => ?_)
  refine lv_iconst (v := 0) hx hb dX4_burntOnes_2 (by decide) ?_
  refine lv_istore_n (lv' := [(2, .int 0), (1, .int 0), (0, .ref o)]) hx hb dX4_burntOnes_3 rfl hl (by decide) rfl (fun ls hl => ?_)
  refine o_rec (P := fun t1 => ∀ (ls : Array Slot), lv_has ls 3 [(0, .ref o), (1, .int t1.1), (2, .int t1.2)] → W p l e R s m args below meth c s.heap [] 0 0 Q (F0 m 4 ls [])) (fun t1 x2 hit hC1 hE1 ls hl => ?_) _ hit _ (lv_sub hl [2, 1, 0] rfl)
  unfold M_burntOnes_L4 at hit
  refine lv_iload_n hx hb dX4_burntOnes_4 rfl (lv_at hl 2 rfl) ?_
  refine lv_aload_n hx hb dX4_burntOnes_5 rfl (lv_at hl 0 rfl) ?_
  refine m_get X hM 1 q1645 rfl rfl (v := .int (mf σ 1)) rfl dX4_burntOnes_6 ?_
  refine b_icmp_ge (tgt := 37) hx hb dX4_burntOnes_9 (by decide) hit (fun c3 hit => ?_) (fun c3 hit => ?_)
  · refine lv_iload_n hx hb dX4_burntOnes_37 rfl (lv_at hl 1 rfl) ?_
    have he := o_in hit
    have he := hE1 _ he
    exact hend _ t1.1 _ _ rfl he dX4_burntOnes_38
  · refine lv_iload_n hx hb dX4_burntOnes_12 rfl (lv_at hl 1 rfl) ?_
    refine lv_aload_n hx hb dX4_burntOnes_13 rfl (lv_at hl 0 rfl) ?_
    refine lv_iconst (v := 0) hx hb dX4_burntOnes_14 (by decide) ?_
    refine lv_iload_n hx hb dX4_burntOnes_15 rfl (lv_at hl 2 rfl) ?_
    obtain ⟨q4, eq4, hit⟩ := o_bind hit
    refine m_cR X hM (wM_isBurnt l G dT o ad _ _ _ _ eq4) nm_X4_isBurnt q1990 q1992 q141 q1993 qs85 ⟨Nat.le_trans (Nat.le_of_ble_eq_true rfl) hR.1, Nat.le_trans (Nat.le_of_ble_eq_true rfl) hR.2⟩ rfl rfl hl.1 (lv_room (Nat.le_of_ble_eq_true rfl)) dX4_burntOnes_16 ?_
    obtain ⟨r5, er5, hit⟩ := o_bind hit
    have hr5 : ∀ (ls : Array Slot), lv_has ls 3 [(0, .ref o), (2, .int t1.2)] → W p l e R s m args below meth c s.heap [] 0 0 Q (F0 m 29 ls [.int r5, .int t1.1]) := by
      intro ls hl
      refine lv_ior hx hb dX4_burntOnes_29 ?_
      refine lv_istore_n (lv' := [(1, .int (t1.1 ||| r5)), (0, .ref o), (2, .int t1.2)]) hx hb dX4_burntOnes_30 rfl hl (by decide) rfl (fun ls hl => ?_)
      refine lv_iinc (k := 2) (v := (t1.2 + 1)) (lv' := [(2, .int (t1.2 + 1)), (1, .int (t1.1 ||| r5)), (0, .ref o)]) hx hb dX4_burntOnes_31 hl rfl rfl (by decide) rfl (fun ls hl => ?_)
      refine lv_goto (tgt := 4) hx hb dX4_burntOnes_34 (by decide) ?_
      have he := o_in hit
      exact hC1 _ he _ (lv_sub hl [2, 1, 0] rfl)
    have hit := er5
    refine b_if_eq (tgt := 28) hx hb dX4_burntOnes_19 (by decide) hit (fun c6 hit => ?_) (fun c6 hit => ?_)
    · refine lv_iconst (v := 0) hx hb dX4_burntOnes_28 (by decide) ?_
      have he := o_in hit
      subst he
      exact hr5 _ (lv_sub hl [0, 2] rfl)
    · refine lv_iconst (v := 1) hx hb dX4_burntOnes_22 (by decide) ?_
      refine lv_iload_n hx hb dX4_burntOnes_23 rfl (lv_at hl 2 rfl) ?_
      refine lv_ishl hx hb dX4_burntOnes_24 ?_
      refine lv_goto (tgt := 29) hx hb dX4_burntOnes_25 (by decide) ?_
      have he := o_in hit
      subst he
      exact hr5 _ (lv_sub hl [0, 2] rfl)
noncomputable def M_borneOnes_L4 (σ : MS) (a0 : Int32) (t1 : Int32 × Int32) : Option ((Int32 × Int32) ⊕ Int32) :=
  if t1.2 < (mf σ 1) then
    ((ald σ 44 ((a0 + 19) + t1.2)).bind fun v4 =>
    ((if v4 < 10 then
        (some 0)
      else
        (some ((1 : Int32) <<< (t1.2 &&& 31))) : Option Int32)).bind fun r5 =>
    some (.inl ((t1.1 ||| r5), (t1.2 + 1))))
  else
    (some (.inr t1.1))
noncomputable def M_borneOnes (σ : MS) (a0 : Int32) : Option (Int32) :=
  o_loop (M_borneOnes_L4 σ a0) (0, 0)
theorem nm_X4_borneOnes : kNm yX4_borneOnes RX4 1 := by unfold kNm; decide +kernel
set_option maxHeartbeats 4000000 in
set_option maxRecDepth 100000 in
theorem wM_borneOnes (l : Launch) (G : va_G) (dT : Nat → ClassId) (o : Nat) (ad : Nat → Nat) (σ : MS) (a0 : Int32) (z : Int32) (h : M_borneOnes σ a0 = some z) : Met l yX4_borneOnes (ws_ yX4_borneOnes cX4_borneOnes 4 (some .int)) (kRm 0 0) (mPc G dT o ad σ [.int a0]) (vp_Si (fun r => r = z)) 0 0 vp_nf := by
  refine m_startR (cc := cX4_borneOnes) (ty := .int) rfl rfl rfl (fun p e R s m args below meth c Q ls X hR hM hl hend => ?_)
  have hx := X.1.1
  have hb := X.1.2.1
  have hit := h
  clear h
  unfold M_borneOnes at hit
  have hl : lv_has ls 4 [(0, .ref o), (1, .int a0)] := hl
  refine lv_iconst (v := 0) hx hb dX4_borneOnes_0 (by decide) ?_
  refine lv_istore_n (lv' := [(2, .int 0), (0, .ref o), (1, .int a0)]) hx hb dX4_borneOnes_1 rfl hl (by decide) rfl (fun ls hl => ?_)
  refine lv_iconst (v := 0) hx hb dX4_borneOnes_2 (by decide) ?_
  refine lv_istore_n (lv' := [(3, .int 0), (2, .int 0), (0, .ref o), (1, .int a0)]) hx hb dX4_borneOnes_3 rfl hl (by decide) rfl (fun ls hl => ?_)
  refine o_rec (P := fun t1 => ∀ (ls : Array Slot), lv_has ls 4 [(0, .ref o), (1, .int a0), (2, .int t1.1), (3, .int t1.2)] → W p l e R s m args below meth c s.heap [] 0 0 Q (F0 m 4 ls [])) (fun t1 x2 hit hC1 hE1 ls hl => ?_) _ hit _ (lv_sub hl [2, 3, 1, 0] rfl)
  unfold M_borneOnes_L4 at hit
  refine lv_iload_n hx hb dX4_borneOnes_4 rfl (lv_at hl 3 rfl) ?_
  refine lv_aload_n hx hb dX4_borneOnes_5 rfl (lv_at hl 0 rfl) ?_
  refine m_get X hM 1 q1645 rfl rfl (v := .int (mf σ 1)) rfl dX4_borneOnes_6 ?_
  refine b_icmp_ge (tgt := 44) hx hb dX4_borneOnes_9 (by decide) hit (fun c3 hit => ?_) (fun c3 hit => ?_)
  · refine lv_iload_n hx hb dX4_borneOnes_44 rfl (lv_at hl 2 rfl) ?_
    have he := o_in hit
    have he := hE1 _ he
    exact hend _ t1.1 _ _ rfl he dX4_borneOnes_45
  · refine lv_iload_n hx hb dX4_borneOnes_12 rfl (lv_at hl 2 rfl) ?_
    refine lv_aload_n hx hb dX4_borneOnes_13 rfl (lv_at hl 0 rfl) ?_
    refine m_get X hM 44 q1688 rfl rfl (v := .ref (ad 44)) rfl dX4_borneOnes_14 ?_
    refine lv_iload_n hx hb dX4_borneOnes_17 rfl (lv_at hl 1 rfl) ?_
    refine lv_bipush (v := 19) hx hb dX4_borneOnes_18 (by decide) ?_
    refine lv_iadd hx hb dX4_borneOnes_20 ?_
    refine lv_iload_n hx hb dX4_borneOnes_21 rfl (lv_at hl 3 rfl) ?_
    refine lv_iadd hx hb dX4_borneOnes_22 ?_
    obtain ⟨v4, ev4, hit⟩ := o_bind hit
    refine m_iald X hM 15 44 rfl rfl ev4 dX4_borneOnes_23 ?_
    refine lv_bipush (v := 10) hx hb dX4_borneOnes_24 (by decide) ?_
    obtain ⟨r5, er5, hit⟩ := o_bind hit
    have hr5 : ∀ (ls : Array Slot), lv_has ls 4 [(0, .ref o), (1, .int a0), (3, .int t1.2)] → W p l e R s m args below meth c s.heap [] 0 0 Q (F0 m 36 ls [.int r5, .int t1.1]) := by
      intro ls hl
      refine lv_ior hx hb dX4_borneOnes_36 ?_
      refine lv_istore_n (lv' := [(2, .int (t1.1 ||| r5)), (0, .ref o), (1, .int a0), (3, .int t1.2)]) hx hb dX4_borneOnes_37 rfl hl (by decide) rfl (fun ls hl => ?_)
      refine lv_iinc (k := 3) (v := (t1.2 + 1)) (lv' := [(3, .int (t1.2 + 1)), (2, .int (t1.1 ||| r5)), (0, .ref o), (1, .int a0)]) hx hb dX4_borneOnes_38 hl rfl rfl (by decide) rfl (fun ls hl => ?_)
      refine lv_goto (tgt := 4) hx hb dX4_borneOnes_41 (by decide) ?_
      have he := o_in hit
      exact hC1 _ he _ (lv_sub hl [2, 3, 1, 0] rfl)
    have hit := er5
    refine b_icmp_lt (tgt := 35) hx hb dX4_borneOnes_26 (by decide) hit (fun c6 hit => ?_) (fun c6 hit => ?_)
    · refine lv_iconst (v := 0) hx hb dX4_borneOnes_35 (by decide) ?_
      have he := o_in hit
      subst he
      exact hr5 _ (lv_sub hl [0, 1, 3] rfl)
    · refine lv_iconst (v := 1) hx hb dX4_borneOnes_29 (by decide) ?_
      refine lv_iload_n hx hb dX4_borneOnes_30 rfl (lv_at hl 3 rfl) ?_
      refine lv_ishl hx hb dX4_borneOnes_31 ?_
      refine lv_goto (tgt := 36) hx hb dX4_borneOnes_32 (by decide) ?_
      have he := o_in hit
      subst he
      exact hr5 _ (lv_sub hl [0, 1, 3] rfl)
noncomputable def M_couples_J90 (t1 : Int32 × MS) (r8 : Int32) (t10 : Int32 × Int32) : Option (Int32) :=
  (ald t1.2 49 ((t1.1 &&& (((1 : Int32) <<< (r8 &&& 31)) ^^^ (-1))) &&& (((1 : Int32) <<< (t10.2 &&& 31)) ^^^ (-1)))).bind fun v18 =>
  (M_greater t10.1 (1 + v18)).bind fun q19 =>
  some q19
noncomputable def M_couples_L49 (t1 : Int32 × MS) (r8 : Int32) (t10 : Int32 × Int32) : Option ((Int32 × Int32) ⊕ Int32) :=
  if t10.2 < (mf t1.2 1) then
    (((if (((t1.1 &&& (((1 : Int32) <<< (r8 &&& 31)) ^^^ (-1))) >>> (t10.2 &&& 31)) &&& 1) = 1 then
        ((M_doesFit t1.2 0 r8 t10.2).bind fun q17 =>
        if q17 = 0 then
          ((M_doesFit t1.2 0 t10.2 r8).bind fun q21 =>
          if q21 = 0 then
            (some t10.1)
          else
            (M_couples_J90 t1 r8 t10))
        else
          (M_couples_J90 t1 r8 t10))
      else
        (some t10.1) : Option Int32)).bind fun r15 =>
    some (.inl (r15, (t10.2 + 1))))
  else
    (some (.inr t10.1))
noncomputable def M_couples_L14 (t1 : Int32 × MS) (t6 : Int32) : Option (Int32 ⊕ Int32) :=
  if ((t1.1 >>> (t6 &&& 31)) &&& 1) = 0 then
    (some (.inl (t6 + 1)))
  else
    (some (.inr t6))
noncomputable def M_couples_L2 (t1 : Int32 × MS) : Option ((Int32 × MS) ⊕ MS) :=
  if t1.1 < ((1 : Int32) <<< ((mf t1.2 1) &&& 31)) then
    ((o_loop (M_couples_L14 t1) 0).bind fun r8 =>
    (ald t1.2 49 (t1.1 &&& (((1 : Int32) <<< (r8 &&& 31)) ^^^ (-1)))).bind fun v9 =>
    (o_loop (M_couples_L49 t1 r8) (v9, (r8 + 1))).bind fun r12 =>
    (ast t1.2 49 t1.1 r12).bind fun s13 =>
    some (.inl ((t1.1 + 1), s13)))
  else
    (some (.inr t1.2))
noncomputable def M_couples (σ : MS) : Option (Int32 × MS) :=
  (o_loop M_couples_L2 (1, σ)).bind fun r3 =>
  (ald r3 49 (((1 : Int32) <<< ((mf r3 1) &&& 31)) - 1)).bind fun v4 =>
  some (v4, r3)
theorem nm_X4_couples : kNm yX4_couples RX4 0 := by unfold kNm; decide +kernel
set_option maxHeartbeats 4000000 in
set_option maxRecDepth 100000 in
theorem wM_couples (l : Launch) (G : va_G) (dT : Nat → ClassId) (o : Nat) (ad : Nat → Nat) (σ : MS) (z : Int32 × MS) (h : M_couples σ = some z) : Met l yX4_couples (ws_ yX4_couples cX4_couples 6 (some .int)) (kRm 3 68) (mPc G dT o ad σ []) (va_Qi (fun r (_ : Unit) => r = z.1) (fun _ t => MH G dT o ad z.2 t.heap) (mAd o ad)) 0 0 (mAd o ad) := by
  refine m_startNi (cc := cX4_couples) (ty := .int) rfl rfl rfl (fun p e R s m args below meth c Q ls X hR hM hS hl hend => ?_)
  have hx := X.1.1
  have hb := X.1.2.1
  have hit := h
  clear h
  unfold M_couples at hit
  have hl : lv_has ls 6 [(0, .ref o)] := hl
  refine lv_iconst (v := 1) hx hb dX4_couples_0 (by decide) ?_
  refine lv_istore_n (lv' := [(1, .int 1), (0, .ref o)]) hx hb dX4_couples_1 rfl hl (by decide) rfl (fun ls hl => ?_)
  obtain ⟨r3, er3, hit⟩ := o_bind hit
  have hr3 : ∀ (H : Heap) (locs : List Loc) (ls : Array Slot), MH G dT o ad r3 H → va_S (mAd o ad) s.heap H locs → lv_has ls 6 [(0, .ref o)] → W p l e R s m args below meth c H locs 0 0 Q (F0 m 132 ls []) := by
    intro H locs ls hM hS hl
    refine lv_aload_n hx hb dX4_couples_132 rfl (lv_at hl 0 rfl) ?_
    refine m_get X hM 49 q1693 rfl rfl (v := .ref (ad 49)) rfl dX4_couples_133 ?_
    refine lv_iconst (v := 1) hx hb dX4_couples_136 (by decide) ?_
    refine lv_aload_n hx hb dX4_couples_137 rfl (lv_at hl 0 rfl) ?_
    refine m_get X hM 1 q1645 rfl rfl (v := .int (mf r3 1)) rfl dX4_couples_138 ?_
    refine lv_ishl hx hb dX4_couples_141 ?_
    refine lv_iconst (v := 1) hx hb dX4_couples_142 (by decide) ?_
    refine lv_isub hx hb dX4_couples_143 ?_
    obtain ⟨v4, ev4, hit⟩ := o_bind hit
    refine m_iald X hM 19 49 rfl rfl ev4 dX4_couples_144 ?_
    have he := o_in hit
    exact hend _ v4 _ _ _ _ _ rfl he hM hS dX4_couples_145
  refine o_rec (P := fun t1 => ∀ (H : Heap) (locs : List Loc) (ls : Array Slot), MH G dT o ad t1.2 H → va_S (mAd o ad) s.heap H locs → lv_has ls 6 [(0, .ref o), (1, .int t1.1)] → W p l e R s m args below meth c H locs 0 0 Q (F0 m 2 ls [])) (fun t1 x2 hit hC1 hE1 H locs ls hM hS hl => ?_) _ er3 _ _ _ hM hS (lv_sub hl [1, 0] rfl)
  unfold M_couples_L2 at hit
  refine lv_iload_n hx hb dX4_couples_2 rfl (lv_at hl 1 rfl) ?_
  refine lv_iconst (v := 1) hx hb dX4_couples_3 (by decide) ?_
  refine lv_aload_n hx hb dX4_couples_4 rfl (lv_at hl 0 rfl) ?_
  refine m_get X hM 1 q1645 rfl rfl (v := .int (mf t1.2 1)) rfl dX4_couples_5 ?_
  refine lv_ishl hx hb dX4_couples_8 ?_
  refine b_icmp_ge (tgt := 132) hx hb dX4_couples_9 (by decide) hit (fun c5 hit => ?_) (fun c5 hit => ?_)
  · have he := o_in hit
    have he := hE1 _ he
    subst he
    exact hr3 _ _ _ hM hS (lv_sub hl [0] rfl)
  · refine lv_iconst (v := 0) hx hb dX4_couples_12 (by decide) ?_
    refine lv_istore_n (lv' := [(2, .int 0), (0, .ref o), (1, .int t1.1)]) hx hb dX4_couples_13 rfl hl (by decide) rfl (fun ls hl => ?_)
    obtain ⟨r8, er8, hit⟩ := o_bind hit
    have hr8 : ∀ (H : Heap) (locs : List Loc) (ls : Array Slot), MH G dT o ad t1.2 H → va_S (mAd o ad) s.heap H locs → lv_has ls 6 [(0, .ref o), (1, .int t1.1), (2, .int r8)] → W p l e R s m args below meth c H locs 0 0 Q (F0 m 28 ls []) := by
      intro H locs ls hM hS hl
      refine lv_iload_n hx hb dX4_couples_28 rfl (lv_at hl 1 rfl) ?_
      refine lv_iconst (v := 1) hx hb dX4_couples_29 (by decide) ?_
      refine lv_iload_n hx hb dX4_couples_30 rfl (lv_at hl 2 rfl) ?_
      refine lv_ishl hx hb dX4_couples_31 ?_
      refine lv_iconst (v := (-1)) hx hb dX4_couples_32 (by decide) ?_
      refine lv_ixor hx hb dX4_couples_33 ?_
      refine lv_iand hx hb dX4_couples_34 ?_
      refine lv_istore_n (lv' := [(3, .int (t1.1 &&& (((1 : Int32) <<< (r8 &&& 31)) ^^^ (-1)))), (0, .ref o), (1, .int t1.1), (2, .int r8)]) hx hb dX4_couples_35 rfl hl (by decide) rfl (fun ls hl => ?_)
      refine lv_aload_n hx hb dX4_couples_36 rfl (lv_at hl 1 rfl) ?_
      refine m_get X hM 49 q1693 rfl rfl (v := .ref (ad 49)) rfl dX4_couples_37 ?_
      refine lv_iload_n hx hb dX4_couples_40 rfl (lv_at hl 0 rfl) ?_
      obtain ⟨v9, ev9, hit⟩ := o_bind hit
      refine m_iald X hM 19 49 rfl rfl ev9 dX4_couples_41 ?_
      refine lv_istore (lv' := [(4, .int v9), (3, .int (t1.1 &&& (((1 : Int32) <<< (r8 &&& 31)) ^^^ (-1)))), (0, .ref o), (1, .int t1.1), (2, .int r8)]) hx hb dX4_couples_42 hl (by decide) rfl (fun ls hl => ?_)
      refine lv_iload_n hx hb dX4_couples_44 rfl (lv_at hl 4 rfl) ?_
      refine lv_iconst (v := 1) hx hb dX4_couples_45 (by decide) ?_
      refine lv_iadd hx hb dX4_couples_46 ?_
      refine lv_istore (lv' := [(5, .int (r8 + 1)), (4, .int v9), (3, .int (t1.1 &&& (((1 : Int32) <<< (r8 &&& 31)) ^^^ (-1)))), (0, .ref o), (1, .int t1.1), (2, .int r8)]) hx hb dX4_couples_47 hl (by decide) rfl (fun ls hl => ?_)
      obtain ⟨r12, er12, hit⟩ := o_bind hit
      have hr12 : ∀ (H : Heap) (locs : List Loc) (ls : Array Slot), MH G dT o ad t1.2 H → va_S (mAd o ad) s.heap H locs → lv_has ls 6 [(0, .ref o), (1, .int t1.1), (4, .int r12)] → W p l e R s m args below meth c H locs 0 0 Q (F0 m 118 ls []) := by
        intro H locs ls hM hS hl
        refine lv_aload_n hx hb dX4_couples_118 rfl (lv_at hl 0 rfl) ?_
        refine m_get X hM 49 q1693 rfl rfl (v := .ref (ad 49)) rfl dX4_couples_119 ?_
        refine lv_iload_n hx hb dX4_couples_122 rfl (lv_at hl 1 rfl) ?_
        refine lv_iload hx hb dX4_couples_123 (lv_at hl 2 rfl) ?_
        obtain ⟨s13, es13, hit⟩ := o_bind hit
        refine m_iast X hM hS 19 49 rfl rfl es13 dX4_couples_125 (fun H locs hM hS => ?_)
        refine lv_iinc (k := 1) (v := (t1.1 + 1)) (lv' := [(1, .int (t1.1 + 1)), (0, .ref o), (4, .int r12)]) hx hb dX4_couples_126 hl rfl rfl (by decide) rfl (fun ls hl => ?_)
        refine lv_goto (tgt := 2) hx hb dX4_couples_129 (by decide) ?_
        have he := o_in hit
        exact hC1 _ he _ _ _ hM hS (lv_sub hl [1, 0] rfl)
      refine o_rec (P := fun t10 => ∀ (H : Heap) (locs : List Loc) (ls : Array Slot), MH G dT o ad t1.2 H → va_S (mAd o ad) s.heap H locs → lv_has ls 6 [(3, .int (t1.1 &&& (((1 : Int32) <<< (r8 &&& 31)) ^^^ (-1)))), (0, .ref o), (1, .int t1.1), (2, .int r8), (4, .int t10.1), (5, .int t10.2)] → W p l e R s m args below meth c H locs 0 0 Q (F0 m 49 ls [])) (fun t10 x11 hit hC10 hE10 H locs ls hM hS hl => ?_) _ er12 _ _ _ hM hS (lv_sub hl [2, 3, 4, 5, 1, 0] rfl)
      unfold M_couples_L49 at hit
      refine lv_iload hx hb dX4_couples_49 (lv_at hl 5 rfl) ?_
      refine lv_aload_n hx hb dX4_couples_51 rfl (lv_at hl 1 rfl) ?_
      refine m_get X hM 1 q1645 rfl rfl (v := .int (mf t1.2 1)) rfl dX4_couples_52 ?_
      refine b_icmp_ge (tgt := 118) hx hb dX4_couples_55 (by decide) hit (fun c14 hit => ?_) (fun c14 hit => ?_)
      · have he := o_in hit
        have he := hE10 _ he
        subst he
        exact hr12 _ _ _ hM hS (lv_sub hl [1, 2, 4] rfl)
      · refine lv_iload_n hx hb dX4_couples_58 rfl (lv_at hl 0 rfl) ?_
        refine lv_iload hx hb dX4_couples_59 (lv_at hl 5 rfl) ?_
        refine lv_ishr hx hb dX4_couples_61 ?_
        refine lv_iconst (v := 1) hx hb dX4_couples_62 (by decide) ?_
        refine lv_iand hx hb dX4_couples_63 ?_
        refine lv_iconst (v := 1) hx hb dX4_couples_64 (by decide) ?_
        obtain ⟨r15, er15, hit⟩ := o_bind hit
        have hr15 : ∀ (H : Heap) (locs : List Loc) (ls : Array Slot), MH G dT o ad t1.2 H → va_S (mAd o ad) s.heap H locs → lv_has ls 6 [(3, .int (t1.1 &&& (((1 : Int32) <<< (r8 &&& 31)) ^^^ (-1)))), (0, .ref o), (1, .int t1.1), (2, .int r8), (5, .int t10.2), (4, .int r15)] → W p l e R s m args below meth c H locs 0 0 Q (F0 m 112 ls []) := by
          intro H locs ls hM hS hl
          refine lv_iinc (k := 4) (v := (t10.2 + 1)) (lv' := [(5, .int (t10.2 + 1)), (3, .int (t1.1 &&& (((1 : Int32) <<< (r8 &&& 31)) ^^^ (-1)))), (0, .ref o), (1, .int t1.1), (2, .int r8), (4, .int r15)]) hx hb dX4_couples_112 hl rfl rfl (by decide) rfl (fun ls hl => ?_)
          refine lv_goto (tgt := 49) hx hb dX4_couples_115 (by decide) ?_
          have he := o_in hit
          exact hC10 _ he _ _ _ hM hS (lv_sub hl [1, 2, 3, 4, 5, 0] rfl)
        have hit := er15
        refine b_icmp_ne (tgt := 112) hx hb dX4_couples_65 (by decide) hit (fun c16 hit => ?_) (fun c16 hit => ?_)
        · have he := o_in hit
          subst he
          exact hr15 _ _ _ hM hS (lv_sub hl [0, 1, 2, 3, 5, 4] rfl)
        · refine lv_aload_n hx hb dX4_couples_68 rfl (lv_at hl 1 rfl) ?_
          refine lv_iconst (v := 0) hx hb dX4_couples_69 (by decide) ?_
          refine lv_iload_n hx hb dX4_couples_70 rfl (lv_at hl 3 rfl) ?_
          refine lv_iload hx hb dX4_couples_71 (lv_at hl 5 rfl) ?_
          obtain ⟨q17, eq17, hit⟩ := o_bind hit
          refine m_cR X hM (wM_doesFit l G dT o ad _ _ _ _ _ eq17) nm_X4_doesFit q2010 q2012 q141 q2013 qs90 ⟨Nat.le_trans (Nat.le_of_ble_eq_true rfl) hR.1, Nat.le_trans (Nat.le_of_ble_eq_true rfl) hR.2⟩ rfl rfl hl.1 (lv_room (Nat.le_of_ble_eq_true rfl)) dX4_couples_73 ?_
          have hK90 : M_couples_J90 t1 r8 t10 = some r15 → ∀ (H : Heap) (locs : List Loc) (ls : Array Slot), MH G dT o ad t1.2 H → va_S (mAd o ad) s.heap H locs → lv_has ls 6 [(3, .int (t1.1 &&& (((1 : Int32) <<< (r8 &&& 31)) ^^^ (-1)))), (0, .ref o), (1, .int t1.1), (2, .int r8), (4, .int t10.1), (5, .int t10.2)] → W p l e R s m args below meth c H locs 0 0 Q (F0 m 90 ls []) := by
            intro  hit H locs ls hM hS hl
            unfold M_couples_J90 at hit
            refine lv_iload hx hb dX4_couples_90 (lv_at hl 4 rfl) ?_
            refine lv_iconst (v := 1) hx hb dX4_couples_92 (by decide) ?_
            refine lv_aload_n hx hb dX4_couples_93 rfl (lv_at hl 1 rfl) ?_
            refine m_get X hM 49 q1693 rfl rfl (v := .ref (ad 49)) rfl dX4_couples_94 ?_
            refine lv_iload_n hx hb dX4_couples_97 rfl (lv_at hl 0 rfl) ?_
            refine lv_iconst (v := 1) hx hb dX4_couples_98 (by decide) ?_
            refine lv_iload hx hb dX4_couples_99 (lv_at hl 5 rfl) ?_
            refine lv_ishl hx hb dX4_couples_101 ?_
            refine lv_iconst (v := (-1)) hx hb dX4_couples_102 (by decide) ?_
            refine lv_ixor hx hb dX4_couples_103 ?_
            refine lv_iand hx hb dX4_couples_104 ?_
            obtain ⟨v18, ev18, hit⟩ := o_bind hit
            refine m_iald X hM 19 49 rfl rfl ev18 dX4_couples_105 ?_
            refine lv_iadd hx hb dX4_couples_106 ?_
            obtain ⟨q19, eq19, hit⟩ := o_bind hit
            refine m_cP X.1 (wM_greater l _ _ _ eq19) nm_X4_greater q2021 q2022 q141 q2023 ⟨Nat.le_trans (Nat.le_of_ble_eq_true rfl) hR.1, Nat.le_trans (Nat.le_of_ble_eq_true rfl) hR.2⟩ rfl rfl hl.1 (lv_room (Nat.le_of_ble_eq_true rfl)) dX4_couples_107 ?_
            refine lv_istore (lv' := [(4, .int q19), (3, .int (t1.1 &&& (((1 : Int32) <<< (r8 &&& 31)) ^^^ (-1)))), (0, .ref o), (1, .int t1.1), (2, .int r8), (5, .int t10.2)]) hx hb dX4_couples_110 hl (by decide) rfl (fun ls hl => ?_)
            have he := o_in hit
            subst he
            exact hr15 _ _ _ hM hS (lv_sub hl [1, 2, 3, 4, 5, 0] rfl)
          refine b_if_ne (tgt := 90) hx hb dX4_couples_76 (by decide) hit (fun c20 hit => ?_) (fun c20 hit => ?_)
          · exact hK90  hit _ _ _ hM hS hl
          · refine lv_aload_n hx hb dX4_couples_79 rfl (lv_at hl 1 rfl) ?_
            refine lv_iconst (v := 0) hx hb dX4_couples_80 (by decide) ?_
            refine lv_iload hx hb dX4_couples_81 (lv_at hl 5 rfl) ?_
            refine lv_iload_n hx hb dX4_couples_83 rfl (lv_at hl 3 rfl) ?_
            obtain ⟨q21, eq21, hit⟩ := o_bind hit
            refine m_cR X hM (wM_doesFit l G dT o ad _ _ _ _ _ eq21) nm_X4_doesFit q2010 q2012 q141 q2013 qs90 ⟨Nat.le_trans (Nat.le_of_ble_eq_true rfl) hR.1, Nat.le_trans (Nat.le_of_ble_eq_true rfl) hR.2⟩ rfl rfl hl.1 (lv_room (Nat.le_of_ble_eq_true rfl)) dX4_couples_84 ?_
            refine b_if_eq (tgt := 112) hx hb dX4_couples_87 (by decide) hit (fun c22 hit => ?_) (fun c22 hit => ?_)
            · have he := o_in hit
              subst he
              exact hr15 _ _ _ hM hS (lv_sub hl [0, 1, 2, 3, 5, 4] rfl)
            · exact hK90  hit _ _ _ hM hS hl
    refine o_rec (P := fun t6 => ∀ (H : Heap) (locs : List Loc) (ls : Array Slot), MH G dT o ad t1.2 H → va_S (mAd o ad) s.heap H locs → lv_has ls 6 [(0, .ref o), (1, .int t1.1), (2, .int t6)] → W p l e R s m args below meth c H locs 0 0 Q (F0 m 14 ls [])) (fun t6 x7 hit hC6 hE6 H locs ls hM hS hl => ?_) _ er8 _ _ _ hM hS (lv_sub hl [1, 2, 0] rfl)
    unfold M_couples_L14 at hit
    refine lv_iload_n hx hb dX4_couples_14 rfl (lv_at hl 1 rfl) ?_
    refine lv_iload_n hx hb dX4_couples_15 rfl (lv_at hl 2 rfl) ?_
    refine lv_ishr hx hb dX4_couples_16 ?_
    refine lv_iconst (v := 1) hx hb dX4_couples_17 (by decide) ?_
    refine lv_iand hx hb dX4_couples_18 ?_
    refine b_if_ne (tgt := 28) hx hb dX4_couples_19 (by decide) hit (fun c23 hit => ?_) (fun c23 hit => ?_)
    · have he := o_in hit
      have he := hE6 _ he
      subst he
      exact hr8 _ _ _ hM hS hl
    · refine lv_iinc (k := 2) (v := (t6 + 1)) (lv' := [(2, .int (t6 + 1)), (0, .ref o), (1, .int t1.1)]) hx hb dX4_couples_22 hl rfl rfl (by decide) rfl (fun ls hl => ?_)
      refine lv_goto (tgt := 14) hx hb dX4_couples_25 (by decide) ?_
      have he := o_in hit
      exact hC6 _ he _ _ _ hM hS (lv_sub hl [1, 2, 0] rfl)
noncomputable def M_count (σ : MS) (a0 : Int32) : Option (Int32 × MS) :=
  (pf σ 0 0).bind fun s1 =>
  (M_within a0 0 14).bind fun q2 =>
  (M_right s1 q2 1).bind fun q3 =>
  if q3.1 = 0 then
    (some (0, q3.2))
  else
    (if a0 = 0 then
      (some ((mf q3.2 1), q3.2))
    else
      (if a0 = 1 then
        (some ((mf q3.2 2), q3.2))
      else
        (if a0 = 2 then
          (some ((mf q3.2 3), q3.2))
        else
          (if a0 = 3 then
            (some ((mf q3.2 4), q3.2))
          else
            (if a0 = 4 then
              ((ald q3.2 44 0).bind fun v10 =>
              some (v10, q3.2))
            else
              (if a0 = 5 then
                ((M_burntOnes q3.2).bind fun q12 =>
                some (q12, q3.2))
              else
                (if a0 = 6 then
                  ((M_borneOnes q3.2 0).bind fun q14 =>
                  some (q14, q3.2))
                else
                  (if a0 = 7 then
                    ((M_everybody q3.2).bind fun q16 =>
                    (M_knownBy q3.2 0 q16).bind fun q17 =>
                    some (q17, q3.2))
                  else
                    (if a0 = 8 then
                      ((M_couples q3.2).bind fun q19 =>
                      some (q19.1, q19.2))
                    else
                      (if a0 = 9 then
                        (some ((mf q3.2 46), q3.2))
                      else
                        (if a0 = 10 then
                          (some ((mf q3.2 51), q3.2))
                        else
                          (if a0 = 11 then
                            (some ((mf q3.2 13), q3.2))
                          else
                            ((ald q3.2 16 (a0 - 12)).bind fun v23 =>
                            some (v23, q3.2))))))))))))))
theorem nm_X4_count : kNm yX4_count RX4 1 := by unfold kNm; decide +kernel
set_option maxHeartbeats 4000000 in
set_option maxRecDepth 100000 in
theorem wM_count (l : Launch) (G : va_G) (dT : Nat → ClassId) (o : Nat) (ad : Nat → Nat) (σ : MS) (a0 : Int32) (z : Int32 × MS) (h : M_count σ a0 = some z) : Met l yX4_count (ws_ yX4_count cX4_count 2 (some .int)) (kRm 4 93) (mPc G dT o ad σ [.int a0]) (va_Qi (fun r (_ : Unit) => r = z.1) (fun _ t => MH G dT o ad z.2 t.heap) (mAd o ad)) 0 0 (mAd o ad) := by
  refine m_startNi (cc := cX4_count) (ty := .int) rfl rfl rfl (fun p e R s m args below meth c Q ls X hR hM hS hl hend => ?_)
  have hx := X.1.1
  have hb := X.1.2.1
  have hit := h
  clear h
  unfold M_count at hit
  have hl : lv_has ls 2 [(0, .ref o), (1, .int a0)] := hl
  refine lv_aload_n hx hb dX4_count_0 rfl (lv_at hl 0 rfl) ?_
  refine lv_iconst (v := 0) hx hb dX4_count_1 (by decide) ?_
  obtain ⟨s1, es1, hit⟩ := o_bind hit
  refine m_put X hM hS 0 q1644 rfl rfl (ty := .int) rfl rfl rfl es1 dX4_count_2 (fun H locs hM hS => ?_)
  refine lv_aload_n hx hb dX4_count_5 rfl (lv_at hl 0 rfl) ?_
  refine lv_iload_n hx hb dX4_count_6 rfl (lv_at hl 1 rfl) ?_
  refine lv_iconst (v := 0) hx hb dX4_count_7 (by decide) ?_
  refine lv_bipush (v := 14) hx hb dX4_count_8 (by decide) ?_
  obtain ⟨q2, eq2, hit⟩ := o_bind hit
  refine m_cP X.1 (wM_within l _ _ _ _ eq2) nm_X4_within q1983 q1984 q141 q1985 ⟨Nat.le_trans (Nat.le_of_ble_eq_true rfl) hR.1, Nat.le_trans (Nat.le_of_ble_eq_true rfl) hR.2⟩ rfl rfl hl.1 (lv_room (Nat.le_of_ble_eq_true rfl)) dX4_count_10 ?_
  refine lv_iconst (v := 1) hx hb dX4_count_13 (by decide) ?_
  obtain ⟨q3, eq3, hit⟩ := o_bind hit
  refine m_cNi X hM hS (wM_right l G dT o ad _ _ _ _ eq3) nm_X4_right q1848 q1850 q141 q1851 qs58 ⟨Nat.le_trans (Nat.le_of_ble_eq_true rfl) hR.1, Nat.le_trans (Nat.le_of_ble_eq_true rfl) hR.2⟩ rfl rfl hl.1 (lv_room (Nat.le_of_ble_eq_true rfl)) dX4_count_14 (fun H locs hM hS => ?_)
  refine b_if_ne (tgt := 22) hx hb dX4_count_17 (by decide) hit (fun c4 hit => ?_) (fun c4 hit => ?_)
  · refine lv_iload_n hx hb dX4_count_22 rfl (lv_at hl 1 rfl) ?_
    refine Decidable.byCases (p := a0 = 0) (fun c5 => ?_) (fun c5 => ?_)
    · replace hit := o_t hit c5
      refine b_tab (tgt := 84) hx hb dX4_count_23 c5 (z := 0) (by decide) (by decide) (by decide) rfl (by decide) ?_
      refine lv_aload_n hx hb dX4_count_84 rfl (lv_at hl 0 rfl) ?_
      refine m_get X hM 1 q1645 rfl rfl (v := .int (mf q3.2 1)) rfl dX4_count_85 ?_
      have he := o_in hit
      exact hend _ (mf q3.2 1) _ _ _ _ _ rfl he hM hS dX4_count_88
    · replace hit := o_f hit c5
      refine Decidable.byCases (p := a0 = 1) (fun c6 => ?_) (fun c6 => ?_)
      · replace hit := o_t hit c6
        refine b_tab (tgt := 89) hx hb dX4_count_23 c6 (z := 1) (by decide) (by decide) (by decide) rfl (by decide) ?_
        refine lv_aload_n hx hb dX4_count_89 rfl (lv_at hl 0 rfl) ?_
        refine m_get X hM 2 q1646 rfl rfl (v := .int (mf q3.2 2)) rfl dX4_count_90 ?_
        have he := o_in hit
        exact hend _ (mf q3.2 2) _ _ _ _ _ rfl he hM hS dX4_count_93
      · replace hit := o_f hit c6
        refine Decidable.byCases (p := a0 = 2) (fun c7 => ?_) (fun c7 => ?_)
        · replace hit := o_t hit c7
          refine b_tab (tgt := 94) hx hb dX4_count_23 c7 (z := 2) (by decide) (by decide) (by decide) rfl (by decide) ?_
          refine lv_aload_n hx hb dX4_count_94 rfl (lv_at hl 0 rfl) ?_
          refine m_get X hM 3 q1647 rfl rfl (v := .int (mf q3.2 3)) rfl dX4_count_95 ?_
          have he := o_in hit
          exact hend _ (mf q3.2 3) _ _ _ _ _ rfl he hM hS dX4_count_98
        · replace hit := o_f hit c7
          refine Decidable.byCases (p := a0 = 3) (fun c8 => ?_) (fun c8 => ?_)
          · replace hit := o_t hit c8
            refine b_tab (tgt := 99) hx hb dX4_count_23 c8 (z := 3) (by decide) (by decide) (by decide) rfl (by decide) ?_
            refine lv_aload_n hx hb dX4_count_99 rfl (lv_at hl 0 rfl) ?_
            refine m_get X hM 4 q1648 rfl rfl (v := .int (mf q3.2 4)) rfl dX4_count_100 ?_
            have he := o_in hit
            exact hend _ (mf q3.2 4) _ _ _ _ _ rfl he hM hS dX4_count_103
          · replace hit := o_f hit c8
            refine Decidable.byCases (p := a0 = 4) (fun c9 => ?_) (fun c9 => ?_)
            · replace hit := o_t hit c9
              refine b_tab (tgt := 104) hx hb dX4_count_23 c9 (z := 4) (by decide) (by decide) (by decide) rfl (by decide) ?_
              refine lv_aload_n hx hb dX4_count_104 rfl (lv_at hl 0 rfl) ?_
              refine m_get X hM 44 q1688 rfl rfl (v := .ref (ad 44)) rfl dX4_count_105 ?_
              refine lv_iconst (v := 0) hx hb dX4_count_108 (by decide) ?_
              obtain ⟨v10, ev10, hit⟩ := o_bind hit
              refine m_iald X hM 15 44 rfl rfl ev10 dX4_count_109 ?_
              have he := o_in hit
              exact hend _ v10 _ _ _ _ _ rfl he hM hS dX4_count_110
            · replace hit := o_f hit c9
              refine Decidable.byCases (p := a0 = 5) (fun c11 => ?_) (fun c11 => ?_)
              · replace hit := o_t hit c11
                refine b_tab (tgt := 111) hx hb dX4_count_23 c11 (z := 5) (by decide) (by decide) (by decide) rfl (by decide) ?_
                refine lv_aload_n hx hb dX4_count_111 rfl (lv_at hl 0 rfl) ?_
                obtain ⟨q12, eq12, hit⟩ := o_bind hit
                refine m_cR X hM (wM_burntOnes l G dT o ad _  _ eq12) nm_X4_burntOnes q1986 q1988 q141 q1989 qs84 ⟨Nat.le_trans (Nat.le_of_ble_eq_true rfl) hR.1, Nat.le_trans (Nat.le_of_ble_eq_true rfl) hR.2⟩ rfl rfl hl.1 (lv_room (Nat.le_of_ble_eq_true rfl)) dX4_count_112 ?_
                have he := o_in hit
                exact hend _ q12 _ _ _ _ _ rfl he hM hS dX4_count_115
              · replace hit := o_f hit c11
                refine Decidable.byCases (p := a0 = 6) (fun c13 => ?_) (fun c13 => ?_)
                · replace hit := o_t hit c13
                  refine b_tab (tgt := 116) hx hb dX4_count_23 c13 (z := 6) (by decide) (by decide) (by decide) rfl (by decide) ?_
                  refine lv_aload_n hx hb dX4_count_116 rfl (lv_at hl 0 rfl) ?_
                  refine lv_iconst (v := 0) hx hb dX4_count_117 (by decide) ?_
                  obtain ⟨q14, eq14, hit⟩ := o_bind hit
                  refine m_cR X hM (wM_borneOnes l G dT o ad _ _ _ eq14) nm_X4_borneOnes q1994 q1996 q141 q1997 qs86 ⟨Nat.le_trans (Nat.le_of_ble_eq_true rfl) hR.1, Nat.le_trans (Nat.le_of_ble_eq_true rfl) hR.2⟩ rfl rfl hl.1 (lv_room (Nat.le_of_ble_eq_true rfl)) dX4_count_118 ?_
                  have he := o_in hit
                  exact hend _ q14 _ _ _ _ _ rfl he hM hS dX4_count_121
                · replace hit := o_f hit c13
                  refine Decidable.byCases (p := a0 = 7) (fun c15 => ?_) (fun c15 => ?_)
                  · replace hit := o_t hit c15
                    refine b_tab (tgt := 122) hx hb dX4_count_23 c15 (z := 7) (by decide) (by decide) (by decide) rfl (by decide) ?_
                    refine lv_aload_n hx hb dX4_count_122 rfl (lv_at hl 0 rfl) ?_
                    refine lv_iconst (v := 0) hx hb dX4_count_123 (by decide) ?_
                    refine lv_aload_n hx hb dX4_count_124 rfl (lv_at hl 0 rfl) ?_
                    obtain ⟨q16, eq16, hit⟩ := o_bind hit
                    refine m_cR X hM (wM_everybody l G dT o ad _  _ eq16) nm_X4_everybody q1998 q2000 q141 q2001 qs87 ⟨Nat.le_trans (Nat.le_of_ble_eq_true rfl) hR.1, Nat.le_trans (Nat.le_of_ble_eq_true rfl) hR.2⟩ rfl rfl hl.1 (lv_room (Nat.le_of_ble_eq_true rfl)) dX4_count_125 ?_
                    obtain ⟨q17, eq17, hit⟩ := o_bind hit
                    refine m_cR X hM (wM_knownBy l G dT o ad _ _ _ _ eq17) nm_X4_knownBy q2002 q2004 q141 q2005 qs88 ⟨Nat.le_trans (Nat.le_of_ble_eq_true rfl) hR.1, Nat.le_trans (Nat.le_of_ble_eq_true rfl) hR.2⟩ rfl rfl hl.1 (lv_room (Nat.le_of_ble_eq_true rfl)) dX4_count_128 ?_
                    have he := o_in hit
                    exact hend _ q17 _ _ _ _ _ rfl he hM hS dX4_count_131
                  · replace hit := o_f hit c15
                    refine Decidable.byCases (p := a0 = 8) (fun c18 => ?_) (fun c18 => ?_)
                    · replace hit := o_t hit c18
                      refine b_tab (tgt := 132) hx hb dX4_count_23 c18 (z := 8) (by decide) (by decide) (by decide) rfl (by decide) ?_
                      refine lv_aload_n hx hb dX4_count_132 rfl (lv_at hl 0 rfl) ?_
                      obtain ⟨q19, eq19, hit⟩ := o_bind hit
                      refine m_cNi X hM hS (wM_couples l G dT o ad _  _ eq19) nm_X4_couples q2006 q2008 q141 q2009 qs89 ⟨Nat.le_trans (Nat.le_of_ble_eq_true rfl) hR.1, Nat.le_trans (Nat.le_of_ble_eq_true rfl) hR.2⟩ rfl rfl hl.1 (lv_room (Nat.le_of_ble_eq_true rfl)) dX4_count_133 (fun H locs hM hS => ?_)
                      have he := o_in hit
                      exact hend _ q19.1 _ _ _ _ _ rfl he hM hS dX4_count_136
                    · replace hit := o_f hit c18
                      refine Decidable.byCases (p := a0 = 9) (fun c20 => ?_) (fun c20 => ?_)
                      · replace hit := o_t hit c20
                        refine b_tab (tgt := 137) hx hb dX4_count_23 c20 (z := 9) (by decide) (by decide) (by decide) rfl (by decide) ?_
                        refine lv_aload_n hx hb dX4_count_137 rfl (lv_at hl 0 rfl) ?_
                        refine m_get X hM 46 q1690 rfl rfl (v := .int (mf q3.2 46)) rfl dX4_count_138 ?_
                        have he := o_in hit
                        exact hend _ (mf q3.2 46) _ _ _ _ _ rfl he hM hS dX4_count_141
                      · replace hit := o_f hit c20
                        refine Decidable.byCases (p := a0 = 10) (fun c21 => ?_) (fun c21 => ?_)
                        · replace hit := o_t hit c21
                          refine b_tab (tgt := 142) hx hb dX4_count_23 c21 (z := 10) (by decide) (by decide) (by decide) rfl (by decide) ?_
                          refine lv_aload_n hx hb dX4_count_142 rfl (lv_at hl 0 rfl) ?_
                          refine m_get X hM 51 q1695 rfl rfl (v := .int (mf q3.2 51)) rfl dX4_count_143 ?_
                          have he := o_in hit
                          exact hend _ (mf q3.2 51) _ _ _ _ _ rfl he hM hS dX4_count_146
                        · replace hit := o_f hit c21
                          refine Decidable.byCases (p := a0 = 11) (fun c22 => ?_) (fun c22 => ?_)
                          · replace hit := o_t hit c22
                            refine b_tab (tgt := 147) hx hb dX4_count_23 c22 (z := 11) (by decide) (by decide) (by decide) rfl (by decide) ?_
                            refine lv_aload_n hx hb dX4_count_147 rfl (lv_at hl 0 rfl) ?_
                            refine m_get X hM 13 q1657 rfl rfl (v := .int (mf q3.2 13)) rfl dX4_count_148 ?_
                            have he := o_in hit
                            exact hend _ (mf q3.2 13) _ _ _ _ _ rfl he hM hS dX4_count_151
                          · replace hit := o_f hit c22
                            have nc5 := lv_neT (a := 0) c5 (by decide)
                            have nc6 := lv_neT (a := 1) c6 (by decide)
                            have nc7 := lv_neT (a := 2) c7 (by decide)
                            have nc8 := lv_neT (a := 3) c8 (by decide)
                            have nc9 := lv_neT (a := 4) c9 (by decide)
                            have nc11 := lv_neT (a := 5) c11 (by decide)
                            have nc13 := lv_neT (a := 6) c13 (by decide)
                            have nc15 := lv_neT (a := 7) c15 (by decide)
                            have nc18 := lv_neT (a := 8) c18 (by decide)
                            have nc20 := lv_neT (a := 9) c20 (by decide)
                            have nc21 := lv_neT (a := 10) c21 (by decide)
                            have nc22 := lv_neT (a := 11) c22 (by decide)
                            refine lv_tableOut (tgt := 152) hx hb dX4_count_23 (by omega) (by decide) ?_
                            refine lv_aload_n hx hb dX4_count_152 rfl (lv_at hl 0 rfl) ?_
                            refine m_get X hM 16 q1660 rfl rfl (v := .ref (ad 16)) rfl dX4_count_153 ?_
                            refine lv_iload_n hx hb dX4_count_156 rfl (lv_at hl 1 rfl) ?_
                            refine lv_bipush (v := 12) hx hb dX4_count_157 (by decide) ?_
                            refine lv_isub hx hb dX4_count_159 ?_
                            obtain ⟨v23, ev23, hit⟩ := o_bind hit
                            refine m_iald X hM 6 16 rfl rfl ev23 dX4_count_160 ?_
                            have he := o_in hit
                            exact hend _ v23 _ _ _ _ _ rfl he hM hS dX4_count_161
  · refine lv_iconst (v := 0) hx hb dX4_count_20 (by decide) ?_
    have he := o_in hit
    exact hend _ 0 _ _ _ _ _ rfl he hM hS dX4_count_21
noncomputable def M_isSheet (σ : MS) (a0 : Int32) : Option (Int32 × MS) :=
  ((if a0 < 0 then
      (some 0)
    else
      (if a0 < (mf σ 1) then
        (some 1)
      else
        (some 0)) : Option Int32)).bind fun r1 =>
  (M_right σ r1 1).bind fun q2 =>
  some ((vp_nar .boolean q2.1), q2.2)
theorem nm_X4_isSheet : kNm yX4_isSheet RX4 1 := by unfold kNm; decide +kernel
set_option maxHeartbeats 4000000 in
set_option maxRecDepth 100000 in
theorem wM_isSheet (l : Launch) (G : va_G) (dT : Nat → ClassId) (o : Nat) (ad : Nat → Nat) (σ : MS) (a0 : Int32) (z : Int32 × MS) (h : M_isSheet σ a0 = some z) : Met l yX4_isSheet (ws_ yX4_isSheet cX4_isSheet 2 (some .boolean)) (kRm 1 22) (mPc G dT o ad σ [.int a0]) (va_Qi (fun r (_ : Unit) => r = z.1) (fun _ t => MH G dT o ad z.2 t.heap) (mAd o ad)) 0 0 (mAd o ad) := by
  refine m_startNi (cc := cX4_isSheet) (ty := .boolean) rfl rfl rfl (fun p e R s m args below meth c Q ls X hR hM hS hl hend => ?_)
  have hx := X.1.1
  have hb := X.1.2.1
  have hit := h
  clear h
  unfold M_isSheet at hit
  have hl : lv_has ls 2 [(0, .ref o), (1, .int a0)] := hl
  refine lv_aload_n hx hb dX4_isSheet_0 rfl (lv_at hl 0 rfl) ?_
  refine lv_iload_n hx hb dX4_isSheet_1 rfl (lv_at hl 1 rfl) ?_
  obtain ⟨r1, er1, hit⟩ := o_bind hit
  have hr1 : ∀ (H : Heap) (locs : List Loc) (ls : Array Slot), MH G dT o ad σ H → va_S (mAd o ad) s.heap H locs → lv_has ls 2 [] → W p l e R s m args below meth c H locs 0 0 Q (F0 m 18 ls [.int r1, .ref o]) := by
    intro H locs ls hM hS hl
    refine lv_iconst (v := 1) hx hb dX4_isSheet_18 (by decide) ?_
    obtain ⟨q2, eq2, hit⟩ := o_bind hit
    refine m_cNi X hM hS (wM_right l G dT o ad _ _ _ _ eq2) nm_X4_right q1848 q1850 q141 q1851 qs58 ⟨Nat.le_trans (Nat.le_of_ble_eq_true rfl) hR.1, Nat.le_trans (Nat.le_of_ble_eq_true rfl) hR.2⟩ rfl rfl hl.1 (lv_room (Nat.le_of_ble_eq_true rfl)) dX4_isSheet_19 (fun H locs hM hS => ?_)
    have he := o_in hit
    exact hend _ (vp_nar .boolean q2.1) _ _ _ _ _ rfl he hM hS dX4_isSheet_22
  have hit := er1
  refine b_if_lt (tgt := 17) hx hb dX4_isSheet_2 (by decide) hit (fun c3 hit => ?_) (fun c3 hit => ?_)
  · refine lv_iconst (v := 0) hx hb dX4_isSheet_17 (by decide) ?_
    have he := o_in hit
    subst he
    exact hr1 _ _ _ hM hS (lv_sub hl [] rfl)
  · refine lv_iload_n hx hb dX4_isSheet_5 rfl (lv_at hl 1 rfl) ?_
    refine lv_aload_n hx hb dX4_isSheet_6 rfl (lv_at hl 0 rfl) ?_
    refine m_get X hM 1 q1645 rfl rfl (v := .int (mf σ 1)) rfl dX4_isSheet_7 ?_
    refine b_icmp_ge (tgt := 17) hx hb dX4_isSheet_10 (by decide) hit (fun c4 hit => ?_) (fun c4 hit => ?_)
    · refine lv_iconst (v := 0) hx hb dX4_isSheet_17 (by decide) ?_
      have he := o_in hit
      subst he
      exact hr1 _ _ _ hM hS (lv_sub hl [] rfl)
    · refine lv_iconst (v := 1) hx hb dX4_isSheet_13 (by decide) ?_
      refine lv_goto (tgt := 18) hx hb dX4_isSheet_14 (by decide) ?_
      have he := o_in hit
      subst he
      exact hr1 _ _ _ hM hS (lv_sub hl [] rfl)
noncomputable def M_isClerk (σ : MS) (a0 : Int32) : Option (Int32 × MS) :=
  ((if a0 < 0 then
      (some 0)
    else
      (if a0 < (mf σ 2) then
        (some 1)
      else
        (some 0)) : Option Int32)).bind fun r1 =>
  (M_right σ r1 1).bind fun q2 =>
  some ((vp_nar .boolean q2.1), q2.2)
theorem nm_X4_isClerk : kNm yX4_isClerk RX4 1 := by unfold kNm; decide +kernel
set_option maxHeartbeats 4000000 in
set_option maxRecDepth 100000 in
theorem wM_isClerk (l : Launch) (G : va_G) (dT : Nat → ClassId) (o : Nat) (ad : Nat → Nat) (σ : MS) (a0 : Int32) (z : Int32 × MS) (h : M_isClerk σ a0 = some z) : Met l yX4_isClerk (ws_ yX4_isClerk cX4_isClerk 2 (some .boolean)) (kRm 1 22) (mPc G dT o ad σ [.int a0]) (va_Qi (fun r (_ : Unit) => r = z.1) (fun _ t => MH G dT o ad z.2 t.heap) (mAd o ad)) 0 0 (mAd o ad) := by
  refine m_startNi (cc := cX4_isClerk) (ty := .boolean) rfl rfl rfl (fun p e R s m args below meth c Q ls X hR hM hS hl hend => ?_)
  have hx := X.1.1
  have hb := X.1.2.1
  have hit := h
  clear h
  unfold M_isClerk at hit
  have hl : lv_has ls 2 [(0, .ref o), (1, .int a0)] := hl
  refine lv_aload_n hx hb dX4_isClerk_0 rfl (lv_at hl 0 rfl) ?_
  refine lv_iload_n hx hb dX4_isClerk_1 rfl (lv_at hl 1 rfl) ?_
  obtain ⟨r1, er1, hit⟩ := o_bind hit
  have hr1 : ∀ (H : Heap) (locs : List Loc) (ls : Array Slot), MH G dT o ad σ H → va_S (mAd o ad) s.heap H locs → lv_has ls 2 [] → W p l e R s m args below meth c H locs 0 0 Q (F0 m 18 ls [.int r1, .ref o]) := by
    intro H locs ls hM hS hl
    refine lv_iconst (v := 1) hx hb dX4_isClerk_18 (by decide) ?_
    obtain ⟨q2, eq2, hit⟩ := o_bind hit
    refine m_cNi X hM hS (wM_right l G dT o ad _ _ _ _ eq2) nm_X4_right q1848 q1850 q141 q1851 qs58 ⟨Nat.le_trans (Nat.le_of_ble_eq_true rfl) hR.1, Nat.le_trans (Nat.le_of_ble_eq_true rfl) hR.2⟩ rfl rfl hl.1 (lv_room (Nat.le_of_ble_eq_true rfl)) dX4_isClerk_19 (fun H locs hM hS => ?_)
    have he := o_in hit
    exact hend _ (vp_nar .boolean q2.1) _ _ _ _ _ rfl he hM hS dX4_isClerk_22
  have hit := er1
  refine b_if_lt (tgt := 17) hx hb dX4_isClerk_2 (by decide) hit (fun c3 hit => ?_) (fun c3 hit => ?_)
  · refine lv_iconst (v := 0) hx hb dX4_isClerk_17 (by decide) ?_
    have he := o_in hit
    subst he
    exact hr1 _ _ _ hM hS (lv_sub hl [] rfl)
  · refine lv_iload_n hx hb dX4_isClerk_5 rfl (lv_at hl 1 rfl) ?_
    refine lv_aload_n hx hb dX4_isClerk_6 rfl (lv_at hl 0 rfl) ?_
    refine m_get X hM 2 q1646 rfl rfl (v := .int (mf σ 2)) rfl dX4_isClerk_7 ?_
    refine b_icmp_ge (tgt := 17) hx hb dX4_isClerk_10 (by decide) hit (fun c4 hit => ?_) (fun c4 hit => ?_)
    · refine lv_iconst (v := 0) hx hb dX4_isClerk_17 (by decide) ?_
      have he := o_in hit
      subst he
      exact hr1 _ _ _ hM hS (lv_sub hl [] rfl)
    · refine lv_iconst (v := 1) hx hb dX4_isClerk_13 (by decide) ?_
      refine lv_goto (tgt := 18) hx hb dX4_isClerk_14 (by decide) ?_
      have he := o_in hit
      subst he
      exact hr1 _ _ _ hM hS (lv_sub hl [] rfl)
noncomputable def M_isWord (σ : MS) (a0 : Int32) : Option (Int32 × MS) :=
  ((if a0 < 0 then
      (some 0)
    else
      (if a0 < (mf σ 3) then
        (some 1)
      else
        (some 0)) : Option Int32)).bind fun r1 =>
  (M_right σ r1 1).bind fun q2 =>
  some ((vp_nar .boolean q2.1), q2.2)
theorem nm_X4_isWord : kNm yX4_isWord RX4 1 := by unfold kNm; decide +kernel
set_option maxHeartbeats 4000000 in
set_option maxRecDepth 100000 in
theorem wM_isWord (l : Launch) (G : va_G) (dT : Nat → ClassId) (o : Nat) (ad : Nat → Nat) (σ : MS) (a0 : Int32) (z : Int32 × MS) (h : M_isWord σ a0 = some z) : Met l yX4_isWord (ws_ yX4_isWord cX4_isWord 2 (some .boolean)) (kRm 1 22) (mPc G dT o ad σ [.int a0]) (va_Qi (fun r (_ : Unit) => r = z.1) (fun _ t => MH G dT o ad z.2 t.heap) (mAd o ad)) 0 0 (mAd o ad) := by
  refine m_startNi (cc := cX4_isWord) (ty := .boolean) rfl rfl rfl (fun p e R s m args below meth c Q ls X hR hM hS hl hend => ?_)
  have hx := X.1.1
  have hb := X.1.2.1
  have hit := h
  clear h
  unfold M_isWord at hit
  have hl : lv_has ls 2 [(0, .ref o), (1, .int a0)] := hl
  refine lv_aload_n hx hb dX4_isWord_0 rfl (lv_at hl 0 rfl) ?_
  refine lv_iload_n hx hb dX4_isWord_1 rfl (lv_at hl 1 rfl) ?_
  obtain ⟨r1, er1, hit⟩ := o_bind hit
  have hr1 : ∀ (H : Heap) (locs : List Loc) (ls : Array Slot), MH G dT o ad σ H → va_S (mAd o ad) s.heap H locs → lv_has ls 2 [] → W p l e R s m args below meth c H locs 0 0 Q (F0 m 18 ls [.int r1, .ref o]) := by
    intro H locs ls hM hS hl
    refine lv_iconst (v := 1) hx hb dX4_isWord_18 (by decide) ?_
    obtain ⟨q2, eq2, hit⟩ := o_bind hit
    refine m_cNi X hM hS (wM_right l G dT o ad _ _ _ _ eq2) nm_X4_right q1848 q1850 q141 q1851 qs58 ⟨Nat.le_trans (Nat.le_of_ble_eq_true rfl) hR.1, Nat.le_trans (Nat.le_of_ble_eq_true rfl) hR.2⟩ rfl rfl hl.1 (lv_room (Nat.le_of_ble_eq_true rfl)) dX4_isWord_19 (fun H locs hM hS => ?_)
    have he := o_in hit
    exact hend _ (vp_nar .boolean q2.1) _ _ _ _ _ rfl he hM hS dX4_isWord_22
  have hit := er1
  refine b_if_lt (tgt := 17) hx hb dX4_isWord_2 (by decide) hit (fun c3 hit => ?_) (fun c3 hit => ?_)
  · refine lv_iconst (v := 0) hx hb dX4_isWord_17 (by decide) ?_
    have he := o_in hit
    subst he
    exact hr1 _ _ _ hM hS (lv_sub hl [] rfl)
  · refine lv_iload_n hx hb dX4_isWord_5 rfl (lv_at hl 1 rfl) ?_
    refine lv_aload_n hx hb dX4_isWord_6 rfl (lv_at hl 0 rfl) ?_
    refine m_get X hM 3 q1647 rfl rfl (v := .int (mf σ 3)) rfl dX4_isWord_7 ?_
    refine b_icmp_ge (tgt := 17) hx hb dX4_isWord_10 (by decide) hit (fun c4 hit => ?_) (fun c4 hit => ?_)
    · refine lv_iconst (v := 0) hx hb dX4_isWord_17 (by decide) ?_
      have he := o_in hit
      subst he
      exact hr1 _ _ _ hM hS (lv_sub hl [] rfl)
    · refine lv_iconst (v := 1) hx hb dX4_isWord_13 (by decide) ?_
      refine lv_goto (tgt := 18) hx hb dX4_isWord_14 (by decide) ?_
      have he := o_in hit
      subst he
      exact hr1 _ _ _ hM hS (lv_sub hl [] rfl)
noncomputable def M_isTown (σ : MS) (a0 : Int32) : Option (Int32 × MS) :=
  (M_within a0 0 3).bind fun q1 =>
  (M_right σ q1 1).bind fun q2 =>
  some ((vp_nar .boolean q2.1), q2.2)
theorem nm_X4_isTown : kNm yX4_isTown RX4 1 := by unfold kNm; decide +kernel
set_option maxHeartbeats 4000000 in
set_option maxRecDepth 100000 in
theorem wM_isTown (l : Launch) (G : va_G) (dT : Nat → ClassId) (o : Nat) (ad : Nat → Nat) (σ : MS) (a0 : Int32) (z : Int32 × MS) (h : M_isTown σ a0 = some z) : Met l yX4_isTown (ws_ yX4_isTown cX4_isTown 2 (some .boolean)) (kRm 1 22) (mPc G dT o ad σ [.int a0]) (va_Qi (fun r (_ : Unit) => r = z.1) (fun _ t => MH G dT o ad z.2 t.heap) (mAd o ad)) 0 0 (mAd o ad) := by
  refine m_startNi (cc := cX4_isTown) (ty := .boolean) rfl rfl rfl (fun p e R s m args below meth c Q ls X hR hM hS hl hend => ?_)
  have hx := X.1.1
  have hb := X.1.2.1
  have hit := h
  clear h
  unfold M_isTown at hit
  have hl : lv_has ls 2 [(0, .ref o), (1, .int a0)] := hl
  refine lv_aload_n hx hb dX4_isTown_0 rfl (lv_at hl 0 rfl) ?_
  refine lv_iload_n hx hb dX4_isTown_1 rfl (lv_at hl 1 rfl) ?_
  refine lv_iconst (v := 0) hx hb dX4_isTown_2 (by decide) ?_
  refine lv_iconst (v := 3) hx hb dX4_isTown_3 (by decide) ?_
  obtain ⟨q1, eq1, hit⟩ := o_bind hit
  refine m_cP X.1 (wM_within l _ _ _ _ eq1) nm_X4_within q1983 q1984 q141 q1985 ⟨Nat.le_trans (Nat.le_of_ble_eq_true rfl) hR.1, Nat.le_trans (Nat.le_of_ble_eq_true rfl) hR.2⟩ rfl rfl hl.1 (lv_room (Nat.le_of_ble_eq_true rfl)) dX4_isTown_4 ?_
  refine lv_iconst (v := 1) hx hb dX4_isTown_7 (by decide) ?_
  obtain ⟨q2, eq2, hit⟩ := o_bind hit
  refine m_cNi X hM hS (wM_right l G dT o ad _ _ _ _ eq2) nm_X4_right q1848 q1850 q141 q1851 qs58 ⟨Nat.le_trans (Nat.le_of_ble_eq_true rfl) hR.1, Nat.le_trans (Nat.le_of_ble_eq_true rfl) hR.2⟩ rfl rfl hl.1 (lv_room (Nat.le_of_ble_eq_true rfl)) dX4_isTown_8 (fun H locs hM hS => ?_)
  have he := o_in hit
  exact hend _ (vp_nar .boolean q2.1) _ _ _ _ _ rfl he hM hS dX4_isTown_11
noncomputable def M_isWhat (σ : MS) (a0 : Int32) (a1 : Int32) : Option (Int32 × MS) :=
  (M_within a0 0 a1).bind fun q1 =>
  (M_right σ q1 1).bind fun q2 =>
  some ((vp_nar .boolean q2.1), q2.2)
theorem nm_X4_isWhat : kNm yX4_isWhat RX4 2 := by unfold kNm; decide +kernel
set_option maxHeartbeats 4000000 in
set_option maxRecDepth 100000 in
theorem wM_isWhat (l : Launch) (G : va_G) (dT : Nat → ClassId) (o : Nat) (ad : Nat → Nat) (σ : MS) (a0 : Int32) (a1 : Int32) (z : Int32 × MS) (h : M_isWhat σ a0 a1 = some z) : Met l yX4_isWhat (ws_ yX4_isWhat cX4_isWhat 3 (some .boolean)) (kRm 1 22) (mPc G dT o ad σ [.int a0, .int a1]) (va_Qi (fun r (_ : Unit) => r = z.1) (fun _ t => MH G dT o ad z.2 t.heap) (mAd o ad)) 0 0 (mAd o ad) := by
  refine m_startNi (cc := cX4_isWhat) (ty := .boolean) rfl rfl rfl (fun p e R s m args below meth c Q ls X hR hM hS hl hend => ?_)
  have hx := X.1.1
  have hb := X.1.2.1
  have hit := h
  clear h
  unfold M_isWhat at hit
  have hl : lv_has ls 3 [(0, .ref o), (1, .int a0), (2, .int a1)] := hl
  refine lv_aload_n hx hb dX4_isWhat_0 rfl (lv_at hl 0 rfl) ?_
  refine lv_iload_n hx hb dX4_isWhat_1 rfl (lv_at hl 1 rfl) ?_
  refine lv_iconst (v := 0) hx hb dX4_isWhat_2 (by decide) ?_
  refine lv_iload_n hx hb dX4_isWhat_3 rfl (lv_at hl 2 rfl) ?_
  obtain ⟨q1, eq1, hit⟩ := o_bind hit
  refine m_cP X.1 (wM_within l _ _ _ _ eq1) nm_X4_within q1983 q1984 q141 q1985 ⟨Nat.le_trans (Nat.le_of_ble_eq_true rfl) hR.1, Nat.le_trans (Nat.le_of_ble_eq_true rfl) hR.2⟩ rfl rfl hl.1 (lv_room (Nat.le_of_ble_eq_true rfl)) dX4_isWhat_4 ?_
  refine lv_iconst (v := 1) hx hb dX4_isWhat_7 (by decide) ?_
  obtain ⟨q2, eq2, hit⟩ := o_bind hit
  refine m_cNi X hM hS (wM_right l G dT o ad _ _ _ _ eq2) nm_X4_right q1848 q1850 q141 q1851 qs58 ⟨Nat.le_trans (Nat.le_of_ble_eq_true rfl) hR.1, Nat.le_trans (Nat.le_of_ble_eq_true rfl) hR.2⟩ rfl rfl hl.1 (lv_room (Nat.le_of_ble_eq_true rfl)) dX4_isWhat_8 (fun H locs hM hS => ?_)
  have he := o_in hit
  exact hend _ (vp_nar .boolean q2.1) _ _ _ _ _ rfl he hM hS dX4_isWhat_11
noncomputable def M_isDays (σ : MS) (a0 : Int32) (a1 : Int32) (a2 : Int32) : Option (Int32 × MS) :=
  (M_within a0 a1 40).bind fun q1 =>
  (M_right σ q1 a2).bind fun q2 =>
  some ((vp_nar .boolean q2.1), q2.2)
theorem nm_X4_isDays : kNm yX4_isDays RX4 3 := by unfold kNm; decide +kernel
set_option maxHeartbeats 4000000 in
set_option maxRecDepth 100000 in
theorem wM_isDays (l : Launch) (G : va_G) (dT : Nat → ClassId) (o : Nat) (ad : Nat → Nat) (σ : MS) (a0 : Int32) (a1 : Int32) (a2 : Int32) (z : Int32 × MS) (h : M_isDays σ a0 a1 a2 = some z) : Met l yX4_isDays (ws_ yX4_isDays cX4_isDays 4 (some .boolean)) (kRm 1 22) (mPc G dT o ad σ [.int a0, .int a1, .int a2]) (va_Qi (fun r (_ : Unit) => r = z.1) (fun _ t => MH G dT o ad z.2 t.heap) (mAd o ad)) 0 0 (mAd o ad) := by
  refine m_startNi (cc := cX4_isDays) (ty := .boolean) rfl rfl rfl (fun p e R s m args below meth c Q ls X hR hM hS hl hend => ?_)
  have hx := X.1.1
  have hb := X.1.2.1
  have hit := h
  clear h
  unfold M_isDays at hit
  have hl : lv_has ls 4 [(0, .ref o), (1, .int a0), (2, .int a1), (3, .int a2)] := hl
  refine lv_aload_n hx hb dX4_isDays_0 rfl (lv_at hl 0 rfl) ?_
  refine lv_iload_n hx hb dX4_isDays_1 rfl (lv_at hl 1 rfl) ?_
  refine lv_iload_n hx hb dX4_isDays_2 rfl (lv_at hl 2 rfl) ?_
  refine lv_bipush (v := 40) hx hb dX4_isDays_3 (by decide) ?_
  obtain ⟨q1, eq1, hit⟩ := o_bind hit
  refine m_cP X.1 (wM_within l _ _ _ _ eq1) nm_X4_within q1983 q1984 q141 q1985 ⟨Nat.le_trans (Nat.le_of_ble_eq_true rfl) hR.1, Nat.le_trans (Nat.le_of_ble_eq_true rfl) hR.2⟩ rfl rfl hl.1 (lv_room (Nat.le_of_ble_eq_true rfl)) dX4_isDays_5 ?_
  refine lv_iload_n hx hb dX4_isDays_8 rfl (lv_at hl 3 rfl) ?_
  obtain ⟨q2, eq2, hit⟩ := o_bind hit
  refine m_cNi X hM hS (wM_right l G dT o ad _ _ _ _ eq2) nm_X4_right q1848 q1850 q141 q1851 qs58 ⟨Nat.le_trans (Nat.le_of_ble_eq_true rfl) hR.1, Nat.le_trans (Nat.le_of_ble_eq_true rfl) hR.2⟩ rfl rfl hl.1 (lv_room (Nat.le_of_ble_eq_true rfl)) dX4_isDays_9 (fun H locs hM hS => ?_)
  have he := o_in hit
  exact hend _ (vp_nar .boolean q2.1) _ _ _ _ _ rfl he hM hS dX4_isDays_12
noncomputable def M_fitting_L4 (σ : MS) (a0 : Int32) (t1 : Int32 × Int32) : Option ((Int32 × Int32) ⊕ Int32) :=
  if t1.2 < (mf σ 1) then
    ((M_doesFit σ 0 a0 t1.2).bind fun q4 =>
    ((if q4 = 0 then
        (some 0)
      else
        (some ((1 : Int32) <<< (t1.2 &&& 31))) : Option Int32)).bind fun r5 =>
    some (.inl ((t1.1 ||| r5), (t1.2 + 1))))
  else
    (some (.inr t1.1))
noncomputable def M_fitting (σ : MS) (a0 : Int32) : Option (Int32) :=
  o_loop (M_fitting_L4 σ a0) (0, 0)
theorem nm_X4_fitting : kNm yX4_fitting RX4 1 := by unfold kNm; decide +kernel
set_option maxHeartbeats 4000000 in
set_option maxRecDepth 100000 in
theorem wM_fitting (l : Launch) (G : va_G) (dT : Nat → ClassId) (o : Nat) (ad : Nat → Nat) (σ : MS) (a0 : Int32) (z : Int32) (h : M_fitting σ a0 = some z) : Met l yX4_fitting (ws_ yX4_fitting cX4_fitting 4 (some .int)) (kRm 3 68) (mPc G dT o ad σ [.int a0]) (vp_Si (fun r => r = z)) 0 0 vp_nf := by
  refine m_startR (cc := cX4_fitting) (ty := .int) rfl rfl rfl (fun p e R s m args below meth c Q ls X hR hM hl hend => ?_)
  have hx := X.1.1
  have hb := X.1.2.1
  have hit := h
  clear h
  unfold M_fitting at hit
  have hl : lv_has ls 4 [(0, .ref o), (1, .int a0)] := hl
  refine lv_iconst (v := 0) hx hb dX4_fitting_0 (by decide) ?_
  refine lv_istore_n (lv' := [(2, .int 0), (0, .ref o), (1, .int a0)]) hx hb dX4_fitting_1 rfl hl (by decide) rfl (fun ls hl => ?_)
  refine lv_iconst (v := 0) hx hb dX4_fitting_2 (by decide) ?_
  refine lv_istore_n (lv' := [(3, .int 0), (2, .int 0), (0, .ref o), (1, .int a0)]) hx hb dX4_fitting_3 rfl hl (by decide) rfl (fun ls hl => ?_)
  refine o_rec (P := fun t1 => ∀ (ls : Array Slot), lv_has ls 4 [(0, .ref o), (1, .int a0), (2, .int t1.1), (3, .int t1.2)] → W p l e R s m args below meth c s.heap [] 0 0 Q (F0 m 4 ls [])) (fun t1 x2 hit hC1 hE1 ls hl => ?_) _ hit _ (lv_sub hl [2, 3, 1, 0] rfl)
  unfold M_fitting_L4 at hit
  refine lv_iload_n hx hb dX4_fitting_4 rfl (lv_at hl 3 rfl) ?_
  refine lv_aload_n hx hb dX4_fitting_5 rfl (lv_at hl 0 rfl) ?_
  refine m_get X hM 1 q1645 rfl rfl (v := .int (mf σ 1)) rfl dX4_fitting_6 ?_
  refine b_icmp_ge (tgt := 38) hx hb dX4_fitting_9 (by decide) hit (fun c3 hit => ?_) (fun c3 hit => ?_)
  · refine lv_iload_n hx hb dX4_fitting_38 rfl (lv_at hl 2 rfl) ?_
    have he := o_in hit
    have he := hE1 _ he
    exact hend _ t1.1 _ _ rfl he dX4_fitting_39
  · refine lv_iload_n hx hb dX4_fitting_12 rfl (lv_at hl 2 rfl) ?_
    refine lv_aload_n hx hb dX4_fitting_13 rfl (lv_at hl 0 rfl) ?_
    refine lv_iconst (v := 0) hx hb dX4_fitting_14 (by decide) ?_
    refine lv_iload_n hx hb dX4_fitting_15 rfl (lv_at hl 1 rfl) ?_
    refine lv_iload_n hx hb dX4_fitting_16 rfl (lv_at hl 3 rfl) ?_
    obtain ⟨q4, eq4, hit⟩ := o_bind hit
    refine m_cR X hM (wM_doesFit l G dT o ad _ _ _ _ _ eq4) nm_X4_doesFit q2010 q2012 q141 q2013 qs90 ⟨Nat.le_trans (Nat.le_of_ble_eq_true rfl) hR.1, Nat.le_trans (Nat.le_of_ble_eq_true rfl) hR.2⟩ rfl rfl hl.1 (lv_room (Nat.le_of_ble_eq_true rfl)) dX4_fitting_17 ?_
    obtain ⟨r5, er5, hit⟩ := o_bind hit
    have hr5 : ∀ (ls : Array Slot), lv_has ls 4 [(0, .ref o), (1, .int a0), (3, .int t1.2)] → W p l e R s m args below meth c s.heap [] 0 0 Q (F0 m 30 ls [.int r5, .int t1.1]) := by
      intro ls hl
      refine lv_ior hx hb dX4_fitting_30 ?_
      refine lv_istore_n (lv' := [(2, .int (t1.1 ||| r5)), (0, .ref o), (1, .int a0), (3, .int t1.2)]) hx hb dX4_fitting_31 rfl hl (by decide) rfl (fun ls hl => ?_)
      refine lv_iinc (k := 3) (v := (t1.2 + 1)) (lv' := [(3, .int (t1.2 + 1)), (2, .int (t1.1 ||| r5)), (0, .ref o), (1, .int a0)]) hx hb dX4_fitting_32 hl rfl rfl (by decide) rfl (fun ls hl => ?_)
      refine lv_goto (tgt := 4) hx hb dX4_fitting_35 (by decide) ?_
      have he := o_in hit
      exact hC1 _ he _ (lv_sub hl [2, 3, 1, 0] rfl)
    have hit := er5
    refine b_if_eq (tgt := 29) hx hb dX4_fitting_20 (by decide) hit (fun c6 hit => ?_) (fun c6 hit => ?_)
    · refine lv_iconst (v := 0) hx hb dX4_fitting_29 (by decide) ?_
      have he := o_in hit
      subst he
      exact hr5 _ (lv_sub hl [0, 1, 3] rfl)
    · refine lv_iconst (v := 1) hx hb dX4_fitting_23 (by decide) ?_
      refine lv_iload_n hx hb dX4_fitting_24 rfl (lv_at hl 3 rfl) ?_
      refine lv_ishl hx hb dX4_fitting_25 ?_
      refine lv_goto (tgt := 30) hx hb dX4_fitting_26 (by decide) ?_
      have he := o_in hit
      subst he
      exact hr5 _ (lv_sub hl [0, 1, 3] rfl)
