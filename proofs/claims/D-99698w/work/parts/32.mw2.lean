noncomputable def M_sheet (σ : MS) (a0 : Int32) (a1 : Int32) : Option (Int32 × MS) :=
  (pf σ 0 0).bind fun s1 =>
  (M_isSheet s1 a0).bind fun q2 =>
  if q2.1 = 0 then
    (some (0, q2.2))
  else
    ((M_isWhat q2.2 a1 4).bind fun q4 =>
    if q4.1 = 0 then
      (some (0, q4.2))
    else
      (if a1 = 0 then
        ((ald q4.2 44 (1 + a0)).bind fun v7 =>
        some (v7, q4.2))
      else
        (if a1 = 1 then
          ((ald q4.2 44 (10 + a0)).bind fun v9 =>
          some (v9, q4.2))
        else
          (if a1 = 2 then
            ((M_sheetIn q4.2 0 a0).bind fun q11 =>
            some (q11, q4.2))
          else
            (if a1 = 3 then
              ((ald q4.2 44 (19 + a0)).bind fun v13 =>
              if v13 < 10 then
                (some ((-1), q4.2))
              else
                ((ald q4.2 44 (19 + a0)).bind fun v15 =>
                some ((v15 - 10), q4.2)))
            else
              ((M_fitting q4.2 a0).bind fun q16 =>
              some (q16, q4.2)))))))
theorem nm_X4_sheet : kNm yX4_sheet RX4 2 := by unfold kNm; decide +kernel
set_option maxHeartbeats 4000000 in
set_option maxRecDepth 100000 in
theorem wM_sheet (l : Launch) (G : va_G) (dT : Nat → ClassId) (o : Nat) (ad : Nat → Nat) (σ : MS) (a0 : Int32) (a1 : Int32) (z : Int32 × MS) (h : M_sheet σ a0 a1 = some z) : Met l yX4_sheet (ws_ yX4_sheet cX4_sheet 3 (some .int)) (kRm 4 91) (mPc G dT o ad σ [.int a0, .int a1]) (va_Qi (fun r (_ : Unit) => r = z.1) (fun _ t => MH G dT o ad z.2 t.heap) (mAd o ad)) 0 0 (mAd o ad) := by
  refine m_startNi (cc := cX4_sheet) (ty := .int) rfl rfl rfl (fun p e R s m args below meth c Q ls X hR hM hS hl hend => ?_)
  have hx := X.1.1
  have hb := X.1.2.1
  have hit := h
  clear h
  unfold M_sheet at hit
  have hl : lv_has ls 3 [(0, .ref o), (1, .int a0), (2, .int a1)] := hl
  refine lv_aload_n hx hb dX4_sheet_0 rfl (lv_at hl 0 rfl) ?_
  refine lv_iconst (v := 0) hx hb dX4_sheet_1 (by decide) ?_
  obtain ⟨s1, es1, hit⟩ := o_bind hit
  refine m_put X hM hS 0 q1644 rfl rfl (ty := .int) rfl rfl rfl es1 dX4_sheet_2 (fun H locs hM hS => ?_)
  refine lv_aload_n hx hb dX4_sheet_5 rfl (lv_at hl 0 rfl) ?_
  refine lv_iload_n hx hb dX4_sheet_6 rfl (lv_at hl 1 rfl) ?_
  obtain ⟨q2, eq2, hit⟩ := o_bind hit
  refine m_cNi X hM hS (wM_isSheet l G dT o ad _ _ _ eq2) nm_X4_isSheet q2028 q2030 q141 q2031 qs92 ⟨Nat.le_trans (Nat.le_of_ble_eq_true rfl) hR.1, Nat.le_trans (Nat.le_of_ble_eq_true rfl) hR.2⟩ rfl rfl hl.1 (lv_room (Nat.le_of_ble_eq_true rfl)) dX4_sheet_7 (fun H locs hM hS => ?_)
  refine b_if_eq (tgt := 22) hx hb dX4_sheet_10 (by decide) hit (fun c3 hit => ?_) (fun c3 hit => ?_)
  · refine lv_iconst (v := 0) hx hb dX4_sheet_22 (by decide) ?_
    have he := o_in hit
    exact hend _ 0 _ _ _ _ _ rfl he hM hS dX4_sheet_23
  · refine lv_aload_n hx hb dX4_sheet_13 rfl (lv_at hl 0 rfl) ?_
    refine lv_iload_n hx hb dX4_sheet_14 rfl (lv_at hl 2 rfl) ?_
    refine lv_iconst (v := 4) hx hb dX4_sheet_15 (by decide) ?_
    obtain ⟨q4, eq4, hit⟩ := o_bind hit
    refine m_cNi X hM hS (wM_isWhat l G dT o ad _ _ _ _ eq4) nm_X4_isWhat q2032 q2034 q141 q2035 qs93 ⟨Nat.le_trans (Nat.le_of_ble_eq_true rfl) hR.1, Nat.le_trans (Nat.le_of_ble_eq_true rfl) hR.2⟩ rfl rfl hl.1 (lv_room (Nat.le_of_ble_eq_true rfl)) dX4_sheet_16 (fun H locs hM hS => ?_)
    refine b_if_ne (tgt := 24) hx hb dX4_sheet_19 (by decide) hit (fun c5 hit => ?_) (fun c5 hit => ?_)
    · refine lv_iload_n hx hb dX4_sheet_24 rfl (lv_at hl 2 rfl) ?_
      refine Decidable.byCases (p := a1 = 0) (fun c6 => ?_) (fun c6 => ?_)
      · replace hit := o_t hit c6
        refine b_tab (tgt := 56) hx hb dX4_sheet_25 c6 (z := 0) (by decide) (by decide) (by decide) rfl (by decide) ?_
        refine lv_aload_n hx hb dX4_sheet_56 rfl (lv_at hl 0 rfl) ?_
        refine m_get X hM 44 q1688 rfl rfl (v := .ref (ad 44)) rfl dX4_sheet_57 ?_
        refine lv_iconst (v := 1) hx hb dX4_sheet_60 (by decide) ?_
        refine lv_iload_n hx hb dX4_sheet_61 rfl (lv_at hl 1 rfl) ?_
        refine lv_iadd hx hb dX4_sheet_62 ?_
        obtain ⟨v7, ev7, hit⟩ := o_bind hit
        refine m_iald X hM 15 44 rfl rfl ev7 dX4_sheet_63 ?_
        have he := o_in hit
        exact hend _ v7 _ _ _ _ _ rfl he hM hS dX4_sheet_64
      · replace hit := o_f hit c6
        refine Decidable.byCases (p := a1 = 1) (fun c8 => ?_) (fun c8 => ?_)
        · replace hit := o_t hit c8
          refine b_tab (tgt := 65) hx hb dX4_sheet_25 c8 (z := 1) (by decide) (by decide) (by decide) rfl (by decide) ?_
          refine lv_aload_n hx hb dX4_sheet_65 rfl (lv_at hl 0 rfl) ?_
          refine m_get X hM 44 q1688 rfl rfl (v := .ref (ad 44)) rfl dX4_sheet_66 ?_
          refine lv_bipush (v := 10) hx hb dX4_sheet_69 (by decide) ?_
          refine lv_iload_n hx hb dX4_sheet_71 rfl (lv_at hl 1 rfl) ?_
          refine lv_iadd hx hb dX4_sheet_72 ?_
          obtain ⟨v9, ev9, hit⟩ := o_bind hit
          refine m_iald X hM 15 44 rfl rfl ev9 dX4_sheet_73 ?_
          have he := o_in hit
          exact hend _ v9 _ _ _ _ _ rfl he hM hS dX4_sheet_74
        · replace hit := o_f hit c8
          refine Decidable.byCases (p := a1 = 2) (fun c10 => ?_) (fun c10 => ?_)
          · replace hit := o_t hit c10
            refine b_tab (tgt := 75) hx hb dX4_sheet_25 c10 (z := 2) (by decide) (by decide) (by decide) rfl (by decide) ?_
            refine lv_aload_n hx hb dX4_sheet_75 rfl (lv_at hl 0 rfl) ?_
            refine lv_iconst (v := 0) hx hb dX4_sheet_76 (by decide) ?_
            refine lv_iload_n hx hb dX4_sheet_77 rfl (lv_at hl 1 rfl) ?_
            obtain ⟨q11, eq11, hit⟩ := o_bind hit
            refine m_cR X hM (wM_sheetIn l G dT o ad _ _ _ _ eq11) nm_X4_sheetIn q2036 q2038 q141 q2039 qs94 ⟨Nat.le_trans (Nat.le_of_ble_eq_true rfl) hR.1, Nat.le_trans (Nat.le_of_ble_eq_true rfl) hR.2⟩ rfl rfl hl.1 (lv_room (Nat.le_of_ble_eq_true rfl)) dX4_sheet_78 ?_
            have he := o_in hit
            exact hend _ q11 _ _ _ _ _ rfl he hM hS dX4_sheet_81
          · replace hit := o_f hit c10
            refine Decidable.byCases (p := a1 = 3) (fun c12 => ?_) (fun c12 => ?_)
            · replace hit := o_t hit c12
              refine b_tab (tgt := 82) hx hb dX4_sheet_25 c12 (z := 3) (by decide) (by decide) (by decide) rfl (by decide) ?_
              refine lv_aload_n hx hb dX4_sheet_82 rfl (lv_at hl 0 rfl) ?_
              refine m_get X hM 44 q1688 rfl rfl (v := .ref (ad 44)) rfl dX4_sheet_83 ?_
              refine lv_bipush (v := 19) hx hb dX4_sheet_86 (by decide) ?_
              refine lv_iload_n hx hb dX4_sheet_88 rfl (lv_at hl 1 rfl) ?_
              refine lv_iadd hx hb dX4_sheet_89 ?_
              obtain ⟨v13, ev13, hit⟩ := o_bind hit
              refine m_iald X hM 15 44 rfl rfl ev13 dX4_sheet_90 ?_
              refine lv_bipush (v := 10) hx hb dX4_sheet_91 (by decide) ?_
              refine b_icmp_ge (tgt := 100) hx hb dX4_sheet_93 (by decide) hit (fun c14 hit => ?_) (fun c14 hit => ?_)
              · refine lv_aload_n hx hb dX4_sheet_100 rfl (lv_at hl 0 rfl) ?_
                refine m_get X hM 44 q1688 rfl rfl (v := .ref (ad 44)) rfl dX4_sheet_101 ?_
                refine lv_bipush (v := 19) hx hb dX4_sheet_104 (by decide) ?_
                refine lv_iload_n hx hb dX4_sheet_106 rfl (lv_at hl 1 rfl) ?_
                refine lv_iadd hx hb dX4_sheet_107 ?_
                obtain ⟨v15, ev15, hit⟩ := o_bind hit
                refine m_iald X hM 15 44 rfl rfl ev15 dX4_sheet_108 ?_
                refine lv_bipush (v := 10) hx hb dX4_sheet_109 (by decide) ?_
                refine lv_isub hx hb dX4_sheet_111 ?_
                have he := o_in hit
                exact hend _ (v15 - 10) _ _ _ _ _ rfl he hM hS dX4_sheet_112
              · refine lv_iconst (v := (-1)) hx hb dX4_sheet_96 (by decide) ?_
                refine lv_goto (tgt := 112) hx hb dX4_sheet_97 (by decide) ?_
                have he := o_in hit
                exact hend _ (-1) _ _ _ _ _ rfl he hM hS dX4_sheet_112
            · replace hit := o_f hit c12
              have nc6 := lv_neT (a := 0) c6 (by decide)
              have nc8 := lv_neT (a := 1) c8 (by decide)
              have nc10 := lv_neT (a := 2) c10 (by decide)
              have nc12 := lv_neT (a := 3) c12 (by decide)
              refine lv_tableOut (tgt := 113) hx hb dX4_sheet_25 (by omega) (by decide) ?_
              refine lv_aload_n hx hb dX4_sheet_113 rfl (lv_at hl 0 rfl) ?_
              refine lv_iload_n hx hb dX4_sheet_114 rfl (lv_at hl 1 rfl) ?_
              obtain ⟨q16, eq16, hit⟩ := o_bind hit
              refine m_cR X hM (wM_fitting l G dT o ad _ _ _ eq16) nm_X4_fitting q2048 q2050 q141 q2051 qs97 ⟨Nat.le_trans (Nat.le_of_ble_eq_true rfl) hR.1, Nat.le_trans (Nat.le_of_ble_eq_true rfl) hR.2⟩ rfl rfl hl.1 (lv_room (Nat.le_of_ble_eq_true rfl)) dX4_sheet_115 ?_
              have he := o_in hit
              exact hend _ q16 _ _ _ _ _ rfl he hM hS dX4_sheet_118
    · refine lv_iconst (v := 0) hx hb dX4_sheet_22 (by decide) ?_
      have he := o_in hit
      exact hend _ 0 _ _ _ _ _ rfl he hM hS dX4_sheet_23
noncomputable def M_clerk_L29 (a0 : Int32) (q4 : Int32 × MS) (t6 : Int32 × Int32) : Option ((Int32 × Int32) ⊕ Int32) :=
  if t6.2 < (mf q4.2 1) then
    ((ald q4.2 44 (19 + t6.2)).bind fun v16 =>
    ((if v16 = (10 + a0) then
        (some ((1 : Int32) <<< (t6.2 &&& 31)))
      else
        (some 0) : Option Int32)).bind fun r17 =>
    some (.inl ((t6.1 ||| r17), (t6.2 + 1))))
  else
    (some (.inr t6.1))
noncomputable def M_clerk (σ : MS) (a0 : Int32) (a1 : Int32) : Option (Int32 × MS) :=
  (pf σ 0 0).bind fun s1 =>
  (M_isClerk s1 a0).bind fun q2 =>
  if q2.1 = 0 then
    (some (0, q2.2))
  else
    ((M_isWhat q2.2 a1 3).bind fun q4 =>
    if q4.1 = 0 then
      (some (0, q4.2))
    else
      ((o_loop (M_clerk_L29 a0 q4) (0, 0)).bind fun r8 =>
      if a1 = 0 then
        ((M_clerkIn q4.2 0 a0).bind fun q14 =>
        some (q14, q4.2))
      else
        (if a1 = 1 then
          ((ald q4.2 44 (28 + a0)).bind fun v13 =>
          some (v13, q4.2))
        else
          (if a1 = 2 then
            (some (r8, q4.2))
          else
            ((ald q4.2 8 a0).bind fun v12 =>
            some (v12, q4.2))))))
theorem nm_X4_clerk : kNm yX4_clerk RX4 2 := by unfold kNm; decide +kernel
set_option maxHeartbeats 4000000 in
set_option maxRecDepth 100000 in
theorem wM_clerk (l : Launch) (G : va_G) (dT : Nat → ClassId) (o : Nat) (ad : Nat → Nat) (σ : MS) (a0 : Int32) (a1 : Int32) (z : Int32 × MS) (h : M_clerk σ a0 a1 = some z) : Met l yX4_clerk (ws_ yX4_clerk cX4_clerk 5 (some .int)) (kRm 2 44) (mPc G dT o ad σ [.int a0, .int a1]) (va_Qi (fun r (_ : Unit) => r = z.1) (fun _ t => MH G dT o ad z.2 t.heap) (mAd o ad)) 0 0 (mAd o ad) := by
  refine m_startNi (cc := cX4_clerk) (ty := .int) rfl rfl rfl (fun p e R s m args below meth c Q ls X hR hM hS hl hend => ?_)
  have hx := X.1.1
  have hb := X.1.2.1
  have hit := h
  clear h
  unfold M_clerk at hit
  have hl : lv_has ls 5 [(0, .ref o), (1, .int a0), (2, .int a1)] := hl
  refine lv_aload_n hx hb dX4_clerk_0 rfl (lv_at hl 0 rfl) ?_
  refine lv_iconst (v := 0) hx hb dX4_clerk_1 (by decide) ?_
  obtain ⟨s1, es1, hit⟩ := o_bind hit
  refine m_put X hM hS 0 q1644 rfl rfl (ty := .int) rfl rfl rfl es1 dX4_clerk_2 (fun H locs hM hS => ?_)
  refine lv_aload_n hx hb dX4_clerk_5 rfl (lv_at hl 0 rfl) ?_
  refine lv_iload_n hx hb dX4_clerk_6 rfl (lv_at hl 1 rfl) ?_
  obtain ⟨q2, eq2, hit⟩ := o_bind hit
  refine m_cNi X hM hS (wM_isClerk l G dT o ad _ _ _ eq2) nm_X4_isClerk q2056 q2058 q141 q2059 qs98 ⟨Nat.le_trans (Nat.le_of_ble_eq_true rfl) hR.1, Nat.le_trans (Nat.le_of_ble_eq_true rfl) hR.2⟩ rfl rfl hl.1 (lv_room (Nat.le_of_ble_eq_true rfl)) dX4_clerk_7 (fun H locs hM hS => ?_)
  refine b_if_eq (tgt := 22) hx hb dX4_clerk_10 (by decide) hit (fun c3 hit => ?_) (fun c3 hit => ?_)
  · refine lv_iconst (v := 0) hx hb dX4_clerk_22 (by decide) ?_
    have he := o_in hit
    exact hend _ 0 _ _ _ _ _ rfl he hM hS dX4_clerk_23
  · refine lv_aload_n hx hb dX4_clerk_13 rfl (lv_at hl 0 rfl) ?_
    refine lv_iload_n hx hb dX4_clerk_14 rfl (lv_at hl 2 rfl) ?_
    refine lv_iconst (v := 3) hx hb dX4_clerk_15 (by decide) ?_
    obtain ⟨q4, eq4, hit⟩ := o_bind hit
    refine m_cNi X hM hS (wM_isWhat l G dT o ad _ _ _ _ eq4) nm_X4_isWhat q2032 q2034 q141 q2035 qs93 ⟨Nat.le_trans (Nat.le_of_ble_eq_true rfl) hR.1, Nat.le_trans (Nat.le_of_ble_eq_true rfl) hR.2⟩ rfl rfl hl.1 (lv_room (Nat.le_of_ble_eq_true rfl)) dX4_clerk_16 (fun H locs hM hS => ?_)
    refine b_if_ne (tgt := 24) hx hb dX4_clerk_19 (by decide) hit (fun c5 hit => ?_) (fun c5 hit => ?_)
    · refine lv_iconst (v := 0) hx hb dX4_clerk_24 (by decide) ?_
      refine lv_istore_n (lv' := [(3, .int 0), (0, .ref o), (1, .int a0), (2, .int a1)]) hx hb dX4_clerk_25 rfl hl (by decide) rfl (fun ls hl => ?_)
      refine lv_iconst (v := 0) hx hb dX4_clerk_26 (by decide) ?_
      refine lv_istore (lv' := [(4, .int 0), (3, .int 0), (0, .ref o), (1, .int a0), (2, .int a1)]) hx hb dX4_clerk_27 hl (by decide) rfl (fun ls hl => ?_)
      obtain ⟨r8, er8, hit⟩ := o_bind hit
      have hr8 : ∀ (H : Heap) (locs : List Loc) (ls : Array Slot), MH G dT o ad q4.2 H → va_S (mAd o ad) s.heap H locs → lv_has ls 5 [(0, .ref o), (1, .int a0), (2, .int a1), (3, .int r8)] → W p l e R s m args below meth c H locs 0 0 Q (F0 m 72 ls []) := by
        intro H locs ls hM hS hl
        refine lv_iload_n hx hb dX4_clerk_72 rfl (lv_at hl 2 rfl) ?_
        refine b_if_ne (tgt := 85) hx hb dX4_clerk_73 (by decide) hit (fun c9 hit => ?_) (fun c9 hit => ?_)
        · refine lv_iload_n hx hb dX4_clerk_85 rfl (lv_at hl 2 rfl) ?_
          refine lv_iconst (v := 1) hx hb dX4_clerk_86 (by decide) ?_
          refine b_icmp_ne (tgt := 102) hx hb dX4_clerk_87 (by decide) hit (fun c10 hit => ?_) (fun c10 hit => ?_)
          · refine lv_iload_n hx hb dX4_clerk_102 rfl (lv_at hl 2 rfl) ?_
            refine lv_iconst (v := 2) hx hb dX4_clerk_103 (by decide) ?_
            refine b_icmp_ne (tgt := 111) hx hb dX4_clerk_104 (by decide) hit (fun c11 hit => ?_) (fun c11 hit => ?_)
            · refine lv_aload_n hx hb dX4_clerk_111 rfl (lv_at hl 0 rfl) ?_
              refine m_get X hM 8 q1652 rfl rfl (v := .ref (ad 8)) rfl dX4_clerk_112 ?_
              refine lv_iload_n hx hb dX4_clerk_115 rfl (lv_at hl 1 rfl) ?_
              obtain ⟨v12, ev12, hit⟩ := o_bind hit
              refine m_iald X hM 1 8 rfl rfl ev12 dX4_clerk_116 ?_
              have he := o_in hit
              exact hend _ v12 _ _ _ _ _ rfl he hM hS dX4_clerk_117
            · refine lv_iload_n hx hb dX4_clerk_107 rfl (lv_at hl 3 rfl) ?_
              refine lv_goto (tgt := 117) hx hb dX4_clerk_108 (by decide) ?_
              have he := o_in hit
              exact hend _ r8 _ _ _ _ _ rfl he hM hS dX4_clerk_117
          · refine lv_aload_n hx hb dX4_clerk_90 rfl (lv_at hl 0 rfl) ?_
            refine m_get X hM 44 q1688 rfl rfl (v := .ref (ad 44)) rfl dX4_clerk_91 ?_
            refine lv_bipush (v := 28) hx hb dX4_clerk_94 (by decide) ?_
            refine lv_iload_n hx hb dX4_clerk_96 rfl (lv_at hl 1 rfl) ?_
            refine lv_iadd hx hb dX4_clerk_97 ?_
            obtain ⟨v13, ev13, hit⟩ := o_bind hit
            refine m_iald X hM 15 44 rfl rfl ev13 dX4_clerk_98 ?_
            refine lv_goto (tgt := 117) hx hb dX4_clerk_99 (by decide) ?_
            have he := o_in hit
            exact hend _ v13 _ _ _ _ _ rfl he hM hS dX4_clerk_117
        · refine lv_aload_n hx hb dX4_clerk_76 rfl (lv_at hl 0 rfl) ?_
          refine lv_iconst (v := 0) hx hb dX4_clerk_77 (by decide) ?_
          refine lv_iload_n hx hb dX4_clerk_78 rfl (lv_at hl 1 rfl) ?_
          obtain ⟨q14, eq14, hit⟩ := o_bind hit
          refine m_cR X hM (wM_clerkIn l G dT o ad _ _ _ _ eq14) nm_X4_clerkIn q2040 q2042 q141 q2043 qs95 ⟨Nat.le_trans (Nat.le_of_ble_eq_true rfl) hR.1, Nat.le_trans (Nat.le_of_ble_eq_true rfl) hR.2⟩ rfl rfl hl.1 (lv_room (Nat.le_of_ble_eq_true rfl)) dX4_clerk_79 ?_
          refine lv_goto (tgt := 117) hx hb dX4_clerk_82 (by decide) ?_
          have he := o_in hit
          exact hend _ q14 _ _ _ _ _ rfl he hM hS dX4_clerk_117
      refine o_rec (P := fun t6 => ∀ (H : Heap) (locs : List Loc) (ls : Array Slot), MH G dT o ad q4.2 H → va_S (mAd o ad) s.heap H locs → lv_has ls 5 [(0, .ref o), (1, .int a0), (2, .int a1), (3, .int t6.1), (4, .int t6.2)] → W p l e R s m args below meth c H locs 0 0 Q (F0 m 29 ls [])) (fun t6 x7 hit hC6 hE6 H locs ls hM hS hl => ?_) _ er8 _ _ _ hM hS (lv_sub hl [2, 3, 4, 1, 0] rfl)
      unfold M_clerk_L29 at hit
      refine lv_iload hx hb dX4_clerk_29 (lv_at hl 4 rfl) ?_
      refine lv_aload_n hx hb dX4_clerk_31 rfl (lv_at hl 0 rfl) ?_
      refine m_get X hM 1 q1645 rfl rfl (v := .int (mf q4.2 1)) rfl dX4_clerk_32 ?_
      refine b_icmp_ge (tgt := 72) hx hb dX4_clerk_35 (by decide) hit (fun c15 hit => ?_) (fun c15 hit => ?_)
      · have he := o_in hit
        have he := hE6 _ he
        subst he
        exact hr8 _ _ _ hM hS (lv_sub hl [0, 1, 2, 3] rfl)
      · refine lv_iload_n hx hb dX4_clerk_38 rfl (lv_at hl 3 rfl) ?_
        refine lv_aload_n hx hb dX4_clerk_39 rfl (lv_at hl 0 rfl) ?_
        refine m_get X hM 44 q1688 rfl rfl (v := .ref (ad 44)) rfl dX4_clerk_40 ?_
        refine lv_bipush (v := 19) hx hb dX4_clerk_43 (by decide) ?_
        refine lv_iload hx hb dX4_clerk_45 (lv_at hl 4 rfl) ?_
        refine lv_iadd hx hb dX4_clerk_47 ?_
        obtain ⟨v16, ev16, hit⟩ := o_bind hit
        refine m_iald X hM 15 44 rfl rfl ev16 dX4_clerk_48 ?_
        refine lv_bipush (v := 10) hx hb dX4_clerk_49 (by decide) ?_
        refine lv_iload_n hx hb dX4_clerk_51 rfl (lv_at hl 1 rfl) ?_
        refine lv_iadd hx hb dX4_clerk_52 ?_
        obtain ⟨r17, er17, hit⟩ := o_bind hit
        have hr17 : ∀ (H : Heap) (locs : List Loc) (ls : Array Slot), MH G dT o ad q4.2 H → va_S (mAd o ad) s.heap H locs → lv_has ls 5 [(0, .ref o), (1, .int a0), (2, .int a1), (4, .int t6.2)] → W p l e R s m args below meth c H locs 0 0 Q (F0 m 64 ls [.int r17, .int t6.1]) := by
          intro H locs ls hM hS hl
          refine lv_ior hx hb dX4_clerk_64 ?_
          refine lv_istore_n (lv' := [(3, .int (t6.1 ||| r17)), (0, .ref o), (1, .int a0), (2, .int a1), (4, .int t6.2)]) hx hb dX4_clerk_65 rfl hl (by decide) rfl (fun ls hl => ?_)
          refine lv_iinc (k := 4) (v := (t6.2 + 1)) (lv' := [(4, .int (t6.2 + 1)), (3, .int (t6.1 ||| r17)), (0, .ref o), (1, .int a0), (2, .int a1)]) hx hb dX4_clerk_66 hl rfl rfl (by decide) rfl (fun ls hl => ?_)
          refine lv_goto (tgt := 29) hx hb dX4_clerk_69 (by decide) ?_
          have he := o_in hit
          exact hC6 _ he _ _ _ hM hS (lv_sub hl [2, 3, 4, 1, 0] rfl)
        have hit := er17
        refine b_icmp_ne (tgt := 63) hx hb dX4_clerk_53 (by decide) hit (fun c18 hit => ?_) (fun c18 hit => ?_)
        · refine lv_iconst (v := 0) hx hb dX4_clerk_63 (by decide) ?_
          have he := o_in hit
          subst he
          exact hr17 _ _ _ hM hS (lv_sub hl [0, 1, 2, 4] rfl)
        · refine lv_iconst (v := 1) hx hb dX4_clerk_56 (by decide) ?_
          refine lv_iload hx hb dX4_clerk_57 (lv_at hl 4 rfl) ?_
          refine lv_ishl hx hb dX4_clerk_59 ?_
          refine lv_goto (tgt := 64) hx hb dX4_clerk_60 (by decide) ?_
          have he := o_in hit
          subst he
          exact hr17 _ _ _ hM hS (lv_sub hl [0, 1, 2, 4] rfl)
    · refine lv_iconst (v := 0) hx hb dX4_clerk_22 (by decide) ?_
      have he := o_in hit
      exact hend _ 0 _ _ _ _ _ rfl he hM hS dX4_clerk_23
noncomputable def M_knowers_L5 (σ : MS) (a0 : Int32) (a1 : Int32) (t1 : Int32 × Int32) : Option ((Int32 × Int32) ⊕ Int32) :=
  if t1.2 < (mf σ 2) then
    ((ald σ 44 ((a0 + 28) + t1.2)).bind fun v4 =>
    some (.inl ((t1.1 ||| (((v4 >>> (a1 &&& 31)) &&& 1) <<< (t1.2 &&& 31))), (t1.2 + 1))))
  else
    (some (.inr t1.1))
noncomputable def M_knowers (σ : MS) (a0 : Int32) (a1 : Int32) : Option (Int32) :=
  o_loop (M_knowers_L5 σ a0 a1) (0, 0)
theorem nm_X4_knowers : kNm yX4_knowers RX4 2 := by unfold kNm; decide +kernel
set_option maxHeartbeats 4000000 in
set_option maxRecDepth 100000 in
theorem wM_knowers (l : Launch) (G : va_G) (dT : Nat → ClassId) (o : Nat) (ad : Nat → Nat) (σ : MS) (a0 : Int32) (a1 : Int32) (z : Int32) (h : M_knowers σ a0 a1 = some z) : Met l yX4_knowers (ws_ yX4_knowers cX4_knowers 5 (some .int)) (kRm 0 0) (mPc G dT o ad σ [.int a0, .int a1]) (vp_Si (fun r => r = z)) 0 0 vp_nf := by
  refine m_startR (cc := cX4_knowers) (ty := .int) rfl rfl rfl (fun p e R s m args below meth c Q ls X hR hM hl hend => ?_)
  have hx := X.1.1
  have hb := X.1.2.1
  have hit := h
  clear h
  unfold M_knowers at hit
  have hl : lv_has ls 5 [(0, .ref o), (1, .int a0), (2, .int a1)] := hl
  refine lv_iconst (v := 0) hx hb dX4_knowers_0 (by decide) ?_
  refine lv_istore_n (lv' := [(3, .int 0), (0, .ref o), (1, .int a0), (2, .int a1)]) hx hb dX4_knowers_1 rfl hl (by decide) rfl (fun ls hl => ?_)
  refine lv_iconst (v := 0) hx hb dX4_knowers_2 (by decide) ?_
  refine lv_istore (lv' := [(4, .int 0), (3, .int 0), (0, .ref o), (1, .int a0), (2, .int a1)]) hx hb dX4_knowers_3 hl (by decide) rfl (fun ls hl => ?_)
  refine o_rec (P := fun t1 => ∀ (ls : Array Slot), lv_has ls 5 [(0, .ref o), (1, .int a0), (2, .int a1), (3, .int t1.1), (4, .int t1.2)] → W p l e R s m args below meth c s.heap [] 0 0 Q (F0 m 5 ls [])) (fun t1 x2 hit hC1 hE1 ls hl => ?_) _ hit _ (lv_sub hl [2, 3, 4, 1, 0] rfl)
  unfold M_knowers_L5 at hit
  refine lv_iload hx hb dX4_knowers_5 (lv_at hl 4 rfl) ?_
  refine lv_aload_n hx hb dX4_knowers_7 rfl (lv_at hl 0 rfl) ?_
  refine m_get X hM 2 q1646 rfl rfl (v := .int (mf σ 2)) rfl dX4_knowers_8 ?_
  refine b_icmp_ge (tgt := 42) hx hb dX4_knowers_11 (by decide) hit (fun c3 hit => ?_) (fun c3 hit => ?_)
  · refine lv_iload_n hx hb dX4_knowers_42 rfl (lv_at hl 3 rfl) ?_
    have he := o_in hit
    have he := hE1 _ he
    exact hend _ t1.1 _ _ rfl he dX4_knowers_43
  · refine lv_iload_n hx hb dX4_knowers_14 rfl (lv_at hl 3 rfl) ?_
    refine lv_aload_n hx hb dX4_knowers_15 rfl (lv_at hl 0 rfl) ?_
    refine m_get X hM 44 q1688 rfl rfl (v := .ref (ad 44)) rfl dX4_knowers_16 ?_
    refine lv_iload_n hx hb dX4_knowers_19 rfl (lv_at hl 1 rfl) ?_
    refine lv_bipush (v := 28) hx hb dX4_knowers_20 (by decide) ?_
    refine lv_iadd hx hb dX4_knowers_22 ?_
    refine lv_iload hx hb dX4_knowers_23 (lv_at hl 4 rfl) ?_
    refine lv_iadd hx hb dX4_knowers_25 ?_
    obtain ⟨v4, ev4, hit⟩ := o_bind hit
    refine m_iald X hM 15 44 rfl rfl ev4 dX4_knowers_26 ?_
    refine lv_iload_n hx hb dX4_knowers_27 rfl (lv_at hl 2 rfl) ?_
    refine lv_ishr hx hb dX4_knowers_28 ?_
    refine lv_iconst (v := 1) hx hb dX4_knowers_29 (by decide) ?_
    refine lv_iand hx hb dX4_knowers_30 ?_
    refine lv_iload hx hb dX4_knowers_31 (lv_at hl 4 rfl) ?_
    refine lv_ishl hx hb dX4_knowers_33 ?_
    refine lv_ior hx hb dX4_knowers_34 ?_
    refine lv_istore_n (lv' := [(3, .int (t1.1 ||| (((v4 >>> (a1 &&& 31)) &&& 1) <<< (t1.2 &&& 31)))), (0, .ref o), (1, .int a0), (2, .int a1), (4, .int t1.2)]) hx hb dX4_knowers_35 rfl hl (by decide) rfl (fun ls hl => ?_)
    refine lv_iinc (k := 4) (v := (t1.2 + 1)) (lv' := [(4, .int (t1.2 + 1)), (3, .int (t1.1 ||| (((v4 >>> (a1 &&& 31)) &&& 1) <<< (t1.2 &&& 31)))), (0, .ref o), (1, .int a0), (2, .int a1)]) hx hb dX4_knowers_36 hl rfl rfl (by decide) rfl (fun ls hl => ?_)
    refine lv_goto (tgt := 5) hx hb dX4_knowers_39 (by decide) ?_
    have he := o_in hit
    exact hC1 _ he _ (lv_sub hl [2, 3, 4, 1, 0] rfl)
noncomputable def M_showsWhere_L2 (σ : MS) (a0 : Int32) (t1 : Int32) : Option (Int32 ⊕ Int32) :=
  if t1 < 4 then
    ((M_showsIn σ 0 t1).bind fun q4 =>
    if ((q4 >>> (a0 &&& 31)) &&& 1) = 1 then
      (some (.inr t1))
    else
      (some (.inl (t1 + 1))))
  else
    (some (.inr (-1)))
noncomputable def M_showsWhere (σ : MS) (a0 : Int32) : Option (Int32) :=
  o_loop (M_showsWhere_L2 σ a0) 0
theorem nm_X4_showsWhere : kNm yX4_showsWhere RX4 1 := by unfold kNm; decide +kernel
set_option maxHeartbeats 4000000 in
set_option maxRecDepth 100000 in
theorem wM_showsWhere (l : Launch) (G : va_G) (dT : Nat → ClassId) (o : Nat) (ad : Nat → Nat) (σ : MS) (a0 : Int32) (z : Int32) (h : M_showsWhere σ a0 = some z) : Met l yX4_showsWhere (ws_ yX4_showsWhere cX4_showsWhere 3 (some .int)) (kRm 5 116) (mPc G dT o ad σ [.int a0]) (vp_Si (fun r => r = z)) 0 0 vp_nf := by
  refine m_startR (cc := cX4_showsWhere) (ty := .int) rfl rfl rfl (fun p e R s m args below meth c Q ls X hR hM hl hend => ?_)
  have hx := X.1.1
  have hb := X.1.2.1
  have hit := h
  clear h
  unfold M_showsWhere at hit
  have hl : lv_has ls 3 [(0, .ref o), (1, .int a0)] := hl
  refine lv_iconst (v := 0) hx hb dX4_showsWhere_0 (by decide) ?_
  refine lv_istore_n (lv' := [(2, .int 0), (0, .ref o), (1, .int a0)]) hx hb dX4_showsWhere_1 rfl hl (by decide) rfl (fun ls hl => ?_)
  refine o_rec (P := fun t1 => ∀ (ls : Array Slot), lv_has ls 3 [(0, .ref o), (1, .int a0), (2, .int t1)] → W p l e R s m args below meth c s.heap [] 0 0 Q (F0 m 2 ls [])) (fun t1 x2 hit hC1 hE1 ls hl => ?_) _ hit _ (lv_sub hl [1, 2, 0] rfl)
  unfold M_showsWhere_L2 at hit
  refine lv_iload_n hx hb dX4_showsWhere_2 rfl (lv_at hl 2 rfl) ?_
  refine lv_iconst (v := 4) hx hb dX4_showsWhere_3 (by decide) ?_
  refine b_icmp_ge (tgt := 29) hx hb dX4_showsWhere_4 (by decide) hit (fun c3 hit => ?_) (fun c3 hit => ?_)
  · refine lv_iconst (v := (-1)) hx hb dX4_showsWhere_29 (by decide) ?_
    have he := o_in hit
    have he := hE1 _ he
    exact hend _ (-1) _ _ rfl he dX4_showsWhere_30
  · refine lv_aload_n hx hb dX4_showsWhere_7 rfl (lv_at hl 0 rfl) ?_
    refine lv_iconst (v := 0) hx hb dX4_showsWhere_8 (by decide) ?_
    refine lv_iload_n hx hb dX4_showsWhere_9 rfl (lv_at hl 2 rfl) ?_
    obtain ⟨q4, eq4, hit⟩ := o_bind hit
    refine m_cR X hM (wM_showsIn l G dT o ad _ _ _ _ eq4) nm_X4_showsIn q2072 q2074 q141 q2075 qs101 ⟨Nat.le_trans (Nat.le_of_ble_eq_true rfl) hR.1, Nat.le_trans (Nat.le_of_ble_eq_true rfl) hR.2⟩ rfl rfl hl.1 (lv_room (Nat.le_of_ble_eq_true rfl)) dX4_showsWhere_10 ?_
    refine lv_iload_n hx hb dX4_showsWhere_13 rfl (lv_at hl 1 rfl) ?_
    refine lv_ishr hx hb dX4_showsWhere_14 ?_
    refine lv_iconst (v := 1) hx hb dX4_showsWhere_15 (by decide) ?_
    refine lv_iand hx hb dX4_showsWhere_16 ?_
    refine lv_iconst (v := 1) hx hb dX4_showsWhere_17 (by decide) ?_
    refine b_icmp_ne (tgt := 23) hx hb dX4_showsWhere_18 (by decide) hit (fun c5 hit => ?_) (fun c5 hit => ?_)
    · refine lv_iinc (k := 2) (v := (t1 + 1)) (lv' := [(2, .int (t1 + 1)), (0, .ref o), (1, .int a0)]) hx hb dX4_showsWhere_23 hl rfl rfl (by decide) rfl (fun ls hl => ?_)
      refine lv_goto (tgt := 2) hx hb dX4_showsWhere_26 (by decide) ?_
      have he := o_in hit
      exact hC1 _ he _ (lv_sub hl [1, 2, 0] rfl)
    · refine lv_iload_n hx hb dX4_showsWhere_21 rfl (lv_at hl 2 rfl) ?_
      have he := o_in hit
      have he := hE1 _ he
      exact hend _ t1 _ _ rfl he dX4_showsWhere_22
noncomputable def M_word (σ : MS) (a0 : Int32) (a1 : Int32) : Option (Int32 × MS) :=
  (pf σ 0 0).bind fun s1 =>
  (M_isWord s1 a0).bind fun q2 =>
  if q2.1 = 0 then
    (some (0, q2.2))
  else
    ((M_isWhat q2.2 a1 3).bind fun q4 =>
    if q4.1 = 0 then
      (some (0, q4.2))
    else
      (if a1 = 0 then
        ((ald q4.2 9 a0).bind fun v12 =>
        some (v12, q4.2))
      else
        (if a1 = 1 then
          ((ald q4.2 10 a0).bind fun v11 =>
          some (v11, q4.2))
        else
          (if a1 = 2 then
            ((M_showsWhere q4.2 a0).bind fun q10 =>
            some (q10, q4.2))
          else
            ((M_knowers q4.2 0 a0).bind fun q9 =>
            some (q9, q4.2))))))
theorem nm_X4_word : kNm yX4_word RX4 2 := by unfold kNm; decide +kernel
set_option maxHeartbeats 4000000 in
set_option maxRecDepth 100000 in
theorem wM_word (l : Launch) (G : va_G) (dT : Nat → ClassId) (o : Nat) (ad : Nat → Nat) (σ : MS) (a0 : Int32) (a1 : Int32) (z : Int32 × MS) (h : M_word σ a0 a1 = some z) : Met l yX4_word (ws_ yX4_word cX4_word 3 (some .int)) (kRm 6 138) (mPc G dT o ad σ [.int a0, .int a1]) (va_Qi (fun r (_ : Unit) => r = z.1) (fun _ t => MH G dT o ad z.2 t.heap) (mAd o ad)) 0 0 (mAd o ad) := by
  refine m_startNi (cc := cX4_word) (ty := .int) rfl rfl rfl (fun p e R s m args below meth c Q ls X hR hM hS hl hend => ?_)
  have hx := X.1.1
  have hb := X.1.2.1
  have hit := h
  clear h
  unfold M_word at hit
  have hl : lv_has ls 3 [(0, .ref o), (1, .int a0), (2, .int a1)] := hl
  refine lv_aload_n hx hb dX4_word_0 rfl (lv_at hl 0 rfl) ?_
  refine lv_iconst (v := 0) hx hb dX4_word_1 (by decide) ?_
  obtain ⟨s1, es1, hit⟩ := o_bind hit
  refine m_put X hM hS 0 q1644 rfl rfl (ty := .int) rfl rfl rfl es1 dX4_word_2 (fun H locs hM hS => ?_)
  refine lv_aload_n hx hb dX4_word_5 rfl (lv_at hl 0 rfl) ?_
  refine lv_iload_n hx hb dX4_word_6 rfl (lv_at hl 1 rfl) ?_
  obtain ⟨q2, eq2, hit⟩ := o_bind hit
  refine m_cNi X hM hS (wM_isWord l G dT o ad _ _ _ eq2) nm_X4_isWord q2064 q2066 q141 q2067 qs99 ⟨Nat.le_trans (Nat.le_of_ble_eq_true rfl) hR.1, Nat.le_trans (Nat.le_of_ble_eq_true rfl) hR.2⟩ rfl rfl hl.1 (lv_room (Nat.le_of_ble_eq_true rfl)) dX4_word_7 (fun H locs hM hS => ?_)
  refine b_if_eq (tgt := 22) hx hb dX4_word_10 (by decide) hit (fun c3 hit => ?_) (fun c3 hit => ?_)
  · refine lv_iconst (v := 0) hx hb dX4_word_22 (by decide) ?_
    have he := o_in hit
    exact hend _ 0 _ _ _ _ _ rfl he hM hS dX4_word_23
  · refine lv_aload_n hx hb dX4_word_13 rfl (lv_at hl 0 rfl) ?_
    refine lv_iload_n hx hb dX4_word_14 rfl (lv_at hl 2 rfl) ?_
    refine lv_iconst (v := 3) hx hb dX4_word_15 (by decide) ?_
    obtain ⟨q4, eq4, hit⟩ := o_bind hit
    refine m_cNi X hM hS (wM_isWhat l G dT o ad _ _ _ _ eq4) nm_X4_isWhat q2032 q2034 q141 q2035 qs93 ⟨Nat.le_trans (Nat.le_of_ble_eq_true rfl) hR.1, Nat.le_trans (Nat.le_of_ble_eq_true rfl) hR.2⟩ rfl rfl hl.1 (lv_room (Nat.le_of_ble_eq_true rfl)) dX4_word_16 (fun H locs hM hS => ?_)
    refine b_if_ne (tgt := 24) hx hb dX4_word_19 (by decide) hit (fun c5 hit => ?_) (fun c5 hit => ?_)
    · refine lv_iload_n hx hb dX4_word_24 rfl (lv_at hl 2 rfl) ?_
      refine b_if_ne (tgt := 37) hx hb dX4_word_25 (by decide) hit (fun c6 hit => ?_) (fun c6 hit => ?_)
      · refine lv_iload_n hx hb dX4_word_37 rfl (lv_at hl 2 rfl) ?_
        refine lv_iconst (v := 1) hx hb dX4_word_38 (by decide) ?_
        refine b_icmp_ne (tgt := 51) hx hb dX4_word_39 (by decide) hit (fun c7 hit => ?_) (fun c7 hit => ?_)
        · refine lv_iload_n hx hb dX4_word_51 rfl (lv_at hl 2 rfl) ?_
          refine lv_iconst (v := 2) hx hb dX4_word_52 (by decide) ?_
          refine b_icmp_ne (tgt := 64) hx hb dX4_word_53 (by decide) hit (fun c8 hit => ?_) (fun c8 hit => ?_)
          · refine lv_aload_n hx hb dX4_word_64 rfl (lv_at hl 0 rfl) ?_
            refine lv_iconst (v := 0) hx hb dX4_word_65 (by decide) ?_
            refine lv_iload_n hx hb dX4_word_66 rfl (lv_at hl 1 rfl) ?_
            obtain ⟨q9, eq9, hit⟩ := o_bind hit
            refine m_cR X hM (wM_knowers l G dT o ad _ _ _ _ eq9) nm_X4_knowers q2080 q2082 q141 q2083 qs103 ⟨Nat.le_trans (Nat.le_of_ble_eq_true rfl) hR.1, Nat.le_trans (Nat.le_of_ble_eq_true rfl) hR.2⟩ rfl rfl hl.1 (lv_room (Nat.le_of_ble_eq_true rfl)) dX4_word_67 ?_
            have he := o_in hit
            exact hend _ q9 _ _ _ _ _ rfl he hM hS dX4_word_70
          · refine lv_aload_n hx hb dX4_word_56 rfl (lv_at hl 0 rfl) ?_
            refine lv_iload_n hx hb dX4_word_57 rfl (lv_at hl 1 rfl) ?_
            obtain ⟨q10, eq10, hit⟩ := o_bind hit
            refine m_cR X hM (wM_showsWhere l G dT o ad _ _ _ eq10) nm_X4_showsWhere q2068 q2070 q141 q2071 qs100 ⟨Nat.le_trans (Nat.le_of_ble_eq_true rfl) hR.1, Nat.le_trans (Nat.le_of_ble_eq_true rfl) hR.2⟩ rfl rfl hl.1 (lv_room (Nat.le_of_ble_eq_true rfl)) dX4_word_58 ?_
            refine lv_goto (tgt := 70) hx hb dX4_word_61 (by decide) ?_
            have he := o_in hit
            exact hend _ q10 _ _ _ _ _ rfl he hM hS dX4_word_70
        · refine lv_aload_n hx hb dX4_word_42 rfl (lv_at hl 0 rfl) ?_
          refine m_get X hM 10 q1654 rfl rfl (v := .ref (ad 10)) rfl dX4_word_43 ?_
          refine lv_iload_n hx hb dX4_word_46 rfl (lv_at hl 1 rfl) ?_
          obtain ⟨v11, ev11, hit⟩ := o_bind hit
          refine m_iald X hM 3 10 rfl rfl ev11 dX4_word_47 ?_
          refine lv_goto (tgt := 70) hx hb dX4_word_48 (by decide) ?_
          have he := o_in hit
          exact hend _ v11 _ _ _ _ _ rfl he hM hS dX4_word_70
      · refine lv_aload_n hx hb dX4_word_28 rfl (lv_at hl 0 rfl) ?_
        refine m_get X hM 9 q1653 rfl rfl (v := .ref (ad 9)) rfl dX4_word_29 ?_
        refine lv_iload_n hx hb dX4_word_32 rfl (lv_at hl 1 rfl) ?_
        obtain ⟨v12, ev12, hit⟩ := o_bind hit
        refine m_iald X hM 2 9 rfl rfl ev12 dX4_word_33 ?_
        refine lv_goto (tgt := 70) hx hb dX4_word_34 (by decide) ?_
        have he := o_in hit
        exact hend _ v12 _ _ _ _ _ rfl he hM hS dX4_word_70
    · refine lv_iconst (v := 0) hx hb dX4_word_22 (by decide) ?_
      have he := o_in hit
      exact hend _ 0 _ _ _ _ _ rfl he hM hS dX4_word_23
noncomputable def M_archive_L4 (σ : MS) (a0 : Int32) (t1 : Int32 × Int32) : Option ((Int32 × Int32) ⊕ Int32) :=
  if t1.2 < (mf σ 1) then
    ((ald σ 44 (19 + t1.2)).bind fun v4 =>
    ((if v4 = a0 then
        (some ((1 : Int32) <<< (t1.2 &&& 31)))
      else
        (some 0) : Option Int32)).bind fun r5 =>
    some (.inl ((t1.1 ||| r5), (t1.2 + 1))))
  else
    (some (.inr t1.1))
noncomputable def M_archive (σ : MS) (a0 : Int32) : Option (Int32) :=
  o_loop (M_archive_L4 σ a0) (0, 0)
theorem nm_X4_archive : kNm yX4_archive RX4 1 := by unfold kNm; decide +kernel
set_option maxHeartbeats 4000000 in
set_option maxRecDepth 100000 in
theorem wM_archive (l : Launch) (G : va_G) (dT : Nat → ClassId) (o : Nat) (ad : Nat → Nat) (σ : MS) (a0 : Int32) (z : Int32) (h : M_archive σ a0 = some z) : Met l yX4_archive (ws_ yX4_archive cX4_archive 4 (some .int)) (kRm 0 0) (mPc G dT o ad σ [.int a0]) (vp_Si (fun r => r = z)) 0 0 vp_nf := by
  refine m_startR (cc := cX4_archive) (ty := .int) rfl rfl rfl (fun p e R s m args below meth c Q ls X hR hM hl hend => ?_)
  have hx := X.1.1
  have hb := X.1.2.1
  have hit := h
  clear h
  unfold M_archive at hit
  have hl : lv_has ls 4 [(0, .ref o), (1, .int a0)] := hl
  refine lv_iconst (v := 0) hx hb dX4_archive_0 (by decide) ?_
  refine lv_istore_n (lv' := [(2, .int 0), (0, .ref o), (1, .int a0)]) hx hb dX4_archive_1 rfl hl (by decide) rfl (fun ls hl => ?_)
  refine lv_iconst (v := 0) hx hb dX4_archive_2 (by decide) ?_
  refine lv_istore_n (lv' := [(3, .int 0), (2, .int 0), (0, .ref o), (1, .int a0)]) hx hb dX4_archive_3 rfl hl (by decide) rfl (fun ls hl => ?_)
  refine o_rec (P := fun t1 => ∀ (ls : Array Slot), lv_has ls 4 [(0, .ref o), (1, .int a0), (2, .int t1.1), (3, .int t1.2)] → W p l e R s m args below meth c s.heap [] 0 0 Q (F0 m 4 ls [])) (fun t1 x2 hit hC1 hE1 ls hl => ?_) _ hit _ (lv_sub hl [2, 3, 1, 0] rfl)
  unfold M_archive_L4 at hit
  refine lv_iload_n hx hb dX4_archive_4 rfl (lv_at hl 3 rfl) ?_
  refine lv_aload_n hx hb dX4_archive_5 rfl (lv_at hl 0 rfl) ?_
  refine m_get X hM 1 q1645 rfl rfl (v := .int (mf σ 1)) rfl dX4_archive_6 ?_
  refine b_icmp_ge (tgt := 41) hx hb dX4_archive_9 (by decide) hit (fun c3 hit => ?_) (fun c3 hit => ?_)
  · refine lv_iload_n hx hb dX4_archive_41 rfl (lv_at hl 2 rfl) ?_
    have he := o_in hit
    have he := hE1 _ he
    exact hend _ t1.1 _ _ rfl he dX4_archive_42
  · refine lv_iload_n hx hb dX4_archive_12 rfl (lv_at hl 2 rfl) ?_
    refine lv_aload_n hx hb dX4_archive_13 rfl (lv_at hl 0 rfl) ?_
    refine m_get X hM 44 q1688 rfl rfl (v := .ref (ad 44)) rfl dX4_archive_14 ?_
    refine lv_bipush (v := 19) hx hb dX4_archive_17 (by decide) ?_
    refine lv_iload_n hx hb dX4_archive_19 rfl (lv_at hl 3 rfl) ?_
    refine lv_iadd hx hb dX4_archive_20 ?_
    obtain ⟨v4, ev4, hit⟩ := o_bind hit
    refine m_iald X hM 15 44 rfl rfl ev4 dX4_archive_21 ?_
    refine lv_iload_n hx hb dX4_archive_22 rfl (lv_at hl 1 rfl) ?_
    obtain ⟨r5, er5, hit⟩ := o_bind hit
    have hr5 : ∀ (ls : Array Slot), lv_has ls 4 [(0, .ref o), (1, .int a0), (3, .int t1.2)] → W p l e R s m args below meth c s.heap [] 0 0 Q (F0 m 33 ls [.int r5, .int t1.1]) := by
      intro ls hl
      refine lv_ior hx hb dX4_archive_33 ?_
      refine lv_istore_n (lv' := [(2, .int (t1.1 ||| r5)), (0, .ref o), (1, .int a0), (3, .int t1.2)]) hx hb dX4_archive_34 rfl hl (by decide) rfl (fun ls hl => ?_)
      refine lv_iinc (k := 3) (v := (t1.2 + 1)) (lv' := [(3, .int (t1.2 + 1)), (2, .int (t1.1 ||| r5)), (0, .ref o), (1, .int a0)]) hx hb dX4_archive_35 hl rfl rfl (by decide) rfl (fun ls hl => ?_)
      refine lv_goto (tgt := 4) hx hb dX4_archive_38 (by decide) ?_
      have he := o_in hit
      exact hC1 _ he _ (lv_sub hl [2, 3, 1, 0] rfl)
    have hit := er5
    refine b_icmp_ne (tgt := 32) hx hb dX4_archive_23 (by decide) hit (fun c6 hit => ?_) (fun c6 hit => ?_)
    · refine lv_iconst (v := 0) hx hb dX4_archive_32 (by decide) ?_
      have he := o_in hit
      subst he
      exact hr5 _ (lv_sub hl [0, 1, 3] rfl)
    · refine lv_iconst (v := 1) hx hb dX4_archive_26 (by decide) ?_
      refine lv_iload_n hx hb dX4_archive_27 rfl (lv_at hl 3 rfl) ?_
      refine lv_ishl hx hb dX4_archive_28 ?_
      refine lv_goto (tgt := 33) hx hb dX4_archive_29 (by decide) ?_
      have he := o_in hit
      subst he
      exact hr5 _ (lv_sub hl [0, 1, 3] rfl)
noncomputable def M_isWhole (σ : MS) (a0 : Int32) : Option (Int32) :=
  (ald σ 9 a0).bind fun v1 =>
  (M_isBurnt σ 0 v1).bind fun q2 =>
  if q2 = 0 then
    ((ald σ 10 a0).bind fun v4 =>
    (M_isBurnt σ 0 v4).bind fun q5 =>
    if q5 = 0 then
      (some 1)
    else
      (some 0))
  else
    (some 0)
theorem nm_X4_isWhole : kNm yX4_isWhole RX4 1 := by unfold kNm; decide +kernel
set_option maxHeartbeats 4000000 in
set_option maxRecDepth 100000 in
theorem wM_isWhole (l : Launch) (G : va_G) (dT : Nat → ClassId) (o : Nat) (ad : Nat → Nat) (σ : MS) (a0 : Int32) (z : Int32) (h : M_isWhole σ a0 = some z) : Met l yX4_isWhole (ws_ yX4_isWhole cX4_isWhole 2 (some .boolean)) (kRm 1 22) (mPc G dT o ad σ [.int a0]) (vp_Si (fun r => r = z)) 0 0 vp_nf := by
  refine m_startR (cc := cX4_isWhole) (ty := .boolean) rfl rfl rfl (fun p e R s m args below meth c Q ls X hR hM hl hend => ?_)
  have hx := X.1.1
  have hb := X.1.2.1
  have hit := h
  clear h
  unfold M_isWhole at hit
  have hl : lv_has ls 2 [(0, .ref o), (1, .int a0)] := hl
  refine lv_aload_n hx hb dX4_isWhole_0 rfl (lv_at hl 0 rfl) ?_
  refine lv_iconst (v := 0) hx hb dX4_isWhole_1 (by decide) ?_
  refine lv_aload_n hx hb dX4_isWhole_2 rfl (lv_at hl 0 rfl) ?_
  refine m_get X hM 9 q1653 rfl rfl (v := .ref (ad 9)) rfl dX4_isWhole_3 ?_
  refine lv_iload_n hx hb dX4_isWhole_6 rfl (lv_at hl 1 rfl) ?_
  obtain ⟨v1, ev1, hit⟩ := o_bind hit
  refine m_iald X hM 2 9 rfl rfl ev1 dX4_isWhole_7 ?_
  obtain ⟨q2, eq2, hit⟩ := o_bind hit
  refine m_cR X hM (wM_isBurnt l G dT o ad _ _ _ _ eq2) nm_X4_isBurnt q1990 q1992 q141 q1993 qs85 ⟨Nat.le_trans (Nat.le_of_ble_eq_true rfl) hR.1, Nat.le_trans (Nat.le_of_ble_eq_true rfl) hR.2⟩ rfl rfl hl.1 (lv_room (Nat.le_of_ble_eq_true rfl)) dX4_isWhole_8 ?_
  refine b_if_ne (tgt := 32) hx hb dX4_isWhole_11 (by decide) hit (fun c3 hit => ?_) (fun c3 hit => ?_)
  · refine lv_iconst (v := 0) hx hb dX4_isWhole_32 (by decide) ?_
    have he := o_in hit
    exact hend _ 0 _ _ rfl he dX4_isWhole_33
  · refine lv_aload_n hx hb dX4_isWhole_14 rfl (lv_at hl 0 rfl) ?_
    refine lv_iconst (v := 0) hx hb dX4_isWhole_15 (by decide) ?_
    refine lv_aload_n hx hb dX4_isWhole_16 rfl (lv_at hl 0 rfl) ?_
    refine m_get X hM 10 q1654 rfl rfl (v := .ref (ad 10)) rfl dX4_isWhole_17 ?_
    refine lv_iload_n hx hb dX4_isWhole_20 rfl (lv_at hl 1 rfl) ?_
    obtain ⟨v4, ev4, hit⟩ := o_bind hit
    refine m_iald X hM 3 10 rfl rfl ev4 dX4_isWhole_21 ?_
    obtain ⟨q5, eq5, hit⟩ := o_bind hit
    refine m_cR X hM (wM_isBurnt l G dT o ad _ _ _ _ eq5) nm_X4_isBurnt q1990 q1992 q141 q1993 qs85 ⟨Nat.le_trans (Nat.le_of_ble_eq_true rfl) hR.1, Nat.le_trans (Nat.le_of_ble_eq_true rfl) hR.2⟩ rfl rfl hl.1 (lv_room (Nat.le_of_ble_eq_true rfl)) dX4_isWhole_22 ?_
    refine b_if_ne (tgt := 32) hx hb dX4_isWhole_25 (by decide) hit (fun c6 hit => ?_) (fun c6 hit => ?_)
    · refine lv_iconst (v := 0) hx hb dX4_isWhole_32 (by decide) ?_
      have he := o_in hit
      exact hend _ 0 _ _ rfl he dX4_isWhole_33
    · refine lv_iconst (v := 1) hx hb dX4_isWhole_28 (by decide) ?_
      refine lv_goto (tgt := 33) hx hb dX4_isWhole_29 (by decide) ?_
      have he := o_in hit
      exact hend _ 1 _ _ rfl he dX4_isWhole_33
noncomputable def M_lostBy_L4 (σ : MS) (a0 : Int32) (t1 : Int32 × Int32) : Option ((Int32 × Int32) ⊕ Int32) :=
  if t1.2 < (mf σ 3) then
    ((M_isWhole σ t1.2).bind fun q4 =>
    ((if q4 = 0 then
        (some 0)
      else
        ((ald σ 9 t1.2).bind fun v7 =>
        (ald σ 10 t1.2).bind fun v8 =>
        if (((a0 >>> (v7 &&& 31)) ||| (a0 >>> (v8 &&& 31))) &&& 1) = 1 then
          (some ((1 : Int32) <<< (t1.2 &&& 31)))
        else
          (some 0)) : Option Int32)).bind fun r5 =>
    some (.inl ((t1.1 ||| r5), (t1.2 + 1))))
  else
    (some (.inr t1.1))
noncomputable def M_lostBy (σ : MS) (a0 : Int32) : Option (Int32) :=
  o_loop (M_lostBy_L4 σ a0) (0, 0)
theorem nm_X4_lostBy : kNm yX4_lostBy RX4 1 := by unfold kNm; decide +kernel
set_option maxHeartbeats 4000000 in
set_option maxRecDepth 100000 in
theorem wM_lostBy (l : Launch) (G : va_G) (dT : Nat → ClassId) (o : Nat) (ad : Nat → Nat) (σ : MS) (a0 : Int32) (z : Int32) (h : M_lostBy σ a0 = some z) : Met l yX4_lostBy (ws_ yX4_lostBy cX4_lostBy 4 (some .int)) (kRm 2 43) (mPc G dT o ad σ [.int a0]) (vp_Si (fun r => r = z)) 0 0 vp_nf := by
  refine m_startR (cc := cX4_lostBy) (ty := .int) rfl rfl rfl (fun p e R s m args below meth c Q ls X hR hM hl hend => ?_)
  have hx := X.1.1
  have hb := X.1.2.1
  have hit := h
  clear h
  unfold M_lostBy at hit
  have hl : lv_has ls 4 [(0, .ref o), (1, .int a0)] := hl
  refine lv_iconst (v := 0) hx hb dX4_lostBy_0 (by decide) ?_
  refine lv_istore_n (lv' := [(2, .int 0), (0, .ref o), (1, .int a0)]) hx hb dX4_lostBy_1 rfl hl (by decide) rfl (fun ls hl => ?_)
  refine lv_iconst (v := 0) hx hb dX4_lostBy_2 (by decide) ?_
  refine lv_istore_n (lv' := [(3, .int 0), (2, .int 0), (0, .ref o), (1, .int a0)]) hx hb dX4_lostBy_3 rfl hl (by decide) rfl (fun ls hl => ?_)
  refine o_rec (P := fun t1 => ∀ (ls : Array Slot), lv_has ls 4 [(0, .ref o), (1, .int a0), (2, .int t1.1), (3, .int t1.2)] → W p l e R s m args below meth c s.heap [] 0 0 Q (F0 m 4 ls [])) (fun t1 x2 hit hC1 hE1 ls hl => ?_) _ hit _ (lv_sub hl [2, 3, 1, 0] rfl)
  unfold M_lostBy_L4 at hit
  refine lv_iload_n hx hb dX4_lostBy_4 rfl (lv_at hl 3 rfl) ?_
  refine lv_aload_n hx hb dX4_lostBy_5 rfl (lv_at hl 0 rfl) ?_
  refine m_get X hM 3 q1647 rfl rfl (v := .int (mf σ 3)) rfl dX4_lostBy_6 ?_
  refine b_icmp_ge (tgt := 59) hx hb dX4_lostBy_9 (by decide) hit (fun c3 hit => ?_) (fun c3 hit => ?_)
  · refine lv_iload_n hx hb dX4_lostBy_59 rfl (lv_at hl 2 rfl) ?_
    have he := o_in hit
    have he := hE1 _ he
    exact hend _ t1.1 _ _ rfl he dX4_lostBy_60
  · refine lv_iload_n hx hb dX4_lostBy_12 rfl (lv_at hl 2 rfl) ?_
    refine lv_aload_n hx hb dX4_lostBy_13 rfl (lv_at hl 0 rfl) ?_
    refine lv_iload_n hx hb dX4_lostBy_14 rfl (lv_at hl 3 rfl) ?_
    obtain ⟨q4, eq4, hit⟩ := o_bind hit
    refine m_cR X hM (wM_isWhole l G dT o ad _ _ _ eq4) nm_X4_isWhole q2104 q2106 q141 q2107 qs108 ⟨Nat.le_trans (Nat.le_of_ble_eq_true rfl) hR.1, Nat.le_trans (Nat.le_of_ble_eq_true rfl) hR.2⟩ rfl rfl hl.1 (lv_room (Nat.le_of_ble_eq_true rfl)) dX4_lostBy_15 ?_
    obtain ⟨r5, er5, hit⟩ := o_bind hit
    have hr5 : ∀ (ls : Array Slot), lv_has ls 4 [(0, .ref o), (1, .int a0), (3, .int t1.2)] → W p l e R s m args below meth c s.heap [] 0 0 Q (F0 m 51 ls [.int r5, .int t1.1]) := by
      intro ls hl
      refine lv_ior hx hb dX4_lostBy_51 ?_
      refine lv_istore_n (lv' := [(2, .int (t1.1 ||| r5)), (0, .ref o), (1, .int a0), (3, .int t1.2)]) hx hb dX4_lostBy_52 rfl hl (by decide) rfl (fun ls hl => ?_)
      refine lv_iinc (k := 3) (v := (t1.2 + 1)) (lv' := [(3, .int (t1.2 + 1)), (2, .int (t1.1 ||| r5)), (0, .ref o), (1, .int a0)]) hx hb dX4_lostBy_53 hl rfl rfl (by decide) rfl (fun ls hl => ?_)
      refine lv_goto (tgt := 4) hx hb dX4_lostBy_56 (by decide) ?_
      have he := o_in hit
      exact hC1 _ he _ (lv_sub hl [2, 3, 1, 0] rfl)
    have hit := er5
    refine b_if_eq (tgt := 50) hx hb dX4_lostBy_18 (by decide) hit (fun c6 hit => ?_) (fun c6 hit => ?_)
    · refine lv_iconst (v := 0) hx hb dX4_lostBy_50 (by decide) ?_
      have he := o_in hit
      subst he
      exact hr5 _ (lv_sub hl [0, 1, 3] rfl)
    · refine lv_iload_n hx hb dX4_lostBy_21 rfl (lv_at hl 1 rfl) ?_
      refine lv_aload_n hx hb dX4_lostBy_22 rfl (lv_at hl 0 rfl) ?_
      refine m_get X hM 9 q1653 rfl rfl (v := .ref (ad 9)) rfl dX4_lostBy_23 ?_
      refine lv_iload_n hx hb dX4_lostBy_26 rfl (lv_at hl 3 rfl) ?_
      obtain ⟨v7, ev7, hit⟩ := o_bind hit
      refine m_iald X hM 2 9 rfl rfl ev7 dX4_lostBy_27 ?_
      refine lv_ishr hx hb dX4_lostBy_28 ?_
      refine lv_iload_n hx hb dX4_lostBy_29 rfl (lv_at hl 1 rfl) ?_
      refine lv_aload_n hx hb dX4_lostBy_30 rfl (lv_at hl 0 rfl) ?_
      refine m_get X hM 10 q1654 rfl rfl (v := .ref (ad 10)) rfl dX4_lostBy_31 ?_
      refine lv_iload_n hx hb dX4_lostBy_34 rfl (lv_at hl 3 rfl) ?_
      obtain ⟨v8, ev8, hit⟩ := o_bind hit
      refine m_iald X hM 3 10 rfl rfl ev8 dX4_lostBy_35 ?_
      refine lv_ishr hx hb dX4_lostBy_36 ?_
      refine lv_ior hx hb dX4_lostBy_37 ?_
      refine lv_iconst (v := 1) hx hb dX4_lostBy_38 (by decide) ?_
      refine lv_iand hx hb dX4_lostBy_39 ?_
      refine lv_iconst (v := 1) hx hb dX4_lostBy_40 (by decide) ?_
      refine b_icmp_ne (tgt := 50) hx hb dX4_lostBy_41 (by decide) hit (fun c9 hit => ?_) (fun c9 hit => ?_)
      · refine lv_iconst (v := 0) hx hb dX4_lostBy_50 (by decide) ?_
        have he := o_in hit
        subst he
        exact hr5 _ (lv_sub hl [0, 1, 3] rfl)
      · refine lv_iconst (v := 1) hx hb dX4_lostBy_44 (by decide) ?_
        refine lv_iload_n hx hb dX4_lostBy_45 rfl (lv_at hl 3 rfl) ?_
        refine lv_ishl hx hb dX4_lostBy_46 ?_
        refine lv_goto (tgt := 51) hx hb dX4_lostBy_47 (by decide) ?_
        have he := o_in hit
        subst he
        exact hr5 _ (lv_sub hl [0, 1, 3] rfl)
noncomputable def M_town (σ : MS) (a0 : Int32) (a1 : Int32) : Option (Int32 × MS) :=
  (pf σ 0 0).bind fun s1 =>
  (M_isTown s1 a0).bind fun q2 =>
  if q2.1 = 0 then
    (some (0, q2.2))
  else
    ((M_isWhat q2.2 a1 4).bind fun q4 =>
    if q4.1 = 0 then
      (some (0, q4.2))
    else
      (if a1 = 0 then
        ((M_archive q4.2 a0).bind fun q15 =>
        some (q15, q4.2))
      else
        (if a1 = 1 then
          ((M_sheetsAt q4.2 0 a0).bind fun q14 =>
          some (q14, q4.2))
        else
          (if a1 = 2 then
            ((M_clerksAt q4.2 0 a0).bind fun q13 =>
            some (q13, q4.2))
          else
            (if a1 = 3 then
              ((M_showsIn q4.2 0 a0).bind fun q12 =>
              some (q12, q4.2))
            else
              ((M_archive q4.2 a0).bind fun q10 =>
              (M_lostBy q4.2 q10).bind fun q11 =>
              some (q11, q4.2)))))))
theorem nm_X4_town : kNm yX4_town RX4 2 := by unfold kNm; decide +kernel
set_option maxHeartbeats 4000000 in
set_option maxRecDepth 100000 in
theorem wM_town (l : Launch) (G : va_G) (dT : Nat → ClassId) (o : Nat) (ad : Nat → Nat) (σ : MS) (a0 : Int32) (a1 : Int32) (z : Int32 × MS) (h : M_town σ a0 a1 = some z) : Met l yX4_town (ws_ yX4_town cX4_town 3 (some .int)) (kRm 5 116) (mPc G dT o ad σ [.int a0, .int a1]) (va_Qi (fun r (_ : Unit) => r = z.1) (fun _ t => MH G dT o ad z.2 t.heap) (mAd o ad)) 0 0 (mAd o ad) := by
  refine m_startNi (cc := cX4_town) (ty := .int) rfl rfl rfl (fun p e R s m args below meth c Q ls X hR hM hS hl hend => ?_)
  have hx := X.1.1
  have hb := X.1.2.1
  have hit := h
  clear h
  unfold M_town at hit
  have hl : lv_has ls 3 [(0, .ref o), (1, .int a0), (2, .int a1)] := hl
  refine lv_aload_n hx hb dX4_town_0 rfl (lv_at hl 0 rfl) ?_
  refine lv_iconst (v := 0) hx hb dX4_town_1 (by decide) ?_
  obtain ⟨s1, es1, hit⟩ := o_bind hit
  refine m_put X hM hS 0 q1644 rfl rfl (ty := .int) rfl rfl rfl es1 dX4_town_2 (fun H locs hM hS => ?_)
  refine lv_aload_n hx hb dX4_town_5 rfl (lv_at hl 0 rfl) ?_
  refine lv_iload_n hx hb dX4_town_6 rfl (lv_at hl 1 rfl) ?_
  obtain ⟨q2, eq2, hit⟩ := o_bind hit
  refine m_cNi X hM hS (wM_isTown l G dT o ad _ _ _ eq2) nm_X4_isTown q2088 q2090 q141 q2091 qs104 ⟨Nat.le_trans (Nat.le_of_ble_eq_true rfl) hR.1, Nat.le_trans (Nat.le_of_ble_eq_true rfl) hR.2⟩ rfl rfl hl.1 (lv_room (Nat.le_of_ble_eq_true rfl)) dX4_town_7 (fun H locs hM hS => ?_)
  refine b_if_eq (tgt := 22) hx hb dX4_town_10 (by decide) hit (fun c3 hit => ?_) (fun c3 hit => ?_)
  · refine lv_iconst (v := 0) hx hb dX4_town_22 (by decide) ?_
    have he := o_in hit
    exact hend _ 0 _ _ _ _ _ rfl he hM hS dX4_town_23
  · refine lv_aload_n hx hb dX4_town_13 rfl (lv_at hl 0 rfl) ?_
    refine lv_iload_n hx hb dX4_town_14 rfl (lv_at hl 2 rfl) ?_
    refine lv_iconst (v := 4) hx hb dX4_town_15 (by decide) ?_
    obtain ⟨q4, eq4, hit⟩ := o_bind hit
    refine m_cNi X hM hS (wM_isWhat l G dT o ad _ _ _ _ eq4) nm_X4_isWhat q2032 q2034 q141 q2035 qs93 ⟨Nat.le_trans (Nat.le_of_ble_eq_true rfl) hR.1, Nat.le_trans (Nat.le_of_ble_eq_true rfl) hR.2⟩ rfl rfl hl.1 (lv_room (Nat.le_of_ble_eq_true rfl)) dX4_town_16 (fun H locs hM hS => ?_)
    refine b_if_ne (tgt := 24) hx hb dX4_town_19 (by decide) hit (fun c5 hit => ?_) (fun c5 hit => ?_)
    · refine lv_iload_n hx hb dX4_town_24 rfl (lv_at hl 2 rfl) ?_
      refine b_if_ne (tgt := 36) hx hb dX4_town_25 (by decide) hit (fun c6 hit => ?_) (fun c6 hit => ?_)
      · refine lv_iload_n hx hb dX4_town_36 rfl (lv_at hl 2 rfl) ?_
        refine lv_iconst (v := 1) hx hb dX4_town_37 (by decide) ?_
        refine b_icmp_ne (tgt := 50) hx hb dX4_town_38 (by decide) hit (fun c7 hit => ?_) (fun c7 hit => ?_)
        · refine lv_iload_n hx hb dX4_town_50 rfl (lv_at hl 2 rfl) ?_
          refine lv_iconst (v := 2) hx hb dX4_town_51 (by decide) ?_
          refine b_icmp_ne (tgt := 64) hx hb dX4_town_52 (by decide) hit (fun c8 hit => ?_) (fun c8 hit => ?_)
          · refine lv_iload_n hx hb dX4_town_64 rfl (lv_at hl 2 rfl) ?_
            refine lv_iconst (v := 3) hx hb dX4_town_65 (by decide) ?_
            refine b_icmp_ne (tgt := 78) hx hb dX4_town_66 (by decide) hit (fun c9 hit => ?_) (fun c9 hit => ?_)
            · refine lv_aload_n hx hb dX4_town_78 rfl (lv_at hl 0 rfl) ?_
              refine lv_aload_n hx hb dX4_town_79 rfl (lv_at hl 0 rfl) ?_
              refine lv_iload_n hx hb dX4_town_80 rfl (lv_at hl 1 rfl) ?_
              obtain ⟨q10, eq10, hit⟩ := o_bind hit
              refine m_cR X hM (wM_archive l G dT o ad _ _ _ eq10) nm_X4_archive q2092 q2094 q141 q2095 qs105 ⟨Nat.le_trans (Nat.le_of_ble_eq_true rfl) hR.1, Nat.le_trans (Nat.le_of_ble_eq_true rfl) hR.2⟩ rfl rfl hl.1 (lv_room (Nat.le_of_ble_eq_true rfl)) dX4_town_81 ?_
              obtain ⟨q11, eq11, hit⟩ := o_bind hit
              refine m_cR X hM (wM_lostBy l G dT o ad _ _ _ eq11) nm_X4_lostBy q2100 q2102 q141 q2103 qs107 ⟨Nat.le_trans (Nat.le_of_ble_eq_true rfl) hR.1, Nat.le_trans (Nat.le_of_ble_eq_true rfl) hR.2⟩ rfl rfl hl.1 (lv_room (Nat.le_of_ble_eq_true rfl)) dX4_town_84 ?_
              have he := o_in hit
              exact hend _ q11 _ _ _ _ _ rfl he hM hS dX4_town_87
            · refine lv_aload_n hx hb dX4_town_69 rfl (lv_at hl 0 rfl) ?_
              refine lv_iconst (v := 0) hx hb dX4_town_70 (by decide) ?_
              refine lv_iload_n hx hb dX4_town_71 rfl (lv_at hl 1 rfl) ?_
              obtain ⟨q12, eq12, hit⟩ := o_bind hit
              refine m_cR X hM (wM_showsIn l G dT o ad _ _ _ _ eq12) nm_X4_showsIn q2072 q2074 q141 q2075 qs101 ⟨Nat.le_trans (Nat.le_of_ble_eq_true rfl) hR.1, Nat.le_trans (Nat.le_of_ble_eq_true rfl) hR.2⟩ rfl rfl hl.1 (lv_room (Nat.le_of_ble_eq_true rfl)) dX4_town_72 ?_
              refine lv_goto (tgt := 87) hx hb dX4_town_75 (by decide) ?_
              have he := o_in hit
              exact hend _ q12 _ _ _ _ _ rfl he hM hS dX4_town_87
          · refine lv_aload_n hx hb dX4_town_55 rfl (lv_at hl 0 rfl) ?_
            refine lv_iconst (v := 0) hx hb dX4_town_56 (by decide) ?_
            refine lv_iload_n hx hb dX4_town_57 rfl (lv_at hl 1 rfl) ?_
            obtain ⟨q13, eq13, hit⟩ := o_bind hit
            refine m_cR X hM (wM_clerksAt l G dT o ad _ _ _ _ eq13) nm_X4_clerksAt q2096 q2098 q141 q2099 qs106 ⟨Nat.le_trans (Nat.le_of_ble_eq_true rfl) hR.1, Nat.le_trans (Nat.le_of_ble_eq_true rfl) hR.2⟩ rfl rfl hl.1 (lv_room (Nat.le_of_ble_eq_true rfl)) dX4_town_58 ?_
            refine lv_goto (tgt := 87) hx hb dX4_town_61 (by decide) ?_
            have he := o_in hit
            exact hend _ q13 _ _ _ _ _ rfl he hM hS dX4_town_87
        · refine lv_aload_n hx hb dX4_town_41 rfl (lv_at hl 0 rfl) ?_
          refine lv_iconst (v := 0) hx hb dX4_town_42 (by decide) ?_
          refine lv_iload_n hx hb dX4_town_43 rfl (lv_at hl 1 rfl) ?_
          obtain ⟨q14, eq14, hit⟩ := o_bind hit
          refine m_cR X hM (wM_sheetsAt l G dT o ad _ _ _ _ eq14) nm_X4_sheetsAt q2076 q2078 q141 q2079 qs102 ⟨Nat.le_trans (Nat.le_of_ble_eq_true rfl) hR.1, Nat.le_trans (Nat.le_of_ble_eq_true rfl) hR.2⟩ rfl rfl hl.1 (lv_room (Nat.le_of_ble_eq_true rfl)) dX4_town_44 ?_
          refine lv_goto (tgt := 87) hx hb dX4_town_47 (by decide) ?_
          have he := o_in hit
          exact hend _ q14 _ _ _ _ _ rfl he hM hS dX4_town_87
      · refine lv_aload_n hx hb dX4_town_28 rfl (lv_at hl 0 rfl) ?_
        refine lv_iload_n hx hb dX4_town_29 rfl (lv_at hl 1 rfl) ?_
        obtain ⟨q15, eq15, hit⟩ := o_bind hit
        refine m_cR X hM (wM_archive l G dT o ad _ _ _ eq15) nm_X4_archive q2092 q2094 q141 q2095 qs105 ⟨Nat.le_trans (Nat.le_of_ble_eq_true rfl) hR.1, Nat.le_trans (Nat.le_of_ble_eq_true rfl) hR.2⟩ rfl rfl hl.1 (lv_room (Nat.le_of_ble_eq_true rfl)) dX4_town_30 ?_
        refine lv_goto (tgt := 87) hx hb dX4_town_33 (by decide) ?_
        have he := o_in hit
        exact hend _ q15 _ _ _ _ _ rfl he hM hS dX4_town_87
    · refine lv_iconst (v := 0) hx hb dX4_town_22 (by decide) ?_
      have he := o_in hit
      exact hend _ 0 _ _ _ _ _ rfl he hM hS dX4_town_23
noncomputable def M_days_J29 (s1 : MS) : Option (Int32 × MS) :=
  (M_refuses s1 1).bind fun q3 =>
  some (q3.1, q3.2)
noncomputable def M_days_L41 (a0 : Int32) (t8 : Int32 × MS) : Option ((Int32 × MS) ⊕ MS) :=
  if t8.1 < a0 then
    ((M_dayGoes t8.2 0).bind fun q13 =>
    some (.inl ((t8.1 + 1), q13)))
  else
    (some (.inr t8.2))
noncomputable def M_days (σ : MS) (a0 : Int32) : Option (Int32 × MS) :=
  (pf σ 0 0).bind fun s1 =>
  (M_within a0 1 20).bind fun q2 =>
  if q2 = 0 then
    (M_days_J29 s1)
  else
    ((ald s1 44 0).bind fun v5 =>
    if (v5 + a0) ≤ 999 then
      ((M_keeps s1).bind fun q7 =>
      (o_loop (M_days_L41 a0) (0, q7)).bind fun r10 =>
      (ald r10 44 0).bind fun v11 =>
      some (v11, r10))
    else
      (M_days_J29 s1))
theorem nm_X4_days : kNm yX4_days RX4 1 := by unfold kNm; decide +kernel
set_option maxHeartbeats 4000000 in
set_option maxRecDepth 100000 in
theorem wM_days (l : Launch) (G : va_G) (dT : Nat → ClassId) (o : Nat) (ad : Nat → Nat) (σ : MS) (a0 : Int32) (z : Int32 × MS) (h : M_days σ a0 = some z) : Met l yX4_days (ws_ yX4_days cX4_days 3 (some .int)) (kRm 6 138) (mPc G dT o ad σ [.int a0]) (va_Qi (fun r (_ : Unit) => r = z.1) (fun _ t => MH G dT o ad z.2 t.heap) (mAd o ad)) 0 0 (mAd o ad) := by
  refine m_startNi (cc := cX4_days) (ty := .int) rfl rfl rfl (fun p e R s m args below meth c Q ls X hR hM hS hl hend => ?_)
  have hx := X.1.1
  have hb := X.1.2.1
  have hit := h
  clear h
  unfold M_days at hit
  have hl : lv_has ls 3 [(0, .ref o), (1, .int a0)] := hl
  refine lv_aload_n hx hb dX4_days_0 rfl (lv_at hl 0 rfl) ?_
  refine lv_iconst (v := 0) hx hb dX4_days_1 (by decide) ?_
  obtain ⟨s1, es1, hit⟩ := o_bind hit
  refine m_put X hM hS 0 q1644 rfl rfl (ty := .int) rfl rfl rfl es1 dX4_days_2 (fun H locs hM hS => ?_)
  refine lv_iload_n hx hb dX4_days_5 rfl (lv_at hl 1 rfl) ?_
  refine lv_iconst (v := 1) hx hb dX4_days_6 (by decide) ?_
  refine lv_bipush (v := 20) hx hb dX4_days_7 (by decide) ?_
  obtain ⟨q2, eq2, hit⟩ := o_bind hit
  refine m_cP X.1 (wM_within l _ _ _ _ eq2) nm_X4_within q1983 q1984 q141 q1985 ⟨Nat.le_trans (Nat.le_of_ble_eq_true rfl) hR.1, Nat.le_trans (Nat.le_of_ble_eq_true rfl) hR.2⟩ rfl rfl hl.1 (lv_room (Nat.le_of_ble_eq_true rfl)) dX4_days_9 ?_
  have hK29 : M_days_J29 s1 = some z → ∀ (H : Heap) (locs : List Loc) (ls : Array Slot), MH G dT o ad s1 H → va_S (mAd o ad) s.heap H locs → lv_has ls 3 [(0, .ref o)] → W p l e R s m args below meth c H locs 0 0 Q (F0 m 29 ls []) := by
    intro  hit H locs ls hM hS hl
    unfold M_days_J29 at hit
    refine lv_aload_n hx hb dX4_days_29 rfl (lv_at hl 0 rfl) ?_
    refine lv_iconst (v := 1) hx hb dX4_days_30 (by decide) ?_
    obtain ⟨q3, eq3, hit⟩ := o_bind hit
    refine m_cNi X hM hS (wM_refuses l G dT o ad _ _ _ eq3) nm_X4_refuses q2112 q2114 q141 q2115 qs109 ⟨Nat.le_trans (Nat.le_of_ble_eq_true rfl) hR.1, Nat.le_trans (Nat.le_of_ble_eq_true rfl) hR.2⟩ rfl rfl hl.1 (lv_room (Nat.le_of_ble_eq_true rfl)) dX4_days_31 (fun H locs hM hS => ?_)
    have he := o_in hit
    exact hend _ q3.1 _ _ _ _ _ rfl he hM hS dX4_days_34
  refine b_if_eq (tgt := 29) hx hb dX4_days_12 (by decide) hit (fun c4 hit => ?_) (fun c4 hit => ?_)
  · exact hK29  hit _ _ _ hM hS (lv_sub hl [0] rfl)
  · refine lv_aload_n hx hb dX4_days_15 rfl (lv_at hl 0 rfl) ?_
    refine m_get X hM 44 q1688 rfl rfl (v := .ref (ad 44)) rfl dX4_days_16 ?_
    refine lv_iconst (v := 0) hx hb dX4_days_19 (by decide) ?_
    obtain ⟨v5, ev5, hit⟩ := o_bind hit
    refine m_iald X hM 15 44 rfl rfl ev5 dX4_days_20 ?_
    refine lv_iload_n hx hb dX4_days_21 rfl (lv_at hl 1 rfl) ?_
    refine lv_iadd hx hb dX4_days_22 ?_
    refine lv_sipush (v := 999) hx hb dX4_days_23 (by decide) ?_
    refine b_icmp_le (tgt := 35) hx hb dX4_days_26 (by decide) hit (fun c6 hit => ?_) (fun c6 hit => ?_)
    · refine lv_aload_n hx hb dX4_days_35 rfl (lv_at hl 0 rfl) ?_
      obtain ⟨q7, eq7, hit⟩ := o_bind hit
      refine m_cNv X hM hS (wM_keeps l G dT o ad _  _ eq7) nm_X4_keeps q2116 q2118 q141 q2119 qs110 ⟨Nat.le_trans (Nat.le_of_ble_eq_true rfl) hR.1, Nat.le_trans (Nat.le_of_ble_eq_true rfl) hR.2⟩ rfl rfl hl.1 (lv_room (Nat.le_of_ble_eq_true rfl)) dX4_days_36 (fun H locs hM hS => ?_)
      refine lv_iconst (v := 0) hx hb dX4_days_39 (by decide) ?_
      refine lv_istore_n (lv' := [(2, .int 0), (0, .ref o), (1, .int a0)]) hx hb dX4_days_40 rfl hl (by decide) rfl (fun ls hl => ?_)
      obtain ⟨r10, er10, hit⟩ := o_bind hit
      have hr10 : ∀ (H : Heap) (locs : List Loc) (ls : Array Slot), MH G dT o ad r10 H → va_S (mAd o ad) s.heap H locs → lv_has ls 3 [(0, .ref o)] → W p l e R s m args below meth c H locs 0 0 Q (F0 m 57 ls []) := by
        intro H locs ls hM hS hl
        refine lv_aload_n hx hb dX4_days_57 rfl (lv_at hl 0 rfl) ?_
        refine m_get X hM 44 q1688 rfl rfl (v := .ref (ad 44)) rfl dX4_days_58 ?_
        refine lv_iconst (v := 0) hx hb dX4_days_61 (by decide) ?_
        obtain ⟨v11, ev11, hit⟩ := o_bind hit
        refine m_iald X hM 15 44 rfl rfl ev11 dX4_days_62 ?_
        have he := o_in hit
        exact hend _ v11 _ _ _ _ _ rfl he hM hS dX4_days_63
      refine o_rec (P := fun t8 => ∀ (H : Heap) (locs : List Loc) (ls : Array Slot), MH G dT o ad t8.2 H → va_S (mAd o ad) s.heap H locs → lv_has ls 3 [(0, .ref o), (1, .int a0), (2, .int t8.1)] → W p l e R s m args below meth c H locs 0 0 Q (F0 m 41 ls [])) (fun t8 x9 hit hC8 hE8 H locs ls hM hS hl => ?_) _ er10 _ _ _ hM hS (lv_sub hl [1, 2, 0] rfl)
      unfold M_days_L41 at hit
      refine lv_iload_n hx hb dX4_days_41 rfl (lv_at hl 2 rfl) ?_
      refine lv_iload_n hx hb dX4_days_42 rfl (lv_at hl 1 rfl) ?_
      refine b_icmp_ge (tgt := 57) hx hb dX4_days_43 (by decide) hit (fun c12 hit => ?_) (fun c12 hit => ?_)
      · have he := o_in hit
        have he := hE8 _ he
        subst he
        exact hr10 _ _ _ hM hS (lv_sub hl [0] rfl)
      · refine lv_aload_n hx hb dX4_days_46 rfl (lv_at hl 0 rfl) ?_
        refine lv_iconst (v := 0) hx hb dX4_days_47 (by decide) ?_
        obtain ⟨q13, eq13, hit⟩ := o_bind hit
        refine m_cNv X hM hS (wM_dayGoes l G dT o ad _ _ _ eq13) nm_X4_dayGoes q2120 q2122 q141 q2123 qs111 ⟨Nat.le_trans (Nat.le_of_ble_eq_true rfl) hR.1, Nat.le_trans (Nat.le_of_ble_eq_true rfl) hR.2⟩ rfl rfl hl.1 (lv_room (Nat.le_of_ble_eq_true rfl)) dX4_days_48 (fun H locs hM hS => ?_)
        refine lv_iinc (k := 2) (v := (t8.1 + 1)) (lv' := [(2, .int (t8.1 + 1)), (0, .ref o), (1, .int a0)]) hx hb dX4_days_51 hl rfl rfl (by decide) rfl (fun ls hl => ?_)
        refine lv_goto (tgt := 41) hx hb dX4_days_54 (by decide) ?_
        have he := o_in hit
        exact hC8 _ he _ _ _ hM hS (lv_sub hl [1, 2, 0] rfl)
    · exact hK29  hit _ _ _ hM hS (lv_sub hl [0] rfl)
noncomputable def M_take (σ : MS) (a0 : Int32) (a1 : Int32) : Option (Int32 × MS) :=
  (pf σ 0 0).bind fun s1 =>
  (M_isClerk s1 a0).bind fun q2 =>
  if q2.1 = 0 then
    (some (0, q2.2))
  else
    ((M_isSheet q2.2 a1).bind fun q4 =>
    if q4.1 = 0 then
      (some (0, q4.2))
    else
      ((ald q4.2 44 (19 + a1)).bind fun v6 =>
      (M_clerkIn q4.2 0 a0).bind fun q7 =>
      if v6 = q7 then
        ((M_keeps q4.2).bind fun q9 =>
        (ast q9 44 (19 + a1) (10 + a0)).bind fun s10 =>
        some (1, s10))
      else
        ((M_refuses q4.2 1).bind fun q11 =>
        if q11.1 ≤ 0 then
          (some (0, q11.2))
        else
          (some (1, q11.2)))))
theorem nm_X4_take : kNm yX4_take RX4 2 := by unfold kNm; decide +kernel
set_option maxHeartbeats 4000000 in
set_option maxRecDepth 100000 in
theorem wM_take (l : Launch) (G : va_G) (dT : Nat → ClassId) (o : Nat) (ad : Nat → Nat) (σ : MS) (a0 : Int32) (a1 : Int32) (z : Int32 × MS) (h : M_take σ a0 a1 = some z) : Met l yX4_take (ws_ yX4_take cX4_take 3 (some .boolean)) (kRm 2 44) (mPc G dT o ad σ [.int a0, .int a1]) (va_Qi (fun r (_ : Unit) => r = z.1) (fun _ t => MH G dT o ad z.2 t.heap) (mAd o ad)) 0 0 (mAd o ad) := by
  refine m_startNi (cc := cX4_take) (ty := .boolean) rfl rfl rfl (fun p e R s m args below meth c Q ls X hR hM hS hl hend => ?_)
  have hx := X.1.1
  have hb := X.1.2.1
  have hit := h
  clear h
  unfold M_take at hit
  have hl : lv_has ls 3 [(0, .ref o), (1, .int a0), (2, .int a1)] := hl
  refine lv_aload_n hx hb dX4_take_0 rfl (lv_at hl 0 rfl) ?_
  refine lv_iconst (v := 0) hx hb dX4_take_1 (by decide) ?_
  obtain ⟨s1, es1, hit⟩ := o_bind hit
  refine m_put X hM hS 0 q1644 rfl rfl (ty := .int) rfl rfl rfl es1 dX4_take_2 (fun H locs hM hS => ?_)
  refine lv_aload_n hx hb dX4_take_5 rfl (lv_at hl 0 rfl) ?_
  refine lv_iload_n hx hb dX4_take_6 rfl (lv_at hl 1 rfl) ?_
  obtain ⟨q2, eq2, hit⟩ := o_bind hit
  refine m_cNi X hM hS (wM_isClerk l G dT o ad _ _ _ eq2) nm_X4_isClerk q2056 q2058 q141 q2059 qs98 ⟨Nat.le_trans (Nat.le_of_ble_eq_true rfl) hR.1, Nat.le_trans (Nat.le_of_ble_eq_true rfl) hR.2⟩ rfl rfl hl.1 (lv_room (Nat.le_of_ble_eq_true rfl)) dX4_take_7 (fun H locs hM hS => ?_)
  refine b_if_eq (tgt := 21) hx hb dX4_take_10 (by decide) hit (fun c3 hit => ?_) (fun c3 hit => ?_)
  · refine lv_iconst (v := 0) hx hb dX4_take_21 (by decide) ?_
    have he := o_in hit
    exact hend _ 0 _ _ _ _ _ rfl he hM hS dX4_take_22
  · refine lv_aload_n hx hb dX4_take_13 rfl (lv_at hl 0 rfl) ?_
    refine lv_iload_n hx hb dX4_take_14 rfl (lv_at hl 2 rfl) ?_
    obtain ⟨q4, eq4, hit⟩ := o_bind hit
    refine m_cNi X hM hS (wM_isSheet l G dT o ad _ _ _ eq4) nm_X4_isSheet q2028 q2030 q141 q2031 qs92 ⟨Nat.le_trans (Nat.le_of_ble_eq_true rfl) hR.1, Nat.le_trans (Nat.le_of_ble_eq_true rfl) hR.2⟩ rfl rfl hl.1 (lv_room (Nat.le_of_ble_eq_true rfl)) dX4_take_15 (fun H locs hM hS => ?_)
    refine b_if_ne (tgt := 23) hx hb dX4_take_18 (by decide) hit (fun c5 hit => ?_) (fun c5 hit => ?_)
    · refine lv_aload_n hx hb dX4_take_23 rfl (lv_at hl 0 rfl) ?_
      refine m_get X hM 44 q1688 rfl rfl (v := .ref (ad 44)) rfl dX4_take_24 ?_
      refine lv_bipush (v := 19) hx hb dX4_take_27 (by decide) ?_
      refine lv_iload_n hx hb dX4_take_29 rfl (lv_at hl 2 rfl) ?_
      refine lv_iadd hx hb dX4_take_30 ?_
      obtain ⟨v6, ev6, hit⟩ := o_bind hit
      refine m_iald X hM 15 44 rfl rfl ev6 dX4_take_31 ?_
      refine lv_aload_n hx hb dX4_take_32 rfl (lv_at hl 0 rfl) ?_
      refine lv_iconst (v := 0) hx hb dX4_take_33 (by decide) ?_
      refine lv_iload_n hx hb dX4_take_34 rfl (lv_at hl 1 rfl) ?_
      obtain ⟨q7, eq7, hit⟩ := o_bind hit
      refine m_cR X hM (wM_clerkIn l G dT o ad _ _ _ _ eq7) nm_X4_clerkIn q2040 q2042 q141 q2043 qs95 ⟨Nat.le_trans (Nat.le_of_ble_eq_true rfl) hR.1, Nat.le_trans (Nat.le_of_ble_eq_true rfl) hR.2⟩ rfl rfl hl.1 (lv_room (Nat.le_of_ble_eq_true rfl)) dX4_take_35 ?_
      refine b_icmp_eq (tgt := 55) hx hb dX4_take_38 (by decide) hit (fun c8 hit => ?_) (fun c8 hit => ?_)
      · refine lv_aload_n hx hb dX4_take_55 rfl (lv_at hl 0 rfl) ?_
        obtain ⟨q9, eq9, hit⟩ := o_bind hit
        refine m_cNv X hM hS (wM_keeps l G dT o ad _  _ eq9) nm_X4_keeps q2116 q2118 q141 q2119 qs110 ⟨Nat.le_trans (Nat.le_of_ble_eq_true rfl) hR.1, Nat.le_trans (Nat.le_of_ble_eq_true rfl) hR.2⟩ rfl rfl hl.1 (lv_room (Nat.le_of_ble_eq_true rfl)) dX4_take_56 (fun H locs hM hS => ?_)
        refine lv_aload_n hx hb dX4_take_59 rfl (lv_at hl 0 rfl) ?_
        refine m_get X hM 44 q1688 rfl rfl (v := .ref (ad 44)) rfl dX4_take_60 ?_
        refine lv_bipush (v := 19) hx hb dX4_take_63 (by decide) ?_
        refine lv_iload_n hx hb dX4_take_65 rfl (lv_at hl 2 rfl) ?_
        refine lv_iadd hx hb dX4_take_66 ?_
        refine lv_bipush (v := 10) hx hb dX4_take_67 (by decide) ?_
        refine lv_iload_n hx hb dX4_take_69 rfl (lv_at hl 1 rfl) ?_
        refine lv_iadd hx hb dX4_take_70 ?_
        obtain ⟨s10, es10, hit⟩ := o_bind hit
        refine m_iast X hM hS 15 44 rfl rfl es10 dX4_take_71 (fun H locs hM hS => ?_)
        refine lv_iconst (v := 1) hx hb dX4_take_72 (by decide) ?_
        have he := o_in hit
        exact hend _ 1 _ _ _ _ _ rfl he hM hS dX4_take_73
      · refine lv_aload_n hx hb dX4_take_41 rfl (lv_at hl 0 rfl) ?_
        refine lv_iconst (v := 1) hx hb dX4_take_42 (by decide) ?_
        obtain ⟨q11, eq11, hit⟩ := o_bind hit
        refine m_cNi X hM hS (wM_refuses l G dT o ad _ _ _ eq11) nm_X4_refuses q2112 q2114 q141 q2115 qs109 ⟨Nat.le_trans (Nat.le_of_ble_eq_true rfl) hR.1, Nat.le_trans (Nat.le_of_ble_eq_true rfl) hR.2⟩ rfl rfl hl.1 (lv_room (Nat.le_of_ble_eq_true rfl)) dX4_take_43 (fun H locs hM hS => ?_)
        refine b_if_le (tgt := 53) hx hb dX4_take_46 (by decide) hit (fun c12 hit => ?_) (fun c12 hit => ?_)
        · refine lv_iconst (v := 0) hx hb dX4_take_53 (by decide) ?_
          have he := o_in hit
          exact hend _ 0 _ _ _ _ _ rfl he hM hS dX4_take_54
        · refine lv_iconst (v := 1) hx hb dX4_take_49 (by decide) ?_
          refine lv_goto (tgt := 54) hx hb dX4_take_50 (by decide) ?_
          have he := o_in hit
          exact hend _ 1 _ _ _ _ _ rfl he hM hS dX4_take_54
    · refine lv_iconst (v := 0) hx hb dX4_take_21 (by decide) ?_
      have he := o_in hit
      exact hend _ 0 _ _ _ _ _ rfl he hM hS dX4_take_22
noncomputable def M_leave (σ : MS) (a0 : Int32) (a1 : Int32) : Option (Int32 × MS) :=
  (pf σ 0 0).bind fun s1 =>
  (M_isClerk s1 a0).bind fun q2 =>
  if q2.1 = 0 then
    (some (0, q2.2))
  else
    ((M_isSheet q2.2 a1).bind fun q4 =>
    if q4.1 = 0 then
      (some (0, q4.2))
    else
      ((ald q4.2 44 (19 + a1)).bind fun v6 =>
      if v6 = (10 + a0) then
        ((M_keeps q4.2).bind fun q8 =>
        (M_clerkIn q8 0 a0).bind fun q9 =>
        (ast q8 44 (19 + a1) q9).bind fun s10 =>
        (ald s10 44 (19 + a1)).bind fun v11 =>
        some (v11, s10))
      else
        ((M_refuses q4.2 1).bind fun q12 =>
        some (q12.1, q12.2))))
theorem nm_X4_leave : kNm yX4_leave RX4 2 := by unfold kNm; decide +kernel
set_option maxHeartbeats 4000000 in
set_option maxRecDepth 100000 in
theorem wM_leave (l : Launch) (G : va_G) (dT : Nat → ClassId) (o : Nat) (ad : Nat → Nat) (σ : MS) (a0 : Int32) (a1 : Int32) (z : Int32 × MS) (h : M_leave σ a0 a1 = some z) : Met l yX4_leave (ws_ yX4_leave cX4_leave 3 (some .int)) (kRm 2 44) (mPc G dT o ad σ [.int a0, .int a1]) (va_Qi (fun r (_ : Unit) => r = z.1) (fun _ t => MH G dT o ad z.2 t.heap) (mAd o ad)) 0 0 (mAd o ad) := by
  refine m_startNi (cc := cX4_leave) (ty := .int) rfl rfl rfl (fun p e R s m args below meth c Q ls X hR hM hS hl hend => ?_)
  have hx := X.1.1
  have hb := X.1.2.1
  have hit := h
  clear h
  unfold M_leave at hit
  have hl : lv_has ls 3 [(0, .ref o), (1, .int a0), (2, .int a1)] := hl
  refine lv_aload_n hx hb dX4_leave_0 rfl (lv_at hl 0 rfl) ?_
  refine lv_iconst (v := 0) hx hb dX4_leave_1 (by decide) ?_
  obtain ⟨s1, es1, hit⟩ := o_bind hit
  refine m_put X hM hS 0 q1644 rfl rfl (ty := .int) rfl rfl rfl es1 dX4_leave_2 (fun H locs hM hS => ?_)
  refine lv_aload_n hx hb dX4_leave_5 rfl (lv_at hl 0 rfl) ?_
  refine lv_iload_n hx hb dX4_leave_6 rfl (lv_at hl 1 rfl) ?_
  obtain ⟨q2, eq2, hit⟩ := o_bind hit
  refine m_cNi X hM hS (wM_isClerk l G dT o ad _ _ _ eq2) nm_X4_isClerk q2056 q2058 q141 q2059 qs98 ⟨Nat.le_trans (Nat.le_of_ble_eq_true rfl) hR.1, Nat.le_trans (Nat.le_of_ble_eq_true rfl) hR.2⟩ rfl rfl hl.1 (lv_room (Nat.le_of_ble_eq_true rfl)) dX4_leave_7 (fun H locs hM hS => ?_)
  refine b_if_eq (tgt := 21) hx hb dX4_leave_10 (by decide) hit (fun c3 hit => ?_) (fun c3 hit => ?_)
  · refine lv_iconst (v := 0) hx hb dX4_leave_21 (by decide) ?_
    have he := o_in hit
    exact hend _ 0 _ _ _ _ _ rfl he hM hS dX4_leave_22
  · refine lv_aload_n hx hb dX4_leave_13 rfl (lv_at hl 0 rfl) ?_
    refine lv_iload_n hx hb dX4_leave_14 rfl (lv_at hl 2 rfl) ?_
    obtain ⟨q4, eq4, hit⟩ := o_bind hit
    refine m_cNi X hM hS (wM_isSheet l G dT o ad _ _ _ eq4) nm_X4_isSheet q2028 q2030 q141 q2031 qs92 ⟨Nat.le_trans (Nat.le_of_ble_eq_true rfl) hR.1, Nat.le_trans (Nat.le_of_ble_eq_true rfl) hR.2⟩ rfl rfl hl.1 (lv_room (Nat.le_of_ble_eq_true rfl)) dX4_leave_15 (fun H locs hM hS => ?_)
    refine b_if_ne (tgt := 23) hx hb dX4_leave_18 (by decide) hit (fun c5 hit => ?_) (fun c5 hit => ?_)
    · refine lv_aload_n hx hb dX4_leave_23 rfl (lv_at hl 0 rfl) ?_
      refine m_get X hM 44 q1688 rfl rfl (v := .ref (ad 44)) rfl dX4_leave_24 ?_
      refine lv_bipush (v := 19) hx hb dX4_leave_27 (by decide) ?_
      refine lv_iload_n hx hb dX4_leave_29 rfl (lv_at hl 2 rfl) ?_
      refine lv_iadd hx hb dX4_leave_30 ?_
      obtain ⟨v6, ev6, hit⟩ := o_bind hit
      refine m_iald X hM 15 44 rfl rfl ev6 dX4_leave_31 ?_
      refine lv_bipush (v := 10) hx hb dX4_leave_32 (by decide) ?_
      refine lv_iload_n hx hb dX4_leave_34 rfl (lv_at hl 1 rfl) ?_
      refine lv_iadd hx hb dX4_leave_35 ?_
      refine b_icmp_eq (tgt := 45) hx hb dX4_leave_36 (by decide) hit (fun c7 hit => ?_) (fun c7 hit => ?_)
      · refine lv_aload_n hx hb dX4_leave_45 rfl (lv_at hl 0 rfl) ?_
        obtain ⟨q8, eq8, hit⟩ := o_bind hit
        refine m_cNv X hM hS (wM_keeps l G dT o ad _  _ eq8) nm_X4_keeps q2116 q2118 q141 q2119 qs110 ⟨Nat.le_trans (Nat.le_of_ble_eq_true rfl) hR.1, Nat.le_trans (Nat.le_of_ble_eq_true rfl) hR.2⟩ rfl rfl hl.1 (lv_room (Nat.le_of_ble_eq_true rfl)) dX4_leave_46 (fun H locs hM hS => ?_)
        refine lv_aload_n hx hb dX4_leave_49 rfl (lv_at hl 0 rfl) ?_
        refine m_get X hM 44 q1688 rfl rfl (v := .ref (ad 44)) rfl dX4_leave_50 ?_
        refine lv_bipush (v := 19) hx hb dX4_leave_53 (by decide) ?_
        refine lv_iload_n hx hb dX4_leave_55 rfl (lv_at hl 2 rfl) ?_
        refine lv_iadd hx hb dX4_leave_56 ?_
        refine lv_aload_n hx hb dX4_leave_57 rfl (lv_at hl 0 rfl) ?_
        refine lv_iconst (v := 0) hx hb dX4_leave_58 (by decide) ?_
        refine lv_iload_n hx hb dX4_leave_59 rfl (lv_at hl 1 rfl) ?_
        obtain ⟨q9, eq9, hit⟩ := o_bind hit
        refine m_cR X hM (wM_clerkIn l G dT o ad _ _ _ _ eq9) nm_X4_clerkIn q2040 q2042 q141 q2043 qs95 ⟨Nat.le_trans (Nat.le_of_ble_eq_true rfl) hR.1, Nat.le_trans (Nat.le_of_ble_eq_true rfl) hR.2⟩ rfl rfl hl.1 (lv_room (Nat.le_of_ble_eq_true rfl)) dX4_leave_60 ?_
        obtain ⟨s10, es10, hit⟩ := o_bind hit
        refine m_iast X hM hS 15 44 rfl rfl es10 dX4_leave_63 (fun H locs hM hS => ?_)
        refine lv_aload_n hx hb dX4_leave_64 rfl (lv_at hl 0 rfl) ?_
        refine m_get X hM 44 q1688 rfl rfl (v := .ref (ad 44)) rfl dX4_leave_65 ?_
        refine lv_bipush (v := 19) hx hb dX4_leave_68 (by decide) ?_
        refine lv_iload_n hx hb dX4_leave_70 rfl (lv_at hl 2 rfl) ?_
        refine lv_iadd hx hb dX4_leave_71 ?_
        obtain ⟨v11, ev11, hit⟩ := o_bind hit
        refine m_iald X hM 15 44 rfl rfl ev11 dX4_leave_72 ?_
        have he := o_in hit
        exact hend _ v11 _ _ _ _ _ rfl he hM hS dX4_leave_73
      · refine lv_aload_n hx hb dX4_leave_39 rfl (lv_at hl 0 rfl) ?_
        refine lv_iconst (v := 1) hx hb dX4_leave_40 (by decide) ?_
        obtain ⟨q12, eq12, hit⟩ := o_bind hit
        refine m_cNi X hM hS (wM_refuses l G dT o ad _ _ _ eq12) nm_X4_refuses q2112 q2114 q141 q2115 qs109 ⟨Nat.le_trans (Nat.le_of_ble_eq_true rfl) hR.1, Nat.le_trans (Nat.le_of_ble_eq_true rfl) hR.2⟩ rfl rfl hl.1 (lv_room (Nat.le_of_ble_eq_true rfl)) dX4_leave_41 (fun H locs hM hS => ?_)
        have he := o_in hit
        exact hend _ q12.1 _ _ _ _ _ rfl he hM hS dX4_leave_44
    · refine lv_iconst (v := 0) hx hb dX4_leave_21 (by decide) ?_
      have he := o_in hit
      exact hend _ 0 _ _ _ _ _ rfl he hM hS dX4_leave_22
noncomputable def M_forge (σ : MS) (a0 : Int32) (a1 : Int32) (a2 : Int32) : Option (Int32 × MS) :=
  (pf σ 0 0).bind fun s1 =>
  (M_isSheet s1 a0).bind fun q2 =>
  if q2.1 = 0 then
    (some (0, q2.2))
  else
    ((M_within a1 0 1).bind fun q4 =>
    ((if q4 = 0 then
        (some 0)
      else
        ((M_within a2 0 7).bind fun q18 =>
        if q18 = 0 then
          (some 0)
        else
          (some 1)) : Option Int32)).bind fun r5 =>
    (M_right q2.2 r5 1).bind fun q6 =>
    if q6.1 = 0 then
      (some (0, q6.2))
    else
      ((M_isBurnt q6.2 0 a0).bind fun q8 =>
      if q8 = 0 then
        ((M_keeps q6.2).bind fun q10 =>
        ((if a1 = 0 then
            (some 1)
          else
            (some 10) : Option Int32)).bind fun r11 =>
        (ald q10 44 (r11 + a0)).bind fun v12 =>
        (ast q10 44 (r11 + a0) (v12 ^^^ ((1 : Int32) <<< (a2 &&& 31)))).bind fun s13 =>
        (ald s13 44 (r11 + a0)).bind fun v14 =>
        some (v14, s13))
      else
        ((M_refuses q6.2 1).bind fun q16 =>
        some (q16.1, q16.2))))
theorem nm_X4_forge : kNm yX4_forge RX4 3 := by unfold kNm; decide +kernel
set_option maxHeartbeats 4000000 in
set_option maxRecDepth 100000 in
theorem wM_forge (l : Launch) (G : va_G) (dT : Nat → ClassId) (o : Nat) (ad : Nat → Nat) (σ : MS) (a0 : Int32) (a1 : Int32) (a2 : Int32) (z : Int32 × MS) (h : M_forge σ a0 a1 a2 = some z) : Met l yX4_forge (ws_ yX4_forge cX4_forge 5 (some .int)) (kRm 2 43) (mPc G dT o ad σ [.int a0, .int a1, .int a2]) (va_Qi (fun r (_ : Unit) => r = z.1) (fun _ t => MH G dT o ad z.2 t.heap) (mAd o ad)) 0 0 (mAd o ad) := by
  refine m_startNi (cc := cX4_forge) (ty := .int) rfl rfl rfl (fun p e R s m args below meth c Q ls X hR hM hS hl hend => ?_)
  have hx := X.1.1
  have hb := X.1.2.1
  have hit := h
  clear h
  unfold M_forge at hit
  have hl : lv_has ls 5 [(0, .ref o), (1, .int a0), (2, .int a1), (3, .int a2)] := hl
  refine lv_aload_n hx hb dX4_forge_0 rfl (lv_at hl 0 rfl) ?_
  refine lv_iconst (v := 0) hx hb dX4_forge_1 (by decide) ?_
  obtain ⟨s1, es1, hit⟩ := o_bind hit
  refine m_put X hM hS 0 q1644 rfl rfl (ty := .int) rfl rfl rfl es1 dX4_forge_2 (fun H locs hM hS => ?_)
  refine lv_aload_n hx hb dX4_forge_5 rfl (lv_at hl 0 rfl) ?_
  refine lv_iload_n hx hb dX4_forge_6 rfl (lv_at hl 1 rfl) ?_
  obtain ⟨q2, eq2, hit⟩ := o_bind hit
  refine m_cNi X hM hS (wM_isSheet l G dT o ad _ _ _ eq2) nm_X4_isSheet q2028 q2030 q141 q2031 qs92 ⟨Nat.le_trans (Nat.le_of_ble_eq_true rfl) hR.1, Nat.le_trans (Nat.le_of_ble_eq_true rfl) hR.2⟩ rfl rfl hl.1 (lv_room (Nat.le_of_ble_eq_true rfl)) dX4_forge_7 (fun H locs hM hS => ?_)
  refine b_if_eq (tgt := 45) hx hb dX4_forge_10 (by decide) hit (fun c3 hit => ?_) (fun c3 hit => ?_)
  · refine lv_iconst (v := 0) hx hb dX4_forge_45 (by decide) ?_
    have he := o_in hit
    exact hend _ 0 _ _ _ _ _ rfl he hM hS dX4_forge_46
  · refine lv_aload_n hx hb dX4_forge_13 rfl (lv_at hl 0 rfl) ?_
    refine lv_iload_n hx hb dX4_forge_14 rfl (lv_at hl 2 rfl) ?_
    refine lv_iconst (v := 0) hx hb dX4_forge_15 (by decide) ?_
    refine lv_iconst (v := 1) hx hb dX4_forge_16 (by decide) ?_
    obtain ⟨q4, eq4, hit⟩ := o_bind hit
    refine m_cP X.1 (wM_within l _ _ _ _ eq4) nm_X4_within q1983 q1984 q141 q1985 ⟨Nat.le_trans (Nat.le_of_ble_eq_true rfl) hR.1, Nat.le_trans (Nat.le_of_ble_eq_true rfl) hR.2⟩ rfl rfl hl.1 (lv_room (Nat.le_of_ble_eq_true rfl)) dX4_forge_17 ?_
    obtain ⟨r5, er5, hit⟩ := o_bind hit
    have hr5 : ∀ (H : Heap) (locs : List Loc) (ls : Array Slot), MH G dT o ad q2.2 H → va_S (mAd o ad) s.heap H locs → lv_has ls 5 [(0, .ref o), (1, .int a0), (2, .int a1), (3, .int a2)] → W p l e R s m args below meth c H locs 0 0 Q (F0 m 38 ls [.int r5, .ref o]) := by
      intro H locs ls hM hS hl
      refine lv_iconst (v := 1) hx hb dX4_forge_38 (by decide) ?_
      obtain ⟨q6, eq6, hit⟩ := o_bind hit
      refine m_cNi X hM hS (wM_right l G dT o ad _ _ _ _ eq6) nm_X4_right q1848 q1850 q141 q1851 qs58 ⟨Nat.le_trans (Nat.le_of_ble_eq_true rfl) hR.1, Nat.le_trans (Nat.le_of_ble_eq_true rfl) hR.2⟩ rfl rfl hl.1 (lv_room (Nat.le_of_ble_eq_true rfl)) dX4_forge_39 (fun H locs hM hS => ?_)
      refine b_if_ne (tgt := 47) hx hb dX4_forge_42 (by decide) hit (fun c7 hit => ?_) (fun c7 hit => ?_)
      · refine lv_aload_n hx hb dX4_forge_47 rfl (lv_at hl 0 rfl) ?_
        refine lv_iconst (v := 0) hx hb dX4_forge_48 (by decide) ?_
        refine lv_iload_n hx hb dX4_forge_49 rfl (lv_at hl 1 rfl) ?_
        obtain ⟨q8, eq8, hit⟩ := o_bind hit
        refine m_cR X hM (wM_isBurnt l G dT o ad _ _ _ _ eq8) nm_X4_isBurnt q1990 q1992 q141 q1993 qs85 ⟨Nat.le_trans (Nat.le_of_ble_eq_true rfl) hR.1, Nat.le_trans (Nat.le_of_ble_eq_true rfl) hR.2⟩ rfl rfl hl.1 (lv_room (Nat.le_of_ble_eq_true rfl)) dX4_forge_50 ?_
        refine b_if_eq (tgt := 62) hx hb dX4_forge_53 (by decide) hit (fun c9 hit => ?_) (fun c9 hit => ?_)
        · refine lv_aload_n hx hb dX4_forge_62 rfl (lv_at hl 0 rfl) ?_
          obtain ⟨q10, eq10, hit⟩ := o_bind hit
          refine m_cNv X hM hS (wM_keeps l G dT o ad _  _ eq10) nm_X4_keeps q2116 q2118 q141 q2119 qs110 ⟨Nat.le_trans (Nat.le_of_ble_eq_true rfl) hR.1, Nat.le_trans (Nat.le_of_ble_eq_true rfl) hR.2⟩ rfl rfl hl.1 (lv_room (Nat.le_of_ble_eq_true rfl)) dX4_forge_63 (fun H locs hM hS => ?_)
          refine lv_iload_n hx hb dX4_forge_66 rfl (lv_at hl 2 rfl) ?_
          obtain ⟨r11, er11, hit⟩ := o_bind hit
          have hr11 : ∀ (H : Heap) (locs : List Loc) (ls : Array Slot), MH G dT o ad q10 H → va_S (mAd o ad) s.heap H locs → lv_has ls 5 [(0, .ref o), (1, .int a0), (3, .int a2)] → W p l e R s m args below meth c H locs 0 0 Q (F0 m 76 ls [.int r11]) := by
            intro H locs ls hM hS hl
            refine lv_iload_n hx hb dX4_forge_76 rfl (lv_at hl 1 rfl) ?_
            refine lv_iadd hx hb dX4_forge_77 ?_
            refine lv_istore (lv' := [(4, .int (r11 + a0)), (0, .ref o), (1, .int a0), (3, .int a2)]) hx hb dX4_forge_78 hl (by decide) rfl (fun ls hl => ?_)
            refine lv_aload_n hx hb dX4_forge_80 rfl (lv_at hl 1 rfl) ?_
            refine m_get X hM 44 q1688 rfl rfl (v := .ref (ad 44)) rfl dX4_forge_81 ?_
            refine lv_iload hx hb dX4_forge_84 (lv_at hl 0 rfl) ?_
            refine lv_dup2_11 hx hb dX4_forge_86 rfl rfl ?_
            obtain ⟨v12, ev12, hit⟩ := o_bind hit
            refine m_iald X hM 15 44 rfl rfl ev12 dX4_forge_87 ?_
            refine lv_iconst (v := 1) hx hb dX4_forge_88 (by decide) ?_
            refine lv_iload_n hx hb dX4_forge_89 rfl (lv_at hl 3 rfl) ?_
            refine lv_ishl hx hb dX4_forge_90 ?_
            refine lv_ixor hx hb dX4_forge_91 ?_
            obtain ⟨s13, es13, hit⟩ := o_bind hit
            refine m_iast X hM hS 15 44 rfl rfl es13 dX4_forge_92 (fun H locs hM hS => ?_)
            refine lv_aload_n hx hb dX4_forge_93 rfl (lv_at hl 1 rfl) ?_
            refine m_get X hM 44 q1688 rfl rfl (v := .ref (ad 44)) rfl dX4_forge_94 ?_
            refine lv_iload hx hb dX4_forge_97 (lv_at hl 0 rfl) ?_
            obtain ⟨v14, ev14, hit⟩ := o_bind hit
            refine m_iald X hM 15 44 rfl rfl ev14 dX4_forge_99 ?_
            have he := o_in hit
            exact hend _ v14 _ _ _ _ _ rfl he hM hS dX4_forge_100
          have hit := er11
          refine b_if_ne (tgt := 74) hx hb dX4_forge_67 (by decide) hit (fun c15 hit => ?_) (fun c15 hit => ?_)
          · refine lv_bipush (v := 10) hx hb dX4_forge_74 (by decide) ?_
            have he := o_in hit
            subst he
            exact hr11 _ _ _ hM hS (lv_sub hl [0, 1, 3] rfl)
          · refine lv_iconst (v := 1) hx hb dX4_forge_70 (by decide) ?_
            refine lv_goto (tgt := 76) hx hb dX4_forge_71 (by decide) ?_
            have he := o_in hit
            subst he
            exact hr11 _ _ _ hM hS (lv_sub hl [0, 1, 3] rfl)
        · refine lv_aload_n hx hb dX4_forge_56 rfl (lv_at hl 0 rfl) ?_
          refine lv_iconst (v := 1) hx hb dX4_forge_57 (by decide) ?_
          obtain ⟨q16, eq16, hit⟩ := o_bind hit
          refine m_cNi X hM hS (wM_refuses l G dT o ad _ _ _ eq16) nm_X4_refuses q2112 q2114 q141 q2115 qs109 ⟨Nat.le_trans (Nat.le_of_ble_eq_true rfl) hR.1, Nat.le_trans (Nat.le_of_ble_eq_true rfl) hR.2⟩ rfl rfl hl.1 (lv_room (Nat.le_of_ble_eq_true rfl)) dX4_forge_58 (fun H locs hM hS => ?_)
          have he := o_in hit
          exact hend _ q16.1 _ _ _ _ _ rfl he hM hS dX4_forge_61
      · refine lv_iconst (v := 0) hx hb dX4_forge_45 (by decide) ?_
        have he := o_in hit
        exact hend _ 0 _ _ _ _ _ rfl he hM hS dX4_forge_46
    have hit := er5
    refine b_if_eq (tgt := 37) hx hb dX4_forge_20 (by decide) hit (fun c17 hit => ?_) (fun c17 hit => ?_)
    · refine lv_iconst (v := 0) hx hb dX4_forge_37 (by decide) ?_
      have he := o_in hit
      subst he
      exact hr5 _ _ _ hM hS hl
    · refine lv_iload_n hx hb dX4_forge_23 rfl (lv_at hl 3 rfl) ?_
      refine lv_iconst (v := 0) hx hb dX4_forge_24 (by decide) ?_
      refine lv_bipush (v := 7) hx hb dX4_forge_25 (by decide) ?_
      obtain ⟨q18, eq18, hit⟩ := o_bind hit
      refine m_cP X.1 (wM_within l _ _ _ _ eq18) nm_X4_within q1983 q1984 q141 q1985 ⟨Nat.le_trans (Nat.le_of_ble_eq_true rfl) hR.1, Nat.le_trans (Nat.le_of_ble_eq_true rfl) hR.2⟩ rfl rfl hl.1 (lv_room (Nat.le_of_ble_eq_true rfl)) dX4_forge_27 ?_
      refine b_if_eq (tgt := 37) hx hb dX4_forge_30 (by decide) hit (fun c19 hit => ?_) (fun c19 hit => ?_)
      · refine lv_iconst (v := 0) hx hb dX4_forge_37 (by decide) ?_
        have he := o_in hit
        subst he
        exact hr5 _ _ _ hM hS hl
      · refine lv_iconst (v := 1) hx hb dX4_forge_33 (by decide) ?_
        refine lv_goto (tgt := 38) hx hb dX4_forge_34 (by decide) ?_
        have he := o_in hit
        subst he
        exact hr5 _ _ _ hM hS hl
noncomputable def M_burns_L2 (a0 : Int32) (a1 : Int32) (t1 : Int32 × MS) : Option ((Int32 × MS) ⊕ MS) :=
  if t1.1 < (mf t1.2 1) then
    ((ald t1.2 44 ((a0 + 19) + t1.1)).bind fun v4 =>
    ((if v4 = a1 then
        ((ast t1.2 44 ((a0 + 19) + t1.1) (-1)).bind fun s7 =>
        some s7)
      else
        (some t1.2) : Option MS)).bind fun r5 =>
    some (.inl ((t1.1 + 1), r5)))
  else
    (some (.inr t1.2))
noncomputable def M_burns (σ : MS) (a0 : Int32) (a1 : Int32) : Option (MS) :=
  o_loop (M_burns_L2 a0 a1) (0, σ)
theorem nm_X4_burns : kNm yX4_burns RX4 2 := by unfold kNm; decide +kernel
set_option maxHeartbeats 4000000 in
set_option maxRecDepth 100000 in
theorem wM_burns (l : Launch) (G : va_G) (dT : Nat → ClassId) (o : Nat) (ad : Nat → Nat) (σ : MS) (a0 : Int32) (a1 : Int32) (z : MS) (h : M_burns σ a0 a1 = some z) : Met l yX4_burns (ws_ yX4_burns cX4_burns 4 none) (kRm 0 0) (mPc G dT o ad σ [.int a0, .int a1]) (va_Qv (fun (_ : Unit) => True) (fun _ t => MH G dT o ad z t.heap) (mAd o ad)) 0 0 (mAd o ad) := by
  refine m_startNv (cc := cX4_burns) rfl rfl rfl (fun p e R s m args below meth c Q ls X hR hM hS hl hend => ?_)
  have hx := X.1.1
  have hb := X.1.2.1
  have hit := h
  clear h
  unfold M_burns at hit
  have hl : lv_has ls 4 [(0, .ref o), (1, .int a0), (2, .int a1)] := hl
  refine lv_iconst (v := 0) hx hb dX4_burns_0 (by decide) ?_
  refine lv_istore_n (lv' := [(3, .int 0), (0, .ref o), (1, .int a0), (2, .int a1)]) hx hb dX4_burns_1 rfl hl (by decide) rfl (fun ls hl => ?_)
  refine o_rec (P := fun t1 => ∀ (H : Heap) (locs : List Loc) (ls : Array Slot), MH G dT o ad t1.2 H → va_S (mAd o ad) s.heap H locs → lv_has ls 4 [(0, .ref o), (1, .int a0), (2, .int a1), (3, .int t1.1)] → W p l e R s m args below meth c H locs 0 0 Q (F0 m 2 ls [])) (fun t1 x2 hit hC1 hE1 H locs ls hM hS hl => ?_) _ hit _ _ _ hM hS (lv_sub hl [1, 2, 3, 0] rfl)
  unfold M_burns_L2 at hit
  refine lv_iload_n hx hb dX4_burns_2 rfl (lv_at hl 3 rfl) ?_
  refine lv_aload_n hx hb dX4_burns_3 rfl (lv_at hl 0 rfl) ?_
  refine m_get X hM 1 q1645 rfl rfl (v := .int (mf t1.2 1)) rfl dX4_burns_4 ?_
  refine b_icmp_ge (tgt := 43) hx hb dX4_burns_7 (by decide) hit (fun c3 hit => ?_) (fun c3 hit => ?_)
  · have he := o_in hit
    have he := hE1 _ he
    exact hend _ _ _ _ _ he hM hS dX4_burns_43
  · refine lv_aload_n hx hb dX4_burns_10 rfl (lv_at hl 0 rfl) ?_
    refine m_get X hM 44 q1688 rfl rfl (v := .ref (ad 44)) rfl dX4_burns_11 ?_
    refine lv_iload_n hx hb dX4_burns_14 rfl (lv_at hl 1 rfl) ?_
    refine lv_bipush (v := 19) hx hb dX4_burns_15 (by decide) ?_
    refine lv_iadd hx hb dX4_burns_17 ?_
    refine lv_iload_n hx hb dX4_burns_18 rfl (lv_at hl 3 rfl) ?_
    refine lv_iadd hx hb dX4_burns_19 ?_
    obtain ⟨v4, ev4, hit⟩ := o_bind hit
    refine m_iald X hM 15 44 rfl rfl ev4 dX4_burns_20 ?_
    refine lv_iload_n hx hb dX4_burns_21 rfl (lv_at hl 2 rfl) ?_
    obtain ⟨r5, er5, hit⟩ := o_bind hit
    have hr5 : ∀ (H : Heap) (locs : List Loc) (ls : Array Slot), MH G dT o ad r5 H → va_S (mAd o ad) s.heap H locs → lv_has ls 4 [(0, .ref o), (1, .int a0), (2, .int a1), (3, .int t1.1)] → W p l e R s m args below meth c H locs 0 0 Q (F0 m 37 ls []) := by
      intro H locs ls hM hS hl
      refine lv_iinc (k := 3) (v := (t1.1 + 1)) (lv' := [(3, .int (t1.1 + 1)), (0, .ref o), (1, .int a0), (2, .int a1)]) hx hb dX4_burns_37 hl rfl rfl (by decide) rfl (fun ls hl => ?_)
      refine lv_goto (tgt := 2) hx hb dX4_burns_40 (by decide) ?_
      have he := o_in hit
      exact hC1 _ he _ _ _ hM hS (lv_sub hl [1, 2, 3, 0] rfl)
    have hit := er5
    refine b_icmp_ne (tgt := 37) hx hb dX4_burns_22 (by decide) hit (fun c6 hit => ?_) (fun c6 hit => ?_)
    · have he := o_in hit
      subst he
      exact hr5 _ _ _ hM hS hl
    · refine lv_aload_n hx hb dX4_burns_25 rfl (lv_at hl 0 rfl) ?_
      refine m_get X hM 44 q1688 rfl rfl (v := .ref (ad 44)) rfl dX4_burns_26 ?_
      refine lv_iload_n hx hb dX4_burns_29 rfl (lv_at hl 1 rfl) ?_
      refine lv_bipush (v := 19) hx hb dX4_burns_30 (by decide) ?_
      refine lv_iadd hx hb dX4_burns_32 ?_
      refine lv_iload_n hx hb dX4_burns_33 rfl (lv_at hl 3 rfl) ?_
      refine lv_iadd hx hb dX4_burns_34 ?_
      refine lv_iconst (v := (-1)) hx hb dX4_burns_35 (by decide) ?_
      obtain ⟨s7, es7, hit⟩ := o_bind hit
      refine m_iast X hM hS 15 44 rfl rfl es7 dX4_burns_36 (fun H locs hM hS => ?_)
      have he := o_in hit
      subst he
      exact hr5 _ _ _ hM hS hl
noncomputable def M_fire (σ : MS) (a0 : Int32) : Option (Int32 × MS) :=
  (pf σ 0 0).bind fun s1 =>
  (M_isTown s1 a0).bind fun q2 =>
  if q2.1 = 0 then
    (some (0, q2.2))
  else
    ((M_archive q2.2 a0).bind fun q4 =>
    if q4 = 0 then
      ((M_refuses q2.2 1).bind fun q8 =>
      some (q8.1, q8.2))
    else
      ((M_keeps q2.2).bind fun q6 =>
      (M_burns q6 0 a0).bind fun q7 =>
      some (q4, q7)))
theorem nm_X4_fire : kNm yX4_fire RX4 1 := by unfold kNm; decide +kernel
set_option maxHeartbeats 4000000 in
set_option maxRecDepth 100000 in
theorem wM_fire (l : Launch) (G : va_G) (dT : Nat → ClassId) (o : Nat) (ad : Nat → Nat) (σ : MS) (a0 : Int32) (z : Int32 × MS) (h : M_fire σ a0 = some z) : Met l yX4_fire (ws_ yX4_fire cX4_fire 3 (some .int)) (kRm 2 43) (mPc G dT o ad σ [.int a0]) (va_Qi (fun r (_ : Unit) => r = z.1) (fun _ t => MH G dT o ad z.2 t.heap) (mAd o ad)) 0 0 (mAd o ad) := by
  refine m_startNi (cc := cX4_fire) (ty := .int) rfl rfl rfl (fun p e R s m args below meth c Q ls X hR hM hS hl hend => ?_)
  have hx := X.1.1
  have hb := X.1.2.1
  have hit := h
  clear h
  unfold M_fire at hit
  have hl : lv_has ls 3 [(0, .ref o), (1, .int a0)] := hl
  refine lv_aload_n hx hb dX4_fire_0 rfl (lv_at hl 0 rfl) ?_
  refine lv_iconst (v := 0) hx hb dX4_fire_1 (by decide) ?_
  obtain ⟨s1, es1, hit⟩ := o_bind hit
  refine m_put X hM hS 0 q1644 rfl rfl (ty := .int) rfl rfl rfl es1 dX4_fire_2 (fun H locs hM hS => ?_)
  refine lv_aload_n hx hb dX4_fire_5 rfl (lv_at hl 0 rfl) ?_
  refine lv_iload_n hx hb dX4_fire_6 rfl (lv_at hl 1 rfl) ?_
  obtain ⟨q2, eq2, hit⟩ := o_bind hit
  refine m_cNi X hM hS (wM_isTown l G dT o ad _ _ _ eq2) nm_X4_isTown q2088 q2090 q141 q2091 qs104 ⟨Nat.le_trans (Nat.le_of_ble_eq_true rfl) hR.1, Nat.le_trans (Nat.le_of_ble_eq_true rfl) hR.2⟩ rfl rfl hl.1 (lv_room (Nat.le_of_ble_eq_true rfl)) dX4_fire_7 (fun H locs hM hS => ?_)
  refine b_if_ne (tgt := 15) hx hb dX4_fire_10 (by decide) hit (fun c3 hit => ?_) (fun c3 hit => ?_)
  · refine lv_aload_n hx hb dX4_fire_15 rfl (lv_at hl 0 rfl) ?_
    refine lv_iload_n hx hb dX4_fire_16 rfl (lv_at hl 1 rfl) ?_
    obtain ⟨q4, eq4, hit⟩ := o_bind hit
    refine m_cR X hM (wM_archive l G dT o ad _ _ _ eq4) nm_X4_archive q2092 q2094 q141 q2095 qs105 ⟨Nat.le_trans (Nat.le_of_ble_eq_true rfl) hR.1, Nat.le_trans (Nat.le_of_ble_eq_true rfl) hR.2⟩ rfl rfl hl.1 (lv_room (Nat.le_of_ble_eq_true rfl)) dX4_fire_17 ?_
    refine lv_istore_n (lv' := [(2, .int q4), (0, .ref o), (1, .int a0)]) hx hb dX4_fire_20 rfl hl (by decide) rfl (fun ls hl => ?_)
    refine lv_iload_n hx hb dX4_fire_21 rfl (lv_at hl 0 rfl) ?_
    refine b_if_ne (tgt := 31) hx hb dX4_fire_22 (by decide) hit (fun c5 hit => ?_) (fun c5 hit => ?_)
    · refine lv_aload_n hx hb dX4_fire_31 rfl (lv_at hl 1 rfl) ?_
      obtain ⟨q6, eq6, hit⟩ := o_bind hit
      refine m_cNv X hM hS (wM_keeps l G dT o ad _  _ eq6) nm_X4_keeps q2116 q2118 q141 q2119 qs110 ⟨Nat.le_trans (Nat.le_of_ble_eq_true rfl) hR.1, Nat.le_trans (Nat.le_of_ble_eq_true rfl) hR.2⟩ rfl rfl hl.1 (lv_room (Nat.le_of_ble_eq_true rfl)) dX4_fire_32 (fun H locs hM hS => ?_)
      refine lv_aload_n hx hb dX4_fire_35 rfl (lv_at hl 1 rfl) ?_
      refine lv_iconst (v := 0) hx hb dX4_fire_36 (by decide) ?_
      refine lv_iload_n hx hb dX4_fire_37 rfl (lv_at hl 2 rfl) ?_
      obtain ⟨q7, eq7, hit⟩ := o_bind hit
      refine m_cNv X hM hS (wM_burns l G dT o ad _ _ _ _ eq7) nm_X4_burns q2159 q2161 q141 q2162 qs116 ⟨Nat.le_trans (Nat.le_of_ble_eq_true rfl) hR.1, Nat.le_trans (Nat.le_of_ble_eq_true rfl) hR.2⟩ rfl rfl hl.1 (lv_room (Nat.le_of_ble_eq_true rfl)) dX4_fire_38 (fun H locs hM hS => ?_)
      refine lv_iload_n hx hb dX4_fire_41 rfl (lv_at hl 0 rfl) ?_
      have he := o_in hit
      exact hend _ q4 _ _ _ _ _ rfl he hM hS dX4_fire_42
    · refine lv_aload_n hx hb dX4_fire_25 rfl (lv_at hl 1 rfl) ?_
      refine lv_iconst (v := 1) hx hb dX4_fire_26 (by decide) ?_
      obtain ⟨q8, eq8, hit⟩ := o_bind hit
      refine m_cNi X hM hS (wM_refuses l G dT o ad _ _ _ eq8) nm_X4_refuses q2112 q2114 q141 q2115 qs109 ⟨Nat.le_trans (Nat.le_of_ble_eq_true rfl) hR.1, Nat.le_trans (Nat.le_of_ble_eq_true rfl) hR.2⟩ rfl rfl hl.1 (lv_room (Nat.le_of_ble_eq_true rfl)) dX4_fire_27 (fun H locs hM hS => ?_)
      have he := o_in hit
      exact hend _ q8.1 _ _ _ _ _ rfl he hM hS dX4_fire_30
  · refine lv_iconst (v := 0) hx hb dX4_fire_13 (by decide) ?_
    have he := o_in hit
    exact hend _ 0 _ _ _ _ _ rfl he hM hS dX4_fire_14
noncomputable def M_goesTo (σ : MS) (a0 : Int32) : Option (MS) :=
  (M_tries σ).bind fun q1 =>
  (M_daysGo q1 a0).bind fun q2 =>
  some q2
theorem nm_X4_goesTo : kNm yX4_goesTo RX4 1 := by unfold kNm; decide +kernel
set_option maxHeartbeats 4000000 in
set_option maxRecDepth 100000 in
theorem wM_goesTo (l : Launch) (G : va_G) (dT : Nat → ClassId) (o : Nat) (ad : Nat → Nat) (σ : MS) (a0 : Int32) (z : MS) (h : M_goesTo σ a0 = some z) : Met l yX4_goesTo (ws_ yX4_goesTo cX4_goesTo 2 none) (kRm 7 160) (mPc G dT o ad σ [.int a0]) (va_Qv (fun (_ : Unit) => True) (fun _ t => MH G dT o ad z t.heap) (mAd o ad)) 0 0 (mAd o ad) := by
  refine m_startNv (cc := cX4_goesTo) rfl rfl rfl (fun p e R s m args below meth c Q ls X hR hM hS hl hend => ?_)
  have hx := X.1.1
  have hb := X.1.2.1
  have hit := h
  clear h
  unfold M_goesTo at hit
  have hl : lv_has ls 2 [(0, .ref o), (1, .int a0)] := hl
  refine lv_aload_n hx hb dX4_goesTo_0 rfl (lv_at hl 0 rfl) ?_
  obtain ⟨q1, eq1, hit⟩ := o_bind hit
  refine m_cNv X hM hS (wM_tries l G dT o ad _  _ eq1) nm_X4_tries q2175 q2177 q141 q2178 qs119 ⟨Nat.le_trans (Nat.le_of_ble_eq_true rfl) hR.1, Nat.le_trans (Nat.le_of_ble_eq_true rfl) hR.2⟩ rfl rfl hl.1 (lv_room (Nat.le_of_ble_eq_true rfl)) dX4_goesTo_1 (fun H locs hM hS => ?_)
  refine lv_aload_n hx hb dX4_goesTo_4 rfl (lv_at hl 0 rfl) ?_
  refine lv_iload_n hx hb dX4_goesTo_5 rfl (lv_at hl 1 rfl) ?_
  obtain ⟨q2, eq2, hit⟩ := o_bind hit
  refine m_cNv X hM hS (wM_daysGo l G dT o ad _ _ _ eq2) nm_X4_daysGo q2179 q2181 q141 q2182 qs120 ⟨Nat.le_trans (Nat.le_of_ble_eq_true rfl) hR.1, Nat.le_trans (Nat.le_of_ble_eq_true rfl) hR.2⟩ rfl rfl hl.1 (lv_room (Nat.le_of_ble_eq_true rfl)) dX4_goesTo_6 (fun H locs hM hS => ?_)
  have he := o_in hit
  exact hend _ _ _ _ _ he hM hS dX4_goesTo_9
noncomputable def M_then (σ : MS) (a0 : Int32) (a1 : Int32) (a2 : Int32) : Option (Int32 × MS) :=
  (pf σ 0 0).bind fun s1 =>
  (M_isClerk s1 a0).bind fun q2 =>
  if q2.1 = 0 then
    (some (0, q2.2))
  else
    ((M_isWhat q2.2 a2 1).bind fun q4 =>
    if q4.1 = 0 then
      (some (0, q4.2))
    else
      ((M_isDays q4.2 a1 0 2).bind fun q6 =>
      if q6.1 = 0 then
        (some (0, q6.2))
      else
        ((M_goesTo q6.2 a1).bind fun q8 =>
        if a2 = 0 then
          ((M_clerkIn q8 34 a0).bind fun q11 =>
          some (q11, q8))
        else
          ((ald q8 44 (62 + a0)).bind fun v10 =>
          some (v10, q8)))))
theorem nm_X4_then : kNm yX4_then RX4 3 := by unfold kNm; decide +kernel
set_option maxHeartbeats 4000000 in
set_option maxRecDepth 100000 in
theorem wM_then (l : Launch) (G : va_G) (dT : Nat → ClassId) (o : Nat) (ad : Nat → Nat) (σ : MS) (a0 : Int32) (a1 : Int32) (a2 : Int32) (z : Int32 × MS) (h : M_then σ a0 a1 a2 = some z) : Met l yX4_then (ws_ yX4_then cX4_then 4 (some .int)) (kRm 8 181) (mPc G dT o ad σ [.int a0, .int a1, .int a2]) (va_Qi (fun r (_ : Unit) => r = z.1) (fun _ t => MH G dT o ad z.2 t.heap) (mAd o ad)) 0 0 (mAd o ad) := by
  refine m_startNi (cc := cX4_then) (ty := .int) rfl rfl rfl (fun p e R s m args below meth c Q ls X hR hM hS hl hend => ?_)
  have hx := X.1.1
  have hb := X.1.2.1
  have hit := h
  clear h
  unfold M_then at hit
  have hl : lv_has ls 4 [(0, .ref o), (1, .int a0), (2, .int a1), (3, .int a2)] := hl
  refine lv_aload_n hx hb dX4_then_0 rfl (lv_at hl 0 rfl) ?_
  refine lv_iconst (v := 0) hx hb dX4_then_1 (by decide) ?_
  obtain ⟨s1, es1, hit⟩ := o_bind hit
  refine m_put X hM hS 0 q1644 rfl rfl (ty := .int) rfl rfl rfl es1 dX4_then_2 (fun H locs hM hS => ?_)
  refine lv_aload_n hx hb dX4_then_5 rfl (lv_at hl 0 rfl) ?_
  refine lv_iload_n hx hb dX4_then_6 rfl (lv_at hl 1 rfl) ?_
  obtain ⟨q2, eq2, hit⟩ := o_bind hit
  refine m_cNi X hM hS (wM_isClerk l G dT o ad _ _ _ eq2) nm_X4_isClerk q2056 q2058 q141 q2059 qs98 ⟨Nat.le_trans (Nat.le_of_ble_eq_true rfl) hR.1, Nat.le_trans (Nat.le_of_ble_eq_true rfl) hR.2⟩ rfl rfl hl.1 (lv_room (Nat.le_of_ble_eq_true rfl)) dX4_then_7 (fun H locs hM hS => ?_)
  refine b_if_eq (tgt := 32) hx hb dX4_then_10 (by decide) hit (fun c3 hit => ?_) (fun c3 hit => ?_)
  · refine lv_iconst (v := 0) hx hb dX4_then_32 (by decide) ?_
    have he := o_in hit
    exact hend _ 0 _ _ _ _ _ rfl he hM hS dX4_then_33
  · refine lv_aload_n hx hb dX4_then_13 rfl (lv_at hl 0 rfl) ?_
    refine lv_iload_n hx hb dX4_then_14 rfl (lv_at hl 3 rfl) ?_
    refine lv_iconst (v := 1) hx hb dX4_then_15 (by decide) ?_
    obtain ⟨q4, eq4, hit⟩ := o_bind hit
    refine m_cNi X hM hS (wM_isWhat l G dT o ad _ _ _ _ eq4) nm_X4_isWhat q2032 q2034 q141 q2035 qs93 ⟨Nat.le_trans (Nat.le_of_ble_eq_true rfl) hR.1, Nat.le_trans (Nat.le_of_ble_eq_true rfl) hR.2⟩ rfl rfl hl.1 (lv_room (Nat.le_of_ble_eq_true rfl)) dX4_then_16 (fun H locs hM hS => ?_)
    refine b_if_eq (tgt := 32) hx hb dX4_then_19 (by decide) hit (fun c5 hit => ?_) (fun c5 hit => ?_)
    · refine lv_iconst (v := 0) hx hb dX4_then_32 (by decide) ?_
      have he := o_in hit
      exact hend _ 0 _ _ _ _ _ rfl he hM hS dX4_then_33
    · refine lv_aload_n hx hb dX4_then_22 rfl (lv_at hl 0 rfl) ?_
      refine lv_iload_n hx hb dX4_then_23 rfl (lv_at hl 2 rfl) ?_
      refine lv_iconst (v := 0) hx hb dX4_then_24 (by decide) ?_
      refine lv_iconst (v := 2) hx hb dX4_then_25 (by decide) ?_
      obtain ⟨q6, eq6, hit⟩ := o_bind hit
      refine m_cNi X hM hS (wM_isDays l G dT o ad _ _ _ _ _ eq6) nm_X4_isDays q2167 q2169 q141 q2170 qs117 ⟨Nat.le_trans (Nat.le_of_ble_eq_true rfl) hR.1, Nat.le_trans (Nat.le_of_ble_eq_true rfl) hR.2⟩ rfl rfl hl.1 (lv_room (Nat.le_of_ble_eq_true rfl)) dX4_then_26 (fun H locs hM hS => ?_)
      refine b_if_ne (tgt := 34) hx hb dX4_then_29 (by decide) hit (fun c7 hit => ?_) (fun c7 hit => ?_)
      · refine lv_aload_n hx hb dX4_then_34 rfl (lv_at hl 0 rfl) ?_
        refine lv_iload_n hx hb dX4_then_35 rfl (lv_at hl 2 rfl) ?_
        obtain ⟨q8, eq8, hit⟩ := o_bind hit
        refine m_cNv X hM hS (wM_goesTo l G dT o ad _ _ _ eq8) nm_X4_goesTo q2171 q2173 q141 q2174 qs118 ⟨Nat.le_trans (Nat.le_of_ble_eq_true rfl) hR.1, Nat.le_trans (Nat.le_of_ble_eq_true rfl) hR.2⟩ rfl rfl hl.1 (lv_room (Nat.le_of_ble_eq_true rfl)) dX4_then_36 (fun H locs hM hS => ?_)
        refine lv_iload_n hx hb dX4_then_39 rfl (lv_at hl 3 rfl) ?_
        refine b_if_ne (tgt := 53) hx hb dX4_then_40 (by decide) hit (fun c9 hit => ?_) (fun c9 hit => ?_)
        · refine lv_aload_n hx hb dX4_then_53 rfl (lv_at hl 0 rfl) ?_
          refine m_get X hM 44 q1688 rfl rfl (v := .ref (ad 44)) rfl dX4_then_54 ?_
          refine lv_bipush (v := 62) hx hb dX4_then_57 (by decide) ?_
          refine lv_iload_n hx hb dX4_then_59 rfl (lv_at hl 1 rfl) ?_
          refine lv_iadd hx hb dX4_then_60 ?_
          obtain ⟨v10, ev10, hit⟩ := o_bind hit
          refine m_iald X hM 15 44 rfl rfl ev10 dX4_then_61 ?_
          have he := o_in hit
          exact hend _ v10 _ _ _ _ _ rfl he hM hS dX4_then_62
        · refine lv_aload_n hx hb dX4_then_43 rfl (lv_at hl 0 rfl) ?_
          refine lv_bipush (v := 34) hx hb dX4_then_44 (by decide) ?_
          refine lv_iload_n hx hb dX4_then_46 rfl (lv_at hl 1 rfl) ?_
          obtain ⟨q11, eq11, hit⟩ := o_bind hit
          refine m_cR X hM (wM_clerkIn l G dT o ad _ _ _ _ eq11) nm_X4_clerkIn q2040 q2042 q141 q2043 qs95 ⟨Nat.le_trans (Nat.le_of_ble_eq_true rfl) hR.1, Nat.le_trans (Nat.le_of_ble_eq_true rfl) hR.2⟩ rfl rfl hl.1 (lv_room (Nat.le_of_ble_eq_true rfl)) dX4_then_47 ?_
          refine lv_goto (tgt := 62) hx hb dX4_then_50 (by decide) ?_
          have he := o_in hit
          exact hend _ q11 _ _ _ _ _ rfl he hM hS dX4_then_62
      · refine lv_iconst (v := 0) hx hb dX4_then_32 (by decide) ?_
        have he := o_in hit
        exact hend _ 0 _ _ _ _ _ rfl he hM hS dX4_then_33
noncomputable def M_where (σ : MS) (a0 : Int32) (a1 : Int32) : Option (Int32 × MS) :=
  (pf σ 0 0).bind fun s1 =>
  (M_isSheet s1 a0).bind fun q2 =>
  if q2.1 = 0 then
    (some (0, q2.2))
  else
    ((M_isDays q2.2 a1 0 2).bind fun q4 =>
    if q4.1 = 0 then
      (some (0, q4.2))
    else
      ((M_goesTo q4.2 a1).bind fun q6 =>
      (M_sheetIn q6 34 a0).bind fun q7 =>
      some (q7, q6)))
theorem nm_X4_where : kNm yX4_where RX4 2 := by unfold kNm; decide +kernel
set_option maxHeartbeats 4000000 in
set_option maxRecDepth 100000 in
theorem wM_where (l : Launch) (G : va_G) (dT : Nat → ClassId) (o : Nat) (ad : Nat → Nat) (σ : MS) (a0 : Int32) (a1 : Int32) (z : Int32 × MS) (h : M_where σ a0 a1 = some z) : Met l yX4_where (ws_ yX4_where cX4_where 3 (some .int)) (kRm 8 181) (mPc G dT o ad σ [.int a0, .int a1]) (va_Qi (fun r (_ : Unit) => r = z.1) (fun _ t => MH G dT o ad z.2 t.heap) (mAd o ad)) 0 0 (mAd o ad) := by
  refine m_startNi (cc := cX4_where) (ty := .int) rfl rfl rfl (fun p e R s m args below meth c Q ls X hR hM hS hl hend => ?_)
  have hx := X.1.1
  have hb := X.1.2.1
  have hit := h
  clear h
  unfold M_where at hit
  have hl : lv_has ls 3 [(0, .ref o), (1, .int a0), (2, .int a1)] := hl
  refine lv_aload_n hx hb dX4_where_0 rfl (lv_at hl 0 rfl) ?_
  refine lv_iconst (v := 0) hx hb dX4_where_1 (by decide) ?_
  obtain ⟨s1, es1, hit⟩ := o_bind hit
  refine m_put X hM hS 0 q1644 rfl rfl (ty := .int) rfl rfl rfl es1 dX4_where_2 (fun H locs hM hS => ?_)
  refine lv_aload_n hx hb dX4_where_5 rfl (lv_at hl 0 rfl) ?_
  refine lv_iload_n hx hb dX4_where_6 rfl (lv_at hl 1 rfl) ?_
  obtain ⟨q2, eq2, hit⟩ := o_bind hit
  refine m_cNi X hM hS (wM_isSheet l G dT o ad _ _ _ eq2) nm_X4_isSheet q2028 q2030 q141 q2031 qs92 ⟨Nat.le_trans (Nat.le_of_ble_eq_true rfl) hR.1, Nat.le_trans (Nat.le_of_ble_eq_true rfl) hR.2⟩ rfl rfl hl.1 (lv_room (Nat.le_of_ble_eq_true rfl)) dX4_where_7 (fun H locs hM hS => ?_)
  refine b_if_eq (tgt := 23) hx hb dX4_where_10 (by decide) hit (fun c3 hit => ?_) (fun c3 hit => ?_)
  · refine lv_iconst (v := 0) hx hb dX4_where_23 (by decide) ?_
    have he := o_in hit
    exact hend _ 0 _ _ _ _ _ rfl he hM hS dX4_where_24
  · refine lv_aload_n hx hb dX4_where_13 rfl (lv_at hl 0 rfl) ?_
    refine lv_iload_n hx hb dX4_where_14 rfl (lv_at hl 2 rfl) ?_
    refine lv_iconst (v := 0) hx hb dX4_where_15 (by decide) ?_
    refine lv_iconst (v := 2) hx hb dX4_where_16 (by decide) ?_
    obtain ⟨q4, eq4, hit⟩ := o_bind hit
    refine m_cNi X hM hS (wM_isDays l G dT o ad _ _ _ _ _ eq4) nm_X4_isDays q2167 q2169 q141 q2170 qs117 ⟨Nat.le_trans (Nat.le_of_ble_eq_true rfl) hR.1, Nat.le_trans (Nat.le_of_ble_eq_true rfl) hR.2⟩ rfl rfl hl.1 (lv_room (Nat.le_of_ble_eq_true rfl)) dX4_where_17 (fun H locs hM hS => ?_)
    refine b_if_ne (tgt := 25) hx hb dX4_where_20 (by decide) hit (fun c5 hit => ?_) (fun c5 hit => ?_)
    · refine lv_aload_n hx hb dX4_where_25 rfl (lv_at hl 0 rfl) ?_
      refine lv_iload_n hx hb dX4_where_26 rfl (lv_at hl 2 rfl) ?_
      obtain ⟨q6, eq6, hit⟩ := o_bind hit
      refine m_cNv X hM hS (wM_goesTo l G dT o ad _ _ _ eq6) nm_X4_goesTo q2171 q2173 q141 q2174 qs118 ⟨Nat.le_trans (Nat.le_of_ble_eq_true rfl) hR.1, Nat.le_trans (Nat.le_of_ble_eq_true rfl) hR.2⟩ rfl rfl hl.1 (lv_room (Nat.le_of_ble_eq_true rfl)) dX4_where_27 (fun H locs hM hS => ?_)
      refine lv_aload_n hx hb dX4_where_30 rfl (lv_at hl 0 rfl) ?_
      refine lv_bipush (v := 34) hx hb dX4_where_31 (by decide) ?_
      refine lv_iload_n hx hb dX4_where_33 rfl (lv_at hl 1 rfl) ?_
      obtain ⟨q7, eq7, hit⟩ := o_bind hit
      refine m_cR X hM (wM_sheetIn l G dT o ad _ _ _ _ eq7) nm_X4_sheetIn q2036 q2038 q141 q2039 qs94 ⟨Nat.le_trans (Nat.le_of_ble_eq_true rfl) hR.1, Nat.le_trans (Nat.le_of_ble_eq_true rfl) hR.2⟩ rfl rfl hl.1 (lv_room (Nat.le_of_ble_eq_true rfl)) dX4_where_34 ?_
      have he := o_in hit
      exact hend _ q7 _ _ _ _ _ rfl he hM hS dX4_where_37
    · refine lv_iconst (v := 0) hx hb dX4_where_23 (by decide) ?_
      have he := o_in hit
      exact hend _ 0 _ _ _ _ _ rfl he hM hS dX4_where_24
noncomputable def M_first_L29 (a0 : Int32) (a1 : Int32) (t7 : Int32 × MS) : Option ((Int32 × MS) ⊕ (Int32 × MS)) :=
  if t7.1 ≤ 40 then
    ((ald t7.2 44 (62 + a0)).bind fun v10 =>
    if ((v10 >>> (a1 &&& 31)) &&& 1) = 1 then
      (some (.inr (t7.1, t7.2)))
    else
      ((M_dayGoes t7.2 34).bind fun q12 =>
      some (.inl ((t7.1 + 1), q12))))
  else
    (some (.inr ((-1), t7.2)))
noncomputable def M_first (σ : MS) (a0 : Int32) (a1 : Int32) : Option (Int32 × MS) :=
  (pf σ 0 0).bind fun s1 =>
  (M_isClerk s1 a0).bind fun q2 =>
  if q2.1 = 0 then
    (some (0, q2.2))
  else
    ((M_isWord q2.2 a1).bind fun q4 =>
    if q4.1 = 0 then
      (some (0, q4.2))
    else
      ((M_tries q4.2).bind fun q6 =>
      o_loop (M_first_L29 a0 a1) (0, q6)))
theorem nm_X4_first : kNm yX4_first RX4 2 := by unfold kNm; decide +kernel
set_option maxHeartbeats 4000000 in
set_option maxRecDepth 100000 in
theorem wM_first (l : Launch) (G : va_G) (dT : Nat → ClassId) (o : Nat) (ad : Nat → Nat) (σ : MS) (a0 : Int32) (a1 : Int32) (z : Int32 × MS) (h : M_first σ a0 a1 = some z) : Met l yX4_first (ws_ yX4_first cX4_first 4 (some .int)) (kRm 6 138) (mPc G dT o ad σ [.int a0, .int a1]) (va_Qi (fun r (_ : Unit) => r = z.1) (fun _ t => MH G dT o ad z.2 t.heap) (mAd o ad)) 0 0 (mAd o ad) := by
  refine m_startNi (cc := cX4_first) (ty := .int) rfl rfl rfl (fun p e R s m args below meth c Q ls X hR hM hS hl hend => ?_)
  have hx := X.1.1
  have hb := X.1.2.1
  have hit := h
  clear h
  unfold M_first at hit
  have hl : lv_has ls 4 [(0, .ref o), (1, .int a0), (2, .int a1)] := hl
  refine lv_aload_n hx hb dX4_first_0 rfl (lv_at hl 0 rfl) ?_
  refine lv_iconst (v := 0) hx hb dX4_first_1 (by decide) ?_
  obtain ⟨s1, es1, hit⟩ := o_bind hit
  refine m_put X hM hS 0 q1644 rfl rfl (ty := .int) rfl rfl rfl es1 dX4_first_2 (fun H locs hM hS => ?_)
  refine lv_aload_n hx hb dX4_first_5 rfl (lv_at hl 0 rfl) ?_
  refine lv_iload_n hx hb dX4_first_6 rfl (lv_at hl 1 rfl) ?_
  obtain ⟨q2, eq2, hit⟩ := o_bind hit
  refine m_cNi X hM hS (wM_isClerk l G dT o ad _ _ _ eq2) nm_X4_isClerk q2056 q2058 q141 q2059 qs98 ⟨Nat.le_trans (Nat.le_of_ble_eq_true rfl) hR.1, Nat.le_trans (Nat.le_of_ble_eq_true rfl) hR.2⟩ rfl rfl hl.1 (lv_room (Nat.le_of_ble_eq_true rfl)) dX4_first_7 (fun H locs hM hS => ?_)
  refine b_if_eq (tgt := 21) hx hb dX4_first_10 (by decide) hit (fun c3 hit => ?_) (fun c3 hit => ?_)
  · refine lv_iconst (v := 0) hx hb dX4_first_21 (by decide) ?_
    have he := o_in hit
    exact hend _ 0 _ _ _ _ _ rfl he hM hS dX4_first_22
  · refine lv_aload_n hx hb dX4_first_13 rfl (lv_at hl 0 rfl) ?_
    refine lv_iload_n hx hb dX4_first_14 rfl (lv_at hl 2 rfl) ?_
    obtain ⟨q4, eq4, hit⟩ := o_bind hit
    refine m_cNi X hM hS (wM_isWord l G dT o ad _ _ _ eq4) nm_X4_isWord q2064 q2066 q141 q2067 qs99 ⟨Nat.le_trans (Nat.le_of_ble_eq_true rfl) hR.1, Nat.le_trans (Nat.le_of_ble_eq_true rfl) hR.2⟩ rfl rfl hl.1 (lv_room (Nat.le_of_ble_eq_true rfl)) dX4_first_15 (fun H locs hM hS => ?_)
    refine b_if_ne (tgt := 23) hx hb dX4_first_18 (by decide) hit (fun c5 hit => ?_) (fun c5 hit => ?_)
    · refine lv_aload_n hx hb dX4_first_23 rfl (lv_at hl 0 rfl) ?_
      obtain ⟨q6, eq6, hit⟩ := o_bind hit
      refine m_cNv X hM hS (wM_tries l G dT o ad _  _ eq6) nm_X4_tries q2175 q2177 q141 q2178 qs119 ⟨Nat.le_trans (Nat.le_of_ble_eq_true rfl) hR.1, Nat.le_trans (Nat.le_of_ble_eq_true rfl) hR.2⟩ rfl rfl hl.1 (lv_room (Nat.le_of_ble_eq_true rfl)) dX4_first_24 (fun H locs hM hS => ?_)
      refine lv_iconst (v := 0) hx hb dX4_first_27 (by decide) ?_
      refine lv_istore_n (lv' := [(3, .int 0), (0, .ref o), (1, .int a0), (2, .int a1)]) hx hb dX4_first_28 rfl hl (by decide) rfl (fun ls hl => ?_)
      refine o_rec (P := fun t7 => ∀ (H : Heap) (locs : List Loc) (ls : Array Slot), MH G dT o ad t7.2 H → va_S (mAd o ad) s.heap H locs → lv_has ls 4 [(0, .ref o), (1, .int a0), (2, .int a1), (3, .int t7.1)] → W p l e R s m args below meth c H locs 0 0 Q (F0 m 29 ls [])) (fun t7 x8 hit hC7 hE7 H locs ls hM hS hl => ?_) _ hit _ _ _ hM hS (lv_sub hl [1, 2, 3, 0] rfl)
      unfold M_first_L29 at hit
      refine lv_iload_n hx hb dX4_first_29 rfl (lv_at hl 3 rfl) ?_
      refine lv_bipush (v := 40) hx hb dX4_first_30 (by decide) ?_
      refine b_icmp_gt (tgt := 66) hx hb dX4_first_32 (by decide) hit (fun c9 hit => ?_) (fun c9 hit => ?_)
      · refine lv_iconst (v := (-1)) hx hb dX4_first_66 (by decide) ?_
        have he := o_in hit
        have he := hE7 _ he
        exact hend _ (-1) _ _ _ _ _ rfl he hM hS dX4_first_67
      · refine lv_aload_n hx hb dX4_first_35 rfl (lv_at hl 0 rfl) ?_
        refine m_get X hM 44 q1688 rfl rfl (v := .ref (ad 44)) rfl dX4_first_36 ?_
        refine lv_bipush (v := 62) hx hb dX4_first_39 (by decide) ?_
        refine lv_iload_n hx hb dX4_first_41 rfl (lv_at hl 1 rfl) ?_
        refine lv_iadd hx hb dX4_first_42 ?_
        obtain ⟨v10, ev10, hit⟩ := o_bind hit
        refine m_iald X hM 15 44 rfl rfl ev10 dX4_first_43 ?_
        refine lv_iload_n hx hb dX4_first_44 rfl (lv_at hl 2 rfl) ?_
        refine lv_ishr hx hb dX4_first_45 ?_
        refine lv_iconst (v := 1) hx hb dX4_first_46 (by decide) ?_
        refine lv_iand hx hb dX4_first_47 ?_
        refine lv_iconst (v := 1) hx hb dX4_first_48 (by decide) ?_
        refine b_icmp_ne (tgt := 54) hx hb dX4_first_49 (by decide) hit (fun c11 hit => ?_) (fun c11 hit => ?_)
        · refine lv_aload_n hx hb dX4_first_54 rfl (lv_at hl 0 rfl) ?_
          refine lv_bipush (v := 34) hx hb dX4_first_55 (by decide) ?_
          obtain ⟨q12, eq12, hit⟩ := o_bind hit
          refine m_cNv X hM hS (wM_dayGoes l G dT o ad _ _ _ eq12) nm_X4_dayGoes q2120 q2122 q141 q2123 qs111 ⟨Nat.le_trans (Nat.le_of_ble_eq_true rfl) hR.1, Nat.le_trans (Nat.le_of_ble_eq_true rfl) hR.2⟩ rfl rfl hl.1 (lv_room (Nat.le_of_ble_eq_true rfl)) dX4_first_57 (fun H locs hM hS => ?_)
          refine lv_iinc (k := 3) (v := (t7.1 + 1)) (lv' := [(3, .int (t7.1 + 1)), (0, .ref o), (1, .int a0), (2, .int a1)]) hx hb dX4_first_60 hl rfl rfl (by decide) rfl (fun ls hl => ?_)
          refine lv_goto (tgt := 29) hx hb dX4_first_63 (by decide) ?_
          have he := o_in hit
          exact hC7 _ he _ _ _ hM hS (lv_sub hl [1, 2, 3, 0] rfl)
        · refine lv_iload_n hx hb dX4_first_52 rfl (lv_at hl 3 rfl) ?_
          have he := o_in hit
          have he := hE7 _ he
          exact hend _ t7.1 _ _ _ _ _ rfl he hM hS dX4_first_53
    · refine lv_iconst (v := 0) hx hb dX4_first_21 (by decide) ?_
      have he := o_in hit
      exact hend _ 0 _ _ _ _ _ rfl he hM hS dX4_first_22
noncomputable def M_read_L36 (q6 : MS) (t7 : Int32 × Int32) : Option ((Int32 × Int32) ⊕ Int32) :=
  if t7.2 < (mf q6 3) then
    ((M_knowers q6 34 t7.2).bind fun q14 =>
    (M_bits q14).bind fun q15 =>
    ((if q15 = 1 then
        (some ((1 : Int32) <<< (t7.2 &&& 31)))
      else
        (some 0) : Option Int32)).bind fun r16 =>
    some (.inl ((t7.1 ||| r16), (t7.2 + 1))))
  else
    (some (.inr t7.1))
noncomputable def M_read (σ : MS) (a0 : Int32) (a1 : Int32) : Option (Int32 × MS) :=
  (pf σ 0 0).bind fun s1 =>
  (M_isWhat s1 a1 1).bind fun q2 =>
  if q2.1 = 0 then
    (some (0, q2.2))
  else
    ((M_isDays q2.2 a0 0 2).bind fun q4 =>
    if q4.1 = 0 then
      (some (0, q4.2))
    else
      ((M_goesTo q4.2 a0).bind fun q6 =>
      (o_loop (M_read_L36 q6) (0, 0)).bind fun r9 =>
      if a1 = 0 then
        ((M_everybody q6).bind fun q11 =>
        (M_knownBy q6 34 q11).bind fun q12 =>
        some (q12, q6))
      else
        (some (r9, q6))))
theorem nm_X4_read : kNm yX4_read RX4 2 := by unfold kNm; decide +kernel
set_option maxHeartbeats 4000000 in
set_option maxRecDepth 100000 in
theorem wM_read (l : Launch) (G : va_G) (dT : Nat → ClassId) (o : Nat) (ad : Nat → Nat) (σ : MS) (a0 : Int32) (a1 : Int32) (z : Int32 × MS) (h : M_read σ a0 a1 = some z) : Met l yX4_read (ws_ yX4_read cX4_read 5 (some .int)) (kRm 8 181) (mPc G dT o ad σ [.int a0, .int a1]) (va_Qi (fun r (_ : Unit) => r = z.1) (fun _ t => MH G dT o ad z.2 t.heap) (mAd o ad)) 0 0 (mAd o ad) := by
  refine m_startNi (cc := cX4_read) (ty := .int) rfl rfl rfl (fun p e R s m args below meth c Q ls X hR hM hS hl hend => ?_)
  have hx := X.1.1
  have hb := X.1.2.1
  have hit := h
  clear h
  unfold M_read at hit
  have hl : lv_has ls 5 [(0, .ref o), (1, .int a0), (2, .int a1)] := hl
  refine lv_aload_n hx hb dX4_read_0 rfl (lv_at hl 0 rfl) ?_
  refine lv_iconst (v := 0) hx hb dX4_read_1 (by decide) ?_
  obtain ⟨s1, es1, hit⟩ := o_bind hit
  refine m_put X hM hS 0 q1644 rfl rfl (ty := .int) rfl rfl rfl es1 dX4_read_2 (fun H locs hM hS => ?_)
  refine lv_aload_n hx hb dX4_read_5 rfl (lv_at hl 0 rfl) ?_
  refine lv_iload_n hx hb dX4_read_6 rfl (lv_at hl 2 rfl) ?_
  refine lv_iconst (v := 1) hx hb dX4_read_7 (by decide) ?_
  obtain ⟨q2, eq2, hit⟩ := o_bind hit
  refine m_cNi X hM hS (wM_isWhat l G dT o ad _ _ _ _ eq2) nm_X4_isWhat q2032 q2034 q141 q2035 qs93 ⟨Nat.le_trans (Nat.le_of_ble_eq_true rfl) hR.1, Nat.le_trans (Nat.le_of_ble_eq_true rfl) hR.2⟩ rfl rfl hl.1 (lv_room (Nat.le_of_ble_eq_true rfl)) dX4_read_8 (fun H locs hM hS => ?_)
  refine b_if_eq (tgt := 24) hx hb dX4_read_11 (by decide) hit (fun c3 hit => ?_) (fun c3 hit => ?_)
  · refine lv_iconst (v := 0) hx hb dX4_read_24 (by decide) ?_
    have he := o_in hit
    exact hend _ 0 _ _ _ _ _ rfl he hM hS dX4_read_25
  · refine lv_aload_n hx hb dX4_read_14 rfl (lv_at hl 0 rfl) ?_
    refine lv_iload_n hx hb dX4_read_15 rfl (lv_at hl 1 rfl) ?_
    refine lv_iconst (v := 0) hx hb dX4_read_16 (by decide) ?_
    refine lv_iconst (v := 2) hx hb dX4_read_17 (by decide) ?_
    obtain ⟨q4, eq4, hit⟩ := o_bind hit
    refine m_cNi X hM hS (wM_isDays l G dT o ad _ _ _ _ _ eq4) nm_X4_isDays q2167 q2169 q141 q2170 qs117 ⟨Nat.le_trans (Nat.le_of_ble_eq_true rfl) hR.1, Nat.le_trans (Nat.le_of_ble_eq_true rfl) hR.2⟩ rfl rfl hl.1 (lv_room (Nat.le_of_ble_eq_true rfl)) dX4_read_18 (fun H locs hM hS => ?_)
    refine b_if_ne (tgt := 26) hx hb dX4_read_21 (by decide) hit (fun c5 hit => ?_) (fun c5 hit => ?_)
    · refine lv_aload_n hx hb dX4_read_26 rfl (lv_at hl 0 rfl) ?_
      refine lv_iload_n hx hb dX4_read_27 rfl (lv_at hl 1 rfl) ?_
      obtain ⟨q6, eq6, hit⟩ := o_bind hit
      refine m_cNv X hM hS (wM_goesTo l G dT o ad _ _ _ eq6) nm_X4_goesTo q2171 q2173 q141 q2174 qs118 ⟨Nat.le_trans (Nat.le_of_ble_eq_true rfl) hR.1, Nat.le_trans (Nat.le_of_ble_eq_true rfl) hR.2⟩ rfl rfl hl.1 (lv_room (Nat.le_of_ble_eq_true rfl)) dX4_read_28 (fun H locs hM hS => ?_)
      refine lv_iconst (v := 0) hx hb dX4_read_31 (by decide) ?_
      refine lv_istore_n (lv' := [(3, .int 0), (0, .ref o), (1, .int a0), (2, .int a1)]) hx hb dX4_read_32 rfl hl (by decide) rfl (fun ls hl => ?_)
      refine lv_iconst (v := 0) hx hb dX4_read_33 (by decide) ?_
      refine lv_istore (lv' := [(4, .int 0), (3, .int 0), (0, .ref o), (1, .int a0), (2, .int a1)]) hx hb dX4_read_34 hl (by decide) rfl (fun ls hl => ?_)
      obtain ⟨r9, er9, hit⟩ := o_bind hit
      have hr9 : ∀ (H : Heap) (locs : List Loc) (ls : Array Slot), MH G dT o ad q6 H → va_S (mAd o ad) s.heap H locs → lv_has ls 5 [(0, .ref o), (2, .int a1), (3, .int r9)] → W p l e R s m args below meth c H locs 0 0 Q (F0 m 77 ls []) := by
        intro H locs ls hM hS hl
        refine lv_iload_n hx hb dX4_read_77 rfl (lv_at hl 1 rfl) ?_
        refine b_if_ne (tgt := 94) hx hb dX4_read_78 (by decide) hit (fun c10 hit => ?_) (fun c10 hit => ?_)
        · refine lv_iload_n hx hb dX4_read_94 rfl (lv_at hl 2 rfl) ?_
          have he := o_in hit
          exact hend _ r9 _ _ _ _ _ rfl he hM hS dX4_read_95
        · refine lv_aload_n hx hb dX4_read_81 rfl (lv_at hl 0 rfl) ?_
          refine lv_bipush (v := 34) hx hb dX4_read_82 (by decide) ?_
          refine lv_aload_n hx hb dX4_read_84 rfl (lv_at hl 0 rfl) ?_
          obtain ⟨q11, eq11, hit⟩ := o_bind hit
          refine m_cR X hM (wM_everybody l G dT o ad _  _ eq11) nm_X4_everybody q1998 q2000 q141 q2001 qs87 ⟨Nat.le_trans (Nat.le_of_ble_eq_true rfl) hR.1, Nat.le_trans (Nat.le_of_ble_eq_true rfl) hR.2⟩ rfl rfl hl.1 (lv_room (Nat.le_of_ble_eq_true rfl)) dX4_read_85 ?_
          obtain ⟨q12, eq12, hit⟩ := o_bind hit
          refine m_cR X hM (wM_knownBy l G dT o ad _ _ _ _ eq12) nm_X4_knownBy q2002 q2004 q141 q2005 qs88 ⟨Nat.le_trans (Nat.le_of_ble_eq_true rfl) hR.1, Nat.le_trans (Nat.le_of_ble_eq_true rfl) hR.2⟩ rfl rfl hl.1 (lv_room (Nat.le_of_ble_eq_true rfl)) dX4_read_88 ?_
          refine lv_goto (tgt := 95) hx hb dX4_read_91 (by decide) ?_
          have he := o_in hit
          exact hend _ q12 _ _ _ _ _ rfl he hM hS dX4_read_95
      refine o_rec (P := fun t7 => ∀ (H : Heap) (locs : List Loc) (ls : Array Slot), MH G dT o ad q6 H → va_S (mAd o ad) s.heap H locs → lv_has ls 5 [(0, .ref o), (2, .int a1), (3, .int t7.1), (4, .int t7.2)] → W p l e R s m args below meth c H locs 0 0 Q (F0 m 36 ls [])) (fun t7 x8 hit hC7 hE7 H locs ls hM hS hl => ?_) _ er9 _ _ _ hM hS (lv_sub hl [2, 4, 1, 0] rfl)
      unfold M_read_L36 at hit
      refine lv_iload hx hb dX4_read_36 (lv_at hl 3 rfl) ?_
      refine lv_aload_n hx hb dX4_read_38 rfl (lv_at hl 0 rfl) ?_
      refine m_get X hM 3 q1647 rfl rfl (v := .int (mf q6 3)) rfl dX4_read_39 ?_
      refine b_icmp_ge (tgt := 77) hx hb dX4_read_42 (by decide) hit (fun c13 hit => ?_) (fun c13 hit => ?_)
      · have he := o_in hit
        have he := hE7 _ he
        subst he
        exact hr9 _ _ _ hM hS (lv_sub hl [0, 1, 2] rfl)
      · refine lv_iload_n hx hb dX4_read_45 rfl (lv_at hl 2 rfl) ?_
        refine lv_aload_n hx hb dX4_read_46 rfl (lv_at hl 0 rfl) ?_
        refine lv_bipush (v := 34) hx hb dX4_read_47 (by decide) ?_
        refine lv_iload hx hb dX4_read_49 (lv_at hl 3 rfl) ?_
        obtain ⟨q14, eq14, hit⟩ := o_bind hit
        refine m_cR X hM (wM_knowers l G dT o ad _ _ _ _ eq14) nm_X4_knowers q2080 q2082 q141 q2083 qs103 ⟨Nat.le_trans (Nat.le_of_ble_eq_true rfl) hR.1, Nat.le_trans (Nat.le_of_ble_eq_true rfl) hR.2⟩ rfl rfl hl.1 (lv_room (Nat.le_of_ble_eq_true rfl)) dX4_read_51 ?_
        obtain ⟨q15, eq15, hit⟩ := o_bind hit
        refine m_cP X.1 (wM_bits l _ _ eq15) nm_X4_bits q2018 q2019 q141 q2020 ⟨Nat.le_trans (Nat.le_of_ble_eq_true rfl) hR.1, Nat.le_trans (Nat.le_of_ble_eq_true rfl) hR.2⟩ rfl rfl hl.1 (lv_room (Nat.le_of_ble_eq_true rfl)) dX4_read_54 ?_
        refine lv_iconst (v := 1) hx hb dX4_read_57 (by decide) ?_
        obtain ⟨r16, er16, hit⟩ := o_bind hit
        have hr16 : ∀ (H : Heap) (locs : List Loc) (ls : Array Slot), MH G dT o ad q6 H → va_S (mAd o ad) s.heap H locs → lv_has ls 5 [(0, .ref o), (2, .int a1), (4, .int t7.2)] → W p l e R s m args below meth c H locs 0 0 Q (F0 m 69 ls [.int r16, .int t7.1]) := by
          intro H locs ls hM hS hl
          refine lv_ior hx hb dX4_read_69 ?_
          refine lv_istore_n (lv' := [(3, .int (t7.1 ||| r16)), (0, .ref o), (2, .int a1), (4, .int t7.2)]) hx hb dX4_read_70 rfl hl (by decide) rfl (fun ls hl => ?_)
          refine lv_iinc (k := 3) (v := (t7.2 + 1)) (lv' := [(4, .int (t7.2 + 1)), (3, .int (t7.1 ||| r16)), (0, .ref o), (2, .int a1)]) hx hb dX4_read_71 hl rfl rfl (by decide) rfl (fun ls hl => ?_)
          refine lv_goto (tgt := 36) hx hb dX4_read_74 (by decide) ?_
          have he := o_in hit
          exact hC7 _ he _ _ _ hM hS (lv_sub hl [2, 3, 1, 0] rfl)
        have hit := er16
        refine b_icmp_ne (tgt := 68) hx hb dX4_read_58 (by decide) hit (fun c17 hit => ?_) (fun c17 hit => ?_)
        · refine lv_iconst (v := 0) hx hb dX4_read_68 (by decide) ?_
          have he := o_in hit
          subst he
          exact hr16 _ _ _ hM hS (lv_sub hl [0, 1, 3] rfl)
        · refine lv_iconst (v := 1) hx hb dX4_read_61 (by decide) ?_
          refine lv_iload hx hb dX4_read_62 (lv_at hl 3 rfl) ?_
          refine lv_ishl hx hb dX4_read_64 ?_
          refine lv_goto (tgt := 69) hx hb dX4_read_65 (by decide) ?_
          have he := o_in hit
          subst he
          exact hr16 _ _ _ hM hS (lv_sub hl [0, 1, 3] rfl)
    · refine lv_iconst (v := 0) hx hb dX4_read_24 (by decide) ?_
      have he := o_in hit
      exact hend _ 0 _ _ _ _ _ rfl he hM hS dX4_read_25
noncomputable def M_mould_L21 (a0 : Int32) (t5 : Int32 × MS) : Option ((Int32 × MS) ⊕ (Int32 × MS)) :=
  if t5.1 ≤ 40 then
    ((M_dayGoes t5.2 34).bind fun q8 =>
    (ald q8 44 (44 + a0)).bind fun v9 =>
    (ald q8 44 (10 + a0)).bind fun v10 =>
    if v9 = v10 then
      (some (.inl ((t5.1 + 1), q8)))
    else
      (some (.inr (t5.1, q8))))
  else
    (some (.inr ((-1), t5.2)))
noncomputable def M_mould (σ : MS) (a0 : Int32) : Option (Int32 × MS) :=
  (pf σ 0 0).bind fun s1 =>
  (M_isSheet s1 a0).bind fun q2 =>
  if q2.1 = 0 then
    (some (0, q2.2))
  else
    ((M_tries q2.2).bind fun q4 =>
    o_loop (M_mould_L21 a0) (1, q4))
theorem nm_X4_mould : kNm yX4_mould RX4 1 := by unfold kNm; decide +kernel
set_option maxHeartbeats 4000000 in
set_option maxRecDepth 100000 in
theorem wM_mould (l : Launch) (G : va_G) (dT : Nat → ClassId) (o : Nat) (ad : Nat → Nat) (σ : MS) (a0 : Int32) (z : Int32 × MS) (h : M_mould σ a0 = some z) : Met l yX4_mould (ws_ yX4_mould cX4_mould 3 (some .int)) (kRm 6 138) (mPc G dT o ad σ [.int a0]) (va_Qi (fun r (_ : Unit) => r = z.1) (fun _ t => MH G dT o ad z.2 t.heap) (mAd o ad)) 0 0 (mAd o ad) := by
  refine m_startNi (cc := cX4_mould) (ty := .int) rfl rfl rfl (fun p e R s m args below meth c Q ls X hR hM hS hl hend => ?_)
  have hx := X.1.1
  have hb := X.1.2.1
  have hit := h
  clear h
  unfold M_mould at hit
  have hl : lv_has ls 3 [(0, .ref o), (1, .int a0)] := hl
  refine lv_aload_n hx hb dX4_mould_0 rfl (lv_at hl 0 rfl) ?_
  refine lv_iconst (v := 0) hx hb dX4_mould_1 (by decide) ?_
  obtain ⟨s1, es1, hit⟩ := o_bind hit
  refine m_put X hM hS 0 q1644 rfl rfl (ty := .int) rfl rfl rfl es1 dX4_mould_2 (fun H locs hM hS => ?_)
  refine lv_aload_n hx hb dX4_mould_5 rfl (lv_at hl 0 rfl) ?_
  refine lv_iload_n hx hb dX4_mould_6 rfl (lv_at hl 1 rfl) ?_
  obtain ⟨q2, eq2, hit⟩ := o_bind hit
  refine m_cNi X hM hS (wM_isSheet l G dT o ad _ _ _ eq2) nm_X4_isSheet q2028 q2030 q141 q2031 qs92 ⟨Nat.le_trans (Nat.le_of_ble_eq_true rfl) hR.1, Nat.le_trans (Nat.le_of_ble_eq_true rfl) hR.2⟩ rfl rfl hl.1 (lv_room (Nat.le_of_ble_eq_true rfl)) dX4_mould_7 (fun H locs hM hS => ?_)
  refine b_if_ne (tgt := 15) hx hb dX4_mould_10 (by decide) hit (fun c3 hit => ?_) (fun c3 hit => ?_)
  · refine lv_aload_n hx hb dX4_mould_15 rfl (lv_at hl 0 rfl) ?_
    obtain ⟨q4, eq4, hit⟩ := o_bind hit
    refine m_cNv X hM hS (wM_tries l G dT o ad _  _ eq4) nm_X4_tries q2175 q2177 q141 q2178 qs119 ⟨Nat.le_trans (Nat.le_of_ble_eq_true rfl) hR.1, Nat.le_trans (Nat.le_of_ble_eq_true rfl) hR.2⟩ rfl rfl hl.1 (lv_room (Nat.le_of_ble_eq_true rfl)) dX4_mould_16 (fun H locs hM hS => ?_)
    refine lv_iconst (v := 1) hx hb dX4_mould_19 (by decide) ?_
    refine lv_istore_n (lv' := [(2, .int 1), (0, .ref o), (1, .int a0)]) hx hb dX4_mould_20 rfl hl (by decide) rfl (fun ls hl => ?_)
    refine o_rec (P := fun t5 => ∀ (H : Heap) (locs : List Loc) (ls : Array Slot), MH G dT o ad t5.2 H → va_S (mAd o ad) s.heap H locs → lv_has ls 3 [(0, .ref o), (1, .int a0), (2, .int t5.1)] → W p l e R s m args below meth c H locs 0 0 Q (F0 m 21 ls [])) (fun t5 x6 hit hC5 hE5 H locs ls hM hS hl => ?_) _ hit _ _ _ hM hS (lv_sub hl [1, 2, 0] rfl)
    unfold M_mould_L21 at hit
    refine lv_iload_n hx hb dX4_mould_21 rfl (lv_at hl 2 rfl) ?_
    refine lv_bipush (v := 40) hx hb dX4_mould_22 (by decide) ?_
    refine b_icmp_gt (tgt := 62) hx hb dX4_mould_24 (by decide) hit (fun c7 hit => ?_) (fun c7 hit => ?_)
    · refine lv_iconst (v := (-1)) hx hb dX4_mould_62 (by decide) ?_
      have he := o_in hit
      have he := hE5 _ he
      exact hend _ (-1) _ _ _ _ _ rfl he hM hS dX4_mould_63
    · refine lv_aload_n hx hb dX4_mould_27 rfl (lv_at hl 0 rfl) ?_
      refine lv_bipush (v := 34) hx hb dX4_mould_28 (by decide) ?_
      obtain ⟨q8, eq8, hit⟩ := o_bind hit
      refine m_cNv X hM hS (wM_dayGoes l G dT o ad _ _ _ eq8) nm_X4_dayGoes q2120 q2122 q141 q2123 qs111 ⟨Nat.le_trans (Nat.le_of_ble_eq_true rfl) hR.1, Nat.le_trans (Nat.le_of_ble_eq_true rfl) hR.2⟩ rfl rfl hl.1 (lv_room (Nat.le_of_ble_eq_true rfl)) dX4_mould_30 (fun H locs hM hS => ?_)
      refine lv_aload_n hx hb dX4_mould_33 rfl (lv_at hl 0 rfl) ?_
      refine m_get X hM 44 q1688 rfl rfl (v := .ref (ad 44)) rfl dX4_mould_34 ?_
      refine lv_bipush (v := 44) hx hb dX4_mould_37 (by decide) ?_
      refine lv_iload_n hx hb dX4_mould_39 rfl (lv_at hl 1 rfl) ?_
      refine lv_iadd hx hb dX4_mould_40 ?_
      obtain ⟨v9, ev9, hit⟩ := o_bind hit
      refine m_iald X hM 15 44 rfl rfl ev9 dX4_mould_41 ?_
      refine lv_aload_n hx hb dX4_mould_42 rfl (lv_at hl 0 rfl) ?_
      refine m_get X hM 44 q1688 rfl rfl (v := .ref (ad 44)) rfl dX4_mould_43 ?_
      refine lv_bipush (v := 10) hx hb dX4_mould_46 (by decide) ?_
      refine lv_iload_n hx hb dX4_mould_48 rfl (lv_at hl 1 rfl) ?_
      refine lv_iadd hx hb dX4_mould_49 ?_
      obtain ⟨v10, ev10, hit⟩ := o_bind hit
      refine m_iald X hM 15 44 rfl rfl ev10 dX4_mould_50 ?_
      refine b_icmp_eq (tgt := 56) hx hb dX4_mould_51 (by decide) hit (fun c11 hit => ?_) (fun c11 hit => ?_)
      · refine lv_iinc (k := 2) (v := (t5.1 + 1)) (lv' := [(2, .int (t5.1 + 1)), (0, .ref o), (1, .int a0)]) hx hb dX4_mould_56 hl rfl rfl (by decide) rfl (fun ls hl => ?_)
        refine lv_goto (tgt := 21) hx hb dX4_mould_59 (by decide) ?_
        have he := o_in hit
        exact hC5 _ he _ _ _ hM hS (lv_sub hl [1, 2, 0] rfl)
      · refine lv_iload_n hx hb dX4_mould_54 rfl (lv_at hl 2 rfl) ?_
        have he := o_in hit
        have he := hE5 _ he
        exact hend _ t5.1 _ _ _ _ _ rfl he hM hS dX4_mould_55
  · refine lv_iconst (v := 0) hx hb dX4_mould_13 (by decide) ?_
    have he := o_in hit
    exact hend _ 0 _ _ _ _ _ rfl he hM hS dX4_mould_14
noncomputable def M_meet_L54 (a0 : Int32) (a1 : Int32) (t12 : Int32 × MS) : Option ((Int32 × MS) ⊕ (Int32 × MS)) :=
  if t12.1 ≤ 40 then
    ((M_sheetIn t12.2 34 a0).bind fun q15 =>
    (M_sheetIn t12.2 34 a1).bind fun q16 =>
    if q15 = q16 then
      (some (.inr (t12.1, t12.2)))
    else
      ((M_dayGoes t12.2 34).bind fun q18 =>
      some (.inl ((t12.1 + 1), q18))))
  else
    (some (.inr ((-1), t12.2)))
noncomputable def M_meet (σ : MS) (a0 : Int32) (a1 : Int32) : Option (Int32 × MS) :=
  (pf σ 0 0).bind fun s1 =>
  (M_isSheet s1 a0).bind fun q2 =>
  if q2.1 = 0 then
    (some (0, q2.2))
  else
    ((M_isSheet q2.2 a1).bind fun q4 =>
    if q4.1 = 0 then
      (some (0, q4.2))
    else
      (if a0 = a1 then
        (some ((-1), q4.2))
      else
        ((M_isBurnt q4.2 0 a0).bind fun q7 =>
        if q7 = 0 then
          ((M_isBurnt q4.2 0 a1).bind fun q9 =>
          if q9 = 0 then
            ((M_tries q4.2).bind fun q11 =>
            o_loop (M_meet_L54 a0 a1) (0, q11))
          else
            (some ((-1), q4.2)))
        else
          (some ((-1), q4.2)))))
theorem nm_X4_meet : kNm yX4_meet RX4 2 := by unfold kNm; decide +kernel
set_option maxHeartbeats 4000000 in
set_option maxRecDepth 100000 in
theorem wM_meet (l : Launch) (G : va_G) (dT : Nat → ClassId) (o : Nat) (ad : Nat → Nat) (σ : MS) (a0 : Int32) (a1 : Int32) (z : Int32 × MS) (h : M_meet σ a0 a1 = some z) : Met l yX4_meet (ws_ yX4_meet cX4_meet 4 (some .int)) (kRm 6 138) (mPc G dT o ad σ [.int a0, .int a1]) (va_Qi (fun r (_ : Unit) => r = z.1) (fun _ t => MH G dT o ad z.2 t.heap) (mAd o ad)) 0 0 (mAd o ad) := by
  refine m_startNi (cc := cX4_meet) (ty := .int) rfl rfl rfl (fun p e R s m args below meth c Q ls X hR hM hS hl hend => ?_)
  have hx := X.1.1
  have hb := X.1.2.1
  have hit := h
  clear h
  unfold M_meet at hit
  have hl : lv_has ls 4 [(0, .ref o), (1, .int a0), (2, .int a1)] := hl
  refine lv_aload_n hx hb dX4_meet_0 rfl (lv_at hl 0 rfl) ?_
  refine lv_iconst (v := 0) hx hb dX4_meet_1 (by decide) ?_
  obtain ⟨s1, es1, hit⟩ := o_bind hit
  refine m_put X hM hS 0 q1644 rfl rfl (ty := .int) rfl rfl rfl es1 dX4_meet_2 (fun H locs hM hS => ?_)
  refine lv_aload_n hx hb dX4_meet_5 rfl (lv_at hl 0 rfl) ?_
  refine lv_iload_n hx hb dX4_meet_6 rfl (lv_at hl 1 rfl) ?_
  obtain ⟨q2, eq2, hit⟩ := o_bind hit
  refine m_cNi X hM hS (wM_isSheet l G dT o ad _ _ _ eq2) nm_X4_isSheet q2028 q2030 q141 q2031 qs92 ⟨Nat.le_trans (Nat.le_of_ble_eq_true rfl) hR.1, Nat.le_trans (Nat.le_of_ble_eq_true rfl) hR.2⟩ rfl rfl hl.1 (lv_room (Nat.le_of_ble_eq_true rfl)) dX4_meet_7 (fun H locs hM hS => ?_)
  refine b_if_eq (tgt := 21) hx hb dX4_meet_10 (by decide) hit (fun c3 hit => ?_) (fun c3 hit => ?_)
  · refine lv_iconst (v := 0) hx hb dX4_meet_21 (by decide) ?_
    have he := o_in hit
    exact hend _ 0 _ _ _ _ _ rfl he hM hS dX4_meet_22
  · refine lv_aload_n hx hb dX4_meet_13 rfl (lv_at hl 0 rfl) ?_
    refine lv_iload_n hx hb dX4_meet_14 rfl (lv_at hl 2 rfl) ?_
    obtain ⟨q4, eq4, hit⟩ := o_bind hit
    refine m_cNi X hM hS (wM_isSheet l G dT o ad _ _ _ eq4) nm_X4_isSheet q2028 q2030 q141 q2031 qs92 ⟨Nat.le_trans (Nat.le_of_ble_eq_true rfl) hR.1, Nat.le_trans (Nat.le_of_ble_eq_true rfl) hR.2⟩ rfl rfl hl.1 (lv_room (Nat.le_of_ble_eq_true rfl)) dX4_meet_15 (fun H locs hM hS => ?_)
    refine b_if_ne (tgt := 23) hx hb dX4_meet_18 (by decide) hit (fun c5 hit => ?_) (fun c5 hit => ?_)
    · refine lv_iload_n hx hb dX4_meet_23 rfl (lv_at hl 1 rfl) ?_
      refine lv_iload_n hx hb dX4_meet_24 rfl (lv_at hl 2 rfl) ?_
      refine b_icmp_eq (tgt := 46) hx hb dX4_meet_25 (by decide) hit (fun c6 hit => ?_) (fun c6 hit => ?_)
      · refine lv_iconst (v := (-1)) hx hb dX4_meet_46 (by decide) ?_
        have he := o_in hit
        exact hend _ (-1) _ _ _ _ _ rfl he hM hS dX4_meet_47
      · refine lv_aload_n hx hb dX4_meet_28 rfl (lv_at hl 0 rfl) ?_
        refine lv_iconst (v := 0) hx hb dX4_meet_29 (by decide) ?_
        refine lv_iload_n hx hb dX4_meet_30 rfl (lv_at hl 1 rfl) ?_
        obtain ⟨q7, eq7, hit⟩ := o_bind hit
        refine m_cR X hM (wM_isBurnt l G dT o ad _ _ _ _ eq7) nm_X4_isBurnt q1990 q1992 q141 q1993 qs85 ⟨Nat.le_trans (Nat.le_of_ble_eq_true rfl) hR.1, Nat.le_trans (Nat.le_of_ble_eq_true rfl) hR.2⟩ rfl rfl hl.1 (lv_room (Nat.le_of_ble_eq_true rfl)) dX4_meet_31 ?_
        refine b_if_ne (tgt := 46) hx hb dX4_meet_34 (by decide) hit (fun c8 hit => ?_) (fun c8 hit => ?_)
        · refine lv_iconst (v := (-1)) hx hb dX4_meet_46 (by decide) ?_
          have he := o_in hit
          exact hend _ (-1) _ _ _ _ _ rfl he hM hS dX4_meet_47
        · refine lv_aload_n hx hb dX4_meet_37 rfl (lv_at hl 0 rfl) ?_
          refine lv_iconst (v := 0) hx hb dX4_meet_38 (by decide) ?_
          refine lv_iload_n hx hb dX4_meet_39 rfl (lv_at hl 2 rfl) ?_
          obtain ⟨q9, eq9, hit⟩ := o_bind hit
          refine m_cR X hM (wM_isBurnt l G dT o ad _ _ _ _ eq9) nm_X4_isBurnt q1990 q1992 q141 q1993 qs85 ⟨Nat.le_trans (Nat.le_of_ble_eq_true rfl) hR.1, Nat.le_trans (Nat.le_of_ble_eq_true rfl) hR.2⟩ rfl rfl hl.1 (lv_room (Nat.le_of_ble_eq_true rfl)) dX4_meet_40 ?_
          refine b_if_eq (tgt := 48) hx hb dX4_meet_43 (by decide) hit (fun c10 hit => ?_) (fun c10 hit => ?_)
          · refine lv_aload_n hx hb dX4_meet_48 rfl (lv_at hl 0 rfl) ?_
            obtain ⟨q11, eq11, hit⟩ := o_bind hit
            refine m_cNv X hM hS (wM_tries l G dT o ad _  _ eq11) nm_X4_tries q2175 q2177 q141 q2178 qs119 ⟨Nat.le_trans (Nat.le_of_ble_eq_true rfl) hR.1, Nat.le_trans (Nat.le_of_ble_eq_true rfl) hR.2⟩ rfl rfl hl.1 (lv_room (Nat.le_of_ble_eq_true rfl)) dX4_meet_49 (fun H locs hM hS => ?_)
            refine lv_iconst (v := 0) hx hb dX4_meet_52 (by decide) ?_
            refine lv_istore_n (lv' := [(3, .int 0), (0, .ref o), (1, .int a0), (2, .int a1)]) hx hb dX4_meet_53 rfl hl (by decide) rfl (fun ls hl => ?_)
            refine o_rec (P := fun t12 => ∀ (H : Heap) (locs : List Loc) (ls : Array Slot), MH G dT o ad t12.2 H → va_S (mAd o ad) s.heap H locs → lv_has ls 4 [(0, .ref o), (1, .int a0), (2, .int a1), (3, .int t12.1)] → W p l e R s m args below meth c H locs 0 0 Q (F0 m 54 ls [])) (fun t12 x13 hit hC12 hE12 H locs ls hM hS hl => ?_) _ hit _ _ _ hM hS (lv_sub hl [1, 2, 3, 0] rfl)
            unfold M_meet_L54 at hit
            refine lv_iload_n hx hb dX4_meet_54 rfl (lv_at hl 3 rfl) ?_
            refine lv_bipush (v := 40) hx hb dX4_meet_55 (by decide) ?_
            refine b_icmp_gt (tgt := 91) hx hb dX4_meet_57 (by decide) hit (fun c14 hit => ?_) (fun c14 hit => ?_)
            · refine lv_iconst (v := (-1)) hx hb dX4_meet_91 (by decide) ?_
              have he := o_in hit
              have he := hE12 _ he
              exact hend _ (-1) _ _ _ _ _ rfl he hM hS dX4_meet_92
            · refine lv_aload_n hx hb dX4_meet_60 rfl (lv_at hl 0 rfl) ?_
              refine lv_bipush (v := 34) hx hb dX4_meet_61 (by decide) ?_
              refine lv_iload_n hx hb dX4_meet_63 rfl (lv_at hl 1 rfl) ?_
              obtain ⟨q15, eq15, hit⟩ := o_bind hit
              refine m_cR X hM (wM_sheetIn l G dT o ad _ _ _ _ eq15) nm_X4_sheetIn q2036 q2038 q141 q2039 qs94 ⟨Nat.le_trans (Nat.le_of_ble_eq_true rfl) hR.1, Nat.le_trans (Nat.le_of_ble_eq_true rfl) hR.2⟩ rfl rfl hl.1 (lv_room (Nat.le_of_ble_eq_true rfl)) dX4_meet_64 ?_
              refine lv_aload_n hx hb dX4_meet_67 rfl (lv_at hl 0 rfl) ?_
              refine lv_bipush (v := 34) hx hb dX4_meet_68 (by decide) ?_
              refine lv_iload_n hx hb dX4_meet_70 rfl (lv_at hl 2 rfl) ?_
              obtain ⟨q16, eq16, hit⟩ := o_bind hit
              refine m_cR X hM (wM_sheetIn l G dT o ad _ _ _ _ eq16) nm_X4_sheetIn q2036 q2038 q141 q2039 qs94 ⟨Nat.le_trans (Nat.le_of_ble_eq_true rfl) hR.1, Nat.le_trans (Nat.le_of_ble_eq_true rfl) hR.2⟩ rfl rfl hl.1 (lv_room (Nat.le_of_ble_eq_true rfl)) dX4_meet_71 ?_
              refine b_icmp_ne (tgt := 79) hx hb dX4_meet_74 (by decide) hit (fun c17 hit => ?_) (fun c17 hit => ?_)
              · refine lv_aload_n hx hb dX4_meet_79 rfl (lv_at hl 0 rfl) ?_
                refine lv_bipush (v := 34) hx hb dX4_meet_80 (by decide) ?_
                obtain ⟨q18, eq18, hit⟩ := o_bind hit
                refine m_cNv X hM hS (wM_dayGoes l G dT o ad _ _ _ eq18) nm_X4_dayGoes q2120 q2122 q141 q2123 qs111 ⟨Nat.le_trans (Nat.le_of_ble_eq_true rfl) hR.1, Nat.le_trans (Nat.le_of_ble_eq_true rfl) hR.2⟩ rfl rfl hl.1 (lv_room (Nat.le_of_ble_eq_true rfl)) dX4_meet_82 (fun H locs hM hS => ?_)
                refine lv_iinc (k := 3) (v := (t12.1 + 1)) (lv' := [(3, .int (t12.1 + 1)), (0, .ref o), (1, .int a0), (2, .int a1)]) hx hb dX4_meet_85 hl rfl rfl (by decide) rfl (fun ls hl => ?_)
                refine lv_goto (tgt := 54) hx hb dX4_meet_88 (by decide) ?_
                have he := o_in hit
                exact hC12 _ he _ _ _ hM hS (lv_sub hl [1, 2, 3, 0] rfl)
              · refine lv_iload_n hx hb dX4_meet_77 rfl (lv_at hl 3 rfl) ?_
                have he := o_in hit
                have he := hE12 _ he
                exact hend _ t12.1 _ _ _ _ _ rfl he hM hS dX4_meet_78
          · refine lv_iconst (v := (-1)) hx hb dX4_meet_46 (by decide) ?_
            have he := o_in hit
            exact hend _ (-1) _ _ _ _ _ rfl he hM hS dX4_meet_47
    · refine lv_iconst (v := 0) hx hb dX4_meet_21 (by decide) ?_
      have he := o_in hit
      exact hend _ 0 _ _ _ _ _ rfl he hM hS dX4_meet_22
noncomputable def M_gathering_L26 (q4 : MS) (t5 : Int32 × Int32) : Option ((Int32 × Int32) ⊕ (Int32 × MS)) :=
  if t5.2 < 4 then
    ((M_sheetsAt q4 34 t5.2).bind fun q8 =>
    (M_bits q8).bind fun q9 =>
    (M_sheetsAt q4 34 t5.1).bind fun q10 =>
    (M_bits q10).bind fun q11 =>
    ((if q9 ≤ q11 then
        (some t5.1)
      else
        (some t5.2) : Option Int32)).bind fun r12 =>
    some (.inl (r12, (t5.2 + 1))))
  else
    (some (.inr (t5.1, q4)))
noncomputable def M_gathering (σ : MS) (a0 : Int32) : Option (Int32 × MS) :=
  (pf σ 0 0).bind fun s1 =>
  (M_isDays s1 a0 0 1).bind fun q2 =>
  if q2.1 = 0 then
    (some (0, q2.2))
  else
    ((M_goesTo q2.2 a0).bind fun q4 =>
    o_loop (M_gathering_L26 q4) (0, 1))
theorem nm_X4_gathering : kNm yX4_gathering RX4 1 := by unfold kNm; decide +kernel
set_option maxHeartbeats 4000000 in
set_option maxRecDepth 100000 in
theorem wM_gathering (l : Launch) (G : va_G) (dT : Nat → ClassId) (o : Nat) (ad : Nat → Nat) (σ : MS) (a0 : Int32) (z : Int32 × MS) (h : M_gathering σ a0 = some z) : Met l yX4_gathering (ws_ yX4_gathering cX4_gathering 4 (some .int)) (kRm 8 181) (mPc G dT o ad σ [.int a0]) (va_Qi (fun r (_ : Unit) => r = z.1) (fun _ t => MH G dT o ad z.2 t.heap) (mAd o ad)) 0 0 (mAd o ad) := by
  refine m_startNi (cc := cX4_gathering) (ty := .int) rfl rfl rfl (fun p e R s m args below meth c Q ls X hR hM hS hl hend => ?_)
  have hx := X.1.1
  have hb := X.1.2.1
  have hit := h
  clear h
  unfold M_gathering at hit
  have hl : lv_has ls 4 [(0, .ref o), (1, .int a0)] := hl
  refine lv_aload_n hx hb dX4_gathering_0 rfl (lv_at hl 0 rfl) ?_
  refine lv_iconst (v := 0) hx hb dX4_gathering_1 (by decide) ?_
  obtain ⟨s1, es1, hit⟩ := o_bind hit
  refine m_put X hM hS 0 q1644 rfl rfl (ty := .int) rfl rfl rfl es1 dX4_gathering_2 (fun H locs hM hS => ?_)
  refine lv_aload_n hx hb dX4_gathering_5 rfl (lv_at hl 0 rfl) ?_
  refine lv_iload_n hx hb dX4_gathering_6 rfl (lv_at hl 1 rfl) ?_
  refine lv_iconst (v := 0) hx hb dX4_gathering_7 (by decide) ?_
  refine lv_iconst (v := 1) hx hb dX4_gathering_8 (by decide) ?_
  obtain ⟨q2, eq2, hit⟩ := o_bind hit
  refine m_cNi X hM hS (wM_isDays l G dT o ad _ _ _ _ _ eq2) nm_X4_isDays q2167 q2169 q141 q2170 qs117 ⟨Nat.le_trans (Nat.le_of_ble_eq_true rfl) hR.1, Nat.le_trans (Nat.le_of_ble_eq_true rfl) hR.2⟩ rfl rfl hl.1 (lv_room (Nat.le_of_ble_eq_true rfl)) dX4_gathering_9 (fun H locs hM hS => ?_)
  refine b_if_ne (tgt := 17) hx hb dX4_gathering_12 (by decide) hit (fun c3 hit => ?_) (fun c3 hit => ?_)
  · refine lv_aload_n hx hb dX4_gathering_17 rfl (lv_at hl 0 rfl) ?_
    refine lv_iload_n hx hb dX4_gathering_18 rfl (lv_at hl 1 rfl) ?_
    obtain ⟨q4, eq4, hit⟩ := o_bind hit
    refine m_cNv X hM hS (wM_goesTo l G dT o ad _ _ _ eq4) nm_X4_goesTo q2171 q2173 q141 q2174 qs118 ⟨Nat.le_trans (Nat.le_of_ble_eq_true rfl) hR.1, Nat.le_trans (Nat.le_of_ble_eq_true rfl) hR.2⟩ rfl rfl hl.1 (lv_room (Nat.le_of_ble_eq_true rfl)) dX4_gathering_19 (fun H locs hM hS => ?_)
    refine lv_iconst (v := 0) hx hb dX4_gathering_22 (by decide) ?_
    refine lv_istore_n (lv' := [(2, .int 0), (0, .ref o), (1, .int a0)]) hx hb dX4_gathering_23 rfl hl (by decide) rfl (fun ls hl => ?_)
    refine lv_iconst (v := 1) hx hb dX4_gathering_24 (by decide) ?_
    refine lv_istore_n (lv' := [(3, .int 1), (2, .int 0), (0, .ref o), (1, .int a0)]) hx hb dX4_gathering_25 rfl hl (by decide) rfl (fun ls hl => ?_)
    refine o_rec (P := fun t5 => ∀ (H : Heap) (locs : List Loc) (ls : Array Slot), MH G dT o ad q4 H → va_S (mAd o ad) s.heap H locs → lv_has ls 4 [(0, .ref o), (2, .int t5.1), (3, .int t5.2)] → W p l e R s m args below meth c H locs 0 0 Q (F0 m 26 ls [])) (fun t5 x6 hit hC5 hE5 H locs ls hM hS hl => ?_) _ hit _ _ _ hM hS (lv_sub hl [2, 1, 0] rfl)
    unfold M_gathering_L26 at hit
    refine lv_iload_n hx hb dX4_gathering_26 rfl (lv_at hl 2 rfl) ?_
    refine lv_iconst (v := 4) hx hb dX4_gathering_27 (by decide) ?_
    refine b_icmp_ge (tgt := 62) hx hb dX4_gathering_28 (by decide) hit (fun c7 hit => ?_) (fun c7 hit => ?_)
    · refine lv_iload_n hx hb dX4_gathering_62 rfl (lv_at hl 1 rfl) ?_
      have he := o_in hit
      have he := hE5 _ he
      exact hend _ t5.1 _ _ _ _ _ rfl he hM hS dX4_gathering_63
    · refine lv_aload_n hx hb dX4_gathering_31 rfl (lv_at hl 0 rfl) ?_
      refine lv_bipush (v := 34) hx hb dX4_gathering_32 (by decide) ?_
      refine lv_iload_n hx hb dX4_gathering_34 rfl (lv_at hl 2 rfl) ?_
      obtain ⟨q8, eq8, hit⟩ := o_bind hit
      refine m_cR X hM (wM_sheetsAt l G dT o ad _ _ _ _ eq8) nm_X4_sheetsAt q2076 q2078 q141 q2079 qs102 ⟨Nat.le_trans (Nat.le_of_ble_eq_true rfl) hR.1, Nat.le_trans (Nat.le_of_ble_eq_true rfl) hR.2⟩ rfl rfl hl.1 (lv_room (Nat.le_of_ble_eq_true rfl)) dX4_gathering_35 ?_
      obtain ⟨q9, eq9, hit⟩ := o_bind hit
      refine m_cP X.1 (wM_bits l _ _ eq9) nm_X4_bits q2018 q2019 q141 q2020 ⟨Nat.le_trans (Nat.le_of_ble_eq_true rfl) hR.1, Nat.le_trans (Nat.le_of_ble_eq_true rfl) hR.2⟩ rfl rfl hl.1 (lv_room (Nat.le_of_ble_eq_true rfl)) dX4_gathering_38 ?_
      refine lv_aload_n hx hb dX4_gathering_41 rfl (lv_at hl 0 rfl) ?_
      refine lv_bipush (v := 34) hx hb dX4_gathering_42 (by decide) ?_
      refine lv_iload_n hx hb dX4_gathering_44 rfl (lv_at hl 1 rfl) ?_
      obtain ⟨q10, eq10, hit⟩ := o_bind hit
      refine m_cR X hM (wM_sheetsAt l G dT o ad _ _ _ _ eq10) nm_X4_sheetsAt q2076 q2078 q141 q2079 qs102 ⟨Nat.le_trans (Nat.le_of_ble_eq_true rfl) hR.1, Nat.le_trans (Nat.le_of_ble_eq_true rfl) hR.2⟩ rfl rfl hl.1 (lv_room (Nat.le_of_ble_eq_true rfl)) dX4_gathering_45 ?_
      obtain ⟨q11, eq11, hit⟩ := o_bind hit
      refine m_cP X.1 (wM_bits l _ _ eq11) nm_X4_bits q2018 q2019 q141 q2020 ⟨Nat.le_trans (Nat.le_of_ble_eq_true rfl) hR.1, Nat.le_trans (Nat.le_of_ble_eq_true rfl) hR.2⟩ rfl rfl hl.1 (lv_room (Nat.le_of_ble_eq_true rfl)) dX4_gathering_48 ?_
      obtain ⟨r12, er12, hit⟩ := o_bind hit
      have hr12 : ∀ (H : Heap) (locs : List Loc) (ls : Array Slot), MH G dT o ad q4 H → va_S (mAd o ad) s.heap H locs → lv_has ls 4 [(0, .ref o), (3, .int t5.2), (2, .int r12)] → W p l e R s m args below meth c H locs 0 0 Q (F0 m 56 ls []) := by
        intro H locs ls hM hS hl
        refine lv_iinc (k := 1) (v := (t5.2 + 1)) (lv' := [(3, .int (t5.2 + 1)), (0, .ref o), (2, .int r12)]) hx hb dX4_gathering_56 hl rfl rfl (by decide) rfl (fun ls hl => ?_)
        refine lv_goto (tgt := 26) hx hb dX4_gathering_59 (by decide) ?_
        have he := o_in hit
        exact hC5 _ he _ _ _ hM hS (lv_sub hl [1, 2, 0] rfl)
      have hit := er12
      refine b_icmp_le (tgt := 56) hx hb dX4_gathering_51 (by decide) hit (fun c13 hit => ?_) (fun c13 hit => ?_)
      · have he := o_in hit
        subst he
        exact hr12 _ _ _ hM hS (lv_sub hl [0, 2, 1] rfl)
      · refine lv_iload_n hx hb dX4_gathering_54 rfl (lv_at hl 2 rfl) ?_
        refine lv_istore_n (lv' := [(2, .int t5.2), (0, .ref o), (3, .int t5.2)]) hx hb dX4_gathering_55 rfl hl (by decide) rfl (fun ls hl => ?_)
        have he := o_in hit
        subst he
        exact hr12 _ _ _ hM hS (lv_sub hl [1, 2, 0] rfl)
  · refine lv_iconst (v := 0) hx hb dX4_gathering_15 (by decide) ?_
    have he := o_in hit
    exact hend _ 0 _ _ _ _ _ rfl he hM hS dX4_gathering_16
noncomputable def M_canFollow (σ : MS) (a0 : Int32) (a1 : Int32) (a2 : Int32) : Option (Int32) :=
  if ((a0 >>> (a2 &&& 31)) &&& 1) = 0 then
    ((M_isBurnt σ 0 a2).bind fun q2 =>
    if q2 = 0 then
      (if a1 = 9 then
        (some 1)
      else
        ((M_doesFit σ 0 a1 a2).bind fun q5 =>
        if q5 = 0 then
          (some 0)
        else
          (some 1)))
    else
      (some 0))
  else
    (some 0)
theorem nm_X4_canFollow : kNm yX4_canFollow RX4 3 := by unfold kNm; decide +kernel
set_option maxHeartbeats 4000000 in
set_option maxRecDepth 100000 in
theorem wM_canFollow (l : Launch) (G : va_G) (dT : Nat → ClassId) (o : Nat) (ad : Nat → Nat) (σ : MS) (a0 : Int32) (a1 : Int32) (a2 : Int32) (z : Int32) (h : M_canFollow σ a0 a1 a2 = some z) : Met l yX4_canFollow (ws_ yX4_canFollow cX4_canFollow 4 (some .boolean)) (kRm 3 68) (mPc G dT o ad σ [.int a0, .int a1, .int a2]) (vp_Si (fun r => r = z)) 0 0 vp_nf := by
  refine m_startR (cc := cX4_canFollow) (ty := .boolean) rfl rfl rfl (fun p e R s m args below meth c Q ls X hR hM hl hend => ?_)
  have hx := X.1.1
  have hb := X.1.2.1
  have hit := h
  clear h
  unfold M_canFollow at hit
  have hl : lv_has ls 4 [(0, .ref o), (1, .int a0), (2, .int a1), (3, .int a2)] := hl
  refine lv_iload_n hx hb dX4_canFollow_0 rfl (lv_at hl 1 rfl) ?_
  refine lv_iload_n hx hb dX4_canFollow_1 rfl (lv_at hl 3 rfl) ?_
  refine lv_ishr hx hb dX4_canFollow_2 ?_
  refine lv_iconst (v := 1) hx hb dX4_canFollow_3 (by decide) ?_
  refine lv_iand hx hb dX4_canFollow_4 ?_
  refine b_if_ne (tgt := 37) hx hb dX4_canFollow_5 (by decide) hit (fun c1 hit => ?_) (fun c1 hit => ?_)
  · refine lv_iconst (v := 0) hx hb dX4_canFollow_37 (by decide) ?_
    have he := o_in hit
    exact hend _ 0 _ _ rfl he dX4_canFollow_38
  · refine lv_aload_n hx hb dX4_canFollow_8 rfl (lv_at hl 0 rfl) ?_
    refine lv_iconst (v := 0) hx hb dX4_canFollow_9 (by decide) ?_
    refine lv_iload_n hx hb dX4_canFollow_10 rfl (lv_at hl 3 rfl) ?_
    obtain ⟨q2, eq2, hit⟩ := o_bind hit
    refine m_cR X hM (wM_isBurnt l G dT o ad _ _ _ _ eq2) nm_X4_isBurnt q1990 q1992 q141 q1993 qs85 ⟨Nat.le_trans (Nat.le_of_ble_eq_true rfl) hR.1, Nat.le_trans (Nat.le_of_ble_eq_true rfl) hR.2⟩ rfl rfl hl.1 (lv_room (Nat.le_of_ble_eq_true rfl)) dX4_canFollow_11 ?_
    refine b_if_ne (tgt := 37) hx hb dX4_canFollow_14 (by decide) hit (fun c3 hit => ?_) (fun c3 hit => ?_)
    · refine lv_iconst (v := 0) hx hb dX4_canFollow_37 (by decide) ?_
      have he := o_in hit
      exact hend _ 0 _ _ rfl he dX4_canFollow_38
    · refine lv_iload_n hx hb dX4_canFollow_17 rfl (lv_at hl 2 rfl) ?_
      refine lv_bipush (v := 9) hx hb dX4_canFollow_18 (by decide) ?_
      refine b_icmp_eq (tgt := 33) hx hb dX4_canFollow_20 (by decide) hit (fun c4 hit => ?_) (fun c4 hit => ?_)
      · refine lv_iconst (v := 1) hx hb dX4_canFollow_33 (by decide) ?_
        refine lv_goto (tgt := 38) hx hb dX4_canFollow_34 (by decide) ?_
        have he := o_in hit
        exact hend _ 1 _ _ rfl he dX4_canFollow_38
      · refine lv_aload_n hx hb dX4_canFollow_23 rfl (lv_at hl 0 rfl) ?_
        refine lv_iconst (v := 0) hx hb dX4_canFollow_24 (by decide) ?_
        refine lv_iload_n hx hb dX4_canFollow_25 rfl (lv_at hl 2 rfl) ?_
        refine lv_iload_n hx hb dX4_canFollow_26 rfl (lv_at hl 3 rfl) ?_
        obtain ⟨q5, eq5, hit⟩ := o_bind hit
        refine m_cR X hM (wM_doesFit l G dT o ad _ _ _ _ _ eq5) nm_X4_doesFit q2010 q2012 q141 q2013 qs90 ⟨Nat.le_trans (Nat.le_of_ble_eq_true rfl) hR.1, Nat.le_trans (Nat.le_of_ble_eq_true rfl) hR.2⟩ rfl rfl hl.1 (lv_room (Nat.le_of_ble_eq_true rfl)) dX4_canFollow_27 ?_
        refine b_if_eq (tgt := 37) hx hb dX4_canFollow_30 (by decide) hit (fun c6 hit => ?_) (fun c6 hit => ?_)
        · refine lv_iconst (v := 0) hx hb dX4_canFollow_37 (by decide) ?_
          have he := o_in hit
          exact hend _ 0 _ _ rfl he dX4_canFollow_38
        · refine lv_iconst (v := 1) hx hb dX4_canFollow_33 (by decide) ?_
          refine lv_goto (tgt := 38) hx hb dX4_canFollow_34 (by decide) ?_
          have he := o_in hit
          exact hend _ 1 _ _ rfl he dX4_canFollow_38
noncomputable def M_mostBehind_L5 (σ : MS) (a0 : Int32) (a1 : Int32) (t1 : Int32 × Int32) : Option ((Int32 × Int32) ⊕ Int32) :=
  if t1.2 < (mf σ 1) then
    ((M_canFollow σ a0 a1 t1.2).bind fun q4 =>
    ((if q4 = 0 then
        (some t1.1)
      else
        ((ald σ 50 ((10 * (a0 ||| ((1 : Int32) <<< (t1.2 &&& 31)))) + t1.2)).bind fun v7 =>
        (M_greater t1.1 (1 + v7)).bind fun q8 =>
        some q8) : Option Int32)).bind fun r5 =>
    some (.inl (r5, (t1.2 + 1))))
  else
    (some (.inr t1.1))
noncomputable def M_mostBehind (σ : MS) (a0 : Int32) (a1 : Int32) : Option (Int32) :=
  o_loop (M_mostBehind_L5 σ a0 a1) (0, 0)
theorem nm_X4_mostBehind : kNm yX4_mostBehind RX4 2 := by unfold kNm; decide +kernel
set_option maxHeartbeats 4000000 in
set_option maxRecDepth 100000 in
theorem wM_mostBehind (l : Launch) (G : va_G) (dT : Nat → ClassId) (o : Nat) (ad : Nat → Nat) (σ : MS) (a0 : Int32) (a1 : Int32) (z : Int32) (h : M_mostBehind σ a0 a1 = some z) : Met l yX4_mostBehind (ws_ yX4_mostBehind cX4_mostBehind 5 (some .int)) (kRm 4 91) (mPc G dT o ad σ [.int a0, .int a1]) (vp_Si (fun r => r = z)) 0 0 vp_nf := by
  refine m_startR (cc := cX4_mostBehind) (ty := .int) rfl rfl rfl (fun p e R s m args below meth c Q ls X hR hM hl hend => ?_)
  have hx := X.1.1
  have hb := X.1.2.1
  have hit := h
  clear h
  unfold M_mostBehind at hit
  have hl : lv_has ls 5 [(0, .ref o), (1, .int a0), (2, .int a1)] := hl
  refine lv_iconst (v := 0) hx hb dX4_mostBehind_0 (by decide) ?_
  refine lv_istore_n (lv' := [(3, .int 0), (0, .ref o), (1, .int a0), (2, .int a1)]) hx hb dX4_mostBehind_1 rfl hl (by decide) rfl (fun ls hl => ?_)
  refine lv_iconst (v := 0) hx hb dX4_mostBehind_2 (by decide) ?_
  refine lv_istore (lv' := [(4, .int 0), (3, .int 0), (0, .ref o), (1, .int a0), (2, .int a1)]) hx hb dX4_mostBehind_3 hl (by decide) rfl (fun ls hl => ?_)
  refine o_rec (P := fun t1 => ∀ (ls : Array Slot), lv_has ls 5 [(0, .ref o), (1, .int a0), (2, .int a1), (3, .int t1.1), (4, .int t1.2)] → W p l e R s m args below meth c s.heap [] 0 0 Q (F0 m 5 ls [])) (fun t1 x2 hit hC1 hE1 ls hl => ?_) _ hit _ (lv_sub hl [2, 3, 4, 1, 0] rfl)
  unfold M_mostBehind_L5 at hit
  refine lv_iload hx hb dX4_mostBehind_5 (lv_at hl 4 rfl) ?_
  refine lv_aload_n hx hb dX4_mostBehind_7 rfl (lv_at hl 0 rfl) ?_
  refine m_get X hM 1 q1645 rfl rfl (v := .int (mf σ 1)) rfl dX4_mostBehind_8 ?_
  refine b_icmp_ge (tgt := 55) hx hb dX4_mostBehind_11 (by decide) hit (fun c3 hit => ?_) (fun c3 hit => ?_)
  · refine lv_iload_n hx hb dX4_mostBehind_55 rfl (lv_at hl 3 rfl) ?_
    have he := o_in hit
    have he := hE1 _ he
    exact hend _ t1.1 _ _ rfl he dX4_mostBehind_56
  · refine lv_aload_n hx hb dX4_mostBehind_14 rfl (lv_at hl 0 rfl) ?_
    refine lv_iload_n hx hb dX4_mostBehind_15 rfl (lv_at hl 1 rfl) ?_
    refine lv_iload_n hx hb dX4_mostBehind_16 rfl (lv_at hl 2 rfl) ?_
    refine lv_iload hx hb dX4_mostBehind_17 (lv_at hl 4 rfl) ?_
    obtain ⟨q4, eq4, hit⟩ := o_bind hit
    refine m_cR X hM (wM_canFollow l G dT o ad _ _ _ _ _ eq4) nm_X4_canFollow q2215 q2217 q141 q2218 qs122 ⟨Nat.le_trans (Nat.le_of_ble_eq_true rfl) hR.1, Nat.le_trans (Nat.le_of_ble_eq_true rfl) hR.2⟩ rfl rfl hl.1 (lv_room (Nat.le_of_ble_eq_true rfl)) dX4_mostBehind_19 ?_
    obtain ⟨r5, er5, hit⟩ := o_bind hit
    have hr5 : ∀ (ls : Array Slot), lv_has ls 5 [(0, .ref o), (1, .int a0), (2, .int a1), (4, .int t1.2), (3, .int r5)] → W p l e R s m args below meth c s.heap [] 0 0 Q (F0 m 49 ls []) := by
      intro ls hl
      refine lv_iinc (k := 3) (v := (t1.2 + 1)) (lv' := [(4, .int (t1.2 + 1)), (0, .ref o), (1, .int a0), (2, .int a1), (3, .int r5)]) hx hb dX4_mostBehind_49 hl rfl rfl (by decide) rfl (fun ls hl => ?_)
      refine lv_goto (tgt := 5) hx hb dX4_mostBehind_52 (by decide) ?_
      have he := o_in hit
      exact hC1 _ he _ (lv_sub hl [1, 2, 3, 4, 0] rfl)
    have hit := er5
    refine b_if_eq (tgt := 49) hx hb dX4_mostBehind_22 (by decide) hit (fun c6 hit => ?_) (fun c6 hit => ?_)
    · have he := o_in hit
      subst he
      exact hr5 _ (lv_sub hl [0, 1, 2, 4, 3] rfl)
    · refine lv_iload_n hx hb dX4_mostBehind_25 rfl (lv_at hl 3 rfl) ?_
      refine lv_iconst (v := 1) hx hb dX4_mostBehind_26 (by decide) ?_
      refine lv_aload_n hx hb dX4_mostBehind_27 rfl (lv_at hl 0 rfl) ?_
      refine m_get X hM 50 q1694 rfl rfl (v := .ref (ad 50)) rfl dX4_mostBehind_28 ?_
      refine lv_bipush (v := 10) hx hb dX4_mostBehind_31 (by decide) ?_
      refine lv_iload_n hx hb dX4_mostBehind_33 rfl (lv_at hl 1 rfl) ?_
      refine lv_iconst (v := 1) hx hb dX4_mostBehind_34 (by decide) ?_
      refine lv_iload hx hb dX4_mostBehind_35 (lv_at hl 4 rfl) ?_
      refine lv_ishl hx hb dX4_mostBehind_37 ?_
      refine lv_ior hx hb dX4_mostBehind_38 ?_
      refine lv_imul hx hb dX4_mostBehind_39 ?_
      refine lv_iload hx hb dX4_mostBehind_40 (lv_at hl 4 rfl) ?_
      refine lv_iadd hx hb dX4_mostBehind_42 ?_
      obtain ⟨v7, ev7, hit⟩ := o_bind hit
      refine m_iald X hM 20 50 rfl rfl ev7 dX4_mostBehind_43 ?_
      refine lv_iadd hx hb dX4_mostBehind_44 ?_
      obtain ⟨q8, eq8, hit⟩ := o_bind hit
      refine m_cP X.1 (wM_greater l _ _ _ eq8) nm_X4_greater q2021 q2022 q141 q2023 ⟨Nat.le_trans (Nat.le_of_ble_eq_true rfl) hR.1, Nat.le_trans (Nat.le_of_ble_eq_true rfl) hR.2⟩ rfl rfl hl.1 (lv_room (Nat.le_of_ble_eq_true rfl)) dX4_mostBehind_45 ?_
      refine lv_istore_n (lv' := [(3, .int q8), (0, .ref o), (1, .int a0), (2, .int a1), (4, .int t1.2)]) hx hb dX4_mostBehind_48 rfl hl (by decide) rfl (fun ls hl => ?_)
      have he := o_in hit
      subst he
      exact hr5 _ (lv_sub hl [1, 2, 3, 4, 0] rfl)
noncomputable def M_row_L150 (q7 : Int32 × MS) (t10 : Int32 × Int32 × Int32) (t13 : Int32 × Int32) : Option ((Int32 × Int32) ⊕ Int32) :=
  if t13.2 < 0 then
    (some (.inr t13.1))
  else
    ((M_canFollow q7.2 t10.1 t10.2.1 t13.2).bind fun q17 =>
    ((if q17 = 0 then
        (some t13.1)
      else
        ((ald q7.2 50 ((10 * (t10.1 ||| ((1 : Int32) <<< (t13.2 &&& 31)))) + t13.2)).bind fun v20 =>
        (ald q7.2 50 ((10 * t10.1) + t10.2.1)).bind fun v21 =>
        if (1 + v20) = v21 then
          (some t13.2)
        else
          (some t13.1)) : Option Int32)).bind fun r18 =>
    some (.inl (r18, (t13.2 + (-1)))))
noncomputable def M_row_L133 (a0 : Int32) (q7 : Int32 × MS) (t10 : Int32 × Int32 × Int32) : Option ((Int32 × Int32 × Int32) ⊕ (Int32 × MS)) :=
  if t10.2.2 ≤ a0 then
    ((o_loop (M_row_L150 q7 t10) ((-1), ((mf q7.2 1) - 1))).bind fun r15 =>
    some (.inl ((t10.1 ||| ((1 : Int32) <<< (r15 &&& 31))), r15, (t10.2.2 + 1))))
  else
    (some (.inr (t10.2.1, q7.2)))
noncomputable def M_row_J61 (t2 : Int32 × MS) (t26 : Int32 × MS) : Option (Int32) :=
  (M_mostBehind t26.2 t2.1 t26.1).bind fun q32 =>
  some q32
noncomputable def M_row_J51 (t2 : Int32 × MS) (t26 : Int32 × MS) : Option (Int32) :=
  if t2.1 = 0 then
    (if t26.1 = 9 then
      (M_row_J61 t2 t26)
    else
      (some 0))
  else
    (some 0)
noncomputable def M_row_L20 (t2 : Int32 × MS) (t26 : Int32 × MS) : Option ((Int32 × MS) ⊕ MS) :=
  if t26.1 ≤ 9 then
    (((if t26.1 < 9 then
        (if ((t2.1 >>> (t26.1 &&& 31)) &&& 1) = 1 then
          (M_row_J61 t2 t26)
        else
          (M_row_J51 t2 t26))
      else
        (M_row_J51 t2 t26) : Option Int32)).bind fun r30 =>
    (ast t26.2 50 ((10 * t2.1) + t26.1) r30).bind fun s31 =>
    some (.inl ((t26.1 + 1), s31)))
  else
    (some (.inr t26.2))
noncomputable def M_row_L14 (t2 : Int32 × MS) : Option ((Int32 × MS) ⊕ MS) :=
  if t2.1 < 0 then
    (some (.inr t2.2))
  else
    ((o_loop (M_row_L20 t2) (0, t2.2)).bind fun r28 =>
    some (.inl ((t2.1 + (-1)), r28)))
noncomputable def M_row (σ : MS) (a0 : Int32) : Option (Int32 × MS) :=
  (pf σ 0 0).bind fun s1 =>
  (o_loop M_row_L14 ((((1 : Int32) <<< ((mf s1 1) &&& 31)) - 1), s1)).bind fun r4 =>
  (ald r4 50 9).bind fun v5 =>
  ((if a0 < (-1) then
      (some 0)
    else
      (if a0 < v5 then
        (some 1)
      else
        (some 0)) : Option Int32)).bind fun r6 =>
  (M_right r4 r6 1).bind fun q7 =>
  if q7.1 = 0 then
    (some (0, q7.2))
  else
    (if a0 = (-1) then
      (some (v5, q7.2))
    else
      (o_loop (M_row_L133 a0 q7) (0, 9, 0)))
theorem nm_X4_row : kNm yX4_row RX4 1 := by unfold kNm; decide +kernel
set_option maxHeartbeats 4000000 in
set_option maxRecDepth 100000 in
theorem wM_row (l : Launch) (G : va_G) (dT : Nat → ClassId) (o : Nat) (ad : Nat → Nat) (σ : MS) (a0 : Int32) (z : Int32 × MS) (h : M_row σ a0 = some z) : Met l yX4_row (ws_ yX4_row cX4_row 8 (some .int)) (kRm 5 115) (mPc G dT o ad σ [.int a0]) (va_Qi (fun r (_ : Unit) => r = z.1) (fun _ t => MH G dT o ad z.2 t.heap) (mAd o ad)) 0 0 (mAd o ad) := by
  refine m_startNi (cc := cX4_row) (ty := .int) rfl rfl rfl (fun p e R s m args below meth c Q ls X hR hM hS hl hend => ?_)
  have hx := X.1.1
  have hb := X.1.2.1
  have hit := h
  clear h
  unfold M_row at hit
  have hl : lv_has ls 8 [(0, .ref o), (1, .int a0)] := hl
  refine lv_aload_n hx hb dX4_row_0 rfl (lv_at hl 0 rfl) ?_
  refine lv_iconst (v := 0) hx hb dX4_row_1 (by decide) ?_
  obtain ⟨s1, es1, hit⟩ := o_bind hit
  refine m_put X hM hS 0 q1644 rfl rfl (ty := .int) rfl rfl rfl es1 dX4_row_2 (fun H locs hM hS => ?_)
  refine lv_iconst (v := 1) hx hb dX4_row_5 (by decide) ?_
  refine lv_aload_n hx hb dX4_row_6 rfl (lv_at hl 0 rfl) ?_
  refine m_get X hM 1 q1645 rfl rfl (v := .int (mf s1 1)) rfl dX4_row_7 ?_
  refine lv_ishl hx hb dX4_row_10 ?_
  refine lv_iconst (v := 1) hx hb dX4_row_11 (by decide) ?_
  refine lv_isub hx hb dX4_row_12 ?_
  refine lv_istore_n (lv' := [(2, .int (((1 : Int32) <<< ((mf s1 1) &&& 31)) - 1)), (0, .ref o), (1, .int a0)]) hx hb dX4_row_13 rfl hl (by decide) rfl (fun ls hl => ?_)
  obtain ⟨r4, er4, hit⟩ := o_bind hit
  have hr4 : ∀ (H : Heap) (locs : List Loc) (ls : Array Slot), MH G dT o ad r4 H → va_S (mAd o ad) s.heap H locs → lv_has ls 8 [(0, .ref o), (1, .int a0)] → W p l e R s m args below meth c H locs 0 0 Q (F0 m 84 ls []) := by
    intro H locs ls hM hS hl
    refine lv_aload_n hx hb dX4_row_84 rfl (lv_at hl 0 rfl) ?_
    refine m_get X hM 50 q1694 rfl rfl (v := .ref (ad 50)) rfl dX4_row_85 ?_
    refine lv_bipush (v := 9) hx hb dX4_row_88 (by decide) ?_
    obtain ⟨v5, ev5, hit⟩ := o_bind hit
    refine m_iald X hM 20 50 rfl rfl ev5 dX4_row_90 ?_
    refine lv_istore_n (lv' := [(2, .int v5), (0, .ref o), (1, .int a0)]) hx hb dX4_row_91 rfl hl (by decide) rfl (fun ls hl => ?_)
    refine lv_aload_n hx hb dX4_row_92 rfl (lv_at hl 1 rfl) ?_
    refine lv_iload_n hx hb dX4_row_93 rfl (lv_at hl 2 rfl) ?_
    refine lv_iconst (v := (-1)) hx hb dX4_row_94 (by decide) ?_
    obtain ⟨r6, er6, hit⟩ := o_bind hit
    have hr6 : ∀ (H : Heap) (locs : List Loc) (ls : Array Slot), MH G dT o ad r4 H → va_S (mAd o ad) s.heap H locs → lv_has ls 8 [(2, .int v5), (0, .ref o), (1, .int a0)] → W p l e R s m args below meth c H locs 0 0 Q (F0 m 108 ls [.int r6, .ref o]) := by
      intro H locs ls hM hS hl
      refine lv_iconst (v := 1) hx hb dX4_row_108 (by decide) ?_
      obtain ⟨q7, eq7, hit⟩ := o_bind hit
      refine m_cNi X hM hS (wM_right l G dT o ad _ _ _ _ eq7) nm_X4_right q1848 q1850 q141 q1851 qs58 ⟨Nat.le_trans (Nat.le_of_ble_eq_true rfl) hR.1, Nat.le_trans (Nat.le_of_ble_eq_true rfl) hR.2⟩ rfl rfl hl.1 (lv_room (Nat.le_of_ble_eq_true rfl)) dX4_row_109 (fun H locs hM hS => ?_)
      refine b_if_ne (tgt := 117) hx hb dX4_row_112 (by decide) hit (fun c8 hit => ?_) (fun c8 hit => ?_)
      · refine lv_iload_n hx hb dX4_row_117 rfl (lv_at hl 2 rfl) ?_
        refine lv_iconst (v := (-1)) hx hb dX4_row_118 (by decide) ?_
        refine b_icmp_ne (tgt := 124) hx hb dX4_row_119 (by decide) hit (fun c9 hit => ?_) (fun c9 hit => ?_)
        · refine lv_iconst (v := 0) hx hb dX4_row_124 (by decide) ?_
          refine lv_istore_n (lv' := [(3, .int 0), (2, .int v5), (0, .ref o), (1, .int a0)]) hx hb dX4_row_125 rfl hl (by decide) rfl (fun ls hl => ?_)
          refine lv_bipush (v := 9) hx hb dX4_row_126 (by decide) ?_
          refine lv_istore (lv' := [(4, .int 9), (3, .int 0), (2, .int v5), (0, .ref o), (1, .int a0)]) hx hb dX4_row_128 hl (by decide) rfl (fun ls hl => ?_)
          refine lv_iconst (v := 0) hx hb dX4_row_130 (by decide) ?_
          refine lv_istore (lv' := [(5, .int 0), (4, .int 9), (3, .int 0), (2, .int v5), (0, .ref o), (1, .int a0)]) hx hb dX4_row_131 hl (by decide) rfl (fun ls hl => ?_)
          refine o_rec (P := fun t10 => ∀ (H : Heap) (locs : List Loc) (ls : Array Slot), MH G dT o ad q7.2 H → va_S (mAd o ad) s.heap H locs → lv_has ls 8 [(0, .ref o), (1, .int a0), (3, .int t10.1), (4, .int t10.2.1), (5, .int t10.2.2)] → W p l e R s m args below meth c H locs 0 0 Q (F0 m 133 ls [])) (fun t10 x11 hit hC10 hE10 H locs ls hM hS hl => ?_) _ hit _ _ _ hM hS (lv_sub hl [4, 5, 2, 1, 0] rfl)
          unfold M_row_L133 at hit
          refine lv_iload hx hb dX4_row_133 (lv_at hl 4 rfl) ?_
          refine lv_iload_n hx hb dX4_row_135 rfl (lv_at hl 1 rfl) ?_
          refine b_icmp_gt (tgt := 228) hx hb dX4_row_136 (by decide) hit (fun c12 hit => ?_) (fun c12 hit => ?_)
          · refine lv_iload hx hb dX4_row_228 (lv_at hl 3 rfl) ?_
            have he := o_in hit
            have he := hE10 _ he
            exact hend _ t10.2.1 _ _ _ _ _ rfl he hM hS dX4_row_230
          · refine lv_iconst (v := (-1)) hx hb dX4_row_139 (by decide) ?_
            refine lv_istore (lv' := [(6, .int (-1)), (0, .ref o), (1, .int a0), (3, .int t10.1), (4, .int t10.2.1), (5, .int t10.2.2)]) hx hb dX4_row_140 hl (by decide) rfl (fun ls hl => ?_)
            refine lv_aload_n hx hb dX4_row_142 rfl (lv_at hl 1 rfl) ?_
            refine m_get X hM 1 q1645 rfl rfl (v := .int (mf q7.2 1)) rfl dX4_row_143 ?_
            refine lv_iconst (v := 1) hx hb dX4_row_146 (by decide) ?_
            refine lv_isub hx hb dX4_row_147 ?_
            refine lv_istore (lv' := [(7, .int ((mf q7.2 1) - 1)), (6, .int (-1)), (0, .ref o), (1, .int a0), (3, .int t10.1), (4, .int t10.2.1), (5, .int t10.2.2)]) hx hb dX4_row_148 hl (by decide) rfl (fun ls hl => ?_)
            obtain ⟨r15, er15, hit⟩ := o_bind hit
            have hr15 : ∀ (H : Heap) (locs : List Loc) (ls : Array Slot), MH G dT o ad q7.2 H → va_S (mAd o ad) s.heap H locs → lv_has ls 8 [(0, .ref o), (1, .int a0), (3, .int t10.1), (5, .int t10.2.2), (6, .int r15)] → W p l e R s m args below meth c H locs 0 0 Q (F0 m 211 ls []) := by
              intro H locs ls hM hS hl
              refine lv_iload_n hx hb dX4_row_211 rfl (lv_at hl 2 rfl) ?_
              refine lv_iconst (v := 1) hx hb dX4_row_212 (by decide) ?_
              refine lv_iload hx hb dX4_row_213 (lv_at hl 4 rfl) ?_
              refine lv_ishl hx hb dX4_row_215 ?_
              refine lv_ior hx hb dX4_row_216 ?_
              refine lv_istore_n (lv' := [(3, .int (t10.1 ||| ((1 : Int32) <<< (r15 &&& 31)))), (0, .ref o), (1, .int a0), (5, .int t10.2.2), (6, .int r15)]) hx hb dX4_row_217 rfl hl (by decide) rfl (fun ls hl => ?_)
              refine lv_iload hx hb dX4_row_218 (lv_at hl 4 rfl) ?_
              refine lv_istore (lv' := [(4, .int r15), (3, .int (t10.1 ||| ((1 : Int32) <<< (r15 &&& 31)))), (0, .ref o), (1, .int a0), (5, .int t10.2.2), (6, .int r15)]) hx hb dX4_row_220 hl (by decide) rfl (fun ls hl => ?_)
              refine lv_iinc (k := 4) (v := (t10.2.2 + 1)) (lv' := [(5, .int (t10.2.2 + 1)), (4, .int r15), (3, .int (t10.1 ||| ((1 : Int32) <<< (r15 &&& 31)))), (0, .ref o), (1, .int a0), (6, .int r15)]) hx hb dX4_row_222 hl rfl rfl (by decide) rfl (fun ls hl => ?_)
              refine lv_goto (tgt := 133) hx hb dX4_row_225 (by decide) ?_
              have he := o_in hit
              exact hC10 _ he _ _ _ hM hS (lv_sub hl [3, 4, 2, 1, 0] rfl)
            refine o_rec (P := fun t13 => ∀ (H : Heap) (locs : List Loc) (ls : Array Slot), MH G dT o ad q7.2 H → va_S (mAd o ad) s.heap H locs → lv_has ls 8 [(0, .ref o), (1, .int a0), (3, .int t10.1), (4, .int t10.2.1), (5, .int t10.2.2), (6, .int t13.1), (7, .int t13.2)] → W p l e R s m args below meth c H locs 0 0 Q (F0 m 150 ls [])) (fun t13 x14 hit hC13 hE13 H locs ls hM hS hl => ?_) _ er15 _ _ _ hM hS (lv_sub hl [2, 3, 4, 5, 6, 1, 0] rfl)
            unfold M_row_L150 at hit
            refine lv_iload hx hb dX4_row_150 (lv_at hl 6 rfl) ?_
            refine b_if_lt (tgt := 211) hx hb dX4_row_152 (by decide) hit (fun c16 hit => ?_) (fun c16 hit => ?_)
            · have he := o_in hit
              have he := hE13 _ he
              subst he
              exact hr15 _ _ _ hM hS (lv_sub hl [0, 1, 2, 4, 5] rfl)
            · refine lv_aload_n hx hb dX4_row_155 rfl (lv_at hl 0 rfl) ?_
              refine lv_iload_n hx hb dX4_row_156 rfl (lv_at hl 2 rfl) ?_
              refine lv_iload hx hb dX4_row_157 (lv_at hl 3 rfl) ?_
              refine lv_iload hx hb dX4_row_159 (lv_at hl 6 rfl) ?_
              obtain ⟨q17, eq17, hit⟩ := o_bind hit
              refine m_cR X hM (wM_canFollow l G dT o ad _ _ _ _ _ eq17) nm_X4_canFollow q2215 q2217 q141 q2218 qs122 ⟨Nat.le_trans (Nat.le_of_ble_eq_true rfl) hR.1, Nat.le_trans (Nat.le_of_ble_eq_true rfl) hR.2⟩ rfl rfl hl.1 (lv_room (Nat.le_of_ble_eq_true rfl)) dX4_row_161 ?_
              obtain ⟨r18, er18, hit⟩ := o_bind hit
              have hr18 : ∀ (H : Heap) (locs : List Loc) (ls : Array Slot), MH G dT o ad q7.2 H → va_S (mAd o ad) s.heap H locs → lv_has ls 8 [(0, .ref o), (1, .int a0), (3, .int t10.1), (4, .int t10.2.1), (5, .int t10.2.2), (7, .int t13.2), (6, .int r18)] → W p l e R s m args below meth c H locs 0 0 Q (F0 m 205 ls []) := by
                intro H locs ls hM hS hl
                refine lv_iinc (k := 5) (v := (t13.2 + (-1))) (lv' := [(7, .int (t13.2 + (-1))), (0, .ref o), (1, .int a0), (3, .int t10.1), (4, .int t10.2.1), (5, .int t10.2.2), (6, .int r18)]) hx hb dX4_row_205 hl rfl rfl (by decide) rfl (fun ls hl => ?_)
                refine lv_goto (tgt := 150) hx hb dX4_row_208 (by decide) ?_
                have he := o_in hit
                exact hC13 _ he _ _ _ hM hS (lv_sub hl [1, 2, 3, 4, 5, 6, 0] rfl)
              have hit := er18
              refine b_if_eq (tgt := 205) hx hb dX4_row_164 (by decide) hit (fun c19 hit => ?_) (fun c19 hit => ?_)
              · have he := o_in hit
                subst he
                exact hr18 _ _ _ hM hS (lv_sub hl [0, 1, 2, 3, 4, 6, 5] rfl)
              · refine lv_iconst (v := 1) hx hb dX4_row_167 (by decide) ?_
                refine lv_aload_n hx hb dX4_row_168 rfl (lv_at hl 0 rfl) ?_
                refine m_get X hM 50 q1694 rfl rfl (v := .ref (ad 50)) rfl dX4_row_169 ?_
                refine lv_bipush (v := 10) hx hb dX4_row_172 (by decide) ?_
                refine lv_iload_n hx hb dX4_row_174 rfl (lv_at hl 2 rfl) ?_
                refine lv_iconst (v := 1) hx hb dX4_row_175 (by decide) ?_
                refine lv_iload hx hb dX4_row_176 (lv_at hl 6 rfl) ?_
                refine lv_ishl hx hb dX4_row_178 ?_
                refine lv_ior hx hb dX4_row_179 ?_
                refine lv_imul hx hb dX4_row_180 ?_
                refine lv_iload hx hb dX4_row_181 (lv_at hl 6 rfl) ?_
                refine lv_iadd hx hb dX4_row_183 ?_
                obtain ⟨v20, ev20, hit⟩ := o_bind hit
                refine m_iald X hM 20 50 rfl rfl ev20 dX4_row_184 ?_
                refine lv_iadd hx hb dX4_row_185 ?_
                refine lv_aload_n hx hb dX4_row_186 rfl (lv_at hl 0 rfl) ?_
                refine m_get X hM 50 q1694 rfl rfl (v := .ref (ad 50)) rfl dX4_row_187 ?_
                refine lv_bipush (v := 10) hx hb dX4_row_190 (by decide) ?_
                refine lv_iload_n hx hb dX4_row_192 rfl (lv_at hl 2 rfl) ?_
                refine lv_imul hx hb dX4_row_193 ?_
                refine lv_iload hx hb dX4_row_194 (lv_at hl 3 rfl) ?_
                refine lv_iadd hx hb dX4_row_196 ?_
                obtain ⟨v21, ev21, hit⟩ := o_bind hit
                refine m_iald X hM 20 50 rfl rfl ev21 dX4_row_197 ?_
                refine b_icmp_ne (tgt := 205) hx hb dX4_row_198 (by decide) hit (fun c22 hit => ?_) (fun c22 hit => ?_)
                · have he := o_in hit
                  subst he
                  exact hr18 _ _ _ hM hS (lv_sub hl [0, 1, 2, 3, 4, 6, 5] rfl)
                · refine lv_iload hx hb dX4_row_201 (lv_at hl 6 rfl) ?_
                  refine lv_istore (lv' := [(6, .int t13.2), (0, .ref o), (1, .int a0), (3, .int t10.1), (4, .int t10.2.1), (5, .int t10.2.2), (7, .int t13.2)]) hx hb dX4_row_203 hl (by decide) rfl (fun ls hl => ?_)
                  have he := o_in hit
                  subst he
                  exact hr18 _ _ _ hM hS (lv_sub hl [1, 2, 3, 4, 5, 6, 0] rfl)
        · refine lv_iload_n hx hb dX4_row_122 rfl (lv_at hl 0 rfl) ?_
          have he := o_in hit
          exact hend _ v5 _ _ _ _ _ rfl he hM hS dX4_row_123
      · refine lv_iconst (v := 0) hx hb dX4_row_115 (by decide) ?_
        have he := o_in hit
        exact hend _ 0 _ _ _ _ _ rfl he hM hS dX4_row_116
    have hit := er6
    refine b_icmp_lt (tgt := 107) hx hb dX4_row_95 (by decide) hit (fun c23 hit => ?_) (fun c23 hit => ?_)
    · refine lv_iconst (v := 0) hx hb dX4_row_107 (by decide) ?_
      have he := o_in hit
      subst he
      exact hr6 _ _ _ hM hS hl
    · refine lv_iload_n hx hb dX4_row_98 rfl (lv_at hl 2 rfl) ?_
      refine lv_iload_n hx hb dX4_row_99 rfl (lv_at hl 0 rfl) ?_
      refine b_icmp_ge (tgt := 107) hx hb dX4_row_100 (by decide) hit (fun c24 hit => ?_) (fun c24 hit => ?_)
      · refine lv_iconst (v := 0) hx hb dX4_row_107 (by decide) ?_
        have he := o_in hit
        subst he
        exact hr6 _ _ _ hM hS hl
      · refine lv_iconst (v := 1) hx hb dX4_row_103 (by decide) ?_
        refine lv_goto (tgt := 108) hx hb dX4_row_104 (by decide) ?_
        have he := o_in hit
        subst he
        exact hr6 _ _ _ hM hS hl
  refine o_rec (P := fun t2 => ∀ (H : Heap) (locs : List Loc) (ls : Array Slot), MH G dT o ad t2.2 H → va_S (mAd o ad) s.heap H locs → lv_has ls 8 [(0, .ref o), (1, .int a0), (2, .int t2.1)] → W p l e R s m args below meth c H locs 0 0 Q (F0 m 14 ls [])) (fun t2 x3 hit hC2 hE2 H locs ls hM hS hl => ?_) _ er4 _ _ _ hM hS (lv_sub hl [1, 2, 0] rfl)
  unfold M_row_L14 at hit
  refine lv_iload_n hx hb dX4_row_14 rfl (lv_at hl 2 rfl) ?_
  refine b_if_lt (tgt := 84) hx hb dX4_row_15 (by decide) hit (fun c25 hit => ?_) (fun c25 hit => ?_)
  · have he := o_in hit
    have he := hE2 _ he
    subst he
    exact hr4 _ _ _ hM hS (lv_sub hl [0, 1] rfl)
  · refine lv_iconst (v := 0) hx hb dX4_row_18 (by decide) ?_
    refine lv_istore_n (lv' := [(3, .int 0), (0, .ref o), (1, .int a0), (2, .int t2.1)]) hx hb dX4_row_19 rfl hl (by decide) rfl (fun ls hl => ?_)
    obtain ⟨r28, er28, hit⟩ := o_bind hit
    have hr28 : ∀ (H : Heap) (locs : List Loc) (ls : Array Slot), MH G dT o ad r28 H → va_S (mAd o ad) s.heap H locs → lv_has ls 8 [(0, .ref o), (1, .int a0), (2, .int t2.1)] → W p l e R s m args below meth c H locs 0 0 Q (F0 m 78 ls []) := by
      intro H locs ls hM hS hl
      refine lv_iinc (k := 2) (v := (t2.1 + (-1))) (lv' := [(2, .int (t2.1 + (-1))), (0, .ref o), (1, .int a0)]) hx hb dX4_row_78 hl rfl rfl (by decide) rfl (fun ls hl => ?_)
      refine lv_goto (tgt := 14) hx hb dX4_row_81 (by decide) ?_
      have he := o_in hit
      exact hC2 _ he _ _ _ hM hS (lv_sub hl [1, 2, 0] rfl)
    refine o_rec (P := fun t26 => ∀ (H : Heap) (locs : List Loc) (ls : Array Slot), MH G dT o ad t26.2 H → va_S (mAd o ad) s.heap H locs → lv_has ls 8 [(0, .ref o), (1, .int a0), (2, .int t2.1), (3, .int t26.1)] → W p l e R s m args below meth c H locs 0 0 Q (F0 m 20 ls [])) (fun t26 x27 hit hC26 hE26 H locs ls hM hS hl => ?_) _ er28 _ _ _ hM hS (lv_sub hl [1, 2, 3, 0] rfl)
    unfold M_row_L20 at hit
    refine lv_iload_n hx hb dX4_row_20 rfl (lv_at hl 3 rfl) ?_
    refine lv_bipush (v := 9) hx hb dX4_row_21 (by decide) ?_
    refine b_icmp_gt (tgt := 78) hx hb dX4_row_23 (by decide) hit (fun c29 hit => ?_) (fun c29 hit => ?_)
    · have he := o_in hit
      have he := hE26 _ he
      subst he
      exact hr28 _ _ _ hM hS (lv_sub hl [0, 1, 2] rfl)
    · refine lv_aload_n hx hb dX4_row_26 rfl (lv_at hl 0 rfl) ?_
      refine m_get X hM 50 q1694 rfl rfl (v := .ref (ad 50)) rfl dX4_row_27 ?_
      refine lv_bipush (v := 10) hx hb dX4_row_30 (by decide) ?_
      refine lv_iload_n hx hb dX4_row_32 rfl (lv_at hl 2 rfl) ?_
      refine lv_imul hx hb dX4_row_33 ?_
      refine lv_iload_n hx hb dX4_row_34 rfl (lv_at hl 3 rfl) ?_
      refine lv_iadd hx hb dX4_row_35 ?_
      refine lv_iload_n hx hb dX4_row_36 rfl (lv_at hl 3 rfl) ?_
      refine lv_bipush (v := 9) hx hb dX4_row_37 (by decide) ?_
      obtain ⟨r30, er30, hit⟩ := o_bind hit
      have hr30 : ∀ (H : Heap) (locs : List Loc) (ls : Array Slot), MH G dT o ad t26.2 H → va_S (mAd o ad) s.heap H locs → lv_has ls 8 [(0, .ref o), (1, .int a0), (2, .int t2.1), (3, .int t26.1)] → W p l e R s m args below meth c H locs 0 0 Q (F0 m 71 ls [.int r30, .int ((10 * t2.1) + t26.1), .ref (ad 50)]) := by
        intro H locs ls hM hS hl
        obtain ⟨s31, es31, hit⟩ := o_bind hit
        refine m_iast X hM hS 20 50 rfl rfl es31 dX4_row_71 (fun H locs hM hS => ?_)
        refine lv_iinc (k := 3) (v := (t26.1 + 1)) (lv' := [(3, .int (t26.1 + 1)), (0, .ref o), (1, .int a0), (2, .int t2.1)]) hx hb dX4_row_72 hl rfl rfl (by decide) rfl (fun ls hl => ?_)
        refine lv_goto (tgt := 20) hx hb dX4_row_75 (by decide) ?_
        have he := o_in hit
        exact hC26 _ he _ _ _ hM hS (lv_sub hl [1, 2, 3, 0] rfl)
      have hit := er30
      have hK61 : M_row_J61 t2 t26 = some r30 → ∀ (H : Heap) (locs : List Loc) (ls : Array Slot), MH G dT o ad t26.2 H → va_S (mAd o ad) s.heap H locs → lv_has ls 8 [(0, .ref o), (1, .int a0), (2, .int t2.1), (3, .int t26.1)] → W p l e R s m args below meth c H locs 0 0 Q (F0 m 61 ls [.int ((10 * t2.1) + t26.1), .ref (ad 50)]) := by
        intro  hit H locs ls hM hS hl
        unfold M_row_J61 at hit
        refine lv_aload_n hx hb dX4_row_61 rfl (lv_at hl 0 rfl) ?_
        refine lv_iload_n hx hb dX4_row_62 rfl (lv_at hl 2 rfl) ?_
        refine lv_iload_n hx hb dX4_row_63 rfl (lv_at hl 3 rfl) ?_
        obtain ⟨q32, eq32, hit⟩ := o_bind hit
        refine m_cR X hM (wM_mostBehind l G dT o ad _ _ _ _ eq32) nm_X4_mostBehind q2211 q2213 q141 q2214 qs121 ⟨Nat.le_trans (Nat.le_of_ble_eq_true rfl) hR.1, Nat.le_trans (Nat.le_of_ble_eq_true rfl) hR.2⟩ rfl rfl hl.1 (lv_room (Nat.le_of_ble_eq_true rfl)) dX4_row_64 ?_
        refine lv_goto (tgt := 71) hx hb dX4_row_67 (by decide) ?_
        have he := o_in hit
        subst he
        exact hr30 _ _ _ hM hS hl
      have hK51 : M_row_J51 t2 t26 = some r30 → ∀ (H : Heap) (locs : List Loc) (ls : Array Slot), MH G dT o ad t26.2 H → va_S (mAd o ad) s.heap H locs → lv_has ls 8 [(0, .ref o), (1, .int a0), (2, .int t2.1), (3, .int t26.1)] → W p l e R s m args below meth c H locs 0 0 Q (F0 m 51 ls [.int ((10 * t2.1) + t26.1), .ref (ad 50)]) := by
        intro  hit H locs ls hM hS hl
        unfold M_row_J51 at hit
        refine lv_iload_n hx hb dX4_row_51 rfl (lv_at hl 2 rfl) ?_
        refine b_if_ne (tgt := 70) hx hb dX4_row_52 (by decide) hit (fun c33 hit => ?_) (fun c33 hit => ?_)
        · refine lv_iconst (v := 0) hx hb dX4_row_70 (by decide) ?_
          have he := o_in hit
          subst he
          exact hr30 _ _ _ hM hS hl
        · refine lv_iload_n hx hb dX4_row_55 rfl (lv_at hl 3 rfl) ?_
          refine lv_bipush (v := 9) hx hb dX4_row_56 (by decide) ?_
          refine b_icmp_ne (tgt := 70) hx hb dX4_row_58 (by decide) hit (fun c34 hit => ?_) (fun c34 hit => ?_)
          · refine lv_iconst (v := 0) hx hb dX4_row_70 (by decide) ?_
            have he := o_in hit
            subst he
            exact hr30 _ _ _ hM hS hl
          · exact hK61  hit _ _ _ hM hS hl
      refine b_icmp_ge (tgt := 51) hx hb dX4_row_39 (by decide) hit (fun c35 hit => ?_) (fun c35 hit => ?_)
      · exact hK51  hit _ _ _ hM hS hl
      · refine lv_iload_n hx hb dX4_row_42 rfl (lv_at hl 2 rfl) ?_
        refine lv_iload_n hx hb dX4_row_43 rfl (lv_at hl 3 rfl) ?_
        refine lv_ishr hx hb dX4_row_44 ?_
        refine lv_iconst (v := 1) hx hb dX4_row_45 (by decide) ?_
        refine lv_iand hx hb dX4_row_46 ?_
        refine lv_iconst (v := 1) hx hb dX4_row_47 (by decide) ?_
        refine b_icmp_eq (tgt := 61) hx hb dX4_row_48 (by decide) hit (fun c36 hit => ?_) (fun c36 hit => ?_)
        · exact hK61  hit _ _ _ hM hS hl
        · exact hK51  hit _ _ _ hM hS hl
noncomputable def M_toForge (σ : MS) (a0 : Int32) (a1 : Int32) : Option (Int32 × MS) :=
  (pf σ 0 0).bind fun s1 =>
  (M_isSheet s1 a0).bind fun q2 =>
  if q2.1 = 0 then
    (some (0, q2.2))
  else
    ((M_isSheet q2.2 a1).bind fun q4 =>
    if q4.1 = 0 then
      (some (0, q4.2))
    else
      (if a0 = a1 then
        (some ((-1), q4.2))
      else
        ((M_isBurnt q4.2 0 a0).bind fun q7 =>
        if q7 = 0 then
          ((M_isBurnt q4.2 0 a1).bind fun q9 =>
          if q9 = 0 then
            ((M_offBy q4.2 0 a0 a1).bind fun q11 =>
            (M_greater 0 (q11 - (mf q4.2 4))).bind fun q12 =>
            some (q12, q4.2))
          else
            (some ((-1), q4.2)))
        else
          (some ((-1), q4.2)))))
theorem nm_X4_toForge : kNm yX4_toForge RX4 2 := by unfold kNm; decide +kernel
set_option maxHeartbeats 4000000 in
set_option maxRecDepth 100000 in
theorem wM_toForge (l : Launch) (G : va_G) (dT : Nat → ClassId) (o : Nat) (ad : Nat → Nat) (σ : MS) (a0 : Int32) (a1 : Int32) (z : Int32 × MS) (h : M_toForge σ a0 a1 = some z) : Met l yX4_toForge (ws_ yX4_toForge cX4_toForge 3 (some .int)) (kRm 2 45) (mPc G dT o ad σ [.int a0, .int a1]) (va_Qi (fun r (_ : Unit) => r = z.1) (fun _ t => MH G dT o ad z.2 t.heap) (mAd o ad)) 0 0 (mAd o ad) := by
  refine m_startNi (cc := cX4_toForge) (ty := .int) rfl rfl rfl (fun p e R s m args below meth c Q ls X hR hM hS hl hend => ?_)
  have hx := X.1.1
  have hb := X.1.2.1
  have hit := h
  clear h
  unfold M_toForge at hit
  have hl : lv_has ls 3 [(0, .ref o), (1, .int a0), (2, .int a1)] := hl
  refine lv_aload_n hx hb dX4_toForge_0 rfl (lv_at hl 0 rfl) ?_
  refine lv_iconst (v := 0) hx hb dX4_toForge_1 (by decide) ?_
  obtain ⟨s1, es1, hit⟩ := o_bind hit
  refine m_put X hM hS 0 q1644 rfl rfl (ty := .int) rfl rfl rfl es1 dX4_toForge_2 (fun H locs hM hS => ?_)
  refine lv_aload_n hx hb dX4_toForge_5 rfl (lv_at hl 0 rfl) ?_
  refine lv_iload_n hx hb dX4_toForge_6 rfl (lv_at hl 1 rfl) ?_
  obtain ⟨q2, eq2, hit⟩ := o_bind hit
  refine m_cNi X hM hS (wM_isSheet l G dT o ad _ _ _ eq2) nm_X4_isSheet q2028 q2030 q141 q2031 qs92 ⟨Nat.le_trans (Nat.le_of_ble_eq_true rfl) hR.1, Nat.le_trans (Nat.le_of_ble_eq_true rfl) hR.2⟩ rfl rfl hl.1 (lv_room (Nat.le_of_ble_eq_true rfl)) dX4_toForge_7 (fun H locs hM hS => ?_)
  refine b_if_eq (tgt := 21) hx hb dX4_toForge_10 (by decide) hit (fun c3 hit => ?_) (fun c3 hit => ?_)
  · refine lv_iconst (v := 0) hx hb dX4_toForge_21 (by decide) ?_
    have he := o_in hit
    exact hend _ 0 _ _ _ _ _ rfl he hM hS dX4_toForge_22
  · refine lv_aload_n hx hb dX4_toForge_13 rfl (lv_at hl 0 rfl) ?_
    refine lv_iload_n hx hb dX4_toForge_14 rfl (lv_at hl 2 rfl) ?_
    obtain ⟨q4, eq4, hit⟩ := o_bind hit
    refine m_cNi X hM hS (wM_isSheet l G dT o ad _ _ _ eq4) nm_X4_isSheet q2028 q2030 q141 q2031 qs92 ⟨Nat.le_trans (Nat.le_of_ble_eq_true rfl) hR.1, Nat.le_trans (Nat.le_of_ble_eq_true rfl) hR.2⟩ rfl rfl hl.1 (lv_room (Nat.le_of_ble_eq_true rfl)) dX4_toForge_15 (fun H locs hM hS => ?_)
    refine b_if_ne (tgt := 23) hx hb dX4_toForge_18 (by decide) hit (fun c5 hit => ?_) (fun c5 hit => ?_)
    · refine lv_iload_n hx hb dX4_toForge_23 rfl (lv_at hl 1 rfl) ?_
      refine lv_iload_n hx hb dX4_toForge_24 rfl (lv_at hl 2 rfl) ?_
      refine b_icmp_eq (tgt := 46) hx hb dX4_toForge_25 (by decide) hit (fun c6 hit => ?_) (fun c6 hit => ?_)
      · refine lv_iconst (v := (-1)) hx hb dX4_toForge_46 (by decide) ?_
        have he := o_in hit
        exact hend _ (-1) _ _ _ _ _ rfl he hM hS dX4_toForge_47
      · refine lv_aload_n hx hb dX4_toForge_28 rfl (lv_at hl 0 rfl) ?_
        refine lv_iconst (v := 0) hx hb dX4_toForge_29 (by decide) ?_
        refine lv_iload_n hx hb dX4_toForge_30 rfl (lv_at hl 1 rfl) ?_
        obtain ⟨q7, eq7, hit⟩ := o_bind hit
        refine m_cR X hM (wM_isBurnt l G dT o ad _ _ _ _ eq7) nm_X4_isBurnt q1990 q1992 q141 q1993 qs85 ⟨Nat.le_trans (Nat.le_of_ble_eq_true rfl) hR.1, Nat.le_trans (Nat.le_of_ble_eq_true rfl) hR.2⟩ rfl rfl hl.1 (lv_room (Nat.le_of_ble_eq_true rfl)) dX4_toForge_31 ?_
        refine b_if_ne (tgt := 46) hx hb dX4_toForge_34 (by decide) hit (fun c8 hit => ?_) (fun c8 hit => ?_)
        · refine lv_iconst (v := (-1)) hx hb dX4_toForge_46 (by decide) ?_
          have he := o_in hit
          exact hend _ (-1) _ _ _ _ _ rfl he hM hS dX4_toForge_47
        · refine lv_aload_n hx hb dX4_toForge_37 rfl (lv_at hl 0 rfl) ?_
          refine lv_iconst (v := 0) hx hb dX4_toForge_38 (by decide) ?_
          refine lv_iload_n hx hb dX4_toForge_39 rfl (lv_at hl 2 rfl) ?_
          obtain ⟨q9, eq9, hit⟩ := o_bind hit
          refine m_cR X hM (wM_isBurnt l G dT o ad _ _ _ _ eq9) nm_X4_isBurnt q1990 q1992 q141 q1993 qs85 ⟨Nat.le_trans (Nat.le_of_ble_eq_true rfl) hR.1, Nat.le_trans (Nat.le_of_ble_eq_true rfl) hR.2⟩ rfl rfl hl.1 (lv_room (Nat.le_of_ble_eq_true rfl)) dX4_toForge_40 ?_
          refine b_if_eq (tgt := 48) hx hb dX4_toForge_43 (by decide) hit (fun c10 hit => ?_) (fun c10 hit => ?_)
          · refine lv_iconst (v := 0) hx hb dX4_toForge_48 (by decide) ?_
            refine lv_aload_n hx hb dX4_toForge_49 rfl (lv_at hl 0 rfl) ?_
            refine lv_iconst (v := 0) hx hb dX4_toForge_50 (by decide) ?_
            refine lv_iload_n hx hb dX4_toForge_51 rfl (lv_at hl 1 rfl) ?_
            refine lv_iload_n hx hb dX4_toForge_52 rfl (lv_at hl 2 rfl) ?_
            obtain ⟨q11, eq11, hit⟩ := o_bind hit
            refine m_cR X hM (wM_offBy l G dT o ad _ _ _ _ _ eq11) nm_X4_offBy q2014 q2016 q141 q2017 qs91 ⟨Nat.le_trans (Nat.le_of_ble_eq_true rfl) hR.1, Nat.le_trans (Nat.le_of_ble_eq_true rfl) hR.2⟩ rfl rfl hl.1 (lv_room (Nat.le_of_ble_eq_true rfl)) dX4_toForge_53 ?_
            refine lv_aload_n hx hb dX4_toForge_56 rfl (lv_at hl 0 rfl) ?_
            refine m_get X hM 4 q1648 rfl rfl (v := .int (mf q4.2 4)) rfl dX4_toForge_57 ?_
            refine lv_isub hx hb dX4_toForge_60 ?_
            obtain ⟨q12, eq12, hit⟩ := o_bind hit
            refine m_cP X.1 (wM_greater l _ _ _ eq12) nm_X4_greater q2021 q2022 q141 q2023 ⟨Nat.le_trans (Nat.le_of_ble_eq_true rfl) hR.1, Nat.le_trans (Nat.le_of_ble_eq_true rfl) hR.2⟩ rfl rfl hl.1 (lv_room (Nat.le_of_ble_eq_true rfl)) dX4_toForge_61 ?_
            have he := o_in hit
            exact hend _ q12 _ _ _ _ _ rfl he hM hS dX4_toForge_64
          · refine lv_iconst (v := (-1)) hx hb dX4_toForge_46 (by decide) ?_
            have he := o_in hit
            exact hend _ (-1) _ _ _ _ _ rfl he hM hS dX4_toForge_47
    · refine lv_iconst (v := 0) hx hb dX4_toForge_21 (by decide) ?_
      have he := o_in hit
      exact hend _ 0 _ _ _ _ _ rfl he hM hS dX4_toForge_22
noncomputable def M_toSave_L36 (q2 : Int32 × MS) (q4 : Int32) (t7 : Int32 × Int32 × Int32) : Option ((Int32 × Int32 × Int32) ⊕ (Int32 × MS)) :=
  if t7.2.2 < (mf q2.2 1) then
    (((if ((q4 >>> (t7.2.2 &&& 31)) &&& 1) = 0 then
        (some (t7.1, t7.2.1))
      else
        ((M_lostBy q2.2 (q4 &&& (((1 : Int32) <<< (t7.2.2 &&& 31)) ^^^ (-1)))).bind fun q12 =>
        (M_bits q12).bind fun q13 =>
        if q13 < t7.2.1 then
          ((M_lostBy q2.2 (q4 &&& (((1 : Int32) <<< (t7.2.2 &&& 31)) ^^^ (-1)))).bind fun q15 =>
          (M_bits q15).bind fun q16 =>
          some (t7.2.2, q16))
        else
          (some (t7.1, t7.2.1))) : Option (Int32 × Int32))).bind fun r10 =>
    some (.inl (r10.1, r10.2, (t7.2.2 + 1))))
  else
    (some (.inr (t7.1, q2.2)))
noncomputable def M_toSave (σ : MS) (a0 : Int32) : Option (Int32 × MS) :=
  (pf σ 0 0).bind fun s1 =>
  (M_isTown s1 a0).bind fun q2 =>
  if q2.1 = 0 then
    (some (0, q2.2))
  else
    ((M_archive q2.2 a0).bind fun q4 =>
    (M_lostBy q2.2 q4).bind fun q5 =>
    (M_bits q5).bind fun q6 =>
    o_loop (M_toSave_L36 q2 q4) ((-1), q6, 0))
theorem nm_X4_toSave : kNm yX4_toSave RX4 1 := by unfold kNm; decide +kernel
set_option maxHeartbeats 4000000 in
set_option maxRecDepth 100000 in
theorem wM_toSave (l : Launch) (G : va_G) (dT : Nat → ClassId) (o : Nat) (ad : Nat → Nat) (σ : MS) (a0 : Int32) (z : Int32 × MS) (h : M_toSave σ a0 = some z) : Met l yX4_toSave (ws_ yX4_toSave cX4_toSave 6 (some .int)) (kRm 3 66) (mPc G dT o ad σ [.int a0]) (va_Qi (fun r (_ : Unit) => r = z.1) (fun _ t => MH G dT o ad z.2 t.heap) (mAd o ad)) 0 0 (mAd o ad) := by
  refine m_startNi (cc := cX4_toSave) (ty := .int) rfl rfl rfl (fun p e R s m args below meth c Q ls X hR hM hS hl hend => ?_)
  have hx := X.1.1
  have hb := X.1.2.1
  have hit := h
  clear h
  unfold M_toSave at hit
  have hl : lv_has ls 6 [(0, .ref o), (1, .int a0)] := hl
  refine lv_aload_n hx hb dX4_toSave_0 rfl (lv_at hl 0 rfl) ?_
  refine lv_iconst (v := 0) hx hb dX4_toSave_1 (by decide) ?_
  obtain ⟨s1, es1, hit⟩ := o_bind hit
  refine m_put X hM hS 0 q1644 rfl rfl (ty := .int) rfl rfl rfl es1 dX4_toSave_2 (fun H locs hM hS => ?_)
  refine lv_aload_n hx hb dX4_toSave_5 rfl (lv_at hl 0 rfl) ?_
  refine lv_iload_n hx hb dX4_toSave_6 rfl (lv_at hl 1 rfl) ?_
  obtain ⟨q2, eq2, hit⟩ := o_bind hit
  refine m_cNi X hM hS (wM_isTown l G dT o ad _ _ _ eq2) nm_X4_isTown q2088 q2090 q141 q2091 qs104 ⟨Nat.le_trans (Nat.le_of_ble_eq_true rfl) hR.1, Nat.le_trans (Nat.le_of_ble_eq_true rfl) hR.2⟩ rfl rfl hl.1 (lv_room (Nat.le_of_ble_eq_true rfl)) dX4_toSave_7 (fun H locs hM hS => ?_)
  refine b_if_ne (tgt := 15) hx hb dX4_toSave_10 (by decide) hit (fun c3 hit => ?_) (fun c3 hit => ?_)
  · refine lv_aload_n hx hb dX4_toSave_15 rfl (lv_at hl 0 rfl) ?_
    refine lv_iload_n hx hb dX4_toSave_16 rfl (lv_at hl 1 rfl) ?_
    obtain ⟨q4, eq4, hit⟩ := o_bind hit
    refine m_cR X hM (wM_archive l G dT o ad _ _ _ eq4) nm_X4_archive q2092 q2094 q141 q2095 qs105 ⟨Nat.le_trans (Nat.le_of_ble_eq_true rfl) hR.1, Nat.le_trans (Nat.le_of_ble_eq_true rfl) hR.2⟩ rfl rfl hl.1 (lv_room (Nat.le_of_ble_eq_true rfl)) dX4_toSave_17 ?_
    refine lv_istore_n (lv' := [(2, .int q4), (0, .ref o), (1, .int a0)]) hx hb dX4_toSave_20 rfl hl (by decide) rfl (fun ls hl => ?_)
    refine lv_iconst (v := (-1)) hx hb dX4_toSave_21 (by decide) ?_
    refine lv_istore_n (lv' := [(3, .int (-1)), (2, .int q4), (0, .ref o), (1, .int a0)]) hx hb dX4_toSave_22 rfl hl (by decide) rfl (fun ls hl => ?_)
    refine lv_aload_n hx hb dX4_toSave_23 rfl (lv_at hl 2 rfl) ?_
    refine lv_iload_n hx hb dX4_toSave_24 rfl (lv_at hl 1 rfl) ?_
    obtain ⟨q5, eq5, hit⟩ := o_bind hit
    refine m_cR X hM (wM_lostBy l G dT o ad _ _ _ eq5) nm_X4_lostBy q2100 q2102 q141 q2103 qs107 ⟨Nat.le_trans (Nat.le_of_ble_eq_true rfl) hR.1, Nat.le_trans (Nat.le_of_ble_eq_true rfl) hR.2⟩ rfl rfl hl.1 (lv_room (Nat.le_of_ble_eq_true rfl)) dX4_toSave_25 ?_
    obtain ⟨q6, eq6, hit⟩ := o_bind hit
    refine m_cP X.1 (wM_bits l _ _ eq6) nm_X4_bits q2018 q2019 q141 q2020 ⟨Nat.le_trans (Nat.le_of_ble_eq_true rfl) hR.1, Nat.le_trans (Nat.le_of_ble_eq_true rfl) hR.2⟩ rfl rfl hl.1 (lv_room (Nat.le_of_ble_eq_true rfl)) dX4_toSave_28 ?_
    refine lv_istore (lv' := [(4, .int q6), (3, .int (-1)), (2, .int q4), (0, .ref o), (1, .int a0)]) hx hb dX4_toSave_31 hl (by decide) rfl (fun ls hl => ?_)
    refine lv_iconst (v := 0) hx hb dX4_toSave_33 (by decide) ?_
    refine lv_istore (lv' := [(5, .int 0), (4, .int q6), (3, .int (-1)), (2, .int q4), (0, .ref o), (1, .int a0)]) hx hb dX4_toSave_34 hl (by decide) rfl (fun ls hl => ?_)
    refine o_rec (P := fun t7 => ∀ (H : Heap) (locs : List Loc) (ls : Array Slot), MH G dT o ad q2.2 H → va_S (mAd o ad) s.heap H locs → lv_has ls 6 [(2, .int q4), (0, .ref o), (3, .int t7.1), (4, .int t7.2.1), (5, .int t7.2.2)] → W p l e R s m args below meth c H locs 0 0 Q (F0 m 36 ls [])) (fun t7 x8 hit hC7 hE7 H locs ls hM hS hl => ?_) _ hit _ _ _ hM hS (lv_sub hl [3, 4, 2, 1, 0] rfl)
    unfold M_toSave_L36 at hit
    refine lv_iload hx hb dX4_toSave_36 (lv_at hl 4 rfl) ?_
    refine lv_aload_n hx hb dX4_toSave_38 rfl (lv_at hl 1 rfl) ?_
    refine m_get X hM 1 q1645 rfl rfl (v := .int (mf q2.2 1)) rfl dX4_toSave_39 ?_
    refine b_icmp_ge (tgt := 103) hx hb dX4_toSave_42 (by decide) hit (fun c9 hit => ?_) (fun c9 hit => ?_)
    · refine lv_iload_n hx hb dX4_toSave_103 rfl (lv_at hl 2 rfl) ?_
      have he := o_in hit
      have he := hE7 _ he
      exact hend _ t7.1 _ _ _ _ _ rfl he hM hS dX4_toSave_104
    · refine lv_iload_n hx hb dX4_toSave_45 rfl (lv_at hl 0 rfl) ?_
      refine lv_iload hx hb dX4_toSave_46 (lv_at hl 4 rfl) ?_
      refine lv_ishr hx hb dX4_toSave_48 ?_
      refine lv_iconst (v := 1) hx hb dX4_toSave_49 (by decide) ?_
      refine lv_iand hx hb dX4_toSave_50 ?_
      obtain ⟨r10, er10, hit⟩ := o_bind hit
      have hr10 : ∀ (H : Heap) (locs : List Loc) (ls : Array Slot), MH G dT o ad q2.2 H → va_S (mAd o ad) s.heap H locs → lv_has ls 6 [(2, .int q4), (0, .ref o), (5, .int t7.2.2), (3, .int r10.1), (4, .int r10.2)] → W p l e R s m args below meth c H locs 0 0 Q (F0 m 97 ls []) := by
        intro H locs ls hM hS hl
        refine lv_iinc (k := 2) (v := (t7.2.2 + 1)) (lv' := [(5, .int (t7.2.2 + 1)), (2, .int q4), (0, .ref o), (3, .int r10.1), (4, .int r10.2)]) hx hb dX4_toSave_97 hl rfl rfl (by decide) rfl (fun ls hl => ?_)
        refine lv_goto (tgt := 36) hx hb dX4_toSave_100 (by decide) ?_
        have he := o_in hit
        exact hC7 _ he _ _ _ hM hS (lv_sub hl [1, 2, 3, 4, 0] rfl)
      have hit := er10
      refine b_if_eq (tgt := 97) hx hb dX4_toSave_51 (by decide) hit (fun c11 hit => ?_) (fun c11 hit => ?_)
      · have he := o_in hit
        subst he
        exact hr10 _ _ _ hM hS (lv_sub hl [0, 1, 4, 2, 3] rfl)
      · refine lv_aload_n hx hb dX4_toSave_54 rfl (lv_at hl 1 rfl) ?_
        refine lv_iload_n hx hb dX4_toSave_55 rfl (lv_at hl 0 rfl) ?_
        refine lv_iconst (v := 1) hx hb dX4_toSave_56 (by decide) ?_
        refine lv_iload hx hb dX4_toSave_57 (lv_at hl 4 rfl) ?_
        refine lv_ishl hx hb dX4_toSave_59 ?_
        refine lv_iconst (v := (-1)) hx hb dX4_toSave_60 (by decide) ?_
        refine lv_ixor hx hb dX4_toSave_61 ?_
        refine lv_iand hx hb dX4_toSave_62 ?_
        obtain ⟨q12, eq12, hit⟩ := o_bind hit
        refine m_cR X hM (wM_lostBy l G dT o ad _ _ _ eq12) nm_X4_lostBy q2100 q2102 q141 q2103 qs107 ⟨Nat.le_trans (Nat.le_of_ble_eq_true rfl) hR.1, Nat.le_trans (Nat.le_of_ble_eq_true rfl) hR.2⟩ rfl rfl hl.1 (lv_room (Nat.le_of_ble_eq_true rfl)) dX4_toSave_63 ?_
        obtain ⟨q13, eq13, hit⟩ := o_bind hit
        refine m_cP X.1 (wM_bits l _ _ eq13) nm_X4_bits q2018 q2019 q141 q2020 ⟨Nat.le_trans (Nat.le_of_ble_eq_true rfl) hR.1, Nat.le_trans (Nat.le_of_ble_eq_true rfl) hR.2⟩ rfl rfl hl.1 (lv_room (Nat.le_of_ble_eq_true rfl)) dX4_toSave_66 ?_
        refine lv_iload hx hb dX4_toSave_69 (lv_at hl 3 rfl) ?_
        refine b_icmp_lt (tgt := 77) hx hb dX4_toSave_71 (by decide) hit (fun c14 hit => ?_) (fun c14 hit => ?_)
        · refine lv_iload hx hb dX4_toSave_77 (lv_at hl 4 rfl) ?_
          refine lv_istore_n (lv' := [(3, .int t7.2.2), (2, .int q4), (0, .ref o), (4, .int t7.2.1), (5, .int t7.2.2)]) hx hb dX4_toSave_79 rfl hl (by decide) rfl (fun ls hl => ?_)
          refine lv_aload_n hx hb dX4_toSave_80 rfl (lv_at hl 2 rfl) ?_
          refine lv_iload_n hx hb dX4_toSave_81 rfl (lv_at hl 1 rfl) ?_
          refine lv_iconst (v := 1) hx hb dX4_toSave_82 (by decide) ?_
          refine lv_iload hx hb dX4_toSave_83 (lv_at hl 4 rfl) ?_
          refine lv_ishl hx hb dX4_toSave_85 ?_
          refine lv_iconst (v := (-1)) hx hb dX4_toSave_86 (by decide) ?_
          refine lv_ixor hx hb dX4_toSave_87 ?_
          refine lv_iand hx hb dX4_toSave_88 ?_
          obtain ⟨q15, eq15, hit⟩ := o_bind hit
          refine m_cR X hM (wM_lostBy l G dT o ad _ _ _ eq15) nm_X4_lostBy q2100 q2102 q141 q2103 qs107 ⟨Nat.le_trans (Nat.le_of_ble_eq_true rfl) hR.1, Nat.le_trans (Nat.le_of_ble_eq_true rfl) hR.2⟩ rfl rfl hl.1 (lv_room (Nat.le_of_ble_eq_true rfl)) dX4_toSave_89 ?_
          obtain ⟨q16, eq16, hit⟩ := o_bind hit
          refine m_cP X.1 (wM_bits l _ _ eq16) nm_X4_bits q2018 q2019 q141 q2020 ⟨Nat.le_trans (Nat.le_of_ble_eq_true rfl) hR.1, Nat.le_trans (Nat.le_of_ble_eq_true rfl) hR.2⟩ rfl rfl hl.1 (lv_room (Nat.le_of_ble_eq_true rfl)) dX4_toSave_92 ?_
          refine lv_istore (lv' := [(4, .int q16), (3, .int t7.2.2), (2, .int q4), (0, .ref o), (5, .int t7.2.2)]) hx hb dX4_toSave_95 hl (by decide) rfl (fun ls hl => ?_)
          have he := o_in hit
          subst he
          exact hr10 _ _ _ hM hS (lv_sub hl [2, 3, 4, 1, 0] rfl)
        · refine lv_goto (tgt := 97) hx hb dX4_toSave_74 (by decide) ?_
          have he := o_in hit
          subst he
          exact hr10 _ _ _ hM hS (lv_sub hl [0, 1, 4, 2, 3] rfl)
  · refine lv_iconst (v := 0) hx hb dX4_toSave_13 (by decide) ?_
    have he := o_in hit
    exact hend _ 0 _ _ _ _ _ rfl he hM hS dX4_toSave_14
noncomputable def M_toRead_L9 (s1 : MS) (t2 : Int32 × Int32) : Option ((Int32 × Int32) ⊕ (Int32 × MS)) :=
  if t2.2 < (mf s1 3) then
    ((ald s1 9 t2.2).bind fun v5 =>
    (ald s1 10 t2.2).bind fun v6 =>
    (M_doesFit s1 0 v5 v6).bind fun q7 =>
    ((if q7 = 0 then
        (some 0)
      else
        ((ald s1 9 t2.2).bind fun v10 =>
        (ald s1 10 t2.2).bind fun v11 =>
        some (((1 : Int32) <<< (v10 &&& 31)) ||| ((1 : Int32) <<< (v11 &&& 31)))) : Option Int32)).bind fun r8 =>
    some (.inl ((t2.1 ||| r8), (t2.2 + 1))))
  else
    (some (.inr (t2.1, s1)))
noncomputable def M_toRead (σ : MS) : Option (Int32 × MS) :=
  (pf σ 0 0).bind fun s1 =>
  o_loop (M_toRead_L9 s1) (0, 0)
theorem nm_X4_toRead : kNm yX4_toRead RX4 0 := by unfold kNm; decide +kernel
set_option maxHeartbeats 4000000 in
set_option maxRecDepth 100000 in
theorem wM_toRead (l : Launch) (G : va_G) (dT : Nat → ClassId) (o : Nat) (ad : Nat → Nat) (σ : MS) (z : Int32 × MS) (h : M_toRead σ = some z) : Met l yX4_toRead (ws_ yX4_toRead cX4_toRead 3 (some .int)) (kRm 3 68) (mPc G dT o ad σ []) (va_Qi (fun r (_ : Unit) => r = z.1) (fun _ t => MH G dT o ad z.2 t.heap) (mAd o ad)) 0 0 (mAd o ad) := by
  refine m_startNi (cc := cX4_toRead) (ty := .int) rfl rfl rfl (fun p e R s m args below meth c Q ls X hR hM hS hl hend => ?_)
  have hx := X.1.1
  have hb := X.1.2.1
  have hit := h
  clear h
  unfold M_toRead at hit
  have hl : lv_has ls 3 [(0, .ref o)] := hl
  refine lv_aload_n hx hb dX4_toRead_0 rfl (lv_at hl 0 rfl) ?_
  refine lv_iconst (v := 0) hx hb dX4_toRead_1 (by decide) ?_
  obtain ⟨s1, es1, hit⟩ := o_bind hit
  refine m_put X hM hS 0 q1644 rfl rfl (ty := .int) rfl rfl rfl es1 dX4_toRead_2 (fun H locs hM hS => ?_)
  refine lv_iconst (v := 0) hx hb dX4_toRead_5 (by decide) ?_
  refine lv_istore_n (lv' := [(1, .int 0), (0, .ref o)]) hx hb dX4_toRead_6 rfl hl (by decide) rfl (fun ls hl => ?_)
  refine lv_iconst (v := 0) hx hb dX4_toRead_7 (by decide) ?_
  refine lv_istore_n (lv' := [(2, .int 0), (1, .int 0), (0, .ref o)]) hx hb dX4_toRead_8 rfl hl (by decide) rfl (fun ls hl => ?_)
  refine o_rec (P := fun t2 => ∀ (H : Heap) (locs : List Loc) (ls : Array Slot), MH G dT o ad s1 H → va_S (mAd o ad) s.heap H locs → lv_has ls 3 [(0, .ref o), (1, .int t2.1), (2, .int t2.2)] → W p l e R s m args below meth c H locs 0 0 Q (F0 m 9 ls [])) (fun t2 x3 hit hC2 hE2 H locs ls hM hS hl => ?_) _ hit _ _ _ hM hS (lv_sub hl [2, 1, 0] rfl)
  unfold M_toRead_L9 at hit
  refine lv_iload_n hx hb dX4_toRead_9 rfl (lv_at hl 2 rfl) ?_
  refine lv_aload_n hx hb dX4_toRead_10 rfl (lv_at hl 0 rfl) ?_
  refine m_get X hM 3 q1647 rfl rfl (v := .int (mf s1 3)) rfl dX4_toRead_11 ?_
  refine b_icmp_ge (tgt := 67) hx hb dX4_toRead_14 (by decide) hit (fun c4 hit => ?_) (fun c4 hit => ?_)
  · refine lv_iload_n hx hb dX4_toRead_67 rfl (lv_at hl 1 rfl) ?_
    have he := o_in hit
    have he := hE2 _ he
    exact hend _ t2.1 _ _ _ _ _ rfl he hM hS dX4_toRead_68
  · refine lv_iload_n hx hb dX4_toRead_17 rfl (lv_at hl 1 rfl) ?_
    refine lv_aload_n hx hb dX4_toRead_18 rfl (lv_at hl 0 rfl) ?_
    refine lv_iconst (v := 0) hx hb dX4_toRead_19 (by decide) ?_
    refine lv_aload_n hx hb dX4_toRead_20 rfl (lv_at hl 0 rfl) ?_
    refine m_get X hM 9 q1653 rfl rfl (v := .ref (ad 9)) rfl dX4_toRead_21 ?_
    refine lv_iload_n hx hb dX4_toRead_24 rfl (lv_at hl 2 rfl) ?_
    obtain ⟨v5, ev5, hit⟩ := o_bind hit
    refine m_iald X hM 2 9 rfl rfl ev5 dX4_toRead_25 ?_
    refine lv_aload_n hx hb dX4_toRead_26 rfl (lv_at hl 0 rfl) ?_
    refine m_get X hM 10 q1654 rfl rfl (v := .ref (ad 10)) rfl dX4_toRead_27 ?_
    refine lv_iload_n hx hb dX4_toRead_30 rfl (lv_at hl 2 rfl) ?_
    obtain ⟨v6, ev6, hit⟩ := o_bind hit
    refine m_iald X hM 3 10 rfl rfl ev6 dX4_toRead_31 ?_
    obtain ⟨q7, eq7, hit⟩ := o_bind hit
    refine m_cR X hM (wM_doesFit l G dT o ad _ _ _ _ _ eq7) nm_X4_doesFit q2010 q2012 q141 q2013 qs90 ⟨Nat.le_trans (Nat.le_of_ble_eq_true rfl) hR.1, Nat.le_trans (Nat.le_of_ble_eq_true rfl) hR.2⟩ rfl rfl hl.1 (lv_room (Nat.le_of_ble_eq_true rfl)) dX4_toRead_32 ?_
    obtain ⟨r8, er8, hit⟩ := o_bind hit
    have hr8 : ∀ (H : Heap) (locs : List Loc) (ls : Array Slot), MH G dT o ad s1 H → va_S (mAd o ad) s.heap H locs → lv_has ls 3 [(0, .ref o), (2, .int t2.2)] → W p l e R s m args below meth c H locs 0 0 Q (F0 m 59 ls [.int r8, .int t2.1]) := by
      intro H locs ls hM hS hl
      refine lv_ior hx hb dX4_toRead_59 ?_
      refine lv_istore_n (lv' := [(1, .int (t2.1 ||| r8)), (0, .ref o), (2, .int t2.2)]) hx hb dX4_toRead_60 rfl hl (by decide) rfl (fun ls hl => ?_)
      refine lv_iinc (k := 2) (v := (t2.2 + 1)) (lv' := [(2, .int (t2.2 + 1)), (1, .int (t2.1 ||| r8)), (0, .ref o)]) hx hb dX4_toRead_61 hl rfl rfl (by decide) rfl (fun ls hl => ?_)
      refine lv_goto (tgt := 9) hx hb dX4_toRead_64 (by decide) ?_
      have he := o_in hit
      exact hC2 _ he _ _ _ hM hS (lv_sub hl [2, 1, 0] rfl)
    have hit := er8
    refine b_if_eq (tgt := 58) hx hb dX4_toRead_35 (by decide) hit (fun c9 hit => ?_) (fun c9 hit => ?_)
    · refine lv_iconst (v := 0) hx hb dX4_toRead_58 (by decide) ?_
      have he := o_in hit
      subst he
      exact hr8 _ _ _ hM hS (lv_sub hl [0, 2] rfl)
    · refine lv_iconst (v := 1) hx hb dX4_toRead_38 (by decide) ?_
      refine lv_aload_n hx hb dX4_toRead_39 rfl (lv_at hl 0 rfl) ?_
      refine m_get X hM 9 q1653 rfl rfl (v := .ref (ad 9)) rfl dX4_toRead_40 ?_
      refine lv_iload_n hx hb dX4_toRead_43 rfl (lv_at hl 2 rfl) ?_
      obtain ⟨v10, ev10, hit⟩ := o_bind hit
      refine m_iald X hM 2 9 rfl rfl ev10 dX4_toRead_44 ?_
      refine lv_ishl hx hb dX4_toRead_45 ?_
      refine lv_iconst (v := 1) hx hb dX4_toRead_46 (by decide) ?_
      refine lv_aload_n hx hb dX4_toRead_47 rfl (lv_at hl 0 rfl) ?_
      refine m_get X hM 10 q1654 rfl rfl (v := .ref (ad 10)) rfl dX4_toRead_48 ?_
      refine lv_iload_n hx hb dX4_toRead_51 rfl (lv_at hl 2 rfl) ?_
      obtain ⟨v11, ev11, hit⟩ := o_bind hit
      refine m_iald X hM 3 10 rfl rfl ev11 dX4_toRead_52 ?_
      refine lv_ishl hx hb dX4_toRead_53 ?_
      refine lv_ior hx hb dX4_toRead_54 ?_
      refine lv_goto (tgt := 59) hx hb dX4_toRead_55 (by decide) ?_
      have he := o_in hit
      subst he
      exact hr8 _ _ _ hM hS (lv_sub hl [0, 2] rfl)
noncomputable def M_chain_L57 (t12 : Int32 × MS) : Option ((Int32 × MS) ⊕ MS) :=
  if t12.1 < 4 then
    ((M_clerksAt t12.2 34 t12.1).bind fun q17 =>
    (M_clerksAt t12.2 34 t12.1).bind fun q18 =>
    (M_knownBy t12.2 34 q18).bind fun q19 =>
    (M_learns t12.2 34 q17 q19).bind fun q20 =>
    some (.inl ((t12.1 + 1), q20)))
  else
    (some (.inr t12.2))
noncomputable def M_chain_L29 (a0 : Int32) (a1 : Int32) (t7 : Int32 × MS) : Option ((Int32 × MS) ⊕ (Int32 × MS)) :=
  if t7.1 ≤ 40 then
    ((ald t7.2 44 (62 + a0)).bind fun v10 =>
    if ((v10 >>> (a1 &&& 31)) &&& 1) = 1 then
      (some (.inr (t7.1, t7.2)))
    else
      ((o_loop M_chain_L57 (0, t7.2)).bind fun r14 =>
      (M_dayGoes r14 34).bind fun q15 =>
      some (.inl ((t7.1 + 1), q15))))
  else
    (some (.inr ((-1), t7.2)))
noncomputable def M_chain (σ : MS) (a0 : Int32) (a1 : Int32) : Option (Int32 × MS) :=
  (pf σ 0 0).bind fun s1 =>
  (M_isClerk s1 a0).bind fun q2 =>
  if q2.1 = 0 then
    (some (0, q2.2))
  else
    ((M_isWord q2.2 a1).bind fun q4 =>
    if q4.1 = 0 then
      (some (0, q4.2))
    else
      ((M_tries q4.2).bind fun q6 =>
      o_loop (M_chain_L29 a0 a1) (0, q6)))
theorem nm_X4_chain : kNm yX4_chain RX4 2 := by unfold kNm; decide +kernel
set_option maxHeartbeats 4000000 in
set_option maxRecDepth 100000 in
theorem wM_chain (l : Launch) (G : va_G) (dT : Nat → ClassId) (o : Nat) (ad : Nat → Nat) (σ : MS) (a0 : Int32) (a1 : Int32) (z : Int32 × MS) (h : M_chain σ a0 a1 = some z) : Met l yX4_chain (ws_ yX4_chain cX4_chain 5 (some .int)) (kRm 6 138) (mPc G dT o ad σ [.int a0, .int a1]) (va_Qi (fun r (_ : Unit) => r = z.1) (fun _ t => MH G dT o ad z.2 t.heap) (mAd o ad)) 0 0 (mAd o ad) := by
  refine m_startNi (cc := cX4_chain) (ty := .int) rfl rfl rfl (fun p e R s m args below meth c Q ls X hR hM hS hl hend => ?_)
  have hx := X.1.1
  have hb := X.1.2.1
  have hit := h
  clear h
  unfold M_chain at hit
  have hl : lv_has ls 5 [(0, .ref o), (1, .int a0), (2, .int a1)] := hl
  refine lv_aload_n hx hb dX4_chain_0 rfl (lv_at hl 0 rfl) ?_
  refine lv_iconst (v := 0) hx hb dX4_chain_1 (by decide) ?_
  obtain ⟨s1, es1, hit⟩ := o_bind hit
  refine m_put X hM hS 0 q1644 rfl rfl (ty := .int) rfl rfl rfl es1 dX4_chain_2 (fun H locs hM hS => ?_)
  refine lv_aload_n hx hb dX4_chain_5 rfl (lv_at hl 0 rfl) ?_
  refine lv_iload_n hx hb dX4_chain_6 rfl (lv_at hl 1 rfl) ?_
  obtain ⟨q2, eq2, hit⟩ := o_bind hit
  refine m_cNi X hM hS (wM_isClerk l G dT o ad _ _ _ eq2) nm_X4_isClerk q2056 q2058 q141 q2059 qs98 ⟨Nat.le_trans (Nat.le_of_ble_eq_true rfl) hR.1, Nat.le_trans (Nat.le_of_ble_eq_true rfl) hR.2⟩ rfl rfl hl.1 (lv_room (Nat.le_of_ble_eq_true rfl)) dX4_chain_7 (fun H locs hM hS => ?_)
  refine b_if_eq (tgt := 21) hx hb dX4_chain_10 (by decide) hit (fun c3 hit => ?_) (fun c3 hit => ?_)
  · refine lv_iconst (v := 0) hx hb dX4_chain_21 (by decide) ?_
    have he := o_in hit
    exact hend _ 0 _ _ _ _ _ rfl he hM hS dX4_chain_22
  · refine lv_aload_n hx hb dX4_chain_13 rfl (lv_at hl 0 rfl) ?_
    refine lv_iload_n hx hb dX4_chain_14 rfl (lv_at hl 2 rfl) ?_
    obtain ⟨q4, eq4, hit⟩ := o_bind hit
    refine m_cNi X hM hS (wM_isWord l G dT o ad _ _ _ eq4) nm_X4_isWord q2064 q2066 q141 q2067 qs99 ⟨Nat.le_trans (Nat.le_of_ble_eq_true rfl) hR.1, Nat.le_trans (Nat.le_of_ble_eq_true rfl) hR.2⟩ rfl rfl hl.1 (lv_room (Nat.le_of_ble_eq_true rfl)) dX4_chain_15 (fun H locs hM hS => ?_)
    refine b_if_ne (tgt := 23) hx hb dX4_chain_18 (by decide) hit (fun c5 hit => ?_) (fun c5 hit => ?_)
    · refine lv_aload_n hx hb dX4_chain_23 rfl (lv_at hl 0 rfl) ?_
      obtain ⟨q6, eq6, hit⟩ := o_bind hit
      refine m_cNv X hM hS (wM_tries l G dT o ad _  _ eq6) nm_X4_tries q2175 q2177 q141 q2178 qs119 ⟨Nat.le_trans (Nat.le_of_ble_eq_true rfl) hR.1, Nat.le_trans (Nat.le_of_ble_eq_true rfl) hR.2⟩ rfl rfl hl.1 (lv_room (Nat.le_of_ble_eq_true rfl)) dX4_chain_24 (fun H locs hM hS => ?_)
      refine lv_iconst (v := 0) hx hb dX4_chain_27 (by decide) ?_
      refine lv_istore_n (lv' := [(3, .int 0), (0, .ref o), (1, .int a0), (2, .int a1)]) hx hb dX4_chain_28 rfl hl (by decide) rfl (fun ls hl => ?_)
      refine o_rec (P := fun t7 => ∀ (H : Heap) (locs : List Loc) (ls : Array Slot), MH G dT o ad t7.2 H → va_S (mAd o ad) s.heap H locs → lv_has ls 5 [(0, .ref o), (1, .int a0), (2, .int a1), (3, .int t7.1)] → W p l e R s m args below meth c H locs 0 0 Q (F0 m 29 ls [])) (fun t7 x8 hit hC7 hE7 H locs ls hM hS hl => ?_) _ hit _ _ _ hM hS (lv_sub hl [1, 2, 3, 0] rfl)
      unfold M_chain_L29 at hit
      refine lv_iload_n hx hb dX4_chain_29 rfl (lv_at hl 3 rfl) ?_
      refine lv_bipush (v := 40) hx hb dX4_chain_30 (by decide) ?_
      refine b_icmp_gt (tgt := 109) hx hb dX4_chain_32 (by decide) hit (fun c9 hit => ?_) (fun c9 hit => ?_)
      · refine lv_iconst (v := (-1)) hx hb dX4_chain_109 (by decide) ?_
        have he := o_in hit
        have he := hE7 _ he
        exact hend _ (-1) _ _ _ _ _ rfl he hM hS dX4_chain_110
      · refine lv_aload_n hx hb dX4_chain_35 rfl (lv_at hl 0 rfl) ?_
        refine m_get X hM 44 q1688 rfl rfl (v := .ref (ad 44)) rfl dX4_chain_36 ?_
        refine lv_bipush (v := 62) hx hb dX4_chain_39 (by decide) ?_
        refine lv_iload_n hx hb dX4_chain_41 rfl (lv_at hl 1 rfl) ?_
        refine lv_iadd hx hb dX4_chain_42 ?_
        obtain ⟨v10, ev10, hit⟩ := o_bind hit
        refine m_iald X hM 15 44 rfl rfl ev10 dX4_chain_43 ?_
        refine lv_iload_n hx hb dX4_chain_44 rfl (lv_at hl 2 rfl) ?_
        refine lv_ishr hx hb dX4_chain_45 ?_
        refine lv_iconst (v := 1) hx hb dX4_chain_46 (by decide) ?_
        refine lv_iand hx hb dX4_chain_47 ?_
        refine lv_iconst (v := 1) hx hb dX4_chain_48 (by decide) ?_
        refine b_icmp_ne (tgt := 54) hx hb dX4_chain_49 (by decide) hit (fun c11 hit => ?_) (fun c11 hit => ?_)
        · refine lv_iconst (v := 0) hx hb dX4_chain_54 (by decide) ?_
          refine lv_istore (lv' := [(4, .int 0), (0, .ref o), (1, .int a0), (2, .int a1), (3, .int t7.1)]) hx hb dX4_chain_55 hl (by decide) rfl (fun ls hl => ?_)
          obtain ⟨r14, er14, hit⟩ := o_bind hit
          have hr14 : ∀ (H : Heap) (locs : List Loc) (ls : Array Slot), MH G dT o ad r14 H → va_S (mAd o ad) s.heap H locs → lv_has ls 5 [(0, .ref o), (1, .int a0), (2, .int a1), (3, .int t7.1)] → W p l e R s m args below meth c H locs 0 0 Q (F0 m 97 ls []) := by
            intro H locs ls hM hS hl
            refine lv_aload_n hx hb dX4_chain_97 rfl (lv_at hl 0 rfl) ?_
            refine lv_bipush (v := 34) hx hb dX4_chain_98 (by decide) ?_
            obtain ⟨q15, eq15, hit⟩ := o_bind hit
            refine m_cNv X hM hS (wM_dayGoes l G dT o ad _ _ _ eq15) nm_X4_dayGoes q2120 q2122 q141 q2123 qs111 ⟨Nat.le_trans (Nat.le_of_ble_eq_true rfl) hR.1, Nat.le_trans (Nat.le_of_ble_eq_true rfl) hR.2⟩ rfl rfl hl.1 (lv_room (Nat.le_of_ble_eq_true rfl)) dX4_chain_100 (fun H locs hM hS => ?_)
            refine lv_iinc (k := 3) (v := (t7.1 + 1)) (lv' := [(3, .int (t7.1 + 1)), (0, .ref o), (1, .int a0), (2, .int a1)]) hx hb dX4_chain_103 hl rfl rfl (by decide) rfl (fun ls hl => ?_)
            refine lv_goto (tgt := 29) hx hb dX4_chain_106 (by decide) ?_
            have he := o_in hit
            exact hC7 _ he _ _ _ hM hS (lv_sub hl [1, 2, 3, 0] rfl)
          refine o_rec (P := fun t12 => ∀ (H : Heap) (locs : List Loc) (ls : Array Slot), MH G dT o ad t12.2 H → va_S (mAd o ad) s.heap H locs → lv_has ls 5 [(0, .ref o), (1, .int a0), (2, .int a1), (3, .int t7.1), (4, .int t12.1)] → W p l e R s m args below meth c H locs 0 0 Q (F0 m 57 ls [])) (fun t12 x13 hit hC12 hE12 H locs ls hM hS hl => ?_) _ er14 _ _ _ hM hS (lv_sub hl [1, 2, 3, 4, 0] rfl)
          unfold M_chain_L57 at hit
          refine lv_iload hx hb dX4_chain_57 (lv_at hl 4 rfl) ?_
          refine lv_iconst (v := 4) hx hb dX4_chain_59 (by decide) ?_
          refine b_icmp_ge (tgt := 97) hx hb dX4_chain_60 (by decide) hit (fun c16 hit => ?_) (fun c16 hit => ?_)
          · have he := o_in hit
            have he := hE12 _ he
            subst he
            exact hr14 _ _ _ hM hS (lv_sub hl [0, 1, 2, 3] rfl)
          · refine lv_aload_n hx hb dX4_chain_63 rfl (lv_at hl 0 rfl) ?_
            refine lv_bipush (v := 34) hx hb dX4_chain_64 (by decide) ?_
            refine lv_aload_n hx hb dX4_chain_66 rfl (lv_at hl 0 rfl) ?_
            refine lv_bipush (v := 34) hx hb dX4_chain_67 (by decide) ?_
            refine lv_iload hx hb dX4_chain_69 (lv_at hl 4 rfl) ?_
            obtain ⟨q17, eq17, hit⟩ := o_bind hit
            refine m_cR X hM (wM_clerksAt l G dT o ad _ _ _ _ eq17) nm_X4_clerksAt q2096 q2098 q141 q2099 qs106 ⟨Nat.le_trans (Nat.le_of_ble_eq_true rfl) hR.1, Nat.le_trans (Nat.le_of_ble_eq_true rfl) hR.2⟩ rfl rfl hl.1 (lv_room (Nat.le_of_ble_eq_true rfl)) dX4_chain_71 ?_
            refine lv_aload_n hx hb dX4_chain_74 rfl (lv_at hl 0 rfl) ?_
            refine lv_bipush (v := 34) hx hb dX4_chain_75 (by decide) ?_
            refine lv_aload_n hx hb dX4_chain_77 rfl (lv_at hl 0 rfl) ?_
            refine lv_bipush (v := 34) hx hb dX4_chain_78 (by decide) ?_
            refine lv_iload hx hb dX4_chain_80 (lv_at hl 4 rfl) ?_
            obtain ⟨q18, eq18, hit⟩ := o_bind hit
            refine m_cR X hM (wM_clerksAt l G dT o ad _ _ _ _ eq18) nm_X4_clerksAt q2096 q2098 q141 q2099 qs106 ⟨Nat.le_trans (Nat.le_of_ble_eq_true rfl) hR.1, Nat.le_trans (Nat.le_of_ble_eq_true rfl) hR.2⟩ rfl rfl hl.1 (lv_room (Nat.le_of_ble_eq_true rfl)) dX4_chain_82 ?_
            obtain ⟨q19, eq19, hit⟩ := o_bind hit
            refine m_cR X hM (wM_knownBy l G dT o ad _ _ _ _ eq19) nm_X4_knownBy q2002 q2004 q141 q2005 qs88 ⟨Nat.le_trans (Nat.le_of_ble_eq_true rfl) hR.1, Nat.le_trans (Nat.le_of_ble_eq_true rfl) hR.2⟩ rfl rfl hl.1 (lv_room (Nat.le_of_ble_eq_true rfl)) dX4_chain_85 ?_
            obtain ⟨q20, eq20, hit⟩ := o_bind hit
            refine m_cNv X hM hS (wM_learns l G dT o ad _ _ _ _ _ eq20) nm_X4_learns q2135 q2137 q141 q2138 qs114 ⟨Nat.le_trans (Nat.le_of_ble_eq_true rfl) hR.1, Nat.le_trans (Nat.le_of_ble_eq_true rfl) hR.2⟩ rfl rfl hl.1 (lv_room (Nat.le_of_ble_eq_true rfl)) dX4_chain_88 (fun H locs hM hS => ?_)
            refine lv_iinc (k := 4) (v := (t12.1 + 1)) (lv' := [(4, .int (t12.1 + 1)), (0, .ref o), (1, .int a0), (2, .int a1), (3, .int t7.1)]) hx hb dX4_chain_91 hl rfl rfl (by decide) rfl (fun ls hl => ?_)
            refine lv_goto (tgt := 57) hx hb dX4_chain_94 (by decide) ?_
            have he := o_in hit
            exact hC12 _ he _ _ _ hM hS (lv_sub hl [1, 2, 3, 4, 0] rfl)
        · refine lv_iload_n hx hb dX4_chain_52 rfl (lv_at hl 3 rfl) ?_
          have he := o_in hit
          have he := hE7 _ he
          exact hend _ t7.1 _ _ _ _ _ rfl he hM hS dX4_chain_53
    · refine lv_iconst (v := 0) hx hb dX4_chain_21 (by decide) ?_
      have he := o_in hit
      exact hend _ 0 _ _ _ _ _ rfl he hM hS dX4_chain_22
noncomputable def M_hear_J42 (q4 : Int32 × MS) : Option (Int32 × MS) :=
  (M_refuses q4.2 2).bind fun q6 =>
  some (q6.1, q6.2)
noncomputable def M_hear (σ : MS) (a0 : Int32) (a1 : Int32) (a2 : Int32) (a3 : Int32) : Option (Int32 × MS) :=
  (pf σ 0 0).bind fun s1 =>
  (M_isClerk s1 a0).bind fun q2 =>
  if q2.1 = 0 then
    (some (0, q2.2))
  else
    ((M_isWord q2.2 a1).bind fun q4 =>
    if q4.1 = 0 then
      (some (0, q4.2))
    else
      (if (mf q4.2 51) = 8 then
        (M_hear_J42 q4)
      else
        ((M_within a2 0 12).bind fun q8 =>
        if q8 = 0 then
          (M_hear_J42 q4)
        else
          ((ast q4.2 52 (4 * (mf q4.2 51)) a0).bind fun s10 =>
          (ast s10 52 ((4 * (mf s10 51)) + 1) a1).bind fun s11 =>
          (ast s11 52 ((4 * (mf s11 51)) + 2) a2).bind fun s12 =>
          ((if a3 = 0 then
              (some 0)
            else
              (some 1) : Option Int32)).bind fun r13 =>
          (ast s12 52 ((4 * (mf s12 51)) + 3) r13).bind fun s14 =>
          (pf s14 51 ((mf s14 51) + 1)).bind fun s15 =>
          some ((mf s15 51), s15)))))
theorem nm_X4_hear : kNm yX4_hear RX4 4 := by unfold kNm; decide +kernel
set_option maxHeartbeats 4000000 in
set_option maxRecDepth 100000 in
theorem wM_hear (l : Launch) (G : va_G) (dT : Nat → ClassId) (o : Nat) (ad : Nat → Nat) (σ : MS) (a0 : Int32) (a1 : Int32) (a2 : Int32) (a3 : Int32) (z : Int32 × MS) (h : M_hear σ a0 a1 a2 a3 = some z) : Met l yX4_hear (ws_ yX4_hear cX4_hear 5 (some .int)) (kRm 2 43) (mPc G dT o ad σ [.int a0, .int a1, .int a2, .int a3]) (va_Qi (fun r (_ : Unit) => r = z.1) (fun _ t => MH G dT o ad z.2 t.heap) (mAd o ad)) 0 0 (mAd o ad) := by
  refine m_startNi (cc := cX4_hear) (ty := .int) rfl rfl rfl (fun p e R s m args below meth c Q ls X hR hM hS hl hend => ?_)
  have hx := X.1.1
  have hb := X.1.2.1
  have hit := h
  clear h
  unfold M_hear at hit
  have hl : lv_has ls 5 [(0, .ref o), (1, .int a0), (2, .int a1), (3, .int a2), (4, .int a3)] := hl
  refine lv_aload_n hx hb dX4_hear_0 rfl (lv_at hl 0 rfl) ?_
  refine lv_iconst (v := 0) hx hb dX4_hear_1 (by decide) ?_
  obtain ⟨s1, es1, hit⟩ := o_bind hit
  refine m_put X hM hS 0 q1644 rfl rfl (ty := .int) rfl rfl rfl es1 dX4_hear_2 (fun H locs hM hS => ?_)
  refine lv_aload_n hx hb dX4_hear_5 rfl (lv_at hl 0 rfl) ?_
  refine lv_iload_n hx hb dX4_hear_6 rfl (lv_at hl 1 rfl) ?_
  obtain ⟨q2, eq2, hit⟩ := o_bind hit
  refine m_cNi X hM hS (wM_isClerk l G dT o ad _ _ _ eq2) nm_X4_isClerk q2056 q2058 q141 q2059 qs98 ⟨Nat.le_trans (Nat.le_of_ble_eq_true rfl) hR.1, Nat.le_trans (Nat.le_of_ble_eq_true rfl) hR.2⟩ rfl rfl hl.1 (lv_room (Nat.le_of_ble_eq_true rfl)) dX4_hear_7 (fun H locs hM hS => ?_)
  refine b_if_eq (tgt := 21) hx hb dX4_hear_10 (by decide) hit (fun c3 hit => ?_) (fun c3 hit => ?_)
  · refine lv_iconst (v := 0) hx hb dX4_hear_21 (by decide) ?_
    have he := o_in hit
    exact hend _ 0 _ _ _ _ _ rfl he hM hS dX4_hear_22
  · refine lv_aload_n hx hb dX4_hear_13 rfl (lv_at hl 0 rfl) ?_
    refine lv_iload_n hx hb dX4_hear_14 rfl (lv_at hl 2 rfl) ?_
    obtain ⟨q4, eq4, hit⟩ := o_bind hit
    refine m_cNi X hM hS (wM_isWord l G dT o ad _ _ _ eq4) nm_X4_isWord q2064 q2066 q141 q2067 qs99 ⟨Nat.le_trans (Nat.le_of_ble_eq_true rfl) hR.1, Nat.le_trans (Nat.le_of_ble_eq_true rfl) hR.2⟩ rfl rfl hl.1 (lv_room (Nat.le_of_ble_eq_true rfl)) dX4_hear_15 (fun H locs hM hS => ?_)
    refine b_if_ne (tgt := 23) hx hb dX4_hear_18 (by decide) hit (fun c5 hit => ?_) (fun c5 hit => ?_)
    · refine lv_aload_n hx hb dX4_hear_23 rfl (lv_at hl 0 rfl) ?_
      refine m_get X hM 51 q1695 rfl rfl (v := .int (mf q4.2 51)) rfl dX4_hear_24 ?_
      refine lv_bipush (v := 8) hx hb dX4_hear_27 (by decide) ?_
      have hK42 : M_hear_J42 q4 = some z → ∀ (H : Heap) (locs : List Loc) (ls : Array Slot), MH G dT o ad q4.2 H → va_S (mAd o ad) s.heap H locs → lv_has ls 5 [(0, .ref o)] → W p l e R s m args below meth c H locs 0 0 Q (F0 m 42 ls []) := by
        intro  hit H locs ls hM hS hl
        unfold M_hear_J42 at hit
        refine lv_aload_n hx hb dX4_hear_42 rfl (lv_at hl 0 rfl) ?_
        refine lv_iconst (v := 2) hx hb dX4_hear_43 (by decide) ?_
        obtain ⟨q6, eq6, hit⟩ := o_bind hit
        refine m_cNi X hM hS (wM_refuses l G dT o ad _ _ _ eq6) nm_X4_refuses q2112 q2114 q141 q2115 qs109 ⟨Nat.le_trans (Nat.le_of_ble_eq_true rfl) hR.1, Nat.le_trans (Nat.le_of_ble_eq_true rfl) hR.2⟩ rfl rfl hl.1 (lv_room (Nat.le_of_ble_eq_true rfl)) dX4_hear_44 (fun H locs hM hS => ?_)
        have he := o_in hit
        exact hend _ q6.1 _ _ _ _ _ rfl he hM hS dX4_hear_47
      refine b_icmp_eq (tgt := 42) hx hb dX4_hear_29 (by decide) hit (fun c7 hit => ?_) (fun c7 hit => ?_)
      · exact hK42  hit _ _ _ hM hS (lv_sub hl [0] rfl)
      · refine lv_iload_n hx hb dX4_hear_32 rfl (lv_at hl 3 rfl) ?_
        refine lv_iconst (v := 0) hx hb dX4_hear_33 (by decide) ?_
        refine lv_bipush (v := 12) hx hb dX4_hear_34 (by decide) ?_
        obtain ⟨q8, eq8, hit⟩ := o_bind hit
        refine m_cP X.1 (wM_within l _ _ _ _ eq8) nm_X4_within q1983 q1984 q141 q1985 ⟨Nat.le_trans (Nat.le_of_ble_eq_true rfl) hR.1, Nat.le_trans (Nat.le_of_ble_eq_true rfl) hR.2⟩ rfl rfl hl.1 (lv_room (Nat.le_of_ble_eq_true rfl)) dX4_hear_36 ?_
        refine b_if_ne (tgt := 48) hx hb dX4_hear_39 (by decide) hit (fun c9 hit => ?_) (fun c9 hit => ?_)
        · refine lv_aload_n hx hb dX4_hear_48 rfl (lv_at hl 0 rfl) ?_
          refine m_get X hM 52 q1696 rfl rfl (v := .ref (ad 52)) rfl dX4_hear_49 ?_
          refine lv_iconst (v := 4) hx hb dX4_hear_52 (by decide) ?_
          refine lv_aload_n hx hb dX4_hear_53 rfl (lv_at hl 0 rfl) ?_
          refine m_get X hM 51 q1695 rfl rfl (v := .int (mf q4.2 51)) rfl dX4_hear_54 ?_
          refine lv_imul hx hb dX4_hear_57 ?_
          refine lv_iload_n hx hb dX4_hear_58 rfl (lv_at hl 1 rfl) ?_
          obtain ⟨s10, es10, hit⟩ := o_bind hit
          refine m_iast X hM hS 21 52 rfl rfl es10 dX4_hear_59 (fun H locs hM hS => ?_)
          refine lv_aload_n hx hb dX4_hear_60 rfl (lv_at hl 0 rfl) ?_
          refine m_get X hM 52 q1696 rfl rfl (v := .ref (ad 52)) rfl dX4_hear_61 ?_
          refine lv_iconst (v := 4) hx hb dX4_hear_64 (by decide) ?_
          refine lv_aload_n hx hb dX4_hear_65 rfl (lv_at hl 0 rfl) ?_
          refine m_get X hM 51 q1695 rfl rfl (v := .int (mf s10 51)) rfl dX4_hear_66 ?_
          refine lv_imul hx hb dX4_hear_69 ?_
          refine lv_iconst (v := 1) hx hb dX4_hear_70 (by decide) ?_
          refine lv_iadd hx hb dX4_hear_71 ?_
          refine lv_iload_n hx hb dX4_hear_72 rfl (lv_at hl 2 rfl) ?_
          obtain ⟨s11, es11, hit⟩ := o_bind hit
          refine m_iast X hM hS 21 52 rfl rfl es11 dX4_hear_73 (fun H locs hM hS => ?_)
          refine lv_aload_n hx hb dX4_hear_74 rfl (lv_at hl 0 rfl) ?_
          refine m_get X hM 52 q1696 rfl rfl (v := .ref (ad 52)) rfl dX4_hear_75 ?_
          refine lv_iconst (v := 4) hx hb dX4_hear_78 (by decide) ?_
          refine lv_aload_n hx hb dX4_hear_79 rfl (lv_at hl 0 rfl) ?_
          refine m_get X hM 51 q1695 rfl rfl (v := .int (mf s11 51)) rfl dX4_hear_80 ?_
          refine lv_imul hx hb dX4_hear_83 ?_
          refine lv_iconst (v := 2) hx hb dX4_hear_84 (by decide) ?_
          refine lv_iadd hx hb dX4_hear_85 ?_
          refine lv_iload_n hx hb dX4_hear_86 rfl (lv_at hl 3 rfl) ?_
          obtain ⟨s12, es12, hit⟩ := o_bind hit
          refine m_iast X hM hS 21 52 rfl rfl es12 dX4_hear_87 (fun H locs hM hS => ?_)
          refine lv_aload_n hx hb dX4_hear_88 rfl (lv_at hl 0 rfl) ?_
          refine m_get X hM 52 q1696 rfl rfl (v := .ref (ad 52)) rfl dX4_hear_89 ?_
          refine lv_iconst (v := 4) hx hb dX4_hear_92 (by decide) ?_
          refine lv_aload_n hx hb dX4_hear_93 rfl (lv_at hl 0 rfl) ?_
          refine m_get X hM 51 q1695 rfl rfl (v := .int (mf s12 51)) rfl dX4_hear_94 ?_
          refine lv_imul hx hb dX4_hear_97 ?_
          refine lv_iconst (v := 3) hx hb dX4_hear_98 (by decide) ?_
          refine lv_iadd hx hb dX4_hear_99 ?_
          refine lv_iload hx hb dX4_hear_100 (lv_at hl 4 rfl) ?_
          obtain ⟨r13, er13, hit⟩ := o_bind hit
          have hr13 : ∀ (H : Heap) (locs : List Loc) (ls : Array Slot), MH G dT o ad s12 H → va_S (mAd o ad) s.heap H locs → lv_has ls 5 [(0, .ref o)] → W p l e R s m args below meth c H locs 0 0 Q (F0 m 110 ls [.int r13, .int ((4 * (mf s12 51)) + 3), .ref (ad 52)]) := by
            intro H locs ls hM hS hl
            obtain ⟨s14, es14, hit⟩ := o_bind hit
            refine m_iast X hM hS 21 52 rfl rfl es14 dX4_hear_110 (fun H locs hM hS => ?_)
            refine lv_aload_n hx hb dX4_hear_111 rfl (lv_at hl 0 rfl) ?_
            refine lv_dup hx hb dX4_hear_112 rfl ?_
            refine m_get X hM 51 q1695 rfl rfl (v := .int (mf s14 51)) rfl dX4_hear_113 ?_
            refine lv_iconst (v := 1) hx hb dX4_hear_116 (by decide) ?_
            refine lv_iadd hx hb dX4_hear_117 ?_
            obtain ⟨s15, es15, hit⟩ := o_bind hit
            refine m_put X hM hS 51 q1695 rfl rfl (ty := .int) rfl rfl rfl es15 dX4_hear_118 (fun H locs hM hS => ?_)
            refine lv_aload_n hx hb dX4_hear_121 rfl (lv_at hl 0 rfl) ?_
            refine m_get X hM 51 q1695 rfl rfl (v := .int (mf s15 51)) rfl dX4_hear_122 ?_
            have he := o_in hit
            exact hend _ (mf s15 51) _ _ _ _ _ rfl he hM hS dX4_hear_125
          have hit := er13
          refine b_if_eq (tgt := 109) hx hb dX4_hear_102 (by decide) hit (fun c16 hit => ?_) (fun c16 hit => ?_)
          · refine lv_iconst (v := 0) hx hb dX4_hear_109 (by decide) ?_
            have he := o_in hit
            subst he
            exact hr13 _ _ _ hM hS (lv_sub hl [0] rfl)
          · refine lv_iconst (v := 1) hx hb dX4_hear_105 (by decide) ?_
            refine lv_goto (tgt := 110) hx hb dX4_hear_106 (by decide) ?_
            have he := o_in hit
            subst he
            exact hr13 _ _ _ hM hS (lv_sub hl [0] rfl)
        · exact hK42  hit _ _ _ hM hS (lv_sub hl [0] rfl)
    · refine lv_iconst (v := 0) hx hb dX4_hear_21 (by decide) ?_
      have he := o_in hit
      exact hend _ 0 _ _ _ _ _ rfl he hM hS dX4_hear_22
noncomputable def M_forget (σ : MS) : Option (MS) :=
  (pf σ 0 0).bind fun s1 =>
  (pf s1 51 0).bind fun s2 =>
  some s2
theorem nm_X4_forget : kNm yX4_forget RX4 0 := by unfold kNm; decide +kernel
set_option maxHeartbeats 4000000 in
set_option maxRecDepth 100000 in
theorem wM_forget (l : Launch) (G : va_G) (dT : Nat → ClassId) (o : Nat) (ad : Nat → Nat) (σ : MS) (z : MS) (h : M_forget σ = some z) : Met l yX4_forget (ws_ yX4_forget cX4_forget 1 none) (kRm 0 0) (mPc G dT o ad σ []) (va_Qv (fun (_ : Unit) => True) (fun _ t => MH G dT o ad z t.heap) (mAd o ad)) 0 0 (mAd o ad) := by
  refine m_startNv (cc := cX4_forget) rfl rfl rfl (fun p e R s m args below meth c Q ls X hR hM hS hl hend => ?_)
  have hx := X.1.1
  have hb := X.1.2.1
  have hit := h
  clear h
  unfold M_forget at hit
  have hl : lv_has ls 1 [(0, .ref o)] := hl
  refine lv_aload_n hx hb dX4_forget_0 rfl (lv_at hl 0 rfl) ?_
  refine lv_iconst (v := 0) hx hb dX4_forget_1 (by decide) ?_
  obtain ⟨s1, es1, hit⟩ := o_bind hit
  refine m_put X hM hS 0 q1644 rfl rfl (ty := .int) rfl rfl rfl es1 dX4_forget_2 (fun H locs hM hS => ?_)
  refine lv_aload_n hx hb dX4_forget_5 rfl (lv_at hl 0 rfl) ?_
  refine lv_iconst (v := 0) hx hb dX4_forget_6 (by decide) ?_
  obtain ⟨s2, es2, hit⟩ := o_bind hit
  refine m_put X hM hS 51 q1695 rfl rfl (ty := .int) rfl rfl rfl es2 dX4_forget_7 (fun H locs hM hS => ?_)
  have he := o_in hit
  exact hend _ _ _ _ _ he hM hS dX4_forget_10
noncomputable def M_isHeard_L90 (t10 : Int32 × MS) : Option ((Int32 × MS) ⊕ MS) :=
  if t10.1 < (mf t10.2 2) then
    ((ald t10.2 44 (62 + t10.1)).bind fun v13 =>
    (ast t10.2 53 t10.1 v13).bind fun s14 =>
    some (.inl ((t10.1 + 1), s14)))
  else
    (some (.inr t10.2))
noncomputable def M_isHeard_L10 (t1 : Int32 × MS) (t4 : Int32) : Option (Int32 ⊕ ((Int32 × MS) ⊕ (Int32 × MS))) :=
  if t4 < (mf t1.2 51) then
    ((ald t1.2 52 ((4 * t4) + 2)).bind fun v15 =>
    if v15 = t1.1 then
      ((ald t1.2 52 (4 * t4)).bind fun v17 =>
      (ald t1.2 44 (62 + v17)).bind fun v18 =>
      (ald t1.2 52 ((4 * t4) + 1)).bind fun v19 =>
      (ald t1.2 52 ((4 * t4) + 3)).bind fun v20 =>
      if ((v18 >>> (v19 &&& 31)) &&& 1) = v20 then
        (some (.inl (t4 + 1)))
      else
        (some (.inr (.inr (0, t1.2)))))
    else
      (some (.inl (t4 + 1))))
  else
    (((if t1.1 = 6 then
        (o_loop M_isHeard_L90 (0, t1.2))
      else
        (some t1.2) : Option MS)).bind fun r7 =>
    (M_dayGoes r7 34).bind fun q8 =>
    some (.inr (.inl ((t1.1 + 1), q8))))
noncomputable def M_isHeard_L2 (t1 : Int32 × MS) : Option ((Int32 × MS) ⊕ (Int32 × MS)) :=
  if t1.1 ≤ 12 then
    (o_loop (M_isHeard_L10 t1) 0)
  else
    (some (.inr (1, t1.2)))
noncomputable def M_isHeard (σ : MS) : Option (Int32 × MS) :=
  o_loop M_isHeard_L2 (0, σ)
theorem nm_X4_isHeard : kNm yX4_isHeard RX4 0 := by unfold kNm; decide +kernel
set_option maxHeartbeats 4000000 in
set_option maxRecDepth 100000 in
theorem wM_isHeard (l : Launch) (G : va_G) (dT : Nat → ClassId) (o : Nat) (ad : Nat → Nat) (σ : MS) (z : Int32 × MS) (h : M_isHeard σ = some z) : Met l yX4_isHeard (ws_ yX4_isHeard cX4_isHeard 3 (some .boolean)) (kRm 6 138) (mPc G dT o ad σ []) (va_Qi (fun r (_ : Unit) => r = z.1) (fun _ t => MH G dT o ad z.2 t.heap) (mAd o ad)) 0 0 (mAd o ad) := by
  refine m_startNi (cc := cX4_isHeard) (ty := .boolean) rfl rfl rfl (fun p e R s m args below meth c Q ls X hR hM hS hl hend => ?_)
  have hx := X.1.1
  have hb := X.1.2.1
  have hit := h
  clear h
  unfold M_isHeard at hit
  have hl : lv_has ls 3 [(0, .ref o)] := hl
  refine lv_iconst (v := 0) hx hb dX4_isHeard_0 (by decide) ?_
  refine lv_istore_n (lv' := [(1, .int 0), (0, .ref o)]) hx hb dX4_isHeard_1 rfl hl (by decide) rfl (fun ls hl => ?_)
  refine o_rec (P := fun t1 => ∀ (H : Heap) (locs : List Loc) (ls : Array Slot), MH G dT o ad t1.2 H → va_S (mAd o ad) s.heap H locs → lv_has ls 3 [(0, .ref o), (1, .int t1.1)] → W p l e R s m args below meth c H locs 0 0 Q (F0 m 2 ls [])) (fun t1 x2 hit hC1 hE1 H locs ls hM hS hl => ?_) _ hit _ _ _ hM hS (lv_sub hl [1, 0] rfl)
  unfold M_isHeard_L2 at hit
  refine lv_iload_n hx hb dX4_isHeard_2 rfl (lv_at hl 1 rfl) ?_
  refine lv_bipush (v := 12) hx hb dX4_isHeard_3 (by decide) ?_
  refine b_icmp_gt (tgt := 131) hx hb dX4_isHeard_5 (by decide) hit (fun c3 hit => ?_) (fun c3 hit => ?_)
  · refine lv_iconst (v := 1) hx hb dX4_isHeard_131 (by decide) ?_
    have he := o_in hit
    have he := hE1 _ he
    exact hend _ 1 _ _ _ _ _ rfl he hM hS dX4_isHeard_132
  · refine lv_iconst (v := 0) hx hb dX4_isHeard_8 (by decide) ?_
    refine lv_istore_n (lv' := [(2, .int 0), (0, .ref o), (1, .int t1.1)]) hx hb dX4_isHeard_9 rfl hl (by decide) rfl (fun ls hl => ?_)
    refine o_rec (P := fun t4 => ∀ (H : Heap) (locs : List Loc) (ls : Array Slot), MH G dT o ad t1.2 H → va_S (mAd o ad) s.heap H locs → lv_has ls 3 [(0, .ref o), (1, .int t1.1), (2, .int t4)] → W p l e R s m args below meth c H locs 0 0 Q (F0 m 10 ls [])) (fun t4 x5 hit hC4 hE4 H locs ls hM hS hl => ?_) _ hit _ _ _ hM hS (lv_sub hl [1, 2, 0] rfl)
    unfold M_isHeard_L10 at hit
    refine lv_iload_n hx hb dX4_isHeard_10 rfl (lv_at hl 2 rfl) ?_
    refine lv_aload_n hx hb dX4_isHeard_11 rfl (lv_at hl 0 rfl) ?_
    refine m_get X hM 51 q1695 rfl rfl (v := .int (mf t1.2 51)) rfl dX4_isHeard_12 ?_
    refine b_icmp_ge (tgt := 82) hx hb dX4_isHeard_15 (by decide) hit (fun c6 hit => ?_) (fun c6 hit => ?_)
    · refine lv_iload_n hx hb dX4_isHeard_82 rfl (lv_at hl 1 rfl) ?_
      refine lv_bipush (v := 6) hx hb dX4_isHeard_83 (by decide) ?_
      obtain ⟨r7, er7, hit⟩ := o_bind hit
      have hr7 : ∀ (H : Heap) (locs : List Loc) (ls : Array Slot), MH G dT o ad r7 H → va_S (mAd o ad) s.heap H locs → lv_has ls 3 [(0, .ref o), (1, .int t1.1)] → W p l e R s m args below meth c H locs 0 0 Q (F0 m 119 ls []) := by
        intro H locs ls hM hS hl
        refine lv_aload_n hx hb dX4_isHeard_119 rfl (lv_at hl 0 rfl) ?_
        refine lv_bipush (v := 34) hx hb dX4_isHeard_120 (by decide) ?_
        obtain ⟨q8, eq8, hit⟩ := o_bind hit
        refine m_cNv X hM hS (wM_dayGoes l G dT o ad _ _ _ eq8) nm_X4_dayGoes q2120 q2122 q141 q2123 qs111 ⟨Nat.le_trans (Nat.le_of_ble_eq_true rfl) hR.1, Nat.le_trans (Nat.le_of_ble_eq_true rfl) hR.2⟩ rfl rfl hl.1 (lv_room (Nat.le_of_ble_eq_true rfl)) dX4_isHeard_122 (fun H locs hM hS => ?_)
        refine lv_iinc (k := 1) (v := (t1.1 + 1)) (lv' := [(1, .int (t1.1 + 1)), (0, .ref o)]) hx hb dX4_isHeard_125 hl rfl rfl (by decide) rfl (fun ls hl => ?_)
        refine lv_goto (tgt := 2) hx hb dX4_isHeard_128 (by decide) ?_
        have he := o_in hit
        have he := hE4 _ he
        exact hC1 _ he _ _ _ hM hS (lv_sub hl [1, 0] rfl)
      have hit := er7
      refine b_icmp_ne (tgt := 119) hx hb dX4_isHeard_85 (by decide) hit (fun c9 hit => ?_) (fun c9 hit => ?_)
      · have he := o_in hit
        subst he
        exact hr7 _ _ _ hM hS (lv_sub hl [0, 1] rfl)
      · refine lv_iconst (v := 0) hx hb dX4_isHeard_88 (by decide) ?_
        refine lv_istore_n (lv' := [(2, .int 0), (0, .ref o), (1, .int t1.1)]) hx hb dX4_isHeard_89 rfl hl (by decide) rfl (fun ls hl => ?_)
        refine o_rec (P := fun t10 => ∀ (H : Heap) (locs : List Loc) (ls : Array Slot), MH G dT o ad t10.2 H → va_S (mAd o ad) s.heap H locs → lv_has ls 3 [(0, .ref o), (1, .int t1.1), (2, .int t10.1)] → W p l e R s m args below meth c H locs 0 0 Q (F0 m 90 ls [])) (fun t10 x11 hit hC10 hE10 H locs ls hM hS hl => ?_) _ hit _ _ _ hM hS (lv_sub hl [1, 2, 0] rfl)
        unfold M_isHeard_L90 at hit
        refine lv_iload_n hx hb dX4_isHeard_90 rfl (lv_at hl 2 rfl) ?_
        refine lv_aload_n hx hb dX4_isHeard_91 rfl (lv_at hl 0 rfl) ?_
        refine m_get X hM 2 q1646 rfl rfl (v := .int (mf t10.2 2)) rfl dX4_isHeard_92 ?_
        refine b_icmp_ge (tgt := 119) hx hb dX4_isHeard_95 (by decide) hit (fun c12 hit => ?_) (fun c12 hit => ?_)
        · have he := o_in hit
          have he := hE10 _ he
          subst he
          exact hr7 _ _ _ hM hS (lv_sub hl [0, 1] rfl)
        · refine lv_aload_n hx hb dX4_isHeard_98 rfl (lv_at hl 0 rfl) ?_
          refine m_get X hM 53 q1697 rfl rfl (v := .ref (ad 53)) rfl dX4_isHeard_99 ?_
          refine lv_iload_n hx hb dX4_isHeard_102 rfl (lv_at hl 2 rfl) ?_
          refine lv_aload_n hx hb dX4_isHeard_103 rfl (lv_at hl 0 rfl) ?_
          refine m_get X hM 44 q1688 rfl rfl (v := .ref (ad 44)) rfl dX4_isHeard_104 ?_
          refine lv_bipush (v := 62) hx hb dX4_isHeard_107 (by decide) ?_
          refine lv_iload_n hx hb dX4_isHeard_109 rfl (lv_at hl 2 rfl) ?_
          refine lv_iadd hx hb dX4_isHeard_110 ?_
          obtain ⟨v13, ev13, hit⟩ := o_bind hit
          refine m_iald X hM 15 44 rfl rfl ev13 dX4_isHeard_111 ?_
          obtain ⟨s14, es14, hit⟩ := o_bind hit
          refine m_iast X hM hS 22 53 rfl rfl es14 dX4_isHeard_112 (fun H locs hM hS => ?_)
          refine lv_iinc (k := 2) (v := (t10.1 + 1)) (lv' := [(2, .int (t10.1 + 1)), (0, .ref o), (1, .int t1.1)]) hx hb dX4_isHeard_113 hl rfl rfl (by decide) rfl (fun ls hl => ?_)
          refine lv_goto (tgt := 90) hx hb dX4_isHeard_116 (by decide) ?_
          have he := o_in hit
          exact hC10 _ he _ _ _ hM hS (lv_sub hl [1, 2, 0] rfl)
    · refine lv_aload_n hx hb dX4_isHeard_18 rfl (lv_at hl 0 rfl) ?_
      refine m_get X hM 52 q1696 rfl rfl (v := .ref (ad 52)) rfl dX4_isHeard_19 ?_
      refine lv_iconst (v := 4) hx hb dX4_isHeard_22 (by decide) ?_
      refine lv_iload_n hx hb dX4_isHeard_23 rfl (lv_at hl 2 rfl) ?_
      refine lv_imul hx hb dX4_isHeard_24 ?_
      refine lv_iconst (v := 2) hx hb dX4_isHeard_25 (by decide) ?_
      refine lv_iadd hx hb dX4_isHeard_26 ?_
      obtain ⟨v15, ev15, hit⟩ := o_bind hit
      refine m_iald X hM 21 52 rfl rfl ev15 dX4_isHeard_27 ?_
      refine lv_iload_n hx hb dX4_isHeard_28 rfl (lv_at hl 1 rfl) ?_
      refine b_icmp_ne (tgt := 76) hx hb dX4_isHeard_29 (by decide) hit (fun c16 hit => ?_) (fun c16 hit => ?_)
      · refine lv_iinc (k := 2) (v := (t4 + 1)) (lv' := [(2, .int (t4 + 1)), (0, .ref o), (1, .int t1.1)]) hx hb dX4_isHeard_76 hl rfl rfl (by decide) rfl (fun ls hl => ?_)
        refine lv_goto (tgt := 10) hx hb dX4_isHeard_79 (by decide) ?_
        have he := o_in hit
        exact hC4 _ he _ _ _ hM hS (lv_sub hl [1, 2, 0] rfl)
      · refine lv_aload_n hx hb dX4_isHeard_32 rfl (lv_at hl 0 rfl) ?_
        refine m_get X hM 44 q1688 rfl rfl (v := .ref (ad 44)) rfl dX4_isHeard_33 ?_
        refine lv_bipush (v := 62) hx hb dX4_isHeard_36 (by decide) ?_
        refine lv_aload_n hx hb dX4_isHeard_38 rfl (lv_at hl 0 rfl) ?_
        refine m_get X hM 52 q1696 rfl rfl (v := .ref (ad 52)) rfl dX4_isHeard_39 ?_
        refine lv_iconst (v := 4) hx hb dX4_isHeard_42 (by decide) ?_
        refine lv_iload_n hx hb dX4_isHeard_43 rfl (lv_at hl 2 rfl) ?_
        refine lv_imul hx hb dX4_isHeard_44 ?_
        obtain ⟨v17, ev17, hit⟩ := o_bind hit
        refine m_iald X hM 21 52 rfl rfl ev17 dX4_isHeard_45 ?_
        refine lv_iadd hx hb dX4_isHeard_46 ?_
        obtain ⟨v18, ev18, hit⟩ := o_bind hit
        refine m_iald X hM 15 44 rfl rfl ev18 dX4_isHeard_47 ?_
        refine lv_aload_n hx hb dX4_isHeard_48 rfl (lv_at hl 0 rfl) ?_
        refine m_get X hM 52 q1696 rfl rfl (v := .ref (ad 52)) rfl dX4_isHeard_49 ?_
        refine lv_iconst (v := 4) hx hb dX4_isHeard_52 (by decide) ?_
        refine lv_iload_n hx hb dX4_isHeard_53 rfl (lv_at hl 2 rfl) ?_
        refine lv_imul hx hb dX4_isHeard_54 ?_
        refine lv_iconst (v := 1) hx hb dX4_isHeard_55 (by decide) ?_
        refine lv_iadd hx hb dX4_isHeard_56 ?_
        obtain ⟨v19, ev19, hit⟩ := o_bind hit
        refine m_iald X hM 21 52 rfl rfl ev19 dX4_isHeard_57 ?_
        refine lv_ishr hx hb dX4_isHeard_58 ?_
        refine lv_iconst (v := 1) hx hb dX4_isHeard_59 (by decide) ?_
        refine lv_iand hx hb dX4_isHeard_60 ?_
        refine lv_aload_n hx hb dX4_isHeard_61 rfl (lv_at hl 0 rfl) ?_
        refine m_get X hM 52 q1696 rfl rfl (v := .ref (ad 52)) rfl dX4_isHeard_62 ?_
        refine lv_iconst (v := 4) hx hb dX4_isHeard_65 (by decide) ?_
        refine lv_iload_n hx hb dX4_isHeard_66 rfl (lv_at hl 2 rfl) ?_
        refine lv_imul hx hb dX4_isHeard_67 ?_
        refine lv_iconst (v := 3) hx hb dX4_isHeard_68 (by decide) ?_
        refine lv_iadd hx hb dX4_isHeard_69 ?_
        obtain ⟨v20, ev20, hit⟩ := o_bind hit
        refine m_iald X hM 21 52 rfl rfl ev20 dX4_isHeard_70 ?_
        refine b_icmp_eq (tgt := 76) hx hb dX4_isHeard_71 (by decide) hit (fun c21 hit => ?_) (fun c21 hit => ?_)
        · refine lv_iinc (k := 2) (v := (t4 + 1)) (lv' := [(2, .int (t4 + 1)), (0, .ref o), (1, .int t1.1)]) hx hb dX4_isHeard_76 hl rfl rfl (by decide) rfl (fun ls hl => ?_)
          refine lv_goto (tgt := 10) hx hb dX4_isHeard_79 (by decide) ?_
          have he := o_in hit
          exact hC4 _ he _ _ _ hM hS (lv_sub hl [1, 2, 0] rfl)
        · refine lv_iconst (v := 0) hx hb dX4_isHeard_74 (by decide) ?_
          have he := o_in hit
          have he := hE4 _ he
          have he := hE1 _ he
          exact hend _ 0 _ _ _ _ _ rfl he hM hS dX4_isHeard_75
