noncomputable def C1_count (h : CH) (r : CR) (o : Nat) (a0 : Int32) : Option ((Int32 × CS) ⊕ XT) :=
  if a0 = 0 then
    ((gR h o 1 1).bind fun v2 =>
    (gI h v2 2 2).bind fun v3 =>
    some (.inl (v3, (h, r))))
  else
    (if a0 = 1 then
      ((gR h o 1 1).bind fun v5 =>
      (vc h v5 2 (C2_clerks h v5)).bind fun q6 =>
      some (.inl (q6, (h, r))))
    else
      (if a0 = 2 then
        ((gR h o 1 1).bind fun v8 =>
        (gR h v8 2 0).bind fun v9 =>
        (vc h v9 10 (CJ2_size h v9)).bind fun q10 =>
        some (.inl (q10, (h, r))))
      else
        (if a0 = 3 then
          ((gR h o 1 1).bind fun v12 =>
          (gI h v12 2 3).bind fun v13 =>
          some (.inl (v13, (h, r))))
        else
          (if a0 = 4 then
            ((gR h o 1 2).bind fun v15 =>
            (gI h v15 3 4).bind fun v16 =>
            some (.inl (v16, (h, r))))
          else
            (if a0 = 5 then
              ((gR h o 1 2).bind fun v18 =>
              (vc h v18 3 (C3_burnt h v18)).bind fun q19 =>
              some (.inl (q19, (h, r))))
            else
              (if a0 = 6 then
                ((gR h o 1 2).bind fun v21 =>
                (vc h v21 3 (C3_borne h v21)).bind fun q22 =>
                some (.inl (q22, (h, r))))
              else
                (if a0 = 7 then
                  ((gR h o 1 2).bind fun v24 =>
                  (vc h v24 3 (C3_read h v24)).bind fun q25 =>
                  some (.inl (q25, (h, r))))
                else
                  (if a0 = 8 then
                    ((gR h o 1 1).bind fun v27 =>
                    (gI h v27 2 2).bind fun v28 =>
                    (vc h o 1 (C1_couples h o (((1 : Int32) <<< (v28 &&& 31)) - 1))).bind fun q29 =>
                    some (.inl (q29, (h, r))))
                  else
                    (if a0 = 9 then
                      ((gR h o 1 8).bind fun v31 =>
                      (vc h v31 10 (CJ2_size h v31)).bind fun q32 =>
                      some (.inl (q32, (h, r))))
                    else
                      (if a0 = 10 then
                        ((gR h o 1 9).bind fun v34 =>
                        (vc h v34 10 (CJ2_size h v34)).bind fun q35 =>
                        some (.inl (q35, (h, r))))
                      else
                        (if a0 = 11 then
                          ((gI h o 1 5).bind fun v37 =>
                          some (.inl (v37, (h, r))))
                        else
                          ((C1_in a0 12 14).bind fun q38 =>
                          xg Sum.inr (xchv r (C1_found h r q38)) fun q39 =>
                          (gR q39.1 o 1 7).bind fun v40 =>
                          (aI q39.1 v40 0 (a0 - 12)).bind fun v41 =>
                          some (.inl (v41, q39))))))))))))))
theorem nm_X1_count : kNm yX1_count RX1 1 := by unfold kNm; decide +kernel
set_option maxHeartbeats 4000000 in
set_option maxRecDepth 100000 in
theorem wC1_count (l : Launch) (hT : l.stackTraces = false) (γ : KG) (hO : kOK γ) (h : CH) (r : CR) (o : Nat) (a0 : Int32) (z : (Int32 × CS) ⊕ XT) (hz : C1_count h r o a0 = some z) : xMet l yX1_count (ws_ yX1_count cX1_count 2 (some .int)) 97 2425 γ (h, r) [.ref o, .int a0] (xI z) := by
  refine x_start (cc := cX1_count) (own := RX1) hO rfl rfl rfl (fun p e R s m args below meth c Q ls X hR hnm h0H hA hl hend hthr hdir => ?_)
  have hx := X.1.1
  have hb := X.1.2.1
  have hit := hz
  clear hz
  unfold C1_count at hit
  have hl : lv_has ls 2 [(0, .ref o), (1, .int a0)] := hl
  refine lv_iload_n hx hb dX1_count_0 rfl (lv_at hl 1 rfl) ?_
  refine Decidable.byCases (p := a0 = 0) (fun c1 => ?_) (fun c1 => ?_)
  · replace hit := o_t hit c1
    refine b_tab (tgt := 64) hx hb dX1_count_1 c1 (z := 0) (by decide) (by decide) (by decide) rfl (by decide) ?_
    refine lv_aload_n hx hb dX1_count_64 rfl (lv_at hl 0 rfl) ?_
    obtain ⟨v2, ev2, hit⟩ := o_bind hit
    refine c_getR X hA.1.1 kc_TwinInk 1 q277 (Or.inl rfl) rfl rfl ev2 dX1_count_65 ?_
    obtain ⟨v3, ev3, hit⟩ := o_bind hit
    refine c_getNI X hA.1.1 kc_Office 2 q216 (Or.inl rfl) rfl rfl ev3 dX1_count_68 ?_
    have he := o_in hit
    exact hend (some (.int v3)) (h, r) _ _ _ _ _ _ _ _ (kOut_i rfl) (by subst he; rfl) hA dX1_count_71
  · replace hit := o_f hit c1
    refine Decidable.byCases (p := a0 = 1) (fun c4 => ?_) (fun c4 => ?_)
    · replace hit := o_t hit c4
      refine b_tab (tgt := 72) hx hb dX1_count_1 c4 (z := 1) (by decide) (by decide) (by decide) rfl (by decide) ?_
      refine lv_aload_n hx hb dX1_count_72 rfl (lv_at hl 0 rfl) ?_
      obtain ⟨v5, ev5, hit⟩ := o_bind hit
      refine c_getR X hA.1.1 kc_TwinInk 1 q277 (Or.inl rfl) rfl rfl ev5 dX1_count_73 ?_
      obtain ⟨q6, eq6, hit⟩ := o_bind hit
      obtain ⟨iq6, eq6⟩ := vc_inv eq6
      refine c_cR X hA.1.1 (fun U hU hW => hA.D X.2.1 X.2.2 h0H hU hW) kc_Office (wC2_clerks l γ X.2.1 _ _  _ eq6) iq6 nm_X2_clerks q1231 q464 q136 q466 q465 ⟨Nat.le_trans (Nat.le_of_ble_eq_true rfl) hR.1, Nat.le_trans (Nat.le_of_ble_eq_true rfl) hR.2⟩ hA.RR rfl rfl hl.1 (lv_room (Nat.le_of_ble_eq_true rfl)) dX1_count_76 ?_
      have he := o_in hit
      exact hend (some (.int q6)) (h, r) _ _ _ _ _ _ _ _ (kOut_i rfl) (by subst he; rfl) hA dX1_count_79
    · replace hit := o_f hit c4
      refine Decidable.byCases (p := a0 = 2) (fun c7 => ?_) (fun c7 => ?_)
      · replace hit := o_t hit c7
        refine b_tab (tgt := 80) hx hb dX1_count_1 c7 (z := 2) (by decide) (by decide) (by decide) rfl (by decide) ?_
        refine lv_aload_n hx hb dX1_count_80 rfl (lv_at hl 0 rfl) ?_
        obtain ⟨v8, ev8, hit⟩ := o_bind hit
        refine c_getR X hA.1.1 kc_TwinInk 1 q277 (Or.inl rfl) rfl rfl ev8 dX1_count_81 ?_
        obtain ⟨v9, ev9, hit⟩ := o_bind hit
        refine c_getNR X hA.1.1 kc_Office 0 q210 (Or.inl rfl) rfl rfl ev9 dX1_count_84 ?_
        obtain ⟨q10, eq10, hit⟩ := o_bind hit
        obtain ⟨iq10, eq10⟩ := vc_inv eq10
        refine c_cRF X hA.1.1 (fun U hU hW => hA.D X.2.1 X.2.2 h0H hU hW) kc_ArrayList (wCJ2_size l γ X.2.1 _ _  _ eq10) iq10 nmi_List_size q423 q428 q139 q430 q426 q425 q424 q429 q427 q358 ⟨Nat.le_trans (Nat.le_of_ble_eq_true rfl) hR.1, Nat.le_trans (Nat.le_of_ble_eq_true rfl) hR.2⟩ hA.RR rfl rfl hl.1 (lv_room (Nat.le_of_ble_eq_true rfl)) dX1_count_87 ?_
        have he := o_in hit
        exact hend (some (.int q10)) (h, r) _ _ _ _ _ _ _ _ (kOut_i rfl) (by subst he; rfl) hA dX1_count_92
      · replace hit := o_f hit c7
        refine Decidable.byCases (p := a0 = 3) (fun c11 => ?_) (fun c11 => ?_)
        · replace hit := o_t hit c11
          refine b_tab (tgt := 93) hx hb dX1_count_1 c11 (z := 3) (by decide) (by decide) (by decide) rfl (by decide) ?_
          refine lv_aload_n hx hb dX1_count_93 rfl (lv_at hl 0 rfl) ?_
          obtain ⟨v12, ev12, hit⟩ := o_bind hit
          refine c_getR X hA.1.1 kc_TwinInk 1 q277 (Or.inl rfl) rfl rfl ev12 dX1_count_94 ?_
          obtain ⟨v13, ev13, hit⟩ := o_bind hit
          refine c_getNI X hA.1.1 kc_Office 3 q220 (Or.inl rfl) rfl rfl ev13 dX1_count_97 ?_
          have he := o_in hit
          exact hend (some (.int v13)) (h, r) _ _ _ _ _ _ _ _ (kOut_i rfl) (by subst he; rfl) hA dX1_count_100
        · replace hit := o_f hit c11
          refine Decidable.byCases (p := a0 = 4) (fun c14 => ?_) (fun c14 => ?_)
          · replace hit := o_t hit c14
            refine b_tab (tgt := 101) hx hb dX1_count_1 c14 (z := 4) (by decide) (by decide) (by decide) rfl (by decide) ?_
            refine lv_aload_n hx hb dX1_count_101 rfl (lv_at hl 0 rfl) ?_
            obtain ⟨v15, ev15, hit⟩ := o_bind hit
            refine c_getR X hA.1.1 kc_TwinInk 2 q278 (Or.inl rfl) rfl rfl ev15 dX1_count_102 ?_
            obtain ⟨v16, ev16, hit⟩ := o_bind hit
            refine c_getNI X hA.1.1 kc_Service 4 q257 (Or.inl rfl) rfl rfl ev16 dX1_count_105 ?_
            have he := o_in hit
            exact hend (some (.int v16)) (h, r) _ _ _ _ _ _ _ _ (kOut_i rfl) (by subst he; rfl) hA dX1_count_108
          · replace hit := o_f hit c14
            refine Decidable.byCases (p := a0 = 5) (fun c17 => ?_) (fun c17 => ?_)
            · replace hit := o_t hit c17
              refine b_tab (tgt := 109) hx hb dX1_count_1 c17 (z := 5) (by decide) (by decide) (by decide) rfl (by decide) ?_
              refine lv_aload_n hx hb dX1_count_109 rfl (lv_at hl 0 rfl) ?_
              obtain ⟨v18, ev18, hit⟩ := o_bind hit
              refine c_getR X hA.1.1 kc_TwinInk 2 q278 (Or.inl rfl) rfl rfl ev18 dX1_count_110 ?_
              obtain ⟨q19, eq19, hit⟩ := o_bind hit
              obtain ⟨iq19, eq19⟩ := vc_inv eq19
              refine c_cR X hA.1.1 (fun U hU hW => hA.D X.2.1 X.2.2 h0H hU hW) kc_Service (wC3_burnt l γ X.2.1 _ _  _ eq19) iq19 nm_X3_burnt q1232 q1233 q140 q1235 q1234 ⟨Nat.le_trans (Nat.le_of_ble_eq_true rfl) hR.1, Nat.le_trans (Nat.le_of_ble_eq_true rfl) hR.2⟩ hA.RR rfl rfl hl.1 (lv_room (Nat.le_of_ble_eq_true rfl)) dX1_count_113 ?_
              have he := o_in hit
              exact hend (some (.int q19)) (h, r) _ _ _ _ _ _ _ _ (kOut_i rfl) (by subst he; rfl) hA dX1_count_116
            · replace hit := o_f hit c17
              refine Decidable.byCases (p := a0 = 6) (fun c20 => ?_) (fun c20 => ?_)
              · replace hit := o_t hit c20
                refine b_tab (tgt := 117) hx hb dX1_count_1 c20 (z := 6) (by decide) (by decide) (by decide) rfl (by decide) ?_
                refine lv_aload_n hx hb dX1_count_117 rfl (lv_at hl 0 rfl) ?_
                obtain ⟨v21, ev21, hit⟩ := o_bind hit
                refine c_getR X hA.1.1 kc_TwinInk 2 q278 (Or.inl rfl) rfl rfl ev21 dX1_count_118 ?_
                obtain ⟨q22, eq22, hit⟩ := o_bind hit
                obtain ⟨iq22, eq22⟩ := vc_inv eq22
                refine c_cR X hA.1.1 (fun U hU hW => hA.D X.2.1 X.2.2 h0H hU hW) kc_Service (wC3_borne l γ X.2.1 _ _  _ eq22) iq22 nm_X3_borne q1236 q1237 q140 q1239 q1238 ⟨Nat.le_trans (Nat.le_of_ble_eq_true rfl) hR.1, Nat.le_trans (Nat.le_of_ble_eq_true rfl) hR.2⟩ hA.RR rfl rfl hl.1 (lv_room (Nat.le_of_ble_eq_true rfl)) dX1_count_121 ?_
                have he := o_in hit
                exact hend (some (.int q22)) (h, r) _ _ _ _ _ _ _ _ (kOut_i rfl) (by subst he; rfl) hA dX1_count_124
              · replace hit := o_f hit c20
                refine Decidable.byCases (p := a0 = 7) (fun c23 => ?_) (fun c23 => ?_)
                · replace hit := o_t hit c23
                  refine b_tab (tgt := 125) hx hb dX1_count_1 c23 (z := 7) (by decide) (by decide) (by decide) rfl (by decide) ?_
                  refine lv_aload_n hx hb dX1_count_125 rfl (lv_at hl 0 rfl) ?_
                  obtain ⟨v24, ev24, hit⟩ := o_bind hit
                  refine c_getR X hA.1.1 kc_TwinInk 2 q278 (Or.inl rfl) rfl rfl ev24 dX1_count_126 ?_
                  obtain ⟨q25, eq25, hit⟩ := o_bind hit
                  obtain ⟨iq25, eq25⟩ := vc_inv eq25
                  refine c_cR X hA.1.1 (fun U hU hW => hA.D X.2.1 X.2.2 h0H hU hW) kc_Service (wC3_read l γ X.2.1 _ _  _ eq25) iq25 nm_X3_read q1240 q1241 q140 q1243 q1242 ⟨Nat.le_trans (Nat.le_of_ble_eq_true rfl) hR.1, Nat.le_trans (Nat.le_of_ble_eq_true rfl) hR.2⟩ hA.RR rfl rfl hl.1 (lv_room (Nat.le_of_ble_eq_true rfl)) dX1_count_129 ?_
                  have he := o_in hit
                  exact hend (some (.int q25)) (h, r) _ _ _ _ _ _ _ _ (kOut_i rfl) (by subst he; rfl) hA dX1_count_132
                · replace hit := o_f hit c23
                  refine Decidable.byCases (p := a0 = 8) (fun c26 => ?_) (fun c26 => ?_)
                  · replace hit := o_t hit c26
                    refine b_tab (tgt := 133) hx hb dX1_count_1 c26 (z := 8) (by decide) (by decide) (by decide) rfl (by decide) ?_
                    refine lv_aload_n hx hb dX1_count_133 rfl (lv_at hl 0 rfl) ?_
                    refine lv_iconst (v := 1) hx hb dX1_count_134 (by decide) ?_
                    refine lv_aload_n hx hb dX1_count_135 rfl (lv_at hl 0 rfl) ?_
                    obtain ⟨v27, ev27, hit⟩ := o_bind hit
                    refine c_getR X hA.1.1 kc_TwinInk 1 q277 (Or.inl rfl) rfl rfl ev27 dX1_count_136 ?_
                    obtain ⟨v28, ev28, hit⟩ := o_bind hit
                    refine c_getNI X hA.1.1 kc_Office 2 q216 (Or.inl rfl) rfl rfl ev28 dX1_count_139 ?_
                    refine lv_ishl hx hb dX1_count_142 ?_
                    refine lv_iconst (v := 1) hx hb dX1_count_143 (by decide) ?_
                    refine lv_isub hx hb dX1_count_144 ?_
                    obtain ⟨q29, eq29, hit⟩ := o_bind hit
                    obtain ⟨iq29, eq29⟩ := vc_inv eq29
                    refine c_cR X hA.1.1 (fun U hU hW => hA.D X.2.1 X.2.2 h0H hU hW) kc_TwinInk (wC1_couples l γ X.2.1 _ _ _ _ eq29) iq29 nm_X1_couples q1244 q1246 q135 q1247 qs35 ⟨Nat.le_trans (Nat.le_of_ble_eq_true rfl) hR.1, Nat.le_trans (Nat.le_of_ble_eq_true rfl) hR.2⟩ hA.RR rfl rfl hl.1 (lv_room (Nat.le_of_ble_eq_true rfl)) dX1_count_145 ?_
                    have he := o_in hit
                    exact hend (some (.int q29)) (h, r) _ _ _ _ _ _ _ _ (kOut_i rfl) (by subst he; rfl) hA dX1_count_148
                  · replace hit := o_f hit c26
                    refine Decidable.byCases (p := a0 = 9) (fun c30 => ?_) (fun c30 => ?_)
                    · replace hit := o_t hit c30
                      refine b_tab (tgt := 149) hx hb dX1_count_1 c30 (z := 9) (by decide) (by decide) (by decide) rfl (by decide) ?_
                      refine lv_aload_n hx hb dX1_count_149 rfl (lv_at hl 0 rfl) ?_
                      obtain ⟨v31, ev31, hit⟩ := o_bind hit
                      refine c_getR X hA.1.1 kc_TwinInk 8 q285 (Or.inl rfl) rfl rfl ev31 dX1_count_150 ?_
                      obtain ⟨q32, eq32, hit⟩ := o_bind hit
                      obtain ⟨iq32, eq32⟩ := vc_inv eq32
                      refine c_cRF X hA.1.1 (fun U hU hW => hA.D X.2.1 X.2.2 h0H hU hW) kc_ArrayList (wCJ2_size l γ X.2.1 _ _  _ eq32) iq32 nmi_List_size q423 q428 q139 q430 q426 q425 q424 q429 q427 q358 ⟨Nat.le_trans (Nat.le_of_ble_eq_true rfl) hR.1, Nat.le_trans (Nat.le_of_ble_eq_true rfl) hR.2⟩ hA.RR rfl rfl hl.1 (lv_room (Nat.le_of_ble_eq_true rfl)) dX1_count_153 ?_
                      have he := o_in hit
                      exact hend (some (.int q32)) (h, r) _ _ _ _ _ _ _ _ (kOut_i rfl) (by subst he; rfl) hA dX1_count_158
                    · replace hit := o_f hit c30
                      refine Decidable.byCases (p := a0 = 10) (fun c33 => ?_) (fun c33 => ?_)
                      · replace hit := o_t hit c33
                        refine b_tab (tgt := 159) hx hb dX1_count_1 c33 (z := 10) (by decide) (by decide) (by decide) rfl (by decide) ?_
                        refine lv_aload_n hx hb dX1_count_159 rfl (lv_at hl 0 rfl) ?_
                        obtain ⟨v34, ev34, hit⟩ := o_bind hit
                        refine c_getR X hA.1.1 kc_TwinInk 9 q286 (Or.inl rfl) rfl rfl ev34 dX1_count_160 ?_
                        obtain ⟨q35, eq35, hit⟩ := o_bind hit
                        obtain ⟨iq35, eq35⟩ := vc_inv eq35
                        refine c_cRF X hA.1.1 (fun U hU hW => hA.D X.2.1 X.2.2 h0H hU hW) kc_ArrayList (wCJ2_size l γ X.2.1 _ _  _ eq35) iq35 nmi_List_size q423 q428 q139 q430 q426 q425 q424 q429 q427 q358 ⟨Nat.le_trans (Nat.le_of_ble_eq_true rfl) hR.1, Nat.le_trans (Nat.le_of_ble_eq_true rfl) hR.2⟩ hA.RR rfl rfl hl.1 (lv_room (Nat.le_of_ble_eq_true rfl)) dX1_count_163 ?_
                        have he := o_in hit
                        exact hend (some (.int q35)) (h, r) _ _ _ _ _ _ _ _ (kOut_i rfl) (by subst he; rfl) hA dX1_count_168
                      · replace hit := o_f hit c33
                        refine Decidable.byCases (p := a0 = 11) (fun c36 => ?_) (fun c36 => ?_)
                        · replace hit := o_t hit c36
                          refine b_tab (tgt := 169) hx hb dX1_count_1 c36 (z := 11) (by decide) (by decide) (by decide) rfl (by decide) ?_
                          refine lv_aload_n hx hb dX1_count_169 rfl (lv_at hl 0 rfl) ?_
                          obtain ⟨v37, ev37, hit⟩ := o_bind hit
                          refine c_getI X hA.1.1 kc_TwinInk 5 q282 (Or.inl rfl) rfl rfl ev37 dX1_count_170 ?_
                          have he := o_in hit
                          exact hend (some (.int v37)) (h, r) _ _ _ _ _ _ _ _ (kOut_i rfl) (by subst he; rfl) hA dX1_count_173
                        · replace hit := o_f hit c36
                          have nc1 := lv_neT (a := 0) c1 (by decide)
                          have nc4 := lv_neT (a := 1) c4 (by decide)
                          have nc7 := lv_neT (a := 2) c7 (by decide)
                          have nc11 := lv_neT (a := 3) c11 (by decide)
                          have nc14 := lv_neT (a := 4) c14 (by decide)
                          have nc17 := lv_neT (a := 5) c17 (by decide)
                          have nc20 := lv_neT (a := 6) c20 (by decide)
                          have nc23 := lv_neT (a := 7) c23 (by decide)
                          have nc26 := lv_neT (a := 8) c26 (by decide)
                          have nc30 := lv_neT (a := 9) c30 (by decide)
                          have nc33 := lv_neT (a := 10) c33 (by decide)
                          have nc36 := lv_neT (a := 11) c36 (by decide)
                          refine lv_tableOut (tgt := 174) hx hb dX1_count_1 (by omega) (by decide) ?_
                          refine lv_iload_n hx hb dX1_count_174 rfl (lv_at hl 1 rfl) ?_
                          refine lv_bipush (v := 12) hx hb dX1_count_175 (by decide) ?_
                          refine lv_bipush (v := 14) hx hb dX1_count_177 (by decide) ?_
                          obtain ⟨q38, eq38, hit⟩ := o_bind hit
                          refine c_cP X.1 (wC1_in l _ _ _ _ eq38) nm_X1_in q333 q334 q135 q335 ⟨Nat.le_trans (Nat.le_of_ble_eq_true rfl) hR.1, Nat.le_trans (Nat.le_of_ble_eq_true rfl) hR.2⟩ hA.RR rfl rfl hl.1 (lv_room (Nat.le_of_ble_eq_true rfl)) dX1_count_179 ?_
                          rcases xg_inv hit with ⟨q39, eq39, hit⟩ | ⟨x_q39, eq39, he⟩
                          rotate_left
                          · obtain ⟨eq39, lq39⟩ := xchv_r eq39
                            refine t_cS X h0H hA nm_X1_found q1254 q1255 q135 q1256 (xMet.tv (wC1_found l hT γ X.2.1 _ _ _ _ eq39)) lq39 ⟨Nat.le_trans (Nat.le_of_ble_eq_true rfl) hR.1, Nat.le_trans (Nat.le_of_ble_eq_true rfl) hR.2⟩ rfl rfl hl.1 (lv_room (Nat.le_of_ble_eq_true rfl)) dX1_count_182 (fun H locs cells slots q_ hA hq => ?_)
                            exact hthr _ _ _ _ _ _ _ _ _ (by subst he; rfl) hA hq
                          obtain ⟨eq39, lq39⟩ := xchv_l eq39
                          refine a_cS X h0H hA nm_X1_found q1254 q1255 q135 q1256 (xMet.v (wC1_found l hT γ X.2.1 _ _ _ _ eq39)) lq39 ⟨Nat.le_trans (Nat.le_of_ble_eq_true rfl) hR.1, Nat.le_trans (Nat.le_of_ble_eq_true rfl) hR.2⟩ rfl rfl hl.1 (lv_room (Nat.le_of_ble_eq_true rfl)) dX1_count_182 (fun H locs cells slots hA => ?_)
                          refine lv_aload_n hx hb dX1_count_185 rfl (lv_at hl 0 rfl) ?_
                          obtain ⟨v40, ev40, hit⟩ := o_bind hit
                          refine c_getR X hA.1.1 kc_TwinInk 7 q284 (Or.inl rfl) rfl rfl ev40 dX1_count_186 ?_
                          refine lv_iload_n hx hb dX1_count_189 rfl (lv_at hl 1 rfl) ?_
                          refine lv_bipush (v := 12) hx hb dX1_count_190 (by decide) ?_
                          refine lv_isub hx hb dX1_count_192 ?_
                          obtain ⟨v41, ev41, hit⟩ := o_bind hit
                          refine c_iald X hA.1.1 ev41 dX1_count_193 ?_
                          have he := o_in hit
                          exact hend (some (.int v41)) q39 _ _ _ _ _ _ _ _ (kOut_i rfl) (by subst he; rfl) hA dX1_count_194
noncomputable def C1_aSheet (h : CH) (r : CR) (o : Nat) (a0 : Int32) : Option (CS ⊕ XT) :=
  (gR h o 1 1).bind fun v1 =>
  (gI h v1 2 2).bind fun v2 =>
  (C1_in a0 0 (v2 - 1)).bind fun q3 =>
  xg Sum.inr (xchv r (C1_found h r q3)) fun q4 =>
  some (.inl q4)
theorem nm_X1_aSheet : kNm yX1_aSheet RX1 1 := by unfold kNm; decide +kernel
set_option maxHeartbeats 4000000 in
set_option maxRecDepth 100000 in
theorem wC1_aSheet (l : Launch) (hT : l.stackTraces = false) (γ : KG) (hO : kOK γ) (h : CH) (r : CR) (o : Nat) (a0 : Int32) (z : CS ⊕ XT) (hz : C1_aSheet h r o a0 = some z) : xMet l yX1_aSheet (ws_ yX1_aSheet cX1_aSheet 2 none) 7 120 γ (h, r) [.ref o, .int a0] (xV z) := by
  refine x_start (cc := cX1_aSheet) (own := RX1) hO rfl rfl rfl (fun p e R s m args below meth c Q ls X hR hnm h0H hA hl hend hthr hdir => ?_)
  have hx := X.1.1
  have hb := X.1.2.1
  have hit := hz
  clear hz
  unfold C1_aSheet at hit
  have hl : lv_has ls 2 [(0, .ref o), (1, .int a0)] := hl
  refine lv_iload_n hx hb dX1_aSheet_0 rfl (lv_at hl 1 rfl) ?_
  refine lv_iconst (v := 0) hx hb dX1_aSheet_1 (by decide) ?_
  refine lv_aload_n hx hb dX1_aSheet_2 rfl (lv_at hl 0 rfl) ?_
  obtain ⟨v1, ev1, hit⟩ := o_bind hit
  refine c_getR X hA.1.1 kc_TwinInk 1 q277 (Or.inl rfl) rfl rfl ev1 dX1_aSheet_3 ?_
  obtain ⟨v2, ev2, hit⟩ := o_bind hit
  refine c_getNI X hA.1.1 kc_Office 2 q216 (Or.inl rfl) rfl rfl ev2 dX1_aSheet_6 ?_
  refine lv_iconst (v := 1) hx hb dX1_aSheet_9 (by decide) ?_
  refine lv_isub hx hb dX1_aSheet_10 ?_
  obtain ⟨q3, eq3, hit⟩ := o_bind hit
  refine c_cP X.1 (wC1_in l _ _ _ _ eq3) nm_X1_in q333 q334 q135 q335 ⟨Nat.le_trans (Nat.le_of_ble_eq_true rfl) hR.1, Nat.le_trans (Nat.le_of_ble_eq_true rfl) hR.2⟩ hA.RR rfl rfl hl.1 (lv_room (Nat.le_of_ble_eq_true rfl)) dX1_aSheet_11 ?_
  rcases xg_inv hit with ⟨q4, eq4, hit⟩ | ⟨x_q4, eq4, he⟩
  rotate_left
  · obtain ⟨eq4, lq4⟩ := xchv_r eq4
    refine t_cS X h0H hA nm_X1_found q1254 q1255 q135 q1256 (xMet.tv (wC1_found l hT γ X.2.1 _ _ _ _ eq4)) lq4 ⟨Nat.le_trans (Nat.le_of_ble_eq_true rfl) hR.1, Nat.le_trans (Nat.le_of_ble_eq_true rfl) hR.2⟩ rfl rfl hl.1 (lv_room (Nat.le_of_ble_eq_true rfl)) dX1_aSheet_14 (fun H locs cells slots q_ hA hq => ?_)
    exact hthr _ _ _ _ _ _ _ _ _ (by subst he; rfl) hA hq
  obtain ⟨eq4, lq4⟩ := xchv_l eq4
  refine a_cS X h0H hA nm_X1_found q1254 q1255 q135 q1256 (xMet.v (wC1_found l hT γ X.2.1 _ _ _ _ eq4)) lq4 ⟨Nat.le_trans (Nat.le_of_ble_eq_true rfl) hR.1, Nat.le_trans (Nat.le_of_ble_eq_true rfl) hR.2⟩ rfl rfl hl.1 (lv_room (Nat.le_of_ble_eq_true rfl)) dX1_aSheet_14 (fun H locs cells slots hA => ?_)
  have he := o_in hit
  exact hend none q4 _ _ _ _ _ _ _ _ kOut_v (by subst he; rfl) hA dX1_aSheet_17
noncomputable def C1_aClerk (h : CH) (r : CR) (o : Nat) (a0 : Int32) : Option (CS ⊕ XT) :=
  (gR h o 1 1).bind fun v1 =>
  (vc h v1 2 (C2_clerks h v1)).bind fun q2 =>
  (C1_in a0 0 (q2 - 1)).bind fun q3 =>
  xg Sum.inr (xchv r (C1_found h r q3)) fun q4 =>
  some (.inl q4)
theorem nm_X1_aClerk : kNm yX1_aClerk RX1 1 := by unfold kNm; decide +kernel
set_option maxHeartbeats 4000000 in
set_option maxRecDepth 100000 in
theorem wC1_aClerk (l : Launch) (hT : l.stackTraces = false) (γ : KG) (hO : kOK γ) (h : CH) (r : CR) (o : Nat) (a0 : Int32) (z : CS ⊕ XT) (hz : C1_aClerk h r o a0 = some z) : xMet l yX1_aClerk (ws_ yX1_aClerk cX1_aClerk 2 none) 7 120 γ (h, r) [.ref o, .int a0] (xV z) := by
  refine x_start (cc := cX1_aClerk) (own := RX1) hO rfl rfl rfl (fun p e R s m args below meth c Q ls X hR hnm h0H hA hl hend hthr hdir => ?_)
  have hx := X.1.1
  have hb := X.1.2.1
  have hit := hz
  clear hz
  unfold C1_aClerk at hit
  have hl : lv_has ls 2 [(0, .ref o), (1, .int a0)] := hl
  refine lv_iload_n hx hb dX1_aClerk_0 rfl (lv_at hl 1 rfl) ?_
  refine lv_iconst (v := 0) hx hb dX1_aClerk_1 (by decide) ?_
  refine lv_aload_n hx hb dX1_aClerk_2 rfl (lv_at hl 0 rfl) ?_
  obtain ⟨v1, ev1, hit⟩ := o_bind hit
  refine c_getR X hA.1.1 kc_TwinInk 1 q277 (Or.inl rfl) rfl rfl ev1 dX1_aClerk_3 ?_
  obtain ⟨q2, eq2, hit⟩ := o_bind hit
  obtain ⟨iq2, eq2⟩ := vc_inv eq2
  refine c_cR X hA.1.1 (fun U hU hW => hA.D X.2.1 X.2.2 h0H hU hW) kc_Office (wC2_clerks l γ X.2.1 _ _  _ eq2) iq2 nm_X2_clerks q1231 q464 q136 q466 q465 ⟨Nat.le_trans (Nat.le_of_ble_eq_true rfl) hR.1, Nat.le_trans (Nat.le_of_ble_eq_true rfl) hR.2⟩ hA.RR rfl rfl hl.1 (lv_room (Nat.le_of_ble_eq_true rfl)) dX1_aClerk_6 ?_
  refine lv_iconst (v := 1) hx hb dX1_aClerk_9 (by decide) ?_
  refine lv_isub hx hb dX1_aClerk_10 ?_
  obtain ⟨q3, eq3, hit⟩ := o_bind hit
  refine c_cP X.1 (wC1_in l _ _ _ _ eq3) nm_X1_in q333 q334 q135 q335 ⟨Nat.le_trans (Nat.le_of_ble_eq_true rfl) hR.1, Nat.le_trans (Nat.le_of_ble_eq_true rfl) hR.2⟩ hA.RR rfl rfl hl.1 (lv_room (Nat.le_of_ble_eq_true rfl)) dX1_aClerk_11 ?_
  rcases xg_inv hit with ⟨q4, eq4, hit⟩ | ⟨x_q4, eq4, he⟩
  rotate_left
  · obtain ⟨eq4, lq4⟩ := xchv_r eq4
    refine t_cS X h0H hA nm_X1_found q1254 q1255 q135 q1256 (xMet.tv (wC1_found l hT γ X.2.1 _ _ _ _ eq4)) lq4 ⟨Nat.le_trans (Nat.le_of_ble_eq_true rfl) hR.1, Nat.le_trans (Nat.le_of_ble_eq_true rfl) hR.2⟩ rfl rfl hl.1 (lv_room (Nat.le_of_ble_eq_true rfl)) dX1_aClerk_14 (fun H locs cells slots q_ hA hq => ?_)
    exact hthr _ _ _ _ _ _ _ _ _ (by subst he; rfl) hA hq
  obtain ⟨eq4, lq4⟩ := xchv_l eq4
  refine a_cS X h0H hA nm_X1_found q1254 q1255 q135 q1256 (xMet.v (wC1_found l hT γ X.2.1 _ _ _ _ eq4)) lq4 ⟨Nat.le_trans (Nat.le_of_ble_eq_true rfl) hR.1, Nat.le_trans (Nat.le_of_ble_eq_true rfl) hR.2⟩ rfl rfl hl.1 (lv_room (Nat.le_of_ble_eq_true rfl)) dX1_aClerk_14 (fun H locs cells slots hA => ?_)
  have he := o_in hit
  exact hend none q4 _ _ _ _ _ _ _ _ kOut_v (by subst he; rfl) hA dX1_aClerk_17
noncomputable def C1_aWord (h : CH) (r : CR) (o : Nat) (a0 : Int32) : Option (CS ⊕ XT) :=
  (gR h o 1 1).bind fun v1 =>
  (gR h v1 2 0).bind fun v2 =>
  (vc h v2 10 (CJ2_size h v2)).bind fun q3 =>
  (C1_in a0 0 (q3 - 1)).bind fun q4 =>
  xg Sum.inr (xchv r (C1_found h r q4)) fun q5 =>
  some (.inl q5)
theorem nm_X1_aWord : kNm yX1_aWord RX1 1 := by unfold kNm; decide +kernel
set_option maxHeartbeats 4000000 in
set_option maxRecDepth 100000 in
theorem wC1_aWord (l : Launch) (hT : l.stackTraces = false) (γ : KG) (hO : kOK γ) (h : CH) (r : CR) (o : Nat) (a0 : Int32) (z : CS ⊕ XT) (hz : C1_aWord h r o a0 = some z) : xMet l yX1_aWord (ws_ yX1_aWord cX1_aWord 2 none) 7 120 γ (h, r) [.ref o, .int a0] (xV z) := by
  refine x_start (cc := cX1_aWord) (own := RX1) hO rfl rfl rfl (fun p e R s m args below meth c Q ls X hR hnm h0H hA hl hend hthr hdir => ?_)
  have hx := X.1.1
  have hb := X.1.2.1
  have hit := hz
  clear hz
  unfold C1_aWord at hit
  have hl : lv_has ls 2 [(0, .ref o), (1, .int a0)] := hl
  refine lv_iload_n hx hb dX1_aWord_0 rfl (lv_at hl 1 rfl) ?_
  refine lv_iconst (v := 0) hx hb dX1_aWord_1 (by decide) ?_
  refine lv_aload_n hx hb dX1_aWord_2 rfl (lv_at hl 0 rfl) ?_
  obtain ⟨v1, ev1, hit⟩ := o_bind hit
  refine c_getR X hA.1.1 kc_TwinInk 1 q277 (Or.inl rfl) rfl rfl ev1 dX1_aWord_3 ?_
  obtain ⟨v2, ev2, hit⟩ := o_bind hit
  refine c_getNR X hA.1.1 kc_Office 0 q210 (Or.inl rfl) rfl rfl ev2 dX1_aWord_6 ?_
  obtain ⟨q3, eq3, hit⟩ := o_bind hit
  obtain ⟨iq3, eq3⟩ := vc_inv eq3
  refine c_cRF X hA.1.1 (fun U hU hW => hA.D X.2.1 X.2.2 h0H hU hW) kc_ArrayList (wCJ2_size l γ X.2.1 _ _  _ eq3) iq3 nmi_List_size q423 q428 q139 q430 q426 q425 q424 q429 q427 q358 ⟨Nat.le_trans (Nat.le_of_ble_eq_true rfl) hR.1, Nat.le_trans (Nat.le_of_ble_eq_true rfl) hR.2⟩ hA.RR rfl rfl hl.1 (lv_room (Nat.le_of_ble_eq_true rfl)) dX1_aWord_9 ?_
  refine lv_iconst (v := 1) hx hb dX1_aWord_14 (by decide) ?_
  refine lv_isub hx hb dX1_aWord_15 ?_
  obtain ⟨q4, eq4, hit⟩ := o_bind hit
  refine c_cP X.1 (wC1_in l _ _ _ _ eq4) nm_X1_in q333 q334 q135 q335 ⟨Nat.le_trans (Nat.le_of_ble_eq_true rfl) hR.1, Nat.le_trans (Nat.le_of_ble_eq_true rfl) hR.2⟩ hA.RR rfl rfl hl.1 (lv_room (Nat.le_of_ble_eq_true rfl)) dX1_aWord_16 ?_
  rcases xg_inv hit with ⟨q5, eq5, hit⟩ | ⟨x_q5, eq5, he⟩
  rotate_left
  · obtain ⟨eq5, lq5⟩ := xchv_r eq5
    refine t_cS X h0H hA nm_X1_found q1254 q1255 q135 q1256 (xMet.tv (wC1_found l hT γ X.2.1 _ _ _ _ eq5)) lq5 ⟨Nat.le_trans (Nat.le_of_ble_eq_true rfl) hR.1, Nat.le_trans (Nat.le_of_ble_eq_true rfl) hR.2⟩ rfl rfl hl.1 (lv_room (Nat.le_of_ble_eq_true rfl)) dX1_aWord_19 (fun H locs cells slots q_ hA hq => ?_)
    exact hthr _ _ _ _ _ _ _ _ _ (by subst he; rfl) hA hq
  obtain ⟨eq5, lq5⟩ := xchv_l eq5
  refine a_cS X h0H hA nm_X1_found q1254 q1255 q135 q1256 (xMet.v (wC1_found l hT γ X.2.1 _ _ _ _ eq5)) lq5 ⟨Nat.le_trans (Nat.le_of_ble_eq_true rfl) hR.1, Nat.le_trans (Nat.le_of_ble_eq_true rfl) hR.2⟩ rfl rfl hl.1 (lv_room (Nat.le_of_ble_eq_true rfl)) dX1_aWord_19 (fun H locs cells slots hA => ?_)
  have he := o_in hit
  exact hend none q5 _ _ _ _ _ _ _ _ kOut_v (by subst he; rfl) hA dX1_aWord_22
noncomputable def C1_aTown (h : CH) (r : CR) (a0 : Int32) : Option (CS ⊕ XT) :=
  (C1_in a0 0 3).bind fun q1 =>
  xg Sum.inr (xchv r (C1_found h r q1)) fun q2 =>
  some (.inl q2)
theorem nm_X1_aTown : kNm yX1_aTown RX1 1 := by unfold kNm; decide +kernel
set_option maxHeartbeats 4000000 in
set_option maxRecDepth 100000 in
theorem wC1_aTown (l : Launch) (hT : l.stackTraces = false) (γ : KG) (hO : kOK γ) (h : CH) (r : CR) (a0 : Int32) (z : CS ⊕ XT) (hz : C1_aTown h r a0 = some z) : xMet l yX1_aTown (ws_ yX1_aTown cX1_aTown 1 none) 7 120 γ (h, r) [.int a0] (xV z) := by
  refine x_start (cc := cX1_aTown) (own := RX1) hO rfl rfl rfl (fun p e R s m args below meth c Q ls X hR hnm h0H hA hl hend hthr hdir => ?_)
  have hx := X.1.1
  have hb := X.1.2.1
  have hit := hz
  clear hz
  unfold C1_aTown at hit
  have hl : lv_has ls 1 [(0, .int a0)] := hl
  refine lv_iload_n hx hb dX1_aTown_0 rfl (lv_at hl 0 rfl) ?_
  refine lv_iconst (v := 0) hx hb dX1_aTown_1 (by decide) ?_
  refine lv_iconst (v := 3) hx hb dX1_aTown_2 (by decide) ?_
  obtain ⟨q1, eq1, hit⟩ := o_bind hit
  refine c_cP X.1 (wC1_in l _ _ _ _ eq1) nm_X1_in q333 q334 q135 q335 ⟨Nat.le_trans (Nat.le_of_ble_eq_true rfl) hR.1, Nat.le_trans (Nat.le_of_ble_eq_true rfl) hR.2⟩ hA.RR rfl rfl hl.1 (lv_room (Nat.le_of_ble_eq_true rfl)) dX1_aTown_3 ?_
  rcases xg_inv hit with ⟨q2, eq2, hit⟩ | ⟨x_q2, eq2, he⟩
  rotate_left
  · obtain ⟨eq2, lq2⟩ := xchv_r eq2
    refine t_cS X h0H hA nm_X1_found q1254 q1255 q135 q1256 (xMet.tv (wC1_found l hT γ X.2.1 _ _ _ _ eq2)) lq2 ⟨Nat.le_trans (Nat.le_of_ble_eq_true rfl) hR.1, Nat.le_trans (Nat.le_of_ble_eq_true rfl) hR.2⟩ rfl rfl hl.1 (lv_room (Nat.le_of_ble_eq_true rfl)) dX1_aTown_6 (fun H locs cells slots q_ hA hq => ?_)
    exact hthr _ _ _ _ _ _ _ _ _ (by subst he; rfl) hA hq
  obtain ⟨eq2, lq2⟩ := xchv_l eq2
  refine a_cS X h0H hA nm_X1_found q1254 q1255 q135 q1256 (xMet.v (wC1_found l hT γ X.2.1 _ _ _ _ eq2)) lq2 ⟨Nat.le_trans (Nat.le_of_ble_eq_true rfl) hR.1, Nat.le_trans (Nat.le_of_ble_eq_true rfl) hR.2⟩ rfl rfl hl.1 (lv_room (Nat.le_of_ble_eq_true rfl)) dX1_aTown_6 (fun H locs cells slots hA => ?_)
  have he := o_in hit
  exact hend none q2 _ _ _ _ _ _ _ _ kOut_v (by subst he; rfl) hA dX1_aTown_9
noncomputable def C1_oneOf (h : CH) (r : CR) (a0 : Int32) (a1 : Int32) : Option (CS ⊕ XT) :=
  (C1_in a0 0 a1).bind fun q1 =>
  xg Sum.inr (xchv r (C1_found h r q1)) fun q2 =>
  some (.inl q2)
theorem nm_X1_oneOf : kNm yX1_oneOf RX1 2 := by unfold kNm; decide +kernel
set_option maxHeartbeats 4000000 in
set_option maxRecDepth 100000 in
theorem wC1_oneOf (l : Launch) (hT : l.stackTraces = false) (γ : KG) (hO : kOK γ) (h : CH) (r : CR) (a0 : Int32) (a1 : Int32) (z : CS ⊕ XT) (hz : C1_oneOf h r a0 a1 = some z) : xMet l yX1_oneOf (ws_ yX1_oneOf cX1_oneOf 2 none) 7 120 γ (h, r) [.int a0, .int a1] (xV z) := by
  refine x_start (cc := cX1_oneOf) (own := RX1) hO rfl rfl rfl (fun p e R s m args below meth c Q ls X hR hnm h0H hA hl hend hthr hdir => ?_)
  have hx := X.1.1
  have hb := X.1.2.1
  have hit := hz
  clear hz
  unfold C1_oneOf at hit
  have hl : lv_has ls 2 [(0, .int a0), (1, .int a1)] := hl
  refine lv_iload_n hx hb dX1_oneOf_0 rfl (lv_at hl 0 rfl) ?_
  refine lv_iconst (v := 0) hx hb dX1_oneOf_1 (by decide) ?_
  refine lv_iload_n hx hb dX1_oneOf_2 rfl (lv_at hl 1 rfl) ?_
  obtain ⟨q1, eq1, hit⟩ := o_bind hit
  refine c_cP X.1 (wC1_in l _ _ _ _ eq1) nm_X1_in q333 q334 q135 q335 ⟨Nat.le_trans (Nat.le_of_ble_eq_true rfl) hR.1, Nat.le_trans (Nat.le_of_ble_eq_true rfl) hR.2⟩ hA.RR rfl rfl hl.1 (lv_room (Nat.le_of_ble_eq_true rfl)) dX1_oneOf_3 ?_
  rcases xg_inv hit with ⟨q2, eq2, hit⟩ | ⟨x_q2, eq2, he⟩
  rotate_left
  · obtain ⟨eq2, lq2⟩ := xchv_r eq2
    refine t_cS X h0H hA nm_X1_found q1254 q1255 q135 q1256 (xMet.tv (wC1_found l hT γ X.2.1 _ _ _ _ eq2)) lq2 ⟨Nat.le_trans (Nat.le_of_ble_eq_true rfl) hR.1, Nat.le_trans (Nat.le_of_ble_eq_true rfl) hR.2⟩ rfl rfl hl.1 (lv_room (Nat.le_of_ble_eq_true rfl)) dX1_oneOf_6 (fun H locs cells slots q_ hA hq => ?_)
    exact hthr _ _ _ _ _ _ _ _ _ (by subst he; rfl) hA hq
  obtain ⟨eq2, lq2⟩ := xchv_l eq2
  refine a_cS X h0H hA nm_X1_found q1254 q1255 q135 q1256 (xMet.v (wC1_found l hT γ X.2.1 _ _ _ _ eq2)) lq2 ⟨Nat.le_trans (Nat.le_of_ble_eq_true rfl) hR.1, Nat.le_trans (Nat.le_of_ble_eq_true rfl) hR.2⟩ rfl rfl hl.1 (lv_room (Nat.le_of_ble_eq_true rfl)) dX1_oneOf_6 (fun H locs cells slots hA => ?_)
  have he := o_in hit
  exact hend none q2 _ _ _ _ _ _ _ _ kOut_v (by subst he; rfl) hA dX1_oneOf_9
noncomputable def C1_sheet (h : CH) (r : CR) (o : Nat) (a0 : Int32) (a1 : Int32) : Option ((Int32 × CS) ⊕ XT) :=
  xg Sum.inr (vc h o 1 (xchv r (C1_aSheet h r o a0))) fun q1 =>
  xg Sum.inr (xchv q1.2 (C1_oneOf q1.1 q1.2 a1 4)) fun q2 =>
  if a1 = 0 then
    ((gR q2.1 o 1 2).bind fun v16 =>
    (gR q2.1 v16 3 0).bind fun v17 =>
    (aI q2.1 v17 0 a0).bind fun v18 =>
    some (.inl (v18, q2)))
  else
    (if a1 = 1 then
      ((gR q2.1 o 1 2).bind fun v13 =>
      (gR q2.1 v13 3 1).bind fun v14 =>
      (aI q2.1 v14 0 a0).bind fun v15 =>
      some (.inl (v15, q2)))
    else
      (if a1 = 2 then
        ((gR q2.1 o 1 2).bind fun v11 =>
        (vc q2.1 v11 3 (C3_where q2.1 v11 a0)).bind fun q12 =>
        some (.inl (q12, q2)))
      else
        (if a1 = 3 then
          ((gR q2.1 o 1 2).bind fun v9 =>
          (vc q2.1 v9 3 (C3_bearer q2.1 v9 a0)).bind fun q10 =>
          some (.inl (q10, q2)))
        else
          ((gR q2.1 o 1 2).bind fun v7 =>
          (vc q2.1 v7 3 (C3_fitting q2.1 v7 a0)).bind fun q8 =>
          some (.inl (q8, q2))))))
theorem nm_X1_sheet : kNm yX1_sheet RX1 2 := by unfold kNm; decide +kernel
set_option maxHeartbeats 4000000 in
set_option maxRecDepth 100000 in
theorem wC1_sheet (l : Launch) (hT : l.stackTraces = false) (γ : KG) (hO : kOK γ) (h : CH) (r : CR) (o : Nat) (a0 : Int32) (a1 : Int32) (z : (Int32 × CS) ⊕ XT) (hz : C1_sheet h r o a0 a1 = some z) : xMet l yX1_sheet (ws_ yX1_sheet cX1_sheet 3 (some .int)) 8 141 γ (h, r) [.ref o, .int a0, .int a1] (xI z) := by
  refine x_start (cc := cX1_sheet) (own := RX1) hO rfl rfl rfl (fun p e R s m args below meth c Q ls X hR hnm h0H hA hl hend hthr hdir => ?_)
  have hx := X.1.1
  have hb := X.1.2.1
  have hit := hz
  clear hz
  unfold C1_sheet at hit
  have hl : lv_has ls 3 [(0, .ref o), (1, .int a0), (2, .int a1)] := hl
  refine lv_aload_n hx hb dX1_sheet_0 rfl (lv_at hl 0 rfl) ?_
  refine lv_iload_n hx hb dX1_sheet_1 rfl (lv_at hl 1 rfl) ?_
  rcases xg_inv hit with ⟨q1, eq1, hit⟩ | ⟨x_q1, eq1, he⟩
  rotate_left
  · obtain ⟨iq1, eq1⟩ := vc_inv eq1
    obtain ⟨eq1, lq1⟩ := xchv_r eq1
    refine t_cV X h0H hA kc_TwinInk (xMet.tv (wC1_aSheet l hT γ X.2.1 _ _ _ _ _ eq1)) lq1 iq1 nm_X1_aSheet q1279 q1281 q135 q1282 qs36 ⟨Nat.le_trans (Nat.le_of_ble_eq_true rfl) hR.1, Nat.le_trans (Nat.le_of_ble_eq_true rfl) hR.2⟩ rfl rfl hl.1 (lv_room (Nat.le_of_ble_eq_true rfl)) dX1_sheet_2 (fun H locs cells slots q_ hA hq => ?_)
    exact hthr _ _ _ _ _ _ _ _ _ (by subst he; rfl) hA hq
  obtain ⟨iq1, eq1⟩ := vc_inv eq1
  obtain ⟨eq1, lq1⟩ := xchv_l eq1
  refine a_cV X h0H hA kc_TwinInk (xMet.v (wC1_aSheet l hT γ X.2.1 _ _ _ _ _ eq1)) lq1 iq1 nm_X1_aSheet q1279 q1281 q135 q1282 qs36 ⟨Nat.le_trans (Nat.le_of_ble_eq_true rfl) hR.1, Nat.le_trans (Nat.le_of_ble_eq_true rfl) hR.2⟩ rfl rfl hl.1 (lv_room (Nat.le_of_ble_eq_true rfl)) dX1_sheet_2 (fun H locs cells slots hA => ?_)
  refine lv_iload_n hx hb dX1_sheet_5 rfl (lv_at hl 2 rfl) ?_
  refine lv_iconst (v := 4) hx hb dX1_sheet_6 (by decide) ?_
  rcases xg_inv hit with ⟨q2, eq2, hit⟩ | ⟨x_q2, eq2, he⟩
  rotate_left
  · obtain ⟨eq2, lq2⟩ := xchv_r eq2
    refine t_cS X h0H hA nm_X1_oneOf q1283 q1284 q135 q1285 (xMet.tv (wC1_oneOf l hT γ X.2.1 _ _ _ _ _ eq2)) lq2 ⟨Nat.le_trans (Nat.le_of_ble_eq_true rfl) hR.1, Nat.le_trans (Nat.le_of_ble_eq_true rfl) hR.2⟩ rfl rfl hl.1 (lv_room (Nat.le_of_ble_eq_true rfl)) dX1_sheet_7 (fun H locs cells slots q_ hA hq => ?_)
    exact hthr _ _ _ _ _ _ _ _ _ (by subst he; rfl) hA hq
  obtain ⟨eq2, lq2⟩ := xchv_l eq2
  refine a_cS X h0H hA nm_X1_oneOf q1283 q1284 q135 q1285 (xMet.v (wC1_oneOf l hT γ X.2.1 _ _ _ _ _ eq2)) lq2 ⟨Nat.le_trans (Nat.le_of_ble_eq_true rfl) hR.1, Nat.le_trans (Nat.le_of_ble_eq_true rfl) hR.2⟩ rfl rfl hl.1 (lv_room (Nat.le_of_ble_eq_true rfl)) dX1_sheet_7 (fun H locs cells slots hA => ?_)
  refine lv_iload_n hx hb dX1_sheet_10 rfl (lv_at hl 2 rfl) ?_
  refine b_if_ne (tgt := 26) hx hb dX1_sheet_11 (by decide) hit (fun c3 hit => ?_) (fun c3 hit => ?_)
  · refine lv_iload_n hx hb dX1_sheet_26 rfl (lv_at hl 2 rfl) ?_
    refine lv_iconst (v := 1) hx hb dX1_sheet_27 (by decide) ?_
    refine b_icmp_ne (tgt := 43) hx hb dX1_sheet_28 (by decide) hit (fun c4 hit => ?_) (fun c4 hit => ?_)
    · refine lv_iload_n hx hb dX1_sheet_43 rfl (lv_at hl 2 rfl) ?_
      refine lv_iconst (v := 2) hx hb dX1_sheet_44 (by decide) ?_
      refine b_icmp_ne (tgt := 59) hx hb dX1_sheet_45 (by decide) hit (fun c5 hit => ?_) (fun c5 hit => ?_)
      · refine lv_iload_n hx hb dX1_sheet_59 rfl (lv_at hl 2 rfl) ?_
        refine lv_iconst (v := 3) hx hb dX1_sheet_60 (by decide) ?_
        refine b_icmp_ne (tgt := 75) hx hb dX1_sheet_61 (by decide) hit (fun c6 hit => ?_) (fun c6 hit => ?_)
        · refine lv_aload_n hx hb dX1_sheet_75 rfl (lv_at hl 0 rfl) ?_
          obtain ⟨v7, ev7, hit⟩ := o_bind hit
          refine c_getR X hA.1.1 kc_TwinInk 2 q278 (Or.inl rfl) rfl rfl ev7 dX1_sheet_76 ?_
          refine lv_iload_n hx hb dX1_sheet_79 rfl (lv_at hl 1 rfl) ?_
          obtain ⟨q8, eq8, hit⟩ := o_bind hit
          obtain ⟨iq8, eq8⟩ := vc_inv eq8
          refine c_cR X hA.1.1 (fun U hU hW => hA.D X.2.1 X.2.2 h0H hU hW) kc_Service (wC3_fitting l γ X.2.1 _ _ _ _ eq8) iq8 nm_X3_fitting q1288 q1289 q140 q1291 q1290 ⟨Nat.le_trans (Nat.le_of_ble_eq_true rfl) hR.1, Nat.le_trans (Nat.le_of_ble_eq_true rfl) hR.2⟩ hA.RR rfl rfl hl.1 (lv_room (Nat.le_of_ble_eq_true rfl)) dX1_sheet_80 ?_
          have he := o_in hit
          exact hend (some (.int q8)) q2 _ _ _ _ _ _ _ _ (kOut_i rfl) (by subst he; rfl) hA dX1_sheet_83
        · refine lv_aload_n hx hb dX1_sheet_64 rfl (lv_at hl 0 rfl) ?_
          obtain ⟨v9, ev9, hit⟩ := o_bind hit
          refine c_getR X hA.1.1 kc_TwinInk 2 q278 (Or.inl rfl) rfl rfl ev9 dX1_sheet_65 ?_
          refine lv_iload_n hx hb dX1_sheet_68 rfl (lv_at hl 1 rfl) ?_
          obtain ⟨q10, eq10, hit⟩ := o_bind hit
          obtain ⟨iq10, eq10⟩ := vc_inv eq10
          refine c_cR X hA.1.1 (fun U hU hW => hA.D X.2.1 X.2.2 h0H hU hW) kc_Service (wC3_bearer l γ X.2.1 _ _ _ _ eq10) iq10 nm_X3_bearer q1287 q622 q140 q624 q623 ⟨Nat.le_trans (Nat.le_of_ble_eq_true rfl) hR.1, Nat.le_trans (Nat.le_of_ble_eq_true rfl) hR.2⟩ hA.RR rfl rfl hl.1 (lv_room (Nat.le_of_ble_eq_true rfl)) dX1_sheet_69 ?_
          refine lv_goto (tgt := 83) hx hb dX1_sheet_72 (by decide) ?_
          have he := o_in hit
          exact hend (some (.int q10)) q2 _ _ _ _ _ _ _ _ (kOut_i rfl) (by subst he; rfl) hA dX1_sheet_83
      · refine lv_aload_n hx hb dX1_sheet_48 rfl (lv_at hl 0 rfl) ?_
        obtain ⟨v11, ev11, hit⟩ := o_bind hit
        refine c_getR X hA.1.1 kc_TwinInk 2 q278 (Or.inl rfl) rfl rfl ev11 dX1_sheet_49 ?_
        refine lv_iload_n hx hb dX1_sheet_52 rfl (lv_at hl 1 rfl) ?_
        obtain ⟨q12, eq12, hit⟩ := o_bind hit
        obtain ⟨iq12, eq12⟩ := vc_inv eq12
        refine c_cR X hA.1.1 (fun U hU hW => hA.D X.2.1 X.2.2 h0H hU hW) kc_Service (wC3_where l γ X.2.1 _ _ _ _ eq12) iq12 nm_X3_where q1286 q505 q140 q507 q506 ⟨Nat.le_trans (Nat.le_of_ble_eq_true rfl) hR.1, Nat.le_trans (Nat.le_of_ble_eq_true rfl) hR.2⟩ hA.RR rfl rfl hl.1 (lv_room (Nat.le_of_ble_eq_true rfl)) dX1_sheet_53 ?_
        refine lv_goto (tgt := 83) hx hb dX1_sheet_56 (by decide) ?_
        have he := o_in hit
        exact hend (some (.int q12)) q2 _ _ _ _ _ _ _ _ (kOut_i rfl) (by subst he; rfl) hA dX1_sheet_83
    · refine lv_aload_n hx hb dX1_sheet_31 rfl (lv_at hl 0 rfl) ?_
      obtain ⟨v13, ev13, hit⟩ := o_bind hit
      refine c_getR X hA.1.1 kc_TwinInk 2 q278 (Or.inl rfl) rfl rfl ev13 dX1_sheet_32 ?_
      obtain ⟨v14, ev14, hit⟩ := o_bind hit
      refine c_getNR X hA.1.1 kc_Service 1 q249 (Or.inl rfl) rfl rfl ev14 dX1_sheet_35 ?_
      refine lv_iload_n hx hb dX1_sheet_38 rfl (lv_at hl 1 rfl) ?_
      obtain ⟨v15, ev15, hit⟩ := o_bind hit
      refine c_iald X hA.1.1 ev15 dX1_sheet_39 ?_
      refine lv_goto (tgt := 83) hx hb dX1_sheet_40 (by decide) ?_
      have he := o_in hit
      exact hend (some (.int v15)) q2 _ _ _ _ _ _ _ _ (kOut_i rfl) (by subst he; rfl) hA dX1_sheet_83
  · refine lv_aload_n hx hb dX1_sheet_14 rfl (lv_at hl 0 rfl) ?_
    obtain ⟨v16, ev16, hit⟩ := o_bind hit
    refine c_getR X hA.1.1 kc_TwinInk 2 q278 (Or.inl rfl) rfl rfl ev16 dX1_sheet_15 ?_
    obtain ⟨v17, ev17, hit⟩ := o_bind hit
    refine c_getNR X hA.1.1 kc_Service 0 q246 (Or.inl rfl) rfl rfl ev17 dX1_sheet_18 ?_
    refine lv_iload_n hx hb dX1_sheet_21 rfl (lv_at hl 1 rfl) ?_
    obtain ⟨v18, ev18, hit⟩ := o_bind hit
    refine c_iald X hA.1.1 ev18 dX1_sheet_22 ?_
    refine lv_goto (tgt := 83) hx hb dX1_sheet_23 (by decide) ?_
    have he := o_in hit
    exact hend (some (.int v18)) q2 _ _ _ _ _ _ _ _ (kOut_i rfl) (by subst he; rfl) hA dX1_sheet_83
noncomputable def C1_clerk (h : CH) (r : CR) (o : Nat) (a0 : Int32) (a1 : Int32) : Option ((Int32 × CS) ⊕ XT) :=
  xg Sum.inr (vc h o 1 (xchv r (C1_aClerk h r o a0))) fun q1 =>
  xg Sum.inr (xchv q1.2 (C1_oneOf q1.1 q1.2 a1 3)) fun q2 =>
  if a1 = 0 then
    ((gR q2.1 o 1 2).bind fun v17 =>
    (vc q2.1 v17 3 (C3_town q2.1 v17 a0)).bind fun q18 =>
    some (.inl (q18, q2)))
  else
    (if a1 = 1 then
      ((gR q2.1 o 1 2).bind fun v14 =>
      (gR q2.1 v14 3 3).bind fun v15 =>
      (aI q2.1 v15 0 a0).bind fun v16 =>
      some (.inl (v16, q2)))
    else
      (if a1 = 2 then
        ((gR q2.1 o 1 2).bind fun v12 =>
        (vc q2.1 v12 3 (C3_bornBy q2.1 v12 a0)).bind fun q13 =>
        some (.inl (q13, q2)))
      else
        ((gR q2.1 o 1 1).bind fun v6 =>
        (gR q2.1 v6 2 1).bind fun v7 =>
        (vc q2.1 v7 10 (CJ2_get q2.1 v7 a0)).bind fun q8 =>
        (ckC q2.1 q8 10).bind fun u10 =>
        (vc q2.1 q8 10 (CJ2_size q2.1 q8)).bind fun q11 =>
        some (.inl (q11, q2)))))
theorem nm_X1_clerk : kNm yX1_clerk RX1 2 := by unfold kNm; decide +kernel
set_option maxHeartbeats 4000000 in
set_option maxRecDepth 100000 in
theorem wC1_clerk (l : Launch) (hT : l.stackTraces = false) (γ : KG) (hO : kOK γ) (h : CH) (r : CR) (o : Nat) (a0 : Int32) (a1 : Int32) (z : (Int32 × CS) ⊕ XT) (hz : C1_clerk h r o a0 a1 = some z) : xMet l yX1_clerk (ws_ yX1_clerk cX1_clerk 3 (some .int)) 8 141 γ (h, r) [.ref o, .int a0, .int a1] (xI z) := by
  refine x_start (cc := cX1_clerk) (own := RX1) hO rfl rfl rfl (fun p e R s m args below meth c Q ls X hR hnm h0H hA hl hend hthr hdir => ?_)
  have hx := X.1.1
  have hb := X.1.2.1
  have hit := hz
  clear hz
  unfold C1_clerk at hit
  have hl : lv_has ls 3 [(0, .ref o), (1, .int a0), (2, .int a1)] := hl
  refine lv_aload_n hx hb dX1_clerk_0 rfl (lv_at hl 0 rfl) ?_
  refine lv_iload_n hx hb dX1_clerk_1 rfl (lv_at hl 1 rfl) ?_
  rcases xg_inv hit with ⟨q1, eq1, hit⟩ | ⟨x_q1, eq1, he⟩
  rotate_left
  · obtain ⟨iq1, eq1⟩ := vc_inv eq1
    obtain ⟨eq1, lq1⟩ := xchv_r eq1
    refine t_cV X h0H hA kc_TwinInk (xMet.tv (wC1_aClerk l hT γ X.2.1 _ _ _ _ _ eq1)) lq1 iq1 nm_X1_aClerk q1299 q1301 q135 q1302 qs37 ⟨Nat.le_trans (Nat.le_of_ble_eq_true rfl) hR.1, Nat.le_trans (Nat.le_of_ble_eq_true rfl) hR.2⟩ rfl rfl hl.1 (lv_room (Nat.le_of_ble_eq_true rfl)) dX1_clerk_2 (fun H locs cells slots q_ hA hq => ?_)
    exact hthr _ _ _ _ _ _ _ _ _ (by subst he; rfl) hA hq
  obtain ⟨iq1, eq1⟩ := vc_inv eq1
  obtain ⟨eq1, lq1⟩ := xchv_l eq1
  refine a_cV X h0H hA kc_TwinInk (xMet.v (wC1_aClerk l hT γ X.2.1 _ _ _ _ _ eq1)) lq1 iq1 nm_X1_aClerk q1299 q1301 q135 q1302 qs37 ⟨Nat.le_trans (Nat.le_of_ble_eq_true rfl) hR.1, Nat.le_trans (Nat.le_of_ble_eq_true rfl) hR.2⟩ rfl rfl hl.1 (lv_room (Nat.le_of_ble_eq_true rfl)) dX1_clerk_2 (fun H locs cells slots hA => ?_)
  refine lv_iload_n hx hb dX1_clerk_5 rfl (lv_at hl 2 rfl) ?_
  refine lv_iconst (v := 3) hx hb dX1_clerk_6 (by decide) ?_
  rcases xg_inv hit with ⟨q2, eq2, hit⟩ | ⟨x_q2, eq2, he⟩
  rotate_left
  · obtain ⟨eq2, lq2⟩ := xchv_r eq2
    refine t_cS X h0H hA nm_X1_oneOf q1283 q1284 q135 q1285 (xMet.tv (wC1_oneOf l hT γ X.2.1 _ _ _ _ _ eq2)) lq2 ⟨Nat.le_trans (Nat.le_of_ble_eq_true rfl) hR.1, Nat.le_trans (Nat.le_of_ble_eq_true rfl) hR.2⟩ rfl rfl hl.1 (lv_room (Nat.le_of_ble_eq_true rfl)) dX1_clerk_7 (fun H locs cells slots q_ hA hq => ?_)
    exact hthr _ _ _ _ _ _ _ _ _ (by subst he; rfl) hA hq
  obtain ⟨eq2, lq2⟩ := xchv_l eq2
  refine a_cS X h0H hA nm_X1_oneOf q1283 q1284 q135 q1285 (xMet.v (wC1_oneOf l hT γ X.2.1 _ _ _ _ _ eq2)) lq2 ⟨Nat.le_trans (Nat.le_of_ble_eq_true rfl) hR.1, Nat.le_trans (Nat.le_of_ble_eq_true rfl) hR.2⟩ rfl rfl hl.1 (lv_room (Nat.le_of_ble_eq_true rfl)) dX1_clerk_7 (fun H locs cells slots hA => ?_)
  refine lv_iload_n hx hb dX1_clerk_10 rfl (lv_at hl 2 rfl) ?_
  refine b_if_ne (tgt := 25) hx hb dX1_clerk_11 (by decide) hit (fun c3 hit => ?_) (fun c3 hit => ?_)
  · refine lv_iload_n hx hb dX1_clerk_25 rfl (lv_at hl 2 rfl) ?_
    refine lv_iconst (v := 1) hx hb dX1_clerk_26 (by decide) ?_
    refine b_icmp_ne (tgt := 42) hx hb dX1_clerk_27 (by decide) hit (fun c4 hit => ?_) (fun c4 hit => ?_)
    · refine lv_iload_n hx hb dX1_clerk_42 rfl (lv_at hl 2 rfl) ?_
      refine lv_iconst (v := 2) hx hb dX1_clerk_43 (by decide) ?_
      refine b_icmp_ne (tgt := 58) hx hb dX1_clerk_44 (by decide) hit (fun c5 hit => ?_) (fun c5 hit => ?_)
      · refine lv_aload_n hx hb dX1_clerk_58 rfl (lv_at hl 0 rfl) ?_
        obtain ⟨v6, ev6, hit⟩ := o_bind hit
        refine c_getR X hA.1.1 kc_TwinInk 1 q277 (Or.inl rfl) rfl rfl ev6 dX1_clerk_59 ?_
        obtain ⟨v7, ev7, hit⟩ := o_bind hit
        refine c_getNR X hA.1.1 kc_Office 1 q214 (Or.inl rfl) rfl rfl ev7 dX1_clerk_62 ?_
        refine lv_iload_n hx hb dX1_clerk_65 rfl (lv_at hl 1 rfl) ?_
        obtain ⟨q8, eq8, hit⟩ := o_bind hit
        obtain ⟨iq8, eq8⟩ := vc_inv eq8
        refine c_cRF X hA.1.1 (fun U hU hW => hA.D X.2.1 X.2.2 h0H hU hW) kc_ArrayList (wCJ2_get l γ X.2.1 _ _ _ _ eq8) iq8 nmi_List_get q643 q483 q139 q485 q481 q480 q479 q484 q482 q358 ⟨Nat.le_trans (Nat.le_of_ble_eq_true rfl) hR.1, Nat.le_trans (Nat.le_of_ble_eq_true rfl) hR.2⟩ hA.RR rfl rfl hl.1 (lv_room (Nat.le_of_ble_eq_true rfl)) dX1_clerk_66 ?_
        obtain ⟨u10, eu10, hit⟩ := o_bind hit
        refine c_castY X hA.1.1 kc_ArrayList q1308 q358 eu10 dX1_clerk_71 ?_
        obtain ⟨q11, eq11, hit⟩ := o_bind hit
        obtain ⟨iq11, eq11⟩ := vc_inv eq11
        refine c_cRF X hA.1.1 (fun U hU hW => hA.D X.2.1 X.2.2 h0H hU hW) kc_ArrayList (wCJ2_size l γ X.2.1 _ _  _ eq11) iq11 nmi_List_size q423 q428 q139 q430 q426 q425 q424 q429 q427 q358 ⟨Nat.le_trans (Nat.le_of_ble_eq_true rfl) hR.1, Nat.le_trans (Nat.le_of_ble_eq_true rfl) hR.2⟩ hA.RR rfl rfl hl.1 (lv_room (Nat.le_of_ble_eq_true rfl)) dX1_clerk_74 ?_
        have he := o_in hit
        exact hend (some (.int q11)) q2 _ _ _ _ _ _ _ _ (kOut_i rfl) (by subst he; rfl) hA dX1_clerk_79
      · refine lv_aload_n hx hb dX1_clerk_47 rfl (lv_at hl 0 rfl) ?_
        obtain ⟨v12, ev12, hit⟩ := o_bind hit
        refine c_getR X hA.1.1 kc_TwinInk 2 q278 (Or.inl rfl) rfl rfl ev12 dX1_clerk_48 ?_
        refine lv_iload_n hx hb dX1_clerk_51 rfl (lv_at hl 1 rfl) ?_
        obtain ⟨q13, eq13, hit⟩ := o_bind hit
        obtain ⟨iq13, eq13⟩ := vc_inv eq13
        refine c_cR X hA.1.1 (fun U hU hW => hA.D X.2.1 X.2.2 h0H hU hW) kc_Service (wC3_bornBy l γ X.2.1 _ _ _ _ eq13) iq13 nm_X3_bornBy q1304 q1305 q140 q1307 q1306 ⟨Nat.le_trans (Nat.le_of_ble_eq_true rfl) hR.1, Nat.le_trans (Nat.le_of_ble_eq_true rfl) hR.2⟩ hA.RR rfl rfl hl.1 (lv_room (Nat.le_of_ble_eq_true rfl)) dX1_clerk_52 ?_
        refine lv_goto (tgt := 79) hx hb dX1_clerk_55 (by decide) ?_
        have he := o_in hit
        exact hend (some (.int q13)) q2 _ _ _ _ _ _ _ _ (kOut_i rfl) (by subst he; rfl) hA dX1_clerk_79
    · refine lv_aload_n hx hb dX1_clerk_30 rfl (lv_at hl 0 rfl) ?_
      obtain ⟨v14, ev14, hit⟩ := o_bind hit
      refine c_getR X hA.1.1 kc_TwinInk 2 q278 (Or.inl rfl) rfl rfl ev14 dX1_clerk_31 ?_
      obtain ⟨v15, ev15, hit⟩ := o_bind hit
      refine c_getNR X hA.1.1 kc_Service 3 q255 (Or.inl rfl) rfl rfl ev15 dX1_clerk_34 ?_
      refine lv_iload_n hx hb dX1_clerk_37 rfl (lv_at hl 1 rfl) ?_
      obtain ⟨v16, ev16, hit⟩ := o_bind hit
      refine c_iald X hA.1.1 ev16 dX1_clerk_38 ?_
      refine lv_goto (tgt := 79) hx hb dX1_clerk_39 (by decide) ?_
      have he := o_in hit
      exact hend (some (.int v16)) q2 _ _ _ _ _ _ _ _ (kOut_i rfl) (by subst he; rfl) hA dX1_clerk_79
  · refine lv_aload_n hx hb dX1_clerk_14 rfl (lv_at hl 0 rfl) ?_
    obtain ⟨v17, ev17, hit⟩ := o_bind hit
    refine c_getR X hA.1.1 kc_TwinInk 2 q278 (Or.inl rfl) rfl rfl ev17 dX1_clerk_15 ?_
    refine lv_iload_n hx hb dX1_clerk_18 rfl (lv_at hl 1 rfl) ?_
    obtain ⟨q18, eq18, hit⟩ := o_bind hit
    obtain ⟨iq18, eq18⟩ := vc_inv eq18
    refine c_cR X hA.1.1 (fun U hU hW => hA.D X.2.1 X.2.2 h0H hU hW) kc_Service (wC3_town l γ X.2.1 _ _ _ _ eq18) iq18 nm_X3_town q1303 q470 q140 q472 q471 ⟨Nat.le_trans (Nat.le_of_ble_eq_true rfl) hR.1, Nat.le_trans (Nat.le_of_ble_eq_true rfl) hR.2⟩ hA.RR rfl rfl hl.1 (lv_room (Nat.le_of_ble_eq_true rfl)) dX1_clerk_19 ?_
    refine lv_goto (tgt := 79) hx hb dX1_clerk_22 (by decide) ?_
    have he := o_in hit
    exact hend (some (.int q18)) q2 _ _ _ _ _ _ _ _ (kOut_i rfl) (by subst he; rfl) hA dX1_clerk_79
noncomputable def C1_word (h : CH) (r : CR) (o : Nat) (a0 : Int32) (a1 : Int32) : Option ((Int32 × CS) ⊕ XT) :=
  xg Sum.inr (vc h o 1 (xchv r (C1_aWord h r o a0))) fun q1 =>
  xg Sum.inr (xchv q1.2 (C1_oneOf q1.1 q1.2 a1 3)) fun q2 =>
  if a1 < 2 then
    ((gR q2.1 o 1 1).bind fun v7 =>
    (gR q2.1 v7 2 0).bind fun v8 =>
    (vc q2.1 v8 10 (CJ2_get q2.1 v8 a0)).bind fun q9 =>
    (ckA q2.1 q9 0).bind fun u11 =>
    (aI q2.1 q9 0 a1).bind fun v12 =>
    some (.inl (v12, q2)))
  else
    (if a1 = 2 then
      ((vc q2.1 o 1 (C1_showsAt q2.1 o a0)).bind fun q6 =>
      some (.inl (q6, q2)))
    else
      ((vc q2.1 o 1 (C1_knowers q2.1 o a0)).bind fun q5 =>
      some (.inl (q5, q2))))
theorem nm_X1_word : kNm yX1_word RX1 2 := by unfold kNm; decide +kernel
set_option maxHeartbeats 4000000 in
set_option maxRecDepth 100000 in
theorem wC1_word (l : Launch) (hT : l.stackTraces = false) (γ : KG) (hO : kOK γ) (h : CH) (r : CR) (o : Nat) (a0 : Int32) (a1 : Int32) (z : (Int32 × CS) ⊕ XT) (hz : C1_word h r o a0 a1 = some z) : xMet l yX1_word (ws_ yX1_word cX1_word 3 (some .int)) 9 194 γ (h, r) [.ref o, .int a0, .int a1] (xI z) := by
  refine x_start (cc := cX1_word) (own := RX1) hO rfl rfl rfl (fun p e R s m args below meth c Q ls X hR hnm h0H hA hl hend hthr hdir => ?_)
  have hx := X.1.1
  have hb := X.1.2.1
  have hit := hz
  clear hz
  unfold C1_word at hit
  have hl : lv_has ls 3 [(0, .ref o), (1, .int a0), (2, .int a1)] := hl
  refine lv_aload_n hx hb dX1_word_0 rfl (lv_at hl 0 rfl) ?_
  refine lv_iload_n hx hb dX1_word_1 rfl (lv_at hl 1 rfl) ?_
  rcases xg_inv hit with ⟨q1, eq1, hit⟩ | ⟨x_q1, eq1, he⟩
  rotate_left
  · obtain ⟨iq1, eq1⟩ := vc_inv eq1
    obtain ⟨eq1, lq1⟩ := xchv_r eq1
    refine t_cV X h0H hA kc_TwinInk (xMet.tv (wC1_aWord l hT γ X.2.1 _ _ _ _ _ eq1)) lq1 iq1 nm_X1_aWord q1316 q1318 q135 q1319 qs38 ⟨Nat.le_trans (Nat.le_of_ble_eq_true rfl) hR.1, Nat.le_trans (Nat.le_of_ble_eq_true rfl) hR.2⟩ rfl rfl hl.1 (lv_room (Nat.le_of_ble_eq_true rfl)) dX1_word_2 (fun H locs cells slots q_ hA hq => ?_)
    exact hthr _ _ _ _ _ _ _ _ _ (by subst he; rfl) hA hq
  obtain ⟨iq1, eq1⟩ := vc_inv eq1
  obtain ⟨eq1, lq1⟩ := xchv_l eq1
  refine a_cV X h0H hA kc_TwinInk (xMet.v (wC1_aWord l hT γ X.2.1 _ _ _ _ _ eq1)) lq1 iq1 nm_X1_aWord q1316 q1318 q135 q1319 qs38 ⟨Nat.le_trans (Nat.le_of_ble_eq_true rfl) hR.1, Nat.le_trans (Nat.le_of_ble_eq_true rfl) hR.2⟩ rfl rfl hl.1 (lv_room (Nat.le_of_ble_eq_true rfl)) dX1_word_2 (fun H locs cells slots hA => ?_)
  refine lv_iload_n hx hb dX1_word_5 rfl (lv_at hl 2 rfl) ?_
  refine lv_iconst (v := 3) hx hb dX1_word_6 (by decide) ?_
  rcases xg_inv hit with ⟨q2, eq2, hit⟩ | ⟨x_q2, eq2, he⟩
  rotate_left
  · obtain ⟨eq2, lq2⟩ := xchv_r eq2
    refine t_cS X h0H hA nm_X1_oneOf q1283 q1284 q135 q1285 (xMet.tv (wC1_oneOf l hT γ X.2.1 _ _ _ _ _ eq2)) lq2 ⟨Nat.le_trans (Nat.le_of_ble_eq_true rfl) hR.1, Nat.le_trans (Nat.le_of_ble_eq_true rfl) hR.2⟩ rfl rfl hl.1 (lv_room (Nat.le_of_ble_eq_true rfl)) dX1_word_7 (fun H locs cells slots q_ hA hq => ?_)
    exact hthr _ _ _ _ _ _ _ _ _ (by subst he; rfl) hA hq
  obtain ⟨eq2, lq2⟩ := xchv_l eq2
  refine a_cS X h0H hA nm_X1_oneOf q1283 q1284 q135 q1285 (xMet.v (wC1_oneOf l hT γ X.2.1 _ _ _ _ _ eq2)) lq2 ⟨Nat.le_trans (Nat.le_of_ble_eq_true rfl) hR.1, Nat.le_trans (Nat.le_of_ble_eq_true rfl) hR.2⟩ rfl rfl hl.1 (lv_room (Nat.le_of_ble_eq_true rfl)) dX1_word_7 (fun H locs cells slots hA => ?_)
  refine lv_iload_n hx hb dX1_word_10 rfl (lv_at hl 2 rfl) ?_
  refine lv_iconst (v := 2) hx hb dX1_word_11 (by decide) ?_
  refine b_icmp_ge (tgt := 36) hx hb dX1_word_12 (by decide) hit (fun c3 hit => ?_) (fun c3 hit => ?_)
  · refine lv_iload_n hx hb dX1_word_36 rfl (lv_at hl 2 rfl) ?_
    refine lv_iconst (v := 2) hx hb dX1_word_37 (by decide) ?_
    refine b_icmp_ne (tgt := 49) hx hb dX1_word_38 (by decide) hit (fun c4 hit => ?_) (fun c4 hit => ?_)
    · refine lv_aload_n hx hb dX1_word_49 rfl (lv_at hl 0 rfl) ?_
      refine lv_iload_n hx hb dX1_word_50 rfl (lv_at hl 1 rfl) ?_
      obtain ⟨q5, eq5, hit⟩ := o_bind hit
      obtain ⟨iq5, eq5⟩ := vc_inv eq5
      refine c_cR X hA.1.1 (fun U hU hW => hA.D X.2.1 X.2.2 h0H hU hW) kc_TwinInk (wC1_knowers l γ X.2.1 _ _ _ _ eq5) iq5 nm_X1_knowers q1325 q1327 q135 q1328 qs40 ⟨Nat.le_trans (Nat.le_of_ble_eq_true rfl) hR.1, Nat.le_trans (Nat.le_of_ble_eq_true rfl) hR.2⟩ hA.RR rfl rfl hl.1 (lv_room (Nat.le_of_ble_eq_true rfl)) dX1_word_51 ?_
      have he := o_in hit
      exact hend (some (.int q5)) q2 _ _ _ _ _ _ _ _ (kOut_i rfl) (by subst he; rfl) hA dX1_word_54
    · refine lv_aload_n hx hb dX1_word_41 rfl (lv_at hl 0 rfl) ?_
      refine lv_iload_n hx hb dX1_word_42 rfl (lv_at hl 1 rfl) ?_
      obtain ⟨q6, eq6, hit⟩ := o_bind hit
      obtain ⟨iq6, eq6⟩ := vc_inv eq6
      refine c_cR X hA.1.1 (fun U hU hW => hA.D X.2.1 X.2.2 h0H hU hW) kc_TwinInk (wC1_showsAt l γ X.2.1 _ _ _ _ eq6) iq6 nm_X1_showsAt q1320 q1322 q135 q1323 qs39 ⟨Nat.le_trans (Nat.le_of_ble_eq_true rfl) hR.1, Nat.le_trans (Nat.le_of_ble_eq_true rfl) hR.2⟩ hA.RR rfl rfl hl.1 (lv_room (Nat.le_of_ble_eq_true rfl)) dX1_word_43 ?_
      refine lv_goto (tgt := 54) hx hb dX1_word_46 (by decide) ?_
      have he := o_in hit
      exact hend (some (.int q6)) q2 _ _ _ _ _ _ _ _ (kOut_i rfl) (by subst he; rfl) hA dX1_word_54
  · refine lv_aload_n hx hb dX1_word_15 rfl (lv_at hl 0 rfl) ?_
    obtain ⟨v7, ev7, hit⟩ := o_bind hit
    refine c_getR X hA.1.1 kc_TwinInk 1 q277 (Or.inl rfl) rfl rfl ev7 dX1_word_16 ?_
    obtain ⟨v8, ev8, hit⟩ := o_bind hit
    refine c_getNR X hA.1.1 kc_Office 0 q210 (Or.inl rfl) rfl rfl ev8 dX1_word_19 ?_
    refine lv_iload_n hx hb dX1_word_22 rfl (lv_at hl 1 rfl) ?_
    obtain ⟨q9, eq9, hit⟩ := o_bind hit
    obtain ⟨iq9, eq9⟩ := vc_inv eq9
    refine c_cRF X hA.1.1 (fun U hU hW => hA.D X.2.1 X.2.2 h0H hU hW) kc_ArrayList (wCJ2_get l γ X.2.1 _ _ _ _ eq9) iq9 nmi_List_get q643 q483 q139 q485 q481 q480 q479 q484 q482 q358 ⟨Nat.le_trans (Nat.le_of_ble_eq_true rfl) hR.1, Nat.le_trans (Nat.le_of_ble_eq_true rfl) hR.2⟩ hA.RR rfl rfl hl.1 (lv_room (Nat.le_of_ble_eq_true rfl)) dX1_word_23 ?_
    obtain ⟨u11, eu11, hit⟩ := o_bind hit
    refine c_castA X hA.1.1 0 (fun _ => rfl) q644 (fun h => h) eu11 dX1_word_28 ?_
    refine lv_iload_n hx hb dX1_word_31 rfl (lv_at hl 2 rfl) ?_
    obtain ⟨v12, ev12, hit⟩ := o_bind hit
    refine c_iald X hA.1.1 ev12 dX1_word_32 ?_
    refine lv_goto (tgt := 54) hx hb dX1_word_33 (by decide) ?_
    have he := o_in hit
    exact hend (some (.int v12)) q2 _ _ _ _ _ _ _ _ (kOut_i rfl) (by subst he; rfl) hA dX1_word_54
noncomputable def C1_town (h : CH) (r : CR) (o : Nat) (a0 : Int32) (a1 : Int32) : Option ((Int32 × CS) ⊕ XT) :=
  xg Sum.inr (xchv r (C1_aTown h r a0)) fun q1 =>
  xg Sum.inr (xchv q1.2 (C1_oneOf q1.1 q1.2 a1 4)) fun q2 =>
  if a1 = 0 then
    ((gR q2.1 o 1 2).bind fun v16 =>
    (vc q2.1 v16 3 (C3_archive q2.1 v16 a0)).bind fun q17 =>
    some (.inl (q17, q2)))
  else
    (if a1 = 1 then
      ((gR q2.1 o 1 2).bind fun v14 =>
      (vc q2.1 v14 3 (C3_sheetsIn q2.1 v14 a0)).bind fun q15 =>
      some (.inl (q15, q2)))
    else
      (if a1 = 2 then
        ((gR q2.1 o 1 2).bind fun v12 =>
        (vc q2.1 v12 3 (C3_clerksIn q2.1 v12 a0)).bind fun q13 =>
        some (.inl (q13, q2)))
      else
        (if a1 = 3 then
          ((gR q2.1 o 1 2).bind fun v10 =>
          (vc q2.1 v10 3 (C3_shows q2.1 v10 a0)).bind fun q11 =>
          some (.inl (q11, q2)))
        else
          ((gR q2.1 o 1 2).bind fun v7 =>
          (vc q2.1 v7 3 (C3_archive q2.1 v7 a0)).bind fun q8 =>
          (vc q2.1 o 1 (C1_lost q2.1 o q8)).bind fun q9 =>
          some (.inl (q9, q2))))))
theorem nm_X1_town : kNm yX1_town RX1 2 := by unfold kNm; decide +kernel
set_option maxHeartbeats 4000000 in
set_option maxRecDepth 100000 in
theorem wC1_town (l : Launch) (hT : l.stackTraces = false) (γ : KG) (hO : kOK γ) (h : CH) (r : CR) (o : Nat) (a0 : Int32) (a1 : Int32) (z : (Int32 × CS) ⊕ XT) (hz : C1_town h r o a0 a1 = some z) : xMet l yX1_town (ws_ yX1_town cX1_town 3 (some .int)) 8 172 γ (h, r) [.ref o, .int a0, .int a1] (xI z) := by
  refine x_start (cc := cX1_town) (own := RX1) hO rfl rfl rfl (fun p e R s m args below meth c Q ls X hR hnm h0H hA hl hend hthr hdir => ?_)
  have hx := X.1.1
  have hb := X.1.2.1
  have hit := hz
  clear hz
  unfold C1_town at hit
  have hl : lv_has ls 3 [(0, .ref o), (1, .int a0), (2, .int a1)] := hl
  refine lv_iload_n hx hb dX1_town_0 rfl (lv_at hl 1 rfl) ?_
  rcases xg_inv hit with ⟨q1, eq1, hit⟩ | ⟨x_q1, eq1, he⟩
  rotate_left
  · obtain ⟨eq1, lq1⟩ := xchv_r eq1
    refine t_cS X h0H hA nm_X1_aTown q1336 q1337 q135 q1338 (xMet.tv (wC1_aTown l hT γ X.2.1 _ _ _ _ eq1)) lq1 ⟨Nat.le_trans (Nat.le_of_ble_eq_true rfl) hR.1, Nat.le_trans (Nat.le_of_ble_eq_true rfl) hR.2⟩ rfl rfl hl.1 (lv_room (Nat.le_of_ble_eq_true rfl)) dX1_town_1 (fun H locs cells slots q_ hA hq => ?_)
    exact hthr _ _ _ _ _ _ _ _ _ (by subst he; rfl) hA hq
  obtain ⟨eq1, lq1⟩ := xchv_l eq1
  refine a_cS X h0H hA nm_X1_aTown q1336 q1337 q135 q1338 (xMet.v (wC1_aTown l hT γ X.2.1 _ _ _ _ eq1)) lq1 ⟨Nat.le_trans (Nat.le_of_ble_eq_true rfl) hR.1, Nat.le_trans (Nat.le_of_ble_eq_true rfl) hR.2⟩ rfl rfl hl.1 (lv_room (Nat.le_of_ble_eq_true rfl)) dX1_town_1 (fun H locs cells slots hA => ?_)
  refine lv_iload_n hx hb dX1_town_4 rfl (lv_at hl 2 rfl) ?_
  refine lv_iconst (v := 4) hx hb dX1_town_5 (by decide) ?_
  rcases xg_inv hit with ⟨q2, eq2, hit⟩ | ⟨x_q2, eq2, he⟩
  rotate_left
  · obtain ⟨eq2, lq2⟩ := xchv_r eq2
    refine t_cS X h0H hA nm_X1_oneOf q1283 q1284 q135 q1285 (xMet.tv (wC1_oneOf l hT γ X.2.1 _ _ _ _ _ eq2)) lq2 ⟨Nat.le_trans (Nat.le_of_ble_eq_true rfl) hR.1, Nat.le_trans (Nat.le_of_ble_eq_true rfl) hR.2⟩ rfl rfl hl.1 (lv_room (Nat.le_of_ble_eq_true rfl)) dX1_town_6 (fun H locs cells slots q_ hA hq => ?_)
    exact hthr _ _ _ _ _ _ _ _ _ (by subst he; rfl) hA hq
  obtain ⟨eq2, lq2⟩ := xchv_l eq2
  refine a_cS X h0H hA nm_X1_oneOf q1283 q1284 q135 q1285 (xMet.v (wC1_oneOf l hT γ X.2.1 _ _ _ _ _ eq2)) lq2 ⟨Nat.le_trans (Nat.le_of_ble_eq_true rfl) hR.1, Nat.le_trans (Nat.le_of_ble_eq_true rfl) hR.2⟩ rfl rfl hl.1 (lv_room (Nat.le_of_ble_eq_true rfl)) dX1_town_6 (fun H locs cells slots hA => ?_)
  refine lv_iload_n hx hb dX1_town_9 rfl (lv_at hl 2 rfl) ?_
  refine b_if_ne (tgt := 24) hx hb dX1_town_10 (by decide) hit (fun c3 hit => ?_) (fun c3 hit => ?_)
  · refine lv_iload_n hx hb dX1_town_24 rfl (lv_at hl 2 rfl) ?_
    refine lv_iconst (v := 1) hx hb dX1_town_25 (by decide) ?_
    refine b_icmp_ne (tgt := 40) hx hb dX1_town_26 (by decide) hit (fun c4 hit => ?_) (fun c4 hit => ?_)
    · refine lv_iload_n hx hb dX1_town_40 rfl (lv_at hl 2 rfl) ?_
      refine lv_iconst (v := 2) hx hb dX1_town_41 (by decide) ?_
      refine b_icmp_ne (tgt := 56) hx hb dX1_town_42 (by decide) hit (fun c5 hit => ?_) (fun c5 hit => ?_)
      · refine lv_iload_n hx hb dX1_town_56 rfl (lv_at hl 2 rfl) ?_
        refine lv_iconst (v := 3) hx hb dX1_town_57 (by decide) ?_
        refine b_icmp_ne (tgt := 72) hx hb dX1_town_58 (by decide) hit (fun c6 hit => ?_) (fun c6 hit => ?_)
        · refine lv_aload_n hx hb dX1_town_72 rfl (lv_at hl 0 rfl) ?_
          refine lv_aload_n hx hb dX1_town_73 rfl (lv_at hl 0 rfl) ?_
          obtain ⟨v7, ev7, hit⟩ := o_bind hit
          refine c_getR X hA.1.1 kc_TwinInk 2 q278 (Or.inl rfl) rfl rfl ev7 dX1_town_74 ?_
          refine lv_iload_n hx hb dX1_town_77 rfl (lv_at hl 1 rfl) ?_
          obtain ⟨q8, eq8, hit⟩ := o_bind hit
          obtain ⟨iq8, eq8⟩ := vc_inv eq8
          refine c_cR X hA.1.1 (fun U hU hW => hA.D X.2.1 X.2.2 h0H hU hW) kc_Service (wC3_archive l γ X.2.1 _ _ _ _ eq8) iq8 nm_X3_archive q1339 q1340 q140 q1342 q1341 ⟨Nat.le_trans (Nat.le_of_ble_eq_true rfl) hR.1, Nat.le_trans (Nat.le_of_ble_eq_true rfl) hR.2⟩ hA.RR rfl rfl hl.1 (lv_room (Nat.le_of_ble_eq_true rfl)) dX1_town_78 ?_
          obtain ⟨q9, eq9, hit⟩ := o_bind hit
          obtain ⟨iq9, eq9⟩ := vc_inv eq9
          refine c_cR X hA.1.1 (fun U hU hW => hA.D X.2.1 X.2.2 h0H hU hW) kc_TwinInk (wC1_lost l γ X.2.1 _ _ _ _ eq9) iq9 nm_X1_lost q1345 q1347 q135 q1348 qs41 ⟨Nat.le_trans (Nat.le_of_ble_eq_true rfl) hR.1, Nat.le_trans (Nat.le_of_ble_eq_true rfl) hR.2⟩ hA.RR rfl rfl hl.1 (lv_room (Nat.le_of_ble_eq_true rfl)) dX1_town_81 ?_
          have he := o_in hit
          exact hend (some (.int q9)) q2 _ _ _ _ _ _ _ _ (kOut_i rfl) (by subst he; rfl) hA dX1_town_84
        · refine lv_aload_n hx hb dX1_town_61 rfl (lv_at hl 0 rfl) ?_
          obtain ⟨v10, ev10, hit⟩ := o_bind hit
          refine c_getR X hA.1.1 kc_TwinInk 2 q278 (Or.inl rfl) rfl rfl ev10 dX1_town_62 ?_
          refine lv_iload_n hx hb dX1_town_65 rfl (lv_at hl 1 rfl) ?_
          obtain ⟨q11, eq11, hit⟩ := o_bind hit
          obtain ⟨iq11, eq11⟩ := vc_inv eq11
          refine c_cR X hA.1.1 (fun U hU hW => hA.D X.2.1 X.2.2 h0H hU hW) kc_Service (wC3_shows l γ X.2.1 _ _ _ _ eq11) iq11 nm_X3_shows q1324 q589 q140 q591 q590 ⟨Nat.le_trans (Nat.le_of_ble_eq_true rfl) hR.1, Nat.le_trans (Nat.le_of_ble_eq_true rfl) hR.2⟩ hA.RR rfl rfl hl.1 (lv_room (Nat.le_of_ble_eq_true rfl)) dX1_town_66 ?_
          refine lv_goto (tgt := 84) hx hb dX1_town_69 (by decide) ?_
          have he := o_in hit
          exact hend (some (.int q11)) q2 _ _ _ _ _ _ _ _ (kOut_i rfl) (by subst he; rfl) hA dX1_town_84
      · refine lv_aload_n hx hb dX1_town_45 rfl (lv_at hl 0 rfl) ?_
        obtain ⟨v12, ev12, hit⟩ := o_bind hit
        refine c_getR X hA.1.1 kc_TwinInk 2 q278 (Or.inl rfl) rfl rfl ev12 dX1_town_46 ?_
        refine lv_iload_n hx hb dX1_town_49 rfl (lv_at hl 1 rfl) ?_
        obtain ⟨q13, eq13, hit⟩ := o_bind hit
        obtain ⟨iq13, eq13⟩ := vc_inv eq13
        refine c_cR X hA.1.1 (fun U hU hW => hA.D X.2.1 X.2.2 h0H hU hW) kc_Service (wC3_clerksIn l γ X.2.1 _ _ _ _ eq13) iq13 nm_X3_clerksIn q1344 q460 q140 q462 q461 ⟨Nat.le_trans (Nat.le_of_ble_eq_true rfl) hR.1, Nat.le_trans (Nat.le_of_ble_eq_true rfl) hR.2⟩ hA.RR rfl rfl hl.1 (lv_room (Nat.le_of_ble_eq_true rfl)) dX1_town_50 ?_
        refine lv_goto (tgt := 84) hx hb dX1_town_53 (by decide) ?_
        have he := o_in hit
        exact hend (some (.int q13)) q2 _ _ _ _ _ _ _ _ (kOut_i rfl) (by subst he; rfl) hA dX1_town_84
    · refine lv_aload_n hx hb dX1_town_29 rfl (lv_at hl 0 rfl) ?_
      obtain ⟨v14, ev14, hit⟩ := o_bind hit
      refine c_getR X hA.1.1 kc_TwinInk 2 q278 (Or.inl rfl) rfl rfl ev14 dX1_town_30 ?_
      refine lv_iload_n hx hb dX1_town_33 rfl (lv_at hl 1 rfl) ?_
      obtain ⟨q15, eq15, hit⟩ := o_bind hit
      obtain ⟨iq15, eq15⟩ := vc_inv eq15
      refine c_cR X hA.1.1 (fun U hU hW => hA.D X.2.1 X.2.2 h0H hU hW) kc_Service (wC3_sheetsIn l γ X.2.1 _ _ _ _ eq15) iq15 nm_X3_sheetsIn q1343 q501 q140 q503 q502 ⟨Nat.le_trans (Nat.le_of_ble_eq_true rfl) hR.1, Nat.le_trans (Nat.le_of_ble_eq_true rfl) hR.2⟩ hA.RR rfl rfl hl.1 (lv_room (Nat.le_of_ble_eq_true rfl)) dX1_town_34 ?_
      refine lv_goto (tgt := 84) hx hb dX1_town_37 (by decide) ?_
      have he := o_in hit
      exact hend (some (.int q15)) q2 _ _ _ _ _ _ _ _ (kOut_i rfl) (by subst he; rfl) hA dX1_town_84
  · refine lv_aload_n hx hb dX1_town_13 rfl (lv_at hl 0 rfl) ?_
    obtain ⟨v16, ev16, hit⟩ := o_bind hit
    refine c_getR X hA.1.1 kc_TwinInk 2 q278 (Or.inl rfl) rfl rfl ev16 dX1_town_14 ?_
    refine lv_iload_n hx hb dX1_town_17 rfl (lv_at hl 1 rfl) ?_
    obtain ⟨q17, eq17, hit⟩ := o_bind hit
    obtain ⟨iq17, eq17⟩ := vc_inv eq17
    refine c_cR X hA.1.1 (fun U hU hW => hA.D X.2.1 X.2.2 h0H hU hW) kc_Service (wC3_archive l γ X.2.1 _ _ _ _ eq17) iq17 nm_X3_archive q1339 q1340 q140 q1342 q1341 ⟨Nat.le_trans (Nat.le_of_ble_eq_true rfl) hR.1, Nat.le_trans (Nat.le_of_ble_eq_true rfl) hR.2⟩ hA.RR rfl rfl hl.1 (lv_room (Nat.le_of_ble_eq_true rfl)) dX1_town_18 ?_
    refine lv_goto (tgt := 84) hx hb dX1_town_21 (by decide) ?_
    have he := o_in hit
    exact hend (some (.int q17)) q2 _ _ _ _ _ _ _ _ (kOut_i rfl) (by subst he; rfl) hA dX1_town_84
noncomputable def C1_take (K : Nat → Nat) (h : CH) (r : CR) (o : Nat) (a0 : Int32) (a1 : Int32) : Option ((Int32 × CS) ⊕ XT) :=
  xg Sum.inr (vc h o 1 (xchv r (C1_aClerk h r o a0))) fun q1 =>
  xg Sum.inr (vc q1.1 o 1 (xchv q1.2 (C1_aSheet q1.1 q1.2 o a1))) fun q2 =>
  (gR q2.1 o 1 2).bind fun v3 =>
  (gR q2.1 v3 3 2).bind fun v4 =>
  (aI q2.1 v4 0 a1).bind fun v5 =>
  (gR q2.1 o 1 2).bind fun v6 =>
  (vc q2.1 v6 3 (C3_town q2.1 v6 a0)).bind fun q7 =>
  if v5 = q7 then
    ((vc q2.1 o 1 (achv q2.2 (C1_keep K q2.1 q2.2 o))).bind fun q9 =>
    (gR q9.1 o 1 2).bind fun v10 =>
    (vc q9.1 v10 3 (C3_take q9.1 v10 a0 a1)).bind fun q11 =>
    some (.inl (1, (q11, q9.2))))
  else
    ((gR q2.1 o 1 7).bind fun v12 =>
    (aI q2.1 v12 0 1).bind fun v13 =>
    (sI q2.1 v12 0 1 (v13 + 1)).bind fun s14 =>
    some (.inl (0, (s14, q2.2))))
theorem nm_X1_take : kNm yX1_take RX1 2 := by unfold kNm; decide +kernel
set_option maxHeartbeats 4000000 in
set_option maxRecDepth 100000 in
theorem wC1_take (l : Launch) (hT : l.stackTraces = false) (γ : KG) (hO : kOK γ) (h : CH) (r : CR) (o : Nat) (a0 : Int32) (a1 : Int32) (z : (Int32 × CS) ⊕ XT) (hz : C1_take γ.2.2.2.2.2 h r o a0 a1 = some z) : xMet l yX1_take (ws_ yX1_take cX1_take 3 (some .boolean)) 8 191 γ (h, r) [.ref o, .int a0, .int a1] (xI z) := by
  refine x_start (cc := cX1_take) (own := RX1) hO rfl rfl rfl (fun p e R s m args below meth c Q ls X hR hnm h0H hA hl hend hthr hdir => ?_)
  have hx := X.1.1
  have hb := X.1.2.1
  have hit := hz
  clear hz
  unfold C1_take at hit
  have hl : lv_has ls 3 [(0, .ref o), (1, .int a0), (2, .int a1)] := hl
  refine lv_aload_n hx hb dX1_take_0 rfl (lv_at hl 0 rfl) ?_
  refine lv_iload_n hx hb dX1_take_1 rfl (lv_at hl 1 rfl) ?_
  rcases xg_inv hit with ⟨q1, eq1, hit⟩ | ⟨x_q1, eq1, he⟩
  rotate_left
  · obtain ⟨iq1, eq1⟩ := vc_inv eq1
    obtain ⟨eq1, lq1⟩ := xchv_r eq1
    refine t_cV X h0H hA kc_TwinInk (xMet.tv (wC1_aClerk l hT γ X.2.1 _ _ _ _ _ eq1)) lq1 iq1 nm_X1_aClerk q1299 q1301 q135 q1302 qs37 ⟨Nat.le_trans (Nat.le_of_ble_eq_true rfl) hR.1, Nat.le_trans (Nat.le_of_ble_eq_true rfl) hR.2⟩ rfl rfl hl.1 (lv_room (Nat.le_of_ble_eq_true rfl)) dX1_take_2 (fun H locs cells slots q_ hA hq => ?_)
    exact hthr _ _ _ _ _ _ _ _ _ (by subst he; rfl) hA hq
  obtain ⟨iq1, eq1⟩ := vc_inv eq1
  obtain ⟨eq1, lq1⟩ := xchv_l eq1
  refine a_cV X h0H hA kc_TwinInk (xMet.v (wC1_aClerk l hT γ X.2.1 _ _ _ _ _ eq1)) lq1 iq1 nm_X1_aClerk q1299 q1301 q135 q1302 qs37 ⟨Nat.le_trans (Nat.le_of_ble_eq_true rfl) hR.1, Nat.le_trans (Nat.le_of_ble_eq_true rfl) hR.2⟩ rfl rfl hl.1 (lv_room (Nat.le_of_ble_eq_true rfl)) dX1_take_2 (fun H locs cells slots hA => ?_)
  refine lv_aload_n hx hb dX1_take_5 rfl (lv_at hl 0 rfl) ?_
  refine lv_iload_n hx hb dX1_take_6 rfl (lv_at hl 2 rfl) ?_
  rcases xg_inv hit with ⟨q2, eq2, hit⟩ | ⟨x_q2, eq2, he⟩
  rotate_left
  · obtain ⟨iq2, eq2⟩ := vc_inv eq2
    obtain ⟨eq2, lq2⟩ := xchv_r eq2
    refine t_cV X h0H hA kc_TwinInk (xMet.tv (wC1_aSheet l hT γ X.2.1 _ _ _ _ _ eq2)) lq2 iq2 nm_X1_aSheet q1279 q1281 q135 q1282 qs36 ⟨Nat.le_trans (Nat.le_of_ble_eq_true rfl) hR.1, Nat.le_trans (Nat.le_of_ble_eq_true rfl) hR.2⟩ rfl rfl hl.1 (lv_room (Nat.le_of_ble_eq_true rfl)) dX1_take_7 (fun H locs cells slots q_ hA hq => ?_)
    exact hthr _ _ _ _ _ _ _ _ _ (by subst he; rfl) hA hq
  obtain ⟨iq2, eq2⟩ := vc_inv eq2
  obtain ⟨eq2, lq2⟩ := xchv_l eq2
  refine a_cV X h0H hA kc_TwinInk (xMet.v (wC1_aSheet l hT γ X.2.1 _ _ _ _ _ eq2)) lq2 iq2 nm_X1_aSheet q1279 q1281 q135 q1282 qs36 ⟨Nat.le_trans (Nat.le_of_ble_eq_true rfl) hR.1, Nat.le_trans (Nat.le_of_ble_eq_true rfl) hR.2⟩ rfl rfl hl.1 (lv_room (Nat.le_of_ble_eq_true rfl)) dX1_take_7 (fun H locs cells slots hA => ?_)
  refine lv_aload_n hx hb dX1_take_10 rfl (lv_at hl 0 rfl) ?_
  obtain ⟨v3, ev3, hit⟩ := o_bind hit
  refine c_getR X hA.1.1 kc_TwinInk 2 q278 (Or.inl rfl) rfl rfl ev3 dX1_take_11 ?_
  obtain ⟨v4, ev4, hit⟩ := o_bind hit
  refine c_getNR X hA.1.1 kc_Service 2 q253 (Or.inl rfl) rfl rfl ev4 dX1_take_14 ?_
  refine lv_iload_n hx hb dX1_take_17 rfl (lv_at hl 2 rfl) ?_
  obtain ⟨v5, ev5, hit⟩ := o_bind hit
  refine c_iald X hA.1.1 ev5 dX1_take_18 ?_
  refine lv_aload_n hx hb dX1_take_19 rfl (lv_at hl 0 rfl) ?_
  obtain ⟨v6, ev6, hit⟩ := o_bind hit
  refine c_getR X hA.1.1 kc_TwinInk 2 q278 (Or.inl rfl) rfl rfl ev6 dX1_take_20 ?_
  refine lv_iload_n hx hb dX1_take_23 rfl (lv_at hl 1 rfl) ?_
  obtain ⟨q7, eq7, hit⟩ := o_bind hit
  obtain ⟨iq7, eq7⟩ := vc_inv eq7
  refine c_cR X hA.1.1 (fun U hU hW => hA.D X.2.1 X.2.2 h0H hU hW) kc_Service (wC3_town l γ X.2.1 _ _ _ _ eq7) iq7 nm_X3_town q1303 q470 q140 q472 q471 ⟨Nat.le_trans (Nat.le_of_ble_eq_true rfl) hR.1, Nat.le_trans (Nat.le_of_ble_eq_true rfl) hR.2⟩ hA.RR rfl rfl hl.1 (lv_room (Nat.le_of_ble_eq_true rfl)) dX1_take_24 ?_
  refine b_icmp_eq (tgt := 42) hx hb dX1_take_27 (by decide) hit (fun c8 hit => ?_) (fun c8 hit => ?_)
  · refine lv_aload_n hx hb dX1_take_42 rfl (lv_at hl 0 rfl) ?_
    obtain ⟨q9, eq9, hit⟩ := o_bind hit
    obtain ⟨iq9, eq9⟩ := vc_inv eq9
    obtain ⟨eq9, lq9⟩ := achv_inv eq9
    refine a_cV X h0H hA kc_TwinInk (wC1_keep l γ X.2.1 _ _ _  _ eq9) lq9 iq9 nm_X1_keep q340 q342 q135 q343 qs1 ⟨Nat.le_trans (Nat.le_of_ble_eq_true rfl) hR.1, Nat.le_trans (Nat.le_of_ble_eq_true rfl) hR.2⟩ rfl rfl hl.1 (lv_room (Nat.le_of_ble_eq_true rfl)) dX1_take_43 (fun H locs cells slots hA => ?_)
    refine lv_aload_n hx hb dX1_take_46 rfl (lv_at hl 0 rfl) ?_
    obtain ⟨v10, ev10, hit⟩ := o_bind hit
    refine c_getR X hA.1.1 kc_TwinInk 2 q278 (Or.inl rfl) rfl rfl ev10 dX1_take_47 ?_
    refine lv_iload_n hx hb dX1_take_50 rfl (lv_at hl 1 rfl) ?_
    refine lv_iload_n hx hb dX1_take_51 rfl (lv_at hl 2 rfl) ?_
    obtain ⟨q11, eq11, hit⟩ := o_bind hit
    obtain ⟨iq11, eq11⟩ := vc_inv eq11
    refine c_cN X (kA_F X.2.1 X.2.2 h0H) hA.1 kc_Service (wC3_take l γ X.2.1 _ _ _ _ _ eq11) iq11 nm_X3_take q1364 q1365 q140 q1367 q1366 ⟨Nat.le_trans (Nat.le_of_ble_eq_true rfl) hR.1, Nat.le_trans (Nat.le_of_ble_eq_true rfl) hR.2⟩ hA.RR rfl rfl hl.1 (lv_room (Nat.le_of_ble_eq_true rfl)) dX1_take_52 (fun H locs hI => ?_)
    replace hA := hA.up hI
    clear hI
    refine lv_iconst (v := 1) hx hb dX1_take_55 (by decide) ?_
    have he := o_in hit
    exact hend (some (.int 1)) (q11, q9.2) _ _ _ _ _ _ _ _ (kOut_i rfl) (by subst he; rfl) hA dX1_take_56
  · refine lv_aload_n hx hb dX1_take_30 rfl (lv_at hl 0 rfl) ?_
    obtain ⟨v12, ev12, hit⟩ := o_bind hit
    refine c_getR X hA.1.1 kc_TwinInk 7 q284 (Or.inl rfl) rfl rfl ev12 dX1_take_31 ?_
    refine lv_iconst (v := 1) hx hb dX1_take_34 (by decide) ?_
    refine lv_dup2_11 hx hb dX1_take_35 rfl rfl ?_
    obtain ⟨v13, ev13, hit⟩ := o_bind hit
    refine c_iald X hA.1.1 ev13 dX1_take_36 ?_
    refine lv_iconst (v := 1) hx hb dX1_take_37 (by decide) ?_
    refine lv_iadd hx hb dX1_take_38 ?_
    obtain ⟨s14, es14, hit⟩ := o_bind hit
    refine c_iast X hA.1 es14 dX1_take_39 (fun H locs hI => ?_)
    replace hA := hA.up hI
    clear hI
    refine lv_iconst (v := 0) hx hb dX1_take_40 (by decide) ?_
    have he := o_in hit
    exact hend (some (.int 0)) (s14, q2.2) _ _ _ _ _ _ _ _ (kOut_i rfl) (by subst he; rfl) hA dX1_take_41
noncomputable def C1_leave (K : Nat → Nat) (h : CH) (r : CR) (o : Nat) (a0 : Int32) (a1 : Int32) : Option ((Int32 × CS) ⊕ XT) :=
  xg Sum.inr (vc h o 1 (xchv r (C1_aClerk h r o a0))) fun q1 =>
  xg Sum.inr (vc q1.1 o 1 (xchv q1.2 (C1_aSheet q1.1 q1.2 o a1))) fun q2 =>
  (gR q2.1 o 1 2).bind fun v3 =>
  (vc q2.1 v3 3 (C3_bearer q2.1 v3 a1)).bind fun q4 =>
  if q4 = a0 then
    ((vc q2.1 o 1 (achv q2.2 (C1_keep K q2.1 q2.2 o))).bind fun q6 =>
    (gR q6.1 o 1 2).bind fun v7 =>
    (gR q6.1 v7 3 2).bind fun v8 =>
    (gR q6.1 o 1 2).bind fun v9 =>
    (vc q6.1 v9 3 (C3_town q6.1 v9 a0)).bind fun q10 =>
    (sI q6.1 v8 0 a1 q10).bind fun s11 =>
    (gR s11 o 1 2).bind fun v12 =>
    (gR s11 v12 3 2).bind fun v13 =>
    (aI s11 v13 0 a1).bind fun v14 =>
    some (.inl (v14, (s11, q6.2))))
  else
    ((vc q2.1 o 1 (C1_refuse q2.1 o 1)).bind fun q15 =>
    some (.inl (q15.1, (q15.2, q2.2))))
theorem nm_X1_leave : kNm yX1_leave RX1 2 := by unfold kNm; decide +kernel
set_option maxHeartbeats 4000000 in
set_option maxRecDepth 100000 in
theorem wC1_leave (l : Launch) (hT : l.stackTraces = false) (γ : KG) (hO : kOK γ) (h : CH) (r : CR) (o : Nat) (a0 : Int32) (a1 : Int32) (z : (Int32 × CS) ⊕ XT) (hz : C1_leave γ.2.2.2.2.2 h r o a0 a1 = some z) : xMet l yX1_leave (ws_ yX1_leave cX1_leave 3 (some .int)) 8 191 γ (h, r) [.ref o, .int a0, .int a1] (xI z) := by
  refine x_start (cc := cX1_leave) (own := RX1) hO rfl rfl rfl (fun p e R s m args below meth c Q ls X hR hnm h0H hA hl hend hthr hdir => ?_)
  have hx := X.1.1
  have hb := X.1.2.1
  have hit := hz
  clear hz
  unfold C1_leave at hit
  have hl : lv_has ls 3 [(0, .ref o), (1, .int a0), (2, .int a1)] := hl
  refine lv_aload_n hx hb dX1_leave_0 rfl (lv_at hl 0 rfl) ?_
  refine lv_iload_n hx hb dX1_leave_1 rfl (lv_at hl 1 rfl) ?_
  rcases xg_inv hit with ⟨q1, eq1, hit⟩ | ⟨x_q1, eq1, he⟩
  rotate_left
  · obtain ⟨iq1, eq1⟩ := vc_inv eq1
    obtain ⟨eq1, lq1⟩ := xchv_r eq1
    refine t_cV X h0H hA kc_TwinInk (xMet.tv (wC1_aClerk l hT γ X.2.1 _ _ _ _ _ eq1)) lq1 iq1 nm_X1_aClerk q1299 q1301 q135 q1302 qs37 ⟨Nat.le_trans (Nat.le_of_ble_eq_true rfl) hR.1, Nat.le_trans (Nat.le_of_ble_eq_true rfl) hR.2⟩ rfl rfl hl.1 (lv_room (Nat.le_of_ble_eq_true rfl)) dX1_leave_2 (fun H locs cells slots q_ hA hq => ?_)
    exact hthr _ _ _ _ _ _ _ _ _ (by subst he; rfl) hA hq
  obtain ⟨iq1, eq1⟩ := vc_inv eq1
  obtain ⟨eq1, lq1⟩ := xchv_l eq1
  refine a_cV X h0H hA kc_TwinInk (xMet.v (wC1_aClerk l hT γ X.2.1 _ _ _ _ _ eq1)) lq1 iq1 nm_X1_aClerk q1299 q1301 q135 q1302 qs37 ⟨Nat.le_trans (Nat.le_of_ble_eq_true rfl) hR.1, Nat.le_trans (Nat.le_of_ble_eq_true rfl) hR.2⟩ rfl rfl hl.1 (lv_room (Nat.le_of_ble_eq_true rfl)) dX1_leave_2 (fun H locs cells slots hA => ?_)
  refine lv_aload_n hx hb dX1_leave_5 rfl (lv_at hl 0 rfl) ?_
  refine lv_iload_n hx hb dX1_leave_6 rfl (lv_at hl 2 rfl) ?_
  rcases xg_inv hit with ⟨q2, eq2, hit⟩ | ⟨x_q2, eq2, he⟩
  rotate_left
  · obtain ⟨iq2, eq2⟩ := vc_inv eq2
    obtain ⟨eq2, lq2⟩ := xchv_r eq2
    refine t_cV X h0H hA kc_TwinInk (xMet.tv (wC1_aSheet l hT γ X.2.1 _ _ _ _ _ eq2)) lq2 iq2 nm_X1_aSheet q1279 q1281 q135 q1282 qs36 ⟨Nat.le_trans (Nat.le_of_ble_eq_true rfl) hR.1, Nat.le_trans (Nat.le_of_ble_eq_true rfl) hR.2⟩ rfl rfl hl.1 (lv_room (Nat.le_of_ble_eq_true rfl)) dX1_leave_7 (fun H locs cells slots q_ hA hq => ?_)
    exact hthr _ _ _ _ _ _ _ _ _ (by subst he; rfl) hA hq
  obtain ⟨iq2, eq2⟩ := vc_inv eq2
  obtain ⟨eq2, lq2⟩ := xchv_l eq2
  refine a_cV X h0H hA kc_TwinInk (xMet.v (wC1_aSheet l hT γ X.2.1 _ _ _ _ _ eq2)) lq2 iq2 nm_X1_aSheet q1279 q1281 q135 q1282 qs36 ⟨Nat.le_trans (Nat.le_of_ble_eq_true rfl) hR.1, Nat.le_trans (Nat.le_of_ble_eq_true rfl) hR.2⟩ rfl rfl hl.1 (lv_room (Nat.le_of_ble_eq_true rfl)) dX1_leave_7 (fun H locs cells slots hA => ?_)
  refine lv_aload_n hx hb dX1_leave_10 rfl (lv_at hl 0 rfl) ?_
  obtain ⟨v3, ev3, hit⟩ := o_bind hit
  refine c_getR X hA.1.1 kc_TwinInk 2 q278 (Or.inl rfl) rfl rfl ev3 dX1_leave_11 ?_
  refine lv_iload_n hx hb dX1_leave_14 rfl (lv_at hl 2 rfl) ?_
  obtain ⟨q4, eq4, hit⟩ := o_bind hit
  obtain ⟨iq4, eq4⟩ := vc_inv eq4
  refine c_cR X hA.1.1 (fun U hU hW => hA.D X.2.1 X.2.2 h0H hU hW) kc_Service (wC3_bearer l γ X.2.1 _ _ _ _ eq4) iq4 nm_X3_bearer q1287 q622 q140 q624 q623 ⟨Nat.le_trans (Nat.le_of_ble_eq_true rfl) hR.1, Nat.le_trans (Nat.le_of_ble_eq_true rfl) hR.2⟩ hA.RR rfl rfl hl.1 (lv_room (Nat.le_of_ble_eq_true rfl)) dX1_leave_15 ?_
  refine lv_iload_n hx hb dX1_leave_18 rfl (lv_at hl 1 rfl) ?_
  refine b_icmp_eq (tgt := 28) hx hb dX1_leave_19 (by decide) hit (fun c5 hit => ?_) (fun c5 hit => ?_)
  · refine lv_aload_n hx hb dX1_leave_28 rfl (lv_at hl 0 rfl) ?_
    obtain ⟨q6, eq6, hit⟩ := o_bind hit
    obtain ⟨iq6, eq6⟩ := vc_inv eq6
    obtain ⟨eq6, lq6⟩ := achv_inv eq6
    refine a_cV X h0H hA kc_TwinInk (wC1_keep l γ X.2.1 _ _ _  _ eq6) lq6 iq6 nm_X1_keep q340 q342 q135 q343 qs1 ⟨Nat.le_trans (Nat.le_of_ble_eq_true rfl) hR.1, Nat.le_trans (Nat.le_of_ble_eq_true rfl) hR.2⟩ rfl rfl hl.1 (lv_room (Nat.le_of_ble_eq_true rfl)) dX1_leave_29 (fun H locs cells slots hA => ?_)
    refine lv_aload_n hx hb dX1_leave_32 rfl (lv_at hl 0 rfl) ?_
    obtain ⟨v7, ev7, hit⟩ := o_bind hit
    refine c_getR X hA.1.1 kc_TwinInk 2 q278 (Or.inl rfl) rfl rfl ev7 dX1_leave_33 ?_
    obtain ⟨v8, ev8, hit⟩ := o_bind hit
    refine c_getNR X hA.1.1 kc_Service 2 q253 (Or.inl rfl) rfl rfl ev8 dX1_leave_36 ?_
    refine lv_iload_n hx hb dX1_leave_39 rfl (lv_at hl 2 rfl) ?_
    refine lv_aload_n hx hb dX1_leave_40 rfl (lv_at hl 0 rfl) ?_
    obtain ⟨v9, ev9, hit⟩ := o_bind hit
    refine c_getR X hA.1.1 kc_TwinInk 2 q278 (Or.inl rfl) rfl rfl ev9 dX1_leave_41 ?_
    refine lv_iload_n hx hb dX1_leave_44 rfl (lv_at hl 1 rfl) ?_
    obtain ⟨q10, eq10, hit⟩ := o_bind hit
    obtain ⟨iq10, eq10⟩ := vc_inv eq10
    refine c_cR X hA.1.1 (fun U hU hW => hA.D X.2.1 X.2.2 h0H hU hW) kc_Service (wC3_town l γ X.2.1 _ _ _ _ eq10) iq10 nm_X3_town q1303 q470 q140 q472 q471 ⟨Nat.le_trans (Nat.le_of_ble_eq_true rfl) hR.1, Nat.le_trans (Nat.le_of_ble_eq_true rfl) hR.2⟩ hA.RR rfl rfl hl.1 (lv_room (Nat.le_of_ble_eq_true rfl)) dX1_leave_45 ?_
    obtain ⟨s11, es11, hit⟩ := o_bind hit
    refine c_iast X hA.1 es11 dX1_leave_48 (fun H locs hI => ?_)
    replace hA := hA.up hI
    clear hI
    refine lv_aload_n hx hb dX1_leave_49 rfl (lv_at hl 0 rfl) ?_
    obtain ⟨v12, ev12, hit⟩ := o_bind hit
    refine c_getR X hA.1.1 kc_TwinInk 2 q278 (Or.inl rfl) rfl rfl ev12 dX1_leave_50 ?_
    obtain ⟨v13, ev13, hit⟩ := o_bind hit
    refine c_getNR X hA.1.1 kc_Service 2 q253 (Or.inl rfl) rfl rfl ev13 dX1_leave_53 ?_
    refine lv_iload_n hx hb dX1_leave_56 rfl (lv_at hl 2 rfl) ?_
    obtain ⟨v14, ev14, hit⟩ := o_bind hit
    refine c_iald X hA.1.1 ev14 dX1_leave_57 ?_
    have he := o_in hit
    exact hend (some (.int v14)) (s11, q6.2) _ _ _ _ _ _ _ _ (kOut_i rfl) (by subst he; rfl) hA dX1_leave_58
  · refine lv_aload_n hx hb dX1_leave_22 rfl (lv_at hl 0 rfl) ?_
    refine lv_iconst (v := 1) hx hb dX1_leave_23 (by decide) ?_
    obtain ⟨q15, eq15, hit⟩ := o_bind hit
    obtain ⟨iq15, eq15⟩ := vc_inv eq15
    refine c_cN X (kA_F X.2.1 X.2.2 h0H) hA.1 kc_TwinInk (wC1_refuse l γ X.2.1 _ _ _ _ eq15) iq15 nm_X1_refuse q336 q338 q135 q339 qs0 ⟨Nat.le_trans (Nat.le_of_ble_eq_true rfl) hR.1, Nat.le_trans (Nat.le_of_ble_eq_true rfl) hR.2⟩ hA.RR rfl rfl hl.1 (lv_room (Nat.le_of_ble_eq_true rfl)) dX1_leave_24 (fun H locs hI => ?_)
    replace hA := hA.up hI
    clear hI
    have he := o_in hit
    exact hend (some (.int q15.1)) (q15.2, q2.2) _ _ _ _ _ _ _ _ (kOut_i rfl) (by subst he; rfl) hA dX1_leave_27
noncomputable def C1_forge (K : Nat → Nat) (h : CH) (r : CR) (o : Nat) (a0 : Int32) (a1 : Int32) (a2 : Int32) : Option ((Int32 × CS) ⊕ XT) :=
  xg Sum.inr (vc h o 1 (xchv r (C1_aSheet h r o a0))) fun q1 =>
  xg Sum.inr (xchv q1.2 (C1_oneOf q1.1 q1.2 a1 1)) fun q2 =>
  xg Sum.inr (xchv q2.2 (C1_oneOf q2.1 q2.2 a2 7)) fun q3 =>
  (gR q3.1 o 1 2).bind fun v4 =>
  (vc q3.1 v4 3 (C3_isBurnt q3.1 v4 a0)).bind fun q5 =>
  if q5 = 0 then
    ((vc q3.1 o 1 (achv q3.2 (C1_keep K q3.1 q3.2 o))).bind fun q7 =>
    xg Sum.inr ((if a1 = 0 then
        ((gR q7.1 o 1 2).bind fun v15 =>
        (gR q7.1 v15 3 0).bind fun v16 =>
        some (.inl v16))
      else
        ((gR q7.1 o 1 2).bind fun v13 =>
        (gR q7.1 v13 3 1).bind fun v14 =>
        some (.inl v14)) : Option (Nat ⊕ XT))) fun r8 =>
    (aI q7.1 r8 0 a0).bind fun v9 =>
    (sI q7.1 r8 0 a0 (v9 ^^^ ((1 : Int32) <<< (a2 &&& 31)))).bind fun s10 =>
    (aI s10 r8 0 a0).bind fun v11 =>
    some (.inl (v11, (s10, q7.2))))
  else
    ((vc q3.1 o 1 (C1_refuse q3.1 o 1)).bind fun q17 =>
    some (.inl (q17.1, (q17.2, q3.2))))
theorem nm_X1_forge : kNm yX1_forge RX1 3 := by unfold kNm; decide +kernel
set_option maxHeartbeats 4000000 in
set_option maxRecDepth 100000 in
theorem wC1_forge (l : Launch) (hT : l.stackTraces = false) (γ : KG) (hO : kOK γ) (h : CH) (r : CR) (o : Nat) (a0 : Int32) (a1 : Int32) (a2 : Int32) (z : (Int32 × CS) ⊕ XT) (hz : C1_forge γ.2.2.2.2.2 h r o a0 a1 a2 = some z) : xMet l yX1_forge (ws_ yX1_forge cX1_forge 5 (some .int)) 8 191 γ (h, r) [.ref o, .int a0, .int a1, .int a2] (xI z) := by
  refine x_start (cc := cX1_forge) (own := RX1) hO rfl rfl rfl (fun p e R s m args below meth c Q ls X hR hnm h0H hA hl hend hthr hdir => ?_)
  have hx := X.1.1
  have hb := X.1.2.1
  have hit := hz
  clear hz
  unfold C1_forge at hit
  have hl : lv_has ls 5 [(0, .ref o), (1, .int a0), (2, .int a1), (3, .int a2)] := hl
  refine lv_aload_n hx hb dX1_forge_0 rfl (lv_at hl 0 rfl) ?_
  refine lv_iload_n hx hb dX1_forge_1 rfl (lv_at hl 1 rfl) ?_
  rcases xg_inv hit with ⟨q1, eq1, hit⟩ | ⟨x_q1, eq1, he⟩
  rotate_left
  · obtain ⟨iq1, eq1⟩ := vc_inv eq1
    obtain ⟨eq1, lq1⟩ := xchv_r eq1
    refine t_cV X h0H hA kc_TwinInk (xMet.tv (wC1_aSheet l hT γ X.2.1 _ _ _ _ _ eq1)) lq1 iq1 nm_X1_aSheet q1279 q1281 q135 q1282 qs36 ⟨Nat.le_trans (Nat.le_of_ble_eq_true rfl) hR.1, Nat.le_trans (Nat.le_of_ble_eq_true rfl) hR.2⟩ rfl rfl hl.1 (lv_room (Nat.le_of_ble_eq_true rfl)) dX1_forge_2 (fun H locs cells slots q_ hA hq => ?_)
    exact hthr _ _ _ _ _ _ _ _ _ (by subst he; rfl) hA hq
  obtain ⟨iq1, eq1⟩ := vc_inv eq1
  obtain ⟨eq1, lq1⟩ := xchv_l eq1
  refine a_cV X h0H hA kc_TwinInk (xMet.v (wC1_aSheet l hT γ X.2.1 _ _ _ _ _ eq1)) lq1 iq1 nm_X1_aSheet q1279 q1281 q135 q1282 qs36 ⟨Nat.le_trans (Nat.le_of_ble_eq_true rfl) hR.1, Nat.le_trans (Nat.le_of_ble_eq_true rfl) hR.2⟩ rfl rfl hl.1 (lv_room (Nat.le_of_ble_eq_true rfl)) dX1_forge_2 (fun H locs cells slots hA => ?_)
  refine lv_iload_n hx hb dX1_forge_5 rfl (lv_at hl 2 rfl) ?_
  refine lv_iconst (v := 1) hx hb dX1_forge_6 (by decide) ?_
  rcases xg_inv hit with ⟨q2, eq2, hit⟩ | ⟨x_q2, eq2, he⟩
  rotate_left
  · obtain ⟨eq2, lq2⟩ := xchv_r eq2
    refine t_cS X h0H hA nm_X1_oneOf q1283 q1284 q135 q1285 (xMet.tv (wC1_oneOf l hT γ X.2.1 _ _ _ _ _ eq2)) lq2 ⟨Nat.le_trans (Nat.le_of_ble_eq_true rfl) hR.1, Nat.le_trans (Nat.le_of_ble_eq_true rfl) hR.2⟩ rfl rfl hl.1 (lv_room (Nat.le_of_ble_eq_true rfl)) dX1_forge_7 (fun H locs cells slots q_ hA hq => ?_)
    exact hthr _ _ _ _ _ _ _ _ _ (by subst he; rfl) hA hq
  obtain ⟨eq2, lq2⟩ := xchv_l eq2
  refine a_cS X h0H hA nm_X1_oneOf q1283 q1284 q135 q1285 (xMet.v (wC1_oneOf l hT γ X.2.1 _ _ _ _ _ eq2)) lq2 ⟨Nat.le_trans (Nat.le_of_ble_eq_true rfl) hR.1, Nat.le_trans (Nat.le_of_ble_eq_true rfl) hR.2⟩ rfl rfl hl.1 (lv_room (Nat.le_of_ble_eq_true rfl)) dX1_forge_7 (fun H locs cells slots hA => ?_)
  refine lv_iload_n hx hb dX1_forge_10 rfl (lv_at hl 3 rfl) ?_
  refine lv_bipush (v := 7) hx hb dX1_forge_11 (by decide) ?_
  rcases xg_inv hit with ⟨q3, eq3, hit⟩ | ⟨x_q3, eq3, he⟩
  rotate_left
  · obtain ⟨eq3, lq3⟩ := xchv_r eq3
    refine t_cS X h0H hA nm_X1_oneOf q1283 q1284 q135 q1285 (xMet.tv (wC1_oneOf l hT γ X.2.1 _ _ _ _ _ eq3)) lq3 ⟨Nat.le_trans (Nat.le_of_ble_eq_true rfl) hR.1, Nat.le_trans (Nat.le_of_ble_eq_true rfl) hR.2⟩ rfl rfl hl.1 (lv_room (Nat.le_of_ble_eq_true rfl)) dX1_forge_13 (fun H locs cells slots q_ hA hq => ?_)
    exact hthr _ _ _ _ _ _ _ _ _ (by subst he; rfl) hA hq
  obtain ⟨eq3, lq3⟩ := xchv_l eq3
  refine a_cS X h0H hA nm_X1_oneOf q1283 q1284 q135 q1285 (xMet.v (wC1_oneOf l hT γ X.2.1 _ _ _ _ _ eq3)) lq3 ⟨Nat.le_trans (Nat.le_of_ble_eq_true rfl) hR.1, Nat.le_trans (Nat.le_of_ble_eq_true rfl) hR.2⟩ rfl rfl hl.1 (lv_room (Nat.le_of_ble_eq_true rfl)) dX1_forge_13 (fun H locs cells slots hA => ?_)
  refine lv_aload_n hx hb dX1_forge_16 rfl (lv_at hl 0 rfl) ?_
  obtain ⟨v4, ev4, hit⟩ := o_bind hit
  refine c_getR X hA.1.1 kc_TwinInk 2 q278 (Or.inl rfl) rfl rfl ev4 dX1_forge_17 ?_
  refine lv_iload_n hx hb dX1_forge_20 rfl (lv_at hl 1 rfl) ?_
  obtain ⟨q5, eq5, hit⟩ := o_bind hit
  obtain ⟨iq5, eq5⟩ := vc_inv eq5
  refine c_cR X hA.1.1 (fun U hU hW => hA.D X.2.1 X.2.2 h0H hU hW) kc_Service (wC3_isBurnt l γ X.2.1 _ _ _ _ eq5) iq5 nm_X3_isBurnt q1382 q606 q140 q608 q607 ⟨Nat.le_trans (Nat.le_of_ble_eq_true rfl) hR.1, Nat.le_trans (Nat.le_of_ble_eq_true rfl) hR.2⟩ hA.RR rfl rfl hl.1 (lv_room (Nat.le_of_ble_eq_true rfl)) dX1_forge_21 ?_
  refine b_if_eq (tgt := 33) hx hb dX1_forge_24 (by decide) hit (fun c6 hit => ?_) (fun c6 hit => ?_)
  · refine lv_aload_n hx hb dX1_forge_33 rfl (lv_at hl 0 rfl) ?_
    obtain ⟨q7, eq7, hit⟩ := o_bind hit
    obtain ⟨iq7, eq7⟩ := vc_inv eq7
    obtain ⟨eq7, lq7⟩ := achv_inv eq7
    refine a_cV X h0H hA kc_TwinInk (wC1_keep l γ X.2.1 _ _ _  _ eq7) lq7 iq7 nm_X1_keep q340 q342 q135 q343 qs1 ⟨Nat.le_trans (Nat.le_of_ble_eq_true rfl) hR.1, Nat.le_trans (Nat.le_of_ble_eq_true rfl) hR.2⟩ rfl rfl hl.1 (lv_room (Nat.le_of_ble_eq_true rfl)) dX1_forge_34 (fun H locs cells slots hA => ?_)
    refine lv_iload_n hx hb dX1_forge_37 rfl (lv_at hl 2 rfl) ?_
    obtain ⟨wr8, er8, hxr8⟩ := xg_bind hit
    have hr8 : ∀ (r8 : Nat), wr8 = .inl r8 → ∀ (H : Heap) (locs : List Loc) (cells slots : Nat) (ls : Array Slot), AI γ (h, r) s R q7.1 q7.2 H locs cells slots → lv_has ls 5 [(1, .int a0), (3, .int a2)] → W p l e R s m args below meth c H locs cells slots Q (F0 m 58 ls [.ref r8]) := by
      intro r8 hw_ H locs cells slots ls hA hl
      have hit := xk_l hxr8 hw_
      refine lv_astore (lv' := [(4, .ref r8), (1, .int a0), (3, .int a2)]) hx hb dX1_forge_58 hl (by decide) rfl (fun ls hl => ?_)
      refine lv_aload hx hb dX1_forge_60 (lv_at hl 0 rfl) ?_
      refine lv_iload_n hx hb dX1_forge_62 rfl (lv_at hl 1 rfl) ?_
      refine lv_dup2_11 hx hb dX1_forge_63 rfl rfl ?_
      obtain ⟨v9, ev9, hit⟩ := o_bind hit
      refine c_iald X hA.1.1 ev9 dX1_forge_64 ?_
      refine lv_iconst (v := 1) hx hb dX1_forge_65 (by decide) ?_
      refine lv_iload_n hx hb dX1_forge_66 rfl (lv_at hl 2 rfl) ?_
      refine lv_ishl hx hb dX1_forge_67 ?_
      refine lv_ixor hx hb dX1_forge_68 ?_
      obtain ⟨s10, es10, hit⟩ := o_bind hit
      refine c_iast X hA.1 es10 dX1_forge_69 (fun H locs hI => ?_)
      replace hA := hA.up hI
      clear hI
      refine lv_aload hx hb dX1_forge_70 (lv_at hl 0 rfl) ?_
      refine lv_iload_n hx hb dX1_forge_72 rfl (lv_at hl 1 rfl) ?_
      obtain ⟨v11, ev11, hit⟩ := o_bind hit
      refine c_iald X hA.1.1 ev11 dX1_forge_73 ?_
      have he := o_in hit
      exact hend (some (.int v11)) (s10, q7.2) _ _ _ _ _ _ _ _ (kOut_i rfl) (by subst he; rfl) hA dX1_forge_74
    have hit := er8
    refine b_if_ne (tgt := 51) hx hb dX1_forge_38 (by decide) hit (fun c12 hit => ?_) (fun c12 hit => ?_)
    · refine lv_aload_n hx hb dX1_forge_51 rfl (lv_at hl 0 rfl) ?_
      obtain ⟨v13, ev13, hit⟩ := o_bind hit
      refine c_getR X hA.1.1 kc_TwinInk 2 q278 (Or.inl rfl) rfl rfl ev13 dX1_forge_52 ?_
      obtain ⟨v14, ev14, hit⟩ := o_bind hit
      refine c_getNR X hA.1.1 kc_Service 1 q249 (Or.inl rfl) rfl rfl ev14 dX1_forge_55 ?_
      have he := o_in hit
      exact hr8 _ he.symm _ _ _ _ _ hA (lv_sub hl [1, 3] rfl)
    · refine lv_aload_n hx hb dX1_forge_41 rfl (lv_at hl 0 rfl) ?_
      obtain ⟨v15, ev15, hit⟩ := o_bind hit
      refine c_getR X hA.1.1 kc_TwinInk 2 q278 (Or.inl rfl) rfl rfl ev15 dX1_forge_42 ?_
      obtain ⟨v16, ev16, hit⟩ := o_bind hit
      refine c_getNR X hA.1.1 kc_Service 0 q246 (Or.inl rfl) rfl rfl ev16 dX1_forge_45 ?_
      refine lv_goto (tgt := 58) hx hb dX1_forge_48 (by decide) ?_
      have he := o_in hit
      exact hr8 _ he.symm _ _ _ _ _ hA (lv_sub hl [1, 3] rfl)
  · refine lv_aload_n hx hb dX1_forge_27 rfl (lv_at hl 0 rfl) ?_
    refine lv_iconst (v := 1) hx hb dX1_forge_28 (by decide) ?_
    obtain ⟨q17, eq17, hit⟩ := o_bind hit
    obtain ⟨iq17, eq17⟩ := vc_inv eq17
    refine c_cN X (kA_F X.2.1 X.2.2 h0H) hA.1 kc_TwinInk (wC1_refuse l γ X.2.1 _ _ _ _ eq17) iq17 nm_X1_refuse q336 q338 q135 q339 qs0 ⟨Nat.le_trans (Nat.le_of_ble_eq_true rfl) hR.1, Nat.le_trans (Nat.le_of_ble_eq_true rfl) hR.2⟩ hA.RR rfl rfl hl.1 (lv_room (Nat.le_of_ble_eq_true rfl)) dX1_forge_29 (fun H locs hI => ?_)
    replace hA := hA.up hI
    clear hI
    have he := o_in hit
    exact hend (some (.int q17.1)) (q17.2, q3.2) _ _ _ _ _ _ _ _ (kOut_i rfl) (by subst he; rfl) hA dX1_forge_32
noncomputable def C1_fire (K : Nat → Nat) (h : CH) (r : CR) (o : Nat) (a0 : Int32) : Option ((Int32 × CS) ⊕ XT) :=
  xg Sum.inr (xchv r (C1_aTown h r a0)) fun q1 =>
  (gR q1.1 o 1 2).bind fun v2 =>
  (vc q1.1 v2 3 (C3_archive q1.1 v2 a0)).bind fun q3 =>
  if q3 = 0 then
    ((vc q1.1 o 1 (C1_refuse q1.1 o 1)).bind fun q8 =>
    some (.inl (q8.1, (q8.2, q1.2))))
  else
    ((vc q1.1 o 1 (achv q1.2 (C1_keep K q1.1 q1.2 o))).bind fun q5 =>
    (gR q5.1 o 1 2).bind fun v6 =>
    (vc q5.1 v6 3 (C3_burn q5.1 v6 a0)).bind fun q7 =>
    some (.inl (q7.1, (q7.2, q5.2))))
theorem nm_X1_fire : kNm yX1_fire RX1 1 := by unfold kNm; decide +kernel
set_option maxHeartbeats 4000000 in
set_option maxRecDepth 100000 in
theorem wC1_fire (l : Launch) (hT : l.stackTraces = false) (γ : KG) (hO : kOK γ) (h : CH) (r : CR) (o : Nat) (a0 : Int32) (z : (Int32 × CS) ⊕ XT) (hz : C1_fire γ.2.2.2.2.2 h r o a0 = some z) : xMet l yX1_fire (ws_ yX1_fire cX1_fire 2 (some .int)) 8 191 γ (h, r) [.ref o, .int a0] (xI z) := by
  refine x_start (cc := cX1_fire) (own := RX1) hO rfl rfl rfl (fun p e R s m args below meth c Q ls X hR hnm h0H hA hl hend hthr hdir => ?_)
  have hx := X.1.1
  have hb := X.1.2.1
  have hit := hz
  clear hz
  unfold C1_fire at hit
  have hl : lv_has ls 2 [(0, .ref o), (1, .int a0)] := hl
  refine lv_iload_n hx hb dX1_fire_0 rfl (lv_at hl 1 rfl) ?_
  rcases xg_inv hit with ⟨q1, eq1, hit⟩ | ⟨x_q1, eq1, he⟩
  rotate_left
  · obtain ⟨eq1, lq1⟩ := xchv_r eq1
    refine t_cS X h0H hA nm_X1_aTown q1336 q1337 q135 q1338 (xMet.tv (wC1_aTown l hT γ X.2.1 _ _ _ _ eq1)) lq1 ⟨Nat.le_trans (Nat.le_of_ble_eq_true rfl) hR.1, Nat.le_trans (Nat.le_of_ble_eq_true rfl) hR.2⟩ rfl rfl hl.1 (lv_room (Nat.le_of_ble_eq_true rfl)) dX1_fire_1 (fun H locs cells slots q_ hA hq => ?_)
    exact hthr _ _ _ _ _ _ _ _ _ (by subst he; rfl) hA hq
  obtain ⟨eq1, lq1⟩ := xchv_l eq1
  refine a_cS X h0H hA nm_X1_aTown q1336 q1337 q135 q1338 (xMet.v (wC1_aTown l hT γ X.2.1 _ _ _ _ eq1)) lq1 ⟨Nat.le_trans (Nat.le_of_ble_eq_true rfl) hR.1, Nat.le_trans (Nat.le_of_ble_eq_true rfl) hR.2⟩ rfl rfl hl.1 (lv_room (Nat.le_of_ble_eq_true rfl)) dX1_fire_1 (fun H locs cells slots hA => ?_)
  refine lv_aload_n hx hb dX1_fire_4 rfl (lv_at hl 0 rfl) ?_
  obtain ⟨v2, ev2, hit⟩ := o_bind hit
  refine c_getR X hA.1.1 kc_TwinInk 2 q278 (Or.inl rfl) rfl rfl ev2 dX1_fire_5 ?_
  refine lv_iload_n hx hb dX1_fire_8 rfl (lv_at hl 1 rfl) ?_
  obtain ⟨q3, eq3, hit⟩ := o_bind hit
  obtain ⟨iq3, eq3⟩ := vc_inv eq3
  refine c_cR X hA.1.1 (fun U hU hW => hA.D X.2.1 X.2.2 h0H hU hW) kc_Service (wC3_archive l γ X.2.1 _ _ _ _ eq3) iq3 nm_X3_archive q1339 q1340 q140 q1342 q1341 ⟨Nat.le_trans (Nat.le_of_ble_eq_true rfl) hR.1, Nat.le_trans (Nat.le_of_ble_eq_true rfl) hR.2⟩ hA.RR rfl rfl hl.1 (lv_room (Nat.le_of_ble_eq_true rfl)) dX1_fire_9 ?_
  refine b_if_ne (tgt := 21) hx hb dX1_fire_12 (by decide) hit (fun c4 hit => ?_) (fun c4 hit => ?_)
  · refine lv_aload_n hx hb dX1_fire_21 rfl (lv_at hl 0 rfl) ?_
    obtain ⟨q5, eq5, hit⟩ := o_bind hit
    obtain ⟨iq5, eq5⟩ := vc_inv eq5
    obtain ⟨eq5, lq5⟩ := achv_inv eq5
    refine a_cV X h0H hA kc_TwinInk (wC1_keep l γ X.2.1 _ _ _  _ eq5) lq5 iq5 nm_X1_keep q340 q342 q135 q343 qs1 ⟨Nat.le_trans (Nat.le_of_ble_eq_true rfl) hR.1, Nat.le_trans (Nat.le_of_ble_eq_true rfl) hR.2⟩ rfl rfl hl.1 (lv_room (Nat.le_of_ble_eq_true rfl)) dX1_fire_22 (fun H locs cells slots hA => ?_)
    refine lv_aload_n hx hb dX1_fire_25 rfl (lv_at hl 0 rfl) ?_
    obtain ⟨v6, ev6, hit⟩ := o_bind hit
    refine c_getR X hA.1.1 kc_TwinInk 2 q278 (Or.inl rfl) rfl rfl ev6 dX1_fire_26 ?_
    refine lv_iload_n hx hb dX1_fire_29 rfl (lv_at hl 1 rfl) ?_
    obtain ⟨q7, eq7, hit⟩ := o_bind hit
    obtain ⟨iq7, eq7⟩ := vc_inv eq7
    refine c_cN X (kA_F X.2.1 X.2.2 h0H) hA.1 kc_Service (wC3_burn l γ X.2.1 _ _ _ _ eq7) iq7 nm_X3_burn q1390 q1391 q140 q1393 q1392 ⟨Nat.le_trans (Nat.le_of_ble_eq_true rfl) hR.1, Nat.le_trans (Nat.le_of_ble_eq_true rfl) hR.2⟩ hA.RR rfl rfl hl.1 (lv_room (Nat.le_of_ble_eq_true rfl)) dX1_fire_30 (fun H locs hI => ?_)
    replace hA := hA.up hI
    clear hI
    have he := o_in hit
    exact hend (some (.int q7.1)) (q7.2, q5.2) _ _ _ _ _ _ _ _ (kOut_i rfl) (by subst he; rfl) hA dX1_fire_33
  · refine lv_aload_n hx hb dX1_fire_15 rfl (lv_at hl 0 rfl) ?_
    refine lv_iconst (v := 1) hx hb dX1_fire_16 (by decide) ?_
    obtain ⟨q8, eq8, hit⟩ := o_bind hit
    obtain ⟨iq8, eq8⟩ := vc_inv eq8
    refine c_cN X (kA_F X.2.1 X.2.2 h0H) hA.1 kc_TwinInk (wC1_refuse l γ X.2.1 _ _ _ _ eq8) iq8 nm_X1_refuse q336 q338 q135 q339 qs0 ⟨Nat.le_trans (Nat.le_of_ble_eq_true rfl) hR.1, Nat.le_trans (Nat.le_of_ble_eq_true rfl) hR.2⟩ hA.RR rfl rfl hl.1 (lv_room (Nat.le_of_ble_eq_true rfl)) dX1_fire_17 (fun H locs hI => ?_)
    replace hA := hA.up hI
    clear hI
    have he := o_in hit
    exact hend (some (.int q8.1)) (q8.2, q1.2) _ _ _ _ _ _ _ _ (kOut_i rfl) (by subst he; rfl) hA dX1_fire_20
noncomputable def C1_then (K : Nat → Nat) (h : CH) (r : CR) (o : Nat) (a0 : Int32) (a1 : Int32) (a2 : Int32) : Option ((Int32 × CS) ⊕ XT) :=
  xg Sum.inr (vc h o 1 (xchv r (C1_aClerk h r o a0))) fun q1 =>
  xg Sum.inr (xchv q1.2 (C1_oneOf q1.1 q1.2 a2 1)) fun q2 =>
  (C1_in a1 0 40).bind fun q3 =>
  xg Sum.inr (xchv q2.2 (C1_right q2.1 q2.2 q3)) fun q4 =>
  if a2 = 0 then
    ((vc q4.1 o 1 (C1_later K q4.1 o a1)).bind fun q9 =>
    (vc q9.2 q9.1 3 (C3_town q9.2 q9.1 a0)).bind fun q10 =>
    some (.inl (q10, (q9.2, q4.2))))
  else
    ((vc q4.1 o 1 (C1_later K q4.1 o a1)).bind fun q6 =>
    (gR q6.2 q6.1 3 3).bind fun v7 =>
    (aI q6.2 v7 0 a0).bind fun v8 =>
    some (.inl (v8, (q6.2, q4.2))))
theorem nm_X1_then : kNm yX1_then RX1 3 := by unfold kNm; decide +kernel
set_option maxHeartbeats 4000000 in
set_option maxRecDepth 100000 in
theorem wC1_then (l : Launch) (hT : l.stackTraces = false) (γ : KG) (hO : kOK γ) (h : CH) (r : CR) (o : Nat) (a0 : Int32) (a1 : Int32) (a2 : Int32) (z : (Int32 × CS) ⊕ XT) (hz : C1_then γ.2.2.2.2.2 h r o a0 a1 a2 = some z) : xMet l yX1_then (ws_ yX1_then cX1_then 4 (some .int)) 815 20411 γ (h, r) [.ref o, .int a0, .int a1, .int a2] (xI z) := by
  refine x_start (cc := cX1_then) (own := RX1) hO rfl rfl rfl (fun p e R s m args below meth c Q ls X hR hnm h0H hA hl hend hthr hdir => ?_)
  have hx := X.1.1
  have hb := X.1.2.1
  have hit := hz
  clear hz
  unfold C1_then at hit
  have hl : lv_has ls 4 [(0, .ref o), (1, .int a0), (2, .int a1), (3, .int a2)] := hl
  refine lv_aload_n hx hb dX1_then_0 rfl (lv_at hl 0 rfl) ?_
  refine lv_iload_n hx hb dX1_then_1 rfl (lv_at hl 1 rfl) ?_
  rcases xg_inv hit with ⟨q1, eq1, hit⟩ | ⟨x_q1, eq1, he⟩
  rotate_left
  · obtain ⟨iq1, eq1⟩ := vc_inv eq1
    obtain ⟨eq1, lq1⟩ := xchv_r eq1
    refine t_cV X h0H hA kc_TwinInk (xMet.tv (wC1_aClerk l hT γ X.2.1 _ _ _ _ _ eq1)) lq1 iq1 nm_X1_aClerk q1299 q1301 q135 q1302 qs37 ⟨Nat.le_trans (Nat.le_of_ble_eq_true rfl) hR.1, Nat.le_trans (Nat.le_of_ble_eq_true rfl) hR.2⟩ rfl rfl hl.1 (lv_room (Nat.le_of_ble_eq_true rfl)) dX1_then_2 (fun H locs cells slots q_ hA hq => ?_)
    exact hthr _ _ _ _ _ _ _ _ _ (by subst he; rfl) hA hq
  obtain ⟨iq1, eq1⟩ := vc_inv eq1
  obtain ⟨eq1, lq1⟩ := xchv_l eq1
  refine a_cV X h0H hA kc_TwinInk (xMet.v (wC1_aClerk l hT γ X.2.1 _ _ _ _ _ eq1)) lq1 iq1 nm_X1_aClerk q1299 q1301 q135 q1302 qs37 ⟨Nat.le_trans (Nat.le_of_ble_eq_true rfl) hR.1, Nat.le_trans (Nat.le_of_ble_eq_true rfl) hR.2⟩ rfl rfl hl.1 (lv_room (Nat.le_of_ble_eq_true rfl)) dX1_then_2 (fun H locs cells slots hA => ?_)
  refine lv_iload_n hx hb dX1_then_5 rfl (lv_at hl 3 rfl) ?_
  refine lv_iconst (v := 1) hx hb dX1_then_6 (by decide) ?_
  rcases xg_inv hit with ⟨q2, eq2, hit⟩ | ⟨x_q2, eq2, he⟩
  rotate_left
  · obtain ⟨eq2, lq2⟩ := xchv_r eq2
    refine t_cS X h0H hA nm_X1_oneOf q1283 q1284 q135 q1285 (xMet.tv (wC1_oneOf l hT γ X.2.1 _ _ _ _ _ eq2)) lq2 ⟨Nat.le_trans (Nat.le_of_ble_eq_true rfl) hR.1, Nat.le_trans (Nat.le_of_ble_eq_true rfl) hR.2⟩ rfl rfl hl.1 (lv_room (Nat.le_of_ble_eq_true rfl)) dX1_then_7 (fun H locs cells slots q_ hA hq => ?_)
    exact hthr _ _ _ _ _ _ _ _ _ (by subst he; rfl) hA hq
  obtain ⟨eq2, lq2⟩ := xchv_l eq2
  refine a_cS X h0H hA nm_X1_oneOf q1283 q1284 q135 q1285 (xMet.v (wC1_oneOf l hT γ X.2.1 _ _ _ _ _ eq2)) lq2 ⟨Nat.le_trans (Nat.le_of_ble_eq_true rfl) hR.1, Nat.le_trans (Nat.le_of_ble_eq_true rfl) hR.2⟩ rfl rfl hl.1 (lv_room (Nat.le_of_ble_eq_true rfl)) dX1_then_7 (fun H locs cells slots hA => ?_)
  refine lv_iload_n hx hb dX1_then_10 rfl (lv_at hl 2 rfl) ?_
  refine lv_iconst (v := 0) hx hb dX1_then_11 (by decide) ?_
  refine lv_bipush (v := 40) hx hb dX1_then_12 (by decide) ?_
  obtain ⟨q3, eq3, hit⟩ := o_bind hit
  refine c_cP X.1 (wC1_in l _ _ _ _ eq3) nm_X1_in q333 q334 q135 q335 ⟨Nat.le_trans (Nat.le_of_ble_eq_true rfl) hR.1, Nat.le_trans (Nat.le_of_ble_eq_true rfl) hR.2⟩ hA.RR rfl rfl hl.1 (lv_room (Nat.le_of_ble_eq_true rfl)) dX1_then_14 ?_
  rcases xg_inv hit with ⟨q4, eq4, hit⟩ | ⟨x_q4, eq4, he⟩
  rotate_left
  · obtain ⟨eq4, lq4⟩ := xchv_r eq4
    refine t_cS X h0H hA nm_X1_right q691 q692 q135 q693 (xMet.tv (wC1_right l hT γ X.2.1 _ _ _ _ eq4)) lq4 ⟨Nat.le_trans (Nat.le_of_ble_eq_true rfl) hR.1, Nat.le_trans (Nat.le_of_ble_eq_true rfl) hR.2⟩ rfl rfl hl.1 (lv_room (Nat.le_of_ble_eq_true rfl)) dX1_then_17 (fun H locs cells slots q_ hA hq => ?_)
    exact hthr _ _ _ _ _ _ _ _ _ (by subst he; rfl) hA hq
  obtain ⟨eq4, lq4⟩ := xchv_l eq4
  refine a_cS X h0H hA nm_X1_right q691 q692 q135 q693 (xMet.v (wC1_right l hT γ X.2.1 _ _ _ _ eq4)) lq4 ⟨Nat.le_trans (Nat.le_of_ble_eq_true rfl) hR.1, Nat.le_trans (Nat.le_of_ble_eq_true rfl) hR.2⟩ rfl rfl hl.1 (lv_room (Nat.le_of_ble_eq_true rfl)) dX1_then_17 (fun H locs cells slots hA => ?_)
  refine lv_iload_n hx hb dX1_then_20 rfl (lv_at hl 3 rfl) ?_
  refine b_if_ne (tgt := 36) hx hb dX1_then_21 (by decide) hit (fun c5 hit => ?_) (fun c5 hit => ?_)
  · refine lv_aload_n hx hb dX1_then_36 rfl (lv_at hl 0 rfl) ?_
    refine lv_iload_n hx hb dX1_then_37 rfl (lv_at hl 2 rfl) ?_
    obtain ⟨q6, eq6, hit⟩ := o_bind hit
    obtain ⟨iq6, eq6⟩ := vc_inv eq6
    refine c_cN X (kA_F X.2.1 X.2.2 h0H) hA.1 kc_TwinInk (wC1_later l γ X.2.1 _ _ _ _ eq6) iq6 nm_X1_later q1402 q1404 q135 q1405 qs44 ⟨Nat.le_trans (Nat.le_of_ble_eq_true rfl) hR.1, Nat.le_trans (Nat.le_of_ble_eq_true rfl) hR.2⟩ hA.RR rfl rfl hl.1 (lv_room (Nat.le_of_ble_eq_true rfl)) dX1_then_38 (fun H locs hI => ?_)
    replace hA := hA.up hI
    clear hI
    obtain ⟨v7, ev7, hit⟩ := o_bind hit
    refine c_getNR X hA.1.1 kc_Service 3 q255 (Or.inl rfl) rfl rfl ev7 dX1_then_41 ?_
    refine lv_iload_n hx hb dX1_then_44 rfl (lv_at hl 1 rfl) ?_
    obtain ⟨v8, ev8, hit⟩ := o_bind hit
    refine c_iald X hA.1.1 ev8 dX1_then_45 ?_
    have he := o_in hit
    exact hend (some (.int v8)) (q6.2, q4.2) _ _ _ _ _ _ _ _ (kOut_i rfl) (by subst he; rfl) hA dX1_then_46
  · refine lv_aload_n hx hb dX1_then_24 rfl (lv_at hl 0 rfl) ?_
    refine lv_iload_n hx hb dX1_then_25 rfl (lv_at hl 2 rfl) ?_
    obtain ⟨q9, eq9, hit⟩ := o_bind hit
    obtain ⟨iq9, eq9⟩ := vc_inv eq9
    refine c_cN X (kA_F X.2.1 X.2.2 h0H) hA.1 kc_TwinInk (wC1_later l γ X.2.1 _ _ _ _ eq9) iq9 nm_X1_later q1402 q1404 q135 q1405 qs44 ⟨Nat.le_trans (Nat.le_of_ble_eq_true rfl) hR.1, Nat.le_trans (Nat.le_of_ble_eq_true rfl) hR.2⟩ hA.RR rfl rfl hl.1 (lv_room (Nat.le_of_ble_eq_true rfl)) dX1_then_26 (fun H locs hI => ?_)
    replace hA := hA.up hI
    clear hI
    refine lv_iload_n hx hb dX1_then_29 rfl (lv_at hl 1 rfl) ?_
    obtain ⟨q10, eq10, hit⟩ := o_bind hit
    obtain ⟨iq10, eq10⟩ := vc_inv eq10
    refine c_cR X hA.1.1 (fun U hU hW => hA.D X.2.1 X.2.2 h0H hU hW) kc_Service (wC3_town l γ X.2.1 _ _ _ _ eq10) iq10 nm_X3_town q1303 q470 q140 q472 q471 ⟨Nat.le_trans (Nat.le_of_ble_eq_true rfl) hR.1, Nat.le_trans (Nat.le_of_ble_eq_true rfl) hR.2⟩ hA.RR rfl rfl hl.1 (lv_room (Nat.le_of_ble_eq_true rfl)) dX1_then_30 ?_
    refine lv_goto (tgt := 46) hx hb dX1_then_33 (by decide) ?_
    have he := o_in hit
    exact hend (some (.int q10)) (q9.2, q4.2) _ _ _ _ _ _ _ _ (kOut_i rfl) (by subst he; rfl) hA dX1_then_46
noncomputable def C1_where (K : Nat → Nat) (h : CH) (r : CR) (o : Nat) (a0 : Int32) (a1 : Int32) : Option ((Int32 × CS) ⊕ XT) :=
  xg Sum.inr (vc h o 1 (xchv r (C1_aSheet h r o a0))) fun q1 =>
  (C1_in a1 0 40).bind fun q2 =>
  xg Sum.inr (xchv q1.2 (C1_right q1.1 q1.2 q2)) fun q3 =>
  (vc q3.1 o 1 (C1_later K q3.1 o a1)).bind fun q4 =>
  (vc q4.2 q4.1 3 (C3_where q4.2 q4.1 a0)).bind fun q5 =>
  some (.inl (q5, (q4.2, q3.2)))
theorem nm_X1_where : kNm yX1_where RX1 2 := by unfold kNm; decide +kernel
set_option maxHeartbeats 4000000 in
set_option maxRecDepth 100000 in
theorem wC1_where (l : Launch) (hT : l.stackTraces = false) (γ : KG) (hO : kOK γ) (h : CH) (r : CR) (o : Nat) (a0 : Int32) (a1 : Int32) (z : (Int32 × CS) ⊕ XT) (hz : C1_where γ.2.2.2.2.2 h r o a0 a1 = some z) : xMet l yX1_where (ws_ yX1_where cX1_where 3 (some .int)) 815 20411 γ (h, r) [.ref o, .int a0, .int a1] (xI z) := by
  refine x_start (cc := cX1_where) (own := RX1) hO rfl rfl rfl (fun p e R s m args below meth c Q ls X hR hnm h0H hA hl hend hthr hdir => ?_)
  have hx := X.1.1
  have hb := X.1.2.1
  have hit := hz
  clear hz
  unfold C1_where at hit
  have hl : lv_has ls 3 [(0, .ref o), (1, .int a0), (2, .int a1)] := hl
  refine lv_aload_n hx hb dX1_where_0 rfl (lv_at hl 0 rfl) ?_
  refine lv_iload_n hx hb dX1_where_1 rfl (lv_at hl 1 rfl) ?_
  rcases xg_inv hit with ⟨q1, eq1, hit⟩ | ⟨x_q1, eq1, he⟩
  rotate_left
  · obtain ⟨iq1, eq1⟩ := vc_inv eq1
    obtain ⟨eq1, lq1⟩ := xchv_r eq1
    refine t_cV X h0H hA kc_TwinInk (xMet.tv (wC1_aSheet l hT γ X.2.1 _ _ _ _ _ eq1)) lq1 iq1 nm_X1_aSheet q1279 q1281 q135 q1282 qs36 ⟨Nat.le_trans (Nat.le_of_ble_eq_true rfl) hR.1, Nat.le_trans (Nat.le_of_ble_eq_true rfl) hR.2⟩ rfl rfl hl.1 (lv_room (Nat.le_of_ble_eq_true rfl)) dX1_where_2 (fun H locs cells slots q_ hA hq => ?_)
    exact hthr _ _ _ _ _ _ _ _ _ (by subst he; rfl) hA hq
  obtain ⟨iq1, eq1⟩ := vc_inv eq1
  obtain ⟨eq1, lq1⟩ := xchv_l eq1
  refine a_cV X h0H hA kc_TwinInk (xMet.v (wC1_aSheet l hT γ X.2.1 _ _ _ _ _ eq1)) lq1 iq1 nm_X1_aSheet q1279 q1281 q135 q1282 qs36 ⟨Nat.le_trans (Nat.le_of_ble_eq_true rfl) hR.1, Nat.le_trans (Nat.le_of_ble_eq_true rfl) hR.2⟩ rfl rfl hl.1 (lv_room (Nat.le_of_ble_eq_true rfl)) dX1_where_2 (fun H locs cells slots hA => ?_)
  refine lv_iload_n hx hb dX1_where_5 rfl (lv_at hl 2 rfl) ?_
  refine lv_iconst (v := 0) hx hb dX1_where_6 (by decide) ?_
  refine lv_bipush (v := 40) hx hb dX1_where_7 (by decide) ?_
  obtain ⟨q2, eq2, hit⟩ := o_bind hit
  refine c_cP X.1 (wC1_in l _ _ _ _ eq2) nm_X1_in q333 q334 q135 q335 ⟨Nat.le_trans (Nat.le_of_ble_eq_true rfl) hR.1, Nat.le_trans (Nat.le_of_ble_eq_true rfl) hR.2⟩ hA.RR rfl rfl hl.1 (lv_room (Nat.le_of_ble_eq_true rfl)) dX1_where_9 ?_
  rcases xg_inv hit with ⟨q3, eq3, hit⟩ | ⟨x_q3, eq3, he⟩
  rotate_left
  · obtain ⟨eq3, lq3⟩ := xchv_r eq3
    refine t_cS X h0H hA nm_X1_right q691 q692 q135 q693 (xMet.tv (wC1_right l hT γ X.2.1 _ _ _ _ eq3)) lq3 ⟨Nat.le_trans (Nat.le_of_ble_eq_true rfl) hR.1, Nat.le_trans (Nat.le_of_ble_eq_true rfl) hR.2⟩ rfl rfl hl.1 (lv_room (Nat.le_of_ble_eq_true rfl)) dX1_where_12 (fun H locs cells slots q_ hA hq => ?_)
    exact hthr _ _ _ _ _ _ _ _ _ (by subst he; rfl) hA hq
  obtain ⟨eq3, lq3⟩ := xchv_l eq3
  refine a_cS X h0H hA nm_X1_right q691 q692 q135 q693 (xMet.v (wC1_right l hT γ X.2.1 _ _ _ _ eq3)) lq3 ⟨Nat.le_trans (Nat.le_of_ble_eq_true rfl) hR.1, Nat.le_trans (Nat.le_of_ble_eq_true rfl) hR.2⟩ rfl rfl hl.1 (lv_room (Nat.le_of_ble_eq_true rfl)) dX1_where_12 (fun H locs cells slots hA => ?_)
  refine lv_aload_n hx hb dX1_where_15 rfl (lv_at hl 0 rfl) ?_
  refine lv_iload_n hx hb dX1_where_16 rfl (lv_at hl 2 rfl) ?_
  obtain ⟨q4, eq4, hit⟩ := o_bind hit
  obtain ⟨iq4, eq4⟩ := vc_inv eq4
  refine c_cN X (kA_F X.2.1 X.2.2 h0H) hA.1 kc_TwinInk (wC1_later l γ X.2.1 _ _ _ _ eq4) iq4 nm_X1_later q1402 q1404 q135 q1405 qs44 ⟨Nat.le_trans (Nat.le_of_ble_eq_true rfl) hR.1, Nat.le_trans (Nat.le_of_ble_eq_true rfl) hR.2⟩ hA.RR rfl rfl hl.1 (lv_room (Nat.le_of_ble_eq_true rfl)) dX1_where_17 (fun H locs hI => ?_)
  replace hA := hA.up hI
  clear hI
  refine lv_iload_n hx hb dX1_where_20 rfl (lv_at hl 1 rfl) ?_
  obtain ⟨q5, eq5, hit⟩ := o_bind hit
  obtain ⟨iq5, eq5⟩ := vc_inv eq5
  refine c_cR X hA.1.1 (fun U hU hW => hA.D X.2.1 X.2.2 h0H hU hW) kc_Service (wC3_where l γ X.2.1 _ _ _ _ eq5) iq5 nm_X3_where q1286 q505 q140 q507 q506 ⟨Nat.le_trans (Nat.le_of_ble_eq_true rfl) hR.1, Nat.le_trans (Nat.le_of_ble_eq_true rfl) hR.2⟩ hA.RR rfl rfl hl.1 (lv_room (Nat.le_of_ble_eq_true rfl)) dX1_where_21 ?_
  have he := o_in hit
  exact hend (some (.int q5)) (q4.2, q3.2) _ _ _ _ _ _ _ _ (kOut_i rfl) (by subst he; rfl) hA dX1_where_24
noncomputable def C1_first (K : Nat → Nat) (h : CH) (r : CR) (o : Nat) (a0 : Int32) (a1 : Int32) : Option ((Int32 × CS) ⊕ XT) :=
  xg Sum.inr (vc h o 1 (xchv r (C1_aClerk h r o a0))) fun q1 =>
  xg Sum.inr (vc q1.1 o 1 (xchv q1.2 (C1_aWord q1.1 q1.2 o a1))) fun q2 =>
  (vc q2.1 o 1 (C1_knows K q2.1 o a0 a1 0)).bind fun q3 =>
  some (.inl (q3.1, (q3.2, q2.2)))
theorem nm_X1_first : kNm yX1_first RX1 2 := by unfold kNm; decide +kernel
set_option maxHeartbeats 4000000 in
set_option maxRecDepth 100000 in
theorem wC1_first (l : Launch) (hT : l.stackTraces = false) (γ : KG) (hO : kOK γ) (h : CH) (r : CR) (o : Nat) (a0 : Int32) (a1 : Int32) (z : (Int32 × CS) ⊕ XT) (hz : C1_first γ.2.2.2.2.2 h r o a0 a1 = some z) : xMet l yX1_first (ws_ yX1_first cX1_first 3 (some .int)) 814 20392 γ (h, r) [.ref o, .int a0, .int a1] (xI z) := by
  refine x_start (cc := cX1_first) (own := RX1) hO rfl rfl rfl (fun p e R s m args below meth c Q ls X hR hnm h0H hA hl hend hthr hdir => ?_)
  have hx := X.1.1
  have hb := X.1.2.1
  have hit := hz
  clear hz
  unfold C1_first at hit
  have hl : lv_has ls 3 [(0, .ref o), (1, .int a0), (2, .int a1)] := hl
  refine lv_aload_n hx hb dX1_first_0 rfl (lv_at hl 0 rfl) ?_
  refine lv_iload_n hx hb dX1_first_1 rfl (lv_at hl 1 rfl) ?_
  rcases xg_inv hit with ⟨q1, eq1, hit⟩ | ⟨x_q1, eq1, he⟩
  rotate_left
  · obtain ⟨iq1, eq1⟩ := vc_inv eq1
    obtain ⟨eq1, lq1⟩ := xchv_r eq1
    refine t_cV X h0H hA kc_TwinInk (xMet.tv (wC1_aClerk l hT γ X.2.1 _ _ _ _ _ eq1)) lq1 iq1 nm_X1_aClerk q1299 q1301 q135 q1302 qs37 ⟨Nat.le_trans (Nat.le_of_ble_eq_true rfl) hR.1, Nat.le_trans (Nat.le_of_ble_eq_true rfl) hR.2⟩ rfl rfl hl.1 (lv_room (Nat.le_of_ble_eq_true rfl)) dX1_first_2 (fun H locs cells slots q_ hA hq => ?_)
    exact hthr _ _ _ _ _ _ _ _ _ (by subst he; rfl) hA hq
  obtain ⟨iq1, eq1⟩ := vc_inv eq1
  obtain ⟨eq1, lq1⟩ := xchv_l eq1
  refine a_cV X h0H hA kc_TwinInk (xMet.v (wC1_aClerk l hT γ X.2.1 _ _ _ _ _ eq1)) lq1 iq1 nm_X1_aClerk q1299 q1301 q135 q1302 qs37 ⟨Nat.le_trans (Nat.le_of_ble_eq_true rfl) hR.1, Nat.le_trans (Nat.le_of_ble_eq_true rfl) hR.2⟩ rfl rfl hl.1 (lv_room (Nat.le_of_ble_eq_true rfl)) dX1_first_2 (fun H locs cells slots hA => ?_)
  refine lv_aload_n hx hb dX1_first_5 rfl (lv_at hl 0 rfl) ?_
  refine lv_iload_n hx hb dX1_first_6 rfl (lv_at hl 2 rfl) ?_
  rcases xg_inv hit with ⟨q2, eq2, hit⟩ | ⟨x_q2, eq2, he⟩
  rotate_left
  · obtain ⟨iq2, eq2⟩ := vc_inv eq2
    obtain ⟨eq2, lq2⟩ := xchv_r eq2
    refine t_cV X h0H hA kc_TwinInk (xMet.tv (wC1_aWord l hT γ X.2.1 _ _ _ _ _ eq2)) lq2 iq2 nm_X1_aWord q1316 q1318 q135 q1319 qs38 ⟨Nat.le_trans (Nat.le_of_ble_eq_true rfl) hR.1, Nat.le_trans (Nat.le_of_ble_eq_true rfl) hR.2⟩ rfl rfl hl.1 (lv_room (Nat.le_of_ble_eq_true rfl)) dX1_first_7 (fun H locs cells slots q_ hA hq => ?_)
    exact hthr _ _ _ _ _ _ _ _ _ (by subst he; rfl) hA hq
  obtain ⟨iq2, eq2⟩ := vc_inv eq2
  obtain ⟨eq2, lq2⟩ := xchv_l eq2
  refine a_cV X h0H hA kc_TwinInk (xMet.v (wC1_aWord l hT γ X.2.1 _ _ _ _ _ eq2)) lq2 iq2 nm_X1_aWord q1316 q1318 q135 q1319 qs38 ⟨Nat.le_trans (Nat.le_of_ble_eq_true rfl) hR.1, Nat.le_trans (Nat.le_of_ble_eq_true rfl) hR.2⟩ rfl rfl hl.1 (lv_room (Nat.le_of_ble_eq_true rfl)) dX1_first_7 (fun H locs cells slots hA => ?_)
  refine lv_aload_n hx hb dX1_first_10 rfl (lv_at hl 0 rfl) ?_
  refine lv_iload_n hx hb dX1_first_11 rfl (lv_at hl 1 rfl) ?_
  refine lv_iload_n hx hb dX1_first_12 rfl (lv_at hl 2 rfl) ?_
  refine lv_iconst (v := 0) hx hb dX1_first_13 (by decide) ?_
  obtain ⟨q3, eq3, hit⟩ := o_bind hit
  obtain ⟨iq3, eq3⟩ := vc_inv eq3
  refine c_cN X (kA_F X.2.1 X.2.2 h0H) hA.1 kc_TwinInk (wC1_knows l γ X.2.1 _ _ _ _ _ _ eq3) iq3 nm_X1_knows q1421 q1423 q135 q1424 qs45 ⟨Nat.le_trans (Nat.le_of_ble_eq_true rfl) hR.1, Nat.le_trans (Nat.le_of_ble_eq_true rfl) hR.2⟩ hA.RR rfl rfl hl.1 (lv_room (Nat.le_of_ble_eq_true rfl)) dX1_first_14 (fun H locs hI => ?_)
  replace hA := hA.up hI
  clear hI
  have he := o_in hit
  exact hend (some (.int q3.1)) (q3.2, q2.2) _ _ _ _ _ _ _ _ (kOut_i rfl) (by subst he; rfl) hA dX1_first_17
noncomputable def C1_chain (K : Nat → Nat) (h : CH) (r : CR) (o : Nat) (a0 : Int32) (a1 : Int32) : Option ((Int32 × CS) ⊕ XT) :=
  xg Sum.inr (vc h o 1 (xchv r (C1_aClerk h r o a0))) fun q1 =>
  xg Sum.inr (vc q1.1 o 1 (xchv q1.2 (C1_aWord q1.1 q1.2 o a1))) fun q2 =>
  (vc q2.1 o 1 (C1_knows K q2.1 o a0 a1 1)).bind fun q3 =>
  some (.inl (q3.1, (q3.2, q2.2)))
theorem nm_X1_chain : kNm yX1_chain RX1 2 := by unfold kNm; decide +kernel
set_option maxHeartbeats 4000000 in
set_option maxRecDepth 100000 in
theorem wC1_chain (l : Launch) (hT : l.stackTraces = false) (γ : KG) (hO : kOK γ) (h : CH) (r : CR) (o : Nat) (a0 : Int32) (a1 : Int32) (z : (Int32 × CS) ⊕ XT) (hz : C1_chain γ.2.2.2.2.2 h r o a0 a1 = some z) : xMet l yX1_chain (ws_ yX1_chain cX1_chain 3 (some .int)) 814 20392 γ (h, r) [.ref o, .int a0, .int a1] (xI z) := by
  refine x_start (cc := cX1_chain) (own := RX1) hO rfl rfl rfl (fun p e R s m args below meth c Q ls X hR hnm h0H hA hl hend hthr hdir => ?_)
  have hx := X.1.1
  have hb := X.1.2.1
  have hit := hz
  clear hz
  unfold C1_chain at hit
  have hl : lv_has ls 3 [(0, .ref o), (1, .int a0), (2, .int a1)] := hl
  refine lv_aload_n hx hb dX1_chain_0 rfl (lv_at hl 0 rfl) ?_
  refine lv_iload_n hx hb dX1_chain_1 rfl (lv_at hl 1 rfl) ?_
  rcases xg_inv hit with ⟨q1, eq1, hit⟩ | ⟨x_q1, eq1, he⟩
  rotate_left
  · obtain ⟨iq1, eq1⟩ := vc_inv eq1
    obtain ⟨eq1, lq1⟩ := xchv_r eq1
    refine t_cV X h0H hA kc_TwinInk (xMet.tv (wC1_aClerk l hT γ X.2.1 _ _ _ _ _ eq1)) lq1 iq1 nm_X1_aClerk q1299 q1301 q135 q1302 qs37 ⟨Nat.le_trans (Nat.le_of_ble_eq_true rfl) hR.1, Nat.le_trans (Nat.le_of_ble_eq_true rfl) hR.2⟩ rfl rfl hl.1 (lv_room (Nat.le_of_ble_eq_true rfl)) dX1_chain_2 (fun H locs cells slots q_ hA hq => ?_)
    exact hthr _ _ _ _ _ _ _ _ _ (by subst he; rfl) hA hq
  obtain ⟨iq1, eq1⟩ := vc_inv eq1
  obtain ⟨eq1, lq1⟩ := xchv_l eq1
  refine a_cV X h0H hA kc_TwinInk (xMet.v (wC1_aClerk l hT γ X.2.1 _ _ _ _ _ eq1)) lq1 iq1 nm_X1_aClerk q1299 q1301 q135 q1302 qs37 ⟨Nat.le_trans (Nat.le_of_ble_eq_true rfl) hR.1, Nat.le_trans (Nat.le_of_ble_eq_true rfl) hR.2⟩ rfl rfl hl.1 (lv_room (Nat.le_of_ble_eq_true rfl)) dX1_chain_2 (fun H locs cells slots hA => ?_)
  refine lv_aload_n hx hb dX1_chain_5 rfl (lv_at hl 0 rfl) ?_
  refine lv_iload_n hx hb dX1_chain_6 rfl (lv_at hl 2 rfl) ?_
  rcases xg_inv hit with ⟨q2, eq2, hit⟩ | ⟨x_q2, eq2, he⟩
  rotate_left
  · obtain ⟨iq2, eq2⟩ := vc_inv eq2
    obtain ⟨eq2, lq2⟩ := xchv_r eq2
    refine t_cV X h0H hA kc_TwinInk (xMet.tv (wC1_aWord l hT γ X.2.1 _ _ _ _ _ eq2)) lq2 iq2 nm_X1_aWord q1316 q1318 q135 q1319 qs38 ⟨Nat.le_trans (Nat.le_of_ble_eq_true rfl) hR.1, Nat.le_trans (Nat.le_of_ble_eq_true rfl) hR.2⟩ rfl rfl hl.1 (lv_room (Nat.le_of_ble_eq_true rfl)) dX1_chain_7 (fun H locs cells slots q_ hA hq => ?_)
    exact hthr _ _ _ _ _ _ _ _ _ (by subst he; rfl) hA hq
  obtain ⟨iq2, eq2⟩ := vc_inv eq2
  obtain ⟨eq2, lq2⟩ := xchv_l eq2
  refine a_cV X h0H hA kc_TwinInk (xMet.v (wC1_aWord l hT γ X.2.1 _ _ _ _ _ eq2)) lq2 iq2 nm_X1_aWord q1316 q1318 q135 q1319 qs38 ⟨Nat.le_trans (Nat.le_of_ble_eq_true rfl) hR.1, Nat.le_trans (Nat.le_of_ble_eq_true rfl) hR.2⟩ rfl rfl hl.1 (lv_room (Nat.le_of_ble_eq_true rfl)) dX1_chain_7 (fun H locs cells slots hA => ?_)
  refine lv_aload_n hx hb dX1_chain_10 rfl (lv_at hl 0 rfl) ?_
  refine lv_iload_n hx hb dX1_chain_11 rfl (lv_at hl 1 rfl) ?_
  refine lv_iload_n hx hb dX1_chain_12 rfl (lv_at hl 2 rfl) ?_
  refine lv_iconst (v := 1) hx hb dX1_chain_13 (by decide) ?_
  obtain ⟨q3, eq3, hit⟩ := o_bind hit
  obtain ⟨iq3, eq3⟩ := vc_inv eq3
  refine c_cN X (kA_F X.2.1 X.2.2 h0H) hA.1 kc_TwinInk (wC1_knows l γ X.2.1 _ _ _ _ _ _ eq3) iq3 nm_X1_knows q1421 q1423 q135 q1424 qs45 ⟨Nat.le_trans (Nat.le_of_ble_eq_true rfl) hR.1, Nat.le_trans (Nat.le_of_ble_eq_true rfl) hR.2⟩ hA.RR rfl rfl hl.1 (lv_room (Nat.le_of_ble_eq_true rfl)) dX1_chain_14 (fun H locs hI => ?_)
  replace hA := hA.up hI
  clear hI
  have he := o_in hit
  exact hend (some (.int q3.1)) (q3.2, q2.2) _ _ _ _ _ _ _ _ (kOut_i rfl) (by subst he; rfl) hA dX1_chain_17
noncomputable def C1_read_L29 (o : Nat) (q4 : Nat × CH) (t5 : Int32 × Int32 × Int32) : Option ((Int32 × Int32 × Int32) ⊕ ((Int32 × Int32) ⊕ XT)) :=
  (gR q4.2 o 1 1).bind fun v9 =>
  (vc q4.2 v9 2 (C2_clerks q4.2 v9)).bind fun q10 =>
  if t5.2.2 < q10 then
    ((gR q4.2 o 1 3).bind fun v12 =>
    (gR q4.2 v12 3 3).bind fun v13 =>
    (aI q4.2 v13 0 t5.2.2).bind fun v14 =>
    (gR q4.2 o 1 3).bind fun v15 =>
    (gR q4.2 v15 3 3).bind fun v16 =>
    (aI q4.2 v16 0 t5.2.2).bind fun v17 =>
    some (.inl ((t5.1 ||| v17), (t5.2.1 ||| (t5.1 &&& v14)), (t5.2.2 + 1))))
  else
    (some (.inr (.inl (t5.1, t5.2.1))))
noncomputable def C1_read (K : Nat → Nat) (h : CH) (r : CR) (o : Nat) (a0 : Int32) (a1 : Int32) : Option ((Int32 × CS) ⊕ XT) :=
  xg Sum.inr (xchv r (C1_oneOf h r a1 1)) fun q1 =>
  (C1_in a0 0 40).bind fun q2 =>
  xg Sum.inr (xchv q1.2 (C1_right q1.1 q1.2 q2)) fun q3 =>
  (vc q3.1 o 1 (C1_later K q3.1 o a0)).bind fun q4 =>
  xg Sum.inr (o_loop (C1_read_L29 o q4) (0, 0, 0)) fun r7 =>
  if a1 = 0 then
    (some (.inl (r7.1, (q4.2, q3.2))))
  else
    (some (.inl ((r7.1 &&& (r7.2 ^^^ (-1))), (q4.2, q3.2))))
theorem nm_X1_read : kNm yX1_read RX1 2 := by unfold kNm; decide +kernel
set_option maxHeartbeats 4000000 in
set_option maxRecDepth 100000 in
theorem wC1_read (l : Launch) (hT : l.stackTraces = false) (γ : KG) (hO : kOK γ) (h : CH) (r : CR) (o : Nat) (a0 : Int32) (a1 : Int32) (z : (Int32 × CS) ⊕ XT) (hz : C1_read γ.2.2.2.2.2 h r o a0 a1 = some z) : xMet l yX1_read (ws_ yX1_read cX1_read 6 (some .int)) 815 20411 γ (h, r) [.ref o, .int a0, .int a1] (xI z) := by
  refine x_start (cc := cX1_read) (own := RX1) hO rfl rfl rfl (fun p e R s m args below meth c Q ls X hR hnm h0H hA hl hend hthr hdir => ?_)
  have hx := X.1.1
  have hb := X.1.2.1
  have hit := hz
  clear hz
  unfold C1_read at hit
  have hl : lv_has ls 6 [(0, .ref o), (1, .int a0), (2, .int a1)] := hl
  refine lv_iload_n hx hb dX1_read_0 rfl (lv_at hl 2 rfl) ?_
  refine lv_iconst (v := 1) hx hb dX1_read_1 (by decide) ?_
  rcases xg_inv hit with ⟨q1, eq1, hit⟩ | ⟨x_q1, eq1, he⟩
  rotate_left
  · obtain ⟨eq1, lq1⟩ := xchv_r eq1
    refine t_cS X h0H hA nm_X1_oneOf q1283 q1284 q135 q1285 (xMet.tv (wC1_oneOf l hT γ X.2.1 _ _ _ _ _ eq1)) lq1 ⟨Nat.le_trans (Nat.le_of_ble_eq_true rfl) hR.1, Nat.le_trans (Nat.le_of_ble_eq_true rfl) hR.2⟩ rfl rfl hl.1 (lv_room (Nat.le_of_ble_eq_true rfl)) dX1_read_2 (fun H locs cells slots q_ hA hq => ?_)
    exact hthr _ _ _ _ _ _ _ _ _ (by subst he; rfl) hA hq
  obtain ⟨eq1, lq1⟩ := xchv_l eq1
  refine a_cS X h0H hA nm_X1_oneOf q1283 q1284 q135 q1285 (xMet.v (wC1_oneOf l hT γ X.2.1 _ _ _ _ _ eq1)) lq1 ⟨Nat.le_trans (Nat.le_of_ble_eq_true rfl) hR.1, Nat.le_trans (Nat.le_of_ble_eq_true rfl) hR.2⟩ rfl rfl hl.1 (lv_room (Nat.le_of_ble_eq_true rfl)) dX1_read_2 (fun H locs cells slots hA => ?_)
  refine lv_iload_n hx hb dX1_read_5 rfl (lv_at hl 1 rfl) ?_
  refine lv_iconst (v := 0) hx hb dX1_read_6 (by decide) ?_
  refine lv_bipush (v := 40) hx hb dX1_read_7 (by decide) ?_
  obtain ⟨q2, eq2, hit⟩ := o_bind hit
  refine c_cP X.1 (wC1_in l _ _ _ _ eq2) nm_X1_in q333 q334 q135 q335 ⟨Nat.le_trans (Nat.le_of_ble_eq_true rfl) hR.1, Nat.le_trans (Nat.le_of_ble_eq_true rfl) hR.2⟩ hA.RR rfl rfl hl.1 (lv_room (Nat.le_of_ble_eq_true rfl)) dX1_read_9 ?_
  rcases xg_inv hit with ⟨q3, eq3, hit⟩ | ⟨x_q3, eq3, he⟩
  rotate_left
  · obtain ⟨eq3, lq3⟩ := xchv_r eq3
    refine t_cS X h0H hA nm_X1_right q691 q692 q135 q693 (xMet.tv (wC1_right l hT γ X.2.1 _ _ _ _ eq3)) lq3 ⟨Nat.le_trans (Nat.le_of_ble_eq_true rfl) hR.1, Nat.le_trans (Nat.le_of_ble_eq_true rfl) hR.2⟩ rfl rfl hl.1 (lv_room (Nat.le_of_ble_eq_true rfl)) dX1_read_12 (fun H locs cells slots q_ hA hq => ?_)
    exact hthr _ _ _ _ _ _ _ _ _ (by subst he; rfl) hA hq
  obtain ⟨eq3, lq3⟩ := xchv_l eq3
  refine a_cS X h0H hA nm_X1_right q691 q692 q135 q693 (xMet.v (wC1_right l hT γ X.2.1 _ _ _ _ eq3)) lq3 ⟨Nat.le_trans (Nat.le_of_ble_eq_true rfl) hR.1, Nat.le_trans (Nat.le_of_ble_eq_true rfl) hR.2⟩ rfl rfl hl.1 (lv_room (Nat.le_of_ble_eq_true rfl)) dX1_read_12 (fun H locs cells slots hA => ?_)
  refine lv_aload_n hx hb dX1_read_15 rfl (lv_at hl 0 rfl) ?_
  refine lv_iload_n hx hb dX1_read_16 rfl (lv_at hl 1 rfl) ?_
  obtain ⟨q4, eq4, hit⟩ := o_bind hit
  obtain ⟨iq4, eq4⟩ := vc_inv eq4
  refine c_cN X (kA_F X.2.1 X.2.2 h0H) hA.1 kc_TwinInk (wC1_later l γ X.2.1 _ _ _ _ eq4) iq4 nm_X1_later q1402 q1404 q135 q1405 qs44 ⟨Nat.le_trans (Nat.le_of_ble_eq_true rfl) hR.1, Nat.le_trans (Nat.le_of_ble_eq_true rfl) hR.2⟩ hA.RR rfl rfl hl.1 (lv_room (Nat.le_of_ble_eq_true rfl)) dX1_read_17 (fun H locs hI => ?_)
  replace hA := hA.up hI
  clear hI
  refine lv_pop hx hb dX1_read_20 rfl ?_
  refine lv_iconst (v := 0) hx hb dX1_read_21 (by decide) ?_
  refine lv_istore_n (lv' := [(3, .int 0), (0, .ref o), (1, .int a0), (2, .int a1)]) hx hb dX1_read_22 rfl hl (by decide) rfl (fun ls hl => ?_)
  refine lv_iconst (v := 0) hx hb dX1_read_23 (by decide) ?_
  refine lv_istore (lv' := [(4, .int 0), (3, .int 0), (0, .ref o), (1, .int a0), (2, .int a1)]) hx hb dX1_read_24 hl (by decide) rfl (fun ls hl => ?_)
  refine lv_iconst (v := 0) hx hb dX1_read_26 (by decide) ?_
  refine lv_istore (lv' := [(5, .int 0), (4, .int 0), (3, .int 0), (0, .ref o), (1, .int a0), (2, .int a1)]) hx hb dX1_read_27 hl (by decide) rfl (fun ls hl => ?_)
  obtain ⟨wr7, er7, hxr7⟩ := xg_bind hit
  have hr7 : ∀ (r7 : Int32 × Int32), wr7 = .inl r7 → ∀ (H : Heap) (locs : List Loc) (cells slots : Nat) (ls : Array Slot), AI γ (h, r) s R q4.2 q3.2 H locs cells slots → lv_has ls 6 [(2, .int a1), (3, .int r7.1), (4, .int r7.2)] → W p l e R s m args below meth c H locs cells slots Q (F0 m 77 ls []) := by
    intro r7 hw_ H locs cells slots ls hA hl
    have hit := xk_l hxr7 hw_
    refine lv_iload_n hx hb dX1_read_77 rfl (lv_at hl 0 rfl) ?_
    refine b_if_ne (tgt := 85) hx hb dX1_read_78 (by decide) hit (fun c8 hit => ?_) (fun c8 hit => ?_)
    · refine lv_iload_n hx hb dX1_read_85 rfl (lv_at hl 1 rfl) ?_
      refine lv_iload hx hb dX1_read_86 (lv_at hl 2 rfl) ?_
      refine lv_iconst (v := (-1)) hx hb dX1_read_88 (by decide) ?_
      refine lv_ixor hx hb dX1_read_89 ?_
      refine lv_iand hx hb dX1_read_90 ?_
      have he := o_in hit
      exact hend (some (.int (r7.1 &&& (r7.2 ^^^ (-1))))) (q4.2, q3.2) _ _ _ _ _ _ _ _ (kOut_i rfl) (by subst he; rfl) hA dX1_read_91
    · refine lv_iload_n hx hb dX1_read_81 rfl (lv_at hl 1 rfl) ?_
      refine lv_goto (tgt := 91) hx hb dX1_read_82 (by decide) ?_
      have he := o_in hit
      exact hend (some (.int r7.1)) (q4.2, q3.2) _ _ _ _ _ _ _ _ (kOut_i rfl) (by subst he; rfl) hA dX1_read_91
  refine o_rec (P := fun t5 => ∀ (H : Heap) (locs : List Loc) (cells slots : Nat) (ls : Array Slot), AI γ (h, r) s R q4.2 q3.2 H locs cells slots → lv_has ls 6 [(0, .ref o), (2, .int a1), (3, .int t5.1), (4, .int t5.2.1), (5, .int t5.2.2)] → W p l e R s m args below meth c H locs cells slots Q (F0 m 29 ls [])) (fun t5 x6 hit hC5 hE5 H locs cells slots ls hA hl => ?_) _ er7 _ _ _ _ _ hA (lv_sub hl [3, 5, 2, 1, 0] rfl)
  unfold C1_read_L29 at hit
  refine lv_iload hx hb dX1_read_29 (lv_at hl 4 rfl) ?_
  refine lv_aload_n hx hb dX1_read_31 rfl (lv_at hl 0 rfl) ?_
  obtain ⟨v9, ev9, hit⟩ := o_bind hit
  refine c_getR X hA.1.1 kc_TwinInk 1 q277 (Or.inl rfl) rfl rfl ev9 dX1_read_32 ?_
  obtain ⟨q10, eq10, hit⟩ := o_bind hit
  obtain ⟨iq10, eq10⟩ := vc_inv eq10
  refine c_cR X hA.1.1 (fun U hU hW => hA.D X.2.1 X.2.2 h0H hU hW) kc_Office (wC2_clerks l γ X.2.1 _ _  _ eq10) iq10 nm_X2_clerks q1231 q464 q136 q466 q465 ⟨Nat.le_trans (Nat.le_of_ble_eq_true rfl) hR.1, Nat.le_trans (Nat.le_of_ble_eq_true rfl) hR.2⟩ hA.RR rfl rfl hl.1 (lv_room (Nat.le_of_ble_eq_true rfl)) dX1_read_35 ?_
  refine b_icmp_ge (tgt := 77) hx hb dX1_read_38 (by decide) hit (fun c11 hit => ?_) (fun c11 hit => ?_)
  · have he := o_in hit
    have he := hE5 _ he
    exact hr7 _ he.symm _ _ _ _ _ hA (lv_sub hl [1, 2, 3] rfl)
  · refine lv_iload hx hb dX1_read_41 (lv_at hl 3 rfl) ?_
    refine lv_iload_n hx hb dX1_read_43 rfl (lv_at hl 2 rfl) ?_
    refine lv_aload_n hx hb dX1_read_44 rfl (lv_at hl 0 rfl) ?_
    obtain ⟨v12, ev12, hit⟩ := o_bind hit
    refine c_getR X hA.1.1 kc_TwinInk 3 q279 (Or.inl rfl) rfl rfl ev12 dX1_read_45 ?_
    obtain ⟨v13, ev13, hit⟩ := o_bind hit
    refine c_getNR X hA.1.1 kc_Service 3 q255 (Or.inl rfl) rfl rfl ev13 dX1_read_48 ?_
    refine lv_iload hx hb dX1_read_51 (lv_at hl 4 rfl) ?_
    obtain ⟨v14, ev14, hit⟩ := o_bind hit
    refine c_iald X hA.1.1 ev14 dX1_read_53 ?_
    refine lv_iand hx hb dX1_read_54 ?_
    refine lv_ior hx hb dX1_read_55 ?_
    refine lv_istore (lv' := [(4, .int (t5.2.1 ||| (t5.1 &&& v14))), (0, .ref o), (2, .int a1), (3, .int t5.1), (5, .int t5.2.2)]) hx hb dX1_read_56 hl (by decide) rfl (fun ls hl => ?_)
    refine lv_iload_n hx hb dX1_read_58 rfl (lv_at hl 3 rfl) ?_
    refine lv_aload_n hx hb dX1_read_59 rfl (lv_at hl 1 rfl) ?_
    obtain ⟨v15, ev15, hit⟩ := o_bind hit
    refine c_getR X hA.1.1 kc_TwinInk 3 q279 (Or.inl rfl) rfl rfl ev15 dX1_read_60 ?_
    obtain ⟨v16, ev16, hit⟩ := o_bind hit
    refine c_getNR X hA.1.1 kc_Service 3 q255 (Or.inl rfl) rfl rfl ev16 dX1_read_63 ?_
    refine lv_iload hx hb dX1_read_66 (lv_at hl 4 rfl) ?_
    obtain ⟨v17, ev17, hit⟩ := o_bind hit
    refine c_iald X hA.1.1 ev17 dX1_read_68 ?_
    refine lv_ior hx hb dX1_read_69 ?_
    refine lv_istore_n (lv' := [(3, .int (t5.1 ||| v17)), (4, .int (t5.2.1 ||| (t5.1 &&& v14))), (0, .ref o), (2, .int a1), (5, .int t5.2.2)]) hx hb dX1_read_70 rfl hl (by decide) rfl (fun ls hl => ?_)
    refine lv_iinc (k := 4) (v := (t5.2.2 + 1)) (lv' := [(5, .int (t5.2.2 + 1)), (3, .int (t5.1 ||| v17)), (4, .int (t5.2.1 ||| (t5.1 &&& v14))), (0, .ref o), (2, .int a1)]) hx hb dX1_read_71 hl rfl rfl (by decide) rfl (fun ls hl => ?_)
    refine lv_goto (tgt := 29) hx hb dX1_read_74 (by decide) ?_
    have he := o_in hit
    exact hC5 _ he _ _ _ _ _ hA (lv_sub hl [3, 4, 1, 2, 0] rfl)
