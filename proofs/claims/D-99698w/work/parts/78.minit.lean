theorem kc_Model : kCls 0 RX4 TX4 62 tyX4 := ⟨rfl, in_X4, tyX4_ok, nmX4⟩
noncomputable def C4_init (h : CH) (r : CR) (o : Nat) : Option (CS) :=
  (pI h o 0 5 (-1)).bind fun s1 =>
  (pI s1 o 0 6 (-1)).bind fun s2 =>
  (aArr s2 r 0 36).bind fun s3 =>
  (pQ s3.1 o 0 7 (some r.1)).bind fun s4 =>
  (aArr s4 s3.2 0 6).bind fun s5 =>
  (pQ s5.1 o 0 8 (some s3.2.1)).bind fun s6 =>
  (aArr s6 s5.2 0 12).bind fun s7 =>
  (pQ s7.1 o 0 9 (some s5.2.1)).bind fun s8 =>
  (aArr s8 s7.2 0 12).bind fun s9 =>
  (pQ s9.1 o 0 10 (some s7.2.1)).bind fun s10 =>
  (aArr s10 s9.2 0 1400).bind fun s11 =>
  (pQ s11.1 o 0 11 (some s9.2.1)).bind fun s12 =>
  (aArr s12 s11.2 0 700).bind fun s13 =>
  (pQ s13.1 o 0 12 (some s11.2.1)).bind fun s14 =>
  (pI s14 o 0 15 (-1)).bind fun s15 =>
  (aArr s15 s13.2 0 3).bind fun s16 =>
  (pQ s16.1 o 0 16 (some s13.2.1)).bind fun s17 =>
  (aArr s17 s16.2 0 36).bind fun s18 =>
  (pQ s18.1 o 0 36 (some s16.2.1)).bind fun s19 =>
  (aArr s19 s18.2 0 6).bind fun s20 =>
  (pQ s20.1 o 0 37 (some s18.2.1)).bind fun s21 =>
  (aArr s21 s20.2 0 12).bind fun s22 =>
  (pQ s22.1 o 0 38 (some s20.2.1)).bind fun s23 =>
  (aArr s23 s22.2 0 12).bind fun s24 =>
  (pQ s24.1 o 0 39 (some s22.2.1)).bind fun s25 =>
  (aArr s25 s24.2 0 34).bind fun s26 =>
  (pQ s26.1 o 0 40 (some s24.2.1)).bind fun s27 =>
  (aArr s27 s26.2 0 1400).bind fun s28 =>
  (pQ s28.1 o 0 41 (some s26.2.1)).bind fun s29 =>
  (aArr s29 s28.2 0 950).bind fun s30 =>
  (pQ s30.1 o 0 42 (some s28.2.1)).bind fun s31 =>
  (aArr s31 s30.2 1 9).bind fun s32 =>
  (pQ s32.1 o 0 43 (some s30.2.1)).bind fun s33 =>
  (aArr s33 s32.2 0 68).bind fun s34 =>
  (pQ s34.1 o 0 44 (some s32.2.1)).bind fun s35 =>
  (aArr s35 s34.2 0 1360).bind fun s36 =>
  (pQ s36.1 o 0 45 (some s34.2.1)).bind fun s37 =>
  (aArr s37 s36.2 0 9).bind fun s38 =>
  (pQ s38.1 o 0 47 (some s36.2.1)).bind fun s39 =>
  (aArr s39 s38.2 0 950).bind fun s40 =>
  (pQ s40.1 o 0 48 (some s38.2.1)).bind fun s41 =>
  (aArr s41 s40.2 0 512).bind fun s42 =>
  (pQ s42.1 o 0 49 (some s40.2.1)).bind fun s43 =>
  (aArr s43 s42.2 0 5120).bind fun s44 =>
  (pQ s44.1 o 0 50 (some s42.2.1)).bind fun s45 =>
  (aArr s45 s44.2 0 32).bind fun s46 =>
  (pQ s46.1 o 0 52 (some s44.2.1)).bind fun s47 =>
  (aArr s47 s46.2 0 6).bind fun s48 =>
  (pQ s48.1 o 0 53 (some s46.2.1)).bind fun s49 =>
  (aArr s49 s48.2 0 324).bind fun s50 =>
  (pQ s50.1 o 0 54 (some s48.2.1)).bind fun s51 =>
  (aArr s51 s50.2 0 34).bind fun s52 =>
  (pQ s52.1 o 0 59 (some s50.2.1)).bind fun s53 =>
  (aArr s53 s52.2 0 1360).bind fun s54 =>
  (pQ s54.1 o 0 60 (some s52.2.1)).bind fun s55 =>
  (aArr s55 s54.2 0 32).bind fun s56 =>
  (pQ s56.1 o 0 61 (some s54.2.1)).bind fun s57 =>
  some (s57, s56.2)
theorem nm_X4_init : kNm yX4_init RX4 0 := by unfold kNm; decide +kernel
set_option maxHeartbeats 4000000 in
set_option maxRecDepth 100000 in
theorem wC4_init (l : Launch) (γ : KG) (hO : kOK γ) (h : CH) (r : CR) (o : Nat) (z : CS) (hz : C4_init h r o = some z) : aMet l yX4_init (ws_ yX4_init cX4_init 1 none) 1 30 γ (h, r) [.ref o] none z := by
  refine a_start (cc := cX4_init) (own := RX4) hO rfl rfl rfl (fun p e R s m args below meth c Q ls X hR hnm h0H hA hl hend => ?_)
  have hin2 : meth.name = "<init>" := hnm
  have hx := X.1.1
  have hb := X.1.2.1
  have hit := hz
  clear hz
  unfold C4_init at hit
  have hl : lv_has ls 1 [(0, .ref o)] := hl
  refine lv_aload_n hx hb dX4_init_0 rfl (lv_at hl 0 rfl) ?_
  refine b_objInit X.1 hl.1 q1643 ⟨Nat.le_trans (Nat.le_of_ble_eq_true rfl) hR.1, Nat.le_trans (Nat.le_of_ble_eq_true rfl) hR.2⟩ (Nat.le_of_ble_eq_true rfl) dX4_init_1 ?_
  refine lv_aload_n hx hb dX4_init_4 rfl (lv_at hl 0 rfl) ?_
  refine lv_iconst (v := (-1)) hx hb dX4_init_5 (by decide) ?_
  obtain ⟨s1, es1, hit⟩ := o_bind hit
  refine c_putI X hA.1 kc_Model 5 q1649 (Or.inl rfl) rfl rfl (tyv := .int) rfl rfl rfl es1 dX4_init_6 (fun H locs hI => ?_)
  replace hA := hA.up hI
  clear hI
  refine lv_aload_n hx hb dX4_init_9 rfl (lv_at hl 0 rfl) ?_
  refine lv_iconst (v := (-1)) hx hb dX4_init_10 (by decide) ?_
  obtain ⟨s2, es2, hit⟩ := o_bind hit
  refine c_putI X hA.1 kc_Model 6 q1650 (Or.inl rfl) rfl rfl (tyv := .int) rfl rfl rfl es2 dX4_init_11 (fun H locs hI => ?_)
  replace hA := hA.up hI
  clear hI
  refine lv_aload_n hx hb dX4_init_14 rfl (lv_at hl 0 rfl) ?_
  refine lv_bipush (v := 36) hx hb dX4_init_15 (by decide) ?_
  obtain ⟨s3, es3, hit⟩ := o_bind hit
  refine a_newI X hA es3 dX4_init_17 (fun H cells slots hA => ?_)
  obtain ⟨s4, es4, hit⟩ := o_bind hit
  refine c_putFQ X hin2 hA.1 kc_Model 7 q1651 rfl rfl (v := (some r.1)) (tyv := (.array .int)) rfl (Or.inr ⟨_, rfl⟩) es4 dX4_init_19 (fun H locs hI => ?_)
  replace hA := hA.up hI
  clear hI
  refine lv_aload_n hx hb dX4_init_22 rfl (lv_at hl 0 rfl) ?_
  refine lv_bipush (v := 6) hx hb dX4_init_23 (by decide) ?_
  obtain ⟨s5, es5, hit⟩ := o_bind hit
  refine a_newI X hA es5 dX4_init_25 (fun H cells slots hA => ?_)
  obtain ⟨s6, es6, hit⟩ := o_bind hit
  refine c_putFQ X hin2 hA.1 kc_Model 8 q1652 rfl rfl (v := (some s3.2.1)) (tyv := (.array .int)) rfl (Or.inr ⟨_, rfl⟩) es6 dX4_init_27 (fun H locs hI => ?_)
  replace hA := hA.up hI
  clear hI
  refine lv_aload_n hx hb dX4_init_30 rfl (lv_at hl 0 rfl) ?_
  refine lv_bipush (v := 12) hx hb dX4_init_31 (by decide) ?_
  obtain ⟨s7, es7, hit⟩ := o_bind hit
  refine a_newI X hA es7 dX4_init_33 (fun H cells slots hA => ?_)
  obtain ⟨s8, es8, hit⟩ := o_bind hit
  refine c_putFQ X hin2 hA.1 kc_Model 9 q1653 rfl rfl (v := (some s5.2.1)) (tyv := (.array .int)) rfl (Or.inr ⟨_, rfl⟩) es8 dX4_init_35 (fun H locs hI => ?_)
  replace hA := hA.up hI
  clear hI
  refine lv_aload_n hx hb dX4_init_38 rfl (lv_at hl 0 rfl) ?_
  refine lv_bipush (v := 12) hx hb dX4_init_39 (by decide) ?_
  obtain ⟨s9, es9, hit⟩ := o_bind hit
  refine a_newI X hA es9 dX4_init_41 (fun H cells slots hA => ?_)
  obtain ⟨s10, es10, hit⟩ := o_bind hit
  refine c_putFQ X hin2 hA.1 kc_Model 10 q1654 rfl rfl (v := (some s7.2.1)) (tyv := (.array .int)) rfl (Or.inr ⟨_, rfl⟩) es10 dX4_init_43 (fun H locs hI => ?_)
  replace hA := hA.up hI
  clear hI
  refine lv_aload_n hx hb dX4_init_46 rfl (lv_at hl 0 rfl) ?_
  refine lv_sipush (v := 1400) hx hb dX4_init_47 (by decide) ?_
  obtain ⟨s11, es11, hit⟩ := o_bind hit
  refine a_newI X hA es11 dX4_init_50 (fun H cells slots hA => ?_)
  obtain ⟨s12, es12, hit⟩ := o_bind hit
  refine c_putFQ X hin2 hA.1 kc_Model 11 q1655 rfl rfl (v := (some s9.2.1)) (tyv := (.array .int)) rfl (Or.inr ⟨_, rfl⟩) es12 dX4_init_52 (fun H locs hI => ?_)
  replace hA := hA.up hI
  clear hI
  refine lv_aload_n hx hb dX4_init_55 rfl (lv_at hl 0 rfl) ?_
  refine lv_sipush (v := 700) hx hb dX4_init_56 (by decide) ?_
  obtain ⟨s13, es13, hit⟩ := o_bind hit
  refine a_newI X hA es13 dX4_init_59 (fun H cells slots hA => ?_)
  obtain ⟨s14, es14, hit⟩ := o_bind hit
  refine c_putFQ X hin2 hA.1 kc_Model 12 q1656 rfl rfl (v := (some s11.2.1)) (tyv := (.array .int)) rfl (Or.inr ⟨_, rfl⟩) es14 dX4_init_61 (fun H locs hI => ?_)
  replace hA := hA.up hI
  clear hI
  refine lv_aload_n hx hb dX4_init_64 rfl (lv_at hl 0 rfl) ?_
  refine lv_iconst (v := (-1)) hx hb dX4_init_65 (by decide) ?_
  obtain ⟨s15, es15, hit⟩ := o_bind hit
  refine c_putI X hA.1 kc_Model 15 q1659 (Or.inl rfl) rfl rfl (tyv := .int) rfl rfl rfl es15 dX4_init_66 (fun H locs hI => ?_)
  replace hA := hA.up hI
  clear hI
  refine lv_aload_n hx hb dX4_init_69 rfl (lv_at hl 0 rfl) ?_
  refine lv_iconst (v := 3) hx hb dX4_init_70 (by decide) ?_
  obtain ⟨s16, es16, hit⟩ := o_bind hit
  refine a_newI X hA es16 dX4_init_71 (fun H cells slots hA => ?_)
  obtain ⟨s17, es17, hit⟩ := o_bind hit
  refine c_putFQ X hin2 hA.1 kc_Model 16 q1660 rfl rfl (v := (some s13.2.1)) (tyv := (.array .int)) rfl (Or.inr ⟨_, rfl⟩) es17 dX4_init_73 (fun H locs hI => ?_)
  replace hA := hA.up hI
  clear hI
  refine lv_aload_n hx hb dX4_init_76 rfl (lv_at hl 0 rfl) ?_
  refine lv_bipush (v := 36) hx hb dX4_init_77 (by decide) ?_
  obtain ⟨s18, es18, hit⟩ := o_bind hit
  refine a_newI X hA es18 dX4_init_79 (fun H cells slots hA => ?_)
  obtain ⟨s19, es19, hit⟩ := o_bind hit
  refine c_putFQ X hin2 hA.1 kc_Model 36 q1680 rfl rfl (v := (some s16.2.1)) (tyv := (.array .int)) rfl (Or.inr ⟨_, rfl⟩) es19 dX4_init_81 (fun H locs hI => ?_)
  replace hA := hA.up hI
  clear hI
  refine lv_aload_n hx hb dX4_init_84 rfl (lv_at hl 0 rfl) ?_
  refine lv_bipush (v := 6) hx hb dX4_init_85 (by decide) ?_
  obtain ⟨s20, es20, hit⟩ := o_bind hit
  refine a_newI X hA es20 dX4_init_87 (fun H cells slots hA => ?_)
  obtain ⟨s21, es21, hit⟩ := o_bind hit
  refine c_putFQ X hin2 hA.1 kc_Model 37 q1681 rfl rfl (v := (some s18.2.1)) (tyv := (.array .int)) rfl (Or.inr ⟨_, rfl⟩) es21 dX4_init_89 (fun H locs hI => ?_)
  replace hA := hA.up hI
  clear hI
  refine lv_aload_n hx hb dX4_init_92 rfl (lv_at hl 0 rfl) ?_
  refine lv_bipush (v := 12) hx hb dX4_init_93 (by decide) ?_
  obtain ⟨s22, es22, hit⟩ := o_bind hit
  refine a_newI X hA es22 dX4_init_95 (fun H cells slots hA => ?_)
  obtain ⟨s23, es23, hit⟩ := o_bind hit
  refine c_putFQ X hin2 hA.1 kc_Model 38 q1682 rfl rfl (v := (some s20.2.1)) (tyv := (.array .int)) rfl (Or.inr ⟨_, rfl⟩) es23 dX4_init_97 (fun H locs hI => ?_)
  replace hA := hA.up hI
  clear hI
  refine lv_aload_n hx hb dX4_init_100 rfl (lv_at hl 0 rfl) ?_
  refine lv_bipush (v := 12) hx hb dX4_init_101 (by decide) ?_
  obtain ⟨s24, es24, hit⟩ := o_bind hit
  refine a_newI X hA es24 dX4_init_103 (fun H cells slots hA => ?_)
  obtain ⟨s25, es25, hit⟩ := o_bind hit
  refine c_putFQ X hin2 hA.1 kc_Model 39 q1683 rfl rfl (v := (some s22.2.1)) (tyv := (.array .int)) rfl (Or.inr ⟨_, rfl⟩) es25 dX4_init_105 (fun H locs hI => ?_)
  replace hA := hA.up hI
  clear hI
  refine lv_aload_n hx hb dX4_init_108 rfl (lv_at hl 0 rfl) ?_
  refine lv_bipush (v := 34) hx hb dX4_init_109 (by decide) ?_
  obtain ⟨s26, es26, hit⟩ := o_bind hit
  refine a_newI X hA es26 dX4_init_111 (fun H cells slots hA => ?_)
  obtain ⟨s27, es27, hit⟩ := o_bind hit
  refine c_putFQ X hin2 hA.1 kc_Model 40 q1684 rfl rfl (v := (some s24.2.1)) (tyv := (.array .int)) rfl (Or.inr ⟨_, rfl⟩) es27 dX4_init_113 (fun H locs hI => ?_)
  replace hA := hA.up hI
  clear hI
  refine lv_aload_n hx hb dX4_init_116 rfl (lv_at hl 0 rfl) ?_
  refine lv_sipush (v := 1400) hx hb dX4_init_117 (by decide) ?_
  obtain ⟨s28, es28, hit⟩ := o_bind hit
  refine a_newI X hA es28 dX4_init_120 (fun H cells slots hA => ?_)
  obtain ⟨s29, es29, hit⟩ := o_bind hit
  refine c_putFQ X hin2 hA.1 kc_Model 41 q1685 rfl rfl (v := (some s26.2.1)) (tyv := (.array .int)) rfl (Or.inr ⟨_, rfl⟩) es29 dX4_init_122 (fun H locs hI => ?_)
  replace hA := hA.up hI
  clear hI
  refine lv_aload_n hx hb dX4_init_125 rfl (lv_at hl 0 rfl) ?_
  refine lv_sipush (v := 950) hx hb dX4_init_126 (by decide) ?_
  obtain ⟨s30, es30, hit⟩ := o_bind hit
  refine a_newI X hA es30 dX4_init_129 (fun H cells slots hA => ?_)
  obtain ⟨s31, es31, hit⟩ := o_bind hit
  refine c_putFQ X hin2 hA.1 kc_Model 42 q1686 rfl rfl (v := (some s28.2.1)) (tyv := (.array .int)) rfl (Or.inr ⟨_, rfl⟩) es31 dX4_init_131 (fun H locs hI => ?_)
  replace hA := hA.up hI
  clear hI
  refine lv_aload_n hx hb dX4_init_134 rfl (lv_at hl 0 rfl) ?_
  refine lv_bipush (v := 9) hx hb dX4_init_135 (by decide) ?_
  obtain ⟨s32, es32, hit⟩ := o_bind hit
  refine a_newZ X hA es32 dX4_init_137 (fun H cells slots hA => ?_)
  obtain ⟨s33, es33, hit⟩ := o_bind hit
  refine c_putFQ X hin2 hA.1 kc_Model 43 q1687 rfl rfl (v := (some s30.2.1)) (tyv := (.array .boolean)) rfl (Or.inr ⟨_, rfl⟩) es33 dX4_init_139 (fun H locs hI => ?_)
  replace hA := hA.up hI
  clear hI
  refine lv_aload_n hx hb dX4_init_142 rfl (lv_at hl 0 rfl) ?_
  refine lv_bipush (v := 68) hx hb dX4_init_143 (by decide) ?_
  obtain ⟨s34, es34, hit⟩ := o_bind hit
  refine a_newI X hA es34 dX4_init_145 (fun H cells slots hA => ?_)
  obtain ⟨s35, es35, hit⟩ := o_bind hit
  refine c_putFQ X hin2 hA.1 kc_Model 44 q1688 rfl rfl (v := (some s32.2.1)) (tyv := (.array .int)) rfl (Or.inr ⟨_, rfl⟩) es35 dX4_init_147 (fun H locs hI => ?_)
  replace hA := hA.up hI
  clear hI
  refine lv_aload_n hx hb dX4_init_150 rfl (lv_at hl 0 rfl) ?_
  refine lv_sipush (v := 1360) hx hb dX4_init_151 (by decide) ?_
  obtain ⟨s36, es36, hit⟩ := o_bind hit
  refine a_newI X hA es36 dX4_init_154 (fun H cells slots hA => ?_)
  obtain ⟨s37, es37, hit⟩ := o_bind hit
  refine c_putFQ X hin2 hA.1 kc_Model 45 q1689 rfl rfl (v := (some s34.2.1)) (tyv := (.array .int)) rfl (Or.inr ⟨_, rfl⟩) es37 dX4_init_156 (fun H locs hI => ?_)
  replace hA := hA.up hI
  clear hI
  refine lv_aload_n hx hb dX4_init_159 rfl (lv_at hl 0 rfl) ?_
  refine lv_bipush (v := 9) hx hb dX4_init_160 (by decide) ?_
  obtain ⟨s38, es38, hit⟩ := o_bind hit
  refine a_newI X hA es38 dX4_init_162 (fun H cells slots hA => ?_)
  obtain ⟨s39, es39, hit⟩ := o_bind hit
  refine c_putFQ X hin2 hA.1 kc_Model 47 q1691 rfl rfl (v := (some s36.2.1)) (tyv := (.array .int)) rfl (Or.inr ⟨_, rfl⟩) es39 dX4_init_164 (fun H locs hI => ?_)
  replace hA := hA.up hI
  clear hI
  refine lv_aload_n hx hb dX4_init_167 rfl (lv_at hl 0 rfl) ?_
  refine lv_sipush (v := 950) hx hb dX4_init_168 (by decide) ?_
  obtain ⟨s40, es40, hit⟩ := o_bind hit
  refine a_newI X hA es40 dX4_init_171 (fun H cells slots hA => ?_)
  obtain ⟨s41, es41, hit⟩ := o_bind hit
  refine c_putFQ X hin2 hA.1 kc_Model 48 q1692 rfl rfl (v := (some s38.2.1)) (tyv := (.array .int)) rfl (Or.inr ⟨_, rfl⟩) es41 dX4_init_173 (fun H locs hI => ?_)
  replace hA := hA.up hI
  clear hI
  refine lv_aload_n hx hb dX4_init_176 rfl (lv_at hl 0 rfl) ?_
  refine lv_sipush (v := 512) hx hb dX4_init_177 (by decide) ?_
  obtain ⟨s42, es42, hit⟩ := o_bind hit
  refine a_newI X hA es42 dX4_init_180 (fun H cells slots hA => ?_)
  obtain ⟨s43, es43, hit⟩ := o_bind hit
  refine c_putFQ X hin2 hA.1 kc_Model 49 q1693 rfl rfl (v := (some s40.2.1)) (tyv := (.array .int)) rfl (Or.inr ⟨_, rfl⟩) es43 dX4_init_182 (fun H locs hI => ?_)
  replace hA := hA.up hI
  clear hI
  refine lv_aload_n hx hb dX4_init_185 rfl (lv_at hl 0 rfl) ?_
  refine lv_sipush (v := 5120) hx hb dX4_init_186 (by decide) ?_
  obtain ⟨s44, es44, hit⟩ := o_bind hit
  refine a_newI X hA es44 dX4_init_189 (fun H cells slots hA => ?_)
  obtain ⟨s45, es45, hit⟩ := o_bind hit
  refine c_putFQ X hin2 hA.1 kc_Model 50 q1694 rfl rfl (v := (some s42.2.1)) (tyv := (.array .int)) rfl (Or.inr ⟨_, rfl⟩) es45 dX4_init_191 (fun H locs hI => ?_)
  replace hA := hA.up hI
  clear hI
  refine lv_aload_n hx hb dX4_init_194 rfl (lv_at hl 0 rfl) ?_
  refine lv_bipush (v := 32) hx hb dX4_init_195 (by decide) ?_
  obtain ⟨s46, es46, hit⟩ := o_bind hit
  refine a_newI X hA es46 dX4_init_197 (fun H cells slots hA => ?_)
  obtain ⟨s47, es47, hit⟩ := o_bind hit
  refine c_putFQ X hin2 hA.1 kc_Model 52 q1696 rfl rfl (v := (some s44.2.1)) (tyv := (.array .int)) rfl (Or.inr ⟨_, rfl⟩) es47 dX4_init_199 (fun H locs hI => ?_)
  replace hA := hA.up hI
  clear hI
  refine lv_aload_n hx hb dX4_init_202 rfl (lv_at hl 0 rfl) ?_
  refine lv_bipush (v := 6) hx hb dX4_init_203 (by decide) ?_
  obtain ⟨s48, es48, hit⟩ := o_bind hit
  refine a_newI X hA es48 dX4_init_205 (fun H cells slots hA => ?_)
  obtain ⟨s49, es49, hit⟩ := o_bind hit
  refine c_putFQ X hin2 hA.1 kc_Model 53 q1697 rfl rfl (v := (some s46.2.1)) (tyv := (.array .int)) rfl (Or.inr ⟨_, rfl⟩) es49 dX4_init_207 (fun H locs hI => ?_)
  replace hA := hA.up hI
  clear hI
  refine lv_aload_n hx hb dX4_init_210 rfl (lv_at hl 0 rfl) ?_
  refine lv_sipush (v := 324) hx hb dX4_init_211 (by decide) ?_
  obtain ⟨s50, es50, hit⟩ := o_bind hit
  refine a_newI X hA es50 dX4_init_214 (fun H cells slots hA => ?_)
  obtain ⟨s51, es51, hit⟩ := o_bind hit
  refine c_putFQ X hin2 hA.1 kc_Model 54 q1698 rfl rfl (v := (some s48.2.1)) (tyv := (.array .int)) rfl (Or.inr ⟨_, rfl⟩) es51 dX4_init_216 (fun H locs hI => ?_)
  replace hA := hA.up hI
  clear hI
  refine lv_aload_n hx hb dX4_init_219 rfl (lv_at hl 0 rfl) ?_
  refine lv_bipush (v := 34) hx hb dX4_init_220 (by decide) ?_
  obtain ⟨s52, es52, hit⟩ := o_bind hit
  refine a_newI X hA es52 dX4_init_222 (fun H cells slots hA => ?_)
  obtain ⟨s53, es53, hit⟩ := o_bind hit
  refine c_putFQ X hin2 hA.1 kc_Model 59 q1703 rfl rfl (v := (some s50.2.1)) (tyv := (.array .int)) rfl (Or.inr ⟨_, rfl⟩) es53 dX4_init_224 (fun H locs hI => ?_)
  replace hA := hA.up hI
  clear hI
  refine lv_aload_n hx hb dX4_init_227 rfl (lv_at hl 0 rfl) ?_
  refine lv_sipush (v := 1360) hx hb dX4_init_228 (by decide) ?_
  obtain ⟨s54, es54, hit⟩ := o_bind hit
  refine a_newI X hA es54 dX4_init_231 (fun H cells slots hA => ?_)
  obtain ⟨s55, es55, hit⟩ := o_bind hit
  refine c_putFQ X hin2 hA.1 kc_Model 60 q1704 rfl rfl (v := (some s52.2.1)) (tyv := (.array .int)) rfl (Or.inr ⟨_, rfl⟩) es55 dX4_init_233 (fun H locs hI => ?_)
  replace hA := hA.up hI
  clear hI
  refine lv_aload_n hx hb dX4_init_236 rfl (lv_at hl 0 rfl) ?_
  refine lv_bipush (v := 32) hx hb dX4_init_237 (by decide) ?_
  obtain ⟨s56, es56, hit⟩ := o_bind hit
  refine a_newI X hA es56 dX4_init_239 (fun H cells slots hA => ?_)
  obtain ⟨s57, es57, hit⟩ := o_bind hit
  refine c_putFQ X hin2 hA.1 kc_Model 61 q1705 rfl rfl (v := (some s54.2.1)) (tyv := (.array .int)) rfl (Or.inr ⟨_, rfl⟩) es57 dX4_init_241 (fun H locs hI => ?_)
  replace hA := hA.up hI
  clear hI
  have he := o_in hit
  exact hend none (s57, s56.2) _ _ _ _ _ _ _ _ kOut_v (by subst he; rfl) hA dX4_init_244
