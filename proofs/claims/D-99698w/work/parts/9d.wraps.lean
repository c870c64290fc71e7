/-! ===== the law's small methods: each calls the component, tells what was thrown ===== -/
set_option maxRecDepth 100000 in
theorem wL_office (l : Launch) (hT : l.stackTraces = false) (γ : KG) (hO : kOK γ) (h : CH) (r : CR) (o : Nat) (a0 : Int32) (out : Nat) (w : Nat → Int64) (z : (Int32 × CS) ⊕ XT) (hz : C1_office γ.2.2.2.2.2 h r o a0 = some z) (hg : h out = none) (hlt : out < r.1) (hrv : isC h o 1 = true) (hle : ale (zxC z) r) (htag : ∀ x, z = .inr x → x.1 = 1) : pMet l yX0_office (wsW_ yX0_office cX0_office 4 (some .int) [(0, 9, 12, 13)]) 158 5058 γ (hup h out (ouC w), r) [.ref o, .int a0, .ref out] (.inl (wz Int32.toInt64 1 w out z)) (dm h (zxH z) r.1) := by
  refine w_start (cc := cX0_office) (own := RX0) hO rfl rfl rfl (fun p e R s m args below meth c Q ls X hR htab h0H hA hl hend => ?_)
  have hx := X.1.1
  have hb := X.1.2.1
  have hl : lv_has ls 4 [(0, .ref o), (1, .int a0), (2, .ref out)] := hl
  obtain ⟨hA0, hat, hF, hk⟩ := hA.drop hg
  refine lv_aload_n hx hb dX0_office_0 rfl (lv_at hl 2 rfl) ?_
  refine lv_iconst (v := 0) hx hb dX0_office_1 (by decide) ?_
  refine lv_aload_n hx hb dX0_office_2 rfl (lv_at hl 0 rfl) ?_
  refine lv_iload_n hx hb dX0_office_3 rfl (lv_at hl 1 rfl) ?_
  refine p_cVW X h0H hA0 kc_TwinInk hrv (pMet.of (wC1_office l hT γ hO h r o a0 z hz)) nm_X1_office q686 q687 q135 q689 q688 ⟨Nat.le_trans (Nat.le_of_ble_eq_true rfl) hR.1, Nat.le_trans (Nat.le_of_ble_eq_true rfl) hR.2⟩ rfl rfl hl.1 (lv_room (Nat.le_of_ble_eq_true rfl)) dX0_office_4 (fun w1 hw1 _ => ?_) (fun x hx1 _ => ?_)
  · cases z with
    | inr x => cases hw1
    | inl q =>
      cases hw1
      refine ⟨hle, fun H1 locs cells slots hA1 f1 f2 => ?_⟩
      have hA2 := AI.add hA1 hF (fw_at f1 hg hlt hat) hk
      refine lv_i2l hx hb dX0_office_7 rfl ?_
      refine c_last X hA2.1 sJ_out dX0_office_8 (fun H locs hI => ?_)
      replace hA2 := hA2.up hI
      refine lv_goto (tgt := 15) hx hb dX0_office_9 (by decide) ?_
      refine lv_iconst (v := 0) hx hb dX0_office_15 (by decide) ?_
      exact hend (some (.int 0), _) _ _ _ _ _ _ _ _ rfl (kOut_i rfl) f2 hA2 dX0_office_16
  · cases z with
    | inl q => cases hx1
    | inr x' =>
      cases hx1
      refine ⟨hle, fun H1 locs cells slots q hA1 f1 f2 hq => ?_⟩
      have hA2 := AI.add hA1 hF (fw_at f1 hg hlt hat) hk
      have htg := htag _ rfl
      refine t_catchE X 1 (pre := []) (suf := []) htab (fun z hz => nomatch hz) (by decide) (by decide) q685 q696 hq htg ?_
      refine lv_astore_n (lv' := [(3, .ref q), (0, .ref o), (1, .int a0), (2, .ref out)]) hx hb dX0_office_12 rfl hl (by decide) rfl (fun ls hl => ?_)
      refine lv_iconst (v := 1) hx hb dX0_office_13 (by decide) ?_
      exact hend (some (.int 1), _) _ _ _ _ _ _ _ _ (by unfold wz wzK wzW zxH zxC; dsimp only; rw [if_neg (by rw [htg]; decide)]) (kOut_i rfl) f2 hA2 dX0_office_14
set_option maxRecDepth 100000 in
theorem wL_count (l : Launch) (hT : l.stackTraces = false) (γ : KG) (hO : kOK γ) (h : CH) (r : CR) (o : Nat) (a0 : Int32) (out : Nat) (w : Nat → Int64) (z : (Int32 × CS) ⊕ XT) (hz : C1_count h r o a0 = some z) (hg : h out = none) (hlt : out < r.1) (hrv : isC h o 1 = true) (hle : ale (zxC z) r) (htag : ∀ x, z = .inr x → x.1 = 0) : pMet l yX0_count (wsW_ yX0_count cX0_count 4 (some .int) [(0, 9, 12, 18)]) 98 2446 γ (hup h out (ouC w), r) [.ref o, .int a0, .ref out] (.inl (wz Int32.toInt64 0 w out z)) (dm h (zxH z) r.1) := by
  refine w_start (cc := cX0_count) (own := RX0) hO rfl rfl rfl (fun p e R s m args below meth c Q ls X hR htab h0H hA hl hend => ?_)
  have hx := X.1.1
  have hb := X.1.2.1
  have hl : lv_has ls 4 [(0, .ref o), (1, .int a0), (2, .ref out)] := hl
  obtain ⟨hA0, hat, hF, hk⟩ := hA.drop hg
  refine lv_aload_n hx hb dX0_count_0 rfl (lv_at hl 2 rfl) ?_
  refine lv_iconst (v := 0) hx hb dX0_count_1 (by decide) ?_
  refine lv_aload_n hx hb dX0_count_2 rfl (lv_at hl 0 rfl) ?_
  refine lv_iload_n hx hb dX0_count_3 rfl (lv_at hl 1 rfl) ?_
  refine p_cV X h0H hA0 kc_TwinInk hrv (pMet.of (wC1_count l hT γ hO h r o a0 z hz)) nm_X1_count q1227 q1228 q135 q1230 q1229 ⟨Nat.le_trans (Nat.le_of_ble_eq_true rfl) hR.1, Nat.le_trans (Nat.le_of_ble_eq_true rfl) hR.2⟩ rfl rfl hl.1 (lv_room (Nat.le_of_ble_eq_true rfl)) dX0_count_4 (fun w1 hw1 _ => ?_) (fun x hx1 _ => ?_)
  · cases z with
    | inr x => cases hw1
    | inl q =>
      cases hw1
      refine ⟨hle, fun H1 locs cells slots hA1 f1 f2 => ?_⟩
      have hA2 := AI.add hA1 hF (fw_at f1 hg hlt hat) hk
      refine lv_i2l hx hb dX0_count_7 rfl ?_
      refine c_last X hA2.1 sJ_out dX0_count_8 (fun H locs hI => ?_)
      replace hA2 := hA2.up hI
      refine lv_goto (tgt := 15) hx hb dX0_count_9 (by decide) ?_
      refine lv_iconst (v := 0) hx hb dX0_count_15 (by decide) ?_
      exact hend (some (.int 0), _) _ _ _ _ _ _ _ _ rfl (kOut_i rfl) f2 hA2 dX0_count_16
  · cases z with
    | inl q => cases hx1
    | inr x' =>
      cases hx1
      refine ⟨hle, fun H1 locs cells slots q hA1 f1 f2 hq => ?_⟩
      have hA2 := AI.add hA1 hF (fw_at f1 hg hlt hat) hk
      have htg := htag _ rfl
      refine t_catchE X 0 (pre := []) (suf := []) htab (fun z hz => nomatch hz) (by decide) (by decide) q1226 q1259 hq htg ?_
      refine lv_astore_n (lv' := [(3, .ref q), (0, .ref o), (1, .int a0), (2, .ref out)]) hx hb dX0_count_12 rfl hl (by decide) rfl (fun ls hl => ?_)
      refine lv_iconst (v := 1) hx hb dX0_count_13 (by decide) ?_
      exact hend (some (.int 1), _) _ _ _ _ _ _ _ _ (by unfold wz wzK wzW zxH zxC; dsimp only; rw [if_pos htg]) (kOut_i rfl) f2 hA2 dX0_count_14
set_option maxRecDepth 100000 in
theorem wL_sheet (l : Launch) (hT : l.stackTraces = false) (γ : KG) (hO : kOK γ) (h : CH) (r : CR) (o : Nat) (a0 : Int32) (a1 : Int32) (out : Nat) (w : Nat → Int64) (z : (Int32 × CS) ⊕ XT) (hz : C1_sheet h r o a0 a1 = some z) (hg : h out = none) (hlt : out < r.1) (hrv : isC h o 1 = true) (hle : ale (zxC z) r) (htag : ∀ x, z = .inr x → x.1 = 0) : pMet l yX0_sheet (wsW_ yX0_sheet cX0_sheet 5 (some .int) [(0, 10, 13, 18)]) 9 163 γ (hup h out (ouC w), r) [.ref o, .int a0, .int a1, .ref out] (.inl (wz Int32.toInt64 0 w out z)) (dm h (zxH z) r.1) := by
  refine w_start (cc := cX0_sheet) (own := RX0) hO rfl rfl rfl (fun p e R s m args below meth c Q ls X hR htab h0H hA hl hend => ?_)
  have hx := X.1.1
  have hb := X.1.2.1
  have hl : lv_has ls 5 [(0, .ref o), (1, .int a0), (2, .int a1), (3, .ref out)] := hl
  obtain ⟨hA0, hat, hF, hk⟩ := hA.drop hg
  refine lv_aload_n hx hb dX0_sheet_0 rfl (lv_at hl 3 rfl) ?_
  refine lv_iconst (v := 0) hx hb dX0_sheet_1 (by decide) ?_
  refine lv_aload_n hx hb dX0_sheet_2 rfl (lv_at hl 0 rfl) ?_
  refine lv_iload_n hx hb dX0_sheet_3 rfl (lv_at hl 1 rfl) ?_
  refine lv_iload_n hx hb dX0_sheet_4 rfl (lv_at hl 2 rfl) ?_
  refine p_cV X h0H hA0 kc_TwinInk hrv (pMet.of (wC1_sheet l hT γ hO h r o a0 a1 z hz)) nm_X1_sheet q1275 q1276 q135 q1278 q1277 ⟨Nat.le_trans (Nat.le_of_ble_eq_true rfl) hR.1, Nat.le_trans (Nat.le_of_ble_eq_true rfl) hR.2⟩ rfl rfl hl.1 (lv_room (Nat.le_of_ble_eq_true rfl)) dX0_sheet_5 (fun w1 hw1 _ => ?_) (fun x hx1 _ => ?_)
  · cases z with
    | inr x => cases hw1
    | inl q =>
      cases hw1
      refine ⟨hle, fun H1 locs cells slots hA1 f1 f2 => ?_⟩
      have hA2 := AI.add hA1 hF (fw_at f1 hg hlt hat) hk
      refine lv_i2l hx hb dX0_sheet_8 rfl ?_
      refine c_last X hA2.1 sJ_out dX0_sheet_9 (fun H locs hI => ?_)
      replace hA2 := hA2.up hI
      refine lv_goto (tgt := 17) hx hb dX0_sheet_10 (by decide) ?_
      refine lv_iconst (v := 0) hx hb dX0_sheet_17 (by decide) ?_
      exact hend (some (.int 0), _) _ _ _ _ _ _ _ _ rfl (kOut_i rfl) f2 hA2 dX0_sheet_18
  · cases z with
    | inl q => cases hx1
    | inr x' =>
      cases hx1
      refine ⟨hle, fun H1 locs cells slots q hA1 f1 f2 hq => ?_⟩
      have hA2 := AI.add hA1 hF (fw_at f1 hg hlt hat) hk
      have htg := htag _ rfl
      refine t_catchE X 0 (pre := []) (suf := []) htab (fun z hz => nomatch hz) (by decide) (by decide) q1226 q1259 hq htg ?_
      refine lv_astore (lv' := [(4, .ref q), (0, .ref o), (1, .int a0), (2, .int a1), (3, .ref out)]) hx hb dX0_sheet_13 hl (by decide) rfl (fun ls hl => ?_)
      refine lv_iconst (v := 1) hx hb dX0_sheet_15 (by decide) ?_
      exact hend (some (.int 1), _) _ _ _ _ _ _ _ _ (by unfold wz wzK wzW zxH zxC; dsimp only; rw [if_pos htg]) (kOut_i rfl) f2 hA2 dX0_sheet_16
set_option maxRecDepth 100000 in
theorem wL_clerk (l : Launch) (hT : l.stackTraces = false) (γ : KG) (hO : kOK γ) (h : CH) (r : CR) (o : Nat) (a0 : Int32) (a1 : Int32) (out : Nat) (w : Nat → Int64) (z : (Int32 × CS) ⊕ XT) (hz : C1_clerk h r o a0 a1 = some z) (hg : h out = none) (hlt : out < r.1) (hrv : isC h o 1 = true) (hle : ale (zxC z) r) (htag : ∀ x, z = .inr x → x.1 = 0) : pMet l yX0_clerk (wsW_ yX0_clerk cX0_clerk 5 (some .int) [(0, 10, 13, 18)]) 9 163 γ (hup h out (ouC w), r) [.ref o, .int a0, .int a1, .ref out] (.inl (wz Int32.toInt64 0 w out z)) (dm h (zxH z) r.1) := by
  refine w_start (cc := cX0_clerk) (own := RX0) hO rfl rfl rfl (fun p e R s m args below meth c Q ls X hR htab h0H hA hl hend => ?_)
  have hx := X.1.1
  have hb := X.1.2.1
  have hl : lv_has ls 5 [(0, .ref o), (1, .int a0), (2, .int a1), (3, .ref out)] := hl
  obtain ⟨hA0, hat, hF, hk⟩ := hA.drop hg
  refine lv_aload_n hx hb dX0_clerk_0 rfl (lv_at hl 3 rfl) ?_
  refine lv_iconst (v := 0) hx hb dX0_clerk_1 (by decide) ?_
  refine lv_aload_n hx hb dX0_clerk_2 rfl (lv_at hl 0 rfl) ?_
  refine lv_iload_n hx hb dX0_clerk_3 rfl (lv_at hl 1 rfl) ?_
  refine lv_iload_n hx hb dX0_clerk_4 rfl (lv_at hl 2 rfl) ?_
  refine p_cV X h0H hA0 kc_TwinInk hrv (pMet.of (wC1_clerk l hT γ hO h r o a0 a1 z hz)) nm_X1_clerk q1295 q1296 q135 q1298 q1297 ⟨Nat.le_trans (Nat.le_of_ble_eq_true rfl) hR.1, Nat.le_trans (Nat.le_of_ble_eq_true rfl) hR.2⟩ rfl rfl hl.1 (lv_room (Nat.le_of_ble_eq_true rfl)) dX0_clerk_5 (fun w1 hw1 _ => ?_) (fun x hx1 _ => ?_)
  · cases z with
    | inr x => cases hw1
    | inl q =>
      cases hw1
      refine ⟨hle, fun H1 locs cells slots hA1 f1 f2 => ?_⟩
      have hA2 := AI.add hA1 hF (fw_at f1 hg hlt hat) hk
      refine lv_i2l hx hb dX0_clerk_8 rfl ?_
      refine c_last X hA2.1 sJ_out dX0_clerk_9 (fun H locs hI => ?_)
      replace hA2 := hA2.up hI
      refine lv_goto (tgt := 17) hx hb dX0_clerk_10 (by decide) ?_
      refine lv_iconst (v := 0) hx hb dX0_clerk_17 (by decide) ?_
      exact hend (some (.int 0), _) _ _ _ _ _ _ _ _ rfl (kOut_i rfl) f2 hA2 dX0_clerk_18
  · cases z with
    | inl q => cases hx1
    | inr x' =>
      cases hx1
      refine ⟨hle, fun H1 locs cells slots q hA1 f1 f2 hq => ?_⟩
      have hA2 := AI.add hA1 hF (fw_at f1 hg hlt hat) hk
      have htg := htag _ rfl
      refine t_catchE X 0 (pre := []) (suf := []) htab (fun z hz => nomatch hz) (by decide) (by decide) q1226 q1259 hq htg ?_
      refine lv_astore (lv' := [(4, .ref q), (0, .ref o), (1, .int a0), (2, .int a1), (3, .ref out)]) hx hb dX0_clerk_13 hl (by decide) rfl (fun ls hl => ?_)
      refine lv_iconst (v := 1) hx hb dX0_clerk_15 (by decide) ?_
      exact hend (some (.int 1), _) _ _ _ _ _ _ _ _ (by unfold wz wzK wzW zxH zxC; dsimp only; rw [if_pos htg]) (kOut_i rfl) f2 hA2 dX0_clerk_16
set_option maxRecDepth 100000 in
theorem wL_word (l : Launch) (hT : l.stackTraces = false) (γ : KG) (hO : kOK γ) (h : CH) (r : CR) (o : Nat) (a0 : Int32) (a1 : Int32) (out : Nat) (w : Nat → Int64) (z : (Int32 × CS) ⊕ XT) (hz : C1_word h r o a0 a1 = some z) (hg : h out = none) (hlt : out < r.1) (hrv : isC h o 1 = true) (hle : ale (zxC z) r) (htag : ∀ x, z = .inr x → x.1 = 0) : pMet l yX0_word (wsW_ yX0_word cX0_word 5 (some .int) [(0, 10, 13, 18)]) 10 216 γ (hup h out (ouC w), r) [.ref o, .int a0, .int a1, .ref out] (.inl (wz Int32.toInt64 0 w out z)) (dm h (zxH z) r.1) := by
  refine w_start (cc := cX0_word) (own := RX0) hO rfl rfl rfl (fun p e R s m args below meth c Q ls X hR htab h0H hA hl hend => ?_)
  have hx := X.1.1
  have hb := X.1.2.1
  have hl : lv_has ls 5 [(0, .ref o), (1, .int a0), (2, .int a1), (3, .ref out)] := hl
  obtain ⟨hA0, hat, hF, hk⟩ := hA.drop hg
  refine lv_aload_n hx hb dX0_word_0 rfl (lv_at hl 3 rfl) ?_
  refine lv_iconst (v := 0) hx hb dX0_word_1 (by decide) ?_
  refine lv_aload_n hx hb dX0_word_2 rfl (lv_at hl 0 rfl) ?_
  refine lv_iload_n hx hb dX0_word_3 rfl (lv_at hl 1 rfl) ?_
  refine lv_iload_n hx hb dX0_word_4 rfl (lv_at hl 2 rfl) ?_
  refine p_cV X h0H hA0 kc_TwinInk hrv (pMet.of (wC1_word l hT γ hO h r o a0 a1 z hz)) nm_X1_word q1312 q1313 q135 q1315 q1314 ⟨Nat.le_trans (Nat.le_of_ble_eq_true rfl) hR.1, Nat.le_trans (Nat.le_of_ble_eq_true rfl) hR.2⟩ rfl rfl hl.1 (lv_room (Nat.le_of_ble_eq_true rfl)) dX0_word_5 (fun w1 hw1 _ => ?_) (fun x hx1 _ => ?_)
  · cases z with
    | inr x => cases hw1
    | inl q =>
      cases hw1
      refine ⟨hle, fun H1 locs cells slots hA1 f1 f2 => ?_⟩
      have hA2 := AI.add hA1 hF (fw_at f1 hg hlt hat) hk
      refine lv_i2l hx hb dX0_word_8 rfl ?_
      refine c_last X hA2.1 sJ_out dX0_word_9 (fun H locs hI => ?_)
      replace hA2 := hA2.up hI
      refine lv_goto (tgt := 17) hx hb dX0_word_10 (by decide) ?_
      refine lv_iconst (v := 0) hx hb dX0_word_17 (by decide) ?_
      exact hend (some (.int 0), _) _ _ _ _ _ _ _ _ rfl (kOut_i rfl) f2 hA2 dX0_word_18
  · cases z with
    | inl q => cases hx1
    | inr x' =>
      cases hx1
      refine ⟨hle, fun H1 locs cells slots q hA1 f1 f2 hq => ?_⟩
      have hA2 := AI.add hA1 hF (fw_at f1 hg hlt hat) hk
      have htg := htag _ rfl
      refine t_catchE X 0 (pre := []) (suf := []) htab (fun z hz => nomatch hz) (by decide) (by decide) q1226 q1259 hq htg ?_
      refine lv_astore (lv' := [(4, .ref q), (0, .ref o), (1, .int a0), (2, .int a1), (3, .ref out)]) hx hb dX0_word_13 hl (by decide) rfl (fun ls hl => ?_)
      refine lv_iconst (v := 1) hx hb dX0_word_15 (by decide) ?_
      exact hend (some (.int 1), _) _ _ _ _ _ _ _ _ (by unfold wz wzK wzW zxH zxC; dsimp only; rw [if_pos htg]) (kOut_i rfl) f2 hA2 dX0_word_16
set_option maxRecDepth 100000 in
theorem wL_town (l : Launch) (hT : l.stackTraces = false) (γ : KG) (hO : kOK γ) (h : CH) (r : CR) (o : Nat) (a0 : Int32) (a1 : Int32) (out : Nat) (w : Nat → Int64) (z : (Int32 × CS) ⊕ XT) (hz : C1_town h r o a0 a1 = some z) (hg : h out = none) (hlt : out < r.1) (hrv : isC h o 1 = true) (hle : ale (zxC z) r) (htag : ∀ x, z = .inr x → x.1 = 0) : pMet l yX0_town (wsW_ yX0_town cX0_town 5 (some .int) [(0, 10, 13, 18)]) 9 194 γ (hup h out (ouC w), r) [.ref o, .int a0, .int a1, .ref out] (.inl (wz Int32.toInt64 0 w out z)) (dm h (zxH z) r.1) := by
  refine w_start (cc := cX0_town) (own := RX0) hO rfl rfl rfl (fun p e R s m args below meth c Q ls X hR htab h0H hA hl hend => ?_)
  have hx := X.1.1
  have hb := X.1.2.1
  have hl : lv_has ls 5 [(0, .ref o), (1, .int a0), (2, .int a1), (3, .ref out)] := hl
  obtain ⟨hA0, hat, hF, hk⟩ := hA.drop hg
  refine lv_aload_n hx hb dX0_town_0 rfl (lv_at hl 3 rfl) ?_
  refine lv_iconst (v := 0) hx hb dX0_town_1 (by decide) ?_
  refine lv_aload_n hx hb dX0_town_2 rfl (lv_at hl 0 rfl) ?_
  refine lv_iload_n hx hb dX0_town_3 rfl (lv_at hl 1 rfl) ?_
  refine lv_iload_n hx hb dX0_town_4 rfl (lv_at hl 2 rfl) ?_
  refine p_cV X h0H hA0 kc_TwinInk hrv (pMet.of (wC1_town l hT γ hO h r o a0 a1 z hz)) nm_X1_town q1332 q1333 q135 q1335 q1334 ⟨Nat.le_trans (Nat.le_of_ble_eq_true rfl) hR.1, Nat.le_trans (Nat.le_of_ble_eq_true rfl) hR.2⟩ rfl rfl hl.1 (lv_room (Nat.le_of_ble_eq_true rfl)) dX0_town_5 (fun w1 hw1 _ => ?_) (fun x hx1 _ => ?_)
  · cases z with
    | inr x => cases hw1
    | inl q =>
      cases hw1
      refine ⟨hle, fun H1 locs cells slots hA1 f1 f2 => ?_⟩
      have hA2 := AI.add hA1 hF (fw_at f1 hg hlt hat) hk
      refine lv_i2l hx hb dX0_town_8 rfl ?_
      refine c_last X hA2.1 sJ_out dX0_town_9 (fun H locs hI => ?_)
      replace hA2 := hA2.up hI
      refine lv_goto (tgt := 17) hx hb dX0_town_10 (by decide) ?_
      refine lv_iconst (v := 0) hx hb dX0_town_17 (by decide) ?_
      exact hend (some (.int 0), _) _ _ _ _ _ _ _ _ rfl (kOut_i rfl) f2 hA2 dX0_town_18
  · cases z with
    | inl q => cases hx1
    | inr x' =>
      cases hx1
      refine ⟨hle, fun H1 locs cells slots q hA1 f1 f2 hq => ?_⟩
      have hA2 := AI.add hA1 hF (fw_at f1 hg hlt hat) hk
      have htg := htag _ rfl
      refine t_catchE X 0 (pre := []) (suf := []) htab (fun z hz => nomatch hz) (by decide) (by decide) q1226 q1259 hq htg ?_
      refine lv_astore (lv' := [(4, .ref q), (0, .ref o), (1, .int a0), (2, .int a1), (3, .ref out)]) hx hb dX0_town_13 hl (by decide) rfl (fun ls hl => ?_)
      refine lv_iconst (v := 1) hx hb dX0_town_15 (by decide) ?_
      exact hend (some (.int 1), _) _ _ _ _ _ _ _ _ (by unfold wz wzK wzW zxH zxC; dsimp only; rw [if_pos htg]) (kOut_i rfl) f2 hA2 dX0_town_16
set_option maxRecDepth 100000 in
theorem wL_take (l : Launch) (hT : l.stackTraces = false) (γ : KG) (hO : kOK γ) (h : CH) (r : CR) (o : Nat) (a0 : Int32) (a1 : Int32) (out : Nat) (w : Nat → Int64) (z : (Int32 × CS) ⊕ XT) (hz : C1_take γ.2.2.2.2.2 h r o a0 a1 = some z) (hg : h out = none) (hlt : out < r.1) (hrv : isC h o 1 = true) (hle : ale (zxC z) r) (htag : ∀ x, z = .inr x → x.1 = 0) : pMet l yX0_take (wsW_ yX0_take cX0_take 5 (some .int) [(0, 17, 20, 18)]) 9 213 γ (hup h out (ouC w), r) [.ref o, .int a0, .int a1, .ref out] (.inl (wz bJ 0 w out z)) (dm h (zxH z) r.1) := by
  refine w_start (cc := cX0_take) (own := RX0) hO rfl rfl rfl (fun p e R s m args below meth c Q ls X hR htab h0H hA hl hend => ?_)
  have hx := X.1.1
  have hb := X.1.2.1
  have hl : lv_has ls 5 [(0, .ref o), (1, .int a0), (2, .int a1), (3, .ref out)] := hl
  obtain ⟨hA0, hat, hF, hk⟩ := hA.drop hg
  refine lv_aload_n hx hb dX0_take_0 rfl (lv_at hl 3 rfl) ?_
  refine lv_iconst (v := 0) hx hb dX0_take_1 (by decide) ?_
  refine lv_aload_n hx hb dX0_take_2 rfl (lv_at hl 0 rfl) ?_
  refine lv_iload_n hx hb dX0_take_3 rfl (lv_at hl 1 rfl) ?_
  refine lv_iload_n hx hb dX0_take_4 rfl (lv_at hl 2 rfl) ?_
  refine p_cV X h0H hA0 kc_TwinInk hrv (pMet.of (wC1_take l hT γ hO h r o a0 a1 z hz)) nm_X1_take q1360 q1361 q135 q1363 q1362 ⟨Nat.le_trans (Nat.le_of_ble_eq_true rfl) hR.1, Nat.le_trans (Nat.le_of_ble_eq_true rfl) hR.2⟩ rfl rfl hl.1 (lv_room (Nat.le_of_ble_eq_true rfl)) dX0_take_5 (fun w1 hw1 _ => ?_) (fun x hx1 _ => ?_)
  · cases z with
    | inr x => cases hw1
    | inl q =>
      cases hw1
      refine ⟨hle, fun H1 locs cells slots hA1 f1 f2 => ?_⟩
      have hA2 := AI.add hA1 hF (fw_at f1 hg hlt hat) hk
      have fin : ∀ (v : Int64) (H : Heap) (locs : List Loc) (cells slots : Nat), v = bJ q.1 → AI γ (hup h out (ouC w), r) s R (hup q.2.1 out (ouC w)) q.2.2 H locs cells slots → W p l e R s m args below meth c H locs cells slots Q (F0 m 16 ls [.long v, .int 0, .ref out]) := by
        intro v H locs cells slots hv hA2
        subst hv
        refine c_last X hA2.1 sJ_out dX0_take_16 (fun H locs hI => ?_)
        replace hA2 := hA2.up hI
        refine lv_goto (tgt := 24) hx hb dX0_take_17 (by decide) ?_
        refine lv_iconst (v := 0) hx hb dX0_take_24 (by decide) ?_
        exact hend (some (.int 0), _) _ _ _ _ _ _ _ _ rfl (kOut_i rfl) f2 hA2 dX0_take_25
      refine lv_if_eq (tgt := 15) hx hb dX0_take_8 (by decide) (fun e0 => ?_) (fun e0 => ?_)
      · refine lv_lconst (v := 0) hx hb dX0_take_15 rfl ?_
        exact fin 0 _ _ _ _ (by unfold bJ; rw [if_pos e0]) hA2
      · refine lv_lconst (v := 1) hx hb dX0_take_11 rfl ?_
        refine lv_goto (tgt := 16) hx hb dX0_take_12 (by decide) ?_
        exact fin 1 _ _ _ _ (by unfold bJ; rw [if_neg e0]) hA2
  · cases z with
    | inl q => cases hx1
    | inr x' =>
      cases hx1
      refine ⟨hle, fun H1 locs cells slots q hA1 f1 f2 hq => ?_⟩
      have hA2 := AI.add hA1 hF (fw_at f1 hg hlt hat) hk
      have htg := htag _ rfl
      refine t_catchE X 0 (pre := []) (suf := []) htab (fun z hz => nomatch hz) (by decide) (by decide) q1226 q1259 hq htg ?_
      refine lv_astore (lv' := [(4, .ref q), (0, .ref o), (1, .int a0), (2, .int a1), (3, .ref out)]) hx hb dX0_take_20 hl (by decide) rfl (fun ls hl => ?_)
      refine lv_iconst (v := 1) hx hb dX0_take_22 (by decide) ?_
      exact hend (some (.int 1), _) _ _ _ _ _ _ _ _ (by unfold wz wzK wzW zxH zxC; dsimp only; rw [if_pos htg]) (kOut_i rfl) f2 hA2 dX0_take_23
set_option maxRecDepth 100000 in
theorem wL_leave (l : Launch) (hT : l.stackTraces = false) (γ : KG) (hO : kOK γ) (h : CH) (r : CR) (o : Nat) (a0 : Int32) (a1 : Int32) (out : Nat) (w : Nat → Int64) (z : (Int32 × CS) ⊕ XT) (hz : C1_leave γ.2.2.2.2.2 h r o a0 a1 = some z) (hg : h out = none) (hlt : out < r.1) (hrv : isC h o 1 = true) (hle : ale (zxC z) r) (htag : ∀ x, z = .inr x → x.1 = 0) : pMet l yX0_leave (wsW_ yX0_leave cX0_leave 5 (some .int) [(0, 10, 13, 18)]) 9 213 γ (hup h out (ouC w), r) [.ref o, .int a0, .int a1, .ref out] (.inl (wz Int32.toInt64 0 w out z)) (dm h (zxH z) r.1) := by
  refine w_start (cc := cX0_leave) (own := RX0) hO rfl rfl rfl (fun p e R s m args below meth c Q ls X hR htab h0H hA hl hend => ?_)
  have hx := X.1.1
  have hb := X.1.2.1
  have hl : lv_has ls 5 [(0, .ref o), (1, .int a0), (2, .int a1), (3, .ref out)] := hl
  obtain ⟨hA0, hat, hF, hk⟩ := hA.drop hg
  refine lv_aload_n hx hb dX0_leave_0 rfl (lv_at hl 3 rfl) ?_
  refine lv_iconst (v := 0) hx hb dX0_leave_1 (by decide) ?_
  refine lv_aload_n hx hb dX0_leave_2 rfl (lv_at hl 0 rfl) ?_
  refine lv_iload_n hx hb dX0_leave_3 rfl (lv_at hl 1 rfl) ?_
  refine lv_iload_n hx hb dX0_leave_4 rfl (lv_at hl 2 rfl) ?_
  refine p_cV X h0H hA0 kc_TwinInk hrv (pMet.of (wC1_leave l hT γ hO h r o a0 a1 z hz)) nm_X1_leave q1371 q1372 q135 q1374 q1373 ⟨Nat.le_trans (Nat.le_of_ble_eq_true rfl) hR.1, Nat.le_trans (Nat.le_of_ble_eq_true rfl) hR.2⟩ rfl rfl hl.1 (lv_room (Nat.le_of_ble_eq_true rfl)) dX0_leave_5 (fun w1 hw1 _ => ?_) (fun x hx1 _ => ?_)
  · cases z with
    | inr x => cases hw1
    | inl q =>
      cases hw1
      refine ⟨hle, fun H1 locs cells slots hA1 f1 f2 => ?_⟩
      have hA2 := AI.add hA1 hF (fw_at f1 hg hlt hat) hk
      refine lv_i2l hx hb dX0_leave_8 rfl ?_
      refine c_last X hA2.1 sJ_out dX0_leave_9 (fun H locs hI => ?_)
      replace hA2 := hA2.up hI
      refine lv_goto (tgt := 17) hx hb dX0_leave_10 (by decide) ?_
      refine lv_iconst (v := 0) hx hb dX0_leave_17 (by decide) ?_
      exact hend (some (.int 0), _) _ _ _ _ _ _ _ _ rfl (kOut_i rfl) f2 hA2 dX0_leave_18
  · cases z with
    | inl q => cases hx1
    | inr x' =>
      cases hx1
      refine ⟨hle, fun H1 locs cells slots q hA1 f1 f2 hq => ?_⟩
      have hA2 := AI.add hA1 hF (fw_at f1 hg hlt hat) hk
      have htg := htag _ rfl
      refine t_catchE X 0 (pre := []) (suf := []) htab (fun z hz => nomatch hz) (by decide) (by decide) q1226 q1259 hq htg ?_
      refine lv_astore (lv' := [(4, .ref q), (0, .ref o), (1, .int a0), (2, .int a1), (3, .ref out)]) hx hb dX0_leave_13 hl (by decide) rfl (fun ls hl => ?_)
      refine lv_iconst (v := 1) hx hb dX0_leave_15 (by decide) ?_
      exact hend (some (.int 1), _) _ _ _ _ _ _ _ _ (by unfold wz wzK wzW zxH zxC; dsimp only; rw [if_pos htg]) (kOut_i rfl) f2 hA2 dX0_leave_16
set_option maxRecDepth 100000 in
theorem wL_forge (l : Launch) (hT : l.stackTraces = false) (γ : KG) (hO : kOK γ) (h : CH) (r : CR) (o : Nat) (a0 : Int32) (a1 : Int32) (a2 : Int32) (out : Nat) (w : Nat → Int64) (z : (Int32 × CS) ⊕ XT) (hz : C1_forge γ.2.2.2.2.2 h r o a0 a1 a2 = some z) (hg : h out = none) (hlt : out < r.1) (hrv : isC h o 1 = true) (hle : ale (zxC z) r) (htag : ∀ x, z = .inr x → x.1 = 0) : pMet l yX0_forge (wsW_ yX0_forge cX0_forge 6 (some .int) [(0, 12, 15, 18)]) 9 215 γ (hup h out (ouC w), r) [.ref o, .int a0, .int a1, .int a2, .ref out] (.inl (wz Int32.toInt64 0 w out z)) (dm h (zxH z) r.1) := by
  refine w_start (cc := cX0_forge) (own := RX0) hO rfl rfl rfl (fun p e R s m args below meth c Q ls X hR htab h0H hA hl hend => ?_)
  have hx := X.1.1
  have hb := X.1.2.1
  have hl : lv_has ls 6 [(0, .ref o), (1, .int a0), (2, .int a1), (3, .int a2), (4, .ref out)] := hl
  obtain ⟨hA0, hat, hF, hk⟩ := hA.drop hg
  refine lv_aload hx hb dX0_forge_0 (lv_at hl 4 rfl) ?_
  refine lv_iconst (v := 0) hx hb dX0_forge_2 (by decide) ?_
  refine lv_aload_n hx hb dX0_forge_3 rfl (lv_at hl 0 rfl) ?_
  refine lv_iload_n hx hb dX0_forge_4 rfl (lv_at hl 1 rfl) ?_
  refine lv_iload_n hx hb dX0_forge_5 rfl (lv_at hl 2 rfl) ?_
  refine lv_iload_n hx hb dX0_forge_6 rfl (lv_at hl 3 rfl) ?_
  refine p_cV X h0H hA0 kc_TwinInk hrv (pMet.of (wC1_forge l hT γ hO h r o a0 a1 a2 z hz)) nm_X1_forge q1378 q1379 q135 q1381 q1380 ⟨Nat.le_trans (Nat.le_of_ble_eq_true rfl) hR.1, Nat.le_trans (Nat.le_of_ble_eq_true rfl) hR.2⟩ rfl rfl hl.1 (lv_room (Nat.le_of_ble_eq_true rfl)) dX0_forge_7 (fun w1 hw1 _ => ?_) (fun x hx1 _ => ?_)
  · cases z with
    | inr x => cases hw1
    | inl q =>
      cases hw1
      refine ⟨hle, fun H1 locs cells slots hA1 f1 f2 => ?_⟩
      have hA2 := AI.add hA1 hF (fw_at f1 hg hlt hat) hk
      refine lv_i2l hx hb dX0_forge_10 rfl ?_
      refine c_last X hA2.1 sJ_out dX0_forge_11 (fun H locs hI => ?_)
      replace hA2 := hA2.up hI
      refine lv_goto (tgt := 19) hx hb dX0_forge_12 (by decide) ?_
      refine lv_iconst (v := 0) hx hb dX0_forge_19 (by decide) ?_
      exact hend (some (.int 0), _) _ _ _ _ _ _ _ _ rfl (kOut_i rfl) f2 hA2 dX0_forge_20
  · cases z with
    | inl q => cases hx1
    | inr x' =>
      cases hx1
      refine ⟨hle, fun H1 locs cells slots q hA1 f1 f2 hq => ?_⟩
      have hA2 := AI.add hA1 hF (fw_at f1 hg hlt hat) hk
      have htg := htag _ rfl
      refine t_catchE X 0 (pre := []) (suf := []) htab (fun z hz => nomatch hz) (by decide) (by decide) q1226 q1259 hq htg ?_
      refine lv_astore (lv' := [(5, .ref q), (0, .ref o), (1, .int a0), (2, .int a1), (3, .int a2), (4, .ref out)]) hx hb dX0_forge_15 hl (by decide) rfl (fun ls hl => ?_)
      refine lv_iconst (v := 1) hx hb dX0_forge_17 (by decide) ?_
      exact hend (some (.int 1), _) _ _ _ _ _ _ _ _ (by unfold wz wzK wzW zxH zxC; dsimp only; rw [if_pos htg]) (kOut_i rfl) f2 hA2 dX0_forge_18
set_option maxRecDepth 100000 in
theorem wL_fire (l : Launch) (hT : l.stackTraces = false) (γ : KG) (hO : kOK γ) (h : CH) (r : CR) (o : Nat) (a0 : Int32) (out : Nat) (w : Nat → Int64) (z : (Int32 × CS) ⊕ XT) (hz : C1_fire γ.2.2.2.2.2 h r o a0 = some z) (hg : h out = none) (hlt : out < r.1) (hrv : isC h o 1 = true) (hle : ale (zxC z) r) (htag : ∀ x, z = .inr x → x.1 = 0) : pMet l yX0_fire (wsW_ yX0_fire cX0_fire 4 (some .int) [(0, 9, 12, 18)]) 9 212 γ (hup h out (ouC w), r) [.ref o, .int a0, .ref out] (.inl (wz Int32.toInt64 0 w out z)) (dm h (zxH z) r.1) := by
  refine w_start (cc := cX0_fire) (own := RX0) hO rfl rfl rfl (fun p e R s m args below meth c Q ls X hR htab h0H hA hl hend => ?_)
  have hx := X.1.1
  have hb := X.1.2.1
  have hl : lv_has ls 4 [(0, .ref o), (1, .int a0), (2, .ref out)] := hl
  obtain ⟨hA0, hat, hF, hk⟩ := hA.drop hg
  refine lv_aload_n hx hb dX0_fire_0 rfl (lv_at hl 2 rfl) ?_
  refine lv_iconst (v := 0) hx hb dX0_fire_1 (by decide) ?_
  refine lv_aload_n hx hb dX0_fire_2 rfl (lv_at hl 0 rfl) ?_
  refine lv_iload_n hx hb dX0_fire_3 rfl (lv_at hl 1 rfl) ?_
  refine p_cV X h0H hA0 kc_TwinInk hrv (pMet.of (wC1_fire l hT γ hO h r o a0 z hz)) nm_X1_fire q1386 q1387 q135 q1389 q1388 ⟨Nat.le_trans (Nat.le_of_ble_eq_true rfl) hR.1, Nat.le_trans (Nat.le_of_ble_eq_true rfl) hR.2⟩ rfl rfl hl.1 (lv_room (Nat.le_of_ble_eq_true rfl)) dX0_fire_4 (fun w1 hw1 _ => ?_) (fun x hx1 _ => ?_)
  · cases z with
    | inr x => cases hw1
    | inl q =>
      cases hw1
      refine ⟨hle, fun H1 locs cells slots hA1 f1 f2 => ?_⟩
      have hA2 := AI.add hA1 hF (fw_at f1 hg hlt hat) hk
      refine lv_i2l hx hb dX0_fire_7 rfl ?_
      refine c_last X hA2.1 sJ_out dX0_fire_8 (fun H locs hI => ?_)
      replace hA2 := hA2.up hI
      refine lv_goto (tgt := 15) hx hb dX0_fire_9 (by decide) ?_
      refine lv_iconst (v := 0) hx hb dX0_fire_15 (by decide) ?_
      exact hend (some (.int 0), _) _ _ _ _ _ _ _ _ rfl (kOut_i rfl) f2 hA2 dX0_fire_16
  · cases z with
    | inl q => cases hx1
    | inr x' =>
      cases hx1
      refine ⟨hle, fun H1 locs cells slots q hA1 f1 f2 hq => ?_⟩
      have hA2 := AI.add hA1 hF (fw_at f1 hg hlt hat) hk
      have htg := htag _ rfl
      refine t_catchE X 0 (pre := []) (suf := []) htab (fun z hz => nomatch hz) (by decide) (by decide) q1226 q1259 hq htg ?_
      refine lv_astore_n (lv' := [(3, .ref q), (0, .ref o), (1, .int a0), (2, .ref out)]) hx hb dX0_fire_12 rfl hl (by decide) rfl (fun ls hl => ?_)
      refine lv_iconst (v := 1) hx hb dX0_fire_13 (by decide) ?_
      exact hend (some (.int 1), _) _ _ _ _ _ _ _ _ (by unfold wz wzK wzW zxH zxC; dsimp only; rw [if_pos htg]) (kOut_i rfl) f2 hA2 dX0_fire_14
set_option maxRecDepth 100000 in
theorem wL_then (l : Launch) (hT : l.stackTraces = false) (γ : KG) (hO : kOK γ) (hNC : va_Nc (kE 1) (kE 0) γ.2.2.1) (h : CH) (r : CR) (o : Nat) (a0 : Int32) (a1 : Int32) (a2 : Int32) (out : Nat) (w : Nat → Int64) (z : (Int32 × CS) ⊕ XT) (hz : C1_then γ.2.2.2.2.2 h r o a0 a1 a2 = some z) (hg : h out = none) (hlt : out < r.1) (hrv : isC h o 1 = true) (hle : ale (zxC z) r) (htag : ∀ x, z = .inr x → x.1 = 0 ∨ x.1 = 1) : pMet l yX0_then (wsW_ yX0_then cX0_then 6 (some .int) [(0, 12, 15, 18), (0, 12, 19, 13)]) 816 20434 γ (hup h out (ouC w), r) [.ref o, .int a0, .int a1, .int a2, .ref out] (.inl (wz Int32.toInt64 2 w out z)) (dm h (zxH z) r.1) := by
  refine w_start (cc := cX0_then) (own := RX0) hO rfl rfl rfl (fun p e R s m args below meth c Q ls X hR htab h0H hA hl hend => ?_)
  have hx := X.1.1
  have hb := X.1.2.1
  have hl : lv_has ls 6 [(0, .ref o), (1, .int a0), (2, .int a1), (3, .int a2), (4, .ref out)] := hl
  obtain ⟨hA0, hat, hF, hk⟩ := hA.drop hg
  refine lv_aload hx hb dX0_then_0 (lv_at hl 4 rfl) ?_
  refine lv_iconst (v := 0) hx hb dX0_then_2 (by decide) ?_
  refine lv_aload_n hx hb dX0_then_3 rfl (lv_at hl 0 rfl) ?_
  refine lv_iload_n hx hb dX0_then_4 rfl (lv_at hl 1 rfl) ?_
  refine lv_iload_n hx hb dX0_then_5 rfl (lv_at hl 2 rfl) ?_
  refine lv_iload_n hx hb dX0_then_6 rfl (lv_at hl 3 rfl) ?_
  refine p_cV X h0H hA0 kc_TwinInk hrv (pMet.of (wC1_then l hT γ hO h r o a0 a1 a2 z hz)) nm_X1_then q1398 q1399 q135 q1401 q1400 ⟨Nat.le_trans (Nat.le_of_ble_eq_true rfl) hR.1, Nat.le_trans (Nat.le_of_ble_eq_true rfl) hR.2⟩ rfl rfl hl.1 (lv_room (Nat.le_of_ble_eq_true rfl)) dX0_then_7 (fun w1 hw1 _ => ?_) (fun x hx1 _ => ?_)
  · cases z with
    | inr x => cases hw1
    | inl q =>
      cases hw1
      refine ⟨hle, fun H1 locs cells slots hA1 f1 f2 => ?_⟩
      have hA2 := AI.add hA1 hF (fw_at f1 hg hlt hat) hk
      refine lv_i2l hx hb dX0_then_10 rfl ?_
      refine c_last X hA2.1 sJ_out dX0_then_11 (fun H locs hI => ?_)
      replace hA2 := hA2.up hI
      refine lv_goto (tgt := 23) hx hb dX0_then_12 (by decide) ?_
      refine lv_iconst (v := 0) hx hb dX0_then_23 (by decide) ?_
      exact hend (some (.int 0), _) _ _ _ _ _ _ _ _ rfl (kOut_i rfl) f2 hA2 dX0_then_24
  · cases z with
    | inl q => cases hx1
    | inr x' =>
      cases hx1
      refine ⟨hle, fun H1 locs cells slots q hA1 f1 f2 hq => ?_⟩
      have hA2 := AI.add hA1 hF (fw_at f1 hg hlt hat) hk
      have htg := htag _ rfl
      rcases htg with htg | htg
      · refine t_catchE X 0 (pre := []) htab (fun z hz => nomatch hz) (by decide) (by decide) q1226 q1259 hq htg ?_
        refine lv_astore (lv' := [(5, .ref q), (0, .ref o), (1, .int a0), (2, .int a1), (3, .int a2), (4, .ref out)]) hx hb dX0_then_15 hl (by decide) rfl (fun ls hl => ?_)
        refine lv_iconst (v := 1) hx hb dX0_then_17 (by decide) ?_
        exact hend (some (.int 1), _) _ _ _ _ _ _ _ _ (by unfold wz wzK wzW zxH zxC; dsimp only; rw [if_pos htg]) (kOut_i rfl) f2 hA2 dX0_then_18
      · refine t_catchE X 1 (pre := [_]) (suf := []) htab (fun z hz => ?_) (by decide) (by decide) q685 q696 hq htg ?_
        · cases List.mem_singleton.mp hz
          exact .inr ⟨by decide, kE 0, X.1.2.2.2.2 _ q1226, va_Nc.moved X.2.2.1.alike hNC⟩
        refine lv_astore (lv' := [(5, .ref q), (0, .ref o), (1, .int a0), (2, .int a1), (3, .int a2), (4, .ref out)]) hx hb dX0_then_19 hl (by decide) rfl (fun ls hl => ?_)
        refine lv_iconst (v := 2) hx hb dX0_then_21 (by decide) ?_
        exact hend (some (.int 2), _) _ _ _ _ _ _ _ _ (by unfold wz wzK wzW zxH zxC; dsimp only; rw [if_neg (by rw [htg]; decide)]) (kOut_i rfl) f2 hA2 dX0_then_22
set_option maxRecDepth 100000 in
theorem wL_where (l : Launch) (hT : l.stackTraces = false) (γ : KG) (hO : kOK γ) (hNC : va_Nc (kE 1) (kE 0) γ.2.2.1) (h : CH) (r : CR) (o : Nat) (a0 : Int32) (a1 : Int32) (out : Nat) (w : Nat → Int64) (z : (Int32 × CS) ⊕ XT) (hz : C1_where γ.2.2.2.2.2 h r o a0 a1 = some z) (hg : h out = none) (hlt : out < r.1) (hrv : isC h o 1 = true) (hle : ale (zxC z) r) (htag : ∀ x, z = .inr x → x.1 = 0 ∨ x.1 = 1) : pMet l yX0_where (wsW_ yX0_where cX0_where 5 (some .int) [(0, 10, 13, 18), (0, 10, 17, 13)]) 816 20433 γ (hup h out (ouC w), r) [.ref o, .int a0, .int a1, .ref out] (.inl (wz Int32.toInt64 2 w out z)) (dm h (zxH z) r.1) := by
  refine w_start (cc := cX0_where) (own := RX0) hO rfl rfl rfl (fun p e R s m args below meth c Q ls X hR htab h0H hA hl hend => ?_)
  have hx := X.1.1
  have hb := X.1.2.1
  have hl : lv_has ls 5 [(0, .ref o), (1, .int a0), (2, .int a1), (3, .ref out)] := hl
  obtain ⟨hA0, hat, hF, hk⟩ := hA.drop hg
  refine lv_aload_n hx hb dX0_where_0 rfl (lv_at hl 3 rfl) ?_
  refine lv_iconst (v := 0) hx hb dX0_where_1 (by decide) ?_
  refine lv_aload_n hx hb dX0_where_2 rfl (lv_at hl 0 rfl) ?_
  refine lv_iload_n hx hb dX0_where_3 rfl (lv_at hl 1 rfl) ?_
  refine lv_iload_n hx hb dX0_where_4 rfl (lv_at hl 2 rfl) ?_
  refine p_cV X h0H hA0 kc_TwinInk hrv (pMet.of (wC1_where l hT γ hO h r o a0 a1 z hz)) nm_X1_where q1410 q1411 q135 q1413 q1412 ⟨Nat.le_trans (Nat.le_of_ble_eq_true rfl) hR.1, Nat.le_trans (Nat.le_of_ble_eq_true rfl) hR.2⟩ rfl rfl hl.1 (lv_room (Nat.le_of_ble_eq_true rfl)) dX0_where_5 (fun w1 hw1 _ => ?_) (fun x hx1 _ => ?_)
  · cases z with
    | inr x => cases hw1
    | inl q =>
      cases hw1
      refine ⟨hle, fun H1 locs cells slots hA1 f1 f2 => ?_⟩
      have hA2 := AI.add hA1 hF (fw_at f1 hg hlt hat) hk
      refine lv_i2l hx hb dX0_where_8 rfl ?_
      refine c_last X hA2.1 sJ_out dX0_where_9 (fun H locs hI => ?_)
      replace hA2 := hA2.up hI
      refine lv_goto (tgt := 21) hx hb dX0_where_10 (by decide) ?_
      refine lv_iconst (v := 0) hx hb dX0_where_21 (by decide) ?_
      exact hend (some (.int 0), _) _ _ _ _ _ _ _ _ rfl (kOut_i rfl) f2 hA2 dX0_where_22
  · cases z with
    | inl q => cases hx1
    | inr x' =>
      cases hx1
      refine ⟨hle, fun H1 locs cells slots q hA1 f1 f2 hq => ?_⟩
      have hA2 := AI.add hA1 hF (fw_at f1 hg hlt hat) hk
      have htg := htag _ rfl
      rcases htg with htg | htg
      · refine t_catchE X 0 (pre := []) htab (fun z hz => nomatch hz) (by decide) (by decide) q1226 q1259 hq htg ?_
        refine lv_astore (lv' := [(4, .ref q), (0, .ref o), (1, .int a0), (2, .int a1), (3, .ref out)]) hx hb dX0_where_13 hl (by decide) rfl (fun ls hl => ?_)
        refine lv_iconst (v := 1) hx hb dX0_where_15 (by decide) ?_
        exact hend (some (.int 1), _) _ _ _ _ _ _ _ _ (by unfold wz wzK wzW zxH zxC; dsimp only; rw [if_pos htg]) (kOut_i rfl) f2 hA2 dX0_where_16
      · refine t_catchE X 1 (pre := [_]) (suf := []) htab (fun z hz => ?_) (by decide) (by decide) q685 q696 hq htg ?_
        · cases List.mem_singleton.mp hz
          exact .inr ⟨by decide, kE 0, X.1.2.2.2.2 _ q1226, va_Nc.moved X.2.2.1.alike hNC⟩
        refine lv_astore (lv' := [(4, .ref q), (0, .ref o), (1, .int a0), (2, .int a1), (3, .ref out)]) hx hb dX0_where_17 hl (by decide) rfl (fun ls hl => ?_)
        refine lv_iconst (v := 2) hx hb dX0_where_19 (by decide) ?_
        exact hend (some (.int 2), _) _ _ _ _ _ _ _ _ (by unfold wz wzK wzW zxH zxC; dsimp only; rw [if_neg (by rw [htg]; decide)]) (kOut_i rfl) f2 hA2 dX0_where_20
set_option maxRecDepth 100000 in
theorem wL_first (l : Launch) (hT : l.stackTraces = false) (γ : KG) (hO : kOK γ) (h : CH) (r : CR) (o : Nat) (a0 : Int32) (a1 : Int32) (out : Nat) (w : Nat → Int64) (z : (Int32 × CS) ⊕ XT) (hz : C1_first γ.2.2.2.2.2 h r o a0 a1 = some z) (hg : h out = none) (hlt : out < r.1) (hrv : isC h o 1 = true) (hle : ale (zxC z) r) (htag : ∀ x, z = .inr x → x.1 = 0) : pMet l yX0_first (wsW_ yX0_first cX0_first 5 (some .int) [(0, 10, 13, 18)]) 815 20414 γ (hup h out (ouC w), r) [.ref o, .int a0, .int a1, .ref out] (.inl (wz Int32.toInt64 0 w out z)) (dm h (zxH z) r.1) := by
  refine w_start (cc := cX0_first) (own := RX0) hO rfl rfl rfl (fun p e R s m args below meth c Q ls X hR htab h0H hA hl hend => ?_)
  have hx := X.1.1
  have hb := X.1.2.1
  have hl : lv_has ls 5 [(0, .ref o), (1, .int a0), (2, .int a1), (3, .ref out)] := hl
  obtain ⟨hA0, hat, hF, hk⟩ := hA.drop hg
  refine lv_aload_n hx hb dX0_first_0 rfl (lv_at hl 3 rfl) ?_
  refine lv_iconst (v := 0) hx hb dX0_first_1 (by decide) ?_
  refine lv_aload_n hx hb dX0_first_2 rfl (lv_at hl 0 rfl) ?_
  refine lv_iload_n hx hb dX0_first_3 rfl (lv_at hl 1 rfl) ?_
  refine lv_iload_n hx hb dX0_first_4 rfl (lv_at hl 2 rfl) ?_
  refine p_cV X h0H hA0 kc_TwinInk hrv (pMet.of (wC1_first l hT γ hO h r o a0 a1 z hz)) nm_X1_first q1417 q1418 q135 q1420 q1419 ⟨Nat.le_trans (Nat.le_of_ble_eq_true rfl) hR.1, Nat.le_trans (Nat.le_of_ble_eq_true rfl) hR.2⟩ rfl rfl hl.1 (lv_room (Nat.le_of_ble_eq_true rfl)) dX0_first_5 (fun w1 hw1 _ => ?_) (fun x hx1 _ => ?_)
  · cases z with
    | inr x => cases hw1
    | inl q =>
      cases hw1
      refine ⟨hle, fun H1 locs cells slots hA1 f1 f2 => ?_⟩
      have hA2 := AI.add hA1 hF (fw_at f1 hg hlt hat) hk
      refine lv_i2l hx hb dX0_first_8 rfl ?_
      refine c_last X hA2.1 sJ_out dX0_first_9 (fun H locs hI => ?_)
      replace hA2 := hA2.up hI
      refine lv_goto (tgt := 17) hx hb dX0_first_10 (by decide) ?_
      refine lv_iconst (v := 0) hx hb dX0_first_17 (by decide) ?_
      exact hend (some (.int 0), _) _ _ _ _ _ _ _ _ rfl (kOut_i rfl) f2 hA2 dX0_first_18
  · cases z with
    | inl q => cases hx1
    | inr x' =>
      cases hx1
      refine ⟨hle, fun H1 locs cells slots q hA1 f1 f2 hq => ?_⟩
      have hA2 := AI.add hA1 hF (fw_at f1 hg hlt hat) hk
      have htg := htag _ rfl
      refine t_catchE X 0 (pre := []) (suf := []) htab (fun z hz => nomatch hz) (by decide) (by decide) q1226 q1259 hq htg ?_
      refine lv_astore (lv' := [(4, .ref q), (0, .ref o), (1, .int a0), (2, .int a1), (3, .ref out)]) hx hb dX0_first_13 hl (by decide) rfl (fun ls hl => ?_)
      refine lv_iconst (v := 1) hx hb dX0_first_15 (by decide) ?_
      exact hend (some (.int 1), _) _ _ _ _ _ _ _ _ (by unfold wz wzK wzW zxH zxC; dsimp only; rw [if_pos htg]) (kOut_i rfl) f2 hA2 dX0_first_16
set_option maxRecDepth 100000 in
theorem wL_read (l : Launch) (hT : l.stackTraces = false) (γ : KG) (hO : kOK γ) (hNC : va_Nc (kE 1) (kE 0) γ.2.2.1) (h : CH) (r : CR) (o : Nat) (a0 : Int32) (a1 : Int32) (out : Nat) (w : Nat → Int64) (z : (Int32 × CS) ⊕ XT) (hz : C1_read γ.2.2.2.2.2 h r o a0 a1 = some z) (hg : h out = none) (hlt : out < r.1) (hrv : isC h o 1 = true) (hle : ale (zxC z) r) (htag : ∀ x, z = .inr x → x.1 = 0 ∨ x.1 = 1) : pMet l yX0_read (wsW_ yX0_read cX0_read 5 (some .int) [(0, 10, 13, 18), (0, 10, 17, 13)]) 816 20436 γ (hup h out (ouC w), r) [.ref o, .int a0, .int a1, .ref out] (.inl (wz Int32.toInt64 2 w out z)) (dm h (zxH z) r.1) := by
  refine w_start (cc := cX0_read) (own := RX0) hO rfl rfl rfl (fun p e R s m args below meth c Q ls X hR htab h0H hA hl hend => ?_)
  have hx := X.1.1
  have hb := X.1.2.1
  have hl : lv_has ls 5 [(0, .ref o), (1, .int a0), (2, .int a1), (3, .ref out)] := hl
  obtain ⟨hA0, hat, hF, hk⟩ := hA.drop hg
  refine lv_aload_n hx hb dX0_read_0 rfl (lv_at hl 3 rfl) ?_
  refine lv_iconst (v := 0) hx hb dX0_read_1 (by decide) ?_
  refine lv_aload_n hx hb dX0_read_2 rfl (lv_at hl 0 rfl) ?_
  refine lv_iload_n hx hb dX0_read_3 rfl (lv_at hl 1 rfl) ?_
  refine lv_iload_n hx hb dX0_read_4 rfl (lv_at hl 2 rfl) ?_
  refine p_cV X h0H hA0 kc_TwinInk hrv (pMet.of (wC1_read l hT γ hO h r o a0 a1 z hz)) nm_X1_read q1433 q1434 q135 q1436 q1435 ⟨Nat.le_trans (Nat.le_of_ble_eq_true rfl) hR.1, Nat.le_trans (Nat.le_of_ble_eq_true rfl) hR.2⟩ rfl rfl hl.1 (lv_room (Nat.le_of_ble_eq_true rfl)) dX0_read_5 (fun w1 hw1 _ => ?_) (fun x hx1 _ => ?_)
  · cases z with
    | inr x => cases hw1
    | inl q =>
      cases hw1
      refine ⟨hle, fun H1 locs cells slots hA1 f1 f2 => ?_⟩
      have hA2 := AI.add hA1 hF (fw_at f1 hg hlt hat) hk
      refine lv_i2l hx hb dX0_read_8 rfl ?_
      refine c_last X hA2.1 sJ_out dX0_read_9 (fun H locs hI => ?_)
      replace hA2 := hA2.up hI
      refine lv_goto (tgt := 21) hx hb dX0_read_10 (by decide) ?_
      refine lv_iconst (v := 0) hx hb dX0_read_21 (by decide) ?_
      exact hend (some (.int 0), _) _ _ _ _ _ _ _ _ rfl (kOut_i rfl) f2 hA2 dX0_read_22
  · cases z with
    | inl q => cases hx1
    | inr x' =>
      cases hx1
      refine ⟨hle, fun H1 locs cells slots q hA1 f1 f2 hq => ?_⟩
      have hA2 := AI.add hA1 hF (fw_at f1 hg hlt hat) hk
      have htg := htag _ rfl
      rcases htg with htg | htg
      · refine t_catchE X 0 (pre := []) htab (fun z hz => nomatch hz) (by decide) (by decide) q1226 q1259 hq htg ?_
        refine lv_astore (lv' := [(4, .ref q), (0, .ref o), (1, .int a0), (2, .int a1), (3, .ref out)]) hx hb dX0_read_13 hl (by decide) rfl (fun ls hl => ?_)
        refine lv_iconst (v := 1) hx hb dX0_read_15 (by decide) ?_
        exact hend (some (.int 1), _) _ _ _ _ _ _ _ _ (by unfold wz wzK wzW zxH zxC; dsimp only; rw [if_pos htg]) (kOut_i rfl) f2 hA2 dX0_read_16
      · refine t_catchE X 1 (pre := [_]) (suf := []) htab (fun z hz => ?_) (by decide) (by decide) q685 q696 hq htg ?_
        · cases List.mem_singleton.mp hz
          exact .inr ⟨by decide, kE 0, X.1.2.2.2.2 _ q1226, va_Nc.moved X.2.2.1.alike hNC⟩
        refine lv_astore (lv' := [(4, .ref q), (0, .ref o), (1, .int a0), (2, .int a1), (3, .ref out)]) hx hb dX0_read_17 hl (by decide) rfl (fun ls hl => ?_)
        refine lv_iconst (v := 2) hx hb dX0_read_19 (by decide) ?_
        exact hend (some (.int 2), _) _ _ _ _ _ _ _ _ (by unfold wz wzK wzW zxH zxC; dsimp only; rw [if_neg (by rw [htg]; decide)]) (kOut_i rfl) f2 hA2 dX0_read_20
set_option maxRecDepth 100000 in
theorem wL_mould (l : Launch) (hT : l.stackTraces = false) (γ : KG) (hO : kOK γ) (h : CH) (r : CR) (o : Nat) (a0 : Int32) (out : Nat) (w : Nat → Int64) (z : (Int32 × CS) ⊕ XT) (hz : C1_mould γ.2.2.2.2.2 h r o a0 = some z) (hg : h out = none) (hlt : out < r.1) (hrv : isC h o 1 = true) (hle : ale (zxC z) r) (htag : ∀ x, z = .inr x → x.1 = 0) : pMet l yX0_mould (wsW_ yX0_mould cX0_mould 4 (some .int) [(0, 9, 12, 18)]) 814 20390 γ (hup h out (ouC w), r) [.ref o, .int a0, .ref out] (.inl (wz Int32.toInt64 0 w out z)) (dm h (zxH z) r.1) := by
  refine w_start (cc := cX0_mould) (own := RX0) hO rfl rfl rfl (fun p e R s m args below meth c Q ls X hR htab h0H hA hl hend => ?_)
  have hx := X.1.1
  have hb := X.1.2.1
  have hl : lv_has ls 4 [(0, .ref o), (1, .int a0), (2, .ref out)] := hl
  obtain ⟨hA0, hat, hF, hk⟩ := hA.drop hg
  refine lv_aload_n hx hb dX0_mould_0 rfl (lv_at hl 2 rfl) ?_
  refine lv_iconst (v := 0) hx hb dX0_mould_1 (by decide) ?_
  refine lv_aload_n hx hb dX0_mould_2 rfl (lv_at hl 0 rfl) ?_
  refine lv_iload_n hx hb dX0_mould_3 rfl (lv_at hl 1 rfl) ?_
  refine p_cV X h0H hA0 kc_TwinInk hrv (pMet.of (wC1_mould l hT γ hO h r o a0 z hz)) nm_X1_mould q1440 q1441 q135 q1443 q1442 ⟨Nat.le_trans (Nat.le_of_ble_eq_true rfl) hR.1, Nat.le_trans (Nat.le_of_ble_eq_true rfl) hR.2⟩ rfl rfl hl.1 (lv_room (Nat.le_of_ble_eq_true rfl)) dX0_mould_4 (fun w1 hw1 _ => ?_) (fun x hx1 _ => ?_)
  · cases z with
    | inr x => cases hw1
    | inl q =>
      cases hw1
      refine ⟨hle, fun H1 locs cells slots hA1 f1 f2 => ?_⟩
      have hA2 := AI.add hA1 hF (fw_at f1 hg hlt hat) hk
      refine lv_i2l hx hb dX0_mould_7 rfl ?_
      refine c_last X hA2.1 sJ_out dX0_mould_8 (fun H locs hI => ?_)
      replace hA2 := hA2.up hI
      refine lv_goto (tgt := 15) hx hb dX0_mould_9 (by decide) ?_
      refine lv_iconst (v := 0) hx hb dX0_mould_15 (by decide) ?_
      exact hend (some (.int 0), _) _ _ _ _ _ _ _ _ rfl (kOut_i rfl) f2 hA2 dX0_mould_16
  · cases z with
    | inl q => cases hx1
    | inr x' =>
      cases hx1
      refine ⟨hle, fun H1 locs cells slots q hA1 f1 f2 hq => ?_⟩
      have hA2 := AI.add hA1 hF (fw_at f1 hg hlt hat) hk
      have htg := htag _ rfl
      refine t_catchE X 0 (pre := []) (suf := []) htab (fun z hz => nomatch hz) (by decide) (by decide) q1226 q1259 hq htg ?_
      refine lv_astore_n (lv' := [(3, .ref q), (0, .ref o), (1, .int a0), (2, .ref out)]) hx hb dX0_mould_12 rfl hl (by decide) rfl (fun ls hl => ?_)
      refine lv_iconst (v := 1) hx hb dX0_mould_13 (by decide) ?_
      exact hend (some (.int 1), _) _ _ _ _ _ _ _ _ (by unfold wz wzK wzW zxH zxC; dsimp only; rw [if_pos htg]) (kOut_i rfl) f2 hA2 dX0_mould_14
set_option maxRecDepth 100000 in
theorem wL_meet (l : Launch) (hT : l.stackTraces = false) (γ : KG) (hO : kOK γ) (h : CH) (r : CR) (o : Nat) (a0 : Int32) (a1 : Int32) (out : Nat) (w : Nat → Int64) (z : (Int32 × CS) ⊕ XT) (hz : C1_meet γ.2.2.2.2.2 h r o a0 a1 = some z) (hg : h out = none) (hlt : out < r.1) (hrv : isC h o 1 = true) (hle : ale (zxC z) r) (htag : ∀ x, z = .inr x → x.1 = 0) : pMet l yX0_meet (wsW_ yX0_meet cX0_meet 5 (some .int) [(0, 10, 13, 18)]) 814 20391 γ (hup h out (ouC w), r) [.ref o, .int a0, .int a1, .ref out] (.inl (wz Int32.toInt64 0 w out z)) (dm h (zxH z) r.1) := by
  refine w_start (cc := cX0_meet) (own := RX0) hO rfl rfl rfl (fun p e R s m args below meth c Q ls X hR htab h0H hA hl hend => ?_)
  have hx := X.1.1
  have hb := X.1.2.1
  have hl : lv_has ls 5 [(0, .ref o), (1, .int a0), (2, .int a1), (3, .ref out)] := hl
  obtain ⟨hA0, hat, hF, hk⟩ := hA.drop hg
  refine lv_aload_n hx hb dX0_meet_0 rfl (lv_at hl 3 rfl) ?_
  refine lv_iconst (v := 0) hx hb dX0_meet_1 (by decide) ?_
  refine lv_aload_n hx hb dX0_meet_2 rfl (lv_at hl 0 rfl) ?_
  refine lv_iload_n hx hb dX0_meet_3 rfl (lv_at hl 1 rfl) ?_
  refine lv_iload_n hx hb dX0_meet_4 rfl (lv_at hl 2 rfl) ?_
  refine p_cV X h0H hA0 kc_TwinInk hrv (pMet.of (wC1_meet l hT γ hO h r o a0 a1 z hz)) nm_X1_meet q1447 q1448 q135 q1450 q1449 ⟨Nat.le_trans (Nat.le_of_ble_eq_true rfl) hR.1, Nat.le_trans (Nat.le_of_ble_eq_true rfl) hR.2⟩ rfl rfl hl.1 (lv_room (Nat.le_of_ble_eq_true rfl)) dX0_meet_5 (fun w1 hw1 _ => ?_) (fun x hx1 _ => ?_)
  · cases z with
    | inr x => cases hw1
    | inl q =>
      cases hw1
      refine ⟨hle, fun H1 locs cells slots hA1 f1 f2 => ?_⟩
      have hA2 := AI.add hA1 hF (fw_at f1 hg hlt hat) hk
      refine lv_i2l hx hb dX0_meet_8 rfl ?_
      refine c_last X hA2.1 sJ_out dX0_meet_9 (fun H locs hI => ?_)
      replace hA2 := hA2.up hI
      refine lv_goto (tgt := 17) hx hb dX0_meet_10 (by decide) ?_
      refine lv_iconst (v := 0) hx hb dX0_meet_17 (by decide) ?_
      exact hend (some (.int 0), _) _ _ _ _ _ _ _ _ rfl (kOut_i rfl) f2 hA2 dX0_meet_18
  · cases z with
    | inl q => cases hx1
    | inr x' =>
      cases hx1
      refine ⟨hle, fun H1 locs cells slots q hA1 f1 f2 hq => ?_⟩
      have hA2 := AI.add hA1 hF (fw_at f1 hg hlt hat) hk
      have htg := htag _ rfl
      refine t_catchE X 0 (pre := []) (suf := []) htab (fun z hz => nomatch hz) (by decide) (by decide) q1226 q1259 hq htg ?_
      refine lv_astore (lv' := [(4, .ref q), (0, .ref o), (1, .int a0), (2, .int a1), (3, .ref out)]) hx hb dX0_meet_13 hl (by decide) rfl (fun ls hl => ?_)
      refine lv_iconst (v := 1) hx hb dX0_meet_15 (by decide) ?_
      exact hend (some (.int 1), _) _ _ _ _ _ _ _ _ (by unfold wz wzK wzW zxH zxC; dsimp only; rw [if_pos htg]) (kOut_i rfl) f2 hA2 dX0_meet_16
set_option maxRecDepth 100000 in
theorem wL_gathering (l : Launch) (hT : l.stackTraces = false) (γ : KG) (hO : kOK γ) (h : CH) (r : CR) (o : Nat) (a0 : Int32) (out : Nat) (w : Nat → Int64) (z : (Int32 × CS) ⊕ XT) (hz : C1_gathering γ.2.2.2.2.2 h r o a0 = some z) (hg : h out = none) (hlt : out < r.1) (hrv : isC h o 1 = true) (hle : ale (zxC z) r) (htag : ∀ x, z = .inr x → x.1 = 1) : pMet l yX0_gathering (wsW_ yX0_gathering cX0_gathering 4 (some .int) [(0, 9, 12, 13)]) 816 20434 γ (hup h out (ouC w), r) [.ref o, .int a0, .ref out] (.inl (wz Int32.toInt64 1 w out z)) (dm h (zxH z) r.1) := by
  refine w_start (cc := cX0_gathering) (own := RX0) hO rfl rfl rfl (fun p e R s m args below meth c Q ls X hR htab h0H hA hl hend => ?_)
  have hx := X.1.1
  have hb := X.1.2.1
  have hl : lv_has ls 4 [(0, .ref o), (1, .int a0), (2, .ref out)] := hl
  obtain ⟨hA0, hat, hF, hk⟩ := hA.drop hg
  refine lv_aload_n hx hb dX0_gathering_0 rfl (lv_at hl 2 rfl) ?_
  refine lv_iconst (v := 0) hx hb dX0_gathering_1 (by decide) ?_
  refine lv_aload_n hx hb dX0_gathering_2 rfl (lv_at hl 0 rfl) ?_
  refine lv_iload_n hx hb dX0_gathering_3 rfl (lv_at hl 1 rfl) ?_
  refine p_cV X h0H hA0 kc_TwinInk hrv (pMet.of (wC1_gathering l hT γ hO h r o a0 z hz)) nm_X1_gathering q1454 q1455 q135 q1457 q1456 ⟨Nat.le_trans (Nat.le_of_ble_eq_true rfl) hR.1, Nat.le_trans (Nat.le_of_ble_eq_true rfl) hR.2⟩ rfl rfl hl.1 (lv_room (Nat.le_of_ble_eq_true rfl)) dX0_gathering_4 (fun w1 hw1 _ => ?_) (fun x hx1 _ => ?_)
  · cases z with
    | inr x => cases hw1
    | inl q =>
      cases hw1
      refine ⟨hle, fun H1 locs cells slots hA1 f1 f2 => ?_⟩
      have hA2 := AI.add hA1 hF (fw_at f1 hg hlt hat) hk
      refine lv_i2l hx hb dX0_gathering_7 rfl ?_
      refine c_last X hA2.1 sJ_out dX0_gathering_8 (fun H locs hI => ?_)
      replace hA2 := hA2.up hI
      refine lv_goto (tgt := 15) hx hb dX0_gathering_9 (by decide) ?_
      refine lv_iconst (v := 0) hx hb dX0_gathering_15 (by decide) ?_
      exact hend (some (.int 0), _) _ _ _ _ _ _ _ _ rfl (kOut_i rfl) f2 hA2 dX0_gathering_16
  · cases z with
    | inl q => cases hx1
    | inr x' =>
      cases hx1
      refine ⟨hle, fun H1 locs cells slots q hA1 f1 f2 hq => ?_⟩
      have hA2 := AI.add hA1 hF (fw_at f1 hg hlt hat) hk
      have htg := htag _ rfl
      refine t_catchE X 1 (pre := []) (suf := []) htab (fun z hz => nomatch hz) (by decide) (by decide) q685 q696 hq htg ?_
      refine lv_astore_n (lv' := [(3, .ref q), (0, .ref o), (1, .int a0), (2, .ref out)]) hx hb dX0_gathering_12 rfl hl (by decide) rfl (fun ls hl => ?_)
      refine lv_iconst (v := 1) hx hb dX0_gathering_13 (by decide) ?_
      exact hend (some (.int 1), _) _ _ _ _ _ _ _ _ (by unfold wz wzK wzW zxH zxC; dsimp only; rw [if_neg (by rw [htg]; decide)]) (kOut_i rfl) f2 hA2 dX0_gathering_14
set_option maxRecDepth 100000 in
theorem wL_row (l : Launch) (hT : l.stackTraces = false) (γ : KG) (hO : kOK γ) (h : CH) (r : CR) (o : Nat) (a0 : Int32) (out : Nat) (w : Nat → Int64) (z : (Int32 × CS) ⊕ XT) (hz : C1_row h r o a0 = some z) (hg : h out = none) (hlt : out < r.1) (hrv : isC h o 1 = true) (hle : ale (zxC z) r) (htag : ∀ x, z = .inr x → x.1 = 0) : pMet l yX0_row (wsW_ yX0_row cX0_row 4 (some .int) [(0, 9, 12, 18)]) 8 149 γ (hup h out (ouC w), r) [.ref o, .int a0, .ref out] (.inl (wz Int32.toInt64 0 w out z)) (dm h (zxH z) r.1) := by
  refine w_start (cc := cX0_row) (own := RX0) hO rfl rfl rfl (fun p e R s m args below meth c Q ls X hR htab h0H hA hl hend => ?_)
  have hx := X.1.1
  have hb := X.1.2.1
  have hl : lv_has ls 4 [(0, .ref o), (1, .int a0), (2, .ref out)] := hl
  obtain ⟨hA0, hat, hF, hk⟩ := hA.drop hg
  refine lv_aload_n hx hb dX0_row_0 rfl (lv_at hl 2 rfl) ?_
  refine lv_iconst (v := 0) hx hb dX0_row_1 (by decide) ?_
  refine lv_aload_n hx hb dX0_row_2 rfl (lv_at hl 0 rfl) ?_
  refine lv_iload_n hx hb dX0_row_3 rfl (lv_at hl 1 rfl) ?_
  refine p_cV X h0H hA0 kc_TwinInk hrv (pMet.of (wC1_row l hT γ hO h r o a0 z hz)) nm_X1_row q1462 q1463 q135 q1465 q1464 ⟨Nat.le_trans (Nat.le_of_ble_eq_true rfl) hR.1, Nat.le_trans (Nat.le_of_ble_eq_true rfl) hR.2⟩ rfl rfl hl.1 (lv_room (Nat.le_of_ble_eq_true rfl)) dX0_row_4 (fun w1 hw1 _ => ?_) (fun x hx1 _ => ?_)
  · cases z with
    | inr x => cases hw1
    | inl q =>
      cases hw1
      refine ⟨hle, fun H1 locs cells slots hA1 f1 f2 => ?_⟩
      have hA2 := AI.add hA1 hF (fw_at f1 hg hlt hat) hk
      refine lv_i2l hx hb dX0_row_7 rfl ?_
      refine c_last X hA2.1 sJ_out dX0_row_8 (fun H locs hI => ?_)
      replace hA2 := hA2.up hI
      refine lv_goto (tgt := 15) hx hb dX0_row_9 (by decide) ?_
      refine lv_iconst (v := 0) hx hb dX0_row_15 (by decide) ?_
      exact hend (some (.int 0), _) _ _ _ _ _ _ _ _ rfl (kOut_i rfl) f2 hA2 dX0_row_16
  · cases z with
    | inl q => cases hx1
    | inr x' =>
      cases hx1
      refine ⟨hle, fun H1 locs cells slots q hA1 f1 f2 hq => ?_⟩
      have hA2 := AI.add hA1 hF (fw_at f1 hg hlt hat) hk
      have htg := htag _ rfl
      refine t_catchE X 0 (pre := []) (suf := []) htab (fun z hz => nomatch hz) (by decide) (by decide) q1226 q1259 hq htg ?_
      refine lv_astore_n (lv' := [(3, .ref q), (0, .ref o), (1, .int a0), (2, .ref out)]) hx hb dX0_row_12 rfl hl (by decide) rfl (fun ls hl => ?_)
      refine lv_iconst (v := 1) hx hb dX0_row_13 (by decide) ?_
      exact hend (some (.int 1), _) _ _ _ _ _ _ _ _ (by unfold wz wzK wzW zxH zxC; dsimp only; rw [if_pos htg]) (kOut_i rfl) f2 hA2 dX0_row_14
set_option maxRecDepth 100000 in
theorem wL_toForge (l : Launch) (hT : l.stackTraces = false) (γ : KG) (hO : kOK γ) (h : CH) (r : CR) (o : Nat) (a0 : Int32) (a1 : Int32) (out : Nat) (w : Nat → Int64) (z : (Int32 × CS) ⊕ XT) (hz : C1_toForge h r o a0 a1 = some z) (hg : h out = none) (hlt : out < r.1) (hrv : isC h o 1 = true) (hle : ale (zxC z) r) (htag : ∀ x, z = .inr x → x.1 = 0) : pMet l yX0_toForge (wsW_ yX0_toForge cX0_toForge 5 (some .int) [(0, 10, 13, 18)]) 9 163 γ (hup h out (ouC w), r) [.ref o, .int a0, .int a1, .ref out] (.inl (wz Int32.toInt64 0 w out z)) (dm h (zxH z) r.1) := by
  refine w_start (cc := cX0_toForge) (own := RX0) hO rfl rfl rfl (fun p e R s m args below meth c Q ls X hR htab h0H hA hl hend => ?_)
  have hx := X.1.1
  have hb := X.1.2.1
  have hl : lv_has ls 5 [(0, .ref o), (1, .int a0), (2, .int a1), (3, .ref out)] := hl
  obtain ⟨hA0, hat, hF, hk⟩ := hA.drop hg
  refine lv_aload_n hx hb dX0_toForge_0 rfl (lv_at hl 3 rfl) ?_
  refine lv_iconst (v := 0) hx hb dX0_toForge_1 (by decide) ?_
  refine lv_aload_n hx hb dX0_toForge_2 rfl (lv_at hl 0 rfl) ?_
  refine lv_iload_n hx hb dX0_toForge_3 rfl (lv_at hl 1 rfl) ?_
  refine lv_iload_n hx hb dX0_toForge_4 rfl (lv_at hl 2 rfl) ?_
  refine p_cV X h0H hA0 kc_TwinInk hrv (pMet.of (wC1_toForge l hT γ hO h r o a0 a1 z hz)) nm_X1_toForge q1475 q1476 q135 q1478 q1477 ⟨Nat.le_trans (Nat.le_of_ble_eq_true rfl) hR.1, Nat.le_trans (Nat.le_of_ble_eq_true rfl) hR.2⟩ rfl rfl hl.1 (lv_room (Nat.le_of_ble_eq_true rfl)) dX0_toForge_5 (fun w1 hw1 _ => ?_) (fun x hx1 _ => ?_)
  · cases z with
    | inr x => cases hw1
    | inl q =>
      cases hw1
      refine ⟨hle, fun H1 locs cells slots hA1 f1 f2 => ?_⟩
      have hA2 := AI.add hA1 hF (fw_at f1 hg hlt hat) hk
      refine lv_i2l hx hb dX0_toForge_8 rfl ?_
      refine c_last X hA2.1 sJ_out dX0_toForge_9 (fun H locs hI => ?_)
      replace hA2 := hA2.up hI
      refine lv_goto (tgt := 17) hx hb dX0_toForge_10 (by decide) ?_
      refine lv_iconst (v := 0) hx hb dX0_toForge_17 (by decide) ?_
      exact hend (some (.int 0), _) _ _ _ _ _ _ _ _ rfl (kOut_i rfl) f2 hA2 dX0_toForge_18
  · cases z with
    | inl q => cases hx1
    | inr x' =>
      cases hx1
      refine ⟨hle, fun H1 locs cells slots q hA1 f1 f2 hq => ?_⟩
      have hA2 := AI.add hA1 hF (fw_at f1 hg hlt hat) hk
      have htg := htag _ rfl
      refine t_catchE X 0 (pre := []) (suf := []) htab (fun z hz => nomatch hz) (by decide) (by decide) q1226 q1259 hq htg ?_
      refine lv_astore (lv' := [(4, .ref q), (0, .ref o), (1, .int a0), (2, .int a1), (3, .ref out)]) hx hb dX0_toForge_13 hl (by decide) rfl (fun ls hl => ?_)
      refine lv_iconst (v := 1) hx hb dX0_toForge_15 (by decide) ?_
      exact hend (some (.int 1), _) _ _ _ _ _ _ _ _ (by unfold wz wzK wzW zxH zxC; dsimp only; rw [if_pos htg]) (kOut_i rfl) f2 hA2 dX0_toForge_16
set_option maxRecDepth 100000 in
theorem wL_toSave (l : Launch) (hT : l.stackTraces = false) (γ : KG) (hO : kOK γ) (h : CH) (r : CR) (o : Nat) (a0 : Int32) (out : Nat) (w : Nat → Int64) (z : (Int32 × CS) ⊕ XT) (hz : C1_toSave h r o a0 = some z) (hg : h out = none) (hlt : out < r.1) (hrv : isC h o 1 = true) (hle : ale (zxC z) r) (htag : ∀ x, z = .inr x → x.1 = 0) : pMet l yX0_toSave (wsW_ yX0_toSave cX0_toSave 4 (some .int) [(0, 9, 12, 18)]) 9 166 γ (hup h out (ouC w), r) [.ref o, .int a0, .ref out] (.inl (wz Int32.toInt64 0 w out z)) (dm h (zxH z) r.1) := by
  refine w_start (cc := cX0_toSave) (own := RX0) hO rfl rfl rfl (fun p e R s m args below meth c Q ls X hR htab h0H hA hl hend => ?_)
  have hx := X.1.1
  have hb := X.1.2.1
  have hl : lv_has ls 4 [(0, .ref o), (1, .int a0), (2, .ref out)] := hl
  obtain ⟨hA0, hat, hF, hk⟩ := hA.drop hg
  refine lv_aload_n hx hb dX0_toSave_0 rfl (lv_at hl 2 rfl) ?_
  refine lv_iconst (v := 0) hx hb dX0_toSave_1 (by decide) ?_
  refine lv_aload_n hx hb dX0_toSave_2 rfl (lv_at hl 0 rfl) ?_
  refine lv_iload_n hx hb dX0_toSave_3 rfl (lv_at hl 1 rfl) ?_
  refine p_cV X h0H hA0 kc_TwinInk hrv (pMet.of (wC1_toSave l hT γ hO h r o a0 z hz)) nm_X1_toSave q1483 q1484 q135 q1486 q1485 ⟨Nat.le_trans (Nat.le_of_ble_eq_true rfl) hR.1, Nat.le_trans (Nat.le_of_ble_eq_true rfl) hR.2⟩ rfl rfl hl.1 (lv_room (Nat.le_of_ble_eq_true rfl)) dX0_toSave_4 (fun w1 hw1 _ => ?_) (fun x hx1 _ => ?_)
  · cases z with
    | inr x => cases hw1
    | inl q =>
      cases hw1
      refine ⟨hle, fun H1 locs cells slots hA1 f1 f2 => ?_⟩
      have hA2 := AI.add hA1 hF (fw_at f1 hg hlt hat) hk
      refine lv_i2l hx hb dX0_toSave_7 rfl ?_
      refine c_last X hA2.1 sJ_out dX0_toSave_8 (fun H locs hI => ?_)
      replace hA2 := hA2.up hI
      refine lv_goto (tgt := 15) hx hb dX0_toSave_9 (by decide) ?_
      refine lv_iconst (v := 0) hx hb dX0_toSave_15 (by decide) ?_
      exact hend (some (.int 0), _) _ _ _ _ _ _ _ _ rfl (kOut_i rfl) f2 hA2 dX0_toSave_16
  · cases z with
    | inl q => cases hx1
    | inr x' =>
      cases hx1
      refine ⟨hle, fun H1 locs cells slots q hA1 f1 f2 hq => ?_⟩
      have hA2 := AI.add hA1 hF (fw_at f1 hg hlt hat) hk
      have htg := htag _ rfl
      refine t_catchE X 0 (pre := []) (suf := []) htab (fun z hz => nomatch hz) (by decide) (by decide) q1226 q1259 hq htg ?_
      refine lv_astore_n (lv' := [(3, .ref q), (0, .ref o), (1, .int a0), (2, .ref out)]) hx hb dX0_toSave_12 rfl hl (by decide) rfl (fun ls hl => ?_)
      refine lv_iconst (v := 1) hx hb dX0_toSave_13 (by decide) ?_
      exact hend (some (.int 1), _) _ _ _ _ _ _ _ _ (by unfold wz wzK wzW zxH zxC; dsimp only; rw [if_pos htg]) (kOut_i rfl) f2 hA2 dX0_toSave_14
set_option maxRecDepth 100000 in
theorem wL_chain (l : Launch) (hT : l.stackTraces = false) (γ : KG) (hO : kOK γ) (h : CH) (r : CR) (o : Nat) (a0 : Int32) (a1 : Int32) (out : Nat) (w : Nat → Int64) (z : (Int32 × CS) ⊕ XT) (hz : C1_chain γ.2.2.2.2.2 h r o a0 a1 = some z) (hg : h out = none) (hlt : out < r.1) (hrv : isC h o 1 = true) (hle : ale (zxC z) r) (htag : ∀ x, z = .inr x → x.1 = 0) : pMet l yX0_chain (wsW_ yX0_chain cX0_chain 5 (some .int) [(0, 10, 13, 18)]) 815 20414 γ (hup h out (ouC w), r) [.ref o, .int a0, .int a1, .ref out] (.inl (wz Int32.toInt64 0 w out z)) (dm h (zxH z) r.1) := by
  refine w_start (cc := cX0_chain) (own := RX0) hO rfl rfl rfl (fun p e R s m args below meth c Q ls X hR htab h0H hA hl hend => ?_)
  have hx := X.1.1
  have hb := X.1.2.1
  have hl : lv_has ls 5 [(0, .ref o), (1, .int a0), (2, .int a1), (3, .ref out)] := hl
  obtain ⟨hA0, hat, hF, hk⟩ := hA.drop hg
  refine lv_aload_n hx hb dX0_chain_0 rfl (lv_at hl 3 rfl) ?_
  refine lv_iconst (v := 0) hx hb dX0_chain_1 (by decide) ?_
  refine lv_aload_n hx hb dX0_chain_2 rfl (lv_at hl 0 rfl) ?_
  refine lv_iload_n hx hb dX0_chain_3 rfl (lv_at hl 1 rfl) ?_
  refine lv_iload_n hx hb dX0_chain_4 rfl (lv_at hl 2 rfl) ?_
  refine p_cV X h0H hA0 kc_TwinInk hrv (pMet.of (wC1_chain l hT γ hO h r o a0 a1 z hz)) nm_X1_chain q1490 q1491 q135 q1493 q1492 ⟨Nat.le_trans (Nat.le_of_ble_eq_true rfl) hR.1, Nat.le_trans (Nat.le_of_ble_eq_true rfl) hR.2⟩ rfl rfl hl.1 (lv_room (Nat.le_of_ble_eq_true rfl)) dX0_chain_5 (fun w1 hw1 _ => ?_) (fun x hx1 _ => ?_)
  · cases z with
    | inr x => cases hw1
    | inl q =>
      cases hw1
      refine ⟨hle, fun H1 locs cells slots hA1 f1 f2 => ?_⟩
      have hA2 := AI.add hA1 hF (fw_at f1 hg hlt hat) hk
      refine lv_i2l hx hb dX0_chain_8 rfl ?_
      refine c_last X hA2.1 sJ_out dX0_chain_9 (fun H locs hI => ?_)
      replace hA2 := hA2.up hI
      refine lv_goto (tgt := 17) hx hb dX0_chain_10 (by decide) ?_
      refine lv_iconst (v := 0) hx hb dX0_chain_17 (by decide) ?_
      exact hend (some (.int 0), _) _ _ _ _ _ _ _ _ rfl (kOut_i rfl) f2 hA2 dX0_chain_18
  · cases z with
    | inl q => cases hx1
    | inr x' =>
      cases hx1
      refine ⟨hle, fun H1 locs cells slots q hA1 f1 f2 hq => ?_⟩
      have hA2 := AI.add hA1 hF (fw_at f1 hg hlt hat) hk
      have htg := htag _ rfl
      refine t_catchE X 0 (pre := []) (suf := []) htab (fun z hz => nomatch hz) (by decide) (by decide) q1226 q1259 hq htg ?_
      refine lv_astore (lv' := [(4, .ref q), (0, .ref o), (1, .int a0), (2, .int a1), (3, .ref out)]) hx hb dX0_chain_13 hl (by decide) rfl (fun ls hl => ?_)
      refine lv_iconst (v := 1) hx hb dX0_chain_15 (by decide) ?_
      exact hend (some (.int 1), _) _ _ _ _ _ _ _ _ (by unfold wz wzK wzW zxH zxC; dsimp only; rw [if_pos htg]) (kOut_i rfl) f2 hA2 dX0_chain_16
set_option maxRecDepth 100000 in
theorem wL_hear (l : Launch) (hT : l.stackTraces = false) (γ : KG) (hO : kOK γ) (h : CH) (r : CR) (o : Nat) (a0 : Int32) (a1 : Int32) (a2 : Int32) (a3 : Int32) (out : Nat) (w : Nat → Int64) (z : (Int32 × CS) ⊕ XT) (hz : C1_hear γ.2.2.2.2.2 h r o a0 a1 a2 a3 = some z) (hg : h out = none) (hlt : out < r.1) (hrv : isC h o 1 = true) (hle : ale (zxC z) r) (htag : ∀ x, z = .inr x → x.1 = 0) : pMet l yX0_hear (wsW_ yX0_hear cX0_hear 7 (some .int) [(0, 14, 17, 18)]) 9 195 γ (hup h out (ouC w), r) [.ref o, .int a0, .int a1, .int a2, .int a3, .ref out] (.inl (wz Int32.toInt64 0 w out z)) (dm h (zxH z) r.1) := by
  refine w_start (cc := cX0_hear) (own := RX0) hO rfl rfl rfl (fun p e R s m args below meth c Q ls X hR htab h0H hA hl hend => ?_)
  have hx := X.1.1
  have hb := X.1.2.1
  have hl : lv_has ls 7 [(0, .ref o), (1, .int a0), (2, .int a1), (3, .int a2), (4, .int a3), (5, .ref out)] := hl
  obtain ⟨hA0, hat, hF, hk⟩ := hA.drop hg
  refine lv_aload hx hb dX0_hear_0 (lv_at hl 5 rfl) ?_
  refine lv_iconst (v := 0) hx hb dX0_hear_2 (by decide) ?_
  refine lv_aload_n hx hb dX0_hear_3 rfl (lv_at hl 0 rfl) ?_
  refine lv_iload_n hx hb dX0_hear_4 rfl (lv_at hl 1 rfl) ?_
  refine lv_iload_n hx hb dX0_hear_5 rfl (lv_at hl 2 rfl) ?_
  refine lv_iload_n hx hb dX0_hear_6 rfl (lv_at hl 3 rfl) ?_
  refine lv_iload hx hb dX0_hear_7 (lv_at hl 4 rfl) ?_
  refine p_cV X h0H hA0 kc_TwinInk hrv (pMet.of (wC1_hear l hT γ hO h r o a0 a1 a2 a3 z hz)) nm_X1_hear q1497 q1498 q135 q1500 q1499 ⟨Nat.le_trans (Nat.le_of_ble_eq_true rfl) hR.1, Nat.le_trans (Nat.le_of_ble_eq_true rfl) hR.2⟩ rfl rfl hl.1 (lv_room (Nat.le_of_ble_eq_true rfl)) dX0_hear_9 (fun w1 hw1 _ => ?_) (fun x hx1 _ => ?_)
  · cases z with
    | inr x => cases hw1
    | inl q =>
      cases hw1
      refine ⟨hle, fun H1 locs cells slots hA1 f1 f2 => ?_⟩
      have hA2 := AI.add hA1 hF (fw_at f1 hg hlt hat) hk
      refine lv_i2l hx hb dX0_hear_12 rfl ?_
      refine c_last X hA2.1 sJ_out dX0_hear_13 (fun H locs hI => ?_)
      replace hA2 := hA2.up hI
      refine lv_goto (tgt := 21) hx hb dX0_hear_14 (by decide) ?_
      refine lv_iconst (v := 0) hx hb dX0_hear_21 (by decide) ?_
      exact hend (some (.int 0), _) _ _ _ _ _ _ _ _ rfl (kOut_i rfl) f2 hA2 dX0_hear_22
  · cases z with
    | inl q => cases hx1
    | inr x' =>
      cases hx1
      refine ⟨hle, fun H1 locs cells slots q hA1 f1 f2 hq => ?_⟩
      have hA2 := AI.add hA1 hF (fw_at f1 hg hlt hat) hk
      have htg := htag _ rfl
      refine t_catchE X 0 (pre := []) (suf := []) htab (fun z hz => nomatch hz) (by decide) (by decide) q1226 q1259 hq htg ?_
      refine lv_astore (lv' := [(6, .ref q), (0, .ref o), (1, .int a0), (2, .int a1), (3, .int a2), (4, .int a3), (5, .ref out)]) hx hb dX0_hear_17 hl (by decide) rfl (fun ls hl => ?_)
      refine lv_iconst (v := 1) hx hb dX0_hear_19 (by decide) ?_
      exact hend (some (.int 1), _) _ _ _ _ _ _ _ _ (by unfold wz wzK wzW zxH zxC; dsimp only; rw [if_pos htg]) (kOut_i rfl) f2 hA2 dX0_hear_20
set_option maxRecDepth 100000 in
theorem wL_borne (l : Launch) (hT : l.stackTraces = false) (γ : KG) (hO : kOK γ) (h : CH) (r : CR) (o : Nat) (a0 : Int32) (out : Nat) (w : Nat → Int64) (z : (Int32 × CS) ⊕ XT) (hz : C1_borne γ.2.2.2.2.2 h r o a0 = some z) (hg : h out = none) (hlt : out < r.1) (hrv : isC h o 1 = true) (hle : ale (zxC z) r) (htag : ∀ x, z = .inr x → x.1 = 0) : pMet l yX0_borne (wsW_ yX0_borne cX0_borne 4 (some .int) [(0, 9, 12, 18)]) 816 20437 γ (hup h out (ouC w), r) [.ref o, .int a0, .ref out] (.inl (wz Int32.toInt64 0 w out z)) (dm h (zxH z) r.1) := by
  refine w_start (cc := cX0_borne) (own := RX0) hO rfl rfl rfl (fun p e R s m args below meth c Q ls X hR htab h0H hA hl hend => ?_)
  have hx := X.1.1
  have hb := X.1.2.1
  have hl : lv_has ls 4 [(0, .ref o), (1, .int a0), (2, .ref out)] := hl
  obtain ⟨hA0, hat, hF, hk⟩ := hA.drop hg
  refine lv_aload_n hx hb dX0_borne_0 rfl (lv_at hl 2 rfl) ?_
  refine lv_iconst (v := 0) hx hb dX0_borne_1 (by decide) ?_
  refine lv_aload_n hx hb dX0_borne_2 rfl (lv_at hl 0 rfl) ?_
  refine lv_iload_n hx hb dX0_borne_3 rfl (lv_at hl 1 rfl) ?_
  refine p_cV X h0H hA0 kc_TwinInk hrv (pMet.of (wC1_borne l hT γ hO h r o a0 z hz)) nm_X1_borne q1504 q1505 q135 q1507 q1506 ⟨Nat.le_trans (Nat.le_of_ble_eq_true rfl) hR.1, Nat.le_trans (Nat.le_of_ble_eq_true rfl) hR.2⟩ rfl rfl hl.1 (lv_room (Nat.le_of_ble_eq_true rfl)) dX0_borne_4 (fun w1 hw1 _ => ?_) (fun x hx1 _ => ?_)
  · cases z with
    | inr x => cases hw1
    | inl q =>
      cases hw1
      refine ⟨hle, fun H1 locs cells slots hA1 f1 f2 => ?_⟩
      have hA2 := AI.add hA1 hF (fw_at f1 hg hlt hat) hk
      refine lv_i2l hx hb dX0_borne_7 rfl ?_
      refine c_last X hA2.1 sJ_out dX0_borne_8 (fun H locs hI => ?_)
      replace hA2 := hA2.up hI
      refine lv_goto (tgt := 15) hx hb dX0_borne_9 (by decide) ?_
      refine lv_iconst (v := 0) hx hb dX0_borne_15 (by decide) ?_
      exact hend (some (.int 0), _) _ _ _ _ _ _ _ _ rfl (kOut_i rfl) f2 hA2 dX0_borne_16
  · cases z with
    | inl q => cases hx1
    | inr x' =>
      cases hx1
      refine ⟨hle, fun H1 locs cells slots q hA1 f1 f2 hq => ?_⟩
      have hA2 := AI.add hA1 hF (fw_at f1 hg hlt hat) hk
      have htg := htag _ rfl
      refine t_catchE X 0 (pre := []) (suf := []) htab (fun z hz => nomatch hz) (by decide) (by decide) q1226 q1259 hq htg ?_
      refine lv_astore_n (lv' := [(3, .ref q), (0, .ref o), (1, .int a0), (2, .ref out)]) hx hb dX0_borne_12 rfl hl (by decide) rfl (fun ls hl => ?_)
      refine lv_iconst (v := 1) hx hb dX0_borne_13 (by decide) ?_
      exact hend (some (.int 1), _) _ _ _ _ _ _ _ _ (by unfold wz wzK wzW zxH zxC; dsimp only; rw [if_pos htg]) (kOut_i rfl) f2 hA2 dX0_borne_14
set_option maxRecDepth 100000 in
theorem wL_ask (l : Launch) (hT : l.stackTraces = false) (γ : KG) (hO : kOK γ) (h : CH) (r : CR) (o : Nat) (a0 : Int32) (out : Nat) (w : Nat → Int64) (z : (Int32 × CS) ⊕ XT) (hz : C1_ask γ.2.2.2.2.2 h r o a0 = some z) (hg : h out = none) (hlt : out < r.1) (hrv : isC h o 1 = true) (hle : ale (zxC z) r) (htag : ∀ x, z = .inr x → x.1 = 0) : pMet l yX0_ask (wsW_ yX0_ask cX0_ask 4 (some .int) [(0, 9, 12, 18)]) 816 20445 γ (hup h out (ouC w), r) [.ref o, .int a0, .ref out] (.inl (wz Int32.toInt64 0 w out z)) (dm h (zxH z) r.1) := by
  refine w_start (cc := cX0_ask) (own := RX0) hO rfl rfl rfl (fun p e R s m args below meth c Q ls X hR htab h0H hA hl hend => ?_)
  have hx := X.1.1
  have hb := X.1.2.1
  have hl : lv_has ls 4 [(0, .ref o), (1, .int a0), (2, .ref out)] := hl
  obtain ⟨hA0, hat, hF, hk⟩ := hA.drop hg
  refine lv_aload_n hx hb dX0_ask_0 rfl (lv_at hl 2 rfl) ?_
  refine lv_iconst (v := 0) hx hb dX0_ask_1 (by decide) ?_
  refine lv_aload_n hx hb dX0_ask_2 rfl (lv_at hl 0 rfl) ?_
  refine lv_iload_n hx hb dX0_ask_3 rfl (lv_at hl 1 rfl) ?_
  refine p_cV X h0H hA0 kc_TwinInk hrv (pMet.of (wC1_ask l hT γ hO h r o a0 z hz)) nm_X1_ask q1522 q1523 q135 q1525 q1524 ⟨Nat.le_trans (Nat.le_of_ble_eq_true rfl) hR.1, Nat.le_trans (Nat.le_of_ble_eq_true rfl) hR.2⟩ rfl rfl hl.1 (lv_room (Nat.le_of_ble_eq_true rfl)) dX0_ask_4 (fun w1 hw1 _ => ?_) (fun x hx1 _ => ?_)
  · cases z with
    | inr x => cases hw1
    | inl q =>
      cases hw1
      refine ⟨hle, fun H1 locs cells slots hA1 f1 f2 => ?_⟩
      have hA2 := AI.add hA1 hF (fw_at f1 hg hlt hat) hk
      refine lv_i2l hx hb dX0_ask_7 rfl ?_
      refine c_last X hA2.1 sJ_out dX0_ask_8 (fun H locs hI => ?_)
      replace hA2 := hA2.up hI
      refine lv_goto (tgt := 15) hx hb dX0_ask_9 (by decide) ?_
      refine lv_iconst (v := 0) hx hb dX0_ask_15 (by decide) ?_
      exact hend (some (.int 0), _) _ _ _ _ _ _ _ _ rfl (kOut_i rfl) f2 hA2 dX0_ask_16
  · cases z with
    | inl q => cases hx1
    | inr x' =>
      cases hx1
      refine ⟨hle, fun H1 locs cells slots q hA1 f1 f2 hq => ?_⟩
      have hA2 := AI.add hA1 hF (fw_at f1 hg hlt hat) hk
      have htg := htag _ rfl
      refine t_catchE X 0 (pre := []) (suf := []) htab (fun z hz => nomatch hz) (by decide) (by decide) q1226 q1259 hq htg ?_
      refine lv_astore_n (lv' := [(3, .ref q), (0, .ref o), (1, .int a0), (2, .ref out)]) hx hb dX0_ask_12 rfl hl (by decide) rfl (fun ls hl => ?_)
      refine lv_iconst (v := 1) hx hb dX0_ask_13 (by decide) ?_
      exact hend (some (.int 1), _) _ _ _ _ _ _ _ _ (by unfold wz wzK wzW zxH zxC; dsimp only; rw [if_pos htg]) (kOut_i rfl) f2 hA2 dX0_ask_14
set_option maxRecDepth 100000 in
theorem wL_fires (l : Launch) (hT : l.stackTraces = false) (γ : KG) (hO : kOK γ) (hNC : va_Nc (kE 1) (kE 0) γ.2.2.1) (h : CH) (r : CR) (o : Nat) (a0 : Int32) (a1 : Int32) (out : Nat) (w : Nat → Int64) (z : (Int32 × CS) ⊕ XT) (hz : C1_fires h r o a0 a1 = some z) (hg : h out = none) (hlt : out < r.1) (hrv : isC h o 1 = true) (hle : ale (zxC z) r) (htag : ∀ x, z = .inr x → x.1 = 0 ∨ x.1 = 1) : pMet l yX0_fires (wsW_ yX0_fires cX0_fires 5 (some .int) [(0, 10, 13, 18), (0, 10, 17, 13)]) 9 168 γ (hup h out (ouC w), r) [.ref o, .int a0, .int a1, .ref out] (.inl (wz Int32.toInt64 2 w out z)) (dm h (zxH z) r.1) := by
  refine w_start (cc := cX0_fires) (own := RX0) hO rfl rfl rfl (fun p e R s m args below meth c Q ls X hR htab h0H hA hl hend => ?_)
  have hx := X.1.1
  have hb := X.1.2.1
  have hl : lv_has ls 5 [(0, .ref o), (1, .int a0), (2, .int a1), (3, .ref out)] := hl
  obtain ⟨hA0, hat, hF, hk⟩ := hA.drop hg
  refine lv_aload_n hx hb dX0_fires_0 rfl (lv_at hl 3 rfl) ?_
  refine lv_iconst (v := 0) hx hb dX0_fires_1 (by decide) ?_
  refine lv_aload_n hx hb dX0_fires_2 rfl (lv_at hl 0 rfl) ?_
  refine lv_iload_n hx hb dX0_fires_3 rfl (lv_at hl 1 rfl) ?_
  refine lv_iload_n hx hb dX0_fires_4 rfl (lv_at hl 2 rfl) ?_
  refine p_cV X h0H hA0 kc_TwinInk hrv (pMet.of (wC1_fires l hT γ hO h r o a0 a1 z hz)) nm_X1_fires q1529 q1530 q135 q1532 q1531 ⟨Nat.le_trans (Nat.le_of_ble_eq_true rfl) hR.1, Nat.le_trans (Nat.le_of_ble_eq_true rfl) hR.2⟩ rfl rfl hl.1 (lv_room (Nat.le_of_ble_eq_true rfl)) dX0_fires_5 (fun w1 hw1 _ => ?_) (fun x hx1 _ => ?_)
  · cases z with
    | inr x => cases hw1
    | inl q =>
      cases hw1
      refine ⟨hle, fun H1 locs cells slots hA1 f1 f2 => ?_⟩
      have hA2 := AI.add hA1 hF (fw_at f1 hg hlt hat) hk
      refine lv_i2l hx hb dX0_fires_8 rfl ?_
      refine c_last X hA2.1 sJ_out dX0_fires_9 (fun H locs hI => ?_)
      replace hA2 := hA2.up hI
      refine lv_goto (tgt := 21) hx hb dX0_fires_10 (by decide) ?_
      refine lv_iconst (v := 0) hx hb dX0_fires_21 (by decide) ?_
      exact hend (some (.int 0), _) _ _ _ _ _ _ _ _ rfl (kOut_i rfl) f2 hA2 dX0_fires_22
  · cases z with
    | inl q => cases hx1
    | inr x' =>
      cases hx1
      refine ⟨hle, fun H1 locs cells slots q hA1 f1 f2 hq => ?_⟩
      have hA2 := AI.add hA1 hF (fw_at f1 hg hlt hat) hk
      have htg := htag _ rfl
      rcases htg with htg | htg
      · refine t_catchE X 0 (pre := []) htab (fun z hz => nomatch hz) (by decide) (by decide) q1226 q1259 hq htg ?_
        refine lv_astore (lv' := [(4, .ref q), (0, .ref o), (1, .int a0), (2, .int a1), (3, .ref out)]) hx hb dX0_fires_13 hl (by decide) rfl (fun ls hl => ?_)
        refine lv_iconst (v := 1) hx hb dX0_fires_15 (by decide) ?_
        exact hend (some (.int 1), _) _ _ _ _ _ _ _ _ (by unfold wz wzK wzW zxH zxC; dsimp only; rw [if_pos htg]) (kOut_i rfl) f2 hA2 dX0_fires_16
      · refine t_catchE X 1 (pre := [_]) (suf := []) htab (fun z hz => ?_) (by decide) (by decide) q685 q696 hq htg ?_
        · cases List.mem_singleton.mp hz
          exact .inr ⟨by decide, kE 0, X.1.2.2.2.2 _ q1226, va_Nc.moved X.2.2.1.alike hNC⟩
        refine lv_astore (lv' := [(4, .ref q), (0, .ref o), (1, .int a0), (2, .int a1), (3, .ref out)]) hx hb dX0_fires_17 hl (by decide) rfl (fun ls hl => ?_)
        refine lv_iconst (v := 2) hx hb dX0_fires_19 (by decide) ?_
        exact hend (some (.int 2), _) _ _ _ _ _ _ _ _ (by unfold wz wzK wzW zxH zxC; dsimp only; rw [if_neg (by rw [htg]; decide)]) (kOut_i rfl) f2 hA2 dX0_fires_20
set_option maxRecDepth 100000 in
theorem wL_game (l : Launch) (hT : l.stackTraces = false) (γ : KG) (hO : kOK γ) (hNC : va_Nc (kE 1) (kE 0) γ.2.2.1) (h : CH) (r : CR) (o : Nat) (a0 : Int32) (a1 : Int32) (a2 : Int32) (out : Nat) (w : Nat → Int64) (z : (Int32 × CS) ⊕ XT) (hz : C1_game h r o a0 a1 a2 = some z) (hg : h out = none) (hlt : out < r.1) (hrv : isC h o 1 = true) (hle : ale (zxC z) r) (htag : ∀ x, z = .inr x → x.1 = 0 ∨ x.1 = 1) : pMet l yX0_game (wsW_ yX0_game cX0_game 6 (some .int) [(0, 12, 15, 18), (0, 12, 19, 13)]) 9 168 γ (hup h out (ouC w), r) [.ref o, .int a0, .int a1, .int a2, .ref out] (.inl (wz Int32.toInt64 2 w out z)) (dm h (zxH z) r.1) := by
  refine w_start (cc := cX0_game) (own := RX0) hO rfl rfl rfl (fun p e R s m args below meth c Q ls X hR htab h0H hA hl hend => ?_)
  have hx := X.1.1
  have hb := X.1.2.1
  have hl : lv_has ls 6 [(0, .ref o), (1, .int a0), (2, .int a1), (3, .int a2), (4, .ref out)] := hl
  obtain ⟨hA0, hat, hF, hk⟩ := hA.drop hg
  refine lv_aload hx hb dX0_game_0 (lv_at hl 4 rfl) ?_
  refine lv_iconst (v := 0) hx hb dX0_game_2 (by decide) ?_
  refine lv_aload_n hx hb dX0_game_3 rfl (lv_at hl 0 rfl) ?_
  refine lv_iload_n hx hb dX0_game_4 rfl (lv_at hl 1 rfl) ?_
  refine lv_iload_n hx hb dX0_game_5 rfl (lv_at hl 2 rfl) ?_
  refine lv_iload_n hx hb dX0_game_6 rfl (lv_at hl 3 rfl) ?_
  refine p_cV X h0H hA0 kc_TwinInk hrv (pMet.of (wC1_game l hT γ hO h r o a0 a1 a2 z hz)) nm_X1_game q1536 q1537 q135 q1539 q1538 ⟨Nat.le_trans (Nat.le_of_ble_eq_true rfl) hR.1, Nat.le_trans (Nat.le_of_ble_eq_true rfl) hR.2⟩ rfl rfl hl.1 (lv_room (Nat.le_of_ble_eq_true rfl)) dX0_game_7 (fun w1 hw1 _ => ?_) (fun x hx1 _ => ?_)
  · cases z with
    | inr x => cases hw1
    | inl q =>
      cases hw1
      refine ⟨hle, fun H1 locs cells slots hA1 f1 f2 => ?_⟩
      have hA2 := AI.add hA1 hF (fw_at f1 hg hlt hat) hk
      refine lv_i2l hx hb dX0_game_10 rfl ?_
      refine c_last X hA2.1 sJ_out dX0_game_11 (fun H locs hI => ?_)
      replace hA2 := hA2.up hI
      refine lv_goto (tgt := 23) hx hb dX0_game_12 (by decide) ?_
      refine lv_iconst (v := 0) hx hb dX0_game_23 (by decide) ?_
      exact hend (some (.int 0), _) _ _ _ _ _ _ _ _ rfl (kOut_i rfl) f2 hA2 dX0_game_24
  · cases z with
    | inl q => cases hx1
    | inr x' =>
      cases hx1
      refine ⟨hle, fun H1 locs cells slots q hA1 f1 f2 hq => ?_⟩
      have hA2 := AI.add hA1 hF (fw_at f1 hg hlt hat) hk
      have htg := htag _ rfl
      rcases htg with htg | htg
      · refine t_catchE X 0 (pre := []) htab (fun z hz => nomatch hz) (by decide) (by decide) q1226 q1259 hq htg ?_
        refine lv_astore (lv' := [(5, .ref q), (0, .ref o), (1, .int a0), (2, .int a1), (3, .int a2), (4, .ref out)]) hx hb dX0_game_15 hl (by decide) rfl (fun ls hl => ?_)
        refine lv_iconst (v := 1) hx hb dX0_game_17 (by decide) ?_
        exact hend (some (.int 1), _) _ _ _ _ _ _ _ _ (by unfold wz wzK wzW zxH zxC; dsimp only; rw [if_pos htg]) (kOut_i rfl) f2 hA2 dX0_game_18
      · refine t_catchE X 1 (pre := [_]) (suf := []) htab (fun z hz => ?_) (by decide) (by decide) q685 q696 hq htg ?_
        · cases List.mem_singleton.mp hz
          exact .inr ⟨by decide, kE 0, X.1.2.2.2.2 _ q1226, va_Nc.moved X.2.2.1.alike hNC⟩
        refine lv_astore (lv' := [(5, .ref q), (0, .ref o), (1, .int a0), (2, .int a1), (3, .int a2), (4, .ref out)]) hx hb dX0_game_19 hl (by decide) rfl (fun ls hl => ?_)
        refine lv_iconst (v := 2) hx hb dX0_game_21 (by decide) ?_
        exact hend (some (.int 2), _) _ _ _ _ _ _ _ _ (by unfold wz wzK wzW zxH zxC; dsimp only; rw [if_neg (by rw [htg]; decide)]) (kOut_i rfl) f2 hA2 dX0_game_22
set_option maxRecDepth 100000 in
theorem wL_years (l : Launch) (hT : l.stackTraces = false) (γ : KG) (hO : kOK γ) (hNC : va_Nc (kE 1) (kE 0) γ.2.2.1) (h : CH) (r : CR) (o : Nat) (a0 : Int32) (a1 : Int32) (a2 : Int32) (out : Nat) (w : Nat → Int64) (z : (Int32 × CS) ⊕ XT) (hz : C1_years γ.2.2.2.2.2 h r o a0 a1 a2 = some z) (hg : h out = none) (hlt : out < r.1) (hrv : isC h o 1 = true) (hle : ale (zxC z) r) (htag : ∀ x, z = .inr x → x.1 = 0 ∨ x.1 = 1) : pMet l yX0_years (wsW_ yX0_years cX0_years 6 (some .int) [(0, 12, 15, 18), (0, 12, 19, 13)]) 814 20392 γ (hup h out (ouC w), r) [.ref o, .int a0, .int a1, .int a2, .ref out] (.inl (wz Int32.toInt64 2 w out z)) (dm h (zxH z) r.1) := by
  refine w_start (cc := cX0_years) (own := RX0) hO rfl rfl rfl (fun p e R s m args below meth c Q ls X hR htab h0H hA hl hend => ?_)
  have hx := X.1.1
  have hb := X.1.2.1
  have hl : lv_has ls 6 [(0, .ref o), (1, .int a0), (2, .int a1), (3, .int a2), (4, .ref out)] := hl
  obtain ⟨hA0, hat, hF, hk⟩ := hA.drop hg
  refine lv_aload hx hb dX0_years_0 (lv_at hl 4 rfl) ?_
  refine lv_iconst (v := 0) hx hb dX0_years_2 (by decide) ?_
  refine lv_aload_n hx hb dX0_years_3 rfl (lv_at hl 0 rfl) ?_
  refine lv_iload_n hx hb dX0_years_4 rfl (lv_at hl 1 rfl) ?_
  refine lv_iload_n hx hb dX0_years_5 rfl (lv_at hl 2 rfl) ?_
  refine lv_iload_n hx hb dX0_years_6 rfl (lv_at hl 3 rfl) ?_
  refine p_cV X h0H hA0 kc_TwinInk hrv (pMet.of (wC1_years l hT γ hO h r o a0 a1 a2 z hz)) nm_X1_years q1552 q1553 q135 q1555 q1554 ⟨Nat.le_trans (Nat.le_of_ble_eq_true rfl) hR.1, Nat.le_trans (Nat.le_of_ble_eq_true rfl) hR.2⟩ rfl rfl hl.1 (lv_room (Nat.le_of_ble_eq_true rfl)) dX0_years_7 (fun w1 hw1 _ => ?_) (fun x hx1 _ => ?_)
  · cases z with
    | inr x => cases hw1
    | inl q =>
      cases hw1
      refine ⟨hle, fun H1 locs cells slots hA1 f1 f2 => ?_⟩
      have hA2 := AI.add hA1 hF (fw_at f1 hg hlt hat) hk
      refine lv_i2l hx hb dX0_years_10 rfl ?_
      refine c_last X hA2.1 sJ_out dX0_years_11 (fun H locs hI => ?_)
      replace hA2 := hA2.up hI
      refine lv_goto (tgt := 23) hx hb dX0_years_12 (by decide) ?_
      refine lv_iconst (v := 0) hx hb dX0_years_23 (by decide) ?_
      exact hend (some (.int 0), _) _ _ _ _ _ _ _ _ rfl (kOut_i rfl) f2 hA2 dX0_years_24
  · cases z with
    | inl q => cases hx1
    | inr x' =>
      cases hx1
      refine ⟨hle, fun H1 locs cells slots q hA1 f1 f2 hq => ?_⟩
      have hA2 := AI.add hA1 hF (fw_at f1 hg hlt hat) hk
      have htg := htag _ rfl
      rcases htg with htg | htg
      · refine t_catchE X 0 (pre := []) htab (fun z hz => nomatch hz) (by decide) (by decide) q1226 q1259 hq htg ?_
        refine lv_astore (lv' := [(5, .ref q), (0, .ref o), (1, .int a0), (2, .int a1), (3, .int a2), (4, .ref out)]) hx hb dX0_years_15 hl (by decide) rfl (fun ls hl => ?_)
        refine lv_iconst (v := 1) hx hb dX0_years_17 (by decide) ?_
        exact hend (some (.int 1), _) _ _ _ _ _ _ _ _ (by unfold wz wzK wzW zxH zxC; dsimp only; rw [if_pos htg]) (kOut_i rfl) f2 hA2 dX0_years_18
      · refine t_catchE X 1 (pre := [_]) (suf := []) htab (fun z hz => ?_) (by decide) (by decide) q685 q696 hq htg ?_
        · cases List.mem_singleton.mp hz
          exact .inr ⟨by decide, kE 0, X.1.2.2.2.2 _ q1226, va_Nc.moved X.2.2.1.alike hNC⟩
        refine lv_astore (lv' := [(5, .ref q), (0, .ref o), (1, .int a0), (2, .int a1), (3, .int a2), (4, .ref out)]) hx hb dX0_years_19 hl (by decide) rfl (fun ls hl => ?_)
        refine lv_iconst (v := 2) hx hb dX0_years_21 (by decide) ?_
        exact hend (some (.int 2), _) _ _ _ _ _ _ _ _ (by unfold wz wzK wzW zxH zxC; dsimp only; rw [if_neg (by rw [htg]; decide)]) (kOut_i rfl) f2 hA2 dX0_years_22
set_option maxRecDepth 100000 in
theorem wL_wisest (l : Launch) (hT : l.stackTraces = false) (γ : KG) (hO : kOK γ) (h : CH) (r : CR) (o : Nat) (a0 : Int32) (out : Nat) (w : Nat → Int64) (z : (Int32 × CS) ⊕ XT) (hz : C1_wisest γ.2.2.2.2.2 h r o a0 = some z) (hg : h out = none) (hlt : out < r.1) (hrv : isC h o 1 = true) (hle : ale (zxC z) r) (htag : ∀ x, z = .inr x → x.1 = 1) : pMet l yX0_wisest (wsW_ yX0_wisest cX0_wisest 4 (some .int) [(0, 9, 12, 13)]) 816 20434 γ (hup h out (ouC w), r) [.ref o, .int a0, .ref out] (.inl (wz Int32.toInt64 1 w out z)) (dm h (zxH z) r.1) := by
  refine w_start (cc := cX0_wisest) (own := RX0) hO rfl rfl rfl (fun p e R s m args below meth c Q ls X hR htab h0H hA hl hend => ?_)
  have hx := X.1.1
  have hb := X.1.2.1
  have hl : lv_has ls 4 [(0, .ref o), (1, .int a0), (2, .ref out)] := hl
  obtain ⟨hA0, hat, hF, hk⟩ := hA.drop hg
  refine lv_aload_n hx hb dX0_wisest_0 rfl (lv_at hl 2 rfl) ?_
  refine lv_iconst (v := 0) hx hb dX0_wisest_1 (by decide) ?_
  refine lv_aload_n hx hb dX0_wisest_2 rfl (lv_at hl 0 rfl) ?_
  refine lv_iload_n hx hb dX0_wisest_3 rfl (lv_at hl 1 rfl) ?_
  refine p_cV X h0H hA0 kc_TwinInk hrv (pMet.of (wC1_wisest l hT γ hO h r o a0 z hz)) nm_X1_wisest q1568 q1569 q135 q1571 q1570 ⟨Nat.le_trans (Nat.le_of_ble_eq_true rfl) hR.1, Nat.le_trans (Nat.le_of_ble_eq_true rfl) hR.2⟩ rfl rfl hl.1 (lv_room (Nat.le_of_ble_eq_true rfl)) dX0_wisest_4 (fun w1 hw1 _ => ?_) (fun x hx1 _ => ?_)
  · cases z with
    | inr x => cases hw1
    | inl q =>
      cases hw1
      refine ⟨hle, fun H1 locs cells slots hA1 f1 f2 => ?_⟩
      have hA2 := AI.add hA1 hF (fw_at f1 hg hlt hat) hk
      refine lv_i2l hx hb dX0_wisest_7 rfl ?_
      refine c_last X hA2.1 sJ_out dX0_wisest_8 (fun H locs hI => ?_)
      replace hA2 := hA2.up hI
      refine lv_goto (tgt := 15) hx hb dX0_wisest_9 (by decide) ?_
      refine lv_iconst (v := 0) hx hb dX0_wisest_15 (by decide) ?_
      exact hend (some (.int 0), _) _ _ _ _ _ _ _ _ rfl (kOut_i rfl) f2 hA2 dX0_wisest_16
  · cases z with
    | inl q => cases hx1
    | inr x' =>
      cases hx1
      refine ⟨hle, fun H1 locs cells slots q hA1 f1 f2 hq => ?_⟩
      have hA2 := AI.add hA1 hF (fw_at f1 hg hlt hat) hk
      have htg := htag _ rfl
      refine t_catchE X 1 (pre := []) (suf := []) htab (fun z hz => nomatch hz) (by decide) (by decide) q685 q696 hq htg ?_
      refine lv_astore_n (lv' := [(3, .ref q), (0, .ref o), (1, .int a0), (2, .ref out)]) hx hb dX0_wisest_12 rfl hl (by decide) rfl (fun ls hl => ?_)
      refine lv_iconst (v := 1) hx hb dX0_wisest_13 (by decide) ?_
      exact hend (some (.int 1), _) _ _ _ _ _ _ _ _ (by unfold wz wzK wzW zxH zxC; dsimp only; rw [if_neg (by rw [htg]; decide)]) (kOut_i rfl) f2 hA2 dX0_wisest_14
set_option maxRecDepth 100000 in
theorem wL_company (l : Launch) (hT : l.stackTraces = false) (γ : KG) (hO : kOK γ) (hNC : va_Nc (kE 1) (kE 0) γ.2.2.1) (h : CH) (r : CR) (o : Nat) (a0 : Int32) (a1 : Int32) (a2 : Int32) (out : Nat) (w : Nat → Int64) (z : (Int32 × CS) ⊕ XT) (hz : C1_company h r o a0 a1 a2 = some z) (hg : h out = none) (hlt : out < r.1) (hrv : isC h o 1 = true) (hle : ale (zxC z) r) (htag : ∀ x, z = .inr x → x.1 = 0 ∨ x.1 = 1) : pMet l yX0_company (wsW_ yX0_company cX0_company 6 (some .int) [(0, 12, 15, 18), (0, 12, 19, 13)]) 9 166 γ (hup h out (ouC w), r) [.ref o, .int a0, .int a1, .int a2, .ref out] (.inl (wz Int32.toInt64 2 w out z)) (dm h (zxH z) r.1) := by
  refine w_start (cc := cX0_company) (own := RX0) hO rfl rfl rfl (fun p e R s m args below meth c Q ls X hR htab h0H hA hl hend => ?_)
  have hx := X.1.1
  have hb := X.1.2.1
  have hl : lv_has ls 6 [(0, .ref o), (1, .int a0), (2, .int a1), (3, .int a2), (4, .ref out)] := hl
  obtain ⟨hA0, hat, hF, hk⟩ := hA.drop hg
  refine lv_aload hx hb dX0_company_0 (lv_at hl 4 rfl) ?_
  refine lv_iconst (v := 0) hx hb dX0_company_2 (by decide) ?_
  refine lv_aload_n hx hb dX0_company_3 rfl (lv_at hl 0 rfl) ?_
  refine lv_iload_n hx hb dX0_company_4 rfl (lv_at hl 1 rfl) ?_
  refine lv_iload_n hx hb dX0_company_5 rfl (lv_at hl 2 rfl) ?_
  refine lv_iload_n hx hb dX0_company_6 rfl (lv_at hl 3 rfl) ?_
  refine p_cV X h0H hA0 kc_TwinInk hrv (pMet.of (wC1_company l hT γ hO h r o a0 a1 a2 z hz)) nm_X1_company q1575 q1576 q135 q1578 q1577 ⟨Nat.le_trans (Nat.le_of_ble_eq_true rfl) hR.1, Nat.le_trans (Nat.le_of_ble_eq_true rfl) hR.2⟩ rfl rfl hl.1 (lv_room (Nat.le_of_ble_eq_true rfl)) dX0_company_7 (fun w1 hw1 _ => ?_) (fun x hx1 _ => ?_)
  · cases z with
    | inr x => cases hw1
    | inl q =>
      cases hw1
      refine ⟨hle, fun H1 locs cells slots hA1 f1 f2 => ?_⟩
      have hA2 := AI.add hA1 hF (fw_at f1 hg hlt hat) hk
      refine lv_i2l hx hb dX0_company_10 rfl ?_
      refine c_last X hA2.1 sJ_out dX0_company_11 (fun H locs hI => ?_)
      replace hA2 := hA2.up hI
      refine lv_goto (tgt := 23) hx hb dX0_company_12 (by decide) ?_
      refine lv_iconst (v := 0) hx hb dX0_company_23 (by decide) ?_
      exact hend (some (.int 0), _) _ _ _ _ _ _ _ _ rfl (kOut_i rfl) f2 hA2 dX0_company_24
  · cases z with
    | inl q => cases hx1
    | inr x' =>
      cases hx1
      refine ⟨hle, fun H1 locs cells slots q hA1 f1 f2 hq => ?_⟩
      have hA2 := AI.add hA1 hF (fw_at f1 hg hlt hat) hk
      have htg := htag _ rfl
      rcases htg with htg | htg
      · refine t_catchE X 0 (pre := []) htab (fun z hz => nomatch hz) (by decide) (by decide) q1226 q1259 hq htg ?_
        refine lv_astore (lv' := [(5, .ref q), (0, .ref o), (1, .int a0), (2, .int a1), (3, .int a2), (4, .ref out)]) hx hb dX0_company_15 hl (by decide) rfl (fun ls hl => ?_)
        refine lv_iconst (v := 1) hx hb dX0_company_17 (by decide) ?_
        exact hend (some (.int 1), _) _ _ _ _ _ _ _ _ (by unfold wz wzK wzW zxH zxC; dsimp only; rw [if_pos htg]) (kOut_i rfl) f2 hA2 dX0_company_18
      · refine t_catchE X 1 (pre := [_]) (suf := []) htab (fun z hz => ?_) (by decide) (by decide) q685 q696 hq htg ?_
        · cases List.mem_singleton.mp hz
          exact .inr ⟨by decide, kE 0, X.1.2.2.2.2 _ q1226, va_Nc.moved X.2.2.1.alike hNC⟩
        refine lv_astore (lv' := [(5, .ref q), (0, .ref o), (1, .int a0), (2, .int a1), (3, .int a2), (4, .ref out)]) hx hb dX0_company_19 hl (by decide) rfl (fun ls hl => ?_)
        refine lv_iconst (v := 2) hx hb dX0_company_21 (by decide) ?_
        exact hend (some (.int 2), _) _ _ _ _ _ _ _ _ (by unfold wz wzK wzW zxH zxC; dsimp only; rw [if_neg (by rw [htg]; decide)]) (kOut_i rfl) f2 hA2 dX0_company_22
set_option maxRecDepth 100000 in
theorem wL_together (l : Launch) (hT : l.stackTraces = false) (γ : KG) (hO : kOK γ) (h : CH) (r : CR) (o : Nat) (a0 : Int32) (out : Nat) (w : Nat → Int64) (z : (Int32 × CS) ⊕ XT) (hz : C1_together h r o a0 = some z) (hg : h out = none) (hlt : out < r.1) (hrv : isC h o 1 = true) (hle : ale (zxC z) r) (htag : ∀ x, z = .inr x → x.1 = 1) : pMet l yX0_together (wsW_ yX0_together cX0_together 4 (some .int) [(0, 9, 12, 13)]) 8 145 γ (hup h out (ouC w), r) [.ref o, .int a0, .ref out] (.inl (wz Int32.toInt64 1 w out z)) (dm h (zxH z) r.1) := by
  refine w_start (cc := cX0_together) (own := RX0) hO rfl rfl rfl (fun p e R s m args below meth c Q ls X hR htab h0H hA hl hend => ?_)
  have hx := X.1.1
  have hb := X.1.2.1
  have hl : lv_has ls 4 [(0, .ref o), (1, .int a0), (2, .ref out)] := hl
  obtain ⟨hA0, hat, hF, hk⟩ := hA.drop hg
  refine lv_aload_n hx hb dX0_together_0 rfl (lv_at hl 2 rfl) ?_
  refine lv_iconst (v := 0) hx hb dX0_together_1 (by decide) ?_
  refine lv_aload_n hx hb dX0_together_2 rfl (lv_at hl 0 rfl) ?_
  refine lv_iload_n hx hb dX0_together_3 rfl (lv_at hl 1 rfl) ?_
  refine p_cV X h0H hA0 kc_TwinInk hrv (pMet.of (wC1_together l hT γ hO h r o a0 z hz)) nm_X1_together q1583 q1584 q135 q1586 q1585 ⟨Nat.le_trans (Nat.le_of_ble_eq_true rfl) hR.1, Nat.le_trans (Nat.le_of_ble_eq_true rfl) hR.2⟩ rfl rfl hl.1 (lv_room (Nat.le_of_ble_eq_true rfl)) dX0_together_4 (fun w1 hw1 _ => ?_) (fun x hx1 _ => ?_)
  · cases z with
    | inr x => cases hw1
    | inl q =>
      cases hw1
      refine ⟨hle, fun H1 locs cells slots hA1 f1 f2 => ?_⟩
      have hA2 := AI.add hA1 hF (fw_at f1 hg hlt hat) hk
      refine lv_i2l hx hb dX0_together_7 rfl ?_
      refine c_last X hA2.1 sJ_out dX0_together_8 (fun H locs hI => ?_)
      replace hA2 := hA2.up hI
      refine lv_goto (tgt := 15) hx hb dX0_together_9 (by decide) ?_
      refine lv_iconst (v := 0) hx hb dX0_together_15 (by decide) ?_
      exact hend (some (.int 0), _) _ _ _ _ _ _ _ _ rfl (kOut_i rfl) f2 hA2 dX0_together_16
  · cases z with
    | inl q => cases hx1
    | inr x' =>
      cases hx1
      refine ⟨hle, fun H1 locs cells slots q hA1 f1 f2 hq => ?_⟩
      have hA2 := AI.add hA1 hF (fw_at f1 hg hlt hat) hk
      have htg := htag _ rfl
      refine t_catchE X 1 (pre := []) (suf := []) htab (fun z hz => nomatch hz) (by decide) (by decide) q685 q696 hq htg ?_
      refine lv_astore_n (lv' := [(3, .ref q), (0, .ref o), (1, .int a0), (2, .ref out)]) hx hb dX0_together_12 rfl hl (by decide) rfl (fun ls hl => ?_)
      refine lv_iconst (v := 1) hx hb dX0_together_13 (by decide) ?_
      exact hend (some (.int 1), _) _ _ _ _ _ _ _ _ (by unfold wz wzK wzW zxH zxC; dsimp only; rw [if_neg (by rw [htg]; decide)]) (kOut_i rfl) f2 hA2 dX0_together_14
set_option maxRecDepth 100000 in
theorem wL_odd (l : Launch) (hT : l.stackTraces = false) (γ : KG) (hO : kOK γ) (h : CH) (r : CR) (o : Nat) (a0 : Int32) (out : Nat) (w : Nat → Int64) (z : (Int32 × CS) ⊕ XT) (hz : C1_odd h r o a0 = some z) (hg : h out = none) (hlt : out < r.1) (hrv : isC h o 1 = true) (hle : ale (zxC z) r) (htag : ∀ x, z = .inr x → x.1 = 0) : pMet l yX0_odd (wsW_ yX0_odd cX0_odd 4 (some .int) [(0, 9, 12, 18)]) 9 163 γ (hup h out (ouC w), r) [.ref o, .int a0, .ref out] (.inl (wz Int32.toInt64 0 w out z)) (dm h (zxH z) r.1) := by
  refine w_start (cc := cX0_odd) (own := RX0) hO rfl rfl rfl (fun p e R s m args below meth c Q ls X hR htab h0H hA hl hend => ?_)
  have hx := X.1.1
  have hb := X.1.2.1
  have hl : lv_has ls 4 [(0, .ref o), (1, .int a0), (2, .ref out)] := hl
  obtain ⟨hA0, hat, hF, hk⟩ := hA.drop hg
  refine lv_aload_n hx hb dX0_odd_0 rfl (lv_at hl 2 rfl) ?_
  refine lv_iconst (v := 0) hx hb dX0_odd_1 (by decide) ?_
  refine lv_aload_n hx hb dX0_odd_2 rfl (lv_at hl 0 rfl) ?_
  refine lv_iload_n hx hb dX0_odd_3 rfl (lv_at hl 1 rfl) ?_
  refine p_cV X h0H hA0 kc_TwinInk hrv (pMet.of (wC1_odd l hT γ hO h r o a0 z hz)) nm_X1_odd q1590 q1591 q135 q1593 q1592 ⟨Nat.le_trans (Nat.le_of_ble_eq_true rfl) hR.1, Nat.le_trans (Nat.le_of_ble_eq_true rfl) hR.2⟩ rfl rfl hl.1 (lv_room (Nat.le_of_ble_eq_true rfl)) dX0_odd_4 (fun w1 hw1 _ => ?_) (fun x hx1 _ => ?_)
  · cases z with
    | inr x => cases hw1
    | inl q =>
      cases hw1
      refine ⟨hle, fun H1 locs cells slots hA1 f1 f2 => ?_⟩
      have hA2 := AI.add hA1 hF (fw_at f1 hg hlt hat) hk
      refine lv_i2l hx hb dX0_odd_7 rfl ?_
      refine c_last X hA2.1 sJ_out dX0_odd_8 (fun H locs hI => ?_)
      replace hA2 := hA2.up hI
      refine lv_goto (tgt := 15) hx hb dX0_odd_9 (by decide) ?_
      refine lv_iconst (v := 0) hx hb dX0_odd_15 (by decide) ?_
      exact hend (some (.int 0), _) _ _ _ _ _ _ _ _ rfl (kOut_i rfl) f2 hA2 dX0_odd_16
  · cases z with
    | inl q => cases hx1
    | inr x' =>
      cases hx1
      refine ⟨hle, fun H1 locs cells slots q hA1 f1 f2 hq => ?_⟩
      have hA2 := AI.add hA1 hF (fw_at f1 hg hlt hat) hk
      have htg := htag _ rfl
      refine t_catchE X 0 (pre := []) (suf := []) htab (fun z hz => nomatch hz) (by decide) (by decide) q1226 q1259 hq htg ?_
      refine lv_astore_n (lv' := [(3, .ref q), (0, .ref o), (1, .int a0), (2, .ref out)]) hx hb dX0_odd_12 rfl hl (by decide) rfl (fun ls hl => ?_)
      refine lv_iconst (v := 1) hx hb dX0_odd_13 (by decide) ?_
      exact hend (some (.int 1), _) _ _ _ _ _ _ _ _ (by unfold wz wzK wzW zxH zxC; dsimp only; rw [if_pos htg]) (kOut_i rfl) f2 hA2 dX0_odd_14
set_option maxRecDepth 100000 in
theorem wL_far (l : Launch) (hT : l.stackTraces = false) (γ : KG) (hO : kOK γ) (h : CH) (r : CR) (o : Nat) (a0 : Int32) (a1 : Int32) (out : Nat) (w : Nat → Int64) (z : (Int32 × CS) ⊕ XT) (hz : C1_far h r o a0 a1 = some z) (hg : h out = none) (hlt : out < r.1) (hrv : isC h o 1 = true) (hle : ale (zxC z) r) (htag : ∀ x, z = .inr x → x.1 = 0) : pMet l yX0_far (wsW_ yX0_far cX0_far 5 (some .int) [(0, 10, 13, 18)]) 9 163 γ (hup h out (ouC w), r) [.ref o, .int a0, .int a1, .ref out] (.inl (wz Int32.toInt64 0 w out z)) (dm h (zxH z) r.1) := by
  refine w_start (cc := cX0_far) (own := RX0) hO rfl rfl rfl (fun p e R s m args below meth c Q ls X hR htab h0H hA hl hend => ?_)
  have hx := X.1.1
  have hb := X.1.2.1
  have hl : lv_has ls 5 [(0, .ref o), (1, .int a0), (2, .int a1), (3, .ref out)] := hl
  obtain ⟨hA0, hat, hF, hk⟩ := hA.drop hg
  refine lv_aload_n hx hb dX0_far_0 rfl (lv_at hl 3 rfl) ?_
  refine lv_iconst (v := 0) hx hb dX0_far_1 (by decide) ?_
  refine lv_aload_n hx hb dX0_far_2 rfl (lv_at hl 0 rfl) ?_
  refine lv_iload_n hx hb dX0_far_3 rfl (lv_at hl 1 rfl) ?_
  refine lv_iload_n hx hb dX0_far_4 rfl (lv_at hl 2 rfl) ?_
  refine p_cV X h0H hA0 kc_TwinInk hrv (pMet.of (wC1_far l hT γ hO h r o a0 a1 z hz)) nm_X1_far q1609 q1610 q135 q1612 q1611 ⟨Nat.le_trans (Nat.le_of_ble_eq_true rfl) hR.1, Nat.le_trans (Nat.le_of_ble_eq_true rfl) hR.2⟩ rfl rfl hl.1 (lv_room (Nat.le_of_ble_eq_true rfl)) dX0_far_5 (fun w1 hw1 _ => ?_) (fun x hx1 _ => ?_)
  · cases z with
    | inr x => cases hw1
    | inl q =>
      cases hw1
      refine ⟨hle, fun H1 locs cells slots hA1 f1 f2 => ?_⟩
      have hA2 := AI.add hA1 hF (fw_at f1 hg hlt hat) hk
      refine lv_i2l hx hb dX0_far_8 rfl ?_
      refine c_last X hA2.1 sJ_out dX0_far_9 (fun H locs hI => ?_)
      replace hA2 := hA2.up hI
      refine lv_goto (tgt := 17) hx hb dX0_far_10 (by decide) ?_
      refine lv_iconst (v := 0) hx hb dX0_far_17 (by decide) ?_
      exact hend (some (.int 0), _) _ _ _ _ _ _ _ _ rfl (kOut_i rfl) f2 hA2 dX0_far_18
  · cases z with
    | inl q => cases hx1
    | inr x' =>
      cases hx1
      refine ⟨hle, fun H1 locs cells slots q hA1 f1 f2 hq => ?_⟩
      have hA2 := AI.add hA1 hF (fw_at f1 hg hlt hat) hk
      have htg := htag _ rfl
      refine t_catchE X 0 (pre := []) (suf := []) htab (fun z hz => nomatch hz) (by decide) (by decide) q1226 q1259 hq htg ?_
      refine lv_astore (lv' := [(4, .ref q), (0, .ref o), (1, .int a0), (2, .int a1), (3, .ref out)]) hx hb dX0_far_13 hl (by decide) rfl (fun ls hl => ?_)
      refine lv_iconst (v := 1) hx hb dX0_far_15 (by decide) ?_
      exact hend (some (.int 1), _) _ _ _ _ _ _ _ _ (by unfold wz wzK wzW zxH zxC; dsimp only; rw [if_pos htg]) (kOut_i rfl) f2 hA2 dX0_far_16
set_option maxRecDepth 100000 in
theorem wL_unread (l : Launch) (hT : l.stackTraces = false) (γ : KG) (hO : kOK γ) (h : CH) (r : CR) (o : Nat) (a0 : Int32) (out : Nat) (w : Nat → Int64) (z : (Int32 × CS) ⊕ XT) (hz : C1_unread γ.2.2.2.2.2 h r o a0 = some z) (hg : h out = none) (hlt : out < r.1) (hrv : isC h o 1 = true) (hle : ale (zxC z) r) (htag : ∀ x, z = .inr x → x.1 = 1) : pMet l yX0_unread (wsW_ yX0_unread cX0_unread 4 (some .int) [(0, 9, 12, 13)]) 816 20432 γ (hup h out (ouC w), r) [.ref o, .int a0, .ref out] (.inl (wz Int32.toInt64 1 w out z)) (dm h (zxH z) r.1) := by
  refine w_start (cc := cX0_unread) (own := RX0) hO rfl rfl rfl (fun p e R s m args below meth c Q ls X hR htab h0H hA hl hend => ?_)
  have hx := X.1.1
  have hb := X.1.2.1
  have hl : lv_has ls 4 [(0, .ref o), (1, .int a0), (2, .ref out)] := hl
  obtain ⟨hA0, hat, hF, hk⟩ := hA.drop hg
  refine lv_aload_n hx hb dX0_unread_0 rfl (lv_at hl 2 rfl) ?_
  refine lv_iconst (v := 0) hx hb dX0_unread_1 (by decide) ?_
  refine lv_aload_n hx hb dX0_unread_2 rfl (lv_at hl 0 rfl) ?_
  refine lv_iload_n hx hb dX0_unread_3 rfl (lv_at hl 1 rfl) ?_
  refine p_cV X h0H hA0 kc_TwinInk hrv (pMet.of (wC1_unread l hT γ hO h r o a0 z hz)) nm_X1_unread q1616 q1617 q135 q1619 q1618 ⟨Nat.le_trans (Nat.le_of_ble_eq_true rfl) hR.1, Nat.le_trans (Nat.le_of_ble_eq_true rfl) hR.2⟩ rfl rfl hl.1 (lv_room (Nat.le_of_ble_eq_true rfl)) dX0_unread_4 (fun w1 hw1 _ => ?_) (fun x hx1 _ => ?_)
  · cases z with
    | inr x => cases hw1
    | inl q =>
      cases hw1
      refine ⟨hle, fun H1 locs cells slots hA1 f1 f2 => ?_⟩
      have hA2 := AI.add hA1 hF (fw_at f1 hg hlt hat) hk
      refine lv_i2l hx hb dX0_unread_7 rfl ?_
      refine c_last X hA2.1 sJ_out dX0_unread_8 (fun H locs hI => ?_)
      replace hA2 := hA2.up hI
      refine lv_goto (tgt := 15) hx hb dX0_unread_9 (by decide) ?_
      refine lv_iconst (v := 0) hx hb dX0_unread_15 (by decide) ?_
      exact hend (some (.int 0), _) _ _ _ _ _ _ _ _ rfl (kOut_i rfl) f2 hA2 dX0_unread_16
  · cases z with
    | inl q => cases hx1
    | inr x' =>
      cases hx1
      refine ⟨hle, fun H1 locs cells slots q hA1 f1 f2 hq => ?_⟩
      have hA2 := AI.add hA1 hF (fw_at f1 hg hlt hat) hk
      have htg := htag _ rfl
      refine t_catchE X 1 (pre := []) (suf := []) htab (fun z hz => nomatch hz) (by decide) (by decide) q685 q696 hq htg ?_
      refine lv_astore_n (lv' := [(3, .ref q), (0, .ref o), (1, .int a0), (2, .ref out)]) hx hb dX0_unread_12 rfl hl (by decide) rfl (fun ls hl => ?_)
      refine lv_iconst (v := 1) hx hb dX0_unread_13 (by decide) ?_
      exact hend (some (.int 1), _) _ _ _ _ _ _ _ _ (by unfold wz wzK wzW zxH zxC; dsimp only; rw [if_neg (by rw [htg]; decide)]) (kOut_i rfl) f2 hA2 dX0_unread_14
set_option maxRecDepth 100000 in
theorem wL_heir (l : Launch) (hT : l.stackTraces = false) (γ : KG) (hO : kOK γ) (h : CH) (r : CR) (o : Nat) (a0 : Int32) (out : Nat) (w : Nat → Int64) (z : (Int32 × CS) ⊕ XT) (hz : C1_heir h r o a0 = some z) (hg : h out = none) (hlt : out < r.1) (hrv : isC h o 1 = true) (hle : ale (zxC z) r) (htag : ∀ x, z = .inr x → x.1 = 0) : pMet l yX0_heir (wsW_ yX0_heir cX0_heir 4 (some .int) [(0, 9, 12, 18)]) 9 166 γ (hup h out (ouC w), r) [.ref o, .int a0, .ref out] (.inl (wz Int32.toInt64 0 w out z)) (dm h (zxH z) r.1) := by
  refine w_start (cc := cX0_heir) (own := RX0) hO rfl rfl rfl (fun p e R s m args below meth c Q ls X hR htab h0H hA hl hend => ?_)
  have hx := X.1.1
  have hb := X.1.2.1
  have hl : lv_has ls 4 [(0, .ref o), (1, .int a0), (2, .ref out)] := hl
  obtain ⟨hA0, hat, hF, hk⟩ := hA.drop hg
  refine lv_aload_n hx hb dX0_heir_0 rfl (lv_at hl 2 rfl) ?_
  refine lv_iconst (v := 0) hx hb dX0_heir_1 (by decide) ?_
  refine lv_aload_n hx hb dX0_heir_2 rfl (lv_at hl 0 rfl) ?_
  refine lv_iload_n hx hb dX0_heir_3 rfl (lv_at hl 1 rfl) ?_
  refine p_cV X h0H hA0 kc_TwinInk hrv (pMet.of (wC1_heir l hT γ hO h r o a0 z hz)) nm_X1_heir q1623 q1624 q135 q1626 q1625 ⟨Nat.le_trans (Nat.le_of_ble_eq_true rfl) hR.1, Nat.le_trans (Nat.le_of_ble_eq_true rfl) hR.2⟩ rfl rfl hl.1 (lv_room (Nat.le_of_ble_eq_true rfl)) dX0_heir_4 (fun w1 hw1 _ => ?_) (fun x hx1 _ => ?_)
  · cases z with
    | inr x => cases hw1
    | inl q =>
      cases hw1
      refine ⟨hle, fun H1 locs cells slots hA1 f1 f2 => ?_⟩
      have hA2 := AI.add hA1 hF (fw_at f1 hg hlt hat) hk
      refine lv_i2l hx hb dX0_heir_7 rfl ?_
      refine c_last X hA2.1 sJ_out dX0_heir_8 (fun H locs hI => ?_)
      replace hA2 := hA2.up hI
      refine lv_goto (tgt := 15) hx hb dX0_heir_9 (by decide) ?_
      refine lv_iconst (v := 0) hx hb dX0_heir_15 (by decide) ?_
      exact hend (some (.int 0), _) _ _ _ _ _ _ _ _ rfl (kOut_i rfl) f2 hA2 dX0_heir_16
  · cases z with
    | inl q => cases hx1
    | inr x' =>
      cases hx1
      refine ⟨hle, fun H1 locs cells slots q hA1 f1 f2 hq => ?_⟩
      have hA2 := AI.add hA1 hF (fw_at f1 hg hlt hat) hk
      have htg := htag _ rfl
      refine t_catchE X 0 (pre := []) (suf := []) htab (fun z hz => nomatch hz) (by decide) (by decide) q1226 q1259 hq htg ?_
      refine lv_astore_n (lv' := [(3, .ref q), (0, .ref o), (1, .int a0), (2, .ref out)]) hx hb dX0_heir_12 rfl hl (by decide) rfl (fun ls hl => ?_)
      refine lv_iconst (v := 1) hx hb dX0_heir_13 (by decide) ?_
      exact hend (some (.int 1), _) _ _ _ _ _ _ _ _ (by unfold wz wzK wzW zxH zxC; dsimp only; rw [if_pos htg]) (kOut_i rfl) f2 hA2 dX0_heir_14
set_option maxRecDepth 100000 in
theorem wL_laid (l : Launch) (hT : l.stackTraces = false) (γ : KG) (hO : kOK γ) (h : CH) (r : CR) (o : Nat) (a0 : Int32) (out : Nat) (w : Nat → Int64) (z : (Int32 × CS) ⊕ XT) (hz : C1_laid γ.2.2.2.2.2 h r o a0 = some z) (hg : h out = none) (hlt : out < r.1) (hrv : isC h o 1 = true) (hle : ale (zxC z) r) (htag : ∀ x, z = .inr x → x.1 = 1) : pMet l yX0_laid (wsW_ yX0_laid cX0_laid 4 (some .int) [(0, 9, 12, 13)]) 814 20392 γ (hup h out (ouC w), r) [.ref o, .int a0, .ref out] (.inl (wz Int32.toInt64 1 w out z)) (dm h (zxH z) r.1) := by
  refine w_start (cc := cX0_laid) (own := RX0) hO rfl rfl rfl (fun p e R s m args below meth c Q ls X hR htab h0H hA hl hend => ?_)
  have hx := X.1.1
  have hb := X.1.2.1
  have hl : lv_has ls 4 [(0, .ref o), (1, .int a0), (2, .ref out)] := hl
  obtain ⟨hA0, hat, hF, hk⟩ := hA.drop hg
  refine lv_aload_n hx hb dX0_laid_0 rfl (lv_at hl 2 rfl) ?_
  refine lv_iconst (v := 0) hx hb dX0_laid_1 (by decide) ?_
  refine lv_aload_n hx hb dX0_laid_2 rfl (lv_at hl 0 rfl) ?_
  refine lv_iload_n hx hb dX0_laid_3 rfl (lv_at hl 1 rfl) ?_
  refine p_cV X h0H hA0 kc_TwinInk hrv (pMet.of (wC1_laid l hT γ hO h r o a0 z hz)) nm_X1_laid q1630 q1631 q135 q1633 q1632 ⟨Nat.le_trans (Nat.le_of_ble_eq_true rfl) hR.1, Nat.le_trans (Nat.le_of_ble_eq_true rfl) hR.2⟩ rfl rfl hl.1 (lv_room (Nat.le_of_ble_eq_true rfl)) dX0_laid_4 (fun w1 hw1 _ => ?_) (fun x hx1 _ => ?_)
  · cases z with
    | inr x => cases hw1
    | inl q =>
      cases hw1
      refine ⟨hle, fun H1 locs cells slots hA1 f1 f2 => ?_⟩
      have hA2 := AI.add hA1 hF (fw_at f1 hg hlt hat) hk
      refine lv_i2l hx hb dX0_laid_7 rfl ?_
      refine c_last X hA2.1 sJ_out dX0_laid_8 (fun H locs hI => ?_)
      replace hA2 := hA2.up hI
      refine lv_goto (tgt := 15) hx hb dX0_laid_9 (by decide) ?_
      refine lv_iconst (v := 0) hx hb dX0_laid_15 (by decide) ?_
      exact hend (some (.int 0), _) _ _ _ _ _ _ _ _ rfl (kOut_i rfl) f2 hA2 dX0_laid_16
  · cases z with
    | inl q => cases hx1
    | inr x' =>
      cases hx1
      refine ⟨hle, fun H1 locs cells slots q hA1 f1 f2 hq => ?_⟩
      have hA2 := AI.add hA1 hF (fw_at f1 hg hlt hat) hk
      have htg := htag _ rfl
      refine t_catchE X 1 (pre := []) (suf := []) htab (fun z hz => nomatch hz) (by decide) (by decide) q685 q696 hq htg ?_
      refine lv_astore_n (lv' := [(3, .ref q), (0, .ref o), (1, .int a0), (2, .ref out)]) hx hb dX0_laid_12 rfl hl (by decide) rfl (fun ls hl => ?_)
      refine lv_iconst (v := 1) hx hb dX0_laid_13 (by decide) ?_
      exact hend (some (.int 1), _) _ _ _ _ _ _ _ _ (by unfold wz wzK wzW zxH zxC; dsimp only; rw [if_neg (by rw [htg]; decide)]) (kOut_i rfl) f2 hA2 dX0_laid_14
