noncomputable def C1_game_L46 (o : Nat) (a0 : Int32) (a1 : Int32) (q5 : CS) (t6 : Int32 × Int32 × Int32) (t11 : Int32 × Int32 × Int32) : Option ((Int32 × Int32 × Int32) ⊕ ((Int32 × Int32) ⊕ XT)) :=
  if t11.2.2 < 2 then
    ((vc q5.1 o 1 (C1_gain q5.1 o a0 a1 (1 - t6.2.2) t11.2.2)).bind fun q15 =>
    (vc q5.1 o 1 (C1_gain q5.1 o a0 a1 t6.2.2 t11.2.2)).bind fun q16 =>
    xg (fun e_ => .inr (.inr e_)) ((if q15 ≤ q16 then
        ((vc q5.1 o 1 (C1_gain q5.1 o a1 a0 (1 - t11.2.2) t6.2.2)).bind fun q19 =>
        (vc q5.1 o 1 (C1_gain q5.1 o a1 a0 t11.2.2 t6.2.2)).bind fun q20 =>
        if q19 ≤ q20 then
          (xg Sum.inr ((if t11.1 = 0 then
              (some (.inl ((10 * t6.2.2) + t11.2.2)))
            else
              (some (.inl t11.2.1)) : Option (Int32 ⊕ XT))) fun r22 =>
          some (.inl ((t11.1 + 1), r22)))
        else
          (some (.inl (t11.1, t11.2.1))))
      else
        (some (.inl (t11.1, t11.2.1))) : Option ((Int32 × Int32) ⊕ XT))) fun r17 =>
    some (.inl (r17.1, r17.2, (t11.2.2 + 1))))
  else
    (some (.inr (.inl (t11.1, t11.2.1))))
noncomputable def C1_game_L37 (o : Nat) (a0 : Int32) (a1 : Int32) (q5 : CS) (t6 : Int32 × Int32 × Int32) : Option ((Int32 × Int32 × Int32) ⊕ ((Int32 × Int32) ⊕ XT)) :=
  if t6.2.2 < 2 then
    (xg (fun e_ => .inr (.inr e_)) (o_loop (C1_game_L46 o a0 a1 q5 t6) (t6.1, t6.2.1, 0)) fun r13 =>
    some (.inl (r13.1, r13.2, (t6.2.2 + 1))))
  else
    (some (.inr (.inl (t6.1, t6.2.1))))
noncomputable def C1_game (h : CH) (r : CR) (o : Nat) (a0 : Int32) (a1 : Int32) (a2 : Int32) : Option ((Int32 × CS) ⊕ XT) :=
  xg Sum.inr (vc h o 1 (xchv r (C1_aClerk h r o a0))) fun q1 =>
  xg Sum.inr (vc q1.1 o 1 (xchv q1.2 (C1_aClerk q1.1 q1.2 o a1))) fun q2 =>
  xg Sum.inr (xchv q2.2 (C1_oneOf q2.1 q2.2 a2 1)) fun q3 =>
  xg Sum.inr ((if a0 = a1 then
      (some (.inl 0))
    else
      (some (.inl 1)) : Option (Int32 ⊕ XT))) fun r4 =>
  xg Sum.inr (xchv q3.2 (C1_right q3.1 q3.2 r4)) fun q5 =>
  xg Sum.inr (o_loop (C1_game_L37 o a0 a1 q5) (0, (-1), 0)) fun r8 =>
  if a2 = 0 then
    (some (.inl (r8.1, q5)))
  else
    (some (.inl (r8.2, q5)))
theorem nm_X1_game : kNm yX1_game RX1 3 := by unfold kNm; decide +kernel
set_option maxHeartbeats 4000000 in
set_option maxRecDepth 100000 in
theorem wC1_game (l : Launch) (hT : l.stackTraces = false) (γ : KG) (hO : kOK γ) (h : CH) (r : CR) (o : Nat) (a0 : Int32) (a1 : Int32) (a2 : Int32) (z : (Int32 × CS) ⊕ XT) (hz : C1_game h r o a0 a1 a2 = some z) : xMet l yX1_game (ws_ yX1_game cX1_game 8 (some .int)) 8 141 γ (h, r) [.ref o, .int a0, .int a1, .int a2] (xI z) := by
  refine x_start (cc := cX1_game) (own := RX1) hO rfl rfl rfl (fun p e R s m args below meth c Q ls X hR hnm h0H hA hl hend hthr hdir => ?_)
  have hx := X.1.1
  have hb := X.1.2.1
  have hit := hz
  clear hz
  unfold C1_game at hit
  have hl : lv_has ls 8 [(0, .ref o), (1, .int a0), (2, .int a1), (3, .int a2)] := hl
  refine lv_aload_n hx hb dX1_game_0 rfl (lv_at hl 0 rfl) ?_
  refine lv_iload_n hx hb dX1_game_1 rfl (lv_at hl 1 rfl) ?_
  rcases xg_inv hit with ⟨q1, eq1, hit⟩ | ⟨x_q1, eq1, he⟩
  rotate_left
  · obtain ⟨iq1, eq1⟩ := vc_inv eq1
    obtain ⟨eq1, lq1⟩ := xchv_r eq1
    refine t_cV X h0H hA kc_TwinInk (xMet.tv (wC1_aClerk l hT γ X.2.1 _ _ _ _ _ eq1)) lq1 iq1 nm_X1_aClerk q1299 q1301 q135 q1302 qs37 ⟨Nat.le_trans (Nat.le_of_ble_eq_true rfl) hR.1, Nat.le_trans (Nat.le_of_ble_eq_true rfl) hR.2⟩ rfl rfl hl.1 (lv_room (Nat.le_of_ble_eq_true rfl)) dX1_game_2 (fun H locs cells slots q_ hA hq => ?_)
    exact hthr _ _ _ _ _ _ _ _ _ (by subst he; rfl) hA hq
  obtain ⟨iq1, eq1⟩ := vc_inv eq1
  obtain ⟨eq1, lq1⟩ := xchv_l eq1
  refine a_cV X h0H hA kc_TwinInk (xMet.v (wC1_aClerk l hT γ X.2.1 _ _ _ _ _ eq1)) lq1 iq1 nm_X1_aClerk q1299 q1301 q135 q1302 qs37 ⟨Nat.le_trans (Nat.le_of_ble_eq_true rfl) hR.1, Nat.le_trans (Nat.le_of_ble_eq_true rfl) hR.2⟩ rfl rfl hl.1 (lv_room (Nat.le_of_ble_eq_true rfl)) dX1_game_2 (fun H locs cells slots hA => ?_)
  refine lv_aload_n hx hb dX1_game_5 rfl (lv_at hl 0 rfl) ?_
  refine lv_iload_n hx hb dX1_game_6 rfl (lv_at hl 2 rfl) ?_
  rcases xg_inv hit with ⟨q2, eq2, hit⟩ | ⟨x_q2, eq2, he⟩
  rotate_left
  · obtain ⟨iq2, eq2⟩ := vc_inv eq2
    obtain ⟨eq2, lq2⟩ := xchv_r eq2
    refine t_cV X h0H hA kc_TwinInk (xMet.tv (wC1_aClerk l hT γ X.2.1 _ _ _ _ _ eq2)) lq2 iq2 nm_X1_aClerk q1299 q1301 q135 q1302 qs37 ⟨Nat.le_trans (Nat.le_of_ble_eq_true rfl) hR.1, Nat.le_trans (Nat.le_of_ble_eq_true rfl) hR.2⟩ rfl rfl hl.1 (lv_room (Nat.le_of_ble_eq_true rfl)) dX1_game_7 (fun H locs cells slots q_ hA hq => ?_)
    exact hthr _ _ _ _ _ _ _ _ _ (by subst he; rfl) hA hq
  obtain ⟨iq2, eq2⟩ := vc_inv eq2
  obtain ⟨eq2, lq2⟩ := xchv_l eq2
  refine a_cV X h0H hA kc_TwinInk (xMet.v (wC1_aClerk l hT γ X.2.1 _ _ _ _ _ eq2)) lq2 iq2 nm_X1_aClerk q1299 q1301 q135 q1302 qs37 ⟨Nat.le_trans (Nat.le_of_ble_eq_true rfl) hR.1, Nat.le_trans (Nat.le_of_ble_eq_true rfl) hR.2⟩ rfl rfl hl.1 (lv_room (Nat.le_of_ble_eq_true rfl)) dX1_game_7 (fun H locs cells slots hA => ?_)
  refine lv_iload_n hx hb dX1_game_10 rfl (lv_at hl 3 rfl) ?_
  refine lv_iconst (v := 1) hx hb dX1_game_11 (by decide) ?_
  rcases xg_inv hit with ⟨q3, eq3, hit⟩ | ⟨x_q3, eq3, he⟩
  rotate_left
  · obtain ⟨eq3, lq3⟩ := xchv_r eq3
    refine t_cS X h0H hA nm_X1_oneOf q1283 q1284 q135 q1285 (xMet.tv (wC1_oneOf l hT γ X.2.1 _ _ _ _ _ eq3)) lq3 ⟨Nat.le_trans (Nat.le_of_ble_eq_true rfl) hR.1, Nat.le_trans (Nat.le_of_ble_eq_true rfl) hR.2⟩ rfl rfl hl.1 (lv_room (Nat.le_of_ble_eq_true rfl)) dX1_game_12 (fun H locs cells slots q_ hA hq => ?_)
    exact hthr _ _ _ _ _ _ _ _ _ (by subst he; rfl) hA hq
  obtain ⟨eq3, lq3⟩ := xchv_l eq3
  refine a_cS X h0H hA nm_X1_oneOf q1283 q1284 q135 q1285 (xMet.v (wC1_oneOf l hT γ X.2.1 _ _ _ _ _ eq3)) lq3 ⟨Nat.le_trans (Nat.le_of_ble_eq_true rfl) hR.1, Nat.le_trans (Nat.le_of_ble_eq_true rfl) hR.2⟩ rfl rfl hl.1 (lv_room (Nat.le_of_ble_eq_true rfl)) dX1_game_12 (fun H locs cells slots hA => ?_)
  refine lv_iload_n hx hb dX1_game_15 rfl (lv_at hl 1 rfl) ?_
  refine lv_iload_n hx hb dX1_game_16 rfl (lv_at hl 2 rfl) ?_
  obtain ⟨wr4, er4, hxr4⟩ := xg_bind hit
  have hr4 : ∀ (r4 : Int32), wr4 = .inl r4 → ∀ (H : Heap) (locs : List Loc) (cells slots : Nat) (ls : Array Slot), AI γ (h, r) s R q3.1 q3.2 H locs cells slots → lv_has ls 8 [(0, .ref o), (1, .int a0), (2, .int a1), (3, .int a2)] → W p l e R s m args below meth c H locs cells slots Q (F0 m 25 ls [.int r4]) := by
    intro r4 hw_ H locs cells slots ls hA hl
    have hit := xk_l hxr4 hw_
    rcases xg_inv hit with ⟨q5, eq5, hit⟩ | ⟨x_q5, eq5, he⟩
    rotate_left
    · obtain ⟨eq5, lq5⟩ := xchv_r eq5
      refine t_cS X h0H hA nm_X1_right q691 q692 q135 q693 (xMet.tv (wC1_right l hT γ X.2.1 _ _ _ _ eq5)) lq5 ⟨Nat.le_trans (Nat.le_of_ble_eq_true rfl) hR.1, Nat.le_trans (Nat.le_of_ble_eq_true rfl) hR.2⟩ rfl rfl hl.1 (lv_room (Nat.le_of_ble_eq_true rfl)) dX1_game_25 (fun H locs cells slots q_ hA hq => ?_)
      exact hthr _ _ _ _ _ _ _ _ _ (by subst he; rfl) hA hq
    obtain ⟨eq5, lq5⟩ := xchv_l eq5
    refine a_cS X h0H hA nm_X1_right q691 q692 q135 q693 (xMet.v (wC1_right l hT γ X.2.1 _ _ _ _ eq5)) lq5 ⟨Nat.le_trans (Nat.le_of_ble_eq_true rfl) hR.1, Nat.le_trans (Nat.le_of_ble_eq_true rfl) hR.2⟩ rfl rfl hl.1 (lv_room (Nat.le_of_ble_eq_true rfl)) dX1_game_25 (fun H locs cells slots hA => ?_)
    refine lv_iconst (v := 0) hx hb dX1_game_28 (by decide) ?_
    refine lv_istore (lv' := [(4, .int 0), (0, .ref o), (1, .int a0), (2, .int a1), (3, .int a2)]) hx hb dX1_game_29 hl (by decide) rfl (fun ls hl => ?_)
    refine lv_iconst (v := (-1)) hx hb dX1_game_31 (by decide) ?_
    refine lv_istore (lv' := [(5, .int (-1)), (4, .int 0), (0, .ref o), (1, .int a0), (2, .int a1), (3, .int a2)]) hx hb dX1_game_32 hl (by decide) rfl (fun ls hl => ?_)
    refine lv_iconst (v := 0) hx hb dX1_game_34 (by decide) ?_
    refine lv_istore (lv' := [(6, .int 0), (5, .int (-1)), (4, .int 0), (0, .ref o), (1, .int a0), (2, .int a1), (3, .int a2)]) hx hb dX1_game_35 hl (by decide) rfl (fun ls hl => ?_)
    obtain ⟨wr8, er8, hxr8⟩ := xg_bind hit
    have hr8 : ∀ (r8 : Int32 × Int32), wr8 = .inl r8 → ∀ (H : Heap) (locs : List Loc) (cells slots : Nat) (ls : Array Slot), AI γ (h, r) s R q5.1 q5.2 H locs cells slots → lv_has ls 8 [(3, .int a2), (4, .int r8.1), (5, .int r8.2)] → W p l e R s m args below meth c H locs cells slots Q (F0 m 135 ls []) := by
      intro r8 hw_ H locs cells slots ls hA hl
      have hit := xk_l hxr8 hw_
      refine lv_iload_n hx hb dX1_game_135 rfl (lv_at hl 0 rfl) ?_
      refine b_if_ne (tgt := 144) hx hb dX1_game_136 (by decide) hit (fun c9 hit => ?_) (fun c9 hit => ?_)
      · refine lv_iload hx hb dX1_game_144 (lv_at hl 2 rfl) ?_
        have he := o_in hit
        exact hend (some (.int r8.2)) q5 _ _ _ _ _ _ _ _ (kOut_i rfl) (by subst he; rfl) hA dX1_game_146
      · refine lv_iload hx hb dX1_game_139 (lv_at hl 1 rfl) ?_
        refine lv_goto (tgt := 146) hx hb dX1_game_141 (by decide) ?_
        have he := o_in hit
        exact hend (some (.int r8.1)) q5 _ _ _ _ _ _ _ _ (kOut_i rfl) (by subst he; rfl) hA dX1_game_146
    refine o_rec (P := fun t6 => ∀ (H : Heap) (locs : List Loc) (cells slots : Nat) (ls : Array Slot), AI γ (h, r) s R q5.1 q5.2 H locs cells slots → lv_has ls 8 [(0, .ref o), (1, .int a0), (2, .int a1), (3, .int a2), (4, .int t6.1), (5, .int t6.2.1), (6, .int t6.2.2)] → W p l e R s m args below meth c H locs cells slots Q (F0 m 37 ls [])) (fun t6 x7 hit hC6 hE6 H locs cells slots ls hA hl => ?_) _ er8 _ _ _ _ _ hA (lv_sub hl [3, 4, 5, 6, 2, 1, 0] rfl)
    unfold C1_game_L37 at hit
    refine lv_iload hx hb dX1_game_37 (lv_at hl 6 rfl) ?_
    refine lv_iconst (v := 2) hx hb dX1_game_39 (by decide) ?_
    refine b_icmp_ge (tgt := 135) hx hb dX1_game_40 (by decide) hit (fun c10 hit => ?_) (fun c10 hit => ?_)
    · have he := o_in hit
      have he := hE6 _ he
      exact hr8 _ he.symm _ _ _ _ _ hA (lv_sub hl [3, 4, 5] rfl)
    · refine lv_iconst (v := 0) hx hb dX1_game_43 (by decide) ?_
      refine lv_istore (lv' := [(7, .int 0), (0, .ref o), (1, .int a0), (2, .int a1), (3, .int a2), (4, .int t6.1), (5, .int t6.2.1), (6, .int t6.2.2)]) hx hb dX1_game_44 hl (by decide) rfl (fun ls hl => ?_)
      obtain ⟨wr13, er13, hxr13⟩ := xg_bind hit
      have hr13 : ∀ (r13 : Int32 × Int32), wr13 = .inl r13 → ∀ (H : Heap) (locs : List Loc) (cells slots : Nat) (ls : Array Slot), AI γ (h, r) s R q5.1 q5.2 H locs cells slots → lv_has ls 8 [(0, .ref o), (1, .int a0), (2, .int a1), (3, .int a2), (6, .int t6.2.2), (4, .int r13.1), (5, .int r13.2)] → W p l e R s m args below meth c H locs cells slots Q (F0 m 129 ls []) := by
        intro r13 hw_ H locs cells slots ls hA hl
        have hit := xk_l hxr13 hw_
        refine lv_iinc (k := 4) (v := (t6.2.2 + 1)) (lv' := [(6, .int (t6.2.2 + 1)), (0, .ref o), (1, .int a0), (2, .int a1), (3, .int a2), (4, .int r13.1), (5, .int r13.2)]) hx hb dX1_game_129 hl rfl rfl (by decide) rfl (fun ls hl => ?_)
        refine lv_goto (tgt := 37) hx hb dX1_game_132 (by decide) ?_
        have he := o_in hit
        exact hC6 _ he _ _ _ _ _ hA (lv_sub hl [1, 2, 3, 4, 5, 6, 0] rfl)
      refine o_rec (P := fun t11 => ∀ (H : Heap) (locs : List Loc) (cells slots : Nat) (ls : Array Slot), AI γ (h, r) s R q5.1 q5.2 H locs cells slots → lv_has ls 8 [(0, .ref o), (1, .int a0), (2, .int a1), (3, .int a2), (6, .int t6.2.2), (4, .int t11.1), (5, .int t11.2.1), (7, .int t11.2.2)] → W p l e R s m args below meth c H locs cells slots Q (F0 m 46 ls [])) (fun t11 x12 hit hC11 hE11 H locs cells slots ls hA hl => ?_) _ er13 _ _ _ _ _ hA (lv_sub hl [1, 2, 3, 4, 7, 5, 6, 0] rfl)
      unfold C1_game_L46 at hit
      refine lv_iload hx hb dX1_game_46 (lv_at hl 7 rfl) ?_
      refine lv_iconst (v := 2) hx hb dX1_game_48 (by decide) ?_
      refine b_icmp_ge (tgt := 129) hx hb dX1_game_49 (by decide) hit (fun c14 hit => ?_) (fun c14 hit => ?_)
      · have he := o_in hit
        have he := hE11 _ he
        exact hr13 _ he.symm _ _ _ _ _ hA (lv_sub hl [0, 1, 2, 3, 4, 5, 6] rfl)
      · refine lv_aload_n hx hb dX1_game_52 rfl (lv_at hl 0 rfl) ?_
        refine lv_iload_n hx hb dX1_game_53 rfl (lv_at hl 1 rfl) ?_
        refine lv_iload_n hx hb dX1_game_54 rfl (lv_at hl 2 rfl) ?_
        refine lv_iconst (v := 1) hx hb dX1_game_55 (by decide) ?_
        refine lv_iload hx hb dX1_game_56 (lv_at hl 4 rfl) ?_
        refine lv_isub hx hb dX1_game_58 ?_
        refine lv_iload hx hb dX1_game_59 (lv_at hl 7 rfl) ?_
        obtain ⟨q15, eq15, hit⟩ := o_bind hit
        obtain ⟨iq15, eq15⟩ := vc_inv eq15
        refine c_cR X hA.1.1 (fun U hU hW => hA.D X.2.1 X.2.2 h0H hU hW) kc_TwinInk (wC1_gain l γ X.2.1 _ _ _ _ _ _ _ eq15) iq15 nm_X1_gain q1540 q1542 q135 q1543 qs49 ⟨Nat.le_trans (Nat.le_of_ble_eq_true rfl) hR.1, Nat.le_trans (Nat.le_of_ble_eq_true rfl) hR.2⟩ hA.RR rfl rfl hl.1 (lv_room (Nat.le_of_ble_eq_true rfl)) dX1_game_61 ?_
        refine lv_aload_n hx hb dX1_game_64 rfl (lv_at hl 0 rfl) ?_
        refine lv_iload_n hx hb dX1_game_65 rfl (lv_at hl 1 rfl) ?_
        refine lv_iload_n hx hb dX1_game_66 rfl (lv_at hl 2 rfl) ?_
        refine lv_iload hx hb dX1_game_67 (lv_at hl 4 rfl) ?_
        refine lv_iload hx hb dX1_game_69 (lv_at hl 7 rfl) ?_
        obtain ⟨q16, eq16, hit⟩ := o_bind hit
        obtain ⟨iq16, eq16⟩ := vc_inv eq16
        refine c_cR X hA.1.1 (fun U hU hW => hA.D X.2.1 X.2.2 h0H hU hW) kc_TwinInk (wC1_gain l γ X.2.1 _ _ _ _ _ _ _ eq16) iq16 nm_X1_gain q1540 q1542 q135 q1543 qs49 ⟨Nat.le_trans (Nat.le_of_ble_eq_true rfl) hR.1, Nat.le_trans (Nat.le_of_ble_eq_true rfl) hR.2⟩ hA.RR rfl rfl hl.1 (lv_room (Nat.le_of_ble_eq_true rfl)) dX1_game_71 ?_
        obtain ⟨wr17, er17, hxr17⟩ := xg_bind hit
        have hr17 : ∀ (r17 : Int32 × Int32), wr17 = .inl r17 → ∀ (H : Heap) (locs : List Loc) (cells slots : Nat) (ls : Array Slot), AI γ (h, r) s R q5.1 q5.2 H locs cells slots → lv_has ls 8 [(0, .ref o), (1, .int a0), (2, .int a1), (3, .int a2), (6, .int t6.2.2), (7, .int t11.2.2), (4, .int r17.1), (5, .int r17.2)] → W p l e R s m args below meth c H locs cells slots Q (F0 m 123 ls []) := by
          intro r17 hw_ H locs cells slots ls hA hl
          have hit := xk_l hxr17 hw_
          refine lv_iinc (k := 5) (v := (t11.2.2 + 1)) (lv' := [(7, .int (t11.2.2 + 1)), (0, .ref o), (1, .int a0), (2, .int a1), (3, .int a2), (6, .int t6.2.2), (4, .int r17.1), (5, .int r17.2)]) hx hb dX1_game_123 hl rfl rfl (by decide) rfl (fun ls hl => ?_)
          refine lv_goto (tgt := 46) hx hb dX1_game_126 (by decide) ?_
          have he := o_in hit
          exact hC11 _ he _ _ _ _ _ hA (lv_sub hl [1, 2, 3, 4, 5, 6, 7, 0] rfl)
        have hit := er17
        refine b_icmp_gt (tgt := 123) hx hb dX1_game_74 (by decide) hit (fun c18 hit => ?_) (fun c18 hit => ?_)
        · have he := o_in hit
          exact hr17 _ he.symm _ _ _ _ _ hA (lv_sub hl [0, 1, 2, 3, 4, 7, 5, 6] rfl)
        · refine lv_aload_n hx hb dX1_game_77 rfl (lv_at hl 0 rfl) ?_
          refine lv_iload_n hx hb dX1_game_78 rfl (lv_at hl 2 rfl) ?_
          refine lv_iload_n hx hb dX1_game_79 rfl (lv_at hl 1 rfl) ?_
          refine lv_iconst (v := 1) hx hb dX1_game_80 (by decide) ?_
          refine lv_iload hx hb dX1_game_81 (lv_at hl 7 rfl) ?_
          refine lv_isub hx hb dX1_game_83 ?_
          refine lv_iload hx hb dX1_game_84 (lv_at hl 4 rfl) ?_
          obtain ⟨q19, eq19, hit⟩ := o_bind hit
          obtain ⟨iq19, eq19⟩ := vc_inv eq19
          refine c_cR X hA.1.1 (fun U hU hW => hA.D X.2.1 X.2.2 h0H hU hW) kc_TwinInk (wC1_gain l γ X.2.1 _ _ _ _ _ _ _ eq19) iq19 nm_X1_gain q1540 q1542 q135 q1543 qs49 ⟨Nat.le_trans (Nat.le_of_ble_eq_true rfl) hR.1, Nat.le_trans (Nat.le_of_ble_eq_true rfl) hR.2⟩ hA.RR rfl rfl hl.1 (lv_room (Nat.le_of_ble_eq_true rfl)) dX1_game_86 ?_
          refine lv_aload_n hx hb dX1_game_89 rfl (lv_at hl 0 rfl) ?_
          refine lv_iload_n hx hb dX1_game_90 rfl (lv_at hl 2 rfl) ?_
          refine lv_iload_n hx hb dX1_game_91 rfl (lv_at hl 1 rfl) ?_
          refine lv_iload hx hb dX1_game_92 (lv_at hl 7 rfl) ?_
          refine lv_iload hx hb dX1_game_94 (lv_at hl 4 rfl) ?_
          obtain ⟨q20, eq20, hit⟩ := o_bind hit
          obtain ⟨iq20, eq20⟩ := vc_inv eq20
          refine c_cR X hA.1.1 (fun U hU hW => hA.D X.2.1 X.2.2 h0H hU hW) kc_TwinInk (wC1_gain l γ X.2.1 _ _ _ _ _ _ _ eq20) iq20 nm_X1_gain q1540 q1542 q135 q1543 qs49 ⟨Nat.le_trans (Nat.le_of_ble_eq_true rfl) hR.1, Nat.le_trans (Nat.le_of_ble_eq_true rfl) hR.2⟩ hA.RR rfl rfl hl.1 (lv_room (Nat.le_of_ble_eq_true rfl)) dX1_game_96 ?_
          refine b_icmp_le (tgt := 105) hx hb dX1_game_99 (by decide) hit (fun c21 hit => ?_) (fun c21 hit => ?_)
          · refine lv_iload hx hb dX1_game_105 (lv_at hl 5 rfl) ?_
            obtain ⟨wr22, er22, hxr22⟩ := xg_bind hit
            have hr22 : ∀ (r22 : Int32), wr22 = .inl r22 → ∀ (H : Heap) (locs : List Loc) (cells slots : Nat) (ls : Array Slot), AI γ (h, r) s R q5.1 q5.2 H locs cells slots → lv_has ls 8 [(0, .ref o), (1, .int a0), (2, .int a1), (3, .int a2), (6, .int t6.2.2), (4, .int t11.1), (7, .int t11.2.2), (5, .int r22)] → W p l e R s m args below meth c H locs cells slots Q (F0 m 120 ls []) := by
              intro r22 hw_ H locs cells slots ls hA hl
              have hit := xk_l hxr22 hw_
              refine lv_iinc (k := 5) (v := (t11.1 + 1)) (lv' := [(4, .int (t11.1 + 1)), (0, .ref o), (1, .int a0), (2, .int a1), (3, .int a2), (6, .int t6.2.2), (7, .int t11.2.2), (5, .int r22)]) hx hb dX1_game_120 hl rfl rfl (by decide) rfl (fun ls hl => ?_)
              have he := o_in hit
              exact hr17 _ he.symm _ _ _ _ _ hA (lv_sub hl [1, 2, 3, 4, 5, 6, 0, 7] rfl)
            have hit := er22
            refine b_if_ne (tgt := 120) hx hb dX1_game_107 (by decide) hit (fun c23 hit => ?_) (fun c23 hit => ?_)
            · have he := o_in hit
              exact hr22 _ he.symm _ _ _ _ _ hA (lv_sub hl [0, 1, 2, 3, 4, 5, 7, 6] rfl)
            · refine lv_bipush (v := 10) hx hb dX1_game_110 (by decide) ?_
              refine lv_iload hx hb dX1_game_112 (lv_at hl 4 rfl) ?_
              refine lv_imul hx hb dX1_game_114 ?_
              refine lv_iload hx hb dX1_game_115 (lv_at hl 7 rfl) ?_
              refine lv_iadd hx hb dX1_game_117 ?_
              refine lv_istore (lv' := [(5, .int ((10 * t6.2.2) + t11.2.2)), (0, .ref o), (1, .int a0), (2, .int a1), (3, .int a2), (6, .int t6.2.2), (4, .int t11.1), (7, .int t11.2.2)]) hx hb dX1_game_118 hl (by decide) rfl (fun ls hl => ?_)
              have he := o_in hit
              exact hr22 _ he.symm _ _ _ _ _ hA (lv_sub hl [1, 2, 3, 4, 5, 6, 7, 0] rfl)
          · refine lv_goto (tgt := 123) hx hb dX1_game_102 (by decide) ?_
            have he := o_in hit
            exact hr17 _ he.symm _ _ _ _ _ hA (lv_sub hl [0, 1, 2, 3, 4, 7, 5, 6] rfl)
  have hit := er4
  refine b_icmp_eq (tgt := 24) hx hb dX1_game_17 (by decide) hit (fun c24 hit => ?_) (fun c24 hit => ?_)
  · refine lv_iconst (v := 0) hx hb dX1_game_24 (by decide) ?_
    have he := o_in hit
    exact hr4 _ he.symm _ _ _ _ _ hA hl
  · refine lv_iconst (v := 1) hx hb dX1_game_20 (by decide) ?_
    refine lv_goto (tgt := 25) hx hb dX1_game_21 (by decide) ?_
    have he := o_in hit
    exact hr4 _ he.symm _ _ _ _ _ hA hl
noncomputable def C1_years_L35 (K : Nat → Nat) (o : Nat) (a1 : Int32) (t8 : Int32 × CS) : Option ((Int32 × CS) ⊕ (CS ⊕ XT)) :=
  if t8.1 < a1 then
    ((vc t8.2.1 o 1 (C1_befalls t8.2.1 o)).bind fun q25 =>
    (gR q25 o 1 3).bind fun v26 =>
    (vc q25 v26 3 (C3_pass K q25 v26)).bind fun q27 =>
    some (.inl ((t8.1 + 1), (q27.2, t8.2.2))))
  else
    (some (.inr (.inl t8.2)))
noncomputable def C1_years (K : Nat → Nat) (h : CH) (r : CR) (o : Nat) (a0 : Int32) (a1 : Int32) (a2 : Int32) : Option ((Int32 × CS) ⊕ XT) :=
  xg Sum.inr (xchv r (C1_oneOf h r a2 2)) fun q1 =>
  (C1_in a1 0 40).bind fun q2 =>
  xg Sum.inr (xchv q1.2 (C1_right q1.1 q1.2 q2)) fun q3 =>
  (pI q3.1 o 1 13 a0).bind fun s4 =>
  (gR s4 o 1 3).bind fun v5 =>
  (gR s4 o 1 2).bind fun v6 =>
  (vc s4 v5 3 (C3_be s4 v5 v6)).bind fun q7 =>
  xg Sum.inr (o_loop (C1_years_L35 K o a1) (0, (q7.2, q3.2))) fun r10 =>
  if a2 = 0 then
    ((gR r10.1 o 1 3).bind fun v21 =>
    (vc r10.1 v21 3 (C3_read r10.1 v21)).bind fun q22 =>
    (CJ19_bitCount q22).bind fun q23 =>
    some (.inl (q23, r10)))
  else
    (if a2 = 1 then
      ((gR r10.1 o 1 1).bind fun v16 =>
      (gI r10.1 v16 2 2).bind fun v17 =>
      (gR r10.1 o 1 3).bind fun v18 =>
      (vc r10.1 v18 3 (C3_burnt r10.1 v18)).bind fun q19 =>
      (CJ19_bitCount q19).bind fun q20 =>
      some (.inl ((v17 - q20), r10)))
    else
      ((gR r10.1 o 1 3).bind fun v13 =>
      (vc r10.1 v13 3 (C3_borne r10.1 v13)).bind fun q14 =>
      (CJ19_bitCount q14).bind fun q15 =>
      some (.inl (q15, r10))))
theorem nm_X1_years : kNm yX1_years RX1 3 := by unfold kNm; decide +kernel
set_option maxHeartbeats 4000000 in
set_option maxRecDepth 100000 in
theorem wC1_years (l : Launch) (hT : l.stackTraces = false) (γ : KG) (hO : kOK γ) (h : CH) (r : CR) (o : Nat) (a0 : Int32) (a1 : Int32) (a2 : Int32) (z : (Int32 × CS) ⊕ XT) (hz : C1_years γ.2.2.2.2.2 h r o a0 a1 a2 = some z) : xMet l yX1_years (ws_ yX1_years cX1_years 5 (some .int)) 813 20368 γ (h, r) [.ref o, .int a0, .int a1, .int a2] (xI z) := by
  refine x_start (cc := cX1_years) (own := RX1) hO rfl rfl rfl (fun p e R s m args below meth c Q ls X hR hnm h0H hA hl hend hthr hdir => ?_)
  have hx := X.1.1
  have hb := X.1.2.1
  have hit := hz
  clear hz
  unfold C1_years at hit
  have hl : lv_has ls 5 [(0, .ref o), (1, .int a0), (2, .int a1), (3, .int a2)] := hl
  refine lv_iload_n hx hb dX1_years_0 rfl (lv_at hl 3 rfl) ?_
  refine lv_iconst (v := 2) hx hb dX1_years_1 (by decide) ?_
  rcases xg_inv hit with ⟨q1, eq1, hit⟩ | ⟨x_q1, eq1, he⟩
  rotate_left
  · obtain ⟨eq1, lq1⟩ := xchv_r eq1
    refine t_cS X h0H hA nm_X1_oneOf q1283 q1284 q135 q1285 (xMet.tv (wC1_oneOf l hT γ X.2.1 _ _ _ _ _ eq1)) lq1 ⟨Nat.le_trans (Nat.le_of_ble_eq_true rfl) hR.1, Nat.le_trans (Nat.le_of_ble_eq_true rfl) hR.2⟩ rfl rfl hl.1 (lv_room (Nat.le_of_ble_eq_true rfl)) dX1_years_2 (fun H locs cells slots q_ hA hq => ?_)
    exact hthr _ _ _ _ _ _ _ _ _ (by subst he; rfl) hA hq
  obtain ⟨eq1, lq1⟩ := xchv_l eq1
  refine a_cS X h0H hA nm_X1_oneOf q1283 q1284 q135 q1285 (xMet.v (wC1_oneOf l hT γ X.2.1 _ _ _ _ _ eq1)) lq1 ⟨Nat.le_trans (Nat.le_of_ble_eq_true rfl) hR.1, Nat.le_trans (Nat.le_of_ble_eq_true rfl) hR.2⟩ rfl rfl hl.1 (lv_room (Nat.le_of_ble_eq_true rfl)) dX1_years_2 (fun H locs cells slots hA => ?_)
  refine lv_iload_n hx hb dX1_years_5 rfl (lv_at hl 2 rfl) ?_
  refine lv_iconst (v := 0) hx hb dX1_years_6 (by decide) ?_
  refine lv_bipush (v := 40) hx hb dX1_years_7 (by decide) ?_
  obtain ⟨q2, eq2, hit⟩ := o_bind hit
  refine c_cP X.1 (wC1_in l _ _ _ _ eq2) nm_X1_in q333 q334 q135 q335 ⟨Nat.le_trans (Nat.le_of_ble_eq_true rfl) hR.1, Nat.le_trans (Nat.le_of_ble_eq_true rfl) hR.2⟩ hA.RR rfl rfl hl.1 (lv_room (Nat.le_of_ble_eq_true rfl)) dX1_years_9 ?_
  rcases xg_inv hit with ⟨q3, eq3, hit⟩ | ⟨x_q3, eq3, he⟩
  rotate_left
  · obtain ⟨eq3, lq3⟩ := xchv_r eq3
    refine t_cS X h0H hA nm_X1_right q691 q692 q135 q693 (xMet.tv (wC1_right l hT γ X.2.1 _ _ _ _ eq3)) lq3 ⟨Nat.le_trans (Nat.le_of_ble_eq_true rfl) hR.1, Nat.le_trans (Nat.le_of_ble_eq_true rfl) hR.2⟩ rfl rfl hl.1 (lv_room (Nat.le_of_ble_eq_true rfl)) dX1_years_12 (fun H locs cells slots q_ hA hq => ?_)
    exact hthr _ _ _ _ _ _ _ _ _ (by subst he; rfl) hA hq
  obtain ⟨eq3, lq3⟩ := xchv_l eq3
  refine a_cS X h0H hA nm_X1_right q691 q692 q135 q693 (xMet.v (wC1_right l hT γ X.2.1 _ _ _ _ eq3)) lq3 ⟨Nat.le_trans (Nat.le_of_ble_eq_true rfl) hR.1, Nat.le_trans (Nat.le_of_ble_eq_true rfl) hR.2⟩ rfl rfl hl.1 (lv_room (Nat.le_of_ble_eq_true rfl)) dX1_years_12 (fun H locs cells slots hA => ?_)
  refine lv_aload_n hx hb dX1_years_15 rfl (lv_at hl 0 rfl) ?_
  refine lv_iload_n hx hb dX1_years_16 rfl (lv_at hl 1 rfl) ?_
  obtain ⟨s4, es4, hit⟩ := o_bind hit
  refine c_putI X hA.1 kc_TwinInk 13 q290 (Or.inl rfl) rfl rfl (tyv := .int) rfl rfl rfl es4 dX1_years_17 (fun H locs hI => ?_)
  replace hA := hA.up hI
  clear hI
  refine lv_aload_n hx hb dX1_years_20 rfl (lv_at hl 0 rfl) ?_
  obtain ⟨v5, ev5, hit⟩ := o_bind hit
  refine c_getR X hA.1.1 kc_TwinInk 3 q279 (Or.inl rfl) rfl rfl ev5 dX1_years_21 ?_
  refine lv_aload_n hx hb dX1_years_24 rfl (lv_at hl 0 rfl) ?_
  obtain ⟨v6, ev6, hit⟩ := o_bind hit
  refine c_getR X hA.1.1 kc_TwinInk 2 q278 (Or.inl rfl) rfl rfl ev6 dX1_years_25 ?_
  obtain ⟨q7, eq7, hit⟩ := o_bind hit
  obtain ⟨iq7, eq7⟩ := vc_inv eq7
  refine c_cN X (kA_F X.2.1 X.2.2 h0H) hA.1 kc_Service (wC3_be l γ X.2.1 _ _ _ _ eq7) iq7 nm_X3_be q1406 q351 q140 q353 q352 ⟨Nat.le_trans (Nat.le_of_ble_eq_true rfl) hR.1, Nat.le_trans (Nat.le_of_ble_eq_true rfl) hR.2⟩ hA.RR rfl rfl hl.1 (lv_room (Nat.le_of_ble_eq_true rfl)) dX1_years_28 (fun H locs hI => ?_)
  replace hA := hA.up hI
  clear hI
  refine lv_pop hx hb dX1_years_31 rfl ?_
  refine lv_iconst (v := 0) hx hb dX1_years_32 (by decide) ?_
  refine lv_istore (lv' := [(4, .int 0), (0, .ref o), (1, .int a0), (2, .int a1), (3, .int a2)]) hx hb dX1_years_33 hl (by decide) rfl (fun ls hl => ?_)
  obtain ⟨wr10, er10, hxr10⟩ := xg_bind hit
  have hr10 : ∀ (r10 : CS), wr10 = .inl r10 → ∀ (H : Heap) (locs : List Loc) (cells slots : Nat) (ls : Array Slot), AI γ (h, r) s R r10.1 r10.2 H locs cells slots → lv_has ls 5 [(0, .ref o), (3, .int a2)] → W p l e R s m args below meth c H locs cells slots Q (F0 m 59 ls []) := by
    intro r10 hw_ H locs cells slots ls hA hl
    have hit := xk_l hxr10 hw_
    refine lv_iload_n hx hb dX1_years_59 rfl (lv_at hl 1 rfl) ?_
    refine b_if_ne (tgt := 76) hx hb dX1_years_60 (by decide) hit (fun c11 hit => ?_) (fun c11 hit => ?_)
    · refine lv_iload_n hx hb dX1_years_76 rfl (lv_at hl 1 rfl) ?_
      refine lv_iconst (v := 1) hx hb dX1_years_77 (by decide) ?_
      refine b_icmp_ne (tgt := 102) hx hb dX1_years_78 (by decide) hit (fun c12 hit => ?_) (fun c12 hit => ?_)
      · refine lv_aload_n hx hb dX1_years_102 rfl (lv_at hl 0 rfl) ?_
        obtain ⟨v13, ev13, hit⟩ := o_bind hit
        refine c_getR X hA.1.1 kc_TwinInk 3 q279 (Or.inl rfl) rfl rfl ev13 dX1_years_103 ?_
        obtain ⟨q14, eq14, hit⟩ := o_bind hit
        obtain ⟨iq14, eq14⟩ := vc_inv eq14
        refine c_cR X hA.1.1 (fun U hU hW => hA.D X.2.1 X.2.2 h0H hU hW) kc_Service (wC3_borne l γ X.2.1 _ _  _ eq14) iq14 nm_X3_borne q1236 q1237 q140 q1239 q1238 ⟨Nat.le_trans (Nat.le_of_ble_eq_true rfl) hR.1, Nat.le_trans (Nat.le_of_ble_eq_true rfl) hR.2⟩ hA.RR rfl rfl hl.1 (lv_room (Nat.le_of_ble_eq_true rfl)) dX1_years_106 ?_
        obtain ⟨q15, eq15, hit⟩ := o_bind hit
        refine c_cP X.1 (wCJ19_bitCount l _ _ eq15) nm_J19_bitCount q1458 q509 q165 q510 ⟨Nat.le_trans (Nat.le_of_ble_eq_true rfl) hR.1, Nat.le_trans (Nat.le_of_ble_eq_true rfl) hR.2⟩ hA.RR rfl rfl hl.1 (lv_room (Nat.le_of_ble_eq_true rfl)) dX1_years_109 ?_
        have he := o_in hit
        exact hend (some (.int q15)) r10 _ _ _ _ _ _ _ _ (kOut_i rfl) (by subst he; rfl) hA dX1_years_112
      · refine lv_aload_n hx hb dX1_years_81 rfl (lv_at hl 0 rfl) ?_
        obtain ⟨v16, ev16, hit⟩ := o_bind hit
        refine c_getR X hA.1.1 kc_TwinInk 1 q277 (Or.inl rfl) rfl rfl ev16 dX1_years_82 ?_
        obtain ⟨v17, ev17, hit⟩ := o_bind hit
        refine c_getNI X hA.1.1 kc_Office 2 q216 (Or.inl rfl) rfl rfl ev17 dX1_years_85 ?_
        refine lv_aload_n hx hb dX1_years_88 rfl (lv_at hl 0 rfl) ?_
        obtain ⟨v18, ev18, hit⟩ := o_bind hit
        refine c_getR X hA.1.1 kc_TwinInk 3 q279 (Or.inl rfl) rfl rfl ev18 dX1_years_89 ?_
        obtain ⟨q19, eq19, hit⟩ := o_bind hit
        obtain ⟨iq19, eq19⟩ := vc_inv eq19
        refine c_cR X hA.1.1 (fun U hU hW => hA.D X.2.1 X.2.2 h0H hU hW) kc_Service (wC3_burnt l γ X.2.1 _ _  _ eq19) iq19 nm_X3_burnt q1232 q1233 q140 q1235 q1234 ⟨Nat.le_trans (Nat.le_of_ble_eq_true rfl) hR.1, Nat.le_trans (Nat.le_of_ble_eq_true rfl) hR.2⟩ hA.RR rfl rfl hl.1 (lv_room (Nat.le_of_ble_eq_true rfl)) dX1_years_92 ?_
        obtain ⟨q20, eq20, hit⟩ := o_bind hit
        refine c_cP X.1 (wCJ19_bitCount l _ _ eq20) nm_J19_bitCount q1458 q509 q165 q510 ⟨Nat.le_trans (Nat.le_of_ble_eq_true rfl) hR.1, Nat.le_trans (Nat.le_of_ble_eq_true rfl) hR.2⟩ hA.RR rfl rfl hl.1 (lv_room (Nat.le_of_ble_eq_true rfl)) dX1_years_95 ?_
        refine lv_isub hx hb dX1_years_98 ?_
        refine lv_goto (tgt := 112) hx hb dX1_years_99 (by decide) ?_
        have he := o_in hit
        exact hend (some (.int (v17 - q20))) r10 _ _ _ _ _ _ _ _ (kOut_i rfl) (by subst he; rfl) hA dX1_years_112
    · refine lv_aload_n hx hb dX1_years_63 rfl (lv_at hl 0 rfl) ?_
      obtain ⟨v21, ev21, hit⟩ := o_bind hit
      refine c_getR X hA.1.1 kc_TwinInk 3 q279 (Or.inl rfl) rfl rfl ev21 dX1_years_64 ?_
      obtain ⟨q22, eq22, hit⟩ := o_bind hit
      obtain ⟨iq22, eq22⟩ := vc_inv eq22
      refine c_cR X hA.1.1 (fun U hU hW => hA.D X.2.1 X.2.2 h0H hU hW) kc_Service (wC3_read l γ X.2.1 _ _  _ eq22) iq22 nm_X3_read q1240 q1241 q140 q1243 q1242 ⟨Nat.le_trans (Nat.le_of_ble_eq_true rfl) hR.1, Nat.le_trans (Nat.le_of_ble_eq_true rfl) hR.2⟩ hA.RR rfl rfl hl.1 (lv_room (Nat.le_of_ble_eq_true rfl)) dX1_years_67 ?_
      obtain ⟨q23, eq23, hit⟩ := o_bind hit
      refine c_cP X.1 (wCJ19_bitCount l _ _ eq23) nm_J19_bitCount q1458 q509 q165 q510 ⟨Nat.le_trans (Nat.le_of_ble_eq_true rfl) hR.1, Nat.le_trans (Nat.le_of_ble_eq_true rfl) hR.2⟩ hA.RR rfl rfl hl.1 (lv_room (Nat.le_of_ble_eq_true rfl)) dX1_years_70 ?_
      refine lv_goto (tgt := 112) hx hb dX1_years_73 (by decide) ?_
      have he := o_in hit
      exact hend (some (.int q23)) r10 _ _ _ _ _ _ _ _ (kOut_i rfl) (by subst he; rfl) hA dX1_years_112
  refine o_rec (P := fun t8 => ∀ (H : Heap) (locs : List Loc) (cells slots : Nat) (ls : Array Slot), AI γ (h, r) s R t8.2.1 t8.2.2 H locs cells slots → lv_has ls 5 [(0, .ref o), (2, .int a1), (3, .int a2), (4, .int t8.1)] → W p l e R s m args below meth c H locs cells slots Q (F0 m 35 ls [])) (fun t8 x9 hit hC8 hE8 H locs cells slots ls hA hl => ?_) _ er10 _ _ _ _ _ hA (lv_sub hl [1, 3, 4, 0] rfl)
  unfold C1_years_L35 at hit
  refine lv_iload hx hb dX1_years_35 (lv_at hl 3 rfl) ?_
  refine lv_iload_n hx hb dX1_years_37 rfl (lv_at hl 1 rfl) ?_
  refine b_icmp_ge (tgt := 59) hx hb dX1_years_38 (by decide) hit (fun c24 hit => ?_) (fun c24 hit => ?_)
  · have he := o_in hit
    have he := hE8 _ he
    exact hr10 _ he.symm _ _ _ _ _ hA (lv_sub hl [0, 2] rfl)
  · refine lv_aload_n hx hb dX1_years_41 rfl (lv_at hl 0 rfl) ?_
    obtain ⟨q25, eq25, hit⟩ := o_bind hit
    obtain ⟨iq25, eq25⟩ := vc_inv eq25
    refine c_cN X (kA_F X.2.1 X.2.2 h0H) hA.1 kc_TwinInk (wC1_befalls l γ X.2.1 _ _  _ eq25) iq25 nm_X1_befalls q1556 q1558 q135 q1559 qs51 ⟨Nat.le_trans (Nat.le_of_ble_eq_true rfl) hR.1, Nat.le_trans (Nat.le_of_ble_eq_true rfl) hR.2⟩ hA.RR rfl rfl hl.1 (lv_room (Nat.le_of_ble_eq_true rfl)) dX1_years_42 (fun H locs hI => ?_)
    replace hA := hA.up hI
    clear hI
    refine lv_aload_n hx hb dX1_years_45 rfl (lv_at hl 0 rfl) ?_
    obtain ⟨v26, ev26, hit⟩ := o_bind hit
    refine c_getR X hA.1.1 kc_TwinInk 3 q279 (Or.inl rfl) rfl rfl ev26 dX1_years_46 ?_
    obtain ⟨q27, eq27, hit⟩ := o_bind hit
    obtain ⟨iq27, eq27⟩ := vc_inv eq27
    refine c_cN X (kA_F X.2.1 X.2.2 h0H) hA.1 kc_Service (wC3_pass l γ X.2.1 _ _  _ eq27) iq27 nm_X3_pass q1429 q456 q140 q458 q457 ⟨Nat.le_trans (Nat.le_of_ble_eq_true rfl) hR.1, Nat.le_trans (Nat.le_of_ble_eq_true rfl) hR.2⟩ hA.RR rfl rfl hl.1 (lv_room (Nat.le_of_ble_eq_true rfl)) dX1_years_49 (fun H locs hI => ?_)
    replace hA := hA.up hI
    clear hI
    refine lv_pop hx hb dX1_years_52 rfl ?_
    refine lv_iinc (k := 3) (v := (t8.1 + 1)) (lv' := [(4, .int (t8.1 + 1)), (0, .ref o), (2, .int a1), (3, .int a2)]) hx hb dX1_years_53 hl rfl rfl (by decide) rfl (fun ls hl => ?_)
    refine lv_goto (tgt := 35) hx hb dX1_years_56 (by decide) ?_
    have he := o_in hit
    exact hC8 _ he _ _ _ _ _ hA (lv_sub hl [1, 2, 3, 0] rfl)
noncomputable def C1_wisest_L20 (o : Nat) (q2 : CS) (q3 : Nat × CH) (t4 : Int32 × Int32) : Option ((Int32 × Int32) ⊕ ((Int32 × CS) ⊕ XT)) :=
  (gR q3.2 o 1 1).bind fun v6 =>
  (vc q3.2 v6 2 (C2_clerks q3.2 v6)).bind fun q7 =>
  if t4.2 < q7 then
    (xg (fun e_ => .inr (.inr e_)) ((if t4.1 = (-1) then
        (some (.inl t4.2))
      else
        ((gR q3.2 o 1 3).bind fun v11 =>
        (gR q3.2 v11 3 3).bind fun v12 =>
        (aI q3.2 v12 0 t4.2).bind fun v13 =>
        (CJ19_bitCount v13).bind fun q14 =>
        (gR q3.2 o 1 3).bind fun v15 =>
        (gR q3.2 v15 3 3).bind fun v16 =>
        (aI q3.2 v16 0 t4.1).bind fun v17 =>
        (CJ19_bitCount v17).bind fun q18 =>
        if q14 ≤ q18 then
          (some (.inl t4.1))
        else
          (some (.inl t4.2))) : Option (Int32 ⊕ XT))) fun r9 =>
    some (.inl (r9, (t4.2 + 1))))
  else
    (some (.inr (.inl (t4.1, (q3.2, q2.2)))))
noncomputable def C1_wisest (K : Nat → Nat) (h : CH) (r : CR) (o : Nat) (a0 : Int32) : Option ((Int32 × CS) ⊕ XT) :=
  (C1_in a0 0 40).bind fun q1 =>
  xg Sum.inr (xchv r (C1_right h r q1)) fun q2 =>
  (vc q2.1 o 1 (C1_later K q2.1 o a0)).bind fun q3 =>
  o_loop (C1_wisest_L20 o q2 q3) ((-1), 0)
theorem nm_X1_wisest : kNm yX1_wisest RX1 1 := by unfold kNm; decide +kernel
set_option maxHeartbeats 4000000 in
set_option maxRecDepth 100000 in
theorem wC1_wisest (l : Launch) (hT : l.stackTraces = false) (γ : KG) (hO : kOK γ) (h : CH) (r : CR) (o : Nat) (a0 : Int32) (z : (Int32 × CS) ⊕ XT) (hz : C1_wisest γ.2.2.2.2.2 h r o a0 = some z) : xMet l yX1_wisest (ws_ yX1_wisest cX1_wisest 4 (some .int)) 815 20411 γ (h, r) [.ref o, .int a0] (xI z) := by
  refine x_start (cc := cX1_wisest) (own := RX1) hO rfl rfl rfl (fun p e R s m args below meth c Q ls X hR hnm h0H hA hl hend hthr hdir => ?_)
  have hx := X.1.1
  have hb := X.1.2.1
  have hit := hz
  clear hz
  unfold C1_wisest at hit
  have hl : lv_has ls 4 [(0, .ref o), (1, .int a0)] := hl
  refine lv_iload_n hx hb dX1_wisest_0 rfl (lv_at hl 1 rfl) ?_
  refine lv_iconst (v := 0) hx hb dX1_wisest_1 (by decide) ?_
  refine lv_bipush (v := 40) hx hb dX1_wisest_2 (by decide) ?_
  obtain ⟨q1, eq1, hit⟩ := o_bind hit
  refine c_cP X.1 (wC1_in l _ _ _ _ eq1) nm_X1_in q333 q334 q135 q335 ⟨Nat.le_trans (Nat.le_of_ble_eq_true rfl) hR.1, Nat.le_trans (Nat.le_of_ble_eq_true rfl) hR.2⟩ hA.RR rfl rfl hl.1 (lv_room (Nat.le_of_ble_eq_true rfl)) dX1_wisest_4 ?_
  rcases xg_inv hit with ⟨q2, eq2, hit⟩ | ⟨x_q2, eq2, he⟩
  rotate_left
  · obtain ⟨eq2, lq2⟩ := xchv_r eq2
    refine t_cS X h0H hA nm_X1_right q691 q692 q135 q693 (xMet.tv (wC1_right l hT γ X.2.1 _ _ _ _ eq2)) lq2 ⟨Nat.le_trans (Nat.le_of_ble_eq_true rfl) hR.1, Nat.le_trans (Nat.le_of_ble_eq_true rfl) hR.2⟩ rfl rfl hl.1 (lv_room (Nat.le_of_ble_eq_true rfl)) dX1_wisest_7 (fun H locs cells slots q_ hA hq => ?_)
    exact hthr _ _ _ _ _ _ _ _ _ (by subst he; rfl) hA hq
  obtain ⟨eq2, lq2⟩ := xchv_l eq2
  refine a_cS X h0H hA nm_X1_right q691 q692 q135 q693 (xMet.v (wC1_right l hT γ X.2.1 _ _ _ _ eq2)) lq2 ⟨Nat.le_trans (Nat.le_of_ble_eq_true rfl) hR.1, Nat.le_trans (Nat.le_of_ble_eq_true rfl) hR.2⟩ rfl rfl hl.1 (lv_room (Nat.le_of_ble_eq_true rfl)) dX1_wisest_7 (fun H locs cells slots hA => ?_)
  refine lv_aload_n hx hb dX1_wisest_10 rfl (lv_at hl 0 rfl) ?_
  refine lv_iload_n hx hb dX1_wisest_11 rfl (lv_at hl 1 rfl) ?_
  obtain ⟨q3, eq3, hit⟩ := o_bind hit
  obtain ⟨iq3, eq3⟩ := vc_inv eq3
  refine c_cN X (kA_F X.2.1 X.2.2 h0H) hA.1 kc_TwinInk (wC1_later l γ X.2.1 _ _ _ _ eq3) iq3 nm_X1_later q1402 q1404 q135 q1405 qs44 ⟨Nat.le_trans (Nat.le_of_ble_eq_true rfl) hR.1, Nat.le_trans (Nat.le_of_ble_eq_true rfl) hR.2⟩ hA.RR rfl rfl hl.1 (lv_room (Nat.le_of_ble_eq_true rfl)) dX1_wisest_12 (fun H locs hI => ?_)
  replace hA := hA.up hI
  clear hI
  refine lv_pop hx hb dX1_wisest_15 rfl ?_
  refine lv_iconst (v := (-1)) hx hb dX1_wisest_16 (by decide) ?_
  refine lv_istore_n (lv' := [(2, .int (-1)), (0, .ref o), (1, .int a0)]) hx hb dX1_wisest_17 rfl hl (by decide) rfl (fun ls hl => ?_)
  refine lv_iconst (v := 0) hx hb dX1_wisest_18 (by decide) ?_
  refine lv_istore_n (lv' := [(3, .int 0), (2, .int (-1)), (0, .ref o), (1, .int a0)]) hx hb dX1_wisest_19 rfl hl (by decide) rfl (fun ls hl => ?_)
  refine o_rec (P := fun t4 => ∀ (H : Heap) (locs : List Loc) (cells slots : Nat) (ls : Array Slot), AI γ (h, r) s R q3.2 q2.2 H locs cells slots → lv_has ls 4 [(0, .ref o), (2, .int t4.1), (3, .int t4.2)] → W p l e R s m args below meth c H locs cells slots Q (F0 m 20 ls [])) (fun t4 x5 hit hC4 hE4 H locs cells slots ls hA hl => ?_) _ hit _ _ _ _ _ hA (lv_sub hl [2, 1, 0] rfl)
  unfold C1_wisest_L20 at hit
  refine lv_iload_n hx hb dX1_wisest_20 rfl (lv_at hl 2 rfl) ?_
  refine lv_aload_n hx hb dX1_wisest_21 rfl (lv_at hl 0 rfl) ?_
  obtain ⟨v6, ev6, hit⟩ := o_bind hit
  refine c_getR X hA.1.1 kc_TwinInk 1 q277 (Or.inl rfl) rfl rfl ev6 dX1_wisest_22 ?_
  obtain ⟨q7, eq7, hit⟩ := o_bind hit
  obtain ⟨iq7, eq7⟩ := vc_inv eq7
  refine c_cR X hA.1.1 (fun U hU hW => hA.D X.2.1 X.2.2 h0H hU hW) kc_Office (wC2_clerks l γ X.2.1 _ _  _ eq7) iq7 nm_X2_clerks q1231 q464 q136 q466 q465 ⟨Nat.le_trans (Nat.le_of_ble_eq_true rfl) hR.1, Nat.le_trans (Nat.le_of_ble_eq_true rfl) hR.2⟩ hA.RR rfl rfl hl.1 (lv_room (Nat.le_of_ble_eq_true rfl)) dX1_wisest_25 ?_
  refine b_icmp_ge (tgt := 71) hx hb dX1_wisest_28 (by decide) hit (fun c8 hit => ?_) (fun c8 hit => ?_)
  · refine lv_iload_n hx hb dX1_wisest_71 rfl (lv_at hl 1 rfl) ?_
    have he := o_in hit
    have he := hE4 _ he
    exact hend (some (.int t4.1)) (q3.2, q2.2) _ _ _ _ _ _ _ _ (kOut_i rfl) (by subst he; rfl) hA dX1_wisest_72
  · refine lv_iload_n hx hb dX1_wisest_31 rfl (lv_at hl 1 rfl) ?_
    refine lv_iconst (v := (-1)) hx hb dX1_wisest_32 (by decide) ?_
    obtain ⟨wr9, er9, hxr9⟩ := xg_bind hit
    have hr9 : ∀ (r9 : Int32), wr9 = .inl r9 → ∀ (H : Heap) (locs : List Loc) (cells slots : Nat) (ls : Array Slot), AI γ (h, r) s R q3.2 q2.2 H locs cells slots → lv_has ls 4 [(0, .ref o), (3, .int t4.2), (2, .int r9)] → W p l e R s m args below meth c H locs cells slots Q (F0 m 65 ls []) := by
      intro r9 hw_ H locs cells slots ls hA hl
      have hit := xk_l hxr9 hw_
      refine lv_iinc (k := 1) (v := (t4.2 + 1)) (lv' := [(3, .int (t4.2 + 1)), (0, .ref o), (2, .int r9)]) hx hb dX1_wisest_65 hl rfl rfl (by decide) rfl (fun ls hl => ?_)
      refine lv_goto (tgt := 20) hx hb dX1_wisest_68 (by decide) ?_
      have he := o_in hit
      exact hC4 _ he _ _ _ _ _ hA (lv_sub hl [1, 2, 0] rfl)
    have hit := er9
    refine b_icmp_eq (tgt := 63) hx hb dX1_wisest_33 (by decide) hit (fun c10 hit => ?_) (fun c10 hit => ?_)
    · refine lv_iload_n hx hb dX1_wisest_63 rfl (lv_at hl 2 rfl) ?_
      refine lv_istore_n (lv' := [(2, .int t4.2), (0, .ref o), (3, .int t4.2)]) hx hb dX1_wisest_64 rfl hl (by decide) rfl (fun ls hl => ?_)
      have he := o_in hit
      exact hr9 _ he.symm _ _ _ _ _ hA (lv_sub hl [1, 2, 0] rfl)
    · refine lv_aload_n hx hb dX1_wisest_36 rfl (lv_at hl 0 rfl) ?_
      obtain ⟨v11, ev11, hit⟩ := o_bind hit
      refine c_getR X hA.1.1 kc_TwinInk 3 q279 (Or.inl rfl) rfl rfl ev11 dX1_wisest_37 ?_
      obtain ⟨v12, ev12, hit⟩ := o_bind hit
      refine c_getNR X hA.1.1 kc_Service 3 q255 (Or.inl rfl) rfl rfl ev12 dX1_wisest_40 ?_
      refine lv_iload_n hx hb dX1_wisest_43 rfl (lv_at hl 2 rfl) ?_
      obtain ⟨v13, ev13, hit⟩ := o_bind hit
      refine c_iald X hA.1.1 ev13 dX1_wisest_44 ?_
      obtain ⟨q14, eq14, hit⟩ := o_bind hit
      refine c_cP X.1 (wCJ19_bitCount l _ _ eq14) nm_J19_bitCount q1458 q509 q165 q510 ⟨Nat.le_trans (Nat.le_of_ble_eq_true rfl) hR.1, Nat.le_trans (Nat.le_of_ble_eq_true rfl) hR.2⟩ hA.RR rfl rfl hl.1 (lv_room (Nat.le_of_ble_eq_true rfl)) dX1_wisest_45 ?_
      refine lv_aload_n hx hb dX1_wisest_48 rfl (lv_at hl 0 rfl) ?_
      obtain ⟨v15, ev15, hit⟩ := o_bind hit
      refine c_getR X hA.1.1 kc_TwinInk 3 q279 (Or.inl rfl) rfl rfl ev15 dX1_wisest_49 ?_
      obtain ⟨v16, ev16, hit⟩ := o_bind hit
      refine c_getNR X hA.1.1 kc_Service 3 q255 (Or.inl rfl) rfl rfl ev16 dX1_wisest_52 ?_
      refine lv_iload_n hx hb dX1_wisest_55 rfl (lv_at hl 1 rfl) ?_
      obtain ⟨v17, ev17, hit⟩ := o_bind hit
      refine c_iald X hA.1.1 ev17 dX1_wisest_56 ?_
      obtain ⟨q18, eq18, hit⟩ := o_bind hit
      refine c_cP X.1 (wCJ19_bitCount l _ _ eq18) nm_J19_bitCount q1458 q509 q165 q510 ⟨Nat.le_trans (Nat.le_of_ble_eq_true rfl) hR.1, Nat.le_trans (Nat.le_of_ble_eq_true rfl) hR.2⟩ hA.RR rfl rfl hl.1 (lv_room (Nat.le_of_ble_eq_true rfl)) dX1_wisest_57 ?_
      refine b_icmp_le (tgt := 65) hx hb dX1_wisest_60 (by decide) hit (fun c19 hit => ?_) (fun c19 hit => ?_)
      · have he := o_in hit
        exact hr9 _ he.symm _ _ _ _ _ hA (lv_sub hl [0, 2, 1] rfl)
      · refine lv_iload_n hx hb dX1_wisest_63 rfl (lv_at hl 2 rfl) ?_
        refine lv_istore_n (lv' := [(2, .int t4.2), (0, .ref o), (3, .int t4.2)]) hx hb dX1_wisest_64 rfl hl (by decide) rfl (fun ls hl => ?_)
        have he := o_in hit
        exact hr9 _ he.symm _ _ _ _ _ hA (lv_sub hl [1, 2, 0] rfl)
noncomputable def C1_company_L26 (o : Nat) (a0 : Int32) (a1 : Int32) (a2 : Int32) (q4 : CS) (t5 : Int32 × Int32) : Option ((Int32 × Int32) ⊕ ((Int32 × CS) ⊕ XT)) :=
  if t5.2 < a2 then
    ((gR q4.1 o 1 1).bind fun v8 =>
    (gR q4.1 o 1 2).bind fun v9 =>
    (gI q4.1 v9 3 4).bind fun v10 =>
    (vc q4.1 v8 2 (C2_town q4.1 v8 a0 (v10 + t5.2))).bind fun q11 =>
    (gR q4.1 o 1 1).bind fun v12 =>
    (gR q4.1 o 1 2).bind fun v13 =>
    (gI q4.1 v13 3 4).bind fun v14 =>
    (vc q4.1 v12 2 (C2_town q4.1 v12 a1 (v14 + t5.2))).bind fun q15 =>
    xg (fun e_ => .inr (.inr e_)) ((if q11 = q15 then
        (some (.inl (t5.1 + 1)))
      else
        (some (.inl t5.1)) : Option (Int32 ⊕ XT))) fun r16 =>
    some (.inl (r16, (t5.2 + 1))))
  else
    (some (.inr (.inl (t5.1, q4))))
noncomputable def C1_company (h : CH) (r : CR) (o : Nat) (a0 : Int32) (a1 : Int32) (a2 : Int32) : Option ((Int32 × CS) ⊕ XT) :=
  xg Sum.inr (vc h o 1 (xchv r (C1_aClerk h r o a0))) fun q1 =>
  xg Sum.inr (vc q1.1 o 1 (xchv q1.2 (C1_aClerk q1.1 q1.2 o a1))) fun q2 =>
  (C1_in a2 1 60).bind fun q3 =>
  xg Sum.inr (xchv q2.2 (C1_right q2.1 q2.2 q3)) fun q4 =>
  o_loop (C1_company_L26 o a0 a1 a2 q4) (0, 0)
theorem nm_X1_company : kNm yX1_company RX1 3 := by unfold kNm; decide +kernel
set_option maxHeartbeats 4000000 in
set_option maxRecDepth 100000 in
theorem wC1_company (l : Launch) (hT : l.stackTraces = false) (γ : KG) (hO : kOK γ) (h : CH) (r : CR) (o : Nat) (a0 : Int32) (a1 : Int32) (a2 : Int32) (z : (Int32 × CS) ⊕ XT) (hz : C1_company h r o a0 a1 a2 = some z) : xMet l yX1_company (ws_ yX1_company cX1_company 6 (some .int)) 8 141 γ (h, r) [.ref o, .int a0, .int a1, .int a2] (xI z) := by
  refine x_start (cc := cX1_company) (own := RX1) hO rfl rfl rfl (fun p e R s m args below meth c Q ls X hR hnm h0H hA hl hend hthr hdir => ?_)
  have hx := X.1.1
  have hb := X.1.2.1
  have hit := hz
  clear hz
  unfold C1_company at hit
  have hl : lv_has ls 6 [(0, .ref o), (1, .int a0), (2, .int a1), (3, .int a2)] := hl
  refine lv_aload_n hx hb dX1_company_0 rfl (lv_at hl 0 rfl) ?_
  refine lv_iload_n hx hb dX1_company_1 rfl (lv_at hl 1 rfl) ?_
  rcases xg_inv hit with ⟨q1, eq1, hit⟩ | ⟨x_q1, eq1, he⟩
  rotate_left
  · obtain ⟨iq1, eq1⟩ := vc_inv eq1
    obtain ⟨eq1, lq1⟩ := xchv_r eq1
    refine t_cV X h0H hA kc_TwinInk (xMet.tv (wC1_aClerk l hT γ X.2.1 _ _ _ _ _ eq1)) lq1 iq1 nm_X1_aClerk q1299 q1301 q135 q1302 qs37 ⟨Nat.le_trans (Nat.le_of_ble_eq_true rfl) hR.1, Nat.le_trans (Nat.le_of_ble_eq_true rfl) hR.2⟩ rfl rfl hl.1 (lv_room (Nat.le_of_ble_eq_true rfl)) dX1_company_2 (fun H locs cells slots q_ hA hq => ?_)
    exact hthr _ _ _ _ _ _ _ _ _ (by subst he; rfl) hA hq
  obtain ⟨iq1, eq1⟩ := vc_inv eq1
  obtain ⟨eq1, lq1⟩ := xchv_l eq1
  refine a_cV X h0H hA kc_TwinInk (xMet.v (wC1_aClerk l hT γ X.2.1 _ _ _ _ _ eq1)) lq1 iq1 nm_X1_aClerk q1299 q1301 q135 q1302 qs37 ⟨Nat.le_trans (Nat.le_of_ble_eq_true rfl) hR.1, Nat.le_trans (Nat.le_of_ble_eq_true rfl) hR.2⟩ rfl rfl hl.1 (lv_room (Nat.le_of_ble_eq_true rfl)) dX1_company_2 (fun H locs cells slots hA => ?_)
  refine lv_aload_n hx hb dX1_company_5 rfl (lv_at hl 0 rfl) ?_
  refine lv_iload_n hx hb dX1_company_6 rfl (lv_at hl 2 rfl) ?_
  rcases xg_inv hit with ⟨q2, eq2, hit⟩ | ⟨x_q2, eq2, he⟩
  rotate_left
  · obtain ⟨iq2, eq2⟩ := vc_inv eq2
    obtain ⟨eq2, lq2⟩ := xchv_r eq2
    refine t_cV X h0H hA kc_TwinInk (xMet.tv (wC1_aClerk l hT γ X.2.1 _ _ _ _ _ eq2)) lq2 iq2 nm_X1_aClerk q1299 q1301 q135 q1302 qs37 ⟨Nat.le_trans (Nat.le_of_ble_eq_true rfl) hR.1, Nat.le_trans (Nat.le_of_ble_eq_true rfl) hR.2⟩ rfl rfl hl.1 (lv_room (Nat.le_of_ble_eq_true rfl)) dX1_company_7 (fun H locs cells slots q_ hA hq => ?_)
    exact hthr _ _ _ _ _ _ _ _ _ (by subst he; rfl) hA hq
  obtain ⟨iq2, eq2⟩ := vc_inv eq2
  obtain ⟨eq2, lq2⟩ := xchv_l eq2
  refine a_cV X h0H hA kc_TwinInk (xMet.v (wC1_aClerk l hT γ X.2.1 _ _ _ _ _ eq2)) lq2 iq2 nm_X1_aClerk q1299 q1301 q135 q1302 qs37 ⟨Nat.le_trans (Nat.le_of_ble_eq_true rfl) hR.1, Nat.le_trans (Nat.le_of_ble_eq_true rfl) hR.2⟩ rfl rfl hl.1 (lv_room (Nat.le_of_ble_eq_true rfl)) dX1_company_7 (fun H locs cells slots hA => ?_)
  refine lv_iload_n hx hb dX1_company_10 rfl (lv_at hl 3 rfl) ?_
  refine lv_iconst (v := 1) hx hb dX1_company_11 (by decide) ?_
  refine lv_bipush (v := 60) hx hb dX1_company_12 (by decide) ?_
  obtain ⟨q3, eq3, hit⟩ := o_bind hit
  refine c_cP X.1 (wC1_in l _ _ _ _ eq3) nm_X1_in q333 q334 q135 q335 ⟨Nat.le_trans (Nat.le_of_ble_eq_true rfl) hR.1, Nat.le_trans (Nat.le_of_ble_eq_true rfl) hR.2⟩ hA.RR rfl rfl hl.1 (lv_room (Nat.le_of_ble_eq_true rfl)) dX1_company_14 ?_
  rcases xg_inv hit with ⟨q4, eq4, hit⟩ | ⟨x_q4, eq4, he⟩
  rotate_left
  · obtain ⟨eq4, lq4⟩ := xchv_r eq4
    refine t_cS X h0H hA nm_X1_right q691 q692 q135 q693 (xMet.tv (wC1_right l hT γ X.2.1 _ _ _ _ eq4)) lq4 ⟨Nat.le_trans (Nat.le_of_ble_eq_true rfl) hR.1, Nat.le_trans (Nat.le_of_ble_eq_true rfl) hR.2⟩ rfl rfl hl.1 (lv_room (Nat.le_of_ble_eq_true rfl)) dX1_company_17 (fun H locs cells slots q_ hA hq => ?_)
    exact hthr _ _ _ _ _ _ _ _ _ (by subst he; rfl) hA hq
  obtain ⟨eq4, lq4⟩ := xchv_l eq4
  refine a_cS X h0H hA nm_X1_right q691 q692 q135 q693 (xMet.v (wC1_right l hT γ X.2.1 _ _ _ _ eq4)) lq4 ⟨Nat.le_trans (Nat.le_of_ble_eq_true rfl) hR.1, Nat.le_trans (Nat.le_of_ble_eq_true rfl) hR.2⟩ rfl rfl hl.1 (lv_room (Nat.le_of_ble_eq_true rfl)) dX1_company_17 (fun H locs cells slots hA => ?_)
  refine lv_iconst (v := 0) hx hb dX1_company_20 (by decide) ?_
  refine lv_istore (lv' := [(4, .int 0), (0, .ref o), (1, .int a0), (2, .int a1), (3, .int a2)]) hx hb dX1_company_21 hl (by decide) rfl (fun ls hl => ?_)
  refine lv_iconst (v := 0) hx hb dX1_company_23 (by decide) ?_
  refine lv_istore (lv' := [(5, .int 0), (4, .int 0), (0, .ref o), (1, .int a0), (2, .int a1), (3, .int a2)]) hx hb dX1_company_24 hl (by decide) rfl (fun ls hl => ?_)
  refine o_rec (P := fun t5 => ∀ (H : Heap) (locs : List Loc) (cells slots : Nat) (ls : Array Slot), AI γ (h, r) s R q4.1 q4.2 H locs cells slots → lv_has ls 6 [(0, .ref o), (1, .int a0), (2, .int a1), (3, .int a2), (4, .int t5.1), (5, .int t5.2)] → W p l e R s m args below meth c H locs cells slots Q (F0 m 26 ls [])) (fun t5 x6 hit hC5 hE5 H locs cells slots ls hA hl => ?_) _ hit _ _ _ _ _ hA (lv_sub hl [2, 3, 4, 5, 1, 0] rfl)
  unfold C1_company_L26 at hit
  refine lv_iload hx hb dX1_company_26 (lv_at hl 5 rfl) ?_
  refine lv_iload_n hx hb dX1_company_28 rfl (lv_at hl 3 rfl) ?_
  refine b_icmp_ge (tgt := 80) hx hb dX1_company_29 (by decide) hit (fun c7 hit => ?_) (fun c7 hit => ?_)
  · refine lv_iload hx hb dX1_company_80 (lv_at hl 4 rfl) ?_
    have he := o_in hit
    have he := hE5 _ he
    exact hend (some (.int t5.1)) q4 _ _ _ _ _ _ _ _ (kOut_i rfl) (by subst he; rfl) hA dX1_company_82
  · refine lv_aload_n hx hb dX1_company_32 rfl (lv_at hl 0 rfl) ?_
    obtain ⟨v8, ev8, hit⟩ := o_bind hit
    refine c_getR X hA.1.1 kc_TwinInk 1 q277 (Or.inl rfl) rfl rfl ev8 dX1_company_33 ?_
    refine lv_iload_n hx hb dX1_company_36 rfl (lv_at hl 1 rfl) ?_
    refine lv_aload_n hx hb dX1_company_37 rfl (lv_at hl 0 rfl) ?_
    obtain ⟨v9, ev9, hit⟩ := o_bind hit
    refine c_getR X hA.1.1 kc_TwinInk 2 q278 (Or.inl rfl) rfl rfl ev9 dX1_company_38 ?_
    obtain ⟨v10, ev10, hit⟩ := o_bind hit
    refine c_getNI X hA.1.1 kc_Service 4 q257 (Or.inl rfl) rfl rfl ev10 dX1_company_41 ?_
    refine lv_iload hx hb dX1_company_44 (lv_at hl 5 rfl) ?_
    refine lv_iadd hx hb dX1_company_46 ?_
    obtain ⟨q11, eq11, hit⟩ := o_bind hit
    obtain ⟨iq11, eq11⟩ := vc_inv eq11
    refine c_cR X hA.1.1 (fun U hU hW => hA.D X.2.1 X.2.2 h0H hU hW) kc_Office (wC2_town l γ X.2.1 _ _ _ _ _ eq11) iq11 nm_X2_town q1579 q474 q136 q476 q475 ⟨Nat.le_trans (Nat.le_of_ble_eq_true rfl) hR.1, Nat.le_trans (Nat.le_of_ble_eq_true rfl) hR.2⟩ hA.RR rfl rfl hl.1 (lv_room (Nat.le_of_ble_eq_true rfl)) dX1_company_47 ?_
    refine lv_aload_n hx hb dX1_company_50 rfl (lv_at hl 0 rfl) ?_
    obtain ⟨v12, ev12, hit⟩ := o_bind hit
    refine c_getR X hA.1.1 kc_TwinInk 1 q277 (Or.inl rfl) rfl rfl ev12 dX1_company_51 ?_
    refine lv_iload_n hx hb dX1_company_54 rfl (lv_at hl 2 rfl) ?_
    refine lv_aload_n hx hb dX1_company_55 rfl (lv_at hl 0 rfl) ?_
    obtain ⟨v13, ev13, hit⟩ := o_bind hit
    refine c_getR X hA.1.1 kc_TwinInk 2 q278 (Or.inl rfl) rfl rfl ev13 dX1_company_56 ?_
    obtain ⟨v14, ev14, hit⟩ := o_bind hit
    refine c_getNI X hA.1.1 kc_Service 4 q257 (Or.inl rfl) rfl rfl ev14 dX1_company_59 ?_
    refine lv_iload hx hb dX1_company_62 (lv_at hl 5 rfl) ?_
    refine lv_iadd hx hb dX1_company_64 ?_
    obtain ⟨q15, eq15, hit⟩ := o_bind hit
    obtain ⟨iq15, eq15⟩ := vc_inv eq15
    refine c_cR X hA.1.1 (fun U hU hW => hA.D X.2.1 X.2.2 h0H hU hW) kc_Office (wC2_town l γ X.2.1 _ _ _ _ _ eq15) iq15 nm_X2_town q1579 q474 q136 q476 q475 ⟨Nat.le_trans (Nat.le_of_ble_eq_true rfl) hR.1, Nat.le_trans (Nat.le_of_ble_eq_true rfl) hR.2⟩ hA.RR rfl rfl hl.1 (lv_room (Nat.le_of_ble_eq_true rfl)) dX1_company_65 ?_
    obtain ⟨wr16, er16, hxr16⟩ := xg_bind hit
    have hr16 : ∀ (r16 : Int32), wr16 = .inl r16 → ∀ (H : Heap) (locs : List Loc) (cells slots : Nat) (ls : Array Slot), AI γ (h, r) s R q4.1 q4.2 H locs cells slots → lv_has ls 6 [(0, .ref o), (1, .int a0), (2, .int a1), (3, .int a2), (5, .int t5.2), (4, .int r16)] → W p l e R s m args below meth c H locs cells slots Q (F0 m 74 ls []) := by
      intro r16 hw_ H locs cells slots ls hA hl
      have hit := xk_l hxr16 hw_
      refine lv_iinc (k := 4) (v := (t5.2 + 1)) (lv' := [(5, .int (t5.2 + 1)), (0, .ref o), (1, .int a0), (2, .int a1), (3, .int a2), (4, .int r16)]) hx hb dX1_company_74 hl rfl rfl (by decide) rfl (fun ls hl => ?_)
      refine lv_goto (tgt := 26) hx hb dX1_company_77 (by decide) ?_
      have he := o_in hit
      exact hC5 _ he _ _ _ _ _ hA (lv_sub hl [1, 2, 3, 4, 5, 0] rfl)
    have hit := er16
    refine b_icmp_ne (tgt := 74) hx hb dX1_company_68 (by decide) hit (fun c17 hit => ?_) (fun c17 hit => ?_)
    · have he := o_in hit
      exact hr16 _ he.symm _ _ _ _ _ hA (lv_sub hl [0, 1, 2, 3, 5, 4] rfl)
    · refine lv_iinc (k := 4) (v := (t5.1 + 1)) (lv' := [(4, .int (t5.1 + 1)), (0, .ref o), (1, .int a0), (2, .int a1), (3, .int a2), (5, .int t5.2)]) hx hb dX1_company_71 hl rfl rfl (by decide) rfl (fun ls hl => ?_)
      have he := o_in hit
      exact hr16 _ he.symm _ _ _ _ _ hA (lv_sub hl [1, 2, 3, 4, 5, 0] rfl)
noncomputable def C1_together_L25 (o : Nat) (a0 : Int32) (t3 : Int32 × CS) (t7 : Int32 × CS) : Option ((Int32 × CS) ⊕ ((Int32 × CS) ⊕ ((Int32 × CS) ⊕ XT))) :=
  (gR t7.2.1 o 1 1).bind fun v9 =>
  (vc t7.2.1 v9 2 (C2_clerks t7.2.1 v9)).bind fun q10 =>
  if t7.1 < q10 then
    ((gR t7.2.1 o 1 1).bind fun v12 =>
    (gR t7.2.1 o 1 2).bind fun v13 =>
    (gI t7.2.1 v13 3 4).bind fun v14 =>
    (vc t7.2.1 v12 2 (C2_town t7.2.1 v12 t7.1 (v14 + t3.1))).bind fun q15 =>
    (aI t7.2.1 t3.2.2.1 0 q15).bind fun v16 =>
    (sI t7.2.1 t3.2.2.1 0 q15 (v16 + 1)).bind fun s17 =>
    (aI s17 t3.2.2.1 0 q15).bind fun v18 =>
    if v18 = a0 then
      (some (.inr (.inr (.inl (t3.1, (s17, t7.2.2))))))
    else
      (some (.inl ((t7.1 + 1), (s17, t7.2.2)))))
  else
    (some (.inr (.inl ((t3.1 + 1), t7.2))))
noncomputable def C1_together_L12 (o : Nat) (a0 : Int32) (t3 : Int32 × CS) : Option ((Int32 × CS) ⊕ ((Int32 × CS) ⊕ XT)) :=
  if t3.1 ≤ 60 then
    ((aArr t3.2.1 t3.2.2 0 4).bind fun s6 =>
    o_loop (C1_together_L25 o a0 t3) (0, s6))
  else
    (some (.inr (.inl ((-1), t3.2))))
noncomputable def C1_together (h : CH) (r : CR) (o : Nat) (a0 : Int32) : Option ((Int32 × CS) ⊕ XT) :=
  (C1_in a0 1 6).bind fun q1 =>
  xg Sum.inr (xchv r (C1_right h r q1)) fun q2 =>
  o_loop (C1_together_L12 o a0) (0, q2)
theorem nm_X1_together : kNm yX1_together RX1 1 := by unfold kNm; decide +kernel
set_option maxHeartbeats 4000000 in
set_option maxRecDepth 100000 in
theorem wC1_together (l : Launch) (hT : l.stackTraces = false) (γ : KG) (hO : kOK γ) (h : CH) (r : CR) (o : Nat) (a0 : Int32) (z : (Int32 × CS) ⊕ XT) (hz : C1_together h r o a0 = some z) : xMet l yX1_together (ws_ yX1_together cX1_together 6 (some .int)) 7 120 γ (h, r) [.ref o, .int a0] (xI z) := by
  refine x_start (cc := cX1_together) (own := RX1) hO rfl rfl rfl (fun p e R s m args below meth c Q ls X hR hnm h0H hA hl hend hthr hdir => ?_)
  have hx := X.1.1
  have hb := X.1.2.1
  have hit := hz
  clear hz
  unfold C1_together at hit
  have hl : lv_has ls 6 [(0, .ref o), (1, .int a0)] := hl
  refine lv_iload_n hx hb dX1_together_0 rfl (lv_at hl 1 rfl) ?_
  refine lv_iconst (v := 1) hx hb dX1_together_1 (by decide) ?_
  refine lv_bipush (v := 6) hx hb dX1_together_2 (by decide) ?_
  obtain ⟨q1, eq1, hit⟩ := o_bind hit
  refine c_cP X.1 (wC1_in l _ _ _ _ eq1) nm_X1_in q333 q334 q135 q335 ⟨Nat.le_trans (Nat.le_of_ble_eq_true rfl) hR.1, Nat.le_trans (Nat.le_of_ble_eq_true rfl) hR.2⟩ hA.RR rfl rfl hl.1 (lv_room (Nat.le_of_ble_eq_true rfl)) dX1_together_4 ?_
  rcases xg_inv hit with ⟨q2, eq2, hit⟩ | ⟨x_q2, eq2, he⟩
  rotate_left
  · obtain ⟨eq2, lq2⟩ := xchv_r eq2
    refine t_cS X h0H hA nm_X1_right q691 q692 q135 q693 (xMet.tv (wC1_right l hT γ X.2.1 _ _ _ _ eq2)) lq2 ⟨Nat.le_trans (Nat.le_of_ble_eq_true rfl) hR.1, Nat.le_trans (Nat.le_of_ble_eq_true rfl) hR.2⟩ rfl rfl hl.1 (lv_room (Nat.le_of_ble_eq_true rfl)) dX1_together_7 (fun H locs cells slots q_ hA hq => ?_)
    exact hthr _ _ _ _ _ _ _ _ _ (by subst he; rfl) hA hq
  obtain ⟨eq2, lq2⟩ := xchv_l eq2
  refine a_cS X h0H hA nm_X1_right q691 q692 q135 q693 (xMet.v (wC1_right l hT γ X.2.1 _ _ _ _ eq2)) lq2 ⟨Nat.le_trans (Nat.le_of_ble_eq_true rfl) hR.1, Nat.le_trans (Nat.le_of_ble_eq_true rfl) hR.2⟩ rfl rfl hl.1 (lv_room (Nat.le_of_ble_eq_true rfl)) dX1_together_7 (fun H locs cells slots hA => ?_)
  refine lv_iconst (v := 0) hx hb dX1_together_10 (by decide) ?_
  refine lv_istore_n (lv' := [(2, .int 0), (0, .ref o), (1, .int a0)]) hx hb dX1_together_11 rfl hl (by decide) rfl (fun ls hl => ?_)
  refine o_rec (P := fun t3 => ∀ (H : Heap) (locs : List Loc) (cells slots : Nat) (ls : Array Slot), AI γ (h, r) s R t3.2.1 t3.2.2 H locs cells slots → lv_has ls 6 [(0, .ref o), (1, .int a0), (2, .int t3.1)] → W p l e R s m args below meth c H locs cells slots Q (F0 m 12 ls [])) (fun t3 x4 hit hC3 hE3 H locs cells slots ls hA hl => ?_) _ hit _ _ _ _ _ hA (lv_sub hl [1, 2, 0] rfl)
  unfold C1_together_L12 at hit
  refine lv_iload_n hx hb dX1_together_12 rfl (lv_at hl 2 rfl) ?_
  refine lv_bipush (v := 60) hx hb dX1_together_13 (by decide) ?_
  refine b_icmp_gt (tgt := 87) hx hb dX1_together_15 (by decide) hit (fun c5 hit => ?_) (fun c5 hit => ?_)
  · refine lv_iconst (v := (-1)) hx hb dX1_together_87 (by decide) ?_
    have he := o_in hit
    have he := hE3 _ he
    exact hend (some (.int (-1))) t3.2 _ _ _ _ _ _ _ _ (kOut_i rfl) (by subst he; rfl) hA dX1_together_88
  · refine lv_iconst (v := 4) hx hb dX1_together_18 (by decide) ?_
    obtain ⟨s6, es6, hit⟩ := o_bind hit
    refine a_newI X hA es6 dX1_together_19 (fun H cells slots hA => ?_)
    refine lv_astore_n (lv' := [(3, .ref t3.2.2.1), (0, .ref o), (1, .int a0), (2, .int t3.1)]) hx hb dX1_together_21 rfl hl (by decide) rfl (fun ls hl => ?_)
    refine lv_iconst (v := 0) hx hb dX1_together_22 (by decide) ?_
    refine lv_istore (lv' := [(4, .int 0), (3, .ref t3.2.2.1), (0, .ref o), (1, .int a0), (2, .int t3.1)]) hx hb dX1_together_23 hl (by decide) rfl (fun ls hl => ?_)
    refine o_rec (P := fun t7 => ∀ (H : Heap) (locs : List Loc) (cells slots : Nat) (ls : Array Slot), AI γ (h, r) s R t7.2.1 t7.2.2 H locs cells slots → lv_has ls 6 [(3, .ref t3.2.2.1), (0, .ref o), (1, .int a0), (2, .int t3.1), (4, .int t7.1)] → W p l e R s m args below meth c H locs cells slots Q (F0 m 25 ls [])) (fun t7 x8 hit hC7 hE7 H locs cells slots ls hA hl => ?_) _ hit _ _ _ _ _ hA (lv_sub hl [1, 2, 3, 4, 0] rfl)
    unfold C1_together_L25 at hit
    refine lv_iload hx hb dX1_together_25 (lv_at hl 4 rfl) ?_
    refine lv_aload_n hx hb dX1_together_27 rfl (lv_at hl 1 rfl) ?_
    obtain ⟨v9, ev9, hit⟩ := o_bind hit
    refine c_getR X hA.1.1 kc_TwinInk 1 q277 (Or.inl rfl) rfl rfl ev9 dX1_together_28 ?_
    obtain ⟨q10, eq10, hit⟩ := o_bind hit
    obtain ⟨iq10, eq10⟩ := vc_inv eq10
    refine c_cR X hA.1.1 (fun U hU hW => hA.D X.2.1 X.2.2 h0H hU hW) kc_Office (wC2_clerks l γ X.2.1 _ _  _ eq10) iq10 nm_X2_clerks q1231 q464 q136 q466 q465 ⟨Nat.le_trans (Nat.le_of_ble_eq_true rfl) hR.1, Nat.le_trans (Nat.le_of_ble_eq_true rfl) hR.2⟩ hA.RR rfl rfl hl.1 (lv_room (Nat.le_of_ble_eq_true rfl)) dX1_together_31 ?_
    refine b_icmp_ge (tgt := 81) hx hb dX1_together_34 (by decide) hit (fun c11 hit => ?_) (fun c11 hit => ?_)
    · refine lv_iinc (k := 3) (v := (t3.1 + 1)) (lv' := [(2, .int (t3.1 + 1)), (3, .ref t3.2.2.1), (0, .ref o), (1, .int a0), (4, .int t7.1)]) hx hb dX1_together_81 hl rfl rfl (by decide) rfl (fun ls hl => ?_)
      refine lv_goto (tgt := 12) hx hb dX1_together_84 (by decide) ?_
      have he := o_in hit
      have he := hE7 _ he
      exact hC3 _ he _ _ _ _ _ hA (lv_sub hl [2, 3, 0] rfl)
    · refine lv_aload_n hx hb dX1_together_37 rfl (lv_at hl 1 rfl) ?_
      obtain ⟨v12, ev12, hit⟩ := o_bind hit
      refine c_getR X hA.1.1 kc_TwinInk 1 q277 (Or.inl rfl) rfl rfl ev12 dX1_together_38 ?_
      refine lv_iload hx hb dX1_together_41 (lv_at hl 4 rfl) ?_
      refine lv_aload_n hx hb dX1_together_43 rfl (lv_at hl 1 rfl) ?_
      obtain ⟨v13, ev13, hit⟩ := o_bind hit
      refine c_getR X hA.1.1 kc_TwinInk 2 q278 (Or.inl rfl) rfl rfl ev13 dX1_together_44 ?_
      obtain ⟨v14, ev14, hit⟩ := o_bind hit
      refine c_getNI X hA.1.1 kc_Service 4 q257 (Or.inl rfl) rfl rfl ev14 dX1_together_47 ?_
      refine lv_iload_n hx hb dX1_together_50 rfl (lv_at hl 3 rfl) ?_
      refine lv_iadd hx hb dX1_together_51 ?_
      obtain ⟨q15, eq15, hit⟩ := o_bind hit
      obtain ⟨iq15, eq15⟩ := vc_inv eq15
      refine c_cR X hA.1.1 (fun U hU hW => hA.D X.2.1 X.2.2 h0H hU hW) kc_Office (wC2_town l γ X.2.1 _ _ _ _ _ eq15) iq15 nm_X2_town q1579 q474 q136 q476 q475 ⟨Nat.le_trans (Nat.le_of_ble_eq_true rfl) hR.1, Nat.le_trans (Nat.le_of_ble_eq_true rfl) hR.2⟩ hA.RR rfl rfl hl.1 (lv_room (Nat.le_of_ble_eq_true rfl)) dX1_together_52 ?_
      refine lv_istore (lv' := [(5, .int q15), (3, .ref t3.2.2.1), (0, .ref o), (1, .int a0), (2, .int t3.1), (4, .int t7.1)]) hx hb dX1_together_55 hl (by decide) rfl (fun ls hl => ?_)
      refine lv_aload_n hx hb dX1_together_57 rfl (lv_at hl 1 rfl) ?_
      refine lv_iload hx hb dX1_together_58 (lv_at hl 0 rfl) ?_
      refine lv_dup2_11 hx hb dX1_together_60 rfl rfl ?_
      obtain ⟨v16, ev16, hit⟩ := o_bind hit
      refine c_iald X hA.1.1 ev16 dX1_together_61 ?_
      refine lv_iconst (v := 1) hx hb dX1_together_62 (by decide) ?_
      refine lv_iadd hx hb dX1_together_63 ?_
      obtain ⟨s17, es17, hit⟩ := o_bind hit
      refine c_iast X hA.1 es17 dX1_together_64 (fun H locs hI => ?_)
      replace hA := hA.up hI
      clear hI
      refine lv_aload_n hx hb dX1_together_65 rfl (lv_at hl 1 rfl) ?_
      refine lv_iload hx hb dX1_together_66 (lv_at hl 0 rfl) ?_
      obtain ⟨v18, ev18, hit⟩ := o_bind hit
      refine c_iald X hA.1.1 ev18 dX1_together_68 ?_
      refine lv_iload_n hx hb dX1_together_69 rfl (lv_at hl 3 rfl) ?_
      refine b_icmp_ne (tgt := 75) hx hb dX1_together_70 (by decide) hit (fun c19 hit => ?_) (fun c19 hit => ?_)
      · refine lv_iinc (k := 5) (v := (t7.1 + 1)) (lv' := [(4, .int (t7.1 + 1)), (5, .int q15), (3, .ref t3.2.2.1), (0, .ref o), (1, .int a0), (2, .int t3.1)]) hx hb dX1_together_75 hl rfl rfl (by decide) rfl (fun ls hl => ?_)
        refine lv_goto (tgt := 25) hx hb dX1_together_78 (by decide) ?_
        have he := o_in hit
        exact hC7 _ he _ _ _ _ _ hA (lv_sub hl [2, 3, 4, 5, 0] rfl)
      · refine lv_iload_n hx hb dX1_together_73 rfl (lv_at hl 4 rfl) ?_
        have he := o_in hit
        have he := hE7 _ he
        have he := hE3 _ he
        exact hend (some (.int t3.1)) (s17, t7.2.2) _ _ _ _ _ _ _ _ (kOut_i rfl) (by subst he; rfl) hA dX1_together_74
noncomputable def C1_odd (h : CH) (r : CR) (o : Nat) (a0 : Int32) : Option ((Int32 × CS) ⊕ XT) :=
  xg Sum.inr (xchv r (C1_oneOf h r a0 3)) fun q1 =>
  if a0 = 0 then
    ((vc q1.1 o 1 (C1_orphans q1.1 o)).bind fun q14 =>
    some (.inl (q14, q1)))
  else
    (if a0 = 3 then
      ((vc q1.1 o 1 (C1_strangers q1.1 o)).bind fun q13 =>
      some (.inl (q13, q1)))
    else
      ((gR q1.1 o 1 2).bind fun v4 =>
      (vc q1.1 v4 3 (C3_burnt q1.1 v4)).bind fun q5 =>
      (vc q1.1 o 1 (C1_dead q1.1 o q5)).bind fun q6 =>
      if a0 = 1 then
        (some (.inl (q6, q1)))
      else
        ((gR q1.1 o 1 1).bind fun v8 =>
        (gR q1.1 v8 2 0).bind fun v9 =>
        (vc q1.1 v9 10 (CJ2_size q1.1 v9)).bind fun q10 =>
        (gR q1.1 o 1 2).bind fun v11 =>
        (vc q1.1 v11 3 (C3_readOf q1.1 v11 511)).bind fun q12 =>
        some (.inl ((((((1 : Int32) <<< (q10 &&& 31)) - 1) &&& (q6 ^^^ (-1))) &&& (q12 ^^^ (-1))), q1)))))
theorem nm_X1_odd : kNm yX1_odd RX1 1 := by unfold kNm; decide +kernel
set_option maxHeartbeats 4000000 in
set_option maxRecDepth 100000 in
theorem wC1_odd (l : Launch) (hT : l.stackTraces = false) (γ : KG) (hO : kOK γ) (h : CH) (r : CR) (o : Nat) (a0 : Int32) (z : (Int32 × CS) ⊕ XT) (hz : C1_odd h r o a0 = some z) : xMet l yX1_odd (ws_ yX1_odd cX1_odd 3 (some .int)) 8 141 γ (h, r) [.ref o, .int a0] (xI z) := by
  refine x_start (cc := cX1_odd) (own := RX1) hO rfl rfl rfl (fun p e R s m args below meth c Q ls X hR hnm h0H hA hl hend hthr hdir => ?_)
  have hx := X.1.1
  have hb := X.1.2.1
  have hit := hz
  clear hz
  unfold C1_odd at hit
  have hl : lv_has ls 3 [(0, .ref o), (1, .int a0)] := hl
  refine lv_iload_n hx hb dX1_odd_0 rfl (lv_at hl 1 rfl) ?_
  refine lv_iconst (v := 3) hx hb dX1_odd_1 (by decide) ?_
  rcases xg_inv hit with ⟨q1, eq1, hit⟩ | ⟨x_q1, eq1, he⟩
  rotate_left
  · obtain ⟨eq1, lq1⟩ := xchv_r eq1
    refine t_cS X h0H hA nm_X1_oneOf q1283 q1284 q135 q1285 (xMet.tv (wC1_oneOf l hT γ X.2.1 _ _ _ _ _ eq1)) lq1 ⟨Nat.le_trans (Nat.le_of_ble_eq_true rfl) hR.1, Nat.le_trans (Nat.le_of_ble_eq_true rfl) hR.2⟩ rfl rfl hl.1 (lv_room (Nat.le_of_ble_eq_true rfl)) dX1_odd_2 (fun H locs cells slots q_ hA hq => ?_)
    exact hthr _ _ _ _ _ _ _ _ _ (by subst he; rfl) hA hq
  obtain ⟨eq1, lq1⟩ := xchv_l eq1
  refine a_cS X h0H hA nm_X1_oneOf q1283 q1284 q135 q1285 (xMet.v (wC1_oneOf l hT γ X.2.1 _ _ _ _ _ eq1)) lq1 ⟨Nat.le_trans (Nat.le_of_ble_eq_true rfl) hR.1, Nat.le_trans (Nat.le_of_ble_eq_true rfl) hR.2⟩ rfl rfl hl.1 (lv_room (Nat.le_of_ble_eq_true rfl)) dX1_odd_2 (fun H locs cells slots hA => ?_)
  refine lv_iload_n hx hb dX1_odd_5 rfl (lv_at hl 1 rfl) ?_
  refine b_if_ne (tgt := 14) hx hb dX1_odd_6 (by decide) hit (fun c2 hit => ?_) (fun c2 hit => ?_)
  · refine lv_iload_n hx hb dX1_odd_14 rfl (lv_at hl 1 rfl) ?_
    refine lv_iconst (v := 3) hx hb dX1_odd_15 (by decide) ?_
    refine b_icmp_ne (tgt := 24) hx hb dX1_odd_16 (by decide) hit (fun c3 hit => ?_) (fun c3 hit => ?_)
    · refine lv_aload_n hx hb dX1_odd_24 rfl (lv_at hl 0 rfl) ?_
      refine lv_aload_n hx hb dX1_odd_25 rfl (lv_at hl 0 rfl) ?_
      obtain ⟨v4, ev4, hit⟩ := o_bind hit
      refine c_getR X hA.1.1 kc_TwinInk 2 q278 (Or.inl rfl) rfl rfl ev4 dX1_odd_26 ?_
      obtain ⟨q5, eq5, hit⟩ := o_bind hit
      obtain ⟨iq5, eq5⟩ := vc_inv eq5
      refine c_cR X hA.1.1 (fun U hU hW => hA.D X.2.1 X.2.2 h0H hU hW) kc_Service (wC3_burnt l γ X.2.1 _ _  _ eq5) iq5 nm_X3_burnt q1232 q1233 q140 q1235 q1234 ⟨Nat.le_trans (Nat.le_of_ble_eq_true rfl) hR.1, Nat.le_trans (Nat.le_of_ble_eq_true rfl) hR.2⟩ hA.RR rfl rfl hl.1 (lv_room (Nat.le_of_ble_eq_true rfl)) dX1_odd_29 ?_
      obtain ⟨q6, eq6, hit⟩ := o_bind hit
      obtain ⟨iq6, eq6⟩ := vc_inv eq6
      refine c_cR X hA.1.1 (fun U hU hW => hA.D X.2.1 X.2.2 h0H hU hW) kc_TwinInk (wC1_dead l γ X.2.1 _ _ _ _ eq6) iq6 nm_X1_dead q1349 q1351 q135 q1352 qs42 ⟨Nat.le_trans (Nat.le_of_ble_eq_true rfl) hR.1, Nat.le_trans (Nat.le_of_ble_eq_true rfl) hR.2⟩ hA.RR rfl rfl hl.1 (lv_room (Nat.le_of_ble_eq_true rfl)) dX1_odd_32 ?_
      refine lv_istore_n (lv' := [(2, .int q6), (0, .ref o), (1, .int a0)]) hx hb dX1_odd_35 rfl hl (by decide) rfl (fun ls hl => ?_)
      refine lv_iload_n hx hb dX1_odd_36 rfl (lv_at hl 2 rfl) ?_
      refine lv_iconst (v := 1) hx hb dX1_odd_37 (by decide) ?_
      refine b_icmp_ne (tgt := 45) hx hb dX1_odd_38 (by decide) hit (fun c7 hit => ?_) (fun c7 hit => ?_)
      · refine lv_iconst (v := 1) hx hb dX1_odd_45 (by decide) ?_
        refine lv_aload_n hx hb dX1_odd_46 rfl (lv_at hl 1 rfl) ?_
        obtain ⟨v8, ev8, hit⟩ := o_bind hit
        refine c_getR X hA.1.1 kc_TwinInk 1 q277 (Or.inl rfl) rfl rfl ev8 dX1_odd_47 ?_
        obtain ⟨v9, ev9, hit⟩ := o_bind hit
        refine c_getNR X hA.1.1 kc_Office 0 q210 (Or.inl rfl) rfl rfl ev9 dX1_odd_50 ?_
        obtain ⟨q10, eq10, hit⟩ := o_bind hit
        obtain ⟨iq10, eq10⟩ := vc_inv eq10
        refine c_cRF X hA.1.1 (fun U hU hW => hA.D X.2.1 X.2.2 h0H hU hW) kc_ArrayList (wCJ2_size l γ X.2.1 _ _  _ eq10) iq10 nmi_List_size q423 q428 q139 q430 q426 q425 q424 q429 q427 q358 ⟨Nat.le_trans (Nat.le_of_ble_eq_true rfl) hR.1, Nat.le_trans (Nat.le_of_ble_eq_true rfl) hR.2⟩ hA.RR rfl rfl hl.1 (lv_room (Nat.le_of_ble_eq_true rfl)) dX1_odd_53 ?_
        refine lv_ishl hx hb dX1_odd_58 ?_
        refine lv_iconst (v := 1) hx hb dX1_odd_59 (by decide) ?_
        refine lv_isub hx hb dX1_odd_60 ?_
        refine lv_iload_n hx hb dX1_odd_61 rfl (lv_at hl 0 rfl) ?_
        refine lv_iconst (v := (-1)) hx hb dX1_odd_62 (by decide) ?_
        refine lv_ixor hx hb dX1_odd_63 ?_
        refine lv_iand hx hb dX1_odd_64 ?_
        refine lv_aload_n hx hb dX1_odd_65 rfl (lv_at hl 1 rfl) ?_
        obtain ⟨v11, ev11, hit⟩ := o_bind hit
        refine c_getR X hA.1.1 kc_TwinInk 2 q278 (Or.inl rfl) rfl rfl ev11 dX1_odd_66 ?_
        refine lv_sipush (v := 511) hx hb dX1_odd_69 (by decide) ?_
        obtain ⟨q12, eq12, hit⟩ := o_bind hit
        obtain ⟨iq12, eq12⟩ := vc_inv eq12
        refine c_cR X hA.1.1 (fun U hU hW => hA.D X.2.1 X.2.2 h0H hU hW) kc_Service (wC3_readOf l γ X.2.1 _ _ _ _ eq12) iq12 nm_X3_readOf q1548 q593 q140 q595 q594 ⟨Nat.le_trans (Nat.le_of_ble_eq_true rfl) hR.1, Nat.le_trans (Nat.le_of_ble_eq_true rfl) hR.2⟩ hA.RR rfl rfl hl.1 (lv_room (Nat.le_of_ble_eq_true rfl)) dX1_odd_72 ?_
        refine lv_iconst (v := (-1)) hx hb dX1_odd_75 (by decide) ?_
        refine lv_ixor hx hb dX1_odd_76 ?_
        refine lv_iand hx hb dX1_odd_77 ?_
        have he := o_in hit
        exact hend (some (.int (((((1 : Int32) <<< (q10 &&& 31)) - 1) &&& (q6 ^^^ (-1))) &&& (q12 ^^^ (-1))))) q1 _ _ _ _ _ _ _ _ (kOut_i rfl) (by subst he; rfl) hA dX1_odd_78
      · refine lv_iload_n hx hb dX1_odd_41 rfl (lv_at hl 0 rfl) ?_
        refine lv_goto (tgt := 78) hx hb dX1_odd_42 (by decide) ?_
        have he := o_in hit
        exact hend (some (.int q6)) q1 _ _ _ _ _ _ _ _ (kOut_i rfl) (by subst he; rfl) hA dX1_odd_78
    · refine lv_aload_n hx hb dX1_odd_19 rfl (lv_at hl 0 rfl) ?_
      obtain ⟨q13, eq13, hit⟩ := o_bind hit
      obtain ⟨iq13, eq13⟩ := vc_inv eq13
      refine c_cR X hA.1.1 (fun U hU hW => hA.D X.2.1 X.2.2 h0H hU hW) kc_TwinInk (wC1_strangers l γ X.2.1 _ _  _ eq13) iq13 nm_X1_strangers q1598 q1600 q135 q1601 qs54 ⟨Nat.le_trans (Nat.le_of_ble_eq_true rfl) hR.1, Nat.le_trans (Nat.le_of_ble_eq_true rfl) hR.2⟩ hA.RR rfl rfl hl.1 (lv_room (Nat.le_of_ble_eq_true rfl)) dX1_odd_20 ?_
      have he := o_in hit
      exact hend (some (.int q13)) q1 _ _ _ _ _ _ _ _ (kOut_i rfl) (by subst he; rfl) hA dX1_odd_23
  · refine lv_aload_n hx hb dX1_odd_9 rfl (lv_at hl 0 rfl) ?_
    obtain ⟨q14, eq14, hit⟩ := o_bind hit
    obtain ⟨iq14, eq14⟩ := vc_inv eq14
    refine c_cR X hA.1.1 (fun U hU hW => hA.D X.2.1 X.2.2 h0H hU hW) kc_TwinInk (wC1_orphans l γ X.2.1 _ _  _ eq14) iq14 nm_X1_orphans q1594 q1596 q135 q1597 qs53 ⟨Nat.le_trans (Nat.le_of_ble_eq_true rfl) hR.1, Nat.le_trans (Nat.le_of_ble_eq_true rfl) hR.2⟩ hA.RR rfl rfl hl.1 (lv_room (Nat.le_of_ble_eq_true rfl)) dX1_odd_10 ?_
    have he := o_in hit
    exact hend (some (.int q14)) q1 _ _ _ _ _ _ _ _ (kOut_i rfl) (by subst he; rfl) hA dX1_odd_13
noncomputable def C1_unread (K : Nat → Nat) (h : CH) (r : CR) (o : Nat) (a0 : Int32) : Option ((Int32 × CS) ⊕ XT) :=
  (C1_in a0 0 40).bind fun q1 =>
  xg Sum.inr (xchv r (C1_right h r q1)) fun q2 =>
  (gR q2.1 o 1 1).bind fun v3 =>
  (gR q2.1 v3 2 0).bind fun v4 =>
  (vc q2.1 v4 10 (CJ2_size q2.1 v4)).bind fun q5 =>
  (vc q2.1 o 1 (C1_later K q2.1 o a0)).bind fun q6 =>
  (vc q6.2 q6.1 3 (C3_read q6.2 q6.1)).bind fun q7 =>
  (CJ19_bitCount q7).bind fun q8 =>
  some (.inl ((q5 - q8), (q6.2, q2.2)))
theorem nm_X1_unread : kNm yX1_unread RX1 1 := by unfold kNm; decide +kernel
set_option maxHeartbeats 4000000 in
set_option maxRecDepth 100000 in
theorem wC1_unread (l : Launch) (hT : l.stackTraces = false) (γ : KG) (hO : kOK γ) (h : CH) (r : CR) (o : Nat) (a0 : Int32) (z : (Int32 × CS) ⊕ XT) (hz : C1_unread γ.2.2.2.2.2 h r o a0 = some z) : xMet l yX1_unread (ws_ yX1_unread cX1_unread 2 (some .int)) 815 20411 γ (h, r) [.ref o, .int a0] (xI z) := by
  refine x_start (cc := cX1_unread) (own := RX1) hO rfl rfl rfl (fun p e R s m args below meth c Q ls X hR hnm h0H hA hl hend hthr hdir => ?_)
  have hx := X.1.1
  have hb := X.1.2.1
  have hit := hz
  clear hz
  unfold C1_unread at hit
  have hl : lv_has ls 2 [(0, .ref o), (1, .int a0)] := hl
  refine lv_iload_n hx hb dX1_unread_0 rfl (lv_at hl 1 rfl) ?_
  refine lv_iconst (v := 0) hx hb dX1_unread_1 (by decide) ?_
  refine lv_bipush (v := 40) hx hb dX1_unread_2 (by decide) ?_
  obtain ⟨q1, eq1, hit⟩ := o_bind hit
  refine c_cP X.1 (wC1_in l _ _ _ _ eq1) nm_X1_in q333 q334 q135 q335 ⟨Nat.le_trans (Nat.le_of_ble_eq_true rfl) hR.1, Nat.le_trans (Nat.le_of_ble_eq_true rfl) hR.2⟩ hA.RR rfl rfl hl.1 (lv_room (Nat.le_of_ble_eq_true rfl)) dX1_unread_4 ?_
  rcases xg_inv hit with ⟨q2, eq2, hit⟩ | ⟨x_q2, eq2, he⟩
  rotate_left
  · obtain ⟨eq2, lq2⟩ := xchv_r eq2
    refine t_cS X h0H hA nm_X1_right q691 q692 q135 q693 (xMet.tv (wC1_right l hT γ X.2.1 _ _ _ _ eq2)) lq2 ⟨Nat.le_trans (Nat.le_of_ble_eq_true rfl) hR.1, Nat.le_trans (Nat.le_of_ble_eq_true rfl) hR.2⟩ rfl rfl hl.1 (lv_room (Nat.le_of_ble_eq_true rfl)) dX1_unread_7 (fun H locs cells slots q_ hA hq => ?_)
    exact hthr _ _ _ _ _ _ _ _ _ (by subst he; rfl) hA hq
  obtain ⟨eq2, lq2⟩ := xchv_l eq2
  refine a_cS X h0H hA nm_X1_right q691 q692 q135 q693 (xMet.v (wC1_right l hT γ X.2.1 _ _ _ _ eq2)) lq2 ⟨Nat.le_trans (Nat.le_of_ble_eq_true rfl) hR.1, Nat.le_trans (Nat.le_of_ble_eq_true rfl) hR.2⟩ rfl rfl hl.1 (lv_room (Nat.le_of_ble_eq_true rfl)) dX1_unread_7 (fun H locs cells slots hA => ?_)
  refine lv_aload_n hx hb dX1_unread_10 rfl (lv_at hl 0 rfl) ?_
  obtain ⟨v3, ev3, hit⟩ := o_bind hit
  refine c_getR X hA.1.1 kc_TwinInk 1 q277 (Or.inl rfl) rfl rfl ev3 dX1_unread_11 ?_
  obtain ⟨v4, ev4, hit⟩ := o_bind hit
  refine c_getNR X hA.1.1 kc_Office 0 q210 (Or.inl rfl) rfl rfl ev4 dX1_unread_14 ?_
  obtain ⟨q5, eq5, hit⟩ := o_bind hit
  obtain ⟨iq5, eq5⟩ := vc_inv eq5
  refine c_cRF X hA.1.1 (fun U hU hW => hA.D X.2.1 X.2.2 h0H hU hW) kc_ArrayList (wCJ2_size l γ X.2.1 _ _  _ eq5) iq5 nmi_List_size q423 q428 q139 q430 q426 q425 q424 q429 q427 q358 ⟨Nat.le_trans (Nat.le_of_ble_eq_true rfl) hR.1, Nat.le_trans (Nat.le_of_ble_eq_true rfl) hR.2⟩ hA.RR rfl rfl hl.1 (lv_room (Nat.le_of_ble_eq_true rfl)) dX1_unread_17 ?_
  refine lv_aload_n hx hb dX1_unread_22 rfl (lv_at hl 0 rfl) ?_
  refine lv_iload_n hx hb dX1_unread_23 rfl (lv_at hl 1 rfl) ?_
  obtain ⟨q6, eq6, hit⟩ := o_bind hit
  obtain ⟨iq6, eq6⟩ := vc_inv eq6
  refine c_cN X (kA_F X.2.1 X.2.2 h0H) hA.1 kc_TwinInk (wC1_later l γ X.2.1 _ _ _ _ eq6) iq6 nm_X1_later q1402 q1404 q135 q1405 qs44 ⟨Nat.le_trans (Nat.le_of_ble_eq_true rfl) hR.1, Nat.le_trans (Nat.le_of_ble_eq_true rfl) hR.2⟩ hA.RR rfl rfl hl.1 (lv_room (Nat.le_of_ble_eq_true rfl)) dX1_unread_24 (fun H locs hI => ?_)
  replace hA := hA.up hI
  clear hI
  obtain ⟨q7, eq7, hit⟩ := o_bind hit
  obtain ⟨iq7, eq7⟩ := vc_inv eq7
  refine c_cR X hA.1.1 (fun U hU hW => hA.D X.2.1 X.2.2 h0H hU hW) kc_Service (wC3_read l γ X.2.1 _ _  _ eq7) iq7 nm_X3_read q1240 q1241 q140 q1243 q1242 ⟨Nat.le_trans (Nat.le_of_ble_eq_true rfl) hR.1, Nat.le_trans (Nat.le_of_ble_eq_true rfl) hR.2⟩ hA.RR rfl rfl hl.1 (lv_room (Nat.le_of_ble_eq_true rfl)) dX1_unread_27 ?_
  obtain ⟨q8, eq8, hit⟩ := o_bind hit
  refine c_cP X.1 (wCJ19_bitCount l _ _ eq8) nm_J19_bitCount q1458 q509 q165 q510 ⟨Nat.le_trans (Nat.le_of_ble_eq_true rfl) hR.1, Nat.le_trans (Nat.le_of_ble_eq_true rfl) hR.2⟩ hA.RR rfl rfl hl.1 (lv_room (Nat.le_of_ble_eq_true rfl)) dX1_unread_30 ?_
  refine lv_isub hx hb dX1_unread_33 ?_
  have he := o_in hit
  exact hend (some (.int (q5 - q8))) (q6.2, q2.2) _ _ _ _ _ _ _ _ (kOut_i rfl) (by subst he; rfl) hA dX1_unread_34
noncomputable def C1_heir_L12 (o : Nat) (a0 : Int32) (q1 : CS) (t2 : Int32 × Int32 × Int32) : Option ((Int32 × Int32 × Int32) ⊕ ((Int32 × CS) ⊕ XT)) :=
  (gR q1.1 o 1 1).bind fun v4 =>
  (vc q1.1 v4 2 (C2_clerks q1.1 v4)).bind fun q5 =>
  if t2.2.2 < q5 then
    ((gR q1.1 o 1 2).bind fun v7 =>
    (gR q1.1 v7 3 3).bind fun v8 =>
    (aI q1.1 v8 0 t2.2.2).bind fun v9 =>
    (gR q1.1 o 1 2).bind fun v10 =>
    (gR q1.1 v10 3 3).bind fun v11 =>
    (aI q1.1 v11 0 a0).bind fun v12 =>
    (CJ19_bitCount (v9 &&& v12)).bind fun q13 =>
    xg (fun e_ => .inr (.inr e_)) ((if t2.2.2 = a0 then
        (some (.inl (t2.1, t2.2.1)))
      else
        (if q13 ≤ t2.2.1 then
          (some (.inl (t2.1, t2.2.1)))
        else
          (some (.inl (t2.2.2, q13)))) : Option ((Int32 × Int32) ⊕ XT))) fun r14 =>
    some (.inl (r14.1, r14.2, (t2.2.2 + 1))))
  else
    (some (.inr (.inl (t2.1, q1))))
noncomputable def C1_heir (h : CH) (r : CR) (o : Nat) (a0 : Int32) : Option ((Int32 × CS) ⊕ XT) :=
  xg Sum.inr (vc h o 1 (xchv r (C1_aClerk h r o a0))) fun q1 =>
  o_loop (C1_heir_L12 o a0 q1) ((-1), (-1), 0)
theorem nm_X1_heir : kNm yX1_heir RX1 1 := by unfold kNm; decide +kernel
set_option maxHeartbeats 4000000 in
set_option maxRecDepth 100000 in
theorem wC1_heir (l : Launch) (hT : l.stackTraces = false) (γ : KG) (hO : kOK γ) (h : CH) (r : CR) (o : Nat) (a0 : Int32) (z : (Int32 × CS) ⊕ XT) (hz : C1_heir h r o a0 = some z) : xMet l yX1_heir (ws_ yX1_heir cX1_heir 6 (some .int)) 8 141 γ (h, r) [.ref o, .int a0] (xI z) := by
  refine x_start (cc := cX1_heir) (own := RX1) hO rfl rfl rfl (fun p e R s m args below meth c Q ls X hR hnm h0H hA hl hend hthr hdir => ?_)
  have hx := X.1.1
  have hb := X.1.2.1
  have hit := hz
  clear hz
  unfold C1_heir at hit
  have hl : lv_has ls 6 [(0, .ref o), (1, .int a0)] := hl
  refine lv_aload_n hx hb dX1_heir_0 rfl (lv_at hl 0 rfl) ?_
  refine lv_iload_n hx hb dX1_heir_1 rfl (lv_at hl 1 rfl) ?_
  rcases xg_inv hit with ⟨q1, eq1, hit⟩ | ⟨x_q1, eq1, he⟩
  rotate_left
  · obtain ⟨iq1, eq1⟩ := vc_inv eq1
    obtain ⟨eq1, lq1⟩ := xchv_r eq1
    refine t_cV X h0H hA kc_TwinInk (xMet.tv (wC1_aClerk l hT γ X.2.1 _ _ _ _ _ eq1)) lq1 iq1 nm_X1_aClerk q1299 q1301 q135 q1302 qs37 ⟨Nat.le_trans (Nat.le_of_ble_eq_true rfl) hR.1, Nat.le_trans (Nat.le_of_ble_eq_true rfl) hR.2⟩ rfl rfl hl.1 (lv_room (Nat.le_of_ble_eq_true rfl)) dX1_heir_2 (fun H locs cells slots q_ hA hq => ?_)
    exact hthr _ _ _ _ _ _ _ _ _ (by subst he; rfl) hA hq
  obtain ⟨iq1, eq1⟩ := vc_inv eq1
  obtain ⟨eq1, lq1⟩ := xchv_l eq1
  refine a_cV X h0H hA kc_TwinInk (xMet.v (wC1_aClerk l hT γ X.2.1 _ _ _ _ _ eq1)) lq1 iq1 nm_X1_aClerk q1299 q1301 q135 q1302 qs37 ⟨Nat.le_trans (Nat.le_of_ble_eq_true rfl) hR.1, Nat.le_trans (Nat.le_of_ble_eq_true rfl) hR.2⟩ rfl rfl hl.1 (lv_room (Nat.le_of_ble_eq_true rfl)) dX1_heir_2 (fun H locs cells slots hA => ?_)
  refine lv_iconst (v := (-1)) hx hb dX1_heir_5 (by decide) ?_
  refine lv_istore_n (lv' := [(2, .int (-1)), (0, .ref o), (1, .int a0)]) hx hb dX1_heir_6 rfl hl (by decide) rfl (fun ls hl => ?_)
  refine lv_iconst (v := (-1)) hx hb dX1_heir_7 (by decide) ?_
  refine lv_istore_n (lv' := [(3, .int (-1)), (2, .int (-1)), (0, .ref o), (1, .int a0)]) hx hb dX1_heir_8 rfl hl (by decide) rfl (fun ls hl => ?_)
  refine lv_iconst (v := 0) hx hb dX1_heir_9 (by decide) ?_
  refine lv_istore (lv' := [(4, .int 0), (3, .int (-1)), (2, .int (-1)), (0, .ref o), (1, .int a0)]) hx hb dX1_heir_10 hl (by decide) rfl (fun ls hl => ?_)
  refine o_rec (P := fun t2 => ∀ (H : Heap) (locs : List Loc) (cells slots : Nat) (ls : Array Slot), AI γ (h, r) s R q1.1 q1.2 H locs cells slots → lv_has ls 6 [(0, .ref o), (1, .int a0), (2, .int t2.1), (3, .int t2.2.1), (4, .int t2.2.2)] → W p l e R s m args below meth c H locs cells slots Q (F0 m 12 ls [])) (fun t2 x3 hit hC2 hE2 H locs cells slots ls hA hl => ?_) _ hit _ _ _ _ _ hA (lv_sub hl [3, 4, 2, 1, 0] rfl)
  unfold C1_heir_L12 at hit
  refine lv_iload hx hb dX1_heir_12 (lv_at hl 4 rfl) ?_
  refine lv_aload_n hx hb dX1_heir_14 rfl (lv_at hl 0 rfl) ?_
  obtain ⟨v4, ev4, hit⟩ := o_bind hit
  refine c_getR X hA.1.1 kc_TwinInk 1 q277 (Or.inl rfl) rfl rfl ev4 dX1_heir_15 ?_
  obtain ⟨q5, eq5, hit⟩ := o_bind hit
  obtain ⟨iq5, eq5⟩ := vc_inv eq5
  refine c_cR X hA.1.1 (fun U hU hW => hA.D X.2.1 X.2.2 h0H hU hW) kc_Office (wC2_clerks l γ X.2.1 _ _  _ eq5) iq5 nm_X2_clerks q1231 q464 q136 q466 q465 ⟨Nat.le_trans (Nat.le_of_ble_eq_true rfl) hR.1, Nat.le_trans (Nat.le_of_ble_eq_true rfl) hR.2⟩ hA.RR rfl rfl hl.1 (lv_room (Nat.le_of_ble_eq_true rfl)) dX1_heir_18 ?_
  refine b_icmp_ge (tgt := 76) hx hb dX1_heir_21 (by decide) hit (fun c6 hit => ?_) (fun c6 hit => ?_)
  · refine lv_iload_n hx hb dX1_heir_76 rfl (lv_at hl 2 rfl) ?_
    have he := o_in hit
    have he := hE2 _ he
    exact hend (some (.int t2.1)) q1 _ _ _ _ _ _ _ _ (kOut_i rfl) (by subst he; rfl) hA dX1_heir_77
  · refine lv_aload_n hx hb dX1_heir_24 rfl (lv_at hl 0 rfl) ?_
    obtain ⟨v7, ev7, hit⟩ := o_bind hit
    refine c_getR X hA.1.1 kc_TwinInk 2 q278 (Or.inl rfl) rfl rfl ev7 dX1_heir_25 ?_
    obtain ⟨v8, ev8, hit⟩ := o_bind hit
    refine c_getNR X hA.1.1 kc_Service 3 q255 (Or.inl rfl) rfl rfl ev8 dX1_heir_28 ?_
    refine lv_iload hx hb dX1_heir_31 (lv_at hl 4 rfl) ?_
    obtain ⟨v9, ev9, hit⟩ := o_bind hit
    refine c_iald X hA.1.1 ev9 dX1_heir_33 ?_
    refine lv_aload_n hx hb dX1_heir_34 rfl (lv_at hl 0 rfl) ?_
    obtain ⟨v10, ev10, hit⟩ := o_bind hit
    refine c_getR X hA.1.1 kc_TwinInk 2 q278 (Or.inl rfl) rfl rfl ev10 dX1_heir_35 ?_
    obtain ⟨v11, ev11, hit⟩ := o_bind hit
    refine c_getNR X hA.1.1 kc_Service 3 q255 (Or.inl rfl) rfl rfl ev11 dX1_heir_38 ?_
    refine lv_iload_n hx hb dX1_heir_41 rfl (lv_at hl 1 rfl) ?_
    obtain ⟨v12, ev12, hit⟩ := o_bind hit
    refine c_iald X hA.1.1 ev12 dX1_heir_42 ?_
    refine lv_iand hx hb dX1_heir_43 ?_
    obtain ⟨q13, eq13, hit⟩ := o_bind hit
    refine c_cP X.1 (wCJ19_bitCount l _ _ eq13) nm_J19_bitCount q1458 q509 q165 q510 ⟨Nat.le_trans (Nat.le_of_ble_eq_true rfl) hR.1, Nat.le_trans (Nat.le_of_ble_eq_true rfl) hR.2⟩ hA.RR rfl rfl hl.1 (lv_room (Nat.le_of_ble_eq_true rfl)) dX1_heir_44 ?_
    refine lv_istore (lv' := [(5, .int q13), (0, .ref o), (1, .int a0), (2, .int t2.1), (3, .int t2.2.1), (4, .int t2.2.2)]) hx hb dX1_heir_47 hl (by decide) rfl (fun ls hl => ?_)
    refine lv_iload hx hb dX1_heir_49 (lv_at hl 5 rfl) ?_
    refine lv_iload_n hx hb dX1_heir_51 rfl (lv_at hl 2 rfl) ?_
    obtain ⟨wr14, er14, hxr14⟩ := xg_bind hit
    have hr14 : ∀ (r14 : Int32 × Int32), wr14 = .inl r14 → ∀ (H : Heap) (locs : List Loc) (cells slots : Nat) (ls : Array Slot), AI γ (h, r) s R q1.1 q1.2 H locs cells slots → lv_has ls 6 [(0, .ref o), (1, .int a0), (4, .int t2.2.2), (2, .int r14.1), (3, .int r14.2)] → W p l e R s m args below meth c H locs cells slots Q (F0 m 70 ls []) := by
      intro r14 hw_ H locs cells slots ls hA hl
      have hit := xk_l hxr14 hw_
      refine lv_iinc (k := 2) (v := (t2.2.2 + 1)) (lv' := [(4, .int (t2.2.2 + 1)), (0, .ref o), (1, .int a0), (2, .int r14.1), (3, .int r14.2)]) hx hb dX1_heir_70 hl rfl rfl (by decide) rfl (fun ls hl => ?_)
      refine lv_goto (tgt := 12) hx hb dX1_heir_73 (by decide) ?_
      have he := o_in hit
      exact hC2 _ he _ _ _ _ _ hA (lv_sub hl [1, 2, 3, 4, 0] rfl)
    have hit := er14
    refine b_icmp_eq (tgt := 70) hx hb dX1_heir_52 (by decide) hit (fun c15 hit => ?_) (fun c15 hit => ?_)
    · have he := o_in hit
      exact hr14 _ he.symm _ _ _ _ _ hA (lv_sub hl [1, 2, 5, 3, 4] rfl)
    · refine lv_iload hx hb dX1_heir_55 (lv_at hl 0 rfl) ?_
      refine lv_iload_n hx hb dX1_heir_57 rfl (lv_at hl 4 rfl) ?_
      refine b_icmp_gt (tgt := 64) hx hb dX1_heir_58 (by decide) hit (fun c16 hit => ?_) (fun c16 hit => ?_)
      · refine lv_iload hx hb dX1_heir_64 (lv_at hl 5 rfl) ?_
        refine lv_istore_n (lv' := [(2, .int t2.2.2), (5, .int q13), (0, .ref o), (1, .int a0), (3, .int t2.2.1), (4, .int t2.2.2)]) hx hb dX1_heir_66 rfl hl (by decide) rfl (fun ls hl => ?_)
        refine lv_iload hx hb dX1_heir_67 (lv_at hl 1 rfl) ?_
        refine lv_istore_n (lv' := [(3, .int q13), (2, .int t2.2.2), (5, .int q13), (0, .ref o), (1, .int a0), (4, .int t2.2.2)]) hx hb dX1_heir_69 rfl hl (by decide) rfl (fun ls hl => ?_)
        have he := o_in hit
        exact hr14 _ he.symm _ _ _ _ _ hA (lv_sub hl [3, 4, 5, 1, 0] rfl)
      · refine lv_goto (tgt := 70) hx hb dX1_heir_61 (by decide) ?_
        have he := o_in hit
        exact hr14 _ he.symm _ _ _ _ _ hA (lv_sub hl [1, 2, 5, 3, 4] rfl)
noncomputable def C1_laid_L26 (K : Nat → Nat) (o : Nat) (a0 : Int32) (t6 : Int32 × Int32 × CS) : Option ((Int32 × Int32 × CS) ⊕ ((Int32 × CS) ⊕ XT)) :=
  if t6.2.1 < a0 then
    ((vc t6.2.2.1 o 1 (C1_allKnown t6.2.2.1 o)).bind fun q9 =>
    (gR t6.2.2.1 o 1 3).bind fun v10 =>
    (vc t6.2.2.1 v10 3 (C3_pass K t6.2.2.1 v10)).bind fun q11 =>
    (vc q11.2 o 1 (C1_allKnown q11.2 o)).bind fun q12 =>
    xg (fun e_ => .inr (.inr e_)) ((if q12 ≤ q9 then
        (some (.inl t6.1))
      else
        (some (.inl (t6.1 + 1))) : Option (Int32 ⊕ XT))) fun r13 =>
    some (.inl (r13, (t6.2.1 + 1), (q11.2, t6.2.2.2))))
  else
    (some (.inr (.inl (t6.1, t6.2.2))))
noncomputable def C1_laid (K : Nat → Nat) (h : CH) (r : CR) (o : Nat) (a0 : Int32) : Option ((Int32 × CS) ⊕ XT) :=
  (C1_in a0 1 40).bind fun q1 =>
  xg Sum.inr (xchv r (C1_right h r q1)) fun q2 =>
  (gR q2.1 o 1 3).bind fun v3 =>
  (gR q2.1 o 1 2).bind fun v4 =>
  (vc q2.1 v3 3 (C3_be q2.1 v3 v4)).bind fun q5 =>
  o_loop (C1_laid_L26 K o a0) (0, 0, (q5.2, q2.2))
theorem nm_X1_laid : kNm yX1_laid RX1 1 := by unfold kNm; decide +kernel
set_option maxHeartbeats 4000000 in
set_option maxRecDepth 100000 in
theorem wC1_laid (l : Launch) (hT : l.stackTraces = false) (γ : KG) (hO : kOK γ) (h : CH) (r : CR) (o : Nat) (a0 : Int32) (z : (Int32 × CS) ⊕ XT) (hz : C1_laid γ.2.2.2.2.2 h r o a0 = some z) : xMet l yX1_laid (ws_ yX1_laid cX1_laid 5 (some .int)) 813 20368 γ (h, r) [.ref o, .int a0] (xI z) := by
  refine x_start (cc := cX1_laid) (own := RX1) hO rfl rfl rfl (fun p e R s m args below meth c Q ls X hR hnm h0H hA hl hend hthr hdir => ?_)
  have hx := X.1.1
  have hb := X.1.2.1
  have hit := hz
  clear hz
  unfold C1_laid at hit
  have hl : lv_has ls 5 [(0, .ref o), (1, .int a0)] := hl
  refine lv_iload_n hx hb dX1_laid_0 rfl (lv_at hl 1 rfl) ?_
  refine lv_iconst (v := 1) hx hb dX1_laid_1 (by decide) ?_
  refine lv_bipush (v := 40) hx hb dX1_laid_2 (by decide) ?_
  obtain ⟨q1, eq1, hit⟩ := o_bind hit
  refine c_cP X.1 (wC1_in l _ _ _ _ eq1) nm_X1_in q333 q334 q135 q335 ⟨Nat.le_trans (Nat.le_of_ble_eq_true rfl) hR.1, Nat.le_trans (Nat.le_of_ble_eq_true rfl) hR.2⟩ hA.RR rfl rfl hl.1 (lv_room (Nat.le_of_ble_eq_true rfl)) dX1_laid_4 ?_
  rcases xg_inv hit with ⟨q2, eq2, hit⟩ | ⟨x_q2, eq2, he⟩
  rotate_left
  · obtain ⟨eq2, lq2⟩ := xchv_r eq2
    refine t_cS X h0H hA nm_X1_right q691 q692 q135 q693 (xMet.tv (wC1_right l hT γ X.2.1 _ _ _ _ eq2)) lq2 ⟨Nat.le_trans (Nat.le_of_ble_eq_true rfl) hR.1, Nat.le_trans (Nat.le_of_ble_eq_true rfl) hR.2⟩ rfl rfl hl.1 (lv_room (Nat.le_of_ble_eq_true rfl)) dX1_laid_7 (fun H locs cells slots q_ hA hq => ?_)
    exact hthr _ _ _ _ _ _ _ _ _ (by subst he; rfl) hA hq
  obtain ⟨eq2, lq2⟩ := xchv_l eq2
  refine a_cS X h0H hA nm_X1_right q691 q692 q135 q693 (xMet.v (wC1_right l hT γ X.2.1 _ _ _ _ eq2)) lq2 ⟨Nat.le_trans (Nat.le_of_ble_eq_true rfl) hR.1, Nat.le_trans (Nat.le_of_ble_eq_true rfl) hR.2⟩ rfl rfl hl.1 (lv_room (Nat.le_of_ble_eq_true rfl)) dX1_laid_7 (fun H locs cells slots hA => ?_)
  refine lv_iconst (v := 0) hx hb dX1_laid_10 (by decide) ?_
  refine lv_istore_n (lv' := [(2, .int 0), (0, .ref o), (1, .int a0)]) hx hb dX1_laid_11 rfl hl (by decide) rfl (fun ls hl => ?_)
  refine lv_aload_n hx hb dX1_laid_12 rfl (lv_at hl 1 rfl) ?_
  obtain ⟨v3, ev3, hit⟩ := o_bind hit
  refine c_getR X hA.1.1 kc_TwinInk 3 q279 (Or.inl rfl) rfl rfl ev3 dX1_laid_13 ?_
  refine lv_aload_n hx hb dX1_laid_16 rfl (lv_at hl 1 rfl) ?_
  obtain ⟨v4, ev4, hit⟩ := o_bind hit
  refine c_getR X hA.1.1 kc_TwinInk 2 q278 (Or.inl rfl) rfl rfl ev4 dX1_laid_17 ?_
  obtain ⟨q5, eq5, hit⟩ := o_bind hit
  obtain ⟨iq5, eq5⟩ := vc_inv eq5
  refine c_cN X (kA_F X.2.1 X.2.2 h0H) hA.1 kc_Service (wC3_be l γ X.2.1 _ _ _ _ eq5) iq5 nm_X3_be q1406 q351 q140 q353 q352 ⟨Nat.le_trans (Nat.le_of_ble_eq_true rfl) hR.1, Nat.le_trans (Nat.le_of_ble_eq_true rfl) hR.2⟩ hA.RR rfl rfl hl.1 (lv_room (Nat.le_of_ble_eq_true rfl)) dX1_laid_20 (fun H locs hI => ?_)
  replace hA := hA.up hI
  clear hI
  refine lv_pop hx hb dX1_laid_23 rfl ?_
  refine lv_iconst (v := 0) hx hb dX1_laid_24 (by decide) ?_
  refine lv_istore_n (lv' := [(3, .int 0), (2, .int 0), (0, .ref o), (1, .int a0)]) hx hb dX1_laid_25 rfl hl (by decide) rfl (fun ls hl => ?_)
  refine o_rec (P := fun t6 => ∀ (H : Heap) (locs : List Loc) (cells slots : Nat) (ls : Array Slot), AI γ (h, r) s R t6.2.2.1 t6.2.2.2 H locs cells slots → lv_has ls 5 [(0, .ref o), (1, .int a0), (2, .int t6.1), (3, .int t6.2.1)] → W p l e R s m args below meth c H locs cells slots Q (F0 m 26 ls [])) (fun t6 x7 hit hC6 hE6 H locs cells slots ls hA hl => ?_) _ hit _ _ _ _ _ hA (lv_sub hl [2, 3, 1, 0] rfl)
  unfold C1_laid_L26 at hit
  refine lv_iload_n hx hb dX1_laid_26 rfl (lv_at hl 3 rfl) ?_
  refine lv_iload_n hx hb dX1_laid_27 rfl (lv_at hl 1 rfl) ?_
  refine b_icmp_ge (tgt := 63) hx hb dX1_laid_28 (by decide) hit (fun c8 hit => ?_) (fun c8 hit => ?_)
  · refine lv_iload_n hx hb dX1_laid_63 rfl (lv_at hl 2 rfl) ?_
    have he := o_in hit
    have he := hE6 _ he
    exact hend (some (.int t6.1)) t6.2.2 _ _ _ _ _ _ _ _ (kOut_i rfl) (by subst he; rfl) hA dX1_laid_64
  · refine lv_aload_n hx hb dX1_laid_31 rfl (lv_at hl 0 rfl) ?_
    obtain ⟨q9, eq9, hit⟩ := o_bind hit
    obtain ⟨iq9, eq9⟩ := vc_inv eq9
    refine c_cR X hA.1.1 (fun U hU hW => hA.D X.2.1 X.2.2 h0H hU hW) kc_TwinInk (wC1_allKnown l γ X.2.1 _ _  _ eq9) iq9 nm_X1_allKnown q1634 q1636 q135 q1637 qs56 ⟨Nat.le_trans (Nat.le_of_ble_eq_true rfl) hR.1, Nat.le_trans (Nat.le_of_ble_eq_true rfl) hR.2⟩ hA.RR rfl rfl hl.1 (lv_room (Nat.le_of_ble_eq_true rfl)) dX1_laid_32 ?_
    refine lv_istore (lv' := [(4, .int q9), (0, .ref o), (1, .int a0), (2, .int t6.1), (3, .int t6.2.1)]) hx hb dX1_laid_35 hl (by decide) rfl (fun ls hl => ?_)
    refine lv_aload_n hx hb dX1_laid_37 rfl (lv_at hl 1 rfl) ?_
    obtain ⟨v10, ev10, hit⟩ := o_bind hit
    refine c_getR X hA.1.1 kc_TwinInk 3 q279 (Or.inl rfl) rfl rfl ev10 dX1_laid_38 ?_
    obtain ⟨q11, eq11, hit⟩ := o_bind hit
    obtain ⟨iq11, eq11⟩ := vc_inv eq11
    refine c_cN X (kA_F X.2.1 X.2.2 h0H) hA.1 kc_Service (wC3_pass l γ X.2.1 _ _  _ eq11) iq11 nm_X3_pass q1429 q456 q140 q458 q457 ⟨Nat.le_trans (Nat.le_of_ble_eq_true rfl) hR.1, Nat.le_trans (Nat.le_of_ble_eq_true rfl) hR.2⟩ hA.RR rfl rfl hl.1 (lv_room (Nat.le_of_ble_eq_true rfl)) dX1_laid_41 (fun H locs hI => ?_)
    replace hA := hA.up hI
    clear hI
    refine lv_pop hx hb dX1_laid_44 rfl ?_
    refine lv_aload_n hx hb dX1_laid_45 rfl (lv_at hl 1 rfl) ?_
    obtain ⟨q12, eq12, hit⟩ := o_bind hit
    obtain ⟨iq12, eq12⟩ := vc_inv eq12
    refine c_cR X hA.1.1 (fun U hU hW => hA.D X.2.1 X.2.2 h0H hU hW) kc_TwinInk (wC1_allKnown l γ X.2.1 _ _  _ eq12) iq12 nm_X1_allKnown q1634 q1636 q135 q1637 qs56 ⟨Nat.le_trans (Nat.le_of_ble_eq_true rfl) hR.1, Nat.le_trans (Nat.le_of_ble_eq_true rfl) hR.2⟩ hA.RR rfl rfl hl.1 (lv_room (Nat.le_of_ble_eq_true rfl)) dX1_laid_46 ?_
    refine lv_iload hx hb dX1_laid_49 (lv_at hl 0 rfl) ?_
    obtain ⟨wr13, er13, hxr13⟩ := xg_bind hit
    have hr13 : ∀ (r13 : Int32), wr13 = .inl r13 → ∀ (H : Heap) (locs : List Loc) (cells slots : Nat) (ls : Array Slot), AI γ (h, r) s R q11.2 t6.2.2.2 H locs cells slots → lv_has ls 5 [(0, .ref o), (1, .int a0), (3, .int t6.2.1), (2, .int r13)] → W p l e R s m args below meth c H locs cells slots Q (F0 m 57 ls []) := by
      intro r13 hw_ H locs cells slots ls hA hl
      have hit := xk_l hxr13 hw_
      refine lv_iinc (k := 2) (v := (t6.2.1 + 1)) (lv' := [(3, .int (t6.2.1 + 1)), (0, .ref o), (1, .int a0), (2, .int r13)]) hx hb dX1_laid_57 hl rfl rfl (by decide) rfl (fun ls hl => ?_)
      refine lv_goto (tgt := 26) hx hb dX1_laid_60 (by decide) ?_
      have he := o_in hit
      exact hC6 _ he _ _ _ _ _ hA (lv_sub hl [1, 2, 3, 0] rfl)
    have hit := er13
    refine b_icmp_le (tgt := 57) hx hb dX1_laid_51 (by decide) hit (fun c14 hit => ?_) (fun c14 hit => ?_)
    · have he := o_in hit
      exact hr13 _ he.symm _ _ _ _ _ hA (lv_sub hl [1, 2, 4, 3] rfl)
    · refine lv_iinc (k := 3) (v := (t6.1 + 1)) (lv' := [(2, .int (t6.1 + 1)), (4, .int q9), (0, .ref o), (1, .int a0), (3, .int t6.2.1)]) hx hb dX1_laid_54 hl rfl rfl (by decide) rfl (fun ls hl => ?_)
      have he := o_in hit
      exact hr13 _ he.symm _ _ _ _ _ hA (lv_sub hl [2, 3, 4, 0] rfl)
noncomputable def C5_want (K : Nat → Nat) (h : CH) (r : CR) (o : Nat) (a0 : Int32) (a1 : Int32) : Option (CS ⊕ XT) :=
  if a0 = 0 then
    ((aCell h r 7 (.inr (5, [.null, .null, .null, .null, .null, .int 0, .int 0]))).bind fun s2 =>
    (achv s2.2 (C6_init K s2.1 s2.2 r.1 a1)).bind fun q3 =>
    (vc q3.1 r.1 5 (some ())).bind fun u4 =>
    some (Sum.inr (2, r.1, q3)))
  else
    (some (.inl (h, r)))
theorem nm_X5_want : kNm yX5_want RX5 2 := by unfold kNm; decide +kernel
set_option maxHeartbeats 4000000 in
set_option maxRecDepth 100000 in
theorem wC5_want (l : Launch) (hT : l.stackTraces = false) (γ : KG) (hO : kOK γ) (h : CH) (r : CR) (o : Nat) (a0 : Int32) (a1 : Int32) (z : CS ⊕ XT) (hz : C5_want γ.2.2.2.2.2 h r o a0 a1 = some z) : xMet l yX5_want (ws_ yX5_want cX5_want 3 none) 4 99 γ (h, r) [.ref o, .int a0, .int a1] (xV z) := by
  refine x_start (cc := cX5_want) (own := RX5) hO rfl rfl rfl (fun p e R s m args below meth c Q ls X hR hnm h0H hA hl hend hthr hdir => ?_)
  have hx := X.1.1
  have hb := X.1.2.1
  have hit := hz
  clear hz
  unfold C5_want at hit
  have hl : lv_has ls 3 [(0, .ref o), (1, .int a0), (2, .int a1)] := hl
  refine lv_iload_n hx hb dX5_want_0 rfl (lv_at hl 1 rfl) ?_
  refine b_if_ne (tgt := 13) hx hb dX5_want_1 (by decide) hit (fun c1 hit => ?_) (fun c1 hit => ?_)
  · have he := o_in hit
    exact hend none (h, r) _ _ _ _ _ _ _ _ kOut_v (by subst he; rfl) hA dX5_want_13
  · obtain ⟨s2, es2, hit⟩ := o_bind hit
    refine a_new X hA kc_Wrong q957 q958 q153 (fs := [.null, .null, .null, .null, .null, .int 0, .int 0]) (by decide +kernel) es2 dX5_want_4 (fun H cells slots hA => ?_)
    refine lv_dup hx hb dX5_want_7 rfl ?_
    refine lv_iload_n hx hb dX5_want_8 rfl (lv_at hl 2 rfl) ?_
    obtain ⟨q3, eq3, hit⟩ := o_bind hit
    obtain ⟨eq3, lq3⟩ := achv_inv eq3
    refine a_cI X h0H hA nm_X6_init q966 q967 q153 q968 rfl (wC6_init l γ X.2.1 _ _ _ _ _ eq3) lq3 ⟨Nat.le_trans (Nat.le_of_ble_eq_true rfl) hR.1, Nat.le_trans (Nat.le_of_ble_eq_true rfl) hR.2⟩ rfl rfl hl.1 (lv_room (Nat.le_of_ble_eq_true rfl)) dX5_want_9 (fun H locs cells slots hA => ?_)
    obtain ⟨u4, eu4, hit⟩ := o_bind hit
    obtain ⟨iu4, -⟩ := vc_inv eu4
    refine t_athrow X hA iu4 dX5_want_12 (fun hq => ?_)
    have he := o_in hit
    exact hthr _ _ _ _ _ _ _ _ _ (by subst he; rfl) hA hq
noncomputable def C5_numberNow (K : Nat → Nat) (h : CH) (r : CR) (o : Nat) (a0 : Int32) (a1 : Int32) : Option ((Int32 × CS) ⊕ XT) :=
  (gI h o 4 8).bind fun v1 =>
  xg Sum.inr ((if v1 = 2 then
      (some (.inl 1))
    else
      (some (.inl 0)) : Option (Int32 ⊕ XT))) fun r2 =>
  xg Sum.inr (vc h o 4 (xchv r (C5_want K h r o r2 1))) fun q3 =>
  (gI q3.1 o 4 10).bind fun v4 =>
  (gI q3.1 o 4 9).bind fun v5 =>
  xg Sum.inr ((if (v4 - v5) ≤ 4 then
      ((gI q3.1 o 4 11).bind fun v10 =>
      if v10 < a0 then
        (some (.inl 0))
      else
        ((gI q3.1 o 4 11).bind fun v12 =>
        if v12 ≤ a1 then
          (some (.inl 1))
        else
          (some (.inl 0))))
    else
      (some (.inl 0)) : Option (Int32 ⊕ XT))) fun r6 =>
  xg Sum.inr (vc q3.1 o 4 (xchv q3.2 (C5_want K q3.1 q3.2 o r6 2))) fun q7 =>
  (gI q7.1 o 4 11).bind fun v8 =>
  some (.inl (v8, q7))
theorem nm_X5_numberNow : kNm yX5_numberNow RX5 2 := by unfold kNm; decide +kernel
set_option maxHeartbeats 4000000 in
set_option maxRecDepth 100000 in
theorem wC5_numberNow (l : Launch) (hT : l.stackTraces = false) (γ : KG) (hO : kOK γ) (h : CH) (r : CR) (o : Nat) (a0 : Int32) (a1 : Int32) (z : (Int32 × CS) ⊕ XT) (hz : C5_numberNow γ.2.2.2.2.2 h r o a0 a1 = some z) : xMet l yX5_numberNow (ws_ yX5_numberNow cX5_numberNow 3 (some .int)) 5 121 γ (h, r) [.ref o, .int a0, .int a1] (xI z) := by
  refine x_start (cc := cX5_numberNow) (own := RX5) hO rfl rfl rfl (fun p e R s m args below meth c Q ls X hR hnm h0H hA hl hend hthr hdir => ?_)
  have hx := X.1.1
  have hb := X.1.2.1
  have hit := hz
  clear hz
  unfold C5_numberNow at hit
  have hl : lv_has ls 3 [(0, .ref o), (1, .int a0), (2, .int a1)] := hl
  refine lv_aload_n hx hb dX5_numberNow_0 rfl (lv_at hl 0 rfl) ?_
  refine lv_aload_n hx hb dX5_numberNow_1 rfl (lv_at hl 0 rfl) ?_
  obtain ⟨v1, ev1, hit⟩ := o_bind hit
  refine c_getI X hA.1.1 kc_Reader 8 q791 (Or.inl rfl) rfl rfl ev1 dX5_numberNow_2 ?_
  refine lv_iconst (v := 2) hx hb dX5_numberNow_5 (by decide) ?_
  obtain ⟨wr2, er2, hxr2⟩ := xg_bind hit
  have hr2 : ∀ (r2 : Int32), wr2 = .inl r2 → ∀ (H : Heap) (locs : List Loc) (cells slots : Nat) (ls : Array Slot), AI γ (h, r) s R h r H locs cells slots → lv_has ls 3 [(0, .ref o), (1, .int a0), (2, .int a1)] → W p l e R s m args below meth c H locs cells slots Q (F0 m 14 ls [.int r2, .ref o]) := by
    intro r2 hw_ H locs cells slots ls hA hl
    have hit := xk_l hxr2 hw_
    refine lv_iconst (v := 1) hx hb dX5_numberNow_14 (by decide) ?_
    rcases xg_inv hit with ⟨q3, eq3, hit⟩ | ⟨x_q3, eq3, he⟩
    rotate_left
    · obtain ⟨iq3, eq3⟩ := vc_inv eq3
      obtain ⟨eq3, lq3⟩ := xchv_r eq3
      refine t_cV X h0H hA kc_Reader (xMet.tv (wC5_want l hT γ X.2.1 _ _ _ _ _ _ eq3)) lq3 iq3 nm_X5_want q953 q955 q146 q956 qs18 ⟨Nat.le_trans (Nat.le_of_ble_eq_true rfl) hR.1, Nat.le_trans (Nat.le_of_ble_eq_true rfl) hR.2⟩ rfl rfl hl.1 (lv_room (Nat.le_of_ble_eq_true rfl)) dX5_numberNow_15 (fun H locs cells slots q_ hA hq => ?_)
      exact hthr _ _ _ _ _ _ _ _ _ (by subst he; rfl) hA hq
    obtain ⟨iq3, eq3⟩ := vc_inv eq3
    obtain ⟨eq3, lq3⟩ := xchv_l eq3
    refine a_cV X h0H hA kc_Reader (xMet.v (wC5_want l hT γ X.2.1 _ _ _ _ _ _ eq3)) lq3 iq3 nm_X5_want q953 q955 q146 q956 qs18 ⟨Nat.le_trans (Nat.le_of_ble_eq_true rfl) hR.1, Nat.le_trans (Nat.le_of_ble_eq_true rfl) hR.2⟩ rfl rfl hl.1 (lv_room (Nat.le_of_ble_eq_true rfl)) dX5_numberNow_15 (fun H locs cells slots hA => ?_)
    refine lv_aload_n hx hb dX5_numberNow_18 rfl (lv_at hl 0 rfl) ?_
    refine lv_aload_n hx hb dX5_numberNow_19 rfl (lv_at hl 0 rfl) ?_
    obtain ⟨v4, ev4, hit⟩ := o_bind hit
    refine c_getI X hA.1.1 kc_Reader 10 q794 (Or.inl rfl) rfl rfl ev4 dX5_numberNow_20 ?_
    refine lv_aload_n hx hb dX5_numberNow_23 rfl (lv_at hl 0 rfl) ?_
    obtain ⟨v5, ev5, hit⟩ := o_bind hit
    refine c_getI X hA.1.1 kc_Reader 9 q792 (Or.inl rfl) rfl rfl ev5 dX5_numberNow_24 ?_
    refine lv_isub hx hb dX5_numberNow_27 ?_
    refine lv_iconst (v := 4) hx hb dX5_numberNow_28 (by decide) ?_
    obtain ⟨wr6, er6, hxr6⟩ := xg_bind hit
    have hr6 : ∀ (r6 : Int32), wr6 = .inl r6 → ∀ (H : Heap) (locs : List Loc) (cells slots : Nat) (ls : Array Slot), AI γ (h, r) s R q3.1 q3.2 H locs cells slots → lv_has ls 3 [(0, .ref o)] → W p l e R s m args below meth c H locs cells slots Q (F0 m 53 ls [.int r6, .ref o]) := by
      intro r6 hw_ H locs cells slots ls hA hl
      have hit := xk_l hxr6 hw_
      refine lv_iconst (v := 2) hx hb dX5_numberNow_53 (by decide) ?_
      rcases xg_inv hit with ⟨q7, eq7, hit⟩ | ⟨x_q7, eq7, he⟩
      rotate_left
      · obtain ⟨iq7, eq7⟩ := vc_inv eq7
        obtain ⟨eq7, lq7⟩ := xchv_r eq7
        refine t_cV X h0H hA kc_Reader (xMet.tv (wC5_want l hT γ X.2.1 _ _ _ _ _ _ eq7)) lq7 iq7 nm_X5_want q953 q955 q146 q956 qs18 ⟨Nat.le_trans (Nat.le_of_ble_eq_true rfl) hR.1, Nat.le_trans (Nat.le_of_ble_eq_true rfl) hR.2⟩ rfl rfl hl.1 (lv_room (Nat.le_of_ble_eq_true rfl)) dX5_numberNow_54 (fun H locs cells slots q_ hA hq => ?_)
        exact hthr _ _ _ _ _ _ _ _ _ (by subst he; rfl) hA hq
      obtain ⟨iq7, eq7⟩ := vc_inv eq7
      obtain ⟨eq7, lq7⟩ := xchv_l eq7
      refine a_cV X h0H hA kc_Reader (xMet.v (wC5_want l hT γ X.2.1 _ _ _ _ _ _ eq7)) lq7 iq7 nm_X5_want q953 q955 q146 q956 qs18 ⟨Nat.le_trans (Nat.le_of_ble_eq_true rfl) hR.1, Nat.le_trans (Nat.le_of_ble_eq_true rfl) hR.2⟩ rfl rfl hl.1 (lv_room (Nat.le_of_ble_eq_true rfl)) dX5_numberNow_54 (fun H locs cells slots hA => ?_)
      refine lv_aload_n hx hb dX5_numberNow_57 rfl (lv_at hl 0 rfl) ?_
      obtain ⟨v8, ev8, hit⟩ := o_bind hit
      refine c_getI X hA.1.1 kc_Reader 11 q795 (Or.inl rfl) rfl rfl ev8 dX5_numberNow_58 ?_
      have he := o_in hit
      exact hend (some (.int v8)) q7 _ _ _ _ _ _ _ _ (kOut_i rfl) (by subst he; rfl) hA dX5_numberNow_61
    have hit := er6
    refine b_icmp_gt (tgt := 52) hx hb dX5_numberNow_29 (by decide) hit (fun c9 hit => ?_) (fun c9 hit => ?_)
    · refine lv_iconst (v := 0) hx hb dX5_numberNow_52 (by decide) ?_
      have he := o_in hit
      exact hr6 _ he.symm _ _ _ _ _ hA (lv_sub hl [0] rfl)
    · refine lv_aload_n hx hb dX5_numberNow_32 rfl (lv_at hl 0 rfl) ?_
      obtain ⟨v10, ev10, hit⟩ := o_bind hit
      refine c_getI X hA.1.1 kc_Reader 11 q795 (Or.inl rfl) rfl rfl ev10 dX5_numberNow_33 ?_
      refine lv_iload_n hx hb dX5_numberNow_36 rfl (lv_at hl 1 rfl) ?_
      refine b_icmp_lt (tgt := 52) hx hb dX5_numberNow_37 (by decide) hit (fun c11 hit => ?_) (fun c11 hit => ?_)
      · refine lv_iconst (v := 0) hx hb dX5_numberNow_52 (by decide) ?_
        have he := o_in hit
        exact hr6 _ he.symm _ _ _ _ _ hA (lv_sub hl [0] rfl)
      · refine lv_aload_n hx hb dX5_numberNow_40 rfl (lv_at hl 0 rfl) ?_
        obtain ⟨v12, ev12, hit⟩ := o_bind hit
        refine c_getI X hA.1.1 kc_Reader 11 q795 (Or.inl rfl) rfl rfl ev12 dX5_numberNow_41 ?_
        refine lv_iload_n hx hb dX5_numberNow_44 rfl (lv_at hl 2 rfl) ?_
        refine b_icmp_gt (tgt := 52) hx hb dX5_numberNow_45 (by decide) hit (fun c13 hit => ?_) (fun c13 hit => ?_)
        · refine lv_iconst (v := 0) hx hb dX5_numberNow_52 (by decide) ?_
          have he := o_in hit
          exact hr6 _ he.symm _ _ _ _ _ hA (lv_sub hl [0] rfl)
        · refine lv_iconst (v := 1) hx hb dX5_numberNow_48 (by decide) ?_
          refine lv_goto (tgt := 53) hx hb dX5_numberNow_49 (by decide) ?_
          have he := o_in hit
          exact hr6 _ he.symm _ _ _ _ _ hA (lv_sub hl [0] rfl)
  have hit := er2
  refine b_icmp_ne (tgt := 13) hx hb dX5_numberNow_6 (by decide) hit (fun c14 hit => ?_) (fun c14 hit => ?_)
  · refine lv_iconst (v := 0) hx hb dX5_numberNow_13 (by decide) ?_
    have he := o_in hit
    exact hr2 _ he.symm _ _ _ _ _ hA hl
  · refine lv_iconst (v := 1) hx hb dX5_numberNow_9 (by decide) ?_
    refine lv_goto (tgt := 14) hx hb dX5_numberNow_10 (by decide) ?_
    have he := o_in hit
    exact hr2 _ he.symm _ _ _ _ _ hA hl
noncomputable def C5_number (K : Nat → Nat) (h : CH) (r : CR) (o : Nat) (a0 : Int32) (a1 : Int32) : Option ((Int32 × CS) ⊕ XT) :=
  xg Sum.inr (vc h o 4 (xchk r (C5_numberNow K h r o a0 a1))) fun q1 =>
  (vc q1.2.1 o 4 (C5_next K q1.2.1 o)).bind fun q2 =>
  some (.inl (q1.1, (q2, q1.2.2)))
theorem nm_X5_number : kNm yX5_number RX5 2 := by unfold kNm; decide +kernel
set_option maxHeartbeats 4000000 in
set_option maxRecDepth 100000 in
theorem wC5_number (l : Launch) (hT : l.stackTraces = false) (γ : KG) (hO : kOK γ) (h : CH) (r : CR) (o : Nat) (a0 : Int32) (a1 : Int32) (z : (Int32 × CS) ⊕ XT) (hz : C5_number γ.2.2.2.2.2 h r o a0 a1 = some z) : xMet l yX5_number (ws_ yX5_number cX5_number 4 (some .int)) 8 179 γ (h, r) [.ref o, .int a0, .int a1] (xI z) := by
  refine x_start (cc := cX5_number) (own := RX5) hO rfl rfl rfl (fun p e R s m args below meth c Q ls X hR hnm h0H hA hl hend hthr hdir => ?_)
  have hx := X.1.1
  have hb := X.1.2.1
  have hit := hz
  clear hz
  unfold C5_number at hit
  have hl : lv_has ls 4 [(0, .ref o), (1, .int a0), (2, .int a1)] := hl
  refine lv_aload_n hx hb dX5_number_0 rfl (lv_at hl 0 rfl) ?_
  refine lv_iload_n hx hb dX5_number_1 rfl (lv_at hl 1 rfl) ?_
  refine lv_iload_n hx hb dX5_number_2 rfl (lv_at hl 2 rfl) ?_
  rcases xg_inv hit with ⟨q1, eq1, hit⟩ | ⟨x_q1, eq1, he⟩
  rotate_left
  · obtain ⟨iq1, eq1⟩ := vc_inv eq1
    obtain ⟨eq1, lq1⟩ := xchk_r eq1
    refine t_cV X h0H hA kc_Reader (xMet.ti (wC5_numberNow l hT γ X.2.1 _ _ _ _ _ _ eq1)) lq1 iq1 nm_X5_numberNow q985 q987 q146 q988 qs20 ⟨Nat.le_trans (Nat.le_of_ble_eq_true rfl) hR.1, Nat.le_trans (Nat.le_of_ble_eq_true rfl) hR.2⟩ rfl rfl hl.1 (lv_room (Nat.le_of_ble_eq_true rfl)) dX5_number_3 (fun H locs cells slots q_ hA hq => ?_)
    exact hthr _ _ _ _ _ _ _ _ _ (by subst he; rfl) hA hq
  obtain ⟨iq1, eq1⟩ := vc_inv eq1
  obtain ⟨eq1, lq1⟩ := xchk_l eq1
  refine a_cV X h0H hA kc_Reader (xMet.i (wC5_numberNow l hT γ X.2.1 _ _ _ _ _ _ eq1)) lq1 iq1 nm_X5_numberNow q985 q987 q146 q988 qs20 ⟨Nat.le_trans (Nat.le_of_ble_eq_true rfl) hR.1, Nat.le_trans (Nat.le_of_ble_eq_true rfl) hR.2⟩ rfl rfl hl.1 (lv_room (Nat.le_of_ble_eq_true rfl)) dX5_number_3 (fun H locs cells slots hA => ?_)
  refine lv_istore_n (lv' := [(3, .int q1.1), (0, .ref o), (1, .int a0), (2, .int a1)]) hx hb dX5_number_6 rfl hl (by decide) rfl (fun ls hl => ?_)
  refine lv_aload_n hx hb dX5_number_7 rfl (lv_at hl 1 rfl) ?_
  obtain ⟨q2, eq2, hit⟩ := o_bind hit
  obtain ⟨iq2, eq2⟩ := vc_inv eq2
  refine c_cN X (kA_F X.2.1 X.2.2 h0H) hA.1 kc_Reader (wC5_next l γ X.2.1 _ _  _ eq2) iq2 nm_X5_next q831 q833 q146 q834 qs10 ⟨Nat.le_trans (Nat.le_of_ble_eq_true rfl) hR.1, Nat.le_trans (Nat.le_of_ble_eq_true rfl) hR.2⟩ hA.RR rfl rfl hl.1 (lv_room (Nat.le_of_ble_eq_true rfl)) dX5_number_8 (fun H locs hI => ?_)
  replace hA := hA.up hI
  clear hI
  refine lv_iload_n hx hb dX5_number_11 rfl (lv_at hl 0 rfl) ?_
  have he := o_in hit
  exact hend (some (.int q1.1)) (q2, q1.2.2) _ _ _ _ _ _ _ _ (kOut_i rfl) (by subst he; rfl) hA dX5_number_12
noncomputable def C5_sheetNow (K : Nat → Nat) (h : CH) (r : CR) (o : Nat) : Option ((Int32 × CS) ⊕ XT) :=
  xg Sum.inr (vc h o 4 (xchk r (C5_numberNow K h r o 0 9999))) fun q1 =>
  (gR q1.2.1 o 4 1).bind fun v2 =>
  (gI q1.2.1 v2 2 2).bind fun v3 =>
  xg Sum.inr ((if q1.1 < v3 then
      (some (.inl 1))
    else
      (some (.inl 0)) : Option (Int32 ⊕ XT))) fun r4 =>
  xg Sum.inr (vc q1.2.1 o 4 (xchv q1.2.2 (C5_want K q1.2.1 q1.2.2 o r4 3))) fun q5 =>
  some (.inl (q1.1, q5))
theorem nm_X5_sheetNow : kNm yX5_sheetNow RX5 0 := by unfold kNm; decide +kernel
set_option maxHeartbeats 4000000 in
set_option maxRecDepth 100000 in
theorem wC5_sheetNow (l : Launch) (hT : l.stackTraces = false) (γ : KG) (hO : kOK γ) (h : CH) (r : CR) (o : Nat) (z : (Int32 × CS) ⊕ XT) (hz : C5_sheetNow γ.2.2.2.2.2 h r o = some z) : xMet l yX5_sheetNow (ws_ yX5_sheetNow cX5_sheetNow 2 (some .int)) 6 143 γ (h, r) [.ref o] (xI z) := by
  refine x_start (cc := cX5_sheetNow) (own := RX5) hO rfl rfl rfl (fun p e R s m args below meth c Q ls X hR hnm h0H hA hl hend hthr hdir => ?_)
  have hx := X.1.1
  have hb := X.1.2.1
  have hit := hz
  clear hz
  unfold C5_sheetNow at hit
  have hl : lv_has ls 2 [(0, .ref o)] := hl
  refine lv_aload_n hx hb dX5_sheetNow_0 rfl (lv_at hl 0 rfl) ?_
  refine lv_iconst (v := 0) hx hb dX5_sheetNow_1 (by decide) ?_
  refine lv_sipush (v := 9999) hx hb dX5_sheetNow_2 (by decide) ?_
  rcases xg_inv hit with ⟨q1, eq1, hit⟩ | ⟨x_q1, eq1, he⟩
  rotate_left
  · obtain ⟨iq1, eq1⟩ := vc_inv eq1
    obtain ⟨eq1, lq1⟩ := xchk_r eq1
    refine t_cV X h0H hA kc_Reader (xMet.ti (wC5_numberNow l hT γ X.2.1 _ _ _ _ _ _ eq1)) lq1 iq1 nm_X5_numberNow q985 q987 q146 q988 qs20 ⟨Nat.le_trans (Nat.le_of_ble_eq_true rfl) hR.1, Nat.le_trans (Nat.le_of_ble_eq_true rfl) hR.2⟩ rfl rfl hl.1 (lv_room (Nat.le_of_ble_eq_true rfl)) dX5_sheetNow_5 (fun H locs cells slots q_ hA hq => ?_)
    exact hthr _ _ _ _ _ _ _ _ _ (by subst he; rfl) hA hq
  obtain ⟨iq1, eq1⟩ := vc_inv eq1
  obtain ⟨eq1, lq1⟩ := xchk_l eq1
  refine a_cV X h0H hA kc_Reader (xMet.i (wC5_numberNow l hT γ X.2.1 _ _ _ _ _ _ eq1)) lq1 iq1 nm_X5_numberNow q985 q987 q146 q988 qs20 ⟨Nat.le_trans (Nat.le_of_ble_eq_true rfl) hR.1, Nat.le_trans (Nat.le_of_ble_eq_true rfl) hR.2⟩ rfl rfl hl.1 (lv_room (Nat.le_of_ble_eq_true rfl)) dX5_sheetNow_5 (fun H locs cells slots hA => ?_)
  refine lv_istore_n (lv' := [(1, .int q1.1), (0, .ref o)]) hx hb dX5_sheetNow_8 rfl hl (by decide) rfl (fun ls hl => ?_)
  refine lv_aload_n hx hb dX5_sheetNow_9 rfl (lv_at hl 1 rfl) ?_
  refine lv_iload_n hx hb dX5_sheetNow_10 rfl (lv_at hl 0 rfl) ?_
  refine lv_aload_n hx hb dX5_sheetNow_11 rfl (lv_at hl 1 rfl) ?_
  obtain ⟨v2, ev2, hit⟩ := o_bind hit
  refine c_getR X hA.1.1 kc_Reader 1 q783 (Or.inl rfl) rfl rfl ev2 dX5_sheetNow_12 ?_
  obtain ⟨v3, ev3, hit⟩ := o_bind hit
  refine c_getNI X hA.1.1 kc_Office 2 q218 (Or.inl rfl) rfl rfl ev3 dX5_sheetNow_15 ?_
  obtain ⟨wr4, er4, hxr4⟩ := xg_bind hit
  have hr4 : ∀ (r4 : Int32), wr4 = .inl r4 → ∀ (H : Heap) (locs : List Loc) (cells slots : Nat) (ls : Array Slot), AI γ (h, r) s R q1.2.1 q1.2.2 H locs cells slots → lv_has ls 2 [(1, .int q1.1)] → W p l e R s m args below meth c H locs cells slots Q (F0 m 26 ls [.int r4, .ref o]) := by
    intro r4 hw_ H locs cells slots ls hA hl
    have hit := xk_l hxr4 hw_
    refine lv_iconst (v := 3) hx hb dX5_sheetNow_26 (by decide) ?_
    rcases xg_inv hit with ⟨q5, eq5, hit⟩ | ⟨x_q5, eq5, he⟩
    rotate_left
    · obtain ⟨iq5, eq5⟩ := vc_inv eq5
      obtain ⟨eq5, lq5⟩ := xchv_r eq5
      refine t_cV X h0H hA kc_Reader (xMet.tv (wC5_want l hT γ X.2.1 _ _ _ _ _ _ eq5)) lq5 iq5 nm_X5_want q953 q955 q146 q956 qs18 ⟨Nat.le_trans (Nat.le_of_ble_eq_true rfl) hR.1, Nat.le_trans (Nat.le_of_ble_eq_true rfl) hR.2⟩ rfl rfl hl.1 (lv_room (Nat.le_of_ble_eq_true rfl)) dX5_sheetNow_27 (fun H locs cells slots q_ hA hq => ?_)
      exact hthr _ _ _ _ _ _ _ _ _ (by subst he; rfl) hA hq
    obtain ⟨iq5, eq5⟩ := vc_inv eq5
    obtain ⟨eq5, lq5⟩ := xchv_l eq5
    refine a_cV X h0H hA kc_Reader (xMet.v (wC5_want l hT γ X.2.1 _ _ _ _ _ _ eq5)) lq5 iq5 nm_X5_want q953 q955 q146 q956 qs18 ⟨Nat.le_trans (Nat.le_of_ble_eq_true rfl) hR.1, Nat.le_trans (Nat.le_of_ble_eq_true rfl) hR.2⟩ rfl rfl hl.1 (lv_room (Nat.le_of_ble_eq_true rfl)) dX5_sheetNow_27 (fun H locs cells slots hA => ?_)
    refine lv_iload_n hx hb dX5_sheetNow_30 rfl (lv_at hl 0 rfl) ?_
    have he := o_in hit
    exact hend (some (.int q1.1)) q5 _ _ _ _ _ _ _ _ (kOut_i rfl) (by subst he; rfl) hA dX5_sheetNow_31
  have hit := er4
  refine b_icmp_ge (tgt := 25) hx hb dX5_sheetNow_18 (by decide) hit (fun c6 hit => ?_) (fun c6 hit => ?_)
  · refine lv_iconst (v := 0) hx hb dX5_sheetNow_25 (by decide) ?_
    have he := o_in hit
    exact hr4 _ he.symm _ _ _ _ _ hA (lv_sub hl [0] rfl)
  · refine lv_iconst (v := 1) hx hb dX5_sheetNow_21 (by decide) ?_
    refine lv_goto (tgt := 26) hx hb dX5_sheetNow_22 (by decide) ?_
    have he := o_in hit
    exact hr4 _ he.symm _ _ _ _ _ hA (lv_sub hl [0] rfl)
noncomputable def C5_sheet (K : Nat → Nat) (h : CH) (r : CR) (o : Nat) : Option (CS ⊕ XT) :=
  (gR h o 4 1).bind fun v1 =>
  (gI h v1 2 2).bind fun v2 =>
  xg Sum.inr ((if v2 < 9 then
      (some (.inl 1))
    else
      (some (.inl 0)) : Option (Int32 ⊕ XT))) fun r3 =>
  xg Sum.inr (vc h o 4 (xchv r (C5_want K h r o r3 2))) fun q4 =>
  (vc q4.1 o 4 (C5_next K q4.1 o)).bind fun q5 =>
  (gR q5 o 4 2).bind fun v6 =>
  (gR q5 v6 3 0).bind fun v7 =>
  xg Sum.inr (vc q5 o 4 (xchk q4.2 (C5_number K q5 q4.2 o 0 255))) fun q8 =>
  (sI q8.2.1 v7 0 v2 q8.1).bind fun s9 =>
  (gR s9 o 4 2).bind fun v10 =>
  (gR s9 v10 3 1).bind fun v11 =>
  xg Sum.inr (vc s9 o 4 (xchk q8.2.2 (C5_number K s9 q8.2.2 o 0 255))) fun q12 =>
  (sI q12.2.1 v11 0 v2 q12.1).bind fun s13 =>
  (gR s13 o 4 2).bind fun v14 =>
  (gR s13 v14 3 2).bind fun v15 =>
  xg Sum.inr (vc s13 o 4 (xchk q12.2.2 (C5_number K s13 q12.2.2 o 0 3))) fun q16 =>
  (sI q16.2.1 v15 0 v2 q16.1).bind fun s17 =>
  (gR s17 o 4 1).bind fun v18 =>
  (gI s17 v18 2 2).bind fun v19 =>
  (pI s17 v18 2 2 (v19 + 1)).bind fun s20 =>
  some (.inl (s20, q16.2.2))
theorem nm_X5_sheet : kNm yX5_sheet RX5 0 := by unfold kNm; decide +kernel
set_option maxHeartbeats 4000000 in
set_option maxRecDepth 100000 in
theorem wC5_sheet (l : Launch) (hT : l.stackTraces = false) (γ : KG) (hO : kOK γ) (h : CH) (r : CR) (o : Nat) (z : CS ⊕ XT) (hz : C5_sheet γ.2.2.2.2.2 h r o = some z) : xMet l yX5_sheet (ws_ yX5_sheet cX5_sheet 2 none) 9 202 γ (h, r) [.ref o] (xV z) := by
  refine x_start (cc := cX5_sheet) (own := RX5) hO rfl rfl rfl (fun p e R s m args below meth c Q ls X hR hnm h0H hA hl hend hthr hdir => ?_)
  have hx := X.1.1
  have hb := X.1.2.1
  have hit := hz
  clear hz
  unfold C5_sheet at hit
  have hl : lv_has ls 2 [(0, .ref o)] := hl
  refine lv_aload_n hx hb dX5_sheet_0 rfl (lv_at hl 0 rfl) ?_
  obtain ⟨v1, ev1, hit⟩ := o_bind hit
  refine c_getR X hA.1.1 kc_Reader 1 q783 (Or.inl rfl) rfl rfl ev1 dX5_sheet_1 ?_
  obtain ⟨v2, ev2, hit⟩ := o_bind hit
  refine c_getNI X hA.1.1 kc_Office 2 q218 (Or.inl rfl) rfl rfl ev2 dX5_sheet_4 ?_
  refine lv_istore_n (lv' := [(1, .int v2), (0, .ref o)]) hx hb dX5_sheet_7 rfl hl (by decide) rfl (fun ls hl => ?_)
  refine lv_aload_n hx hb dX5_sheet_8 rfl (lv_at hl 1 rfl) ?_
  refine lv_iload_n hx hb dX5_sheet_9 rfl (lv_at hl 0 rfl) ?_
  refine lv_bipush (v := 9) hx hb dX5_sheet_10 (by decide) ?_
  obtain ⟨wr3, er3, hxr3⟩ := xg_bind hit
  have hr3 : ∀ (r3 : Int32), wr3 = .inl r3 → ∀ (H : Heap) (locs : List Loc) (cells slots : Nat) (ls : Array Slot), AI γ (h, r) s R h r H locs cells slots → lv_has ls 2 [(1, .int v2), (0, .ref o)] → W p l e R s m args below meth c H locs cells slots Q (F0 m 20 ls [.int r3, .ref o]) := by
    intro r3 hw_ H locs cells slots ls hA hl
    have hit := xk_l hxr3 hw_
    refine lv_iconst (v := 2) hx hb dX5_sheet_20 (by decide) ?_
    rcases xg_inv hit with ⟨q4, eq4, hit⟩ | ⟨x_q4, eq4, he⟩
    rotate_left
    · obtain ⟨iq4, eq4⟩ := vc_inv eq4
      obtain ⟨eq4, lq4⟩ := xchv_r eq4
      refine t_cV X h0H hA kc_Reader (xMet.tv (wC5_want l hT γ X.2.1 _ _ _ _ _ _ eq4)) lq4 iq4 nm_X5_want q953 q955 q146 q956 qs18 ⟨Nat.le_trans (Nat.le_of_ble_eq_true rfl) hR.1, Nat.le_trans (Nat.le_of_ble_eq_true rfl) hR.2⟩ rfl rfl hl.1 (lv_room (Nat.le_of_ble_eq_true rfl)) dX5_sheet_21 (fun H locs cells slots q_ hA hq => ?_)
      exact hthr _ _ _ _ _ _ _ _ _ (by subst he; rfl) hA hq
    obtain ⟨iq4, eq4⟩ := vc_inv eq4
    obtain ⟨eq4, lq4⟩ := xchv_l eq4
    refine a_cV X h0H hA kc_Reader (xMet.v (wC5_want l hT γ X.2.1 _ _ _ _ _ _ eq4)) lq4 iq4 nm_X5_want q953 q955 q146 q956 qs18 ⟨Nat.le_trans (Nat.le_of_ble_eq_true rfl) hR.1, Nat.le_trans (Nat.le_of_ble_eq_true rfl) hR.2⟩ rfl rfl hl.1 (lv_room (Nat.le_of_ble_eq_true rfl)) dX5_sheet_21 (fun H locs cells slots hA => ?_)
    refine lv_aload_n hx hb dX5_sheet_24 rfl (lv_at hl 1 rfl) ?_
    obtain ⟨q5, eq5, hit⟩ := o_bind hit
    obtain ⟨iq5, eq5⟩ := vc_inv eq5
    refine c_cN X (kA_F X.2.1 X.2.2 h0H) hA.1 kc_Reader (wC5_next l γ X.2.1 _ _  _ eq5) iq5 nm_X5_next q831 q833 q146 q834 qs10 ⟨Nat.le_trans (Nat.le_of_ble_eq_true rfl) hR.1, Nat.le_trans (Nat.le_of_ble_eq_true rfl) hR.2⟩ hA.RR rfl rfl hl.1 (lv_room (Nat.le_of_ble_eq_true rfl)) dX5_sheet_25 (fun H locs hI => ?_)
    replace hA := hA.up hI
    clear hI
    refine lv_aload_n hx hb dX5_sheet_28 rfl (lv_at hl 1 rfl) ?_
    obtain ⟨v6, ev6, hit⟩ := o_bind hit
    refine c_getR X hA.1.1 kc_Reader 2 q784 (Or.inl rfl) rfl rfl ev6 dX5_sheet_29 ?_
    obtain ⟨v7, ev7, hit⟩ := o_bind hit
    refine c_getNR X hA.1.1 kc_Service 0 q247 (Or.inl rfl) rfl rfl ev7 dX5_sheet_32 ?_
    refine lv_iload_n hx hb dX5_sheet_35 rfl (lv_at hl 0 rfl) ?_
    refine lv_aload_n hx hb dX5_sheet_36 rfl (lv_at hl 1 rfl) ?_
    refine lv_iconst (v := 0) hx hb dX5_sheet_37 (by decide) ?_
    refine lv_sipush (v := 255) hx hb dX5_sheet_38 (by decide) ?_
    rcases xg_inv hit with ⟨q8, eq8, hit⟩ | ⟨x_q8, eq8, he⟩
    rotate_left
    · obtain ⟨iq8, eq8⟩ := vc_inv eq8
      obtain ⟨eq8, lq8⟩ := xchk_r eq8
      refine t_cV X h0H hA kc_Reader (xMet.ti (wC5_number l hT γ X.2.1 _ _ _ _ _ _ eq8)) lq8 iq8 nm_X5_number q981 q983 q146 q984 qs19 ⟨Nat.le_trans (Nat.le_of_ble_eq_true rfl) hR.1, Nat.le_trans (Nat.le_of_ble_eq_true rfl) hR.2⟩ rfl rfl hl.1 (lv_room (Nat.le_of_ble_eq_true rfl)) dX5_sheet_41 (fun H locs cells slots q_ hA hq => ?_)
      exact hthr _ _ _ _ _ _ _ _ _ (by subst he; rfl) hA hq
    obtain ⟨iq8, eq8⟩ := vc_inv eq8
    obtain ⟨eq8, lq8⟩ := xchk_l eq8
    refine a_cV X h0H hA kc_Reader (xMet.i (wC5_number l hT γ X.2.1 _ _ _ _ _ _ eq8)) lq8 iq8 nm_X5_number q981 q983 q146 q984 qs19 ⟨Nat.le_trans (Nat.le_of_ble_eq_true rfl) hR.1, Nat.le_trans (Nat.le_of_ble_eq_true rfl) hR.2⟩ rfl rfl hl.1 (lv_room (Nat.le_of_ble_eq_true rfl)) dX5_sheet_41 (fun H locs cells slots hA => ?_)
    obtain ⟨s9, es9, hit⟩ := o_bind hit
    refine c_iast X hA.1 es9 dX5_sheet_44 (fun H locs hI => ?_)
    replace hA := hA.up hI
    clear hI
    refine lv_aload_n hx hb dX5_sheet_45 rfl (lv_at hl 1 rfl) ?_
    obtain ⟨v10, ev10, hit⟩ := o_bind hit
    refine c_getR X hA.1.1 kc_Reader 2 q784 (Or.inl rfl) rfl rfl ev10 dX5_sheet_46 ?_
    obtain ⟨v11, ev11, hit⟩ := o_bind hit
    refine c_getNR X hA.1.1 kc_Service 1 q250 (Or.inl rfl) rfl rfl ev11 dX5_sheet_49 ?_
    refine lv_iload_n hx hb dX5_sheet_52 rfl (lv_at hl 0 rfl) ?_
    refine lv_aload_n hx hb dX5_sheet_53 rfl (lv_at hl 1 rfl) ?_
    refine lv_iconst (v := 0) hx hb dX5_sheet_54 (by decide) ?_
    refine lv_sipush (v := 255) hx hb dX5_sheet_55 (by decide) ?_
    rcases xg_inv hit with ⟨q12, eq12, hit⟩ | ⟨x_q12, eq12, he⟩
    rotate_left
    · obtain ⟨iq12, eq12⟩ := vc_inv eq12
      obtain ⟨eq12, lq12⟩ := xchk_r eq12
      refine t_cV X h0H hA kc_Reader (xMet.ti (wC5_number l hT γ X.2.1 _ _ _ _ _ _ eq12)) lq12 iq12 nm_X5_number q981 q983 q146 q984 qs19 ⟨Nat.le_trans (Nat.le_of_ble_eq_true rfl) hR.1, Nat.le_trans (Nat.le_of_ble_eq_true rfl) hR.2⟩ rfl rfl hl.1 (lv_room (Nat.le_of_ble_eq_true rfl)) dX5_sheet_58 (fun H locs cells slots q_ hA hq => ?_)
      exact hthr _ _ _ _ _ _ _ _ _ (by subst he; rfl) hA hq
    obtain ⟨iq12, eq12⟩ := vc_inv eq12
    obtain ⟨eq12, lq12⟩ := xchk_l eq12
    refine a_cV X h0H hA kc_Reader (xMet.i (wC5_number l hT γ X.2.1 _ _ _ _ _ _ eq12)) lq12 iq12 nm_X5_number q981 q983 q146 q984 qs19 ⟨Nat.le_trans (Nat.le_of_ble_eq_true rfl) hR.1, Nat.le_trans (Nat.le_of_ble_eq_true rfl) hR.2⟩ rfl rfl hl.1 (lv_room (Nat.le_of_ble_eq_true rfl)) dX5_sheet_58 (fun H locs cells slots hA => ?_)
    obtain ⟨s13, es13, hit⟩ := o_bind hit
    refine c_iast X hA.1 es13 dX5_sheet_61 (fun H locs hI => ?_)
    replace hA := hA.up hI
    clear hI
    refine lv_aload_n hx hb dX5_sheet_62 rfl (lv_at hl 1 rfl) ?_
    obtain ⟨v14, ev14, hit⟩ := o_bind hit
    refine c_getR X hA.1.1 kc_Reader 2 q784 (Or.inl rfl) rfl rfl ev14 dX5_sheet_63 ?_
    obtain ⟨v15, ev15, hit⟩ := o_bind hit
    refine c_getNR X hA.1.1 kc_Service 2 q252 (Or.inl rfl) rfl rfl ev15 dX5_sheet_66 ?_
    refine lv_iload_n hx hb dX5_sheet_69 rfl (lv_at hl 0 rfl) ?_
    refine lv_aload_n hx hb dX5_sheet_70 rfl (lv_at hl 1 rfl) ?_
    refine lv_iconst (v := 0) hx hb dX5_sheet_71 (by decide) ?_
    refine lv_iconst (v := 3) hx hb dX5_sheet_72 (by decide) ?_
    rcases xg_inv hit with ⟨q16, eq16, hit⟩ | ⟨x_q16, eq16, he⟩
    rotate_left
    · obtain ⟨iq16, eq16⟩ := vc_inv eq16
      obtain ⟨eq16, lq16⟩ := xchk_r eq16
      refine t_cV X h0H hA kc_Reader (xMet.ti (wC5_number l hT γ X.2.1 _ _ _ _ _ _ eq16)) lq16 iq16 nm_X5_number q981 q983 q146 q984 qs19 ⟨Nat.le_trans (Nat.le_of_ble_eq_true rfl) hR.1, Nat.le_trans (Nat.le_of_ble_eq_true rfl) hR.2⟩ rfl rfl hl.1 (lv_room (Nat.le_of_ble_eq_true rfl)) dX5_sheet_73 (fun H locs cells slots q_ hA hq => ?_)
      exact hthr _ _ _ _ _ _ _ _ _ (by subst he; rfl) hA hq
    obtain ⟨iq16, eq16⟩ := vc_inv eq16
    obtain ⟨eq16, lq16⟩ := xchk_l eq16
    refine a_cV X h0H hA kc_Reader (xMet.i (wC5_number l hT γ X.2.1 _ _ _ _ _ _ eq16)) lq16 iq16 nm_X5_number q981 q983 q146 q984 qs19 ⟨Nat.le_trans (Nat.le_of_ble_eq_true rfl) hR.1, Nat.le_trans (Nat.le_of_ble_eq_true rfl) hR.2⟩ rfl rfl hl.1 (lv_room (Nat.le_of_ble_eq_true rfl)) dX5_sheet_73 (fun H locs cells slots hA => ?_)
    obtain ⟨s17, es17, hit⟩ := o_bind hit
    refine c_iast X hA.1 es17 dX5_sheet_76 (fun H locs hI => ?_)
    replace hA := hA.up hI
    clear hI
    refine lv_aload_n hx hb dX5_sheet_77 rfl (lv_at hl 1 rfl) ?_
    obtain ⟨v18, ev18, hit⟩ := o_bind hit
    refine c_getR X hA.1.1 kc_Reader 1 q783 (Or.inl rfl) rfl rfl ev18 dX5_sheet_78 ?_
    refine lv_dup hx hb dX5_sheet_81 rfl ?_
    obtain ⟨v19, ev19, hit⟩ := o_bind hit
    refine c_getNI X hA.1.1 kc_Office 2 q218 (Or.inl rfl) rfl rfl ev19 dX5_sheet_82 ?_
    refine lv_iconst (v := 1) hx hb dX5_sheet_85 (by decide) ?_
    refine lv_iadd hx hb dX5_sheet_86 ?_
    obtain ⟨s20, es20, hit⟩ := o_bind hit
    refine c_putNI X hA.1 kc_Office 2 q218 (Or.inl rfl) rfl rfl (tyv := .int) rfl rfl rfl es20 dX5_sheet_87 (fun H locs hI => ?_)
    replace hA := hA.up hI
    clear hI
    have he := o_in hit
    exact hend none (s20, q16.2.2) _ _ _ _ _ _ _ _ kOut_v (by subst he; rfl) hA dX5_sheet_90
  have hit := er3
  refine b_icmp_ge (tgt := 19) hx hb dX5_sheet_12 (by decide) hit (fun c21 hit => ?_) (fun c21 hit => ?_)
  · refine lv_iconst (v := 0) hx hb dX5_sheet_19 (by decide) ?_
    have he := o_in hit
    exact hr3 _ he.symm _ _ _ _ _ hA hl
  · refine lv_iconst (v := 1) hx hb dX5_sheet_15 (by decide) ?_
    refine lv_goto (tgt := 20) hx hb dX5_sheet_16 (by decide) ?_
    have he := o_in hit
    exact hr3 _ he.symm _ _ _ _ _ hA hl
noncomputable def C5_clerk_L52 (K : Nat → Nat) (o : Nat) (q4 : CS) (t11 : CS) : Option (CS ⊕ (CS ⊕ XT)) :=
  (gI t11.1 o 4 8).bind fun v17 =>
  if v17 = 2 then
    ((vc t11.1 q4.2.1 10 (CJ2_size t11.1 q4.2.1)).bind fun q19 =>
    xg (fun e_ => .inr (.inr e_)) ((if q19 < 6 then
        (some (.inl 1))
      else
        (some (.inl 0)) : Option (Int32 ⊕ XT))) fun r20 =>
    xg (fun e_ => .inr (.inr e_)) (vc t11.1 o 4 (xchv t11.2 (C5_want K t11.1 t11.2 o r20 2))) fun q21 =>
    xg (fun e_ => .inr (.inr e_)) (vc q21.1 o 4 (xchk q21.2 (C5_number K q21.1 q21.2 o 0 3))) fun q22 =>
    (achk q22.2.2 (CJ19_valueOf K q22.2.1 q22.2.2 q22.1)).bind fun q23 =>
    (vc q23.2.1 q4.2.1 10 (achk q23.2.2 (CJ2_add K q23.2.1 q23.2.2 q4.2.1 q23.1))).bind fun q24 =>
    some (.inl q24.2))
  else
    (some (.inr (.inl t11)))
noncomputable def C5_clerk (K : Nat → Nat) (h : CH) (r : CR) (o : Nat) : Option (CS ⊕ XT) :=
  (gR h o 4 1).bind fun v1 =>
  (vc h v1 2 (C2_clerks h v1)).bind fun q2 =>
  xg Sum.inr ((if q2 < 6 then
      (some (.inl 1))
    else
      (some (.inl 0)) : Option (Int32 ⊕ XT))) fun r3 =>
  xg Sum.inr (vc h o 4 (xchv r (C5_want K h r o r3 2))) fun q4 =>
  (vc q4.1 o 4 (C5_next K q4.1 o)).bind fun q5 =>
  (aCell q5 q4.2 3 (.inr (10, [.int 0, .null, .int 0]))).bind fun s6 =>
  (CJ2_init K s6.1 q4.2.1).bind fun q7 =>
  (gI q7 o 4 8).bind fun v8 =>
  xg Sum.inr ((if v8 = 2 then
      (some (.inl 1))
    else
      (some (.inl 0)) : Option (Int32 ⊕ XT))) fun r9 =>
  xg Sum.inr (vc q7 o 4 (xchv s6.2 (C5_want K q7 s6.2 o r9 1))) fun q10 =>
  xg Sum.inr (o_loop (C5_clerk_L52 K o q4) q10) fun r13 =>
  (gR r13.1 o 4 1).bind fun v14 =>
  (gR r13.1 v14 2 1).bind fun v15 =>
  (vc r13.1 v15 10 (achk r13.2 (CJ2_add K r13.1 r13.2 v15 q4.2.1))).bind fun q16 =>
  some (.inl q16.2)
theorem nm_X5_clerk : kNm yX5_clerk RX5 0 := by unfold kNm; decide +kernel
set_option maxHeartbeats 4000000 in
set_option maxRecDepth 100000 in
theorem wC5_clerk (l : Launch) (hT : l.stackTraces = false) (γ : KG) (hO : kOK γ) (h : CH) (r : CR) (o : Nat) (z : CS ⊕ XT) (hz : C5_clerk γ.2.2.2.2.2 h r o = some z) : xMet l yX5_clerk (ws_ yX5_clerk cX5_clerk 2 none) 9 202 γ (h, r) [.ref o] (xV z) := by
  refine x_start (cc := cX5_clerk) (own := RX5) hO rfl rfl rfl (fun p e R s m args below meth c Q ls X hR hnm h0H hA hl hend hthr hdir => ?_)
  have hx := X.1.1
  have hb := X.1.2.1
  have hit := hz
  clear hz
  unfold C5_clerk at hit
  have hl : lv_has ls 2 [(0, .ref o)] := hl
  refine lv_aload_n hx hb dX5_clerk_0 rfl (lv_at hl 0 rfl) ?_
  refine lv_aload_n hx hb dX5_clerk_1 rfl (lv_at hl 0 rfl) ?_
  obtain ⟨v1, ev1, hit⟩ := o_bind hit
  refine c_getR X hA.1.1 kc_Reader 1 q783 (Or.inl rfl) rfl rfl ev1 dX5_clerk_2 ?_
  obtain ⟨q2, eq2, hit⟩ := o_bind hit
  obtain ⟨iq2, eq2⟩ := vc_inv eq2
  refine c_cR X hA.1.1 (fun U hU hW => hA.D X.2.1 X.2.2 h0H hU hW) kc_Office (wC2_clerks l γ X.2.1 _ _  _ eq2) iq2 nm_X2_clerks q1180 q464 q136 q466 q465 ⟨Nat.le_trans (Nat.le_of_ble_eq_true rfl) hR.1, Nat.le_trans (Nat.le_of_ble_eq_true rfl) hR.2⟩ hA.RR rfl rfl hl.1 (lv_room (Nat.le_of_ble_eq_true rfl)) dX5_clerk_5 ?_
  refine lv_bipush (v := 6) hx hb dX5_clerk_8 (by decide) ?_
  obtain ⟨wr3, er3, hxr3⟩ := xg_bind hit
  have hr3 : ∀ (r3 : Int32), wr3 = .inl r3 → ∀ (H : Heap) (locs : List Loc) (cells slots : Nat) (ls : Array Slot), AI γ (h, r) s R h r H locs cells slots → lv_has ls 2 [(0, .ref o)] → W p l e R s m args below meth c H locs cells slots Q (F0 m 18 ls [.int r3, .ref o]) := by
    intro r3 hw_ H locs cells slots ls hA hl
    have hit := xk_l hxr3 hw_
    refine lv_iconst (v := 2) hx hb dX5_clerk_18 (by decide) ?_
    rcases xg_inv hit with ⟨q4, eq4, hit⟩ | ⟨x_q4, eq4, he⟩
    rotate_left
    · obtain ⟨iq4, eq4⟩ := vc_inv eq4
      obtain ⟨eq4, lq4⟩ := xchv_r eq4
      refine t_cV X h0H hA kc_Reader (xMet.tv (wC5_want l hT γ X.2.1 _ _ _ _ _ _ eq4)) lq4 iq4 nm_X5_want q953 q955 q146 q956 qs18 ⟨Nat.le_trans (Nat.le_of_ble_eq_true rfl) hR.1, Nat.le_trans (Nat.le_of_ble_eq_true rfl) hR.2⟩ rfl rfl hl.1 (lv_room (Nat.le_of_ble_eq_true rfl)) dX5_clerk_19 (fun H locs cells slots q_ hA hq => ?_)
      exact hthr _ _ _ _ _ _ _ _ _ (by subst he; rfl) hA hq
    obtain ⟨iq4, eq4⟩ := vc_inv eq4
    obtain ⟨eq4, lq4⟩ := xchv_l eq4
    refine a_cV X h0H hA kc_Reader (xMet.v (wC5_want l hT γ X.2.1 _ _ _ _ _ _ eq4)) lq4 iq4 nm_X5_want q953 q955 q146 q956 qs18 ⟨Nat.le_trans (Nat.le_of_ble_eq_true rfl) hR.1, Nat.le_trans (Nat.le_of_ble_eq_true rfl) hR.2⟩ rfl rfl hl.1 (lv_room (Nat.le_of_ble_eq_true rfl)) dX5_clerk_19 (fun H locs cells slots hA => ?_)
    refine lv_aload_n hx hb dX5_clerk_22 rfl (lv_at hl 0 rfl) ?_
    obtain ⟨q5, eq5, hit⟩ := o_bind hit
    obtain ⟨iq5, eq5⟩ := vc_inv eq5
    refine c_cN X (kA_F X.2.1 X.2.2 h0H) hA.1 kc_Reader (wC5_next l γ X.2.1 _ _  _ eq5) iq5 nm_X5_next q831 q833 q146 q834 qs10 ⟨Nat.le_trans (Nat.le_of_ble_eq_true rfl) hR.1, Nat.le_trans (Nat.le_of_ble_eq_true rfl) hR.2⟩ hA.RR rfl rfl hl.1 (lv_room (Nat.le_of_ble_eq_true rfl)) dX5_clerk_23 (fun H locs hI => ?_)
    replace hA := hA.up hI
    clear hI
    obtain ⟨s6, es6, hit⟩ := o_bind hit
    refine a_new X hA kc_ArrayList q1181 q183 q139 (fs := [.int 0, .null, .int 0]) (by decide +kernel) es6 dX5_clerk_26 (fun H cells slots hA => ?_)
    refine lv_dup hx hb dX5_clerk_29 rfl ?_
    obtain ⟨q7, eq7, hit⟩ := o_bind hit
    refine c_cNI X (kA_F X.2.1 X.2.2 h0H) hA.1 nm_J2_init q1182 q185 q139 q186 rfl (wCJ2_init l γ X.2.1 _ _  _ eq7) hA.RR ⟨Nat.le_trans (Nat.le_of_ble_eq_true rfl) hR.1, Nat.le_trans (Nat.le_of_ble_eq_true rfl) hR.2⟩ rfl rfl hl.1 (lv_room (Nat.le_of_ble_eq_true rfl)) dX5_clerk_30 (fun H locs hI => ?_)
    replace hA := hA.up hI
    clear hI
    refine lv_astore_n (lv' := [(1, .ref q4.2.1), (0, .ref o)]) hx hb dX5_clerk_33 rfl hl (by decide) rfl (fun ls hl => ?_)
    refine lv_aload_n hx hb dX5_clerk_34 rfl (lv_at hl 1 rfl) ?_
    refine lv_aload_n hx hb dX5_clerk_35 rfl (lv_at hl 1 rfl) ?_
    obtain ⟨v8, ev8, hit⟩ := o_bind hit
    refine c_getI X hA.1.1 kc_Reader 8 q791 (Or.inl rfl) rfl rfl ev8 dX5_clerk_36 ?_
    refine lv_iconst (v := 2) hx hb dX5_clerk_39 (by decide) ?_
    obtain ⟨wr9, er9, hxr9⟩ := xg_bind hit
    have hr9 : ∀ (r9 : Int32), wr9 = .inl r9 → ∀ (H : Heap) (locs : List Loc) (cells slots : Nat) (ls : Array Slot), AI γ (h, r) s R q7 s6.2 H locs cells slots → lv_has ls 2 [(1, .ref q4.2.1), (0, .ref o)] → W p l e R s m args below meth c H locs cells slots Q (F0 m 48 ls [.int r9, .ref o]) := by
      intro r9 hw_ H locs cells slots ls hA hl
      have hit := xk_l hxr9 hw_
      refine lv_iconst (v := 1) hx hb dX5_clerk_48 (by decide) ?_
      rcases xg_inv hit with ⟨q10, eq10, hit⟩ | ⟨x_q10, eq10, he⟩
      rotate_left
      · obtain ⟨iq10, eq10⟩ := vc_inv eq10
        obtain ⟨eq10, lq10⟩ := xchv_r eq10
        refine t_cV X h0H hA kc_Reader (xMet.tv (wC5_want l hT γ X.2.1 _ _ _ _ _ _ eq10)) lq10 iq10 nm_X5_want q953 q955 q146 q956 qs18 ⟨Nat.le_trans (Nat.le_of_ble_eq_true rfl) hR.1, Nat.le_trans (Nat.le_of_ble_eq_true rfl) hR.2⟩ rfl rfl hl.1 (lv_room (Nat.le_of_ble_eq_true rfl)) dX5_clerk_49 (fun H locs cells slots q_ hA hq => ?_)
        exact hthr _ _ _ _ _ _ _ _ _ (by subst he; rfl) hA hq
      obtain ⟨iq10, eq10⟩ := vc_inv eq10
      obtain ⟨eq10, lq10⟩ := xchv_l eq10
      refine a_cV X h0H hA kc_Reader (xMet.v (wC5_want l hT γ X.2.1 _ _ _ _ _ _ eq10)) lq10 iq10 nm_X5_want q953 q955 q146 q956 qs18 ⟨Nat.le_trans (Nat.le_of_ble_eq_true rfl) hR.1, Nat.le_trans (Nat.le_of_ble_eq_true rfl) hR.2⟩ rfl rfl hl.1 (lv_room (Nat.le_of_ble_eq_true rfl)) dX5_clerk_49 (fun H locs cells slots hA => ?_)
      obtain ⟨wr13, er13, hxr13⟩ := xg_bind hit
      have hr13 : ∀ (r13 : CS), wr13 = .inl r13 → ∀ (H : Heap) (locs : List Loc) (cells slots : Nat) (ls : Array Slot), AI γ (h, r) s R r13.1 r13.2 H locs cells slots → lv_has ls 2 [(1, .ref q4.2.1), (0, .ref o)] → W p l e R s m args below meth c H locs cells slots Q (F0 m 100 ls []) := by
        intro r13 hw_ H locs cells slots ls hA hl
        have hit := xk_l hxr13 hw_
        refine lv_aload_n hx hb dX5_clerk_100 rfl (lv_at hl 1 rfl) ?_
        obtain ⟨v14, ev14, hit⟩ := o_bind hit
        refine c_getR X hA.1.1 kc_Reader 1 q783 (Or.inl rfl) rfl rfl ev14 dX5_clerk_101 ?_
        obtain ⟨v15, ev15, hit⟩ := o_bind hit
        refine c_getNR X hA.1.1 kc_Office 1 q215 (Or.inl rfl) rfl rfl ev15 dX5_clerk_104 ?_
        refine lv_aload_n hx hb dX5_clerk_107 rfl (lv_at hl 0 rfl) ?_
        obtain ⟨q16, eq16, hit⟩ := o_bind hit
        obtain ⟨iq16, eq16⟩ := vc_inv eq16
        obtain ⟨eq16, lq16⟩ := achk_inv eq16
        refine a_cF X h0H hA kc_ArrayList iq16 nmi_List_add q1206 q361 q139 q363 q359 q357 q356 q362 q360 q358 (wCJ2_add l γ X.2.1 _ _ _ _ _ eq16) lq16 ⟨Nat.le_trans (Nat.le_of_ble_eq_true rfl) hR.1, Nat.le_trans (Nat.le_of_ble_eq_true rfl) hR.2⟩ rfl rfl hl.1 (lv_room (Nat.le_of_ble_eq_true rfl)) dX5_clerk_108 (fun H locs cells slots hA => ?_)
        refine lv_pop hx hb dX5_clerk_113 rfl ?_
        have he := o_in hit
        exact hend none q16.2 _ _ _ _ _ _ _ _ kOut_v (by subst he; rfl) hA dX5_clerk_114
      refine o_rec (P := fun t11 => ∀ (H : Heap) (locs : List Loc) (cells slots : Nat) (ls : Array Slot), AI γ (h, r) s R t11.1 t11.2 H locs cells slots → lv_has ls 2 [(1, .ref q4.2.1), (0, .ref o)] → W p l e R s m args below meth c H locs cells slots Q (F0 m 52 ls [])) (fun t11 x12 hit hC11 hE11 H locs cells slots ls hA hl => ?_) _ er13 _ _ _ _ _ hA hl
      unfold C5_clerk_L52 at hit
      refine lv_aload_n hx hb dX5_clerk_52 rfl (lv_at hl 1 rfl) ?_
      obtain ⟨v17, ev17, hit⟩ := o_bind hit
      refine c_getI X hA.1.1 kc_Reader 8 q791 (Or.inl rfl) rfl rfl ev17 dX5_clerk_53 ?_
      refine lv_iconst (v := 2) hx hb dX5_clerk_56 (by decide) ?_
      refine b_icmp_ne (tgt := 100) hx hb dX5_clerk_57 (by decide) hit (fun c18 hit => ?_) (fun c18 hit => ?_)
      · have he := o_in hit
        have he := hE11 _ he
        exact hr13 _ he.symm _ _ _ _ _ hA hl
      · refine lv_aload_n hx hb dX5_clerk_60 rfl (lv_at hl 1 rfl) ?_
        refine lv_aload_n hx hb dX5_clerk_61 rfl (lv_at hl 0 rfl) ?_
        obtain ⟨q19, eq19, hit⟩ := o_bind hit
        obtain ⟨iq19, eq19⟩ := vc_inv eq19
        refine c_cRF X hA.1.1 (fun U hU hW => hA.D X.2.1 X.2.2 h0H hU hW) kc_ArrayList (wCJ2_size l γ X.2.1 _ _  _ eq19) iq19 nmi_List_size q1184 q428 q139 q430 q426 q425 q424 q429 q427 q358 ⟨Nat.le_trans (Nat.le_of_ble_eq_true rfl) hR.1, Nat.le_trans (Nat.le_of_ble_eq_true rfl) hR.2⟩ hA.RR rfl rfl hl.1 (lv_room (Nat.le_of_ble_eq_true rfl)) dX5_clerk_62 ?_
        refine lv_bipush (v := 6) hx hb dX5_clerk_67 (by decide) ?_
        obtain ⟨wr20, er20, hxr20⟩ := xg_bind hit
        have hr20 : ∀ (r20 : Int32), wr20 = .inl r20 → ∀ (H : Heap) (locs : List Loc) (cells slots : Nat) (ls : Array Slot), AI γ (h, r) s R t11.1 t11.2 H locs cells slots → lv_has ls 2 [(1, .ref q4.2.1), (0, .ref o)] → W p l e R s m args below meth c H locs cells slots Q (F0 m 77 ls [.int r20, .ref o]) := by
          intro r20 hw_ H locs cells slots ls hA hl
          have hit := xk_l hxr20 hw_
          refine lv_iconst (v := 2) hx hb dX5_clerk_77 (by decide) ?_
          rcases xg_inv hit with ⟨q21, eq21, hit⟩ | ⟨x_q21, eq21, he⟩
          rotate_left
          · obtain ⟨iq21, eq21⟩ := vc_inv eq21
            obtain ⟨eq21, lq21⟩ := xchv_r eq21
            refine t_cV X h0H hA kc_Reader (xMet.tv (wC5_want l hT γ X.2.1 _ _ _ _ _ _ eq21)) lq21 iq21 nm_X5_want q953 q955 q146 q956 qs18 ⟨Nat.le_trans (Nat.le_of_ble_eq_true rfl) hR.1, Nat.le_trans (Nat.le_of_ble_eq_true rfl) hR.2⟩ rfl rfl hl.1 (lv_room (Nat.le_of_ble_eq_true rfl)) dX5_clerk_78 (fun H locs cells slots q_ hA hq => ?_)
            have he := hE11 _ he
            have he := xk_r hxr13 he
            exact hthr _ _ _ _ _ _ _ _ _ (by subst he; rfl) hA hq
          obtain ⟨iq21, eq21⟩ := vc_inv eq21
          obtain ⟨eq21, lq21⟩ := xchv_l eq21
          refine a_cV X h0H hA kc_Reader (xMet.v (wC5_want l hT γ X.2.1 _ _ _ _ _ _ eq21)) lq21 iq21 nm_X5_want q953 q955 q146 q956 qs18 ⟨Nat.le_trans (Nat.le_of_ble_eq_true rfl) hR.1, Nat.le_trans (Nat.le_of_ble_eq_true rfl) hR.2⟩ rfl rfl hl.1 (lv_room (Nat.le_of_ble_eq_true rfl)) dX5_clerk_78 (fun H locs cells slots hA => ?_)
          refine lv_aload_n hx hb dX5_clerk_81 rfl (lv_at hl 0 rfl) ?_
          refine lv_aload_n hx hb dX5_clerk_82 rfl (lv_at hl 1 rfl) ?_
          refine lv_iconst (v := 0) hx hb dX5_clerk_83 (by decide) ?_
          refine lv_iconst (v := 3) hx hb dX5_clerk_84 (by decide) ?_
          rcases xg_inv hit with ⟨q22, eq22, hit⟩ | ⟨x_q22, eq22, he⟩
          rotate_left
          · obtain ⟨iq22, eq22⟩ := vc_inv eq22
            obtain ⟨eq22, lq22⟩ := xchk_r eq22
            refine t_cV X h0H hA kc_Reader (xMet.ti (wC5_number l hT γ X.2.1 _ _ _ _ _ _ eq22)) lq22 iq22 nm_X5_number q981 q983 q146 q984 qs19 ⟨Nat.le_trans (Nat.le_of_ble_eq_true rfl) hR.1, Nat.le_trans (Nat.le_of_ble_eq_true rfl) hR.2⟩ rfl rfl hl.1 (lv_room (Nat.le_of_ble_eq_true rfl)) dX5_clerk_85 (fun H locs cells slots q_ hA hq => ?_)
            have he := hE11 _ he
            have he := xk_r hxr13 he
            exact hthr _ _ _ _ _ _ _ _ _ (by subst he; rfl) hA hq
          obtain ⟨iq22, eq22⟩ := vc_inv eq22
          obtain ⟨eq22, lq22⟩ := xchk_l eq22
          refine a_cV X h0H hA kc_Reader (xMet.i (wC5_number l hT γ X.2.1 _ _ _ _ _ _ eq22)) lq22 iq22 nm_X5_number q981 q983 q146 q984 qs19 ⟨Nat.le_trans (Nat.le_of_ble_eq_true rfl) hR.1, Nat.le_trans (Nat.le_of_ble_eq_true rfl) hR.2⟩ rfl rfl hl.1 (lv_room (Nat.le_of_ble_eq_true rfl)) dX5_clerk_85 (fun H locs cells slots hA => ?_)
          obtain ⟨q23, eq23, hit⟩ := o_bind hit
          obtain ⟨eq23, lq23⟩ := achk_inv eq23
          refine a_cS X h0H hA nm_J19_valueOf q1185 q1186 q165 q1187 (wCJ19_valueOf l γ X.2.1 _ _ _ _ eq23) lq23 ⟨Nat.le_trans (Nat.le_of_ble_eq_true rfl) hR.1, Nat.le_trans (Nat.le_of_ble_eq_true rfl) hR.2⟩ rfl rfl hl.1 (lv_room (Nat.le_of_ble_eq_true rfl)) dX5_clerk_88 (fun H locs cells slots hA => ?_)
          obtain ⟨q24, eq24, hit⟩ := o_bind hit
          obtain ⟨iq24, eq24⟩ := vc_inv eq24
          obtain ⟨eq24, lq24⟩ := achk_inv eq24
          refine a_cF X h0H hA kc_ArrayList iq24 nmi_List_add q1206 q361 q139 q363 q359 q357 q356 q362 q360 q358 (wCJ2_add l γ X.2.1 _ _ _ _ _ eq24) lq24 ⟨Nat.le_trans (Nat.le_of_ble_eq_true rfl) hR.1, Nat.le_trans (Nat.le_of_ble_eq_true rfl) hR.2⟩ rfl rfl hl.1 (lv_room (Nat.le_of_ble_eq_true rfl)) dX5_clerk_91 (fun H locs cells slots hA => ?_)
          refine lv_pop hx hb dX5_clerk_96 rfl ?_
          refine lv_goto (tgt := 52) hx hb dX5_clerk_97 (by decide) ?_
          have he := o_in hit
          exact hC11 _ he _ _ _ _ _ hA hl
        have hit := er20
        refine b_icmp_ge (tgt := 76) hx hb dX5_clerk_69 (by decide) hit (fun c25 hit => ?_) (fun c25 hit => ?_)
        · refine lv_iconst (v := 0) hx hb dX5_clerk_76 (by decide) ?_
          have he := o_in hit
          exact hr20 _ he.symm _ _ _ _ _ hA hl
        · refine lv_iconst (v := 1) hx hb dX5_clerk_72 (by decide) ?_
          refine lv_goto (tgt := 77) hx hb dX5_clerk_73 (by decide) ?_
          have he := o_in hit
          exact hr20 _ he.symm _ _ _ _ _ hA hl
    have hit := er9
    refine b_icmp_ne (tgt := 47) hx hb dX5_clerk_40 (by decide) hit (fun c26 hit => ?_) (fun c26 hit => ?_)
    · refine lv_iconst (v := 0) hx hb dX5_clerk_47 (by decide) ?_
      have he := o_in hit
      exact hr9 _ he.symm _ _ _ _ _ hA hl
    · refine lv_iconst (v := 1) hx hb dX5_clerk_43 (by decide) ?_
      refine lv_goto (tgt := 48) hx hb dX5_clerk_44 (by decide) ?_
      have he := o_in hit
      exact hr9 _ he.symm _ _ _ _ _ hA hl
  have hit := er3
  refine b_icmp_ge (tgt := 17) hx hb dX5_clerk_10 (by decide) hit (fun c27 hit => ?_) (fun c27 hit => ?_)
  · refine lv_iconst (v := 0) hx hb dX5_clerk_17 (by decide) ?_
    have he := o_in hit
    exact hr3 _ he.symm _ _ _ _ _ hA hl
  · refine lv_iconst (v := 1) hx hb dX5_clerk_13 (by decide) ?_
    refine lv_goto (tgt := 18) hx hb dX5_clerk_14 (by decide) ?_
    have he := o_in hit
    exact hr3 _ he.symm _ _ _ _ _ hA hl
