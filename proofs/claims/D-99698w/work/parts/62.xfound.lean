/-! ===== found, right ===== -/
def xV : CS ⊕ XT → (Option Value × CS) ⊕ XT
  | .inl σ => .inl (none, σ)
  | .inr x => .inr x
def xI : (Int32 × CS) ⊕ XT → (Option Value × CS) ⊕ XT
  | .inl q => .inl (some (.int q.1), q.2)
  | .inr x => .inr x
def xR : (Nat × CS) ⊕ XT → (Option Value × CS) ⊕ XT
  | .inl q => .inl (some (.ref q.1), q.2)
  | .inr x => .inr x
set_option maxRecDepth 100000
theorem at_C1_found {args : Array Value} {s : State} {γ : KG} (hO : kOK γ) (hD : kD γ s) (hts : ∀ w ∈ lw_all, w.before args s = true) : ∀ w ∈ vx_at0 "TwinInk" 3 "java/util/NoSuchElementException" ["java/lang/RuntimeException", "java/lang/Exception"], w.before args s = true := by
  refine vx_hat (B := [.declares ⟨"java/lang/RuntimeException", "<init>", "()V"⟩, .declares ⟨"java/lang/Exception", "<init>", "()V"⟩, .declares ⟨"java/lang/Throwable", "<init>", "()V"⟩, .castable "java/util/NoSuchElementException" "java/util/NoSuchElementException"]) ?_ ?_ ?_
  · exact fun w hw => hts w (lw_in ((vx_at0 "TwinInk" 3 "java/util/NoSuchElementException" ["java/lang/RuntimeException", "java/lang/Exception"]).filter goodWord) [142, 716, 725, 729, 732, 734, 717, 718, 174, 175, 719, 724, 730, 747, 706, 748, 708, 749, 710, 720, 722, 712, 1267, 1268, 1269, 739, 739, 740, 741, 742, 742, 743, 744, 717, 1266, 1258, 1260, 728, 1261, 1262, 1263, 1264, 715, 714, 1265] (by decide +kernel) (by decide +kernel) w hw)
  · have e : ((vx_at0 "TwinInk" 3 "java/util/NoSuchElementException" ["java/lang/RuntimeException", "java/lang/Exception"]).filter fun w => !goodWord w).all (fun w => decide (w ∈ ([.declares ⟨"java/lang/RuntimeException", "<init>", "()V"⟩, .declares ⟨"java/lang/Exception", "<init>", "()V"⟩, .declares ⟨"java/lang/Throwable", "<init>", "()V"⟩, .castable "java/util/NoSuchElementException" "java/util/NoSuchElementException"] : List Cond))) = true := by decide +kernel
    exact fun w hw => of_decide_eq_true (List.all_eq_true.mp e w hw)
  · exact vx_c (c_tb hO hD q697 (Cond.declares_setVm hD.1.alike _) rfl) (vx_c (c_tb hO hD q699 (Cond.declares_setVm hD.1.alike _) rfl) (vx_c (c_tb hO hD q701 (Cond.declares_setVm hD.1.alike _) rfl) (vx_c (c_tb hO hD q1259 (Cond.castable_setVm hD.1.alike _ _) rfl) vx_n)))
theorem nm_X1_found : kNm yX1_found RX1 1 := by unfold kNm; decide +kernel
/-- if it isn't so, throw -/
def C1_found (h : CH) (r : CR) (a0 : Int32) : Option (CS ⊕ XT) := if a0 = 0 then (if 1 ≤ r.2.1 ∧ 6 ≤ r.2.2 then some (.inr (0, 0, (h, r.1 + 1, r.2.1 - 1, r.2.2 - 6))) else none) else some (.inl (h, r))
theorem wC1_found (l : Launch) (hT : l.stackTraces = false) (γ : KG) (hO : kOK γ) (h : CH) (r : CR) (a0 : Int32) (z : CS ⊕ XT) (hz : C1_found h r a0 = some z) : xMet l yX1_found (ws_ yX1_found cX1_found 1 none) 6 100 γ (h, r) [.int a0] (xV z) := by
  refine x_start (cc := cX1_found) (own := RX1) hO rfl rfl rfl (fun p e R s m args below meth c Q ls X hR hnm h0H hA hl hend hthr hdir => ?_)
  have hx := X.1.1
  have hb := X.1.2.1
  have hl : lv_has ls 1 [(0, .int a0)] := hl
  unfold C1_found at hz
  refine lv_iload_n hx hb dX1_found_0 rfl (lv_at hl 0 rfl) ?_
  refine b_if_ne (tgt := 12) hx hb dX1_found_1 (by decide) hz (fun c1 hit => ?_) (fun c1 hit => ?_)
  · cases hit
    exact hend none (h, r) _ _ _ _ _ _ _ _ kOut_v rfl hA dX1_found_12
  · split at hit
    · next hsp =>
      cases hit
      exact t_E0 (E := 0) (cls := "java/util/NoSuchElementException") (names := ["java/lang/RuntimeException", "java/lang/Exception"]) X hT hA h0H hA hsp rfl (by decide) (by decide +kernel) (by decide +kernel) q1257 q167 (at_C1_found X.2.1 X.2.2 X.1.2.2.2.2) (by decide +kernel) hl.1 dX1_found_4 dX1_found_7 dX1_found_8 dX1_found_11 ⟨Nat.lt_of_lt_of_le (by decide) hR.1, Nat.le_trans (by decide) hR.2⟩ (by decide) (hdir _ rfl)
    · cases hit
theorem at_C1_right {args : Array Value} {s : State} {γ : KG} (hO : kOK γ) (hD : kD γ s) (hts : ∀ w ∈ lw_all, w.before args s = true) : ∀ w ∈ vx_at0 "TwinInk" 9 "java/lang/IllegalArgumentException" ["java/lang/RuntimeException", "java/lang/Exception"], w.before args s = true := by
  refine vx_hat (B := [.declares ⟨"java/lang/RuntimeException", "<init>", "()V"⟩, .declares ⟨"java/lang/Exception", "<init>", "()V"⟩, .declares ⟨"java/lang/Throwable", "<init>", "()V"⟩, .castable "java/lang/IllegalArgumentException" "java/lang/IllegalArgumentException"]) ?_ ?_ ?_
  · exact fun w hw => hts w (lw_in ((vx_at0 "TwinInk" 9 "java/lang/IllegalArgumentException" ["java/lang/RuntimeException", "java/lang/Exception"]).filter goodWord) [142, 716, 725, 729, 732, 734, 717, 718, 174, 175, 719, 724, 730, 747, 706, 748, 708, 749, 710, 720, 722, 712, 736, 737, 738, 739, 739, 740, 741, 742, 742, 743, 744, 717, 735, 695, 703, 704, 705, 707, 709, 711, 715, 714, 713] (by decide +kernel) (by decide +kernel) w hw)
  · have e : ((vx_at0 "TwinInk" 9 "java/lang/IllegalArgumentException" ["java/lang/RuntimeException", "java/lang/Exception"]).filter fun w => !goodWord w).all (fun w => decide (w ∈ ([.declares ⟨"java/lang/RuntimeException", "<init>", "()V"⟩, .declares ⟨"java/lang/Exception", "<init>", "()V"⟩, .declares ⟨"java/lang/Throwable", "<init>", "()V"⟩, .castable "java/lang/IllegalArgumentException" "java/lang/IllegalArgumentException"] : List Cond))) = true := by decide +kernel
    exact fun w hw => of_decide_eq_true (List.all_eq_true.mp e w hw)
  · exact vx_c (c_tb hO hD q697 (Cond.declares_setVm hD.1.alike _) rfl) (vx_c (c_tb hO hD q699 (Cond.declares_setVm hD.1.alike _) rfl) (vx_c (c_tb hO hD q701 (Cond.declares_setVm hD.1.alike _) rfl) (vx_c (c_tb hO hD q696 (Cond.castable_setVm hD.1.alike _ _) rfl) vx_n)))
theorem nm_X1_right : kNm yX1_right RX1 1 := by unfold kNm; decide +kernel
/-- if it isn't so, throw -/
def C1_right (h : CH) (r : CR) (a0 : Int32) : Option (CS ⊕ XT) := if a0 = 0 then (if 1 ≤ r.2.1 ∧ 6 ≤ r.2.2 then some (.inr (1, 0, (h, r.1 + 1, r.2.1 - 1, r.2.2 - 6))) else none) else some (.inl (h, r))
theorem wC1_right (l : Launch) (hT : l.stackTraces = false) (γ : KG) (hO : kOK γ) (h : CH) (r : CR) (a0 : Int32) (z : CS ⊕ XT) (hz : C1_right h r a0 = some z) : xMet l yX1_right (ws_ yX1_right cX1_right 1 none) 6 100 γ (h, r) [.int a0] (xV z) := by
  refine x_start (cc := cX1_right) (own := RX1) hO rfl rfl rfl (fun p e R s m args below meth c Q ls X hR hnm h0H hA hl hend hthr hdir => ?_)
  have hx := X.1.1
  have hb := X.1.2.1
  have hl : lv_has ls 1 [(0, .int a0)] := hl
  unfold C1_right at hz
  refine lv_iload_n hx hb dX1_right_0 rfl (lv_at hl 0 rfl) ?_
  refine b_if_ne (tgt := 12) hx hb dX1_right_1 (by decide) hz (fun c1 hit => ?_) (fun c1 hit => ?_)
  · cases hit
    exact hend none (h, r) _ _ _ _ _ _ _ _ kOut_v rfl hA dX1_right_12
  · split at hit
    · next hsp =>
      cases hit
      exact t_E0 (E := 1) (cls := "java/lang/IllegalArgumentException") (names := ["java/lang/RuntimeException", "java/lang/Exception"]) X hT hA h0H hA hsp rfl (by decide) (by decide +kernel) (by decide +kernel) q694 q145 (at_C1_right X.2.1 X.2.2 X.1.2.2.2.2) (by decide +kernel) hl.1 dX1_right_4 dX1_right_7 dX1_right_8 dX1_right_11 ⟨Nat.lt_of_lt_of_le (by decide) hR.1, Nat.le_trans (by decide) hR.2⟩ (by decide) (hdir _ rfl)
    · cases hit
