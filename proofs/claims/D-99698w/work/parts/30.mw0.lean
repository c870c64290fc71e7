noncomputable def M_thrown (σ : MS) : Option (Int32) :=
  some (mf σ 0)
theorem nm_X4_thrown : kNm yX4_thrown RX4 0 := by unfold kNm; decide +kernel
set_option maxHeartbeats 4000000 in
set_option maxRecDepth 100000 in
theorem wM_thrown (l : Launch) (G : va_G) (dT : Nat → ClassId) (o : Nat) (ad : Nat → Nat) (σ : MS) (z : Int32) (h : M_thrown σ = some z) : Met l yX4_thrown (ws_ yX4_thrown cX4_thrown 1 (some .int)) (kRm 0 0) (mPc G dT o ad σ []) (vp_Si (fun r => r = z)) 0 0 vp_nf := by
  refine m_startR (cc := cX4_thrown) (ty := .int) rfl rfl rfl (fun p e R s m args below meth c Q ls X hR hM hl hend => ?_)
  have hx := X.1.1
  have hb := X.1.2.1
  have hit := h
  clear h
  unfold M_thrown at hit
  have hl : lv_has ls 1 [(0, .ref o)] := hl
  refine lv_aload_n hx hb dX4_thrown_0 rfl (lv_at hl 0 rfl) ?_
  refine m_get X hM 0 q1644 rfl rfl (v := .int (mf σ 0)) rfl dX4_thrown_1 ?_
  have he := o_in hit
  exact hend _ (mf σ 0) _ _ rfl he dX4_thrown_4
noncomputable def M_right (σ : MS) (a0 : Int32) (a1 : Int32) : Option (Int32 × MS) :=
  ((if (mf σ 0) = 0 then
      (if a0 = 0 then
        ((pf σ 0 a1).bind fun s5 =>
        some s5)
      else
        (some σ))
    else
      (some σ) : Option MS)).bind fun r1 =>
  if (mf r1 0) = 0 then
    (some (1, r1))
  else
    (some (0, r1))
theorem nm_X4_right : kNm yX4_right RX4 2 := by unfold kNm; decide +kernel
set_option maxHeartbeats 4000000 in
set_option maxRecDepth 100000 in
theorem wM_right (l : Launch) (G : va_G) (dT : Nat → ClassId) (o : Nat) (ad : Nat → Nat) (σ : MS) (a0 : Int32) (a1 : Int32) (z : Int32 × MS) (h : M_right σ a0 a1 = some z) : Met l yX4_right (ws_ yX4_right cX4_right 3 (some .boolean)) (kRm 0 0) (mPc G dT o ad σ [.int a0, .int a1]) (va_Qi (fun r (_ : Unit) => r = z.1) (fun _ t => MH G dT o ad z.2 t.heap) (mAd o ad)) 0 0 (mAd o ad) := by
  refine m_startNi (cc := cX4_right) (ty := .boolean) rfl rfl rfl (fun p e R s m args below meth c Q ls X hR hM hS hl hend => ?_)
  have hx := X.1.1
  have hb := X.1.2.1
  have hit := h
  clear h
  unfold M_right at hit
  have hl : lv_has ls 3 [(0, .ref o), (1, .int a0), (2, .int a1)] := hl
  refine lv_aload_n hx hb dX4_right_0 rfl (lv_at hl 0 rfl) ?_
  refine m_get X hM 0 q1644 rfl rfl (v := .int (mf σ 0)) rfl dX4_right_1 ?_
  obtain ⟨r1, er1, hit⟩ := o_bind hit
  have hr1 : ∀ (H : Heap) (locs : List Loc) (ls : Array Slot), MH G dT o ad r1 H → va_S (mAd o ad) s.heap H locs → lv_has ls 3 [(0, .ref o)] → W p l e R s m args below meth c H locs 0 0 Q (F0 m 16 ls []) := by
    intro H locs ls hM hS hl
    refine lv_aload_n hx hb dX4_right_16 rfl (lv_at hl 0 rfl) ?_
    refine m_get X hM 0 q1644 rfl rfl (v := .int (mf r1 0)) rfl dX4_right_17 ?_
    refine b_if_ne (tgt := 27) hx hb dX4_right_20 (by decide) hit (fun c2 hit => ?_) (fun c2 hit => ?_)
    · refine lv_iconst (v := 0) hx hb dX4_right_27 (by decide) ?_
      have he := o_in hit
      exact hend _ 0 _ _ _ _ _ rfl he hM hS dX4_right_28
    · refine lv_iconst (v := 1) hx hb dX4_right_23 (by decide) ?_
      refine lv_goto (tgt := 28) hx hb dX4_right_24 (by decide) ?_
      have he := o_in hit
      exact hend _ 1 _ _ _ _ _ rfl he hM hS dX4_right_28
  have hit := er1
  refine b_if_ne (tgt := 16) hx hb dX4_right_4 (by decide) hit (fun c3 hit => ?_) (fun c3 hit => ?_)
  · have he := o_in hit
    subst he
    exact hr1 _ _ _ hM hS (lv_sub hl [0] rfl)
  · refine lv_iload_n hx hb dX4_right_7 rfl (lv_at hl 1 rfl) ?_
    refine b_if_ne (tgt := 16) hx hb dX4_right_8 (by decide) hit (fun c4 hit => ?_) (fun c4 hit => ?_)
    · have he := o_in hit
      subst he
      exact hr1 _ _ _ hM hS (lv_sub hl [0] rfl)
    · refine lv_aload_n hx hb dX4_right_11 rfl (lv_at hl 0 rfl) ?_
      refine lv_iload_n hx hb dX4_right_12 rfl (lv_at hl 2 rfl) ?_
      obtain ⟨s5, es5, hit⟩ := o_bind hit
      refine m_put X hM hS 0 q1644 rfl rfl (ty := .int) rfl rfl rfl es5 dX4_right_13 (fun H locs hM hS => ?_)
      have he := o_in hit
      subst he
      exact hr1 _ _ _ hM hS (lv_sub hl [0] rfl)
noncomputable def M_within (a0 : Int32) (a1 : Int32) (a2 : Int32) : Option (Int32) :=
  if a0 < a1 then
    (some 0)
  else
    (if a0 ≤ a2 then
      (some 1)
    else
      (some 0))
theorem nm_X4_within : kNm yX4_within RX4 3 := by unfold kNm; decide +kernel
set_option maxHeartbeats 4000000 in
set_option maxRecDepth 100000 in
theorem wM_within (l : Launch) (a0 : Int32) (a1 : Int32) (a2 : Int32) (z : Int32) (h : M_within a0 a1 a2 = some z) : Met l yX4_within (ws_ yX4_within cX4_within 3 (some .boolean)) (kRm 0 0) (bPc [.int a0, .int a1, .int a2]) (vp_Si (fun r => r = z)) 0 0 vp_nf := by
  refine m_startP (cc := cX4_within) (ty := .boolean) rfl rfl rfl (fun p e R s m args below meth c Q ls X hR hl hend => ?_)
  have hx := X.1
  have hb := X.2.1
  have hit := h
  clear h
  unfold M_within at hit
  have hl : lv_has ls 3 [(0, .int a0), (1, .int a1), (2, .int a2)] := hl
  refine lv_iload_n hx hb dX4_within_0 rfl (lv_at hl 0 rfl) ?_
  refine lv_iload_n hx hb dX4_within_1 rfl (lv_at hl 1 rfl) ?_
  refine b_icmp_lt (tgt := 14) hx hb dX4_within_2 (by decide) hit (fun c1 hit => ?_) (fun c1 hit => ?_)
  · refine lv_iconst (v := 0) hx hb dX4_within_14 (by decide) ?_
    have he := o_in hit
    exact hend _ 0 _ _ rfl he dX4_within_15
  · refine lv_iload_n hx hb dX4_within_5 rfl (lv_at hl 0 rfl) ?_
    refine lv_iload_n hx hb dX4_within_6 rfl (lv_at hl 2 rfl) ?_
    refine b_icmp_gt (tgt := 14) hx hb dX4_within_7 (by decide) hit (fun c2 hit => ?_) (fun c2 hit => ?_)
    · refine lv_iconst (v := 0) hx hb dX4_within_14 (by decide) ?_
      have he := o_in hit
      exact hend _ 0 _ _ rfl he dX4_within_15
    · refine lv_iconst (v := 1) hx hb dX4_within_10 (by decide) ?_
      refine lv_goto (tgt := 15) hx hb dX4_within_11 (by decide) ?_
      have he := o_in hit
      exact hend _ 1 _ _ rfl he dX4_within_15
noncomputable def M_greater (a0 : Int32) (a1 : Int32) : Option (Int32) :=
  if a0 ≤ a1 then
    (some a1)
  else
    (some a0)
theorem nm_X4_greater : kNm yX4_greater RX4 2 := by unfold kNm; decide +kernel
set_option maxHeartbeats 4000000 in
set_option maxRecDepth 100000 in
theorem wM_greater (l : Launch) (a0 : Int32) (a1 : Int32) (z : Int32) (h : M_greater a0 a1 = some z) : Met l yX4_greater (ws_ yX4_greater cX4_greater 2 (some .int)) (kRm 0 0) (bPc [.int a0, .int a1]) (vp_Si (fun r => r = z)) 0 0 vp_nf := by
  refine m_startP (cc := cX4_greater) (ty := .int) rfl rfl rfl (fun p e R s m args below meth c Q ls X hR hl hend => ?_)
  have hx := X.1
  have hb := X.2.1
  have hit := h
  clear h
  unfold M_greater at hit
  have hl : lv_has ls 2 [(0, .int a0), (1, .int a1)] := hl
  refine lv_iload_n hx hb dX4_greater_0 rfl (lv_at hl 0 rfl) ?_
  refine lv_iload_n hx hb dX4_greater_1 rfl (lv_at hl 1 rfl) ?_
  refine b_icmp_le (tgt := 9) hx hb dX4_greater_2 (by decide) hit (fun c1 hit => ?_) (fun c1 hit => ?_)
  · refine lv_iload_n hx hb dX4_greater_9 rfl (lv_at hl 1 rfl) ?_
    have he := o_in hit
    exact hend _ a1 _ _ rfl he dX4_greater_10
  · refine lv_iload_n hx hb dX4_greater_5 rfl (lv_at hl 0 rfl) ?_
    refine lv_goto (tgt := 10) hx hb dX4_greater_6 (by decide) ?_
    have he := o_in hit
    exact hend _ a0 _ _ rfl he dX4_greater_10
noncomputable def M_copies_L2 (j0 : Nat) (j1 : Nat) (t1 : Int32 × MS) : Option ((Int32 × MS) ⊕ MS) :=
  if t1.1 < (alen j0) then
    ((ald t1.2 j0 t1.1).bind fun v4 =>
    (ast t1.2 j1 t1.1 v4).bind fun s5 =>
    some (.inl ((t1.1 + 1), s5)))
  else
    (some (.inr t1.2))
noncomputable def M_copies (σ : MS) (j0 : Nat) (j1 : Nat) : Option (MS) :=
  o_loop (M_copies_L2 j0 j1) (0, σ)
theorem nm_X4_copies : kNm yX4_copies RX4 2 := by unfold kNm; decide +kernel
set_option maxHeartbeats 4000000 in
set_option maxRecDepth 100000 in
theorem wM_copies (l : Launch) (G : va_G) (dT : Nat → ClassId) (o : Nat) (ad : Nat → Nat) (σ : MS) (j0 : Nat) (j1 : Nat) (z : MS) (ij0 : Nat) (hj0 : marr[ij0]? = some j0) (gj0 : Nat.beq j0 43 = false) (ij1 : Nat) (hj1 : marr[ij1]? = some j1) (gj1 : Nat.beq j1 43 = false) (h : M_copies σ j0 j1 = some z) : Met l yX4_copies (ws_ yX4_copies cX4_copies 4 none) (kRm 0 0) (mPc G dT o ad σ [.ref (ad j0), .ref (ad j1)]) (va_Qv (fun (_ : Unit) => True) (fun _ t => MH G dT o ad z t.heap) (mAd o ad)) 0 0 (mAd o ad) := by
  refine m_startNv (cc := cX4_copies) rfl rfl rfl (fun p e R s m args below meth c Q ls X hR hM hS hl hend => ?_)
  have hx := X.1.1
  have hb := X.1.2.1
  have hit := h
  clear h
  unfold M_copies at hit
  have hl : lv_has ls 4 [(0, .ref o), (1, .ref (ad j0)), (2, .ref (ad j1))] := hl
  refine lv_iconst (v := 0) hx hb dX4_copies_0 (by decide) ?_
  refine lv_istore_n (lv' := [(3, .int 0), (0, .ref o), (1, .ref (ad j0)), (2, .ref (ad j1))]) hx hb dX4_copies_1 rfl hl (by decide) rfl (fun ls hl => ?_)
  refine o_rec (P := fun t1 => ∀ (H : Heap) (locs : List Loc) (ls : Array Slot), MH G dT o ad t1.2 H → va_S (mAd o ad) s.heap H locs → lv_has ls 4 [(1, .ref (ad j0)), (2, .ref (ad j1)), (3, .int t1.1)] → W p l e R s m args below meth c H locs 0 0 Q (F0 m 2 ls [])) (fun t1 x2 hit hC1 hE1 H locs ls hM hS hl => ?_) _ hit _ _ _ hM hS (lv_sub hl [2, 3, 0] rfl)
  unfold M_copies_L2 at hit
  refine lv_iload_n hx hb dX4_copies_2 rfl (lv_at hl 2 rfl) ?_
  refine lv_aload_n hx hb dX4_copies_3 rfl (lv_at hl 0 rfl) ?_
  refine m_alen X hM ij0 j0 hj0 dX4_copies_4 ?_
  refine b_icmp_ge (tgt := 20) hx hb dX4_copies_5 (by decide) hit (fun c3 hit => ?_) (fun c3 hit => ?_)
  · have he := o_in hit
    have he := hE1 _ he
    exact hend _ _ _ _ _ he hM hS dX4_copies_20
  · refine lv_aload_n hx hb dX4_copies_8 rfl (lv_at hl 1 rfl) ?_
    refine lv_iload_n hx hb dX4_copies_9 rfl (lv_at hl 2 rfl) ?_
    refine lv_aload_n hx hb dX4_copies_10 rfl (lv_at hl 0 rfl) ?_
    refine lv_iload_n hx hb dX4_copies_11 rfl (lv_at hl 2 rfl) ?_
    obtain ⟨v4, ev4, hit⟩ := o_bind hit
    refine m_iald X hM ij0 j0 hj0 gj0 ev4 dX4_copies_12 ?_
    obtain ⟨s5, es5, hit⟩ := o_bind hit
    refine m_iast X hM hS ij1 j1 hj1 gj1 es5 dX4_copies_13 (fun H locs hM hS => ?_)
    refine lv_iinc (k := 2) (v := (t1.1 + 1)) (lv' := [(3, .int (t1.1 + 1)), (1, .ref (ad j0)), (2, .ref (ad j1))]) hx hb dX4_copies_14 hl rfl rfl (by decide) rfl (fun ls hl => ?_)
    refine lv_goto (tgt := 2) hx hb dX4_copies_17 (by decide) ?_
    have he := o_in hit
    exact hC1 _ he _ _ _ hM hS (lv_sub hl [1, 2, 0] rfl)
noncomputable def M_bits_L4 (a0 : Int32) (t1 : Int32 × Int32) : Option ((Int32 × Int32) ⊕ Int32) :=
  if t1.2 < 12 then
    (some (.inl ((t1.1 + ((a0 >>> (t1.2 &&& 31)) &&& 1)), (t1.2 + 1))))
  else
    (some (.inr t1.1))
noncomputable def M_bits (a0 : Int32) : Option (Int32) :=
  o_loop (M_bits_L4 a0) (0, 0)
theorem nm_X4_bits : kNm yX4_bits RX4 1 := by unfold kNm; decide +kernel
set_option maxHeartbeats 4000000 in
set_option maxRecDepth 100000 in
theorem wM_bits (l : Launch) (a0 : Int32) (z : Int32) (h : M_bits a0 = some z) : Met l yX4_bits (ws_ yX4_bits cX4_bits 3 (some .int)) (kRm 0 0) (bPc [.int a0]) (vp_Si (fun r => r = z)) 0 0 vp_nf := by
  refine m_startP (cc := cX4_bits) (ty := .int) rfl rfl rfl (fun p e R s m args below meth c Q ls X hR hl hend => ?_)
  have hx := X.1
  have hb := X.2.1
  have hit := h
  clear h
  unfold M_bits at hit
  have hl : lv_has ls 3 [(0, .int a0)] := hl
  refine lv_iconst (v := 0) hx hb dX4_bits_0 (by decide) ?_
  refine lv_istore_n (lv' := [(1, .int 0), (0, .int a0)]) hx hb dX4_bits_1 rfl hl (by decide) rfl (fun ls hl => ?_)
  refine lv_iconst (v := 0) hx hb dX4_bits_2 (by decide) ?_
  refine lv_istore_n (lv' := [(2, .int 0), (1, .int 0), (0, .int a0)]) hx hb dX4_bits_3 rfl hl (by decide) rfl (fun ls hl => ?_)
  refine o_rec (P := fun t1 => ∀ (ls : Array Slot), lv_has ls 3 [(0, .int a0), (1, .int t1.1), (2, .int t1.2)] → W p l e R s m args below meth c s.heap [] 0 0 Q (F0 m 4 ls [])) (fun t1 x2 hit hC1 hE1 ls hl => ?_) _ hit _ (lv_sub hl [2, 1, 0] rfl)
  unfold M_bits_L4 at hit
  refine lv_iload_n hx hb dX4_bits_4 rfl (lv_at hl 2 rfl) ?_
  refine lv_bipush (v := 12) hx hb dX4_bits_5 (by decide) ?_
  refine b_icmp_ge (tgt := 24) hx hb dX4_bits_7 (by decide) hit (fun c3 hit => ?_) (fun c3 hit => ?_)
  · refine lv_iload_n hx hb dX4_bits_24 rfl (lv_at hl 1 rfl) ?_
    have he := o_in hit
    have he := hE1 _ he
    exact hend _ t1.1 _ _ rfl he dX4_bits_25
  · refine lv_iload_n hx hb dX4_bits_10 rfl (lv_at hl 1 rfl) ?_
    refine lv_iload_n hx hb dX4_bits_11 rfl (lv_at hl 0 rfl) ?_
    refine lv_iload_n hx hb dX4_bits_12 rfl (lv_at hl 2 rfl) ?_
    refine lv_ishr hx hb dX4_bits_13 ?_
    refine lv_iconst (v := 1) hx hb dX4_bits_14 (by decide) ?_
    refine lv_iand hx hb dX4_bits_15 ?_
    refine lv_iadd hx hb dX4_bits_16 ?_
    refine lv_istore_n (lv' := [(1, .int (t1.1 + ((a0 >>> (t1.2 &&& 31)) &&& 1))), (0, .int a0), (2, .int t1.2)]) hx hb dX4_bits_17 rfl hl (by decide) rfl (fun ls hl => ?_)
    refine lv_iinc (k := 2) (v := (t1.2 + 1)) (lv' := [(2, .int (t1.2 + 1)), (1, .int (t1.1 + ((a0 >>> (t1.2 &&& 31)) &&& 1))), (0, .int a0)]) hx hb dX4_bits_18 hl rfl rfl (by decide) rfl (fun ls hl => ?_)
    refine lv_goto (tgt := 4) hx hb dX4_bits_21 (by decide) ?_
    have he := o_in hit
    exact hC1 _ he _ (lv_sub hl [2, 1, 0] rfl)
noncomputable def M_lays_L3 (a0 : Int32) (t1 : Int32 × MS) : Option ((Int32 × MS) ⊕ MS) :=
  if t1.1 < 0 then
    (some (.inr t1.2))
  else
    ((ast t1.2 12 (mf t1.2 13) ((a0 >>> (t1.1 &&& 31)) &&& 255)).bind fun s4 =>
    (pf s4 13 ((mf s4 13) + 1)).bind fun s5 =>
    some (.inl ((t1.1 + (-8)), s5)))
noncomputable def M_lays (σ : MS) (a0 : Int32) : Option (MS) :=
  o_loop (M_lays_L3 a0) (24, σ)
theorem nm_X4_lays : kNm yX4_lays RX4 1 := by unfold kNm; decide +kernel
set_option maxHeartbeats 4000000 in
set_option maxRecDepth 100000 in
theorem wM_lays (l : Launch) (G : va_G) (dT : Nat → ClassId) (o : Nat) (ad : Nat → Nat) (σ : MS) (a0 : Int32) (z : MS) (h : M_lays σ a0 = some z) : Met l yX4_lays (ws_ yX4_lays cX4_lays 3 none) (kRm 0 0) (mPc G dT o ad σ [.int a0]) (va_Qv (fun (_ : Unit) => True) (fun _ t => MH G dT o ad z t.heap) (mAd o ad)) 0 0 (mAd o ad) := by
  refine m_startNv (cc := cX4_lays) rfl rfl rfl (fun p e R s m args below meth c Q ls X hR hM hS hl hend => ?_)
  have hx := X.1.1
  have hb := X.1.2.1
  have hit := h
  clear h
  unfold M_lays at hit
  have hl : lv_has ls 3 [(0, .ref o), (1, .int a0)] := hl
  refine lv_bipush (v := 24) hx hb dX4_lays_0 (by decide) ?_
  refine lv_istore_n (lv' := [(2, .int 24), (0, .ref o), (1, .int a0)]) hx hb dX4_lays_2 rfl hl (by decide) rfl (fun ls hl => ?_)
  refine o_rec (P := fun t1 => ∀ (H : Heap) (locs : List Loc) (ls : Array Slot), MH G dT o ad t1.2 H → va_S (mAd o ad) s.heap H locs → lv_has ls 3 [(0, .ref o), (1, .int a0), (2, .int t1.1)] → W p l e R s m args below meth c H locs 0 0 Q (F0 m 3 ls [])) (fun t1 x2 hit hC1 hE1 H locs ls hM hS hl => ?_) _ hit _ _ _ hM hS (lv_sub hl [1, 2, 0] rfl)
  unfold M_lays_L3 at hit
  refine lv_iload_n hx hb dX4_lays_3 rfl (lv_at hl 2 rfl) ?_
  refine b_if_lt (tgt := 39) hx hb dX4_lays_4 (by decide) hit (fun c3 hit => ?_) (fun c3 hit => ?_)
  · have he := o_in hit
    have he := hE1 _ he
    exact hend _ _ _ _ _ he hM hS dX4_lays_39
  · refine lv_aload_n hx hb dX4_lays_7 rfl (lv_at hl 0 rfl) ?_
    refine m_get X hM 12 q1656 rfl rfl (v := .ref (ad 12)) rfl dX4_lays_8 ?_
    refine lv_aload_n hx hb dX4_lays_11 rfl (lv_at hl 0 rfl) ?_
    refine m_get X hM 13 q1657 rfl rfl (v := .int (mf t1.2 13)) rfl dX4_lays_12 ?_
    refine lv_iload_n hx hb dX4_lays_15 rfl (lv_at hl 1 rfl) ?_
    refine lv_iload_n hx hb dX4_lays_16 rfl (lv_at hl 2 rfl) ?_
    refine lv_ishr hx hb dX4_lays_17 ?_
    refine lv_sipush (v := 255) hx hb dX4_lays_18 (by decide) ?_
    refine lv_iand hx hb dX4_lays_21 ?_
    obtain ⟨s4, es4, hit⟩ := o_bind hit
    refine m_iast X hM hS 5 12 rfl rfl es4 dX4_lays_22 (fun H locs hM hS => ?_)
    refine lv_aload_n hx hb dX4_lays_23 rfl (lv_at hl 0 rfl) ?_
    refine lv_dup hx hb dX4_lays_24 rfl ?_
    refine m_get X hM 13 q1657 rfl rfl (v := .int (mf s4 13)) rfl dX4_lays_25 ?_
    refine lv_iconst (v := 1) hx hb dX4_lays_28 (by decide) ?_
    refine lv_iadd hx hb dX4_lays_29 ?_
    obtain ⟨s5, es5, hit⟩ := o_bind hit
    refine m_put X hM hS 13 q1657 rfl rfl (ty := .int) rfl rfl rfl es5 dX4_lays_30 (fun H locs hM hS => ?_)
    refine lv_iinc (k := 2) (v := (t1.1 + (-8))) (lv' := [(2, .int (t1.1 + (-8))), (0, .ref o), (1, .int a0)]) hx hb dX4_lays_33 hl rfl rfl (by decide) rfl (fun ls hl => ?_)
    refine lv_goto (tgt := 3) hx hb dX4_lays_36 (by decide) ?_
    have he := o_in hit
    exact hC1 _ he _ _ _ hM hS (lv_sub hl [1, 2, 0] rfl)
noncomputable def M_feed (σ : MS) (a0 : Int32) (a1 : Int32) (a2 : Int32) (a3 : Int32) (a4 : Int32) : Option (Int32 × MS) :=
  (pf σ 0 0).bind fun s1 =>
  if ((mf s1 13) + 20) ≤ 700 then
    ((M_lays s1 a0).bind fun q3 =>
    (M_lays q3 a1).bind fun q4 =>
    (M_lays q4 a2).bind fun q5 =>
    (M_lays q5 a3).bind fun q6 =>
    (M_lays q6 a4).bind fun q7 =>
    some ((mf q7 13), q7))
  else
    (some ((-1), s1))
theorem nm_X4_feed : kNm yX4_feed RX4 5 := by unfold kNm; decide +kernel
set_option maxHeartbeats 4000000 in
set_option maxRecDepth 100000 in
theorem wM_feed (l : Launch) (G : va_G) (dT : Nat → ClassId) (o : Nat) (ad : Nat → Nat) (σ : MS) (a0 : Int32) (a1 : Int32) (a2 : Int32) (a3 : Int32) (a4 : Int32) (z : Int32 × MS) (h : M_feed σ a0 a1 a2 a3 a4 = some z) : Met l yX4_feed (ws_ yX4_feed cX4_feed 6 (some .int)) (kRm 1 22) (mPc G dT o ad σ [.int a0, .int a1, .int a2, .int a3, .int a4]) (va_Qi (fun r (_ : Unit) => r = z.1) (fun _ t => MH G dT o ad z.2 t.heap) (mAd o ad)) 0 0 (mAd o ad) := by
  refine m_startNi (cc := cX4_feed) (ty := .int) rfl rfl rfl (fun p e R s m args below meth c Q ls X hR hM hS hl hend => ?_)
  have hx := X.1.1
  have hb := X.1.2.1
  have hit := h
  clear h
  unfold M_feed at hit
  have hl : lv_has ls 6 [(0, .ref o), (1, .int a0), (2, .int a1), (3, .int a2), (4, .int a3), (5, .int a4)] := hl
  refine lv_aload_n hx hb dX4_feed_0 rfl (lv_at hl 0 rfl) ?_
  refine lv_iconst (v := 0) hx hb dX4_feed_1 (by decide) ?_
  obtain ⟨s1, es1, hit⟩ := o_bind hit
  refine m_put X hM hS 0 q1644 rfl rfl (ty := .int) rfl rfl rfl es1 dX4_feed_2 (fun H locs hM hS => ?_)
  refine lv_aload_n hx hb dX4_feed_5 rfl (lv_at hl 0 rfl) ?_
  refine m_get X hM 13 q1657 rfl rfl (v := .int (mf s1 13)) rfl dX4_feed_6 ?_
  refine lv_bipush (v := 20) hx hb dX4_feed_9 (by decide) ?_
  refine lv_iadd hx hb dX4_feed_11 ?_
  refine lv_sipush (v := 700) hx hb dX4_feed_12 (by decide) ?_
  refine b_icmp_le (tgt := 20) hx hb dX4_feed_15 (by decide) hit (fun c2 hit => ?_) (fun c2 hit => ?_)
  · refine lv_aload_n hx hb dX4_feed_20 rfl (lv_at hl 0 rfl) ?_
    refine lv_iload_n hx hb dX4_feed_21 rfl (lv_at hl 1 rfl) ?_
    obtain ⟨q3, eq3, hit⟩ := o_bind hit
    refine m_cNv X hM hS (wM_lays l G dT o ad _ _ _ eq3) nm_X4_lays q1840 q1842 q141 q1843 qs57 ⟨Nat.le_trans (Nat.le_of_ble_eq_true rfl) hR.1, Nat.le_trans (Nat.le_of_ble_eq_true rfl) hR.2⟩ rfl rfl hl.1 (lv_room (Nat.le_of_ble_eq_true rfl)) dX4_feed_22 (fun H locs hM hS => ?_)
    refine lv_aload_n hx hb dX4_feed_25 rfl (lv_at hl 0 rfl) ?_
    refine lv_iload_n hx hb dX4_feed_26 rfl (lv_at hl 2 rfl) ?_
    obtain ⟨q4, eq4, hit⟩ := o_bind hit
    refine m_cNv X hM hS (wM_lays l G dT o ad _ _ _ eq4) nm_X4_lays q1840 q1842 q141 q1843 qs57 ⟨Nat.le_trans (Nat.le_of_ble_eq_true rfl) hR.1, Nat.le_trans (Nat.le_of_ble_eq_true rfl) hR.2⟩ rfl rfl hl.1 (lv_room (Nat.le_of_ble_eq_true rfl)) dX4_feed_27 (fun H locs hM hS => ?_)
    refine lv_aload_n hx hb dX4_feed_30 rfl (lv_at hl 0 rfl) ?_
    refine lv_iload_n hx hb dX4_feed_31 rfl (lv_at hl 3 rfl) ?_
    obtain ⟨q5, eq5, hit⟩ := o_bind hit
    refine m_cNv X hM hS (wM_lays l G dT o ad _ _ _ eq5) nm_X4_lays q1840 q1842 q141 q1843 qs57 ⟨Nat.le_trans (Nat.le_of_ble_eq_true rfl) hR.1, Nat.le_trans (Nat.le_of_ble_eq_true rfl) hR.2⟩ rfl rfl hl.1 (lv_room (Nat.le_of_ble_eq_true rfl)) dX4_feed_32 (fun H locs hM hS => ?_)
    refine lv_aload_n hx hb dX4_feed_35 rfl (lv_at hl 0 rfl) ?_
    refine lv_iload hx hb dX4_feed_36 (lv_at hl 4 rfl) ?_
    obtain ⟨q6, eq6, hit⟩ := o_bind hit
    refine m_cNv X hM hS (wM_lays l G dT o ad _ _ _ eq6) nm_X4_lays q1840 q1842 q141 q1843 qs57 ⟨Nat.le_trans (Nat.le_of_ble_eq_true rfl) hR.1, Nat.le_trans (Nat.le_of_ble_eq_true rfl) hR.2⟩ rfl rfl hl.1 (lv_room (Nat.le_of_ble_eq_true rfl)) dX4_feed_38 (fun H locs hM hS => ?_)
    refine lv_aload_n hx hb dX4_feed_41 rfl (lv_at hl 0 rfl) ?_
    refine lv_iload hx hb dX4_feed_42 (lv_at hl 5 rfl) ?_
    obtain ⟨q7, eq7, hit⟩ := o_bind hit
    refine m_cNv X hM hS (wM_lays l G dT o ad _ _ _ eq7) nm_X4_lays q1840 q1842 q141 q1843 qs57 ⟨Nat.le_trans (Nat.le_of_ble_eq_true rfl) hR.1, Nat.le_trans (Nat.le_of_ble_eq_true rfl) hR.2⟩ rfl rfl hl.1 (lv_room (Nat.le_of_ble_eq_true rfl)) dX4_feed_44 (fun H locs hM hS => ?_)
    refine lv_aload_n hx hb dX4_feed_47 rfl (lv_at hl 0 rfl) ?_
    refine m_get X hM 13 q1657 rfl rfl (v := .int (mf q7 13)) rfl dX4_feed_48 ?_
    have he := o_in hit
    exact hend _ (mf q7 13) _ _ _ _ _ rfl he hM hS dX4_feed_51
  · refine lv_iconst (v := (-1)) hx hb dX4_feed_18 (by decide) ?_
    have he := o_in hit
    exact hend _ (-1) _ _ _ _ _ rfl he hM hS dX4_feed_19
noncomputable def M_byteAt (σ : MS) (a0 : Int32) : Option (Int32) :=
  if a0 < (mf σ 17) then
    ((ald σ 12 a0).bind fun v2 =>
    some v2)
  else
    (some 0)
theorem nm_X4_byteAt : kNm yX4_byteAt RX4 1 := by unfold kNm; decide +kernel
set_option maxHeartbeats 4000000 in
set_option maxRecDepth 100000 in
theorem wM_byteAt (l : Launch) (G : va_G) (dT : Nat → ClassId) (o : Nat) (ad : Nat → Nat) (σ : MS) (a0 : Int32) (z : Int32) (h : M_byteAt σ a0 = some z) : Met l yX4_byteAt (ws_ yX4_byteAt cX4_byteAt 2 (some .int)) (kRm 0 0) (mPc G dT o ad σ [.int a0]) (vp_Si (fun r => r = z)) 0 0 vp_nf := by
  refine m_startR (cc := cX4_byteAt) (ty := .int) rfl rfl rfl (fun p e R s m args below meth c Q ls X hR hM hl hend => ?_)
  have hx := X.1.1
  have hb := X.1.2.1
  have hit := h
  clear h
  unfold M_byteAt at hit
  have hl : lv_has ls 2 [(0, .ref o), (1, .int a0)] := hl
  refine lv_iload_n hx hb dX4_byteAt_0 rfl (lv_at hl 1 rfl) ?_
  refine lv_aload_n hx hb dX4_byteAt_1 rfl (lv_at hl 0 rfl) ?_
  refine m_get X hM 17 q1661 rfl rfl (v := .int (mf σ 17)) rfl dX4_byteAt_2 ?_
  refine b_icmp_ge (tgt := 17) hx hb dX4_byteAt_5 (by decide) hit (fun c1 hit => ?_) (fun c1 hit => ?_)
  · refine lv_iconst (v := 0) hx hb dX4_byteAt_17 (by decide) ?_
    have he := o_in hit
    exact hend _ 0 _ _ rfl he dX4_byteAt_18
  · refine lv_aload_n hx hb dX4_byteAt_8 rfl (lv_at hl 0 rfl) ?_
    refine m_get X hM 12 q1656 rfl rfl (v := .ref (ad 12)) rfl dX4_byteAt_9 ?_
    refine lv_iload_n hx hb dX4_byteAt_12 rfl (lv_at hl 1 rfl) ?_
    obtain ⟨v2, ev2, hit⟩ := o_bind hit
    refine m_iald X hM 5 12 rfl rfl ev2 dX4_byteAt_13 ?_
    refine lv_goto (tgt := 18) hx hb dX4_byteAt_14 (by decide) ?_
    have he := o_in hit
    exact hend _ v2 _ _ rfl he dX4_byteAt_18
noncomputable def M_isLetter (a0 : Int32) : Option (Int32) :=
  if a0 < 97 then
    (some 0)
  else
    (if a0 ≤ 122 then
      (some 1)
    else
      (some 0))
theorem nm_X4_isLetter : kNm yX4_isLetter RX4 1 := by unfold kNm; decide +kernel
set_option maxHeartbeats 4000000 in
set_option maxRecDepth 100000 in
theorem wM_isLetter (l : Launch) (a0 : Int32) (z : Int32) (h : M_isLetter a0 = some z) : Met l yX4_isLetter (ws_ yX4_isLetter cX4_isLetter 1 (some .boolean)) (kRm 0 0) (bPc [.int a0]) (vp_Si (fun r => r = z)) 0 0 vp_nf := by
  refine m_startP (cc := cX4_isLetter) (ty := .boolean) rfl rfl rfl (fun p e R s m args below meth c Q ls X hR hl hend => ?_)
  have hx := X.1
  have hb := X.2.1
  have hit := h
  clear h
  unfold M_isLetter at hit
  have hl : lv_has ls 1 [(0, .int a0)] := hl
  refine lv_iload_n hx hb dX4_isLetter_0 rfl (lv_at hl 0 rfl) ?_
  refine lv_bipush (v := 97) hx hb dX4_isLetter_1 (by decide) ?_
  refine b_icmp_lt (tgt := 16) hx hb dX4_isLetter_3 (by decide) hit (fun c1 hit => ?_) (fun c1 hit => ?_)
  · refine lv_iconst (v := 0) hx hb dX4_isLetter_16 (by decide) ?_
    have he := o_in hit
    exact hend _ 0 _ _ rfl he dX4_isLetter_17
  · refine lv_iload_n hx hb dX4_isLetter_6 rfl (lv_at hl 0 rfl) ?_
    refine lv_bipush (v := 122) hx hb dX4_isLetter_7 (by decide) ?_
    refine b_icmp_gt (tgt := 16) hx hb dX4_isLetter_9 (by decide) hit (fun c2 hit => ?_) (fun c2 hit => ?_)
    · refine lv_iconst (v := 0) hx hb dX4_isLetter_16 (by decide) ?_
      have he := o_in hit
      exact hend _ 0 _ _ rfl he dX4_isLetter_17
    · refine lv_iconst (v := 1) hx hb dX4_isLetter_12 (by decide) ?_
      refine lv_goto (tgt := 17) hx hb dX4_isLetter_13 (by decide) ?_
      have he := o_in hit
      exact hend _ 1 _ _ rfl he dX4_isLetter_17
noncomputable def M_isDigit (a0 : Int32) : Option (Int32) :=
  if a0 < 48 then
    (some 0)
  else
    (if a0 ≤ 57 then
      (some 1)
    else
      (some 0))
theorem nm_X4_isDigit : kNm yX4_isDigit RX4 1 := by unfold kNm; decide +kernel
set_option maxHeartbeats 4000000 in
set_option maxRecDepth 100000 in
theorem wM_isDigit (l : Launch) (a0 : Int32) (z : Int32) (h : M_isDigit a0 = some z) : Met l yX4_isDigit (ws_ yX4_isDigit cX4_isDigit 1 (some .boolean)) (kRm 0 0) (bPc [.int a0]) (vp_Si (fun r => r = z)) 0 0 vp_nf := by
  refine m_startP (cc := cX4_isDigit) (ty := .boolean) rfl rfl rfl (fun p e R s m args below meth c Q ls X hR hl hend => ?_)
  have hx := X.1
  have hb := X.2.1
  have hit := h
  clear h
  unfold M_isDigit at hit
  have hl : lv_has ls 1 [(0, .int a0)] := hl
  refine lv_iload_n hx hb dX4_isDigit_0 rfl (lv_at hl 0 rfl) ?_
  refine lv_bipush (v := 48) hx hb dX4_isDigit_1 (by decide) ?_
  refine b_icmp_lt (tgt := 16) hx hb dX4_isDigit_3 (by decide) hit (fun c1 hit => ?_) (fun c1 hit => ?_)
  · refine lv_iconst (v := 0) hx hb dX4_isDigit_16 (by decide) ?_
    have he := o_in hit
    exact hend _ 0 _ _ rfl he dX4_isDigit_17
  · refine lv_iload_n hx hb dX4_isDigit_6 rfl (lv_at hl 0 rfl) ?_
    refine lv_bipush (v := 57) hx hb dX4_isDigit_7 (by decide) ?_
    refine b_icmp_gt (tgt := 16) hx hb dX4_isDigit_9 (by decide) hit (fun c2 hit => ?_) (fun c2 hit => ?_)
    · refine lv_iconst (v := 0) hx hb dX4_isDigit_16 (by decide) ?_
      have he := o_in hit
      exact hend _ 0 _ _ rfl he dX4_isDigit_17
    · refine lv_iconst (v := 1) hx hb dX4_isDigit_12 (by decide) ?_
      refine lv_goto (tgt := 17) hx hb dX4_isDigit_13 (by decide) ?_
      have he := o_in hit
      exact hend _ 1 _ _ rfl he dX4_isDigit_17
noncomputable def M_goes_L187 (t28 : MS) : Option (MS ⊕ MS) :=
  (M_byteAt t28 (mf t28 18)).bind fun q32 =>
  (M_isDigit q32).bind fun q33 =>
  if q33 = 0 then
    (some (.inr t28))
  else
    (((if ((mf t28 18) - (mf t28 20)) < 4 then
        ((M_byteAt t28 (mf t28 18)).bind fun q38 =>
        (pf t28 22 (((10 * (mf t28 22)) + q38) - 48)).bind fun s39 =>
        some s39)
      else
        (some t28) : Option MS)).bind fun r35 =>
    (pf r35 18 ((mf r35 18) + 1)).bind fun s36 =>
    some (.inl s36))
noncomputable def M_goes_L108 (t40 : MS) : Option (MS ⊕ MS) :=
  (M_byteAt t40 (mf t40 18)).bind fun q44 =>
  (M_isLetter q44).bind fun q45 =>
  if q45 = 0 then
    (some (.inr t40))
  else
    (((if ((mf t40 18) - (mf t40 20)) < 6 then
        ((M_byteAt t40 (mf t40 18)).bind fun q50 =>
        (pw t40 (((mw t40) <<< ((5 : Int32).toInt64 &&& 63)) ||| ((q50 - 96) : Int32).toInt64)).bind fun s51 =>
        some s51)
      else
        (some t40) : Option MS)).bind fun r47 =>
    (pf r47 18 ((mf r47 18) + 1)).bind fun s48 =>
    some (.inl s48))
noncomputable def M_goes_L0 (t1 : MS) : Option (MS ⊕ MS) :=
  if (mf t1 18) < (mf t1 17) then
    ((M_byteAt t1 (mf t1 18)).bind fun q54 =>
    if q54 = 32 then
      ((pf t1 18 ((mf t1 18) + 1)).bind fun s56 =>
      some (.inl s56))
    else
      ((M_byteAt t1 (mf t1 18)).bind fun q57 =>
      if q57 = 10 then
        ((pf t1 18 ((mf t1 18) + 1)).bind fun s59 =>
        some (.inl s59))
      else
        (some (.inr t1))))
  else
    (some (.inr t1))
noncomputable def M_goes (σ : MS) : Option (MS) :=
  (o_loop M_goes_L0 σ).bind fun r3 =>
  (pf r3 20 (mf r3 18)).bind fun s4 =>
  (pw s4 0).bind fun s5 =>
  (pf s5 22 0).bind fun s6 =>
  (M_byteAt s6 (mf s6 18)).bind fun q7 =>
  (pf s6 23 q7).bind fun s8 =>
  ((if (mf s8 18) < (mf s8 17) then
      ((M_isLetter q7).bind fun q12 =>
      if q12 = 0 then
        ((M_isDigit q7).bind fun q14 =>
        if q14 = 0 then
          ((pf s8 18 ((mf s8 18) + 1)).bind fun s16 =>
          ((if q7 = 59 then
              (some 3)
            else
              (if q7 = 40 then
                (some 3)
              else
                (if q7 = 41 then
                  (some 3)
                else
                  (if q7 = 43 then
                    (some 3)
                  else
                    (if q7 = 45 then
                      (some 3)
                    else
                      (if q7 = 42 then
                        (some 3)
                      else
                        (if q7 = 47 then
                          (some 3)
                        else
                          (if q7 = 60 then
                            (some 3)
                          else
                            (if q7 = 61 then
                              (some 3)
                            else
                              (some 4))))))))) : Option Int32)).bind fun r17 =>
          (pf s16 19 r17).bind fun s18 =>
          some s18)
        else
          ((o_loop M_goes_L187 s8).bind fun r30 =>
          (pf r30 19 2).bind fun s31 =>
          some s31))
      else
        ((o_loop M_goes_L108 s8).bind fun r42 =>
        (pf r42 19 1).bind fun s43 =>
        some s43))
    else
      ((pf s8 19 0).bind fun s52 =>
      some s52) : Option MS)).bind fun r9 =>
  (pf r9 21 ((mf r9 18) - (mf r9 20))).bind fun s10 =>
  some s10
theorem nm_X4_goes : kNm yX4_goes RX4 0 := by unfold kNm; decide +kernel
set_option maxHeartbeats 4000000 in
set_option maxRecDepth 100000 in
theorem wM_goes (l : Launch) (G : va_G) (dT : Nat → ClassId) (o : Nat) (ad : Nat → Nat) (σ : MS) (z : MS) (h : M_goes σ = some z) : Met l yX4_goes (ws_ yX4_goes cX4_goes 2 none) (kRm 1 21) (mPc G dT o ad σ []) (va_Qv (fun (_ : Unit) => True) (fun _ t => MH G dT o ad z t.heap) (mAd o ad)) 0 0 (mAd o ad) := by
  refine m_startNv (cc := cX4_goes) rfl rfl rfl (fun p e R s m args below meth c Q ls X hR hM hS hl hend => ?_)
  have hx := X.1.1
  have hb := X.1.2.1
  have hit := h
  clear h
  unfold M_goes at hit
  have hl : lv_has ls 2 [(0, .ref o)] := hl
  obtain ⟨r3, er3, hit⟩ := o_bind hit
  have hr3 : ∀ (H : Heap) (locs : List Loc) (ls : Array Slot), MH G dT o ad r3 H → va_S (mAd o ad) s.heap H locs → lv_has ls 2 [(0, .ref o)] → W p l e R s m args below meth c H locs 0 0 Q (F0 m 50 ls []) := by
    intro H locs ls hM hS hl
    refine lv_aload_n hx hb dX4_goes_50 rfl (lv_at hl 0 rfl) ?_
    refine lv_aload_n hx hb dX4_goes_51 rfl (lv_at hl 0 rfl) ?_
    refine m_get X hM 18 q1662 rfl rfl (v := .int (mf r3 18)) rfl dX4_goes_52 ?_
    obtain ⟨s4, es4, hit⟩ := o_bind hit
    refine m_put X hM hS 20 q1664 rfl rfl (ty := .int) rfl rfl rfl es4 dX4_goes_55 (fun H locs hM hS => ?_)
    refine lv_aload_n hx hb dX4_goes_58 rfl (lv_at hl 0 rfl) ?_
    refine lv_lconst (v := 0) hx hb dX4_goes_59 rfl ?_
    obtain ⟨s5, es5, hit⟩ := o_bind hit
    refine m_putw X hM hS q1668 es5 dX4_goes_60 (fun H locs hM hS => ?_)
    refine lv_aload_n hx hb dX4_goes_63 rfl (lv_at hl 0 rfl) ?_
    refine lv_iconst (v := 0) hx hb dX4_goes_64 (by decide) ?_
    obtain ⟨s6, es6, hit⟩ := o_bind hit
    refine m_put X hM hS 22 q1666 rfl rfl (ty := .int) rfl rfl rfl es6 dX4_goes_65 (fun H locs hM hS => ?_)
    refine lv_aload_n hx hb dX4_goes_68 rfl (lv_at hl 0 rfl) ?_
    refine lv_aload_n hx hb dX4_goes_69 rfl (lv_at hl 0 rfl) ?_
    refine m_get X hM 18 q1662 rfl rfl (v := .int (mf s6 18)) rfl dX4_goes_70 ?_
    obtain ⟨q7, eq7, hit⟩ := o_bind hit
    refine m_cR X hM (wM_byteAt l G dT o ad _ _ _ eq7) nm_X4_byteAt q1856 q1858 q141 q1859 qs60 ⟨Nat.le_trans (Nat.le_of_ble_eq_true rfl) hR.1, Nat.le_trans (Nat.le_of_ble_eq_true rfl) hR.2⟩ rfl rfl hl.1 (lv_room (Nat.le_of_ble_eq_true rfl)) dX4_goes_73 ?_
    refine lv_istore_n (lv' := [(1, .int q7), (0, .ref o)]) hx hb dX4_goes_76 rfl hl (by decide) rfl (fun ls hl => ?_)
    refine lv_aload_n hx hb dX4_goes_77 rfl (lv_at hl 1 rfl) ?_
    refine lv_iload_n hx hb dX4_goes_78 rfl (lv_at hl 0 rfl) ?_
    obtain ⟨s8, es8, hit⟩ := o_bind hit
    refine m_put X hM hS 23 q1667 rfl rfl (ty := .int) rfl rfl rfl es8 dX4_goes_79 (fun H locs hM hS => ?_)
    refine lv_aload_n hx hb dX4_goes_82 rfl (lv_at hl 1 rfl) ?_
    refine m_get X hM 18 q1662 rfl rfl (v := .int (mf s8 18)) rfl dX4_goes_83 ?_
    refine lv_aload_n hx hb dX4_goes_86 rfl (lv_at hl 1 rfl) ?_
    refine m_get X hM 17 q1661 rfl rfl (v := .int (mf s8 17)) rfl dX4_goes_87 ?_
    obtain ⟨r9, er9, hit⟩ := o_bind hit
    have hr9 : ∀ (H : Heap) (locs : List Loc) (ls : Array Slot), MH G dT o ad r9 H → va_S (mAd o ad) s.heap H locs → lv_has ls 2 [(0, .ref o)] → W p l e R s m args below meth c H locs 0 0 Q (F0 m 331 ls []) := by
      intro H locs ls hM hS hl
      refine lv_aload_n hx hb dX4_goes_331 rfl (lv_at hl 0 rfl) ?_
      refine lv_aload_n hx hb dX4_goes_332 rfl (lv_at hl 0 rfl) ?_
      refine m_get X hM 18 q1662 rfl rfl (v := .int (mf r9 18)) rfl dX4_goes_333 ?_
      refine lv_aload_n hx hb dX4_goes_336 rfl (lv_at hl 0 rfl) ?_
      refine m_get X hM 20 q1664 rfl rfl (v := .int (mf r9 20)) rfl dX4_goes_337 ?_
      refine lv_isub hx hb dX4_goes_340 ?_
      obtain ⟨s10, es10, hit⟩ := o_bind hit
      refine m_put X hM hS 21 q1665 rfl rfl (ty := .int) rfl rfl rfl es10 dX4_goes_341 (fun H locs hM hS => ?_)
      have he := o_in hit
      exact hend _ _ _ _ _ he hM hS dX4_goes_344
    have hit := er9
    refine b_icmp_lt (tgt := 101) hx hb dX4_goes_90 (by decide) hit (fun c11 hit => ?_) (fun c11 hit => ?_)
    · refine lv_iload_n hx hb dX4_goes_101 rfl (lv_at hl 0 rfl) ?_
      obtain ⟨q12, eq12, hit⟩ := o_bind hit
      refine m_cP X.1 (wM_isLetter l _ _ eq12) nm_X4_isLetter q1860 q1861 q141 q1862 ⟨Nat.le_trans (Nat.le_of_ble_eq_true rfl) hR.1, Nat.le_trans (Nat.le_of_ble_eq_true rfl) hR.2⟩ rfl rfl hl.1 (lv_room (Nat.le_of_ble_eq_true rfl)) dX4_goes_102 ?_
      refine b_if_eq (tgt := 180) hx hb dX4_goes_105 (by decide) hit (fun c13 hit => ?_) (fun c13 hit => ?_)
      · refine lv_iload_n hx hb dX4_goes_180 rfl (lv_at hl 0 rfl) ?_
        obtain ⟨q14, eq14, hit⟩ := o_bind hit
        refine m_cP X.1 (wM_isDigit l _ _ eq14) nm_X4_isDigit q1863 q1864 q141 q1865 ⟨Nat.le_trans (Nat.le_of_ble_eq_true rfl) hR.1, Nat.le_trans (Nat.le_of_ble_eq_true rfl) hR.2⟩ rfl rfl hl.1 (lv_room (Nat.le_of_ble_eq_true rfl)) dX4_goes_181 ?_
        refine b_if_eq (tgt := 258) hx hb dX4_goes_184 (by decide) hit (fun c15 hit => ?_) (fun c15 hit => ?_)
        · refine lv_aload_n hx hb dX4_goes_258 rfl (lv_at hl 1 rfl) ?_
          refine lv_dup hx hb dX4_goes_259 rfl ?_
          refine m_get X hM 18 q1662 rfl rfl (v := .int (mf s8 18)) rfl dX4_goes_260 ?_
          refine lv_iconst (v := 1) hx hb dX4_goes_263 (by decide) ?_
          refine lv_iadd hx hb dX4_goes_264 ?_
          obtain ⟨s16, es16, hit⟩ := o_bind hit
          refine m_put X hM hS 18 q1662 rfl rfl (ty := .int) rfl rfl rfl es16 dX4_goes_265 (fun H locs hM hS => ?_)
          refine lv_aload_n hx hb dX4_goes_268 rfl (lv_at hl 1 rfl) ?_
          refine lv_iload_n hx hb dX4_goes_269 rfl (lv_at hl 0 rfl) ?_
          refine lv_bipush (v := 59) hx hb dX4_goes_270 (by decide) ?_
          obtain ⟨r17, er17, hit⟩ := o_bind hit
          have hr17 : ∀ (H : Heap) (locs : List Loc) (ls : Array Slot), MH G dT o ad s16 H → va_S (mAd o ad) s.heap H locs → lv_has ls 2 [(0, .ref o)] → W p l e R s m args below meth c H locs 0 0 Q (F0 m 328 ls [.int r17, .ref o]) := by
            intro H locs ls hM hS hl
            obtain ⟨s18, es18, hit⟩ := o_bind hit
            refine m_put X hM hS 19 q1663 rfl rfl (ty := .int) rfl rfl rfl es18 dX4_goes_328 (fun H locs hM hS => ?_)
            have he := o_in hit
            subst he
            exact hr9 _ _ _ hM hS hl
          have hit := er17
          refine b_icmp_eq (tgt := 323) hx hb dX4_goes_272 (by decide) hit (fun c19 hit => ?_) (fun c19 hit => ?_)
          · refine lv_iconst (v := 3) hx hb dX4_goes_323 (by decide) ?_
            refine lv_goto (tgt := 328) hx hb dX4_goes_324 (by decide) ?_
            have he := o_in hit
            subst he
            exact hr17 _ _ _ hM hS (lv_sub hl [1] rfl)
          · refine lv_iload_n hx hb dX4_goes_275 rfl (lv_at hl 0 rfl) ?_
            refine lv_bipush (v := 40) hx hb dX4_goes_276 (by decide) ?_
            refine b_icmp_eq (tgt := 323) hx hb dX4_goes_278 (by decide) hit (fun c20 hit => ?_) (fun c20 hit => ?_)
            · refine lv_iconst (v := 3) hx hb dX4_goes_323 (by decide) ?_
              refine lv_goto (tgt := 328) hx hb dX4_goes_324 (by decide) ?_
              have he := o_in hit
              subst he
              exact hr17 _ _ _ hM hS (lv_sub hl [1] rfl)
            · refine lv_iload_n hx hb dX4_goes_281 rfl (lv_at hl 0 rfl) ?_
              refine lv_bipush (v := 41) hx hb dX4_goes_282 (by decide) ?_
              refine b_icmp_eq (tgt := 323) hx hb dX4_goes_284 (by decide) hit (fun c21 hit => ?_) (fun c21 hit => ?_)
              · refine lv_iconst (v := 3) hx hb dX4_goes_323 (by decide) ?_
                refine lv_goto (tgt := 328) hx hb dX4_goes_324 (by decide) ?_
                have he := o_in hit
                subst he
                exact hr17 _ _ _ hM hS (lv_sub hl [1] rfl)
              · refine lv_iload_n hx hb dX4_goes_287 rfl (lv_at hl 0 rfl) ?_
                refine lv_bipush (v := 43) hx hb dX4_goes_288 (by decide) ?_
                refine b_icmp_eq (tgt := 323) hx hb dX4_goes_290 (by decide) hit (fun c22 hit => ?_) (fun c22 hit => ?_)
                · refine lv_iconst (v := 3) hx hb dX4_goes_323 (by decide) ?_
                  refine lv_goto (tgt := 328) hx hb dX4_goes_324 (by decide) ?_
                  have he := o_in hit
                  subst he
                  exact hr17 _ _ _ hM hS (lv_sub hl [1] rfl)
                · refine lv_iload_n hx hb dX4_goes_293 rfl (lv_at hl 0 rfl) ?_
                  refine lv_bipush (v := 45) hx hb dX4_goes_294 (by decide) ?_
                  refine b_icmp_eq (tgt := 323) hx hb dX4_goes_296 (by decide) hit (fun c23 hit => ?_) (fun c23 hit => ?_)
                  · refine lv_iconst (v := 3) hx hb dX4_goes_323 (by decide) ?_
                    refine lv_goto (tgt := 328) hx hb dX4_goes_324 (by decide) ?_
                    have he := o_in hit
                    subst he
                    exact hr17 _ _ _ hM hS (lv_sub hl [1] rfl)
                  · refine lv_iload_n hx hb dX4_goes_299 rfl (lv_at hl 0 rfl) ?_
                    refine lv_bipush (v := 42) hx hb dX4_goes_300 (by decide) ?_
                    refine b_icmp_eq (tgt := 323) hx hb dX4_goes_302 (by decide) hit (fun c24 hit => ?_) (fun c24 hit => ?_)
                    · refine lv_iconst (v := 3) hx hb dX4_goes_323 (by decide) ?_
                      refine lv_goto (tgt := 328) hx hb dX4_goes_324 (by decide) ?_
                      have he := o_in hit
                      subst he
                      exact hr17 _ _ _ hM hS (lv_sub hl [1] rfl)
                    · refine lv_iload_n hx hb dX4_goes_305 rfl (lv_at hl 0 rfl) ?_
                      refine lv_bipush (v := 47) hx hb dX4_goes_306 (by decide) ?_
                      refine b_icmp_eq (tgt := 323) hx hb dX4_goes_308 (by decide) hit (fun c25 hit => ?_) (fun c25 hit => ?_)
                      · refine lv_iconst (v := 3) hx hb dX4_goes_323 (by decide) ?_
                        refine lv_goto (tgt := 328) hx hb dX4_goes_324 (by decide) ?_
                        have he := o_in hit
                        subst he
                        exact hr17 _ _ _ hM hS (lv_sub hl [1] rfl)
                      · refine lv_iload_n hx hb dX4_goes_311 rfl (lv_at hl 0 rfl) ?_
                        refine lv_bipush (v := 60) hx hb dX4_goes_312 (by decide) ?_
                        refine b_icmp_eq (tgt := 323) hx hb dX4_goes_314 (by decide) hit (fun c26 hit => ?_) (fun c26 hit => ?_)
                        · refine lv_iconst (v := 3) hx hb dX4_goes_323 (by decide) ?_
                          refine lv_goto (tgt := 328) hx hb dX4_goes_324 (by decide) ?_
                          have he := o_in hit
                          subst he
                          exact hr17 _ _ _ hM hS (lv_sub hl [1] rfl)
                        · refine lv_iload_n hx hb dX4_goes_317 rfl (lv_at hl 0 rfl) ?_
                          refine lv_bipush (v := 61) hx hb dX4_goes_318 (by decide) ?_
                          refine b_icmp_ne (tgt := 327) hx hb dX4_goes_320 (by decide) hit (fun c27 hit => ?_) (fun c27 hit => ?_)
                          · refine lv_iconst (v := 4) hx hb dX4_goes_327 (by decide) ?_
                            have he := o_in hit
                            subst he
                            exact hr17 _ _ _ hM hS (lv_sub hl [1] rfl)
                          · refine lv_iconst (v := 3) hx hb dX4_goes_323 (by decide) ?_
                            refine lv_goto (tgt := 328) hx hb dX4_goes_324 (by decide) ?_
                            have he := o_in hit
                            subst he
                            exact hr17 _ _ _ hM hS (lv_sub hl [1] rfl)
        · obtain ⟨r30, er30, hit⟩ := o_bind hit
          have hr30 : ∀ (H : Heap) (locs : List Loc) (ls : Array Slot), MH G dT o ad r30 H → va_S (mAd o ad) s.heap H locs → lv_has ls 2 [(0, .ref o)] → W p l e R s m args below meth c H locs 0 0 Q (F0 m 250 ls []) := by
            intro H locs ls hM hS hl
            refine lv_aload_n hx hb dX4_goes_250 rfl (lv_at hl 0 rfl) ?_
            refine lv_iconst (v := 2) hx hb dX4_goes_251 (by decide) ?_
            obtain ⟨s31, es31, hit⟩ := o_bind hit
            refine m_put X hM hS 19 q1663 rfl rfl (ty := .int) rfl rfl rfl es31 dX4_goes_252 (fun H locs hM hS => ?_)
            refine lv_goto (tgt := 331) hx hb dX4_goes_255 (by decide) ?_
            have he := o_in hit
            subst he
            exact hr9 _ _ _ hM hS hl
          refine o_rec (P := fun t28 => ∀ (H : Heap) (locs : List Loc) (ls : Array Slot), MH G dT o ad t28 H → va_S (mAd o ad) s.heap H locs → lv_has ls 2 [(0, .ref o)] → W p l e R s m args below meth c H locs 0 0 Q (F0 m 187 ls [])) (fun t28 x29 hit hC28 hE28 H locs ls hM hS hl => ?_) _ er30 _ _ _ hM hS (lv_sub hl [1] rfl)
          unfold M_goes_L187 at hit
          refine lv_aload_n hx hb dX4_goes_187 rfl (lv_at hl 0 rfl) ?_
          refine lv_aload_n hx hb dX4_goes_188 rfl (lv_at hl 0 rfl) ?_
          refine m_get X hM 18 q1662 rfl rfl (v := .int (mf t28 18)) rfl dX4_goes_189 ?_
          obtain ⟨q32, eq32, hit⟩ := o_bind hit
          refine m_cR X hM (wM_byteAt l G dT o ad _ _ _ eq32) nm_X4_byteAt q1856 q1858 q141 q1859 qs60 ⟨Nat.le_trans (Nat.le_of_ble_eq_true rfl) hR.1, Nat.le_trans (Nat.le_of_ble_eq_true rfl) hR.2⟩ rfl rfl hl.1 (lv_room (Nat.le_of_ble_eq_true rfl)) dX4_goes_192 ?_
          obtain ⟨q33, eq33, hit⟩ := o_bind hit
          refine m_cP X.1 (wM_isDigit l _ _ eq33) nm_X4_isDigit q1863 q1864 q141 q1865 ⟨Nat.le_trans (Nat.le_of_ble_eq_true rfl) hR.1, Nat.le_trans (Nat.le_of_ble_eq_true rfl) hR.2⟩ rfl rfl hl.1 (lv_room (Nat.le_of_ble_eq_true rfl)) dX4_goes_195 ?_
          refine b_if_eq (tgt := 250) hx hb dX4_goes_198 (by decide) hit (fun c34 hit => ?_) (fun c34 hit => ?_)
          · have he := o_in hit
            have he := hE28 _ he
            subst he
            exact hr30 _ _ _ hM hS hl
          · refine lv_aload_n hx hb dX4_goes_201 rfl (lv_at hl 0 rfl) ?_
            refine m_get X hM 18 q1662 rfl rfl (v := .int (mf t28 18)) rfl dX4_goes_202 ?_
            refine lv_aload_n hx hb dX4_goes_205 rfl (lv_at hl 0 rfl) ?_
            refine m_get X hM 20 q1664 rfl rfl (v := .int (mf t28 20)) rfl dX4_goes_206 ?_
            refine lv_isub hx hb dX4_goes_209 ?_
            refine lv_iconst (v := 4) hx hb dX4_goes_210 (by decide) ?_
            obtain ⟨r35, er35, hit⟩ := o_bind hit
            have hr35 : ∀ (H : Heap) (locs : List Loc) (ls : Array Slot), MH G dT o ad r35 H → va_S (mAd o ad) s.heap H locs → lv_has ls 2 [(0, .ref o)] → W p l e R s m args below meth c H locs 0 0 Q (F0 m 237 ls []) := by
              intro H locs ls hM hS hl
              refine lv_aload_n hx hb dX4_goes_237 rfl (lv_at hl 0 rfl) ?_
              refine lv_dup hx hb dX4_goes_238 rfl ?_
              refine m_get X hM 18 q1662 rfl rfl (v := .int (mf r35 18)) rfl dX4_goes_239 ?_
              refine lv_iconst (v := 1) hx hb dX4_goes_242 (by decide) ?_
              refine lv_iadd hx hb dX4_goes_243 ?_
              obtain ⟨s36, es36, hit⟩ := o_bind hit
              refine m_put X hM hS 18 q1662 rfl rfl (ty := .int) rfl rfl rfl es36 dX4_goes_244 (fun H locs hM hS => ?_)
              refine lv_goto (tgt := 187) hx hb dX4_goes_247 (by decide) ?_
              have he := o_in hit
              exact hC28 _ he _ _ _ hM hS hl
            have hit := er35
            refine b_icmp_ge (tgt := 237) hx hb dX4_goes_211 (by decide) hit (fun c37 hit => ?_) (fun c37 hit => ?_)
            · have he := o_in hit
              subst he
              exact hr35 _ _ _ hM hS hl
            · refine lv_aload_n hx hb dX4_goes_214 rfl (lv_at hl 0 rfl) ?_
              refine lv_bipush (v := 10) hx hb dX4_goes_215 (by decide) ?_
              refine lv_aload_n hx hb dX4_goes_217 rfl (lv_at hl 0 rfl) ?_
              refine m_get X hM 22 q1666 rfl rfl (v := .int (mf t28 22)) rfl dX4_goes_218 ?_
              refine lv_imul hx hb dX4_goes_221 ?_
              refine lv_aload_n hx hb dX4_goes_222 rfl (lv_at hl 0 rfl) ?_
              refine lv_aload_n hx hb dX4_goes_223 rfl (lv_at hl 0 rfl) ?_
              refine m_get X hM 18 q1662 rfl rfl (v := .int (mf t28 18)) rfl dX4_goes_224 ?_
              obtain ⟨q38, eq38, hit⟩ := o_bind hit
              refine m_cR X hM (wM_byteAt l G dT o ad _ _ _ eq38) nm_X4_byteAt q1856 q1858 q141 q1859 qs60 ⟨Nat.le_trans (Nat.le_of_ble_eq_true rfl) hR.1, Nat.le_trans (Nat.le_of_ble_eq_true rfl) hR.2⟩ rfl rfl hl.1 (lv_room (Nat.le_of_ble_eq_true rfl)) dX4_goes_227 ?_
              refine lv_iadd hx hb dX4_goes_230 ?_
              refine lv_bipush (v := 48) hx hb dX4_goes_231 (by decide) ?_
              refine lv_isub hx hb dX4_goes_233 ?_
              obtain ⟨s39, es39, hit⟩ := o_bind hit
              refine m_put X hM hS 22 q1666 rfl rfl (ty := .int) rfl rfl rfl es39 dX4_goes_234 (fun H locs hM hS => ?_)
              have he := o_in hit
              subst he
              exact hr35 _ _ _ hM hS hl
      · obtain ⟨r42, er42, hit⟩ := o_bind hit
        have hr42 : ∀ (H : Heap) (locs : List Loc) (ls : Array Slot), MH G dT o ad r42 H → va_S (mAd o ad) s.heap H locs → lv_has ls 2 [(0, .ref o)] → W p l e R s m args below meth c H locs 0 0 Q (F0 m 172 ls []) := by
          intro H locs ls hM hS hl
          refine lv_aload_n hx hb dX4_goes_172 rfl (lv_at hl 0 rfl) ?_
          refine lv_iconst (v := 1) hx hb dX4_goes_173 (by decide) ?_
          obtain ⟨s43, es43, hit⟩ := o_bind hit
          refine m_put X hM hS 19 q1663 rfl rfl (ty := .int) rfl rfl rfl es43 dX4_goes_174 (fun H locs hM hS => ?_)
          refine lv_goto (tgt := 331) hx hb dX4_goes_177 (by decide) ?_
          have he := o_in hit
          subst he
          exact hr9 _ _ _ hM hS hl
        refine o_rec (P := fun t40 => ∀ (H : Heap) (locs : List Loc) (ls : Array Slot), MH G dT o ad t40 H → va_S (mAd o ad) s.heap H locs → lv_has ls 2 [(0, .ref o)] → W p l e R s m args below meth c H locs 0 0 Q (F0 m 108 ls [])) (fun t40 x41 hit hC40 hE40 H locs ls hM hS hl => ?_) _ er42 _ _ _ hM hS (lv_sub hl [1] rfl)
        unfold M_goes_L108 at hit
        refine lv_aload_n hx hb dX4_goes_108 rfl (lv_at hl 0 rfl) ?_
        refine lv_aload_n hx hb dX4_goes_109 rfl (lv_at hl 0 rfl) ?_
        refine m_get X hM 18 q1662 rfl rfl (v := .int (mf t40 18)) rfl dX4_goes_110 ?_
        obtain ⟨q44, eq44, hit⟩ := o_bind hit
        refine m_cR X hM (wM_byteAt l G dT o ad _ _ _ eq44) nm_X4_byteAt q1856 q1858 q141 q1859 qs60 ⟨Nat.le_trans (Nat.le_of_ble_eq_true rfl) hR.1, Nat.le_trans (Nat.le_of_ble_eq_true rfl) hR.2⟩ rfl rfl hl.1 (lv_room (Nat.le_of_ble_eq_true rfl)) dX4_goes_113 ?_
        obtain ⟨q45, eq45, hit⟩ := o_bind hit
        refine m_cP X.1 (wM_isLetter l _ _ eq45) nm_X4_isLetter q1860 q1861 q141 q1862 ⟨Nat.le_trans (Nat.le_of_ble_eq_true rfl) hR.1, Nat.le_trans (Nat.le_of_ble_eq_true rfl) hR.2⟩ rfl rfl hl.1 (lv_room (Nat.le_of_ble_eq_true rfl)) dX4_goes_116 ?_
        refine b_if_eq (tgt := 172) hx hb dX4_goes_119 (by decide) hit (fun c46 hit => ?_) (fun c46 hit => ?_)
        · have he := o_in hit
          have he := hE40 _ he
          subst he
          exact hr42 _ _ _ hM hS hl
        · refine lv_aload_n hx hb dX4_goes_122 rfl (lv_at hl 0 rfl) ?_
          refine m_get X hM 18 q1662 rfl rfl (v := .int (mf t40 18)) rfl dX4_goes_123 ?_
          refine lv_aload_n hx hb dX4_goes_126 rfl (lv_at hl 0 rfl) ?_
          refine m_get X hM 20 q1664 rfl rfl (v := .int (mf t40 20)) rfl dX4_goes_127 ?_
          refine lv_isub hx hb dX4_goes_130 ?_
          refine lv_bipush (v := 6) hx hb dX4_goes_131 (by decide) ?_
          obtain ⟨r47, er47, hit⟩ := o_bind hit
          have hr47 : ∀ (H : Heap) (locs : List Loc) (ls : Array Slot), MH G dT o ad r47 H → va_S (mAd o ad) s.heap H locs → lv_has ls 2 [(0, .ref o)] → W p l e R s m args below meth c H locs 0 0 Q (F0 m 159 ls []) := by
            intro H locs ls hM hS hl
            refine lv_aload_n hx hb dX4_goes_159 rfl (lv_at hl 0 rfl) ?_
            refine lv_dup hx hb dX4_goes_160 rfl ?_
            refine m_get X hM 18 q1662 rfl rfl (v := .int (mf r47 18)) rfl dX4_goes_161 ?_
            refine lv_iconst (v := 1) hx hb dX4_goes_164 (by decide) ?_
            refine lv_iadd hx hb dX4_goes_165 ?_
            obtain ⟨s48, es48, hit⟩ := o_bind hit
            refine m_put X hM hS 18 q1662 rfl rfl (ty := .int) rfl rfl rfl es48 dX4_goes_166 (fun H locs hM hS => ?_)
            refine lv_goto (tgt := 108) hx hb dX4_goes_169 (by decide) ?_
            have he := o_in hit
            exact hC40 _ he _ _ _ hM hS hl
          have hit := er47
          refine b_icmp_ge (tgt := 159) hx hb dX4_goes_133 (by decide) hit (fun c49 hit => ?_) (fun c49 hit => ?_)
          · have he := o_in hit
            subst he
            exact hr47 _ _ _ hM hS hl
          · refine lv_aload_n hx hb dX4_goes_136 rfl (lv_at hl 0 rfl) ?_
            refine lv_aload_n hx hb dX4_goes_137 rfl (lv_at hl 0 rfl) ?_
            refine m_get X hM 24 q1668 rfl rfl (v := .long (mw t40)) rfl dX4_goes_138 ?_
            refine lv_iconst (v := 5) hx hb dX4_goes_141 (by decide) ?_
            refine lv_lshl hx hb dX4_goes_142 rfl ?_
            refine lv_aload_n hx hb dX4_goes_143 rfl (lv_at hl 0 rfl) ?_
            refine lv_aload_n hx hb dX4_goes_144 rfl (lv_at hl 0 rfl) ?_
            refine m_get X hM 18 q1662 rfl rfl (v := .int (mf t40 18)) rfl dX4_goes_145 ?_
            obtain ⟨q50, eq50, hit⟩ := o_bind hit
            refine m_cR X hM (wM_byteAt l G dT o ad _ _ _ eq50) nm_X4_byteAt q1856 q1858 q141 q1859 qs60 ⟨Nat.le_trans (Nat.le_of_ble_eq_true rfl) hR.1, Nat.le_trans (Nat.le_of_ble_eq_true rfl) hR.2⟩ rfl rfl hl.1 (lv_room (Nat.le_of_ble_eq_true rfl)) dX4_goes_148 ?_
            refine lv_bipush (v := 96) hx hb dX4_goes_151 (by decide) ?_
            refine lv_isub hx hb dX4_goes_153 ?_
            refine lv_i2l hx hb dX4_goes_154 rfl ?_
            refine lv_lor hx hb dX4_goes_155 ?_
            obtain ⟨s51, es51, hit⟩ := o_bind hit
            refine m_putw X hM hS q1668 es51 dX4_goes_156 (fun H locs hM hS => ?_)
            have he := o_in hit
            subst he
            exact hr47 _ _ _ hM hS hl
    · refine lv_aload_n hx hb dX4_goes_93 rfl (lv_at hl 1 rfl) ?_
      refine lv_iconst (v := 0) hx hb dX4_goes_94 (by decide) ?_
      obtain ⟨s52, es52, hit⟩ := o_bind hit
      refine m_put X hM hS 19 q1663 rfl rfl (ty := .int) rfl rfl rfl es52 dX4_goes_95 (fun H locs hM hS => ?_)
      refine lv_goto (tgt := 331) hx hb dX4_goes_98 (by decide) ?_
      have he := o_in hit
      subst he
      exact hr9 _ _ _ hM hS (lv_sub hl [1] rfl)
  refine o_rec (P := fun t1 => ∀ (H : Heap) (locs : List Loc) (ls : Array Slot), MH G dT o ad t1 H → va_S (mAd o ad) s.heap H locs → lv_has ls 2 [(0, .ref o)] → W p l e R s m args below meth c H locs 0 0 Q (F0 m 0 ls [])) (fun t1 x2 hit hC1 hE1 H locs ls hM hS hl => ?_) _ er3 _ _ _ hM hS hl
  unfold M_goes_L0 at hit
  refine lv_aload_n hx hb dX4_goes_0 rfl (lv_at hl 0 rfl) ?_
  refine m_get X hM 18 q1662 rfl rfl (v := .int (mf t1 18)) rfl dX4_goes_1 ?_
  refine lv_aload_n hx hb dX4_goes_4 rfl (lv_at hl 0 rfl) ?_
  refine m_get X hM 17 q1661 rfl rfl (v := .int (mf t1 17)) rfl dX4_goes_5 ?_
  refine b_icmp_ge (tgt := 50) hx hb dX4_goes_8 (by decide) hit (fun c53 hit => ?_) (fun c53 hit => ?_)
  · have he := o_in hit
    have he := hE1 _ he
    subst he
    exact hr3 _ _ _ hM hS hl
  · refine lv_aload_n hx hb dX4_goes_11 rfl (lv_at hl 0 rfl) ?_
    refine lv_aload_n hx hb dX4_goes_12 rfl (lv_at hl 0 rfl) ?_
    refine m_get X hM 18 q1662 rfl rfl (v := .int (mf t1 18)) rfl dX4_goes_13 ?_
    obtain ⟨q54, eq54, hit⟩ := o_bind hit
    refine m_cR X hM (wM_byteAt l G dT o ad _ _ _ eq54) nm_X4_byteAt q1856 q1858 q141 q1859 qs60 ⟨Nat.le_trans (Nat.le_of_ble_eq_true rfl) hR.1, Nat.le_trans (Nat.le_of_ble_eq_true rfl) hR.2⟩ rfl rfl hl.1 (lv_room (Nat.le_of_ble_eq_true rfl)) dX4_goes_16 ?_
    refine lv_bipush (v := 32) hx hb dX4_goes_19 (by decide) ?_
    refine b_icmp_eq (tgt := 37) hx hb dX4_goes_21 (by decide) hit (fun c55 hit => ?_) (fun c55 hit => ?_)
    · refine lv_aload_n hx hb dX4_goes_37 rfl (lv_at hl 0 rfl) ?_
      refine lv_dup hx hb dX4_goes_38 rfl ?_
      refine m_get X hM 18 q1662 rfl rfl (v := .int (mf t1 18)) rfl dX4_goes_39 ?_
      refine lv_iconst (v := 1) hx hb dX4_goes_42 (by decide) ?_
      refine lv_iadd hx hb dX4_goes_43 ?_
      obtain ⟨s56, es56, hit⟩ := o_bind hit
      refine m_put X hM hS 18 q1662 rfl rfl (ty := .int) rfl rfl rfl es56 dX4_goes_44 (fun H locs hM hS => ?_)
      refine lv_goto (tgt := 0) hx hb dX4_goes_47 (by decide) ?_
      have he := o_in hit
      exact hC1 _ he _ _ _ hM hS hl
    · refine lv_aload_n hx hb dX4_goes_24 rfl (lv_at hl 0 rfl) ?_
      refine lv_aload_n hx hb dX4_goes_25 rfl (lv_at hl 0 rfl) ?_
      refine m_get X hM 18 q1662 rfl rfl (v := .int (mf t1 18)) rfl dX4_goes_26 ?_
      obtain ⟨q57, eq57, hit⟩ := o_bind hit
      refine m_cR X hM (wM_byteAt l G dT o ad _ _ _ eq57) nm_X4_byteAt q1856 q1858 q141 q1859 qs60 ⟨Nat.le_trans (Nat.le_of_ble_eq_true rfl) hR.1, Nat.le_trans (Nat.le_of_ble_eq_true rfl) hR.2⟩ rfl rfl hl.1 (lv_room (Nat.le_of_ble_eq_true rfl)) dX4_goes_29 ?_
      refine lv_bipush (v := 10) hx hb dX4_goes_32 (by decide) ?_
      refine b_icmp_ne (tgt := 50) hx hb dX4_goes_34 (by decide) hit (fun c58 hit => ?_) (fun c58 hit => ?_)
      · have he := o_in hit
        have he := hE1 _ he
        subst he
        exact hr3 _ _ _ hM hS hl
      · refine lv_aload_n hx hb dX4_goes_37 rfl (lv_at hl 0 rfl) ?_
        refine lv_dup hx hb dX4_goes_38 rfl ?_
        refine m_get X hM 18 q1662 rfl rfl (v := .int (mf t1 18)) rfl dX4_goes_39 ?_
        refine lv_iconst (v := 1) hx hb dX4_goes_42 (by decide) ?_
        refine lv_iadd hx hb dX4_goes_43 ?_
        obtain ⟨s59, es59, hit⟩ := o_bind hit
        refine m_put X hM hS 18 q1662 rfl rfl (ty := .int) rfl rfl rfl es59 dX4_goes_44 (fun H locs hM hS => ?_)
        refine lv_goto (tgt := 0) hx hb dX4_goes_47 (by decide) ?_
        have he := o_in hit
        exact hC1 _ he _ _ _ hM hS hl
noncomputable def M_spelled (a0 : Int32) (a1 : Int32) (a2 : Int32) (a3 : Int32) (a4 : Int32) (a5 : Int32) : Option (Int64) :=
  ((if a2 = 0 then
      (some ((((a0 : Int32).toInt64 - (96)) <<< ((5 : Int32).toInt64 &&& 63)) ||| ((a1 - 96) : Int32).toInt64))
    else
      (some ((((((a0 : Int32).toInt64 - (96)) <<< ((5 : Int32).toInt64 &&& 63)) ||| ((a1 - 96) : Int32).toInt64) <<< ((5 : Int32).toInt64 &&& 63)) ||| ((a2 - 96) : Int32).toInt64)) : Option Int64)).bind fun r1 =>
  ((if a3 = 0 then
      (some r1)
    else
      (some ((r1 <<< ((5 : Int32).toInt64 &&& 63)) ||| ((a3 - 96) : Int32).toInt64)) : Option Int64)).bind fun r2 =>
  ((if a4 = 0 then
      (some r2)
    else
      (some ((r2 <<< ((5 : Int32).toInt64 &&& 63)) ||| ((a4 - 96) : Int32).toInt64)) : Option Int64)).bind fun r3 =>
  if a5 = 0 then
    (some r3)
  else
    (some ((r3 <<< ((5 : Int32).toInt64 &&& 63)) ||| ((a5 - 96) : Int32).toInt64))
theorem nm_X4_spelled : kNm yX4_spelled RX4 6 := by unfold kNm; decide +kernel
set_option maxHeartbeats 4000000 in
set_option maxRecDepth 100000 in
theorem wM_spelled (l : Launch) (a0 : Int32) (a1 : Int32) (a2 : Int32) (a3 : Int32) (a4 : Int32) (a5 : Int32) (z : Int64) (h : M_spelled a0 a1 a2 a3 a4 a5 = some z) : Met l yX4_spelled (ws_ yX4_spelled cX4_spelled 8 (some .long)) (kRm 0 0) (bPc [.int a0, .int a1, .int a2, .int a3, .int a4, .int a5]) (vp_Sl (fun r => r = z)) 0 0 vp_nf := by
  refine m_startPl (cc := cX4_spelled) rfl rfl rfl (fun p e R s m args below meth c Q ls X hR hl hend => ?_)
  have hx := X.1
  have hb := X.2.1
  have hit := h
  clear h
  unfold M_spelled at hit
  have hl : lv_has ls 8 [(0, .int a0), (1, .int a1), (2, .int a2), (3, .int a3), (4, .int a4), (5, .int a5)] := hl
  refine lv_iload_n hx hb dX4_spelled_0 rfl (lv_at hl 0 rfl) ?_
  refine lv_i2l hx hb dX4_spelled_1 rfl ?_
  refine lv_ldc2 (v := 96) hx hb X.2.2.2.1 (X.2.2.2.2 _ q1884) dX4_spelled_2 ?_
  refine lv_lsub hx hb dX4_spelled_5 ?_
  refine lv_iconst (v := 5) hx hb dX4_spelled_6 (by decide) ?_
  refine lv_lshl hx hb dX4_spelled_7 rfl ?_
  refine lv_iload_n hx hb dX4_spelled_8 rfl (lv_at hl 1 rfl) ?_
  refine lv_bipush (v := 96) hx hb dX4_spelled_9 (by decide) ?_
  refine lv_isub hx hb dX4_spelled_11 ?_
  refine lv_i2l hx hb dX4_spelled_12 rfl ?_
  refine lv_lor hx hb dX4_spelled_13 ?_
  refine lv_lstore (lv' := [(6, .long ((((a0 : Int32).toInt64 - (96)) <<< ((5 : Int32).toInt64 &&& 63)) ||| ((a1 - 96) : Int32).toInt64)), (0, .int a0), (1, .int a1), (2, .int a2), (3, .int a3), (4, .int a4), (5, .int a5)]) hx hb dX4_spelled_14 hl (by decide) rfl (fun ls hl => ?_)
  refine lv_iload_n hx hb dX4_spelled_16 rfl (lv_at hl 3 rfl) ?_
  obtain ⟨r1, er1, hit⟩ := o_bind hit
  have hr1 : ∀ (ls : Array Slot), lv_has ls 8 [(3, .int a3), (4, .int a4), (5, .int a5), (6, .long r1)] → W p l e R s m args below meth c s.heap [] 0 0 Q (F0 m 32 ls []) := by
    intro ls hl
    refine lv_iload_n hx hb dX4_spelled_32 rfl (lv_at hl 0 rfl) ?_
    obtain ⟨r2, er2, hit⟩ := o_bind hit
    have hr2 : ∀ (ls : Array Slot), lv_has ls 8 [(4, .int a4), (5, .int a5), (6, .long r2)] → W p l e R s m args below meth c s.heap [] 0 0 Q (F0 m 48 ls []) := by
      intro ls hl
      refine lv_iload hx hb dX4_spelled_48 (lv_at hl 0 rfl) ?_
      obtain ⟨r3, er3, hit⟩ := o_bind hit
      have hr3 : ∀ (ls : Array Slot), lv_has ls 8 [(5, .int a5), (6, .long r3)] → W p l e R s m args below meth c s.heap [] 0 0 Q (F0 m 66 ls []) := by
        intro ls hl
        refine lv_iload hx hb dX4_spelled_66 (lv_at hl 0 rfl) ?_
        refine b_if_eq (tgt := 84) hx hb dX4_spelled_68 (by decide) hit (fun c4 hit => ?_) (fun c4 hit => ?_)
        · refine lv_lload hx hb dX4_spelled_84 (lv_at hl 1 rfl) ?_
          have he := o_in hit
          exact hend _ _ _ he dX4_spelled_86
        · refine lv_lload hx hb dX4_spelled_71 (lv_at hl 1 rfl) ?_
          refine lv_iconst (v := 5) hx hb dX4_spelled_73 (by decide) ?_
          refine lv_lshl hx hb dX4_spelled_74 rfl ?_
          refine lv_iload hx hb dX4_spelled_75 (lv_at hl 0 rfl) ?_
          refine lv_bipush (v := 96) hx hb dX4_spelled_77 (by decide) ?_
          refine lv_isub hx hb dX4_spelled_79 ?_
          refine lv_i2l hx hb dX4_spelled_80 rfl ?_
          refine lv_lor hx hb dX4_spelled_81 ?_
          refine lv_lstore (lv' := [(6, .long ((r3 <<< ((5 : Int32).toInt64 &&& 63)) ||| ((a5 - 96) : Int32).toInt64)), (5, .int a5)]) hx hb dX4_spelled_82 hl (by decide) rfl (fun ls hl => ?_)
          refine lv_lload hx hb dX4_spelled_84 (lv_at hl 0 rfl) ?_
          have he := o_in hit
          exact hend _ _ _ he dX4_spelled_86
      have hit := er3
      refine b_if_eq (tgt := 66) hx hb dX4_spelled_50 (by decide) hit (fun c5 hit => ?_) (fun c5 hit => ?_)
      · have he := o_in hit
        subst he
        exact hr3 _ (lv_sub hl [1, 2] rfl)
      · refine lv_lload hx hb dX4_spelled_53 (lv_at hl 2 rfl) ?_
        refine lv_iconst (v := 5) hx hb dX4_spelled_55 (by decide) ?_
        refine lv_lshl hx hb dX4_spelled_56 rfl ?_
        refine lv_iload hx hb dX4_spelled_57 (lv_at hl 0 rfl) ?_
        refine lv_bipush (v := 96) hx hb dX4_spelled_59 (by decide) ?_
        refine lv_isub hx hb dX4_spelled_61 ?_
        refine lv_i2l hx hb dX4_spelled_62 rfl ?_
        refine lv_lor hx hb dX4_spelled_63 ?_
        refine lv_lstore (lv' := [(6, .long ((r2 <<< ((5 : Int32).toInt64 &&& 63)) ||| ((a4 - 96) : Int32).toInt64)), (4, .int a4), (5, .int a5)]) hx hb dX4_spelled_64 hl (by decide) rfl (fun ls hl => ?_)
        have he := o_in hit
        subst he
        exact hr3 _ (lv_sub hl [2, 0] rfl)
    have hit := er2
    refine b_if_eq (tgt := 48) hx hb dX4_spelled_33 (by decide) hit (fun c6 hit => ?_) (fun c6 hit => ?_)
    · have he := o_in hit
      subst he
      exact hr2 _ (lv_sub hl [1, 2, 3] rfl)
    · refine lv_lload hx hb dX4_spelled_36 (lv_at hl 3 rfl) ?_
      refine lv_iconst (v := 5) hx hb dX4_spelled_38 (by decide) ?_
      refine lv_lshl hx hb dX4_spelled_39 rfl ?_
      refine lv_iload_n hx hb dX4_spelled_40 rfl (lv_at hl 0 rfl) ?_
      refine lv_bipush (v := 96) hx hb dX4_spelled_41 (by decide) ?_
      refine lv_isub hx hb dX4_spelled_43 ?_
      refine lv_i2l hx hb dX4_spelled_44 rfl ?_
      refine lv_lor hx hb dX4_spelled_45 ?_
      refine lv_lstore (lv' := [(6, .long ((r1 <<< ((5 : Int32).toInt64 &&& 63)) ||| ((a3 - 96) : Int32).toInt64)), (3, .int a3), (4, .int a4), (5, .int a5)]) hx hb dX4_spelled_46 hl (by decide) rfl (fun ls hl => ?_)
      have he := o_in hit
      subst he
      exact hr2 _ (lv_sub hl [2, 3, 0] rfl)
  have hit := er1
  refine b_if_eq (tgt := 32) hx hb dX4_spelled_17 (by decide) hit (fun c7 hit => ?_) (fun c7 hit => ?_)
  · have he := o_in hit
    subst he
    exact hr1 _ (lv_sub hl [4, 5, 6, 0] rfl)
  · refine lv_lload hx hb dX4_spelled_20 (lv_at hl 0 rfl) ?_
    refine lv_iconst (v := 5) hx hb dX4_spelled_22 (by decide) ?_
    refine lv_lshl hx hb dX4_spelled_23 rfl ?_
    refine lv_iload_n hx hb dX4_spelled_24 rfl (lv_at hl 3 rfl) ?_
    refine lv_bipush (v := 96) hx hb dX4_spelled_25 (by decide) ?_
    refine lv_isub hx hb dX4_spelled_27 ?_
    refine lv_i2l hx hb dX4_spelled_28 rfl ?_
    refine lv_lor hx hb dX4_spelled_29 ?_
    refine lv_lstore (lv' := [(6, .long ((((((a0 : Int32).toInt64 - (96)) <<< ((5 : Int32).toInt64 &&& 63)) ||| ((a1 - 96) : Int32).toInt64) <<< ((5 : Int32).toInt64 &&& 63)) ||| ((a2 - 96) : Int32).toInt64)), (0, .int a0), (1, .int a1), (2, .int a2), (3, .int a3), (4, .int a4), (5, .int a5)]) hx hb dX4_spelled_30 hl (by decide) rfl (fun ls hl => ?_)
    have he := o_in hit
    subst he
    exact hr1 _ (lv_sub hl [4, 5, 6, 0] rfl)
noncomputable def M_letters (a0 : Int32) : Option (Int64) :=
  if a0 = 0 then
    ((M_spelled 108 101 102 116 0 0).bind fun q2 =>
    some q2)
  else
    (if a0 = 1 then
      ((M_spelled 114 105 103 104 116 0).bind fun q4 =>
      some q4)
    else
      (if a0 = 2 then
        ((M_spelled 115 104 101 101 116 0).bind fun q6 =>
        some q6)
      else
        (if a0 = 3 then
          ((M_spelled 98 111 114 110 101 0).bind fun q8 =>
          some q8)
        else
          (if a0 = 4 then
            ((M_spelled 116 111 119 110 0 0).bind fun q10 =>
            some q10)
          else
            (if a0 = 5 then
              ((M_spelled 100 97 121 0 0 0).bind fun q12 =>
              some q12)
            else
              (if a0 = 6 then
                ((M_spelled 115 104 101 101 116 115).bind fun q14 =>
                some q14)
              else
                (if a0 = 7 then
                  ((M_spelled 99 108 101 114 107 115).bind fun q16 =>
                  some q16)
                else
                  (if a0 = 8 then
                    ((M_spelled 107 110 111 119 110 0).bind fun q18 =>
                    some q18)
                  else
                    (if a0 = 9 then
                      ((M_spelled 99 108 101 114 107 0).bind fun q20 =>
                      some q20)
                    else
                      (if a0 = 10 then
                        ((M_spelled 119 111 114 100 0 0).bind fun q22 =>
                        some q22)
                      else
                        (if a0 = 11 then
                          ((M_spelled 115 108 97 99 107 0).bind fun q24 =>
                          some q24)
                        else
                          (if a0 = 12 then
                            ((M_spelled 108 97 121 115 0 0).bind fun q26 =>
                            some q26)
                          else
                            (if a0 = 13 then
                              ((M_spelled 109 111 117 108 100 115).bind fun q28 =>
                              some q28)
                            else
                              (if a0 = 14 then
                                ((M_spelled 97 110 100 0 0 0).bind fun q30 =>
                                some q30)
                              else
                                (if a0 = 15 then
                                  ((M_spelled 111 114 0 0 0 0).bind fun q32 =>
                                  some q32)
                                else
                                  ((M_spelled 110 111 116 0 0 0).bind fun q33 =>
                                  some q33))))))))))))))))
theorem nm_X4_letters : kNm yX4_letters RX4 1 := by unfold kNm; decide +kernel
set_option maxHeartbeats 4000000 in
set_option maxRecDepth 100000 in
theorem wM_letters (l : Launch) (a0 : Int32) (z : Int64) (h : M_letters a0 = some z) : Met l yX4_letters (ws_ yX4_letters cX4_letters 1 (some .long)) (kRm 1 27) (bPc [.int a0]) (vp_Sl (fun r => r = z)) 0 0 vp_nf := by
  refine m_startPl (cc := cX4_letters) rfl rfl rfl (fun p e R s m args below meth c Q ls X hR hl hend => ?_)
  have hx := X.1
  have hb := X.2.1
  have hit := h
  clear h
  unfold M_letters at hit
  have hl : lv_has ls 1 [(0, .int a0)] := hl
  refine lv_iload_n hx hb dX4_letters_0 rfl (lv_at hl 0 rfl) ?_
  refine Decidable.byCases (p := a0 = 0) (fun c1 => ?_) (fun c1 => ?_)
  · replace hit := o_t hit c1
    refine b_tab (tgt := 80) hx hb dX4_letters_1 c1 (z := 0) (by decide) (by decide) (by decide) rfl (by decide) ?_
    refine lv_bipush (v := 108) hx hb dX4_letters_80 (by decide) ?_
    refine lv_bipush (v := 101) hx hb dX4_letters_82 (by decide) ?_
    refine lv_bipush (v := 102) hx hb dX4_letters_84 (by decide) ?_
    refine lv_bipush (v := 116) hx hb dX4_letters_86 (by decide) ?_
    refine lv_iconst (v := 0) hx hb dX4_letters_88 (by decide) ?_
    refine lv_iconst (v := 0) hx hb dX4_letters_89 (by decide) ?_
    obtain ⟨q2, eq2, hit⟩ := o_bind hit
    refine m_cPl X (wM_spelled l _ _ _ _ _ _ _ eq2) nm_X4_spelled q1881 q1882 q141 q1883 ⟨Nat.le_trans (Nat.le_of_ble_eq_true rfl) hR.1, Nat.le_trans (Nat.le_of_ble_eq_true rfl) hR.2⟩ rfl rfl hl.1 (lv_room (Nat.le_of_ble_eq_true rfl)) dX4_letters_90 ?_
    have he := o_in hit
    exact hend _ _ _ he dX4_letters_93
  · replace hit := o_f hit c1
    refine Decidable.byCases (p := a0 = 1) (fun c3 => ?_) (fun c3 => ?_)
    · replace hit := o_t hit c3
      refine b_tab (tgt := 94) hx hb dX4_letters_1 c3 (z := 1) (by decide) (by decide) (by decide) rfl (by decide) ?_
      refine lv_bipush (v := 114) hx hb dX4_letters_94 (by decide) ?_
      refine lv_bipush (v := 105) hx hb dX4_letters_96 (by decide) ?_
      refine lv_bipush (v := 103) hx hb dX4_letters_98 (by decide) ?_
      refine lv_bipush (v := 104) hx hb dX4_letters_100 (by decide) ?_
      refine lv_bipush (v := 116) hx hb dX4_letters_102 (by decide) ?_
      refine lv_iconst (v := 0) hx hb dX4_letters_104 (by decide) ?_
      obtain ⟨q4, eq4, hit⟩ := o_bind hit
      refine m_cPl X (wM_spelled l _ _ _ _ _ _ _ eq4) nm_X4_spelled q1881 q1882 q141 q1883 ⟨Nat.le_trans (Nat.le_of_ble_eq_true rfl) hR.1, Nat.le_trans (Nat.le_of_ble_eq_true rfl) hR.2⟩ rfl rfl hl.1 (lv_room (Nat.le_of_ble_eq_true rfl)) dX4_letters_105 ?_
      have he := o_in hit
      exact hend _ _ _ he dX4_letters_108
    · replace hit := o_f hit c3
      refine Decidable.byCases (p := a0 = 2) (fun c5 => ?_) (fun c5 => ?_)
      · replace hit := o_t hit c5
        refine b_tab (tgt := 109) hx hb dX4_letters_1 c5 (z := 2) (by decide) (by decide) (by decide) rfl (by decide) ?_
        refine lv_bipush (v := 115) hx hb dX4_letters_109 (by decide) ?_
        refine lv_bipush (v := 104) hx hb dX4_letters_111 (by decide) ?_
        refine lv_bipush (v := 101) hx hb dX4_letters_113 (by decide) ?_
        refine lv_bipush (v := 101) hx hb dX4_letters_115 (by decide) ?_
        refine lv_bipush (v := 116) hx hb dX4_letters_117 (by decide) ?_
        refine lv_iconst (v := 0) hx hb dX4_letters_119 (by decide) ?_
        obtain ⟨q6, eq6, hit⟩ := o_bind hit
        refine m_cPl X (wM_spelled l _ _ _ _ _ _ _ eq6) nm_X4_spelled q1881 q1882 q141 q1883 ⟨Nat.le_trans (Nat.le_of_ble_eq_true rfl) hR.1, Nat.le_trans (Nat.le_of_ble_eq_true rfl) hR.2⟩ rfl rfl hl.1 (lv_room (Nat.le_of_ble_eq_true rfl)) dX4_letters_120 ?_
        have he := o_in hit
        exact hend _ _ _ he dX4_letters_123
      · replace hit := o_f hit c5
        refine Decidable.byCases (p := a0 = 3) (fun c7 => ?_) (fun c7 => ?_)
        · replace hit := o_t hit c7
          refine b_tab (tgt := 124) hx hb dX4_letters_1 c7 (z := 3) (by decide) (by decide) (by decide) rfl (by decide) ?_
          refine lv_bipush (v := 98) hx hb dX4_letters_124 (by decide) ?_
          refine lv_bipush (v := 111) hx hb dX4_letters_126 (by decide) ?_
          refine lv_bipush (v := 114) hx hb dX4_letters_128 (by decide) ?_
          refine lv_bipush (v := 110) hx hb dX4_letters_130 (by decide) ?_
          refine lv_bipush (v := 101) hx hb dX4_letters_132 (by decide) ?_
          refine lv_iconst (v := 0) hx hb dX4_letters_134 (by decide) ?_
          obtain ⟨q8, eq8, hit⟩ := o_bind hit
          refine m_cPl X (wM_spelled l _ _ _ _ _ _ _ eq8) nm_X4_spelled q1881 q1882 q141 q1883 ⟨Nat.le_trans (Nat.le_of_ble_eq_true rfl) hR.1, Nat.le_trans (Nat.le_of_ble_eq_true rfl) hR.2⟩ rfl rfl hl.1 (lv_room (Nat.le_of_ble_eq_true rfl)) dX4_letters_135 ?_
          have he := o_in hit
          exact hend _ _ _ he dX4_letters_138
        · replace hit := o_f hit c7
          refine Decidable.byCases (p := a0 = 4) (fun c9 => ?_) (fun c9 => ?_)
          · replace hit := o_t hit c9
            refine b_tab (tgt := 139) hx hb dX4_letters_1 c9 (z := 4) (by decide) (by decide) (by decide) rfl (by decide) ?_
            refine lv_bipush (v := 116) hx hb dX4_letters_139 (by decide) ?_
            refine lv_bipush (v := 111) hx hb dX4_letters_141 (by decide) ?_
            refine lv_bipush (v := 119) hx hb dX4_letters_143 (by decide) ?_
            refine lv_bipush (v := 110) hx hb dX4_letters_145 (by decide) ?_
            refine lv_iconst (v := 0) hx hb dX4_letters_147 (by decide) ?_
            refine lv_iconst (v := 0) hx hb dX4_letters_148 (by decide) ?_
            obtain ⟨q10, eq10, hit⟩ := o_bind hit
            refine m_cPl X (wM_spelled l _ _ _ _ _ _ _ eq10) nm_X4_spelled q1881 q1882 q141 q1883 ⟨Nat.le_trans (Nat.le_of_ble_eq_true rfl) hR.1, Nat.le_trans (Nat.le_of_ble_eq_true rfl) hR.2⟩ rfl rfl hl.1 (lv_room (Nat.le_of_ble_eq_true rfl)) dX4_letters_149 ?_
            have he := o_in hit
            exact hend _ _ _ he dX4_letters_152
          · replace hit := o_f hit c9
            refine Decidable.byCases (p := a0 = 5) (fun c11 => ?_) (fun c11 => ?_)
            · replace hit := o_t hit c11
              refine b_tab (tgt := 153) hx hb dX4_letters_1 c11 (z := 5) (by decide) (by decide) (by decide) rfl (by decide) ?_
              refine lv_bipush (v := 100) hx hb dX4_letters_153 (by decide) ?_
              refine lv_bipush (v := 97) hx hb dX4_letters_155 (by decide) ?_
              refine lv_bipush (v := 121) hx hb dX4_letters_157 (by decide) ?_
              refine lv_iconst (v := 0) hx hb dX4_letters_159 (by decide) ?_
              refine lv_iconst (v := 0) hx hb dX4_letters_160 (by decide) ?_
              refine lv_iconst (v := 0) hx hb dX4_letters_161 (by decide) ?_
              obtain ⟨q12, eq12, hit⟩ := o_bind hit
              refine m_cPl X (wM_spelled l _ _ _ _ _ _ _ eq12) nm_X4_spelled q1881 q1882 q141 q1883 ⟨Nat.le_trans (Nat.le_of_ble_eq_true rfl) hR.1, Nat.le_trans (Nat.le_of_ble_eq_true rfl) hR.2⟩ rfl rfl hl.1 (lv_room (Nat.le_of_ble_eq_true rfl)) dX4_letters_162 ?_
              have he := o_in hit
              exact hend _ _ _ he dX4_letters_165
            · replace hit := o_f hit c11
              refine Decidable.byCases (p := a0 = 6) (fun c13 => ?_) (fun c13 => ?_)
              · replace hit := o_t hit c13
                refine b_tab (tgt := 166) hx hb dX4_letters_1 c13 (z := 6) (by decide) (by decide) (by decide) rfl (by decide) ?_
                refine lv_bipush (v := 115) hx hb dX4_letters_166 (by decide) ?_
                refine lv_bipush (v := 104) hx hb dX4_letters_168 (by decide) ?_
                refine lv_bipush (v := 101) hx hb dX4_letters_170 (by decide) ?_
                refine lv_bipush (v := 101) hx hb dX4_letters_172 (by decide) ?_
                refine lv_bipush (v := 116) hx hb dX4_letters_174 (by decide) ?_
                refine lv_bipush (v := 115) hx hb dX4_letters_176 (by decide) ?_
                obtain ⟨q14, eq14, hit⟩ := o_bind hit
                refine m_cPl X (wM_spelled l _ _ _ _ _ _ _ eq14) nm_X4_spelled q1881 q1882 q141 q1883 ⟨Nat.le_trans (Nat.le_of_ble_eq_true rfl) hR.1, Nat.le_trans (Nat.le_of_ble_eq_true rfl) hR.2⟩ rfl rfl hl.1 (lv_room (Nat.le_of_ble_eq_true rfl)) dX4_letters_178 ?_
                have he := o_in hit
                exact hend _ _ _ he dX4_letters_181
              · replace hit := o_f hit c13
                refine Decidable.byCases (p := a0 = 7) (fun c15 => ?_) (fun c15 => ?_)
                · replace hit := o_t hit c15
                  refine b_tab (tgt := 182) hx hb dX4_letters_1 c15 (z := 7) (by decide) (by decide) (by decide) rfl (by decide) ?_
                  refine lv_bipush (v := 99) hx hb dX4_letters_182 (by decide) ?_
                  refine lv_bipush (v := 108) hx hb dX4_letters_184 (by decide) ?_
                  refine lv_bipush (v := 101) hx hb dX4_letters_186 (by decide) ?_
                  refine lv_bipush (v := 114) hx hb dX4_letters_188 (by decide) ?_
                  refine lv_bipush (v := 107) hx hb dX4_letters_190 (by decide) ?_
                  refine lv_bipush (v := 115) hx hb dX4_letters_192 (by decide) ?_
                  obtain ⟨q16, eq16, hit⟩ := o_bind hit
                  refine m_cPl X (wM_spelled l _ _ _ _ _ _ _ eq16) nm_X4_spelled q1881 q1882 q141 q1883 ⟨Nat.le_trans (Nat.le_of_ble_eq_true rfl) hR.1, Nat.le_trans (Nat.le_of_ble_eq_true rfl) hR.2⟩ rfl rfl hl.1 (lv_room (Nat.le_of_ble_eq_true rfl)) dX4_letters_194 ?_
                  have he := o_in hit
                  exact hend _ _ _ he dX4_letters_197
                · replace hit := o_f hit c15
                  refine Decidable.byCases (p := a0 = 8) (fun c17 => ?_) (fun c17 => ?_)
                  · replace hit := o_t hit c17
                    refine b_tab (tgt := 198) hx hb dX4_letters_1 c17 (z := 8) (by decide) (by decide) (by decide) rfl (by decide) ?_
                    refine lv_bipush (v := 107) hx hb dX4_letters_198 (by decide) ?_
                    refine lv_bipush (v := 110) hx hb dX4_letters_200 (by decide) ?_
                    refine lv_bipush (v := 111) hx hb dX4_letters_202 (by decide) ?_
                    refine lv_bipush (v := 119) hx hb dX4_letters_204 (by decide) ?_
                    refine lv_bipush (v := 110) hx hb dX4_letters_206 (by decide) ?_
                    refine lv_iconst (v := 0) hx hb dX4_letters_208 (by decide) ?_
                    obtain ⟨q18, eq18, hit⟩ := o_bind hit
                    refine m_cPl X (wM_spelled l _ _ _ _ _ _ _ eq18) nm_X4_spelled q1881 q1882 q141 q1883 ⟨Nat.le_trans (Nat.le_of_ble_eq_true rfl) hR.1, Nat.le_trans (Nat.le_of_ble_eq_true rfl) hR.2⟩ rfl rfl hl.1 (lv_room (Nat.le_of_ble_eq_true rfl)) dX4_letters_209 ?_
                    have he := o_in hit
                    exact hend _ _ _ he dX4_letters_212
                  · replace hit := o_f hit c17
                    refine Decidable.byCases (p := a0 = 9) (fun c19 => ?_) (fun c19 => ?_)
                    · replace hit := o_t hit c19
                      refine b_tab (tgt := 213) hx hb dX4_letters_1 c19 (z := 9) (by decide) (by decide) (by decide) rfl (by decide) ?_
                      refine lv_bipush (v := 99) hx hb dX4_letters_213 (by decide) ?_
                      refine lv_bipush (v := 108) hx hb dX4_letters_215 (by decide) ?_
                      refine lv_bipush (v := 101) hx hb dX4_letters_217 (by decide) ?_
                      refine lv_bipush (v := 114) hx hb dX4_letters_219 (by decide) ?_
                      refine lv_bipush (v := 107) hx hb dX4_letters_221 (by decide) ?_
                      refine lv_iconst (v := 0) hx hb dX4_letters_223 (by decide) ?_
                      obtain ⟨q20, eq20, hit⟩ := o_bind hit
                      refine m_cPl X (wM_spelled l _ _ _ _ _ _ _ eq20) nm_X4_spelled q1881 q1882 q141 q1883 ⟨Nat.le_trans (Nat.le_of_ble_eq_true rfl) hR.1, Nat.le_trans (Nat.le_of_ble_eq_true rfl) hR.2⟩ rfl rfl hl.1 (lv_room (Nat.le_of_ble_eq_true rfl)) dX4_letters_224 ?_
                      have he := o_in hit
                      exact hend _ _ _ he dX4_letters_227
                    · replace hit := o_f hit c19
                      refine Decidable.byCases (p := a0 = 10) (fun c21 => ?_) (fun c21 => ?_)
                      · replace hit := o_t hit c21
                        refine b_tab (tgt := 228) hx hb dX4_letters_1 c21 (z := 10) (by decide) (by decide) (by decide) rfl (by decide) ?_
                        refine lv_bipush (v := 119) hx hb dX4_letters_228 (by decide) ?_
                        refine lv_bipush (v := 111) hx hb dX4_letters_230 (by decide) ?_
                        refine lv_bipush (v := 114) hx hb dX4_letters_232 (by decide) ?_
                        refine lv_bipush (v := 100) hx hb dX4_letters_234 (by decide) ?_
                        refine lv_iconst (v := 0) hx hb dX4_letters_236 (by decide) ?_
                        refine lv_iconst (v := 0) hx hb dX4_letters_237 (by decide) ?_
                        obtain ⟨q22, eq22, hit⟩ := o_bind hit
                        refine m_cPl X (wM_spelled l _ _ _ _ _ _ _ eq22) nm_X4_spelled q1881 q1882 q141 q1883 ⟨Nat.le_trans (Nat.le_of_ble_eq_true rfl) hR.1, Nat.le_trans (Nat.le_of_ble_eq_true rfl) hR.2⟩ rfl rfl hl.1 (lv_room (Nat.le_of_ble_eq_true rfl)) dX4_letters_238 ?_
                        have he := o_in hit
                        exact hend _ _ _ he dX4_letters_241
                      · replace hit := o_f hit c21
                        refine Decidable.byCases (p := a0 = 11) (fun c23 => ?_) (fun c23 => ?_)
                        · replace hit := o_t hit c23
                          refine b_tab (tgt := 242) hx hb dX4_letters_1 c23 (z := 11) (by decide) (by decide) (by decide) rfl (by decide) ?_
                          refine lv_bipush (v := 115) hx hb dX4_letters_242 (by decide) ?_
                          refine lv_bipush (v := 108) hx hb dX4_letters_244 (by decide) ?_
                          refine lv_bipush (v := 97) hx hb dX4_letters_246 (by decide) ?_
                          refine lv_bipush (v := 99) hx hb dX4_letters_248 (by decide) ?_
                          refine lv_bipush (v := 107) hx hb dX4_letters_250 (by decide) ?_
                          refine lv_iconst (v := 0) hx hb dX4_letters_252 (by decide) ?_
                          obtain ⟨q24, eq24, hit⟩ := o_bind hit
                          refine m_cPl X (wM_spelled l _ _ _ _ _ _ _ eq24) nm_X4_spelled q1881 q1882 q141 q1883 ⟨Nat.le_trans (Nat.le_of_ble_eq_true rfl) hR.1, Nat.le_trans (Nat.le_of_ble_eq_true rfl) hR.2⟩ rfl rfl hl.1 (lv_room (Nat.le_of_ble_eq_true rfl)) dX4_letters_253 ?_
                          have he := o_in hit
                          exact hend _ _ _ he dX4_letters_256
                        · replace hit := o_f hit c23
                          refine Decidable.byCases (p := a0 = 12) (fun c25 => ?_) (fun c25 => ?_)
                          · replace hit := o_t hit c25
                            refine b_tab (tgt := 257) hx hb dX4_letters_1 c25 (z := 12) (by decide) (by decide) (by decide) rfl (by decide) ?_
                            refine lv_bipush (v := 108) hx hb dX4_letters_257 (by decide) ?_
                            refine lv_bipush (v := 97) hx hb dX4_letters_259 (by decide) ?_
                            refine lv_bipush (v := 121) hx hb dX4_letters_261 (by decide) ?_
                            refine lv_bipush (v := 115) hx hb dX4_letters_263 (by decide) ?_
                            refine lv_iconst (v := 0) hx hb dX4_letters_265 (by decide) ?_
                            refine lv_iconst (v := 0) hx hb dX4_letters_266 (by decide) ?_
                            obtain ⟨q26, eq26, hit⟩ := o_bind hit
                            refine m_cPl X (wM_spelled l _ _ _ _ _ _ _ eq26) nm_X4_spelled q1881 q1882 q141 q1883 ⟨Nat.le_trans (Nat.le_of_ble_eq_true rfl) hR.1, Nat.le_trans (Nat.le_of_ble_eq_true rfl) hR.2⟩ rfl rfl hl.1 (lv_room (Nat.le_of_ble_eq_true rfl)) dX4_letters_267 ?_
                            have he := o_in hit
                            exact hend _ _ _ he dX4_letters_270
                          · replace hit := o_f hit c25
                            refine Decidable.byCases (p := a0 = 13) (fun c27 => ?_) (fun c27 => ?_)
                            · replace hit := o_t hit c27
                              refine b_tab (tgt := 271) hx hb dX4_letters_1 c27 (z := 13) (by decide) (by decide) (by decide) rfl (by decide) ?_
                              refine lv_bipush (v := 109) hx hb dX4_letters_271 (by decide) ?_
                              refine lv_bipush (v := 111) hx hb dX4_letters_273 (by decide) ?_
                              refine lv_bipush (v := 117) hx hb dX4_letters_275 (by decide) ?_
                              refine lv_bipush (v := 108) hx hb dX4_letters_277 (by decide) ?_
                              refine lv_bipush (v := 100) hx hb dX4_letters_279 (by decide) ?_
                              refine lv_bipush (v := 115) hx hb dX4_letters_281 (by decide) ?_
                              obtain ⟨q28, eq28, hit⟩ := o_bind hit
                              refine m_cPl X (wM_spelled l _ _ _ _ _ _ _ eq28) nm_X4_spelled q1881 q1882 q141 q1883 ⟨Nat.le_trans (Nat.le_of_ble_eq_true rfl) hR.1, Nat.le_trans (Nat.le_of_ble_eq_true rfl) hR.2⟩ rfl rfl hl.1 (lv_room (Nat.le_of_ble_eq_true rfl)) dX4_letters_283 ?_
                              have he := o_in hit
                              exact hend _ _ _ he dX4_letters_286
                            · replace hit := o_f hit c27
                              refine Decidable.byCases (p := a0 = 14) (fun c29 => ?_) (fun c29 => ?_)
                              · replace hit := o_t hit c29
                                refine b_tab (tgt := 287) hx hb dX4_letters_1 c29 (z := 14) (by decide) (by decide) (by decide) rfl (by decide) ?_
                                refine lv_bipush (v := 97) hx hb dX4_letters_287 (by decide) ?_
                                refine lv_bipush (v := 110) hx hb dX4_letters_289 (by decide) ?_
                                refine lv_bipush (v := 100) hx hb dX4_letters_291 (by decide) ?_
                                refine lv_iconst (v := 0) hx hb dX4_letters_293 (by decide) ?_
                                refine lv_iconst (v := 0) hx hb dX4_letters_294 (by decide) ?_
                                refine lv_iconst (v := 0) hx hb dX4_letters_295 (by decide) ?_
                                obtain ⟨q30, eq30, hit⟩ := o_bind hit
                                refine m_cPl X (wM_spelled l _ _ _ _ _ _ _ eq30) nm_X4_spelled q1881 q1882 q141 q1883 ⟨Nat.le_trans (Nat.le_of_ble_eq_true rfl) hR.1, Nat.le_trans (Nat.le_of_ble_eq_true rfl) hR.2⟩ rfl rfl hl.1 (lv_room (Nat.le_of_ble_eq_true rfl)) dX4_letters_296 ?_
                                have he := o_in hit
                                exact hend _ _ _ he dX4_letters_299
                              · replace hit := o_f hit c29
                                refine Decidable.byCases (p := a0 = 15) (fun c31 => ?_) (fun c31 => ?_)
                                · replace hit := o_t hit c31
                                  refine b_tab (tgt := 300) hx hb dX4_letters_1 c31 (z := 15) (by decide) (by decide) (by decide) rfl (by decide) ?_
                                  refine lv_bipush (v := 111) hx hb dX4_letters_300 (by decide) ?_
                                  refine lv_bipush (v := 114) hx hb dX4_letters_302 (by decide) ?_
                                  refine lv_iconst (v := 0) hx hb dX4_letters_304 (by decide) ?_
                                  refine lv_iconst (v := 0) hx hb dX4_letters_305 (by decide) ?_
                                  refine lv_iconst (v := 0) hx hb dX4_letters_306 (by decide) ?_
                                  refine lv_iconst (v := 0) hx hb dX4_letters_307 (by decide) ?_
                                  obtain ⟨q32, eq32, hit⟩ := o_bind hit
                                  refine m_cPl X (wM_spelled l _ _ _ _ _ _ _ eq32) nm_X4_spelled q1881 q1882 q141 q1883 ⟨Nat.le_trans (Nat.le_of_ble_eq_true rfl) hR.1, Nat.le_trans (Nat.le_of_ble_eq_true rfl) hR.2⟩ rfl rfl hl.1 (lv_room (Nat.le_of_ble_eq_true rfl)) dX4_letters_308 ?_
                                  have he := o_in hit
                                  exact hend _ _ _ he dX4_letters_311
                                · replace hit := o_f hit c31
                                  have nc1 := lv_neT (a := 0) c1 (by decide)
                                  have nc3 := lv_neT (a := 1) c3 (by decide)
                                  have nc5 := lv_neT (a := 2) c5 (by decide)
                                  have nc7 := lv_neT (a := 3) c7 (by decide)
                                  have nc9 := lv_neT (a := 4) c9 (by decide)
                                  have nc11 := lv_neT (a := 5) c11 (by decide)
                                  have nc13 := lv_neT (a := 6) c13 (by decide)
                                  have nc15 := lv_neT (a := 7) c15 (by decide)
                                  have nc17 := lv_neT (a := 8) c17 (by decide)
                                  have nc19 := lv_neT (a := 9) c19 (by decide)
                                  have nc21 := lv_neT (a := 10) c21 (by decide)
                                  have nc23 := lv_neT (a := 11) c23 (by decide)
                                  have nc25 := lv_neT (a := 12) c25 (by decide)
                                  have nc27 := lv_neT (a := 13) c27 (by decide)
                                  have nc29 := lv_neT (a := 14) c29 (by decide)
                                  have nc31 := lv_neT (a := 15) c31 (by decide)
                                  refine lv_tableOut (tgt := 312) hx hb dX4_letters_1 (by omega) (by decide) ?_
                                  refine lv_bipush (v := 110) hx hb dX4_letters_312 (by decide) ?_
                                  refine lv_bipush (v := 111) hx hb dX4_letters_314 (by decide) ?_
                                  refine lv_bipush (v := 116) hx hb dX4_letters_316 (by decide) ?_
                                  refine lv_iconst (v := 0) hx hb dX4_letters_318 (by decide) ?_
                                  refine lv_iconst (v := 0) hx hb dX4_letters_319 (by decide) ?_
                                  refine lv_iconst (v := 0) hx hb dX4_letters_320 (by decide) ?_
                                  obtain ⟨q33, eq33, hit⟩ := o_bind hit
                                  refine m_cPl X (wM_spelled l _ _ _ _ _ _ _ eq33) nm_X4_spelled q1881 q1882 q141 q1883 ⟨Nat.le_trans (Nat.le_of_ble_eq_true rfl) hR.1, Nat.le_trans (Nat.le_of_ble_eq_true rfl) hR.2⟩ rfl rfl hl.1 (lv_room (Nat.le_of_ble_eq_true rfl)) dX4_letters_321 ?_
                                  have he := o_in hit
                                  exact hend _ _ _ he dX4_letters_324
noncomputable def M_knownWord_L21 (σ : MS) (t3 : Int32) : Option (Int32 ⊕ Int32) :=
  if t3 < 17 then
    ((M_letters t3).bind fun q6 =>
    if (lg_cmp q6 (mw σ)) = 0 then
      (some (.inr t3))
    else
      (some (.inl (t3 + 1))))
  else
    (some (.inr (-1)))
noncomputable def M_knownWord (σ : MS) : Option (Int32) :=
  if (mf σ 19) = 1 then
    (if (mf σ 21) ≤ 6 then
      (o_loop (M_knownWord_L21 σ) 0)
    else
      (some (-1)))
  else
    (some (-1))
theorem nm_X4_knownWord : kNm yX4_knownWord RX4 0 := by unfold kNm; decide +kernel
set_option maxHeartbeats 4000000 in
set_option maxRecDepth 100000 in
theorem wM_knownWord (l : Launch) (G : va_G) (dT : Nat → ClassId) (o : Nat) (ad : Nat → Nat) (σ : MS) (z : Int32) (h : M_knownWord σ = some z) : Met l yX4_knownWord (ws_ yX4_knownWord cX4_knownWord 2 (some .int)) (kRm 2 47) (mPc G dT o ad σ []) (vp_Si (fun r => r = z)) 0 0 vp_nf := by
  refine m_startR (cc := cX4_knownWord) (ty := .int) rfl rfl rfl (fun p e R s m args below meth c Q ls X hR hM hl hend => ?_)
  have hx := X.1.1
  have hb := X.1.2.1
  have hit := h
  clear h
  unfold M_knownWord at hit
  have hl : lv_has ls 2 [(0, .ref o)] := hl
  refine lv_aload_n hx hb dX4_knownWord_0 rfl (lv_at hl 0 rfl) ?_
  refine m_get X hM 19 q1663 rfl rfl (v := .int (mf σ 19)) rfl dX4_knownWord_1 ?_
  refine lv_iconst (v := 1) hx hb dX4_knownWord_4 (by decide) ?_
  refine b_icmp_ne (tgt := 17) hx hb dX4_knownWord_5 (by decide) hit (fun c1 hit => ?_) (fun c1 hit => ?_)
  · refine lv_iconst (v := (-1)) hx hb dX4_knownWord_17 (by decide) ?_
    have he := o_in hit
    exact hend _ (-1) _ _ rfl he dX4_knownWord_18
  · refine lv_aload_n hx hb dX4_knownWord_8 rfl (lv_at hl 0 rfl) ?_
    refine m_get X hM 21 q1665 rfl rfl (v := .int (mf σ 21)) rfl dX4_knownWord_9 ?_
    refine lv_bipush (v := 6) hx hb dX4_knownWord_12 (by decide) ?_
    refine b_icmp_le (tgt := 19) hx hb dX4_knownWord_14 (by decide) hit (fun c2 hit => ?_) (fun c2 hit => ?_)
    · refine lv_iconst (v := 0) hx hb dX4_knownWord_19 (by decide) ?_
      refine lv_istore_n (lv' := [(1, .int 0), (0, .ref o)]) hx hb dX4_knownWord_20 rfl hl (by decide) rfl (fun ls hl => ?_)
      refine o_rec (P := fun t3 => ∀ (ls : Array Slot), lv_has ls 2 [(0, .ref o), (1, .int t3)] → W p l e R s m args below meth c s.heap [] 0 0 Q (F0 m 21 ls [])) (fun t3 x4 hit hC3 hE3 ls hl => ?_) _ hit _ (lv_sub hl [1, 0] rfl)
      unfold M_knownWord_L21 at hit
      refine lv_iload_n hx hb dX4_knownWord_21 rfl (lv_at hl 1 rfl) ?_
      refine lv_bipush (v := 17) hx hb dX4_knownWord_22 (by decide) ?_
      refine b_icmp_ge (tgt := 47) hx hb dX4_knownWord_24 (by decide) hit (fun c5 hit => ?_) (fun c5 hit => ?_)
      · refine lv_iconst (v := (-1)) hx hb dX4_knownWord_47 (by decide) ?_
        have he := o_in hit
        have he := hE3 _ he
        exact hend _ (-1) _ _ rfl he dX4_knownWord_48
      · refine lv_iload_n hx hb dX4_knownWord_27 rfl (lv_at hl 1 rfl) ?_
        obtain ⟨q6, eq6, hit⟩ := o_bind hit
        refine m_cPl X.1 (wM_letters l _ _ eq6) nm_X4_letters q1878 q1879 q141 q1880 ⟨Nat.le_trans (Nat.le_of_ble_eq_true rfl) hR.1, Nat.le_trans (Nat.le_of_ble_eq_true rfl) hR.2⟩ rfl rfl hl.1 (lv_room (Nat.le_of_ble_eq_true rfl)) dX4_knownWord_28 ?_
        refine lv_aload_n hx hb dX4_knownWord_31 rfl (lv_at hl 0 rfl) ?_
        refine m_get X hM 24 q1668 rfl rfl (v := .long (mw σ)) rfl dX4_knownWord_32 ?_
        refine W.lcmp hx hb dX4_knownWord_35 ?_
        refine b_if_ne (tgt := 41) hx hb dX4_knownWord_36 (by decide) hit (fun c7 hit => ?_) (fun c7 hit => ?_)
        · refine lv_iinc (k := 1) (v := (t3 + 1)) (lv' := [(1, .int (t3 + 1)), (0, .ref o)]) hx hb dX4_knownWord_41 hl rfl rfl (by decide) rfl (fun ls hl => ?_)
          refine lv_goto (tgt := 21) hx hb dX4_knownWord_44 (by decide) ?_
          have he := o_in hit
          exact hC3 _ he _ (lv_sub hl [1, 0] rfl)
        · refine lv_iload_n hx hb dX4_knownWord_39 rfl (lv_at hl 1 rfl) ?_
          have he := o_in hit
          have he := hE3 _ he
          exact hend _ t3 _ _ rfl he dX4_knownWord_40
    · refine lv_iconst (v := (-1)) hx hb dX4_knownWord_17 (by decide) ?_
      have he := o_in hit
      exact hend _ (-1) _ _ rfl he dX4_knownWord_18
noncomputable def M_wrong (σ : MS) (a0 : Int32) : Option (MS) :=
  if (mf σ 14) = 0 then
    ((pf σ 14 a0).bind fun s2 =>
    (pf s2 15 (mf s2 20)).bind fun s3 =>
    some s3)
  else
    (some σ)
theorem nm_X4_wrong : kNm yX4_wrong RX4 1 := by unfold kNm; decide +kernel
set_option maxHeartbeats 4000000 in
set_option maxRecDepth 100000 in
theorem wM_wrong (l : Launch) (G : va_G) (dT : Nat → ClassId) (o : Nat) (ad : Nat → Nat) (σ : MS) (a0 : Int32) (z : MS) (h : M_wrong σ a0 = some z) : Met l yX4_wrong (ws_ yX4_wrong cX4_wrong 2 none) (kRm 0 0) (mPc G dT o ad σ [.int a0]) (va_Qv (fun (_ : Unit) => True) (fun _ t => MH G dT o ad z t.heap) (mAd o ad)) 0 0 (mAd o ad) := by
  refine m_startNv (cc := cX4_wrong) rfl rfl rfl (fun p e R s m args below meth c Q ls X hR hM hS hl hend => ?_)
  have hx := X.1.1
  have hb := X.1.2.1
  have hit := h
  clear h
  unfold M_wrong at hit
  have hl : lv_has ls 2 [(0, .ref o), (1, .int a0)] := hl
  refine lv_aload_n hx hb dX4_wrong_0 rfl (lv_at hl 0 rfl) ?_
  refine m_get X hM 14 q1658 rfl rfl (v := .int (mf σ 14)) rfl dX4_wrong_1 ?_
  refine b_if_eq (tgt := 8) hx hb dX4_wrong_4 (by decide) hit (fun c1 hit => ?_) (fun c1 hit => ?_)
  · refine lv_aload_n hx hb dX4_wrong_8 rfl (lv_at hl 0 rfl) ?_
    refine lv_iload_n hx hb dX4_wrong_9 rfl (lv_at hl 1 rfl) ?_
    obtain ⟨s2, es2, hit⟩ := o_bind hit
    refine m_put X hM hS 14 q1658 rfl rfl (ty := .int) rfl rfl rfl es2 dX4_wrong_10 (fun H locs hM hS => ?_)
    refine lv_aload_n hx hb dX4_wrong_13 rfl (lv_at hl 0 rfl) ?_
    refine lv_aload_n hx hb dX4_wrong_14 rfl (lv_at hl 0 rfl) ?_
    refine m_get X hM 20 q1664 rfl rfl (v := .int (mf s2 20)) rfl dX4_wrong_15 ?_
    obtain ⟨s3, es3, hit⟩ := o_bind hit
    refine m_put X hM hS 15 q1659 rfl rfl (ty := .int) rfl rfl rfl es3 dX4_wrong_18 (fun H locs hM hS => ?_)
    have he := o_in hit
    exact hend _ _ _ _ _ he hM hS dX4_wrong_21
  · have he := o_in hit
    exact hend _ _ _ _ _ he hM hS dX4_wrong_7
noncomputable def M_isGood (σ : MS) : Option (Int32) :=
  if (mf σ 14) = 0 then
    (some 1)
  else
    (some 0)
theorem nm_X4_isGood : kNm yX4_isGood RX4 0 := by unfold kNm; decide +kernel
set_option maxHeartbeats 4000000 in
set_option maxRecDepth 100000 in
theorem wM_isGood (l : Launch) (G : va_G) (dT : Nat → ClassId) (o : Nat) (ad : Nat → Nat) (σ : MS) (z : Int32) (h : M_isGood σ = some z) : Met l yX4_isGood (ws_ yX4_isGood cX4_isGood 1 (some .boolean)) (kRm 0 0) (mPc G dT o ad σ []) (vp_Si (fun r => r = z)) 0 0 vp_nf := by
  refine m_startR (cc := cX4_isGood) (ty := .boolean) rfl rfl rfl (fun p e R s m args below meth c Q ls X hR hM hl hend => ?_)
  have hx := X.1.1
  have hb := X.1.2.1
  have hit := h
  clear h
  unfold M_isGood at hit
  have hl : lv_has ls 1 [(0, .ref o)] := hl
  refine lv_aload_n hx hb dX4_isGood_0 rfl (lv_at hl 0 rfl) ?_
  refine m_get X hM 14 q1658 rfl rfl (v := .int (mf σ 14)) rfl dX4_isGood_1 ?_
  refine b_if_ne (tgt := 11) hx hb dX4_isGood_4 (by decide) hit (fun c1 hit => ?_) (fun c1 hit => ?_)
  · refine lv_iconst (v := 0) hx hb dX4_isGood_11 (by decide) ?_
    have he := o_in hit
    exact hend _ 0 _ _ rfl he dX4_isGood_12
  · refine lv_iconst (v := 1) hx hb dX4_isGood_7 (by decide) ?_
    refine lv_goto (tgt := 12) hx hb dX4_isGood_8 (by decide) ?_
    have he := o_in hit
    exact hend _ 1 _ _ rfl he dX4_isGood_12
noncomputable def M_isSign (σ : MS) (a0 : Int32) : Option (Int32) :=
  if (mf σ 19) = 3 then
    (if (mf σ 23) = a0 then
      (some 1)
    else
      (some 0))
  else
    (some 0)
theorem nm_X4_isSign : kNm yX4_isSign RX4 1 := by unfold kNm; decide +kernel
set_option maxHeartbeats 4000000 in
set_option maxRecDepth 100000 in
theorem wM_isSign (l : Launch) (G : va_G) (dT : Nat → ClassId) (o : Nat) (ad : Nat → Nat) (σ : MS) (a0 : Int32) (z : Int32) (h : M_isSign σ a0 = some z) : Met l yX4_isSign (ws_ yX4_isSign cX4_isSign 2 (some .boolean)) (kRm 0 0) (mPc G dT o ad σ [.int a0]) (vp_Si (fun r => r = z)) 0 0 vp_nf := by
  refine m_startR (cc := cX4_isSign) (ty := .boolean) rfl rfl rfl (fun p e R s m args below meth c Q ls X hR hM hl hend => ?_)
  have hx := X.1.1
  have hb := X.1.2.1
  have hit := h
  clear h
  unfold M_isSign at hit
  have hl : lv_has ls 2 [(0, .ref o), (1, .int a0)] := hl
  refine lv_aload_n hx hb dX4_isSign_0 rfl (lv_at hl 0 rfl) ?_
  refine m_get X hM 19 q1663 rfl rfl (v := .int (mf σ 19)) rfl dX4_isSign_1 ?_
  refine lv_iconst (v := 3) hx hb dX4_isSign_4 (by decide) ?_
  refine b_icmp_ne (tgt := 20) hx hb dX4_isSign_5 (by decide) hit (fun c1 hit => ?_) (fun c1 hit => ?_)
  · refine lv_iconst (v := 0) hx hb dX4_isSign_20 (by decide) ?_
    have he := o_in hit
    exact hend _ 0 _ _ rfl he dX4_isSign_21
  · refine lv_aload_n hx hb dX4_isSign_8 rfl (lv_at hl 0 rfl) ?_
    refine m_get X hM 23 q1667 rfl rfl (v := .int (mf σ 23)) rfl dX4_isSign_9 ?_
    refine lv_iload_n hx hb dX4_isSign_12 rfl (lv_at hl 1 rfl) ?_
    refine b_icmp_ne (tgt := 20) hx hb dX4_isSign_13 (by decide) hit (fun c2 hit => ?_) (fun c2 hit => ?_)
    · refine lv_iconst (v := 0) hx hb dX4_isSign_20 (by decide) ?_
      have he := o_in hit
      exact hend _ 0 _ _ rfl he dX4_isSign_21
    · refine lv_iconst (v := 1) hx hb dX4_isSign_16 (by decide) ?_
      refine lv_goto (tgt := 21) hx hb dX4_isSign_17 (by decide) ?_
      have he := o_in hit
      exact hend _ 1 _ _ rfl he dX4_isSign_21
noncomputable def M_need (σ : MS) (a0 : Int32) : Option (MS) :=
  (M_isGood σ).bind fun q1 =>
  if q1 = 0 then
    (some σ)
  else
    (if a0 = 0 then
      ((M_wrong σ 1).bind fun q4 =>
      some q4)
    else
      ((M_goes σ).bind fun q5 =>
      some q5))
theorem nm_X4_need : kNm yX4_need RX4 1 := by unfold kNm; decide +kernel
set_option maxHeartbeats 4000000 in
set_option maxRecDepth 100000 in
theorem wM_need (l : Launch) (G : va_G) (dT : Nat → ClassId) (o : Nat) (ad : Nat → Nat) (σ : MS) (a0 : Int32) (z : MS) (h : M_need σ a0 = some z) : Met l yX4_need (ws_ yX4_need cX4_need 2 none) (kRm 2 42) (mPc G dT o ad σ [.int a0]) (va_Qv (fun (_ : Unit) => True) (fun _ t => MH G dT o ad z t.heap) (mAd o ad)) 0 0 (mAd o ad) := by
  refine m_startNv (cc := cX4_need) rfl rfl rfl (fun p e R s m args below meth c Q ls X hR hM hS hl hend => ?_)
  have hx := X.1.1
  have hb := X.1.2.1
  have hit := h
  clear h
  unfold M_need at hit
  have hl : lv_has ls 2 [(0, .ref o), (1, .int a0)] := hl
  refine lv_aload_n hx hb dX4_need_0 rfl (lv_at hl 0 rfl) ?_
  obtain ⟨q1, eq1, hit⟩ := o_bind hit
  refine m_cR X hM (wM_isGood l G dT o ad _  _ eq1) nm_X4_isGood q1866 q1868 q141 q1869 qs61 ⟨Nat.le_trans (Nat.le_of_ble_eq_true rfl) hR.1, Nat.le_trans (Nat.le_of_ble_eq_true rfl) hR.2⟩ rfl rfl hl.1 (lv_room (Nat.le_of_ble_eq_true rfl)) dX4_need_1 ?_
  refine b_if_ne (tgt := 8) hx hb dX4_need_4 (by decide) hit (fun c2 hit => ?_) (fun c2 hit => ?_)
  · refine lv_iload_n hx hb dX4_need_8 rfl (lv_at hl 1 rfl) ?_
    refine b_if_eq (tgt := 19) hx hb dX4_need_9 (by decide) hit (fun c3 hit => ?_) (fun c3 hit => ?_)
    · refine lv_aload_n hx hb dX4_need_19 rfl (lv_at hl 0 rfl) ?_
      refine lv_iconst (v := 1) hx hb dX4_need_20 (by decide) ?_
      obtain ⟨q4, eq4, hit⟩ := o_bind hit
      refine m_cNv X hM hS (wM_wrong l G dT o ad _ _ _ eq4) nm_X4_wrong q1889 q1891 q141 q1892 qs65 ⟨Nat.le_trans (Nat.le_of_ble_eq_true rfl) hR.1, Nat.le_trans (Nat.le_of_ble_eq_true rfl) hR.2⟩ rfl rfl hl.1 (lv_room (Nat.le_of_ble_eq_true rfl)) dX4_need_21 (fun H locs hM hS => ?_)
      have he := o_in hit
      exact hend _ _ _ _ _ he hM hS dX4_need_24
    · refine lv_aload_n hx hb dX4_need_12 rfl (lv_at hl 0 rfl) ?_
      obtain ⟨q5, eq5, hit⟩ := o_bind hit
      refine m_cNv X hM hS (wM_goes l G dT o ad _  _ eq5) nm_X4_goes q1852 q1854 q141 q1855 qs59 ⟨Nat.le_trans (Nat.le_of_ble_eq_true rfl) hR.1, Nat.le_trans (Nat.le_of_ble_eq_true rfl) hR.2⟩ rfl rfl hl.1 (lv_room (Nat.le_of_ble_eq_true rfl)) dX4_need_13 (fun H locs hM hS => ?_)
      refine lv_goto (tgt := 24) hx hb dX4_need_16 (by decide) ?_
      have he := o_in hit
      exact hend _ _ _ _ _ he hM hS dX4_need_24
  · have he := o_in hit
    exact hend _ _ _ _ _ he hM hS dX4_need_7
noncomputable def M_number_J49 (σ : MS) : Option (MS) :=
  (M_wrong σ 2).bind fun q8 =>
  some q8
noncomputable def M_number (σ : MS) (a0 : Int32) (a1 : Int32) : Option (Int32 × MS) :=
  (M_isGood σ).bind fun q1 =>
  if q1 = 0 then
    (some (0, σ))
  else
    (((if (mf σ 19) = 2 then
        (if (mf σ 21) ≤ 4 then
          (if (mf σ 22) < a0 then
            (M_number_J49 σ)
          else
            (if (mf σ 22) ≤ a1 then
              (some σ)
            else
              (M_number_J49 σ)))
        else
          (M_number_J49 σ))
      else
        ((M_wrong σ 1).bind fun q12 =>
        some q12) : Option MS)).bind fun r3 =>
    (M_isGood r3).bind fun q4 =>
    if q4 = 0 then
      (some ((mf r3 22), r3))
    else
      ((M_goes r3).bind fun q6 =>
      some ((mf r3 22), q6)))
theorem nm_X4_number : kNm yX4_number RX4 2 := by unfold kNm; decide +kernel
set_option maxHeartbeats 4000000 in
set_option maxRecDepth 100000 in
theorem wM_number (l : Launch) (G : va_G) (dT : Nat → ClassId) (o : Nat) (ad : Nat → Nat) (σ : MS) (a0 : Int32) (a1 : Int32) (z : Int32 × MS) (h : M_number σ a0 a1 = some z) : Met l yX4_number (ws_ yX4_number cX4_number 4 (some .int)) (kRm 2 42) (mPc G dT o ad σ [.int a0, .int a1]) (va_Qi (fun r (_ : Unit) => r = z.1) (fun _ t => MH G dT o ad z.2 t.heap) (mAd o ad)) 0 0 (mAd o ad) := by
  refine m_startNi (cc := cX4_number) (ty := .int) rfl rfl rfl (fun p e R s m args below meth c Q ls X hR hM hS hl hend => ?_)
  have hx := X.1.1
  have hb := X.1.2.1
  have hit := h
  clear h
  unfold M_number at hit
  have hl : lv_has ls 4 [(0, .ref o), (1, .int a0), (2, .int a1)] := hl
  refine lv_aload_n hx hb dX4_number_0 rfl (lv_at hl 0 rfl) ?_
  obtain ⟨q1, eq1, hit⟩ := o_bind hit
  refine m_cR X hM (wM_isGood l G dT o ad _  _ eq1) nm_X4_isGood q1866 q1868 q141 q1869 qs61 ⟨Nat.le_trans (Nat.le_of_ble_eq_true rfl) hR.1, Nat.le_trans (Nat.le_of_ble_eq_true rfl) hR.2⟩ rfl rfl hl.1 (lv_room (Nat.le_of_ble_eq_true rfl)) dX4_number_1 ?_
  refine b_if_ne (tgt := 9) hx hb dX4_number_4 (by decide) hit (fun c2 hit => ?_) (fun c2 hit => ?_)
  · refine lv_aload_n hx hb dX4_number_9 rfl (lv_at hl 0 rfl) ?_
    refine m_get X hM 19 q1663 rfl rfl (v := .int (mf σ 19)) rfl dX4_number_10 ?_
    refine lv_iconst (v := 2) hx hb dX4_number_13 (by decide) ?_
    obtain ⟨r3, er3, hit⟩ := o_bind hit
    have hr3 : ∀ (H : Heap) (locs : List Loc) (ls : Array Slot), MH G dT o ad r3 H → va_S (mAd o ad) s.heap H locs → lv_has ls 4 [(0, .ref o)] → W p l e R s m args below meth c H locs 0 0 Q (F0 m 54 ls []) := by
      intro H locs ls hM hS hl
      refine lv_aload_n hx hb dX4_number_54 rfl (lv_at hl 0 rfl) ?_
      refine m_get X hM 22 q1666 rfl rfl (v := .int (mf r3 22)) rfl dX4_number_55 ?_
      refine lv_istore_n (lv' := [(3, .int (mf r3 22)), (0, .ref o)]) hx hb dX4_number_58 rfl hl (by decide) rfl (fun ls hl => ?_)
      refine lv_aload_n hx hb dX4_number_59 rfl (lv_at hl 1 rfl) ?_
      obtain ⟨q4, eq4, hit⟩ := o_bind hit
      refine m_cR X hM (wM_isGood l G dT o ad _  _ eq4) nm_X4_isGood q1866 q1868 q141 q1869 qs61 ⟨Nat.le_trans (Nat.le_of_ble_eq_true rfl) hR.1, Nat.le_trans (Nat.le_of_ble_eq_true rfl) hR.2⟩ rfl rfl hl.1 (lv_room (Nat.le_of_ble_eq_true rfl)) dX4_number_60 ?_
      refine b_if_eq (tgt := 70) hx hb dX4_number_63 (by decide) hit (fun c5 hit => ?_) (fun c5 hit => ?_)
      · refine lv_iload_n hx hb dX4_number_70 rfl (lv_at hl 0 rfl) ?_
        have he := o_in hit
        exact hend _ (mf r3 22) _ _ _ _ _ rfl he hM hS dX4_number_71
      · refine lv_aload_n hx hb dX4_number_66 rfl (lv_at hl 1 rfl) ?_
        obtain ⟨q6, eq6, hit⟩ := o_bind hit
        refine m_cNv X hM hS (wM_goes l G dT o ad _  _ eq6) nm_X4_goes q1852 q1854 q141 q1855 qs59 ⟨Nat.le_trans (Nat.le_of_ble_eq_true rfl) hR.1, Nat.le_trans (Nat.le_of_ble_eq_true rfl) hR.2⟩ rfl rfl hl.1 (lv_room (Nat.le_of_ble_eq_true rfl)) dX4_number_67 (fun H locs hM hS => ?_)
        refine lv_iload_n hx hb dX4_number_70 rfl (lv_at hl 0 rfl) ?_
        have he := o_in hit
        exact hend _ (mf r3 22) _ _ _ _ _ rfl he hM hS dX4_number_71
    have hit := er3
    refine b_icmp_eq (tgt := 25) hx hb dX4_number_14 (by decide) hit (fun c7 hit => ?_) (fun c7 hit => ?_)
    · refine lv_aload_n hx hb dX4_number_25 rfl (lv_at hl 0 rfl) ?_
      refine m_get X hM 21 q1665 rfl rfl (v := .int (mf σ 21)) rfl dX4_number_26 ?_
      refine lv_iconst (v := 4) hx hb dX4_number_29 (by decide) ?_
      have hK49 : M_number_J49 σ = some r3 → ∀ (H : Heap) (locs : List Loc) (ls : Array Slot), MH G dT o ad σ H → va_S (mAd o ad) s.heap H locs → lv_has ls 4 [(0, .ref o)] → W p l e R s m args below meth c H locs 0 0 Q (F0 m 49 ls []) := by
        intro  hit H locs ls hM hS hl
        unfold M_number_J49 at hit
        refine lv_aload_n hx hb dX4_number_49 rfl (lv_at hl 0 rfl) ?_
        refine lv_iconst (v := 2) hx hb dX4_number_50 (by decide) ?_
        obtain ⟨q8, eq8, hit⟩ := o_bind hit
        refine m_cNv X hM hS (wM_wrong l G dT o ad _ _ _ eq8) nm_X4_wrong q1889 q1891 q141 q1892 qs65 ⟨Nat.le_trans (Nat.le_of_ble_eq_true rfl) hR.1, Nat.le_trans (Nat.le_of_ble_eq_true rfl) hR.2⟩ rfl rfl hl.1 (lv_room (Nat.le_of_ble_eq_true rfl)) dX4_number_51 (fun H locs hM hS => ?_)
        have he := o_in hit
        subst he
        exact hr3 _ _ _ hM hS hl
      refine b_icmp_gt (tgt := 49) hx hb dX4_number_30 (by decide) hit (fun c9 hit => ?_) (fun c9 hit => ?_)
      · exact hK49  hit _ _ _ hM hS (lv_sub hl [0] rfl)
      · refine lv_aload_n hx hb dX4_number_33 rfl (lv_at hl 0 rfl) ?_
        refine m_get X hM 22 q1666 rfl rfl (v := .int (mf σ 22)) rfl dX4_number_34 ?_
        refine lv_iload_n hx hb dX4_number_37 rfl (lv_at hl 1 rfl) ?_
        refine b_icmp_lt (tgt := 49) hx hb dX4_number_38 (by decide) hit (fun c10 hit => ?_) (fun c10 hit => ?_)
        · exact hK49  hit _ _ _ hM hS (lv_sub hl [0] rfl)
        · refine lv_aload_n hx hb dX4_number_41 rfl (lv_at hl 0 rfl) ?_
          refine m_get X hM 22 q1666 rfl rfl (v := .int (mf σ 22)) rfl dX4_number_42 ?_
          refine lv_iload_n hx hb dX4_number_45 rfl (lv_at hl 2 rfl) ?_
          refine b_icmp_le (tgt := 54) hx hb dX4_number_46 (by decide) hit (fun c11 hit => ?_) (fun c11 hit => ?_)
          · have he := o_in hit
            subst he
            exact hr3 _ _ _ hM hS (lv_sub hl [0] rfl)
          · exact hK49  hit _ _ _ hM hS (lv_sub hl [0] rfl)
    · refine lv_aload_n hx hb dX4_number_17 rfl (lv_at hl 0 rfl) ?_
      refine lv_iconst (v := 1) hx hb dX4_number_18 (by decide) ?_
      obtain ⟨q12, eq12, hit⟩ := o_bind hit
      refine m_cNv X hM hS (wM_wrong l G dT o ad _ _ _ eq12) nm_X4_wrong q1889 q1891 q141 q1892 qs65 ⟨Nat.le_trans (Nat.le_of_ble_eq_true rfl) hR.1, Nat.le_trans (Nat.le_of_ble_eq_true rfl) hR.2⟩ rfl rfl hl.1 (lv_room (Nat.le_of_ble_eq_true rfl)) dX4_number_19 (fun H locs hM hS => ?_)
      refine lv_goto (tgt := 54) hx hb dX4_number_22 (by decide) ?_
      have he := o_in hit
      subst he
      exact hr3 _ _ _ hM hS (lv_sub hl [0] rfl)
  · refine lv_iconst (v := 0) hx hb dX4_number_7 (by decide) ?_
    have he := o_in hit
    exact hend _ 0 _ _ _ _ _ rfl he hM hS dX4_number_8
noncomputable def M_amongHere (σ : MS) (a0 : Int32) : Option (Int32 × MS) :=
  (M_isGood σ).bind fun q1 =>
  if q1 = 0 then
    (some (0, σ))
  else
    (((if (mf σ 19) = 2 then
        (if (mf σ 21) ≤ 4 then
          (if (mf σ 22) < a0 then
            (some σ)
          else
            ((M_wrong σ 3).bind fun q8 =>
            some q8))
        else
          ((M_wrong σ 2).bind fun q9 =>
          some q9))
      else
        ((M_wrong σ 1).bind fun q10 =>
        some q10) : Option MS)).bind fun r3 =>
    (M_isGood r3).bind fun q4 =>
    some ((vp_nar .boolean q4), r3))
theorem nm_X4_amongHere : kNm yX4_amongHere RX4 1 := by unfold kNm; decide +kernel
set_option maxHeartbeats 4000000 in
set_option maxRecDepth 100000 in
theorem wM_amongHere (l : Launch) (G : va_G) (dT : Nat → ClassId) (o : Nat) (ad : Nat → Nat) (σ : MS) (a0 : Int32) (z : Int32 × MS) (h : M_amongHere σ a0 = some z) : Met l yX4_amongHere (ws_ yX4_amongHere cX4_amongHere 2 (some .boolean)) (kRm 1 21) (mPc G dT o ad σ [.int a0]) (va_Qi (fun r (_ : Unit) => r = z.1) (fun _ t => MH G dT o ad z.2 t.heap) (mAd o ad)) 0 0 (mAd o ad) := by
  refine m_startNi (cc := cX4_amongHere) (ty := .boolean) rfl rfl rfl (fun p e R s m args below meth c Q ls X hR hM hS hl hend => ?_)
  have hx := X.1.1
  have hb := X.1.2.1
  have hit := h
  clear h
  unfold M_amongHere at hit
  have hl : lv_has ls 2 [(0, .ref o), (1, .int a0)] := hl
  refine lv_aload_n hx hb dX4_amongHere_0 rfl (lv_at hl 0 rfl) ?_
  obtain ⟨q1, eq1, hit⟩ := o_bind hit
  refine m_cR X hM (wM_isGood l G dT o ad _  _ eq1) nm_X4_isGood q1866 q1868 q141 q1869 qs61 ⟨Nat.le_trans (Nat.le_of_ble_eq_true rfl) hR.1, Nat.le_trans (Nat.le_of_ble_eq_true rfl) hR.2⟩ rfl rfl hl.1 (lv_room (Nat.le_of_ble_eq_true rfl)) dX4_amongHere_1 ?_
  refine b_if_ne (tgt := 9) hx hb dX4_amongHere_4 (by decide) hit (fun c2 hit => ?_) (fun c2 hit => ?_)
  · refine lv_aload_n hx hb dX4_amongHere_9 rfl (lv_at hl 0 rfl) ?_
    refine m_get X hM 19 q1663 rfl rfl (v := .int (mf σ 19)) rfl dX4_amongHere_10 ?_
    refine lv_iconst (v := 2) hx hb dX4_amongHere_13 (by decide) ?_
    obtain ⟨r3, er3, hit⟩ := o_bind hit
    have hr3 : ∀ (H : Heap) (locs : List Loc) (ls : Array Slot), MH G dT o ad r3 H → va_S (mAd o ad) s.heap H locs → lv_has ls 2 [(0, .ref o)] → W p l e R s m args below meth c H locs 0 0 Q (F0 m 54 ls []) := by
      intro H locs ls hM hS hl
      refine lv_aload_n hx hb dX4_amongHere_54 rfl (lv_at hl 0 rfl) ?_
      obtain ⟨q4, eq4, hit⟩ := o_bind hit
      refine m_cR X hM (wM_isGood l G dT o ad _  _ eq4) nm_X4_isGood q1866 q1868 q141 q1869 qs61 ⟨Nat.le_trans (Nat.le_of_ble_eq_true rfl) hR.1, Nat.le_trans (Nat.le_of_ble_eq_true rfl) hR.2⟩ rfl rfl hl.1 (lv_room (Nat.le_of_ble_eq_true rfl)) dX4_amongHere_55 ?_
      have he := o_in hit
      exact hend _ (vp_nar .boolean q4) _ _ _ _ _ rfl he hM hS dX4_amongHere_58
    have hit := er3
    refine b_icmp_eq (tgt := 25) hx hb dX4_amongHere_14 (by decide) hit (fun c5 hit => ?_) (fun c5 hit => ?_)
    · refine lv_aload_n hx hb dX4_amongHere_25 rfl (lv_at hl 0 rfl) ?_
      refine m_get X hM 21 q1665 rfl rfl (v := .int (mf σ 21)) rfl dX4_amongHere_26 ?_
      refine lv_iconst (v := 4) hx hb dX4_amongHere_29 (by decide) ?_
      refine b_icmp_le (tgt := 41) hx hb dX4_amongHere_30 (by decide) hit (fun c6 hit => ?_) (fun c6 hit => ?_)
      · refine lv_aload_n hx hb dX4_amongHere_41 rfl (lv_at hl 0 rfl) ?_
        refine m_get X hM 22 q1666 rfl rfl (v := .int (mf σ 22)) rfl dX4_amongHere_42 ?_
        refine lv_iload_n hx hb dX4_amongHere_45 rfl (lv_at hl 1 rfl) ?_
        refine b_icmp_lt (tgt := 54) hx hb dX4_amongHere_46 (by decide) hit (fun c7 hit => ?_) (fun c7 hit => ?_)
        · have he := o_in hit
          subst he
          exact hr3 _ _ _ hM hS (lv_sub hl [0] rfl)
        · refine lv_aload_n hx hb dX4_amongHere_49 rfl (lv_at hl 0 rfl) ?_
          refine lv_iconst (v := 3) hx hb dX4_amongHere_50 (by decide) ?_
          obtain ⟨q8, eq8, hit⟩ := o_bind hit
          refine m_cNv X hM hS (wM_wrong l G dT o ad _ _ _ eq8) nm_X4_wrong q1889 q1891 q141 q1892 qs65 ⟨Nat.le_trans (Nat.le_of_ble_eq_true rfl) hR.1, Nat.le_trans (Nat.le_of_ble_eq_true rfl) hR.2⟩ rfl rfl hl.1 (lv_room (Nat.le_of_ble_eq_true rfl)) dX4_amongHere_51 (fun H locs hM hS => ?_)
          have he := o_in hit
          subst he
          exact hr3 _ _ _ hM hS (lv_sub hl [0] rfl)
      · refine lv_aload_n hx hb dX4_amongHere_33 rfl (lv_at hl 0 rfl) ?_
        refine lv_iconst (v := 2) hx hb dX4_amongHere_34 (by decide) ?_
        obtain ⟨q9, eq9, hit⟩ := o_bind hit
        refine m_cNv X hM hS (wM_wrong l G dT o ad _ _ _ eq9) nm_X4_wrong q1889 q1891 q141 q1892 qs65 ⟨Nat.le_trans (Nat.le_of_ble_eq_true rfl) hR.1, Nat.le_trans (Nat.le_of_ble_eq_true rfl) hR.2⟩ rfl rfl hl.1 (lv_room (Nat.le_of_ble_eq_true rfl)) dX4_amongHere_35 (fun H locs hM hS => ?_)
        refine lv_goto (tgt := 54) hx hb dX4_amongHere_38 (by decide) ?_
        have he := o_in hit
        subst he
        exact hr3 _ _ _ hM hS (lv_sub hl [0] rfl)
    · refine lv_aload_n hx hb dX4_amongHere_17 rfl (lv_at hl 0 rfl) ?_
      refine lv_iconst (v := 1) hx hb dX4_amongHere_18 (by decide) ?_
      obtain ⟨q10, eq10, hit⟩ := o_bind hit
      refine m_cNv X hM hS (wM_wrong l G dT o ad _ _ _ eq10) nm_X4_wrong q1889 q1891 q141 q1892 qs65 ⟨Nat.le_trans (Nat.le_of_ble_eq_true rfl) hR.1, Nat.le_trans (Nat.le_of_ble_eq_true rfl) hR.2⟩ rfl rfl hl.1 (lv_room (Nat.le_of_ble_eq_true rfl)) dX4_amongHere_19 (fun H locs hM hS => ?_)
      refine lv_goto (tgt := 54) hx hb dX4_amongHere_22 (by decide) ?_
      have he := o_in hit
      subst he
      exact hr3 _ _ _ hM hS (lv_sub hl [0] rfl)
  · refine lv_iconst (v := 0) hx hb dX4_amongHere_7 (by decide) ?_
    have he := o_in hit
    exact hend _ 0 _ _ _ _ _ rfl he hM hS dX4_amongHere_8
noncomputable def M_puts (σ : MS) (a0 : Int32) : Option (MS) :=
  (ast σ 41 (mf σ 31) a0).bind fun s1 =>
  (pf s1 31 ((mf s1 31) + 1)).bind fun s2 =>
  some s2
theorem nm_X4_puts : kNm yX4_puts RX4 1 := by unfold kNm; decide +kernel
set_option maxHeartbeats 4000000 in
set_option maxRecDepth 100000 in
theorem wM_puts (l : Launch) (G : va_G) (dT : Nat → ClassId) (o : Nat) (ad : Nat → Nat) (σ : MS) (a0 : Int32) (z : MS) (h : M_puts σ a0 = some z) : Met l yX4_puts (ws_ yX4_puts cX4_puts 2 none) (kRm 0 0) (mPc G dT o ad σ [.int a0]) (va_Qv (fun (_ : Unit) => True) (fun _ t => MH G dT o ad z t.heap) (mAd o ad)) 0 0 (mAd o ad) := by
  refine m_startNv (cc := cX4_puts) rfl rfl rfl (fun p e R s m args below meth c Q ls X hR hM hS hl hend => ?_)
  have hx := X.1.1
  have hb := X.1.2.1
  have hit := h
  clear h
  unfold M_puts at hit
  have hl : lv_has ls 2 [(0, .ref o), (1, .int a0)] := hl
  refine lv_aload_n hx hb dX4_puts_0 rfl (lv_at hl 0 rfl) ?_
  refine m_get X hM 41 q1685 rfl rfl (v := .ref (ad 41)) rfl dX4_puts_1 ?_
  refine lv_aload_n hx hb dX4_puts_4 rfl (lv_at hl 0 rfl) ?_
  refine m_get X hM 31 q1675 rfl rfl (v := .int (mf σ 31)) rfl dX4_puts_5 ?_
  refine lv_iload_n hx hb dX4_puts_8 rfl (lv_at hl 1 rfl) ?_
  obtain ⟨s1, es1, hit⟩ := o_bind hit
  refine m_iast X hM hS 12 41 rfl rfl es1 dX4_puts_9 (fun H locs hM hS => ?_)
  refine lv_aload_n hx hb dX4_puts_10 rfl (lv_at hl 0 rfl) ?_
  refine lv_dup hx hb dX4_puts_11 rfl ?_
  refine m_get X hM 31 q1675 rfl rfl (v := .int (mf s1 31)) rfl dX4_puts_12 ?_
  refine lv_iconst (v := 1) hx hb dX4_puts_15 (by decide) ?_
  refine lv_iadd hx hb dX4_puts_16 ?_
  obtain ⟨s2, es2, hit⟩ := o_bind hit
  refine m_put X hM hS 31 q1675 rfl rfl (ty := .int) rfl rfl rfl es2 dX4_puts_17 (fun H locs hM hS => ?_)
  have he := o_in hit
  exact hend _ _ _ _ _ he hM hS dX4_puts_20
noncomputable def M_isOpen (a0 : Int32) : Option (Int32) :=
  if a0 < 14 then
    (some 0)
  else
    (some 1)
theorem nm_X4_isOpen : kNm yX4_isOpen RX4 1 := by unfold kNm; decide +kernel
set_option maxHeartbeats 4000000 in
set_option maxRecDepth 100000 in
theorem wM_isOpen (l : Launch) (a0 : Int32) (z : Int32) (h : M_isOpen a0 = some z) : Met l yX4_isOpen (ws_ yX4_isOpen cX4_isOpen 1 (some .boolean)) (kRm 0 0) (bPc [.int a0]) (vp_Si (fun r => r = z)) 0 0 vp_nf := by
  refine m_startP (cc := cX4_isOpen) (ty := .boolean) rfl rfl rfl (fun p e R s m args below meth c Q ls X hR hl hend => ?_)
  have hx := X.1
  have hb := X.2.1
  have hit := h
  clear h
  unfold M_isOpen at hit
  have hl : lv_has ls 1 [(0, .int a0)] := hl
  refine lv_iload_n hx hb dX4_isOpen_0 rfl (lv_at hl 0 rfl) ?_
  refine lv_bipush (v := 14) hx hb dX4_isOpen_1 (by decide) ?_
  refine b_icmp_lt (tgt := 10) hx hb dX4_isOpen_3 (by decide) hit (fun c1 hit => ?_) (fun c1 hit => ?_)
  · refine lv_iconst (v := 0) hx hb dX4_isOpen_10 (by decide) ?_
    have he := o_in hit
    exact hend _ 0 _ _ rfl he dX4_isOpen_11
  · refine lv_iconst (v := 1) hx hb dX4_isOpen_6 (by decide) ?_
    refine lv_goto (tgt := 11) hx hb dX4_isOpen_7 (by decide) ?_
    have he := o_in hit
    exact hend _ 1 _ _ rfl he dX4_isOpen_11
noncomputable def M_strength (a0 : Int32) : Option (Int32) :=
  if a0 = 5 then
    (some 1)
  else
    (if a0 = 4 then
      (some 2)
    else
      (if a0 = 3 then
        (some 3)
      else
        (if a0 = 6 then
          (some 4)
        else
          (if a0 = 7 then
            (some 4)
          else
            (if a0 = 8 then
              (some 5)
            else
              (if a0 = 9 then
                (some 5)
              else
                (some 6)))))))
theorem nm_X4_strength : kNm yX4_strength RX4 1 := by unfold kNm; decide +kernel
set_option maxHeartbeats 4000000 in
set_option maxRecDepth 100000 in
theorem wM_strength (l : Launch) (a0 : Int32) (z : Int32) (h : M_strength a0 = some z) : Met l yX4_strength (ws_ yX4_strength cX4_strength 1 (some .int)) (kRm 0 0) (bPc [.int a0]) (vp_Si (fun r => r = z)) 0 0 vp_nf := by
  refine m_startP (cc := cX4_strength) (ty := .int) rfl rfl rfl (fun p e R s m args below meth c Q ls X hR hl hend => ?_)
  have hx := X.1
  have hb := X.2.1
  have hit := h
  clear h
  unfold M_strength at hit
  have hl : lv_has ls 1 [(0, .int a0)] := hl
  refine lv_iload_n hx hb dX4_strength_0 rfl (lv_at hl 0 rfl) ?_
  refine lv_iconst (v := 5) hx hb dX4_strength_1 (by decide) ?_
  refine b_icmp_ne (tgt := 9) hx hb dX4_strength_2 (by decide) hit (fun c1 hit => ?_) (fun c1 hit => ?_)
  · refine lv_iload_n hx hb dX4_strength_9 rfl (lv_at hl 0 rfl) ?_
    refine lv_iconst (v := 4) hx hb dX4_strength_10 (by decide) ?_
    refine b_icmp_ne (tgt := 18) hx hb dX4_strength_11 (by decide) hit (fun c2 hit => ?_) (fun c2 hit => ?_)
    · refine lv_iload_n hx hb dX4_strength_18 rfl (lv_at hl 0 rfl) ?_
      refine lv_iconst (v := 3) hx hb dX4_strength_19 (by decide) ?_
      refine b_icmp_ne (tgt := 27) hx hb dX4_strength_20 (by decide) hit (fun c3 hit => ?_) (fun c3 hit => ?_)
      · refine lv_iload_n hx hb dX4_strength_27 rfl (lv_at hl 0 rfl) ?_
        refine lv_bipush (v := 6) hx hb dX4_strength_28 (by decide) ?_
        refine b_icmp_eq (tgt := 39) hx hb dX4_strength_30 (by decide) hit (fun c4 hit => ?_) (fun c4 hit => ?_)
        · refine lv_iconst (v := 4) hx hb dX4_strength_39 (by decide) ?_
          refine lv_goto (tgt := 61) hx hb dX4_strength_40 (by decide) ?_
          have he := o_in hit
          exact hend _ 4 _ _ rfl he dX4_strength_61
        · refine lv_iload_n hx hb dX4_strength_33 rfl (lv_at hl 0 rfl) ?_
          refine lv_bipush (v := 7) hx hb dX4_strength_34 (by decide) ?_
          refine b_icmp_ne (tgt := 43) hx hb dX4_strength_36 (by decide) hit (fun c5 hit => ?_) (fun c5 hit => ?_)
          · refine lv_iload_n hx hb dX4_strength_43 rfl (lv_at hl 0 rfl) ?_
            refine lv_bipush (v := 8) hx hb dX4_strength_44 (by decide) ?_
            refine b_icmp_eq (tgt := 55) hx hb dX4_strength_46 (by decide) hit (fun c6 hit => ?_) (fun c6 hit => ?_)
            · refine lv_iconst (v := 5) hx hb dX4_strength_55 (by decide) ?_
              refine lv_goto (tgt := 61) hx hb dX4_strength_56 (by decide) ?_
              have he := o_in hit
              exact hend _ 5 _ _ rfl he dX4_strength_61
            · refine lv_iload_n hx hb dX4_strength_49 rfl (lv_at hl 0 rfl) ?_
              refine lv_bipush (v := 9) hx hb dX4_strength_50 (by decide) ?_
              refine b_icmp_ne (tgt := 59) hx hb dX4_strength_52 (by decide) hit (fun c7 hit => ?_) (fun c7 hit => ?_)
              · refine lv_bipush (v := 6) hx hb dX4_strength_59 (by decide) ?_
                have he := o_in hit
                exact hend _ 6 _ _ rfl he dX4_strength_61
              · refine lv_iconst (v := 5) hx hb dX4_strength_55 (by decide) ?_
                refine lv_goto (tgt := 61) hx hb dX4_strength_56 (by decide) ?_
                have he := o_in hit
                exact hend _ 5 _ _ rfl he dX4_strength_61
          · refine lv_iconst (v := 4) hx hb dX4_strength_39 (by decide) ?_
            refine lv_goto (tgt := 61) hx hb dX4_strength_40 (by decide) ?_
            have he := o_in hit
            exact hend _ 4 _ _ rfl he dX4_strength_61
      · refine lv_iconst (v := 3) hx hb dX4_strength_23 (by decide) ?_
        refine lv_goto (tgt := 61) hx hb dX4_strength_24 (by decide) ?_
        have he := o_in hit
        exact hend _ 3 _ _ rfl he dX4_strength_61
    · refine lv_iconst (v := 2) hx hb dX4_strength_14 (by decide) ?_
      refine lv_goto (tgt := 61) hx hb dX4_strength_15 (by decide) ?_
      have he := o_in hit
      exact hend _ 2 _ _ rfl he dX4_strength_61
  · refine lv_iconst (v := 1) hx hb dX4_strength_5 (by decide) ?_
    refine lv_goto (tgt := 61) hx hb dX4_strength_6 (by decide) ?_
    have he := o_in hit
    exact hend _ 1 _ _ rfl he dX4_strength_61
noncomputable def M_drops_L0 (a0 : Int32) (t1 : MS) : Option (MS ⊕ MS) :=
  if (mf t1 34) ≤ 0 then
    (some (.inr t1))
  else
    ((ald t1 42 ((mf t1 34) - 1)).bind fun v4 =>
    (M_isOpen v4).bind fun q5 =>
    if q5 = 0 then
      ((ald t1 42 ((mf t1 34) - 1)).bind fun v7 =>
      (M_strength v7).bind fun q8 =>
      if q8 < a0 then
        (some (.inr t1))
      else
        ((pf t1 34 ((mf t1 34) - 1)).bind fun s10 =>
        (ald s10 42 (mf s10 34)).bind fun v11 =>
        (M_puts s10 v11).bind fun q12 =>
        some (.inl q12)))
    else
      (some (.inr t1)))
noncomputable def M_drops (σ : MS) (a0 : Int32) : Option (MS) :=
  o_loop (M_drops_L0 a0) σ
theorem nm_X4_drops : kNm yX4_drops RX4 1 := by unfold kNm; decide +kernel
set_option maxHeartbeats 4000000 in
set_option maxRecDepth 100000 in
theorem wM_drops (l : Launch) (G : va_G) (dT : Nat → ClassId) (o : Nat) (ad : Nat → Nat) (σ : MS) (a0 : Int32) (z : MS) (h : M_drops σ a0 = some z) : Met l yX4_drops (ws_ yX4_drops cX4_drops 2 none) (kRm 1 21) (mPc G dT o ad σ [.int a0]) (va_Qv (fun (_ : Unit) => True) (fun _ t => MH G dT o ad z t.heap) (mAd o ad)) 0 0 (mAd o ad) := by
  refine m_startNv (cc := cX4_drops) rfl rfl rfl (fun p e R s m args below meth c Q ls X hR hM hS hl hend => ?_)
  have hx := X.1.1
  have hb := X.1.2.1
  have hit := h
  clear h
  unfold M_drops at hit
  have hl : lv_has ls 2 [(0, .ref o), (1, .int a0)] := hl
  refine o_rec (P := fun t1 => ∀ (H : Heap) (locs : List Loc) (ls : Array Slot), MH G dT o ad t1 H → va_S (mAd o ad) s.heap H locs → lv_has ls 2 [(0, .ref o), (1, .int a0)] → W p l e R s m args below meth c H locs 0 0 Q (F0 m 0 ls [])) (fun t1 x2 hit hC1 hE1 H locs ls hM hS hl => ?_) _ hit _ _ _ hM hS hl
  unfold M_drops_L0 at hit
  refine lv_aload_n hx hb dX4_drops_0 rfl (lv_at hl 0 rfl) ?_
  refine m_get X hM 34 q1678 rfl rfl (v := .int (mf t1 34)) rfl dX4_drops_1 ?_
  refine b_if_le (tgt := 68) hx hb dX4_drops_4 (by decide) hit (fun c3 hit => ?_) (fun c3 hit => ?_)
  · have he := o_in hit
    have he := hE1 _ he
    exact hend _ _ _ _ _ he hM hS dX4_drops_68
  · refine lv_aload_n hx hb dX4_drops_7 rfl (lv_at hl 0 rfl) ?_
    refine m_get X hM 42 q1686 rfl rfl (v := .ref (ad 42)) rfl dX4_drops_8 ?_
    refine lv_aload_n hx hb dX4_drops_11 rfl (lv_at hl 0 rfl) ?_
    refine m_get X hM 34 q1678 rfl rfl (v := .int (mf t1 34)) rfl dX4_drops_12 ?_
    refine lv_iconst (v := 1) hx hb dX4_drops_15 (by decide) ?_
    refine lv_isub hx hb dX4_drops_16 ?_
    obtain ⟨v4, ev4, hit⟩ := o_bind hit
    refine m_iald X hM 13 42 rfl rfl ev4 dX4_drops_17 ?_
    obtain ⟨q5, eq5, hit⟩ := o_bind hit
    refine m_cP X.1 (wM_isOpen l _ _ eq5) nm_X4_isOpen q1949 q1950 q141 q1951 ⟨Nat.le_trans (Nat.le_of_ble_eq_true rfl) hR.1, Nat.le_trans (Nat.le_of_ble_eq_true rfl) hR.2⟩ rfl rfl hl.1 (lv_room (Nat.le_of_ble_eq_true rfl)) dX4_drops_18 ?_
    refine b_if_ne (tgt := 68) hx hb dX4_drops_21 (by decide) hit (fun c6 hit => ?_) (fun c6 hit => ?_)
    · have he := o_in hit
      have he := hE1 _ he
      exact hend _ _ _ _ _ he hM hS dX4_drops_68
    · refine lv_aload_n hx hb dX4_drops_24 rfl (lv_at hl 0 rfl) ?_
      refine m_get X hM 42 q1686 rfl rfl (v := .ref (ad 42)) rfl dX4_drops_25 ?_
      refine lv_aload_n hx hb dX4_drops_28 rfl (lv_at hl 0 rfl) ?_
      refine m_get X hM 34 q1678 rfl rfl (v := .int (mf t1 34)) rfl dX4_drops_29 ?_
      refine lv_iconst (v := 1) hx hb dX4_drops_32 (by decide) ?_
      refine lv_isub hx hb dX4_drops_33 ?_
      obtain ⟨v7, ev7, hit⟩ := o_bind hit
      refine m_iald X hM 13 42 rfl rfl ev7 dX4_drops_34 ?_
      obtain ⟨q8, eq8, hit⟩ := o_bind hit
      refine m_cP X.1 (wM_strength l _ _ eq8) nm_X4_strength q1952 q1953 q141 q1954 ⟨Nat.le_trans (Nat.le_of_ble_eq_true rfl) hR.1, Nat.le_trans (Nat.le_of_ble_eq_true rfl) hR.2⟩ rfl rfl hl.1 (lv_room (Nat.le_of_ble_eq_true rfl)) dX4_drops_35 ?_
      refine lv_iload_n hx hb dX4_drops_38 rfl (lv_at hl 1 rfl) ?_
      refine b_icmp_lt (tgt := 68) hx hb dX4_drops_39 (by decide) hit (fun c9 hit => ?_) (fun c9 hit => ?_)
      · have he := o_in hit
        have he := hE1 _ he
        exact hend _ _ _ _ _ he hM hS dX4_drops_68
      · refine lv_aload_n hx hb dX4_drops_42 rfl (lv_at hl 0 rfl) ?_
        refine lv_dup hx hb dX4_drops_43 rfl ?_
        refine m_get X hM 34 q1678 rfl rfl (v := .int (mf t1 34)) rfl dX4_drops_44 ?_
        refine lv_iconst (v := 1) hx hb dX4_drops_47 (by decide) ?_
        refine lv_isub hx hb dX4_drops_48 ?_
        obtain ⟨s10, es10, hit⟩ := o_bind hit
        refine m_put X hM hS 34 q1678 rfl rfl (ty := .int) rfl rfl rfl es10 dX4_drops_49 (fun H locs hM hS => ?_)
        refine lv_aload_n hx hb dX4_drops_52 rfl (lv_at hl 0 rfl) ?_
        refine lv_aload_n hx hb dX4_drops_53 rfl (lv_at hl 0 rfl) ?_
        refine m_get X hM 42 q1686 rfl rfl (v := .ref (ad 42)) rfl dX4_drops_54 ?_
        refine lv_aload_n hx hb dX4_drops_57 rfl (lv_at hl 0 rfl) ?_
        refine m_get X hM 34 q1678 rfl rfl (v := .int (mf s10 34)) rfl dX4_drops_58 ?_
        obtain ⟨v11, ev11, hit⟩ := o_bind hit
        refine m_iald X hM 13 42 rfl rfl ev11 dX4_drops_61 ?_
        obtain ⟨q12, eq12, hit⟩ := o_bind hit
        refine m_cNv X hM hS (wM_puts l G dT o ad _ _ _ eq12) nm_X4_puts q1941 q1943 q141 q1944 qs78 ⟨Nat.le_trans (Nat.le_of_ble_eq_true rfl) hR.1, Nat.le_trans (Nat.le_of_ble_eq_true rfl) hR.2⟩ rfl rfl hl.1 (lv_room (Nat.le_of_ble_eq_true rfl)) dX4_drops_62 (fun H locs hM hS => ?_)
        refine lv_goto (tgt := 0) hx hb dX4_drops_65 (by decide) ?_
        have he := o_in hit
        exact hC1 _ he _ _ _ hM hS hl
noncomputable def M_waitsFor (σ : MS) (a0 : Int32) : Option (MS) :=
  (ast σ 42 (mf σ 34) a0).bind fun s1 =>
  (pf s1 34 ((mf s1 34) + 1)).bind fun s2 =>
  some s2
theorem nm_X4_waitsFor : kNm yX4_waitsFor RX4 1 := by unfold kNm; decide +kernel
set_option maxHeartbeats 4000000 in
set_option maxRecDepth 100000 in
theorem wM_waitsFor (l : Launch) (G : va_G) (dT : Nat → ClassId) (o : Nat) (ad : Nat → Nat) (σ : MS) (a0 : Int32) (z : MS) (h : M_waitsFor σ a0 = some z) : Met l yX4_waitsFor (ws_ yX4_waitsFor cX4_waitsFor 2 none) (kRm 0 0) (mPc G dT o ad σ [.int a0]) (va_Qv (fun (_ : Unit) => True) (fun _ t => MH G dT o ad z t.heap) (mAd o ad)) 0 0 (mAd o ad) := by
  refine m_startNv (cc := cX4_waitsFor) rfl rfl rfl (fun p e R s m args below meth c Q ls X hR hM hS hl hend => ?_)
  have hx := X.1.1
  have hb := X.1.2.1
  have hit := h
  clear h
  unfold M_waitsFor at hit
  have hl : lv_has ls 2 [(0, .ref o), (1, .int a0)] := hl
  refine lv_aload_n hx hb dX4_waitsFor_0 rfl (lv_at hl 0 rfl) ?_
  refine m_get X hM 42 q1686 rfl rfl (v := .ref (ad 42)) rfl dX4_waitsFor_1 ?_
  refine lv_aload_n hx hb dX4_waitsFor_4 rfl (lv_at hl 0 rfl) ?_
  refine m_get X hM 34 q1678 rfl rfl (v := .int (mf σ 34)) rfl dX4_waitsFor_5 ?_
  refine lv_iload_n hx hb dX4_waitsFor_8 rfl (lv_at hl 1 rfl) ?_
  obtain ⟨s1, es1, hit⟩ := o_bind hit
  refine m_iast X hM hS 13 42 rfl rfl es1 dX4_waitsFor_9 (fun H locs hM hS => ?_)
  refine lv_aload_n hx hb dX4_waitsFor_10 rfl (lv_at hl 0 rfl) ?_
  refine lv_dup hx hb dX4_waitsFor_11 rfl ?_
  refine m_get X hM 34 q1678 rfl rfl (v := .int (mf s1 34)) rfl dX4_waitsFor_12 ?_
  refine lv_iconst (v := 1) hx hb dX4_waitsFor_15 (by decide) ?_
  refine lv_iadd hx hb dX4_waitsFor_16 ?_
  obtain ⟨s2, es2, hit⟩ := o_bind hit
  refine m_put X hM hS 34 q1678 rfl rfl (ty := .int) rfl rfl rfl es2 dX4_waitsFor_17 (fun H locs hM hS => ?_)
  have he := o_in hit
  exact hend _ _ _ _ _ he hM hS dX4_waitsFor_20
noncomputable def M_part_J74 (σ : MS) : Option (MS) :=
  (M_wrong σ 3).bind fun q14 =>
  some q14
noncomputable def M_part (σ : MS) : Option (MS) :=
  (M_isGood σ).bind fun q1 =>
  if q1 = 0 then
    (some σ)
  else
    (((if (mf σ 19) = 2 then
        (((if (mf σ 21) ≤ 4 then
            (some σ)
          else
            ((M_wrong σ 2).bind fun q21 =>
            some q21) : Option MS)).bind fun r17 =>
        (M_puts r17 1).bind fun q18 =>
        (M_puts q18 (mf q18 22)).bind fun q19 =>
        some q19)
      else
        (if (mf σ 19) = 1 then
          ((M_knownWord σ).bind fun q10 =>
          ((if q10 < (mf σ 32) then
              (M_part_J74 σ)
            else
              (if q10 ≤ (mf σ 33) then
                (some σ)
              else
                (M_part_J74 σ)) : Option MS)).bind fun r11 =>
          (M_puts r11 2).bind fun q12 =>
          (M_puts q12 q10).bind fun q13 =>
          some q13)
        else
          ((M_wrong σ 1).bind fun q9 =>
          some q9)) : Option MS)).bind fun r3 =>
    (M_isGood r3).bind fun q4 =>
    if q4 = 0 then
      (some r3)
    else
      ((M_goes r3).bind fun q6 =>
      some q6))
theorem nm_X4_part : kNm yX4_part RX4 0 := by unfold kNm; decide +kernel
set_option maxHeartbeats 4000000 in
set_option maxRecDepth 100000 in
theorem wM_part (l : Launch) (G : va_G) (dT : Nat → ClassId) (o : Nat) (ad : Nat → Nat) (σ : MS) (z : MS) (h : M_part σ = some z) : Met l yX4_part (ws_ yX4_part cX4_part 2 none) (kRm 3 68) (mPc G dT o ad σ []) (va_Qv (fun (_ : Unit) => True) (fun _ t => MH G dT o ad z t.heap) (mAd o ad)) 0 0 (mAd o ad) := by
  refine m_startNv (cc := cX4_part) rfl rfl rfl (fun p e R s m args below meth c Q ls X hR hM hS hl hend => ?_)
  have hx := X.1.1
  have hb := X.1.2.1
  have hit := h
  clear h
  unfold M_part at hit
  have hl : lv_has ls 2 [(0, .ref o)] := hl
  refine lv_aload_n hx hb dX4_part_0 rfl (lv_at hl 0 rfl) ?_
  obtain ⟨q1, eq1, hit⟩ := o_bind hit
  refine m_cR X hM (wM_isGood l G dT o ad _  _ eq1) nm_X4_isGood q1866 q1868 q141 q1869 qs61 ⟨Nat.le_trans (Nat.le_of_ble_eq_true rfl) hR.1, Nat.le_trans (Nat.le_of_ble_eq_true rfl) hR.2⟩ rfl rfl hl.1 (lv_room (Nat.le_of_ble_eq_true rfl)) dX4_part_1 ?_
  refine b_if_ne (tgt := 8) hx hb dX4_part_4 (by decide) hit (fun c2 hit => ?_) (fun c2 hit => ?_)
  · refine lv_aload_n hx hb dX4_part_8 rfl (lv_at hl 0 rfl) ?_
    refine m_get X hM 19 q1663 rfl rfl (v := .int (mf σ 19)) rfl dX4_part_9 ?_
    refine lv_iconst (v := 2) hx hb dX4_part_12 (by decide) ?_
    obtain ⟨r3, er3, hit⟩ := o_bind hit
    have hr3 : ∀ (H : Heap) (locs : List Loc) (ls : Array Slot), MH G dT o ad r3 H → va_S (mAd o ad) s.heap H locs → lv_has ls 2 [(0, .ref o)] → W p l e R s m args below meth c H locs 0 0 Q (F0 m 97 ls []) := by
      intro H locs ls hM hS hl
      refine lv_aload_n hx hb dX4_part_97 rfl (lv_at hl 0 rfl) ?_
      obtain ⟨q4, eq4, hit⟩ := o_bind hit
      refine m_cR X hM (wM_isGood l G dT o ad _  _ eq4) nm_X4_isGood q1866 q1868 q141 q1869 qs61 ⟨Nat.le_trans (Nat.le_of_ble_eq_true rfl) hR.1, Nat.le_trans (Nat.le_of_ble_eq_true rfl) hR.2⟩ rfl rfl hl.1 (lv_room (Nat.le_of_ble_eq_true rfl)) dX4_part_98 ?_
      refine b_if_eq (tgt := 108) hx hb dX4_part_101 (by decide) hit (fun c5 hit => ?_) (fun c5 hit => ?_)
      · have he := o_in hit
        exact hend _ _ _ _ _ he hM hS dX4_part_108
      · refine lv_aload_n hx hb dX4_part_104 rfl (lv_at hl 0 rfl) ?_
        obtain ⟨q6, eq6, hit⟩ := o_bind hit
        refine m_cNv X hM hS (wM_goes l G dT o ad _  _ eq6) nm_X4_goes q1852 q1854 q141 q1855 qs59 ⟨Nat.le_trans (Nat.le_of_ble_eq_true rfl) hR.1, Nat.le_trans (Nat.le_of_ble_eq_true rfl) hR.2⟩ rfl rfl hl.1 (lv_room (Nat.le_of_ble_eq_true rfl)) dX4_part_105 (fun H locs hM hS => ?_)
        have he := o_in hit
        exact hend _ _ _ _ _ he hM hS dX4_part_108
    have hit := er3
    refine b_icmp_ne (tgt := 45) hx hb dX4_part_13 (by decide) hit (fun c7 hit => ?_) (fun c7 hit => ?_)
    · refine lv_aload_n hx hb dX4_part_45 rfl (lv_at hl 0 rfl) ?_
      refine m_get X hM 19 q1663 rfl rfl (v := .int (mf σ 19)) rfl dX4_part_46 ?_
      refine lv_iconst (v := 1) hx hb dX4_part_49 (by decide) ?_
      refine b_icmp_ne (tgt := 92) hx hb dX4_part_50 (by decide) hit (fun c8 hit => ?_) (fun c8 hit => ?_)
      · refine lv_aload_n hx hb dX4_part_92 rfl (lv_at hl 0 rfl) ?_
        refine lv_iconst (v := 1) hx hb dX4_part_93 (by decide) ?_
        obtain ⟨q9, eq9, hit⟩ := o_bind hit
        refine m_cNv X hM hS (wM_wrong l G dT o ad _ _ _ eq9) nm_X4_wrong q1889 q1891 q141 q1892 qs65 ⟨Nat.le_trans (Nat.le_of_ble_eq_true rfl) hR.1, Nat.le_trans (Nat.le_of_ble_eq_true rfl) hR.2⟩ rfl rfl hl.1 (lv_room (Nat.le_of_ble_eq_true rfl)) dX4_part_94 (fun H locs hM hS => ?_)
        have he := o_in hit
        subst he
        exact hr3 _ _ _ hM hS hl
      · refine lv_aload_n hx hb dX4_part_53 rfl (lv_at hl 0 rfl) ?_
        obtain ⟨q10, eq10, hit⟩ := o_bind hit
        refine m_cR X hM (wM_knownWord l G dT o ad _  _ eq10) nm_X4_knownWord q1874 q1876 q141 q1877 qs63 ⟨Nat.le_trans (Nat.le_of_ble_eq_true rfl) hR.1, Nat.le_trans (Nat.le_of_ble_eq_true rfl) hR.2⟩ rfl rfl hl.1 (lv_room (Nat.le_of_ble_eq_true rfl)) dX4_part_54 ?_
        refine lv_istore_n (lv' := [(1, .int q10), (0, .ref o)]) hx hb dX4_part_57 rfl hl (by decide) rfl (fun ls hl => ?_)
        refine lv_iload_n hx hb dX4_part_58 rfl (lv_at hl 0 rfl) ?_
        refine lv_aload_n hx hb dX4_part_59 rfl (lv_at hl 1 rfl) ?_
        refine m_get X hM 32 q1676 rfl rfl (v := .int (mf σ 32)) rfl dX4_part_60 ?_
        obtain ⟨r11, er11, hit⟩ := o_bind hit
        have hr11 : ∀ (H : Heap) (locs : List Loc) (ls : Array Slot), MH G dT o ad r11 H → va_S (mAd o ad) s.heap H locs → lv_has ls 2 [(1, .int q10), (0, .ref o)] → W p l e R s m args below meth c H locs 0 0 Q (F0 m 79 ls []) := by
          intro H locs ls hM hS hl
          refine lv_aload_n hx hb dX4_part_79 rfl (lv_at hl 1 rfl) ?_
          refine lv_iconst (v := 2) hx hb dX4_part_80 (by decide) ?_
          obtain ⟨q12, eq12, hit⟩ := o_bind hit
          refine m_cNv X hM hS (wM_puts l G dT o ad _ _ _ eq12) nm_X4_puts q1941 q1943 q141 q1944 qs78 ⟨Nat.le_trans (Nat.le_of_ble_eq_true rfl) hR.1, Nat.le_trans (Nat.le_of_ble_eq_true rfl) hR.2⟩ rfl rfl hl.1 (lv_room (Nat.le_of_ble_eq_true rfl)) dX4_part_81 (fun H locs hM hS => ?_)
          refine lv_aload_n hx hb dX4_part_84 rfl (lv_at hl 1 rfl) ?_
          refine lv_iload_n hx hb dX4_part_85 rfl (lv_at hl 0 rfl) ?_
          obtain ⟨q13, eq13, hit⟩ := o_bind hit
          refine m_cNv X hM hS (wM_puts l G dT o ad _ _ _ eq13) nm_X4_puts q1941 q1943 q141 q1944 qs78 ⟨Nat.le_trans (Nat.le_of_ble_eq_true rfl) hR.1, Nat.le_trans (Nat.le_of_ble_eq_true rfl) hR.2⟩ rfl rfl hl.1 (lv_room (Nat.le_of_ble_eq_true rfl)) dX4_part_86 (fun H locs hM hS => ?_)
          refine lv_goto (tgt := 97) hx hb dX4_part_89 (by decide) ?_
          have he := o_in hit
          subst he
          exact hr3 _ _ _ hM hS (lv_sub hl [1] rfl)
        have hit := er11
        have hK74 : M_part_J74 σ = some r11 → ∀ (H : Heap) (locs : List Loc) (ls : Array Slot), MH G dT o ad σ H → va_S (mAd o ad) s.heap H locs → lv_has ls 2 [(1, .int q10), (0, .ref o)] → W p l e R s m args below meth c H locs 0 0 Q (F0 m 74 ls []) := by
          intro  hit H locs ls hM hS hl
          unfold M_part_J74 at hit
          refine lv_aload_n hx hb dX4_part_74 rfl (lv_at hl 1 rfl) ?_
          refine lv_iconst (v := 3) hx hb dX4_part_75 (by decide) ?_
          obtain ⟨q14, eq14, hit⟩ := o_bind hit
          refine m_cNv X hM hS (wM_wrong l G dT o ad _ _ _ eq14) nm_X4_wrong q1889 q1891 q141 q1892 qs65 ⟨Nat.le_trans (Nat.le_of_ble_eq_true rfl) hR.1, Nat.le_trans (Nat.le_of_ble_eq_true rfl) hR.2⟩ rfl rfl hl.1 (lv_room (Nat.le_of_ble_eq_true rfl)) dX4_part_76 (fun H locs hM hS => ?_)
          have he := o_in hit
          subst he
          exact hr11 _ _ _ hM hS hl
        refine b_icmp_lt (tgt := 74) hx hb dX4_part_63 (by decide) hit (fun c15 hit => ?_) (fun c15 hit => ?_)
        · exact hK74  hit _ _ _ hM hS hl
        · refine lv_iload_n hx hb dX4_part_66 rfl (lv_at hl 0 rfl) ?_
          refine lv_aload_n hx hb dX4_part_67 rfl (lv_at hl 1 rfl) ?_
          refine m_get X hM 33 q1677 rfl rfl (v := .int (mf σ 33)) rfl dX4_part_68 ?_
          refine b_icmp_le (tgt := 79) hx hb dX4_part_71 (by decide) hit (fun c16 hit => ?_) (fun c16 hit => ?_)
          · have he := o_in hit
            subst he
            exact hr11 _ _ _ hM hS hl
          · exact hK74  hit _ _ _ hM hS hl
    · refine lv_aload_n hx hb dX4_part_16 rfl (lv_at hl 0 rfl) ?_
      refine m_get X hM 21 q1665 rfl rfl (v := .int (mf σ 21)) rfl dX4_part_17 ?_
      refine lv_iconst (v := 4) hx hb dX4_part_20 (by decide) ?_
      obtain ⟨r17, er17, hit⟩ := o_bind hit
      have hr17 : ∀ (H : Heap) (locs : List Loc) (ls : Array Slot), MH G dT o ad r17 H → va_S (mAd o ad) s.heap H locs → lv_has ls 2 [(0, .ref o)] → W p l e R s m args below meth c H locs 0 0 Q (F0 m 29 ls []) := by
        intro H locs ls hM hS hl
        refine lv_aload_n hx hb dX4_part_29 rfl (lv_at hl 0 rfl) ?_
        refine lv_iconst (v := 1) hx hb dX4_part_30 (by decide) ?_
        obtain ⟨q18, eq18, hit⟩ := o_bind hit
        refine m_cNv X hM hS (wM_puts l G dT o ad _ _ _ eq18) nm_X4_puts q1941 q1943 q141 q1944 qs78 ⟨Nat.le_trans (Nat.le_of_ble_eq_true rfl) hR.1, Nat.le_trans (Nat.le_of_ble_eq_true rfl) hR.2⟩ rfl rfl hl.1 (lv_room (Nat.le_of_ble_eq_true rfl)) dX4_part_31 (fun H locs hM hS => ?_)
        refine lv_aload_n hx hb dX4_part_34 rfl (lv_at hl 0 rfl) ?_
        refine lv_aload_n hx hb dX4_part_35 rfl (lv_at hl 0 rfl) ?_
        refine m_get X hM 22 q1666 rfl rfl (v := .int (mf q18 22)) rfl dX4_part_36 ?_
        obtain ⟨q19, eq19, hit⟩ := o_bind hit
        refine m_cNv X hM hS (wM_puts l G dT o ad _ _ _ eq19) nm_X4_puts q1941 q1943 q141 q1944 qs78 ⟨Nat.le_trans (Nat.le_of_ble_eq_true rfl) hR.1, Nat.le_trans (Nat.le_of_ble_eq_true rfl) hR.2⟩ rfl rfl hl.1 (lv_room (Nat.le_of_ble_eq_true rfl)) dX4_part_39 (fun H locs hM hS => ?_)
        refine lv_goto (tgt := 97) hx hb dX4_part_42 (by decide) ?_
        have he := o_in hit
        subst he
        exact hr3 _ _ _ hM hS hl
      have hit := er17
      refine b_icmp_le (tgt := 29) hx hb dX4_part_21 (by decide) hit (fun c20 hit => ?_) (fun c20 hit => ?_)
      · have he := o_in hit
        subst he
        exact hr17 _ _ _ hM hS hl
      · refine lv_aload_n hx hb dX4_part_24 rfl (lv_at hl 0 rfl) ?_
        refine lv_iconst (v := 2) hx hb dX4_part_25 (by decide) ?_
        obtain ⟨q21, eq21, hit⟩ := o_bind hit
        refine m_cNv X hM hS (wM_wrong l G dT o ad _ _ _ eq21) nm_X4_wrong q1889 q1891 q141 q1892 qs65 ⟨Nat.le_trans (Nat.le_of_ble_eq_true rfl) hR.1, Nat.le_trans (Nat.le_of_ble_eq_true rfl) hR.2⟩ rfl rfl hl.1 (lv_room (Nat.le_of_ble_eq_true rfl)) dX4_part_26 (fun H locs hM hS => ?_)
        have he := o_in hit
        subst he
        exact hr17 _ _ _ hM hS hl
  · have he := o_in hit
    exact hend _ _ _ _ _ he hM hS dX4_part_7
noncomputable def M_deeper (σ : MS) : Option (MS) :=
  if (mf σ 35) < 6 then
    ((pf σ 35 ((mf σ 35) + 1)).bind fun s8 =>
    (astZ s8 43 (mf s8 35) 0).bind fun s9 =>
    some s9)
  else
    (((if (mf σ 19) = 2 then
        (some 2)
      else
        (if (mf σ 19) = 1 then
          (some 2)
        else
          ((M_isSign σ 40).bind fun q6 =>
          if q6 = 0 then
            (some 1)
          else
            (some 2))) : Option Int32)).bind fun r2 =>
    (M_wrong σ r2).bind fun q3 =>
    some q3)
theorem nm_X4_deeper : kNm yX4_deeper RX4 0 := by unfold kNm; decide +kernel
set_option maxHeartbeats 4000000 in
set_option maxRecDepth 100000 in
theorem wM_deeper (l : Launch) (G : va_G) (dT : Nat → ClassId) (o : Nat) (ad : Nat → Nat) (σ : MS) (z : MS) (h : M_deeper σ = some z) : Met l yX4_deeper (ws_ yX4_deeper cX4_deeper 1 none) (kRm 1 21) (mPc G dT o ad σ []) (va_Qv (fun (_ : Unit) => True) (fun _ t => MH G dT o ad z t.heap) (mAd o ad)) 0 0 (mAd o ad) := by
  refine m_startNv (cc := cX4_deeper) rfl rfl rfl (fun p e R s m args below meth c Q ls X hR hM hS hl hend => ?_)
  have hx := X.1.1
  have hb := X.1.2.1
  have hit := h
  clear h
  unfold M_deeper at hit
  have hl : lv_has ls 1 [(0, .ref o)] := hl
  refine lv_aload_n hx hb dX4_deeper_0 rfl (lv_at hl 0 rfl) ?_
  refine m_get X hM 35 q1679 rfl rfl (v := .int (mf σ 35)) rfl dX4_deeper_1 ?_
  refine lv_bipush (v := 6) hx hb dX4_deeper_4 (by decide) ?_
  refine b_icmp_ge (tgt := 30) hx hb dX4_deeper_6 (by decide) hit (fun c1 hit => ?_) (fun c1 hit => ?_)
  · refine lv_aload_n hx hb dX4_deeper_30 rfl (lv_at hl 0 rfl) ?_
    refine lv_aload_n hx hb dX4_deeper_31 rfl (lv_at hl 0 rfl) ?_
    refine m_get X hM 19 q1663 rfl rfl (v := .int (mf σ 19)) rfl dX4_deeper_32 ?_
    refine lv_iconst (v := 2) hx hb dX4_deeper_35 (by decide) ?_
    obtain ⟨r2, er2, hit⟩ := o_bind hit
    have hr2 : ∀ (H : Heap) (locs : List Loc) (ls : Array Slot), MH G dT o ad σ H → va_S (mAd o ad) s.heap H locs → lv_has ls 1 [] → W p l e R s m args below meth c H locs 0 0 Q (F0 m 61 ls [.int r2, .ref o]) := by
      intro H locs ls hM hS hl
      obtain ⟨q3, eq3, hit⟩ := o_bind hit
      refine m_cNv X hM hS (wM_wrong l G dT o ad _ _ _ eq3) nm_X4_wrong q1889 q1891 q141 q1892 qs65 ⟨Nat.le_trans (Nat.le_of_ble_eq_true rfl) hR.1, Nat.le_trans (Nat.le_of_ble_eq_true rfl) hR.2⟩ rfl rfl hl.1 (lv_room (Nat.le_of_ble_eq_true rfl)) dX4_deeper_61 (fun H locs hM hS => ?_)
      have he := o_in hit
      exact hend _ _ _ _ _ he hM hS dX4_deeper_64
    have hit := er2
    refine b_icmp_eq (tgt := 56) hx hb dX4_deeper_36 (by decide) hit (fun c4 hit => ?_) (fun c4 hit => ?_)
    · refine lv_iconst (v := 2) hx hb dX4_deeper_56 (by decide) ?_
      refine lv_goto (tgt := 61) hx hb dX4_deeper_57 (by decide) ?_
      have he := o_in hit
      subst he
      exact hr2 _ _ _ hM hS (lv_sub hl [] rfl)
    · refine lv_aload_n hx hb dX4_deeper_39 rfl (lv_at hl 0 rfl) ?_
      refine m_get X hM 19 q1663 rfl rfl (v := .int (mf σ 19)) rfl dX4_deeper_40 ?_
      refine lv_iconst (v := 1) hx hb dX4_deeper_43 (by decide) ?_
      refine b_icmp_eq (tgt := 56) hx hb dX4_deeper_44 (by decide) hit (fun c5 hit => ?_) (fun c5 hit => ?_)
      · refine lv_iconst (v := 2) hx hb dX4_deeper_56 (by decide) ?_
        refine lv_goto (tgt := 61) hx hb dX4_deeper_57 (by decide) ?_
        have he := o_in hit
        subst he
        exact hr2 _ _ _ hM hS (lv_sub hl [] rfl)
      · refine lv_aload_n hx hb dX4_deeper_47 rfl (lv_at hl 0 rfl) ?_
        refine lv_bipush (v := 40) hx hb dX4_deeper_48 (by decide) ?_
        obtain ⟨q6, eq6, hit⟩ := o_bind hit
        refine m_cR X hM (wM_isSign l G dT o ad _ _ _ eq6) nm_X4_isSign q1925 q1927 q141 q1928 qs74 ⟨Nat.le_trans (Nat.le_of_ble_eq_true rfl) hR.1, Nat.le_trans (Nat.le_of_ble_eq_true rfl) hR.2⟩ rfl rfl hl.1 (lv_room (Nat.le_of_ble_eq_true rfl)) dX4_deeper_50 ?_
        refine b_if_eq (tgt := 60) hx hb dX4_deeper_53 (by decide) hit (fun c7 hit => ?_) (fun c7 hit => ?_)
        · refine lv_iconst (v := 1) hx hb dX4_deeper_60 (by decide) ?_
          have he := o_in hit
          subst he
          exact hr2 _ _ _ hM hS (lv_sub hl [] rfl)
        · refine lv_iconst (v := 2) hx hb dX4_deeper_56 (by decide) ?_
          refine lv_goto (tgt := 61) hx hb dX4_deeper_57 (by decide) ?_
          have he := o_in hit
          subst he
          exact hr2 _ _ _ hM hS (lv_sub hl [] rfl)
  · refine lv_aload_n hx hb dX4_deeper_9 rfl (lv_at hl 0 rfl) ?_
    refine lv_dup hx hb dX4_deeper_10 rfl ?_
    refine m_get X hM 35 q1679 rfl rfl (v := .int (mf σ 35)) rfl dX4_deeper_11 ?_
    refine lv_iconst (v := 1) hx hb dX4_deeper_14 (by decide) ?_
    refine lv_iadd hx hb dX4_deeper_15 ?_
    obtain ⟨s8, es8, hit⟩ := o_bind hit
    refine m_put X hM hS 35 q1679 rfl rfl (ty := .int) rfl rfl rfl es8 dX4_deeper_16 (fun H locs hM hS => ?_)
    refine lv_aload_n hx hb dX4_deeper_19 rfl (lv_at hl 0 rfl) ?_
    refine m_get X hM 43 q1687 rfl rfl (v := .ref (ad 43)) rfl dX4_deeper_20 ?_
    refine lv_aload_n hx hb dX4_deeper_23 rfl (lv_at hl 0 rfl) ?_
    refine m_get X hM 35 q1679 rfl rfl (v := .int (mf s8 35)) rfl dX4_deeper_24 ?_
    refine lv_iconst (v := 0) hx hb dX4_deeper_27 (by decide) ?_
    obtain ⟨s9, es9, hit⟩ := o_bind hit
    refine m_zast X hM hS es9 dX4_deeper_28 (fun H locs hM hS => ?_)
    have he := o_in hit
    exact hend _ _ _ _ _ he hM hS dX4_deeper_29
noncomputable def M_operand_L18 (t1 : Int32 × Int32 × MS) (t8 : Int32 × MS) : Option ((Int32 × MS) ⊕ MS) :=
  (M_isGood t8.2).bind fun q21 =>
  if q21 = 0 then
    (some (.inr t8.2))
  else
    (if t1.1 = 0 then
      (some (.inr t8.2))
    else
      ((M_knownWord t8.2).bind fun q24 =>
      if q24 = 16 then
        (((if t8.1 = 6 then
            ((M_wrong t8.2 2).bind fun q32 =>
            some q32)
          else
            (some t8.2) : Option MS)).bind fun r26 =>
        (M_isGood r26).bind fun q27 =>
        if q27 = 0 then
          (some (.inl ((t8.1 + 1), r26)))
        else
          ((M_waitsFor r26 3).bind fun q29 =>
          (M_goes q29).bind fun q30 =>
          some (.inl ((t8.1 + 1), q30))))
      else
        (some (.inr t8.2))))
noncomputable def M_operand_L4 (t1 : Int32 × Int32 × MS) : Option ((Int32 × Int32 × MS) ⊕ MS) :=
  if t1.2.1 = 0 then
    (some (.inr t1.2.2))
  else
    ((M_isGood t1.2.2).bind fun q6 =>
    if q6 = 0 then
      (some (.inr t1.2.2))
    else
      ((o_loop (M_operand_L18 t1) (0, t1.2.2)).bind fun r10 =>
      (M_isGood r10).bind fun q11 =>
      ((if q11 = 0 then
          (some 0)
        else
          ((M_isSign r10 40).bind fun q19 =>
          if q19 = 0 then
            (some 0)
          else
            (some 1)) : Option Int32)).bind fun r12 =>
      ((if r12 = 0 then
          (some (t1.1, r10))
        else
          ((M_waitsFor r10 14).bind fun q15 =>
          (M_goes q15).bind fun q16 =>
          (M_deeper q16).bind fun q17 =>
          some (1, q17)) : Option (Int32 × MS))).bind fun r13 =>
      some (.inl (r13.1, r12, r13.2))))
noncomputable def M_operand (σ : MS) (a0 : Int32) : Option (MS) :=
  (o_loop M_operand_L4 (a0, 1, σ)).bind fun r3 =>
  (M_part r3).bind fun q4 =>
  some q4
theorem nm_X4_operand : kNm yX4_operand RX4 1 := by unfold kNm; decide +kernel
set_option maxHeartbeats 4000000 in
set_option maxRecDepth 100000 in
theorem wM_operand (l : Launch) (G : va_G) (dT : Nat → ClassId) (o : Nat) (ad : Nat → Nat) (σ : MS) (a0 : Int32) (z : MS) (h : M_operand σ a0 = some z) : Met l yX4_operand (ws_ yX4_operand cX4_operand 5 none) (kRm 4 89) (mPc G dT o ad σ [.int a0]) (va_Qv (fun (_ : Unit) => True) (fun _ t => MH G dT o ad z t.heap) (mAd o ad)) 0 0 (mAd o ad) := by
  refine m_startNv (cc := cX4_operand) rfl rfl rfl (fun p e R s m args below meth c Q ls X hR hM hS hl hend => ?_)
  have hx := X.1.1
  have hb := X.1.2.1
  have hit := h
  clear h
  unfold M_operand at hit
  have hl : lv_has ls 5 [(0, .ref o), (1, .int a0)] := hl
  refine lv_iload_n hx hb dX4_operand_0 rfl (lv_at hl 1 rfl) ?_
  refine lv_istore_n (lv' := [(2, .int a0), (0, .ref o), (1, .int a0)]) hx hb dX4_operand_1 rfl hl (by decide) rfl (fun ls hl => ?_)
  refine lv_iconst (v := 1) hx hb dX4_operand_2 (by decide) ?_
  refine lv_istore_n (lv' := [(3, .int 1), (2, .int a0), (0, .ref o), (1, .int a0)]) hx hb dX4_operand_3 rfl hl (by decide) rfl (fun ls hl => ?_)
  obtain ⟨r3, er3, hit⟩ := o_bind hit
  have hr3 : ∀ (H : Heap) (locs : List Loc) (ls : Array Slot), MH G dT o ad r3 H → va_S (mAd o ad) s.heap H locs → lv_has ls 5 [(0, .ref o)] → W p l e R s m args below meth c H locs 0 0 Q (F0 m 120 ls []) := by
    intro H locs ls hM hS hl
    refine lv_aload_n hx hb dX4_operand_120 rfl (lv_at hl 0 rfl) ?_
    obtain ⟨q4, eq4, hit⟩ := o_bind hit
    refine m_cNv X hM hS (wM_part l G dT o ad _  _ eq4) nm_X4_part q1937 q1939 q141 q1940 qs77 ⟨Nat.le_trans (Nat.le_of_ble_eq_true rfl) hR.1, Nat.le_trans (Nat.le_of_ble_eq_true rfl) hR.2⟩ rfl rfl hl.1 (lv_room (Nat.le_of_ble_eq_true rfl)) dX4_operand_121 (fun H locs hM hS => ?_)
    have he := o_in hit
    exact hend _ _ _ _ _ he hM hS dX4_operand_124
  refine o_rec (P := fun t1 => ∀ (H : Heap) (locs : List Loc) (ls : Array Slot), MH G dT o ad t1.2.2 H → va_S (mAd o ad) s.heap H locs → lv_has ls 5 [(0, .ref o), (2, .int t1.1), (3, .int t1.2.1)] → W p l e R s m args below meth c H locs 0 0 Q (F0 m 4 ls [])) (fun t1 x2 hit hC1 hE1 H locs ls hM hS hl => ?_) _ er3 _ _ _ hM hS (lv_sub hl [2, 1, 0] rfl)
  unfold M_operand_L4 at hit
  refine lv_iload_n hx hb dX4_operand_4 rfl (lv_at hl 2 rfl) ?_
  refine b_if_eq (tgt := 120) hx hb dX4_operand_5 (by decide) hit (fun c5 hit => ?_) (fun c5 hit => ?_)
  · have he := o_in hit
    have he := hE1 _ he
    subst he
    exact hr3 _ _ _ hM hS (lv_sub hl [0] rfl)
  · refine lv_aload_n hx hb dX4_operand_8 rfl (lv_at hl 0 rfl) ?_
    obtain ⟨q6, eq6, hit⟩ := o_bind hit
    refine m_cR X hM (wM_isGood l G dT o ad _  _ eq6) nm_X4_isGood q1866 q1868 q141 q1869 qs61 ⟨Nat.le_trans (Nat.le_of_ble_eq_true rfl) hR.1, Nat.le_trans (Nat.le_of_ble_eq_true rfl) hR.2⟩ rfl rfl hl.1 (lv_room (Nat.le_of_ble_eq_true rfl)) dX4_operand_9 ?_
    refine b_if_eq (tgt := 120) hx hb dX4_operand_12 (by decide) hit (fun c7 hit => ?_) (fun c7 hit => ?_)
    · have he := o_in hit
      have he := hE1 _ he
      subst he
      exact hr3 _ _ _ hM hS (lv_sub hl [0] rfl)
    · refine lv_iconst (v := 0) hx hb dX4_operand_15 (by decide) ?_
      refine lv_istore (lv' := [(4, .int 0), (0, .ref o), (2, .int t1.1), (3, .int t1.2.1)]) hx hb dX4_operand_16 hl (by decide) rfl (fun ls hl => ?_)
      obtain ⟨r10, er10, hit⟩ := o_bind hit
      have hr10 : ∀ (H : Heap) (locs : List Loc) (ls : Array Slot), MH G dT o ad r10 H → va_S (mAd o ad) s.heap H locs → lv_has ls 5 [(0, .ref o), (2, .int t1.1)] → W p l e R s m args below meth c H locs 0 0 Q (F0 m 75 ls []) := by
        intro H locs ls hM hS hl
        refine lv_aload_n hx hb dX4_operand_75 rfl (lv_at hl 0 rfl) ?_
        obtain ⟨q11, eq11, hit⟩ := o_bind hit
        refine m_cR X hM (wM_isGood l G dT o ad _  _ eq11) nm_X4_isGood q1866 q1868 q141 q1869 qs61 ⟨Nat.le_trans (Nat.le_of_ble_eq_true rfl) hR.1, Nat.le_trans (Nat.le_of_ble_eq_true rfl) hR.2⟩ rfl rfl hl.1 (lv_room (Nat.le_of_ble_eq_true rfl)) dX4_operand_76 ?_
        obtain ⟨r12, er12, hit⟩ := o_bind hit
        have hr12 : ∀ (H : Heap) (locs : List Loc) (ls : Array Slot), MH G dT o ad r10 H → va_S (mAd o ad) s.heap H locs → lv_has ls 5 [(0, .ref o), (2, .int t1.1)] → W p l e R s m args below meth c H locs 0 0 Q (F0 m 96 ls [.int r12]) := by
          intro H locs ls hM hS hl
          refine lv_istore_n (lv' := [(3, .int r12), (0, .ref o), (2, .int t1.1)]) hx hb dX4_operand_96 rfl hl (by decide) rfl (fun ls hl => ?_)
          refine lv_iload_n hx hb dX4_operand_97 rfl (lv_at hl 0 rfl) ?_
          obtain ⟨r13, er13, hit⟩ := o_bind hit
          have hr13 : ∀ (H : Heap) (locs : List Loc) (ls : Array Slot), MH G dT o ad r13.2 H → va_S (mAd o ad) s.heap H locs → lv_has ls 5 [(3, .int r12), (0, .ref o), (2, .int r13.1)] → W p l e R s m args below meth c H locs 0 0 Q (F0 m 117 ls []) := by
            intro H locs ls hM hS hl
            refine lv_goto (tgt := 4) hx hb dX4_operand_117 (by decide) ?_
            have he := o_in hit
            exact hC1 _ he _ _ _ hM hS (lv_sub hl [1, 2, 0] rfl)
          have hit := er13
          refine b_if_eq (tgt := 117) hx hb dX4_operand_98 (by decide) hit (fun c14 hit => ?_) (fun c14 hit => ?_)
          · have he := o_in hit
            subst he
            exact hr13 _ _ _ hM hS hl
          · refine lv_aload_n hx hb dX4_operand_101 rfl (lv_at hl 1 rfl) ?_
            refine lv_bipush (v := 14) hx hb dX4_operand_102 (by decide) ?_
            obtain ⟨q15, eq15, hit⟩ := o_bind hit
            refine m_cNv X hM hS (wM_waitsFor l G dT o ad _ _ _ eq15) nm_X4_waitsFor q1933 q1935 q141 q1936 qs76 ⟨Nat.le_trans (Nat.le_of_ble_eq_true rfl) hR.1, Nat.le_trans (Nat.le_of_ble_eq_true rfl) hR.2⟩ rfl rfl hl.1 (lv_room (Nat.le_of_ble_eq_true rfl)) dX4_operand_104 (fun H locs hM hS => ?_)
            refine lv_aload_n hx hb dX4_operand_107 rfl (lv_at hl 1 rfl) ?_
            obtain ⟨q16, eq16, hit⟩ := o_bind hit
            refine m_cNv X hM hS (wM_goes l G dT o ad _  _ eq16) nm_X4_goes q1852 q1854 q141 q1855 qs59 ⟨Nat.le_trans (Nat.le_of_ble_eq_true rfl) hR.1, Nat.le_trans (Nat.le_of_ble_eq_true rfl) hR.2⟩ rfl rfl hl.1 (lv_room (Nat.le_of_ble_eq_true rfl)) dX4_operand_108 (fun H locs hM hS => ?_)
            refine lv_aload_n hx hb dX4_operand_111 rfl (lv_at hl 1 rfl) ?_
            obtain ⟨q17, eq17, hit⟩ := o_bind hit
            refine m_cNv X hM hS (wM_deeper l G dT o ad _  _ eq17) nm_X4_deeper q1921 q1923 q141 q1924 qs73 ⟨Nat.le_trans (Nat.le_of_ble_eq_true rfl) hR.1, Nat.le_trans (Nat.le_of_ble_eq_true rfl) hR.2⟩ rfl rfl hl.1 (lv_room (Nat.le_of_ble_eq_true rfl)) dX4_operand_112 (fun H locs hM hS => ?_)
            refine lv_iconst (v := 1) hx hb dX4_operand_115 (by decide) ?_
            refine lv_istore_n (lv' := [(2, .int 1), (3, .int r12), (0, .ref o)]) hx hb dX4_operand_116 rfl hl (by decide) rfl (fun ls hl => ?_)
            have he := o_in hit
            subst he
            exact hr13 _ _ _ hM hS (lv_sub hl [1, 2, 0] rfl)
        have hit := er12
        refine b_if_eq (tgt := 95) hx hb dX4_operand_79 (by decide) hit (fun c18 hit => ?_) (fun c18 hit => ?_)
        · refine lv_iconst (v := 0) hx hb dX4_operand_95 (by decide) ?_
          have he := o_in hit
          subst he
          exact hr12 _ _ _ hM hS hl
        · refine lv_aload_n hx hb dX4_operand_82 rfl (lv_at hl 0 rfl) ?_
          refine lv_bipush (v := 40) hx hb dX4_operand_83 (by decide) ?_
          obtain ⟨q19, eq19, hit⟩ := o_bind hit
          refine m_cR X hM (wM_isSign l G dT o ad _ _ _ eq19) nm_X4_isSign q1925 q1927 q141 q1928 qs74 ⟨Nat.le_trans (Nat.le_of_ble_eq_true rfl) hR.1, Nat.le_trans (Nat.le_of_ble_eq_true rfl) hR.2⟩ rfl rfl hl.1 (lv_room (Nat.le_of_ble_eq_true rfl)) dX4_operand_85 ?_
          refine b_if_eq (tgt := 95) hx hb dX4_operand_88 (by decide) hit (fun c20 hit => ?_) (fun c20 hit => ?_)
          · refine lv_iconst (v := 0) hx hb dX4_operand_95 (by decide) ?_
            have he := o_in hit
            subst he
            exact hr12 _ _ _ hM hS hl
          · refine lv_iconst (v := 1) hx hb dX4_operand_91 (by decide) ?_
            refine lv_goto (tgt := 96) hx hb dX4_operand_92 (by decide) ?_
            have he := o_in hit
            subst he
            exact hr12 _ _ _ hM hS hl
      refine o_rec (P := fun t8 => ∀ (H : Heap) (locs : List Loc) (ls : Array Slot), MH G dT o ad t8.2 H → va_S (mAd o ad) s.heap H locs → lv_has ls 5 [(0, .ref o), (2, .int t1.1), (4, .int t8.1)] → W p l e R s m args below meth c H locs 0 0 Q (F0 m 18 ls [])) (fun t8 x9 hit hC8 hE8 H locs ls hM hS hl => ?_) _ er10 _ _ _ hM hS (lv_sub hl [1, 2, 0] rfl)
      unfold M_operand_L18 at hit
      refine lv_aload_n hx hb dX4_operand_18 rfl (lv_at hl 0 rfl) ?_
      obtain ⟨q21, eq21, hit⟩ := o_bind hit
      refine m_cR X hM (wM_isGood l G dT o ad _  _ eq21) nm_X4_isGood q1866 q1868 q141 q1869 qs61 ⟨Nat.le_trans (Nat.le_of_ble_eq_true rfl) hR.1, Nat.le_trans (Nat.le_of_ble_eq_true rfl) hR.2⟩ rfl rfl hl.1 (lv_room (Nat.le_of_ble_eq_true rfl)) dX4_operand_19 ?_
      refine b_if_eq (tgt := 75) hx hb dX4_operand_22 (by decide) hit (fun c22 hit => ?_) (fun c22 hit => ?_)
      · have he := o_in hit
        have he := hE8 _ he
        subst he
        exact hr10 _ _ _ hM hS (lv_sub hl [0, 1] rfl)
      · refine lv_iload_n hx hb dX4_operand_25 rfl (lv_at hl 1 rfl) ?_
        refine b_if_eq (tgt := 75) hx hb dX4_operand_26 (by decide) hit (fun c23 hit => ?_) (fun c23 hit => ?_)
        · have he := o_in hit
          have he := hE8 _ he
          subst he
          exact hr10 _ _ _ hM hS (lv_sub hl [0, 1] rfl)
        · refine lv_aload_n hx hb dX4_operand_29 rfl (lv_at hl 0 rfl) ?_
          obtain ⟨q24, eq24, hit⟩ := o_bind hit
          refine m_cR X hM (wM_knownWord l G dT o ad _  _ eq24) nm_X4_knownWord q1874 q1876 q141 q1877 qs63 ⟨Nat.le_trans (Nat.le_of_ble_eq_true rfl) hR.1, Nat.le_trans (Nat.le_of_ble_eq_true rfl) hR.2⟩ rfl rfl hl.1 (lv_room (Nat.le_of_ble_eq_true rfl)) dX4_operand_30 ?_
          refine lv_bipush (v := 16) hx hb dX4_operand_33 (by decide) ?_
          refine b_icmp_ne (tgt := 75) hx hb dX4_operand_35 (by decide) hit (fun c25 hit => ?_) (fun c25 hit => ?_)
          · have he := o_in hit
            have he := hE8 _ he
            subst he
            exact hr10 _ _ _ hM hS (lv_sub hl [0, 1] rfl)
          · refine lv_iload hx hb dX4_operand_38 (lv_at hl 2 rfl) ?_
            refine lv_bipush (v := 6) hx hb dX4_operand_40 (by decide) ?_
            obtain ⟨r26, er26, hit⟩ := o_bind hit
            have hr26 : ∀ (H : Heap) (locs : List Loc) (ls : Array Slot), MH G dT o ad r26 H → va_S (mAd o ad) s.heap H locs → lv_has ls 5 [(0, .ref o), (2, .int t1.1), (4, .int t8.1)] → W p l e R s m args below meth c H locs 0 0 Q (F0 m 50 ls []) := by
              intro H locs ls hM hS hl
              refine lv_iinc (k := 2) (v := (t8.1 + 1)) (lv' := [(4, .int (t8.1 + 1)), (0, .ref o), (2, .int t1.1)]) hx hb dX4_operand_50 hl rfl rfl (by decide) rfl (fun ls hl => ?_)
              refine lv_aload_n hx hb dX4_operand_53 rfl (lv_at hl 1 rfl) ?_
              obtain ⟨q27, eq27, hit⟩ := o_bind hit
              refine m_cR X hM (wM_isGood l G dT o ad _  _ eq27) nm_X4_isGood q1866 q1868 q141 q1869 qs61 ⟨Nat.le_trans (Nat.le_of_ble_eq_true rfl) hR.1, Nat.le_trans (Nat.le_of_ble_eq_true rfl) hR.2⟩ rfl rfl hl.1 (lv_room (Nat.le_of_ble_eq_true rfl)) dX4_operand_54 ?_
              refine b_if_ne (tgt := 63) hx hb dX4_operand_57 (by decide) hit (fun c28 hit => ?_) (fun c28 hit => ?_)
              · refine lv_aload_n hx hb dX4_operand_63 rfl (lv_at hl 1 rfl) ?_
                refine lv_iconst (v := 3) hx hb dX4_operand_64 (by decide) ?_
                obtain ⟨q29, eq29, hit⟩ := o_bind hit
                refine m_cNv X hM hS (wM_waitsFor l G dT o ad _ _ _ eq29) nm_X4_waitsFor q1933 q1935 q141 q1936 qs76 ⟨Nat.le_trans (Nat.le_of_ble_eq_true rfl) hR.1, Nat.le_trans (Nat.le_of_ble_eq_true rfl) hR.2⟩ rfl rfl hl.1 (lv_room (Nat.le_of_ble_eq_true rfl)) dX4_operand_65 (fun H locs hM hS => ?_)
                refine lv_aload_n hx hb dX4_operand_68 rfl (lv_at hl 1 rfl) ?_
                obtain ⟨q30, eq30, hit⟩ := o_bind hit
                refine m_cNv X hM hS (wM_goes l G dT o ad _  _ eq30) nm_X4_goes q1852 q1854 q141 q1855 qs59 ⟨Nat.le_trans (Nat.le_of_ble_eq_true rfl) hR.1, Nat.le_trans (Nat.le_of_ble_eq_true rfl) hR.2⟩ rfl rfl hl.1 (lv_room (Nat.le_of_ble_eq_true rfl)) dX4_operand_69 (fun H locs hM hS => ?_)
                refine lv_goto (tgt := 18) hx hb dX4_operand_72 (by decide) ?_
                have he := o_in hit
                exact hC8 _ he _ _ _ hM hS (lv_sub hl [1, 2, 0] rfl)
              · refine lv_goto (tgt := 18) hx hb dX4_operand_60 (by decide) ?_
                have he := o_in hit
                exact hC8 _ he _ _ _ hM hS (lv_sub hl [1, 2, 0] rfl)
            have hit := er26
            refine b_icmp_ne (tgt := 50) hx hb dX4_operand_42 (by decide) hit (fun c31 hit => ?_) (fun c31 hit => ?_)
            · have he := o_in hit
              subst he
              exact hr26 _ _ _ hM hS hl
            · refine lv_aload_n hx hb dX4_operand_45 rfl (lv_at hl 0 rfl) ?_
              refine lv_iconst (v := 2) hx hb dX4_operand_46 (by decide) ?_
              obtain ⟨q32, eq32, hit⟩ := o_bind hit
              refine m_cNv X hM hS (wM_wrong l G dT o ad _ _ _ eq32) nm_X4_wrong q1889 q1891 q141 q1892 qs65 ⟨Nat.le_trans (Nat.le_of_ble_eq_true rfl) hR.1, Nat.le_trans (Nat.le_of_ble_eq_true rfl) hR.2⟩ rfl rfl hl.1 (lv_room (Nat.le_of_ble_eq_true rfl)) dX4_operand_47 (fun H locs hM hS => ?_)
              have he := o_in hit
              subst he
              exact hr26 _ _ _ hM hS hl
noncomputable def M_isOpened_L7 (σ : MS) (t1 : Int32) : Option (Int32 ⊕ Int32) :=
  if t1 < 0 then
    (some (.inr t1))
  else
    ((ald σ 42 t1).bind fun v6 =>
    (M_isOpen v6).bind fun q7 =>
    if q7 = 0 then
      (some (.inl (t1 + (-1))))
    else
      (some (.inr t1)))
noncomputable def M_isOpened (σ : MS) : Option (Int32) :=
  (o_loop (M_isOpened_L7 σ) ((mf σ 34) - 1)).bind fun r3 =>
  if r3 < 0 then
    (some 0)
  else
    (some 1)
theorem nm_X4_isOpened : kNm yX4_isOpened RX4 0 := by unfold kNm; decide +kernel
set_option maxHeartbeats 4000000 in
set_option maxRecDepth 100000 in
theorem wM_isOpened (l : Launch) (G : va_G) (dT : Nat → ClassId) (o : Nat) (ad : Nat → Nat) (σ : MS) (z : Int32) (h : M_isOpened σ = some z) : Met l yX4_isOpened (ws_ yX4_isOpened cX4_isOpened 2 (some .boolean)) (kRm 1 20) (mPc G dT o ad σ []) (vp_Si (fun r => r = z)) 0 0 vp_nf := by
  refine m_startR (cc := cX4_isOpened) (ty := .boolean) rfl rfl rfl (fun p e R s m args below meth c Q ls X hR hM hl hend => ?_)
  have hx := X.1.1
  have hb := X.1.2.1
  have hit := h
  clear h
  unfold M_isOpened at hit
  have hl : lv_has ls 2 [(0, .ref o)] := hl
  refine lv_aload_n hx hb dX4_isOpened_0 rfl (lv_at hl 0 rfl) ?_
  refine m_get X hM 34 q1678 rfl rfl (v := .int (mf σ 34)) rfl dX4_isOpened_1 ?_
  refine lv_iconst (v := 1) hx hb dX4_isOpened_4 (by decide) ?_
  refine lv_isub hx hb dX4_isOpened_5 ?_
  refine lv_istore_n (lv' := [(1, .int ((mf σ 34) - 1)), (0, .ref o)]) hx hb dX4_isOpened_6 rfl hl (by decide) rfl (fun ls hl => ?_)
  obtain ⟨r3, er3, hit⟩ := o_bind hit
  have hr3 : ∀ (ls : Array Slot), lv_has ls 2 [(1, .int r3)] → W p l e R s m args below meth c s.heap [] 0 0 Q (F0 m 29 ls []) := by
    intro ls hl
    refine lv_iload_n hx hb dX4_isOpened_29 rfl (lv_at hl 0 rfl) ?_
    refine b_if_lt (tgt := 37) hx hb dX4_isOpened_30 (by decide) hit (fun c4 hit => ?_) (fun c4 hit => ?_)
    · refine lv_iconst (v := 0) hx hb dX4_isOpened_37 (by decide) ?_
      have he := o_in hit
      exact hend _ 0 _ _ rfl he dX4_isOpened_38
    · refine lv_iconst (v := 1) hx hb dX4_isOpened_33 (by decide) ?_
      refine lv_goto (tgt := 38) hx hb dX4_isOpened_34 (by decide) ?_
      have he := o_in hit
      exact hend _ 1 _ _ rfl he dX4_isOpened_38
  refine o_rec (P := fun t1 => ∀ (ls : Array Slot), lv_has ls 2 [(0, .ref o), (1, .int t1)] → W p l e R s m args below meth c s.heap [] 0 0 Q (F0 m 7 ls [])) (fun t1 x2 hit hC1 hE1 ls hl => ?_) _ er3 _ (lv_sub hl [1, 0] rfl)
  unfold M_isOpened_L7 at hit
  refine lv_iload_n hx hb dX4_isOpened_7 rfl (lv_at hl 1 rfl) ?_
  refine b_if_lt (tgt := 29) hx hb dX4_isOpened_8 (by decide) hit (fun c5 hit => ?_) (fun c5 hit => ?_)
  · have he := o_in hit
    have he := hE1 _ he
    subst he
    exact hr3 _ (lv_sub hl [1] rfl)
  · refine lv_aload_n hx hb dX4_isOpened_11 rfl (lv_at hl 0 rfl) ?_
    refine m_get X hM 42 q1686 rfl rfl (v := .ref (ad 42)) rfl dX4_isOpened_12 ?_
    refine lv_iload_n hx hb dX4_isOpened_15 rfl (lv_at hl 1 rfl) ?_
    obtain ⟨v6, ev6, hit⟩ := o_bind hit
    refine m_iald X hM 13 42 rfl rfl ev6 dX4_isOpened_16 ?_
    obtain ⟨q7, eq7, hit⟩ := o_bind hit
    refine m_cP X.1 (wM_isOpen l _ _ eq7) nm_X4_isOpen q1949 q1950 q141 q1951 ⟨Nat.le_trans (Nat.le_of_ble_eq_true rfl) hR.1, Nat.le_trans (Nat.le_of_ble_eq_true rfl) hR.2⟩ rfl rfl hl.1 (lv_room (Nat.le_of_ble_eq_true rfl)) dX4_isOpened_17 ?_
    refine b_if_ne (tgt := 29) hx hb dX4_isOpened_20 (by decide) hit (fun c8 hit => ?_) (fun c8 hit => ?_)
    · have he := o_in hit
      have he := hE1 _ he
      subst he
      exact hr3 _ (lv_sub hl [1] rfl)
    · refine lv_iinc (k := 1) (v := (t1 + (-1))) (lv' := [(1, .int (t1 + (-1))), (0, .ref o)]) hx hb dX4_isOpened_23 hl rfl rfl (by decide) rfl (fun ls hl => ?_)
      refine lv_goto (tgt := 7) hx hb dX4_isOpened_26 (by decide) ?_
      have he := o_in hit
      exact hC1 _ he _ (lv_sub hl [1, 0] rfl)
noncomputable def M_closes (σ : MS) : Option (MS) :=
  (M_drops σ 0).bind fun q1 =>
  (pf q1 34 ((mf q1 34) - 1)).bind fun s2 =>
  (pf s2 35 ((mf s2 35) - 1)).bind fun s3 =>
  (M_goes s3).bind fun q4 =>
  some q4
theorem nm_X4_closes : kNm yX4_closes RX4 0 := by unfold kNm; decide +kernel
set_option maxHeartbeats 4000000 in
set_option maxRecDepth 100000 in
theorem wM_closes (l : Launch) (G : va_G) (dT : Nat → ClassId) (o : Nat) (ad : Nat → Nat) (σ : MS) (z : MS) (h : M_closes σ = some z) : Met l yX4_closes (ws_ yX4_closes cX4_closes 1 none) (kRm 2 42) (mPc G dT o ad σ []) (va_Qv (fun (_ : Unit) => True) (fun _ t => MH G dT o ad z t.heap) (mAd o ad)) 0 0 (mAd o ad) := by
  refine m_startNv (cc := cX4_closes) rfl rfl rfl (fun p e R s m args below meth c Q ls X hR hM hS hl hend => ?_)
  have hx := X.1.1
  have hb := X.1.2.1
  have hit := h
  clear h
  unfold M_closes at hit
  have hl : lv_has ls 1 [(0, .ref o)] := hl
  refine lv_aload_n hx hb dX4_closes_0 rfl (lv_at hl 0 rfl) ?_
  refine lv_iconst (v := 0) hx hb dX4_closes_1 (by decide) ?_
  obtain ⟨q1, eq1, hit⟩ := o_bind hit
  refine m_cNv X hM hS (wM_drops l G dT o ad _ _ _ eq1) nm_X4_drops q1945 q1947 q141 q1948 qs79 ⟨Nat.le_trans (Nat.le_of_ble_eq_true rfl) hR.1, Nat.le_trans (Nat.le_of_ble_eq_true rfl) hR.2⟩ rfl rfl hl.1 (lv_room (Nat.le_of_ble_eq_true rfl)) dX4_closes_2 (fun H locs hM hS => ?_)
  refine lv_aload_n hx hb dX4_closes_5 rfl (lv_at hl 0 rfl) ?_
  refine lv_dup hx hb dX4_closes_6 rfl ?_
  refine m_get X hM 34 q1678 rfl rfl (v := .int (mf q1 34)) rfl dX4_closes_7 ?_
  refine lv_iconst (v := 1) hx hb dX4_closes_10 (by decide) ?_
  refine lv_isub hx hb dX4_closes_11 ?_
  obtain ⟨s2, es2, hit⟩ := o_bind hit
  refine m_put X hM hS 34 q1678 rfl rfl (ty := .int) rfl rfl rfl es2 dX4_closes_12 (fun H locs hM hS => ?_)
  refine lv_aload_n hx hb dX4_closes_15 rfl (lv_at hl 0 rfl) ?_
  refine lv_dup hx hb dX4_closes_16 rfl ?_
  refine m_get X hM 35 q1679 rfl rfl (v := .int (mf s2 35)) rfl dX4_closes_17 ?_
  refine lv_iconst (v := 1) hx hb dX4_closes_20 (by decide) ?_
  refine lv_isub hx hb dX4_closes_21 ?_
  obtain ⟨s3, es3, hit⟩ := o_bind hit
  refine m_put X hM hS 35 q1679 rfl rfl (ty := .int) rfl rfl rfl es3 dX4_closes_22 (fun H locs hM hS => ?_)
  refine lv_aload_n hx hb dX4_closes_25 rfl (lv_at hl 0 rfl) ?_
  obtain ⟨q4, eq4, hit⟩ := o_bind hit
  refine m_cNv X hM hS (wM_goes l G dT o ad _  _ eq4) nm_X4_goes q1852 q1854 q141 q1855 qs59 ⟨Nat.le_trans (Nat.le_of_ble_eq_true rfl) hR.1, Nat.le_trans (Nat.le_of_ble_eq_true rfl) hR.2⟩ rfl rfl hl.1 (lv_room (Nat.le_of_ble_eq_true rfl)) dX4_closes_26 (fun H locs hM hS => ?_)
  have he := o_in hit
  exact hend _ _ _ _ _ he hM hS dX4_closes_29
noncomputable def M_expression_J70 (t9 : Int32 × MS) (q22 : Int32) : Option (Int32 × MS) :=
  ((if q22 = 14 then
      (some 2)
    else
      (some 1) : Option Int32)).bind fun r24 =>
  (M_drops t9.2 r24).bind fun q25 =>
  ((if q22 = 14 then
      (some 4)
    else
      (some 5) : Option Int32)).bind fun r26 =>
  (M_waitsFor q25 r26).bind fun q27 =>
  (astZ q27 43 (mf q27 35) 0).bind fun s28 =>
  (M_goes s28).bind fun q29 =>
  (M_operand q29 1).bind fun q30 =>
  some (t9.1, q30)
noncomputable def M_expression_J219 (t9 : Int32 × MS) : Option (Int32 × MS) :=
  (M_drops t9.2 5).bind fun q37 =>
  (M_isSign q37 43).bind fun q38 =>
  ((if q38 = 0 then
      (some 9)
    else
      (some 8) : Option Int32)).bind fun r39 =>
  (M_waitsFor q37 r39).bind fun q40 =>
  (M_goes q40).bind fun q41 =>
  (M_operand q41 0).bind fun q42 =>
  some (t9.1, q42)
noncomputable def M_expression_J274 (t9 : Int32 × MS) : Option (Int32 × MS) :=
  (M_drops t9.2 6).bind fun q48 =>
  (M_isSign q48 42).bind fun q49 =>
  ((if q49 = 0 then
      (some 11)
    else
      (some 10) : Option Int32)).bind fun r50 =>
  (M_waitsFor q48 r50).bind fun q51 =>
  (M_goes q51).bind fun q52 =>
  (M_operand q52 0).bind fun q53 =>
  some (t9.1, q53)
noncomputable def M_expression_J201 (t9 : Int32 × MS) : Option (Int32 × MS) :=
  (M_isSign t9.2 43).bind fun q36 =>
  if q36 = 0 then
    ((M_isSign t9.2 45).bind fun q45 =>
    if q45 = 0 then
      ((M_isSign t9.2 42).bind fun q47 =>
      if q47 = 0 then
        ((M_isSign t9.2 47).bind fun q56 =>
        if q56 = 0 then
          ((M_isSign t9.2 41).bind fun q58 =>
          if q58 = 0 then
            (some (0, t9.2))
          else
            ((M_isOpened t9.2).bind fun q60 =>
            if q60 = 0 then
              (some (0, t9.2))
            else
              ((M_closes t9.2).bind fun q62 =>
              some (t9.1, q62))))
        else
          (M_expression_J274 t9))
      else
        (M_expression_J274 t9))
    else
      (M_expression_J219 t9))
  else
    (M_expression_J219 t9)
noncomputable def M_expression_J142 (t9 : Int32 × MS) : Option (Int32 × MS) :=
  (ald t9.2 43 (mf t9.2 35)).bind fun v63 =>
  if v63 = 0 then
    ((M_drops t9.2 4).bind fun q65 =>
    (M_isSign q65 60).bind fun q66 =>
    ((if q66 = 0 then
        (some 7)
      else
        (some 6) : Option Int32)).bind fun r67 =>
    (M_waitsFor q65 r67).bind fun q68 =>
    (astZ q68 43 (mf q68 35) 1).bind fun s69 =>
    (M_goes s69).bind fun q70 =>
    (M_operand q70 0).bind fun q71 =>
    some (t9.1, q71))
  else
    (M_expression_J201 t9)
noncomputable def M_expression_L39 (t9 : Int32 × MS) : Option ((Int32 × MS) ⊕ MS) :=
  if t9.1 = 0 then
    (some (.inr t9.2))
  else
    ((M_isGood t9.2).bind fun q20 =>
    if q20 = 0 then
      (some (.inr t9.2))
    else
      ((M_knownWord t9.2).bind fun q22 =>
      ((if q22 = 14 then
          (M_expression_J70 t9 q22)
        else
          (if q22 = 15 then
            (M_expression_J70 t9 q22)
          else
            ((M_isSign t9.2 60).bind fun q35 =>
            if q35 = 0 then
              ((M_isSign t9.2 61).bind fun q74 =>
              if q74 = 0 then
                (M_expression_J201 t9)
              else
                (M_expression_J142 t9))
            else
              (M_expression_J142 t9))) : Option (Int32 × MS))).bind fun r23 =>
      some (.inl (r23.1, r23.2))))
noncomputable def M_expression (σ : MS) (a0 : Int32) (a1 : Int32) : Option (MS) :=
  (M_isGood σ).bind fun q1 =>
  if q1 = 0 then
    (some σ)
  else
    ((pf σ 32 a0).bind fun s3 =>
    (pf s3 33 a1).bind fun s4 =>
    (pf s4 34 0).bind fun s5 =>
    (pf s5 35 0).bind fun s6 =>
    (M_deeper s6).bind fun q7 =>
    (M_operand q7 1).bind fun q8 =>
    (o_loop M_expression_L39 (1, q8)).bind fun r11 =>
    (M_isGood r11).bind fun q12 =>
    ((if q12 = 0 then
        (some r11)
      else
        (if (mf r11 35) ≤ 1 then
          (some r11)
        else
          ((M_wrong r11 1).bind fun q18 =>
          some q18)) : Option MS)).bind fun r13 =>
    (M_drops r13 0).bind fun q14 =>
    (M_puts q14 0).bind fun q15 =>
    some q15)
theorem nm_X4_expression : kNm yX4_expression RX4 2 := by unfold kNm; decide +kernel
set_option maxHeartbeats 4000000 in
set_option maxRecDepth 100000 in
theorem wM_expression (l : Launch) (G : va_G) (dT : Nat → ClassId) (o : Nat) (ad : Nat → Nat) (σ : MS) (a0 : Int32) (a1 : Int32) (z : MS) (h : M_expression σ a0 a1 = some z) : Met l yX4_expression (ws_ yX4_expression cX4_expression 5 none) (kRm 5 113) (mPc G dT o ad σ [.int a0, .int a1]) (va_Qv (fun (_ : Unit) => True) (fun _ t => MH G dT o ad z t.heap) (mAd o ad)) 0 0 (mAd o ad) := by
  refine m_startNv (cc := cX4_expression) rfl rfl rfl (fun p e R s m args below meth c Q ls X hR hM hS hl hend => ?_)
  have hx := X.1.1
  have hb := X.1.2.1
  have hit := h
  clear h
  unfold M_expression at hit
  have hl : lv_has ls 5 [(0, .ref o), (1, .int a0), (2, .int a1)] := hl
  refine lv_aload_n hx hb dX4_expression_0 rfl (lv_at hl 0 rfl) ?_
  obtain ⟨q1, eq1, hit⟩ := o_bind hit
  refine m_cR X hM (wM_isGood l G dT o ad _  _ eq1) nm_X4_isGood q1866 q1868 q141 q1869 qs61 ⟨Nat.le_trans (Nat.le_of_ble_eq_true rfl) hR.1, Nat.le_trans (Nat.le_of_ble_eq_true rfl) hR.2⟩ rfl rfl hl.1 (lv_room (Nat.le_of_ble_eq_true rfl)) dX4_expression_1 ?_
  refine b_if_ne (tgt := 8) hx hb dX4_expression_4 (by decide) hit (fun c2 hit => ?_) (fun c2 hit => ?_)
  · refine lv_aload_n hx hb dX4_expression_8 rfl (lv_at hl 0 rfl) ?_
    refine lv_iload_n hx hb dX4_expression_9 rfl (lv_at hl 1 rfl) ?_
    obtain ⟨s3, es3, hit⟩ := o_bind hit
    refine m_put X hM hS 32 q1676 rfl rfl (ty := .int) rfl rfl rfl es3 dX4_expression_10 (fun H locs hM hS => ?_)
    refine lv_aload_n hx hb dX4_expression_13 rfl (lv_at hl 0 rfl) ?_
    refine lv_iload_n hx hb dX4_expression_14 rfl (lv_at hl 2 rfl) ?_
    obtain ⟨s4, es4, hit⟩ := o_bind hit
    refine m_put X hM hS 33 q1677 rfl rfl (ty := .int) rfl rfl rfl es4 dX4_expression_15 (fun H locs hM hS => ?_)
    refine lv_aload_n hx hb dX4_expression_18 rfl (lv_at hl 0 rfl) ?_
    refine lv_iconst (v := 0) hx hb dX4_expression_19 (by decide) ?_
    obtain ⟨s5, es5, hit⟩ := o_bind hit
    refine m_put X hM hS 34 q1678 rfl rfl (ty := .int) rfl rfl rfl es5 dX4_expression_20 (fun H locs hM hS => ?_)
    refine lv_aload_n hx hb dX4_expression_23 rfl (lv_at hl 0 rfl) ?_
    refine lv_iconst (v := 0) hx hb dX4_expression_24 (by decide) ?_
    obtain ⟨s6, es6, hit⟩ := o_bind hit
    refine m_put X hM hS 35 q1679 rfl rfl (ty := .int) rfl rfl rfl es6 dX4_expression_25 (fun H locs hM hS => ?_)
    refine lv_aload_n hx hb dX4_expression_28 rfl (lv_at hl 0 rfl) ?_
    obtain ⟨q7, eq7, hit⟩ := o_bind hit
    refine m_cNv X hM hS (wM_deeper l G dT o ad _  _ eq7) nm_X4_deeper q1921 q1923 q141 q1924 qs73 ⟨Nat.le_trans (Nat.le_of_ble_eq_true rfl) hR.1, Nat.le_trans (Nat.le_of_ble_eq_true rfl) hR.2⟩ rfl rfl hl.1 (lv_room (Nat.le_of_ble_eq_true rfl)) dX4_expression_29 (fun H locs hM hS => ?_)
    refine lv_aload_n hx hb dX4_expression_32 rfl (lv_at hl 0 rfl) ?_
    refine lv_iconst (v := 1) hx hb dX4_expression_33 (by decide) ?_
    obtain ⟨q8, eq8, hit⟩ := o_bind hit
    refine m_cNv X hM hS (wM_operand l G dT o ad _ _ _ eq8) nm_X4_operand q1929 q1931 q141 q1932 qs75 ⟨Nat.le_trans (Nat.le_of_ble_eq_true rfl) hR.1, Nat.le_trans (Nat.le_of_ble_eq_true rfl) hR.2⟩ rfl rfl hl.1 (lv_room (Nat.le_of_ble_eq_true rfl)) dX4_expression_34 (fun H locs hM hS => ?_)
    refine lv_iconst (v := 1) hx hb dX4_expression_37 (by decide) ?_
    refine lv_istore_n (lv' := [(3, .int 1), (0, .ref o), (1, .int a0), (2, .int a1)]) hx hb dX4_expression_38 rfl hl (by decide) rfl (fun ls hl => ?_)
    obtain ⟨r11, er11, hit⟩ := o_bind hit
    have hr11 : ∀ (H : Heap) (locs : List Loc) (ls : Array Slot), MH G dT o ad r11 H → va_S (mAd o ad) s.heap H locs → lv_has ls 5 [(0, .ref o)] → W p l e R s m args below meth c H locs 0 0 Q (F0 m 340 ls []) := by
      intro H locs ls hM hS hl
      refine lv_aload_n hx hb dX4_expression_340 rfl (lv_at hl 0 rfl) ?_
      obtain ⟨q12, eq12, hit⟩ := o_bind hit
      refine m_cR X hM (wM_isGood l G dT o ad _  _ eq12) nm_X4_isGood q1866 q1868 q141 q1869 qs61 ⟨Nat.le_trans (Nat.le_of_ble_eq_true rfl) hR.1, Nat.le_trans (Nat.le_of_ble_eq_true rfl) hR.2⟩ rfl rfl hl.1 (lv_room (Nat.le_of_ble_eq_true rfl)) dX4_expression_341 ?_
      obtain ⟨r13, er13, hit⟩ := o_bind hit
      have hr13 : ∀ (H : Heap) (locs : List Loc) (ls : Array Slot), MH G dT o ad r13 H → va_S (mAd o ad) s.heap H locs → lv_has ls 5 [(0, .ref o)] → W p l e R s m args below meth c H locs 0 0 Q (F0 m 360 ls []) := by
        intro H locs ls hM hS hl
        refine lv_aload_n hx hb dX4_expression_360 rfl (lv_at hl 0 rfl) ?_
        refine lv_iconst (v := 0) hx hb dX4_expression_361 (by decide) ?_
        obtain ⟨q14, eq14, hit⟩ := o_bind hit
        refine m_cNv X hM hS (wM_drops l G dT o ad _ _ _ eq14) nm_X4_drops q1945 q1947 q141 q1948 qs79 ⟨Nat.le_trans (Nat.le_of_ble_eq_true rfl) hR.1, Nat.le_trans (Nat.le_of_ble_eq_true rfl) hR.2⟩ rfl rfl hl.1 (lv_room (Nat.le_of_ble_eq_true rfl)) dX4_expression_362 (fun H locs hM hS => ?_)
        refine lv_aload_n hx hb dX4_expression_365 rfl (lv_at hl 0 rfl) ?_
        refine lv_iconst (v := 0) hx hb dX4_expression_366 (by decide) ?_
        obtain ⟨q15, eq15, hit⟩ := o_bind hit
        refine m_cNv X hM hS (wM_puts l G dT o ad _ _ _ eq15) nm_X4_puts q1941 q1943 q141 q1944 qs78 ⟨Nat.le_trans (Nat.le_of_ble_eq_true rfl) hR.1, Nat.le_trans (Nat.le_of_ble_eq_true rfl) hR.2⟩ rfl rfl hl.1 (lv_room (Nat.le_of_ble_eq_true rfl)) dX4_expression_367 (fun H locs hM hS => ?_)
        have he := o_in hit
        exact hend _ _ _ _ _ he hM hS dX4_expression_370
      have hit := er13
      refine b_if_eq (tgt := 360) hx hb dX4_expression_344 (by decide) hit (fun c16 hit => ?_) (fun c16 hit => ?_)
      · have he := o_in hit
        subst he
        exact hr13 _ _ _ hM hS hl
      · refine lv_aload_n hx hb dX4_expression_347 rfl (lv_at hl 0 rfl) ?_
        refine m_get X hM 35 q1679 rfl rfl (v := .int (mf r11 35)) rfl dX4_expression_348 ?_
        refine lv_iconst (v := 1) hx hb dX4_expression_351 (by decide) ?_
        refine b_icmp_le (tgt := 360) hx hb dX4_expression_352 (by decide) hit (fun c17 hit => ?_) (fun c17 hit => ?_)
        · have he := o_in hit
          subst he
          exact hr13 _ _ _ hM hS hl
        · refine lv_aload_n hx hb dX4_expression_355 rfl (lv_at hl 0 rfl) ?_
          refine lv_iconst (v := 1) hx hb dX4_expression_356 (by decide) ?_
          obtain ⟨q18, eq18, hit⟩ := o_bind hit
          refine m_cNv X hM hS (wM_wrong l G dT o ad _ _ _ eq18) nm_X4_wrong q1889 q1891 q141 q1892 qs65 ⟨Nat.le_trans (Nat.le_of_ble_eq_true rfl) hR.1, Nat.le_trans (Nat.le_of_ble_eq_true rfl) hR.2⟩ rfl rfl hl.1 (lv_room (Nat.le_of_ble_eq_true rfl)) dX4_expression_357 (fun H locs hM hS => ?_)
          have he := o_in hit
          subst he
          exact hr13 _ _ _ hM hS hl
    refine o_rec (P := fun t9 => ∀ (H : Heap) (locs : List Loc) (ls : Array Slot), MH G dT o ad t9.2 H → va_S (mAd o ad) s.heap H locs → lv_has ls 5 [(0, .ref o), (3, .int t9.1)] → W p l e R s m args below meth c H locs 0 0 Q (F0 m 39 ls [])) (fun t9 x10 hit hC9 hE9 H locs ls hM hS hl => ?_) _ er11 _ _ _ hM hS (lv_sub hl [1, 0] rfl)
    unfold M_expression_L39 at hit
    refine lv_iload_n hx hb dX4_expression_39 rfl (lv_at hl 1 rfl) ?_
    refine b_if_eq (tgt := 340) hx hb dX4_expression_40 (by decide) hit (fun c19 hit => ?_) (fun c19 hit => ?_)
    · have he := o_in hit
      have he := hE9 _ he
      subst he
      exact hr11 _ _ _ hM hS (lv_sub hl [0] rfl)
    · refine lv_aload_n hx hb dX4_expression_43 rfl (lv_at hl 0 rfl) ?_
      obtain ⟨q20, eq20, hit⟩ := o_bind hit
      refine m_cR X hM (wM_isGood l G dT o ad _  _ eq20) nm_X4_isGood q1866 q1868 q141 q1869 qs61 ⟨Nat.le_trans (Nat.le_of_ble_eq_true rfl) hR.1, Nat.le_trans (Nat.le_of_ble_eq_true rfl) hR.2⟩ rfl rfl hl.1 (lv_room (Nat.le_of_ble_eq_true rfl)) dX4_expression_44 ?_
      refine b_if_eq (tgt := 340) hx hb dX4_expression_47 (by decide) hit (fun c21 hit => ?_) (fun c21 hit => ?_)
      · have he := o_in hit
        have he := hE9 _ he
        subst he
        exact hr11 _ _ _ hM hS (lv_sub hl [0] rfl)
      · refine lv_aload_n hx hb dX4_expression_50 rfl (lv_at hl 0 rfl) ?_
        obtain ⟨q22, eq22, hit⟩ := o_bind hit
        refine m_cR X hM (wM_knownWord l G dT o ad _  _ eq22) nm_X4_knownWord q1874 q1876 q141 q1877 qs63 ⟨Nat.le_trans (Nat.le_of_ble_eq_true rfl) hR.1, Nat.le_trans (Nat.le_of_ble_eq_true rfl) hR.2⟩ rfl rfl hl.1 (lv_room (Nat.le_of_ble_eq_true rfl)) dX4_expression_51 ?_
        refine lv_istore (lv' := [(4, .int q22), (0, .ref o), (3, .int t9.1)]) hx hb dX4_expression_54 hl (by decide) rfl (fun ls hl => ?_)
        refine lv_iload hx hb dX4_expression_56 (lv_at hl 0 rfl) ?_
        refine lv_bipush (v := 14) hx hb dX4_expression_58 (by decide) ?_
        obtain ⟨r23, er23, hit⟩ := o_bind hit
        have hr23 : ∀ (H : Heap) (locs : List Loc) (ls : Array Slot), MH G dT o ad r23.2 H → va_S (mAd o ad) s.heap H locs → lv_has ls 5 [(0, .ref o), (3, .int r23.1)] → W p l e R s m args below meth c H locs 0 0 Q (F0 m 337 ls []) := by
          intro H locs ls hM hS hl
          refine lv_goto (tgt := 39) hx hb dX4_expression_337 (by decide) ?_
          have he := o_in hit
          exact hC9 _ he _ _ _ hM hS hl
        have hit := er23
        have hK70 : M_expression_J70 t9 q22 = some r23 → ∀ (H : Heap) (locs : List Loc) (ls : Array Slot), MH G dT o ad t9.2 H → va_S (mAd o ad) s.heap H locs → lv_has ls 5 [(4, .int q22), (0, .ref o), (3, .int t9.1)] → W p l e R s m args below meth c H locs 0 0 Q (F0 m 70 ls []) := by
          intro  hit H locs ls hM hS hl
          unfold M_expression_J70 at hit
          refine lv_aload_n hx hb dX4_expression_70 rfl (lv_at hl 1 rfl) ?_
          refine lv_iload hx hb dX4_expression_71 (lv_at hl 0 rfl) ?_
          refine lv_bipush (v := 14) hx hb dX4_expression_73 (by decide) ?_
          obtain ⟨r24, er24, hit⟩ := o_bind hit
          have hr24 : ∀ (H : Heap) (locs : List Loc) (ls : Array Slot), MH G dT o ad t9.2 H → va_S (mAd o ad) s.heap H locs → lv_has ls 5 [(4, .int q22), (0, .ref o), (3, .int t9.1)] → W p l e R s m args below meth c H locs 0 0 Q (F0 m 83 ls [.int r24, .ref o]) := by
            intro H locs ls hM hS hl
            obtain ⟨q25, eq25, hit⟩ := o_bind hit
            refine m_cNv X hM hS (wM_drops l G dT o ad _ _ _ eq25) nm_X4_drops q1945 q1947 q141 q1948 qs79 ⟨Nat.le_trans (Nat.le_of_ble_eq_true rfl) hR.1, Nat.le_trans (Nat.le_of_ble_eq_true rfl) hR.2⟩ rfl rfl hl.1 (lv_room (Nat.le_of_ble_eq_true rfl)) dX4_expression_83 (fun H locs hM hS => ?_)
            refine lv_aload_n hx hb dX4_expression_86 rfl (lv_at hl 1 rfl) ?_
            refine lv_iload hx hb dX4_expression_87 (lv_at hl 0 rfl) ?_
            refine lv_bipush (v := 14) hx hb dX4_expression_89 (by decide) ?_
            obtain ⟨r26, er26, hit⟩ := o_bind hit
            have hr26 : ∀ (H : Heap) (locs : List Loc) (ls : Array Slot), MH G dT o ad q25 H → va_S (mAd o ad) s.heap H locs → lv_has ls 5 [(0, .ref o), (3, .int t9.1)] → W p l e R s m args below meth c H locs 0 0 Q (F0 m 99 ls [.int r26, .ref o]) := by
              intro H locs ls hM hS hl
              obtain ⟨q27, eq27, hit⟩ := o_bind hit
              refine m_cNv X hM hS (wM_waitsFor l G dT o ad _ _ _ eq27) nm_X4_waitsFor q1933 q1935 q141 q1936 qs76 ⟨Nat.le_trans (Nat.le_of_ble_eq_true rfl) hR.1, Nat.le_trans (Nat.le_of_ble_eq_true rfl) hR.2⟩ rfl rfl hl.1 (lv_room (Nat.le_of_ble_eq_true rfl)) dX4_expression_99 (fun H locs hM hS => ?_)
              refine lv_aload_n hx hb dX4_expression_102 rfl (lv_at hl 0 rfl) ?_
              refine m_get X hM 43 q1687 rfl rfl (v := .ref (ad 43)) rfl dX4_expression_103 ?_
              refine lv_aload_n hx hb dX4_expression_106 rfl (lv_at hl 0 rfl) ?_
              refine m_get X hM 35 q1679 rfl rfl (v := .int (mf q27 35)) rfl dX4_expression_107 ?_
              refine lv_iconst (v := 0) hx hb dX4_expression_110 (by decide) ?_
              obtain ⟨s28, es28, hit⟩ := o_bind hit
              refine m_zast X hM hS es28 dX4_expression_111 (fun H locs hM hS => ?_)
              refine lv_aload_n hx hb dX4_expression_112 rfl (lv_at hl 0 rfl) ?_
              obtain ⟨q29, eq29, hit⟩ := o_bind hit
              refine m_cNv X hM hS (wM_goes l G dT o ad _  _ eq29) nm_X4_goes q1852 q1854 q141 q1855 qs59 ⟨Nat.le_trans (Nat.le_of_ble_eq_true rfl) hR.1, Nat.le_trans (Nat.le_of_ble_eq_true rfl) hR.2⟩ rfl rfl hl.1 (lv_room (Nat.le_of_ble_eq_true rfl)) dX4_expression_113 (fun H locs hM hS => ?_)
              refine lv_aload_n hx hb dX4_expression_116 rfl (lv_at hl 0 rfl) ?_
              refine lv_iconst (v := 1) hx hb dX4_expression_117 (by decide) ?_
              obtain ⟨q30, eq30, hit⟩ := o_bind hit
              refine m_cNv X hM hS (wM_operand l G dT o ad _ _ _ eq30) nm_X4_operand q1929 q1931 q141 q1932 qs75 ⟨Nat.le_trans (Nat.le_of_ble_eq_true rfl) hR.1, Nat.le_trans (Nat.le_of_ble_eq_true rfl) hR.2⟩ rfl rfl hl.1 (lv_room (Nat.le_of_ble_eq_true rfl)) dX4_expression_118 (fun H locs hM hS => ?_)
              refine lv_goto (tgt := 337) hx hb dX4_expression_121 (by decide) ?_
              have he := o_in hit
              subst he
              exact hr23 _ _ _ hM hS hl
            have hit := er26
            refine b_icmp_ne (tgt := 98) hx hb dX4_expression_91 (by decide) hit (fun c31 hit => ?_) (fun c31 hit => ?_)
            · refine lv_iconst (v := 5) hx hb dX4_expression_98 (by decide) ?_
              have he := o_in hit
              subst he
              exact hr26 _ _ _ hM hS (lv_sub hl [1, 2] rfl)
            · refine lv_iconst (v := 4) hx hb dX4_expression_94 (by decide) ?_
              refine lv_goto (tgt := 99) hx hb dX4_expression_95 (by decide) ?_
              have he := o_in hit
              subst he
              exact hr26 _ _ _ hM hS (lv_sub hl [1, 2] rfl)
          have hit := er24
          refine b_icmp_ne (tgt := 82) hx hb dX4_expression_75 (by decide) hit (fun c32 hit => ?_) (fun c32 hit => ?_)
          · refine lv_iconst (v := 1) hx hb dX4_expression_82 (by decide) ?_
            have he := o_in hit
            subst he
            exact hr24 _ _ _ hM hS hl
          · refine lv_iconst (v := 2) hx hb dX4_expression_78 (by decide) ?_
            refine lv_goto (tgt := 83) hx hb dX4_expression_79 (by decide) ?_
            have he := o_in hit
            subst he
            exact hr24 _ _ _ hM hS hl
        refine b_icmp_eq (tgt := 70) hx hb dX4_expression_60 (by decide) hit (fun c33 hit => ?_) (fun c33 hit => ?_)
        · exact hK70  hit _ _ _ hM hS hl
        · refine lv_iload hx hb dX4_expression_63 (lv_at hl 0 rfl) ?_
          refine lv_bipush (v := 15) hx hb dX4_expression_65 (by decide) ?_
          refine b_icmp_ne (tgt := 124) hx hb dX4_expression_67 (by decide) hit (fun c34 hit => ?_) (fun c34 hit => ?_)
          · refine lv_aload_n hx hb dX4_expression_124 rfl (lv_at hl 1 rfl) ?_
            refine lv_bipush (v := 60) hx hb dX4_expression_125 (by decide) ?_
            obtain ⟨q35, eq35, hit⟩ := o_bind hit
            refine m_cR X hM (wM_isSign l G dT o ad _ _ _ eq35) nm_X4_isSign q1925 q1927 q141 q1928 qs74 ⟨Nat.le_trans (Nat.le_of_ble_eq_true rfl) hR.1, Nat.le_trans (Nat.le_of_ble_eq_true rfl) hR.2⟩ rfl rfl hl.1 (lv_room (Nat.le_of_ble_eq_true rfl)) dX4_expression_127 ?_
            have hK201 : M_expression_J201 t9 = some r23 → ∀ (H : Heap) (locs : List Loc) (ls : Array Slot), MH G dT o ad t9.2 H → va_S (mAd o ad) s.heap H locs → lv_has ls 5 [(0, .ref o), (3, .int t9.1)] → W p l e R s m args below meth c H locs 0 0 Q (F0 m 201 ls []) := by
              intro  hit H locs ls hM hS hl
              unfold M_expression_J201 at hit
              refine lv_aload_n hx hb dX4_expression_201 rfl (lv_at hl 0 rfl) ?_
              refine lv_bipush (v := 43) hx hb dX4_expression_202 (by decide) ?_
              obtain ⟨q36, eq36, hit⟩ := o_bind hit
              refine m_cR X hM (wM_isSign l G dT o ad _ _ _ eq36) nm_X4_isSign q1925 q1927 q141 q1928 qs74 ⟨Nat.le_trans (Nat.le_of_ble_eq_true rfl) hR.1, Nat.le_trans (Nat.le_of_ble_eq_true rfl) hR.2⟩ rfl rfl hl.1 (lv_room (Nat.le_of_ble_eq_true rfl)) dX4_expression_204 ?_
              have hK219 : M_expression_J219 t9 = some r23 → ∀ (H : Heap) (locs : List Loc) (ls : Array Slot), MH G dT o ad t9.2 H → va_S (mAd o ad) s.heap H locs → lv_has ls 5 [(0, .ref o), (3, .int t9.1)] → W p l e R s m args below meth c H locs 0 0 Q (F0 m 219 ls []) := by
                intro  hit H locs ls hM hS hl
                unfold M_expression_J219 at hit
                refine lv_aload_n hx hb dX4_expression_219 rfl (lv_at hl 0 rfl) ?_
                refine lv_iconst (v := 5) hx hb dX4_expression_220 (by decide) ?_
                obtain ⟨q37, eq37, hit⟩ := o_bind hit
                refine m_cNv X hM hS (wM_drops l G dT o ad _ _ _ eq37) nm_X4_drops q1945 q1947 q141 q1948 qs79 ⟨Nat.le_trans (Nat.le_of_ble_eq_true rfl) hR.1, Nat.le_trans (Nat.le_of_ble_eq_true rfl) hR.2⟩ rfl rfl hl.1 (lv_room (Nat.le_of_ble_eq_true rfl)) dX4_expression_221 (fun H locs hM hS => ?_)
                refine lv_aload_n hx hb dX4_expression_224 rfl (lv_at hl 0 rfl) ?_
                refine lv_aload_n hx hb dX4_expression_225 rfl (lv_at hl 0 rfl) ?_
                refine lv_bipush (v := 43) hx hb dX4_expression_226 (by decide) ?_
                obtain ⟨q38, eq38, hit⟩ := o_bind hit
                refine m_cR X hM (wM_isSign l G dT o ad _ _ _ eq38) nm_X4_isSign q1925 q1927 q141 q1928 qs74 ⟨Nat.le_trans (Nat.le_of_ble_eq_true rfl) hR.1, Nat.le_trans (Nat.le_of_ble_eq_true rfl) hR.2⟩ rfl rfl hl.1 (lv_room (Nat.le_of_ble_eq_true rfl)) dX4_expression_228 ?_
                obtain ⟨r39, er39, hit⟩ := o_bind hit
                have hr39 : ∀ (H : Heap) (locs : List Loc) (ls : Array Slot), MH G dT o ad q37 H → va_S (mAd o ad) s.heap H locs → lv_has ls 5 [(0, .ref o), (3, .int t9.1)] → W p l e R s m args below meth c H locs 0 0 Q (F0 m 241 ls [.int r39, .ref o]) := by
                  intro H locs ls hM hS hl
                  obtain ⟨q40, eq40, hit⟩ := o_bind hit
                  refine m_cNv X hM hS (wM_waitsFor l G dT o ad _ _ _ eq40) nm_X4_waitsFor q1933 q1935 q141 q1936 qs76 ⟨Nat.le_trans (Nat.le_of_ble_eq_true rfl) hR.1, Nat.le_trans (Nat.le_of_ble_eq_true rfl) hR.2⟩ rfl rfl hl.1 (lv_room (Nat.le_of_ble_eq_true rfl)) dX4_expression_241 (fun H locs hM hS => ?_)
                  refine lv_aload_n hx hb dX4_expression_244 rfl (lv_at hl 0 rfl) ?_
                  obtain ⟨q41, eq41, hit⟩ := o_bind hit
                  refine m_cNv X hM hS (wM_goes l G dT o ad _  _ eq41) nm_X4_goes q1852 q1854 q141 q1855 qs59 ⟨Nat.le_trans (Nat.le_of_ble_eq_true rfl) hR.1, Nat.le_trans (Nat.le_of_ble_eq_true rfl) hR.2⟩ rfl rfl hl.1 (lv_room (Nat.le_of_ble_eq_true rfl)) dX4_expression_245 (fun H locs hM hS => ?_)
                  refine lv_aload_n hx hb dX4_expression_248 rfl (lv_at hl 0 rfl) ?_
                  refine lv_iconst (v := 0) hx hb dX4_expression_249 (by decide) ?_
                  obtain ⟨q42, eq42, hit⟩ := o_bind hit
                  refine m_cNv X hM hS (wM_operand l G dT o ad _ _ _ eq42) nm_X4_operand q1929 q1931 q141 q1932 qs75 ⟨Nat.le_trans (Nat.le_of_ble_eq_true rfl) hR.1, Nat.le_trans (Nat.le_of_ble_eq_true rfl) hR.2⟩ rfl rfl hl.1 (lv_room (Nat.le_of_ble_eq_true rfl)) dX4_expression_250 (fun H locs hM hS => ?_)
                  refine lv_goto (tgt := 337) hx hb dX4_expression_253 (by decide) ?_
                  have he := o_in hit
                  subst he
                  exact hr23 _ _ _ hM hS hl
                have hit := er39
                refine b_if_eq (tgt := 239) hx hb dX4_expression_231 (by decide) hit (fun c43 hit => ?_) (fun c43 hit => ?_)
                · refine lv_bipush (v := 9) hx hb dX4_expression_239 (by decide) ?_
                  have he := o_in hit
                  subst he
                  exact hr39 _ _ _ hM hS hl
                · refine lv_bipush (v := 8) hx hb dX4_expression_234 (by decide) ?_
                  refine lv_goto (tgt := 241) hx hb dX4_expression_236 (by decide) ?_
                  have he := o_in hit
                  subst he
                  exact hr39 _ _ _ hM hS hl
              refine b_if_ne (tgt := 219) hx hb dX4_expression_207 (by decide) hit (fun c44 hit => ?_) (fun c44 hit => ?_)
              · exact hK219  hit _ _ _ hM hS hl
              · refine lv_aload_n hx hb dX4_expression_210 rfl (lv_at hl 0 rfl) ?_
                refine lv_bipush (v := 45) hx hb dX4_expression_211 (by decide) ?_
                obtain ⟨q45, eq45, hit⟩ := o_bind hit
                refine m_cR X hM (wM_isSign l G dT o ad _ _ _ eq45) nm_X4_isSign q1925 q1927 q141 q1928 qs74 ⟨Nat.le_trans (Nat.le_of_ble_eq_true rfl) hR.1, Nat.le_trans (Nat.le_of_ble_eq_true rfl) hR.2⟩ rfl rfl hl.1 (lv_room (Nat.le_of_ble_eq_true rfl)) dX4_expression_213 ?_
                refine b_if_eq (tgt := 256) hx hb dX4_expression_216 (by decide) hit (fun c46 hit => ?_) (fun c46 hit => ?_)
                · refine lv_aload_n hx hb dX4_expression_256 rfl (lv_at hl 0 rfl) ?_
                  refine lv_bipush (v := 42) hx hb dX4_expression_257 (by decide) ?_
                  obtain ⟨q47, eq47, hit⟩ := o_bind hit
                  refine m_cR X hM (wM_isSign l G dT o ad _ _ _ eq47) nm_X4_isSign q1925 q1927 q141 q1928 qs74 ⟨Nat.le_trans (Nat.le_of_ble_eq_true rfl) hR.1, Nat.le_trans (Nat.le_of_ble_eq_true rfl) hR.2⟩ rfl rfl hl.1 (lv_room (Nat.le_of_ble_eq_true rfl)) dX4_expression_259 ?_
                  have hK274 : M_expression_J274 t9 = some r23 → ∀ (H : Heap) (locs : List Loc) (ls : Array Slot), MH G dT o ad t9.2 H → va_S (mAd o ad) s.heap H locs → lv_has ls 5 [(0, .ref o), (3, .int t9.1)] → W p l e R s m args below meth c H locs 0 0 Q (F0 m 274 ls []) := by
                    intro  hit H locs ls hM hS hl
                    unfold M_expression_J274 at hit
                    refine lv_aload_n hx hb dX4_expression_274 rfl (lv_at hl 0 rfl) ?_
                    refine lv_bipush (v := 6) hx hb dX4_expression_275 (by decide) ?_
                    obtain ⟨q48, eq48, hit⟩ := o_bind hit
                    refine m_cNv X hM hS (wM_drops l G dT o ad _ _ _ eq48) nm_X4_drops q1945 q1947 q141 q1948 qs79 ⟨Nat.le_trans (Nat.le_of_ble_eq_true rfl) hR.1, Nat.le_trans (Nat.le_of_ble_eq_true rfl) hR.2⟩ rfl rfl hl.1 (lv_room (Nat.le_of_ble_eq_true rfl)) dX4_expression_277 (fun H locs hM hS => ?_)
                    refine lv_aload_n hx hb dX4_expression_280 rfl (lv_at hl 0 rfl) ?_
                    refine lv_aload_n hx hb dX4_expression_281 rfl (lv_at hl 0 rfl) ?_
                    refine lv_bipush (v := 42) hx hb dX4_expression_282 (by decide) ?_
                    obtain ⟨q49, eq49, hit⟩ := o_bind hit
                    refine m_cR X hM (wM_isSign l G dT o ad _ _ _ eq49) nm_X4_isSign q1925 q1927 q141 q1928 qs74 ⟨Nat.le_trans (Nat.le_of_ble_eq_true rfl) hR.1, Nat.le_trans (Nat.le_of_ble_eq_true rfl) hR.2⟩ rfl rfl hl.1 (lv_room (Nat.le_of_ble_eq_true rfl)) dX4_expression_284 ?_
                    obtain ⟨r50, er50, hit⟩ := o_bind hit
                    have hr50 : ∀ (H : Heap) (locs : List Loc) (ls : Array Slot), MH G dT o ad q48 H → va_S (mAd o ad) s.heap H locs → lv_has ls 5 [(0, .ref o), (3, .int t9.1)] → W p l e R s m args below meth c H locs 0 0 Q (F0 m 297 ls [.int r50, .ref o]) := by
                      intro H locs ls hM hS hl
                      obtain ⟨q51, eq51, hit⟩ := o_bind hit
                      refine m_cNv X hM hS (wM_waitsFor l G dT o ad _ _ _ eq51) nm_X4_waitsFor q1933 q1935 q141 q1936 qs76 ⟨Nat.le_trans (Nat.le_of_ble_eq_true rfl) hR.1, Nat.le_trans (Nat.le_of_ble_eq_true rfl) hR.2⟩ rfl rfl hl.1 (lv_room (Nat.le_of_ble_eq_true rfl)) dX4_expression_297 (fun H locs hM hS => ?_)
                      refine lv_aload_n hx hb dX4_expression_300 rfl (lv_at hl 0 rfl) ?_
                      obtain ⟨q52, eq52, hit⟩ := o_bind hit
                      refine m_cNv X hM hS (wM_goes l G dT o ad _  _ eq52) nm_X4_goes q1852 q1854 q141 q1855 qs59 ⟨Nat.le_trans (Nat.le_of_ble_eq_true rfl) hR.1, Nat.le_trans (Nat.le_of_ble_eq_true rfl) hR.2⟩ rfl rfl hl.1 (lv_room (Nat.le_of_ble_eq_true rfl)) dX4_expression_301 (fun H locs hM hS => ?_)
                      refine lv_aload_n hx hb dX4_expression_304 rfl (lv_at hl 0 rfl) ?_
                      refine lv_iconst (v := 0) hx hb dX4_expression_305 (by decide) ?_
                      obtain ⟨q53, eq53, hit⟩ := o_bind hit
                      refine m_cNv X hM hS (wM_operand l G dT o ad _ _ _ eq53) nm_X4_operand q1929 q1931 q141 q1932 qs75 ⟨Nat.le_trans (Nat.le_of_ble_eq_true rfl) hR.1, Nat.le_trans (Nat.le_of_ble_eq_true rfl) hR.2⟩ rfl rfl hl.1 (lv_room (Nat.le_of_ble_eq_true rfl)) dX4_expression_306 (fun H locs hM hS => ?_)
                      refine lv_goto (tgt := 337) hx hb dX4_expression_309 (by decide) ?_
                      have he := o_in hit
                      subst he
                      exact hr23 _ _ _ hM hS hl
                    have hit := er50
                    refine b_if_eq (tgt := 295) hx hb dX4_expression_287 (by decide) hit (fun c54 hit => ?_) (fun c54 hit => ?_)
                    · refine lv_bipush (v := 11) hx hb dX4_expression_295 (by decide) ?_
                      have he := o_in hit
                      subst he
                      exact hr50 _ _ _ hM hS hl
                    · refine lv_bipush (v := 10) hx hb dX4_expression_290 (by decide) ?_
                      refine lv_goto (tgt := 297) hx hb dX4_expression_292 (by decide) ?_
                      have he := o_in hit
                      subst he
                      exact hr50 _ _ _ hM hS hl
                  refine b_if_ne (tgt := 274) hx hb dX4_expression_262 (by decide) hit (fun c55 hit => ?_) (fun c55 hit => ?_)
                  · exact hK274  hit _ _ _ hM hS hl
                  · refine lv_aload_n hx hb dX4_expression_265 rfl (lv_at hl 0 rfl) ?_
                    refine lv_bipush (v := 47) hx hb dX4_expression_266 (by decide) ?_
                    obtain ⟨q56, eq56, hit⟩ := o_bind hit
                    refine m_cR X hM (wM_isSign l G dT o ad _ _ _ eq56) nm_X4_isSign q1925 q1927 q141 q1928 qs74 ⟨Nat.le_trans (Nat.le_of_ble_eq_true rfl) hR.1, Nat.le_trans (Nat.le_of_ble_eq_true rfl) hR.2⟩ rfl rfl hl.1 (lv_room (Nat.le_of_ble_eq_true rfl)) dX4_expression_268 ?_
                    refine b_if_eq (tgt := 312) hx hb dX4_expression_271 (by decide) hit (fun c57 hit => ?_) (fun c57 hit => ?_)
                    · refine lv_aload_n hx hb dX4_expression_312 rfl (lv_at hl 0 rfl) ?_
                      refine lv_bipush (v := 41) hx hb dX4_expression_313 (by decide) ?_
                      obtain ⟨q58, eq58, hit⟩ := o_bind hit
                      refine m_cR X hM (wM_isSign l G dT o ad _ _ _ eq58) nm_X4_isSign q1925 q1927 q141 q1928 qs74 ⟨Nat.le_trans (Nat.le_of_ble_eq_true rfl) hR.1, Nat.le_trans (Nat.le_of_ble_eq_true rfl) hR.2⟩ rfl rfl hl.1 (lv_room (Nat.le_of_ble_eq_true rfl)) dX4_expression_315 ?_
                      refine b_if_eq (tgt := 335) hx hb dX4_expression_318 (by decide) hit (fun c59 hit => ?_) (fun c59 hit => ?_)
                      · refine lv_iconst (v := 0) hx hb dX4_expression_335 (by decide) ?_
                        refine lv_istore_n (lv' := [(3, .int 0), (0, .ref o)]) hx hb dX4_expression_336 rfl hl (by decide) rfl (fun ls hl => ?_)
                        have he := o_in hit
                        subst he
                        exact hr23 _ _ _ hM hS (lv_sub hl [1, 0] rfl)
                      · refine lv_aload_n hx hb dX4_expression_321 rfl (lv_at hl 0 rfl) ?_
                        obtain ⟨q60, eq60, hit⟩ := o_bind hit
                        refine m_cR X hM (wM_isOpened l G dT o ad _  _ eq60) nm_X4_isOpened q1955 q1957 q141 q1958 qs80 ⟨Nat.le_trans (Nat.le_of_ble_eq_true rfl) hR.1, Nat.le_trans (Nat.le_of_ble_eq_true rfl) hR.2⟩ rfl rfl hl.1 (lv_room (Nat.le_of_ble_eq_true rfl)) dX4_expression_322 ?_
                        refine b_if_eq (tgt := 335) hx hb dX4_expression_325 (by decide) hit (fun c61 hit => ?_) (fun c61 hit => ?_)
                        · refine lv_iconst (v := 0) hx hb dX4_expression_335 (by decide) ?_
                          refine lv_istore_n (lv' := [(3, .int 0), (0, .ref o)]) hx hb dX4_expression_336 rfl hl (by decide) rfl (fun ls hl => ?_)
                          have he := o_in hit
                          subst he
                          exact hr23 _ _ _ hM hS (lv_sub hl [1, 0] rfl)
                        · refine lv_aload_n hx hb dX4_expression_328 rfl (lv_at hl 0 rfl) ?_
                          obtain ⟨q62, eq62, hit⟩ := o_bind hit
                          refine m_cNv X hM hS (wM_closes l G dT o ad _  _ eq62) nm_X4_closes q1959 q1961 q141 q1962 qs81 ⟨Nat.le_trans (Nat.le_of_ble_eq_true rfl) hR.1, Nat.le_trans (Nat.le_of_ble_eq_true rfl) hR.2⟩ rfl rfl hl.1 (lv_room (Nat.le_of_ble_eq_true rfl)) dX4_expression_329 (fun H locs hM hS => ?_)
                          refine lv_goto (tgt := 337) hx hb dX4_expression_332 (by decide) ?_
                          have he := o_in hit
                          subst he
                          exact hr23 _ _ _ hM hS hl
                    · exact hK274  hit _ _ _ hM hS hl
                · exact hK219  hit _ _ _ hM hS hl
            have hK142 : M_expression_J142 t9 = some r23 → ∀ (H : Heap) (locs : List Loc) (ls : Array Slot), MH G dT o ad t9.2 H → va_S (mAd o ad) s.heap H locs → lv_has ls 5 [(0, .ref o), (3, .int t9.1)] → W p l e R s m args below meth c H locs 0 0 Q (F0 m 142 ls []) := by
              intro  hit H locs ls hM hS hl
              unfold M_expression_J142 at hit
              refine lv_aload_n hx hb dX4_expression_142 rfl (lv_at hl 0 rfl) ?_
              refine m_get X hM 43 q1687 rfl rfl (v := .ref (ad 43)) rfl dX4_expression_143 ?_
              refine lv_aload_n hx hb dX4_expression_146 rfl (lv_at hl 0 rfl) ?_
              refine m_get X hM 35 q1679 rfl rfl (v := .int (mf t9.2 35)) rfl dX4_expression_147 ?_
              obtain ⟨v63, ev63, hit⟩ := o_bind hit
              refine m_zald X hM ev63 dX4_expression_150 ?_
              refine b_if_ne (tgt := 201) hx hb dX4_expression_151 (by decide) hit (fun c64 hit => ?_) (fun c64 hit => ?_)
              · exact hK201  hit _ _ _ hM hS hl
              · refine lv_aload_n hx hb dX4_expression_154 rfl (lv_at hl 0 rfl) ?_
                refine lv_iconst (v := 4) hx hb dX4_expression_155 (by decide) ?_
                obtain ⟨q65, eq65, hit⟩ := o_bind hit
                refine m_cNv X hM hS (wM_drops l G dT o ad _ _ _ eq65) nm_X4_drops q1945 q1947 q141 q1948 qs79 ⟨Nat.le_trans (Nat.le_of_ble_eq_true rfl) hR.1, Nat.le_trans (Nat.le_of_ble_eq_true rfl) hR.2⟩ rfl rfl hl.1 (lv_room (Nat.le_of_ble_eq_true rfl)) dX4_expression_156 (fun H locs hM hS => ?_)
                refine lv_aload_n hx hb dX4_expression_159 rfl (lv_at hl 0 rfl) ?_
                refine lv_aload_n hx hb dX4_expression_160 rfl (lv_at hl 0 rfl) ?_
                refine lv_bipush (v := 60) hx hb dX4_expression_161 (by decide) ?_
                obtain ⟨q66, eq66, hit⟩ := o_bind hit
                refine m_cR X hM (wM_isSign l G dT o ad _ _ _ eq66) nm_X4_isSign q1925 q1927 q141 q1928 qs74 ⟨Nat.le_trans (Nat.le_of_ble_eq_true rfl) hR.1, Nat.le_trans (Nat.le_of_ble_eq_true rfl) hR.2⟩ rfl rfl hl.1 (lv_room (Nat.le_of_ble_eq_true rfl)) dX4_expression_163 ?_
                obtain ⟨r67, er67, hit⟩ := o_bind hit
                have hr67 : ∀ (H : Heap) (locs : List Loc) (ls : Array Slot), MH G dT o ad q65 H → va_S (mAd o ad) s.heap H locs → lv_has ls 5 [(0, .ref o), (3, .int t9.1)] → W p l e R s m args below meth c H locs 0 0 Q (F0 m 176 ls [.int r67, .ref o]) := by
                  intro H locs ls hM hS hl
                  obtain ⟨q68, eq68, hit⟩ := o_bind hit
                  refine m_cNv X hM hS (wM_waitsFor l G dT o ad _ _ _ eq68) nm_X4_waitsFor q1933 q1935 q141 q1936 qs76 ⟨Nat.le_trans (Nat.le_of_ble_eq_true rfl) hR.1, Nat.le_trans (Nat.le_of_ble_eq_true rfl) hR.2⟩ rfl rfl hl.1 (lv_room (Nat.le_of_ble_eq_true rfl)) dX4_expression_176 (fun H locs hM hS => ?_)
                  refine lv_aload_n hx hb dX4_expression_179 rfl (lv_at hl 0 rfl) ?_
                  refine m_get X hM 43 q1687 rfl rfl (v := .ref (ad 43)) rfl dX4_expression_180 ?_
                  refine lv_aload_n hx hb dX4_expression_183 rfl (lv_at hl 0 rfl) ?_
                  refine m_get X hM 35 q1679 rfl rfl (v := .int (mf q68 35)) rfl dX4_expression_184 ?_
                  refine lv_iconst (v := 1) hx hb dX4_expression_187 (by decide) ?_
                  obtain ⟨s69, es69, hit⟩ := o_bind hit
                  refine m_zast X hM hS es69 dX4_expression_188 (fun H locs hM hS => ?_)
                  refine lv_aload_n hx hb dX4_expression_189 rfl (lv_at hl 0 rfl) ?_
                  obtain ⟨q70, eq70, hit⟩ := o_bind hit
                  refine m_cNv X hM hS (wM_goes l G dT o ad _  _ eq70) nm_X4_goes q1852 q1854 q141 q1855 qs59 ⟨Nat.le_trans (Nat.le_of_ble_eq_true rfl) hR.1, Nat.le_trans (Nat.le_of_ble_eq_true rfl) hR.2⟩ rfl rfl hl.1 (lv_room (Nat.le_of_ble_eq_true rfl)) dX4_expression_190 (fun H locs hM hS => ?_)
                  refine lv_aload_n hx hb dX4_expression_193 rfl (lv_at hl 0 rfl) ?_
                  refine lv_iconst (v := 0) hx hb dX4_expression_194 (by decide) ?_
                  obtain ⟨q71, eq71, hit⟩ := o_bind hit
                  refine m_cNv X hM hS (wM_operand l G dT o ad _ _ _ eq71) nm_X4_operand q1929 q1931 q141 q1932 qs75 ⟨Nat.le_trans (Nat.le_of_ble_eq_true rfl) hR.1, Nat.le_trans (Nat.le_of_ble_eq_true rfl) hR.2⟩ rfl rfl hl.1 (lv_room (Nat.le_of_ble_eq_true rfl)) dX4_expression_195 (fun H locs hM hS => ?_)
                  refine lv_goto (tgt := 337) hx hb dX4_expression_198 (by decide) ?_
                  have he := o_in hit
                  subst he
                  exact hr23 _ _ _ hM hS hl
                have hit := er67
                refine b_if_eq (tgt := 174) hx hb dX4_expression_166 (by decide) hit (fun c72 hit => ?_) (fun c72 hit => ?_)
                · refine lv_bipush (v := 7) hx hb dX4_expression_174 (by decide) ?_
                  have he := o_in hit
                  subst he
                  exact hr67 _ _ _ hM hS hl
                · refine lv_bipush (v := 6) hx hb dX4_expression_169 (by decide) ?_
                  refine lv_goto (tgt := 176) hx hb dX4_expression_171 (by decide) ?_
                  have he := o_in hit
                  subst he
                  exact hr67 _ _ _ hM hS hl
            refine b_if_ne (tgt := 142) hx hb dX4_expression_130 (by decide) hit (fun c73 hit => ?_) (fun c73 hit => ?_)
            · exact hK142  hit _ _ _ hM hS (lv_sub hl [1, 2] rfl)
            · refine lv_aload_n hx hb dX4_expression_133 rfl (lv_at hl 1 rfl) ?_
              refine lv_bipush (v := 61) hx hb dX4_expression_134 (by decide) ?_
              obtain ⟨q74, eq74, hit⟩ := o_bind hit
              refine m_cR X hM (wM_isSign l G dT o ad _ _ _ eq74) nm_X4_isSign q1925 q1927 q141 q1928 qs74 ⟨Nat.le_trans (Nat.le_of_ble_eq_true rfl) hR.1, Nat.le_trans (Nat.le_of_ble_eq_true rfl) hR.2⟩ rfl rfl hl.1 (lv_room (Nat.le_of_ble_eq_true rfl)) dX4_expression_136 ?_
              refine b_if_eq (tgt := 201) hx hb dX4_expression_139 (by decide) hit (fun c75 hit => ?_) (fun c75 hit => ?_)
              · exact hK201  hit _ _ _ hM hS (lv_sub hl [1, 2] rfl)
              · exact hK142  hit _ _ _ hM hS (lv_sub hl [1, 2] rfl)
          · exact hK70  hit _ _ _ hM hS hl
  · have he := o_in hit
    exact hend _ _ _ _ _ he hM hS dX4_expression_7
noncomputable def M_begins (σ : MS) (a0 : Int32) (a1 : Int32) : Option (Int32 × MS) :=
  ((if a0 = 0 then
      (some σ)
    else
      ((M_wrong σ 2).bind fun q9 =>
      some q9) : Option MS)).bind fun r1 =>
  ((if a1 = 0 then
      (some r1)
    else
      ((M_wrong r1 5).bind fun q7 =>
      some q7) : Option MS)).bind fun r2 =>
  (M_isGood r2).bind fun q3 =>
  if q3 = 0 then
    (some (0, r2))
  else
    ((M_goes r2).bind fun q5 =>
    some (1, q5))
theorem nm_X4_begins : kNm yX4_begins RX4 2 := by unfold kNm; decide +kernel
set_option maxHeartbeats 4000000 in
set_option maxRecDepth 100000 in
theorem wM_begins (l : Launch) (G : va_G) (dT : Nat → ClassId) (o : Nat) (ad : Nat → Nat) (σ : MS) (a0 : Int32) (a1 : Int32) (z : Int32 × MS) (h : M_begins σ a0 a1 = some z) : Met l yX4_begins (ws_ yX4_begins cX4_begins 3 (some .boolean)) (kRm 2 42) (mPc G dT o ad σ [.int a0, .int a1]) (va_Qi (fun r (_ : Unit) => r = z.1) (fun _ t => MH G dT o ad z.2 t.heap) (mAd o ad)) 0 0 (mAd o ad) := by
  refine m_startNi (cc := cX4_begins) (ty := .boolean) rfl rfl rfl (fun p e R s m args below meth c Q ls X hR hM hS hl hend => ?_)
  have hx := X.1.1
  have hb := X.1.2.1
  have hit := h
  clear h
  unfold M_begins at hit
  have hl : lv_has ls 3 [(0, .ref o), (1, .int a0), (2, .int a1)] := hl
  refine lv_iload_n hx hb dX4_begins_0 rfl (lv_at hl 1 rfl) ?_
  obtain ⟨r1, er1, hit⟩ := o_bind hit
  have hr1 : ∀ (H : Heap) (locs : List Loc) (ls : Array Slot), MH G dT o ad r1 H → va_S (mAd o ad) s.heap H locs → lv_has ls 3 [(0, .ref o), (2, .int a1)] → W p l e R s m args below meth c H locs 0 0 Q (F0 m 9 ls []) := by
    intro H locs ls hM hS hl
    refine lv_iload_n hx hb dX4_begins_9 rfl (lv_at hl 1 rfl) ?_
    obtain ⟨r2, er2, hit⟩ := o_bind hit
    have hr2 : ∀ (H : Heap) (locs : List Loc) (ls : Array Slot), MH G dT o ad r2 H → va_S (mAd o ad) s.heap H locs → lv_has ls 3 [(0, .ref o)] → W p l e R s m args below meth c H locs 0 0 Q (F0 m 18 ls []) := by
      intro H locs ls hM hS hl
      refine lv_aload_n hx hb dX4_begins_18 rfl (lv_at hl 0 rfl) ?_
      obtain ⟨q3, eq3, hit⟩ := o_bind hit
      refine m_cR X hM (wM_isGood l G dT o ad _  _ eq3) nm_X4_isGood q1866 q1868 q141 q1869 qs61 ⟨Nat.le_trans (Nat.le_of_ble_eq_true rfl) hR.1, Nat.le_trans (Nat.le_of_ble_eq_true rfl) hR.2⟩ rfl rfl hl.1 (lv_room (Nat.le_of_ble_eq_true rfl)) dX4_begins_19 ?_
      refine b_if_ne (tgt := 27) hx hb dX4_begins_22 (by decide) hit (fun c4 hit => ?_) (fun c4 hit => ?_)
      · refine lv_aload_n hx hb dX4_begins_27 rfl (lv_at hl 0 rfl) ?_
        obtain ⟨q5, eq5, hit⟩ := o_bind hit
        refine m_cNv X hM hS (wM_goes l G dT o ad _  _ eq5) nm_X4_goes q1852 q1854 q141 q1855 qs59 ⟨Nat.le_trans (Nat.le_of_ble_eq_true rfl) hR.1, Nat.le_trans (Nat.le_of_ble_eq_true rfl) hR.2⟩ rfl rfl hl.1 (lv_room (Nat.le_of_ble_eq_true rfl)) dX4_begins_28 (fun H locs hM hS => ?_)
        refine lv_iconst (v := 1) hx hb dX4_begins_31 (by decide) ?_
        have he := o_in hit
        exact hend _ 1 _ _ _ _ _ rfl he hM hS dX4_begins_32
      · refine lv_iconst (v := 0) hx hb dX4_begins_25 (by decide) ?_
        have he := o_in hit
        exact hend _ 0 _ _ _ _ _ rfl he hM hS dX4_begins_26
    have hit := er2
    refine b_if_eq (tgt := 18) hx hb dX4_begins_10 (by decide) hit (fun c6 hit => ?_) (fun c6 hit => ?_)
    · have he := o_in hit
      subst he
      exact hr2 _ _ _ hM hS (lv_sub hl [0] rfl)
    · refine lv_aload_n hx hb dX4_begins_13 rfl (lv_at hl 0 rfl) ?_
      refine lv_iconst (v := 5) hx hb dX4_begins_14 (by decide) ?_
      obtain ⟨q7, eq7, hit⟩ := o_bind hit
      refine m_cNv X hM hS (wM_wrong l G dT o ad _ _ _ eq7) nm_X4_wrong q1889 q1891 q141 q1892 qs65 ⟨Nat.le_trans (Nat.le_of_ble_eq_true rfl) hR.1, Nat.le_trans (Nat.le_of_ble_eq_true rfl) hR.2⟩ rfl rfl hl.1 (lv_room (Nat.le_of_ble_eq_true rfl)) dX4_begins_15 (fun H locs hM hS => ?_)
      have he := o_in hit
      subst he
      exact hr2 _ _ _ hM hS (lv_sub hl [0] rfl)
  have hit := er1
  refine b_if_eq (tgt := 9) hx hb dX4_begins_1 (by decide) hit (fun c8 hit => ?_) (fun c8 hit => ?_)
  · have he := o_in hit
    subst he
    exact hr1 _ _ _ hM hS (lv_sub hl [0, 2] rfl)
  · refine lv_aload_n hx hb dX4_begins_4 rfl (lv_at hl 0 rfl) ?_
    refine lv_iconst (v := 2) hx hb dX4_begins_5 (by decide) ?_
    obtain ⟨q9, eq9, hit⟩ := o_bind hit
    refine m_cNv X hM hS (wM_wrong l G dT o ad _ _ _ eq9) nm_X4_wrong q1889 q1891 q141 q1892 qs65 ⟨Nat.le_trans (Nat.le_of_ble_eq_true rfl) hR.1, Nat.le_trans (Nat.le_of_ble_eq_true rfl) hR.2⟩ rfl rfl hl.1 (lv_room (Nat.le_of_ble_eq_true rfl)) dX4_begins_6 (fun H locs hM hS => ?_)
    have he := o_in hit
    subst he
    exact hr1 _ _ _ hM hS (lv_sub hl [0, 2] rfl)
noncomputable def M_readsSheet (σ : MS) : Option (MS) :=
  (M_number σ 0 255).bind fun q1 =>
  (ast q1.2 40 (1 + (mf σ 25)) q1.1).bind fun s2 =>
  (M_number s2 0 255).bind fun q3 =>
  (ast q3.2 40 (10 + (mf σ 25)) q3.1).bind fun s4 =>
  (M_number s4 0 3).bind fun q5 =>
  (ast q5.2 40 (19 + (mf σ 25)) q5.1).bind fun s6 =>
  (M_isGood s6).bind fun q7 =>
  if q7 = 0 then
    (some s6)
  else
    ((pf s6 25 ((mf s6 25) + 1)).bind fun s9 =>
    some s9)
theorem nm_X4_readsSheet : kNm yX4_readsSheet RX4 0 := by unfold kNm; decide +kernel
set_option maxHeartbeats 4000000 in
set_option maxRecDepth 100000 in
theorem wM_readsSheet (l : Launch) (G : va_G) (dT : Nat → ClassId) (o : Nat) (ad : Nat → Nat) (σ : MS) (z : MS) (h : M_readsSheet σ = some z) : Met l yX4_readsSheet (ws_ yX4_readsSheet cX4_readsSheet 2 none) (kRm 3 65) (mPc G dT o ad σ []) (va_Qv (fun (_ : Unit) => True) (fun _ t => MH G dT o ad z t.heap) (mAd o ad)) 0 0 (mAd o ad) := by
  refine m_startNv (cc := cX4_readsSheet) rfl rfl rfl (fun p e R s m args below meth c Q ls X hR hM hS hl hend => ?_)
  have hx := X.1.1
  have hb := X.1.2.1
  have hit := h
  clear h
  unfold M_readsSheet at hit
  have hl : lv_has ls 2 [(0, .ref o)] := hl
  refine lv_aload_n hx hb dX4_readsSheet_0 rfl (lv_at hl 0 rfl) ?_
  refine m_get X hM 25 q1669 rfl rfl (v := .int (mf σ 25)) rfl dX4_readsSheet_1 ?_
  refine lv_istore_n (lv' := [(1, .int (mf σ 25)), (0, .ref o)]) hx hb dX4_readsSheet_4 rfl hl (by decide) rfl (fun ls hl => ?_)
  refine lv_aload_n hx hb dX4_readsSheet_5 rfl (lv_at hl 1 rfl) ?_
  refine m_get X hM 40 q1684 rfl rfl (v := .ref (ad 40)) rfl dX4_readsSheet_6 ?_
  refine lv_iconst (v := 1) hx hb dX4_readsSheet_9 (by decide) ?_
  refine lv_iload_n hx hb dX4_readsSheet_10 rfl (lv_at hl 0 rfl) ?_
  refine lv_iadd hx hb dX4_readsSheet_11 ?_
  refine lv_aload_n hx hb dX4_readsSheet_12 rfl (lv_at hl 1 rfl) ?_
  refine lv_iconst (v := 0) hx hb dX4_readsSheet_13 (by decide) ?_
  refine lv_sipush (v := 255) hx hb dX4_readsSheet_14 (by decide) ?_
  obtain ⟨q1, eq1, hit⟩ := o_bind hit
  refine m_cNi X hM hS (wM_number l G dT o ad _ _ _ _ eq1) nm_X4_number q1897 q1899 q141 q1900 qs67 ⟨Nat.le_trans (Nat.le_of_ble_eq_true rfl) hR.1, Nat.le_trans (Nat.le_of_ble_eq_true rfl) hR.2⟩ rfl rfl hl.1 (lv_room (Nat.le_of_ble_eq_true rfl)) dX4_readsSheet_17 (fun H locs hM hS => ?_)
  obtain ⟨s2, es2, hit⟩ := o_bind hit
  refine m_iast X hM hS 11 40 rfl rfl es2 dX4_readsSheet_20 (fun H locs hM hS => ?_)
  refine lv_aload_n hx hb dX4_readsSheet_21 rfl (lv_at hl 1 rfl) ?_
  refine m_get X hM 40 q1684 rfl rfl (v := .ref (ad 40)) rfl dX4_readsSheet_22 ?_
  refine lv_bipush (v := 10) hx hb dX4_readsSheet_25 (by decide) ?_
  refine lv_iload_n hx hb dX4_readsSheet_27 rfl (lv_at hl 0 rfl) ?_
  refine lv_iadd hx hb dX4_readsSheet_28 ?_
  refine lv_aload_n hx hb dX4_readsSheet_29 rfl (lv_at hl 1 rfl) ?_
  refine lv_iconst (v := 0) hx hb dX4_readsSheet_30 (by decide) ?_
  refine lv_sipush (v := 255) hx hb dX4_readsSheet_31 (by decide) ?_
  obtain ⟨q3, eq3, hit⟩ := o_bind hit
  refine m_cNi X hM hS (wM_number l G dT o ad _ _ _ _ eq3) nm_X4_number q1897 q1899 q141 q1900 qs67 ⟨Nat.le_trans (Nat.le_of_ble_eq_true rfl) hR.1, Nat.le_trans (Nat.le_of_ble_eq_true rfl) hR.2⟩ rfl rfl hl.1 (lv_room (Nat.le_of_ble_eq_true rfl)) dX4_readsSheet_34 (fun H locs hM hS => ?_)
  obtain ⟨s4, es4, hit⟩ := o_bind hit
  refine m_iast X hM hS 11 40 rfl rfl es4 dX4_readsSheet_37 (fun H locs hM hS => ?_)
  refine lv_aload_n hx hb dX4_readsSheet_38 rfl (lv_at hl 1 rfl) ?_
  refine m_get X hM 40 q1684 rfl rfl (v := .ref (ad 40)) rfl dX4_readsSheet_39 ?_
  refine lv_bipush (v := 19) hx hb dX4_readsSheet_42 (by decide) ?_
  refine lv_iload_n hx hb dX4_readsSheet_44 rfl (lv_at hl 0 rfl) ?_
  refine lv_iadd hx hb dX4_readsSheet_45 ?_
  refine lv_aload_n hx hb dX4_readsSheet_46 rfl (lv_at hl 1 rfl) ?_
  refine lv_iconst (v := 0) hx hb dX4_readsSheet_47 (by decide) ?_
  refine lv_iconst (v := 3) hx hb dX4_readsSheet_48 (by decide) ?_
  obtain ⟨q5, eq5, hit⟩ := o_bind hit
  refine m_cNi X hM hS (wM_number l G dT o ad _ _ _ _ eq5) nm_X4_number q1897 q1899 q141 q1900 qs67 ⟨Nat.le_trans (Nat.le_of_ble_eq_true rfl) hR.1, Nat.le_trans (Nat.le_of_ble_eq_true rfl) hR.2⟩ rfl rfl hl.1 (lv_room (Nat.le_of_ble_eq_true rfl)) dX4_readsSheet_49 (fun H locs hM hS => ?_)
  obtain ⟨s6, es6, hit⟩ := o_bind hit
  refine m_iast X hM hS 11 40 rfl rfl es6 dX4_readsSheet_52 (fun H locs hM hS => ?_)
  refine lv_aload_n hx hb dX4_readsSheet_53 rfl (lv_at hl 1 rfl) ?_
  obtain ⟨q7, eq7, hit⟩ := o_bind hit
  refine m_cR X hM (wM_isGood l G dT o ad _  _ eq7) nm_X4_isGood q1866 q1868 q141 q1869 qs61 ⟨Nat.le_trans (Nat.le_of_ble_eq_true rfl) hR.1, Nat.le_trans (Nat.le_of_ble_eq_true rfl) hR.2⟩ rfl rfl hl.1 (lv_room (Nat.le_of_ble_eq_true rfl)) dX4_readsSheet_54 ?_
  refine b_if_eq (tgt := 70) hx hb dX4_readsSheet_57 (by decide) hit (fun c8 hit => ?_) (fun c8 hit => ?_)
  · have he := o_in hit
    exact hend _ _ _ _ _ he hM hS dX4_readsSheet_70
  · refine lv_aload_n hx hb dX4_readsSheet_60 rfl (lv_at hl 1 rfl) ?_
    refine lv_dup hx hb dX4_readsSheet_61 rfl ?_
    refine m_get X hM 25 q1669 rfl rfl (v := .int (mf s6 25)) rfl dX4_readsSheet_62 ?_
    refine lv_iconst (v := 1) hx hb dX4_readsSheet_65 (by decide) ?_
    refine lv_iadd hx hb dX4_readsSheet_66 ?_
    obtain ⟨s9, es9, hit⟩ := o_bind hit
    refine m_put X hM hS 25 q1669 rfl rfl (ty := .int) rfl rfl rfl es9 dX4_readsSheet_67 (fun H locs hM hS => ?_)
    have he := o_in hit
    exact hend _ _ _ _ _ he hM hS dX4_readsSheet_70
noncomputable def M_readsClerk_J98 (σ : MS) (t2 : Int32 × Int32 × MS) : Option ((Int32 × Int32 × MS) ⊕ MS) :=
  (ast t2.2.2 37 (mf σ 26) t2.1).bind fun s4 =>
  (M_isGood s4).bind fun q5 =>
  if q5 = 0 then
    (some (.inr s4))
  else
    ((pf s4 26 ((mf s4 26) + 1)).bind fun s7 =>
    some (.inr s7))
noncomputable def M_readsClerk_L19 (σ : MS) (t2 : Int32 × Int32 × MS) : Option ((Int32 × Int32 × MS) ⊕ MS) :=
  if t2.2.1 = 0 then
    (M_readsClerk_J98 σ t2)
  else
    ((M_isGood t2.2.2).bind fun q9 =>
    if q9 = 0 then
      (M_readsClerk_J98 σ t2)
    else
      (((if t2.1 = 6 then
          (if (mf t2.2.2 19) = 2 then
            ((M_wrong t2.2.2 2).bind fun q20 =>
            some q20)
          else
            (some t2.2.2))
        else
          (some t2.2.2) : Option MS)).bind fun r11 =>
      (M_number r11 0 3).bind fun q12 =>
      (M_isGood q12.2).bind fun q13 =>
      if q13 = 0 then
        (some (.inr q12.2))
      else
        ((ast q12.2 36 ((6 * (mf σ 26)) + t2.1) q12.1).bind fun s15 =>
        ((if (mf s15 19) = 2 then
            (some 1)
          else
            (some 0) : Option Int32)).bind fun r16 =>
        some (.inl ((t2.1 + 1), r16, s15)))))
noncomputable def M_readsClerk (σ : MS) : Option (MS) :=
  (ast σ 40 (28 + (mf σ 26)) 0).bind fun s1 =>
  o_loop (M_readsClerk_L19 σ) (0, 1, s1)
theorem nm_X4_readsClerk : kNm yX4_readsClerk RX4 0 := by unfold kNm; decide +kernel
set_option maxHeartbeats 4000000 in
set_option maxRecDepth 100000 in
theorem wM_readsClerk (l : Launch) (G : va_G) (dT : Nat → ClassId) (o : Nat) (ad : Nat → Nat) (σ : MS) (z : MS) (h : M_readsClerk σ = some z) : Met l yX4_readsClerk (ws_ yX4_readsClerk cX4_readsClerk 5 none) (kRm 3 65) (mPc G dT o ad σ []) (va_Qv (fun (_ : Unit) => True) (fun _ t => MH G dT o ad z t.heap) (mAd o ad)) 0 0 (mAd o ad) := by
  refine m_startNv (cc := cX4_readsClerk) rfl rfl rfl (fun p e R s m args below meth c Q ls X hR hM hS hl hend => ?_)
  have hx := X.1.1
  have hb := X.1.2.1
  have hit := h
  clear h
  unfold M_readsClerk at hit
  have hl : lv_has ls 5 [(0, .ref o)] := hl
  refine lv_aload_n hx hb dX4_readsClerk_0 rfl (lv_at hl 0 rfl) ?_
  refine m_get X hM 26 q1670 rfl rfl (v := .int (mf σ 26)) rfl dX4_readsClerk_1 ?_
  refine lv_istore_n (lv' := [(1, .int (mf σ 26)), (0, .ref o)]) hx hb dX4_readsClerk_4 rfl hl (by decide) rfl (fun ls hl => ?_)
  refine lv_iconst (v := 0) hx hb dX4_readsClerk_5 (by decide) ?_
  refine lv_istore_n (lv' := [(2, .int 0), (1, .int (mf σ 26)), (0, .ref o)]) hx hb dX4_readsClerk_6 rfl hl (by decide) rfl (fun ls hl => ?_)
  refine lv_aload_n hx hb dX4_readsClerk_7 rfl (lv_at hl 2 rfl) ?_
  refine m_get X hM 40 q1684 rfl rfl (v := .ref (ad 40)) rfl dX4_readsClerk_8 ?_
  refine lv_bipush (v := 28) hx hb dX4_readsClerk_11 (by decide) ?_
  refine lv_iload_n hx hb dX4_readsClerk_13 rfl (lv_at hl 1 rfl) ?_
  refine lv_iadd hx hb dX4_readsClerk_14 ?_
  refine lv_iconst (v := 0) hx hb dX4_readsClerk_15 (by decide) ?_
  obtain ⟨s1, es1, hit⟩ := o_bind hit
  refine m_iast X hM hS 11 40 rfl rfl es1 dX4_readsClerk_16 (fun H locs hM hS => ?_)
  refine lv_iconst (v := 1) hx hb dX4_readsClerk_17 (by decide) ?_
  refine lv_istore_n (lv' := [(3, .int 1), (2, .int 0), (1, .int (mf σ 26)), (0, .ref o)]) hx hb dX4_readsClerk_18 rfl hl (by decide) rfl (fun ls hl => ?_)
  refine o_rec (P := fun t2 => ∀ (H : Heap) (locs : List Loc) (ls : Array Slot), MH G dT o ad t2.2.2 H → va_S (mAd o ad) s.heap H locs → lv_has ls 5 [(1, .int (mf σ 26)), (0, .ref o), (2, .int t2.1), (3, .int t2.2.1)] → W p l e R s m args below meth c H locs 0 0 Q (F0 m 19 ls [])) (fun t2 x3 hit hC2 hE2 H locs ls hM hS hl => ?_) _ hit _ _ _ hM hS (lv_sub hl [2, 3, 1, 0] rfl)
  unfold M_readsClerk_L19 at hit
  refine lv_iload_n hx hb dX4_readsClerk_19 rfl (lv_at hl 3 rfl) ?_
  have hK98 : M_readsClerk_J98 σ t2 = some x3 → ∀ (H : Heap) (locs : List Loc) (ls : Array Slot), MH G dT o ad t2.2.2 H → va_S (mAd o ad) s.heap H locs → lv_has ls 5 [(1, .int (mf σ 26)), (0, .ref o), (2, .int t2.1)] → W p l e R s m args below meth c H locs 0 0 Q (F0 m 98 ls []) := by
    intro  hit H locs ls hM hS hl
    unfold M_readsClerk_J98 at hit
    refine lv_aload_n hx hb dX4_readsClerk_98 rfl (lv_at hl 1 rfl) ?_
    refine m_get X hM 37 q1681 rfl rfl (v := .ref (ad 37)) rfl dX4_readsClerk_99 ?_
    refine lv_iload_n hx hb dX4_readsClerk_102 rfl (lv_at hl 0 rfl) ?_
    refine lv_iload_n hx hb dX4_readsClerk_103 rfl (lv_at hl 2 rfl) ?_
    obtain ⟨s4, es4, hit⟩ := o_bind hit
    refine m_iast X hM hS 8 37 rfl rfl es4 dX4_readsClerk_104 (fun H locs hM hS => ?_)
    refine lv_aload_n hx hb dX4_readsClerk_105 rfl (lv_at hl 1 rfl) ?_
    obtain ⟨q5, eq5, hit⟩ := o_bind hit
    refine m_cR X hM (wM_isGood l G dT o ad _  _ eq5) nm_X4_isGood q1866 q1868 q141 q1869 qs61 ⟨Nat.le_trans (Nat.le_of_ble_eq_true rfl) hR.1, Nat.le_trans (Nat.le_of_ble_eq_true rfl) hR.2⟩ rfl rfl hl.1 (lv_room (Nat.le_of_ble_eq_true rfl)) dX4_readsClerk_106 ?_
    refine b_if_eq (tgt := 122) hx hb dX4_readsClerk_109 (by decide) hit (fun c6 hit => ?_) (fun c6 hit => ?_)
    · have he := o_in hit
      have he := hE2 _ he
      exact hend _ _ _ _ _ he hM hS dX4_readsClerk_122
    · refine lv_aload_n hx hb dX4_readsClerk_112 rfl (lv_at hl 1 rfl) ?_
      refine lv_dup hx hb dX4_readsClerk_113 rfl ?_
      refine m_get X hM 26 q1670 rfl rfl (v := .int (mf s4 26)) rfl dX4_readsClerk_114 ?_
      refine lv_iconst (v := 1) hx hb dX4_readsClerk_117 (by decide) ?_
      refine lv_iadd hx hb dX4_readsClerk_118 ?_
      obtain ⟨s7, es7, hit⟩ := o_bind hit
      refine m_put X hM hS 26 q1670 rfl rfl (ty := .int) rfl rfl rfl es7 dX4_readsClerk_119 (fun H locs hM hS => ?_)
      have he := o_in hit
      have he := hE2 _ he
      exact hend _ _ _ _ _ he hM hS dX4_readsClerk_122
  refine b_if_eq (tgt := 98) hx hb dX4_readsClerk_20 (by decide) hit (fun c8 hit => ?_) (fun c8 hit => ?_)
  · exact hK98  hit _ _ _ hM hS (lv_sub hl [0, 1, 2] rfl)
  · refine lv_aload_n hx hb dX4_readsClerk_23 rfl (lv_at hl 1 rfl) ?_
    obtain ⟨q9, eq9, hit⟩ := o_bind hit
    refine m_cR X hM (wM_isGood l G dT o ad _  _ eq9) nm_X4_isGood q1866 q1868 q141 q1869 qs61 ⟨Nat.le_trans (Nat.le_of_ble_eq_true rfl) hR.1, Nat.le_trans (Nat.le_of_ble_eq_true rfl) hR.2⟩ rfl rfl hl.1 (lv_room (Nat.le_of_ble_eq_true rfl)) dX4_readsClerk_24 ?_
    refine b_if_eq (tgt := 98) hx hb dX4_readsClerk_27 (by decide) hit (fun c10 hit => ?_) (fun c10 hit => ?_)
    · exact hK98  hit _ _ _ hM hS (lv_sub hl [0, 1, 2] rfl)
    · refine lv_iload_n hx hb dX4_readsClerk_30 rfl (lv_at hl 2 rfl) ?_
      refine lv_bipush (v := 6) hx hb dX4_readsClerk_31 (by decide) ?_
      obtain ⟨r11, er11, hit⟩ := o_bind hit
      have hr11 : ∀ (H : Heap) (locs : List Loc) (ls : Array Slot), MH G dT o ad r11 H → va_S (mAd o ad) s.heap H locs → lv_has ls 5 [(1, .int (mf σ 26)), (0, .ref o), (2, .int t2.1)] → W p l e R s m args below meth c H locs 0 0 Q (F0 m 49 ls []) := by
        intro H locs ls hM hS hl
        refine lv_aload_n hx hb dX4_readsClerk_49 rfl (lv_at hl 1 rfl) ?_
        refine lv_iconst (v := 0) hx hb dX4_readsClerk_50 (by decide) ?_
        refine lv_iconst (v := 3) hx hb dX4_readsClerk_51 (by decide) ?_
        obtain ⟨q12, eq12, hit⟩ := o_bind hit
        refine m_cNi X hM hS (wM_number l G dT o ad _ _ _ _ eq12) nm_X4_number q1897 q1899 q141 q1900 qs67 ⟨Nat.le_trans (Nat.le_of_ble_eq_true rfl) hR.1, Nat.le_trans (Nat.le_of_ble_eq_true rfl) hR.2⟩ rfl rfl hl.1 (lv_room (Nat.le_of_ble_eq_true rfl)) dX4_readsClerk_52 (fun H locs hM hS => ?_)
        refine lv_istore (lv' := [(4, .int q12.1), (1, .int (mf σ 26)), (0, .ref o), (2, .int t2.1)]) hx hb dX4_readsClerk_55 hl (by decide) rfl (fun ls hl => ?_)
        refine lv_aload_n hx hb dX4_readsClerk_57 rfl (lv_at hl 2 rfl) ?_
        obtain ⟨q13, eq13, hit⟩ := o_bind hit
        refine m_cR X hM (wM_isGood l G dT o ad _  _ eq13) nm_X4_isGood q1866 q1868 q141 q1869 qs61 ⟨Nat.le_trans (Nat.le_of_ble_eq_true rfl) hR.1, Nat.le_trans (Nat.le_of_ble_eq_true rfl) hR.2⟩ rfl rfl hl.1 (lv_room (Nat.le_of_ble_eq_true rfl)) dX4_readsClerk_58 ?_
        refine b_if_ne (tgt := 65) hx hb dX4_readsClerk_61 (by decide) hit (fun c14 hit => ?_) (fun c14 hit => ?_)
        · refine lv_aload_n hx hb dX4_readsClerk_65 rfl (lv_at hl 2 rfl) ?_
          refine m_get X hM 36 q1680 rfl rfl (v := .ref (ad 36)) rfl dX4_readsClerk_66 ?_
          refine lv_bipush (v := 6) hx hb dX4_readsClerk_69 (by decide) ?_
          refine lv_iload_n hx hb dX4_readsClerk_71 rfl (lv_at hl 1 rfl) ?_
          refine lv_imul hx hb dX4_readsClerk_72 ?_
          refine lv_iload_n hx hb dX4_readsClerk_73 rfl (lv_at hl 3 rfl) ?_
          refine lv_iadd hx hb dX4_readsClerk_74 ?_
          refine lv_iload hx hb dX4_readsClerk_75 (lv_at hl 0 rfl) ?_
          obtain ⟨s15, es15, hit⟩ := o_bind hit
          refine m_iast X hM hS 7 36 rfl rfl es15 dX4_readsClerk_77 (fun H locs hM hS => ?_)
          refine lv_iinc (k := 3) (v := (t2.1 + 1)) (lv' := [(2, .int (t2.1 + 1)), (4, .int q12.1), (1, .int (mf σ 26)), (0, .ref o)]) hx hb dX4_readsClerk_78 hl rfl rfl (by decide) rfl (fun ls hl => ?_)
          refine lv_aload_n hx hb dX4_readsClerk_81 rfl (lv_at hl 3 rfl) ?_
          refine m_get X hM 19 q1663 rfl rfl (v := .int (mf s15 19)) rfl dX4_readsClerk_82 ?_
          refine lv_iconst (v := 2) hx hb dX4_readsClerk_85 (by decide) ?_
          obtain ⟨r16, er16, hit⟩ := o_bind hit
          have hr16 : ∀ (H : Heap) (locs : List Loc) (ls : Array Slot), MH G dT o ad s15 H → va_S (mAd o ad) s.heap H locs → lv_has ls 5 [(2, .int (t2.1 + 1)), (1, .int (mf σ 26)), (0, .ref o)] → W p l e R s m args below meth c H locs 0 0 Q (F0 m 94 ls [.int r16]) := by
            intro H locs ls hM hS hl
            refine lv_istore_n (lv' := [(3, .int r16), (2, .int (t2.1 + 1)), (1, .int (mf σ 26)), (0, .ref o)]) hx hb dX4_readsClerk_94 rfl hl (by decide) rfl (fun ls hl => ?_)
            refine lv_goto (tgt := 19) hx hb dX4_readsClerk_95 (by decide) ?_
            have he := o_in hit
            exact hC2 _ he _ _ _ hM hS (lv_sub hl [2, 3, 1, 0] rfl)
          have hit := er16
          refine b_icmp_ne (tgt := 93) hx hb dX4_readsClerk_86 (by decide) hit (fun c17 hit => ?_) (fun c17 hit => ?_)
          · refine lv_iconst (v := 0) hx hb dX4_readsClerk_93 (by decide) ?_
            have he := o_in hit
            subst he
            exact hr16 _ _ _ hM hS (lv_sub hl [0, 2, 3] rfl)
          · refine lv_iconst (v := 1) hx hb dX4_readsClerk_89 (by decide) ?_
            refine lv_goto (tgt := 94) hx hb dX4_readsClerk_90 (by decide) ?_
            have he := o_in hit
            subst he
            exact hr16 _ _ _ hM hS (lv_sub hl [0, 2, 3] rfl)
        · have he := o_in hit
          have he := hE2 _ he
          exact hend _ _ _ _ _ he hM hS dX4_readsClerk_64
      have hit := er11
      refine b_icmp_ne (tgt := 49) hx hb dX4_readsClerk_33 (by decide) hit (fun c18 hit => ?_) (fun c18 hit => ?_)
      · have he := o_in hit
        subst he
        exact hr11 _ _ _ hM hS (lv_sub hl [0, 1, 2] rfl)
      · refine lv_aload_n hx hb dX4_readsClerk_36 rfl (lv_at hl 1 rfl) ?_
        refine m_get X hM 19 q1663 rfl rfl (v := .int (mf t2.2.2 19)) rfl dX4_readsClerk_37 ?_
        refine lv_iconst (v := 2) hx hb dX4_readsClerk_40 (by decide) ?_
        refine b_icmp_ne (tgt := 49) hx hb dX4_readsClerk_41 (by decide) hit (fun c19 hit => ?_) (fun c19 hit => ?_)
        · have he := o_in hit
          subst he
          exact hr11 _ _ _ hM hS (lv_sub hl [0, 1, 2] rfl)
        · refine lv_aload_n hx hb dX4_readsClerk_44 rfl (lv_at hl 1 rfl) ?_
          refine lv_iconst (v := 2) hx hb dX4_readsClerk_45 (by decide) ?_
          obtain ⟨q20, eq20, hit⟩ := o_bind hit
          refine m_cNv X hM hS (wM_wrong l G dT o ad _ _ _ eq20) nm_X4_wrong q1889 q1891 q141 q1892 qs65 ⟨Nat.le_trans (Nat.le_of_ble_eq_true rfl) hR.1, Nat.le_trans (Nat.le_of_ble_eq_true rfl) hR.2⟩ rfl rfl hl.1 (lv_room (Nat.le_of_ble_eq_true rfl)) dX4_readsClerk_46 (fun H locs hM hS => ?_)
          have he := o_in hit
          subst he
          exact hr11 _ _ _ hM hS (lv_sub hl [0, 1, 2] rfl)
noncomputable def M_isWordOf_L2 (σ : MS) (a0 : Int32) (a1 : Int32) (t1 : Int32) : Option (Int32 ⊕ Int32) :=
  if t1 < (mf σ 27) then
    ((ald σ 38 t1).bind fun v4 =>
    if v4 = a0 then
      ((ald σ 39 t1).bind fun v6 =>
      if v6 = a1 then
        (some (.inr 1))
      else
        (some (.inl (t1 + 1))))
    else
      (some (.inl (t1 + 1))))
  else
    (some (.inr 0))
noncomputable def M_isWordOf (σ : MS) (a0 : Int32) (a1 : Int32) : Option (Int32) :=
  o_loop (M_isWordOf_L2 σ a0 a1) 0
theorem nm_X4_isWordOf : kNm yX4_isWordOf RX4 2 := by unfold kNm; decide +kernel
set_option maxHeartbeats 4000000 in
set_option maxRecDepth 100000 in
theorem wM_isWordOf (l : Launch) (G : va_G) (dT : Nat → ClassId) (o : Nat) (ad : Nat → Nat) (σ : MS) (a0 : Int32) (a1 : Int32) (z : Int32) (h : M_isWordOf σ a0 a1 = some z) : Met l yX4_isWordOf (ws_ yX4_isWordOf cX4_isWordOf 4 (some .boolean)) (kRm 0 0) (mPc G dT o ad σ [.int a0, .int a1]) (vp_Si (fun r => r = z)) 0 0 vp_nf := by
  refine m_startR (cc := cX4_isWordOf) (ty := .boolean) rfl rfl rfl (fun p e R s m args below meth c Q ls X hR hM hl hend => ?_)
  have hx := X.1.1
  have hb := X.1.2.1
  have hit := h
  clear h
  unfold M_isWordOf at hit
  have hl : lv_has ls 4 [(0, .ref o), (1, .int a0), (2, .int a1)] := hl
  refine lv_iconst (v := 0) hx hb dX4_isWordOf_0 (by decide) ?_
  refine lv_istore_n (lv' := [(3, .int 0), (0, .ref o), (1, .int a0), (2, .int a1)]) hx hb dX4_isWordOf_1 rfl hl (by decide) rfl (fun ls hl => ?_)
  refine o_rec (P := fun t1 => ∀ (ls : Array Slot), lv_has ls 4 [(0, .ref o), (1, .int a0), (2, .int a1), (3, .int t1)] → W p l e R s m args below meth c s.heap [] 0 0 Q (F0 m 2 ls [])) (fun t1 x2 hit hC1 hE1 ls hl => ?_) _ hit _ (lv_sub hl [1, 2, 3, 0] rfl)
  unfold M_isWordOf_L2 at hit
  refine lv_iload_n hx hb dX4_isWordOf_2 rfl (lv_at hl 3 rfl) ?_
  refine lv_aload_n hx hb dX4_isWordOf_3 rfl (lv_at hl 0 rfl) ?_
  refine m_get X hM 27 q1671 rfl rfl (v := .int (mf σ 27)) rfl dX4_isWordOf_4 ?_
  refine b_icmp_ge (tgt := 38) hx hb dX4_isWordOf_7 (by decide) hit (fun c3 hit => ?_) (fun c3 hit => ?_)
  · refine lv_iconst (v := 0) hx hb dX4_isWordOf_38 (by decide) ?_
    have he := o_in hit
    have he := hE1 _ he
    exact hend _ 0 _ _ rfl he dX4_isWordOf_39
  · refine lv_aload_n hx hb dX4_isWordOf_10 rfl (lv_at hl 0 rfl) ?_
    refine m_get X hM 38 q1682 rfl rfl (v := .ref (ad 38)) rfl dX4_isWordOf_11 ?_
    refine lv_iload_n hx hb dX4_isWordOf_14 rfl (lv_at hl 3 rfl) ?_
    obtain ⟨v4, ev4, hit⟩ := o_bind hit
    refine m_iald X hM 9 38 rfl rfl ev4 dX4_isWordOf_15 ?_
    refine lv_iload_n hx hb dX4_isWordOf_16 rfl (lv_at hl 1 rfl) ?_
    refine b_icmp_ne (tgt := 32) hx hb dX4_isWordOf_17 (by decide) hit (fun c5 hit => ?_) (fun c5 hit => ?_)
    · refine lv_iinc (k := 3) (v := (t1 + 1)) (lv' := [(3, .int (t1 + 1)), (0, .ref o), (1, .int a0), (2, .int a1)]) hx hb dX4_isWordOf_32 hl rfl rfl (by decide) rfl (fun ls hl => ?_)
      refine lv_goto (tgt := 2) hx hb dX4_isWordOf_35 (by decide) ?_
      have he := o_in hit
      exact hC1 _ he _ (lv_sub hl [1, 2, 3, 0] rfl)
    · refine lv_aload_n hx hb dX4_isWordOf_20 rfl (lv_at hl 0 rfl) ?_
      refine m_get X hM 39 q1683 rfl rfl (v := .ref (ad 39)) rfl dX4_isWordOf_21 ?_
      refine lv_iload_n hx hb dX4_isWordOf_24 rfl (lv_at hl 3 rfl) ?_
      obtain ⟨v6, ev6, hit⟩ := o_bind hit
      refine m_iald X hM 10 39 rfl rfl ev6 dX4_isWordOf_25 ?_
      refine lv_iload_n hx hb dX4_isWordOf_26 rfl (lv_at hl 2 rfl) ?_
      refine b_icmp_ne (tgt := 32) hx hb dX4_isWordOf_27 (by decide) hit (fun c7 hit => ?_) (fun c7 hit => ?_)
      · refine lv_iinc (k := 3) (v := (t1 + 1)) (lv' := [(3, .int (t1 + 1)), (0, .ref o), (1, .int a0), (2, .int a1)]) hx hb dX4_isWordOf_32 hl rfl rfl (by decide) rfl (fun ls hl => ?_)
        refine lv_goto (tgt := 2) hx hb dX4_isWordOf_35 (by decide) ?_
        have he := o_in hit
        exact hC1 _ he _ (lv_sub hl [1, 2, 3, 0] rfl)
      · refine lv_iconst (v := 1) hx hb dX4_isWordOf_30 (by decide) ?_
        have he := o_in hit
        have he := hE1 _ he
        exact hend _ 1 _ _ rfl he dX4_isWordOf_31
