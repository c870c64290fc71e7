/-! ===== the law's cases that go by a small method ===== -/
theorem nmL_office : kNm yX0_office RX0 3 := by unfold kNm; decide +kernel
set_option maxRecDepth 100000 in
set_option maxHeartbeats 1000000 in
theorem lc_office {p : Program} {l : Launch} {e : Env} {R : Room} {s : State} {m : MethodId} {args : Array Value} {below : List Frame} {meth : Method} {c : Code} {H : Heap} {locs : List Loc} {cells slots : Nat} {Q : State → Prop} {ls : Array Slot} {γ : KG} {h : CH} {r : CR} {σ0 : CS} {o om out bs L i N : Nat} {ad : Nat → Nat} {σ : MS} {w : Nat → Int64} {xs : Nat → Int32} (X : cCtx p s m args c cL_law 7 RX0 γ) (hT : l.stackTraces = false) (hR : 8000 ≤ R.frames ∧ 90000 ≤ R.locals) (h0H : HR γ σ0.1 s.heap) (hXs : va_X bs L xs s s.heap) (hbs : bs < s.heap.size) (hσA : ∀ q, kA σ0.1 s.heap.size q → s.heap.size ≤ q) (hL : LI γ σ0 s R om ad out h r σ w H locs cells slots) (hS : RS γ.2.2.2.2.2 o (h, r) σ (N + 1)) (hl : lv_has ls 7 [(0, .ref bs), (1, .ref o), (2, .ref om), (3, .ref out), (4, .int (i3 i))]) (hi : i + 6 ≤ L) (hLn : L ≤ 384)
    (kk : ∀ (H : Heap) (locs : List Loc) (cells slots : Nat) (h : CH) (r : CR) (σ : MS) (w : Nat → Int64) (ls : Array Slot), LI γ σ0 s R om ad out h r σ w H locs cells slots → RS γ.2.2.2.2.2 o (h, r) σ N → lv_has ls 7 [(0, .ref bs), (1, .ref o), (2, .ref om), (3, .ref out), (4, .int (i3 i))] → W p l e R s m args below meth c H locs cells slots Q (F0 m 2707 ls [])) : W p l e R s m args below meth c H locs cells slots Q (F0 m 301 ls []) := by
  have hx := X.1.1
  have hb := X.1.2.1
  obtain ⟨z, v, σ', hz, hm, hj⟩ := op_office hS (xs (i + 1))
  obtain ⟨hRS, hle⟩ := JN_R hj
  have hLc := hL
  refine lv_aload_n hx hb dL_law_301 rfl (lv_at hl 1 rfl) ?_
  refine lv_aload_n hx hb dL_law_302 rfl (lv_at hl 0 rfl) ?_
  refine lv_iload hx hb dL_law_303 (lv_at hl 4 rfl) ?_
  refine lv_iconst (v := i3 1) hx hb dL_law_305 (by decide) ?_
  refine sc_ld X hXs hbs hσA hL.1.1.2.1 (i := i) (k := 1) (by omega) hLn dL_law_306 dL_law_307 rfl ?_
  refine lv_aload_n hx hb dL_law_308 rfl (lv_at hl 3 rfl) ?_
  refine p_cSW X h0H hL.pre (wL_office l hT γ X.2.1 h r o (xs (i + 1)) out w z hz hL.2.2.1.2.2.2.1 hL.2.2.1.2.2.2.2 (RS_o hS) hle (JN_t1 hj)) nmL_office q682 q683 q134 q684 ⟨by omega, by omega⟩ rfl rfl hl.1 (lv_room (Nat.le_of_ble_eq_true rfl)) dL_law_309 (fun w1 hw1 hP => ?_) (fun x hx1 _ => nomatch hx1)
  cases hw1
  refine ⟨hle, fun H1 locs cells slots hA1 f1 _ => ?_⟩
  have hL1 := hLc.wrap hA1 f1 hP
  clear hA1 f1 hL hLc
  refine lv_istore (lv' := [(5, .int (wzK 1 z)), (0, .ref bs), (1, .ref o), (2, .ref om), (3, .ref out), (4, .int (i3 i))]) hx hb dL_law_312 hl (by decide) rfl (fun ls hl => ?_)
  refine lv_aload_n hx hb dL_law_314 rfl (lv_at hl 3 rfl) ?_
  refine lv_aload_n hx hb dL_law_315 rfl (lv_at hl 1 rfl) ?_
  refine lv_iload hx hb dL_law_316 (lv_at hl 5 rfl) ?_
  refine lv_iconst (v := i3 1) hx hb dL_law_318 (by decide) ?_
  refine sc_ld X hXs hbs hσA hL1.1.1.2.1 (i := i) (k := 1) (by omega) hLn dL_law_319 dL_law_320 rfl ?_
  refine l_cMi X hL1 (wM_office l γ.1 γ.2.1 om ad σ (xs (i + 1)) (v, σ') hm) nm_X4_office q1844 q1845 q141 q1847 q1846 ⟨by omega, by omega⟩ rfl rfl hl.1 (lv_room (Nat.le_of_ble_eq_true rfl)) dL_law_321 (fun H locs hL => ?_)
  refine lv_istore (lv' := [(6, .int v), (5, .int (wzK 1 z)), (0, .ref bs), (1, .ref o), (2, .ref om), (3, .ref out), (4, .int (i3 i))]) hx hb dL_law_324 hl (by decide) rfl (fun ls hl => ?_)
  refine lc_tail X hL (JN_K hj) (fun k0 => ?_) hl ⟨by omega, by omega⟩ dL_law_326 dL_law_327 dL_law_330 dL_law_332 dL_law_337 dL_law_339 dL_law_342 dL_law_343 dL_law_344 dL_law_345 dL_law_347 dL_law_348 dL_law_349 ?_
  · obtain ⟨q, rfl, rfl⟩ := JN_v hj k0
    rfl
  · refine lv_goto (tgt := 2707) hx hb dL_law_354 (by decide) ?_
    exact kk _ _ _ _ _ _ _ _ _ hL hRS (lv_sub hl [2, 3, 4, 5, 6] rfl)
