/-! ===== the law's calls of the reference ===== -/
section LAW9F
variable {p : Program} {l : Launch} {e : Env} {R : Room} {s : State} {m : MethodId} {args : Array Value} {below : List Frame} {meth : Method} {c : Code} {H : Heap} {locs : List Loc} {cells slots : Nat} {Q : State → Prop}
variable {nL pc : Nat} {ls : Array Slot} {rest st0 : List Value} {γ : KG} {h : CH} {r : CR} {σ0 : CS} {cc bytes : ByteArray} {index n maxL f lo : Nat} {y : MethodName} {ret : Option FieldType} {As : List Value} {own : String} {om out : Nat} {ad : Nat → Nat} {σ σ' : MS} {w : Nat → Int64} {v : Int32}
theorem LI.K (X : cCtx p s m args c cc nL own γ) : kK γ.1 γ.2.1 s := X.2.2.K X.2.1
theorem l_cMi (X : cCtx p s m args c cc nL own γ) (hL : LI γ σ0 s R om ad out h r σ w H locs cells slots) (hM : Met l y (ws_ y bytes maxL ret) (kRm f lo) (mPc γ.1 γ.2.1 om ad σ As) (va_Qi (fun r (_ : Unit) => r = v) (fun _ t => MH γ.1 γ.2.1 om ad σ' t.heap) (mAd om ad)) 0 0 (mAd om ad)) (hnm : kNm y RX4 n) (h1 : Cond.methodLink own index y ∈ lw_all) (h2 : Cond.instanceMethod y ∈ lw_all) (h3 : Cond.initialized RX4 ∈ lw_all) (h4 : Cond.code y bytes maxL ret ∈ lw_all) (h5 : Cond.selects RX4 y y ∈ lw_all)
    (hR : f + 1 ≤ R.frames ∧ 8 + (maxL + 11) + lo ≤ R.locals) (hn : As.length = n) (hst : st0 = As.reverse ++ .ref om :: rest) (hl : ls.size = nL) (hW : 2 * (F0 m pc ls st0).monitorRoom + (rest.map fun v => v.category).sum ≤ 8) (hdg : decode cc pc = .ok (.invokevirtual index, 3))
    (kk : ∀ (H : Heap) (locs : List Loc), LI γ σ0 s R om ad out h r σ' w H locs cells slots → W p l e R s m args below meth c H locs cells slots Q (F0 m (pc + 3) ls (.int v :: rest))) : W p l e R s m args below meth c H locs cells slots Q (F0 m pc ls st0) := by
  have hK := LI.K X
  obtain ⟨hF, hO, hD⟩ := X
  have hts := hF.2.2.2.2
  have hrun := va_runV hF (Met_size hM) (cwV n hts (lw_V h1 h2 h5 h3 h4) rfl rfl rfl hnm hR) ⟨mPc_blind As, va_recv hK hL.2.1.1 (ci := 0) (q0 := 0) rfl rfl, fun U hU hW => ⟨rfl, va_K.moved hW.alike hK, by rw [hU]; exact hL.2.1⟩⟩ (l := l) (e := e) (R := R) (below := below) (meth := meth) (locs := locs) (cells := cells) (slots := slots) (g := F0 m pc ls st0) (rest := rest) rfl hn hl hst hW hdg hL.1.RR
  intro T hT X
  obtain ⟨v1, st₀, t, T', L, h0, X', hLL, e1, e2, ⟨⟨⟨q, u, hv, hp, hb⟩, hz, hk⟩, hsz⟩, st⟩ := hrun T hT X
  cases hv
  cases hp
  rw [h0] at hz hk hsz
  have hS := hL.1.1.2.1
  have hmA : ∀ q, mAd om ad q → kA σ0.1 s.heap.size q := fun q hq => (hL.2.2.2 q hq).2.2.2
  obtain ⟨t2, a1, b1⟩ := kk T'.heap (locs ++ L) (hL.ref (by rw [e1]; exact hb) (by rw [e1]; exact hsz) (fun q h1 h2 => by rw [e1]; exact hk q h1 h2)
    ⟨Nat.le_trans hS.1 (by rw [e1]; exact hz), fun q h1 h2 => by rw [e1, hk q (Nat.lt_of_lt_of_le h1 hS.1) (fun z => h2 (hmA q z))]; exact hS.2.1 q h1 h2, fun q hq => by
      rcases List.mem_append.mp hq with h | h
      · exact hS.2.2 q h
      · exact hmA _ (hLL q h)⟩) T' rfl X'
  exact ⟨t2, st t2 a1, b1⟩
theorem l_cMv (X : cCtx p s m args c cc nL own γ) (hL : LI γ σ0 s R om ad out h r σ w H locs cells slots) (hM : Met l y (ws_ y bytes maxL ret) (kRm f lo) (mPc γ.1 γ.2.1 om ad σ As) (va_Qv (fun (_ : Unit) => True) (fun _ t => MH γ.1 γ.2.1 om ad σ' t.heap) (mAd om ad)) 0 0 (mAd om ad)) (hnm : kNm y RX4 n) (h1 : Cond.methodLink own index y ∈ lw_all) (h2 : Cond.instanceMethod y ∈ lw_all) (h3 : Cond.initialized RX4 ∈ lw_all) (h4 : Cond.code y bytes maxL ret ∈ lw_all) (h5 : Cond.selects RX4 y y ∈ lw_all)
    (hR : f + 1 ≤ R.frames ∧ 8 + (maxL + 11) + lo ≤ R.locals) (hn : As.length = n) (hst : st0 = As.reverse ++ .ref om :: rest) (hl : ls.size = nL) (hW : 2 * (F0 m pc ls st0).monitorRoom + (rest.map fun v => v.category).sum ≤ 8) (hdg : decode cc pc = .ok (.invokevirtual index, 3))
    (kk : ∀ (H : Heap) (locs : List Loc), LI γ σ0 s R om ad out h r σ' w H locs cells slots → W p l e R s m args below meth c H locs cells slots Q (F0 m (pc + 3) ls rest)) : W p l e R s m args below meth c H locs cells slots Q (F0 m pc ls st0) := by
  have hK := LI.K X
  obtain ⟨hF, hO, hD⟩ := X
  have hts := hF.2.2.2.2
  have hrun := va_runV hF (Met_size hM) (cwV n hts (lw_V h1 h2 h5 h3 h4) rfl rfl rfl hnm hR) ⟨mPc_blind As, va_recv hK hL.2.1.1 (ci := 0) (q0 := 0) rfl rfl, fun U hU hW => ⟨rfl, va_K.moved hW.alike hK, by rw [hU]; exact hL.2.1⟩⟩ (l := l) (e := e) (R := R) (below := below) (meth := meth) (locs := locs) (cells := cells) (slots := slots) (g := F0 m pc ls st0) (rest := rest) rfl hn hl hst hW hdg hL.1.RR
  intro T hT X
  obtain ⟨v1, st₀, t, T', L, h0, X', hLL, e1, e2, ⟨⟨⟨u, hv, hp, hb⟩, hz, hk⟩, hsz⟩, st⟩ := hrun T hT X
  cases hv
  rw [h0] at hz hk hsz
  have hS := hL.1.1.2.1
  have hmA : ∀ q, mAd om ad q → kA σ0.1 s.heap.size q := fun q hq => (hL.2.2.2 q hq).2.2.2
  obtain ⟨t2, a1, b1⟩ := kk T'.heap (locs ++ L) (hL.ref (by rw [e1]; exact hb) (by rw [e1]; exact hsz) (fun q h1 h2 => by rw [e1]; exact hk q h1 h2)
    ⟨Nat.le_trans hS.1 (by rw [e1]; exact hz), fun q h1 h2 => by rw [e1, hk q (Nat.lt_of_lt_of_le h1 hS.1) (fun z => h2 (hmA q z))]; exact hS.2.1 q h1 h2, fun q hq => by
      rcases List.mem_append.mp hq with h | h
      · exact hS.2.2 q h
      · exact hmA _ (hLL q h)⟩) T' rfl X'
  exact ⟨t2, st t2 a1, b1⟩
/-- a method of the reference's that reads -/
theorem l_cMr (X : cCtx p s m args c cc nL own γ) (hL : LI γ σ0 s R om ad out h r σ w H locs cells slots) (hM : Met l y (ws_ y bytes maxL ret) (kRm f lo) (mPc γ.1 γ.2.1 om ad σ As) (vp_Si (fun r => r = v)) 0 0 vp_nf) (hnm : kNm y RX4 n) (h1 : Cond.methodLink own index y ∈ lw_all) (h2 : Cond.instanceMethod y ∈ lw_all) (h3 : Cond.initialized RX4 ∈ lw_all) (h4 : Cond.code y bytes maxL ret ∈ lw_all) (h5 : Cond.selects RX4 y y ∈ lw_all)
    (hR : f + 1 ≤ R.frames ∧ 8 + (maxL + 11) + lo ≤ R.locals) (hn : As.length = n) (hst : st0 = As.reverse ++ .ref om :: rest) (hl : ls.size = nL) (hW : 2 * (F0 m pc ls st0).monitorRoom + (rest.map fun v => v.category).sum ≤ 8) (hdg : decode cc pc = .ok (.invokevirtual index, 3))
    (kk : W p l e R s m args below meth c H locs cells slots Q (F0 m (pc + 3) ls (.int v :: rest))) : W p l e R s m args below meth c H locs cells slots Q (F0 m pc ls st0) := by
  have hK := LI.K X
  obtain ⟨hF, hO, hD⟩ := X
  have hts := hF.2.2.2.2
  refine vp_callSi (W.runV hF hM (cwV n hts (lw_V h1 h2 h5 h3 h4) rfl rfl rfl hnm hR) ⟨mPc_blind As, va_recv hK hL.2.1.1 (ci := 0) (q0 := 0) rfl rfl, fun U hU hW => ⟨rfl, va_K.moved hW.alike hK, by rw [hU]; exact hL.2.1⟩⟩ rfl hn hl hst hW hdg hL.1.RR) (fun r hr => ?_)
  rw [hr]
  exact kk
end LAW9F
