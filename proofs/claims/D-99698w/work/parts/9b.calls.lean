/-! ===== the law's calls: what may be thrown, what was left alone ===== -/
section CALL9B
variable {p : Program} {l : Launch} {e : Env} {R : Room} {s : State} {m : MethodId} {args : Array Value} {below : List Frame} {meth : Method} {c : Code} {H : Heap} {locs : List Loc} {cells slots : Nat} {Q : State → Prop}
variable {nL pc : Nat} {ls : Array Slot} {rest st0 : List Value} {γ : KG} {h : CH} {r : CR} {σ0 : CS} {x : XT} {cc bytes : ByteArray} {index n maxL f lo : Nat} {y : MethodName} {ret : Option FieldType} {As : List Value} {own C : String} {ci N : Nat} {T : u_T} {ty : Nat → FieldType} {b : Nat} {z : (Option Value × CS) ⊕ XT} {P : Prop} {hh : List (Nat × Nat × Nat × Nat)}
theorem AI.leaves {σ' : CS} {st₀ t : State} {H1 : Heap} (hA : AI γ σ0 s R h r H locs cells slots) (e0 : st₀.heap = H) (e1 : H1 = t.heap) (hq : aQb γ (h, r) σ' st₀ t) : fw h r.1 H H1 ∧ dm h σ'.1 r.1 := by
  obtain ⟨q1, q2, q3, q5⟩ := hq
  refine ⟨⟨by rw [e1, ← hA.1.2.2.1, ← e0]; exact q5.1, fun q h1 h2 => ?_⟩, q3⟩
  rw [e1, q5.2 q (by rw [e0, hA.1.2.2.1]; exact h1) (fun hk => by
    rcases hk with hk | hk
    · have hk : (h q).isSome = true := hk
      rw [h2] at hk
      cases hk
    · exact absurd hk (Nat.not_le.mpr h1)), e0]
theorem p_cV (X : cCtx p s m args c cc nL own γ) (h0H : HR γ σ0.1 s.heap) (hA : AI γ σ0 s R h r H locs cells slots) (hC : kCls ci C T N ty) (hrv : isC h b ci = true) (hM : pMet l y (ws_ y bytes maxL ret) f lo γ (h, r) (.ref b :: As) z P) (hnm : kNm y C n) (h1 : Cond.methodLink own index y ∈ lw_all) (h2 : Cond.instanceMethod y ∈ lw_all) (h3 : Cond.initialized C ∈ lw_all) (h4 : Cond.code y bytes maxL ret ∈ lw_all) (h5 : Cond.selects C y y ∈ lw_all)
    (hR : f + 1 ≤ R.frames ∧ 8 + (maxL + 11) + lo ≤ R.locals) (hn : As.length = n) (hst : st0 = As.reverse ++ .ref b :: rest) (hl : ls.size = nL) (hW : 2 * (F0 m pc ls st0).monitorRoom + (rest.map fun v => v.category).sum ≤ 8) (hdg : decode cc pc = .ok (.invokevirtual index, 3))
    (kkl : ∀ w, z = .inl w → P → ale w.2.2 r ∧ ∀ (H1 : Heap) (locs : List Loc) (cells slots : Nat), AI γ σ0 s R w.2.1 w.2.2 H1 locs cells slots → fw h r.1 H H1 → dm h w.2.1 r.1 → W p l e R s m args below meth c H1 locs cells slots Q (F0 m (pc + 3) ls (w.1.toList ++ rest)))
    (kkr : ∀ x, z = .inr x → P → ale x.2.2.2 r ∧ ∀ (H1 : Heap) (locs : List Loc) (cells slots : Nat) (q : Addr), AI γ σ0 s R x.2.2.1 x.2.2.2 H1 locs cells slots → fw h r.1 H H1 → dm h x.2.2.1 r.1 → kTh x s H1 q → vx_W p l e R s m args below meth c H1 locs cells slots Q (F0 m pc ls rest) q) : W p l e R s m args below meth c H locs cells slots Q (F0 m pc ls st0) := by
  obtain ⟨⟨hx, hb, hml, hown, hts⟩, hO, hD⟩ := X
  have hini : (Cond.initialized y.cls) ∈ lw_all := by rw [hnm.1]; exact h3
  have hK := x_back (R := R) (p := p) (e := e) (below := below) (s := s) (sargs := args) (len := 3) (W9 := 8) (bytes := bytes) (maxL := maxL) (ret := ret) hM hR.1 hR.2 (pay_in hts (lw_meth h4)) (Or.inl List.mem_cons_self) (fun a' U hU => word_at hU (Or.inl (by first | rfl | simp [Cond.onTables, Cond.keeps, Cond.steady])) (hts _ hini))
  obtain ⟨cellB, hcB, hoB, hclB⟩ := c_recv hC hO hD hA.1.1 hrv
  intro T hT X
  have e1 := hA.2.1
  have e2 := hA.2.2
  rcases vx_callV X hx (C := C) (bytes := bytes) (maxL := maxL) (ret := ret) hown (hts _ h1) (hts _ h2) (hts _ h5) (hts _ h4) ⟨hnm.2.1, hnm.2.2.1⟩ hK (by rw [hT]; exact hcB) hoB hclB (g := F0 m pc ls st0) rfl (hl.trans hml.symm) (argsL := As) (rest := rest) (fun sig h => hn.trans (hnm.len sig h)) hst hW (by rw [hb]; exact hdg)
    (fun vm₁ hW₁ => ⟨by show cells + r.2.1 ≤ _; omega, by show slots + r.2.2 ≤ _; omega, hA.pre hO hD h0H (U := T.setVm vm₁) hT hW₁ _⟩) with ⟨v, vm₁, ⟨U', l2, c2, s2⟩, hW₁, X', ⟨w, hz, hP, g', mk, t, L, e1', e2', hq, h1', hL, h2', h3'⟩, st⟩ | ⟨q, vm₁, ⟨U', l2, c2, s2⟩, hW₁, X', ⟨x, hz, hP, g', mk, t, L, ce, e1', e2', hq, hce, hcv, hcl, hq2, h1', hL, h2', h3'⟩, st⟩
  · dsimp only [Pt.U, Pt.locs, Pt.cells, Pt.slots] at X' e1' e2' hq h1' h2' h3' st
    subst h1'; subst h2'; subst h3'
    obtain ⟨hv, hq⟩ := hq
    cases hv
    obtain ⟨hle, kk⟩ := kkl w hz hP
    have hAI := hA.call (st₀ := (T.setVm vm₁).calling g' mk (Value.ref b :: As).toArray) (H1 := U'.heap) hT e1' hq hL hle
    obtain ⟨f1, f2⟩ := hA.leaves (st₀ := (T.setVm vm₁).calling g' mk (Value.ref b :: As).toArray) (H1 := U'.heap) hT e1' hq
    obtain ⟨t2, a1, b1⟩ := kk U'.heap _ _ _ hAI f1 f2 U' rfl X'
    exact ⟨t2, st t2 a1, b1⟩
  · dsimp only [Pt.U, Pt.locs, Pt.cells, Pt.slots] at X' e1' e2' hcl h1' h2' h3' st
    subst h1'; subst h2'; subst h3'
    obtain ⟨hle, kk⟩ := kkr x hz hP
    have hAI := hA.call (st₀ := (T.setVm vm₁).calling g' mk (Value.ref b :: As).toArray) (H1 := U'.heap) hT e1' hq hL hle
    obtain ⟨f1, f2⟩ := hA.leaves (st₀ := (T.setVm vm₁).calling g' mk (Value.ref b :: As).toArray) (H1 := U'.heap) hT e1' hq
    obtain ⟨t2, a1, b1⟩ := kk U'.heap _ _ _ q hAI f1 f2 ⟨hq2, ce, by rw [e1']; exact hce, hcv, vx_cls (T := T) hW₁ hcl⟩ U' rfl X'
    exact ⟨t2, st.trans a1, b1⟩
theorem p_cVW (X : cCtx p s m args c cc nL own γ) (h0H : HR γ σ0.1 s.heap) (hA : AI γ σ0 s R h r H locs cells slots) (hC : kCls ci C T N ty) (hrv : isC h b ci = true) (hM : pMet l y (wsW_ y bytes maxL ret hh) f lo γ (h, r) (.ref b :: As) z P) (hnm : kNm y C n) (h1 : Cond.methodLink own index y ∈ lw_all) (h2 : Cond.instanceMethod y ∈ lw_all) (h3 : Cond.initialized C ∈ lw_all) (h4 : Cond.codeWith y bytes maxL ret hh ∈ lw_all) (h5 : Cond.selects C y y ∈ lw_all)
    (hR : f + 1 ≤ R.frames ∧ 8 + (maxL + 11) + lo ≤ R.locals) (hn : As.length = n) (hst : st0 = As.reverse ++ .ref b :: rest) (hl : ls.size = nL) (hW : 2 * (F0 m pc ls st0).monitorRoom + (rest.map fun v => v.category).sum ≤ 8) (hdg : decode cc pc = .ok (.invokevirtual index, 3))
    (kkl : ∀ w, z = .inl w → P → ale w.2.2 r ∧ ∀ (H1 : Heap) (locs : List Loc) (cells slots : Nat), AI γ σ0 s R w.2.1 w.2.2 H1 locs cells slots → fw h r.1 H H1 → dm h w.2.1 r.1 → W p l e R s m args below meth c H1 locs cells slots Q (F0 m (pc + 3) ls (w.1.toList ++ rest)))
    (kkr : ∀ x, z = .inr x → P → ale x.2.2.2 r ∧ ∀ (H1 : Heap) (locs : List Loc) (cells slots : Nat) (q : Addr), AI γ σ0 s R x.2.2.1 x.2.2.2 H1 locs cells slots → fw h r.1 H H1 → dm h x.2.2.1 r.1 → kTh x s H1 q → vx_W p l e R s m args below meth c H1 locs cells slots Q (F0 m pc ls rest) q) : W p l e R s m args below meth c H locs cells slots Q (F0 m pc ls st0) := by
  obtain ⟨⟨hx, hb, hml, hown, hts⟩, hO, hD⟩ := X
  have hini : (Cond.initialized y.cls) ∈ lw_all := by rw [hnm.1]; exact h3
  have hK := x_back (R := R) (p := p) (e := e) (below := below) (s := s) (sargs := args) (len := 3) (W9 := 8) (bytes := bytes) (maxL := maxL) (ret := ret) hM hR.1 hR.2 (pay_in hts (lw_methW h4)) (Or.inr ⟨hh, List.mem_cons_self⟩) (fun a' U hU => word_at hU (Or.inl (by first | rfl | simp [Cond.onTables, Cond.keeps, Cond.steady])) (hts _ hini))
  obtain ⟨cellB, hcB, hoB, hclB⟩ := c_recv hC hO hD hA.1.1 hrv
  intro T hT X
  have e1 := hA.2.1
  have e2 := hA.2.2
  rcases vx_callVX X hx (C := C) (bytes := bytes) (maxL := maxL) (ret := ret) (hh := hh) hown (hts _ h1) (hts _ h2) (hts _ h5) (hts _ h4) ⟨hnm.2.1, hnm.2.2.1⟩ hK (by rw [hT]; exact hcB) hoB hclB (g := F0 m pc ls st0) rfl (hl.trans hml.symm) (argsL := As) (rest := rest) (fun sig h => hn.trans (hnm.len sig h)) hst hW (by rw [hb]; exact hdg)
    (fun vm₁ hW₁ => ⟨by show cells + r.2.1 ≤ _; omega, by show slots + r.2.2 ≤ _; omega, hA.pre hO hD h0H (U := T.setVm vm₁) hT hW₁ _⟩) with ⟨v, vm₁, ⟨U', l2, c2, s2⟩, hW₁, X', ⟨w, hz, hP, g', mk, t, L, e1', e2', hq, h1', hL, h2', h3'⟩, st⟩ | ⟨q, vm₁, ⟨U', l2, c2, s2⟩, hW₁, X', ⟨x, hz, hP, g', mk, t, L, ce, e1', e2', hq, hce, hcv, hcl, hq2, h1', hL, h2', h3'⟩, st⟩
  · dsimp only [Pt.U, Pt.locs, Pt.cells, Pt.slots] at X' e1' e2' hq h1' h2' h3' st
    subst h1'; subst h2'; subst h3'
    obtain ⟨hv, hq⟩ := hq
    cases hv
    obtain ⟨hle, kk⟩ := kkl w hz hP
    have hAI := hA.call (st₀ := (T.setVm vm₁).calling g' mk (Value.ref b :: As).toArray) (H1 := U'.heap) hT e1' hq hL hle
    obtain ⟨f1, f2⟩ := hA.leaves (st₀ := (T.setVm vm₁).calling g' mk (Value.ref b :: As).toArray) (H1 := U'.heap) hT e1' hq
    obtain ⟨t2, a1, b1⟩ := kk U'.heap _ _ _ hAI f1 f2 U' rfl X'
    exact ⟨t2, st t2 a1, b1⟩
  · dsimp only [Pt.U, Pt.locs, Pt.cells, Pt.slots] at X' e1' e2' hcl h1' h2' h3' st
    subst h1'; subst h2'; subst h3'
    obtain ⟨hle, kk⟩ := kkr x hz hP
    have hAI := hA.call (st₀ := (T.setVm vm₁).calling g' mk (Value.ref b :: As).toArray) (H1 := U'.heap) hT e1' hq hL hle
    obtain ⟨f1, f2⟩ := hA.leaves (st₀ := (T.setVm vm₁).calling g' mk (Value.ref b :: As).toArray) (H1 := U'.heap) hT e1' hq
    obtain ⟨t2, a1, b1⟩ := kk U'.heap _ _ _ q hAI f1 f2 ⟨hq2, ce, by rw [e1']; exact hce, hcv, vx_cls (T := T) hW₁ hcl⟩ U' rfl X'
    exact ⟨t2, st.trans a1, b1⟩
theorem p_cSW (X : cCtx p s m args c cc nL own γ) (h0H : HR γ σ0.1 s.heap) (hA : AI γ σ0 s R h r H locs cells slots) (hM : pMet l y (wsW_ y bytes maxL ret hh) f lo γ (h, r) (As) z P) (hnm : kNm y C n) (h1 : Cond.methodLink own index y ∈ lw_all) (h2 : Cond.static y ∈ lw_all) (h3 : Cond.initialized C ∈ lw_all) (h4 : Cond.codeWith y bytes maxL ret hh ∈ lw_all)
    (hR : f + 1 ≤ R.frames ∧ 8 + (maxL + 11) + lo ≤ R.locals) (hn : As.length = n) (hst : st0 = As.reverse ++ rest) (hl : ls.size = nL) (hW : 2 * (F0 m pc ls st0).monitorRoom + (rest.map fun v => v.category).sum ≤ 8) (hdg : decode cc pc = .ok (.invokestatic index, 3))
    (kkl : ∀ w, z = .inl w → P → ale w.2.2 r ∧ ∀ (H1 : Heap) (locs : List Loc) (cells slots : Nat), AI γ σ0 s R w.2.1 w.2.2 H1 locs cells slots → fw h r.1 H H1 → dm h w.2.1 r.1 → W p l e R s m args below meth c H1 locs cells slots Q (F0 m (pc + 3) ls (w.1.toList ++ rest)))
    (kkr : ∀ x, z = .inr x → P → ale x.2.2.2 r ∧ ∀ (H1 : Heap) (locs : List Loc) (cells slots : Nat) (q : Addr), AI γ σ0 s R x.2.2.1 x.2.2.2 H1 locs cells slots → fw h r.1 H H1 → dm h x.2.2.1 r.1 → kTh x s H1 q → vx_W p l e R s m args below meth c H1 locs cells slots Q (F0 m pc ls rest) q) : W p l e R s m args below meth c H locs cells slots Q (F0 m pc ls st0) := by
  obtain ⟨⟨hx, hb, hml, hown, hts⟩, hO, hD⟩ := X
  have hini : (Cond.initialized y.cls) ∈ lw_all := by rw [hnm.1]; exact h3
  have hK := x_back (R := R) (p := p) (e := e) (below := below) (s := s) (sargs := args) (len := 3) (W9 := 8) (bytes := bytes) (maxL := maxL) (ret := ret) hM hR.1 hR.2 (pay_in hts (lw_methW h4)) (Or.inr ⟨hh, List.mem_cons_self⟩) (fun a' U hU => word_at hU (Or.inl (by first | rfl | simp [Cond.onTables, Cond.keeps, Cond.steady])) (hts _ hini))
  intro T hT X
  have e1 := hA.2.1
  have e2 := hA.2.2
  rcases vx_callSX X hx (bytes := bytes) (maxL := maxL) (ret := ret) (hh := hh) hown (hts _ h1) (hts _ h2) (hts _ hini) (hts _ h4) ⟨hnm.2.1, hnm.2.2.1⟩ hK (g := F0 m pc ls st0) rfl (hl.trans hml.symm) (argsL := As) (rest := rest) (fun sig h => hn.trans (hnm.len sig h)) hst hW (by rw [hb]; exact hdg)
    (fun vm₁ hW₁ => ⟨by show cells + r.2.1 ≤ _; omega, by show slots + r.2.2 ≤ _; omega, hA.pre hO hD h0H (U := T.setVm vm₁) hT hW₁ _⟩) with ⟨v, vm₁, ⟨U', l2, c2, s2⟩, hW₁, X', ⟨w, hz, hP, g', mk, t, L, e1', e2', hq, h1', hL, h2', h3'⟩, st⟩ | ⟨q, vm₁, ⟨U', l2, c2, s2⟩, hW₁, X', ⟨x, hz, hP, g', mk, t, L, ce, e1', e2', hq, hce, hcv, hcl, hq2, h1', hL, h2', h3'⟩, st⟩
  · dsimp only [Pt.U, Pt.locs, Pt.cells, Pt.slots] at X' e1' e2' hq h1' h2' h3' st
    subst h1'; subst h2'; subst h3'
    obtain ⟨hv, hq⟩ := hq
    cases hv
    obtain ⟨hle, kk⟩ := kkl w hz hP
    have hAI := hA.call (st₀ := (T.setVm vm₁).calling g' mk As.toArray) (H1 := U'.heap) hT e1' hq hL hle
    obtain ⟨f1, f2⟩ := hA.leaves (st₀ := (T.setVm vm₁).calling g' mk As.toArray) (H1 := U'.heap) hT e1' hq
    obtain ⟨t2, a1, b1⟩ := kk U'.heap _ _ _ hAI f1 f2 U' rfl X'
    exact ⟨t2, st t2 a1, b1⟩
  · dsimp only [Pt.U, Pt.locs, Pt.cells, Pt.slots] at X' e1' e2' hcl h1' h2' h3' st
    subst h1'; subst h2'; subst h3'
    obtain ⟨hle, kk⟩ := kkr x hz hP
    have hAI := hA.call (st₀ := (T.setVm vm₁).calling g' mk As.toArray) (H1 := U'.heap) hT e1' hq hL hle
    obtain ⟨f1, f2⟩ := hA.leaves (st₀ := (T.setVm vm₁).calling g' mk As.toArray) (H1 := U'.heap) hT e1' hq
    obtain ⟨t2, a1, b1⟩ := kk U'.heap _ _ _ q hAI f1 f2 ⟨hq2, ce, by rw [e1']; exact hce, hcv, vx_cls (T := T) hW₁ hcl⟩ U' rfl X'
    exact ⟨t2, st.trans a1, b1⟩
end CALL9B
