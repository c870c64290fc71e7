/-! ===== calls: static, constructors, interfaces, the superclass's, private ones of a superclass ===== -/
section CALL46
variable {p : Program} {l : Launch} {e : Env} {R : Room} {s : State} {m : MethodId} {args : Array Value} {below : List Frame} {meth : Method} {c : Code} {H : Heap} {locs : List Loc} {cells slots : Nat} {Q : State → Prop}
variable {nL pc : Nat} {ls : Array Slot} {rest st0 : List Value} {γ : KG} {h h' : CH} {r r' : CR} {σ0 σ σ' : CS} {cc bytes : ByteArray} {index n maxL f lo : Nat} {y : MethodName} {ret : Option FieldType} {As : List Value} {own C : String} {ci N : Nat} {T : u_T} {ty : Nat → FieldType} {A : Nat → Prop} {sz : Nat} {a : Array Value} {v : Value} {w : Option Value} {mc ms b : Nat}
theorem kNm.len (h : kNm y C n) (sig) (hs : parseMethodDescriptor y.desc = some sig) : n = sig.parameters.length := by
  have h2 := h.2.2.2
  rw [hs] at h2
  exact (Option.some.inj h2).symm
/-- a private method is the one that is called, whatever the object's class -/
theorem c_selPriv {y2 : MethodName} (hO : kOK γ) (hD : kD γ s) (hts : ∀ w ∈ lw_all, w.before args s = true) (hy : y.cls ≠ "java/lang/invoke/MethodHandle" ∧ y.cls ≠ "java/lang/invoke/VarHandle") (h0 : Cond.selects C y2 y2 ∈ lw_all) (hc2 : y2.cls = y.cls) (h2 : Cond.privateMethod y ∈ lw_tbl) (h3 : Cond.instanceMethod y ∈ lw_all) : (Cond.selects C y y).before args s = true := by
  obtain ⟨c, r2, m2, q1, q2, q3, q4, kP, hkP, hkPi⟩ := Cond.selects_spec (hts _ h0)
  obtain ⟨mk, methM, hnamed, hmethM, -, -⟩ := Cond.instanceMethod_spec (hts _ h3)
  have hpriv : (Cond.privateMethod y).before γ.2.2.2.1 (γ.2.2.1.setVm s.vm) = true := by rw [Cond.privateMethod_setVm hD.1.alike]; exact hO.2.1 _ h2
  have hfound : s.methodFound? y.cls y.name y.desc = some mk := State.methodFound?_of_named hnamed hy
  have hf2 : s.methodFound? y2.cls y2.name y2.desc = some m2 := State.methodFound?_of_named q3 (by rw [hc2]; exact hy)
  have hr2 : r2 = m2 := Option.some.inj (q2.symm.trans hf2)
  have hcls : mk.cls = m2.cls := Option.some.inj ((findClass_of_methodNamed hnamed).symm.trans (by rw [← hc2]; exact findClass_of_methodNamed q3))
  have hsel : selectMethod {} s.vm c mk = .method mk := selectMethod_private hmethM (Cond.privateMethod_at hpriv mk methM hnamed hmethM)
  have hk2 : s.vm.classes[mk.cls]? = some kP := by rw [hcls]; exact hkP
  simp only [Cond.before, Cond.holds, Cond.value, q1, hfound, hnamed, hsel, hk2]
  simp [hkPi]

theorem a_cS (X : cCtx p s m args c cc nL own γ) (h0H : HR γ σ0.1 s.heap) (hA : AI γ σ0 s R h r H locs cells slots) (hnm : kNm y C n) (h1 : Cond.methodLink own index y ∈ lw_all) (h2 : Cond.static y ∈ lw_all) (h3 : Cond.initialized C ∈ lw_all) (h4 : Cond.code y bytes maxL ret ∈ lw_all) (hM : aMet l y (ws_ y bytes maxL ret) f lo γ (h, r) (As) w σ') (hle : ale σ'.2 r)
    (hR : f + 1 ≤ R.frames ∧ 8 + (maxL + 11) + lo ≤ R.locals) (hn : As.length = n) (hst : st0 = As.reverse ++ rest) (hl : ls.size = nL) (hW : 2 * (F0 m pc ls st0).monitorRoom + (rest.map fun v => v.category).sum ≤ 8) (hdg : decode cc pc = .ok (.invokestatic index, 3))
    (kk : ∀ (H : Heap) (locs : List Loc) (cells slots : Nat), AI γ σ0 s R σ'.1 σ'.2 H locs cells slots → W p l e R s m args below meth c H locs cells slots Q (F0 m (pc + 3) ls (w.toList ++ rest))) : W p l e R s m args below meth c H locs cells slots Q (F0 m pc ls st0) := by
  obtain ⟨⟨hx, hb, hml, hown, hts⟩, hO, hD⟩ := X
  have hini : (Cond.initialized y.cls) ∈ lw_all := by rw [hnm.1]; exact h3
  have hK : Back l R p e below s args y 3 8 (kPre R (aRm f lo (h, r)) (aPc γ (h, r) (As))) (PostOf (aPost γ (h, r) w σ') (r.2.1 - σ'.2.2.1) (r.2.2 - σ'.2.2.2) (kA h r.1)) := k_back (bytes := bytes) (maxL := maxL) (ret := ret) hM (aPc_blind _) hR.1 hR.2 (pay_in hts (lw_meth h4)) List.mem_cons_self (hts _ hini)
  refine a_go (a := (As).toArray) ?_ hA hle kk
  intro T hT X
  have e1 := hA.2.1
  have e2 := hA.2.2
  obtain ⟨v, vm₁, ⟨U', l2, c2, s2⟩, hW₁, X', ⟨g', mk, t, L, e1, e2, hq, h1, hL, h2, h3⟩, st⟩ := callS X hx (bytes := bytes) (maxL := maxL) (ret := ret) hown (hts _ h1) (hts _ h2) (hts _ hini) (hts _ h4) ⟨hnm.2.1, hnm.2.2.1⟩ hK rfl (hl.trans hml.symm) (argsL := As) (rest := rest) (fun sig h => hn.trans (hnm.len sig h)) hst hW (by rw [hb]; exact hdg)
    (fun vm₁ hW₁ => ⟨by show cells + r.2.1 ≤ _; omega, by show slots + r.2.2 ≤ _; omega, hA.pre hO hD h0H (U := T.setVm vm₁) hT hW₁ _⟩)
  dsimp only [Pt.U, Pt.locs, Pt.cells, Pt.slots] at X' e1 e2 h1 h2 h3 st
  subst h1; subst h2; subst h3
  exact ⟨v, (T.setVm vm₁).calling g' mk (As).toArray, t, U', L, hT, X', hL, e1, e2, hq, st⟩

theorem a_cI (X : cCtx p s m args c cc nL own γ) (h0H : HR γ σ0.1 s.heap) (hA : AI γ σ0 s R h r H locs cells slots) (hnm : kNm y C n) (h1 : Cond.methodLink own index y ∈ lw_all) (h2 : Cond.instanceMethod y ∈ lw_all) (h3 : Cond.initialized C ∈ lw_all) (h4 : Cond.code y bytes maxL none ∈ lw_all) (hy1 : y.name = "<init>") (hM : aMet l y (ws_ y bytes maxL none) f lo γ (h, r) (.ref b :: As) w σ') (hle : ale σ'.2 r)
    (hR : f + 1 ≤ R.frames ∧ 8 + (maxL + 11) + lo ≤ R.locals) (hn : As.length = n) (hst : st0 = As.reverse ++ .ref b :: rest) (hl : ls.size = nL) (hW : 2 * (F0 m pc ls st0).monitorRoom + (rest.map fun v => v.category).sum ≤ 8) (hdg : decode cc pc = .ok (.invokespecial index, 3))
    (kk : ∀ (H : Heap) (locs : List Loc) (cells slots : Nat), AI γ σ0 s R σ'.1 σ'.2 H locs cells slots → W p l e R s m args below meth c H locs cells slots Q (F0 m (pc + 3) ls (w.toList ++ rest))) : W p l e R s m args below meth c H locs cells slots Q (F0 m pc ls st0) := by
  obtain ⟨⟨hx, hb, hml, hown, hts⟩, hO, hD⟩ := X
  have hini : (Cond.initialized y.cls) ∈ lw_all := by rw [hnm.1]; exact h3
  have hK : Back l R p e below s args y 3 8 (kPre R (aRm f lo (h, r)) (aPc γ (h, r) (.ref b :: As))) (PostOf (aPost γ (h, r) w σ') (r.2.1 - σ'.2.2.1) (r.2.2 - σ'.2.2.2) (kA h r.1)) := k_back (bytes := bytes) (maxL := maxL) (ret := none) hM (aPc_blind _) hR.1 hR.2 (pay_in hts (lw_meth h4)) List.mem_cons_self (hts _ hini)
  refine a_go (a := (.ref b :: As).toArray) ?_ hA hle kk
  intro T hT X
  have e1 := hA.2.1
  have e2 := hA.2.2
  obtain ⟨v, vm₁, ⟨U', l2, c2, s2⟩, hW₁, X', ⟨g', mk, t, L, e1, e2, hq, h1, hL, h2, h3⟩, st⟩ := callI X hx (bytes := bytes) (maxL := maxL) hown hy1 (hts _ h1) (hts _ h2) (hts _ h4) ⟨hnm.2.1, hnm.2.2.1⟩ hK rfl (hl.trans hml.symm) (a := b) (argsL := As) (rest := rest) (fun sig h => hn.trans (hnm.len sig h)) hst hW (by rw [hb]; exact hdg)
    (fun vm₁ hW₁ => ⟨by show cells + r.2.1 ≤ _; omega, by show slots + r.2.2 ≤ _; omega, hA.pre hO hD h0H (U := T.setVm vm₁) hT hW₁ _⟩)
  dsimp only [Pt.U, Pt.locs, Pt.cells, Pt.slots] at X' e1 e2 h1 h2 h3 st
  subst h1; subst h2; subst h3
  exact ⟨v, (T.setVm vm₁).calling g' mk (.ref b :: As).toArray, t, U', L, hT, X', hL, e1, e2, hq, st⟩

theorem a_cIN (X : cCtx p s m args c cc nL own γ) (h0H : HR γ σ0.1 s.heap) (hA : AI γ σ0 s R h r H locs cells slots) (hnm : kNm y C n) {host : String} (h1 : Cond.methodLinkNest own index y host ∈ lw_tbl) (h2 : Cond.instanceMethod y ∈ lw_all) (h3 : Cond.initialized C ∈ lw_all) (h4 : Cond.code y bytes maxL none ∈ lw_all) (hy1 : y.name = "<init>") (hM : aMet l y (ws_ y bytes maxL none) f lo γ (h, r) (.ref b :: As) w σ') (hle : ale σ'.2 r)
    (hR : f + 1 ≤ R.frames ∧ 8 + (maxL + 11) + lo ≤ R.locals) (hn : As.length = n) (hst : st0 = As.reverse ++ .ref b :: rest) (hl : ls.size = nL) (hW : 2 * (F0 m pc ls st0).monitorRoom + (rest.map fun v => v.category).sum ≤ 8) (hdg : decode cc pc = .ok (.invokespecial index, 3))
    (kk : ∀ (H : Heap) (locs : List Loc) (cells slots : Nat), AI γ σ0 s R σ'.1 σ'.2 H locs cells slots → W p l e R s m args below meth c H locs cells slots Q (F0 m (pc + 3) ls (w.toList ++ rest))) : W p l e R s m args below meth c H locs cells slots Q (F0 m pc ls st0) := by
  obtain ⟨⟨hx, hb, hml, hown, hts⟩, hO, hD⟩ := X
  have hini : (Cond.initialized y.cls) ∈ lw_all := by rw [hnm.1]; exact h3
  have hK : Back l R p e below s args y 3 8 (kPre R (aRm f lo (h, r)) (aPc γ (h, r) (.ref b :: As))) (PostOf (aPost γ (h, r) w σ') (r.2.1 - σ'.2.2.1) (r.2.2 - σ'.2.2.2) (kA h r.1)) := k_back (bytes := bytes) (maxL := maxL) (ret := none) hM (aPc_blind _) hR.1 hR.2 (pay_in hts (lw_meth h4)) List.mem_cons_self (hts _ hini)
  refine a_go (a := (.ref b :: As).toArray) ?_ hA hle kk
  intro T hT X
  have e1 := hA.2.1
  have e2 := hA.2.2
  obtain ⟨v, vm₁, ⟨U', l2, c2, s2⟩, hW₁, X', ⟨g', mk, t, L, e1, e2, hq, h1, hL, h2, h3⟩, st⟩ := va_callIN X hx (bytes := bytes) (maxL := maxL) hown hy1 (va_Nw.use rfl (c_nestM hO hD h1)) (hts _ h2) (hts _ h4) ⟨hnm.2.1, hnm.2.2.1⟩ hK rfl (hl.trans hml.symm) (a := b) (argsL := As) (rest := rest) (fun sig h => hn.trans (hnm.len sig h)) hst hW (by rw [hb]; exact hdg)
    (fun vm₁ hW₁ => ⟨by show cells + r.2.1 ≤ _; omega, by show slots + r.2.2 ≤ _; omega, hA.pre hO hD h0H (U := T.setVm vm₁) hT hW₁ _⟩)
  dsimp only [Pt.U, Pt.locs, Pt.cells, Pt.slots] at X' e1 e2 h1 h2 h3 st
  subst h1; subst h2; subst h3
  exact ⟨v, (T.setVm vm₁).calling g' mk (.ref b :: As).toArray, t, U', L, hT, X', hL, e1, e2, hq, st⟩

theorem a_cF (X : cCtx p s m args c cc nL own γ) (h0H : HR γ σ0.1 s.heap) (hA : AI γ σ0 s R h r H locs cells slots) {x : MethodName} {count : Nat} (hC : kCls ci C T N ty) (hrv : isC h b ci = true) (hnm : kNm x x.cls n) (h1 : Cond.methodLink own index x ∈ lw_all) (h2 : Cond.instanceMethod y ∈ lw_all) (h3 : Cond.initialized y.cls ∈ lw_all) (h4 : Cond.code y bytes maxL ret ∈ lw_all) (h5 : Cond.selects C x y ∈ lw_all) (f1 : Cond.declares x ∈ lw_tbl) (f2 : Cond.interfaceMethod x.cls x.cls x.name x.desc ∈ lw_tbl) (f3 : Cond.publicMethod y ∈ lw_tbl) (f4 : Cond.unhidden C x.name x.desc ∈ lw_tbl) (f5 : Cond.castable C x.cls ∈ lw_tbl) (hM : aMet l y (ws_ y bytes maxL ret) f lo γ (h, r) (.ref b :: As) w σ') (hle : ale σ'.2 r)
    (hR : f + 1 ≤ R.frames ∧ 8 + (maxL + 11) + lo ≤ R.locals) (hn : As.length = n) (hst : st0 = As.reverse ++ .ref b :: rest) (hl : ls.size = nL) (hW : 2 * (F0 m pc ls st0).monitorRoom + (rest.map fun v => v.category).sum ≤ 8) (hdg : decode cc pc = .ok (.invokeinterface index count, 5))
    (kk : ∀ (H : Heap) (locs : List Loc) (cells slots : Nat), AI γ σ0 s R σ'.1 σ'.2 H locs cells slots → W p l e R s m args below meth c H locs cells slots Q (F0 m (pc + 5) ls (w.toList ++ rest))) : W p l e R s m args below meth c H locs cells slots Q (F0 m pc ls st0) := by
  obtain ⟨⟨hx, hb, hml, hown, hts⟩, hO, hD⟩ := X
  have hini : (Cond.initialized y.cls) ∈ lw_all := h3
  have hin : ∀ w ∈ ([.methodLink own index x, .selects C x y, .instanceMethod y, .initialized y.cls] : List Cond), w ∈ lw_all := by
    intro w hw
    simp only [List.mem_cons, List.not_mem_nil, or_false] at hw
    rcases hw with e | e | e | e
    · rw [e]; exact h1
    · rw [e]; exact h5
    · rw [e]; exact h2
    · rw [e]; exact h3
  obtain ⟨cellB, hcB, hoB, hclB⟩ := c_recv hC hO hD hA.1.1 hrv
  have cw := va_cwF (R := R) (s := s) (args := args) (rm := kRm f lo) (mc := 0) (ms := 0) n hts (lw_app hin (lw_meth h4)) rfl rfl rfl (c_face ⟨hnm.2.1, hnm.2.2.1⟩ hO hD f1 f2 f3 f4 f5) ⟨hnm.2.1, hnm.2.2.1, hnm.2.2.2⟩ hR
  obtain ⟨hfc, kB, hkB, -⟩ := ((hD.K hO).1 ci _ hC.1).2
  have hcc : cellB.cls = γ.1.1 ci := Option.some.inj (hclB.symm.trans hfc)
  rw [← hcc] at hkB
  have hK : Back l R p e below s args y 5 8 (kPre R (aRm f lo (h, r)) (aPc γ (h, r) (.ref b :: As))) (PostOf (aPost γ (h, r) w σ') (r.2.1 - σ'.2.2.1) (r.2.2 - σ'.2.2.2) (kA h r.1)) := k_back (bytes := bytes) (maxL := maxL) (ret := ret) hM (aPc_blind _) hR.1 hR.2 (pay_in hts (lw_meth h4)) List.mem_cons_self (hts _ hini)
  refine a_go5 (a := (.ref b :: As).toArray) ?_ hA hle kk
  intro T hT X
  have e1 := hA.2.1
  have e2 := hA.2.2
  obtain ⟨v, vm₁, ⟨U', l2, c2, s2⟩, hW₁, X', ⟨g', mk, t, L, e1, e2, hq, h1, hL, h2, h3⟩, st⟩ := va_callIF X hx (C := C) (bytes := bytes) (maxL := maxL) (ret := ret) hown cw.link cw.decl cw.face cw.sel cw.inst cw.pub cw.unh cw.cast cw.code cw.notMH hK (by rw [hT]; exact hcB) hoB hclB hkB rfl (hl.trans hml.symm) (argsL := As) (rest := rest) (fun sig h => hn.trans (cw.len sig h)) hst hW (by rw [hb]; exact hdg)
    (fun vm₁ hW₁ => ⟨by show cells + r.2.1 ≤ _; omega, by show slots + r.2.2 ≤ _; omega, hA.pre hO hD h0H (U := T.setVm vm₁) hT hW₁ _⟩)
  dsimp only [Pt.U, Pt.locs, Pt.cells, Pt.slots] at X' e1 e2 h1 h2 h3 st
  subst h1; subst h2; subst h3
  exact ⟨v, (T.setVm vm₁).calling g' mk (.ref b :: As).toArray, t, U', L, hT, X', hL, e1, e2, hq, st⟩

theorem a_cVx (X : cCtx p s m args c cc nL own γ) (h0H : HR γ σ0.1 s.heap) (hA : AI γ σ0 s R h r H locs cells slots) (hC : kCls ci C T N ty) (hrv : isC h b ci = true) (hnm : kNm y y.cls n) (h1 : Cond.methodLink own index y ∈ lw_all) (h2 : Cond.instanceMethod y ∈ lw_all) (h3 : Cond.initialized y.cls ∈ lw_all) (h4 : Cond.code y bytes maxL ret ∈ lw_all) (h5 : (Cond.selects C y y).before args s = true) (hM : aMet l y (ws_ y bytes maxL ret) f lo γ (h, r) (.ref b :: As) w σ') (hle : ale σ'.2 r)
    (hR : f + 1 ≤ R.frames ∧ 8 + (maxL + 11) + lo ≤ R.locals) (hn : As.length = n) (hst : st0 = As.reverse ++ .ref b :: rest) (hl : ls.size = nL) (hW : 2 * (F0 m pc ls st0).monitorRoom + (rest.map fun v => v.category).sum ≤ 8) (hdg : decode cc pc = .ok (.invokevirtual index, 3))
    (kk : ∀ (H : Heap) (locs : List Loc) (cells slots : Nat), AI γ σ0 s R σ'.1 σ'.2 H locs cells slots → W p l e R s m args below meth c H locs cells slots Q (F0 m (pc + 3) ls (w.toList ++ rest))) : W p l e R s m args below meth c H locs cells slots Q (F0 m pc ls st0) := by
  obtain ⟨⟨hx, hb, hml, hown, hts⟩, hO, hD⟩ := X
  have hini : (Cond.initialized y.cls) ∈ lw_all := h3
  obtain ⟨cellB, hcB, hoB, hclB⟩ := c_recv hC hO hD hA.1.1 hrv
  have hK : Back l R p e below s args y 3 8 (kPre R (aRm f lo (h, r)) (aPc γ (h, r) (.ref b :: As))) (PostOf (aPost γ (h, r) w σ') (r.2.1 - σ'.2.2.1) (r.2.2 - σ'.2.2.2) (kA h r.1)) := k_back (bytes := bytes) (maxL := maxL) (ret := ret) hM (aPc_blind _) hR.1 hR.2 (pay_in hts (lw_meth h4)) List.mem_cons_self (hts _ hini)
  refine a_go (a := (.ref b :: As).toArray) ?_ hA hle kk
  intro T hT X
  have e1 := hA.2.1
  have e2 := hA.2.2
  obtain ⟨v, vm₁, ⟨U', l2, c2, s2⟩, hW₁, X', ⟨g', mk, t, L, e1, e2, hq, h1, hL, h2, h3⟩, st⟩ := callV X hx (C := C) (bytes := bytes) (maxL := maxL) (ret := ret) hown (hts _ h1) (hts _ h2) h5 (hts _ h4) ⟨hnm.2.1, hnm.2.2.1⟩ hK (by rw [hT]; exact hcB) hoB hclB rfl (hl.trans hml.symm) (argsL := As) (rest := rest) (fun sig h => hn.trans (hnm.len sig h)) hst hW (by rw [hb]; exact hdg)
    (fun vm₁ hW₁ => ⟨by show cells + r.2.1 ≤ _; omega, by show slots + r.2.2 ≤ _; omega, hA.pre hO hD h0H (U := T.setVm vm₁) hT hW₁ _⟩)
  dsimp only [Pt.U, Pt.locs, Pt.cells, Pt.slots] at X' e1 e2 h1 h2 h3 st
  subst h1; subst h2; subst h3
  exact ⟨v, (T.setVm vm₁).calling g' mk (.ref b :: As).toArray, t, U', L, hT, X', hL, e1, e2, hq, st⟩

theorem a_cSU (X : cCtx p s m args c cc nL own γ) (h0H : HR γ σ0.1 s.heap) (hA : AI γ σ0 s R h r H locs cells slots) (hC : kCls ci C T N ty) (hrv : isC h b ci = true) (hnm : kNm y y.cls n) (h1 : Cond.methodLink own index y ∈ lw_all) (h2 : Cond.instanceMethod y ∈ lw_all) (h3 : Cond.initialized y.cls ∈ lw_all) (h4 : Cond.code y bytes maxL ret ∈ lw_all) (h5 : Cond.sameMethod y.cls y.cls y.name y.desc ∈ lw_all) (h6 : Cond.superclass own y.cls ∈ lw_all) (hno : y.name ≠ "<init>") (hM : aMet l y (ws_ y bytes maxL ret) f lo γ (h, r) (.ref b :: As) w σ') (hle : ale σ'.2 r)
    (hR : f + 1 ≤ R.frames ∧ 8 + (maxL + 11) + lo ≤ R.locals) (hn : As.length = n) (hst : st0 = As.reverse ++ .ref b :: rest) (hl : ls.size = nL) (hW : 2 * (F0 m pc ls st0).monitorRoom + (rest.map fun v => v.category).sum ≤ 8) (hdg : decode cc pc = .ok (.invokespecial index, 3))
    (kk : ∀ (H : Heap) (locs : List Loc) (cells slots : Nat), AI γ σ0 s R σ'.1 σ'.2 H locs cells slots → W p l e R s m args below meth c H locs cells slots Q (F0 m (pc + 3) ls (w.toList ++ rest))) : W p l e R s m args below meth c H locs cells slots Q (F0 m pc ls st0) := by
  obtain ⟨⟨hx, hb, hml, hown, hts⟩, hO, hD⟩ := X
  have hini : (Cond.initialized y.cls) ∈ lw_all := h3
  obtain ⟨cellB, hcB, hoB, hclB⟩ := c_recv hC hO hD hA.1.1 hrv
  obtain ⟨hfc, kB, hkB, -⟩ := ((hD.K hO).1 ci _ hC.1).2
  have hcc : cellB.cls = γ.1.1 ci := Option.some.inj (hclB.symm.trans hfc)
  rw [← hcc] at hkB
  have hK : Back l R p e below s args y 3 8 (kPre R (aRm f lo (h, r)) (aPc γ (h, r) (.ref b :: As))) (PostOf (aPost γ (h, r) w σ') (r.2.1 - σ'.2.2.1) (r.2.2 - σ'.2.2.2) (kA h r.1)) := k_back (bytes := bytes) (maxL := maxL) (ret := ret) hM (aPc_blind _) hR.1 hR.2 (pay_in hts (lw_meth h4)) List.mem_cons_self (hts _ hini)
  refine a_go (a := (.ref b :: As).toArray) ?_ hA hle kk
  intro T hT X
  have e1 := hA.2.1
  have e2 := hA.2.2
  obtain ⟨v, vm₁, ⟨U', l2, c2, s2⟩, hW₁, X', ⟨g', mk, t, L, e1, e2, hq, h1, hL, h2, h3⟩, st⟩ := va_callSU X hx (bytes := bytes) (maxL := maxL) (ret := ret) hown (hts _ h1) (hts _ h5) (hts _ h6) (hts _ h2) (hts _ h4) hno hK (by rw [hT]; exact hcB) hoB hkB rfl (hl.trans hml.symm) (argsL := As) (rest := rest) (fun sig h => hn.trans (hnm.len sig h)) hst hW (by rw [hb]; exact hdg)
    (fun vm₁ hW₁ => ⟨by show cells + r.2.1 ≤ _; omega, by show slots + r.2.2 ≤ _; omega, hA.pre hO hD h0H (U := T.setVm vm₁) hT hW₁ _⟩)
  dsimp only [Pt.U, Pt.locs, Pt.cells, Pt.slots] at X' e1 e2 h1 h2 h3 st
  subst h1; subst h2; subst h3
  exact ⟨v, (T.setVm vm₁).calling g' mk (.ref b :: As).toArray, t, U', L, hT, X', hL, e1, e2, hq, st⟩

theorem c_cNI (X : cCtx p s m args c cc nL own γ) (hAF : ∀ q, A q → γ.2.2.2.2.1 q) (hI : NI γ A sz s h H locs) (hnm : kNm y C n) (h1 : Cond.methodLink own index y ∈ lw_all) (h2 : Cond.instanceMethod y ∈ lw_all) (h3 : Cond.initialized C ∈ lw_all) (h4 : Cond.code y bytes maxL none ∈ lw_all) (hy1 : y.name = "<init>") (hM : Met l y (ws_ y bytes maxL none) (kRm f lo) (cPc γ h (.ref b :: As)) (cNq γ h w h') 0 0 (kdm h))
    (hRR : cells + 0 ≤ R.cells ∧ slots + 0 ≤ R.slots) (hR : f + 1 ≤ R.frames ∧ 8 + (maxL + 11) + lo ≤ R.locals) (hn : As.length = n) (hst : st0 = As.reverse ++ .ref b :: rest) (hl : ls.size = nL) (hW : 2 * (F0 m pc ls st0).monitorRoom + (rest.map fun v => v.category).sum ≤ 8) (hdg : decode cc pc = .ok (.invokespecial index, 3))
    (kk : ∀ (H : Heap) (locs : List Loc), NI γ A sz s h' H locs → W p l e R s m args below meth c H locs cells slots Q (F0 m (pc + 3) ls (w.toList ++ rest))) : W p l e R s m args below meth c H locs cells slots Q (F0 m pc ls st0) := by
  obtain ⟨hF, hO, hD⟩ := X
  have hts := hF.2.2.2.2
  exact c_goN (va_runI (b := b) hF hM (cwI n hts (lw_meth h4) rfl rfl rfl (hts _ (by rw [hnm.1]; exact h3)) (hts _ h1) (hts _ h2) hy1 ⟨hnm.2.1, hnm.2.2.1, hnm.2.2.2⟩ hR) ⟨cPc_blind _, fun U hU hW => ⟨rfl, hI.D hD hAF hU hW, by rw [hU]; exact hI.1⟩⟩ rfl hn hl hst hW hdg hRR) hI kk

theorem c_cNIN (X : cCtx p s m args c cc nL own γ) (hAF : ∀ q, A q → γ.2.2.2.2.1 q) (hI : NI γ A sz s h H locs) {host : String} (hnm : kNm y C n) (h1 : Cond.methodLinkNest own index y host ∈ lw_tbl) (h2 : Cond.instanceMethod y ∈ lw_all) (h3 : Cond.initialized C ∈ lw_all) (h4 : Cond.code y bytes maxL none ∈ lw_all) (hy1 : y.name = "<init>") (hM : Met l y (ws_ y bytes maxL none) (kRm f lo) (cPc γ h (.ref b :: As)) (cNq γ h w h') 0 0 (kdm h))
    (hRR : cells + 0 ≤ R.cells ∧ slots + 0 ≤ R.slots) (hR : f + 1 ≤ R.frames ∧ 8 + (maxL + 11) + lo ≤ R.locals) (hn : As.length = n) (hst : st0 = As.reverse ++ .ref b :: rest) (hl : ls.size = nL) (hW : 2 * (F0 m pc ls st0).monitorRoom + (rest.map fun v => v.category).sum ≤ 8) (hdg : decode cc pc = .ok (.invokespecial index, 3))
    (kk : ∀ (H : Heap) (locs : List Loc), NI γ A sz s h' H locs → W p l e R s m args below meth c H locs cells slots Q (F0 m (pc + 3) ls (w.toList ++ rest))) : W p l e R s m args below meth c H locs cells slots Q (F0 m pc ls st0) := by
  obtain ⟨hF, hO, hD⟩ := X
  have hts := hF.2.2.2.2
  exact c_goN (va_runIN (b := b) hF hM ⟨va_cnB n hts (lw_meth h4) rfl rfl rfl (c_nestM hO hD h1) (hts _ (by rw [hnm.1]; exact h3)) ⟨hnm.2.1, hnm.2.2.1, hnm.2.2.2⟩ hR, hy1, hts _ h2⟩ ⟨cPc_blind _, fun U hU hW => ⟨rfl, hI.D hD hAF hU hW, by rw [hU]; exact hI.1⟩⟩ rfl hn hl hst hW hdg hRR) hI kk

theorem c_cNx (X : cCtx p s m args c cc nL own γ) (hAF : ∀ q, A q → γ.2.2.2.2.1 q) (hI : NI γ A sz s h H locs) (hC : kCls ci C T N ty) (hrv : isC h b ci = true) (hnm : kNm y y.cls n) (h1 : Cond.methodLink own index y ∈ lw_all) (h2 : Cond.instanceMethod y ∈ lw_all) (h3 : Cond.initialized y.cls ∈ lw_all) (h4 : Cond.code y bytes maxL ret ∈ lw_all) (h5 : (Cond.selects C y y).before args s = true) (hM : Met l y (ws_ y bytes maxL ret) (kRm f lo) (cPc γ h (.ref b :: As)) (cNq γ h w h') 0 0 (kdm h))
    (hRR : cells + 0 ≤ R.cells ∧ slots + 0 ≤ R.slots) (hR : f + 1 ≤ R.frames ∧ 8 + (maxL + 11) + lo ≤ R.locals) (hn : As.length = n) (hst : st0 = As.reverse ++ .ref b :: rest) (hl : ls.size = nL) (hW : 2 * (F0 m pc ls st0).monitorRoom + (rest.map fun v => v.category).sum ≤ 8) (hdg : decode cc pc = .ok (.invokevirtual index, 3))
    (kk : ∀ (H : Heap) (locs : List Loc), NI γ A sz s h' H locs → W p l e R s m args below meth c H locs cells slots Q (F0 m (pc + 3) ls (w.toList ++ rest))) : W p l e R s m args below meth c H locs cells slots Q (F0 m pc ls st0) := by
  obtain ⟨hF, hO, hD⟩ := X
  have hts := hF.2.2.2.2
  exact c_goN (va_runV (b := b) hF hM ⟨callB_of n hts (lw_meth h4) rfl rfl rfl (hts _ h3) (hts _ h1) ⟨hnm.2.1, hnm.2.2.1, hnm.2.2.2⟩ hR, hts _ h2, h5⟩ ⟨cPc_blind _, c_recv hC hO hD hI.1 hrv, fun U hU hW => ⟨rfl, hI.D hD hAF hU hW, by rw [hU]; exact hI.1⟩⟩ rfl hn hl hst hW hdg hRR) hI kk

theorem c_cRx (X : cCtx p s m args c cc nL own γ) (hH : HR γ h H) (hDU : ∀ U : State, U.heap = H → s.WarmedH U.vm → kD γ U) (hC : kCls ci C T N ty) (hrv : isC h b ci = true) (hnm : kNm y y.cls n) (h1 : Cond.methodLink own index y ∈ lw_all) (h2 : Cond.instanceMethod y ∈ lw_all) (h3 : Cond.initialized y.cls ∈ lw_all) (h4 : Cond.code y bytes maxL ret ∈ lw_all) (h5 : (Cond.selects C y y).before args s = true) (hM : Met l y (ws_ y bytes maxL ret) (kRm f lo) (cPc γ h (.ref b :: As)) (cRq v) 0 0 vp_nf)
    (hRR : cells + 0 ≤ R.cells ∧ slots + 0 ≤ R.slots) (hR : f + 1 ≤ R.frames ∧ 8 + (maxL + 11) + lo ≤ R.locals) (hn : As.length = n) (hst : st0 = As.reverse ++ .ref b :: rest) (hl : ls.size = nL) (hW : 2 * (F0 m pc ls st0).monitorRoom + (rest.map fun v => v.category).sum ≤ 8) (hdg : decode cc pc = .ok (.invokevirtual index, 3))
    (kk : W p l e R s m args below meth c H locs cells slots Q (F0 m (pc + 3) ls (v :: rest))) : W p l e R s m args below meth c H locs cells slots Q (F0 m pc ls st0) := by
  obtain ⟨hF, hO, hD⟩ := X
  have hts := hF.2.2.2.2
  exact c_goR (W.runV (b := b) hF hM ⟨callB_of n hts (lw_meth h4) rfl rfl rfl (hts _ h3) (hts _ h1) ⟨hnm.2.1, hnm.2.2.1, hnm.2.2.2⟩ hR, hts _ h2, h5⟩ ⟨cPc_blind _, c_recv hC hO hD hH hrv, fun U hU hW => ⟨rfl, hDU U hU hW, by rw [hU]; exact hH⟩⟩ rfl hn hl hst hW hdg hRR) kk

theorem va_Run.toC {Qa : State → Outcome → State → Prop} {free : Addr → Prop} {g : JFrame} (h : va_Run p l e R s m args below meth c H locs cells slots mc ms g rest Qa free) : CallRun p l e R s m args below meth c H locs cells slots mc ms g rest Qa free := by
  intro T hT X
  obtain ⟨v, st₀, t, T', L, h0, X', hL, e1, _, hq, st⟩ := h T hT X
  exact ⟨v, st₀, t, T', L, h0, X', hL, e1, hq, st⟩

theorem c_cRSU (X : cCtx p s m args c cc nL own γ) (hH : HR γ h H) (hDU : ∀ U : State, U.heap = H → s.WarmedH U.vm → kD γ U) (hC : kCls ci C T N ty) (hrv : isC h b ci = true) (hnm : kNm y y.cls n) (h1 : Cond.methodLink own index y ∈ lw_all) (h2 : Cond.instanceMethod y ∈ lw_all) (h3 : Cond.initialized y.cls ∈ lw_all) (h4 : Cond.code y bytes maxL ret ∈ lw_all) (h5 : Cond.sameMethod y.cls y.cls y.name y.desc ∈ lw_all) (h6 : Cond.superclass own y.cls ∈ lw_all) (hno : y.name ≠ "<init>") (hM : Met l y (ws_ y bytes maxL ret) (kRm f lo) (cPc γ h (.ref b :: As)) (cRq v) 0 0 vp_nf)
    (hRR : cells + 0 ≤ R.cells ∧ slots + 0 ≤ R.slots) (hR : f + 1 ≤ R.frames ∧ 8 + (maxL + 11) + lo ≤ R.locals) (hn : As.length = n) (hst : st0 = As.reverse ++ .ref b :: rest) (hl : ls.size = nL) (hW : 2 * (F0 m pc ls st0).monitorRoom + (rest.map fun v => v.category).sum ≤ 8) (hdg : decode cc pc = .ok (.invokespecial index, 3))
    (kk : W p l e R s m args below meth c H locs cells slots Q (F0 m (pc + 3) ls (v :: rest))) : W p l e R s m args below meth c H locs cells slots Q (F0 m pc ls st0) := by
  obtain ⟨hF, hO, hD⟩ := X
  have hts := hF.2.2.2.2
  exact c_goR ((va_runSU (b := b) ((hD.K hO).1 ci _ hC.1).2 hF hM (va_cwSU n hts (lw_app (a := [.methodLink own index y, .sameMethod y.cls y.cls y.name y.desc, .superclass own y.cls, .instanceMethod y, .initialized y.cls]) (fun w hw => by
    simp only [List.mem_cons, List.not_mem_nil, or_false] at hw
    rcases hw with e | e | e | e | e
    · rw [e]; exact h1
    · rw [e]; exact h5
    · rw [e]; exact h6
    · rw [e]; exact h2
    · rw [e]; exact h3) (lw_meth h4)) rfl rfl rfl ⟨hno, hnm.2.2.2⟩ hR) ⟨cPc_blind _, c_recv hC hO hD hH hrv, fun U hU hW => ⟨rfl, hDU U hU hW, by rw [hU]; exact hH⟩⟩ rfl hn hl hst hW hdg hRR).toC) kk

theorem c_cNF (X : cCtx p s m args c cc nL own γ) (hAF : ∀ q, A q → γ.2.2.2.2.1 q) (hI : NI γ A sz s h H locs) {x : MethodName} {count : Nat} (hC : kCls ci C T N ty) (hrv : isC h b ci = true) (hnm : kNm x x.cls n) (h1 : Cond.methodLink own index x ∈ lw_all) (h2 : Cond.instanceMethod y ∈ lw_all) (h3 : Cond.initialized y.cls ∈ lw_all) (h4 : Cond.code y bytes maxL ret ∈ lw_all) (h5 : Cond.selects C x y ∈ lw_all) (f1 : Cond.declares x ∈ lw_tbl) (f2 : Cond.interfaceMethod x.cls x.cls x.name x.desc ∈ lw_tbl) (f3 : Cond.publicMethod y ∈ lw_tbl) (f4 : Cond.unhidden C x.name x.desc ∈ lw_tbl) (f5 : Cond.castable C x.cls ∈ lw_tbl) (hM : Met l y (ws_ y bytes maxL ret) (kRm f lo) (cPc γ h (.ref b :: As)) (cNq γ h w h') 0 0 (kdm h))
    (hRR : cells + 0 ≤ R.cells ∧ slots + 0 ≤ R.slots) (hR : f + 1 ≤ R.frames ∧ 8 + (maxL + 11) + lo ≤ R.locals) (hn : As.length = n) (hst : st0 = As.reverse ++ .ref b :: rest) (hl : ls.size = nL) (hW : 2 * (F0 m pc ls st0).monitorRoom + (rest.map fun v => v.category).sum ≤ 8) (hdg : decode cc pc = .ok (.invokeinterface index count, 5))
    (kk : ∀ (H : Heap) (locs : List Loc), NI γ A sz s h' H locs → W p l e R s m args below meth c H locs cells slots Q (F0 m (pc + 5) ls (w.toList ++ rest))) : W p l e R s m args below meth c H locs cells slots Q (F0 m pc ls st0) := by
  obtain ⟨hF, hO, hD⟩ := X
  have hts := hF.2.2.2.2
  exact c_goN5 (va_runF (b := b) ((hD.K hO).1 ci _ hC.1).2 hF hM (va_cwF n hts (lw_app (a := [.methodLink own index x, .selects C x y, .instanceMethod y, .initialized y.cls]) (fun w hw => by
    simp only [List.mem_cons, List.not_mem_nil, or_false] at hw
    rcases hw with e | e | e | e
    · rw [e]; exact h1
    · rw [e]; exact h5
    · rw [e]; exact h2
    · rw [e]; exact h3) (lw_meth h4)) rfl rfl rfl (c_face ⟨hnm.2.1, hnm.2.2.1⟩ hO hD f1 f2 f3 f4 f5) ⟨hnm.2.1, hnm.2.2.1, hnm.2.2.2⟩ hR) ⟨cPc_blind _, c_recv hC hO hD hI.1 hrv, fun U hU hW => ⟨rfl, hI.D hD hAF hU hW, by rw [hU]; exact hI.1⟩⟩ rfl hn hl hst hW hdg hRR) hI kk

/-- a static writer -/
theorem c_cNS (X : cCtx p s m args c cc nL own γ) (hAF : ∀ q, A q → γ.2.2.2.2.1 q) (hI : NI γ A sz s h H locs) (hnm : kNm y C n) (h1 : Cond.methodLink own index y ∈ lw_all) (h2 : Cond.static y ∈ lw_all) (h3 : Cond.initialized C ∈ lw_all) (h4 : Cond.code y bytes maxL ret ∈ lw_all) (hM : Met l y (ws_ y bytes maxL ret) (kRm f lo) (cPc γ h (As)) (cNq γ h w h') 0 0 (kdm h))
    (hRR : cells + 0 ≤ R.cells ∧ slots + 0 ≤ R.slots) (hR : f + 1 ≤ R.frames ∧ 8 + (maxL + 11) + lo ≤ R.locals) (hn : As.length = n) (hst : st0 = As.reverse ++ rest) (hl : ls.size = nL) (hW : 2 * (F0 m pc ls st0).monitorRoom + (rest.map fun v => v.category).sum ≤ 8) (hdg : decode cc pc = .ok (.invokestatic index, 3))
    (kk : ∀ (H : Heap) (locs : List Loc), NI γ A sz s h' H locs → W p l e R s m args below meth c H locs cells slots Q (F0 m (pc + 3) ls (w.toList ++ rest))) : W p l e R s m args below meth c H locs cells slots Q (F0 m pc ls st0) := by
  obtain ⟨hF, hO, hD⟩ := X
  have hts := hF.2.2.2.2
  exact c_goN (va_runS hF hM (va_cwS n hts (lw_S h1 h2 (by rw [hnm.1]; exact h3) h4) rfl rfl rfl ⟨hnm.2.1, hnm.2.2.1, hnm.2.2.2⟩ hR) ⟨cPc_blind _, fun U hU hW => ⟨rfl, hI.D hD hAF hU hW, by rw [hU]; exact hI.1⟩⟩ rfl hn hl hst hW hdg hRR) hI kk

end CALL46
section START46
variable {p : Program} {l : Launch} {e : Env} {R : Room} {s : State} {m : MethodId} {args : Array Value} {below : List Frame} {meth : Method} {c : Code} {H : Heap} {locs : List Loc} {cells slots : Nat} {Q : State → Prop}
variable {y : MethodName} {cc : ByteArray} {maxL f lo : Nat} {γ : KG} {h : CH} {As : List Value} {own : String}
theorem c_startNI {h' : CH} (hO : kOK γ) (hy : plainName y.cls = true) (hc : y.cls = own) (hnm : y.name = "<init>") (hlen : Nat.ble (lg_sl As).length maxL = true)
    (body : ∀ (p : Program) (e : Env) (R : Room) (s : State) (m : MethodId) (args : Array Value) (below : List Frame) (meth : Method) (c : Code) (Q : State → Prop) (ls : Array Slot), cCtx p s m args c cc maxL own γ → f ≤ R.frames ∧ lo ≤ R.locals → meth.name = "<init>" → HR γ h s.heap → NI γ (kdm h) s.heap.size s h s.heap [] → lv_has ls maxL (lv_args 0 As) →
      (∀ (h1 : CH) (H : Heap) (locs : List Loc) (pc : Nat) (ls : Array Slot), h1 = h' → NI γ (kdm h) s.heap.size s h1 H locs → decode cc pc = .ok (.return_, 1) → W p l e R s m args below meth c H locs 0 0 Q (F0 m pc ls [])) →
      W p l e R s m args below meth c s.heap [] 0 0 Q (F0 m 0 ls [])) : Met l y (ws_ y cc maxL none) (kRm f lo) (cPc γ h As) (cNq γ h none h') 0 0 (kdm h) := by
  refine Met.ofW (cc := cc) (maxL := maxL) (ret := none) hy rfl ?_
  intro p e s m args below meth c s₁ B hml hv
  obtain ⟨rfl, hD, hH⟩ := hv
  have hts := atoms_spec (ws := ws_ y cc maxL none) B.pre
  have hts : ∀ w ∈ lw_all, w.before _ s = true := fun w h => hts w (List.mem_cons_of_mem _ h)
  have hown : s.vm.findClass own = some m.cls := hc ▸ findClass_of_methodNamed B.named
  have hin : meth.name = "<init>" := ((name_of_methodNamed B.named B.method).1).trans hnm
  have hl := lv_entry As (n := maxL) (Nat.le_of_ble_eq_true hlen)
  have hlocks := B.notSynchronized
  rw [lg_entry_eq]
  exact body p e _ s m _ below meth c _ _ ⟨⟨B.exec, B.bytes, hml, hown, hts⟩, hO, hD⟩ ⟨Nat.le_refl _, Nat.le_refl _⟩ hin hH ⟨hH, va_S.rf, rfl, fun q h => h⟩ hl (fun h1 H locs pc ls hw hI hd => by
    cases hw
    exact W.vret B.exec B.bytes B.returns (fun t ht hW => ⟨rfl, by rw [ht]; exact hI.1, by rw [ht]; exact hI.2.2.1, hI.2.2.2, hI.2.1.F ht⟩) (fun q hq => hI.2.1.2.2 q hq) hd)
theorem a_start {ret : Option FieldType} {v : Option Value} {σ σ' : CS} (hO : kOK γ) (hy : plainName y.cls = true) (hc : y.cls = own) (hlen : Nat.ble (lg_sl As).length maxL = true)
    (body : ∀ (p : Program) (e : Env) (R : Room) (s : State) (m : MethodId) (args : Array Value) (below : List Frame) (meth : Method) (c : Code) (Q : State → Prop) (ls : Array Slot), cCtx p s m args c cc maxL own γ → f ≤ R.frames ∧ lo ≤ R.locals → meth.name = y.name → HR γ σ.1 s.heap → AI γ σ s R σ.1 σ.2 s.heap [] 0 0 → lv_has ls maxL (lv_args 0 As) →
      (∀ (w : Option Value) (σ1 : CS) (st : List Value) (i : Instr) (H : Heap) (locs : List Loc) (cells slots : Nat) (pc : Nat) (ls : Array Slot), kOut ret st w i → (w, σ1) = (v, σ') → AI γ σ s R σ1.1 σ1.2 H locs cells slots → decode cc pc = .ok (i, 1) → W p l e R s m args below meth c H locs cells slots Q (F0 m pc ls st)) →
      W p l e R s m args below meth c s.heap [] 0 0 Q (F0 m 0 ls [])) : aMet l y (ws_ y cc maxL ret) f lo γ σ As v σ' := by
  refine Met.ofW (cc := cc) (maxL := maxL) (ret := ret) hy rfl ?_
  intro p e s m args below meth c s₁ B hml hv
  obtain ⟨rfl, hD, hH, hz⟩ := hv
  have hts := atoms_spec (ws := ws_ y cc maxL ret) B.pre
  have hts : ∀ w ∈ lw_all, w.before _ s = true := fun w h => hts w (List.mem_cons_of_mem _ h)
  have hown : s.vm.findClass own = some m.cls := hc ▸ findClass_of_methodNamed B.named
  have hin : meth.name = y.name := (name_of_methodNamed B.named B.method).1
  have hl := lv_entry As (n := maxL) (Nat.le_of_ble_eq_true hlen)
  rw [lg_entry_eq]
  refine body p e _ s m _ below meth c _ _ ⟨⟨B.exec, B.bytes, hml, hown, hts⟩, hO, hD⟩ ⟨Nat.le_refl _, Nat.le_refl _⟩ hin hH ⟨⟨hH, va_S.rf, hz, fun q h => Or.inl h⟩, Nat.zero_add _, Nat.zero_add _⟩ hl (fun w σ1 st i H locs cells slots pc ls ho hw hI hd => ?_)
  cases hw
  obtain ⟨hI, hc1, hc2⟩ := hI
  have hc1 : cells + σ'.2.2.1 = σ.2.2.1 := hc1
  have hc2 : slots + σ'.2.2.2 = σ.2.2.2 := hc2
  have e1 : cells = σ.2.2.1 - σ'.2.2.1 := by omega
  have e2 : slots = σ.2.2.2 - σ'.2.2.2 := by omega
  subst e1; subst e2
  exact W.out B.exec B.bytes B.returns ho (fun t ht hW => ⟨rfl, by rw [ht]; exact hI.1, by rw [ht]; exact hI.2.2.1, by rw [← hz]; exact hI.2.2.2, by rw [← hz]; exact hI.2.1.F ht⟩) (fun q hq => by rw [← hz]; exact hI.2.1.2.2 q hq) hd B.notSynchronized
end START46
