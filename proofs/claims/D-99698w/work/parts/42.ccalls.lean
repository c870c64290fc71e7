/-! ===== contracts over the component's cells: readers (R), writers (N) ===== -/
def cPc (γ : KG) (h : CH) (As : List Value) : Array Value → State → Prop := va_Pc As (fun U => kD γ U ∧ HR γ h U.heap)
def cRq (v : Value) : Array Value → State → Outcome → State → Prop := fun _ st o t => o = .returned (some v) ∧ t.heap = st.heap
def cNq (γ : KG) (h : CH) (v : Option Value) (h' : CH) : Array Value → State → Outcome → State → Prop := fun _ st o t => o = .returned v ∧ HR γ h' t.heap ∧ t.heap.size = st.heap.size ∧ (∀ q, (h' q).isSome = true → (h q).isSome = true) ∧ va_F (kdm h) st t
theorem kD.calling {γ : KG} {U : State} {g : JFrame} {mk : MethodId} {a : Array Value} (h : kD γ U) : kD γ (U.calling g mk a) := h
theorem cPc_blind {γ : KG} {h : CH} (As : List Value) : FrameBlind (cPc γ h As) := fun a U g mk q => q
theorem kD.later {γ : KG} {s U : State} (h : kD γ s) (hW : s.WarmedH U.vm) (hz : s.heap.size ≤ U.heap.size) (hk : ∀ q, q < γ.2.2.1.heap.size → ¬ γ.2.2.2.2.1 q → U.heap[q]? = s.heap[q]?) : kD γ U :=
  ⟨State.WarmedH.trans h.1 hW, Nat.le_trans h.2.1 hz, fun q h1 h2 => (hk q h1 h2).trans (h.2.2 q h1 h2)⟩
/-- what is written in the method so far keeps the start's world -/
theorem NI.D {γ : KG} {A : Nat → Prop} {sz : Nat} {h : CH} {s U : State} {H : Heap} {locs : List Loc} (hD : kD γ s) (hAF : ∀ q, A q → γ.2.2.2.2.1 q) (hI : NI γ A sz s h H locs) (hU : U.heap = H) (hW : s.WarmedH U.vm) : kD γ U := by
  refine hD.later hW (by rw [hU]; exact hI.2.1.1) (fun q h1 h2 => ?_)
  rw [hU]
  exact hI.2.1.2.1 q (Nat.lt_of_lt_of_le h1 hD.2.1) (fun hA => h2 (hAF q hA))
theorem c_recv {γ : KG} {h : CH} {H : Heap} {s : State} {a ci N : Nat} {C : String} {T : u_T} {ty : Nat → FieldType} (hC : kCls ci C T N ty) (hO : kOK γ) (hD : kD γ s) (hH : HR γ h H) (hr : isC h a ci = true) : ∃ cellB : Cell, H[a]? = some cellB ∧ cellB.vm.isStatics = false ∧ s.vm.findClass C = some cellB.cls := by
  obtain ⟨fs, he⟩ := isC_inv hr
  exact va_recv (hD.K hO) (hH.at he) (ci := ci) (q0 := 0) hC.1 rfl
section CCALL
variable {p : Program} {l : Launch} {e : Env} {R : Room} {s : State} {m : MethodId} {args : Array Value} {below : List Frame} {meth : Method} {c : Code} {H : Heap} {locs : List Loc} {cells slots : Nat} {Q : State → Prop}
variable {nL pc : Nat} {ls : Array Slot} {rest st0 : List Value} {γ : KG} {h h' h0 : CH} {cc bytes : ByteArray} {index n maxL f lo : Nat} {y : MethodName} {ret : Option FieldType} {As : List Value} {own C : String} {a : Array Value} {v : Value} {w : Option Value} {free : Addr → Prop} {A : Nat → Prop} {sz : Nat}
theorem c_goR (hr : CallRun p l e R s m args below meth c H locs cells slots 0 0 (F0 m pc ls st0) rest (cRq v a) vp_nf)
    (kk : W p l e R s m args below meth c H locs cells slots Q (F0 m (pc + 3) ls (v :: rest))) : W p l e R s m args below meth c H locs cells slots Q (F0 m pc ls st0) := by
  intro T hT X
  obtain ⟨w, st₀, t, T', L, h0, X', hL, e1, ⟨hv, hh⟩, st⟩ := hr T hT X
  cases hv
  obtain ⟨t2, a1, b1⟩ := kk T' (by rw [e1, hh, h0]) (Stand.forget X' (fun q h => (hL q h).elim))
  exact ⟨t2, st t2 a1, b1⟩
theorem c_goR5 (hr : va_Run5 p l e R s m args below meth c H locs cells slots 0 0 (F0 m pc ls st0) rest (cRq v a) vp_nf)
    (kk : W p l e R s m args below meth c H locs cells slots Q (F0 m (pc + 5) ls (v :: rest))) : W p l e R s m args below meth c H locs cells slots Q (F0 m pc ls st0) := by
  intro T hT X
  obtain ⟨w, st₀, t, T', L, h0, X', hL, e1, _, ⟨hv, hh⟩, st⟩ := hr T hT X
  cases hv
  obtain ⟨t2, a1, b1⟩ := kk T' (by rw [e1, hh, h0]) (Stand.forget X' (fun q h => (hL q h).elim))
  exact ⟨t2, st t2 a1, b1⟩
/-- behind a writer's call: the caller's own frame -/
theorem NI.call {st₀ t : State} {H1 : Heap} {L : List Loc} (hI : NI γ A sz s h H locs) (e0 : st₀.heap = H) (e1 : H1 = t.heap) (hq : HR γ h' t.heap ∧ t.heap.size = st₀.heap.size ∧ (∀ q, (h' q).isSome = true → (h q).isSome = true) ∧ va_F (kdm h) st₀ t) (hL : ∀ q ∈ L, kdm h q.base) : NI γ A sz s h' H1 (locs ++ L) := by
  obtain ⟨q1, q2, q3, q5⟩ := hq
  obtain ⟨hH, hS, hz, hd⟩ := hI
  refine ⟨by rw [e1]; exact q1, ⟨by rw [e1, q2, e0]; exact hS.1, fun q h1 h2 => ?_, fun q hq => ?_⟩, by rw [e1, q2, e0]; exact hz, fun q hq => hd q (q3 q hq)⟩
  · rw [e1, q5.2 q (by rw [e0]; exact Nat.lt_of_lt_of_le h1 hS.1) (fun hA => h2 (hd q hA)), e0]
    exact hS.2.1 q h1 h2
  · rcases List.mem_append.mp hq with h | h
    · exact hS.2.2 q h
    · exact hd _ (hL q h)
theorem c_goN (hr : va_Run p l e R s m args below meth c H locs cells slots 0 0 (F0 m pc ls st0) rest (cNq γ h w h' a) (kdm h)) (hI : NI γ A sz s h H locs)
    (kk : ∀ (H : Heap) (locs : List Loc), NI γ A sz s h' H locs → W p l e R s m args below meth c H locs cells slots Q (F0 m (pc + 3) ls (w.toList ++ rest))) : W p l e R s m args below meth c H locs cells slots Q (F0 m pc ls st0) := by
  intro T hT X
  obtain ⟨v, st₀, t, T', L, h0', X', hL, e1, e2, ⟨hv, hq⟩, st⟩ := hr T hT X
  cases hv
  obtain ⟨t2, a1, b1⟩ := kk T'.heap (locs ++ L) (hI.call h0' e1 hq hL) T' rfl X'
  exact ⟨t2, st t2 a1, b1⟩
theorem c_goN5 (hr : va_Run5 p l e R s m args below meth c H locs cells slots 0 0 (F0 m pc ls st0) rest (cNq γ h w h' a) (kdm h)) (hI : NI γ A sz s h H locs)
    (kk : ∀ (H : Heap) (locs : List Loc), NI γ A sz s h' H locs → W p l e R s m args below meth c H locs cells slots Q (F0 m (pc + 5) ls (w.toList ++ rest))) : W p l e R s m args below meth c H locs cells slots Q (F0 m pc ls st0) := by
  intro T hT X
  obtain ⟨v, st₀, t, T', L, h0', X', hL, e1, e2, ⟨hv, hq⟩, st⟩ := hr T hT X
  cases hv
  obtain ⟨t2, a1, b1⟩ := kk T'.heap (locs ++ L) (hI.call h0' e1 hq hL) T' rfl X'
  exact ⟨t2, st t2 a1, b1⟩
/-- static methods of numbers alone: the same class's or another's, a nest mate's private one -/
theorem c_cP {v : Int32} (hF : CallFix p m c cc nL s args lw_all own) (hM : Met l y (ws_ y bytes maxL ret) (kRm f lo) (bPc As) (vp_Si (fun r => r = v)) 0 0 vp_nf) (hnm : kNm y C n) (h1 : Cond.methodLink own index y ∈ lw_all) (h2 : Cond.static y ∈ lw_all) (h3 : Cond.initialized C ∈ lw_all) (h4 : Cond.code y bytes maxL ret ∈ lw_all)
    (hR : f + 1 ≤ R.frames ∧ 8 + (maxL + 11) + lo ≤ R.locals) (hRR : cells + 0 ≤ R.cells ∧ slots + 0 ≤ R.slots) (hn : As.length = n) (hst : st0 = As.reverse ++ rest) (hl : ls.size = nL) (hW : 2 * (F0 m pc ls st0).monitorRoom + (rest.map fun v => v.category).sum ≤ 8) (hdg : decode cc pc = .ok (.invokestatic index, 3))
    (kk : W p l e R s m args below meth c H locs cells slots Q (F0 m (pc + 3) ls (.int v :: rest))) : W p l e R s m args below meth c H locs cells slots Q (F0 m pc ls st0) := by
  have hts := hF.2.2.2.2
  have hini : (Cond.initialized y.cls) ∈ lw_all := by rw [hnm.1]; exact h3
  refine vp_callSi (W.runS hF hM (va_cwS n hts (lw_S h1 h2 hini h4) rfl rfl rfl ⟨hnm.2.1, hnm.2.2.1, hnm.2.2.2⟩ hR) ⟨bPc_blind As, fun U _ _ => ⟨rfl, trivial⟩⟩ rfl hn hl hst hW hdg hRR) (fun r hr => ?_)
  rw [hr]
  exact kk
theorem c_cPN {v : Int32} {host : String} (X : cCtx p s m args c cc nL own γ) (hM : Met l y (ws_ y bytes maxL ret) (kRm f lo) (bPc As) (vp_Si (fun r => r = v)) 0 0 vp_nf) (hnm : kNm y C n) (h1 : Cond.methodLinkNest own index y host ∈ lw_tbl) (h2 : Cond.static y ∈ lw_all) (h3 : Cond.initialized C ∈ lw_all) (h4 : Cond.code y bytes maxL ret ∈ lw_all)
    (hR : f + 1 ≤ R.frames ∧ 8 + (maxL + 11) + lo ≤ R.locals) (hRR : cells + 0 ≤ R.cells ∧ slots + 0 ≤ R.slots) (hn : As.length = n) (hst : st0 = As.reverse ++ rest) (hl : ls.size = nL) (hW : 2 * (F0 m pc ls st0).monitorRoom + (rest.map fun v => v.category).sum ≤ 8) (hdg : decode cc pc = .ok (.invokestatic index, 3))
    (kk : W p l e R s m args below meth c H locs cells slots Q (F0 m (pc + 3) ls (.int v :: rest))) : W p l e R s m args below meth c H locs cells slots Q (F0 m pc ls st0) := by
  obtain ⟨hF, hO, hD⟩ := X
  have hts := hF.2.2.2.2
  have hini : (Cond.initialized y.cls) ∈ lw_all := by rw [hnm.1]; exact h3
  have hrun := va_runSN (l := l) (e := e) (R := R) (below := below) (meth := meth) (H := H) (locs := locs) (cells := cells) (slots := slots) (g := F0 m pc ls st0) (rest := rest) hF hM ⟨va_cnB n hts (lw_meth h4) rfl rfl rfl (c_nestM hO hD h1) (hts _ hini) ⟨hnm.2.1, hnm.2.2.1, hnm.2.2.2⟩ hR, hts _ h2, trivial⟩ ⟨bPc_blind As, fun U _ _ => ⟨rfl, trivial⟩⟩ rfl hn hl hst hW hdg hRR
  intro T hT X
  obtain ⟨w, st₀, t, T', L, h0, X', hL, e1, e2, ⟨r, hv, hp, hh⟩, st⟩ := hrun T hT X
  cases hv
  cases hp
  obtain ⟨t2, a1, b1⟩ := kk T' (by rw [e1, hh, h0]) (Stand.forget X' (fun q h => (hL q h).elim))
  exact ⟨t2, st t2 a1, b1⟩
/-- a reader, by its object -/
theorem c_cR {b ci N : Nat} {T : u_T} {ty : Nat → FieldType} (X : cCtx p s m args c cc nL own γ) (hH : HR γ h H) (hDU : ∀ U : State, U.heap = H → s.WarmedH U.vm → kD γ U) (hC : kCls ci C T N ty) (hM : Met l y (ws_ y bytes maxL ret) (kRm f lo) (cPc γ h (.ref b :: As)) (cRq v) 0 0 vp_nf) (hrv : isC h b ci = true) (hnm : kNm y C n) (h1 : Cond.methodLink own index y ∈ lw_all) (h2 : Cond.instanceMethod y ∈ lw_all) (h3 : Cond.initialized C ∈ lw_all) (h4 : Cond.code y bytes maxL ret ∈ lw_all) (h5 : Cond.selects C y y ∈ lw_all)
    (hR : f + 1 ≤ R.frames ∧ 8 + (maxL + 11) + lo ≤ R.locals) (hRR : cells + 0 ≤ R.cells ∧ slots + 0 ≤ R.slots) (hn : As.length = n) (hst : st0 = As.reverse ++ .ref b :: rest) (hl : ls.size = nL) (hW : 2 * (F0 m pc ls st0).monitorRoom + (rest.map fun v => v.category).sum ≤ 8) (hdg : decode cc pc = .ok (.invokevirtual index, 3))
    (kk : W p l e R s m args below meth c H locs cells slots Q (F0 m (pc + 3) ls (v :: rest))) : W p l e R s m args below meth c H locs cells slots Q (F0 m pc ls st0) := by
  obtain ⟨hF, hO, hD⟩ := X
  have hts := hF.2.2.2.2
  exact c_goR (W.runV hF hM (cwV n hts (lw_V h1 h2 h5 h3 h4) rfl rfl rfl hnm hR) ⟨cPc_blind _, c_recv hC hO hD hH hrv, fun U hU hW => ⟨rfl, hDU U hU hW, by rw [hU]; exact hH⟩⟩ rfl hn hl hst hW hdg hRR) kk
theorem c_cRF {b ci N count : Nat} {T : u_T} {ty : Nat → FieldType} {x : MethodName} (X : cCtx p s m args c cc nL own γ) (hH : HR γ h H) (hDU : ∀ U : State, U.heap = H → s.WarmedH U.vm → kD γ U) (hC : kCls ci C T N ty) (hM : Met l y (ws_ y bytes maxL ret) (kRm f lo) (cPc γ h (.ref b :: As)) (cRq v) 0 0 vp_nf) (hrv : isC h b ci = true) (hnm : kNm x x.cls n) (h1 : Cond.methodLink own index x ∈ lw_all) (h2 : Cond.instanceMethod y ∈ lw_all) (h3 : Cond.initialized y.cls ∈ lw_all) (h4 : Cond.code y bytes maxL ret ∈ lw_all) (h5 : Cond.selects C x y ∈ lw_all)
    (f1 : Cond.declares x ∈ lw_tbl) (f2 : Cond.interfaceMethod x.cls x.cls x.name x.desc ∈ lw_tbl) (f3 : Cond.publicMethod y ∈ lw_tbl) (f4 : Cond.unhidden C x.name x.desc ∈ lw_tbl) (f5 : Cond.castable C x.cls ∈ lw_tbl)
    (hR : f + 1 ≤ R.frames ∧ 8 + (maxL + 11) + lo ≤ R.locals) (hRR : cells + 0 ≤ R.cells ∧ slots + 0 ≤ R.slots) (hn : As.length = n) (hst : st0 = As.reverse ++ .ref b :: rest) (hl : ls.size = nL) (hW : 2 * (F0 m pc ls st0).monitorRoom + (rest.map fun v => v.category).sum ≤ 8) (hdg : decode cc pc = .ok (.invokeinterface index count, 5))
    (kk : W p l e R s m args below meth c H locs cells slots Q (F0 m (pc + 5) ls (v :: rest))) : W p l e R s m args below meth c H locs cells slots Q (F0 m pc ls st0) := by
  obtain ⟨hF, hO, hD⟩ := X
  have hts := hF.2.2.2.2
  have hin : ∀ w ∈ ([.methodLink own index x, .selects C x y, .instanceMethod y, .initialized y.cls] : List Cond), w ∈ lw_all := by
    intro w hw
    simp only [List.mem_cons, List.not_mem_nil, or_false] at hw
    rcases hw with e | e | e | e
    · rw [e]; exact h1
    · rw [e]; exact h5
    · rw [e]; exact h2
    · rw [e]; exact h3
  exact c_goR5 (va_runF ((hD.K hO).1 ci _ hC.1).2 hF hM (va_cwF n hts (lw_app hin (lw_meth h4)) rfl rfl rfl (c_face ⟨hnm.2.1, hnm.2.2.1⟩ hO hD f1 f2 f3 f4 f5) ⟨hnm.2.1, hnm.2.2.1, hnm.2.2.2⟩ hR) ⟨cPc_blind _, c_recv hC hO hD hH hrv, fun U hU hW => ⟨rfl, hDU U hU hW, by rw [hU]; exact hH⟩⟩ rfl hn hl hst hW hdg hRR) kk
/-- a writer, by its object -/
theorem c_cN {b ci N : Nat} {T : u_T} {ty : Nat → FieldType} (X : cCtx p s m args c cc nL own γ) (hAF : ∀ q, A q → γ.2.2.2.2.1 q) (hI : NI γ A sz s h H locs) (hC : kCls ci C T N ty) (hM : Met l y (ws_ y bytes maxL ret) (kRm f lo) (cPc γ h (.ref b :: As)) (cNq γ h w h') 0 0 (kdm h)) (hrv : isC h b ci = true) (hnm : kNm y C n) (h1 : Cond.methodLink own index y ∈ lw_all) (h2 : Cond.instanceMethod y ∈ lw_all) (h3 : Cond.initialized C ∈ lw_all) (h4 : Cond.code y bytes maxL ret ∈ lw_all) (h5 : Cond.selects C y y ∈ lw_all)
    (hR : f + 1 ≤ R.frames ∧ 8 + (maxL + 11) + lo ≤ R.locals) (hRR : cells + 0 ≤ R.cells ∧ slots + 0 ≤ R.slots) (hn : As.length = n) (hst : st0 = As.reverse ++ .ref b :: rest) (hl : ls.size = nL) (hW : 2 * (F0 m pc ls st0).monitorRoom + (rest.map fun v => v.category).sum ≤ 8) (hdg : decode cc pc = .ok (.invokevirtual index, 3))
    (kk : ∀ (H : Heap) (locs : List Loc), NI γ A sz s h' H locs → W p l e R s m args below meth c H locs cells slots Q (F0 m (pc + 3) ls (w.toList ++ rest))) : W p l e R s m args below meth c H locs cells slots Q (F0 m pc ls st0) := by
  obtain ⟨hF, hO, hD⟩ := X
  have hts := hF.2.2.2.2
  exact c_goN (va_runV hF hM (cwV n hts (lw_V h1 h2 h5 h3 h4) rfl rfl rfl hnm hR) ⟨cPc_blind _, c_recv hC hO hD hI.1 hrv, fun U hU hW => ⟨rfl, hI.D hD hAF hU hW, by rw [hU]; exact hI.1⟩⟩ rfl hn hl hst hW hdg hRR) hI kk
end CCALL
section CSTART
variable {p : Program} {l : Launch} {e : Env} {R : Room} {s : State} {m : MethodId} {args : Array Value} {below : List Frame} {meth : Method} {c : Code} {H : Heap} {locs : List Loc} {cells slots : Nat} {Q : State → Prop}
variable {y : MethodName} {cc : ByteArray} {maxL f lo : Nat} {γ : KG} {h : CH} {As : List Value} {own : String}
/-- how a method's value goes out: an int of its type, a reference, nothing -/
def kOut (ret : Option FieldType) (stack : List Value) (v : Option Value) (i : Instr) : Prop := match ret, v with
  | some ty, some (.int w) => (∃ x, stack = [.int x] ∧ narrow ty (.int x) = .int w) ∧ i = .ireturn
  | some ty, some (.ref a) => stack = [.ref a] ∧ ((∃ n, ty = .object n) ∨ ∃ t, ty = .array t) ∧ i = .areturn
  | none, none => stack = [] ∧ i = .return_
  | _, _ => False
theorem W.out {Qc : Array Value → State → Outcome → State → Prop} {free : Addr → Prop} {ret : Option FieldType} {v : Option Value} {i : Instr} {stack : List Value} (hexec : p.tables.exec = Jvm.exec) (hb : c.code = cc) (hr : meth.sig.returnType = ret) (ho : kOut ret stack v i)
    (hq : ∀ t : State, t.heap = H → s.WarmedH t.vm → Qc args s (.returned v) t) (hf : ∀ q ∈ locs, free q.base)
    {pc : Nat} {ls : Array Slot} (hdg : decode cc pc = .ok (i, 1)) (hlocks : meth.locks = false) : W p l e R s m args below meth c H locs cells slots (MQ below Qc args s cells slots free) (F0 m pc ls stack) := by
  unfold kOut at ho
  split at ho
  · next ty w =>
    obtain ⟨⟨x, rfl, hn⟩, rfl⟩ := ho
    exact W.nret (w := w) hexec hb hr hn hq hf hdg hlocks
  · next ty a =>
    obtain ⟨rfl, ht, rfl⟩ := ho
    exact W.aret hexec hb hr ht (Or.inr ⟨a, rfl⟩) hq hf hdg
  · obtain ⟨rfl, rfl⟩ := ho
    exact W.vret hexec hb hr hq hf hdg
  · exact ho.elim
theorem c_startP {ty : FieldType} {v : Int32} (hy : plainName y.cls = true) (hc : y.cls = own) (hlen : Nat.ble (lg_sl As).length maxL = true)
    (body : ∀ (p : Program) (e : Env) (R : Room) (s : State) (m : MethodId) (args : Array Value) (below : List Frame) (meth : Method) (c : Code) (Q : State → Prop) (ls : Array Slot), CallFix p m c cc maxL s args lw_all own → f ≤ R.frames ∧ lo ≤ R.locals → lv_has ls maxL (lv_args 0 As) →
      (∀ (w w' : Int32) (pc : Nat) (ls : Array Slot), narrow ty (.int w) = .int w' → w' = v → decode cc pc = .ok (.ireturn, 1) → W p l e R s m args below meth c s.heap [] 0 0 Q (F0 m pc ls [.int w])) →
      W p l e R s m args below meth c s.heap [] 0 0 Q (F0 m 0 ls [])) : Met l y (ws_ y cc maxL (some ty)) (kRm f lo) (bPc As) (vp_Si (fun r => r = v)) 0 0 vp_nf := by
  refine Met.ofW (cc := cc) (maxL := maxL) (ret := some ty) hy rfl ?_
  intro p e s m args below meth c s₁ B hml hv
  obtain ⟨rfl, -⟩ := hv
  have hts := atoms_spec (ws := ws_ y cc maxL (some ty)) B.pre
  have hts : ∀ w ∈ lw_all, w.before _ s = true := fun w h => hts w (List.mem_cons_of_mem _ h)
  have hown : s.vm.findClass own = some m.cls := hc ▸ findClass_of_methodNamed B.named
  have hl := lv_entry As (n := maxL) (Nat.le_of_ble_eq_true hlen)
  rw [lg_entry_eq]
  exact body p e _ s m _ below meth c _ _ ⟨B.exec, B.bytes, hml, hown, hts⟩ ⟨Nat.le_refl _, Nat.le_refl _⟩ hl (fun w w' pc ls hn hw hd => W.nret (w := w') B.exec B.bytes B.returns hn (fun t ht hW => ⟨w', rfl, hw, ht⟩) (fun q h => by cases h) hd B.notSynchronized)
theorem c_startR {ret : Option FieldType} {v : Value} (hO : kOK γ) (hy : plainName y.cls = true) (hc : y.cls = own) (hlen : Nat.ble (lg_sl As).length maxL = true)
    (body : ∀ (p : Program) (e : Env) (R : Room) (s : State) (m : MethodId) (args : Array Value) (below : List Frame) (meth : Method) (c : Code) (Q : State → Prop) (ls : Array Slot), cCtx p s m args c cc maxL own γ → f ≤ R.frames ∧ lo ≤ R.locals → HR γ h s.heap → (∀ U : State, U.heap = s.heap → s.WarmedH U.vm → kD γ U) → lv_has ls maxL (lv_args 0 As) →
      (∀ (w : Value) (st : List Value) (i : Instr) (pc : Nat) (ls : Array Slot), kOut ret st (some w) i → w = v → decode cc pc = .ok (i, 1) → W p l e R s m args below meth c s.heap [] 0 0 Q (F0 m pc ls st)) →
      W p l e R s m args below meth c s.heap [] 0 0 Q (F0 m 0 ls [])) : Met l y (ws_ y cc maxL ret) (kRm f lo) (cPc γ h As) (cRq v) 0 0 vp_nf := by
  refine Met.ofW (cc := cc) (maxL := maxL) (ret := ret) hy rfl ?_
  intro p e s m args below meth c s₁ B hml hv
  obtain ⟨rfl, hD, hH⟩ := hv
  have hts := atoms_spec (ws := ws_ y cc maxL ret) B.pre
  have hts : ∀ w ∈ lw_all, w.before _ s = true := fun w h => hts w (List.mem_cons_of_mem _ h)
  have hown : s.vm.findClass own = some m.cls := hc ▸ findClass_of_methodNamed B.named
  have hl := lv_entry As (n := maxL) (Nat.le_of_ble_eq_true hlen)
  rw [lg_entry_eq]
  exact body p e _ s m _ below meth c _ _ ⟨⟨B.exec, B.bytes, hml, hown, hts⟩, hO, hD⟩ ⟨Nat.le_refl _, Nat.le_refl _⟩ hH (fun U hU hW => hD.later hW (by rw [hU]; exact Nat.le_refl _) (fun q _ _ => by rw [hU])) hl (fun w st i pc ls ho hw hd => W.out B.exec B.bytes B.returns ho (fun t ht hW => ⟨by rw [hw], ht⟩) (fun q h => by cases h) hd B.notSynchronized)
theorem c_startN {ret : Option FieldType} {v : Option Value} {h' : CH} (hO : kOK γ) (hy : plainName y.cls = true) (hc : y.cls = own) (hlen : Nat.ble (lg_sl As).length maxL = true)
    (body : ∀ (p : Program) (e : Env) (R : Room) (s : State) (m : MethodId) (args : Array Value) (below : List Frame) (meth : Method) (c : Code) (Q : State → Prop) (ls : Array Slot), cCtx p s m args c cc maxL own γ → f ≤ R.frames ∧ lo ≤ R.locals → HR γ h s.heap → NI γ (kdm h) s.heap.size s h s.heap [] → lv_has ls maxL (lv_args 0 As) →
      (∀ (w : Option Value) (h1 : CH) (st : List Value) (i : Instr) (H : Heap) (locs : List Loc) (pc : Nat) (ls : Array Slot), kOut ret st w i → (w, h1) = (v, h') → NI γ (kdm h) s.heap.size s h1 H locs → decode cc pc = .ok (i, 1) → W p l e R s m args below meth c H locs 0 0 Q (F0 m pc ls st)) →
      W p l e R s m args below meth c s.heap [] 0 0 Q (F0 m 0 ls [])) : Met l y (ws_ y cc maxL ret) (kRm f lo) (cPc γ h As) (cNq γ h v h') 0 0 (kdm h) := by
  have key : Met l y (ws_ y cc maxL ret) (kRm f lo) (cPc γ h As) (cNq γ h v h') 0 0 (kdm h) := by
    refine Met.ofW (cc := cc) (maxL := maxL) (ret := ret) hy rfl ?_
    intro p e s m args below meth c s₁ B hml hv
    obtain ⟨rfl, hD, hH⟩ := hv
    have hts := atoms_spec (ws := ws_ y cc maxL ret) B.pre
    have hts : ∀ w ∈ lw_all, w.before _ s = true := fun w h => hts w (List.mem_cons_of_mem _ h)
    have hown : s.vm.findClass own = some m.cls := hc ▸ findClass_of_methodNamed B.named
    have hl := lv_entry As (n := maxL) (Nat.le_of_ble_eq_true hlen)
    rw [lg_entry_eq]
    exact body p e _ s m _ below meth c _ _ ⟨⟨B.exec, B.bytes, hml, hown, hts⟩, hO, hD⟩ ⟨Nat.le_refl _, Nat.le_refl _⟩ hH ⟨hH, va_S.rf, rfl, fun q h => h⟩ hl (fun w h1 st i H locs pc ls ho hw hI hd => by
      cases hw
      refine W.out B.exec B.bytes B.returns ho (fun t ht hW => ⟨rfl, by rw [ht]; exact hI.1, by rw [ht]; exact hI.2.2.1, hI.2.2.2, hI.2.1.F ht⟩) (fun q hq => hI.2.1.2.2 q hq) hd B.notSynchronized)
  exact key
end CSTART
