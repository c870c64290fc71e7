/-! ===== ends and starts of methods that may throw; 'throw new E()' of the JDK's two ===== -/
theorem W.post {p : Program} {l : Launch} {e : Env} {R : Room} {s : State} {m : MethodId} {args : Array Value} {below : List Frame} {meth : Method} {c : Code} {H : Heap} {locs : List Loc} {cells slots : Nat} {Q Q' : State → Prop} {g : JFrame} (k : W p l e R s m args below meth c H locs cells slots Q g) (h : ∀ t, Q t → Q' t) : W p l e R s m args below meth c H locs cells slots Q' g := by
  intro T hT X
  obtain ⟨t, a1, b1⟩ := k T hT X
  exact ⟨t, a1, h t b1⟩
def xEnd (below : List Frame) (P : Array Value → State → Outcome → State → Prop) (a : Array Value) (s : State) : State → Prop := fun t => ∃ o, t.status = .running ∧ Ended t below o ∧ P a s o t
section OUT61
variable {p : Program} {l : Launch} {e : Env} {R : Room} {s : State} {m : MethodId} {args : Array Value} {below : List Frame} {meth : Method} {c : Code} {H : Heap} {locs : List Loc} {cells slots : Nat} {Q : State → Prop}
variable {nL pc : Nat} {ls : Array Slot} {rest : List Value} {γ : KG} {h : CH} {r : CR} {σ0 : CS} {x : XT} {cc : ByteArray} {index : Nat} {own : String} {A : Nat → Prop}
/-- not caught in this method: out of it -/
theorem t_out {σ : CS} {q : Addr} (hσ : R.cells = σ.2.2.1 ∧ R.slots = σ.2.2.2 ∧ s.heap.size = σ.2.1) (hA : AI γ σ s R x.2.2.1 x.2.2.2 H locs cells slots) (hq : kTh x s H q) (hout : ∀ z ∈ c.exceptionTable.toList, covers z pc = false) (hlocks : meth.locks = false) : vx_W p l e R s m args below meth c H locs cells slots (xEnd below (xPost γ σ (.inr x)) args s) (F0 m pc ls rest) q := by
  obtain ⟨hI, hc1, hc2⟩ := hA
  obtain ⟨hq2, ce, hcell, hv, hcl⟩ := hq
  obtain ⟨s1, s2, hz⟩ := hσ
  have e1 : cells = σ.2.2.1 - x.2.2.2.2.1 := by omega
  have e2 : slots = σ.2.2.2 - x.2.2.2.2.2 := by omega
  subst e1; subst e2
  intro T hT X
  obtain ⟨st1, hrun, hend, hW, hsm⟩ := X.leaveThrown q (g := F0 m pc ls rest) rfl rfl rfl hout hlocks
  have hh : (T.setFrames (.throwing q :: below)).heap = H := hT
  exact ⟨_, st1, .threw q, hrun, hend, q, rfl, hq2, ce, locs, ⟨by rw [hh]; exact hI.1, by rw [hh]; exact hI.2.2.1, by rw [← hz]; exact hI.2.2.2, by rw [← hz]; exact hI.2.1.F hh⟩, by rw [hh]; exact hcell, hv, hcl, hW, hsm, fun z hz2 => by rw [← hz]; exact hI.2.1.2.2 z hz2⟩
theorem c_Lq {n d : String} {k : Nat} (hO : kOK γ) (hD : kD γ s) (hAF : ∀ q, A q → γ.2.2.2.2.1 q) (hw : Cond.laysStatic "java/lang/Throwable" n d ∈ lw_tbl) (hZ : va_Z "java/lang/Throwable" n d (va_rf (kopt k)) γ.2.2.2.2.1 γ.2.2.1 γ.2.2.1.heap) : vx_Zq "java/lang/Throwable" n d A s s.heap := by
  have hL : vx_L "java/lang/Throwable" n d γ.2.2.2.2.1 γ.2.2.1 γ.2.2.1.heap := by
    obtain ⟨c, k, i, f, a, cell, h1, h2, h3, h4, h5, h6, h7, h8, h9⟩ := Cond.laysStatic_spec (hO.2.1 _ hw)
    obtain ⟨cf, kf, fi, f', a', cell', g1, g2, g3, g4, g5, g6, g7, g8⟩ := hZ
    cases h2.symm.trans g1
    cases h4.symm.trans g4
    exact ⟨c, k, i, f, a, cell, h1, h2, h3, h4, h5, h6, h7, h8, h9, g8⟩
  refine ⟨?_, (vx_L.moved hD.1.alike (hL.kept hD.2.2)).narrow hAF⟩
  have hz := c_Z hD hAF hZ
  cases hk : kopt k with
  | none => rw [hk] at hz; exact Or.inl hz
  | some t => rw [hk] at hz; exact Or.inr ⟨t, hz⟩
set_option maxHeartbeats 1000000 in
/-- 'throw new E()' (after the kit's vx_throw0): where the thing lies, how the heap has grown -/
theorem t_throw0 (hexec : p.tables.exec = Jvm.exec) (hb : c.code = cc) (hl : l.stackTraces = false) {cls : String} {names : List String} {ik ic : Nat}
    (hown : s.vm.findClass own = some m.cls) (hcls : Bundle.fit cls = true) (hnames : ∀ n ∈ names, Bundle.fit n = true)
    (hk : (Cond.classLink own ik cls).before args s = true) (hini : (Cond.initialized cls).before args s = true) (hat : ∀ w ∈ vx_at0 own ic cls names, w.before args s = true)
    (hgood : ∀ w ∈ Cond.classLink own ik cls :: Cond.initialized cls :: vx_at0 own ic cls names, vx_ot w = true)
    (hU : vx_Zq Bundle.tN "UNASSIGNED_STACK" Bundle.steD A s s.heap) (hN : vx_Zq Bundle.tN "SUPPRESSED_SENTINEL" Bundle.listD A s s.heap) (hS : va_S A s.heap H locs) (hsize : ls.size = c.maxLocals)
    (d0 : decode cc pc = .ok (.new ik, 3)) (d3 : decode cc (pc + 3) = .ok (.dup, 1)) (d4 : decode cc (pc + 4) = .ok (.invokespecial ic, 3)) (d7 : decode cc (pc + 7) = .ok (.athrow, 1))
    (hout : ∀ x ∈ c.exceptionTable.toList, covers x (pc + 7) = false)
    (hRframes : names.length + 3 < R.frames) (hRlocals : (rest.map fun v => v.category).sum + (13 * (names.length + 1) + 42) ≤ R.locals) (hRcells : cells + 1 ≤ R.cells) (hRslots : slots + 6 ≤ R.slots) (hlocks : meth.locks = false)
    (kk : ∀ (U : State) (q : Addr) (ce : Cell), U.status = .running → Ended U below (.threw q) → U.heap[q]? = some ce → ce.vm = .none → s.vm.findClass cls = some ce.cls → s.WarmedH U.vm → s.sameButNew ({ U with vm := s.vm } : State) locs (cells + 1) (slots + 6) → U.heap.size = H.size + 1 → (∀ a : Nat, a < H.size → U.heap[a]? = H[a]?) → Q U) :
    W p l e R s m args below meth c H locs cells slots Q (F0 m pc ls rest) := by
  intro T hT X
  have htr : e.platform.stackTraces = false := (show e.platform.stackTraces = l.stackTraces by rw [X.admits.platform]).trans hl
  have Y := vx_rebase X (R' := { frames := R.frames, locals := R.locals, cells := 1, slots := 6 }) (Nat.le_refl _) (Nat.le_refl _) hRcells hRslots
  obtain ⟨s', hA⟩ : ∃ z, z = (T.setVm s.vm).setFrames (.invoking m args :: below) := ⟨_, rfl⟩
  rw [← hA] at Y
  have hvm : s'.vm = s.vm := by rw [hA]; rfl
  have hhp : s'.heap = H := by rw [hA]; exact hT
  have hW0 : s.WarmedH s'.vm := by rw [hvm]; exact State.WarmedH.refl s
  have hat' : ∀ w ∈ vx_at0 own ic cls names, w.before args s' = true := fun w hw => vx_ot_at hW0 hvm.symm (hgood w (List.mem_cons_of_mem _ (List.mem_cons_of_mem _ hw))) (hat w hw)
  have hk' : (Cond.classLink own ik cls).before args s' = true := vx_ot_at hW0 hvm.symm (hgood _ List.mem_cons_self) hk
  have hini' : (Cond.initialized cls).before args s' = true := vx_ot_at hW0 hvm.symm (hgood _ (List.mem_cons_of_mem _ List.mem_cons_self)) hini
  have hU' : vx_Zq Bundle.tN "UNASSIGNED_STACK" Bundle.steD A s' s'.heap := by rw [hhp]; exact vx_Zq.moved hW0.alike (hU.kept hS.2.1)
  have hN' : vx_Zq Bundle.tN "SUPPRESSED_SENTINEL" Bundle.listD A s' s'.heap := by rw [hhp]; exact vx_Zq.moved hW0.alike (hN.kept hS.2.1)
  have h : ∀ w ∈ Bundle.ownAtoms0 own ic cls names, w.before args s' = true := vx_own hat' (vx_isRefq hU'.1) (vx_isRefq hN'.1) hU'.2.word hN'.2.word
  have hown' : s'.vm.findClass own = some m.cls := by rw [hvm]; exact hown
  have hins : (Cond.instantiable cls 6).before args s' = true := h _ (by simp [Bundle.ownAtoms0])
  obtain ⟨vm₁, cX, kX, hfX, hkX, -, -, X₁, st1⟩ := Y.newCold hexec (own := own) (C := cls) (index := ik) (n := 6) hown' hk' hins hini'
    (g := F0 m pc ls rest) rfl (by rw [hb]; exact d0) (Nat.le_refl _) (Nat.le_refl _)
  generalize hT1 : (T.setVm vm₁).pushCell { cls := cX, slots := kX.instanceTypes.map defaultValue, vm := .none } = T1 at X₁ st1
  have hcat : (Value.ref T.heap.size).category = 1 := rfl
  have hcellA : T1.heap[T.heap.size]? = some (freshCell cX kX) := by rw [← hT1]; exact State.heap_pushCell_size _ _
  have d3' : decode c.code (pc + 3) = .ok (.dup, 1) := by rw [hb]; exact d3
  obtain ⟨U, hsteps, hrun, hend, hW, hsame, ce, hce, hO⟩ := X₁.ctorThrow0 hexec htr (own := own) (cls := cls) (names := names) (ic := ic) hown' hcls hnames h (fun x hx => nomatch hx) hfX hkX hcellA (by rw [hhp, hT]; exact Nat.le_refl _)
    (g := { method := m, pc := pc + 4, locals := ls, stack := .ref T.heap.size :: .ref T.heap.size :: rest, locked := none }) rfl hsize rfl rfl (rest := rest) rfl
    (by rw [hb]; exact d4) (by rw [hb]; exact d7) hout hRframes (by simp only [List.map_cons, List.sum_cons, hcat]; omega) hlocks
  obtain ⟨f1, f2⟩ := vx_frame hsame
  rw [hhp] at f1 f2
  have hWs : s.WarmedH U.vm := State.WarmedH.trans hW0 hW
  have hcl : s.vm.findClass cls = some ce.cls := by
    have h9 := hO.cls
    rw [hvm] at h9
    exact h9
  have hup : U.heap.size ≤ H.size + 1 := by
    have h9 := hsame.2.2.1
    have h10 : U.heap.size ≤ s'.heap.size + (0 + 1) := h9
    rw [hhp] at h10
    omega
  have hlo : H.size < U.heap.size := by
    have h9 := (Array.getElem?_eq_some_iff.mp hce).1
    rw [hT] at h9
    exact h9
  have hall : s.sameButNew ({ U with vm := s.vm } : State) locs (cells + 1) (slots + 6) := by
    subst hA
    obtain ⟨e1, e2⟩ := hsame
    rw [State.setFrames_setFrames] at e1
    have h2 : (T.setVm s.vm).sameButNew ({ U with vm := s.vm } : State) [] (0 + 1) (0 + 6) := ⟨e1, e2⟩
    have h3 := X.same.trans h2
    rw [List.append_nil] at h3
    exact h3.mono (by omega) (by omega)
  refine ⟨U, ?_, kk U T.heap.size ce hrun hend hce hO.vm hcl hWs hall (by omega) (fun a ha => f2 a ha (fun z hz => nomatch hz))⟩
  refine st1 _ ?_
  show Steps p.tables e below (T1.setTop { method := m, pc := pc + 3, locals := ls, stack := .ref T.heap.size :: rest, locked := none }) _
  jvm_step X₁.here [X₁.here.top, hexec, d3', Value.category]
  exact hsteps
/-- 'throw new E()' where nothing is caught -/
theorem t_E0 {σ : CS} {cls : String} {names : List String} {ik ic E nL : Nat} (X : cCtx p s m args c cc nL own γ) (hT : l.stackTraces = false) (h0 : AI γ σ s R σ.1 σ.2 s.heap [] 0 0) (h0H : HR γ σ.1 s.heap) (hA : AI γ σ s R h r H locs cells slots) (hsp : 1 ≤ r.2.1 ∧ 6 ≤ r.2.2) (hE : kE E = cls) (hE2 : E ≠ 2)
    (hcls : Bundle.fit cls = true) (hnames : ∀ n ∈ names, Bundle.fit n = true) (hk : Cond.classLink own ik cls ∈ lw_all) (hini : Cond.initialized cls ∈ lw_all) (hat : ∀ w ∈ vx_at0 own ic cls names, w.before args s = true)
    (hgood : ∀ w ∈ Cond.classLink own ik cls :: Cond.initialized cls :: vx_at0 own ic cls names, vx_ot w = true) (hl : ls.size = nL)
    (d0 : decode cc pc = .ok (.new ik, 3)) (d3 : decode cc (pc + 3) = .ok (.dup, 1)) (d4 : decode cc (pc + 4) = .ok (.invokespecial ic, 3)) (d7 : decode cc (pc + 7) = .ok (.athrow, 1))
    (hR : names.length + 3 < R.frames ∧ 13 * (names.length + 1) + 50 ≤ R.locals) (hrest : (rest.map fun v => v.category).sum ≤ 8)
    (hdir : (∀ y ∈ c.exceptionTable.toList, False) ∧ meth.locks = false ∧ ∀ (U : State) (o : Outcome), U.status = .running → Ended U below o → xTh γ σ (E, 0, (h, r.1 + 1, r.2.1 - 1, r.2.2 - 6)) s o U → Q U) :
    W p l e R s m args below meth c H locs cells slots Q (F0 m pc ls rest) := by
  obtain ⟨⟨hx, hb, hml, hown, hts⟩, hO, hD⟩ := X
  obtain ⟨hET, hlk, hdir⟩ := hdir
  have hAF := kA_F hO hD h0H
  have c0 : 0 + σ.2.2.1 = R.cells := h0.2.1
  have s0 : 0 + σ.2.2.2 = R.slots := h0.2.2
  have z0 : s.heap.size = σ.2.1 := h0.1.2.2.1
  have c1 := hA.2.1
  have s1 := hA.2.2
  obtain ⟨hH, hS, hz, hd⟩ := hA.1
  refine t_throw0 (A := kA σ.1 s.heap.size) hx hb hT hown hcls hnames (hts _ hk) (hts _ hini) hat hgood (c_Lq hO hD hAF q721 hO.1.2.2.2.2.1) (c_Lq hO hD hAF q723 hO.1.2.2.2.2.2.1) hS (hl.trans hml.symm) d0 d3 d4 d7 (fun z hz => (hET z hz).elim) hR.1 (by omega) (by omega) (by omega) hlk (fun U q ce u1 u2 u3 u4 u5 u6 u7 u8 u9 => ?_)
  have hlt : ∀ p, (h p).isSome = true → p < H.size := by
    intro p hp
    obtain ⟨e, he⟩ := Option.isSome_iff_exists.mp hp
    exact ((hH p e he).1).lt
  refine hdir U _ u1 u2 ⟨q, rfl, fun e => (hE2 e).elim, ce, locs, ⟨fun a x hx => by
      have hx : h a = some x := hx
      exact ⟨((hH a x hx).1).kept (u9 a (hlt a (by rw [hx]; rfl))), (hH a x hx).2⟩, by rw [u8, hz], fun q hq => by rw [← z0]; exact hd q hq, ⟨by rw [u8]; have := hS.1; omega, fun q h1 h2 => ?_⟩⟩, u3, u4, by rw [hE]; exact u5, u6, ?_, fun z hz => by rw [← z0]; exact hS.2.2 z hz⟩
  · rw [u9 q (Nat.lt_of_lt_of_le h1 hS.1)]
    exact hS.2.1 q h1 (by rw [z0]; exact h2)
  · refine u7.mono ?_ ?_
    · dsimp only
      omega
    · dsimp only
      omega
end OUT61
section START61
variable {p : Program} {l : Launch} {e : Env} {R : Room} {s : State} {m : MethodId} {args : Array Value} {below : List Frame} {meth : Method} {c : Code} {H : Heap} {locs : List Loc} {cells slots : Nat} {Q : State → Prop}
variable {y : MethodName} {cc : ByteArray} {maxL f lo : Nat} {γ : KG} {h : CH} {As : List Value} {own : String}
theorem x_start {ret : Option FieldType} {z : (Option Value × CS) ⊕ XT} {σ : CS} (hO : kOK γ) (hy : plainName y.cls = true) (hc : y.cls = own) (hlen : Nat.ble (lg_sl As).length maxL = true)
    (body : ∀ (p : Program) (e : Env) (R : Room) (s : State) (m : MethodId) (args : Array Value) (below : List Frame) (meth : Method) (c : Code) (Q : State → Prop) (ls : Array Slot), cCtx p s m args c cc maxL own γ → f ≤ R.frames ∧ lo ≤ R.locals → meth.name = y.name → HR γ σ.1 s.heap → AI γ σ s R σ.1 σ.2 s.heap [] 0 0 → lv_has ls maxL (lv_args 0 As) →
      (∀ (w : Option Value) (σ1 : CS) (st : List Value) (i : Instr) (H : Heap) (locs : List Loc) (cells slots : Nat) (pc : Nat) (ls : Array Slot), kOut ret st w i → .inl (w, σ1) = z → AI γ σ s R σ1.1 σ1.2 H locs cells slots → decode cc pc = .ok (i, 1) → W p l e R s m args below meth c H locs cells slots Q (F0 m pc ls st)) →
      (∀ (x : XT) (H : Heap) (locs : List Loc) (cells slots : Nat) (pc : Nat) (ls : Array Slot) (rest : List Value) (q : Addr), .inr x = z → AI γ σ s R x.2.2.1 x.2.2.2 H locs cells slots → kTh x s H q → vx_W p l e R s m args below meth c H locs cells slots Q (F0 m pc ls rest) q) →
      (∀ x : XT, .inr x = z → (∀ y ∈ c.exceptionTable.toList, False) ∧ meth.locks = false ∧ ∀ (U : State) (o : Outcome), U.status = .running → Ended U below o → xTh γ σ x s o U → Q U) →
      W p l e R s m args below meth c s.heap [] 0 0 Q (F0 m 0 ls [])) : xMet l y (ws_ y cc maxL ret) f lo γ σ As z := by
  cases z with
  | inl w =>
    obtain ⟨v, σ'⟩ := w
    refine a_start (cc := cc) (own := own) hO hy hc hlen (fun p e R s m args below meth c Q ls X hR hnm h0H hA hl hend => ?_)
    refine body p e R s m args below meth c Q ls X hR hnm h0H hA hl (fun w σ1 st i H locs cells slots pc ls ho hw hI hd => hend w σ1 st i H locs cells slots pc ls ho (Sum.inl.inj hw) hI hd) (fun x H locs cells slots pc ls rest q hx => by cases hx) (fun x hx => by cases hx)
  | inr x =>
    refine MetFree.of_bodyS (code := cc) (maxLocals := maxL) (ret := ret) hy ?_ ?_
    · intro args s m h hn
      obtain ⟨meth, c, h1, h2, h3, h4, h5, h6, -, -⟩ := Cond.code_spec hn (atoms_spec (ws := ws_ y cc maxL ret) h _ List.mem_cons_self)
      exact ⟨meth, c, h1, h2, h3, h4, h5, h6⟩
    · intro p e s m args below meth c s₁ B hml hP _
      have hh0 : s₁.heap = s.heap := by rw [B.state]; rfl
      have ht : ∀ x ∈ c.exceptionTable.toList, False := by
        obtain ⟨meth9, c9, h1, h2, -, -, -, -, h7, -⟩ := Cond.code_spec B.named (atoms_spec (ws := ws_ y cc maxL ret) B.pre _ List.mem_cons_self)
        cases Option.some.inj (h1.symm.trans B.method)
        cases Option.some.inj (h2.symm.trans (Stand.of_body B).code)
        intro x hx
        rw [Array.isEmpty_iff.mp h7] at hx
        cases hx
      obtain ⟨rfl, hD, hH, hz⟩ := hP
      have hts := atoms_spec (ws := ws_ y cc maxL ret) B.pre
      have hts : ∀ w ∈ lw_all, w.before _ s = true := fun w h => hts w (List.mem_cons_of_mem _ h)
      have hown : s.vm.findClass own = some m.cls := hc ▸ findClass_of_methodNamed B.named
      have hin : meth.name = y.name := (name_of_methodNamed B.named B.method).1
      have hl := lv_entry As (n := maxL) (Nat.le_of_ble_eq_true hlen)
      have hb := body p e (headSpec (ws_ y cc maxL ret) (aRm f lo σ)).room s m _ below meth c (xEnd below (xPost γ σ (.inr x)) As.toArray s) _ ⟨⟨B.exec, B.bytes, hml, hown, hts⟩, hO, hD⟩ ⟨Nat.le_refl _, Nat.le_refl _⟩ hin hH ⟨⟨hH, va_S.rf, hz, fun q h => Or.inl h⟩, Nat.zero_add _, Nat.zero_add _⟩ hl
        (fun w σ1 st i H locs cells slots pc ls ho hw => by cases hw)
        (fun x' H locs cells slots pc ls rest q hx hA hq => by
          cases hx
          exact t_out ⟨rfl, rfl, hz⟩ hA hq (fun z hz => (ht z hz).elim) B.notSynchronized)
        (fun x' hx => by
          cases hx
          exact ⟨ht, B.notSynchronized, fun U o h1 h2 h3 => ⟨o, h1, h2, h3⟩⟩)
      rw [← lg_entry_eq] at hb
      obtain ⟨t, a1, o, b1, b2, b3⟩ := hb s₁ hh0 (Stand.of_body B)
      exact ⟨t, o, a1, b1, b2, b3⟩
end START61
