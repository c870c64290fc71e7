/-! ===== methods that may throw (X): what they do is one value: returned, or thrown ===== -/
/-- what was thrown: which class, where (known of a Wrong alone), the cells then -/
abbrev XT : Type := Nat × Nat × CS
def kE : Nat → String
  | 0 => "java/util/NoSuchElementException"
  | 1 => "java/lang/IllegalArgumentException"
  | _ => "TwinInk$Wrong"
def xTh (γ : KG) (σ : CS) (x : XT) (st : State) (o : Outcome) (t : State) : Prop := ∃ q, o = .threw q ∧ (x.1 = 2 → q = x.2.1) ∧ ∃ (ce : Cell) (L : List Loc), aQb γ σ x.2.2 st t ∧ t.heap[q]? = some ce ∧ ce.vm = .none ∧ st.vm.findClass (kE x.1) = some ce.cls ∧ st.WarmedH t.vm ∧ st.sameButNew ({ t with vm := st.vm } : State) L (σ.2.2.1 - x.2.2.2.2.1) (σ.2.2.2 - x.2.2.2.2.2) ∧ ∀ z ∈ L, kA σ.1 σ.2.1 z.base
def xPost (γ : KG) (σ : CS) (z : (Option Value × CS) ⊕ XT) : Array Value → State → Outcome → State → Prop := match z with
  | .inl w => fun a st o t => aPost γ σ w.1 w.2 a st o t ∧ ∃ L, FrameEnd st o t L (σ.2.2.1 - w.2.2.2.1) (σ.2.2.2 - w.2.2.2.2) ∧ ∀ q ∈ L, kA σ.1 σ.2.1 q.base
  | .inr x => fun _ st o t => xTh γ σ x st o t
def xMet (l : Launch) (y : MethodName) (ws : List Cond) (f lo : Nat) (γ : KG) (σ : CS) (As : List Value) (z : (Option Value × CS) ⊕ XT) : Prop :=
  MetFree l y (headSpec ws (aRm f lo σ)) (aPc γ σ As) (fun _ _ _ _ _ => True) (xPost γ σ z)
theorem xMet.inl {l : Launch} {y : MethodName} {ws : List Cond} {f lo : Nat} {γ : KG} {σ : CS} {As : List Value} {v : Option Value} {σ' : CS} (h : xMet l y ws f lo γ σ As (.inl (v, σ'))) : aMet l y ws f lo γ σ As v σ' := h
/-- the room never grows -/
def xchk {α : Type} (r : CR) (x : Option ((α × CS) ⊕ XT)) : Option ((α × CS) ⊕ XT) := x.bind fun q => match q with
  | .inl w => if w.2.2.2.1 ≤ r.2.1 ∧ w.2.2.2.2 ≤ r.2.2 then some (.inl w) else none
  | .inr w => if w.2.2.2.2.1 ≤ r.2.1 ∧ w.2.2.2.2.2 ≤ r.2.2 then some (.inr w) else none
def xchv (r : CR) (x : Option (CS ⊕ XT)) : Option (CS ⊕ XT) := x.bind fun q => match q with
  | .inl w => if w.2.2.1 ≤ r.2.1 ∧ w.2.2.2 ≤ r.2.2 then some (.inl w) else none
  | .inr w => if w.2.2.2.2.1 ≤ r.2.1 ∧ w.2.2.2.2.2 ≤ r.2.2 then some (.inr w) else none
theorem xchk_l {α : Type} {r : CR} {x : Option ((α × CS) ⊕ XT)} {q : α × CS} (h : xchk r x = some (.inl q)) : x = some (.inl q) ∧ ale q.2.2 r := by
  unfold xchk at h
  obtain ⟨w, h1, h2⟩ := o_bind h
  cases w with
  | inl w => dsimp only at h2; split at h2
             · next hc => cases h2; exact ⟨h1, hc⟩
             · cases h2
  | inr w => dsimp only at h2; split at h2 <;> cases h2
theorem xchk_r {α : Type} {r : CR} {x : Option ((α × CS) ⊕ XT)} {q : XT} (h : xchk r x = some (.inr q)) : x = some (.inr q) ∧ ale q.2.2.2 r := by
  unfold xchk at h
  obtain ⟨w, h1, h2⟩ := o_bind h
  cases w with
  | inl w => dsimp only at h2; split at h2 <;> cases h2
  | inr w => dsimp only at h2; split at h2
             · next hc => cases h2; exact ⟨h1, hc⟩
             · cases h2
theorem xchv_l {r : CR} {x : Option (CS ⊕ XT)} {q : CS} (h : xchv r x = some (.inl q)) : x = some (.inl q) ∧ ale q.2 r := by
  unfold xchv at h
  obtain ⟨w, h1, h2⟩ := o_bind h
  cases w with
  | inl w => dsimp only at h2; split at h2
             · next hc => cases h2; exact ⟨h1, hc⟩
             · cases h2
  | inr w => dsimp only at h2; split at h2 <;> cases h2
theorem xchv_r {r : CR} {x : Option (CS ⊕ XT)} {q : XT} (h : xchv r x = some (.inr q)) : x = some (.inr q) ∧ ale q.2.2.2 r := by
  unfold xchv at h
  obtain ⟨w, h1, h2⟩ := o_bind h
  cases w with
  | inl w => dsimp only at h2; split at h2 <;> cases h2
  | inr w => dsimp only at h2; split at h2
             · next hc => cases h2; exact ⟨h1, hc⟩
             · cases h2
/-- bind, that hands on what was thrown -/
def xb {α β : Type} (x : Option (α ⊕ XT)) (f : α → Option (β ⊕ XT)) : Option (β ⊕ XT) := x.bind fun q => match q with
  | .inl a => f a
  | .inr e => some (.inr e)
theorem xb_inv {α β : Type} {x : Option (α ⊕ XT)} {f : α → Option (β ⊕ XT)} {z : β ⊕ XT} (h : xb x f = some z) : (∃ a, x = some (.inl a) ∧ f a = some z) ∨ ∃ e, x = some (.inr e) ∧ z = .inr e := by
  unfold xb at h
  obtain ⟨w, h1, h2⟩ := o_bind h
  cases w with
  | inl a => exact Or.inl ⟨a, h1, h2⟩
  | inr e => exact Or.inr ⟨e, h1, (Option.some.inj h2).symm⟩
def tPost (γ : KG) (σ : CS) (x : XT) : Pt → Array Value → Addr → Pt → Prop := fun A a q B =>
  ∃ (g : JFrame) (mk : MethodId) (t : State) (L : List Loc) (ce : Cell), B.U.heap = t.heap ∧ B.U.vm = t.vm ∧ aQb γ σ x.2.2 (A.U.calling g mk a) t ∧ t.heap[q]? = some ce ∧ ce.vm = .none ∧ A.U.vm.findClass (kE x.1) = some ce.cls ∧ (x.1 = 2 → q = x.2.1) ∧ B.locs = A.locs ++ L ∧ (∀ z ∈ L, kA σ.1 σ.2.1 z.base) ∧ B.cells = A.cells + (σ.2.2.1 - x.2.2.2.2.1) ∧ B.slots = A.slots + (σ.2.2.2 - x.2.2.2.2.2)
section PAY60
variable {l : Launch} {R : Room} {p : Program} {e : Env} {below : List Frame} {s : State} {sargs : Array Value} {y : MethodName} {len W9 : Nat}
theorem t_back {ws : List Cond} {f lo : Nat} {γ : KG} {σ : CS} {As : List Value} {x : XT} {bytes : ByteArray} {maxL : Nat} {ret : Option FieldType}
    (hM : xMet l y ws f lo γ σ As (.inr x)) (hframes : f + 1 ≤ R.frames) (hlocals : W9 + (maxL + 11) + lo ≤ R.locals)
    (hws : ∀ w ∈ ws, ∀ a' U, s.WarmedH U.vm → w.before a' U = true) (hcode : Cond.code y bytes maxL ret ∈ ws) (hinit : ∀ a' U, s.WarmedH U.vm → (Cond.initialized y.cls).before a' U = true) :
    vx_Back l R p e below s sargs y len W9 (kPre R (aRm f lo σ) (aPc γ σ As)) (fun _ _ _ _ => False) (tPost γ σ x) := by
  intro m meth c A g ig mk a X hg hsize hdg hW hn hp
  have h1 : (headSpec ws (aRm f lo σ)).pre.before a A.U = true := atoms_intro fun w hw => hws w hw _ _ X.warmed
  have h2 : (Cond.code y bytes maxL ret).before a A.U = true := hws _ hcode _ _ X.warmed
  have h3 : (Cond.initialized y.cls).before a A.U = true := hinit _ _ X.warmed
  have h4 : A.cells + (headSpec ws (aRm f lo σ)).room.cells ≤ R.cells := hp.1
  have h5 : A.slots + (headSpec ws (aRm f lo σ)).room.slots ≤ R.slots := hp.2.1
  have hPc : aPc γ σ As a (A.U.calling g mk a) := aPc_blind _ _ _ _ _ hp.2.2
  obtain ⟨U, Ls, c0, s0⟩ := A
  dsimp only [Pt.U, Pt.locs, Pt.cells, Pt.slots] at h1 h2 h3 h4 h5 X hn hPc ⊢
  obtain ⟨methY, cY, hmY, hcY, -, hlY, -, -, -, -⟩ := Cond.code_spec hn h2
  obtain ⟨kY, hkY, -⟩ := className_of_methodNamed hn
  have hinitY : kY.init = .initialized := Cond.initialized_spec (findClass_of_methodNamed hn) hkY h3
  have h : At U g.method c below := by rw [hg]; exact X.here
  have hlocals9 : W9 + (maxL + 11) + (headSpec ws (aRm f lo σ)).room.locals ≤ R.locals := hlocals
  have happ : (headSpec ws (aRm f lo σ)).appliesLoose y e.platform (U.calling g mk a) = true :=
    Spec.appliesLoose_calling (g := g) h hdg hn hkY hinitY
      (X.room_calling (g := g) (R' := (headSpec ws (aRm f lo σ)).room) hsize hmY hcY hframes (by rw [hlY]; omega) h4 h5) h1
  obtain ⟨mid, hmid⟩ := h.above
  have hfr : (U.setTop g).frames = (.java g :: mid) ++ below := by rw [State.frames_setTop' g h.top, hmid]; rfl
  obtain ⟨o, s₂, hsteps, -, hend, hq⟩ := Steps.callFree hM p X.admits X.cas X.clock (acts := []) hfr happ hPc trivial
  have hq' : xTh γ σ x (U.calling g mk a) o s₂ := hq
  rw [State.frames_setTop' g h.top] at hend
  obtain ⟨g₀, hg0⟩ := Option.isSome_iff_exists.mp h.top
  obtain ⟨r, hr⟩ := State.topJava?_eq_some.mp hg0
  have hr' : (({ U with heap := s₂.heap, slotsUsed := s₂.slotsUsed } : State).setVm s₂.vm).frames = .java g₀ :: r := hr
  obtain ⟨q, rfl, hq2, ce, L, hx, hce, hcv, hcl, hW₂, hsm, hL⟩ := hq'
  obtain ⟨e2, q2, q3, q4, q5, q6⟩ := id hsm
  have e3 : s₂ = ({ (U.calling g mk a).setFrames s₂.frames with heap := s₂.heap, slotsUsed := s₂.slotsUsed } : State).setVm s₂.vm := by
    have : s₂ = ({ s₂ with vm := (U.calling g mk a).vm } : State).setVm s₂.vm := rfl
    rw [e2] at this
    exact this
  have hf₂ : s₂.frames = .throwing q :: .java g :: U.frames.tail := hend
  have hW' : U.WarmedH s₂.vm := hW₂
  have hs₂ : s₂ = ((({ U with heap := s₂.heap, slotsUsed := s₂.slotsUsed } : State).setVm s₂.vm).setTop g).pushFrame (.throwing q) := by
    refine e3.trans ?_
    rw [hf₂, State.calling_eq h.top, State.setFrames_setFrames, State.pushFrame, State.frames_setTop _ hr', State.setTop_of_frames _ hr', State.setFrames_setFrames, hr]
    rfl
  have hsame : U.sameButNew ({ U with heap := s₂.heap, slotsUsed := s₂.slotsUsed } : State) L (σ.2.2.1 - x.2.2.2.2.1) (σ.2.2.2 - x.2.2.2.2.2) := by
    refine ⟨?_, q2, q3, q4, q5, q6⟩
    obtain ⟨t, ht, -⟩ := State.frames_cons hr
    show ({ U with heap := s₂.heap, slotsUsed := s₂.slotsUsed } : State) = { U.setFrames U.frames with heap := s₂.heap, slotsUsed := s₂.slotsUsed }
    rw [State.setFrames_self ht]
  subst hg
  refine Or.inr ⟨q, ⟨(({ U with heap := s₂.heap, slotsUsed := s₂.slotsUsed } : State).setVm s₂.vm), Ls ++ L, c0 + (σ.2.2.1 - x.2.2.2.2.1), s0 + (σ.2.2.2 - x.2.2.2.2.2)⟩,
    ⟨X.admits, X.cas, X.clock, X.frames, X.room, X.hears, X.method, X.code, (X.here.setHeapUsed s₂.heap s₂.slotsUsed).setVm hW'.alike, X.tail, State.WarmedH.trans X.warmed hW', X.limits, X.bytes, X.same.trans (hsame.setVm s.vm)⟩,
    ⟨g, mk, s₂, L, ce, rfl, rfl, hx, hce, hcv, hcl, hq2, rfl, hL, rfl, rfl⟩, ?_⟩
  show Steps p.tables e below _ (((({ U with heap := s₂.heap, slotsUsed := s₂.slotsUsed } : State).setVm s₂.vm).setTop g).pushFrame (.throwing q))
  rw [← hs₂]
  exact hsteps
end PAY60
/-- a thrown thing lies in the heap -/
def kTh (x : XT) (s : State) (H : Heap) (q : Addr) : Prop := (x.1 = 2 → q = x.2.1) ∧ ∃ ce : Cell, H[q]? = some ce ∧ ce.vm = .none ∧ s.vm.findClass (kE x.1) = some ce.cls
section CALL60
variable {p : Program} {l : Launch} {e : Env} {R : Room} {s : State} {m : MethodId} {args : Array Value} {below : List Frame} {meth : Method} {c : Code} {H : Heap} {locs : List Loc} {cells slots : Nat} {Q : State → Prop}
variable {nL pc : Nat} {ls : Array Slot} {rest st0 : List Value} {γ : KG} {h : CH} {r : CR} {σ0 : CS} {x : XT} {cc bytes : ByteArray} {index n maxL f lo : Nat} {y : MethodName} {ret : Option FieldType} {As : List Value} {own C : String} {ci N : Nat} {T : u_T} {ty : Nat → FieldType} {b : Nat}
/-- a virtual call that ends by a throw -/
theorem t_cV (X : cCtx p s m args c cc nL own γ) (h0H : HR γ σ0.1 s.heap) (hA : AI γ σ0 s R h r H locs cells slots) (hC : kCls ci C T N ty) (hM : xMet l y (ws_ y bytes maxL ret) f lo γ (h, r) (.ref b :: As) (.inr x)) (hle : ale x.2.2.2 r) (hrv : isC h b ci = true) (hnm : kNm y C n) (h1 : Cond.methodLink own index y ∈ lw_all) (h2 : Cond.instanceMethod y ∈ lw_all) (h3 : Cond.initialized C ∈ lw_all) (h4 : Cond.code y bytes maxL ret ∈ lw_all) (h5 : Cond.selects C y y ∈ lw_all)
    (hR : f + 1 ≤ R.frames ∧ 8 + (maxL + 11) + lo ≤ R.locals) (hn : As.length = n) (hst : st0 = As.reverse ++ .ref b :: rest) (hl : ls.size = nL) (hW : 2 * (F0 m pc ls st0).monitorRoom + (rest.map fun v => v.category).sum ≤ 8) (hdg : decode cc pc = .ok (.invokevirtual index, 3))
    (kk : ∀ (H : Heap) (locs : List Loc) (cells slots : Nat) (q : Addr), AI γ σ0 s R x.2.2.1 x.2.2.2 H locs cells slots → kTh x s H q → vx_W p l e R s m args below meth c H locs cells slots Q (F0 m pc ls rest) q) : W p l e R s m args below meth c H locs cells slots Q (F0 m pc ls st0) := by
  obtain ⟨⟨hx, hb, hml, hown, hts⟩, hO, hD⟩ := X
  have hini : (Cond.initialized y.cls) ∈ lw_all := by rw [hnm.1]; exact h3
  have hK : vx_Back l R p e below s args y 3 8 (kPre R (aRm f lo (h, r)) (aPc γ (h, r) (.ref b :: As))) (fun _ _ _ _ => False) (tPost γ (h, r) x) := t_back (bytes := bytes) (maxL := maxL) (ret := ret) hM hR.1 hR.2 (pay_in hts (lw_meth h4)) List.mem_cons_self (fun a' U hU => word_at hU (Or.inl (by first | rfl | simp [Cond.onTables, Cond.keeps, Cond.steady])) (hts _ hini))
  obtain ⟨cellB, hcB, hoB, hclB⟩ := c_recv hC hO hD hA.1.1 hrv
  intro T hT X
  have e1 := hA.2.1
  have e2 := hA.2.2
  rcases vx_callV X hx (C := C) (bytes := bytes) (maxL := maxL) (ret := ret) hown (hts _ h1) (hts _ h2) (hts _ h5) (hts _ h4) ⟨hnm.2.1, hnm.2.2.1⟩ hK (by rw [hT]; exact hcB) hoB hclB (g := F0 m pc ls st0) rfl (hl.trans hml.symm) (argsL := As) (rest := rest) (fun sig h => hn.trans (hnm.len sig h)) hst hW (by rw [hb]; exact hdg)
    (fun vm₁ hW₁ => ⟨by show cells + r.2.1 ≤ _; omega, by show slots + r.2.2 ≤ _; omega, hA.pre hO hD h0H (U := T.setVm vm₁) hT hW₁ _⟩) with ⟨v, vm₁, B, hW₁, X', hf, -⟩ | ⟨q, vm₁, ⟨U', l2, c2, s2⟩, hW₁, X', ⟨g', mk, t, L, ce, e1', e2', hq, hce, hcv, hcl, hq2, h1', hL, h2', h3'⟩, st⟩
  · exact hf.elim
  · dsimp only [Pt.U, Pt.locs, Pt.cells, Pt.slots] at X' e1' e2' hcl h1' h2' h3' st
    subst h1'; subst h2'; subst h3'
    have hAI := hA.call (st₀ := (T.setVm vm₁).calling g' mk (Value.ref b :: As).toArray) (H1 := U'.heap) hT e1' hq hL hle
    obtain ⟨t2, a1, b1⟩ := kk U'.heap _ _ _ q hAI ⟨hq2, ce, by rw [e1']; exact hce, hcv, vx_cls (T := T) hW₁ hcl⟩ U' rfl X'
    exact ⟨t2, st.trans a1, b1⟩
theorem t_cS (X : cCtx p s m args c cc nL own γ) (h0H : HR γ σ0.1 s.heap) (hA : AI γ σ0 s R h r H locs cells slots) (hnm : kNm y C n) (h1 : Cond.methodLink own index y ∈ lw_all) (h2 : Cond.static y ∈ lw_all) (h3 : Cond.initialized C ∈ lw_all) (h4 : Cond.code y bytes maxL ret ∈ lw_all) (hM : xMet l y (ws_ y bytes maxL ret) f lo γ (h, r) As (.inr x)) (hle : ale x.2.2.2 r)
    (hR : f + 1 ≤ R.frames ∧ 8 + (maxL + 11) + lo ≤ R.locals) (hn : As.length = n) (hst : st0 = As.reverse ++ rest) (hl : ls.size = nL) (hW : 2 * (F0 m pc ls st0).monitorRoom + (rest.map fun v => v.category).sum ≤ 8) (hdg : decode cc pc = .ok (.invokestatic index, 3))
    (kk : ∀ (H : Heap) (locs : List Loc) (cells slots : Nat) (q : Addr), AI γ σ0 s R x.2.2.1 x.2.2.2 H locs cells slots → kTh x s H q → vx_W p l e R s m args below meth c H locs cells slots Q (F0 m pc ls rest) q) : W p l e R s m args below meth c H locs cells slots Q (F0 m pc ls st0) := by
  obtain ⟨⟨hx, hb, hml, hown, hts⟩, hO, hD⟩ := X
  have hini : (Cond.initialized y.cls) ∈ lw_all := by rw [hnm.1]; exact h3
  have hK : vx_Back l R p e below s args y 3 8 (kPre R (aRm f lo (h, r)) (aPc γ (h, r) As)) (fun _ _ _ _ => False) (tPost γ (h, r) x) := t_back (bytes := bytes) (maxL := maxL) (ret := ret) hM hR.1 hR.2 (pay_in hts (lw_meth h4)) List.mem_cons_self (fun a' U hU => word_at hU (Or.inl (by first | rfl | simp [Cond.onTables, Cond.keeps, Cond.steady])) (hts _ hini))
  intro T hT X
  have e1 := hA.2.1
  have e2 := hA.2.2
  rcases vx_callS X hx (bytes := bytes) (maxL := maxL) (ret := ret) hown (hts _ h1) (hts _ h2) (hts _ hini) (hts _ h4) ⟨hnm.2.1, hnm.2.2.1⟩ hK (g := F0 m pc ls st0) rfl (hl.trans hml.symm) (argsL := As) (rest := rest) (fun sig h => hn.trans (hnm.len sig h)) hst hW (by rw [hb]; exact hdg)
    (fun vm₁ hW₁ => ⟨by show cells + r.2.1 ≤ _; omega, by show slots + r.2.2 ≤ _; omega, hA.pre hO hD h0H (U := T.setVm vm₁) hT hW₁ _⟩) with ⟨v, vm₁, B, hW₁, X', hf, -⟩ | ⟨q, vm₁, ⟨U', l2, c2, s2⟩, hW₁, X', ⟨g', mk, t, L, ce, e1', e2', hq, hce, hcv, hcl, hq2, h1', hL, h2', h3'⟩, st⟩
  · exact hf.elim
  · dsimp only [Pt.U, Pt.locs, Pt.cells, Pt.slots] at X' e1' e2' hcl h1' h2' h3' st
    subst h1'; subst h2'; subst h3'
    have hAI := hA.call (st₀ := (T.setVm vm₁).calling g' mk As.toArray) (H1 := U'.heap) hT e1' hq hL hle
    obtain ⟨t2, a1, b1⟩ := kk U'.heap _ _ _ q hAI ⟨hq2, ce, by rw [e1']; exact hce, hcv, vx_cls (T := T) hW₁ hcl⟩ U' rfl X'
    exact ⟨t2, st.trans a1, b1⟩
end CALL60
