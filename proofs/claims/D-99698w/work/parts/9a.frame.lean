/-! ===== the law's world: calls that say what they left alone ===== -/
/-- what a callee left alone; where its cells then lie -/
def fw (h : CH) (n : Nat) (H H1 : Heap) : Prop := n ≤ H1.size ∧ ∀ q : Nat, q < n → h q = none → H1[q]? = H[q]?
def dm (h h' : CH) (n : Nat) : Prop := ∀ q, (h' q).isSome = true → kA h n q
/-- a method that may throw, of which more is known when it has ended -/
def pMet (l : Launch) (y : MethodName) (ws : List Cond) (f lo : Nat) (γ : KG) (σ : CS) (As : List Value) (z : (Option Value × CS) ⊕ XT) (P : Prop) : Prop :=
  MetFree l y (headSpec ws (aRm f lo σ)) (aPc γ σ As) (fun _ _ _ _ _ => True) (fun a st o t => xPost γ σ z a st o t ∧ P)
theorem pMet.of {l : Launch} {y : MethodName} {ws : List Cond} {f lo : Nat} {γ : KG} {σ : CS} {As : List Value} {z : (Option Value × CS) ⊕ XT} (h : xMet l y ws f lo γ σ As z) : pMet l y ws f lo γ σ As z True := by
  intro p e ha hc hk s m args below hf hs hp _
  obtain ⟨n, o, b1, b2, b3, b4⟩ := h p e ha hc hk s m args below hf hs hp trivial
  exact ⟨n, o, b1, b2, b3, b4, trivial⟩
section PAY9A
variable {l : Launch} {R : Room} {p : Program} {e : Env} {below : List Frame} {s : State} {sargs : Array Value} {y : MethodName} {len W9 : Nat}
theorem x_back {ws : List Cond} {f lo : Nat} {γ : KG} {σ : CS} {As : List Value} {z : (Option Value × CS) ⊕ XT} {P : Prop} {bytes : ByteArray} {maxL : Nat} {ret : Option FieldType}
    (hM : pMet l y ws f lo γ σ As z P) (hframes : f + 1 ≤ R.frames) (hlocals : W9 + (maxL + 11) + lo ≤ R.locals)
    (hws : ∀ w ∈ ws, ∀ a' U, s.WarmedH U.vm → w.before a' U = true) (hcode : Cond.code y bytes maxL ret ∈ ws ∨ ∃ hh, Cond.codeWith y bytes maxL ret hh ∈ ws) (hinit : ∀ a' U, s.WarmedH U.vm → (Cond.initialized y.cls).before a' U = true) :
    vx_Back l R p e below s sargs y len W9 (kPre R (aRm f lo σ) (aPc γ σ As)) (fun A a v B => ∃ w, z = .inl w ∧ P ∧ PostOf (aPost γ σ w.1 w.2) (σ.2.2.1 - w.2.2.2.1) (σ.2.2.2 - w.2.2.2.2) (kA σ.1 σ.2.1) A a v B) (fun A a q B => ∃ x, z = .inr x ∧ P ∧ tPost γ σ x A a q B) := by
  intro m meth c A g ig mk a X hg hsize hdg hW hn hp
  have h1 : (headSpec ws (aRm f lo σ)).pre.before a A.U = true := atoms_intro fun w hw => hws w hw _ _ X.warmed
  have h3 : (Cond.initialized y.cls).before a A.U = true := hinit _ _ X.warmed
  have h4 : A.cells + (headSpec ws (aRm f lo σ)).room.cells ≤ R.cells := hp.1
  have h5 : A.slots + (headSpec ws (aRm f lo σ)).room.slots ≤ R.slots := hp.2.1
  have hPc : aPc γ σ As a (A.U.calling g mk a) := aPc_blind _ _ _ _ _ hp.2.2
  have hwsA : ∀ w ∈ ws, w.before a A.U = true := fun w hw => hws w hw _ _ X.warmed
  obtain ⟨U, Ls, c0, s0⟩ := A
  dsimp only [Pt.U, Pt.locs, Pt.cells, Pt.slots] at h1 h3 h4 h5 X hn hPc hwsA ⊢
  obtain ⟨kY, hkY, -⟩ := className_of_methodNamed hn
  have hinitY : kY.init = .initialized := Cond.initialized_spec (findClass_of_methodNamed hn) hkY h3
  have h : At U g.method c below := by rw [hg]; exact X.here
  have hlocals9 : W9 + (maxL + 11) + (headSpec ws (aRm f lo σ)).room.locals ≤ R.locals := hlocals
  have happ : (headSpec ws (aRm f lo σ)).appliesLoose y e.platform (U.calling g mk a) = true := by
    rcases hcode with hc | ⟨hh, hc⟩
    · obtain ⟨methY, cY, hmY, hcY, -, hlY, -, -, -, -⟩ := Cond.code_spec hn (hwsA _ hc)
      exact Spec.appliesLoose_calling (g := g) h hdg hn hkY hinitY
        (X.room_calling (g := g) (R' := (headSpec ws (aRm f lo σ)).room) hsize hmY hcY hframes (by rw [hlY]; omega) h4 h5) h1
    · obtain ⟨m9, methY, cY, hn9, hmY, hcY, -, hlY, -⟩ := Cond.codeWith_spec (hwsA _ hc)
      cases Option.some.inj (hn9.symm.trans hn)
      exact Spec.appliesLoose_calling (g := g) h hdg hn hkY hinitY
        (X.room_calling (g := g) (R' := (headSpec ws (aRm f lo σ)).room) hsize hmY hcY hframes (by rw [hlY]; omega) h4 h5) h1
  obtain ⟨mid, hmid⟩ := h.above
  have hfr : (U.setTop g).frames = (.java g :: mid) ++ below := by rw [State.frames_setTop' g h.top, hmid]; rfl
  obtain ⟨o, s₂, hsteps, -, hend, hq, hPP⟩ := Steps.callFree hM p X.admits X.cas X.clock (acts := []) hfr happ hPc trivial
  rw [State.frames_setTop' g h.top] at hend
  obtain ⟨g₀, hg0⟩ := Option.isSome_iff_exists.mp h.top
  obtain ⟨r, hr⟩ := State.topJava?_eq_some.mp hg0
  have hr' : (({ U with heap := s₂.heap, slotsUsed := s₂.slotsUsed } : State).setVm s₂.vm).frames = .java g₀ :: r := hr
  cases z with
  | inl w =>
    have hq' : aPost γ σ w.1 w.2 a (U.calling g mk a) o s₂ ∧ ∃ L, FrameEnd (U.calling g mk a) o s₂ L (σ.2.2.1 - w.2.2.2.1) (σ.2.2.2 - w.2.2.2.2) ∧ ∀ q ∈ L, kA σ.1 σ.2.1 q.base := hq
    obtain ⟨hqc, L, hfe, hL⟩ := hq'
    obtain ⟨⟨v, rfl⟩, hW₂, e2, q2, q3, q4, q5, q6⟩ := id hfe
    have e3 : s₂ = ({ (U.calling g mk a).setFrames s₂.frames with heap := s₂.heap, slotsUsed := s₂.slotsUsed } : State).setVm s₂.vm := by
      have : s₂ = ({ s₂ with vm := (U.calling g mk a).vm } : State).setVm s₂.vm := rfl
      rw [e2] at this
      exact this
    obtain ⟨c₂, i₂, len₂, hc₂, hd₂, hf₂⟩ := hend
    have hW' : U.WarmedH s₂.vm := hW₂
    have hcc : c₂ = c := by
      have h1 : s₂.code? g.method = U.code? g.method := by
        rw [State.code?_eq, State.code?_eq, hW'.alike.method?]
      exact Option.some.inj (hc₂.symm.trans (h1.trans h.code))
    subst hcc
    have hlen : len₂ = len := by rw [hdg] at hd₂; cases hd₂; rfl
    subst hlen
    have hs₂ : s₂ = (({ U with heap := s₂.heap, slotsUsed := s₂.slotsUsed } : State).setVm s₂.vm).setTop { g with pc := g.pc + len₂, stack := v.toList ++ g.stack } := by
      refine e3.trans ?_
      rw [hf₂, State.calling_eq h.top, State.setFrames_setFrames, State.setTop_of_frames _ hr', hr]
      rfl
    have hsame : U.sameButNew ({ U with heap := s₂.heap, slotsUsed := s₂.slotsUsed } : State) L (σ.2.2.1 - w.2.2.2.1) (σ.2.2.2 - w.2.2.2.2) := by
      refine ⟨?_, q2, q3, q4, q5, q6⟩
      obtain ⟨t, ht, -⟩ := State.frames_cons hr
      show ({ U with heap := s₂.heap, slotsUsed := s₂.slotsUsed } : State) = { U.setFrames U.frames with heap := s₂.heap, slotsUsed := s₂.slotsUsed }
      rw [State.setFrames_self ht]
    subst hg
    refine Or.inl ⟨v, ⟨(({ U with heap := s₂.heap, slotsUsed := s₂.slotsUsed } : State).setVm s₂.vm), Ls ++ L, c0 + (σ.2.2.1 - w.2.2.2.1), s0 + (σ.2.2.2 - w.2.2.2.2)⟩,
      ⟨X.admits, X.cas, X.clock, X.frames, X.room, X.hears, X.method, X.code, (X.here.setHeapUsed s₂.heap s₂.slotsUsed).setVm hW'.alike, X.tail, State.WarmedH.trans X.warmed hW', X.limits, X.bytes, X.same.trans (hsame.setVm s.vm)⟩,
      ⟨w, rfl, hPP, g, mk, s₂, L, rfl, rfl, hqc, rfl, hL, rfl, rfl⟩, ?_⟩
    show Steps p.tables e below _ ((({ U with heap := s₂.heap, slotsUsed := s₂.slotsUsed } : State).setVm s₂.vm).setTop { g with pc := g.pc + len₂, stack := v.toList ++ g.stack })
    rw [← hs₂]
    exact hsteps
  | inr x =>
    have hq' : xTh γ σ x (U.calling g mk a) o s₂ := hq
    obtain ⟨q, rfl, hq2, ce, L, hx, hce, hcv, hcl, hW₂, hsm, hL⟩ := hq'
    obtain ⟨e2, q2, q3, q4, q5, q6⟩ := id hsm
    have e3 : s₂ = ({ (U.calling g mk a).setFrames s₂.frames with heap := s₂.heap, slotsUsed := s₂.slotsUsed } : State).setVm s₂.vm := by
      have : s₂ = ({ s₂ with vm := (U.calling g mk a).vm } : State).setVm s₂.vm := rfl
      rw [e2] at this
      exact this
    have hf₂ : s₂.frames = .throwing q :: .java g :: U.frames.tail := hend
    have hW' : U.WarmedH s₂.vm := hW₂
    have hs₂ : s₂ = ((({ U with heap := s₂.heap, slotsUsed := s₂.slotsUsed } : State).setVm s₂.vm).setTop g).pushFrame (.throwing q) := by
      refine e3.trans ?_
      rw [hf₂, State.calling_eq h.top, State.setFrames_setFrames, State.pushFrame, State.frames_setTop _ hr', State.setTop_of_frames _ hr', State.setFrames_setFrames, hr]
      rfl
    have hsame : U.sameButNew ({ U with heap := s₂.heap, slotsUsed := s₂.slotsUsed } : State) L (σ.2.2.1 - x.2.2.2.2.1) (σ.2.2.2 - x.2.2.2.2.2) := by
      refine ⟨?_, q2, q3, q4, q5, q6⟩
      obtain ⟨t, ht, -⟩ := State.frames_cons hr
      show ({ U with heap := s₂.heap, slotsUsed := s₂.slotsUsed } : State) = { U.setFrames U.frames with heap := s₂.heap, slotsUsed := s₂.slotsUsed }
      rw [State.setFrames_self ht]
    subst hg
    refine Or.inr ⟨q, ⟨(({ U with heap := s₂.heap, slotsUsed := s₂.slotsUsed } : State).setVm s₂.vm), Ls ++ L, c0 + (σ.2.2.1 - x.2.2.2.2.1), s0 + (σ.2.2.2 - x.2.2.2.2.2)⟩,
      ⟨X.admits, X.cas, X.clock, X.frames, X.room, X.hears, X.method, X.code, (X.here.setHeapUsed s₂.heap s₂.slotsUsed).setVm hW'.alike, X.tail, State.WarmedH.trans X.warmed hW', X.limits, X.bytes, X.same.trans (hsame.setVm s.vm)⟩,
      ⟨x, rfl, hPP, g, mk, s₂, L, ce, rfl, rfl, hx, hce, hcv, hcl, hq2, rfl, hL, rfl, rfl⟩, ?_⟩
    show Steps p.tables e below _ (((({ U with heap := s₂.heap, slotsUsed := s₂.slotsUsed } : State).setVm s₂.vm).setTop g).pushFrame (.throwing q))
    rw [← hs₂]
    exact hsteps
end PAY9A
