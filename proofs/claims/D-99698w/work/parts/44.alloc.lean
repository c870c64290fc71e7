/-! ===== methods that make cells (A): the heap's size and what is left of the room ride along ===== -/
abbrev CR : Type := Nat × Nat × Nat
abbrev CS : Type := CH × CR
def aPc (γ : KG) (σ : CS) (As : List Value) : Array Value → State → Prop := va_Pc As (fun U => kD γ U ∧ HR γ σ.1 U.heap ∧ U.heap.size = σ.2.1)
def aQb (γ : KG) (σ σ' : CS) (st t : State) : Prop := HR γ σ'.1 t.heap ∧ t.heap.size = σ'.2.1 ∧ (∀ q, (σ'.1 q).isSome = true → kA σ.1 σ.2.1 q) ∧ va_F (kA σ.1 σ.2.1) st t
def aPost (γ : KG) (σ : CS) (v : Option Value) (σ' : CS) : Array Value → State → Outcome → State → Prop := fun _ st o t => o = .returned v ∧ aQb γ σ σ' st t
abbrev aRm (f lo : Nat) (σ : CS) : Room := { frames := f, cells := σ.2.2.1, slots := σ.2.2.2, locals := lo }
def aMet (l : Launch) (y : MethodName) (ws : List Cond) (f lo : Nat) (γ : KG) (σ : CS) (As : List Value) (v : Option Value) (σ' : CS) : Prop := Met l y ws (aRm f lo σ) (aPc γ σ As) (aPost γ σ v σ') (σ.2.2.1 - σ'.2.2.1) (σ.2.2.2 - σ'.2.2.2) (kA σ.1 σ.2.1)
def ale (σ' : CR) (σ : CR) : Prop := σ'.2.1 ≤ σ.2.1 ∧ σ'.2.2 ≤ σ.2.2
/-- a call's answer, if the room didn't grow (it never does) -/
def achk {α : Type} (r : CR) (x : Option (α × CS)) : Option (α × CS) := x.bind fun q => if q.2.2.2.1 ≤ r.2.1 ∧ q.2.2.2.2 ≤ r.2.2 then some q else none
def achv (r : CR) (x : Option CS) : Option CS := x.bind fun q => if q.2.2.1 ≤ r.2.1 ∧ q.2.2.2 ≤ r.2.2 then some q else none
theorem achk_inv {α : Type} {r : CR} {x : Option (α × CS)} {q : α × CS} (h : achk r x = some q) : x = some q ∧ ale q.2.2 r := by
  unfold achk at h
  obtain ⟨w, h1, h2⟩ := o_bind h
  split at h2
  · next hc => cases h2; exact ⟨h1, hc⟩
  · cases h2
theorem achv_inv {r : CR} {x : Option CS} {q : CS} (h : achv r x = some q) : x = some q ∧ ale q.2 r := by
  unfold achv at h
  obtain ⟨w, h1, h2⟩ := o_bind h
  split at h2
  · next hc => cases h2; exact ⟨h1, hc⟩
  · cases h2
/-- a new cell: an object with its fields' default values, an array -/
def aCell (h : CH) (r : CR) (n : Nat) (e : CE) : Option CS := if 1 ≤ r.2.1 ∧ n ≤ r.2.2 then some (hup h r.1 e, r.1 + 1, r.2.1 - 1, r.2.2 - n) else none
def aArr (h : CH) (r : CR) (t : Nat) (n : Int32) : Option CS := if n < 0 ∨ 100000 < n.toNatClampNeg then none else aCell h r n.toNatClampNeg (.inl (t, n.toNatClampNeg, .inl (fun _ => 0)))
def aArrQ (h : CH) (r : CR) (t : Nat) (n : Int32) : Option CS := if n < 0 ∨ 100000 < n.toNatClampNeg then none else aCell h r n.toNatClampNeg (.inl (t, n.toNatClampNeg, .inr (.inr (.inr (.inr (fun _ => none))))))
theorem aCell_inv {h : CH} {r : CR} {n : Nat} {e : CE} {q : CS} (x : aCell h r n e = some q) : 1 ≤ r.2.1 ∧ n ≤ r.2.2 ∧ q = (hup h r.1 e, r.1 + 1, r.2.1 - 1, r.2.2 - n) := by
  unfold aCell at x
  split at x
  · next hc => cases x; exact ⟨hc.1, hc.2, rfl⟩
  · cases x
theorem aArr_inv {h : CH} {r : CR} {t : Nat} {n : Int32} {q : CS} (x : aArr h r t n = some q) : ¬ n < 0 ∧ n.toNatClampNeg ≤ 100000 ∧ aCell h r n.toNatClampNeg (.inl (t, n.toNatClampNeg, .inl (fun _ => 0))) = some q := by
  unfold aArr at x
  split at x
  · cases x
  · next hc => exact ⟨fun h => hc (Or.inl h), Nat.le_of_not_lt fun h => hc (Or.inr h), x⟩
theorem aArrQ_inv {h : CH} {r : CR} {t : Nat} {n : Int32} {q : CS} (x : aArrQ h r t n = some q) : ¬ n < 0 ∧ n.toNatClampNeg ≤ 100000 ∧ aCell h r n.toNatClampNeg (.inl (t, n.toNatClampNeg, .inr (.inr (.inr (.inr (fun _ => none)))))) = some q := by
  unfold aArrQ at x
  split at x
  · cases x
  · next hc => exact ⟨fun h => hc (Or.inl h), Nat.le_of_not_lt fun h => hc (Or.inr h), x⟩
/-- inside such a method, begun at s with the cells σ0 -/
def AI (γ : KG) (σ0 : CS) (s : State) (R : Room) (h : CH) (r : CR) (H : Heap) (locs : List Loc) (cells slots : Nat) : Prop := NI γ (kA σ0.1 s.heap.size) r.1 s h H locs ∧ cells + r.2.1 = R.cells ∧ slots + r.2.2 = R.slots
theorem kA_F {γ : KG} {σ : CS} {s : State} (hO : kOK γ) (hD : kD γ s) (h0H : HR γ σ.1 s.heap) : ∀ q, kA σ.1 s.heap.size q → γ.2.2.2.2.1 q := by
  intro q hq
  rcases hq with hq | hq
  · exact c_AF h0H q hq
  · exact hO.2.2.2 q (Nat.le_trans hD.2.1 hq)
section ALLOC
variable {p : Program} {l : Launch} {e : Env} {R : Room} {s : State} {m : MethodId} {args : Array Value} {below : List Frame} {meth : Method} {c : Code} {H : Heap} {locs : List Loc} {cells slots : Nat} {Q : State → Prop}
variable {nL pc : Nat} {ls : Array Slot} {rest st0 : List Value} {γ : KG} {h h' : CH} {r r' : CR} {σ0 σ σ' : CS} {cc bytes : ByteArray} {index n maxL f lo : Nat} {y : MethodName} {ret : Option FieldType} {As : List Value} {own C : String} {ci N : Nat} {T : u_T} {ty : Nat → FieldType} {A : Nat → Prop} {a : Array Value} {w : Option Value} {mc ms : Nat} {ws : List Cond} {rm : Room} {Pc : Array Value → State → Prop} {Qc : Array Value → State → Outcome → State → Prop} {free : Addr → Prop}
theorem AI.up {H1 : Heap} {locs1 : List Loc} (hA : AI γ σ0 s R h r H locs cells slots) (hI : NI γ (kA σ0.1 s.heap.size) r.1 s h' H1 locs1) : AI γ σ0 s R h' r H1 locs1 cells slots := ⟨hI, hA.2⟩
theorem AI.RR (hA : AI γ σ0 s R h r H locs cells slots) : cells + 0 ≤ R.cells ∧ slots + 0 ≤ R.slots := ⟨by have := hA.2.1; omega, by have := hA.2.2; omega⟩
/-- a new cell, made -/
theorem AI.new {H1 : Heap} {x : CE} (hO : kOK γ) (hD : kD γ s) (hA : AI γ σ0 s R h r H locs cells slots) {q : CS} (hq : aCell h r n x = some q) (hx : va_at γ.1 kCL (r.1, ceE γ.2.1 x) H1) (z : H1.size = H.size + 1) (o1 : ∀ p : Nat, p < H.size → H1[p]? = H[p]?) : AI γ σ0 s R q.1 q.2 H1 locs (cells + 1) (slots + n) := by
  obtain ⟨h1, h2, rfl⟩ := aCell_inv hq
  obtain ⟨⟨hH, hS, hz, hd⟩, hc, hs⟩ := hA
  have hF : γ.2.2.2.2.1 r.1 := hO.2.2.2 _ (by rw [← hz]; exact Nat.le_trans hD.2.1 hS.1)
  have hlt : ∀ p, (h p).isSome = true → p < H.size := by
    intro p hp
    obtain ⟨e, he⟩ := Option.isSome_iff_exists.mp hp
    exact ((hH p e he).1).lt
  refine ⟨⟨hH.up hF hx (fun p _ hp => o1 p (hlt p hp)), ⟨by rw [z]; exact Nat.le_succ_of_le hS.1, fun p q1 q2 => ?_, hS.2.2⟩, by rw [z, hz], fun p hp => ?_⟩, ?_, ?_⟩
  · rw [o1 p (Nat.lt_of_lt_of_le q1 hS.1)]
    exact hS.2.1 p q1 q2
  · by_cases hp1 : p = r.1
    · subst hp1
      exact Or.inr (by rw [← hz]; exact hS.1)
    · have hp2 : (hup h r.1 x p).isSome = true := hp
      rw [hup_n hp1] at hp2
      exact hd p hp2
  · dsimp only
    omega
  · dsimp only
    omega
theorem a_new (X : cCtx p s m args c cc nL own γ) (hA : AI γ σ0 s R h r H locs cells slots) (hC : kCls ci C T N ty) (hcl : Cond.classLink own index C ∈ lw_all) (hin : Cond.instantiable C N ∈ lw_all) (hini : Cond.initialized C ∈ lw_all) {fs : List Value} (hfs : ∀ j, j < N → defaultValue (ty j) = vp_V fs j) {q : CS} (hr : aCell h r N (.inr (ci, fs)) = some q) (hdg : decode cc pc = .ok (.new index, 3))
    (kk : ∀ (H : Heap) (cells slots : Nat), AI γ σ0 s R q.1 q.2 H locs cells slots → W p l e R s m args below meth c H locs cells slots Q (F0 m (pc + 3) ls (.ref r.1 :: rest))) : W p l e R s m args below meth c H locs cells slots Q (F0 m pc ls rest) := by
  obtain ⟨⟨hx, hb, hml, hown, hts⟩, hO, hD⟩ := X
  obtain ⟨h1, h2, -⟩ := aCell_inv hr
  have hKn := (hD.K hO).1 ci _ hC.1
  have e1 := hA.2.1
  have e2 := hA.2.2
  have hz : H.size = r.1 := hA.1.2.2.1
  refine W.newcK hx hb hown (hts _ hcl) (hts _ hin) (hts _ hini) rfl hdg (by omega) (by omega) hKn.2.1 rfl fun H1 kC hkC e1 z1 o1 => ?_
  have hk := kk H1 (cells + 1) (slots + N) (hA.new hO hD hr ⟨_, hC.1, by rw [← hz]; exact (u_born ty hts hC.2.1 hKn hkC e1 hC.2.2.1).to hfs⟩ z1 o1)
  rw [← hz] at hk
  exact hk
/-! calls: a callee's room is what is left; what it uses is what it says -/
def kPre (R : Room) (rm : Room) (Pc : Array Value → State → Prop) : Pt → Array Value → Prop := fun A a => A.cells + rm.cells ≤ R.cells ∧ A.slots + rm.slots ≤ R.slots ∧ Pc a A.U
theorem k_back {sargs : Array Value} {len W9 : Nat} (hM : Met l y ws rm Pc Qc mc ms free) (hblind : FrameBlind Pc)
    (hframes : rm.frames + 1 ≤ R.frames) (hlocals : W9 + (maxL + 11) + rm.locals ≤ R.locals)
    (hws : ∀ w ∈ ws, ∀ a' U, s.WarmedH U.vm → w.before a' U = true) (hcode : Cond.code y bytes maxL ret ∈ ws) (hinit : (Cond.initialized y.cls).before sargs s = true) :
    Back l R p e below s sargs y len W9 (kPre R rm Pc) (PostOf Qc mc ms free) := by
  refine Back.of_free (S := headSpec ws rm) (P := Pc) (K := fun _ _ _ _ _ => True) (Q := fun a st o t => Qc a st o t ∧ ∃ L, FrameEnd st o t L mc ms ∧ ∀ q ∈ L, free q.base) (bytes := bytes) (maxL := maxL) (ret := ret)
    (E := fun a st o t L k n => k = mc ∧ n = ms ∧ ∀ q ∈ L, free q.base) hM hframes hlocals ?_ ?_ (fun _ _ _ _ _ _ _ _ _ => trivial) ?_ ?_
  · intro m meth c A a X hp
    exact ⟨atoms_intro fun w hw => hws w hw _ _ X.warmed, hws _ hcode _ _ X.warmed, word_at X.warmed (Or.inl (by first | rfl | simp [Cond.onTables, Cond.keeps, Cond.steady])) hinit, hp.1, hp.2.1⟩
  · intro m meth c A a g mk X hp
    exact hblind _ _ _ _ hp.2.2
  · intro a st o t ⟨hq, L, hF, hL⟩
    exact ⟨L, mc, ms, hF, rfl, rfl, hL⟩
  · intro m meth c A a g mk v t L k n X hp hq hF ⟨e1, e2, hL⟩
    subst e1; subst e2
    exact ⟨g, mk, t, L, rfl, rfl, hq.1, rfl, hL, rfl, rfl⟩
theorem aPc_blind {σ : CS} (As : List Value) : FrameBlind (aPc γ σ As) := fun a U g mk q => q
theorem AI.call {st₀ t : State} {H1 : Heap} {L : List Loc} (hA : AI γ σ0 s R h r H locs cells slots) (e0 : st₀.heap = H) (e1 : H1 = t.heap) (hq : aQb γ (h, r) σ' st₀ t) (hL : ∀ q ∈ L, kA h r.1 q.base) (hle : ale σ'.2 r) : AI γ σ0 s R σ'.1 σ'.2 H1 (locs ++ L) (cells + (r.2.1 - σ'.2.2.1)) (slots + (r.2.2 - σ'.2.2.2)) := by
  obtain ⟨q1, q2, q3, q5⟩ := hq
  obtain ⟨⟨hH, hS, hz, hd⟩, hc, hs⟩ := hA
  have hAA : ∀ q, kA h r.1 q → kA σ0.1 s.heap.size q := by
    intro q hq
    rcases hq with hq | hq
    · exact hd q hq
    · exact Or.inr (Nat.le_trans hS.1 (by rw [hz]; exact hq))
  obtain ⟨l1, l2⟩ := hle
  refine ⟨⟨by rw [e1]; exact q1, ⟨by rw [e1]; exact Nat.le_trans hS.1 (by rw [← e0]; exact q5.1), fun q h1 h2 => ?_, fun q hq => ?_⟩, by rw [e1]; exact q2, fun q hq => hAA q (q3 q hq)⟩, by omega, by omega⟩
  · rw [e1, q5.2 q (by rw [e0]; exact Nat.lt_of_lt_of_le h1 hS.1) (fun hA => h2 (hAA q hA)), e0]
    exact hS.2.1 q h1 h2
  · rcases List.mem_append.mp hq with h | h
    · exact hS.2.2 q h
    · exact hAA _ (hL q h)
theorem a_go (hr : va_Run p l e R s m args below meth c H locs cells slots (r.2.1 - σ'.2.2.1) (r.2.2 - σ'.2.2.2) (F0 m pc ls st0) rest (aPost γ (h, r) w σ' a) (kA h r.1)) (hA : AI γ σ0 s R h r H locs cells slots) (hle : ale σ'.2 r)
    (kk : ∀ (H : Heap) (locs : List Loc) (cells slots : Nat), AI γ σ0 s R σ'.1 σ'.2 H locs cells slots → W p l e R s m args below meth c H locs cells slots Q (F0 m (pc + 3) ls (w.toList ++ rest))) : W p l e R s m args below meth c H locs cells slots Q (F0 m pc ls st0) := by
  intro T hT X
  obtain ⟨v, st₀, t, T', L, h0', X', hL, e1, e2, ⟨hv, hq⟩, st⟩ := hr T hT X
  cases hv
  obtain ⟨t2, a1, b1⟩ := kk T'.heap (locs ++ L) _ _ (hA.call h0' e1 hq hL hle) T' rfl X'
  exact ⟨t2, st t2 a1, b1⟩
theorem a_go5 (hr : va_Run5 p l e R s m args below meth c H locs cells slots (r.2.1 - σ'.2.2.1) (r.2.2 - σ'.2.2.2) (F0 m pc ls st0) rest (aPost γ (h, r) w σ' a) (kA h r.1)) (hA : AI γ σ0 s R h r H locs cells slots) (hle : ale σ'.2 r)
    (kk : ∀ (H : Heap) (locs : List Loc) (cells slots : Nat), AI γ σ0 s R σ'.1 σ'.2 H locs cells slots → W p l e R s m args below meth c H locs cells slots Q (F0 m (pc + 5) ls (w.toList ++ rest))) : W p l e R s m args below meth c H locs cells slots Q (F0 m pc ls st0) := by
  intro T hT X
  obtain ⟨v, st₀, t, T', L, h0', X', hL, e1, e2, ⟨hv, hq⟩, st⟩ := hr T hT X
  cases hv
  obtain ⟨t2, a1, b1⟩ := kk T'.heap (locs ++ L) _ _ (hA.call h0' e1 hq hL hle) T' rfl X'
  exact ⟨t2, st t2 a1, b1⟩
theorem AI.D {U : State} (hO : kOK γ) (hD : kD γ s) (h0H : HR γ σ0.1 s.heap) (hA : AI γ σ0 s R h r H locs cells slots) (hU : U.heap = H) (hW : s.WarmedH U.vm) : kD γ U := hA.1.D hD (kA_F hO hD h0H) hU hW
theorem AI.pre {U : State} (hO : kOK γ) (hD : kD γ s) (h0H : HR γ σ0.1 s.heap) (hA : AI γ σ0 s R h r H locs cells slots) (hU : U.heap = H) (hW : s.WarmedH U.vm) (As : List Value) : aPc γ (h, r) As As.toArray U := ⟨rfl, hA.D hO hD h0H hU hW, by rw [hU]; exact hA.1.1, by rw [hU]; exact hA.1.2.2.1⟩
/-- by its object -/
theorem a_cV {b : Nat} (X : cCtx p s m args c cc nL own γ) (h0H : HR γ σ0.1 s.heap) (hA : AI γ σ0 s R h r H locs cells slots) (hC : kCls ci C T N ty) (hM : aMet l y (ws_ y bytes maxL ret) f lo γ (h, r) (.ref b :: As) w σ') (hle : ale σ'.2 r) (hrv : isC h b ci = true) (hnm : kNm y C n) (h1 : Cond.methodLink own index y ∈ lw_all) (h2 : Cond.instanceMethod y ∈ lw_all) (h3 : Cond.initialized C ∈ lw_all) (h4 : Cond.code y bytes maxL ret ∈ lw_all) (h5 : Cond.selects C y y ∈ lw_all)
    (hR : f + 1 ≤ R.frames ∧ 8 + (maxL + 11) + lo ≤ R.locals) (hn : As.length = n) (hst : st0 = As.reverse ++ .ref b :: rest) (hl : ls.size = nL) (hW : 2 * (F0 m pc ls st0).monitorRoom + (rest.map fun v => v.category).sum ≤ 8) (hdg : decode cc pc = .ok (.invokevirtual index, 3))
    (kk : ∀ (H : Heap) (locs : List Loc) (cells slots : Nat), AI γ σ0 s R σ'.1 σ'.2 H locs cells slots → W p l e R s m args below meth c H locs cells slots Q (F0 m (pc + 3) ls (w.toList ++ rest))) : W p l e R s m args below meth c H locs cells slots Q (F0 m pc ls st0) := by
  obtain ⟨⟨hx, hb, hml, hown, hts⟩, hO, hD⟩ := X
  have hini : (Cond.initialized y.cls) ∈ lw_all := by rw [hnm.1]; exact h3
  have hK : Back l R p e below s args y 3 8 (kPre R (aRm f lo (h, r)) (aPc γ (h, r) (.ref b :: As))) (PostOf (aPost γ (h, r) w σ') (r.2.1 - σ'.2.2.1) (r.2.2 - σ'.2.2.2) (kA h r.1)) := k_back (bytes := bytes) (maxL := maxL) (ret := ret) hM (aPc_blind _) hR.1 hR.2 (pay_in hts (lw_meth h4)) List.mem_cons_self (hts _ hini)
  obtain ⟨cellB, hcB, hoB, hclB⟩ := c_recv hC hO hD hA.1.1 hrv
  refine a_go (a := (Value.ref b :: As).toArray) ?_ hA hle kk
  intro T hT X
  have e1 := hA.2.1
  have e2 := hA.2.2
  obtain ⟨v, vm₁, ⟨U', l2, c2, s2⟩, hW₁, X', ⟨g', mk, t, L, e1, e2, hq, h1, hL, h2, h3⟩, st⟩ := callV X hx (C := C) (bytes := bytes) (maxL := maxL) (ret := ret) hown (hts _ h1) (hts _ h2) (hts _ h5) (hts _ h4) ⟨hnm.2.1, hnm.2.2.1⟩ hK (by rw [hT]; exact hcB) hoB hclB rfl (hl.trans hml.symm) (argsL := As) (rest := rest) (fun sig h => hn.trans (by have h2 := hnm.2.2.2; rw [h] at h2; exact (Option.some.inj h2).symm)) hst hW (by rw [hb]; exact hdg)
    (fun vm₁ hW₁ => ⟨by show cells + r.2.1 ≤ _; omega, by show slots + r.2.2 ≤ _; omega, hA.pre hO hD h0H (U := T.setVm vm₁) hT hW₁ _⟩)
  dsimp only [Pt.U, Pt.locs, Pt.cells, Pt.slots] at X' e1 e2 h1 h2 h3 st
  subst h1; subst h2; subst h3
  exact ⟨v, (T.setVm vm₁).calling g' mk (Value.ref b :: As).toArray, t, U', L, hT, X', hL, e1, e2, hq, st⟩
end ALLOC
