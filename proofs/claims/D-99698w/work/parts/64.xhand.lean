/-! ===== methods with a table of handlers ===== -/
def xh {α δ : Type} (x : Option (α ⊕ XT)) (k : XT → Option δ) (f : α → Option δ) : Option δ := x.bind fun w => match w with
  | .inl a => f a
  | .inr e => k e
theorem xh_inv {α δ : Type} {x : Option (α ⊕ XT)} {k : XT → Option δ} {f : α → Option δ} {z : δ} (h : xh x k f = some z) : (∃ a, x = some (.inl a) ∧ f a = some z) ∨ ∃ e, x = some (.inr e) ∧ k e = some z := by
  unfold xh at h
  obtain ⟨w, h1, h2⟩ := o_bind h
  cases w with
  | inl a => exact Or.inl ⟨a, h1, h2⟩
  | inr e => exact Or.inr ⟨e, h1, h2⟩
theorem o_guard {α : Type} {c : Prop} [Decidable c] {x : Option α} {z : α} (h : (if c then x else none) = some z) : c ∧ x = some z := by
  split at h
  · next hc => exact ⟨hc, h⟩
  · cases h
section HAND64
variable {p : Program} {l : Launch} {e : Env} {R : Room} {s : State} {m : MethodId} {args : Array Value} {below : List Frame} {meth : Method} {c : Code} {H : Heap} {locs : List Loc} {cells slots : Nat} {Q : State → Prop}
variable {nL pc : Nat} {ls : Array Slot} {rest : List Value} {γ : KG} {x : XT} {cc : ByteArray} {own : String}
theorem t_catchW (X : cCtx p s m args c cc nL own γ) {t : ExceptionTableEntry} {q : Addr} (htab : c.exceptionTable.toList = [t]) (hcov : covers t pc = true) (hct : t.catchType ≠ 0) (hlink : Cond.classLink own t.catchType "TwinInk$Wrong" ∈ lw_all) (hq : kTh x s H q) (h2 : x.1 = 2)
    (kk : W p l e R s m args below meth c H locs cells slots Q (F0 m t.handlerPc ls [.ref x.2.1])) : vx_W p l e R s m args below meth c H locs cells slots Q (F0 m pc ls rest) q := by
  obtain ⟨⟨hx, hb, hml, hown, hts⟩, hO, hD⟩ := X
  obtain ⟨g1, ce, g2, g3, g4⟩ := hq
  rw [h2] at g4
  have e := g1 h2
  subst e
  exact vx_catch hown [] t [] htab (fun z hz => nomatch hz) hcov hct (hts _ hlink) (c_tb (w := .castable "TwinInk$Wrong" "TwinInk$Wrong") hO hD q959 (Cond.castable_setVm hD.1.alike _ _) rfl) g2 g3 g4 kk
end HAND64
section START64
variable {p : Program} {l : Launch}
variable {y : MethodName} {cc : ByteArray} {maxL f lo : Nat} {γ : KG} {As : List Value} {own : String}
theorem x_startH {ret : Option FieldType} {hh : List (Nat × Nat × Nat × Nat)} {z : (Option Value × CS) ⊕ XT} {σ : CS} (hO : kOK γ) (hy : plainName y.cls = true) (hc : y.cls = own) (hlen : Nat.ble (lg_sl As).length maxL = true)
    (body : ∀ (p : Program) (e : Env) (R : Room) (s : State) (m : MethodId) (args : Array Value) (below : List Frame) (meth : Method) (c : Code) (Q : State → Prop) (ls : Array Slot), cCtx p s m args c cc maxL own γ → f ≤ R.frames ∧ lo ≤ R.locals → c.exceptionTable.toList = tableOf hh → HR γ σ.1 s.heap → AI γ σ s R σ.1 σ.2 s.heap [] 0 0 → lv_has ls maxL (lv_args 0 As) →
      (∀ (w : Option Value) (σ1 : CS) (st : List Value) (i : Instr) (H : Heap) (locs : List Loc) (cells slots : Nat) (pc : Nat) (ls : Array Slot), kOut ret st w i → .inl (w, σ1) = z → AI γ σ s R σ1.1 σ1.2 H locs cells slots → decode cc pc = .ok (i, 1) → W p l e R s m args below meth c H locs cells slots Q (F0 m pc ls st)) →
      (∀ (x : XT) (H : Heap) (locs : List Loc) (cells slots : Nat) (pc : Nat) (ls : Array Slot) (rest : List Value) (q : Addr), .inr x = z → (∀ t ∈ tableOf hh, covers t pc = false) → AI γ σ s R x.2.2.1 x.2.2.2 H locs cells slots → kTh x s H q → vx_W p l e R s m args below meth c H locs cells slots Q (F0 m pc ls rest) q) →
      W p l e R s m args below meth c s.heap [] 0 0 Q (F0 m 0 ls [])) : xMet l y (wsW_ y cc maxL ret hh) f lo γ σ As z := by
  refine MetFree.of_bodyS (code := cc) (maxLocals := maxL) (ret := ret) hy ?_ ?_
  · intro args s m h hn
    obtain ⟨m9, meth, c, hn9, h1, h2, h3, h4, -, h5, h6, -⟩ := Cond.codeWith_spec (atoms_spec (ws := wsW_ y cc maxL ret hh) h _ List.mem_cons_self)
    cases hn.symm.trans hn9
    exact ⟨meth, c, h1, h2, h3, h4, h5, h6⟩
  · intro p e s m args below meth c s₁ B hml hP _
    have hh0 : s₁.heap = s.heap := by rw [B.state]; rfl
    have htab : c.exceptionTable.toList = tableOf hh := vx_table (x := y) B (atoms_spec (ws := wsW_ y cc maxL ret hh) B.pre _ List.mem_cons_self)
    obtain ⟨rfl, hD, hH, hz⟩ := hP
    have hts := atoms_spec (ws := wsW_ y cc maxL ret hh) B.pre
    have hts : ∀ w ∈ lw_all, w.before _ s = true := fun w h => hts w (List.mem_cons_of_mem _ h)
    have hown : s.vm.findClass own = some m.cls := hc ▸ findClass_of_methodNamed B.named
    have hl := lv_entry As (n := maxL) (Nat.le_of_ble_eq_true hlen)
    have hb := body p e (headSpec (wsW_ y cc maxL ret hh) (aRm f lo σ)).room s m _ below meth c (xEnd below (xPost γ σ z) As.toArray s) _ ⟨⟨B.exec, B.bytes, hml, hown, hts⟩, hO, hD⟩ ⟨Nat.le_refl _, Nat.le_refl _⟩ htab hH ⟨⟨hH, va_S.rf, hz, fun q h => Or.inl h⟩, Nat.zero_add _, Nat.zero_add _⟩ hl
      (fun w σ1 st i H locs cells slots pc ls ho hw hA hd => by
        subst hw
        obtain ⟨hI, hc1, hc2⟩ := hA
        have hc1 : cells + σ1.2.2.1 = σ.2.2.1 := hc1
        have hc2 : slots + σ1.2.2.2 = σ.2.2.2 := hc2
        have e1 : cells = σ.2.2.1 - σ1.2.2.1 := by omega
        have e2 : slots = σ.2.2.2 - σ1.2.2.2 := by omega
        subst e1; subst e2
        refine W.post (W.out (Qc := aPost γ σ w σ1) (free := kA σ.1 σ.2.1) B.exec B.bytes B.returns ho (fun t ht hW => ⟨rfl, by rw [ht]; exact hI.1, by rw [ht]; exact hI.2.2.1, by rw [← hz]; exact hI.2.2.2, by rw [← hz]; exact hI.2.1.F ht⟩) (fun q hq => by rw [← hz]; exact hI.2.1.2.2 q hq) hd B.notSynchronized) ?_
        intro t ⟨o, b1, b2, b3, b4⟩
        exact ⟨o, b1, b2, b3, b4⟩)
      (fun x H locs cells slots pc ls rest q hx hcv hA hq => by
        subst hx
        exact t_out ⟨rfl, rfl, hz⟩ hA hq (fun t ht => hcv t (by rw [← htab]; exact ht)) B.notSynchronized)
    rw [← lg_entry_eq] at hb
    obtain ⟨t, a1, o, b1, b2, b3⟩ := hb s₁ hh0 (Stand.of_body B)
    exact ⟨t, o, a1, b1, b2, b3⟩
end START64
