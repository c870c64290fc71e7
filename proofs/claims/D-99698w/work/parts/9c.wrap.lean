/-! ===== the law's small methods: where they begin and end ===== -/
def ouC (w : Nat → Int64) : CE := .inl (6, 1, .inr (.inl w))
def zxH (z : (Int32 × CS) ⊕ XT) : CH := match z with
  | .inl q => q.2.1
  | .inr x => x.2.2.1
def zxC (z : (Int32 × CS) ⊕ XT) : CR := match z with
  | .inl q => q.2.2
  | .inr x => x.2.2.2
/-- what such a method answers, and what lies in out then -/
def wzK (c : Int32) (z : (Int32 × CS) ⊕ XT) : Int32 := match z with
  | .inl _ => 0
  | .inr x => if x.1 = 0 then 1 else c
def wzW (F : Int32 → Int64) (w : Nat → Int64) (z : (Int32 × CS) ⊕ XT) : Nat → Int64 := match z with
  | .inl q => vp_updL w 0 (F q.1)
  | .inr _ => w
def wz (F : Int32 → Int64) (c : Int32) (w : Nat → Int64) (out : Nat) (z : (Int32 × CS) ⊕ XT) : Option Value × CS := (some (.int (wzK c z)), (hup (zxH z) out (ouC (wzW F w z)), zxC z))
def bJ (v : Int32) : Int64 := if v = 0 then 0 else 1
section WRAP9C
variable {p : Program} {l : Launch} {e : Env} {R : Room} {s : State} {m : MethodId} {args : Array Value} {below : List Frame} {meth : Method} {c : Code} {H : Heap} {locs : List Loc} {cells slots : Nat} {Q : State → Prop}
variable {γ : KG} {h : CH} {r : CR} {σ0 : CS} {a : Nat} {x : CE}
theorem AI.drop (hA : AI γ σ0 s R (hup h a x) r H locs cells slots) (ha : h a = none) : AI γ σ0 s R h r H locs cells slots ∧ va_at γ.1 kCL (a, ceE γ.2.1 x) H ∧ γ.2.2.2.2.1 a ∧ kA σ0.1 s.heap.size a := by
  obtain ⟨⟨hH, hS, hz, hd⟩, hc, hs⟩ := hA
  have hne : ∀ q, (h q).isSome = true → q ≠ a := fun q hq e => by rw [e, ha] at hq; cases hq
  refine ⟨⟨⟨fun q e he => hH q e ?_, hS, hz, fun q hq => hd q ?_⟩, hc, hs⟩, (hH a x hup_s).1, (hH a x hup_s).2, hd a (by rw [hup_s]; rfl)⟩
  · rw [hup_n (hne q (by rw [he]; rfl))]; exact he
  · rw [hup_n (hne q hq)]; exact hq
theorem AI.add (hA : AI γ σ0 s R h r H locs cells slots) (hF : γ.2.2.2.2.1 a) (hat : va_at γ.1 kCL (a, ceE γ.2.1 x) H) (hk : kA σ0.1 s.heap.size a) : AI γ σ0 s R (hup h a x) r H locs cells slots := by
  obtain ⟨⟨hH, hS, hz, hd⟩, hc, hs⟩ := hA
  refine ⟨⟨hH.up hF hat (fun _ _ _ => rfl), hS, hz, fun q hq => ?_⟩, hc, hs⟩
  by_cases e : q = a
  · rw [e]; exact hk
  · rw [hup_n e] at hq; exact hd q hq
theorem fw_at {n : Nat} {H1 : Heap} (hf : fw h n H H1) (ha : h a = none) (hn : a < n) (hat : va_at γ.1 kCL (a, ceE γ.2.1 x) H) : va_at γ.1 kCL (a, ceE γ.2.1 x) H1 := hat.kept (hf.2 a hn ha)
theorem sJ_out {w : Nat → Int64} {v : Int64} : sJ (hup h a (ouC w)) a 0 v = some (hup h a (ouC (vp_updL w 0 v))) := by
  unfold sJ ouC
  rw [hup_s]
  dsimp only
  rw [if_pos rfl, if_neg (by decide), hup_hup]
  rfl
variable {y : MethodName} {cc : ByteArray} {maxL f lo : Nat} {As : List Value} {own : String}
theorem w_start {ret : Option FieldType} {hh : List (Nat × Nat × Nat × Nat)} {w0 : Option Value × CS} {σ : CS} {P : Prop} (hO : kOK γ) (hy : plainName y.cls = true) (hc : y.cls = own) (hlen : Nat.ble (lg_sl As).length maxL = true)
    (body : ∀ (p : Program) (e : Env) (R : Room) (s : State) (m : MethodId) (args : Array Value) (below : List Frame) (meth : Method) (c : Code) (Q : State → Prop) (ls : Array Slot), cCtx p s m args c cc maxL own γ → f ≤ R.frames ∧ lo ≤ R.locals → c.exceptionTable.toList = tableOf hh → HR γ σ.1 s.heap → AI γ σ s R σ.1 σ.2 s.heap [] 0 0 → lv_has ls maxL (lv_args 0 As) →
      (∀ (w1 : Option Value × CS) (st : List Value) (i : Instr) (H : Heap) (locs : List Loc) (cells slots : Nat) (pc : Nat) (ls : Array Slot), w1 = w0 → kOut ret st w1.1 i → P → AI γ σ s R w1.2.1 w1.2.2 H locs cells slots → decode cc pc = .ok (i, 1) → W p l e R s m args below meth c H locs cells slots Q (F0 m pc ls st)) →
      W p l e R s m args below meth c s.heap [] 0 0 Q (F0 m 0 ls [])) : pMet l y (wsW_ y cc maxL ret hh) f lo γ σ As (.inl w0) P := by
  refine MetFree.of_bodyS (code := cc) (maxLocals := maxL) (ret := ret) hy ?_ ?_
  · intro args s m h hn
    obtain ⟨m9, meth, c, hn9, h1, h2, h3, h4, -, h5, h6, -⟩ := Cond.codeWith_spec (atoms_spec (ws := wsW_ y cc maxL ret hh) h _ List.mem_cons_self)
    cases hn.symm.trans hn9
    exact ⟨meth, c, h1, h2, h3, h4, h5, h6⟩
  · intro p e s m args below meth c s₁ B hml hP _
    have hh0 : s₁.heap = s.heap := by rw [B.state]; rfl
    have htab : c.exceptionTable.toList = tableOf hh := vx_table (x := y) B (atoms_spec (ws := wsW_ y cc maxL ret hh) B.pre _ List.mem_cons_self)
    obtain ⟨rfl, hD, hH, hz⟩ := hP
    have hts := atoms_spec (ws := wsW_ y cc maxL ret hh) B.pre
    have hts : ∀ w ∈ lw_all, w.before _ s = true := fun w h => hts w (List.mem_cons_of_mem _ h)
    have hown : s.vm.findClass own = some m.cls := hc ▸ findClass_of_methodNamed B.named
    have hl := lv_entry As (n := maxL) (Nat.le_of_ble_eq_true hlen)
    have hb := body p e (headSpec (wsW_ y cc maxL ret hh) (aRm f lo σ)).room s m _ below meth c (xEnd below (fun a st o t => xPost γ σ (.inl w0) a st o t ∧ P) As.toArray s) _ ⟨⟨B.exec, B.bytes, hml, hown, hts⟩, hO, hD⟩ ⟨Nat.le_refl _, Nat.le_refl _⟩ htab hH ⟨⟨hH, va_S.rf, hz, fun q h => Or.inl h⟩, Nat.zero_add _, Nat.zero_add _⟩ hl
      (fun w1 st i H locs cells slots pc ls hw ho hPP hA hd => by
        subst hw
        obtain ⟨w, σ1⟩ := w1
        obtain ⟨hI, hc1, hc2⟩ := hA
        have hc1 : cells + σ1.2.2.1 = σ.2.2.1 := hc1
        have hc2 : slots + σ1.2.2.2 = σ.2.2.2 := hc2
        have e1 : cells = σ.2.2.1 - σ1.2.2.1 := by omega
        have e2 : slots = σ.2.2.2 - σ1.2.2.2 := by omega
        subst e1; subst e2
        refine W.post (W.out (Qc := aPost γ σ w σ1) (free := kA σ.1 σ.2.1) B.exec B.bytes B.returns ho (fun t ht hW => ⟨rfl, by rw [ht]; exact hI.1, by rw [ht]; exact hI.2.2.1, by rw [← hz]; exact hI.2.2.2, by rw [← hz]; exact hI.2.1.F ht⟩) (fun q hq => by rw [← hz]; exact hI.2.1.2.2 q hq) hd B.notSynchronized) ?_
        intro t ⟨o, b1, b2, b3, b4⟩
        exact ⟨o, b1, b2, ⟨b3, b4⟩, hPP⟩)
    rw [← lg_entry_eq] at hb
    obtain ⟨t, a1, o, b1, b2, b3⟩ := hb s₁ hh0 (Stand.of_body B)
    exact ⟨t, o, a1, b1, b2, b3⟩
end WRAP9C
