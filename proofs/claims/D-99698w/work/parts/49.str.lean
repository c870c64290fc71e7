/-! ===== texts: the run's 18 literals, by their places ===== -/
def sIx (K : Nat → Nat) (a : Nat) : Option Nat := (List.range 18).find? fun i => decide (K (10 + i) = a)
def bIx (K : Nat → Nat) (a : Nat) : Option Nat := (List.range 18).find? fun i => decide (K (30 + i) = a)
def sOk (i : Nat) : Option Unit := if i < 18 then some () else none
theorem sIx_inv {K : Nat → Nat} {a i : Nat} (e : sIx K a = some i) : K (10 + i) = a ∧ i < 18 := by
  have h1 := List.find?_some e
  have h2 := List.mem_of_find?_eq_some e
  exact ⟨of_decide_eq_true h1, List.mem_range.mp h2⟩
theorem bIx_inv {K : Nat → Nat} {a i : Nat} (e : bIx K a = some i) : K (30 + i) = a ∧ i < 18 := by
  have h1 := List.find?_some e
  have h2 := List.mem_of_find?_eq_some e
  exact ⟨of_decide_eq_true h1, List.mem_range.mp h2⟩
theorem sOk_inv {i : Nat} {u : Unit} (e : sOk i = some u) : i < 18 := by
  unfold sOk at e
  split at e
  · next h => exact h
  · cases e
/-- bytes: a literal's, or an array's -/
def aNb (K : Nat → Nat) (h : CH) (a : Nat) : Option Int32 := match bIx K a with
  | some i => some (Int32.ofNat (kLen.getD i 0))
  | none => aN h a 2
def aIb (K : Nat → Nat) (h : CH) (a : Nat) (j : Int32) : Option Int32 := match bIx K a with
  | some i => if j < 0 ∨ kLen.getD i 0 ≤ j.toNatClampNeg then none else some ((kByt.getD i []).getD j.toNatClampNeg 0)
  | none => aI h a 2 j
section ROWS49
variable {p : Program} {l : Launch} {e : Env} {R : Room} {s : State} {m : MethodId} {args : Array Value} {below : List Frame} {meth : Method} {c : Code} {H : Heap} {locs : List Loc} {cells slots : Nat} {Q : State → Prop}
variable {nL pc : Nat} {ls : Array Slot} {rest st0 : List Value} {γ : KG} {h h' : CH} {r r' : CR} {σ0 σ σ' : CS} {cc bytes : ByteArray} {index n maxL f lo : Nat} {y : MethodName} {ret : Option FieldType} {As : List Value} {own C : String} {A : Nat → Prop} {sz : Nat} {v : Value}
theorem c_strS (hO : kOK γ) (hD : kD γ s) (hAF : ∀ q, A q → γ.2.2.2.2.1 q) : vk_S 18 kLen kByt (fun i => γ.2.2.2.2.2 (10 + i)) (fun i => γ.2.2.2.2.2 (30 + i)) A s s.heap :=
  (vk_S.moved hD.1.alike ((hO.1.2.2.2.2.2.2.2.2.2.2.2.1.1).kept hD.2.2)).narrow hAF
theorem c_ldcS (X : cCtx p s m args c cc nL "TwinInk$Reader" γ) (i : Nat) (hi : i < 18) (hx2 : kIdx.getD i 0 = index) (hdg : decode cc pc = .ok (.ldc index, 2))
    (kk : W p l e R s m args below meth c H locs cells slots Q (F0 m (pc + 2) ls (.ref (γ.2.2.2.2.2 (10 + i)) :: rest))) : W p l e R s m args below meth c H locs cells slots Q (F0 m pc ls rest) := by
  obtain ⟨⟨hx, hb, hml, hown, hts⟩, hO, hD⟩ := X
  subst hx2
  exact va_ldcS hx hb hown (vk_R.warm hD.1 (hO.1.2.2.2.2.2.2.2.2.2.2.2.1.2 i hi)) hdg kk
theorem c_ldcSw (X : cCtx p s m args c cc nL "TwinInk$Reader" γ) (i : Nat) (hi : i < 18) (hx2 : kIdx.getD i 0 = index) (hdg : decode cc pc = .ok (.ldc_w index, 3))
    (kk : W p l e R s m args below meth c H locs cells slots Q (F0 m (pc + 3) ls (.ref (γ.2.2.2.2.2 (10 + i)) :: rest))) : W p l e R s m args below meth c H locs cells slots Q (F0 m pc ls rest) := by
  obtain ⟨⟨hx, hb, hml, hown, hts⟩, hO, hD⟩ := X
  subst hx2
  have hZ := vk_R.warm hD.1 (hO.1.2.2.2.2.2.2.2.2.2.2.2.1.2 i hi)
  intro T hT X
  obtain ⟨t, a1, b1⟩ := kk T hT X
  exact ⟨t, X.ldcStringW hx hown hZ.1 hZ.2 (g := F0 m pc ls rest) rfl (by rw [hb]; exact hdg) t a1, b1⟩
theorem c_str {a i : Nat} (hr : sIx γ.2.2.2.2.2 a = some i) (kk : W p l e R s m args below meth c H locs cells slots Q (F0 m pc ls (.ref (γ.2.2.2.2.2 (10 + i)) :: rest))) : W p l e R s m args below meth c H locs cells slots Q (F0 m pc ls (.ref a :: rest)) := by
  rw [← (sIx_inv hr).1]
  exact kk
theorem c_aastS (X : cCtx p s m args c cc nL own γ) (hAF : ∀ q, A q → γ.2.2.2.2.1 q) (hI : NI γ A sz s h H locs) (hS : va_S A s.heap H locs) {a i : Nat} {x : Int32} (hi : i < 18) (hr : sQ h a 5 x (some (γ.2.2.2.2.2 (10 + i))) = some h') (hdg : decode cc pc = .ok (.aastore, 1))
    (kk : ∀ (H : Heap) (locs : List Loc), NI γ A sz s h' H locs → W p l e R s m args below meth c H locs cells slots Q (F0 m (pc + 1) ls rest)) : W p l e R s m args below meth c H locs cells slots Q (F0 m pc ls (.ref (γ.2.2.2.2.2 (10 + i)) :: .int x :: .ref a :: rest)) := by
  obtain ⟨cell, g1, g2, g3⟩ := vk_recv (c_strS X.2.1 X.2.2 hAF) hi hS
  obtain ⟨kC, hkC, -⟩ := Vm.findClass_spec g3
  exact c_aast X hI 5 (fun _ => rfl) ⟨cell, g1, g2, ⟨kC, hkC⟩, fun comp hcomp => by
    cases g3.symm.trans hcomp
    exact va_asg _ _⟩ hr hdg kk
theorem c_strV (X : cCtx p s m args c cc nL own γ) (hAF : ∀ q, A q → γ.2.2.2.2.1 q) (hS : va_S A s.heap H locs) {i : Nat} {u : Unit} (hi : sOk i = some u) (hlink : Cond.fieldLink own index "java/lang/String" "value" "[B" ∈ lw_all) (hdg : decode cc pc = .ok (.getfield index, 3))
    (kk : W p l e R s m args below meth c H locs cells slots Q (F0 m (pc + 3) ls (.ref (γ.2.2.2.2.2 (30 + i)) :: rest))) : W p l e R s m args below meth c H locs cells slots Q (F0 m pc ls (.ref (γ.2.2.2.2.2 (10 + i)) :: rest)) := by
  obtain ⟨⟨hx, hb, hml, hown, hts⟩, hO, hD⟩ := X
  exact vk_getf hx hb ((c_strS hO hD hAF).1 i (sOk_inv hi)).2.2.1 hS hown (hts _ hlink) (fun x h => h) hdg kk
theorem c_strC (X : cCtx p s m args c cc nL own γ) (hAF : ∀ q, A q → γ.2.2.2.2.1 q) (hS : va_S A s.heap H locs) {i : Nat} {u : Unit} (hi : sOk i = some u) (hlink : Cond.fieldLink own index "java/lang/String" "coder" "B" ∈ lw_all) (hdg : decode cc pc = .ok (.getfield index, 3))
    (kk : W p l e R s m args below meth c H locs cells slots Q (F0 m (pc + 3) ls (.int 0 :: rest))) : W p l e R s m args below meth c H locs cells slots Q (F0 m pc ls (.ref (γ.2.2.2.2.2 (10 + i)) :: rest)) := by
  obtain ⟨⟨hx, hb, hml, hown, hts⟩, hO, hD⟩ := X
  exact vk_getf hx hb ((c_strS hO hD hAF).1 i (sOk_inv hi)).2.1 hS hown (hts _ hlink) (fun x h => h) hdg kk
theorem c_alenB (X : cCtx p s m args c cc nL own γ) (hAF : ∀ q, A q → γ.2.2.2.2.1 q) (hS : va_S A s.heap H locs) (hH : HR γ h H) {a : Nat} {v : Int32} (hr : aNb γ.2.2.2.2.2 h a = some v) (hdg : decode cc pc = .ok (.arraylength, 1))
    (kk : W p l e R s m args below meth c H locs cells slots Q (F0 m (pc + 1) ls (.int v :: rest))) : W p l e R s m args below meth c H locs cells slots Q (F0 m pc ls (.ref a :: rest)) := by
  unfold aNb at hr
  split at hr
  · next i hb =>
    obtain ⟨rfl, hi⟩ := bIx_inv hb
    cases hr
    obtain ⟨⟨hx, hb, hml, hown, hts⟩, hO, hD⟩ := X
    exact va_tlen hx hb ((c_strS hO hD hAF).1 i hi).2.2.2 hS rfl hdg kk
  · exact c_alen X hH 2 (fun _ => rfl) hr hdg kk
theorem c_baldB (X : cCtx p s m args c cc nL own γ) (hAF : ∀ q, A q → γ.2.2.2.2.1 q) (hS : va_S A s.heap H locs) (hH : HR γ h H) {a : Nat} {j v : Int32} (hr : aIb γ.2.2.2.2.2 h a j = some v) (hdg : decode cc pc = .ok (.baload, 1))
    (kk : W p l e R s m args below meth c H locs cells slots Q (F0 m (pc + 1) ls (.int v :: rest))) : W p l e R s m args below meth c H locs cells slots Q (F0 m pc ls (.int j :: .ref a :: rest)) := by
  unfold aIb at hr
  split at hr
  · next i hb =>
    obtain ⟨rfl, hi⟩ := bIx_inv hb
    split at hr
    · cases hr
    · next hin =>
      cases hr
      obtain ⟨⟨hx, hb, hml, hown, hts⟩, hO, hD⟩ := X
      exact va_tb hx hb ((c_strS hO hD hAF).1 i hi).2.2.2 hS hin rfl hdg kk
  · exact c_bald X hH hr hdg kk
/-- a reader of a text's, called -/
theorem c_cRk (X : cCtx p s m args c cc nL own γ) (hAF : ∀ q, A q → γ.2.2.2.2.1 q) (hS : va_S A s.heap H locs) (hH : HR γ h H) (hDU : ∀ U : State, U.heap = H → s.WarmedH U.vm → kD γ U) {i : Nat} {u : Unit} (hi : sOk i = some u) (hM : Met l y (ws_ y bytes maxL ret) (kRm f lo) (cPc γ h (.ref (γ.2.2.2.2.2 (10 + i)) :: As)) (cRq v) 0 0 vp_nf) (hnm : kNm y "java/lang/String" n) (h1 : Cond.methodLink own index y ∈ lw_all) (h2 : Cond.instanceMethod y ∈ lw_all) (h3 : Cond.initialized "java/lang/String" ∈ lw_all) (h4 : Cond.code y bytes maxL ret ∈ lw_all) (h5 : Cond.selects "java/lang/String" y y ∈ lw_all)
    (hR : f + 1 ≤ R.frames ∧ 8 + (maxL + 11) + lo ≤ R.locals) (hRR : cells + 0 ≤ R.cells ∧ slots + 0 ≤ R.slots) (hn : As.length = n) (hst : st0 = As.reverse ++ .ref (γ.2.2.2.2.2 (10 + i)) :: rest) (hl : ls.size = nL) (hW : 2 * (F0 m pc ls st0).monitorRoom + (rest.map fun v => v.category).sum ≤ 8) (hdg : decode cc pc = .ok (.invokevirtual index, 3))
    (kk : W p l e R s m args below meth c H locs cells slots Q (F0 m (pc + 3) ls (v :: rest))) : W p l e R s m args below meth c H locs cells slots Q (F0 m pc ls st0) := by
  obtain ⟨hF, hO, hD⟩ := X
  have hts := hF.2.2.2.2
  exact c_goR (W.runV hF hM (cwV n hts (lw_V h1 h2 h5 h3 h4) rfl rfl rfl hnm hR) ⟨cPc_blind _, vk_recv (c_strS hO hD hAF) (sOk_inv hi) hS, fun U hU hW => ⟨rfl, hDU U hU hW, by rw [hU]; exact hH⟩⟩ rfl hn hl hst hW hdg hRR) kk
end ROWS49
