/-! ===== more rows: arrays copied, class objects, tables ===== -/
def oko (h : CH) (a : Nat) : Option Unit := if okO h a = true then some () else none
theorem oko_inv {h : CH} {a : Nat} {u : Unit} (e : oko h a = some u) : okO h a = true := by
  unfold oko at e
  split at e
  · next hc => exact hc
  · cases e
/-- System.arraycopy between arrays of Objects; from an empty one of ArrayList's -/
def cpQ (h : CH) (a0 : Nat) (sp : Int32) (a : Nat) (dp n : Int32) : Option CH :=
  match h a0, h a with
  | some (.inl (t0, n0, .inr (.inr (.inr (.inr f))))), some (.inl (t1, n1, .inr (.inr (.inr (.inr g))))) =>
    if t0 = 3 ∧ t1 = 3 ∧ ¬ sp < 0 ∧ ¬ dp < 0 ∧ ¬ n < 0 ∧ sp.toNatClampNeg + n.toNatClampNeg ≤ n0 ∧ dp.toNatClampNeg + n.toNatClampNeg ≤ n1 ∧ ((List.range n.toNatClampNeg).all fun i => (f (sp.toNatClampNeg + i)).all (okO h)) = true then
      some (hup h a (.inl (3, n1, .inr (.inr (.inr (.inr (va_cpy f g sp.toNatClampNeg dp.toNatClampNeg n.toNatClampNeg)))))))
    else none
  | _, _ => none
def cpK (K : Nat → Nat) (h : CH) (a0 : Nat) (sp : Int32) (a : Nat) (dp n : Int32) : Option CH :=
  if a0 = K 0 ∨ a0 = K 1 then
    match h a with
    | some (.inl (t1, n1, .inr (.inr (.inr (.inr g))))) => if t1 = 3 ∧ sp = 0 ∧ dp = 0 ∧ n = 0 then some (hup h a (.inl (3, n1, .inr (.inr (.inr (.inr (va_cpy (fun _ => none) g 0 0 0))))))) else none
    | _ => none
  else cpQ h a0 sp a dp n
theorem cpQ_inv {h h' : CH} {a0 a : Nat} {sp dp n : Int32} (e : cpQ h a0 sp a dp n = some h') : ∃ n0 n1 f g, h a0 = some (.inl (3, n0, .inr (.inr (.inr (.inr f))))) ∧ h a = some (.inl (3, n1, .inr (.inr (.inr (.inr g))))) ∧ ¬ sp < 0 ∧ ¬ dp < 0 ∧ ¬ n < 0 ∧ sp.toNatClampNeg + n.toNatClampNeg ≤ n0 ∧ dp.toNatClampNeg + n.toNatClampNeg ≤ n1 ∧ (∀ i, i < n.toNatClampNeg → ∀ y, f (sp.toNatClampNeg + i) = some y → okO h y = true) ∧ hup h a (.inl (3, n1, .inr (.inr (.inr (.inr (va_cpy f g sp.toNatClampNeg dp.toNatClampNeg n.toNatClampNeg)))))) = h' := by
  unfold cpQ at e
  split at e
  · next t0 n0 f t1 n1 g h1 h2 =>
    split at e
    · next hc =>
      obtain ⟨rfl, rfl, c1, c2, c3, c4, c5, c6⟩ := hc
      refine ⟨n0, n1, f, g, h1, h2, c1, c2, c3, c4, c5, fun i hi y hy => ?_, Option.some.inj e⟩
      have q := List.all_eq_true.mp c6 i (List.mem_range.mpr hi)
      rw [hy] at q
      exact q
    · cases e
  · cases e
theorem cpK_inv {K : Nat → Nat} {h h' : CH} {a0 a : Nat} {sp dp n : Int32} (e : cpK K h a0 sp a dp n = some h') : (∃ i, i < 2 ∧ a0 = K i ∧ sp = 0 ∧ dp = 0 ∧ n = 0 ∧ ∃ n1 g, h a = some (.inl (3, n1, .inr (.inr (.inr (.inr g))))) ∧ hup h a (.inl (3, n1, .inr (.inr (.inr (.inr (va_cpy (fun _ => none) g 0 0 0)))))) = h') ∨ cpQ h a0 sp a dp n = some h' := by
  unfold cpK at e
  split at e
  · next hk =>
    split at e
    · next t1 n1 g h2 =>
      split at e
      · next hc =>
        obtain ⟨rfl, rfl, rfl, rfl⟩ := hc
        rcases hk with hk | hk
        · exact Or.inl ⟨0, by decide, hk, rfl, rfl, rfl, n1, g, h2, Option.some.inj e⟩
        · exact Or.inl ⟨1, by decide, hk, rfl, rfl, rfl, n1, g, h2, Option.some.inj e⟩
      · cases e
    · cases e
  · exact Or.inr e
/-- and of bytes -/
def cpB (h : CH) (a0 : Nat) (sp : Int32) (a : Nat) (dp n : Int32) : Option CH :=
  match h a0, h a with
  | some (.inl (t0, n0, .inl f)), some (.inl (t1, n1, .inl g)) =>
    if t0 = 2 ∧ t1 = 2 ∧ ¬ sp < 0 ∧ ¬ dp < 0 ∧ ¬ n < 0 ∧ sp.toNatClampNeg + n.toNatClampNeg ≤ n0 ∧ dp.toNatClampNeg + n.toNatClampNeg ≤ n1 ∧ ((List.range n.toNatClampNeg).all fun i => fits .byte (.int (f (sp.toNatClampNeg + i)))) = true then
      some (hup h a (.inl (2, n1, .inl (va_cpy f g sp.toNatClampNeg dp.toNatClampNeg n.toNatClampNeg))))
    else none
  | _, _ => none
theorem cpB_inv {h h' : CH} {a0 a : Nat} {sp dp n : Int32} (e : cpB h a0 sp a dp n = some h') : ∃ n0 n1 f g, h a0 = some (.inl (2, n0, .inl f)) ∧ h a = some (.inl (2, n1, .inl g)) ∧ ¬ sp < 0 ∧ ¬ dp < 0 ∧ ¬ n < 0 ∧ sp.toNatClampNeg + n.toNatClampNeg ≤ n0 ∧ dp.toNatClampNeg + n.toNatClampNeg ≤ n1 ∧ (∀ i, i < n.toNatClampNeg → fits .byte (.int (f (sp.toNatClampNeg + i))) = true) ∧ hup h a (.inl (2, n1, .inl (va_cpy f g sp.toNatClampNeg dp.toNatClampNeg n.toNatClampNeg))) = h' := by
  unfold cpB at e
  split at e
  · next t0 n0 f t1 n1 g h1 h2 =>
    split at e
    · next hc =>
      obtain ⟨rfl, rfl, c1, c2, c3, c4, c5, c6⟩ := hc
      exact ⟨n0, n1, f, g, h1, h2, c1, c2, c3, c4, c5, fun i hi => List.all_eq_true.mp c6 i (List.mem_range.mpr hi), Option.some.inj e⟩
    · cases e
  · cases e
theorem i_nn (z : Int32) (hz : ¬ z < 0) : z.toInt = (z.toNatClampNeg : Int) := by
  have hz0 : (0 : Int) ≤ z.toInt := by
    have := Int32.not_lt.mp hz
    simpa using Int32.le_iff_toInt_le.mp this
  show z.toInt = ((z.toInt.toNat : Nat) : Int)
  omega
/-- the length of an array of Objects, one of ArrayList's two empty ones among them -/
def aNk (K : Nat → Nat) (h : CH) (a : Nat) : Option Int32 := if a = K 0 ∨ a = K 1 then some 0 else aN h a 3
def ckAk (K : Nat → Nat) (h : CH) (a : Nat) : Option Unit := if a = K 0 ∨ a = K 1 then some () else ckA h a 3
/-- the cache of small Integers -/
def icq (K : Nat → Nat) (i : Int32) : Option Nat := if i < 0 ∨ 256 ≤ i.toNatClampNeg then none else some (K (200 + i.toNatClampNeg))
theorem c_tb {γ : KG} {s : State} {args : Array Value} {w : Cond} (hO : kOK γ) (hD : kD γ s) (hw : w ∈ lw_tbl) (hset : w.before γ.2.2.2.1 (γ.2.2.1.setVm s.vm) = w.before γ.2.2.2.1 γ.2.2.1) (hon : w.onTables = true) : w.before args s = true := by
  have e := Cond.onTables_vm (A := γ.2.2.2.1) (A' := args) (U := γ.2.2.1) (U' := s) s.vm w hon
  have hU : s.setVm s.vm = s := rfl
  rw [hU] at e
  rw [← e, hset]
  exact hO.2.1 _ hw
theorem c_ifO {s : State} {vm' : Vm} {args : Array Value} (h : s.vm.Alike vm') {ref owner name desc : String} : (Cond.interfaceMethod ref owner name desc).before args (s.setVm vm') = (Cond.interfaceMethod ref owner name desc).before args s := by
  have hf : (s.setVm vm').methodFound? ref name desc = s.methodFound? ref name desc := State.methodFound?_setVm h ref name desc
  simp only [Cond.before, Cond.holds, Cond.value, State.vm_setVm, h.findClass, hf, State.methodNamed?_setVm h, arm_isInterface_setVm h]
section ROWS47
variable {p : Program} {l : Launch} {e : Env} {R : Room} {s : State} {m : MethodId} {args : Array Value} {below : List Frame} {meth : Method} {c : Code} {H : Heap} {locs : List Loc} {cells slots : Nat} {Q : State → Prop}
variable {nL pc : Nat} {ls : Array Slot} {rest st0 : List Value} {γ : KG} {h h' : CH} {r r' : CR} {σ0 σ σ' : CS} {cc bytes : ByteArray} {index n maxL f lo : Nat} {y : MethodName} {ret : Option FieldType} {As : List Value} {own C : String} {ci N : Nat} {T : u_T} {ty : Nat → FieldType} {A : Nat → Prop} {sz : Nat}
theorem NI.putL {H1 : Heap} {L : List Loc} {a : Nat} {x x0 : CE} (hI : NI γ A sz s h H locs) (he : h a = some x0) (ha : va_at γ.1 kCL (a, ceE γ.2.1 x) H1) (z : H1.size = H.size) (oq : ∀ q : Nat, q ≠ a → H1[q]? = H[q]?) (hL : ∀ q ∈ L, q.base = a) : NI γ A sz s (hup h a x) H1 (locs ++ L) := by
  obtain ⟨hH, hS, hz, hd⟩ := hI
  have hAa := hd a (by rw [he]; rfl)
  refine ⟨hH.up (hH a x0 he).2 ha (fun q hq _ => oq q hq), ⟨by rw [z]; exact hS.1, fun q g1 g2 => ?_, fun q hq => ?_⟩, z.trans hz, fun q hq => ?_⟩
  · rw [oq q (fun e => g2 (by rw [e]; exact hAa))]
    exact hS.2.1 q g1 g2
  · rcases List.mem_append.mp hq with h | h
    · exact hS.2.2 q h
    · rw [hL q h]; exact hAa
  · by_cases hqa : q = a
    · subst hqa
      exact hAa
    · rw [hup_n hqa] at hq
      exact hd q hq
theorem c_copyQ (X : cCtx p s m args c cc nL own γ) (hI : NI γ A sz s h H locs) (hl : ls.size = nL) {a0 a : Nat} {sp dp n : Int32} (hr : cpQ h a0 sp a dp n = some h') (hlink : Cond.methodLink own index arraycopyName ∈ lw_all) (hR : 1 ≤ R.frames ∧ 40 ≤ R.locals) (hrest : (rest.map fun v => v.category).sum ≤ 8) (hdg : decode cc pc = .ok (.invokestatic index, 3))
    (kk : ∀ (H : Heap) (locs : List Loc), NI γ A sz s h' H locs → W p l e R s m args below meth c H locs cells slots Q (F0 m (pc + 3) ls rest)) : W p l e R s m args below meth c H locs cells slots Q (F0 m pc ls (.int n :: .int dp :: .ref a :: .int sp :: .ref a0 :: rest)) := by
  obtain ⟨⟨hx, hb, hml, hown, hts⟩, hO, hD⟩ := X
  obtain ⟨n0, n1, f, g, ha0, ha1, h1, h2, h3, h4, h5, hel, rfl⟩ := cpQ_inv hr
  have hK := hD.K hO
  intro T hT X
  have hc0 : H[a0]? = some (vp_cell (γ.2.1 3) (n0, .inr (.inr (.inr (.inr f))))) := hI.1.at ha0 0 _ rfl
  have hc1 : H[a]? = some (vp_cell (γ.2.1 3) (n1, .inr (.inr (.inr (.inr g))))) := hI.1.at ha1 0 _ rfl
  obtain ⟨-, k0, hk0, cm0, hkk0⟩ := (hK.2 3 _ rfl).1 n0 (fun j => va_rf (f j))
  obtain ⟨-, k1, hk1, cm1, hkk1⟩ := (hK.2 3 _ rfl).1 n1 (fun j => va_rf (g j))
  have hw : nativeFrameWords "java/lang/System" "arraycopy" 5 ≤ 20 := by decide
  obtain ⟨vm', X', step⟩ := X.arraycopy hx hown (hts _ hlink) (hts _ q419) (hts _ q418) (hts _ q161) (src := a0) (dst := a) (cs := vp_cell (γ.2.1 3) (n0, .inr (.inr (.inr (.inr f))))) (cd := vp_cell (γ.2.1 3) (n1, .inr (.inr (.inr (.inr g))))) (srcPos := sp) (destPos := dp) (n := n) (by rw [hT]; exact hc0) (by rw [hT]; exact hc1)
    (fun _ h => by cases h) (fun _ h => by cases h) (fun h => by cases h) (fun h => by cases h) hk0 hk1 hkk0 hkk1 rfl h1 h2 h3
    (by rw [i_nn sp h1, i_nn n h3]; show ¬ _ > ((arrV (γ.2.1 3) n0 (fun j => va_rf (f j))).slots.size : Int); rw [arrV_size]; omega)
    (by rw [i_nn dp h2, i_nn n h3]; show ¬ _ > ((arrV (γ.2.1 3) n1 (fun j => va_rf (g j))).slots.size : Int); rw [arrV_size]; omega)
    (fun vm₁ hal i hi => by
      have e : (vp_cell (γ.2.1 3) (n0, .inr (.inr (.inr (.inr f))))).slots.getD (sp.toNatClampNeg + i) .null = va_rf (f (sp.toNatClampNeg + i)) := by
        show (arrV (γ.2.1 3) n0 (fun j => va_rf (f j))).slots.getD _ _ = _
        rw [Array.getD_eq_getD_getElem?, arrV_read _ _ (by omega)]
        rfl
      rw [e]
      cases hy : f (sp.toNatClampNeg + i) with
      | none => exact ⟨rfl, trivial⟩
      | some y =>
        obtain ⟨cellV, g1, g2, ⟨kC, hkC⟩, hasg⟩ := c_any hO hD hI.1 (hel i hi y hy)
        obtain ⟨kA, comp, r1, r2, r3, -⟩ := (hK.2 3 _ rfl).2
        cases hk1.symm.trans r1
        cases hkk1.symm.trans r2
        obtain ⟨kE, hkE, -⟩ := Vm.findClass_spec r3
        obtain ⟨kC', hkC', -⟩ := hal.2.2 _ _ hkC
        obtain ⟨kE', hkE', -⟩ := hal.2.2 _ _ hkE
        refine ⟨rfl, cellV, (show T.heap[y]? = some cellV by rw [hT]; exact g1), (fun q h => by rw [h] at g2; cases g2), ⟨kC', hkC'⟩, ?_, ?_⟩
        · exact ⟨kE', hkE'⟩
        · show vm₁.assignable _ _ = true
          rw [hal.assignable]
          exact hasg _ r3)
    (g := F0 m pc ls (.int n :: .int dp :: .ref a :: .int sp :: .ref a0 :: rest)) rfl (by rw [hml]; exact hl) (rest := rest) rfl (by rw [hb]; exact hdg) hR.1 (by show 2 * 0 + _ + _ ≤ _; omega)
  have e1 : copied (vp_cell (γ.2.1 3) (n0, .inr (.inr (.inr (.inr f))))) (vp_cell (γ.2.1 3) (n1, .inr (.inr (.inr (.inr g))))) sp dp n = vp_cell (γ.2.1 3) (n1, .inr (.inr (.inr (.inr (va_cpy f g sp.toNatClampNeg dp.toNatClampNeg n.toNatClampNeg))))) := by
    rw [vp_cell_q, vp_cell_q, vp_cell_q]
    exact va_copied (fun z => va_rf z) (γ.2.1 3) (γ.2.1 3) f g h4
  rw [e1] at X' step
  have hl2 : a < H.size := (Array.getElem?_eq_some_iff.mp hc1).1
  generalize hnew : vp_cell (γ.2.1 3) (n1, .inr (.inr (.inr (.inr (va_cpy f g sp.toNatClampNeg dp.toNatClampNeg n.toNatClampNeg))))) = nc at *
  have hheap : ((T.setVm vm').setCell a nc).heap = H.setIfInBounds a nc := by rw [← hT]; rfl
  have oq : ∀ q : Nat, q ≠ a → (H.setIfInBounds a nc)[q]? = H[q]? := fun q hq => by simp [Array.getElem?_setIfInBounds, Ne.symm hq]
  obtain ⟨t, a1, b1⟩ := kk _ _ (hI.putL ha1 (show (H.setIfInBounds a _)[a]? = some _ by rw [hnew]; simp [Array.getElem?_setIfInBounds, hl2]) (by simp) oq (fun q hq => by
    obtain ⟨z, -, hz⟩ := List.mem_map.mp hq
    rw [← hz])) _ hheap X'
  exact ⟨t, step t a1, b1⟩
theorem c_copyE (X : cCtx p s m args c cc nL own γ) (hAF : ∀ q, A q → γ.2.2.2.2.1 q) (hI : NI γ A sz s h H locs) (hl : ls.size = nL) {a : Nat} {n1 : Nat} {g : Nat → Option Nat} {i : Nat} (hi : i < 2) (ha1 : h a = some (.inl (3, n1, .inr (.inr (.inr (.inr g)))))) (hlink : Cond.methodLink own index arraycopyName ∈ lw_all) (hR : 1 ≤ R.frames ∧ 40 ≤ R.locals) (hrest : (rest.map fun v => v.category).sum ≤ 8) (hdg : decode cc pc = .ok (.invokestatic index, 3))
    (kk : ∀ (H : Heap) (locs : List Loc), NI γ A sz s (hup h a (.inl (3, n1, .inr (.inr (.inr (.inr (va_cpy (fun _ => none) g 0 0 0))))))) H locs → W p l e R s m args below meth c H locs cells slots Q (F0 m (pc + 3) ls rest)) : W p l e R s m args below meth c H locs cells slots Q (F0 m pc ls (.int 0 :: .int 0 :: .ref a :: .int 0 :: .ref (γ.2.2.2.2.2 i) :: rest)) := by
  obtain ⟨⟨hx, hb, hml, hown, hts⟩, hO, hD⟩ := X
  have hK := hD.K hO
  have hE := (hO.1.2.2.2.2.2.2.2.2.2.2.2.2 i hi).1
  have hX : va_T (.object "java/lang/Object") (γ.2.2.2.2.2 i) 0 (fun _ => .null) A s s.heap := (va_T.moved hD.1.alike (hE.kept hD.2.2)).narrow hAF
  have hS := hI.2.1
  intro T hT X
  obtain ⟨scr, hs1, ⟨hs2, k0, hk0, cm0, hkk0⟩, hs3, -, -, -, hs7⟩ := hX
  have hc0 : H[γ.2.2.2.2.2 i]? = some scr := by rw [hS.2.1 _ (Array.getElem?_eq_some_iff.mp hs1).1 hs7]; exact hs1
  have hc1 : H[a]? = some (vp_cell (γ.2.1 3) (n1, .inr (.inr (.inr (.inr g))))) := hI.1.at ha1 0 _ rfl
  obtain ⟨-, k1, hk1, cm1, hkk1⟩ := (hK.2 3 _ rfl).1 n1 (fun j => va_rf (g j))
  have hw : nativeFrameWords "java/lang/System" "arraycopy" 5 ≤ 20 := by decide
  obtain ⟨vm', X', step⟩ := X.arraycopy hx hown (hts _ hlink) (hts _ q419) (hts _ q418) (hts _ q161) (src := γ.2.2.2.2.2 i) (dst := a) (cs := scr) (cd := vp_cell (γ.2.1 3) (n1, .inr (.inr (.inr (.inr g))))) (srcPos := 0) (destPos := 0) (n := 0) (by rw [hT]; exact hc0) (by rw [hT]; exact hc1)
    hs2 (fun _ h => by cases h) hs3 (fun h => by cases h) hk0 hk1 hkk0 hkk1 rfl (by decide) (by decide) (by decide)
    (by show ¬ (0 : Int) > _; omega)
    (by show ¬ (0 : Int) > _; omega)
    (fun vm₁ hal i hi => absurd hi (Nat.not_lt_zero _))
    (g := F0 m pc ls (.int 0 :: .int 0 :: .ref a :: .int 0 :: .ref (γ.2.2.2.2.2 i) :: rest)) rfl (by rw [hml]; exact hl) (rest := rest) rfl (by rw [hb]; exact hdg) hR.1 (by show 2 * 0 + _ + _ ≤ _; omega)
  have e1 : copied scr (vp_cell (γ.2.1 3) (n1, .inr (.inr (.inr (.inr g))))) 0 0 0 = vp_cell (γ.2.1 3) (n1, .inr (.inr (.inr (.inr (va_cpy (fun _ => none) g 0 0 0))))) := by
    rw [vp_cell_q, vp_cell_q]
    exact va_copiedX (n0 := 0) (fun z => va_rf z) scr (γ.2.1 3) (fun _ => none) g (fun j hj => absurd hj (Nat.not_lt_zero j)) (Nat.le_refl _)
  rw [e1] at X' step
  have hl2 : a < H.size := (Array.getElem?_eq_some_iff.mp hc1).1
  generalize hnew : vp_cell (γ.2.1 3) (n1, .inr (.inr (.inr (.inr (va_cpy (fun _ => none) g 0 0 0))))) = nc at *
  have hheap : ((T.setVm vm').setCell a nc).heap = H.setIfInBounds a nc := by rw [← hT]; rfl
  have oq : ∀ q : Nat, q ≠ a → (H.setIfInBounds a nc)[q]? = H[q]? := fun q hq => by simp [Array.getElem?_setIfInBounds, Ne.symm hq]
  obtain ⟨t, a1, b1⟩ := kk _ _ (hI.putL ha1 (show (H.setIfInBounds a _)[a]? = some _ by rw [hnew]; simp [Array.getElem?_setIfInBounds, hl2]) (by simp) oq (fun q hq => by
    obtain ⟨z, -, hz⟩ := List.mem_map.mp hq
    rw [← hz])) _ hheap X'
  exact ⟨t, step t a1, b1⟩
theorem c_copyK (X : cCtx p s m args c cc nL own γ) (hAF : ∀ q, A q → γ.2.2.2.2.1 q) (hI : NI γ A sz s h H locs) (hl : ls.size = nL) {a0 a : Nat} {sp dp n : Int32} (hr : cpK γ.2.2.2.2.2 h a0 sp a dp n = some h') (hlink : Cond.methodLink own index arraycopyName ∈ lw_all) (hR : 1 ≤ R.frames ∧ 40 ≤ R.locals) (hrest : (rest.map fun v => v.category).sum ≤ 8) (hdg : decode cc pc = .ok (.invokestatic index, 3))
    (kk : ∀ (H : Heap) (locs : List Loc), NI γ A sz s h' H locs → W p l e R s m args below meth c H locs cells slots Q (F0 m (pc + 3) ls rest)) : W p l e R s m args below meth c H locs cells slots Q (F0 m pc ls (.int n :: .int dp :: .ref a :: .int sp :: .ref a0 :: rest)) := by
  rcases cpK_inv hr with ⟨i, hi, rfl, rfl, rfl, rfl, n1, g, h2, rfl⟩ | hr
  · exact c_copyE X hAF hI hl hi h2 hlink hR hrest hdg kk
  · exact c_copyQ X hI hl hr hlink hR hrest hdg kk
theorem c_copyB (X : cCtx p s m args c cc nL own γ) (hI : NI γ A sz s h H locs) (hl : ls.size = nL) {a0 a : Nat} {sp dp n : Int32} (hr : cpB h a0 sp a dp n = some h') (hlink : Cond.methodLink own index arraycopyName ∈ lw_all) (hR : 1 ≤ R.frames ∧ 40 ≤ R.locals) (hrest : (rest.map fun v => v.category).sum ≤ 8) (hdg : decode cc pc = .ok (.invokestatic index, 3))
    (kk : ∀ (H : Heap) (locs : List Loc), NI γ A sz s h' H locs → W p l e R s m args below meth c H locs cells slots Q (F0 m (pc + 3) ls rest)) : W p l e R s m args below meth c H locs cells slots Q (F0 m pc ls (.int n :: .int dp :: .ref a :: .int sp :: .ref a0 :: rest)) := by
  obtain ⟨⟨hx, hb, hml, hown, hts⟩, hO, hD⟩ := X
  obtain ⟨n0, n1, f, g, ha0, ha1, h1, h2, h3, h4, h5, hfit, rfl⟩ := cpB_inv hr
  have hK := hD.K hO
  intro T hT X
  have hc0 : H[a0]? = some (vp_cell (γ.2.1 2) (n0, .inl f)) := hI.1.at ha0 0 _ rfl
  have hc1 : H[a]? = some (vp_cell (γ.2.1 2) (n1, .inl g)) := hI.1.at ha1 0 _ rfl
  obtain ⟨-, k0, hk0, cm0, hkk0⟩ := (hK.2 2 _ rfl).1 n0 (fun j => .int (f j))
  obtain ⟨-, k1, hk1, cm1, hkk1⟩ := (hK.2 2 _ rfl).1 n1 (fun j => .int (g j))
  have hw : nativeFrameWords "java/lang/System" "arraycopy" 5 ≤ 20 := by decide
  obtain ⟨vm', X', step⟩ := X.arraycopy hx hown (hts _ hlink) (hts _ q419) (hts _ q418) (hts _ q161) (src := a0) (dst := a) (cs := vp_cell (γ.2.1 2) (n0, .inl f)) (cd := vp_cell (γ.2.1 2) (n1, .inl g)) (srcPos := sp) (destPos := dp) (n := n) (by rw [hT]; exact hc0) (by rw [hT]; exact hc1)
    (fun _ h => by cases h) (fun _ h => by cases h) (fun h => by cases h) (fun h => by cases h) hk0 hk1 hkk0 hkk1 rfl h1 h2 h3
    (by rw [i_nn sp h1, i_nn n h3]; show ¬ _ > ((arrV (γ.2.1 2) n0 (fun j => .int (f j))).slots.size : Int); rw [arrV_size]; omega)
    (by rw [i_nn dp h2, i_nn n h3]; show ¬ _ > ((arrV (γ.2.1 2) n1 (fun j => .int (g j))).slots.size : Int); rw [arrV_size]; omega)
    (fun vm₁ hal i hi => by
      have e : (vp_cell (γ.2.1 2) (n0, .inl f)).slots.getD (sp.toNatClampNeg + i) .null = .int (f (sp.toNatClampNeg + i)) := by
        show (arrV (γ.2.1 2) n0 (fun j => .int (f j))).slots.getD _ _ = _
        rw [Array.getD_eq_getD_getElem?, arrV_read _ _ (by omega)]
        rfl
      rw [e]
      exact ⟨hfit i hi, trivial⟩)
    (g := F0 m pc ls (.int n :: .int dp :: .ref a :: .int sp :: .ref a0 :: rest)) rfl (by rw [hml]; exact hl) (rest := rest) rfl (by rw [hb]; exact hdg) hR.1 (by show 2 * 0 + _ + _ ≤ _; omega)
  have e1 : copied (vp_cell (γ.2.1 2) (n0, .inl f)) (vp_cell (γ.2.1 2) (n1, .inl g)) sp dp n = vp_cell (γ.2.1 2) (n1, .inl (va_cpy f g sp.toNatClampNeg dp.toNatClampNeg n.toNatClampNeg)) := by
    rw [vp_cell_i, vp_cell_i, vp_cell_i]
    exact va_copied (fun z => .int z) (γ.2.1 2) (γ.2.1 2) f g h4
  rw [e1] at X' step
  have hl2 : a < H.size := (Array.getElem?_eq_some_iff.mp hc1).1
  generalize hnew : vp_cell (γ.2.1 2) (n1, .inl (va_cpy f g sp.toNatClampNeg dp.toNatClampNeg n.toNatClampNeg)) = nc at *
  have hheap : ((T.setVm vm').setCell a nc).heap = H.setIfInBounds a nc := by rw [← hT]; rfl
  have oq : ∀ q : Nat, q ≠ a → (H.setIfInBounds a nc)[q]? = H[q]? := fun q hq => by simp [Array.getElem?_setIfInBounds, Ne.symm hq]
  obtain ⟨t, a1, b1⟩ := kk _ _ (hI.putL ha1 (show (H.setIfInBounds a _)[a]? = some _ by rw [hnew]; simp [Array.getElem?_setIfInBounds, hl2]) (by simp) oq (fun q hq => by
    obtain ⟨z, -, hz⟩ := List.mem_map.mp hq
    rw [← hz])) _ hheap X'
  exact ⟨t, step t a1, b1⟩
/-! tables of the run -/
theorem c_tab {tyq : FieldType} {t N : Nat} {f : Nat → Value} (hD : kD γ s) (hAF : ∀ q, A q → γ.2.2.2.2.1 q) (hT : va_T tyq t N f γ.2.2.2.2.1 γ.2.2.1 γ.2.2.1.heap) : va_T tyq t N f A s s.heap := (va_T.moved hD.1.alike (hT.kept hD.2.2)).narrow hAF
theorem c_alenK (X : cCtx p s m args c cc nL own γ) (hAF : ∀ q, A q → γ.2.2.2.2.1 q) (hS : va_S A s.heap H locs) (hH : HR γ h H) {a : Nat} {v : Int32} (hr : aNk γ.2.2.2.2.2 h a = some v) (hdg : decode cc pc = .ok (.arraylength, 1))
    (kk : W p l e R s m args below meth c H locs cells slots Q (F0 m (pc + 1) ls (.int v :: rest))) : W p l e R s m args below meth c H locs cells slots Q (F0 m pc ls (.ref a :: rest)) := by
  unfold aNk at hr
  split at hr
  · next hk =>
    cases hr
    obtain ⟨⟨hx, hb, hml, hown, hts⟩, hO, hD⟩ := X
    have hE := hO.1.2.2.2.2.2.2.2.2.2.2.2.2
    rcases hk with rfl | rfl
    · exact va_tlen hx hb (c_tab hD hAF (hE 0 (by decide)).1) hS rfl hdg kk
    · exact va_tlen hx hb (c_tab hD hAF (hE 1 (by decide)).1) hS rfl hdg kk
  · exact c_alen X hH 3 (fun _ => rfl) hr hdg kk
theorem c_icq (X : cCtx p s m args c cc nL own γ) (hAF : ∀ q, A q → γ.2.2.2.2.1 q) (hS : va_S A s.heap H locs) {i : Int32} {v : Nat} (hr : icq γ.2.2.2.2.2 i = some v) (hdg : decode cc pc = .ok (.aaload, 1))
    (kk : W p l e R s m args below meth c H locs cells slots Q (F0 m (pc + 1) ls (.ref v :: rest))) : W p l e R s m args below meth c H locs cells slots Q (F0 m pc ls (.int i :: .ref (γ.2.2.2.2.2 4) :: rest)) := by
  unfold icq at hr
  split at hr
  · cases hr
  · next hin =>
    cases hr
    obtain ⟨⟨hx, hb, hml, hown, hts⟩, hO, hD⟩ := X
    exact vb_tq hx hb (c_tab hD hAF hO.1.2.2.2.2.2.2.2.2.2.2.1) hS hin rfl hdg kk
/-! class objects -/
theorem c_ldcM (X : cCtx p s m args c cc nL own γ) {mi : Nat} (hM : va_Mi C mi γ.2.2.1) (hlink : Cond.classLink own index C ∈ lw_all) (hdg : decode cc pc = .ok (.ldc index, 2))
    (kk : W p l e R s m args below meth c H locs cells slots Q (F0 m (pc + 2) ls (.ref mi :: rest))) : W p l e R s m args below meth c H locs cells slots Q (F0 m pc ls rest) := by
  obtain ⟨⟨hx, hb, hml, hown, hts⟩, hO, hD⟩ := X
  exact va_ldcM hx hb hown (hts _ hlink) (hM.moved hD.1.alike) hdg kk
/-- an array of Objects, asked for its class -/
theorem c_getCA (X : cCtx p s m args c cc nL own γ) (hAF : ∀ q, A q → γ.2.2.2.2.1 q) (hS : va_S A s.heap H locs) (hH : HR γ h H) (hl : ls.size = nL) {a : Nat} {u : Unit} (hr : ckAk γ.2.2.2.2.2 h a = some u) (hlink : Cond.methodLink own index ⟨"java/lang/Object", "getClass", "()Ljava/lang/Class;"⟩ ∈ lw_all) (hR : 1 ≤ R.frames ∧ 40 ≤ R.locals) (hrest : (rest.map fun v => v.category).sum ≤ 8) (hdg : decode cc pc = .ok (.invokevirtual index, 3))
    (kk : W p l e R s m args below meth c H locs cells slots Q (F0 m (pc + 3) ls (.ref (γ.2.2.2.2.2 2) :: rest))) : W p l e R s m args below meth c H locs cells slots Q (F0 m pc ls (.ref a :: rest)) := by
  obtain ⟨⟨hx, hb, hml, hown, hts⟩, hO, hD⟩ := X
  have hr2 : ∃ cell : Cell, H[a]? = some cell ∧ cell.vm.isStatics = false ∧ s.vm.findClass "[Ljava/lang/Object;" = some cell.cls := by
    unfold ckAk at hr
    split at hr
    · next hk =>
      have hE := hO.1.2.2.2.2.2.2.2.2.2.2.2.2
      have : ∃ i, i < 2 ∧ a = γ.2.2.2.2.2 i := by
        rcases hk with hk | hk
        · exact ⟨0, by decide, hk⟩
        · exact ⟨1, by decide, hk⟩
      obtain ⟨i, hi, rfl⟩ := this
      obtain ⟨cell, g1, g2, g3, g4⟩ := (va_O.moved hD.1.alike ((hE i hi).2.kept hD.2.2)).narrow hAF
      exact ⟨cell, by rw [hS.2.1 _ (Array.getElem?_eq_some_iff.mp g1).1 g4]; exact g1, g2, g3⟩
    · obtain ⟨x, he⟩ := ckA_inv hr
      have hc : H[a]? = some (vp_cell (γ.2.1 3) x) := hH.at he 0 _ rfl
      obtain ⟨kA, comp, k1, k2, k3, k4⟩ := ((hD.K hO).2 3 _ rfl).2
      refine ⟨_, hc, ?_, ?_⟩
      · obtain ⟨n, f | f | f | f | f⟩ := x <;> rfl
      · have hcl : (vp_cell (γ.2.1 3) x).cls = γ.2.1 3 := by obtain ⟨n, f | f | f | f | f⟩ := x <;> rfl
        rw [hcl]
        exact k4
  exact va_getC hx hb (hl.trans hml.symm).symm hown (hts _ hlink) (c_tb hO hD q670 (Cond.declares_setVm hD.1.alike _) rfl) (hts _ q2374) (hts _ q390) (hts _ q407) (hO.1.2.2.2.2.2.2.1.moved hD.1.alike) hr2 hR.1 (by omega) hdg kk
/-- an ArrayList, asked through Collection -/
theorem c_getCL (X : cCtx p s m args c cc nL own γ) (hH : HR γ h H) (hl : ls.size = nL) {a count : Nat} (hr : isC h a 10 = true) (hlink : Cond.methodLink own index ⟨"java/util/Collection", "getClass", "()Ljava/lang/Class;"⟩ ∈ lw_all) (hR : 1 ≤ R.frames ∧ 40 ≤ R.locals) (hrest : (rest.map fun v => v.category).sum ≤ 8) (hdg : decode cc pc = .ok (.invokeinterface index count, 5))
    (kk : W p l e R s m args below meth c H locs cells slots Q (F0 m (pc + 5) ls (.ref (γ.2.2.2.2.2 3) :: rest))) : W p l e R s m args below meth c H locs cells slots Q (F0 m pc ls (.ref a :: rest)) := by
  obtain ⟨⟨hx, hb, hml, hown, hts⟩, hO, hD⟩ := X
  obtain ⟨cell, g1, g2, g3⟩ := c_recv kc_ArrayList hO hD hH hr
  obtain ⟨c0, k0, m1, m2, m3⟩ := hO.1.2.2.2.2.2.2.2.1.moved hD.1.alike
  have hface : (Cond.interfaceMethod "java/util/Collection" "java/lang/Object" "getClass" "()Ljava/lang/Class;").before args s = true := c_tb hO hD q669 (c_ifO hD.1.alike) rfl
  have hsel : (Cond.selects "java/util/ArrayList" ⟨"java/util/Collection", "getClass", "()Ljava/lang/Class;"⟩ ⟨"java/lang/Object", "getClass", "()Ljava/lang/Class;"⟩).before args s = true := by
    obtain ⟨c2, r2, m2, q1, q2, q3, q4, kP, hkP, hkPi⟩ := Cond.selects_spec (hts _ q405)
    obtain ⟨cL, kL, r1, hcL, hkL, hiL, hfoundL, hn1⟩ := Cond.interfaceMethod_spec hface
    have e1 : r1 = m2 := Option.some.inj (hn1.symm.trans q3)
    have e2 : r2 = m2 := Option.some.inj (q2.symm.trans (State.methodFound?_of_named q3 (by decide)))
    subst e1; subst e2
    simp only [Cond.before, Cond.holds, Cond.value, q1, hfoundL, q3, q4, hkP]
    simp [hkPi]
  cases m1.symm.trans g3
  intro T hT X
  obtain ⟨vm', X', st⟩ := X.getClassOfI hx hown (hts _ hlink) (c_tb hO hD q670 (Cond.declares_setVm hD.1.alike _) rfl) hface hsel (hts _ q390) (c_tb hO hD q672 (Cond.publicMethod_setVm hD.1.alike _) rfl) (c_tb hO hD q671 (Cond.unhidden_setVm hD.1.alike _ _ _) rfl) (c_tb hO hD q661 (Cond.castable_setVm hD.1.alike _ _) rfl) (hts _ q407) (by decide) (by decide) rfl rfl m1 m2 ⟨cell, by rw [hT]; exact g1, rfl, g2⟩ m3
    (g := F0 m pc ls (.ref a :: rest)) rfl (hl.trans hml.symm) (rest := rest) rfl (by rw [hb]; exact hdg) hR.1 (by show 2 * 0 + _ + _ ≤ _; have hw : nativeFrameWords "java/lang/Object" "getClass" 1 = 3 := (by decide); omega)
  obtain ⟨t, a1, b1⟩ := kk (T.setVm vm') hT X'
  exact ⟨t, st t a1, b1⟩
end ROWS47
