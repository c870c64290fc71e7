section MSTART
variable {p : Program} {l : Launch} {e : Env} {R : Room} {s : State} {m : MethodId} {args : Array Value} {below : List Frame} {meth : Method} {c : Code} {H : Heap} {locs : List Loc} {cells slots : Nat} {Q : State → Prop}
/-- ireturn of any int type: what the type keeps of it -/
theorem W.nret {cc : ByteArray} {Qc : Array Value → State → Outcome → State → Prop} {free : Addr → Prop} {v w : Int32} {ty : FieldType} (hexec : p.tables.exec = Jvm.exec) (hb : c.code = cc) (hr : meth.sig.returnType = some ty) (hn : narrow ty (.int v) = .int w)
    (hq : ∀ t : State, t.heap = H → s.WarmedH t.vm → Qc args s (.returned (some (.int w))) t) (hf : ∀ q ∈ locs, free q.base)
    {pc : Nat} {ls : Array Slot} (hdg : decode cc pc = .ok (.ireturn, 1)) (hlocks : meth.locks = false) : W p l e R s m args below meth c H locs cells slots (MQ below Qc args s cells slots free) (F0 m pc ls [.int v]) := by
  intro T hT X
  obtain ⟨fs, hret, hrun, hended, hW, hframe⟩ := X.leave (v := some (.int w)) (fun h => by rw [hr] at h; cases h)
  have hmeth' : T.vm.method? m = some meth := X.method'
  refine ⟨T.setFrames fs, ?_, .returned (some (.int w)), hrun, hended, hq _ hT hW, locs, ⟨⟨_, rfl⟩, hW, hframe⟩, hf⟩
  jvm_step X.here [X.here.top, hexec, hb, hdg, hmeth', hr, hn]
  (try refine ⟨rfl, ?_⟩); (try refine ⟨rfl, ?_⟩)
  first | (intro acts; rw [hret _ acts rfl rfl rfl]) | rw [hret _ _ rfl rfl rfl]
  exact Steps.refl _
variable {y : MethodName} {cc : ByteArray} {maxL f lo : Nat} {G : va_G} {dT : Nat → ClassId} {o : Nat} {ad : Nat → Nat} {σ : MS} {As : List Value}
theorem m_startP {ty : FieldType} {v : Int32} (hy : plainName y.cls = true) (hc : y.cls = RX4) (hlen : Nat.ble (lg_sl As).length maxL = true)
    (body : ∀ (p : Program) (e : Env) (R : Room) (s : State) (m : MethodId) (args : Array Value) (below : List Frame) (meth : Method) (c : Code) (Q : State → Prop) (ls : Array Slot), CallFix p m c cc maxL s args lw_all RX4 → f ≤ R.frames ∧ lo ≤ R.locals → lv_has ls maxL (lv_args 0 As) →
      (∀ (w w' : Int32) (pc : Nat) (ls : Array Slot), narrow ty (.int w) = .int w' → w' = v → decode cc pc = .ok (.ireturn, 1) → W p l e R s m args below meth c s.heap [] 0 0 Q (F0 m pc ls [.int w])) →
      W p l e R s m args below meth c s.heap [] 0 0 Q (F0 m 0 ls [])) : Met l y (ws_ y cc maxL (some ty)) (kRm f lo) (bPc As) (vp_Si (fun r => r = v)) 0 0 vp_nf := by
  refine Met.ofW (cc := cc) (maxL := maxL) (ret := some ty) hy rfl ?_
  intro p e s m args below meth c s₁ B hml hv
  obtain ⟨rfl, -⟩ := hv
  have hts := atoms_spec (ws := ws_ y cc maxL (some ty)) B.pre
  have hts : ∀ w ∈ lw_all, w.before _ s = true := fun w h => hts w (List.mem_cons_of_mem _ h)
  have hown : s.vm.findClass RX4 = some m.cls := hc ▸ findClass_of_methodNamed B.named
  have hl := lv_entry As (n := maxL) (Nat.le_of_ble_eq_true hlen)
  rw [lg_entry_eq]
  exact body p e _ s m _ below meth c _ _ ⟨B.exec, B.bytes, hml, hown, hts⟩ ⟨Nat.le_refl _, Nat.le_refl _⟩ hl (fun w w' pc ls hn hw hd => W.nret (w := w') B.exec B.bytes B.returns hn (fun t ht hW => ⟨w', rfl, hw, ht⟩) (fun q h => by cases h) hd B.notSynchronized)
theorem m_startPl {v : Int64} (hy : plainName y.cls = true) (hc : y.cls = RX4) (hlen : Nat.ble (lg_sl As).length maxL = true)
    (body : ∀ (p : Program) (e : Env) (R : Room) (s : State) (m : MethodId) (args : Array Value) (below : List Frame) (meth : Method) (c : Code) (Q : State → Prop) (ls : Array Slot), CallFix p m c cc maxL s args lw_all RX4 → f ≤ R.frames ∧ lo ≤ R.locals → lv_has ls maxL (lv_args 0 As) →
      (∀ (w : Int64) (pc : Nat) (ls : Array Slot), w = v → decode cc pc = .ok (.lreturn, 1) → W p l e R s m args below meth c s.heap [] 0 0 Q (F0 m pc ls [.long w])) →
      W p l e R s m args below meth c s.heap [] 0 0 Q (F0 m 0 ls [])) : Met l y (ws_ y cc maxL (some .long)) (kRm f lo) (bPc As) (vp_Sl (fun r => r = v)) 0 0 vp_nf := by
  refine Met.ofW (cc := cc) (maxL := maxL) (ret := some .long) hy rfl ?_
  intro p e s m args below meth c s₁ B hml hv
  obtain ⟨rfl, -⟩ := hv
  have hts := atoms_spec (ws := ws_ y cc maxL (some .long)) B.pre
  have hts : ∀ w ∈ lw_all, w.before _ s = true := fun w h => hts w (List.mem_cons_of_mem _ h)
  have hown : s.vm.findClass RX4 = some m.cls := hc ▸ findClass_of_methodNamed B.named
  have hl := lv_entry As (n := maxL) (Nat.le_of_ble_eq_true hlen)
  have hlocks := B.notSynchronized
  rw [lg_entry_eq]
  exact body p e _ s m _ below meth c _ _ ⟨B.exec, B.bytes, hml, hown, hts⟩ ⟨Nat.le_refl _, Nat.le_refl _⟩ hl (fun w pc ls hw hd => W.lret B.exec B.bytes B.returns (fun t ht hW => ⟨w, rfl, hw, ht⟩) (fun q h => by cases h) hd)
theorem m_startR {ty : FieldType} {v : Int32} (hy : plainName y.cls = true) (hc : y.cls = RX4) (hlen : Nat.ble (lg_sl (.ref o :: As)).length maxL = true)
    (body : ∀ (p : Program) (e : Env) (R : Room) (s : State) (m : MethodId) (args : Array Value) (below : List Frame) (meth : Method) (c : Code) (Q : State → Prop) (ls : Array Slot), mCtx p s m args c cc maxL G dT → f ≤ R.frames ∧ lo ≤ R.locals → MH G dT o ad σ s.heap → lv_has ls maxL (lv_args 0 (.ref o :: As)) →
      (∀ (w w' : Int32) (pc : Nat) (ls : Array Slot), narrow ty (.int w) = .int w' → w' = v → decode cc pc = .ok (.ireturn, 1) → W p l e R s m args below meth c s.heap [] 0 0 Q (F0 m pc ls [.int w])) →
      W p l e R s m args below meth c s.heap [] 0 0 Q (F0 m 0 ls [])) : Met l y (ws_ y cc maxL (some ty)) (kRm f lo) (mPc G dT o ad σ As) (vp_Si (fun r => r = v)) 0 0 vp_nf := by
  refine Met.ofW (cc := cc) (maxL := maxL) (ret := some ty) hy rfl ?_
  intro p e s m args below meth c s₁ B hml hv
  obtain ⟨rfl, hK, hM⟩ := hv
  have hts := atoms_spec (ws := ws_ y cc maxL (some ty)) B.pre
  have hts : ∀ w ∈ lw_all, w.before _ s = true := fun w h => hts w (List.mem_cons_of_mem _ h)
  have hown : s.vm.findClass RX4 = some m.cls := hc ▸ findClass_of_methodNamed B.named
  have hl := lv_entry (.ref o :: As) (n := maxL) (Nat.le_of_ble_eq_true hlen)
  rw [lg_entry_eq]
  exact body p e _ s m _ below meth c _ _ ⟨⟨B.exec, B.bytes, hml, hown, hts⟩, hK⟩ ⟨Nat.le_refl _, Nat.le_refl _⟩ hM hl (fun w w' pc ls hn hw hd => W.nret (w := w') B.exec B.bytes B.returns hn (fun t ht hW => ⟨w', rfl, hw, ht⟩) (fun q h => by cases h) hd B.notSynchronized)
theorem m_startNi {ty : FieldType} {z : Int32 × MS} (hy : plainName y.cls = true) (hc : y.cls = RX4) (hlen : Nat.ble (lg_sl (.ref o :: As)).length maxL = true)
    (body : ∀ (p : Program) (e : Env) (R : Room) (s : State) (m : MethodId) (args : Array Value) (below : List Frame) (meth : Method) (c : Code) (Q : State → Prop) (ls : Array Slot), mCtx p s m args c cc maxL G dT → f ≤ R.frames ∧ lo ≤ R.locals → MH G dT o ad σ s.heap → va_S (mAd o ad) s.heap s.heap [] → lv_has ls maxL (lv_args 0 (.ref o :: As)) →
      (∀ (w w' : Int32) (σ' : MS) (H : Heap) (locs : List Loc) (pc : Nat) (ls : Array Slot), narrow ty (.int w) = .int w' → (w', σ') = z → MH G dT o ad σ' H → va_S (mAd o ad) s.heap H locs → decode cc pc = .ok (.ireturn, 1) → W p l e R s m args below meth c H locs 0 0 Q (F0 m pc ls [.int w])) →
      W p l e R s m args below meth c s.heap [] 0 0 Q (F0 m 0 ls [])) : Met l y (ws_ y cc maxL (some ty)) (kRm f lo) (mPc G dT o ad σ As) (va_Qi (fun r (_ : Unit) => r = z.1) (fun _ t => MH G dT o ad z.2 t.heap) (mAd o ad)) 0 0 (mAd o ad) := by
  refine Met.ofW (cc := cc) (maxL := maxL) (ret := some ty) hy rfl ?_
  intro p e s m args below meth c s₁ B hml hv
  obtain ⟨rfl, hK, hM⟩ := hv
  have hts := atoms_spec (ws := ws_ y cc maxL (some ty)) B.pre
  have hts : ∀ w ∈ lw_all, w.before _ s = true := fun w h => hts w (List.mem_cons_of_mem _ h)
  have hown : s.vm.findClass RX4 = some m.cls := hc ▸ findClass_of_methodNamed B.named
  have hl := lv_entry (.ref o :: As) (n := maxL) (Nat.le_of_ble_eq_true hlen)
  rw [lg_entry_eq]
  exact body p e _ s m _ below meth c _ _ ⟨⟨B.exec, B.bytes, hml, hown, hts⟩, hK⟩ ⟨Nat.le_refl _, Nat.le_refl _⟩ hM va_S.rf hl (fun w w' σ' H locs pc ls hn hw hM1 hS hd => W.nret (w := w') B.exec B.bytes B.returns hn (fun t ht hW => by subst hw; exact ⟨⟨w', (), rfl, rfl, by show MH G dT o ad σ' t.heap; rw [ht]; exact hM1⟩, hS.F ht⟩) hS.2.2 hd B.notSynchronized)
theorem m_startNv {z : MS} (hy : plainName y.cls = true) (hc : y.cls = RX4) (hlen : Nat.ble (lg_sl (.ref o :: As)).length maxL = true)
    (body : ∀ (p : Program) (e : Env) (R : Room) (s : State) (m : MethodId) (args : Array Value) (below : List Frame) (meth : Method) (c : Code) (Q : State → Prop) (ls : Array Slot), mCtx p s m args c cc maxL G dT → f ≤ R.frames ∧ lo ≤ R.locals → MH G dT o ad σ s.heap → va_S (mAd o ad) s.heap s.heap [] → lv_has ls maxL (lv_args 0 (.ref o :: As)) →
      (∀ (σ' : MS) (H : Heap) (locs : List Loc) (pc : Nat) (ls : Array Slot), σ' = z → MH G dT o ad σ' H → va_S (mAd o ad) s.heap H locs → decode cc pc = .ok (.return_, 1) → W p l e R s m args below meth c H locs 0 0 Q (F0 m pc ls [])) →
      W p l e R s m args below meth c s.heap [] 0 0 Q (F0 m 0 ls [])) : Met l y (ws_ y cc maxL none) (kRm f lo) (mPc G dT o ad σ As) (va_Qv (fun (_ : Unit) => True) (fun _ t => MH G dT o ad z t.heap) (mAd o ad)) 0 0 (mAd o ad) := by
  refine Met.ofW (cc := cc) (maxL := maxL) (ret := none) hy rfl ?_
  intro p e s m args below meth c s₁ B hml hv
  obtain ⟨rfl, hK, hM⟩ := hv
  have hts := atoms_spec (ws := ws_ y cc maxL none) B.pre
  have hts : ∀ w ∈ lw_all, w.before _ s = true := fun w h => hts w (List.mem_cons_of_mem _ h)
  have hown : s.vm.findClass RX4 = some m.cls := hc ▸ findClass_of_methodNamed B.named
  have hl := lv_entry (.ref o :: As) (n := maxL) (Nat.le_of_ble_eq_true hlen)
  have hlocks := B.notSynchronized
  rw [lg_entry_eq]
  exact body p e _ s m _ below meth c _ _ ⟨⟨B.exec, B.bytes, hml, hown, hts⟩, hK⟩ ⟨Nat.le_refl _, Nat.le_refl _⟩ hM va_S.rf hl (fun σ' H locs pc ls hw hM1 hS hd => W.vret B.exec B.bytes B.returns (fun t ht hW => by subst hw; exact ⟨⟨(), rfl, trivial, by show MH G dT o ad σ' t.heap; rw [ht]; exact hM1⟩, hS.F ht⟩) hS.2.2 hd)
end MSTART
