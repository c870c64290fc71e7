/-! ===== branches that carry the pure function along ===== -/
def imod (a b : Int32) : Int32 := a - a / b * b
theorem irm_mod {a b v : Int32} (h : irm a b = some v) : ¬ b = 0 ∧ imod a b = v := irm_inv h
section BROWS
variable {p : Program} {l : Launch} {e : Env} {R : Room} {s : State} {m : MethodId} {args : Array Value} {below : List Frame} {meth : Method} {c : Code} {H : Heap} {locs : List Loc} {cells slots : Nat} {Q : State → Prop}
variable {pc : Nat} {ls : Array Slot} {rest : List Value} {cc : ByteArray} {α : Type}
theorem b_irem (hx : p.tables.exec = Jvm.exec) (hb : c.code = cc) {x y v : Int32} (hr : irm x y = some v) (hdg : decode cc pc = .ok (.irem, 1))
    (k : W p l e R s m args below meth c H locs cells slots Q (F0 m (pc + 1) ls (.int v :: rest))) : W p l e R s m args below meth c H locs cells slots Q (F0 m pc ls (.int y :: .int x :: rest)) := by
  obtain ⟨h, rfl⟩ := irm_inv hr
  exact lv_irem hx hb hdg h k
theorem b_iremc (hx : p.tables.exec = Jvm.exec) (hb : c.code = cc) {x y : Int32} (hdg : decode cc pc = .ok (.irem, 1)) (h : ¬ y = 0)
    (k : W p l e R s m args below meth c H locs cells slots Q (F0 m (pc + 1) ls (.int (imod x y) :: rest))) : W p l e R s m args below meth c H locs cells slots Q (F0 m pc ls (.int y :: .int x :: rest)) := lv_irem hx hb hdg h k
theorem b_idiv (hx : p.tables.exec = Jvm.exec) (hb : c.code = cc) {x y v : Int32} (hr : idv x y = some v) (hdg : decode cc pc = .ok (.idiv, 1))
    (k : W p l e R s m args below meth c H locs cells slots Q (F0 m (pc + 1) ls (.int v :: rest))) : W p l e R s m args below meth c H locs cells slots Q (F0 m pc ls (.int y :: .int x :: rest)) := by
  obtain ⟨h, rfl⟩ := idv_inv hr
  exact lv_idiv hx hb hdg h k

theorem b_icmp_eq (hx : p.tables.exec = Jvm.exec) (hb : c.code = cc) {x y : Int32} {off : Int} {tgt : Nat} {A B z : α} {i : Decidable (x = y)} (hdg : decode cc pc = .ok (.if_icmp .eq off, 3)) (ht : (pc : Int) + off = (tgt : Int)) (hit : @ite α (x = y) i A B = z)
    (kt : (x = y) → A = z → W p l e R s m args below meth c H locs cells slots Q (F0 m tgt ls rest)) (kf : (¬ x = y) → B = z → W p l e R s m args below meth c H locs cells slots Q (F0 m (pc + 3) ls rest)) : W p l e R s m args below meth c H locs cells slots Q (F0 m pc ls (.int y :: .int x :: rest)) :=
  lv_icmp_eq hx hb hdg ht (fun h => kt (h) (o_t hit (h))) (fun h => kf (h) (o_f hit (h)))
theorem b_icmp_ne (hx : p.tables.exec = Jvm.exec) (hb : c.code = cc) {x y : Int32} {off : Int} {tgt : Nat} {A B z : α} {i : Decidable (x = y)} (hdg : decode cc pc = .ok (.if_icmp .ne off, 3)) (ht : (pc : Int) + off = (tgt : Int)) (hit : @ite α (x = y) i A B = z)
    (kt : (¬ x = y) → B = z → W p l e R s m args below meth c H locs cells slots Q (F0 m tgt ls rest)) (kf : (x = y) → A = z → W p l e R s m args below meth c H locs cells slots Q (F0 m (pc + 3) ls rest)) : W p l e R s m args below meth c H locs cells slots Q (F0 m pc ls (.int y :: .int x :: rest)) :=
  lv_icmp_ne hx hb hdg ht (fun h => kt (h) (o_f hit (h))) (fun h => kf (h) (o_t hit (h)))
theorem b_icmp_lt (hx : p.tables.exec = Jvm.exec) (hb : c.code = cc) {x y : Int32} {off : Int} {tgt : Nat} {A B z : α} {i : Decidable (x < y)} (hdg : decode cc pc = .ok (.if_icmp .lt off, 3)) (ht : (pc : Int) + off = (tgt : Int)) (hit : @ite α (x < y) i A B = z)
    (kt : (x < y) → A = z → W p l e R s m args below meth c H locs cells slots Q (F0 m tgt ls rest)) (kf : (¬ x < y) → B = z → W p l e R s m args below meth c H locs cells slots Q (F0 m (pc + 3) ls rest)) : W p l e R s m args below meth c H locs cells slots Q (F0 m pc ls (.int y :: .int x :: rest)) :=
  lv_icmp_lt hx hb hdg ht (fun h => kt (h) (o_t hit (h))) (fun h => kf (h) (o_f hit (h)))
theorem b_icmp_ge (hx : p.tables.exec = Jvm.exec) (hb : c.code = cc) {x y : Int32} {off : Int} {tgt : Nat} {A B z : α} {i : Decidable (x < y)} (hdg : decode cc pc = .ok (.if_icmp .ge off, 3)) (ht : (pc : Int) + off = (tgt : Int)) (hit : @ite α (x < y) i A B = z)
    (kt : (¬ x < y) → B = z → W p l e R s m args below meth c H locs cells slots Q (F0 m tgt ls rest)) (kf : (x < y) → A = z → W p l e R s m args below meth c H locs cells slots Q (F0 m (pc + 3) ls rest)) : W p l e R s m args below meth c H locs cells slots Q (F0 m pc ls (.int y :: .int x :: rest)) :=
  lv_icmp_ge hx hb hdg ht (fun h => kt (Int32.not_lt.mpr h) (o_f hit (Int32.not_lt.mpr h))) (fun h => kf (Int32.not_le.mp h) (o_t hit (Int32.not_le.mp h)))
theorem b_icmp_le (hx : p.tables.exec = Jvm.exec) (hb : c.code = cc) {x y : Int32} {off : Int} {tgt : Nat} {A B z : α} {i : Decidable (x ≤ y)} (hdg : decode cc pc = .ok (.if_icmp .le off, 3)) (ht : (pc : Int) + off = (tgt : Int)) (hit : @ite α (x ≤ y) i A B = z)
    (kt : (x ≤ y) → A = z → W p l e R s m args below meth c H locs cells slots Q (F0 m tgt ls rest)) (kf : (¬ x ≤ y) → B = z → W p l e R s m args below meth c H locs cells slots Q (F0 m (pc + 3) ls rest)) : W p l e R s m args below meth c H locs cells slots Q (F0 m pc ls (.int y :: .int x :: rest)) :=
  lv_icmp_le hx hb hdg ht (fun h => kt (h) (o_t hit (h))) (fun h => kf (h) (o_f hit (h)))
theorem b_icmp_gt (hx : p.tables.exec = Jvm.exec) (hb : c.code = cc) {x y : Int32} {off : Int} {tgt : Nat} {A B z : α} {i : Decidable (x ≤ y)} (hdg : decode cc pc = .ok (.if_icmp .gt off, 3)) (ht : (pc : Int) + off = (tgt : Int)) (hit : @ite α (x ≤ y) i A B = z)
    (kt : (¬ x ≤ y) → B = z → W p l e R s m args below meth c H locs cells slots Q (F0 m tgt ls rest)) (kf : (x ≤ y) → A = z → W p l e R s m args below meth c H locs cells slots Q (F0 m (pc + 3) ls rest)) : W p l e R s m args below meth c H locs cells slots Q (F0 m pc ls (.int y :: .int x :: rest)) :=
  lv_icmp_gt hx hb hdg ht (fun h => kt (Int32.not_le.mpr h) (o_f hit (Int32.not_le.mpr h))) (fun h => kf (Int32.not_lt.mp h) (o_t hit (Int32.not_lt.mp h)))
theorem b_if_eq (hx : p.tables.exec = Jvm.exec) (hb : c.code = cc) {x : Int32} {off : Int} {tgt : Nat} {A B z : α} {i : Decidable (x = 0)} (hdg : decode cc pc = .ok (.ifCond .eq off, 3)) (ht : (pc : Int) + off = (tgt : Int)) (hit : @ite α (x = 0) i A B = z)
    (kt : (x = 0) → A = z → W p l e R s m args below meth c H locs cells slots Q (F0 m tgt ls rest)) (kf : (¬ x = 0) → B = z → W p l e R s m args below meth c H locs cells slots Q (F0 m (pc + 3) ls rest)) : W p l e R s m args below meth c H locs cells slots Q (F0 m pc ls (.int x :: rest)) :=
  lv_if_eq hx hb hdg ht (fun h => kt (h) (o_t hit (h))) (fun h => kf (h) (o_f hit (h)))
theorem b_if_ne (hx : p.tables.exec = Jvm.exec) (hb : c.code = cc) {x : Int32} {off : Int} {tgt : Nat} {A B z : α} {i : Decidable (x = 0)} (hdg : decode cc pc = .ok (.ifCond .ne off, 3)) (ht : (pc : Int) + off = (tgt : Int)) (hit : @ite α (x = 0) i A B = z)
    (kt : (¬ x = 0) → B = z → W p l e R s m args below meth c H locs cells slots Q (F0 m tgt ls rest)) (kf : (x = 0) → A = z → W p l e R s m args below meth c H locs cells slots Q (F0 m (pc + 3) ls rest)) : W p l e R s m args below meth c H locs cells slots Q (F0 m pc ls (.int x :: rest)) :=
  lv_if_ne hx hb hdg ht (fun h => kt (h) (o_f hit (h))) (fun h => kf (h) (o_t hit (h)))
theorem b_if_lt (hx : p.tables.exec = Jvm.exec) (hb : c.code = cc) {x : Int32} {off : Int} {tgt : Nat} {A B z : α} {i : Decidable (x < 0)} (hdg : decode cc pc = .ok (.ifCond .lt off, 3)) (ht : (pc : Int) + off = (tgt : Int)) (hit : @ite α (x < 0) i A B = z)
    (kt : (x < 0) → A = z → W p l e R s m args below meth c H locs cells slots Q (F0 m tgt ls rest)) (kf : (¬ x < 0) → B = z → W p l e R s m args below meth c H locs cells slots Q (F0 m (pc + 3) ls rest)) : W p l e R s m args below meth c H locs cells slots Q (F0 m pc ls (.int x :: rest)) :=
  lv_if_lt hx hb hdg ht (fun h => kt (h) (o_t hit (h))) (fun h => kf (h) (o_f hit (h)))
theorem b_if_ge (hx : p.tables.exec = Jvm.exec) (hb : c.code = cc) {x : Int32} {off : Int} {tgt : Nat} {A B z : α} {i : Decidable (x < 0)} (hdg : decode cc pc = .ok (.ifCond .ge off, 3)) (ht : (pc : Int) + off = (tgt : Int)) (hit : @ite α (x < 0) i A B = z)
    (kt : (¬ x < 0) → B = z → W p l e R s m args below meth c H locs cells slots Q (F0 m tgt ls rest)) (kf : (x < 0) → A = z → W p l e R s m args below meth c H locs cells slots Q (F0 m (pc + 3) ls rest)) : W p l e R s m args below meth c H locs cells slots Q (F0 m pc ls (.int x :: rest)) :=
  lv_if_ge hx hb hdg ht (fun h => kt (Int32.not_lt.mpr h) (o_f hit (Int32.not_lt.mpr h))) (fun h => kf (Int32.not_le.mp h) (o_t hit (Int32.not_le.mp h)))
theorem b_if_le (hx : p.tables.exec = Jvm.exec) (hb : c.code = cc) {x : Int32} {off : Int} {tgt : Nat} {A B z : α} {i : Decidable (x ≤ 0)} (hdg : decode cc pc = .ok (.ifCond .le off, 3)) (ht : (pc : Int) + off = (tgt : Int)) (hit : @ite α (x ≤ 0) i A B = z)
    (kt : (x ≤ 0) → A = z → W p l e R s m args below meth c H locs cells slots Q (F0 m tgt ls rest)) (kf : (¬ x ≤ 0) → B = z → W p l e R s m args below meth c H locs cells slots Q (F0 m (pc + 3) ls rest)) : W p l e R s m args below meth c H locs cells slots Q (F0 m pc ls (.int x :: rest)) :=
  lv_if_le hx hb hdg ht (fun h => kt (h) (o_t hit (h))) (fun h => kf (h) (o_f hit (h)))
theorem b_if_gt (hx : p.tables.exec = Jvm.exec) (hb : c.code = cc) {x : Int32} {off : Int} {tgt : Nat} {A B z : α} {i : Decidable (x ≤ 0)} (hdg : decode cc pc = .ok (.ifCond .gt off, 3)) (ht : (pc : Int) + off = (tgt : Int)) (hit : @ite α (x ≤ 0) i A B = z)
    (kt : (¬ x ≤ 0) → B = z → W p l e R s m args below meth c H locs cells slots Q (F0 m tgt ls rest)) (kf : (x ≤ 0) → A = z → W p l e R s m args below meth c H locs cells slots Q (F0 m (pc + 3) ls rest)) : W p l e R s m args below meth c H locs cells slots Q (F0 m pc ls (.int x :: rest)) :=
  lv_if_gt hx hb hdg ht (fun h => kt (Int32.not_le.mpr h) (o_f hit (Int32.not_le.mpr h))) (fun h => kf (Int32.not_lt.mp h) (o_t hit (Int32.not_lt.mp h)))
/-- a switch's row for one of its values -/
theorem b_tab (hx : p.tables.exec = Jvm.exec) (hb : c.code = cc) {dflt lo hi : Int} {offs : Array Int} {len : Nat} {x w : Int32} {z : Int} {off : Int} {tgt : Nat} (hdg : decode cc pc = .ok (.tableswitch dflt lo hi offs, len)) (hw : x = w) (hz : w.toInt = z) (h1 : ¬ z < lo) (h2 : ¬ hi < z) (ho : offs[(z - lo).toNat]? = some off) (ht : (pc : Int) + off = (tgt : Int))
    (k : W p l e R s m args below meth c H locs cells slots Q (F0 m tgt ls rest)) : W p l e R s m args below meth c H locs cells slots Q (F0 m pc ls (.int x :: rest)) := by
  subst hw; subst hz
  exact lv_tableIn hx hb hdg h1 h2 ho ht k
end BROWS
/-! ===== the ends of contracts, calls ===== -/
abbrev kRm (f n : Nat) : Room := { frames := f, cells := 0, slots := 0, locals := n }
def bPc (As : List Value) : Array Value → State → Prop := va_Pc As (fun _ => True)
def mPc (G : va_G) (dT : Nat → ClassId) (o : Nat) (ad : Nat → Nat) (σ : MS) (As : List Value) : Array Value → State → Prop := va_Pc (.ref o :: As) (fun U => kK G dT U ∧ MH G dT o ad σ U.heap)
abbrev vp_nf : Addr → Prop := fun _ => False
theorem bPc_blind (As : List Value) : FrameBlind (bPc As) := fun a U g mk q => q
theorem mPc_blind {G : va_G} {dT : Nat → ClassId} {o : Nat} {ad : Nat → Nat} {σ : MS} (As : List Value) : FrameBlind (mPc G dT o ad σ As) := fun a U g mk q => ⟨q.1, va_K.moved (u := U) (U := U.calling g mk a) (Vm.Alike.refl U.vm) q.2.1, q.2.2⟩
/-- what a callee's name must be -/
def kNm (y : MethodName) (C : String) (n : Nat) : Prop := y.cls = C ∧ y.cls ≠ "java/lang/invoke/MethodHandle" ∧ y.cls ≠ "java/lang/invoke/VarHandle" ∧ (parseMethodDescriptor y.desc).map (fun d => d.parameters.length) = some n
section MCALL
variable {p : Program} {l : Launch} {e : Env} {R : Room} {s : State} {m : MethodId} {args : Array Value} {below : List Frame} {meth : Method} {c : Code} {H : Heap} {locs : List Loc} {cells slots : Nat} {Q : State → Prop}
variable {nL pc : Nat} {ls : Array Slot} {rest st0 : List Value} {G : va_G} {dT : Nat → ClassId} {o : Nat} {ad : Nat → Nat} {σ σ' : MS} {H0 : Heap} {cc bytes : ByteArray} {index n maxL f lo : Nat} {y : MethodName} {ret : Option FieldType} {As : List Value}
/-- a static method of numbers alone -/
theorem m_cP {v : Int32} (hF : CallFix p m c cc nL s args lw_all RX4) (hM : Met l y (ws_ y bytes maxL ret) (kRm f lo) (bPc As) (vp_Si (fun r => r = v)) 0 0 vp_nf) (hnm : kNm y RX4 n) (h1 : Cond.methodLink RX4 index y ∈ lw_all) (h2 : Cond.static y ∈ lw_all) (h3 : Cond.initialized RX4 ∈ lw_all) (h4 : Cond.code y bytes maxL ret ∈ lw_all)
    (hR : f + 1 ≤ R.frames ∧ 8 + (maxL + 11) + lo ≤ R.locals) (hn : As.length = n) (hst : st0 = As.reverse ++ rest) (hl : ls.size = nL) (hW : 2 * (F0 m pc ls st0).monitorRoom + (rest.map fun v => v.category).sum ≤ 8) (hdg : decode cc pc = .ok (.invokestatic index, 3))
    (kk : W p l e R s m args below meth c H locs 0 0 Q (F0 m (pc + 3) ls (.int v :: rest))) (hRR : 0 ≤ R.cells ∧ 0 ≤ R.slots := ⟨Nat.zero_le _, Nat.zero_le _⟩) : W p l e R s m args below meth c H locs 0 0 Q (F0 m pc ls st0) := by
  have hts := hF.2.2.2.2
  have hini : (Cond.initialized y.cls) ∈ lw_all := by rw [hnm.1]; exact h3
  refine vp_callSi (W.runS hF hM (va_cwS n hts (lw_S h1 h2 hini h4) rfl rfl rfl ⟨hnm.2.1, hnm.2.2.1, hnm.2.2.2⟩ hR) ⟨bPc_blind As, fun U _ _ => ⟨rfl, trivial⟩⟩ rfl hn hl hst hW hdg hRR) (fun r hr => ?_)
  rw [hr]
  exact kk
theorem m_cPl {v : Int64} (hF : CallFix p m c cc nL s args lw_all RX4) (hM : Met l y (ws_ y bytes maxL ret) (kRm f lo) (bPc As) (vp_Sl (fun r => r = v)) 0 0 vp_nf) (hnm : kNm y RX4 n) (h1 : Cond.methodLink RX4 index y ∈ lw_all) (h2 : Cond.static y ∈ lw_all) (h3 : Cond.initialized RX4 ∈ lw_all) (h4 : Cond.code y bytes maxL ret ∈ lw_all)
    (hR : f + 1 ≤ R.frames ∧ 8 + (maxL + 11) + lo ≤ R.locals) (hn : As.length = n) (hst : st0 = As.reverse ++ rest) (hl : ls.size = nL) (hW : 2 * (F0 m pc ls st0).monitorRoom + (rest.map fun v => v.category).sum ≤ 8) (hdg : decode cc pc = .ok (.invokestatic index, 3))
    (kk : W p l e R s m args below meth c H locs 0 0 Q (F0 m (pc + 3) ls (.long v :: rest))) (hRR : 0 ≤ R.cells ∧ 0 ≤ R.slots := ⟨Nat.zero_le _, Nat.zero_le _⟩) : W p l e R s m args below meth c H locs 0 0 Q (F0 m pc ls st0) := by
  have hts := hF.2.2.2.2
  have hini : (Cond.initialized y.cls) ∈ lw_all := by rw [hnm.1]; exact h3
  have hrun := W.runS (l := l) (e := e) (R := R) (below := below) (meth := meth) (H := H) (locs := locs) (cells := 0) (slots := 0) (g := F0 m pc ls st0) (rest := rest) hF hM (va_cwS n hts (lw_S h1 h2 hini h4) rfl rfl rfl ⟨hnm.2.1, hnm.2.2.1, hnm.2.2.2⟩ hR) ⟨bPc_blind As, fun U _ _ => ⟨rfl, trivial⟩⟩ rfl hn hl hst hW hdg hRR
  intro T hT X
  obtain ⟨w, st₀, t, T', L, h0, X', hL, e1, ⟨r, hv, hp, hh⟩, st⟩ := hrun T hT X
  cases hv
  cases hp
  obtain ⟨t2, a1, b1⟩ := kk T' (by rw [e1, hh, h0]) (Stand.forget X' (fun q h => (hL q h).elim))
  exact ⟨t2, st t2 a1, b1⟩
/-- a method that reads -/
theorem m_cR {v : Int32} (X : mCtx p s m args c cc nL G dT) (hH : MH G dT o ad σ H) (hM : Met l y (ws_ y bytes maxL ret) (kRm f lo) (mPc G dT o ad σ As) (vp_Si (fun r => r = v)) 0 0 vp_nf) (hnm : kNm y RX4 n) (h1 : Cond.methodLink RX4 index y ∈ lw_all) (h2 : Cond.instanceMethod y ∈ lw_all) (h3 : Cond.initialized RX4 ∈ lw_all) (h4 : Cond.code y bytes maxL ret ∈ lw_all) (h5 : Cond.selects RX4 y y ∈ lw_all)
    (hR : f + 1 ≤ R.frames ∧ 8 + (maxL + 11) + lo ≤ R.locals) (hn : As.length = n) (hst : st0 = As.reverse ++ .ref o :: rest) (hl : ls.size = nL) (hW : 2 * (F0 m pc ls st0).monitorRoom + (rest.map fun v => v.category).sum ≤ 8) (hdg : decode cc pc = .ok (.invokevirtual index, 3))
    (kk : W p l e R s m args below meth c H locs 0 0 Q (F0 m (pc + 3) ls (.int v :: rest))) (hRR : 0 ≤ R.cells ∧ 0 ≤ R.slots := ⟨Nat.zero_le _, Nat.zero_le _⟩) : W p l e R s m args below meth c H locs 0 0 Q (F0 m pc ls st0) := by
  obtain ⟨hF, hK⟩ := X
  have hts := hF.2.2.2.2
  refine vp_callSi (W.runV hF hM (cwV n hts (lw_V h1 h2 h5 h3 h4) rfl rfl rfl hnm hR) ⟨mPc_blind As, va_recv hK hH.1 (ci := 0) (q0 := 0) rfl rfl, fun U hU hW => ⟨rfl, va_K.moved hW.alike hK, by rw [hU]; exact hH⟩⟩ rfl hn hl hst hW hdg hRR) (fun r hr => ?_)
  rw [hr]
  exact kk
/-- a method that changes the reference, and answers an int -/
theorem m_cNi {v : Int32} (X : mCtx p s m args c cc nL G dT) (hH : MH G dT o ad σ H) (hS : va_S (mAd o ad) H0 H locs) (hM : Met l y (ws_ y bytes maxL ret) (kRm f lo) (mPc G dT o ad σ As) (va_Qi (fun r (_ : Unit) => r = v) (fun _ t => MH G dT o ad σ' t.heap) (mAd o ad)) 0 0 (mAd o ad)) (hnm : kNm y RX4 n) (h1 : Cond.methodLink RX4 index y ∈ lw_all) (h2 : Cond.instanceMethod y ∈ lw_all) (h3 : Cond.initialized RX4 ∈ lw_all) (h4 : Cond.code y bytes maxL ret ∈ lw_all) (h5 : Cond.selects RX4 y y ∈ lw_all)
    (hR : f + 1 ≤ R.frames ∧ 8 + (maxL + 11) + lo ≤ R.locals) (hn : As.length = n) (hst : st0 = As.reverse ++ .ref o :: rest) (hl : ls.size = nL) (hW : 2 * (F0 m pc ls st0).monitorRoom + (rest.map fun v => v.category).sum ≤ 8) (hdg : decode cc pc = .ok (.invokevirtual index, 3))
    (kk : ∀ (H : Heap) (locs : List Loc), MH G dT o ad σ' H → va_S (mAd o ad) H0 H locs → W p l e R s m args below meth c H locs 0 0 Q (F0 m (pc + 3) ls (.int v :: rest))) (hRR : 0 ≤ R.cells ∧ 0 ≤ R.slots := ⟨Nat.zero_le _, Nat.zero_le _⟩) : W p l e R s m args below meth c H locs 0 0 Q (F0 m pc ls st0) := by
  obtain ⟨hF, hK⟩ := X
  have hts := hF.2.2.2.2
  refine va_calli (va_runV hF hM (cwV n hts (lw_V h1 h2 h5 h3 h4) rfl rfl rfl hnm hR) ⟨mPc_blind As, va_recv hK hH.1 (ci := 0) (q0 := 0) rfl rfl, fun U hU hW => ⟨rfl, va_K.moved hW.alike hK, by rw [hU]; exact hH⟩⟩ rfl hn hl hst hW hdg hRR) hS (fun q _ h => h) (fun q h => h) (fun r u t H1 locs1 ht _ hr hB _ _ hS1 => ?_)
  cases hr
  rw [ht] at hB
  exact kk H1 locs1 hB hS1
theorem m_cNv (X : mCtx p s m args c cc nL G dT) (hH : MH G dT o ad σ H) (hS : va_S (mAd o ad) H0 H locs) (hM : Met l y (ws_ y bytes maxL ret) (kRm f lo) (mPc G dT o ad σ As) (va_Qv (fun (_ : Unit) => True) (fun _ t => MH G dT o ad σ' t.heap) (mAd o ad)) 0 0 (mAd o ad)) (hnm : kNm y RX4 n) (h1 : Cond.methodLink RX4 index y ∈ lw_all) (h2 : Cond.instanceMethod y ∈ lw_all) (h3 : Cond.initialized RX4 ∈ lw_all) (h4 : Cond.code y bytes maxL ret ∈ lw_all) (h5 : Cond.selects RX4 y y ∈ lw_all)
    (hR : f + 1 ≤ R.frames ∧ 8 + (maxL + 11) + lo ≤ R.locals) (hn : As.length = n) (hst : st0 = As.reverse ++ .ref o :: rest) (hl : ls.size = nL) (hW : 2 * (F0 m pc ls st0).monitorRoom + (rest.map fun v => v.category).sum ≤ 8) (hdg : decode cc pc = .ok (.invokevirtual index, 3))
    (kk : ∀ (H : Heap) (locs : List Loc), MH G dT o ad σ' H → va_S (mAd o ad) H0 H locs → W p l e R s m args below meth c H locs 0 0 Q (F0 m (pc + 3) ls rest)) (hRR : 0 ≤ R.cells ∧ 0 ≤ R.slots := ⟨Nat.zero_le _, Nat.zero_le _⟩) : W p l e R s m args below meth c H locs 0 0 Q (F0 m pc ls st0) := by
  obtain ⟨hF, hK⟩ := X
  have hts := hF.2.2.2.2
  refine va_callv (va_runV hF hM (cwV n hts (lw_V h1 h2 h5 h3 h4) rfl rfl rfl hnm hR) ⟨mPc_blind As, va_recv hK hH.1 (ci := 0) (q0 := 0) rfl rfl, fun U hU hW => ⟨rfl, va_K.moved hW.alike hK, by rw [hU]; exact hH⟩⟩ rfl hn hl hst hW hdg hRR) hS (fun q _ h => h) (fun q h => h) (fun u t H1 locs1 ht _ _ hB _ _ hS1 => ?_)
  rw [ht] at hB
  exact kk H1 locs1 hB hS1
end MCALL
