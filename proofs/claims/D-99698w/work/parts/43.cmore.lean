/-! ===== more rows: references that may be null, casts, forms ===== -/
theorem va_rf_cat (r : Option Nat) : (va_rf r).category = 1 := by cases r <;> rfl
def vc {α : Type} (h : CH) (a c : Nat) (x : Option α) : Option α := if isC h a c = true then x else none
theorem vc_inv {α : Type} {h : CH} {a c : Nat} {x : Option α} {z : α} (e : vc h a c x = some z) : isC h a c = true ∧ x = some z := by
  unfold vc at e
  split at e
  · next hc => exact ⟨hc, e⟩
  · cases e
def ckC (h : CH) (a c : Nat) : Option Unit := if isC h a c = true then some () else none
theorem ckC_inv {h : CH} {a c : Nat} {u : Unit} (e : ckC h a c = some u) : isC h a c = true := by
  unfold ckC at e
  split at e
  · next hc => exact hc
  · cases e
def ckA (h : CH) (a t : Nat) : Option Unit := match h a with
  | some (.inl (t', _)) => if t' = t then some () else none
  | _ => none
theorem ckA_inv {h : CH} {a t : Nat} {u : Unit} (e : ckA h a t = some u) : ∃ x, h a = some (.inl (t, x)) := by
  unfold ckA at e
  split at e
  · next t' x hh =>
    split at e
    · next ht => exact ⟨x, by rw [← ht]; exact hh⟩
    · cases e
  · cases e
def ckF (h : CH) (a : Nat) : Option Unit := if isC h a 7 = true ∨ isC h a 8 = true ∨ isC h a 9 = true ∨ isC h a 6 = true then some () else none
theorem ckF_inv {h : CH} {a : Nat} {u : Unit} (e : ckF h a = some u) : isC h a 7 = true ∨ isC h a 8 = true ∨ isC h a 9 = true ∨ isC h a 6 = true := by
  unfold ckF at e
  split at e
  · next hc => exact hc
  · cases e
def iush (x y : Int32) : Int32 := (x.toUInt32 >>> (y.toUInt32 &&& Int32.toUInt32 31)).toInt32
def i2b_ (x : Int32) : Int32 := x.toInt8.toInt32
def i2c_ (x : Int32) : Int32 := (x.toUInt32 % 65536).toInt32
theorem kOut_i {ty : FieldType} {x w : Int32} (h : narrow ty (.int x) = .int w) : kOut (some ty) [.int x] (some (.int w)) .ireturn := by
  unfold kOut
  exact ⟨⟨x, rfl, h⟩, rfl⟩
theorem kOut_o {n : String} {a : Nat} : kOut (some (.object n)) [.ref a] (some (.ref a)) .areturn := by
  unfold kOut
  exact ⟨rfl, Or.inl ⟨n, rfl⟩, rfl⟩
theorem kOut_a {t : FieldType} {a : Nat} : kOut (some (.array t)) [.ref a] (some (.ref a)) .areturn := by
  unfold kOut
  exact ⟨rfl, Or.inr ⟨t, rfl⟩, rfl⟩
theorem kOut_v : kOut none [] none .return_ := by
  unfold kOut
  exact ⟨rfl, rfl⟩
section MORE
variable {p : Program} {l : Launch} {e : Env} {R : Room} {s : State} {m : MethodId} {args : Array Value} {below : List Frame} {meth : Method} {c : Code} {H : Heap} {locs : List Loc} {cells slots : Nat} {Q : State → Prop}
variable {nL pc : Nat} {ls : Array Slot} {rest st0 : List Value} {γ : KG} {h h' h0 : CH} {cc bytes : ByteArray} {index n maxL f lo : Nat} {y : MethodName} {ret : Option FieldType} {As : List Value} {own C : String} {ci N : Nat} {T : u_T} {ty : Nat → FieldType} {α : Type} {A : Nat → Prop} {sz : Nat}
theorem b_null (hx : p.tables.exec = Jvm.exec) (hb : c.code = cc) (hdg : decode cc pc = .ok (.aconst_null, 1)) (k : W p l e R s m args below meth c H locs cells slots Q (F0 m (pc + 1) ls (va_rf none :: rest))) : W p l e R s m args below meth c H locs cells slots Q (F0 m pc ls rest) := lv_null hx hb hdg k
theorem b_aloadq_n (hx : p.tables.exec = Jvm.exec) (hb : c.code = cc) {k : Fin 4} {i : Nat} {r : Option Nat} (hdg : decode cc pc = .ok (.aload_n k, 1)) (hi : (k : Nat) = i) (hl : ls[i]? = some (.val (va_rf r)))
    (k : W p l e R s m args below meth c H locs cells slots Q (F0 m (pc + 1) ls (va_rf r :: rest))) : W p l e R s m args below meth c H locs cells slots Q (F0 m pc ls rest) := by
  cases r with
  | none => exact lv_aload_nN hx hb hdg hi hl k
  | some x => exact lv_aload_n hx hb hdg hi hl k
theorem b_aloadq (hx : p.tables.exec = Jvm.exec) (hb : c.code = cc) {i : Nat} {r : Option Nat} (hdg : decode cc pc = .ok (.aload i, 2)) (hl : ls[i]? = some (.val (va_rf r)))
    (k : W p l e R s m args below meth c H locs cells slots Q (F0 m (pc + 2) ls (va_rf r :: rest))) : W p l e R s m args below meth c H locs cells slots Q (F0 m pc ls rest) := by
  cases r with
  | none => exact lv_aloadN hx hb hdg hl k
  | some x => exact lv_aload hx hb hdg hl k
theorem b_ifnull (hx : p.tables.exec = Jvm.exec) (hb : c.code = cc) {r : Option Nat} {off : Int} {tgt : Nat} {A z : α} {B : Nat → α} (hdg : decode cc pc = .ok (.ifnull off, 3)) (ht : (pc : Int) + off = (tgt : Int)) (hit : r.elim A B = z)
    (kt : A = z → W p l e R s m args below meth c H locs cells slots Q (F0 m tgt ls rest)) (kf : ∀ a, r = some a → B a = z → W p l e R s m args below meth c H locs cells slots Q (F0 m (pc + 3) ls rest)) : W p l e R s m args below meth c H locs cells slots Q (F0 m pc ls (va_rf r :: rest)) := by
  cases r with
  | none => exact lv_ifnullN hx hb hdg ht (kt hit)
  | some a => exact lv_ifnull hx hb hdg (kf a rfl hit)
theorem b_ifnonnull (hx : p.tables.exec = Jvm.exec) (hb : c.code = cc) {r : Option Nat} {off : Int} {tgt : Nat} {A z : α} {B : Nat → α} (hdg : decode cc pc = .ok (.ifnonnull off, 3)) (ht : (pc : Int) + off = (tgt : Int)) (hit : r.elim A B = z)
    (kf : A = z → W p l e R s m args below meth c H locs cells slots Q (F0 m (pc + 3) ls rest)) (kt : ∀ a, r = some a → B a = z → W p l e R s m args below meth c H locs cells slots Q (F0 m tgt ls rest)) : W p l e R s m args below meth c H locs cells slots Q (F0 m pc ls (va_rf r :: rest)) := by
  cases r with
  | none => exact lv_ifnonnullN hx hb hdg (kf hit)
  | some a => exact lv_ifnonnull hx hb hdg ht (kt a rfl hit)
theorem b_acmp_eq (hx : p.tables.exec = Jvm.exec) (hb : c.code = cc) {rx ry : Option Nat} {off : Int} {tgt : Nat} {A B z : α} {i : Decidable (rx = ry)} (hdg : decode cc pc = .ok (.if_acmp .eq off, 3)) (ht : (pc : Int) + off = (tgt : Int)) (hit : @ite α (rx = ry) i A B = z)
    (kt : rx = ry → A = z → W p l e R s m args below meth c H locs cells slots Q (F0 m tgt ls rest)) (kf : ¬ rx = ry → B = z → W p l e R s m args below meth c H locs cells slots Q (F0 m (pc + 3) ls rest)) : W p l e R s m args below meth c H locs cells slots Q (F0 m pc ls (va_rf ry :: va_rf rx :: rest)) :=
  lv_acmp_eq hx hb hdg ht (fun h => kt h (o_t hit h)) (fun h => kf h (o_f hit h))
theorem b_acmp_ne (hx : p.tables.exec = Jvm.exec) (hb : c.code = cc) {rx ry : Option Nat} {off : Int} {tgt : Nat} {A B z : α} {i : Decidable (rx = ry)} (hdg : decode cc pc = .ok (.if_acmp .ne off, 3)) (ht : (pc : Int) + off = (tgt : Int)) (hit : @ite α (rx = ry) i A B = z)
    (kt : ¬ rx = ry → B = z → W p l e R s m args below meth c H locs cells slots Q (F0 m tgt ls rest)) (kf : rx = ry → A = z → W p l e R s m args below meth c H locs cells slots Q (F0 m (pc + 3) ls rest)) : W p l e R s m args below meth c H locs cells slots Q (F0 m pc ls (va_rf ry :: va_rf rx :: rest)) :=
  lv_acmp_ne hx hb hdg ht (fun h => kt h (o_f hit h)) (fun h => kf h (o_t hit h))
theorem c_castS {nm : String} {a : Nat} {u : Unit} (X : cCtx p s m args c cc nL own γ) (hH : HR γ h H) (hC : kCls ci nm T N ty) (hlink : Cond.classLink own index nm ∈ lw_all) (hr : ckC h a ci = some u) (hdg : decode cc pc = .ok (.checkcast index, 3))
    (k : W p l e R s m args below meth c H locs cells slots Q (F0 m (pc + 3) ls (.ref a :: rest))) : W p l e R s m args below meth c H locs cells slots Q (F0 m pc ls (.ref a :: rest)) := by
  obtain ⟨⟨hx, hb, hml, hown, hts⟩, hO, hD⟩ := X
  exact va_castS hx hb hown (hts _ hlink) (((hD.K hO).1 ci _ hC.1).2) (c_recv hC hO hD hH (ckC_inv hr)) hdg k
theorem c_castW {nm : String} {a : Nat} (X : cCtx p s m args c cc nL own γ) (hH : HR γ h H) (hC : kCls ci C T N ty) (hlink : Cond.classLink own index nm ∈ lw_all) (hw : Cond.castable C nm ∈ lw_tbl) (hr : isC h a ci = true) (hdg : decode cc pc = .ok (.checkcast index, 3))
    (k : W p l e R s m args below meth c H locs cells slots Q (F0 m (pc + 3) ls (.ref a :: rest))) : W p l e R s m args below meth c H locs cells slots Q (F0 m pc ls (.ref a :: rest)) := by
  obtain ⟨⟨hx, hb, hml, hown, hts⟩, hO, hD⟩ := X
  have hc : va_Nw (.castable C nm) s := va_tabs rfl (rfl : (γ.2.2.1.setVm s.vm).vm = s.vm) (by rw [Cond.castable_setVm hD.1.alike]; exact hO.2.1 _ hw)
  exact va_castY hx hb hown (hts _ hlink) hc (c_recv hC hO hD hH hr) hdg k
theorem c_castY {nm : String} {a : Nat} {u : Unit} (X : cCtx p s m args c cc nL own γ) (hH : HR γ h H) (hC : kCls ci C T N ty) (hlink : Cond.classLink own index nm ∈ lw_all) (hw : Cond.castable C nm ∈ lw_tbl) (hr : ckC h a ci = some u) (hdg : decode cc pc = .ok (.checkcast index, 3))
    (k : W p l e R s m args below meth c H locs cells slots Q (F0 m (pc + 3) ls (.ref a :: rest))) : W p l e R s m args below meth c H locs cells slots Q (F0 m pc ls (.ref a :: rest)) := c_castW X hH hC hlink hw (ckC_inv hr) hdg k
theorem c_castA {nm : String} {a : Nat} {u : Unit} (X : cCtx p s m args c cc nL own γ) (hH : HR γ h H) (t : Nat) {tyq : FieldType} (ht : ∀ dT, (kTY dT)[t]? = some (dT t, tyq)) (hlink : Cond.classLink own index nm ∈ lw_all) (hp : va_RA s (γ.2.1 t) tyq → s.vm.findClass nm = some (γ.2.1 t)) (hr : ckA h a t = some u) (hdg : decode cc pc = .ok (.checkcast index, 3))
    (k : W p l e R s m args below meth c H locs cells slots Q (F0 m (pc + 3) ls (.ref a :: rest))) : W p l e R s m args below meth c H locs cells slots Q (F0 m pc ls (.ref a :: rest)) := by
  obtain ⟨⟨hx, hb, hml, hown, hts⟩, hO, hD⟩ := X
  obtain ⟨x, he⟩ := ckA_inv hr
  exact va_castA hx hb hown (hts _ hlink) (hH.at he) 0 rfl (hp ((hD.K hO).2 t _ (ht _)).2) hdg k
theorem c_cRS {v : Value} (X : cCtx p s m args c cc nL own γ) (hH : HR γ h H) (hDU : ∀ U : State, U.heap = H → s.WarmedH U.vm → kD γ U) (hM : Met l y (ws_ y bytes maxL ret) (kRm f lo) (cPc γ h As) (cRq v) 0 0 vp_nf) (hnm : kNm y C n) (h1 : Cond.methodLink own index y ∈ lw_all) (h2 : Cond.static y ∈ lw_all) (h3 : Cond.initialized C ∈ lw_all) (h4 : Cond.code y bytes maxL ret ∈ lw_all)
    (hR : f + 1 ≤ R.frames ∧ 8 + (maxL + 11) + lo ≤ R.locals) (hRR : cells + 0 ≤ R.cells ∧ slots + 0 ≤ R.slots) (hn : As.length = n) (hst : st0 = As.reverse ++ rest) (hl : ls.size = nL) (hW : 2 * (F0 m pc ls st0).monitorRoom + (rest.map fun v => v.category).sum ≤ 8) (hdg : decode cc pc = .ok (.invokestatic index, 3))
    (kk : W p l e R s m args below meth c H locs cells slots Q (F0 m (pc + 3) ls (v :: rest))) : W p l e R s m args below meth c H locs cells slots Q (F0 m pc ls st0) := by
  obtain ⟨hF, hO, hD⟩ := X
  have hts := hF.2.2.2.2
  have hini : (Cond.initialized y.cls) ∈ lw_all := by rw [hnm.1]; exact h3
  exact c_goR (W.runS hF hM (va_cwS n hts (lw_S h1 h2 hini h4) rfl rfl rfl ⟨hnm.2.1, hnm.2.2.1, hnm.2.2.2⟩ hR) ⟨cPc_blind _, fun U hU hW => ⟨rfl, hDU U hU hW, by rw [hU]; exact hH⟩⟩ rfl hn hl hst hW hdg hRR) kk
/-- a reader without an answer (a check that passes) -/
def cRv : Array Value → State → Outcome → State → Prop := fun _ st o t => o = .returned none ∧ t.heap = st.heap
theorem c_goRv {a : Array Value} (hr : CallRun p l e R s m args below meth c H locs cells slots 0 0 (F0 m pc ls st0) rest (cRv a) vp_nf)
    (kk : W p l e R s m args below meth c H locs cells slots Q (F0 m (pc + 3) ls rest)) : W p l e R s m args below meth c H locs cells slots Q (F0 m pc ls st0) := by
  intro T hT X
  obtain ⟨w, st₀, t, T', L, h0, X', hL, e1, ⟨hv, hh⟩, st⟩ := hr T hT X
  cases hv
  obtain ⟨t2, a1, b1⟩ := kk T' (by rw [e1, hh, h0]) (Stand.forget X' (fun q h => (hL q h).elim))
  exact ⟨t2, st t2 a1, b1⟩
theorem c_cRSv (X : cCtx p s m args c cc nL own γ) (hH : HR γ h H) (hDU : ∀ U : State, U.heap = H → s.WarmedH U.vm → kD γ U) (hM : Met l y (ws_ y bytes maxL ret) (kRm f lo) (cPc γ h As) cRv 0 0 vp_nf) (hnm : kNm y C n) (h1 : Cond.methodLink own index y ∈ lw_all) (h2 : Cond.static y ∈ lw_all) (h3 : Cond.initialized C ∈ lw_all) (h4 : Cond.code y bytes maxL ret ∈ lw_all)
    (hR : f + 1 ≤ R.frames ∧ 8 + (maxL + 11) + lo ≤ R.locals) (hRR : cells + 0 ≤ R.cells ∧ slots + 0 ≤ R.slots) (hn : As.length = n) (hst : st0 = As.reverse ++ rest) (hl : ls.size = nL) (hW : 2 * (F0 m pc ls st0).monitorRoom + (rest.map fun v => v.category).sum ≤ 8) (hdg : decode cc pc = .ok (.invokestatic index, 3))
    (kk : W p l e R s m args below meth c H locs cells slots Q (F0 m (pc + 3) ls rest)) : W p l e R s m args below meth c H locs cells slots Q (F0 m pc ls st0) := by
  obtain ⟨hF, hO, hD⟩ := X
  have hts := hF.2.2.2.2
  have hini : (Cond.initialized y.cls) ∈ lw_all := by rw [hnm.1]; exact h3
  exact c_goRv (W.runS hF hM (va_cwS n hts (lw_S h1 h2 hini h4) rfl rfl rfl ⟨hnm.2.1, hnm.2.2.1, hnm.2.2.2⟩ hR) ⟨cPc_blind _, fun U hU hW => ⟨rfl, hDU U hU hW, by rw [hU]; exact hH⟩⟩ rfl hn hl hst hW hdg hRR) kk
theorem c_startRv (hO : kOK γ) (hy : plainName y.cls = true) (hc : y.cls = own) (hlen : Nat.ble (lg_sl As).length maxL = true)
    (body : ∀ (p : Program) (e : Env) (R : Room) (s : State) (m : MethodId) (args : Array Value) (below : List Frame) (meth : Method) (c : Code) (Q : State → Prop) (ls : Array Slot), cCtx p s m args c cc maxL own γ → f ≤ R.frames ∧ lo ≤ R.locals → HR γ h s.heap → (∀ U : State, U.heap = s.heap → s.WarmedH U.vm → kD γ U) → lv_has ls maxL (lv_args 0 As) →
      (∀ (pc : Nat) (ls : Array Slot), decode cc pc = .ok (.return_, 1) → W p l e R s m args below meth c s.heap [] 0 0 Q (F0 m pc ls [])) →
      W p l e R s m args below meth c s.heap [] 0 0 Q (F0 m 0 ls [])) : Met l y (ws_ y cc maxL none) (kRm f lo) (cPc γ h As) cRv 0 0 vp_nf := by
  refine Met.ofW (cc := cc) (maxL := maxL) (ret := none) hy rfl ?_
  intro p e s m args below meth c s₁ B hml hv
  obtain ⟨rfl, hD, hH⟩ := hv
  have hts := atoms_spec (ws := ws_ y cc maxL none) B.pre
  have hts : ∀ w ∈ lw_all, w.before _ s = true := fun w h => hts w (List.mem_cons_of_mem _ h)
  have hown : s.vm.findClass own = some m.cls := hc ▸ findClass_of_methodNamed B.named
  have hl := lv_entry As (n := maxL) (Nat.le_of_ble_eq_true hlen)
  have hlocks := B.notSynchronized
  rw [lg_entry_eq]
  exact body p e _ s m _ below meth c _ _ ⟨⟨B.exec, B.bytes, hml, hown, hts⟩, hO, hD⟩ ⟨Nat.le_refl _, Nat.le_refl _⟩ hH (fun U hU hW => hD.later hW (by rw [hU]; exact Nat.le_refl _) (fun q _ _ => by rw [hU])) hl (fun pc ls hd => W.vret B.exec B.bytes B.returns (fun t ht hW => ⟨rfl, ht⟩) (fun q h => by cases h) hd)
def imax (x y : Int32) : Int32 := if x < y then y else x
theorem b_max (F : CallFix p m c cc nL s args lw_all own) (hl : ls.size = nL) (hlink : Cond.methodLink own index ⟨"java/lang/Math", "max", "(II)I"⟩ ∈ lw_all) (hframes : 1 ≤ R.frames) (hlocals : (rest.map fun v => v.category).sum + 13 ≤ R.locals) (hRR : cells + 0 ≤ R.cells ∧ slots + 0 ≤ R.slots) {x y : Int32} (hdg : decode cc pc = .ok (.invokestatic index, 3))
    (kk : W p l e R s m args below meth c H locs cells slots Q (F0 m (pc + 3) ls (.int (imax x y) :: rest))) : W p l e R s m args below meth c H locs cells slots Q (F0 m pc ls (.int y :: .int x :: rest)) := by
  obtain ⟨hx, hb, hml, hown, hts⟩ := F
  exact va_mmax hx hb (hml.trans hl.symm) hown (hts _ hlink) (hts _ q380) (hts _ q147) (hts _ q381) hframes hlocals hRR.1 hRR.2 hdg kk
def imin (x y : Int32) : Int32 := if y < x then y else x
theorem b_min (F : CallFix p m c cc nL s args lw_all own) (hl : ls.size = nL) (hlink : Cond.methodLink own index ⟨"java/lang/Math", "min", "(II)I"⟩ ∈ lw_all) (hframes : 1 ≤ R.frames) (hlocals : (rest.map fun v => v.category).sum + 13 ≤ R.locals) (hRR : cells + 0 ≤ R.cells ∧ slots + 0 ≤ R.slots) {x y : Int32} (hdg : decode cc pc = .ok (.invokestatic index, 3))
    (kk : W p l e R s m args below meth c H locs cells slots Q (F0 m (pc + 3) ls (.int (imin x y) :: rest))) : W p l e R s m args below meth c H locs cells slots Q (F0 m pc ls (.int y :: .int x :: rest)) := by
  obtain ⟨hx, hb, hml, hown, hts⟩ := F
  exact va_mmin hx hb (hml.trans hl.symm) hown (hts _ hlink) (hts _ q415) (hts _ q147) (hts _ q416) hframes hlocals hRR.1 hRR.2 hdg kk

theorem c_castF {a : Nat} {u : Unit} (X : cCtx p s m args c cc nL own γ) (hH : HR γ h H) (hlink : Cond.classLink own index "TwinInk$Form" ∈ lw_all) (hr : ckF h a = some u) (hdg : decode cc pc = .ok (.checkcast index, 3))
    (k : W p l e R s m args below meth c H locs cells slots Q (F0 m (pc + 3) ls (.ref a :: rest))) : W p l e R s m args below meth c H locs cells slots Q (F0 m pc ls (.ref a :: rest)) := by
  rcases ckF_inv hr with hi | hi | hi | hi
  · exact c_castW X hH kc_Number hlink q544 hi hdg k
  · exact c_castW X hH kc_Value hlink q550 hi hdg k
  · exact c_castW X hH kc_Not hlink q536 hi hdg k
  · exact c_castW X hH kc_Chain hlink q525 hi hdg k
/-- a form, asked through the interface: whichever of the four it is -/
def FmMet (l : Launch) (γ : KG) (F : CH → Nat → Nat → Option Int32) (f lo : Nat) : Prop := ∀ (h : CH) (r vs : Nat) (z : Int32), F h r vs = some z → (isC h r 7 = true ∧ ∃ f1 lo1, f1 ≤ f ∧ lo1 ≤ lo ∧ Met l yX8_of (ws_ yX8_of cX8_of 2 (some .int)) (kRm f1 lo1) (cPc γ h [.ref r, .ref vs]) (cRq (.int z)) 0 0 vp_nf) ∨ (isC h r 8 = true ∧ ∃ f1 lo1, f1 ≤ f ∧ lo1 ≤ lo ∧ Met l yX9_of (ws_ yX9_of cX9_of 2 (some .int)) (kRm f1 lo1) (cPc γ h [.ref r, .ref vs]) (cRq (.int z)) 0 0 vp_nf) ∨ (isC h r 9 = true ∧ ∃ f1 lo1, f1 ≤ f ∧ lo1 ≤ lo ∧ Met l yX10_of (ws_ yX10_of cX10_of 2 (some .int)) (kRm f1 lo1) (cPc γ h [.ref r, .ref vs]) (cRq (.int z)) 0 0 vp_nf) ∨ (isC h r 6 = true ∧ ∃ f1 lo1, f1 ≤ f ∧ lo1 ≤ lo ∧ Met l yX7_of (ws_ yX7_of cX7_of 4 (some .int)) (kRm f1 lo1) (cPc γ h [.ref r, .ref vs]) (cRq (.int z)) 0 0 vp_nf)
theorem nmi_Form_of : kNm ⟨"TwinInk$Form", "of", "([I)I"⟩ "TwinInk$Form" 1 := by unfold kNm; decide +kernel
theorem nmi_List_get : kNm ⟨"java/util/List", "get", "(I)Ljava/lang/Object;"⟩ "java/util/List" 1 := by unfold kNm; decide +kernel
theorem nmi_List_size : kNm ⟨"java/util/List", "size", "()I"⟩ "java/util/List" 0 := by unfold kNm; decide +kernel
theorem nmi_List_isEmpty : kNm ⟨"java/util/List", "isEmpty", "()Z"⟩ "java/util/List" 0 := by unfold kNm; decide +kernel
theorem nmi_List_add : kNm ⟨"java/util/List", "add", "(Ljava/lang/Object;)Z"⟩ "java/util/List" 1 := by unfold kNm; decide +kernel
theorem nmi_List_remove : kNm ⟨"java/util/List", "remove", "(I)Ljava/lang/Object;"⟩ "java/util/List" 1 := by unfold kNm; decide +kernel
theorem nmi_Collection_toArray : kNm ⟨"java/util/Collection", "toArray", "()[Ljava/lang/Object;"⟩ "java/util/Collection" 0 := by unfold kNm; decide +kernel
theorem c_cForm {F : CH → Nat → Nat → Option Int32} {r vs count : Nat} {z : Int32} (X : cCtx p s m args c cc nL own γ) (hH : HR γ h H) (hDU : ∀ U : State, U.heap = H → s.WarmedH U.vm → kD γ U) (hF : FmMet l γ F f lo) (hz : F h r vs = some z) (h1 : Cond.methodLink own index ⟨"TwinInk$Form", "of", "([I)I"⟩ ∈ lw_all)
    (hR : f + 1 ≤ R.frames ∧ 8 + (4 + 11) + lo ≤ R.locals) (hRR : cells + 0 ≤ R.cells ∧ slots + 0 ≤ R.slots) (hl : ls.size = nL) (hW : 2 * (F0 m pc ls (.ref vs :: .ref r :: rest)).monitorRoom + (rest.map fun v => v.category).sum ≤ 8) (hdg : decode cc pc = .ok (.invokeinterface index count, 5))
    (kk : W p l e R s m args below meth c H locs cells slots Q (F0 m (pc + 5) ls (.int z :: rest))) : W p l e R s m args below meth c H locs cells slots Q (F0 m pc ls (.ref vs :: .ref r :: rest)) := by
  rcases hF h r vs z hz with ⟨hi, f1, lo1, l1, l2, hM⟩ | ⟨hi, f1, lo1, l1, l2, hM⟩ | ⟨hi, f1, lo1, l1, l2, hM⟩ | ⟨hi, f1, lo1, l1, l2, hM⟩
  · exact c_cRF (C := "TwinInk$Number") X hH hDU kc_Number hM hi nmi_Form_of h1 q547 q155 q549 q545 q524 q523 q548 q546 q544 ⟨by omega, by omega⟩ hRR rfl rfl hl hW hdg kk
  · exact c_cRF (C := "TwinInk$Value") X hH hDU kc_Value hM hi nmi_Form_of h1 q553 q156 q555 q551 q524 q523 q554 q552 q550 ⟨by omega, by omega⟩ hRR rfl rfl hl hW hdg kk
  · exact c_cRF (C := "TwinInk$Not") X hH hDU kc_Not hM hi nmi_Form_of h1 q539 q163 q541 q537 q524 q523 q540 q538 q536 ⟨by omega, by omega⟩ hRR rfl rfl hl hW hdg kk
  · exact c_cRF (C := "TwinInk$Chain") X hH hDU kc_Chain hM hi nmi_Form_of h1 q528 q154 q530 q526 q524 q523 q529 q527 q525 ⟨by omega, by omega⟩ hRR rfl rfl hl hW hdg kk
theorem c_bast {a : Nat} {i v : Int32} (X : cCtx p s m args c cc nL own γ) (hI : NI γ A sz s h H locs) (hr : sI h a 2 i (vp_nar .byte v) = some h') (hdg : decode cc pc = .ok (.bastore, 1))
    (kk : ∀ (H : Heap) (locs : List Loc), NI γ A sz s h' H locs → W p l e R s m args below meth c H locs cells slots Q (F0 m (pc + 1) ls rest)) : W p l e R s m args below meth c H locs cells slots Q (F0 m pc ls (.int v :: .int i :: .ref a :: rest)) := by
  obtain ⟨⟨hx, hb, hml, hown, hts⟩, hO, hD⟩ := X
  obtain ⟨n, f, h1, h2, rfl⟩ := sI_inv hr
  have hK := hD.K hO
  refine W.bast hx hb (hI.1.at h1 0 _ rfl) ((hK.2 2 _ rfl).1 n (fun j => .int (f j))) (fun q => by cases q) (by show ¬ (i < 0 ∨ (arrV _ _ _).slots.size ≤ _); rw [arrV_size]; exact h2) rfl rfl hdg fun H1 e1 z oq => ?_
  refine kk H1 _ (hI.put h1 ?_ z oq)
  show H1[a]? = some (vp_cell (γ.2.1 2) (n, .inl (upd f i.toNatClampNeg (vp_nar .byte v))))
  have e2 : H1[a]? = some ((vp_cell (γ.2.1 2) (n, .inl f)).setSlot i.toNatClampNeg (Value.int (vp_nar .byte v))) := e1
  rw [e2, vp_cell_i, vp_cell_i, arrV_store]
  congr 2
  funext q
  by_cases hq : q = i.toNatClampNeg
  · subst hq
    simp [updV, upd]
  · simp [updV, upd, hq]
end MORE
