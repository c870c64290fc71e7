/-! ===== constructors, references stored, arrays made; the other kinds of call ===== -/
theorem kfit {t : FieldType} (ht : (∃ n, t = .object n) ∨ ∃ x, t = .array x) (r : Option Nat) : narrow t (va_rf r) = va_rf r ∧ fits t (va_rf r) = true := by
  rcases ht with ⟨n, rfl⟩ | ⟨x, rfl⟩ <;> cases r <;> exact ⟨rfl, rfl⟩
section ROWS45
variable {p : Program} {l : Launch} {e : Env} {R : Room} {s : State} {m : MethodId} {args : Array Value} {below : List Frame} {meth : Method} {c : Code} {H : Heap} {locs : List Loc} {cells slots : Nat} {Q : State → Prop}
variable {nL pc : Nat} {ls : Array Slot} {rest st0 : List Value} {γ : KG} {h h' : CH} {r r' : CR} {σ0 σ σ' : CS} {cc bytes : ByteArray} {index n maxL f lo : Nat} {y : MethodName} {ret : Option FieldType} {As : List Value} {own C : String} {ci N : Nat} {T : u_T} {ty : Nat → FieldType} {A : Nat → Prop} {sz : Nat} {a : Array Value} {w : Option Value} {mc ms : Nat}
theorem b_objInit (F : CallFix p m c cc nL s args lw_all own) (hl : ls.size = nL) {a : Nat} (hlink : Cond.methodLink own index ⟨"java/lang/Object", "<init>", "()V"⟩ ∈ lw_all) (hR : 1 ≤ R.frames ∧ 30 ≤ R.locals) (hrest : (rest.map fun v => v.category).sum ≤ 8) (hd : decode cc pc = .ok (.invokespecial index, 3))
    (kk : W p l e R s m args below meth c H locs cells slots Q (F0 m (pc + 3) ls rest)) : W p l e R s m args below meth c H locs cells slots Q (F0 m pc ls (.ref a :: rest)) := by
  obtain ⟨hx, hb, hml, hown, hts⟩ := F
  refine W.objInit hx hb hown (hts _ hlink) (hts _ q174) (hts _ q175) rfl (hl.trans hml.symm) rfl hd hR.1 ?_ kk
  have h0 : (F0 m pc ls (.ref a :: rest)).monitorRoom = 0 := rfl
  rw [h0]
  omega
/-- a field set in its class's constructor, though final -/
theorem c_putF (X : cCtx p s m args c cc nL own γ) (hin2 : meth.name = "<init>") (hI : NI γ A sz s h H locs) (hC : kCls ci C T N ty) (k : Nat) {f d : String} (hlink : Cond.fieldLink own index own f d ∈ lw_all) (hT : T k = (own, f, d, true)) (hk : Nat.blt k N = true) {a : Nat} {fs : List Value} {tyv : FieldType} {v : Value} (hd : parseFieldDescriptor d = some tyv) (hn : narrow tyv v = v) (hfit : fits tyv v = true) (he : h a = some (.inr (ci, fs))) (hl : k < fs.length) (hdg : decode cc pc = .ok (.putfield index, 3))
    (kk : ∀ (H : Heap) (locs : List Loc), NI γ A sz s (hup h a (.inr (ci, fs.set k v))) H locs → W p l e R s m args below meth c H locs cells slots Q (F0 m (pc + 3) ls rest)) : W p l e R s m args below meth c H locs cells slots Q (F0 m pc ls (v :: .ref a :: rest)) := by
  obtain ⟨⟨hx, hb, hml, hown, hts⟩, hO, hD⟩ := X
  have hK := hD.K hO
  have hk := Nat.blt_eq.mp hk
  have hap := va_apart (own := own) hts hC.2.1 ty hC.2.2.1 hC.2.2.2 hK hC.1
  obtain ⟨r, h1, cell, q1, q2, q3, q4⟩ := (hI.1 a _ he).1
  have hr : r = (C, T, N) := Option.some.inj (h1.symm.trans hC.1)
  subst hr
  obtain ⟨hS, hfc, kC, hkC, hkind⟩ := hK.1 ci _ hC.1
  obtain ⟨cf, kf, fi, fd, hi, hsl⟩ := hS k hk
  have hlay := hts _ (hC.2.1 _ (u_in_lay hk))
  unfold u_lay at hlay
  rw [if_pos (by rw [hT])] at hlay
  have hst := (u_facts hfc hkC (u_lays hts hC.2.1 hk) hi).1
  have hi' : s.fieldFound? own f d = some (cf, kf, fi, fd) := by
    have hi2 : s.fieldFound? (T k).1 (T k).2.1 (T k).2.2.1 = some (cf, kf, fi, fd) := hi
    rw [hT] at hi2
    exact hi2
  have hcf : m.cls = cf := by
    obtain ⟨_, _, c', _, _, _, -, -, hf', -, -, -, hown2, -⟩ := Cond.laysFinal_spec hlay
    have e1 : c' = cf := by have := hi.symm.trans hf'; simp at this; exact this.1.symm
    rw [hT] at hown2
    rw [← e1]; exact Option.some.inj (hown.symm.trans hown2)
  have h6 := u_fits hfc hkC hkind (Or.inr hlay) hi (by rw [hT]; exact hd) hn hfit
  refine W.putFinK hx hb hown (hts _ hlink) hi' hst hcf hin2 (by rw [q2]; exact h6) q1 q3 (by rw [hsl]; exact k2_hasslot (q4 k hk)) rfl rfl hdg fun H' e1 e2 e3 => ?_
  rw [hsl] at e1
  exact kk H' _ (hI.put he ⟨_, hC.1, t_OB.to (V := updV (vp_V fs) k v) ⟨_, e1, q2, q3, t_set q4 hap hk v⟩ (fun j _ => vp_updV_set hl v j)⟩ e2 e3)
theorem c_putFI (X : cCtx p s m args c cc nL own γ) (hin2 : meth.name = "<init>") (hI : NI γ A sz s h H locs) (hC : kCls ci C T N ty) (k : Nat) {f d : String} (hlink : Cond.fieldLink own index own f d ∈ lw_all) (hT : T k = (own, f, d, true)) (hk : Nat.blt k N = true) {a : Nat} {tyv : FieldType} {v : Int32} (hd : parseFieldDescriptor d = some tyv) (hn : narrow tyv (.int v) = .int v) (hfit : fits tyv (.int v) = true) (hr : pI h a ci k v = some h') (hdg : decode cc pc = .ok (.putfield index, 3))
    (kk : ∀ (H : Heap) (locs : List Loc), NI γ A sz s h' H locs → W p l e R s m args below meth c H locs cells slots Q (F0 m (pc + 3) ls rest)) : W p l e R s m args below meth c H locs cells slots Q (F0 m pc ls (.int v :: .ref a :: rest)) := by
  obtain ⟨fs, h1, h2, rfl⟩ := pI_inv hr
  exact c_putF X hin2 hI hC k hlink hT hk hd hn hfit h1 h2 hdg kk
theorem c_putFQ (X : cCtx p s m args c cc nL own γ) (hin2 : meth.name = "<init>") (hI : NI γ A sz s h H locs) (hC : kCls ci C T N ty) (k : Nat) {f d : String} (hlink : Cond.fieldLink own index own f d ∈ lw_all) (hT : T k = (own, f, d, true)) (hk : Nat.blt k N = true) {a : Nat} {tyv : FieldType} {v : Option Nat} (hd : parseFieldDescriptor d = some tyv) (ht : (∃ n, tyv = .object n) ∨ ∃ x, tyv = .array x) (hr : pQ h a ci k v = some h') (hdg : decode cc pc = .ok (.putfield index, 3))
    (kk : ∀ (H : Heap) (locs : List Loc), NI γ A sz s h' H locs → W p l e R s m args below meth c H locs cells slots Q (F0 m (pc + 3) ls rest)) : W p l e R s m args below meth c H locs cells slots Q (F0 m pc ls (va_rf v :: .ref a :: rest)) := by
  obtain ⟨fs, h1, h2, rfl⟩ := pQ_inv hr
  exact c_putF X hin2 hI hC k hlink hT hk hd (kfit ht v).1 (kfit ht v).2 h1 h2 hdg kk
theorem c_putQ (X : cCtx p s m args c cc nL own γ) (hI : NI γ A sz s h H locs) (hC : kCls ci C T N ty) (k : Nat) {rf O f d : String} (hlink : Cond.fieldLink own index rf f d ∈ lw_all) (hs : rf = O ∨ Cond.sameField rf O f d ∈ lw_all) (hT : T k = (O, f, d, false)) (hk : Nat.blt k N = true) {a : Nat} {tyv : FieldType} {v : Option Nat} (hd : parseFieldDescriptor d = some tyv) (ht : (∃ n, tyv = .object n) ∨ ∃ x, tyv = .array x) (hr : pQ h a ci k v = some h') (hdg : decode cc pc = .ok (.putfield index, 3))
    (kk : ∀ (H : Heap) (locs : List Loc), NI γ A sz s h' H locs → W p l e R s m args below meth c H locs cells slots Q (F0 m (pc + 3) ls rest)) : W p l e R s m args below meth c H locs cells slots Q (F0 m pc ls (va_rf v :: .ref a :: rest)) := by
  obtain ⟨fs, h1, h2, rfl⟩ := pQ_inv hr
  exact c_putW X hI hC k hlink hs hT hk hd (kfit ht v).1 (kfit ht v).2 h1 h2 hdg kk
theorem c_putNQ (X : cCtx p s m args c cc nL own γ) (hI : NI γ A sz s h H locs) (hC : kCls ci C T N ty) (k : Nat) {rf O f d host : String} (hlink : Cond.fieldLinkNest own index rf f d host ∈ lw_tbl) (hs : rf = O ∨ Cond.sameField rf O f d ∈ lw_all) (hT : T k = (O, f, d, false)) (hk : Nat.blt k N = true) {a : Nat} {tyv : FieldType} {v : Option Nat} (hd : parseFieldDescriptor d = some tyv) (ht : (∃ n, tyv = .object n) ∨ ∃ x, tyv = .array x) (hr : pQ h a ci k v = some h') (hdg : decode cc pc = .ok (.putfield index, 3))
    (kk : ∀ (H : Heap) (locs : List Loc), NI γ A sz s h' H locs → W p l e R s m args below meth c H locs cells slots Q (F0 m (pc + 3) ls rest)) : W p l e R s m args below meth c H locs cells slots Q (F0 m pc ls (va_rf v :: .ref a :: rest)) := by
  obtain ⟨fs, h1, h2, rfl⟩ := pQ_inv hr
  exact c_putWN X hI hC k hlink hs hT hk hd (kfit ht v).1 (kfit ht v).2 h1 h2 hdg kk
/-! references into arrays -/
theorem NI.putQ {H1 : Heap} {a n t : Nat} {f : Nat → Option Nat} {i : Int32} {x : Option Nat} (hI : NI γ A sz s h H locs) (h1 : h a = some (.inl (t, n, .inr (.inr (.inr (.inr f)))))) (e1 : H1[a]? = some ((vp_cell (γ.2.1 t) (n, .inr (.inr (.inr (.inr f))))).setSlot i.toNatClampNeg (va_rf x))) (z : H1.size = H.size) (oq : ∀ q : Nat, q ≠ a → H1[q]? = H[q]?) : NI γ A sz s (hup h a (.inl (t, n, .inr (.inr (.inr (.inr (va_up f i.toNatClampNeg x))))))) H1 (locs ++ [⟨a, i.toNatClampNeg⟩]) := by
  refine hI.put h1 ?_ z oq
  show H1[a]? = some (vp_cell (γ.2.1 t) (n, .inr (.inr (.inr (.inr (va_up f i.toNatClampNeg x))))))
  rw [e1, vp_cell_q, vp_cell_q, arrV_store]
  congr 2
  funext q
  by_cases hq : q = i.toNatClampNeg
  · subst hq
    simp [updV, va_up]
  · simp [updV, va_up, hq]
theorem c_aastN (X : cCtx p s m args c cc nL own γ) (hI : NI γ A sz s h H locs) (t : Nat) {E : String} (ht : ∀ dT, (kTY dT)[t]? = some (dT t, .object E)) {a : Nat} {i : Int32} (hr : sQ h a t i none = some h') (hdg : decode cc pc = .ok (.aastore, 1))
    (kk : ∀ (H : Heap) (locs : List Loc), NI γ A sz s h' H locs → W p l e R s m args below meth c H locs cells slots Q (F0 m (pc + 1) ls rest)) : W p l e R s m args below meth c H locs cells slots Q (F0 m pc ls (va_rf none :: .int i :: .ref a :: rest)) := by
  obtain ⟨⟨hx, hb, hml, hown, hts⟩, hO, hD⟩ := X
  obtain ⟨n, f, h1, h2, rfl⟩ := sQ_inv hr
  have hK := hD.K hO
  refine va_WaastN hx hb (hI.1.at h1 0 _ rfl) ((hK.2 t _ (ht _)).1 n (fun j => va_rf (f j))) (fun q => by cases q) (by show ¬ (i < 0 ∨ (arrV _ _ _).slots.size ≤ _); rw [arrV_size]; exact h2) rfl rfl hdg fun H1 e1 z oq => ?_
  exact kk H1 _ (hI.putQ h1 e1 z oq)
theorem c_aast (X : cCtx p s m args c cc nL own γ) (hI : NI γ A sz s h H locs) (t : Nat) {E : String} (ht : ∀ dT, (kTY dT)[t]? = some (dT t, .object E)) {a v : Nat} {i : Int32} (hv : va_Any E s H v) (hr : sQ h a t i (some v) = some h') (hdg : decode cc pc = .ok (.aastore, 1))
    (kk : ∀ (H : Heap) (locs : List Loc), NI γ A sz s h' H locs → W p l e R s m args below meth c H locs cells slots Q (F0 m (pc + 1) ls rest)) : W p l e R s m args below meth c H locs cells slots Q (F0 m pc ls (.ref v :: .int i :: .ref a :: rest)) := by
  obtain ⟨⟨hx, hb, hml, hown, hts⟩, hO, hD⟩ := X
  obtain ⟨n, f, h1, h2, rfl⟩ := sQ_inv hr
  have hK := hD.K hO
  have hlt : i.toNatClampNeg < n := Nat.not_le.mp fun q => h2 (Or.inr q)
  obtain ⟨cellV, g1, g3, ⟨kC, hkC⟩, hasg⟩ := hv
  obtain ⟨kA, comp, k1, k2, k3, -⟩ := (hK.2 t _ (ht _)).2
  obtain ⟨kE, hkE, -⟩ := Vm.findClass_spec k3
  refine W.aast hx hb (hI.1.at h1 0 _ rfl) (fun q h => by cases h) (fun h => by cases h) k1 k2 rfl hkE ⟨fun q => h2 (Or.inl q), by show _ < (arrV _ _ _).slots.size; rw [arrV_size]; exact hlt⟩ g1 (fun q h => by rw [h] at g3; cases g3) hkC (hasg _ k3) rfl rfl hdg fun H1 e1 z oq => ?_
  exact kk H1 _ (hI.putQ h1 e1 z oq)
/-- any object or array of the system's is an Object -/
def okO (h : CH) (a : Nat) : Bool := match h a with
  | some (.inr (c, _)) => decide (c ∈ [1, 2, 3, 4, 5, 6, 7, 8, 9, 10, 11, 12])
  | some (.inl (t, _)) => decide (t ∈ [0, 1, 2, 3, 4, 5])
  | none => false
theorem c_anyW {nm : String} {v : Nat} {cell : Cell} (hO : kOK γ) (hD : kD γ s) (hw : Cond.castable nm "java/lang/Object" ∈ lw_tbl) (h1 : H[v]? = some cell) (h2 : cell.vm.isStatics = false) (h3 : s.vm.findClass nm = some cell.cls) : va_Any "java/lang/Object" s H v := by
  have hb : (Cond.castable nm "java/lang/Object").before γ.2.2.2.1 γ.2.2.1 = true := hO.2.1 _ hw
  have hb2 : (Cond.castable nm "java/lang/Object").before γ.2.2.2.1 (γ.2.2.1.setVm s.vm) = true := by rw [Cond.castable_setVm hD.1.alike]; exact hb
  obtain ⟨c3, c4, hc3, hc4, hasg⟩ := Cond.castable_spec hb2
  obtain ⟨kC, hkC, -⟩ := Vm.findClass_spec h3
  have e3 : c3 = cell.cls := Option.some.inj (hc3.symm.trans h3)
  subst e3
  exact ⟨cell, h1, h2, ⟨kC, hkC⟩, fun comp hcomp => by
    have e4 : c4 = comp := Option.some.inj (hc4.symm.trans hcomp)
    subst e4
    exact hasg⟩
theorem c_any {v : Nat} (hO : kOK γ) (hD : kD γ s) (hH : HR γ h H) (hk : okO h v = true) : va_Any "java/lang/Object" s H v := by
  unfold okO at hk
  split at hk
  · next ci fs he =>
    have hm := of_decide_eq_true hk
    simp only [List.mem_cons, List.not_mem_nil, or_false] at hm
    have hi : isC h v ci = true := by unfold isC; rw [he]; exact decide_eq_true rfl
    rcases hm with rfl | rfl | rfl | rfl | rfl | rfl | rfl | rfl | rfl | rfl | rfl | rfl
    · obtain ⟨cell, g1, g2, g3⟩ := c_recv kc_TwinInk hO hD hH hi
      exact c_anyW hO hD q2357 g1 g2 g3
    · obtain ⟨cell, g1, g2, g3⟩ := c_recv kc_Office hO hD hH hi
      exact c_anyW hO hD q2358 g1 g2 g3
    · obtain ⟨cell, g1, g2, g3⟩ := c_recv kc_Service hO hD hH hi
      exact c_anyW hO hD q2360 g1 g2 g3
    · obtain ⟨cell, g1, g2, g3⟩ := c_recv kc_Reader hO hD hH hi
      exact c_anyW hO hD q2363 g1 g2 g3
    · obtain ⟨cell, g1, g2, g3⟩ := c_recv kc_Wrong hO hD hH hi
      exact c_anyW hO hD q2364 g1 g2 g3
    · obtain ⟨cell, g1, g2, g3⟩ := c_recv kc_Chain hO hD hH hi
      exact c_anyW hO hD q2365 g1 g2 g3
    · obtain ⟨cell, g1, g2, g3⟩ := c_recv kc_Number hO hD hH hi
      exact c_anyW hO hD q2366 g1 g2 g3
    · obtain ⟨cell, g1, g2, g3⟩ := c_recv kc_Value hO hD hH hi
      exact c_anyW hO hD q2367 g1 g2 g3
    · obtain ⟨cell, g1, g2, g3⟩ := c_recv kc_Not hO hD hH hi
      exact c_anyW hO hD q2369 g1 g2 g3
    · obtain ⟨cell, g1, g2, g3⟩ := c_recv kc_ArrayList hO hD hH hi
      exact c_anyW hO hD q2359 g1 g2 g3
    · obtain ⟨cell, g1, g2, g3⟩ := c_recv kc_StringBuilder hO hD hH hi
      exact c_anyW hO hD q2368 g1 g2 g3
    · obtain ⟨cell, g1, g2, g3⟩ := c_recv kc_Integer hO hD hH hi
      exact c_anyW hO hD q2370 g1 g2 g3
  · next t x he =>
    have hm := of_decide_eq_true hk
    simp only [List.mem_cons, List.not_mem_nil, or_false] at hm
    have hc : H[v]? = some (vp_cell (γ.2.1 t) x) := hH.at he 0 _ rfl
    have hvm : (vp_cell (γ.2.1 t) x).vm.isStatics = false := by
      obtain ⟨n, f | f | f | f | f⟩ := x <;> rfl
    have hcl : (vp_cell (γ.2.1 t) x).cls = γ.2.1 t := by
      obtain ⟨n, f | f | f | f | f⟩ := x <;> rfl
    have hK := hD.K hO
    rcases hm with rfl | rfl | rfl | rfl | rfl | rfl
    · exact c_anyW hO hD q2375 hc hvm (by rw [hcl]; exact (hK.2 0 _ rfl).2)
    · exact c_anyW hO hD q2380 hc hvm (by rw [hcl]; exact (hK.2 1 _ rfl).2)
    · exact c_anyW hO hD q2376 hc hvm (by rw [hcl]; exact (hK.2 2 _ rfl).2)
    · obtain ⟨kA, comp, k1, k2, k3, k4⟩ := (hK.2 3 _ rfl).2
      exact c_anyW hO hD q2377 hc hvm (by rw [hcl]; exact k4)
    · exact c_anyW hO hD q2379 hc hvm (by rw [hcl]; exact (hK.2 4 _ rfl).2)
    · obtain ⟨kA, comp, k1, k2, k3, k4⟩ := (hK.2 5 _ rfl).2
      exact c_anyW hO hD q2378 hc hvm (by rw [hcl]; exact k4)
  · cases hk
theorem c_aastO (X : cCtx p s m args c cc nL own γ) (hI : NI γ A sz s h H locs) {a v : Nat} {i : Int32} (hk : okO h v = true) (hr : sQ h a 3 i (some v) = some h') (hdg : decode cc pc = .ok (.aastore, 1))
    (kk : ∀ (H : Heap) (locs : List Loc), NI γ A sz s h' H locs → W p l e R s m args below meth c H locs cells slots Q (F0 m (pc + 1) ls rest)) : W p l e R s m args below meth c H locs cells slots Q (F0 m pc ls (.ref v :: .int i :: .ref a :: rest)) :=
  c_aast X hI 3 (fun _ => rfl) (c_any X.2.1 X.2.2 hI.1 hk) hr hdg kk
/-! arrays, made -/
theorem a_newI (X : cCtx p s m args c cc nL own γ) (hA : AI γ σ0 s R h r H locs cells slots) {n : Int32} {q : CS} (hr : aArr h r 0 n = some q) (hdg : decode cc pc = .ok (.newarray .int, 2))
    (kk : ∀ (H : Heap) (cells slots : Nat), AI γ σ0 s R q.1 q.2 H locs cells slots → W p l e R s m args below meth c H locs cells slots Q (F0 m (pc + 2) ls (.ref r.1 :: rest))) : W p l e R s m args below meth c H locs cells slots Q (F0 m pc ls (.int n :: rest)) := by
  obtain ⟨⟨hx, hb, hml, hown, hts⟩, hO, hD⟩ := X
  obtain ⟨hn, hn2, hr⟩ := aArr_inv hr
  obtain ⟨h1, h2, -⟩ := aCell_inv hr
  have e1 := hA.2.1
  have e2 := hA.2.2
  have hz : H.size = r.1 := hA.1.2.2.1
  refine va_newaK hx hb (atype := .int) (hts _ q208) rfl hdg rfl hn rfl (by show _ * 4 ≤ _; omega) (by omega) (by omega) rfl fun H1 cA e1 z1 o1 hAr hNm => ?_
  have hcA : cA = γ.2.1 0 := Option.some.inj (hNm.symm.trans (((hD.K hO).2 0 _ rfl).2))
  subst hcA
  have hk := kk H1 (cells + 1) (slots + n.toNatClampNeg) (hA.new hO hD hr (by show H1[r.1]? = _; rw [← hz]; exact e1) z1 o1)
  rw [← hz] at hk
  exact hk
theorem a_newB (X : cCtx p s m args c cc nL own γ) (hA : AI γ σ0 s R h r H locs cells slots) {n : Int32} {q : CS} (hr : aArr h r 2 n = some q) (hdg : decode cc pc = .ok (.newarray .byte, 2))
    (kk : ∀ (H : Heap) (cells slots : Nat), AI γ σ0 s R q.1 q.2 H locs cells slots → W p l e R s m args below meth c H locs cells slots Q (F0 m (pc + 2) ls (.ref r.1 :: rest))) : W p l e R s m args below meth c H locs cells slots Q (F0 m pc ls (.int n :: rest)) := by
  obtain ⟨⟨hx, hb, hml, hown, hts⟩, hO, hD⟩ := X
  obtain ⟨hn, hn2, hr⟩ := aArr_inv hr
  obtain ⟨h1, h2, -⟩ := aCell_inv hr
  have e1 := hA.2.1
  have e2 := hA.2.2
  have hz : H.size = r.1 := hA.1.2.2.1
  refine va_newaK hx hb (atype := .byte) (hts _ q320) rfl hdg rfl hn rfl (by show _ * 1 ≤ _; omega) (by omega) (by omega) rfl fun H1 cA e1 z1 o1 hAr hNm => ?_
  have hcA : cA = γ.2.1 2 := Option.some.inj (hNm.symm.trans (((hD.K hO).2 2 _ rfl).2))
  subst hcA
  have hk := kk H1 (cells + 1) (slots + n.toNatClampNeg) (hA.new hO hD hr (by show H1[r.1]? = _; rw [← hz]; exact e1) z1 o1)
  rw [← hz] at hk
  exact hk
theorem a_anew (X : cCtx p s m args c cc nL own γ) (hA : AI γ σ0 s R h r H locs cells slots) (t : Nat) {E : String} (ht : ∀ dT, (kTY dT)[t]? = some (dT t, .object E)) (hcl : Cond.classLink own index E ∈ lw_all) (hov : Cond.arrayOver (.object E) ∈ lw_tbl) {n : Int32} {q : CS} (hr : aArrQ h r t n = some q) (hdg : decode cc pc = .ok (.anewarray index, 3))
    (kk : ∀ (H : Heap) (cells slots : Nat), AI γ σ0 s R q.1 q.2 H locs cells slots → W p l e R s m args below meth c H locs cells slots Q (F0 m (pc + 3) ls (.ref r.1 :: rest))) : W p l e R s m args below meth c H locs cells slots Q (F0 m pc ls (.int n :: rest)) := by
  obtain ⟨⟨hx, hb, hml, hown, hts⟩, hO, hD⟩ := X
  obtain ⟨hn, hn2, hr⟩ := aArrQ_inv hr
  obtain ⟨h1, h2, -⟩ := aCell_inv hr
  have e1 := hA.2.1
  have e2 := hA.2.2
  have hz : H.size = r.1 := hA.1.2.2.1
  have hAO : va_AO E s := va_AO.moved hD.1.alike (by have h0 := hO.2.1 _ hov; simpa [va_AO, Cond.before, Cond.holds, Cond.value] using h0)
  refine W.anew hx hb hown (hts _ hcl) (va_AO.use hAO) rfl hdg rfl hn (by omega) (by omega) (by omega) fun cA kA comp f1 f2 f3 f4 => ?_
  obtain ⟨kA', comp', k1, k2, k3, k4⟩ := ((hD.K hO).2 t _ (ht _)).2
  have hcA : cA = γ.2.1 t := Option.some.inj (f1.symm.trans k4)
  subst hcA
  generalize hH1 : H.push ({ cls := γ.2.1 t, slots := Array.replicate n.toNatClampNeg .null, vm := .none } : Cell) = H1
  have z1 : H1.size = H.size + 1 := by rw [← hH1, Array.size_push]
  have e1 : H1[H.size]? = some (arrV (γ.2.1 t) n.toNatClampNeg (fun _ => .null)) := by rw [← hH1, Array.getElem?_push_size, ← arrV_new]
  have o1 : ∀ q : Nat, q < H.size → H1[q]? = H[q]? := fun q hq => by rw [← hH1, Array.getElem?_push, if_neg (Nat.ne_of_lt hq)]
  have hk := kk H1 (cells + 1) (slots + n.toNatClampNeg) (hA.new hO hD hr (by show H1[r.1]? = _; rw [← hz]; exact e1) z1 o1)
  rw [← hz] at hk
  exact hk
end ROWS45
