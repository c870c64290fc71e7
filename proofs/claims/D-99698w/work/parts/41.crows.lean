/-! ===== rows over the component's cells ===== -/
def kCls (ci : Nat) (C : String) (T : u_T) (N : Nat) (ty : Nat → FieldType) : Prop := kCL[ci]? = some (C, T, N) ∧ (∀ w ∈ u_ws C T N, w ∈ lw_all) ∧ (∀ k, k < N → parseFieldDescriptor (T k).2.2.1 = some (ty k)) ∧ (∀ a, a < N → ∀ b, b < N → a ≠ b → (T a).2.1 ≠ (T b).2.1)
theorem kc_TwinInk : kCls 1 RX1 TX1 14 tyX1 := ⟨rfl, in_X1, tyX1_ok, nmX1⟩
theorem kc_Office : kCls 2 RX2 TX2 6 tyX2 := ⟨rfl, in_X2, tyX2_ok, nmX2⟩
theorem kc_Service : kCls 3 RX3 TX3 6 tyX3 := ⟨rfl, in_X3, tyX3_ok, nmX3⟩
theorem kc_Reader : kCls 4 RX5 TX5 14 tyX5 := ⟨rfl, in_X5, tyX5_ok, nmX5⟩
theorem kc_Wrong : kCls 5 RX6 TX6 7 tyX6 := ⟨rfl, in_X6, tyX6_ok, nmX6⟩
theorem kc_Chain : kCls 6 RX7 TX7 2 tyX7 := ⟨rfl, in_X7, tyX7_ok, nmX7⟩
theorem kc_Number : kCls 7 RX8 TX8 1 tyX8 := ⟨rfl, in_X8, tyX8_ok, nmX8⟩
theorem kc_Value : kCls 8 RX9 TX9 1 tyX9 := ⟨rfl, in_X9, tyX9_ok, nmX9⟩
theorem kc_Not : kCls 9 RX10 TX10 1 tyX10 := ⟨rfl, in_X10, tyX10_ok, nmX10⟩
theorem kc_ArrayList : kCls 10 RJ2 TJ2 3 tyJ2 := ⟨rfl, in_J2, tyJ2_ok, nmJ2⟩
theorem kc_StringBuilder : kCls 11 RJ14 TJ14 4 tyJ14 := ⟨rfl, in_J14, tyJ14_ok, nmJ14⟩
theorem kc_Integer : kCls 12 RJ19 TJ19 1 tyJ19 := ⟨rfl, in_J19, tyJ19_ok, nmJ19⟩
abbrev cCtx (p : Program) (s : State) (m : MethodId) (args : Array Value) (c : Code) (cc : ByteArray) (nL : Nat) (own : String) (γ : KG) : Prop := CallFix p m c cc nL s args lw_all own ∧ kOK γ ∧ kD γ s
theorem va_rf_some (a : Nat) : va_rf (some a) = .ref a := rfl
section CROWS
variable {p : Program} {l : Launch} {e : Env} {R : Room} {s : State} {m : MethodId} {args : Array Value} {below : List Frame} {meth : Method} {c : Code} {H : Heap} {locs : List Loc} {cells slots : Nat} {Q : State → Prop}
variable {nL pc : Nat} {ls : Array Slot} {rest : List Value} {γ : KG} {h h' h0 : CH} {cc : ByteArray} {index : Nat} {own : String} {ci N : Nat} {C : String} {T : u_T} {ty : Nat → FieldType} {A : Nat → Prop} {sz : Nat}
theorem c_nestF {own a n d host : String} {i : Nat} (hO : kOK γ) (hD : kD γ s) (h : Cond.fieldLinkNest own i a n d host ∈ lw_tbl) : (Cond.fieldLinkNest own i a n d host).before args s = true :=
  va_Nw.use rfl (va_Nw.warmF (s := γ.2.2.1) (U := s) hD.1 (va_Nw.of rfl (hO.2.1 _ h)))
theorem c_nestM {own host : String} {i : Nat} {x : MethodName} (hO : kOK γ) (hD : kD γ s) (h : Cond.methodLinkNest own i x host ∈ lw_tbl) : va_Nw (.methodLinkNest own i x host) s :=
  va_Nw.warmM (s := γ.2.2.1) (U := s) hD.1 (va_Nw.of rfl (hO.2.1 _ h))
theorem c_face {C : String} {x y : MethodName} (hx : x.cls ≠ "java/lang/invoke/MethodHandle" ∧ x.cls ≠ "java/lang/invoke/VarHandle") (hO : kOK γ) (hD : kD γ s) (h1 : Cond.declares x ∈ lw_tbl) (h2 : Cond.interfaceMethod x.cls x.cls x.name x.desc ∈ lw_tbl) (h3 : Cond.publicMethod y ∈ lw_tbl) (h4 : Cond.unhidden C x.name x.desc ∈ lw_tbl) (h5 : Cond.castable C x.cls ∈ lw_tbl) : va_Fw C x y s :=
  va_Fw.moved (u := γ.2.2.1) hx hD.1.alike (va_Fw.of (hO.2.1 _ h1) (hO.2.1 _ h2) (hO.2.1 _ h3) (hO.2.1 _ h4) (hO.2.1 _ h5))
theorem c_same {rf O f d : String} (hts : ∀ w ∈ lw_all, w.before args s = true) (hs : rf = O ∨ Cond.sameField rf O f d ∈ lw_all) (x : ClassId × Class × Nat × Field) (h : s.fieldFound? O f d = some x) : s.fieldFound? rf f d = some x := by
  rcases hs with rfl | hs
  · exact h
  · exact u_same (hts _ hs) x h
/-- a field, read: its own class's or a nest mate's -/
theorem c_get (X : cCtx p s m args c cc nL own γ) (hH : HR γ h H) (hC : kCls ci C T N ty) (k : Nat) {rf O f d : String} (hlink : Cond.fieldLink own index rf f d ∈ lw_all) (hs : rf = O ∨ Cond.sameField rf O f d ∈ lw_all) (hT : T k = (O, f, d, (T k).2.2.2)) (hk : Nat.blt k N = true) {a : Nat} {fs : List Value} {v : Value} (he : h a = some (.inr (ci, fs))) (hv : fs[k]? = some v) (hdg : decode cc pc = .ok (.getfield index, 3))
    (kk : W p l e R s m args below meth c H locs cells slots Q (F0 m (pc + 3) ls (v :: rest))) : W p l e R s m args below meth c H locs cells slots Q (F0 m pc ls (.ref a :: rest)) := by
  obtain ⟨⟨hx, hb, hml, hown, hts⟩, hO, hD⟩ := X
  exact va_get (own := own) (ref := rf) (C := C) (T := T) (N := N) (ci := ci) hx hb hts hC.2.1 hown (hD.K hO) (hH.at he) 0 rfl hC.1 k (Nat.blt_eq.mp hk) (by rw [hT]; exact hts _ hlink) (fun x h => by rw [hT] at h ⊢; exact c_same hts hs x h) hv hdg kk
theorem c_getN (X : cCtx p s m args c cc nL own γ) (hH : HR γ h H) (hC : kCls ci C T N ty) (k : Nat) {rf O f d host : String} (hlink : Cond.fieldLinkNest own index rf f d host ∈ lw_tbl) (hs : rf = O ∨ Cond.sameField rf O f d ∈ lw_all) (hT : T k = (O, f, d, (T k).2.2.2)) (hk : Nat.blt k N = true) {a : Nat} {fs : List Value} {v : Value} (he : h a = some (.inr (ci, fs))) (hv : fs[k]? = some v) (hdg : decode cc pc = .ok (.getfield index, 3))
    (kk : W p l e R s m args below meth c H locs cells slots Q (F0 m (pc + 3) ls (v :: rest))) : W p l e R s m args below meth c H locs cells slots Q (F0 m pc ls (.ref a :: rest)) := by
  obtain ⟨⟨hx, hb, hml, hown, hts⟩, hO, hD⟩ := X
  exact va_getN (own := own) (ref := rf) (C := C) (T := T) (N := N) (ci := ci) hx hb hts hC.2.1 hown (hD.K hO) (hH.at he) 0 rfl hC.1 k (Nat.blt_eq.mp hk) (by rw [hT]; exact c_nestF hO hD hlink) (fun x h => by rw [hT] at h ⊢; exact c_same hts hs x h) hv hdg kk
theorem c_getI (X : cCtx p s m args c cc nL own γ) (hH : HR γ h H) (hC : kCls ci C T N ty) (k : Nat) {rf O f d : String} (hlink : Cond.fieldLink own index rf f d ∈ lw_all) (hs : rf = O ∨ Cond.sameField rf O f d ∈ lw_all) (hT : T k = (O, f, d, (T k).2.2.2)) (hk : Nat.blt k N = true) {a : Nat} {v : Int32} (hr : gI h a ci k = some v) (hdg : decode cc pc = .ok (.getfield index, 3))
    (kk : W p l e R s m args below meth c H locs cells slots Q (F0 m (pc + 3) ls (.int v :: rest))) : W p l e R s m args below meth c H locs cells slots Q (F0 m pc ls (.ref a :: rest)) := by
  obtain ⟨fs, h1, h2⟩ := gI_inv hr
  exact c_get X hH hC k hlink hs hT hk h1 h2 hdg kk
theorem c_getR (X : cCtx p s m args c cc nL own γ) (hH : HR γ h H) (hC : kCls ci C T N ty) (k : Nat) {rf O f d : String} (hlink : Cond.fieldLink own index rf f d ∈ lw_all) (hs : rf = O ∨ Cond.sameField rf O f d ∈ lw_all) (hT : T k = (O, f, d, (T k).2.2.2)) (hk : Nat.blt k N = true) {a v : Nat} (hr : gR h a ci k = some v) (hdg : decode cc pc = .ok (.getfield index, 3))
    (kk : W p l e R s m args below meth c H locs cells slots Q (F0 m (pc + 3) ls (.ref v :: rest))) : W p l e R s m args below meth c H locs cells slots Q (F0 m pc ls (.ref a :: rest)) := by
  obtain ⟨fs, h1, h2⟩ := gR_inv hr
  exact c_get X hH hC k hlink hs hT hk h1 h2 hdg kk
theorem c_getQ (X : cCtx p s m args c cc nL own γ) (hH : HR γ h H) (hC : kCls ci C T N ty) (k : Nat) {rf O f d : String} (hlink : Cond.fieldLink own index rf f d ∈ lw_all) (hs : rf = O ∨ Cond.sameField rf O f d ∈ lw_all) (hT : T k = (O, f, d, (T k).2.2.2)) (hk : Nat.blt k N = true) {a : Nat} {v : Option Nat} (hr : gQ h a ci k = some v) (hdg : decode cc pc = .ok (.getfield index, 3))
    (kk : W p l e R s m args below meth c H locs cells slots Q (F0 m (pc + 3) ls (va_rf v :: rest))) : W p l e R s m args below meth c H locs cells slots Q (F0 m pc ls (.ref a :: rest)) := by
  obtain ⟨fs, h1, h2⟩ := gQ_inv hr
  exact c_get X hH hC k hlink hs hT hk h1 h2 hdg kk
theorem c_getNI (X : cCtx p s m args c cc nL own γ) (hH : HR γ h H) (hC : kCls ci C T N ty) (k : Nat) {rf O f d host : String} (hlink : Cond.fieldLinkNest own index rf f d host ∈ lw_tbl) (hs : rf = O ∨ Cond.sameField rf O f d ∈ lw_all) (hT : T k = (O, f, d, (T k).2.2.2)) (hk : Nat.blt k N = true) {a : Nat} {v : Int32} (hr : gI h a ci k = some v) (hdg : decode cc pc = .ok (.getfield index, 3))
    (kk : W p l e R s m args below meth c H locs cells slots Q (F0 m (pc + 3) ls (.int v :: rest))) : W p l e R s m args below meth c H locs cells slots Q (F0 m pc ls (.ref a :: rest)) := by
  obtain ⟨fs, h1, h2⟩ := gI_inv hr
  exact c_getN X hH hC k hlink hs hT hk h1 h2 hdg kk
theorem c_getNR (X : cCtx p s m args c cc nL own γ) (hH : HR γ h H) (hC : kCls ci C T N ty) (k : Nat) {rf O f d host : String} (hlink : Cond.fieldLinkNest own index rf f d host ∈ lw_tbl) (hs : rf = O ∨ Cond.sameField rf O f d ∈ lw_all) (hT : T k = (O, f, d, (T k).2.2.2)) (hk : Nat.blt k N = true) {a v : Nat} (hr : gR h a ci k = some v) (hdg : decode cc pc = .ok (.getfield index, 3))
    (kk : W p l e R s m args below meth c H locs cells slots Q (F0 m (pc + 3) ls (.ref v :: rest))) : W p l e R s m args below meth c H locs cells slots Q (F0 m pc ls (.ref a :: rest)) := by
  obtain ⟨fs, h1, h2⟩ := gR_inv hr
  exact c_getN X hH hC k hlink hs hT hk h1 h2 hdg kk
theorem c_getNQ (X : cCtx p s m args c cc nL own γ) (hH : HR γ h H) (hC : kCls ci C T N ty) (k : Nat) {rf O f d host : String} (hlink : Cond.fieldLinkNest own index rf f d host ∈ lw_tbl) (hs : rf = O ∨ Cond.sameField rf O f d ∈ lw_all) (hT : T k = (O, f, d, (T k).2.2.2)) (hk : Nat.blt k N = true) {a : Nat} {v : Option Nat} (hr : gQ h a ci k = some v) (hdg : decode cc pc = .ok (.getfield index, 3))
    (kk : W p l e R s m args below meth c H locs cells slots Q (F0 m (pc + 3) ls (va_rf v :: rest))) : W p l e R s m args below meth c H locs cells slots Q (F0 m pc ls (.ref a :: rest)) := by
  obtain ⟨fs, h1, h2⟩ := gQ_inv hr
  exact c_getN X hH hC k hlink hs hT hk h1 h2 hdg kk
/-- an array's element, its length -/
theorem c_iald (X : cCtx p s m args c cc nL own γ) (hH : HR γ h H) {a : Nat} {i v : Int32} (hr : aI h a 0 i = some v) (hdg : decode cc pc = .ok (.iaload, 1))
    (kk : W p l e R s m args below meth c H locs cells slots Q (F0 m (pc + 1) ls (.int v :: rest))) : W p l e R s m args below meth c H locs cells slots Q (F0 m pc ls (.int i :: .ref a :: rest)) := by
  obtain ⟨⟨hx, hb, hml, hown, hts⟩, hO, hD⟩ := X
  obtain ⟨n, f, h1, h2, rfl⟩ := aI_inv hr
  exact va_iald hx hb (hD.K hO) (hH.at h1) 0 0 rfl rfl h2 hdg kk
theorem c_bald (X : cCtx p s m args c cc nL own γ) (hH : HR γ h H) {a : Nat} {i v : Int32} (hr : aI h a 2 i = some v) (hdg : decode cc pc = .ok (.baload, 1))
    (kk : W p l e R s m args below meth c H locs cells slots Q (F0 m (pc + 1) ls (.int v :: rest))) : W p l e R s m args below meth c H locs cells slots Q (F0 m pc ls (.int i :: .ref a :: rest)) := by
  obtain ⟨⟨hx, hb, hml, hown, hts⟩, hO, hD⟩ := X
  obtain ⟨n, f, h1, h2, rfl⟩ := aI_inv hr
  exact va_bald hx hb (hD.K hO) (hH.at h1) 0 2 rfl rfl h2 hdg kk
theorem c_aald (X : cCtx p s m args c cc nL own γ) (hH : HR γ h H) (t : Nat) {tyq : FieldType} (ht : ∀ dT, (kTY dT)[t]? = some (dT t, tyq)) (hty : tyq.isReference = true) {a : Nat} {i : Int32} {v : Option Nat} (hr : aQ h a t i = some v) (hdg : decode cc pc = .ok (.aaload, 1))
    (kk : W p l e R s m args below meth c H locs cells slots Q (F0 m (pc + 1) ls (va_rf v :: rest))) : W p l e R s m args below meth c H locs cells slots Q (F0 m pc ls (.int i :: .ref a :: rest)) := by
  obtain ⟨⟨hx, hb, hml, hown, hts⟩, hO, hD⟩ := X
  obtain ⟨n, f, h1, h2, rfl⟩ := aQ_inv hr
  have hlt : i.toNatClampNeg < n := Nat.not_le.mp fun q => h2 (Or.inr q)
  have hK := hD.K hO
  refine W.aald (v := va_rf (f i.toNatClampNeg)) hx hb (hH.at h1 0 _ rfl) ((hK.2 t _ (ht _)).1 n (fun j => va_rf (f j))) hty (fun q => by cases q) ?_ ?_ rfl rfl hdg kk
  · show ¬ (i < 0 ∨ (arrV _ _ _).slots.size ≤ _); rw [arrV_size]; exact h2
  · show (arrV _ _ _).slots[_]? = _; rw [arrV_read _ _ hlt]
theorem c_alen (X : cCtx p s m args c cc nL own γ) (hH : HR γ h H) (t : Nat) {tyq : FieldType} (ht : ∀ dT, (kTY dT)[t]? = some (dT t, tyq)) {a : Nat} {v : Int32} (hr : aN h a t = some v) (hdg : decode cc pc = .ok (.arraylength, 1))
    (kk : W p l e R s m args below meth c H locs cells slots Q (F0 m (pc + 1) ls (.int v :: rest))) : W p l e R s m args below meth c H locs cells slots Q (F0 m pc ls (.ref a :: rest)) := by
  obtain ⟨⟨hx, hb, hml, hown, hts⟩, hO, hD⟩ := X
  obtain ⟨n, x, h1, h2⟩ := aN_inv hr
  exact va_alen hx hb (hD.K hO) (hH.at h1) 0 t rfl (ht _) (x := (n, x)) h2 hdg kk
/-- what isn't null -/
theorem c_deref {r : Option Nat} {a : Nat} (hr : r = some a) (kk : W p l e R s m args below meth c H locs cells slots Q (F0 m pc ls (.ref a :: rest))) : W p l e R s m args below meth c H locs cells slots Q (F0 m pc ls (va_rf r :: rest)) := by
  subst hr
  exact kk
/-! writing -/
theorem NI.put {H1 : Heap} {a j : Nat} {x x0 : CE} (hI : NI γ A sz s h H locs) (he : h a = some x0) (ha : va_at γ.1 kCL (a, ceE γ.2.1 x) H1) (z : H1.size = H.size) (oq : ∀ q : Nat, q ≠ a → H1[q]? = H[q]?) : NI γ A sz s (hup h a x) H1 (locs ++ [⟨a, j⟩]) := by
  obtain ⟨hH, hS, hz, hd⟩ := hI
  refine ⟨hH.up (hH a x0 he).2 ha (fun q hq _ => oq q hq), hS.put z oq (hd a (by rw [he]; rfl)), z.trans hz, fun q hq => ?_⟩
  by_cases hqa : q = a
  · subst hqa
    exact hd q (by rw [he]; rfl)
  · rw [hup_n hqa] at hq
    exact hd q hq
theorem c_putW (X : cCtx p s m args c cc nL own γ) (hI : NI γ A sz s h H locs) (hC : kCls ci C T N ty) (k : Nat) {rf O f d : String} (hlink : Cond.fieldLink own index rf f d ∈ lw_all) (hs : rf = O ∨ Cond.sameField rf O f d ∈ lw_all) (hT : T k = (O, f, d, false)) (hk : Nat.blt k N = true) {a : Nat} {fs : List Value} {tyv : FieldType} {v : Value} (hd : parseFieldDescriptor d = some tyv) (hn : narrow tyv v = v) (hfit : fits tyv v = true) (he : h a = some (.inr (ci, fs))) (hl : k < fs.length) (hdg : decode cc pc = .ok (.putfield index, 3))
    (kk : ∀ (H : Heap) (locs : List Loc), NI γ A sz s (hup h a (.inr (ci, fs.set k v))) H locs → W p l e R s m args below meth c H locs cells slots Q (F0 m (pc + 3) ls rest)) : W p l e R s m args below meth c H locs cells slots Q (F0 m pc ls (v :: .ref a :: rest)) := by
  obtain ⟨⟨hx, hb, hml, hown, hts⟩, hO, hD⟩ := X
  have hK := hD.K hO
  have hk := Nat.blt_eq.mp hk
  have hap := va_apart (own := own) hts hC.2.1 ty hC.2.2.1 hC.2.2.2 hK hC.1
  obtain ⟨r, h1, cell, q1, q2, q3, q4⟩ := (hI.1 a _ he).1
  have hr : r = (C, T, N) := Option.some.inj (h1.symm.trans hC.1)
  subst hr
  obtain ⟨hS, hfc, kC, hkC, hkind⟩ := hK.1 ci _ hC.1
  obtain ⟨cf, kf, fi, fd, hi, hsl⟩ := hS k hk
  have hlay := hts _ (hC.2.1 _ (u_in_lay hk))
  unfold u_lay at hlay
  rw [if_neg (by rw [hT]; exact Bool.false_ne_true)] at hlay
  have hst := (u_facts hfc hkC (u_lays hts hC.2.1 hk) hi).1
  have h6 := u_store hfc hkC hkind hlay hi (by rw [hT]; exact hd) hn hfit
  have hi' : s.fieldFound? rf f d = some (cf, kf, fi, fd) := by
    have hi2 : s.fieldFound? (T k).1 (T k).2.1 (T k).2.2.1 = some (cf, kf, fi, fd) := hi
    rw [hT] at hi2
    exact c_same hts hs _ hi2
  refine W.putK hx hb (f := fd) ⟨hown, hts _ hlink, ⟨_, _, _, hi'⟩, hst⟩ (by rw [q2]; exact h6) q1 q3 (by rw [hsl]; exact k2_hasslot (q4 k hk)) rfl rfl hdg fun H' e1 e2 e3 => ?_
  rw [hsl] at e1
  exact kk H' _ (hI.put he ⟨_, hC.1, t_OB.to (V := updV (vp_V fs) k v) ⟨_, e1, q2, q3, t_set q4 hap hk v⟩ (fun j _ => vp_updV_set hl v j)⟩ e2 e3)
theorem c_putWN (X : cCtx p s m args c cc nL own γ) (hI : NI γ A sz s h H locs) (hC : kCls ci C T N ty) (k : Nat) {rf O f d host : String} (hlink : Cond.fieldLinkNest own index rf f d host ∈ lw_tbl) (hs : rf = O ∨ Cond.sameField rf O f d ∈ lw_all) (hT : T k = (O, f, d, false)) (hk : Nat.blt k N = true) {a : Nat} {fs : List Value} {tyv : FieldType} {v : Value} (hd : parseFieldDescriptor d = some tyv) (hn : narrow tyv v = v) (hfit : fits tyv v = true) (he : h a = some (.inr (ci, fs))) (hl : k < fs.length) (hdg : decode cc pc = .ok (.putfield index, 3))
    (kk : ∀ (H : Heap) (locs : List Loc), NI γ A sz s (hup h a (.inr (ci, fs.set k v))) H locs → W p l e R s m args below meth c H locs cells slots Q (F0 m (pc + 3) ls rest)) : W p l e R s m args below meth c H locs cells slots Q (F0 m pc ls (v :: .ref a :: rest)) := by
  obtain ⟨⟨hx, hb, hml, hown, hts⟩, hO, hD⟩ := X
  have hK := hD.K hO
  have hk := Nat.blt_eq.mp hk
  have hap := va_apart (own := own) hts hC.2.1 ty hC.2.2.1 hC.2.2.2 hK hC.1
  obtain ⟨r, h1, cell, q1, q2, q3, q4⟩ := (hI.1 a _ he).1
  have hr : r = (C, T, N) := Option.some.inj (h1.symm.trans hC.1)
  subst hr
  obtain ⟨hS, hfc, kC, hkC, hkind⟩ := hK.1 ci _ hC.1
  obtain ⟨cf, kf, fi, fd, hi, hsl⟩ := hS k hk
  have hlay := hts _ (hC.2.1 _ (u_in_lay hk))
  unfold u_lay at hlay
  rw [if_neg (by rw [hT]; exact Bool.false_ne_true)] at hlay
  have hst := (u_facts hfc hkC (u_lays hts hC.2.1 hk) hi).1
  have h6 := u_store hfc hkC hkind hlay hi (by rw [hT]; exact hd) hn hfit
  have hi' : s.fieldFound? rf f d = some (cf, kf, fi, fd) := by
    have hi2 : s.fieldFound? (T k).1 (T k).2.1 (T k).2.2.1 = some (cf, kf, fi, fd) := hi
    rw [hT] at hi2
    exact c_same hts hs _ hi2
  refine va_WputK hx hb (f := fd) hown (c_nestF hO hD hlink) hi' hst (by rw [q2]; exact h6) q1 q3 (by rw [hsl]; exact k2_hasslot (q4 k hk)) rfl rfl hdg fun H' e1 e2 e3 => ?_
  rw [hsl] at e1
  exact kk H' _ (hI.put he ⟨_, hC.1, t_OB.to (V := updV (vp_V fs) k v) ⟨_, e1, q2, q3, t_set q4 hap hk v⟩ (fun j _ => vp_updV_set hl v j)⟩ e2 e3)
theorem c_putI (X : cCtx p s m args c cc nL own γ) (hI : NI γ A sz s h H locs) (hC : kCls ci C T N ty) (k : Nat) {rf O f d : String} (hlink : Cond.fieldLink own index rf f d ∈ lw_all) (hs : rf = O ∨ Cond.sameField rf O f d ∈ lw_all) (hT : T k = (O, f, d, false)) (hk : Nat.blt k N = true) {a : Nat} {tyv : FieldType} {v : Int32} (hd : parseFieldDescriptor d = some tyv) (hn : narrow tyv (.int v) = .int v) (hfit : fits tyv (.int v) = true) (hr : pI h a ci k v = some h') (hdg : decode cc pc = .ok (.putfield index, 3))
    (kk : ∀ (H : Heap) (locs : List Loc), NI γ A sz s h' H locs → W p l e R s m args below meth c H locs cells slots Q (F0 m (pc + 3) ls rest)) : W p l e R s m args below meth c H locs cells slots Q (F0 m pc ls (.int v :: .ref a :: rest)) := by
  obtain ⟨fs, h1, h2, rfl⟩ := pI_inv hr
  exact c_putW X hI hC k hlink hs hT hk hd hn hfit h1 h2 hdg kk
theorem c_putNI (X : cCtx p s m args c cc nL own γ) (hI : NI γ A sz s h H locs) (hC : kCls ci C T N ty) (k : Nat) {rf O f d host : String} (hlink : Cond.fieldLinkNest own index rf f d host ∈ lw_tbl) (hs : rf = O ∨ Cond.sameField rf O f d ∈ lw_all) (hT : T k = (O, f, d, false)) (hk : Nat.blt k N = true) {a : Nat} {tyv : FieldType} {v : Int32} (hd : parseFieldDescriptor d = some tyv) (hn : narrow tyv (.int v) = .int v) (hfit : fits tyv (.int v) = true) (hr : pI h a ci k v = some h') (hdg : decode cc pc = .ok (.putfield index, 3))
    (kk : ∀ (H : Heap) (locs : List Loc), NI γ A sz s h' H locs → W p l e R s m args below meth c H locs cells slots Q (F0 m (pc + 3) ls rest)) : W p l e R s m args below meth c H locs cells slots Q (F0 m pc ls (.int v :: .ref a :: rest)) := by
  obtain ⟨fs, h1, h2, rfl⟩ := pI_inv hr
  exact c_putWN X hI hC k hlink hs hT hk hd hn hfit h1 h2 hdg kk
theorem c_iast (X : cCtx p s m args c cc nL own γ) (hI : NI γ A sz s h H locs) {a : Nat} {i v : Int32} (hr : sI h a 0 i v = some h') (hdg : decode cc pc = .ok (.iastore, 1))
    (kk : ∀ (H : Heap) (locs : List Loc), NI γ A sz s h' H locs → W p l e R s m args below meth c H locs cells slots Q (F0 m (pc + 1) ls rest)) : W p l e R s m args below meth c H locs cells slots Q (F0 m pc ls (.int v :: .int i :: .ref a :: rest)) := by
  obtain ⟨⟨hx, hb, hml, hown, hts⟩, hO, hD⟩ := X
  obtain ⟨n, f, h1, h2, rfl⟩ := sI_inv hr
  have hK := hD.K hO
  refine W.iast hx hb (hI.1.at h1 0 _ rfl) ((hK.2 0 _ rfl).1 n (fun j => .int (f j))) (fun q => by cases q) (by show ¬ (i < 0 ∨ (arrV _ _ _).slots.size ≤ _); rw [arrV_size]; exact h2) rfl rfl hdg fun H1 e1 z oq => ?_
  refine kk H1 _ (hI.put h1 ?_ z oq)
  show H1[a]? = some (vp_cell (γ.2.1 0) (n, .inl (upd f i.toNatClampNeg v)))
  have e2 : H1[a]? = some ((vp_cell (γ.2.1 0) (n, .inl f)).setSlot i.toNatClampNeg (Value.int v)) := e1
  rw [e2, vp_cell_i, vp_cell_i, arrV_store]
  congr 2
  funext q
  by_cases hq : q = i.toNatClampNeg
  · subst hq
    simp [updV, upd]
  · simp [updV, upd, hq]
/-- a static of the start, later in the run -/
theorem c_Z {C n d : String} {v : Value} (hD : kD γ s) (hA : ∀ q, A q → γ.2.2.2.2.1 q) (hZ : va_Z C n d v γ.2.2.2.2.1 γ.2.2.1 γ.2.2.1.heap) : va_Z C n d v A s s.heap :=
  ((hZ.kept hD.2.2).moved hD.1.alike).narrow hA
theorem c_Zq {C n d : String} (hD : kD γ s) (hA : ∀ q, A q → γ.2.2.2.2.1 q) (hZ : va_Zq C n d γ.2.2.2.2.1 γ.2.2.1 γ.2.2.1.heap) : ∃ r : Option Nat, va_Z C n d (va_rf r) A s s.heap := by
  rcases hZ with h | ⟨t, h⟩
  · exact ⟨none, c_Z hD hA h⟩
  · exact ⟨some t, c_Z hD hA h⟩
theorem c_gets {C n d : String} {v : Value} (X : cCtx p s m args c cc nL own γ) (hA : ∀ q, A q → γ.2.2.2.2.1 q) (hS : va_S A s.heap H locs) (hZ : va_Z C n d v γ.2.2.2.2.1 γ.2.2.1 γ.2.2.1.heap) (hlink : Cond.fieldLink own index C n d ∈ lw_all) (hdg : decode cc pc = .ok (.getstatic index, 3))
    (kk : W p l e R s m args below meth c H locs cells slots Q (F0 m (pc + 3) ls (v :: rest))) : W p l e R s m args below meth c H locs cells slots Q (F0 m pc ls rest) := by
  obtain ⟨⟨hx, hb, hml, hown, hts⟩, hO, hD⟩ := X
  exact va_gets hx hb (c_Z hD hA hZ) hS hown (hts _ hlink) (fun x h => h) hdg kk
theorem c_getsq {C n d : String} (X : cCtx p s m args c cc nL own γ) (hA : ∀ q, A q → γ.2.2.2.2.1 q) (hS : va_S A s.heap H locs) (hZ : va_Zq C n d γ.2.2.2.2.1 γ.2.2.1 γ.2.2.1.heap) (hlink : Cond.fieldLink own index C n d ∈ lw_all) (hdg : decode cc pc = .ok (.getstatic index, 3))
    (kk : ∀ r : Option Nat, W p l e R s m args below meth c H locs cells slots Q (F0 m (pc + 3) ls (va_rf r :: rest))) : W p l e R s m args below meth c H locs cells slots Q (F0 m pc ls rest) := by
  obtain ⟨⟨hx, hb, hml, hown, hts⟩, hO, hD⟩ := X
  obtain ⟨r, hr⟩ := c_Zq hD hA hZ
  exact va_gets hx hb hr hS hown (hts _ hlink) (fun x h => h) hdg (kk r)
theorem c_AF (h0H : HR γ h0 s.heap) : ∀ q, kdm h0 q → γ.2.2.2.2.1 q := by
  intro q hq
  obtain ⟨e, he⟩ := Option.isSome_iff_exists.mp hq
  exact (h0H q e he).2
end CROWS
