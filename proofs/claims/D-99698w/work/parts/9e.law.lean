/-! ===== the law's world: the component, the reference, out ===== -/
def LI (γ : KG) (σ0 : CS) (s : State) (R : Room) (om : Nat) (ad : Nat → Nat) (out : Nat) (h : CH) (r : CR) (σ : MS) (w : Nat → Int64) (H : Heap) (locs : List Loc) (cells slots : Nat) : Prop :=
  AI γ σ0 s R h r H locs cells slots ∧ MH γ.1 γ.2.1 om ad σ H ∧ (va_at γ.1 kCL (out, ceE γ.2.1 (ouC w)) H ∧ γ.2.2.2.2.1 out ∧ kA σ0.1 s.heap.size out ∧ h out = none ∧ out < r.1) ∧ ∀ q, mAd om ad q → h q = none ∧ q < r.1 ∧ q ≠ out ∧ kA σ0.1 s.heap.size q
theorem dm_none {h h' : CH} {n q : Nat} (hd : dm h h' n) (h1 : h q = none) (h2 : q < n) : h' q = none := by
  cases e : h' q with
  | none => rfl
  | some x =>
    rcases hd q (by rw [e]; rfl) with hk | hk
    · have hk : (h q).isSome = true := hk
      rw [h1] at hk
      cases hk
    · exact absurd hk (Nat.not_le.mpr h2)
theorem MH.kept {G : va_G} {dT : Nat → ClassId} {o : Nat} {ad : Nat → Nat} {σ : MS} {H H1 : Heap} (hM : MH G dT o ad σ H) (hk : ∀ q, mAd o ad q → H1[q]? = H[q]?) : MH G dT o ad σ H1 :=
  ⟨hM.1.kept (fun k q hq => hk q.1 (hM.2.2 k q hq)), hM.2⟩
section LAW9E
variable {p : Program} {l : Launch} {e : Env} {R : Room} {s : State} {m : MethodId} {args : Array Value} {below : List Frame} {meth : Method} {c : Code} {H H1 : Heap} {locs locs1 : List Loc} {cells slots cells1 slots1 : Nat} {Q : State → Prop}
variable {γ : KG} {h h' : CH} {r r' : CR} {σ0 : CS} {om out : Nat} {ad : Nat → Nat} {σ σ' : MS} {w w' : Nat → Int64}
/-- behind a call of the component's -/
theorem LI.comp (hL : LI γ σ0 s R om ad out h r σ w H locs cells slots) (hA : AI γ σ0 s R h' r' H1 locs1 cells1 slots1) (hf : fw h r.1 H H1) (hd : dm h h' r.1) : LI γ σ0 s R om ad out h' r' σ w H1 locs1 cells1 slots1 := by
  obtain ⟨-, hM, ⟨o1, o2, o3, o4, o5⟩, hm⟩ := hL
  have hr : r.1 ≤ r'.1 := by rw [← hA.1.2.2.1]; exact hf.1
  exact ⟨hA, hM.kept (fun q hq => hf.2 q (hm q hq).2.1 (hm q hq).1), ⟨o1.kept (hf.2 out o5 o4), o2, o3, dm_none hd o4 o5, Nat.lt_of_lt_of_le o5 hr⟩, fun q hq => ⟨dm_none hd (hm q hq).1 (hm q hq).2.1, Nat.lt_of_lt_of_le (hm q hq).2.1 hr, (hm q hq).2.2⟩⟩
/-- ahead of a call of one of the law's small methods, and behind it -/
theorem LI.pre (hL : LI γ σ0 s R om ad out h r σ w H locs cells slots) : AI γ σ0 s R (hup h out (ouC w)) r H locs cells slots := hL.1.add hL.2.2.1.2.1 hL.2.2.1.1 hL.2.2.1.2.2.1
theorem LI.wrap (hL : LI γ σ0 s R om ad out h r σ w H locs cells slots) (hA : AI γ σ0 s R (hup h' out (ouC w')) r' H1 locs1 cells1 slots1) (hf : fw (hup h out (ouC w)) r.1 H H1) (hd : dm h h' r.1) : LI γ σ0 s R om ad out h' r' σ w' H1 locs1 cells1 slots1 := by
  obtain ⟨-, hM, ⟨o1, o2, o3, o4, o5⟩, hm⟩ := hL
  have hr : r.1 ≤ r'.1 := by rw [← hA.1.2.2.1]; exact hf.1
  have ho := dm_none hd o4 o5
  obtain ⟨hA2, hat, -, -⟩ := hA.drop ho
  exact ⟨hA2, hM.kept (fun q hq => hf.2 q (hm q hq).2.1 ((hup_n (hm q hq).2.2.1).trans (hm q hq).1)), ⟨hat, o2, o3, ho, Nat.lt_of_lt_of_le o5 hr⟩, fun q hq => ⟨dm_none hd (hm q hq).1 (hm q hq).2.1, Nat.lt_of_lt_of_le (hm q hq).2.1 hr, (hm q hq).2.2⟩⟩
/-- behind a call of the reference's -/
theorem LI.ref (hL : LI γ σ0 s R om ad out h r σ w H locs cells slots) (hM : MH γ.1 γ.2.1 om ad σ' H1) (hz : H1.size = H.size) (hk : ∀ q : Nat, q < H.size → ¬ mAd om ad q → H1[q]? = H[q]?) (hS : va_S (kA σ0.1 s.heap.size) s.heap H1 locs1) : LI γ σ0 s R om ad out h r σ' w H1 locs1 cells slots := by
  obtain ⟨⟨⟨a1, a2, a3, a4⟩, b1, b2⟩, -, ⟨o1, o2, o3, o4, o5⟩, hm⟩ := hL
  have hlt : ∀ q, (h q).isSome = true → q < H.size := fun q hq => by
    obtain ⟨x, hx⟩ := Option.isSome_iff_exists.mp hq
    exact ((a1 q x hx).1).lt
  have hne : ∀ q, (h q).isSome = true → ¬ mAd om ad q := fun q hq y => by rw [(hm q y).1] at hq; cases hq
  exact ⟨⟨⟨a1.kept (fun q hq => hk q (hlt q hq) (hne q hq)), hS, by rw [hz]; exact a3, a4⟩, b1, b2⟩, hM, ⟨o1.kept (hk out (by rw [a3]; exact o5) (fun y => (hm out y).2.2.1 rfl)), o2, o3, o4, o5⟩, hm⟩
theorem Met_size {y : MethodName} {ws : List Cond} {rm : Room} {Pc : Array Value → State → Prop} {Qc : Array Value → State → Outcome → State → Prop} {free : Addr → Prop} (hM : Met l y ws rm Pc Qc 0 0 free) : Met l y ws rm Pc (fun a st o t => Qc a st o t ∧ t.heap.size = st.heap.size) 0 0 free := by
  intro p e ha hc hk s m args below hf hs hp _
  obtain ⟨n, o, b1, b2, b3, b4, L, b5, b6⟩ := hM p e ha hc hk s m args below hf hs hp trivial
  refine ⟨n, o, b1, b2, b3, ⟨b4, ?_⟩, L, b5, b6⟩
  obtain ⟨-, -, -, q2, q3, -⟩ := id b5
  exact Nat.le_antisymm q3 q2
end LAW9E
