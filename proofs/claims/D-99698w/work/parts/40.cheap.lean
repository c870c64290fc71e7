/-! ===== the component's cells: an object (its class's place in kCL, its fields), an array (its type's place in kTY, length, contents) ===== -/
abbrev CE : Type := (Nat × vp_A) ⊕ (Nat × List Value)
abbrev CH : Type := Nat → Option CE
def ceE (dT : Nat → ClassId) (e : CE) : va_E := match e with
  | .inl x => .inl (dT x.1, x.2)
  | .inr x => .inr x
def hup (h : CH) (a : Nat) (e : CE) : CH := fun q => if q = a then some e else h q
theorem hup_s {h : CH} {a : Nat} {e : CE} : hup h a e a = some e := if_pos rfl
theorem hup_n {h : CH} {a q : Nat} {e : CE} (hq : q ≠ a) : hup h a e q = h q := if_neg hq
/-- reading a field: an int, a reference that isn't null, a reference -/
def gI (h : CH) (a c k : Nat) : Option Int32 := match h a with
  | some (.inr (c', fs)) => if c' = c then (match fs[k]? with
    | some (.int v) => some v
    | _ => none) else none
  | _ => none
def gR (h : CH) (a c k : Nat) : Option Nat := match h a with
  | some (.inr (c', fs)) => if c' = c then (match fs[k]? with
    | some (.ref v) => some v
    | _ => none) else none
  | _ => none
def gQ (h : CH) (a c k : Nat) : Option (Option Nat) := match h a with
  | some (.inr (c', fs)) => if c' = c then (match fs[k]? with
    | some (.ref v) => some (some v)
    | some .null => some none
    | _ => none) else none
  | _ => none
def pI (h : CH) (a c k : Nat) (v : Int32) : Option CH := match h a with
  | some (.inr (c', fs)) => if c' = c ∧ k < fs.length then some (hup h a (.inr (c, fs.set k (.int v)))) else none
  | _ => none
def pQ (h : CH) (a c k : Nat) (r : Option Nat) : Option CH := match h a with
  | some (.inr (c', fs)) => if c' = c ∧ k < fs.length then some (hup h a (.inr (c, fs.set k (va_rf r)))) else none
  | _ => none
/-- reading an array of ints, bytes, booleans; of references -/
def aI (h : CH) (a t : Nat) (i : Int32) : Option Int32 := match h a with
  | some (.inl (t', n, .inl f)) => if t' = t then (if i < 0 ∨ n ≤ i.toNatClampNeg then none else some (f i.toNatClampNeg)) else none
  | _ => none
def aQ (h : CH) (a t : Nat) (i : Int32) : Option (Option Nat) := match h a with
  | some (.inl (t', n, .inr (.inr (.inr (.inr f))))) => if t' = t then (if i < 0 ∨ n ≤ i.toNatClampNeg then none else some (f i.toNatClampNeg)) else none
  | _ => none
def sI (h : CH) (a t : Nat) (i v : Int32) : Option CH := match h a with
  | some (.inl (t', n, .inl f)) => if t' = t then (if i < 0 ∨ n ≤ i.toNatClampNeg then none else some (hup h a (.inl (t, n, .inl (upd f i.toNatClampNeg v))))) else none
  | _ => none
def sQ (h : CH) (a t : Nat) (i : Int32) (r : Option Nat) : Option CH := match h a with
  | some (.inl (t', n, .inr (.inr (.inr (.inr f))))) => if t' = t then (if i < 0 ∨ n ≤ i.toNatClampNeg then none else some (hup h a (.inl (t, n, .inr (.inr (.inr (.inr (va_up f i.toNatClampNeg r)))))))) else none
  | _ => none
def aN (h : CH) (a t : Nat) : Option Int32 := match h a with
  | some (.inl (t', n, _)) => if t' = t then some (Int32.ofNat n) else none
  | _ => none
/-- an object's class, where it is the one asked for -/
def isC (h : CH) (a c : Nat) : Bool := match h a with
  | some (.inr (c', _)) => decide (c' = c)
  | _ => false
theorem gI_inv {h : CH} {a c k : Nat} {v : Int32} (e : gI h a c k = some v) : ∃ fs, h a = some (.inr (c, fs)) ∧ fs[k]? = some (.int v) := by
  unfold gI at e
  split at e
  · next c' fs hh =>
    split at e
    · next hc =>
      subst hc
      split at e
      · next w hw => cases e; exact ⟨fs, hh, hw⟩
      · cases e
    · cases e
  · cases e
theorem gR_inv {h : CH} {a c k : Nat} {v : Nat} (e : gR h a c k = some v) : ∃ fs, h a = some (.inr (c, fs)) ∧ fs[k]? = some (.ref v) := by
  unfold gR at e
  split at e
  · next c' fs hh =>
    split at e
    · next hc =>
      subst hc
      split at e
      · next w hw => cases e; exact ⟨fs, hh, hw⟩
      · cases e
    · cases e
  · cases e
theorem gQ_inv {h : CH} {a c k : Nat} {v : Option Nat} (e : gQ h a c k = some v) : ∃ fs, h a = some (.inr (c, fs)) ∧ fs[k]? = some (va_rf v) := by
  unfold gQ at e
  split at e
  · next c' fs hh =>
    split at e
    · next hc =>
      subst hc
      split at e
      · next w hw => cases e; exact ⟨fs, hh, hw⟩
      · next hw => cases e; exact ⟨fs, hh, hw⟩
      · cases e
    · cases e
  · cases e
theorem pI_inv {h h' : CH} {a c k : Nat} {v : Int32} (e : pI h a c k v = some h') : ∃ fs, h a = some (.inr (c, fs)) ∧ k < fs.length ∧ hup h a (.inr (c, fs.set k (.int v))) = h' := by
  unfold pI at e
  split at e
  · next c' fs hh =>
    split at e
    · next hc => cases e; exact ⟨fs, by rw [← hc.1]; exact hh, hc.2, rfl⟩
    · cases e
  · cases e
theorem pQ_inv {h h' : CH} {a c k : Nat} {r : Option Nat} (e : pQ h a c k r = some h') : ∃ fs, h a = some (.inr (c, fs)) ∧ k < fs.length ∧ hup h a (.inr (c, fs.set k (va_rf r))) = h' := by
  unfold pQ at e
  split at e
  · next c' fs hh =>
    split at e
    · next hc => cases e; exact ⟨fs, by rw [← hc.1]; exact hh, hc.2, rfl⟩
    · cases e
  · cases e
theorem aI_inv {h : CH} {a t : Nat} {i v : Int32} (e : aI h a t i = some v) : ∃ n f, h a = some (.inl (t, n, .inl f)) ∧ vp_in i n ∧ f i.toNatClampNeg = v := by
  unfold aI at e
  split at e
  · next t' n f hh =>
    split at e
    · next ht =>
      split at e
      · cases e
      · next hn => cases e; exact ⟨n, f, by rw [← ht]; exact hh, hn, rfl⟩
    · cases e
  · cases e
theorem aQ_inv {h : CH} {a t : Nat} {i : Int32} {v : Option Nat} (e : aQ h a t i = some v) : ∃ n f, h a = some (.inl (t, n, .inr (.inr (.inr (.inr f))))) ∧ vp_in i n ∧ f i.toNatClampNeg = v := by
  unfold aQ at e
  split at e
  · next t' n f hh =>
    split at e
    · next ht =>
      split at e
      · cases e
      · next hn => cases e; exact ⟨n, f, by rw [← ht]; exact hh, hn, rfl⟩
    · cases e
  · cases e
theorem sI_inv {h h' : CH} {a t : Nat} {i v : Int32} (e : sI h a t i v = some h') : ∃ n f, h a = some (.inl (t, n, .inl f)) ∧ vp_in i n ∧ hup h a (.inl (t, n, .inl (upd f i.toNatClampNeg v))) = h' := by
  unfold sI at e
  split at e
  · next t' n f hh =>
    split at e
    · next ht =>
      split at e
      · cases e
      · next hn => cases e; exact ⟨n, f, by rw [← ht]; exact hh, hn, rfl⟩
    · cases e
  · cases e
theorem sQ_inv {h h' : CH} {a t : Nat} {i : Int32} {r : Option Nat} (e : sQ h a t i r = some h') : ∃ n f, h a = some (.inl (t, n, .inr (.inr (.inr (.inr f))))) ∧ vp_in i n ∧ hup h a (.inl (t, n, .inr (.inr (.inr (.inr (va_up f i.toNatClampNeg r)))))) = h' := by
  unfold sQ at e
  split at e
  · next t' n f hh =>
    split at e
    · next ht =>
      split at e
      · cases e
      · next hn => cases e; exact ⟨n, f, by rw [← ht]; exact hh, hn, rfl⟩
    · cases e
  · cases e
theorem aN_inv {h : CH} {a t : Nat} {v : Int32} (e : aN h a t = some v) : ∃ n x, h a = some (.inl (t, n, x)) ∧ Int32.ofNat n = v := by
  unfold aN at e
  split at e
  · next t' n x hh =>
    split at e
    · next ht => cases e; exact ⟨n, x, by rw [← ht]; exact hh, rfl⟩
    · cases e
  · cases e
theorem isC_inv {h : CH} {a c : Nat} (e : isC h a c = true) : ∃ fs, h a = some (.inr (c, fs)) := by
  unfold isC at e
  split at e
  · next c' fs hh =>
    have hc := of_decide_eq_true e
    subst hc
    exact ⟨fs, hh⟩
  · cases e
/-! ===== the world: the launch's classes, the law's start, which cells may be written ===== -/
abbrev KG : Type := va_G × (Nat → ClassId) × State × Array Value × (Nat → Prop) × (Nat → Nat)
/-! the constants of a run: texts, the small Integers, the two empty arrays of ArrayList's, class objects, what Throwable's two statics hold -/
def kopt : Nat → Option Nat
  | 0 => none
  | n + 1 => some n
def kTx : List String := ["slack", "lays", "moulds", "town", "sheets", "clerks", "known", "day", "left", "right", "sheet", "borne", ";()+-*/<=", "not", "and", "or", "clerk", "word"]
def kIdx : List Nat := [33, 35, 37, 43, 45, 47, 49, 51, 56, 58, 60, 62, 112, 192, 202, 209, 274, 278]
def kLen : List Nat := [5, 4, 6, 4, 6, 6, 5, 3, 4, 5, 5, 5, 9, 3, 3, 2, 5, 4]
def kByt : List (List Int32) := [[115, 108, 97, 99, 107], [108, 97, 121, 115], [109, 111, 117, 108, 100, 115], [116, 111, 119, 110], [115, 104, 101, 101, 116, 115], [99, 108, 101, 114, 107, 115], [107, 110, 111, 119, 110], [100, 97, 121], [108, 101, 102, 116], [114, 105, 103, 104, 116], [115, 104, 101, 101, 116], [98, 111, 114, 110, 101], [59, 40, 41, 43, 45, 42, 47, 60, 61], [110, 111, 116], [97, 110, 100], [111, 114], [99, 108, 101, 114, 107], [119, 111, 114, 100]]
def kStr (K : Nat → Nat) (F : Nat → Prop) (s : State) : Prop := vk_S 18 kLen kByt (fun i => K (10 + i)) (fun i => K (30 + i)) F s s.heap ∧ ∀ i : Nat, i < 18 → vk_R "TwinInk$Reader" (kIdx.getD i 0) (kTx.getD i "") (K (10 + i)) s
def kEmp (K : Nat → Nat) (F : Nat → Prop) (s : State) : Prop := ∀ i : Nat, i < 2 → va_T (.object "java/lang/Object") (K i) 0 (fun _ => .null) F s s.heap ∧ va_O "[Ljava/lang/Object;" (K i) F s s.heap
def kSx (K : Nat → Nat) (F : Nat → Prop) (s : State) : Prop := va_Z "java/lang/Throwable" "UNASSIGNED_STACK" "[Ljava/lang/StackTraceElement;" (va_rf (kopt (K 5))) F s s.heap ∧ va_Z "java/lang/Throwable" "SUPPRESSED_SENTINEL" "Ljava/util/List;" (va_rf (kopt (K 6))) F s s.heap ∧ va_Mi "[Ljava/lang/Object;" (K 2) s ∧ va_Mi "java/util/ArrayList" (K 3) s ∧ va_Z "java/lang/Integer$IntegerCache" "high" "I" (.int 127) F s s.heap ∧ va_Z "java/lang/Integer$IntegerCache" "cache" "[Ljava/lang/Integer;" (.ref (K 4)) F s s.heap ∧ va_T (.object "java/lang/Integer") (K 4) 256 (fun j => .ref (K (200 + j))) F s s.heap ∧ kStr K F s ∧ kEmp K F s
/-- the statics that are read: the words of the JDK's, by what they hold at the law's start (kK 0, kK 1: ArrayList's two empty arrays) -/
def kSt (γ : KG) : Prop := va_Z "java/lang/String" "COMPACT_STRINGS" "Z" (.int 1) γ.2.2.2.2.1 γ.2.2.1 γ.2.2.1.heap ∧ va_Zq "jdk/internal/util/Preconditions" "SIOOBE_FORMATTER" "Ljava/util/function/BiFunction;" γ.2.2.2.2.1 γ.2.2.1 γ.2.2.1.heap ∧ va_Z "java/util/ArrayList" "DEFAULTCAPACITY_EMPTY_ELEMENTDATA" "[Ljava/lang/Object;" (.ref (γ.2.2.2.2.2 0)) γ.2.2.2.2.1 γ.2.2.1 γ.2.2.1.heap ∧ va_Z "java/util/ArrayList" "EMPTY_ELEMENTDATA" "[Ljava/lang/Object;" (.ref (γ.2.2.2.2.2 1)) γ.2.2.2.2.1 γ.2.2.1 γ.2.2.1.heap ∧ kSx γ.2.2.2.2.2 γ.2.2.2.2.1 γ.2.2.1
def kOK (γ : KG) : Prop := kSt γ ∧ (∀ w ∈ lw_tbl, w.before γ.2.2.2.1 γ.2.2.1 = true) ∧ kK γ.1 γ.2.1 γ.2.2.1 ∧ (∀ q, γ.2.2.1.heap.size ≤ q → γ.2.2.2.2.1 q)
/-- a later state of the same run -/
def kD (γ : KG) (U : State) : Prop := γ.2.2.1.WarmedH U.vm ∧ γ.2.2.1.heap.size ≤ U.heap.size ∧ ∀ q, q < γ.2.2.1.heap.size → ¬ γ.2.2.2.2.1 q → U.heap[q]? = γ.2.2.1.heap[q]?
/-- the heap holds the cells -/
def HR (γ : KG) (h : CH) (H : Heap) : Prop := ∀ a e, h a = some e → va_at γ.1 kCL (a, ceE γ.2.1 e) H ∧ γ.2.2.2.2.1 a
def kA (h : CH) (sz : Nat) : Nat → Prop := fun q => (h q).isSome = true ∨ sz ≤ q
abbrev kdm (h : CH) : Addr → Prop := fun q => (h q).isSome = true
/-- inside a method that began at s and may write the cells A: now the cells h, in a heap of size n -/
def NI (γ : KG) (A : Nat → Prop) (n : Nat) (s : State) (h : CH) (H : Heap) (locs : List Loc) : Prop := HR γ h H ∧ va_S A s.heap H locs ∧ H.size = n ∧ ∀ q, (h q).isSome = true → A q
theorem kD.K {γ : KG} {U : State} (hO : kOK γ) (hD : kD γ U) : kK γ.1 γ.2.1 U := va_K.moved (Vm.Alike.trans (Vm.Alike.refl _) hD.1.alike) hO.2.2.1
theorem HR.at {γ : KG} {h : CH} {H : Heap} (hH : HR γ h H) {a : Nat} {e : CE} (he : h a = some e) : va_P γ.1 kCL [(a, ceE γ.2.1 e)] H := by
  intro k q hk
  have hz : k < 1 := (List.getElem?_eq_some_iff.mp hk).1
  rw [show k = 0 by omega] at hk
  cases hk
  exact (hH a e he).1
theorem HR.kept {γ : KG} {h : CH} {H H1 : Heap} (hH : HR γ h H) (hk : ∀ q, (h q).isSome = true → H1[q]? = H[q]?) : HR γ h H1 := fun a e he => ⟨((hH a e he).1).kept (hk a (by rw [he]; rfl)), (hH a e he).2⟩
theorem HR.up {γ : KG} {h : CH} {H H1 : Heap} (hH : HR γ h H) {a : Nat} {e : CE} (hF : γ.2.2.2.2.1 a) (ha : va_at γ.1 kCL (a, ceE γ.2.1 e) H1) (hk : ∀ q, q ≠ a → (h q).isSome = true → H1[q]? = H[q]?) : HR γ (hup h a e) H1 := by
  intro q x hx
  by_cases hq : q = a
  · subst hq
    rw [hup_s] at hx
    cases hx
    exact ⟨ha, hF⟩
  · rw [hup_n hq] at hx
    exact ⟨((hH q x hx).1).kept (hk q hq (by rw [hx]; rfl)), (hH q x hx).2⟩
