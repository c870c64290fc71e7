/-! ===== new int[n][k] ===== -/
def aGrid (h : CH) (r : CR) (n k : Int32) : Option CS :=
  if n < 0 ∨ k < 0 ∨ 1000 < n.toNatClampNeg ∨ 100000 < k.toNatClampNeg then none
  else if 1 + n.toNatClampNeg ≤ r.2.1 ∧ n.toNatClampNeg + n.toNatClampNeg * k.toNatClampNeg ≤ r.2.2 then
    some (fun q => if q = r.1 then some (.inl (4, n.toNatClampNeg, .inr (.inr (.inr (.inr (fun j => if j < n.toNatClampNeg then some (r.1 + 1 + j) else none)))))) else if r.1 < q ∧ q ≤ r.1 + n.toNatClampNeg then some (.inl (0, k.toNatClampNeg, .inl (fun _ => 0))) else h q,
      r.1 + 1 + n.toNatClampNeg, r.2.1 - (1 + n.toNatClampNeg), r.2.2 - (n.toNatClampNeg + n.toNatClampNeg * k.toNatClampNeg))
  else none
theorem aGrid_inv {h : CH} {r : CR} {n k : Int32} {q : CS} (e : aGrid h r n k = some q) : ¬ n < 0 ∧ ¬ k < 0 ∧ n.toNatClampNeg ≤ 1000 ∧ k.toNatClampNeg ≤ 100000 ∧ 1 + n.toNatClampNeg ≤ r.2.1 ∧ n.toNatClampNeg + n.toNatClampNeg * k.toNatClampNeg ≤ r.2.2 ∧
    q = (fun q => if q = r.1 then some (.inl (4, n.toNatClampNeg, .inr (.inr (.inr (.inr (fun j => if j < n.toNatClampNeg then some (r.1 + 1 + j) else none)))))) else if r.1 < q ∧ q ≤ r.1 + n.toNatClampNeg then some (.inl (0, k.toNatClampNeg, .inl (fun _ => 0))) else h q,
      r.1 + 1 + n.toNatClampNeg, r.2.1 - (1 + n.toNatClampNeg), r.2.2 - (n.toNatClampNeg + n.toNatClampNeg * k.toNatClampNeg)) := by
  unfold aGrid at e
  split at e
  · cases e
  · next hc =>
    split at e
    · next hd => exact ⟨fun x => hc (Or.inl x), fun x => hc (Or.inr (Or.inl x)), Nat.le_of_not_lt fun x => hc (Or.inr (Or.inr (Or.inl x))), Nat.le_of_not_lt fun x => hc (Or.inr (Or.inr (Or.inr x))), hd.1, hd.2, (Option.some.inj e).symm⟩
    · cases e
theorem outer_arrV (c : ClassId) (N h0 : Nat) : ∀ i, Jvm.Free.Multi.outerC c N h0 i = arrV c N (fun j => va_rf (if j < i then some (h0 + 1 + j) else none))
  | 0 => by
    show ({ cls := c, slots := Array.replicate N .null, vm := .none } : Cell) = _
    rw [arrV_new]
    rfl
  | i + 1 => by
    show (Jvm.Free.Multi.outerC c N h0 i).setSlot i (.ref (h0 + 1 + i)) = _
    rw [outer_arrV c N h0 i, arrV_store]
    congr 1
    funext q
    by_cases hq : q = i
    · subst hq
      simp [updV, va_rf]
    · by_cases h2 : q < i
      · simp [updV, hq, h2, Nat.lt_succ_of_lt h2]
      · have h3 : ¬ q < i + 1 := by omega
        simp [updV, hq, h2, h3]
theorem c_AOspec {args : Array Value} {s : State} {t : FieldType} (h : (Cond.arrayOver (.array t)).before args s = true) :
    ∃ comp c k, s.vm.findClass (FieldType.array t).toString = some comp ∧ (s.vm.classes.findIdx? fun (x : Class) => match x.kind with | .array component _ => component == comp | _ => false) = some c ∧ s.vm.classes[c]? = some k ∧ k.kind = .array comp (.array t) ∧ s.vm.findClass ("[" ++ (FieldType.array t).toString) = some c := by
  have h : (Cond.arrayOver (.array t)).holds args s none s [] = true := h
  simp only [Cond.holds, Cond.value, beq_iff_eq] at h
  cases hc : s.vm.findClass (FieldType.array t).toString with
  | none => simp [hc] at h
  | some comp =>
    simp only [hc, Option.bind_some, Option.bind_eq_some_iff, Option.map_eq_some_iff] at h
    obtain ⟨c, hi, k, hk, hb⟩ := h
    obtain ⟨hlt, hp, -⟩ := Array.findIdx?_eq_some_iff_getElem.mp hi
    have hkk : s.vm.classes[c] = k := (Array.getElem?_eq_some_iff.mp hk).2
    rw [hkk] at hp
    cases hkind : k.kind with
    | array component ty =>
      rw [hkind] at hb hp
      simp at hb hp
      exact ⟨comp, c, k, rfl, hi, hk, by rw [hkind, hp, hb.1], hb.2⟩
    | _ => rw [hkind] at hb; simp at hb
theorem c_AOg {u U : State} {A : Array Value} (hvm : u.vm.Alike U.vm) {t : FieldType} (h : (Cond.arrayOver (.array t)).before A u = true) (A' : Array Value) : (Cond.arrayOver (.array t)).before A' U = true := by
  obtain ⟨comp, c, k, h1, h2, h3, h4, h5⟩ := c_AOspec h
  obtain ⟨k', hk', he⟩ := hvm.2.2 _ _ h3
  have hi : (U.vm.classes.findIdx? fun (x : Class) => match x.kind with | .array component _ => component == comp | _ => false) = some c := by
    have e1 := va_idx_bare U.vm comp
    have e2 := va_idx_bare u.vm comp
    have e3 : U.vm.bare = u.vm.bare := by first | exact hvm.bare_eq | exact hvm.bare_eq.symm
    rw [e3] at e1
    exact (e1.symm.trans e2).trans h2
  have hkind : k'.kind = .array comp (.array t) := by rw [he]; exact h4
  have f2 : U.vm.findClass ("[" ++ (FieldType.array t).toString) = some c := by rw [hvm.findClass]; exact h5
  have f1 : U.vm.findClass (FieldType.array t).toString = some comp := by rw [hvm.findClass]; exact h1
  unfold Cond.before Cond.holds
  simp only [Cond.value]
  rw [f1, Option.bind_some]
  refine (congrArg (fun o : Option Nat => (o.bind (fun c => (U.vm.classes[c]?).map fun (k : Class) => match k.kind with | .array _ ty => decide (ty = FieldType.array t) && decide (U.vm.findClass ("[" ++ (FieldType.array t).toString) = some c) | _ => false) == some true)) hi).trans ?_
  simp [hk', hkind, f2]
section ROWS48
variable {p : Program} {l : Launch} {e : Env} {R : Room} {s : State} {m : MethodId} {args : Array Value} {below : List Frame} {meth : Method} {c : Code} {H : Heap} {locs : List Loc} {cells slots : Nat} {Q : State → Prop}
variable {nL pc : Nat} {ls : Array Slot} {rest : List Value} {γ : KG} {h : CH} {r : CR} {σ0 : CS} {cc : ByteArray} {index : Nat} {own : String}
theorem a_grid (X : cCtx p s m args c cc nL own γ) (hA : AI γ σ0 s R h r H locs cells slots) {n k : Int32} {q : CS} (hr : aGrid h r n k = some q) (hcl : Cond.classLink own index "[[I" ∈ lw_all) (hdg : decode cc pc = .ok (.multianewarray index 2, 4))
    (kk : ∀ (H : Heap) (cells slots : Nat), AI γ σ0 s R q.1 q.2 H locs cells slots → W p l e R s m args below meth c H locs cells slots Q (F0 m (pc + 4) ls (.ref r.1 :: rest))) : W p l e R s m args below meth c H locs cells slots Q (F0 m pc ls (.int k :: .int n :: rest)) := by
  obtain ⟨⟨hx, hb, hml, hown, hts⟩, hO, hD⟩ := X
  obtain ⟨hn, hk, hn2, hk2, hc1, hs1, rfl⟩ := aGrid_inv hr
  obtain ⟨⟨hH, hS, hz, hd⟩, hc, hs⟩ := hA
  have hAO : (Cond.arrayOver (.array .int)).before args s = true := c_AOg hD.1.alike (hO.2.1 _ q1471) args
  have hlt : ∀ p, (h p).isSome = true → p < H.size := by
    intro p hp
    obtain ⟨e, he⟩ := Option.isSome_iff_exists.mp hp
    exact ((hH p e he).1).lt
  have hFN : ∀ p, r.1 ≤ p → γ.2.2.2.2.1 p := fun p hp => hO.2.2.2 _ (Nat.le_trans (by rw [← hz]; exact Nat.le_trans hD.2.1 hS.1) hp)
  generalize hN : n.toNatClampNeg = N at *
  generalize hM : k.toNatClampNeg = M at *
  intro T hT X
  have hcl' : (Cond.classLink own index ("[" ++ (FieldType.array .int).toString)).before args s = true := hts _ hcl
  obtain ⟨vm₁, cA, comp, hW, hfA, hfC, -, -, X1, step⟩ := X.multianewarray2F hx hown hcl' hAO (hts _ q208) (g := F0 m pc ls (.int k :: .int n :: rest)) rfl (by rw [hb]; exact hdg) (n := n) (k := k) (rest := rest) rfl hn hk (by rw [hN]; omega) (by rw [hM]; show M * 4 ≤ _; omega) (by rw [hM]; omega) rfl rfl (by rw [hN]; omega) (by rw [hN, hM]; omega)
  rw [hN, hM] at X1 step
  obtain ⟨f1, f2, f3, f4⟩ := Jvm.Free.Multi.fill_facts (T.setVm vm₁) cA comp N M (defaultValue .int) N
  have hTH : (T.setVm vm₁).heap = H := hT
  have hTz : (T.setVm vm₁).heap.size = r.1 := by rw [hTH]; exact hz
  have e4 : cA = γ.2.1 4 := Option.some.inj (hfA.symm.trans (((hD.K hO).2 4 _ rfl).2))
  have e0 : comp = γ.2.1 0 := Option.some.inj (hfC.symm.trans (((hD.K hO).2 0 _ rfl).2))
  generalize hG : Jvm.Free.Multi.fill (T.setVm vm₁) cA comp N M (defaultValue .int) N = G at *
  have hzT : T.heap.size = r.1 := hTz
  have gz : G.heap.size = r.1 + 1 + N := by rw [f1, hTz]
  have gO : G.heap[r.1]? = some (arrV (γ.2.1 4) N (fun j => va_rf (if j < N then some (r.1 + 1 + j) else none))) := by
    have := f2
    rw [hTz] at this
    rw [this, outer_arrV, e4]
  have gI : ∀ q, r.1 < q → q ≤ r.1 + N → G.heap[q]? = some (arrV (γ.2.1 0) M (fun _ => .int 0)) := by
    intro q h1 h2
    have := Jvm.Free.Multi.fill_inner (T.setVm vm₁) cA comp N M (defaultValue .int) N (q - r.1 - 1) (by omega)
    rw [hG, hTz, show r.1 + 1 + (q - r.1 - 1) = q by omega] at this
    rw [this]
    show some ({ cls := comp, slots := Array.replicate M (.int 0), vm := .none } : Cell) = _
    rw [arrV_new, e0]
  have gP : ∀ q, q < r.1 → G.heap[q]? = H[q]? := by
    intro q h1
    have := Jvm.Free.Multi.fill_old (T.setVm vm₁) cA comp N M (defaultValue .int) (a := q) (by rw [hTz]; exact h1) N
    rw [hG, hTH] at this
    exact this
  suffices hAI : AI γ σ0 s R (fun q => if q = r.1 then some (.inl (4, N, .inr (.inr (.inr (.inr (fun j => if j < N then some (r.1 + 1 + j) else none)))))) else if r.1 < q ∧ q ≤ r.1 + N then some (.inl (0, M, .inl (fun _ => 0))) else h q) (r.1 + 1 + N, r.2.1 - (1 + N), r.2.2 - (N + N * M)) G.heap locs (cells + 1 + N) (slots + N + N * M) by
    obtain ⟨t, a1, b1⟩ := kk G.heap (cells + 1 + N) (slots + N + N * M) hAI G rfl X1
    rw [hzT] at step
    exact ⟨t, step t a1, b1⟩
  refine ⟨⟨?_, ⟨by rw [gz]; have := hS.1; omega, fun q g1 g2 => ?_, hS.2.2⟩, gz, fun q hq => ?_⟩, by dsimp only; omega, by dsimp only; omega⟩
  · intro q x hq
    dsimp only at hq
    split at hq
    · next hq1 =>
      subst hq1
      cases hq
      exact ⟨gO, hFN _ (Nat.le_refl _)⟩
    · next hq1 =>
      split at hq
      · next hq2 =>
        cases hq
        exact ⟨gI q hq2.1 hq2.2, hFN _ (Nat.le_of_lt hq2.1)⟩
      · next hq2 =>
        have h1 := hlt q (by rw [hq]; rfl)
        exact ⟨((hH q x hq).1).kept (gP q (by omega)), (hH q x hq).2⟩
  · rw [gP q (by have := hS.1; omega)]
    exact hS.2.1 q g1 g2
  · dsimp only at hq
    by_cases h1 : q < r.1
    · rw [if_neg (by omega), if_neg (by omega)] at hq
      exact hd q hq
    · exact Or.inr (by have := hS.1; omega)
end ROWS48
