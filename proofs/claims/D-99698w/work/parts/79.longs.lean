/-! ===== arrays of longs (the law's out) ===== -/
def aJ (h : CH) (a : Nat) (i : Int32) : Option Int64 := match h a with
  | some (.inl (t', n, .inr (.inl f))) => if t' = 6 then (if i < 0 ∨ n ≤ i.toNatClampNeg then none else some (f i.toNatClampNeg)) else none
  | _ => none
def sJ (h : CH) (a : Nat) (i : Int32) (v : Int64) : Option CH := match h a with
  | some (.inl (t', n, .inr (.inl f))) => if t' = 6 then (if i < 0 ∨ n ≤ i.toNatClampNeg then none else some (hup h a (.inl (6, n, .inr (.inl (vp_updL f i.toNatClampNeg v)))))) else none
  | _ => none
def aArrJ (h : CH) (r : CR) (n : Int32) : Option CS := if n < 0 ∨ 100000 < n.toNatClampNeg then none else aCell h r n.toNatClampNeg (.inl (6, n.toNatClampNeg, .inr (.inl (fun _ => 0))))
theorem aJ_inv {h : CH} {a : Nat} {i : Int32} {v : Int64} (e : aJ h a i = some v) : ∃ n f, h a = some (.inl (6, n, .inr (.inl f))) ∧ vp_in i n ∧ f i.toNatClampNeg = v := by
  unfold aJ at e
  split at e
  · next t' n f hh =>
    split at e
    · next ht =>
      subst ht
      split at e
      · cases e
      · next hi => exact ⟨n, f, hh, hi, Option.some.inj e⟩
    · cases e
  · cases e
theorem sJ_inv {h h' : CH} {a : Nat} {i : Int32} {v : Int64} (e : sJ h a i v = some h') : ∃ n f, h a = some (.inl (6, n, .inr (.inl f))) ∧ vp_in i n ∧ hup h a (.inl (6, n, .inr (.inl (vp_updL f i.toNatClampNeg v)))) = h' := by
  unfold sJ at e
  split at e
  · next t' n f hh =>
    split at e
    · next ht =>
      subst ht
      split at e
      · cases e
      · next hi => exact ⟨n, f, hh, hi, Option.some.inj e⟩
    · cases e
  · cases e
theorem aArrJ_inv {h : CH} {r : CR} {n : Int32} {q : CS} (x : aArrJ h r n = some q) : ¬ n < 0 ∧ n.toNatClampNeg ≤ 100000 ∧ aCell h r n.toNatClampNeg (.inl (6, n.toNatClampNeg, .inr (.inl (fun _ => 0)))) = some q := by
  unfold aArrJ at x
  split at x
  · cases x
  · next hc => exact ⟨fun h => hc (Or.inl h), Nat.le_of_not_lt fun h => hc (Or.inr h), x⟩
section ROWS79
variable {p : Program} {l : Launch} {e : Env} {R : Room} {s : State} {m : MethodId} {args : Array Value} {below : List Frame} {meth : Method} {c : Code} {H : Heap} {locs : List Loc} {cells slots : Nat} {Q : State → Prop}
variable {nL pc : Nat} {ls : Array Slot} {rest : List Value} {γ : KG} {h h' : CH} {r : CR} {σ0 : CS} {cc : ByteArray} {index : Nat} {own : String} {A : Nat → Prop} {sz : Nat}
theorem c_lald (X : cCtx p s m args c cc nL own γ) (hH : HR γ h H) {a : Nat} {i : Int32} {v : Int64} (hr : aJ h a i = some v) (hdg : decode cc pc = .ok (.laload, 1))
    (kk : W p l e R s m args below meth c H locs cells slots Q (F0 m (pc + 1) ls (.long v :: rest))) : W p l e R s m args below meth c H locs cells slots Q (F0 m pc ls (.int i :: .ref a :: rest)) := by
  obtain ⟨⟨hx, hb, hml, hown, hts⟩, hO, hD⟩ := X
  obtain ⟨n, f, h1, h2, rfl⟩ := aJ_inv hr
  exact va_lald hx hb (hD.K hO) (hH.at h1) 0 6 rfl rfl h2 hdg kk
theorem c_last (X : cCtx p s m args c cc nL own γ) (hI : NI γ A sz s h H locs) {a : Nat} {i : Int32} {v : Int64} (hr : sJ h a i v = some h') (hdg : decode cc pc = .ok (.lastore, 1))
    (kk : ∀ (H : Heap) (locs : List Loc), NI γ A sz s h' H locs → W p l e R s m args below meth c H locs cells slots Q (F0 m (pc + 1) ls rest)) : W p l e R s m args below meth c H locs cells slots Q (F0 m pc ls (.long v :: .int i :: .ref a :: rest)) := by
  obtain ⟨⟨hx, hb, hml, hown, hts⟩, hO, hD⟩ := X
  obtain ⟨n, f, h1, h2, rfl⟩ := sJ_inv hr
  have hK := hD.K hO
  refine W.last hx hb (hI.1.at h1 0 _ rfl) ((hK.2 6 _ rfl).1 n (fun j => .long (f j))) (fun q => by cases q) (by show ¬ (i < 0 ∨ (arrV _ _ _).slots.size ≤ _); rw [arrV_size]; exact h2) rfl rfl hdg fun H1 e1 z oq => ?_
  refine kk H1 _ (hI.put h1 ?_ z oq)
  show H1[a]? = some (vp_cell (γ.2.1 6) (n, .inr (.inl (vp_updL f i.toNatClampNeg v))))
  have e2 : H1[a]? = some ((vp_cell (γ.2.1 6) (n, .inr (.inl f))).setSlot i.toNatClampNeg (Value.long v)) := e1
  rw [e2, vp_cell_l, vp_cell_l, arrV_store]
  congr 2
  funext q
  by_cases hq : q = i.toNatClampNeg
  · subst hq
    simp [updV, vp_updL]
  · simp [updV, vp_updL, hq]
theorem a_newJ (X : cCtx p s m args c cc nL own γ) (hA : AI γ σ0 s R h r H locs cells slots) {n : Int32} {q : CS} (hr : aArrJ h r n = some q) (hdg : decode cc pc = .ok (.newarray .long, 2))
    (kk : ∀ (H : Heap) (cells slots : Nat), AI γ σ0 s R q.1 q.2 H locs cells slots → W p l e R s m args below meth c H locs cells slots Q (F0 m (pc + 2) ls (.ref r.1 :: rest))) : W p l e R s m args below meth c H locs cells slots Q (F0 m pc ls (.int n :: rest)) := by
  obtain ⟨⟨hx, hb, hml, hown, hts⟩, hO, hD⟩ := X
  obtain ⟨hn, hn2, hr⟩ := aArrJ_inv hr
  obtain ⟨h1, h2, -⟩ := aCell_inv hr
  have e1 := hA.2.1
  have e2 := hA.2.2
  have hz : H.size = r.1 := hA.1.2.2.1
  refine va_newaK hx hb (atype := .long) (hts _ q2348) rfl hdg rfl hn rfl (by show _ * 8 ≤ _; omega) (by omega) (by omega) rfl fun H1 cA e1 z1 o1 hAr hNm => ?_
  have hcA : cA = γ.2.1 6 := Option.some.inj (hNm.symm.trans (((hD.K hO).2 6 _ rfl).2))
  subst hcA
  have hk := kk H1 (cells + 1) (slots + n.toNatClampNeg) (hA.new hO hD hr (by show H1[r.1]? = _; rw [← hz]; exact e1) z1 o1)
  rw [← hz] at hk
  exact hk
end ROWS79
