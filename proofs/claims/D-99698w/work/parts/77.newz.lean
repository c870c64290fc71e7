section ROWS77
variable {p : Program} {l : Launch} {e : Env} {R : Room} {s : State} {m : MethodId} {args : Array Value} {below : List Frame} {meth : Method} {c : Code} {H : Heap} {locs : List Loc} {cells slots : Nat} {Q : State → Prop}
variable {nL pc : Nat} {ls : Array Slot} {rest st0 : List Value} {γ : KG} {h h' : CH} {r r' : CR} {σ0 σ σ' : CS} {cc bytes : ByteArray} {index n maxL f lo : Nat} {y : MethodName} {ret : Option FieldType} {As : List Value} {own C : String} {ci N : Nat} {T : u_T} {ty : Nat → FieldType} {A : Nat → Prop} {sz : Nat} {a : Array Value} {w : Option Value} {mc ms : Nat}
theorem a_newZ (X : cCtx p s m args c cc nL own γ) (hA : AI γ σ0 s R h r H locs cells slots) {n : Int32} {q : CS} (hr : aArr h r 1 n = some q) (hdg : decode cc pc = .ok (.newarray .boolean, 2))
    (kk : ∀ (H : Heap) (cells slots : Nat), AI γ σ0 s R q.1 q.2 H locs cells slots → W p l e R s m args below meth c H locs cells slots Q (F0 m (pc + 2) ls (.ref r.1 :: rest))) : W p l e R s m args below meth c H locs cells slots Q (F0 m pc ls (.int n :: rest)) := by
  obtain ⟨⟨hx, hb, hml, hown, hts⟩, hO, hD⟩ := X
  obtain ⟨hn, hn2, hr⟩ := aArr_inv hr
  obtain ⟨h1, h2, -⟩ := aCell_inv hr
  have e1 := hA.2.1
  have e2 := hA.2.2
  have hz : H.size = r.1 := hA.1.2.2.1
  refine va_newaK hx hb (atype := .boolean) (hts _ q1831) rfl hdg rfl hn rfl (by show _ * 1 ≤ _; omega) (by omega) (by omega) rfl fun H1 cA e1 z1 o1 hAr hNm => ?_
  have hcA : cA = γ.2.1 1 := Option.some.inj (hNm.symm.trans (((hD.K hO).2 1 _ rfl).2))
  subst hcA
  have hk := kk H1 (cells + 1) (slots + n.toNatClampNeg) (hA.new hO hD hr (by show H1[r.1]? = _; rw [← hz]; exact e1) z1 o1)
  rw [← hz] at hk
  exact hk
end ROWS77
