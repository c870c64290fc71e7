/-! ===== the law's own calls of the component: a method that makes no cell ===== -/
section LAW9G
variable {p : Program} {l : Launch} {e : Env} {R : Room} {s : State} {m : MethodId} {args : Array Value} {below : List Frame} {meth : Method} {c : Code} {H : Heap} {locs : List Loc} {cells slots : Nat} {Q : State → Prop}
variable {nL pc : Nat} {ls : Array Slot} {rest st0 : List Value} {γ : KG} {h h' : CH} {r : CR} {σ0 : CS} {cc bytes : ByteArray} {index n maxL f lo : Nat} {y : MethodName} {ret : Option FieldType} {As : List Value} {own C : String} {b ci N : Nat} {T : u_T} {ty : Nat → FieldType} {w : Option Value}
theorem l_cN (X : cCtx p s m args c cc nL own γ) (h0H : HR γ σ0.1 s.heap) (hA : AI γ σ0 s R h r H locs cells slots) (hC : kCls ci C T N ty) (hM : Met l y (ws_ y bytes maxL ret) (kRm f lo) (cPc γ h (.ref b :: As)) (cNq γ h w h') 0 0 (kdm h)) (hrv : isC h b ci = true) (hnm : kNm y C n) (h1 : Cond.methodLink own index y ∈ lw_all) (h2 : Cond.instanceMethod y ∈ lw_all) (h3 : Cond.initialized C ∈ lw_all) (h4 : Cond.code y bytes maxL ret ∈ lw_all) (h5 : Cond.selects C y y ∈ lw_all)
    (hR : f + 1 ≤ R.frames ∧ 8 + (maxL + 11) + lo ≤ R.locals) (hn : As.length = n) (hst : st0 = As.reverse ++ .ref b :: rest) (hl : ls.size = nL) (hW : 2 * (F0 m pc ls st0).monitorRoom + (rest.map fun v => v.category).sum ≤ 8) (hdg : decode cc pc = .ok (.invokevirtual index, 3))
    (kk : ∀ (H1 : Heap) (locs : List Loc), AI γ σ0 s R h' r H1 locs cells slots → fw h r.1 H H1 → dm h h' r.1 → W p l e R s m args below meth c H1 locs cells slots Q (F0 m (pc + 3) ls (w.toList ++ rest))) : W p l e R s m args below meth c H locs cells slots Q (F0 m pc ls st0) := by
  obtain ⟨hF, hO, hD⟩ := X
  have hts := hF.2.2.2.2
  have hr := va_runV hF hM (cwV n hts (lw_V h1 h2 h5 h3 h4) rfl rfl rfl hnm hR) ⟨cPc_blind _, c_recv hC hO hD hA.1.1 hrv, fun U hU hW => ⟨rfl, hA.D hO hD h0H hU hW, by rw [hU]; exact hA.1.1⟩⟩ (l := l) (e := e) (R := R) (below := below) (meth := meth) (locs := locs) (cells := cells) (slots := slots) (g := F0 m pc ls st0) (rest := rest) rfl hn hl hst hW hdg hA.RR
  intro T hT X
  obtain ⟨v, st₀, t, T', L, h0', X', hL, e1, e2, ⟨hv, hq⟩, st⟩ := hr T hT X
  cases hv
  have hq' := hq
  obtain ⟨q1, q2, q3, q4⟩ := hq'
  have hz : H.size = r.1 := hA.1.2.2.1
  obtain ⟨t2, a1, b1⟩ := kk T'.heap (locs ++ L) (hA.up (hA.1.call h0' e1 hq hL)) ⟨by rw [e1, q2, h0', hz]; exact Nat.le_refl _, fun q z1 z2 => by
    rw [e1, q4.2 q (by rw [h0', hz]; exact z1) (fun hk => by
      have hk : (h q).isSome = true := hk
      rw [z2] at hk
      cases hk), h0']⟩ (fun q hq => .inl (q3 q hq)) T' rfl X'
  exact ⟨t2, st t2 a1, b1⟩
end LAW9G
