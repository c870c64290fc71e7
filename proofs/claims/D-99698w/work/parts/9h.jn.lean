/-! ===== what both sides' agreement says in the law's words ===== -/
section JN9H
variable {K : Nat → Nat} {o N : Nat} {r : CR} {a : Bool} {c v : Int32} {z : (Int32 × CS) ⊕ XT} {σ' : MS}
theorem JN_K (h : JN K o r N a c z v σ') : wzK c z = mf σ' 0 := by
  cases z with
  | inl q => exact h.1.symm
  | inr x =>
    obtain ⟨h1 | h1, -⟩ := h
    · show (if x.1 = 0 then (1 : Int32) else c) = _
      rw [if_pos h1.1, h1.2.2]
    · show (if x.1 = 0 then (1 : Int32) else c) = _
      rw [if_neg (by rw [h1.1]; decide), h1.2.2]
theorem JN_R (h : JN K o r N a c z v σ') : RS K o (zxH z, zxC z) σ' N ∧ ale (zxC z) r := by
  cases z with
  | inl q => exact ⟨h.2.2.1, h.2.2.2⟩
  | inr x => exact ⟨h.2.1, h.2.2⟩
theorem JN_v (h : JN K o r N a c z v σ') (hk : wzK c z = 0) : ∃ q, z = .inl q ∧ q.1 = v := by
  cases z with
  | inl q => exact ⟨q, rfl, h.2.1⟩
  | inr x =>
    have hk : (if x.1 = 0 then (1 : Int32) else c) = 0 := hk
    obtain ⟨h1 | h1, -⟩ := h
    · rw [if_pos h1.1] at hk
      exact absurd hk (by decide)
    · rw [if_neg (by rw [h1.1]; decide)] at hk
      exact absurd hk h1.2.1
theorem JN_t0 (h : JN K o r N true 0 z v σ') : ∀ x, z = .inr x → x.1 = 0 := by
  intro x hx
  subst hx
  obtain ⟨h1 | h1, -⟩ := h
  · exact h1.1
  · exact absurd rfl h1.2.1
theorem JN_t1 (h : JN K o r N false c z v σ') : ∀ x, z = .inr x → x.1 = 1 := by
  intro x hx
  subst hx
  obtain ⟨h1 | h1, -⟩ := h
  · exact absurd h1.2.1 (by decide)
  · exact h1.1
theorem JN_t2 (h : JN K o r N a c z v σ') : ∀ x, z = .inr x → x.1 = 0 ∨ x.1 = 1 := by
  intro x hx
  subst hx
  obtain ⟨h1 | h1, -⟩ := h
  · exact .inl h1.1
  · exact .inr h1.1
theorem RS_o {h : CH} {σ : MS} (hS : RS K o (h, r) σ N) : isC h o 1 = true := by
  obtain ⟨S, ⟨f, B, sT, aT, hT, seed, ea, eh, hp⟩, -⟩ := hS
  exact isC_of (RC_o hp).2.1
end JN9H
