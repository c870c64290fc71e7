/-! ===== forms asked: by how deep one may ask ===== -/
noncomputable def Fm_n (K : Nat → Nat) : Nat → CH → Nat → Nat → Option Int32
  | 0, _, _, _ => none
  | n + 1, h, r, vs => if isC h r 7 = true then C8_of h r vs else if isC h r 8 = true then C9_of h r vs else if isC h r 9 = true then C10_of (Fm_n K n) h r vs else if isC h r 6 = true then C7_of (Fm_n K n) K h r vs else none
theorem Fm_metn (l : Launch) (γ : KG) (hO : kOK γ) : ∀ n, FmMet l γ (Fm_n γ.2.2.2.2.2 n) (8 * n) (200 * n)
  | 0 => fun h r vs z hz => by cases hz
  | n + 1 => fun h r vs z hz => by
    have ih := Fm_metn l γ hO n
    unfold Fm_n at hz
    by_cases h7 : isC h r 7 = true
    · rw [if_pos h7] at hz
      exact Or.inl ⟨h7, 0, 0, Nat.zero_le _, Nat.zero_le _, wC8_of l γ hO h r vs z hz⟩
    rw [if_neg h7] at hz
    by_cases h8 : isC h r 8 = true
    · rw [if_pos h8] at hz
      exact Or.inr (Or.inl ⟨h8, 0, 0, Nat.zero_le _, Nat.zero_le _, wC9_of l γ hO h r vs z hz⟩)
    rw [if_neg h8] at hz
    by_cases h9 : isC h r 9 = true
    · rw [if_pos h9] at hz
      exact Or.inr (Or.inr (Or.inl ⟨h9, _, _, by omega, by omega, wC10_of l γ hO (Fm_n γ.2.2.2.2.2 n) _ _ ih h r vs z hz⟩))
    rw [if_neg h9] at hz
    by_cases h6 : isC h r 6 = true
    · rw [if_pos h6] at hz
      exact Or.inr (Or.inr (Or.inr ⟨h6, _, _, by omega, by omega, wC7_of l γ hO (Fm_n γ.2.2.2.2.2 n) _ _ ih h r vs z hz⟩))
    rw [if_neg h6] at hz
    cases hz
noncomputable def Fm_of (K : Nat → Nat) : CH → Nat → Nat → Option Int32 := Fm_n K 100
theorem FmMet.mono {l : Launch} {γ : KG} {F : CH → Nat → Nat → Option Int32} {f lo f' lo' : Nat} (h : FmMet l γ F f lo) (hf : f ≤ f') (hlo : lo ≤ lo') : FmMet l γ F f' lo' := by
  intro H r vs z hz
  rcases h H r vs z hz with ⟨a, f1, lo1, l1, l2, c⟩ | ⟨a, f1, lo1, l1, l2, c⟩ | ⟨a, f1, lo1, l1, l2, c⟩ | ⟨a, f1, lo1, l1, l2, c⟩
  · exact Or.inl ⟨a, f1, lo1, Nat.le_trans l1 hf, Nat.le_trans l2 hlo, c⟩
  · exact Or.inr (Or.inl ⟨a, f1, lo1, Nat.le_trans l1 hf, Nat.le_trans l2 hlo, c⟩)
  · exact Or.inr (Or.inr (Or.inl ⟨a, f1, lo1, Nat.le_trans l1 hf, Nat.le_trans l2 hlo, c⟩))
  · exact Or.inr (Or.inr (Or.inr ⟨a, f1, lo1, Nat.le_trans l1 hf, Nat.le_trans l2 hlo, c⟩))
theorem Fm_met (l : Launch) (γ : KG) (hO : kOK γ) : FmMet l γ (Fm_of γ.2.2.2.2.2) 810 20300 := (Fm_metn l γ hO 100).mono (by decide) (by decide)
