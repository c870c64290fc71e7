/-! ===== couples, count ===== -/
section COUPLES
variable {K : Nat → Nat} {h hc hc' h' : CH} {r r' : CR} {o N n n' : Nat} {σ τ τ' : MS} {S : ST} {w : SV} {P : PO}
theorem RM_49 (h : RM σ S) (e1 : τ.1 = σ.1) (e2 : ∀ j, j ≠ 49 → ma τ j = ma σ j) (e0 : ma τ 49 0 = ma σ 49 0) : RM τ S := by
  obtain ⟨h1, h2, h3, h4, h5, h6, h7, h8⟩ := h
  have em : ∀ k, mf τ k = mf σ k := fun k => by unfold mf; rw [e1]
  refine ⟨ME_of h1 (fun k _ _ => em k) (fun j _ _ => e2 j (by omega)) e0, ?_, ?_, ?_, ?_, ?_, ?_, ?_⟩
  · rw [e2 44 (by decide)]; exact h2
  · unfold AM at h3 ⊢; rw [em, e2 45 (by decide)]; exact h3
  · unfold HM at h4 ⊢; rw [em, e2 52 (by decide)]; exact h4
  · unfold IM AM HM at h5 ⊢; rw [em, em, em, e2 59 (by decide), e2 60 (by decide), e2 61 (by decide)]; exact h5
  · rw [em, e2 12 (by decide)]; exact h6
  · rw [em]; exact h7
  · rw [e2 16 (by decide)]; exact h8
def clr (s k : Nat) : Nat := s &&& (2 ^ k ^^^ (2 ^ 32 - 1))
theorem clq_le (s k : Nat) : clr s k ≤ s := Nat.and_le_left
theorem clr_b {s k j : Nat} (hs : s < 2 ^ 31) : (clr s k).testBit j = (s.testBit j && !decide (k = j)) := clr_bit hs
theorem clr_lt {s k : Nat} (hs : s < 2 ^ 31) (hk : s.testBit k = true) : clr s k < s := by
  refine Nat.lt_of_le_of_ne (clq_le s k) (fun e => ?_)
  have := clr_b (k := k) (j := k) hs
  rw [e, hk, decide_eq_true rfl] at this
  cases this
noncomputable def lsb (s : Nat) : Nat := @dite _ (∃ k, s.testBit k = true ∧ ∀ j, j < k → s.testBit j = false) (Classical.propDecidable _) (fun h => Classical.choose h) (fun _ => 0)
theorem lsb_eq {s k : Nat} (h1 : s.testBit k = true) (h2 : ∀ j, j < k → s.testBit j = false) : lsb s = k := by
  have hex : ∃ k, s.testBit k = true ∧ ∀ j, j < k → s.testBit j = false := ⟨k, h1, h2⟩
  have e : lsb s = Classical.choose hex := by unfold lsb; exact dif_pos hex
  rw [e]
  obtain ⟨c1, c2⟩ := Classical.choose_spec hex
  rcases Nat.lt_trichotomy (Classical.choose hex) k with x | x | x
  · rw [h2 _ x] at c1; cases c1
  · exact x
  · rw [c2 _ x] at h1; cases h1
def cfo (F : Nat → Nat) (P : PO) (w : SV) (s k : Nat) : Nat → Nat
  | 0 => F s
  | i + 1 => if s.testBit (k + 1 + i) = true ∧ (fit P w k (k + 1 + i) || fit P w (k + 1 + i) k) = true then max (cfo F P w s k i) (1 + F (clr s (k + 1 + i))) else cfo F P w s k i
noncomputable def cst (F : Nat → Nat) (P : PO) (w : SV) (s : Nat) : Nat := if s = 0 then 0 else cfo F P w (clr s (lsb s)) (lsb s) (pN P - (lsb s + 1))
noncomputable def cpl (P : PO) (w : SV) : Nat → Nat → Nat
  | 0, _ => 0
  | m + 1, s => cst (cpl P w m) P w s
def mub (s : Nat) : Nat := smf (fun i => (s.testBit i).toNat) 9
theorem smf_lt {f g : Nat → Nat} {k : Nat} : ∀ n, (∀ i, i < n → f i ≤ g i) → k < n → f k < g k → smf f n < smf g n := by
  intro n
  induction n with
  | zero => intro _ hk; omega
  | succ n ih =>
    intro h1 hk h2
    have e1 := h1 n (by omega)
    unfold smf
    by_cases e : k = n
    · subst e
      have : ∀ m, m ≤ k → smf f m ≤ smf g m := by
        intro m
        induction m with
        | zero => intro _; exact Nat.le_refl _
        | succ m ihm =>
          intro hm
          have := h1 m (by omega)
          have := ihm (by omega)
          unfold smf
          omega
      have := this k (Nat.le_refl _)
      omega
    · have := ih (fun i hi => h1 i (by omega)) (by omega) h2
      omega
theorem mub_lt {s k : Nat} (hs : s < 2 ^ 31) (hk : k < 9) (h1 : s.testBit k = true) : mub (clr s k) < mub s := by
  unfold mub
  refine smf_lt (k := k) 9 (fun i _ => ?_) hk ?_
  · rw [clr_b hs]
    cases s.testBit i <;> cases decide (k = i) <;> decide
  · rw [clr_b hs, h1, decide_eq_true rfl]
    decide
theorem bit9 {s k : Nat} (hs : s < 2 ^ 9) (h1 : s.testBit k = true) : k < 9 := by
  apply Classical.byContradiction
  intro x
  rw [Nat.testBit_lt_two_pow (Nat.lt_of_lt_of_le hs (Nat.pow_le_pow_right (by decide) (by omega)))] at h1
  cases h1
theorem cfo_congr {F G : Nat → Nat} {s k : Nat} (hs : s < 2 ^ 9) (h : ∀ t, t < 2 ^ 9 → mub t ≤ mub s → F t = G t) : ∀ i, cfo F P w s k i = cfo G P w s k i := by
  intro i
  induction i with
  | zero => exact h s hs (Nat.le_refl _)
  | succ i ih =>
    unfold cfo
    rw [ih]
    by_cases e : s.testBit (k + 1 + i) = true ∧ (fit P w k (k + 1 + i) || fit P w (k + 1 + i) k) = true
    · rw [if_pos e, if_pos e, h _ (Nat.lt_of_le_of_lt (clq_le _ _) hs) (Nat.le_of_lt (mub_lt (by omega) (bit9 hs e.1) e.1))]
    · rw [if_neg e, if_neg e]
theorem cpl_fuel : ∀ m m' s, s < 2 ^ 9 → mub s < m → mub s < m' → cpl P w m s = cpl P w m' s := by
  intro m
  induction m with
  | zero => intro m' s _ h; omega
  | succ m ih =>
    intro m' s hs h1 h2
    cases m' with
    | zero => omega
    | succ m' =>
      show cst (cpl P w m) P w s = cst (cpl P w m') P w s
      unfold cst
      by_cases e : s = 0
      · rw [if_pos e, if_pos e]
      · rw [if_neg e, if_neg e]
        obtain ⟨k, k1, k2, k3⟩ := least_bit 9 hs e
        rw [lsb_eq k2 k3]
        have := mub_lt (s := s) (by omega) k1 k2
        exact cfo_congr (Nat.lt_of_le_of_lt (clq_le _ _) hs) (fun t ht hm => ih m' t ht (by omega) (by omega)) _
theorem cfo_le {F : Nat → Nat} {m s k : Nat} (h : ∀ t, F t ≤ m) : ∀ i, cfo F P w s k i ≤ m + 1 := by
  intro i
  induction i with
  | zero => exact Nat.le_succ_of_le (h s)
  | succ i ih =>
    unfold cfo
    split
    · have := h (clr s (k + 1 + i))
      omega
    · exact ih
theorem cpl_le (m : Nat) : ∀ s, cpl P w m s ≤ m := by
  induction m with
  | zero => intro s; exact Nat.le_refl _
  | succ m ih =>
    intro s
    show cst (cpl P w m) P w s ≤ m + 1
    unfold cst
    split
    · omega
    · exact cfo_le ih _
theorem mub_le (s : Nat) : mub s ≤ 9 := by
  unfold mub
  have := smf_le (f := fun i => (s.testBit i).toNat) (b := 1) 9 (fun k _ => by cases s.testBit k <;> decide)
  omega
theorem cpl_12 {s : Nat} (hs : s < 2 ^ 9) : cpl P w 12 s = cst (cpl P w 12) P w s := by
  have := mub_le s
  exact cpl_fuel 12 13 s hs (by omega) (by omega)
theorem C1_cpl_eq {off vs : Nat} {f : CH} {s0 : Nat} {A : Nat → Nat} (h1 : CSV K h o off vs f P s0 A w) (hs : gR h o 1 2 = some s0) : ∀ m s, s < 2 ^ pN P → mub s < m → m ≤ 20 → C1_couples_n m h o (i3 s) = some (i3 (cpl P w m s)) := by
  have hN := h1.1.1.1
  intro m
  induction m with
  | zero => intro s _ h; omega
  | succ m ih =>
    intro s hs2 hm hm2
    have hs9 : s < 2 ^ 9 := p2 hs2 hN
    show C1_couplesS (C1_couples_n m) h o (i3 s) = some (i3 (cst (cpl P w m) P w s))
    unfold C1_couplesS cst
    by_cases e : s = 0
    · rw [if_pos ((i3_eq0 (by omega)).mpr e), if_pos e]; rfl
    · obtain ⟨k, k1, k2, k3⟩ := least_bit _ hs2 e
      have hmu := mub_lt (s := s) (k := k) (by omega) (by omega) k2
      have hcl : clr s k < 2 ^ pN P := Nat.lt_of_le_of_lt (clq_le _ _) hs2
      have hcl9 : clr s k < 2 ^ 9 := p2 hcl hN
      rw [if_neg (fun x => e ((i3_eq0 (by omega)).mp x)), if_neg e, ntz_eq (k := k) (by omega) (by omega) k2 k3, Option.bind_some, lsb_eq k2 k3, clr_eq (a := s) (k := k) (by omega) (by omega), show s &&& (2 ^ k ^^^ (2 ^ 32 - 1)) = clr s k from rfl, cx_vc h1.1, ih (clr s k) hcl (by omega) (by omega), Option.bind_some, i3_succ]
      refine o_for0 (fun i => (i3 (cfo (cpl P w m) P w (clr s k) k i), i3 (k + 1 + i))) (pN P - (k + 1)) rfl (fun i hi => ?_) ?_
      · unfold C1_couplesS_L31
        dsimp only
        have hj : k + 1 + i < pN P := by omega
        rw [cx_1 h1.1, Option.bind_some, cx_n h1.1, Option.bind_some, if_pos ((i3_lt (by omega) (by omega)).mpr hj), clr_eq (a := s) (k := k) (by omega) (by omega), show s &&& (2 ^ k ^^^ (2 ^ 32 - 1)) = clr s k from rfl, C1_isOf_eq (by omega) (by omega), Option.bind_some, i3_succ]
        have hle := cfo_le (P := P) (w := w) (s := clr s k) (k := k) (cpl_le (P := P) (w := w) m) i
        have hj78 : ∀ hb : (clr s k).testBit (k + 1 + i) = true, C1_couplesS_J78 (C1_couples_n m) h o (i3 s) (i3 k) (i3 (cfo (cpl P w m) P w (clr s k) k i), i3 (k + 1 + i)) = some (i3 (max (cfo (cpl P w m) P w (clr s k) k i) (1 + cpl P w m (clr (clr s k) (k + 1 + i))))) := by
          intro hb
          have hmu2 := mub_lt (s := clr s k) (k := k + 1 + i) (by omega) (by omega) hb
          have hle2 := cpl_le (P := P) (w := w) m (clr (clr s k) (k + 1 + i))
          unfold C1_couplesS_J78
          dsimp only
          rw [clr_eq (a := s) (k := k) (by omega) (by omega), show s &&& (2 ^ k ^^^ (2 ^ 32 - 1)) = clr s k from rfl, clr_eq (a := clr s k) (k := k + 1 + i) (by omega) (by omega), show clr s k &&& (2 ^ (k + 1 + i) ^^^ (2 ^ 32 - 1)) = clr (clr s k) (k + 1 + i) from rfl, cx_vc h1.1, ih _ (Nat.lt_of_le_of_lt (clq_le _ _) hcl) (by omega) (by omega), Option.bind_some, show (1 : Int32) + i3 (cpl P w m (clr (clr s k) (k + 1 + i))) = i3 (1 + cpl P w m (clr (clr s k) (k + 1 + i))) from i3_add 1 _, i3_max (by omega) (by omega)]
        show _ = some (Sum.inl (i3 (if (clr s k).testBit (k + 1 + i) = true ∧ (fit P w k (k + 1 + i) || fit P w (k + 1 + i) k) = true then max (cfo (cpl P w m) P w (clr s k) k i) (1 + cpl P w m (clr (clr s k) (k + 1 + i))) else cfo (cpl P w m) P w (clr s k) k i), i3 (k + 1 + (i + 1))))
        rw [show k + 1 + i + 1 = k + 1 + (i + 1) from rfl]
        cases eb : (clr s k).testBit (k + 1 + i)
        · rw [if_pos bI_f, Option.bind_some, if_neg (by rintro ⟨x, _⟩; cases x)]
        · rw [if_neg bI_t0, hs, Option.bind_some, sv_vc h1, C3_fits_eq h1 k1 hj, Option.bind_some]
          cases ef : fit P w k (k + 1 + i)
          · rw [if_pos bI_f, Option.bind_some, sv_vc h1, C3_fits_eq h1 hj k1, Option.bind_some]
            cases eg : fit P w (k + 1 + i) k
            · rw [if_pos bI_f, Option.bind_some, if_neg (by rintro ⟨_, x⟩; cases x)]
            · rw [if_neg bI_t0, hj78 eb, Option.bind_some, if_pos ⟨rfl, rfl⟩]
          · rw [if_neg bI_t0, hj78 eb, Option.bind_some, if_pos ⟨rfl, rfl⟩]
      · unfold C1_couplesS_L31
        dsimp only
        rw [cx_1 h1.1, Option.bind_some, cx_n h1.1, Option.bind_some, if_neg (fun x => absurd ((i3_lt (by omega) (by omega)).mp x) (by omega))]
theorem MV_49 {b : Nat} (h : MV σ b P w) (e1 : τ.1 = σ.1) (e2 : ∀ j, j ≠ 49 → ma τ j = ma σ j) (e0 : ma τ 49 0 = ma σ 49 0) : MV τ b P w := by
  refine ⟨h.1, ME_of h.2.1 (fun k _ _ => by unfold mf; rw [e1]) (fun j _ _ => e2 j (by omega)) e0, ?_, h.2.2.2⟩
  show MRg (ma τ 44) b P w
  rw [e2 44 (by decide)]
  exact h.2.2.1
theorem M_couples_eq (mv : MV τ 0 P w) : ∃ τ', M_couples τ = some (i3 (cpl P w 12 (2 ^ pN P - 1)), τ') ∧ τ'.1 = τ.1 ∧ (∀ j, j ≠ 49 → ma τ' j = ma τ j) ∧ ma τ' 49 0 = ma τ 49 0 := by
  have hN := mv.1.1
  have hp9 : 2 ^ pN P ≤ 2 ^ 9 := Nat.pow_le_pow_right (by decide) hN
  have hp0 : 1 ≤ 2 ^ pN P := Nat.one_le_two_pow
  have h49 : ma τ 49 0 = 0 := mv.2.1.2.2.2.2
  unfold M_couples
  obtain ⟨res, l1, z1, z2, z3⟩ : ∃ res, o_loop M_couples_L2 (1, τ) = some res ∧ res.1 = τ.1 ∧ (∀ j, j ≠ 49 → ma res j = ma τ j) ∧ ∀ x, x < 2 ^ pN P → ma res 49 x = i3 (cpl P w 12 x) := by
    obtain ⟨res, l1, l2⟩ := o_inv (step := M_couples_L2) (fun s (t : Int32 × MS) => (t.1 = i3 s ∧ t.2.1 = τ.1 ∧ (∀ j, j ≠ 49 → ma t.2 j = ma τ j) ∧ ∀ x, x < s → ma t.2 49 x = i3 (cpl P w 12 x)) ∧ s ≠ 0) (fun res => res.1 = τ.1 ∧ (∀ j, j ≠ 49 → ma res j = ma τ j) ∧ ∀ x, x < 2 ^ pN P → ma res 49 x = i3 (cpl P w 12 x)) (2 ^ pN P) (fun s t hsN hI => by
      obtain ⟨t1, t2⟩ := t
      obtain ⟨⟨rfl, z1, z2, z3⟩, hI0⟩ := hI
      dsimp only at z1 z2 z3
      left
      have hs9 : s < 2 ^ 9 := by omega
      have hs0 : s ≠ 0 := hI0
      obtain ⟨k, k1, k2, k3⟩ := least_bit _ hsN hs0
      have e2 : mf t2 1 = i3 (pN P) := by unfold mf; rw [z1]; exact mv.2.1.1.1
      have hmv2 : MV t2 0 P w := MV_49 mv z1 z2 (by rw [z3 0 (by omega), h49]; rfl)
      have hlt1 := clr_lt (s := s) (k := k) (by omega) k2
      have hv : ∀ x, cpl P w 12 x < 100 := fun x => by have := cpl_le (P := P) (w := w) 12 x; omega
      have hvc : ∀ i, cfo (cpl P w 12) P w (clr s k) k i < 100 := fun i => by have := cfo_le (P := P) (w := w) (s := clr s k) (k := k) (cpl_le (P := P) (w := w) 12) i; omega
      unfold M_couples_L2
      dsimp only
      have m1 : o_loop (M_couples_L14 (i3 s, t2)) 0 = some (i3 k) := by
        refine o_for0 (fun i => i3 i) k rfl (fun i hi => ?_) ?_
        · unfold M_couples_L14
          dsimp only
          rw [i3_bitB (by omega) (by omega), k3 i hi, if_pos bI_f, i3_succ]
        · unfold M_couples_L14
          dsimp only
          rw [i3_bitB (by omega) (by omega), k2, if_neg bI_t0]
      have m2 : o_loop (M_couples_L49 (i3 s, t2) (i3 k)) (i3 (cpl P w 12 (clr s k)), i3 (k + 1)) = some (i3 (cpl P w 12 s)) := by
        have ec : cpl P w 12 s = cfo (cpl P w 12) P w (clr s k) k (pN P - (k + 1)) := by
          rw [cpl_12 hs9]
          unfold cst
          rw [if_neg hs0, lsb_eq k2 k3]
        rw [ec]
        refine o_for0 (fun i => (i3 (cfo (cpl P w 12) P w (clr s k) k i), i3 (k + 1 + i))) (pN P - (k + 1)) rfl (fun i hi => ?_) ?_
        · unfold M_couples_L49
          dsimp only
          have hj : k + 1 + i < pN P := by omega
          rw [e2, if_pos ((i3_lt (by omega) (by omega)).mpr hj), clr_eq (a := s) (k := k) (by omega) (by omega), show s &&& (2 ^ k ^^^ (2 ^ 32 - 1)) = clr s k from rfl, i3_bitB (by omega) (by omega), i3_succ]
          have hj90 : M_couples_J90 (i3 s, t2) (i3 k) (i3 (cfo (cpl P w 12) P w (clr s k) k i), i3 (k + 1 + i)) = some (i3 (max (cfo (cpl P w 12) P w (clr s k) k i) (1 + cpl P w 12 (clr (clr s k) (k + 1 + i))))) := by
            have q1 := hv (clr (clr s k) (k + 1 + i))
            have q2 := hvc i
            have q3 := clq_le (clr s k) (k + 1 + i)
            unfold M_couples_J90
            dsimp only
            rw [clr_eq (a := s) (k := k) (by omega) (by omega), show s &&& (2 ^ k ^^^ (2 ^ 32 - 1)) = clr s k from rfl, clr_eq (a := clr s k) (k := k + 1 + i) (by omega) (by omega), show clr s k &&& (2 ^ (k + 1 + i) ^^^ (2 ^ 32 - 1)) = clr (clr s k) (k + 1 + i) from rfl, ald_i3 (j := 49) (show clr (clr s k) (k + 1 + i) < 512 by omega), Option.bind_some, z3 _ (by omega), show (1 : Int32) + i3 (cpl P w 12 (clr (clr s k) (k + 1 + i))) = i3 (1 + cpl P w 12 (clr (clr s k) (k + 1 + i))) from i3_add 1 _, i3_gt (by omega) (by omega), Option.bind_some]
          show _ = some (Sum.inl (i3 (if (clr s k).testBit (k + 1 + i) = true ∧ (fit P w k (k + 1 + i) || fit P w (k + 1 + i) k) = true then max (cfo (cpl P w 12) P w (clr s k) k i) (1 + cpl P w 12 (clr (clr s k) (k + 1 + i))) else cfo (cpl P w 12) P w (clr s k) k i), i3 (k + 1 + (i + 1))))
          rw [show k + 1 + i + 1 = k + 1 + (i + 1) from rfl]
          cases eb : (clr s k).testBit (k + 1 + i)
          · rw [if_neg bI_f1, Option.bind_some, if_neg (by rintro ⟨x, _⟩; cases x)]
          · rw [if_pos bI_t, m0_fit hmv2 k1 hj, Option.bind_some]
            cases ef : fit P w k (k + 1 + i)
            · rw [if_pos bI_f, m0_fit hmv2 hj k1, Option.bind_some]
              cases eg : fit P w (k + 1 + i) k
              · rw [if_pos bI_f, Option.bind_some, if_neg (by rintro ⟨_, x⟩; cases x)]
              · rw [if_neg bI_t0, hj90, Option.bind_some, if_pos ⟨rfl, rfl⟩]
            · rw [if_neg bI_t0, hj90, Option.bind_some, if_pos ⟨rfl, rfl⟩]
        · unfold M_couples_L49
          dsimp only
          rw [e2, if_neg (fun x => absurd ((i3_lt (by omega) (by omega)).mp x) (by omega))]
      rw [e2, pw2 (by omega), if_pos ((i3_lt (by omega) (by omega)).mpr hsN), m1, Option.bind_some, clr_eq (a := s) (k := k) (by omega) (by omega), show s &&& (2 ^ k ^^^ (2 ^ 32 - 1)) = clr s k from rfl, ald_i3 (j := 49) (show clr s k < 512 by omega), Option.bind_some, z3 _ hlt1, i3_succ k, m2, Option.bind_some, ast_i3 (j := 49) (show s < 512 by omega), Option.bind_some, i3_succ s]
      refine ⟨_, rfl, ⟨rfl, z1, fun j hj => (ma_sb hj).trans (z2 j hj), fun x hx => ?_⟩, Nat.succ_ne_zero s⟩
      show ma (sa t2 49 s _) 49 x = _
      rw [ma_saq]
      by_cases e : x = s
      · rw [if_pos e, e]
      · rw [if_neg e]; exact z3 x (by omega)) (fun t hI => by
      obtain ⟨t1, t2⟩ := t
      obtain ⟨⟨rfl, z1, z2, z3⟩, hI0⟩ := hI
      dsimp only at z1 z2 z3
      unfold M_couples_L2
      dsimp only
      have e2 : mf t2 1 = i3 (pN P) := by unfold mf; rw [z1]; exact mv.2.1.1.1
      rw [e2, pw2 (by omega), if_neg (fun x => absurd ((i3_lt (by omega) (by omega)).mp x) (by omega))]
      exact ⟨_, rfl, z1, z2, z3⟩) 1 (1, τ) hp0 ⟨⟨rfl, rfl, fun _ _ => rfl, fun x hx => by rw [show x = 0 by omega, h49]; rfl⟩, by decide⟩
    exact ⟨res, l1, l2⟩
  rw [l1, Option.bind_some, show mf res 1 = i3 (pN P) from (by unfold mf; rw [z1]; exact mv.2.1.1.1), pw2_1 (by omega), ald_i3 (j := 49) (show 2 ^ pN P - 1 < 512 by omega), Option.bind_some, z3 _ (by omega)]
  exact ⟨res, rfl, z1, z2, by rw [z3 0 (by omega), h49]; rfl⟩

theorem op_count (hS : RS K o (h, r) σ (N + 1)) (a0 : Int32) : ∃ z v σ', C1_count h r o a0 = some z ∧ M_count σ a0 = some (v, σ') ∧ JN K o r N true 0 z v σ' := by
  obtain ⟨S, ⟨f, B, sT, aT, hT, seed, ea, eh, hp⟩, hM, hr1, hr2⟩ := hS
  dsimp only at hp hr1 hr2
  have hZ := RCp_Z hp
  obtain ⟨hv, hs, ht, hF, hacts, hheard, hrf⟩ := RD_of hp
  have hM1 : RM (sf σ 0 0) S := RM_gx hZ (Gx_sf (.inl rfl)) hM
  have h0 : mf (sf σ 0 0) 0 = 0 := mf_sf0
  unfold C1_count M_count
  rw [show pf σ 0 0 = some (sf σ 0 0) from rfl, Option.bind_some]
  generalize sf σ 0 0 = s1 at hM1 h0
  have mv := RM_MV hZ hM1
  have hN := hZ.1.1
  have hMM := hZ.1.2.1
  have hQ := hZ.1.2.2.1
  have hdd := hZ.2.1.2
  rw [M_in0 a0 (y := 14) (b := 14) rfl (by decide), Option.bind_some]
  cases e0 : inR a0 (14 + 1)
  · have hne : ∀ k, k < 15 → a0 ≠ i3 k := by
      intro k hk e
      rw [e, inR_k (by omega), decide_eq_true (show k < 14 + 1 by omega)] at e0
      cases e0
    have hB : inB a0 12 14 = false := by
      cases q : inB a0 12 14 with
      | false => rfl
      | true =>
        obtain ⟨k, k1, k2, k3⟩ := inB_is q
        exact absurd k3 (hne k (by omega))
    rw [M_right_no h0 (by decide), Option.bind_some, if_pos (show ((0 : Int32), sf s1 0 1).1 = 0 from rfl)]
    rw [if_neg (show ¬ a0 = 0 from hne 0 (by decide)), if_neg (show ¬ a0 = 1 from hne 1 (by decide)), if_neg (show ¬ a0 = 2 from hne 2 (by decide)), if_neg (show ¬ a0 = 3 from hne 3 (by decide)), if_neg (show ¬ a0 = 4 from hne 4 (by decide)), if_neg (show ¬ a0 = 5 from hne 5 (by decide)), if_neg (show ¬ a0 = 6 from hne 6 (by decide)), if_neg (show ¬ a0 = 7 from hne 7 (by decide)), if_neg (show ¬ a0 = 8 from hne 8 (by decide)), if_neg (show ¬ a0 = 9 from hne 9 (by decide)), if_neg (show ¬ a0 = 10 from hne 10 (by decide)), if_neg (show ¬ a0 = 11 from hne 11 (by decide)), show C1_in a0 12 14 = some (bI (inB a0 12 14)) from C1_in_eq (a := 12) (b := 14) a0 (by decide) (by decide), Option.bind_some, hB, bI_f, found_no (by omega) (by omega), xchv_th, xg_r]
    exact ⟨_, _, _, rfl, rfl, JN_thr hp hM1 hr1 hr2 (.inl ⟨rfl, rfl, rfl⟩)⟩
  obtain ⟨k0, hk0, rfl⟩ := inR_is e0
  rw [M_right_ok h0, Option.bind_some, if_neg (show ¬ ((1 : Int32), s1).1 = 0 from i_ne10)]
  dsimp only
  have hcs : k0 = 0 ∨ k0 = 1 ∨ k0 = 2 ∨ k0 = 3 ∨ k0 = 4 ∨ k0 = 5 ∨ k0 = 6 ∨ k0 = 7 ∨ k0 = 8 ∨ k0 = 9 ∨ k0 = 10 ∨ k0 = 11 ∨ k0 = 12 ∨ k0 = 13 ∨ k0 = 14 := by omega
  rcases hcs with rfl | rfl | rfl | rfl | rfl | rfl | rfl | rfl | rfl | rfl | rfl | rfl | rfl | rfl | rfl
  · rw [if_pos (show i3 0 = 0 from rfl), if_pos (show i3 0 = 0 from rfl)]
    rw [cx_1 hv.1, Option.bind_some, cx_n hv.1, Option.bind_some, mv.2.1.1.1]
    exact ⟨_, _, _, rfl, rfl, JN_same hp hM1 h0 hr1 hr2⟩
  · rw [if_neg (show ¬ i3 1 = 0 by decide), if_pos (show i3 1 = 1 from rfl), if_neg (show ¬ i3 1 = 0 by decide), if_pos (show i3 1 = 1 from rfl)]
    rw [cx_1 hv.1, Option.bind_some, cx_vo hv.1, cx_m hv.1, Option.bind_some, mv.2.1.1.2.1]
    exact ⟨_, _, _, rfl, rfl, JN_same hp hM1 h0 hr1 hr2⟩
  · rw [if_neg (show ¬ i3 2 = 0 by decide), if_neg (show ¬ i3 2 = 1 by decide), if_pos (show i3 2 = 2 from rfl), if_neg (show ¬ i3 2 = 0 by decide), if_neg (show ¬ i3 2 = 1 by decide), if_pos (show i3 2 = 2 from rfl)]
    obtain ⟨wl, fw, w1, w2, w3⟩ := cx_w hv.1
    rw [cx_1 hv.1, Option.bind_some, w1, Option.bind_some, w2, Option.bind_some, mv.2.1.1.2.2.1]
    exact ⟨_, _, _, rfl, rfl, JN_same hp hM1 h0 hr1 hr2⟩
  · rw [if_neg (show ¬ i3 3 = 0 by decide), if_neg (show ¬ i3 3 = 1 by decide), if_neg (show ¬ i3 3 = 2 by decide), if_pos (show i3 3 = 3 from rfl), if_neg (show ¬ i3 3 = 0 by decide), if_neg (show ¬ i3 3 = 1 by decide), if_neg (show ¬ i3 3 = 2 by decide), if_pos (show i3 3 = 3 from rfl)]
    rw [cx_1 hv.1, Option.bind_some, cx_s hv.1, Option.bind_some, mv.2.1.1.2.2.2]
    exact ⟨_, _, _, rfl, rfl, JN_same hp hM1 h0 hr1 hr2⟩
  · rw [if_neg (show ¬ i3 4 = 0 by decide), if_neg (show ¬ i3 4 = 1 by decide), if_neg (show ¬ i3 4 = 2 by decide), if_neg (show ¬ i3 4 = 3 by decide), if_pos (show i3 4 = 4 from rfl), if_neg (show ¬ i3 4 = 0 by decide), if_neg (show ¬ i3 4 = 1 by decide), if_neg (show ¬ i3 4 = 2 by decide), if_neg (show ¬ i3 4 = 3 by decide), if_pos (show i3 4 = 4 from rfl)]
    rw [hs, Option.bind_some, sv_d hv, Option.bind_some, m0_d mv, Option.bind_some]
    exact ⟨_, _, _, rfl, rfl, JN_same hp hM1 h0 hr1 hr2⟩
  · rw [if_neg (show ¬ i3 5 = 0 by decide), if_neg (show ¬ i3 5 = 1 by decide), if_neg (show ¬ i3 5 = 2 by decide), if_neg (show ¬ i3 5 = 3 by decide), if_neg (show ¬ i3 5 = 4 by decide), if_pos (show i3 5 = 5 from rfl), if_neg (show ¬ i3 5 = 0 by decide), if_neg (show ¬ i3 5 = 1 by decide), if_neg (show ¬ i3 5 = 2 by decide), if_neg (show ¬ i3 5 = 3 by decide), if_neg (show ¬ i3 5 = 4 by decide), if_pos (show i3 5 = 5 from rfl)]
    rw [hs, Option.bind_some, sv_vc hv, C3_burnt_eq hv, Option.bind_some, M_burntOnes_eq mv, Option.bind_some]
    exact ⟨_, _, _, rfl, rfl, JN_same hp hM1 h0 hr1 hr2⟩
  · rw [if_neg (show ¬ i3 6 = 0 by decide), if_neg (show ¬ i3 6 = 1 by decide), if_neg (show ¬ i3 6 = 2 by decide), if_neg (show ¬ i3 6 = 3 by decide), if_neg (show ¬ i3 6 = 4 by decide), if_neg (show ¬ i3 6 = 5 by decide), if_pos (show i3 6 = 6 from rfl), if_neg (show ¬ i3 6 = 0 by decide), if_neg (show ¬ i3 6 = 1 by decide), if_neg (show ¬ i3 6 = 2 by decide), if_neg (show ¬ i3 6 = 3 by decide), if_neg (show ¬ i3 6 = 4 by decide), if_neg (show ¬ i3 6 = 5 by decide), if_pos (show i3 6 = 6 from rfl)]
    rw [hs, Option.bind_some, sv_vc hv, C3_borne_eq hv, Option.bind_some, show M_borneOnes s1 0 = _ from M_borneOnes_eq (b := 0) mv, Option.bind_some]
    exact ⟨_, _, _, rfl, rfl, JN_same hp hM1 h0 hr1 hr2⟩
  · rw [if_neg (show ¬ i3 7 = 0 by decide), if_neg (show ¬ i3 7 = 1 by decide), if_neg (show ¬ i3 7 = 2 by decide), if_neg (show ¬ i3 7 = 3 by decide), if_neg (show ¬ i3 7 = 4 by decide), if_neg (show ¬ i3 7 = 5 by decide), if_neg (show ¬ i3 7 = 6 by decide), if_pos (show i3 7 = 7 from rfl), if_neg (show ¬ i3 7 = 0 by decide), if_neg (show ¬ i3 7 = 1 by decide), if_neg (show ¬ i3 7 = 2 by decide), if_neg (show ¬ i3 7 = 3 by decide), if_neg (show ¬ i3 7 = 4 by decide), if_neg (show ¬ i3 7 = 5 by decide), if_neg (show ¬ i3 7 = 6 by decide), if_pos (show i3 7 = 7 from rfl)]
    have e63 : knw (zP S) (zw S) (2 ^ pM (zP S) - 1) = knw (zP S) (zw S) 63 := by rw [knw_63 hZ.1, knw_ev]
    rw [hs, Option.bind_some, sv_vc hv, C3_read_eq hv, Option.bind_some]
    simp only [M_everybody_eq mv.2.1 hZ.1, ob_s, m0_known mv (ev_lt hZ.1), e63]
    exact ⟨_, _, _, rfl, rfl, JN_same hp hM1 h0 hr1 hr2⟩
  · rw [if_neg (show ¬ i3 8 = 0 by decide), if_neg (show ¬ i3 8 = 1 by decide), if_neg (show ¬ i3 8 = 2 by decide), if_neg (show ¬ i3 8 = 3 by decide), if_neg (show ¬ i3 8 = 4 by decide), if_neg (show ¬ i3 8 = 5 by decide), if_neg (show ¬ i3 8 = 6 by decide), if_neg (show ¬ i3 8 = 7 by decide), if_pos (show i3 8 = 8 from rfl), if_neg (show ¬ i3 8 = 0 by decide), if_neg (show ¬ i3 8 = 1 by decide), if_neg (show ¬ i3 8 = 2 by decide), if_neg (show ¬ i3 8 = 3 by decide), if_neg (show ¬ i3 8 = 4 by decide), if_neg (show ¬ i3 8 = 5 by decide), if_neg (show ¬ i3 8 = 6 by decide), if_neg (show ¬ i3 8 = 7 by decide), if_pos (show i3 8 = 8 from rfl)]
    obtain ⟨τ2, x1, x2, x3, x4⟩ := M_couples_eq mv
    have hq : 2 ^ pN (zP S) - 1 < 2 ^ pN (zP S) := by have := Nat.one_le_two_pow (n := pN (zP S)); omega
    have hmu := mub_le (2 ^ pN (zP S) - 1)
    rw [cx_1 hv.1, Option.bind_some, cx_n hv.1, Option.bind_some, pw2_1 (by omega), cx_vc hv.1, show C1_couples h o (i3 (2 ^ pN (zP S) - 1)) = _ from C1_cpl_eq hv hs 12 _ hq (by omega) (by decide), Option.bind_some, x1, Option.bind_some]
    exact ⟨_, _, _, rfl, rfl, JN_same hp (RM_49 hM1 x2 x3 x4) (by unfold mf; rw [x2]; exact h0) hr1 hr2⟩
  · rw [if_neg (show ¬ i3 9 = 0 by decide), if_neg (show ¬ i3 9 = 1 by decide), if_neg (show ¬ i3 9 = 2 by decide), if_neg (show ¬ i3 9 = 3 by decide), if_neg (show ¬ i3 9 = 4 by decide), if_neg (show ¬ i3 9 = 5 by decide), if_neg (show ¬ i3 9 = 6 by decide), if_neg (show ¬ i3 9 = 7 by decide), if_neg (show ¬ i3 9 = 8 by decide), if_pos (show i3 9 = 9 from rfl), if_neg (show ¬ i3 9 = 0 by decide), if_neg (show ¬ i3 9 = 1 by decide), if_neg (show ¬ i3 9 = 2 by decide), if_neg (show ¬ i3 9 = 3 by decide), if_neg (show ¬ i3 9 = 4 by decide), if_neg (show ¬ i3 9 = 5 by decide), if_neg (show ¬ i3 9 = 6 by decide), if_neg (show ¬ i3 9 = 7 by decide), if_neg (show ¬ i3 9 = 8 by decide), if_pos (show i3 9 = 9 from rfl)]
    obtain ⟨al, y1, y2⟩ := hacts
    rw [y1, Option.bind_some, y2, Option.bind_some, hM1.2.2.1.1]
    exact ⟨_, _, _, rfl, rfl, JN_same hp hM1 h0 hr1 hr2⟩
  · rw [if_neg (show ¬ i3 10 = 0 by decide), if_neg (show ¬ i3 10 = 1 by decide), if_neg (show ¬ i3 10 = 2 by decide), if_neg (show ¬ i3 10 = 3 by decide), if_neg (show ¬ i3 10 = 4 by decide), if_neg (show ¬ i3 10 = 5 by decide), if_neg (show ¬ i3 10 = 6 by decide), if_neg (show ¬ i3 10 = 7 by decide), if_neg (show ¬ i3 10 = 8 by decide), if_neg (show ¬ i3 10 = 9 by decide), if_pos (show i3 10 = 10 from rfl), if_neg (show ¬ i3 10 = 0 by decide), if_neg (show ¬ i3 10 = 1 by decide), if_neg (show ¬ i3 10 = 2 by decide), if_neg (show ¬ i3 10 = 3 by decide), if_neg (show ¬ i3 10 = 4 by decide), if_neg (show ¬ i3 10 = 5 by decide), if_neg (show ¬ i3 10 = 6 by decide), if_neg (show ¬ i3 10 = 7 by decide), if_neg (show ¬ i3 10 = 8 by decide), if_neg (show ¬ i3 10 = 9 by decide), if_pos (show i3 10 = 10 from rfl)]
    obtain ⟨al, _, y1, y2, _⟩ := hheard
    rw [y1, Option.bind_some, y2, Option.bind_some, hM1.2.2.2.1.1]
    exact ⟨_, _, _, rfl, rfl, JN_same hp hM1 h0 hr1 hr2⟩
  · rw [if_neg (show ¬ i3 11 = 0 by decide), if_neg (show ¬ i3 11 = 1 by decide), if_neg (show ¬ i3 11 = 2 by decide), if_neg (show ¬ i3 11 = 3 by decide), if_neg (show ¬ i3 11 = 4 by decide), if_neg (show ¬ i3 11 = 5 by decide), if_neg (show ¬ i3 11 = 6 by decide), if_neg (show ¬ i3 11 = 7 by decide), if_neg (show ¬ i3 11 = 8 by decide), if_neg (show ¬ i3 11 = 9 by decide), if_neg (show ¬ i3 11 = 10 by decide), if_pos (show i3 11 = 11 from rfl), if_neg (show ¬ i3 11 = 0 by decide), if_neg (show ¬ i3 11 = 1 by decide), if_neg (show ¬ i3 11 = 2 by decide), if_neg (show ¬ i3 11 = 3 by decide), if_neg (show ¬ i3 11 = 4 by decide), if_neg (show ¬ i3 11 = 5 by decide), if_neg (show ¬ i3 11 = 6 by decide), if_neg (show ¬ i3 11 = 7 by decide), if_neg (show ¬ i3 11 = 8 by decide), if_neg (show ¬ i3 11 = 9 by decide), if_neg (show ¬ i3 11 = 10 by decide), if_pos (show i3 11 = 11 from rfl)]
    rw [ht, Option.bind_some, hM1.2.2.2.2.2.1.1]
    exact ⟨_, _, _, rfl, rfl, JN_same hp hM1 h0 hr1 hr2⟩
  · rw [if_neg (show ¬ i3 12 = 0 by decide), if_neg (show ¬ i3 12 = 1 by decide), if_neg (show ¬ i3 12 = 2 by decide), if_neg (show ¬ i3 12 = 3 by decide), if_neg (show ¬ i3 12 = 4 by decide), if_neg (show ¬ i3 12 = 5 by decide), if_neg (show ¬ i3 12 = 6 by decide), if_neg (show ¬ i3 12 = 7 by decide), if_neg (show ¬ i3 12 = 8 by decide), if_neg (show ¬ i3 12 = 9 by decide), if_neg (show ¬ i3 12 = 10 by decide), if_neg (show ¬ i3 12 = 11 by decide), if_neg (show ¬ i3 12 = 0 by decide), if_neg (show ¬ i3 12 = 1 by decide), if_neg (show ¬ i3 12 = 2 by decide), if_neg (show ¬ i3 12 = 3 by decide), if_neg (show ¬ i3 12 = 4 by decide), if_neg (show ¬ i3 12 = 5 by decide), if_neg (show ¬ i3 12 = 6 by decide), if_neg (show ¬ i3 12 = 7 by decide), if_neg (show ¬ i3 12 = 8 by decide), if_neg (show ¬ i3 12 = 9 by decide), if_neg (show ¬ i3 12 = 10 by decide), if_neg (show ¬ i3 12 = 11 by decide)]
    obtain ⟨rf, y1, y2⟩ := hrf
    rw [show C1_in (i3 12) 12 14 = some 1 from by decide, Option.bind_some, found_ok, xchv_ok, xg_l]
    dsimp only
    rw [y1, Option.bind_some, show (i3 12 - 12 : Int32) = i3 0 by decide, y2 0 (by decide), Option.bind_some, ald_i3 (j := 16) (show 0 < 3 by decide), hM1.2.2.2.2.2.2.2 0 (by decide), Option.bind_some]
    exact ⟨_, _, _, rfl, rfl, JN_same hp hM1 h0 hr1 hr2⟩
  · rw [if_neg (show ¬ i3 13 = 0 by decide), if_neg (show ¬ i3 13 = 1 by decide), if_neg (show ¬ i3 13 = 2 by decide), if_neg (show ¬ i3 13 = 3 by decide), if_neg (show ¬ i3 13 = 4 by decide), if_neg (show ¬ i3 13 = 5 by decide), if_neg (show ¬ i3 13 = 6 by decide), if_neg (show ¬ i3 13 = 7 by decide), if_neg (show ¬ i3 13 = 8 by decide), if_neg (show ¬ i3 13 = 9 by decide), if_neg (show ¬ i3 13 = 10 by decide), if_neg (show ¬ i3 13 = 11 by decide), if_neg (show ¬ i3 13 = 0 by decide), if_neg (show ¬ i3 13 = 1 by decide), if_neg (show ¬ i3 13 = 2 by decide), if_neg (show ¬ i3 13 = 3 by decide), if_neg (show ¬ i3 13 = 4 by decide), if_neg (show ¬ i3 13 = 5 by decide), if_neg (show ¬ i3 13 = 6 by decide), if_neg (show ¬ i3 13 = 7 by decide), if_neg (show ¬ i3 13 = 8 by decide), if_neg (show ¬ i3 13 = 9 by decide), if_neg (show ¬ i3 13 = 10 by decide), if_neg (show ¬ i3 13 = 11 by decide)]
    obtain ⟨rf, y1, y2⟩ := hrf
    rw [show C1_in (i3 13) 12 14 = some 1 from by decide, Option.bind_some, found_ok, xchv_ok, xg_l]
    dsimp only
    rw [y1, Option.bind_some, show (i3 13 - 12 : Int32) = i3 1 by decide, y2 1 (by decide), Option.bind_some, ald_i3 (j := 16) (show 1 < 3 by decide), hM1.2.2.2.2.2.2.2 1 (by decide), Option.bind_some]
    exact ⟨_, _, _, rfl, rfl, JN_same hp hM1 h0 hr1 hr2⟩
  · rw [if_neg (show ¬ i3 14 = 0 by decide), if_neg (show ¬ i3 14 = 1 by decide), if_neg (show ¬ i3 14 = 2 by decide), if_neg (show ¬ i3 14 = 3 by decide), if_neg (show ¬ i3 14 = 4 by decide), if_neg (show ¬ i3 14 = 5 by decide), if_neg (show ¬ i3 14 = 6 by decide), if_neg (show ¬ i3 14 = 7 by decide), if_neg (show ¬ i3 14 = 8 by decide), if_neg (show ¬ i3 14 = 9 by decide), if_neg (show ¬ i3 14 = 10 by decide), if_neg (show ¬ i3 14 = 11 by decide), if_neg (show ¬ i3 14 = 0 by decide), if_neg (show ¬ i3 14 = 1 by decide), if_neg (show ¬ i3 14 = 2 by decide), if_neg (show ¬ i3 14 = 3 by decide), if_neg (show ¬ i3 14 = 4 by decide), if_neg (show ¬ i3 14 = 5 by decide), if_neg (show ¬ i3 14 = 6 by decide), if_neg (show ¬ i3 14 = 7 by decide), if_neg (show ¬ i3 14 = 8 by decide), if_neg (show ¬ i3 14 = 9 by decide), if_neg (show ¬ i3 14 = 10 by decide), if_neg (show ¬ i3 14 = 11 by decide)]
    obtain ⟨rf, y1, y2⟩ := hrf
    rw [show C1_in (i3 14) 12 14 = some 1 from by decide, Option.bind_some, found_ok, xchv_ok, xg_l]
    dsimp only
    rw [y1, Option.bind_some, show (i3 14 - 12 : Int32) = i3 2 by decide, y2 2 (by decide), Option.bind_some, ald_i3 (j := 16) (show 2 < 3 by decide), hM1.2.2.2.2.2.2.2 2 (by decide), Option.bind_some]
    exact ⟨_, _, _, rfl, rfl, JN_same hp hM1 h0 hr1 hr2⟩
end COUPLES
