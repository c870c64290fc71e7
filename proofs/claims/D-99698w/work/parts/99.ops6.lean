/-! ===== odd, together ===== -/
def anyb (f : Nat → Bool) : Nat → Bool
  | 0 => false
  | n + 1 => anyb f n || f n
def allb (f : Nat → Bool) : Nat → Bool
  | 0 => true
  | n + 1 => allb f n && f n
theorem anyb_mono {f : Nat → Bool} {k : Nat} (h : f k = true) : ∀ n, k < n → anyb f n = true := by
  intro n
  induction n with
  | zero => intro h; omega
  | succ n ih =>
    intro hk
    unfold anyb
    by_cases e : k = n
    · subst e
      rw [h, Bool.or_true]
    · rw [ih (by omega), Bool.true_or]
theorem anyb_or {f g : Nat → Bool} : ∀ n, anyb (fun k => f k || g k) n = (anyb f n || anyb g n) := by
  intro n
  induction n with
  | zero => rfl
  | succ n ih =>
    unfold anyb
    rw [ih]
    cases anyb f n <;> cases anyb g n <;> cases f n <;> cases g n <;> rfl
/-- a search -/
theorem o_any {step : Int32 → Option (Int32 ⊕ Int32)} {n : Nat} {f : Nat → Bool} (hs : ∀ k, k < n → step (i3 k) = if f k = true then some (.inr 1) else some (.inl (i3 (k + 1)))) (he : step (i3 n) = some (.inr 0)) : o_loop step 0 = some (bI (anyb f n)) := by
  obtain ⟨r, h1, h2⟩ := o_inv (step := step) (fun k t => t = i3 k ∧ anyb f k = false) (fun r => r = bI (anyb f n)) n (fun k t hk hI => by
    obtain ⟨rfl, hI⟩ := hI
    rw [hs k hk]
    cases e : f k
    · left
      rw [if_neg (by decide)]
      exact ⟨_, rfl, rfl, by unfold anyb; rw [hI, e]; rfl⟩
    · right
      rw [if_pos rfl]
      exact ⟨_, rfl, by rw [anyb_mono e n hk]; rfl⟩) (fun t hI => by
    obtain ⟨rfl, hI⟩ := hI
    exact ⟨_, he, by rw [hI]; rfl⟩) 0 0 (Nat.zero_le _) ⟨rfl, rfl⟩
  rw [h1, h2]
theorem orf_any {f : Nat → Nat} {i : Nat} : ∀ n, (orf f n).testBit i = anyb (fun k => (f k).testBit i) n := by
  intro n
  induction n with
  | zero => exact Nat.zero_testBit i
  | succ n ih =>
    unfold orf anyb
    rw [Nat.testBit_or, ih]
theorem all_any {f : Nat → Bool} : ∀ n, allb (fun k => !f k) n = !anyb f n := by
  intro n
  induction n with
  | zero => rfl
  | succ n ih =>
    unfold allb anyb
    rw [ih]
    cases anyb f n <;> cases f n <;> rfl
section OPS6
variable {K : Nat → Nat} {h : CH} {r : CR} {o N : Nat} {σ : MS}
def orp (P : PO) (w : SV) (k : Nat) : Bool := (!bnt w k && decide (fts P w k = 0)) && !(orf (fts P w) (pN P)).testBit k
def tld (P : PO) (a b : Nat) : Bool := anyb (fun i => decide (pA P i = a) && decide (pB P i = b)) (pQ' P)
section CODD
variable {off vs : Nat} {f : CH} {P : PO} {s : Nat} {A : Nat → Nat} {w : SV}
theorem C1_orphans_eq (h1 : CSV K h o off vs f P s A w) (hs : gR h o 1 2 = some s) : C1_orphans h o = some (i3 (bst (orp P w) (pN P))) := by
  have hN := h1.1.1.1
  have hfl : ∀ k, fts P w k < 2 ^ 9 := fun k => p2 (bst_lt _ _) hN
  have hol : orf (fts P w) (pN P) < 2 ^ 9 := orf_lt _ (fun k _ => hfl k)
  unfold C1_orphans
  have e1 : o_loop (C1_orphans_L6 h o) (0, 0) = some (i3 (orf (fts P w) (pN P))) := by
    refine o_orf (fun k a hk => ?_) (fun a => ?_)
    · unfold C1_orphans_L6
      dsimp only
      rw [cx_1 h1.1, hs]
      simp only [ob_s, cx_n h1.1]
      rw [if_pos ((i3_lt (by omega) (by omega)).mpr hk)]
      simp only [sv_vc h1, C3_fitting_eq h1 hk, ob_s, i3_or, i3_succ]
    · unfold C1_orphans_L6
      dsimp only
      rw [cx_1 h1.1]
      simp only [ob_s, cx_n h1.1]
      rw [if_neg (fun x => absurd ((i3_lt (by omega) (by omega)).mp x) (by omega))]
  rw [e1, Option.bind_some]
  refine o_bst (fun k a hk => ?_) (fun a => ?_)
  · unfold C1_orphans_L36
    dsimp only
    rw [cx_1 h1.1, hs]
    simp only [ob_s, cx_n h1.1]
    rw [if_pos ((i3_lt (by omega) (by omega)).mpr hk)]
    simp only [sv_vc h1, C3_isBurnt_eq h1 hk, C3_fitting_eq h1 hk, ob_s, C1_isOf_eq (p2 (b := 31) hol (by decide)) (show k < 32 by omega), i3_succ]
    cases e2 : bnt w k
    · rw [if_pos bI_f]
      by_cases e3 : fts P w k = 0
      · rw [if_pos ((i3_eq0 (p2 (b := 31) (hfl k) (by decide))).mpr e3)]
        cases e4 : (orf (fts P w) (pN P)).testBit k
        · rw [if_pos bI_f, Option.bind_some, st1_or (p := orp P w) (by unfold orp; rw [e2, e4, decide_eq_true e3]; rfl) (by omega)]
        · rw [if_neg bI_t0, Option.bind_some, ← st1_no (p := orp P w) (k := k) (a := a) (by unfold orp; rw [e4]; exact Bool.and_false _)]
      · rw [if_neg (fun x => e3 ((i3_eq0 (p2 (b := 31) (hfl k) (by decide))).mp x)), Option.bind_some, ← st1_no (p := orp P w) (k := k) (a := a) (by unfold orp; rw [decide_eq_false e3, Bool.and_false, Bool.false_and])]
    · rw [if_neg bI_t0, Option.bind_some, ← st1_no (p := orp P w) (k := k) (a := a) (by unfold orp; rw [e2]; rfl)]
  · unfold C1_orphans_L36
    dsimp only
    rw [cx_1 h1.1]
    simp only [ob_s, cx_n h1.1]
    rw [if_neg (fun x => absurd ((i3_lt (by omega) (by omega)).mp x) (by omega))]
theorem C1_isTold_eq (h1 : CSV K h o off vs f P s A w) {a b : Nat} (ha : a < pN P) (hb : b < pN P) : C1_isTold h o (i3 a) (i3 b) = some (bI (tld P a b)) := by
  have hN := h1.1.1.1
  have hQ := h1.1.1.2.2.1
  obtain ⟨wl, fw, w1, w2, w3⟩ := cx_w h1.1
  unfold C1_isTold
  refine o_any (fun k hk => ?_) ?_
  · obtain ⟨hA, hB, hAB⟩ := h1.1.1.2.2.2.2.2.2 k hk
    obtain ⟨x1, x2, x3, x4⟩ := w3 k hk
    unfold C1_isTold_L2
    rw [cx_1 h1.1]
    simp only [ob_s, w1, w2]
    rw [if_pos ((i3_lt (by omega) (by omega)).mpr hk)]
    simp only [x1, x2, x3, x4, ob_s, i3_succ]
    by_cases e1 : pA P k = a
    · rw [if_pos (by rw [e1]), decide_eq_true e1, Bool.true_and]
      by_cases e2 : pB P k = b
      · rw [if_pos (by rw [e2]), decide_eq_true e2, if_pos rfl]
      · rw [if_neg (fun x => e2 ((i3_inj (by omega) (by omega)).mp x)), decide_eq_false e2, if_neg (by decide)]
    · rw [if_neg (fun x => e1 ((i3_inj (by omega) (by omega)).mp x)), decide_eq_false e1, Bool.false_and, if_neg (by decide)]
  · unfold C1_isTold_L2
    rw [cx_1 h1.1]
    simp only [ob_s, w1, w2]
    rw [if_neg (fun x => absurd ((i3_lt (by omega) (by omega)).mp x) (by omega))]
end CODD
theorem vpn_b (b : Bool) : vp_nar .boolean (bI b) = bI b := by cases b <;> decide
section MODD
variable {P : PO} {w : SV} {s1 : MS}
theorem fts_bit {k j : Nat} (hj : j < pN P) : (fts P w k).testBit j = fit P w k j := by
  unfold fts
  rw [bst_bit, decide_eq_true hj, Bool.true_and]
theorem anyb_congr {f g : Nat → Bool} : ∀ n, (∀ k, k < n → f k = g k) → anyb f n = anyb g n := by
  intro n
  induction n with
  | zero => intro _; rfl
  | succ n ih => intro h; unfold anyb; rw [ih (fun k hk => h k (by omega)), h n (by omega)]
theorem M_isOrphan_eq (mv : MV s1 0 P w) {k : Nat} (hk : k < pN P) : M_isOrphan s1 (i3 k) = some (bI (orp P w k)) := by
  have hN := mv.1.1
  have hfl : fts P w k < 2 ^ 9 := p2 (bst_lt _ _) hN
  unfold M_isOrphan
  rw [m0_burnt mv hk, M_fitting_eq mv hk]
  simp only [ob_s]
  have e0 : (if bI (bnt w k) = 0 then (if i3 (fts P w k) = 0 then some 1 else some 0) else some 0 : Option Int32) = some (bI (!bnt w k && decide (fts P w k = 0))) := by
    cases bnt w k
    · rw [if_pos bI_f]
      by_cases e3 : fts P w k = 0
      · rw [if_pos ((i3_eq0 (p2 (b := 31) hfl (by decide))).mpr e3), decide_eq_true e3]; rfl
      · rw [if_neg (fun x => e3 ((i3_eq0 (p2 (b := 31) hfl (by decide))).mp x)), decide_eq_false e3]; rfl
    · rw [if_neg bI_t0]; rfl
  rw [e0, Option.bind_some]
  have e1 : orp P w k = ((!bnt w k && decide (fts P w k = 0)) && allb (fun j => !fit P w j k) (pN P)) := by
    unfold orp
    rw [orf_any, all_any]
    congr 2
    exact anyb_congr _ (fun j hj => fts_bit hk)
  rw [e1]
  generalize (!bnt w k && decide (fts P w k = 0)) = q
  refine o_for0 (fun j => (bI (q && allb (fun j => !fit P w j k) j), i3 j)) (pN P) (by unfold allb; rw [Bool.and_true]; rfl) (fun j hj => ?_) ?_
  · unfold M_isOrphan_L25
    dsimp only
    rw [mv.2.1.1.1, if_pos ((i3_lt (by omega) (by omega)).mpr hj), m0_fit mv hj hk]
    simp only [ob_s, i3_succ]
    show _ = some (Sum.inl (bI (q && (allb (fun j => !fit P w j k) j && !fit P w j k)), i3 (j + 1)))
    cases e : (q && allb (fun j => !fit P w j k) j)
    · rw [if_pos bI_f, Option.bind_some, ← Bool.and_assoc, e]; rfl
    · rw [if_neg bI_t0, ← Bool.and_assoc, e]
      cases fit P w j k
      · rw [if_pos bI_f]; rfl
      · rw [if_neg bI_t0]; rfl
  · unfold M_isOrphan_L25
    dsimp only
    rw [mv.2.1.1.1, if_neg (fun x => absurd ((i3_lt (by omega) (by omega)).mp x) (by omega)), vpn_b]
theorem M_hasWord_eq (mv : MV s1 0 P w) {a b : Nat} (ha : a < pN P) (hb : b < pN P) : M_hasWord s1 (i3 a) (i3 b) = some (bI (tld P a b || tld P b a)) := by
  have hN := mv.1.1
  have hQ := mv.1.2.2.1
  unfold M_hasWord tld
  rw [← anyb_or]
  refine o_any (fun k hk => ?_) ?_
  · obtain ⟨hA, hB, hAB⟩ := mv.1.2.2.2.2.2.2 k hk
    have hJ : M_hasWord_J30 s1 (i3 a) (i3 b) (i3 k) = if (decide (pA P k = b) && decide (pB P k = a)) = true then some (.inr 1) else some (.inl (i3 (k + 1))) := by
      unfold M_hasWord_J30
      rw [mv_A mv hk, mv_B mv hk]
      simp only [ob_s, i3_succ]
      by_cases e1 : pA P k = b
      · rw [if_pos (by rw [e1]), decide_eq_true e1, Bool.true_and]
        by_cases e2 : pB P k = a
        · rw [if_pos (by rw [e2]), decide_eq_true e2, if_pos rfl]
        · rw [if_neg (fun x => e2 ((i3_inj (by omega) (by omega)).mp x)), decide_eq_false e2, if_neg (by decide)]
      · rw [if_neg (fun x => e1 ((i3_inj (by omega) (by omega)).mp x)), decide_eq_false e1, Bool.false_and, if_neg (by decide)]
    unfold M_hasWord_L2
    rw [mv.2.1.1.2.2.1, if_pos ((i3_lt (by omega) (by omega)).mpr hk), mv_A mv hk, mv_B mv hk]
    simp only [ob_s]
    by_cases e1 : pA P k = a
    · rw [if_pos (by rw [e1]), decide_eq_true e1, Bool.true_and]
      by_cases e2 : pB P k = b
      · rw [if_pos (by rw [e2]), decide_eq_true e2, Bool.true_or, if_pos rfl]
      · rw [if_neg (fun x => e2 ((i3_inj (by omega) (by omega)).mp x)), decide_eq_false e2, Bool.false_or, hJ]
    · rw [if_neg (fun x => e1 ((i3_inj (by omega) (by omega)).mp x)), decide_eq_false e1, Bool.false_and, Bool.false_or, hJ]
  · unfold M_hasWord_L2
    rw [mv.2.1.1.2.2.1, if_neg (fun x => absurd ((i3_lt (by omega) (by omega)).mp x) (by omega))]
end MODD
theorem strangers_eq {off vs : Nat} {f : CH} {P : PO} {s : Nat} {A : Nat → Nat} {w : SV} {s1 : MS} {q : Int32} (h1 : CSV K h o off vs f P s A w) (hs : gR h o 1 2 = some s) (mv : MV s1 0 P w) : ∃ v, C1_strangers h o = some v ∧ o_loop (M_odd_L66 (q, s1)) (0, 0) = some v := by
  have hN := h1.1.1.1
  unfold C1_strangers
  obtain ⟨q1, q2, m1, m2, rfl⟩ : ∃ (q1 q2 : Int32), o_loop (C1_strangers_L4 h o) (0, 0) = some q1 ∧ o_loop (M_odd_L66 (q, s1)) (0, 0) = some q2 ∧ q1 = q2 := by
    refine o_two (fun k (x1 : Int32 × Int32) (x2 : Int32 × Int32) => ∃ b, x1 = (b, i3 k) ∧ x2 = (b, i3 k)) (fun (q1 q2 : Int32) => q1 = q2) (pN P) (fun k x1 x2 hk hI => ?_) (fun x1 x2 hI => ?_) 0 _ _ (Nat.zero_le _) ⟨_, rfl, rfl⟩
    · obtain ⟨b, rfl, rfl⟩ := hI
      obtain ⟨y1, y2, n1, n2, rfl⟩ : ∃ (q1 q2 : Int32), o_loop (C1_strangers_L17 h o (b, i3 k)) (b, 0) = some q1 ∧ o_loop (M_odd_L77 (q, s1) (b, i3 k)) (b, 0) = some q2 ∧ q1 = q2 := by
        refine o_two (fun j (x1 : Int32 × Int32) (x2 : Int32 × Int32) => ∃ b, x1 = (b, i3 j) ∧ x2 = (b, i3 j)) (fun (q1 q2 : Int32) => q1 = q2) k (fun j x1 x2 hj hI => ?_) (fun x1 x2 hI => ?_) 0 _ _ (Nat.zero_le _) ⟨_, rfl, rfl⟩
        · obtain ⟨c, rfl, rfl⟩ := hI
          have hjN : j < pN P := by omega
          have hJ : M_odd_J106 (q, s1) (b, i3 k) (c, i3 j) = some (bI (!(tld P k j || tld P j k))) := by
            unfold M_odd_J106
            dsimp only
            rw [M_hasWord_eq mv hk hjN, Option.bind_some]
            cases (tld P k j || tld P j k)
            · rw [if_pos bI_f]; rfl
            · rw [if_neg bI_t0]; rfl
          unfold C1_strangers_L17 M_odd_L77
          dsimp only
          rw [if_pos ((i3_lt (by omega) (by omega)).mpr hj), if_pos ((i3_lt (by omega) (by omega)).mpr hj), hs, m0_fit mv hk hjN, m0_fit mv hjN hk, hJ]
          simp only [ob_s, sv_vc h1, C3_fits_eq h1 hk hjN, C3_fits_eq h1 hjN hk, cx_vc h1.1, C1_isTold_eq h1 hk hjN, C1_isTold_eq h1 hjN hk, i3_succ]
          left
          cases e1 : fit P w k j
          · rw [if_pos bI_f, if_pos bI_f]
            cases e2 : fit P w j k
            · rw [if_pos bI_f, if_pos bI_f]
              simp only [ob_s]
              rw [if_pos trivial]
              simp only [ob_s, Int32.add_zero]
              exact ⟨_, _, rfl, rfl, _, rfl, rfl⟩
            · rw [if_neg bI_t0, if_neg bI_t0]
              simp only [ob_s]
              rw [if_neg (show ¬ (1 : Int32) = 0 by decide)]
              cases e3 : tld P k j
              · rw [if_pos bI_f]
                cases e4 : tld P j k
                · rw [if_pos bI_f]
                  simp only [ob_s]
                  exact ⟨_, _, rfl, rfl, _, rfl, rfl⟩
                · rw [if_neg bI_t0]
                  simp only [ob_s]
                  exact ⟨_, _, rfl, rfl, _, rfl, by rw [show bI (!(false || true)) = 0 from rfl, Int32.add_zero]⟩
              · rw [if_neg bI_t0]
                simp only [ob_s]
                exact ⟨_, _, rfl, rfl, _, rfl, by rw [show bI (!(true || tld P j k)) = 0 from rfl, Int32.add_zero]⟩
          · rw [if_neg bI_t0, if_neg bI_t0]
            simp only [ob_s]
            rw [if_neg (show ¬ (1 : Int32) = 0 by decide)]
            cases e3 : tld P k j
            · rw [if_pos bI_f]
              cases e4 : tld P j k
              · rw [if_pos bI_f]
                simp only [ob_s]
                exact ⟨_, _, rfl, rfl, _, rfl, rfl⟩
              · rw [if_neg bI_t0]
                simp only [ob_s]
                exact ⟨_, _, rfl, rfl, _, rfl, by rw [show bI (!(false || true)) = 0 from rfl, Int32.add_zero]⟩
            · rw [if_neg bI_t0]
              simp only [ob_s]
              exact ⟨_, _, rfl, rfl, _, rfl, by rw [show bI (!(true || tld P j k)) = 0 from rfl, Int32.add_zero]⟩
        · obtain ⟨c, rfl, rfl⟩ := hI
          unfold C1_strangers_L17 M_odd_L77
          dsimp only
          rw [if_neg (fun x => absurd ((i3_lt (by omega) (by omega)).mp x) (by omega)), if_neg (fun x => absurd ((i3_lt (by omega) (by omega)).mp x) (by omega))]
          exact ⟨_, _, rfl, rfl, rfl⟩
      unfold C1_strangers_L4 M_odd_L66
      dsimp only
      rw [cx_1 h1.1, mv.2.1.1.1]
      simp only [ob_s, cx_n h1.1]
      rw [if_pos ((i3_lt (by omega) (by omega)).mpr hk), if_pos ((i3_lt (by omega) (by omega)).mpr hk), n1, n2]
      simp only [ob_s, i3_succ]
      exact .inl ⟨_, _, rfl, rfl, _, rfl, rfl⟩
    · obtain ⟨b, rfl, rfl⟩ := hI
      unfold C1_strangers_L4 M_odd_L66
      dsimp only
      rw [cx_1 h1.1, mv.2.1.1.1]
      simp only [ob_s, cx_n h1.1]
      rw [if_neg (fun x => absurd ((i3_lt (by omega) (by omega)).mp x) (by omega)), if_neg (fun x => absurd ((i3_lt (by omega) (by omega)).mp x) (by omega))]
      exact ⟨_, _, rfl, rfl, rfl⟩
  exact ⟨_, m1, m2⟩
theorem ded_bns {P : PO} (hP : WFP P) (w : SV) : ded P (bns P w) = bst (fun i => !whl P w i) (pQ' P) := by
  unfold ded
  apply bst_congr
  intro k hk
  obtain ⟨hA, hB, hAB⟩ := hP.2.2.2.2.2.2 k hk
  rw [bns_bit P w hA, bns_bit P w hB]
  unfold whl
  cases bnt w (pA P k) <;> cases bnt w (pB P k) <;> rfl
theorem odd2 {P : PO} (hP : WFP P) (w : SV) : ((2 ^ pQ' P - 1) &&& (ded P (bns P w) ^^^ (2 ^ 32 - 1))) &&& (rdO P w 511 ^^^ (2 ^ 32 - 1)) = bst (fun i => whl P w i && !fit P w (pA P i) (pB P i)) (pQ' P) := by
  have hN := hP.1
  have hQ := hP.2.2.1
  have h2 : 2 ^ pQ' P - 1 < 2 ^ 31 := by
    have : 2 ^ pQ' P ≤ 2 ^ 12 := Nat.pow_le_pow_right (by decide) hQ
    omega
  apply Nat.eq_of_testBit_eq
  intro i
  rw [ntb_bit (Nat.lt_of_le_of_lt Nat.and_le_left h2), ntb_bit h2, Nat.testBit_two_pow_sub_one, ded_bns hP, bst_bit, bst_bit]
  unfold rdO
  rw [bst_bit]
  by_cases hi : i < pQ' P
  · obtain ⟨hA, hB, hAB⟩ := hP.2.2.2.2.2.2 i hi
    have h9 : ∀ c : Fin 9, (511 : Nat).testBit c.val = true := by decide
    have hA9 : pA P i < 9 := by omega
    have hB9 : pB P i < 9 := by omega
    rw [decide_eq_true hi, show (511 : Nat).testBit (pA P i) = true from h9 ⟨pA P i, hA9⟩, show (511 : Nat).testBit (pB P i) = true from h9 ⟨pB P i, hB9⟩]
    cases whl P w i <;> cases fit P w (pA P i) (pB P i) <;> rfl
  · rw [decide_eq_false hi]; rfl
theorem M_odd_set {P : PO} {w : SV} {s1 : MS} {q : Int32} (mv : MV s1 0 P w) : o_loop (M_odd_L140 1 (q, s1)) (0, 0) = some (i3 (bst (fun i => !whl P w i) (pQ' P)), s1) ∧ o_loop (M_odd_L140 2 (q, s1)) (0, 0) = some (i3 (bst (fun i => whl P w i && !fit P w (pA P i) (pB P i)) (pQ' P)), s1) := by
  have hQ := mv.1.2.2.1
  constructor
  · refine o_for0 (fun k => (i3 (bst (fun i => !whl P w i) k), i3 k)) (pQ' P) rfl (fun k hk => ?_) ?_
    · unfold M_odd_L140
      dsimp only
      rw [mv.2.1.1.2.2.1, if_pos ((i3_lt (by omega) (by omega)).mpr hk), if_pos rfl, M_isWhole_eq mv hk]
      simp only [ob_s, i3_succ]
      show _ = some (Sum.inl (i3 (bst (fun i => !whl P w i) k ||| st1 (fun i => !whl P w i) k), i3 (k + 1)))
      cases e : whl P w k
      · rw [if_pos bI_f, Option.bind_some, st1_t (p := fun i => !whl P w i) (by rw [e]; rfl) (by omega), i3_or]
      · rw [if_neg bI_t0, Option.bind_some, st1_f (p := fun i => !whl P w i) (k := k) (by rw [e]; rfl), i3_or]
    · unfold M_odd_L140
      dsimp only
      rw [mv.2.1.1.2.2.1, if_neg (fun x => absurd ((i3_lt (by omega) (by omega)).mp x) (by omega))]
  · refine o_for0 (fun k => (i3 (bst (fun i => whl P w i && !fit P w (pA P i) (pB P i)) k), i3 k)) (pQ' P) rfl (fun k hk => ?_) ?_
    · obtain ⟨hA, hB, hAB⟩ := mv.1.2.2.2.2.2.2 k hk
      unfold M_odd_L140
      dsimp only
      rw [mv.2.1.1.2.2.1, if_pos ((i3_lt (by omega) (by omega)).mpr hk), if_neg (show ¬ (2 : Int32) = 1 by decide), M_isWhole_eq mv hk, mv_A mv hk, mv_B mv hk]
      simp only [ob_s, m0_fit mv hA hB, i3_succ]
      show _ = some (Sum.inl (i3 (bst (fun i => whl P w i && !fit P w (pA P i) (pB P i)) k ||| st1 (fun i => whl P w i && !fit P w (pA P i) (pB P i)) k), i3 (k + 1)))
      cases e : whl P w k
      · rw [if_pos bI_f, Option.bind_some, st1_f (p := fun i => whl P w i && !fit P w (pA P i) (pB P i)) (k := k) (by rw [e]; rfl), i3_or]
      · rw [if_neg bI_t0]
        cases e2 : fit P w (pA P k) (pB P k)
        · rw [if_pos bI_f, Option.bind_some, st1_t (p := fun i => whl P w i && !fit P w (pA P i) (pB P i)) (by rw [e, e2]; rfl) (by omega), i3_or]
        · rw [if_neg bI_t0, Option.bind_some, st1_f (p := fun i => whl P w i && !fit P w (pA P i) (pB P i)) (k := k) (by rw [e, e2]; rfl), i3_or]
    · unfold M_odd_L140
      dsimp only
      rw [mv.2.1.1.2.2.1, if_neg (fun x => absurd ((i3_lt (by omega) (by omega)).mp x) (by omega))]
theorem M_orp_set {P : PO} {w : SV} {s1 : MS} {q : Int32} (mv : MV s1 0 P w) : o_loop (M_odd_L24 (q, s1)) (0, 0) = some (i3 (bst (orp P w) (pN P))) := by
  have hN := mv.1.1
  refine o_bst (fun k a hk => ?_) (fun a => ?_)
  · unfold M_odd_L24
    dsimp only
    rw [mv.2.1.1.1, if_pos ((i3_lt (by omega) (by omega)).mpr hk), M_isOrphan_eq mv hk]
    simp only [ob_s, i3_succ]
    cases e : orp P w k
    · rw [if_pos bI_f, Option.bind_some, st1_f (p := orp P w) (k := k) e, i3_or]
    · rw [if_neg bI_t0, Option.bind_some, st1_t (p := orp P w) e (by omega), i3_or]
  · unfold M_odd_L24
    dsimp only
    rw [mv.2.1.1.1, if_neg (fun x => absurd ((i3_lt (by omega) (by omega)).mp x) (by omega))]

theorem op_odd (hS : RS K o (h, r) σ (N + 1)) (a0 : Int32) : ∃ z v σ', C1_odd h r o a0 = some z ∧ M_odd σ a0 = some (v, σ') ∧ JN K o r N true 0 z v σ' := by
  obtain ⟨S, ⟨f, B, sT, aT, hT, seed, ea, eh, hp⟩, hM, hr1, hr2⟩ := hS
  dsimp only at hp hr1 hr2
  have hZ := RCp_Z hp
  obtain ⟨hv, hs, ht, hF, hacts, hheard, hrf⟩ := RD_of hp
  have hM1 : RM (sf σ 0 0) S := RM_gx hZ (Gx_sf (.inl rfl)) hM
  have h0 : mf (sf σ 0 0) 0 = 0 := mf_sf0
  unfold C1_odd M_odd
  rw [show pf σ 0 0 = some (sf σ 0 0) from rfl, Option.bind_some]
  generalize sf σ 0 0 = s1 at hM1 h0
  have mv := RM_MV hZ hM1
  have hN := hZ.1.1
  have hMM := hZ.1.2.1
  have hQ := hZ.1.2.2.1
  cases e0 : inR a0 (3 + 1)
  · rw [aO_no (y := 3) (m := 3) rfl (by decide) e0 (by omega) (by omega), xg_r, mO_no (y := 3) (m := 3) rfl (by decide) h0 e0, Option.bind_some, if_pos (show ((0 : Int32), sf s1 0 1).1 = 0 from rfl)]
    exact ⟨_, _, _, rfl, rfl, JN_thr hp hM1 hr1 hr2 (.inl ⟨rfl, rfl, rfl⟩)⟩
  rw [aO_ok (y := 3) (m := 3) rfl (by decide) e0, xg_l, mO_ok (y := 3) (m := 3) rfl (by decide) h0 e0, Option.bind_some, if_neg (show ¬ ((1 : Int32), s1).1 = 0 from i_ne10)]
  try dsimp only
  obtain ⟨k0, hk0, rfl⟩ := inR_is e0
  have hb9 : bns (zP S) (zw S) < 2 ^ 9 := p2 (bst_lt _ _) hN
  have hcs : k0 = 0 ∨ k0 = 1 ∨ k0 = 2 ∨ k0 = 3 := by omega
  rcases hcs with rfl | rfl | rfl | rfl
  · rw [if_pos (show i3 0 = 0 from rfl), if_pos (show i3 0 = 0 from rfl), cx_vc hv.1, C1_orphans_eq hv hs, M_orp_set mv]
    simp only [ob_s]
    exact ⟨_, _, _, rfl, rfl, JN_same hp hM1 h0 hr1 hr2⟩
  · rw [if_neg (show ¬ i3 1 = 0 by decide), if_neg (show ¬ i3 1 = 3 by decide), if_neg (show ¬ i3 1 = 0 by decide), if_neg (show ¬ i3 1 = 3 by decide), hs, show o_loop (M_odd_L140 (i3 1) (1, s1)) (0, 0) = _ from (M_odd_set mv).1]
    simp only [ob_s, sv_vc hv, C3_burnt_eq hv, cx_vc hv.1, C1_dead_eq hv.1 (p2 (b := 31) hb9 (by decide)), ded_bns hZ.1]
    rw [if_pos (show i3 1 = 1 from rfl)]
    exact ⟨_, _, _, rfl, rfl, JN_same hp hM1 h0 hr1 hr2⟩
  · obtain ⟨wl, fw, w1, w2, w3⟩ := cx_w hv.1
    have h12 : 2 ^ pQ' (zP S) - 1 < 2 ^ 31 := by
      have : 2 ^ pQ' (zP S) ≤ 2 ^ 12 := Nat.pow_le_pow_right (by decide) hQ
      omega
    rw [if_neg (show ¬ i3 2 = 0 by decide), if_neg (show ¬ i3 2 = 3 by decide), if_neg (show ¬ i3 2 = 0 by decide), if_neg (show ¬ i3 2 = 3 by decide), hs, show o_loop (M_odd_L140 (i3 2) (1, s1)) (0, 0) = _ from (M_odd_set mv).2]
    simp only [ob_s, sv_vc hv, C3_burnt_eq hv, cx_vc hv.1, C1_dead_eq hv.1 (p2 (b := 31) hb9 (by decide)), cx_1 hv.1, w1, w2, show C3_readOf h (B 2) 511 = _ from C3_readOf_eq (u := 511) hv (by decide)]
    rw [if_neg (show ¬ i3 2 = 1 by decide), pw2_1 (show pQ' (zP S) < 31 by omega), ntb _ _ h12 (p2 (b := 31) (ded_lt _ _) (by omega)), ntb _ _ (Nat.lt_of_le_of_lt Nat.and_le_left h12) (p2 (b := 31) (rdO_lt _ _ _) (by omega)), odd2 hZ.1]
    exact ⟨_, _, _, rfl, rfl, JN_same hp hM1 h0 hr1 hr2⟩
  · obtain ⟨v, m1, m2⟩ := strangers_eq (q := 1) hv hs mv
    rw [if_neg (show ¬ i3 3 = 0 by decide), if_pos (show i3 3 = 3 from rfl), if_neg (show ¬ i3 3 = 0 by decide), if_pos (show i3 3 = 3 from rfl), cx_vc hv.1, m1, m2]
    simp only [ob_s]
    exact ⟨_, _, _, rfl, rfl, JN_same hp hM1 h0 hr1 hr2⟩
end OPS6
