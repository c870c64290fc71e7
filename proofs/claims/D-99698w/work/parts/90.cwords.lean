/-! ===== the component: words that are dead, known, shown ===== -/
section CW
variable {K : Nat → Nat} {h : CH} {o off vs : Nat} {f : CH} {P : PO} {s : Nat} {A : Nat → Nat} {w : SV}
def ded (P : PO) (b : Nat) : Nat := bst (fun i => b.testBit (pA P i) || b.testBit (pB P i)) (pQ' P)
theorem ded_lt (P : PO) (b : Nat) : ded P b < 2 ^ pQ' P := bst_lt _ _
theorem C1_isDead_eq (hX : CX K h o off vs f P) {i b : Nat} (hi : i < pQ' P) (hb : b < 2 ^ 31) : C1_isDead h o (i3 i) (i3 b) = some (bI (b.testBit (pA P i) || b.testBit (pB P i))) := by
  have hN := hX.1.1
  obtain ⟨hA, hB, hAB⟩ := hX.1.2.2.2.2.2.2 i hi
  obtain ⟨wl, fw, w1, w2, w3⟩ := cx_w hX
  obtain ⟨x1, x2, x3, x4⟩ := w3 i hi
  unfold C1_isDead
  rw [cx_1 hX, Option.bind_some, w1, Option.bind_some, x1, Option.bind_some, x2, Option.bind_some, x3, Option.bind_some, C1_isOf_eq hb (by omega), Option.bind_some]
  cases e : b.testBit (pA P i)
  · rw [if_pos (by decide), Option.bind_some, w1, Option.bind_some, x1, Option.bind_some, x2, Option.bind_some, x4, Option.bind_some, C1_isOf_eq hb (by omega), Option.bind_some]
    cases e2 : b.testBit (pB P i)
    · rw [if_pos (by decide)]; rfl
    · rw [if_neg (by decide)]; rfl
  · rw [if_neg (by decide)]; rfl
theorem C1_dead_eq (hX : CX K h o off vs f P) {b : Nat} (hb : b < 2 ^ 31) : C1_dead h o (i3 b) = some (i3 (ded P b)) := by
  have hQ := hX.1.2.2.1
  obtain ⟨wl, fw, w1, w2, w3⟩ := cx_w hX
  unfold C1_dead
  refine o_bst (fun k a hk => ?_) (fun a => ?_)
  · unfold C1_dead_L4
    dsimp only
    rw [cx_1 hX, Option.bind_some, w1, Option.bind_some, w2, Option.bind_some, if_pos ((i3_lt (by omega) (by omega)).mpr hk), cx_vc hX, C1_isDead_eq hX hk hb, Option.bind_some, i3_succ]
    cases e : (b.testBit (pA P k) || b.testBit (pB P k))
    · rw [if_pos (by decide), Option.bind_some, ← st1_no (p := fun i => b.testBit (pA P i) || b.testBit (pB P i)) (k := k) (a := a) e]
    · rw [if_neg (by decide), Option.bind_some, st1_or (p := fun i => b.testBit (pA P i) || b.testBit (pB P i)) (k := k) (a := a) e (by omega)]
  · unfold C1_dead_L4
    dsimp only
    rw [cx_1 hX, Option.bind_some, w1, Option.bind_some, w2, Option.bind_some, if_neg (fun x => absurd ((i3_lt (by omega) (by omega)).mp x) (by omega))]
theorem bns_bit (P : PO) (w : SV) {k : Nat} (hk : k < pN P) : (bns P w).testBit k = bnt w k := by
  unfold bns
  rw [bst_bit, decide_eq_true hk, Bool.true_and]
theorem ntb (a b : Nat) (ha : a < 2 ^ 31) (hb : b < 2 ^ 31) : i3 a &&& (i3 b ^^^ -1) = i3 (a &&& (b ^^^ (2 ^ 32 - 1))) := andnot_bit a b hb
theorem ntb_bit {a b j : Nat} (ha : a < 2 ^ 31) : (a &&& (b ^^^ (2 ^ 32 - 1))).testBit j = (a.testBit j && !b.testBit j) := by
  rw [Nat.testBit_and, Nat.testBit_xor, Nat.testBit_two_pow_sub_one]
  by_cases hj : j < 32
  · rw [decide_eq_true hj]
    cases a.testBit j <;> cases b.testBit j <;> rfl
  · rw [Nat.testBit_lt_two_pow (x := a) (i := j) (Nat.lt_of_lt_of_le ha (Nat.pow_le_pow_right (by decide) (by omega)))]
    rfl
theorem ded_lst (hP : WFP P) (w : SV) {u : Nat} (hu : u < 2 ^ 31) : ded P (bns P w ||| u) &&& (ded P (bns P w) ^^^ (2 ^ 32 - 1)) = lst P w u := by
  have hQ := hP.2.2.1
  apply Nat.eq_of_testBit_eq
  intro j
  rw [ntb_bit (p2 (ded_lt _ _) (by omega))]
  unfold ded lst
  rw [bst_bit, bst_bit, bst_bit]
  by_cases hj : j < pQ' P
  · obtain ⟨hA, hB, hAB⟩ := hP.2.2.2.2.2.2 j hj
    rw [decide_eq_true hj, Nat.testBit_or, Nat.testBit_or, bns_bit P w hA, bns_bit P w hB]
    unfold whl
    cases bnt w (pA P j) <;> cases bnt w (pB P j) <;> cases u.testBit (pA P j) <;> cases u.testBit (pB P j) <;> rfl
  · rw [decide_eq_false hj]; rfl
theorem C1_lost_eq (h1 : CSV K h o off vs f P s A w) (hs : gR h o 1 2 = some s) {u : Nat} (hu : u < 2 ^ 9) : C1_lost h o (i3 u) = some (i3 (lst P w u)) := by
  have hN := h1.1.1.1
  have hQ := h1.1.1.2.2.1
  have hb : bns P w < 2 ^ 9 := p2 (bst_lt _ _) hN
  have hbu : bns P w ||| u < 2 ^ 9 := Nat.or_lt_two_pow hb hu
  unfold C1_lost
  rw [hs, Option.bind_some, sv_vc h1, C3_burnt_eq h1, Option.bind_some, cx_vc h1.1, i3_or, C1_dead_eq h1.1 (p2 (b := 31) hbu (by decide)), Option.bind_some, Option.bind_some, sv_vc h1, C3_burnt_eq h1, Option.bind_some, cx_vc h1.1, C1_dead_eq h1.1 (p2 (b := 31) hb (by decide)), Option.bind_some, ntb _ _ (p2 (ded_lt _ _) (by omega)) (p2 (ded_lt _ _) (by omega)), ded_lst h1.1.1 w (p2 (b := 31) hu (by decide))]
/-- who knows a word -/
def kwr (P : PO) (w : SV) (i : Nat) : Nat := bst (fun c => (w (28 + c)).testBit i) (pM P)
theorem C1_knowers_eq (h1 : CSV K h o off vs f P s A w) (hs : gR h o 1 2 = some s) {i : Nat} (hi : i < 32) : C1_knowers h o (i3 i) = some (i3 (kwr P w i)) := by
  have hM := h1.1.1.2.1
  unfold C1_knowers
  refine o_bst (fun k a hk => ?_) (fun a => ?_)
  · have hw := (sv_w h1).2.2.2.1 k hk
    unfold C1_knowers_L4
    dsimp only
    rw [cx_1 h1.1, Option.bind_some, cx_vo h1.1, cx_m h1.1, Option.bind_some, if_pos ((i3_lt (by omega) (by omega)).mpr hk), hs, Option.bind_some, sv_3 h1, Option.bind_some, sv_K h1 hk, Option.bind_some, C1_isOf_eq (p2 (b := 31) hw (by decide)) hi, Option.bind_some, i3_succ]
    cases e : (w (28 + k)).testBit i
    · rw [if_pos (by decide), Option.bind_some, ← st1_no (p := fun c => (w (28 + c)).testBit i) (k := k) (a := a) e]
    · rw [if_neg (by decide), Option.bind_some, st1_or (p := fun c => (w (28 + c)).testBit i) (k := k) (a := a) e (by omega)]
  · unfold C1_knowers_L4
    dsimp only
    rw [cx_1 h1.1, Option.bind_some, cx_vo h1.1, cx_m h1.1, Option.bind_some, if_neg (fun x => absurd ((i3_lt (by omega) (by omega)).mp x) (by omega))]
/-- where a word shows -/
def swh (P : PO) (w : SV) (i : Nat) : Nat := if (shw P w (whr P w (pA P i))).testBit i = true then whr P w (pA P i) else 99
theorem C1_showsAt_eq (h1 : CSV K h o off vs f P s A w) (hs : gR h o 1 2 = some s) {i : Nat} (hi : i < pQ' P) : C1_showsAt h o (i3 i) = some (wI (swh P w i)) := by
  have hN := h1.1.1.1
  have hQ := h1.1.1.2.2.1
  obtain ⟨hA, hB, hAB⟩ := h1.1.1.2.2.2.2.2.2 i hi
  obtain ⟨wl, fw, w1, w2, w3⟩ := cx_w h1.1
  obtain ⟨x1, x2, x3, x4⟩ := w3 i hi
  have h4 := whr_lt h1.1.1 (sv_w h1) hA
  unfold C1_showsAt swh
  rw [hs, Option.bind_some, cx_1 h1.1, Option.bind_some, w1, Option.bind_some, x1, Option.bind_some, x2, Option.bind_some, x3, Option.bind_some, sv_vc h1, C3_where_eq h1 hA, Option.bind_some]
  by_cases e : whr P w (pA P i) = 99
  · rw [if_pos ((wI_m (by omega)).mpr e), e]
    split <;> rfl
  · have e2 : wI (whr P w (pA P i)) = i3 (whr P w (pA P i)) := if_neg e
    have hsh : shw P w (whr P w (pA P i)) < 2 ^ 31 := p2 (rdO_lt _ _ _) (by omega)
    rw [if_neg (fun x => e ((wI_m (by omega)).mp x)), Option.bind_some, sv_vc h1, e2, C3_shows_eq h1 (by omega), Option.bind_some, C1_isOf_eq hsh (by omega), Option.bind_some]
    cases e3 : (shw P w (whr P w (pA P i))).testBit i
    · rw [if_pos (by decide), if_neg (by decide)]; rfl
    · rw [if_neg (by decide), if_pos (by decide), e2]
end CW
section MW
variable {σ : MS} {P : PO} {w : SV}
theorem shw_bit {t i : Nat} (hP : WFP P) (hi : i < pQ' P) : (shw P w t).testBit i = (decide (whr P w (pA P i) = t) && decide (whr P w (pB P i) = t) && fit P w (pA P i) (pB P i)) := by
  obtain ⟨hA, hB, hAB⟩ := hP.2.2.2.2.2.2 i hi
  unfold shw rdO
  rw [bst_bit, decide_eq_true hi, Bool.true_and]
  unfold shI
  rw [bst_bit, bst_bit, decide_eq_true hA, decide_eq_true hB, Bool.true_and, Bool.true_and]
theorem M_showsWhere_eq (h : MV σ 0 P w) {i : Nat} (hi : i < pQ' P) : M_showsWhere σ (i3 i) = some (wI (swh P w i)) := by
  have hQ := h.1.2.2.1
  obtain ⟨hA, hB, hAB⟩ := h.1.2.2.2.2.2.2 i hi
  have h4 := whr_lt h.1 h.2.2.2.1 hA
  unfold M_showsWhere
  obtain ⟨r, e, hr⟩ : ∃ r, o_loop (M_showsWhere_L2 σ (i3 i)) 0 = some r ∧ r = wI (swh P w i) := by
    refine o_inv (fun k t => t = i3 k ∧ ∀ j, j < k → (shw P w j).testBit i = false) (fun r => r = wI (swh P w i)) 4 (fun k t hk hI => ?_) (fun t hI => ?_) 0 _ (Nat.zero_le _) ⟨rfl, fun j hj => absurd hj (Nat.not_lt_zero _)⟩
    · obtain ⟨rfl, hj⟩ := hI
      have hsh : shw P w k < 2 ^ 31 := p2 (rdO_lt _ _ _) (by omega)
      unfold M_showsWhere_L2
      rw [if_pos ((i3_ltl (c := 4) (n := 4) rfl (by omega) (by decide)).mpr hk), m0_shows h hk, Option.bind_some, i3_bitB hsh (by omega), i3_succ]
      cases e : (shw P w k).testBit i
      · rw [if_neg (by decide)]
        left
        refine ⟨_, rfl, rfl, fun j hj2 => ?_⟩
        by_cases ej : j = k
        · rw [ej]; exact e
        · exact hj j (by omega)
      · rw [if_pos (by decide)]
        right
        refine ⟨_, rfl, ?_⟩
        have ek : whr P w (pA P i) = k := by
          rw [shw_bit h.1 hi] at e
          have := (Bool.and_eq_true _ _ ▸ (Bool.and_eq_true _ _ ▸ e).1).1
          exact of_decide_eq_true this
        unfold swh
        rw [ek, if_pos e]
        unfold wI
        rw [if_neg (by omega)]
    · obtain ⟨rfl, hj⟩ := hI
      unfold M_showsWhere_L2
      rw [if_neg (by decide)]
      refine ⟨_, rfl, ?_⟩
      unfold swh
      rcases h4 with h4 | h4
      · rw [hj _ h4, if_neg (by decide)]; rfl
      · rw [h4]; split <;> rfl
  rw [e, hr]
theorem M_knowers_eq {b : Nat} (h : MV σ b P w) {i : Nat} (hi : i < 32) : M_knowers σ (i3 b) (i3 i) = some (i3 (kwr P w i)) := by
  have hM := h.1.2.1
  unfold M_knowers
  refine o_bst (fun k a hk => ?_) (fun a => ?_)
  · have hw := h.2.2.2.1.2.2.2.1 k hk
    unfold M_knowers_L5
    dsimp only
    rw [h.2.1.1.2.1, if_pos ((i3_lt (by omega) (by omega)).mpr hk), mv_28 h hk, Option.bind_some, i3_bitB (p2 (b := 31) hw (by decide)) hi, i3_succ]
    have e2 : bI ((w (28 + k)).testBit i) <<< (i3 k &&& 31) = i3 (st1 (fun c => (w (28 + c)).testBit i) k) := by
      cases e : (w (28 + k)).testBit i
      · rw [← st1_f (p := fun c => (w (28 + c)).testBit i) (k := k) e]
        exact Int32.zero_shiftLeft
      · exact st1_t (p := fun c => (w (28 + c)).testBit i) e (by omega)
    rw [e2, i3_or]
  · unfold M_knowers_L5
    dsimp only
    rw [h.2.1.1.2.1, if_neg (fun x => absurd ((i3_lt (by omega) (by omega)).mp x) (by omega))]
end MW
