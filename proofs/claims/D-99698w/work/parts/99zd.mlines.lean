/-! ===== office: the reference reads lines ===== -/
section MLINES
variable {T : Nat → Nat} {n : Nat} {σ σ' : MS}
/-- what the reading of a text may change -/
def Oz (σ σ' : MS) : Prop := (∀ k, k < 14 ∨ k = 16 ∨ k = 17 ∨ k = 24 ∨ 35 < k → mf σ' k = mf σ k) ∧ ∀ j, j < 36 ∨ 43 < j → ma σ' j = ma σ j
theorem Oz_refl (σ : MS) : Oz σ σ := ⟨fun _ _ => rfl, fun _ _ => rfl⟩
theorem Oz_trans {σ'' : MS} (h : Oz σ σ') (h2 : Oz σ' σ'') : Oz σ σ'' := ⟨fun k hk => (h2.1 k hk).trans (h.1 k hk), fun j hj => (h2.2 j hj).trans (h.2 j hj)⟩
theorem Oz_sf {k : Nat} {v : Int32} (h1 : 14 ≤ k) (h2 : k ≤ 35) (h3 : k ≠ 16 ∧ k ≠ 17 ∧ k ≠ 24) : Oz σ (sf σ k v) := ⟨fun q hq => mf_sfn (by omega), fun _ _ => rfl⟩
theorem Oz_sa {j i : Nat} {v : Int32} (h1 : 36 ≤ j) (h2 : j ≤ 43) : Oz σ (sa σ j i v) := ⟨fun _ _ => rfl, fun q hq => ma_sb (by omega)⟩
theorem Oz_lx (h : Lx σ σ') : Oz σ σ' := ⟨fun k hk => h.1 k (by omega), fun j _ => h.2 j⟩
theorem Oz_e (h : Ee σ σ') : Oz σ σ' := ⟨fun k hk => h.1 k (by omega), fun j hj => h.2 j (by omega) (by omega) (by omega)⟩
def Bd (σ σ' : MS) (k p : Nat) : Prop := (mf σ' 14 = i3 k ∧ 1 ≤ k ∧ k ≤ 9 ∧ mf σ' 15 = i3 p) ∧ Oz σ σ'
theorem Bd_bad {k p : Nat} (h : Bd σ σ' k p) : ¬ mf σ' 14 = 0 := by
  obtain ⟨⟨h1, h2, h3, _⟩, _⟩ := h
  rw [h1, i3_eq0 (by omega)]
  omega
theorem Bd_pre {σ'' : MS} {k p : Nat} (h : Oz σ σ') (h2 : Bd σ' σ'' k p) : Bd σ σ'' k p := ⟨h2.1, Oz_trans h h2.2⟩
theorem Bd_post {σ'' : MS} {k p : Nat} (h : Bd σ σ' k p) (h2 : Oz σ' σ'') (e14 : mf σ'' 14 = mf σ' 14) (e15 : mf σ'' 15 = mf σ' 15) : Bd σ σ'' k p := ⟨⟨e14.trans h.1.1, h.1.2.1, h.1.2.2.1, e15.trans h.1.2.2.2⟩, Oz_trans h.2 h2⟩
theorem M_wrong_eq {b k : Nat} {x : Int32} (hL : ML σ T n b) (h14 : mf σ 14 = 0) (hx : x = i3 k) (h1 : 1 ≤ k) (h2 : k ≤ 9) : M_wrong σ x = some (sf (sf σ 14 x) 15 (i3 b)) ∧ Bd σ (sf (sf σ 14 x) 15 (i3 b)) k b := by
  have h20 : mf σ 20 = i3 b := hL.2.2.2.2.1
  refine ⟨?_, ⟨?_, h1, h2, mf_sfe⟩, Oz_trans (Oz_sf (by decide) (by decide) (by decide)) (Oz_sf (by decide) (by decide) (by decide))⟩
  · unfold M_wrong
    rw [if_pos h14, pf_e, Option.bind_some, mf_sfn (by decide), h20, pf_e, Option.bind_some]
  · rw [mf_sfn (by decide), mf_sfe, hx]
theorem str_any (v : Int32) : ∃ x, M_strength v = some x := by
  unfold M_strength
  repeat' split
  all_goals exact ⟨_, rfl⟩
theorem drops_bad (x : Int32) : ∀ (w : Nat) (σ : MS) (c : Nat), mf σ 34 = i3 w → mf σ 31 = i3 c → w + c ≤ 1399 → w ≤ 950 → ∃ σ' c', M_drops σ x = some σ' ∧ (∀ k, k ≠ 31 → k ≠ 34 → mf σ' k = mf σ k) ∧ (∀ j, j ≠ 41 → ma σ' j = ma σ j) ∧ mf σ' 31 = i3 c' ∧ c' ≤ 1399 := by
  intro w
  induction w with
  | zero =>
    intro σ c h34 h31 h1 h2
    refine ⟨σ, c, ?_, fun _ _ _ => rfl, fun _ _ => rfl, h31, by omega⟩
    unfold M_drops
    rw [o_loop_eq]
    have : M_drops_L0 x σ = some (.inr σ) := by
      unfold M_drops_L0
      rw [h34, if_pos (by decide)]
    rw [this]
    rfl
  | succ w ih =>
    intro σ c h34 h31 h1 h2
    have hstop : M_drops_L0 x σ = some (.inr σ) → ∃ σ' c', M_drops σ x = some σ' ∧ (∀ k, k ≠ 31 → k ≠ 34 → mf σ' k = mf σ k) ∧ (∀ j, j ≠ 41 → ma σ' j = ma σ j) ∧ mf σ' 31 = i3 c' ∧ c' ≤ 1399 := by
      intro e
      refine ⟨σ, c, ?_, fun _ _ _ => rfl, fun _ _ => rfl, h31, by omega⟩
      unfold M_drops
      rw [o_loop_eq, e]
      rfl
    obtain ⟨y, hy⟩ := str_any (ma σ 42 w)
    have hst : M_drops_L0 x σ = (M_isOpen (ma σ 42 w)).bind fun q5 => if q5 = 0 then (if y < x then (some (.inr σ)) else (some (.inl (sf (sa (sf σ 34 (i3 w)) 41 c (ma σ 42 w)) 31 (i3 (c + 1)))))) else some (.inr σ) := by
      unfold M_drops_L0 M_puts
      rw [h34, if_neg (by rw [i3_le0 (by omega)]; omega), i3_dec1, ald_at (n := w) rfl (show w < mlen 42 by show w < 950; omega) rfl, Option.bind_some]
      congr 1
      funext q5
      by_cases e0 : q5 = 0
      · rw [if_pos e0, if_pos e0, Option.bind_some, hy, Option.bind_some]
        by_cases el : y < x
        · rw [if_pos el, if_pos el]
        · rw [if_neg el, if_neg el, pf_e, Option.bind_some, mf_sfe, ald_at (n := w) rfl (show w < mlen 42 by show w < 950; omega) rfl, Option.bind_some, mf_sfn (by decide), h31, ast_i3 (show c < mlen 41 by show c < 1400; omega), Option.bind_some, show mf (sa (sf σ 34 (i3 w)) 41 c (ma (sf σ 34 (i3 w)) 42 w)) 31 = i3 c from (show mf (sf σ 34 (i3 w)) 31 = i3 c from (mf_sfn (by decide)).trans h31), i3_succ, pf_e, Option.bind_some, Option.bind_some]
          rfl
      · rw [if_neg e0, if_neg e0]
    by_cases eo : ma σ 42 w < 14
    · rw [show M_isOpen (ma σ 42 w) = some 0 from if_pos eo, Option.bind_some, if_pos rfl] at hst
      by_cases el : y < x
      · rw [if_pos el] at hst
        exact hstop hst
      · rw [if_neg el] at hst
        obtain ⟨σ', c', g1, g2, g3, g4, g5⟩ := ih (sf (sa (sf σ 34 (i3 w)) 41 c (ma σ 42 w)) 31 (i3 (c + 1))) (c + 1) (by
          rw [mf_sfn (by decide)]
          exact (show mf (sf σ 34 (i3 w)) 34 = i3 w from mf_sfe)) mf_sfe (by omega) (by omega)
        refine ⟨σ', c', ?_, fun k k1 k2 => ?_, fun j hj => ?_, g4, g5⟩
        · unfold M_drops at g1 ⊢
          rw [o_loop_eq, hst]
          exact g1
        · rw [g2 k k1 k2, mf_sfn k1]
          exact (show mf (sf σ 34 (i3 w)) k = mf σ k from mf_sfn k2)
        · rw [g3 j hj]
          exact ma_sb hj
    · rw [show M_isOpen (ma σ 42 w) = some 1 from if_neg eo, Option.bind_some, if_neg (by decide)] at hst
      exact hstop hst
theorem tail_bad {σ0 : MS} {k p : Nat} (h : Er σ0 σ k p) : ∃ σ', tailM σ = some σ' ∧ Bd σ0 σ' k p := by
  have hb := Er_bad h
  obtain ⟨⟨e1, e2, e3, e4⟩, ⟨w, c, h34, h31, hwc, hw⟩, h3⟩ := h
  obtain ⟨σ', c', g1, g2, g3, g4, g5⟩ := drops_bad 0 w σ c h34 h31 hwc hw
  refine ⟨sf (sa σ' 41 c' 0) 31 (i3 (c' + 1)), ?_, ⟨?_, e2, e3, ?_⟩, ⟨fun q hq => ?_, fun j hj => ?_⟩⟩
  · unfold tailM M_puts
    rw [isGood_n hb, Option.bind_some, if_pos rfl, Option.bind_some, g1, Option.bind_some, g4, ast_i3 (show c' < mlen 41 by show c' < 1400; omega), Option.bind_some, show mf (sa σ' 41 c' 0) 31 = i3 c' from g4, i3_succ, pf_e, Option.bind_some, Option.bind_some]
  · rw [mf_sfn (by decide)]
    exact (g2 14 (by decide) (by decide)).trans e1
  · rw [mf_sfn (by decide)]
    exact (g2 15 (by decide) (by decide)).trans e4
  · rw [mf_sfn (by omega)]
    exact (g2 q (by omega) (by omega)).trans (h3.1 q (by omega))
  · show ma (sa σ' 41 c' 0) j = _
    rw [ma_sb (by omega), g3 j (by omega)]
    exact h3.2 j (by omega) (by omega) (by omega)
/-- a whole expression -/
theorem M_expr_eq {lo hi b c : Nat} (hL : ML σ T n b) (h14 : mf σ 14 = 0) (h31 : mf σ 31 = i3 c) (hc : c + 2 ≤ 2 * b) (hlo : lo < 9) (hhi : hi < 9) : match spX T n lo hi 9 0 b with
    | .inl (b1, E) => ∃ σ' c1, M_expression σ (i3 lo) (i3 hi) = some σ' ∧ ML σ' T n b1 ∧ mf σ' 14 = 0 ∧ mf σ' 31 = i3 (c1 + 1) ∧ c1 + 1 ≤ 2 * b1 ∧ c ≤ c1 ∧ (∀ k, k < 18 ∨ (24 ≤ k ∧ k ≤ 30) ∨ 35 < k → mf σ' k = mf σ k) ∧ (∀ j, j ≠ 41 → j ≠ 42 → j ≠ 43 → ma σ' j = ma σ j) ∧ (∀ i, i < c → ma σ' 41 i = ma σ 41 i) ∧ Pus (ma σ' 41) c c1 E ∧ ma σ' 41 c1 = 0
    | .inr (k, p) => ∃ σ', M_expression σ (i3 lo) (i3 hi) = some σ' ∧ Bd σ σ' k p := by
  have hP : MP T n lo hi (sf (sf (sf (sf σ 32 (i3 lo)) 33 (i3 hi)) 34 0) 35 0) b 0 c 0 := by
    refine ⟨⟨ML_lx hL (fun k k1 k2 => by rw [mf_sfn (by omega), mf_sfn (by omega), mf_sfn (by omega), mf_sfn (by omega)]) rfl rfl, ⟨?_, ?_, ?_, mf_sfe, ?_, ?_⟩, by decide, hhi, hlo⟩, Nat.zero_le _, by omega⟩
    · rw [mf_sfn (by decide), mf_sfn (by decide), mf_sfn (by decide), mf_sfn (by decide)]; exact h14
    · rw [mf_sfn (by decide), mf_sfn (by decide), mf_sfn (by decide), mf_sfn (by decide)]; exact h31
    · rw [mf_sfn (by decide)]; exact mf_sfe
    · rw [mf_sfn (by decide), mf_sfn (by decide), mf_sfn (by decide)]; exact mf_sfe
    · rw [mf_sfn (by decide), mf_sfn (by decide)]; exact mf_sfe
  have hM : M_expression σ (i3 lo) (i3 hi) = ((M_deeper (sf (sf (sf (sf σ 32 (i3 lo)) 33 (i3 hi)) 34 0) 35 0)).bind fun q => M_operand q 1).bind restM := by
    unfold M_expression
    rw [isGood_y h14, Option.bind_some, if_neg (by decide), pf_e, Option.bind_some, pf_e, Option.bind_some, pf_e, Option.bind_some, pf_e, Option.bind_some, Option.bind_assoc]
    rfl
  have he : Ee σ (sf (sf (sf (sf σ 32 (i3 lo)) 33 (i3 hi)) 34 0) 35 0) ∨ True := .inr trivial
  have hoz : Oz σ (sf (sf (sf (sf σ 32 (i3 lo)) 33 (i3 hi)) 34 0) 35 0) := Oz_trans (Oz_sf (k := 32) (by decide) (by decide) (by decide)) (Oz_trans (Oz_sf (k := 33) (by decide) (by decide) (by decide)) (Oz_trans (Oz_sf (k := 34) (by decide) (by decide) (by decide)) (Oz_sf (k := 35) (by decide) (by decide) (by decide))))
  have hx := mX (T := T) (n := n) (lo := lo) (hi := hi) 9 0 (by decide) _ b 0 c hP (.inl rfl)
  rw [← hM] at hx
  cases e : spX T n lo hi 9 0 b with
  | inr z =>
    obtain ⟨k, p⟩ := z
    rw [e] at hx
    obtain ⟨σ1, x1, x2⟩ := hx
    obtain ⟨σ', t1, t2⟩ := tail_bad x1
    exact ⟨σ', by rw [x2, restM_bad (Er_bad x1)]; exact t1, Bd_pre hoz t2⟩
  | inl z =>
    obtain ⟨b1, E⟩ := z
    rw [e] at hx
    obtain ⟨σ1, c1, x1, x2, x3, x4, x5, x6, x7⟩ := hx
    have hb1 := MP_b x1
    have hw := x1.2.2
    have f14 := x1.1.2.1.1
    have hst : inM σ1 = some (0, σ1) := by
      rw [inM_end x1.1 x6 x5]
      by_cases e41 : sg T n b1 41 = true
      · rw [if_pos e41]
        have : M_isOpened σ1 = some 0 := by
          unfold M_isOpened
          rw [x1.1.2.1.2.2.1, o_loop_eq]
          have : M_isOpened_L7 σ1 (i3 0 - 1) = some (.inr (-1)) := by
            unfold M_isOpened_L7
            rw [if_pos (by decide)]
            rfl
          rw [this]
          rfl
        rw [this, Option.bind_some, if_pos rfl]
      · rw [if_neg e41]
    obtain ⟨σ', p1, p2, p3, p4, p5, p6, p7⟩ := MU_put x1.1 (by omega) 0
    have hl := x4.1
    refine ⟨σ', c1, ?_, p2.1, p2.2.1.1, p2.2.1.2.1, by omega, by omega, fun k hk => ?_, fun j j1 j2 j3 => ?_, fun i hi => ?_, Pus_congr x4 (fun q _ q2 => (p3 0).2.2.1 q q2), p4⟩
    · rw [x7, restM_0 f14 hst]
      unfold tailM
      rw [isGood_y f14, Option.bind_some, if_neg (by decide), x1.1.2.1.2.2.2.1, if_pos (by decide), Option.bind_some, drops_no (x := 0) (s := 0) (w := 0) rfl (by decide) x1.1.2.1.2.2.1 (by decide) (.inl rfl), Option.bind_some, p1, Option.bind_some]
    · rw [(p3 0).1 k (by omega), x2.1 k (by omega), mf_sfn (by omega), mf_sfn (by omega), mf_sfn (by omega), mf_sfn (by omega)]
    · rw [(p3 0).2.1 j j1 j2 j3, x2.2.1 j j1 j2 j3]
      rfl
    · rw [(p3 0).2.2.1 i (by omega), x2.2.2.1 i hi]
      rfl
/-! numbers -/
theorem M_number_eq {b m : Nat} {x : Int32} (hL : ML σ T n b) (h14 : mf σ 14 = 0) (hx : x = i3 m) (hm : m < 2 ^ 31) : match spNum T n m b with
    | .inl (b1, v) => ∃ σ', M_number σ 0 x = some (i3 v, σ') ∧ ML σ' T n b1 ∧ Lx σ σ'
    | .inr (k, p) => ∃ v σ', M_number σ 0 x = some (v, σ') ∧ Bd σ σ' k p := by
  obtain ⟨w21, w22⟩ := M_wrong_eq (x := 2) (k := 2) hL h14 rfl (by decide) (by decide)
  have h21 : mf σ 21 = i3 (tkE T n b - b) := hL.2.2.2.2.2.1
  have h22 : mf σ 22 = i3 (vlu T n b) := hL.2.2.2.2.2.2.1
  have hE := tkE_le (T := T) hL.2.1
  have hn := hL.1.2.1
  have hv := vlu_lt (T := T) (n := n) (b := b)
  have hbad : ∃ v σ', ((M_number_J49 σ).bind fun r3 => (M_isGood r3).bind fun q4 => if q4 = 0 then (some ((mf r3 22), r3)) else ((M_goes r3).bind fun q6 => some ((mf r3 22), q6))) = some (v, σ') ∧ Bd σ σ' 2 b := by
    unfold M_number_J49
    rw [w21, Option.bind_some, Option.bind_some, isGood_n (Bd_bad w22), Option.bind_some, if_pos rfl]
    exact ⟨_, _, rfl, w22⟩
  unfold M_number spNum
  rw [isGood_y h14, Option.bind_some]
  by_cases e2 : tkK T n b = 2
  · rw [if_pos e2, if_neg (show ¬ (1 : Int32) = 0 by decide), if_pos ((M_sort hL (x := 2) (k := 2) rfl (by decide)).mpr e2), h21]
    by_cases e4 : tkE T n b - b ≤ 4
    · rw [if_pos ((i3_lel (c := 4) (n := 4) rfl (by omega) (by decide)).mpr e4), h22, if_neg (i3_nn (by omega))]
      by_cases em : vlu T n b ≤ m
      · obtain ⟨σ', g1, g2, g3⟩ := M_goes_nxt hL
        rw [if_pos ⟨e4, em⟩, if_pos (by rw [hx, i3_le (by omega) hm]; exact em), Option.bind_some, isGood_y h14, Option.bind_some, if_neg (show ¬ (1 : Int32) = 0 by decide), g1, Option.bind_some, h22]
        exact ⟨σ', rfl, g2, g3⟩
      · rw [if_neg (fun q => em q.2), if_neg (by rw [hx, i3_le (by omega) hm]; exact em)]
        exact hbad
    · rw [if_neg (fun q => e4 q.1), if_neg (fun q => e4 ((i3_lel (c := 4) (n := 4) rfl (by omega) (by decide)).mp q))]
      exact hbad
  · obtain ⟨w11, w12⟩ := M_wrong_eq (x := 1) (k := 1) hL h14 rfl (by decide) (by decide)
    rw [if_neg e2, if_neg (show ¬ (1 : Int32) = 0 by decide), if_neg (fun q => e2 ((M_sort hL (x := 2) (k := 2) rfl (by decide)).mp q)), w11, Option.bind_some, Option.bind_some, isGood_n (Bd_bad w12), Option.bind_some, if_pos rfl]
    exact ⟨_, _, rfl, w12⟩
theorem M_number_bad {a x : Int32} (h : ¬ mf σ 14 = 0) : M_number σ a x = some (0, σ) := by
  unfold M_number
  rw [isGood_n h, Option.bind_some, if_pos rfl]
theorem M_among_eq {b m : Nat} {x : Int32} (hL : ML σ T n b) (h14 : mf σ 14 = 0) (hx : x = i3 m) (hm : m < 2 ^ 31) : match spAm T n m b with
    | .inl v => M_amongHere σ x = some (1, σ) ∧ mf σ 22 = i3 v
    | .inr (k, p) => ∃ σ', M_amongHere σ x = some (0, σ') ∧ Bd σ σ' k p := by
  have h21 : mf σ 21 = i3 (tkE T n b - b) := hL.2.2.2.2.2.1
  have h22 : mf σ 22 = i3 (vlu T n b) := hL.2.2.2.2.2.2.1
  have hE := tkE_le (T := T) hL.2.1
  have hn := hL.1.2.1
  have hv := vlu_lt (T := T) (n := n) (b := b)
  unfold M_amongHere spAm
  rw [isGood_y h14, Option.bind_some]
  by_cases e2 : tkK T n b = 2
  · rw [if_pos e2, if_neg (show ¬ (1 : Int32) = 0 by decide), if_pos ((M_sort hL (x := 2) (k := 2) rfl (by decide)).mpr e2), h21]
    by_cases e4 : tkE T n b - b ≤ 4
    · rw [if_pos e4, if_pos ((i3_lel (c := 4) (n := 4) rfl (by omega) (by decide)).mpr e4), h22]
      by_cases em : vlu T n b < m
      · rw [if_pos em, if_pos (by rw [hx, i3_lt (by omega) hm]; exact em), Option.bind_some, isGood_y h14, Option.bind_some, nar1]
        exact ⟨rfl, rfl⟩
      · obtain ⟨w1, w2⟩ := M_wrong_eq (x := 3) (k := 3) hL h14 rfl (by decide) (by decide)
        rw [if_neg em, if_neg (by rw [hx, i3_lt (by omega) hm]; exact em), w1, Option.bind_some, Option.bind_some, isGood_n (Bd_bad w2), Option.bind_some, nar0]
        exact ⟨_, rfl, w2⟩
    · obtain ⟨w1, w2⟩ := M_wrong_eq (x := 2) (k := 2) hL h14 rfl (by decide) (by decide)
      rw [if_neg e4, if_neg (fun q => e4 ((i3_lel (c := 4) (n := 4) rfl (by omega) (by decide)).mp q)), w1, Option.bind_some, Option.bind_some, isGood_n (Bd_bad w2), Option.bind_some, nar0]
      exact ⟨_, rfl, w2⟩
  · obtain ⟨w1, w2⟩ := M_wrong_eq (x := 1) (k := 1) hL h14 rfl (by decide) (by decide)
    rw [if_neg e2, if_neg (show ¬ (1 : Int32) = 0 by decide), if_neg (fun q => e2 ((M_sort hL (x := 2) (k := 2) rfl (by decide)).mp q)), w1, Option.bind_some, Option.bind_some, isGood_n (Bd_bad w2), Option.bind_some, nar0]
    exact ⟨_, rfl, w2⟩
end MLINES
