/-! ===== office: the component's lists grow ===== -/
section CLINES4
variable {K q : Nat → Nat} {rd n m0 : Nat} {T : Nat → Nat} {hb f0 f h h' : CH} {r r' : CR} {B : Nat → Nat} {g : Nat → Nat → Int32} {S : OS} {b nm D : Nat}
/-- a word is added -/
theorem LC_addW {x a c : Nat} {y : Nat → Int32} (hG : LG K q rd n T hb m0 f0) (hC : LC K q rd n T hb m0 f0 f h r B g nm D S b) (hQ : pQ' S.1 ≤ 12) (hx : f x = some (.inl (0, 2, .inl y))) (hy0 : y 0 = i3 a) (hy1 : y 1 = i3 c) (h1 : 1 ≤ r.2.1) (h2 : 40 ≤ r.2.2) :
    ∃ h' r' B', vc h (B 7) 10 (achk r (CJ2_add K h r (B 7) x)) = some (1, (h', r')) ∧ LC K q rd n T hb m0 f0 f h' r' B' g nm D (oQ S.1 a c, S.2) b ∧ (r'.2.1 ≤ r.2.1 ∧ r'.2.2 ≤ r.2.2 ∧ r.2.1 ≤ r'.2.1 + 1 ∧ r.2.2 ≤ r'.2.2 + 40) ∧ r.1 ≤ r'.1 := by
  have hlt := LC_lt hG hC
  obtain ⟨ly, mo, fw, fr, ⟨⟨c1, v0, ev, c1x⟩, c1n⟩, ⟨c2, ⟨s1, s2, s3, s4, s5⟩, c2a⟩, ⟨c3, c3w⟩, ⟨c4, c4r⟩, ⟨c5, c6⟩, ⟨d1, d2, d3, d4, d5, d6, d7, d8⟩, ⟨b0, b1, b2, b3, b4, b5, b6, b7, b8⟩⟩ := hC
  have hKN := LC_KN hG d4
  obtain ⟨arr', h', r', q1, q2, q3, q4, q5, q6, q7, q8, q9, q10⟩ := C_add (x := x) c3 (by omega) d1 hKN hG.1.2.1 (fun i hi => by have := hG.1.2.2 i hi; omega) (fun i hi => by
    obtain ⟨z, z1, -⟩ := c3w i hi
    exact okO_hle d2 (by rw [okO_of z1]; rfl)) (okO_hle d2 (by rw [okO_of hx]; rfl)) (b5 9 7 (by decide) (by decide) (by decide)) h1 (by omega)
  have hfr : f r.1 = none := by
    cases e : f r.1 with
    | none => rfl
    | some z => have := d2 _ _ e; rw [d1 r.1 (Nat.le_refl _)] at this; cases this
  have ha : (∀ j, j < 9 → arr' ≠ B j) ∧ f arr' = none ∧ (m0 ≤ arr') ∧ (arr' = B 10 → ∀ e, ¬ h (B 10) = some e) := by
    rcases q3 with ⟨z1, z2, z3⟩ | ⟨z1, z2⟩
    · obtain ⟨e0, z3⟩ := z3
      refine ⟨fun j hj => by rw [z1]; exact b5 9 j (by decide) (by decide) hj, by rw [z1]; exact b6 9 (by decide), ?_, fun w e he => ?_⟩
      · rcases b8 9 (by decide) (by decide) with w | w
        · omega
        · rw [w, hKN.1] at z3; cases z3
      · rw [z1] at w
        have := b7 w
        rw [this, hKN.1] at z3
        cases z3
    · refine ⟨fun j hj w => by have := hlt j (by omega); omega, by rw [z1]; exact hfr, by omega, fun w e he => by have := hlt 10 (by decide); omega⟩
  obtain ⟨ha1, ha2, ha3, ha4⟩ := ha
  have hB : ∀ j, j < 9 → j ≠ 7 → h' (B j) = h (B j) := fun j hj hj7 => q6 _ (fun w => hj7 (b3 j 7 hj (by decide) w)) (fun w => ha1 j hj w.symm)
  have hr1 : r.1 ≤ r'.1 := by
    rcases q3 with ⟨z1, z2, z3⟩ | ⟨z1, z2⟩ <;> omega
  refine ⟨h', r', Bu B 9 arr', q1, ⟨ly, mo, _, fr, ⟨⟨c1, v0, by rw [← b0, hB 0 (by decide) (by decide), b0]; exact ev, c1x⟩, c1n⟩, ⟨?_, ⟨?_, ?_, ?_, ?_, ?_⟩, c2a⟩, ⟨q2, fun i hi => ?_⟩, ⟨?_, c4r⟩, ⟨c5, c6⟩, ⟨q5, fun p z hz => ?_, by omega, fun p hp => ?_, d5, d6, d7, d8⟩, ⟨b0, b1, b2, fun i j hi hj => ?_, fun i hi => ?_, fun i j h9 hi hj => ?_, fun i hi => ?_, ?_, fun i h9 hi => ?_⟩⟩, ⟨q7, q8, q9, by omega⟩, hr1⟩
  · show h' (B 1) = _
    rw [hB 1 (by decide) (by decide)]; exact c2
  · show h' (B 2) = _
    rw [hB 2 (by decide) (by decide)]; exact s1
  · show h' (B (3 + 0)) = _
    rw [hB (3 + 0) (by decide) (by decide)]; exact s2
  · show h' (B (3 + 1)) = _
    rw [hB (3 + 1) (by decide) (by decide)]; exact s3
  · show h' (B (3 + 2)) = _
    rw [hB (3 + 2) (by decide) (by decide)]; exact s4
  · show h' (B (3 + 3)) = _
    rw [hB (3 + 3) (by decide) (by decide)]; exact s5
  · have hi2 : i < pQ' S.1 + 1 := hi
    show ∃ x_1, f (if i = pQ' S.1 then x else fw i) = some (.inl (0, 2, .inl x_1)) ∧ x_1 0 = i3 (if i = pQ' S.1 then a else pA S.1 i) ∧ x_1 1 = i3 (if i = pQ' S.1 then c else pB S.1 i)
    by_cases ei : i = pQ' S.1
    · rw [if_pos ei, if_pos ei, if_pos ei]
      exact ⟨y, hx, hy0, hy1⟩
    · rw [if_neg ei, if_neg ei, if_neg ei]
      exact c3w i (by omega)
  · show LMu K h' (B 8) (B 10) (pM S.1) fr
    refine LMu_eq c4 (hB 8 (by decide) (by decide)) (fun he => ?_)
    obtain ⟨e, he⟩ := he
    exact q6 _ (b5 10 7 (by decide) (by decide) (by decide)) (fun w => ha4 w.symm e he)
  · rw [q6 p (fun w => by
      have := b6 7 (by decide)
      rw [← w, hz] at this
      cases this) (fun w => by rw [w, ha2] at hz; cases hz)]
    exact d2 p z hz
  · rw [q6 p (fun w => by
      have := b4 7 (by decide)
      omega) (fun w => by omega)]
    exact d4 p hp
  · unfold Bu
    rw [if_neg (by omega), if_neg (by omega)]
    exact b3 i j hi hj
  · unfold Bu
    rw [if_neg (by omega)]
    exact b4 i hi
  · unfold Bu
    rw [if_neg (show ¬ j = 9 by omega)]
    by_cases e9 : i = 9
    · rw [if_pos e9]; exact ha1 j hj
    · rw [if_neg e9]; exact b5 i j h9 hi hj
  · unfold Bu
    by_cases e9 : i = 9
    · rw [if_pos e9]; exact ha2
    · rw [if_neg e9]; exact b6 i hi
  · show arr' = B 10 → arr' = K 0
    intro w
    rcases q3 with ⟨z1, z2, z3⟩ | ⟨z1, z2⟩
    · rw [z1] at w ⊢
      exact b7 w
    · have := hlt 10 (by decide)
      omega
  · unfold Bu
    by_cases e9 : i = 9
    · rw [if_pos e9]; exact .inl ha3
    · rw [if_neg e9]; exact b8 i h9 hi
/-- a clerk's round is added -/
theorem LC_addR {x m : Nat} {fi R : Nat → Nat} (hG : LG K q rd n T hb m0 f0) (hC : LC K q rd n T hb m0 f0 f h r B g nm D S b) (hQ : pM S.1 ≤ 12) (hx : LRd f x m fi) (hy : ∀ i, i < m → f (fi i) = some (.inr (12, [.int (i3 (R i))]))) (hN9 : pN S.1 ≤ 9) (hw28 : g 3 (pM S.1) = 0) (h1 : 1 ≤ r.2.1) (h2 : 40 ≤ r.2.2) :
    ∃ h' r' B', vc h (B 8) 10 (achk r (CJ2_add K h r (B 8) x)) = some (1, (h', r')) ∧ LC K q rd n T hb m0 f0 f h' r' B' g nm D (oM' S.1 R m, upn S.2.1 (28 + pM S.1) 0, S.2.2) b ∧ (r'.2.1 ≤ r.2.1 ∧ r'.2.2 ≤ r.2.2 ∧ r.2.1 ≤ r'.2.1 + 1 ∧ r.2.2 ≤ r'.2.2 + 40) ∧ r.1 ≤ r'.1 := by
  have hlt := LC_lt hG hC
  obtain ⟨ly, mo, fw, fr, ⟨⟨c1, v0, ev, c1x⟩, c1n⟩, ⟨c2, ⟨s1, s2, s3, s4, s5⟩, c2a⟩, ⟨c3, c3w⟩, ⟨c4, c4r⟩, ⟨c5, c6⟩, ⟨d1, d2, d3, d4, d5, d6, d7, d8⟩, ⟨b0, b1, b2, b3, b4, b5, b6, b7, b8⟩⟩ := hC
  have hKN := LC_KN hG d4
  obtain ⟨arr', h', r', q1, q2, q3, q4, q5, q6, q7, q8, q9, q10⟩ := C_add (x := x) c4 (by omega) d1 hKN hG.1.2.1 (fun i hi => by have := hG.1.2.2 i hi; omega) (fun i hi => by
    obtain ⟨z, ⟨mcz, arz, z1, -⟩, -⟩ := c4r i hi
    exact okO_hle d2 (by rw [okO_of z1]; rfl)) (okO_hle d2 (by obtain ⟨mcz, arz, z1, -⟩ := hx; rw [okO_of z1]; rfl)) (b5 10 8 (by decide) (by decide) (by decide)) h1 (by omega)
  have hfr : f r.1 = none := by
    cases e : f r.1 with
    | none => rfl
    | some z => have := d2 _ _ e; rw [d1 r.1 (Nat.le_refl _)] at this; cases this
  have ha : (∀ j, j < 9 → arr' ≠ B j) ∧ f arr' = none ∧ (m0 ≤ arr') ∧ (arr' = B 9 → ∀ e, ¬ h (B 9) = some e) := by
    rcases q3 with ⟨z1, z2, z3⟩ | ⟨z1, z2⟩
    · obtain ⟨e0, z3⟩ := z3
      refine ⟨fun j hj => by rw [z1]; exact b5 10 j (by decide) (by decide) hj, by rw [z1]; exact b6 10 (by decide), ?_, fun w e he => ?_⟩
      · rcases b8 10 (by decide) (by decide) with w | w
        · omega
        · rw [w, hKN.1] at z3; cases z3
      · rw [z1] at w
        have := b7 w.symm
        rw [← w] at this
        rw [w.trans (w.symm.trans this), hKN.1] at z3
        cases z3
    · refine ⟨fun j hj w => by have := hlt j (by omega); omega, by rw [z1]; exact hfr, by omega, fun w e he => by have := hlt 9 (by decide); omega⟩
  obtain ⟨ha1, ha2, ha3, ha4⟩ := ha
  have hB : ∀ j, j < 9 → j ≠ 8 → h' (B j) = h (B j) := fun j hj hj7 => q6 _ (fun w => hj7 (b3 j 8 hj (by decide) w)) (fun w => ha1 j hj w.symm)
  have hr1 : r.1 ≤ r'.1 := by
    rcases q3 with ⟨z1, z2, z3⟩ | ⟨z1, z2⟩ <;> omega
  refine ⟨h', r', Bu B 10 arr', q1, ⟨ly, mo, fw, _, ⟨⟨c1, v0, by rw [← b0, hB 0 (by decide) (by decide), b0]; exact ev, c1x⟩, c1n⟩, ⟨?_, ⟨?_, ?_, ?_, ?_, ?_⟩, ?_⟩, ⟨?_, c3w⟩, ⟨q2, fun i hi => ?_⟩, ⟨c5, c6⟩, ⟨q5, fun p z hz => ?_, by omega, fun p hp => ?_, d5, d6, d7, d8⟩, ⟨b0, b1, b2, fun i j hi hj => ?_, fun i hi => ?_, fun i j h9 hi hj => ?_, fun i hi => ?_, ?_, fun i h9 hi => ?_⟩⟩, ⟨q7, q8, q9, by omega⟩, hr1⟩
  · show h' (B 1) = _
    rw [hB 1 (by decide) (by decide)]; exact c2
  · show h' (B 2) = _
    rw [hB 2 (by decide) (by decide)]; exact s1
  · show h' (B (3 + 0)) = _
    rw [hB (3 + 0) (by decide) (by decide)]; exact s2
  · show h' (B (3 + 1)) = _
    rw [hB (3 + 1) (by decide) (by decide)]; exact s3
  · show h' (B (3 + 2)) = _
    rw [hB (3 + 2) (by decide) (by decide)]; exact s4
  · show h' (B (3 + 3)) = _
    rw [hB (3 + 3) (by decide) (by decide)]; exact s5
  · obtain ⟨a1, a2, a3, a4, a5⟩ := c2a
    have u : ∀ j, j ≠ 28 + pM S.1 → upn S.2.1 (28 + pM S.1) 0 j = S.2.1 j := fun j hj => if_neg hj
    have hN := hN9
    refine ⟨fun k hk => ?_, fun k hk => ?_, fun k hk => ?_, fun c hc => ?_, ?_⟩
    · have hk2 : k < pN S.1 := hk
      show g 0 k = i3 (upn S.2.1 (28 + pM S.1) 0 (1 + k))
      rw [u _ (by omega)]; exact a1 k hk2
    · have hk2 : k < pN S.1 := hk
      show g 1 k = i3 (upn S.2.1 (28 + pM S.1) 0 (10 + k))
      rw [u _ (by omega)]; exact a2 k hk2
    · have hk2 : k < pN S.1 := hk
      show g 2 k = atC (upn S.2.1 (28 + pM S.1) 0 (19 + k))
      rw [u _ (by omega)]; exact a3 k hk2
    · have hc2 : c < pM S.1 + 1 := hc
      show g 3 c = i3 (upn S.2.1 (28 + pM S.1) 0 (28 + c))
      by_cases ec : c = pM S.1
      · rw [ec, hw28, show upn S.2.1 (28 + pM S.1) 0 (28 + pM S.1) = 0 from if_pos rfl]
        rfl
      · rw [u _ (by omega)]; exact a4 c (by omega)
    · show (0 : Int32) = i3 (upn S.2.1 (28 + pM S.1) 0 0)
      rw [u _ (by omega)]; exact a5
  · show LMu K h' (B 7) (B 9) (pQ' S.1) fw
    refine LMu_eq c3 (hB 7 (by decide) (by decide)) (fun he => ?_)
    obtain ⟨e, he⟩ := he
    exact q6 _ (b5 9 8 (by decide) (by decide) (by decide)) (fun w => ha4 w.symm e he)
  · have hi2 : i < pM S.1 + 1 := hi
    show ∃ fi_1, LRd f (if i = pM S.1 then x else fr i) (if i = pM S.1 then m else pL S.1 i) fi_1 ∧ ∀ j, j < (if i = pM S.1 then m else pL S.1 i) → f (fi_1 j) = some (.inr (12, [.int (i3 ((if i = pM S.1 then R else pR S.1 i) j))]))
    by_cases ei : i = pM S.1
    · rw [if_pos ei, if_pos ei, if_pos ei]
      exact ⟨fi, hx, hy⟩
    · rw [if_neg ei, if_neg ei, if_neg ei]
      exact c4r i (by omega)
  · rw [q6 p (fun w => by
      have := b6 8 (by decide)
      rw [← w, hz] at this
      cases this) (fun w => by rw [w, ha2] at hz; cases hz)]
    exact d2 p z hz
  · rw [q6 p (fun w => by
      have := b4 8 (by decide)
      omega) (fun w => by omega)]
    exact d4 p hp
  · unfold Bu
    rw [if_neg (by omega), if_neg (by omega)]
    exact b3 i j hi hj
  · unfold Bu
    rw [if_neg (by omega)]
    exact b4 i hi
  · unfold Bu
    rw [if_neg (show ¬ j = 10 by omega)]
    by_cases e9 : i = 10
    · rw [if_pos e9]; exact ha1 j hj
    · rw [if_neg e9]; exact b5 i j h9 hi hj
  · unfold Bu
    by_cases e9 : i = 10
    · rw [if_pos e9]; exact ha2
    · rw [if_neg e9]; exact b6 i hi
  · show B 9 = arr' → B 9 = K 0
    intro w
    rcases q3 with ⟨z1, z2, z3⟩ | ⟨z1, z2⟩
    · rw [z1] at w
      exact b7 w
    · have := hlt 9 (by decide)
      omega
  · unfold Bu
    by_cases e9 : i = 10
    · rw [if_pos e9]; exact .inl ha3
    · rw [if_neg e9]; exact b8 i h9 hi
end CLINES4
