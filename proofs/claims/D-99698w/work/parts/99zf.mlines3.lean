/-! ===== office: the reference reads clerks, words, lines ===== -/
section MLINES3
variable {T : Nat → Nat} {n : Nat} {σ σ' : MS}
theorem hasW_iff {P : PO} {a b : Nat} : hasW P a b = true ↔ ∃ i, i < pQ' P ∧ pA P i = a ∧ pB P i = b := by
  unfold hasW
  rw [List.any_eq_true]
  constructor
  · rintro ⟨i, h1, h2⟩
    rw [Bool.and_eq_true] at h2
    exact ⟨i, List.mem_range.mp h1, of_decide_eq_true h2.1, of_decide_eq_true h2.2⟩
  · rintro ⟨i, h1, h2, h3⟩
    exact ⟨i, List.mem_range.mpr h1, by rw [decide_eq_true h2, decide_eq_true h3]; rfl⟩
/-- a clerk's round -/
theorem mRd {σ : MS} {M : Nat} (h26 : mf σ 26 = i3 M) (hM : M ≤ 5) : ∀ f i R (τ : MS) (b : Nat), i + f = 8 → i ≤ 6 → ML τ T n b → mf τ 14 = 0 → mf τ 26 = i3 M → (∀ q, q < i → ma τ 36 (6 * M + q) = i3 (R q)) → (match spRd T n f b i R with
    | .inl (b1, i1, R1) => ∃ τ', o_loop (M_readsClerk_L19 σ) (i3 i, bI (decide (tkK T n b = 2)), τ) = some τ' ∧ ML τ' T n b1 ∧ (∀ q, q < i1 → ma τ' 36 (6 * M + q) = i3 (R1 q)) ∧ ma τ' 37 M = i3 i1 ∧ mf τ' 26 = i3 (M + 1) ∧ (∀ k, k ≠ 26 → k < 18 ∨ 23 < k → mf τ' k = mf τ k) ∧ (∀ j, j ≠ 36 → j ≠ 37 → ma τ' j = ma τ j) ∧ (∀ q, q < 6 * M → ma τ' 36 q = ma τ 36 q) ∧ ∀ q, q ≠ M → ma τ' 37 q = ma τ 37 q
    | .inr (k, p) => ∃ τ', o_loop (M_readsClerk_L19 σ) (i3 i, bI (decide (tkK T n b = 2)), τ) = some τ' ∧ Bd τ τ' k p) := by
  intro f
  induction f with
  | zero => intro i R τ b h1 h2; omega
  | succ f ih =>
    intro i R τ b h1 h2 hL h14 g26 hR
    have hb := hL.2.1
    unfold spRd
    by_cases e2 : tkK T n b = 2
    · rw [if_pos e2, decide_eq_true e2, bI_t, o_loop_eq]
      by_cases e6 : i < 6
      · rw [if_pos e6]
        have hn := M_number_eq (x := 3) (m := 3) hL h14 rfl (by decide)
        have hk := spNum_ok (T := T) (m := 3) hb
        have hst : M_readsClerk_L19 σ (i3 i, 1, τ) = (M_number τ 0 3).bind fun q12 => (M_isGood q12.2).bind fun q13 => if q13 = 0 then (some (.inr q12.2)) else ((ast q12.2 36 ((6 * i3 M) + i3 i) q12.1).bind fun s15 => ((if (mf s15 19) = 2 then (some 1) else (some 0) : Option Int32)).bind fun r16 => some (.inl (i3 i + 1, r16, s15))) := by
          unfold M_readsClerk_L19
          dsimp only
          rw [if_neg (show ¬ (1 : Int32) = 0 by decide), isGood_y h14, Option.bind_some, if_neg (show ¬ (1 : Int32) = 0 by decide), if_neg (i3_nl (x := 6) (c := 6) rfl (by omega) (by decide) (by omega)), Option.bind_some, h26]
        rw [hst]
        cases e : spNum T n 3 b with
        | inr z =>
          obtain ⟨k, p⟩ := z
          rw [e] at hn
          obtain ⟨v, τ1, x1, x2⟩ := hn
          refine ⟨τ1, ?_, x2⟩
          rw [x1, Option.bind_some, isGood_n (Bd_bad x2), Option.bind_some, if_pos rfl]
          rfl
        | inl z =>
          obtain ⟨b1, v⟩ := z
          rw [e] at hn hk
          obtain ⟨τ1, x1, x2, x3⟩ := hn
          have q14 : mf τ1 14 = 0 := (x3.1 14 (by decide)).trans h14
          have e36 : (6 : Int32) * i3 M + i3 i = i3 (6 * M + i) := by rw [show (6 : Int32) * i3 M = i3 (6 * M) from i3_mul 6 M, i3_add]
          have L1 : ML (sa τ1 36 (6 * M + i) (i3 v)) T n b1 := ML_sa x2 (by decide)
          have er : (if (mf (sa τ1 36 (6 * M + i) (i3 v)) 19) = 2 then (some 1) else (some 0) : Option Int32) = some (bI (decide (tkK T n b1 = 2))) := by
            by_cases et : tkK T n b1 = 2
            · rw [if_pos ((M_sort L1 (x := 2) (k := 2) rfl (by decide)).mpr et), decide_eq_true et]; rfl
            · rw [if_neg (fun q => et ((M_sort L1 (x := 2) (k := 2) rfl (by decide)).mp q)), decide_eq_false et]; rfl
          rw [x1, Option.bind_some, isGood_y q14, Option.bind_some, if_neg (show ¬ (1 : Int32) = 0 by decide), e36, ast_i3 (show 6 * M + i < mlen 36 by show 6 * M + i < 36; omega), Option.bind_some, er, Option.bind_some, Option.bind_some, i3_succ]
          dsimp only
          have hi := ih (i + 1) (fun q => if q = i then v else R q) (sa τ1 36 (6 * M + i) (i3 v)) b1 (by omega) (by omega) L1 q14 ((x3.1 26 (by decide)).trans g26) (fun q hq => by
            rw [ma_saq, x3.2]
            by_cases eq : q = i
            · rw [if_pos (by omega), if_pos eq]
            · rw [if_neg (by omega), if_neg eq]; exact hR q (by omega))
          cases e5 : spRd T n f b1 (i + 1) (fun q => if q = i then v else R q) with
          | inr z =>
            obtain ⟨k, p⟩ := z
            rw [e5] at hi
            obtain ⟨τ', y1, y2⟩ := hi
            exact ⟨τ', y1, Bd_pre (Oz_trans (Oz_lx x3) (Oz_sa (by decide) (by decide))) y2⟩
          | inl z =>
            obtain ⟨b2, i2, R2⟩ := z
            rw [e5] at hi
            obtain ⟨τ', y1, y2, y3, y4, y5, y6, y7, y8, y9⟩ := hi
            refine ⟨τ', y1, y2, y3, y4, y5, fun k k1 k2 => (y6 k k1 k2).trans (x3.1 k k2), fun j j1 j2 => by rw [y7 j j1 j2, ma_sb j1, x3.2], fun q hq => ?_, fun q hq => ?_⟩
            · rw [y8 q hq, ma_saq, if_neg (by omega), x3.2]
            · rw [y9 q hq, ma_sb (by decide), x3.2]
      · have ei : i = 6 := by omega
        subst ei
        obtain ⟨w1, w2⟩ := M_wrong_eq (x := 2) (k := 2) hL h14 rfl (by decide) (by decide)
        rw [if_neg e6]
        refine ⟨_, ?_, w2⟩
        have hst : M_readsClerk_L19 σ (i3 6, 1, τ) = some (.inr (sf (sf τ 14 2) 15 (i3 b))) := by
          unfold M_readsClerk_L19
          dsimp only
          rw [if_neg (show ¬ (1 : Int32) = 0 by decide), isGood_y h14, Option.bind_some, if_neg (show ¬ (1 : Int32) = 0 by decide), if_pos (show i3 6 = 6 from rfl), if_pos ((M_sort hL (x := 2) (k := 2) rfl (by decide)).mpr e2), w1, Option.bind_some, Option.bind_some, M_number_bad (Bd_bad w2), Option.bind_some, isGood_n (Bd_bad w2), Option.bind_some, if_pos rfl]
        rw [hst]
        rfl
    · rw [if_neg e2, decide_eq_false e2, bI_f, o_loop_eq]
      have g14 : mf (sa τ 37 M (i3 i)) 14 = 0 := h14
      have hst : M_readsClerk_L19 σ (i3 i, 0, τ) = some (.inr (sf (sa τ 37 M (i3 i)) 26 (i3 (M + 1)))) := by
        unfold M_readsClerk_L19 M_readsClerk_J98
        dsimp only
        rw [if_pos (show (0 : Int32) = 0 from rfl), h26, ast_i3 (show M < mlen 37 by show M < 6; omega), Option.bind_some, isGood_y g14, Option.bind_some, if_neg (show ¬ (1 : Int32) = 0 by decide), show mf (sa τ 37 M (i3 i)) 26 = i3 M from g26, i3_succ, pf_e, Option.bind_some]
      rw [hst]
      refine ⟨_, rfl, ML_sf (ML_sa hL (by decide)) (by decide), fun q hq => ?_, ?_, mf_sfe, fun k k1 k2 => mf_sfn k1, fun j j1 j2 => ?_, fun q hq => ?_, fun q hq => ?_⟩
      · show ma (sa τ 37 M (i3 i)) 36 _ = _
        rw [ma_sb (by decide)]
        exact hR q hq
      · show ma (sa τ 37 M (i3 i)) 37 M = _
        rw [ma_saq, if_pos rfl]
      · show ma (sa τ 37 M (i3 i)) j = _
        exact ma_sb j2
      · show ma (sa τ 37 M (i3 i)) 36 q = _
        rw [ma_sb (by decide)]
      · show ma (sa τ 37 M (i3 i)) 37 q = _
        rw [ma_saq, if_neg hq]
theorem M_clerk_eq {S : OS} {b c : Nat} (hS : WFL S) (hM : LM T n σ S b c) (e6 : pM S.1 < 6) : match (if tkK T n b = 2 then (match spRd T n 8 b 0 (fun _ => 0) with
    | .inr e => .inr e
    | .inl (b1, i, R) => .inl ((oM' S.1 R i, upn S.2.1 (28 + pM S.1) 0, S.2.2), b1)) else .inr (1, b) : OT) with
    | .inl (S', b') => ∃ σ' c', M_readsClerk σ = some σ' ∧ LM T n σ' S' b' c' ∧ Oz σ σ' ∧ mf σ' 15 = mf σ 15
    | .inr (k, p) => ∃ σ', M_readsClerk σ = some σ' ∧ Bd σ σ' k p := by
  obtain ⟨P, w, sl⟩ := S
  obtain ⟨hP, hW, -⟩ := hS
  obtain ⟨hL, ⟨h14, h31, hc⟩, ⟨g25, g26, g27, g28⟩, ⟨a1, a2, a3, a4⟩, ⟨r0, r1, r2, r3, r4⟩, y, z⟩ := hM
  dsimp only at *
  have hN := hP.1
  have hb0 := hL.2.1
  have hs1 : ast σ 40 (28 + i3 (pM P)) 0 = some (sa σ 40 (28 + pM P) 0) := by
    rw [show (28 : Int32) + i3 (pM P) = i3 (28 + pM P) from i3_add 28 _]
    exact ast_i3 (show 28 + pM P < mlen 40 by show 28 + pM P < 34; omega)
  have L1 : ML (sa σ 40 (28 + pM P) 0) T n b := ML_sa hL (by decide)
  have oz1 : Oz σ (sa σ 40 (28 + pM P) 0) := Oz_sa (by decide) (by decide)
  unfold M_readsClerk
  rw [g26, hs1, Option.bind_some]
  by_cases e2 : tkK T n b = 2
  · rw [if_pos e2]
    have hr := mRd (T := T) (n := n) (σ := σ) (M := pM P) g26 (by omega) 8 0 (fun _ => 0) (sa σ 40 (28 + pM P) 0) b rfl (by decide) L1 h14 g26 (fun q hq => absurd hq (Nat.not_lt_zero _))
    have hk := spRd_ok (T := T) (n := n) 8 b 0 (fun _ => 0) hb0 (by decide) (fun q hq => absurd hq (Nat.not_lt_zero _))
    rw [decide_eq_true e2] at hr
    cases e : spRd T n 8 b 0 (fun _ => 0) with
    | inr q =>
      obtain ⟨k, p⟩ := q
      rw [e] at hr
      obtain ⟨τ', x1, x2⟩ := hr
      exact ⟨τ', x1, Bd_pre oz1 x2⟩
    | inl q =>
      obtain ⟨b1, i, R⟩ := q
      rw [e] at hr hk
      obtain ⟨τ', x1, x2, x3, x4, x5, x6, x7, x8, x9⟩ := hr
      obtain ⟨k1, k2, -, k4, -, -, -⟩ := hk
      have ef : ∀ k, k ≠ 26 → k < 18 ∨ 23 < k → mf τ' k = mf σ k := fun k k1 k2 => x6 k k1 k2
      have e40 : ∀ q, ma τ' 40 q = if q = 28 + pM P then 0 else ma σ 40 q := fun q => by rw [x7 40 (by decide) (by decide), ma_saq]
      have ea : ∀ j, j ≠ 36 → j ≠ 37 → j ≠ 40 → ma τ' j = ma σ j := fun j j1 j2 j3 => by rw [x7 j j1 j2, ma_sb j3]
      have u : ∀ j, j ≠ 28 + pM P → upn w (28 + pM P) 0 j = w j := fun j hj => if_neg hj
      have u1 : upn w (28 + pM P) 0 (28 + pM P) = 0 := if_pos rfl
      refine ⟨τ', c, x1, ⟨x2, ⟨?_, ?_, by omega⟩, ⟨?_, x5, ?_, ?_⟩, ⟨fun c' hc' => ?_, fun c' i' hc' hi' => ?_, fun i' hi' => ?_, fun i' hi' => ?_⟩, ⟨?_, fun k hk => ?_, fun k hk => ?_, fun k hk => ?_, fun k hk => ?_⟩, ?_, ?_⟩, ⟨fun k hk => ef k (by omega) (by omega), fun j hj => ea j (by omega) (by omega) (by omega)⟩, ef 15 (by decide) (by decide)⟩
      · rw [ef 14 (by decide) (by decide)]; exact h14
      · rw [ef 31 (by decide) (by decide)]; exact h31
      · rw [ef 25 (by decide) (by decide)]; exact g25
      · rw [ef 27 (by decide) (by decide)]; exact g27
      · rw [ef 28 (by decide) (by decide)]; exact g28
      · have hc2 : c' < pM P + 1 := hc'
        show ma τ' 37 c' = i3 (if c' = pM P then i else pL P c')
        by_cases ec : c' = pM P
        · rw [if_pos ec, ec]; exact x4
        · rw [if_neg ec, x9 c' ec, ma_sb (by decide)]; exact a1 c' (by omega)
      · have hc2 : c' < pM P + 1 := hc'
        have hi2 : i' < (if c' = pM P then i else pL P c') := hi'
        show ma τ' 36 (6 * c' + i') = i3 ((if c' = pM P then R else pR P c') i')
        by_cases ec : c' = pM P
        · rw [if_pos ec] at hi2 ⊢
          rw [ec]
          exact x3 i' hi2
        · rw [if_neg ec] at hi2 ⊢
          have hLc := (hP.2.2.2.2.2.1 c' (by omega)).2
          rw [x8 _ (by omega), ma_sb (by decide)]
          exact a2 c' i' (by omega) hi2
      · have hi2 : i' < pQ' P := hi'
        rw [ea 38 (by decide) (by decide) (by decide)]; exact a3 i' hi2
      · have hi2 : i' < pQ' P := hi'
        rw [ea 39 (by decide) (by decide) (by decide)]; exact a4 i' hi2
      · show ma τ' 40 0 = i3 (upn w (28 + pM P) 0 0)
        rw [u _ (by omega), e40, if_neg (by omega)]
        exact r0
      · have hk2 : k < pN P := hk
        show ma τ' 40 (0 + 1 + k) = i3 (upn w (28 + pM P) 0 (1 + k))
        rw [u _ (by omega), e40, if_neg (by omega)]
        exact r1 k hk2
      · have hk2 : k < pN P := hk
        show ma τ' 40 (0 + 10 + k) = i3 (upn w (28 + pM P) 0 (10 + k))
        rw [u _ (by omega), e40, if_neg (by omega)]
        exact r2 k hk2
      · have hk2 : k < pN P := hk
        show ma τ' 40 (0 + 19 + k) = atM (upn w (28 + pM P) 0 (19 + k))
        rw [u _ (by omega), e40, if_neg (by omega)]
        exact r3 k hk2
      · have hk2 : k < pM P + 1 := hk
        show ma τ' 40 (0 + 28 + k) = i3 (upn w (28 + pM P) 0 (28 + k))
        by_cases ek : k = pM P
        · subst ek
          rw [u1, e40, if_pos (by omega)]
          rfl
        · rw [u _ (by omega), e40, if_neg (by omega)]
          exact r4 k (by omega)
      · rw [ef 29 (by decide) (by decide)]
        exact CdO_mono y (Nat.le_refl _) (fun i _ => by rw [ea 41 (by decide) (by decide) (by decide)])
      · rw [ef 30 (by decide) (by decide)]
        exact CdO_mono z (Nat.le_refl _) (fun i _ => by rw [ea 41 (by decide) (by decide) (by decide)])
  · rw [if_neg e2]
    have hn := M_number_eq (x := 3) (m := 3) L1 h14 rfl (by decide)
    rw [show spNum T n 3 b = .inr (1, b) from if_neg e2] at hn
    obtain ⟨v, τ1, x1, x2⟩ := hn
    refine ⟨τ1, ?_, Bd_pre oz1 x2⟩
    rw [o_loop_eq]
    have hst : M_readsClerk_L19 σ (0, 1, sa σ 40 (28 + pM P) 0) = some (.inr τ1) := by
      unfold M_readsClerk_L19
      dsimp only
      rw [if_neg (show ¬ (1 : Int32) = 0 by decide), isGood_y (show mf (sa σ 40 (28 + pM P) 0) 14 = 0 from h14), Option.bind_some, if_neg (show ¬ (1 : Int32) = 0 by decide), if_neg (show ¬ (0 : Int32) = 6 by decide), Option.bind_some, x1, Option.bind_some, isGood_n (Bd_bad x2), Option.bind_some, if_pos rfl]
    rw [hst]
    rfl
theorem M_isWordOf_eq {P : PO} {a c : Nat} (h27 : mf σ 27 = i3 (pQ' P)) (hQ : pQ' P ≤ 12) (a3 : ∀ i, i < pQ' P → ma σ 38 i = i3 (pA P i)) (a4 : ∀ i, i < pQ' P → ma σ 39 i = i3 (pB P i)) (hA : ∀ i, i < pQ' P → pA P i < 9 ∧ pB P i < 9) (ha : a < 2 ^ 20) (hc : c < 2 ^ 20) : M_isWordOf σ (i3 a) (i3 c) = some (bI (hasW P a c)) := by
  obtain ⟨r, r1, r2⟩ := o_inv (step := M_isWordOf_L2 σ (i3 a) (i3 c)) (fun k t => t = i3 k ∧ ∀ j, j < k → ¬ (pA P j = a ∧ pB P j = c)) (fun r => r = bI (hasW P a c)) (pQ' P) (fun k t hk hP => by
    obtain ⟨rfl, hP2⟩ := hP
    obtain ⟨l1, l2⟩ := hA k hk
    have hst : M_isWordOf_L2 σ (i3 a) (i3 c) (i3 k) = if pA P k = a ∧ pB P k = c then some (.inr 1) else some (.inl (i3 (k + 1))) := by
      unfold M_isWordOf_L2
      rw [h27, if_pos ((i3_lt (by omega) (by omega)).mpr hk), ald_at rfl (show k < mlen 38 by show k < 12; omega) (a3 k hk), Option.bind_some, ald_at rfl (show k < mlen 39 by show k < 12; omega) (a4 k hk), i3_succ]
      by_cases e1 : pA P k = a
      · rw [if_pos (by rw [e1]), Option.bind_some]
        by_cases e2 : pB P k = c
        · rw [if_pos (by rw [e2]), if_pos ⟨e1, e2⟩]
        · rw [if_neg (fun x => e2 ((i3_inj (by omega) (by omega)).mp x)), if_neg (fun x => e2 x.2)]
      · rw [if_neg (fun x => e1 ((i3_inj (by omega) (by omega)).mp x)), if_neg (fun x => e1 x.1)]
    rw [hst]
    by_cases e : pA P k = a ∧ pB P k = c
    · rw [if_pos e]
      refine .inr ⟨_, rfl, ?_⟩
      rw [hasW_iff.mpr ⟨k, hk, e.1, e.2⟩]
      rfl
    · rw [if_neg e]
      refine .inl ⟨_, rfl, rfl, fun j hj => ?_⟩
      by_cases ej : j = k
      · rw [ej]; exact e
      · exact hP2 j (by omega)) (fun t hP => by
    obtain ⟨rfl, hP2⟩ := hP
    refine ⟨0, ?_, ?_⟩
    · unfold M_isWordOf_L2
      rw [h27, if_neg (fun x => Nat.lt_irrefl _ ((i3_lt (by omega) (by omega)).mp x))]
    · have hno : hasW P a c = false := bF (fun x => by
        obtain ⟨i, i1, i2, i3⟩ := hasW_iff.mp x
        exact hP2 i i1 ⟨i2, i3⟩)
      rw [hno]
      rfl) 0 0 (Nat.zero_le _) ⟨rfl, fun j hj => absurd hj (Nat.not_lt_zero _)⟩
  unfold M_isWordOf
  rw [r1, r2]
theorem M_word_eq {S : OS} {b c : Nat} (hS : WFL S) (hM : LM T n σ S b c) (e12 : pQ' S.1 < 12) : match (match spAm T n (pN S.1) b with
    | .inr e => .inr e
    | .inl a => match spAm T n (pN S.1) (nxb T n b) with
      | .inr e => .inr e
      | .inl c => if a = c ∨ hasW S.1 a c = true then .inr (4, nxb T n b) else .inl ((oQ S.1 a c, S.2), nxb T n (nxb T n b)) : OT) with
    | .inl (S', b') => ∃ σ' c', M_readsWord σ = some σ' ∧ LM T n σ' S' b' c' ∧ Oz σ σ' ∧ mf σ' 15 = mf σ 15
    | .inr (k, p) => ∃ σ', M_readsWord σ = some σ' ∧ Bd σ σ' k p := by
  obtain ⟨P, w, sl⟩ := S
  obtain ⟨hP, hW, -⟩ := hS
  have hM0 := hM
  obtain ⟨hL, ⟨h14, h31, hc⟩, ⟨g25, g26, g27, g28⟩, ⟨a1, a2, a3, a4⟩, r, y, z⟩ := hM
  dsimp only at *
  have hN := hP.1
  unfold M_readsWord
  have hn1 := M_among_eq (x := mf σ 25) (m := pN P) hL h14 g25 (by omega)
  have hk1 := spAm_ok (T := T) (n := n) (m := pN P) (b := b)
  cases e1 : spAm T n (pN P) b with
  | inr q =>
    obtain ⟨k, p⟩ := q
    rw [e1] at hn1
    obtain ⟨σ1, x1, x2⟩ := hn1
    refine ⟨σ1, ?_, x2⟩
    rw [x1, Option.bind_some, if_pos rfl]
  | inl a =>
    rw [e1] at hn1 hk1
    obtain ⟨x1, x2⟩ := hn1
    have hb1 : b < n := tk_lt (by rw [hk1.2]; decide)
    have hbn := nxt_lt (T := T) hb1
    obtain ⟨σ1, y1, y2, y3⟩ := M_goes_nxt hL
    have q14 : mf σ1 14 = 0 := (y3.1 14 (by decide)).trans h14
    have q25 : mf σ1 25 = i3 (pN P) := (y3.1 25 (by decide)).trans g25
    have q27 : mf σ1 27 = i3 (pQ' P) := (y3.1 27 (by decide)).trans g27
    rw [x1, Option.bind_some, if_neg (show ¬ (1 : Int32) = 0 by decide), y1, Option.bind_some]
    have hn2 := M_among_eq (x := mf σ1 25) (m := pN P) y2 q14 q25 (by omega)
    have hk2 := spAm_ok (T := T) (n := n) (m := pN P) (b := nxb T n b)
    dsimp only
    cases e2 : spAm T n (pN P) (nxb T n b) with
    | inr q =>
      obtain ⟨k, p⟩ := q
      rw [e2] at hn2
      obtain ⟨σ2, z1, z2⟩ := hn2
      refine ⟨σ2, ?_, Bd_pre (Oz_lx y3) z2⟩
      rw [z1, Option.bind_some, if_pos rfl]
    | inl v =>
      rw [e2] at hn2 hk2
      obtain ⟨z1, z2⟩ := hn2
      have hb2 : nxb T n b < n := tk_lt (by rw [hk2.2]; decide)
      have hbn2 := nxt_lt (T := T) hb2
      obtain ⟨w1, w2⟩ := M_wrong_eq (x := 4) (k := 4) y2 q14 rfl (by decide) (by decide)
      rw [z1, Option.bind_some, if_neg (show ¬ (1 : Int32) = 0 by decide)]
      dsimp only
      rw [z2, x2, M_isWordOf_eq q27 hP.2.2.1 (fun i hi => by rw [y3.2]; exact a3 i hi) (fun i hi => by rw [y3.2]; exact a4 i hi) (fun i hi => by have := hP.2.2.2.2.2.2 i hi; omega) (by omega) (by omega), Option.bind_some]
      by_cases e4 : a = v ∨ hasW P a v = true
      · rw [if_pos e4]
        refine ⟨_, ?_, Bd_pre (Oz_lx y3) w2⟩
        have : (if i3 v = i3 a then (M_readsWord_J53 (1, σ1)) else (if bI (hasW P a v) = 0 then (some σ1) else (M_readsWord_J53 (1, σ1))) : Option MS) = some (sf (sf σ1 14 4) 15 (i3 (nxb T n b))) := by
          have e53 : M_readsWord_J53 (1, σ1) = some (sf (sf σ1 14 4) 15 (i3 (nxb T n b))) := by
            unfold M_readsWord_J53
            dsimp only
            rw [w1, Option.bind_some]
          rw [e53]
          rcases e4 with e4 | e4
          · rw [if_pos (by rw [e4])]
          · split
            · rfl
            · rw [if_neg (bI_n0 e4)]
        rw [this, Option.bind_some, isGood_n (Bd_bad w2), Option.bind_some, if_pos rfl]
      · rw [if_neg e4]
        have n1 : ¬ i3 v = i3 a := fun x => e4 (.inl ((i3_inj (by omega) (by omega)).mp x).symm)
        have n2 : hasW P a v = false := bF (fun x => e4 (.inr x))
        rw [if_neg n1, if_pos (bI_y0 n2), Option.bind_some, isGood_y q14, Option.bind_some, if_neg (show ¬ (1 : Int32) = 0 by decide), q27, ast_i3 (show pQ' P < mlen 38 from e12), Option.bind_some, show mf (sa σ1 38 (pQ' P) (i3 a)) 27 = i3 (pQ' P) from q27, show mf (sa σ1 38 (pQ' P) (i3 a)) 22 = i3 v from z2, ast_i3 (show pQ' P < mlen 39 from e12), Option.bind_some, show mf (sa (sa σ1 38 (pQ' P) (i3 a)) 39 (pQ' P) (i3 v)) 27 = i3 (pQ' P) from q27, i3_succ, pf_e, Option.bind_some]
        have L2 : ML (sf (sa (sa σ1 38 (pQ' P) (i3 a)) 39 (pQ' P) (i3 v)) 27 (i3 (pQ' P + 1))) T n (nxb T n b) := ML_sf (ML_sa (ML_sa y2 (by decide)) (by decide)) (by decide)
        obtain ⟨σ', t1, t2, t3⟩ := M_goes_nxt L2
        rw [t1, Option.bind_some]
        have ef : ∀ k, k ≠ 27 → k < 18 ∨ 23 < k → mf σ' k = mf σ k := fun k k1 k2 => by
          rw [t3.1 k k2, mf_sfn k1]
          exact y3.1 k k2
        have ea : ∀ j, j ≠ 38 → j ≠ 39 → ma σ' j = ma σ j := fun j j1 j2 => by
          rw [t3.2 j]
          show ma (sa (sa σ1 38 (pQ' P) (i3 a)) 39 (pQ' P) (i3 v)) j = _
          rw [ma_sb j2, ma_sb j1, y3.2]
        refine ⟨σ', c, rfl, ⟨t2, ⟨?_, ?_, by omega⟩, ⟨?_, ?_, ?_, ?_⟩, ⟨?_, ?_, fun i hi => ?_, fun i hi => ?_⟩, ?_, ?_, ?_⟩, ⟨fun k hk => ef k (by omega) (by omega), fun j hj => ea j (by omega) (by omega)⟩, ef 15 (by decide) (by decide)⟩
        · rw [ef 14 (by decide) (by decide)]; exact h14
        · rw [ef 31 (by decide) (by decide)]; exact h31
        · rw [ef 25 (by decide) (by decide)]; exact g25
        · rw [ef 26 (by decide) (by decide)]; exact g26
        · rw [t3.1 27 (by decide)]; exact mf_sfe
        · rw [ef 28 (by decide) (by decide)]; exact g28
        · rw [ea 37 (by decide) (by decide)]; exact a1
        · rw [ea 36 (by decide) (by decide)]; exact a2
        · have hi2 : i < pQ' P + 1 := hi
          show ma σ' 38 i = i3 (if i = pQ' P then a else pA P i)
          rw [t3.2 38]
          show ma (sa (sa σ1 38 (pQ' P) (i3 a)) 39 (pQ' P) (i3 v)) 38 i = _
          rw [ma_sb (by decide), ma_saq, y3.2]
          by_cases ei : i = pQ' P
          · rw [if_pos ei, if_pos ei]
          · rw [if_neg ei, if_neg ei]; exact a3 i (by omega)
        · have hi2 : i < pQ' P + 1 := hi
          show ma σ' 39 i = i3 (if i = pQ' P then v else pB P i)
          rw [t3.2 39]
          show ma (sa (sa σ1 38 (pQ' P) (i3 a)) 39 (pQ' P) (i3 v)) 39 i = _
          rw [ma_saq, ma_sb (by decide), y3.2]
          by_cases ei : i = pQ' P
          · rw [if_pos ei, if_pos ei]
          · rw [if_neg ei, if_neg ei]; exact a4 i (by omega)
        · rw [ea 40 (by decide) (by decide)]; exact r
        · rw [ef 29 (by decide) (by decide)]
          exact CdO_mono y (Nat.le_refl _) (fun i _ => by rw [ea 41 (by decide) (by decide)])
        · rw [ef 30 (by decide) (by decide)]
          exact CdO_mono z (Nat.le_refl _) (fun i _ => by rw [ea 41 (by decide) (by decide)])
end MLINES3
