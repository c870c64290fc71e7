/-! ===== office: the reference reads a text ===== -/
section MLINE
variable {T : Nat → Nat} {n : Nat} {σ σ' : MS}
theorem M_isSign_any (σ : MS) (x : Int32) : ∃ v, M_isSign σ x = some v := by
  unfold M_isSign
  repeat' split
  all_goals exact ⟨_, rfl⟩
/-- what a line comes to, on the reference's side -/
def MLn (T : Nat → Nat) (n : Nat) (σ : MS) (x : Option MS) (r : OT) : Prop := match r with
  | .inl (S', b') => ∃ σ' c', x = some σ' ∧ LM T n σ' S' b' c' ∧ Oz σ σ' ∧ mf σ' 15 = mf σ 15
  | .inr (k, p) => ∃ σ', x = some σ' ∧ Bd σ σ' k p
theorem MLn_pre {σ1 : MS} {x : Option MS} {r : OT} (h : MLn T n σ1 x r) (hx : Lx σ σ1) : MLn T n σ x r := by
  unfold MLn at h ⊢
  rcases r with ⟨S', b'⟩ | ⟨k, p⟩
  · obtain ⟨σ', c', h1, h2, h3, h4⟩ := h
    exact ⟨σ', c', h1, h2, Oz_trans (Oz_lx hx) h3, h4.trans (hx.1 15 (by decide))⟩
  · obtain ⟨σ', h1, h2⟩ := h
    exact ⟨σ', h1, Bd_pre (Oz_lx hx) h2⟩
theorem bind_s {x : Option MS} : (x.bind fun q => some q) = x := by cases x <;> rfl
/-- the first and the last of a line's kind -/
noncomputable def mAny (σ : MS) (q1 : Int32) : Option MS := ((if q1 = 2 then
      (((if (mf σ 25) = 9 then (some 1) else (some 0) : Option Int32)).bind fun r40 => (M_begins σ r40 0).bind fun q41 => if q41.1 = 0 then (some q41.2) else ((M_readsSheet q41.2).bind fun q43 => some q43))
    else (if q1 = 9 then
        (((if (mf σ 26) = 6 then (some 1) else (some 0) : Option Int32)).bind fun r35 => (M_begins σ r35 0).bind fun q36 => if q36.1 = 0 then (some q36.2) else ((M_readsClerk q36.2).bind fun q38 => some q38))
      else (if q1 = 10 then
          (((if (mf σ 27) = 12 then (some 1) else (some 0) : Option Int32)).bind fun r30 => (M_begins σ r30 0).bind fun q31 => if q31.1 = 0 then (some q31.2) else ((M_readsWord q31.2).bind fun q33 => some q33))
        else (if q1 = 11 then
            (((if (mf σ 28) = (-1) then (some 0) else (some 1) : Option Int32)).bind fun r24 => (M_begins σ 0 r24).bind fun q25 => if q25.1 = 0 then (some q25.2) else ((M_number q25.2 0 8).bind fun q27 => (pf q27.2 28 q27.1).bind fun s28 => some s28))
          else (if q1 = 12 then
              (((if (mf σ 29) = (-1) then (some 0) else (some 1) : Option Int32)).bind fun r18 => (M_begins σ 0 r18).bind fun q19 => if q19.1 = 0 then (some q19.2) else ((pf q19.2 29 (mf q19.2 31)).bind fun s21 => (M_expression s21 4 8).bind fun q22 => some q22))
            else (if q1 = 13 then
                (((if (mf σ 30) = (-1) then (some 0) else (some 1) : Option Int32)).bind fun r12 => (M_begins σ 0 r12).bind fun q13 => if q13.1 = 0 then (some q13.2) else ((pf q13.2 30 (mf q13.2 31)).bind fun s15 => (M_expression s15 0 5).bind fun q16 => some q16))
              else ((M_wrong σ 1).bind fun q11 => some q11)))))) : Option MS))
theorem M_line_any {b : Nat} (h : ML σ T n b) : M_line σ = (mAny σ (kwI T n b)).bind fun r2 => (M_isSign r2 59).bind fun q3 => (M_need r2 q3).bind fun q4 => some q4 := by
  unfold M_line mAny
  rw [M_knownWord_eq h, Option.bind_some]
theorem mAny_sheet {S : OS} {b c : Nat} (hS : WFL S) (hM : LM T n σ S b c) (hb : b < n) : MLn T n σ (mAny σ 2) (lnSheet T n S b) := by
  have h9 : pN S.1 ≤ 9 := hS.1.1
  obtain ⟨s1, g1, g2, g3⟩ := M_begins_y hM.1 hM.2.1.1
  obtain ⟨s2, k1, k2⟩ := M_begins_2 hM.1 hM.2.1.1
  unfold mAny lnSheet
  rw [if_pos rfl, hM.2.2.1.1]
  by_cases e9 : pN S.1 < 9
  · rw [if_pos e9, if_neg (i3_nl (x := 9) (c := 9) rfl (by omega) (by decide) (by omega)), Option.bind_some, g1, Option.bind_some, if_neg (show ¬ (1 : Int32) = 0 by decide), bind_s]
    exact MLn_pre (M_sheet_eq hS (LM_lx hM g2 (by have := nxt_lt (T := T) hb; omega) g3) e9) g3
  · rw [if_neg e9, if_pos ((i3_eqn (x := 9) (k := 9) rfl (by omega) (by decide)).mpr (by omega)), Option.bind_some, k1, Option.bind_some, if_pos rfl]
    exact ⟨s2, rfl, k2⟩
theorem mAny_clerk {S : OS} {b c : Nat} (hS : WFL S) (hM : LM T n σ S b c) (hb : b < n) : MLn T n σ (mAny σ 9) (lnClerk T n S b) := by
  have h6 : pM S.1 ≤ 6 := hS.1.2.1
  obtain ⟨s1, g1, g2, g3⟩ := M_begins_y hM.1 hM.2.1.1
  obtain ⟨s2, k1, k2⟩ := M_begins_2 hM.1 hM.2.1.1
  unfold mAny lnClerk
  rw [if_neg (by decide), if_pos rfl, hM.2.2.1.2.1]
  by_cases e6 : pM S.1 < 6
  · rw [if_pos e6, if_neg (i3_nl (x := 6) (c := 6) rfl (by omega) (by decide) (by omega)), Option.bind_some, g1, Option.bind_some, if_neg (show ¬ (1 : Int32) = 0 by decide), bind_s]
    exact MLn_pre (M_clerk_eq hS (LM_lx hM g2 (by have := nxt_lt (T := T) hb; omega) g3) e6) g3
  · rw [if_neg e6, if_pos ((i3_eqn (x := 6) (k := 6) rfl (by omega) (by decide)).mpr (by omega)), Option.bind_some, k1, Option.bind_some, if_pos rfl]
    exact ⟨s2, rfl, k2⟩
theorem mAny_word {S : OS} {b c : Nat} (hS : WFL S) (hM : LM T n σ S b c) (hb : b < n) : MLn T n σ (mAny σ 10) (lnWord T n S b) := by
  have h12 : pQ' S.1 ≤ 12 := hS.1.2.2.1
  obtain ⟨s1, g1, g2, g3⟩ := M_begins_y hM.1 hM.2.1.1
  obtain ⟨s2, k1, k2⟩ := M_begins_2 hM.1 hM.2.1.1
  unfold mAny lnWord
  rw [if_neg (by decide), if_neg (by decide), if_pos rfl, hM.2.2.1.2.2.1]
  by_cases e12 : pQ' S.1 < 12
  · rw [if_pos e12, if_neg (i3_nl (x := 12) (c := 12) rfl (by omega) (by decide) (by omega)), Option.bind_some, g1, Option.bind_some, if_neg (show ¬ (1 : Int32) = 0 by decide), bind_s]
    exact MLn_pre (M_word_eq hS (LM_lx hM g2 (by have := nxt_lt (T := T) hb; omega) g3) e12) g3
  · rw [if_neg e12, if_pos ((i3_eqn (x := 12) (k := 12) rfl (by omega) (by decide)).mpr (by omega)), Option.bind_some, k1, Option.bind_some, if_pos rfl]
    exact ⟨s2, rfl, k2⟩
theorem mAny_slack {S : OS} {b c : Nat} (hS : WFL S) (hM : LM T n σ S b c) (hb : b < n) : MLn T n σ (mAny σ 11) (lnSlack T n S b) := by
  have h8 : pS S.1 ≤ 8 := hS.1.2.2.2.1
  obtain ⟨s1, g1, g2, g3⟩ := M_begins_y hM.1 hM.2.1.1
  obtain ⟨s2, k1, k2⟩ := M_begins_5 hM.1 hM.2.1.1
  have h28 := hM.2.2.1.2.2.2
  unfold mAny lnSlack
  rw [if_neg (by decide), if_neg (by decide), if_neg (by decide), if_pos rfl, h28]
  by_cases es : S.2.2 = true
  · rw [if_pos es, if_pos es, if_neg (i3_m1 (by omega)), Option.bind_some, k1, Option.bind_some, if_pos rfl]
    exact ⟨s2, rfl, k2⟩
  · rw [if_neg es, if_neg es, if_pos rfl, Option.bind_some, g1, Option.bind_some, if_neg (show ¬ (1 : Int32) = 0 by decide)]
    have hM1 := LM_lx hM g2 (by have := nxt_lt (T := T) hb; omega) g3
    have hn := M_number_eq (x := 8) (m := 8) g2 hM1.2.1.1 rfl (by decide)
    have hk := spNum_ok (T := T) (m := 8) g2.2.1
    dsimp only
    cases e : spNum T n 8 (nxb T n b) with
    | inr q =>
      obtain ⟨k, p⟩ := q
      rw [e] at hn
      obtain ⟨v, s3, x1, x2⟩ := hn
      rw [x1, Option.bind_some, pf_e, Option.bind_some]
      exact ⟨_, rfl, Bd_post (Bd_pre (Oz_lx g3) x2) (Oz_sf (by decide) (by decide) (by decide)) (mf_sfn (by decide)) (mf_sfn (by decide))⟩
    | inl q =>
      obtain ⟨b1, v⟩ := q
      rw [e] at hn hk
      obtain ⟨s3, x1, x2, x3⟩ := hn
      have hM3 := LM_lx hM1 x2 (by have := hk.1; omega) x3
      rw [x1, Option.bind_some, pf_e, Option.bind_some]
      obtain ⟨h1, ⟨h2, h3, h4⟩, ⟨u1, u2, u3, u4⟩, a, r, y, z⟩ := hM3
      refine ⟨_, c, rfl, ⟨ML_sf h1 (by decide), ⟨by rw [mf_sfn (by decide)]; exact h2, by rw [mf_sfn (by decide)]; exact h3, h4⟩, ⟨by rw [mf_sfn (by decide)]; exact u1, by rw [mf_sfn (by decide)]; exact u2, by rw [mf_sfn (by decide)]; exact u3, mf_sfe⟩, a, r, by rw [mf_sfn (by decide)]; exact y, by rw [mf_sfn (by decide)]; exact z⟩, Oz_trans (Oz_lx g3) (Oz_trans (Oz_lx x3) (Oz_sf (by decide) (by decide) (by decide))), ?_⟩
      rw [mf_sfn (by decide), x3.1 15 (by decide), g3.1 15 (by decide)]
theorem LM_expr {S : OS} {b b1 c c1 : Nat} {E : EX} (hM : LM T n σ S b c) (hL : ML σ' T n b1) (h14 : mf σ' 14 = 0) (h31 : mf σ' 31 = i3 (c1 + 1)) (hc1 : c1 + 1 ≤ 2 * b1) (hcc : c ≤ c1) (ef : ∀ k, 25 ≤ k ∧ k ≤ 28 → mf σ' k = mf σ k) (ea : ∀ j, j ≠ 41 → j ≠ 42 → j ≠ 43 → ma σ' j = ma σ j) (e41 : ∀ i, i < c → ma σ' 41 i = ma σ 41 i) (hy : CdO σ' (mf σ' 29) (c1 + 1) (pY (oY S.1 E))) (hz : CdO σ' (mf σ' 30) (c1 + 1) (pZ (oY S.1 E))) : LM T n σ' (oY S.1 E, S.2) b1 (c1 + 1) := by
  obtain ⟨h1, ⟨h2, h3, h4⟩, ⟨u1, u2, u3, u4⟩, ⟨a1, a2, a3, a4⟩, r, y, z⟩ := hM
  refine ⟨hL, ⟨h14, h31, hc1⟩, ⟨by rw [ef 25 (by decide)]; exact u1, by rw [ef 26 (by decide)]; exact u2, by rw [ef 27 (by decide)]; exact u3, by rw [ef 28 (by decide)]; exact u4⟩, ⟨?_, ?_, ?_, ?_⟩, ?_, hy, hz⟩
  · rw [ea 37 (by decide) (by decide) (by decide)]; exact a1
  · rw [ea 36 (by decide) (by decide) (by decide)]; exact a2
  · rw [ea 38 (by decide) (by decide) (by decide)]; exact a3
  · rw [ea 39 (by decide) (by decide) (by decide)]; exact a4
  · rw [ea 40 (by decide) (by decide) (by decide)]; exact r
theorem LM_expz {S : OS} {b b1 c c1 : Nat} {E : EX} (hM : LM T n σ S b c) (hL : ML σ' T n b1) (h14 : mf σ' 14 = 0) (h31 : mf σ' 31 = i3 (c1 + 1)) (hc1 : c1 + 1 ≤ 2 * b1) (hcc : c ≤ c1) (ef : ∀ k, 25 ≤ k ∧ k ≤ 28 → mf σ' k = mf σ k) (ea : ∀ j, j ≠ 41 → j ≠ 42 → j ≠ 43 → ma σ' j = ma σ j) (e41 : ∀ i, i < c → ma σ' 41 i = ma σ 41 i) (hy : CdO σ' (mf σ' 29) (c1 + 1) (pY (oZ S.1 E))) (hz : CdO σ' (mf σ' 30) (c1 + 1) (pZ (oZ S.1 E))) : LM T n σ' (oZ S.1 E, S.2) b1 (c1 + 1) := by
  obtain ⟨h1, ⟨h2, h3, h4⟩, ⟨u1, u2, u3, u4⟩, ⟨a1, a2, a3, a4⟩, r, y, z⟩ := hM
  refine ⟨hL, ⟨h14, h31, hc1⟩, ⟨by rw [ef 25 (by decide)]; exact u1, by rw [ef 26 (by decide)]; exact u2, by rw [ef 27 (by decide)]; exact u3, by rw [ef 28 (by decide)]; exact u4⟩, ⟨?_, ?_, ?_, ?_⟩, ?_, hy, hz⟩
  · rw [ea 37 (by decide) (by decide) (by decide)]; exact a1
  · rw [ea 36 (by decide) (by decide) (by decide)]; exact a2
  · rw [ea 38 (by decide) (by decide) (by decide)]; exact a3
  · rw [ea 39 (by decide) (by decide) (by decide)]; exact a4
  · rw [ea 40 (by decide) (by decide) (by decide)]; exact r
/-- a line's word is four letters long at least, or that much code fits -/
theorem kw_len {b k : Nat} (hk : kw T n b = some k) (h4 : 4 ≤ (wd k).length) : b + 4 ≤ nxb T n b := by
  have h1 := (isWd_iff.mp (kw_some.mp hk).2).2.1
  have h2 := tkE_ge (T := T) (n := n) (b := b)
  have h3 : tkE T n b ≤ nxb T n b := run_ge 700 _
  omega
theorem mAny_lays {S : OS} {b c : Nat} (hM : LM T n σ S b c) (hk : kw T n b = some 12) : MLn T n σ (mAny σ 12) (lnLays T n S b) := by
  obtain ⟨s1, g1, g2, g3⟩ := M_begins_y hM.1 hM.2.1.1
  obtain ⟨s2, k1, k2⟩ := M_begins_5 hM.1 hM.2.1.1
  have hl := kw_len hk (by decide)
  have hcc := hM.2.1.2.2
  have hY := hM.2.2.2.2.2.1
  have hZ := hM.2.2.2.2.2.2
  unfold mAny lnLays
  rw [if_neg (by decide), if_neg (by decide), if_neg (by decide), if_neg (by decide), if_pos rfl]
  cases eY : pY S.1 with
  | some E =>
    rw [eY] at hY
    obtain ⟨p, p1, q1, q2, q3, q4⟩ := hY
    have hbn := hM.1.2.1
    have hn := hM.1.1.2.1
    have hlt := q2.1
    rw [q1, if_neg (i3_m1 (by omega)), Option.bind_some, k1, Option.bind_some, if_pos rfl]
    exact ⟨s2, rfl, k2⟩
  | none =>
    rw [eY] at hY
    have hY' : mf σ 29 = -1 := hY
    rw [hY', if_pos rfl, Option.bind_some, g1, Option.bind_some, if_neg (show ¬ (1 : Int32) = 0 by decide), g3.1 31 (by decide), hM.2.1.2.1, pf_e, Option.bind_some, bind_s]
    have hM1 := LM_lx hM g2 (by omega) g3
    have L1 : ML (sf s1 29 (i3 c)) T n (nxb T n b) := ML_sf g2 (by decide)
    have hx := M_expr_eq (lo := 4) (hi := 8) (c := c) L1 (by rw [mf_sfn (by decide)]; exact hM1.2.1.1) (by rw [mf_sfn (by decide)]; exact hM1.2.1.2.1) (by omega) (by decide) (by decide)
    have oz : Oz σ (sf s1 29 (i3 c)) := Oz_trans (Oz_lx g3) (Oz_sf (by decide) (by decide) (by decide))
    dsimp only
    cases e : spX T n 4 8 9 0 (nxb T n b) with
    | inr z =>
      obtain ⟨k, p⟩ := z
      rw [e] at hx
      obtain ⟨s3, x1, x2⟩ := hx
      exact ⟨s3, x1, Bd_pre oz x2⟩
    | inl z =>
      obtain ⟨b1, E⟩ := z
      rw [e] at hx
      obtain ⟨s3, c1, x1, x2, x3, x4, x5, x6, x7, x8, x9, x10, x11⟩ := hx
      refine ⟨s3, c1 + 1, x1, LM_expr hM1 x2 x3 x4 x5 x6 (fun k hk => by rw [x7 k (by omega), mf_sfn (by omega)]) (fun j j1 j2 j3 => by rw [x8 j j1 j2 j3]; rfl) (fun i hi => by rw [x9 i hi]; rfl) ⟨c, c1, ?_, x10, x11, Nat.lt_succ_self _⟩ ?_, Oz_trans oz ⟨fun k hk => x7 k (by omega), fun j hj => x8 j (by omega) (by omega) (by omega)⟩, ?_⟩
      · rw [x7 29 (by decide), mf_sfe]
      · rw [x7 30 (by decide), mf_sfn (by decide), g3.1 30 (by decide)]
        exact CdO_mono hZ (by omega) (fun i hi => by
          rw [x9 i hi]
          show ma s1 41 i = _
          rw [g3.2])
      · rw [x7 15 (by decide), mf_sfn (by decide), g3.1 15 (by decide)]
theorem mAny_moulds {S : OS} {b c : Nat} (hM : LM T n σ S b c) (hk : kw T n b = some 13) : MLn T n σ (mAny σ 13) (lnMoulds T n S b) := by
  obtain ⟨s1, g1, g2, g3⟩ := M_begins_y hM.1 hM.2.1.1
  obtain ⟨s2, k1, k2⟩ := M_begins_5 hM.1 hM.2.1.1
  have hl := kw_len hk (by decide)
  have hcc := hM.2.1.2.2
  have hY := hM.2.2.2.2.2.1
  have hZ := hM.2.2.2.2.2.2
  unfold mAny lnMoulds
  rw [if_neg (by decide), if_neg (by decide), if_neg (by decide), if_neg (by decide), if_neg (by decide), if_pos rfl]
  cases eZ : pZ S.1 with
  | some E =>
    rw [eZ] at hZ
    obtain ⟨p, p1, q1, q2, q3, q4⟩ := hZ
    have hbn := hM.1.2.1
    have hn := hM.1.1.2.1
    have hlt := q2.1
    rw [q1, if_neg (i3_m1 (by omega)), Option.bind_some, k1, Option.bind_some, if_pos rfl]
    exact ⟨s2, rfl, k2⟩
  | none =>
    rw [eZ] at hZ
    have hZ' : mf σ 30 = -1 := hZ
    rw [hZ', if_pos rfl, Option.bind_some, g1, Option.bind_some, if_neg (show ¬ (1 : Int32) = 0 by decide), g3.1 31 (by decide), hM.2.1.2.1, pf_e, Option.bind_some, bind_s]
    have hM1 := LM_lx hM g2 (by omega) g3
    have L1 : ML (sf s1 30 (i3 c)) T n (nxb T n b) := ML_sf g2 (by decide)
    have hx := M_expr_eq (lo := 0) (hi := 5) (c := c) L1 (by rw [mf_sfn (by decide)]; exact hM1.2.1.1) (by rw [mf_sfn (by decide)]; exact hM1.2.1.2.1) (by omega) (by decide) (by decide)
    have oz : Oz σ (sf s1 30 (i3 c)) := Oz_trans (Oz_lx g3) (Oz_sf (by decide) (by decide) (by decide))
    dsimp only
    cases e : spX T n 0 5 9 0 (nxb T n b) with
    | inr z =>
      obtain ⟨k, p⟩ := z
      rw [e] at hx
      obtain ⟨s3, x1, x2⟩ := hx
      exact ⟨s3, x1, Bd_pre oz x2⟩
    | inl z =>
      obtain ⟨b1, E⟩ := z
      rw [e] at hx
      obtain ⟨s3, c1, x1, x2, x3, x4, x5, x6, x7, x8, x9, x10, x11⟩ := hx
      refine ⟨s3, c1 + 1, x1, LM_expz hM1 x2 x3 x4 x5 x6 (fun k hk => by rw [x7 k (by omega), mf_sfn (by omega)]) (fun j j1 j2 j3 => by rw [x8 j j1 j2 j3]; rfl) (fun i hi => by rw [x9 i hi]; rfl) ?_ ⟨c, c1, ?_, x10, x11, Nat.lt_succ_self _⟩, Oz_trans oz ⟨fun k hk => x7 k (by omega), fun j hj => x8 j (by omega) (by omega) (by omega)⟩, ?_⟩
      · rw [x7 29 (by decide), mf_sfn (by decide), g3.1 29 (by decide)]
        exact CdO_mono hY (by omega) (fun i hi => by
          rw [x9 i hi]
          show ma s1 41 i = _
          rw [g3.2])
      · rw [x7 30 (by decide), mf_sfe]
      · rw [x7 15 (by decide), mf_sfn (by decide), g3.1 15 (by decide)]
theorem mAny_no {b c : Nat} {S : OS} (hM : LM T n σ S b c) {q : Int32} (h : ¬ q = 2 ∧ ¬ q = 9 ∧ ¬ q = 10 ∧ ¬ q = 11 ∧ ¬ q = 12 ∧ ¬ q = 13) : MLn T n σ (mAny σ q) (.inr (1, b)) := by
  obtain ⟨h1, h2, h3, h4, h5, h6⟩ := h
  obtain ⟨w1, w2⟩ := M_wrong_eq (x := 1) (k := 1) hM.1 hM.2.1.1 rfl (by decide) (by decide)
  unfold mAny
  rw [if_neg h1, if_neg h2, if_neg h3, if_neg h4, if_neg h5, if_neg h6, w1, Option.bind_some]
  exact ⟨_, rfl, w2⟩
theorem mAny_eq {S : OS} {b c : Nat} (hS : WFL S) (hM : LM T n σ S b c) (hb : b < n) : MLn T n σ (mAny σ (kwI T n b)) (lnAny T n S b) := by
  have hI : ∀ k, kw T n b = some k → kwI T n b = i3 k := fun k hk => by unfold kwI; rw [hk]
  unfold lnAny
  by_cases e11 : kw T n b = some 11
  · rw [if_pos e11, hI _ e11]; exact mAny_slack hS hM hb
  · rw [if_neg e11]
    by_cases e12 : kw T n b = some 12
    · rw [if_pos e12, hI _ e12]; exact mAny_lays hM e12
    · rw [if_neg e12]
      by_cases e13 : kw T n b = some 13
      · rw [if_pos e13, hI _ e13]; exact mAny_moulds hM e13
      · rw [if_neg e13]
        by_cases e2 : kw T n b = some 2
        · rw [if_pos e2, hI _ e2]; exact mAny_sheet hS hM hb
        · rw [if_neg e2]
          by_cases e9 : kw T n b = some 9
          · rw [if_pos e9, hI _ e9]; exact mAny_clerk hS hM hb
          · rw [if_neg e9]
            by_cases e10 : kw T n b = some 10
            · rw [if_pos e10, hI _ e10]; exact mAny_word hS hM hb
            · rw [if_neg e10]
              exact mAny_no hM ⟨fun x => e2 ((kwI_iff (x := 2) (k := 2) (by decide) rfl).mp x), fun x => e9 ((kwI_iff (x := 9) (k := 9) (by decide) rfl).mp x), fun x => e10 ((kwI_iff (x := 10) (k := 10) (by decide) rfl).mp x), fun x => e11 ((kwI_iff (x := 11) (k := 11) (by decide) rfl).mp x), fun x => e12 ((kwI_iff (x := 12) (k := 12) (by decide) rfl).mp x), fun x => e13 ((kwI_iff (x := 13) (k := 13) (by decide) rfl).mp x)⟩
theorem M_line_eq {S : OS} {b c : Nat} (hS : WFL S) (hM : LM T n σ S b c) (hb : b < n) : MLn T n σ (M_line σ) (spLine T n S b) := by
  have h := mAny_eq hS hM hb
  rw [M_line_any hM.1]
  unfold spLine
  cases e : lnAny T n S b with
  | inr z =>
    obtain ⟨k, p⟩ := z
    rw [e] at h
    obtain ⟨s1, x1, x2⟩ := h
    obtain ⟨v, hv⟩ := M_isSign_any s1 59
    refine ⟨s1, ?_, x2⟩
    rw [x1, Option.bind_some, hv, Option.bind_some, bind_s]
    unfold M_need
    rw [isGood_n (Bd_bad x2), Option.bind_some, if_pos rfl]
  | inl z =>
    obtain ⟨S1, b1⟩ := z
    rw [e] at h
    obtain ⟨s1, c1, x1, x2, x3, x4⟩ := h
    have hL := x2.1
    have h14 := x2.2.1.1
    rw [x1, Option.bind_some, M_isSign_eq hL (x := 59) (c := 59) rfl (by decide), Option.bind_some, bind_s]
    unfold M_need
    rw [isGood_y h14, Option.bind_some, if_neg (show ¬ (1 : Int32) = 0 by decide)]
    dsimp only
    by_cases e59 : sg T n b1 59 = true
    · obtain ⟨s2, g1, g2, g3⟩ := M_goes_nxt hL
      rw [if_pos e59, if_neg (bI_n0 e59), g1, Option.bind_some]
      exact ⟨s2, c1, rfl, LM_lx x2 g2 (by have := nxt_lt (T := T) (op_lt_sg e59); omega) g3, Oz_trans x3 (Oz_lx g3), by rw [g3.1 15 (by decide)]; exact x4⟩
    · obtain ⟨w1, w2⟩ := M_wrong_eq (x := 1) (k := 1) hL h14 rfl (by decide) (by decide)
      rw [if_neg e59, if_pos (bI_y0 (bF e59)), w1, Option.bind_some]
      exact ⟨_, rfl, Bd_pre x3 w2⟩
/-- a whole text -/
theorem M_read_eq : ∀ f (S : OS) (b c : Nat) (σ : MS), n < b + f → WFL S → LM T n σ S b c → (match spRead T n f S b with
    | .inl S' => WFL S' ∧ ∃ σ' b' c', o_loop M_office_L103 σ = some σ' ∧ LM T n σ' S' b' c' ∧ Oz σ σ' ∧ mf σ' 15 = mf σ 15
    | .inr (k, p) => ∃ σ', o_loop M_office_L103 σ = some σ' ∧ Bd σ σ' k p) := by
  intro f
  induction f with
  | zero =>
    intro S b c σ hn _ hM
    have := hM.1.2.1
    omega
  | succ f ih =>
    intro S b c σ hn hS hM
    have hL := hM.1
    have h14 := hM.2.1.1
    unfold spRead
    by_cases e0 : tkK T n b = 0
    · rw [if_pos e0]
      refine ⟨hS, σ, b, c, ?_, hM, Oz_refl σ, rfl⟩
      rw [o_loop_eq]
      have : M_office_L103 σ = some (.inr σ) := by
        unfold M_office_L103
        rw [isGood_y h14, Option.bind_some, if_neg (show ¬ (1 : Int32) = 0 by decide), if_pos ((M_sort hL (x := 0) (k := 0) rfl (by decide)).mpr e0)]
      rw [this]
      rfl
    · rw [if_neg e0]
      have hb : b < n := tk_lt e0
      have h := M_line_eq hS hM hb
      have hk := spLine_ok (T := T) hb hS
      have hst : ∀ s, M_line σ = some s → o_loop M_office_L103 σ = o_loop M_office_L103 s := by
        intro s hs
        rw [o_loop_eq]
        have : M_office_L103 σ = some (.inl s) := by
          unfold M_office_L103
          rw [isGood_y h14, Option.bind_some, if_neg (show ¬ (1 : Int32) = 0 by decide), if_neg (fun x => e0 ((M_sort hL (x := 0) (k := 0) rfl (by decide)).mp x)), hs, Option.bind_some]
        rw [this]
        rfl
      cases e : spLine T n S b with
      | inr z =>
        obtain ⟨k, p⟩ := z
        rw [e] at h
        obtain ⟨s1, x1, x2⟩ := h
        refine ⟨s1, ?_, x2⟩
        rw [hst s1 x1, o_loop_eq]
        have : M_office_L103 s1 = some (.inr s1) := by
          unfold M_office_L103
          rw [isGood_n (Bd_bad x2), Option.bind_some, if_pos rfl]
        rw [this]
        rfl
      | inl z =>
        obtain ⟨S1, b1⟩ := z
        rw [e] at h hk
        obtain ⟨s1, c1, x1, x2, x3, x4⟩ := h
        have hk2 : b + 1 ≤ b1 ∧ b1 ≤ n ∧ WFL S1 := hk
        have hi := ih S1 b1 c1 s1 (by omega) hk2.2.2 x2
        dsimp only
        cases e5 : spRead T n f S1 b1 with
        | inr z =>
          obtain ⟨k, p⟩ := z
          rw [e5] at hi
          obtain ⟨s2, y1, y2⟩ := hi
          exact ⟨s2, (hst s1 x1).trans y1, Bd_pre x3 y2⟩
        | inl S2 =>
          rw [e5] at hi
          obtain ⟨y0, s2, b2, c2, y1, y2, y3, y4⟩ := hi
          exact ⟨y0, s2, b2, c2, (hst s1 x1).trans y1, y2, Oz_trans x3 y3, y4.trans x4⟩
end MLINE
