/-! ===== office: the reference reads a line ===== -/
section MLINES2
variable {T : Nat → Nat} {n : Nat} {σ σ' : MS}
/-- an expression's code lies below c -/
def CdO (σ : MS) (x : Int32) (c : Nat) (Y : Option EX) : Prop := match Y with
  | none => x = -1
  | some E => ∃ p p1, x = i3 p ∧ Pus (ma σ 41) p p1 E ∧ ma σ 41 p1 = 0 ∧ p1 < c
theorem CdO_mono {x : Int32} {c c' : Nat} {Y : Option EX} (h : CdO σ x c Y) (hc : c ≤ c') (ha : ∀ i, i < c → ma σ' 41 i = ma σ 41 i) : CdO σ' x c' Y := by
  unfold CdO at h ⊢
  split at h
  · exact h
  · obtain ⟨p, p1, h1, h2, h3, h4⟩ := h
    exact ⟨p, p1, h1, Pus_congr h2 (fun q _ q2 => ha q (by omega)), by rw [ha p1 h4]; exact h3, by omega⟩
/-- the reference's new office -/
def LM (T : Nat → Nat) (n : Nat) (σ : MS) (S : OS) (b c : Nat) : Prop := ML σ T n b ∧ (mf σ 14 = 0 ∧ mf σ 31 = i3 c ∧ c ≤ 2 * b) ∧
  (mf σ 25 = i3 (pN S.1) ∧ mf σ 26 = i3 (pM S.1) ∧ mf σ 27 = i3 (pQ' S.1) ∧ mf σ 28 = if S.2.2 = true then i3 (pS S.1) else -1) ∧
  ((∀ c, c < pM S.1 → ma σ 37 c = i3 (pL S.1 c)) ∧ (∀ c i, c < pM S.1 → i < pL S.1 c → ma σ 36 (6 * c + i) = i3 (pR S.1 c i)) ∧ (∀ i, i < pQ' S.1 → ma σ 38 i = i3 (pA S.1 i)) ∧ ∀ i, i < pQ' S.1 → ma σ 39 i = i3 (pB S.1 i)) ∧
  MRg (ma σ 40) 0 S.1 S.2.1 ∧ CdO σ (mf σ 29) c (pY S.1) ∧ CdO σ (mf σ 30) c (pZ S.1)
/-- what only the token, and what is told here, changes -/
theorem LM_of {S : OS} {b b' c : Nat} (h : LM T n σ S b c) (hL : ML σ' T n b') (hb : b ≤ b') (hf : ∀ k, k = 14 ∨ (24 ≤ k ∧ k ≤ 31) → mf σ' k = mf σ k) (ha : ∀ j, 36 ≤ j → j ≤ 41 → ma σ' j = ma σ j) : LM T n σ' S b' c := by
  obtain ⟨h1, ⟨h2, h3, h4⟩, ⟨g1, g2, g3, g4⟩, ⟨a1, a2, a3, a4⟩, r, y, z⟩ := h
  refine ⟨hL, ⟨by rw [hf 14 (by omega)]; exact h2, by rw [hf 31 (by omega)]; exact h3, by omega⟩, ⟨by rw [hf 25 (by omega)]; exact g1, by rw [hf 26 (by omega)]; exact g2, by rw [hf 27 (by omega)]; exact g3, by rw [hf 28 (by omega)]; exact g4⟩, ⟨?_, ?_, ?_, ?_⟩, ?_, ?_, ?_⟩
  · rw [ha 37 (by decide) (by decide)]; exact a1
  · rw [ha 36 (by decide) (by decide)]; exact a2
  · rw [ha 38 (by decide) (by decide)]; exact a3
  · rw [ha 39 (by decide) (by decide)]; exact a4
  · rw [ha 40 (by decide) (by decide)]; exact r
  · rw [hf 29 (by omega)]; exact CdO_mono y (Nat.le_refl _) (fun i _ => by rw [ha 41 (by decide) (by decide)])
  · rw [hf 30 (by omega)]; exact CdO_mono z (Nat.le_refl _) (fun i _ => by rw [ha 41 (by decide) (by decide)])
theorem LM_lx {S : OS} {b b' c : Nat} (h : LM T n σ S b c) (hL : ML σ' T n b') (hb : b ≤ b') (hx : Lx σ σ') : LM T n σ' S b' c :=
  LM_of h hL hb (fun k hk => hx.1 k (by omega)) (fun j _ _ => hx.2 j)
theorem ML_sa {b j i : Nat} {v : Int32} (h : ML σ T n b) (hj : j ≠ 12) : ML (sa σ j i v) T n b := ML_lx h (fun _ _ _ => rfl) rfl (ma_sb (Ne.symm hj))
theorem ML_sf {b k : Nat} {v : Int32} (h : ML σ T n b) (hk : k < 17 ∨ 23 < k) : ML (sf σ k v) T n b := ML_lx h (fun q _ _ => mf_sfn (by omega)) rfl rfl
/-- a line's word is passed, if there is room for another one of its kind -/
theorem M_begins_y {b : Nat} (hL : ML σ T n b) (h14 : mf σ 14 = 0) : ∃ σ', M_begins σ 0 0 = some (1, σ') ∧ ML σ' T n (nxb T n b) ∧ Lx σ σ' := by
  obtain ⟨σ', g1, g2, g3⟩ := M_goes_nxt hL
  refine ⟨σ', ?_, g2, g3⟩
  unfold M_begins
  rw [if_pos rfl, Option.bind_some, if_pos rfl, Option.bind_some, isGood_y h14, Option.bind_some, if_neg (by decide), g1, Option.bind_some]
theorem M_begins_2 {b : Nat} (hL : ML σ T n b) (h14 : mf σ 14 = 0) : ∃ σ', M_begins σ 1 0 = some (0, σ') ∧ Bd σ σ' 2 b := by
  obtain ⟨w1, w2⟩ := M_wrong_eq (x := 2) (k := 2) hL h14 rfl (by decide) (by decide)
  refine ⟨_, ?_, w2⟩
  unfold M_begins
  rw [if_neg (by decide), w1, Option.bind_some, Option.bind_some, if_pos rfl, Option.bind_some, isGood_n (Bd_bad w2), Option.bind_some, if_pos rfl]
theorem M_begins_5 {b : Nat} (hL : ML σ T n b) (h14 : mf σ 14 = 0) : ∃ σ', M_begins σ 0 1 = some (0, σ') ∧ Bd σ σ' 5 b := by
  obtain ⟨w1, w2⟩ := M_wrong_eq (x := 5) (k := 5) hL h14 rfl (by decide) (by decide)
  refine ⟨_, ?_, w2⟩
  unfold M_begins
  rw [if_pos rfl, Option.bind_some, if_neg (by decide), w1, Option.bind_some, Option.bind_some, isGood_n (Bd_bad w2), Option.bind_some, if_pos rfl]
theorem i3_eqn {a k : Nat} {x : Int32} (hx : x = i3 k) (ha : a < 2 ^ 31) (hk : k < 2 ^ 31) : i3 a = x ↔ a = k := by rw [hx]; exact i3_inj ha hk
theorem Bd_sa {σ1 σ2 : MS} {k p j i : Nat} {v : Int32} (h : Bd σ1 σ2 k p) (h1 : 36 ≤ j) (h2 : j ≤ 43) : Bd σ1 (sa σ2 j i v) k p := Bd_post h (Oz_sa h1 h2) rfl rfl
/-- a sheet's three numbers -/
theorem M_sheet_eq {S : OS} {b c : Nat} (hS : WFL S) (hM : LM T n σ S b c) (e9 : pN S.1 < 9) : match (match spNum T n 255 b with
    | .inr e => .inr e
    | .inl (b1, l) => match spNum T n 255 b1 with
      | .inr e => .inr e
      | .inl (b2, g) => match spNum T n 3 b2 with
        | .inr e => .inr e
        | .inl (b3, t) => .inl ((oN S.1, upn (upn (upn S.2.1 (1 + pN S.1) l) (10 + pN S.1) g) (19 + pN S.1) t, S.2.2), b3) : OT) with
    | .inl (S', b') => ∃ σ' c', M_readsSheet σ = some σ' ∧ LM T n σ' S' b' c' ∧ Oz σ σ' ∧ mf σ' 15 = mf σ 15
    | .inr (k, p) => ∃ σ', M_readsSheet σ = some σ' ∧ Bd σ σ' k p := by
  obtain ⟨P, w, sl⟩ := S
  have hWF := hS
  obtain ⟨hL, ⟨h14, h31, hc⟩, ⟨g25, g26, g27, g28⟩, ⟨a1, a2, a3, a4⟩, ⟨r0, r1, r2, r3, r4⟩, y, z⟩ := hM
  dsimp only at *
  have hM6 := hS.1.2.1
  have hb0 := hL.2.1
  have i1 : (1 : Int32) + i3 (pN P) = i3 (1 + pN P) := i3_add 1 _
  have i10 : (10 : Int32) + i3 (pN P) = i3 (10 + pN P) := i3_add 10 _
  have i19 : (19 : Int32) + i3 (pN P) = i3 (19 + pN P) := i3_add 19 _
  have s40 : ∀ (s : MS) k v, k < 34 → ast s 40 (i3 k) v = some (sa s 40 k v) := fun s k v hk => ast_i3 (show k < mlen 40 from hk)
  unfold M_readsSheet
  rw [g25, i1, i10, i19]
  have hn1 := M_number_eq (x := 255) (m := 255) hL h14 rfl (by decide)
  have hk1 := spNum_ok (T := T) (m := 255) hb0
  cases e1 : spNum T n 255 b with
  | inr q =>
    obtain ⟨k, p⟩ := q
    rw [e1] at hn1
    obtain ⟨v1, s1, x1, x2⟩ := hn1
    have b2 : Bd σ (sa s1 40 (1 + pN P) v1) k p := Bd_sa x2 (by decide) (by decide)
    have b4 : Bd σ (sa (sa s1 40 (1 + pN P) v1) 40 (10 + pN P) 0) k p := Bd_sa b2 (by decide) (by decide)
    have b6 : Bd σ (sa (sa (sa s1 40 (1 + pN P) v1) 40 (10 + pN P) 0) 40 (19 + pN P) 0) k p := Bd_sa b4 (by decide) (by decide)
    refine ⟨_, ?_, b6⟩
    rw [x1, Option.bind_some, s40 _ _ _ (by omega), Option.bind_some, M_number_bad (Bd_bad b2), Option.bind_some, s40 _ _ _ (by omega), Option.bind_some, M_number_bad (Bd_bad b4), Option.bind_some, s40 _ _ _ (by omega), Option.bind_some, isGood_n (Bd_bad b6), Option.bind_some, if_pos rfl]
  | inl q =>
    obtain ⟨b1, l⟩ := q
    rw [e1] at hn1 hk1
    obtain ⟨s1, x1, x2, x3⟩ := hn1
    obtain ⟨k11, k12, -, -⟩ := hk1
    have o1 : Oz σ (sa s1 40 (1 + pN P) (i3 l)) := Oz_trans (Oz_lx x3) (Oz_sa (by decide) (by decide))
    have L1 : ML (sa s1 40 (1 + pN P) (i3 l)) T n b1 := ML_sa x2 (by decide)
    have q14 : mf (sa s1 40 (1 + pN P) (i3 l)) 14 = 0 := (x3.1 14 (by decide)).trans h14
    have hn2 := M_number_eq (x := 255) (m := 255) L1 q14 rfl (by decide)
    have hk2 := spNum_ok (T := T) (m := 255) k12
    rw [x1, Option.bind_some, s40 _ _ _ (by omega), Option.bind_some]
    dsimp only
    cases e2 : spNum T n 255 b1 with
    | inr q =>
      obtain ⟨k, p⟩ := q
      rw [e2] at hn2
      obtain ⟨v2, s2, y1, y2⟩ := hn2
      have b2 := Bd_pre o1 y2
      have b4 : Bd σ (sa s2 40 (10 + pN P) v2) k p := Bd_sa b2 (by decide) (by decide)
      have b6 : Bd σ (sa (sa s2 40 (10 + pN P) v2) 40 (19 + pN P) 0) k p := Bd_sa b4 (by decide) (by decide)
      refine ⟨_, ?_, b6⟩
      rw [y1, Option.bind_some, s40 _ _ _ (by omega), Option.bind_some, M_number_bad (Bd_bad b4), Option.bind_some, s40 _ _ _ (by omega), Option.bind_some, isGood_n (Bd_bad b6), Option.bind_some, if_pos rfl]
    | inl q =>
      obtain ⟨b2, g⟩ := q
      rw [e2] at hn2 hk2
      obtain ⟨s2, y1, y2, y3⟩ := hn2
      obtain ⟨k21, k22, -, -⟩ := hk2
      have o2 : Oz σ (sa s2 40 (10 + pN P) (i3 g)) := Oz_trans o1 (Oz_trans (Oz_lx y3) (Oz_sa (by decide) (by decide)))
      have L2 : ML (sa s2 40 (10 + pN P) (i3 g)) T n b2 := ML_sa y2 (by decide)
      have q14b : mf (sa s2 40 (10 + pN P) (i3 g)) 14 = 0 := (y3.1 14 (by decide)).trans q14
      have hn3 := M_number_eq (x := 3) (m := 3) L2 q14b rfl (by decide)
      have hk3 := spNum_ok (T := T) (m := 3) k22
      rw [y1, Option.bind_some, s40 _ _ _ (by omega), Option.bind_some]
      dsimp only
      cases e3 : spNum T n 3 b2 with
      | inr q =>
        obtain ⟨k, p⟩ := q
        rw [e3] at hn3
        obtain ⟨v3, s3, z1, z2⟩ := hn3
        have b6 : Bd σ (sa s3 40 (19 + pN P) v3) k p := Bd_sa (Bd_pre o2 z2) (by decide) (by decide)
        refine ⟨_, ?_, b6⟩
        rw [z1, Option.bind_some, s40 _ _ _ (by omega), Option.bind_some, isGood_n (Bd_bad b6), Option.bind_some, if_pos rfl]
      | inl q =>
        obtain ⟨b3, t⟩ := q
        rw [e3] at hn3 hk3
        obtain ⟨s3, z1, z2, z3⟩ := hn3
        obtain ⟨k31, k32, kt, -⟩ := hk3
        have q14c : mf (sa s3 40 (19 + pN P) (i3 t)) 14 = 0 := (z3.1 14 (by decide)).trans q14b
        rw [z1, Option.bind_some, s40 _ _ _ (by omega), Option.bind_some, isGood_y q14c, Option.bind_some, if_neg (by decide)]
        have ef : ∀ k, k < 18 ∨ 23 < k → mf (sa s3 40 (19 + pN P) (i3 t)) k = mf σ k := fun k hk => (z3.1 k hk).trans ((y3.1 k hk).trans (x3.1 k hk))
        have e25 : mf (sa s3 40 (19 + pN P) (i3 t)) 25 = i3 (pN P) := (ef 25 (by decide)).trans g25
        have ea : ∀ j, j ≠ 40 → ma (sa s3 40 (19 + pN P) (i3 t)) j = ma σ j := fun j hj => by rw [ma_sb hj, z3.2, ma_sb hj, y3.2, ma_sb hj, x3.2]
        have e40 : ∀ i, ma (sa s3 40 (19 + pN P) (i3 t)) 40 i = if i = 19 + pN P then i3 t else if i = 10 + pN P then i3 g else if i = 1 + pN P then i3 l else ma σ 40 i := fun i => by rw [ma_saq, z3.2, ma_saq, y3.2, ma_saq, x3.2]
        have u : ∀ j, j ≠ 1 + pN P → j ≠ 10 + pN P → j ≠ 19 + pN P → upn (upn (upn w (1 + pN P) l) (10 + pN P) g) (19 + pN P) t j = w j := by
          intro j j1 j2 j3
          unfold upn
          rw [if_neg j3, if_neg j2, if_neg j1]
        have u1 : upn (upn (upn w (1 + pN P) l) (10 + pN P) g) (19 + pN P) t (1 + pN P) = l := by
          unfold upn
          rw [if_neg (by omega), if_neg (by omega), if_pos rfl]
        have u2 : upn (upn (upn w (1 + pN P) l) (10 + pN P) g) (19 + pN P) t (10 + pN P) = g := by
          unfold upn
          rw [if_neg (by omega), if_pos rfl]
        have u3 : upn (upn (upn w (1 + pN P) l) (10 + pN P) g) (19 + pN P) t (19 + pN P) = t := by
          unfold upn
          rw [if_pos rfl]
        rw [e25, i3_succ, pf_e, Option.bind_some]
        refine ⟨_, c, rfl, ⟨ML_sf (ML_sa z2 (by decide)) (by decide), ⟨?_, ?_, by omega⟩, ⟨mf_sfe, ?_, ?_, ?_⟩, ⟨fun c hc => ?_, fun c i hc hi => ?_, fun i hi => ?_, fun i hi => ?_⟩, ⟨?_, fun k hk => ?_, fun k hk => ?_, fun k hk => ?_, fun k hk => ?_⟩, ?_, ?_⟩, Oz_trans o2 (Oz_trans (Oz_lx z3) (Oz_trans (Oz_sa (j := 40) (by decide) (by decide)) (Oz_sf (by decide) (by decide) (by decide)))), ?_⟩
        · rw [mf_sfn (by decide)]; exact q14c
        · rw [mf_sfn (by decide), ef 31 (by decide)]; exact h31
        · rw [mf_sfn (by decide), ef 26 (by decide)]; exact g26
        · rw [mf_sfn (by decide), ef 27 (by decide)]; exact g27
        · rw [mf_sfn (by decide), ef 28 (by decide)]; exact g28
        · show ma (sa s3 40 (19 + pN P) (i3 t)) 37 c = _
          rw [ea 37 (by decide)]; exact a1 c hc
        · show ma (sa s3 40 (19 + pN P) (i3 t)) 36 _ = _
          rw [ea 36 (by decide)]; exact a2 c i hc hi
        · show ma (sa s3 40 (19 + pN P) (i3 t)) 38 i = _
          rw [ea 38 (by decide)]; exact a3 i hi
        · show ma (sa s3 40 (19 + pN P) (i3 t)) 39 i = _
          rw [ea 39 (by decide)]; exact a4 i hi
        · show ma (sa s3 40 (19 + pN P) (i3 t)) 40 0 = i3 (upn (upn (upn w (1 + pN P) l) (10 + pN P) g) (19 + pN P) t 0)
          rw [u _ (by omega) (by omega) (by omega), e40, if_neg (show ¬ 0 = 19 + pN P by omega), if_neg (show ¬ 0 = 10 + pN P by omega), if_neg (show ¬ 0 = 1 + pN P by omega)]
          exact r0
        · have hk2 : k < pN P + 1 := hk
          show ma (sa s3 40 (19 + pN P) (i3 t)) 40 (0 + 1 + k) = i3 (upn (upn (upn w (1 + pN P) l) (10 + pN P) g) (19 + pN P) t (1 + k))
          by_cases ek : k = pN P
          · subst ek
            rw [u1, e40, if_neg (show ¬ 0 + 1 + pN P = 19 + pN P by omega), if_neg (show ¬ 0 + 1 + pN P = 10 + pN P by omega), if_pos (show 0 + 1 + pN P = 1 + pN P by omega)]
          · rw [u _ (by omega) (by omega) (by omega), e40, if_neg (show ¬ 0 + 1 + k = 19 + pN P by omega), if_neg (show ¬ 0 + 1 + k = 10 + pN P by omega), if_neg (show ¬ 0 + 1 + k = 1 + pN P by omega)]
            exact r1 k (by omega)
        · have hk2 : k < pN P + 1 := hk
          show ma (sa s3 40 (19 + pN P) (i3 t)) 40 (0 + 10 + k) = i3 (upn (upn (upn w (1 + pN P) l) (10 + pN P) g) (19 + pN P) t (10 + k))
          by_cases ek : k = pN P
          · subst ek
            rw [u2, e40, if_neg (show ¬ 0 + 10 + pN P = 19 + pN P by omega), if_pos (show 0 + 10 + pN P = 10 + pN P by omega)]
          · rw [u _ (by omega) (by omega) (by omega), e40, if_neg (show ¬ 0 + 10 + k = 19 + pN P by omega), if_neg (show ¬ 0 + 10 + k = 10 + pN P by omega), if_neg (show ¬ 0 + 10 + k = 1 + pN P by omega)]
            exact r2 k (by omega)
        · have hk2 : k < pN P + 1 := hk
          show ma (sa s3 40 (19 + pN P) (i3 t)) 40 (0 + 19 + k) = atM (upn (upn (upn w (1 + pN P) l) (10 + pN P) g) (19 + pN P) t (19 + k))
          by_cases ek : k = pN P
          · subst ek
            rw [u3, e40, if_pos (show 0 + 19 + pN P = 19 + pN P by omega), atM_x (by omega)]
          · rw [u _ (by omega) (by omega) (by omega), e40, if_neg (show ¬ 0 + 19 + k = 19 + pN P by omega), if_neg (show ¬ 0 + 19 + k = 10 + pN P by omega), if_neg (show ¬ 0 + 19 + k = 1 + pN P by omega)]
            exact r3 k (by omega)
        · have hk2 : k < pM P := hk
          show ma (sa s3 40 (19 + pN P) (i3 t)) 40 (0 + 28 + k) = i3 (upn (upn (upn w (1 + pN P) l) (10 + pN P) g) (19 + pN P) t (28 + k))
          rw [u _ (by omega) (by omega) (by omega), e40, if_neg (show ¬ 0 + 28 + k = 19 + pN P by omega), if_neg (show ¬ 0 + 28 + k = 10 + pN P by omega), if_neg (show ¬ 0 + 28 + k = 1 + pN P by omega)]
          exact r4 k hk2
        · rw [mf_sfn (by decide), ef 29 (by decide)]
          exact CdO_mono y (Nat.le_refl _) (fun i _ => by
            show ma (sa s3 40 (19 + pN P) (i3 t)) 41 i = _
            rw [ea 41 (by decide)])
        · rw [mf_sfn (by decide), ef 30 (by decide)]
          exact CdO_mono z (Nat.le_refl _) (fun i _ => by
            show ma (sa s3 40 (19 + pN P) (i3 t)) 41 i = _
            rw [ea 41 (by decide)])
        · rw [mf_sfn (by decide), ef 15 (by decide)]
end MLINES2
