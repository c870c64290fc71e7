/-! ===== office: the component reads a text ===== -/
section CLINES7
variable {K q : Nat → Nat} {rd n m0 : Nat} {T : Nat → Nat} {hb f0 f h h' : CH} {r r' : CR} {B : Nat → Nat} {g : Nat → Nat → Int32} {S : OS} {b nm D : Nat}
theorem CLn_vc {z : Option (CS ⊕ XT)} {res : OT} (hC : LC K q rd n T hb m0 f0 f h r B g nm D S b) (hz : CLn K q rd n T hb m0 f0 r b res z) : vc h rd 4 (xchv r z) = z := by
  rw [LC_vc hC]
  rcases res with ⟨S', b'⟩ | ⟨k, p⟩
  · obtain ⟨f', h', r', B', g', nm', D', e, -, -, ⟨y1, y2, -, -⟩, -⟩ := hz
    rw [e]
    exact xchv_l' (w := (h', r')) y1 y2
  · obtain ⟨w, e, a, h', r', ew, -, y1, y2, -, -⟩ := hz
    rw [e]
    exact xchv_r' (by rw [ew]; exact y1) (by rw [ew]; exact y2)
theorem LC_once (hG : LG K q rd n T hb m0 f0) (hC : LC K q rd n T hb m0 f0 f h r B g nm D S b) : vc h rd 4 (C5_which K h rd (q 3)) = some (if kw T n b = some 11 then 0 else if kw T n b = some 12 then 1 else if kw T n b = some 13 then 2 else -1) := by
  obtain ⟨q1, q2, q3⟩ := LC_to hG hC
  have hT : TXA K h (q 3) [0, 1, 2] := by
    obtain ⟨ly, mo, fw, fr, -, -, -, -, -, ⟨d1, d2, d3, d4, d5, d6, -⟩, -⟩ := hC
    exact TXA_hle d6 d2
  rw [LR_which hG.1.1 (CT_LR q1 q2) hT (by decide) (fun i hi => by
    have hi2 : i < 3 := hi
    have : i = 0 ∨ i = 1 ∨ i = 2 := by omega
    rcases this with rfl | rfl | rfl <;> exact ⟨by decide, by decide⟩)]
  have w11 : isWd T n b (wd (mpT ([0, 1, 2].getD 0 0))) = decide (kw T n b = some 11) := by
    cases e : isWd T n b (wd (mpT ([0, 1, 2].getD 0 0))) with
    | true => exact (decide_eq_true (kw_some.mpr ⟨by decide, e⟩)).symm
    | false => exact (decide_eq_false (fun x => by have := (kw_some.mp x).2; rw [show wd (mpT ([0, 1, 2].getD 0 0)) = wd 11 from rfl] at e; rw [this] at e; cases e)).symm
  have w12 : isWd T n b (wd (mpT ([0, 1, 2].getD 1 0))) = decide (kw T n b = some 12) := by
    cases e : isWd T n b (wd (mpT ([0, 1, 2].getD 1 0))) with
    | true => exact (decide_eq_true (kw_some.mpr ⟨by decide, e⟩)).symm
    | false => exact (decide_eq_false (fun x => by have := (kw_some.mp x).2; rw [show wd (mpT ([0, 1, 2].getD 1 0)) = wd 12 from rfl] at e; rw [this] at e; cases e)).symm
  have w13 : isWd T n b (wd (mpT ([0, 1, 2].getD 2 0))) = decide (kw T n b = some 13) := by
    cases e : isWd T n b (wd (mpT ([0, 1, 2].getD 2 0))) with
    | true => exact (decide_eq_true (kw_some.mpr ⟨by decide, e⟩)).symm
    | false => exact (decide_eq_false (fun x => by have := (kw_some.mp x).2; rw [show wd (mpT ([0, 1, 2].getD 2 0)) = wd 13 from rfl] at e; rw [this] at e; cases e)).symm
  have ew : whi T n b [0, 1, 2] = if kw T n b = some 11 then some 0 else if kw T n b = some 12 then some 1 else if kw T n b = some 13 then some 2 else none := by
    show (([0, 1, 2] : List Nat).find? fun i => isWd T n b (wd (mpT ([0, 1, 2].getD i 0)))) = _
    rw [List.find?_cons, w11, List.find?_cons, w12, List.find?_cons, w13, List.find?_nil]
    by_cases e1 : kw T n b = some 11
    · rw [decide_eq_true e1, if_pos e1]
    · rw [decide_eq_false e1, if_neg e1]
      by_cases e2 : kw T n b = some 12
      · rw [decide_eq_true e2, if_pos e2]
      · rw [decide_eq_false e2, if_neg e2]
        by_cases e3 : kw T n b = some 13
        · rw [decide_eq_true e3, if_pos e3]
        · rw [decide_eq_false e3, if_neg e3]
  rw [ew]
  by_cases e1 : kw T n b = some 11
  · rw [if_pos e1, if_pos e1]; rfl
  · rw [if_neg e1, if_neg e1]
    by_cases e2 : kw T n b = some 12
    · rw [if_pos e2, if_pos e2]; rfl
    · rw [if_neg e2, if_neg e2]
      by_cases e3 : kw T n b = some 13
      · rw [if_pos e3, if_pos e3]; rfl
      · rw [if_neg e3, if_neg e3]
theorem CLn_bind {z : Option (CS ⊕ XT)} {res : OT} (hz : CLn K q rd n T hb m0 f0 r b res z) : CLn K q rd n T hb m0 f0 r b res (xg Sum.inr z fun q => some (.inl q)) := by
  rcases res with ⟨S', b'⟩ | ⟨k, p⟩
  · obtain ⟨f', h', r', B', g', nm', D', e, e2⟩ := hz
    exact ⟨f', h', r', B', g', nm', D', by rw [e, xg_l], e2⟩
  · obtain ⟨w, e, e2⟩ := hz
    exact ⟨w, by rw [e, xg_r], e2⟩
theorem C_line (hG : LG K q rd n T hb m0 f0) (hC : LC K q rd n T hb m0 f0 f h r B g nm D S b) (hq : q 5 ≠ q 4) (hS : WFL S) (hF : FD D S) (h3 : ∀ c, g 3 c = 0) (hbn : b < n) (h1 : 100 * (n - b) + 70 ≤ r.2.1) (h2 : 3000 * (n - b) + 700 ≤ r.2.2) : CLn K q rd n T hb m0 f0 r b (spLine T n S b) (C5_line K h r rd) := by
  obtain ⟨-, -, r3, -⟩ := LC_rd hC
  have hany : CLn K q rd n T hb m0 f0 r b (lnAny T n S b) ((if (if kw T n b = some 11 then 0 else if kw T n b = some 12 then 1 else if kw T n b = some 13 then 2 else -1) = (-1 : Int32) then
      ((vc h rd 4 (C5_is K h rd 10)).bind fun q8 => if q8 = 0 then ((vc h rd 4 (C5_is K h rd 16)).bind fun q10 => if q10 = 0 then ((vc h rd 4 (C5_is K h rd 17)).bind fun q12 => xg Sum.inr (vc h rd 4 (xchv r (C5_want K h r rd q12 1))) fun q13 => xg Sum.inr (vc q13.1 rd 4 (xchv q13.2 (C5_word K q13.1 q13.2 rd))) fun q14 => some (.inl q14)) else (xg Sum.inr (vc h rd 4 (xchv r (C5_clerk K h r rd))) fun q15 => some (.inl q15))) else (xg Sum.inr (vc h rd 4 (xchv r (C5_sheet K h r rd))) fun q16 => some (.inl q16)))
    else (xg Sum.inr (vc h rd 4 (xchv r (C5_only K h r rd (if kw T n b = some 11 then 0 else if kw T n b = some 12 then 1 else if kw T n b = some 13 then 2 else -1)))) fun q17 => some (.inl q17)) : Option (CS ⊕ XT))) := by
    unfold lnAny
    by_cases e11 : kw T n b = some 11
    · rw [if_pos e11, if_pos e11, if_neg (show ¬ (0 : Int32) = -1 by decide)]
      have hz := C_slack hG hC hF h3 hbn h1 h2
      rw [CLn_vc hC hz]
      exact CLn_bind hz
    · rw [if_neg e11, if_neg e11]
      by_cases e12 : kw T n b = some 12
      · rw [if_pos e12, if_pos e12, if_neg (show ¬ (1 : Int32) = -1 by decide)]
        have hz := C_lays hG hC hF h3 hbn h1 h2
        rw [CLn_vc hC hz]
        exact CLn_bind hz
      · rw [if_neg e12, if_neg e12]
        by_cases e13 : kw T n b = some 13
        · rw [if_pos e13, if_pos e13, if_neg (show ¬ (2 : Int32) = -1 by decide)]
          have hz := C_moulds hG hC hq hF h3 hbn h1 h2
          rw [CLn_vc hC hz]
          exact CLn_bind hz
        · rw [if_neg e13, if_neg e13, if_pos (show (-1 : Int32) = -1 from rfl), LC_is hG hC (i := 10) (by decide) (by decide) (k := 2) rfl (by decide), Option.bind_some]
          by_cases e2 : kw T n b = some 2
          · rw [if_pos e2, if_neg (bI_n0 (decide_eq_true e2))]
            have hz := C_sheet hG hC hS hF h3 hbn h1 h2
            rw [CLn_vc hC hz]
            exact CLn_bind hz
          · rw [if_neg e2, if_pos (bI_y0 (decide_eq_false e2)), LC_is hG hC (i := 16) (by decide) (by decide) (k := 9) rfl (by decide), Option.bind_some]
            by_cases e9 : kw T n b = some 9
            · rw [if_pos e9, if_neg (bI_n0 (decide_eq_true e9))]
              have hz := C_clerk hG hC hS hF h3 hbn h1 h2
              rw [CLn_vc hC hz]
              exact CLn_bind hz
            · rw [if_neg e9, if_pos (bI_y0 (decide_eq_false e9)), LC_is hG hC (i := 17) (by decide) (by decide) (k := 10) rfl (by decide), Option.bind_some]
              by_cases e10 : kw T n b = some 10
              · rw [if_pos e10, LC_want_y hG hC (decide_eq_true e10), xg_l]
                have hz := C_word hG hC hS hF h3 hbn h1 h2
                dsimp only
                rw [CLn_vc hC hz]
                exact CLn_bind hz
              · obtain ⟨w, w1, w2⟩ := LC_want_n (x := 1) (k := 1) hG hC (decide_eq_false e10) rfl (by omega) (by omega)
                rw [if_neg e10, w1, xg_r]
                exact ⟨w, rfl, CEr_up w2 (Nat.le_refl _) (Nat.le_refl _) (Nat.le_refl _) (Nat.le_refl _) (Nat.le_refl _) (by omega) (by omega)⟩
  have hk := lnAny_ok (T := T) hbn hS
  unfold C5_line spLine
  rw [r3, Option.bind_some, LC_once hG hC, Option.bind_some]
  cases e : lnAny T n S b with
  | inr z =>
    obtain ⟨k, p⟩ := z
    rw [e] at hany
    obtain ⟨w, w1, w2⟩ := hany
    rw [w1, xg_r]
    exact ⟨w, rfl, w2⟩
  | inl z =>
    obtain ⟨S1, b1⟩ := z
    rw [e] at hany hk
    obtain ⟨f1, k1, r1, B1, g1, nm1, D1, w1, C1, hFg, ⟨y1, y2, y3, y4⟩, y5⟩ := hany
    have hk2 : b + 1 ≤ b1 ∧ b1 ≤ n ∧ WFL S1 := hk
    rw [w1, xg_l]
    dsimp only
    rw [LC_sg hG C1 (x := 59) (c := 59) rfl (by decide), Option.bind_some]
    by_cases e59 : sg T n b1 59 = true
    · obtain ⟨k2, g2, C2, -⟩ := LC_nx hG C1
      have hnx := nxt_lt (T := T) (op_lt_sg e59)
      rw [if_pos e59, LC_want_y hG C1 e59, xg_l]
      dsimp only
      rw [g2, Option.bind_some]
      exact ⟨f1, k2, r1, B1, g1, nm1, D1, rfl, C2, hFg, ⟨y1, y2, by omega, by omega⟩, y5⟩
    · obtain ⟨w, v1, v2⟩ := LC_want_n (x := 1) (k := 1) hG C1 (bF e59) rfl (by omega) (by omega)
      rw [if_neg e59, v1, xg_r]
      exact ⟨w, rfl, CEr_up v2 y5 y1 y2 (by omega) (Nat.le_refl _) (by omega) (by omega)⟩
theorem spRead_p : ∀ ff (S : OS) b k p, b ≤ n → WFL S → spRead T n ff S b = .inr (k, p) → b ≤ p := by
  intro ff
  induction ff with
  | zero => intro S b k p hb _ h; cases h; exact Nat.le_refl _
  | succ ff ih =>
    intro S b k p hb hS h
    unfold spRead at h
    by_cases e0 : tkK T n b = 0
    · rw [if_pos e0] at h; cases h
    · rw [if_neg e0] at h
      have hbn : b < n := tk_lt e0
      have hk := spLine_ok (T := T) hbn hS
      cases e : spLine T n S b with
      | inr z =>
        obtain ⟨k', p'⟩ := z
        rw [e] at h hk
        cases h
        exact hk.1
      | inl z =>
        obtain ⟨S1, b1⟩ := z
        rw [e] at h hk
        have hk2 : b + 1 ≤ b1 ∧ b1 ≤ n ∧ WFL S1 := hk
        have := ih S1 b1 k p hk2.2.1 hk2.2.2 h
        omega
theorem C_read (hG : LG K q rd n T hb m0 f0) (hq : q 5 ≠ q 4) : ∀ ff (S : OS) (b : Nat) (f h : CH) (r : CR) (B : Nat → Nat) (g : Nat → Nat → Int32) (nm D : Nat), n < b + ff → LC K q rd n T hb m0 f0 f h r B g nm D S b → WFL S → FD D S → (∀ c, g 3 c = 0) → 100 * (n - b) + 70 ≤ r.2.1 → 3000 * (n - b) + 700 ≤ r.2.2 → (match spRead T n ff S b with
    | .inl S' => ∃ f' h' r' B' g' nm' D' b', o_loop (C5_read_L4 K rd) (h, r) = some (.inl (h', r')) ∧ LC K q rd n T hb m0 f0 f' h' r' B' g' nm' D' S' b' ∧ (r'.2.1 ≤ r.2.1 ∧ r'.2.2 ≤ r.2.2 ∧ r.2.1 ≤ r'.2.1 + 100 * (n - b) ∧ r.2.2 ≤ r'.2.2 + 3000 * (n - b)) ∧ r.1 ≤ r'.1
    | .inr (k, p) => p ≤ n ∧ ∃ w, o_loop (C5_read_L4 K rd) (h, r) = some (.inr w) ∧ CEr K q rd hb m0 r b 70 700 k p w) := by
  intro ff
  induction ff with
  | zero =>
    intro S b f h r B g nm D hn hC
    have := (LC_base hC).2.2.1
    omega
  | succ ff ih =>
    intro S b f h r B g nm D hn hC hS hF h3 h1 h2
    have hbs := LC_base hC
    obtain ⟨-, -, -, e8⟩ := LC_rd hC
    unfold spRead
    rw [o_loop_eq]
    by_cases e0 : tkK T n b = 0
    · have hst : C5_read_L4 K rd (h, r) = some (.inr (.inl (h, r))) := by
        unfold C5_read_L4
        dsimp only
        rw [e8, Option.bind_some, if_pos ((tkK_i (x := 0) (k := 0) rfl (by decide)).mpr e0)]
      rw [if_pos e0, hst, Option.bind_some]
      exact ⟨f, h, r, B, g, nm, D, b, rfl, hC, ⟨Nat.le_refl _, Nat.le_refl _, by omega, by omega⟩, Nat.le_refl _⟩
    · have hbn : b < n := tk_lt e0
      have hl := C_line hG hC hq hS hF h3 hbn h1 h2
      have hk := spLine_ok (T := T) hbn hS
      have hvc := CLn_vc hC hl
      have hst : ∀ z, xg (fun e_ => .inr (.inr e_)) (C5_line K h r rd) (fun q8 => some (.inl q8)) = z → C5_read_L4 K rd (h, r) = z := by
        intro z hz
        unfold C5_read_L4
        dsimp only
        rw [e8, Option.bind_some, if_neg (fun x => e0 ((tkK_i (x := 0) (k := 0) rfl (by decide)).mp x)), hvc]
        exact hz
      rw [if_neg e0]
      cases e : spLine T n S b with
      | inr z =>
        obtain ⟨k, p⟩ := z
        rw [e] at hl hk
        obtain ⟨w, w1, w2⟩ := hl
        refine ⟨hk.2.1, w, ?_, w2⟩
        rw [hst _ (by rw [w1, xg_r])]
        rfl
      | inl z =>
        obtain ⟨S1, b1⟩ := z
        rw [e] at hl hk
        obtain ⟨f1, k1, r1, B1, g1, nm1, D1, w1, C1, hFg, ⟨y1, y2, y3, y4⟩, y5⟩ := hl
        have hk2 : b + 1 ≤ b1 ∧ b1 ≤ n ∧ WFL S1 := hk
        have hi := ih S1 b1 f1 k1 r1 B1 g1 nm1 D1 (by omega) C1 hk2.2.2 hFg.1 hFg.2 (by omega) (by omega)
        rw [hst _ (by rw [w1, xg_l]), Option.bind_some]
        dsimp only
        cases e5 : spRead T n ff S1 b1 with
        | inr z =>
          obtain ⟨k, p⟩ := z
          rw [e5] at hi
          obtain ⟨z0, w, z1, z2⟩ := hi
          have hp : b1 ≤ p := spRead_p ff S1 b1 k p hk2.2.1 hk2.2.2 e5
          exact ⟨z0, w, z1, CEr_up z2 y5 y1 y2 (by omega) hp (by omega) (by omega)⟩
        | inl S2 =>
          rw [e5] at hi
          obtain ⟨f2, k2, r2, B2, g2, nm2, D2, b2, z1, z2, ⟨z3, z4, z5, z6⟩, z7⟩ := hi
          exact ⟨f2, k2, r2, B2, g2, nm2, D2, b2, z1, z2, ⟨by omega, by omega, by omega, by omega⟩, by omega⟩
end CLINES7
