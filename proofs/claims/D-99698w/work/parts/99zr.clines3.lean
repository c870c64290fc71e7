/-! ===== office: the component reads the lines that may stand once ===== -/
section CLINES3
variable {K q : Nat → Nat} {rd n m0 : Nat} {T : Nat → Nat} {hb f0 f h h' : CH} {r r' : CR} {B : Nat → Nat} {g : Nat → Nat → Int32} {S : OS} {b nm D lo hi : Nat} {cv : (Nat → Int32) → (Nat → Int32)} {L : List Nat}
theorem NmOk_of (hl : L.length ≤ 6) (h1 : ∀ i, i < L.length → L.getD i 0 < 18 ∧ L.getD i 0 ≠ 12 ∧ mpT (L.getD i 0) < 17 ∧ lo ≤ mpT (L.getD i 0) ∧ mpT (L.getD i 0) ≤ hi ∧ ∀ g, cv g (mpT (L.getD i 0)) = g i) (h2 : ∀ k, lo ≤ k → k ≤ hi → ∃ i, i < L.length ∧ mpT (L.getD i 0) = k) : NmOk T n L lo hi cv := by
  refine ⟨⟨hl, fun i hi => ⟨(h1 i hi).1, (h1 i hi).2.1⟩⟩, fun b => ?_⟩
  cases e : whi T n b L with
  | some j =>
    have hj := List.mem_range.mp (List.mem_of_find?_eq_some e)
    have hj2 : isWd T n b (wd (mpT (L.getD j 0))) = true := by simpa using List.find?_some e
    obtain ⟨x1, x2, x3, x4, x5, x6⟩ := h1 j hj
    exact ⟨_, kw_some.mpr ⟨x3, hj2⟩, x4, x5, by omega, x6⟩
  | none =>
    intro k hk ⟨k1, k2⟩
    obtain ⟨i, i1, i2⟩ := h2 k k1 k2
    have := List.find?_eq_none.mp e i (List.mem_range.mpr i1)
    rw [i2, (kw_some.mp hk).2] at this
    exact this rfl
theorem NmL : NmOk T n [3, 4, 5, 6, 7] 4 8 cvL := by
  refine NmOk_of (by decide) (fun i hi => ?_) (fun k k1 k2 => ?_)
  · have hi2 : i < 5 := hi
    have : i = 0 ∨ i = 1 ∨ i = 2 ∨ i = 3 ∨ i = 4 := by omega
    rcases this with rfl | rfl | rfl | rfl | rfl <;> exact ⟨by decide, by decide, by decide, by decide, by decide, fun g => rfl⟩
  · have : k = 4 ∨ k = 5 ∨ k = 6 ∨ k = 7 ∨ k = 8 := by omega
    rcases this with rfl | rfl | rfl | rfl | rfl
    · exact ⟨0, by decide, rfl⟩
    · exact ⟨4, by decide, rfl⟩
    · exact ⟨1, by decide, rfl⟩
    · exact ⟨2, by decide, rfl⟩
    · exact ⟨3, by decide, rfl⟩
theorem NmM : NmOk T n [8, 9, 10, 3, 11, 7] 0 5 cvM := by
  refine NmOk_of (by decide) (fun i hi => ?_) (fun k k1 k2 => ?_)
  · have hi2 : i < 6 := hi
    have : i = 0 ∨ i = 1 ∨ i = 2 ∨ i = 3 ∨ i = 4 ∨ i = 5 := by omega
    rcases this with rfl | rfl | rfl | rfl | rfl | rfl <;> exact ⟨by decide, by decide, by decide, by decide, by decide, fun g => rfl⟩
  · have : k = 0 ∨ k = 1 ∨ k = 2 ∨ k = 3 ∨ k = 4 ∨ k = 5 := by omega
    rcases this with rfl | rfl | rfl | rfl | rfl | rfl
    · exact ⟨0, by decide, rfl⟩
    · exact ⟨1, by decide, rfl⟩
    · exact ⟨2, by decide, rfl⟩
    · exact ⟨4, by decide, rfl⟩
    · exact ⟨3, by decide, rfl⟩
    · exact ⟨5, by decide, rfl⟩
theorem LC_expr (hG : LG K q rd n T hb m0 f0) (hC : LC K q rd n T hb m0 f0 f h r B g nm D S b) (hNM : NmOk T n (nmL q nm) lo hi cv) (h1 : 100 * (n - b) + 60 ≤ r.2.1) (h2 : 3000 * (n - b) + 600 ≤ r.2.2) : match spX T n lo hi 9 0 b with
    | .inl (b', E) => ∃ a h' r' f', vc h rd 4 (xchk r (C5_expression K h r rd 0)) = some (.inl (a, (h', r'))) ∧ LC K q rd n T hb m0 f0 f' h' r' B g nm D S b' ∧ FYr K cv f' (some a) (some E) ∧ (r'.2.1 ≤ r.2.1 ∧ r'.2.2 ≤ r.2.2 ∧ r.2.1 ≤ r'.2.1 + 100 * (b' - b) ∧ r.2.2 ≤ r'.2.2 + 3000 * (b' - b)) ∧ r.1 ≤ r'.1
    | .inr (k, p) => ∃ w, vc h rd 4 (xchk r (C5_expression K h r rd 0)) = some (.inr w) ∧ CEr K q rd hb m0 r b 60 600 k p w := by
  obtain ⟨q1, q2, q3⟩ := LC_to hG hC
  have hbs := LC_base hC
  have hlt := LC_lt hG hC
  have hx := cX (K := K) (cv := cv) q1 hNM 9 0 (by decide) (by decide) h r b q2 (by omega) (by omega)
  have hx2 : CRs K q rd nm n T (i3 D) h r.1 cv 5 100 h r b (spX T n lo hi 9 0 b) (C5_expression K h r rd 0) := hx
  cases e : spX T n lo hi 9 0 b with
  | inr z =>
    obtain ⟨k, p⟩ := z
    obtain ⟨w, w1, w2⟩ := sub_r q2 hx2 e
    exact ⟨w, w1, CEr_base w2 hbs.1 hbs.2.1⟩
  | inl z =>
    obtain ⟨b1, E⟩ := z
    obtain ⟨a, h', r', w1, C1, e1, hF, y1, y2, y3, y4⟩ := sub_l q2 hx2 e
    have hlu := hF.1
    obtain ⟨c1, c2, c3, c4⟩ := C1
    have hnm : nm = q 4 ∨ nm = q 5 := by
      obtain ⟨ly, mo, fw, fr, ⟨-, x⟩, -⟩ := hC
      exact x
    have C2 : LC K q rd n T hb m0 f0 f h' r' B g nm D S b1 := LC_fr hC c1 c2 hnm c3 (by omega)
    obtain ⟨C3, -⟩ := LC_ext (lo := r.1) (hi := r'.1) C2 hbs.2.1 (fun i hi => by have := hlt i hi; omega)
    exact ⟨a, h', r', _, w1, C3, ⟨a, r.1, r'.1, rfl, FoR_le hF (fun p x p1 p2 px => by rw [frz_in p1 p2]; exact px)⟩, ⟨y1, y2, by omega, by omega⟩, by omega⟩
/-- the line hasn't been read: its mark is set, the token passed -/
theorem only_pre {wh : Nat} (hG : LG K q rd n T hb m0 f0) (hC : LC K q rd n T hb m0 f0 f h r B g nm D S b) (hD : D < 8) (hw : wh < 3) (hbit : D.testBit wh = false) : ∃ h1 k1, pI h rd 4 12 (i3 D ||| ((1 : Int32) <<< (i3 wh &&& 31))) = some h1 ∧ vc h1 rd 4 (C5_next K h1 rd) = some k1 ∧ LC K q rd n T hb m0 f0 f k1 r B g nm (D ||| 2 ^ wh) S (nxb T n b) := by
  have hbs := LC_base hC
  have hC' := hC
  obtain ⟨ly, mo, fw, fr, ⟨⟨c1, v, ev, cv'⟩, hnm⟩, -, -, -, -, ⟨d1, -⟩, -⟩ := hC
  have e1 : pI h rd 4 12 (i3 D ||| ((1 : Int32) <<< (i3 wh &&& 31))) = some (hup h rd (.inr (4, rdF q (i3 n) nm (i3 (tkE T n b)) (i3 (tkK T n b)) (i3 b) (i3 (tkE T n b)) v (i3 (D ||| 2 ^ wh))))) := by
    rw [pI_of ev (show 12 < 14 by decide), i3_shl (by omega), i3_or]
    rfl
  have C1 : LC K q rd n T hb m0 f0 f (hup h rd (.inr (4, rdF q (i3 n) nm (i3 (tkE T n b)) (i3 (tkK T n b)) (i3 b) (i3 (tkE T n b)) v (i3 (D ||| 2 ^ wh))))) r B g nm (D ||| 2 ^ wh) S b := LC_fr hC' (fun p _ hp => hup_n hp) ⟨c1, v, hup_s, cv'⟩ hnm (FR_set d1 hbs.2.2.2.2) (Nat.le_refl _)
  obtain ⟨k1, g1, C2, -⟩ := LC_nx hG C1
  exact ⟨_, k1, e1, g1, C2⟩
theorem FD_or {S' : OS} {wh : Nat} (hF : FD D S) (hw : wh < 3) (h0 : S'.2.2 = (S.2.2 || decide (wh = 0))) (h1 : (pY S'.1).isSome = ((pY S.1).isSome || decide (wh = 1))) (h2 : (pZ S'.1).isSome = ((pZ S.1).isSome || decide (wh = 2))) : FD (D ||| 2 ^ wh) S' := by
  obtain ⟨a1, a2, a3, a4⟩ := hF
  refine ⟨Nat.or_lt_two_pow (n := 3) a1 (Nat.pow_lt_pow_right (by decide) hw), ?_, ?_, ?_⟩
  · rw [Nat.testBit_or, a2, Nat.testBit_two_pow, h0]
  · rw [Nat.testBit_or, a3, Nat.testBit_two_pow, h1]
  · rw [Nat.testBit_or, a4, Nat.testBit_two_pow, h2]
theorem only_no {wh : Nat} (hG : LG K q rd n T hb m0 f0) (hC : LC K q rd n T hb m0 f0 f h r B g nm D S b) (hD : D < 8) (hw : wh < 3) (hbit : D.testBit wh = true) (h1 : 1 ≤ r.2.1) (h2 : 7 ≤ r.2.2) : ∃ w, C5_only K h r rd (i3 wh) = some (.inr w) ∧ CEr K q rd hb m0 r b 1 7 5 b w := by
  obtain ⟨w, w1, w2⟩ := LC_want_n (x := 5) (k := 5) (c := false) hG hC rfl rfl h1 h2
  refine ⟨w, ?_, w2⟩
  obtain ⟨ly, mo, fw, fr, ⟨⟨c1, v, ev, cv'⟩, hnm⟩, -⟩ := hC
  unfold C5_only
  rw [gI_of ev (k := 12) rfl, Option.bind_some, C1_isOf_eq (by omega) (by omega), hbit, Option.bind_some, if_neg (by decide), xg_l, show (0 : Int32) = bI false from rfl, w1, xg_r]
theorem only_go {wh : Nat} (hG : LG K q rd n T hb m0 f0) (hC : LC K q rd n T hb m0 f0 f h r B g nm D S b) (hD : D < 8) (hw : wh < 3) (hbit : D.testBit wh = false) : ∃ k1, LC K q rd n T hb m0 f0 f k1 r B g nm (D ||| 2 ^ wh) S (nxb T n b) ∧ C5_only K h r rd (i3 wh) = (if i3 wh = 0 then
    ((gR k1 rd 4 1).bind fun v20 => xg Sum.inr (vc k1 rd 4 (xchk r (C5_number K k1 r rd 0 8))) fun q21 => (pI q21.2.1 v20 2 3 q21.1).bind fun s22 => some (.inl (s22, q21.2.2)))
  else
    (xg Sum.inr ((if i3 wh = 1 then ((gR k1 rd 4 4).bind fun v19 => some (.inl v19)) else ((gR k1 rd 4 5).bind fun v18 => some (.inl v18)) : Option (Nat ⊕ XT))) fun r9 =>
    (pQ k1 rd 4 6 (some r9)).bind fun s10 =>
    xg Sum.inr (vc s10 rd 4 (xchk r (C5_expression K s10 r rd 0))) fun q11 =>
    if i3 wh = 1 then
      ((gR q11.2.1 rd 4 1).bind fun v15 => (pQ q11.2.1 v15 2 4 (some q11.1)).bind fun s16 => some (.inl (s16, q11.2.2)))
    else
      ((gR q11.2.1 rd 4 1).bind fun v13 => (pQ q11.2.1 v13 2 5 (some q11.1)).bind fun s14 => some (.inl (s14, q11.2.2))))) := by
  obtain ⟨h1, k1, e1, e2, e3⟩ := only_pre hG hC hD hw hbit
  have hwy := LC_want_y (k := 5) (x := true) hG hC rfl
  refine ⟨k1, e3, ?_⟩
  obtain ⟨ly, mo, fw, fr, ⟨⟨c1, v, ev, cv'⟩, hnm⟩, -⟩ := hC
  unfold C5_only
  rw [gI_of ev (k := 12) rfl, Option.bind_some, C1_isOf_eq (by omega) (by omega), hbit, Option.bind_some, if_pos (show bI false = 0 from rfl), xg_l, show (1 : Int32) = bI true from rfl, hwy, xg_l]
  dsimp only
  rw [gI_of ev (k := 12) rfl, Option.bind_some, show bI true = 1 from rfl, e1, Option.bind_some, e2, Option.bind_some]
theorem LC_nm (hC : LC K q rd n T hb m0 f0 f h r B g nm D S b) {x : Nat} (hx : x = q 4 ∨ x = q 5) : ∃ h1, pQ h rd 4 6 (some x) = some h1 ∧ LC K q rd n T hb m0 f0 f h1 r B g x D S b := by
  have hbs := LC_base hC
  have hC' := hC
  obtain ⟨ly, mo, fw, fr, ⟨⟨c1, v, ev, cv'⟩, hnm⟩, -, -, -, -, ⟨d1, -⟩, -⟩ := hC
  exact ⟨_, pQ_of ev (show 6 < 14 by decide), LC_fr hC' (fun p _ hp => hup_n hp) ⟨c1, v, hup_s, cv'⟩ hx (FR_set d1 hbs.2.2.2.2) (Nat.le_refl _)⟩
theorem LC_q45 (hC : LC K q rd n T hb m0 f0 f h r B g nm D S b) : gR h rd 4 4 = some (q 4) ∧ gR h rd 4 5 = some (q 5) := by
  obtain ⟨ly, mo, fw, fr, ⟨⟨c1, v, ev, cv'⟩, hnm⟩, -⟩ := hC
  exact ⟨gR_of ev (k := 4) rfl, gR_of ev (k := 5) rfl⟩
theorem LC_SA (hC : LC K q rd n T hb m0 f0 f h r B g nm D S b) : SA S.1 g 0 S.2.1 := by
  obtain ⟨ly, mo, fw, fr, -, ⟨-, -, sa⟩, -⟩ := hC
  exact sa
theorem C_slack (hG : LG K q rd n T hb m0 f0) (hC : LC K q rd n T hb m0 f0 f h r B g nm D S b) (hF : FD D S) (hg3 : ∀ c, g 3 c = 0) (hbn : b < n) (h1 : 100 * (n - b) + 70 ≤ r.2.1) (h2 : 3000 * (n - b) + 700 ≤ r.2.2) : CLn K q rd n T hb m0 f0 r b (lnSlack T n S b) (C5_only K h r rd 0) := by
  have hnx := nxt_lt (T := T) hbn
  have hnn := nxt_le (T := T) (n := n) (b := b) (by omega)
  unfold lnSlack
  by_cases es : S.2.2 = true
  · obtain ⟨w, w1, w2⟩ := only_no (wh := 0) hG hC hF.1 (by decide) (by rw [hF.2.1, es]) (by omega) (by omega)
    rw [if_pos es]
    exact ⟨w, w1, CEr_up w2 (Nat.le_refl _) (Nat.le_refl _) (Nat.le_refl _) (Nat.le_refl _) (Nat.le_refl _) (by omega) (by omega)⟩
  · obtain ⟨k1, C1, e1⟩ := only_go (wh := 0) hG hC hF.1 (by decide) (by rw [hF.2.1]; exact bF es)
    obtain ⟨r1, -, -, -⟩ := LC_rd C1
    rw [if_neg es, show C5_only K h r rd 0 = _ from e1, if_pos (show i3 0 = 0 from rfl), r1, Option.bind_some]
    have hn := LC_num (m := 8) (x := 8) hG C1 rfl (by decide) (by omega) (by omega)
    have hk := spNum_ok (T := T) (m := 8) hnn
    cases e : spNum T n 8 (nxb T n b) with
    | inr z =>
      obtain ⟨k, p⟩ := z
      rw [e] at hn hk
      obtain ⟨w, w1, w2⟩ := hn
      exact ⟨w, by rw [w1, xg_r], CEr_up w2 (Nat.le_refl _) (Nat.le_refl _) (Nat.le_refl _) (by omega) (by omega) (by omega) (by omega)⟩
    | inl z =>
      obtain ⟨b1, v⟩ := z
      rw [e] at hn hk
      obtain ⟨k2, w1, C2, -⟩ := hn
      obtain ⟨x1, x2, -, -⟩ := hk
      obtain ⟨ly, mo, c1, c2, c3, c4⟩ := LC_mc C2
      have C3 := c4 (oS' S.1 v) S.2.1 true ly mo rfl (fun _ => rfl) (fun _ => rfl) rfl (fun _ => rfl) (fun _ _ => rfl) (LC_SA C2) c2 c3
      rw [w1, xg_l]
      dsimp only
      rw [pI_of c1 (show 3 < 6 by decide), Option.bind_some]
      refine ⟨f, _, r, B, _, nm, _, rfl, C3, ⟨FD_or (wh := 0) hF (by decide) (by simp) ?_ ?_, hg3⟩, ⟨Nat.le_refl _, Nat.le_refl _, by omega, by omega⟩, Nat.le_refl _⟩
      · show (pY S.1).isSome = _
        simp
      · show (pZ S.1).isSome = _
        simp
theorem C_lays (hG : LG K q rd n T hb m0 f0) (hC : LC K q rd n T hb m0 f0 f h r B g nm D S b) (hF : FD D S) (hg3 : ∀ c, g 3 c = 0) (hbn : b < n) (h1 : 100 * (n - b) + 70 ≤ r.2.1) (h2 : 3000 * (n - b) + 700 ≤ r.2.2) : CLn K q rd n T hb m0 f0 r b (lnLays T n S b) (C5_only K h r rd 1) := by
  have hnx := nxt_lt (T := T) hbn
  have hnn := nxt_le (T := T) (n := n) (b := b) (by omega)
  unfold lnLays
  cases eY : pY S.1 with
  | some E =>
    obtain ⟨w, w1, w2⟩ := only_no (wh := 1) hG hC hF.1 (by decide) (by rw [hF.2.2.1, eY]; rfl) (by omega) (by omega)
    exact ⟨w, w1, CEr_up w2 (Nat.le_refl _) (Nat.le_refl _) (Nat.le_refl _) (Nat.le_refl _) (Nat.le_refl _) (by omega) (by omega)⟩
  | none =>
    obtain ⟨k1, C1, e1⟩ := only_go (wh := 1) hG hC hF.1 (by decide) (by rw [hF.2.2.1, eY]; rfl)
    obtain ⟨q4, q5⟩ := LC_q45 C1
    obtain ⟨k2, e2, C2⟩ := LC_nm C1 (x := q 4) (.inl rfl)
    rw [show C5_only K h r rd 1 = _ from e1, if_neg (by decide), if_pos (show i3 1 = 1 from rfl), q4, Option.bind_some, xg_l, e2, Option.bind_some]
    have hx := LC_expr (lo := 4) (hi := 8) (cv := cvL) hG C2 (by unfold nmL; rw [if_pos rfl]; exact NmL) (by omega) (by omega)
    have hk := spX_ok (T := T) (n := n) (lo := 4) (hi := 8) 9 0 (nxb T n b) hnn
    dsimp only
    cases e : spX T n 4 8 9 0 (nxb T n b) with
    | inr z =>
      obtain ⟨k, p⟩ := z
      rw [e] at hx hk
      obtain ⟨w, w1, w2⟩ := hx
      exact ⟨w, by rw [w1, xg_r], CEr_up w2 (Nat.le_refl _) (Nat.le_refl _) (Nat.le_refl _) (by omega) hk.1 (by omega) (by omega)⟩
    | inl z =>
      obtain ⟨b1, E⟩ := z
      rw [e] at hx hk
      have hk2 : nxb T n b + 1 ≤ b1 ∧ b1 ≤ n := hk
      obtain ⟨a, h3, r3, f3, w1, C3, hY, ⟨y1, y2, y3, y4⟩, y5⟩ := hx
      obtain ⟨r1, -, -, -⟩ := LC_rd C3
      obtain ⟨ly, mo, c1, c2, c3, c4⟩ := LC_mc C3
      have C4 := c4 (oY S.1 E) S.2.1 S.2.2 (some a) mo rfl (fun _ => rfl) (fun _ => rfl) rfl (fun _ => rfl) (fun _ _ => rfl) (LC_SA C3) hY c3
      rw [w1, xg_l]
      dsimp only
      rw [if_pos (show i3 1 = 1 from rfl), r1, Option.bind_some, pQ_of c1 (show 4 < 6 by decide), Option.bind_some]
      refine ⟨f3, _, r3, B, g, q 4, _, rfl, C4, ⟨FD_or (wh := 1) hF (by decide) ?_ ?_ ?_, hg3⟩, ⟨y1, y2, by omega, by omega⟩, y5⟩
      · show S.2.2 = _
        simp
      · show (some E).isSome = _
        simp
      · show (pZ S.1).isSome = _
        simp
theorem C_moulds (hG : LG K q rd n T hb m0 f0) (hC : LC K q rd n T hb m0 f0 f h r B g nm D S b) (hq : q 5 ≠ q 4) (hF : FD D S) (hg3 : ∀ c, g 3 c = 0) (hbn : b < n) (h1 : 100 * (n - b) + 70 ≤ r.2.1) (h2 : 3000 * (n - b) + 700 ≤ r.2.2) : CLn K q rd n T hb m0 f0 r b (lnMoulds T n S b) (C5_only K h r rd 2) := by
  have hnx := nxt_lt (T := T) hbn
  have hnn := nxt_le (T := T) (n := n) (b := b) (by omega)
  unfold lnMoulds
  cases eY : pZ S.1 with
  | some E =>
    obtain ⟨w, w1, w2⟩ := only_no (wh := 2) hG hC hF.1 (by decide) (by rw [hF.2.2.2, eY]; rfl) (by omega) (by omega)
    exact ⟨w, w1, CEr_up w2 (Nat.le_refl _) (Nat.le_refl _) (Nat.le_refl _) (Nat.le_refl _) (Nat.le_refl _) (by omega) (by omega)⟩
  | none =>
    obtain ⟨k1, C1, e1⟩ := only_go (wh := 2) hG hC hF.1 (by decide) (by rw [hF.2.2.2, eY]; rfl)
    obtain ⟨q4, q5⟩ := LC_q45 C1
    obtain ⟨k2, e2, C2⟩ := LC_nm C1 (x := q 5) (.inr rfl)
    rw [show C5_only K h r rd 2 = _ from e1, if_neg (by decide), if_neg (by decide), q5, Option.bind_some, xg_l, e2, Option.bind_some]
    have hx := LC_expr (lo := 0) (hi := 5) (cv := cvM) hG C2 (by unfold nmL; rw [if_neg hq]; exact NmM) (by omega) (by omega)
    have hk := spX_ok (T := T) (n := n) (lo := 0) (hi := 5) 9 0 (nxb T n b) hnn
    dsimp only
    cases e : spX T n 0 5 9 0 (nxb T n b) with
    | inr z =>
      obtain ⟨k, p⟩ := z
      rw [e] at hx hk
      obtain ⟨w, w1, w2⟩ := hx
      exact ⟨w, by rw [w1, xg_r], CEr_up w2 (Nat.le_refl _) (Nat.le_refl _) (Nat.le_refl _) (by omega) hk.1 (by omega) (by omega)⟩
    | inl z =>
      obtain ⟨b1, E⟩ := z
      rw [e] at hx hk
      have hk2 : nxb T n b + 1 ≤ b1 ∧ b1 ≤ n := hk
      obtain ⟨a, h3, r3, f3, w1, C3, hY, ⟨y1, y2, y3, y4⟩, y5⟩ := hx
      obtain ⟨r1, -, -, -⟩ := LC_rd C3
      obtain ⟨ly, mo, c1, c2, c3, c4⟩ := LC_mc C3
      have C4 := c4 (oZ S.1 E) S.2.1 S.2.2 ly (some a) rfl (fun _ => rfl) (fun _ => rfl) rfl (fun _ => rfl) (fun _ _ => rfl) (LC_SA C3) c2 hY
      rw [w1, xg_l]
      dsimp only
      rw [if_neg (by decide), r1, Option.bind_some, pQ_of c1 (show 5 < 6 by decide), Option.bind_some]
      refine ⟨f3, _, r3, B, g, q 5, _, rfl, C4, ⟨FD_or (wh := 2) hF (by decide) ?_ ?_ ?_, hg3⟩, ⟨y1, y2, by omega, by omega⟩, y5⟩
      · show S.2.2 = _
        simp
      · show (pY S.1).isSome = _
        simp
      · show (some E).isSome = _
        simp
end CLINES3
