/-! ===== office: the reference reads an expression: what its steps do ===== -/
section MSTEP
variable {σ σ' : MS} {T : Nat → Nat} {n lo hi b w c dp : Nat}
noncomputable def tailM (r11 : MS) : Option MS :=
  (M_isGood r11).bind fun q12 =>
    ((if q12 = 0 then (some r11) else (if (mf r11 35) ≤ 1 then (some r11) else ((M_wrong r11 1).bind fun q18 => some q18)) : Option MS)).bind fun r13 =>
    (M_drops r13 0).bind fun q14 =>
    (M_puts q14 0).bind fun q15 =>
    some q15
/-- the rest of an expression, once an operand has been read -/
noncomputable def restM (σ : MS) : Option MS := (o_loop M_expression_L39 (1, σ)).bind tailM
noncomputable def inM (σ : MS) : Option (Int32 × MS) :=
  (M_knownWord σ).bind fun q22 =>
    (if q22 = 14 then (M_expression_J70 (1, σ) q22) else (if q22 = 15 then (M_expression_J70 (1, σ) q22) else
      ((M_isSign σ 60).bind fun q35 => if q35 = 0 then ((M_isSign σ 61).bind fun q74 => if q74 = 0 then (M_expression_J201 (1, σ)) else (M_expression_J142 (1, σ))) else (M_expression_J142 (1, σ)))) : Option (Int32 × MS))
theorem isGood_y (h : mf σ 14 = 0) : M_isGood σ = some 1 := if_pos h
theorem isGood_n (h : ¬ mf σ 14 = 0) : M_isGood σ = some 0 := if_neg h
theorem restM_go (h : mf σ 14 = 0) : restM σ = (inM σ).bind fun r23 => (o_loop M_expression_L39 (r23.1, r23.2)).bind tailM := by
  unfold restM
  rw [o_loop_eq]
  have e : M_expression_L39 (1, σ) = (inM σ).bind fun r23 => some (.inl (r23.1, r23.2)) := by
    unfold M_expression_L39 inM
    dsimp only
    rw [if_neg (by decide), isGood_y h, Option.bind_some, if_neg (by decide)]
    cases M_knownWord σ with
    | none => rfl
    | some q => rfl
  rw [e]
  cases inM σ with
  | none => rfl
  | some r => rfl
theorem restM_1 {x : Option MS} (h : mf σ 14 = 0) (e : inM σ = x.bind fun q => some (1, q)) : restM σ = x.bind restM := by
  rw [restM_go h, e]
  cases x with
  | none => rfl
  | some q => rfl
theorem L39_0 : o_loop M_expression_L39 (0, σ) = some σ := by
  rw [o_loop_eq]
  have : M_expression_L39 (0, σ) = some (.inr σ) := by
    unfold M_expression_L39
    rw [if_pos rfl]
  rw [this]
  rfl
theorem restM_0 (h : mf σ 14 = 0) (e : inM σ = some (0, σ)) : restM σ = tailM σ := by
  rw [restM_go h, e, Option.bind_some, L39_0, Option.bind_some]
theorem restM_bad (h : ¬ mf σ 14 = 0) : restM σ = tailM σ := by
  unfold restM
  rw [o_loop_eq]
  have : M_expression_L39 (1, σ) = some (.inr σ) := by
    unfold M_expression_L39
    dsimp only
    rw [if_neg (by decide), isGood_n h, Option.bind_some, if_pos rfl]
  rw [this]
  rfl
/-! states -/
def MU (T : Nat → Nat) (n lo hi : Nat) (σ : MS) (b w c dp : Nat) : Prop := ML σ T n b ∧ (mf σ 14 = 0 ∧ mf σ 31 = i3 c ∧ mf σ 34 = i3 w ∧ mf σ 35 = i3 dp ∧ mf σ 32 = i3 lo ∧ mf σ 33 = i3 hi) ∧ dp ≤ 6 ∧ hi < 9 ∧ lo < 9
def MP (T : Nat → Nat) (n lo hi : Nat) (σ : MS) (b w c dp : Nat) : Prop := MU T n lo hi σ b w c dp ∧ w ≤ b ∧ c + w + 2 ≤ 2 * b
/-- but for the token, code from c on, what waits from w on, tests, all is the same -/
def Ef (w c : Nat) (σ σ' : MS) : Prop := (∀ k, k < 18 ∨ (23 < k ∧ k ≠ 31 ∧ k ≠ 34 ∧ k ≠ 35) → mf σ' k = mf σ k) ∧ (∀ j, j ≠ 41 → j ≠ 42 → j ≠ 43 → ma σ' j = ma σ j) ∧ (∀ i, i < c → ma σ' 41 i = ma σ 41 i) ∧ ∀ i, i < w → ma σ' 42 i = ma σ 42 i
theorem Ef_refl (w c : Nat) (σ : MS) : Ef w c σ σ := ⟨fun _ _ => rfl, fun _ _ _ _ => rfl, fun _ _ => rfl, fun _ _ => rfl⟩
theorem Ef_trans {σ'' : MS} (h : Ef w c σ σ') (h2 : Ef w c σ' σ'') : Ef w c σ σ'' := ⟨fun k hk => (h2.1 k hk).trans (h.1 k hk), fun j a1 a2 a3 => (h2.2.1 j a1 a2 a3).trans (h.2.1 j a1 a2 a3), fun i hi => (h2.2.2.1 i hi).trans (h.2.2.1 i hi), fun i hi => (h2.2.2.2 i hi).trans (h.2.2.2 i hi)⟩
theorem Ef_mono {w' c' : Nat} (h : Ef w c σ σ') (hw : w' ≤ w) (hc : c' ≤ c) : Ef w' c' σ σ' := ⟨h.1, h.2.1, fun i hi => h.2.2.1 i (by omega), fun i hi => h.2.2.2 i (by omega)⟩
theorem Ef_lx (h : Lx σ σ') : Ef w c σ σ' := ⟨fun k hk => h.1 k (by omega), fun j _ _ _ => h.2 j, fun i _ => by rw [h.2], fun i _ => by rw [h.2]⟩
def Ee (σ σ' : MS) : Prop := (∀ k, k < 14 ∨ k = 16 ∨ k = 17 ∨ (23 < k ∧ k ≠ 31 ∧ k ≠ 34 ∧ k ≠ 35) → mf σ' k = mf σ k) ∧ ∀ j, j ≠ 41 → j ≠ 42 → j ≠ 43 → ma σ' j = ma σ j
theorem Ee_refl (σ : MS) : Ee σ σ := ⟨fun _ _ => rfl, fun _ _ _ _ => rfl⟩
theorem Ee_trans {σ'' : MS} (h : Ee σ σ') (h2 : Ee σ' σ'') : Ee σ σ'' := ⟨fun k hk => (h2.1 k hk).trans (h.1 k hk), fun j a1 a2 a3 => (h2.2 j a1 a2 a3).trans (h.2 j a1 a2 a3)⟩
theorem Ef_e (h : Ef w c σ σ') : Ee σ σ' := ⟨fun k hk => h.1 k (by omega), h.2.1⟩
/-- something is wrong, of kind k, at the place p -/
def Er (σ σ' : MS) (k p : Nat) : Prop := (mf σ' 14 = i3 k ∧ 1 ≤ k ∧ k ≤ 9 ∧ mf σ' 15 = i3 p) ∧ (∃ w c, mf σ' 34 = i3 w ∧ mf σ' 31 = i3 c ∧ w + c ≤ 1399 ∧ w ≤ 950) ∧ Ee σ σ'
theorem Er_pre {σ'' : MS} {k p : Nat} (h : Ee σ σ') (h2 : Er σ' σ'' k p) : Er σ σ'' k p := ⟨h2.1, h2.2.1, Ee_trans h h2.2.2⟩
theorem Er_bad {k p : Nat} (h : Er σ σ' k p) : ¬ mf σ' 14 = 0 := by
  obtain ⟨⟨h1, h2, h3, _⟩, _⟩ := h
  rw [h1, i3_eq0 (by omega)]
  omega
theorem MP_b (h : MP T n lo hi σ b w c dp) : b ≤ n ∧ n ≤ 700 := ⟨h.1.1.2.1, h.1.1.1.2.1⟩
/-- what is wrong is told -/
theorem MU_wrong (h : MU T n lo hi σ b w c dp) (hwc : w + c ≤ 1399) (hw : w ≤ 950) {k : Nat} {x : Int32} (hx : x = i3 k) (h1 : 1 ≤ k) (h2 : k ≤ 9) : M_wrong σ x = some (sf (sf σ 14 x) 15 (i3 b)) ∧ Er σ (sf (sf σ 14 x) 15 (i3 b)) k b := by
  obtain ⟨hL, ⟨f14, f31, f34, f35, f32, f33⟩, _⟩ := h
  have h20 : mf σ 20 = i3 b := hL.2.2.2.2.1
  refine ⟨?_, ⟨?_, h1, h2, mf_sfe⟩, ⟨w, c, ?_, ?_, hwc, hw⟩, fun q hq => ?_, fun j _ _ _ => rfl⟩
  · unfold M_wrong
    rw [if_pos f14, pf_e, Option.bind_some, mf_sfn (by decide), h20, pf_e, Option.bind_some]
  · rw [mf_sfn (by decide), mf_sfe, hx]
  · rw [mf_sfn (by decide), mf_sfn (by decide), f34]
  · rw [mf_sfn (by decide), mf_sfn (by decide), f31]
  · rw [mf_sfn (by omega), mf_sfn (by omega)]
theorem MU_of (h : MU T n lo hi σ b w c dp) {w' c' dp' : Nat} (hf : ∀ k, (14 ≤ k ∧ k ≤ 23) ∨ k = 32 ∨ k = 33 → mf σ' k = mf σ k) (hw : mw σ' = mw σ) (ha : ma σ' 12 = ma σ 12) (e31 : mf σ' 31 = i3 c') (e34 : mf σ' 34 = i3 w') (e35 : mf σ' 35 = i3 dp') (hd : dp' ≤ 6) : MU T n lo hi σ' b w' c' dp' := by
  obtain ⟨hL, ⟨f14, f31, f34, f35, f32, f33⟩, hd2, hh⟩ := h
  exact ⟨ML_lx hL (fun k h1 h2 => hf k (by omega)) hw ha, ⟨by rw [hf 14 (by omega)]; exact f14, e31, e34, e35, by rw [hf 32 (by omega)]; exact f32, by rw [hf 33 (by omega)]; exact f33⟩, hd, hh⟩
theorem MU_goes (h : MU T n lo hi σ b w c dp) : ∃ σ', M_goes σ = some σ' ∧ MU T n lo hi σ' (nxb T n b) w c dp ∧ Lx σ σ' := by
  obtain ⟨hL, ⟨f14, f31, f34, f35, f32, f33⟩, hd⟩ := h
  obtain ⟨σ', g1, g2, g3⟩ := M_goes_nxt hL
  exact ⟨σ', g1, ⟨g2, ⟨by rw [g3.1 14 (by decide)]; exact f14, by rw [g3.1 31 (by decide)]; exact f31, by rw [g3.1 34 (by decide)]; exact f34, by rw [g3.1 35 (by decide)]; exact f35, by rw [g3.1 32 (by decide)]; exact f32, by rw [g3.1 33 (by decide)]; exact f33⟩, hd⟩, g3⟩
theorem MU_push (h : MU T n lo hi σ b w c dp) (hw : w < 950) (x : Int32) : ∃ σ', M_waitsFor σ x = some σ' ∧ MU T n lo hi σ' b (w + 1) c dp ∧ (∀ c', Ef w c' σ σ') ∧ ma σ' 42 w = x ∧ ma σ' 43 = ma σ 43 ∧ ma σ' 41 = ma σ 41 := by
  have f34 := h.2.1.2.2.1
  refine ⟨sf (sa σ 42 w x) 34 (i3 (w + 1)), ?_, MU_of h (fun k hk => mf_sfn (by omega)) rfl (ma_sb (by decide)) ((mf_sfn (by decide)).trans h.2.1.2.1) mf_sfe ((mf_sfn (by decide)).trans h.2.1.2.2.2.1) h.2.2.1, fun c' => ⟨fun k hk => mf_sfn (by omega), fun j _ h42 _ => ma_sb h42, fun i _ => by
    show ma (sa σ 42 w x) 41 i = _
    rw [ma_sb (by decide)], fun i hi => ?_⟩, ?_, ma_sb (by decide), ma_sb (by decide)⟩
  · unfold M_waitsFor
    rw [f34, ast_i3 (show w < mlen 42 from hw), Option.bind_some, show mf (sa σ 42 w x) 34 = i3 w from f34, i3_succ, pf_e, Option.bind_some]
  · show ma (sa σ 42 w x) 42 i = _
    rw [ma_saq, if_neg (by omega)]
  · show ma (sa σ 42 w x) 42 w = x
    rw [ma_saq, if_pos rfl]
theorem MU_put (h : MU T n lo hi σ b w c dp) (hc : c < 1400) (x : Int32) : ∃ σ', M_puts σ x = some σ' ∧ MU T n lo hi σ' b w (c + 1) dp ∧ (∀ w', Ef w' c σ σ') ∧ ma σ' 41 c = x ∧ ma σ' 43 = ma σ 43 ∧ ma σ' 42 = ma σ 42 ∧ (∀ k, k ≠ 31 → mf σ' k = mf σ k) := by
  have f31 := h.2.1.2.1
  refine ⟨sf (sa σ 41 c x) 31 (i3 (c + 1)), ?_, MU_of h (fun k hk => mf_sfn (by omega)) rfl (ma_sb (by decide)) mf_sfe ((mf_sfn (by decide)).trans h.2.1.2.2.1) ((mf_sfn (by decide)).trans h.2.1.2.2.2.1) h.2.2.1, fun w' => ⟨fun k hk => mf_sfn (by omega), fun j h41 _ _ => ma_sb h41, fun i hi => ?_, fun i _ => by
    show ma (sa σ 41 c x) 42 i = _
    rw [ma_sb (by decide)]⟩, ?_, ma_sb (by decide), ma_sb (by decide), fun k hk => mf_sfn hk⟩
  · unfold M_puts
    rw [f31, ast_i3 (show c < mlen 41 from hc), Option.bind_some, show mf (sa σ 41 c x) 31 = i3 c from f31, i3_succ, pf_e, Option.bind_some]
  · show ma (sa σ 41 c x) 41 i = _
    rw [ma_saq, if_neg (by omega)]
  · show ma (sa σ 41 c x) 41 c = x
    rw [ma_saq, if_pos rfl]
theorem nar0 : vp_nar .boolean 0 = 0 := by decide
theorem nar1 : vp_nar .boolean 1 = 1 := by decide
theorem MU_test (h : MU T n lo hi σ b w c dp) {x : Int32} (hx : vp_nar .boolean x = x) : ∃ σ', astZ σ 43 (mf σ 35) x = some σ' ∧ MU T n lo hi σ' b w c dp ∧ (∀ w' c', Ef w' c' σ σ') ∧ ma σ' 43 dp = x ∧ (∀ i, i ≠ dp → ma σ' 43 i = ma σ 43 i) ∧ ma σ' 42 = ma σ 42 ∧ ma σ' 41 = ma σ 41 := by
  have f35 := h.2.1.2.2.2.1
  have hd := h.2.2.1
  refine ⟨sa σ 43 dp x, ?_, MU_of h (fun k hk => rfl) rfl (ma_sb (by decide)) h.2.1.2.1 h.2.1.2.2.1 h.2.1.2.2.2.1 h.2.2.1, fun w' c' => ⟨fun k hk => rfl, fun j _ _ h43 => ma_sb h43, fun i _ => by rw [ma_sb (by decide)], fun i _ => by rw [ma_sb (by decide)]⟩, ?_, fun i hi => ?_, ma_sb (by decide), ma_sb (by decide)⟩
  · rw [f35, astZ_i3 (show dp < mlen 43 by show dp < 9; omega), hx]
  · rw [ma_saq, if_pos rfl]
  · rw [ma_saq, if_neg hi]
/-! what waits -/
def stg (v : Nat) : Nat := if v = 5 then 1 else if v = 4 then 2 else if v = 3 then 3 else if v = 6 then 4 else if v = 7 then 4 else if v = 8 then 5 else if v = 9 then 5 else 6
theorem stg_all : ∀ v : Fin 16, M_strength (i3 v.val) = some (i3 (stg v.val)) ∧ M_isOpen (i3 v.val) = some (bI (decide (14 ≤ v.val))) := by decide +kernel
theorem stg_1 (v : Nat) : 1 ≤ stg v ∧ stg v ≤ 6 := by
  unfold stg
  repeat' split
  all_goals omega
/-- nothing that waits is dropped by s -/
def ctxM (σ : MS) (w s : Nat) : Prop := w = 0 ∨ ∃ v, ma σ 42 (w - 1) = i3 v ∧ v < 16 ∧ (14 ≤ v ∨ stg v < s)
theorem ctxM_mono {s s' : Nat} (h : ctxM σ w s) (hs : s ≤ s') : ctxM σ w s' := by
  rcases h with h | ⟨v, h1, h2, h3⟩
  · exact .inl h
  · exact .inr ⟨v, h1, h2, by omega⟩
theorem ctxM_ef {s : Nat} (h : ctxM σ w s) (he : Ef w c σ σ') : ctxM σ' w s := by
  rcases h with h | ⟨v, h1, h2, h3⟩
  · exact .inl h
  · by_cases e : w = 0
    · exact .inl e
    · exact .inr ⟨v, by rw [he.2.2.2 (w - 1) (by omega)]; exact h1, h2, h3⟩
theorem ctxM_top {s v : Nat} (h : ma σ 42 w = i3 v) (hv : v < 16) (hs : 14 ≤ v ∨ stg v < s) : ctxM σ (w + 1) s := .inr ⟨v, h, hv, hs⟩
theorem drops_no {s : Nat} {x : Int32} (hx : x = i3 s) (hs : s ≤ 6) (f34 : mf σ 34 = i3 w) (hw : w ≤ 950) (h : ctxM σ w s) : M_drops σ x = some σ := by
  unfold M_drops
  rw [o_loop_eq]
  have : M_drops_L0 x σ = some (.inr σ) := by
    unfold M_drops_L0
    rw [f34]
    rcases h with rfl | ⟨v, h1, h2, h3⟩
    · rw [if_pos (by decide)]
    · by_cases e : w = 0
      · rw [if_pos (by rw [i3_le0 (by omega)]; exact e)]
      · obtain ⟨w1, rfl⟩ : ∃ w1, w = w1 + 1 := ⟨w - 1, by omega⟩
        obtain ⟨s1, s2⟩ := stg_all ⟨v, h2⟩
        dsimp only at s1 s2
        have hst := stg_1 v
        rw [if_neg (by rw [i3_le0 (by omega)]; omega), i3_dec1, ald_at (n := w1) rfl (show w1 < mlen 42 by show w1 < 950; omega) h1, Option.bind_some, s2, Option.bind_some]
        by_cases e14 : 14 ≤ v
        · rw [if_neg (bI_n0 (decide_eq_true e14))]
        · rw [if_pos (bI_y0 (decide_eq_false e14)), Option.bind_some, s1, Option.bind_some, if_pos (by rw [hx]; exact (i3_lt (by omega) (by omega)).mpr (by omega))]
  rw [this]
  rfl
/-- the top one of what waits goes into the code -/
def popM (σ : MS) (w c o : Nat) : MS := sf (sa (sf σ 34 (i3 w)) 41 c (i3 o)) 31 (i3 (c + 1))
theorem drops_pop {l o : Nat} {x : Int32} (hx : x = i3 l) (f34 : mf σ 34 = i3 (w + 1)) (f31 : mf σ 31 = i3 c) (hw : w < 950) (hc : c < 1400) (ho : ma σ 42 w = i3 o) (ho2 : o < 14) (hl : l ≤ stg o) : M_drops σ x = M_drops (popM σ w c o) x := by
  obtain ⟨s1, s2⟩ := stg_all ⟨o, by omega⟩
  dsimp only at s1 s2
  have hst := stg_1 o
  unfold M_drops
  rw [o_loop_eq]
  have : M_drops_L0 x σ = some (.inl (popM σ w c o)) := by
    unfold M_drops_L0 M_puts
    rw [f34, if_neg (by rw [i3_le0 (by omega)]; omega), i3_dec1, ald_at (n := w) rfl (show w < mlen 42 from hw) ho, Option.bind_some, s2, Option.bind_some, if_pos (bI_y0 (decide_eq_false (by omega))), Option.bind_some, s1, Option.bind_some, if_neg (by rw [hx, i3_lt (by omega) (by omega)]; omega), pf_e, Option.bind_some, mf_sfe, ald_at (n := w) rfl (show w < mlen 42 from hw) (show ma (sf σ 34 (i3 w)) 42 w = _ from ho), Option.bind_some, mf_sfn (by decide), f31, ast_i3 (show c < mlen 41 from hc), Option.bind_some, show mf (sa (sf σ 34 (i3 w)) 41 c (i3 o)) 31 = i3 c from (show mf (sf σ 34 (i3 w)) 31 = i3 c from (mf_sfn (by decide)).trans f31), i3_succ, pf_e, Option.bind_some, Option.bind_some]
    rfl
  rw [this]
  rfl
theorem popM_f {k o : Nat} (h1 : k ≠ 31) (h2 : k ≠ 34) : mf (popM σ w c o) k = mf σ k := by
  unfold popM
  rw [mf_sfn h1]
  exact mf_sfn h2
theorem popM_a {j o : Nat} (h1 : j ≠ 41) : ma (popM σ w c o) j = ma σ j := by
  unfold popM
  exact ma_sb h1
theorem popM_41 {i o : Nat} : ma (popM σ w c o) 41 i = if i = c then i3 o else ma σ 41 i := by
  unfold popM
  exact ma_saq
theorem MU_pop {o : Nat} (h : MU T n lo hi σ b (w + 1) c dp) : MU T n lo hi (popM σ w c o) b w (c + 1) dp :=
  MU_of h (fun k hk => popM_f (by omega) (by omega)) rfl (popM_a (by decide)) mf_sfe (by unfold popM; rw [mf_sfn (by decide)]; exact (show mf (sf σ 34 (i3 w)) 34 = i3 w from mf_sfe)) ((popM_f (by decide) (by decide)).trans h.2.1.2.2.2.1) h.2.2.1
theorem Ef_pop {o : Nat} : Ef w c σ (popM σ w c o) := ⟨fun k hk => popM_f (by omega) (by omega), fun j h1 _ _ => popM_a h1, fun i hi => by rw [popM_41, if_neg (by omega)], fun i _ => by rw [popM_a (by decide)]⟩
theorem popM_wrong {x y : Int32} {o : Nat} : popM (sf (sf σ 14 x) 15 y) w c o = sf (sf (popM σ w c o) 14 x) 15 y := by
  unfold popM sf sa
  dsimp only
  congr 1
  funext q
  by_cases e31 : q = 31
  · subst e31; rfl
  · by_cases e15 : q = 15
    · subst e15; rfl
    · by_cases e14 : q = 14
      · subst e14; rfl
      · simp [e31, e15, e14]
/-! which way the loop goes -/
theorem inM_eq (h : ML σ T n b) : inM σ = if kw T n b = some 14 then M_expression_J70 (1, σ) 14 else if kw T n b = some 15 then M_expression_J70 (1, σ) 15 else if opR T n b = none then M_expression_J201 (1, σ) else M_expression_J142 (1, σ) := by
  unfold inM opR
  rw [M_knownWord_eq h, Option.bind_some, M_isSign_eq h (x := 60) (c := 60) rfl (by decide), M_isSign_eq h (x := 61) (c := 61) rfl (by decide), Option.bind_some, Option.bind_some]
  by_cases e14 : kw T n b = some 14
  · have := (kwI_iff (k := 14) (by decide) (x := 14) rfl).mpr e14
    rw [if_pos this, if_pos e14, this]
  · rw [if_neg (fun x => e14 ((kwI_iff (k := 14) (by decide) (x := 14) rfl).mp x)), if_neg e14]
    by_cases e15 : kw T n b = some 15
    · have := (kwI_iff (k := 15) (by decide) (x := 15) rfl).mpr e15
      rw [if_pos this, if_pos e15, this]
    · rw [if_neg (fun x => e15 ((kwI_iff (k := 15) (by decide) (x := 15) rfl).mp x)), if_neg e15]
      by_cases e60 : sg T n b 60 = true
      · rw [if_neg (bI_n0 e60), if_pos e60, if_neg (by intro x; cases x)]
      · rw [if_pos (bI_y0 (bF e60)), if_neg e60]
        by_cases e61 : sg T n b 61 = true
        · rw [if_neg (bI_n0 e61), if_pos e61, if_neg (by intro x; cases x)]
        · rw [if_pos (bI_y0 (bF e61)), if_neg e61, if_pos rfl]
theorem J201_eq (h : ML σ T n b) : M_expression_J201 (1, σ) = if opS T n b = none then (if opM T n b = none then (if sg T n b 41 = true then ((M_isOpened σ).bind fun q60 => if q60 = 0 then (some (0, σ)) else ((M_closes σ).bind fun q62 => some (1, q62))) else some (0, σ)) else M_expression_J274 (1, σ)) else M_expression_J219 (1, σ) := by
  unfold M_expression_J201 opS opM
  dsimp only
  rw [M_isSign_eq h (x := 43) (c := 43) rfl (by decide), M_isSign_eq h (x := 45) (c := 45) rfl (by decide), M_isSign_eq h (x := 42) (c := 42) rfl (by decide), M_isSign_eq h (x := 47) (c := 47) rfl (by decide), M_isSign_eq h (x := 41) (c := 41) rfl (by decide), Option.bind_some, Option.bind_some, Option.bind_some, Option.bind_some, Option.bind_some]
  by_cases e43 : sg T n b 43 = true
  · rw [if_neg (bI_n0 e43), if_pos e43, if_neg (by intro x; cases x)]
  · rw [if_pos (bI_y0 (bF e43)), if_neg e43]
    by_cases e45 : sg T n b 45 = true
    · rw [if_neg (bI_n0 e45), if_pos e45, if_neg (by intro x; cases x)]
    · rw [if_pos (bI_y0 (bF e45)), if_neg e45, if_pos rfl]
      by_cases e42 : sg T n b 42 = true
      · rw [if_neg (bI_n0 e42), if_pos e42, if_neg (by intro x; cases x)]
      · rw [if_pos (bI_y0 (bF e42)), if_neg e42]
        by_cases e47 : sg T n b 47 = true
        · rw [if_neg (bI_n0 e47), if_pos e47, if_neg (by intro x; cases x)]
        · rw [if_pos (bI_y0 (bF e47)), if_neg e47, if_pos rfl]
          by_cases e41 : sg T n b 41 = true
          · rw [if_neg (bI_n0 e41), if_pos e41]
          · rw [if_pos (bI_y0 (bF e41)), if_neg e41]
theorem J142_eq (h : MU T n lo hi σ b w c dp) (ht : ¬ ma σ 43 dp = 0) : M_expression_J142 (1, σ) = M_expression_J201 (1, σ) := by
  have hd := h.2.2.1
  unfold M_expression_J142
  dsimp only
  rw [ald_at h.2.1.2.2.2.1 (show dp < mlen 43 by show dp < 9; omega) rfl, Option.bind_some, if_neg ht]
/-- the top one that waits may go at once, if nothing that binds more comes -/
def popOk (T : Nat → Nat) (n : Nat) (σ : MS) (b dp s : Nat) : Prop := (opM T n b = none ∨ 6 ≤ s) ∧ (opS T n b = none ∨ 5 ≤ s) ∧ (opR T n b = none ∨ ¬ ma σ 43 dp = 0 ∨ 4 ≤ s) ∧ (opA T n b = none ∨ 2 ≤ s)
theorem isOpened_pop {o : Nat} (f34 : mf σ 34 = i3 (w + 1)) (hw : w < 950) (ho : ma σ 42 w = i3 o) (ho2 : o < 14) : M_isOpened σ = M_isOpened (popM σ w c o) := by
  obtain ⟨s1, s2⟩ := stg_all ⟨o, by omega⟩
  dsimp only at s1 s2
  have e34 : mf (popM σ w c o) 34 = i3 w := by unfold popM; rw [mf_sfn (by decide)]; exact (show mf (sf σ 34 (i3 w)) 34 = i3 w from mf_sfe)
  unfold M_isOpened
  rw [f34, e34, i3_dec1]
  have hs : M_isOpened_L7 (popM σ w c o) = M_isOpened_L7 σ := by
    funext t
    unfold M_isOpened_L7 ald
    rw [popM_a (by decide)]
  rw [hs, o_loop_eq]
  have : M_isOpened_L7 σ (i3 w) = some (.inl (i3 w - 1)) := by
    unfold M_isOpened_L7
    rw [if_neg (i3_nn (by omega)), ald_at (n := w) rfl (show w < mlen 42 from hw) ho, Option.bind_some, s2, Option.bind_some, if_pos (bI_y0 (decide_eq_false (by omega))), ← Int32.sub_eq_add_neg]
  rw [this]
  rfl
theorem restM_pop {o : Nat} (h : MU T n lo hi σ b (w + 1) c dp) (hw : w < 950) (hc : c < 1400) (ho : ma σ 42 w = i3 o) (ho2 : o < 14) (hp : popOk T n σ b dp (stg o)) : restM σ = restM (popM σ w c o) := by
  have h2 : MU T n lo hi (popM σ w c o) b w (c + 1) dp := MU_pop h
  have f34 := h.2.1.2.2.1
  have f31 := h.2.1.2.1
  have f14 := h.2.1.1
  have f14' := h2.2.1.1
  have hd := h.2.2.1
  have hst := stg_1 o
  have hdr : ∀ l, l ≤ stg o → ∀ x, x = i3 l → M_drops σ x = M_drops (popM σ w c o) x := fun l hl x hx => drops_pop hx f34 f31 hw hc ho ho2 hl
  have e35 : mf (popM σ w c o) 35 = mf σ 35 := popM_f (by decide) (by decide)
  have e43 : ma (popM σ w c o) 43 = ma σ 43 := popM_a (by decide)
  obtain ⟨p1, p2, p3, p4⟩ := hp
  have e70 : ∀ k : Nat, (k = 14 ∧ 2 ≤ stg o) ∨ k = 15 → M_expression_J70 (1, σ) (i3 k) = M_expression_J70 (1, popM σ w c o) (i3 k) := by
    intro k hk
    unfold M_expression_J70
    dsimp only
    rcases hk with ⟨rfl, hk⟩ | rfl
    · rw [if_pos (by decide), Option.bind_some, Option.bind_some, hdr 2 hk 2 rfl]
    · rw [if_neg (by decide), Option.bind_some, Option.bind_some, hdr 1 (by omega) 1 rfl]
  have e219 : 5 ≤ stg o → M_expression_J219 (1, σ) = M_expression_J219 (1, popM σ w c o) := by
    intro hk
    unfold M_expression_J219
    dsimp only
    rw [hdr 5 hk 5 rfl]
  have e274 : 6 ≤ stg o → M_expression_J274 (1, σ) = M_expression_J274 (1, popM σ w c o) := by
    intro hk
    unfold M_expression_J274
    dsimp only
    rw [hdr 6 hk 6 rfl]
  have ecl : M_closes σ = M_closes (popM σ w c o) := by
    unfold M_closes
    rw [hdr 0 (Nat.zero_le _) 0 rfl]
  -- either the same, or both come to the end
  have e201 : M_expression_J201 (1, σ) = M_expression_J201 (1, popM σ w c o) ∨ (M_expression_J201 (1, σ) = some (0, σ) ∧ M_expression_J201 (1, popM σ w c o) = some (0, popM σ w c o)) := by
    rw [J201_eq h.1, J201_eq h2.1]
    by_cases eS : opS T n b = none
    · rw [if_pos eS, if_pos eS]
      by_cases eM : opM T n b = none
      · rw [if_pos eM, if_pos eM]
        by_cases e41 : sg T n b 41 = true
        · rw [if_pos e41, if_pos e41, ← isOpened_pop (c := c) f34 hw ho ho2, ← ecl]
          cases eo : M_isOpened σ with
          | none => left; rfl
          | some q =>
            rw [Option.bind_some, Option.bind_some]
            by_cases e0 : q = 0
            · right
              rw [if_pos e0, if_pos e0]
              exact ⟨rfl, rfl⟩
            · left
              rw [if_neg e0, if_neg e0]
        · rw [if_neg e41, if_neg e41]
          right
          exact ⟨rfl, rfl⟩
      · rw [if_neg eM, if_neg eM]
        left
        exact e274 (p1.resolve_left eM)
    · rw [if_neg eS, if_neg eS]
      left
      exact e219 (p2.resolve_left eS)
  have e142 : ¬ opR T n b = none → (M_expression_J142 (1, σ) = M_expression_J142 (1, popM σ w c o) ∨ (M_expression_J142 (1, σ) = some (0, σ) ∧ M_expression_J142 (1, popM σ w c o) = some (0, popM σ w c o))) := by
    intro eR
    by_cases ht : ma σ 43 dp = 0
    · left
      have h4 : 4 ≤ stg o := (p3.resolve_left eR).resolve_left (fun x => x ht)
      unfold M_expression_J142
      dsimp only
      rw [ald_at h.2.1.2.2.2.1 (show dp < mlen 43 by show dp < 9; omega) ht, ald_at h2.2.1.2.2.2.1 (show dp < mlen 43 by show dp < 9; omega) (show ma (popM σ w c o) 43 dp = 0 by rw [e43]; exact ht), Option.bind_some, Option.bind_some, if_pos rfl, if_pos rfl, hdr 4 h4 4 rfl]
    · rw [J142_eq h ht, J142_eq h2 (by rw [e43]; exact ht)]
      exact e201
  have eIn : inM σ = inM (popM σ w c o) ∨ (inM σ = some (0, σ) ∧ inM (popM σ w c o) = some (0, popM σ w c o)) := by
    rw [inM_eq h.1, inM_eq h2.1]
    by_cases e14 : kw T n b = some 14
    · rw [if_pos e14, if_pos e14]
      left
      have : ¬ opA T n b = none := by unfold opA; rw [if_pos e14]; intro x; cases x
      exact e70 14 (.inl ⟨rfl, p4.resolve_left this⟩)
    · rw [if_neg e14, if_neg e14]
      by_cases e15 : kw T n b = some 15
      · rw [if_pos e15, if_pos e15]
        left
        exact e70 15 (.inr rfl)
      · rw [if_neg e15, if_neg e15]
        by_cases eR : opR T n b = none
        · rw [if_pos eR, if_pos eR]; exact e201
        · rw [if_neg eR, if_neg eR]; exact e142 eR
  rcases eIn with e | ⟨e1, e2⟩
  · rw [restM_go f14, restM_go f14', e]
  · rw [restM_0 f14 e1, restM_0 f14' e2]
    unfold tailM
    rw [isGood_y f14, isGood_y f14', Option.bind_some, Option.bind_some, if_neg (show ¬ (1 : Int32) = 0 by decide), if_neg (show ¬ (1 : Int32) = 0 by decide), e35]
    by_cases ed : mf σ 35 ≤ 1
    · rw [if_pos ed, if_pos ed, Option.bind_some, Option.bind_some, hdr 0 (Nat.zero_le _) 0 rfl]
    · rw [if_neg ed, if_neg ed]
      have e20 : mf σ 20 = i3 b := h.1.2.2.2.2.1
      have w1 : M_wrong σ 1 = some (sf (sf σ 14 1) 15 (i3 b)) := by
        unfold M_wrong
        rw [if_pos f14, pf_e, Option.bind_some, mf_sfn (by decide), e20, pf_e, Option.bind_some]
      have w2 : M_wrong (popM σ w c o) 1 = some (sf (sf (popM σ w c o) 14 1) 15 (i3 b)) := by
        unfold M_wrong
        rw [if_pos f14', pf_e, Option.bind_some, mf_sfn (by decide), popM_f (by decide) (by decide), e20, pf_e, Option.bind_some]
      rw [w1, w2, Option.bind_some, Option.bind_some, Option.bind_some, Option.bind_some, ← popM_wrong,
        drops_pop (x := 0) (l := 0) rfl (by rw [mf_sfn (by decide), mf_sfn (by decide)]; exact f34) (by rw [mf_sfn (by decide), mf_sfn (by decide)]; exact f31) hw hc (show ma (sf (sf σ 14 1) 15 (i3 b)) 42 w = i3 o from ho) ho2 (Nat.zero_le _)]
end MSTEP
