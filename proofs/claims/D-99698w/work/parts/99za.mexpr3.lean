/-! ===== office: the reference reads an expression: what belongs together ===== -/
section MEXPR3
variable {T : Nat → Nat} {n lo hi dp : Nat}
def Tk (m : Int32) (dp : Nat) (σ σ' : MS) : Prop := ∀ i, i < dp ∨ (m = 0 ∧ i = dp) → ma σ' 43 i = ma σ 43 i
theorem Tk_trans {m : Int32} {σ σ' σ'' : MS} (h : Tk m dp σ σ') (h2 : Tk m dp σ' σ'') : Tk m dp σ σ'' := fun i hi => (h2 i hi).trans (h i hi)
theorem Tk_eq {m : Int32} {σ σ' : MS} (h : ma σ' 43 = ma σ 43) : Tk m dp σ σ' := fun i _ => by rw [h]
theorem Tk_ne {m : Int32} {σ σ' : MS} (hm : ¬ m = 0) (h : ∀ i, i ≠ dp → ma σ' 43 i = ma σ 43 i) : Tk m dp σ σ' := fun i hi => h i (by
  rcases hi with hi | hi
  · omega
  · exact absurd hi.1 hm)
/-- what the reference does of a piece of an expression that begins with an operand: m tells whether 'not' may stand; what waits binds less than s -/
def MNT (T : Nat → Nat) (n lo hi dp : Nat) (s : Nat) (m : Int32) (X : Nat → ER) : Prop := ∀ (σ : MS) (b w c : Nat), MP T n lo hi σ b w c dp → ctxM σ w s → (m = 1 → ma σ 43 dp = 0) → (match X b with
  | .inl (b', E) => ∃ σ' c', MP T n lo hi σ' b' w c' dp ∧ Ef w c σ σ' ∧ Tk m dp σ σ' ∧ Pus (ma σ' 41) c c' E ∧ (m = 1 → opR T n b' = none ∨ ¬ ma σ' 43 dp = 0) ∧ (M_operand σ m).bind restM = restM σ'
  | .inr (k, p) => ∃ σ', Er σ σ' k p ∧ (M_operand σ m).bind restM = restM σ')
/-- of a whole expression, one deeper -/
def MXT (T : Nat → Nat) (n lo hi dp : Nat) (X : Nat → ER) : Prop := ∀ (σ : MS) (b w c : Nat), MP T n lo hi σ b w c dp → ctxM σ w 0 → (match X b with
  | .inl (b', E) => ∃ σ' c', MP T n lo hi σ' b' w c' (dp + 1) ∧ Ef w c σ σ' ∧ (∀ i, i < dp + 1 → ma σ' 43 i = ma σ 43 i) ∧ Pus (ma σ' 41) c c' E ∧ (opR T n b' = none ∨ ¬ ma σ' 43 (dp + 1) = 0) ∧ (opO T n b' = none ∧ opA T n b' = none ∧ opS T n b' = none ∧ opM T n b' = none) ∧ ((M_deeper σ).bind fun q => M_operand q 1).bind restM = restM σ'
  | .inr (k, p) => ∃ σ', Er σ σ' k p ∧ ((M_deeper σ).bind fun q => M_operand q 1).bind restM = restM σ')
def StT (T : Nat → Nat) (n lo hi dp : Nat) (s : Nat) (m : Int32) (op : Nat → Option Nat) : Prop := ∀ (σ : MS) (b w c o : Nat), MP T n lo hi σ b w c dp → op b = some o → ctxM σ w s → ∃ σ2, MP T n lo hi σ2 (nxb T n b) (w + 1) c dp ∧ Ef w c σ σ2 ∧ ma σ2 42 w = i3 o ∧ Tk m dp σ σ2 ∧ (m = 1 → ma σ2 43 dp = 0) ∧ restM σ = (M_operand σ2 m).bind restM
/-- one waits, its right side has been read: both are one now -/
theorem m_join {σ σ2 σ3 : MS} {b1 w c c1 c3 o : Nat} {E E1 : EX} (hE : Pus (ma σ 41) c c1 E) (f1 : Ef w c1 σ σ2) (ho : ma σ2 42 w = i3 o) (h3 : MP T n lo hi σ3 b1 (w + 1) c3 dp) (f2 : Ef (w + 1) c1 σ2 σ3) (hE1 : Pus (ma σ3 41) c1 c3 E1) (o1 : 4 ≤ o) (o2 : o ≤ 11) (hp : popOk T n σ3 b1 dp (stg o)) :
    ∃ σ4, MP T n lo hi σ4 b1 w (c3 + 1) dp ∧ Ef w c1 σ σ4 ∧ ma σ4 43 = ma σ3 43 ∧ Pus (ma σ4 41) c (c3 + 1) (fun v => wk o (E v) (E1 v)) ∧ restM σ3 = restM σ4 := by
  have hb := MP_b h3
  have hw := h3.2.1
  have hc := h3.2.2
  have l1 := hE.1
  have l2 := hE1.1
  have hto : ma σ3 42 w = i3 o := by rw [f2.2.2.2 w (Nat.lt_succ_self _)]; exact ho
  refine ⟨popM σ3 w c3 o, ⟨MU_pop h3.1, by omega, by omega⟩, Ef_trans f1 (Ef_trans (Ef_mono f2 (Nat.le_succ _) (Nat.le_refl _)) (Ef_mono Ef_pop (Nat.le_refl _) (by omega))), popM_a (by decide), ?_, restM_pop h3.1 (by omega) (by omega) hto (by omega) hp⟩
  refine Pus_bin (p1 := c1) (Pus_congr hE (fun q q1 q2 => ?_)) (Pus_congr hE1 (fun q q1 q2 => ?_)) ?_ o1 o2
  · rw [popM_41, if_neg (by omega), f2.2.2.1 q q2, f1.2.2.1 q q2]
  · rw [popM_41, if_neg (by omega)]
  · rw [popM_41, if_pos rfl]
theorem mchL {s0 s1 : Nat} {m : Int32} {X : Nat → ER} {op : Nat → Option Nat} (hok : SpOk n X) (hop : OpIn n op) (ho : ∀ b o, op b = some o → 4 ≤ o ∧ o ≤ 11 ∧ stg o = s0) (hs : s0 < s1) (hX : MNT T n lo hi dp s1 m X) (hst : StT T n lo hi dp s0 m op)
    (hpp : ∀ b b1 E σ, X b = .inl (b1, E) → (m = 1 → opR T n b1 = none ∨ ¬ ma σ 43 dp = 0) → popOk T n σ b1 dp s0) :
    ∀ f b E (σ : MS) (w c c1 : Nat), n < b + f → MP T n lo hi σ b w c1 dp → ctxM σ w s0 → Pus (ma σ 41) c c1 E → (m = 1 → opR T n b = none ∨ ¬ ma σ 43 dp = 0) → (match spL T n op X f b E with
      | .inl (b', E') => ∃ σ' c', MP T n lo hi σ' b' w c' dp ∧ Ef w c σ σ' ∧ Tk m dp σ σ' ∧ Pus (ma σ' 41) c c' E' ∧ (m = 1 → opR T n b' = none ∨ ¬ ma σ' 43 dp = 0) ∧ restM σ = restM σ'
      | .inr (k, p) => ∃ σ', Er σ σ' k p ∧ restM σ = restM σ') := by
  intro f
  induction f with
  | zero =>
    intro b E σ w c c1 hn hP
    have := MP_b hP
    omega
  | succ f ih =>
    intro b E σ w c c1 hn hP hc hE ht
    have hl := hE.1
    unfold spL
    cases eo : op b with
    | none => exact ⟨σ, c1, hP, Ef_refl _ _ _, fun _ _ => rfl, hE, ht, rfl⟩
    | some o =>
      dsimp only
      obtain ⟨o1, o2, o3⟩ := ho b o eo
      have hlt := hop b o eo
      have hnx := nxt_lt (T := T) hlt
      obtain ⟨σ2, a1, a2, a3, a4, a5, a6⟩ := hst σ b w c1 o hP eo hc
      have hx := hX σ2 (nxb T n b) (w + 1) c1 a1 (ctxM_top a3 (by omega) (.inr (by omega))) a5
      have hk := hok (nxb T n b) (nxt_le (MP_b hP).1)
      cases e : X (nxb T n b) with
      | inr z =>
        obtain ⟨k, p⟩ := z
        rw [e] at hx
        obtain ⟨σ', x1, x2⟩ := hx
        exact ⟨σ', Er_pre (Ef_e a2) x1, a6.trans x2⟩
      | inl z =>
        obtain ⟨b1, E1⟩ := z
        rw [e] at hx hk
        obtain ⟨σ3, c3, x1, x2, x3, x4, x5, x6⟩ := hx
        have hk2 : nxb T n b + 1 ≤ b1 ∧ b1 ≤ n := hk
        obtain ⟨σ4, y1, y2, y3, y4, y5⟩ := m_join hE a2 a3 x1 x2 x4 o1 o2 (by rw [o3]; exact hpp _ _ _ σ3 e x5)
        dsimp only
        have hi := ih b1 (fun v => wk o (E v) (E1 v)) σ4 w c (c3 + 1) (by omega) y1 (ctxM_ef hc y2) y4 (fun hm => by rw [y3]; exact x5 hm)
        cases e5 : spL T n op X f b1 (fun v => wk o (E v) (E1 v)) with
        | inr z =>
          obtain ⟨k, p⟩ := z
          rw [e5] at hi
          obtain ⟨σ', z1, z2⟩ := hi
          exact ⟨σ', Er_pre (Ef_e y2) z1, a6.trans (x6.trans (y5.trans z2))⟩
        | inl z =>
          obtain ⟨b2, E2⟩ := z
          rw [e5] at hi
          obtain ⟨σ', c', z1, z2, z3, z4, z5, z6⟩ := hi
          exact ⟨σ', c', z1, Ef_trans (Ef_mono y2 (Nat.le_refl _) (by omega)) z2, Tk_trans (Tk_trans a4 (Tk_trans x3 (Tk_eq y3))) z3, z4, z5, a6.trans (x6.trans (y5.trans z6))⟩
theorem mch {s0 s1 : Nat} {m : Int32} {X : Nat → ER} {op : Nat → Option Nat} (hok : SpOk n X) (hop : OpIn n op) (ho : ∀ b o, op b = some o → 4 ≤ o ∧ o ≤ 11 ∧ stg o = s0) (hs : s0 < s1) (hX : MNT T n lo hi dp s1 m X) (hst : StT T n lo hi dp s0 m op)
    (hpp : ∀ b b1 E σ, X b = .inl (b1, E) → (m = 1 → opR T n b1 = none ∨ ¬ ma σ 43 dp = 0) → popOk T n σ b1 dp s0) : MNT T n lo hi dp s0 m (spC T n op X) := by
  intro σ b w c hP hc ht
  have hx := hX σ b w c hP (ctxM_mono hc (by omega)) ht
  unfold spC
  cases e : X b with
  | inr z => rw [e] at hx; exact hx
  | inl z =>
    obtain ⟨b1, E1⟩ := z
    rw [e] at hx
    obtain ⟨σ3, c3, x1, x2, x3, x4, x5, x6⟩ := hx
    dsimp only
    have hi := mchL hok hop ho hs hX hst hpp 701 b1 E1 σ3 w c c3 (by have := MP_b x1; omega) x1 (ctxM_ef hc x2) x4 x5
    cases e5 : spL T n op X 701 b1 E1 with
    | inr z =>
      obtain ⟨k, p⟩ := z
      rw [e5] at hi
      obtain ⟨σ', z1, z2⟩ := hi
      exact ⟨σ', Er_pre (Ef_e x2) z1, x6.trans z2⟩
    | inl z =>
      obtain ⟨b2, E2⟩ := z
      rw [e5] at hi
      obtain ⟨σ', c', z1, z2, z3, z4, z5, z6⟩ := hi
      exact ⟨σ', c', z1, Ef_trans x2 z2, Tk_trans x3 z3, z4, z5, x6.trans z6⟩
theorem M_sort {σ : MS} {b k : Nat} {x : Int32} (h : ML σ T n b) (hx : x = i3 k) (hk : k ≤ 4) : mf σ 19 = x ↔ tkK T n b = k := by
  rw [h.2.2.2.1]
  exact tkK_i hx hk
/-- a number, a value -/
theorem m_two {σ : MS} {b w c : Nat} {x y : Int32} (hP : MP T n lo hi σ b w c dp) (hb : b < n) : ∃ s1 s2 σ', M_puts σ x = some s1 ∧ M_puts s1 y = some s2 ∧ mf s1 22 = mf σ 22 ∧ M_goes s2 = some σ' ∧ mf s2 14 = 0 ∧ MP T n lo hi σ' (nxb T n b) w (c + 2) dp ∧ Ef w c σ σ' ∧ ma σ' 43 = ma σ 43 ∧ ma σ' 41 c = x ∧ ma σ' 41 (c + 1) = y := by
  have hb2 := MP_b hP
  obtain ⟨s1, p1, p2, p3, p4, p5, p6, p7⟩ := MU_put hP.1 (by have := hP.2.2; omega) x
  obtain ⟨s2, q1, q2, q3, q4, q5, q6, q7⟩ := MU_put p2 (by have := hP.2.2; omega) y
  obtain ⟨σ', g1, g2, g3⟩ := MP_goes q2 hb (by have := hP.2.1; omega) (by have := hP.2.2; omega)
  exact ⟨s1, s2, σ', p1, q1, p7 22 (by decide), g1, q2.2.1.1, g2, Ef_trans (p3 w) (Ef_trans (Ef_mono (q3 w) (Nat.le_refl _) (Nat.le_succ _)) (Ef_lx g3)), by rw [g3.2, q5, p5], by rw [g3.2, (q3 w).2.2.1 c (Nat.lt_succ_self _)]; exact p4, by rw [g3.2]; exact q4⟩
/-- the same, but something was wrong before -/
theorem m_twoE {σ : MS} {b w c k p : Nat} {x y : Int32} {σ1 : MS} (hP : MP T n lo hi σ b w c dp) (hlt : b < n) (h31 : mf σ1 31 = i3 c) (h34 : mf σ1 34 = i3 w) (he : Er σ σ1 k p) : ∃ s1 s2, M_puts σ1 x = some s1 ∧ M_puts s1 y = some s2 ∧ Er σ s2 k p := by
  have hb2 := MP_b hP
  have hc := hP.2.2
  obtain ⟨⟨e1, e2, e3, e4⟩, -, e6⟩ := he
  have p1 : M_puts σ1 x = some (sf (sa σ1 41 c x) 31 (i3 (c + 1))) := by
    unfold M_puts
    rw [h31, ast_i3 (show c < mlen 41 by show c < 1400; omega), Option.bind_some, show mf (sa σ1 41 c x) 31 = i3 c from h31, i3_succ, pf_e, Option.bind_some]
  have p2 : M_puts (sf (sa σ1 41 c x) 31 (i3 (c + 1))) y = some (sf (sa (sf (sa σ1 41 c x) 31 (i3 (c + 1))) 41 (c + 1) y) 31 (i3 (c + 2))) := by
    unfold M_puts
    rw [mf_sfe, ast_i3 (show c + 1 < mlen 41 by show c + 1 < 1400; omega), Option.bind_some, show mf (sa (sf (sa σ1 41 c x) 31 (i3 (c + 1))) 41 (c + 1) y) 31 = i3 (c + 1) from (show mf (sf (sa σ1 41 c x) 31 (i3 (c + 1))) 31 = i3 (c + 1) from mf_sfe), i3_succ, pf_e, Option.bind_some]
  refine ⟨_, _, p1, p2, ⟨?_, e2, e3, ?_⟩, ⟨w, c + 2, ?_, mf_sfe, by omega, by have := hP.2.1; omega⟩, Ee_trans e6 ⟨fun q hq => ?_, fun j h41 _ _ => ?_⟩⟩
  · rw [mf_sfn (by decide)]
    show mf (sf (sa σ1 41 c x) 31 (i3 (c + 1))) 14 = _
    rw [mf_sfn (by decide)]
    exact e1
  · rw [mf_sfn (by decide)]
    show mf (sf (sa σ1 41 c x) 31 (i3 (c + 1))) 15 = _
    rw [mf_sfn (by decide)]
    exact e4
  · rw [mf_sfn (by decide)]
    show mf (sf (sa σ1 41 c x) 31 (i3 (c + 1))) 34 = _
    rw [mf_sfn (by decide)]
    exact h34
  · rw [mf_sfn (by omega)]
    show mf (sf (sa σ1 41 c x) 31 (i3 (c + 1))) q = _
    rw [mf_sfn (by omega)]
    rfl
  · show ma (sa (sf (sa σ1 41 c x) 31 (i3 (c + 1))) 41 (c + 1) y) j = _
    rw [ma_sb h41]
    show ma (sa σ1 41 c x) j = _
    rw [ma_sb h41]
theorem m_p22 {σ1 s1 : MS} {x : Int32} (h : M_puts σ1 x = some s1) : mf s1 22 = mf σ1 22 := by
  unfold M_puts at h
  obtain ⟨s, h1, h2⟩ := o_bind h
  rw [pf_e, Option.bind_some] at h2
  have h3 := Option.some.inj h2
  rw [← h3, mf_sfn (by decide)]
  unfold ast at h1
  split at h1
  · cases h1
  · have := Option.some.inj h1
    rw [← this]
    rfl
theorem mpart {X : Nat → ER} (hX : MXT T n lo hi dp X) (hd : 1 ≤ dp) : MNT T n lo hi dp 7 0 (spPart T n lo hi X) := by
  intro σ b w c hP hc _
  have hb := MP_b hP
  have hL := hP.1.1
  have f14 := hP.1.2.1.1
  have hw := hP.2.1
  have hcc := hP.2.2
  rw [op0_eq f14, M_isSign_eq hL (x := 40) (c := 40) rfl (by decide), Option.bind_some]
  unfold spPart
  by_cases e2 : tkK T n b = 2
  · -- a number
    have hlt : b < n := tk_lt (by rw [e2]; decide)
    rw [if_pos e2, if_pos (bI_y0 (sg_N (by omega)))]
    unfold M_part
    rw [isGood_y f14, Option.bind_some, if_neg (show ¬ (1 : Int32) = 0 by decide), if_pos ((M_sort hL (x := 2) (k := 2) rfl (by decide)).mpr e2)]
    have h21 : mf σ 21 = i3 (tkE T n b - b) := hL.2.2.2.2.2.1
    have h22 : mf σ 22 = i3 (vlu T n b) := hL.2.2.2.2.2.2.1
    have hE := tkE_le (T := T) hb.1
    by_cases e4 : tkE T n b - b ≤ 4
    · rw [if_pos e4, h21, if_pos ((i3_lel (c := 4) (n := 4) rfl (by omega) (by decide)).mpr e4), Option.bind_some]
      obtain ⟨s1, s2, σ', a1, a2, a3, a4, a5, a6, a7, a8, a9, a10⟩ := m_two (x := 1) (y := i3 (vlu T n b)) hP hlt
      rw [a1, Option.bind_some, a3, h22, a2, Option.bind_some, Option.bind_some, isGood_y a5, Option.bind_some, if_neg (show ¬ (1 : Int32) = 0 by decide), a4, Option.bind_some, Option.bind_some]
      exact ⟨σ', c + 2, a6, a7, Tk_eq a8, Pus_num a9 a10, fun x => absurd x (by decide), rfl⟩
    · obtain ⟨w1, w2⟩ := MU_wrong hP.1 (by omega) (by omega) (x := 2) (k := 2) rfl (by decide) (by decide)
      have h22b : mf (sf (sf σ 14 2) 15 (i3 b)) 22 = i3 (vlu T n b) := by rw [mf_sfn (by decide), mf_sfn (by decide)]; exact h22
      obtain ⟨s1, s2, a1, a2, a3⟩ := m_twoE (x := 1) (y := i3 (vlu T n b)) hP hlt (by rw [mf_sfn (by decide), mf_sfn (by decide)]; exact hP.1.2.1.2.1) (by rw [mf_sfn (by decide), mf_sfn (by decide)]; exact hP.1.2.1.2.2.1) w2
      rw [if_neg e4, h21, if_neg (fun x => e4 ((i3_lel (c := 4) (n := 4) rfl (by omega) (by decide)).mp x)), w1, Option.bind_some, Option.bind_some, a1, Option.bind_some, m_p22 a1, h22b, a2, Option.bind_some, Option.bind_some, isGood_n (Er_bad a3), Option.bind_some, if_pos (show (0 : Int32) = 0 from rfl), Option.bind_some]
      exact ⟨s2, a3, rfl⟩
  · rw [if_neg e2]
    by_cases e40 : sg T n b 40 = true
    · -- a parenthesis
      have hlt : b < n := op_lt_sg e40
      obtain ⟨σ1, σ2, g1, g2, g3, g4, g5, g6⟩ := MP_pg hP hlt (i3 14)
      rw [if_pos e40, if_neg (bI_n0 e40), show M_waitsFor σ 14 = some σ1 from g1, Option.bind_some, g2, Option.bind_some]
      have hx := hX σ2 (nxb T n b) (w + 1) c g3 (ctxM_top g5 (by decide) (.inl (by decide)))
      cases e : X (nxb T n b) with
      | inr z =>
        obtain ⟨k, p⟩ := z
        rw [e] at hx
        obtain ⟨σ', x1, x2⟩ := hx
        exact ⟨σ', Er_pre (Ef_e g4) x1, x2⟩
      | inl z =>
        obtain ⟨b1, E1⟩ := z
        rw [e] at hx
        obtain ⟨σ3, c3, x1, x2, x3, x4, x5, x6, x7⟩ := hx
        have hto : ma σ3 42 w = i3 14 := by rw [x2.2.2.2 w (Nat.lt_succ_self _)]; exact g5
        dsimp only
        by_cases e41 : sg T n b1 41 = true
        · obtain ⟨σ4, y1, y2, y3, y4⟩ := rest_close x1 x6 x5 hto e41
          rw [if_pos e41]
          have hlc := x4.1
          refine ⟨σ4, c3, y1, Ef_trans g4 (Ef_trans (Ef_mono x2 (Nat.le_succ _) (Nat.le_refl _)) (Ef_mono y2 (Nat.le_refl _) (by omega))), fun i hi => ?_, Pus_congr x4 (fun q _ q2 => y2.2.2.1 q q2), fun x => absurd x (by decide), x7.trans y4⟩
          rw [y3, x3 i (by omega), g6]
        · obtain ⟨σ4, y1, y2⟩ := rest_open x1 hd x6 x5 e41
          rw [if_neg e41]
          exact ⟨σ4, Er_pre (Ef_e g4) (Er_pre (Ef_e x2) y1), x7.trans y2⟩
    · rw [if_neg e40, if_pos (bI_y0 (bF e40))]
      unfold M_part
      rw [isGood_y f14, Option.bind_some, if_neg (show ¬ (1 : Int32) = 0 by decide), if_neg (fun x => e2 ((M_sort hL (x := 2) (k := 2) rfl (by decide)).mp x))]
      by_cases e1 : tkK T n b = 1
      · -- a word
        have hlt : b < n := tk_lt (by rw [e1]; decide)
        have f32 : mf σ 32 = i3 lo := hP.1.2.1.2.2.2.2.1
        have f33 : mf σ 33 = i3 hi := hP.1.2.1.2.2.2.2.2
        have hhi := hP.1.2.2.2
        have hbad : ∃ σ', Er σ σ' 3 b ∧ (((M_part_J74 σ).bind fun r11 => (M_puts r11 2).bind fun q12 => (M_puts q12 (kwI T n b)).bind fun q13 => some q13).bind fun r3 => (M_isGood r3).bind fun q4 => if q4 = 0 then (some r3) else ((M_goes r3).bind fun q6 => some q6)).bind restM = restM σ' := by
          obtain ⟨w1, w2⟩ := MU_wrong hP.1 (by omega) (by omega) (x := 3) (k := 3) rfl (by decide) (by decide)
          obtain ⟨s1, s2, a1, a2, a3⟩ := m_twoE (x := 2) (y := kwI T n b) hP hlt (by rw [mf_sfn (by decide), mf_sfn (by decide)]; exact hP.1.2.1.2.1) (by rw [mf_sfn (by decide), mf_sfn (by decide)]; exact hP.1.2.1.2.2.1) w2
          refine ⟨s2, a3, ?_⟩
          unfold M_part_J74
          rw [w1, Option.bind_some, Option.bind_some, a1, Option.bind_some, a2, Option.bind_some, Option.bind_some, isGood_n (Er_bad a3), Option.bind_some, if_pos (show (0 : Int32) = 0 from rfl), Option.bind_some]
        rw [if_pos e1, if_pos ((M_sort hL (x := 1) (k := 1) rfl (by decide)).mpr e1), M_knownWord_eq hL, Option.bind_some, f32, f33]
        cases ek : kw T n b with
        | none =>
          have ekI : kwI T n b = -1 := by unfold kwI; rw [ek]
          have hneg : kwI T n b < i3 lo := by
            rw [ekI]
            exact in_neg (by decide) (by have := hP.1.2.2; omega)
          rw [if_pos hneg]
          exact hbad
        | some k =>
          have ekI : kwI T n b = i3 k := by unfold kwI; rw [ek]
          have hk17 := (kw_some.mp ek).1
          dsimp only
          by_cases el : k < lo
          · rw [if_neg (by omega), if_pos (by rw [ekI, i3_lt (by omega) (by omega)]; exact el)]
            exact hbad
          · by_cases eh : k ≤ hi
            · rw [if_pos ⟨by omega, eh⟩, if_neg (by rw [ekI, i3_lt (by omega) (by omega)]; exact el), if_pos (by rw [ekI, i3_le (by omega) (by omega)]; exact eh), Option.bind_some]
              obtain ⟨s1, s2, σ', a1, a2, a3, a4, a5, a6, a7, a8, a9, a10⟩ := m_two (x := 2) (y := kwI T n b) hP hlt
              rw [a1, Option.bind_some, a2, Option.bind_some, Option.bind_some, isGood_y a5, Option.bind_some, if_neg (show ¬ (1 : Int32) = 0 by decide), a4, Option.bind_some, Option.bind_some]
              exact ⟨σ', c + 2, a6, a7, Tk_eq a8, Pus_val a9 (by rw [a10, ekI]) (by have := hhi; omega), fun x => absurd x (by decide), rfl⟩
            · rw [if_neg (by omega), if_neg (by rw [ekI, i3_lt (by omega) (by omega)]; exact el), if_neg (by rw [ekI, i3_le (by omega) (by omega)]; exact eh)]
              exact hbad
      · obtain ⟨w1, w2⟩ := MU_wrong hP.1 (by omega) (by omega) (x := 1) (k := 1) rfl (by decide) (by decide)
        rw [if_neg e1, if_neg (fun x => e1 ((M_sort hL (x := 1) (k := 1) rfl (by decide)).mp x)), w1, Option.bind_some, Option.bind_some, isGood_n (Er_bad w2), Option.bind_some, if_pos (show (0 : Int32) = 0 from rfl), Option.bind_some]
        exact ⟨_, w2, rfl⟩
end MEXPR3
