/-! ===== office: the component reads an expression: chains ===== -/
section CEXPR2
variable {K q : Nat → Nat} {rd nm n n0 : Nat} {T : Nat → Nat} {d : Int32} {h0 h h' : CH} {r r' : CR} {cv : (Nat → Int32) → (Nat → Int32)} {L : List Nat} {b dd lo hi ch ls : Nat} {op : Nat → Option Nat} {X : Nat → ER}
def StC (K q : Nat → Nat) (rd nm n : Nat) (T : Nat → Nat) (d : Int32) (h0 : CH) (n0 : Nat) (ch : Nat) (op : Nat → Option Nat) (sub : CH → CR → Option ((Nat × CS) ⊕ XT)) (step : CS → Option (CS ⊕ (CS ⊕ XT))) : Prop := ∀ (h : CH) (r : CR) (b : Nat), CT q rd nm n T d h0 n0 h r b → (op b = none → step (h, r) = some (.inr (.inl (h, r)))) ∧ ∀ o, op b = some o → ∃ h1, CT q rd nm n T d h0 n0 h1 r (nxb T n b) ∧ (∀ p, p ≠ rd → h1 p = h p) ∧ step (h, r) = xg (fun e_ => .inr (.inr e_)) (vc h1 rd 4 (xchk r (sub h1 r))) fun q10 => (vc q10.2.1 ch 6 (achv q10.2.2 (C7_add K q10.2.1 q10.2.2 ch (i3 (chrN o)) q10.1))).bind fun q11 => some (.inl q11)
theorem cchL {sub : CH → CR → Option ((Nat × CS) ⊕ XT)} {step : CS → Option (CS ⊕ (CS ⊕ XT))} (hH : H0c K q rd nm n T L h0 n0) (hls : ls ≤ 4) (hok : SpOk n X) (hop : OpIn n op) (ho : ∀ b o, op b = some o → 4 ≤ o ∧ o ≤ 11) (hX : CNT K q rd nm n T d h0 n0 cv ls dd X sub) (hst : StC K q rd nm n T d h0 n0 ch op sub step) (hch : n0 ≤ ch) :
    ∀ f b E (h : CH) (r : CR) (k hi : Nat), n < b + f → CT q rd nm n T d h0 n0 h r b → ChS K dd cv h ch hi ch k E → hi ≤ r.1 → k ≤ b → 100 * (n - b) + (10 + 10 * ls) ≤ r.2.1 → 3000 * (n - b) + (100 + 100 * ls) ≤ r.2.2 → (match spL T n op X f b E with
      | .inl (b', E') => ∃ h' r' k' hi', o_loop step (h, r) = some (.inl (h', r')) ∧ CT q rd nm n T d h0 n0 h' r' b' ∧ (∀ p, p < ch → p ≠ rd → h' p = h p) ∧ ChS K dd cv h' ch hi' ch k' E' ∧ hi' ≤ r'.1 ∧ (r'.2.1 ≤ r.2.1 ∧ r'.2.2 ≤ r.2.2 ∧ r.2.1 ≤ r'.2.1 + 100 * (b' - b) ∧ r.2.2 ≤ r'.2.2 + 3000 * (b' - b)) ∧ r.1 ≤ r'.1 ∧ b ≤ b'
      | .inr (kk, p) => ∃ w, o_loop step (h, r) = some (.inr w) ∧ CEr K q rd h0 n0 r b (10 + 10 * ls) (100 + 100 * ls) kk p w) := by
  have hrd := H0_rd hH
  intro f
  induction f with
  | zero =>
    intro b E h r k hi hn hC
    have := hC.2.1.1
    omega
  | succ f ih =>
    intro b E h r k hi hn hC hS hhi hk h1 h2
    have hbn := hC.2.1.1
    have h700 := hH.2.2.1
    obtain ⟨st1, st2⟩ := hst h r b hC
    unfold spL
    cases eo : op b with
    | none =>
      refine ⟨h, r, k, hi, ?_, hC, fun _ _ _ => rfl, hS, hhi, ⟨Nat.le_refl _, Nat.le_refl _, by omega, by omega⟩, Nat.le_refl _, Nat.le_refl _⟩
      rw [o_loop_eq, st1 eo]
      rfl
    | some o =>
      obtain ⟨o1, o2⟩ := ho b o eo
      have hlt := hop b o eo
      have hnx := nxt_lt (T := T) hlt
      have hnn := nxt_le (T := T) hbn
      obtain ⟨k1, C1, e1, est⟩ := st2 o eo
      have hx := hX k1 r (nxb T n b) C1 (by omega) (by omega)
      have hkx := hok (nxb T n b) hnn
      dsimp only
      cases e : X (nxb T n b) with
      | inr z =>
        obtain ⟨kk, p⟩ := z
        obtain ⟨w, w1, w2⟩ := sub_r C1 hx e
        rw [e] at hkx
        have hkx2 : nxb T n b ≤ p ∧ p ≤ n ∧ 1 ≤ kk ∧ kk ≤ 9 := hkx
        refine ⟨w, ?_, CEr_up w2 (Nat.le_refl _) (Nat.le_refl _) (Nat.le_refl _) (by omega) (by omega) (by omega) (by omega)⟩
        rw [o_loop_eq, est, w1, xg_r]
        rfl
      | inl z =>
        obtain ⟨b1, E1⟩ := z
        obtain ⟨a, k2, r2, w1, C2, e2, hF, y1, y2, y3, y4⟩ := sub_l C1 hx e
        rw [e] at hkx
        have hkx2 : nxb T n b + 1 ≤ b1 ∧ b1 ≤ n := hkx
        have hlu := hF.1
        have hS2 : ChS K dd cv k2 ch hi ch k E := Ch_eq hS (fun p p1 p2 => by
          have hp : p ≠ rd := by omega
          rw [e2 p (by omega) hp, e1 p hp]) (Nat.le_refl _)
        obtain ⟨k3, r3, z1, z2, z3, z4, z5, z6, z7, z8, z9, z10⟩ := Ch_add hS2 C2.2.2.1 (KN_ag hH C2.1) hH.1.2.1 (fun i hi2 => by have := hH.1.2.2 i hi2; have := C2.2.2.2; omega) hhi hF (Nat.le_refl _) o1 o2 (by omega) (by omega) (by omega)
        have C3 : CT q rd nm n T d h0 n0 k3 r3 b1 := CT_kp C2 (fun p hp => z3 p (by omega)) hrd z4 z6
        dsimp only
        have hi3 := ih b1 (fun v => wk o (E v) (E1 v)) k3 r3 (k + 1) r3.1 (by omega) C3 z2 (Nat.le_refl _) (by omega) (by omega) (by omega)
        have hst1 : o_loop step (h, r) = o_loop step (k3, r3) := by
          rw [o_loop_eq, est, w1, xg_l]
          dsimp only
          rw [z1, Option.bind_some]
          rfl
        cases e5 : spL T n op X f b1 (fun v => wk o (E v) (E1 v)) with
        | inr z =>
          obtain ⟨kk, p⟩ := z
          rw [e5] at hi3
          have hp := spL_ok (T := T) hop hok f b1 (fun v => wk o (E v) (E1 v)) hkx2.2
          rw [e5] at hp
          have hp2 : b1 ≤ p := hp.1
          obtain ⟨w, v1, v2⟩ := hi3
          exact ⟨w, hst1.trans v1, CEr_up v2 (by omega) (by omega) (by omega) (by omega) hp2 (by omega) (by omega)⟩
        | inl z =>
          obtain ⟨b2, E2⟩ := z
          rw [e5] at hi3
          obtain ⟨h', r', k', hi', v1, v2, v3, v4, v5, ⟨v6, v7, v8, v9⟩, v10, v11⟩ := hi3
          refine ⟨h', r', k', hi', hst1.trans v1, v2, fun p p1 p2 => ?_, v4, v5, ⟨by omega, by omega, by omega, by omega⟩, by omega, by omega⟩
          rw [v3 p p1 p2, z3 p p1, e2 p (by have := hC.2.2.2; have := hS; obtain ⟨_, _, _, _, _, _, _, _, _, _, _, _, _, _, _, _, ⟨⟨_, q2⟩, _⟩, _⟩ := hS; omega) p2, e1 p p2]
/-- a level: a chain of what the level below reads -/
theorem cch {sub fn : CH → CR → Option ((Nat × CS) ⊕ XT)} {step : CR → CS → Option (CS ⊕ (CS ⊕ XT))} (hH : H0c K q rd nm n T L h0 n0) (hls : ls ≤ 4) (hok : SpOk n X) (hop : OpIn n op) (ho : ∀ b o, op b = some o → 4 ≤ o ∧ o ≤ 11) (hX : CNT K q rd nm n T d h0 n0 cv ls dd X sub) (hst : ∀ r0 : CR, n0 ≤ r0.1 → StC K q rd nm n T d h0 n0 r0.1 op sub (step r0))
    (hfn : ∀ h r, fn h r = (aCell h r 2 (.inr (6, [.null, .null]))).bind fun s1 => xg Sum.inr (vc s1.1 rd 4 (xchk s1.2 (sub s1.1 s1.2))) fun q2 => (achv q2.2.2 (C7_init K q2.2.1 q2.2.2 r.1 q2.1)).bind fun q3 => xg Sum.inr (o_loop (step r) q3) fun r6 => (vc r6.1 r.1 6 (C7_plain r6.1 r.1)).bind fun q7 => some (.inl (q7, r6))) : CNT K q rd nm n T d h0 n0 cv (ls + 1) (dd + 1) (spC T n op X) fn := by
  have hrd := H0_rd hH
  intro h r b hC h1 h2
  have hbn := hC.2.1.1
  have hn0 := hC.2.2.2
  rw [hfn, aCell_of (by omega) (by omega), Option.bind_some]
  dsimp only
  have C1 := CT_al hH hC (.inr (6, [.null, .null])) (r.2.1 - 1, r.2.2 - 2)
  have hx := hX _ _ b C1 (by dsimp only; omega) (by dsimp only; omega)
  have hkx := hok b hbn
  unfold spC
  cases e : X b with
  | inr z =>
    obtain ⟨kk, p⟩ := z
    obtain ⟨w, w1, w2⟩ := sub_r C1 hx e
    rw [e] at hkx
    have hkx2 : b ≤ p ∧ p ≤ n ∧ 1 ≤ kk ∧ kk ≤ 9 := hkx
    refine ⟨w, ?_, CEr_up w2 (Nat.le_succ _) (Nat.sub_le _ _) (Nat.sub_le _ _) (Nat.le_refl _) hkx2.1 (by dsimp only; omega) (by dsimp only; omega)⟩
    rw [w1, xg_r]
  | inl z =>
    obtain ⟨b1, E⟩ := z
    obtain ⟨a, k2, r2, w1, C2, e2, hF, y1, y2, y3, y4⟩ := sub_l C1 hx e
    rw [e] at hkx
    have hkx2 : b + 1 ≤ b1 ∧ b1 ≤ n := hkx
    have hlu := hF.1
    dsimp only at e2 hF hlu y1 y2 y3 y4
    have hcell : k2 r.1 = some (.inr (6, [.null, .null])) := by rw [e2 r.1 (Nat.lt_succ_self _) (by omega)]; exact hup_s
    obtain ⟨k3, r3, z1, z2, z3, z4, z5, z6, z7, z8, z9, z10⟩ := Ch_init C2.2.2.1 (KN_ag hH C2.1) hH.1.2.1 (fun i hi2 => by have := hH.1.2.2 i hi2; have := C2.2.2.2; omega) hcell hF (Nat.lt_succ_self _) (Nat.le_refl _) (by omega) (by omega)
    have C3 : CT q rd nm n T d h0 n0 k3 r3 b1 := CT_kp C2 (fun p hp => z3 p (by omega) (by omega)) hrd z4 z6
    have hl := cchL (ch := r.1) hH hls hok hop ho hX (hst r hn0) hn0 701 b1 E k3 r3 1 r3.1 (by have := hH.2.2.1; omega) C3 z2 (Nat.le_refl _) (by omega) (by omega) (by omega)
    dsimp only
    rw [w1, xg_l]
    dsimp only
    rw [z1, Option.bind_some]
    cases e5 : spL T n op X 701 b1 E with
    | inr z =>
      obtain ⟨kk, p⟩ := z
      have hp := spL_ok (T := T) hop hok 701 b1 E hkx2.2
      rw [e5] at hl hp
      have hp2 : b1 ≤ p := hp.1
      obtain ⟨w, v1, v2⟩ := hl
      refine ⟨w, ?_, CEr_up v2 (by omega) (by omega) (by omega) (by omega) hp2 (by omega) (by omega)⟩
      rw [v1, xg_r]
    | inl z =>
      obtain ⟨b2, E2⟩ := z
      rw [e5] at hl
      obtain ⟨h', r', k', hi', v1, v2, v3, v4, v5, ⟨v6, v7, v8, v9⟩, v10, v11⟩ := hl
      obtain ⟨a', u1, u2⟩ := Ch_plain v4
      refine ⟨a', h', r', ?_, v2, fun p p1 p2 => ?_, FoR_up u2 (Nat.le_refl _) (Nat.le_refl _) v5, by omega, by omega, by omega, by omega⟩
      · rw [v1, xg_l]
        dsimp only
        rw [u1, Option.bind_some]
      · rw [v3 p p1 p2, z3 p (by omega) (by omega), e2 p (by omega) p2, hup_n (by omega)]
/-! numbers -/
theorem C_now (hH : H0c K q rd nm n T L h0 n0) (hC : CT q rd nm n T d h0 n0 h r b) {m : Nat} {x : Int32} (hx : x = i3 m) (hm : m < 2 ^ 31) (h1 : 1 ≤ r.2.1) (h2 : 7 ≤ r.2.2) : if tkK T n b = 2 then (if tkE T n b - b ≤ 4 ∧ vlu T n b ≤ m then C5_numberNow K h r rd 0 x = some (.inl (i3 (vlu T n b), (h, r))) else ∃ w, C5_numberNow K h r rd 0 x = some (.inr w) ∧ CEr K q rd h0 n0 r b 1 7 2 b w) else ∃ w, C5_numberNow K h r rd 0 x = some (.inr w) ∧ CEr K q rd h0 n0 r b 1 7 1 b w := by
  have hrd := H0_rd hH
  have hv := vlu_lt (T := T) (n := n) (b := b)
  have h700 := hH.2.2.1
  have hE := tkE_le (T := T) hC.2.1.1
  have hge := tkE_ge (T := T) (n := n) (b := b)
  have hC0 := hC
  obtain ⟨c1, ⟨c2, v, c3, c4⟩, c5, c6⟩ := hC
  have e8 : gI h rd 4 8 = some (i3 (tkK T n b)) := gI_of c3 (k := 8) rfl
  have e10 : gI h rd 4 10 = some (i3 (tkE T n b)) := gI_of c3 (k := 10) rfl
  have e9 : gI h rd 4 9 = some (i3 b) := gI_of c3 (k := 9) rfl
  have e11 : gI h rd 4 11 = some v := gI_of c3 (k := 11) rfl
  have pre : ∀ y : Bool, y = decide (tkK T n b = 2) → (if i3 (tkK T n b) = 2 then (some (.inl 1)) else (some (.inl 0)) : Option (Int32 ⊕ XT)) = some (.inl (bI y)) := by
    intro y hy
    by_cases e : tkK T n b = 2
    · rw [if_pos ((tkK_i (x := 2) (k := 2) rfl (by decide)).mpr e), hy, decide_eq_true e]; rfl
    · rw [if_neg (fun z => e ((tkK_i (x := 2) (k := 2) rfl (by decide)).mp z)), hy, decide_eq_false e]; rfl
  unfold C5_numberNow
  rw [e8, Option.bind_some, pre _ rfl, xg_l]
  by_cases e2 : tkK T n b = 2
  · rw [if_pos e2, want_ok hC0 (decide_eq_true e2), xg_l]
    dsimp only
    rw [e10, Option.bind_some, e9, Option.bind_some, i3_sub hge]
    have mid : (if i3 (tkE T n b - b) ≤ 4 then ((gI h rd 4 11).bind fun v10 => if v10 < 0 then (some (.inl 0)) else ((gI h rd 4 11).bind fun v12 => if v12 ≤ x then (some (.inl 1)) else (some (.inl 0)))) else (some (.inl 0)) : Option (Int32 ⊕ XT)) = some (.inl (bI (decide (tkE T n b - b ≤ 4 ∧ vlu T n b ≤ m)))) := by
      by_cases e4 : tkE T n b - b ≤ 4
      · rw [if_pos ((i3_lel (c := 4) (n := 4) rfl (by omega) (by decide)).mpr e4), e11, Option.bind_some, c4 e2 e4, if_neg (i3_nn (by omega)), Option.bind_some]
        by_cases em : vlu T n b ≤ m
        · rw [if_pos (by rw [hx, i3_le (by omega) hm]; exact em), decide_eq_true ⟨e4, em⟩]; rfl
        · rw [if_neg (by rw [hx, i3_le (by omega) hm]; exact em), decide_eq_false (fun z => em z.2)]; rfl
      · rw [if_neg (fun z => e4 ((i3_lel (c := 4) (n := 4) rfl (by omega) (by decide)).mp z)), decide_eq_false (fun z => e4 z.1)]; rfl
    rw [mid, xg_l]
    by_cases ec : tkE T n b - b ≤ 4 ∧ vlu T n b ≤ m
    · rw [if_pos ec, want_ok hC0 (decide_eq_true ec), xg_l]
      dsimp only
      rw [e11, Option.bind_some, c4 e2 ec.1]
    · rw [if_neg ec]
      obtain ⟨w, w1, w2⟩ := CEr_no (K := K) (x := 2) (k := 2) (u := 1) (v := 7) hC0 (decide_eq_false ec) rfl hrd (by decide) (by decide) h1 h2
      exact ⟨w, by rw [w1, xg_r], w2⟩
  · rw [if_neg e2]
    obtain ⟨w, w1, w2⟩ := CEr_no (K := K) (x := 1) (k := 1) (u := 1) (v := 7) hC0 (decide_eq_false e2) rfl hrd (by decide) (by decide) h1 h2
    exact ⟨w, by rw [w1, xg_r], w2⟩
theorem C_number (hH : H0c K q rd nm n T L h0 n0) (hC : CT q rd nm n T d h0 n0 h r b) {m : Nat} {x : Int32} (hx : x = i3 m) (hm : m < 2 ^ 31) (h1 : 1 ≤ r.2.1) (h2 : 7 ≤ r.2.2) : match spNum T n m b with
    | .inl (b1, v) => ∃ h1, vc h rd 4 (xchk r (C5_number K h r rd 0 x)) = some (.inl (i3 v, (h1, r))) ∧ CT q rd nm n T d h0 n0 h1 r b1 ∧ ∀ p, p ≠ rd → h1 p = h p
    | .inr (k, p) => ∃ w, vc h rd 4 (xchk r (C5_number K h r rd 0 x)) = some (.inr w) ∧ CEr K q rd h0 n0 r b 1 7 k p w := by
  have hN := C_now hH hC hx hm h1 h2
  have hw : ∀ k w, C5_numberNow K h r rd 0 x = some (.inr w) → CEr K q rd h0 n0 r b 1 7 k b w → vc h rd 4 (xchk r (C5_number K h r rd 0 x)) = some (.inr w) := by
    intro k w e he
    obtain ⟨a, h', r', ew, -, y1, y2, -, -⟩ := he
    have e1 : xchk r (C5_numberNow K h r rd 0 x) = some (.inr w) := by rw [e]; exact xchk_r' (by rw [ew]; exact y1) (by rw [ew]; exact y2)
    have e2 : C5_number K h r rd 0 x = some (.inr w) := by
      unfold C5_number
      rw [CT_vc hC, e1, xg_r]
    rw [CT_vc hC, e2]
    exact xchk_r' (by rw [ew]; exact y1) (by rw [ew]; exact y2)
  unfold spNum
  by_cases e2 : tkK T n b = 2
  · rw [if_pos e2] at hN ⊢
    by_cases ec : tkE T n b - b ≤ 4 ∧ vlu T n b ≤ m
    · rw [if_pos ec] at hN ⊢
      obtain ⟨k1, g1, g2, g3⟩ := CT_next hH hC
      refine ⟨k1, ?_, g2, g3⟩
      have e3 : C5_number K h r rd 0 x = some (.inl (i3 (vlu T n b), (k1, r))) := by
        unfold C5_number
        rw [CT_vc hC, hN, xchk_l' (w := (i3 (vlu T n b), (h, r))) (Nat.le_refl _) (Nat.le_refl _), xg_l]
        dsimp only
        rw [g1, Option.bind_some]
      rw [CT_vc hC, e3]
      exact xchk_l' (w := (i3 (vlu T n b), (k1, r))) (Nat.le_refl _) (Nat.le_refl _)
    · rw [if_neg ec] at hN ⊢
      obtain ⟨w, w1, w2⟩ := hN
      exact ⟨w, hw 2 w w1 w2, w2⟩
  · rw [if_neg e2] at hN ⊢
    obtain ⟨w, w1, w2⟩ := hN
    exact ⟨w, hw 1 w w1 w2, w2⟩
end CEXPR2
