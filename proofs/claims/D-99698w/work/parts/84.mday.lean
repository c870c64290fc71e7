/-! ===== the reference: a day goes by ===== -/
section MDAY
variable {σ : MS} {P : PO} {w : SV} {b : Nat}
theorem ma_saq {σ : MS} {j i q : Nat} {v : Int32} : ma (sa σ j i v) j q = if q = i then v else ma σ j q := by rw [ma_sa]; rfl
theorem Fx_s44 {b i : Nat} {σ : MS} {v : Int32} (hb : b = 34 → 34 ≤ i) : Fx b σ (sa σ 44 i v) :=
  ⟨rfl, fun q h1 h2 h3 => ma_sb h1, fun e i2 hi => by rw [ma_saq, if_neg (by have := hb e; omega)]⟩
/-- a loop whose state is an int and the reference's state -/
theorem upn_eq {w : SV} {j v : Nat} : upn w j v j = v := if_pos rfl
theorem upn_ne {w : SV} {j v q : Nat} (h : ¬ q = j) : upn w j v q = w q := if_neg h
theorem MR_set {j v : Nat} {x : Int32} (hR : MR σ b P w) (hN : pN P ≤ 9) (hM : pM P ≤ 6) (hx : x = if 19 ≤ j ∧ j < 28 then atM v else i3 v) : MR (sa σ 44 (b + j) x) b P (upn w j v) := by
  obtain ⟨r1, r2, r3, r4, r5⟩ := hR
  refine ⟨?_, fun q hq => ?_, fun q hq => ?_, fun q hq => ?_, fun c hc => ?_⟩
  · rw [ma_saq]
    by_cases e : 0 = j
    · subst e
      rw [if_pos (by omega), upn_eq, hx, if_neg (by omega)]
    · rw [if_neg (by omega), r1, upn_ne e]
  · rw [ma_saq]
    by_cases e : 1 + q = j
    · subst e
      rw [if_pos (by omega), upn_eq, hx, if_neg (by omega)]
    · rw [if_neg (by omega), r2 q hq, upn_ne e]
  · rw [ma_saq]
    by_cases e : 10 + q = j
    · subst e
      rw [if_pos (by omega), upn_eq, hx, if_neg (by omega)]
    · rw [if_neg (by omega), r3 q hq, upn_ne e]
  · rw [ma_saq]
    by_cases e : 19 + q = j
    · subst e
      rw [if_pos (by omega), upn_eq, hx, if_pos (by omega)]
    · rw [if_neg (by omega), r4 q hq, upn_ne e]
  · rw [ma_saq]
    by_cases e : 28 + c = j
    · subst e
      rw [if_pos (by omega), upn_eq, hx, if_neg (by omega)]
    · rw [if_neg (by omega), r5 c hc, upn_ne e]
theorem wfs_up28 (hw : WFS P w) {k v : Nat} (hv : v < 2 ^ 12) (hN : pN P ≤ 9) : WFS P (upn w (28 + k) v) := by
  obtain ⟨h1, h2, h3, h4, h5⟩ := hw
  refine ⟨fun j hj => ?_, fun j hj => ?_, fun j hj => ?_, fun c hc => ?_, ?_⟩
  · rw [upn_ne (by omega)]; exact h1 j hj
  · rw [upn_ne (by omega)]; exact h2 j hj
  · rw [upn_ne (by omega)]; exact h3 j hj
  · unfold upn; split
    · exact hv
    · exact h4 c hc
  · rw [upn_ne (by omega)]; exact h5
def lrk (w : SV) (s v k : Nat) : SV := fun j => if 28 ≤ j ∧ j < 28 + k ∧ s.testBit (j - 28) = true then w j ||| v else w j
theorem lrk_0 (w : SV) (s v : Nat) : lrk w s v 0 = w := by
  funext j
  unfold lrk
  rw [if_neg (by omega)]
theorem lrk_t {w : SV} {s v k : Nat} (h : s.testBit k = true) : upn (lrk w s v k) (28 + k) (w (28 + k) ||| v) = lrk w s v (k + 1) := by
  funext j
  unfold upn lrk
  by_cases e : j = 28 + k
  · subst e
    rw [if_pos rfl, if_pos ⟨by omega, by omega, by rw [show 28 + k - 28 = k by omega]; exact h⟩]
  · rw [if_neg e]
    by_cases e4 : 28 ≤ j ∧ j < 28 + k ∧ s.testBit (j - 28) = true
    · rw [if_pos e4, if_pos ⟨e4.1, by omega, e4.2.2⟩]
    · rw [if_neg e4, if_neg (fun x => e4 ⟨x.1, by omega, x.2.2⟩)]
theorem lrk_f {w : SV} {s v k : Nat} (h : s.testBit k = false) : lrk w s v (k + 1) = lrk w s v k := by
  funext j
  unfold lrk
  by_cases e4 : 28 ≤ j ∧ j < 28 + k ∧ s.testBit (j - 28) = true
  · rw [if_pos e4, if_pos ⟨e4.1, by omega, e4.2.2⟩]
  · rw [if_neg e4, if_neg]
    rintro ⟨x1, x2, x3⟩
    by_cases e : j = 28 + k
    · subst e
      rw [show 28 + k - 28 = k by omega, h] at x3
      cases x3
    · exact e4 ⟨x1, by omega, x3⟩
theorem lrk_k (w : SV) (s v k : Nat) : lrk w s v k (28 + k) = w (28 + k) := by
  unfold lrk
  rw [if_neg (by omega)]
theorem lrk_M (P : PO) (w : SV) (s v : Nat) : lrk w s v (pM P) = lrn P w s v := rfl
theorem M_learns_eq (h : MV σ b P w) (hb : b = 0 ∨ b = 34) {s v : Nat} (hs : s < 2 ^ 31) (hv : v < 2 ^ 12) : ∃ σ', M_learns σ (i3 b) (i3 s) (i3 v) = some σ' ∧ Fx b σ σ' ∧ MV σ' b P (lrn P w s v) ∧ ma σ' 47 = ma σ 47 := by
  have hM := h.1.2.1
  have hN := h.1.1
  have hb2 := h.2.2.2.2
  unfold M_learns
  refine o_inv0 (fun k t => t.1 = i3 k ∧ Fx b σ t.2 ∧ ma t.2 47 = ma σ 47 ∧ MV t.2 b P (lrk w s v k)) (fun r => Fx b σ r ∧ MV r b P (lrn P w s v) ∧ ma r 47 = ma σ 47) (pM P) (fun k t hk hI => ?_) (fun t hI => ?_) _ ⟨rfl, Fx_refl b σ, rfl, by rw [lrk_0]; exact h⟩
  · obtain ⟨t1, t2⟩ := t
    obtain ⟨rfl, hF, h47, hV⟩ := hI
    dsimp only at hF h47 hV
    unfold M_learns_L3
    dsimp only
    have e28 : (i3 b + 28 + i3 k : Int32) = i3 (b + 28 + k) := i3_a3 b 28 k
    have hval : (if bI (s.testBit k) = 1 then some (i3 v) else some 0 : Option Int32) = some (i3 (if s.testBit k = true then v else 0)) := by
      cases s.testBit k <;> rfl
    have hw4 := h.2.2.2.1.2.2.2.1 k hk
    rw [hV.2.1.1.2.1, if_pos ((i3_lt (by omega) (by omega)).mpr hk), mv_28 hV hk, Option.bind_some, i3_bitB hs (by omega), i3_succ, e28, hval, Option.bind_some, lrk_k, i3_or, ast_i3 (j := 44) (show b + 28 + k < 68 by omega), Option.bind_some]
    refine ⟨_, rfl, rfl, Fx_trans hF (Fx_s44 (fun _ => by omega)), by rw [ma_sb (by omega)]; exact h47, ?_⟩
    obtain ⟨g1, g2, g3, g4, g5⟩ := hV
    dsimp only
    have hor : w (28 + k) ||| (if s.testBit k = true then v else 0) < 2 ^ 12 := Nat.or_lt_two_pow hw4 (by split; exact hv; decide)
    have elr : upn (lrk w s v k) (28 + k) (w (28 + k) ||| (if s.testBit k = true then v else 0)) = lrk w s v (k + 1) := by
      cases e : s.testBit k
      · rw [if_neg (by decide), Nat.or_zero, lrk_f e]
        funext j
        unfold upn
        split
        · next ej => rw [ej, lrk_k]
        · rfl
      · rw [if_pos (by decide)]
        exact lrk_t e
    have hR := MR_set (j := 28 + k) (v := w (28 + k) ||| (if s.testBit k = true then v else 0)) g3 hN hM (by rw [if_neg (by omega)])
    rw [← Nat.add_assoc, elr] at hR
    have hW := wfs_up28 g4 (k := k) hor hN
    rw [elr] at hW
    exact ⟨g1, ME_of g2 (fun _ _ _ => rfl) (fun j _ _ => ma_sb (by omega)) (by rw [ma_sb (by decide)]), hR, hW, g5⟩
  · obtain ⟨t1, t2⟩ := t
    obtain ⟨rfl, hF, h47, hV⟩ := hI
    dsimp only at hF h47 hV
    unfold M_learns_L3
    dsimp only
    rw [hV.2.1.1.2.1, if_neg (fun x => absurd ((i3_lt (by omega) (by omega)).mp x) (by omega))]
    exact ⟨_, rfl, hF, hV, h47⟩
theorem stp_eq {q : Int32} (h : ¬ q ≤ 0) : (1 : Int32) <<< (imod (q - 1) 8 &&& 31) = i3 (stp q) := by
  have hq : ¬ q < 0 := fun x => h (Int32.le_of_lt x)
  have e := i3_of hq
  have hn := i3_ofl q
  generalize q.toNatClampNeg = n at e hn
  subst e
  have hn0 : ¬ n = 0 := fun x => h ((i3_le0 hn).mpr x)
  have e1 : i3 n - 1 = i3 (n - 1) := i3_sub (b := 1) (by omega)
  have h8 := Nat.mod_lt (n - 1) (show 8 > 0 by decide)
  unfold stp
  rw [e1, show imod (i3 (n - 1)) 8 = i3 ((n - 1) % 8) from i3_mod (b := 8) (by omega) (by decide), i3_nat (by omega), i3_shl (by omega)]
theorem M_doesLay_eq (h : MV σ b P w) {t : Nat} (ht : t < 4) : ∃ σ', M_doesLay σ (i3 b) (i3 t) = some (bI (lys P w t), σ') ∧ Fx b σ σ' ∧ MV σ' b P w := by
  have hM := h.1.2.1
  have hN := h.1.1
  have hY := h.2.1.2.2.1
  unfold M_doesLay lys
  cases e : pY P with
  | none =>
    rw [e] at hY
    rw [if_pos (show mf σ 5 = -1 from hY)]
    exact ⟨_, rfl, Fx_refl b σ, h⟩
  | some E =>
    rw [e] at hY
    obtain ⟨hY1, hY2⟩ := hY
    have hs := p2 (b := 31) (shI_lt P w t) (by omega)
    have hc := p2 (b := 31) (clI_lt P w t) (by omega)
    have hk := knw_lt h.2.2.2.1 (clI P w t)
    rw [if_neg hY1]
    rw [show ast σ 47 4 (i3 t) = some (sa σ 47 4 (i3 t)) from ast_i3 (j := 47) (n := 4) (by decide), Option.bind_some]
    have h2 : MV (sa σ 47 4 (i3 t)) b P w := MV_sa (.inl rfl) h
    have f2 : Fx b σ (sa σ 47 4 (i3 t)) := Fx_sa (.inl rfl)
    rw [M_sheetsAt_eq h2 ht, Option.bind_some, M_bits_eq hs, Option.bind_some, show ast (sa σ 47 4 (i3 t)) 47 6 _ = some (sa (sa σ 47 4 (i3 t)) 47 6 (i3 (pc (shI P w t)))) from ast_i3 (j := 47) (n := 6) (by decide), Option.bind_some]
    have h5 : MV (sa (sa σ 47 4 (i3 t)) 47 6 (i3 (pc (shI P w t)))) b P w := MV_sa (.inl rfl) h2
    have f5 : Fx b σ (sa (sa σ 47 4 (i3 t)) 47 6 (i3 (pc (shI P w t)))) := Fx_trans f2 (Fx_sa (.inl rfl))
    generalize h5e : sa (sa σ 47 4 (i3 t)) 47 6 (i3 (pc (shI P w t))) = s5 at h5 f5
    rw [M_clerksAt_eq h5 (by omega), Option.bind_some, M_bits_eq hc, Option.bind_some, show ast s5 47 7 _ = some (sa s5 47 7 (i3 (pc (clI P w t)))) from ast_i3 (j := 47) (n := 7) (by decide), Option.bind_some]
    have h8 : MV (sa s5 47 7 (i3 (pc (clI P w t)))) b P w := MV_sa (.inl rfl) h5
    have f8 : Fx b σ (sa s5 47 7 (i3 (pc (clI P w t)))) := Fx_trans f5 (Fx_sa (.inl rfl))
    generalize h8e : sa s5 47 7 (i3 (pc (clI P w t))) = s8 at h8 f8
    rw [M_clerksAt_eq h8 (by omega), Option.bind_some, M_knownBy_eq h8 hc, Option.bind_some, M_bits_eq (p2 (b := 31) hk (by omega)), Option.bind_some, show ast s8 47 8 _ = some (sa s8 47 8 (i3 (pc (knw P w (clI P w t))))) from ast_i3 (j := 47) (n := 8) (by decide), Option.bind_some]
    have h12 : MV (sa s8 47 8 (i3 (pc (knw P w (clI P w t))))) b P w := MV_sa (.inl rfl) h8
    have f12 : Fx b σ (sa s8 47 8 (i3 (pc (knw P w (clI P w t))))) := Fx_trans f8 (Fx_sa (.inl rfl))
    generalize h12e : sa s8 47 8 (i3 (pc (knw P w (clI P w t)))) = s12 at h12 f12
    rw [mv_day h12, Option.bind_some, show ast s12 47 5 _ = some (sa s12 47 5 (i3 (w 0))) from ast_i3 (j := 47) (n := 5) (by decide), Option.bind_some]
    have h14 : MV (sa s12 47 5 (i3 (w 0))) b P w := MV_sa (.inl rfl) h12
    have f14 : Fx b σ (sa s12 47 5 (i3 (w 0))) := Fx_trans f12 (Fx_sa (.inl rfl))
    have e47 : cnL (ma (sa s12 47 5 (i3 (w 0))) 47) = evL (i3 t) (i3 (pc (shI P w t))) (i3 (pc (clI P w t))) (i3 (pc (knw P w (clI P w t)))) (i3 (w 0)) := by
      unfold cnL
      rw [← h12e, ← h8e, ← h5e]
      simp only [ma_saq]
      rfl
    generalize h14e : sa s12 47 5 (i3 (w 0)) = s14 at h14 f14 e47
    obtain ⟨g, hg⟩ := hY2 s14 (f14.2.1 11 (by decide) (by decide) (by decide))
    dsimp only at hg
    rw [mf_fx f14 5, hg, Option.bind_some, e47]
    dsimp only
    split
    · next hle =>
      refine ⟨sX s14 48 g, ?_, Fx_trans f14 Fx_sX, MV_sX h14⟩
      rw [decide_eq_true hle]; rfl
    · next hle =>
      refine ⟨sX s14 48 g, ?_, Fx_trans f14 Fx_sX, MV_sX h14⟩
      rw [decide_eq_false hle]; rfl
theorem MR_up10 {k v : Nat} (hR : MR σ b P w) (hk : k < pN P) (hN : pN P ≤ 9) (hM : pM P ≤ 6) : MR (sa σ 44 (b + 10 + k) (i3 v)) b P (upn w (10 + k) v) := by
  rw [Nat.add_assoc]
  exact MR_set hR hN hM (by rw [if_neg (by omega)])
theorem M_mouldsOn_eq (h : MV σ b P w) (hb : b = 0 ∨ b = 34) {E : (Nat → Int32) → Int32} (hZ : pZ P = some E) {k : Nat} (hk : k < pN P) (hn : bnt w k = false) : ∃ σ', M_mouldsOn σ (i3 b) (i3 k) = some σ' ∧ Fx b σ σ' ∧ MV σ' b P (grw P k w) := by
  have hM := h.1.2.1
  have hN := h.1.1
  have hY := h.2.1.2.2.2.1
  rw [hZ] at hY
  obtain ⟨hY1, hY2⟩ := hY
  have hnb : ¬ w (19 + k) = 99 := of_decide_eq_false hn
  have h9 := wfs_19 h.2.2.2.1 h.1 hk
  unfold M_mouldsOn grw
  rw [hZ, mv_1 h hk, Option.bind_some, show ast σ 47 0 _ = some (sa σ 47 0 (i3 (w (1 + k)))) from ast_i3 (j := 47) (n := 0) (by decide), Option.bind_some]
  have h2 : MV (sa σ 47 0 (i3 (w (1 + k)))) b P w := MV_sa (.inl rfl) h
  have f2 : Fx b σ (sa σ 47 0 (i3 (w (1 + k)))) := Fx_sa (.inl rfl)
  generalize h2e : sa σ 47 0 (i3 (w (1 + k))) = s2 at h2 f2
  rw [mv_10 h2 hk, Option.bind_some, show ast s2 47 1 _ = some (sa s2 47 1 (i3 (w (10 + k)))) from ast_i3 (j := 47) (n := 1) (by decide), Option.bind_some]
  have h4 : MV (sa s2 47 1 (i3 (w (10 + k)))) b P w := MV_sa (.inl rfl) h2
  have f4 : Fx b σ (sa s2 47 1 (i3 (w (10 + k)))) := Fx_trans f2 (Fx_sa (.inl rfl))
  generalize h4e : sa s2 47 1 (i3 (w (10 + k))) = s4 at h4 f4
  rw [show ast s4 47 2 _ = some (sa s4 47 2 (i3 k)) from ast_i3 (j := 47) (n := 2) (by decide), Option.bind_some]
  have h5 : MV (sa s4 47 2 (i3 k)) b P w := MV_sa (.inl rfl) h4
  have f5 : Fx b σ (sa s4 47 2 (i3 k)) := Fx_trans f4 (Fx_sa (.inl rfl))
  generalize h5e : sa s4 47 2 (i3 k) = s5 at h5 f5
  rw [M_sheetIn_eq h5 hk, Option.bind_some, show ast s5 47 4 _ = some (sa s5 47 4 (wI (whr P w k))) from ast_i3 (j := 47) (n := 4) (by decide), Option.bind_some]
  have h7 : MV (sa s5 47 4 (wI (whr P w k))) b P w := MV_sa (.inl rfl) h5
  have f7 : Fx b σ (sa s5 47 4 (wI (whr P w k))) := Fx_trans f5 (Fx_sa (.inl rfl))
  generalize h7e : sa s5 47 4 (wI (whr P w k)) = s7 at h7 f7
  have e10 : (if atM (w (19 + k)) < 10 then some 0 else some 1 : Option Int32) = some (bI (decide (4 ≤ w (19 + k)))) := by
    unfold atM
    rw [if_neg hnb]
    by_cases e : w (19 + k) < 4
    · rw [if_pos e, if_pos ((i3_ltl (c := 10) (n := 10) rfl (by omega) (by decide)).mpr (by omega)), decide_eq_false (by omega)]; rfl
    · rw [if_neg e, if_neg (fun x => absurd ((i3_ltl (c := 10) (n := 10) rfl (by omega) (by decide)).mp x) (by omega)), decide_eq_true (by omega)]; rfl
  rw [mv_19 h7 hk, Option.bind_some, e10, Option.bind_some, show ast s7 47 3 _ = some (sa s7 47 3 (bI (decide (4 ≤ w (19 + k))))) from ast_i3 (j := 47) (n := 3) (by decide), Option.bind_some]
  have h10 : MV (sa s7 47 3 (bI (decide (4 ≤ w (19 + k))))) b P w := MV_sa (.inl rfl) h7
  have f10 : Fx b σ (sa s7 47 3 (bI (decide (4 ≤ w (19 + k))))) := Fx_trans f7 (Fx_sa (.inl rfl))
  generalize h10e : sa s7 47 3 (bI (decide (4 ≤ w (19 + k)))) = s10 at h10 f10
  rw [mv_day h10, Option.bind_some, show ast s10 47 5 _ = some (sa s10 47 5 (i3 (w 0))) from ast_i3 (j := 47) (n := 5) (by decide), Option.bind_some]
  have h12 : MV (sa s10 47 5 (i3 (w 0))) b P w := MV_sa (.inl rfl) h10
  have f12 : Fx b σ (sa s10 47 5 (i3 (w 0))) := Fx_trans f10 (Fx_sa (.inl rfl))
  have e47 : cnM (ma (sa s10 47 5 (i3 (w 0))) 47) = grV P w k := by
    unfold cnM grV
    rw [← h10e, ← h7e, ← h5e, ← h4e, ← h2e]
    simp only [ma_saq]
    rfl
  generalize h12e : sa s10 47 5 (i3 (w 0)) = s12 at h12 f12 e47
  obtain ⟨g, hg⟩ := hY2 s12 (f12.2.1 11 (by decide) (by decide) (by decide))
  dsimp only at hg
  rw [mf_fx f12 6, hg, Option.bind_some, e47]
  dsimp only
  rw [if_neg (show ¬ bnt w k = true by rw [hn]; decide)]
  have hV := MV_sX (g := g) h12
  have hF := Fx_trans f12 (Fx_sX (g := g))
  split
  · exact ⟨_, rfl, hF, hV⟩
  · next hle =>
    have e44 : (i3 b + 10 + i3 k : Int32) = i3 (b + 10 + k) := i3_a3 b 10 k
    rw [mv_10 hV hk, Option.bind_some, stp_eq hle, i3_xor, e44, ast_i3 (j := 44) (show b + 10 + k < 68 by have := h.2.2.2.2; omega), Option.bind_some]
    refine ⟨_, rfl, Fx_trans hF (Fx_s44 (fun _ => by omega)), hV.1, ME_fx (Fx_s44 (b := b) (fun _ => by omega)) hV.2.1, MR_up10 hV.2.2.1 hk hN hM, ?_, hV.2.2.2.2⟩
    exact wfs_up10 hV.2.2.2.1 (xor_lt (hV.2.2.2.1.2.1 k hk) (stp_lt _)) hk hN
theorem MR_up0 {v : Nat} (hR : MR σ b P w) (hN : pN P ≤ 9) (hM : pM P ≤ 6) : MR (sa σ 44 b (i3 v)) b P (upn w 0 v) := MR_set (j := 0) hR hN hM (by rw [if_neg (by omega)])
theorem grw_none {P : PO} {k : Nat} {w : SV} (h : pZ P = none) : grw P k w = w := by unfold grw; rw [h]
theorem grw_bnt {P : PO} {k : Nat} {w : SV} (h : bnt w k = true) : grw P k w = w := by
  unfold grw
  split
  · rfl
  · rw [if_pos h]
theorem itf_id {α : Type} {f : Nat → α → α} (h : ∀ k a, f k a = a) (n : Nat) (a : α) : itf f n a = a := by
  induction n with
  | zero => rfl
  | succ n ih => show f n (itf f n a) = a; rw [h, ih]
theorem M_dayGoes_eq (h : MV σ b P w) (hb : b = 0 ∨ b = 34) (hd : w 0 + 1 < 2 ^ 20) : ∃ σ', M_dayGoes σ (i3 b) = some σ' ∧ Fx b σ σ' ∧ MV σ' b P (pas P w) := by
  have hM := h.1.2.1
  have hN := h.1.1
  unfold M_dayGoes
  obtain ⟨r3, e3, f3, v3⟩ : ∃ r, o_loop (M_dayGoes_L2 (i3 b)) (0, σ) = some r ∧ Fx b σ r ∧ MV r b P (itf (ps1 P) 4 w) := by
    refine o_inv0 (fun k t => t.1 = i3 k ∧ Fx b σ t.2 ∧ MV t.2 b P (itf (ps1 P) k w)) (fun r => Fx b σ r ∧ MV r b P (itf (ps1 P) 4 w)) 4 (fun k t hk hI => ?_) (fun t hI => ?_) _ ⟨rfl, Fx_refl b σ, h⟩
    · obtain ⟨t1, t2⟩ := t
      obtain ⟨rfl, hF, hV⟩ := hI
      dsimp only at hF hV
      unfold M_dayGoes_L2
      dsimp only
      rw [if_pos ((i3_ltl (c := 4) (n := 4) rfl (by omega) (by decide)).mpr hk), M_clerksAt_eq hV (by omega), Option.bind_some, i3_succ]
      show ∃ t' : Int32 × MS, _ ∧ t'.1 = _ ∧ Fx b σ t'.2 ∧ MV t'.2 b P (ps1 P k (itf (ps1 P) k w))
      generalize itf (ps1 P) k w = u at hV
      have hc := p2 (b := 31) (clI_lt P u k) (by omega)
      unfold ps1
      by_cases e : clI P u k = 0
      · rw [if_pos ((i3_eq0 hc).mpr e), if_pos e, Option.bind_some]
        exact ⟨_, rfl, rfl, hF, hV⟩
      · rw [if_neg (fun x => e ((i3_eq0 hc).mp x)), if_neg e]
        obtain ⟨s1, e1, f1, v1⟩ := M_doesLay_eq hV hk
        rw [e1, Option.bind_some]
        dsimp only
        cases hl : lys P u k
        · rw [if_pos (by decide), Option.bind_some, if_neg (by decide)]
          exact ⟨_, rfl, rfl, Fx_trans hF f1, v1⟩
        · rw [if_neg (by decide), if_pos (by decide)]
          rw [M_clerksAt_eq v1 (by omega), Option.bind_some, M_showsIn_eq v1 hk, Option.bind_some]
          obtain ⟨s2, e2, f2, v2, _⟩ := M_learns_eq v1 hb hc (p2 (b := 12) (rdO_lt P u (shI P u k)) h.1.2.2.1)
          unfold shw
          rw [e2, Option.bind_some, Option.bind_some]
          exact ⟨_, rfl, rfl, Fx_trans (Fx_trans hF f1) f2, v2⟩
    · obtain ⟨t1, t2⟩ := t
      obtain ⟨rfl, hF, hV⟩ := hI
      unfold M_dayGoes_L2
      dsimp only
      rw [if_neg (by decide)]
      exact ⟨_, rfl, hF, hV⟩
  rw [e3, Option.bind_some]
  obtain ⟨r6, e6, f6, v6⟩ : ∃ r, o_loop (M_dayGoes_L50 (i3 b)) (0, r3) = some r ∧ Fx b σ r ∧ MV r b P (psG P w) := by
    refine o_inv (fun k t => t.1 = i3 k ∧ Fx b σ t.2 ∧ MV t.2 b P (itf (grw P) k (itf (ps1 P) 4 w))) (fun r => Fx b σ r ∧ MV r b P (psG P w)) (pN P) (fun k t hk hI => ?_) (fun t hI => ?_) 0 _ (Nat.zero_le _) ⟨rfl, f3, v3⟩
    · obtain ⟨t1, t2⟩ := t
      obtain ⟨rfl, hF, hV⟩ := hI
      dsimp only at hF hV
      unfold M_dayGoes_L50
      dsimp only
      rw [hV.2.1.1.1, if_pos ((i3_lt (by omega) (by omega)).mpr hk)]
      have hZ := hV.2.1.2.2.2.1
      cases e : pZ P with
      | none =>
        rw [e] at hZ
        right
        rw [if_pos (show mf t2 6 = -1 from hZ)]
        refine ⟨_, rfl, hF, ?_⟩
        unfold psG
        rw [itf_id (fun k a => grw_none e)]
        rw [itf_id (fun k a => grw_none e)] at hV
        exact hV
      | some E =>
        rw [e] at hZ
        left
        rw [if_neg hZ.1, M_isBurnt_eq hV hk, Option.bind_some, i3_succ]
        show ∃ t' : Int32 × MS, _ ∧ t'.1 = _ ∧ Fx b σ t'.2 ∧ MV t'.2 b P (grw P k (itf (grw P) k (itf (ps1 P) 4 w)))
        generalize itf (grw P) k (itf (ps1 P) 4 w) = u at hV
        cases hn : bnt u k
        · rw [if_pos (by decide)]
          obtain ⟨s1, e1, f1, v1⟩ := M_mouldsOn_eq hV hb e hk hn
          rw [e1, Option.bind_some, Option.bind_some]
          exact ⟨_, rfl, rfl, Fx_trans hF f1, v1⟩
        · rw [if_neg (by decide), Option.bind_some, grw_bnt hn]
          exact ⟨_, rfl, rfl, hF, hV⟩
    · obtain ⟨t1, t2⟩ := t
      obtain ⟨rfl, hF, hV⟩ := hI
      dsimp only at hF hV
      unfold M_dayGoes_L50
      dsimp only
      rw [hV.2.1.1.1, if_neg (fun x => absurd ((i3_lt (by omega) (by omega)).mp x) (by omega))]
      exact ⟨_, rfl, hF, hV⟩
  have e44 : (i3 b + 0 : Int32) = i3 b := i3_add b 0
  rw [e6, Option.bind_some, mv_day v6, Option.bind_some, i3_succ, e44, ast_i3 (j := 44) (show b < 68 by have := h.2.2.2.2; omega), Option.bind_some]
  refine ⟨_, rfl, Fx_trans f6 (Fx_s44 (fun _ => by omega)), v6.1, ME_fx (Fx_s44 (b := b) (fun _ => by omega)) v6.2.1, MR_up0 v6.2.2.1 hN hM, ?_, v6.2.2.2.2⟩
  exact wfs_up0 v6.2.2.2.1 (by rw [psG_0]; exact hd)
end MDAY
