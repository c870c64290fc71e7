/-! ===== office: the component reads clerks and words ===== -/
section CLINES5
variable {K q : Nat → Nat} {rd n m0 : Nat} {T : Nat → Nat} {hb f0 f h h' : CH} {r r' : CR} {B : Nat → Nat} {g : Nat → Nat → Int32} {S : OS} {b nm D : Nat}
theorem LC_ro (hC : LC K q rd n T hb m0 f0 f h r B g nm D S b) : (nm = q 4 ∨ nm = q 5) ∧ hle f h ∧ FR h r.1 ∧ RDc q rd nm n T (i3 D) h b ∧ (∀ p, p < m0 → f p = f0 p) ∧ (∃ fw, LMu K h (B 7) (B 9) (pQ' S.1) fw ∧ ∀ i, i < pQ' S.1 → ∃ x, f (fw i) = some (.inl (0, 2, .inl x)) ∧ x 0 = i3 (pA S.1 i) ∧ x 1 = i3 (pB S.1 i)) ∧ ∃ fr, LMu K h (B 8) (B 10) (pM S.1) fr := by
  obtain ⟨ly, mo, fw, fr, ⟨c1, c1n⟩, -, ⟨c3, c3w⟩, ⟨c4, c4r⟩, -, ⟨d1, d2, d3, d4, d5, -⟩, -⟩ := hC
  exact ⟨c1n, d2, d1, c1, d5, ⟨fw, c3, c3w⟩, ⟨fr, c4⟩⟩
/-- a number below the sheets there are -/
theorem LC_am (hG : LG K q rd n T hb m0 f0) (hC : LC K q rd n T hb m0 f0 f h r B g nm D S b) (hN : pN S.1 ≤ 9) (h1 : 1 ≤ r.2.1) (h2 : 7 ≤ r.2.2) : match spAm T n (pN S.1) b with
    | .inl v => vc h rd 4 (xchk r (C5_sheetNow K h r rd)) = some (.inl (i3 v, (h, r)))
    | .inr (k, p) => ∃ w, vc h rd 4 (xchk r (C5_sheetNow K h r rd)) = some (.inr w) ∧ CEr K q rd hb m0 r b 1 7 k p w := by
  obtain ⟨q1, q2, q3⟩ := LC_to hG hC
  have hbs := LC_base hC
  have hv := vlu_lt (T := T) (n := n) (b := b)
  have hN2 := C_now (m := 9999) (x := 9999) q1 q2 rfl (by decide) h1 h2
  obtain ⟨r1, -, -, -⟩ := LC_rd hC
  obtain ⟨m1, -⟩ := LC_mk hC
  have hw : ∀ k w, C5_numberNow K h r rd 0 9999 = some (.inr w) → CEr K q rd h r.1 r b 1 7 k b w → vc h rd 4 (xchk r (C5_sheetNow K h r rd)) = some (.inr w) ∧ CEr K q rd hb m0 r b 1 7 k b w := by
    intro k w e he
    have he' := he
    obtain ⟨a, h', r', ew, -, y1, y2, -, -⟩ := he
    have e1 : xchk r (C5_numberNow K h r rd 0 9999) = some (.inr w) := by rw [e]; exact xchk_r' (by rw [ew]; exact y1) (by rw [ew]; exact y2)
    have e2 : C5_sheetNow K h r rd = some (.inr w) := by
      unfold C5_sheetNow
      rw [LC_vc hC, e1, xg_r]
    rw [LC_vc hC, e2]
    exact ⟨xchk_r' (by rw [ew]; exact y1) (by rw [ew]; exact y2), CEr_base he' hbs.1 hbs.2.1⟩
  unfold spAm
  by_cases e2 : tkK T n b = 2
  · rw [if_pos e2] at hN2 ⊢
    by_cases e4 : tkE T n b - b ≤ 4
    · rw [if_pos ⟨e4, by omega⟩] at hN2
      rw [if_pos e4]
      have est : ∀ z, (xg Sum.inr (vc h rd 4 (xchv r (C5_want K h r rd (bI (decide (vlu T n b < pN S.1))) 3))) fun q5 => (some (.inl (i3 (vlu T n b), q5)) : Option ((Int32 × CS) ⊕ XT))) = z → C5_sheetNow K h r rd = z := by
        intro z hz
        unfold C5_sheetNow
        rw [LC_vc hC, hN2, xchk_l' (w := (i3 (vlu T n b), (h, r))) (Nat.le_refl _) (Nat.le_refl _), xg_l]
        dsimp only
        rw [r1, Option.bind_some, m1, Option.bind_some, lt9 (m := pN S.1) rfl (by omega) (by omega), xg_l]
        exact hz
      by_cases em : vlu T n b < pN S.1
      · rw [if_pos em]
        dsimp only
        rw [LC_vc hC, est _ (by rw [LC_want_y hG hC (decide_eq_true em), xg_l])]
        exact xchk_l' (w := (i3 (vlu T n b), (h, r))) (Nat.le_refl _) (Nat.le_refl _)
      · rw [if_neg em]
        obtain ⟨w, w1, w2⟩ := LC_want_n (x := 3) (k := 3) hG hC (decide_eq_false em) rfl h1 h2
        have w2' := w2
        obtain ⟨a, h', r', ew, -, y1, y2, -, -⟩ := w2
        refine ⟨w, ?_, w2'⟩
        rw [LC_vc hC, est _ (by rw [w1, xg_r])]
        exact xchk_r' (by rw [ew]; exact y1) (by rw [ew]; exact y2)
    · rw [if_neg (fun x => e4 x.1)] at hN2
      rw [if_neg e4]
      obtain ⟨w, w1, w2⟩ := hN2
      exact ⟨w, hw 2 w w1 w2⟩
  · rw [if_neg e2] at hN2 ⊢
    obtain ⟨w, w1, w2⟩ := hN2
    exact ⟨w, hw 1 w w1 w2⟩
theorem LC_hasW (hC : LC K q rd n T hb m0 f0 f h r B g nm D S b) (hQ : pQ' S.1 ≤ 12) (hA : ∀ i, i < pQ' S.1 → pA S.1 i < 9 ∧ pB S.1 i < 9) {a c : Nat} (ha : a < 2 ^ 20) (hc : c < 2 ^ 20) : vc h rd 4 (C5_hasWord h rd (i3 a) (i3 c)) = some (bI (hasW S.1 a c)) := by
  obtain ⟨-, hl, -, -, -, ⟨fw, L1, L2⟩, -⟩ := LC_ro hC
  obtain ⟨r1, -, -, -⟩ := LC_rd hC
  obtain ⟨-, -, m3, -, -, -⟩ := LC_mk hC
  have hL := LMu_LRd (by omega) L1
  have hst : ∀ k, k < pQ' S.1 → C5_hasWord_L2 h rd (i3 a) (i3 c) (i3 k) = if pA S.1 k = a ∧ pB S.1 k = c then some (.inr 1) else some (.inl (i3 (k + 1))) := by
    intro k hk
    obtain ⟨x, x1, x2, x3⟩ := L2 k hk
    obtain ⟨l1, l2⟩ := hA k hk
    have xh := hl _ _ x1
    unfold C5_hasWord_L2
    rw [r1, Option.bind_some, m3, Option.bind_some, LRd_size hL, Option.bind_some, if_pos ((i3_lt (by omega) (by omega)).mpr hk), Option.bind_some, m3, Option.bind_some, LRd_get hL hk, Option.bind_some, ckA_of xh, Option.bind_some, show aI h (fw k) 0 0 = some (x 0) from aI_of (i := 0) xh (by decide) (by decide), Option.bind_some, x2, i3_succ]
    by_cases e1 : pA S.1 k = a
    · rw [if_pos (by rw [e1]), Option.bind_some, m3, Option.bind_some, LRd_get hL hk, Option.bind_some, ckA_of xh, Option.bind_some, show aI h (fw k) 0 1 = some (x 1) from aI_of (i := 1) xh (by decide) (by decide), Option.bind_some, x3]
      by_cases e2 : pB S.1 k = c
      · rw [if_pos (by rw [e2]), if_pos ⟨e1, e2⟩]
      · rw [if_neg (fun z => e2 ((i3_inj (by omega) (by omega)).mp z)), if_neg (fun z => e2 z.2)]
    · rw [if_neg (fun z => e1 ((i3_inj (by omega) (by omega)).mp z)), if_neg (fun z => e1 z.1)]
  rw [LC_vc hC]
  obtain ⟨z, z1, z2⟩ := o_inv (step := C5_hasWord_L2 h rd (i3 a) (i3 c)) (fun k t => t = i3 k ∧ ∀ j, j < k → ¬ (pA S.1 j = a ∧ pB S.1 j = c)) (fun r => r = bI (hasW S.1 a c)) (pQ' S.1) (fun k t hk hP => by
    obtain ⟨rfl, hP2⟩ := hP
    rw [hst k hk]
    by_cases e : pA S.1 k = a ∧ pB S.1 k = c
    · rw [if_pos e]
      refine .inr ⟨_, rfl, ?_⟩
      rw [hasW_iff.mpr ⟨k, hk, e.1, e.2⟩]
      rfl
    · rw [if_neg e]
      refine .inl ⟨_, rfl, rfl, fun j hj => ?_⟩
      by_cases ej : j = k
      · rw [ej]; exact e
      · exact hP2 j (by omega)) (fun t hP => by
    obtain ⟨rfl, hP2⟩ := hP
    refine ⟨0, ?_, ?_⟩
    · unfold C5_hasWord_L2
      rw [r1, Option.bind_some, m3, Option.bind_some, LRd_size hL, Option.bind_some, if_neg (fun x => Nat.lt_irrefl _ ((i3_lt (by omega) (by omega)).mp x))]
    · have hno : hasW S.1 a c = false := bF (fun x => by
        obtain ⟨i, i1, i2, i3⟩ := hasW_iff.mp x
        exact hP2 i i1 ⟨i2, i3⟩)
      rw [hno]
      rfl) 0 0 (Nat.zero_le _) ⟨rfl, fun j hj => absurd hj (Nat.not_lt_zero _)⟩
  unfold C5_hasWord
  rw [z1, z2]
theorem C_word (hG : LG K q rd n T hb m0 f0) (hC : LC K q rd n T hb m0 f0 f h r B g nm D S b) (hS : WFL S) (hF : FD D S) (h3 : ∀ c, g 3 c = 0) (hbn : b < n) (h1 : 100 * (n - b) + 70 ≤ r.2.1) (h2 : 3000 * (n - b) + 700 ≤ r.2.2) : CLn K q rd n T hb m0 f0 r b (lnWord T n S b) (C5_word K h r rd) := by
  have hN := hS.1.1
  have hQ := hS.1.2.2.1
  have hA : ∀ i, i < pQ' S.1 → pA S.1 i < 9 ∧ pB S.1 i < 9 := fun i hi => by have := hS.1.2.2.2.2.2.2 i hi; omega
  have hbs := LC_base hC
  have hnx := nxt_lt (T := T) hbn
  have hnn := nxt_le (T := T) (n := n) (b := b) (by omega)
  obtain ⟨r1, -, -, -⟩ := LC_rd hC
  obtain ⟨-, -, m3, -, -, -⟩ := LC_mk hC
  obtain ⟨-, -, -, -, -, ⟨fw, L1, -⟩, -⟩ := LC_ro hC
  unfold C5_word lnWord
  rw [r1, Option.bind_some, m3, Option.bind_some, LRd_size (LMu_LRd (by omega) L1), Option.bind_some, lt9 (x := 12) (m := 12) rfl (by omega) (by decide), xg_l]
  by_cases e12 : pQ' S.1 < 12
  · obtain ⟨k1, g1, C1, -⟩ := LC_nx hG hC
    rw [if_pos e12, LC_want_y hG hC (decide_eq_true e12), xg_l]
    dsimp only
    rw [g1, Option.bind_some]
    have a1 := LC_am hG C1 hN (by omega) (by omega)
    have a1' := spAm_ok (T := T) (n := n) (m := pN S.1) (b := nxb T n b)
    cases e1 : spAm T n (pN S.1) (nxb T n b) with
    | inr z =>
      obtain ⟨k, p⟩ := z
      rw [e1] at a1 a1'
      obtain ⟨w, w1, w2⟩ := a1
      exact ⟨w, by rw [w1, xg_r], CEr_up w2 (Nat.le_refl _) (Nat.le_refl _) (Nat.le_refl _) (by omega) (by omega) (by omega) (by omega)⟩
    | inl a =>
      rw [e1] at a1 a1'
      have hlt1 : nxb T n b < n := tk_lt (by rw [a1'.2]; decide)
      have hnx1 := nxt_lt (T := T) hlt1
      have hnn1 := nxt_le (T := T) (n := n) (b := nxb T n b) (by omega)
      obtain ⟨k2, g2, C2, -⟩ := LC_nx hG C1
      rw [a1, xg_l]
      dsimp only
      rw [g2, Option.bind_some]
      have a2 := LC_am hG C2 hN (by omega) (by omega)
      have a2' := spAm_ok (T := T) (n := n) (m := pN S.1) (b := nxb T n (nxb T n b))
      cases e2 : spAm T n (pN S.1) (nxb T n (nxb T n b)) with
      | inr z =>
        obtain ⟨k, p⟩ := z
        rw [e2] at a2 a2'
        obtain ⟨w, w1, w2⟩ := a2
        exact ⟨w, by rw [w1, xg_r], CEr_up w2 (Nat.le_refl _) (Nat.le_refl _) (Nat.le_refl _) (by omega) (by omega) (by omega) (by omega)⟩
      | inl c =>
        rw [e2] at a2 a2'
        have hlt2 : nxb T n (nxb T n b) < n := tk_lt (by rw [a2'.2]; decide)
        have hnx2 := nxt_lt (T := T) hlt2
        have hnn2 := nxt_le (T := T) (n := n) (b := nxb T n (nxb T n b)) (by omega)
        rw [a2, xg_l]
        dsimp only
        have hc : (if i3 a = i3 c then (some (.inl 0)) else ((vc k2 rd 4 (C5_hasWord k2 rd (i3 a) (i3 c))).bind fun q20 => if q20 = 0 then (some (.inl 1)) else (some (.inl 0))) : Option (Int32 ⊕ XT)) = some (.inl (bI (decide (¬ (a = c ∨ hasW S.1 a c = true))))) := by
          rw [LC_hasW C2 hQ hA (by omega) (by omega), Option.bind_some]
          by_cases e : a = c
          · rw [if_pos (by rw [e]), decide_eq_false (show ¬ ¬ (a = c ∨ hasW S.1 a c = true) from fun x => x (.inl e))]; rfl
          · rw [if_neg (fun x => e ((i3_inj (by omega) (by omega)).mp x))]
            by_cases eh : hasW S.1 a c = true
            · rw [if_neg (bI_n0 eh), decide_eq_false (show ¬ ¬ (a = c ∨ hasW S.1 a c = true) from fun x => x (.inr eh))]; rfl
            · rw [if_pos (bI_y0 (bF eh)), decide_eq_true (show ¬ (a = c ∨ hasW S.1 a c = true) from fun x => x.elim e eh)]; rfl
        rw [hc, xg_l]
        by_cases e4 : a = c ∨ hasW S.1 a c = true
        · obtain ⟨w, w1, w2⟩ := LC_want_n (x := 4) (k := 4) hG C2 (decide_eq_false (show ¬ ¬ (a = c ∨ hasW S.1 a c = true) from fun x => x e4)) rfl (by omega) (by omega)
          rw [if_pos e4, w1, xg_r]
          exact ⟨w, rfl, CEr_up w2 (Nat.le_refl _) (Nat.le_refl _) (Nat.le_refl _) (by omega) (Nat.le_refl _) (by omega) (by omega)⟩
        · obtain ⟨k3, g3, C3, -⟩ := LC_nx hG C2
          have hb3 := LC_base C3
          rw [if_neg e4, LC_want_y hG C2 (decide_eq_true (show ¬ (a = c ∨ hasW S.1 a c = true) from e4)), xg_l]
          dsimp only
          obtain ⟨r3, -, -, -⟩ := LC_rd C3
          obtain ⟨-, -, m7, -, -, -⟩ := LC_mk C3
          obtain ⟨o1, o2, o3, o4, -⟩ := LC_ro C3
          rw [g3, Option.bind_some, r3, Option.bind_some, m7, Option.bind_some, show aArr k3 r 0 2 = _ from aArr_of (n := 2) (by omega) (by omega) (by decide), Option.bind_some]
          dsimp only
          rw [show sI (hup k3 r.1 (.inl (0, 2, .inl (fun _ => 0)))) r.1 0 0 (i3 a) = _ from sI_of (i := 0) hup_s (by decide) (by decide), Option.bind_some, hup_hup, show sI (hup k3 r.1 (.inl (0, 2, .inl (upd (fun _ => 0) 0 (i3 a))))) r.1 0 1 (i3 c) = _ from sI_of (i := 1) hup_s (by decide) (by decide), Option.bind_some, hup_hup]
          have C4 : LC K q rd n T hb m0 f0 f (hup k3 r.1 (.inl (0, 2, .inl (upd (upd (fun _ => 0) 0 (i3 a)) 1 (i3 c))))) (r.1 + 1, r.2.1 - 1, r.2.2 - 2) B g nm D S (nxb T n (nxb T n (nxb T n b))) := by
            refine LC_fr C3 (fun p p1 _ => hup_n (by omega)) ?_ o1 (FR_up o3) (Nat.le_succ _)
            obtain ⟨v1, v, v2, v3⟩ := o4
            exact ⟨v1, v, by show hup k3 r.1 _ rd = _; rw [hup_n (by have := hb3.2.2.2.2; omega)]; exact v2, v3⟩
          have hlt3 := LC_lt hG C3
          obtain ⟨C5, -⟩ := LC_ext (lo := r.1) (hi := r.1 + 1) C4 hb3.2.1 (fun i hi => by have := hlt3 i hi; omega)
          obtain ⟨h', r', B', x1, x2, ⟨x3, x4, x5, x6⟩, x7⟩ := LC_addW (x := r.1) (a := a) (c := c) (y := upd (upd (fun _ => 0) 0 (i3 a)) 1 (i3 c)) hG C5 hQ (by rw [frz_in (Nat.le_refl _) (Nat.lt_succ_self _)]; exact hup_s) rfl rfl (by dsimp only; omega) (by dsimp only; omega)
          dsimp only at x3 x4 x5 x6 x7
          rw [x1, Option.bind_some]
          exact ⟨_, h', r', B', g, nm, D, rfl, x2, ⟨hF, h3⟩, ⟨by omega, by omega, by omega, by omega⟩, by omega⟩
  · obtain ⟨w, w1, w2⟩ := LC_want_n (x := 2) (k := 2) hG hC (decide_eq_false e12) rfl (by omega) (by omega)
    rw [if_neg e12, w1, xg_r]
    exact ⟨w, rfl, CEr_up w2 (Nat.le_refl _) (Nat.le_refl _) (Nat.le_refl _) (Nat.le_refl _) (Nat.le_refl _) (by omega) (by omega)⟩
end CLINES5
