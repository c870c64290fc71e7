/-! ===== office: the component reads a sheet's line, and the lines that may stand once ===== -/
section CLINES2
variable {K q : Nat → Nat} {rd n m0 : Nat} {T : Nat → Nat} {hb f0 f h h' : CH} {r r' : CR} {B : Nat → Nat} {g : Nat → Nat → Int32} {S : OS} {b nm D : Nat}
theorem LC_mk (hC : LC K q rd n T hb m0 f0 f h r B g nm D S b) : gI h (B 1) 2 2 = some (i3 (pN S.1)) ∧ gI h (B 1) 2 3 = some (i3 (pS S.1)) ∧ gR h (B 1) 2 0 = some (B 7) ∧ gR h (B 1) 2 1 = some (B 8) ∧ (∀ i, i < 3 → gR h (B 2) 3 i = some (B (3 + i))) ∧ ∀ i, i < 3 → h (B (3 + i)) = some (.inl (0, 9, .inl (g i))) := by
  obtain ⟨ly, mo, fw, fr, -, ⟨c2, ⟨s1, s2, s3, s4, s5⟩, -⟩, -⟩ := hC
  refine ⟨gI_of c2 (k := 2) rfl, gI_of c2 (k := 3) rfl, gR_of c2 (k := 0) rfl, gR_of c2 (k := 1) rfl, fun i hi => ?_, fun i hi => ?_⟩
  · have : i = 0 ∨ i = 1 ∨ i = 2 := by omega
    rcases this with rfl | rfl | rfl
    · exact gR_of s1 (k := 0) rfl
    · exact gR_of s1 (k := 1) rfl
    · exact gR_of s1 (k := 2) rfl
  · have : i = 0 ∨ i = 1 ∨ i = 2 := by omega
    rcases this with rfl | rfl | rfl
    · exact s2
    · exact s3
    · exact s4
theorem LC_lt (hG : LG K q rd n T hb m0 f0) (hC : LC K q rd n T hb m0 f0 f h r B g nm D S b) : ∀ i, i < 11 → B i < r.1 := by
  have hsm := LC_some hC
  obtain ⟨ly, mo, fw, fr, -, -, ⟨⟨mc, c3, c3x⟩, -⟩, ⟨⟨mc2, c4, c4x⟩, -⟩, -, ⟨d1, d2, d3, -⟩, -⟩ := hC
  have hK0 := hG.1.2.2 0 (by decide)
  have hK1 := hG.1.2.2 1 (by decide)
  intro i hi
  by_cases h9 : i < 9
  · obtain ⟨c, hc⟩ := hsm i h9
    exact FR_lt d1 hc
  · have : i = 9 ∨ i = 10 := by omega
    rcases this with rfl | rfl
    · rcases c3x with ⟨-, x | x⟩ | ⟨cap, ga, x, -⟩
      · omega
      · omega
      · exact FR_lt d1 x
    · rcases c4x with ⟨-, x | x⟩ | ⟨cap, ga, x, -⟩
      · omega
      · omega
      · exact FR_lt d1 x
/-- the office's cell is written -/
theorem LC_mc (hC : LC K q rd n T hb m0 f0 f h r B g nm D S b) : ∃ ly mo, h (B 1) = some (.inr (2, [.ref (B 7), .ref (B 8), .int (i3 (pN S.1)), .int (i3 (pS S.1)), va_rf ly, va_rf mo])) ∧ FYr K cvL f ly (pY S.1) ∧ FYr K cvM f mo (pZ S.1) ∧ ∀ (P' : PO) (w' : SV) (sl' : Bool) (ly' mo' : Option Nat), pQ' P' = pQ' S.1 → (∀ i, pA P' i = pA S.1 i) → (∀ i, pB P' i = pB S.1 i) → pM P' = pM S.1 → (∀ c, pL P' c = pL S.1 c) → (∀ c i, pR P' c i = pR S.1 c i) → SA P' g 0 w' → FYr K cvL f ly' (pY P') → FYr K cvM f mo' (pZ P') →
    LC K q rd n T hb m0 f0 f (hup h (B 1) (.inr (2, [.ref (B 7), .ref (B 8), .int (i3 (pN P')), .int (i3 (pS P')), va_rf ly', va_rf mo']))) r B g nm D (P', w', sl') b := by
  obtain ⟨ly, mo, fw, fr, ⟨⟨c1, v0, ev, c1x⟩, c1n⟩, ⟨c2, ⟨s1, s2, s3, s4, s5⟩, c2a⟩, ⟨c3, c3w⟩, ⟨c4, c4r⟩, ⟨c5, c6⟩, ⟨d1, d2, d3, d4, d5, d6, d7, d8⟩, ⟨b0, b1, b2, b3, b4, b5, b6, b7⟩⟩ := hC
  refine ⟨ly, mo, c2, c5, c6, fun P' w' sl' ly' mo' e1 e2 e3 e4 e5 e6 hA hY hZ => ?_⟩
  have hne : ∀ j, j < 11 → j ≠ 1 → B j ≠ B 1 := fun j hj hj2 x => by
    by_cases hj9 : j < 9
    · exact hj2 (b3 j 1 hj9 (by decide) x)
    · exact b5 j 1 (by omega) hj (by decide) x
  have hn : ∀ j (e : CE), j < 11 → j ≠ 1 → hup h (B 1) e (B j) = h (B j) := fun j e hj hj2 => hup_n (hne j hj hj2)
  have hlt := FR_lt d1 c2
  refine ⟨ly', mo', fw, fr, ⟨⟨c1, v0, by rw [← b0, hn 0 _ (by decide) (by decide), b0]; exact ev, c1x⟩, c1n⟩, ⟨hup_s, ⟨by rw [hn 2 _ (by decide) (by decide)]; exact s1, by rw [hn (3 + 0) _ (by decide) (by decide)]; exact s2, by rw [hn (3 + 1) _ (by decide) (by decide)]; exact s3, by rw [hn (3 + 2) _ (by decide) (by decide)]; exact s4, by rw [hn (3 + 3) _ (by decide) (by decide)]; exact s5⟩, hA⟩, ⟨?_, fun i hi => ?_⟩, ⟨?_, fun c hc => ?_⟩, ⟨hY, hZ⟩, ⟨FR_set d1 hlt, fun p x hx => ?_, d3, fun p hp => ?_, d5, d6, d7, d8⟩, ⟨b0, b1, b2, b3, b4, b5, b6, b7⟩⟩
  · show LMu K _ (B 7) (B 9) (pQ' P') fw
    rw [e1]
    exact LMu_eq c3 (hn 7 _ (by decide) (by decide)) (fun _ => hn 9 _ (by decide) (by decide))
  · have hi2 : i < pQ' P' := hi
    rw [e1] at hi2
    obtain ⟨x, x1, x2, x3⟩ := c3w i hi2
    exact ⟨x, x1, by rw [x2]; exact congrArg i3 (e2 i).symm, by rw [x3]; exact congrArg i3 (e3 i).symm⟩
  · show LMu K _ (B 8) (B 10) (pM P') fr
    rw [e4]
    exact LMu_eq c4 (hn 8 _ (by decide) (by decide)) (fun _ => hn 10 _ (by decide) (by decide))
  · have hc2 : c < pM P' := hc
    rw [e4] at hc2
    obtain ⟨fi, x1, x2⟩ := c4r c hc2
    refine ⟨fi, by rw [show pL (P', w', sl').1 c = pL S.1 c from e5 c]; exact x1, fun i hi => ?_⟩
    have hi2 : i < pL P' c := hi
    rw [e5] at hi2
    rw [x2 i hi2, show pR (P', w', sl').1 c i = pR S.1 c i from e6 c i]
  · rw [hup_n (fun y => by
      have := b6 1 (by decide)
      rw [← y, hx] at this
      cases this)]
    exact d2 p x hx
  · rw [hup_n (fun y => by
      have := b4 1 (by decide)
      omega)]
    exact d4 p hp
def frz (f h : CH) (lo hi : Nat) : CH := fun p => if lo ≤ p ∧ p < hi then h p else f p
theorem frz_in {lo hi p : Nat} (h1 : lo ≤ p) (h2 : p < hi) : frz f h lo hi p = h p := if_pos ⟨h1, h2⟩
theorem frz_out {lo hi p : Nat} (h1 : ¬ (lo ≤ p ∧ p < hi)) : frz f h lo hi p = f p := if_neg h1
theorem frz_hle {lo hi : Nat} (hl : hle f h) : hle f (frz f h lo hi) := fun p x hx => by
  unfold frz
  split
  · exact hl p x hx
  · exact hx
/-- what is new comes to rest -/
theorem LC_ext {lo hi : Nat} (hC : LC K q rd n T hb m0 f0 f h r B g nm D S b) (hlo : m0 ≤ lo) (hB : ∀ i, i < 11 → ¬ (lo ≤ B i ∧ B i < hi)) : LC K q rd n T hb m0 f0 (frz f h lo hi) h r B g nm D S b ∧ hle f (frz f h lo hi) := by
  obtain ⟨ly, mo, fw, fr, c1, c2, ⟨c3, c3w⟩, ⟨c4, c4r⟩, ⟨c5, c6⟩, ⟨d1, d2, d3, d4, d5, d6, d7, d8⟩, ⟨b0, b1, b2, b3, b4, b5, b6, b7⟩⟩ := hC
  have hl : hle f (frz f h lo hi) := frz_hle d2
  refine ⟨⟨ly, mo, fw, fr, c1, c2, ⟨c3, fun i hi => ?_⟩, ⟨c4, fun c hc => ?_⟩, ⟨FYr_mono c5 hl, FYr_mono c6 hl⟩, ⟨d1, fun p x hx => ?_, d3, d4, fun p hp => by rw [frz_out (by omega)]; exact d5 p hp, TXA_hle d6 hl, TXA_hle d7 hl, TXA_hle d8 hl⟩, ⟨b0, b1, b2, b3, b4, b5, fun i hi => by rw [frz_out (hB i hi)]; exact b6 i hi, b7⟩⟩, hl⟩
  · obtain ⟨x, x1, x2⟩ := c3w i hi
    exact ⟨x, hl _ _ x1, x2⟩
  · obtain ⟨fi, x1, x2⟩ := c4r c hc
    exact ⟨fi, LRd_mono hl x1, fun i hi => hl _ _ (x2 i hi)⟩
  · unfold frz at hx
    split at hx
    · exact hx
    · exact d2 p x hx
theorem lt9 {k m : Nat} {x : Int32} (hx : x = i3 m) (hk : k < 2 ^ 31) (hm : m < 2 ^ 31) : (if i3 k < x then (some (.inl 1)) else (some (.inl 0)) : Option (Int32 ⊕ XT)) = some (.inl (bI (decide (k < m)))) := by
  by_cases e : k < m
  · rw [if_pos (by rw [hx]; exact (i3_lt hk hm).mpr e), decide_eq_true e]; rfl
  · rw [if_neg (by rw [hx]; exact fun z => e ((i3_lt hk hm).mp z)), decide_eq_false e]; rfl
theorem C_sheet (hG : LG K q rd n T hb m0 f0) (hC : LC K q rd n T hb m0 f0 f h r B g nm D S b) (hS : WFL S) (hF : FD D S) (h3 : ∀ c, g 3 c = 0) (hbn : b < n) (h1 : 100 * (n - b) + 70 ≤ r.2.1) (h2 : 3000 * (n - b) + 700 ≤ r.2.2) : CLn K q rd n T hb m0 f0 r b (lnSheet T n S b) (C5_sheet K h r rd) := by
  have hN9 : pN S.1 ≤ 9 := hS.1.1
  have hM6 : pM S.1 ≤ 6 := hS.1.2.1
  have hbs := LC_base hC
  obtain ⟨r1, r2, -, -⟩ := LC_rd hC
  obtain ⟨m1, -⟩ := LC_mk hC
  unfold C5_sheet lnSheet
  rw [r1, Option.bind_some, m1, Option.bind_some, lt9 (x := 9) (m := 9) rfl (by omega) (by decide), xg_l]
  by_cases e9 : pN S.1 < 9
  · have hnx := nxt_lt (T := T) hbn
    have hnn := nxt_le (T := T) (n := n) (b := b) (by omega)
    obtain ⟨k1, g1, C1, -⟩ := LC_nx hG hC
    rw [if_pos e9, LC_want_y hG hC (decide_eq_true e9), xg_l]
    dsimp only
    obtain ⟨-, r2, -, -⟩ := LC_rd C1
    obtain ⟨-, -, -, -, m5, -⟩ := LC_mk C1
    rw [g1, Option.bind_some, r2, Option.bind_some, m5 0 (by decide), Option.bind_some]
    have n1 := LC_num (m := 255) (x := 255) hG C1 rfl (by decide) (by omega) (by omega)
    have k1' := spNum_ok (T := T) (m := 255) hnn
    cases e1 : spNum T n 255 (nxb T n b) with
    | inr z =>
      obtain ⟨k, p⟩ := z
      rw [e1] at n1 k1'
      obtain ⟨w, w1, w2⟩ := n1
      exact ⟨w, by rw [w1, xg_r], CEr_up w2 (Nat.le_refl _) (Nat.le_refl _) (Nat.le_refl _) (by omega) (by omega) (by omega) (by omega)⟩
    | inl z =>
      obtain ⟨b1, l⟩ := z
      rw [e1] at n1 k1'
      obtain ⟨k2, w1, C2, -⟩ := n1
      obtain ⟨x1, x2, -, -⟩ := k1'
      obtain ⟨-, -, -, -, -, m6⟩ := LC_mk C2
      rw [w1, xg_l]
      dsimp only
      rw [sI_of (m6 0 (by decide)) e9 (by decide), Option.bind_some]
      have C3 := LC_arr (i := 0) (N := pN S.1) (v := i3 l) C2 (by decide) (Nat.le_refl _)
      obtain ⟨-, r3, -, -⟩ := LC_rd C3
      obtain ⟨-, -, -, -, m7, -⟩ := LC_mk C3
      rw [show (3 + 0 : Nat) = 3 from rfl] at C3 r3 m7
      rw [r3, Option.bind_some, m7 1 (by decide), Option.bind_some]
      have n2 := LC_num (m := 255) (x := 255) hG C3 rfl (by decide) (by omega) (by omega)
      have k2' := spNum_ok (T := T) (m := 255) x2
      cases e2 : spNum T n 255 b1 with
      | inr z =>
        obtain ⟨k, p⟩ := z
        rw [e2] at n2 k2'
        obtain ⟨w, w3, w4⟩ := n2
        exact ⟨w, by rw [w3, xg_r], CEr_up w4 (Nat.le_refl _) (Nat.le_refl _) (Nat.le_refl _) (by omega) (by omega) (by omega) (by omega)⟩
      | inl z =>
        obtain ⟨b2, ed⟩ := z
        rw [e2] at n2 k2'
        obtain ⟨k3, w3, C4, -⟩ := n2
        obtain ⟨y1, y2, -, -⟩ := k2'
        obtain ⟨-, -, -, -, -, m8⟩ := LC_mk C4
        rw [w3, xg_l]
        dsimp only
        rw [sI_of (m8 1 (by decide)) e9 (by decide), Option.bind_some]
        have C5 := LC_arr (i := 1) (N := pN S.1) (v := i3 ed) C4 (by decide) (Nat.le_refl _)
        obtain ⟨-, r5, -, -⟩ := LC_rd C5
        obtain ⟨-, -, -, -, m9, -⟩ := LC_mk C5
        rw [r5, Option.bind_some, m9 2 (by decide), Option.bind_some]
        have n3 := LC_num (m := 3) (x := 3) hG C5 rfl (by decide) (by omega) (by omega)
        have k3' := spNum_ok (T := T) (m := 3) y2
        cases e3 : spNum T n 3 b2 with
        | inr z =>
          obtain ⟨k, p⟩ := z
          rw [e3] at n3 k3'
          obtain ⟨w, w5, w6⟩ := n3
          exact ⟨w, by rw [w5, xg_r], CEr_up w6 (Nat.le_refl _) (Nat.le_refl _) (Nat.le_refl _) (by omega) (by omega) (by omega) (by omega)⟩
        | inl z =>
          obtain ⟨b3, t⟩ := z
          rw [e3] at n3 k3'
          obtain ⟨k4, w5, C6, -⟩ := n3
          obtain ⟨z1, z2, z3, -⟩ := k3'
          obtain ⟨-, -, -, -, -, m10⟩ := LC_mk C6
          rw [w5, xg_l]
          dsimp only
          rw [sI_of (m10 2 (by decide)) e9 (by decide), Option.bind_some]
          have C7 := LC_arr (i := 2) (N := pN S.1) (v := i3 t) C6 (by decide) (Nat.le_refl _)
          obtain ⟨r7, -, -, -⟩ := LC_rd C7
          obtain ⟨m11, -⟩ := LC_mk C7
          have hsa : SA S.1 g 0 S.2.1 := by
            obtain ⟨ly, mo, fw, fr, -, ⟨-, -, sa⟩, -⟩ := hC
            exact sa
          obtain ⟨a1, a2, a3, a4, a5⟩ := hsa
          have hA : SA (oN S.1) (upg (upg (upg g 0 (pN S.1) (i3 l)) 1 (pN S.1) (i3 ed)) 2 (pN S.1) (i3 t)) 0 (upn (upn (upn S.2.1 (1 + pN S.1) l) (10 + pN S.1) ed) (19 + pN S.1) t) := by
            have u : ∀ j, j ≠ 1 + pN S.1 → j ≠ 10 + pN S.1 → j ≠ 19 + pN S.1 → upn (upn (upn S.2.1 (1 + pN S.1) l) (10 + pN S.1) ed) (19 + pN S.1) t j = S.2.1 j := by
              intro j j1 j2 j3
              unfold upn
              rw [if_neg j3, if_neg j2, if_neg j1]
            have u1 : upn (upn (upn S.2.1 (1 + pN S.1) l) (10 + pN S.1) ed) (19 + pN S.1) t (1 + pN S.1) = l := by
              unfold upn
              rw [if_neg (by omega), if_neg (by omega), if_pos rfl]
            have u2 : upn (upn (upn S.2.1 (1 + pN S.1) l) (10 + pN S.1) ed) (19 + pN S.1) t (10 + pN S.1) = ed := by
              unfold upn
              rw [if_neg (by omega), if_pos rfl]
            have u3 : upn (upn (upn S.2.1 (1 + pN S.1) l) (10 + pN S.1) ed) (19 + pN S.1) t (19 + pN S.1) = t := by
              unfold upn
              rw [if_pos rfl]
            have g0 : ∀ k, upg (upg (upg g 0 (pN S.1) (i3 l)) 1 (pN S.1) (i3 ed)) 2 (pN S.1) (i3 t) 0 k = if k = pN S.1 then i3 l else g 0 k := fun k => rfl
            have g1 : ∀ k, upg (upg (upg g 0 (pN S.1) (i3 l)) 1 (pN S.1) (i3 ed)) 2 (pN S.1) (i3 t) 1 k = if k = pN S.1 then i3 ed else g 1 k := fun k => rfl
            have g2 : ∀ k, upg (upg (upg g 0 (pN S.1) (i3 l)) 1 (pN S.1) (i3 ed)) 2 (pN S.1) (i3 t) 2 k = if k = pN S.1 then i3 t else g 2 k := fun k => rfl
            refine ⟨fun k hk => ?_, fun k hk => ?_, fun k hk => ?_, fun c hc => ?_, ?_⟩
            · have hk2 : k < pN S.1 + 1 := hk
              rw [g0]
              by_cases ek : k = pN S.1
              · rw [if_pos ek, ek, u1]
              · rw [if_neg ek, u _ (by omega) (by omega) (by omega)]; exact a1 k (by omega)
            · have hk2 : k < pN S.1 + 1 := hk
              rw [g1]
              by_cases ek : k = pN S.1
              · rw [if_pos ek, ek, u2]
              · rw [if_neg ek, u _ (by omega) (by omega) (by omega)]; exact a2 k (by omega)
            · have hk2 : k < pN S.1 + 1 := hk
              rw [g2]
              by_cases ek : k = pN S.1
              · rw [if_pos ek, ek, u3]
                unfold atC
                rw [if_neg (by omega)]
              · rw [if_neg ek, u _ (by omega) (by omega) (by omega)]; exact a3 k (by omega)
            · rw [u _ (by omega) (by omega) (by omega)]
              exact a4 c hc
            · rw [u _ (by omega) (by omega) (by omega)]; exact a5
          obtain ⟨ly, mo, c1, c2, c3, c4⟩ := LC_mc C7
          have C8 := c4 (oN S.1) (upn (upn (upn S.2.1 (1 + pN S.1) l) (10 + pN S.1) ed) (19 + pN S.1) t) S.2.2 ly mo rfl (fun _ => rfl) (fun _ => rfl) rfl (fun _ => rfl) (fun _ _ => rfl) hA c2 c3
          rw [r7, Option.bind_some, m11, Option.bind_some, pI_of c1 (show 2 < 6 by decide), Option.bind_some, i3_succ]
          exact ⟨f, _, r, B, _, nm, D, rfl, C8, ⟨hF, fun c => h3 c⟩, ⟨Nat.le_refl _, Nat.le_refl _, by omega, by omega⟩, Nat.le_refl _⟩
  · obtain ⟨w, w1, w2⟩ := LC_want_n (x := 2) (k := 2) hG hC (decide_eq_false e9) rfl (by omega) (by omega)
    rw [if_neg e9, w1, xg_r]
    exact ⟨w, rfl, CEr_up w2 (Nat.le_refl _) (Nat.le_refl _) (Nat.le_refl _) (Nat.le_refl _) (Nat.le_refl _) (by omega) (by omega)⟩
end CLINES2
