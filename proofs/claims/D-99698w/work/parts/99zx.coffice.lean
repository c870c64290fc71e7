/-! ===== office: the component, whole: the reader's start, the text read ===== -/
section COFF
variable {K : Nat → Nat} {hb f0 : CH} {o m0 n : Nat} {T : Nat → Nat} {r : CR}
/-- where the new things lie -/
def Bof (m0 k : Nat) : Nat → Nat := fun i => if i = 0 then m0 else if i = 1 then m0 + 1 else if i = 2 then m0 + 4 else if i < 7 then m0 + 2 + i else if i = 7 then m0 + 2 else if i = 8 then m0 + 3 else k
theorem Bof_le {k i : Nat} (hi : i < 9) : m0 ≤ Bof m0 k i ∧ Bof m0 k i < m0 + 9 := by
  unfold Bof
  repeat' split
  all_goals omega
theorem Bof_hi {k i : Nat} (hi : 9 ≤ i) : Bof m0 k i = k := by
  unfold Bof
  rw [if_neg (by omega), if_neg (by omega), if_neg (by omega), if_neg (by omega), if_neg (by omega), if_neg (by omega)]
theorem Bof_inj {k i j : Nat} (hi : i < 9) (hj : j < 9) (e : Bof m0 k i = Bof m0 k j) : i = j := by
  unfold Bof at e
  repeat' split at e
  all_goals omega
def oZer : OS := (P0, fun _ => 0, false)
theorem LC_start {h2 : CH} {c s : Nat} (hG : LG K (qR m0 o) m0 n T hb m0 f0) (i1 : h2 m0 = some (.inr (4, rdF (qR m0 o) (i3 n) (m0 + 10) 0 0 0 0 0 0))) (i2 : h2 (m0 + 1) = some (.inr (2, [.ref (m0 + 2), .ref (m0 + 3), .int 0, .int 0, .null, .null])))
    (i3a : h2 (m0 + 2) = some (.inr (10, [.int 0, .ref (K 0), .int 0]))) (i4 : h2 (m0 + 3) = some (.inr (10, [.int 0, .ref (K 0), .int 0]))) (i5 : SC h2 o (m0 + 4) (fun i => m0 + 5 + i) (fun _ _ => 0) 0)
    (i6 : TXA K h2 (m0 + 9) [0, 1, 2]) (i7 : TXA K h2 (m0 + 10) [3, 4, 5, 6, 7]) (i8 : TXA K h2 (m0 + 11) [8, 9, 10, 3, 11, 7]) (i9 : FR h2 (m0 + 12)) (i10 : ∀ p, p < m0 → h2 p = hb p) :
    ∃ f3 h3, vc h2 m0 4 (C5_next K h2 m0) = some h3 ∧ LC K (qR m0 o) m0 n T hb m0 f0 f3 h3 (m0 + 12, c, s) (Bof m0 (K 0)) (fun _ _ => 0) (m0 + 10) 0 oZer (run isW T n 700 0) := by
  obtain ⟨⟨hK, hk01, hKb⟩, ⟨⟨fo, tp, gt, t1, t2, t3, t4⟩, hfr, hkn, hle0⟩, ⟨hn, hT⟩, -⟩ := hG
  have ht2 : TapeC h2 o T := ⟨fo, tp, gt, (i10 o (FR_lt hfr t1)).trans t1, t2, by rw [i10 _ (FR_lt hfr t3)]; exact t3, t4⟩
  obtain ⟨v, n1, n2⟩ := C5_next_eq (q := qR m0 o) (nm := m0 + 10) (d := 0) (t := 0) (be := 0) (en := 0) (v := 0) (p := 0) hK ht2 hT hn (Nat.zero_le _) i1 rfl
  have f0n : ∀ p, m0 ≤ p → f0 p = none := fun p hp => by
    cases e : f0 p with
    | none => rfl
    | some x => have := hle0 p x e; rw [hfr p hp] at this; cases this
  have hne : ∀ p, p ≠ m0 → ∀ x, hup h2 m0 x p = h2 p := fun p hp x => hup_n hp
  refine ⟨frz f0 h2 (m0 + 9) (m0 + 12), _, by rw [vc_of i1]; exact n1, none, none, fun _ => 0, fun _ => 0, ⟨⟨run_le 700 0 (Nat.zero_le _), v, hup_s, n2⟩, .inl rfl⟩, ⟨?_, ?_, ?_⟩, ⟨⟨0, ?_, .inl ⟨rfl, .inl rfl⟩⟩, fun i hi => absurd hi (Nat.not_lt_zero _)⟩, ⟨⟨0, ?_, .inl ⟨rfl, .inl rfl⟩⟩, fun i hi => absurd hi (Nat.not_lt_zero _)⟩, ⟨rfl, rfl⟩, ⟨fun p hp => ?_, fun p x hx => ?_, by show m0 ≤ m0 + 12; omega, fun p hp => ?_, fun p hp => frz_out (by omega), ?_, ?_, ?_⟩, ⟨rfl, rfl, rfl, fun i j hi hj e => Bof_inj hi hj e, fun i hi => (Bof_le hi).1, fun i j h9 hi hj e => ?_, fun i hi => ?_, fun _ => rfl, fun i h9 hi => .inr (Bof_hi h9)⟩⟩
  · show hup h2 m0 _ (m0 + 1) = _
    rw [hup_n (by omega)]
    exact i2
  · obtain ⟨s1, s2, s3, s4, s5⟩ := i5
    exact ⟨(hne (m0 + 4) (by omega) _).trans s1, (hne (m0 + 5) (by omega) _).trans s2, (hne (m0 + 6) (by omega) _).trans s3, (hne (m0 + 7) (by omega) _).trans s4, (hne (m0 + 8) (by omega) _).trans s5⟩
  · exact ⟨fun k hk => absurd hk (Nat.not_lt_zero _), fun k hk => absurd hk (Nat.not_lt_zero _), fun k hk => absurd hk (Nat.not_lt_zero _), fun k hk => absurd hk (Nat.not_lt_zero _), rfl⟩
  · exact (hne (m0 + 2) (by omega) _).trans i3a
  · exact (hne (m0 + 3) (by omega) _).trans i4
  · have hp : m0 + 12 ≤ p := hp
    rw [hup_n (by omega)]
    exact i9 p hp
  · by_cases e : m0 + 9 ≤ p ∧ p < m0 + 12
    · rw [frz_in e.1 e.2] at hx
      rw [hup_n (by omega)]
      exact hx
    · rw [frz_out e] at hx
      have hpm : p < m0 := FR_lt hfr (hle0 _ _ hx)
      rw [hup_n (by omega), i10 p hpm]
      exact hle0 _ _ hx
  · rw [hup_n (by omega)]
    exact i10 p hp
  · obtain ⟨g, g1, g2⟩ := i6
    exact ⟨g, by rw [show qR m0 o 3 = m0 + 9 from rfl, frz_in (by omega) (by omega)]; exact g1, g2⟩
  · obtain ⟨g, g1, g2⟩ := i7
    exact ⟨g, by rw [show qR m0 o 4 = m0 + 10 from rfl, frz_in (by omega) (by omega)]; exact g1, g2⟩
  · obtain ⟨g, g1, g2⟩ := i8
    exact ⟨g, by rw [show qR m0 o 5 = m0 + 11 from rfl, frz_in (by omega) (by omega)]; exact g1, g2⟩
  · rw [Bof_hi h9] at e
    have := (Bof_le (m0 := m0) (k := K 0) hj).1
    have := hKb 0 (by decide)
    omega
  · by_cases h9 : i < 9
    · have := Bof_le (m0 := m0) (k := K 0) h9
      rw [frz_out (by omega)]
      exact f0n _ this.1
    · have := hKb 0 (by decide)
      rw [Bof_hi (by omega), frz_out (by omega)]
      cases e : f0 (K 0) with
      | none => rfl
      | some x =>
        have := hle0 _ _ e
        rw [hkn.1] at this
        cases this
theorem FD_0 : FD 0 oZer := ⟨by decide, rfl, rfl, rfl⟩
/-- the whole text is read -/
theorem C_text (hG : LG K (qR m0 o) m0 n T hb m0 f0) (hr : r.1 = m0) (h1 : 100 * n + 82 ≤ r.2.1) (h2 : 3000 * n + 779 ≤ r.2.2) : ∃ h2, C5_init K (hup hb m0 (.inr (4, [.int 0, .null, .null, .null, .null, .null, .null, .int 0, .int 0, .int 0, .int 0, .int 0, .int 0, .null]))) (m0 + 1, r.2.1 - 1, r.2.2 - 14) m0 o (i3 n) = some (h2, m0 + 12, r.2.1 - 12, r.2.2 - 79) ∧ (∃ fs, h2 m0 = some (.inr (4, fs))) ∧ match spOff T n with
    | .inl Q => ∃ f' h' r' B' g' nm' D' b', C5_read K h2 (m0 + 12, r.2.1 - 12, r.2.2 - 79) m0 = some (.inl (m0 + 1, (h', r'))) ∧ LC K (qR m0 o) m0 n T hb m0 f0 f' h' r' B' g' nm' D' Q b' ∧ (r'.2.1 ≤ r.2.1 - 12 ∧ r'.2.2 ≤ r.2.2 - 79 ∧ r.2.1 ≤ r'.2.1 + 100 * n + 12 ∧ r.2.2 ≤ r'.2.2 + 3000 * n + 79)
    | .inr (k, p) => p ≤ n ∧ ∃ w, C5_read K h2 (m0 + 12, r.2.1 - 12, r.2.2 - 79) m0 = some (.inr w) ∧ CEr K (qR m0 o) m0 hb m0 (m0 + 12, r.2.1 - 12, r.2.2 - 79) (run isW T n 700 0) 70 700 k p w := by
  obtain ⟨k2, i0, i1, i2, i3a, i4, i5, i6, i7, i8, i9, i10⟩ := C5_init_eq (K := K) (o := o) (n := n) (r := (m0 + 1, r.2.1 - 1, r.2.2 - 14)) hG.2.1.2.1 rfl (by dsimp only; omega) (by dsimp only; omega)
  dsimp only at i0
  rw [show r.2.1 - 1 - 11 = r.2.1 - 12 by omega, show r.2.2 - 14 - 65 = r.2.2 - 79 by omega] at i0
  obtain ⟨f3, h3, j1, j2⟩ := LC_start (c := r.2.1 - 12) (s := r.2.2 - 79) hG i1 i2 i3a i4 i5 i6 i7 i8 i9 i10
  have hR := C_read hG (show qR m0 o 5 ≠ qR m0 o 4 by show m0 + 11 ≠ m0 + 10; omega) 701 oZer (run isW T n 700 0) f3 h3 (m0 + 12, r.2.1 - 12, r.2.2 - 79) (Bof m0 (K 0)) (fun _ _ => 0) (m0 + 10) 0 (by have := hG.2.2.1.1; omega) j2 WFL_0 FD_0 (fun _ => rfl) (by dsimp only; omega) (by dsimp only; omega)
  refine ⟨k2, i0, ⟨_, i1⟩, ?_⟩
  unfold spOff C5_read
  rw [j1, Option.bind_some]
  change match spRead T n 701 (P0, fun _ => 0, false) (run isW T n 700 0) with
    | .inl S' => _
    | .inr (k, p) => _ at hR
  cases e : spRead T n 701 (P0, fun _ => 0, false) (run isW T n 700 0) with
  | inl Q =>
    rw [e] at hR
    obtain ⟨f', h', r', B', g', nm', D', b', x1, x2, ⟨x3, x4, x5, x6⟩, x7⟩ := hR
    dsimp only at x3 x4 x5 x6
    have h1R : gR h' m0 4 1 = some (m0 + 1) := by
      obtain ⟨-, -, -, -, ⟨⟨-, v, c1, -⟩, -⟩, -⟩ := x2
      exact gR_of c1 rfl
    refine ⟨f', h', r', B', g', nm', D', b', ?_, x2, x3, x4, by omega, by omega⟩
    rw [x1, xg_l, h1R, Option.bind_some]
  | inr z =>
    obtain ⟨k, p⟩ := z
    rw [e] at hR
    obtain ⟨x1, w, x2, x3⟩ := hR
    exact ⟨x1, w, by rw [x2]; rfl, x3⟩
end COFF
