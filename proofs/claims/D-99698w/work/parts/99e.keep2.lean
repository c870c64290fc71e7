/-! ===== keeping, on both sides ===== -/
def kpA (a : AC) (w : SV) : AC := if a.1 = 40 then (40, fun i => if i = 39 then w else a.2 (i + 1)) else (a.1 + 1, fun i => if i = a.1 then w else a.2 i)
theorem WFA_kp {P : PO} {a : AC} {w : SV} (ha : WFA P a) (hw : WFD P w) : WFA P (kpA a w) := by
  obtain ⟨h1, h2⟩ := ha
  unfold kpA
  split
  · next h40 =>
    refine ⟨Nat.le_refl _, fun i hi => ?_⟩
    dsimp only at hi ⊢
    split
    · exact hw
    · exact h2 _ (by omega)
  · next h40 =>
    refine ⟨by dsimp only; omega, fun i hi => ?_⟩
    dsimp only at hi ⊢
    split
    · exact hw
    · exact h2 _ (by omega)
theorem WFZ_ac {S : ST} {a : AC} (h : WFZ S) (ha : WFA (zP S) a) : WFZ (wAC S a) := ⟨h.1, h.2.1, ha, h.2.2.2⟩
theorem WFZ_sv {S : ST} {v : SV} (h : WFZ S) (hv : WFD (zP S) v) : WFZ (wSV S v) := ⟨h.1, hv, h.2.2⟩
/-! the reference -/
theorem o_cpy {step : Int32 × MS → Option ((Int32 × MS) ⊕ MS)} {σ : MS} (js jd so d N : Nat) (hne : js ≠ jd) (hs : ∀ k (τ : MS), k < N → τ.1 = σ.1 → step (i3 k, τ) = some (.inl (i3 (k + 1), sa τ jd (d + k) (ma τ js (so + k))))) (he : ∀ τ, step (i3 N, τ) = some (.inr τ)) :
    ∃ r, o_loop step (0, σ) = some r ∧ r.1 = σ.1 ∧ (∀ j, j ≠ jd → ma r j = ma σ j) ∧ ∀ i, ma r jd i = if d ≤ i ∧ i < d + N then ma σ js (so + (i - d)) else ma σ jd i := by
  refine o_inv0 (fun k (t : Int32 × MS) => t.1 = i3 k ∧ t.2.1 = σ.1 ∧ (∀ j, j ≠ jd → ma t.2 j = ma σ j) ∧ ∀ i, ma t.2 jd i = if d ≤ i ∧ i < d + k then ma σ js (so + (i - d)) else ma σ jd i) (fun r => r.1 = σ.1 ∧ (∀ j, j ≠ jd → ma r j = ma σ j) ∧ ∀ i, ma r jd i = if d ≤ i ∧ i < d + N then ma σ js (so + (i - d)) else ma σ jd i) N (fun k t hk hI => ?_) (fun t hI => ?_) (0, σ) ⟨rfl, rfl, fun _ _ => rfl, fun i => by rw [if_neg (by omega)]⟩
  · obtain ⟨t1, t2⟩ := t
    obtain ⟨rfl, h1, h2, h3⟩ := hI
    dsimp only at h1 h2 h3
    refine ⟨_, hs k t2 hk h1, rfl, h1, fun j hj => (ma_sb hj).trans (h2 j hj), fun i => ?_⟩
    rw [ma_saq, h2 js hne]
    by_cases e : i = d + k
    · rw [if_pos e, if_pos (by omega), e]
      congr 1
      omega
    · rw [if_neg e, h3 i]
      by_cases e2 : d ≤ i ∧ i < d + k
      · rw [if_pos e2, if_pos (by omega)]
      · rw [if_neg e2, if_neg (by omega)]
  · obtain ⟨t1, t2⟩ := t
    obtain ⟨rfl, h1, h2, h3⟩ := hI
    exact ⟨_, he t2, h1, h2, h3⟩
theorem MRg_of {g g' : Nat → Int32} {b b' : Nat} {P : PO} {w : SV} (hN : pN P ≤ 9) (hM : pM P ≤ 6) (h : MRg g b P w) (e : ∀ i, i < 34 → g' (b' + i) = g (b + i)) : MRg g' b' P w := by
  obtain ⟨r1, r2, r3, r4, r5⟩ := h
  refine ⟨?_, fun k hk => ?_, fun k hk => ?_, fun k hk => ?_, fun c hc => ?_⟩
  · have := e 0 (by decide); rw [Nat.add_zero, Nat.add_zero] at this; rw [this]; exact r1
  · rw [Nat.add_assoc, e (1 + k) (by omega), ← Nat.add_assoc]; exact r2 k hk
  · rw [Nat.add_assoc, e (10 + k) (by omega), ← Nat.add_assoc]; exact r3 k hk
  · rw [Nat.add_assoc, e (19 + k) (by omega), ← Nat.add_assoc]; exact r4 k hk
  · rw [Nat.add_assoc, e (28 + c) (by omega), ← Nat.add_assoc]; exact r5 c hc
theorem RM_acts {σ σ' : MS} {S : ST} {a : AC} (h : RM σ S) (e1 : ∀ k, k ≠ 0 → k ≠ 46 → mf σ' k = mf σ k) (e2 : ∀ j, j ≠ 45 → ma σ' j = ma σ j) (ha : AM σ' 46 45 (zP S) a) : RM σ' (wAC S a) := by
  obtain ⟨h1, h2, h3, h4, h5, h6, h7, h8⟩ := h
  refine ⟨ME_of h1 (fun k _ _ => e1 k (by omega) (by omega)) (fun j _ _ => e2 j (by omega)) (by rw [e2 49 (by decide)]), ?_, ha, ?_, ?_, ?_, ?_, ?_⟩
  · rw [e2 44 (by decide)]; exact h2
  · unfold HM at h4 ⊢
    rw [e1 51 (by decide) (by decide), e2 52 (by decide)]
    exact h4
  · unfold IM AM HM at h5 ⊢
    rw [e1 56 (by decide) (by decide), e1 57 (by decide) (by decide), e1 58 (by decide) (by decide), e2 59 (by decide), e2 60 (by decide), e2 61 (by decide)]
    exact h5
  · rw [e1 13 (by decide) (by decide), e2 12 (by decide)]
    exact h6
  · rw [e1 15 (by decide) (by decide)]
    exact h7
  · rw [e2 16 (by decide)]
    exact h8
theorem M_keeps_eq {σ : MS} {S : ST} (hZ : WFZ S) (h : RM σ S) : ∃ σ', M_keeps σ = some σ' ∧ RM σ' (wAC S (kpA (zA S) (zw S))) ∧ (mf σ' 0 = mf σ 0) ∧ ma σ' 44 = ma σ 44 := by
  have hN := hZ.1.1
  have hM := hZ.1.2.1
  obtain ⟨ha1, ha2⟩ := hZ.2.2.1
  have hA := h.2.2.1
  obtain ⟨m1, m2⟩ := hA
  -- the last part: the row is laid behind the others
  have hlast : ∀ (τ : MS) (n : Nat), n < 40 → mf τ 46 = i3 n → ∃ r, (o_loop M_keeps_L52 (0, τ)).bind (fun r4 => (pf r4 46 (mf r4 46 + 1)).bind fun s5 => some s5) = some r ∧ (∀ k, k ≠ 46 → mf r k = mf τ k) ∧ mf r 46 = i3 (n + 1) ∧ (∀ j, j ≠ 45 → ma r j = ma τ j) ∧ ∀ i, ma r 45 i = if 34 * n ≤ i ∧ i < 34 * n + 34 then ma τ 44 (i - 34 * n) else ma τ 45 i := by
    intro τ n hn h46
    obtain ⟨r, q1, q2, q3, q4⟩ := o_cpy (step := M_keeps_L52) (σ := τ) 44 45 0 (34 * n) 34 (by decide) (fun k τ' hk hf => by
      unfold M_keeps_L52
      dsimp only
      have e46 : mf τ' 46 = i3 n := by unfold mf at h46 ⊢; rw [hf]; exact h46
      rw [if_pos ((i3_ltl (c := 34) (n := 34) rfl (by omega) (by decide)).mpr hk), ald_i3 (j := 44) (show k < 68 by omega), Option.bind_some, e46]
      rw [show (34 : Int32) * i3 n + i3 k = i3 (34 * n + k) by rw [show (34 : Int32) = i3 34 from rfl, i3_mul, i3_add], ast_i3 (j := 45) (show 34 * n + k < 1360 by omega), Option.bind_some, i3_succ, Nat.zero_add]) (fun τ' => by
      unfold M_keeps_L52
      dsimp only
      rw [if_neg (by decide)])
    have e46 : mf r 46 = i3 n := by unfold mf at h46 ⊢; rw [q2]; exact h46
    rw [q1, Option.bind_some, e46, i3_succ]
    refine ⟨sf r 46 (i3 (n + 1)), rfl, fun k hk => ?_, ?_, fun j hj => q3 j hj, fun i => ?_⟩
    · unfold mf sf; dsimp only; rw [if_neg hk]; exact congrFun q2 k
    · unfold mf sf; dsimp only; rw [if_pos rfl]
    · rw [show ma (sf r 46 (i3 (n + 1))) 45 i = ma r 45 i from rfl, q4 i, Nat.zero_add]
  unfold M_keeps
  by_cases h40 : (zA S).1 = 40
  · rw [m1, h40, if_pos (show i3 40 = 40 from rfl)]
    -- the shift
    obtain ⟨r, q1, q2, q3, q4⟩ : ∃ r, o_loop M_keeps_L12 (34, σ) = some r ∧ r.1 = σ.1 ∧ (∀ j, j ≠ 45 → ma r j = ma σ j) ∧ ∀ i, i < 1326 → ma r 45 i = ma σ 45 (i + 34) := by
      obtain ⟨r, e, hr⟩ := o_inv (step := M_keeps_L12) (fun k (t : Int32 × MS) => t.1 = i3 k ∧ 34 ≤ k ∧ t.2.1 = σ.1 ∧ (∀ j, j ≠ 45 → ma t.2 j = ma σ j) ∧ ∀ i, ma t.2 45 i = if i + 34 < k then ma σ 45 (i + 34) else ma σ 45 i) (fun r => r.1 = σ.1 ∧ (∀ j, j ≠ 45 → ma r j = ma σ j) ∧ ∀ i, i < 1326 → ma r 45 i = ma σ 45 (i + 34)) 1360 (fun k t hk hI => by
        obtain ⟨t1, t2⟩ := t
        obtain ⟨rfl, h34, h1, h2, h3⟩ := hI
        dsimp only at h1 h2 h3
        unfold M_keeps_L12
        dsimp only
        rw [if_pos ((i3_ltl (c := 1360) (n := 1360) rfl (by omega) (by decide)).mpr hk), ald_i3 (j := 45) (show k < 1360 by omega), Option.bind_some, show i3 k - 34 = i3 (k - 34) from i3_sub (b := 34) h34, ast_i3 (j := 45) (show k - 34 < 1360 by omega), Option.bind_some, i3_succ]
        left
        refine ⟨_, rfl, rfl, by omega, h1, fun j hj => (ma_sb hj).trans (h2 j hj), fun i => ?_⟩
        rw [ma_saq]
        by_cases e : i = k - 34
        · rw [if_pos e, if_pos (by omega), h3 k, if_neg (by omega), e]
          congr 1
          omega
        · rw [if_neg e, h3 i]
          by_cases e2 : i + 34 < k
          · rw [if_pos e2, if_pos (by omega)]
          · rw [if_neg e2, if_neg (by omega)]) (fun t hI => by
        obtain ⟨t1, t2⟩ := t
        obtain ⟨rfl, h34, h1, h2, h3⟩ := hI
        unfold M_keeps_L12
        dsimp only
        rw [if_neg (by decide)]
        exact ⟨_, rfl, h1, h2, fun i hi => by rw [h3 i, if_pos (by omega)]⟩) 34 (34, σ) (by decide) ⟨rfl, Nat.le_refl _, rfl, fun _ _ => rfl, fun i => by rw [if_neg (by omega)]⟩
      exact ⟨r, e, hr⟩
    have e46 : mf r 46 = i3 40 := by unfold mf at m1 ⊢; rw [q2, m1, h40]
    rw [q1, Option.bind_some, e46, show i3 40 - 1 = i3 39 from i3_sub (a := 40) (b := 1) (by decide), show pf r 46 (i3 39) = some (sf r 46 (i3 39)) from rfl, Option.bind_some, Option.bind_some]
    obtain ⟨r2, p1, p2, p3, p4, p5⟩ := hlast (sf r 46 (i3 39)) 39 (by decide) (by unfold mf sf; dsimp only; rw [if_pos rfl])
    rw [p1]
    refine ⟨r2, rfl, RM_acts h (fun k _ hk => ?_) (fun j hj => (p4 j hj).trans (q3 j hj)) ⟨?_, fun i hi => ?_⟩, ?_, (p4 44 (by decide)).trans (q3 44 (by decide))⟩
    · rw [p2 k hk]; unfold mf sf; dsimp only; rw [if_neg hk]; exact congrFun q2 k
    · rw [p3]; unfold kpA; rw [if_pos h40]
    · unfold kpA at hi ⊢
      rw [if_pos h40] at hi ⊢
      dsimp only at hi ⊢
      by_cases e : i = 39
      · subst e
        rw [if_pos rfl]
        refine MRg_of hN hM h.2.1 (fun j hj => ?_)
        rw [p5, if_pos (by omega), Nat.zero_add]
        show ma r 44 (34 * 39 + j - 34 * 39) = _
        rw [q3 44 (by decide), show 34 * 39 + j - 34 * 39 = j by omega]
      · rw [if_neg e]
        refine MRg_of hN hM (m2 (i + 1) (by omega)) (fun j hj => ?_)
        rw [p5, if_neg (by omega)]
        show ma r 45 (34 * i + j) = _
        rw [q4 _ (by omega), show 34 * i + j + 34 = 34 * (i + 1) + j by omega]
    · rw [p2 0 (by decide)]; unfold mf sf; dsimp only; rw [if_neg (by decide)]; exact congrFun q2 0
  · rw [m1, if_neg (show ¬ i3 (zA S).1 = 40 from fun x => h40 ((i3_inj (b := 40) (by omega) (by decide)).mp x)), Option.bind_some]
    obtain ⟨r2, p1, p2, p3, p4, p5⟩ := hlast σ (zA S).1 (by omega) m1
    rw [p1]
    refine ⟨r2, rfl, RM_acts h (fun k _ hk => p2 k hk) (fun j hj => p4 j hj) ⟨?_, fun i hi => ?_⟩, p2 0 (by decide), p4 44 (by decide)⟩
    · rw [p3]; unfold kpA; rw [if_neg h40]
    · unfold kpA at hi ⊢
      rw [if_neg h40] at hi ⊢
      dsimp only at hi ⊢
      by_cases e : i = (zA S).1
      · rw [if_pos e, e]
        refine MRg_of hN hM h.2.1 (fun j hj => ?_)
        rw [p5, if_pos (by omega), Nat.zero_add, show 34 * (zA S).1 + j - 34 * (zA S).1 = j by omega]
      · rw [if_neg e]
        refine MRg_of hN hM (m2 i (by omega)) (fun j hj => ?_)
        rw [p5, if_neg (by omega)]
/-! the component -/
section CKEEP
variable {K : Nat → Nat} {h : CH} {r : CR} {o : Nat} {S : ST} {f : CH} {B : Nat → Nat} {sT aT hT : Option Nat} {seed : Int32} {ea eh : Nat → Nat}
theorem RCp_pos (hp : RCp K h r.1 o S f B sT aT hT seed ea eh) : ∀ i, i < 18 → B i < r.1 := by
  intro i hi
  have hsome := RCp_some hp
  have hlt := fun {a : Nat} {x : CE} => RCp_lt hp (a := a) (x := x)
  have hKb := (RCp_K hp).2.2.1
  by_cases h16 : i < 16
  · obtain ⟨c, hc⟩ := hsome i h16
    exact hlt hc
  · obtain ⟨_, _, _, ⟨⟨mc, _, g2⟩, _⟩, ⟨⟨mc2, _, g4⟩, _⟩, _⟩ := hp
    have : i = 16 ∨ i = 17 := by omega
    rcases this with rfl | rfl
    · rcases g2 with ⟨_, q | q⟩ | ⟨cap, g, q, _⟩
      · rw [q]; exact hKb 0 (by decide)
      · rw [q]; exact hKb 1 (by decide)
      · exact hlt q
    · rcases g4 with ⟨_, q | q⟩ | ⟨cap, g, q, _⟩
      · rw [q]; exact hKb 0 (by decide)
      · rw [q]; exact hKb 1 (by decide)
      · exact hlt q
/-- what is new is put at rest -/
theorem RC_rest {h1 : CH} {n1 : Nat} (hp : RCp K h r.1 o S f B sT aT hT seed ea eh) (hb : hB r.1 h h1) (hf : FR h1 n1) (hn : r.1 ≤ n1) : ∃ f', RCp K h1 n1 o S f' B sT aT hT seed ea eh ∧ hle f f' ∧ ∀ q, r.1 ≤ q → f' q = h1 q := by
  have hp1 := RC_grow hp hb hf hn
  have hl : hle f h := hp.2.1.1
  have hlt := fun {a : Nat} {x : CE} => RCp_lt hp (a := a) (x := x)
  refine ⟨fun q => if r.1 ≤ q then h1 q else f q, RC_frz hp1 (fun a c e => ?_) (fun a c e => ?_) (fun i hi => ?_), fun a c e => ?_, fun q hq => if_pos hq⟩
  · rw [if_neg (by have := hlt (hl _ _ e); omega)]; exact e
  · split at e
    · exact e
    · exact hp1.2.1.1 _ _ e
  · rw [if_neg (by have := RCp_pos hp i hi; omega)]
    obtain ⟨_, _, _, _, _, _, ⟨nB, fB, nB2, fB2, nB3⟩, _⟩ := hp
    by_cases h16 : i < 16
    · exact fB i h16
    · exact fB2 i (by omega) hi
  · show (if r.1 ≤ a then h1 a else f a) = some c
    rw [if_neg (by have := hlt (hl _ _ e); omega)]; exact e
theorem C1_keep_eq (hp : RCp K h r.1 o S f B sT aT hT seed ea eh) (h1 : 10 ≤ r.2.1) (h2 : 200 ≤ r.2.2) : ∃ h' r' f' B' ea', vc h o 1 (achv r (C1_keep K h r o)) = some (h', r') ∧ RCp K h' r'.1 o (wAC S (kpA (zA S) (zw S))) f' B' sT aT hT seed ea' eh ∧ (∀ i, i ≠ 16 → B' i = B i) ∧ r'.2.1 ≤ r.2.1 ∧ r'.2.2 ≤ r.2.2 ∧ r.2.1 ≤ r'.2.1 + 10 ∧ r.2.2 ≤ r'.2.2 + 200 := by
  have hZ := RCp_Z hp
  obtain ⟨ha1, ha2⟩ := hZ.2.2.1
  obtain ⟨hv, hs, ht, hF, hacts, hheard, hrf⟩ := RD_of hp
  have ho14 : gR h o 1 8 = some (B 14) := by
    obtain ⟨⟨b0, ho⟩, _⟩ := hp
    exact gR_of ho rfl
  obtain ⟨g2, d2, c2, a2⟩ := SX_to hv.2.1
  have hb5 : ∀ q, q ∈ s5 (B 2) (fun i => B (3 + i)) → q < r.1 := by
    intro q hq
    rcases mem_s5 hq with rfl | rfl | rfl | rfl | rfl
    · exact RCp_pos hp 2 (by decide)
    · exact RCp_pos hp 3 (by decide)
    · exact RCp_pos hp 4 (by decide)
    · exact RCp_pos hp 5 (by decide)
    · exact RCp_pos hp 6 (by decide)
  obtain ⟨k1, g', e1, c1, n1, m1, f1, b1⟩ := C3_copy_eq (r := r) (RCp_FR hp) c2 hb5 (by omega) (by omega)
  obtain ⟨f', hp1, hff, hfn⟩ := RC_rest hp b1 f1 (by omega)
  have sa' : SA (zP S) g' d2 (zw S) := SA_of hZ.1 a2 n1 m1
  have sc' : SC f' o r.1 (fun i => r.1 + 1 + i) g' d2 := by
    obtain ⟨q1, q2, q3, q4, q5⟩ := c1
    exact ⟨(hfn _ (Nat.le_refl _)).trans q1, (hfn _ (by dsimp only; omega)).trans q2, (hfn _ (by dsimp only; omega)).trans q3, (hfn _ (by dsimp only; omega)).trans q4, (hfn _ (by dsimp only; omega)).trans q5⟩
  have hKK := RCp_K hp1
  have ho1 : gR k1 o 1 8 = some (B 14) := by
    obtain ⟨⟨b0, ho⟩, _⟩ := hp1
    exact gR_of ho rfl
  have hac1 := hp1.2.2.2.1
  have nB := hp1.2.2.2.2.2.2.1
  have hel : ∀ i, i < (zA S).1 → okO k1 (ea i) = true := by
    intro i hi
    obtain ⟨A, g, d, q, _⟩ := hac1.2 i hi
    rw [okO_of (hp1.2.1.1 _ _ q.1)]
    simp [okC]
  have hx : okO k1 r.1 = true := by
    rw [okO_of c1.1]
    simp [okC]
  obtain ⟨arr', k2, r2, s1, s2, s3, s4, s5, s6, s7, s8, s9, s10⟩ := C_add (r := (r.1 + 5, r.2.1 - 5, r.2.2 - 39)) (x := r.1) hac1.1 (by omega) f1 hKK.1 hKK.2.1 hKK.2.2.1 hel hx (nB.2.2.1 16 14 (by decide) (by decide) (by decide)) (by dsimp only; omega) (by dsimp only; omega)
  dsimp only at s3 s7 s8 s9 s10
  have hACr : ∀ m : Nat, ∀ e' : Nat → Nat, ∀ b : Nat → SV, (∀ i, i < m → (e' i = r.1 ∧ b i = zw S) ∨ ∃ j, j < (zA S).1 ∧ e' i = ea j ∧ b i = (zA S).2 j) → ACr f' o (zP S) (m, b) e' := by
    intro m e' b hh i hi
    rcases hh i hi with ⟨q1, q2⟩ | ⟨j, q1, q2, q3⟩
    · exact ⟨_, _, _, by rw [q1]; exact sc', by dsimp only; rw [q2]; exact sa'⟩
    · obtain ⟨A, g, d, z1, z2⟩ := hac1.2 j q1
      exact ⟨A, g, d, by rw [q2]; exact z1, by dsimp only; rw [q3]; exact z2⟩
  have hr2n : r.1 + 5 ≤ r2.1 := by rcases s3 with ⟨_, q, _⟩ | ⟨_, q⟩ <;> omega
  have harr : (arr' = B 16 ∧ ∃ c, k1 arr' = some c) ∨ (r.1 + 5 ≤ arr' ∧ arr' < r2.1) := by
    rcases s3 with ⟨q1, q2, q3⟩ | ⟨q1, q2⟩
    · exact .inl ⟨q1, q1 ▸ q3⟩
    · exact .inr ⟨by omega, by omega⟩
  have key : ∀ z : CS, C1_keep K h r o = some z → z.2.2.1 ≤ r.2.1 → z.2.2.2 ≤ r.2.2 → vc h o 1 (achv r (C1_keep K h r o)) = some z := by
    intro z hz q1 q2
    rw [cx_vc hv.1, achv_of hz q1 q2]
  have ho2 : gR k2 o 1 8 = some (B 14) := by
    obtain ⟨⟨b0, ho⟩, _⟩ := hp1
    have hk : k2 o = k1 o := s6 o (fun e => by have := nB.1 0 14 (by decide) (by decide) (b0.trans e); omega) (fun e => by
      rcases harr with ⟨q, _⟩ | ⟨q, _⟩
      · exact nB.2.2.1 16 0 (by decide) (by decide) (by decide) (q ▸ (b0.trans e)).symm
      · have := RCp_pos hp 0 (by decide); rw [b0, e] at this; omega)
    exact gR_of (hk.trans ho) rfl
  have hrun : ∀ z : CS, (if i3 ((zA S).1 + 1) ≤ 40 then some (k2, r2) else (vc k2 (B 14) 10 (CJ2_remove K k2 (B 14) 0)).bind fun q9 => some ((q9.2, r2) : CS)) = some z → C1_keep K h r o = some z := by
    intro z hz
    obtain ⟨mc, l1, l2⟩ := s2
    unfold C1_keep
    rw [ho14, Option.bind_some, hs, Option.bind_some, sv_vc hv, achk_of e1 (by dsimp only; omega) (by dsimp only; omega), Option.bind_some]
    dsimp only
    rw [s1, Option.bind_some]
    dsimp only
    rw [ho2, Option.bind_some, vc_of l1]
    unfold CJ2_size
    rw [gI_of l1 (k := 2) rfl]
    simp only [ob_s]
    exact hz
  have hWA := WFA_kp hZ.2.2.1 hZ.2.1
  by_cases h40 : (zA S).1 = 40
  · have ekp : kpA (zA S) (zw S) = (40, fun i => if i = 39 then zw S else (zA S).2 (i + 1)) := by unfold kpA; rw [if_pos h40]
    have hK2 : KN K k2 := by
      refine KN_b hKK.1 hKK.2.2.1 (fun q hq hq2 => ?_)
      rw [s6 q (fun e => by obtain ⟨c, hc⟩ := RCp_some hp1 14 (by decide); rw [e, hc] at hq2; cases hq2) (fun e => by
        rcases harr with ⟨_, c, hc⟩ | ⟨q1, _⟩
        · rw [e, hc] at hq2; cases hq2
        · omega)]
      exact hq2
    have hxa : arr' ≠ B 14 := by
      rcases harr with ⟨q, _⟩ | ⟨q, _⟩
      · rw [q]; exact nB.2.2.1 16 14 (by decide) (by decide) (by decide)
      · have := RCp_pos hp 14 (by decide); omega
    have hok2 : ∀ j, j < (zA S).1 + 1 → okO k2 ((fun i => if i = (zA S).1 then r.1 else ea i) j) = true := by
      intro j hj
      have q : okO k1 ((fun i => if i = (zA S).1 then r.1 else ea i) j) = true := by
        dsimp only
        split
        · exact hx
        · exact hel j (by omega)
      generalize (fun i => if i = (zA S).1 then r.1 else ea i) j = y at q
      by_cases y1 : y = B 14
      · obtain ⟨mc, l1, l2⟩ := s2
        rw [y1, okO_of l1]; exact okC_10
      · by_cases y2 : y = arr'
        · obtain ⟨mc, l1, l2⟩ := s2
          rcases l2 with ⟨l2, _⟩ | ⟨cap, g, l3, _⟩
          · omega
          · rw [y2, okO_of l3]; exact okC_3
        · unfold okO at q ⊢
          rw [s6 y y1 y2]
          exact q
    obtain ⟨k3, t1, t2, t3, t4, t5⟩ := C_rem (i := 0) s2 (by omega) (.inr rfl) hK2 hok2 hxa
    have hf3 : FR k3 r2.1 := by
      intro q hq
      rw [t5 q (fun e => by have := RCp_pos hp 14 (by decide); omega) (fun e => by
        rcases harr with ⟨q1, _⟩ | ⟨_, q2⟩
        · have := RCp_pos hp 16 (by decide); omega
        · omega)]
      exact s5 q hq
    have ee : (fun j => if j < 0 then (fun i => if i = (zA S).1 then r.1 else ea i) j else (fun i => if i = (zA S).1 then r.1 else ea i) (j + 1)) = fun i => if i = 39 then r.1 else ea (i + 1) := by
      funext j
      rw [if_neg (by omega)]
      dsimp only
      rw [h40]
      by_cases ej : j = 39
      · rw [if_pos (by omega), if_pos ej]
      · rw [if_neg (by omega), if_neg ej]
    rw [ee, h40] at t2
    refine ⟨k3, r2, f', Bu B 16 arr', fun i => if i = 39 then r.1 else ea (i + 1), key _ (hrun (k3, r2) ?_) (by dsimp only; omega) (by dsimp only; omega), ?_, fun i hi => Bu_ne hi, by omega, by omega, by omega, by omega⟩
    · rw [h40, if_neg (by decide), show CJ2_remove K k2 (B 14) 0 = CJ2_remove K k2 (B 14) (i3 0) from rfl, t1, Option.bind_some]
    · refine RC_acts (x := kpA (zA S) (zw S)) hp1 ?_ ?_ harr hf3 hr2n (fun q q1 q2 => (t5 q q1 q2).trans (s6 q q1 q2)) (WFZ_ac hZ hWA)
      · rw [ekp]; exact t2
      · rw [ekp]
        refine hACr 40 _ _ (fun i hi => ?_)
        by_cases ei : i = 39
        · left; rw [if_pos ei, if_pos ei]; exact ⟨rfl, rfl⟩
        · right; rw [if_neg ei, if_neg ei]; exact ⟨i + 1, by omega, rfl, rfl⟩
  · have ekp : kpA (zA S) (zw S) = ((zA S).1 + 1, fun i => if i = (zA S).1 then zw S else (zA S).2 i) := by unfold kpA; rw [if_neg h40]
    refine ⟨k2, r2, f', Bu B 16 arr', fun i => if i = (zA S).1 then r.1 else ea i, key _ (hrun (k2, r2) ?_) (by dsimp only; omega) (by dsimp only; omega), ?_, fun i hi => Bu_ne hi, by omega, by omega, by omega, by omega⟩
    · rw [if_pos ((i3_lel (c := 40) (n := 40) rfl (by omega) (by decide)).mpr (by omega))]
    · refine RC_acts (x := kpA (zA S) (zw S)) hp1 ?_ ?_ harr s5 hr2n s6 (WFZ_ac hZ hWA)
      · rw [ekp]; exact s2
      · rw [ekp]
        refine hACr _ _ _ (fun i hi => ?_)
        by_cases ei : i = (zA S).1
        · left; rw [if_pos ei, if_pos ei]; exact ⟨rfl, rfl⟩
        · right; rw [if_neg ei, if_neg ei]; exact ⟨i, by omega, rfl, rfl⟩
end CKEEP
