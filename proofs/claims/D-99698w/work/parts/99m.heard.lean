/-! ===== what was heard, held against the days ===== -/
theorem o_cpy2 {step : Int32 × MS → Option ((Int32 × MS) ⊕ MS)} {σ : MS} (js jd so d N : Nat) (hne : js ≠ jd) (hs : ∀ k (τ : MS), k < N → τ.1 = σ.1 → step (i3 k, τ) = some (.inl (i3 (k + 1), sa τ jd (d + k) (ma τ js (so + k))))) (he : ∀ τ : MS, τ.1 = σ.1 → step (i3 N, τ) = some (.inr τ)) :
    ∃ r, o_loop step (0, σ) = some r ∧ r.1 = σ.1 ∧ (∀ j, j ≠ jd → ma r j = ma σ j) ∧ ∀ i, ma r jd i = if d ≤ i ∧ i < d + N then ma σ js (so + (i - d)) else ma σ jd i := by
  refine o_inv0 (fun k (t : Int32 × MS) => t.1 = i3 k ∧ t.2.1 = σ.1 ∧ (∀ j, j ≠ jd → ma t.2 j = ma σ j) ∧ ∀ i, ma t.2 jd i = if d ≤ i ∧ i < d + k then ma σ js (so + (i - d)) else ma σ jd i) (fun r => r.1 = σ.1 ∧ (∀ j, j ≠ jd → ma r j = ma σ j) ∧ ∀ i, ma r jd i = if d ≤ i ∧ i < d + N then ma σ js (so + (i - d)) else ma σ jd i) N (fun k t hk hI => ?_) (fun t hI => ?_) (0, σ) ⟨rfl, rfl, fun _ _ => rfl, fun i => by rw [if_neg (by omega)]⟩
  · obtain ⟨t1, t2⟩ := t
    obtain ⟨rfl, h1, h2, h3⟩ := hI
    dsimp only at h1 h2 h3
    refine ⟨_, hs k t2 hk h1, rfl, h1, fun j hj => (ma_sb hj).trans (h2 j hj), fun i => ?_⟩
    rw [ma_saq, h2 js hne]
    by_cases e : i = d + k
    · rw [if_pos e, if_pos (by omega), e]
      congr 1
      omega
    · rw [if_neg e, h3 i]
      by_cases e2 : d ≤ i ∧ i < d + k
      · rw [if_pos e2, if_pos (by omega)]
      · rw [if_neg e2, if_neg (by omega)]
  · obtain ⟨t1, t2⟩ := t
    obtain ⟨rfl, h1, h2, h3⟩ := hI
    exact ⟨_, he t2 h1, h1, h2, h3⟩
section HEARD
variable {K : Nat → Nat} {h hc hc' : CH} {r : CR} {o N n : Nat} {σ τ τ' : MS} {S : ST} {f : CH} {B : Nat → Nat} {sT aT hT : Option Nat} {seed : Int32} {ea eh : Nat → Nat} {w w' : SV} {P : PO}
theorem allb_iff {g : Nat → Bool} : ∀ m, allb g m = true ↔ ∀ k, k < m → g k = true := by
  intro m
  induction m with
  | zero => exact ⟨fun _ k hk => absurd hk (Nat.not_lt_zero _), fun _ => rfl⟩
  | succ m ih =>
    unfold allb
    rw [Bool.and_eq_true, ih]
    constructor
    · rintro ⟨h1, h2⟩ k hk
      by_cases e : k = m
      · rw [e]; exact h2
      · exact h1 k (by omega)
    · intro h1
      exact ⟨fun k hk => h1 k (by omega), h1 m (by omega)⟩
theorem allb_no {g : Nat → Bool} {m k : Nat} (hk : k < m) (h : g k = false) : allb g m = false := by
  cases e : allb g m with
  | false => rfl
  | true =>
    have := (allb_iff m).mp e k hk
    rw [h] at this
    cases this
/-- on day d: what was heard of that day holds -/
def chk (H : HD) (w : SV) (d i : Nat) : Bool := !decide (H.2 i 2 = d) || decide ((w (28 + H.2 i 0)).testBit (H.2 i 1) = decide (H.2 i 3 = 1))
def sok (P : PO) (H : HD) (w : SV) (d : Nat) : Bool := allb (chk H (aft P d w) d) H.1
def soA (P : PO) (H : HD) (w : SV) : Bool := allb (sok P H w) 13
theorem chk_ne {H : HD} {d i : Nat} (e : ¬ H.2 i 2 = d) : chk H w d i = true := by
  unfold chk
  rw [decide_eq_false e]
  rfl
theorem chk_eq {H : HD} {d i : Nat} (e : H.2 i 2 = d) (h3 : H.2 i 3 ≤ 1) : (bI ((w (28 + H.2 i 0)).testBit (H.2 i 1)) = i3 (H.2 i 3)) ↔ chk H w d i = true := by
  unfold chk
  rw [decide_eq_true e, Bool.not_true, Bool.false_or]
  have : H.2 i 3 = 0 ∨ H.2 i 3 = 1 := by omega
  rcases this with e3 | e3 <;> rw [e3] <;> cases (w (28 + H.2 i 0)).testBit (H.2 i 1) <;> decide
/-- the component: one day -/
theorem C1_soD (hp : RCp K hc n o S f B sT aT hT seed ea eh) (hcs : CSV K hc o (B 18) (B 1) f (zP S) (B 7) (fun i => B (8 + i)) w) {d : Nat} (hd : d ≤ 20) (hw0 : w 0 + 1 < 2 ^ 20) :
    (allb (chk (zH S) w d) (zH S).1 = true ∧ ∃ hc', o_loop (C1_isSo_L52 K o (i3 d, hc)) 0 = some (.inl (i3 (d + 1), hc')) ∧ CSV K hc' o (B 18) (B 1) f (zP S) (B 7) (fun i => B (8 + i)) (pas (zP S) w) ∧ hX (sX6 (B 1) (B 7) (fun i => B (8 + i))) hc hc') ∨ (allb (chk (zH S) w d) (zH S).1 = false ∧ o_loop (C1_isSo_L52 K o (i3 d, hc)) 0 = some (.inr (0, hc))) := by
  have hZ := RCp_Z hp
  obtain ⟨hh1, hh2⟩ := hZ.2.2.2.1
  obtain ⟨hv, hs, ht, hF, hacts, ⟨hl, eh', q1, q2, q3⟩, hrf⟩ := RD_of hp
  have hg3 : gR hc o 1 3 = some (B 7) := tr_3 hp hcs (hX_refl _ _)
  obtain ⟨hc', pa1, pa2, pa3⟩ := C3_pass_eq hcs hw0
  obtain ⟨res, l1, l2⟩ := o_inv (step := C1_isSo_L52 K o (i3 d, hc)) (fun k t => t = i3 k ∧ allb (chk (zH S) w d) k = true) (fun res => (allb (chk (zH S) w d) (zH S).1 = true ∧ res = .inl (i3 (d + 1), hc')) ∨ (allb (chk (zH S) w d) (zH S).1 = false ∧ res = .inr (0, hc))) (zH S).1 (fun k t hk hI => by
    obtain ⟨rfl, hI⟩ := hI
    obtain ⟨g1, g2, g3⟩ := q3 k hk
    obtain ⟨x0, x1, x2, x3⟩ := hh2 k hk
    unfold C1_isSo_L52
    dsimp only
    rw [q1, Option.bind_some, q2, Option.bind_some, if_pos ((i3_lt (by omega) (by omega)).mpr hk), Option.bind_some, g1, Option.bind_some, g2, Option.bind_some, show aI hc (eh' k) 0 2 = some (i3 ((zH S).2 k 2)) from g3 2 (by decide), Option.bind_some, i3_succ]
    by_cases e2 : (zH S).2 k 2 = d
    · rw [if_pos (by rw [e2]), hg3, Option.bind_some, sv_3 hcs, Option.bind_some, show aI hc (eh' k) 0 0 = some (i3 ((zH S).2 k 0)) from g3 0 (by decide), Option.bind_some, sv_K hcs x0, Option.bind_some, show aI hc (eh' k) 0 1 = some (i3 ((zH S).2 k 1)) from g3 1 (by decide), Option.bind_some, show aI hc (eh' k) 0 3 = some (i3 ((zH S).2 k 3)) from g3 3 (by decide), Option.bind_some, i3_bitB (p2 (b := 31) ((sv_w hcs).2.2.2.1 _ x0) (by decide)) (by have := hZ.1.2.2.1; omega)]
      by_cases e3 : bI ((w (28 + (zH S).2 k 0)).testBit ((zH S).2 k 1)) = i3 ((zH S).2 k 3)
      · rw [if_pos e3]
        left
        refine ⟨_, rfl, rfl, ?_⟩
        unfold allb
        rw [hI, (chk_eq e2 x3).mp e3]
        rfl
      · rw [if_neg e3]
        right
        refine ⟨_, rfl, .inr ⟨allb_no hk ?_, rfl⟩⟩
        cases e4 : chk (zH S) w d k with
        | false => rfl
        | true => exact absurd ((chk_eq e2 x3).mpr e4) e3
    · rw [if_neg (fun x => e2 ((i3_inj (by omega) (by omega)).mp x))]
      left
      refine ⟨_, rfl, rfl, ?_⟩
      unfold allb
      rw [hI, chk_ne e2]
      rfl) (fun t hI => by
    obtain ⟨rfl, hI⟩ := hI
    unfold C1_isSo_L52
    dsimp only
    rw [q1, Option.bind_some, q2, Option.bind_some, if_neg (fun x => absurd ((i3_lt (by omega) (by omega)).mp x) (by omega)), hg3, Option.bind_some, sv_vc hcs, pa1, Option.bind_some, i3_succ]
    exact ⟨_, rfl, .inl ⟨hI, rfl⟩⟩) 0 0 (Nat.zero_le _) ⟨rfl, rfl⟩
  rcases l2 with ⟨l2, rfl⟩ | ⟨l2, rfl⟩
  · exact .inl ⟨l2, hc', l1, pa2, pa3⟩
  · exact .inr ⟨l2, l1⟩
theorem C1_isSo_eq (hp : RCp K h n o S f B sT aT hT seed ea eh) (hcs : CSV K hc o (B 18) (B 1) f (zP S) (B 7) (fun i => B (8 + i)) w) (hx : hX (sX6 (B 1) (B 7) (fun i => B (8 + i))) h hc) (hw0 : w 0 ≤ 999) : ∃ hc' w', vc hc o 1 (C1_isSo K hc o) = some (bI (soA (zP S) (zH S) w), hc') ∧ CSV K hc' o (B 18) (B 1) f (zP S) (B 7) (fun i => B (8 + i)) w' ∧ hX (sX6 (B 1) (B 7) (fun i => B (8 + i))) hc hc' := by
  have hpc := RC_tx hp hcs hx
  have hZ := RCp_Z hp
  obtain ⟨hh1, hh2⟩ := hZ.2.2.2.1
  obtain ⟨hv, hs, ht, hF, hacts, ⟨hl, eh', q1, q2, q3⟩, hrf⟩ := RD_of hpc
  rw [cx_vc hcs.1]
  unfold C1_isSo
  obtain ⟨m, m1, m2, m3⟩ : ∃ m, o_loop (C1_isSo_L4 hc o) (0, 0) = some (i3 m) ∧ m ≤ 12 ∧ ∀ i, i < (zH S).1 → (zH S).2 i 2 ≤ m := by
    obtain ⟨res, l1, m, rfl, l3, l4⟩ := o_inv0 (step := C1_isSo_L4 hc o) (fun k (t : Int32 × Int32) => t.2 = i3 k ∧ ∃ m, t.1 = i3 m ∧ m ≤ 12 ∧ ∀ i, i < k → (zH S).2 i 2 ≤ m) (fun res => ∃ m, res = i3 m ∧ m ≤ 12 ∧ ∀ i, i < (zH S).1 → (zH S).2 i 2 ≤ m) (zH S).1 (fun k t hk hI => by
      obtain ⟨t1, t2⟩ := t
      obtain ⟨rfl, m, rfl, hm, hI⟩ := hI
      obtain ⟨g1, g2, g3⟩ := q3 k hk
      obtain ⟨x0, x1, x2, x3⟩ := hh2 k hk
      unfold C1_isSo_L4
      dsimp only
      rw [q1, Option.bind_some, q2, Option.bind_some, if_pos ((i3_lt (by omega) (by omega)).mpr hk), Option.bind_some, g1, Option.bind_some, g2, Option.bind_some, show aI hc (eh' k) 0 2 = some (i3 ((zH S).2 k 2)) from g3 2 (by decide), Option.bind_some, i3_succ, i3_max (by omega) (by omega)]
      refine ⟨_, rfl, rfl, _, rfl, by omega, fun i hi => ?_⟩
      by_cases e : i = k
      · subst e; omega
      · have := hI i (by omega); omega) (fun t hI => by
      obtain ⟨t1, t2⟩ := t
      obtain ⟨rfl, m, rfl, hm, hI⟩ := hI
      unfold C1_isSo_L4
      dsimp only
      rw [q1, Option.bind_some, q2, Option.bind_some, if_neg (fun x => absurd ((i3_lt (by omega) (by omega)).mp x) (by omega))]
      exact ⟨_, rfl, m, rfl, hm, hI⟩) (0, 0) ⟨rfl, 0, rfl, by omega, fun i hi => absurd hi (Nat.not_lt_zero _)⟩
    exact ⟨m, l1, l3, l4⟩
  rw [m1, Option.bind_some]
  have hlate : ∀ d, m < d → sok (zP S) (zH S) w d = true := by
    intro d hd
    unfold sok
    exact (allb_iff _).mpr (fun k hk => chk_ne (by have := m3 k hk; omega))
  obtain ⟨res, l1, l2, w', l3, l4⟩ := o_inv (step := C1_isSo_L45 K o (i3 m)) (fun d (t : Int32 × CH) => t.1 = i3 d ∧ CSV K t.2 o (B 18) (B 1) f (zP S) (B 7) (fun i => B (8 + i)) (aft (zP S) d w) ∧ hX (sX6 (B 1) (B 7) (fun i => B (8 + i))) hc t.2 ∧ allb (sok (zP S) (zH S) w) d = true) (fun (res : Int32 × CH) => res.1 = bI (soA (zP S) (zH S) w) ∧ ∃ w', CSV K res.2 o (B 18) (B 1) f (zP S) (B 7) (fun i => B (8 + i)) w' ∧ hX (sX6 (B 1) (B 7) (fun i => B (8 + i))) hc res.2) (m + 1) (fun d t hd hI => by
    obtain ⟨t1, t2⟩ := t
    obtain ⟨rfl, z1, z2, z3⟩ := hI
    dsimp only at z1 z2
    unfold C1_isSo_L45
    dsimp only
    rw [if_pos ((i3_le (by omega) (by omega)).mpr (show d ≤ m by omega))]
    rcases C1_soD (RC_tx hp z1 (hX_trans hx z2)) z1 (d := d) (by omega) (by rw [aft_0]; omega) with ⟨y1, hc2, y2, y3, y4⟩ | ⟨y1, y2⟩
    · left
      refine ⟨_, y2, rfl, y3, hX_trans z2 y4, ?_⟩
      unfold allb
      rw [z3]
      exact y1
    · right
      exact ⟨_, y2, by rw [show soA (zP S) (zH S) w = false from allb_no (k := d) (by omega) y1]; rfl, _, z1, z2⟩) (fun t hI => by
    obtain ⟨t1, t2⟩ := t
    obtain ⟨rfl, z1, z2, z3⟩ := hI
    dsimp only at z1 z2
    unfold C1_isSo_L45
    dsimp only
    rw [if_neg (fun x => absurd ((i3_le (by omega) (by omega)).mp x) (by omega))]
    refine ⟨_, rfl, ?_, _, z1, z2⟩
    have : soA (zP S) (zH S) w = true := by
      unfold soA
      refine (allb_iff _).mpr (fun k hk => ?_)
      by_cases e : k < m + 1
      · exact (allb_iff _).mp z3 k e
      · exact hlate k (by omega)
    rw [this]
    rfl) 0 (0, hc) (Nat.zero_le _) ⟨rfl, hcs, hX_refl _ _, rfl⟩
  obtain ⟨res1, res2⟩ := res
  dsimp only at l2 l3 l4
  subst l2
  exact ⟨res2, w', l1, l3, l4⟩
/-! the reference -/
/-- what may change: the tried row, a pile, what is counted, what is known on the sixth day -/
def Hx (τ τ' : MS) : Prop := τ'.1 = τ.1 ∧ (∀ j, j ≠ 44 → j ≠ 47 → j ≠ 48 → j ≠ 53 → ma τ' j = ma τ j) ∧ ∀ i, i < 34 → ma τ' 44 i = ma τ 44 i
theorem Hx_refl (τ : MS) : Hx τ τ := ⟨rfl, fun _ _ _ _ _ => rfl, fun _ _ => rfl⟩
theorem Hx_trans {τ'' : MS} (h : Hx τ τ') (h2 : Hx τ' τ'') : Hx τ τ'' := ⟨h2.1.trans h.1, fun j a b c d => (h2.2.1 j a b c d).trans (h.2.1 j a b c d), fun i hi => (h2.2.2 i hi).trans (h.2.2 i hi)⟩
theorem Hx_fx (h : Fx 34 τ τ') : Hx τ τ' := ⟨h.1, fun j a b c _ => h.2.1 j a b c, fun i hi => h.2.2 rfl i hi⟩
theorem mf_hx (h : Hx τ τ') (k : Nat) : mf τ' k = mf τ k := by unfold mf; rw [h.1]
theorem Gx_hx (h : Hx τ τ') : Gx τ τ' := ⟨fun k _ _ => mf_hx h k, fun j a b c _ d _ => h.2.1 j a b c d, h.2.2⟩
theorem M_soD (hH : HM τ 51 52 (zH S)) (hZ : WFZ S) (hm : MV τ 34 (zP S) w) {d : Nat} (hd : d ≤ 12) (hw0 : w 0 + 1 < 2 ^ 20) :
    (allb (chk (zH S) w d) (zH S).1 = true ∧ ∃ τ', o_loop (M_isHeard_L10 (i3 d, τ)) 0 = some (.inl (i3 (d + 1), τ')) ∧ MV τ' 34 (zP S) (pas (zP S) w) ∧ Hx τ τ' ∧ ∀ c, c < pM (zP S) → ma τ' 53 c = if d = 6 then i3 (w (28 + c)) else ma τ 53 c) ∨ (allb (chk (zH S) w d) (zH S).1 = false ∧ o_loop (M_isHeard_L10 (i3 d, τ)) 0 = some (.inr (0, τ))) := by
  obtain ⟨hh1, hh2⟩ := hZ.2.2.2.1
  have hMM := hZ.1.2.1
  obtain ⟨m51, m52⟩ := hH
  -- the sixth day's knowledge
  obtain ⟨τ6, s1, s2, s3, s4, s5⟩ : ∃ τ6, (if i3 d = 6 then (o_loop M_isHeard_L90 (0, τ)).bind fun x => some x else some τ : Option MS) = some τ6 ∧ MV τ6 34 (zP S) w ∧ Hx τ τ6 ∧ (∀ i, ma τ6 44 i = ma τ 44 i) ∧ ∀ c, c < pM (zP S) → ma τ6 53 c = if d = 6 then i3 (w (28 + c)) else ma τ 53 c := by
    by_cases e6 : d = 6
    · obtain ⟨r1, w1, w2, w3, w4⟩ := o_cpy2 (step := M_isHeard_L90) (σ := τ) 44 53 62 0 (pM (zP S)) (by decide) (fun k τ' hk hF => by
        unfold M_isHeard_L90
        dsimp only
        rw [show mf τ' 2 = i3 (pM (zP S)) from (by unfold mf; rw [hF]; exact hm.2.1.1.2.1), if_pos ((i3_lt (by omega) (by omega)).mpr hk), show (62 : Int32) + i3 k = i3 (62 + k) from i3_add 62 k, ald_i3 (j := 44) (show 62 + k < 68 by omega), Option.bind_some, ast_i3 (j := 53) (show k < 6 by omega), Option.bind_some, i3_succ, Nat.zero_add]) (fun τ' hF => by
        unfold M_isHeard_L90
        dsimp only
        rw [show mf τ' 2 = i3 (pM (zP S)) from (by unfold mf; rw [hF]; exact hm.2.1.1.2.1), if_neg (fun x => absurd ((i3_lt (by omega) (by omega)).mp x) (by omega))])
      have hx1 : Hx τ r1 := ⟨w2, fun j _ _ _ a => w3 j a, fun i _ => by rw [w3 44 (by decide)]⟩
      refine ⟨r1, by rw [if_pos (show i3 d = 6 by rw [e6]; rfl), w1, Option.bind_some], ⟨hm.1, ME_of hm.2.1 (fun k _ _ => mf_hx hx1 k) (fun j _ _ => hx1.2.1 j (by omega) (by omega) (by omega) (by omega)) (by rw [hx1.2.1 49 (by decide) (by decide) (by decide) (by decide)]), ?_, hm.2.2.2⟩, hx1, fun i => by rw [w3 44 (by decide)], fun c hc => ?_⟩
      · show MRg (ma r1 44) 34 _ _
        rw [w3 44 (by decide)]
        exact hm.2.2.1
      · rw [if_pos e6, w4 c, if_pos (by omega)]
        have := hm.2.2.1.2.2.2.2 c hc
        rw [show 62 + (c - 0) = 34 + 28 + c by omega]
        exact this
    · have e6n : ¬ i3 d = 6 := fun x => e6 ((i3_inj (b := 6) (by omega) (by decide)).mp x)
      exact ⟨τ, by rw [if_neg e6n], hm, Hx_refl τ, fun _ => rfl, fun c _ => by rw [if_neg e6]⟩
  obtain ⟨τ', pa1, pa2, pa3⟩ := m3_day s2 hw0
  obtain ⟨res, l1, l2⟩ := o_inv (step := M_isHeard_L10 (i3 d, τ)) (fun k t => t = i3 k ∧ allb (chk (zH S) w d) k = true) (fun res => (allb (chk (zH S) w d) (zH S).1 = true ∧ res = .inl (i3 (d + 1), τ')) ∨ (allb (chk (zH S) w d) (zH S).1 = false ∧ res = .inr (0, τ))) (zH S).1 (fun k t hk hI => by
    obtain ⟨rfl, hI⟩ := hI
    obtain ⟨x0, x1, x2, x3⟩ := hh2 k hk
    have hld : ∀ j, j < 4 → ald τ 52 (i3 (4 * k + j)) = some (i3 ((zH S).2 k j)) := fun j hj => by rw [ald_i3 (j := 52) (show 4 * k + j < 32 by omega), m52 k j hk hj]
    have e4 : (4 : Int32) * i3 k = i3 (4 * k + 0) := i3_mul 4 k
    have e41 : (4 : Int32) * i3 k + 1 = i3 (4 * k + 1) := by rw [show (4 : Int32) = i3 4 from rfl, i3_mul]; exact i3_add _ 1
    have e42 : (4 : Int32) * i3 k + 2 = i3 (4 * k + 2) := by rw [show (4 : Int32) = i3 4 from rfl, i3_mul]; exact i3_add _ 2
    have e43 : (4 : Int32) * i3 k + 3 = i3 (4 * k + 3) := by rw [show (4 : Int32) = i3 4 from rfl, i3_mul]; exact i3_add _ 3
    unfold M_isHeard_L10
    dsimp only
    rw [m51, if_pos ((i3_lt (by omega) (by omega)).mpr hk), e42, hld 2 (by decide), Option.bind_some, i3_succ]
    by_cases e2 : (zH S).2 k 2 = d
    · rw [if_pos (by rw [e2]), e41, e43, e4, hld 0 (by decide), Option.bind_some, m3_28 hm x0, Option.bind_some, hld 1 (by decide), Option.bind_some, hld 3 (by decide), Option.bind_some, i3_bitB (p2 (b := 31) (hm.2.2.2.1.2.2.2.1 _ x0) (by decide)) (by have := hZ.1.2.2.1; omega)]
      by_cases e3 : bI ((w (28 + (zH S).2 k 0)).testBit ((zH S).2 k 1)) = i3 ((zH S).2 k 3)
      · rw [if_pos e3]
        left
        refine ⟨_, rfl, rfl, ?_⟩
        unfold allb
        rw [hI, (chk_eq e2 x3).mp e3]
        rfl
      · rw [if_neg e3]
        right
        refine ⟨_, rfl, .inr ⟨allb_no hk ?_, rfl⟩⟩
        cases e4 : chk (zH S) w d k with
        | false => rfl
        | true => exact absurd ((chk_eq e2 x3).mpr e4) e3
    · rw [if_neg (fun x => e2 ((i3_inj (by omega) (by omega)).mp x))]
      left
      refine ⟨_, rfl, rfl, ?_⟩
      unfold allb
      rw [hI, chk_ne e2]
      rfl) (fun t hI => by
    obtain ⟨rfl, hI⟩ := hI
    unfold M_isHeard_L10
    dsimp only
    have s1' : (if i3 d = 6 then o_loop M_isHeard_L90 (0, τ) else some τ : Option MS) = some τ6 := by
      rw [← s1]
      split
      · cases o_loop M_isHeard_L90 (0, τ) <;> rfl
      · rfl
    rw [m51, if_neg (fun x => absurd ((i3_lt (by omega) (by omega)).mp x) (by omega)), s1', Option.bind_some, pa1, Option.bind_some, i3_succ]
    exact ⟨_, rfl, .inl ⟨hI, rfl⟩⟩) 0 0 (Nat.zero_le _) ⟨rfl, rfl⟩
  rcases l2 with ⟨l2, rfl⟩ | ⟨l2, rfl⟩
  · exact .inl ⟨l2, τ', l1, pa3, Hx_trans s3 (Hx_fx pa2), fun c hc => by rw [pa2.2.1 53 (by decide) (by decide) (by decide)]; exact s5 c hc⟩
  · exact .inr ⟨l2, l1⟩
theorem M_isHeard_eq (hH : HM τ 51 52 (zH S)) (hZ : WFZ S) (hm : MV τ 34 (zP S) w) (hw0 : w 0 ≤ 999) : ∃ τ' w', M_isHeard τ = some (bI (soA (zP S) (zH S) w), τ') ∧ MV τ' 34 (zP S) w' ∧ Hx τ τ' ∧ (soA (zP S) (zH S) w = true → ∀ c, c < pM (zP S) → ma τ' 53 c = i3 (aft (zP S) 6 w (28 + c))) := by
  unfold M_isHeard
  obtain ⟨res, l1, l2, w', l3, l4, l5⟩ := o_inv (step := M_isHeard_L2) (fun d (t : Int32 × MS) => t.1 = i3 d ∧ MV t.2 34 (zP S) (aft (zP S) d w) ∧ Hx τ t.2 ∧ allb (sok (zP S) (zH S) w) d = true ∧ (6 < d → ∀ c, c < pM (zP S) → ma t.2 53 c = i3 (aft (zP S) 6 w (28 + c)))) (fun (res : Int32 × MS) => res.1 = bI (soA (zP S) (zH S) w) ∧ ∃ w', MV res.2 34 (zP S) w' ∧ Hx τ res.2 ∧ (soA (zP S) (zH S) w = true → ∀ c, c < pM (zP S) → ma res.2 53 c = i3 (aft (zP S) 6 w (28 + c)))) 13 (fun d t hd hI => by
    obtain ⟨t1, t2⟩ := t
    obtain ⟨rfl, z1, z2, z3, z4⟩ := hI
    dsimp only at z1 z2 z4
    unfold M_isHeard_L2
    dsimp only
    rw [if_pos ((i3_lel (c := 12) (n := 12) rfl (by omega) (by decide)).mpr (show d ≤ 12 by omega))]
    have hH2 : HM t2 51 52 (zH S) := by
      unfold HM at hH ⊢
      rw [mf_hx z2, z2.2.1 52 (by decide) (by decide) (by decide) (by decide)]
      exact hH
    rcases M_soD hH2 hZ z1 (d := d) (by omega) (by rw [aft_0]; omega) with ⟨y1, τ2, y2, y3, y4, y5⟩ | ⟨y1, y2⟩
    · left
      refine ⟨_, y2, rfl, y3, Hx_trans z2 y4, ?_, fun h6 c hc => ?_⟩
      · unfold allb
        rw [z3]
        exact y1
      · rw [y5 c hc]
        by_cases e6 : d = 6
        · rw [if_pos e6, e6]
        · rw [if_neg e6]
          exact z4 (by omega) c hc
    · right
      have e : soA (zP S) (zH S) w = false := allb_no (k := d) (by omega) y1
      exact ⟨_, y2, by rw [e]; rfl, _, z1, z2, fun x => by rw [e] at x; cases x⟩) (fun t hI => by
    obtain ⟨t1, t2⟩ := t
    obtain ⟨rfl, z1, z2, z3, z4⟩ := hI
    dsimp only at z1 z2 z4
    unfold M_isHeard_L2
    dsimp only
    rw [if_neg (by decide)]
    refine ⟨_, rfl, ?_, _, z1, z2, fun _ => z4 (by decide)⟩
    rw [show soA (zP S) (zH S) w = true from z3]
    rfl) 0 (0, τ) (Nat.zero_le _) ⟨rfl, hm, Hx_refl τ, rfl, fun h6 => by omega⟩
  obtain ⟨res1, res2⟩ := res
  dsimp only at l2 l3 l4 l5
  subst l2
  exact ⟨res2, w', l1, l3, l4, l5⟩
end HEARD
