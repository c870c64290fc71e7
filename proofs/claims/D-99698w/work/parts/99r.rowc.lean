/-! ===== row: the component's grid ===== -/
section ROWC
variable {K : Nat → Nat} {h hc hc' h' : CH} {r r' : CR} {o N n n' : Nat} {σ τ τ' : MS} {S : ST} {w : SV} {P : PO} {f : CH} {B : Nat → Nat} {sT aT hT : Option Nat} {seed : Int32} {ea eh : Nat → Nat}
theorem fol_fit {s k j : Nat} (hk : k < 9) : fol P w s k j = (fit P w k j && !s.testBit j) := by
  unfold fol fit
  rw [decide_eq_false (show ¬ k = 9 by omega)]
  cases s.testBit j <;> cases bnt w j <;> cases bnt w k <;> cases decide (k = j) <;> cases decide (far w k j ≤ pS P) <;> rfl
def Tg (P : PO) (w : SV) (k s : Nat) : Nat := if s.testBit k = true then Ex P w s k else 0
def GP (N : Nat) (h : CH) (n0 : Nat) (hc : CH) (U : Nat → Nat → Nat) : Prop := hc n0 = some (.inl (4, N, .inr (.inr (.inr (.inr (fun j => if j < N then some (n0 + 1 + j) else none)))))) ∧ (∀ k, k < N → ∃ g, hc (n0 + 1 + k) = some (.inl (0, 2 ^ N, .inl g)) ∧ ∀ s, s < 2 ^ N → g s = i3 (U k s)) ∧ (∀ q, q < n0 → hc q = h q) ∧ ∀ q, n0 + 1 + N ≤ q → hc q = none
theorem GP_q {U : Nat → Nat → Nat} {n0 M : Nat} (hG : GP M h n0 hc U) (hM : M ≤ 9) {k : Nat} (hk : k < M) : aQ hc n0 4 (i3 k) = some (some (n0 + 1 + k)) := by
  rw [aQ_of hG.1 hk (by omega), if_pos hk]
theorem GP_get {U : Nat → Nat → Nat} {n0 M : Nat} (hG : GP M h n0 hc U) (hM : M ≤ 9) {k s : Nat} (hk : k < M) (hs : s < 2 ^ M) : aI hc (n0 + 1 + k) 0 (i3 s) = some (i3 (U k s)) := by
  have hp9 : 2 ^ M ≤ 2 ^ 9 := Nat.pow_le_pow_right (by decide) hM
  obtain ⟨g, g1, g2⟩ := hG.2.1 k hk
  rw [aI_of g1 hs (by omega), g2 s hs]
theorem GP_set {U : Nat → Nat → Nat} {n0 M : Nat} (hG : GP M h n0 hc U) (hM : M ≤ 9) {k s v : Nat} (hk : k < M) (hs : s < 2 ^ M) : ∃ hc', sI hc (n0 + 1 + k) 0 (i3 s) (i3 v) = some hc' ∧ GP M h n0 hc' (fun k' s' => if k' = k ∧ s' = s then v else U k' s') := by
  have hp9 : 2 ^ M ≤ 2 ^ 9 := Nat.pow_le_pow_right (by decide) hM
  obtain ⟨a1, a2, a3, a4⟩ := hG
  obtain ⟨g, g1, g2⟩ := a2 k hk
  refine ⟨_, sI_of g1 hs (by omega), (hup_n (by omega)).trans a1, fun k' hk' => ?_, fun q hq => (hup_n (by omega)).trans (a3 q hq), fun q hq => (hup_n (by omega)).trans (a4 q hq)⟩
  by_cases e : k' = k
  · subst e
    refine ⟨_, hup_s, fun s' hs' => ?_⟩
    unfold upd
    dsimp only
    by_cases e2 : s' = s
    · rw [if_pos e2, if_pos ⟨rfl, e2⟩]
    · rw [if_neg e2, if_neg (by rintro ⟨_, x⟩; exact e2 x), g2 s' hs']
  · obtain ⟨g', q1, q2⟩ := a2 k' hk'
    refine ⟨g', (hup_n (by omega)).trans q1, fun s' hs' => ?_⟩
    dsimp only
    rw [if_neg (by rintro ⟨x, _⟩; exact e x), q2 s' hs']
theorem GP_cg {U V : Nat → Nat → Nat} {n0 M : Nat} (hG : GP M h n0 hc U) (e : ∀ k s, k < M → s < 2 ^ M → U k s = V k s) : GP M h n0 hc V := by
  obtain ⟨a1, a2, a3, a4⟩ := hG
  refine ⟨a1, fun k hk => ?_, a3, a4⟩
  obtain ⟨g, g1, g2⟩ := a2 k hk
  exact ⟨g, g1, fun s hs => by rw [g2 s hs, e k s hk hs]⟩
theorem GP_R {U : Nat → Nat → Nat} (hp : RCp K h r.1 o S f B sT aT hT seed ea eh) (hG : GP (pN (zP S)) h r.1 hc U) : RCp K hc (r.1 + 1 + pN (zP S)) o S f B sT aT hT seed ea eh :=
  RC_grow hp (fun q hq => hG.2.2.1 q hq) (fun q hq => hG.2.2.2 q hq) (by omega)
/-- what stands in the grid before place k of set s -/
def Sg (P : PO) (w : SV) (s k : Nat) : Nat → Nat → Nat := fun k' s' => if s < s' ∨ (s' = s ∧ k' < k) then Tg P w k' s' else 0
theorem C_rows_in (hp : RCp K h r.1 o S f B sT aT hT seed ea eh) {q : CR} {x1 x2 : CS} {s k : Nat} (hs : s < 2 ^ pN (zP S)) (hk : k < pN (zP S)) (hG : GP (pN (zP S)) h r.1 hc (Sg (zP S) (zw S) s k)) : ∃ hc', o_loop (C1_rows_L54 r (i3 (pN (zP S))) (i3 s, x1) (i3 k, x2) (i3 (fts (zP S) (zw S) k))) (0, (hc, q)) = some (hc', q) ∧ GP (pN (zP S)) h r.1 hc' (Sg (zP S) (zw S) s (k + 1)) := by
  have hN := (RCp_Z hp).1.1
  have hp9 : 2 ^ pN (zP S) ≤ 2 ^ 9 := Nat.pow_le_pow_right (by decide) hN
  have hfl : fts (zP S) (zw S) k < 2 ^ 9 := p2 (bst_lt _ _) hN
  cases eb : s.testBit k
  · refine ⟨hc, ?_, GP_cg hG (fun k' s' h1 h2 => ?_)⟩
    · rw [o_loop_eq]
      unfold C1_rows_L54
      dsimp only
      rw [if_pos (show (0 : Int32) < i3 (pN (zP S)) from (i3_lt (a := 0) (by decide) (by omega)).mpr (by omega)), C1_isOf_eq (by omega) (by omega), Option.bind_some, eb, if_pos bI_f]
      rfl
    · unfold Sg Tg
      by_cases e : s' = s ∧ k' = k
      · rw [e.1, e.2, if_neg (by omega), if_pos (by omega), eb, if_neg (by decide)]
      · by_cases e2 : s < s' ∨ (s' = s ∧ k' < k)
        · rw [if_pos e2, if_pos (show s < s' ∨ (s' = s ∧ k' < k + 1) by omega)]
        · rw [if_neg e2, if_neg (show ¬ (s < s' ∨ (s' = s ∧ k' < k + 1)) by omega)]
  · obtain ⟨res, l1, hc', rfl, l2⟩ : ∃ res, o_loop (C1_rows_L54 r (i3 (pN (zP S))) (i3 s, x1) (i3 k, x2) (i3 (fts (zP S) (zw S) k))) (0, (hc, q)) = some res ∧ ∃ hc', res = (hc', q) ∧ GP (pN (zP S)) h r.1 hc' (fun k' s' => if k' = k ∧ s' = s then mxf (exf (zP S) (zw S) s k) (pN (zP S)) else Sg (zP S) (zw S) s k k' s') := by
      refine o_inv0 (fun j (t : Int32 × CS) => t.1 = i3 j ∧ t.2.2 = q ∧ GP (pN (zP S)) h r.1 t.2.1 (fun k' s' => if k' = k ∧ s' = s then mxf (exf (zP S) (zw S) s k) j else Sg (zP S) (zw S) s k k' s')) (fun (res : CS) => ∃ hc', res = (hc', q) ∧ GP (pN (zP S)) h r.1 hc' (fun k' s' => if k' = k ∧ s' = s then mxf (exf (zP S) (zw S) s k) (pN (zP S)) else Sg (zP S) (zw S) s k k' s')) (pN (zP S)) (fun j t hj hI => ?_) (fun t hI => ?_) (0, (hc, q)) ⟨rfl, rfl, GP_cg hG (fun k' s' h1 h2 => ?_)⟩
      · obtain ⟨t1, th, t3⟩ := t
        obtain ⟨rfl, rfl, hI⟩ := hI
        dsimp only at hI
        unfold C1_rows_L54
        dsimp only
        have hmx : mxf (exf (zP S) (zw S) s k) j ≤ 10 := mxf_le _ (fun i hi => by
          unfold exf
          have := Ex_le (P := zP S) (w := zw S) (s ||| 2 ^ i) i
          split <;> omega)
        have efj : fol (zP S) (zw S) s k j = (fit (zP S) (zw S) k j && !s.testBit j) := fol_fit (by omega)
        rw [if_pos ((i3_lt (by omega) (by omega)).mpr hj), C1_isOf_eq (by omega) (by omega), Option.bind_some, eb, if_neg bI_t0, ntb _ _ (by omega) (by omega), C1_isOf_eq (Nat.lt_of_le_of_lt Nat.and_le_left (by omega)) (by omega), Option.bind_some, ntb_bit (by omega), fts_bit hj, ← efj, i3_succ]
        cases ef : fol (zP S) (zw S) s k j
        · rw [if_pos bI_f, Option.bind_some]
          refine ⟨_, rfl, rfl, rfl, GP_cg hI (fun k' s' h1 h2 => ?_)⟩
          by_cases e : k' = k ∧ s' = s
          · rw [if_pos e, if_pos e]
            show _ = max (mxf (exf (zP S) (zw S) s k) j) (if fol (zP S) (zw S) s k j = true then 1 + Ex (zP S) (zw S) (s ||| 2 ^ j) j else 0)
            rw [ef, if_neg (by decide), Nat.max_eq_left (Nat.zero_le _)]
          · rw [if_neg e, if_neg e]
        · have hbj := fol_s ef
          have hup2 := or_up (j := j) hs hj
          have hgt := or_gt hbj
          have hE := Ex_le (P := zP S) (w := zw S) (s ||| 2 ^ j) j
          have e1 := GP_get hI hN hk hs
          have e2 := GP_get hI hN hj hup2
          rw [if_pos ⟨rfl, rfl⟩] at e1
          rw [if_neg (by rintro ⟨_, x⟩; omega)] at e2
          have e3 : Sg (zP S) (zw S) s k j (s ||| 2 ^ j) = Ex (zP S) (zw S) (s ||| 2 ^ j) j := by
            unfold Sg Tg
            rw [if_pos (.inl hgt), if_pos (by rw [or_b, decide_eq_true rfl, Bool.or_true])]
          rw [e3] at e2
          obtain ⟨hc2, g1, g2⟩ := GP_set hI hN (v := max (mxf (exf (zP S) (zw S) s k) j) (1 + Ex (zP S) (zw S) (s ||| 2 ^ j) j)) hk hs
          rw [if_neg bI_t0, GP_q hI hN hk, Option.bind_some, Option.bind_some, Option.bind_some, Option.bind_some, e1, Option.bind_some, GP_q hI hN hj, Option.bind_some, Option.bind_some, i3_orb s (by omega), e2, Option.bind_some, show (1 : Int32) + i3 (Ex (zP S) (zw S) (s ||| 2 ^ j) j) = i3 (1 + Ex (zP S) (zw S) (s ||| 2 ^ j) j) from i3_add 1 _, i3_max (by omega) (by omega), g1, Option.bind_some, Option.bind_some]
          refine ⟨_, rfl, rfl, rfl, GP_cg g2 (fun k' s' h1 h2 => ?_)⟩
          by_cases e : k' = k ∧ s' = s
          · rw [if_pos e, if_pos e]
            show _ = max (mxf (exf (zP S) (zw S) s k) j) (if fol (zP S) (zw S) s k j = true then 1 + Ex (zP S) (zw S) (s ||| 2 ^ j) j else 0)
            rw [ef, if_pos rfl]
          · rw [if_neg e, if_neg e, if_neg e]
      · obtain ⟨t1, th, t3⟩ := t
        obtain ⟨rfl, rfl, hI⟩ := hI
        dsimp only at hI
        unfold C1_rows_L54
        dsimp only
        rw [if_neg (fun x => absurd ((i3_lt (by omega) (by omega)).mp x) (by omega))]
        exact ⟨_, rfl, th, rfl, hI⟩
      · by_cases e : k' = k ∧ s' = s
        · rw [if_pos e]
          unfold Sg
          rw [e.1, e.2, if_neg (by omega)]
          rfl
        · rw [if_neg e]
    refine ⟨hc', l1, GP_cg l2 (fun k' s' h1 h2 => ?_)⟩
    by_cases e : k' = k ∧ s' = s
    · rw [if_pos e]
      unfold Sg Tg
      rw [e.1, e.2, if_pos (by omega), eb, if_pos rfl, Ex_eq hN]
    · rw [if_neg e]
      unfold Sg
      by_cases e2 : s < s' ∨ (s' = s ∧ k' < k)
      · rw [if_pos e2, if_pos (show s < s' ∨ (s' = s ∧ k' < k + 1) by omega)]
      · rw [if_neg e2, if_neg (show ¬ (s < s' ∨ (s' = s ∧ k' < k + 1)) by omega)]
theorem C1_rows_eq (hp : RCp K h r.1 o S f B sT aT hT seed ea eh) (h1 : 10 ≤ r.2.1) (h2 : 4700 ≤ r.2.2) : ∃ hg, vc h o 1 (achk r (C1_rows h r o)) = some (r.1, (hg, (r.1 + 1 + pN (zP S), r.2.1 - (1 + pN (zP S)), r.2.2 - (pN (zP S) + pN (zP S) * 2 ^ pN (zP S))))) ∧ GP (pN (zP S)) h r.1 hg (Tg (zP S) (zw S)) := by
  have hN := (RCp_Z hp).1.1
  have hp9 : 2 ^ pN (zP S) ≤ 2 ^ 9 := Nat.pow_le_pow_right (by decide) hN
  have hp0 : 1 ≤ 2 ^ pN (zP S) := Nat.one_le_two_pow
  have hmul : pN (zP S) * 2 ^ pN (zP S) ≤ 9 * 512 := Nat.mul_le_mul hN hp9
  obtain ⟨hv, hs0, _⟩ := RD_of hp
  obtain ⟨G, a1, a2, a3, a4, a5⟩ := aGrid_of (h := h) (r := r) (n := pN (zP S)) (k := 2 ^ pN (zP S)) (by omega) (by omega) (by omega) (by omega)
  have hG0 : GP (pN (zP S)) h r.1 G (Sg (zP S) (zw S) (2 ^ pN (zP S) - 1) 0) := ⟨a2, fun k hk => ⟨_, a3 k hk, fun s hs => by unfold Sg; rw [if_neg (by omega)]; rfl⟩, a4, fun q hq => by rw [a5 q hq]; exact RCp_FR hp q (by omega)⟩
  rw [cx_vc hv.1]
  obtain ⟨res, l1, hg, rfl, l2⟩ : ∃ res, o_loop (C1_rows_L23 r o (i3 (pN (zP S)))) (i3 (2 ^ pN (zP S) - 1), (G, (r.1 + 1 + pN (zP S), r.2.1 - (1 + pN (zP S)), r.2.2 - (pN (zP S) + pN (zP S) * 2 ^ pN (zP S))))) = some res ∧ ∃ hg, res = (r.1, (hg, (r.1 + 1 + pN (zP S), r.2.1 - (1 + pN (zP S)), r.2.2 - (pN (zP S) + pN (zP S) * 2 ^ pN (zP S))))) ∧ GP (pN (zP S)) h r.1 hg (Sg (zP S) (zw S) 0 0) := by
    refine o_inv0 (fun i (t : Int32 × CS) => t.1 = i3 (2 ^ pN (zP S) - 1 - i) ∧ t.2.2 = (r.1 + 1 + pN (zP S), r.2.1 - (1 + pN (zP S)), r.2.2 - (pN (zP S) + pN (zP S) * 2 ^ pN (zP S))) ∧ GP (pN (zP S)) h r.1 t.2.1 (Sg (zP S) (zw S) (2 ^ pN (zP S) - 1 - i) 0)) (fun (res : Nat × CS) => ∃ hg, res = (r.1, (hg, (r.1 + 1 + pN (zP S), r.2.1 - (1 + pN (zP S)), r.2.2 - (pN (zP S) + pN (zP S) * 2 ^ pN (zP S))))) ∧ GP (pN (zP S)) h r.1 hg (Sg (zP S) (zw S) 0 0)) (2 ^ pN (zP S) - 1) (fun i t hi hI => ?_) (fun t hI => ?_) _ ⟨rfl, rfl, hG0⟩
    · obtain ⟨t1, th, t3⟩ := t
      obtain ⟨rfl, rfl, hI⟩ := hI
      dsimp only at hI
      obtain ⟨s, hs⟩ : ∃ s, 2 ^ pN (zP S) - 1 - i = s + 1 := ⟨2 ^ pN (zP S) - 1 - i - 1, by omega⟩
      rw [hs] at hI ⊢
      have hnle : ¬ i3 (s + 1) ≤ 0 := fun x => by have := (i3_le (a := s + 1) (b := 0) (by omega) (by decide)).mp x; omega
      unfold C1_rows_L23
      dsimp only
      rw [if_neg hnle]
      obtain ⟨res, m1, hc2, rfl, m2⟩ : ∃ res, o_loop (C1_rows_L30 r o (i3 (pN (zP S))) (i3 (s + 1), (th, (r.1 + 1 + pN (zP S), r.2.1 - (1 + pN (zP S)), r.2.2 - (pN (zP S) + pN (zP S) * 2 ^ pN (zP S)))))) (0, (th, (r.1 + 1 + pN (zP S), r.2.1 - (1 + pN (zP S)), r.2.2 - (pN (zP S) + pN (zP S) * 2 ^ pN (zP S))))) = some res ∧ ∃ hc2, res = (hc2, (r.1 + 1 + pN (zP S), r.2.1 - (1 + pN (zP S)), r.2.2 - (pN (zP S) + pN (zP S) * 2 ^ pN (zP S)))) ∧ GP (pN (zP S)) h r.1 hc2 (Sg (zP S) (zw S) (s + 1) (pN (zP S))) := by
        refine o_inv0 (fun k (t : Int32 × CS) => t.1 = i3 k ∧ t.2.2 = (r.1 + 1 + pN (zP S), r.2.1 - (1 + pN (zP S)), r.2.2 - (pN (zP S) + pN (zP S) * 2 ^ pN (zP S))) ∧ GP (pN (zP S)) h r.1 t.2.1 (Sg (zP S) (zw S) (s + 1) k)) (fun (res : CS) => ∃ hc2, res = (hc2, (r.1 + 1 + pN (zP S), r.2.1 - (1 + pN (zP S)), r.2.2 - (pN (zP S) + pN (zP S) * 2 ^ pN (zP S)))) ∧ GP (pN (zP S)) h r.1 hc2 (Sg (zP S) (zw S) (s + 1) (pN (zP S)))) (pN (zP S)) (fun k t hk hI => ?_) (fun t hI => ?_) _ ⟨rfl, rfl, hI⟩
        · obtain ⟨t1, th2, t3⟩ := t
          obtain ⟨rfl, rfl, hI2⟩ := hI
          dsimp only at hI2
          obtain ⟨hv2, hs2, _⟩ := RD_of (GP_R hp hI2)
          unfold C1_rows_L30
          dsimp only
          obtain ⟨hc3, x1, x2⟩ := C_rows_in hp (q := (r.1 + 1 + pN (zP S), r.2.1 - (1 + pN (zP S)), r.2.2 - (pN (zP S) + pN (zP S) * 2 ^ pN (zP S)))) (x1 := (th, (r.1 + 1 + pN (zP S), r.2.1 - (1 + pN (zP S)), r.2.2 - (pN (zP S) + pN (zP S) * 2 ^ pN (zP S))))) (x2 := (th2, (r.1 + 1 + pN (zP S), r.2.1 - (1 + pN (zP S)), r.2.2 - (pN (zP S) + pN (zP S) * 2 ^ pN (zP S))))) (s := s + 1) (by omega) hk hI2
          rw [if_pos ((i3_lt (by omega) (by omega)).mpr hk), hs2, Option.bind_some, sv_vc hv2, C3_fitting_eq hv2 hk, Option.bind_some, x1, Option.bind_some, i3_succ]
          exact ⟨_, rfl, rfl, rfl, x2⟩
        · obtain ⟨t1, th2, t3⟩ := t
          obtain ⟨rfl, rfl, hI2⟩ := hI
          dsimp only at hI2
          unfold C1_rows_L30
          dsimp only
          rw [if_neg (fun x => absurd ((i3_lt (by omega) (by omega)).mp x) (by omega))]
          exact ⟨_, rfl, th2, rfl, hI2⟩
      rw [m1, Option.bind_some]
      refine ⟨_, rfl, ?_, rfl, GP_cg m2 (fun k' s' h1 h2 => ?_)⟩
      · show i3 (s + 1) + -1 = _
        rw [show i3 (s + 1) + -1 = i3 (s + 1) - 1 from (Int32.sub_eq_add_neg _ 1).symm, show i3 (s + 1) - 1 = i3 s from i3_sub (a := s + 1) (b := 1) (by omega)]
        congr 1
        omega
      · rw [show 2 ^ pN (zP S) - 1 - (i + 1) = s by omega]
        unfold Sg
        by_cases e : s < s'
        · rw [if_pos (by omega), if_pos (.inl e)]
        · rw [if_neg (by omega), if_neg (by omega)]
    · obtain ⟨t1, th, t3⟩ := t
      obtain ⟨rfl, rfl, hI⟩ := hI
      dsimp only at hI
      rw [show 2 ^ pN (zP S) - 1 - (2 ^ pN (zP S) - 1) = 0 by omega] at hI ⊢
      unfold C1_rows_L23
      dsimp only
      rw [if_pos (by decide)]
      exact ⟨_, rfl, th, rfl, hI⟩
  refine ⟨hg, achk_of (q := (r.1, (hg, (r.1 + 1 + pN (zP S), r.2.1 - (1 + pN (zP S)), r.2.2 - (pN (zP S) + pN (zP S) * 2 ^ pN (zP S)))))) ?_ (Nat.sub_le _ _) (Nat.sub_le _ _), GP_cg l2 (fun k s _ _ => ?_)⟩
  · unfold C1_rows
    rw [cx_1 hv.1, Option.bind_some, cx_n hv.1, Option.bind_some, pw2 (by omega), a1, Option.bind_some, show i3 (2 ^ pN (zP S)) - 1 = i3 (2 ^ pN (zP S) - 1) from i3_sub (b := 1) hp0]
    exact l1
  · unfold Sg Tg
    by_cases e : s = 0
    · rw [e, if_neg (by omega), if_neg (by rw [Nat.zero_testBit]; decide)]
    · rw [if_pos (by omega)]
end ROWC
