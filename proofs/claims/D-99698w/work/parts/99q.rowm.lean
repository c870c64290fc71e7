/-! ===== row: the longest rows, the reference's table ===== -/
section ROW
variable {K : Nat → Nat} {h hc hc' h' : CH} {r r' : CR} {o N n n' : Nat} {σ τ τ' : MS} {S : ST} {w : SV} {P : PO}
def mxf (f : Nat → Nat) : Nat → Nat
  | 0 => 0
  | n + 1 => max (mxf f n) (f n)
theorem mxf_le {f : Nat → Nat} {b : Nat} : ∀ n, (∀ k, k < n → f k ≤ b) → mxf f n ≤ b := by
  intro n
  induction n with
  | zero => intro _; exact Nat.zero_le _
  | succ n ih =>
    intro h1
    have e1 := ih (fun k hk => h1 k (by omega))
    have e2 := h1 n (by omega)
    unfold mxf
    omega
theorem mxf_congr {f g : Nat → Nat} : ∀ n, (∀ k, k < n → f k = g k) → mxf f n = mxf g n := by
  intro n
  induction n with
  | zero => intro _; rfl
  | succ n ih =>
    intro h1
    unfold mxf
    rw [ih (fun k hk => h1 k (by omega)), h1 n (by omega)]
theorem mxf_ex {f : Nat → Nat} : ∀ n, mxf f n = 0 ∨ ∃ k, k < n ∧ f k = mxf f n := by
  intro n
  induction n with
  | zero => exact .inl rfl
  | succ n ih =>
    unfold mxf
    by_cases e : mxf f n ≤ f n
    · exact .inr ⟨n, by omega, by omega⟩
    · rcases ih with q | ⟨k, k1, k2⟩
      · omega
      · exact .inr ⟨k, by omega, by omega⟩
def fol (P : PO) (w : SV) (s k j : Nat) : Bool := !s.testBit j && (!bnt w j && (decide (k = 9) || fit P w k j))
def ext (P : PO) (w : SV) : Nat → Nat → Nat → Nat
  | 0, _, _ => 0
  | m + 1, s, k => mxf (fun j => if fol P w s k j = true then 1 + ext P w m (s ||| 2 ^ j) j else 0) (pN P)
def nub (N s : Nat) : Nat := smf (fun i => (!s.testBit i).toNat) N
theorem or_b (s j i : Nat) : (s ||| 2 ^ j).testBit i = (s.testBit i || decide (j = i)) := by
  rw [Nat.testBit_or, Nat.testBit_two_pow]
theorem nub_lt {N s j : Nat} (hj : j < N) (hs : s.testBit j = false) : nub N (s ||| 2 ^ j) < nub N s := by
  unfold nub
  refine smf_lt (k := j) N (fun i _ => ?_) hj ?_
  · rw [or_b]
    cases s.testBit i <;> cases decide (j = i) <;> decide
  · rw [or_b, hs, decide_eq_true rfl]
    decide
theorem nub_le (N s : Nat) : nub N s ≤ N := by
  unfold nub
  have := smf_le (f := fun i => (!s.testBit i).toNat) (b := 1) N (fun k _ => by cases s.testBit k <;> decide)
  omega
theorem fol_s {s k j : Nat} (h : fol P w s k j = true) : s.testBit j = false := by
  unfold fol at h
  cases e : s.testBit j
  · rfl
  · rw [e] at h; cases h
theorem ext_fuel : ∀ m m' s k, nub (pN P) s < m → nub (pN P) s < m' → ext P w m s k = ext P w m' s k := by
  intro m
  induction m with
  | zero => intro m' s k h; omega
  | succ m ih =>
    intro m' s k h1 h2
    cases m' with
    | zero => omega
    | succ m' =>
      unfold ext
      refine mxf_congr _ (fun j hj => ?_)
      by_cases e : fol P w s k j = true
      · have := nub_lt hj (fol_s e)
        rw [if_pos e, if_pos e, ih m' _ _ (by omega) (by omega)]
      · rw [if_neg e, if_neg e]
theorem ext_le : ∀ m s k, ext P w m s k ≤ nub (pN P) s := by
  intro m
  induction m with
  | zero => intro s k; exact Nat.zero_le _
  | succ m ih =>
    intro s k
    unfold ext
    refine mxf_le _ (fun j hj => ?_)
    split
    · next e =>
      have := nub_lt hj (fol_s e)
      have := ih (s ||| 2 ^ j) j
      omega
    · exact Nat.zero_le _
def Ex (P : PO) (w : SV) (s k : Nat) : Nat := ext P w 12 s k
def exf (P : PO) (w : SV) (s k j : Nat) : Nat := if fol P w s k j = true then 1 + Ex P w (s ||| 2 ^ j) j else 0
theorem Ex_eq (hN : pN P ≤ 9) (s k : Nat) : Ex P w s k = mxf (exf P w s k) (pN P) := by
  have := nub_le (pN P) s
  exact ext_fuel 12 13 s k (by omega) (by omega)
theorem Ex_le (s k : Nat) : Ex P w s k ≤ pN P := Nat.le_trans (ext_le 12 s k) (nub_le _ _)
theorem or_up {s j M : Nat} (hs : s < 2 ^ M) (hj : j < M) : s ||| 2 ^ j < 2 ^ M := Nat.or_lt_two_pow hs (Nat.pow_lt_pow_right (by decide) hj)
theorem or_gt {s j : Nat} (hs : s.testBit j = false) : s < s ||| 2 ^ j := by
  refine Nat.lt_of_le_of_ne Nat.left_le_or (fun e => ?_)
  have := or_b s j j
  rw [← e, hs, decide_eq_true rfl] at this
  cases this
theorem i3_orb (s : Nat) {j : Nat} (hj : j < 31) : i3 s ||| ((1 : Int32) <<< (i3 j &&& 31)) = i3 (s ||| 2 ^ j) := by rw [i3_shl hj, i3_or]
theorem M_canFollow_eq (mv : MV τ 0 P w) {s k j : Nat} (hs : s < 2 ^ 31) (hk : k < pN P ∨ k = 9) (hj : j < pN P) : M_canFollow τ (i3 s) (i3 k) (i3 j) = some (bI (fol P w s k j)) := by
  have hN := mv.1.1
  unfold M_canFollow fol
  rw [i3_bitB hs (by omega)]
  cases s.testBit j
  · rw [if_pos bI_f, m0_burnt mv hj, Option.bind_some]
    cases bnt w j
    · rw [if_pos bI_f]
      by_cases e9 : k = 9
      · rw [if_pos (show i3 k = 9 by rw [e9]; rfl), decide_eq_true e9]
        rfl
      · have e9n : ¬ i3 k = 9 := fun x => e9 ((i3_inj (b := 9) (by omega) (by decide)).mp x)
        rw [if_neg e9n, m0_fit mv (by omega) hj, Option.bind_some, decide_eq_false e9]
        cases fit P w k j
        · rw [if_pos bI_f]; rfl
        · rw [if_neg bI_t0]; rfl
    · rw [if_neg bI_t0]; rfl
  · rw [if_neg bI_t0]; rfl
theorem M_mostBehind_eq (mv : MV τ 0 P w) {s k : Nat} (hs : s < 2 ^ pN P) (hk : k < pN P ∨ k = 9) (ht : ∀ j, j < pN P → s.testBit j = false → ma τ 50 (10 * (s ||| 2 ^ j) + j) = i3 (Ex P w (s ||| 2 ^ j) j)) : M_mostBehind τ (i3 s) (i3 k) = some (i3 (Ex P w s k)) := by
  have hN := mv.1.1
  have hp9 : 2 ^ pN P ≤ 2 ^ 9 := Nat.pow_le_pow_right (by decide) hN
  rw [Ex_eq hN]
  unfold M_mostBehind
  refine o_for0 (fun j => (i3 (mxf (exf P w s k) j), i3 j)) (pN P) rfl (fun j hj => ?_) ?_
  · unfold M_mostBehind_L5
    dsimp only
    rw [mv.2.1.1.1, if_pos ((i3_lt (by omega) (by omega)).mpr hj), M_canFollow_eq mv (by omega) hk hj, Option.bind_some, i3_succ]
    show _ = some (Sum.inl (i3 (max (mxf (exf P w s k) j) (if fol P w s k j = true then 1 + Ex P w (s ||| 2 ^ j) j else 0)), i3 (j + 1)))
    have hmx : mxf (exf P w s k) j ≤ 10 := mxf_le _ (fun i hi => by
      unfold exf
      have := Ex_le (P := P) (w := w) (s ||| 2 ^ i) i
      split <;> omega)
    cases ef : fol P w s k j
    · rw [if_pos bI_f, Option.bind_some, if_neg (by decide), Nat.max_eq_left (Nat.zero_le _)]
    · have hbj := fol_s ef
      have := or_up (j := j) hs hj
      have hE := Ex_le (P := P) (w := w) (s ||| 2 ^ j) j
      rw [if_neg bI_t0, i3_orb s (by omega), show (10 : Int32) * i3 (s ||| 2 ^ j) = i3 (10 * (s ||| 2 ^ j)) from i3_mul 10 _, i3_add, ald_i3 (j := 50) (show 10 * (s ||| 2 ^ j) + j < 5120 by omega), Option.bind_some, ht j hj hbj, show (1 : Int32) + i3 (Ex P w (s ||| 2 ^ j) j) = i3 (1 + Ex P w (s ||| 2 ^ j) j) from i3_add 1 _, i3_gt (by omega) (by omega), Option.bind_some, Option.bind_some, if_pos rfl]
  · unfold M_mostBehind_L5
    dsimp only
    rw [mv.2.1.1.1, if_neg (fun x => absurd ((i3_lt (by omega) (by omega)).mp x) (by omega))]
def tbl (P : PO) (w : SV) (s k : Nat) : Nat := if (k < 9 ∧ s.testBit k = true) ∨ (s = 0 ∧ k = 9) then Ex P w s k else 0
theorem MV_50 {b : Nat} (h : MV σ b P w) (e1 : τ.1 = σ.1) (e2 : ∀ j, j ≠ 50 → ma τ j = ma σ j) : MV τ b P w := by
  refine ⟨h.1, ME_of h.2.1 (fun k _ _ => by unfold mf; rw [e1]) (fun j _ _ => e2 j (by omega)) (by rw [e2 49 (by decide)]), ?_, h.2.2.2⟩
  show MRg (ma τ 44) b P w
  rw [e2 44 (by decide)]
  exact h.2.2.1
theorem M_rowT_eq (mv : MV τ 0 P w) : ∃ τ', o_loop M_row_L14 ((((1 : Int32) <<< ((mf τ 1) &&& 31)) - 1), τ) = some τ' ∧ τ'.1 = τ.1 ∧ (∀ j, j ≠ 50 → ma τ' j = ma τ j) ∧ ∀ s k, s < 2 ^ pN P → k ≤ 9 → ma τ' 50 (10 * s + k) = i3 (tbl P w s k) := by
  have hN := mv.1.1
  have hp9 : 2 ^ pN P ≤ 2 ^ 9 := Nat.pow_le_pow_right (by decide) hN
  have hp0 : 1 ≤ 2 ^ pN P := Nat.one_le_two_pow
  rw [mv.2.1.1.1, pw2 (by omega)]
  obtain ⟨res, l1, z1, z2, z3⟩ : ∃ res, o_loop M_row_L14 (i3 (2 ^ pN P) - 1, τ) = some res ∧ res.1 = τ.1 ∧ (∀ j, j ≠ 50 → ma res j = ma τ j) ∧ ∀ s k, s < 2 ^ pN P → k ≤ 9 → ma res 50 (10 * s + k) = i3 (tbl P w s k) := by
    refine o_inv0 (fun i (t : Int32 × MS) => t.1 = i3 (2 ^ pN P - i) - 1 ∧ t.2.1 = τ.1 ∧ (∀ j, j ≠ 50 → ma t.2 j = ma τ j) ∧ ∀ s k, 2 ^ pN P - i ≤ s → s < 2 ^ pN P → k ≤ 9 → ma t.2 50 (10 * s + k) = i3 (tbl P w s k)) (fun res => res.1 = τ.1 ∧ (∀ j, j ≠ 50 → ma res j = ma τ j) ∧ ∀ s k, s < 2 ^ pN P → k ≤ 9 → ma res 50 (10 * s + k) = i3 (tbl P w s k)) (2 ^ pN P) (fun i t hi hI => ?_) (fun t hI => ?_) (i3 (2 ^ pN P) - 1, τ) ⟨rfl, rfl, fun _ _ => rfl, fun s k h1 h2 => by omega⟩
    · obtain ⟨t1, t2⟩ := t
      obtain ⟨rfl, z1, z2, z3⟩ := hI
      dsimp only at z1 z2 z3
      obtain ⟨s, hs⟩ : ∃ s, 2 ^ pN P - i = s + 1 := ⟨2 ^ pN P - i - 1, by omega⟩
      have hsN : s < 2 ^ pN P := by omega
      rw [hs] at z3 ⊢
      have es : i3 (s + 1) - 1 = i3 s := i3_sub (a := s + 1) (b := 1) (by omega)
      unfold M_row_L14
      dsimp only
      rw [es, if_neg (i3_nn (by omega))]
      obtain ⟨res2, m1, y1, y2, y3, y4⟩ : ∃ res2, o_loop (M_row_L20 (i3 s, t2)) (0, t2) = some res2 ∧ res2.1 = τ.1 ∧ (∀ j, j ≠ 50 → ma res2 j = ma τ j) ∧ (∀ s' k, s + 1 ≤ s' → s' < 2 ^ pN P → k ≤ 9 → ma res2 50 (10 * s' + k) = i3 (tbl P w s' k)) ∧ ∀ k, k ≤ 9 → ma res2 50 (10 * s + k) = i3 (tbl P w s k) := by
        refine o_inv0 (fun k (t : Int32 × MS) => t.1 = i3 k ∧ t.2.1 = τ.1 ∧ (∀ j, j ≠ 50 → ma t.2 j = ma τ j) ∧ (∀ s' k, s + 1 ≤ s' → s' < 2 ^ pN P → k ≤ 9 → ma t.2 50 (10 * s' + k) = i3 (tbl P w s' k)) ∧ ∀ k', k' < k → ma t.2 50 (10 * s + k') = i3 (tbl P w s k')) (fun res2 => res2.1 = τ.1 ∧ (∀ j, j ≠ 50 → ma res2 j = ma τ j) ∧ (∀ s' k, s + 1 ≤ s' → s' < 2 ^ pN P → k ≤ 9 → ma res2 50 (10 * s' + k) = i3 (tbl P w s' k)) ∧ ∀ k, k ≤ 9 → ma res2 50 (10 * s + k) = i3 (tbl P w s k)) 10 (fun k t hk hI => ?_) (fun t hI => ?_) (0, t2) ⟨rfl, z1, z2, z3, fun k' hk' => absurd hk' (Nat.not_lt_zero _)⟩
        · obtain ⟨t3, t4⟩ := t
          obtain ⟨rfl, y1, y2, y3, y4⟩ := hI
          dsimp only at y1 y2 y3 y4
          have mv4 : MV t4 0 P w := MV_50 mv y1 y2
          have hbeh : ∀ q, (q < pN P ∨ q = 9) → M_mostBehind t4 (i3 s) (i3 q) = some (i3 (Ex P w s q)) := fun q hq => M_mostBehind_eq mv4 hsN hq (fun j hj hb => by
            have g1 := or_gt hb
            rw [y3 _ j (by omega) (or_up hsN hj) (by omega)]
            unfold tbl
            rw [if_pos (.inl ⟨by omega, by rw [or_b, decide_eq_true rfl, Bool.or_true]⟩)])
          have hval : (if i3 k < 9 then (if ((i3 s >>> (i3 k &&& 31)) &&& 1) = 1 then M_row_J61 (i3 s, t2) (i3 k, t4) else M_row_J51 (i3 s, t2) (i3 k, t4)) else M_row_J51 (i3 s, t2) (i3 k, t4) : Option Int32) = some (i3 (tbl P w s k)) := by
            have j61 : (k < pN P ∨ k = 9) → M_row_J61 (i3 s, t2) (i3 k, t4) = some (i3 (Ex P w s k)) := by
              intro hq
              unfold M_row_J61
              dsimp only
              rw [hbeh k hq, Option.bind_some]
            have j51 : ¬ (k < 9 ∧ s.testBit k = true) → M_row_J51 (i3 s, t2) (i3 k, t4) = some (i3 (tbl P w s k)) := by
              intro hq
              unfold M_row_J51 tbl
              dsimp only
              by_cases e0 : s = 0
              · rw [if_pos ((i3_eq0 (by omega)).mpr e0)]
                by_cases e9 : k = 9
                · rw [if_pos (show i3 k = 9 by rw [e9]; rfl), j61 (.inr e9), if_pos (.inr ⟨e0, e9⟩)]
                · have e9n : ¬ i3 k = 9 := fun x => e9 ((i3_inj (b := 9) (by omega) (by decide)).mp x)
                  rw [if_neg e9n, if_neg (by rintro (x | x); exact hq x; exact e9 x.2)]
                  rfl
              · rw [if_neg (fun x => e0 ((i3_eq0 (by omega)).mp x)), if_neg (by rintro (x | x); exact hq x; exact e0 x.1)]
                rfl
            by_cases e9 : k < 9
            · rw [if_pos ((i3_ltl (c := 9) (n := 9) rfl (by omega) (by decide)).mpr e9), i3_bitB (by omega) (by omega)]
              cases eb : s.testBit k
              · rw [if_neg bI_f1, j51 (by rintro ⟨_, x⟩; rw [eb] at x; cases x)]
              · have hkN : k < pN P := by
                  apply Classical.byContradiction
                  intro x
                  rw [Nat.testBit_lt_two_pow (Nat.lt_of_lt_of_le hsN (Nat.pow_le_pow_right (by decide) (by omega)))] at eb
                  cases eb
                rw [if_pos bI_t, j61 (.inl hkN)]
                unfold tbl
                rw [if_pos (.inl ⟨e9, eb⟩)]
            · rw [if_neg (fun x => e9 ((i3_ltl (c := 9) (n := 9) rfl (by omega) (by decide)).mp x)), j51 (by rintro ⟨x, _⟩; exact e9 x)]
          unfold M_row_L20
          dsimp only
          rw [if_pos ((i3_lel (c := 9) (n := 9) rfl (by omega) (by decide)).mpr (show k ≤ 9 by omega)), hval, Option.bind_some, show (10 : Int32) * i3 s = i3 (10 * s) from i3_mul 10 s, i3_add, ast_i3 (j := 50) (show 10 * s + k < 5120 by omega), Option.bind_some, i3_succ]
          refine ⟨_, rfl, rfl, y1, fun j hj => (ma_sb hj).trans (y2 j hj), fun s' q h1 h2 h3 => ?_, fun q hq => ?_⟩
          · show ma (sa t4 50 (10 * s + k) _) 50 _ = _
            rw [ma_saq, if_neg (by omega)]
            exact y3 s' q h1 h2 h3
          · show ma (sa t4 50 (10 * s + k) _) 50 _ = _
            rw [ma_saq]
            by_cases e : q = k
            · rw [if_pos (by omega), e]
            · rw [if_neg (by omega)]
              exact y4 q (by omega)
        · obtain ⟨t3, t4⟩ := t
          obtain ⟨rfl, y1, y2, y3, y4⟩ := hI
          dsimp only at y1 y2 y3 y4
          unfold M_row_L20
          dsimp only
          rw [if_neg (by decide)]
          exact ⟨_, rfl, y1, y2, y3, fun k hk => y4 k (by omega)⟩
      rw [m1, Option.bind_some]
      refine ⟨_, rfl, ?_, y1, y2, fun s' k h1 h2 h3 => ?_⟩
      · show i3 s + -1 = i3 (2 ^ pN P - (i + 1)) - 1
        rw [show 2 ^ pN P - (i + 1) = s by omega]
        exact (Int32.sub_eq_add_neg (i3 s) 1).symm
      · by_cases e : s' = s
        · rw [e]; exact y4 k h3
        · exact y3 s' k (by omega) h2 h3
    · obtain ⟨t1, t2⟩ := t
      obtain ⟨rfl, z1, z2, z3⟩ := hI
      dsimp only at z1 z2 z3
      unfold M_row_L14
      dsimp only
      rw [show 2 ^ pN P - 2 ^ pN P = 0 by omega, if_pos (by decide)]
      exact ⟨_, rfl, z1, z2, fun s k h1 h2 => z3 s k (by omega) h1 h2⟩
  exact ⟨res, l1, z1, z2, z3⟩
end ROW
