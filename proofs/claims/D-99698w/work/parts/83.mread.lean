/-! ===== the reference's state holds the mathematical one ===== -/
def atM (v : Nat) : Int32 := if v = 99 then -1 else if v < 4 then i3 v else i3 (v + 6)
def MRg (g : Nat → Int32) (b : Nat) (P : PO) (w : SV) : Prop := g b = i3 (w 0) ∧ (∀ k, k < pN P → g (b + 1 + k) = i3 (w (1 + k))) ∧ (∀ k, k < pN P → g (b + 10 + k) = i3 (w (10 + k))) ∧ (∀ k, k < pN P → g (b + 19 + k) = atM (w (19 + k))) ∧ (∀ c, c < pM P → g (b + 28 + c) = i3 (w (28 + c)))
abbrev MR (σ : MS) (b : Nat) (P : PO) (w : SV) : Prop := MRg (ma σ 44) b P w
def sX (σ : MS) (j : Nat) (g : Nat → Int32) : MS := (σ.1, σ.2.1, fun q => if q = j then g else σ.2.2 q)
def MX (σ : MS) (i : Int32) (F : (Nat → Int32) → Int32) : Prop := ∀ σ' : MS, ma σ' 11 = ma σ 11 → ∃ g, M_reckons σ' i = some (F (ma σ' 47), sX σ' 48 g)
def MO (σ : MS) (i : Int32) (Y : Option ((Nat → Int32) → Int32)) (cn : (Nat → Int32) → (Nat → Int32)) : Prop := match Y with
  | none => i = -1
  | some E => ¬ i = -1 ∧ MX σ i (fun f => E (cn f))
def ME (σ : MS) (P : PO) : Prop := (mf σ 1 = i3 (pN P) ∧ mf σ 2 = i3 (pM P) ∧ mf σ 3 = i3 (pQ' P) ∧ mf σ 4 = i3 (pS P)) ∧ ((∀ c, c < pM P → ma σ 8 c = i3 (pL P c)) ∧ (∀ c i, c < pM P → i < pL P c → ma σ 7 (6 * c + i) = i3 (pR P c i)) ∧ (∀ i, i < pQ' P → ma σ 9 i = i3 (pA P i)) ∧ (∀ i, i < pQ' P → ma σ 10 i = i3 (pB P i))) ∧ MO σ (mf σ 5) (pY P) cnL ∧ MO σ (mf σ 6) (pZ P) cnM ∧ ma σ 49 0 = 0
def MV (σ : MS) (b : Nat) (P : PO) (w : SV) : Prop := WFP P ∧ ME σ P ∧ MR σ b P w ∧ WFS P w ∧ b ≤ 34
theorem ald_i3 {σ : MS} {j n : Nat} (h : n < mlen j) : ald σ j (i3 n) = some (ma σ j n) := by
  have h2 := mlen_lt j
  unfold ald
  rw [if_neg (by rw [i3_in (by omega)]; omega), i3_nat (by omega)]
theorem ast_i3 {σ : MS} {j n : Nat} {v : Int32} (h : n < mlen j) : ast σ j (i3 n) v = some (sa σ j n v) := by
  have h2 := mlen_lt j
  unfold ast
  rw [if_neg (by rw [i3_in (by omega)]; omega), i3_nat (by omega)]
theorem astZ_i3 {σ : MS} {j n : Nat} {v : Int32} (h : n < mlen j) : astZ σ j (i3 n) v = some (sa σ j n (vp_nar .boolean v)) := by
  have h2 := mlen_lt j
  unfold astZ
  rw [if_neg (by rw [i3_in (by omega)]; omega), i3_nat (by omega)]
theorem ald_at {σ : MS} {j n : Nat} {x v : Int32} (hx : x = i3 n) (h : n < mlen j) (hv : ma σ j n = v) : ald σ j x = some v := by rw [hx, ald_i3 h, hv]
theorem i3_a3 (a b c : Nat) : i3 a + i3 b + i3 c = i3 (a + b + c) := by rw [i3_add, i3_add]
section MREAD
variable {σ : MS} {P : PO} {w : SV} {b : Nat}
theorem mv_day (h : MV σ b P w) : ald σ 44 (i3 b + 0) = some (i3 (w 0)) :=
  ald_at (n := b) (i3_add b 0) (show b < 68 by have := h.2.2.2.2; omega) h.2.2.1.1
theorem mv_1 (h : MV σ b P w) {k : Nat} (hk : k < pN P) : ald σ 44 (i3 b + 1 + i3 k) = some (i3 (w (1 + k))) :=
  ald_at (n := b + 1 + k) (i3_a3 b 1 k) (show b + 1 + k < 68 by have := h.2.2.2.2; have := h.1.1; omega) (h.2.2.1.2.1 k hk)
theorem mv_10 (h : MV σ b P w) {k : Nat} (hk : k < pN P) : ald σ 44 (i3 b + 10 + i3 k) = some (i3 (w (10 + k))) :=
  ald_at (n := b + 10 + k) (i3_a3 b 10 k) (show b + 10 + k < 68 by have := h.2.2.2.2; have := h.1.1; omega) (h.2.2.1.2.2.1 k hk)
theorem mv_19 (h : MV σ b P w) {k : Nat} (hk : k < pN P) : ald σ 44 (i3 b + 19 + i3 k) = some (atM (w (19 + k))) :=
  ald_at (n := b + 19 + k) (i3_a3 b 19 k) (show b + 19 + k < 68 by have := h.2.2.2.2; have := h.1.1; omega) (h.2.2.1.2.2.2.1 k hk)
theorem mv_28 (h : MV σ b P w) {c : Nat} (hc : c < pM P) : ald σ 44 (i3 b + 28 + i3 c) = some (i3 (w (28 + c))) :=
  ald_at (n := b + 28 + c) (i3_a3 b 28 c) (show b + 28 + c < 68 by have := h.2.2.2.2; have := h.1.2.1; omega) (h.2.2.1.2.2.2.2 c hc)
theorem M_townOn_eq (hP : WFP P) (hE : ME σ P) {c d : Nat} (hc : c < pM P) (hd : d < 2 ^ 31) : M_townOn σ (i3 c) (i3 d) = some (i3 (towD P c d)) := by
  obtain ⟨_, h2, _, _, h5, h6, _⟩ := hP
  have hL := h6 c hc
  have hm := Nat.mod_lt d hL.1
  unfold M_townOn
  rw [ald_at (j := 8) (n := c) rfl (show c < 6 by omega) (hE.2.1.1 c hc), Option.bind_some, i3_rem hd (by omega) (by omega), Option.bind_some,
    ald_at (j := 7) (n := 6 * c + d % pL P c) (show (6 : Int32) * i3 c + i3 (d % pL P c) = _ by rw [show (6 : Int32) = i3 6 from rfl, i3_mul, i3_add]) (show 6 * c + d % pL P c < 36 by omega) (hE.2.1.2.1 c _ hc hm)]
  rfl
theorem M_clerkIn_eq (h : MV σ b P w) {c : Nat} (hc : c < pM P) : M_clerkIn σ (i3 b) (i3 c) = some (i3 (tow P w c)) := by
  have h0 := h.2.2.2.1.2.2.2.2
  unfold M_clerkIn
  rw [mv_day h, Option.bind_some, M_townOn_eq h.1 h.2.1 hc (by omega)]
  rfl
theorem atM_b (v : Nat) (hv : v < 2 ^ 20) : atM v = -1 ↔ v = 99 := by
  unfold atM
  split
  · next h => simp [h]
  · next h =>
    split
    · exact ⟨fun x => absurd x (i3_m1 (by omega)), fun x => absurd x h⟩
    · exact ⟨fun x => absurd x (i3_m1 (by omega)), fun x => absurd x h⟩
theorem wfs_19 (hw : WFS P w) (hP : WFP P) {k : Nat} (hk : k < pN P) : w (19 + k) < 10 ∨ w (19 + k) = 99 := by
  have h1 := hP.2.1
  rcases hw.2.2.1 k hk with h | h | h
  · left; omega
  · left; omega
  · right; exact h
theorem M_isBurnt_eq (h : MV σ b P w) {k : Nat} (hk : k < pN P) : M_isBurnt σ (i3 b) (i3 k) = some (bI (bnt w k)) := by
  have h9 := wfs_19 h.2.2.2.1 h.1 hk
  unfold M_isBurnt
  rw [mv_19 h hk, Option.bind_some]
  unfold bnt
  by_cases hb : w (19 + k) = 99
  · rw [if_pos ((atM_b _ (by omega)).mpr hb), decide_eq_true hb]; rfl
  · rw [if_neg (fun x => hb ((atM_b _ (by omega)).mp x)), decide_eq_false hb]; rfl
theorem whr_t {k : Nat} (h : w (19 + k) < 4) : whr P w k = w (19 + k) := by unfold whr; rw [if_pos h]
theorem whr_c {k : Nat} (h : ¬ w (19 + k) < 4) (h2 : ¬ w (19 + k) = 99) : whr P w k = tow P w (w (19 + k) - 4) := by unfold whr; rw [if_neg h, if_neg h2]
theorem whr_b {k : Nat} (h : w (19 + k) = 99) : whr P w k = 99 := by unfold whr; rw [if_neg (show ¬ w (19 + k) < 4 by omega), if_pos h]
theorem atM_x {v : Nat} (h : v < 4) : atM v = i3 v := by unfold atM; rw [if_neg (show ¬ v = 99 by omega), if_pos h]
theorem atM_y {v : Nat} (h : ¬ v < 4) (h2 : ¬ v = 99) : atM v = i3 (v + 6) := by unfold atM; rw [if_neg h2, if_neg h]
theorem atM_z {v : Nat} (h : v = 99) : atM v = -1 := by unfold atM; rw [if_pos h]
theorem wI_x {v : Nat} (h : ¬ v = 99) : wI v = i3 v := if_neg h
theorem wI_z {v : Nat} (h : v = 99) : wI v = -1 := if_pos h
theorem M_sheetIn_eq (h : MV σ b P w) {k : Nat} (hk : k < pN P) : M_sheetIn σ (i3 b) (i3 k) = some (wI (whr P w k)) := by
  have hM := h.1.2.1
  unfold M_sheetIn
  rw [mv_19 h hk, Option.bind_some]
  rcases h.2.2.2.1.2.2.1 k hk with h9 | h9 | h9
  · rw [atM_x h9, whr_t h9, if_pos ((i3_ltl (c := 10) (n := 10) rfl (by omega) (by decide)).mpr (by omega)), wI_x (by omega)]
  · have n4 : ¬ w (19 + k) < 4 := by omega
    have n9 : ¬ w (19 + k) = 99 := by omega
    have h4 := wfp_tow h.1 (c := w (19 + k) - 4) (d := w 0) (by omega)
    rw [atM_y n4 n9, whr_c n4 n9, if_neg (fun x => absurd ((i3_ltl (c := 10) (n := 10) rfl (by omega) (by decide)).mp x) (by omega)),
      show i3 (w (19 + k) + 6) - 10 = i3 (w (19 + k) - 4) from (i3_sub (a := w (19 + k) + 6) (b := 10) (by omega)).trans (congrArg i3 (show w (19 + k) + 6 - 10 = w (19 + k) - 4 by omega)),
      M_clerkIn_eq h (by omega), Option.bind_some, wI_x (by unfold tow; omega)]
  · rw [atM_z h9, whr_b h9, if_pos (by decide), wI_z rfl]
theorem M_offBy_eq (h : MV σ b P w) {k j : Nat} (hk : k < pN P) (hj : j < pN P) : M_offBy σ (i3 b) (i3 k) (i3 j) = some (i3 (far w k j)) := by
  have h1 := h.2.2.2.1.1 j hj
  have h2 := h.2.2.2.1.2.1 k hk
  have h3 := xor_lt h2 h1
  unfold M_offBy
  rw [mv_10 h hk, Option.bind_some, mv_1 h hj, Option.bind_some, i3_xor, M_bits_eq (by omega)]
  rfl
theorem M_doesFit_eq (h : MV σ b P w) {k j : Nat} (hk : k < pN P) (hj : j < pN P) : M_doesFit σ (i3 b) (i3 k) (i3 j) = some (bI (fit P w k j)) := by
  have hN := h.1.1
  have hS := h.1.2.2.2.1
  have hp := pc_le (w (10 + k) ^^^ w (1 + j))
  unfold M_doesFit fit
  by_cases e : k = j
  · rw [if_pos (by rw [e]), decide_eq_true e]; rfl
  · rw [if_neg (fun x => e ((i3_inj (by omega) (by omega)).mp x)), M_isBurnt_eq h hk, Option.bind_some, decide_eq_false e]
    cases h1 : bnt w k
    · rw [if_pos (by decide), M_isBurnt_eq h hj, Option.bind_some]
      cases h2 : bnt w j
      · rw [if_pos (by decide), M_offBy_eq h hk hj, Option.bind_some, h.2.1.1.2.2.2]
        unfold far
        by_cases h3 : pc (w (10 + k) ^^^ w (1 + j)) ≤ pS P
        · rw [if_pos ((i3_le (by omega) (by omega)).mpr h3), decide_eq_true h3]; rfl
        · rw [if_neg (fun x => h3 ((i3_le (by omega) (by omega)).mp x)), decide_eq_false h3]; rfl
      · rw [if_neg (by decide)]; rfl
    · rw [if_neg (by decide)]; rfl
/-- a loop that makes a set -/
theorem o_bst {step : Int32 × Int32 → Option ((Int32 × Int32) ⊕ Int32)} {n : Nat} {p : Nat → Bool} (hs : ∀ k a, k < n → step (i3 a, i3 k) = some (.inl (i3 (a ||| st1 p k), i3 (k + 1)))) (he : ∀ a, step (i3 a, i3 n) = some (.inr (i3 a))) : o_loop step (0, 0) = some (i3 (bst p n)) :=
  o_for0 (fun k => (i3 (bst p k), i3 k)) n rfl (fun k hk => hs k _ hk) (he _)
theorem o_orf {step : Int32 × Int32 → Option ((Int32 × Int32) ⊕ Int32)} {n : Nat} {f : Nat → Nat} (hs : ∀ k a, k < n → step (i3 a, i3 k) = some (.inl (i3 (a ||| f k), i3 (k + 1)))) (he : ∀ a, step (i3 a, i3 n) = some (.inr (i3 a))) : o_loop step (0, 0) = some (i3 (orf f n)) :=
  o_for0 (fun k => (i3 (orf f k), i3 k)) n rfl (fun k hk => hs k _ hk) (he _)
theorem i3_succ (k : Nat) : i3 k + 1 = i3 (k + 1) := i3_add k 1
/-- 'v |= c ? 1 << k : 0' -/
theorem st1_t {p : Nat → Bool} {k : Nat} (h : p k = true) (hk : k < 31) : (1 : Int32) <<< (i3 k &&& 31) = i3 (st1 p k) := by
  unfold st1; rw [if_pos h, i3_shl hk]
theorem st1_f {p : Nat → Bool} {k : Nat} (h : p k = false) : (0 : Int32) = i3 (st1 p k) := by
  unfold st1; rw [if_neg (by rw [h]; decide)]; rfl
theorem M_clerksAt_eq (h : MV σ b P w) {t : Nat} (ht : t < 2 ^ 31) : M_clerksAt σ (i3 b) (i3 t) = some (i3 (clI P w t)) := by
  have hM := h.1.2.1
  unfold M_clerksAt
  refine o_bst (fun k a hk => ?_) (fun a => ?_)
  · have h4 := wfp_tow h.1 (c := k) (d := w 0) hk
    unfold M_clerksAt_L5
    dsimp only
    rw [h.2.1.1.2.1, if_pos ((i3_lt (by omega) (by omega)).mpr hk), M_clerkIn_eq h hk, Option.bind_some, i3_succ]
    by_cases e : tow P w k = t
    · rw [if_pos (by rw [e]), Option.bind_some, st1_t (p := fun c => decide (tow P w c = t)) (decide_eq_true e) (by omega), i3_or]
    · rw [if_neg (fun x => e ((i3_inj (by unfold tow; omega) ht).mp x)), Option.bind_some, st1_f (p := fun c => decide (tow P w c = t)) (k := k) (decide_eq_false e), i3_or]
  · unfold M_clerksAt_L5
    dsimp only
    rw [h.2.1.1.2.1, if_neg (fun x => absurd ((i3_lt (by omega) (by omega)).mp x) (by omega))]
theorem wI_t {v t : Nat} (hv : v < 4 ∨ v = 99) (ht : t < 4) : wI v = i3 t ↔ v = t := by
  unfold wI
  split
  · next h => exact ⟨fun x => absurd x.symm (i3_m1 (by omega)), fun x => by omega⟩
  · next h => exact i3_inj (by omega) (by omega)
theorem M_sheetsAt_eq (h : MV σ b P w) {t : Nat} (ht : t < 4) : M_sheetsAt σ (i3 b) (i3 t) = some (i3 (shI P w t)) := by
  have hN := h.1.1
  unfold M_sheetsAt
  refine o_bst (fun k a hk => ?_) (fun a => ?_)
  · have h4 := whr_lt h.1 h.2.2.2.1 hk
    unfold M_sheetsAt_L5
    dsimp only
    rw [h.2.1.1.1, if_pos ((i3_lt (by omega) (by omega)).mpr hk), M_sheetIn_eq h hk, Option.bind_some, i3_succ]
    by_cases e : whr P w k = t
    · rw [if_pos ((wI_t h4 ht).mpr e), Option.bind_some, st1_t (p := fun c => decide (whr P w c = t)) (decide_eq_true e) (by omega), i3_or]
    · rw [if_neg (fun x => e ((wI_t h4 ht).mp x)), Option.bind_some, st1_f (p := fun c => decide (whr P w c = t)) (k := k) (decide_eq_false e), i3_or]
  · unfold M_sheetsAt_L5
    dsimp only
    rw [h.2.1.1.1, if_neg (fun x => absurd ((i3_lt (by omega) (by omega)).mp x) (by omega))]
theorem bit2 {s i j : Nat} (hs : s < 2 ^ 31) (hi : i < 32) (hj : j < 32) : (((i3 s >>> (i3 i &&& 31)) &&& (i3 s >>> (i3 j &&& 31))) &&& 1 = 1) ↔ (s.testBit i && s.testBit j) = true := by
  have h2 : (s >>> i &&& s >>> j) % 2 < 2 := Nat.mod_lt _ (by decide)
  rw [i3_shr hs hi, i3_shr hs hj, i3_and, i3_one_and, i3_eq1 (by omega), Nat.mod_two_eq_one_iff_testBit_zero, Nat.testBit_and, Nat.testBit_shiftRight, Nat.testBit_shiftRight, Nat.add_zero, Nat.add_zero]
theorem mv_A (h : MV σ b P w) {i : Nat} (hi : i < pQ' P) : ald σ 9 (i3 i) = some (i3 (pA P i)) :=
  ald_at (n := i) rfl (show i < 12 by have := h.1.2.2.1; omega) (h.2.1.2.1.2.2.1 i hi)
theorem mv_B (h : MV σ b P w) {i : Nat} (hi : i < pQ' P) : ald σ 10 (i3 i) = some (i3 (pB P i)) :=
  ald_at (n := i) rfl (show i < 12 by have := h.1.2.2.1; omega) (h.2.1.2.1.2.2.2 i hi)
/-- the words that can be read of some sheets -/
theorem M_reads_eq (h : MV σ b P w) {s : Nat} (hs : s < 2 ^ 31) : o_loop (M_showsIn_L13 σ (i3 b) (i3 s)) (0, 0) = some (i3 (rdO P w s)) := by
  have hN := h.1.1
  have hQ := h.1.2.2.1
  refine o_bst (fun k a hk => ?_) (fun a => ?_)
  · obtain ⟨hA, hB, hAB⟩ := h.1.2.2.2.2.2.2 k hk
    unfold M_showsIn_L13
    dsimp only
    rw [h.2.1.1.2.2.1, if_pos ((i3_lt (by omega) (by omega)).mpr hk), mv_A h hk, Option.bind_some, mv_B h hk, Option.bind_some, i3_succ]
    cases e : s.testBit (pA P k) && s.testBit (pB P k)
    · rw [if_neg (fun x => by rw [bit2 hs (by omega) (by omega), e] at x; cases x), Option.bind_some, st1_f (p := fun i => s.testBit (pA P i) && s.testBit (pB P i) && fit P w (pA P i) (pB P i)) (k := k) (by rw [e]; rfl), i3_or]
    · rw [if_pos ((bit2 hs (by omega) (by omega)).mpr e)]
      rw [Option.bind_some, Option.bind_some, M_doesFit_eq h hA hB, Option.bind_some]
      cases e2 : fit P w (pA P k) (pB P k)
      · rw [if_pos (by decide), Option.bind_some, st1_f (p := fun i => s.testBit (pA P i) && s.testBit (pB P i) && fit P w (pA P i) (pB P i)) (k := k) (by rw [e, e2]; rfl), i3_or]
      · rw [if_neg (by decide), Option.bind_some, st1_t (p := fun i => s.testBit (pA P i) && s.testBit (pB P i) && fit P w (pA P i) (pB P i)) (k := k) (by rw [e, e2]; rfl) (by omega), i3_or]
  · unfold M_showsIn_L13
    dsimp only
    rw [h.2.1.1.2.2.1, if_neg (fun x => absurd ((i3_lt (by omega) (by omega)).mp x) (by omega))]
theorem M_showsIn_eq (h : MV σ b P w) {t : Nat} (ht : t < 4) : M_showsIn σ (i3 b) (i3 t) = some (i3 (shw P w t)) := by
  have hN := h.1.1
  have hs := p2 (b := 31) (shI_lt P w t) (by omega)
  unfold M_showsIn
  rw [M_sheetsAt_eq h ht, Option.bind_some, M_reads_eq h hs]
  rfl
theorem M_knownBy_eq (h : MV σ b P w) {s : Nat} (hs : s < 2 ^ 31) : M_knownBy σ (i3 b) (i3 s) = some (i3 (knw P w s)) := by
  have hM := h.1.2.1
  unfold M_knownBy
  refine o_orf (fun k a hk => ?_) (fun a => ?_)
  · unfold M_knownBy_L5
    dsimp only
    rw [h.2.1.1.2.1, if_pos ((i3_lt (by omega) (by omega)).mpr hk), i3_bitB hs (by omega), mv_28 h hk, i3_succ]
    cases e : s.testBit k
    · rw [if_neg (by decide), if_neg (by decide), Option.bind_some]
      rw [show (0 : Int32) = i3 0 from rfl, i3_or]
    · rw [if_pos (by decide), if_pos (by decide), Option.bind_some, Option.bind_some, i3_or]
  · unfold M_knownBy_L5
    dsimp only
    rw [h.2.1.1.2.1, if_neg (fun x => absurd ((i3_lt (by omega) (by omega)).mp x) (by omega))]
/-! ===== what is written: the rows, what is told, the pile; all else stays ===== -/
def Fx (b : Nat) (σ σ' : MS) : Prop := σ'.1 = σ.1 ∧ (∀ j, j ≠ 44 → j ≠ 47 → j ≠ 48 → ma σ' j = ma σ j) ∧ (b = 34 → ∀ i, i < 34 → ma σ' 44 i = ma σ 44 i)
theorem Fx_refl (b : Nat) (σ : MS) : Fx b σ σ := ⟨rfl, fun _ _ _ _ => rfl, fun _ _ _ => rfl⟩
theorem Fx_trans {b : Nat} {σ σ' σ'' : MS} (h : Fx b σ σ') (h2 : Fx b σ' σ'') : Fx b σ σ'' := ⟨h2.1.trans h.1, fun j a c d => (h2.2.1 j a c d).trans (h.2.1 j a c d), fun e i hi => (h2.2.2 e i hi).trans (h.2.2 e i hi)⟩
theorem MO_fx {σ σ' : MS} {i : Int32} {Y : Option ((Nat → Int32) → Int32)} {cn : (Nat → Int32) → (Nat → Int32)} (e : ma σ' 11 = ma σ 11) (h : MO σ i Y cn) : MO σ' i Y cn := by
  unfold MO at h ⊢
  cases Y with
  | none => exact h
  | some E => exact ⟨h.1, fun σ2 e2 => h.2 σ2 (e2.trans e)⟩
theorem ME_of {σ σ' : MS} {P : PO} (h : ME σ P) (e1 : ∀ k, 1 ≤ k → k ≤ 6 → mf σ' k = mf σ k) (e2 : ∀ j, 7 ≤ j → j ≤ 11 → ma σ' j = ma σ j) (e3 : ma σ' 49 0 = ma σ 49 0) : ME σ' P := by
  obtain ⟨⟨a1, a2, a3, a4⟩, ⟨b1, b2, b3, b4⟩, c1, c2, c3⟩ := h
  refine ⟨⟨?_, ?_, ?_, ?_⟩, ⟨?_, ?_, ?_, ?_⟩, ?_, ?_, e3.trans c3⟩
  · rw [e1 1 (by omega) (by omega)]; exact a1
  · rw [e1 2 (by omega) (by omega)]; exact a2
  · rw [e1 3 (by omega) (by omega)]; exact a3
  · rw [e1 4 (by omega) (by omega)]; exact a4
  · rw [e2 8 (by omega) (by omega)]; exact b1
  · rw [e2 7 (by omega) (by omega)]; exact b2
  · rw [e2 9 (by omega) (by omega)]; exact b3
  · rw [e2 10 (by omega) (by omega)]; exact b4
  · rw [e1 5 (by omega) (by omega)]; exact MO_fx (e2 11 (by omega) (by omega)) c1
  · rw [e1 6 (by omega) (by omega)]; exact MO_fx (e2 11 (by omega) (by omega)) c2
theorem mf_fx {b : Nat} {σ σ' : MS} (h : Fx b σ σ') (k : Nat) : mf σ' k = mf σ k := by unfold mf; rw [h.1]
theorem ME_fx {b : Nat} {σ σ' : MS} {P : PO} (hx : Fx b σ σ') (h : ME σ P) : ME σ' P :=
  ME_of h (fun k _ _ => mf_fx hx k) (fun j h1 h2 => hx.2.1 j (by omega) (by omega) (by omega)) (by rw [hx.2.1 49 (by decide) (by decide) (by decide)])
theorem MR_of {σ σ' : MS} {b : Nat} {P : PO} {w : SV} (h : MR σ b P w) (e : ma σ' 44 = ma σ 44) : MR σ' b P w := by
  show MRg (ma σ' 44) b P w
  rw [e]
  exact h
/-- what is told and the pile may change -/
theorem MV_fx {σ σ' : MS} {b : Nat} {P : PO} {w : SV} (hx : Fx b σ σ') (e : ma σ' 44 = ma σ 44) (h : MV σ b P w) : MV σ' b P w :=
  ⟨h.1, ME_fx hx h.2.1, MR_of h.2.2.1 e, h.2.2.2.1, h.2.2.2.2⟩
theorem Fx_sa {b j i : Nat} {σ : MS} {v : Int32} (hj : j = 47 ∨ j = 48) : Fx b σ (sa σ j i v) :=
  ⟨rfl, fun q h1 h2 h3 => ma_sb (by omega), fun _ _ _ => by rw [ma_sb (by omega)]⟩
theorem Fx_sX {b : Nat} {σ : MS} {g : Nat → Int32} : Fx b σ (sX σ 48 g) :=
  ⟨rfl, fun q h1 h2 h3 => by unfold ma sX; dsimp only; rw [if_neg h3], fun _ _ _ => rfl⟩
theorem MV_sa {j i b : Nat} {σ : MS} {P : PO} {w : SV} {v : Int32} (hj : j = 47 ∨ j = 48) (h : MV σ b P w) : MV (sa σ j i v) b P w :=
  MV_fx (Fx_sa hj) (ma_sb (by omega)) h
theorem MV_sX {b : Nat} {σ : MS} {P : PO} {w : SV} {g : Nat → Int32} (h : MV σ b P w) : MV (sX σ 48 g) b P w := MV_fx Fx_sX rfl h
end MREAD
