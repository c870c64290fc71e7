/-! ===== office: the tokens ===== -/
section LEX
variable {σ τ : MS} {T : Nat → Nat} {n : Nat}
def isW (b : Nat) : Bool := decide (b = 32) || decide (b = 10)
def isL (b : Nat) : Bool := decide (97 ≤ b) && decide (b ≤ 122)
def isD (b : Nat) : Bool := decide (48 ≤ b) && decide (b ≤ 57)
/-- as far as all is of a kind, at most f places on -/
def run (g : Nat → Bool) (T : Nat → Nat) (n : Nat) : Nat → Nat → Nat
  | 0, p => p
  | f + 1, p => if p < n ∧ g (T p) = true then run g T n f (p + 1) else p
theorem run_ge {g : Nat → Bool} : ∀ f p, p ≤ run g T n f p := by
  intro f
  induction f with
  | zero => intro p; exact Nat.le_refl _
  | succ f ih =>
    intro p
    unfold run
    split
    · exact Nat.le_of_succ_le (ih (p + 1))
    · exact Nat.le_refl _
theorem run_le {g : Nat → Bool} : ∀ f p, p ≤ n → run g T n f p ≤ n := by
  intro f
  induction f with
  | zero => intro p h; exact h
  | succ f ih =>
    intro p h
    unfold run
    split
    · next e => exact ih (p + 1) e.1
    · exact h
/-- what stands below the end is of that kind -/
theorem run_in {g : Nat → Bool} : ∀ f p q, p ≤ q → q < run g T n f p → q < n ∧ g (T q) = true := by
  intro f
  induction f with
  | zero =>
    intro p q h1 h2
    have h3 : q < p := h2
    omega
  | succ f ih =>
    intro p q h1 h2
    unfold run at h2
    split at h2
    · next e =>
      by_cases e2 : q = p
      · rw [e2]; exact e
      · exact ih (p + 1) q (by omega) h2
    · omega
/-- and the end is not, if there was room enough to look -/
theorem run_out {g : Nat → Bool} : ∀ f p, n ≤ p + f → ¬ (run g T n f p < n ∧ g (T (run g T n f p)) = true) := by
  intro f
  induction f with
  | zero =>
    rintro p h ⟨h1, _⟩
    have h3 : p < n := h1
    omega
  | succ f ih =>
    intro p h
    unfold run
    split
    · exact ih (p + 1) (by omega)
    · next e => exact e
/-- the bytes, and how many of them are read -/
def TPs (σ : MS) (T : Nat → Nat) (n : Nat) : Prop := mf σ 17 = i3 n ∧ n ≤ 700 ∧ (∀ k, k < 700 → ma σ 12 k = i3 (T k)) ∧ ∀ k, T k < 256
theorem M_byteAt_eq (h : TPs σ T n) {p : Nat} (hp : p < 2 ^ 20) : M_byteAt σ (i3 p) = some (i3 (if p < n then T p else 0)) := by
  obtain ⟨h1, h2, h3, h4⟩ := h
  unfold M_byteAt
  rw [h1]
  by_cases e : p < n
  · rw [if_pos ((i3_lt (by omega) (by omega)).mpr e), ald_i3 (j := 12) (show p < 700 by omega), Option.bind_some, h3 p (by omega), if_pos e]
  · rw [if_neg (fun x => e ((i3_lt (by omega) (by omega)).mp x)), if_neg e]
    rfl
theorem M_isDigit_eq {b : Nat} (hb : b < 256) : M_isDigit (i3 b) = some (bI (isD b)) := by
  unfold M_isDigit isD
  by_cases e1 : b < 48
  · rw [if_pos ((i3_ltl (c := 48) (n := 48) rfl (by omega) (by decide)).mpr e1), decide_eq_false (show ¬ 48 ≤ b by omega)]
    rfl
  · rw [if_neg (fun x => e1 ((i3_ltl (c := 48) (n := 48) rfl (by omega) (by decide)).mp x)), decide_eq_true (show 48 ≤ b by omega)]
    by_cases e2 : b ≤ 57
    · rw [if_pos ((i3_lel (c := 57) (n := 57) rfl (by omega) (by decide)).mpr e2), decide_eq_true e2]
      rfl
    · rw [if_neg (fun x => e2 ((i3_lel (c := 57) (n := 57) rfl (by omega) (by decide)).mp x)), decide_eq_false e2]
      rfl
theorem M_isLetter_eq {b : Nat} (hb : b < 256) : M_isLetter (i3 b) = some (bI (isL b)) := by
  unfold M_isLetter isL
  by_cases e1 : b < 97
  · rw [if_pos ((i3_ltl (c := 97) (n := 97) rfl (by omega) (by decide)).mpr e1), decide_eq_false (show ¬ 97 ≤ b by omega)]
    rfl
  · rw [if_neg (fun x => e1 ((i3_ltl (c := 97) (n := 97) rfl (by omega) (by decide)).mp x)), decide_eq_true (show 97 ≤ b by omega)]
    by_cases e2 : b ≤ 122
    · rw [if_pos ((i3_lel (c := 122) (n := 122) rfl (by omega) (by decide)).mpr e2), decide_eq_true e2]
      rfl
    · rw [if_neg (fun x => e2 ((i3_lel (c := 122) (n := 122) rfl (by omega) (by decide)).mp x)), decide_eq_false e2]
      rfl
theorem TPs_sf (h : TPs σ T n) {k : Nat} {v : Int32} (hk : k ≠ 17) : TPs (sf σ k v) T n := by
  obtain ⟨h1, h2, h3, h4⟩ := h
  refine ⟨?_, h2, h3, h4⟩
  unfold mf sf at *
  dsimp only
  rw [if_neg (Ne.symm hk)]
  exact h1
theorem mf_sfe {k : Nat} {v : Int32} : mf (sf σ k v) k = v := by unfold mf sf; dsimp only; rw [if_pos rfl]
theorem mf_sfn {k j : Nat} {v : Int32} (h : j ≠ k) : mf (sf σ k v) j = mf σ j := by unfold mf sf; dsimp only; rw [if_neg h]
theorem sf_self {k : Nat} {v : Int32} (h : mf σ k = v) : sf σ k v = σ := by
  obtain ⟨f, w, g⟩ := σ
  unfold mf at h
  dsimp only at h
  unfold sf
  dsimp only
  congr 1
  funext q
  by_cases e : q = k
  · rw [if_pos e, e, h]
  · rw [if_neg e]
theorem sf_sf {k : Nat} {a b : Int32} : sf (sf σ k a) k b = sf σ k b := by
  unfold sf
  dsimp only
  congr 1
  funext q
  by_cases e : q = k
  · rw [if_pos e, if_pos e]
  · rw [if_neg e, if_neg e, if_neg e]
/-- the blanks are passed -/
theorem M_goesW_eq (h : TPs σ T n) {p : Nat} (h18 : mf σ 18 = i3 p) (hp : p ≤ n) : o_loop M_goes_L0 σ = some (sf σ 18 (i3 (run isW T n 700 p))) := by
  have hn := h.2.1
  have hge := run_ge (g := isW) (T := T) (n := n) 700 p
  have hle := run_le (g := isW) (T := T) (n := n) 700 p hp
  obtain ⟨d, hd⟩ : ∃ d, run isW T n 700 p = p + d := ⟨run isW T n 700 p - p, by omega⟩
  rw [hd]
  refine o_for0 (fun i => sf σ 18 (i3 (p + i))) d (sf_self h18).symm (fun i hi => ?_) ?_
  · obtain ⟨q1, q2⟩ := run_in (g := isW) (T := T) (n := n) 700 p (p + i) (by omega) (by omega)
    have hT := TPs_sf (k := 18) (v := i3 (p + i)) h (by decide)
    have hb := h.2.2.2 (p + i)
    unfold M_goes_L0
    rw [mf_sfe, hT.1, if_pos ((i3_lt (by omega) (by omega)).mpr q1), M_byteAt_eq hT (by omega), if_pos q1, Option.bind_some, i3_succ]
    by_cases e : T (p + i) = 32
    · rw [if_pos (show i3 (T (p + i)) = 32 by rw [e]; rfl)]
      show some (Sum.inl (sf (sf σ 18 (i3 (p + i))) 18 (i3 (p + i + 1)))) = _
      rw [sf_sf]
      rfl
    · have e10 : T (p + i) = 10 := by
        unfold isW at q2
        rw [decide_eq_false e, Bool.false_or] at q2
        exact of_decide_eq_true q2
      have n1 : ¬ i3 (T (p + i)) = 32 := fun x => e ((i3_inj (b := 32) (by omega) (by decide)).mp x)
      rw [if_neg n1, Option.bind_some, if_pos (show i3 (T (p + i)) = 10 by rw [e10]; rfl)]
      show some (Sum.inl (sf (sf σ 18 (i3 (p + i))) 18 (i3 (p + i + 1)))) = _
      rw [sf_sf]
      rfl
  · have hout := run_out (g := isW) (T := T) (n := n) 700 p (by omega)
    rw [hd] at hout
    have hT := TPs_sf (k := 18) (v := i3 (p + d)) h (by decide)
    have hb := h.2.2.2 (p + d)
    unfold M_goes_L0
    rw [mf_sfe, hT.1]
    by_cases e : p + d < n
    · have hw : isW (T (p + d)) = false := by
        cases q : isW (T (p + d)) with
        | false => rfl
        | true => exact absurd ⟨e, q⟩ hout
      unfold isW at hw
      rw [Bool.or_eq_false_iff] at hw
      have w1 := of_decide_eq_false hw.1
      have w2 := of_decide_eq_false hw.2
      have n1 : ¬ i3 (T (p + d)) = 32 := fun x => w1 ((i3_inj (b := 32) (by omega) (by decide)).mp x)
      have n2 : ¬ i3 (T (p + d)) = 10 := fun x => w2 ((i3_inj (b := 10) (by omega) (by decide)).mp x)
      rw [if_pos ((i3_lt (by omega) (by omega)).mpr e), M_byteAt_eq hT (by omega), if_pos e, Option.bind_some, if_neg n1, Option.bind_some, if_neg n2]
    · rw [if_neg (fun x => e ((i3_lt (by omega) (by omega)).mp x))]
theorem sf_comm {k j : Nat} {a b : Int32} (h : k ≠ j) : sf (sf σ k a) j b = sf (sf σ j b) k a := by
  unfold sf
  dsimp only
  congr 1
  funext q
  by_cases e : q = j
  · rw [if_pos e, if_neg (by omega), if_pos e]
  · rw [if_neg e]
    by_cases e2 : q = k
    · rw [if_pos e2, if_pos e2]
    · rw [if_neg e2, if_neg e2, if_neg e]
/-- the value of the first four digits of i -/
def dv (T : Nat → Nat) (s : Nat) : Nat → Nat
  | 0 => 0
  | i + 1 => if i < 4 then 10 * dv T s i + (T (s + i) - 48) else dv T s i
theorem dv_lt {s : Nat} : ∀ i, (∀ j, j < i → isD (T (s + j)) = true) → dv T s i < 10 ^ min i 4 := by
  intro i
  induction i with
  | zero => intro _; exact Nat.one_pos
  | succ i ih =>
    intro h
    have h1 := ih (fun j hj => h j (by omega))
    have h2 := h i (by omega)
    unfold isD at h2
    rw [Bool.and_eq_true] at h2
    have h3 := of_decide_eq_true h2.1
    have h4 := of_decide_eq_true h2.2
    unfold dv
    by_cases e : i < 4
    · rw [if_pos e]
      have : i = 0 ∨ i = 1 ∨ i = 2 ∨ i = 3 := by omega
      rcases this with rfl | rfl | rfl | rfl
      · have : dv T s 0 < 1 := h1
        show _ < 10
        omega
      · have : dv T s 1 < 10 := h1
        show _ < 100
        omega
      · have : dv T s 2 < 100 := h1
        show _ < 1000
        omega
      · have : dv T s 3 < 1000 := h1
        show _ < 10000
        omega
    · rw [if_neg e, show min (i + 1) 4 = min i 4 by omega]
      exact h1
/-- a number is read -/
theorem M_goesD_eq (h : TPs σ T n) {s : Nat} (h18 : mf σ 18 = i3 s) (h20 : mf σ 20 = i3 s) (h22 : mf σ 22 = 0) (hp : s ≤ n) : o_loop M_goes_L187 σ = some (sf (sf σ 22 (i3 (dv T s (run isD T n 700 s - s)))) 18 (i3 (run isD T n 700 s))) := by
  have hn := h.2.1
  have hge := run_ge (g := isD) (T := T) (n := n) 700 s
  have hle := run_le (g := isD) (T := T) (n := n) 700 s hp
  obtain ⟨d, hd⟩ : ∃ d, run isD T n 700 s = s + d := ⟨run isD T n 700 s - s, by omega⟩
  have hin : ∀ j, j < d → s + j < n ∧ isD (T (s + j)) = true := fun j hj => run_in (g := isD) (T := T) (n := n) 700 s (s + j) (by omega) (by omega)
  have hout := run_out (g := isD) (T := T) (n := n) 700 s (by omega)
  rw [hd] at hout ⊢
  rw [show s + d - s = d by omega]
  refine o_for0 (fun i => sf (sf σ 22 (i3 (dv T s i))) 18 (i3 (s + i))) d ?_ (fun i hi => ?_) ?_
  · rw [show sf σ 22 (i3 (dv T s 0)) = σ from sf_self h22, Nat.add_zero, sf_self h18]
  · obtain ⟨q1, q2⟩ := hin i hi
    have hT := TPs_sf (k := 18) (v := i3 (s + i)) (TPs_sf (k := 22) (v := i3 (dv T s i)) h (by decide)) (by decide)
    have hb := h.2.2.2 (s + i)
    have hlt := dv_lt (T := T) (s := s) i (fun j hj => (hin j (by omega)).2)
    have hd2 := q2
    unfold isD at hd2
    rw [Bool.and_eq_true] at hd2
    have h3 := of_decide_eq_true hd2.1
    have h4 := of_decide_eq_true hd2.2
    have e20 : mf (sf (sf σ 22 (i3 (dv T s i))) 18 (i3 (s + i))) 20 = i3 s := by rw [mf_sfn (by decide), mf_sfn (by decide), h20]
    have e22 : mf (sf (sf σ 22 (i3 (dv T s i))) 18 (i3 (s + i))) 22 = i3 (dv T s i) := by rw [mf_sfn (by decide), mf_sfe]
    unfold M_goes_L187
    rw [mf_sfe, M_byteAt_eq hT (by omega), if_pos q1, Option.bind_some, M_isDigit_eq hb, Option.bind_some, q2, if_neg bI_t0, e20, show i3 (s + i) - i3 s = i3 i from by rw [i3_sub (by omega)]; congr 1; omega]
    by_cases e4 : i < 4
    · rw [if_pos ((i3_ltl (c := 4) (n := 4) rfl (by omega) (by decide)).mpr e4), Option.bind_some, e22]
      have hv : (10 : Int32) * i3 (dv T s i) + i3 (T (s + i)) - 48 = i3 (dv T s (i + 1)) := by
        rw [show (10 : Int32) * i3 (dv T s i) = i3 (10 * dv T s i) from i3_mul 10 _, i3_add, show i3 (10 * dv T s i + T (s + i)) - 48 = i3 (10 * dv T s i + T (s + i) - 48) from i3_sub (b := 48) (by omega)]
        congr 1
        show _ = if i < 4 then 10 * dv T s i + (T (s + i) - 48) else dv T s i
        rw [if_pos e4]
        omega
      rw [hv]
      show (some (sf (sf (sf σ 22 (i3 (dv T s i))) 18 (i3 (s + i))) 22 (i3 (dv T s (i + 1))))).bind _ = _
      rw [Option.bind_some]
      have ec : sf (sf (sf σ 22 (i3 (dv T s i))) 18 (i3 (s + i))) 22 (i3 (dv T s (i + 1))) = sf (sf σ 22 (i3 (dv T s (i + 1)))) 18 (i3 (s + i)) := by
        rw [sf_comm (show 22 ≠ 18 by decide), sf_sf, sf_comm (show 18 ≠ 22 by decide)]
      rw [ec, mf_sfe, i3_succ]
      show some (Sum.inl (sf (sf (sf σ 22 (i3 (dv T s (i + 1)))) 18 (i3 (s + i))) 18 (i3 (s + i + 1)))) = _
      rw [sf_sf]
      rfl
    · rw [if_neg (fun x => e4 ((i3_ltl (c := 4) (n := 4) rfl (by omega) (by decide)).mp x)), Option.bind_some, mf_sfe, i3_succ]
      show some (Sum.inl (sf (sf (sf σ 22 (i3 (dv T s i))) 18 (i3 (s + i))) 18 (i3 (s + i + 1)))) = _
      rw [sf_sf, show dv T s (i + 1) = dv T s i from if_neg e4]
      rfl
  · have hT := TPs_sf (k := 18) (v := i3 (s + d)) (TPs_sf (k := 22) (v := i3 (dv T s d)) h (by decide)) (by decide)
    have hb := h.2.2.2 (s + d)
    have hf : isD (if s + d < n then T (s + d) else 0) = false := by
      by_cases e : s + d < n
      · rw [if_pos e]
        cases q : isD (T (s + d)) with
        | false => rfl
        | true => exact absurd ⟨e, q⟩ hout
      · rw [if_neg e]
        decide
    have hb2 : (if s + d < n then T (s + d) else 0) < 256 := by
      split
      · exact hb
      · decide
    unfold M_goes_L187
    rw [mf_sfe, M_byteAt_eq hT (by omega), Option.bind_some, M_isDigit_eq hb2, Option.bind_some, hf, if_pos bI_f]
/-- the first six letters, five bits each -/
def pk (T : Nat → Nat) (s : Nat) : Nat → Int64
  | 0 => 0
  | i + 1 => if i < 6 then (pk T s i <<< ((5 : Int32).toInt64 &&& 63)) ||| ((i3 (T (s + i)) - 96) : Int32).toInt64 else pk T s i
theorem TPs_sw (h : TPs σ T n) {v : Int64} : TPs (sw σ v) T n := h
/-- a word is read -/
theorem M_goesL_eq (h : TPs σ T n) {s : Nat} (h18 : mf σ 18 = i3 s) (h20 : mf σ 20 = i3 s) (h0 : mw σ = 0) (hp : s ≤ n) : o_loop M_goes_L108 σ = some (sf (sw σ (pk T s (run isL T n 700 s - s))) 18 (i3 (run isL T n 700 s))) := by
  have hn := h.2.1
  have hge := run_ge (g := isL) (T := T) (n := n) 700 s
  have hle := run_le (g := isL) (T := T) (n := n) 700 s hp
  obtain ⟨d, hd⟩ : ∃ d, run isL T n 700 s = s + d := ⟨run isL T n 700 s - s, by omega⟩
  have hin : ∀ j, j < d → s + j < n ∧ isL (T (s + j)) = true := fun j hj => run_in (g := isL) (T := T) (n := n) 700 s (s + j) (by omega) (by omega)
  have hout := run_out (g := isL) (T := T) (n := n) 700 s (by omega)
  rw [hd] at hout ⊢
  rw [show s + d - s = d by omega]
  refine o_for0 (fun i => sf (sw σ (pk T s i)) 18 (i3 (s + i))) d ?_ (fun i hi => ?_) ?_
  · have e1 : sw σ (pk T s 0) = σ := by
      obtain ⟨f, w, g⟩ := σ
      have : w = 0 := h0
      subst this
      rfl
    rw [e1, Nat.add_zero, sf_self h18]
  · obtain ⟨q1, q2⟩ := hin i hi
    have hT := TPs_sf (k := 18) (v := i3 (s + i)) (TPs_sw (v := pk T s i) h) (by decide)
    have hb := h.2.2.2 (s + i)
    have e20 : mf (sf (sw σ (pk T s i)) 18 (i3 (s + i))) 20 = i3 s := by rw [mf_sfn (by decide)]; exact h20
    unfold M_goes_L108
    rw [mf_sfe, M_byteAt_eq hT (by omega), if_pos q1, Option.bind_some, M_isLetter_eq hb, Option.bind_some, q2, if_neg bI_t0, e20, show i3 (s + i) - i3 s = i3 i from by rw [i3_sub (by omega)]; congr 1; omega]
    by_cases e4 : i < 6
    · rw [if_pos ((i3_ltl (c := 6) (n := 6) rfl (by omega) (by decide)).mpr e4), Option.bind_some]
      have hv : (mw (sf (sw σ (pk T s i)) 18 (i3 (s + i))) <<< ((5 : Int32).toInt64 &&& 63)) ||| ((i3 (T (s + i)) - 96) : Int32).toInt64 = pk T s (i + 1) := by
        show _ = if i < 6 then (pk T s i <<< ((5 : Int32).toInt64 &&& 63)) ||| ((i3 (T (s + i)) - 96) : Int32).toInt64 else pk T s i
        rw [if_pos e4]
        rfl
      rw [hv]
      show (some (sf (sw σ (pk T s (i + 1))) 18 (i3 (s + i)))).bind _ = _
      rw [Option.bind_some, mf_sfe, i3_succ]
      show some (Sum.inl (sf (sf (sw σ (pk T s (i + 1))) 18 (i3 (s + i))) 18 (i3 (s + i + 1)))) = _
      rw [sf_sf]
      rfl
    · rw [if_neg (fun x => e4 ((i3_ltl (c := 6) (n := 6) rfl (by omega) (by decide)).mp x)), Option.bind_some, mf_sfe, i3_succ]
      show some (Sum.inl (sf (sf (sw σ (pk T s i)) 18 (i3 (s + i))) 18 (i3 (s + i + 1)))) = _
      rw [sf_sf, show pk T s (i + 1) = pk T s i from if_neg e4]
      rfl
  · have hT := TPs_sf (k := 18) (v := i3 (s + d)) (TPs_sw (v := pk T s d) h) (by decide)
    have hb := h.2.2.2 (s + d)
    have hf : isL (if s + d < n then T (s + d) else 0) = false := by
      by_cases e : s + d < n
      · rw [if_pos e]
        cases q : isL (T (s + d)) with
        | false => rfl
        | true => exact absurd ⟨e, q⟩ hout
      · rw [if_neg e]
        decide
    have hb2 : (if s + d < n then T (s + d) else 0) < 256 := by
      split
      · exact hb
      · decide
    unfold M_goes_L108
    rw [mf_sfe, M_byteAt_eq hT (by omega), Option.bind_some, M_isLetter_eq hb2, Option.bind_some, hf, if_pos bI_f]
end LEX
