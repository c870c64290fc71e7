/-! ===== PLAIN LAW: numbers: naturals as ints, bits, loops ===== -/
def i3 (n : Nat) : Int32 := Int32.ofNat n
theorem i3_add (a b : Nat) : i3 a + i3 b = i3 (a + b) := (Int32.ofNat_add a b).symm
theorem i3_mul (a b : Nat) : i3 a * i3 b = i3 (a * b) := (Int32.ofNat_mul a b).symm
theorem i3_sub {a b : Nat} (h : b ≤ a) : i3 a - i3 b = i3 (a - b) := (Int32.ofNat_sub a b h).symm
theorem i3_lt {a b : Nat} (ha : a < 2 ^ 31) (hb : b < 2 ^ 31) : i3 a < i3 b ↔ a < b := Int32.ofNat_lt_iff_lt ha hb
theorem i3_le {a b : Nat} (ha : a < 2 ^ 31) (hb : b < 2 ^ 31) : i3 a ≤ i3 b ↔ a ≤ b := Int32.ofNat_le_iff_le ha hb
theorem i3_ltl {a n : Nat} {c : Int32} (hc : c = i3 n) (ha : a < 2 ^ 31) (hn : n < 2 ^ 31) : i3 a < c ↔ a < n := by rw [hc]; exact i3_lt ha hn
theorem i3_lel {a n : Nat} {c : Int32} (hc : c = i3 n) (ha : a < 2 ^ 31) (hn : n < 2 ^ 31) : i3 a ≤ c ↔ a ≤ n := by rw [hc]; exact i3_le ha hn
theorem i3_nat {a : Nat} (ha : a < 2 ^ 31) : (i3 a).toNatClampNeg = a := Int32.toNatClampNeg_ofNat_of_lt ha
theorem i3_inj {a b : Nat} (ha : a < 2 ^ 31) (hb : b < 2 ^ 31) : i3 a = i3 b ↔ a = b := by
  constructor
  · intro h
    rw [← i3_nat ha, ← i3_nat hb, h]
  · intro h
    rw [h]
theorem i3_nn {a : Nat} (ha : a < 2 ^ 31) : ¬ i3 a < 0 := by
  have h : ¬ i3 a < i3 0 := by rw [i3_lt ha (by decide)]; omega
  exact h
theorem i3_le0 {a : Nat} (ha : a < 2 ^ 31) : i3 a ≤ 0 ↔ a = 0 := by
  have h : i3 a ≤ i3 0 ↔ a ≤ 0 := i3_le ha (by decide)
  exact h.trans Nat.le_zero
theorem i3_eq0 {a : Nat} (ha : a < 2 ^ 31) : i3 a = 0 ↔ a = 0 := i3_inj (b := 0) ha (by decide)
theorem i3_eq1 {a : Nat} (ha : a < 2 ^ 31) : i3 a = 1 ↔ a = 1 := i3_inj (b := 1) ha (by decide)
theorem i3_m1 {a : Nat} (ha : a < 2 ^ 31) : ¬ i3 a = -1 := by
  intro h
  have h2 := i3_nn ha
  rw [h] at h2
  exact h2 (by decide)
theorem i3_in {a n : Nat} (ha : a < 2 ^ 31) : (i3 a < 0 ∨ n ≤ (i3 a).toNatClampNeg) ↔ n ≤ a := by
  rw [i3_nat ha]
  constructor
  · rintro (h | h)
    · exact absurd h (i3_nn ha)
    · exact h
  · exact Or.inr
/-- every int that isn't negative -/
theorem i3_of {x : Int32} (h : ¬ x < 0) : i3 x.toNatClampNeg = x := Int32.ofNat_toNatClampNeg x (Int32.not_lt.mp h)
theorem i3_ofl (x : Int32) : x.toNatClampNeg < 2 ^ 31 := by
  have := x.toInt_lt
  unfold Int32.toNatClampNeg
  omega
theorem i3_bv (a : Nat) : i3 a = ⟨⟨BitVec.ofNat 32 a⟩⟩ := rfl
theorem i3_tb (a : Nat) : (i3 a).toBitVec = BitVec.ofNat 32 a := rfl
theorem i3_or (a b : Nat) : i3 a ||| i3 b = i3 (a ||| b) := by
  apply Int32.toBitVec_inj.mp
  rw [Int32.toBitVec_or, i3_tb, i3_tb, i3_tb]
  apply BitVec.eq_of_getLsbD_eq
  intro i hi
  simp [BitVec.getLsbD_ofNat, hi]
theorem i3_and (a b : Nat) : i3 a &&& i3 b = i3 (a &&& b) := by
  apply Int32.toBitVec_inj.mp
  rw [Int32.toBitVec_and, i3_tb, i3_tb, i3_tb]
  apply BitVec.eq_of_getLsbD_eq
  intro i hi
  simp [BitVec.getLsbD_ofNat, hi]
theorem i3_xor (a b : Nat) : i3 a ^^^ i3 b = i3 (a ^^^ b) := by
  apply Int32.toBitVec_inj.mp
  rw [Int32.toBitVec_xor, i3_tb, i3_tb, i3_tb]
  apply BitVec.eq_of_getLsbD_eq
  intro i hi
  simp [BitVec.getLsbD_ofNat, hi]
theorem i3_31 {k : Nat} (h : k < 32) : i3 k &&& 31 = i3 k := by
  have h1 : i3 k &&& i3 31 = i3 (k &&& 31) := i3_and k 31
  have h2 : k &&& 31 = k := by
    rw [show (31 : Nat) = 2 ^ 5 - 1 from rfl, Nat.and_two_pow_sub_one_eq_mod, Nat.mod_eq_of_lt h]
  rw [h2] at h1
  exact h1
set_option maxRecDepth 4000 in
theorem i3_shl_all : ∀ k : Fin 31, (1 : Int32) <<< (i3 k.val &&& 31) = i3 (2 ^ k.val) := by decide +kernel
theorem i3_shl {k : Nat} (h : k < 31) : (1 : Int32) <<< (i3 k &&& 31) = i3 (2 ^ k) := i3_shl_all ⟨k, h⟩
theorem i3_shr_all : ∀ k : Fin 32, (BitVec.smod (BitVec.ofNat 32 k.val) 32#32) = BitVec.ofNat 32 k.val := by decide +kernel
theorem i3_shr {s k : Nat} (hs : s < 2 ^ 31) (h : k < 32) : i3 s >>> (i3 k &&& 31) = i3 (s >>> k) := by
  rw [i3_31 h]
  apply Int32.toBitVec_inj.mp
  have hk : (BitVec.smod (BitVec.ofNat 32 k) 32#32) = BitVec.ofNat 32 k := i3_shr_all ⟨k, h⟩
  have hm : (BitVec.ofNat 32 s).msb = false := by
    rw [BitVec.msb_eq_decide]
    simp only [BitVec.toNat_ofNat]
    rw [Nat.mod_eq_of_lt (by omega)]
    simp; omega
  have e1 : (i3 s >>> i3 k).toBitVec = (BitVec.ofNat 32 s).sshiftRight' (BitVec.smod (BitVec.ofNat 32 k) 32#32) := rfl
  rw [e1, hk, BitVec.sshiftRight_eq', BitVec.sshiftRight_eq_of_msb_false hm, i3_tb]
  apply BitVec.eq_of_toNat_eq
  simp only [BitVec.toNat_ushiftRight, BitVec.toNat_ofNat]
  have h2 := Nat.shiftRight_le s k
  rw [Nat.mod_eq_of_lt (show s < 2 ^ 32 by omega), Nat.mod_eq_of_lt (show k < 2 ^ 32 by omega), Nat.mod_eq_of_lt (by omega)]
theorem i3_one_and (a : Nat) : i3 a &&& 1 = i3 (a % 2) := by
  have h1 : i3 a &&& i3 1 = i3 (a &&& 1) := i3_and a 1
  rw [Nat.and_one_is_mod] at h1
  exact h1
/-- the k-th bit -/
theorem i3_bit {s k : Nat} (hs : s < 2 ^ 31) (h : k < 32) : (i3 s >>> (i3 k &&& 31)) &&& 1 = i3 (s.testBit k).toNat := by
  rw [i3_shr hs h, i3_one_and, Nat.toNat_testBit, Nat.shiftRight_eq_div_pow]
def bI (p : Bool) : Int32 := if p = true then 1 else 0
theorem bI_nat (p : Bool) : i3 p.toNat = bI p := by cases p <;> rfl
theorem bI_1 (p : Bool) : bI p = 1 ↔ p = true := by cases p <;> decide
theorem bI_0 (p : Bool) : bI p = 0 ↔ p = false := by cases p <;> decide
theorem bI_t : bI true = 1 := rfl
theorem bI_f : bI false = 0 := rfl
theorem bI_le (p : Bool) : bI p ≤ 0 ↔ p = false := by cases p <;> decide
theorem i3_bitB {s k : Nat} (hs : s < 2 ^ 31) (h : k < 32) : (i3 s >>> (i3 k &&& 31)) &&& 1 = bI (s.testBit k) := by
  rw [i3_bit hs h, bI_nat]
theorem i3_rem {a b : Nat} (ha : a < 2 ^ 31) (hb : b < 2 ^ 31) (h0 : 0 < b) : irm (i3 a) (i3 b) = some (i3 (a % b)) := by
  unfold irm
  rw [if_neg (by rw [i3_eq0 hb]; omega)]
  have hd : i3 a / i3 b = i3 (a / b) := (Int32.ofNat_div ha hb).symm
  have hle : a / b * b ≤ a := Nat.div_mul_le_self a b
  rw [hd, i3_mul, i3_sub hle]
  congr 2
  have := Nat.div_add_mod a b
  rw [Nat.mul_comm] at this
  omega
theorem i3_div {a b : Nat} (ha : a < 2 ^ 31) (hb : b < 2 ^ 31) : i3 a / i3 b = i3 (a / b) := (Int32.ofNat_div ha hb).symm
theorem i3_mod {a b : Nat} (ha : a < 2 ^ 31) (hb : b < 2 ^ 31) : imod (i3 a) (i3 b) = i3 (a % b) := by
  unfold imod
  have hle : a / b * b ≤ a := Nat.div_mul_le_self a b
  rw [i3_div ha hb, i3_mul, i3_sub hle]
  congr 1
  have := Nat.div_add_mod a b
  rw [Nat.mul_comm] at this
  omega
theorem i3_max {a b : Nat} (ha : a < 2 ^ 31) (hb : b < 2 ^ 31) : imax (i3 a) (i3 b) = i3 (max a b) := by
  unfold imax
  by_cases h : a < b
  · rw [if_pos ((i3_lt ha hb).mpr h), Nat.max_eq_right (by omega)]
  · rw [if_neg (fun x => h ((i3_lt ha hb).mp x)), Nat.max_eq_left (by omega)]
theorem i3_min {a b : Nat} (ha : a < 2 ^ 31) (hb : b < 2 ^ 31) : imin (i3 a) (i3 b) = i3 (min a b) := by
  unfold imin
  by_cases h : b < a
  · rw [if_pos ((i3_lt hb ha).mpr h), Nat.min_eq_right (by omega)]
  · rw [if_neg (fun x => h ((i3_lt hb ha).mp x)), Nat.min_eq_left (by omega)]
theorem i3_gt {a b : Nat} (ha : a < 2 ^ 31) (hb : b < 2 ^ 31) : M_greater (i3 a) (i3 b) = some (i3 (max a b)) := by
  unfold M_greater
  by_cases h : a ≤ b
  · rw [if_pos ((i3_le ha hb).mpr h), Nat.max_eq_right (by omega)]
  · rw [if_neg (fun x => h ((i3_le ha hb).mp x)), Nat.max_eq_left (by omega)]
/-! ===== loops ===== -/
/-- a loop whose states are told: at the k-th round I k -/
theorem o_for {τ ρ : Type} {step : τ → Option (τ ⊕ ρ)} (I : Nat → τ) (n : Nat) {r : ρ} (hs : ∀ k, k < n → step (I k) = some (.inl (I (k + 1)))) (he : step (I n) = some (.inr r)) : ∀ a, a ≤ n → o_loop step (I a) = some r := by
  intro a ha
  obtain ⟨d, hd⟩ : ∃ d, d = n - a := ⟨_, rfl⟩
  induction d generalizing a with
  | zero =>
    have : a = n := by omega
    subst this
    rw [o_loop_eq, he]
    rfl
  | succ d ih =>
    rw [o_loop_eq, hs a (by omega)]
    exact ih (a + 1) (by omega) (by omega)
theorem o_for0 {τ ρ : Type} {step : τ → Option (τ ⊕ ρ)} (I : Nat → τ) (n : Nat) {r : ρ} {t : τ} (h0 : t = I 0) (hs : ∀ k, k < n → step (I k) = some (.inl (I (k + 1)))) (he : step (I n) = some (.inr r)) : o_loop step t = some r := by
  rw [h0]
  exact o_for I n hs he 0 (Nat.zero_le _)
/-- a loop by an invariant; it may be left early -/
theorem o_inv {τ ρ : Type} {step : τ → Option (τ ⊕ ρ)} (P : Nat → τ → Prop) (Q : ρ → Prop) (n : Nat)
    (hs : ∀ k t, k < n → P k t → (∃ t', step t = some (.inl t') ∧ P (k + 1) t') ∨ ∃ r, step t = some (.inr r) ∧ Q r)
    (he : ∀ t, P n t → ∃ r, step t = some (.inr r) ∧ Q r) : ∀ a t, a ≤ n → P a t → ∃ r, o_loop step t = some r ∧ Q r := by
  intro a t ha hP
  obtain ⟨d, hd⟩ : ∃ d, d = n - a := ⟨_, rfl⟩
  induction d generalizing a t with
  | zero =>
    have : a = n := by omega
    subst this
    obtain ⟨r, h1, h2⟩ := he t hP
    exact ⟨r, by rw [o_loop_eq, h1]; rfl, h2⟩
  | succ d ih =>
    rcases hs a t (by omega) hP with ⟨t', h1, h2⟩ | ⟨r, h1, h2⟩
    · obtain ⟨r, h3, h4⟩ := ih (a + 1) t' (by omega) h2 (by omega)
      exact ⟨r, by rw [o_loop_eq, h1]; exact h3, h4⟩
    · exact ⟨r, by rw [o_loop_eq, h1]; rfl, h2⟩
/-- never left early -/
theorem o_inv0 {τ ρ : Type} {step : τ → Option (τ ⊕ ρ)} (P : Nat → τ → Prop) (Q : ρ → Prop) (n : Nat)
    (hs : ∀ k t, k < n → P k t → ∃ t', step t = some (.inl t') ∧ P (k + 1) t')
    (he : ∀ t, P n t → ∃ r, step t = some (.inr r) ∧ Q r) (t : τ) (h0 : P 0 t) : ∃ r, o_loop step t = some r ∧ Q r :=
  o_inv P Q n (fun k t hk hP => .inl (hs k t hk hP)) he 0 t (Nat.zero_le _) h0
/-! ===== folds: or, sum, count, over what is below n ===== -/
def orf (f : Nat → Nat) : Nat → Nat
  | 0 => 0
  | n + 1 => orf f n ||| f n
def smf (f : Nat → Nat) : Nat → Nat
  | 0 => 0
  | n + 1 => smf f n + f n
theorem orf_lt {f : Nat → Nat} {m : Nat} : ∀ n, (∀ k, k < n → f k < 2 ^ m) → orf f n < 2 ^ m := by
  intro n
  induction n with
  | zero => intro _; exact Nat.two_pow_pos m
  | succ n ih => intro h; exact Nat.or_lt_two_pow (ih (fun k hk => h k (by omega))) (h n (by omega))
theorem orf_congr {f g : Nat → Nat} : ∀ n, (∀ k, k < n → f k = g k) → orf f n = orf g n := by
  intro n
  induction n with
  | zero => intro _; rfl
  | succ n ih => intro h; unfold orf; rw [ih (fun k hk => h k (by omega)), h n (by omega)]
theorem smf_congr {f g : Nat → Nat} : ∀ n, (∀ k, k < n → f k = g k) → smf f n = smf g n := by
  intro n
  induction n with
  | zero => intro _; rfl
  | succ n ih => intro h; unfold smf; rw [ih (fun k hk => h k (by omega)), h n (by omega)]
theorem smf_le {f : Nat → Nat} {b : Nat} : ∀ n, (∀ k, k < n → f k ≤ b) → smf f n ≤ n * b := by
  intro n
  induction n with
  | zero => intro _; simp [smf]
  | succ n ih =>
    intro h
    have h1 := ih (fun k hk => h k (by omega))
    have h2 := h n (by omega)
    unfold smf
    rw [Nat.succ_mul]
    omega
/-- a set: the bits k below n with p k -/
def st1 (p : Nat → Bool) (k : Nat) : Nat := if p k = true then 2 ^ k else 0
def bst (p : Nat → Bool) (n : Nat) : Nat := orf (st1 p) n
theorem bst_bit (p : Nat → Bool) : ∀ n j, (bst p n).testBit j = (decide (j < n) && p j) := by
  intro n
  induction n with
  | zero => intro j; simp [bst, orf]
  | succ n ih =>
    intro j
    show (bst p n ||| st1 p n).testBit j = _
    rw [Nat.testBit_or, ih j]
    unfold st1
    by_cases hj : j = n
    · subst hj
      cases hp : p j
      · simp
      · simp [Nat.testBit_two_pow_self]
    · have h2 : Nat.testBit (if p n = true then 2 ^ n else 0) j = false := by
        split
        · exact Nat.testBit_two_pow_of_ne (Ne.symm hj)
        · exact Nat.zero_testBit j
      rw [h2, Bool.or_false]
      have : decide (j < n) = decide (j < n + 1) := by
        apply decide_eq_decide.mpr
        omega
      rw [this]
theorem bst_lt (p : Nat → Bool) (n : Nat) : bst p n < 2 ^ n := by
  apply Nat.lt_pow_two_of_testBit
  intro i hi
  rw [bst_bit]
  simp; omega
theorem bst_congr {p q : Nat → Bool} {n : Nat} (h : ∀ k, k < n → p k = q k) : bst p n = bst q n := by
  apply orf_congr
  intro k hk
  unfold st1
  rw [h k hk]
/-- the number of bits below 12 -/
def pc (v : Nat) : Nat := smf (fun k => (v.testBit k).toNat) 12
theorem pc_le (v : Nat) : pc v ≤ 12 := by
  have h := smf_le (f := fun k => (v.testBit k).toNat) (b := 1) 12 (fun k _ => Bool.toNat_le _)
  unfold pc
  omega
theorem M_bits_eq {v : Nat} (hv : v < 2 ^ 31) : M_bits (i3 v) = some (i3 (pc v)) := by
  unfold M_bits
  refine o_for0 (fun k => (i3 (smf (fun k => (v.testBit k).toNat) k), i3 k)) 12 rfl (fun k hk => ?_) ?_
  · unfold M_bits_L4
    dsimp only
    rw [if_pos ((i3_ltl (c := 12) (n := 12) rfl (by omega) (by decide)).mpr hk), i3_bit hv (by omega), i3_add, show i3 k + 1 = i3 (k + 1) from i3_add k 1]
    rfl
  · rfl
noncomputable def bcN (n : Nat) : Bool := decide (CJ19_bitCount (i3 n) = some (i3 (pc n)))
set_option maxRecDepth 100000 in
theorem bcN_all : ∀ a : Fin 64, ∀ b : Fin 64, bcN (64 * a.val + b.val) = true := by decide +kernel
theorem bitCount_eq {v : Nat} (hv : v < 2 ^ 12) : CJ19_bitCount (i3 v) = some (i3 (pc v)) := by
  have h := bcN_all ⟨v / 64, by omega⟩ ⟨v % 64, by omega⟩
  have e : 64 * (v / 64) + v % 64 = v := Nat.div_add_mod v 64
  dsimp only at h
  rw [e] at h
  exact of_decide_eq_true h
/-- the least bit of a set -/
noncomputable def ntzN (n : Nat) : Bool := (List.range 10).all fun k => !(n.testBit k && (List.range k).all fun j => !n.testBit j) || decide (CJ19_numberOfTrailingZeros (i3 n) = some (i3 k))
set_option maxRecDepth 100000 in
theorem ntzN_all : ∀ a : Fin 32, ∀ b : Fin 32, ntzN (32 * a.val + b.val) = true := by decide +kernel
theorem ntz_eq {v k : Nat} (hv : v < 2 ^ 10) (hk : k < 10) (h1 : v.testBit k = true) (h2 : ∀ j, j < k → v.testBit j = false) : CJ19_numberOfTrailingZeros (i3 v) = some (i3 k) := by
  have h := ntzN_all ⟨v / 32, by omega⟩ ⟨v % 32, by omega⟩
  have e : 32 * (v / 32) + v % 32 = v := Nat.div_add_mod v 32
  dsimp only at h
  rw [e] at h
  have h3 := List.all_eq_true.mp h k (List.mem_range.mpr hk)
  have h4 : ((List.range k).all fun j => !v.testBit j) = true := List.all_eq_true.mpr (fun j hj => by rw [h2 j (List.mem_range.mp hj)]; rfl)
  rw [h1, h4] at h3
  exact of_decide_eq_true h3
theorem least_bit {v : Nat} : ∀ n, v < 2 ^ n → v ≠ 0 → ∃ k, k < n ∧ v.testBit k = true ∧ ∀ j, j < k → v.testBit j = false := by
  intro n hv h0
  have hx : ∃ k, v.testBit k = true := by
    apply Classical.byContradiction
    intro hn
    apply h0
    apply Nat.eq_of_testBit_eq
    intro i
    rw [Nat.zero_testBit]
    cases e : v.testBit i
    · rfl
    · exact absurd ⟨i, e⟩ hn
  obtain ⟨k, hk⟩ := hx
  have hlt : k < n := by
    apply Classical.byContradiction
    intro hkn
    rw [Nat.testBit_lt_two_pow (Nat.lt_of_lt_of_le hv (Nat.pow_le_pow_right (by decide) (by omega : n ≤ k)))] at hk
    cases hk
  have key : ∀ m, ∀ k, k < m → k < n → v.testBit k = true → ∃ k, k < n ∧ v.testBit k = true ∧ ∀ j, j < k → v.testBit j = false := by
    intro m
    induction m with
    | zero => intro k hk; omega
    | succ m ih =>
      intro k hkm hkn hk
      by_cases hc : ∀ j, j < k → v.testBit j = false
      · exact ⟨k, hkn, hk, hc⟩
      · have hc2 : ∃ j, j < k ∧ v.testBit j = true := by
          apply Classical.byContradiction
          intro hn
          apply hc
          intro j hj
          cases e : v.testBit j
          · rfl
          · exact absurd ⟨j, hj, e⟩ hn
        obtain ⟨j, hj, hj2⟩ := hc2
        exact ih j (by omega) (by omega) hj2
  exact key (k + 1) k (by omega) hlt hk
/-- without the k-th bit -/
theorem andnot_bit (a b : Nat) (hb : b < 2 ^ 31) : i3 a &&& (i3 b ^^^ -1) = i3 (a &&& (b ^^^ (2 ^ 32 - 1))) := by
  have h : (-1 : Int32) = i3 (2 ^ 32 - 1) := by decide
  rw [h, i3_xor, i3_and]
theorem clr_eq {a k : Nat} (ha : a < 2 ^ 31) (hk : k < 31) : i3 a &&& ((1 : Int32) <<< (i3 k &&& 31) ^^^ -1) = i3 (a &&& (2 ^ k ^^^ (2 ^ 32 - 1))) := by
  rw [i3_shl hk, andnot_bit]
  exact Nat.pow_lt_pow_right (by decide) hk
theorem clr_bit {a k j : Nat} (ha : a < 2 ^ 31) : (a &&& (2 ^ k ^^^ (2 ^ 32 - 1))).testBit j = (a.testBit j && !decide (k = j)) := by
  rw [Nat.testBit_and, Nat.testBit_xor, Nat.testBit_two_pow, Nat.testBit_two_pow_sub_one]
  by_cases hj : j < 32
  · rw [decide_eq_true hj]
    cases a.testBit j <;> cases decide (k = j) <;> rfl
  · rw [Nat.testBit_lt_two_pow (x := a) (i := j) (Nat.lt_of_lt_of_le ha (Nat.pow_le_pow_right (by decide) (by omega)))]
    rfl
theorem clr_le (a k : Nat) : a &&& (2 ^ k ^^^ (2 ^ 32 - 1)) ≤ a := Nat.and_le_left
