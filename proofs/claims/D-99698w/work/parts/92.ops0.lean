/-! ===== operations: what both sides' states have in common, what each operation must show ===== -/
/-- after an operation with N calls still to come -/
def RS (K : Nat → Nat) (o : Nat) (q : CS) (σ : MS) (N : Nat) : Prop := ∃ S, RC K q.1 q.2.1 o S ∧ RM σ S ∧ 2300 * N + 100 * zt S ≤ q.2.2.1 ∧ 90000 * N + 3000 * zt S ≤ q.2.2.2
def JN (K : Nat → Nat) (o : Nat) (r : CR) (N : Nat) (a : Bool) (c : Int32) (z : (Int32 × CS) ⊕ XT) (v : Int32) (σ' : MS) : Prop := match z with
  | .inl q => mf σ' 0 = 0 ∧ q.1 = v ∧ RS K o q.2 σ' N ∧ ale q.2.2 r
  | .inr x => ((x.1 = 0 ∧ a = true ∧ mf σ' 0 = 1) ∨ (x.1 = 1 ∧ ¬ c = 0 ∧ mf σ' 0 = c)) ∧ RS K o x.2.2 σ' N ∧ ale x.2.2.2 r
def tE (t : Nat) (h : CH) (r : CR) : XT := (t, 0, (h, r.1 + 1, r.2.1 - 1, r.2.2 - 6))
theorem xg_l {α δ : Type} (j : XT → δ) (a : α) (f : α → Option δ) : xg j (some (.inl a)) f = f a := rfl
theorem xg_r {α δ : Type} (j : XT → δ) (e : XT) (f : α → Option δ) : xg j (some (.inr e)) f = some (j e) := rfl
theorem xchv_ok (h : CH) (r : CR) : xchv r (some (.inl (h, r))) = some (.inl (h, r)) := by
  unfold xchv
  simp
theorem xchv_th {t : Nat} (h : CH) (r : CR) : xchv r (some (.inr (tE t h r))) = some (.inr (tE t h r)) := by
  unfold xchv tE
  simp
theorem found_ok (h : CH) (r : CR) : C1_found h r 1 = some (.inl (h, r)) := by unfold C1_found; rw [if_neg (by decide)]
theorem found_no {h : CH} {r : CR} (h1 : 1 ≤ r.2.1) (h2 : 6 ≤ r.2.2) : C1_found h r 0 = some (.inr (tE 0 h r)) := by unfold C1_found; rw [if_pos rfl, if_pos ⟨h1, h2⟩]; rfl
theorem right_ok (h : CH) (r : CR) : C1_right h r 1 = some (.inl (h, r)) := by unfold C1_right; rw [if_neg (by decide)]
theorem right_no {h : CH} {r : CR} (h1 : 1 ≤ r.2.1) (h2 : 6 ≤ r.2.2) : C1_right h r 0 = some (.inr (tE 1 h r)) := by unfold C1_right; rw [if_pos rfl, if_pos ⟨h1, h2⟩]; rfl
/-! arguments: an int within 0 .. n - 1; within a .. b -/
def inR (x : Int32) (n : Nat) : Bool := decide (¬ x < 0 ∧ x.toNatClampNeg < n)
theorem inR_is {x : Int32} {n : Nat} (h : inR x n = true) : ∃ k, k < n ∧ x = i3 k := by
  obtain ⟨h1, h2⟩ := of_decide_eq_true h
  exact ⟨x.toNatClampNeg, h2, (i3_of h1).symm⟩
theorem inR_k {k n : Nat} (hk : k < 2 ^ 31) : inR (i3 k) n = decide (k < n) := by
  unfold inR
  rw [i3_nat hk]
  apply decide_eq_decide.mpr
  exact ⟨fun x => x.2, fun x => ⟨i3_nn hk, x⟩⟩
def inB (x : Int32) (a b : Nat) : Bool := decide (¬ x < 0 ∧ a ≤ x.toNatClampNeg ∧ x.toNatClampNeg ≤ b)
theorem inB_is {x : Int32} {a b : Nat} (h : inB x a b = true) : ∃ k, a ≤ k ∧ k ≤ b ∧ x = i3 k := by
  obtain ⟨h1, h2, h3⟩ := of_decide_eq_true h
  exact ⟨x.toNatClampNeg, h2, h3, (i3_of h1).symm⟩
theorem in_neg {x : Int32} (h : x < 0) {a : Nat} (ha : a < 2 ^ 31) : x < i3 a := by
  rw [Int32.lt_iff_toInt_lt] at h ⊢
  have h2 : (i3 a).toInt = (a : Int) := Int32.toInt_ofNat_of_lt ha
  rw [h2]
  have h3 : (0 : Int32).toInt = 0 := rfl
  rw [h3] at h
  omega
theorem C1_in_eq (x : Int32) {a b : Nat} (ha : a < 2 ^ 31) (hb : b < 2 ^ 31) : C1_in x (i3 a) (i3 b) = some (bI (inB x a b)) := by
  unfold C1_in inB
  by_cases h : x < 0
  · rw [if_pos (in_neg h ha), decide_eq_false (fun q => q.1 h)]; rfl
  · have e := i3_of h
    have hl := i3_ofl x
    generalize x.toNatClampNeg = k at e hl
    subst e
    by_cases h1 : k < a
    · rw [if_pos ((i3_lt hl ha).mpr h1), decide_eq_false (by rintro ⟨q1, q2, q3⟩; omega)]; rfl
    · rw [if_neg (fun q => h1 ((i3_lt hl ha).mp q))]
      by_cases h2 : k ≤ b
      · rw [if_pos ((i3_le hl hb).mpr h2), decide_eq_true ⟨h, by omega, h2⟩]; rfl
      · rw [if_neg (fun q => h2 ((i3_le hl hb).mp q)), decide_eq_false (by rintro ⟨q1, q2, q3⟩; omega)]; rfl
theorem M_within_eq (x : Int32) {a b : Nat} (ha : a < 2 ^ 31) (hb : b < 2 ^ 31) : M_within x (i3 a) (i3 b) = some (bI (inB x a b)) := C1_in_eq x ha hb
/-- 'in(x, 0, n - 1)' -/
theorem C1_in_n (x : Int32) {n : Nat} (hn : n < 2 ^ 31) : C1_in x 0 (i3 n - 1) = some (bI (inR x n)) := by
  unfold C1_in inR
  by_cases h : x < 0
  · rw [if_pos h, decide_eq_false (fun q => q.1 h)]; rfl
  · rw [if_neg h]
    have e := i3_of h
    have hl := i3_ofl x
    generalize x.toNatClampNeg = k at e hl
    subst e
    cases n with
    | zero =>
      rw [if_neg, decide_eq_false (by rintro ⟨q1, q2⟩; omega)]
      · rfl
      · intro q
        have q2 : i3 k ≤ -1 := q
        have q3 := Int32.le_trans (Int32.not_lt.mp (i3_nn hl)) q2
        exact absurd q3 (by decide)
    | succ n =>
      have e1 : i3 (n + 1) - 1 = i3 n := i3_sub (a := n + 1) (b := 1) (by omega)
      rw [e1]
      by_cases h2 : k ≤ n
      · rw [if_pos ((i3_le hl (by omega)).mpr h2), decide_eq_true ⟨h, by omega⟩]; rfl
      · rw [if_neg (fun q => h2 ((i3_le hl (by omega)).mp q)), decide_eq_false (by rintro ⟨q1, q2⟩; omega)]; rfl
/-- 'x >= 0 && x < n' -/
theorem in_and (x : Int32) {n : Nat} (hn : n < 2 ^ 31) : (if x < 0 then some 0 else if x < i3 n then some 1 else some 0 : Option Int32) = some (bI (inR x n)) := by
  unfold inR
  by_cases h : x < 0
  · rw [if_pos h, decide_eq_false (fun q => q.1 h)]; rfl
  · rw [if_neg h]
    have e := i3_of h
    have hl := i3_ofl x
    generalize x.toNatClampNeg = k at e hl
    subst e
    by_cases h2 : k < n
    · rw [if_pos ((i3_lt hl hn).mpr h2), decide_eq_true ⟨h, h2⟩]; rfl
    · rw [if_neg (fun q => h2 ((i3_lt hl hn).mp q)), decide_eq_false (by rintro ⟨q1, q2⟩; omega)]; rfl
theorem inB0 (x : Int32) (b : Nat) : inB x 0 b = inR x (b + 1) := by
  unfold inB inR
  apply decide_eq_decide.mpr
  constructor
  · rintro ⟨q1, q2, q3⟩; exact ⟨q1, by omega⟩
  · rintro ⟨q1, q2⟩; exact ⟨q1, by omega, by omega⟩
section CHECKS
variable {K : Nat → Nat} {h : CH} {r : CR} {o off vs : Nat} {f : CH} {P : PO} {x : Int32} {n : Nat}
theorem aS_ok (hX : CX K h o off vs f P) (e : inR x (pN P) = true) : vc h o 1 (xchv r (C1_aSheet h r o x)) = some (.inl (h, r)) := by
  have hN := hX.1.1
  rw [cx_vc hX]
  unfold C1_aSheet
  rw [cx_1 hX, Option.bind_some, cx_n hX, Option.bind_some, C1_in_n x (by omega), Option.bind_some, e, bI_t, found_ok, xchv_ok, xg_l, xchv_ok]
theorem aS_no (hX : CX K h o off vs f P) (e : inR x (pN P) = false) (h1 : 1 ≤ r.2.1) (h2 : 6 ≤ r.2.2) : vc h o 1 (xchv r (C1_aSheet h r o x)) = some (.inr (tE 0 h r)) := by
  have hN := hX.1.1
  rw [cx_vc hX]
  unfold C1_aSheet
  rw [cx_1 hX, Option.bind_some, cx_n hX, Option.bind_some, C1_in_n x (by omega), Option.bind_some, e, bI_f, found_no h1 h2, xchv_th, xg_r, xchv_th]
theorem aC_ok (hX : CX K h o off vs f P) (e : inR x (pM P) = true) : vc h o 1 (xchv r (C1_aClerk h r o x)) = some (.inl (h, r)) := by
  have hM := hX.1.2.1
  rw [cx_vc hX]
  unfold C1_aClerk
  rw [cx_1 hX, Option.bind_some, cx_vo hX, cx_m hX, Option.bind_some, C1_in_n x (by omega), Option.bind_some, e, bI_t, found_ok, xchv_ok, xg_l, xchv_ok]
theorem aC_no (hX : CX K h o off vs f P) (e : inR x (pM P) = false) (h1 : 1 ≤ r.2.1) (h2 : 6 ≤ r.2.2) : vc h o 1 (xchv r (C1_aClerk h r o x)) = some (.inr (tE 0 h r)) := by
  have hM := hX.1.2.1
  rw [cx_vc hX]
  unfold C1_aClerk
  rw [cx_1 hX, Option.bind_some, cx_vo hX, cx_m hX, Option.bind_some, C1_in_n x (by omega), Option.bind_some, e, bI_f, found_no h1 h2, xchv_th, xg_r, xchv_th]
theorem aW_ok (hX : CX K h o off vs f P) (e : inR x (pQ' P) = true) : vc h o 1 (xchv r (C1_aWord h r o x)) = some (.inl (h, r)) := by
  have hQ := hX.1.2.2.1
  obtain ⟨wl, fw, w1, w2, w3⟩ := cx_w hX
  rw [cx_vc hX]
  unfold C1_aWord
  rw [cx_1 hX, Option.bind_some, w1, Option.bind_some, w2, Option.bind_some, C1_in_n x (by omega), Option.bind_some, e, bI_t, found_ok, xchv_ok, xg_l, xchv_ok]
theorem aW_no (hX : CX K h o off vs f P) (e : inR x (pQ' P) = false) (h1 : 1 ≤ r.2.1) (h2 : 6 ≤ r.2.2) : vc h o 1 (xchv r (C1_aWord h r o x)) = some (.inr (tE 0 h r)) := by
  have hQ := hX.1.2.2.1
  obtain ⟨wl, fw, w1, w2, w3⟩ := cx_w hX
  rw [cx_vc hX]
  unfold C1_aWord
  rw [cx_1 hX, Option.bind_some, w1, Option.bind_some, w2, Option.bind_some, C1_in_n x (by omega), Option.bind_some, e, bI_f, found_no h1 h2, xchv_th, xg_r, xchv_th]
theorem aT_ok (e : inR x 4 = true) : xchv r (C1_aTown h r x) = some (.inl (h, r)) := by
  unfold C1_aTown
  rw [show C1_in x 0 3 = some (bI (inB x 0 3)) from C1_in_eq (a := 0) (b := 3) x (by decide) (by decide), Option.bind_some, inB0, e, bI_t, found_ok, xchv_ok, xg_l, xchv_ok]
theorem aT_no (e : inR x 4 = false) (h1 : 1 ≤ r.2.1) (h2 : 6 ≤ r.2.2) : xchv r (C1_aTown h r x) = some (.inr (tE 0 h r)) := by
  unfold C1_aTown
  rw [show C1_in x 0 3 = some (bI (inB x 0 3)) from C1_in_eq (a := 0) (b := 3) x (by decide) (by decide), Option.bind_some, inB0, e, bI_f, found_no h1 h2, xchv_th, xg_r, xchv_th]
theorem aO_ok {y : Int32} {m : Nat} (hy : y = i3 m) (hm : m < 2 ^ 31) (e : inR x (m + 1) = true) : xchv r (C1_oneOf h r x y) = some (.inl (h, r)) := by
  unfold C1_oneOf
  rw [hy, show C1_in x 0 (i3 m) = some (bI (inB x 0 m)) from C1_in_eq (a := 0) x (by decide) hm, Option.bind_some, inB0, e, bI_t, found_ok, xchv_ok, xg_l, xchv_ok]
theorem aO_no {y : Int32} {m : Nat} (hy : y = i3 m) (hm : m < 2 ^ 31) (e : inR x (m + 1) = false) (h1 : 1 ≤ r.2.1) (h2 : 6 ≤ r.2.2) : xchv r (C1_oneOf h r x y) = some (.inr (tE 0 h r)) := by
  unfold C1_oneOf
  rw [hy, show C1_in x 0 (i3 m) = some (bI (inB x 0 m)) from C1_in_eq (a := 0) x (by decide) hm, Option.bind_some, inB0, e, bI_f, found_no h1 h2, xchv_th, xg_r, xchv_th]
theorem rg_ok : xchv r (C1_right h r (bI true)) = some (.inl (h, r)) := by rw [bI_t, right_ok, xchv_ok]
theorem rg_no (h1 : 1 ≤ r.2.1) (h2 : 6 ≤ r.2.2) : xchv r (C1_right h r (bI false)) = some (.inr (tE 1 h r)) := by rw [bI_f, right_no h1 h2, xchv_th]
end CHECKS
section MCHECKS
variable {σ : MS} {P : PO} {x : Int32} {n : Nat}
theorem vpn_1 : vp_nar .boolean 1 = 1 := by decide
theorem vpn_0 : vp_nar .boolean 0 = 0 := by decide
theorem M_right_ok (h0 : mf σ 0 = 0) (c : Int32) : M_right σ (bI true) c = some (1, σ) := by
  unfold M_right
  rw [if_pos h0, if_neg (by decide), Option.bind_some, if_pos h0]
theorem mf_sf0 {v : Int32} : mf (sf σ 0 v) 0 = v := by simp [mf, sf]
theorem M_right_no (h0 : mf σ 0 = 0) {c : Int32} (hc : ¬ c = 0) : M_right σ (bI false) c = some (0, sf σ 0 c) := by
  unfold M_right
  rw [if_pos h0, if_pos (by decide), show pf σ 0 c = some (sf σ 0 c) from rfl, Option.bind_some, Option.bind_some, if_neg (by rw [mf_sf0]; exact hc)]
theorem mS_ok (hE : ME σ P) (hP : WFP P) (h0 : mf σ 0 = 0) (e : inR x (pN P) = true) : M_isSheet σ x = some (1, σ) := by
  have hN := hP.1
  unfold M_isSheet
  rw [hE.1.1, in_and x (by omega), Option.bind_some, e, M_right_ok h0, Option.bind_some, vpn_1]
theorem mS_no (hE : ME σ P) (hP : WFP P) (h0 : mf σ 0 = 0) (e : inR x (pN P) = false) : M_isSheet σ x = some (0, sf σ 0 1) := by
  have hN := hP.1
  unfold M_isSheet
  rw [hE.1.1, in_and x (by omega), Option.bind_some, e, M_right_no h0 (by decide), Option.bind_some, vpn_0]
theorem mC_ok (hE : ME σ P) (hP : WFP P) (h0 : mf σ 0 = 0) (e : inR x (pM P) = true) : M_isClerk σ x = some (1, σ) := by
  have hN := hP.2.1
  unfold M_isClerk
  rw [hE.1.2.1, in_and x (by omega), Option.bind_some, e, M_right_ok h0, Option.bind_some, vpn_1]
theorem mC_no (hE : ME σ P) (hP : WFP P) (h0 : mf σ 0 = 0) (e : inR x (pM P) = false) : M_isClerk σ x = some (0, sf σ 0 1) := by
  have hN := hP.2.1
  unfold M_isClerk
  rw [hE.1.2.1, in_and x (by omega), Option.bind_some, e, M_right_no h0 (by decide), Option.bind_some, vpn_0]
theorem mW_ok (hE : ME σ P) (hP : WFP P) (h0 : mf σ 0 = 0) (e : inR x (pQ' P) = true) : M_isWord σ x = some (1, σ) := by
  have hN := hP.2.2.1
  unfold M_isWord
  rw [hE.1.2.2.1, in_and x (by omega), Option.bind_some, e, M_right_ok h0, Option.bind_some, vpn_1]
theorem mW_no (hE : ME σ P) (hP : WFP P) (h0 : mf σ 0 = 0) (e : inR x (pQ' P) = false) : M_isWord σ x = some (0, sf σ 0 1) := by
  have hN := hP.2.2.1
  unfold M_isWord
  rw [hE.1.2.2.1, in_and x (by omega), Option.bind_some, e, M_right_no h0 (by decide), Option.bind_some, vpn_0]
theorem mT_ok (h0 : mf σ 0 = 0) (e : inR x 4 = true) : M_isTown σ x = some (1, σ) := by
  unfold M_isTown
  rw [show M_within x 0 3 = some (bI (inB x 0 3)) from M_within_eq (a := 0) (b := 3) x (by decide) (by decide), Option.bind_some, inB0, e, M_right_ok h0, Option.bind_some, vpn_1]
theorem mT_no (h0 : mf σ 0 = 0) (e : inR x 4 = false) : M_isTown σ x = some (0, sf σ 0 1) := by
  unfold M_isTown
  rw [show M_within x 0 3 = some (bI (inB x 0 3)) from M_within_eq (a := 0) (b := 3) x (by decide) (by decide), Option.bind_some, inB0, e, M_right_no h0 (by decide), Option.bind_some, vpn_0]
theorem mO_ok {y : Int32} {m : Nat} (hy : y = i3 m) (hm : m < 2 ^ 31) (h0 : mf σ 0 = 0) (e : inR x (m + 1) = true) : M_isWhat σ x y = some (1, σ) := by
  unfold M_isWhat
  rw [hy, show M_within x 0 (i3 m) = some (bI (inB x 0 m)) from M_within_eq (a := 0) x (by decide) hm, Option.bind_some, inB0, e, M_right_ok h0, Option.bind_some, vpn_1]
theorem mO_no {y : Int32} {m : Nat} (hy : y = i3 m) (hm : m < 2 ^ 31) (h0 : mf σ 0 = 0) (e : inR x (m + 1) = false) : M_isWhat σ x y = some (0, sf σ 0 1) := by
  unfold M_isWhat
  rw [hy, show M_within x 0 (i3 m) = some (bI (inB x 0 m)) from M_within_eq (a := 0) x (by decide) hm, Option.bind_some, inB0, e, M_right_no h0 (by decide), Option.bind_some, vpn_0]
theorem mD_ok {y c : Int32} {m : Nat} (hy : y = i3 m) (hm : m < 2 ^ 31) (h0 : mf σ 0 = 0) (e : inB x m 40 = true) : M_isDays σ x y c = some (1, σ) := by
  unfold M_isDays
  rw [hy, show M_within x (i3 m) 40 = some (bI (inB x m 40)) from M_within_eq (b := 40) x hm (by decide), Option.bind_some, e, M_right_ok h0, Option.bind_some, vpn_1]
theorem mD_no {y c : Int32} {m : Nat} (hy : y = i3 m) (hm : m < 2 ^ 31) (h0 : mf σ 0 = 0) (hc : ¬ c = 0) (e : inB x m 40 = false) : M_isDays σ x y c = some (0, sf σ 0 c) := by
  unfold M_isDays
  rw [hy, show M_within x (i3 m) 40 = some (bI (inB x m 40)) from M_within_eq (b := 40) x hm (by decide), Option.bind_some, e, M_right_no h0 hc, Option.bind_some, vpn_0]
end MCHECKS
