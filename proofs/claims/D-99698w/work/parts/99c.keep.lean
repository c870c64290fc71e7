/-! ===== the component: taking out of a list, copying a list ===== -/
section LISTS2
variable {K : Nat → Nat} {h : CH} {r : CR} {a arr n : Nat} {e : Nat → Nat}
theorem C_rem {i : Nat} (hL : LMu K h a arr (n + 1) e) (hn : n < 1000) (hi : i = n ∨ i = 0) (hK : KN K h) (hok : ∀ j, j < n + 1 → okO h (e j) = true) (hxa : arr ≠ a) :
    ∃ h', vc h a 10 (CJ2_remove K h a (i3 i)) = some (e i, h') ∧ LMu K h' a arr n (fun j => if j < i then e j else e (j + 1)) ∧ (∃ c, h arr = some c) ∧ (∃ c, h' arr = some c) ∧ (∀ q, q ≠ a → q ≠ arr → h' q = h q) := by
  obtain ⟨mc, ha, hc⟩ := hL
  rcases hc with ⟨h0, _⟩ | ⟨cap, g, hg, c1, c2, c3⟩
  · omega
  have hin : i < n + 1 := by omega
  have ha1 : hup h a (.inr (10, [.int (mc + 1), .ref arr, .int (i3 (n + 1))])) a = some (.inr (10, [.int (mc + 1), .ref arr, .int (i3 (n + 1))])) := hup_s
  have hg1 : hup h a (.inr (10, [.int (mc + 1), .ref arr, .int (i3 (n + 1))])) arr = some (.inl (3, cap, .inr (.inr (.inr (.inr g))))) := by rw [hup_n hxa]; exact hg
  have ok1 : ∀ q, okO h q = true → okO (hup h a (.inr (10, [.int (mc + 1), .ref arr, .int (i3 (n + 1))]))) q = true := fun q hq => okO_up hq okC_10
  have K1 : KN K (hup h a (.inr (10, [.int (mc + 1), .ref arr, .int (i3 (n + 1))]))) := KN_up hK (KN_some hK ha)
  have b1 : ∀ q, q ≠ a → hup h a (.inr (10, [.int (mc + 1), .ref arr, .int (i3 (n + 1))])) q = h q := fun q hq => hup_n hq
  generalize hk1 : hup h a (.inr (10, [.int (mc + 1), .ref arr, .int (i3 (n + 1))])) = k1 at ha1 hg1 ok1 K1 b1
  have en : i3 (n + 1) - 1 = i3 n := i3_sub (a := n + 1) (b := 1) (by omega)
  -- what is moved
  obtain ⟨k2, g2, m1, m2, m3, m4, m5⟩ : ∃ k2 g2, (if i3 n ≤ i3 i then some k1 else (cpK K k1 arr (i3 i + 1) arr (i3 i) (i3 n - i3 i)).bind fun s8 => some s8) = some k2 ∧ k2 a = some (.inr (10, [.int (mc + 1), .ref arr, .int (i3 (n + 1))])) ∧ k2 arr = some (.inl (3, cap, .inr (.inr (.inr (.inr g2))))) ∧ (∀ j, j < n → g2 j = some (if j < i then e j else e (j + 1))) ∧ ∀ q, q ≠ arr → k2 q = k1 q := by
    by_cases hl : n ≤ i
    · rw [if_pos ((i3_le (by omega) (by omega)).mpr hl)]
      refine ⟨k1, g, rfl, ha1, hg1, fun j hj => ?_, fun _ _ => rfl⟩
      rw [if_pos (by omega)]
      exact c3 j (by omega)
    · have i0 : i = 0 := by omega
      subst i0
      rw [if_neg (fun x => hl ((i3_le (by omega) (by omega)).mp x))]
      have e1 : i3 0 + 1 = i3 1 := i3_add 0 1
      have e2 : i3 n - i3 0 = i3 n := i3_sub (b := 0) (Nat.zero_le _)
      rw [e1, e2]
      unfold cpK
      rw [if_neg (KN_ne K1 hg1)]
      unfold cpQ
      rw [hg1]
      dsimp only
      have n1 : (i3 1).toNatClampNeg = 1 := i3_nat (by decide)
      have n0 : (i3 0).toNatClampNeg = 0 := i3_nat (by decide)
      have nn : (i3 n).toNatClampNeg = n := i3_nat (by omega)
      have hl1 : (i3 1).toNatClampNeg + (i3 n).toNatClampNeg ≤ cap := by rw [n1, nn]; omega
      have hl2 : (i3 0).toNatClampNeg + (i3 n).toNatClampNeg ≤ cap := by rw [n0, nn]; omega
      have hall : ((List.range (i3 n).toNatClampNeg).all fun i => (g ((i3 1).toNatClampNeg + i)).all (okO k1)) = true := by
        apply List.all_eq_true.mpr
        intro j hj
        rw [nn] at hj
        have hj := List.mem_range.mp hj
        rw [n1, c3 (1 + j) (by omega)]
        exact ok1 _ (hok (1 + j) (by omega))
      rw [if_pos ⟨rfl, rfl, i3_nn (by decide), i3_nn (by decide), i3_nn (by omega), hl1, hl2, hall⟩, Option.bind_some, n1, n0, nn]
      refine ⟨_, va_cpy g g 1 0 n, rfl, by rw [hup_n (Ne.symm hxa)]; exact ha1, hup_s, fun j hj => ?_, fun q hq => hup_n hq⟩
      unfold va_cpy
      rw [if_pos ⟨Nat.zero_le _, by omega⟩, if_neg (by omega), c3 _ (by omega)]
      congr 2
      omega
  have hrem : CJ2_remove K h a (i3 i) = some (e i, hup (hup k2 a (.inr (10, [.int (mc + 1), .ref arr, .int (i3 n)]))) arr (.inl (3, cap, .inr (.inr (.inr (.inr (va_up g2 n none)))))))  := by
    unfold CJ2_remove
    rw [gI_of ha (k := 2) rfl, Option.bind_some, checkIndex_of hin (by omega), Option.bind_some, gR_of ha (k := 1) rfl, Option.bind_some, aQ_of hg (show i < cap by omega) (by omega), c3 i hin]
    simp only [ob_s]
    rw [vc_of ha]
    unfold CJ2_fastRemove
    rw [gI_of ha (k := 0) rfl, Option.bind_some, pI_of ha (show 0 < 3 by decide), Option.bind_some]
    rw [show hup h a (Sum.inr (10, [Value.int mc, Value.ref arr, Value.int (i3 (n + 1))].set 0 (Value.int (mc + 1)))) = k1 from hk1, gI_of ha1 (k := 2) rfl, Option.bind_some, en, m1, Option.bind_some, pI_of m2 (show 2 < 3 by decide), Option.bind_some]
    rw [sQ_of (show hup k2 a _ arr = _ by rw [hup_n hxa]; exact m3) (show n < cap by omega) (by omega), Option.bind_some]
    rfl
  refine ⟨_, by rw [vc_of ha]; exact hrem, ⟨mc + 1, by rw [hup_n (Ne.symm hxa), hup_s], .inr ⟨cap, va_up g2 n none, hup_s, by omega, c2, fun j hj => ?_⟩⟩, ⟨_, hg⟩, ⟨_, hup_s⟩, fun q q1 q2 => by rw [hup_n q2, hup_n q1, m5 q q2, b1 q q1]⟩
  unfold va_up
  dsimp only
  rw [if_neg (by omega)]
  exact m4 j hj
/-- a new list, empty -/
theorem C_new (hf : FR h r.1) (h1 : 1 ≤ r.2.1) (h2 : 3 ≤ r.2.2) : ∃ h', ((aCell h r 3 (.inr (10, [.int 0, .null, .int 0]))).bind fun s1 => (CJ2_init K s1.1 r.1).bind fun q2 => some ((q2, s1.2) : CS)) = some (h', r.1 + 1, r.2.1 - 1, r.2.2 - 3) ∧ LMu K h' r.1 (K 0) 0 e ∧ (∀ q, q ≠ r.1 → h' q = h q) ∧ aCell h r 3 (.inr (10, [.int 0, .null, .int 0])) = some (hup h r.1 (.inr (10, [.int 0, .null, .int 0])), r.1 + 1, r.2.1 - 1, r.2.2 - 3) ∧ CJ2_init K (hup h r.1 (.inr (10, [.int 0, .null, .int 0]))) r.1 = some h' := by
  have e1 : CJ2_init K (hup h r.1 (.inr (10, [.int 0, .null, .int 0]))) r.1 = some (hup (hup (hup h r.1 (.inr (10, [.int 0, .null, .int 0]))) r.1 (.inr (10, [.int 0, .null, .int 0]))) r.1 (.inr (10, [.int 0, .ref (K 0), .int (i3 0)]))) := by
    unfold CJ2_init CJ1_init CJ0_init
    rw [Option.bind_some, pI_of hup_s (show 0 < 3 by decide), Option.bind_some, Option.bind_some, pQ_of hup_s (show 1 < 3 by decide), Option.bind_some]
    rfl
  have e0 := aCell_of (h := h) (r := r) (n := 3) (e := .inr (10, [.int 0, .null, .int 0])) h1 h2
  refine ⟨_, by rw [e0, Option.bind_some]; dsimp only; rw [e1, Option.bind_some], ⟨0, hup_s, .inl ⟨rfl, .inl rfl⟩⟩, fun q hq => by rw [hup_n hq, hup_n hq, hup_n hq], e0, e1⟩
/-- a new list out of another one -/
theorem C_newOf (hL : LMu K h a arr n e) (hn : n < 1000) (hf : FR h r.1) (hK : KN K h) (hKb : ∀ i, i < 500 → K i < r.1) (hok : ∀ i, i < n → okO h (e i) = true) (h1 : 2 ≤ r.2.1) (h2 : 3 + n ≤ r.2.2) :
    ∃ arr' h', aCell h r 3 (.inr (10, [.int 0, .null, .int 0])) = some (hup h r.1 (.inr (10, [.int 0, .null, .int 0])), r.1 + 1, r.2.1 - 1, r.2.2 - 3) ∧ achv (r.1 + 1, r.2.1 - 1, r.2.2 - 3) (CJ2_init_2 K (hup h r.1 (.inr (10, [.int 0, .null, .int 0]))) (r.1 + 1, r.2.1 - 1, r.2.2 - 3) r.1 a) = some (h', r.1 + 2, r.2.1 - 2, r.2.2 - (3 + n)) ∧ LMu K h' r.1 arr' n e ∧ ((arr' = r.1 + 1 ∧ ∃ c, h' arr' = some c) ∨ (arr' = K 1 ∧ n = 0)) ∧ (∀ q, q < r.1 → h' q = h q) ∧ FR h' (r.1 + 2) := by
  obtain ⟨mc, ha, hc⟩ := hL
  have hane : a ≠ r.1 := fun y => by rw [y, hf r.1 (Nat.le_refl _)] at ha; cases ha
  have e0 := aCell_of (h := h) (r := r) (n := 3) (e := .inr (10, [.int 0, .null, .int 0])) (by omega) (by omega)
  have hk1 : hup (hup h r.1 (.inr (10, [.int 0, .null, .int 0]))) r.1 (.inr (10, [.int 0, .null, .int 0])) r.1 = some (.inr (10, [.int 0, .null, .int 0])) := hup_s
  have hka : hup (hup h r.1 (.inr (10, [.int 0, .null, .int 0]))) r.1 (.inr (10, [.int 0, .null, .int 0])) a = some (.inr (10, [.int mc, .ref arr, .int (i3 n)])) := by rw [hup_n hane, hup_n hane]; exact ha
  have kK : KN K (hup (hup h r.1 (.inr (10, [.int 0, .null, .int 0]))) r.1 (.inr (10, [.int 0, .null, .int 0]))) := KN_up (KN_up hK (KN_new hKb)) (KN_new hKb)
  have kf : FR (hup (hup h r.1 (.inr (10, [.int 0, .null, .int 0]))) r.1 (.inr (10, [.int 0, .null, .int 0]))) (r.1 + 1) := FR_set (FR_up hf) (by omega)
  have kok : ∀ q, okO h q = true → okO (hup (hup h r.1 (.inr (10, [.int 0, .null, .int 0]))) r.1 (.inr (10, [.int 0, .null, .int 0]))) q = true := fun q hq => okO_up (okO_up hq okC_10) okC_10
  have kb : ∀ q, q ≠ r.1 → hup (hup h r.1 (.inr (10, [.int 0, .null, .int 0]))) r.1 (.inr (10, [.int 0, .null, .int 0])) q = h q := fun q hq => by rw [hup_n hq, hup_n hq]
  have eJ1 : CJ1_init (hup h r.1 (.inr (10, [.int 0, .null, .int 0]))) r.1 = some (hup (hup h r.1 (.inr (10, [.int 0, .null, .int 0]))) r.1 (.inr (10, [.int 0, .null, .int 0]))) := by
    unfold CJ1_init CJ0_init
    rw [Option.bind_some, pI_of hup_s (show 0 < 3 by decide), Option.bind_some]
    rfl
  generalize hup (hup h r.1 (.inr (10, [.int 0, .null, .int 0]))) r.1 (.inr (10, [.int 0, .null, .int 0])) = k1 at hk1 hka kK kf kok kb eJ1
  -- its array
  obtain ⟨k2, g2, c1, c2, c3, c4⟩ : ∃ k2 g2, achk (r.1 + 1, r.2.1 - 1, r.2.2 - 3) (CJ16_copyOf K k1 (r.1 + 1, r.2.1 - 1, r.2.2 - 3) arr (i3 n)) = some (r.1 + 1, (k2, r.1 + 1 + 1, r.2.1 - 1 - 1, r.2.2 - 3 - n)) ∧ k2 (r.1 + 1) = some (.inl (3, n, .inr (.inr (.inr (.inr g2))))) ∧ (∀ i, i < n → g2 i = some (e i)) ∧ ∀ q, q ≠ r.1 + 1 → k2 q = k1 q := by
    rcases hc with ⟨rfl, hj⟩ | ⟨cap, g, hg, q1, q2, q3⟩
    · obtain ⟨k2, g2, c1, c2, c3, -⟩ := C_copyOf0 (K := K) (h := k1) (r := (r.1 + 1, r.2.1 - 1, r.2.2 - 3)) (m := 0) (j := 0) hj (by decide) (by dsimp only; omega) (by dsimp only; omega)
      exact ⟨k2, g2, c1, c2, fun i hi => absurd hi (Nat.not_lt_zero _), c3⟩
    · have hg1 : k1 arr = some (.inl (3, cap, .inr (.inr (.inr (.inr g))))) := by
        rw [kb arr (fun y => by rw [y, hf r.1 (Nat.le_refl _)] at hg; cases hg)]
        exact hg
      obtain ⟨k2, g2, c1, c2, c3, c4⟩ := C_copyOf (r := (r.1 + 1, r.2.1 - 1, r.2.2 - 3)) (m := n) kK (fun i hi => Nat.lt_succ_of_lt (hKb i hi)) kf hg1 (by omega) (by omega) (fun i y hi hy => by
        rw [q3 i (by omega)] at hy
        cases hy
        exact kok _ (hok i (by omega))) (by dsimp only; omega) (by dsimp only; omega)
      exact ⟨k2, g2, c1, c2, fun i hi => by rw [c3 i (by omega), q3 i hi], c4⟩
  have t2 : CJ2_toArray K k1 (r.1 + 1, r.2.1 - 1, r.2.2 - 3) a = some (r.1 + 1, (k2, r.1 + 1 + 1, r.2.1 - 1 - 1, r.2.2 - 3 - n)) := by
    unfold CJ2_toArray
    rw [gR_of hka (k := 1) rfl, Option.bind_some, gI_of hka (k := 2) rfl, Option.bind_some, c1, Option.bind_some]
  have h2c : k2 r.1 = some (.inr (10, [.int 0, .null, .int 0])) := by rw [c4 _ (by omega)]; exact hk1
  have K2 : KN K k2 := by
    obtain ⟨z1, z2, z3⟩ := kK
    refine ⟨?_, ?_, fun i hi => ?_⟩
    · rw [c4 _ (by have := hKb 0 (by decide); omega)]; exact z1
    · rw [c4 _ (by have := hKb 1 (by decide); omega)]; exact z2
    · rw [c4 _ (by have := hKb (30 + i) (by omega); omega)]; exact z3 i hi
  have h3c : hup k2 r.1 (.inr (10, [.int 0, .null, .int (i3 n)])) r.1 = some (.inr (10, [.int 0, .null, .int (i3 n)])) := hup_s
  have h3a : hup k2 r.1 (.inr (10, [.int 0, .null, .int (i3 n)])) a = some (.inr (10, [.int mc, .ref arr, .int (i3 n)])) := by
    rw [hup_n hane, c4 a (fun y => by rw [y, kf _ (Nat.le_refl _)] at hka; cases hka)]
    exact hka
  by_cases h0 : n = 0
  · refine ⟨K 1, hup (hup k2 r.1 (.inr (10, [.int 0, .null, .int (i3 n)]))) r.1 (.inr (10, [.int 0, .ref (K 1), .int (i3 n)])), e0, ?_, ⟨0, hup_s, .inl ⟨h0, .inr rfl⟩⟩, .inr ⟨rfl, h0⟩, fun q hq => ?_, fun q hq => ?_⟩
    · have : CJ2_init_2 K (hup h r.1 (.inr (10, [.int 0, .null, .int 0]))) (r.1 + 1, r.2.1 - 1, r.2.2 - 3) r.1 a = some (hup (hup k2 r.1 (.inr (10, [.int 0, .null, .int (i3 n)]))) r.1 (.inr (10, [.int 0, .ref (K 1), .int (i3 n)])), r.1 + 1 + 1, r.2.1 - 1 - 1, r.2.2 - 3 - n) := by
        unfold CJ2_init_2
        rw [eJ1, Option.bind_some, vc_of hka, achk_of t2 (by dsimp only; omega) (by dsimp only; omega), Option.bind_some]
        dsimp only
        rw [aNk_of K2 c2, Option.bind_some, pI_of h2c (show 2 < 3 by decide), Option.bind_some, if_pos ((i3_eq0 (by omega)).mpr h0), pQ_of (show hup k2 r.1 _ r.1 = _ from hup_s) (show 1 < 3 by decide), Option.bind_some]
        rfl
      rw [achv_of this (by dsimp only; omega) (by dsimp only; omega)]
      congr 3
      congr 1
      all_goals omega
    · rw [hup_n (by omega), hup_n (by omega), c4 q (by omega), kb q (by omega)]
    · rw [hup_n (by omega), hup_n (by omega), c4 q (by omega)]
      exact kf q (by omega)
  · refine ⟨r.1 + 1, hup (hup k2 r.1 (.inr (10, [.int 0, .null, .int (i3 n)]))) r.1 (.inr (10, [.int 0, .ref (r.1 + 1), .int (i3 n)])), e0, ?_, ⟨0, hup_s, .inr ⟨n, g2, by rw [hup_n (by omega), hup_n (by omega)]; exact c2, Nat.le_refl _, by omega, c3⟩⟩, .inl ⟨rfl, ⟨_, by rw [hup_n (by omega), hup_n (by omega)]; exact c2⟩⟩, fun q hq => ?_, fun q hq => ?_⟩
    · have : CJ2_init_2 K (hup h r.1 (.inr (10, [.int 0, .null, .int 0]))) (r.1 + 1, r.2.1 - 1, r.2.2 - 3) r.1 a = some (hup (hup k2 r.1 (.inr (10, [.int 0, .null, .int (i3 n)]))) r.1 (.inr (10, [.int 0, .ref (r.1 + 1), .int (i3 n)])), r.1 + 1 + 1, r.2.1 - 1 - 1, r.2.2 - 3 - n) := by
        unfold CJ2_init_2
        rw [eJ1, Option.bind_some, vc_of hka, achk_of t2 (by dsimp only; omega) (by dsimp only; omega), Option.bind_some]
        dsimp only
        rw [aNk_of K2 c2, Option.bind_some, pI_of h2c (show 2 < 3 by decide), Option.bind_some, if_neg (fun x => h0 ((i3_eq0 (by omega)).mp x)), vc_of (show hup k2 r.1 (Sum.inr (10, [Value.int 0, Value.null, Value.int 0].set 2 (Value.int (i3 n)))) a = _ from h3a), Option.bind_some, if_pos rfl, pQ_of (show hup k2 r.1 _ r.1 = _ from hup_s) (show 1 < 3 by decide), Option.bind_some]
        rfl
      rw [achv_of this (by dsimp only; omega) (by dsimp only; omega)]
      congr 3
      congr 1
      all_goals omega
    · rw [hup_n (by omega), hup_n (by omega), c4 q (by omega), kb q (by omega)]
    · rw [hup_n (by omega), hup_n (by omega), c4 q (by omega)]
      exact kf q (by omega)
end LISTS2
