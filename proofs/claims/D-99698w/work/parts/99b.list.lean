/-! ===== the component: lists that grow and shrink, copies of lists ===== -/
def okC : CE → Bool
  | .inr (c, _) => decide (c ∈ [1, 2, 3, 4, 5, 6, 7, 8, 9, 10, 11, 12])
  | .inl (t, _) => decide (t ∈ [0, 1, 2, 3, 4, 5])
theorem okC_3 {x : vp_A} : okC (.inl (3, x)) = true := by simp [okC]
theorem okC_0 {x : vp_A} : okC (.inl (0, x)) = true := by simp [okC]
theorem okC_10 {x : List Value} : okC (.inr (10, x)) = true := by simp [okC]
theorem okO_of {h : CH} {a : Nat} {e : CE} (x : h a = some e) : okO h a = okC e := by
  unfold okO okC
  rw [x]
  rcases e with ⟨t, q⟩ | ⟨c, q⟩ <;> rfl
theorem okO_up {h : CH} {a q : Nat} {e : CE} (hq : okO h q = true) (he : okC e = true) : okO (hup h a e) q = true := by
  by_cases hqa : q = a
  · subst hqa
    rw [okO_of hup_s]
    exact he
  · unfold okO at hq ⊢
    rw [hup_n hqa]
    exact hq
theorem okO_hle {f h : CH} {a : Nat} (hl : hle f h) (x : okO f a = true) : okO h a = true := by
  cases e : f a with
  | none => unfold okO at x; rw [e] at x; cases x
  | some c => rw [okO_of (hl _ _ e), ← okO_of e]; exact x
section LISTS
variable {K : Nat → Nat} {h : CH} {r : CR} {a arr n : Nat} {e : Nat → Nat}
theorem KN_ne {q : Nat} {x : CE} (hK : KN K h) (hq : h q = some x) : ¬ (q = K 0 ∨ q = K 1) := by
  rintro (rfl | rfl)
  · rw [hK.1] at hq; cases hq
  · rw [hK.2.1] at hq; cases hq
theorem aNk_of {cap : Nat} {x : (Nat → Int32) ⊕ (Nat → Int64) ⊕ (Nat → UInt32) ⊕ (Nat → UInt64) ⊕ (Nat → Option Nat)} (hK : KN K h) (hq : h arr = some (.inl (3, cap, x))) : aNk K h arr = some (i3 cap) := by
  unfold aNk
  rw [if_neg (KN_ne hK hq), aN_of hq]
theorem newLength_eq {n : Nat} (hn : n < 100000) : CJ15_newLength (i3 n) (i3 n + 1 - i3 n) (i3 n >>> (1 &&& 31)) = some (i3 (n + max 1 (n / 2))) := by
  have e1 : i3 n + 1 - i3 n = i3 1 := by
    rw [show i3 n + 1 = i3 (n + 1) from i3_add n 1, i3_sub (by omega)]
    congr 1
    omega
  have e2 : i3 n >>> (1 &&& 31) = i3 (n / 2) := by
    rw [show i3 n >>> (1 &&& 31) = _ from i3_shr (k := 1) (by omega) (by decide), Nat.shiftRight_eq_div_pow]
  unfold CJ15_newLength
  rw [e1, e2, i3_max (by decide) (by omega), i3_add]
  rw [if_pos (show (0 : Int32) < _ from (i3_lt (a := 0) (by decide) (by omega)).mpr (by omega)), if_pos ((i3_lel (c := 2147483639) (n := 2147483639) rfl (by omega) (by decide)).mpr (by omega))]
theorem KN_up {q : Nat} {x : CE} (hK : KN K h) (hq : q ≠ K 0 ∧ q ≠ K 1 ∧ ∀ i, i < 18 → q ≠ K (30 + i)) : KN K (hup h q x) := by
  obtain ⟨h1, h2, h3⟩ := hK
  refine ⟨?_, ?_, fun i hi => ?_⟩
  · rw [hup_n (Ne.symm hq.1)]; exact h1
  · rw [hup_n (Ne.symm hq.2.1)]; exact h2
  · rw [hup_n (Ne.symm (hq.2.2 i hi))]; exact h3 i hi
theorem KN_some {q : Nat} {x : CE} (hK : KN K h) (hq : h q = some x) : q ≠ K 0 ∧ q ≠ K 1 ∧ ∀ i, i < 18 → q ≠ K (30 + i) := by
  refine ⟨fun x => ?_, fun x => ?_, fun i hi x => ?_⟩
  · rw [x, hK.1] at hq; cases hq
  · rw [x, hK.2.1] at hq; cases hq
  · rw [x, hK.2.2 i hi] at hq; cases hq
theorem KN_new (hKb : ∀ i, i < 500 → K i < r.1) : r.1 ≠ K 0 ∧ r.1 ≠ K 1 ∧ ∀ i, i < 18 → r.1 ≠ K (30 + i) := by
  refine ⟨fun x => ?_, fun x => ?_, fun i hi x => ?_⟩
  · have := hKb 0 (by decide); omega
  · have := hKb 1 (by decide); omega
  · have := hKb (30 + i) (by omega); omega
/-- an array of Objects copied into a longer, or as long, new one -/
theorem C_copyOf {m cap : Nat} {g : Nat → Option Nat} (hK : KN K h) (hKb : ∀ i, i < 500 → K i < r.1) (hf : FR h r.1) (ha : h arr = some (.inl (3, cap, .inr (.inr (.inr (.inr g)))))) (hm : m ≤ 100000) (hcap : cap < 2 ^ 30) (hok : ∀ i y, i < min cap m → g i = some y → okO h y = true) (h1 : 1 ≤ r.2.1) (h2 : m ≤ r.2.2) :
    ∃ h' g', achk r (CJ16_copyOf K h r arr (i3 m)) = some (r.1, (h', r.1 + 1, r.2.1 - 1, r.2.2 - m)) ∧ h' r.1 = some (.inl (3, m, .inr (.inr (.inr (.inr g'))))) ∧ (∀ i, i < min cap m → g' i = g i) ∧ (∀ q, q ≠ r.1 → h' q = h q) := by
  have hne : arr ≠ r.1 := fun x => by rw [x, hf r.1 (Nat.le_refl _)] at ha; cases ha
  have hns := KN_ne hK ha
  have e : CJ16_copyOf K h r arr (i3 m) = some (r.1, (hup (hup h r.1 (.inl (3, m, .inr (.inr (.inr (.inr (fun _ => none))))))) r.1 (.inl (3, m, .inr (.inr (.inr (.inr (va_cpy g (fun _ => none) 0 0 (min cap m))))))), r.1 + 1, r.2.1 - 1, r.2.2 - m)) := by
    have ha2 : hup h r.1 (.inl (3, m, .inr (.inr (.inr (.inr (fun _ => none)))))) arr = some (.inl (3, cap, .inr (.inr (.inr (.inr g))))) := by rw [hup_n hne]; exact ha
    have ec : aNk K (hup h r.1 (.inl (3, m, .inr (.inr (.inr (.inr (fun _ => none))))))) arr = some (i3 cap) := by
      unfold aNk
      rw [if_neg hns, aN_of ha2]
    have e2 : CJ16_copyOf_2 K h r arr (i3 m) (K 2) = some (r.1, (hup (hup h r.1 (.inl (3, m, .inr (.inr (.inr (.inr (fun _ => none))))))) r.1 (.inl (3, m, .inr (.inr (.inr (.inr (va_cpy g (fun _ => none) 0 0 (min cap m))))))), r.1 + 1, r.2.1 - 1, r.2.2 - m)) := by
      unfold CJ16_copyOf_2
      rw [if_pos rfl, aArrQ_of h1 h2 hm]
      simp only [ob_s]
      rw [ec, Option.bind_some, i3_min (by omega) (by omega)]
      unfold cpK
      rw [if_neg hns]
      unfold cpQ
      rw [ha2, hup_s]
      dsimp only
      have hmin : (i3 (min cap m)).toNatClampNeg = min cap m := i3_nat (by omega)
      have hall : ((List.range (i3 (min cap m)).toNatClampNeg).all fun i => (g ((0 : Int32).toNatClampNeg + i)).all (okO (hup h r.1 (.inl (3, m, .inr (.inr (.inr (.inr (fun _ => none))))))))) = true := by
        apply List.all_eq_true.mpr
        intro i hi
        rw [hmin] at hi
        have hi := List.mem_range.mp hi
        show ((g (0 + i)).all _) = true
        rw [Nat.zero_add]
        cases eg : g i with
        | none => rfl
        | some y => exact okO_up (hok i y hi eg) okC_3
      have hl1 : (0 : Int32).toNatClampNeg + (i3 (min cap m)).toNatClampNeg ≤ cap := by rw [hmin]; show 0 + _ ≤ _; omega
      have hl2 : (0 : Int32).toNatClampNeg + (i3 (min cap m)).toNatClampNeg ≤ m := by rw [hmin]; show 0 + _ ≤ _; omega
      rw [if_pos ⟨rfl, rfl, by decide, by decide, i3_nn (by omega), hl1, hl2, hall⟩, hmin]
      rfl
    unfold CJ16_copyOf ckAk
    rw [if_neg hns, ckA_of ha, Option.bind_some, achk_of e2 (Nat.sub_le _ _) (Nat.sub_le _ _), Option.bind_some]
  refine ⟨_, _, achk_of e (Nat.sub_le _ _) (Nat.sub_le _ _), hup_s, fun i hi => ?_, fun q hq => by rw [hup_n hq, hup_n hq]⟩
  unfold va_cpy
  rw [if_pos ⟨Nat.zero_le _, by omega⟩]
  congr 1
  omega
theorem C_copyOf0 {m j : Nat} (hj : arr = K 0 ∨ arr = K 1) (hm : m ≤ 100000) (h1 : 1 ≤ r.2.1) (h2 : m ≤ r.2.2) :
    ∃ h' g', achk r (CJ16_copyOf K h r arr (i3 m)) = some (r.1, (h', r.1 + 1, r.2.1 - 1, r.2.2 - m)) ∧ h' r.1 = some (.inl (3, m, .inr (.inr (.inr (.inr g'))))) ∧ (∀ q, q ≠ r.1 → h' q = h q) ∧ j = j := by
  have e : CJ16_copyOf K h r arr (i3 m) = some (r.1, (hup (hup h r.1 (.inl (3, m, .inr (.inr (.inr (.inr (fun _ => none))))))) r.1 (.inl (3, m, .inr (.inr (.inr (.inr (va_cpy (fun _ => none) (fun _ => none) 0 0 0)))))), r.1 + 1, r.2.1 - 1, r.2.2 - m)) := by
    have e2 : CJ16_copyOf_2 K h r arr (i3 m) (K 2) = some (r.1, (hup (hup h r.1 (.inl (3, m, .inr (.inr (.inr (.inr (fun _ => none))))))) r.1 (.inl (3, m, .inr (.inr (.inr (.inr (va_cpy (fun _ => none) (fun _ => none) 0 0 0)))))), r.1 + 1, r.2.1 - 1, r.2.2 - m)) := by
      unfold CJ16_copyOf_2
      rw [if_pos rfl, aArrQ_of h1 h2 hm]
      simp only [ob_s]
      unfold aNk
      rw [if_pos hj, Option.bind_some, show imin 0 (i3 m) = 0 by (unfold imin; rw [if_neg (i3_nn (by omega))])]
      unfold cpK
      rw [if_pos hj, hup_s]
      dsimp only
      rw [if_pos ⟨rfl, rfl, rfl, rfl⟩]
      rfl
    unfold CJ16_copyOf ckAk
    rw [if_pos hj, Option.bind_some, achk_of e2 (Nat.sub_le _ _) (Nat.sub_le _ _), Option.bind_some]
  exact ⟨_, _, achk_of e (Nat.sub_le _ _) (Nat.sub_le _ _), hup_s, fun q hq => by rw [hup_n hq, hup_n hq], rfl⟩
/-- more room in a list: its array is a new one -/
theorem C_grow {mc : Int32} (hf : FR h r.1) (hK : KN K h) (hK01 : K 0 ≠ K 1) (hKb : ∀ i, i < 500 → K i < r.1) (ha : h a = some (.inr (10, [.int mc, .ref arr, .int (i3 n)]))) (hn : n < 1000) (hc : (n = 0 ∧ (arr = K 0 ∨ arr = K 1)) ∨ ∃ g, h arr = some (.inl (3, n, .inr (.inr (.inr (.inr g))))) ∧ ∀ i, i < n → ∃ y, g i = some y ∧ y = e i ∧ okO h y = true) (h1 : 1 ≤ r.2.1) (h2 : 2 * n + 10 ≤ r.2.2) :
    ∃ h' g' cap', vc h a 10 (achk r (CJ2_grow K h r a)) = some (r.1, (h', r.1 + 1, r.2.1 - 1, r.2.2 - cap')) ∧ h' a = some (.inr (10, [.int mc, .ref r.1, .int (i3 n)])) ∧ h' r.1 = some (.inl (3, cap', .inr (.inr (.inr (.inr g'))))) ∧ n < cap' ∧ cap' ≤ 2 * n + 10 ∧ (∀ i, i < n → g' i = some (e i)) ∧ ∀ q, q ≠ a → q ≠ r.1 → h' q = h q := by
  have hane : a ≠ r.1 := fun x => by rw [x, hf r.1 (Nat.le_refl _)] at ha; cases ha
  have key : ∃ h' g' cap', CJ2_grow_2 K h r a (i3 n + 1) = some (r.1, (h', r.1 + 1, r.2.1 - 1, r.2.2 - cap')) ∧ h' a = some (.inr (10, [.int mc, .ref r.1, .int (i3 n)])) ∧ h' r.1 = some (.inl (3, cap', .inr (.inr (.inr (.inr g'))))) ∧ n < cap' ∧ cap' ≤ 2 * n + 10 ∧ (∀ i, i < n → g' i = some (e i)) ∧ ∀ q, q ≠ a → q ≠ r.1 → h' q = h q := by
    rcases hc with ⟨rfl, hj⟩ | ⟨g, hg, hge⟩
    · unfold CJ2_grow_2
      rw [gR_of ha (k := 1) rfl]
      simp only [ob_s]
      unfold aNk
      rw [if_pos hj, Option.bind_some, if_pos (by decide)]
      by_cases h00 : arr = K 0
      · rw [if_pos (by rw [h00])]
        rw [show imax 10 (i3 0 + 1) = i3 10 by decide, aArrQ_of (n := 10) h1 (by omega) (by decide), Option.bind_some]
        dsimp only
        rw [pQ_of (show hup h r.1 _ a = _ by rw [hup_n hane]; exact ha) (show 1 < 3 by decide), Option.bind_some]
        exact ⟨_, _, 10, rfl, by rw [hup_s]; rfl, by rw [hup_n (Ne.symm hane), hup_s], by decide, by decide, fun i hi => absurd hi (Nat.not_lt_zero _), fun q q1 q2 => by rw [hup_n q1, hup_n q2]⟩
      · rw [if_neg (fun x => h00 (Option.some.inj x))]
        unfold CJ2_grow_2_J20
        rw [show CJ15_newLength 0 (i3 0 + 1 - 0) ((0 : Int32) >>> (1 &&& 31)) = some (i3 1) from newLength_eq (n := 0) (by decide), Option.bind_some, gR_of ha (k := 1) rfl, Option.bind_some]
        obtain ⟨h', g', c1, c2, c3, -⟩ := C_copyOf0 (K := K) (h := h) (r := r) (m := 1) (j := 0) hj (by decide) h1 (by omega)
        rw [c1, Option.bind_some]
        dsimp only
        rw [pQ_of (show h' a = _ from (c3 a hane).trans ha) (show 1 < 3 by decide), Option.bind_some]
        exact ⟨_, _, 1, rfl, by rw [hup_s]; rfl, by rw [hup_n (Ne.symm hane)]; exact c2, by decide, by decide, fun i hi => absurd hi (Nat.not_lt_zero _), fun q q1 q2 => by rw [hup_n q1]; exact c3 q q2⟩
    · have hns := KN_ne hK hg
      have hJ : ∃ h' g' cap', CJ2_grow_2_J20 K h r a (i3 n + 1) (i3 n) = some (r.1, (h', r.1 + 1, r.2.1 - 1, r.2.2 - cap')) ∧ h' a = some (.inr (10, [.int mc, .ref r.1, .int (i3 n)])) ∧ h' r.1 = some (.inl (3, cap', .inr (.inr (.inr (.inr g'))))) ∧ n < cap' ∧ cap' ≤ 2 * n + 10 ∧ (∀ i, i < n → g' i = some (e i)) ∧ ∀ q, q ≠ a → q ≠ r.1 → h' q = h q := by
        unfold CJ2_grow_2_J20
        rw [newLength_eq (by omega), Option.bind_some, gR_of ha (k := 1) rfl, Option.bind_some]
        obtain ⟨h', g', c1, c2, c3, c4⟩ := C_copyOf (m := n + max 1 (n / 2)) hK hKb hf hg (by omega) (by omega) (fun i y hi hy => by
          obtain ⟨y', y1, y2, y3⟩ := hge i (by omega)
          rw [y1] at hy
          cases hy
          exact y3) h1 (by omega)
        rw [c1, Option.bind_some]
        dsimp only
        rw [pQ_of (show h' a = _ from (c4 a hane).trans ha) (show 1 < 3 by decide), Option.bind_some]
        refine ⟨_, _, _, rfl, by rw [hup_s]; rfl, by rw [hup_n (Ne.symm hane)]; exact c2, by omega, by omega, fun i hi => ?_, fun q q1 q2 => by rw [hup_n q1]; exact c4 q q2⟩
        obtain ⟨y', y1, y2, y3⟩ := hge i hi
        rw [c3 i (by omega), y1, y2]
      unfold CJ2_grow_2
      rw [gR_of ha (k := 1) rfl]
      simp only [ob_s]
      rw [aNk_of hK hg, Option.bind_some, if_neg (fun x => hns (.inl (Option.some.inj x)))]
      split
      · exact hJ
      · exact hJ
  obtain ⟨h', g', cap', k1, k2⟩ := key
  refine ⟨h', g', cap', ?_, k2⟩
  rw [vc_of ha]
  have : CJ2_grow K h r a = some (r.1, (h', r.1 + 1, r.2.1 - 1, r.2.2 - cap')) := by
    unfold CJ2_grow
    rw [gI_of ha (k := 2) rfl, Option.bind_some, vc_of ha, achk_of k1 (Nat.sub_le _ _) (Nat.sub_le _ _), Option.bind_some]
  exact achk_of this (Nat.sub_le _ _) (Nat.sub_le _ _)
/-- adding to a list -/
theorem C_add {x : Nat} (hL : LMu K h a arr n e) (hn : n < 1000) (hf : FR h r.1) (hK : KN K h) (hK01 : K 0 ≠ K 1) (hKb : ∀ i, i < 500 → K i < r.1) (hok : ∀ i, i < n → okO h (e i) = true) (hx : okO h x = true) (hxa : arr ≠ a) (h1 : 1 ≤ r.2.1) (h2 : 2 * n + 10 ≤ r.2.2) :
    ∃ arr' h' r', vc h a 10 (achk r (CJ2_add K h r a x)) = some (1, (h', r')) ∧ LMu K h' a arr' (n + 1) (fun i => if i = n then x else e i) ∧ ((arr' = arr ∧ r'.1 = r.1 ∧ ∃ c, h arr = some c) ∨ (arr' = r.1 ∧ r'.1 = r.1 + 1)) ∧ (∃ c, h' arr' = some c) ∧ FR h' r'.1 ∧ (∀ q, q ≠ a → q ≠ arr' → h' q = h q) ∧ r'.2.1 ≤ r.2.1 ∧ r'.2.2 ≤ r.2.2 ∧ r.2.1 ≤ r'.2.1 + 1 ∧ r.2.2 ≤ r'.2.2 + (2 * n + 10) := by
  obtain ⟨mc, ha, hc⟩ := hL
  have hane : a ≠ r.1 := fun y => by rw [y, hf r.1 (Nat.le_refl _)] at ha; cases ha
  have haK := KN_some hK ha
  -- the count of changes goes up
  have ha1 : hup h a (.inr (10, [.int (mc + 1), .ref arr, .int (i3 n)])) a = some (.inr (10, [.int (mc + 1), .ref arr, .int (i3 n)])) := hup_s
  have f1 : FR (hup h a (.inr (10, [.int (mc + 1), .ref arr, .int (i3 n)]))) r.1 := FR_set hf (by
    apply Classical.byContradiction
    intro y
    rw [hf a (by omega)] at ha
    cases ha)
  have K1 : KN K (hup h a (.inr (10, [.int (mc + 1), .ref arr, .int (i3 n)]))) := KN_up hK haK
  have ok1 : ∀ q, okO h q = true → okO (hup h a (.inr (10, [.int (mc + 1), .ref arr, .int (i3 n)]))) q = true := fun q hq => okO_up hq okC_10
  have b1 : ∀ q, q ≠ a → hup h a (.inr (10, [.int (mc + 1), .ref arr, .int (i3 n)])) q = h q := fun q hq => hup_n hq
  generalize hk1 : hup h a (.inr (10, [.int (mc + 1), .ref arr, .int (i3 n)])) = k1 at ha1 f1 K1 ok1 b1
  have start : ∀ z : CS, vc k1 a 10 (achv r (CJ2_add_2 K k1 r a x arr (i3 n))) = some z → vc h a 10 (achk r (CJ2_add K h r a x)) = (if z.2.2.1 ≤ r.2.1 ∧ z.2.2.2 ≤ r.2.2 then some (1, z) else none) := by
    intro z hz
    rw [vc_of ha]
    unfold CJ2_add
    rw [gI_of ha (k := 0) rfl, Option.bind_some, pI_of ha (show 0 < 3 by decide), Option.bind_some]
    rw [show hup h a (Sum.inr (10, [Value.int mc, Value.ref arr, Value.int (i3 n)].set 0 (Value.int (mc + 1)))) = k1 from hk1, gR_of ha1 (k := 1) rfl, Option.bind_some, gI_of ha1 (k := 2) rfl, Option.bind_some, hz, Option.bind_some]
    unfold achk
    rw [Option.bind_some]
  have store : ∀ (k2 : CH) (r2 : CR) (arr2 cap : Nat) (g : Nat → Option Nat), k2 a = some (.inr (10, [.int (mc + 1), .ref arr2, .int (i3 n)])) → k2 arr2 = some (.inl (3, cap, .inr (.inr (.inr (.inr g))))) → n < cap → cap < 2 ^ 20 → arr2 ≠ a → (∀ i, i < n → g i = some (e i)) → okO k2 x = true → FR k2 r2.1 → arr2 < r2.1 → a < r2.1 →
      ∃ h', ((oko k2 x).bind fun _ => (sQ k2 arr2 3 (i3 n) (some x)).bind fun s4 => (pI s4 a 10 2 (i3 n + 1)).bind fun s5 => some ((s5, r2) : CS)) = some (h', r2) ∧ LMu K h' a arr2 (n + 1) (fun i => if i = n then x else e i) ∧ (∃ c, h' arr2 = some c) ∧ FR h' r2.1 ∧ ∀ q, q ≠ a → q ≠ arr2 → h' q = k2 q := by
    intro k2 r2 arr2 cap g q1 q2 q3 q4 q5 q6 q7 q8 q9 q10
    unfold oko
    rw [if_pos q7, Option.bind_some, sQ_of q2 q3 (by omega), Option.bind_some, pI_of (show hup k2 arr2 _ a = _ by rw [hup_n (Ne.symm q5)]; exact q1) (show 2 < 3 by decide), Option.bind_some]
    refine ⟨_, rfl, ⟨mc + 1, ?_, .inr ⟨cap, va_up g n (some x), ?_, by omega, q4, fun i hi => ?_⟩⟩, ⟨.inl (3, cap, .inr (.inr (.inr (.inr (va_up g n (some x)))))), by rw [hup_n q5, hup_s]⟩, FR_set (FR_set q8 q9) q10, fun q z1 z2 => by rw [hup_n z1, hup_n z2]⟩
    · rw [hup_s]
      show some (Sum.inr (10, [Value.int (mc + 1), Value.ref arr2, Value.int (i3 n + 1)])) = _
      rw [i3_succ]
    · rw [hup_n q5, hup_s]
    · unfold va_up
      dsimp only
      by_cases ei : i = n
      · rw [if_pos ei, if_pos ei]
      · rw [if_neg ei, if_neg ei]
        exact q6 i (by omega)
  have hlt : a < r.1 := by
    apply Classical.byContradiction
    intro y
    rw [hf a (by omega)] at ha
    cases ha
  rcases hc with ⟨rfl, hj⟩ | ⟨cap, g, hg, c1, c2, c3⟩
  · -- one of the two empty arrays
    obtain ⟨k2, g2, cap2, g1, g3, g4, g5, g6, g7, g8⟩ := C_grow (e := e) f1 K1 hK01 hKb ha1 (by decide) (.inl ⟨rfl, hj⟩) h1 (by omega)
    have okx : okO k2 x = true := by
      by_cases hxa2 : x = a
      · rw [hxa2, okO_of g3]; exact okC_10
      · by_cases hxr : x = r.1
        · rw [hxr, okO_of g4]; exact okC_3
        · have := ok1 x hx
          unfold okO at this ⊢
          rw [g8 x hxa2 hxr]
          exact this
    obtain ⟨h', s1, s2, s3, s4, s5⟩ := store k2 (r.1 + 1, r.2.1 - 1, r.2.2 - cap2) r.1 cap2 g2 g3 g4 (by omega) (by omega) (Ne.symm hane) g7 okx (fun q hq => by
      have q1 : q ≠ a := by show q ≠ a; have : r.1 + 1 ≤ q := hq; omega
      have q2 : q ≠ r.1 := by have : r.1 + 1 ≤ q := hq; omega
      rw [g8 q q1 q2]
      exact f1 q (by have : r.1 + 1 ≤ q := hq; omega)) (Nat.lt_succ_self _) (by show a < r.1 + 1; omega)
    have hz : vc k1 a 10 (achv r (CJ2_add_2 K k1 r a x arr (i3 0))) = some (h', (r.1 + 1, r.2.1 - 1, r.2.2 - cap2)) := by
      rw [vc_of ha1]
      have : CJ2_add_2 K k1 r a x arr (i3 0) = some (h', (r.1 + 1, r.2.1 - 1, r.2.2 - cap2)) := by
        unfold CJ2_add_2
        have eN : aNk K k1 arr = some 0 := by unfold aNk; rw [if_pos hj]
        rw [eN, Option.bind_some, if_pos (by decide), g1]
        simp only [ob_s]
        exact s1
      exact achv_of this (Nat.sub_le _ _) (Nat.sub_le _ _)
    refine ⟨r.1, h', _, ?_, s2, .inr ⟨rfl, rfl⟩, s3, s4, fun q q1 q2 => ?_, Nat.sub_le _ _, Nat.sub_le _ _, by dsimp only; omega, by dsimp only; omega⟩
    · rw [start _ hz, if_pos ⟨Nat.sub_le _ _, Nat.sub_le _ _⟩]
    · rw [s5 q q1 q2, g8 q q1 q2, b1 q q1]
  · have hg1 : k1 arr = some (.inl (3, cap, .inr (.inr (.inr (.inr g))))) := by rw [b1 arr hxa]; exact hg
    have harl : arr < r.1 := by
      apply Classical.byContradiction
      intro y
      rw [hf arr (by omega)] at hg
      cases hg
    by_cases hfull : n = cap
    · subst hfull
      obtain ⟨k2, g2, cap2, g1, g3, g4, g5, g6, g7, g8⟩ := C_grow (e := e) f1 K1 hK01 hKb ha1 (by omega) (.inr ⟨g, hg1, fun i hi => ⟨e i, c3 i hi, rfl, ok1 _ (hok i hi)⟩⟩) h1 (by omega)
      have okx : okO k2 x = true := by
        by_cases hxa2 : x = a
        · rw [hxa2, okO_of g3]; exact okC_10
        · by_cases hxr : x = r.1
          · rw [hxr, okO_of g4]; exact okC_3
          · have := ok1 x hx
            unfold okO at this ⊢
            rw [g8 x hxa2 hxr]
            exact this
      obtain ⟨h', s1, s2, s3, s4, s5⟩ := store k2 (r.1 + 1, r.2.1 - 1, r.2.2 - cap2) r.1 cap2 g2 g3 g4 (by omega) (by omega) (Ne.symm hane) g7 okx (fun q hq => by
        have q1 : q ≠ a := by have : r.1 + 1 ≤ q := hq; omega
        have q2 : q ≠ r.1 := by have : r.1 + 1 ≤ q := hq; omega
        rw [g8 q q1 q2]
        exact f1 q (by have : r.1 + 1 ≤ q := hq; omega)) (Nat.lt_succ_self _) (by show a < r.1 + 1; omega)
      have hz : vc k1 a 10 (achv r (CJ2_add_2 K k1 r a x arr (i3 n))) = some (h', (r.1 + 1, r.2.1 - 1, r.2.2 - cap2)) := by
        rw [vc_of ha1]
        have : CJ2_add_2 K k1 r a x arr (i3 n) = some (h', (r.1 + 1, r.2.1 - 1, r.2.2 - cap2)) := by
          unfold CJ2_add_2
          rw [aNk_of K1 hg1, Option.bind_some, if_pos rfl, g1]
          simp only [ob_s]
          exact s1
        exact achv_of this (Nat.sub_le _ _) (Nat.sub_le _ _)
      refine ⟨r.1, h', _, ?_, s2, .inr ⟨rfl, rfl⟩, s3, s4, fun q q1 q2 => ?_, Nat.sub_le _ _, Nat.sub_le _ _, by dsimp only; omega, by dsimp only; omega⟩
      · rw [start _ hz, if_pos ⟨Nat.sub_le _ _, Nat.sub_le _ _⟩]
      · rw [s5 q q1 q2, g8 q q1 q2, b1 q q1]
    · obtain ⟨h', s1, s2, s3, s4, s5⟩ := store k1 r arr cap g ha1 hg1 (by omega) c2 hxa c3 (ok1 x hx) f1 harl hlt
      have hz : vc k1 a 10 (achv r (CJ2_add_2 K k1 r a x arr (i3 n))) = some (h', r) := by
        rw [vc_of ha1]
        have : CJ2_add_2 K k1 r a x arr (i3 n) = some (h', r) := by
          unfold CJ2_add_2
          rw [aNk_of K1 hg1, Option.bind_some, if_neg (fun y => hfull ((i3_inj (by omega) (by omega)).mp y))]
          simp only [ob_s]
          exact s1
        exact achv_of this (Nat.le_refl _) (Nat.le_refl _)
      refine ⟨arr, h', r, ?_, s2, .inl ⟨rfl, rfl, ⟨_, hg⟩⟩, s3, s4, fun q q1 q2 => ?_, Nat.le_refl _, Nat.le_refl _, by omega, by omega⟩
      · rw [start _ hz, if_pos ⟨Nat.le_refl _, Nat.le_refl _⟩]
      · rw [s5 q q1 q2, b1 q q1]
end LISTS
