/-! ===== office: the component's chains: signs in a StringBuilder, forms in a list ===== -/
section SBS
variable {K : Nat → Nat} {h : CH} {r : CR} {sb bs cap c ch : Nat} {ml : Int32} {g : Nat → Int32}
theorem i3_sub_le {a b : Nat} (ha : a < 2 ^ 20) (hb : b < 2 ^ 20) : i3 a - i3 b ≤ 0 ↔ a ≤ b := by
  have e1 : (i3 a).toInt = (a : Int) := Int32.toInt_ofNat_of_lt (by omega)
  have e2 : (i3 b).toInt = (b : Int) := Int32.toInt_ofNat_of_lt (by omega)
  have e3 : (0 : Int32).toInt = 0 := rfl
  rw [Int32.le_iff_toInt_le, Int32.toInt_sub, e1, e2, e3]
  unfold Int.bmod
  dsimp only
  split <;> omega
theorem bIx_no {x : CE} (hK : KN K h) (hb : h bs = some x) : bIx K bs = none := by
  apply List.find?_eq_none.mpr
  intro i hi
  have h1 := (KN_some hK hb).2.2 i (List.mem_range.mp hi)
  simpa using Ne.symm h1
theorem aNb_of {x : (Nat → Int32) ⊕ (Nat → Int64) ⊕ (Nat → UInt32) ⊕ (Nat → UInt64) ⊕ (Nat → Option Nat)} (hK : KN K h) (hb : h bs = some (.inl (2, cap, x))) : aNb K h bs = some (i3 cap) := by
  unfold aNb
  rw [bIx_no hK hb]
  exact aN_of hb
theorem aNb_no {x : (Nat → Int32) ⊕ (Nat → Int64) ⊕ (Nat → UInt32) ⊕ (Nat → UInt64) ⊕ (Nat → Option Nat)} (hno : bIx K bs = none) (hb : h bs = some (.inl (2, cap, x))) : aNb K h bs = some (i3 cap) := by
  unfold aNb
  rw [hno]
  exact aN_of hb
theorem fits_128 : ∀ m : Fin 128, fits .byte (.int (i3 m.val)) = true := by decide +kernel
theorem nar_128 : ∀ m : Fin 128, vp_nar .byte (i2b_ (i3 m.val)) = i3 m.val := by decide +kernel
theorem c255_128 : ∀ m : Fin 128, vp_nar .char (vp_nar .char (i2c_ (i3 m.val &&& 255))) = i3 m.val := by decide +kernel
theorem shr0 (x : Int32) : x >>> ((0 : Int32) &&& 31) = x := by
  rw [show ((0 : Int32) &&& 31) = 0 from by decide]
  simp
theorem shl0 (x : Int32) : x <<< ((0 : Int32) &&& 31) = x := by
  rw [show ((0 : Int32) &&& 31) = 0 from by decide]
  simp
/-- room for one sign more -/
theorem SB_room (hK : KN K h) (hKb : ∀ i, i < 500 → K i < r.1) (hf : FR h r.1) (hs : h sb = some (.inr (11, [.ref bs, .int 0, .int ml, .int (i3 c)]))) (hb : h bs = some (.inl (2, cap, .inl g))) (hg : ∀ i, ∃ m, m < 128 ∧ g i = i3 m) (hc : c ≤ cap) (hcap : cap ≤ 2 * c + 16) (hcl : c < 1000) (h1 : 1 ≤ r.2.1) (h2 : 2 * c + 2 ≤ r.2.2) :
    ∃ (bs' : Nat) (h' : CH) (r' : CR) (cap' : Nat) (g' : Nat → Int32), CJ13_ensureCapacityInternal K h r sb (i3 c + 1) = some (h', r') ∧ h' sb = some (.inr (11, [.ref bs', .int 0, .int ml, .int (i3 c)])) ∧ h' bs' = some (.inl (2, cap', .inl g')) ∧ (∀ i, ∃ m, m < 128 ∧ g' i = i3 m) ∧ c + 1 ≤ cap' ∧ cap' ≤ 2 * (c + 1) + 16 ∧ (∀ i, i < c → g' i = g i) ∧ ((bs' = bs ∧ r' = r) ∨ (bs' = r.1 ∧ r'.1 = r.1 + 1)) ∧ (∀ p, p ≠ sb → p ≠ bs' → h' p = h p) ∧ FR h' r'.1 ∧ r'.2.1 ≤ r.2.1 ∧ r'.2.2 ≤ r.2.2 ∧ r.2.1 ≤ r'.2.1 + 1 ∧ r.2.2 ≤ r'.2.2 + (2 * c + 2) := by
  have hsne : sb ≠ r.1 := fun x => by rw [x, hf r.1 (Nat.le_refl _)] at hs; cases hs
  have hbne : bs ≠ r.1 := fun x => by rw [x, hf r.1 (Nat.le_refl _)] at hb; cases hb
  have hsb : sb ≠ bs := fun x => by rw [x, hb] at hs; cases hs
  have hlt : sb < r.1 := by
    apply Classical.byContradiction
    intro y
    rw [hf sb (by omega)] at hs
    cases hs
  unfold CJ13_ensureCapacityInternal
  rw [gR_of hs (k := 0) rfl, Option.bind_some, aNb_of hK hb, Option.bind_some, gI_of hs (k := 1) rfl, Option.bind_some, shr0, i3_succ]
  by_cases e : c + 1 ≤ cap
  · rw [if_pos ((i3_sub_le (by omega) (by omega)).mpr e)]
    exact ⟨bs, h, r, cap, g, rfl, hs, hb, hg, e, by omega, fun _ _ => rfl, .inl ⟨rfl, rfl⟩, fun _ _ _ => rfl, hf, Nat.le_refl _, Nat.le_refl _, by omega, by omega⟩
  · have ec : cap = c := by omega
    subst ec
    rw [if_neg (fun x => e ((i3_sub_le (by omega) (by omega)).mp x)), Option.bind_some, vc_of hs]
    have e31 : (2 : Int32) <<< ((0 : Int32) &&& 31) = i3 2 := by decide
    have enl : CJ15_newLength (i3 cap) (i3 (cap + 1) - i3 cap) (i3 cap + i3 2) = some (i3 (2 * cap + 2)) := by
      unfold CJ15_newLength
      rw [i3_sub (by omega), i3_add, i3_max (by omega) (by omega), i3_add, if_pos (show (0 : Int32) < _ from (i3_lt (a := 0) (by decide) (by omega)).mpr (by omega)), if_pos ((i3_lel (c := 2147483639) (n := 2147483639) rfl (by omega) (by decide)).mpr (by omega))]
      congr 2
      omega
    have hne7 : ¬ i3 (2 * cap + 2) = 2147483647 := i3_nl (x := 2147483647) (c := 2147483647) rfl (by omega) (by decide) (by omega)
    have enc : CJ13_newCapacity K h sb (i3 (cap + 1)) = some (i3 (2 * cap + 2)) := by
      unfold CJ13_newCapacity
      rw [gR_of hs (k := 0) rfl, Option.bind_some, aNb_of hK hb, Option.bind_some, gI_of hs (k := 1) rfl, Option.bind_some, Option.bind_some, shl0, e31, enl, Option.bind_some, if_neg hne7, Option.bind_some, shr0]
    have hb2 : hup h r.1 (.inl (2, 2 * cap + 2, .inl (fun _ => 0))) bs = some (.inl (2, cap, .inl g)) := by rw [hup_n hbne]; exact hb
    have hK2 : KN K (hup h r.1 (.inl (2, 2 * cap + 2, .inl (fun _ => 0)))) := KN_up hK (KN_new hKb)
    have ecp : cpB (hup h r.1 (.inl (2, 2 * cap + 2, .inl (fun _ => 0)))) bs 0 r.1 0 (i3 cap) = some (hup h r.1 (.inl (2, 2 * cap + 2, .inl (va_cpy g (fun _ => 0) 0 0 cap)))) := by
      unfold cpB
      rw [hb2, hup_s]
      dsimp only
      have hmin : (i3 cap).toNatClampNeg = cap := i3_nat (by omega)
      have hall : ((List.range (i3 cap).toNatClampNeg).all fun i => fits .byte (.int (g ((0 : Int32).toNatClampNeg + i)))) = true := by
        apply List.all_eq_true.mpr
        intro i hi
        obtain ⟨m, m1, m2⟩ := hg ((0 : Int32).toNatClampNeg + i)
        rw [m2]
        exact fits_128 ⟨m, m1⟩
      rw [if_pos ⟨rfl, rfl, by decide, by decide, i3_nn (by omega), by rw [hmin]; show 0 + cap ≤ cap; omega, by rw [hmin]; show 0 + cap ≤ 2 * cap + 2; omega, hall⟩, hmin, hup_hup]
      rfl
    have ecy : CJ16_copyOf_3 K h r bs (i3 (2 * cap + 2)) = some (r.1, (hup h r.1 (.inl (2, 2 * cap + 2, .inl (va_cpy g (fun _ => 0) 0 0 cap))), r.1 + 1, r.2.1 - 1, r.2.2 - (2 * cap + 2))) := by
      unfold CJ16_copyOf_3
      rw [aNb_of hK hb, Option.bind_some, if_neg (fun x => by have := (i3_inj (by omega) (by omega)).mp x; omega), aArr_of h1 (by omega) (by omega), Option.bind_some, aNb_of hK2 hb2, Option.bind_some, i3_min (by omega) (by omega), Nat.min_eq_left (by omega), ecp, Option.bind_some]
    have hs2 : hup h r.1 (.inl (2, 2 * cap + 2, .inl (va_cpy g (fun _ => 0) 0 0 cap))) sb = some (.inr (11, [.ref bs, .int 0, .int ml, .int (i3 cap)])) := by rw [hup_n hsne]; exact hs
    rw [enc, Option.bind_some, Option.bind_some, shl0, achk_of ecy (Nat.sub_le _ _) (Nat.sub_le _ _), Option.bind_some]
    dsimp only
    rw [pQ_of hs2 (show 0 < 4 by decide), Option.bind_some]
    refine ⟨r.1, _, _, 2 * cap + 2, va_cpy g (fun _ => 0) 0 0 cap, rfl, hup_s, by rw [hup_n (Ne.symm hsne), hup_s], fun i => ?_, by omega, by omega, fun i hi => ?_, .inr ⟨rfl, rfl⟩, fun p p1 p2 => by rw [hup_n p1, hup_n p2], FR_set (FR_up hf) (by show sb < r.1 + 1; omega), Nat.sub_le _ _, Nat.sub_le _ _, by dsimp only; omega, by dsimp only; omega⟩
    · unfold va_cpy
      split
      · exact hg _
      · exact ⟨0, by decide, rfl⟩
    · unfold va_cpy
      rw [if_pos ⟨Nat.zero_le _, by omega⟩]
      congr 1
      omega
/-- a sign is added -/
theorem SB_add (hK : KN K h) (hKb : ∀ i, i < 500 → K i < r.1) (hf : FR h r.1) (hs : h sb = some (.inr (11, [.ref bs, .int 0, .int ml, .int (i3 c)]))) (hb : h bs = some (.inl (2, cap, .inl g))) (hg : ∀ i, ∃ m, m < 128 ∧ g i = i3 m) (hc : c ≤ cap) (hcap : cap ≤ 2 * c + 16) (hcl : c < 1000) (hch : ch < 128) (h1 : 1 ≤ r.2.1) (h2 : 2 * c + 2 ≤ r.2.2) :
    ∃ (bs' : Nat) (h' : CH) (r' : CR) (cap' : Nat) (g' : Nat → Int32), vc h sb 11 (achk r (CJ14_append K h r sb (i3 ch))) = some (sb, (h', r')) ∧ h' sb = some (.inr (11, [.ref bs', .int 0, .int ml, .int (i3 (c + 1))])) ∧ h' bs' = some (.inl (2, cap', .inl g')) ∧ (∀ i, ∃ m, m < 128 ∧ g' i = i3 m) ∧ c + 1 ≤ cap' ∧ cap' ≤ 2 * (c + 1) + 16 ∧ (∀ i, i < c → g' i = g i) ∧ g' c = i3 ch ∧ ((bs' = bs ∧ r' = r) ∨ (bs' = r.1 ∧ r'.1 = r.1 + 1)) ∧ (∀ p, p ≠ sb → p ≠ bs' → h' p = h p) ∧ FR h' r'.1 ∧ r'.2.1 ≤ r.2.1 ∧ r'.2.2 ≤ r.2.2 ∧ r.2.1 ≤ r'.2.1 + 1 ∧ r.2.2 ≤ r'.2.2 + (2 * c + 2) := by
  obtain ⟨bs', h1', r', cap', g', q1, q2, q3, q4, q5, q6, q7, q8, q9, q10, q11, q12, q13, q14⟩ := SB_room hK hKb hf hs hb hg hc hcap hcl h1 h2
  have hsb : bs' ≠ sb := fun x => by rw [x, q2] at q3; cases q3
  have hlt : sb < r'.1 := by
    apply Classical.byContradiction
    intro y
    rw [q10 sb (by omega)] at q2
    cases q2
  have hlt2 : bs' < r'.1 := Nat.lt_of_not_le (fun y => by
    rw [q10 bs' y] at q3
    cases q3)
  have hin : CJ13_append K h r sb (i3 ch) = some (sb, (hup (hup h1' sb (.inr (11, [.ref bs', .int 0, .int ml, .int (i3 (c + 1))]))) bs' (.inl (2, cap', .inl (upd g' c (i3 ch)))), r')) := by
    unfold CJ13_append
    rw [gI_of hs (k := 3) rfl, Option.bind_some, vc_of hs, achv_of q1 q11 q12, Option.bind_some]
    dsimp only
    rw [vc_of q2]
    unfold CJ13_isLatin1 CJ9_canEncode_2
    rw [if_neg (show ¬ (1 : Int32) = 0 by decide), gI_of q2 (k := 1) rfl, Option.bind_some, if_pos rfl, Option.bind_some, if_neg (show ¬ (1 : Int32) = 0 by decide), if_pos ((i3_lel (c := 255) (n := 255) rfl (by omega) (by decide)).mpr (by omega)), Option.bind_some, if_neg (show ¬ (1 : Int32) = 0 by decide), gR_of q2 (k := 0) rfl, Option.bind_some, gI_of q2 (k := 3) rfl, Option.bind_some, pI_of q2 (show 3 < 4 by decide), Option.bind_some, nar_128 ⟨ch, hch⟩, i3_succ]
    rw [sI_of (show hup h1' sb _ bs' = _ by rw [hup_n hsb]; exact q3) (by omega) (by omega), Option.bind_some]
    rfl
  refine ⟨bs', _, r', cap', upd g' c (i3 ch), ?_, by rw [hup_n (Ne.symm hsb), hup_s], hup_s, fun i => ?_, q5, q6, fun i hi => by rw [upd_n (by omega)]; exact q7 i hi, upd_e, q8, fun p p1 p2 => by rw [hup_n p2, hup_n p1]; exact q9 p p1 p2, FR_set (FR_set q10 hlt) hlt2, q11, q12, q13, q14⟩
  · rw [vc_of hs]
    have e14 : CJ14_append K h r sb (i3 ch) = some (sb, (hup (hup h1' sb (.inr (11, [.ref bs', .int 0, .int ml, .int (i3 (c + 1))]))) bs' (.inl (2, cap', .inl (upd g' c (i3 ch)))), r')) := by
      unfold CJ14_append
      rw [vc_of hs, achk_of hin q11 q12, Option.bind_some]
    exact achk_of e14 q11 q12
  · by_cases ei : i = c
    · subst ei
      exact ⟨ch, hch, upd_e⟩
    · rw [upd_n ei]
      exact q4 i
/-- a sign is read -/
theorem SB_at {i m : Nat} (hno : bIx K bs = none) (hs : h sb = some (.inr (11, [.ref bs, .int 0, .int ml, .int (i3 c)]))) (hb : h bs = some (.inl (2, cap, .inl g))) (hc : c ≤ cap) (hcap : cap < 2 ^ 20) (hi : i < c) (hm : m < 128) (hg : g i = i3 m) : vc h sb 11 (CJ14_charAt K h sb (i3 i)) = some (i3 m) := by
  rw [vc_of hs]
  unfold CJ14_charAt
  rw [vc_of hs]
  unfold CJ13_charAt CJ8_checkIndex CJ11_checkIndex
  rw [gI_of hs (k := 1) rfl, Option.bind_some, gR_of hs (k := 0) rfl, Option.bind_some, gI_of hs (k := 3) rfl, Option.bind_some, aNb_no hno hb, Option.bind_some, shr0, i3_min (by omega) (by omega), if_neg (i3_nn (by omega)), if_pos ((i3_lt (by omega) (by omega)).mpr (by omega)), Option.bind_some, Option.bind_some, if_pos rfl]
  unfold aIb
  rw [hno]
  dsimp only
  rw [aI_of hb (by omega) (by omega), Option.bind_some, Option.bind_some, hg, c255_128 ⟨m, hm⟩]
end SBS
