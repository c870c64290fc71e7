/-! ===== row ===== -/
section ROWO
variable {K : Nat → Nat} {h hc hc' h' : CH} {r r' : CR} {o N n n' : Nat} {σ τ τ' : MS} {S : ST} {w : SV} {P : PO} {f : CH} {B : Nat → Nat} {sT aT hT : Option Nat} {seed : Int32} {ea eh : Nat → Nat}
def lsC (k : Nat) : Int32 := if k = 9 then -1 else i3 k
def cnd (P : PO) (w : SV) (s k j : Nat) : Bool := fol P w s k j && decide (1 + Ex P w (s ||| 2 ^ j) j = Ex P w s k)
def bsf (P : PO) (w : SV) (s k : Nat) : Nat → Int32
  | 0 => -1
  | i + 1 => if cnd P w s k (pN P - 1 - i) = true then i3 (pN P - 1 - i) else bsf P w s k i
theorem bsf_ex {s k : Nat} : ∀ m, m ≤ pN P → (∃ j, pN P - m ≤ j ∧ j < pN P ∧ cnd P w s k j = true) → ∃ j, j < pN P ∧ cnd P w s k j = true ∧ bsf P w s k m = i3 j := by
  intro m
  induction m with
  | zero => rintro _ ⟨j, h1, h2, _⟩; omega
  | succ m ih =>
    rintro hm ⟨j, h1, h2, h3⟩
    unfold bsf
    by_cases e : cnd P w s k (pN P - 1 - m) = true
    · rw [if_pos e]
      exact ⟨_, by omega, e, rfl⟩
    · rw [if_neg e]
      refine ih (by omega) ⟨j, ?_, h2, h3⟩
      by_cases ej : j = pN P - 1 - m
      · rw [ej] at h3; exact absurd h3 e
      · omega
theorem cnd_ex (hN : pN P ≤ 9) {s k : Nat} (h : Ex P w s k ≠ 0) : ∃ j, j < pN P ∧ cnd P w s k j = true := by
  rcases mxf_ex (f := exf P w s k) (pN P) with q | ⟨j, j1, j2⟩
  · exact absurd ((Ex_eq hN s k).trans q) h
  · refine ⟨j, j1, ?_⟩
    have e1 : exf P w s k j = Ex P w s k := j2.trans (Ex_eq hN s k).symm
    rw [← e1] at h
    unfold cnd
    cases e : fol P w s k j
    · exfalso
      apply h
      unfold exf
      rw [e, if_neg (by decide)]
    · have e2 : exf P w s k j = 1 + Ex P w (s ||| 2 ^ j) j := by
        unfold exf
        rw [if_pos e]
      rw [← e1, e2, decide_eq_true rfl]
      rfl
theorem neg_lt {x : Int32} (h : x < 0) (h2 : x ≠ -1) : x < -1 := by
  rw [Int32.lt_iff_toInt_lt] at h ⊢
  have h3 : (0 : Int32).toInt = 0 := rfl
  have h4 : (-1 : Int32).toInt = -1 := by decide
  rw [h3] at h
  rw [h4]
  have h5 : x.toInt ≠ -1 := fun e => h2 (Int32.toInt_inj.mp (e.trans h4.symm))
  omega
theorem nn_m1 {x : Int32} (h : ¬ x < 0) : ¬ x < -1 := by
  rw [Int32.lt_iff_toInt_lt] at h ⊢
  have h3 : (0 : Int32).toInt = 0 := rfl
  have h4 : (-1 : Int32).toInt = -1 := by decide
  rw [h3] at h
  rw [h4]
  omega
theorem RM_50 (hZ : WFZ S) (h : RM σ S) (e1 : τ.1 = σ.1) (e2 : ∀ j, j ≠ 50 → ma τ j = ma σ j) : RM τ S :=
  RM_gx hZ ⟨fun k _ _ => by unfold mf; rw [e1], fun j _ _ _ a _ _ => e2 j a, fun i _ => by rw [e2 44 (by decide)]⟩ h
theorem down1 {m i : Nat} (hi : i < m) (hm : m < 100) : i3 (m - i) - 1 = i3 (m - 1 - i) ∧ ¬ (i3 (m - i) - 1 < 0) ∧ i3 (m - i) - 1 + -1 = i3 (m - (i + 1)) - 1 := by
  have e : i3 (m - i) - 1 = i3 (m - 1 - i) := by
    rw [show i3 (m - i) - 1 = i3 (m - i - 1) from i3_sub (b := 1) (by omega)]
    congr 1
    omega
  refine ⟨e, by rw [e]; exact i3_nn (by omega), ?_⟩
  rw [show m - (i + 1) = m - 1 - i by omega, e]
  exact (Int32.sub_eq_add_neg _ 1).symm
theorem C_row_step {q5 : Nat × CS} {q11 : CS} {s k i : Nat} (hv : CSV K q11.1 o (B 18) (B 1) f (zP S) (B 2) (fun i => B (3 + i)) (zw S)) (hs2 : gR q11.1 o 1 2 = some (B 2)) (hG : GP (pN (zP S)) h q5.1 q11.1 (Tg (zP S) (zw S))) (hs : s < 2 ^ pN (zP S)) (hk : k < pN (zP S) ∨ k = 9) : o_loop (C1_row_L126 o q5 q11 (i3 s, lsC k, i3 (Ex (zP S) (zw S) s k), i3 i)) (-1, i3 (pN (zP S)) - 1) = some (.inl (bsf (zP S) (zw S) s k (pN (zP S)))) := by
  have hN := hv.1.1.1
  have hp9 : 2 ^ pN (zP S) ≤ 2 ^ 9 := Nat.pow_le_pow_right (by decide) hN
  refine o_for0 (fun m => (bsf (zP S) (zw S) s k m, i3 (pN (zP S) - m) - 1)) (pN (zP S)) rfl (fun m hm => ?_) ?_
  · obtain ⟨d1, d2, d3⟩ := down1 (m := pN (zP S)) hm (by omega)
    have hj : pN (zP S) - 1 - m < pN (zP S) := by omega
    unfold C1_row_L126
    dsimp only
    rw [if_neg d2, d3, d1]
    generalize hjj : pN (zP S) - 1 - m = j at hj
    have hfol : (if bI (bnt (zw S) j) = 0 then (C1_isOf (i3 s) (i3 j)).bind fun q31 => if q31 = 0 then if lsC k = -1 then some (.inl 1) else (gR q11.1 o 1 2).bind fun v34 => (vc q11.1 v34 3 (C3_fits q11.1 v34 (lsC k) (i3 j))).bind fun q35 => if q35 = 0 then some (.inl 0) else some (.inl 1) else some (.inl 0) else some (.inl 0) : Option (Int32 ⊕ XT)) = some (.inl (bI (fol (zP S) (zw S) s k j))) := by
      unfold fol
      cases bnt (zw S) j
      · rw [if_pos bI_f, C1_isOf_eq (by omega) (by omega), Option.bind_some]
        cases s.testBit j
        · rw [if_pos bI_f]
          by_cases e9 : k = 9
          · rw [if_pos (show lsC k = -1 by unfold lsC; rw [if_pos e9]), decide_eq_true e9]
            rfl
          · have hk9 : k < pN (zP S) := by omega
            rw [show lsC k = i3 k by unfold lsC; rw [if_neg e9], if_neg (i3_m1 (by omega)), hs2, Option.bind_some, sv_vc hv, C3_fits_eq hv hk9 hj, Option.bind_some, decide_eq_false e9]
            cases fit (zP S) (zw S) k j
            · rw [if_pos bI_f]; rfl
            · rw [if_neg bI_t0]; rfl
        · rw [if_neg bI_t0]; rfl
      · rw [if_neg bI_t0]
        cases s.testBit j <;> rfl
    rw [hs2, Option.bind_some, sv_vc hv, C3_isBurnt_eq hv hj, Option.bind_some]
    rw [hs2] at hfol
    rw [hfol, xg_l]
    show _ = some (Sum.inl (if cnd (zP S) (zw S) s k (pN (zP S) - 1 - m) = true then i3 (pN (zP S) - 1 - m) else bsf (zP S) (zw S) s k m, i3 (pN (zP S) - (m + 1)) - 1))
    rw [hjj]
    unfold cnd
    cases ef : fol (zP S) (zw S) s k j
    · rw [if_pos bI_f, xg_l, Bool.false_and, if_neg (by decide)]
    · have hup2 := or_up (j := j) hs hj
      have e2 := GP_get hG hN hj hup2
      have hE := Ex_le (P := zP S) (w := zw S) (s ||| 2 ^ j) j
      have hE2 := Ex_le (P := zP S) (w := zw S) s k
      have eT : Tg (zP S) (zw S) j (s ||| 2 ^ j) = Ex (zP S) (zw S) (s ||| 2 ^ j) j := by
        unfold Tg
        rw [if_pos (by rw [or_b, decide_eq_true rfl, Bool.or_true])]
      rw [if_neg bI_t0, GP_q hG hN hj, Option.bind_some, Option.bind_some, i3_orb s (by omega), e2, eT, Option.bind_some, show (1 : Int32) + i3 (Ex (zP S) (zw S) (s ||| 2 ^ j) j) = i3 (1 + Ex (zP S) (zw S) (s ||| 2 ^ j) j) from i3_add 1 _, Bool.true_and]
      by_cases e3 : 1 + Ex (zP S) (zw S) (s ||| 2 ^ j) j = Ex (zP S) (zw S) s k
      · rw [if_pos (by rw [e3]), xg_l, decide_eq_true e3, if_pos rfl]
      · rw [if_neg (fun x => e3 ((i3_inj (by omega) (by omega)).mp x)), xg_l, decide_eq_false e3, if_neg (by decide)]
  · unfold C1_row_L126
    dsimp only
    rw [Nat.sub_self, if_pos (by decide)]
theorem M_row_step {q7 : Int32 × MS} {s k : Nat} {i : Int32} (mv : MV q7.2 0 P w) (ht : ∀ s k, s < 2 ^ pN P → k ≤ 9 → ma q7.2 50 (10 * s + k) = i3 (tbl P w s k)) (hs : s < 2 ^ pN P) (hk : k < pN P ∨ k = 9) (hsk : (k < 9 ∧ s.testBit k = true) ∨ (s = 0 ∧ k = 9)) : o_loop (M_row_L150 q7 (i3 s, i3 k, i)) (-1, i3 (pN P) - 1) = some (bsf P w s k (pN P)) := by
  have hN := mv.1.1
  have hp9 : 2 ^ pN P ≤ 2 ^ 9 := Nat.pow_le_pow_right (by decide) hN
  refine o_for0 (fun m => (bsf P w s k m, i3 (pN P - m) - 1)) (pN P) rfl (fun m hm => ?_) ?_
  · obtain ⟨d1, d2, d3⟩ := down1 (m := pN P) hm (by omega)
    have hj : pN P - 1 - m < pN P := by omega
    unfold M_row_L150
    dsimp only
    rw [if_neg d2, d3, d1, M_canFollow_eq mv (by omega) hk hj, Option.bind_some]
    show _ = some (Sum.inl (if cnd P w s k (pN P - 1 - m) = true then i3 (pN P - 1 - m) else bsf P w s k m, i3 (pN P - (m + 1)) - 1))
    generalize pN P - 1 - m = j at hj
    unfold cnd
    cases ef : fol P w s k j
    · rw [if_pos bI_f, Option.bind_some, Bool.false_and, if_neg (by decide)]
    · have hup2 := or_up (j := j) hs hj
      have hE := Ex_le (P := P) (w := w) (s ||| 2 ^ j) j
      have hE2 := Ex_le (P := P) (w := w) s k
      have eT : tbl P w (s ||| 2 ^ j) j = Ex P w (s ||| 2 ^ j) j := by
        unfold tbl
        rw [if_pos (.inl ⟨by omega, by rw [or_b, decide_eq_true rfl, Bool.or_true]⟩)]
      have eT2 : tbl P w s k = Ex P w s k := by unfold tbl; rw [if_pos hsk]
      rw [if_neg bI_t0, i3_orb s (by omega), show (10 : Int32) * i3 (s ||| 2 ^ j) = i3 (10 * (s ||| 2 ^ j)) from i3_mul 10 _, i3_add, ald_i3 (j := 50) (show 10 * (s ||| 2 ^ j) + j < 5120 by omega), Option.bind_some, show (10 : Int32) * i3 s = i3 (10 * s) from i3_mul 10 _, i3_add, ald_i3 (j := 50) (show 10 * s + k < 5120 by omega), Option.bind_some, ht _ _ hup2 (by omega), ht _ _ hs (by omega), eT, eT2, show (1 : Int32) + i3 (Ex P w (s ||| 2 ^ j) j) = i3 (1 + Ex P w (s ||| 2 ^ j) j) from i3_add 1 _, Bool.true_and]
      by_cases e3 : 1 + Ex P w (s ||| 2 ^ j) j = Ex P w s k
      · rw [if_pos (by rw [e3]), Option.bind_some, decide_eq_true e3, if_pos rfl]
      · rw [if_neg (fun x => e3 ((i3_inj (by omega) (by omega)).mp x)), Option.bind_some, decide_eq_false e3, if_neg (by decide)]
  · unfold M_row_L150
    dsimp only
    rw [Nat.sub_self, if_pos (by decide)]
theorem C_row_max {q5 : Nat × CS} (hv : CSV K q5.2.1 o (B 18) (B 1) f (zP S) (B 2) (fun i => B (3 + i)) (zw S)) (hs2 : gR q5.2.1 o 1 2 = some (B 2)) (hG : GP (pN (zP S)) h q5.1 q5.2.1 (Tg (zP S) (zw S))) : o_loop (C1_row_L33 o q5) (0, 0) = some (.inl (i3 (Ex (zP S) (zw S) 0 9))) := by
  have hN := hv.1.1.1
  rw [Ex_eq hN]
  refine o_for0 (fun j => (i3 (mxf (exf (zP S) (zw S) 0 9) j), i3 j)) (pN (zP S)) rfl (fun j hj => ?_) ?_
  · unfold C1_row_L33
    dsimp only
    have hmx : mxf (exf (zP S) (zw S) 0 9) j ≤ 10 := mxf_le _ (fun i hi => by
      unfold exf
      have := Ex_le (P := zP S) (w := zw S) (0 ||| 2 ^ i) i
      split <;> omega)
    have hp0 : (0 : Nat) < 2 ^ pN (zP S) := Nat.two_pow_pos _
    have hup2 := or_up (j := j) hp0 hj
    have e2 := GP_get hG hN hj hup2
    have hE := Ex_le (P := zP S) (w := zw S) (0 ||| 2 ^ j) j
    have eT : Tg (zP S) (zw S) j (0 ||| 2 ^ j) = Ex (zP S) (zw S) (0 ||| 2 ^ j) j := by
      unfold Tg
      rw [if_pos (by rw [or_b, decide_eq_true rfl, Bool.or_true])]
    rw [eT] at e2
    have e1 : (1 : Int32) <<< (i3 j &&& 31) = i3 (0 ||| 2 ^ j) := by rw [i3_shl (by omega), Nat.zero_or]
    have ef : fol (zP S) (zw S) 0 9 j = !bnt (zw S) j := by
      unfold fol
      rw [Nat.zero_testBit, decide_eq_true rfl]
      cases bnt (zw S) j <;> rfl
    rw [cx_1 hv.1, Option.bind_some, cx_n hv.1, Option.bind_some, if_pos ((i3_lt (by omega) (by omega)).mpr hj), hs2, Option.bind_some, sv_vc hv, C3_isBurnt_eq hv hj, Option.bind_some, i3_succ]
    show _ = some (Sum.inl (i3 (max (mxf (exf (zP S) (zw S) 0 9) j) (if fol (zP S) (zw S) 0 9 j = true then 1 + Ex (zP S) (zw S) (0 ||| 2 ^ j) j else 0)), i3 (j + 1)))
    rw [ef]
    cases bnt (zw S) j
    · rw [if_pos bI_f, GP_q hG hN hj, Option.bind_some, Option.bind_some, e1, e2, Option.bind_some, show (1 : Int32) + i3 (Ex (zP S) (zw S) (0 ||| 2 ^ j) j) = i3 (1 + Ex (zP S) (zw S) (0 ||| 2 ^ j) j) from i3_add 1 _, i3_max (by omega) (by omega), xg_l, if_pos (show (!false) = true from rfl)]
    · rw [if_neg bI_t0, xg_l, if_neg (show ¬ (!true) = true by decide), Nat.max_eq_left (Nat.zero_le _)]
  · unfold C1_row_L33
    dsimp only
    rw [cx_1 hv.1, Option.bind_some, cx_n hv.1, Option.bind_some, if_neg (fun x => absurd ((i3_lt (by omega) (by omega)).mp x) (by omega))]
theorem op_row (hS : RS K o (h, r) σ (N + 1)) (a0 : Int32) : ∃ z v σ', C1_row h r o a0 = some z ∧ M_row σ a0 = some (v, σ') ∧ JN K o r N true 0 z v σ' := by
  obtain ⟨S, ⟨f, B, sT, aT, hT, seed, ea, eh, hp⟩, hM, hr1, hr2⟩ := hS
  dsimp only at hp hr1 hr2
  have hZ := RCp_Z hp
  obtain ⟨hv, hs, ht, hF, hacts, hheard, hrf⟩ := RD_of hp
  have hM1 : RM (sf σ 0 0) S := RM_gx hZ (Gx_sf (.inl rfl)) hM
  have h0 : mf (sf σ 0 0) 0 = 0 := mf_sf0
  unfold C1_row M_row
  rw [show pf σ 0 0 = some (sf σ 0 0) from rfl, Option.bind_some]
  generalize sf σ 0 0 = s1 at hM1 h0
  have mv := RM_MV hZ hM1
  have hN := hZ.1.1
  have hMM := hZ.1.2.1
  have hQ := hZ.1.2.2.1
  have hp9 : 2 ^ pN (zP S) ≤ 2 ^ 9 := Nat.pow_le_pow_right (by decide) hN
  have hmul : pN (zP S) * 2 ^ pN (zP S) ≤ 9 * 512 := Nat.mul_le_mul hN hp9
  obtain ⟨τ, b1, b2, b3, b4⟩ := M_rowT_eq mv
  have hMτ : RM τ S := RM_50 hZ hM1 b2 b3
  have h0τ : mf τ 0 = 0 := by unfold mf; rw [b2]; exact h0
  have mvτ := RM_MV hZ hMτ
  have hE9 := Ex_le (P := zP S) (w := zw S) 0 9
  have h50 : ald τ 50 9 = some (i3 (Ex (zP S) (zw S) 0 9)) := by
    rw [show (9 : Int32) = i3 9 from rfl, ald_i3 (j := 50) (show 9 < 5120 by decide)]
    have := b4 0 9 (Nat.two_pow_pos _) (by decide)
    rw [show 10 * 0 + 9 = 9 from rfl] at this
    rw [this]
    unfold tbl
    rw [if_pos (.inr ⟨rfl, rfl⟩)]
  rw [b1, Option.bind_some, h50, Option.bind_some, cx_1 hv.1, Option.bind_some, cx_n hv.1, Option.bind_some]
  have hthr : ∀ {h1 : CH} {r1 : CR}, RCp K h1 r1.1 o S f B sT aT hT seed ea eh → 2300 * N + 100 * zt S + 1 ≤ r1.2.1 → 90000 * N + 3000 * zt S + 6 ≤ r1.2.2 → r1.2.1 ≤ r.2.1 → r1.2.2 ≤ r.2.2 → ∀ v, JN K o r N true 0 (.inr (tE 0 h1 r1)) v (sf τ 0 1) := by
    intro h1 r1 hp1 q1 q2 q3 q4 v
    refine ⟨.inl ⟨rfl, rfl, mf_sf0⟩, ⟨S, ⟨f, B, sT, aT, hT, seed, ea, eh, RC_grow hp1 (hB_refl _ h1) (fun q hq => RCp_FR hp1 q (Nat.le_of_succ_le hq)) (Nat.le_succ _)⟩, RM_gx hZ (Gx_sf (.inl rfl)) hMτ, ?_, ?_⟩, ?_, ?_⟩
    · show 2300 * N + 100 * zt S ≤ r1.2.1 - 1
      omega
    · show 90000 * N + 3000 * zt S ≤ r1.2.2 - 6
      omega
    · show r1.2.1 - 1 ≤ r.2.1
      omega
    · show r1.2.2 - 6 ≤ r.2.2
      omega
  obtain ⟨hg, g1, g2⟩ := C1_rows_eq hp (by omega) (by omega)
  have hpg : RCp K hg (r.1 + 1 + pN (zP S)) o S f B sT aT hT seed ea eh := GP_R hp g2
  obtain ⟨hvg, hsg, _⟩ := RD_of hpg
  have hmax := C_row_max (q5 := (r.1, (hg, (r.1 + 1 + pN (zP S), r.2.1 - (1 + pN (zP S)), r.2.2 - (pN (zP S) + pN (zP S) * 2 ^ pN (zP S)))))) hvg hsg g2
  have hend : ∀ x : Int32, JN K o r N true 0 (.inl (x, (hg, (r.1 + 1 + pN (zP S), r.2.1 - (1 + pN (zP S)), r.2.2 - (pN (zP S) + pN (zP S) * 2 ^ pN (zP S)))))) x τ := fun x => JN_in ⟨f, B, sT, aT, hT, seed, ea, eh, hpg⟩ hMτ h0τ (show 2300 * N + 100 * zt S ≤ r.2.1 - (1 + pN (zP S)) by omega) (show 90000 * N + 3000 * zt S ≤ r.2.2 - (pN (zP S) + pN (zP S) * 2 ^ pN (zP S)) by omega) (Nat.sub_le _ _) (Nat.sub_le _ _)
  by_cases eN : a0 < 0
  · by_cases e1 : a0 = -1
    · subst e1
      have c1 : C1_in (-1) (-1) (i3 (pN (zP S)) - 1) = some 1 := by
        unfold C1_in
        have hle : (-1 : Int32) ≤ i3 (pN (zP S)) - 1 := by
          have key : ∀ a : Fin 10, (-1 : Int32) ≤ i3 a.val - 1 := by decide +kernel
          exact key ⟨pN (zP S), by omega⟩
        rw [if_neg (by decide), if_pos hle]
      have hlt : (-1 : Int32) < i3 (Ex (zP S) (zw S) 0 9) := by
        have key : ∀ a : Fin 10, (-1 : Int32) < i3 a.val := by decide +kernel
        exact key ⟨Ex (zP S) (zw S) 0 9, by omega⟩
      rw [c1, Option.bind_some, found_ok, xchv_ok, xg_l]
      dsimp only
      rw [g1, Option.bind_some, hmax, xg_l, if_pos rfl, if_neg (by decide), if_pos hlt, Option.bind_some, M_right_o1 h0τ, Option.bind_some, if_neg (show ¬ ((1 : Int32), τ).1 = 0 from i_ne10), if_pos rfl]
      exact ⟨_, _, _, rfl, rfl, hend _⟩
    · have hl := neg_lt eN e1
      have c1 : C1_in a0 (-1) (i3 (pN (zP S)) - 1) = some 0 := by
        unfold C1_in
        rw [if_pos hl]
      rw [c1, Option.bind_some, found_no (by omega) (by omega), xchv_th, xg_r, if_pos hl, Option.bind_some, M_right_n0 h0τ (by decide), Option.bind_some, if_pos (show ((0 : Int32), sf τ 0 1).1 = 0 from rfl)]
      exact ⟨_, _, _, rfl, rfl, hthr hp (by omega) (by omega) (Nat.le_refl _) (Nat.le_refl _) _⟩
  · have hn1 := nn_m1 eN
    have c1 : C1_in a0 (-1) (i3 (pN (zP S)) - 1) = some (bI (inR a0 (pN (zP S)))) := by
      rw [← C1_in_n a0 (show pN (zP S) < 2 ^ 31 by omega)]
      unfold C1_in
      rw [if_neg hn1, if_neg eN]
    have hane : ¬ a0 = -1 := fun e => by rw [e] at eN; exact eN (by decide)
    rw [c1, Option.bind_some, if_neg hn1]
    obtain ⟨k0, hk0⟩ : ∃ k0, a0 = i3 k0 := ⟨_, (i3_of eN).symm⟩
    have hk31 : a0.toNatClampNeg < 2 ^ 31 := i3_ofl a0
    cases e0 : inR a0 (pN (zP S))
    · have hge : ¬ a0 < i3 (Ex (zP S) (zw S) 0 9) := by
        intro x
        have e2 := i3_of eN
        rw [← e2] at x
        have x2 := (i3_lt hk31 (by omega)).mp x
        have : inR a0 (pN (zP S)) = true := by
          unfold inR
          exact decide_eq_true ⟨eN, by omega⟩
        rw [e0] at this
        cases this
      rw [bI_f, found_no (by omega) (by omega), xchv_th, xg_r, if_neg hge, Option.bind_some, M_right_n0 h0τ (by decide), Option.bind_some, if_pos (show ((0 : Int32), sf τ 0 1).1 = 0 from rfl)]
      exact ⟨_, _, _, rfl, rfl, hthr hp (by omega) (by omega) (Nat.le_refl _) (Nat.le_refl _) _⟩
    · obtain ⟨k, hk, rfl⟩ := inR_is e0
      rw [bI_t, found_ok, xchv_ok, xg_l]
      dsimp only
      rw [g1, Option.bind_some, hmax, xg_l, if_neg hane]
      by_cases eE : k < Ex (zP S) (zw S) 0 9
      · rw [if_pos ((i3_lt (by omega) (by omega)).mpr eE), if_pos ((i3_lt (by omega) (by omega)).mpr eE), xg_l, Option.bind_some, M_right_o1 h0τ, Option.bind_some, if_neg (show ¬ ((1 : Int32), τ).1 = 0 from i_ne10), if_neg hane, found_ok, xchv_ok, xg_l]
        obtain ⟨x1, x2, l1, l2, j, rfl, rfl⟩ := o_two (step1 := C1_row_L106 o (i3 k) (r.1, (hg, (r.1 + 1 + pN (zP S), r.2.1 - (1 + pN (zP S)), r.2.2 - (pN (zP S) + pN (zP S) * 2 ^ pN (zP S))))) (hg, (r.1 + 1 + pN (zP S), r.2.1 - (1 + pN (zP S)), r.2.2 - (pN (zP S) + pN (zP S) * 2 ^ pN (zP S))))) (step2 := M_row_L133 (i3 k) (1, τ)) (fun i (t1 : Int32 × Int32 × Int32 × Int32) (t2 : Int32 × Int32 × Int32) => ∃ s q, s < 2 ^ pN (zP S) ∧ (q < pN (zP S) ∨ q = 9) ∧ ((q < 9 ∧ s.testBit q = true) ∨ (s = 0 ∧ q = 9)) ∧ (1 ≤ i → q < 9) ∧ Ex (zP S) (zw S) s q + i = Ex (zP S) (zw S) 0 9 ∧ t1 = (i3 s, lsC q, i3 (Ex (zP S) (zw S) s q), i3 i) ∧ t2 = (i3 s, i3 q, i3 i)) (fun (x1 : (Int32 × CS) ⊕ XT) (x2 : Int32 × MS) => ∃ j : Nat, x1 = .inl (i3 j, (hg, (r.1 + 1 + pN (zP S), r.2.1 - (1 + pN (zP S)), r.2.2 - (pN (zP S) + pN (zP S) * 2 ^ pN (zP S))))) ∧ x2 = (i3 j, τ)) (k + 1) (fun i t1 t2 hi hI => by
            obtain ⟨s, q, y1, y2, y3, y4, y5, rfl, rfl⟩ := hI
            left
            have hne : Ex (zP S) (zw S) s q ≠ 0 := by omega
            obtain ⟨j, j1, j2⟩ := cnd_ex hN hne
            obtain ⟨jm, m1, m2, m3⟩ := bsf_ex (P := zP S) (w := zw S) (s := s) (k := q) (pN (zP S)) (Nat.le_refl _) ⟨j, by omega, j1, j2⟩
            unfold cnd at m2
            rw [Bool.and_eq_true] at m2
            have m5 := of_decide_eq_true m2.2
            have hEl := Ex_le (P := zP S) (w := zw S) s q
            unfold C1_row_L106 M_row_L133
            dsimp only
            rw [if_pos ((i3_le (by omega) (by omega)).mpr (show i ≤ k by omega)), if_pos ((i3_le (by omega) (by omega)).mpr (show i ≤ k by omega)), cx_1 hvg.1, Option.bind_some, cx_n hvg.1, Option.bind_some, C_row_step (q5 := (r.1, (hg, (r.1 + 1 + pN (zP S), r.2.1 - (1 + pN (zP S)), r.2.2 - (pN (zP S) + pN (zP S) * 2 ^ pN (zP S)))))) (q11 := (hg, (r.1 + 1 + pN (zP S), r.2.1 - (1 + pN (zP S)), r.2.2 - (pN (zP S) + pN (zP S) * 2 ^ pN (zP S))))) hvg hsg g2 y1 y2, xg_l, mvτ.2.1.1.1, M_row_step (q7 := (1, τ)) mvτ b4 y1 y2 y3, Option.bind_some, m3, i3_orb s (by omega), i3_succ]
            refine ⟨_, _, rfl, rfl, s ||| 2 ^ jm, jm, or_up y1 m1, .inl m1, .inl ⟨by omega, by rw [or_b, decide_eq_true rfl, Bool.or_true]⟩, fun _ => by omega, by omega, ?_, rfl⟩
            rw [show lsC jm = i3 jm by unfold lsC; rw [if_neg (by omega)], show i3 (Ex (zP S) (zw S) s q) + -1 = i3 (Ex (zP S) (zw S) (s ||| 2 ^ jm) jm) by
              rw [show i3 (Ex (zP S) (zw S) s q) + -1 = i3 (Ex (zP S) (zw S) s q) - 1 from (Int32.sub_eq_add_neg _ 1).symm, show i3 (Ex (zP S) (zw S) s q) - 1 = i3 (Ex (zP S) (zw S) s q - 1) from i3_sub (b := 1) (by omega)]
              congr 1
              omega]) (fun t1 t2 hI => by
            obtain ⟨s, q, y1, y2, y3, y4, y5, rfl, rfl⟩ := hI
            have hq9 := y4 (by omega)
            unfold C1_row_L106 M_row_L133
            dsimp only
            rw [if_neg (fun x => absurd ((i3_le (by omega) (by omega)).mp x) (by omega)), if_neg (fun x => absurd ((i3_le (by omega) (by omega)).mp x) (by omega))]
            exact ⟨_, _, rfl, rfl, q, by rw [show lsC q = i3 q by unfold lsC; rw [if_neg (by omega)]], rfl⟩) 0 (0, -1, i3 (Ex (zP S) (zw S) 0 9), 0) (0, 9, 0) (Nat.zero_le _) ⟨0, 9, Nat.two_pow_pos _, .inr rfl, .inr ⟨rfl, rfl⟩, fun x => by omega, rfl, rfl, rfl⟩
        rw [l1, l2]
        exact ⟨_, _, _, rfl, rfl, hend _⟩
      · have hnl : ¬ i3 k < i3 (Ex (zP S) (zw S) 0 9) := fun x => eE ((i3_lt (by omega) (by omega)).mp x)
        rw [if_neg hnl, if_neg hnl, xg_l, found_no (show 1 ≤ r.2.1 - (1 + pN (zP S)) by omega) (show 6 ≤ r.2.2 - (pN (zP S) + pN (zP S) * 2 ^ pN (zP S)) by omega), xchv_th, xg_r, Option.bind_some, M_right_n0 h0τ (by decide), Option.bind_some, if_pos (show ((0 : Int32), sf τ 0 1).1 = 0 from rfl)]
        exact ⟨_, _, _, rfl, rfl, hthr (r1 := (r.1 + 1 + pN (zP S), r.2.1 - (1 + pN (zP S)), r.2.2 - (pN (zP S) + pN (zP S) * 2 ^ pN (zP S)))) hpg (by dsimp only; omega) (by dsimp only; omega) (Nat.sub_le _ _) (Nat.sub_le _ _) _⟩
end ROWO
