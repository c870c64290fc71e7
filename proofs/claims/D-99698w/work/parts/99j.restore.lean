section IMG2
variable {K : Nat → Nat} {h : CH} {r : CR} {o N : Nat} {σ : MS}
theorem SX_q {n : Nat} {S : ST} {f : CH} {B : Nat → Nat} {sT aT hT : Option Nat} {seed : Int32} {ea eh : Nat → Nat} {h' : CH} (hp : RCp K h n o S f B sT aT hT seed ea eh) (hq : ∀ i, 2 ≤ i → i < 7 → h' (B i) = h (B i)) : SX h' o (zP S) (B 2) (fun i => B (3 + i)) (zw S) := by
  refine SX_eq (h := h) hp.2.1.2.2.2.1 (fun q hm => ?_)
  rcases mem_s5 hm with rfl | rfl | rfl | rfl | rfl
  · exact hq 2 (by decide) (by decide)
  · exact hq 3 (by decide) (by decide)
  · exact hq 4 (by decide) (by decide)
  · exact hq 5 (by decide) (by decide)
  · exact hq 6 (by decide) (by decide)
theorem op_image (hS : RS K o (h, r) σ (N + 1)) : ∃ z σ', C1_image K h r o = some z ∧ M_image σ = some σ' ∧ JN K o r N false 0 (.inl (0, z)) 0 σ' := by
  obtain ⟨S, ⟨f, B, sT, aT, hT, seed, ea, eh, hp⟩, hM, hr1, hr2⟩ := hS
  dsimp only at hp hr1 hr2
  have hZ := RCp_Z hp
  have hM1 : RM (sf σ 0 0) S := RM_gx hZ (Gx_sf (.inl rfl)) hM
  have h0 : mf (sf σ 0 0) 0 = 0 := mf_sf0
  unfold C1_image M_image
  rw [show pf σ 0 0 = some (sf σ 0 0) from rfl, Option.bind_some]
  generalize sf σ 0 0 = s1 at hM1 h0
  have hN := hZ.1.1
  have hMM := hZ.1.2.1
  have hA40 := hZ.2.2.1.1
  have hH8 := hZ.2.2.2.1.1
  obtain ⟨hkn, hk01, hkb, _⟩ := RCp_K hp
  have hl := (RC_o hp).2.2.1
  have hpos := RCp_pos hp
  have hRo := RC_o hp
  have hac := hp.2.2.2.1
  have hhd := hp.2.2.2.2.1
  have ho : h o = some (.inr (1, [.ref (B 1), .ref (B 18), .ref (B 2), .ref (B 7), .ref (B 12), .int (i3 (zt S)), .int (zF S), .ref (B 13), .ref (B 14), .ref (B 15), va_rf sT, va_rf aT, va_rf hT, .int seed])) := hRo.2.1
  have holt : o < r.1 := RCp_lt hp ho
  obtain ⟨g2, d2, c2, a2⟩ := SX_to hp.2.1.2.2.2.1
  have hb5 : ∀ q, q ∈ s5 (B 2) (fun i => B (3 + i)) → q < r.1 := by
    intro q hq
    rcases mem_s5 hq with rfl | rfl | rfl | rfl | rfl
    · exact hpos 2 (by decide)
    · exact hpos 3 (by decide)
    · exact hpos 4 (by decide)
    · exact hpos 5 (by decide)
    · exact hpos 6 (by decide)
  have hoka : ∀ i, i < (zA S).1 → okO h (ea i) = true := by
    intro i hi
    obtain ⟨A, g, d, q, _⟩ := hac.2 i hi
    rw [okO_of (hl _ _ q.1)]
    simp [okC]
  have hokh : ∀ i, i < (zH S).1 → okO h (eh i) = true := by
    intro i hi
    obtain ⟨g, q1, _⟩ := hhd.2 i hi
    rw [okO_of (hl _ _ q1)]
    exact okC_0
  obtain ⟨k1, g', k3, k5, k6, arr1, arr2, e1, e2, e3, e4, e5, e6, e7, e8, e9, e10, e11, q1, q2, q3, q4, q5, q6, q7, q8, q9⟩ := copy3 (x := 10) (y := 11) (z := 12) ho rfl (by decide) (by decide) (by decide) (RCp_FR hp) hkn hkb c2 hb5 hac.1 (by omega) hoka hhd.1 (by omega) hokh (by omega) (by omega)
  have hkno : ∀ q, h q = none → q < r.1 → k6 q = none := fun q x y => (q1 q y (fun e => by rw [e, ho] at x; cases x)).trans x
  have hfo : ∀ q c, f q = some c → q < r.1 ∧ q ≠ o := fun q c x => ⟨RCp_lt hp (hl _ _ x), fun e => by rw [e, hRo.2.2.2.1] at x; cases x⟩
  have hlf : hle f (fun q => if r.1 ≤ q then k6 q else f q) := by
    intro a c x
    show (if r.1 ≤ a then k6 a else f a) = some c
    rw [if_neg (by have := (hfo a c x).1; omega)]
    exact x
  have hnew : ∀ q, r.1 ≤ q → (fun q => if r.1 ≤ q then k6 q else f q) q = k6 q := fun q hq => if_pos hq
  have hlist : ∀ {a arr m : Nat} {e : Nat → Nat}, LMu K k6 a arr m e → r.1 ≤ a → (r.1 ≤ arr ∨ arr = K 1) → LMu K (fun q => if r.1 ≤ q then k6 q else f q) a arr m e := by
    intro a arr m e hL u1 u2
    refine LMu_eq hL (hnew _ u1) (fun ⟨c, hc⟩ => ?_)
    rcases u2 with u2 | u2
    · exact hnew _ u2
    · rw [u2, hkno _ hkn.2.1 (hkb 1 (by decide))] at hc; cases hc
  have hp3 : RCp K k6 (r.1 + 9) o (wIM S (some (zw S, zA S, zH S))) (fun q => if r.1 ≤ q then k6 q else f q) B (some r.1) (some (r.1 + 5)) (some (r.1 + 7)) seed ea eh := by
    refine RC_fin (nw := fun _ => false) hp q1 q2 (by omega) hlf (fun a c x => ?_) (fun q hq => if_neg (by omega)) (fun _ _ _ => rfl) (fun i hi => .inl ⟨rfl, rfl⟩) (fun i j _ _ u _ _ => by cases u) (fun i _ _ => .inl rfl) hp.2.2.2.2.2.2.1.2.2.2.2 rfl e11 ⟨rfl, rfl, rfl, rfl, rfl⟩ ?_ (LMu_o hac.1 ho (RCp_FR hp) q1) (ACr_mono hlf hac.2) (LMu_o hhd.1 ho (RCp_FR hp) q1) (HDr_mono hlf hhd.2) ?_ (WFZ_im hZ (fun w a e x => ?_))
    · have x' : (if r.1 ≤ a then k6 a else f a) = some c := x
      split at x'
      · exact x'
      · obtain ⟨u1, u2⟩ := hfo a c x'
        rw [q1 a u1 u2]
        exact hl _ _ x'
    · exact SX_q hp (fun i i1 i2 => q1 _ (hpos i (by omega)) (hRo.2.2.2.2 i (by omega) (by omega)))
    · exact ⟨r.1, r.1 + 5, r.1 + 7, ea, eh, fun i => r.1 + 1 + i, g', d2, arr1, arr2, rfl, rfl, rfl, SC_F (h := k6) (fun i _ => hnew _ (by omega)) q3, SA_of hZ.1 a2 q4 q5, hlist q6 (by omega) (by rcases q7 with q | q <;> omega), ACr_mono hlf hac.2, hlist q8 (by omega) (by rcases q9 with q | q <;> omega), HDr_mono hlf hhd.2⟩
    · cases x
      exact ⟨hZ.2.1, hZ.2.2.1, hZ.2.2.2.1⟩
  rw [gR_of ho (k := 2) rfl, Option.bind_some, vc_of c2.1, achk_of e1 (by dsimp only; omega) (by dsimp only; omega), Option.bind_some]
  dsimp only
  rw [e2, Option.bind_some, e3, Option.bind_some]
  dsimp only
  rw [gR_of e4 (k := 8) rfl, Option.bind_some, e5, Option.bind_some]
  dsimp only
  rw [e6, Option.bind_some, e7, Option.bind_some]
  dsimp only
  rw [gR_of e8 (k := 9) rfl, Option.bind_some, e9, Option.bind_some]
  dsimp only
  rw [e10, Option.bind_some]
  -- the reference
  rw [show pf s1 56 1 = some (sf s1 56 1) from rfl, Option.bind_some, show pf (sf s1 56 1) 57 (mf (sf s1 56 1) 46) = some (sf (sf s1 56 1) 57 (mf s1 46)) from rfl, Option.bind_some, show pf (sf (sf s1 56 1) 57 (mf s1 46)) 58 (mf (sf (sf s1 56 1) 57 (mf s1 46)) 51) = some (sf (sf (sf s1 56 1) 57 (mf s1 46)) 58 (mf s1 51)) from rfl, Option.bind_some]
  generalize hτ : sf (sf (sf s1 56 1) 57 (mf s1 46)) 58 (mf s1 51) = τ
  have hτa : ∀ j, ma τ j = ma s1 j := by intro j; rw [← hτ]; rfl
  have hτf : ∀ k, k ≠ 56 → k ≠ 57 → k ≠ 58 → mf τ k = mf s1 k := by
    intro k a b c
    rw [← hτ]
    unfold mf sf
    dsimp only
    rw [if_neg c, if_neg b, if_neg a]
  have hτ6 : mf τ 56 = 1 := by rw [← hτ]; rfl
  have hτ7 : mf τ 57 = mf s1 46 := by rw [← hτ]; rfl
  have hτ8 : mf τ 58 = mf s1 51 := by rw [← hτ]; rfl
  obtain ⟨r1, w1, w2, w3, w4⟩ := o_cpy (step := M_image_L28) (σ := τ) 44 59 0 0 34 (by decide) (fun k τ' hk hF => by
    unfold M_image_L28
    dsimp only
    rw [if_pos ((i3_ltl (c := 34) (n := 34) rfl (by omega) (by decide)).mpr hk), ald_i3 (j := 44) (show k < 68 by omega), Option.bind_some, ast_i3 (j := 59) (show k < 34 by omega), Option.bind_some, i3_succ, Nat.zero_add]) (fun τ' => by
    unfold M_image_L28
    dsimp only
    rw [if_neg (by decide)])
  obtain ⟨r2, x1, x2, x3, x4⟩ := M_copies_eq (σ := r1) 45 60 (by decide) (by decide)
  obtain ⟨r3, y1, y2, y3, y4⟩ := M_copies_eq (σ := r2) 52 61 (by decide) (by decide)
  rw [w1, Option.bind_some, x1, Option.bind_some, y1, Option.bind_some]
  have hfl : ∀ k, mf r3 k = mf τ k := by intro k; unfold mf; rw [y2, x2, w2]
  have har : ∀ j, j ≠ 59 → j ≠ 60 → j ≠ 61 → ma r3 j = ma s1 j := by
    intro j a b c
    rw [y3 j c, x3 j b, w3 j a, hτa]
  have hRM : RM r3 (wIM S (some (zw S, zA S, zH S))) := by
    refine RM_img hM1 (fun k _ a b c => (hfl k).trans (hτf k a b c)) har ⟨?_, ?_, ?_, ?_⟩
    · rw [hfl, hτ6]; decide
    · refine MRg_of hN hMM hM1.2.1 (fun i hi => ?_)
      rw [Nat.zero_add, y3 59 (by decide), x3 59 (by decide), w4, if_pos (by omega), hτa]
      congr 1
      omega
    · refine AM_cp hN hMM hM1.2.2.1 hA40 ((hfl 57).trans hτ7) (fun i hi => ?_)
      rw [y3 60 (by decide), x4 i hi, w3 45 (by decide), hτa]
    · refine HM_cp hM1.2.2.2.1 hH8 ((hfl 58).trans hτ8) (fun i hi => ?_)
      rw [y4 i hi, x3 52 (by decide), w3 52 (by decide), hτa]
  refine ⟨_, _, rfl, rfl, JN_in ⟨_, B, _, _, _, seed, ea, eh, hp3⟩ hRM ((hfl 0).trans ((hτf 0 (by decide) (by decide) (by decide)).trans h0)) (show 2300 * N + 100 * zt S ≤ r.2.1 - 5 - 2 - 2 by omega) (show 90000 * N + 3000 * zt S ≤ r.2.2 - 39 - (3 + (zA S).1) - (3 + (zH S).1) by omega) (show r.2.1 - 5 - 2 - 2 ≤ r.2.1 by omega) (show r.2.2 - 39 - (3 + (zA S).1) - (3 + (zH S).1) ≤ r.2.2 by omega)⟩
theorem op_restore (hS : RS K o (h, r) σ (N + 1)) : ∃ z v σ', C1_restore K h r o = some z ∧ M_restore σ = some (v, σ') ∧ JN K o r N false 0 (.inl z) v σ' := by
  obtain ⟨S, ⟨f, B, sT, aT, hT, seed, ea, eh, hp⟩, hM, hr1, hr2⟩ := hS
  dsimp only at hp hr1 hr2
  have hZ := RCp_Z hp
  have hM1 : RM (sf σ 0 0) S := RM_gx hZ (Gx_sf (.inl rfl)) hM
  have h0 : mf (sf σ 0 0) 0 = 0 := mf_sf0
  unfold C1_restore M_restore
  rw [show pf σ 0 0 = some (sf σ 0 0) from rfl, Option.bind_some]
  generalize sf σ 0 0 = s1 at hM1 h0
  have hN := hZ.1.1
  have hMM := hZ.1.2.1
  obtain ⟨hkn, hk01, hkb, _⟩ := RCp_K hp
  have hl := (RC_o hp).2.2.1
  have hpos := RCp_pos hp
  have hRo := RC_o hp
  have ho : h o = some (.inr (1, [.ref (B 1), .ref (B 18), .ref (B 2), .ref (B 7), .ref (B 12), .int (i3 (zt S)), .int (zF S), .ref (B 13), .ref (B 14), .ref (B 15), va_rf sT, va_rf aT, va_rf hT, .int seed])) := hRo.2.1
  have holt : o < r.1 := RCp_lt hp ho
  have him := hp.2.2.2.2.2.1
  have hIM := hM1.2.2.2.2.1
  have hzI := hZ.2.2.2.2.1
  rw [gQ_of ho (k := 10) (v := sT) rfl, Option.bind_some]
  rcases hz : zI S with _ | ⟨w, a, x⟩
  · rw [hz] at him hIM
    have e1 : sT = none := him
    have e2 : mf s1 56 = 0 := hIM
    rw [e1, if_pos e2]
    exact ⟨_, _, _, rfl, rfl, JN_same hp hM1 h0 hr1 hr2⟩
  · rw [hz] at him hIM
    obtain ⟨hw, ha, hx⟩ := hzI w a x hz
    obtain ⟨s, la, lh, ia, ih, A, g2, d2, ara, arh, rfl, rfl, rfl, c2', a2, l1, l2, l3, l4⟩ := him
    obtain ⟨m1, m2, m3, m4⟩ := hIM
    have c2 := SC_hle c2' hl
    have hb5 : ∀ q, q ∈ s5 s A → q < r.1 := by
      intro q hq
      obtain ⟨c1, c2, c3, c4, c5⟩ := c2
      unfold s5 at hq
      simp only [List.mem_cons, List.not_mem_nil, or_false] at hq
      rcases hq with rfl | rfl | rfl | rfl | rfl
      · exact RCp_lt hp c1
      · exact RCp_lt hp c2
      · exact RCp_lt hp c3
      · exact RCp_lt hp c4
      · exact RCp_lt hp c5
    have hoka : ∀ i, i < a.1 → okO h (ia i) = true := by
      intro i hi
      obtain ⟨A, g, d, q, _⟩ := l2 i hi
      rw [okO_of (hl _ _ q.1)]
      simp [okC]
    have hokh : ∀ i, i < x.1 → okO h (ih i) = true := by
      intro i hi
      obtain ⟨g, q1, _⟩ := l4 i hi
      rw [okO_of (hl _ _ q1)]
      exact okC_0
    have hA40 := ha.1
    have hH8 := hx.1
    obtain ⟨k1, g', k3, k5, k6, arr1, arr2, e1, e2, e3, e4, e5, e6, e7, e8, e9, e10, e11, q1, q2, q3, q4, q5, q6, q7, q8, q9⟩ := copy3 (x := 2) (y := 8) (z := 9) ho rfl (by decide) (by decide) (by decide) (RCp_FR hp) hkn hkb c2 hb5 (LMu_mono hl l1) (by omega) hoka (LMu_mono hl l3) (by omega) hokh (by omega) (by omega)
    have hfo : ∀ q c, f q = some c → q < r.1 ∧ q ≠ o := fun q c x => ⟨RCp_lt hp (hl _ _ x), fun e => by rw [e, hRo.2.2.2.1] at x; cases x⟩
    have hfn : ∀ q, r.1 ≤ q → f q = none := by
      intro q hq
      cases e : f q with
      | none => rfl
      | some c => have := (hfo q c e).1; omega
    obtain ⟨B', hb2, hb14, hb15, hb16, hb17, hbo⟩ : ∃ B' : Nat → Nat, (∀ i, 2 ≤ i → i < 7 → B' i = r.1 + (i - 2)) ∧ B' 14 = r.1 + 5 ∧ B' 15 = r.1 + 7 ∧ B' 16 = arr1 ∧ B' 17 = arr2 ∧ ∀ i, (i < 2 ∨ (7 ≤ i ∧ i < 14) ∨ 18 ≤ i) → B' i = B i := by
      refine ⟨fun i => if i = 17 then arr2 else if i = 16 then arr1 else if i = 15 then r.1 + 7 else if i = 14 then r.1 + 5 else Bs B r.1 i, fun i i1 i2 => ?_, rfl, rfl, rfl, rfl, fun i hi => ?_⟩
      · dsimp only
        rw [if_neg (by omega), if_neg (by omega), if_neg (by omega), if_neg (by omega)]
        exact Bs_n i1 i2
      · dsimp only
        rw [if_neg (by omega), if_neg (by omega), if_neg (by omega), if_neg (by omega)]
        exact Bs_o (by omega)
    have hk1 := hkb 1 (by decide)
    have hnewc : ∀ i, i < 16 → (decide ((2 ≤ i ∧ i < 7) ∨ i = 14 ∨ i = 15) = false ∧ B' i = B i) ∨ (decide ((2 ≤ i ∧ i < 7) ∨ i = 14 ∨ i = 15) = true ∧ ((2 ≤ i ∧ i < 7 ∧ B' i = r.1 + (i - 2)) ∨ (i = 14 ∧ B' i = r.1 + 5) ∨ (i = 15 ∧ B' i = r.1 + 7))) := by
      intro i hi
      by_cases q : (2 ≤ i ∧ i < 7) ∨ i = 14 ∨ i = 15
      · right
        refine ⟨decide_eq_true q, ?_⟩
        rcases q with q | q | q
        · exact .inl ⟨q.1, q.2, hb2 i q.1 q.2⟩
        · subst q; exact .inr (.inl ⟨rfl, hb14⟩)
        · subst q; exact .inr (.inr ⟨rfl, hb15⟩)
      · left
        exact ⟨decide_eq_false q, hbo i (by omega)⟩
    have hp3 : RCp K k6 (r.1 + 9) o (wHD (wAC (wSV S w) a) x) f B' (some s) (some la) (some lh) seed ia ih := by
      refine RC_fin (nw := fun i => decide ((2 ≤ i ∧ i < 7) ∨ i = 14 ∨ i = 15)) hp q1 q2 (by omega) (fun _ _ x => x) (fun a c x => ?_) (fun _ _ => rfl) (fun i i1 i2 => decide_eq_false (by omega)) (fun i hi => ?_) (fun i j hi hj u1 u2 e => ?_) (fun i i1 i2 => ?_) (fun e => ?_) (hbo 18 (by omega)) ?_ ⟨rfl, rfl, rfl, rfl, rfl⟩ ?_ ?_ l2 ?_ l4 ?_ ⟨hZ.1, hw, ha, hx, hzI, hZ.2.2.2.2.2⟩
      · obtain ⟨u1, u2⟩ := hfo a c x
        rw [q1 a u1 u2]
        exact hl _ _ x
      · rcases hnewc i hi with u | ⟨u1, u2⟩
        · exact .inl u
        · have : r.1 ≤ B' i := by rcases u2 with u2 | u2 | u2 <;> omega
          exact .inr ⟨u1, this, hfn _ this⟩
      · rcases hnewc i hi with ⟨v1, _⟩ | ⟨_, v2⟩
        · rw [v1] at u1; cases u1
        · rcases hnewc j hj with ⟨v1, _⟩ | ⟨_, v3⟩
          · rw [v1] at u2; cases u2
          · rcases v2 with v2 | v2 | v2 <;> rcases v3 with v3 | v3 | v3 <;> omega
      · have hj : ∀ j, j < 16 → B' j < r.1 ∨ (B' j < r.1 + 6 ∨ B' j = r.1 + 7) := by
          intro j hj
          rcases hnewc j hj with ⟨_, v2⟩ | ⟨_, v2⟩
          · left; rw [v2]; exact hpos j (by omega)
          · right; rcases v2 with v2 | v2 | v2 <;> omega
        have : i = 16 ∨ i = 17 := by omega
        rcases this with rfl | rfl
        · rw [hb16]
          rcases q7 with q | q
          · exact .inr (.inr ⟨by omega, hfn _ (by omega), fun j jj e => by have := hj j jj; omega⟩)
          · exact .inr (.inl (.inr q))
        · rw [hb17]
          rcases q9 with q | q
          · exact .inr (.inr ⟨by omega, hfn _ (by omega), fun j jj e => by have := hj j jj; omega⟩)
          · exact .inr (.inl (.inr q))
      · rw [hb16, hb17] at e
        rw [hb16]
        rcases q7 with q | q
        · rcases q9 with p | p <;> omega
        · exact .inr q
      · rw [hb2 2 (by decide) (by decide), hb14, hb15]
        exact e11
      · refine SX_of (SC_A (A := fun i => r.1 + 1 + i) (fun i hi => ?_) ?_) (SA_of hZ.1 a2 q4 q5) hw.1.1
        · rw [hb2 (3 + i) (by omega) (by omega)]; omega
        · rw [hb2 2 (by decide) (by decide)]; exact q3
      · rw [hb14, hb16]; exact q6
      · rw [hb15, hb17]; exact q8
      · show IMr K f o (zP S) (zI S) _ _ _
        rw [hz]
        exact ⟨s, la, lh, ia, ih, A, g2, d2, ara, arh, rfl, rfl, rfl, c2', a2, l1, l2, l3, l4⟩
    rw [Option.elim_some, Option.bind_some, Option.bind_some, vc_of c2.1, achk_of e1 (by dsimp only; omega) (by dsimp only; omega), Option.bind_some]
    dsimp only
    rw [e2, Option.bind_some, e3, Option.bind_some]
    dsimp only
    rw [gQ_of e4 (k := 11) (v := some la) rfl, Option.bind_some, Option.bind_some, e5, Option.bind_some]
    dsimp only
    rw [e6, Option.bind_some, e7, Option.bind_some]
    dsimp only
    rw [gQ_of e8 (k := 12) (v := some lh) rfl, Option.bind_some, Option.bind_some, e9, Option.bind_some]
    dsimp only
    rw [e10, Option.bind_some]
    -- the reference
    rw [if_neg m1, show pf s1 46 (mf s1 57) = some (sf s1 46 (mf s1 57)) from rfl, Option.bind_some, show pf (sf s1 46 (mf s1 57)) 51 (mf (sf s1 46 (mf s1 57)) 58) = some (sf (sf s1 46 (mf s1 57)) 51 (mf s1 58)) from rfl, Option.bind_some]
    generalize hτ : sf (sf s1 46 (mf s1 57)) 51 (mf s1 58) = τ
    have hτa : ∀ j, ma τ j = ma s1 j := by intro j; rw [← hτ]; rfl
    have hτf : ∀ k, k ≠ 46 → k ≠ 51 → mf τ k = mf s1 k := by
      intro k a b
      rw [← hτ]
      unfold mf sf
      dsimp only
      rw [if_neg b, if_neg a]
    have hτ6 : mf τ 46 = mf s1 57 := by rw [← hτ]; rfl
    have hτ7 : mf τ 51 = mf s1 58 := by rw [← hτ]; rfl
    obtain ⟨r1, w1, w2, w3, w4⟩ := o_cpy (step := M_restore_L32) (σ := τ) 59 44 0 0 34 (by decide) (fun k τ' hk hF => by
      unfold M_restore_L32
      dsimp only
      rw [if_pos ((i3_ltl (c := 34) (n := 34) rfl (by omega) (by decide)).mpr hk), ald_i3 (j := 59) (show k < 34 by omega), Option.bind_some, ast_i3 (j := 44) (show k < 68 by omega), Option.bind_some, i3_succ, Nat.zero_add]) (fun τ' => by
      unfold M_restore_L32
      dsimp only
      rw [if_neg (by decide)])
    obtain ⟨r2, x1, x2, x3, x4⟩ := M_copies_eq (σ := r1) 60 45 (by decide) (by decide)
    obtain ⟨r3, y1, y2, y3, y4⟩ := M_copies_eq (σ := r2) 61 52 (by decide) (by decide)
    rw [w1, Option.bind_some, x1, Option.bind_some, y1, Option.bind_some]
    have hfl : ∀ k, mf r3 k = mf τ k := by intro k; unfold mf; rw [y2, x2, w2]
    have har : ∀ j, j ≠ 44 → j ≠ 45 → j ≠ 52 → ma r3 j = ma s1 j := by
      intro j a b c
      rw [y3 j c, x3 j b, w3 j a, hτa]
    have hRM : RM r3 (wHD (wAC (wSV S w) a) x) := by
      refine RM_res hM1 (fun k _ a b => (hfl k).trans (hτf k a b)) har ?_ ?_ ?_
      · refine MRg_of hN hMM m2 (fun i hi => ?_)
        rw [Nat.zero_add, y3 44 (by decide), x3 44 (by decide), w4, if_pos (by omega), hτa]
        congr 1
        omega
      · refine AM_cp hN hMM m3 hA40 ((hfl 46).trans hτ6) (fun i hi => ?_)
        rw [y3 45 (by decide), x4 i hi, w3 60 (by decide), hτa]
      · refine HM_cp m4 hH8 ((hfl 51).trans hτ7) (fun i hi => ?_)
        rw [y4 i hi, x3 61 (by decide), w3 61 (by decide), hτa]
    refine ⟨_, _, _, rfl, rfl, JN_in ⟨_, B', _, _, _, seed, _, _, hp3⟩ hRM ((hfl 0).trans ((hτf 0 (by decide) (by decide)).trans h0)) (show 2300 * N + 100 * zt S ≤ r.2.1 - 5 - 2 - 2 by omega) (show 90000 * N + 3000 * zt S ≤ r.2.2 - 39 - (3 + a.1) - (3 + x.1) by omega) (show r.2.1 - 5 - 2 - 2 ≤ r.2.1 by omega) (show r.2.2 - 39 - (3 + a.1) - (3 + x.1) ≤ r.2.2 by omega)⟩
end IMG2
