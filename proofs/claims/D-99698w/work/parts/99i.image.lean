/-! ===== image, restore ===== -/
section IMG
variable {K : Nat → Nat} {h : CH} {r : CR} {o N : Nat} {σ : MS} {S : ST}
theorem LMu_o {h' : CH} {fs : List Value} {n a arr m : Nat} {e : Nat → Nat} (hL : LMu K h a arr m e) (ho : h o = some (.inr (1, fs))) (hf : FR h n) (hq : ∀ q, q < n → q ≠ o → h' q = h q) : LMu K h' a arr m e := by
  have hlt : ∀ q c, h q = some c → q < n := by
    intro q c e1
    apply Classical.byContradiction
    intro e2
    rw [hf q (by omega)] at e1
    cases e1
  obtain ⟨mc, g1, g2⟩ := hL
  refine ⟨mc, ?_, ?_⟩
  · rw [hq a (hlt _ _ g1) (fun y => by rw [y, ho] at g1; cases g1)]
    exact g1
  · rcases g2 with g2 | ⟨cap, g, g3, g4⟩
    · exact .inl g2
    · refine .inr ⟨cap, g, ?_, g4⟩
      rw [hq arr (hlt _ _ g3) (fun y => by rw [y, ho] at g3; cases g3)]
      exact g3
theorem okO_o {h' : CH} {fs : List Value} {n q : Nat} (hx : okO h q = true) (ho : h' o = some (.inr (1, fs))) (hf : FR h n) (hq : ∀ q, q < n → q ≠ o → h' q = h q) : okO h' q = true := by
  by_cases e : q = o
  · rw [e, okO_of ho]
    simp [okC]
  · have hlt : q < n := by
      apply Classical.byContradiction
      intro e2
      unfold okO at hx
      rw [hf q (by omega)] at hx
      cases hx
    unfold okO at hx ⊢
    rw [hq q hlt e]
    exact hx
theorem copy3 {fs : List Value} {x y z s2 la lh ara arh na nh : Nat} {A2 : Nat → Nat} {g2 : Nat → Nat → Int32} {d2 : Int32} {ea eh : Nat → Nat} (ho : h o = some (.inr (1, fs))) (hlen : fs.length = 14) (hx : x < 14) (hy : y < 14) (hz : z < 14)
    (hf : FR h r.1) (hK : KN K h) (hKb : ∀ i, i < 500 → K i < r.1) (c2 : SC h o s2 A2 g2 d2) (hb5 : ∀ q, q ∈ s5 s2 A2 → q < r.1) (hLa : LMu K h la ara na ea) (hna : na < 1000) (hoka : ∀ i, i < na → okO h (ea i) = true) (hLh : LMu K h lh arh nh eh) (hnh : nh < 1000) (hokh : ∀ i, i < nh → okO h (eh i) = true) (h1 : 9 ≤ r.2.1) (h2 : 45 + na + nh ≤ r.2.2) :
    ∃ k1 g' k3 k5 k6 arr1 arr2,
      C3_copy h r s2 = some (r.1, (k1, r.1 + 5, r.2.1 - 5, r.2.2 - 39)) ∧ pQ k1 o 1 x (some r.1) = some (hup k1 o (.inr (1, fs.set x (.ref r.1)))) ∧
      aCell (hup k1 o (.inr (1, fs.set x (.ref r.1)))) (r.1 + 5, r.2.1 - 5, r.2.2 - 39) 3 (.inr (10, [.int 0, .null, .int 0])) = some (hup (hup k1 o (.inr (1, fs.set x (.ref r.1)))) (r.1 + 5) (.inr (10, [.int 0, .null, .int 0])), r.1 + 5 + 1, r.2.1 - 5 - 1, r.2.2 - 39 - 3) ∧
      hup (hup k1 o (.inr (1, fs.set x (.ref r.1)))) (r.1 + 5) (.inr (10, [.int 0, .null, .int 0])) o = some (.inr (1, fs.set x (.ref r.1))) ∧
      achv (r.1 + 5 + 1, r.2.1 - 5 - 1, r.2.2 - 39 - 3) (CJ2_init_2 K (hup (hup k1 o (.inr (1, fs.set x (.ref r.1)))) (r.1 + 5) (.inr (10, [.int 0, .null, .int 0]))) (r.1 + 5 + 1, r.2.1 - 5 - 1, r.2.2 - 39 - 3) (r.1 + 5) la) = some (k3, r.1 + 5 + 2, r.2.1 - 5 - 2, r.2.2 - 39 - (3 + na)) ∧
      pQ k3 o 1 y (some (r.1 + 5)) = some (hup k3 o (.inr (1, (fs.set x (.ref r.1)).set y (.ref (r.1 + 5))))) ∧
      aCell (hup k3 o (.inr (1, (fs.set x (.ref r.1)).set y (.ref (r.1 + 5))))) (r.1 + 5 + 2, r.2.1 - 5 - 2, r.2.2 - 39 - (3 + na)) 3 (.inr (10, [.int 0, .null, .int 0])) = some (hup (hup k3 o (.inr (1, (fs.set x (.ref r.1)).set y (.ref (r.1 + 5))))) (r.1 + 5 + 2) (.inr (10, [.int 0, .null, .int 0])), r.1 + 5 + 2 + 1, r.2.1 - 5 - 2 - 1, r.2.2 - 39 - (3 + na) - 3) ∧
      hup (hup k3 o (.inr (1, (fs.set x (.ref r.1)).set y (.ref (r.1 + 5))))) (r.1 + 5 + 2) (.inr (10, [.int 0, .null, .int 0])) o = some (.inr (1, (fs.set x (.ref r.1)).set y (.ref (r.1 + 5)))) ∧
      achv (r.1 + 5 + 2 + 1, r.2.1 - 5 - 2 - 1, r.2.2 - 39 - (3 + na) - 3) (CJ2_init_2 K (hup (hup k3 o (.inr (1, (fs.set x (.ref r.1)).set y (.ref (r.1 + 5))))) (r.1 + 5 + 2) (.inr (10, [.int 0, .null, .int 0]))) (r.1 + 5 + 2 + 1, r.2.1 - 5 - 2 - 1, r.2.2 - 39 - (3 + na) - 3) (r.1 + 5 + 2) lh) = some (k5, r.1 + 5 + 2 + 2, r.2.1 - 5 - 2 - 2, r.2.2 - 39 - (3 + na) - (3 + nh)) ∧
      pQ k5 o 1 z (some (r.1 + 5 + 2)) = some k6 ∧ k6 o = some (.inr (1, ((fs.set x (.ref r.1)).set y (.ref (r.1 + 5))).set z (.ref (r.1 + 5 + 2)))) ∧
      (∀ q, q < r.1 → q ≠ o → k6 q = h q) ∧ FR k6 (r.1 + 9) ∧ SC k6 o r.1 (fun i => r.1 + 1 + i) g' d2 ∧ (∀ i j, i < 3 → j < 9 → g' i j = g2 i j) ∧ (∀ j, j < 6 → g' 3 j = g2 3 j) ∧
      LMu K k6 (r.1 + 5) arr1 na ea ∧ (arr1 = r.1 + 6 ∨ arr1 = K 1) ∧ LMu K k6 (r.1 + 7) arr2 nh eh ∧ (arr2 = r.1 + 8 ∨ arr2 = K 1) := by
  have hlt : ∀ q c, h q = some c → q < r.1 := by
    intro q c e1
    apply Classical.byContradiction
    intro e2
    rw [hf q (by omega)] at e1
    cases e1
  have holt := hlt _ _ ho
  have hKo : ∀ q, h q = none → q ≠ o := fun q e1 e2 => by rw [e2, ho] at e1; cases e1
  obtain ⟨k1, g', e1, s1, n1, m1, f1, b1⟩ := C3_copy_eq (r := r) hf c2 hb5 (by omega) (by omega)
  have ho1 : k1 o = some (.inr (1, fs)) := (b1 o holt).trans ho
  -- the first list
  have hq2 : ∀ q, q < r.1 → q ≠ o → (hup k1 o (.inr (1, fs.set x (.ref r.1)))) q = h q := fun q q1 q2 => by rw [hup_n q2]; exact b1 q q1
  have K2 : KN K (hup k1 o (.inr (1, fs.set x (.ref r.1)))) := KN_b hK hKb (fun q q1 q2 => by rw [hq2 q q1 (hKo q q2)]; exact q2)
  obtain ⟨arr1, k3, a1, a2, a3, a4, a5, a6⟩ := C_newOf (r := (r.1 + 5, r.2.1 - 5, r.2.2 - 39)) (h := hup k1 o (.inr (1, fs.set x (.ref r.1)))) (a := la) (LMu_o hLa ho hf hq2) hna (FR_set f1 (by omega)) K2 (fun i hi => by have := hKb i hi; dsimp only; omega) (fun i hi => okO_o (hoka i hi) hup_s hf hq2) (by dsimp only; omega) (by dsimp only; omega)
  dsimp only at a1 a2 a3 a4 a5 a6
  have ho3 : k3 o = some (.inr (1, fs.set x (.ref r.1))) := (a5 o (by omega)).trans hup_s
  -- the second
  have hq4 : ∀ q, q < r.1 → q ≠ o → (hup k3 o (.inr (1, (fs.set x (.ref r.1)).set y (.ref (r.1 + 5))))) q = h q := fun q q1 q2 => by rw [hup_n q2, a5 q (by omega)]; exact hq2 q q1 q2
  have K4 : KN K (hup k3 o (.inr (1, (fs.set x (.ref r.1)).set y (.ref (r.1 + 5))))) := KN_b hK hKb (fun q q1 q2 => by rw [hq4 q q1 (hKo q q2)]; exact q2)
  obtain ⟨arr2, k5, b1', b2, b3, b4, b5, b6⟩ := C_newOf (r := (r.1 + 5 + 2, r.2.1 - 5 - 2, r.2.2 - 39 - (3 + na))) (h := hup k3 o (.inr (1, (fs.set x (.ref r.1)).set y (.ref (r.1 + 5))))) (a := lh) (LMu_o hLh ho hf hq4) hnh (FR_set a6 (by omega)) K4 (fun i hi => by have := hKb i hi; dsimp only; omega) (fun i hi => okO_o (hokh i hi) hup_s hf hq4) (by dsimp only; omega) (by dsimp only; omega)
  dsimp only at b1' b2 b3 b4 b5 b6
  have ho5 : k5 o = some (.inr (1, (fs.set x (.ref r.1)).set y (.ref (r.1 + 5)))) := (b5 o (by omega)).trans hup_s
  refine ⟨k1, g', k3, k5, hup k5 o (.inr (1, ((fs.set x (.ref r.1)).set y (.ref (r.1 + 5))).set z (.ref (r.1 + 5 + 2)))), arr1, arr2, e1, ?_, a1, ?_, a2, ?_, b1', ?_, b2, ?_, hup_s, fun q q1 q2 => ?_, FR_set b6 (by omega), ?_, n1, m1, ?_, ?_, ?_, ?_⟩
  · exact pQ_of ho1 (by rw [hlen]; exact hx)
  · rw [hup_n (by omega)]; exact hup_s
  · exact pQ_of ho3 (by rw [List.length_set, hlen]; exact hy)
  · rw [hup_n (by omega)]; exact hup_s
  · exact pQ_of ho5 (by rw [List.length_set, List.length_set, hlen]; exact hz)
  · rw [hup_n q2, b5 q (by omega)]; exact hq4 q q1 q2
  · refine SC_F (h := k1) (fun i hi => ?_) s1
    rw [hup_n (by omega), b5 _ (by omega), hup_n (by omega), a5 _ (by omega), hup_n (by omega)]
  · obtain ⟨mc, l1, l2⟩ := a3
    refine ⟨mc, ?_, ?_⟩
    · rw [hup_n (by omega), b5 _ (by omega), hup_n (by omega)]; exact l1
    · rcases a4 with ⟨q1, q2⟩ | ⟨q1, q2⟩
      · rcases l2 with l2 | ⟨cap, g, g3, g4⟩
        · exact .inl l2
        · refine .inr ⟨cap, g, ?_, g4⟩
          rw [hup_n (by omega), b5 _ (by omega), hup_n (by omega)]
          exact g3
      · exact .inl ⟨q2, .inr q1⟩
  · rcases a4 with ⟨q1, q2⟩ | ⟨q1, q2⟩
    · exact .inl (by omega)
    · exact .inr q1
  · obtain ⟨mc, l1, l2⟩ := b3
    refine ⟨mc, ?_, ?_⟩
    · rw [hup_n (by omega)]; exact l1
    · rcases b4 with ⟨q1, q2⟩ | ⟨q1, q2⟩
      · rcases l2 with l2 | ⟨cap, g, g3, g4⟩
        · exact .inl l2
        · refine .inr ⟨cap, g, ?_, g4⟩
          rw [hup_n (by omega)]
          exact g3
      · exact .inl ⟨q2, .inr q1⟩
  · rcases b4 with ⟨q1, q2⟩ | ⟨q1, q2⟩
    · exact .inl (by omega)
    · exact .inr q1
/-! the reference -/
theorem M_copies_eq (js jd : Nat) (hne : js ≠ jd) (hl : mlen js ≤ mlen jd) : ∃ σ', M_copies σ js jd = some σ' ∧ σ'.1 = σ.1 ∧ (∀ j, j ≠ jd → ma σ' j = ma σ j) ∧ ∀ i, i < mlen js → ma σ' jd i = ma σ js i := by
  have hm := mlen_lt js
  unfold M_copies
  obtain ⟨r, q1, q2, q3, q4⟩ := o_cpy (step := M_copies_L2 js jd) (σ := σ) js jd 0 0 (mlen js) hne (fun k τ hk hF => by
    unfold M_copies_L2
    dsimp only
    rw [show alen js = i3 (mlen js) from rfl, if_pos ((i3_lt (by omega) (by omega)).mpr hk), ald_i3 (j := js) hk, Option.bind_some, ast_i3 (j := jd) (show k < mlen jd by omega), Option.bind_some, i3_succ, Nat.zero_add]) (fun τ => by
    unfold M_copies_L2
    dsimp only
    rw [show alen js = i3 (mlen js) from rfl, if_neg (fun x => absurd ((i3_lt (by omega) (by omega)).mp x) (by omega))])
  exact ⟨r, q1, q2, q3, fun i hi => by rw [q4, if_pos (by omega)]; congr 1; omega⟩
theorem RM_img {σ' : MS} {z : Option (SV × AC × HD)} (h : RM σ S) (e1 : ∀ k, k ≠ 0 → k ≠ 56 → k ≠ 57 → k ≠ 58 → mf σ' k = mf σ k) (e2 : ∀ j, j ≠ 59 → j ≠ 60 → j ≠ 61 → ma σ' j = ma σ j) (ha : IM σ' (zP S) z) : RM σ' (wIM S z) := by
  obtain ⟨h1, h2, h3, h4, h5, h6, h7, h8⟩ := h
  refine ⟨ME_of h1 (fun k _ _ => e1 k (by omega) (by omega) (by omega) (by omega)) (fun j _ _ => e2 j (by omega) (by omega) (by omega)) (by rw [e2 49 (by decide) (by decide) (by decide)]), ?_, ?_, ?_, ha, ?_, ?_, ?_⟩
  · rw [e2 44 (by decide) (by decide) (by decide)]; exact h2
  · unfold AM at h3 ⊢
    rw [e1 46 (by decide) (by decide) (by decide) (by decide), e2 45 (by decide) (by decide) (by decide)]
    exact h3
  · unfold HM at h4 ⊢
    rw [e1 51 (by decide) (by decide) (by decide) (by decide), e2 52 (by decide) (by decide) (by decide)]
    exact h4
  · rw [e1 13 (by decide) (by decide) (by decide) (by decide), e2 12 (by decide) (by decide) (by decide)]
    exact h6
  · rw [e1 15 (by decide) (by decide) (by decide) (by decide)]
    exact h7
  · rw [e2 16 (by decide) (by decide) (by decide)]
    exact h8
theorem RM_res {σ' : MS} {w : SV} {a : AC} {x : HD} (h : RM σ S) (e1 : ∀ k, k ≠ 0 → k ≠ 46 → k ≠ 51 → mf σ' k = mf σ k) (e2 : ∀ j, j ≠ 44 → j ≠ 45 → j ≠ 52 → ma σ' j = ma σ j) (hw : MR σ' 0 (zP S) w) (ha : AM σ' 46 45 (zP S) a) (hx : HM σ' 51 52 x) : RM σ' (wHD (wAC (wSV S w) a) x) := by
  obtain ⟨h1, h2, h3, h4, h5, h6, h7, h8⟩ := h
  refine ⟨ME_of h1 (fun k _ _ => e1 k (by omega) (by omega) (by omega)) (fun j _ _ => e2 j (by omega) (by omega) (by omega)) (by rw [e2 49 (by decide) (by decide) (by decide)]), hw, ha, hx, ?_, ?_, ?_, ?_⟩
  · unfold IM AM HM at h5 ⊢
    rw [e1 56 (by decide) (by decide) (by decide), e1 57 (by decide) (by decide) (by decide), e1 58 (by decide) (by decide) (by decide), e2 59 (by decide) (by decide) (by decide), e2 60 (by decide) (by decide) (by decide), e2 61 (by decide) (by decide) (by decide)]
    exact h5
  · rw [e1 13 (by decide) (by decide) (by decide), e2 12 (by decide) (by decide) (by decide)]
    exact h6
  · rw [e1 15 (by decide) (by decide) (by decide)]
    exact h7
  · rw [e2 16 (by decide) (by decide) (by decide)]
    exact h8
theorem WFZ_im {z : Option (SV × AC × HD)} (h : WFZ S) (hz : ∀ w a e, z = some (w, a, e) → WFD (zP S) w ∧ WFA (zP S) a ∧ WFH (zP S) e) : WFZ (wIM S z) := ⟨h.1, h.2.1, h.2.2.1, h.2.2.2.1, hz, h.2.2.2.2.2⟩
theorem AM_cp {σ' : MS} {kf kf' ja ja' : Nat} {P : PO} {a : AC} (hN : pN P ≤ 9) (hM : pM P ≤ 6) (h : AM σ kf ja P a) (ha : a.1 ≤ 40) (e1 : mf σ' kf' = mf σ kf) (e2 : ∀ i, i < 1360 → ma σ' ja' i = ma σ ja i) : AM σ' kf' ja' P a :=
  ⟨e1.trans h.1, fun i hi => MRg_of hN hM (h.2 i hi) (fun j hj => e2 _ (by omega))⟩
theorem HM_cp {σ' : MS} {kf kf' ja ja' : Nat} {x : HD} (h : HM σ kf ja x) (ha : x.1 ≤ 8) (e1 : mf σ' kf' = mf σ kf) (e2 : ∀ i, i < 32 → ma σ' ja' i = ma σ ja i) : HM σ' kf' ja' x :=
  ⟨e1.trans h.1, fun i j hi hj => by rw [e2 _ (by omega)]; exact h.2 i j hi hj⟩
end IMG
