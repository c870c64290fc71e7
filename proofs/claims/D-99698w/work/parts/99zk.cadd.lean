/-! ===== office: the component's chains are begun, and added to ===== -/
def hid (p : Prop) : Prop := p
section CADD
variable {K : Nat → Nat} {h h' : CH} {r : CR} {cv : (Nat → Int32) → (Nat → Int32)} {dd lo hi ch k a l u o : Nat} {E E1 : EX}
theorem FR_lt {n p : Nat} {x : CE} (hf : FR h n) (e : h p = some x) : p < n := Nat.lt_of_not_le (fun y => by
  rw [hf p y] at e
  cases e)
theorem KN_kp {n : Nat} (hK : KN K h) (hKb : ∀ i, i < 500 → K i < n) {X : List Nat} (hx : ∀ p, p ∈ X → h p ≠ none) (he : ∀ p, p < n → ¬ p ∈ X → h' p = h p) : KN K h' :=
  KN_b hK hKb (fun q hq hn => by
    rw [he q hq (fun m => hx q m hn)]
    exact hn)
theorem bIx_new {n : Nat} (hKb : ∀ i, i < 500 → K i < n) : bIx K n = none := by
  apply List.find?_eq_none.mpr
  intro i hi
  have h1 := hKb (30 + i) (by have := List.mem_range.mp hi; omega)
  simp
  omega
theorem CJ2_new {p : Nat} {x y : Int32} : CJ2_init K (hup h p (.inr (10, [.int x, .null, .int y]))) p = some (hup h p (.inr (10, [.int 0, .ref (K 0), .int y]))) := by
  unfold CJ2_init CJ1_init CJ0_init
  rw [Option.bind_some, pI_of hup_s (show 0 < 3 by decide), Option.bind_some, Option.bind_some, pQ_of hup_s (show 1 < 3 by decide), Option.bind_some, hup_hup, hup_hup]
  rfl
theorem Ch_init (hf : FR h r.1) (hK : KN K h) (hK01 : K 0 ≠ K 1) (hKb : ∀ i, i < 500 → K i < r.1) (hc : h ch = some (.inr (6, [.null, .null]))) (hF : FoR K dd cv h l u a E) (hl : ch < l) (hu : u ≤ r.1) (h1 : 4 ≤ r.2.1) (h2 : 33 ≤ r.2.2) :
    ∃ h' r', achv r (C7_init K h r ch a) = some (h', r') ∧ ChS K dd cv h' ch r'.1 ch 1 E ∧ (∀ p, p < r.1 → p ≠ ch → h' p = h p) ∧ FR h' r'.1 ∧ KN K h' ∧ r.1 ≤ r'.1 ∧ r'.2.1 ≤ r.2.1 ∧ r'.2.2 ≤ r.2.2 ∧ r.2.1 ≤ r'.2.1 + 4 ∧ r.2.2 ≤ r'.2.2 + 33 := by
  have hlt := FR_lt hf hc
  obtain ⟨s6, hs6⟩ : ∃ s6, hup (hup (hup (hup (hup h r.1 (.inr (10, [.int 0, .ref (K 0), .int 0]))) ch (.inr (6, [.ref r.1, .null]))) (r.1 + 2) (.inl (2, 16, .inl (fun _ => 0)))) (r.1 + 1) (.inr (11, [.ref (r.1 + 2), .int 0, .int 0, .int 0]))) ch (.inr (6, [.ref r.1, .ref (r.1 + 1)])) = s6 := ⟨_, rfl⟩
  have v1 : s6 ch = some (.inr (6, [.ref r.1, .ref (r.1 + 1)])) := by rw [← hs6]; exact hup_s
  have v2 : s6 r.1 = some (.inr (10, [.int 0, .ref (K 0), .int 0])) := by rw [← hs6, hup_n (by omega), hup_n (by omega), hup_n (by omega), hup_n (by omega), hup_s]
  have v3 : s6 (r.1 + 1) = some (.inr (11, [.ref (r.1 + 2), .int 0, .int 0, .int 0])) := by rw [← hs6, hup_n (by omega), hup_s]
  have v4 : s6 (r.1 + 2) = some (.inl (2, 16, .inl (fun _ => 0))) := by rw [← hs6, hup_n (by omega), hup_n (by omega), hup_s]
  have v5 : ∀ p, p ≠ ch → p ≠ r.1 → p ≠ r.1 + 1 → p ≠ r.1 + 2 → s6 p = h p := fun p p1 p2 p3 p4 => by rw [← hs6, hup_n p1, hup_n p3, hup_n p4, hup_n p1, hup_n p2]
  have f6 : FR s6 (r.1 + 3) := fun p hp => by rw [v5 p (by omega) (by omega) (by omega) (by omega)]; exact hf p (by omega)
  have K6 : KN K s6 := KN_kp (X := [ch]) hK hKb (fun p hp => by
    rw [List.mem_singleton.mp hp, hc]
    intro x; cases x) (fun p hp hn => v5 p (fun x => hn (by rw [x]; exact List.mem_singleton.mpr rfl)) (by omega) (by omega) (by omega))
  have hF6 : FoR K dd cv s6 l u a E := FoR_eq hF (fun p p1 p2 => v5 p (by omega) (by omega) (by omega) (by omega))
  have hL : LMu K s6 r.1 (K 0) 0 (fun _ => a) := ⟨0, v2, .inl ⟨rfl, .inl rfl⟩⟩
  have hK0 := hKb 0 (by decide)
  obtain ⟨arr', h', r', q1, q2, q3, q4, q5, q6, q7, q8, q9, q10⟩ := C_add (x := a) (r := (r.1 + 3, r.2.1 - 3, r.2.2 - 23)) hL (by decide) f6 K6 hK01 (fun i hi => by have := hKb i hi; show K i < r.1 + 3; omega) (fun i hi => absurd hi (Nat.not_lt_zero _)) (FoR_ok hF6) (by omega) (by show 1 ≤ r.2.1 - 3; omega) (by show 2 * 0 + 10 ≤ r.2.2 - 23; omega)
  dsimp only at q3 q7 q8 q9 q10
  have hin : C7_init K h r ch a = some (h', r') := by
    unfold C7_init
    rw [aCell_of (by omega) (by omega), Option.bind_some]
    dsimp only
    rw [CJ2_new, Option.bind_some, pQ_of (show hup h r.1 _ ch = _ by rw [hup_n (by omega)]; exact hc) (show 0 < 2 by decide), Option.bind_some, show [Value.null, Value.null].set 0 (va_rf (some r.1)) = [Value.ref r.1, Value.null] from rfl, aCell_of (by show 1 ≤ r.2.1 - 1; omega) (by show 4 ≤ r.2.2 - 3; omega), Option.bind_some]
    dsimp only
    have e14 : CJ14_init (hup (hup (hup h r.1 (.inr (10, [.int 0, .ref (K 0), .int 0]))) ch (.inr (6, [.ref r.1, .null]))) (r.1 + 1) (.inr (11, [.null, .int 0, .int 0, .int 0]))) (r.1 + 1 + 1, r.2.1 - 1 - 1, r.2.2 - 3 - 4) (r.1 + 1) = some (hup (hup (hup (hup h r.1 (.inr (10, [.int 0, .ref (K 0), .int 0]))) ch (.inr (6, [.ref r.1, .null]))) (r.1 + 2) (.inl (2, 16, .inl (fun _ => 0)))) (r.1 + 1) (.inr (11, [.ref (r.1 + 2), .int 0, .int 0, .int 0])), r.1 + 2 + 1, r.2.1 - 1 - 1 - 1, r.2.2 - 3 - 4 - 16) := by
      unfold CJ14_init
      have e13 : CJ13_init (hup (hup (hup h r.1 (.inr (10, [.int 0, .ref (K 0), .int 0]))) ch (.inr (6, [.ref r.1, .null]))) (r.1 + 1) (.inr (11, [.null, .int 0, .int 0, .int 0]))) (r.1 + 1 + 1, r.2.1 - 1 - 1, r.2.2 - 3 - 4) (r.1 + 1) 16 = some (hup (hup (hup (hup h r.1 (.inr (10, [.int 0, .ref (K 0), .int 0]))) ch (.inr (6, [.ref r.1, .null]))) (r.1 + 2) (.inl (2, 16, .inl (fun _ => 0)))) (r.1 + 1) (.inr (11, [.ref (r.1 + 2), .int 0, .int 0, .int 0])), r.1 + 2 + 1, r.2.1 - 1 - 1 - 1, r.2.2 - 3 - 4 - 16) := by
        unfold CJ13_init
        rw [if_neg (by decide), show aArr _ (r.1 + 1 + 1, r.2.1 - 1 - 1, r.2.2 - 3 - 4) 2 16 = _ from aArr_of (n := 16) (by show 1 ≤ r.2.1 - 1 - 1; omega) (by show 16 ≤ r.2.2 - 3 - 4; omega) (by decide), Option.bind_some]
        dsimp only
        rw [pQ_of (show hup _ (r.1 + 1 + 1) _ (r.1 + 1) = _ by rw [hup_n (by omega), hup_s]) (show 0 < 4 by decide), Option.bind_some, pI_of hup_s (show 1 < 4 by decide), Option.bind_some, hup_hup]
        congr 2
        funext p
        by_cases p1 : p = r.1 + 1
        · rw [p1, hup_s, hup_s]; rfl
        · rw [hup_n p1, hup_n p1]
          by_cases p2 : p = r.1 + 2
          · rw [p2, hup_s]; exact hup_s.symm
          · rw [hup_n (show p ≠ r.1 + 1 + 1 from p2), hup_n p2, hup_n p1]
      rw [achv_of e13 (Nat.sub_le _ _) (Nat.sub_le _ _), Option.bind_some]
    rw [achv_of e14 (Nat.sub_le _ _) (Nat.sub_le _ _), Option.bind_some]
    dsimp only
    rw [pQ_of (show hup _ (r.1 + 1) _ ch = _ by rw [hup_n (by omega), hup_n (by omega), hup_s]) (show 1 < 2 by decide), Option.bind_some]
    rw [show hup (hup (hup (hup (hup h r.1 (Sum.inr (10, [Value.int 0, Value.ref (K 0), Value.int 0]))) ch (Sum.inr (6, [Value.ref r.1, Value.null]))) (r.1 + 2) (Sum.inl (2, 16, Sum.inl fun x => 0))) (r.1 + 1) (Sum.inr (11, [Value.ref (r.1 + 2), Value.int 0, Value.int 0, Value.int 0]))) ch (Sum.inr (6, [Value.ref r.1, Value.null].set 1 (va_rf (some (r.1 + 1))))) = s6 from hs6, gR_of v1 (k := 0) rfl, Option.bind_some]
    have er : (r.1 + 2 + 1, r.2.1 - 1 - 1 - 1, r.2.2 - 3 - 4 - 16) = (r.1 + 3, r.2.1 - 3, r.2.2 - 23) := by
      rw [show r.2.1 - 1 - 1 - 1 = r.2.1 - 3 by omega, show r.2.2 - 3 - 4 - 16 = r.2.2 - 23 by omega]
    rw [er, q1, Option.bind_some]
  obtain ⟨mc, w1, w2⟩ := q2
  rcases w2 with w2 | ⟨cap, ga, w3, w4, w5, w6⟩
  · exact absurd w2.1 (by decide)
  · have ha : arr' = r.1 + 3 ∧ r'.1 = r.1 + 4 := by
      rcases q3 with ⟨z1, z2, z3⟩ | z
      · obtain ⟨c, z3⟩ := z3
        rw [K6.1] at z3
        cases z3
      · exact z
    have x5 : ∀ p, p ≠ ch → p ≠ r.1 → p ≠ r.1 + 1 → p ≠ r.1 + 2 → p ≠ r.1 + 3 → h' p = h p := fun p p1 p2 p3 p4 p5 => by rw [q6 p p2 (by omega)]; exact v5 p p1 p2 p3 p4
    refine ⟨h', r', achv_of hin (show r'.2.1 ≤ r.2.1 by omega) (show r'.2.2 ≤ r.2.2 by omega), ?_, fun p p1 p2 => x5 p p2 (by omega) (by omega) (by omega) (by omega), q5, ?_, by omega, by omega, by omega, by omega, by omega⟩
    · refine ⟨r.1, r.1 + 1, arr', r.1 + 2, _, fun _ => 4, fun _ => E, mc, 0, cap, 16, ga, fun _ => 0, ⟨?_, w1, w3, ?_, ?_⟩, ⟨w4, w5, w6, by decide, by decide⟩, ⟨fun i => ⟨0, by decide, rfl⟩, by decide, by decide, fun i hi => by omega, bIx_new (n := r.1 + 2) (fun i hi => by have := hKb i hi; omega)⟩, ⟨⟨Nat.le_refl _, by omega⟩, ⟨by omega, by omega⟩, ⟨by omega, by omega⟩, ⟨by omega, by omega⟩, ⟨by omega, by omega⟩⟩, fun i hi => ⟨l, u, by omega, by omega, ?_, fun p p1 p2 => ⟨by omega, by omega, by omega, by omega, by omega⟩⟩, fun i hi => by omega, rfl⟩
      · rw [q6 ch (by omega) (by omega)]; exact v1
      · rw [q6 (r.1 + 1) (by omega) (by omega)]; exact v3
      · rw [q6 (r.1 + 2) (by omega) (by omega)]; exact v4
      · have e0 : i = 0 := by omega
        subst e0
        exact FoR_eq hF (fun p p1 p2 => x5 p (by omega) (by omega) (by omega) (by omega) (by omega))
    · exact KN_kp (X := [ch]) hK hKb (fun p hp => by
        rw [List.mem_singleton.mp hp, hc]
        intro x; cases x) (fun p hp hn => x5 p (fun x => hn (by rw [x]; exact List.mem_singleton.mpr rfl)) (by omega) (by omega) (by omega) (by omega))
theorem Ch_add (hS : ChS K dd cv h lo hi ch k E) (hf : FR h r.1) (hK : KN K h) (hK01 : K 0 ≠ K 1) (hKb : ∀ i, i < 500 → K i < r.1) (hhi : hi ≤ l) (hF : FoR K dd cv h l u a E1) (hu : u ≤ r.1) (o1 : 4 ≤ o) (o2 : o ≤ 11) (hk : k ≤ 800) (h1 : 2 ≤ r.2.1) (h2 : 4 * k + 30 ≤ r.2.2) :
    ∃ h' r', vc h ch 6 (achv r (C7_add K h r ch (i3 (chrN o)) a)) = some (h', r') ∧ ChS K dd cv h' lo r'.1 ch (k + 1) (fun v => wk o (E v) (E1 v)) ∧ (∀ p, p < lo → h' p = h p) ∧ FR h' r'.1 ∧ KN K h' ∧ r.1 ≤ r'.1 ∧ r'.2.1 ≤ r.2.1 ∧ r'.2.2 ≤ r.2.2 ∧ r.2.1 ≤ r'.2.1 + 2 ∧ r.2.2 ≤ r'.2.2 + (4 * k + 30) := by
  obtain ⟨li, sb, ar, bs, eL, oL, EL, mc, ml, cap, cb, ga, g, ⟨a1, a2, a3, a4, a5⟩, ⟨b1, b2, b3, b4, b5⟩, ⟨c1, c2, c3, c4, c5⟩, ⟨⟨d1, d2⟩, ⟨d3, d4⟩, ⟨d5, d6⟩, ⟨d7, d8⟩, ⟨d9, d10⟩⟩, f, x, y⟩ := hS
  have hlu := hF.1
  obtain ⟨bs', k1, r1, cb', g', p1, p2, p3, p4, p5, p6, p7, p8, p9, p10, p11, p12, p13, p14, p15⟩ := SB_add (ch := chrN o) hK hKb hf a4 a5 c1 c2 c3 (by omega) (chrN_lt o) (by omega) (by omega)
  have hhr : hi ≤ r.1 := by omega
  have hb' : bs' = bs ∨ bs' = r.1 := by
    rcases p9 with z | z
    · exact .inl z.1
    · exact .inr z.1
  have hr1 : r.1 ≤ r1.1 ∧ r1.1 ≤ r.1 + 1 := by
    rcases p9 with z | z
    · rw [z.2]; omega
    · have := z.2; omega
  have nb : ∀ x, x < hi → x ≠ bs → x ≠ bs' := fun x x1 x2 => by
    rcases hb' with w | w
    · rw [w]; exact x2
    · omega
  have hB : lo ≤ bs' ∧ bs' < r1.1 := by
    refine ⟨?_, FR_lt p11 p3⟩
    rcases hb' with w | w
    · omega
    · omega
  have n1 : hid (ch ≠ sb) := fun z => by rw [z, a4] at a1; cases a1
  have n2 : hid (ch ≠ bs) := fun z => by rw [z, a5] at a1; cases a1
  have n3 : hid (li ≠ sb) := fun z => by rw [z, a4] at a2; cases a2
  have n4 : hid (li ≠ bs) := fun z => by rw [z, a5] at a2; cases a2
  have n5 : hid (ar ≠ sb) := fun z => by rw [z, a4] at a3; cases a3
  have n6 : hid (ar ≠ bs) := fun z => by rw [z, a5] at a3; cases a3
  have n7 : hid (ch ≠ li) := fun z => by rw [z, a2] at a1; cases a1
  have n8 : hid (ch ≠ ar) := fun z => by rw [z, a3] at a1; cases a1
  have n9 : hid (li ≠ ar) := fun z => by rw [z, a3] at a2; cases a2
  have n10 : hid (sb ≠ bs) := fun z => by rw [z, a5] at a4; cases a4
  have k_ch : k1 ch = _ := (p10 ch n1 (nb ch d2 n2)).trans a1
  have k_li : k1 li = _ := (p10 li n3 (nb li d4 n4)).trans a2
  have k_ar : k1 ar = _ := (p10 ar n5 (nb ar d6 n6)).trans a3
  have kk : ∀ p, p ≠ sb → p ≠ bs → p ≠ r.1 → k1 p = h p := fun p q1 q2 q3 => p10 p q1 (fun w => by
    rcases hb' with z | z
    · exact q2 (w.trans z)
    · exact q3 (w.trans z))
  have K1 : KN K k1 := KN_kp (X := [sb, bs]) hK hKb (fun p hp => by
    rcases List.mem_cons.mp hp with rfl | hp
    · rw [a4]; intro z; cases z
    · rw [List.mem_singleton.mp hp, a5]; intro z; cases z) (fun p hp hn => kk p (fun z => hn (by rw [z]; simp)) (fun z => hn (by rw [z]; simp)) (by omega))
  have hL1 : LMu K k1 li ar k eL := ⟨mc, k_li, .inr ⟨cap, ga, k_ar, b1, b2, b3⟩⟩
  have hF1 : FoR K dd cv k1 l u a E1 := FoR_eq hF (fun p q1 q2 => kk p (by omega) (by omega) (by omega))
  have hch1 : ∀ i, i < k → ∃ l u, lo ≤ l ∧ u ≤ hi ∧ FoR K dd cv k1 l u (eL i) (EL i) ∧ ∀ p, l ≤ p → p < u → p ≠ ch ∧ p ≠ li ∧ p ≠ ar ∧ p ≠ sb ∧ p ≠ bs := by
    intro i hi2
    obtain ⟨l', u', l1, l2, l3, l4⟩ := f i hi2
    exact ⟨l', u', l1, l2, FoR_eq l3 (fun p q1 q2 => kk p (l4 p q1 q2).2.2.2.1 (l4 p q1 q2).2.2.2.2 (by omega)), l4⟩
  obtain ⟨arr', h', r', q1, q2, q3, q4, q5, q6, q7, q8, q9, q10⟩ := C_add (x := a) (r := r1) hL1 (by omega) p11 K1 hK01 (fun i hi2 => by have := hKb i hi2; omega) (fun i hi2 => by
    obtain ⟨l', u', l1, l2, l3, l4⟩ := hch1 i hi2
    exact FoR_ok l3) (FoR_ok hF1) (Ne.symm n9) (by omega) (by omega)
  have ha' : arr' = ar ∨ arr' = r1.1 := by
    rcases q3 with z | z
    · exact .inl z.1
    · exact .inr z.1
  have hr' : r1.1 ≤ r'.1 ∧ r'.1 ≤ r1.1 + 1 ∧ (arr' = r1.1 → r'.1 = r1.1 + 1) := by
    rcases q3 with ⟨z1, z2, -⟩ | ⟨z1, z2⟩
    · exact ⟨by omega, by omega, fun w => by omega⟩
    · exact ⟨by omega, by omega, fun _ => z2⟩
  have hA : lo ≤ arr' ∧ arr' < r'.1 := by
    obtain ⟨_, q4⟩ := q4
    refine ⟨?_, FR_lt q5 q4⟩
    rcases ha' with w | w
    · omega
    · omega
  have na : ∀ x, x < hi → x ≠ ar → x ≠ arr' := fun x x1 x2 => by
    rcases ha' with w | w
    · rw [w]; exact x2
    · omega
  obtain ⟨mc', w1, w2⟩ := q2
  rcases w2 with w2 | ⟨cap', ga', w3, w4, w5, w6⟩
  · exact absurd w2.1 (Nat.succ_ne_zero _)
  · have hh : ∀ p, p ≠ li → p ≠ ar → p ≠ r1.1 → h' p = k1 p := fun p z1 z2 z3 => q6 p z1 (fun w => by
      rcases ha' with y | y
      · exact z2 (w.trans y)
      · exact z3 (w.trans y))
    have h_ch : h' ch = _ := (hh ch n7 n8 (by omega)).trans k_ch
    have h_sb : h' sb = _ := (hh sb (Ne.symm n3) (Ne.symm n5) (by omega)).trans p2
    have h_bs : h' bs' = _ := (hh bs' (Ne.symm (nb li d4 n4)) (Ne.symm (nb ar d6 n6)) (by omega)).trans p3
    refine ⟨h', r', ?_, ⟨li, sb, arr', bs', _, (fun i => if i = k - 1 then o else oL i), (fun i => if i = k then E1 else EL i), mc', ml, cap', cb', ga', g', ⟨h_ch, w1, w3, ?_, h_bs⟩, ⟨w4, w5, w6, by omega, by omega⟩, ⟨p4, by omega, by omega, fun i hi2 => ?_, ?_⟩, ⟨⟨d1, by omega⟩, ⟨d3, by omega⟩, hA, ⟨d7, by omega⟩, ⟨hB.1, by omega⟩⟩, fun i hi2 => ?_, fun i hi2 => ?_, ?_⟩, fun p hp => ?_, q5, ?_, by omega, by omega, by omega, by omega, by omega⟩
    · rw [vc_of a1]
      have e7 : C7_add K h r ch (i3 (chrN o)) a = some (h', r') := by
        unfold C7_add
        rw [gR_of a1 (k := 1) rfl, Option.bind_some, p1, Option.bind_some]
        dsimp only
        rw [gR_of k_ch (k := 0) rfl, Option.bind_some, q1, Option.bind_some]
      exact achv_of e7 (show r'.2.1 ≤ r.2.1 by omega) (show r'.2.2 ≤ r.2.2 by omega)
    · rw [h_sb]
      rw [show k + 1 - 1 = k - 1 + 1 by omega]
    · show g' i = i3 (chrN (if i = k - 1 then o else oL i))
      by_cases ei : i = k - 1
      · rw [if_pos ei, ei]; exact p8
      · rw [if_neg ei, p7 i (by omega)]; exact c4 i (by omega)
    · rcases hb' with z | z
      · rw [z]; exact c5
      · rw [z]; exact bIx_new hKb
    · show ∃ l u, lo ≤ l ∧ u ≤ r'.1 ∧ FoR K dd cv h' l u (if i = k then a else eL i) ((if i = k then E1 else EL i)) ∧ ∀ p, l ≤ p → p < u → p ≠ ch ∧ p ≠ li ∧ p ≠ arr' ∧ p ≠ sb ∧ p ≠ bs'
      by_cases ei : i = k
      · rw [if_pos ei, if_pos ei]
        refine ⟨l, u, by omega, by omega, FoR_eq hF1 (fun p z1 z2 => hh p (by omega) (by omega) (by omega)), fun p z1 z2 => ⟨by omega, by omega, fun w => ?_, by omega, fun w => ?_⟩⟩
        · rcases ha' with y | y
          · omega
          · omega
        · rcases hb' with y | y
          · omega
          · omega
      · rw [if_neg ei, if_neg ei]
        obtain ⟨l', u', l1, l2, l3, l4⟩ := hch1 i (by omega)
        refine ⟨l', u', l1, by omega, FoR_eq l3 (fun p z1 z2 => ?_), fun p z1 z2 => ?_⟩
        · have := l4 p z1 z2
          exact hh p this.2.1 this.2.2.1 (by omega)
        · have := l4 p z1 z2
          exact ⟨this.1, this.2.1, na p (by omega) this.2.2.1, this.2.2.2.1, nb p (by omega) this.2.2.2.2⟩
    · show 4 ≤ (if i = k - 1 then o else oL i) ∧ (if i = k - 1 then o else oL i) ≤ 11
      by_cases ei : i = k - 1
      · rw [if_pos ei]; exact ⟨o1, o2⟩
      · rw [if_neg ei]; exact x i (by omega)
    · obtain ⟨k0, rfl⟩ : ∃ k0, k = k0 + 1 := ⟨k - 1, by omega⟩
      show (fun v => wk o (E v) (E1 v)) = fun v => wk (if k0 = k0 + 1 - 1 then o else oL k0) (chF (fun i => if i = k0 + 1 then E1 else EL i) (fun i => if i = k0 + 1 - 1 then o else oL i) k0 v) ((if k0 + 1 = k0 + 1 then E1 else EL (k0 + 1)) v)
      rw [if_pos (by omega), if_pos rfl, chF_congr (EL := EL) (oL := oL) k0 (fun j hj => if_neg (by omega)) (fun j hj => if_neg (by omega)), y]
      rfl
    · rw [hh p (by omega) (by omega) (by omega)]
      exact kk p (by omega) (by omega) (by omega)
    · exact KN_kp (X := [li, ar]) K1 (n := r1.1) (fun i hi2 => by have := hKb i hi2; omega) (fun p hp => by
        rcases List.mem_cons.mp hp with rfl | hp
        · rw [k_li]; intro z; cases z
        · rw [List.mem_singleton.mp hp, k_ar]; intro z; cases z) (fun p hp hn => hh p (fun z => hn (by rw [z]; simp)) (fun z => hn (by rw [z]; simp)) (by omega))
end CADD
