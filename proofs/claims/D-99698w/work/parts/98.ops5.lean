/-! ===== operations that read: toRead, fault, game, odd, together ===== -/
section OPS5
variable {K : Nat → Nat} {h : CH} {r : CR} {o N : Nat} {σ : MS}
theorem RS_mono {q : CS} {S : ST} {f : CH} {B : Nat → Nat} {sT aT hT : Option Nat} {seed : Int32} {ea eh : Nat → Nat} {s1 : MS} (hp : RCp K q.1 q.2.1 o S f B sT aT hT seed ea eh) (hM : RM s1 S) (h1 : 2300 * (N + 1) + 100 * zt S ≤ q.2.2.1) (h2 : 90000 * (N + 1) + 3000 * zt S ≤ q.2.2.2) : RS K o q s1 N :=
  ⟨S, ⟨f, B, sT, aT, hT, seed, ea, eh, hp⟩, hM, by omega, by omega⟩
theorem op_fault (hS : RS K o (h, r) σ (N + 1)) : ∃ v σ', C1_fault h o = some v ∧ M_fault σ = some (v, σ') ∧ RS K o (h, r) σ' N := by
  obtain ⟨S, ⟨f, B, sT, aT, hT, seed, ea, eh, hp⟩, hM, hr1, hr2⟩ := hS
  have hZ := RCp_Z hp
  obtain ⟨hv, hs, ht, hF, hacts, hheard, hrf⟩ := RD_of hp
  have hM1 : RM (sf σ 0 0) S := RM_gx hZ (Gx_sf (.inl rfl)) hM
  unfold C1_fault M_fault
  rw [show pf σ 0 0 = some (sf σ 0 0) from rfl, hF]
  simp only [ob_s]
  rw [hM1.2.2.2.2.2.2.1]
  exact ⟨_, _, rfl, rfl, RS_mono hp hM1 hr1 hr2⟩
theorem op_toRead (hS : RS K o (h, r) σ (N + 1)) : ∃ v σ', C1_toRead h o = some v ∧ M_toRead σ = some (v, σ') ∧ RS K o (h, r) σ' N := by
  obtain ⟨S, ⟨f, B, sT, aT, hT, seed, ea, eh, hp⟩, hM, hr1, hr2⟩ := hS
  have hZ := RCp_Z hp
  obtain ⟨hv, hs, ht, hF, hacts, hheard, hrf⟩ := RD_of hp
  have hM1 : RM (sf σ 0 0) S := RM_gx hZ (Gx_sf (.inl rfl)) hM
  unfold C1_toRead M_toRead
  rw [show pf σ 0 0 = some (sf σ 0 0) from rfl]
  simp only [ob_s]
  generalize sf σ 0 0 = s1 at hM1
  have mv := RM_MV hZ hM1
  have hQ := hZ.1.2.2.1
  obtain ⟨wl, fw, w1, w2, w3⟩ := cx_w hv.1
  obtain ⟨q1, q2, m1, m2, m3⟩ : ∃ (q1 : Int32) (q2 : Int32 × MS), o_loop (C1_toRead_L4 h o) (0, 0) = some q1 ∧ o_loop (M_toRead_L9 s1) (0, 0) = some q2 ∧ q2 = (q1, s1) := by
    refine o_two (fun k (x1 : Int32 × Int32) (x2 : Int32 × Int32) => ∃ b, x1 = (b, i3 k) ∧ x2 = (b, i3 k)) (fun (q1 : Int32) (q2 : Int32 × MS) => q2 = (q1, s1)) (pQ' (zP S)) (fun k x1 x2 hk hI => ?_) (fun x1 x2 hI => ?_) 0 _ _ (Nat.zero_le _) ⟨_, rfl, rfl⟩
    · obtain ⟨b, rfl, rfl⟩ := hI
      obtain ⟨hA, hB, hAB⟩ := hZ.1.2.2.2.2.2.2 k hk
      obtain ⟨x1, x2, x3, x4⟩ := w3 k hk
      unfold C1_toRead_L4 M_toRead_L9
      dsimp only
      rw [cx_1 hv.1, mv.2.1.1.2.2.1, mv_A mv hk, mv_B mv hk]
      simp only [ob_s, w1, w2]
      rw [if_pos ((i3_lt (by omega) (by omega)).mpr hk), if_pos ((i3_lt (by omega) (by omega)).mpr hk), m0_fit mv hA hB]
      simp only [ob_s, x1, x2, x3, x4, hs, sv_vc hv, C3_fits_eq hv hA hB, i3_succ]
      left
      cases e : fit (zP S) (zw S) (pA (zP S) k) (pB (zP S) k)
      · rw [if_pos bI_f, if_pos bI_f]
        simp only [ob_s, Int32.or_zero]
        exact ⟨_, _, rfl, rfl, _, rfl, rfl⟩
      · rw [if_neg bI_t0, if_neg bI_t0]
        simp only [ob_s]
        exact ⟨_, _, rfl, rfl, _, rfl, rfl⟩
    · obtain ⟨b, rfl, rfl⟩ := hI
      unfold C1_toRead_L4 M_toRead_L9
      dsimp only
      rw [cx_1 hv.1, mv.2.1.1.2.2.1]
      simp only [ob_s, w1, w2]
      rw [if_neg (fun x => absurd ((i3_lt (by omega) (by omega)).mp x) (by omega)), if_neg (fun x => absurd ((i3_lt (by omega) (by omega)).mp x) (by omega))]
      exact ⟨_, _, rfl, rfl, rfl⟩
  subst m3
  rw [m1, m2]
  exact ⟨_, _, rfl, rfl, RS_mono hp hM1 hr1 hr2⟩
/-! a game -/
/-- words that one reads by sheets that one sees, and doesn't know -/
def nwt (P : PO) (w : SV) (c s : Nat) : Nat := pc (rdO P w s &&& (w (28 + c) ^^^ (2 ^ 32 - 1)))
theorem nwt_le (P : PO) (w : SV) (c s : Nat) : nwt P w c s ≤ 12 := pc_le _
theorem nwt_eq {P : PO} {w : SV} (hP : WFP P) (c s : Nat) : nwt P w c s = smf (fun i => ((s.testBit (pA P i) && s.testBit (pB P i) && fit P w (pA P i) (pB P i)) && !(w (28 + c)).testBit i).toNat) (pQ' P) := by
  have hQ := hP.2.2.1
  unfold nwt pc
  rw [← smf_cut 12 hQ]
  apply smf_congr
  intro i hi
  rw [ntb_bit (p2 (b := 31) (rdO_lt P w s) (by omega))]
  unfold rdO
  rw [bst_bit, Bool.and_assoc]
theorem M_newTo_eq {P : PO} {w : SV} {s1 : MS} (mv : MV s1 0 P w) {c s : Nat} (hc : c < pM P) (hs : s < 2 ^ 31) : M_newTo s1 (i3 c) (i3 s) = some (i3 (nwt P w c s)) := by
  have hQ := mv.1.2.2.1
  have hN := mv.1.1
  rw [nwt_eq mv.1]
  unfold M_newTo
  refine o_for0 (fun k => (i3 (smf (fun i => ((s.testBit (pA P i) && s.testBit (pB P i) && fit P w (pA P i) (pB P i)) && !(w (28 + c)).testBit i).toNat) k), i3 k)) (pQ' P) rfl (fun k hk => ?_) ?_
  · obtain ⟨hA, hB, hAB⟩ := mv.1.2.2.2.2.2.2 k hk
    have hw := mv.2.2.2.1.2.2.2.1 c hc
    unfold M_newTo_L5
    dsimp only
    rw [mv.2.1.1.2.2.1, if_pos ((i3_lt (by omega) (by omega)).mpr hk), mv_A mv hk, mv_B mv hk]
    simp only [ob_s, m0_fit mv hA hB, m0_28 mv hc, i3_bitB (p2 (b := 31) hw (by decide)) (show k < 32 by omega), i3_succ]
    show _ = some (Sum.inl (i3 (_ + ((s.testBit (pA P k) && s.testBit (pB P k) && fit P w (pA P k) (pB P k)) && !(w (28 + c)).testBit k).toNat), i3 (k + 1)))
    generalize smf (fun i => ((s.testBit (pA P i) && s.testBit (pB P i) && fit P w (pA P i) (pB P i)) && !(w (28 + c)).testBit i).toNat) k = acc
    cases e : (s.testBit (pA P k) && s.testBit (pB P k))
    · rw [if_neg (fun x => by rw [bit2 hs (by omega) (by omega), e] at x; cases x)]
      simp only [ob_s, Int32.add_zero, Bool.false_and]
      rfl
    · rw [if_pos ((bit2 hs (by omega) (by omega)).mpr e)]
      cases e2 : fit P w (pA P k) (pB P k)
      · rw [if_pos bI_f]
        simp only [ob_s, Int32.add_zero, Bool.and_false, Bool.false_and]
        rfl
      · rw [if_neg bI_t0]
        cases e3 : (w (28 + c)).testBit k
        · rw [if_pos bI_f]
          simp only [ob_s]
          rw [show i3 acc + 1 = i3 (acc + 1) from i3_add acc 1]
          rfl
        · rw [if_neg bI_t0]
          simp only [ob_s, Int32.add_zero]
          rfl
  · unfold M_newTo_L5
    dsimp only
    rw [mv.2.1.1.2.2.1, if_neg (fun x => absurd ((i3_lt (by omega) (by omega)).mp x) (by omega))]
/-- what one sees: what one bears, and what the other one shows -/
def see (P : PO) (w : SV) (c o : Nat) (b : Bool) : Nat := bbn P w c ||| (if b = true then bbn P w o else 0)
theorem see_lt {P : PO} (hP : WFP P) (w : SV) (c o : Nat) (b : Bool) : see P w c o b < 2 ^ 9 := by
  have hN := hP.1
  refine Nat.or_lt_two_pow (p2 (bst_lt _ _) hN) ?_
  split
  · exact p2 (bst_lt _ _) hN
  · decide
def gai (P : PO) (w : SV) (c o : Nat) (a b : Bool) : Int32 := 3 * i3 (nwt P w c (see P w c o b)) - 2 * i3 (nwt P w o (see P w o c a))
theorem C1_news_eq {off vs : Nat} {f : CH} {P : PO} {s : Nat} {A : Nat → Nat} {w : SV} (h1 : CSV K h o off vs f P s A w) (hs : gR h o 1 2 = some s) {c d : Nat} (hc : c < pM P) (hd : d < pM P) (b : Bool) : C1_news h o (i3 c) (i3 d) (bI b) = some (i3 (nwt P w c (see P w c d b))) := by
  have hM := h1.1.1.2.1
  have hQ := h1.1.1.2.2.1
  have hw := (sv_w h1).2.2.2.1 c hc
  have hse := see_lt h1.1.1 w c d b
  have hrd : rdO P w (see P w c d b) < 2 ^ 12 := p2 (rdO_lt _ _ _) hQ
  have hlt : rdO P w (see P w c d b) &&& (w (28 + c) ^^^ (2 ^ 32 - 1)) < 2 ^ 12 := Nat.lt_of_le_of_lt Nat.and_le_left hrd
  unfold C1_news
  rw [hs]
  simp only [ob_s, sv_vc h1, C3_bornBy_eq h1 (show c < 99 by omega), C3_bornBy_eq h1 (show d < 99 by omega)]
  have e0 : (if bI b = 1 then some (i3 (bbn P w d)) else some 0 : Option Int32) = some (i3 (if b = true then bbn P w d else 0)) := by cases b <;> rfl
  rw [e0]
  simp only [ob_s, i3_or]
  show ((C3_readOf h s (i3 (see P w c d b))).bind _) = _
  rw [C3_readOf_eq h1 (p2 (b := 31) hse (by decide))]
  simp only [ob_s, sv_3 h1, sv_K h1 hc]
  rw [ntb _ _ (p2 (b := 31) hrd (by decide)) (p2 (b := 31) hw (by decide)), bitCount_eq hlt]
  rfl
theorem C1_gain_eq {off vs : Nat} {f : CH} {P : PO} {s : Nat} {A : Nat → Nat} {w : SV} (h1 : CSV K h o off vs f P s A w) (hs : gR h o 1 2 = some s) {c d : Nat} (hc : c < pM P) (hd : d < pM P) (a b : Bool) : vc h o 1 (C1_gain h o (i3 c) (i3 d) (bI a) (bI b)) = some (gai P w c d a b) := by
  rw [cx_vc h1.1]
  unfold C1_gain
  simp only [cx_vc h1.1, C1_news_eq h1 hs hc hd b, C1_news_eq h1 hs hd hc a, ob_s]
  rfl
theorem M_gains_eq {P : PO} {w : SV} {s1 : MS} (mv : MV s1 0 P w) {c d : Nat} (hc : c < pM P) (hd : d < pM P) (a b : Bool) : M_gains s1 (i3 c) (i3 d) (bI a) (bI b) = some (gai P w c d a b) := by
  have hM := mv.1.2.1
  have e0 : ∀ (q : Bool) (x : Nat), ((if bI q = 1 then some (i3 x) else some 0 : Option Int32)) = some (i3 (if q = true then x else 0)) := by intro q x; cases q <;> rfl
  unfold M_gains
  simp only [M_bears_eq mv (show c < 6 by omega), M_bears_eq mv (show d < 6 by omega), ob_s, e0, i3_or]
  have e1 := M_newTo_eq mv hc (p2 (b := 31) (see_lt mv.1 w c d b) (by decide))
  have e2 := M_newTo_eq mv hd (p2 (b := 31) (see_lt mv.1 w d c a) (by decide))
  unfold see at e1 e2
  simp only [e1, e2, ob_s]
  rfl
/-- whether a pair of choices is one where neither would do better otherwise -/
def stb (P : PO) (w : SV) (c d : Nat) (a b : Bool) : Bool := decide (gai P w c d (!a) b ≤ gai P w c d a b) && decide (gai P w d c (!b) a ≤ gai P w d c b a)
def gst (P : PO) (w : SV) (c d : Nat) (a b : Bool) (x : Int32 × Int32) : Int32 × Int32 := if stb P w c d a b = true then (x.1 + 1, if x.1 = 0 then 10 * bI a + bI b else x.2) else x
/-- none yet, or some -/
def gok (x : Int32 × Int32) (n : Nat) : Prop := x = (0, -1) ∨ ((∃ j, 1 ≤ j ∧ j ≤ n ∧ x.1 = i3 j) ∧ ¬ x.2 = -1)
theorem gok_st {P : PO} {w : SV} {c d : Nat} {a b : Bool} {x : Int32 × Int32} {n : Nat} (hn : n < 100) (h : gok x n) : gok (gst P w c d a b x) (n + 1) := by
  unfold gst
  split
  · rcases h with rfl | ⟨⟨j, h1, h2, h3⟩, h4⟩
    · right
      refine ⟨⟨1, by omega, by omega, rfl⟩, ?_⟩
      dsimp only
      rw [if_pos rfl]
      cases a <;> cases b <;> decide
    · right
      refine ⟨⟨j + 1, by omega, by omega, ?_⟩, ?_⟩
      · dsimp only
        rw [h3, i3_succ]
      · dsimp only
        rw [if_neg (by rw [h3, i3_eq0 (by omega)]; omega)]
        exact h4
  · rcases h with rfl | ⟨⟨j, h1, h2, h3⟩, h4⟩
    · exact .inl rfl
    · exact .inr ⟨⟨j, h1, by omega, h3⟩, h4⟩
theorem gok_0 {x : Int32 × Int32} {n : Nat} (hn : n < 2 ^ 31) (h : gok x n) : x.1 = 0 ↔ x.2 = -1 := by
  rcases h with rfl | ⟨⟨j, h1, h2, h3⟩, h4⟩
  · exact ⟨fun _ => rfl, fun _ => rfl⟩
  · rw [h3, i3_eq0 (by omega)]
    exact ⟨fun x => absurd x (by omega), fun x => absurd x h4⟩
theorem bI_not (a : Bool) : 1 - bI a = bI (!a) := by cases a <;> decide
theorem C_game_in {off vs : Nat} {f : CH} {P : PO} {s : Nat} {A : Nat → Nat} {w : SV} (h1 : CSV K h o off vs f P s A w) (hs : gR h o 1 2 = some s) {c d : Nat} (hc : c < pM P) (hd : d < pM P) (a b : Bool) (u v x y : Int32) : C1_game_L46 o (i3 c) (i3 d) (h, r) (u, v, bI a) (x, y, bI b) = some (.inl ((gst P w c d a b (x, y)).1, (gst P w c d a b (x, y)).2, bI b + 1)) := by
  unfold C1_game_L46
  dsimp only
  rw [if_pos (by cases b <;> decide), bI_not, bI_not, C1_gain_eq h1 hs hc hd, C1_gain_eq h1 hs hc hd, C1_gain_eq h1 hs hd hc, C1_gain_eq h1 hs hd hc]
  simp only [ob_s]
  unfold gst stb
  by_cases e1 : gai P w c d (!a) b ≤ gai P w c d a b
  · rw [if_pos e1, decide_eq_true e1, Bool.true_and]
    by_cases e2 : gai P w d c (!b) a ≤ gai P w d c b a
    · rw [if_pos e2, decide_eq_true e2, if_pos rfl]
      dsimp only
      by_cases e3 : x = 0
      · rw [if_pos e3, if_pos e3]
        simp only [xg_s]
      · rw [if_neg e3, if_neg e3]
        simp only [xg_s]
    · rw [if_neg e2, decide_eq_false e2, if_neg (by decide)]
      simp only [xg_s]
  · rw [if_neg e1, decide_eq_false e1, Bool.false_and, if_neg (by decide)]
    simp only [xg_s]
theorem C_game_row {off vs : Nat} {f : CH} {P : PO} {s : Nat} {A : Nat → Nat} {w : SV} (h1 : CSV K h o off vs f P s A w) (hs : gR h o 1 2 = some s) {c d : Nat} (hc : c < pM P) (hd : d < pM P) (a : Bool) (x : Int32 × Int32) : C1_game_L37 o (i3 c) (i3 d) (h, r) (x.1, x.2, bI a) = some (.inl ((gst P w c d a true (gst P w c d a false x)).1, (gst P w c d a true (gst P w c d a false x)).2, bI a + 1)) := by
  have e1 := C_game_in (r := r) h1 hs hc hd a false x.1 x.2 x.1 x.2
  have e2 := C_game_in (r := r) h1 hs hc hd a true x.1 x.2 (gst P w c d a false x).1 (gst P w c d a false x).2
  have e3 : ∀ u v : Int32, C1_game_L46 o (i3 c) (i3 d) (h, r) (x.1, x.2, bI a) (u, v, 2) = some (.inr (.inl (u, v))) := by
    intro u v
    unfold C1_game_L46
    dsimp only
    rw [if_neg (by decide)]
  have el : o_loop (C1_game_L46 o (i3 c) (i3 d) (h, r) (x.1, x.2, bI a)) (x.1, x.2, 0) = some (.inl ((gst P w c d a true (gst P w c d a false x)).1, (gst P w c d a true (gst P w c d a false x)).2)) := by
    rw [o_loop_eq, show ((x.1, x.2, (0 : Int32)) : Int32 × Int32 × Int32) = (x.1, x.2, bI false) from rfl, e1]
    rw [Option.bind_some]
    dsimp only
    rw [o_loop_eq, show (bI false + 1 : Int32) = bI true from rfl, e2]
    rw [Option.bind_some]
    dsimp only
    rw [o_loop_eq, show (bI true + 1 : Int32) = 2 from rfl, e3]
    rfl
  unfold C1_game_L37
  dsimp only
  rw [if_pos (by cases a <;> decide), el, xg_l]
theorem C_game_all {off vs : Nat} {f : CH} {P : PO} {s : Nat} {A : Nat → Nat} {w : SV} (h1 : CSV K h o off vs f P s A w) (hs : gR h o 1 2 = some s) {c d : Nat} (hc : c < pM P) (hd : d < pM P) : o_loop (C1_game_L37 o (i3 c) (i3 d) (h, r)) (0, -1, 0) = some (.inl (gst P w c d true true (gst P w c d true false (gst P w c d false true (gst P w c d false false (0, -1)))))) := by
  rw [o_loop_eq, show ((0, -1, 0) : Int32 × Int32 × Int32) = (((0, -1) : Int32 × Int32).1, ((0, -1) : Int32 × Int32).2, bI false) from rfl, C_game_row h1 hs hc hd false (0, -1), Option.bind_some]
  dsimp only
  rw [o_loop_eq, show (bI false + 1 : Int32) = bI true from rfl, C_game_row h1 hs hc hd true, Option.bind_some]
  dsimp only
  rw [o_loop_eq, show (bI true + 1 : Int32) = 2 from rfl]
  unfold C1_game_L37
  dsimp only
  rw [if_neg (by decide)]
  rfl
theorem M_game_in {P : PO} {w : SV} {s1 : MS} (mv : MV s1 0 P w) {c d : Nat} (hc : c < pM P) (hd : d < pM P) (a b : Bool) (k : Int32) (hk1 : k / 2 = bI a) (hk2 : imod k 2 = bI b) (hk : k < 4) {x : Int32 × Int32} {n : Nat} (hn : n < 100) (hx : gok x n) : M_game_L59 (i3 c) (i3 d) (1, s1) (x.1, x.2, k) = some (.inl ((gst P w c d a b x).1, (gst P w c d a b x).2, k + 1)) := by
  unfold M_game_L59
  dsimp only
  rw [if_pos hk, hk1, hk2, bI_not, bI_not, M_gains_eq mv hc hd, M_gains_eq mv hc hd, M_gains_eq mv hd hc, M_gains_eq mv hd hc]
  simp only [ob_s]
  unfold gst stb
  by_cases e1 : gai P w c d (!a) b ≤ gai P w c d a b
  · rw [if_pos e1, decide_eq_true e1, Bool.true_and]
    by_cases e2 : gai P w d c (!b) a ≤ gai P w d c b a
    · rw [if_pos e2, decide_eq_true e2, if_pos rfl]
      dsimp only
      by_cases e3 : x.1 = 0
      · rw [if_pos e3, if_pos ((gok_0 (by omega) hx).mp e3)]
        simp only [ob_s]
      · rw [if_neg e3, if_neg (fun q => e3 ((gok_0 (by omega) hx).mpr q))]
        simp only [ob_s]
    · rw [if_neg e2, decide_eq_false e2, if_neg (by decide)]
      simp only [ob_s]
  · rw [if_neg e1, decide_eq_false e1, Bool.false_and, if_neg (by decide)]
    simp only [ob_s]
theorem M_game_all {P : PO} {w : SV} {s1 : MS} (mv : MV s1 0 P w) {c d : Nat} (hc : c < pM P) (hd : d < pM P) : o_loop (M_game_L59 (i3 c) (i3 d) (1, s1)) (0, -1, 0) = some (gst P w c d true true (gst P w c d true false (gst P w c d false true (gst P w c d false false (0, -1))))) := by
  have g0 : gok ((0, -1) : Int32 × Int32) 0 := .inl rfl
  have g1 := gok_st (P := P) (w := w) (c := c) (d := d) (a := false) (b := false) (by decide) g0
  have g2 := gok_st (P := P) (w := w) (c := c) (d := d) (a := false) (b := true) (by decide) g1
  have g3 := gok_st (P := P) (w := w) (c := c) (d := d) (a := true) (b := false) (by decide) g2
  rw [o_loop_eq, show ((0, -1, 0) : Int32 × Int32 × Int32) = (((0, -1) : Int32 × Int32).1, ((0, -1) : Int32 × Int32).2, 0) from rfl, M_game_in mv hc hd false false 0 (by decide) (by decide) (by decide) (by decide) g0, Option.bind_some]
  dsimp only
  rw [o_loop_eq, M_game_in mv hc hd false true (0 + 1) (by decide) (by decide) (by decide) (by decide) g1, Option.bind_some]
  dsimp only
  rw [o_loop_eq, M_game_in mv hc hd true false (0 + 1 + 1) (by decide) (by decide) (by decide) (by decide) g2, Option.bind_some]
  dsimp only
  rw [o_loop_eq, M_game_in mv hc hd true true (0 + 1 + 1 + 1) (by decide) (by decide) (by decide) (by decide) g3, Option.bind_some]
  dsimp only
  rw [o_loop_eq]
  unfold M_game_L59
  dsimp only
  rw [if_neg (by decide)]
  rfl

theorem op_game (hS : RS K o (h, r) σ (N + 1)) (a0 a1 a2 : Int32) : ∃ z v σ', C1_game h r o a0 a1 a2 = some z ∧ M_game σ a0 a1 a2 = some (v, σ') ∧ JN K o r N true 2 z v σ' := by
  obtain ⟨S, ⟨f, B, sT, aT, hT, seed, ea, eh, hp⟩, hM, hr1, hr2⟩ := hS
  dsimp only at hp hr1 hr2
  have hZ := RCp_Z hp
  obtain ⟨hv, hs, ht, hF, hacts, hheard, hrf⟩ := RD_of hp
  have hM1 : RM (sf σ 0 0) S := RM_gx hZ (Gx_sf (.inl rfl)) hM
  have h0 : mf (sf σ 0 0) 0 = 0 := mf_sf0
  unfold C1_game M_game
  rw [show pf σ 0 0 = some (sf σ 0 0) from rfl, Option.bind_some]
  generalize sf σ 0 0 = s1 at hM1 h0
  have mv := RM_MV hZ hM1
  have hN := hZ.1.1
  have hMM := hZ.1.2.1
  have hQ := hZ.1.2.2.1
  cases e0 : inR a0 (pM (zP S))
  · rw [aC_no hv.1 e0 (by omega) (by omega), xg_r, mC_no mv.2.1 mv.1 h0 e0, Option.bind_some, if_pos (show ((0 : Int32), sf s1 0 1).1 = 0 from rfl)]
    exact ⟨_, _, _, rfl, rfl, JN_thr hp hM1 hr1 hr2 (.inl ⟨rfl, rfl, rfl⟩)⟩
  rw [aC_ok hv.1 e0, xg_l, mC_ok mv.2.1 mv.1 h0 e0, Option.bind_some, if_neg (show ¬ ((1 : Int32), s1).1 = 0 from i_ne10)]
  try dsimp only
  obtain ⟨k0, hk0, rfl⟩ := inR_is e0
  cases e1 : inR a1 (pM (zP S))
  · rw [aC_no hv.1 e1 (by omega) (by omega), xg_r, mC_no mv.2.1 mv.1 h0 e1, Option.bind_some, if_pos (show ((0 : Int32), sf s1 0 1).1 = 0 from rfl)]
    exact ⟨_, _, _, rfl, rfl, JN_thr hp hM1 hr1 hr2 (.inl ⟨rfl, rfl, rfl⟩)⟩
  rw [aC_ok hv.1 e1, xg_l, mC_ok mv.2.1 mv.1 h0 e1, Option.bind_some, if_neg (show ¬ ((1 : Int32), s1).1 = 0 from i_ne10)]
  try dsimp only
  obtain ⟨k1, hk1, rfl⟩ := inR_is e1
  cases e2 : inR a2 (1 + 1)
  · rw [aO_no (y := 1) (m := 1) rfl (by decide) e2 (by omega) (by omega), xg_r, mO_no (y := 1) (m := 1) rfl (by decide) h0 e2, Option.bind_some, if_pos (show ((0 : Int32), sf s1 0 1).1 = 0 from rfl)]
    exact ⟨_, _, _, rfl, rfl, JN_thr hp hM1 hr1 hr2 (.inl ⟨rfl, rfl, rfl⟩)⟩
  rw [aO_ok (y := 1) (m := 1) rfl (by decide) e2, xg_l, mO_ok (y := 1) (m := 1) rfl (by decide) h0 e2, Option.bind_some, if_neg (show ¬ ((1 : Int32), s1).1 = 0 from i_ne10)]
  try dsimp only
  obtain ⟨k2, hk2, rfl⟩ := inR_is e2
  by_cases e3 : k0 = k1
  · subst e3
    rw [if_pos rfl, if_pos rfl]
    simp only [xg_s, ob_s]
    rw [show xchv r (C1_right h r 0) = _ from rg_no (by omega) (by omega), xg_r, show M_right s1 0 2 = _ from M_right_no h0 (by decide), Option.bind_some, if_pos (show ((0 : Int32), sf s1 0 2).1 = 0 from rfl)]
    exact ⟨_, _, _, rfl, rfl, JN_thr hp hM1 hr1 hr2 (.inr ⟨rfl, by decide, rfl⟩)⟩
  · rw [if_neg (fun x => e3 ((i3_inj (by omega) (by omega)).mp x)), if_neg (fun x => e3 ((i3_inj (by omega) (by omega)).mp x))]
    simp only [xg_s, ob_s]
    rw [show xchv r (C1_right h r 1) = _ from rg_ok, xg_l, show M_right s1 1 2 = _ from M_right_ok h0 2, Option.bind_some, if_neg (show ¬ ((1 : Int32), s1).1 = 0 from i_ne10), C_game_all hv hs hk0 hk1, M_game_all mv hk0 hk1, xg_l, Option.bind_some]
    have hcs : k2 = 0 ∨ k2 = 1 := by omega
    rcases hcs with rfl | rfl
    · rw [if_pos (show i3 0 = 0 from rfl), if_pos (show i3 0 = 0 from rfl)]
      exact ⟨_, _, _, rfl, rfl, JN_same hp hM1 h0 hr1 hr2⟩
    · rw [if_neg (show ¬ i3 1 = 0 by decide), if_neg (show ¬ i3 1 = 0 by decide)]
      exact ⟨_, _, _, rfl, rfl, JN_same hp hM1 h0 hr1 hr2⟩
end OPS5
