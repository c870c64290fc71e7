/-- (by hand, so that simp doesn't take it as true by unfolding) -/
theorem ob_s {α β : Type} (a : α) (f : α → Option β) : (some a).bind f = f a := by
  rw [Option.bind_some]
theorem xg_s {α δ : Type} (j : XT → δ) (a : α) (f : α → Option δ) : xg j (some (.inl a)) f = f a := by
  rw [xg_l]
/-! ===== operations that try days: read, mould, meet, gathering, wisest, unread, laid ===== -/
theorem grw_ne {P : PO} {w : SV} {k j : Nat} (h : j < 10 ∨ 19 ≤ j) (hk : k < pN P) (hN : pN P ≤ 9) : grw P k w j = w j := by
  unfold grw
  cases pZ P with
  | none => rfl
  | some E =>
    dsimp only
    split
    · rfl
    · split
      · rfl
      · exact upn_ne (by omega)
theorem ps1_ne {P : PO} {w : SV} {t j : Nat} (h : j < 28) : ps1 P t w j = w j := by
  unfold ps1
  split
  · rfl
  · split
    · unfold lrn
      rw [if_neg (by omega)]
    · rfl
/-- where sheets are doesn't change as days go by -/
theorem pas_19 {P : PO} {w : SV} {j : Nat} (hP : WFP P) (h1 : 19 ≤ j) (h2 : j < 28) : pas P w j = w j := by
  unfold pas
  rw [upn_ne (by omega)]
  unfold psG
  refine itf_inv (fun (a : SV) => a j = w j) (pN P) (fun k a hk ha => (grw_ne (.inr h1) hk hP.1).trans ha) _ (Nat.le_refl _) _ ?_
  exact itf_inv (fun (a : SV) => a j = w j) 4 (fun k a _ ha => (ps1_ne h2).trans ha) _ (Nat.le_refl _) _ rfl
theorem KQ_lrn {P : PO} {w : SV} (h : KQ P w) {s v : Nat} (hv : v < 2 ^ pQ' P) : KQ P (lrn P w s v) := by
  intro c hc
  unfold lrn
  split
  · exact Nat.or_lt_two_pow (h c hc) hv
  · exact h c hc
theorem KQ_pas {P : PO} {w : SV} (hP : WFP P) (h : KQ P w) : KQ P (pas P w) := by
  have hN := hP.1
  have e : KQ P (psG P w) := by
    unfold psG
    refine itf_inv (KQ P) (pN P) (fun k a hk ha c hc => ?_) _ (Nat.le_refl _) _ ?_
    · rw [grw_ne (.inr (by omega)) hk hP.1]
      exact ha c hc
    · refine itf_inv (KQ P) 4 (fun k a _ ha => ?_) _ (Nat.le_refl _) _ h
      unfold ps1
      split
      · exact ha
      · split
        · exact KQ_lrn ha (rdO_lt P a _)
        · exact ha
  intro c hc
  unfold pas
  rw [upn_ne (by omega)]
  exact e c hc
theorem KQ_aft {P : PO} {w : SV} (hP : WFP P) (h : KQ P w) (n : Nat) : KQ P (aft P n w) := by
  induction n with
  | zero => exact h
  | succ n ih => exact KQ_pas hP ih
/-- what more than one of the first c clerks know -/
def mor (w : SV) : Nat → Nat
  | 0 => 0
  | c + 1 => mor w c ||| (orf (fun c => w (28 + c)) c &&& w (28 + c))
def cnt (w : SV) (i c : Nat) : Nat := smf (fun c => ((w (28 + c)).testBit i).toNat) c
theorem orf_bit {f : Nat → Nat} {i : Nat} : ∀ c, (orf f c).testBit i = decide (0 < smf (fun c => ((f c).testBit i).toNat) c) := by
  intro c
  induction c with
  | zero => simp [orf, smf]
  | succ c ih =>
    unfold orf smf
    rw [Nat.testBit_or, ih]
    cases e : (f c).testBit i
    · simp
    · simp
theorem mor_bit {w : SV} {i : Nat} : ∀ c, (mor w c).testBit i = decide (1 < cnt w i c) := by
  intro c
  induction c with
  | zero => simp [mor, cnt, smf]
  | succ c ih =>
    unfold mor cnt smf
    rw [Nat.testBit_or, ih, Nat.testBit_and, orf_bit]
    unfold cnt
    cases e : (w (28 + c)).testBit i
    · simp
    · simp only [Bool.toNat_true, Bool.and_true]
      generalize smf (fun c => ((w (28 + c)).testBit i).toNat) c = q
      by_cases h0 : 1 < q
      · rw [decide_eq_true h0, decide_eq_true (by omega : 0 < q), decide_eq_true (by omega : 1 < q + 1)]; rfl
      · rw [decide_eq_false h0, Bool.false_or]
        apply decide_eq_decide.mpr
        omega
theorem smf_cut {b : Nat → Bool} {m : Nat} : ∀ n, m ≤ n → smf (fun k => (decide (k < m) && b k).toNat) n = smf (fun k => (b k).toNat) m := by
  intro n
  induction n with
  | zero => intro h; have : m = 0 := by omega
            subst this; rfl
  | succ n ih =>
    intro h
    by_cases e : m = n + 1
    · subst e
      apply smf_congr
      intro k hk
      rw [decide_eq_true hk, Bool.true_and]
    · show smf (fun k => (decide (k < m) && b k).toNat) n + (decide (n < m) && b n).toNat = _
      rw [ih (by omega), decide_eq_false (by omega), Bool.false_and]
      rfl
theorem pc_bst {b : Nat → Bool} {m : Nat} (hm : m ≤ 12) : pc (bst b m) = smf (fun k => (b k).toNat) m := by
  unfold pc
  rw [← smf_cut 12 hm]
  apply smf_congr
  intro k hk
  rw [bst_bit]
/-- words that exactly one knows -/
def onl (P : PO) (w : SV) : Nat := bst (fun i => decide (pc (kwr P w i) = 1)) (pQ' P)
theorem onl_eq {P : PO} {w : SV} (hP : WFP P) (hK : KQ P w) : orf (fun c => w (28 + c)) (pM P) &&& (mor w (pM P) ^^^ (2 ^ 32 - 1)) = onl P w := by
  have hM := hP.2.1
  have hQ := hP.2.2.1
  have hlt : orf (fun c => w (28 + c)) (pM P) < 2 ^ pQ' P := orf_lt _ hK
  apply Nat.eq_of_testBit_eq
  intro i
  rw [ntb_bit (p2 (b := 31) hlt (by omega))]
  unfold onl
  rw [bst_bit]
  by_cases hi : i < pQ' P
  · unfold kwr
    rw [pc_bst (by omega), orf_bit, mor_bit, decide_eq_true hi, Bool.true_and]
    unfold cnt
    generalize smf (fun c => ((w (28 + c)).testBit i).toNat) (pM P) = q
    by_cases h1 : q = 1
    · subst h1; rfl
    · rw [decide_eq_false h1]
      by_cases h0 : 0 < q
      · rw [decide_eq_true h0, decide_eq_true (by omega : 1 < q)]; rfl
      · rw [decide_eq_false h0]; rfl
  · rw [Nat.testBit_lt_two_pow (x := orf (fun c => w (28 + c)) (pM P)) (i := i) (p2 hlt (by omega)), decide_eq_false hi]
    rfl
theorem mor_lt {w : SV} {m : Nat} : ∀ c, (∀ k, k < c → w (28 + k) < 2 ^ m) → mor w c < 2 ^ m := by
  intro c
  induction c with
  | zero => intro _; exact Nat.two_pow_pos m
  | succ c ih =>
    intro h
    refine Nat.or_lt_two_pow (ih (fun k hk => h k (by omega))) (Nat.lt_of_le_of_lt Nat.and_le_right (h c (by omega)))
section OPS3
variable {K : Nat → Nat} {h : CH} {r : CR} {o N : Nat} {σ : MS}
theorem C_read_loop {S : ST} {f : CH} {B : Nat → Nat} {sT aT hT : Option Nat} {seed : Int32} {ea eh : Nat → Nat} {n k : Nat} {w : SV} {h2 : CH} {s1 s2 : MS} (hp : RCp K h n o S f B sT aT hT seed ea eh) (hT : TP K h o f (zP S) B s1 w k h2 s2) : o_loop (C1_read_L29 o (B 7, h2)) (0, 0, 0) = some (.inl (i3 (orf (fun c => w (28 + c)) (pM (zP S))), i3 (mor w (pM (zP S))))) := by
  have hM := (RCp_Z hp).1.2.1
  have g3 := TP_3 hp hT
  refine o_for0 (fun c => (i3 (orf (fun c => w (28 + c)) c), i3 (mor w c), i3 c)) (pM (zP S)) rfl (fun c hc => ?_) ?_
  · unfold C1_read_L29
    dsimp only
    rw [cx_1 hT.1.1, g3]
    simp only [Option.bind_some, cx_vo hT.1.1, cx_m hT.1.1]
    rw [if_pos ((i3_lt (by omega) (by omega)).mpr hc)]
    simp only [sv_3 hT.1, Option.bind_some, sv_K hT.1 hc, i3_or, i3_and, i3_succ]
    rfl
  · unfold C1_read_L29
    dsimp only
    rw [cx_1 hT.1.1]
    simp only [Option.bind_some, cx_vo hT.1.1, cx_m hT.1.1]
    rw [if_neg (fun x => absurd ((i3_lt (by omega) (by omega)).mp x) (by omega))]
theorem M_read_loop {P : PO} {w : SV} {s2 : MS} (mv : MV s2 34 P w) : o_loop (M_read_L36 s2) (0, 0) = some (i3 (onl P w)) := by
  have hQ := mv.1.2.2.1
  have hM := mv.1.2.1
  refine o_bst (fun k a hk => ?_) (fun a => ?_)
  · have hkw : kwr P w k < 2 ^ 31 := p2 (bst_lt _ _) (by omega)
    have hp12 := pc_le (kwr P w k)
    unfold M_read_L36
    dsimp only
    rw [mv.2.1.1.2.2.1, if_pos ((i3_lt (by omega) (by omega)).mpr hk), show M_knowers s2 34 (i3 k) = _ from M_knowers_eq (b := 34) mv (by omega)]
    simp only [Option.bind_some, M_bits_eq hkw, i3_succ]
    by_cases e : pc (kwr P w k) = 1
    · rw [if_pos ((i3_eq1 (by omega)).mpr e), Option.bind_some, st1_t (p := fun i => decide (pc (kwr P w i) = 1)) (decide_eq_true e) (by omega), i3_or]
    · rw [if_neg (fun x => e ((i3_eq1 (by omega)).mp x)), Option.bind_some, st1_f (p := fun i => decide (pc (kwr P w i) = 1)) (k := k) (decide_eq_false e), i3_or]
  · unfold M_read_L36
    dsimp only
    rw [mv.2.1.1.2.2.1, if_neg (fun x => absurd ((i3_lt (by omega) (by omega)).mp x) (by omega))]

theorem op_read (hS : RS K o (h, r) σ (N + 1)) (a0 a1 : Int32) : ∃ z v σ', C1_read K h r o a0 a1 = some z ∧ M_read σ a0 a1 = some (v, σ') ∧ JN K o r N true 2 z v σ' := by
  obtain ⟨S, ⟨f, B, sT, aT, hT, seed, ea, eh, hp⟩, hM, hr1, hr2⟩ := hS
  dsimp only at hp hr1 hr2
  have hZ := RCp_Z hp
  obtain ⟨hv, hs, ht, hF, hacts, hheard, hrf⟩ := RD_of hp
  have hM1 : RM (sf σ 0 0) S := RM_gx hZ (Gx_sf (.inl rfl)) hM
  have h0 : mf (sf σ 0 0) 0 = 0 := mf_sf0
  unfold C1_read M_read
  rw [show pf σ 0 0 = some (sf σ 0 0) from rfl, Option.bind_some]
  generalize sf σ 0 0 = s1 at hM1 h0
  have mv := RM_MV hZ hM1
  have hN := hZ.1.1
  have hMM := hZ.1.2.1
  have hQ := hZ.1.2.2.1
  cases e0 : inR a1 (1 + 1)
  · rw [aO_no (y := 1) (m := 1) rfl (by decide) e0 (by omega) (by omega), xg_r, mO_no (y := 1) (m := 1) rfl (by decide) h0 e0, Option.bind_some, if_pos (show ((0 : Int32), sf s1 0 1).1 = 0 from rfl)]
    exact ⟨_, _, _, rfl, rfl, JN_thr hp hM1 hr1 hr2 (.inl ⟨rfl, rfl, rfl⟩)⟩
  rw [aO_ok (y := 1) (m := 1) rfl (by decide) e0, xg_l, mO_ok (y := 1) (m := 1) rfl (by decide) h0 e0, Option.bind_some, if_neg (show ¬ ((1 : Int32), s1).1 = 0 from i_ne10)]
  dsimp only
  obtain ⟨k1, hk1, rfl⟩ := inR_is e0
  rw [show C1_in a0 0 40 = some (bI (inB a0 0 40)) from C1_in_eq (a := 0) (b := 40) a0 (by decide) (by decide), Option.bind_some]
  cases e1 : inB a0 0 40
  · rw [rg_no (by omega) (by omega), xg_r, mD_no (y := 0) (m := 0) (c := 2) rfl (by decide) h0 (by decide) e1, Option.bind_some, if_pos (show ((0 : Int32), sf s1 0 2).1 = 0 from rfl)]
    exact ⟨_, _, _, rfl, rfl, JN_thr hp hM1 hr1 hr2 (.inr ⟨rfl, by decide, rfl⟩)⟩
  rw [rg_ok, xg_l, mD_ok (y := 0) (m := 0) (c := 2) rfl (by decide) h0 e1, Option.bind_some, if_neg (show ¬ ((1 : Int32), s1).1 = 0 from i_ne10)]
  dsimp only
  obtain ⟨k0, hk0l, hk0, rfl⟩ := inB_is e1
  obtain ⟨h2, s2, l1, l2, ht⟩ := TP_later hp mv (m := k0) (by omega)
  have hkq := KQ_aft hZ.1 hZ.2.1.1.2 k0
  have lr := C_read_loop hp ht
  have lm := M_read_loop ht.2.2.1
  obtain ⟨t1, t2, t3, t4, t5⟩ := ht
  have hml : mor (aft (zP S) k0 (zw S)) (pM (zP S)) < 2 ^ 31 := p2 (mor_lt _ hkq) (by omega)
  have hol : orf (fun c => aft (zP S) k0 (zw S) (28 + c)) (pM (zP S)) < 2 ^ 31 := p2 (orf_lt _ hkq) (by omega)
  rw [cx_vc hv.1, l1, l2]
  simp only [Option.bind_some, lr, lm, xg_l]
  have hcs : k1 = 0 ∨ k1 = 1 := by omega
  rcases hcs with rfl | rfl
  · rw [if_pos (show i3 0 = 0 from rfl), if_pos (show i3 0 = 0 from rfl), M_everybody_eq t3.2.1 hZ.1]
    simp only [Option.bind_some, m3_known t3 (ev_lt hZ.1), knw_ev]
    exact ⟨_, _, _, rfl, rfl, JN_try hp hM1 h0 hr1 hr2 ⟨_, t1⟩ t2 t4⟩
  · rw [if_neg (show ¬ i3 1 = 0 by decide), if_neg (show ¬ i3 1 = 0 by decide), ntb _ _ hol hml, onl_eq hZ.1 hkq]
    exact ⟨_, _, _, rfl, rfl, JN_try hp hM1 h0 hr1 hr2 ⟨_, t1⟩ t2 t4⟩
theorem op_mould (hS : RS K o (h, r) σ (N + 1)) (a0 : Int32) : ∃ z v σ', C1_mould K h r o a0 = some z ∧ M_mould σ a0 = some (v, σ') ∧ JN K o r N true 0 z v σ' := by
  obtain ⟨S, ⟨f, B, sT, aT, hT, seed, ea, eh, hp⟩, hM, hr1, hr2⟩ := hS
  dsimp only at hp hr1 hr2
  have hZ := RCp_Z hp
  obtain ⟨hv, hs, ht, hF, hacts, hheard, hrf⟩ := RD_of hp
  have hM1 : RM (sf σ 0 0) S := RM_gx hZ (Gx_sf (.inl rfl)) hM
  have h0 : mf (sf σ 0 0) 0 = 0 := mf_sf0
  unfold C1_mould M_mould
  rw [show pf σ 0 0 = some (sf σ 0 0) from rfl, Option.bind_some]
  generalize sf σ 0 0 = s1 at hM1 h0
  have mv := RM_MV hZ hM1
  have hN := hZ.1.1
  have hMM := hZ.1.2.1
  have hQ := hZ.1.2.2.1
  cases e0 : inR a0 (pN (zP S))
  · rw [aS_no hv.1 e0 (by omega) (by omega), xg_r, mS_no mv.2.1 mv.1 h0 e0, Option.bind_some, if_pos (show ((0 : Int32), sf s1 0 1).1 = 0 from rfl)]
    exact ⟨_, _, _, rfl, rfl, JN_thr hp hM1 hr1 hr2 (.inl ⟨rfl, rfl, rfl⟩)⟩
  rw [aS_ok hv.1 e0, xg_l, mS_ok mv.2.1 mv.1 h0 e0, Option.bind_some, if_neg (show ¬ ((1 : Int32), s1).1 = 0 from i_ne10)]
  dsimp only
  obtain ⟨k0, hk0, rfl⟩ := inR_is e0
  obtain ⟨h1, σ1, b1, b2, b3, b4, ht⟩ := TP_be hp mv
  rw [b1, hs, b4]
  simp only [Option.bind_some, b2, b3]
  obtain ⟨q1, q2, l1, l2, l3⟩ : ∃ (q1 : (Int32 × CS) ⊕ XT) (q2 : Int32 × MS), o_loop (C1_mould_L19 K o (i3 k0)) (1, (h1, r)) = some q1 ∧ o_loop (M_mould_L21 (i3 k0)) (1, σ1) = some q2 ∧ ∃ h2, q1 = .inl (q2.1, (h2, r)) ∧ ∃ w k, TP K h o f (zP S) B s1 w k h2 q2.2 := by
    refine o_two (fun k (t1 : Int32 × CS) (t2 : Int32 × MS) => t1.1 = i3 k ∧ t2.1 = i3 k ∧ t1.2.2 = r ∧ ∃ w, TP K h o f (zP S) B s1 w k t1.2.1 t2.2) (fun (q1 : (Int32 × CS) ⊕ XT) (q2 : Int32 × MS) => ∃ h2, q1 = .inl (q2.1, (h2, r)) ∧ ∃ w k, TP K h o f (zP S) B s1 w k h2 q2.2) 41 (fun k t1 t2 hk hI => ?_) (fun t1 t2 hI => ?_) 1 _ _ (by decide) ⟨rfl, rfl, rfl, zw S, ht.1, ht.2.1, ht.2.2.1, ht.2.2.2.1, by have := ht.2.2.2.2; omega⟩
    · obtain ⟨x1, y1, z1⟩ := t1
      obtain ⟨x2, y2⟩ := t2
      obtain ⟨rfl, rfl, rfl, w, hT⟩ := hI
      dsimp only at hT
      have g3 := TP_3 hp hT
      obtain ⟨h2, σ2, e1, e2, e3⟩ := TP_pass hT (by omega)
      have g2 := TP_2 hp e3
      have hv2 := (RD_of (TP_R hp e3)).1
      unfold C1_mould_L19 M_mould_L21
      dsimp only
      rw [if_pos ((i3_lel (c := 40) (n := 40) rfl (by omega) (by decide)).mpr (by omega)), if_pos ((i3_lel (c := 40) (n := 40) rfl (by omega) (by decide)).mpr (by omega)), g3, e2]
      simp only [Option.bind_some, e1, g2, sv_1 e3.1, sv_E e3.1 hk0, sv_1 hv2, sv_E hv2 hk0, m3_10 e3.2.2.1 hk0, m0_10 (MV_34 e3.2.2.2.1 mv) hk0, i3_succ]
      by_cases e : i3 (pas (zP S) w (10 + k0)) = i3 (zw S (10 + k0))
      · rw [if_pos e, if_pos e]
        exact .inl ⟨_, _, rfl, rfl, rfl, rfl, rfl, _, e3⟩
      · rw [if_neg e, if_neg e]
        exact .inr ⟨_, _, rfl, rfl, _, rfl, _, _, e3⟩
    · obtain ⟨x1, y1, z1⟩ := t1
      obtain ⟨x2, y2⟩ := t2
      obtain ⟨rfl, rfl, rfl, w, hT⟩ := hI
      unfold C1_mould_L19 M_mould_L21
      dsimp only
      rw [if_neg (by decide), if_neg (by decide)]
      exact ⟨_, _, rfl, rfl, _, rfl, _, _, hT⟩
  obtain ⟨h2, rfl, w, k, hT⟩ := l3
  obtain ⟨x2, y2⟩ := q2
  rw [l1, l2]
  obtain ⟨t1, t2, t3, t4, t5⟩ := hT
  exact ⟨_, _, _, rfl, rfl, JN_try hp hM1 h0 hr1 hr2 ⟨_, t1⟩ t2 t4⟩
theorem C_meet_no {S : ST} {f : CH} {B : Nat → Nat} {sT aT hT : Option Nat} {seed : Int32} {ea eh : Nat → Nat} {s1 σ1 : MS} {h1 : CH} (hp : RCp K h r.1 o S f B sT aT hT seed ea eh) {k0 k1 : Nat} (hk0 : k0 < pN (zP S)) (hk1 : k1 < pN (zP S)) (hne : ¬ k0 = k1) (hb : zw S (19 + k0) = 99 ∨ (zw S (19 + k0) ≠ 99 ∧ zw S (19 + k1) = 99)) (ht : TP K h o f (zP S) B s1 (zw S) 0 h1 σ1) : ∃ h2, o_loop (C1_meet_L24 K o (i3 k0) (i3 k1)) (0, (h1, r)) = some (.inl (-1, (h2, r))) ∧ (∃ w, CSV K h2 o (B 18) (B 1) f (zP S) (B 7) (fun i => B (8 + i)) w) ∧ hX (sX6 (B 1) (B 7) (fun i => B (8 + i))) h h2 := by
  have hZ := RCp_Z hp
  have hN := hZ.1.1
  obtain ⟨q, e, h2, rfl, hc, hx⟩ : ∃ q, o_loop (C1_meet_L24 K o (i3 k0) (i3 k1)) (0, (h1, r)) = some q ∧ ∃ h2, q = .inl (-1, (h2, r)) ∧ (∃ w, CSV K h2 o (B 18) (B 1) f (zP S) (B 7) (fun i => B (8 + i)) w) ∧ hX (sX6 (B 1) (B 7) (fun i => B (8 + i))) h h2 := by
    refine o_inv0 (fun k (t1 : Int32 × CS) => t1.1 = i3 k ∧ t1.2.2 = r ∧ ∃ w σ2, TP K h o f (zP S) B s1 w k t1.2.1 σ2 ∧ w (19 + k0) = zw S (19 + k0) ∧ w (19 + k1) = zw S (19 + k1)) (fun (q : (Int32 × CS) ⊕ XT) => ∃ h2, q = .inl (-1, (h2, r)) ∧ (∃ w, CSV K h2 o (B 18) (B 1) f (zP S) (B 7) (fun i => B (8 + i)) w) ∧ hX (sX6 (B 1) (B 7) (fun i => B (8 + i))) h h2) 41 (fun k t1 hk hI => ?_) (fun t1 hI => ?_) _ ⟨rfl, rfl, _, _, ht, rfl, rfl⟩
    · obtain ⟨x1, y1, z1⟩ := t1
      obtain ⟨rfl, rfl, w, σ2, hT, w1, w2⟩ := hI
      dsimp only at hT
      have g3 := TP_3 hp hT
      obtain ⟨h2, σ3, e1, e2, e3⟩ := TP_pass hT (by omega)
      have hwl := whr_lt hT.2.2.1.1 hT.2.2.1.2.2.2.1 hk0
      have hJ : C1_meet_J68 K o (i3 k, y1, z1) = some (.inl (i3 (k + 1), (h2, z1))) := by
        unfold C1_meet_J68
        dsimp only
        rw [g3]
        simp only [Option.bind_some, e1, i3_succ]
      unfold C1_meet_L24
      dsimp only
      rw [if_pos ((i3_lel (c := 40) (n := 40) rfl (by omega) (by decide)).mpr (by omega)), if_neg (fun x => hne ((i3_inj (by omega) (by omega)).mp x)), g3]
      simp only [Option.bind_some, sv_vc hT.1, C3_where_eq hT.1 hk0, C3_where_eq hT.1 hk1]
      have p1 : pas (zP S) w (19 + k0) = zw S (19 + k0) := (pas_19 hZ.1 (by omega) (by omega)).trans w1
      have p2 : pas (zP S) w (19 + k1) = zw S (19 + k1) := (pas_19 hZ.1 (by omega) (by omega)).trans w2
      rcases hb with hb | ⟨hb, hb2⟩
      · rw [whr_b (w1.trans hb), if_pos (show wI 99 = -1 from rfl), hJ]
        exact ⟨_, rfl, rfl, rfl, _, _, e3, p1, p2⟩
      · have hn : ¬ whr (zP S) w k0 = 99 := by
          rcases hT.2.2.1.2.2.2.1.2.2.1 k0 hk0 with q | q | q
          · rw [whr_t q]; omega
          · rw [whr_c (by omega) (by omega)]
            have := wfp_tow hZ.1 (c := w (19 + k0) - 4) (d := w 0) (by have := hZ.1.2.1; omega)
            unfold tow
            omega
          · exact absurd (w1 ▸ q) hb
        rw [whr_b (w2.trans hb2), if_neg (fun x => hn ((wI_m (by omega)).mp x)), if_neg (fun x => hn ((wI_m (by omega)).mp (x.trans rfl))), hJ]
        exact ⟨_, rfl, rfl, rfl, _, _, e3, p1, p2⟩
    · obtain ⟨x1, y1, z1⟩ := t1
      obtain ⟨rfl, rfl, w, σ2, hT, w1, w2⟩ := hI
      unfold C1_meet_L24
      dsimp only
      rw [if_neg (by decide)]
      exact ⟨_, rfl, _, rfl, ⟨_, hT.1⟩, hT.2.1⟩
  exact ⟨h2, e, hc, hx⟩
theorem op_meet (hS : RS K o (h, r) σ (N + 1)) (a0 a1 : Int32) : ∃ z v σ', C1_meet K h r o a0 a1 = some z ∧ M_meet σ a0 a1 = some (v, σ') ∧ JN K o r N true 0 z v σ' := by
  obtain ⟨S, ⟨f, B, sT, aT, hT, seed, ea, eh, hp⟩, hM, hr1, hr2⟩ := hS
  dsimp only at hp hr1 hr2
  have hZ := RCp_Z hp
  obtain ⟨hv, hs, ht, hF, hacts, hheard, hrf⟩ := RD_of hp
  have hM1 : RM (sf σ 0 0) S := RM_gx hZ (Gx_sf (.inl rfl)) hM
  have h0 : mf (sf σ 0 0) 0 = 0 := mf_sf0
  unfold C1_meet M_meet
  rw [show pf σ 0 0 = some (sf σ 0 0) from rfl, Option.bind_some]
  generalize sf σ 0 0 = s1 at hM1 h0
  have mv := RM_MV hZ hM1
  have hN := hZ.1.1
  have hMM := hZ.1.2.1
  have hQ := hZ.1.2.2.1
  cases e0 : inR a0 (pN (zP S))
  · rw [aS_no hv.1 e0 (by omega) (by omega), xg_r, mS_no mv.2.1 mv.1 h0 e0, Option.bind_some, if_pos (show ((0 : Int32), sf s1 0 1).1 = 0 from rfl)]
    exact ⟨_, _, _, rfl, rfl, JN_thr hp hM1 hr1 hr2 (.inl ⟨rfl, rfl, rfl⟩)⟩
  rw [aS_ok hv.1 e0, xg_l, mS_ok mv.2.1 mv.1 h0 e0, Option.bind_some, if_neg (show ¬ ((1 : Int32), s1).1 = 0 from i_ne10)]
  dsimp only
  obtain ⟨k0, hk0, rfl⟩ := inR_is e0
  cases e1 : inR a1 (pN (zP S))
  · rw [aS_no hv.1 e1 (by omega) (by omega), xg_r, mS_no mv.2.1 mv.1 h0 e1, Option.bind_some, if_pos (show ((0 : Int32), sf s1 0 1).1 = 0 from rfl)]
    exact ⟨_, _, _, rfl, rfl, JN_thr hp hM1 hr1 hr2 (.inl ⟨rfl, rfl, rfl⟩)⟩
  rw [aS_ok hv.1 e1, xg_l, mS_ok mv.2.1 mv.1 h0 e1, Option.bind_some, if_neg (show ¬ ((1 : Int32), s1).1 = 0 from i_ne10)]
  dsimp only
  obtain ⟨k1, hk1, rfl⟩ := inR_is e1
  obtain ⟨h1, σ1, b1, b2, b3, b4, ht⟩ := TP_be hp mv
  rw [b1, hs]
  simp only [Option.bind_some, b2, b3]
  by_cases e : k0 = k1
  · subst e
    rw [if_pos rfl]
    have e1 : o_loop (C1_meet_L24 K o (i3 k0) (i3 k0)) (0, (h1, r)) = some (.inl (-1, (h1, r))) := by
      rw [o_loop_eq]
      unfold C1_meet_L24
      dsimp only
      rw [if_pos (by decide), if_pos rfl]
      rfl
    rw [e1]
    exact ⟨_, _, _, rfl, rfl, JN_try hp hM1 h0 hr1 hr2 ⟨_, ht.1⟩ ht.2.1 (Fx_refl 34 s1)⟩
  · rw [if_neg (fun x => e ((i3_inj (by omega) (by omega)).mp x)), m0_burnt mv hk0]
    simp only [Option.bind_some]
    cases e2 : bnt (zw S) k0
    · have hn0 : ¬ zw S (19 + k0) = 99 := of_decide_eq_false e2
      rw [if_pos bI_f, m0_burnt mv hk1]
      simp only [Option.bind_some]
      cases e3 : bnt (zw S) k1
      · have hn1 : ¬ zw S (19 + k1) = 99 := of_decide_eq_false e3
        rw [if_pos bI_f, b4]
        simp only [Option.bind_some]
        obtain ⟨q1, q2, l1, l2, h2, l3, w, k, hT⟩ : ∃ (q1 : (Int32 × CS) ⊕ XT) (q2 : Int32 × MS), o_loop (C1_meet_L24 K o (i3 k0) (i3 k1)) (0, (h1, r)) = some q1 ∧ o_loop (M_meet_L54 (i3 k0) (i3 k1)) (0, σ1) = some q2 ∧ ∃ h2, q1 = .inl (q2.1, (h2, r)) ∧ ∃ w k, TP K h o f (zP S) B s1 w k h2 q2.2 := by
          refine o_two (fun k (t1 : Int32 × CS) (t2 : Int32 × MS) => t1.1 = i3 k ∧ t2.1 = i3 k ∧ t1.2.2 = r ∧ ∃ w, TP K h o f (zP S) B s1 w k t1.2.1 t2.2 ∧ w (19 + k0) = zw S (19 + k0)) (fun (q1 : (Int32 × CS) ⊕ XT) (q2 : Int32 × MS) => ∃ h2, q1 = .inl (q2.1, (h2, r)) ∧ ∃ w k, TP K h o f (zP S) B s1 w k h2 q2.2) 41 (fun k t1 t2 hk hI => ?_) (fun t1 t2 hI => ?_) 0 _ _ (by decide) ⟨rfl, rfl, rfl, _, ht, rfl⟩
          · obtain ⟨x1, y1, z1⟩ := t1
            obtain ⟨x2, y2⟩ := t2
            obtain ⟨rfl, rfl, rfl, w, hT, w1⟩ := hI
            dsimp only at hT
            have g3 := TP_3 hp hT
            obtain ⟨h2, σ3, f1, f2, f3⟩ := TP_pass hT (by omega)
            have hwl := whr_lt hT.2.2.1.1 hT.2.2.1.2.2.2.1 hk0
            have hJ : C1_meet_J68 K o (i3 k, y1, z1) = some (.inl (i3 (k + 1), (h2, z1))) := by
              unfold C1_meet_J68
              dsimp only
              rw [g3]
              simp only [Option.bind_some, f1, i3_succ]
            have hn : ¬ whr (zP S) w k0 = 99 := by
              rcases hT.2.2.1.2.2.2.1.2.2.1 k0 hk0 with q | q | q
              · rw [whr_t q]; omega
              · rw [whr_c (by omega) (by omega)]
                have := wfp_tow hZ.1 (c := w (19 + k0) - 4) (d := w 0) (by have := hZ.1.2.1; omega)
                unfold tow
                omega
              · exact absurd (w1 ▸ q) hn0
            unfold C1_meet_L24 M_meet_L54
            dsimp only
            rw [if_pos ((i3_lel (c := 40) (n := 40) rfl (by omega) (by decide)).mpr (by omega)), if_pos ((i3_lel (c := 40) (n := 40) rfl (by omega) (by decide)).mpr (by omega)), if_neg (fun x => e ((i3_inj (by omega) (by omega)).mp x)), g3, m3_in hT.2.2.1 hk0, m3_in hT.2.2.1 hk1]
            simp only [Option.bind_some, sv_vc hT.1, C3_where_eq hT.1 hk0, C3_where_eq hT.1 hk1]
            rw [if_neg (fun x => hn ((wI_m (by omega)).mp x))]
            by_cases ew : wI (whr (zP S) w k0) = wI (whr (zP S) w k1)
            · rw [if_pos ew, if_pos ew]
              exact .inr ⟨_, _, rfl, rfl, _, rfl, _, _, hT⟩
            · rw [if_neg ew, if_neg ew, hJ, f2]
              simp only [Option.bind_some, i3_succ]
              exact .inl ⟨_, _, rfl, rfl, rfl, rfl, rfl, _, f3, (pas_19 hZ.1 (by omega) (by omega)).trans w1⟩
          · obtain ⟨x1, y1, z1⟩ := t1
            obtain ⟨x2, y2⟩ := t2
            obtain ⟨rfl, rfl, rfl, w, hT, w1⟩ := hI
            unfold C1_meet_L24 M_meet_L54
            dsimp only
            rw [if_neg (by decide), if_neg (by decide)]
            exact ⟨_, _, rfl, rfl, _, rfl, _, _, hT⟩
        subst l3
        obtain ⟨x2, y2⟩ := q2
        rw [l1, l2]
        obtain ⟨t1, t2, t3, t4, t5⟩ := hT
        exact ⟨_, _, _, rfl, rfl, JN_try hp hM1 h0 hr1 hr2 ⟨_, t1⟩ t2 t4⟩
      · rw [if_neg bI_t0]
        obtain ⟨h2, l1, l2, l3⟩ := C_meet_no (r := r) hp hk0 hk1 e (.inr ⟨hn0, of_decide_eq_true e3⟩) ht
        rw [l1]
        exact ⟨_, _, _, rfl, rfl, JN_try hp hM1 h0 hr1 hr2 l2 l3 (Fx_refl 34 s1)⟩
    · rw [if_neg bI_t0]
      obtain ⟨h2, l1, l2, l3⟩ := C_meet_no (r := r) hp hk0 hk1 e (.inl (of_decide_eq_true e2)) ht
      rw [l1]
      exact ⟨_, _, _, rfl, rfl, JN_try hp hM1 h0 hr1 hr2 l2 l3 (Fx_refl 34 s1)⟩
theorem op_gathering (hS : RS K o (h, r) σ (N + 1)) (a0 : Int32) : ∃ z v σ', C1_gathering K h r o a0 = some z ∧ M_gathering σ a0 = some (v, σ') ∧ JN K o r N false 1 z v σ' := by
  obtain ⟨S, ⟨f, B, sT, aT, hT, seed, ea, eh, hp⟩, hM, hr1, hr2⟩ := hS
  dsimp only at hp hr1 hr2
  have hZ := RCp_Z hp
  obtain ⟨hv, hs, ht, hF, hacts, hheard, hrf⟩ := RD_of hp
  have hM1 : RM (sf σ 0 0) S := RM_gx hZ (Gx_sf (.inl rfl)) hM
  have h0 : mf (sf σ 0 0) 0 = 0 := mf_sf0
  unfold C1_gathering M_gathering
  rw [show pf σ 0 0 = some (sf σ 0 0) from rfl, Option.bind_some]
  generalize sf σ 0 0 = s1 at hM1 h0
  have mv := RM_MV hZ hM1
  have hN := hZ.1.1
  have hMM := hZ.1.2.1
  have hQ := hZ.1.2.2.1
  rw [show C1_in a0 0 40 = some (bI (inB a0 0 40)) from C1_in_eq (a := 0) (b := 40) a0 (by decide) (by decide), Option.bind_some]
  cases e0 : inB a0 0 40
  · rw [rg_no (by omega) (by omega), xg_r, mD_no (y := 0) (m := 0) (c := 1) rfl (by decide) h0 (by decide) e0, Option.bind_some, if_pos (show ((0 : Int32), sf s1 0 1).1 = 0 from rfl)]
    exact ⟨_, _, _, rfl, rfl, JN_thr hp hM1 hr1 hr2 (.inr ⟨rfl, by decide, rfl⟩)⟩
  rw [rg_ok, xg_l, mD_ok (y := 0) (m := 0) (c := 1) rfl (by decide) h0 e0, Option.bind_some, if_neg (show ¬ ((1 : Int32), s1).1 = 0 from i_ne10)]
  dsimp only
  obtain ⟨k0, hk0l, hk0, rfl⟩ := inB_is e0
  obtain ⟨h2, s2, l1, l2, ht⟩ := TP_later hp mv (m := k0) (by omega)
  have g3 := TP_3 hp ht
  obtain ⟨w, t1, t2, t3, t4, t5⟩ : ∃ w, TP K h o f (zP S) B s1 w k0 h2 s2 := ⟨_, ht⟩
  rw [cx_vc hv.1, l1, l2]
  simp only [ob_s]
  have hsi : ∀ t, shI (zP S) w t < 2 ^ 12 := fun t => p2 (shI_lt _ _ _) (by omega)
  obtain ⟨q1, q2, m1, m2, b, m3, m4⟩ : ∃ (q1 : (Int32 × CS) ⊕ XT) (q2 : Int32 × MS), o_loop (C1_gathering_L20 o (h, r) (B 7, h2)) (0, 1) = some q1 ∧ o_loop (M_gathering_L26 s2) (0, 1) = some q2 ∧ ∃ b, q1 = .inl (b, (h2, r)) ∧ q2 = (b, s2) := by
    refine o_two (fun k (x1 : Int32 × Int32) (x2 : Int32 × Int32) => ∃ b, b < 4 ∧ x1 = (i3 b, i3 k) ∧ x2 = (i3 b, i3 k)) (fun (q1 : (Int32 × CS) ⊕ XT) (q2 : Int32 × MS) => ∃ b, q1 = .inl (b, (h2, r)) ∧ q2 = (b, s2)) 4 (fun k x1 x2 hk hI => ?_) (fun x1 x2 hI => ?_) 1 _ _ (by decide) ⟨0, by decide, rfl, rfl⟩
    · obtain ⟨b, hb, rfl, rfl⟩ := hI
      have y1 := pc_le (shI (zP S) w k)
      have y2 := pc_le (shI (zP S) w b)
      unfold C1_gathering_L20 M_gathering_L26
      dsimp only
      rw [if_pos ((i3_ltl (c := 4) (n := 4) rfl (by omega) (by decide)).mpr hk), if_pos ((i3_ltl (c := 4) (n := 4) rfl (by omega) (by decide)).mpr hk), g3, m3_shts t3 hk, m3_shts t3 hb]
      simp only [ob_s, sv_vc t1, C3_sheetsIn_eq t1 (show k < 99 by omega), C3_sheetsIn_eq t1 (show b < 99 by omega), bitCount_eq (hsi k), bitCount_eq (hsi b), M_bits_eq (p2 (b := 31) (hsi k) (by decide)), M_bits_eq (p2 (b := 31) (hsi b) (by decide)), i3_succ]
      left
      by_cases e : i3 (pc (shI (zP S) w k)) ≤ i3 (pc (shI (zP S) w b))
      · rw [if_pos e, if_pos e]
        simp only [xg_s, ob_s]
        exact ⟨_, _, rfl, rfl, b, hb, rfl, rfl⟩
      · rw [if_neg e, if_neg e]
        simp only [xg_s, ob_s]
        exact ⟨_, _, rfl, rfl, k, hk, rfl, rfl⟩
    · obtain ⟨b, hb, rfl, rfl⟩ := hI
      unfold C1_gathering_L20 M_gathering_L26
      dsimp only
      rw [if_neg (by decide), if_neg (by decide)]
      exact ⟨_, _, rfl, rfl, _, rfl, rfl⟩
  rw [m1, m2]
  subst m3 m4
  exact ⟨_, _, _, rfl, rfl, JN_try hp hM1 h0 hr1 hr2 ⟨_, t1⟩ t2 t4⟩
theorem op_wisest (hS : RS K o (h, r) σ (N + 1)) (a0 : Int32) : ∃ z v σ', C1_wisest K h r o a0 = some z ∧ M_wisest σ a0 = some (v, σ') ∧ JN K o r N false 1 z v σ' := by
  obtain ⟨S, ⟨f, B, sT, aT, hT, seed, ea, eh, hp⟩, hM, hr1, hr2⟩ := hS
  dsimp only at hp hr1 hr2
  have hZ := RCp_Z hp
  obtain ⟨hv, hs, ht, hF, hacts, hheard, hrf⟩ := RD_of hp
  have hM1 : RM (sf σ 0 0) S := RM_gx hZ (Gx_sf (.inl rfl)) hM
  have h0 : mf (sf σ 0 0) 0 = 0 := mf_sf0
  unfold C1_wisest M_wisest
  rw [show pf σ 0 0 = some (sf σ 0 0) from rfl, Option.bind_some]
  generalize sf σ 0 0 = s1 at hM1 h0
  have mv := RM_MV hZ hM1
  have hN := hZ.1.1
  have hMM := hZ.1.2.1
  have hQ := hZ.1.2.2.1
  rw [show C1_in a0 0 40 = some (bI (inB a0 0 40)) from C1_in_eq (a := 0) (b := 40) a0 (by decide) (by decide), Option.bind_some]
  cases e0 : inB a0 0 40
  · rw [rg_no (by omega) (by omega), xg_r, mD_no (y := 0) (m := 0) (c := 1) rfl (by decide) h0 (by decide) e0, Option.bind_some, if_pos (show ((0 : Int32), sf s1 0 1).1 = 0 from rfl)]
    exact ⟨_, _, _, rfl, rfl, JN_thr hp hM1 hr1 hr2 (.inr ⟨rfl, by decide, rfl⟩)⟩
  rw [rg_ok, xg_l, mD_ok (y := 0) (m := 0) (c := 1) rfl (by decide) h0 e0, Option.bind_some, if_neg (show ¬ ((1 : Int32), s1).1 = 0 from i_ne10)]
  dsimp only
  obtain ⟨k0, hk0l, hk0, rfl⟩ := inB_is e0
  obtain ⟨h2, s2, l1, l2, ht⟩ := TP_later hp mv (m := k0) (by omega)
  have g3 := TP_3 hp ht
  obtain ⟨w, t1, t2, t3, t4, t5⟩ : ∃ w, TP K h o f (zP S) B s1 w k0 h2 s2 := ⟨_, ht⟩
  rw [cx_vc hv.1, l1, l2]
  simp only [ob_s]
  have hwk : ∀ c, c < pM (zP S) → w (28 + c) < 2 ^ 12 := t3.2.2.2.1.2.2.2.1
  obtain ⟨q1, q2, m1, m2, b, m3, m4⟩ : ∃ (q1 : (Int32 × CS) ⊕ XT) (q2 : Int32 × MS), o_loop (C1_wisest_L20 o (h, r) (B 7, h2)) (-1, 0) = some q1 ∧ o_loop (M_wisest_L26 s2) (-1, 0) = some q2 ∧ ∃ b, q1 = .inl (b, (h2, r)) ∧ q2 = (b, s2) := by
    refine o_two (fun k (x1 : Int32 × Int32) (x2 : Int32 × Int32) => (x1 = (-1, i3 k) ∧ x2 = (-1, i3 k)) ∨ ∃ b, b < pM (zP S) ∧ x1 = (i3 b, i3 k) ∧ x2 = (i3 b, i3 k)) (fun (q1 : (Int32 × CS) ⊕ XT) (q2 : Int32 × MS) => ∃ b, q1 = .inl (b, (h2, r)) ∧ q2 = (b, s2)) (pM (zP S)) (fun k x1 x2 hk hI => ?_) (fun x1 x2 hI => ?_) 0 _ _ (Nat.zero_le _) (.inl ⟨rfl, rfl⟩)
    · left
      rcases hI with ⟨rfl, rfl⟩ | ⟨b, hb, rfl, rfl⟩
      · unfold C1_wisest_L20 M_wisest_L26
        dsimp only
        rw [cx_1 t1.1, t3.2.1.1.2.1]
        simp only [ob_s, cx_vo t1.1, cx_m t1.1]
        rw [if_pos ((i3_lt (by omega) (by omega)).mpr hk), if_pos ((i3_lt (by omega) (by omega)).mpr hk), if_pos trivial, if_pos trivial]
        simp only [xg_s, ob_s, i3_succ]
        exact ⟨_, _, rfl, rfl, .inr ⟨k, hk, rfl, rfl⟩⟩
      · unfold C1_wisest_L20 M_wisest_L26
        dsimp only
        rw [cx_1 t1.1, t3.2.1.1.2.1]
        simp only [ob_s, cx_vo t1.1, cx_m t1.1]
        rw [if_pos ((i3_lt (by omega) (by omega)).mpr hk), if_pos ((i3_lt (by omega) (by omega)).mpr hk), if_neg (i3_m1 (by omega)), if_neg (i3_m1 (by omega)), g3, m3_28 t3 hk, m3_28 t3 hb]
        simp only [ob_s, sv_3 t1, sv_K t1 hk, sv_K t1 hb, bitCount_eq (hwk k hk), bitCount_eq (hwk b hb), M_bits_eq (p2 (b := 31) (hwk k hk) (by decide)), M_bits_eq (p2 (b := 31) (hwk b hb) (by decide)), i3_succ]
        by_cases e : i3 (pc (w (28 + k))) ≤ i3 (pc (w (28 + b)))
        · rw [if_pos e, if_pos e]
          simp only [xg_s, ob_s]
          exact ⟨_, _, rfl, rfl, .inr ⟨b, hb, rfl, rfl⟩⟩
        · rw [if_neg e, if_neg e]
          simp only [xg_s, ob_s]
          exact ⟨_, _, rfl, rfl, .inr ⟨k, hk, rfl, rfl⟩⟩
    · have key : ∀ b, C1_wisest_L20 o (h, r) (B 7, h2) (b, i3 (pM (zP S))) = some (.inr (.inl (b, (h2, r)))) ∧ M_wisest_L26 s2 (b, i3 (pM (zP S))) = some (.inr (b, s2)) := by
        intro b
        unfold C1_wisest_L20 M_wisest_L26
        dsimp only
        rw [cx_1 t1.1, t3.2.1.1.2.1]
        simp only [ob_s, cx_vo t1.1, cx_m t1.1]
        rw [if_neg (fun x => absurd ((i3_lt (by omega) (by omega)).mp x) (by omega)), if_neg (fun x => absurd ((i3_lt (by omega) (by omega)).mp x) (by omega))]
        exact ⟨rfl, rfl⟩
      rcases hI with ⟨rfl, rfl⟩ | ⟨b, hb, rfl, rfl⟩
      · exact ⟨_, _, (key _).1, (key _).2, _, rfl, rfl⟩
      · exact ⟨_, _, (key _).1, (key _).2, _, rfl, rfl⟩
  rw [m1, m2]
  subst m3 m4
  exact ⟨_, _, _, rfl, rfl, JN_try hp hM1 h0 hr1 hr2 ⟨_, t1⟩ t2 t4⟩
theorem op_unread (hS : RS K o (h, r) σ (N + 1)) (a0 : Int32) : ∃ z v σ', C1_unread K h r o a0 = some z ∧ M_unread σ a0 = some (v, σ') ∧ JN K o r N false 1 z v σ' := by
  obtain ⟨S, ⟨f, B, sT, aT, hT, seed, ea, eh, hp⟩, hM, hr1, hr2⟩ := hS
  dsimp only at hp hr1 hr2
  have hZ := RCp_Z hp
  obtain ⟨hv, hs, ht, hF, hacts, hheard, hrf⟩ := RD_of hp
  have hM1 : RM (sf σ 0 0) S := RM_gx hZ (Gx_sf (.inl rfl)) hM
  have h0 : mf (sf σ 0 0) 0 = 0 := mf_sf0
  unfold C1_unread M_unread
  rw [show pf σ 0 0 = some (sf σ 0 0) from rfl, Option.bind_some]
  generalize sf σ 0 0 = s1 at hM1 h0
  have mv := RM_MV hZ hM1
  have hN := hZ.1.1
  have hMM := hZ.1.2.1
  have hQ := hZ.1.2.2.1
  rw [show C1_in a0 0 40 = some (bI (inB a0 0 40)) from C1_in_eq (a := 0) (b := 40) a0 (by decide) (by decide), Option.bind_some]
  cases e0 : inB a0 0 40
  · rw [rg_no (by omega) (by omega), xg_r, mD_no (y := 0) (m := 0) (c := 1) rfl (by decide) h0 (by decide) e0, Option.bind_some, if_pos (show ((0 : Int32), sf s1 0 1).1 = 0 from rfl)]
    exact ⟨_, _, _, rfl, rfl, JN_thr hp hM1 hr1 hr2 (.inr ⟨rfl, by decide, rfl⟩)⟩
  rw [rg_ok, xg_l, mD_ok (y := 0) (m := 0) (c := 1) rfl (by decide) h0 e0, Option.bind_some, if_neg (show ¬ ((1 : Int32), s1).1 = 0 from i_ne10)]
  dsimp only
  obtain ⟨k0, hk0l, hk0, rfl⟩ := inB_is e0
  obtain ⟨h2, s2, l1, l2, ht⟩ := TP_later hp mv (m := k0) (by omega)
  obtain ⟨t1, t2, t3, t4, t5⟩ := ht
  obtain ⟨wl, fw, w1, w2, w3⟩ := cx_w hv.1
  rw [cx_1 hv.1, cx_vc hv.1, l1, l2]
  simp only [Option.bind_some, w1, w2, sv_vc t1, C3_read_eq t1, M_everybody_eq t3.2.1 hZ.1, m3_known t3 (ev_lt hZ.1), t3.2.1.1.2.2.1]
  have e63 : knw (zP S) (aft (zP S) k0 (zw S)) 63 = knw (zP S) (aft (zP S) k0 (zw S)) (2 ^ pM (zP S) - 1) := by rw [knw_63 hZ.1, knw_ev]
  have hlt := knw_lt (sv_w t1) (2 ^ pM (zP S) - 1)
  rw [e63, bitCount_eq hlt, M_bits_eq (p2 (b := 31) hlt (by decide))]
  simp only [Option.bind_some]
  exact ⟨_, _, _, rfl, rfl, JN_try hp hM1 h0 hr1 hr2 ⟨_, t1⟩ t2 t4⟩
def alk (P : PO) (w : SV) : Nat := smf (fun c => pc (w (28 + c))) (pM P)
theorem C_allK {S : ST} {f : CH} {B : Nat → Nat} {sT aT hT : Option Nat} {seed : Int32} {ea eh : Nat → Nat} {n k : Nat} {w : SV} {h2 : CH} {s1 s2 : MS} (hp : RCp K h n o S f B sT aT hT seed ea eh) (hT : TP K h o f (zP S) B s1 w k h2 s2) : C1_allKnown h2 o = some (i3 (alk (zP S) w)) := by
  have hM := (RCp_Z hp).1.2.1
  have g3 := TP_3 hp hT
  have hwk : ∀ c, c < pM (zP S) → w (28 + c) < 2 ^ 12 := hT.2.2.1.2.2.2.1.2.2.2.1
  unfold C1_allKnown
  refine o_for0 (fun c => (i3 (smf (fun c => pc (w (28 + c))) c), i3 c)) (pM (zP S)) rfl (fun c hc => ?_) ?_
  · unfold C1_allKnown_L4
    dsimp only
    rw [cx_1 hT.1.1, g3]
    simp only [Option.bind_some, cx_vo hT.1.1, cx_m hT.1.1]
    rw [if_pos ((i3_lt (by omega) (by omega)).mpr hc)]
    simp only [sv_3 hT.1, Option.bind_some, sv_K hT.1 hc, bitCount_eq (hwk c hc), i3_add, i3_succ]
    rfl
  · unfold C1_allKnown_L4
    dsimp only
    rw [cx_1 hT.1.1]
    simp only [Option.bind_some, cx_vo hT.1.1, cx_m hT.1.1]
    rw [if_neg (fun x => absurd ((i3_lt (by omega) (by omega)).mp x) (by omega))]
    rfl
theorem M_know_eq {P : PO} {w : SV} {s2 : MS} (mv : MV s2 34 P w) : M_knowledge s2 = some (i3 (alk P w)) := by
  have hM := mv.1.2.1
  unfold M_knowledge
  refine o_for0 (fun c => (i3 (smf (fun c => pc (w (28 + c))) c), i3 c)) (pM P) rfl (fun c hc => ?_) ?_
  · have hwk := mv.2.2.2.1.2.2.2.1 c hc
    unfold M_knowledge_L4
    dsimp only
    rw [mv.2.1.1.2.1, if_pos ((i3_lt (by omega) (by omega)).mpr hc), m3_28 mv hc]
    simp only [Option.bind_some, M_bits_eq (p2 (b := 31) hwk (by decide)), i3_add, i3_succ]
    rfl
  · unfold M_knowledge_L4
    dsimp only
    rw [mv.2.1.1.2.1, if_neg (fun x => absurd ((i3_lt (by omega) (by omega)).mp x) (by omega))]
    rfl
theorem op_laid (hS : RS K o (h, r) σ (N + 1)) (a0 : Int32) : ∃ z v σ', C1_laid K h r o a0 = some z ∧ M_laid σ a0 = some (v, σ') ∧ JN K o r N false 1 z v σ' := by
  obtain ⟨S, ⟨f, B, sT, aT, hT, seed, ea, eh, hp⟩, hM, hr1, hr2⟩ := hS
  dsimp only at hp hr1 hr2
  have hZ := RCp_Z hp
  obtain ⟨hv, hs, ht, hF, hacts, hheard, hrf⟩ := RD_of hp
  have hM1 : RM (sf σ 0 0) S := RM_gx hZ (Gx_sf (.inl rfl)) hM
  have h0 : mf (sf σ 0 0) 0 = 0 := mf_sf0
  unfold C1_laid M_laid
  rw [show pf σ 0 0 = some (sf σ 0 0) from rfl, Option.bind_some]
  generalize sf σ 0 0 = s1 at hM1 h0
  have mv := RM_MV hZ hM1
  have hN := hZ.1.1
  have hMM := hZ.1.2.1
  have hQ := hZ.1.2.2.1
  rw [show C1_in a0 1 40 = some (bI (inB a0 1 40)) from C1_in_eq (a := 1) (b := 40) a0 (by decide) (by decide), Option.bind_some]
  cases e0 : inB a0 1 40
  · rw [rg_no (by omega) (by omega), xg_r, mD_no (y := 1) (m := 1) (c := 1) rfl (by decide) h0 (by decide) e0, Option.bind_some, if_pos (show ((0 : Int32), sf s1 0 1).1 = 0 from rfl)]
    exact ⟨_, _, _, rfl, rfl, JN_thr hp hM1 hr1 hr2 (.inr ⟨rfl, by decide, rfl⟩)⟩
  rw [rg_ok, xg_l, mD_ok (y := 1) (m := 1) (c := 1) rfl (by decide) h0 e0, Option.bind_some, if_neg (show ¬ ((1 : Int32), s1).1 = 0 from i_ne10)]
  dsimp only
  obtain ⟨k0, hk0l, hk0, rfl⟩ := inB_is e0
  obtain ⟨h1, σ1, b1, b2, b3, b4, ht⟩ := TP_be hp mv
  rw [b1, hs, b4]
  simp only [Option.bind_some, b2, b3]
  obtain ⟨q1, q2, l1, l2, h2, l3, w, k, hT⟩ : ∃ (q1 : (Int32 × CS) ⊕ XT) (q2 : Int32 × MS), o_loop (C1_laid_L26 K o (i3 k0)) (0, 0, (h1, r)) = some q1 ∧ o_loop (M_laid_L25 (i3 k0)) (0, 0, σ1) = some q2 ∧ ∃ h2, q1 = .inl (q2.1, (h2, r)) ∧ ∃ w k, TP K h o f (zP S) B s1 w k h2 q2.2 := by
    refine o_two (fun k (t1 : Int32 × Int32 × CS) (t2 : Int32 × Int32 × MS) => t1.1 = t2.1 ∧ t1.2.1 = i3 k ∧ t2.2.1 = i3 k ∧ t1.2.2.2 = r ∧ ∃ w, TP K h o f (zP S) B s1 w k t1.2.2.1 t2.2.2) (fun (q1 : (Int32 × CS) ⊕ XT) (q2 : Int32 × MS) => ∃ h2, q1 = .inl (q2.1, (h2, r)) ∧ ∃ w k, TP K h o f (zP S) B s1 w k h2 q2.2) k0 (fun k t1 t2 hk hI => ?_) (fun t1 t2 hI => ?_) 0 _ _ (Nat.zero_le _) ⟨rfl, rfl, rfl, rfl, _, ht⟩
    · obtain ⟨x1, u1, y1, z1⟩ := t1
      obtain ⟨x2, u2, y2⟩ := t2
      obtain ⟨rfl, rfl, rfl, rfl, w, hT⟩ := hI
      dsimp only at hT
      have g3 := TP_3 hp hT
      obtain ⟨h2, σ3, f1, f2, f3⟩ := TP_pass hT (by omega)
      unfold C1_laid_L26 M_laid_L25
      dsimp only
      rw [if_pos ((i3_lt (by omega) (by omega)).mpr hk), if_pos ((i3_lt (by omega) (by omega)).mpr hk), cx_vc hT.1.1, C_allK hp hT, g3, M_know_eq hT.2.2.1, f2]
      simp only [Option.bind_some, f1, cx_vc f3.1.1, C_allK hp f3, M_know_eq f3.2.2.1, i3_succ]
      left
      by_cases e : i3 (alk (zP S) (pas (zP S) w)) ≤ i3 (alk (zP S) w)
      · rw [if_pos e, if_pos e]
        simp only [xg_l, Option.bind_some]
        exact ⟨_, _, rfl, rfl, (Int32.add_zero _).symm, rfl, rfl, rfl, _, f3⟩
      · rw [if_neg e, if_neg e]
        simp only [xg_l, Option.bind_some]
        exact ⟨_, _, rfl, rfl, rfl, rfl, rfl, rfl, _, f3⟩
    · obtain ⟨x1, u1, y1, z1⟩ := t1
      obtain ⟨x2, u2, y2⟩ := t2
      obtain ⟨rfl, rfl, rfl, rfl, w, hT⟩ := hI
      unfold C1_laid_L26 M_laid_L25
      dsimp only
      rw [if_neg (fun x => absurd ((i3_lt (by omega) (by omega)).mp x) (by omega)), if_neg (fun x => absurd ((i3_lt (by omega) (by omega)).mp x) (by omega))]
      exact ⟨_, _, rfl, rfl, _, rfl, _, _, hT⟩
  subst l3
  obtain ⟨x2, y2⟩ := q2
  rw [l1, l2]
  obtain ⟨t1, t2, t3, t4, t5⟩ := hT
  exact ⟨_, _, _, rfl, rfl, JN_try hp hM1 h0 hr1 hr2 ⟨_, t1⟩ t2 t4⟩
end OPS3
