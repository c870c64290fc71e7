/-! ===== ask ===== -/
section ASK
variable {K : Nat → Nat} {h hc hc' h' : CH} {r r' : CR} {o N n n' : Nat} {σ τ τ' : MS} {S : ST} {f : CH} {B : Nat → Nat} {sT aT hT : Option Nat} {seed : Int32} {ea eh : Nat → Nat} {w w' : SV} {P : PO}
theorem aGrid_of {n k : Nat} (hn : n ≤ 1000) (hk : k ≤ 100000) (h1 : 1 + n ≤ r.2.1) (h2 : n + n * k ≤ r.2.2) : ∃ G, aGrid h r (i3 n) (i3 k) = some (G, (r.1 + 1 + n, r.2.1 - (1 + n), r.2.2 - (n + n * k))) ∧ G r.1 = some (.inl (4, n, .inr (.inr (.inr (.inr (fun j => if j < n then some (r.1 + 1 + j) else none)))))) ∧ (∀ j, j < n → G (r.1 + 1 + j) = some (.inl (0, k, .inl (fun _ => 0)))) ∧ (∀ q, q < r.1 → G q = h q) ∧ ∀ q, r.1 + 1 + n ≤ q → G q = h q := by
  unfold aGrid
  rw [i3_nat (show n < 2 ^ 31 by omega), i3_nat (show k < 2 ^ 31 by omega), if_neg (by
    rintro (x | x | x | x)
    · exact i3_nn (by omega) x
    · exact i3_nn (by omega) x
    · omega
    · omega), if_pos ⟨h1, h2⟩]
  refine ⟨_, rfl, if_pos rfl, fun j hj => ?_, fun q hq => ?_, fun q hq => ?_⟩
  · rw [if_neg (by omega), if_pos (by omega)]
  · rw [if_neg (by omega), if_neg (by omega)]
  · rw [if_neg (by omega), if_neg (by omega)]
/-- what the j-th guess would make a clerk know after six days -/
def kn6 (S : ST) (L : List Nat) (j c : Nat) : Int32 := i3 (aft (zP S) 6 (gsO (zw S) (L.getD j 0)) (28 + c))
def nwB (G : Nat → Nat → Int32) (c j : Nat) : Bool := allb (fun i => !decide (G i c = G j c)) j
def nwC (G : Nat → Nat → Int32) (c m : Nat) : Nat := smf (fun j => (nwB G c j).toNat) m
theorem nwC_le (G : Nat → Nat → Int32) (c m : Nat) : nwC G c m ≤ m := by
  have := smf_le (f := fun j => (nwB G c j).toNat) (b := 1) m (fun k _ => by cases nwB G c k <;> decide)
  unfold nwC
  omega
theorem allb_cut {g : Nat → Bool} {i m : Nat} (hi : i ≤ m) (h : allb g i = false) : allb g m = false := by
  cases e : allb g m with
  | false => rfl
  | true =>
    have := (allb_iff i).mpr (fun k hk => (allb_iff m).mp e k (by omega))
    rw [h] at this
    cases this
/-- the best clerk, by the counts -/
def bst2 (G : Nat → Nat → Int32) (m : Nat) : Nat → Int32 × Int32
  | 0 => (-1, 0)
  | c + 1 => if i3 (nwC G c m) ≤ (bst2 G m c).2 then bst2 G m c else (i3 c, i3 (nwC G c m))
theorem C1_askC_eq {q2 : Nat × CS} {r7 : CS} {G : Nat → Nat → Int32} {m M : Nat} {off : Nat} (hm : m ≤ 54) (hM : M ≤ 6) (ho1 : gR r7.1 o 1 1 = some off) (ho2 : vc r7.1 off 2 (C2_clerks r7.1 off) = some (i3 M)) (hN : aN r7.1 q2.2.2.1 4 = some (i3 m)) (hg : ∀ j, j < m → aQ r7.1 q2.2.2.1 4 (i3 j) = some (some (q2.2.2.1 + 1 + j))) (hv : ∀ j c, j < m → c < M → aI r7.1 (q2.2.2.1 + 1 + j) 0 (i3 c) = some (G j c)) : o_loop (C1_ask_L139 o q2 r7) ((-1), 0, 0) = some (.inl (bst2 G m M)) := by
  refine o_for0 (fun c => ((bst2 G m c).1, (bst2 G m c).2, i3 c)) M rfl (fun c hc => ?_) ?_
  · unfold C1_ask_L139
    dsimp only
    rw [ho1, Option.bind_some, ho2, Option.bind_some, if_pos ((i3_lt (by omega) (by omega)).mpr hc)]
    have e1 : o_loop (C1_ask_L157 q2 r7 ((bst2 G m c).1, (bst2 G m c).2, i3 c)) (0, 0) = some (.inl (i3 (nwC G c m))) := by
      refine o_for0 (fun j => (i3 (nwC G c j), i3 j)) m rfl (fun j hj => ?_) ?_
      · unfold C1_ask_L157
        dsimp only
        rw [hN, Option.bind_some, if_pos ((i3_lt (by omega) (by omega)).mpr hj)]
        have e2 : o_loop (C1_ask_L170 q2 r7 ((bst2 G m c).1, (bst2 G m c).2, i3 c) (i3 (nwC G c j), i3 j)) (1, 0) = some (.inl (bI (nwB G c j))) := by
          obtain ⟨res, l1, rfl⟩ := o_inv (step := C1_ask_L170 q2 r7 ((bst2 G m c).1, (bst2 G m c).2, i3 c) (i3 (nwC G c j), i3 j)) (fun i (t : Int32 × Int32) => t.2 = i3 i ∧ t.1 = bI (allb (fun i => !decide (G i c = G j c)) i)) (fun res => res = .inl (bI (nwB G c j))) j (fun i t hi hI => by
            obtain ⟨t1, t2⟩ := t
            obtain ⟨rfl, rfl⟩ := hI
            unfold C1_ask_L170
            dsimp only
            rw [if_pos ((i3_lt (by omega) (by omega)).mpr hi)]
            cases e3 : allb (fun i => !decide (G i c = G j c)) i
            · right
              rw [if_pos bI_f]
              exact ⟨_, rfl, by unfold nwB; rw [allb_cut (by omega) e3]⟩
            · left
              rw [if_neg bI_t0, hg i (by omega), Option.bind_some, Option.bind_some, hv i c (by omega) hc, Option.bind_some, hg j hj, Option.bind_some, Option.bind_some, hv j c hj hc, Option.bind_some, i3_succ]
              by_cases e4 : G i c = G j c
              · rw [if_pos e4, xg_l]
                refine ⟨_, rfl, rfl, ?_⟩
                unfold allb
                rw [e3, decide_eq_true e4]
                rfl
              · rw [if_neg e4, xg_l]
                refine ⟨_, rfl, rfl, ?_⟩
                unfold allb
                rw [e3, decide_eq_false e4]
                rfl) (fun t hI => by
            obtain ⟨t1, t2⟩ := t
            obtain ⟨rfl, rfl⟩ := hI
            unfold C1_ask_L170
            dsimp only
            rw [if_neg (fun x => absurd ((i3_lt (by omega) (by omega)).mp x) (by omega))]
            exact ⟨_, rfl, rfl⟩) 0 (1, 0) (Nat.zero_le _) ⟨rfl, rfl⟩
          exact l1
        rw [e2, xg_l, i3_succ j]
        show _ = some (Sum.inl (i3 (nwC G c j + (nwB G c j).toNat), i3 (j + 1)))
        cases nwB G c j
        · rw [if_pos bI_f, xg_l]
          rfl
        · rw [if_neg bI_t0, xg_l, i3_succ]
          rfl
      · unfold C1_ask_L157
        dsimp only
        rw [hN, Option.bind_some, if_neg (fun x => absurd ((i3_lt (by omega) (by omega)).mp x) (by omega))]
    rw [e1, xg_l, i3_succ c]
    show _ = some (Sum.inl ((if i3 (nwC G c m) ≤ (bst2 G m c).2 then bst2 G m c else (i3 c, i3 (nwC G c m))).1, (if i3 (nwC G c m) ≤ (bst2 G m c).2 then bst2 G m c else (i3 c, i3 (nwC G c m))).2, i3 (c + 1)))
    by_cases e : i3 (nwC G c m) ≤ (bst2 G m c).2
    · rw [if_pos e, if_pos e, xg_l]
    · rw [if_neg e, if_neg e, xg_l]
  · unfold C1_ask_L139
    dsimp only
    rw [ho1, Option.bind_some, ho2, Option.bind_some, if_neg (fun x => absurd ((i3_lt (by omega) (by omega)).mp x) (by omega))]
theorem M_askC_eq {r6 : Int32 × MS} {G : Nat → Nat → Int32} {m M : Nat} (hm : m ≤ 54) (hM : M ≤ 6) (h6 : r6.1 = i3 m) (h2 : mf r6.2 2 = i3 M) (hv : ∀ j c, j < m → c < M → ma r6.2 54 (6 * j + c) = G j c) : o_loop (M_ask_L96 r6) ((-1), 0, 0) = some (bst2 G m M) := by
  have hld : ∀ j c, j < m → c < M → ald r6.2 54 (6 * i3 j + i3 c) = some (G j c) := by
    intro j c hj hc
    rw [show (6 : Int32) * i3 j = i3 (6 * j) from i3_mul 6 j, i3_add, ald_i3 (j := 54) (show 6 * j + c < 324 by omega), hv j c hj hc]
  refine o_for0 (fun c => ((bst2 G m c).1, (bst2 G m c).2, i3 c)) M rfl (fun c hc => ?_) ?_
  · unfold M_ask_L96
    dsimp only
    rw [h2, if_pos ((i3_lt (by omega) (by omega)).mpr hc)]
    have e1 : o_loop (M_ask_L111 r6 ((bst2 G m c).1, (bst2 G m c).2, i3 c)) (0, 0) = some (i3 (nwC G c m)) := by
      refine o_for0 (fun j => (i3 (nwC G c j), i3 j)) m rfl (fun j hj => ?_) ?_
      · unfold M_ask_L111
        dsimp only
        rw [h6, if_pos ((i3_lt (by omega) (by omega)).mpr hj)]
        have e2 : o_loop (M_ask_L123 r6 ((bst2 G m c).1, (bst2 G m c).2, i3 c) (i3 (nwC G c j), i3 j)) (1, 0) = some (bI (nwB G c j)) := by
          obtain ⟨res, l1, rfl⟩ := o_inv (step := M_ask_L123 r6 ((bst2 G m c).1, (bst2 G m c).2, i3 c) (i3 (nwC G c j), i3 j)) (fun i (t : Int32 × Int32) => t.2 = i3 i ∧ t.1 = bI (allb (fun i => !decide (G i c = G j c)) i)) (fun res => res = bI (nwB G c j)) j (fun i t hi hI => by
            obtain ⟨t1, t2⟩ := t
            obtain ⟨rfl, rfl⟩ := hI
            unfold M_ask_L123
            dsimp only
            rw [if_pos ((i3_lt (by omega) (by omega)).mpr hi)]
            cases e3 : allb (fun i => !decide (G i c = G j c)) i
            · right
              rw [if_pos bI_f]
              exact ⟨_, rfl, by unfold nwB; rw [allb_cut (by omega) e3]⟩
            · left
              rw [if_neg bI_t0, hld j c hj hc, Option.bind_some, hld i c (by omega) hc, Option.bind_some, i3_succ]
              by_cases e4 : G i c = G j c
              · rw [if_pos e4.symm, Option.bind_some]
                refine ⟨_, rfl, rfl, ?_⟩
                unfold allb
                rw [e3, decide_eq_true e4]
                rfl
              · rw [if_neg (fun x => e4 x.symm), Option.bind_some]
                refine ⟨_, rfl, rfl, ?_⟩
                unfold allb
                rw [e3, decide_eq_false e4]
                rfl) (fun t hI => by
            obtain ⟨t1, t2⟩ := t
            obtain ⟨rfl, rfl⟩ := hI
            unfold M_ask_L123
            dsimp only
            rw [if_neg (fun x => absurd ((i3_lt (by omega) (by omega)).mp x) (by omega))]
            exact ⟨_, rfl, rfl⟩) 0 (1, 0) (Nat.zero_le _) ⟨rfl, rfl⟩
          exact l1
        rw [e2, Option.bind_some, i3_succ j]
        show _ = some (Sum.inl (i3 (nwC G c j + (nwB G c j).toNat), i3 (j + 1)))
        cases nwB G c j
        · rw [if_pos bI_f, Option.bind_some, show ∀ x : Int32, x + 0 = x from fun x => Int32.add_zero x]
          rfl
        · rw [if_neg bI_t0, Option.bind_some, i3_succ]
          rfl
      · unfold M_ask_L111
        dsimp only
        rw [h6, if_neg (fun x => absurd ((i3_lt (by omega) (by omega)).mp x) (by omega))]
    rw [e1, Option.bind_some, i3_succ c]
    show _ = some (Sum.inl ((if i3 (nwC G c m) ≤ (bst2 G m c).2 then bst2 G m c else (i3 c, i3 (nwC G c m))).1, (if i3 (nwC G c m) ≤ (bst2 G m c).2 then bst2 G m c else (i3 c, i3 (nwC G c m))).2, i3 (c + 1)))
    by_cases e : i3 (nwC G c m) ≤ (bst2 G m c).2
    · rw [if_pos e, if_pos e, Option.bind_some]
    · rw [if_neg e, if_neg e, Option.bind_some]
  · unfold M_ask_L96
    dsimp only
    rw [h2, if_neg (fun x => absurd ((i3_lt (by omega) (by omega)).mp x) (by omega))]
/-- the reference: the guesses and what would be known -/
theorem M_askG_eq (hM : RM τ S) (hZ : WFZ S) : ∃ τ', o_loop M_ask_L20 (0, 0, τ) = some (i3 (gsL S (9 * pM (zP S))).length, τ') ∧ Gx τ τ' ∧ mf τ' 0 = mf τ 0 ∧ ∀ j c, j < (gsL S (9 * pM (zP S))).length → c < pM (zP S) → ma τ' 54 (6 * j + c) = kn6 S (gsL S (9 * pM (zP S))) j c := by
  have hMM := hZ.1.2.1
  obtain ⟨res, l1, τ', rfl, l2, l3, l4⟩ : ∃ res, o_loop M_ask_L20 (0, 0, τ) = some res ∧ ∃ τ', res = (i3 (gsL S (9 * pM (zP S))).length, τ') ∧ Gx τ τ' ∧ mf τ' 0 = mf τ 0 ∧ ∀ j c, j < (gsL S (9 * pM (zP S))).length → c < pM (zP S) → ma τ' 54 (6 * j + c) = kn6 S (gsL S (9 * pM (zP S))) j c := by
    refine o_inv0 (fun g (t : Int32 × Int32 × MS) => t.2.1 = i3 g ∧ t.1 = i3 (gsL S g).length ∧ Gx τ t.2.2 ∧ mf t.2.2 0 = mf τ 0 ∧ ∀ j c, j < (gsL S g).length → c < pM (zP S) → ma t.2.2 54 (6 * j + c) = kn6 S (gsL S g) j c) (fun (res : Int32 × MS) => ∃ τ', res = (i3 (gsL S (9 * pM (zP S))).length, τ') ∧ Gx τ τ' ∧ mf τ' 0 = mf τ 0 ∧ ∀ j c, j < (gsL S (9 * pM (zP S))).length → c < pM (zP S) → ma τ' 54 (6 * j + c) = kn6 S (gsL S (9 * pM (zP S))) j c) (9 * pM (zP S)) (fun g t hg hI => ?_) (fun t hI => ?_) (0, 0, τ) ⟨rfl, rfl, Gx_refl τ, rfl, fun j c hj _ => absurd hj (Nat.not_lt_zero _)⟩
    · obtain ⟨t1, t2, t3⟩ := t
      obtain ⟨rfl, rfl, z1, z2, z3⟩ := hI
      dsimp only at z1 z2 z3
      have hM3 := RM_gx hZ z1 hM
      obtain ⟨τ3, x1, x2, x3⟩ := M_isGuess_eq hM3 hZ hg
      have hgl := gsL_len (S := S) g
      unfold M_ask_L20
      dsimp only
      rw [hM3.1.1.2.1, show (9 : Int32) * i3 (pM (zP S)) = i3 (9 * pM (zP S)) from i3_mul 9 _, if_pos ((i3_lt (by omega) (by omega)).mpr hg), x1, Option.bind_some, i3_succ g]
      dsimp only
      cases eg : gss S g
      · rw [if_pos bI_f, Option.bind_some]
        refine ⟨_, rfl, rfl, by rw [gsL_f eg], Gx_trans z1 (Gx_hx x2), (mf_hx x2 0).trans z2, ?_⟩
        rw [gsL_f eg]
        intro j c hj hc
        show ma τ3 54 _ = _
        rw [x2.2.1 54 (by decide) (by decide) (by decide) (by decide)]
        exact z3 j c hj hc
      · obtain ⟨r1, w1, w2, w3, w4⟩ := o_cpy2 (step := M_ask_L45 (i3 (gsL S g).length, i3 g, t3)) (σ := τ3) 53 54 0 (6 * (gsL S g).length) (pM (zP S)) (by decide) (fun k τ' hk hF => by
          unfold M_ask_L45
          dsimp only
          rw [show mf τ' 2 = i3 (pM (zP S)) from (by unfold mf; rw [hF]; exact (mf_hx x2 2).trans hM3.1.1.2.1), if_pos ((i3_lt (by omega) (by omega)).mpr hk), ald_i3 (j := 53) (show k < 6 by omega), Option.bind_some, show (6 : Int32) * i3 (gsL S g).length = i3 (6 * (gsL S g).length) from i3_mul 6 _, i3_add, ast_i3 (j := 54) (show 6 * (gsL S g).length + k < 324 by omega), Option.bind_some, i3_succ, Nat.zero_add]) (fun τ' hF => by
          unfold M_ask_L45
          dsimp only
          rw [show mf τ' 2 = i3 (pM (zP S)) from (by unfold mf; rw [hF]; exact (mf_hx x2 2).trans hM3.1.1.2.1), if_neg (fun x => absurd ((i3_lt (by omega) (by omega)).mp x) (by omega))])
        rw [if_neg bI_t0, w1, Option.bind_some, Option.bind_some, i3_succ]
        have hgx : Gx τ3 r1 := ⟨fun k _ _ => by unfold mf; rw [w2], fun j _ _ _ _ _ a => w3 j a, fun i _ => by rw [w3 44 (by decide)]⟩
        refine ⟨_, rfl, rfl, by rw [gsL_t eg, List.length_append]; rfl, Gx_trans z1 (Gx_trans (Gx_hx x2) hgx), ?_, ?_⟩
        · show mf r1 0 = _
          unfold mf
          rw [w2]
          exact (mf_hx x2 0).trans z2
        · rw [gsL_t eg, List.length_append]
          intro j c hj hc
          show ma r1 54 _ = _
          rw [w4]
          by_cases e : j = (gsL S g).length
          · rw [if_pos (by omega), show 0 + (6 * j + c - 6 * (gsL S g).length) = c by omega, x3 eg c hc]
            unfold kn6
            rw [e]
            simp
          · have hj2 : j < (gsL S g).length := by simp only [List.length_singleton] at hj; omega
            rw [if_neg (by omega), x2.2.1 54 (by decide) (by decide) (by decide) (by decide), z3 j c hj2 hc]
            unfold kn6
            rw [List.getD_eq_getElem?_getD, List.getD_eq_getElem?_getD, List.getElem?_append_left hj2]
    · obtain ⟨t1, t2, t3⟩ := t
      obtain ⟨rfl, rfl, z1, z2, z3⟩ := hI
      dsimp only at z1 z2 z3
      have hM3 := RM_gx hZ z1 hM
      unfold M_ask_L20
      dsimp only
      rw [hM3.1.1.2.1, show (9 : Int32) * i3 (pM (zP S)) = i3 (9 * pM (zP S)) from i3_mul 9 _, if_neg (fun x => absurd ((i3_lt (by omega) (by omega)).mp x) (by omega))]
      exact ⟨_, rfl, t3, rfl, z1, z2, z3⟩
  exact ⟨τ', l1, l2, l3, l4⟩
/-- a guess, as it lies in the list -/
theorem OI_get {L : List Nat} (hO : OI K o S f B sT aT hT seed ea eh r hc r' L) (hL : L.length ≤ 54) {j : Nat} (hj : j < L.length) (hg : gv (L.getD j 0) < 100) : vc hc r.1 10 (CJ2_get hc r.1 (i3 j)) = some (K (328 + gv (L.getD j 0))) ∧ ckC hc (K (328 + gv (L.getD j 0))) 12 = some () ∧ vc hc (K (328 + gv (L.getD j 0))) 12 (CJ19_intValue hc (K (328 + gv (L.getD j 0)))) = some (i3 (gv (L.getD j 0))) := by
  obtain ⟨arr, q1, q2, _⟩ := hO
  have hld := LMu_LRd (by omega) q2
  have hK := (RCp_K q1).2.2.2 (128 + gv (L.getD j 0)) (by omega)
  rw [show 200 + (128 + gv (L.getD j 0)) = 328 + gv (L.getD j 0) by omega] at hK
  refine ⟨LRd_get hld hj, ckC_of hK, ?_⟩
  rw [vc_of hK]
  unfold CJ19_intValue
  rw [gI_of hK (k := 0) rfl, Option.bind_some]
  have := i3_sub (a := 128 + gv (L.getD j 0)) (b := 128) (by omega)
  rw [show 128 + gv (L.getD j 0) - 128 = gv (L.getD j 0) by omega] at this
  rw [show i3 (128 + gv (L.getD j 0)) - 128 = i3 (gv (L.getD j 0)) from this]
/-- a cell beyond the state, and beyond the list, has changed -/
theorem OI_up {L : List Nat} {a : Nat} {c : CE} (hp0 : RCp K h r.1 o S f B sT aT hT seed ea eh) (hO : OI K o S f B sT aT hT seed ea eh r hc r' L) (ha : r.1 < a) (ha2 : a < r'.1) (harr : ∀ arr mc m, hc r.1 = some (.inr (10, [mc, .ref arr, m])) → a ≠ arr) : OI K o S f B sT aT hT seed ea eh r (hup hc a c) r' L := by
  obtain ⟨arr, y1, ⟨mc, y2, y2'⟩, y3, y4⟩ := hO
  have hpos := RCp_pos hp0
  have hk0 := (RCp_K hp0).2.2.1
  have hlt : ∀ q c, f q = some c → q < r.1 := fun q c x => RCp_lt hp0 ((RC_o hp0).2.2.1 _ _ x)
  have hne := harr _ _ _ y2
  refine ⟨arr, RC_gar y1 (fun i hi => hup_n (by have := hpos i hi; omega)) (fun q x e => ?_) (FR_set (RCp_FR y1) ha2) (Nat.le_refl _) ?_, ⟨mc, by rw [hup_n (by omega)]; exact y2, ?_⟩, y3, y4⟩
  · rw [hup_n (by have := hlt q x e; omega)]
    exact (RC_o y1).2.2.1 _ _ e
  · obtain ⟨z1, z2, z3⟩ := (RCp_K y1).1
    refine ⟨?_, ?_, fun i hi => ?_⟩
    · rw [hup_n (by have := hk0 0 (by decide); omega)]; exact z1
    · rw [hup_n (by have := hk0 1 (by decide); omega)]; exact z2
    · rw [hup_n (by have := hk0 (30 + i) (by omega); omega)]; exact z3 i hi
  · rcases y2' with q | ⟨cap, g, q1, q2⟩
    · exact .inl q
    · exact .inr ⟨cap, g, by rw [hup_n (Ne.symm hne)]; exact q1, q2⟩
theorem op_ask (hS : RS K o (h, r) σ (N + 1)) (a0 : Int32) : ∃ z v σ', C1_ask K h r o a0 = some z ∧ M_ask σ a0 = some (v, σ') ∧ JN K o r N true 0 z v σ' := by
  obtain ⟨S, ⟨f, B, sT, aT, hT, seed, ea, eh, hp⟩, hM, hr1, hr2⟩ := hS
  dsimp only at hp hr1 hr2
  have hZ := RCp_Z hp
  obtain ⟨hv, hs, ht, hF, hacts, hheard, hrf⟩ := RD_of hp
  have hM1 : RM (sf σ 0 0) S := RM_gx hZ (Gx_sf (.inl rfl)) hM
  have h0 : mf (sf σ 0 0) 0 = 0 := mf_sf0
  unfold C1_ask M_ask
  rw [show pf σ 0 0 = some (sf σ 0 0) from rfl, Option.bind_some]
  generalize sf σ 0 0 = s1 at hM1 h0
  have mv := RM_MV hZ hM1
  have hN := hZ.1.1
  have hMM := hZ.1.2.1
  have hQ := hZ.1.2.2.1
  cases e0 : inR a0 (1 + 1)
  · rw [aO_no (y := 1) (m := 1) rfl (by decide) e0 (by omega) (by omega), xg_r, mO_no (y := 1) (m := 1) rfl (by decide) h0 e0, Option.bind_some, if_pos (show ((0 : Int32), sf s1 0 1).1 = 0 from rfl)]
    exact ⟨_, _, _, rfl, rfl, JN_thr hp hM1 hr1 hr2 (.inl ⟨rfl, rfl, rfl⟩)⟩
  rw [aO_ok (y := 1) (m := 1) rfl (by decide) e0, xg_l, mO_ok (y := 1) (m := 1) rfl (by decide) h0 e0, Option.bind_some, if_neg (show ¬ ((1 : Int32), s1).1 = 0 from i_ne10)]
  try dsimp only
  obtain ⟨k0, hk0, rfl⟩ := inR_is e0
  obtain ⟨hc1, r1, l1, l2⟩ := C1_others_eq hp (by omega) (by omega)
  have hlen := gsL_len (S := S) (9 * pM (zP S))
  have hgv : ∀ j, j < (gsL S (9 * pM (zP S))).length → (gsL S (9 * pM (zP S))).getD j 0 < 54 := by
    intro j hj
    have hm : (gsL S (9 * pM (zP S))).getD j 0 ∈ gsL S (9 * pM (zP S)) := by
      rw [List.getD_eq_getElem?_getD, List.getElem?_eq_getElem hj]
      exact List.getElem_mem hj
    have := (gsL_mem hm).1
    omega
  have hgs : ∀ j, j < (gsL S (9 * pM (zP S))).length → gss S ((gsL S (9 * pM (zP S))).getD j 0) = true ∧ (gsL S (9 * pM (zP S))).getD j 0 < 9 * pM (zP S) := by
    intro j hj
    have hm : (gsL S (9 * pM (zP S))).getD j 0 ∈ gsL S (9 * pM (zP S)) := by
      rw [List.getD_eq_getElem?_getD, List.getElem?_eq_getElem hj]
      exact List.getElem_mem hj
    exact ⟨(gsL_mem hm).2, (gsL_mem hm).1⟩
  obtain ⟨τ', g1, g2, g3, g4⟩ := M_askG_eq hM1 hZ
  generalize hL : gsL S (9 * pM (zP S)) = L at l2 hlen hgv hgs g1 g4
  obtain ⟨arr, q1, q2, q3, q4, q5, q6, q7, q8⟩ := id l2
  rw [l1, Option.bind_some]
  dsimp only
  rw [C_siz q2, Option.bind_some]
  obtain ⟨hG, a1, a2, a3, a4, a5⟩ := aGrid_of (h := hc1) (r := r1) (n := L.length) (k := 6) (by omega) (by decide) (by omega) (by omega)
  have hposA : ∀ mc a m, hc1 r.1 = some (.inr (10, [mc, .ref a, m])) → a < r1.1 := by
    intro mc a m e
    obtain ⟨mc2, y1, y2⟩ := q2
    rw [y1] at e
    have e2 : arr = a := by
      simp only [Option.some.injEq, Sum.inr.injEq, Prod.mk.injEq, List.cons.injEq, Value.ref.injEq, true_and, and_true] at e
      exact e.2.1
    subst e2
    rcases y2 with ⟨_, q | q⟩ | ⟨cap, g, q, _⟩
    · rw [q]; exact (RCp_K q1).2.2.1 0 (by decide)
    · rw [q]; exact (RCp_K q1).2.2.1 1 (by decide)
    · exact RCp_lt q1 q
  have o1 : OI K o S f B sT aT hT seed ea eh r hG (r1.1 + 1 + L.length, r1.2.1, r1.2.2) L := by
    refine ⟨arr, RC_grow q1 (fun q hq => a4 q hq) (fun q hq => by dsimp only at hq; rw [a5 q hq]; exact RCp_FR q1 q (by omega)) (by dsimp only; omega), ?_, q3, by dsimp only; omega, q5, q6, q7, q8⟩
    obtain ⟨mc, y1, y2⟩ := q2
    refine ⟨mc, by rw [a4 _ q4]; exact y1, ?_⟩
    rcases y2 with q | ⟨cap, g, z1, z2⟩
    · exact .inl q
    · exact .inr ⟨cap, g, by rw [a4 _ (RCp_lt q1 z1)]; exact z1, z2⟩
  rw [show aGrid hc1 r1 (i3 L.length) 6 = _ from a1, Option.bind_some]
  -- what would be known
  obtain ⟨res, m1, hF, rfl, m2, m3, m4⟩ : ∃ res, o_loop (C1_ask_L26 K o (r.1, (hc1, r1))) (0, (hG, (r1.1 + 1 + L.length, r1.2.1 - (1 + L.length), r1.2.2 - (L.length + L.length * 6)))) = some res ∧ ∃ hF, res = .inl (hF, (r1.1 + 1 + L.length, r1.2.1 - (1 + L.length), r1.2.2 - (L.length + L.length * 6))) ∧ OI K o S f B sT aT hT seed ea eh r hF (r1.1 + 1 + L.length, r1.2.1, r1.2.2) L ∧ hF r1.1 = hG r1.1 ∧ ∀ i, i < L.length → ∃ gi, hF (r1.1 + 1 + i) = some (.inl (0, 6, .inl gi)) ∧ ∀ c, c < pM (zP S) → gi c = kn6 S L i c := by
    refine o_inv0 (fun j (t : Int32 × CS) => t.1 = i3 j ∧ t.2.2 = (r1.1 + 1 + L.length, r1.2.1 - (1 + L.length), r1.2.2 - (L.length + L.length * 6)) ∧ OI K o S f B sT aT hT seed ea eh r t.2.1 (r1.1 + 1 + L.length, r1.2.1, r1.2.2) L ∧ t.2.1 r1.1 = hG r1.1 ∧ t.2.1 r.1 = hc1 r.1 ∧ ∀ i, i < L.length → ∃ gi, t.2.1 (r1.1 + 1 + i) = some (.inl (0, 6, .inl gi)) ∧ (i < j → ∀ c, c < pM (zP S) → gi c = kn6 S L i c)) (fun (res : CS ⊕ XT) => ∃ hF, res = .inl (hF, (r1.1 + 1 + L.length, r1.2.1 - (1 + L.length), r1.2.2 - (L.length + L.length * 6))) ∧ OI K o S f B sT aT hT seed ea eh r hF (r1.1 + 1 + L.length, r1.2.1, r1.2.2) L ∧ hF r1.1 = hG r1.1 ∧ ∀ i, i < L.length → ∃ gi, hF (r1.1 + 1 + i) = some (.inl (0, 6, .inl gi)) ∧ ∀ c, c < pM (zP S) → gi c = kn6 S L i c) L.length (fun j t hj hI => ?_) (fun t hI => ?_) _ ⟨rfl, rfl, o1, rfl, a4 _ q4, fun i hi => ⟨_, a3 i hi, fun h => absurd h (Nat.not_lt_zero _)⟩⟩
    · obtain ⟨t1, hc, t3⟩ := t
      obtain ⟨rfl, rfl, z1, z2, z3, z4⟩ := hI
      dsimp only at z1 z2 z3 z4
      obtain ⟨arr2, y1, y2, y3, y4⟩ := id z1
      have hg54 := hgv j hj
      obtain ⟨hgs1, hgs2⟩ := hgs j hj
      have hgvl : gv (L.getD j 0) < 100 := by unfold gv; omega
      have hcl : (L.getD j 0) / 9 < pM (zP S) := by omega
      have hkl : (L.getD j 0) % 9 < pN (zP S) := by
        unfold gss at hgs1
        rw [Bool.and_eq_true] at hgs1
        exact of_decide_eq_true hgs1.1
      obtain ⟨hs2, _⟩ : gR hc o 1 2 = some (B 2) ∧ True := ⟨(RD_of y1).2.1, trivial⟩
      obtain ⟨hb1, b1, b2, b3, b4, b5⟩ := RC_be y1
      have hvc7 : ∀ {α : Type} (x : Option α), vc hc (B 7) 3 x = x := fun x => by unfold vc; rw [if_pos b2]
      have z1b : OI K o S f B sT aT hT seed ea eh r hb1 (r1.1 + 1 + L.length, r1.2.1, r1.2.2) L := OI_hX hp z1 (RC_tx y1 b4 b5) b5
      obtain ⟨c1, c2, c3⟩ := OI_get z1b (by omega) hj hgvl
      obtain ⟨hb2, t1, t2, t3⟩ := C3_take_eq b4 (c := (L.getD j 0) / 9) (k := (L.getD j 0) % 9) hcl hkl
      have hwd : upn (zw S) (19 + (L.getD j 0) % 9) (4 + (L.getD j 0) / 9) 0 = zw S 0 := upn_ne (by omega)
      have hd := hZ.2.1.2
      obtain ⟨hb3, u1, u2, u3⟩ := C3_after_eq t2 (n := 6) (by decide) (by rw [hwd]; omega)
      have x5 : hX (sX6 (B 1) (B 7) (fun i => B (8 + i))) hc hb2 := hX_trans b5 t3
      have x6 : hX (sX6 (B 1) (B 7) (fun i => B (8 + i))) hc hb3 := hX_trans x5 u3
      have hg3 : gR hb2 o 1 3 = some (B 7) := tr_3 y1 t2 x5
      have z1c : OI K o S f B sT aT hT seed ea eh r hb3 (r1.1 + 1 + L.length, r1.2.1, r1.2.2) L := OI_hX hp z1 (RC_tx y1 u2 x6) x6
      have hg3c : gR hb3 o 1 3 = some (B 7) := tr_3 y1 u2 x6
      have hpos := RCp_pos hp
      have hnm : ∀ q, r.1 ≤ q → hb3 q = hc q := by
        intro q hq
        refine x6 q (fun hm => ?_)
        unfold sX6 at hm
        simp only [List.mem_cons, List.not_mem_nil, or_false] at hm
        rcases hm with e | e | e | e | e | e
        · have := hpos 1 (by decide); omega
        · have := hpos 7 (by decide); omega
        · have : q < r.1 := e ▸ hpos 8 (by decide); omega
        · have : q < r.1 := e ▸ hpos 9 (by decide); omega
        · have : q < r.1 := e ▸ hpos 10 (by decide); omega
        · have : q < r.1 := e ▸ hpos 11 (by decide); omega
      obtain ⟨gj, gj1, gj2⟩ := z4 j hj
      obtain ⟨⟨gL, gE, gA, gK, ⟨v1, v2, v3, v4, v5⟩, _, _, _, v6⟩, _⟩ := u2.2.1
      have hol : o < r.1 := RCp_lt hp (RC_o hp).2.1
      have hrow : hb3 (r1.1 + 1 + j) = some (.inl (0, 6, .inl gj)) := (hnm _ (by omega)).trans gj1
      have hgrd : hb3 r1.1 = some (.inl (4, L.length, .inr (.inr (.inr (.inr (fun j => if j < L.length then some (r1.1 + 1 + j) else none)))))) := (hnm _ (by omega)).trans (z2.trans a2)
      -- the six are laid down
      have hd9 : ∃ gF, o_loop (C1_ask_L94 o (r.1, (hc1, r1)) (i3 j, (hc, (r1.1 + 1 + L.length, r1.2.1 - (1 + L.length), r1.2.2 - (L.length + L.length * 6))))) (0, (hb3, (r1.1 + 1 + L.length, r1.2.1 - (1 + L.length), r1.2.2 - (L.length + L.length * 6)))) = some (.inl (hup hb3 (r1.1 + 1 + j) (.inl (0, 6, .inl gF)), (r1.1 + 1 + L.length, r1.2.1 - (1 + L.length), r1.2.2 - (L.length + L.length * 6)))) ∧ ∀ c, c < 6 → gF c = gK c := by
        obtain ⟨res, e1, gF, rfl, e2⟩ : ∃ res, o_loop (C1_ask_L94 o (r.1, (hc1, r1)) (i3 j, (hc, (r1.1 + 1 + L.length, r1.2.1 - (1 + L.length), r1.2.2 - (L.length + L.length * 6))))) (0, (hb3, (r1.1 + 1 + L.length, r1.2.1 - (1 + L.length), r1.2.2 - (L.length + L.length * 6)))) = some res ∧ ∃ gF, res = .inl (hup hb3 (r1.1 + 1 + j) (.inl (0, 6, .inl gF)), (r1.1 + 1 + L.length, r1.2.1 - (1 + L.length), r1.2.2 - (L.length + L.length * 6))) ∧ ∀ c, c < 6 → gF c = gK c := by
          refine o_inv0 (fun c (t : Int32 × CS) => t.1 = i3 c ∧ ∃ gF, t.2 = (hup hb3 (r1.1 + 1 + j) (.inl (0, 6, .inl gF)), (r1.1 + 1 + L.length, r1.2.1 - (1 + L.length), r1.2.2 - (L.length + L.length * 6))) ∧ ∀ i, i < c → gF i = gK i) (fun (res : CS ⊕ XT) => ∃ gF, res = .inl (hup hb3 (r1.1 + 1 + j) (.inl (0, 6, .inl gF)), (r1.1 + 1 + L.length, r1.2.1 - (1 + L.length), r1.2.2 - (L.length + L.length * 6))) ∧ ∀ c, c < 6 → gF c = gK c) 6 (fun c t hc6 hI => ?_) (fun t hI => ?_) (0, (hb3, (r1.1 + 1 + L.length, r1.2.1 - (1 + L.length), r1.2.2 - (L.length + L.length * 6)))) ⟨rfl, gj, ?_, fun i hi => absurd hi (Nat.not_lt_zero _)⟩
          · obtain ⟨t1, t2⟩ := t
            obtain ⟨rfl, gF, rfl, hI⟩ := hI
            have hk : ∀ q, q < r.1 → hup hb3 (r1.1 + 1 + j) (.inl (0, 6, .inl gF)) q = hb3 q := fun q hq => hup_n (by omega)
            unfold C1_ask_L94
            dsimp only
            have w1 : gR (hup hb3 (r1.1 + 1 + j) (.inl (0, 6, .inl gF))) o 1 3 = some (B 7) := by
              unfold gR at hg3c ⊢
              rw [hk o hol]
              exact hg3c
            rw [if_pos ((i3_ltl (c := 6) (n := 6) rfl (by omega) (by decide)).mpr hc6), aQ_of (show hup hb3 (r1.1 + 1 + j) (.inl (0, 6, .inl gF)) r1.1 = _ from (hup_n (by omega)).trans hgrd) hj (by omega), Option.bind_some, if_pos hj, Option.bind_some, w1, Option.bind_some, gR_of ((hk _ (hpos 7 (by decide))).trans v1) (k := 3) rfl, Option.bind_some, aI_of ((hk _ (hpos 11 (by decide))).trans v5) hc6 (by decide), Option.bind_some, sI_of (show hup hb3 (r1.1 + 1 + j) (.inl (0, 6, .inl gF)) (r1.1 + 1 + j) = _ from hup_s) hc6 (by decide), Option.bind_some, i3_succ]
            refine ⟨_, rfl, rfl, upd gF c (gK c), ?_, fun i hi => ?_⟩
            · dsimp only
              congr 1
              funext q
              unfold hup
              by_cases e1 : q = r1.1 + 1 + j
              · rw [if_pos e1, if_pos e1]
              · rw [if_neg e1, if_neg e1, if_neg e1]
            · unfold upd
              by_cases e : i = c
              · rw [if_pos e, e]
              · rw [if_neg e]; exact hI i (by omega)
          · obtain ⟨t1, t2⟩ := t
            obtain ⟨rfl, gF, rfl, hI⟩ := hI
            unfold C1_ask_L94
            dsimp only
            rw [if_neg (by decide)]
            exact ⟨_, rfl, gF, rfl, hI⟩
          · dsimp only
            congr 1
            funext q
            unfold hup
            by_cases e1 : q = r1.1 + 1 + j
            · rw [if_pos e1, e1, hrow]
            · rw [if_neg e1]
        exact ⟨gF, e1, e2⟩
      obtain ⟨gF, f1, f2⟩ := hd9
      have hval : ∀ c, c < pM (zP S) → gF c = kn6 S L j c := fun c hc => by rw [f2 c (by omega), v6 c hc]; rfl
      have z1d : OI K o S f B sT aT hT seed ea eh r (hup hb3 (r1.1 + 1 + j) (.inl (0, 6, .inl gF))) (r1.1 + 1 + L.length, r1.2.1, r1.2.2) L := OI_up hp z1c (by omega) (by dsimp only; omega) (fun a mc m e => by
        have hh : a < r1.1 := hposA mc a m ((z3.symm.trans (hnm _ (Nat.le_refl _)).symm).trans e)
        exact Nat.ne_of_gt (Nat.lt_of_lt_of_le hh (by omega)))
      unfold C1_ask_L26
      dsimp only
      rw [aN_of (z2.trans a2), Option.bind_some, if_pos ((i3_lt (by omega) (by omega)).mpr hj), b1, Option.bind_some, hs2, Option.bind_some, hvc7, b3, Option.bind_some]
      dsimp only
      simp only [c1, c2, c3, ob_s]
      rw [show i3 (gv (L.getD j 0)) / 10 = i3 ((L.getD j 0) / 9) by rw [show i3 (gv (L.getD j 0)) / 10 = i3 (gv (L.getD j 0) / 10) from i3_div (b := 10) (by omega) (by decide)]; congr 1; unfold gv; omega, show imod (i3 (gv (L.getD j 0))) 10 = i3 ((L.getD j 0) % 9) by rw [show imod (i3 (gv (L.getD j 0))) 10 = i3 (gv (L.getD j 0) % 10) from i3_mod (b := 10) (by omega) (by decide)]; congr 1; unfold gv; omega, sv_vc b4, t1, Option.bind_some, hg3, Option.bind_some, sv_vc t2, show C3_after K hb2 (B 7) 6 = _ from u1, Option.bind_some]
      dsimp only
      rw [f1, xg_l, i3_succ]
      refine ⟨_, rfl, rfl, rfl, z1d, ?_, ?_, fun i hi => ?_⟩
      · show hup hb3 (r1.1 + 1 + j) _ r1.1 = _
        rw [hup_n (by omega), hnm _ (by omega)]; exact z2
      · show hup hb3 (r1.1 + 1 + j) _ r.1 = _
        rw [hup_n (by omega), hnm _ (Nat.le_refl _)]; exact z3
      · show ∃ gi, hup hb3 (r1.1 + 1 + j) _ (r1.1 + 1 + i) = _ ∧ _
        by_cases e : i = j
        · rw [e]
          exact ⟨gF, hup_s, fun _ => hval⟩
        · obtain ⟨gi, n1, n2⟩ := z4 i hi
          exact ⟨gi, by rw [hup_n (by omega), hnm _ (by omega)]; exact n1, fun hij => n2 (by omega)⟩
    · obtain ⟨t1, hc, t3⟩ := t
      obtain ⟨rfl, rfl, z1, z2, z3, z4⟩ := hI
      dsimp only at z1 z2 z3 z4
      unfold C1_ask_L26
      dsimp only
      rw [aN_of (z2.trans a2), Option.bind_some, if_neg (fun x => absurd ((i3_lt (by omega) (by omega)).mp x) (by omega))]
      exact ⟨_, rfl, hc, rfl, z1, z2, fun i hi => by obtain ⟨gi, n1, n2⟩ := z4 i hi; exact ⟨gi, n1, n2 hi⟩⟩
  rw [m1, xg_l, g1, Option.bind_some]
  dsimp only
  obtain ⟨arr2, y1, y2, y3, y4, y5⟩ := id m2
  obtain ⟨hvF, _⟩ := RD_of y1
  rw [C1_askC_eq (q2 := (r.1, (hc1, r1))) (r7 := (hF, (r1.1 + 1 + L.length, r1.2.1 - (1 + L.length), r1.2.2 - (L.length + L.length * 6)))) (G := kn6 S L) (m := L.length) (M := pM (zP S)) (by omega) hMM (cx_1 hvF.1) (by rw [cx_vo hvF.1]; exact cx_m hvF.1) (aN_of (m3.trans a2)) (fun j hj => by rw [aQ_of (m3.trans a2) hj (by omega), if_pos hj]) (fun j c hj hc => by
    obtain ⟨gi, n1, n2⟩ := m4 j hj
    rw [aI_of n1 (show c < 6 by omega) (by decide), n2 c hc]), xg_l, M_askC_eq (r6 := (i3 L.length, τ')) (G := kn6 S L) (m := L.length) (M := pM (zP S)) (by omega) hMM rfl ((g2.1 2 (by decide) (by decide)).trans mv.2.1.1.2.1) g4, Option.bind_some]
  have hend : ∀ x : Int32, JN K o r N true 0 (.inl (x, (hF, (r1.1 + 1 + L.length, r1.2.1 - (1 + L.length), r1.2.2 - (L.length + L.length * 6))))) x τ' := fun x => JN_in ⟨f, B, sT, aT, hT, seed, ea, eh, y1⟩ (RM_gx hZ g2 hM1) (g3.trans h0) (show 2300 * N + 100 * zt S ≤ r1.2.1 - (1 + L.length) by omega) (show 90000 * N + 3000 * zt S ≤ r1.2.2 - (L.length + L.length * 6) by omega) (show r1.2.1 - (1 + L.length) ≤ r.2.1 by omega) (show r1.2.2 - (L.length + L.length * 6) ≤ r.2.2 by omega)
  have hcs : k0 = 0 ∨ k0 = 1 := by omega
  rcases hcs with rfl | rfl
  · rw [if_pos (show i3 0 = 0 from rfl), if_pos (show i3 0 = 0 from rfl)]
    exact ⟨_, _, _, rfl, rfl, hend _⟩
  · rw [if_neg (show ¬ i3 1 = 0 by decide), if_neg (show ¬ i3 1 = 0 by decide)]
    exact ⟨_, _, _, rfl, rfl, hend _⟩
end ASK
