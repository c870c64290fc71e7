/-! ===== guesses; borne ===== -/
section GUESS
variable {K : Nat → Nat} {h hc hc' h' : CH} {r r' : CR} {o N n n' : Nat} {σ τ τ' : MS} {S : ST} {f : CH} {B : Nat → Nat} {sT aT hT : Option Nat} {seed : Int32} {ea eh : Nat → Nat} {w w' : SV} {P : PO}
def gsO (w : SV) (g : Nat) : SV := upn w (19 + g % 9) (4 + g / 9)
def gss (S : ST) (g : Nat) : Bool := decide (g % 9 < pN (zP S)) && (!bnt (zw S) (g % 9) && (!decide (brr (zw S) (g % 9) = g / 9) && soA (zP S) (zH S) (gsO (zw S) g)))
def gsL (S : ST) (m : Nat) : List Nat := (List.range m).filter (gss S)
def gv (g : Nat) : Nat := 10 * (g / 9) + g % 9
theorem gsL_t {g : Nat} (e : gss S g = true) : gsL S (g + 1) = gsL S g ++ [g] := by
  unfold gsL
  rw [List.range_succ, List.filter_append]
  simp [e]
theorem gsL_f {g : Nat} (e : gss S g = false) : gsL S (g + 1) = gsL S g := by
  unfold gsL
  rw [List.range_succ, List.filter_append]
  simp [e]
theorem gsL_len (m : Nat) : (gsL S m).length ≤ m := by
  unfold gsL
  exact Nat.le_trans (List.length_filter_le _ _) (by rw [List.length_range]; exact Nat.le_refl _)
theorem gsL_mem {m g : Nat} (hg : g ∈ gsL S m) : g < m ∧ gss S g = true := by
  unfold gsL at hg
  rw [List.mem_filter, List.mem_range] at hg
  exact hg
theorem gsL_skip (c : Nat) : ∀ j, pN (zP S) ≤ j → j ≤ 9 → gsL S (9 * c + j) = gsL S (9 * c + pN (zP S)) := by
  intro j
  induction j with
  | zero => intro h1 h2; rw [show pN (zP S) = 0 by omega]
  | succ j ih =>
    intro h1 h2
    by_cases e : pN (zP S) = j + 1
    · rw [e]
    · rw [← Nat.add_assoc, gsL_f ?_, ih (by omega) (by omega)]
      unfold gss
      rw [show (9 * c + j) % 9 = j by omega, decide_eq_false (show ¬ j < pN (zP S) by omega)]
      rfl
theorem bI_nar (b : Bool) : vp_nar .boolean (bI b) = bI b := by cases b <;> decide
theorem M_isGuess_eq (hM : RM τ S) (hZ : WFZ S) {g : Nat} (hg : g < 9 * pM (zP S)) : ∃ τ', M_isGuess τ (i3 g) = some (bI (gss S g), τ') ∧ Hx τ τ' ∧ (gss S g = true → ∀ c, c < pM (zP S) → ma τ' 53 c = i3 (aft (zP S) 6 (gsO (zw S) g) (28 + c))) := by
  have mv := RM_MV hZ hM
  have hN := hZ.1.1
  have hMM := hZ.1.2.1
  unfold M_isGuess
  rw [show imod (i3 g) 9 = i3 (g % 9) from i3_mod (b := 9) (by omega) (by decide), show i3 g / 9 = i3 (g / 9) from i3_div (b := 9) (by omega) (by decide), mv.2.1.1.1]
  by_cases e1 : g % 9 < pN (zP S)
  · rw [if_pos ((i3_lt (by omega) (by omega)).mpr e1), m0_burnt mv e1, Option.bind_some]
    cases e2 : bnt (zw S) (g % 9)
    · have h19 := wfs_19 mv.2.2.2.1 mv.1 e1
      rw [if_pos bI_f, m0_19 mv e1, Option.bind_some]
      by_cases e3 : brr (zw S) (g % 9) = g / 9
      · rw [if_pos ((atM_c h19 (by omega)).mpr ((brr_c (by omega)).mp e3))]
        have e : gss S g = false := by unfold gss; rw [decide_eq_true e3, Bool.not_true, Bool.false_and, Bool.and_false, Bool.and_false]
        exact ⟨τ, by rw [e]; rfl, Hx_refl τ, fun x => by rw [e] at x; cases x⟩
      · rw [if_neg (fun x => e3 ((brr_c (by omega)).mpr ((atM_c h19 (by omega)).mp x)))]
        obtain ⟨τ1, s1, s2, s3⟩ := M_tries_eq mv
        have hwf : WFS (zP S) (upn (zw S) (19 + g % 9) (4 + g / 9)) := by
          obtain ⟨q1, q2, q3, q4, q5⟩ := mv.2.2.2.1
          refine ⟨fun j hj => ?_, fun j hj => ?_, fun j hj => ?_, fun j hj => ?_, ?_⟩
          · rw [upn_ne (by omega)]; exact q1 j hj
          · rw [upn_ne (by omega)]; exact q2 j hj
          · by_cases e : 19 + j = 19 + g % 9
            · rw [e, upn_eq]; exact .inr (.inl ⟨by omega, by omega⟩)
            · rw [upn_ne e]; exact q3 j hj
          · rw [upn_ne (by omega)]; exact q4 j hj
          · rw [upn_ne (by omega)]; exact q5
        obtain ⟨m1, m2⟩ := mv_putT s3 (j := 19 + g % 9) (v := 4 + g / 9) (x := 10 + i3 (g / 9)) (by omega) (by rw [if_pos (by omega), atM_y (by omega) (by omega), show (10 : Int32) + i3 (g / 9) = i3 (10 + g / 9) from i3_add 10 _]; congr 1; omega) hwf
        have hx2 : Hx τ (sa τ1 44 (34 + (19 + g % 9)) (10 + i3 (g / 9))) := Hx_fx (Fx_trans s2 m2)
        have hH : HM (sa τ1 44 (34 + (19 + g % 9)) (10 + i3 (g / 9))) 51 52 (zH S) := (RM_gx hZ (Gx_hx hx2) hM).2.2.2.1
        obtain ⟨τ2, w2, t1, t2, t3, t4⟩ := M_isHeard_eq hH hZ m1 (by rw [upn_ne (by omega)]; exact hZ.2.1.2)
        have e : gss S g = soA (zP S) (zH S) (upn (zw S) (19 + g % 9) (4 + g / 9)) := by
          unfold gss gsO
          rw [decide_eq_true e1, e2, decide_eq_false e3]
          rfl
        rw [s1, Option.bind_some, show (53 : Int32) + i3 (g % 9) = i3 (34 + (19 + g % 9)) by rw [show (53 : Int32) = i3 53 from rfl, i3_add]; congr 1; omega, ast_i3 (j := 44) (show 34 + (19 + g % 9) < 68 by omega), Option.bind_some, t1, Option.bind_some]
        dsimp only
        rw [bI_nar, ← e]
        exact ⟨τ2, rfl, Hx_trans hx2 t3, fun x => t4 (e ▸ x)⟩
    · rw [if_neg bI_t0]
      have e : gss S g = false := by unfold gss; rw [e2, Bool.not_true, Bool.false_and, Bool.and_false]
      exact ⟨τ, by rw [e]; rfl, Hx_refl τ, fun x => by rw [e] at x; cases x⟩
  · rw [if_neg (fun x => e1 ((i3_lt (by omega) (by omega)).mp x))]
    have e : gss S g = false := by unfold gss; rw [decide_eq_false e1, Bool.false_and]
    exact ⟨τ, by rw [e]; rfl, Hx_refl τ, fun x => by rw [e] at x; cases x⟩
/-- cells that the state does not hold have changed -/
theorem RC_gar (hp : RCp K h n o S f B sT aT hT seed ea eh) (hB : ∀ i, i < 18 → h' (B i) = h (B i)) (hl' : hle f h') (hf : FR h' n') (hn : n ≤ n') (hK : KN K h') : RCp K h' n' o S f B sT aT hT seed ea eh := by
  obtain ⟨⟨b0, ho⟩, ⟨hl, hof, ⟨gv, hvs⟩, hsx, ⟨gs, ds, hst⟩⟩, ⟨⟨gt, htp, htp2⟩, ⟨gr, hrf, hrf2⟩⟩, ⟨hac, hacr⟩, ⟨hhd, hhdr⟩, h6, ⟨nB, fB, nB2, fB2, nB3⟩, ⟨hfr, ⟨k1, k2, k3, k4⟩, hkn⟩, hZ⟩ := hp
  refine ⟨⟨b0, ?_⟩, ⟨hl', hof, ⟨gv, (hB 1 (by decide)).trans hvs⟩, SX_eq hsx (fun q hq => ?_), ⟨gs, ds, SC_eq hst (fun q hq => ?_)⟩⟩, ⟨⟨gt, (hB 12 (by decide)).trans htp, htp2⟩, ⟨gr, (hB 13 (by decide)).trans hrf, hrf2⟩⟩, ⟨LMu_eq hac (hB 14 (by decide)) (fun _ => hB 16 (by decide)), hacr⟩, ⟨LMu_eq hhd (hB 15 (by decide)) (fun _ => hB 17 (by decide)), hhdr⟩, h6, ⟨nB, fB, nB2, fB2, nB3⟩, ⟨hf, ⟨k1, k2, fun i hi => Nat.lt_of_lt_of_le (k3 i hi) hn, k4⟩, hK⟩, hZ⟩
  · rw [show h' o = h o by rw [← b0]; exact hB 0 (by decide)]
    exact ho
  · rcases mem_s5 hq with rfl | rfl | rfl | rfl | rfl
    · exact hB 2 (by decide)
    · exact hB 3 (by decide)
    · exact hB 4 (by decide)
    · exact hB 5 (by decide)
    · exact hB 6 (by decide)
  · rcases mem_s5 hq with rfl | rfl | rfl | rfl | rfl
    · exact hB 7 (by decide)
    · exact hB 8 (by decide)
    · exact hB 9 (by decide)
    · exact hB 10 (by decide)
    · exact hB 11 (by decide)
theorem LMu_cg {a arr m : Nat} {e e' : Nat → Nat} (hL : LMu K h a arr m e) (he : ∀ i, i < m → e i = e' i) : LMu K h a arr m e' := by
  obtain ⟨mc, g1, g2⟩ := hL
  refine ⟨mc, g1, ?_⟩
  rcases g2 with g2 | ⟨cap, g, g3, g4, g5, g6⟩
  · exact .inl g2
  · exact .inr ⟨cap, g, g3, g4, g5, fun i hi => by rw [g6 i hi, he i hi]⟩
theorem vOf_eq (K : Nat → Nat) (h : CH) (r : CR) {v : Nat} (hv : v < 100) : achk r (CJ19_valueOf K h r (i3 v)) = some (K (328 + v), (h, r)) := by
  have : CJ19_valueOf K h r (i3 v) = some (K (328 + v), (h, r)) := by
    unfold CJ19_valueOf
    have n1 : ¬ i3 v < -128 := fun x => by
      have key : ∀ a : Fin 100, ¬ i3 a.val < -128 := by decide +kernel
      exact key ⟨v, hv⟩ x
    rw [if_neg n1, if_pos ((i3_lel (c := 127) (n := 127) rfl (by omega) (by decide)).mpr (by omega)), show i3 v + 128 = i3 (v + 128) from i3_add v 128]
    unfold icq
    rw [if_neg (by rw [i3_in (by omega)]; omega), i3_nat (by omega), Option.bind_some, show 200 + (v + 128) = 328 + v by omega]
  exact achk_of this (Nat.le_refl _) (Nat.le_refl _)
/-- the guesses found thus far, in a new list -/
def OI (K : Nat → Nat) (o : Nat) (S : ST) (f : CH) (B : Nat → Nat) (sT aT hT : Option Nat) (seed : Int32) (ea eh : Nat → Nat) (r : CR) (hc : CH) (r' : CR) (L : List Nat) : Prop :=
  ∃ arr, RCp K hc r'.1 o S f B sT aT hT seed ea eh ∧ LMu K hc r.1 arr L.length (fun i => K (328 + gv (L.getD i 0))) ∧ (arr = K 0 ∨ r.1 < arr) ∧ r.1 < r'.1 ∧ r'.2.1 ≤ r.2.1 ∧ r'.2.2 ≤ r.2.2 ∧ r.2.1 ≤ r'.2.1 + 1 + L.length ∧ r.2.2 ≤ r'.2.2 + 3 + 120 * L.length
theorem OI_hX {L : List Nat} (hp0 : RCp K h r.1 o S f B sT aT hT seed ea eh) (hO : OI K o S f B sT aT hT seed ea eh r hc r' L) (hp1 : RCp K hc' r'.1 o S f B sT aT hT seed ea eh) (hx : hX (sX6 (B 1) (B 7) (fun i => B (8 + i))) hc hc') : OI K o S f B sT aT hT seed ea eh r hc' r' L := by
  obtain ⟨arr, y1, y2, y3, y4, y5⟩ := hO
  have hpos := RCp_pos hp0
  have hsome := RCp_some hp0
  have hmem : ∀ x, x ∈ sX6 (B 1) (B 7) (fun i => B (8 + i)) → ∃ j, j < 16 ∧ x = B j := by
    intro x hm
    unfold sX6 at hm
    simp only [List.mem_cons, List.not_mem_nil, or_false] at hm
    rcases hm with rfl | rfl | rfl | rfl | rfl | rfl
    · exact ⟨1, by decide, rfl⟩
    · exact ⟨7, by decide, rfl⟩
    · exact ⟨8, by decide, rfl⟩
    · exact ⟨9, by decide, rfl⟩
    · exact ⟨10, by decide, rfl⟩
    · exact ⟨11, by decide, rfl⟩
  refine ⟨arr, hp1, LMu_hX y2 hx (fun hm => ?_) (fun hm => ?_), y3, y4, y5⟩
  · obtain ⟨j, j1, j2⟩ := hmem _ hm
    have := hpos j (by omega)
    omega
  · obtain ⟨j, j1, j2⟩ := hmem _ hm
    have := hpos j (by omega)
    rcases y3 with y3 | y3
    · obtain ⟨c, hcc⟩ := hsome j j1
      rw [← j2, y3, (RCp_K hp0).1.1] at hcc
      cases hcc
    · omega
theorem OI_add {L : List Nat} {g : Nat} (hp0 : RCp K h r.1 o S f B sT aT hT seed ea eh) (hO : OI K o S f B sT aT hT seed ea eh r hc r' L) (hL : L.length < 54) (hg : ∀ x, x ∈ g :: L → gv x < 100) (h1 : 60 ≤ r.2.1) (h2 : 7000 ≤ r.2.2) :
    ∃ hc' r2, vc hc r.1 10 (achk r' (CJ2_add K hc r' r.1 (K (328 + gv g)))) = some (1, (hc', r2)) ∧ OI K o S f B sT aT hT seed ea eh r hc' r2 (L ++ [g]) := by
  obtain ⟨arr, y1, y2, y3, y4, y5, y6, y7, y8⟩ := hO
  obtain ⟨k1, k2, k3, k4⟩ := RCp_K y1
  have hpos := RCp_pos hp0
  have hk0 := (RCp_K hp0).2.2.1
  have hok : ∀ v, v < 100 → okO hc (K (328 + v)) = true := by
    intro v hv
    have q := k4 (128 + v) (by omega)
    rw [show 200 + (128 + v) = 328 + v by omega] at q
    rw [okO_of q]
    simp [okC]
  have hne : arr ≠ r.1 := by
    rcases y3 with e | e
    · rw [e]; have := hk0 0 (by decide); omega
    · omega
  obtain ⟨arr', hc', r2, w1, w2, w3, w4, w5, w6, w7, w8, w9, w10⟩ := C_add (x := K (328 + gv g)) y2 (by omega) (RCp_FR y1) k1 k2 k3 (fun i hi => hok _ (hg _ (List.mem_cons_of_mem _ (by
    rw [List.getD_eq_getElem?_getD, List.getElem?_eq_getElem hi]
    exact List.getElem_mem hi)))) (hok _ (hg g List.mem_cons_self)) hne (by omega) (by omega)
  have har : r.1 < arr' := by
    rcases w3 with ⟨q1, _, c, q3⟩ | ⟨q1, _⟩
    · rcases y3 with e | e
      · rw [e, k1.1] at q3; cases q3
      · omega
    · omega
  have hlt : ∀ q c, f q = some c → q < r.1 := fun q c x => RCp_lt hp0 ((RC_o hp0).2.2.1 _ _ x)
  have hr2 : r'.1 ≤ r2.1 := by rcases w3 with ⟨_, q, _⟩ | ⟨_, q⟩ <;> omega
  refine ⟨hc', r2, w1, arr', RC_gar y1 (fun i hi => w6 _ (by have := hpos i hi; omega) (by have := hpos i hi; omega)) (fun a c x => ?_) w5 hr2 ?_, ?_, .inr har, by omega, by omega, by omega, ?_, ?_⟩
  · have := hlt a c x
    rw [w6 a (by omega) (by omega)]
    exact (RC_o y1).2.2.1 _ _ x
  · obtain ⟨z1, z2, z3⟩ := k1
    refine ⟨?_, ?_, fun i hi => ?_⟩
    · rw [w6 _ (by have := hk0 0 (by decide); omega) (by have := hk0 0 (by decide); omega)]; exact z1
    · rw [w6 _ (by have := hk0 1 (by decide); omega) (by have := hk0 1 (by decide); omega)]; exact z2
    · rw [w6 _ (by have := hk0 (30 + i) (by omega); omega) (by have := hk0 (30 + i) (by omega); omega)]; exact z3 i hi
  · rw [List.length_append]
    refine LMu_cg w2 (fun i hi => ?_)
    by_cases e : i = L.length
    · rw [if_pos e, e]
      simp
    · rw [if_neg e, List.getD_eq_getElem?_getD, List.getD_eq_getElem?_getD, List.getElem?_append_left (by simp at hi; omega)]
  · rw [List.length_append]; simp only [List.length_singleton]; omega
  · rw [List.length_append]; simp only [List.length_singleton]; omega
theorem C1_others_eq (hp : RCp K h r.1 o S f B sT aT hT seed ea eh) (h1 : 60 ≤ r.2.1) (h2 : 7000 ≤ r.2.2) : ∃ hc' r', vc h o 1 (achk r (C1_others K h r o)) = some (r.1, (hc', r')) ∧ OI K o S f B sT aT hT seed ea eh r hc' r' (gsL S (9 * pM (zP S))) := by
  have hZ := RCp_Z hp
  have hN := hZ.1.1
  have hMM := hZ.1.2.1
  obtain ⟨hv, hs, ht, hF, hacts, hheard, hrf⟩ := RD_of hp
  obtain ⟨k1, k2, k3, k4⟩ := RCp_K hp
  obtain ⟨hn, _, y2, y3, y4, y5⟩ := C_new (K := K) (h := h) (r := r) (e := fun i => K (328 + gv ((gsL S 0).getD i 0))) (RCp_FR hp) (by omega) (by omega)
  have hpos := RCp_pos hp
  have hp1 : RCp K hn (r.1 + 1) o S f B sT aT hT seed ea eh := RC_grow hp (fun q hq => y3 q (by omega)) (fun q hq => by rw [y3 q (by omega)]; exact RCp_FR hp q (by omega)) (Nat.le_succ _)
  have o0 : OI K o S f B sT aT hT seed ea eh r hn (r.1 + 1, r.2.1 - 1, r.2.2 - 3) (gsL S 0) := ⟨K 0, hp1, y2, .inl rfl, Nat.lt_succ_self _, Nat.sub_le _ _, Nat.sub_le _ _, by dsimp only; omega, by dsimp only; omega⟩
  have hgv : ∀ m, m ≤ 54 → ∀ x, x ∈ gsL S m → gv x < 100 := by
    intro m hm x hx
    have := (gsL_mem hx).1
    unfold gv
    omega
  -- one guess
  have hone : ∀ c k (hc : CH) (r' : CR), c < pM (zP S) → k < pN (zP S) → OI K o S f B sT aT hT seed ea eh r hc r' (gsL S (9 * c + k)) → ∃ hc' r2, C1_others_L23 K r o (i3 c, (hn, r)) (i3 k, (hc, r')) = some (.inl (i3 (k + 1), (hc', r2))) ∧ OI K o S f B sT aT hT seed ea eh r hc' r2 (gsL S (9 * c + (k + 1))) ∧ ∀ tc, C1_others_L23 K r o (i3 c, tc) (i3 k, (hc, r')) = some (.inl (i3 (k + 1), (hc', r2))) := by
    intro c k hc r' hck hkk hO
    obtain ⟨arr, q1, q2⟩ := id hO
    obtain ⟨hv, hs, _⟩ := RD_of q1
    have hg9 : (9 * c + k) / 9 = c := by omega
    have hg8 : (9 * c + k) % 9 = k := by omega
    suffices hh : ∀ tc, ∃ hc' r2, C1_others_L23 K r o (i3 c, tc) (i3 k, (hc, r')) = some (.inl (i3 (k + 1), (hc', r2))) ∧ OI K o S f B sT aT hT seed ea eh r hc' r2 (gsL S (9 * c + (k + 1))) ∧ C1_others_L23 K r o (i3 c, tc) = C1_others_L23 K r o (i3 c, (hn, r)) by
      obtain ⟨hc', r2, e1, e2, e3⟩ := hh (hn, r)
      refine ⟨hc', r2, e1, e2, fun tc => ?_⟩
      obtain ⟨_, _, _, _, e4⟩ := hh tc
      rw [e4]
      exact e1
    intro tc
    have hfun : C1_others_L23 K r o (i3 c, tc) = C1_others_L23 K r o (i3 c, (hn, r)) := by
      funext t
      unfold C1_others_L23
      rfl
    unfold C1_others_L23
    dsimp only
    rw [cx_1 hv.1, Option.bind_some, cx_n hv.1, Option.bind_some, if_pos ((i3_lt (by omega) (by omega)).mpr hkk), hs, Option.bind_some, sv_vc hv, C3_isBurnt_eq hv hkk, Option.bind_some, i3_succ]
    cases eb : bnt (zw S) k
    · have hbl := brr_lt (sv_w hv) hZ.1 hkk
      rw [if_pos bI_f, Option.bind_some, sv_vc hv, C3_bearer_eq hv hkk, Option.bind_some]
      by_cases e3 : brr (zw S) k = c
      · rw [if_pos ((wI_u (by omega) (by omega)).mpr e3), Option.bind_some]
        refine ⟨_, _, rfl, ?_, hfun⟩
        rw [← Nat.add_assoc, gsL_f]
        · exact hO
        · unfold gss
          rw [hg9, hg8, decide_eq_true e3, Bool.not_true, Bool.false_and, Bool.and_false, Bool.and_false]
      · rw [if_neg (fun x => e3 ((wI_u (by omega) (by omega)).mp x))]
        obtain ⟨hb1, b1, b2, b3, b4, b5⟩ := RC_be q1
        obtain ⟨hb2, t1, t2, t3⟩ := C3_take_eq b4 (c := c) (k := k) hck hkk
        obtain ⟨hb3, w3, s1, s2, s3⟩ := C1_isSo_eq q1 t2 (hX_trans b5 t3) (by rw [upn_ne (by omega)]; exact hZ.2.1.2)
        have hO3 : OI K o S f B sT aT hT seed ea eh r hb3 r' (gsL S (9 * c + k)) := OI_hX hp hO (RC_tx q1 s2 (hX_trans (hX_trans b5 t3) s3)) (hX_trans (hX_trans b5 t3) s3)
        have hvc7 : ∀ {α : Type} (x : Option α), vc hc (B 7) 3 x = x := fun x => by unfold vc; rw [if_pos b2]
        have e : gss S (9 * c + k) = soA (zP S) (zH S) (upn (zw S) (19 + k) (4 + c)) := by
          unfold gss gsO
          rw [hg9, hg8, decide_eq_true hkk, eb, decide_eq_false e3]
          rfl
        rw [b1, Option.bind_some, Option.bind_some, hvc7, b3, Option.bind_some]
        dsimp only
        rw [sv_vc b4, t1, Option.bind_some, s1, Option.bind_some]
        dsimp only
        rw [← e]
        cases ee : gss S (9 * c + k)
        · rw [if_pos bI_f, Option.bind_some]
          refine ⟨_, _, rfl, ?_, hfun⟩
          rw [← Nat.add_assoc, gsL_f ee]
          exact hO3
        · rw [if_neg bI_t0]
          have hlen := gsL_len (S := S) (9 * c + k)
          have hgvv : gv (9 * c + k) = 10 * c + k := by unfold gv; rw [hg9, hg8]
          obtain ⟨hb4, r4, a1, a2⟩ := OI_add (g := 9 * c + k) hp hO3 (by omega) (fun x hx => by
            rcases List.mem_cons.mp hx with rfl | hx
            · rw [hgvv]; omega
            · exact hgv _ (by omega) x hx) h1 h2
          rw [show (10 : Int32) * i3 c + i3 k = i3 (10 * c + k) by rw [show (10 : Int32) = i3 10 from rfl, i3_mul, i3_add], vOf_eq K hb3 r' (v := 10 * c + k) (by omega), Option.bind_some]
          dsimp only
          rw [← hgvv, a1, Option.bind_some, Option.bind_some]
          refine ⟨_, _, rfl, ?_, hfun⟩
          rw [← Nat.add_assoc, gsL_t ee]
          exact a2
    · rw [if_neg bI_t0, Option.bind_some]
      refine ⟨_, _, rfl, ?_, hfun⟩
      rw [← Nat.add_assoc, gsL_f]
      · exact hO
      · unfold gss
        rw [hg8, eb, Bool.not_true, Bool.false_and, Bool.and_false]
  obtain ⟨res, l1, hc', r', rfl, l2⟩ : ∃ res, o_loop (C1_others_L10 K r o) (0, (hn, (r.1 + 1, r.2.1 - 1, r.2.2 - 3))) = some res ∧ ∃ hc' r', res = (r.1, (hc', r')) ∧ OI K o S f B sT aT hT seed ea eh r hc' r' (gsL S (9 * pM (zP S))) := by
    refine o_inv0 (fun c (t : Int32 × CS) => t.1 = i3 c ∧ OI K o S f B sT aT hT seed ea eh r t.2.1 t.2.2 (gsL S (9 * c))) (fun (res : Nat × CS) => ∃ hc' r', res = (r.1, (hc', r')) ∧ OI K o S f B sT aT hT seed ea eh r hc' r' (gsL S (9 * pM (zP S)))) (pM (zP S)) (fun c t hck hI => ?_) (fun t hI => ?_) (0, (hn, (r.1 + 1, r.2.1 - 1, r.2.2 - 3))) ⟨rfl, o0⟩
    · obtain ⟨t1, hc, r'⟩ := t
      obtain ⟨rfl, hO⟩ := hI
      dsimp only at hO
      obtain ⟨arr, q1, q2⟩ := id hO
      obtain ⟨hv, hs, _⟩ := RD_of q1
      unfold C1_others_L10
      dsimp only
      rw [cx_1 hv.1, Option.bind_some, cx_vo hv.1, cx_m hv.1, Option.bind_some, if_pos ((i3_lt (by omega) (by omega)).mpr hck), i3_succ]
      obtain ⟨res, m1, m2⟩ : ∃ res, o_loop (C1_others_L23 K r o (i3 c, (hc, r'))) (0, (hc, r')) = some res ∧ OI K o S f B sT aT hT seed ea eh r res.1 res.2 (gsL S (9 * c + pN (zP S))) := by
        refine o_inv0 (fun k (t : Int32 × CS) => t.1 = i3 k ∧ OI K o S f B sT aT hT seed ea eh r t.2.1 t.2.2 (gsL S (9 * c + k))) (fun (res : CS) => OI K o S f B sT aT hT seed ea eh r res.1 res.2 (gsL S (9 * c + pN (zP S)))) (pN (zP S)) (fun k t hkk hI => ?_) (fun t hI => ?_) (0, (hc, r')) ⟨rfl, hO⟩
        · obtain ⟨t1, hc2, r2⟩ := t
          obtain ⟨rfl, hO2⟩ := hI
          obtain ⟨hc3, r3, _, x2, x3⟩ := hone c k hc2 r2 hck hkk hO2
          exact ⟨_, x3 _, rfl, x2⟩
        · obtain ⟨t1, hc2, r2⟩ := t
          obtain ⟨rfl, hO2⟩ := hI
          dsimp only at hO2
          obtain ⟨arr, q1, q2⟩ := id hO2
          obtain ⟨hv, hs, _⟩ := RD_of q1
          unfold C1_others_L23
          dsimp only
          rw [cx_1 hv.1, Option.bind_some, cx_n hv.1, Option.bind_some, if_neg (fun x => absurd ((i3_lt (by omega) (by omega)).mp x) (by omega))]
          exact ⟨_, rfl, hO2⟩
      rw [m1, Option.bind_some]
      refine ⟨_, rfl, rfl, ?_⟩
      rw [← gsL_skip c 9 hN (Nat.le_refl _)] at m2
      exact m2
    · obtain ⟨t1, hc, r'⟩ := t
      obtain ⟨rfl, hO⟩ := hI
      dsimp only at hO
      obtain ⟨arr, q1, q2⟩ := id hO
      obtain ⟨hv, hs, _⟩ := RD_of q1
      unfold C1_others_L10
      dsimp only
      rw [cx_1 hv.1, Option.bind_some, cx_vo hv.1, cx_m hv.1, Option.bind_some, if_neg (fun x => absurd ((i3_lt (by omega) (by omega)).mp x) (by omega))]
      exact ⟨_, rfl, hc, r', rfl, hO⟩
  have : C1_others K h r o = some (r.1, (hc', r')) := by
    unfold C1_others
    rw [y4, Option.bind_some]
    dsimp only
    rw [y5, Option.bind_some, l1]
  refine ⟨hc', r', ?_, l2⟩
  obtain ⟨arr, _, _, _, _, z5, z6, _⟩ := l2
  rw [cx_vc hv.1, achk_of this z5 z6]
def fsg (L : List Nat) : Int32 := match L with
  | [] => -1
  | g :: _ => i3 (gv g)
theorem fsg_add (L : List Nat) (g : Nat) : fsg (L ++ [g]) = if L = [] then i3 (gv g) else fsg L := by
  cases L with
  | nil => rfl
  | cons a L => rfl
theorem op_borne (hS : RS K o (h, r) σ (N + 1)) (a0 : Int32) : ∃ z v σ', C1_borne K h r o a0 = some z ∧ M_borne σ a0 = some (v, σ') ∧ JN K o r N true 0 z v σ' := by
  obtain ⟨S, ⟨f, B, sT, aT, hT, seed, ea, eh, hp⟩, hM, hr1, hr2⟩ := hS
  dsimp only at hp hr1 hr2
  have hZ := RCp_Z hp
  obtain ⟨hv, hs, ht, hF, hacts, hheard, hrf⟩ := RD_of hp
  have hM1 : RM (sf σ 0 0) S := RM_gx hZ (Gx_sf (.inl rfl)) hM
  have h0 : mf (sf σ 0 0) 0 = 0 := mf_sf0
  unfold C1_borne M_borne
  rw [show pf σ 0 0 = some (sf σ 0 0) from rfl, Option.bind_some]
  generalize sf σ 0 0 = s1 at hM1 h0
  have mv := RM_MV hZ hM1
  have hN := hZ.1.1
  have hMM := hZ.1.2.1
  have hQ := hZ.1.2.2.1
  cases e0 : inR a0 (2 + 1)
  · rw [aO_no (y := 2) (m := 2) rfl (by decide) e0 (by omega) (by omega), xg_r, mO_no (y := 2) (m := 2) rfl (by decide) h0 e0, Option.bind_some, if_pos (show ((0 : Int32), sf s1 0 1).1 = 0 from rfl)]
    exact ⟨_, _, _, rfl, rfl, JN_thr hp hM1 hr1 hr2 (.inl ⟨rfl, rfl, rfl⟩)⟩
  rw [aO_ok (y := 2) (m := 2) rfl (by decide) e0, xg_l, mO_ok (y := 2) (m := 2) rfl (by decide) h0 e0, Option.bind_some, if_neg (show ¬ ((1 : Int32), s1).1 = 0 from i_ne10)]
  try dsimp only
  obtain ⟨k0, hk0, rfl⟩ := inR_is e0
  have hcs : k0 = 2 ∨ k0 = 0 ∨ k0 = 1 := by omega
  rcases hcs with rfl | hk
  · rw [if_pos (show i3 2 = 2 from rfl), if_pos (show i3 2 = 2 from rfl)]
    obtain ⟨h1, b1, b2, b3, b4, b5⟩ := RC_be hp
    obtain ⟨σ1, g1, g2, g3⟩ := M_tries_eq mv
    obtain ⟨h2, w2, c1, c2, c3⟩ := C1_isSo_eq hp b4 b5 hZ.2.1.2
    have hH : HM σ1 51 52 (zH S) := (RM_gx hZ (Gx_fx g2) hM1).2.2.2.1
    obtain ⟨σ2, w3, d1, d2, d3, d4⟩ := M_isHeard_eq hH hZ g3 hZ.2.1.2
    have hvc7 : ∀ {α : Type} (x : Option α), vc h (B 7) 3 x = x := fun x => by unfold vc; rw [if_pos b2]
    have hx2 : Hx s1 σ2 := Hx_trans (Hx_fx g2) d3
    rw [b1, Option.bind_some, hs, Option.bind_some, hvc7, b3, Option.bind_some]
    dsimp only
    rw [c1, Option.bind_some, g1, Option.bind_some, d1, Option.bind_some]
    dsimp only
    have hend : ∀ x : Int32, JN K o r N true 0 (.inl (x, (h2, r))) x σ2 := fun x => JN_in ⟨f, B, sT, aT, hT, seed, ea, eh, RC_tx hp c2 (hX_trans b5 c3)⟩ (RM_gx hZ (Gx_hx hx2) hM1) ((mf_hx hx2 0).trans h0) (by omega) (by omega) (Nat.le_refl _) (Nat.le_refl _)
    cases soA (zP S) (zH S) (zw S)
    · rw [if_pos bI_f, if_pos bI_f]
      exact ⟨_, _, _, rfl, rfl, hend _⟩
    · rw [if_neg bI_t0, if_neg bI_t0]
      exact ⟨_, _, _, rfl, rfl, hend _⟩
  · have hn2 : ¬ i3 k0 = 2 := fun x => by have := (i3_inj (b := 2) (by omega) (by decide)).mp x; omega
    rw [if_neg hn2, if_neg hn2]
    obtain ⟨hc1, r1, l1, l2⟩ := C1_others_eq hp (by omega) (by omega)
    obtain ⟨arr, q1, q2, q3, q4, q5, q6, q7, q8⟩ := l2
    have hlen := gsL_len (S := S) (9 * pM (zP S))
    have hld := LMu_LRd (by omega) q2
    rw [l1, Option.bind_some]
    dsimp only
    obtain ⟨res, m1, τ2, rfl, m2⟩ : ∃ res, o_loop M_borne_L45 (0, (-1), 0, s1) = some res ∧ ∃ τ2, res = (i3 (gsL S (9 * pM (zP S))).length, fsg (gsL S (9 * pM (zP S))), τ2) ∧ Hx s1 τ2 := by
      refine o_inv0 (fun g (t : Int32 × Int32 × Int32 × MS) => t.2.2.1 = i3 g ∧ t.1 = i3 (gsL S g).length ∧ t.2.1 = fsg (gsL S g) ∧ Hx s1 t.2.2.2) (fun (res : Int32 × Int32 × MS) => ∃ τ2, res = (i3 (gsL S (9 * pM (zP S))).length, fsg (gsL S (9 * pM (zP S))), τ2) ∧ Hx s1 τ2) (9 * pM (zP S)) (fun g t hg hI => ?_) (fun t hI => ?_) (0, (-1), 0, s1) ⟨rfl, rfl, rfl, Hx_refl s1⟩
      · obtain ⟨t1, t2, t3, t4⟩ := t
        obtain ⟨rfl, rfl, rfl, hx⟩ := hI
        dsimp only at hx
        unfold M_borne_L45
        dsimp only
        obtain ⟨τ3, x1, x2, x3⟩ := M_isGuess_eq (RM_gx hZ (Gx_hx hx) hM1) hZ hg
        have hgl := gsL_len (S := S) g
        rw [(mf_hx hx 2).trans mv.2.1.1.2.1, show (9 : Int32) * i3 (pM (zP S)) = i3 (9 * pM (zP S)) from i3_mul 9 _, if_pos ((i3_lt (by omega) (by omega)).mpr hg), x1, Option.bind_some, i3_succ g]
        dsimp only
        cases eg : gss S g
        · rw [if_pos bI_f, Option.bind_some]
          exact ⟨_, rfl, rfl, by rw [gsL_f eg], by rw [gsL_f eg], Hx_trans hx x2⟩
        · rw [if_neg bI_t0]
          rw [gsL_t eg, fsg_add, List.length_append]
          by_cases e0 : gsL S g = []
          · rw [if_pos (show fsg (gsL S g) = -1 by rw [e0]; rfl), Option.bind_some, if_pos e0]
            refine ⟨_, rfl, rfl, ?_, ?_, Hx_trans hx x2⟩
            · dsimp only
              rw [i3_succ]
              rfl
            · dsimp only
              rw [show i3 g / 9 = i3 (g / 9) from i3_div (b := 9) (by omega) (by decide), show imod (i3 g) 9 = i3 (g % 9) from i3_mod (b := 9) (by omega) (by decide), show i3 (g / 9) * 10 = i3 (g / 9 * 10) from i3_mul _ 10, i3_add]
              congr 1
              unfold gv
              omega
          · have hf : ¬ fsg (gsL S g) = -1 := by
              cases eL : gsL S g with
              | nil => exact absurd eL e0
              | cons a L =>
                have := (gsL_mem (S := S) (m := g) (g := a) (by rw [eL]; exact List.mem_cons_self)).1
                exact i3_m1 (by unfold gv; omega)
            rw [if_neg hf, Option.bind_some, if_neg e0]
            refine ⟨_, rfl, rfl, ?_, rfl, Hx_trans hx x2⟩
            dsimp only
            rw [i3_succ]
            rfl
      · obtain ⟨t1, t2, t3, t4⟩ := t
        obtain ⟨rfl, rfl, rfl, hx⟩ := hI
        dsimp only at hx
        unfold M_borne_L45
        dsimp only
        rw [(mf_hx hx 2).trans mv.2.1.1.2.1, show (9 : Int32) * i3 (pM (zP S)) = i3 (9 * pM (zP S)) from i3_mul 9 _, if_neg (fun x => absurd ((i3_lt (by omega) (by omega)).mp x) (by omega))]
        exact ⟨_, rfl, t4, rfl, hx⟩
    rw [m1, Option.bind_some]
    dsimp only
    have hend : ∀ x : Int32, JN K o r N true 0 (.inl (x, (hc1, r1))) x τ2 := fun x => JN_in ⟨f, B, sT, aT, hT, seed, ea, eh, q1⟩ (RM_gx hZ (Gx_hx m2) hM1) ((mf_hx m2 0).trans h0) (by omega) (by omega) q5 q6
    rcases hk with rfl | rfl
    · rw [if_pos (show i3 0 = 0 from rfl), if_pos (show i3 0 = 0 from rfl), C_siz q2, Option.bind_some]
      exact ⟨_, _, _, rfl, rfl, hend _⟩
    · rw [if_neg (show ¬ i3 1 = 0 by decide), if_neg (show ¬ i3 1 = 0 by decide), C_isE q2 (by omega), Option.bind_some]
      cases eL : gsL S (9 * pM (zP S)) with
      | nil =>
        rw [eL] at q2 hld
        rw [show decide (([] : List Nat).length = 0) = true from rfl, if_neg bI_t0]
        exact ⟨_, _, _, rfl, rfl, hend _⟩
      | cons g L =>
        have hg := (gsL_mem (S := S) (m := 9 * pM (zP S)) (g := g) (by rw [eL]; exact List.mem_cons_self)).1
        rw [eL] at q2 hld
        have hK := (RCp_K q1).2.2.2 (128 + gv g) (by unfold gv; omega)
        rw [show 200 + (128 + gv g) = 328 + gv g by omega] at hK
        have hget := LRd_get hld (i := 0) (by simp)
        rw [show ((g :: L).getD 0 0) = g from rfl] at hget
        rw [show decide ((g :: L).length = 0) = false from rfl, if_pos bI_f, show vc hc1 r.1 10 (CJ2_get hc1 r.1 0) = _ from hget, Option.bind_some, ckC_of hK, Option.bind_some, vc_of hK]
        unfold CJ19_intValue
        rw [gI_of hK (k := 0) rfl, Option.bind_some, Option.bind_some]
        have ev : i3 (128 + gv g) - 128 = i3 (gv g) := by
          have := i3_sub (a := 128 + gv g) (b := 128) (by omega)
          rw [show 128 + gv g - 128 = gv g by omega] at this
          exact this
        rw [ev]
        exact ⟨_, _, _, rfl, rfl, hend _⟩
end GUESS
