/-! ===== the component's whole state, rooted anew; undo, forget ===== -/
section RFIN
variable {K : Nat → Nat} {h : CH} {n o : Nat} {S : ST} {f : CH} {B : Nat → Nat} {sT aT hT : Option Nat} {seed : Int32} {ea eh : Nat → Nat}
def oCell (B : Nat → Nat) (S : ST) (s a l : Nat) (sT aT hT : Option Nat) (seed : Int32) : CE := .inr (1, [.ref (B 1), .ref (B 18), .ref s, .ref (B 7), .ref (B 12), .int (i3 (zt S)), .int (zF S), .ref (B 13), .ref a, .ref l, va_rf sT, va_rf aT, va_rf hT, .int seed])
theorem RC_o (hp : RCp K h n o S f B sT aT hT seed ea eh) : B 0 = o ∧ h o = some (oCell B S (B 2) (B 14) (B 15) sT aT hT seed) ∧ hle f h ∧ f o = none ∧ ∀ i, 1 ≤ i → i < 18 → B i ≠ o := by
  obtain ⟨⟨b0, ho⟩, ⟨hl, _⟩, _, _, _, _, ⟨nB, fB, nB2, fB2, nB3⟩, _⟩ := hp
  refine ⟨b0, ho, hl, b0 ▸ fB 0 (by decide), fun i h1 h2 e => ?_⟩
  by_cases h16 : i < 16
  · have := nB i 0 h16 (by decide) (e.trans b0.symm)
    omega
  · exact nB2 i 0 (by omega) h2 (by decide) (e.trans b0.symm)
theorem RC_fin {h' : CH} {n' : Nat} {S' : ST} {f' : CH} {B' : Nat → Nat} {sT' aT' hT' : Option Nat} {ea' eh' : Nat → Nat} {nw : Nat → Bool}
    (hp : RCp K h n o S f B sT aT hT seed ea eh) (hq : ∀ q, q < n → q ≠ o → h' q = h q) (hf : FR h' n') (hn : n ≤ n')
    (hl : hle f f') (hlh : hle f' h') (hlo : ∀ q, q < n → f' q = f q)
    (hold : ∀ i, i < 14 → (i < 2 ∨ 7 ≤ i) → nw i = false)
    (hB : ∀ i, i < 16 → (nw i = false ∧ B' i = B i) ∨ (nw i = true ∧ n ≤ B' i ∧ f' (B' i) = none))
    (hinj : ∀ i j, i < 16 → j < 16 → nw i = true → nw j = true → B' i = B' j → i = j)
    (hA : ∀ i, 16 ≤ i → i < 18 → B' i = B i ∨ (B' i = K 0 ∨ B' i = K 1) ∨ (n ≤ B' i ∧ f' (B' i) = none ∧ ∀ j, j < 16 → B' j ≠ B' i))
    (h17 : B' 16 = B' 17 → B' 16 = K 0 ∨ B' 16 = K 1) (hB18 : B' 18 = B 18)
    (ho : h' o = some (oCell B S (B' 2) (B' 14) (B' 15) sT' aT' hT' seed))
    (hS : zP S' = zP S ∧ zT S' = zT S ∧ zt S' = zt S ∧ zF S' = zF S ∧ zR S' = zR S)
    (hsv : SX h' o (zP S) (B' 2) (fun i => B' (3 + i)) (zw S'))
    (hac : LMu K h' (B' 14) (B' 16) (zA S').1 ea') (hacr : ACr f' o (zP S) (zA S') ea')
    (hhd : LMu K h' (B' 15) (B' 17) (zH S').1 eh') (hhr : HDr f' (zH S') eh')
    (him : IMr K f' o (zP S) (zI S') sT' aT' hT') (hZ' : WFZ S') : RCp K h' n' o S' f' B' sT' aT' hT' seed ea' eh' := by
  have hpos : ∀ i, i < 18 → B i < n := RCp_pos (r := (n, 0, 0)) hp
  have hsome := RCp_some hp
  have hRo := RC_o hp
  obtain ⟨hkn0, hk01, hkb0, _⟩ := RCp_K hp
  obtain ⟨⟨b0, ho0⟩, ⟨hl0, hof, ⟨gv, hvs⟩, hsx, ⟨gs, ds, hst⟩⟩, ⟨⟨gt, htp, htp2⟩, ⟨gr, hrf, hrf2⟩⟩, ⟨hac0, hacr0⟩, ⟨hhd0, hhdr0⟩, h6, ⟨nB, fB, nB2, fB2, nB3⟩, ⟨hfr, ⟨k1, k2, k3, k4⟩, hkn⟩, hZ⟩ := hp
  have hne : ∀ i, 1 ≤ i → i < 18 → h' (B i) = h (B i) := fun i h1 h2 => hq _ (hpos i h2) (hRo.2.2.2.2 i h1 h2)
  have hBo : ∀ i, i < 14 → (i < 2 ∨ 7 ≤ i) → B' i = B i := by
    intro i h1 h2
    rcases hB i (by omega) with ⟨_, e⟩ | ⟨e, _⟩
    · exact e
    · rw [hold i h1 h2] at e; cases e
  have hkno : ∀ q, h q = none → q ≠ o := by
    intro q e1 e2
    rw [e2, hRo.2.1] at e1
    cases e1
  have hKn : KN K h' := KN_b hkn k3 (fun q hq2 e => by rw [hq q hq2 (hkno q e)]; exact e)
  have hfK : ∀ q, q < n → h q = none → f' q = none := by
    intro q hq2 e
    rw [hlo q hq2]
    cases e2 : f q with
    | none => rfl
    | some c => rw [hl0 _ _ e2] at e; cases e
  have hKB : ∀ q, h q = none → ∀ j, j < 16 → B j ≠ q := by
    intro q e j hj e2
    obtain ⟨c, hc⟩ := hsome j hj
    rw [e2, e] at hc
    cases hc
  obtain ⟨e1, e2, e3, e4, e5⟩ := hS
  unfold RCp
  rw [e1, e2, e3, e4, e5, hB18, hBo 0 (by decide) (by decide), hBo 1 (by decide) (by decide), hBo 7 (by decide) (by decide), hBo 12 (by decide) (by decide), hBo 13 (by decide) (by decide)]
  refine ⟨⟨b0, ho⟩, ⟨hlh, OFR_mono hl hof, ⟨gv, (hne 1 (by decide) (by decide)).trans hvs⟩, hsv, ⟨gs, ds, ?_⟩⟩, ⟨⟨gt, (hne 12 (by decide) (by decide)).trans htp, htp2⟩, ⟨gr, (hne 13 (by decide) (by decide)).trans hrf, hrf2⟩⟩, ⟨hac, hacr⟩, ⟨hhd, hhr⟩, him, ⟨fun i j hi hj e => ?_, fun i hi => ?_, fun i j h1 h2 hj => ?_, fun i h1 h2 => ?_, h17⟩, ⟨hf, ⟨k1, k2, fun i hi => Nat.lt_of_lt_of_le (k3 i hi) hn, fun j hj => hl _ _ (k4 j hj)⟩, hKn⟩, hZ'⟩
  · have : (fun i => B' (8 + i)) = fun i => if i < 6 then B (8 + i) else B' (8 + i) := by
      funext i
      by_cases hi : i < 6
      · rw [if_pos hi]; exact hBo _ (by omega) (by omega)
      · rw [if_neg hi]
    obtain ⟨c1, c2, c3, c4, c5⟩ := hst
    refine ⟨?_, ?_, ?_, ?_, ?_⟩
    · show h' (B 7) = some (.inr (3, [.ref (B' 8), .ref (B' 9), .ref (B' 10), .ref (B' 11), .int ds, .ref o]))
      rw [hne 7 (by decide) (by decide), hBo 8 (by decide) (by decide), hBo 9 (by decide) (by decide), hBo 10 (by decide) (by decide), hBo 11 (by decide) (by decide)]
      exact c1
    · show h' (B' 8) = _
      rw [hBo 8 (by decide) (by decide), hne 8 (by decide) (by decide)]; exact c2
    · show h' (B' 9) = _
      rw [hBo 9 (by decide) (by decide), hne 9 (by decide) (by decide)]; exact c3
    · show h' (B' 10) = _
      rw [hBo 10 (by decide) (by decide), hne 10 (by decide) (by decide)]; exact c4
    · show h' (B' 11) = _
      rw [hBo 11 (by decide) (by decide), hne 11 (by decide) (by decide)]; exact c5
  · rcases hB i hi with ⟨u1, u2⟩ | ⟨u1, u2, u3⟩ <;> rcases hB j hj with ⟨v1, v2⟩ | ⟨v1, v2, v3⟩
    · exact nB i j hi hj (u2.symm.trans (e.trans v2))
    · have := hpos i (by omega); omega
    · have := hpos j (by omega); omega
    · exact hinj i j hi hj u1 v1 e
  · rcases hB i hi with ⟨u1, u2⟩ | ⟨u1, u2, u3⟩
    · rw [u2, hlo _ (hpos i (by omega))]; exact fB i hi
    · exact u3
  · rcases hA i h1 h2 with e | e | ⟨u1, u2, u3⟩
    · rcases hB j hj with ⟨v1, v2⟩ | ⟨v1, v2, v3⟩
      · rw [e, v2]; exact nB2 i j h1 h2 hj
      · have := hpos i h2; omega
    · rcases hB j hj with ⟨v1, v2⟩ | ⟨v1, v2, v3⟩
      · rw [v2]
        rcases e with e | e
        · rw [e]; exact fun x => hKB _ hkn.1 j hj x.symm
        · rw [e]; exact fun x => hKB _ hkn.2.1 j hj x.symm
      · have q0 := k3 0 (by decide)
        have q1 := k3 1 (by decide)
        rcases e with e | e <;> omega
    · exact Ne.symm (u3 j hj)
  · rcases hA i h1 h2 with e | e | ⟨u1, u2, u3⟩
    · rw [e, hlo _ (hpos i h2)]; exact fB2 i h1 h2
    · rcases e with e | e
      · rw [e]; exact hfK _ (k3 0 (by decide)) hkn.1
      · rw [e]; exact hfK _ (k3 1 (by decide)) hkn.2.1
    · exact u2
def Bs (B : Nat → Nat) (c : Nat) : Nat → Nat := fun i => if i < 2 then B i else if i < 7 then c + (i - 2) else B i
theorem Bs_o {c i : Nat} (h : i < 2 ∨ 7 ≤ i) : Bs B c i = B i := by
  unfold Bs
  by_cases h2 : i < 2
  · rw [if_pos h2]
  · rw [if_neg h2, if_neg (by omega)]
theorem Bs_n {c i : Nat} (h : 2 ≤ i) (h2 : i < 7) : Bs B c i = c + (i - 2) := by
  unfold Bs
  rw [if_neg (by omega), if_pos h2]
theorem SC_A {s : Nat} {A A' : Nat → Nat} {g : Nat → Nat → Int32} {d : Int32} (e : ∀ i, i < 4 → A' i = A i) (hs : SC h o s A g d) : SC h o s A' g d := by
  unfold SC at hs ⊢
  rw [e 0 (by decide), e 1 (by decide), e 2 (by decide), e 3 (by decide)]
  exact hs
theorem SC_F {h' : CH} {s : Nat} {g : Nat → Nat → Int32} {d : Int32} (e : ∀ i, i < 5 → h' (s + i) = h (s + i)) (hs : SC h o s (fun i => s + 1 + i) g d) : SC h' o s (fun i => s + 1 + i) g d := by
  obtain ⟨c1, c2, c3, c4, c5⟩ := hs
  refine ⟨(e 0 (by decide)).trans c1, ?_, ?_, ?_, ?_⟩
  · exact ((show h' (s + 1 + 0) = h (s + 1 + 0) from e 1 (by decide))).trans c2
  · exact ((show h' (s + 1 + 1) = h (s + 1 + 1) from e 2 (by decide))).trans c3
  · exact ((show h' (s + 1 + 2) = h (s + 1 + 2) from e 3 (by decide))).trans c4
  · exact ((show h' (s + 1 + 3) = h (s + 1 + 3) from e 4 (by decide))).trans c5
theorem C_isE {a arr m : Nat} {e : Nat → Nat} (hL : LMu K h a arr m e) (hm : m < 2 ^ 31) : vc h a 10 (CJ2_isEmpty h a) = some (bI (decide (m = 0))) := by
  obtain ⟨mc, l1, _⟩ := hL
  rw [vc_of l1]
  unfold CJ2_isEmpty
  rw [gI_of l1 (k := 2) rfl, Option.bind_some]
  by_cases e : m = 0
  · rw [if_pos ((i3_eq0 hm).mpr e), decide_eq_true e]; rfl
  · rw [if_neg (fun x => e ((i3_eq0 hm).mp x)), decide_eq_false e]; rfl
theorem C_siz {a arr m : Nat} {e : Nat → Nat} (hL : LMu K h a arr m e) : vc h a 10 (CJ2_size h a) = some (i3 m) := by
  obtain ⟨mc, l1, _⟩ := hL
  rw [vc_of l1]
  unfold CJ2_size
  rw [gI_of l1 (k := 2) rfl, Option.bind_some]
end RFIN
section UNDO
variable {K : Nat → Nat} {h : CH} {r : CR} {o N : Nat} {σ : MS}
theorem op_undo (hS : RS K o (h, r) σ (N + 1)) : ∃ z v σ', C1_undo K h r o = some z ∧ M_undo σ = some (v, σ') ∧ JN K o r N false 0 (.inl z) v σ' := by
  obtain ⟨S, ⟨f, B, sT, aT, hT, seed, ea, eh, hp⟩, hM, hr1, hr2⟩ := hS
  dsimp only at hp hr1 hr2
  have hZ := RCp_Z hp
  have hM1 : RM (sf σ 0 0) S := RM_gx hZ (Gx_sf (.inl rfl)) hM
  have h0 : mf (sf σ 0 0) 0 = 0 := mf_sf0
  unfold C1_undo M_undo
  rw [show pf σ 0 0 = some (sf σ 0 0) from rfl, Option.bind_some]
  generalize sf σ 0 0 = s1 at hM1 h0
  have hN := hZ.1.1
  have hMM := hZ.1.2.1
  obtain ⟨ha1, ha2⟩ := hZ.2.2.1
  have hg8 : gR h o 1 8 = some (B 14) := gR_of (RC_o hp).2.1 rfl
  have hac := hp.2.2.2.1
  have m46 := hM1.2.2.1.1
  rw [hg8, Option.bind_some, C_isE hac.1 (by omega), Option.bind_some, m46]
  by_cases e0 : (zA S).1 = 0
  · rw [decide_eq_true e0, if_neg bI_t0, if_pos ((i3_eq0 (by omega)).mpr e0)]
    exact ⟨_, _, _, rfl, rfl, JN_same hp hM1 h0 hr1 hr2⟩
  · obtain ⟨m, hm⟩ : ∃ m, (zA S).1 = m + 1 := ⟨(zA S).1 - 1, by omega⟩
    rw [decide_eq_false e0, if_pos bI_f, if_neg (fun x => e0 ((i3_eq0 (by omega)).mp x)), Option.bind_some, Option.bind_some, C_siz hac.1, Option.bind_some, hm, show i3 (m + 1) - 1 = i3 m from i3_sub (a := m + 1) (b := 1) (by omega)]
    -- the component
    obtain ⟨hkn, hk01, hkb, _⟩ := RCp_K hp
    have hl := (RC_o hp).2.2.1
    have hel : ∀ i, i < (zA S).1 → okO h (ea i) = true := by
      intro i hi
      obtain ⟨A, g, d, q, _⟩ := hac.2 i hi
      rw [okO_of (hl _ _ q.1)]
      simp [okC]
    have nB2 := hp.2.2.2.2.2.2.1.2.2.1
    obtain ⟨h1, t1, t2, t3, t4, t5⟩ := C_rem (i := m) (n := m) (hm ▸ hac.1) (by omega) (.inl rfl) hkn (fun j hj => hel j (by omega)) (nB2 16 14 (by decide) (by decide) (by decide))
    have hpos := RCp_pos hp
    have hf1 : FR h1 r.1 := by
      intro q hq
      rw [t5 q (by have := hpos 14 (by decide); omega) (by have := hpos 16 (by decide); omega)]
      exact RCp_FR hp q hq
    obtain ⟨Ae, ge, de, sc, sa⟩ := hac.2 m (by omega)
    have hp1 : RCp K h1 r.1 o (wAC S (m, (zA S).2)) f (Bu B 16 (B 16)) sT aT hT seed (fun j => if j < m then ea j else ea (j + 1)) eh := by
      refine RC_acts (x := (m, (zA S).2)) hp t2 (fun i hi => ?_) (.inl ⟨rfl, t3⟩) hf1 (Nat.le_refl _) t5 (WFZ_ac hZ ⟨show m ≤ 40 by omega, fun i hi => ha2 i (show i < (zA S).1 by have : i < m := hi; omega)⟩)
      have hi2 : i < m := hi
      obtain ⟨A, g, d, q1, q2⟩ := hac.2 i (by omega)
      exact ⟨A, g, d, by rw [if_pos hi2]; exact q1, q2⟩
    have hl1 := (RC_o hp1).2.2.1
    have sc1 := SC_hle sc hl1
    have hb5 : ∀ q, q ∈ s5 (ea m) Ae → q < r.1 := by
      intro q hq
      obtain ⟨c1, c2, c3, c4, c5⟩ := sc1
      unfold s5 at hq
      simp only [List.mem_cons, List.not_mem_nil, or_false] at hq
      rcases hq with rfl | rfl | rfl | rfl | rfl
      · exact RCp_lt hp1 c1
      · exact RCp_lt hp1 c2
      · exact RCp_lt hp1 c3
      · exact RCp_lt hp1 c4
      · exact RCp_lt hp1 c5
    obtain ⟨h2, g2, y1, y2, y3, y4, y5, y6⟩ := C3_copy_eq (r := r) (RCp_FR hp1) sc1 hb5 (by omega) (by omega)
    have ho1 := (RC_o hp1).2.1
    have holt : o < r.1 := RCp_lt hp1 ho1
    have ho2 : h2 o = some (oCell (Bu B 16 (B 16)) (wAC S (m, (zA S).2)) (B 2) (B 14) (B 15) sT aT hT seed) := (y6 o holt).trans ho1
    have hw : WFD (zP S) ((zA S).2 m) := ha2 m (by omega)
    have hneo : ∀ i, i < 5 → r.1 + i ≠ o := fun i _ => by omega
    have hBn : ∀ i, 2 ≤ i → i < 7 → Bs (Bu B 16 (B 16)) r.1 i = r.1 + (i - 2) := fun i h1 h2 => Bs_n h1 h2
    have hBo : ∀ i, i < 2 ∨ 7 ≤ i → Bs (Bu B 16 (B 16)) r.1 i = Bu B 16 (B 16) i := fun i h1 => Bs_o h1
    have hfn : ∀ q, r.1 ≤ q → f q = none := by
      intro q hq
      cases e : f q with
      | none => rfl
      | some c => have := RCp_lt hp1 (hl1 _ _ e); omega
    have hp3 : RCp K (hup h2 o (oCell (Bu B 16 (B 16)) (wAC S (m, (zA S).2)) r.1 (B 14) (B 15) sT aT hT seed)) (r.1 + 5) o (wSV (wAC S (m, (zA S).2)) ((zA S).2 m)) f (Bs (Bu B 16 (B 16)) r.1) sT aT hT seed (fun j => if j < m then ea j else ea (j + 1)) eh := by
      refine RC_fin (nw := fun i => decide (2 ≤ i ∧ i < 7)) hp1 (fun q q1 q2 => ?_) (FR_set y5 (by omega)) (by omega) (fun _ _ x => x) (fun a c x => ?_) (fun _ _ => rfl) (fun i i1 i2 => decide_eq_false (by omega)) (fun i hi => ?_) (fun i j hi hj u1 u2 e => ?_) (fun i i1 i2 => .inl (hBo i (by omega))) (fun e => ?_) (hBo 18 (by omega)) ?_ ⟨rfl, rfl, rfl, rfl, rfl⟩ ?_ ?_ hp1.2.2.2.1.2 ?_ hp1.2.2.2.2.1.2 hp1.2.2.2.2.2.1 (WFZ_sv (RCp_Z hp1) hw)
      · rw [hup_n q2]; exact y6 q q1
      · rw [hup_n (fun y => by rw [y, (RC_o hp1).2.2.2.1] at x; cases x)]
        have q := hl1 _ _ x
        exact (y6 a (RCp_lt hp1 q)).trans q
      · by_cases q : 2 ≤ i ∧ i < 7
        · right
          refine ⟨decide_eq_true q, ?_, ?_⟩
          · rw [hBn i q.1 q.2]; omega
          · rw [hBn i q.1 q.2]; exact hfn _ (by omega)
        · left
          exact ⟨decide_eq_false q, hBo i (by omega)⟩
      · have q1 := of_decide_eq_true u1
        have q2 := of_decide_eq_true u2
        rw [hBn i q1.1 q1.2, hBn j q2.1 q2.2] at e
        omega
      · rw [hBo 16 (by omega), hBo 17 (by omega)] at e
        rw [hBo 16 (by omega)]
        exact hp1.2.2.2.2.2.2.1.2.2.2.2 e
      · rw [hup_s]; rfl
      · refine SX_of (SC_A (A := fun i => r.1 + 1 + i) (fun i hi => ?_) ?_) (SA_of hZ.1 sa y3 y4) hw.1.1
        · rw [hBn (3 + i) (by omega) (by omega)]; omega
        · rw [hBn 2 (by decide) (by decide)]
          exact SC_F (fun i hi => hup_n (hneo i hi)) y2
      · have q := hp1.2.2.2.1.1
        rw [hBo 14 (by omega), hBo 16 (by omega)]
        refine LMu_eq q ?_ (fun ⟨c, hc⟩ => ?_)
        · rw [hup_n ((RC_o hp1).2.2.2.2 14 (by decide) (by decide))]; exact y6 _ (RCp_pos hp1 14 (by decide))
        · rw [hup_n ((RC_o hp1).2.2.2.2 16 (by decide) (by decide))]; exact y6 _ (RCp_pos hp1 16 (by decide))
      · have q := hp1.2.2.2.2.1.1
        rw [hBo 15 (by omega), hBo 17 (by omega)]
        refine LMu_eq q ?_ (fun ⟨c, hc⟩ => ?_)
        · rw [hup_n ((RC_o hp1).2.2.2.2 15 (by decide) (by decide))]; exact y6 _ (RCp_pos hp1 15 (by decide))
        · rw [hup_n ((RC_o hp1).2.2.2.2 17 (by decide) (by decide))]; exact y6 _ (RCp_pos hp1 17 (by decide))
    have hz8 := gR_of (RC_o hp3).2.1 (c := 1) (k := 8) rfl
    rw [show B 14 = Bs (Bu B 16 (B 16)) r.1 14 from rfl] at t1
    have hz9 := C_siz hp3.2.2.2.1.1
    rw [show vc h (B 14) 10 (CJ2_remove K h (B 14) (i3 m)) = _ from t1, Option.bind_some]
    dsimp only
    rw [ckC_of sc1.1, Option.bind_some, vc_of sc1.1, achk_of y1 (by dsimp only; omega) (by dsimp only; omega), Option.bind_some]
    dsimp only
    rw [pQ_of ho2 (show 2 < 14 by decide), Option.bind_some, show hup h2 o (Sum.inr (1, List.set _ 2 (va_rf (some r.1)))) = hup h2 o (oCell (Bu B 16 (B 16)) (wAC S (m, (zA S).2)) r.1 (B 14) (B 15) sT aT hT seed) from rfl, hz8, Option.bind_some, hz9, Option.bind_some]
    -- the reference
    have hr := hM1.2.2.1.2 m (by omega)
    rw [show pf s1 46 (i3 m) = some (sf s1 46 (i3 m)) from rfl, Option.bind_some]
    obtain ⟨r2, w1, w2, w3, w4⟩ := o_cpy (step := M_undo_L26) (σ := sf s1 46 (i3 m)) 45 44 (34 * m) 0 34 (by decide) (fun k τ hk hF => by
      unfold M_undo_L26
      dsimp only
      have e46 : mf τ 46 = i3 m := by unfold mf; rw [hF]; unfold sf; dsimp only; rw [if_pos rfl]
      rw [if_pos ((i3_ltl (c := 34) (n := 34) rfl (by omega) (by decide)).mpr hk), e46, show (34 : Int32) * i3 m + i3 k = i3 (34 * m + k) by rw [show (34 : Int32) = i3 34 from rfl, i3_mul, i3_add], ald_i3 (j := 45) (show 34 * m + k < 1360 by omega), Option.bind_some, ast_i3 (j := 44) (show k < 68 by omega), Option.bind_some, i3_succ, Nat.zero_add]) (fun τ => by
      unfold M_undo_L26
      dsimp only
      rw [if_neg (by decide)])
    rw [w1, Option.bind_some]
    have e46 : mf r2 46 = i3 m := by unfold mf; rw [w2]; unfold sf; dsimp only; rw [if_pos rfl]
    have hRM : RM (sf s1 46 (i3 m)) (wAC S (m, (zA S).2)) := by
      refine RM_acts hM1 (fun k k0 k46 => by unfold mf sf; dsimp only; rw [if_neg k46]) (fun j _ => rfl) ⟨by unfold mf sf; dsimp only; rw [if_pos rfl], fun i hi => ?_⟩
      exact hM1.2.2.1.2 i (by have : i < m := hi; omega)
    have hF2 : Fx 0 (sf s1 46 (i3 m)) r2 := ⟨w2, fun j a b c => w3 j a, fun e => absurd e (by decide)⟩
    have hMR : MR r2 0 (zP S) ((zA S).2 m) := by
      refine MRg_of hN hMM hr (fun i hi => ?_)
      rw [Nat.zero_add, w4 i, if_pos (by omega)]
      show ma s1 45 _ = _
      congr 1
    rw [e46]
    refine ⟨_, _, _, rfl, rfl, JN_in ⟨f, _, sT, aT, hT, seed, _, eh, hp3⟩ (RM_sv hRM hF2 hMR) ?_ (show 2300 * N + 100 * zt S ≤ r.2.1 - 5 by omega) (show 90000 * N + 3000 * zt S ≤ r.2.2 - 39 by omega) (Nat.sub_le _ _) (Nat.sub_le _ _)⟩
    rw [mf_fx hF2]
    unfold mf sf
    dsimp only
    rw [if_neg (by decide)]
    exact h0
end UNDO
