/-! ===== feed ===== -/
section FEED
variable {K : Nat → Nat} {h : CH} {r : CR} {o N n : Nat} {σ : MS} {S : ST} {f : CH} {B : Nat → Nat} {sT aT hT : Option Nat} {seed : Int32} {ea eh : Nat → Nat}
def lo8 (v : Int32) : Nat := v.toBitVec.toNat &&& 255
theorem lo8_lt (v : Int32) : lo8 v < 256 := Nat.lt_of_le_of_lt Nat.and_le_right (by decide)
theorem lo8_eq (v : Int32) : v &&& 255 = i3 (lo8 v) := by
  have e : v = i3 v.toBitVec.toNat := by
    apply Int32.toBitVec_inj.mp
    show v.toBitVec = BitVec.ofNat 32 v.toBitVec.toNat
    rw [BitVec.ofNat_toNat, BitVec.setWidth_eq]
  have e2 : i3 v.toBitVec.toNat &&& i3 255 = i3 (lo8 v) := i3_and _ _
  rw [← e] at e2
  exact e2
theorem i2b_and (v : Int32) : i2b_ (v &&& 255) = i2b_ v := by
  unfold i2b_
  rw [Int32.toInt8_and, show (255 : Int32).toInt8 = -1 from by decide]
  simp
theorem i2b_nar (v : Int32) : vp_nar .byte (i2b_ v) = i2b_ v := by
  unfold i2b_
  simp [vp_nar, narrow]
theorem i2b_lo8 (v : Int32) : i2b_ v = i2b_ (i3 (lo8 v)) := by rw [← lo8_eq, i2b_and]
def ar5 (a b c d e : Int32) (j : Nat) : Int32 := if j = 0 then a else if j = 1 then b else if j = 2 then c else if j = 3 then d else e
def byt (x : Int32) (j : Nat) : Nat := lo8 (x >>> (i3 (24 - 8 * j) &&& 31))
def wTP (S : ST) (T : Nat → Nat) (t : Nat) : ST := (S.1, S.2.1, S.2.2.1, S.2.2.2.1, S.2.2.2.2.1, T, t, S.2.2.2.2.2.2.2.1, S.2.2.2.2.2.2.2.2)
/-- the tape has changed -/
theorem RC_tp {g : Nat → Int32} {T : Nat → Nat} (hp : RCp K h n o S f B sT aT hT seed ea eh) (hg : ∀ k, k < 700 → g k = i2b_ (i3 (T k))) (hT2 : ∀ k, T k < 256) : RCp K (hup h (B 12) (.inl (2, 700, .inl g))) n o (wTP S T (zt S)) f B sT aT hT seed ea eh := by
  obtain ⟨u1, u2, u3, u4⟩ := RC_one (i := 12) (c := .inl (2, 700, .inl g)) hp (by decide)
  obtain ⟨⟨b0, ho⟩, ⟨hl, hof, ⟨gv, hvs⟩, hsx, ⟨gs, ds, hst⟩⟩, ⟨⟨gt, htp, htp2⟩, ⟨gr, hrf, hrf2⟩⟩, ⟨hac, hacr⟩, ⟨hhd, hhdr⟩, h6, ⟨nB, fB, nB2, fB2, nB3⟩, ⟨hfr, hkc, hkn⟩, hZ⟩ := hp
  refine ⟨⟨b0, ?_⟩, ⟨u1, hof, ⟨gv, by rw [u4 1 (by decide) (by decide)]; exact hvs⟩, SX_eq hsx (fun q hq => ?_), ⟨gs, ds, SC_eq hst (fun q hq => ?_)⟩⟩, ⟨⟨g, hup_s, hg⟩, ⟨gr, by rw [u4 13 (by decide) (by decide)]; exact hrf, hrf2⟩⟩, ⟨LMu_eq hac (u4 14 (by decide) (by decide)) (fun _ => u4 16 (by decide) (by decide)), hacr⟩, ⟨LMu_eq hhd (u4 15 (by decide) (by decide)) (fun _ => u4 17 (by decide) (by decide)), hhdr⟩, h6, ⟨nB, fB, nB2, fB2, nB3⟩, ⟨u2, hkc, u3⟩, ⟨hZ.1, hZ.2.1, hZ.2.2.1, hZ.2.2.2.1, hZ.2.2.2.2.1, hT2, hZ.2.2.2.2.2.2⟩⟩
  · rw [show hup h (B 12) _ o = h o by rw [← b0]; exact u4 0 (by decide) (by decide)]
    exact ho
  · rcases mem_s5 hq with rfl | rfl | rfl | rfl | rfl
    · exact u4 2 (by decide) (by decide)
    · exact u4 3 (by decide) (by decide)
    · exact u4 4 (by decide) (by decide)
    · exact u4 5 (by decide) (by decide)
    · exact u4 6 (by decide) (by decide)
  · rcases mem_s5 hq with rfl | rfl | rfl | rfl | rfl
    · exact u4 7 (by decide) (by decide)
    · exact u4 8 (by decide) (by decide)
    · exact u4 9 (by decide) (by decide)
    · exact u4 10 (by decide) (by decide)
    · exact u4 11 (by decide) (by decide)
/-- its own numbers have changed: how much is taped, where a fault is, the seed -/
def wNM (S : ST) (t : Nat) (x : Int32) : ST := (S.1, S.2.1, S.2.2.1, S.2.2.2.1, S.2.2.2.2.1, S.2.2.2.2.2.1, t, x, S.2.2.2.2.2.2.2.2)
theorem RC_nm {t : Nat} {x seed' : Int32} (hp : RCp K h n o S f B sT aT hT seed ea eh) (ht : t ≤ 700) : RCp K (hup h o (oCell B (wNM S t x) (B 2) (B 14) (B 15) sT aT hT seed')) n o (wNM S t x) f B sT aT hT seed' ea eh := by
  have hb0 := (RC_o hp).1
  obtain ⟨u1, u2, u3, u4⟩ := RC_one (i := 0) (c := oCell B (wNM S t x) (B 2) (B 14) (B 15) sT aT hT seed') hp (by decide)
  rw [hb0] at u1 u2 u3 u4
  obtain ⟨⟨b0, ho⟩, ⟨hl, hof, ⟨gv, hvs⟩, hsx, ⟨gs, ds, hst⟩⟩, ⟨⟨gt, htp, htp2⟩, ⟨gr, hrf, hrf2⟩⟩, ⟨hac, hacr⟩, ⟨hhd, hhdr⟩, h6, ⟨nB, fB, nB2, fB2, nB3⟩, ⟨hfr, hkc, hkn⟩, hZ⟩ := hp
  refine ⟨⟨b0, ?_⟩, ⟨u1, hof, ⟨gv, by rw [u4 1 (by decide) (by decide)]; exact hvs⟩, SX_eq hsx (fun q hq => ?_), ⟨gs, ds, SC_eq hst (fun q hq => ?_)⟩⟩, ⟨⟨gt, by rw [u4 12 (by decide) (by decide)]; exact htp, htp2⟩, ⟨gr, by rw [u4 13 (by decide) (by decide)]; exact hrf, hrf2⟩⟩, ⟨LMu_eq hac (u4 14 (by decide) (by decide)) (fun _ => u4 16 (by decide) (by decide)), hacr⟩, ⟨LMu_eq hhd (u4 15 (by decide) (by decide)) (fun _ => u4 17 (by decide) (by decide)), hhdr⟩, h6, ⟨nB, fB, nB2, fB2, nB3⟩, ⟨u2, hkc, u3⟩, ⟨hZ.1, hZ.2.1, hZ.2.2.1, hZ.2.2.2.1, hZ.2.2.2.2.1, hZ.2.2.2.2.2.1, ht⟩⟩
  · rw [hup_s]; rfl
  · rcases mem_s5 hq with rfl | rfl | rfl | rfl | rfl
    · exact u4 2 (by decide) (by decide)
    · exact u4 3 (by decide) (by decide)
    · exact u4 4 (by decide) (by decide)
    · exact u4 5 (by decide) (by decide)
    · exact u4 6 (by decide) (by decide)
  · rcases mem_s5 hq with rfl | rfl | rfl | rfl | rfl
    · exact u4 7 (by decide) (by decide)
    · exact u4 8 (by decide) (by decide)
    · exact u4 9 (by decide) (by decide)
    · exact u4 10 (by decide) (by decide)
    · exact u4 11 (by decide) (by decide)
/-! the reference -/
theorem M_lays_eq {m : Nat} (x : Int32) (h13 : mf σ 13 = i3 m) (hm : m + 4 ≤ 700) : ∃ σ', M_lays σ x = some σ' ∧ mf σ' 13 = i3 (m + 4) ∧ (∀ k, k ≠ 13 → mf σ' k = mf σ k) ∧ (∀ j, j ≠ 12 → ma σ' j = ma σ j) ∧ ∀ i, ma σ' 12 i = if m ≤ i ∧ i < m + 4 then i3 (byt x (i - m)) else ma σ 12 i := by
  unfold M_lays
  refine o_inv0 (fun k (t : Int32 × MS) => t.1 = 24 - 8 * i3 k ∧ mf t.2 13 = i3 (m + k) ∧ (∀ k, k ≠ 13 → mf t.2 k = mf σ k) ∧ (∀ j, j ≠ 12 → ma t.2 j = ma σ j) ∧ ∀ i, ma t.2 12 i = if m ≤ i ∧ i < m + k then i3 (byt x (i - m)) else ma σ 12 i) (fun σ' => mf σ' 13 = i3 (m + 4) ∧ (∀ k, k ≠ 13 → mf σ' k = mf σ k) ∧ (∀ j, j ≠ 12 → ma σ' j = ma σ j) ∧ ∀ i, ma σ' 12 i = if m ≤ i ∧ i < m + 4 then i3 (byt x (i - m)) else ma σ 12 i) 4 (fun k t hk hI => ?_) (fun t hI => ?_) (24, σ) ⟨show (24 : Int32) = 24 - 8 * i3 0 by decide, h13, fun _ _ => rfl, fun _ _ => rfl, fun i => by rw [if_neg (by omega)]⟩
  · obtain ⟨t1, t2⟩ := t
    obtain ⟨h1, h2, h3, h4, h5⟩ := hI
    dsimp only at h1 h2 h3 h4 h5
    have hc : ¬ t1 < 0 ∧ t1 = i3 (24 - 8 * k) ∧ t1 + (-8) = 24 - 8 * i3 (k + 1) := by
      have : k = 0 ∨ k = 1 ∨ k = 2 ∨ k = 3 := by omega
      subst h1
      rcases this with rfl | rfl | rfl | rfl <;> decide
    unfold M_lays_L3
    dsimp only
    rw [if_neg hc.1, h2, lo8_eq, ast_i3 (j := 12) (show m + k < 700 by omega), Option.bind_some]
    have h2' : mf (sa t2 12 (m + k) (i3 (lo8 (x >>> (t1 &&& 31))))) 13 = i3 (m + k) := h2
    rw [h2', i3_succ, show ∀ s v, pf s 13 v = some (sf s 13 v) from fun _ _ => rfl, Option.bind_some]
    refine ⟨_, rfl, hc.2.2, ?_, fun q hq => ?_, fun j hj => ?_, fun i => ?_⟩
    · unfold mf sf; dsimp only; rw [if_pos rfl]; rfl
    · unfold mf sf; dsimp only; rw [if_neg hq]; exact h3 q hq
    · exact (ma_sb hj).trans (h4 j hj)
    · show ma (sa t2 12 (m + k) _) 12 i = _
      rw [ma_saq]
      by_cases e : i = m + k
      · rw [if_pos e, if_pos (by omega), e, show m + k - m = k by omega]
        unfold byt
        rw [← hc.2.1]
      · rw [if_neg e, h5 i]
        by_cases e2 : m ≤ i ∧ i < m + k
        · rw [if_pos e2, if_pos (by omega)]
        · rw [if_neg e2, if_neg (by omega)]
  · obtain ⟨t1, t2⟩ := t
    obtain ⟨h1, h2⟩ := hI
    dsimp only at h1 h2
    unfold M_lays_L3
    dsimp only
    rw [h1, if_pos (by decide)]
    exact ⟨_, rfl, h2⟩
/-! the component -/
theorem ar5_if (a b c d e : Int32) {k : Nat} (hk : k < 20) : (if i3 k < 4 then some a else if i3 k < 8 then some b else if i3 k < 12 then some c else if i3 k < 16 then some d else some e : Option Int32) = some (ar5 a b c d e (k / 4)) := by
  unfold ar5
  by_cases h1 : k < 4
  · rw [if_pos ((i3_ltl (c := 4) (n := 4) rfl (by omega) (by decide)).mpr h1), if_pos (by omega)]
  · rw [if_neg (fun x => h1 ((i3_ltl (c := 4) (n := 4) rfl (by omega) (by decide)).mp x)), if_neg (show ¬ k / 4 = 0 by omega)]
    by_cases h2 : k < 8
    · rw [if_pos ((i3_ltl (c := 8) (n := 8) rfl (by omega) (by decide)).mpr h2), if_pos (by omega)]
    · rw [if_neg (fun x => h2 ((i3_ltl (c := 8) (n := 8) rfl (by omega) (by decide)).mp x)), if_neg (show ¬ k / 4 = 1 by omega)]
      by_cases h3 : k < 12
      · rw [if_pos ((i3_ltl (c := 12) (n := 12) rfl (by omega) (by decide)).mpr h3), if_pos (by omega)]
      · rw [if_neg (fun x => h3 ((i3_ltl (c := 12) (n := 12) rfl (by omega) (by decide)).mp x)), if_neg (show ¬ k / 4 = 2 by omega)]
        by_cases h4 : k < 16
        · rw [if_pos ((i3_ltl (c := 16) (n := 16) rfl (by omega) (by decide)).mpr h4), if_pos (by omega)]
        · rw [if_neg (fun x => h4 ((i3_ltl (c := 16) (n := 16) rfl (by omega) (by decide)).mp x)), if_neg (show ¬ k / 4 = 3 by omega)]
theorem C1_feedL_eq {g : Nat → Int32} {fs : List Value} {tp m : Nat} (a b c d e : Int32) (ho : h o = some (.inr (1, fs))) (h4 : fs[4]? = some (.ref tp)) (h5 : fs[5]? = some (.int (i3 m))) (hg : h tp = some (.inl (2, 700, .inl g))) (hm : m + 20 ≤ 700) : ∃ h' g', o_loop (C1_feed_L18 o a b c d e) (0, h) = some h' ∧ h' = hup h tp (.inl (2, 700, .inl g')) ∧ ∀ i, g' i = if m ≤ i ∧ i < m + 20 then i2b_ (i3 (byt (ar5 a b c d e ((i - m) / 4)) ((i - m) % 4))) else g i := by
  have hne : o ≠ tp := fun y => by rw [y, hg] at ho; cases ho
  obtain ⟨h', q1, g', q2, q3⟩ : ∃ h', o_loop (C1_feed_L18 o a b c d e) (0, h) = some h' ∧ ∃ g', h' = hup h tp (.inl (2, 700, .inl g')) ∧ ∀ i, g' i = if m ≤ i ∧ i < m + 20 then i2b_ (i3 (byt (ar5 a b c d e ((i - m) / 4)) ((i - m) % 4))) else g i := by
    refine o_inv0 (fun k (t : Int32 × CH) => t.1 = i3 k ∧ ∃ g', t.2 = hup h tp (.inl (2, 700, .inl g')) ∧ ∀ i, g' i = if m ≤ i ∧ i < m + k then i2b_ (i3 (byt (ar5 a b c d e ((i - m) / 4)) ((i - m) % 4))) else g i) (fun h' => ∃ g', h' = hup h tp (.inl (2, 700, .inl g')) ∧ ∀ i, g' i = if m ≤ i ∧ i < m + 20 then i2b_ (i3 (byt (ar5 a b c d e ((i - m) / 4)) ((i - m) % 4))) else g i) 20 (fun k t hk hI => ?_) (fun t hI => ?_) (0, h) ⟨rfl, g, ?_, fun i => by rw [if_neg (by omega)]⟩
    · obtain ⟨t1, t2⟩ := t
      obtain ⟨h1, g', h2, h3⟩ := hI
      dsimp only at h1 h2 h3
      subst h1 h2
      unfold C1_feed_L18
      dsimp only
      have ho2 : hup h tp (.inl (2, 700, .inl g')) o = some (.inr (1, fs)) := by rw [hup_n hne]; exact ho
      have ht2 : hup h tp (.inl (2, 700, .inl g')) tp = some (.inl (2, 700, .inl g')) := hup_s
      rw [if_pos ((i3_ltl (c := 20) (n := 20) rfl (by omega) (by decide)).mpr hk), ar5_if a b c d e hk, Option.bind_some, gR_of ho2 h4, Option.bind_some, gI_of ho2 h5, Option.bind_some, i3_add, i2b_nar, show imod (i3 k) 4 = i3 (k % 4) from i3_mod (b := 4) (by omega) (by decide), show (8 : Int32) * i3 (k % 4) = i3 (8 * (k % 4)) from i3_mul 8 _, show (24 : Int32) - i3 (8 * (k % 4)) = i3 (24 - 8 * (k % 4)) from i3_sub (a := 24) (by omega), sI_of ht2 (show m + k < 700 by omega) (by decide), Option.bind_some, i3_succ]
      refine ⟨_, rfl, rfl, upd g' (m + k) (i2b_ (ar5 a b c d e (k / 4) >>> (i3 (24 - 8 * (k % 4)) &&& 31))), ?_, fun i => ?_⟩
      · funext q
        dsimp only
        unfold hup
        by_cases e1 : q = tp
        · rw [if_pos e1, if_pos e1]
        · rw [if_neg e1, if_neg e1, if_neg e1]
      · unfold upd
        by_cases e1 : i = m + k
        · rw [if_pos e1, if_pos (by omega), e1, show m + k - m = k by omega, i2b_lo8]
          rfl
        · rw [if_neg e1, h3 i]
          by_cases e2 : m ≤ i ∧ i < m + k
          · rw [if_pos e2, if_pos (by omega)]
          · rw [if_neg e2, if_neg (by omega)]
    · obtain ⟨t1, t2⟩ := t
      obtain ⟨h1, g', h2, h3⟩ := hI
      dsimp only at h1 h2 h3
      subst h1
      unfold C1_feed_L18
      dsimp only
      rw [if_neg (by decide)]
      exact ⟨_, rfl, g', h2, h3⟩
    · funext q
      dsimp only
      unfold hup
      by_cases e1 : q = tp
      · rw [if_pos e1, e1, hg]
      · rw [if_neg e1]
  exact ⟨h', g', q1, q2, q3⟩
theorem RM_tp {σ' : MS} {T : Nat → Nat} {t : Nat} (h : RM σ S) (e1 : ∀ k, k ≠ 13 → mf σ' k = mf σ k) (e2 : ∀ j, j ≠ 12 → ma σ' j = ma σ j) (h13 : mf σ' 13 = i3 t) (h12 : ∀ k, k < 700 → ma σ' 12 k = i3 (T k)) : RM σ' (wTP S T t) := by
  obtain ⟨h1, h2, h3, h4, h5, h6, h7, h8⟩ := h
  refine ⟨ME_of h1 (fun k _ _ => e1 k (by omega)) (fun j _ _ => e2 j (by omega)) (by rw [e2 49 (by decide)]), ?_, ?_, ?_, ?_, ⟨h13, h12⟩, ?_, ?_⟩
  · rw [e2 44 (by decide)]; exact h2
  · unfold AM at h3 ⊢
    rw [e1 46 (by decide), e2 45 (by decide)]
    exact h3
  · unfold HM at h4 ⊢
    rw [e1 51 (by decide), e2 52 (by decide)]
    exact h4
  · unfold IM AM HM at h5 ⊢
    rw [e1 56 (by decide), e1 57 (by decide), e1 58 (by decide), e2 59 (by decide), e2 60 (by decide), e2 61 (by decide)]
    exact h5
  · rw [e1 15 (by decide)]
    exact h7
  · rw [e2 16 (by decide)]
    exact h8
theorem op_feed (hS : RS K o (h, r) σ (N + 1)) (a0 a1 a2 a3 a4 : Int32) : ∃ z v σ', C1_feed h o a0 a1 a2 a3 a4 = some z ∧ M_feed σ a0 a1 a2 a3 a4 = some (v, σ') ∧ JN K o r N false 0 (.inl (z.1, (z.2, r))) v σ' := by
  obtain ⟨S, ⟨f, B, sT, aT, hT, seed, ea, eh, hp⟩, hM, hr1, hr2⟩ := hS
  dsimp only at hp hr1 hr2
  have hZ := RCp_Z hp
  have hM1 : RM (sf σ 0 0) S := RM_gx hZ (Gx_sf (.inl rfl)) hM
  have h0 : mf (sf σ 0 0) 0 = 0 := mf_sf0
  unfold C1_feed M_feed
  rw [show pf σ 0 0 = some (sf σ 0 0) from rfl, Option.bind_some]
  generalize sf σ 0 0 = s1 at hM1 h0
  obtain ⟨hzT, hzt⟩ := hZ.2.2.2.2.2
  obtain ⟨m13, m12⟩ := hM1.2.2.2.2.2.1
  have ho := (RC_o hp).2.1
  obtain ⟨gt, htp, htp2⟩ := hp.2.2.1.1
  rw [gI_of ho (k := 5) rfl, Option.bind_some, m13, show i3 (zt S) + 20 = i3 (zt S + 20) from i3_add _ 20]
  by_cases e0 : zt S + 20 ≤ 700
  · rw [if_pos ((i3_lel (c := 700) (n := 700) rfl (by omega) (by decide)).mpr e0), if_pos ((i3_lel (c := 700) (n := 700) rfl (by omega) (by decide)).mpr e0)]
    obtain ⟨h1, g', q1, rfl, q3⟩ := C1_feedL_eq a0 a1 a2 a3 a4 ho rfl rfl htp e0
    have hT2 : ∀ k, (fun i => if zt S ≤ i ∧ i < zt S + 20 then byt (ar5 a0 a1 a2 a3 a4 ((i - zt S) / 4)) ((i - zt S) % 4) else zT S i) k < 256 := by
      intro k
      dsimp only
      split
      · exact lo8_lt _
      · exact hzT k
    have hp1 := RC_tp (g := g') (T := fun i => if zt S ≤ i ∧ i < zt S + 20 then byt (ar5 a0 a1 a2 a3 a4 ((i - zt S) / 4)) ((i - zt S) % 4) else zT S i) hp (fun k hk => by
      rw [q3 k]
      by_cases e : zt S ≤ k ∧ k < zt S + 20
      · rw [if_pos e, if_pos e]
      · rw [if_neg e, if_neg e]; exact htp2 k hk) hT2
    have hp2 := RC_nm (t := zt S + 20) (x := zF S) (seed' := seed) hp1 e0
    have ho1 := (RC_o hp1).2.1
    have ho2 := (RC_o hp2).2.1
    rw [q1, Option.bind_some, gI_of ho1 (k := 5) rfl, Option.bind_some, show i3 (zt (wTP S (fun i => if zt S ≤ i ∧ i < zt S + 20 then byt (ar5 a0 a1 a2 a3 a4 ((i - zt S) / 4)) ((i - zt S) % 4) else zT S i) (zt S))) + 20 = i3 (zt S + 20) from i3_add _ 20, pI_of ho1 (show 5 < 14 by decide), Option.bind_some]
    rw [gI_of (show hup _ o (Sum.inr (1, List.set _ 5 (.int (i3 (zt S + 20))))) o = _ from ho2) (k := 5) rfl, Option.bind_some]
    obtain ⟨s2, b1, b2, b3, b4, b5⟩ := M_lays_eq (m := zt S) a0 m13 (by omega)
    obtain ⟨s3, c1, c2, c3, c4, c5⟩ := M_lays_eq (m := zt S + 4) a1 b2 (by omega)
    obtain ⟨s4, d1, d2, d3, d4, d5⟩ := M_lays_eq (m := zt S + 4 + 4) a2 c2 (by omega)
    obtain ⟨s5, x1, x2, x3, x4, x5⟩ := M_lays_eq (m := zt S + 4 + 4 + 4) a3 d2 (by omega)
    obtain ⟨s6, y1, y2, y3, y4, y5⟩ := M_lays_eq (m := zt S + 4 + 4 + 4 + 4) a4 x2 (by omega)
    rw [b1, Option.bind_some, c1, Option.bind_some, d1, Option.bind_some, x1, Option.bind_some, y1, Option.bind_some, y2]
    have hRM : RM s6 (wTP S (fun i => if zt S ≤ i ∧ i < zt S + 20 then byt (ar5 a0 a1 a2 a3 a4 ((i - zt S) / 4)) ((i - zt S) % 4) else zT S i) (zt S + 20)) := by
      refine RM_tp hM1 (fun k hk => by rw [y3 k hk, x3 k hk, d3 k hk, c3 k hk, b3 k hk]) (fun j hj => by rw [y4 j hj, x4 j hj, d4 j hj, c4 j hj, b4 j hj]) y2 (fun k hk => ?_)
      rw [y5, x5, d5, c5, b5]
      unfold ar5
      by_cases z0 : zt S ≤ k ∧ k < zt S + 20
      · rw [if_pos z0]
        by_cases z4 : zt S + 16 ≤ k
        · rw [if_pos (by omega), show (k - zt S) / 4 = 4 by omega, show k - (zt S + 4 + 4 + 4 + 4) = (k - zt S) % 4 by omega]
          rfl
        · rw [if_neg (by omega)]
          by_cases z3 : zt S + 12 ≤ k
          · rw [if_pos (by omega), show (k - zt S) / 4 = 3 by omega, show k - (zt S + 4 + 4 + 4) = (k - zt S) % 4 by omega]
            rfl
          · rw [if_neg (by omega)]
            by_cases z2 : zt S + 8 ≤ k
            · rw [if_pos (by omega), show (k - zt S) / 4 = 2 by omega, show k - (zt S + 4 + 4) = (k - zt S) % 4 by omega]
              rfl
            · rw [if_neg (by omega)]
              by_cases z1 : zt S + 4 ≤ k
              · rw [if_pos (by omega), show (k - zt S) / 4 = 1 by omega, show k - (zt S + 4) = (k - zt S) % 4 by omega]
                rfl
              · rw [if_neg (by omega), if_pos (by omega), show (k - zt S) / 4 = 0 by omega, show k - zt S = (k - zt S) % 4 by omega]
                rw [show (k - zt S) % 4 % 4 = (k - zt S) % 4 by omega]
                rfl
      · rw [if_neg z0, if_neg (by omega), if_neg (by omega), if_neg (by omega), if_neg (by omega), if_neg (by omega)]
        exact m12 k hk
    exact ⟨_, _, _, rfl, rfl, JN_in ⟨f, B, sT, aT, hT, seed, ea, eh, hp2⟩ hRM (by rw [y3 0 (by decide), x3 0 (by decide), d3 0 (by decide), c3 0 (by decide), b3 0 (by decide)]; exact h0) (show 2300 * N + 100 * (zt S + 20) ≤ r.2.1 by omega) (show 90000 * N + 3000 * (zt S + 20) ≤ r.2.2 by omega) (Nat.le_refl _) (Nat.le_refl _)⟩
  · rw [if_neg (fun x => e0 ((i3_lel (c := 700) (n := 700) rfl (by omega) (by decide)).mp x)), if_neg (fun x => e0 ((i3_lel (c := 700) (n := 700) rfl (by omega) (by decide)).mp x))]
    exact ⟨_, _, _, rfl, rfl, JN_same hp hM1 h0 hr1 hr2⟩
end FEED
