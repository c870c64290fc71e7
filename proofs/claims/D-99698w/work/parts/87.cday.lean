/-! ===== the component: what is written into a service, a day goes by ===== -/
section CDAY
variable {K : Nat → Nat} {h : CH} {o off vs : Nat} {f : CH} {P : PO} {s : Nat} {A : Nat → Nat} {w : SV}
theorem csv_of {h' : CH} {w' : SV} (h1 : CSV K h o off vs f P s A w) (hx : hX (sX6 vs s A) h h') (hS : SX h' o P s A w') (hv : ∃ g, h' vs = some (.inl (0, 6, .inl g))) : CSV K h' o off vs f P s A w' := by
  obtain ⟨⟨c1, ⟨fs, c2, c3, c4⟩, c5, c6, c7⟩, _, e1, e2⟩ := h1
  have ho : ¬ o ∈ sX6 vs s A := (List.nodup_cons.mp e1).1
  exact ⟨⟨c1, ⟨fs, by rw [hx o ho]; exact c2, c3, c4⟩, hle_hX c5 hx e2, c6, hv⟩, hS, e1, e2⟩
theorem sep_ne (h1 : Sep f o vs s A) : (vs ≠ s ∧ vs ≠ A 0 ∧ vs ≠ A 1 ∧ vs ≠ A 2 ∧ vs ≠ A 3) ∧ (s ≠ A 0 ∧ s ≠ A 1 ∧ s ≠ A 2 ∧ s ≠ A 3) ∧ (A 0 ≠ A 1 ∧ A 0 ≠ A 2 ∧ A 0 ≠ A 3) ∧ (A 1 ≠ A 2 ∧ A 1 ≠ A 3) ∧ A 2 ≠ A 3 := by
  have h := h1.1
  simp only [List.nodup_cons, List.mem_cons, List.not_mem_nil, or_false, not_or, List.nodup_nil, and_true, not_false_eq_true] at h
  obtain ⟨_, h2, h3, h4, h5, h6⟩ := h
  exact ⟨h2, h3, h4, h5, h6⟩
theorem sx6_mem (vs s : Nat) (A : Nat → Nat) : vs ∈ sX6 vs s A ∧ s ∈ sX6 vs s A ∧ A 0 ∈ sX6 vs s A ∧ A 1 ∈ sX6 vs s A ∧ A 2 ∈ sX6 vs s A ∧ A 3 ∈ sX6 vs s A := by
  unfold sX6
  simp
theorem sx_L (h1 : CSV K h o off vs f P s A w) {k v : Nat} (hk : k < pN P) (hv : v < 256) : ∃ h', sI h (A 0) 0 (i3 k) (i3 v) = some h' ∧ CSV K h' o off vs f P s A (upn w (1 + k) v) ∧ hX (sX6 vs s A) h h' := by
  have hN := h1.1.1.1
  have hM := h1.1.1.2.1
  have hne := sep_ne h1.2.2
  have hmm := sx6_mem vs s A
  have hxv := h1.1.2.2.2.2
  obtain ⟨_, ⟨⟨gL, gE, gA, gK, ⟨a1, a2, a3, a4, a5⟩, b1, b2, b3, b4⟩, w1, w2, w3, w4, w5⟩, _⟩ := id h1
  refine ⟨_, sI_of a2 (show k < 9 by omega) (by decide), csv_of h1 (hX_hup (by simp only [hmm])) ⟨⟨upd gL k (i3 v), gE, gA, gK, ⟨?_, ?_, ?_, ?_, ?_⟩, fun q hq => ?_, fun q hq => ?_, fun q hq => ?_, fun q hq => ?_⟩, fun q hq => ?_, fun q hq => ?_, fun q hq => ?_, fun q hq => ?_, ?_⟩ ?_, hX_hup (by simp only [hmm])⟩
  · rw [hup_n (by simp [hne]), a1, show upn w (1 + k) v 0 = w 0 from if_neg (by omega)]
  · exact hup_s
  · rw [hup_n (by simp [hne, Ne.symm]), a3]
  · rw [hup_n (by simp [hne, Ne.symm]), a4]
  · rw [hup_n (by simp [hne, Ne.symm]), a5]
  · unfold upd upn
    by_cases e : q = k
    · rw [if_pos e, if_pos (by omega)]
    · rw [if_neg e, if_neg (by omega), b1 q hq]
  · rw [b2 q hq, show upn w (1 + k) v (10 + q) = w (10 + q) from if_neg (by omega)]
  · rw [b3 q hq, show upn w (1 + k) v (19 + q) = w (19 + q) from if_neg (by omega)]
  · rw [b4 q hq, show upn w (1 + k) v (28 + q) = w (28 + q) from if_neg (by omega)]
  · unfold upn
    split
    · exact hv
    · exact w1 q hq
  · rw [show upn w (1 + k) v (10 + q) = w (10 + q) from if_neg (by omega)]; exact w2 q hq
  · rw [show upn w (1 + k) v (19 + q) = w (19 + q) from if_neg (by omega)]; exact w3 q hq
  · rw [show upn w (1 + k) v (28 + q) = w (28 + q) from if_neg (by omega)]; exact w4 q hq
  · rw [show upn w (1 + k) v 0 = w 0 from if_neg (by omega)]; exact w5
  · obtain ⟨g, hg⟩ := hxv
    exact ⟨g, by rw [hup_n (by simp [hne])]; exact hg⟩
theorem sx_E (h1 : CSV K h o off vs f P s A w) {k v : Nat} (hk : k < pN P) (hv : v < 256) : ∃ h', sI h (A 1) 0 (i3 k) (i3 v) = some h' ∧ CSV K h' o off vs f P s A (upn w (10 + k) v) ∧ hX (sX6 vs s A) h h' := by
  have hN := h1.1.1.1
  have hM := h1.1.1.2.1
  have hne := sep_ne h1.2.2
  have hmm := sx6_mem vs s A
  have hxv := h1.1.2.2.2.2
  obtain ⟨_, ⟨⟨gL, gE, gA, gK, ⟨a1, a2, a3, a4, a5⟩, b1, b2, b3, b4⟩, w1, w2, w3, w4, w5⟩, _⟩ := id h1
  refine ⟨_, sI_of a3 (show k < 9 by omega) (by decide), csv_of h1 (hX_hup (by simp only [hmm])) ⟨⟨gL, upd gE k (i3 v), gA, gK, ⟨?_, ?_, ?_, ?_, ?_⟩, fun q hq => ?_, fun q hq => ?_, fun q hq => ?_, fun q hq => ?_⟩, fun q hq => ?_, fun q hq => ?_, fun q hq => ?_, fun q hq => ?_, ?_⟩ ?_, hX_hup (by simp only [hmm])⟩
  · rw [hup_n (by simp [hne]), a1, show upn w (10 + k) v 0 = w 0 from if_neg (by omega)]
  · rw [hup_n (by simp [hne, Ne.symm]), a2]
  · exact hup_s
  · rw [hup_n (by simp [hne, Ne.symm]), a4]
  · rw [hup_n (by simp [hne, Ne.symm]), a5]
  · rw [b1 q hq, show upn w (10 + k) v (1 + q) = w (1 + q) from if_neg (by omega)]
  · unfold upd upn
    by_cases e : q = k
    · rw [if_pos e, if_pos (by omega)]
    · rw [if_neg e, if_neg (by omega), b2 q hq]
  · rw [b3 q hq, show upn w (10 + k) v (19 + q) = w (19 + q) from if_neg (by omega)]
  · rw [b4 q hq, show upn w (10 + k) v (28 + q) = w (28 + q) from if_neg (by omega)]
  · rw [show upn w (10 + k) v (1 + q) = w (1 + q) from if_neg (by omega)]; exact w1 q hq
  · unfold upn
    split
    · exact hv
    · exact w2 q hq
  · rw [show upn w (10 + k) v (19 + q) = w (19 + q) from if_neg (by omega)]; exact w3 q hq
  · rw [show upn w (10 + k) v (28 + q) = w (28 + q) from if_neg (by omega)]; exact w4 q hq
  · rw [show upn w (10 + k) v 0 = w 0 from if_neg (by omega)]; exact w5
  · obtain ⟨g, hg⟩ := hxv
    exact ⟨g, by rw [hup_n (by simp [hne])]; exact hg⟩
theorem sx_A (h1 : CSV K h o off vs f P s A w) {k v : Nat} (hk : k < pN P) (hv : v < 4 ∨ (4 ≤ v ∧ v < 4 + pM P) ∨ v = 99) : ∃ h', sI h (A 2) 0 (i3 k) (atC v) = some h' ∧ CSV K h' o off vs f P s A (upn w (19 + k) v) ∧ hX (sX6 vs s A) h h' := by
  have hN := h1.1.1.1
  have hM := h1.1.1.2.1
  have hne := sep_ne h1.2.2
  have hmm := sx6_mem vs s A
  have hxv := h1.1.2.2.2.2
  obtain ⟨_, ⟨⟨gL, gE, gA, gK, ⟨a1, a2, a3, a4, a5⟩, b1, b2, b3, b4⟩, w1, w2, w3, w4, w5⟩, _⟩ := id h1
  refine ⟨_, sI_of a4 (show k < 9 by omega) (by decide), csv_of h1 (hX_hup (by simp only [hmm])) ⟨⟨gL, gE, upd gA k (atC v), gK, ⟨?_, ?_, ?_, ?_, ?_⟩, fun q hq => ?_, fun q hq => ?_, fun q hq => ?_, fun q hq => ?_⟩, fun q hq => ?_, fun q hq => ?_, fun q hq => ?_, fun q hq => ?_, ?_⟩ ?_, hX_hup (by simp only [hmm])⟩
  · rw [hup_n (by simp [hne]), a1, show upn w (19 + k) v 0 = w 0 from if_neg (by omega)]
  · rw [hup_n (by simp [hne, Ne.symm]), a2]
  · rw [hup_n (by simp [hne, Ne.symm]), a3]
  · exact hup_s
  · rw [hup_n (by simp [hne, Ne.symm]), a5]
  · rw [b1 q hq, show upn w (19 + k) v (1 + q) = w (1 + q) from if_neg (by omega)]
  · rw [b2 q hq, show upn w (19 + k) v (10 + q) = w (10 + q) from if_neg (by omega)]
  · unfold upd upn
    by_cases e : q = k
    · rw [if_pos e, if_pos (by omega)]
    · rw [if_neg e, if_neg (by omega), b3 q hq]
  · rw [b4 q hq, show upn w (19 + k) v (28 + q) = w (28 + q) from if_neg (by omega)]
  · rw [show upn w (19 + k) v (1 + q) = w (1 + q) from if_neg (by omega)]; exact w1 q hq
  · rw [show upn w (19 + k) v (10 + q) = w (10 + q) from if_neg (by omega)]; exact w2 q hq
  · unfold upn
    split
    · exact hv
    · exact w3 q hq
  · rw [show upn w (19 + k) v (28 + q) = w (28 + q) from if_neg (by omega)]; exact w4 q hq
  · rw [show upn w (19 + k) v 0 = w 0 from if_neg (by omega)]; exact w5
  · obtain ⟨g, hg⟩ := hxv
    exact ⟨g, by rw [hup_n (by simp [hne])]; exact hg⟩
theorem sx_K (h1 : CSV K h o off vs f P s A w) {k v : Nat} (hk : k < pM P) (hv : v < 2 ^ 12) : ∃ h', sI h (A 3) 0 (i3 k) (i3 v) = some h' ∧ CSV K h' o off vs f P s A (upn w (28 + k) v) ∧ hX (sX6 vs s A) h h' := by
  have hN := h1.1.1.1
  have hM := h1.1.1.2.1
  have hne := sep_ne h1.2.2
  have hmm := sx6_mem vs s A
  have hxv := h1.1.2.2.2.2
  obtain ⟨_, ⟨⟨gL, gE, gA, gK, ⟨a1, a2, a3, a4, a5⟩, b1, b2, b3, b4⟩, w1, w2, w3, w4, w5⟩, _⟩ := id h1
  refine ⟨_, sI_of a5 (show k < 6 by omega) (by decide), csv_of h1 (hX_hup (by simp only [hmm])) ⟨⟨gL, gE, gA, upd gK k (i3 v), ⟨?_, ?_, ?_, ?_, ?_⟩, fun q hq => ?_, fun q hq => ?_, fun q hq => ?_, fun q hq => ?_⟩, fun q hq => ?_, fun q hq => ?_, fun q hq => ?_, fun q hq => ?_, ?_⟩ ?_, hX_hup (by simp only [hmm])⟩
  · rw [hup_n (by simp [hne]), a1, show upn w (28 + k) v 0 = w 0 from if_neg (by omega)]
  · rw [hup_n (by simp [hne, Ne.symm]), a2]
  · rw [hup_n (by simp [hne, Ne.symm]), a3]
  · rw [hup_n (by simp [hne, Ne.symm]), a4]
  · exact hup_s
  · rw [b1 q hq, show upn w (28 + k) v (1 + q) = w (1 + q) from if_neg (by omega)]
  · rw [b2 q hq, show upn w (28 + k) v (10 + q) = w (10 + q) from if_neg (by omega)]
  · rw [b3 q hq, show upn w (28 + k) v (19 + q) = w (19 + q) from if_neg (by omega)]
  · unfold upd upn
    by_cases e : q = k
    · rw [if_pos e, if_pos (by omega)]
    · rw [if_neg e, if_neg (by omega), b4 q hq]
  · rw [show upn w (28 + k) v (1 + q) = w (1 + q) from if_neg (by omega)]; exact w1 q hq
  · rw [show upn w (28 + k) v (10 + q) = w (10 + q) from if_neg (by omega)]; exact w2 q hq
  · rw [show upn w (28 + k) v (19 + q) = w (19 + q) from if_neg (by omega)]; exact w3 q hq
  · unfold upn
    split
    · exact hv
    · exact w4 q hq
  · rw [show upn w (28 + k) v 0 = w 0 from if_neg (by omega)]; exact w5
  · obtain ⟨g, hg⟩ := hxv
    exact ⟨g, by rw [hup_n (by simp [hne])]; exact hg⟩
theorem sx_d (h1 : CSV K h o off vs f P s A w) {v : Nat} (hv : v < 2 ^ 20) : ∃ h', pI h s 3 4 (i3 v) = some h' ∧ CSV K h' o off vs f P s A (upn w 0 v) ∧ hX (sX6 vs s A) h h' := by
  have hne := sep_ne h1.2.2
  have hmm := sx6_mem vs s A
  have hxv := h1.1.2.2.2.2
  have hw := sv_w h1
  have hN := h1.1.1.1
  have hM := h1.1.1.2.1
  obtain ⟨_, ⟨⟨gL, gE, gA, gK, ⟨a1, a2, a3, a4, a5⟩, b1, b2, b3, b4⟩, w1, w2, w3, w4, w5⟩, _⟩ := id h1
  refine ⟨_, pI_of a1 (show 4 < 6 by decide), csv_of h1 (hX_hup (by simp only [hmm])) ⟨⟨gL, gE, gA, gK, ⟨?_, ?_, ?_, ?_, ?_⟩, fun q hq => ?_, fun q hq => ?_, fun q hq => ?_, fun q hq => ?_⟩, wfs_up0 hw hv⟩ ?_, hX_hup (by simp only [hmm])⟩
  · rw [hup_s]; rfl
  · rw [hup_n (by simp [hne, Ne.symm]), a2]
  · rw [hup_n (by simp [hne, Ne.symm]), a3]
  · rw [hup_n (by simp [hne, Ne.symm]), a4]
  · rw [hup_n (by simp [hne, Ne.symm]), a5]
  · rw [b1 q hq, show upn w 0 v (1 + q) = w (1 + q) from if_neg (by omega)]
  · rw [b2 q hq, show upn w 0 v (10 + q) = w (10 + q) from if_neg (by omega)]
  · rw [b3 q hq, show upn w 0 v (19 + q) = w (19 + q) from if_neg (by omega)]
  · rw [b4 q hq, show upn w 0 v (28 + q) = w (28 + q) from if_neg (by omega)]
  · obtain ⟨g, hg⟩ := hxv
    exact ⟨g, by rw [hup_n (by simp [hne])]; exact hg⟩
theorem vs_set (h1 : CSV K h o off vs f P s A w) {g : Nat → Int32} (hg : h vs = some (.inl (0, 6, .inl g))) {i : Nat} (hi : i < 6) (x : Int32) : ∃ h', sI h vs 0 (i3 i) x = some h' ∧ CSV K h' o off vs f P s A w ∧ h' vs = some (.inl (0, 6, .inl (upd g i x))) ∧ hX (sX6 vs s A) h h' := by
  have hne := sep_ne h1.2.2
  have hmm := sx6_mem vs s A
  obtain ⟨_, ⟨⟨gL, gE, gA, gK, ⟨a1, a2, a3, a4, a5⟩, b1, b2, b3, b4⟩, hw⟩, _⟩ := id h1
  refine ⟨_, sI_of hg hi (by decide), csv_of h1 (hX_hup hmm.1) ⟨⟨gL, gE, gA, gK, ⟨?_, ?_, ?_, ?_, ?_⟩, b1, b2, b3, b4⟩, hw⟩ ⟨_, hup_s⟩, hup_s, hX_hup hmm.1⟩
  · rw [hup_n (by simp [hne, Ne.symm]), a1]
  · rw [hup_n (by simp [hne, Ne.symm]), a2]
  · rw [hup_n (by simp [hne, Ne.symm]), a3]
  · rw [hup_n (by simp [hne, Ne.symm]), a4]
  · rw [hup_n (by simp [hne, Ne.symm]), a5]
theorem C3_learn_eq (h1 : CSV K h o off vs f P s A w) {u v : Nat} (hu : u < 2 ^ 31) (hv : v < 2 ^ 12) : ∃ h', C3_learn h s (i3 u) (i3 v) = some h' ∧ CSV K h' o off vs f P s A (lrn P w u v) ∧ hX (sX6 vs s A) h h' := by
  have hM := h1.1.1.2.1
  unfold C3_learn
  refine o_inv0 (fun k t => t.1 = i3 k ∧ CSV K t.2 o off vs f P s A (lrk w u v k) ∧ hX (sX6 vs s A) h t.2) (fun r => CSV K r o off vs f P s A (lrn P w u v) ∧ hX (sX6 vs s A) h r) (pM P) (fun k t hk hI => ?_) (fun t hI => ?_) _ ⟨rfl, by rw [lrk_0]; exact h1, hX_refl _ h⟩
  · obtain ⟨t1, t2⟩ := t
    obtain ⟨rfl, hV, hx⟩ := hI
    dsimp only at hV hx
    unfold C3_learn_L2
    dsimp only
    rw [sv_o hV, Option.bind_some, cx_1 hV.1, Option.bind_some, cx_vo hV.1, cx_m hV.1, Option.bind_some, if_pos ((i3_lt (by omega) (by omega)).mpr hk), C1_isOf_eq hu (by omega), Option.bind_some, i3_succ]
    cases e : u.testBit k
    · rw [if_pos (by decide), Option.bind_some]
      exact ⟨_, rfl, rfl, by rw [lrk_f e]; exact hV, hx⟩
    · rw [if_neg (by decide), sv_3 hV, Option.bind_some, sv_K hV hk, Option.bind_some, lrk_k, i3_or]
      have hw4 := (sv_w h1).2.2.2.1 k hk
      obtain ⟨h2, e2, v2, x2⟩ := sx_K hV hk (Nat.or_lt_two_pow hw4 hv)
      rw [e2, Option.bind_some, Option.bind_some]
      exact ⟨_, rfl, rfl, by rw [← lrk_t e]; exact v2, hX_trans hx x2⟩
  · obtain ⟨t1, t2⟩ := t
    obtain ⟨rfl, hV, hx⟩ := hI
    dsimp only at hV hx
    unfold C3_learn_L2
    dsimp only
    rw [sv_o hV, Option.bind_some, cx_1 hV.1, Option.bind_some, cx_vo hV.1, cx_m hV.1, Option.bind_some, if_neg (fun x => absurd ((i3_lt (by omega) (by omega)).mp x) (by omega))]
    exact ⟨_, rfl, hV, hx⟩
theorem cx_f (hX : CX K h o off vs f P) : ∃ ly mo, gQ h off 2 4 = some ly ∧ gQ h off 2 5 = some mo ∧ FOR K f ly (pY P) cvL ∧ FOR K f mo (pZ P) cvM := by
  obtain ⟨_, _, hl, ⟨wl, rl, ly, mo, fw, fr, h1, h2, h3, h4, h5⟩, _⟩ := hX
  exact ⟨ly, mo, gQ_of (hl _ _ h1) rfl, gQ_of (hl _ _ h1) rfl, h4, h5⟩

theorem C3_lays_eq (h1 : CSV K h o off vs f P s A w) {t : Nat} (ht : t < 4) : ∃ h', C3_lays K h s (i3 t) (i3 (clI P w t)) = some (bI (lys P w t), h') ∧ CSV K h' o off vs f P s A w ∧ hX (sX6 vs s A) h h' := by
  have hN := h1.1.1.1
  have hM := h1.1.1.2.1
  have hs := p2 (b := 12) (shI_lt P w t) (by omega)
  have hc := p2 (b := 12) (clI_lt P w t) (by omega)
  have hk := knw_lt (sv_w h1) (clI P w t)
  obtain ⟨ly, mo, l1, l2, l3, l4⟩ := cx_f h1.1
  unfold C3_lays lys
  rw [sv_o h1, Option.bind_some, cx_1 h1.1, Option.bind_some, l1, Option.bind_some]
  cases e : pY P with
  | none =>
    rw [e] at l3
    have l3 : ly = none := l3
    subst l3
    exact ⟨_, rfl, h1, hX_refl _ h⟩
  | some E =>
    rw [e] at l3
    obtain ⟨r, rfl, l3⟩ := l3
    obtain ⟨g0, hg0⟩ := h1.1.2.2.2.2
    dsimp only [Option.elim]
    rw [Option.bind_some, cx_0 h1.1, Option.bind_some]
    obtain ⟨h2, e2, v2, g2, x2⟩ := vs_set h1 hg0 (i := 0) (by decide) (i3 t)
    rw [show sI h vs 0 0 (i3 t) = some h2 from e2, Option.bind_some, sv_o v2, Option.bind_some, cx_0 v2.1, Option.bind_some, sv_vc v2, C3_sheetsIn_eq v2 (by omega), Option.bind_some, bitCount_eq hs, Option.bind_some]
    obtain ⟨h3, e3, v3, g3, x3⟩ := vs_set v2 g2 (i := 1) (by decide) (i3 (pc (shI P w t)))
    rw [show sI h2 vs 0 1 _ = some h3 from e3, Option.bind_some, sv_o v3, Option.bind_some, cx_0 v3.1, Option.bind_some, bitCount_eq hc, Option.bind_some]
    obtain ⟨h4, e4, v4, g4, x4⟩ := vs_set v3 g3 (i := 2) (by decide) (i3 (pc (clI P w t)))
    rw [show sI h3 vs 0 2 _ = some h4 from e4, Option.bind_some, sv_o v4, Option.bind_some, cx_0 v4.1, Option.bind_some, sv_vc v4, C3_known_eq v4 (by omega), Option.bind_some, bitCount_eq hk, Option.bind_some]
    obtain ⟨h5, e5, v5, g5, x5⟩ := vs_set v4 g4 (i := 3) (by decide) (i3 (pc (knw P w (clI P w t))))
    rw [show sI h4 vs 0 3 _ = some h5 from e5, Option.bind_some, sv_o v5, Option.bind_some, cx_0 v5.1, Option.bind_some, sv_d v5, Option.bind_some]
    obtain ⟨h6, e6, v6, g6, x6⟩ := vs_set v5 g5 (i := 4) (by decide) (i3 (w 0))
    obtain ⟨ly2, mo2, m1, m2, m3, m4⟩ := cx_f v6.1
    have hly : ly2 = some r := by
      have a1 := (cx_1 v6.1)
      obtain ⟨_, _, hl, ⟨wl, rl, ly', mo', fw, fr, z1, _⟩, _⟩ := h1.1
      have b1 := gQ_of (k := 4) (hl _ _ z1) rfl
      have b2 := gQ_of (k := 4) (v6.1.2.2.1 _ _ z1) rfl
      rw [b1] at l1
      rw [b2] at m1
      rw [← Option.some.inj m1]
      exact Option.some.inj l1
    rw [show sI h5 vs 0 4 _ = some h6 from e6, Option.bind_some, sv_o v6, Option.bind_some, cx_1 v6.1, Option.bind_some, m1, Option.bind_some, Option.bind_some, cx_0 v6.1, Option.bind_some, hly, Option.bind_some, l3 h6 vs _ v6.1.2.2.1 g6, Option.bind_some]
    have ec : cvL (upd (upd (upd (upd (upd g0 0 (i3 t)) 1 (i3 (pc (shI P w t)))) 2 (i3 (pc (clI P w t)))) 3 (i3 (pc (knw P w (clI P w t))))) 4 (i3 (w 0))) = evL (i3 t) (i3 (pc (shI P w t))) (i3 (pc (clI P w t))) (i3 (pc (knw P w (clI P w t)))) (i3 (w 0)) := by
      unfold cvL
      simp [upd]
    rw [ec]
    have hxx := hX_trans (hX_trans (hX_trans (hX_trans x2 x3) x4) x5) x6
    split
    · next hle => exact ⟨h6, by rw [decide_eq_true hle]; rfl, v6, hxx⟩
    · next hle => exact ⟨h6, by rw [decide_eq_false hle]; rfl, v6, hxx⟩
theorem C3_grow_eq (h1 : CSV K h o off vs f P s A w) {k : Nat} (hk : k < pN P) : ∃ h', C3_grow K h s (i3 k) = some h' ∧ CSV K h' o off vs f P s A (grw P k w) ∧ hX (sX6 vs s A) h h' := by
  have hN := h1.1.1.1
  have hM := h1.1.1.2.1
  have h9 := wfs_19 (sv_w h1) h1.1.1 hk
  unfold C3_grow
  rw [sv_vc h1, C3_isBurnt_eq h1 hk, Option.bind_some]
  cases hb : bnt w k
  · rw [if_pos (by decide)]
    have hnb : ¬ w (19 + k) = 99 := of_decide_eq_false hb
    obtain ⟨ly, mo, l1, l2, l3, l4⟩ := cx_f h1.1
    rw [sv_o h1, Option.bind_some, cx_1 h1.1, Option.bind_some, l2, Option.bind_some]
    unfold grw
    cases e : pZ P with
    | none =>
      rw [e] at l4
      have l4 : mo = none := l4
      subst l4
      exact ⟨_, rfl, h1, hX_refl _ h⟩
    | some E =>
      rw [e] at l4
      obtain ⟨r, rfl, l4⟩ := l4
      obtain ⟨g0, hg0⟩ := h1.1.2.2.2.2
      dsimp only [Option.elim]
      rw [Option.bind_some, cx_0 h1.1, Option.bind_some, sv_0 h1, Option.bind_some, sv_L h1 hk, Option.bind_some]
      obtain ⟨h2, e2, v2, g2, x2⟩ := vs_set h1 hg0 (i := 0) (by decide) (i3 (w (1 + k)))
      rw [show sI h vs 0 0 _ = some h2 from e2, Option.bind_some, sv_o v2, Option.bind_some, cx_0 v2.1, Option.bind_some, sv_1 v2, Option.bind_some, sv_E v2 hk, Option.bind_some]
      obtain ⟨h3, e3, v3, g3, x3⟩ := vs_set v2 g2 (i := 1) (by decide) (i3 (w (10 + k)))
      rw [show sI h2 vs 0 1 _ = some h3 from e3, Option.bind_some, sv_o v3, Option.bind_some, cx_0 v3.1, Option.bind_some]
      obtain ⟨h4, e4, v4, g4, x4⟩ := vs_set v3 g3 (i := 2) (by decide) (i3 k)
      rw [show sI h3 vs 0 2 _ = some h4 from e4, Option.bind_some, sv_o v4, Option.bind_some, cx_0 v4.1, Option.bind_some, sv_vc v4, C3_where_eq v4 hk, Option.bind_some]
      obtain ⟨h5, e5, v5, g5, x5⟩ := vs_set v4 g4 (i := 3) (by decide) (wI (whr P w k))
      have eb : (if wI (brr w k) = -1 then some 0 else some 1 : Option Int32) = some (bI (decide (4 ≤ w (19 + k)))) := by
        by_cases e4 : 4 ≤ w (19 + k)
        · rw [brr_is e4 hnb, if_neg (fun x => absurd ((wI_m (v := w (19 + k) - 4) (by omega)).mp x) (by omega)), decide_eq_true e4]; rfl
        · rw [brr_no (.inl (by omega)), if_pos (by decide), decide_eq_false e4]; rfl
      rw [show sI h4 vs 0 3 _ = some h5 from e5, Option.bind_some, sv_o v5, Option.bind_some, cx_0 v5.1, Option.bind_some, sv_vc v5, C3_bearer_eq v5 hk, Option.bind_some, eb, Option.bind_some]
      obtain ⟨h6, e6, v6, g6, x6⟩ := vs_set v5 g5 (i := 4) (by decide) (bI (decide (4 ≤ w (19 + k))))
      rw [show sI h5 vs 0 4 _ = some h6 from e6, Option.bind_some, sv_o v6, Option.bind_some, cx_0 v6.1, Option.bind_some, sv_d v6, Option.bind_some]
      obtain ⟨h7, e7, v7, g7, x7⟩ := vs_set v6 g6 (i := 5) (by decide) (i3 (w 0))
      obtain ⟨ly2, mo2, m1, m2, m3, m4⟩ := cx_f v7.1
      have hmo : mo2 = some r := by
        obtain ⟨_, _, hl, ⟨wl, rl, ly', mo', fw, fr, z1, _⟩, _⟩ := h1.1
        have b1 := gQ_of (k := 5) (hl _ _ z1) rfl
        have b2 := gQ_of (k := 5) (v7.1.2.2.1 _ _ z1) rfl
        rw [b1] at l2
        rw [b2] at m2
        rw [← Option.some.inj m2]
        exact Option.some.inj l2
      rw [show sI h6 vs 0 5 _ = some h7 from e7, Option.bind_some, sv_o v7, Option.bind_some, cx_1 v7.1, Option.bind_some, m2, Option.bind_some, Option.bind_some, cx_0 v7.1, Option.bind_some, hmo, Option.bind_some, l4 h7 vs _ v7.1.2.2.1 g7, Option.bind_some]
      have ec : cvM (upd (upd (upd (upd (upd (upd g0 0 (i3 (w (1 + k)))) 1 (i3 (w (10 + k)))) 2 (i3 k)) 3 (wI (whr P w k))) 4 (bI (decide (4 ≤ w (19 + k))))) 5 (i3 (w 0))) = grV P w k := by
        unfold cvM grV
        simp [upd]
      rw [ec]
      have hxx := hX_trans (hX_trans (hX_trans (hX_trans (hX_trans x2 x3) x4) x5) x6) x7
      rw [if_neg (show ¬ bnt w k = true by rw [hb]; decide)]
      split
      · exact ⟨h7, rfl, v7, hxx⟩
      · next hle =>
        rw [sv_1 v7, Option.bind_some, sv_E v7 hk, Option.bind_some, stp_eq hle, i3_xor]
        obtain ⟨h8, e8, v8, x8⟩ := sx_E v7 hk (xor_lt ((sv_w h1).2.1 k hk) (stp_lt (E (grV P w k))))
        rw [e8, Option.bind_some]
        exact ⟨h8, rfl, v8, hX_trans hxx x8⟩
  · rw [if_neg (by decide), grw_bnt hb]
    exact ⟨h, rfl, h1, hX_refl _ h⟩
theorem C3_pass_eq (h1 : CSV K h o off vs f P s A w) (hd : w 0 + 1 < 2 ^ 20) : ∃ h', C3_pass K h s = some (s, h') ∧ CSV K h' o off vs f P s A (pas P w) ∧ hX (sX6 vs s A) h h' := by
  have hN := h1.1.1.1
  have hM := h1.1.1.2.1
  unfold C3_pass
  obtain ⟨r3, e3, v3, x3⟩ : ∃ r, o_loop (C3_pass_L2 K s) (0, h) = some r ∧ CSV K r o off vs f P s A (itf (ps1 P) 4 w) ∧ hX (sX6 vs s A) h r := by
    refine o_inv0 (fun k t => t.1 = i3 k ∧ CSV K t.2 o off vs f P s A (itf (ps1 P) k w) ∧ hX (sX6 vs s A) h t.2) (fun r => CSV K r o off vs f P s A (itf (ps1 P) 4 w) ∧ hX (sX6 vs s A) h r) 4 (fun k t hk hI => ?_) (fun t hI => ?_) _ ⟨rfl, h1, hX_refl _ h⟩
    · obtain ⟨t1, t2⟩ := t
      obtain ⟨rfl, hV, hx⟩ := hI
      dsimp only at hV hx
      unfold C3_pass_L2
      dsimp only
      rw [if_pos ((i3_ltl (c := 4) (n := 4) rfl (by omega) (by decide)).mpr hk), sv_vc hV, C3_clerksIn_eq hV (by omega), Option.bind_some, i3_succ]
      show ∃ t' : Int32 × CH, _ ∧ t'.1 = _ ∧ CSV K t'.2 o off vs f P s A (ps1 P k (itf (ps1 P) k w)) ∧ hX (sX6 vs s A) h t'.2
      generalize itf (ps1 P) k w = u at hV
      have hc := p2 (b := 31) (clI_lt P u k) (by omega)
      unfold ps1
      by_cases e : clI P u k = 0
      · rw [if_pos ((i3_eq0 hc).mpr e), if_pos e, Option.bind_some]
        exact ⟨_, rfl, rfl, hV, hx⟩
      · rw [if_neg (fun x => e ((i3_eq0 hc).mp x)), if_neg e, sv_vc hV]
        obtain ⟨s1, e1, v1, x1⟩ := C3_lays_eq hV hk
        rw [e1, Option.bind_some]
        dsimp only
        cases hl : lys P u k
        · rw [if_pos (by decide), Option.bind_some, if_neg (by decide)]
          exact ⟨_, rfl, rfl, v1, hX_trans hx x1⟩
        · rw [if_neg (by decide), if_pos (by decide)]
          rw [sv_vc v1, C3_shows_eq v1 (by omega), Option.bind_some, sv_vc v1]
          obtain ⟨s2, e2, v2, x2⟩ := C3_learn_eq v1 hc (p2 (b := 12) (rdO_lt P u (shI P u k)) h1.1.1.2.2.1)
          unfold shw
          rw [e2, Option.bind_some, Option.bind_some]
          exact ⟨_, rfl, rfl, v2, hX_trans (hX_trans hx x1) x2⟩
    · obtain ⟨t1, t2⟩ := t
      obtain ⟨rfl, hV, hx⟩ := hI
      unfold C3_pass_L2
      dsimp only
      rw [if_neg (by decide)]
      exact ⟨_, rfl, hV, hx⟩
  rw [e3, Option.bind_some]
  obtain ⟨r6, e6, v6, x6⟩ : ∃ r, o_loop (C3_pass_L44 K s) (0, r3) = some r ∧ CSV K r o off vs f P s A (psG P w) ∧ hX (sX6 vs s A) h r := by
    refine o_inv0 (fun k t => t.1 = i3 k ∧ CSV K t.2 o off vs f P s A (itf (grw P) k (itf (ps1 P) 4 w)) ∧ hX (sX6 vs s A) h t.2) (fun r => CSV K r o off vs f P s A (psG P w) ∧ hX (sX6 vs s A) h r) (pN P) (fun k t hk hI => ?_) (fun t hI => ?_) _ ⟨rfl, v3, x3⟩
    · obtain ⟨t1, t2⟩ := t
      obtain ⟨rfl, hV, hx⟩ := hI
      dsimp only at hV hx
      unfold C3_pass_L44
      dsimp only
      rw [sv_o hV, Option.bind_some, cx_1 hV.1, Option.bind_some, cx_n hV.1, Option.bind_some, if_pos ((i3_lt (by omega) (by omega)).mpr hk), sv_vc hV, i3_succ]
      obtain ⟨s1, e1, v1, x1⟩ := C3_grow_eq hV hk
      rw [e1, Option.bind_some]
      exact ⟨_, rfl, rfl, v1, hX_trans hx x1⟩
    · obtain ⟨t1, t2⟩ := t
      obtain ⟨rfl, hV, hx⟩ := hI
      dsimp only at hV hx
      unfold C3_pass_L44
      dsimp only
      rw [sv_o hV, Option.bind_some, cx_1 hV.1, Option.bind_some, cx_n hV.1, Option.bind_some, if_neg (fun x => absurd ((i3_lt (by omega) (by omega)).mp x) (by omega))]
      exact ⟨_, rfl, hV, hx⟩
  rw [e6, Option.bind_some, sv_d v6, Option.bind_some, i3_succ]
  obtain ⟨h8, e8, v8, x8⟩ := sx_d v6 (v := psG P w 0 + 1) (by rw [psG_0]; exact hd)
  rw [e8, Option.bind_some]
  exact ⟨h8, rfl, v8, hX_trans x6 x8⟩
theorem C3_after_eq (h1 : CSV K h o off vs f P s A w) {n : Nat} (hn : n < 2 ^ 31) (hd : w 0 + n < 2 ^ 20) : ∃ h', C3_after K h s (i3 n) = some (s, h') ∧ CSV K h' o off vs f P s A (aft P n w) ∧ hX (sX6 vs s A) h h' := by
  unfold C3_after
  obtain ⟨r, e, hr, v, x⟩ : ∃ r : Nat × CH, o_loop (C3_after_L2 K s (i3 n)) (0, h) = some r ∧ r.1 = s ∧ CSV K r.2 o off vs f P s A (aft P n w) ∧ hX (sX6 vs s A) h r.2 := by
    refine o_inv0 (fun k (t : Int32 × CH) => t.1 = i3 k ∧ CSV K t.2 o off vs f P s A (aft P k w) ∧ hX (sX6 vs s A) h t.2) (fun (r : Nat × CH) => r.1 = s ∧ CSV K r.2 o off vs f P s A (aft P n w) ∧ hX (sX6 vs s A) h r.2) n (fun k t hk hI => ?_) (fun t hI => ?_) _ ⟨rfl, h1, hX_refl _ h⟩
    · obtain ⟨t1, t2⟩ := t
      obtain ⟨rfl, hV, hx⟩ := hI
      dsimp only at hV hx
      unfold C3_after_L2
      dsimp only
      rw [if_pos ((i3_lt (by omega) (by omega)).mpr hk), sv_vc hV, i3_succ]
      obtain ⟨s1, e1, v1, x1⟩ := C3_pass_eq hV (by rw [aft_0]; omega)
      rw [e1, Option.bind_some]
      exact ⟨_, rfl, rfl, v1, hX_trans hx x1⟩
    · obtain ⟨t1, t2⟩ := t
      obtain ⟨rfl, hV, hx⟩ := hI
      unfold C3_after_L2
      dsimp only
      rw [if_neg (fun x => absurd ((i3_lt (by omega) (by omega)).mp x) (by omega))]
      exact ⟨_, rfl, rfl, hV, hx⟩
  obtain ⟨r1, r2⟩ := r
  dsimp only at hr v x
  subst hr
  exact ⟨r2, e, v, x⟩
end CDAY
