/-! ===== the reference: first row (base 0), row that is tried (base 34) ===== -/
section M0
variable {σ : MS} {P : PO} {w : SV}
theorem m0_d (h : MV σ 0 P w) : ald σ 44 0 = some (i3 (w 0)) := ald_at (n := 0) rfl (by decide) h.2.2.1.1
theorem m0_1 (h : MV σ 0 P w) {k : Nat} (hk : k < pN P) : ald σ 44 (1 + i3 k) = some (i3 (w (1 + k))) :=
  ald_at (n := 1 + k) (i3_add 1 k) (show 1 + k < 68 by have := h.1.1; omega) (by have := h.2.2.1.2.1 k hk; rwa [Nat.zero_add] at this)
theorem m0_10 (h : MV σ 0 P w) {k : Nat} (hk : k < pN P) : ald σ 44 (10 + i3 k) = some (i3 (w (10 + k))) :=
  ald_at (n := 10 + k) (i3_add 10 k) (show 10 + k < 68 by have := h.1.1; omega) (by have := h.2.2.1.2.2.1 k hk; rwa [Nat.zero_add] at this)
theorem m0_19 (h : MV σ 0 P w) {k : Nat} (hk : k < pN P) : ald σ 44 (19 + i3 k) = some (atM (w (19 + k))) :=
  ald_at (n := 19 + k) (i3_add 19 k) (show 19 + k < 68 by have := h.1.1; omega) (by have := h.2.2.1.2.2.2.1 k hk; rwa [Nat.zero_add] at this)
theorem m0_28 (h : MV σ 0 P w) {c : Nat} (hc : c < pM P) : ald σ 44 (28 + i3 c) = some (i3 (w (28 + c))) :=
  ald_at (n := 28 + c) (i3_add 28 c) (show 28 + c < 68 by have := h.1.2.1; omega) (by have := h.2.2.1.2.2.2.2 c hc; rwa [Nat.zero_add] at this)
theorem m3_1 (h : MV σ 34 P w) {k : Nat} (hk : k < pN P) : ald σ 44 (35 + i3 k) = some (i3 (w (1 + k))) :=
  ald_at (n := 35 + k) (i3_add 35 k) (show 35 + k < 68 by have := h.1.1; omega) (h.2.2.1.2.1 k hk)
theorem m3_10 (h : MV σ 34 P w) {k : Nat} (hk : k < pN P) : ald σ 44 (44 + i3 k) = some (i3 (w (10 + k))) :=
  ald_at (n := 44 + k) (i3_add 44 k) (show 44 + k < 68 by have := h.1.1; omega) (h.2.2.1.2.2.1 k hk)
theorem m3_19 (h : MV σ 34 P w) {k : Nat} (hk : k < pN P) : ald σ 44 (53 + i3 k) = some (atM (w (19 + k))) :=
  ald_at (n := 53 + k) (i3_add 53 k) (show 53 + k < 68 by have := h.1.1; omega) (h.2.2.1.2.2.2.1 k hk)
theorem m3_28 (h : MV σ 34 P w) {c : Nat} (hc : c < pM P) : ald σ 44 (62 + i3 c) = some (i3 (w (28 + c))) :=
  ald_at (n := 62 + c) (i3_add 62 c) (show 62 + c < 68 by have := h.1.2.1; omega) (h.2.2.1.2.2.2.2 c hc)
theorem m0_burnt (h : MV σ 0 P w) {k : Nat} (hk : k < pN P) : M_isBurnt σ 0 (i3 k) = some (bI (bnt w k)) := M_isBurnt_eq (b := 0) h hk
theorem m0_in (h : MV σ 0 P w) {k : Nat} (hk : k < pN P) : M_sheetIn σ 0 (i3 k) = some (wI (whr P w k)) := M_sheetIn_eq (b := 0) h hk
theorem m0_off (h : MV σ 0 P w) {k j : Nat} (hk : k < pN P) (hj : j < pN P) : M_offBy σ 0 (i3 k) (i3 j) = some (i3 (far w k j)) := M_offBy_eq (b := 0) h hk hj
theorem m0_fit (h : MV σ 0 P w) {k j : Nat} (hk : k < pN P) (hj : j < pN P) : M_doesFit σ 0 (i3 k) (i3 j) = some (bI (fit P w k j)) := M_doesFit_eq (b := 0) h hk hj
theorem m0_clk (h : MV σ 0 P w) {c : Nat} (hc : c < pM P) : M_clerkIn σ 0 (i3 c) = some (i3 (tow P w c)) := M_clerkIn_eq (b := 0) h hc
theorem m0_clks (h : MV σ 0 P w) {t : Nat} (ht : t < 2 ^ 31) : M_clerksAt σ 0 (i3 t) = some (i3 (clI P w t)) := M_clerksAt_eq (b := 0) h ht
theorem m0_shts (h : MV σ 0 P w) {t : Nat} (ht : t < 4) : M_sheetsAt σ 0 (i3 t) = some (i3 (shI P w t)) := M_sheetsAt_eq (b := 0) h ht
theorem m0_shows (h : MV σ 0 P w) {t : Nat} (ht : t < 4) : M_showsIn σ 0 (i3 t) = some (i3 (shw P w t)) := M_showsIn_eq (b := 0) h ht
theorem m0_known (h : MV σ 0 P w) {s : Nat} (hs : s < 2 ^ 31) : M_knownBy σ 0 (i3 s) = some (i3 (knw P w s)) := M_knownBy_eq (b := 0) h hs
theorem m3_burnt (h : MV σ 34 P w) {k : Nat} (hk : k < pN P) : M_isBurnt σ 34 (i3 k) = some (bI (bnt w k)) := M_isBurnt_eq (b := 34) h hk
theorem m3_in (h : MV σ 34 P w) {k : Nat} (hk : k < pN P) : M_sheetIn σ 34 (i3 k) = some (wI (whr P w k)) := M_sheetIn_eq (b := 34) h hk
theorem m3_clk (h : MV σ 34 P w) {c : Nat} (hc : c < pM P) : M_clerkIn σ 34 (i3 c) = some (i3 (tow P w c)) := M_clerkIn_eq (b := 34) h hc
theorem m3_clks (h : MV σ 34 P w) {t : Nat} (ht : t < 2 ^ 31) : M_clerksAt σ 34 (i3 t) = some (i3 (clI P w t)) := M_clerksAt_eq (b := 34) h ht
theorem m3_shts (h : MV σ 34 P w) {t : Nat} (ht : t < 4) : M_sheetsAt σ 34 (i3 t) = some (i3 (shI P w t)) := M_sheetsAt_eq (b := 34) h ht
theorem m3_known (h : MV σ 34 P w) {s : Nat} (hs : s < 2 ^ 31) : M_knownBy σ 34 (i3 s) = some (i3 (knw P w s)) := M_knownBy_eq (b := 34) h hs
theorem m3_day (h : MV σ 34 P w) (hd : w 0 + 1 < 2 ^ 20) : ∃ σ', M_dayGoes σ 34 = some σ' ∧ Fx 34 σ σ' ∧ MV σ' 34 P (pas P w) := M_dayGoes_eq (b := 34) h (.inr rfl) hd
theorem m0_day (h : MV σ 0 P w) (hd : w 0 + 1 < 2 ^ 20) : ∃ σ', M_dayGoes σ 0 = some σ' ∧ Fx 0 σ σ' ∧ MV σ' 0 P (pas P w) := M_dayGoes_eq (b := 0) h (.inl rfl) hd
theorem m3_learns (h : MV σ 34 P w) {s v : Nat} (hs : s < 2 ^ 31) (hv : v < 2 ^ 12) : ∃ σ', M_learns σ 34 (i3 s) (i3 v) = some σ' ∧ Fx 34 σ σ' ∧ MV σ' 34 P (lrn P w s v) := by
  obtain ⟨σ', h1, h2, h3, _⟩ := M_learns_eq (b := 34) h (.inr rfl) hs hv
  exact ⟨σ', h1, h2, h3⟩
theorem pw2 {m : Nat} (hm : m < 31) : (1 : Int32) <<< (i3 m &&& 31) = i3 (2 ^ m) := i3_shl hm
theorem pw2_1 {m : Nat} (hm : m < 31) : (1 : Int32) <<< (i3 m &&& 31) - 1 = i3 (2 ^ m - 1) := by
  rw [i3_shl hm]
  exact i3_sub (b := 1) (Nat.one_le_two_pow)
/-- all that some know is all that the clerks know -/
theorem knw_all (P : PO) (w : SV) {s : Nat} (hs : ∀ c, c < pM P → s.testBit c = true) : knw P w s = orf (fun c => w (28 + c)) (pM P) := by
  apply orf_congr
  intro c hc
  rw [if_pos (hs c hc)]
theorem knw_63 {P : PO} {w : SV} (hP : WFP P) : knw P w 63 = orf (fun c => w (28 + c)) (pM P) := by
  apply knw_all
  intro c hc
  have h := hP.2.1
  have : ∀ c : Fin 6, (63 : Nat).testBit c.val = true := by decide
  exact this ⟨c, by omega⟩
theorem knw_ev {P : PO} {w : SV} : knw P w (2 ^ pM P - 1) = orf (fun c => w (28 + c)) (pM P) := by
  apply knw_all
  intro c hc
  rw [Nat.testBit_two_pow_sub_one]
  exact decide_eq_true hc
theorem M_everybody_eq (hE : ME σ P) (hP : WFP P) : M_everybody σ = some (i3 (2 ^ pM P - 1)) := by
  have hM := hP.2.1
  unfold M_everybody
  rw [hE.1.2.1, pw2_1 (by omega)]
theorem ev_lt (hP : WFP P) : 2 ^ pM P - 1 < 2 ^ 31 := by
  have hM := hP.2.1
  have : 2 ^ pM P ≤ 2 ^ 6 := Nat.pow_le_pow_right (by decide) hM
  omega
/-! trying -/
theorem MV_34 {σ' : MS} (hx : Fx 34 σ σ') (h : MV σ 0 P w) : MV σ' 0 P w := by
  obtain ⟨g1, g2, ⟨r1, r2, r3, r4, r5⟩, g4, g5⟩ := h
  have hN := g1.1
  have hM := g1.2.1
  refine ⟨g1, ME_fx hx g2, ⟨?_, fun k hk => ?_, fun k hk => ?_, fun k hk => ?_, fun c hc => ?_⟩, g4, g5⟩
  · rw [hx.2.2 rfl _ (by omega)]; exact r1
  · rw [hx.2.2 rfl _ (by omega)]; exact r2 k hk
  · rw [hx.2.2 rfl _ (by omega)]; exact r3 k hk
  · rw [hx.2.2 rfl _ (by omega)]; exact r4 k hk
  · rw [hx.2.2 rfl _ (by omega)]; exact r5 c hc
theorem M_tries_eq (h : MV σ 0 P w) : ∃ σ', M_tries σ = some σ' ∧ Fx 34 σ σ' ∧ MV σ' 34 P w := by
  have hN := h.1.1
  have hM := h.1.2.1
  unfold M_tries
  obtain ⟨r, e, hF, hc⟩ : ∃ r, o_loop M_tries_L2 (0, σ) = some r ∧ Fx 34 σ r ∧ ∀ j, j < 34 → ma r 44 (34 + j) = ma σ 44 j := by
    refine o_inv0 (fun k t => t.1 = i3 k ∧ Fx 34 σ t.2 ∧ ∀ j, j < k → ma t.2 44 (34 + j) = ma σ 44 j) (fun r => Fx 34 σ r ∧ ∀ j, j < 34 → ma r 44 (34 + j) = ma σ 44 j) 34 (fun k t hk hI => ?_) (fun t hI => ?_) _ ⟨rfl, Fx_refl 34 σ, fun j hj => absurd hj (Nat.not_lt_zero _)⟩
    · obtain ⟨t1, t2⟩ := t
      obtain ⟨rfl, hF, hc⟩ := hI
      dsimp only at hF hc
      unfold M_tries_L2
      dsimp only
      rw [if_pos ((i3_ltl (c := 34) (n := 34) rfl (by omega) (by decide)).mpr hk), ald_i3 (show k < 68 by omega), Option.bind_some, show ast t2 44 (34 + i3 k) _ = some (sa t2 44 (34 + k) (ma t2 44 k)) by rw [show (34 : Int32) + i3 k = i3 (34 + k) from i3_add 34 k]; exact ast_i3 (show 34 + k < 68 by omega), Option.bind_some, i3_succ]
      refine ⟨_, rfl, rfl, Fx_trans hF (Fx_s44 (fun _ => by omega)), fun j hj => ?_⟩
      rw [ma_saq]
      by_cases ej : j = k
      · rw [if_pos (by omega), ej]
        exact hF.2.2 rfl k hk
      · rw [if_neg (by omega)]
        exact hc j (by omega)
    · obtain ⟨t1, t2⟩ := t
      obtain ⟨rfl, hI⟩ := hI
      unfold M_tries_L2
      dsimp only
      rw [if_neg (by decide)]
      exact ⟨_, rfl, hI⟩
  refine ⟨r, e, hF, h.1, ME_fx hF h.2.1, ?_, h.2.2.2.1, by decide⟩
  obtain ⟨r1, r2, r3, r4, r5⟩ := h.2.2.1
  refine ⟨?_, fun k hk => ?_, fun k hk => ?_, fun k hk => ?_, fun c hc2 => ?_⟩
  · rw [← r1]; exact hc 0 (by decide)
  · rw [← r2 k hk, Nat.zero_add, ← hc (1 + k) (by omega)]; congr 1; omega
  · rw [← r3 k hk, Nat.zero_add, ← hc (10 + k) (by omega)]; congr 1; omega
  · rw [← r4 k hk, Nat.zero_add, ← hc (19 + k) (by omega)]; congr 1; omega
  · rw [← r5 c hc2, Nat.zero_add, ← hc (28 + c) (by omega)]; congr 1; omega
theorem M_daysGo_eq (h : MV σ 34 P w) {n : Nat} (hn : n < 2 ^ 31) (hd : w 0 + n < 2 ^ 20) : ∃ σ', M_daysGo σ (i3 n) = some σ' ∧ Fx 34 σ σ' ∧ MV σ' 34 P (aft P n w) := by
  unfold M_daysGo
  refine o_inv0 (fun k t => t.1 = i3 k ∧ Fx 34 σ t.2 ∧ MV t.2 34 P (aft P k w)) (fun r => Fx 34 σ r ∧ MV r 34 P (aft P n w)) n (fun k t hk hI => ?_) (fun t hI => ?_) _ ⟨rfl, Fx_refl 34 σ, h⟩
  · obtain ⟨t1, t2⟩ := t
    obtain ⟨rfl, hF, hV⟩ := hI
    dsimp only at hF hV
    unfold M_daysGo_L2
    dsimp only
    rw [if_pos ((i3_lt (by omega) (by omega)).mpr hk), i3_succ]
    obtain ⟨s1, e1, f1, v1⟩ := m3_day hV (by rw [aft_0]; omega)
    rw [e1, Option.bind_some]
    exact ⟨_, rfl, rfl, Fx_trans hF f1, v1⟩
  · obtain ⟨t1, t2⟩ := t
    obtain ⟨rfl, hF, hV⟩ := hI
    unfold M_daysGo_L2
    dsimp only
    rw [if_neg (fun x => absurd ((i3_lt (by omega) (by omega)).mp x) (by omega))]
    exact ⟨_, rfl, hF, hV⟩
theorem M_goesTo_eq (h : MV σ 0 P w) {n : Nat} (hn : n < 2 ^ 31) (hd : w 0 + n < 2 ^ 20) : ∃ σ', M_goesTo σ (i3 n) = some σ' ∧ Fx 34 σ σ' ∧ MV σ' 34 P (aft P n w) := by
  unfold M_goesTo
  obtain ⟨s1, e1, f1, v1⟩ := M_tries_eq h
  obtain ⟨s2, e2, f2, v2⟩ := M_daysGo_eq v1 hn hd
  rw [e1, Option.bind_some, e2, Option.bind_some]
  exact ⟨s2, rfl, Fx_trans f1 f2, v2⟩
/-! sets over sheets and words -/
theorem atM_t {v t : Nat} (hv : v < 2 ^ 20) (ht : t < 4) : atM v = i3 t ↔ v = t := by
  unfold atM
  split
  · next h => exact ⟨fun x => absurd x.symm (i3_m1 (by omega)), fun x => by omega⟩
  · split
    · exact i3_inj (by omega) (by omega)
    · rw [i3_inj (by omega) (by omega)]; omega
theorem atM_c {v c : Nat} (hv : v < 10 ∨ v = 99) (hc : c < 2 ^ 20) : atM v = 10 + i3 c ↔ (4 ≤ v ∧ v ≠ 99) ∧ v - 4 = c := by
  have e : (10 : Int32) + i3 c = i3 (10 + c) := i3_add 10 c
  rw [e]
  unfold atM
  split
  · next h => exact ⟨fun x => absurd x.symm (i3_m1 (by omega)), fun x => by omega⟩
  · split
    · rw [i3_inj (by omega) (by omega)]; omega
    · rw [i3_inj (by omega) (by omega)]; omega
theorem brr_c {w : SV} {k c : Nat} (hc : c ≠ 99) : brr w k = c ↔ (4 ≤ w (19 + k) ∧ w (19 + k) ≠ 99) ∧ w (19 + k) - 4 = c := by
  unfold brr
  split
  · next h => exact ⟨fun x => ⟨h, x⟩, fun x => x.2⟩
  · next h => exact ⟨fun x => absurd x.symm hc, fun x => absurd x.1 h⟩
theorem M_archive_eq (h : MV σ 0 P w) {t : Nat} (ht : t < 4) : M_archive σ (i3 t) = some (i3 (arc P w t)) := by
  have hN := h.1.1
  unfold M_archive
  refine o_bst (fun k a hk => ?_) (fun a => ?_)
  · have h9 := wfs_19 h.2.2.2.1 h.1 hk
    unfold M_archive_L4
    dsimp only
    rw [h.2.1.1.1, if_pos ((i3_lt (by omega) (by omega)).mpr hk), m0_19 h hk, Option.bind_some, i3_succ]
    by_cases e : w (19 + k) = t
    · rw [if_pos ((atM_t (by omega) ht).mpr e), Option.bind_some, st1_t (p := fun c => decide (w (19 + c) = t)) (decide_eq_true e) (by omega), i3_or]
    · rw [if_neg (fun x => e ((atM_t (by omega) ht).mp x)), Option.bind_some, st1_f (p := fun c => decide (w (19 + c) = t)) (k := k) (decide_eq_false e), i3_or]
  · unfold M_archive_L4
    dsimp only
    rw [h.2.1.1.1, if_neg (fun x => absurd ((i3_lt (by omega) (by omega)).mp x) (by omega))]
theorem M_bears_eq (h : MV σ 0 P w) {c : Nat} (hc : c < 6) : M_bears σ (i3 c) = some (i3 (bbn P w c)) := by
  have hN := h.1.1
  unfold M_bears
  refine o_bst (fun k a hk => ?_) (fun a => ?_)
  · have h9 := wfs_19 h.2.2.2.1 h.1 hk
    unfold M_bears_L4
    dsimp only
    rw [h.2.1.1.1, if_pos ((i3_lt (by omega) (by omega)).mpr hk), m0_19 h hk, Option.bind_some, i3_succ]
    by_cases e : brr w k = c
    · rw [if_pos ((atM_c h9 (by omega)).mpr ((brr_c (by omega)).mp e)), Option.bind_some, st1_t (p := fun q => decide (brr w q = c)) (decide_eq_true e) (by omega), i3_or]
    · rw [if_neg (fun x => e ((brr_c (by omega)).mpr ((atM_c h9 (by omega)).mp x))), Option.bind_some, st1_f (p := fun q => decide (brr w q = c)) (k := k) (decide_eq_false e), i3_or]
  · unfold M_bears_L4
    dsimp only
    rw [h.2.1.1.1, if_neg (fun x => absurd ((i3_lt (by omega) (by omega)).mp x) (by omega))]
theorem M_clerk_set {q : Int32} (h : MV σ 0 P w) {c : Nat} (hc : c < 6) : o_loop (M_clerk_L29 (i3 c) (q, σ)) (0, 0) = some (i3 (bbn P w c)) := by
  have hN := h.1.1
  refine o_bst (fun k a hk => ?_) (fun a => ?_)
  · have h9 := wfs_19 h.2.2.2.1 h.1 hk
    unfold M_clerk_L29
    dsimp only
    rw [h.2.1.1.1, if_pos ((i3_lt (by omega) (by omega)).mpr hk), m0_19 h hk, Option.bind_some, i3_succ]
    by_cases e : brr w k = c
    · rw [if_pos ((atM_c h9 (by omega)).mpr ((brr_c (by omega)).mp e)), Option.bind_some, st1_t (p := fun q => decide (brr w q = c)) (decide_eq_true e) (by omega), i3_or]
    · rw [if_neg (fun x => e ((brr_c (by omega)).mpr ((atM_c h9 (by omega)).mp x))), Option.bind_some, st1_f (p := fun q => decide (brr w q = c)) (k := k) (decide_eq_false e), i3_or]
  · unfold M_clerk_L29
    dsimp only
    rw [h.2.1.1.1, if_neg (fun x => absurd ((i3_lt (by omega) (by omega)).mp x) (by omega))]
theorem M_fitting_eq (h : MV σ 0 P w) {j : Nat} (hj : j < pN P) : M_fitting σ (i3 j) = some (i3 (fts P w j)) := by
  have hN := h.1.1
  unfold M_fitting
  refine o_bst (fun k a hk => ?_) (fun a => ?_)
  · unfold M_fitting_L4
    dsimp only
    rw [h.2.1.1.1, if_pos ((i3_lt (by omega) (by omega)).mpr hk), m0_fit h hj hk, Option.bind_some, i3_succ]
    cases e : fit P w j k
    · rw [if_pos (by decide), Option.bind_some, st1_f (p := fun k => fit P w j k) (k := k) e, i3_or]
    · rw [if_neg (by decide), Option.bind_some, st1_t (p := fun k => fit P w j k) e (by omega), i3_or]
  · unfold M_fitting_L4
    dsimp only
    rw [h.2.1.1.1, if_neg (fun x => absurd ((i3_lt (by omega) (by omega)).mp x) (by omega))]
theorem M_burntOnes_eq (h : MV σ 0 P w) : M_burntOnes σ = some (i3 (bns P w)) := by
  have hN := h.1.1
  unfold M_burntOnes
  refine o_bst (fun k a hk => ?_) (fun a => ?_)
  · unfold M_burntOnes_L4
    dsimp only
    rw [h.2.1.1.1, if_pos ((i3_lt (by omega) (by omega)).mpr hk), m0_burnt h hk, Option.bind_some, i3_succ]
    cases e : bnt w k
    · rw [if_pos (by decide), Option.bind_some, st1_f (p := fun k => bnt w k) (k := k) e, i3_or]
    · rw [if_neg (by decide), Option.bind_some, st1_t (p := fun k => bnt w k) e (by omega), i3_or]
  · unfold M_burntOnes_L4
    dsimp only
    rw [h.2.1.1.1, if_neg (fun x => absurd ((i3_lt (by omega) (by omega)).mp x) (by omega))]
theorem M_borneOnes_eq {b : Nat} (h : MV σ b P w) : M_borneOnes σ (i3 b) = some (i3 (brn P w)) := by
  have hN := h.1.1
  unfold M_borneOnes
  refine o_bst (fun k a hk => ?_) (fun a => ?_)
  · have h9 := wfs_19 h.2.2.2.1 h.1 hk
    unfold M_borneOnes_L4
    dsimp only
    rw [h.2.1.1.1, if_pos ((i3_lt (by omega) (by omega)).mpr hk), mv_19 h hk, Option.bind_some, i3_succ]
    have key : atM (w (19 + k)) < 10 ↔ brr w k = 99 := by
      unfold atM brr
      by_cases e1 : w (19 + k) = 99
      · rw [if_pos e1, if_neg (by omega)]; exact ⟨fun _ => rfl, fun _ => by decide⟩
      · rw [if_neg e1]
        by_cases e2 : w (19 + k) < 4
        · rw [if_pos e2, if_neg (by omega)]
          exact ⟨fun _ => rfl, fun _ => (i3_ltl (c := 10) (n := 10) rfl (by omega) (by decide)).mpr (by omega)⟩
        · rw [if_neg e2, if_pos ⟨by omega, e1⟩]
          exact ⟨fun x => absurd ((i3_ltl (c := 10) (n := 10) rfl (by omega) (by decide)).mp x) (by omega), fun x => by omega⟩
    by_cases e : brr w k = 99
    · rw [if_pos (key.mpr e), Option.bind_some, st1_f (p := fun k => !decide (brr w k = 99)) (k := k) (by rw [decide_eq_true e]; rfl), i3_or]
    · rw [if_neg (fun x => e (key.mp x)), Option.bind_some, st1_t (p := fun k => !decide (brr w k = 99)) (by rw [decide_eq_false e]; rfl) (by omega), i3_or]
  · unfold M_borneOnes_L4
    dsimp only
    rw [h.2.1.1.1, if_neg (fun x => absurd ((i3_lt (by omega) (by omega)).mp x) (by omega))]
/-- a word whose sheets are whole -/
def whl (P : PO) (w : SV) (i : Nat) : Bool := !bnt w (pA P i) && !bnt w (pB P i)
theorem M_isWhole_eq (h : MV σ 0 P w) {i : Nat} (hi : i < pQ' P) : M_isWhole σ (i3 i) = some (bI (whl P w i)) := by
  obtain ⟨hA, hB, hAB⟩ := h.1.2.2.2.2.2.2 i hi
  unfold M_isWhole whl
  rw [mv_A h hi, Option.bind_some, m0_burnt h hA, Option.bind_some]
  cases bnt w (pA P i)
  · rw [if_pos (by decide), mv_B h hi, Option.bind_some, m0_burnt h hB, Option.bind_some]
    cases bnt w (pB P i)
    · rw [if_pos (by decide)]; rfl
    · rw [if_neg (by decide)]; rfl
  · rw [if_neg (by decide)]; rfl
/-- words that aren't dead and would be, were some sheets burnt -/
def lst (P : PO) (w : SV) (s : Nat) : Nat := bst (fun i => whl P w i && (s.testBit (pA P i) || s.testBit (pB P i))) (pQ' P)
theorem bit2or {s i j : Nat} (hs : s < 2 ^ 31) (hi : i < 32) (hj : j < 32) : (((i3 s >>> (i3 i &&& 31)) ||| (i3 s >>> (i3 j &&& 31))) &&& 1 = 1) ↔ (s.testBit i || s.testBit j) = true := by
  have h2 : (s >>> i ||| s >>> j) % 2 < 2 := Nat.mod_lt _ (by decide)
  rw [i3_shr hs hi, i3_shr hs hj, i3_or, i3_one_and, i3_eq1 (by omega), Nat.mod_two_eq_one_iff_testBit_zero, Nat.testBit_or, Nat.testBit_shiftRight, Nat.testBit_shiftRight, Nat.add_zero, Nat.add_zero]
theorem M_lostBy_eq (h : MV σ 0 P w) {s : Nat} (hs : s < 2 ^ 31) : M_lostBy σ (i3 s) = some (i3 (lst P w s)) := by
  have hN := h.1.1
  have hQ := h.1.2.2.1
  unfold M_lostBy
  refine o_bst (fun k a hk => ?_) (fun a => ?_)
  · obtain ⟨hA, hB, hAB⟩ := h.1.2.2.2.2.2.2 k hk
    unfold M_lostBy_L4
    dsimp only
    rw [h.2.1.1.2.2.1, if_pos ((i3_lt (by omega) (by omega)).mpr hk), M_isWhole_eq h hk, Option.bind_some, i3_succ]
    cases e : whl P w k
    · rw [if_pos (by decide), Option.bind_some, st1_f (p := fun i => whl P w i && (s.testBit (pA P i) || s.testBit (pB P i))) (k := k) (by rw [e]; rfl), i3_or]
    · rw [if_neg (by decide), mv_A h hk, Option.bind_some, mv_B h hk, Option.bind_some]
      cases e2 : (s.testBit (pA P k) || s.testBit (pB P k))
      · rw [if_neg (fun x => by rw [bit2or hs (by omega) (by omega), e2] at x; cases x), Option.bind_some, st1_f (p := fun i => whl P w i && (s.testBit (pA P i) || s.testBit (pB P i))) (k := k) (by rw [e, e2]; rfl), i3_or]
      · rw [if_pos ((bit2or hs (by omega) (by omega)).mpr e2), Option.bind_some, st1_t (p := fun i => whl P w i && (s.testBit (pA P i) || s.testBit (pB P i))) (k := k) (by rw [e, e2]; rfl) (by omega), i3_or]
  · unfold M_lostBy_L4
    dsimp only
    rw [h.2.1.1.2.2.1, if_neg (fun x => absurd ((i3_lt (by omega) (by omega)).mp x) (by omega))]
end M0
