/-! ===== the component: sets ===== -/
def arc (P : PO) (w : SV) (t : Nat) : Nat := bst (fun k => decide (w (19 + k) = t)) (pN P)
def bbn (P : PO) (w : SV) (c : Nat) : Nat := bst (fun k => decide (brr w k = c)) (pN P)
def brn (P : PO) (w : SV) : Nat := bst (fun k => !decide (brr w k = 99)) (pN P)
def bns (P : PO) (w : SV) : Nat := bst (fun k => bnt w k) (pN P)
def fts (P : PO) (w : SV) (a : Nat) : Nat := bst (fun k => fit P w a k) (pN P)
theorem atC_t {v t : Nat} (hv : v < 2 ^ 20) (ht : t < 99) : atC v = i3 t ↔ v = t := by
  unfold atC
  split
  · next h => exact ⟨fun x => absurd x.symm (i3_m1 (by omega)), fun x => by omega⟩
  · next h => exact i3_inj (by omega) (by omega)
theorem wI_u {v t : Nat} (hv : v < 2 ^ 20) (ht : t < 99) : wI v = i3 t ↔ v = t := by
  unfold wI
  split
  · next h => exact ⟨fun x => absurd x.symm (i3_m1 (by omega)), fun x => by omega⟩
  · next h => exact i3_inj (by omega) (by omega)
theorem wI_m {v : Nat} (hv : v < 2 ^ 20) : wI v = -1 ↔ v = 99 := by
  unfold wI
  split
  · next h => exact ⟨fun _ => h, fun _ => rfl⟩
  · next h => exact ⟨fun x => absurd x (i3_m1 (by omega)), fun x => absurd x h⟩
theorem brr_lt {P : PO} {w : SV} (hw : WFS P w) (hP : WFP P) {k : Nat} (hk : k < pN P) : brr w k < 6 ∨ brr w k = 99 := by
  have h1 := hP.2.1
  unfold brr
  split
  · next h =>
    left
    rcases hw.2.2.1 k hk with h2 | h2 | h2 <;> omega
  · right; rfl
section CSETS
variable {K : Nat → Nat} {h : CH} {o off vs : Nat} {f : CH} {P : PO} {s : Nat} {A : Nat → Nat} {w : SV}
theorem C3_burnt_eq (h1 : CSV K h o off vs f P s A w) : C3_burnt h s = some (i3 (bns P w)) := by
  have hN := h1.1.1.1
  have hM := h1.1.1.2.1
  unfold C3_burnt
  refine o_bst (fun k a hk => ?_) (fun a => ?_)
  · have h9 := wfs_19 (sv_w h1) h1.1.1 (k := k)
    have h8 := whr_lt h1.1.1 (sv_w h1) hk
    have h7 := brr_lt (sv_w h1) h1.1.1 hk
    have h9 := h9 hk
    unfold C3_burnt_L4
    dsimp only
    rw [sv_o h1, Option.bind_some, cx_1 h1.1, Option.bind_some, cx_n h1.1, Option.bind_some, if_pos ((i3_lt (by omega) (by omega)).mpr hk), sv_vc h1, C3_isBurnt_eq h1 hk, Option.bind_some, i3_succ]
    cases e : bnt w k
    · rw [if_pos (by decide), Option.bind_some, ← st1_no (p := fun k => bnt w k) (k := k) (a := a) (e)]
    · rw [if_neg (by decide), Option.bind_some, st1_or (p := fun k => bnt w k) (e) (by omega)]
  · unfold C3_burnt_L4
    dsimp only
    rw [sv_o h1, Option.bind_some, cx_1 h1.1, Option.bind_some, cx_n h1.1, Option.bind_some, if_neg (fun x => absurd ((i3_lt (by omega) (by omega)).mp x) (by omega))]
theorem C3_borne_eq (h1 : CSV K h o off vs f P s A w) : C3_borne h s = some (i3 (brn P w)) := by
  have hN := h1.1.1.1
  have hM := h1.1.1.2.1
  unfold C3_borne
  refine o_bst (fun k a hk => ?_) (fun a => ?_)
  · have h9 := wfs_19 (sv_w h1) h1.1.1 (k := k)
    have h8 := whr_lt h1.1.1 (sv_w h1) hk
    have h7 := brr_lt (sv_w h1) h1.1.1 hk
    have h9 := h9 hk
    unfold C3_borne_L4
    dsimp only
    rw [sv_o h1, Option.bind_some, cx_1 h1.1, Option.bind_some, cx_n h1.1, Option.bind_some, if_pos ((i3_lt (by omega) (by omega)).mpr hk), sv_vc h1, C3_bearer_eq h1 hk, Option.bind_some, i3_succ]
    by_cases e : brr w k = 99
    · rw [if_pos ((wI_m (by omega)).mpr e), Option.bind_some, ← st1_no (p := fun k => !decide (brr w k = 99)) (k := k) (a := a) (by rw [decide_eq_true e]; rfl)]
    · rw [if_neg (fun x => e ((wI_m (by omega)).mp x)), Option.bind_some, st1_or (p := fun k => !decide (brr w k = 99)) (by rw [decide_eq_false e]; rfl) (by omega)]
  · unfold C3_borne_L4
    dsimp only
    rw [sv_o h1, Option.bind_some, cx_1 h1.1, Option.bind_some, cx_n h1.1, Option.bind_some, if_neg (fun x => absurd ((i3_lt (by omega) (by omega)).mp x) (by omega))]
theorem C3_fitting_eq (h1 : CSV K h o off vs f P s A w) {j : Nat} (hj : j < pN P) : C3_fitting h s (i3 j) = some (i3 (fts P w j)) := by
  have hN := h1.1.1.1
  have hM := h1.1.1.2.1
  unfold C3_fitting
  refine o_bst (fun k a hk => ?_) (fun a => ?_)
  · have h9 := wfs_19 (sv_w h1) h1.1.1 (k := k)
    have h8 := whr_lt h1.1.1 (sv_w h1) hk
    have h7 := brr_lt (sv_w h1) h1.1.1 hk
    have h9 := h9 hk
    unfold C3_fitting_L4
    dsimp only
    rw [sv_o h1, Option.bind_some, cx_1 h1.1, Option.bind_some, cx_n h1.1, Option.bind_some, if_pos ((i3_lt (by omega) (by omega)).mpr hk), sv_vc h1, C3_fits_eq h1 hj hk, Option.bind_some, i3_succ]
    cases e : fit P w j k
    · rw [if_pos (by decide), Option.bind_some, ← st1_no (p := fun k => fit P w j k) (k := k) (a := a) (e)]
    · rw [if_neg (by decide), Option.bind_some, st1_or (p := fun k => fit P w j k) (e) (by omega)]
  · unfold C3_fitting_L4
    dsimp only
    rw [sv_o h1, Option.bind_some, cx_1 h1.1, Option.bind_some, cx_n h1.1, Option.bind_some, if_neg (fun x => absurd ((i3_lt (by omega) (by omega)).mp x) (by omega))]
theorem C3_bornBy_eq (h1 : CSV K h o off vs f P s A w) {c : Nat} (hc : c < 99) : C3_bornBy h s (i3 c) = some (i3 (bbn P w c)) := by
  have hN := h1.1.1.1
  have hM := h1.1.1.2.1
  unfold C3_bornBy
  refine o_bst (fun k a hk => ?_) (fun a => ?_)
  · have h9 := wfs_19 (sv_w h1) h1.1.1 (k := k)
    have h8 := whr_lt h1.1.1 (sv_w h1) hk
    have h7 := brr_lt (sv_w h1) h1.1.1 hk
    have h9 := h9 hk
    unfold C3_bornBy_L4
    dsimp only
    rw [sv_o h1, Option.bind_some, cx_1 h1.1, Option.bind_some, cx_n h1.1, Option.bind_some, if_pos ((i3_lt (by omega) (by omega)).mpr hk), sv_vc h1, C3_bearer_eq h1 hk, Option.bind_some, i3_succ]
    by_cases e : brr w k = c
    · rw [if_pos ((wI_u (by omega) hc).mpr e), Option.bind_some, st1_or (p := fun k => decide (brr w k = c)) (decide_eq_true e) (by omega)]
    · rw [if_neg (fun x => e ((wI_u (by omega) hc).mp x)), Option.bind_some, ← st1_no (p := fun k => decide (brr w k = c)) (k := k) (a := a) (decide_eq_false e)]
  · unfold C3_bornBy_L4
    dsimp only
    rw [sv_o h1, Option.bind_some, cx_1 h1.1, Option.bind_some, cx_n h1.1, Option.bind_some, if_neg (fun x => absurd ((i3_lt (by omega) (by omega)).mp x) (by omega))]
theorem C3_sheetsIn_eq (h1 : CSV K h o off vs f P s A w) {t : Nat} (ht : t < 99) : C3_sheetsIn h s (i3 t) = some (i3 (shI P w t)) := by
  have hN := h1.1.1.1
  have hM := h1.1.1.2.1
  unfold C3_sheetsIn
  refine o_bst (fun k a hk => ?_) (fun a => ?_)
  · have h9 := wfs_19 (sv_w h1) h1.1.1 (k := k)
    have h8 := whr_lt h1.1.1 (sv_w h1) hk
    have h7 := brr_lt (sv_w h1) h1.1.1 hk
    have h9 := h9 hk
    unfold C3_sheetsIn_L4
    dsimp only
    rw [sv_o h1, Option.bind_some, cx_1 h1.1, Option.bind_some, cx_n h1.1, Option.bind_some, if_pos ((i3_lt (by omega) (by omega)).mpr hk), sv_vc h1, C3_where_eq h1 hk, Option.bind_some, i3_succ]
    by_cases e : whr P w k = t
    · rw [if_pos ((wI_u (by omega) ht).mpr e), Option.bind_some, st1_or (p := fun k => decide (whr P w k = t)) (decide_eq_true e) (by omega)]
    · rw [if_neg (fun x => e ((wI_u (by omega) ht).mp x)), Option.bind_some, ← st1_no (p := fun k => decide (whr P w k = t)) (k := k) (a := a) (decide_eq_false e)]
  · unfold C3_sheetsIn_L4
    dsimp only
    rw [sv_o h1, Option.bind_some, cx_1 h1.1, Option.bind_some, cx_n h1.1, Option.bind_some, if_neg (fun x => absurd ((i3_lt (by omega) (by omega)).mp x) (by omega))]
theorem C3_archive_eq (h1 : CSV K h o off vs f P s A w) {t : Nat} (ht : t < 99) : C3_archive h s (i3 t) = some (i3 (arc P w t)) := by
  have hN := h1.1.1.1
  have hM := h1.1.1.2.1
  unfold C3_archive
  refine o_bst (fun k a hk => ?_) (fun a => ?_)
  · have h9 := wfs_19 (sv_w h1) h1.1.1 (k := k)
    have h8 := whr_lt h1.1.1 (sv_w h1) hk
    have h7 := brr_lt (sv_w h1) h1.1.1 hk
    have h9 := h9 hk
    unfold C3_archive_L4
    dsimp only
    rw [sv_o h1, Option.bind_some, cx_1 h1.1, Option.bind_some, cx_n h1.1, Option.bind_some, if_pos ((i3_lt (by omega) (by omega)).mpr hk), sv_2 h1, Option.bind_some, sv_A h1 hk, Option.bind_some, i3_succ]
    by_cases e : w (19 + k) = t
    · rw [if_pos ((atC_t (by omega) ht).mpr e), Option.bind_some, st1_or (p := fun k => decide (w (19 + k) = t)) (decide_eq_true e) (by omega)]
    · rw [if_neg (fun x => e ((atC_t (by omega) ht).mp x)), Option.bind_some, ← st1_no (p := fun k => decide (w (19 + k) = t)) (k := k) (a := a) (decide_eq_false e)]
  · unfold C3_archive_L4
    dsimp only
    rw [sv_o h1, Option.bind_some, cx_1 h1.1, Option.bind_some, cx_n h1.1, Option.bind_some, if_neg (fun x => absurd ((i3_lt (by omega) (by omega)).mp x) (by omega))]
theorem C3_clerksIn_eq (h1 : CSV K h o off vs f P s A w) {t : Nat} (ht : t < 99) : C3_clerksIn h s (i3 t) = some (i3 (clI P w t)) := by
  have hN := h1.1.1.1
  have hM := h1.1.1.2.1
  unfold C3_clerksIn
  refine o_bst (fun k a hk => ?_) (fun a => ?_)
  · have h4 := wfp_tow h1.1.1 (c := k) (d := w 0) hk
    unfold C3_clerksIn_L4
    dsimp only
    rw [sv_o h1, Option.bind_some, cx_1 h1.1, Option.bind_some, cx_vo h1.1, cx_m h1.1, Option.bind_some, if_pos ((i3_lt (by omega) (by omega)).mpr hk), sv_vc h1, C3_town_eq h1 hk, Option.bind_some, i3_succ]
    by_cases e : tow P w k = t
    · rw [if_pos ((i3_inj (by unfold tow; omega) (by omega)).mpr e), Option.bind_some, st1_or (p := fun c => decide (tow P w c = t)) (decide_eq_true e) (by omega)]
    · rw [if_neg (fun x => e ((i3_inj (by unfold tow; omega) (by omega)).mp x)), Option.bind_some, ← st1_no (p := fun c => decide (tow P w c = t)) (k := k) (a := a) (decide_eq_false e)]
  · unfold C3_clerksIn_L4
    dsimp only
    rw [sv_o h1, Option.bind_some, cx_1 h1.1, Option.bind_some, cx_vo h1.1, cx_m h1.1, Option.bind_some, if_neg (fun x => absurd ((i3_lt (by omega) (by omega)).mp x) (by omega))]
theorem C3_known_eq (h1 : CSV K h o off vs f P s A w) {u : Nat} (hu : u < 2 ^ 31) : C3_known h s (i3 u) = some (i3 (knw P w u)) := by
  have hM := h1.1.1.2.1
  unfold C3_known
  refine o_orf (fun k a hk => ?_) (fun a => ?_)
  · unfold C3_known_L4
    dsimp only
    rw [sv_o h1, Option.bind_some, cx_1 h1.1, Option.bind_some, cx_vo h1.1, cx_m h1.1, Option.bind_some, if_pos ((i3_lt (by omega) (by omega)).mpr hk), C1_isOf_eq hu (by omega), Option.bind_some, i3_succ]
    cases e : u.testBit k
    · rw [if_pos (by decide), if_neg (by decide), Option.bind_some, Nat.or_zero]
    · rw [if_neg (by decide), sv_3 h1, Option.bind_some, sv_K h1 hk, Option.bind_some, if_pos (by decide), Option.bind_some, i3_or]
  · unfold C3_known_L4
    dsimp only
    rw [sv_o h1, Option.bind_some, cx_1 h1.1, Option.bind_some, cx_vo h1.1, cx_m h1.1, Option.bind_some, if_neg (fun x => absurd ((i3_lt (by omega) (by omega)).mp x) (by omega))]
theorem C3_readOf_eq (h1 : CSV K h o off vs f P s A w) {u : Nat} (hu : u < 2 ^ 31) : C3_readOf h s (i3 u) = some (i3 (rdO P w u)) := by
  have hN := h1.1.1.1
  have hQ := h1.1.1.2.2.1
  obtain ⟨wl, fw, w1, w2, w3⟩ := cx_w h1.1
  unfold C3_readOf
  refine o_bst (fun k a hk => ?_) (fun a => ?_)
  · obtain ⟨hA, hB, hAB⟩ := h1.1.1.2.2.2.2.2.2 k hk
    obtain ⟨x1, x2, x3, x4⟩ := w3 k hk
    unfold C3_readOf_L4
    dsimp only
    rw [sv_o h1, Option.bind_some, cx_1 h1.1, Option.bind_some, w1, Option.bind_some, w2, Option.bind_some, if_pos ((i3_lt (by omega) (by omega)).mpr hk), Option.bind_some, cx_1 h1.1, Option.bind_some, w1, Option.bind_some, x1, Option.bind_some, x2, Option.bind_some, x3, Option.bind_some, Option.bind_some, cx_1 h1.1, Option.bind_some, w1, Option.bind_some, x1, Option.bind_some, x2, Option.bind_some, x4, Option.bind_some, C1_isOf_eq hu (by omega), Option.bind_some, i3_succ]
    cases e : u.testBit (pA P k)
    · rw [if_pos (by decide), Option.bind_some, ← st1_no (p := fun i => u.testBit (pA P i) && u.testBit (pB P i) && fit P w (pA P i) (pB P i)) (k := k) (a := a) (by rw [e]; rfl)]
    · rw [if_neg (by decide), C1_isOf_eq hu (by omega), Option.bind_some]
      cases e2 : u.testBit (pB P k)
      · rw [if_pos (by decide), Option.bind_some, ← st1_no (p := fun i => u.testBit (pA P i) && u.testBit (pB P i) && fit P w (pA P i) (pB P i)) (k := k) (a := a) (by rw [e, e2]; rfl)]
      · rw [if_neg (by decide), sv_vc h1, C3_fits_eq h1 hA hB, Option.bind_some]
        cases e3 : fit P w (pA P k) (pB P k)
        · rw [if_pos (by decide), Option.bind_some, ← st1_no (p := fun i => u.testBit (pA P i) && u.testBit (pB P i) && fit P w (pA P i) (pB P i)) (k := k) (a := a) (by rw [e, e2, e3]; rfl)]
        · rw [if_neg (by decide), Option.bind_some, st1_or (p := fun i => u.testBit (pA P i) && u.testBit (pB P i) && fit P w (pA P i) (pB P i)) (k := k) (a := a) (by rw [e, e2, e3]; rfl) (by omega)]
  · unfold C3_readOf_L4
    dsimp only
    rw [sv_o h1, Option.bind_some, cx_1 h1.1, Option.bind_some, w1, Option.bind_some, w2, Option.bind_some, if_neg (fun x => absurd ((i3_lt (by omega) (by omega)).mp x) (by omega))]
theorem C3_shows_eq (h1 : CSV K h o off vs f P s A w) {t : Nat} (ht : t < 99) : C3_shows h s (i3 t) = some (i3 (shw P w t)) := by
  have hN := h1.1.1.1
  unfold C3_shows
  rw [sv_vc h1, C3_sheetsIn_eq h1 ht, Option.bind_some, sv_vc h1, C3_readOf_eq h1 (p2 (b := 31) (shI_lt P w t) (by omega))]
  rfl
theorem C3_read_eq (h1 : CSV K h o off vs f P s A w) : C3_read h s = some (i3 (knw P w 63)) := by
  unfold C3_read
  rw [sv_vc h1, show C3_known h s 63 = _ from C3_known_eq (u := 63) h1 (by decide)]
  rfl
end CSETS
