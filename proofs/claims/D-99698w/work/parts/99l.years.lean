/-! ===== years ===== -/
section YEARS
variable {K : Nat → Nat} {h hc hc' : CH} {r : CR} {o N n : Nat} {σ τ τ' : MS} {S : ST} {f : CH} {B : Nat → Nat} {sT aT hT : Option Nat} {seed : Int32} {ea eh : Nat → Nat} {w w' : SV} {P : PO}
theorem andk_eq (v : Int32) (k : Nat) : v &&& i3 k = i3 (v.toBitVec.toNat &&& k) := by
  have e : v = i3 v.toBitVec.toNat := by
    apply Int32.toBitVec_inj.mp
    show v.toBitVec = BitVec.ofNat 32 v.toBitVec.toNat
    rw [BitVec.ofNat_toNat, BitVec.setWidth_eq]
  have e2 : i3 v.toBitVec.toNat &&& i3 k = i3 (v.toBitVec.toNat &&& k) := i3_and _ _
  rw [← e] at e2
  exact e2
def nxt (s : Int32) : Int32 := s * 1103515245 + 12345
def drw (s : Int32) (m : Nat) : Nat := ((nxt s >>> (16 &&& 31)).toBitVec.toNat &&& 32767) % m
theorem drw_eq (s : Int32) {m : Nat} (h0 : 0 < m) (hm : m < 2 ^ 31) : irm ((nxt s >>> (16 &&& 31)) &&& 32767) (i3 m) = some (i3 (drw s m)) := by
  rw [show (32767 : Int32) = i3 32767 from rfl, andk_eq, i3_rem (Nat.lt_of_le_of_lt Nat.and_le_right (by decide)) hm h0]
  rfl
theorem CSV_o {off vs s : Nat} {A : Nat → Nat} {fs : List Value} (hc1 : CSV K hc o off vs f P s A w) (h0 : fs[0]? = some (.ref vs)) (h1 : fs[1]? = some (.ref off)) (hfo : f o = none) : CSV K (hup hc o (.inr (1, fs))) o off vs f P s A w := by
  obtain ⟨⟨x1, _, x3, x4, g, x5⟩, hsx, hsep⟩ := hc1
  have hnd := hsep.1
  have hne : ∀ q, q ∈ [vs, s, A 0, A 1, A 2, A 3] → q ≠ o := fun q hq e => (List.nodup_cons.mp hnd).1 (e ▸ hq)
  refine ⟨⟨x1, ⟨fs, hup_s, h0, h1⟩, fun a c x => ?_, x4, g, ?_⟩, SX_eq hsx (fun q hq => hup_n (hne q ?_)), hsep⟩
  · rw [hup_n (fun e => by rw [e, hfo] at x; cases x)]
    exact x3 _ _ x
  · rw [hup_n (hne vs (by simp))]
    exact x5
  · unfold s5 at hq
    exact List.mem_cons_of_mem _ hq
def YI (K : Nat → Nat) (n o : Nat) (S : ST) (f : CH) (B : Nat → Nat) (sT aT hT : Option Nat) (ea eh : Nat → Nat) (hc : CH) (τ : MS) (w : SV) : Prop :=
  ∃ hb seed, RCp K hb n o S f B sT aT hT seed ea eh ∧ CSV K hc o (B 18) (B 1) f (zP S) (B 7) (fun i => B (8 + i)) w ∧ hX (sX6 (B 1) (B 7) (fun i => B (8 + i))) hb hc ∧ mf τ 55 = seed ∧ MV τ 34 (zP S) w ∧ RM τ S ∧ mf τ 0 = 0
theorem YI_ch (hY : YI K n o S f B sT aT hT ea eh hc τ w) (h1 : CSV K hc' o (B 18) (B 1) f (zP S) (B 7) (fun i => B (8 + i)) w') (h2 : hX (sX6 (B 1) (B 7) (fun i => B (8 + i))) hc hc') (h3 : Fx 34 τ τ') (h4 : MV τ' 34 (zP S) w') : YI K n o S f B sT aT hT ea eh hc' τ' w' := by
  obtain ⟨hb, seed, y1, y2, y3, y4, y5, y6, y7⟩ := hY
  exact ⟨hb, seed, y1, h1, hX_trans y3 h2, (mf_fx h3 55).trans y4, h4, RM_gx (RCp_Z y1) (Gx_fx h3) y6, (mf_fx h3 0).trans y7⟩
theorem YI_no (hp : RCp K h n o S f B sT aT hT seed ea eh) : ¬ o ∈ sX6 (B 1) (B 7) (fun i => B (8 + i)) := by
  intro hm
  have hne := (RC_o hp).2.2.2.2
  unfold sX6 at hm
  simp only [List.mem_cons, List.not_mem_nil, or_false] at hm
  rcases hm with e | e | e | e | e | e
  · exact hne 1 (by decide) (by decide) e.symm
  · exact hne 7 (by decide) (by decide) e.symm
  · exact hne 8 (by decide) (by decide) e.symm
  · exact hne 9 (by decide) (by decide) e.symm
  · exact hne 10 (by decide) (by decide) e.symm
  · exact hne 11 (by decide) (by decide) e.symm
theorem hX_o {X : List Nat} {hb : CH} {c : CE} (hx : hX X hb hc) : hX X (hup hb o c) (hup hc o c) := by
  intro q hq
  unfold hup
  by_cases e : q = o
  · rw [if_pos e, if_pos e]
  · rw [if_neg e, if_neg e]
    exact hx q hq
/-- the seed is set -/
theorem YI_seed (hp : RCp K h n o S f B sT aT hT seed ea eh) (hcs : CSV K hc o (B 18) (B 1) f (zP S) (B 7) (fun i => B (8 + i)) w) (hx : hX (sX6 (B 1) (B 7) (fun i => B (8 + i))) h hc) (hm : MV τ 34 (zP S) w) (hM : RM τ S) (h0 : mf τ 0 = 0) (v : Int32) : pI hc o 1 13 v = some (hup hc o (oCell B S (B 2) (B 14) (B 15) sT aT hT v)) ∧ pf τ 55 v = some (sf τ 55 v) ∧ YI K n o S f B sT aT hT ea eh (hup hc o (oCell B S (B 2) (B 14) (B 15) sT aT hT v)) (sf τ 55 v) w := by
  have hoc : hc o = some (oCell B S (B 2) (B 14) (B 15) sT aT hT seed) := (hx o (YI_no hp)).trans (RC_o hp).2.1
  have hZ := RCp_Z hp
  have hgx : Gx τ (sf τ 55 v) := Gx_sf (.inr rfl)
  refine ⟨pI_of hoc (show 13 < 14 by decide), rfl, hup h o (oCell B S (B 2) (B 14) (B 15) sT aT hT v), v, RC_nm (t := zt S) (x := zF S) hp hZ.2.2.2.2.2.2, CSV_o hcs rfl rfl (RC_o hp).2.2.2.1, hX_o hx, ?_, ⟨hm.1, ME_of hm.2.1 (fun k _ _ => hgx.1 k (by omega) (by omega)) (fun j _ _ => rfl) rfl, hm.2.2.1, hm.2.2.2⟩, RM_gx hZ hgx hM, ?_⟩
  · unfold mf sf; dsimp only; rw [if_pos rfl]
  · unfold mf sf; dsimp only; rw [if_neg (by decide)]; exact h0
theorem YI_draw (hY : YI K n o S f B sT aT hT ea eh hc τ w) {m : Nat} (h0 : 0 < m) (hm : m < 2 ^ 31) : ∃ hc' τ' v, vc hc o 1 (C1_draw hc o (i3 m)) = some (i3 v, hc') ∧ M_draw τ (i3 m) = some (i3 v, τ') ∧ v < m ∧ YI K n o S f B sT aT hT ea eh hc' τ' w := by
  obtain ⟨hb, seed, y1, y2, y3, y4, y5, y6, y7⟩ := hY
  have hoc : hc o = some (oCell B S (B 2) (B 14) (B 15) sT aT hT seed) := (y3 o (YI_no y1)).trans (RC_o y1).2.1
  obtain ⟨z1, z2, z3⟩ := YI_seed y1 y2 y3 y5 y6 y7 (nxt seed)
  refine ⟨_, _, drw seed m, ?_, ?_, Nat.mod_lt _ h0, z3⟩
  · rw [vc_of hoc]
    unfold C1_draw
    rw [gI_of hoc (k := 13) rfl, Option.bind_some, show pI hc o 1 13 (seed * 1103515245 + 12345) = _ from z1, Option.bind_some, gI_of (show hup hc o (oCell B S (B 2) (B 14) (B 15) sT aT hT (nxt seed)) o = _ from hup_s) (k := 13) rfl, Option.bind_some, drw_eq seed h0 hm, Option.bind_some]
  · unfold M_draw
    rw [y4, show pf τ 55 (seed * 1103515245 + 12345) = _ from z2, Option.bind_some, show mf (sf τ 55 (nxt seed)) 55 = nxt seed by unfold mf sf; dsimp only; rw [if_pos rfl], drw_eq seed h0 hm, Option.bind_some]
theorem YI_3 (hY : YI K n o S f B sT aT hT ea eh hc τ w) : gR hc o 1 3 = some (B 7) ∧ CSV K hc o (B 18) (B 1) f (zP S) (B 7) (fun i => B (8 + i)) w ∧ MV τ 34 (zP S) w := by
  obtain ⟨hb, seed, y1, y2, y3, y4, y5, y6, y7⟩ := hY
  exact ⟨tr_3 y1 y2 y3, y2, y5⟩
theorem M_burnsT_eq (h : MV σ 34 P w) {t : Nat} (ht : t < 4) : ∃ σ', M_burns σ 34 (i3 t) = some σ' ∧ Fx 34 σ σ' ∧ MR σ' 34 P (brk w t (pN P)) := by
  have hN := h.1.1
  unfold M_burns
  refine o_inv0 (fun k (q : Int32 × MS) => q.1 = i3 k ∧ Fx 34 σ q.2 ∧ MR q.2 34 P (brk w t k)) (fun r => Fx 34 σ r ∧ MR r 34 P (brk w t (pN P))) (pN P) (fun k q hk hI => ?_) (fun q hI => ?_) (0, σ) ⟨rfl, Fx_refl 34 σ, by rw [brk_0]; exact h.2.2.1⟩
  · obtain ⟨q1, q2⟩ := q
    obtain ⟨rfl, hF, hV⟩ := hI
    dsimp only at hF hV
    unfold M_burns_L2
    dsimp only
    have h19 := hV.2.2.2.1 k hk
    have hw : brk w t k (19 + k) = w (19 + k) := by unfold brk; rw [if_neg (by omega)]
    rw [hw] at h19
    have hwl := wfs_19 h.2.2.2.1 h.1 hk
    rw [(mf_fx hF 1).trans h.2.1.1.1, if_pos ((i3_lt (by omega) (by omega)).mpr hk), show (34 : Int32) + 19 + i3 k = i3 (34 + 19 + k) from i3_a3 34 19 k, ald_i3 (j := 44) (show 34 + 19 + k < 68 by omega), Option.bind_some, h19, i3_succ]
    by_cases e : w (19 + k) = t
    · rw [if_pos ((atM_t (by omega) ht).mpr e), ast_i3 (j := 44) (show 34 + 19 + k < 68 by omega), Option.bind_some, Option.bind_some]
      have hr := MR_set (b := 34) (j := 19 + k) (v := 99) (x := -1) hV h.1.1 h.1.2.1 (by rw [if_pos (by omega)]; rfl)
      rw [brk_t e] at hr
      exact ⟨_, rfl, rfl, Fx_trans hF (Fx_s44 (fun e => by omega)), by rw [show 34 + 19 + k = 34 + (19 + k) by omega]; exact hr⟩
    · rw [if_neg (fun x => e ((atM_t (by omega) ht).mp x)), Option.bind_some]
      exact ⟨_, rfl, rfl, hF, by rw [brk_f e]; exact hV⟩
  · obtain ⟨q1, q2⟩ := q
    obtain ⟨rfl, hF, hV⟩ := hI
    unfold M_burns_L2
    dsimp only
    rw [(mf_fx hF 1).trans h.2.1.1.1, if_neg (fun x => absurd ((i3_lt (by omega) (by omega)).mp x) (by omega))]
    exact ⟨_, rfl, hF, hV⟩
theorem mv_putT (hm : MV σ 34 P w) {j v : Nat} {x : Int32} (hj : j < 34) (hx : x = if 19 ≤ j ∧ j < 28 then atM v else i3 v) (hw : WFS P (upn w j v)) : MV (sa σ 44 (34 + j) x) 34 P (upn w j v) ∧ Fx 34 σ (sa σ 44 (34 + j) x) := by
  have hF : Fx 34 σ (sa σ 44 (34 + j) x) := Fx_s44 (fun e => by omega)
  exact ⟨⟨hm.1, ME_fx hF hm.2.1, MR_set (b := 34) (j := j) hm.2.2.1 hm.1.1 hm.1.2.1 hx, hw, by decide⟩, hF⟩
/-- the least sheet in a town -/
theorem M_takesLeast_no (hm : MV σ 34 P w) {c : Nat} (hc : c < pM P) (h0 : arc P w (tow P w c) = 0) : M_takesLeast σ (i3 c) = some σ := by
  have hN := hm.1.1
  unfold M_takesLeast
  refine o_for0 (fun k => i3 k) (pN P) rfl (fun k hk => ?_) ?_
  · unfold M_takesLeast_L2
    have hwl := wfs_19 hm.2.2.2.1 hm.1 hk
    have htl : tow P w c < 4 := wfp_tow hm.1 hc
    rw [hm.2.1.1.1, if_pos ((i3_lt (by omega) (by omega)).mpr hk), m3_19 hm hk, Option.bind_some, m3_clk hm hc, Option.bind_some, if_neg (fun x => ?_), i3_succ]
    have e := (atM_t (by omega) htl).mp x
    have hb : (arc P w (tow P w c)).testBit k = true := by
      unfold arc
      rw [bst_bit, decide_eq_true hk, Bool.true_and]
      exact decide_eq_true e
    rw [h0, Nat.zero_testBit] at hb
    cases hb
  · unfold M_takesLeast_L2
    rw [hm.2.1.1.1, if_neg (fun x => absurd ((i3_lt (by omega) (by omega)).mp x) (by omega))]
theorem M_takesLeast_k (hm : MV σ 34 P w) {c k : Nat} (hc : c < pM P) (h1 : (arc P w (tow P w c)).testBit k = true) (h2 : ∀ j, j < k → (arc P w (tow P w c)).testBit j = false) : M_takesLeast σ (i3 c) = some (sa σ 44 (34 + (19 + k)) (10 + i3 c)) := by
  have hN := hm.1.1
  have htl : tow P w c < 4 := wfp_tow hm.1 hc
  have hb : ∀ j, (arc P w (tow P w c)).testBit j = (decide (j < pN P) && decide (w (19 + j) = tow P w c)) := fun j => by unfold arc; rw [bst_bit]
  have hk : k < pN P := by
    rw [hb, Bool.and_eq_true] at h1
    exact of_decide_eq_true h1.1
  unfold M_takesLeast
  refine o_for0 (fun j => i3 j) k rfl (fun j hj => ?_) ?_
  · unfold M_takesLeast_L2
    have hwl := wfs_19 hm.2.2.2.1 hm.1 (show j < pN P by omega)
    rw [hm.2.1.1.1, if_pos ((i3_lt (by omega) (by omega)).mpr (show j < pN P by omega)), m3_19 hm (show j < pN P by omega), Option.bind_some, m3_clk hm hc, Option.bind_some, if_neg (fun x => ?_), i3_succ]
    have e := (atM_t (by omega) htl).mp x
    have := h2 j hj
    rw [hb, decide_eq_true (show j < pN P by omega), Bool.true_and, decide_eq_true e] at this
    cases this
  · unfold M_takesLeast_L2
    have hwl := wfs_19 hm.2.2.2.1 hm.1 hk
    have e : w (19 + k) = tow P w c := by
      rw [hb, Bool.and_eq_true] at h1
      exact of_decide_eq_true h1.2
    rw [hm.2.1.1.1, if_pos ((i3_lt (by omega) (by omega)).mpr hk), m3_19 hm hk, Option.bind_some, m3_clk hm hc, Option.bind_some, if_pos ((atM_t (by omega) htl).mpr e), show (53 : Int32) + i3 k = i3 (34 + (19 + k)) by rw [show (53 : Int32) = i3 53 from rfl, i3_add]; congr 1; omega, ast_i3 (j := 44) (show 34 + (19 + k) < 68 by omega), Option.bind_some]
theorem YI_befalls (hY : YI K n o S f B sT aT hT ea eh hc τ w) : ∃ hc' τ' w', vc hc o 1 (C1_befalls hc o) = some hc' ∧ M_happens τ = some τ' ∧ YI K n o S f B sT aT hT ea eh hc' τ' w' ∧ w' 0 = w 0 := by
  obtain ⟨hc1, τ1, v, d1, d2, d3, y1⟩ := YI_draw hY (m := 6) (by decide) (by decide)
  obtain ⟨u1, u2, u3⟩ := YI_3 hY
  obtain ⟨v1, v2, v3⟩ := YI_3 y1
  have hN := v3.1.1
  have hM := v3.1.2.1
  rw [cx_vc u2.1]
  unfold C1_befalls M_happens
  rw [show vc hc o 1 (C1_draw hc o 6) = _ from d1, show M_draw τ 6 = _ from d2, Option.bind_some, Option.bind_some]
  dsimp only
  have c0 : (i3 v = 0) = (v = 0) := propext (i3_eq0 (by omega))
  have c1 : (i3 v = 1) = (v = 1) := propext (i3_inj (b := 1) (by omega) (by decide))
  have c2 : (i3 v = 2) = (v = 2) := propext (i3_inj (b := 2) (by omega) (by decide))
  simp only [c0, c1, c2]
  by_cases e0 : v = 0
  · obtain ⟨hc2, τ2, t, d4, d5, d6, y2⟩ := YI_draw y1 (m := 4) (by decide) (by decide)
    obtain ⟨x1, x2, x3⟩ := YI_3 y2
    obtain ⟨hc3, b1, b2, b3⟩ := C3_burn_eq x2 (t := t) (by omega)
    obtain ⟨τ3, m1, m2, m3⟩ := M_burnsT_eq x3 d6
    rw [if_pos e0, if_pos e0, v1, Option.bind_some, show vc hc1 o 1 (C1_draw hc1 o 4) = _ from d4, Option.bind_some]
    dsimp only
    rw [sv_vc x2, b1, Option.bind_some, Option.bind_some, if_neg (show ¬ v = 1 by omega), Option.bind_some, if_neg (show ¬ v = 2 by omega), show M_draw τ1 4 = _ from d5, Option.bind_some]
    dsimp only
    rw [m1, Option.bind_some, Option.bind_some, if_neg (show ¬ v = 1 by omega), Option.bind_some, if_neg (show ¬ v = 2 by omega)]
    exact ⟨hc3, τ3, _, rfl, rfl, YI_ch y2 b2 b3 m2 ⟨x3.1, ME_fx m2 x3.2.1, m3, sv_w b2, by decide⟩, by unfold brk; rw [if_neg (by omega)]⟩
  · rw [if_neg e0, if_neg e0, Option.bind_some, Option.bind_some]
    by_cases e1 : v = 1
    · rw [if_pos e1, if_pos e1, cx_1 v2.1]
      rw [Option.bind_some, cx_vo v2.1, cx_m v2.1, Option.bind_some, v3.2.1.1.2.1]
      by_cases em : pM (zP S) = 0
      · have q : i3 (pM (zP S)) ≤ 0 := by rw [em]; decide
        rw [if_pos q, if_pos q, Option.bind_some, Option.bind_some, if_neg (show ¬ v = 2 by omega), if_neg (show ¬ v = 2 by omega)]
        exact ⟨hc1, τ1, w, rfl, rfl, y1, rfl⟩
      · have q : ¬ i3 (pM (zP S)) ≤ 0 := fun x => em (by have := (i3_le (a := pM (zP S)) (b := 0) (by omega) (by decide)).mp x; omega)
        obtain ⟨hc2, τ2, t, d4, d5, d6, y2⟩ := YI_draw y1 (m := pM (zP S)) (by omega) (by omega)
        obtain ⟨x1, x2, x3⟩ := YI_3 y2
        have htl : tow (zP S) w t < 4 := wfp_tow x3.1 d6
        rw [if_neg q, if_neg q, Option.bind_some, cx_vo v2.1, cx_m v2.1, Option.bind_some, d4, Option.bind_some, d5, Option.bind_some]
        dsimp only
        rw [x1, Option.bind_some, Option.bind_some, sv_vc x2, C3_town_eq x2 d6, Option.bind_some, sv_vc x2, C3_archive_eq x2 (by omega), Option.bind_some]
        have hal : arc (zP S) w (tow (zP S) w t) < 2 ^ pN (zP S) := bst_lt _ _
        by_cases ea0 : arc (zP S) w (tow (zP S) w t) = 0
        · rw [if_pos ((i3_eq0 (p2 (b := 31) hal (by omega))).mpr ea0), M_takesLeast_no x3 d6 ea0, Option.bind_some, Option.bind_some, Option.bind_some, if_neg (show ¬ v = 2 by omega), if_neg (show ¬ v = 2 by omega)]
          exact ⟨hc2, τ2, w, rfl, rfl, y2, rfl⟩
        · obtain ⟨k, k1, k2, k3⟩ := least_bit _ hal ea0
          obtain ⟨hc3, b1, b2, b3⟩ := C3_take_eq x2 (c := t) (k := k) d6 k1
          obtain ⟨m1, m2⟩ := mv_putT x3 (j := 19 + k) (v := 4 + t) (x := 10 + i3 t) (by omega) (by rw [if_pos (by omega), atM_y (by omega) (by omega), show (10 : Int32) + i3 t = i3 (10 + t) from i3_add 10 t]; congr 1; omega) (sv_w b2)
          rw [if_neg (fun x => ea0 ((i3_eq0 (p2 (b := 31) hal (by omega))).mp x)), Option.bind_some, ntz_eq (p2 (b := 10) hal (by omega)) (by omega) k2 k3, Option.bind_some, sv_vc x2, b1, Option.bind_some, Option.bind_some, M_takesLeast_k x3 d6 k2 k3, Option.bind_some, Option.bind_some, if_neg (show ¬ v = 2 by omega), if_neg (show ¬ v = 2 by omega)]
          exact ⟨hc3, _, _, rfl, rfl, YI_ch y2 b2 b3 m2 m1, upn_ne (by omega)⟩
    · rw [if_neg e1, if_neg e1, Option.bind_some, Option.bind_some]
      by_cases e2 : v = 2
      · rw [if_pos e2, if_pos e2, cx_1 v2.1, Option.bind_some, cx_n v2.1, Option.bind_some, v3.2.1.1.1]
        by_cases en : pN (zP S) = 0
        · have q : i3 (pN (zP S)) ≤ 0 := by rw [en]; decide
          have q2 : i3 (pN (zP S)) = 0 := by rw [en]; rfl
          rw [if_pos q, if_pos q2]
          exact ⟨hc1, τ1, w, rfl, rfl, y1, rfl⟩
        · have q : ¬ i3 (pN (zP S)) ≤ 0 := fun x => en (by have := (i3_le (a := pN (zP S)) (b := 0) (by omega) (by decide)).mp x; omega)
          have q2 : ¬ i3 (pN (zP S)) = 0 := fun x => en ((i3_eq0 (by omega)).mp x)
          obtain ⟨hc2, τ2, k, d4, d5, d6, y2⟩ := YI_draw y1 (m := pN (zP S)) (by omega) (by omega)
          obtain ⟨hc3, τ3, b, d7, d8, d9, y3⟩ := YI_draw y2 (m := 8) (by decide) (by decide)
          obtain ⟨x1, x2, x3⟩ := YI_3 y3
          rw [if_neg q, if_neg q2, Option.bind_some, cx_n v2.1, Option.bind_some, d4, Option.bind_some, d5, Option.bind_some]
          dsimp only
          rw [show vc hc2 o 1 (C1_draw hc2 o 8) = _ from d7, Option.bind_some, show M_draw τ2 8 = _ from d8, Option.bind_some]
          dsimp only
          rw [x1, Option.bind_some, sv_vc x2, C3_isBurnt_eq x2 d6, Option.bind_some, m3_burnt x3 d6, Option.bind_some, Option.bind_some]
          cases eb : bnt w k
          · have hwb : w (1 + k) ^^^ 2 ^ b < 256 := xor_lt ((sv_w x2).1 k d6) (by have : 2 ^ b < 2 ^ 8 := Nat.pow_lt_pow_right (by decide) d9; exact this)
            obtain ⟨hc4, b1, b2, b3⟩ := sx_L x2 (k := k) (v := w (1 + k) ^^^ 2 ^ b) d6 hwb
            obtain ⟨m1, m2⟩ := mv_putT x3 (j := 1 + k) (v := w (1 + k) ^^^ 2 ^ b) (x := i3 (w (1 + k) ^^^ 2 ^ b)) (by omega) (by rw [if_neg (by omega)]) (sv_w b2)
            rw [if_pos bI_f, if_pos bI_f, sv_0 x2, Option.bind_some, sv_L x2 d6, Option.bind_some, i3_shl (show b < 31 by omega), i3_xor, b1, Option.bind_some, m3_1 x3 d6, Option.bind_some, i3_xor, show (35 : Int32) + i3 k = i3 (34 + (1 + k)) by rw [show (35 : Int32) = i3 35 from rfl, i3_add]; congr 1; omega, ast_i3 (j := 44) (show 34 + (1 + k) < 68 by omega), Option.bind_some]
            exact ⟨hc4, _, _, rfl, rfl, YI_ch y3 b2 b3 m2 m1, upn_ne (by omega)⟩
          · rw [if_neg bI_t0, if_neg bI_t0]
            exact ⟨hc3, τ3, w, rfl, rfl, y3, rfl⟩
      · rw [if_neg e2, if_neg e2]
        exact ⟨hc1, τ1, w, rfl, rfl, y1, rfl⟩
theorem nbn_sum {b : Nat → Bool} : ∀ m, smf (fun k => (!b k).toNat) m + smf (fun k => (b k).toNat) m = m := by
  intro m
  induction m with
  | zero => rfl
  | succ m ih =>
    unfold smf
    cases b m <;> simp <;> omega
theorem M_yearsN_eq (hm : MV σ 34 P w) : o_loop (M_years_L66 σ) (0, 0) = some (i3 (pN P - pc (bns P w))) := by
  have hN := hm.1.1
  have e : pN P - pc (bns P w) = smf (fun k => (!bnt w k).toNat) (pN P) := by
    unfold bns
    rw [pc_bst (by omega)]
    have := nbn_sum (b := fun k => bnt w k) (pN P)
    omega
  rw [e]
  refine o_for0 (fun k => (i3 (smf (fun k => (!bnt w k).toNat) k), i3 k)) (pN P) rfl (fun k hk => ?_) ?_
  · unfold M_years_L66
    dsimp only
    rw [hm.2.1.1.1, if_pos ((i3_lt (by omega) (by omega)).mpr hk), m3_burnt hm hk, Option.bind_some, i3_succ]
    rw [show smf (fun k => (!bnt w k).toNat) (k + 1) = smf (fun k => (!bnt w k).toNat) k + (!bnt w k).toNat from rfl]
    cases eb : bnt w k
    · rw [if_pos bI_f, Option.bind_some, i3_succ]
      rfl
    · rw [if_neg bI_t0, Option.bind_some, show ∀ x : Int32, x + 0 = x from fun x => Int32.add_zero x]
      rfl
  · unfold M_years_L66
    dsimp only
    rw [hm.2.1.1.1, if_neg (fun x => absurd ((i3_lt (by omega) (by omega)).mp x) (by omega))]
theorem op_years (hS : RS K o (h, r) σ (N + 1)) (a0 a1 a2 : Int32) : ∃ z v σ', C1_years K h r o a0 a1 a2 = some z ∧ M_years σ a0 a1 a2 = some (v, σ') ∧ JN K o r N true 2 z v σ' := by
  obtain ⟨S, ⟨f, B, sT, aT, hT, seed, ea, eh, hp⟩, hM, hr1, hr2⟩ := hS
  dsimp only at hp hr1 hr2
  have hZ := RCp_Z hp
  obtain ⟨hv, hs, ht, hF, hacts, hheard, hrf⟩ := RD_of hp
  have hM1 : RM (sf σ 0 0) S := RM_gx hZ (Gx_sf (.inl rfl)) hM
  have h0 : mf (sf σ 0 0) 0 = 0 := mf_sf0
  unfold C1_years M_years
  rw [show pf σ 0 0 = some (sf σ 0 0) from rfl, Option.bind_some]
  generalize sf σ 0 0 = s1 at hM1 h0
  have mv := RM_MV hZ hM1
  have hN := hZ.1.1
  have hMM := hZ.1.2.1
  have hQ := hZ.1.2.2.1
  cases e0 : inR a2 (2 + 1)
  · rw [aO_no (y := 2) (m := 2) rfl (by decide) e0 (by omega) (by omega), xg_r, mO_no (y := 2) (m := 2) rfl (by decide) h0 e0, Option.bind_some, if_pos (show ((0 : Int32), sf s1 0 1).1 = 0 from rfl)]
    exact ⟨_, _, _, rfl, rfl, JN_thr hp hM1 hr1 hr2 (.inl ⟨rfl, rfl, rfl⟩)⟩
  rw [aO_ok (y := 2) (m := 2) rfl (by decide) e0, xg_l, mO_ok (y := 2) (m := 2) rfl (by decide) h0 e0, Option.bind_some, if_neg (show ¬ ((1 : Int32), s1).1 = 0 from i_ne10)]
  try dsimp only
  obtain ⟨k2, hk2, rfl⟩ := inR_is e0
  rw [show C1_in a1 0 40 = some (bI (inB a1 0 40)) from C1_in_eq (a := 0) (b := 40) a1 (by decide) (by decide), Option.bind_some]
  cases e1 : inB a1 0 40
  · rw [rg_no (by omega) (by omega), xg_r, mD_no (y := 0) (m := 0) (c := 2) rfl (by decide) h0 (by decide) e1, Option.bind_some, if_pos (show ((0 : Int32), sf s1 0 2).1 = 0 from rfl)]
    exact ⟨_, _, _, rfl, rfl, JN_thr hp hM1 hr1 hr2 (.inr ⟨rfl, by decide, rfl⟩)⟩
  rw [rg_ok, xg_l, mD_ok (y := 0) (m := 0) (c := 2) rfl (by decide) h0 e1, Option.bind_some, if_neg (show ¬ ((1 : Int32), s1).1 = 0 from i_ne10)]
  try dsimp only
  obtain ⟨k1, hk1l, hk1, rfl⟩ := inB_is e1
  obtain ⟨σ1, g1, g2, g3⟩ := M_tries_eq mv
  have hd := hZ.2.1.2
  have hoo := (RC_o hp).2.1
  -- the seed is set before: the same state in the end
  have hp2 : RCp K (hup h o (oCell B S (B 2) (B 14) (B 15) sT aT hT a0)) r.1 o S f B sT aT hT a0 ea eh := RC_nm (t := zt S) (x := zF S) (seed' := a0) hp hZ.2.2.2.2.2.2
  obtain ⟨h2, c1, c2, c3, c4, c5⟩ := RC_be hp2
  have hgx : Gx σ1 (sf σ1 55 a0) := Gx_sf (.inr rfl)
  have hMt : RM σ1 S := RM_gx hZ (Gx_fx g2) hM1
  have y0 : YI K r.1 o S f B sT aT hT ea eh h2 (sf σ1 55 a0) (zw S) := ⟨_, a0, hp2, c4, c5, by unfold mf sf; dsimp only; rw [if_pos rfl], ⟨g3.1, ME_of g3.2.1 (fun k _ _ => hgx.1 k (by omega) (by omega)) (fun j _ _ => rfl) rfl, g3.2.2.1, g3.2.2.2⟩, RM_gx hZ hgx hMt, by unfold mf sf; dsimp only; rw [if_neg (by decide)]; exact (mf_fx g2 0).trans h0⟩
  have hs2 : gR (hup h o (oCell B S (B 2) (B 14) (B 15) sT aT hT a0)) o 1 2 = some (B 2) := (RD_of hp2).2.1
  rw [show pI h o 1 13 a0 = some (hup h o (oCell B S (B 2) (B 14) (B 15) sT aT hT a0)) from pI_of hoo (show 13 < 14 by decide), Option.bind_some, c1, Option.bind_some, hs2, Option.bind_some]
  have hvc7 : ∀ {α : Type} (x : Option α), vc (hup h o (oCell B S (B 2) (B 14) (B 15) sT aT hT a0)) (B 7) 3 x = x := fun x => by unfold vc; rw [if_pos c2]
  rw [hvc7, c3, Option.bind_some, g1, Option.bind_some, show pf σ1 55 a0 = some (sf σ1 55 a0) from rfl, Option.bind_some]
  dsimp only
  obtain ⟨r1, r2, l1, l2, hcR, w', y1, y2⟩ : ∃ r1 r2, o_loop (C1_years_L35 K o (i3 k1)) (0, (h2, r)) = some r1 ∧ o_loop (M_years_L38 (i3 k1)) (0, sf σ1 55 a0) = some r2 ∧ ∃ hcR w', r1 = .inl (hcR, r) ∧ YI K r.1 o S f B sT aT hT ea eh hcR r2 w' := by
    refine o_two (fun k (t1 : Int32 × CS) (t2 : Int32 × MS) => t1.1 = i3 k ∧ t2.1 = i3 k ∧ t1.2.2 = r ∧ ∃ w', YI K r.1 o S f B sT aT hT ea eh t1.2.1 t2.2 w' ∧ w' 0 = zw S 0 + k) (fun (r1 : CS ⊕ XT) (r2 : MS) => ∃ hcR w', r1 = Sum.inl (hcR, r) ∧ YI K r.1 o S f B sT aT hT ea eh hcR r2 w') k1 (fun k t1 t2 hk hI => ?_) (fun t1 t2 hI => ?_) 0 (0, (h2, r)) (0, sf σ1 55 a0) (Nat.zero_le _) ⟨rfl, rfl, rfl, zw S, y0, rfl⟩
    · obtain ⟨t1, tc, tr⟩ := t1
      obtain ⟨t2, tm⟩ := t2
      obtain ⟨rfl, rfl, rfl, w1, q1, q2⟩ := hI
      dsimp only at q1
      left
      unfold C1_years_L35 M_years_L38
      dsimp only
      obtain ⟨hc3, τ3, w3, p1, p2, p3, p4⟩ := YI_befalls q1
      obtain ⟨x1, x2, x3⟩ := YI_3 p3
      obtain ⟨hc4, n1, n2, n3⟩ := C3_pass_eq x2 (by omega)
      obtain ⟨τ4, o1, o2, o3⟩ := m3_day x3 (by omega)
      rw [if_pos ((i3_lt (by omega) (by omega)).mpr hk), if_pos ((i3_lt (by omega) (by omega)).mpr hk), p1, Option.bind_some, x1, Option.bind_some, sv_vc x2, n1, Option.bind_some, p2, Option.bind_some, o1, Option.bind_some, i3_succ]
      exact ⟨_, _, rfl, rfl, rfl, rfl, rfl, _, YI_ch p3 n2 n3 o2 o3, by rw [pas_0]; omega⟩
    · obtain ⟨t1, tc, tr⟩ := t1
      obtain ⟨t2, tm⟩ := t2
      obtain ⟨rfl, rfl, rfl, w1, q1, q2⟩ := hI
      dsimp only at q1
      unfold C1_years_L35 M_years_L38
      dsimp only
      rw [if_neg (fun x => absurd ((i3_lt (by omega) (by omega)).mp x) (by omega)), if_neg (fun x => absurd ((i3_lt (by omega) (by omega)).mp x) (by omega))]
      exact ⟨_, _, rfl, rfl, tc, w1, rfl, q1⟩
  subst y1
  rw [l1, xg_l, l2, Option.bind_some]
  dsimp only
  obtain ⟨x1, x2, x3⟩ := YI_3 y2
  have hend : ∀ x : Int32, JN K o r N true 2 (.inl (x, (hcR, r))) x r2 := by
    intro x
    obtain ⟨hb, seed', q1, q2, q3, q4, q5, q6, q7⟩ := y2
    exact JN_in ⟨f, B, sT, aT, hT, seed', ea, eh, RC_tx q1 q2 q3⟩ q6 q7 (by omega) (by omega) (Nat.le_refl _) (Nat.le_refl _)
  rw [M_yearsN_eq x3, Option.bind_some]
  have hkl := knw_lt x3.2.2.2.1 63
  have e63 : knw (zP S) w' (2 ^ pM (zP S) - 1) = knw (zP S) w' 63 := by rw [knw_63 hZ.1, knw_ev]
  have hbl : bns (zP S) w' < 2 ^ 12 := p2 (bst_lt _ _) (by omega)
  have hrl : brn (zP S) w' < 2 ^ 12 := p2 (bst_lt _ _) (by omega)
  have hbc : pc (bns (zP S) w') ≤ pN (zP S) := by
    unfold bns
    rw [pc_bst (by omega)]
    have := nbn_sum (b := fun k => bnt w' k) (pN (zP S))
    omega
  have hcs : k2 = 0 ∨ k2 = 1 ∨ k2 = 2 := by omega
  rcases hcs with rfl | rfl | rfl
  · rw [if_pos (show i3 0 = 0 from rfl), if_pos (show i3 0 = 0 from rfl), x1, Option.bind_some, sv_vc x2, C3_read_eq x2, Option.bind_some, bitCount_eq hkl, Option.bind_some]
    simp only [M_everybody_eq x3.2.1 hZ.1, ob_s, m3_known x3 (ev_lt hZ.1), e63, M_bits_eq (p2 (b := 31) hkl (by decide))]
    exact ⟨_, _, _, rfl, rfl, hend _⟩
  · rw [if_neg (show ¬ i3 1 = 0 by decide), if_pos (show i3 1 = 1 from rfl), if_neg (show ¬ i3 1 = 0 by decide), if_pos (show i3 1 = 1 from rfl), cx_1 x2.1, Option.bind_some, cx_n x2.1, Option.bind_some, x1, Option.bind_some, sv_vc x2, C3_burnt_eq x2, Option.bind_some, bitCount_eq hbl, Option.bind_some, i3_sub hbc]
    exact ⟨_, _, _, rfl, rfl, hend _⟩
  · rw [if_neg (show ¬ i3 2 = 0 by decide), if_neg (show ¬ i3 2 = 1 by decide), if_neg (show ¬ i3 2 = 0 by decide), if_neg (show ¬ i3 2 = 1 by decide), x1, Option.bind_some, sv_vc x2, C3_borne_eq x2, Option.bind_some, bitCount_eq hrl, Option.bind_some, show M_borneOnes r2 34 = _ from M_borneOnes_eq (b := 34) x3, Option.bind_some, M_bits_eq (p2 (b := 31) hrl (by decide)), Option.bind_some]
    exact ⟨_, _, _, rfl, rfl, hend _⟩
end YEARS
