/-! ===== together ===== -/
section OPS7
variable {K : Nat → Nat} {h : CH} {r : CR} {o N : Nat} {σ : MS}
/-- how many of the first c clerks are in a town on a day -/
def ctw (P : PO) (d t : Nat) (c : Nat) : Nat := smf (fun c => (decide (towD P c d = t)).toNat) c
theorem ctw_mono {P : PO} {d t c : Nat} : ∀ m, c ≤ m → ctw P d t c ≤ ctw P d t m := by
  intro m
  induction m with
  | zero => intro h; have : c = 0 := by omega
            subst this; exact Nat.le_refl _
  | succ m ih =>
    intro h
    by_cases e : c = m + 1
    · subst e; exact Nat.le_refl _
    · show ctw P d t c ≤ ctw P d t m + (decide (towD P m d = t)).toNat
      exact Nat.le_trans (ih (by omega)) (Nat.le_add_right _ _)
theorem ctw_le {P : PO} {d t c : Nat} : ctw P d t c ≤ c := by
  have := smf_le (f := fun c => (decide (towD P c d = t)).toNat) (b := 1) c (fun _ _ => Bool.toNat_le _)
  unfold ctw
  omega
/-- whether many are together on a day -/
def tgt (P : PO) (d many : Nat) : Prop := ∃ t, t < 4 ∧ many ≤ ctw P d t (pM P)
/-- the component: one day -/
theorem C_tog_day {S : ST} {f : CH} {B : Nat → Nat} {sT aT hT : Option Nat} {seed : Int32} {ea eh : Nat → Nat} {h0 : CH} {r0 : CR} (hp : RCp K h0 r0.1 o S f B sT aT hT seed ea eh) {d k many : Nat} (hd : zw S 0 + k = d) (hk : k ≤ 100) (hm : 1 ≤ many) (hmb : many ≤ 6) (h1 : 1 ≤ r0.2.1) (h2 : 4 ≤ r0.2.2) :
    ∃ h', RCp K h' (r0.1 + 1) o S f B sT aT hT seed ea eh ∧ o_loop (C1_together_L25 o (i3 many) (i3 k, h0, r0)) (0, hup h0 r0.1 (.inl (0, 4, .inl (fun _ => 0))), r0.1 + 1, r0.2.1 - 1, r0.2.2 - 4) = some (@ite _ (tgt (zP S) d many) (Classical.propDecidable _) (.inr (.inl (i3 k, (h', r0.1 + 1, r0.2.1 - 1, r0.2.2 - 4)))) (.inl (i3 (k + 1), (h', r0.1 + 1, r0.2.1 - 1, r0.2.2 - 4)))) := by
  have hZ := RCp_Z hp
  have hM := hZ.1.2.1
  have hd9 := hZ.2.1.2
  have hfr := RCp_FR hp
  obtain ⟨res, e, h', hp', hres⟩ : ∃ res, o_loop (C1_together_L25 o (i3 many) (i3 k, h0, r0)) (0, hup h0 r0.1 (.inl (0, 4, .inl (fun _ => 0))), r0.1 + 1, r0.2.1 - 1, r0.2.2 - 4) = some res ∧ ∃ h', RCp K h' (r0.1 + 1) o S f B sT aT hT seed ea eh ∧ res = @ite _ (tgt (zP S) d many) (Classical.propDecidable _) (Sum.inr (Sum.inl (i3 k, (h', r0.1 + 1, r0.2.1 - 1, r0.2.2 - 4)))) (Sum.inl (i3 (k + 1), (h', r0.1 + 1, r0.2.1 - 1, r0.2.2 - 4))) := by
    refine o_inv (fun c (t : Int32 × CS) => t.1 = i3 c ∧ t.2.2 = (r0.1 + 1, r0.2.1 - 1, r0.2.2 - 4) ∧ (∃ g, t.2.1 r0.1 = some (.inl (0, 4, .inl g)) ∧ ∀ q, q < 4 → g q = i3 (ctw (zP S) d q c)) ∧ hB r0.1 h0 t.2.1 ∧ FR t.2.1 (r0.1 + 1) ∧ ∀ q, q < 4 → ctw (zP S) d q c < many) (fun res => ∃ h', RCp K h' (r0.1 + 1) o S f B sT aT hT seed ea eh ∧ res = @ite _ (tgt (zP S) d many) (Classical.propDecidable _) (Sum.inr (Sum.inl (i3 k, (h', r0.1 + 1, r0.2.1 - 1, r0.2.2 - 4)))) (Sum.inl (i3 (k + 1), (h', r0.1 + 1, r0.2.1 - 1, r0.2.2 - 4)))) (pM (zP S)) (fun c t hc hI => ?_) (fun t hI => ?_) 0 _ (Nat.zero_le _) ⟨rfl, rfl, ⟨_, hup_s, fun q hq => rfl⟩, fun q hq => hup_n (by omega), FR_up hfr, fun q hq => by show 0 < many; omega⟩
    · obtain ⟨t1, t2, t3⟩ := t
      obtain ⟨rfl, rfl, ⟨g, hg, hgv⟩, hb, hf1, hlt⟩ := hI
      dsimp only at hg hb hf1
      have hp1 := RC_grow hp hb hf1 (Nat.le_succ _)
      obtain ⟨hv, hs, -⟩ := RD_of hp1
      have htw : towD (zP S) c d < 4 := wfp_tow hZ.1 hc
      have hcl := ctw_le (P := zP S) (d := d) (t := towD (zP S) c d) (c := c)
      unfold C1_together_L25
      dsimp only
      rw [cx_1 hv.1]
      simp only [ob_s, cx_vo hv.1, cx_m hv.1]
      rw [if_pos ((i3_lt (by omega) (by omega)).mpr hc), hs]
      simp only [ob_s, sv_d hv, i3_add, hd, C2_town_eq hv.1 hc (show d < 2 ^ 31 by omega)]
      rw [aI_of hg htw (by decide), hgv _ htw]
      simp only [ob_s]
      rw [i3_succ, sI_of hg htw (by decide)]
      simp only [ob_s]
      rw [aI_of (f := upd g (towD (zP S) c d) (i3 (ctw (zP S) d (towD (zP S) c d) c + 1))) hup_s htw (by decide)]
      simp only [ob_s]
      have eu : upd g (towD (zP S) c d) (i3 (ctw (zP S) d (towD (zP S) c d) c + 1)) (towD (zP S) c d) = i3 (ctw (zP S) d (towD (zP S) c d) c + 1) := by
        unfold upd
        rw [if_pos rfl]
      rw [eu]
      have ecs : ctw (zP S) d (towD (zP S) c d) (c + 1) = ctw (zP S) d (towD (zP S) c d) c + 1 := by
        show ctw (zP S) d (towD (zP S) c d) c + (decide (towD (zP S) c d = towD (zP S) c d)).toNat = _
        rw [decide_eq_true rfl]
        rfl
      have hb2 : hB r0.1 h0 (hup t2 r0.1 (.inl (0, 4, .inl (upd g (towD (zP S) c d) (i3 (ctw (zP S) d (towD (zP S) c d) c + 1)))))) := fun q hq => by rw [hup_n (by omega)]; exact hb q hq
      have hf2 : FR (hup t2 r0.1 (.inl (0, 4, .inl (upd g (towD (zP S) c d) (i3 (ctw (zP S) d (towD (zP S) c d) c + 1)))))) (r0.1 + 1) := FR_set hf1 (by omega)
      have hlt1 := hlt _ htw
      by_cases e1 : ctw (zP S) d (towD (zP S) c d) c + 1 = many
      · rw [if_pos (by rw [e1])]
        right
        refine ⟨_, rfl, _, RC_grow hp hb2 hf2 (Nat.le_succ _), ?_⟩
        rw [if_pos]
        exact ⟨_, htw, by rw [← e1, ← ecs]; exact ctw_mono _ (by omega)⟩
      · rw [if_neg (fun x => e1 ((i3_inj (by omega) (by omega)).mp x))]
        left
        refine ⟨_, rfl, i3_succ c, rfl, ⟨_, hup_s, fun q hq => ?_⟩, hb2, hf2, fun q hq => ?_⟩
        · unfold upd
          by_cases eq : q = towD (zP S) c d
          · rw [if_pos eq, eq, ecs]
          · rw [if_neg eq, hgv q hq]
            show i3 _ = i3 (ctw (zP S) d q c + (decide (towD (zP S) c d = q)).toNat)
            rw [decide_eq_false (fun x => eq x.symm)]
            rfl
        · by_cases eq : q = towD (zP S) c d
          · rw [eq, ecs]; omega
          · show ctw (zP S) d q c + (decide (towD (zP S) c d = q)).toNat < many
            rw [decide_eq_false (fun x => eq x.symm)]
            exact hlt q hq
    · obtain ⟨t1, t2, t3⟩ := t
      obtain ⟨rfl, rfl, ⟨g, hg, hgv⟩, hb, hf1, hlt⟩ := hI
      dsimp only at hg hb hf1
      have hp1 := RC_grow hp hb hf1 (Nat.le_succ _)
      obtain ⟨hv, hs, -⟩ := RD_of hp1
      unfold C1_together_L25
      dsimp only
      rw [cx_1 hv.1]
      simp only [ob_s, cx_vo hv.1, cx_m hv.1]
      rw [if_neg (fun x => absurd ((i3_lt (by omega) (by omega)).mp x) (by omega)), i3_succ]
      refine ⟨_, rfl, t2, hp1, ?_⟩
      rw [if_neg]
      rintro ⟨t, ht, h3⟩
      have := hlt t ht
      omega
  exact ⟨h', hp', by rw [e, hres]⟩
/-- the reference: one day -/
theorem M_tog_day {P : PO} {w : SV} {s1 : MS} {q : Int32} (mv : MV s1 0 P w) {d k many : Nat} (hd : w 0 + k = d) (hdl : d < 2 ^ 30) (hm : many < 2 ^ 30) : o_loop (M_together_L32 (i3 many) (q, s1) (i3 k)) 0 = some (@ite _ (tgt P d many) (Classical.propDecidable _) (.inr (i3 k, s1)) (.inl (i3 (k + 1)))) := by
  have hM := mv.1.2.1
  have hin : ∀ t, t < 4 → o_loop (M_together_L43 (q, s1) (i3 k) (i3 t)) (0, 0) = some (i3 (ctw P d t (pM P))) := by
    intro t ht
    refine o_for0 (fun c => (i3 (ctw P d t c), i3 c)) (pM P) rfl (fun c hc => ?_) ?_
    · have htw := wfp_tow mv.1 (c := c) (d := d) hc
      unfold M_together_L43
      dsimp only
      rw [mv.2.1.1.2.1, if_pos ((i3_lt (by omega) (by omega)).mpr hc), m0_d mv]
      simp only [ob_s, i3_add, hd, M_townOn_eq mv.1 mv.2.1 hc (show d < 2 ^ 31 by omega), i3_succ]
      show _ = some (Sum.inl (i3 (ctw P d t c + (decide (towD P c d = t)).toNat), i3 (c + 1)))
      by_cases e : towD P c d = t
      · rw [if_pos (by rw [e]), decide_eq_true e, Option.bind_some, show i3 (ctw P d t c) + 1 = _ from i3_add _ 1]
        rfl
      · rw [if_neg (fun x => e ((i3_inj (by omega) (by omega)).mp x)), decide_eq_false e, Option.bind_some, Int32.add_zero]
        rfl
    · unfold M_together_L43
      dsimp only
      rw [mv.2.1.1.2.1, if_neg (fun x => absurd ((i3_lt (by omega) (by omega)).mp x) (by omega))]
  obtain ⟨res, e, hres⟩ : ∃ res, o_loop (M_together_L32 (i3 many) (q, s1) (i3 k)) 0 = some res ∧ res = @ite _ (tgt P d many) (Classical.propDecidable _) (Sum.inr (i3 k, s1)) (Sum.inl (i3 (k + 1))) := by
    refine o_inv (fun t (x : Int32) => x = i3 t ∧ ∀ j, j < t → ctw P d j (pM P) < many) (fun res => res = @ite _ (tgt P d many) (Classical.propDecidable _) (Sum.inr (i3 k, s1)) (Sum.inl (i3 (k + 1)))) 4 (fun t x ht hI => ?_) (fun x hI => ?_) 0 _ (Nat.zero_le _) ⟨rfl, fun j hj => absurd hj (Nat.not_lt_zero _)⟩
    · obtain ⟨rfl, hI⟩ := hI
      have hcl := ctw_le (P := P) (d := d) (t := t) (c := pM P)
      unfold M_together_L32
      rw [if_pos ((i3_ltl (c := 4) (n := 4) rfl (by omega) (by decide)).mpr ht), hin t ht, Option.bind_some]
      by_cases e : ctw P d t (pM P) < many
      · rw [if_pos ((i3_lt (by omega) (by omega)).mpr e), i3_succ]
        left
        refine ⟨_, rfl, rfl, fun j hj => ?_⟩
        by_cases ej : j = t
        · rw [ej]; exact e
        · exact hI j (by omega)
      · rw [if_neg (fun x => e ((i3_lt (by omega) (by omega)).mp x))]
        right
        refine ⟨_, rfl, ?_⟩
        rw [if_pos]
        exact ⟨t, ht, by omega⟩
    · obtain ⟨rfl, hI⟩ := hI
      unfold M_together_L32
      rw [if_neg (by decide), i3_succ]
      refine ⟨_, rfl, ?_⟩
      rw [if_neg]
      rintro ⟨t, ht, h3⟩
      have := hI t ht
      omega
  rw [e, hres]
theorem op_together (hS : RS K o (h, r) σ (N + 1)) (a0 : Int32) : ∃ z v σ', C1_together h r o a0 = some z ∧ M_together σ a0 = some (v, σ') ∧ JN K o r N false 1 z v σ' := by
  obtain ⟨S, ⟨f, B, sT, aT, hT, seed, ea, eh, hp⟩, hM, hr1, hr2⟩ := hS
  dsimp only at hp hr1 hr2
  have hZ := RCp_Z hp
  have hM1 : RM (sf σ 0 0) S := RM_gx hZ (Gx_sf (.inl rfl)) hM
  have h0 : mf (sf σ 0 0) 0 = 0 := mf_sf0
  unfold C1_together M_together
  rw [show pf σ 0 0 = some (sf σ 0 0) from rfl, Option.bind_some]
  generalize sf σ 0 0 = s1 at hM1 h0
  have mv := RM_MV hZ hM1
  have hd9 := hZ.2.1.2
  rw [show C1_in a0 1 6 = some (bI (inB a0 1 6)) from C1_in_eq (a := 1) (b := 6) a0 (by decide) (by decide), show M_within a0 1 6 = some (bI (inB a0 1 6)) from M_within_eq (a := 1) (b := 6) a0 (by decide) (by decide)]
  simp only [ob_s]
  cases e2 : inB a0 1 6
  · rw [rg_no (by omega) (by omega), xg_r, M_right_no h0 (by decide), Option.bind_some, if_pos (show ((0 : Int32), sf s1 0 1).1 = 0 from rfl)]
    exact ⟨_, _, _, rfl, rfl, JN_thr hp hM1 hr1 hr2 (.inr ⟨rfl, by decide, rfl⟩)⟩
  rw [rg_ok, xg_l, M_right_ok h0, Option.bind_some, if_neg (show ¬ ((1 : Int32), s1).1 = 0 from i_ne10)]
  obtain ⟨m, hml, hm, rfl⟩ := inB_is e2
  obtain ⟨q1, q2, m1, m2, m3⟩ : ∃ (q1 : (Int32 × CS) ⊕ XT) (q2 : Int32 × MS), o_loop (C1_together_L12 o (i3 m)) (0, (h, r)) = some q1 ∧ o_loop (M_together_L24 (i3 m) (1, s1)) 0 = some q2 ∧ ∃ v h' r', q1 = .inl (v, (h', r')) ∧ q2 = (v, s1) ∧ RCp K h' r'.1 o S f B sT aT hT seed ea eh ∧ r.2.1 ≤ r'.2.1 + 61 ∧ r.2.2 ≤ r'.2.2 + 244 ∧ r'.2.1 ≤ r.2.1 ∧ r'.2.2 ≤ r.2.2 := by
    refine o_two (fun k (x1 : Int32 × CS) (x2 : Int32) => x1.1 = i3 k ∧ x2 = i3 k ∧ RCp K x1.2.1 x1.2.2.1 o S f B sT aT hT seed ea eh ∧ r.2.1 ≤ x1.2.2.2.1 + k ∧ r.2.2 ≤ x1.2.2.2.2 + 4 * k ∧ x1.2.2.2.1 ≤ r.2.1 ∧ x1.2.2.2.2 ≤ r.2.2) (fun (q1 : (Int32 × CS) ⊕ XT) (q2 : Int32 × MS) => ∃ v h' r', q1 = .inl (v, (h', r')) ∧ q2 = (v, s1) ∧ RCp K h' r'.1 o S f B sT aT hT seed ea eh ∧ r.2.1 ≤ r'.2.1 + 61 ∧ r.2.2 ≤ r'.2.2 + 244 ∧ r'.2.1 ≤ r.2.1 ∧ r'.2.2 ≤ r.2.2) 61 (fun k x1 x2 hk hI => ?_) (fun x1 x2 hI => ?_) 0 _ _ (Nat.zero_le _) ⟨rfl, rfl, hp, Nat.le_refl _, Nat.le_refl _, Nat.le_refl _, Nat.le_refl _⟩
    · obtain ⟨x1, y1, z1⟩ := x1
      obtain ⟨rfl, rfl, hpk, c1, c2, c3, c4⟩ := hI
      dsimp only at hpk c1 c2 c3 c4
      obtain ⟨h', p1, p2⟩ := C_tog_day (r0 := z1) hpk (d := zw S 0 + k) (k := k) (many := m) rfl (by omega) hml hm (by omega) (by omega)
      have p3 := M_tog_day (q := 1) mv (d := zw S 0 + k) (k := k) (many := m) rfl (by omega) (by omega)
      unfold C1_together_L12 M_together_L24
      dsimp only
      rw [if_pos ((i3_lel (c := 60) (n := 60) rfl (by omega) (by decide)).mpr (by omega)), if_pos ((i3_lel (c := 60) (n := 60) rfl (by omega) (by decide)).mpr (by omega)), show aArr y1 z1 0 4 = _ from aArr_of (n := 4) (by omega) (by omega) (by decide), Option.bind_some, p2, p3]
      by_cases e : tgt (zP S) (zw S 0 + k) m
      · rw [if_pos e, if_pos e]
        exact .inr ⟨_, _, rfl, rfl, _, h', (z1.1 + 1, z1.2.1 - 1, z1.2.2 - 4), rfl, rfl, p1, by dsimp only; omega, by dsimp only; omega, by dsimp only; omega, by dsimp only; omega⟩
      · rw [if_neg e, if_neg e]
        exact .inl ⟨_, _, rfl, rfl, rfl, rfl, p1, by dsimp only; omega, by dsimp only; omega, by dsimp only; omega, by dsimp only; omega⟩
    · obtain ⟨x1, y1, z1⟩ := x1
      obtain ⟨rfl, rfl, hpk, c1, c2, c3, c4⟩ := hI
      dsimp only at hpk c1 c2 c3 c4
      unfold C1_together_L12 M_together_L24
      dsimp only
      rw [if_neg (by decide), if_neg (by decide)]
      exact ⟨_, _, rfl, rfl, _, y1, z1, rfl, rfl, hpk, c1, c2, c3, c4⟩
  obtain ⟨v, h', r', rfl, rfl, hp', c1, c2, c3, c4⟩ := m3
  rw [m1, m2]
  exact ⟨_, _, _, rfl, rfl, JN_in ⟨f, B, sT, aT, hT, seed, ea, eh, hp'⟩ hM1 h0 (by omega) (by omega) c3 c4⟩
end OPS7
