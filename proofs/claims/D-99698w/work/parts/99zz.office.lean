/-! ===== office: both sides ===== -/
section OFFICE
variable {K : Nat → Nat} {h hb f : CH} {o m0 n N : Nat} {T : Nat → Nat} {S : ST} {B : Nat → Nat} {sT aT hT : Option Nat} {seed : Int32} {ea eh : Nat → Nat} {f' h' : CH} {r r' : CR} {B' : Nat → Nat} {g' : Nat → Nat → Int32} {nm' D' b' : Nat} {Q : OS} {σ : MS}
theorem xh_l' {α δ : Type} {a : α} {k : XT → Option δ} {f : α → Option δ} : xh (some (.inl a)) k f = f a := rfl
theorem xh_r' {α δ : Type} {e : XT} {k : XT → Option δ} {f : α → Option δ} : xh (some (.inr e)) k f = k e := rfl
theorem LG_of (hp : RCp K hb m0 o S f B sT aT hT seed ea eh) (hn : n ≤ 700) : LG K (qR m0 o) m0 n (zT S) hb m0 f := by
  have ho := (RC_o hp).2.1
  obtain ⟨-, ⟨hl0, -⟩, ⟨⟨gt, htp, htp2⟩, -⟩, -, -, -, -, ⟨hfr, ⟨k1, k2, k3, k4⟩, hkn⟩, hZ⟩ := hp
  exact ⟨⟨k1, k2, k3⟩, ⟨⟨_, B 12, gt, ho, rfl, htp, htp2⟩, hfr, hkn, hl0⟩, ⟨hn, hZ.2.2.2.2.2.1⟩, k4⟩
/-- the new office is taken -/
theorem C_take (hp : RCp K hb m0 o S f B sT aT hT seed ea eh) (ht : zt S = 0) (hF : zF S = -1) (hC : LC K (qR m0 o) m0 n T hb m0 f f' h' r' B' g' nm' D' Q b') (hQ : WFL Q) (h1 : 2 ≤ r'.2.1) (h2 : 6 ≤ r'.2.2) : ∃ h9, ((pQ h' o 1 1 (some (m0 + 1))).bind fun s15 =>
  (gR s15 m0 4 2).bind fun v16 =>
  (pQ s15 o 1 2 (some v16)).bind fun s17 =>
  (aCell s17 r' 3 (.inr (10, [.int 0, .null, .int 0]))).bind fun s18 =>
  (CJ2_init K s18.1 r'.1).bind fun q19 =>
  (pQ q19 o 1 8 (some r'.1)).bind fun s20 =>
  (aCell s20 s18.2 3 (.inr (10, [.int 0, .null, .int 0]))).bind fun s21 =>
  (CJ2_init K s21.1 s18.2.1).bind fun q22 =>
  (pQ q22 o 1 9 (some s18.2.1)).bind fun s23 =>
  (pQ s23 o 1 10 none).bind fun s24 =>
  (some (.inl (0, (s24, s21.2))) : Option ((Int32 × CS) ⊕ XT))) = some (.inl (0, (h9, (r'.1 + 1 + 1, r'.2.1 - 1 - 1, r'.2.2 - 3 - 3)))) ∧ RC K h9 (r'.1 + 2) o (wOF S Q) := by
  have hRo := RC_o hp
  have hom : o < m0 := by have := RCp_pos (r := (m0, 0, 0)) hp 0 (by decide); rw [hRo.1] at this; exact this
  have hb := LC_base hC
  have ho : h' o = some (oCell B S (B 2) (B 14) (B 15) sT aT hT seed) := (hb.1 _ hom).trans hRo.2.1
  unfold oCell at ho
  rw [ht, hF] at ho
  have hm : ∃ v, h' m0 = some (.inr (4, rdF (qR m0 o) (i3 n) nm' (i3 (tkE T n b')) (i3 (tkK T n b')) (i3 b') (i3 (tkE T n b')) v (i3 D'))) := by
    obtain ⟨-, -, -, -, ⟨⟨-, v, c1, -⟩, -⟩, -⟩ := hC
    exact ⟨v, c1⟩
  obtain ⟨v, hm⟩ := hm
  have hor : o < r'.1 := by omega
  have hne : m0 ≠ o := by omega
  rw [pQ_of ho (show 1 < 14 by decide), Option.bind_some, gR_of (show hup h' o _ m0 = _ from (hup_n hne).trans hm) (k := 2) rfl, Option.bind_some, pQ_of hup_s (show 2 < 14 by decide), Option.bind_some, hup_hup]
  have hfr1 : ∀ c, FR (hup h' o c) r'.1 := fun c p hp => by rw [hup_n (by omega)]; exact hb.2.2.2.1 p hp
  obtain ⟨ka, -, a2, a3, a4, a5⟩ := C_new (K := K) (e := fun _ => 0) (hfr1 _) (show 1 ≤ r'.2.1 by omega) (show 3 ≤ r'.2.2 by omega)
  rw [a4, Option.bind_some, a5, Option.bind_some]
  have kao := (a3 o (by omega)).trans hup_s
  rw [pQ_of kao (show 8 < 14 by decide), Option.bind_some]
  have hfr2 : ∀ c, FR (hup ka o c) (r'.1 + 1) := fun c p hp => by rw [hup_n (by omega), a3 p (by omega)]; exact hfr1 _ p (by omega)
  obtain ⟨kb, -, b2, b3, b4, b5⟩ := C_new (K := K) (r := (r'.1 + 1, r'.2.1 - 1, r'.2.2 - 3)) (e := fun _ => 0) (hfr2 _) (show 1 ≤ r'.2.1 - 1 by omega) (show 3 ≤ r'.2.2 - 3 by omega)
  rw [b4, Option.bind_some]
  dsimp only at b2 b3 b5 ⊢
  rw [b5, Option.bind_some]
  have kbo := (b3 o (by omega)).trans hup_s
  rw [pQ_of kbo (show 9 < 14 by decide), Option.bind_some, pQ_of hup_s (show 10 < 14 by decide), Option.bind_some, hup_hup]
  refine ⟨_, rfl, RC_newO hp ht hF hC hQ hup_s (fun p p1 p2 => ?_) (fun e => ?_) (fun e => ?_) (fun p hp => ?_)⟩
  · rw [hup_n p2, b3 p (by omega), hup_n p2, a3 p (by omega), hup_n p2]
  · obtain ⟨mc, l1, l2⟩ := a2
    exact ⟨mc, by rw [hup_n (by omega), b3 _ (by omega), hup_n (by omega)]; exact l1, .inl ⟨rfl, .inl rfl⟩⟩
  · obtain ⟨mc, l1, l2⟩ := b2
    exact ⟨mc, by rw [hup_n (by omega)]; exact l1, .inl ⟨rfl, .inl rfl⟩⟩
  · rw [hup_n (by omega), b3 p (by omega)]
    exact hfr2 _ p (by omega)
/-- what is wrong is told -/
theorem C_tell (hp : RCp K hb m0 o S f B sT aT hT seed ea eh) (ht : zt S = 0) {k p b u v : Nat} {w : XT} {r1 : CR} (hr : m0 ≤ r1.1) (hE : CEr K (qR m0 o) m0 hb m0 r1 b u v k p w) : ∃ h9 r9, (if w.1 = 2 then
      (gI w.2.2.1 m0 4 9).bind fun v9 =>
      (pI w.2.2.1 o 1 6 v9).bind fun s10 =>
      (gR s10 o 1 7).bind fun v11 =>
      (aI s10 v11 0 0).bind fun v12 =>
      (sI s10 v11 0 0 (v12 + 1)).bind fun s13 =>
      (gI s13 w.2.1 5 6).bind fun v14 =>
      (some (.inl (v14, (s13, w.2.2.2))) : Option ((Int32 × CS) ⊕ XT)) else none) = some (.inl (i3 k, (h9, r9))) ∧ RC K h9 r9.1 o (wER S p) ∧ w.2.2.2 = r9 ∧ r9.2.1 ≤ r1.2.1 ∧ r9.2.2 ≤ r1.2.2 ∧ r1.2.1 ≤ r9.2.1 + 100 * (p - b) + u ∧ r1.2.2 ≤ r9.2.2 + 3000 * (p - b) + v := by
  obtain ⟨a, h', r', rfl, ⟨⟨fs, x1, x1b⟩, x2, x3, x4, x5⟩, y1, y2, y3, y4⟩ := hE
  dsimp only at *
  have hx3 : hB m0 hb h' := fun q hq => x3 q hq (by omega)
  have hp1 := RC_grow hp hx3 x4 (by omega)
  have hp2 := RC_nm (t := 0) (x := i3 p) (seed' := seed) hp1 (Nat.zero_le _)
  have ho1 := (RC_o hp1).2.1
  have hne13 : B 13 ≠ o := (RC_o hp1).2.2.2.2 13 (by decide) (by decide)
  obtain ⟨gr, hrf, hrf2⟩ := hp1.2.2.1.2
  have hrf' : ∀ c, hup h' o c (B 13) = some (.inl (0, 3, .inl gr)) := fun c => (hup_n hne13).trans hrf
  have hp3 := RC_rf (g := upd gr 0 (gr 0 + 1)) (q := fun i => if i = 0 then zR S 0 + 1 else zR S i) hp2 (fun i hi => by
    unfold upd
    by_cases e : i = 0
    · rw [if_pos e, if_pos e, hrf2 0 (by decide)]
    · rw [if_neg e, if_neg e, hrf2 i hi])
  have hao : a ≠ o := fun e => by rw [e, ho1] at x1; cases x1
  have ha13 : a ≠ B 13 := fun e => by rw [e, hrf] at x1; cases x1
  rw [if_pos rfl, x2, Option.bind_some, pI_of ho1 (show 6 < 14 by decide), Option.bind_some, gR_of hup_s (k := 7) rfl, Option.bind_some, show (0 : Int32) = i3 0 from rfl, aI_of (hrf' _) (by decide) (by decide), Option.bind_some, sI_of (hrf' _) (by decide) (by decide), Option.bind_some, gI_of (show hup (hup h' o _) (B 13) _ a = _ from (hup_n ha13).trans ((hup_n hao).trans x1)) x1b, Option.bind_some]
  refine ⟨_, r', rfl, ⟨f, B, sT, aT, hT, seed, ea, eh, ?_⟩, rfl, y1, y2, y3, y4⟩
  rw [ht]
  exact hp3
theorem op_office (hS : RS K o (h, r) σ (N + 1)) (x : Int32) : ∃ z v σ', C1_office K h r o x = some z ∧ M_office σ x = some (v, σ') ∧ JN K o r N false 1 z v σ' := by
  obtain ⟨S, ⟨f, B, sT, aT, hT, seed, ea, eh, hp⟩, hM, hr1, hr2⟩ := hS
  dsimp only at hp hr1 hr2
  have hZ := RCp_Z hp
  have ho := (RC_o hp).2.1
  by_cases hx : ¬ x < 0 ∧ x.toNatClampNeg ≤ zt S
  · have ex := i3_of hx.1
    have hn := hx.2
    have ht := hZ.2.2.2.2.2.2
    have hx0 := hx.1
    generalize x.toNatClampNeg = n at ex hn
    subst ex
    clear hx
    have hMO := M_office_eq hn hM hZ
    have hp1 := RC_nm (t := 0) (x := -1) (seed' := seed) hp (Nat.zero_le _)
    unfold C1_office
    rw [if_neg hx0, gI_of ho (k := 5) rfl, Option.bind_some, if_pos ((i3_le (by omega) (by omega)).mpr hn), xg_l, right_ok, xchv_ok, xg_l]
    dsimp only
    rw [pI_of ho (show 5 < 14 by decide), Option.bind_some, pI_of hup_s (show 6 < 14 by decide), Option.bind_some, hup_hup]
    obtain ⟨hb, ehb⟩ : ∃ hb, hup h o (oCell B (wNM S 0 (-1)) (B 2) (B 14) (B 15) sT aT hT seed) = hb := ⟨_, rfl⟩
    have ehb2 : ∀ L, L = [Value.ref (B 1), .ref (B 18), .ref (B 2), .ref (B 7), .ref (B 12), .int 0, .int (-1), .ref (B 13), .ref (B 14), .ref (B 15), va_rf sT, va_rf aT, va_rf hT, .int seed] → hup h o (.inr (1, L)) = hb := fun L hL => by rw [← ehb, hL]; rfl
    rw [ehb2]
    rotate_left
    · rfl
    rw [ehb] at hp1
    rw [aCell_of (show 1 ≤ r.2.1 by omega) (show 14 ≤ r.2.2 by omega), Option.bind_some]
    dsimp only
    obtain ⟨h2, i0, ⟨fs, i1⟩, i2⟩ := C_text (r := r) (LG_of (n := n) hp1 (by omega)) rfl (by omega) (by omega)
    rw [achv_of i0 (show r.2.1 - 12 ≤ r.2.1 - 1 by omega) (show r.2.2 - 79 ≤ r.2.2 - 14 by omega), Option.bind_some]
    dsimp only
    rw [vc_of i1]
    change match spOff (zT S) n with
      | .inl Q => _
      | .inr (k, p) => _ at i2
    cases e : spOff (zT S) n with
    | inl Q =>
      rw [e] at i2 hMO
      obtain ⟨f', h', r', B', g', nm', D', b', j1, j2, j3, j4, j5, j6⟩ := i2
      obtain ⟨hQ, σ', m1, m2, m3⟩ := hMO
      obtain ⟨h9, t1, t2⟩ := C_take hp1 rfl rfl j2 hQ (by omega) (by omega)
      rw [j1, xchk_l' (by exact j3) (by exact j4), xh_l']
      dsimp only
      refine ⟨_, _, _, t1, m1, JN_in (r' := (r'.1 + 1 + 1, r'.2.1 - 1 - 1, r'.2.2 - 3 - 3)) t2 m3 m2 ?_ ?_ ?_ ?_⟩
      · show 2300 * N + 100 * 0 ≤ r'.2.1 - 1 - 1
        omega
      · show 90000 * N + 3000 * 0 ≤ r'.2.2 - 3 - 3
        omega
      · show r'.2.1 - 1 - 1 ≤ r.2.1
        omega
      · show r'.2.2 - 3 - 3 ≤ r.2.2
        omega
    | inr z =>
      obtain ⟨k, p⟩ := z
      rw [e] at i2 hMO
      obtain ⟨j1, w, j2, j3⟩ := i2
      obtain ⟨hk, σ', m1, m2, m3⟩ := hMO
      obtain ⟨h9, r9, t1, t2, t3, t4, t5, t6, t7⟩ := C_tell hp1 rfl (show r.1 ≤ r.1 + 12 by omega) j3
      dsimp only at t4 t5 t6 t7
      rw [j2, xchk_r' (by rw [t3]; exact t4) (by rw [t3]; exact t5), xh_r']
      refine ⟨_, _, _, ?_, m1, JN_in (r' := r9) t2 m3 m2 ?_ ?_ ?_ ?_⟩
      · exact t1
      · show 2300 * N + 100 * 0 ≤ r9.2.1
        omega
      · show 90000 * N + 3000 * 0 ≤ r9.2.2
        omega
      · omega
      · omega
  · have hM1 : RM (sf σ 0 0) S := RM_gx hZ (Gx_sf (.inl rfl)) hM
    have e : (if x < 0 then (some (.inl 0)) else ((gI h o 1 5).bind fun v26 => if x ≤ v26 then (some (.inl 1)) else (some (.inl 0))) : Option (Int32 ⊕ XT)) = some (.inl 0) := by
      by_cases e1 : x < 0
      · rw [if_pos e1]
      · rw [if_neg e1, gI_of ho (k := 5) rfl, Option.bind_some, if_neg]
        have ex := i3_of e1
        have hl := i3_ofl x
        have hn : ¬ x.toNatClampNeg ≤ zt S := fun y => hx ⟨e1, y⟩
        have ht := hZ.2.2.2.2.2.2
        rw [← ex]
        exact fun y => hn ((i3_le hl (by omega)).mp y)
    unfold C1_office
    rw [e, xg_l, right_no (by omega) (by omega), xchv_th, xg_r]
    exact ⟨_, _, _, rfl, M_office_no hx hM hZ, JN_thr hp hM1 hr1 hr2 (.inr ⟨rfl, by decide, rfl⟩)⟩
end OFFICE
