/-! ===== office: the component reads a clerk's line ===== -/
section CLINES6
variable {K q : Nat → Nat} {rd n m0 : Nat} {T : Nat → Nat} {hb f0 f h h' : CH} {r r' : CR} {B : Nat → Nat} {g : Nat → Nat → Int32} {S : OS} {b nm D : Nat}
/-- a round that grows: its list lies at l, nothing else below it has changed but the reader's cell -/
def RdI (K q : Nat → Nat) (rd nm n : Nat) (T : Nat → Nat) (D : Nat) (h : CH) (l : Nat) (i : Nat) (R : Nat → Nat) (b' : Nat) (k : CH) (rk : CR) : Prop := (∀ p, p < l → p ≠ rd → k p = h p) ∧ RDc q rd nm n T (i3 D) k b' ∧ FR k rk.1 ∧ l + 1 ≤ rk.1 ∧ ∃ ar fi, LMu K k l ar i fi ∧ (ar = K 0 ∨ l < ar) ∧ ∀ j, j < i → fi j = K (328 + R j) ∧ R j < 4
theorem C_rd (hG : LG K q rd n T hb m0 f0) (hC : LC K q rd n T hb m0 f0 f h r B g nm D S b) {q4 : CS} (hq4 : q4.2.1 = r.1) : ∀ ff i R (k : CH) (rk : CR) (b' : Nat), i + ff = 8 → i ≤ 6 → RdI K q rd nm n T D h r.1 i R b' k rk → 100 * (n - b') + 60 ≤ rk.2.1 → 3000 * (n - b') + 600 ≤ rk.2.2 → (match spRd T n ff b' i R with
    | .inl (b1, i1, R1) => ∃ k' rk', o_loop (C5_clerk_L52 K rd q4) (k, rk) = some (.inl (k', rk')) ∧ RdI K q rd nm n T D h r.1 i1 R1 b1 k' rk' ∧ (rk'.2.1 ≤ rk.2.1 ∧ rk'.2.2 ≤ rk.2.2 ∧ rk.2.1 ≤ rk'.2.1 + 100 * (b1 - b') ∧ rk.2.2 ≤ rk'.2.2 + 3000 * (b1 - b')) ∧ rk.1 ≤ rk'.1
    | .inr (kk, p) => ∃ w, o_loop (C5_clerk_L52 K rd q4) (k, rk) = some (.inr w) ∧ CEr K q rd hb m0 rk b' 10 100 kk p w) := by
  have hbs := LC_base hC
  have hro := LC_ro hC
  intro ff
  induction ff with
  | zero => intro i R k rk b' h1 h2; omega
  | succ ff ih =>
    intro i R k rk b' h1 h2 hI hr1 hr2
    obtain ⟨i1, i2, i3', i4, ar, fi, iL, ia, iR⟩ := hI
    have Ck : LC K q rd n T hb m0 f0 f k rk B g nm D S b' := LC_fr hC i1 i2 hro.1 i3' (by omega)
    have hbk := LC_base Ck
    obtain ⟨-, -, -, e8⟩ := LC_rd Ck
    have hL := LMu_LRd (by omega) iL
    have hKN := LC_KN hG hbk.1
    have hint : ∀ v, v < 4 → k (K (328 + v)) = some (.inr (12, [.int (i3 v)])) := by
      intro v hv
      have hf := hG.2.2.2 (128 + v) (by omega)
      have hlt := hG.1.2.2 (328 + v) (by omega)
      have e1 : f (K (328 + v)) = some (.inr (12, [.int (i3 v)])) := by
        have hv2 : i3 (128 + v) - 128 = i3 v := by
          rw [show i3 (128 + v) - 128 = i3 (128 + v - 128) from i3_sub (b := 128) (by omega), show 128 + v - 128 = v by omega]
        rw [hro.2.2.2.2.1 _ hlt, show 328 + v = 200 + (128 + v) by omega, hf, hv2]
      exact (LC_ro Ck).2.1 _ _ e1
    rw [o_loop_eq]
    unfold spRd
    by_cases e2 : tkK T n b' = 2
    · have hpre : ∀ z, ((xg (fun e_ => .inr (.inr e_)) (vc k rd 4 (xchv rk (C5_want K k rk rd (bI (decide (i < 6))) 2))) fun q21 => xg (fun e_ => .inr (.inr e_)) (vc q21.1 rd 4 (xchk q21.2 (C5_number K q21.1 q21.2 rd 0 3))) fun q22 => (achk q22.2.2 (CJ19_valueOf K q22.2.1 q22.2.2 q22.1)).bind fun q23 => (vc q23.2.1 r.1 10 (achk q23.2.2 (CJ2_add K q23.2.1 q23.2.2 r.1 q23.1))).bind fun q24 => some (.inl q24.2)) : Option (CS ⊕ (CS ⊕ XT))) = z → C5_clerk_L52 K rd q4 (k, rk) = z := by
        intro z hz
        unfold C5_clerk_L52
        dsimp only
        rw [e8, Option.bind_some, if_pos ((tkK_i (x := 2) (k := 2) rfl (by decide)).mpr e2), hq4, LRd_size hL, Option.bind_some, lt9 (x := 6) (m := 6) rfl (by omega) (by decide), xg_l]
        exact hz
      rw [if_pos e2]
      by_cases e6 : i < 6
      · rw [if_pos e6]
        have hn := LC_num (m := 3) (x := 3) hG Ck rfl (by decide) (by omega) (by omega)
        have hk := spNum_ok (T := T) (m := 3) hbk.2.2.1
        cases e : spNum T n 3 b' with
        | inr z =>
          obtain ⟨kk, p⟩ := z
          rw [e] at hn hk
          obtain ⟨w, w1, w2⟩ := hn
          refine ⟨w, ?_, CEr_up w2 (Nat.le_refl _) (Nat.le_refl _) (Nat.le_refl _) (Nat.le_refl _) (by omega) (by omega) (by omega)⟩
          have hst : C5_clerk_L52 K rd q4 (k, rk) = some (.inr (.inr w)) := by
            refine hpre _ ?_
            rw [LC_want_y hG Ck (decide_eq_true e6), xg_l]
            dsimp only
            rw [w1, xg_r]
          rw [hst]
          rfl
        | inl z =>
          obtain ⟨b1, v⟩ := z
          rw [e] at hn hk
          obtain ⟨k2, w1, C2, w3⟩ := hn
          obtain ⟨y1, y2, y3, -⟩ := hk
          have hb2 := LC_base C2
          have hne : r.1 ≠ rd := by omega
          have har : ar ≠ rd := by
            rcases ia with z | z
            · have := hG.1.2.2 0 (by decide)
              intro w
              obtain ⟨z0, hz0⟩ := LC_some Ck 0 (by decide)
              have hB0 : B 0 = rd := by
                obtain ⟨ly, mo, fw, fr, -, -, -, -, -, -, ⟨b0, -⟩⟩ := Ck
                exact b0
              rw [hB0, ← w, z, hKN.1] at hz0
              cases hz0
            · omega
          have iL2 : LMu K k2 r.1 ar i fi := LMu_eq iL (w3 _ hne) (fun _ => w3 _ har)
          have hi2 : ∀ u, u < 4 → k2 (K (328 + u)) = some (.inr (12, [.int (i3 u)])) := fun u hu => by
            rw [w3 _ (fun w => by
              have h1 := hint u hu
              obtain ⟨v1, v0, v2, v3⟩ := i2
              rw [w, v2] at h1
              cases h1)]
            exact hint u hu
          have hKN2 := LC_KN hG hb2.1
          obtain ⟨arr', k3, r3, q1, q2, q3, q4', q5, q6, q7, q8, q9, q10⟩ := C_add (x := K (328 + v)) iL2 (by omega) hb2.2.2.2.1 hKN2 hG.1.2.1 (fun j hj => by have := hG.1.2.2 j hj; have := hb2.2.1; omega) (fun j hj => by
            obtain ⟨u1, u2⟩ := iR j hj
            rw [u1, okO_of (hi2 _ u2)]; rfl) (by rw [okO_of (hi2 v (by omega))]; rfl) (by
            rcases ia with z | z
            · have := hG.1.2.2 0 (by decide)
              omega
            · omega) (by omega) (by omega)
          have harr : r.1 < arr' := by
            rcases q3 with ⟨z1, z2, z3⟩ | ⟨z1, z2⟩
            · obtain ⟨z0, z3⟩ := z3
              rcases ia with z | z
              · rw [z, hKN2.1] at z3; cases z3
              · omega
            · omega
          have hr3 : rk.1 ≤ r3.1 := by
            rcases q3 with ⟨z1, z2, z3⟩ | ⟨z1, z2⟩ <;> omega
          have hst : C5_clerk_L52 K rd q4 (k, rk) = some (.inl (k3, r3)) := by
            refine hpre _ ?_
            rw [LC_want_y hG Ck (decide_eq_true e6), xg_l]
            dsimp only
            rw [w1, xg_l]
            dsimp only
            rw [vOf_eq K k2 rk (by omega), Option.bind_some]
            dsimp only
            rw [q1, Option.bind_some]
          rw [hst, Option.bind_some]
          dsimp only
          have hI3 : RdI K q rd nm n T D h r.1 (i + 1) (fun z => if z = i then v else R z) b1 k3 r3 := by
            refine ⟨fun p p1 p2 => by rw [q6 p (by omega) (by omega), w3 p p2]; exact i1 p p1 p2, ?_, q5, by omega, arr', _, q2, .inr harr, fun j hj => ?_⟩
            · obtain ⟨v1, v0, v2, v3⟩ := (LC_ro C2).2.2.2.1
              exact ⟨v1, v0, by rw [q6 rd (by omega) (by omega)]; exact v2, v3⟩
            · dsimp only
              by_cases ej : j = i
              · rw [if_pos ej, if_pos ej]; exact ⟨rfl, by omega⟩
              · rw [if_neg ej, if_neg ej]; exact iR j (by omega)
          have hi := ih (i + 1) (fun z => if z = i then v else R z) k3 r3 b1 (by omega) (by omega) hI3 (by omega) (by omega)
          cases e5 : spRd T n ff b1 (i + 1) (fun z => if z = i then v else R z) with
          | inr z =>
            obtain ⟨kk, p⟩ := z
            have hsp := spRd_ok (T := T) (n := n) ff b1 (i + 1) (fun z => if z = i then v else R z) y2 (by omega) (fun u hu => by
              split
              · omega
              · exact (iR u (by omega)).2)
            rw [e5] at hi hsp
            obtain ⟨w, x1, x2⟩ := hi
            exact ⟨w, x1, CEr_up x2 hr3 (by omega) (by omega) (by omega) hsp.1 (by omega) (by omega)⟩
          | inl z =>
            obtain ⟨b2, i5, R2⟩ := z
            have hsp := spRd_ok (T := T) (n := n) ff b1 (i + 1) (fun z => if z = i then v else R z) y2 (by omega) (fun u hu => by
              split
              · omega
              · exact (iR u (by omega)).2)
            rw [e5] at hi hsp
            obtain ⟨k', rk', x1, x2, ⟨x3, x4, x5, x6⟩, x7⟩ := hi
            have hsp1 := hsp.1
            exact ⟨k', rk', x1, x2, ⟨by omega, by omega, by omega, by omega⟩, by omega⟩
      · obtain ⟨w, w1, w2⟩ := LC_want_n (x := 2) (k := 2) hG Ck (decide_eq_false e6) rfl (by omega) (by omega)
        rw [if_neg e6, hpre _ (by rw [w1, xg_r])]
        exact ⟨w, rfl, CEr_up w2 (Nat.le_refl _) (Nat.le_refl _) (Nat.le_refl _) (Nat.le_refl _) (Nat.le_refl _) (by omega) (by omega)⟩
    · rw [if_neg e2]
      have hst : C5_clerk_L52 K rd q4 (k, rk) = some (.inr (.inl (k, rk))) := by
        unfold C5_clerk_L52
        dsimp only
        rw [e8, Option.bind_some, if_neg (fun x => e2 ((tkK_i (x := 2) (k := 2) rfl (by decide)).mp x))]
      rw [hst, Option.bind_some]
      exact ⟨k, rk, rfl, ⟨i1, i2, i3', i4, ar, fi, iL, ia, iR⟩, ⟨Nat.le_refl _, Nat.le_refl _, by omega, by omega⟩, Nat.le_refl _⟩
theorem C_clerk (hG : LG K q rd n T hb m0 f0) (hC : LC K q rd n T hb m0 f0 f h r B g nm D S b) (hS : WFL S) (hF : FD D S) (h3 : ∀ c, g 3 c = 0) (hbn : b < n) (h1 : 100 * (n - b) + 70 ≤ r.2.1) (h2 : 3000 * (n - b) + 700 ≤ r.2.2) : CLn K q rd n T hb m0 f0 r b (lnClerk T n S b) (C5_clerk K h r rd) := by
  have hN := hS.1.1
  have hM := hS.1.2.1
  have hbs := LC_base hC
  have hnx := nxt_lt (T := T) hbn
  have hnn := nxt_le (T := T) (n := n) (b := b) (by omega)
  obtain ⟨r1, -, -, -⟩ := LC_rd hC
  obtain ⟨-, -, -, m4, -, -⟩ := LC_mk hC
  obtain ⟨-, -, -, -, -, -, ⟨fr, L1⟩⟩ := LC_ro hC
  have ecl : vc h (B 1) 2 (C2_clerks h (B 1)) = some (i3 (pM S.1)) := by
    obtain ⟨ly, mo, c2, -⟩ := LC_mc hC
    rw [vc_of c2]
    unfold C2_clerks
    rw [m4, Option.bind_some, LRd_size (LMu_LRd (by omega) L1), Option.bind_some]
  unfold C5_clerk lnClerk
  rw [r1, Option.bind_some, ecl, Option.bind_some, lt9 (x := 6) (m := 6) rfl (by omega) (by decide), xg_l]
  by_cases e6 : pM S.1 < 6
  · obtain ⟨k1, g1, C1, -⟩ := LC_nx hG hC
    have hb1 := LC_base C1
    rw [if_pos e6, LC_want_y hG hC (decide_eq_true e6), xg_l]
    dsimp only
    rw [g1, Option.bind_some, aCell_of (by omega) (by omega), Option.bind_some]
    dsimp only
    rw [CJ2_new, Option.bind_some]
    obtain ⟨o1, o2, o3, o4, -⟩ := LC_ro C1
    have hR6 : RDc q rd nm n T (i3 D) (hup k1 r.1 (.inr (10, [.int 0, .ref (K 0), .int 0]))) (nxb T n b) := by
      obtain ⟨v1, v, v2, v3⟩ := o4
      exact ⟨v1, v, by rw [hup_n (by have := hb1.2.2.2.2; omega)]; exact v2, v3⟩
    have C6 : LC K q rd n T hb m0 f0 f (hup k1 r.1 (.inr (10, [.int 0, .ref (K 0), .int 0]))) (r.1 + 1, r.2.1 - 1, r.2.2 - 3) B g nm D S (nxb T n b) := LC_fr C1 (fun p p1 _ => hup_n (by omega)) hR6 o1 (FR_up o3) (Nat.le_succ _)
    obtain ⟨-, -, -, e8⟩ := LC_rd C6
    rw [e8, Option.bind_some]
    have hpre : (if i3 (tkK T n (nxb T n b)) = 2 then (some (.inl 1)) else (some (.inl 0)) : Option (Int32 ⊕ XT)) = some (.inl (bI (decide (tkK T n (nxb T n b) = 2)))) := by
      by_cases e : tkK T n (nxb T n b) = 2
      · rw [if_pos ((tkK_i (x := 2) (k := 2) rfl (by decide)).mpr e), decide_eq_true e]; rfl
      · rw [if_neg (fun z => e ((tkK_i (x := 2) (k := 2) rfl (by decide)).mp z)), decide_eq_false e]; rfl
    rw [hpre, xg_l]
    by_cases e2 : tkK T n (nxb T n b) = 2
    · rw [if_pos e2, LC_want_y hG C6 (decide_eq_true e2), xg_l]
      have hI : RdI K q rd nm n T D k1 r.1 0 (fun _ => 0) (nxb T n b) (hup k1 r.1 (.inr (10, [.int 0, .ref (K 0), .int 0]))) (r.1 + 1, r.2.1 - 1, r.2.2 - 3) :=
        ⟨fun p p1 _ => hup_n (by omega), hR6, FR_up o3, Nat.le_refl _, K 0, fun _ => 0, ⟨0, hup_s, .inl ⟨rfl, .inl rfl⟩⟩, .inl rfl, fun j hj => absurd hj (Nat.not_lt_zero _)⟩
      have hl := C_rd (q4 := (h, r)) hG C1 rfl 8 0 (fun _ => 0) _ _ _ rfl (by decide) hI (by dsimp only; omega) (by dsimp only; omega)
      have hsp := spRd_ok (T := T) (n := n) 8 (nxb T n b) 0 (fun _ => 0) hnn (by decide) (fun u hu => absurd hu (Nat.not_lt_zero _))
      cases e : spRd T n 8 (nxb T n b) 0 (fun _ => 0) with
      | inr z =>
        obtain ⟨kk, p⟩ := z
        rw [e] at hl hsp
        obtain ⟨w, w1, w2⟩ := hl
        refine ⟨w, by rw [w1, xg_r], CEr_up w2 (Nat.le_succ _) (Nat.sub_le _ _) (Nat.sub_le _ _) (by omega) hsp.1 (by dsimp only; omega) (by dsimp only; omega)⟩
      | inl z =>
        obtain ⟨b1, m, R⟩ := z
        rw [e] at hl hsp
        obtain ⟨k', rk', w1, ⟨i1, i2, i3', i4, ar, fi, iL, ia, iR⟩, ⟨y1, y2, y3, y4⟩, y5⟩ := hl
        obtain ⟨s1, s2, -, s4, s5, s6, -⟩ := hsp
        have hm1 := s6 e2
        dsimp only at y1 y2 y3 y4 y5
        have C7 : LC K q rd n T hb m0 f0 f k' rk' B g nm D S b1 := LC_fr C1 i1 i2 o1 i3' (by omega)
        have hlt := LC_lt hG C1
        obtain ⟨C8, hlf⟩ := LC_ext (lo := r.1) (hi := rk'.1) C7 hb1.2.1 (fun i hi => by have := hlt i hi; omega)
        have hfx : LRd (frz f k' r.1 rk'.1) r.1 m fi := by
          obtain ⟨mc, l1, l2⟩ := iL
          refine ⟨mc, ar, by rw [frz_in (Nat.le_refl _) (by omega)]; exact l1, ?_, by omega⟩
          rcases l2 with l2 | ⟨cap, ga, l3, l4, l5, l6⟩
          · exact .inl l2.1
          · have har := FR_lt i3' l3
            have hKN := LC_KN hG (LC_base C7).1
            have : r.1 < ar := by
              rcases ia with z | z
              · rw [z, hKN.1] at l3; cases l3
              · exact z
            exact .inr ⟨cap, ga, by rw [frz_in (by omega) har]; exact l3, l4, by omega, l6⟩
        have hfy : ∀ i, i < m → (frz f k' r.1 rk'.1) (fi i) = some (.inr (12, [.int (i3 (R i))])) := by
          intro i hi
          obtain ⟨u1, u2⟩ := iR i hi
          have hf := hG.2.2.2 (128 + R i) (by omega)
          have hltK := hG.1.2.2 (328 + R i) (by omega)
          have e1 : f (K (328 + R i)) = some (.inr (12, [.int (i3 (R i))])) := by
            have hv2 : i3 (128 + R i) - 128 = i3 (R i) := by
              rw [show i3 (128 + R i) - 128 = i3 (128 + R i - 128) from i3_sub (b := 128) (by omega), show 128 + R i - 128 = R i by omega]
            rw [(LC_ro C1).2.2.2.2.1 _ hltK, show 328 + R i = 200 + (128 + R i) by omega, hf, hv2]
          rw [u1]
          exact hlf _ _ e1
        obtain ⟨h', r', B', x1, x2, ⟨x3, x4, x5, x6⟩, x7⟩ := LC_addR (x := r.1) (m := m) (R := R) hG C8 (by omega) hfx hfy hN (h3 _) (by omega) (by omega)
        obtain ⟨r7, -, -, -⟩ := LC_rd C8
        obtain ⟨-, -, -, m7, -, -⟩ := LC_mk C8
        rw [w1, xg_l]
        dsimp only
        rw [r7, Option.bind_some, m7, Option.bind_some, x1, Option.bind_some]
        exact ⟨_, h', r', B', g, nm, D, rfl, x2, ⟨hF, h3⟩, ⟨by omega, by omega, by omega, by omega⟩, by omega⟩
    · obtain ⟨w, w1, w2⟩ := LC_want_n (x := 1) (k := 1) hG C6 (decide_eq_false e2) rfl (by dsimp only; omega) (by dsimp only; omega)
      rw [if_neg e2, w1, xg_r]
      exact ⟨w, rfl, CEr_up w2 (Nat.le_succ _) (Nat.sub_le _ _) (Nat.sub_le _ _) (by omega) (Nat.le_refl _) (by dsimp only; omega) (by dsimp only; omega)⟩
  · obtain ⟨w, w1, w2⟩ := LC_want_n (x := 2) (k := 2) hG hC (decide_eq_false e6) rfl (by omega) (by omega)
    rw [if_neg e6, w1, xg_r]
    exact ⟨w, rfl, CEr_up w2 (Nat.le_refl _) (Nat.le_refl _) (Nat.le_refl _) (Nat.le_refl _) (Nat.le_refl _) (by omega) (by omega)⟩
end CLINES6
