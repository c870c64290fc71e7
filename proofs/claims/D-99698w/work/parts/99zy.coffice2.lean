/-! ===== office: the component's state with the new office ===== -/
section COFF2
variable {K : Nat → Nat} {hb f : CH} {o m0 n : Nat} {T : Nat → Nat} {S : ST} {B : Nat → Nat} {sT aT hT : Option Nat} {seed : Int32} {ea eh : Nat → Nat} {f' h' h9 : CH} {r' : CR} {B' : Nat → Nat} {g' : Nat → Nat → Int32} {nm' D' b' : Nat} {Q : OS}
/-- the new office comes to rest -/
def frO (f h : CH) (B : Nat → Nat) : CH := fun p => if p = B 1 ∨ p = B 7 ∨ p = B 8 ∨ p = B 9 ∨ p = B 10 then h p else f p
theorem frO_in {f h : CH} {B : Nat → Nat} {p : Nat} (hp : p = B 1 ∨ p = B 7 ∨ p = B 8 ∨ p = B 9 ∨ p = B 10) : frO f h B p = h p := if_pos hp
theorem frO_out {f h : CH} {B : Nat → Nat} {p : Nat} (hp : ¬ (p = B 1 ∨ p = B 7 ∨ p = B 8 ∨ p = B 9 ∨ p = B 10)) : frO f h B p = f p := if_neg hp
theorem frO_le {f h : CH} {B : Nat → Nat} (hl : hle f h) : hle f (frO f h B) ∧ hle (frO f h B) h := by
  constructor
  · intro p x hx
    unfold frO
    split
    · exact hl p x hx
    · exact hx
  · intro p x hx
    unfold frO at hx
    split at hx
    · exact hx
    · exact hl p x hx
theorem FYr_FOR {cv : (Nat → Int32) → (Nat → Int32)} {f f9 : CH} {ly : Option Nat} {Y : Option EX} (hF : FYr K cv f ly Y) (hl : hle f f9) : FOR K f9 ly Y cv := by
  unfold FYr at hF
  unfold FOR
  split at hF
  · exact hF
  · obtain ⟨a, lo, hi, h1, h2⟩ := hF
    exact ⟨a, h1, fun h vs g q1 q2 => h2.2.2 h vs g (fun p x _ _ e => q1 p x (hl p x e)) q2⟩
theorem LC_OFR {q : Nat → Nat} {rd : Nat} {f0 : CH} (hC : LC K q rd n T hb m0 f0 f' h' r' B' g' nm' D' Q b') (hQ : WFL Q) : OFR K (frO f' h' B') (q 1) Q.1 := by
  obtain ⟨ly, mo, fw, fr, -, ⟨c2, -, -⟩, ⟨c3, c3w⟩, ⟨c4, c4r⟩, ⟨c5, c6⟩, ⟨d1, d2, -⟩, ⟨b0, b1, -⟩⟩ := hC
  obtain ⟨u1, u2⟩ := frO_le (B := B') d2
  have hLM : ∀ i j m e, (i = 7 ∨ i = 8) → (j = 9 ∨ j = 10) → LMu K h' (B' i) (B' j) m e → LMu K (frO f' h' B') (B' i) (B' j) m e := fun i j m e hi hj hL => by
    obtain ⟨mc, l1, l2⟩ := hL
    refine ⟨mc, by rw [frO_in (by rcases hi with rfl | rfl <;> simp)]; exact l1, ?_⟩
    rcases l2 with l2 | ⟨cap, ga, l3, l4⟩
    · exact .inl l2
    · exact .inr ⟨cap, ga, by rw [frO_in (by rcases hj with rfl | rfl <;> simp)]; exact l3, l4⟩
  have hM := hQ.1.2.1
  have hQ2 := hQ.1.2.2.1
  refine ⟨B' 7, B' 8, ly, mo, fw, fr, ?_, ⟨LMu_LRd (by omega) (hLM 7 9 _ _ (.inl rfl) (.inl rfl) c3), fun i hi => ?_⟩, ⟨LMu_LRd (by omega) (hLM 8 10 _ _ (.inr rfl) (.inr rfl) c4), fun c hc => ?_⟩, FYr_FOR c5 u1, FYr_FOR c6 u1⟩
  · rw [← b1, frO_in (.inl rfl)]
    exact c2
  · obtain ⟨x, x1, x2⟩ := c3w i hi
    exact ⟨x, u1 _ _ x1, x2⟩
  · obtain ⟨fi, x1, x2⟩ := c4r c hc
    exact ⟨fi, LRd_mono u1 x1, fun i hi => u1 _ _ (x2 i hi)⟩
/-- where all lies then -/
def Bnw (B B' : Nat → Nat) (m0 k n1 : Nat) : Nat → Nat := fun i => if i = 18 then m0 + 1 else if 16 ≤ i then k else if i = 14 then n1 else if i = 15 then n1 + 1 else if 2 ≤ i ∧ i < 7 then B' i else B i
theorem RC_newO (hp : RCp K hb m0 o S f B sT aT hT seed ea eh) (ht : zt S = 0) (hF : zF S = -1) (hC : LC K (qR m0 o) m0 n T hb m0 f f' h' r' B' g' nm' D' Q b') (hQ : WFL Q)
    (e1 : h9 o = some (.inr (1, [.ref (B 1), .ref (m0 + 1), .ref (m0 + 4), .ref (B 7), .ref (B 12), .int 0, .int (-1), .ref (B 13), .ref r'.1, .ref (r'.1 + 1), .null, va_rf aT, va_rf hT, .int seed])))
    (e2 : ∀ p, p < r'.1 → p ≠ o → h9 p = h' p) (e3 : ∀ e, LMu K h9 r'.1 (K 0) 0 e) (e4 : ∀ e, LMu K h9 (r'.1 + 1) (K 0) 0 e) (e5 : FR h9 (r'.1 + 2)) : RC K h9 (r'.1 + 2) o (wOF S Q) := by
  have hOF := LC_OFR hC hQ
  have hsm := LC_some hC
  have hRo := RC_o hp
  have hpos : ∀ i, i < 18 → B i < m0 := RCp_pos (r := (m0, 0, 0)) hp
  have hsome := RCp_some hp
  have hZ := RCp_Z hp
  obtain ⟨hkn0, -, -, -⟩ := RCp_K hp
  obtain ⟨⟨b0, ho0⟩, ⟨hl0, hof, ⟨gv, hvs⟩, hsx, ⟨gs, ds, hst⟩⟩, ⟨⟨gt, htp, htp2⟩, ⟨gr, hrf, hrf2⟩⟩, -, -, -, ⟨nB, fB, nB2, fB2, nB3⟩, ⟨hfr, ⟨k1, k2, k3, k4⟩, hkn⟩, -⟩ := hp
  obtain ⟨ly, mo, fw, fr, -, ⟨-, c2s, c2a⟩, -, -, -, ⟨d1, d2, d3, d4, d5, d6, d7, d8⟩, ⟨q0, q1, q2, q3, q4, q5, q6, q7, q8⟩⟩ := hC
  obtain ⟨u1, u2⟩ := frO_le (B := B') d2
  have hom : o < m0 := by have := hpos 0 (by decide); rw [b0] at this; exact this
  have hlt : ∀ i, i < 9 → B' i < r'.1 := fun i hi => by
    obtain ⟨c, hc⟩ := hsm i hi
    exact FR_lt d1 hc
  have hold : ∀ p, p < m0 → p ≠ o → h9 p = hb p := fun p h1 h2 => (e2 p (by omega) h2).trans (d4 p h1)
  have hoB : ∀ i, 1 ≤ i → i < 16 → h9 (B i) = hb (B i) := fun i h1 h2 => hold _ (hpos i (by omega)) (hRo.2.2.2.2 i h1 (by omega))
  have hnew : ∀ i, i < 9 → h9 (B' i) = h' (B' i) := fun i hi => e2 _ (hlt i hi) (by have := q4 i hi; omega)
  have hK0 : K 0 < m0 := k3 0 (by decide)
  have hf9n : ∀ p, h' p = none → frO f' h' B' p = none := fun p hp => by
    cases e : frO f' h' B' p with
    | none => rfl
    | some x => rw [u2 _ _ e] at hp; cases hp
  have hK9 : h' (K 0) = none := (d4 _ hK0).trans hkn.1
  have hoK : ∀ i, i < 16 → B i ≠ K 0 := fun i hi e => by
    obtain ⟨c, hc⟩ := hsome i hi
    rw [e, hkn.1] at hc
    cases hc
  have hfo : ∀ i, i < 16 → frO f' h' B' (B i) = none := fun i hi => by
    have hi2 := hpos i (by omega)
    have hnk := hoK i hi
    rw [frO_out]
    · rw [d5 _ hi2]
      exact fB i hi
    · have a1 := q4 1 (by decide)
      have a7 := q4 7 (by decide)
      have a8 := q4 8 (by decide)
      have a9 := q8 9 (by decide) (by decide)
      have a10 := q8 10 (by decide) (by decide)
      rintro (x | x | x | x | x)
      · omega
      · omega
      · omega
      · rcases a9 with a9 | a9
        · omega
        · exact hnk (x.trans a9)
      · rcases a10 with a9 | a9
        · omega
        · exact hnk (x.trans a9)
  have hfn : ∀ i, 2 ≤ i → i < 7 → frO f' h' B' (B' i) = none := fun i h2 h7 => by
    rw [frO_out]
    · exact q6 i (by omega)
    · rintro (x | x | x | x | x)
      · have := q3 i 1 (by omega) (by decide) x; omega
      · have := q3 i 7 (by omega) (by decide) x; omega
      · have := q3 i 8 (by omega) (by decide) x; omega
      · exact q5 9 i (by decide) (by decide) (by omega) x.symm
      · exact q5 10 i (by decide) (by decide) (by omega) x.symm
  have hle9 : hle (frO f' h' B') h9 := fun p x hx => by
    have hx2 := u2 _ _ hx
    have hpr : p < r'.1 := FR_lt d1 hx2
    rw [e2 p hpr]
    · exact hx2
    · intro hpo
      have := hfo 0 (by decide)
      rw [b0, ← hpo, hx] at this
      cases this
  -- the roles
  have r18 : Bnw B B' m0 (K 0) r'.1 18 = m0 + 1 := rfl
  have rold : ∀ i, i < 14 → (i < 2 ∨ 7 ≤ i) → Bnw B B' m0 (K 0) r'.1 i = B i := fun i h1 h2 => by
    unfold Bnw
    rw [if_neg (by omega), if_neg (by omega), if_neg (by omega), if_neg (by omega), if_neg (by omega)]
  have rnew : ∀ i, 2 ≤ i → i < 7 → Bnw B B' m0 (K 0) r'.1 i = B' i := fun i h1 h2 => by
    unfold Bnw
    rw [if_neg (by omega), if_neg (by omega), if_neg (by omega), if_neg (by omega), if_pos ⟨h1, h2⟩]
  have r14 : Bnw B B' m0 (K 0) r'.1 14 = r'.1 := rfl
  have r15 : Bnw B B' m0 (K 0) r'.1 15 = r'.1 + 1 := rfl
  have r16 : ∀ i, 16 ≤ i → i < 18 → Bnw B B' m0 (K 0) r'.1 i = K 0 := fun i h1 h2 => by
    unfold Bnw
    rw [if_neg (by omega), if_pos h1]
  have hcs : ∀ i, i < 16 → (i < 14 ∧ (i < 2 ∨ 7 ≤ i)) ∨ (2 ≤ i ∧ i < 7) ∨ i = 14 ∨ i = 15 := fun i hi => by omega
  refine ⟨frO f' h' B', Bnw B B' m0 (K 0) r'.1, none, aT, hT, seed, fun _ => 0, fun _ => 0, ⟨?_, ?_⟩, ⟨hle9, hOF, ⟨gv, ?_⟩, ?_, ⟨gs, ds, ?_⟩⟩, ⟨⟨gt, ?_, htp2⟩, ⟨gr, ?_, hrf2⟩⟩, ⟨e3 _, fun i hi => absurd hi (Nat.not_lt_zero _)⟩, ⟨e4 _, fun i hi => absurd hi (Nat.not_lt_zero _)⟩, rfl, ⟨fun i j hi hj e => ?_, fun i hi => ?_, fun i j h1 h2 hj => ?_, fun i h1 h2 => ?_, fun _ => .inl rfl⟩, ⟨e5, ⟨k1, k2, fun i hi => ?_, fun j hj => ?_⟩, ?_⟩, WFZ_of hZ hQ⟩
  · exact (rold 0 (by decide) (.inl (by decide))).trans b0
  · rw [rold 1 (by decide) (.inl (by decide)), r18, rnew 2 (by decide) (by decide), rold 7 (by decide) (.inr (by decide)), rold 12 (by decide) (.inr (by decide)), rold 13 (by decide) (.inr (by decide)), r14, r15, q2]
    exact e1
  · rw [rold 1 (by decide) (.inl (by decide)), hoB 1 (by decide) (by decide)]
    exact hvs
  · refine SX_of (g := g') (d := 0) ?_ c2a hQ.2.1
    obtain ⟨s1, s2, s3, s4, s5⟩ := c2s
    exact ⟨(hnew 2 (by decide)).trans s1, (hnew 3 (by decide)).trans s2, (hnew 4 (by decide)).trans s3, (hnew 5 (by decide)).trans s4, (hnew 6 (by decide)).trans s5⟩
  · obtain ⟨s1, s2, s3, s4, s5⟩ := hst
    exact ⟨(hoB 7 (by decide) (by decide)).trans s1, (hoB 8 (by decide) (by decide)).trans s2, (hoB 9 (by decide) (by decide)).trans s3, (hoB 10 (by decide) (by decide)).trans s4, (hoB 11 (by decide) (by decide)).trans s5⟩
  · exact (hoB 12 (by decide) (by decide)).trans htp
  · exact (hoB 13 (by decide) (by decide)).trans hrf
  · have hb1 : ∀ i, i < 14 ∧ (i < 2 ∨ 7 ≤ i) → Bnw B B' m0 (K 0) r'.1 i = B i ∧ B i < m0 := fun i x => ⟨rold i x.1 x.2, hpos i (by omega)⟩
    have hb2 : ∀ i, 2 ≤ i ∧ i < 7 → Bnw B B' m0 (K 0) r'.1 i = B' i ∧ m0 ≤ B' i ∧ B' i < r'.1 := fun i x => ⟨rnew i x.1 x.2, q4 i (by omega), hlt i (by omega)⟩
    rcases hcs i hi with hi1 | hi1 | hi1 | hi1 <;> rcases hcs j hj with hj1 | hj1 | hj1 | hj1
    · exact nB i j hi hj (((hb1 i hi1).1.symm.trans e).trans (hb1 j hj1).1)
    · have := hb1 i hi1; have := hb2 j hj1; omega
    · have := hb1 i hi1; subst hj1; omega
    · have := hb1 i hi1; subst hj1; omega
    · have := hb2 i hi1; have := hb1 j hj1; omega
    · exact q3 i j (by omega) (by omega) (((hb2 i hi1).1.symm.trans e).trans (hb2 j hj1).1)
    · have := hb2 i hi1; subst hj1; omega
    · have := hb2 i hi1; subst hj1; omega
    · have := hb1 j hj1; subst hi1; omega
    · have := hb2 j hj1; subst hi1; omega
    · omega
    · subst hi1; subst hj1; omega
    · have := hb1 j hj1; subst hi1; omega
    · have := hb2 j hj1; subst hi1; omega
    · subst hi1; subst hj1; omega
    · omega
  · rcases hcs i hi with hi1 | hi1 | hi1 | hi1
    · rw [rold i hi1.1 hi1.2]; exact hfo i hi
    · rw [rnew i hi1.1 hi1.2]; exact hfn i hi1.1 hi1.2
    · subst hi1; rw [r14]; exact hf9n _ (d1 _ (Nat.le_refl _))
    · subst hi1; rw [r15]; exact hf9n _ (d1 _ (by omega))
  · rw [r16 i h1 h2]
    intro e
    rcases hcs j hj with hi1 | hi1 | hi1 | hi1
    · rw [rold j hi1.1 hi1.2] at e; exact hoK j hj e.symm
    · rw [rnew j hi1.1 hi1.2] at e
      have := q4 j (by omega)
      omega
    · subst hi1; rw [r14] at e; omega
    · subst hi1; rw [r15] at e; omega
  · rw [r16 i h1 h2]
    exact hf9n _ hK9
  · have := k3 i hi
    omega
  · exact u1 _ _ ((d5 _ (k3 (200 + j) (by omega))).trans (k4 j hj))
  · exact KN_b hkn k3 (fun q hq e => (hold q hq (fun x => by rw [x, hRo.2.1] at e; cases e)).trans e)
end COFF2
