/-! ===== the component's whole state: what can be read off it, what keeps it ===== -/
theorem nodupB {B : Nat → Nat} (nB : ∀ i j, i < 16 → j < 16 → B i = B j → i = j) : ∀ l : List Nat, (∀ x, x ∈ l → x < 16) → l.Nodup → (l.map B).Nodup := by
  intro l
  induction l with
  | nil => intro _ _; exact List.nodup_nil
  | cons a l ih =>
    intro h1 h2
    rw [List.map_cons, List.nodup_cons]
    have h3 := List.nodup_cons.mp h2
    refine ⟨fun hm => ?_, ih (fun x hx => h1 x (List.mem_cons_of_mem _ hx)) h3.2⟩
    obtain ⟨x, hx, e⟩ := List.mem_map.mp hm
    have := nB x a (h1 x (List.mem_cons_of_mem _ hx)) (h1 a List.mem_cons_self) e
    subst this
    exact h3.1 hx
theorem hX_FR {X : List Nat} {h h' : CH} {n : Nat} (hf : FR h n) (hx : hX X h h') (hs : ∀ x, x ∈ X → h x ≠ none) : FR h' n := by
  intro q hq
  rw [hx q (fun m => hs q m (hf q hq))]
  exact hf q hq
theorem hX_KN {K : Nat → Nat} {X : List Nat} {h h' : CH} (hf : KN K h) (hx : hX X h h') (hs : ∀ x, x ∈ X → h x ≠ none) : KN K h' := by
  obtain ⟨h1, h2, h3⟩ := hf
  refine ⟨?_, ?_, fun i hi => ?_⟩
  · rw [hx _ (fun m => hs _ m h1)]; exact h1
  · rw [hx _ (fun m => hs _ m h2)]; exact h2
  · rw [hx _ (fun m => hs _ m (h3 i hi))]; exact h3 i hi
theorem LMu_hX {K : Nat → Nat} {X : List Nat} {h h' : CH} {a arr n : Nat} {f : Nat → Nat} (hL : LMu K h a arr n f) (hx : hX X h h') (h1 : ¬ a ∈ X) (h2 : ¬ arr ∈ X) : LMu K h' a arr n f := by
  obtain ⟨mc, g1, g2⟩ := hL
  refine ⟨mc, (hx a h1).trans g1, ?_⟩
  rcases g2 with g2 | ⟨cap, g, g3, g4⟩
  · exact .inl g2
  · exact .inr ⟨cap, g, (hx arr h2).trans g3, g4⟩
/-- what a reader of the whole state needs -/
def RD (K : Nat → Nat) (h : CH) (o : Nat) (S : ST) (off vs : Nat) (f : CH) (s : Nat) (A : Nat → Nat) : Prop :=
  CSV K h o off vs f (zP S) s A (zw S) ∧ gR h o 1 2 = some s ∧ gI h o 1 5 = some (i3 (zt S)) ∧ gI h o 1 6 = some (zF S) ∧
  (∃ al, gR h o 1 8 = some al ∧ vc h al 10 (CJ2_size h al) = some (i3 (zA S).1)) ∧
  (∃ hl, ∃ eh : Nat → Nat, gR h o 1 9 = some hl ∧ vc h hl 10 (CJ2_size h hl) = some (i3 (zH S).1) ∧ ∀ i, i < (zH S).1 → vc h hl 10 (CJ2_get h hl (i3 i)) = some (eh i) ∧ ckA h (eh i) 0 = some () ∧ ∀ j, j < 4 → aI h (eh i) 0 (i3 j) = some (i3 ((zH S).2 i j))) ∧
  ∃ rf, gR h o 1 7 = some rf ∧ ∀ i, i < 3 → aI h rf 0 (i3 i) = some (zR S i)
theorem RC_Z {K : Nat → Nat} {h : CH} {n o : Nat} {S : ST} (hC : RC K h n o S) : WFZ S := by
  obtain ⟨f, B, sT, aT, hT, seed, ea, eh, _, _, _, _, _, _, _, _, hZ⟩ := hC
  exact hZ
section RCP
variable {K : Nat → Nat} {h h' : CH} {n n' o : Nat} {S : ST} {f : CH} {B : Nat → Nat} {sT aT hT : Option Nat} {seed : Int32} {ea eh : Nat → Nat}
theorem RD_of (hp : RCp K h n o S f B sT aT hT seed ea eh) : RD K h o S (B 18) (B 1) f (B 2) (fun i => B (3 + i)) := by
  obtain ⟨⟨b0, ho⟩, ⟨hl, hof, hvs, hsx, hst⟩, ⟨htp, hrf⟩, ⟨hac, hacr⟩, ⟨hhd, hhdr⟩, him, ⟨nB, fB, nB2, fB2, nB3⟩, ⟨hfr, hkc, hkn⟩, hZ⟩ := hp
  refine ⟨⟨⟨hZ.1, ⟨_, ho, rfl, rfl⟩, hl, hof, hvs⟩, hsx, ?_, ?_⟩, gR_of ho rfl, gI_of ho rfl, gI_of ho rfl, ⟨B 14, gR_of ho rfl, LRd_size (LMu_LRd (by have := hZ.2.2.1.1; omega) hac)⟩, ⟨B 15, eh, gR_of ho rfl, LRd_size (LMu_LRd (by have := hZ.2.2.2.1.1; omega) hhd), fun i hi => ?_⟩, ?_⟩
  · rw [← b0]
    exact nodupB nB [0, 1, 2, 3, 4, 5, 6] (by decide) (by decide)
  · intro x hx
    simp only [List.mem_cons, List.not_mem_nil, or_false] at hx
    rcases hx with rfl | rfl | rfl | rfl | rfl | rfl
    · exact fB _ (by decide)
    · exact fB _ (by decide)
    · exact fB _ (by decide)
    · exact fB _ (by decide)
    · exact fB _ (by decide)
    · exact fB _ (by decide)
  · obtain ⟨g, g1, g2⟩ := hhdr i hi
    refine ⟨LRd_get (LMu_LRd (by have := hZ.2.2.2.1.1; omega) hhd) hi, ckA_of (hl _ _ g1), fun j hj => ?_⟩
    rw [← g2 j hj]
    exact aI_of (hl _ _ g1) hj (by decide)
  · obtain ⟨g, g1, g2⟩ := hrf
    refine ⟨B 13, gR_of ho rfl, fun i hi => ?_⟩
    rw [← g2 i hi]
    exact aI_of g1 hi (by decide)
/-- more places, all else as it was -/
theorem RC_grow (hp : RCp K h n o S f B sT aT hT seed ea eh) (hb : hB n h h') (hf : FR h' n') (hn : n ≤ n') : RCp K h' n' o S f B sT aT hT seed ea eh := by
  obtain ⟨⟨b0, ho⟩, ⟨hl, hof, ⟨gv, hvs⟩, hsx, hst⟩, ⟨htp, hrf⟩, ⟨hac, hacr⟩, ⟨hhd, hhdr⟩, him, ⟨nB, fB, nB2, fB2, nB3⟩, ⟨hfr, hkc, hkn⟩, hZ⟩ := hp
  have hlt : ∀ a e, h a = some e → h' a = some e := by
    intro a e x
    have : a < n := by
      apply Classical.byContradiction
      intro q
      rw [hfr a (by omega)] at x
      cases x
    rw [hb a this]
    exact x
  obtain ⟨k1, k2, k3, k4⟩ := hkc
  refine ⟨⟨b0, hlt _ _ ho⟩, ⟨hle_trans hl hlt, hof, ⟨gv, hlt _ _ hvs⟩, ?_, ?_⟩, ⟨?_, ?_⟩, ⟨?_, hacr⟩, ⟨?_, hhdr⟩, him, ⟨nB, fB, nB2, fB2, nB3⟩, ⟨hf, ⟨k1, k2, fun i hi => Nat.lt_of_lt_of_le (k3 i hi) hn, k4⟩, ?_⟩, hZ⟩
  · obtain ⟨⟨gL, gE, gA, gK, ⟨a1, a2, a3, a4, a5⟩, b⟩, hw⟩ := hsx
    exact ⟨⟨gL, gE, gA, gK, ⟨hlt _ _ a1, hlt _ _ a2, hlt _ _ a3, hlt _ _ a4, hlt _ _ a5⟩, b⟩, hw⟩
  · obtain ⟨g, d, hs⟩ := hst
    exact ⟨g, d, SC_hle hs hlt⟩
  · obtain ⟨g, g1, g2⟩ := htp
    exact ⟨g, hlt _ _ g1, g2⟩
  · obtain ⟨g, g1, g2⟩ := hrf
    exact ⟨g, hlt _ _ g1, g2⟩
  · obtain ⟨mc, g1, g2⟩ := hac
    refine ⟨mc, hlt _ _ g1, ?_⟩
    rcases g2 with g2 | ⟨cap, g, g3, g4⟩
    · exact .inl g2
    · exact .inr ⟨cap, g, hlt _ _ g3, g4⟩
  · obtain ⟨mc, g1, g2⟩ := hhd
    refine ⟨mc, hlt _ _ g1, ?_⟩
    rcases g2 with g2 | ⟨cap, g, g3, g4⟩
    · exact .inl g2
    · exact .inr ⟨cap, g, hlt _ _ g3, g4⟩
  · obtain ⟨h1, h2, h3⟩ := hkn
    refine ⟨?_, ?_, fun i hi => ?_⟩
    · rw [hb _ (k3 0 (by decide))]; exact h1
    · rw [hb _ (k3 1 (by decide))]; exact h2
    · rw [hb _ (k3 _ (by omega))]; exact h3 i hi
/-- only values and the one that is tried have changed -/
theorem RC_tr (hp : RCp K h n o S f B sT aT hT seed ea eh) (hx : hX (sX6 (B 1) (B 7) (fun i => B (8 + i))) h h') (hv : ∃ g, h' (B 1) = some (.inl (0, 6, .inl g))) (hs : ∃ g d, SC h' o (B 7) (fun i => B (8 + i)) g d) : RCp K h' n o S f B sT aT hT seed ea eh := by
  obtain ⟨⟨b0, ho⟩, ⟨hl, hof, ⟨gv, hvs⟩, hsx, ⟨gs, ds, hst⟩⟩, ⟨htp, hrf⟩, ⟨hac, hacr⟩, ⟨hhd, hhdr⟩, h6, ⟨nB, fB, nB2, fB2, nB3⟩, ⟨hfr, hkc, hkn⟩, hZ⟩ := hp
  have hne : ∀ i, i < 16 → i ≠ 1 → i ≠ 7 → i ≠ 8 → i ≠ 9 → i ≠ 10 → i ≠ 11 → ¬ B i ∈ sX6 (B 1) (B 7) (fun i => B (8 + i)) := by
    intro i hi a1 a2 a3 a4 a5 a6 hm
    unfold sX6 at hm
    simp only [List.mem_cons, List.not_mem_nil, or_false] at hm
    rcases hm with e | e | e | e | e | e
    · exact a1 (nB _ _ hi (by decide) e)
    · exact a2 (nB _ _ hi (by decide) e)
    · exact a3 (nB _ _ hi (by decide) e)
    · exact a4 (nB _ _ hi (by decide) e)
    · exact a5 (nB _ _ hi (by decide) e)
    · exact a6 (nB _ _ hi (by decide) e)
  have hne2 : ∀ i, 16 ≤ i → i < 18 → ¬ B i ∈ sX6 (B 1) (B 7) (fun i => B (8 + i)) := by
    intro i hi hi2 hm
    unfold sX6 at hm
    simp only [List.mem_cons, List.not_mem_nil, or_false] at hm
    rcases hm with e | e | e | e | e | e
    · exact nB2 _ _ hi hi2 (by decide) e
    · exact nB2 _ _ hi hi2 (by decide) e
    · exact nB2 _ _ hi hi2 (by decide) e
    · exact nB2 _ _ hi hi2 (by decide) e
    · exact nB2 _ _ hi hi2 (by decide) e
    · exact nB2 _ _ hi hi2 (by decide) e
  have hsome : ∀ x, x ∈ sX6 (B 1) (B 7) (fun i => B (8 + i)) → h x ≠ none := by
    intro x hm
    obtain ⟨c1, c2, c3, c4, c5⟩ := hst
    unfold sX6 at hm
    simp only [List.mem_cons, List.not_mem_nil, or_false] at hm
    rcases hm with rfl | rfl | rfl | rfl | rfl | rfl
    · rw [hvs]; exact fun x => nomatch x
    · rw [c1]; exact fun x => nomatch x
    · rw [show h (B (8 + 0)) = _ from c2]; exact fun x => nomatch x
    · rw [show h (B (8 + 1)) = _ from c3]; exact fun x => nomatch x
    · rw [show h (B (8 + 2)) = _ from c4]; exact fun x => nomatch x
    · rw [show h (B (8 + 3)) = _ from c5]; exact fun x => nomatch x
  have hfx : ∀ x, x ∈ sX6 (B 1) (B 7) (fun i => B (8 + i)) → f x = none := by
    intro x hm
    unfold sX6 at hm
    simp only [List.mem_cons, List.not_mem_nil, or_false] at hm
    rcases hm with rfl | rfl | rfl | rfl | rfl | rfl
    · exact fB _ (by decide)
    · exact fB _ (by decide)
    · exact fB _ (by decide)
    · exact fB _ (by decide)
    · exact fB _ (by decide)
    · exact fB _ (by decide)
  refine ⟨⟨b0, ?_⟩, ⟨hle_hX hl hx hfx, hof, hv, ?_, hs⟩, ⟨?_, ?_⟩, ⟨LMu_hX hac hx (hne 14 (by decide) (by decide) (by decide) (by decide) (by decide) (by decide) (by decide)) (hne2 16 (by decide) (by decide)), hacr⟩, ⟨LMu_hX hhd hx (hne 15 (by decide) (by decide) (by decide) (by decide) (by decide) (by decide) (by decide)) (hne2 17 (by decide) (by decide)), hhdr⟩, h6, ⟨nB, fB, nB2, fB2, nB3⟩, ⟨hX_FR hfr hx hsome, hkc, hX_KN hkn hx hsome⟩, hZ⟩
  · rw [← b0, hx _ (hne 0 (by decide) (by decide) (by decide) (by decide) (by decide) (by decide) (by decide)), b0]
    exact ho
  · obtain ⟨⟨gL, gE, gA, gK, ⟨a1, a2, a3, a4, a5⟩, b⟩, hw⟩ := hsx
    refine ⟨⟨gL, gE, gA, gK, ⟨?_, ?_, ?_, ?_, ?_⟩, b⟩, hw⟩
    · rw [hx _ (hne 2 (by decide) (by decide) (by decide) (by decide) (by decide) (by decide) (by decide))]; exact a1
    · rw [show h' (B (3 + 0)) = _ from hx _ (hne 3 (by decide) (by decide) (by decide) (by decide) (by decide) (by decide) (by decide))]; exact a2
    · rw [show h' (B (3 + 1)) = _ from hx _ (hne 4 (by decide) (by decide) (by decide) (by decide) (by decide) (by decide) (by decide))]; exact a3
    · rw [show h' (B (3 + 2)) = _ from hx _ (hne 5 (by decide) (by decide) (by decide) (by decide) (by decide) (by decide) (by decide))]; exact a4
    · rw [show h' (B (3 + 3)) = _ from hx _ (hne 6 (by decide) (by decide) (by decide) (by decide) (by decide) (by decide) (by decide))]; exact a5
  · obtain ⟨g, g1, g2⟩ := htp
    exact ⟨g, by rw [hx _ (hne 12 (by decide) (by decide) (by decide) (by decide) (by decide) (by decide) (by decide))]; exact g1, g2⟩
  · obtain ⟨g, g1, g2⟩ := hrf
    exact ⟨g, by rw [hx _ (hne 13 (by decide) (by decide) (by decide) (by decide) (by decide) (by decide) (by decide))]; exact g1, g2⟩
/-- be: the one that is tried becomes like the service now -/
theorem RC_be (hp : RCp K h n o S f B sT aT hT seed ea eh) : ∃ h1, gR h o 1 3 = some (B 7) ∧ isC h (B 7) 3 = true ∧ C3_be h (B 7) (B 2) = some (B 7, h1) ∧ CSV K h1 o (B 18) (B 1) f (zP S) (B 7) (fun i => B (8 + i)) (zw S) ∧ hX (sX6 (B 1) (B 7) (fun i => B (8 + i))) h h1 := by
  have hp0 := hp
  obtain ⟨⟨b0, ho⟩, ⟨hl, hof, ⟨gv, hvs⟩, hsx, ⟨gs, ds, hst⟩⟩, ⟨htp, hrf⟩, ⟨hac, hacr⟩, ⟨hhd, hhdr⟩, h6, ⟨nB, fB, nB2, fB2, nB3⟩, ⟨hfr, hkc, hkn⟩, hZ⟩ := hp
  obtain ⟨g2, d2, c2, a2⟩ := SX_to hsx
  have nd : (s5 (B 7) (fun i => B (8 + i))).Nodup := nodupB nB [7, 8, 9, 10, 11] (by decide) (by decide)
  have nd2 : ([B 0, B 1, B 7, B 8, B 9, B 10, B 11]).Nodup := nodupB nB [0, 1, 7, 8, 9, 10, 11] (by decide) (by decide)
  have dj : ∀ q, q ∈ s5 (B 2) (fun i => B (3 + i)) → ¬ q ∈ s5 (B 7) (fun i => B (8 + i)) := by
    have hall : ([2, 3, 4, 5, 6, 7, 8, 9, 10, 11].map B).Nodup := nodupB nB _ (by decide) (by decide)
    have h1 : ([2, 3, 4, 5, 6].map B ++ [7, 8, 9, 10, 11].map B).Nodup := hall
    intro q hq hq2
    exact (List.nodup_append.mp h1).2.2 q hq q hq2 rfl
  obtain ⟨h1, g', e1, c1, n1, m1, x1⟩ := C3_be_eq hst c2 nd dj
  have x6 : hX (sX6 (B 1) (B 7) (fun i => B (8 + i))) h h1 := hX_sub x1 (fun q hq => List.mem_cons_of_mem _ hq)
  have hv1 : h1 (B 1) = some (.inl (0, 6, .inl gv)) := by
    rw [x1 (B 1) (fun hm => (List.nodup_cons.mp (List.nodup_cons.mp nd2).2).1 hm)]
    exact hvs
  have hfx : ∀ x, x ∈ sX6 (B 1) (B 7) (fun i => B (8 + i)) → f x = none := by
    intro x hm
    unfold sX6 at hm
    simp only [List.mem_cons, List.not_mem_nil, or_false] at hm
    rcases hm with rfl | rfl | rfl | rfl | rfl | rfl
    · exact fB _ (by decide)
    · exact fB _ (by decide)
    · exact fB _ (by decide)
    · exact fB _ (by decide)
    · exact fB _ (by decide)
    · exact fB _ (by decide)
  have ho1 : h1 o = h o := by rw [← b0, x6 (B 0) (fun hm => (List.nodup_cons.mp nd2).1 hm)]
  refine ⟨h1, gR_of ho rfl, isC_of hst.1, e1, ⟨⟨hZ.1, ⟨_, ho1.trans ho, rfl, rfl⟩, hle_hX hl x6 hfx, hof, ⟨gv, hv1⟩⟩, SX_of c1 (SA_of hZ.1 a2 n1 m1) hsx.2, ?_, hfx⟩, x6⟩
  rw [← b0]
  exact nd2
/-- after trying, all is as it was -/
theorem RC_tx {w' : SV} (hp : RCp K h n o S f B sT aT hT seed ea eh) (hc : CSV K h' o (B 18) (B 1) f (zP S) (B 7) (fun i => B (8 + i)) w') (hx : hX (sX6 (B 1) (B 7) (fun i => B (8 + i))) h h') : RCp K h' n o S f B sT aT hT seed ea eh := by
  obtain ⟨g, d, c, _⟩ := SX_to hc.2.1
  exact RC_tr hp hx hc.1.2.2.2.2 ⟨g, d, c⟩
theorem tr_3 {w' : SV} (hp : RCp K h n o S f B sT aT hT seed ea eh) (hc : CSV K h' o (B 18) (B 1) f (zP S) (B 7) (fun i => B (8 + i)) w') (hx : hX (sX6 (B 1) (B 7) (fun i => B (8 + i))) h h') : gR h' o 1 3 = some (B 7) := by
  obtain ⟨h1, e, _⟩ := RC_be (RC_tx hp hc hx)
  exact e
theorem C1_later_eq (hp : RCp K h n o S f B sT aT hT seed ea eh) {m : Nat} (hm : m ≤ 100) : ∃ h', C1_later K h o (i3 m) = some (B 7, h') ∧ CSV K h' o (B 18) (B 1) f (zP S) (B 7) (fun i => B (8 + i)) (aft (zP S) m (zw S)) ∧ hX (sX6 (B 1) (B 7) (fun i => B (8 + i))) h h' := by
  have hR := RD_of hp
  have hd := hp.2.2.2.2.2.2.2.2.2.1.2
  obtain ⟨h1, e1, e2, e3, c1, x1⟩ := RC_be hp
  obtain ⟨h2, f1, f2, f3⟩ := C3_after_eq c1 (n := m) (by omega) (by omega)
  unfold C1_later
  rw [e1, Option.bind_some, hR.2.1, Option.bind_some]
  unfold vc
  rw [if_pos e2, e3, Option.bind_some]
  dsimp only
  have := sv_vc c1 (some ())
  rw [if_pos (show isC h1 (B 7) 3 = true by unfold vc at this; by_cases q : isC h1 (B 7) 3 = true; exact q; rw [if_neg q] at this; cases this), f1, Option.bind_some]
  exact ⟨h2, rfl, f2, hX_trans x1 f3⟩
end RCP
