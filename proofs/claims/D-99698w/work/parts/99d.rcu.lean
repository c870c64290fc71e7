/-! ===== the component's whole state: what changes it ===== -/
def wAC (S : ST) (a : AC) : ST := (S.1, S.2.1, a, S.2.2.2)
def wHD (S : ST) (e : HD) : ST := (S.1, S.2.1, S.2.2.1, e, S.2.2.2.2)
def wSV (S : ST) (v : SV) : ST := (S.1, v, S.2.2)
def wIM (S : ST) (z : Option (SV × AC × HD)) : ST := (S.1, S.2.1, S.2.2.1, S.2.2.2.1, z, S.2.2.2.2.2)
def wRF (S : ST) (g : Nat → Int32) : ST := (S.1, S.2.1, S.2.2.1, S.2.2.2.1, S.2.2.2.2.1, S.2.2.2.2.2.1, S.2.2.2.2.2.2.1, S.2.2.2.2.2.2.2.1, g)
def Bu (B : Nat → Nat) (i v : Nat) : Nat → Nat := fun q => if q = i then v else B q
theorem Bu_eq {B : Nat → Nat} {i v : Nat} : Bu B i v i = v := if_pos rfl
theorem Bu_ne {B : Nat → Nat} {i v q : Nat} (h : q ≠ i) : Bu B i v q = B q := if_neg h
theorem KN_b {K : Nat → Nat} {h h' : CH} {n : Nat} (hK : KN K h) (hKb : ∀ i, i < 500 → K i < n) (hb : ∀ q, q < n → h q = none → h' q = none) : KN K h' := by
  obtain ⟨z1, z2, z3⟩ := hK
  exact ⟨hb _ (hKb 0 (by decide)) z1, hb _ (hKb 1 (by decide)) z2, fun i hi => hb _ (hKb (30 + i) (by omega)) (z3 i hi)⟩
section RCU
variable {K : Nat → Nat} {h h' : CH} {n n' o : Nat} {S : ST} {f f' : CH} {B : Nat → Nat} {sT aT hT : Option Nat} {seed : Int32} {ea eh : Nat → Nat}
theorem RCp_lt (hp : RCp K h n o S f B sT aT hT seed ea eh) {a : Nat} {x : CE} (e : h a = some x) : a < n := by
  have hf := RCp_FR hp
  apply Classical.byContradiction
  intro y
  rw [hf a (by omega)] at e
  cases e
theorem RCp_K (hp : RCp K h n o S f B sT aT hT seed ea eh) : KN K h ∧ K 0 ≠ K 1 ∧ (∀ i, i < 500 → K i < n) ∧ (∀ j, j < 256 → h (K (200 + j)) = some (.inr (12, [.int (i3 j - 128)]))) := by
  obtain ⟨_, ⟨hl, _⟩, _, _, _, _, _, ⟨_, ⟨k1, k2, k3, k4⟩, hkn⟩, _⟩ := hp
  exact ⟨hkn, k2, k3, fun j hj => hl _ _ (k4 j hj)⟩
/-- every place of the state below 16 holds a cell -/
theorem RCp_some (hp : RCp K h n o S f B sT aT hT seed ea eh) : ∀ i, i < 16 → ∃ c, h (B i) = some c := by
  obtain ⟨⟨b0, ho⟩, ⟨hl, hof, ⟨gv, hvs⟩, hsx, ⟨gs, ds, hst⟩⟩, ⟨⟨gt, htp, htp2⟩, ⟨gr, hrf, hrf2⟩⟩, ⟨hac, hacr⟩, ⟨hhd, hhdr⟩, h6, ⟨nB, fB, nB2, fB2, nB3⟩, ⟨hfr, ⟨k1, k2, k3, k4⟩, hkn⟩, hZ⟩ := hp
  intro i hi
  have hcs : i = 0 ∨ i = 1 ∨ i = 2 ∨ i = 3 ∨ i = 4 ∨ i = 5 ∨ i = 6 ∨ i = 7 ∨ i = 8 ∨ i = 9 ∨ i = 10 ∨ i = 11 ∨ i = 12 ∨ i = 13 ∨ i = 14 ∨ i = 15 := by omega
  obtain ⟨⟨gL, gE, gA, gK, ⟨a1, a2, a3, a4, a5⟩, _⟩, _⟩ := hsx
  obtain ⟨c1, c2, c3, c4, c5⟩ := hst
  obtain ⟨mc1, d1, _⟩ := hac
  obtain ⟨mc2, d2, _⟩ := hhd
  rcases hcs with rfl | rfl | rfl | rfl | rfl | rfl | rfl | rfl | rfl | rfl | rfl | rfl | rfl | rfl | rfl | rfl
  · rw [b0]; exact ⟨_, ho⟩
  · exact ⟨_, hvs⟩
  · exact ⟨_, a1⟩
  · exact ⟨_, a2⟩
  · exact ⟨_, a3⟩
  · exact ⟨_, a4⟩
  · exact ⟨_, a5⟩
  · exact ⟨_, c1⟩
  · exact ⟨_, c2⟩
  · exact ⟨_, c3⟩
  · exact ⟨_, c4⟩
  · exact ⟨_, c5⟩
  · exact ⟨_, htp⟩
  · exact ⟨_, hrf⟩
  · exact ⟨_, d1⟩
  · exact ⟨_, d2⟩
theorem SX_eq {P : PO} {s : Nat} {A : Nat → Nat} {v : SV} (hs : SX h o P s A v) (hb : ∀ q, q ∈ s5 s A → h' q = h q) : SX h' o P s A v := by
  obtain ⟨⟨gL, gE, gA, gK, ⟨a1, a2, a3, a4, a5⟩, b⟩, hw⟩ := hs
  unfold s5 at hb
  exact ⟨⟨gL, gE, gA, gK, ⟨(hb _ (by simp)).trans a1, (hb _ (by simp)).trans a2, (hb _ (by simp)).trans a3, (hb _ (by simp)).trans a4, (hb _ (by simp)).trans a5⟩, b⟩, hw⟩
theorem SC_eq {s : Nat} {A : Nat → Nat} {g : Nat → Nat → Int32} {d : Int32} (hs : SC h o s A g d) (hb : ∀ q, q ∈ s5 s A → h' q = h q) : SC h' o s A g d := by
  obtain ⟨a1, a2, a3, a4, a5⟩ := hs
  unfold s5 at hb
  exact ⟨(hb _ (by simp)).trans a1, (hb _ (by simp)).trans a2, (hb _ (by simp)).trans a3, (hb _ (by simp)).trans a4, (hb _ (by simp)).trans a5⟩
theorem LMu_eq {a arr m : Nat} {e : Nat → Nat} (hL : LMu K h a arr m e) (h1 : h' a = h a) (h2 : (∃ c, h arr = some c) → h' arr = h arr) : LMu K h' a arr m e := by
  obtain ⟨mc, g1, g2⟩ := hL
  refine ⟨mc, h1.trans g1, ?_⟩
  rcases g2 with g2 | ⟨cap, g, g3, g4⟩
  · exact .inl g2
  · exact .inr ⟨cap, g, (h2 ⟨_, g3⟩).trans g3, g4⟩
theorem mem_s5 {B : Nat → Nat} {s c : Nat} {q : Nat} (hq : q ∈ s5 (B s) (fun i => B (c + i))) : q = B s ∨ q = B (c + 0) ∨ q = B (c + 1) ∨ q = B (c + 2) ∨ q = B (c + 3) := by
  unfold s5 at hq
  simpa using hq
/-- more at rest -/
theorem RC_frz (hp : RCp K h n o S f B sT aT hT seed ea eh) (hff : hle f f') (hfh : hle f' h) (hB : ∀ i, i < 18 → f' (B i) = none) : RCp K h n o S f' B sT aT hT seed ea eh := by
  obtain ⟨h0, ⟨hl, hof, hvs, hsx, hst⟩, h3, ⟨hac, hacr⟩, ⟨hhd, hhdr⟩, him, ⟨nB, fB, nB2, fB2, nB3⟩, ⟨hfr, ⟨k1, k2, k3, k4⟩, hkn⟩, hZ⟩ := hp
  exact ⟨h0, ⟨hfh, OFR_mono hff hof, hvs, hsx, hst⟩, h3, ⟨hac, ACr_mono hff hacr⟩, ⟨hhd, HDr_mono hff hhdr⟩, IMr_mono hff him, ⟨nB, fun i hi => hB i (by omega), nB2, fun i h1 h2 => hB i h2, nB3⟩, ⟨hfr, ⟨k1, k2, k3, fun j hj => hff _ _ (k4 j hj)⟩, hkn⟩, hZ⟩

/-- the list of acts has changed -/
theorem RC_acts {arr : Nat} {x : AC} {e' : Nat → Nat} (hp : RCp K h n o S f B sT aT hT seed ea eh) (hL : LMu K h' (B 14) arr x.1 e') (hR : ACr f o (zP S) x e') (ha : (arr = B 16 ∧ ∃ c, h arr = some c) ∨ (n ≤ arr ∧ arr < n')) (hf : FR h' n') (hn : n ≤ n') (hb : ∀ q, q ≠ B 14 → q ≠ arr → h' q = h q) (hZ' : WFZ (wAC S x)) : RCp K h' n' o (wAC S x) f (Bu B 16 arr) sT aT hT seed e' eh := by
  have hlt := fun {a : Nat} {x : CE} => RCp_lt hp (a := a) (x := x)
  have hsome := RCp_some hp
  obtain ⟨⟨b0, ho⟩, ⟨hl, hof, ⟨gv, hvs⟩, hsx, ⟨gs, ds, hst⟩⟩, ⟨⟨gt, htp, htp2⟩, ⟨gr, hrf, hrf2⟩⟩, ⟨hac, hacr⟩, ⟨hhd, hhdr⟩, h6, ⟨nB, fB, nB2, fB2, nB3⟩, ⟨hfr, ⟨k1, k2, k3, k4⟩, hkn⟩, hZ⟩ := hp
  have hpos : ∀ i, i < 16 → B i < n := fun i hi => by obtain ⟨c, hc⟩ := hsome i hi; exact hlt hc
  have hane : ∀ i, i < 16 → B i ≠ arr := by
    intro i hi e
    rcases ha with ⟨ha, _⟩ | ⟨ha, _⟩
    · exact nB2 16 i (by decide) (by decide) hi (ha ▸ e.symm)
    · have := hpos i hi; omega
  have hne : ∀ i, i < 16 → i ≠ 14 → h' (B i) = h (B i) := fun i hi h1 => hb _ (fun e => h1 (nB _ _ hi (by decide) e)) (hane i hi)
  have hfa : f arr = none := by
    rcases ha with ⟨ha, _⟩ | ⟨ha, _⟩
    · rw [ha]; exact fB2 16 (by decide) (by decide)
    · cases e : f arr with
      | none => rfl
      | some c => have := hlt (hl _ _ e); omega
  have hfh : hle f h' := by
    intro a c hac
    rw [hb a (fun e => by rw [e, fB 14 (by decide)] at hac; cases hac) (fun e => by rw [e, hfa] at hac; cases hac)]
    exact hl _ _ hac
  have hKn : KN K h' := by
    refine KN_b hkn k3 (fun q hq hq2 => ?_)
    rw [hb q (fun e => by obtain ⟨c, hc⟩ := hsome 14 (by decide); rw [e, hc] at hq2; cases hq2) (fun e => by
      rcases ha with ⟨_, c, hc⟩ | ⟨ha, _⟩
      · rw [e, hc] at hq2; cases hq2
      · omega)]
    exact hq2
  have h17 : (∃ c, h (B 17) = some c) → B 17 ≠ arr := by
    rintro ⟨c, hc⟩ e
    rcases ha with ⟨ha, _⟩ | ⟨ha, _⟩
    · have e2 : B 16 = B 17 := ha.symm.trans e.symm
      have q := nB3 e2
      rcases q with q | q
      · rw [show B 17 = K 0 from e2.symm.trans q, hkn.1] at hc; cases hc
      · rw [show B 17 = K 1 from e2.symm.trans q, hkn.2.1] at hc; cases hc
    · have := hlt hc; omega
  refine ⟨⟨(Bu_ne (by decide)).trans b0, ?_⟩, ⟨hfh, by rw [Bu_ne (by decide)]; exact hof, ⟨gv, by rw [Bu_ne (by decide), hne 1 (by decide) (by decide)]; exact hvs⟩, ?_, ⟨gs, ds, ?_⟩⟩, ⟨⟨gt, by rw [Bu_ne (by decide), hne 12 (by decide) (by decide)]; exact htp, htp2⟩, ⟨gr, by rw [Bu_ne (by decide), hne 13 (by decide) (by decide)]; exact hrf, hrf2⟩⟩, ⟨?_, hR⟩, ⟨?_, hhdr⟩, h6, ⟨fun i j hi hj => ?_, fun i hi => ?_, fun i j h1 h2 hj => ?_, fun i h1 h2 => ?_, ?_⟩, ⟨hf, ⟨k1, k2, fun i hi => Nat.lt_of_lt_of_le (k3 i hi) hn, k4⟩, hKn⟩, hZ'⟩
  · rw [show h' o = h o by rw [← b0]; exact hne 0 (by decide) (by decide)]
    exact ho
  · refine SX_eq hsx (fun q hq => ?_)
    rcases mem_s5 hq with rfl | rfl | rfl | rfl | rfl
    · exact hne 2 (by decide) (by decide)
    · exact hne 3 (by decide) (by decide)
    · exact hne 4 (by decide) (by decide)
    · exact hne 5 (by decide) (by decide)
    · exact hne 6 (by decide) (by decide)
  · refine SC_eq hst (fun q hq => ?_)
    rcases mem_s5 hq with rfl | rfl | rfl | rfl | rfl
    · exact hne 7 (by decide) (by decide)
    · exact hne 8 (by decide) (by decide)
    · exact hne 9 (by decide) (by decide)
    · exact hne 10 (by decide) (by decide)
    · exact hne 11 (by decide) (by decide)
  · rw [Bu_ne (by decide), Bu_eq]; exact hL
  · rw [Bu_ne (by decide), Bu_ne (by decide)]
    exact LMu_eq hhd (hne 15 (by decide) (by decide)) (fun hc => hb _ (nB2 17 14 (by decide) (by decide) (by decide)) (h17 hc))
  · rw [Bu_ne (by omega), Bu_ne (by omega)]; exact nB i j hi hj
  · rw [Bu_ne (by omega)]; exact fB i hi
  · rw [Bu_ne (show j ≠ 16 by omega)]
    by_cases e : i = 16
    · rw [e, Bu_eq]; exact Ne.symm (hane j hj)
    · rw [Bu_ne e]; exact nB2 i j h1 h2 hj
  · by_cases e : i = 16
    · rw [e, Bu_eq]; exact hfa
    · rw [Bu_ne e]; exact fB2 i h1 h2
  · intro e
    rw [Bu_eq, Bu_ne (by decide)] at e
    rw [Bu_eq]
    rcases ha with ⟨ha, c, hc⟩ | ⟨ha, ha2⟩
    · rw [ha]
      exact nB3 (ha ▸ e)
    · exfalso
      by_cases hc : ∃ c, h (B 17) = some c
      · exact h17 hc e.symm
      · obtain ⟨mc, _, g2⟩ := hhd
        rcases g2 with ⟨_, g2⟩ | ⟨cap, g, g3, _⟩
        · have q0 := k3 0 (by decide)
          have q1 := k3 1 (by decide)
          rcases g2 with g2 | g2 <;> omega
        · exact hc ⟨_, g3⟩
/-- the list of heard has changed -/
theorem RC_heard {arr : Nat} {x : HD} {e' : Nat → Nat} (hp : RCp K h n o S f B sT aT hT seed ea eh) (hL : LMu K h' (B 15) arr x.1 e') (hR : HDr f x e') (ha : (arr = B 17 ∧ ∃ c, h arr = some c) ∨ (n ≤ arr ∧ arr < n')) (hf : FR h' n') (hn : n ≤ n') (hb : ∀ q, q ≠ B 15 → q ≠ arr → h' q = h q) (hZ' : WFZ (wHD S x)) : RCp K h' n' o (wHD S x) f (Bu B 17 arr) sT aT hT seed ea e' := by
  have hlt := fun {a : Nat} {x : CE} => RCp_lt hp (a := a) (x := x)
  have hsome := RCp_some hp
  obtain ⟨⟨b0, ho⟩, ⟨hl, hof, ⟨gv, hvs⟩, hsx, ⟨gs, ds, hst⟩⟩, ⟨⟨gt, htp, htp2⟩, ⟨gr, hrf, hrf2⟩⟩, ⟨hac, hacr⟩, ⟨hhd, hhdr⟩, h6, ⟨nB, fB, nB2, fB2, nB3⟩, ⟨hfr, ⟨k1, k2, k3, k4⟩, hkn⟩, hZ⟩ := hp
  have hpos : ∀ i, i < 16 → B i < n := fun i hi => by obtain ⟨c, hc⟩ := hsome i hi; exact hlt hc
  have hane : ∀ i, i < 16 → B i ≠ arr := by
    intro i hi e
    rcases ha with ⟨ha, _⟩ | ⟨ha, _⟩
    · exact nB2 17 i (by decide) (by decide) hi (ha ▸ e.symm)
    · have := hpos i hi; omega
  have hne : ∀ i, i < 16 → i ≠ 15 → h' (B i) = h (B i) := fun i hi h1 => hb _ (fun e => h1 (nB _ _ hi (by decide) e)) (hane i hi)
  have hfa : f arr = none := by
    rcases ha with ⟨ha, _⟩ | ⟨ha, _⟩
    · rw [ha]; exact fB2 17 (by decide) (by decide)
    · cases e : f arr with
      | none => rfl
      | some c => have := hlt (hl _ _ e); omega
  have hfh : hle f h' := by
    intro a c hac
    rw [hb a (fun e => by rw [e, fB 15 (by decide)] at hac; cases hac) (fun e => by rw [e, hfa] at hac; cases hac)]
    exact hl _ _ hac
  have hKn : KN K h' := by
    refine KN_b hkn k3 (fun q hq hq2 => ?_)
    rw [hb q (fun e => by obtain ⟨c, hc⟩ := hsome 15 (by decide); rw [e, hc] at hq2; cases hq2) (fun e => by
      rcases ha with ⟨_, c, hc⟩ | ⟨ha, _⟩
      · rw [e, hc] at hq2; cases hq2
      · omega)]
    exact hq2
  have h17 : (∃ c, h (B 16) = some c) → B 16 ≠ arr := by
    rintro ⟨c, hc⟩ e
    rcases ha with ⟨ha, _⟩ | ⟨ha, _⟩
    · have e2 : B 16 = B 17 := e.trans ha
      have q := nB3 e2
      rcases q with q | q
      · rw [show B 16 = K 0 from q, hkn.1] at hc; cases hc
      · rw [show B 16 = K 1 from q, hkn.2.1] at hc; cases hc
    · have := hlt hc; omega
  refine ⟨⟨(Bu_ne (by decide)).trans b0, ?_⟩, ⟨hfh, by rw [Bu_ne (by decide)]; exact hof, ⟨gv, by rw [Bu_ne (by decide), hne 1 (by decide) (by decide)]; exact hvs⟩, ?_, ⟨gs, ds, ?_⟩⟩, ⟨⟨gt, by rw [Bu_ne (by decide), hne 12 (by decide) (by decide)]; exact htp, htp2⟩, ⟨gr, by rw [Bu_ne (by decide), hne 13 (by decide) (by decide)]; exact hrf, hrf2⟩⟩, ⟨?_, hacr⟩, ⟨?_, hR⟩, h6, ⟨fun i j hi hj => ?_, fun i hi => ?_, fun i j h1 h2 hj => ?_, fun i h1 h2 => ?_, ?_⟩, ⟨hf, ⟨k1, k2, fun i hi => Nat.lt_of_lt_of_le (k3 i hi) hn, k4⟩, hKn⟩, hZ'⟩
  · rw [show h' o = h o by rw [← b0]; exact hne 0 (by decide) (by decide)]
    exact ho
  · refine SX_eq hsx (fun q hq => ?_)
    rcases mem_s5 hq with rfl | rfl | rfl | rfl | rfl
    · exact hne 2 (by decide) (by decide)
    · exact hne 3 (by decide) (by decide)
    · exact hne 4 (by decide) (by decide)
    · exact hne 5 (by decide) (by decide)
    · exact hne 6 (by decide) (by decide)
  · refine SC_eq hst (fun q hq => ?_)
    rcases mem_s5 hq with rfl | rfl | rfl | rfl | rfl
    · exact hne 7 (by decide) (by decide)
    · exact hne 8 (by decide) (by decide)
    · exact hne 9 (by decide) (by decide)
    · exact hne 10 (by decide) (by decide)
    · exact hne 11 (by decide) (by decide)
  · rw [Bu_ne (by decide), Bu_ne (by decide)]
    exact LMu_eq hac (hne 14 (by decide) (by decide)) (fun hc => hb _ (nB2 16 15 (by decide) (by decide) (by decide)) (h17 hc))
  · rw [Bu_ne (by decide), Bu_eq]; exact hL
  · rw [Bu_ne (by omega), Bu_ne (by omega)]; exact nB i j hi hj
  · rw [Bu_ne (by omega)]; exact fB i hi
  · rw [Bu_ne (show j ≠ 17 by omega)]
    by_cases e : i = 17
    · rw [e, Bu_eq]; exact Ne.symm (hane j hj)
    · rw [Bu_ne e]; exact nB2 i j h1 h2 hj
  · by_cases e : i = 17
    · rw [e, Bu_eq]; exact hfa
    · rw [Bu_ne e]; exact fB2 i h1 h2
  · intro e
    rw [Bu_eq, Bu_ne (by decide)] at e
    rw [Bu_ne (by decide)]
    rcases ha with ⟨ha, c, hc⟩ | ⟨ha, ha2⟩
    · exact nB3 (ha ▸ e)
    · obtain ⟨mc, _, g2⟩ := hac
      rcases g2 with ⟨_, g2⟩ | ⟨cap, g, g3, _⟩
      · exact g2
      · exact absurd e (h17 ⟨_, g3⟩)
/-- the service now has changed, and values -/
theorem RC_sv {v : SV} (hp : RCp K h n o S f B sT aT hT seed ea eh) (hc : CSV K h' o (B 18) (B 1) f (zP S) (B 2) (fun i => B (3 + i)) v) (hx : hX (sX6 (B 1) (B 2) (fun i => B (3 + i))) h h') (hZ' : WFZ (wSV S v)) : RCp K h' n o (wSV S v) f B sT aT hT seed ea eh := by
  have hsome := RCp_some hp
  obtain ⟨⟨b0, ho⟩, ⟨hl, hof, ⟨gv, hvs⟩, hsx, ⟨gs, ds, hst⟩⟩, ⟨⟨gt, htp, htp2⟩, ⟨gr, hrf, hrf2⟩⟩, ⟨hac, hacr⟩, ⟨hhd, hhdr⟩, h6, ⟨nB, fB, nB2, fB2, nB3⟩, ⟨hfr, ⟨k1, k2, k3, k4⟩, hkn⟩, hZ⟩ := hp
  have hmem : ∀ x, x ∈ sX6 (B 1) (B 2) (fun i => B (3 + i)) → ∃ j, 1 ≤ j ∧ j ≤ 6 ∧ x = B j := by
    intro x hm
    unfold sX6 at hm
    simp only [List.mem_cons, List.not_mem_nil, or_false] at hm
    rcases hm with rfl | rfl | rfl | rfl | rfl | rfl
    · exact ⟨1, by decide, by decide, rfl⟩
    · exact ⟨2, by decide, by decide, rfl⟩
    · exact ⟨3, by decide, by decide, rfl⟩
    · exact ⟨4, by decide, by decide, rfl⟩
    · exact ⟨5, by decide, by decide, rfl⟩
    · exact ⟨6, by decide, by decide, rfl⟩
  have hne : ∀ i, i < 16 → (i = 0 ∨ 7 ≤ i) → h' (B i) = h (B i) := by
    intro i hi h1
    refine hx _ (fun hm => ?_)
    obtain ⟨j, j1, j2, e⟩ := hmem _ hm
    have := nB i j hi (by omega) e
    omega
  have hne2 : ∀ i, 16 ≤ i → i < 18 → h' (B i) = h (B i) := by
    intro i hi hi2
    refine hx _ (fun hm => ?_)
    obtain ⟨j, j1, j2, e⟩ := hmem _ hm
    exact nB2 i j hi hi2 (by omega) e
  have hso : ∀ x, x ∈ sX6 (B 1) (B 2) (fun i => B (3 + i)) → h x ≠ none := by
    intro x hm e
    obtain ⟨j, j1, j2, rfl⟩ := hmem _ hm
    obtain ⟨c, hc⟩ := hsome j (by omega)
    rw [hc] at e; cases e
  refine ⟨⟨b0, ?_⟩, ⟨hc.1.2.2.1, hof, hc.1.2.2.2.2, hc.2.1, ⟨gs, ds, ?_⟩⟩, ⟨⟨gt, by rw [hne 12 (by decide) (by decide)]; exact htp, htp2⟩, ⟨gr, by rw [hne 13 (by decide) (by decide)]; exact hrf, hrf2⟩⟩, ⟨LMu_eq hac (hne 14 (by decide) (by decide)) (fun _ => hne2 16 (by decide) (by decide)), hacr⟩, ⟨LMu_eq hhd (hne 15 (by decide) (by decide)) (fun _ => hne2 17 (by decide) (by decide)), hhdr⟩, h6, ⟨nB, fB, nB2, fB2, nB3⟩, ⟨hX_FR hfr hx hso, ⟨k1, k2, k3, k4⟩, hX_KN hkn hx hso⟩, hZ'⟩
  · rw [show h' o = h o by rw [← b0]; exact hne 0 (by decide) (by decide)]
    exact ho
  · refine SC_eq hst (fun q hq => ?_)
    rcases mem_s5 hq with rfl | rfl | rfl | rfl | rfl
    · exact hne 7 (by decide) (by decide)
    · exact hne 8 (by decide) (by decide)
    · exact hne 9 (by decide) (by decide)
    · exact hne 10 (by decide) (by decide)
    · exact hne 11 (by decide) (by decide)
/-- one cell of role i (not the office's, a service's, a list's) has changed -/
theorem RC_one {i : Nat} {c : CE} (hp : RCp K h n o S f B sT aT hT seed ea eh) (hi : i = 0 ∨ i = 12 ∨ i = 13) : hle f (hup h (B i) c) ∧ FR (hup h (B i) c) n ∧ KN K (hup h (B i) c) ∧ (∀ j, j < 18 → j ≠ i → hup h (B i) c (B j) = h (B j)) := by
  have hlt := fun {a : Nat} {x : CE} => RCp_lt hp (a := a) (x := x)
  have hsome := RCp_some hp
  obtain ⟨⟨b0, ho⟩, ⟨hl, hof, ⟨gv, hvs⟩, hsx, ⟨gs, ds, hst⟩⟩, ⟨⟨gt, htp, htp2⟩, ⟨gr, hrf, hrf2⟩⟩, ⟨hac, hacr⟩, ⟨hhd, hhdr⟩, h6, ⟨nB, fB, nB2, fB2, nB3⟩, ⟨hfr, ⟨k1, k2, k3, k4⟩, hkn⟩, hZ⟩ := hp
  obtain ⟨c0, hc0⟩ := hsome i (by omega)
  refine ⟨fun a x e => ?_, FR_set hfr (hlt hc0), KN_up hkn (KN_some hkn hc0), fun j hj hji => ?_⟩
  · rw [hup_n (fun y => by rw [y, fB i (by omega)] at e; cases e)]
    exact hl _ _ e
  · refine hup_n (fun e => ?_)
    by_cases hj2 : j < 16
    · exact hji (nB j i hj2 (by omega) e)
    · exact nB2 j i (by omega) hj (by omega) e
/-- refused -/
theorem RC_rf {g : Nat → Int32} {q : Nat → Int32} (hp : RCp K h n o S f B sT aT hT seed ea eh) (hg : ∀ i, i < 3 → g i = q i) : RCp K (hup h (B 13) (.inl (0, 3, .inl g))) n o (wRF S q) f B sT aT hT seed ea eh := by
  obtain ⟨u1, u2, u3, u4⟩ := RC_one (i := 13) (c := .inl (0, 3, .inl g)) hp (by decide)
  obtain ⟨⟨b0, ho⟩, ⟨hl, hof, ⟨gv, hvs⟩, hsx, ⟨gs, ds, hst⟩⟩, ⟨⟨gt, htp, htp2⟩, ⟨gr, hrf, hrf2⟩⟩, ⟨hac, hacr⟩, ⟨hhd, hhdr⟩, h6, ⟨nB, fB, nB2, fB2, nB3⟩, ⟨hfr, hkc, hkn⟩, hZ⟩ := hp
  refine ⟨⟨b0, ?_⟩, ⟨u1, hof, ⟨gv, by rw [u4 1 (by decide) (by decide)]; exact hvs⟩, SX_eq hsx (fun q hq => ?_), ⟨gs, ds, SC_eq hst (fun q hq => ?_)⟩⟩, ⟨⟨gt, by rw [u4 12 (by decide) (by decide)]; exact htp, htp2⟩, ⟨g, hup_s, hg⟩⟩, ⟨LMu_eq hac (u4 14 (by decide) (by decide)) (fun _ => u4 16 (by decide) (by decide)), hacr⟩, ⟨LMu_eq hhd (u4 15 (by decide) (by decide)) (fun _ => u4 17 (by decide) (by decide)), hhdr⟩, h6, ⟨nB, fB, nB2, fB2, nB3⟩, ⟨u2, hkc, u3⟩, hZ⟩
  · rw [show hup h (B 13) _ o = h o by rw [← b0]; exact u4 0 (by decide) (by decide)]
    exact ho
  · rcases mem_s5 hq with rfl | rfl | rfl | rfl | rfl
    · exact u4 2 (by decide) (by decide)
    · exact u4 3 (by decide) (by decide)
    · exact u4 4 (by decide) (by decide)
    · exact u4 5 (by decide) (by decide)
    · exact u4 6 (by decide) (by decide)
  · rcases mem_s5 hq with rfl | rfl | rfl | rfl | rfl
    · exact u4 7 (by decide) (by decide)
    · exact u4 8 (by decide) (by decide)
    · exact u4 9 (by decide) (by decide)
    · exact u4 10 (by decide) (by decide)
    · exact u4 11 (by decide) (by decide)
end RCU
