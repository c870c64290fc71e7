/-! ===== office: the component's forms, as they are asked ===== -/
section CCHAIN
variable {K : Nat → Nat} {h h' : CH} {r : CR} {cv : (Nat → Int32) → (Nat → Int32)} {dd lo hi ch k a : Nat} {E : EX}
theorem o_loop_le {τ ρ : Type} {step step' : τ → Option (τ ⊕ ρ)} (hs : ∀ t x, step t = some x → step' t = some x) {s : τ} {z : ρ} (h : o_loop step s = some z) : o_loop step' s = some z := by
  obtain ⟨n, hn⟩ := o_loop_iff.mp h
  apply o_loop_iff.mpr
  refine ⟨n, ?_⟩
  clear h
  induction n generalizing s with
  | zero => cases hn
  | succ n ih =>
    unfold o_it at hn ⊢
    obtain ⟨x, x1, x2⟩ := o_bind hn
    rw [hs _ _ x1, Option.bind_some]
    cases x with
    | inl s' => exact ih x2
    | inr r' => exact x2
theorem bind_le {α β : Type} {x x' : Option α} {f f' : α → Option β} (h1 : ∀ y, x = some y → x' = some y) (h2 : ∀ a y, f a = some y → f' a = some y) {y : β} (h : x.bind f = some y) : x'.bind f' = some y := by
  obtain ⟨a, e1, e2⟩ := o_bind h
  rw [h1 a e1, Option.bind_some]
  exact h2 a y e2
theorem ite_le {α : Type} {c : Prop} [Decidable c] {x x' y y' : Option α} (h1 : ∀ z, x = some z → x' = some z) (h2 : ∀ z, y = some z → y' = some z) {z : α} (h : (if c then x else y) = some z) : (if c then x' else y') = some z := by
  by_cases e : c
  · rw [if_pos e] at h ⊢; exact h1 z h
  · rw [if_neg e] at h ⊢; exact h2 z h
theorem C7_of_le {F F' : CH → Nat → Nat → Option Int32} (hF : ∀ h a v z, F h a v = some z → F' h a v = some z) {o vs : Nat} {z : Int32} (h1 : C7_of F K h o vs = some z) : C7_of F' K h o vs = some z := by
  unfold C7_of at h1 ⊢
  refine bind_le (fun _ e => e) (fun v1 y => bind_le (fun _ e => e) (fun q2 y => bind_le (fun _ e => e) (fun u4 y => bind_le (hF _ _ _) (fun q5 y hl => o_loop_le (fun t x hx => ?_) hl)))) h1
  unfold C7_of_L22 at hx ⊢
  exact bind_le (fun _ e => e) (fun v8 y => bind_le (fun _ e => e) (fun q9 y => ite_le (fun z => bind_le (fun _ e => e) (fun v11 y => bind_le (fun _ e => e) (fun q12 y => bind_le (fun _ e => e) (fun v13 y => bind_le (fun _ e => e) (fun q14 y => bind_le (fun _ e => e) (fun u16 y => bind_le (hF _ _ _) (fun q17 y e => e))))))) (fun _ e => e))) hx
theorem Fm_mono : ∀ d h a vs v, Fm_n K d h a vs = some v → Fm_n K (d + 1) h a vs = some v := by
  intro d
  induction d with
  | zero => intro h a vs v e; cases e
  | succ d ih =>
    intro h a vs v e
    unfold Fm_n at e ⊢
    refine ite_le (fun _ e => e) (fun z => ite_le (fun _ e => e) (fun z => ite_le (fun z => ?_) (fun z => ite_le (fun z => C7_of_le ih) (fun _ e => e)))) e
    intro e2
    unfold C10_of at e2 ⊢
    exact bind_le (fun _ e => e) (fun v1 y => bind_le (ih _ _ _) (fun q2 y e => e)) e2
theorem Fm_le {d d' : Nat} (hd : d ≤ d') {h : CH} {a vs : Nat} {v : Int32} (e : Fm_n K d h a vs = some v) : Fm_n K d' h a vs = some v := by
  obtain ⟨j, rfl⟩ : ∃ j, d' = d + j := ⟨d' - d, by omega⟩
  clear hd
  induction j with
  | zero => exact e
  | succ j ih => exact Fm_mono _ _ _ _ _ ih
/-- a form lies from lo to hi, and is asked for E -/
def FoR (K : Nat → Nat) (dd : Nat) (cv : (Nat → Int32) → (Nat → Int32)) (h : CH) (lo hi a : Nat) (E : EX) : Prop := (lo ≤ a ∧ a < hi) ∧ (∃ c fs, h a = some (.inr (c, fs)) ∧ (c = 6 ∨ c = 7 ∨ c = 8 ∨ c = 9)) ∧ ∀ (h2 : CH) (vs : Nat) (g : Nat → Int32), (∀ p x, lo ≤ p → p < hi → h p = some x → h2 p = some x) → h2 vs = some (.inl (0, 6, .inl g)) → Fm_n K dd h2 a vs = some (E (cv g))
theorem FoR_up {dd' lo' hi' : Nat} (hF : FoR K dd cv h lo hi a E) (h1 : dd ≤ dd') (h2 : lo' ≤ lo) (h3 : hi ≤ hi') : FoR K dd' cv h lo' hi' a E :=
  ⟨⟨by have := hF.1.1; omega, by have := hF.1.2; omega⟩, hF.2.1, fun k vs g q1 q2 => Fm_le h1 (hF.2.2 k vs g (fun p x p1 p2 => q1 p x (by omega) (by omega)) q2)⟩
theorem FoR_le (hF : FoR K dd cv h lo hi a E) (he : ∀ p x, lo ≤ p → p < hi → h p = some x → h' p = some x) : FoR K dd cv h' lo hi a E := by
  obtain ⟨h1, ⟨c, fs, h2, h3⟩, h4⟩ := hF
  exact ⟨h1, ⟨c, fs, he a _ h1.1 h1.2 h2, h3⟩, fun k vs g q1 q2 => h4 k vs g (fun p x p1 p2 p3 => q1 p x p1 p2 (he p x p1 p2 p3)) q2⟩
theorem FoR_eq (hF : FoR K dd cv h lo hi a E) (he : ∀ p, lo ≤ p → p < hi → h' p = h p) : FoR K dd cv h' lo hi a E :=
  FoR_le hF (fun p x p1 p2 p3 => by rw [he p p1 p2]; exact p3)
theorem FoR_ckF (hF : FoR K dd cv h lo hi a E) : ckF h a = some () := by
  obtain ⟨-, ⟨c, fs, h2, h3⟩, -⟩ := hF
  unfold ckF
  rw [if_pos]
  unfold isC
  rw [h2]
  rcases h3 with rfl | rfl | rfl | rfl <;> simp
theorem FoR_ok (hF : FoR K dd cv h lo hi a E) : okO h a = true := by
  obtain ⟨-, ⟨c, fs, h2, h3⟩, -⟩ := hF
  rw [okO_of h2]
  rcases h3 with rfl | rfl | rfl | rfl <;> rfl
/-- the component's sign for a sign of the reference's -/
def chrN (o : Nat) : Nat := if o = 4 then 38 else if o = 5 then 124 else if o = 6 then 60 else if o = 7 then 61 else if o = 8 then 43 else if o = 9 then 45 else if o = 10 then 42 else 47
theorem chrN_lt (o : Nat) : chrN o < 128 := by
  unfold chrN
  repeat' split
  all_goals decide
theorem C7_by_eq {o : Nat} (h1 : 4 ≤ o) (h2 : o ≤ 11) (x y : Int32) : C7_by (i3 (chrN o)) x y = some (wk o x y) := by
  have : o = 4 ∨ o = 5 ∨ o = 6 ∨ o = 7 ∨ o = 8 ∨ o = 9 ∨ o = 10 ∨ o = 11 := by omega
  rcases this with rfl | rfl | rfl | rfl | rfl | rfl | rfl | rfl
  · show (if x = 0 then some 0 else if y = 0 then some 0 else some 1 : Option Int32) = some (if x = 0 then 0 else if y = 0 then 0 else 1)
    split
    · rfl
    · split <;> rfl
  · show (if x = 0 then (if y = 0 then some 0 else some 1) else some 1 : Option Int32) = some (if x = 0 then (if y = 0 then 0 else 1) else 1)
    split
    · split <;> rfl
    · rfl
  · show (if x < y then some 1 else some 0 : Option Int32) = some (if x < y then 1 else 0)
    split <;> rfl
  · show (if x = y then some 1 else some 0 : Option Int32) = some (if x = y then 1 else 0)
    split <;> rfl
  · rfl
  · rfl
  · rfl
  · show (if y = 0 then some 0 else ((idv x y).bind fun v16 => some v16) : Option Int32) = some (if y = 0 then 0 else x / y)
    unfold idv
    split
    · rfl
    · rfl
def chF (EL : Nat → EX) (oL : Nat → Nat) : Nat → EX
  | 0 => EL 0
  | i + 1 => fun v => wk (oL i) (chF EL oL i v) (EL (i + 1) v)
theorem chF_congr {EL EL' : Nat → EX} {oL oL' : Nat → Nat} : ∀ i, (∀ j, j ≤ i → EL' j = EL j) → (∀ j, j < i → oL' j = oL j) → chF EL' oL' i = chF EL oL i := by
  intro i
  induction i with
  | zero => intro h1 _; exact h1 0 (Nat.le_refl _)
  | succ i ih =>
    intro h1 h2
    unfold chF
    rw [ih (fun j hj => h1 j (by omega)) (fun j hj => h2 j (by omega)), h1 (i + 1) (Nat.le_refl _), h2 i (Nat.lt_succ_self _)]
/-- a chain of k forms, from lo to hi -/
def ChS (K : Nat → Nat) (dd : Nat) (cv : (Nat → Int32) → (Nat → Int32)) (h : CH) (lo hi ch k : Nat) (E : EX) : Prop := ∃ (li sb ar bs : Nat) (eL oL : Nat → Nat) (EL : Nat → EX) (mc ml : Int32) (cap cb : Nat) (ga : Nat → Option Nat) (g : Nat → Int32),
  (h ch = some (.inr (6, [.ref li, .ref sb])) ∧ h li = some (.inr (10, [.int mc, .ref ar, .int (i3 k)])) ∧ h ar = some (.inl (3, cap, .inr (.inr (.inr (.inr ga))))) ∧ h sb = some (.inr (11, [.ref bs, .int 0, .int ml, .int (i3 (k - 1))])) ∧ h bs = some (.inl (2, cb, .inl g))) ∧
  (k ≤ cap ∧ cap < 2 ^ 20 ∧ (∀ i, i < k → ga i = some (eL i)) ∧ 1 ≤ k ∧ k ≤ 900) ∧
  ((∀ i, ∃ m, m < 128 ∧ g i = i3 m) ∧ k - 1 ≤ cb ∧ cb ≤ 2 * (k - 1) + 16 ∧ (∀ i, i + 1 < k → g i = i3 (chrN (oL i))) ∧ bIx K bs = none) ∧
  ((lo ≤ ch ∧ ch < hi) ∧ (lo ≤ li ∧ li < hi) ∧ (lo ≤ ar ∧ ar < hi) ∧ (lo ≤ sb ∧ sb < hi) ∧ (lo ≤ bs ∧ bs < hi)) ∧
  (∀ i, i < k → ∃ l u, lo ≤ l ∧ u ≤ hi ∧ FoR K dd cv h l u (eL i) (EL i) ∧ ∀ p, l ≤ p → p < u → p ≠ ch ∧ p ≠ li ∧ p ≠ ar ∧ p ≠ sb ∧ p ≠ bs) ∧ (∀ i, i + 1 < k → 4 ≤ oL i ∧ oL i ≤ 11) ∧ E = chF EL oL (k - 1)
theorem Ch_eq (hS : ChS K dd cv h lo hi ch k E) (he : ∀ p, lo ≤ p → p < hi → h' p = h p) {hi' : Nat} (hh : hi ≤ hi') : ChS K dd cv h' lo hi' ch k E := by
  obtain ⟨li, sb, ar, bs, eL, oL, EL, mc, ml, cap, cb, ga, g, ⟨a1, a2, a3, a4, a5⟩, b, c, ⟨⟨d1, d2⟩, ⟨d3, d4⟩, ⟨d5, d6⟩, ⟨d7, d8⟩, ⟨d9, d10⟩⟩, f, x, y⟩ := hS
  refine ⟨li, sb, ar, bs, eL, oL, EL, mc, ml, cap, cb, ga, g, ⟨by rw [he _ d1 d2]; exact a1, by rw [he _ d3 d4]; exact a2, by rw [he _ d5 d6]; exact a3, by rw [he _ d7 d8]; exact a4, by rw [he _ d9 d10]; exact a5⟩, b, c, ⟨⟨d1, by omega⟩, ⟨d3, by omega⟩, ⟨d5, by omega⟩, ⟨d7, by omega⟩, ⟨d9, by omega⟩⟩, fun i hi2 => ?_, x, y⟩
  obtain ⟨l, u, l1, l2, l3, l4⟩ := f i hi2
  exact ⟨l, u, l1, by omega, FoR_eq l3 (fun p p1 p2 => he p (by omega) (by omega)), l4⟩
theorem isC_no {c c' : Nat} {fs : List Value} (e : h a = some (.inr (c, fs))) (hc : c ≠ c') : ¬ isC h a c' = true := by
  unfold isC
  rw [e]
  simp [hc]
/-- a chain is asked -/
theorem Ch_of (hS : ChS K dd cv h lo hi ch k E) : FoR K (dd + 1) cv h lo hi ch E := by
  obtain ⟨li, sb, ar, bs, eL, oL, EL, mc, ml, cap, cb, ga, g, ⟨a1, a2, a3, a4, a5⟩, ⟨b1, b2, b3, b4, b5⟩, ⟨c1, c2, c3, c4, c5⟩, ⟨⟨d1, d2⟩, ⟨d3, d4⟩, ⟨d5, d6⟩, ⟨d7, d8⟩, ⟨d9, d10⟩⟩, f, x, y⟩ := hS
  refine ⟨⟨d1, d2⟩, ⟨6, _, a1, .inl rfl⟩, fun h2 vs gv he hv => ?_⟩
  have e1 : h2 ch = _ := he _ _ d1 d2 a1
  have e2 : h2 li = _ := he _ _ d3 d4 a2
  have e3 : h2 ar = _ := he _ _ d5 d6 a3
  have e4 : h2 sb = _ := he _ _ d7 d8 a4
  have e5 : h2 bs = _ := he _ _ d9 d10 a5
  have hL : LRd h2 li k eL := ⟨mc, ar, e2, .inr ⟨cap, ga, e3, b1, by omega, b3⟩, by omega⟩
  have hF : ∀ i, i < k → ckF h2 (eL i) = some () ∧ Fm_n K dd h2 (eL i) vs = some (EL i (cv gv)) := by
    intro i hi2
    obtain ⟨l, u, l1, l2, l3, l4⟩ := f i hi2
    exact ⟨FoR_ckF (FoR_le l3 (fun p x p1 p2 => he p x (by omega) (by omega))), l3.2.2 h2 vs gv (fun p x p1 p2 => he p x (by omega) (by omega)) hv⟩
  show (if isC h2 ch 7 = true then C8_of h2 ch vs else if isC h2 ch 8 = true then C9_of h2 ch vs else if isC h2 ch 9 = true then C10_of (Fm_n K dd) h2 ch vs else if isC h2 ch 6 = true then C7_of (Fm_n K dd) K h2 ch vs else none) = _
  rw [if_neg (isC_no e1 (by decide)), if_neg (isC_no e1 (by decide)), if_neg (isC_no e1 (by decide)), if_pos (isC_of e1)]
  unfold C7_of
  rw [gR_of e1 (k := 0) rfl, Option.bind_some, show vc h2 li 10 (CJ2_get h2 li 0) = some (eL 0) from LRd_get (i := 0) hL (by omega), Option.bind_some, (hF 0 (by omega)).1, Option.bind_some, (hF 0 (by omega)).2, Option.bind_some, y]
  refine o_for0 (fun i => (chF EL oL i (cv gv), i3 (i + 1))) (k - 1) rfl (fun i hi2 => ?_) ?_
  · unfold C7_of_L22
    rw [gR_of e1 (k := 0) rfl, Option.bind_some, LRd_size hL, Option.bind_some]
    dsimp only
    rw [if_pos ((i3_lt (by omega) (by omega)).mpr (by omega)), gR_of e1 (k := 1) rfl, Option.bind_some, i3_dec1, SB_at c5 e4 e5 c2 (by omega) hi2 (chrN_lt (oL i)) (c4 i (by omega)), Option.bind_some, Option.bind_some, LRd_get hL (by omega), Option.bind_some, (hF (i + 1) (by omega)).1, Option.bind_some, (hF (i + 1) (by omega)).2, Option.bind_some, C7_by_eq (x i (by omega)).1 (x i (by omega)).2, Option.bind_some, i3_succ]
    rfl
  · unfold C7_of_L22
    rw [gR_of e1 (k := 0) rfl, Option.bind_some, LRd_size hL, Option.bind_some]
    dsimp only
    rw [if_neg (fun z => by have := (i3_lt (by omega) (by omega)).mp z; omega)]
/-- a chain of one is that one -/
theorem Ch_plain (hS : ChS K dd cv h lo hi ch k E) : ∃ a, vc h ch 6 (C7_plain h ch) = some a ∧ FoR K (dd + 1) cv h lo hi a E := by
  have hof := Ch_of hS
  obtain ⟨li, sb, ar, bs, eL, oL, EL, mc, ml, cap, cb, ga, g, ⟨a1, a2, a3, a4, a5⟩, ⟨b1, b2, b3, b4, b5⟩, -, -, f, -, y⟩ := hS
  have hL : LRd h li k eL := ⟨mc, ar, a2, .inr ⟨cap, ga, a3, b1, by omega, b3⟩, by omega⟩
  rw [vc_of a1]
  unfold C7_plain
  rw [gR_of a1 (k := 0) rfl, Option.bind_some, LRd_size hL, Option.bind_some]
  by_cases e1 : k = 1
  · subst e1
    obtain ⟨l, u, l1, l2, l3, l4⟩ := f 0 (by decide)
    rw [if_pos (by decide), Option.bind_some, show vc h li 10 (CJ2_get h li 0) = some (eL 0) from LRd_get (i := 0) hL (by omega), Option.bind_some, FoR_ckF l3, Option.bind_some]
    refine ⟨_, rfl, ?_⟩
    rw [y]
    exact FoR_up l3 (Nat.le_succ _) l1 l2
  · rw [if_neg (i3_nl (x := 1) (c := 1) rfl (by omega) (by decide) e1)]
    exact ⟨ch, rfl, hof⟩
end CCHAIN
