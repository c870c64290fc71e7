/-! ===== the whole state of a run: the office, the service now, acts kept, what was heard, an image, the tape, what is taped, where a fault is, refusals ===== -/
abbrev AC : Type := Nat × (Nat → SV)
abbrev HD : Type := Nat × (Nat → Nat → Nat)
abbrev ST : Type := PO × SV × AC × HD × Option (SV × AC × HD) × (Nat → Nat) × Nat × Int32 × (Nat → Int32)
def zP (S : ST) : PO := S.1
def zw (S : ST) : SV := S.2.1
def zA (S : ST) : AC := S.2.2.1
def zH (S : ST) : HD := S.2.2.2.1
def zI (S : ST) : Option (SV × AC × HD) := S.2.2.2.2.1
def zT (S : ST) : Nat → Nat := S.2.2.2.2.2.1
def zt (S : ST) : Nat := S.2.2.2.2.2.2.1
def zF (S : ST) : Int32 := S.2.2.2.2.2.2.2.1
def zR (S : ST) : Nat → Int32 := S.2.2.2.2.2.2.2.2
/-- clerks know no more than there is; a service as it may be now -/
def KQ (P : PO) (w : SV) : Prop := ∀ c, c < pM P → w (28 + c) < 2 ^ pQ' P
def WFD (P : PO) (w : SV) : Prop := (WFS P w ∧ KQ P w) ∧ w 0 ≤ 999
def WFA (P : PO) (a : AC) : Prop := a.1 ≤ 40 ∧ ∀ i, i < a.1 → WFD P (a.2 i)
def WFH (P : PO) (e : HD) : Prop := e.1 ≤ 8 ∧ ∀ i, i < e.1 → e.2 i 0 < pM P ∧ e.2 i 1 < pQ' P ∧ e.2 i 2 ≤ 12 ∧ e.2 i 3 ≤ 1
def WFZ (S : ST) : Prop := WFP (zP S) ∧ WFD (zP S) (zw S) ∧ WFA (zP S) (zA S) ∧ WFH (zP S) (zH S) ∧ (∀ w a e, zI S = some (w, a, e) → WFD (zP S) w ∧ WFA (zP S) a ∧ WFH (zP S) e) ∧ (∀ k, zT S k < 256) ∧ zt S ≤ 700
/-! the reference -/
def AM (σ : MS) (kf ja : Nat) (P : PO) (a : AC) : Prop := mf σ kf = i3 a.1 ∧ ∀ i, i < a.1 → MRg (ma σ ja) (34 * i) P (a.2 i)
def HM (σ : MS) (kf ja : Nat) (e : HD) : Prop := mf σ kf = i3 e.1 ∧ ∀ i j, i < e.1 → j < 4 → ma σ ja (4 * i + j) = i3 (e.2 i j)
def IM (σ : MS) (P : PO) (z : Option (SV × AC × HD)) : Prop := match z with
  | none => mf σ 56 = 0
  | some (w, a, e) => ¬ mf σ 56 = 0 ∧ MRg (ma σ 59) 0 P w ∧ AM σ 57 60 P a ∧ HM σ 58 61 e
def RM (σ : MS) (S : ST) : Prop := ME σ (zP S) ∧ MRg (ma σ 44) 0 (zP S) (zw S) ∧ AM σ 46 45 (zP S) (zA S) ∧ HM σ 51 52 (zH S) ∧ IM σ (zP S) (zI S) ∧ (mf σ 13 = i3 (zt S) ∧ ∀ k, k < 700 → ma σ 12 k = i3 (zT S k)) ∧ mf σ 15 = zF S ∧ ∀ i, i < 3 → ma σ 16 i = zR S i
/-- only what is tried, told, piled, counted by the way, thrown and drawn may differ -/
def Gx (σ σ' : MS) : Prop := (∀ k, k ≠ 0 → k ≠ 55 → mf σ' k = mf σ k) ∧ (∀ j, j ≠ 44 → j ≠ 47 → j ≠ 48 → j ≠ 50 → j ≠ 53 → j ≠ 54 → ma σ' j = ma σ j) ∧ ∀ i, i < 34 → ma σ' 44 i = ma σ 44 i
theorem Gx_refl (σ : MS) : Gx σ σ := ⟨fun _ _ _ => rfl, fun _ _ _ _ _ _ _ => rfl, fun _ _ => rfl⟩
theorem Gx_trans {σ σ' σ'' : MS} (h : Gx σ σ') (h2 : Gx σ' σ'') : Gx σ σ'' := ⟨fun k a b => (h2.1 k a b).trans (h.1 k a b), fun j a b c d e f => (h2.2.1 j a b c d e f).trans (h.2.1 j a b c d e f), fun i hi => (h2.2.2 i hi).trans (h.2.2 i hi)⟩
theorem Gx_fx {σ σ' : MS} (h : Fx 34 σ σ') : Gx σ σ' := ⟨fun k _ _ => mf_fx h k, fun j a b c _ _ _ => h.2.1 j a b c, fun i hi => h.2.2 rfl i hi⟩
theorem Gx_sf {σ : MS} {k : Nat} {v : Int32} (hk : k = 0 ∨ k = 55) : Gx σ (sf σ k v) :=
  ⟨fun q a b => by unfold mf sf; dsimp only; rw [if_neg (by omega)], fun _ _ _ _ _ _ _ => rfl, fun _ _ => rfl⟩
theorem Gx_sa {σ : MS} {j i : Nat} {v : Int32} (hj : j = 50 ∨ j = 53 ∨ j = 54) : Gx σ (sa σ j i v) :=
  ⟨fun _ _ _ => rfl, fun q a b c d e f => ma_sb (by omega), fun q hq => by rw [ma_sb (by omega)]⟩
theorem MRg_gx {g g' : Nat → Int32} {P : PO} {w : SV} (hN : pN P ≤ 9) (hM : pM P ≤ 6) (h : MRg g 0 P w) (e : ∀ i, i < 34 → g' i = g i) : MRg g' 0 P w := by
  obtain ⟨r1, r2, r3, r4, r5⟩ := h
  refine ⟨?_, fun k hk => ?_, fun k hk => ?_, fun k hk => ?_, fun c hc => ?_⟩
  · rw [e _ (by omega)]; exact r1
  · rw [e _ (by omega)]; exact r2 k hk
  · rw [e _ (by omega)]; exact r3 k hk
  · rw [e _ (by omega)]; exact r4 k hk
  · rw [e _ (by omega)]; exact r5 c hc
theorem RM_gx {σ σ' : MS} {S : ST} (hZ : WFZ S) (hx : Gx σ σ') (h : RM σ S) : RM σ' S := by
  obtain ⟨h1, h2, h3, h4, h5, h6, h7, h8⟩ := h
  obtain ⟨e1, e2, e3⟩ := hx
  refine ⟨ME_of h1 (fun k _ _ => e1 k (by omega) (by omega)) (fun j _ _ => e2 j (by omega) (by omega) (by omega) (by omega) (by omega) (by omega)) (by rw [e2 49 (by decide) (by decide) (by decide) (by decide) (by decide) (by decide)]), MRg_gx hZ.1.1 hZ.1.2.1 h2 e3, ?_, ?_, ?_, ?_, ?_, ?_⟩
  · unfold AM at h3 ⊢
    rw [e1 46 (by decide) (by decide), e2 45 (by decide) (by decide) (by decide) (by decide) (by decide) (by decide)]
    exact h3
  · unfold HM at h4 ⊢
    rw [e1 51 (by decide) (by decide), e2 52 (by decide) (by decide) (by decide) (by decide) (by decide) (by decide)]
    exact h4
  · unfold IM AM HM at h5 ⊢
    rw [e1 56 (by decide) (by decide), e1 57 (by decide) (by decide), e1 58 (by decide) (by decide), e2 59 (by decide) (by decide) (by decide) (by decide) (by decide) (by decide), e2 60 (by decide) (by decide) (by decide) (by decide) (by decide) (by decide), e2 61 (by decide) (by decide) (by decide) (by decide) (by decide) (by decide)]
    exact h5
  · rw [e1 13 (by decide) (by decide), e2 12 (by decide) (by decide) (by decide) (by decide) (by decide) (by decide)]
    exact h6
  · rw [e1 15 (by decide) (by decide)]
    exact h7
  · rw [e2 16 (by decide) (by decide) (by decide) (by decide) (by decide) (by decide)]
    exact h8
theorem RM_MV {σ : MS} {S : ST} (hZ : WFZ S) (h : RM σ S) : MV σ 0 (zP S) (zw S) := ⟨hZ.1, h.1, h.2.1, hZ.2.1.1.1, by decide⟩
/-! the component: lists that grow, what holds what -/
/-- a list with its array: one of the two empty ones, or a cell -/
def LMu (K : Nat → Nat) (h : CH) (a arr n : Nat) (f : Nat → Nat) : Prop := ∃ mc : Int32, h a = some (.inr (10, [.int mc, .ref arr, .int (i3 n)])) ∧ ((n = 0 ∧ (arr = K 0 ∨ arr = K 1)) ∨ ∃ cap g, h arr = some (.inl (3, cap, .inr (.inr (.inr (.inr g))))) ∧ n ≤ cap ∧ cap < 2 ^ 20 ∧ ∀ i, i < n → g i = some (f i))
theorem LMu_LRd {K : Nat → Nat} {h : CH} {a arr n : Nat} {f : Nat → Nat} (hn : n < 2 ^ 20) (hL : LMu K h a arr n f) : LRd h a n f := by
  obtain ⟨mc, h1, h2⟩ := hL
  refine ⟨mc, arr, h1, ?_, hn⟩
  rcases h2 with h2 | ⟨cap, g, h3, h4, h5, h6⟩
  · exact .inl h2.1
  · exact .inr ⟨cap, g, h3, h4, by omega, h6⟩
/-- acts: services at rest -/
def ACr (f : CH) (o : Nat) (P : PO) (a : AC) (e : Nat → Nat) : Prop := ∀ i, i < a.1 → ∃ A g d, SC f o (e i) A g d ∧ SA P g d (a.2 i)
def HDr (f : CH) (x : HD) (e : Nat → Nat) : Prop := ∀ i, i < x.1 → ∃ g, f (e i) = some (.inl (0, 4, .inl g)) ∧ ∀ j, j < 4 → g j = i3 (x.2 i j)
def IMr (K : Nat → Nat) (f : CH) (o : Nat) (P : PO) (z : Option (SV × AC × HD)) (sT aT hT : Option Nat) : Prop := match z with
  | none => sT = none
  | some (w, a, x) => ∃ s la lh ea eh A g d ar hr, sT = some s ∧ aT = some la ∧ hT = some lh ∧ SC f o s A g d ∧ SA P g d w ∧ LMu K f la ar a.1 ea ∧ ACr f o P a ea ∧ LMu K f lh hr x.1 eh ∧ HDr f x eh
theorem ACr_mono {f f' : CH} {o : Nat} {P : PO} {a : AC} {e : Nat → Nat} (hl : hle f f') (h : ACr f o P a e) : ACr f' o P a e := by
  intro i hi
  obtain ⟨A, g, d, h1, h2⟩ := h i hi
  exact ⟨A, g, d, SC_hle h1 hl, h2⟩
theorem HDr_mono {f f' : CH} {x : HD} {e : Nat → Nat} (hl : hle f f') (h : HDr f x e) : HDr f' x e := by
  intro i hi
  obtain ⟨g, h1, h2⟩ := h i hi
  exact ⟨g, hl _ _ h1, h2⟩
theorem LMu_mono {K : Nat → Nat} {h h' : CH} {a arr n : Nat} {f : Nat → Nat} (hl : hle h h') (hL : LMu K h a arr n f) : LMu K h' a arr n f := by
  obtain ⟨mc, h1, h2⟩ := hL
  refine ⟨mc, hl _ _ h1, ?_⟩
  rcases h2 with h2 | ⟨cap, g, h3, h4⟩
  · exact .inl h2
  · exact .inr ⟨cap, g, hl _ _ h3, h4⟩
theorem IMr_mono {K : Nat → Nat} {f f' : CH} {o : Nat} {P : PO} {z : Option (SV × AC × HD)} {sT aT hT : Option Nat} (hl : hle f f') (h : IMr K f o P z sT aT hT) : IMr K f' o P z sT aT hT := by
  unfold IMr at h ⊢
  split at h
  · exact h
  · obtain ⟨s, la, lh, ea, eh, A, g, d, ar, hr, h1, h2, h3, h4, h5, h6, h7, h8, h9⟩ := h
    exact ⟨s, la, lh, ea, eh, A, g, d, ar, hr, h1, h2, h3, SC_hle h4 hl, h5, LMu_mono hl h6, ACr_mono hl h7, LMu_mono hl h8, HDr_mono hl h9⟩
theorem FOR_mono {K : Nat → Nat} {f f' : CH} {ly : Option Nat} {Y : Option ((Nat → Int32) → Int32)} {cv : (Nat → Int32) → (Nat → Int32)} (hl : hle f f') (h : FOR K f ly Y cv) : FOR K f' ly Y cv := by
  unfold FOR at h ⊢
  split at h
  · exact h
  · obtain ⟨r, h1, h2⟩ := h
    exact ⟨r, h1, fun h vs g x y => h2 h vs g (hle_trans hl x) y⟩
theorem OFR_mono {K : Nat → Nat} {f f' : CH} {off : Nat} {P : PO} (hl : hle f f') (h : OFR K f off P) : OFR K f' off P := by
  obtain ⟨wl, rl, ly, mo, fw, fr, h1, ⟨h2, h3⟩, ⟨h4, h5⟩, h6, h7⟩ := h
  refine ⟨wl, rl, ly, mo, fw, fr, hl _ _ h1, ⟨LRd_mono hl h2, fun i hi => ?_⟩, ⟨LRd_mono hl h4, fun c hc => ?_⟩, FOR_mono hl h6, FOR_mono hl h7⟩
  · obtain ⟨g, g1, g2⟩ := h3 i hi
    exact ⟨g, hl _ _ g1, g2⟩
  · obtain ⟨fi, g1, g2⟩ := h5 c hc
    exact ⟨fi, LRd_mono hl g1, fun i hi => hl _ _ (g2 i hi)⟩
/-- the run's constants: texts and their bytes by place, the two empty arrays, the small Integers -/
def KC (K : Nat → Nat) (f : CH) (n : Nat) : Prop := (∀ i, i < 18 → sIx K (K (10 + i)) = some i ∧ bIx K (K (30 + i)) = some i) ∧ K 0 ≠ K 1 ∧ (∀ i, i < 500 → K i < n) ∧ ∀ j, j < 256 → f (K (200 + j)) = some (.inr (12, [.int (i3 j - 128)]))
/-- places that hold no cell -/
def KN (K : Nat → Nat) (h : CH) : Prop := h (K 0) = none ∧ h (K 1) = none ∧ ∀ i, i < 18 → h (K (30 + i)) = none
/-- the component: B tells where: 0 itself, 1 values, 2 service, 3..6 its arrays, 7 the one that is tried, 8..11 its arrays, 12 tape, 13 refused, 14 acts, 15 heard, 16 acts' array, 17 heard's array, 18 office -/
def RCp (K : Nat → Nat) (h : CH) (n : Nat) (o : Nat) (S : ST) (f : CH) (B : Nat → Nat) (sT aT hT : Option Nat) (seed : Int32) (ea eh : Nat → Nat) : Prop :=
  (B 0 = o ∧ h o = some (.inr (1, [.ref (B 1), .ref (B 18), .ref (B 2), .ref (B 7), .ref (B 12), .int (i3 (zt S)), .int (zF S), .ref (B 13), .ref (B 14), .ref (B 15), va_rf sT, va_rf aT, va_rf hT, .int seed]))) ∧
  (hle f h ∧ OFR K f (B 18) (zP S) ∧ (∃ g, h (B 1) = some (.inl (0, 6, .inl g))) ∧ SX h o (zP S) (B 2) (fun i => B (3 + i)) (zw S) ∧ ∃ g d, SC h o (B 7) (fun i => B (8 + i)) g d) ∧
  ((∃ g, h (B 12) = some (.inl (2, 700, .inl g)) ∧ ∀ k, k < 700 → g k = i2b_ (i3 (zT S k))) ∧ ∃ g, h (B 13) = some (.inl (0, 3, .inl g)) ∧ ∀ i, i < 3 → g i = zR S i) ∧
  (LMu K h (B 14) (B 16) (zA S).1 ea ∧ ACr f o (zP S) (zA S) ea) ∧ (LMu K h (B 15) (B 17) (zH S).1 eh ∧ HDr f (zH S) eh) ∧ IMr K f o (zP S) (zI S) sT aT hT ∧
  ((∀ i j, i < 16 → j < 16 → B i = B j → i = j) ∧ (∀ i, i < 16 → f (B i) = none) ∧ (∀ i j, 16 ≤ i → i < 18 → j < 16 → B i ≠ B j) ∧ (∀ i, 16 ≤ i → i < 18 → f (B i) = none) ∧ (B 16 = B 17 → B 16 = K 0 ∨ B 16 = K 1)) ∧
  (FR h n ∧ KC K f n ∧ KN K h) ∧ WFZ S
def RC (K : Nat → Nat) (h : CH) (n : Nat) (o : Nat) (S : ST) : Prop := ∃ (f : CH) (B : Nat → Nat) (sT aT hT : Option Nat) (seed : Int32) (ea eh : Nat → Nat), RCp K h n o S f B sT aT hT seed ea eh
