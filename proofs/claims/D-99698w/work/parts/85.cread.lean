/-! ===== the component's heap: an office and a service in it ===== -/
def hle (f h : CH) : Prop := ∀ a e, f a = some e → h a = some e
def hX (X : List Nat) (h h' : CH) : Prop := ∀ q, ¬ q ∈ X → h' q = h q
theorem hle_trans {f g h : CH} (h1 : hle f g) (h2 : hle g h) : hle f h := fun a e x => h2 a e (h1 a e x)
theorem hle_hX {X : List Nat} {f h h' : CH} (h1 : hle f h) (hx : hX X h h') (hf : ∀ q, q ∈ X → f q = none) : hle f h' := by
  intro a e x
  rw [hx a (fun m => by rw [hf a m] at x; cases x)]
  exact h1 a e x
theorem hX_refl (X : List Nat) (h : CH) : hX X h h := fun _ _ => rfl
theorem hX_trans {X : List Nat} {h h' h'' : CH} (h1 : hX X h h') (h2 : hX X h' h'') : hX X h h'' := fun q m => (h2 q m).trans (h1 q m)
theorem hX_hup {X : List Nat} {h : CH} {a : Nat} {e : CE} (ha : a ∈ X) : hX X h (hup h a e) := fun q m => hup_n (fun x => m (by rw [x]; exact ha))
theorem hX_sub {X Y : List Nat} {h h' : CH} (hx : hX X h h') (hs : ∀ q, q ∈ X → q ∈ Y) : hX Y h h' := fun q m => hx q (fun x => m (hs q x))
section CELLS
variable {h : CH} {a c k t n : Nat} {fs : List Value}
theorem isC_of (e : h a = some (.inr (c, fs))) : isC h a c = true := by simp [isC, e]
theorem vc_of {α : Type} {x : Option α} (e : h a = some (.inr (c, fs))) : vc h a c x = x := by unfold vc; rw [if_pos (isC_of e)]
theorem gI_of {v : Int32} (e : h a = some (.inr (c, fs))) (ek : fs[k]? = some (.int v)) : gI h a c k = some v := by simp [gI, e, ek]
theorem gR_of {v : Nat} (e : h a = some (.inr (c, fs))) (ek : fs[k]? = some (.ref v)) : gR h a c k = some v := by simp [gR, e, ek]
theorem gQ_of {v : Option Nat} (e : h a = some (.inr (c, fs))) (ek : fs[k]? = some (va_rf v)) : gQ h a c k = some v := by
  cases v with
  | none => simp [gQ, e, ek, va_rf]
  | some v => simp [gQ, e, ek, va_rf]
theorem pI_of {v : Int32} (e : h a = some (.inr (c, fs))) (hk : k < fs.length) : pI h a c k v = some (hup h a (.inr (c, fs.set k (.int v)))) := by simp [pI, e, hk]
theorem pQ_of {v : Option Nat} (e : h a = some (.inr (c, fs))) (hk : k < fs.length) : pQ h a c k v = some (hup h a (.inr (c, fs.set k (va_rf v)))) := by simp [pQ, e, hk]
theorem aI_of {f : Nat → Int32} {i : Nat} (e : h a = some (.inl (t, n, .inl f))) (hi : i < n) (hn : n < 2 ^ 31) : aI h a t (i3 i) = some (f i) := by
  have h1 : ¬ (i3 i < 0 ∨ n ≤ i) := by have := i3_nn (a := i) (by omega); rintro (x | x); exact this x; omega
  simp only [aI, e, if_true, i3_nat (show i < 2 ^ 31 by omega), if_neg h1]
theorem sI_of {f : Nat → Int32} {i : Nat} {v : Int32} (e : h a = some (.inl (t, n, .inl f))) (hi : i < n) (hn : n < 2 ^ 31) : sI h a t (i3 i) v = some (hup h a (.inl (t, n, .inl (upd f i v)))) := by
  have h1 : ¬ (i3 i < 0 ∨ n ≤ i) := by have := i3_nn (a := i) (by omega); rintro (x | x); exact this x; omega
  simp only [sI, e, if_true, i3_nat (show i < 2 ^ 31 by omega), if_neg h1]
theorem aQ_of {f : Nat → Option Nat} {i : Nat} (e : h a = some (.inl (t, n, .inr (.inr (.inr (.inr f)))))) (hi : i < n) (hn : n < 2 ^ 31) : aQ h a t (i3 i) = some (f i) := by
  have h1 : ¬ (i3 i < 0 ∨ n ≤ i) := by have := i3_nn (a := i) (by omega); rintro (x | x); exact this x; omega
  simp only [aQ, e, if_true, i3_nat (show i < 2 ^ 31 by omega), if_neg h1]
theorem sQ_of {f : Nat → Option Nat} {i : Nat} {v : Option Nat} (e : h a = some (.inl (t, n, .inr (.inr (.inr (.inr f)))))) (hi : i < n) (hn : n < 2 ^ 31) : sQ h a t (i3 i) v = some (hup h a (.inl (t, n, .inr (.inr (.inr (.inr (va_up f i v))))))) := by
  have h1 : ¬ (i3 i < 0 ∨ n ≤ i) := by have := i3_nn (a := i) (by omega); rintro (x | x); exact this x; omega
  simp only [sQ, e, if_true, i3_nat (show i < 2 ^ 31 by omega), if_neg h1]
theorem aN_of {x : (Nat → Int32) ⊕ (Nat → Int64) ⊕ (Nat → UInt32) ⊕ (Nat → UInt64) ⊕ (Nat → Option Nat)} (e : h a = some (.inl (t, n, x))) : aN h a t = some (i3 n) := by simp [aN, e, i3]
theorem ckC_of (e : h a = some (.inr (c, fs))) : ckC h a c = some () := by unfold ckC; rw [if_pos (isC_of e)]
theorem ckA_of {x : vp_A} (e : h a = some (.inl (t, x))) : ckA h a t = some () := by simp [ckA, e]
end CELLS
/-! ===== lists that are read ===== -/
def LRd (h : CH) (a n : Nat) (f : Nat → Nat) : Prop := ∃ (mc : Int32) (arr : Nat), h a = some (.inr (10, [.int mc, .ref arr, .int (i3 n)])) ∧ (n = 0 ∨ ∃ cap g, h arr = some (.inl (3, cap, .inr (.inr (.inr (.inr g))))) ∧ n ≤ cap ∧ cap < 2 ^ 31 ∧ ∀ i, i < n → g i = some (f i)) ∧ n < 2 ^ 20
theorem LRd_mono {h h' : CH} {a n : Nat} {f : Nat → Nat} (hl : hle h h') (hr : LRd h a n f) : LRd h' a n f := by
  obtain ⟨mc, arr, h1, h2, h3⟩ := hr
  refine ⟨mc, arr, hl _ _ h1, ?_, h3⟩
  rcases h2 with h2 | ⟨cap, g, h4, h5⟩
  · exact .inl h2
  · exact .inr ⟨cap, g, hl _ _ h4, h5⟩
theorem LRd_size {h : CH} {a n : Nat} {f : Nat → Nat} (hr : LRd h a n f) : vc h a 10 (CJ2_size h a) = some (i3 n) := by
  obtain ⟨mc, arr, h1, h2, h3⟩ := hr
  rw [vc_of h1]
  unfold CJ2_size
  rw [gI_of h1 (k := 2) rfl]
  rfl
theorem checkIndex_of {i n : Nat} (hi : i < n) (hn : n < 2 ^ 31) : CJ17_checkIndex (i3 i) (i3 n) = some (i3 i) := by
  unfold CJ17_checkIndex CJ11_checkIndex
  rw [if_neg (i3_nn (by omega)), if_pos ((i3_lt (by omega) hn).mpr hi)]
  rfl
theorem LRd_get {h : CH} {a n i : Nat} {f : Nat → Nat} (hr : LRd h a n f) (hi : i < n) : vc h a 10 (CJ2_get h a (i3 i)) = some (f i) := by
  obtain ⟨mc, arr, h1, h2, h3⟩ := hr
  rcases h2 with h2 | ⟨cap, g, h4, h5, h6, h7⟩
  · omega
  · rw [vc_of h1]
    unfold CJ2_get
    rw [gI_of h1 (k := 2) rfl, Option.bind_some, checkIndex_of hi (by omega), Option.bind_some, vc_of h1]
    unfold CJ2_elementData
    rw [gR_of h1 (k := 1) rfl, Option.bind_some, aQ_of h4 (by omega) h6, h7 i hi]
    rfl
/-! ===== the office ===== -/
def cvL (g : Nat → Int32) : Nat → Int32 := evL (g 0) (g 1) (g 2) (g 3) (g 4)
def cvM (g : Nat → Int32) : Nat → Int32 := evM (g 0) (g 1) (g 2) (g 3) (g 4) (g 5)
def FOR (K : Nat → Nat) (f : CH) (ly : Option Nat) (Y : Option ((Nat → Int32) → Int32)) (cv : (Nat → Int32) → (Nat → Int32)) : Prop := match Y with
  | none => ly = none
  | some E => ∃ r, ly = some r ∧ ∀ (h : CH) (vs : Nat) (g : Nat → Int32), hle f h → h vs = some (.inl (0, 6, .inl g)) → Fm_of K h r vs = some (E (cv g))
def OFR (K : Nat → Nat) (f : CH) (off : Nat) (P : PO) : Prop := ∃ (wl rl : Nat) (ly mo : Option Nat) (fw fr : Nat → Nat), f off = some (.inr (2, [.ref wl, .ref rl, .int (i3 (pN P)), .int (i3 (pS P)), va_rf ly, va_rf mo])) ∧
  (LRd f wl (pQ' P) fw ∧ ∀ i, i < pQ' P → ∃ g, f (fw i) = some (.inl (0, 2, .inl g)) ∧ g 0 = i3 (pA P i) ∧ g 1 = i3 (pB P i)) ∧
  (LRd f rl (pM P) fr ∧ ∀ c, c < pM P → ∃ fi, LRd f (fr c) (pL P c) fi ∧ ∀ i, i < pL P c → f (fi i) = some (.inr (12, [.int (i3 (pR P c i))]))) ∧
  FOR K f ly (pY P) cvL ∧ FOR K f mo (pZ P) cvM
def CX (K : Nat → Nat) (h : CH) (o off vs : Nat) (f : CH) (P : PO) : Prop := WFP P ∧ (∃ fs, h o = some (.inr (1, fs)) ∧ fs[0]? = some (.ref vs) ∧ fs[1]? = some (.ref off)) ∧ hle f h ∧ OFR K f off P ∧ ∃ g, h vs = some (.inl (0, 6, .inl g))
def atC (v : Nat) : Int32 := if v = 99 then -1 else i3 v
def SX (h : CH) (o : Nat) (P : PO) (s : Nat) (A : Nat → Nat) (w : SV) : Prop := (∃ gL gE gA gK : Nat → Int32, (h s = some (.inr (3, [.ref (A 0), .ref (A 1), .ref (A 2), .ref (A 3), .int (i3 (w 0)), .ref o])) ∧ h (A 0) = some (.inl (0, 9, .inl gL)) ∧ h (A 1) = some (.inl (0, 9, .inl gE)) ∧ h (A 2) = some (.inl (0, 9, .inl gA)) ∧ h (A 3) = some (.inl (0, 6, .inl gK))) ∧
  (∀ k, k < pN P → gL k = i3 (w (1 + k))) ∧ (∀ k, k < pN P → gE k = i3 (w (10 + k))) ∧ (∀ k, k < pN P → gA k = atC (w (19 + k))) ∧ (∀ c, c < pM P → gK c = i3 (w (28 + c)))) ∧ WFS P w
def Sep (f : CH) (o vs s : Nat) (A : Nat → Nat) : Prop := [o, vs, s, A 0, A 1, A 2, A 3].Nodup ∧ ∀ x, x ∈ [vs, s, A 0, A 1, A 2, A 3] → f x = none
def sX6 (vs s : Nat) (A : Nat → Nat) : List Nat := [vs, s, A 0, A 1, A 2, A 3]
def CSV (K : Nat → Nat) (h : CH) (o off vs : Nat) (f : CH) (P : PO) (s : Nat) (A : Nat → Nat) (w : SV) : Prop := CX K h o off vs f P ∧ SX h o P s A w ∧ Sep f o vs s A
section CREAD
variable {K : Nat → Nat} {h : CH} {o off vs : Nat} {f : CH} {P : PO} {s : Nat} {A : Nat → Nat} {w : SV}
theorem cx_1 (hX : CX K h o off vs f P) : gR h o 1 1 = some off := by
  obtain ⟨_, ⟨fs, h1, h2, h3⟩, _⟩ := hX
  exact gR_of h1 h3
theorem cx_0 (hX : CX K h o off vs f P) : gR h o 1 0 = some vs := by
  obtain ⟨_, ⟨fs, h1, h2, h3⟩, _⟩ := hX
  exact gR_of h1 h2
theorem cx_vc (hX : CX K h o off vs f P) {α : Type} (x : Option α) : vc h o 1 x = x := by
  obtain ⟨_, ⟨fs, h1, h2, h3⟩, _⟩ := hX
  exact vc_of h1
theorem cx_n (hX : CX K h o off vs f P) : gI h off 2 2 = some (i3 (pN P)) := by
  obtain ⟨_, _, hl, ⟨wl, rl, ly, mo, fw, fr, h1, _⟩, _⟩ := hX
  exact gI_of (hl _ _ h1) rfl
theorem cx_s (hX : CX K h o off vs f P) : gI h off 2 3 = some (i3 (pS P)) := by
  obtain ⟨_, _, hl, ⟨wl, rl, ly, mo, fw, fr, h1, _⟩, _⟩ := hX
  exact gI_of (hl _ _ h1) rfl
theorem cx_vo (hX : CX K h o off vs f P) {α : Type} (x : Option α) : vc h off 2 x = x := by
  obtain ⟨_, _, hl, ⟨wl, rl, ly, mo, fw, fr, h1, _⟩, _⟩ := hX
  exact vc_of (hl _ _ h1)
theorem cx_m (hX : CX K h o off vs f P) : C2_clerks h off = some (i3 (pM P)) := by
  obtain ⟨_, _, hl, ⟨wl, rl, ly, mo, fw, fr, h1, h2, h3, _⟩, _⟩ := hX
  unfold C2_clerks
  rw [gR_of (hl _ _ h1) (k := 1) rfl, Option.bind_some, LRd_size (LRd_mono hl h3.1)]
  rfl
/-- the words: the list, and each one's two sheets -/
theorem cx_w (hX : CX K h o off vs f P) : ∃ (wl : Nat) (fw : Nat → Nat), gR h off 2 0 = some wl ∧ vc h wl 10 (CJ2_size h wl) = some (i3 (pQ' P)) ∧ ∀ i, i < pQ' P → vc h wl 10 (CJ2_get h wl (i3 i)) = some (fw i) ∧ ckA h (fw i) 0 = some () ∧ aI h (fw i) 0 0 = some (i3 (pA P i)) ∧ aI h (fw i) 0 1 = some (i3 (pB P i)) := by
  obtain ⟨_, _, hl, ⟨wl, rl, ly, mo, fw, fr, h1, h2, h3, _⟩, _⟩ := hX
  have hr := LRd_mono hl h2.1
  refine ⟨wl, fw, gR_of (hl _ _ h1) rfl, LRd_size hr, fun i hi => ?_⟩
  obtain ⟨g, g1, g2, g3⟩ := h2.2 i hi
  have g4 := hl _ _ g1
  refine ⟨LRd_get hr hi, ckA_of g4, ?_, ?_⟩
  · rw [← g2]; exact aI_of (i := 0) g4 (by decide) (by decide)
  · rw [← g3]; exact aI_of (i := 1) g4 (by decide) (by decide)
theorem C2_town_eq (hX : CX K h o off vs f P) {c d : Nat} (hc : c < pM P) (hd : d < 2 ^ 31) : C2_town h off (i3 c) (i3 d) = some (i3 (towD P c d)) := by
  obtain ⟨hP, _, hl, ⟨wl, rl, ly, mo, fw, fr, h1, h2, h3, _⟩, _⟩ := hX
  obtain ⟨_, p2, _, _, p5, p6, _⟩ := hP
  have hL := p6 c hc
  have hr := LRd_mono hl h3.1
  obtain ⟨fi, i1, i2⟩ := h3.2 c hc
  have ir := LRd_mono hl i1
  have hm := Nat.mod_lt d hL.1
  have hz := hl _ _ (i2 _ hm)
  obtain ⟨mc, arr, c1, _⟩ := id ir
  unfold C2_town
  rw [gR_of (hl _ _ h1) (k := 1) rfl, Option.bind_some, LRd_get hr hc, Option.bind_some, ckC_of c1, Option.bind_some]
  rw [Option.bind_some, LRd_get hr hc, Option.bind_some, ckC_of c1, Option.bind_some, LRd_size ir, Option.bind_some, i3_rem hd (by omega) (by omega), Option.bind_some, LRd_get ir hm, Option.bind_some, ckC_of hz, Option.bind_some, vc_of hz]
  unfold CJ19_intValue
  rw [gI_of hz (k := 0) rfl]
  rfl
theorem sv_vc (h1 : CSV K h o off vs f P s A w) {α : Type} (x : Option α) : vc h s 3 x = x := by
  obtain ⟨_, ⟨⟨gL, gE, gA, gK, ⟨a1, _⟩, _⟩, _⟩, _⟩ := h1
  exact vc_of a1
theorem sv_o (h1 : CSV K h o off vs f P s A w) : gR h s 3 5 = some o := by
  obtain ⟨_, ⟨⟨gL, gE, gA, gK, ⟨a1, _⟩, _⟩, _⟩, _⟩ := h1
  exact gR_of a1 rfl
theorem sv_d (h1 : CSV K h o off vs f P s A w) : gI h s 3 4 = some (i3 (w 0)) := by
  obtain ⟨_, ⟨⟨gL, gE, gA, gK, ⟨a1, _⟩, _⟩, _⟩, _⟩ := h1
  exact gI_of a1 rfl
theorem sv_0 (h1 : CSV K h o off vs f P s A w) : gR h s 3 0 = some (A 0) := by
  obtain ⟨_, ⟨⟨gL, gE, gA, gK, ⟨a1, _⟩, _⟩, _⟩, _⟩ := h1
  exact gR_of a1 rfl
theorem sv_1 (h1 : CSV K h o off vs f P s A w) : gR h s 3 1 = some (A 1) := by
  obtain ⟨_, ⟨⟨gL, gE, gA, gK, ⟨a1, _⟩, _⟩, _⟩, _⟩ := h1
  exact gR_of a1 rfl
theorem sv_2 (h1 : CSV K h o off vs f P s A w) : gR h s 3 2 = some (A 2) := by
  obtain ⟨_, ⟨⟨gL, gE, gA, gK, ⟨a1, _⟩, _⟩, _⟩, _⟩ := h1
  exact gR_of a1 rfl
theorem sv_3 (h1 : CSV K h o off vs f P s A w) : gR h s 3 3 = some (A 3) := by
  obtain ⟨_, ⟨⟨gL, gE, gA, gK, ⟨a1, _⟩, _⟩, _⟩, _⟩ := h1
  exact gR_of a1 rfl
theorem sv_L (h1 : CSV K h o off vs f P s A w) {k : Nat} (hk : k < pN P) : aI h (A 0) 0 (i3 k) = some (i3 (w (1 + k))) := by
  have hN := h1.1.1.1
  obtain ⟨_, ⟨⟨gL, gE, gA, gK, ⟨a1, a2, a3, a4, a5⟩, b1, b2, b3, b4⟩, _⟩, _⟩ := h1
  rw [← b1 k hk]; exact aI_of a2 (by omega) (by decide)
theorem sv_E (h1 : CSV K h o off vs f P s A w) {k : Nat} (hk : k < pN P) : aI h (A 1) 0 (i3 k) = some (i3 (w (10 + k))) := by
  have hN := h1.1.1.1
  obtain ⟨_, ⟨⟨gL, gE, gA, gK, ⟨a1, a2, a3, a4, a5⟩, b1, b2, b3, b4⟩, _⟩, _⟩ := h1
  rw [← b2 k hk]; exact aI_of a3 (by omega) (by decide)
theorem sv_A (h1 : CSV K h o off vs f P s A w) {k : Nat} (hk : k < pN P) : aI h (A 2) 0 (i3 k) = some (atC (w (19 + k))) := by
  have hN := h1.1.1.1
  obtain ⟨_, ⟨⟨gL, gE, gA, gK, ⟨a1, a2, a3, a4, a5⟩, b1, b2, b3, b4⟩, _⟩, _⟩ := h1
  rw [← b3 k hk]; exact aI_of a4 (by omega) (by decide)
theorem sv_K (h1 : CSV K h o off vs f P s A w) {c : Nat} (hc : c < pM P) : aI h (A 3) 0 (i3 c) = some (i3 (w (28 + c))) := by
  have hM := h1.1.1.2.1
  obtain ⟨_, ⟨⟨gL, gE, gA, gK, ⟨a1, a2, a3, a4, a5⟩, b1, b2, b3, b4⟩, _⟩, _⟩ := h1
  rw [← b4 c hc]; exact aI_of a5 (by omega) (by decide)
theorem sv_w (h1 : CSV K h o off vs f P s A w) : WFS P w := h1.2.1.2
theorem atC_x {v : Nat} (h : ¬ v = 99) : atC v = i3 v := if_neg h
theorem atC_z {v : Nat} (h : v = 99) : atC v = -1 := if_pos h
theorem atC_b {v : Nat} (hv : v < 2 ^ 20) : atC v = -1 ↔ v = 99 := by
  unfold atC
  split
  · next e => exact ⟨fun _ => e, fun _ => rfl⟩
  · next e => exact ⟨fun x => absurd x (i3_m1 (by omega)), fun x => absurd x e⟩
theorem C1_isOf_eq {s k : Nat} (hs : s < 2 ^ 31) (hk : k < 32) : C1_isOf (i3 s) (i3 k) = some (bI (s.testBit k)) := by
  unfold C1_isOf
  rw [i3_bitB hs hk]
  cases s.testBit k <;> rfl
theorem C3_isBurnt_eq (h1 : CSV K h o off vs f P s A w) {k : Nat} (hk : k < pN P) : C3_isBurnt h s (i3 k) = some (bI (bnt w k)) := by
  have h9 := wfs_19 (sv_w h1) h1.1.1 hk
  unfold C3_isBurnt bnt
  rw [sv_2 h1, Option.bind_some, sv_A h1 hk, Option.bind_some]
  by_cases hb : w (19 + k) = 99
  · rw [if_pos ((atC_b (by omega)).mpr hb), decide_eq_true hb]; rfl
  · rw [if_neg (fun x => hb ((atC_b (by omega)).mp x)), decide_eq_false hb]; rfl
/-- who bears a sheet -/
def brr (w : SV) (k : Nat) : Nat := if 4 ≤ w (19 + k) ∧ w (19 + k) ≠ 99 then w (19 + k) - 4 else 99
theorem brr_no {w : SV} {k : Nat} (h : w (19 + k) < 4 ∨ w (19 + k) = 99) : brr w k = 99 := by unfold brr; rw [if_neg (by omega)]
theorem brr_is {w : SV} {k : Nat} (h : 4 ≤ w (19 + k)) (h2 : ¬ w (19 + k) = 99) : brr w k = w (19 + k) - 4 := by unfold brr; rw [if_pos ⟨h, h2⟩]
theorem C3_bearer_eq (h1 : CSV K h o off vs f P s A w) {k : Nat} (hk : k < pN P) : C3_bearer h s (i3 k) = some (wI (brr w k)) := by
  have h9 := wfs_19 (sv_w h1) h1.1.1 hk
  unfold C3_bearer
  rw [sv_2 h1, Option.bind_some, sv_A h1 hk, Option.bind_some]
  by_cases hb : w (19 + k) = 99
  · rw [atC_z hb, if_pos (by decide), brr_no (.inr hb), wI_z rfl]
  · by_cases h4 : w (19 + k) < 4
    · rw [atC_x hb, if_pos ((i3_ltl (c := 4) (n := 4) rfl (by omega) (by decide)).mpr h4), brr_no (.inl h4), wI_z rfl]
    · rw [atC_x hb, if_neg (fun x => h4 ((i3_ltl (c := 4) (n := 4) rfl (by omega) (by decide)).mp x)), Option.bind_some, sv_A h1 hk, Option.bind_some, brr_is (by omega) hb, atC_x hb, wI_x (by omega), show (i3 (w (19 + k)) - 4 : Int32) = i3 (w (19 + k) - 4) from i3_sub (b := 4) (by omega)]
theorem C3_town_eq (h1 : CSV K h o off vs f P s A w) {c : Nat} (hc : c < pM P) : C3_town h s (i3 c) = some (i3 (tow P w c)) := by
  have hd := (sv_w h1).2.2.2.2
  unfold C3_town
  rw [sv_o h1, Option.bind_some, cx_1 h1.1, Option.bind_some, sv_d h1, Option.bind_some, cx_vo h1.1, C2_town_eq h1.1 hc (by omega)]
  rfl
theorem C3_where_eq (h1 : CSV K h o off vs f P s A w) {k : Nat} (hk : k < pN P) : C3_where h s (i3 k) = some (wI (whr P w k)) := by
  have hM := h1.1.1.2.1
  unfold C3_where
  rw [sv_2 h1, Option.bind_some, sv_A h1 hk, Option.bind_some]
  rcases (sv_w h1).2.2.1 k hk with h9 | h9 | h9
  · rw [atC_x (by omega), if_pos ((i3_ltl (c := 4) (n := 4) rfl (by omega) (by decide)).mpr h9), Option.bind_some, sv_A h1 hk, Option.bind_some, whr_t h9, atC_x (by omega), wI_x (by omega)]
  · have n4 : ¬ w (19 + k) < 4 := by omega
    have n9 : ¬ w (19 + k) = 99 := by omega
    have h4 := wfp_tow h1.1.1 (c := w (19 + k) - 4) (d := w 0) (by omega)
    rw [atC_x n9, if_neg (fun x => absurd ((i3_ltl (c := 4) (n := 4) rfl (by omega) (by decide)).mp x) (by omega)), Option.bind_some, sv_A h1 hk, Option.bind_some, whr_c n4 n9, atC_x n9,
      show (i3 (w (19 + k)) - 4 : Int32) = i3 (w (19 + k) - 4) from i3_sub (b := 4) (by omega), sv_vc h1, C3_town_eq h1 (by omega), Option.bind_some, wI_x (by unfold tow; omega)]
  · rw [atC_z h9, if_pos (by decide), Option.bind_some, sv_A h1 hk, Option.bind_some, whr_b h9, atC_z h9, wI_z rfl]
theorem C3_far_eq (h1 : CSV K h o off vs f P s A w) {k j : Nat} (hk : k < pN P) (hj : j < pN P) : C3_far h s (i3 k) (i3 j) = some (i3 (far w k j)) := by
  have g1 := (sv_w h1).1 j hj
  have g2 := (sv_w h1).2.1 k hk
  have g3 := xor_lt g2 g1
  unfold C3_far
  rw [sv_1 h1, Option.bind_some, sv_E h1 hk, Option.bind_some, sv_0 h1, Option.bind_some, sv_L h1 hj, Option.bind_some, i3_xor, bitCount_eq (by omega)]
  rfl
theorem C3_fits_eq (h1 : CSV K h o off vs f P s A w) {k j : Nat} (hk : k < pN P) (hj : j < pN P) : C3_fits h s (i3 k) (i3 j) = some (bI (fit P w k j)) := by
  have hN := h1.1.1.1
  have hS := h1.1.1.2.2.2.1
  have hp := pc_le (w (10 + k) ^^^ w (1 + j))
  unfold C3_fits fit
  by_cases e : k = j
  · rw [if_pos (by rw [e]), decide_eq_true e]; rfl
  · rw [if_neg (fun x => e ((i3_inj (by omega) (by omega)).mp x)), sv_vc h1, C3_isBurnt_eq h1 hk, Option.bind_some, decide_eq_false e]
    cases hb1 : bnt w k
    · rw [if_pos (by decide), sv_vc h1, C3_isBurnt_eq h1 hj, Option.bind_some]
      cases hb2 : bnt w j
      · rw [if_pos (by decide), sv_vc h1, C3_far_eq h1 hk hj, Option.bind_some, sv_o h1, Option.bind_some, cx_1 h1.1, Option.bind_some, cx_s h1.1, Option.bind_some]
        unfold far
        by_cases h3 : pc (w (10 + k) ^^^ w (1 + j)) ≤ pS P
        · rw [if_pos ((i3_le (by omega) (by omega)).mpr h3), decide_eq_true h3]; rfl
        · rw [if_neg (fun x => h3 ((i3_le (by omega) (by omega)).mp x)), decide_eq_false h3]; rfl
      · rw [if_neg (by decide)]; rfl
    · rw [if_neg (by decide)]; rfl
/-- 'if (c) set |= 1 << k' -/
theorem st1_or {p : Nat → Bool} {k a : Nat} (h : p k = true) (hk : k < 31) : i3 a ||| (1 : Int32) <<< (i3 k &&& 31) = i3 (a ||| st1 p k) := by
  rw [st1_t h hk, i3_or]
theorem st1_no {p : Nat → Bool} {k a : Nat} (h : p k = false) : i3 a = i3 (a ||| st1 p k) := by
  unfold st1; rw [if_neg (by rw [h]; decide), Nat.or_zero]
end CREAD
